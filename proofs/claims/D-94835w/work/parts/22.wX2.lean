/-! printed by wip/gen: the walks -/
set_option maxRecDepth 100000
set_option maxHeartbeats 4000000 in
theorem w_X2_toldTurn_0 {Γ : GG} (hΓ : GF Γ) {m0 mF m : MM} {x : Nat} {l1 : Int32} (hT : (m.K x).1 = 3) {r : Int32} (h : b_X2_toldTurn_0 x l1 m = some (r, mF)) : G Γ kX2_toldTurn cX2_toldTurn m0 mF (.inl (some (.int r))) m 0 [some (.ref x), some (.int l1)] [] := by
  unfold b_X2_toldTurn_0 at h
  refine g_this dX2_toldTurn_0 rfl ?_
  refine g_getR hΓ.k fl_X2_36_X2 rfl hT dX2_toldTurn_1 ?_
  refine g_this dX2_toldTurn_4 rfl ?_
  refine g_getI hΓ.k fl_X2_233_X2 rfl hT dX2_toldTurn_5 ?_
  replace h := bd_of h; obtain ⟨v1, ev1, h⟩ := h
  refine g_iald ev1 dX2_toldTurn_8 ?_
  replace h := ite_of h; rcases h with ⟨hc, h⟩ | ⟨hc, h⟩
  · refine g_ifneF dX2_toldTurn_9 rfl hc ?_
    refine g_iload_n 1 dX2_toldTurn_12 rfl rfl ?_
    refine g_ic 3 dX2_toldTurn_13 rfl ?_
    refine g_irem dX2_toldTurn_14 (by decide) ?_
    refine g_goto dX2_toldTurn_15 rfl ?_
    cases h
    exact g_iret rfl dX2_toldTurn_42
  · refine g_ifneT dX2_toldTurn_9 rfl hc ?_
    refine g_this dX2_toldTurn_18 rfl ?_
    refine g_getR hΓ.k fl_X2_39_X2 rfl hT dX2_toldTurn_19 ?_
    refine g_bi (6) dX2_toldTurn_22 rfl ?_
    refine g_this dX2_toldTurn_24 rfl ?_
    refine g_getI hΓ.k fl_X2_233_X2 rfl hT dX2_toldTurn_25 ?_
    refine g_imul dX2_toldTurn_28 ?_
    refine g_iload_n 1 dX2_toldTurn_29 rfl rfl ?_
    refine g_this dX2_toldTurn_30 rfl ?_
    refine g_getR hΓ.k fl_X2_36_X2 rfl hT dX2_toldTurn_31 ?_
    refine g_this dX2_toldTurn_34 rfl ?_
    refine g_getI hΓ.k fl_X2_233_X2 rfl hT dX2_toldTurn_35 ?_
    replace h := bd_of h; obtain ⟨v2, ev2, h⟩ := h
    refine g_iald ev2 dX2_toldTurn_38 ?_
    replace h := ite_of h; rcases h with ⟨hc, h⟩ | ⟨hc, h⟩
    · cases h
    refine g_irem dX2_toldTurn_39 hc ?_
    refine g_iadd dX2_toldTurn_40 ?_
    replace h := bd_of h; obtain ⟨v3, ev3, h⟩ := h
    refine g_iald ev3 dX2_toldTurn_41 ?_
    cases h
    exact g_iret rfl dX2_toldTurn_42
theorem ct_X2_toldTurn {Γ : GG} (hΓ : GF Γ) {m mF : MM} {x : Nat} {l1 : Int32} (hT : (m.K x).1 = 3) {r : Int32} (h : f_X2_toldTurn x l1 m = some (r, mF)) : Ct Γ kX2_toldTurn cX2_toldTurn [.ref x, .int l1] m (.inl (some (.int r))) mF := by
  unfold f_X2_toldTurn at h
  exact Ct.of (κ := kX2_toldTurn) (by decide) rfl (Nat.le_of_ble_eq_true rfl) rfl (w_X2_toldTurn_0 hΓ hT h)
def p_X2_begin (Γ : GG) (m0 mF : MM) (x : Nat) (r : Unit) : ((Int32 × MM)) → Prop := fun z => match z with
  | (l1, m) => (m.K x).1 = 3 → G Γ kX2_begin cX2_begin m0 mF (.inl none) m 17 [some (.ref x), some (.int l1)] []
set_option maxHeartbeats 4000000 in
theorem w_X2_begin_17 {Γ : GG} (hΓ : GF Γ) {m0 mF m : MM} {x : Nat} {l1 : Int32} (hT : (m.K x).1 = 3) {r : Unit} {q : ((Int32 × MM)) ⊕ (Unit × MM)} (h : b_X2_begin_17 x l1 m = some q) (Hl : ∀ z, q = .inl z → p_X2_begin Γ m0 mF x r z) (Hr : ∀ z, q = .inr z → z = (r, mF)) : G Γ kX2_begin cX2_begin m0 mF (.inl none) m 17 [some (.ref x), some (.int l1)] [] := by
  unfold b_X2_begin_17 at h
  refine g_iload_n 1 dX2_begin_17 rfl rfl ?_
  refine g_bi (6) dX2_begin_18 rfl ?_
  replace h := ite_of h; rcases h with ⟨hc, h⟩ | ⟨hc, h⟩
  · refine g_icgeT dX2_begin_20 rfl hc ?_
    cases h
    cases Hr _ rfl
    exact g_vret rfl dX2_begin_40
  · refine g_icgeF dX2_begin_20 rfl hc ?_
    refine g_this dX2_begin_23 rfl ?_
    refine g_getR hΓ.k fl_X2_95_X2 rfl hT dX2_begin_24 ?_
    refine g_iload_n 1 dX2_begin_27 rfl rfl ?_
    refine g_this dX2_begin_28 rfl ?_
    refine g_iload_n 1 dX2_begin_29 rfl rfl ?_
    replace h := bd2_of h; obtain ⟨v1, m2, em2, h⟩ := h
    have C := ct_X2_toldTurn hΓ hT em2
    refine g_callVi hΓ.k vl_X2_345 hT C rfl rfl (Nat.le_of_ble_eq_true rfl) (Nat.le_of_ble_eq_true rfl) (Nat.le_of_ble_eq_true rfl) dX2_begin_30 ?_
    replace hT := (C.1).kd hT
    replace h := bd_of h; obtain ⟨m3, em3, h⟩ := h
    refine g_iast em3 dX2_begin_33 ?_
    replace hT := (sI_ext em3).kd hT
    refine g_iinc (l1 + (1 : Int32)) dX2_begin_34 rfl rfl (Nat.le_of_ble_eq_true rfl) rfl ?_
    dsimp only [List.set]
    refine g_goto dX2_begin_37 rfl ?_
    cases h
    refine G.weak [true, true] rfl ?_
    exact Hl _ rfl hT
set_option maxHeartbeats 4000000 in
theorem w_X2_begin_0 {Γ : GG} (hΓ : GF Γ) {m0 mF m : MM} {x : Nat} (hT : (m.K x).1 = 3) {r : Unit} {q : ((Int32 × MM)) ⊕ (Unit × MM)} (h : b_X2_begin_0 x m = some q) (Hl : ∀ z, q = .inl z → p_X2_begin Γ m0 mF x r z) (Hr : ∀ z, q = .inr z → z = (r, mF)) : G Γ kX2_begin cX2_begin m0 mF (.inl none) m 0 [some (.ref x), none] [] := by
  unfold b_X2_begin_0 at h
  refine g_this dX2_begin_0 rfl ?_
  refine g_ic 0 dX2_begin_1 rfl ?_
  replace h := bd_of h; obtain ⟨m1, em1, h⟩ := h
  refine g_pI hΓ.k fl_X2_336_X2 (fun h9 => by cases h9) rfl (Or.inl ⟨rfl, rfl⟩) em1 dX2_begin_2 ?_
  replace hT := (pI_ext em1).kd hT
  refine g_this dX2_begin_5 rfl ?_
  refine g_ic 0 dX2_begin_6 rfl ?_
  replace h := bd_of h; obtain ⟨m2, em2, h⟩ := h
  refine g_pI hΓ.k fl_X2_339_X2 (fun h9 => by cases h9) rfl (Or.inl ⟨rfl, rfl⟩) em2 dX2_begin_7 ?_
  replace hT := (pI_ext em2).kd hT
  refine g_this dX2_begin_10 rfl ?_
  refine g_ic 0 dX2_begin_11 rfl ?_
  replace h := bd_of h; obtain ⟨m3, em3, h⟩ := h
  refine g_pI hΓ.k fl_X2_342_X2 (fun h9 => by cases h9) rfl (Or.inl ⟨rfl, rfl⟩) em3 dX2_begin_12 ?_
  replace hT := (pI_ext em3).kd hT
  refine g_ic 0 dX2_begin_15 rfl ?_
  refine g_istore_n 1 dX2_begin_16 rfl (Nat.le_of_ble_eq_true rfl) rfl ?_
  dsimp only [List.set]
  cases h
  refine G.weak [true, true] rfl ?_
  exact Hl _ rfl hT
theorem ct_X2_begin {Γ : GG} (hΓ : GF Γ) {m mF : MM} {x : Nat} (hT : (m.K x).1 = 3) {r : Unit} (h : f_X2_begin x m = some (r, mF)) : Ct Γ kX2_begin cX2_begin [.ref x] m (.inl none) mF := by
  unfold f_X2_begin at h
  replace h := bd_of h; obtain ⟨q, e, h⟩ := h
  have H := rx_go_ind (P := p_X2_begin Γ m mF x r) (fun z o hs Hl Hr => by
    match z with
    | (l1, m) => exact fun hT => w_X2_begin_17 hΓ hT hs Hl Hr) h
  exact Ct.of (κ := kX2_begin) (by decide) rfl (Nat.le_of_ble_eq_true rfl) rfl (w_X2_begin_0 hΓ hT e H.1 H.2)
def p_X2_clearBank (Γ : GG) (m0 mF : MM) (x : Nat) (r : Unit) : ((Int32 × MM)) → Prop := fun z => match z with
  | (l1, m) => (m.K x).1 = 3 → G Γ kX2_clearBank cX2_clearBank m0 mF (.inl none) m 78 [some (.ref x), some (.int l1)] []
set_option maxHeartbeats 4000000 in
theorem w_X2_clearBank_78 {Γ : GG} (hΓ : GF Γ) {m0 mF m : MM} {x : Nat} {l1 : Int32} (hT : (m.K x).1 = 3) {r : Unit} {q : ((Int32 × MM)) ⊕ (Unit × MM)} (h : b_X2_clearBank_78 x l1 m = some q) (Hl : ∀ z, q = .inl z → p_X2_clearBank Γ m0 mF x r z) (Hr : ∀ z, q = .inr z → z = (r, mF)) : G Γ kX2_clearBank cX2_clearBank m0 mF (.inl none) m 78 [some (.ref x), some (.int l1)] [] := by
  unfold b_X2_clearBank_78 at h
  refine g_iload_n 1 dX2_clearBank_78 rfl rfl ?_
  refine g_bi (64) dX2_clearBank_79 rfl ?_
  refine g_this dX2_clearBank_81 rfl ?_
  refine g_getI hΓ.k fl_X2_227_X2 rfl hT dX2_clearBank_82 ?_
  refine g_imul dX2_clearBank_85 ?_
  refine g_bi (64) dX2_clearBank_86 rfl ?_
  refine g_iadd dX2_clearBank_88 ?_
  replace h := ite_of h; rcases h with ⟨hc, h⟩ | ⟨hc, h⟩
  · refine g_icgeT dX2_clearBank_89 rfl hc ?_
    cases h
    cases Hr _ rfl
    exact g_vret rfl dX2_clearBank_105
  · refine g_icgeF dX2_clearBank_89 rfl hc ?_
    refine g_this dX2_clearBank_92 rfl ?_
    refine g_getR hΓ.k fl_X2_60_X2 rfl hT dX2_clearBank_93 ?_
    refine g_iload_n 1 dX2_clearBank_96 rfl rfl ?_
    refine g_ic 0 dX2_clearBank_97 rfl ?_
    replace h := bd_of h; obtain ⟨m1, em1, h⟩ := h
    refine g_zast em1 dX2_clearBank_98 ?_
    replace hT := (sI_ext em1).kd hT
    refine g_iinc (l1 + (1 : Int32)) dX2_clearBank_99 rfl rfl (Nat.le_of_ble_eq_true rfl) rfl ?_
    dsimp only [List.set]
    refine g_goto dX2_clearBank_102 rfl ?_
    cases h
    refine G.weak [true, true] rfl ?_
    exact Hl _ rfl hT
set_option maxHeartbeats 4000000 in
theorem w_X2_clearBank_0 {Γ : GG} (hΓ : GF Γ) {m0 mF m : MM} {x : Nat} (hT : (m.K x).1 = 3) {r : Unit} {q : ((Int32 × MM)) ⊕ (Unit × MM)} (h : b_X2_clearBank_0 x m = some q) (Hl : ∀ z, q = .inl z → p_X2_clearBank Γ m0 mF x r z) (Hr : ∀ z, q = .inr z → z = (r, mF)) : G Γ kX2_clearBank cX2_clearBank m0 mF (.inl none) m 0 [some (.ref x), none] [] := by
  unfold b_X2_clearBank_0 at h
  refine g_this dX2_clearBank_0 rfl ?_
  refine g_getR hΓ.k fl_X2_20_X2 rfl hT dX2_clearBank_1 ?_
  refine g_this dX2_clearBank_4 rfl ?_
  refine g_getI hΓ.k fl_X2_227_X2 rfl hT dX2_clearBank_5 ?_
  refine g_ic 0 dX2_clearBank_8 rfl ?_
  replace h := bd_of h; obtain ⟨m1, em1, h⟩ := h
  refine g_iast em1 dX2_clearBank_9 ?_
  replace hT := (sI_ext em1).kd hT
  refine g_this dX2_clearBank_10 rfl ?_
  refine g_getR hΓ.k fl_X2_24_X2 rfl hT dX2_clearBank_11 ?_
  refine g_this dX2_clearBank_14 rfl ?_
  refine g_getI hΓ.k fl_X2_227_X2 rfl hT dX2_clearBank_15 ?_
  refine g_ic 0 dX2_clearBank_18 rfl ?_
  replace h := bd_of h; obtain ⟨m2, em2, h⟩ := h
  refine g_iast em2 dX2_clearBank_19 ?_
  replace hT := (sI_ext em2).kd hT
  refine g_this dX2_clearBank_20 rfl ?_
  refine g_getR hΓ.k fl_X2_27_X2 rfl hT dX2_clearBank_21 ?_
  refine g_this dX2_clearBank_24 rfl ?_
  refine g_getI hΓ.k fl_X2_227_X2 rfl hT dX2_clearBank_25 ?_
  refine g_ic 0 dX2_clearBank_28 rfl ?_
  replace h := bd_of h; obtain ⟨m3, em3, h⟩ := h
  refine g_iast em3 dX2_clearBank_29 ?_
  replace hT := (sI_ext em3).kd hT
  refine g_this dX2_clearBank_30 rfl ?_
  refine g_getR hΓ.k fl_X2_30_X2 rfl hT dX2_clearBank_31 ?_
  refine g_this dX2_clearBank_34 rfl ?_
  refine g_getI hΓ.k fl_X2_227_X2 rfl hT dX2_clearBank_35 ?_
  refine g_ic 0 dX2_clearBank_38 rfl ?_
  replace h := bd_of h; obtain ⟨m4, em4, h⟩ := h
  refine g_iast em4 dX2_clearBank_39 ?_
  replace hT := (sI_ext em4).kd hT
  refine g_this dX2_clearBank_40 rfl ?_
  refine g_getR hΓ.k fl_X2_33_X2 rfl hT dX2_clearBank_41 ?_
  refine g_this dX2_clearBank_44 rfl ?_
  refine g_getI hΓ.k fl_X2_227_X2 rfl hT dX2_clearBank_45 ?_
  refine g_ic 3 dX2_clearBank_48 rfl ?_
  replace h := bd_of h; obtain ⟨m5, em5, h⟩ := h
  refine g_iast em5 dX2_clearBank_49 ?_
  replace hT := (sI_ext em5).kd hT
  refine g_this dX2_clearBank_50 rfl ?_
  refine g_getR hΓ.k fl_X2_36_X2 rfl hT dX2_clearBank_51 ?_
  refine g_this dX2_clearBank_54 rfl ?_
  refine g_getI hΓ.k fl_X2_227_X2 rfl hT dX2_clearBank_55 ?_
  refine g_ic 0 dX2_clearBank_58 rfl ?_
  replace h := bd_of h; obtain ⟨m6, em6, h⟩ := h
  refine g_iast em6 dX2_clearBank_59 ?_
  replace hT := (sI_ext em6).kd hT
  refine g_this dX2_clearBank_60 rfl ?_
  refine g_getR hΓ.k fl_X2_64_X2 rfl hT dX2_clearBank_61 ?_
  refine g_this dX2_clearBank_64 rfl ?_
  refine g_getI hΓ.k fl_X2_227_X2 rfl hT dX2_clearBank_65 ?_
  refine g_ic 0 dX2_clearBank_68 rfl ?_
  replace h := bd_of h; obtain ⟨m7, em7, h⟩ := h
  refine g_zast em7 dX2_clearBank_69 ?_
  replace hT := (sI_ext em7).kd hT
  refine g_bi (64) dX2_clearBank_70 rfl ?_
  refine g_this dX2_clearBank_72 rfl ?_
  refine g_getI hΓ.k fl_X2_227_X2 rfl hT dX2_clearBank_73 ?_
  refine g_imul dX2_clearBank_76 ?_
  refine g_istore_n 1 dX2_clearBank_77 rfl (Nat.le_of_ble_eq_true rfl) rfl ?_
  dsimp only [List.set]
  cases h
  refine G.weak [true, true] rfl ?_
  exact Hl _ rfl hT
theorem ct_X2_clearBank {Γ : GG} (hΓ : GF Γ) {m mF : MM} {x : Nat} (hT : (m.K x).1 = 3) {r : Unit} (h : f_X2_clearBank x m = some (r, mF)) : Ct Γ kX2_clearBank cX2_clearBank [.ref x] m (.inl none) mF := by
  unfold f_X2_clearBank at h
  replace h := bd_of h; obtain ⟨q, e, h⟩ := h
  have H := rx_go_ind (P := p_X2_clearBank Γ m mF x r) (fun z o hs Hl Hr => by
    match z with
    | (l1, m) => exact fun hT => w_X2_clearBank_78 hΓ hT hs Hl Hr) h
  exact Ct.of (κ := kX2_clearBank) (by decide) rfl (Nat.le_of_ble_eq_true rfl) rfl (w_X2_clearBank_0 hΓ hT e H.1 H.2)
def p_X2_init (Γ : GG) (m0 mF : MM) (x : Nat) (r : Unit) : ((Int32 × MM)) → Prop := fun z => match z with
  | (l1, m) => (m.K x).1 = 3 → G Γ kX2_init cX2_init m0 mF (.inl none) m 420 [some (.ref x), some (.int l1)] []
set_option maxHeartbeats 4000000 in
theorem w_X2_init_420 {Γ : GG} (hΓ : GF Γ) {m0 mF m : MM} {x : Nat} {l1 : Int32} (hT : (m.K x).1 = 3) {r : Unit} {q : ((Int32 × MM)) ⊕ (Unit × MM)} (h : b_X2_init_420 x l1 m = some q) (Hl : ∀ z, q = .inl z → p_X2_init Γ m0 mF x r z) (Hr : ∀ z, q = .inr z → z = (r, mF)) : G Γ kX2_init cX2_init m0 mF (.inl none) m 420 [some (.ref x), some (.int l1)] [] := by
  unfold b_X2_init_420 at h
  refine g_iload_n 1 dX2_init_420 rfl rfl ?_
  refine g_ic 3 dX2_init_421 rfl ?_
  replace h := ite_of h; rcases h with ⟨hc, h⟩ | ⟨hc, h⟩
  · refine g_icgeT dX2_init_422 rfl hc ?_
    cases h
    cases Hr _ rfl
    exact g_vret rfl dX2_init_438
  · refine g_icgeF dX2_init_422 rfl hc ?_
    refine g_this dX2_init_425 rfl ?_
    refine g_getR hΓ.k fl_X2_149_X2 rfl hT dX2_init_426 ?_
    refine g_iload_n 1 dX2_init_429 rfl rfl ?_
    refine g_ic (-1) dX2_init_430 rfl ?_
    replace h := bd_of h; obtain ⟨m1, em1, h⟩ := h
    refine g_iast em1 dX2_init_431 ?_
    replace hT := (sI_ext em1).kd hT
    refine g_iinc (l1 + (1 : Int32)) dX2_init_432 rfl rfl (Nat.le_of_ble_eq_true rfl) rfl ?_
    dsimp only [List.set]
    refine g_goto dX2_init_435 rfl ?_
    cases h
    refine G.weak [true, true] rfl ?_
    exact Hl _ rfl hT
set_option maxHeartbeats 4000000 in
theorem w_X2_init_0 {Γ : GG} (hΓ : GF Γ) {m0 mF m : MM} {x : Nat} (hT : (m.K x).1 = 3) {r : Unit} {q : ((Int32 × MM)) ⊕ (Unit × MM)} (h : b_X2_init_0 x m = some q) (Hl : ∀ z, q = .inl z → p_X2_init Γ m0 mF x r z) (Hr : ∀ z, q = .inr z → z = (r, mF)) : G Γ kX2_init cX2_init m0 mF (.inl none) m 0 [some (.ref x), none] [] := by
  unfold b_X2_init_0 at h
  refine g_this dX2_init_0 rfl ?_
  refine g_objInit q1247 q145 q146 (Nat.le_of_ble_eq_true rfl) (Nat.le_of_ble_eq_true rfl) (Nat.le_of_ble_eq_true rfl) dX2_init_1 ?_
  refine g_this dX2_init_4 rfl ?_
  refine g_si (1620) dX2_init_5 rfl ?_
  replace h := bd_of h; obtain ⟨m1, em1, h⟩ := h
  refine g_newa hΓ.a (Or.inr (Or.inl ⟨rfl, rfl⟩)) q183 em1 dX2_init_8 ?_
  replace hT := (nA_ext em1).kd hT
  replace h := bd_of h; obtain ⟨m2, em2, h⟩ := h
  refine g_pR hΓ.k fl_X2_7_X2 (fun _ => ⟨rfl, fun C T N e9 => by cases e9; rfl⟩) (Or.inr ⟨_, rfl⟩) em2 dX2_init_10 ?_
  replace hT := (pR_ext em2).kd hT
  refine g_this dX2_init_13 rfl ?_
  refine g_si (1600) dX2_init_14 rfl ?_
  replace h := bd_of h; obtain ⟨m3, em3, h⟩ := h
  refine g_newa hΓ.a (Or.inr (Or.inl ⟨rfl, rfl⟩)) q183 em3 dX2_init_17 ?_
  replace hT := (nA_ext em3).kd hT
  replace h := bd_of h; obtain ⟨m4, em4, h⟩ := h
  refine g_pR hΓ.k fl_X2_13_X2 (fun _ => ⟨rfl, fun C T N e9 => by cases e9; rfl⟩) (Or.inr ⟨_, rfl⟩) em4 dX2_init_19 ?_
  replace hT := (pR_ext em4).kd hT
  refine g_this dX2_init_22 rfl ?_
  refine g_ic (-1) dX2_init_23 rfl ?_
  replace h := bd_of h; obtain ⟨m5, em5, h⟩ := h
  refine g_pI hΓ.k fl_X2_16_X2 (fun h9 => by cases h9) rfl (Or.inl ⟨rfl, rfl⟩) em5 dX2_init_24 ?_
  replace hT := (pI_ext em5).kd hT
  refine g_this dX2_init_27 rfl ?_
  refine g_ic 2 dX2_init_28 rfl ?_
  replace h := bd_of h; obtain ⟨m6, em6, h⟩ := h
  refine g_newa hΓ.a (Or.inl ⟨rfl, rfl⟩) q181 em6 dX2_init_29 ?_
  replace hT := (nA_ext em6).kd hT
  replace h := bd_of h; obtain ⟨m7, em7, h⟩ := h
  refine g_pR hΓ.k fl_X2_20_X2 (fun _ => ⟨rfl, fun C T N e9 => by cases e9; rfl⟩) (Or.inr ⟨_, rfl⟩) em7 dX2_init_31 ?_
  replace hT := (pR_ext em7).kd hT
  refine g_this dX2_init_34 rfl ?_
  refine g_ic 2 dX2_init_35 rfl ?_
  replace h := bd_of h; obtain ⟨m8, em8, h⟩ := h
  refine g_newa hΓ.a (Or.inl ⟨rfl, rfl⟩) q181 em8 dX2_init_36 ?_
  replace hT := (nA_ext em8).kd hT
  replace h := bd_of h; obtain ⟨m9, em9, h⟩ := h
  refine g_pR hΓ.k fl_X2_24_X2 (fun _ => ⟨rfl, fun C T N e9 => by cases e9; rfl⟩) (Or.inr ⟨_, rfl⟩) em9 dX2_init_38 ?_
  replace hT := (pR_ext em9).kd hT
  refine g_this dX2_init_41 rfl ?_
  refine g_ic 2 dX2_init_42 rfl ?_
  replace h := bd_of h; obtain ⟨m10, em10, h⟩ := h
  refine g_newa hΓ.a (Or.inl ⟨rfl, rfl⟩) q181 em10 dX2_init_43 ?_
  replace hT := (nA_ext em10).kd hT
  replace h := bd_of h; obtain ⟨m11, em11, h⟩ := h
  refine g_pR hΓ.k fl_X2_27_X2 (fun _ => ⟨rfl, fun C T N e9 => by cases e9; rfl⟩) (Or.inr ⟨_, rfl⟩) em11 dX2_init_45 ?_
  replace hT := (pR_ext em11).kd hT
  refine g_this dX2_init_48 rfl ?_
  refine g_ic 2 dX2_init_49 rfl ?_
  replace h := bd_of h; obtain ⟨m12, em12, h⟩ := h
  refine g_newa hΓ.a (Or.inl ⟨rfl, rfl⟩) q181 em12 dX2_init_50 ?_
  replace hT := (nA_ext em12).kd hT
  replace h := bd_of h; obtain ⟨m13, em13, h⟩ := h
  refine g_pR hΓ.k fl_X2_30_X2 (fun _ => ⟨rfl, fun C T N e9 => by cases e9; rfl⟩) (Or.inr ⟨_, rfl⟩) em13 dX2_init_52 ?_
  replace hT := (pR_ext em13).kd hT
  refine g_this dX2_init_55 rfl ?_
  refine g_ic 2 dX2_init_56 rfl ?_
  replace h := bd_of h; obtain ⟨m14, em14, h⟩ := h
  refine g_newa hΓ.a (Or.inl ⟨rfl, rfl⟩) q181 em14 dX2_init_57 ?_
  replace hT := (nA_ext em14).kd hT
  replace h := bd_of h; obtain ⟨m15, em15, h⟩ := h
  refine g_pR hΓ.k fl_X2_33_X2 (fun _ => ⟨rfl, fun C T N e9 => by cases e9; rfl⟩) (Or.inr ⟨_, rfl⟩) em15 dX2_init_59 ?_
  replace hT := (pR_ext em15).kd hT
  refine g_this dX2_init_62 rfl ?_
  refine g_ic 2 dX2_init_63 rfl ?_
  replace h := bd_of h; obtain ⟨m16, em16, h⟩ := h
  refine g_newa hΓ.a (Or.inl ⟨rfl, rfl⟩) q181 em16 dX2_init_64 ?_
  replace hT := (nA_ext em16).kd hT
  replace h := bd_of h; obtain ⟨m17, em17, h⟩ := h
  refine g_pR hΓ.k fl_X2_36_X2 (fun _ => ⟨rfl, fun C T N e9 => by cases e9; rfl⟩) (Or.inr ⟨_, rfl⟩) em17 dX2_init_66 ?_
  replace hT := (pR_ext em17).kd hT
  refine g_this dX2_init_69 rfl ?_
  refine g_bi (12) dX2_init_70 rfl ?_
  replace h := bd_of h; obtain ⟨m18, em18, h⟩ := h
  refine g_newa hΓ.a (Or.inl ⟨rfl, rfl⟩) q181 em18 dX2_init_72 ?_
  replace hT := (nA_ext em18).kd hT
  replace h := bd_of h; obtain ⟨m19, em19, h⟩ := h
  refine g_pR hΓ.k fl_X2_39_X2 (fun _ => ⟨rfl, fun C T N e9 => by cases e9; rfl⟩) (Or.inr ⟨_, rfl⟩) em19 dX2_init_74 ?_
  replace hT := (pR_ext em19).kd hT
  refine g_this dX2_init_77 rfl ?_
  refine g_bi (48) dX2_init_78 rfl ?_
  replace h := bd_of h; obtain ⟨m20, em20, h⟩ := h
  refine g_newa hΓ.a (Or.inl ⟨rfl, rfl⟩) q181 em20 dX2_init_80 ?_
  replace hT := (nA_ext em20).kd hT
  replace h := bd_of h; obtain ⟨m21, em21, h⟩ := h
  refine g_pR hΓ.k fl_X2_42_X2 (fun _ => ⟨rfl, fun C T N e9 => by cases e9; rfl⟩) (Or.inr ⟨_, rfl⟩) em21 dX2_init_82 ?_
  replace hT := (pR_ext em21).kd hT
  refine g_this dX2_init_85 rfl ?_
  refine g_si (384) dX2_init_86 rfl ?_
  replace h := bd_of h; obtain ⟨m22, em22, h⟩ := h
  refine g_newa hΓ.a (Or.inl ⟨rfl, rfl⟩) q181 em22 dX2_init_89 ?_
  replace hT := (nA_ext em22).kd hT
  replace h := bd_of h; obtain ⟨m23, em23, h⟩ := h
  refine g_pR hΓ.k fl_X2_45_X2 (fun _ => ⟨rfl, fun C T N e9 => by cases e9; rfl⟩) (Or.inr ⟨_, rfl⟩) em23 dX2_init_91 ?_
  replace hT := (pR_ext em23).kd hT
  refine g_this dX2_init_94 rfl ?_
  refine g_bi (48) dX2_init_95 rfl ?_
  replace h := bd_of h; obtain ⟨m24, em24, h⟩ := h
  refine g_newa hΓ.a (Or.inl ⟨rfl, rfl⟩) q181 em24 dX2_init_97 ?_
  replace hT := (nA_ext em24).kd hT
  replace h := bd_of h; obtain ⟨m25, em25, h⟩ := h
  refine g_pR hΓ.k fl_X2_48_X2 (fun _ => ⟨rfl, fun C T N e9 => by cases e9; rfl⟩) (Or.inr ⟨_, rfl⟩) em25 dX2_init_99 ?_
  replace hT := (pR_ext em25).kd hT
  refine g_this dX2_init_102 rfl ?_
  refine g_bi (48) dX2_init_103 rfl ?_
  replace h := bd_of h; obtain ⟨m26, em26, h⟩ := h
  refine g_newa hΓ.a (Or.inl ⟨rfl, rfl⟩) q181 em26 dX2_init_105 ?_
  replace hT := (nA_ext em26).kd hT
  replace h := bd_of h; obtain ⟨m27, em27, h⟩ := h
  refine g_pR hΓ.k fl_X2_51_X2 (fun _ => ⟨rfl, fun C T N e9 => by cases e9; rfl⟩) (Or.inr ⟨_, rfl⟩) em27 dX2_init_107 ?_
  replace hT := (pR_ext em27).kd hT
  refine g_this dX2_init_110 rfl ?_
  refine g_si (192) dX2_init_111 rfl ?_
  replace h := bd_of h; obtain ⟨m28, em28, h⟩ := h
  refine g_newa hΓ.a (Or.inl ⟨rfl, rfl⟩) q181 em28 dX2_init_114 ?_
  replace hT := (nA_ext em28).kd hT
  replace h := bd_of h; obtain ⟨m29, em29, h⟩ := h
  refine g_pR hΓ.k fl_X2_54_X2 (fun _ => ⟨rfl, fun C T N e9 => by cases e9; rfl⟩) (Or.inr ⟨_, rfl⟩) em29 dX2_init_116 ?_
  replace hT := (pR_ext em29).kd hT
  refine g_this dX2_init_119 rfl ?_
  refine g_si (192) dX2_init_120 rfl ?_
  replace h := bd_of h; obtain ⟨m30, em30, h⟩ := h
  refine g_newa hΓ.a (Or.inl ⟨rfl, rfl⟩) q181 em30 dX2_init_123 ?_
  replace hT := (nA_ext em30).kd hT
  replace h := bd_of h; obtain ⟨m31, em31, h⟩ := h
  refine g_pR hΓ.k fl_X2_57_X2 (fun _ => ⟨rfl, fun C T N e9 => by cases e9; rfl⟩) (Or.inr ⟨_, rfl⟩) em31 dX2_init_125 ?_
  replace hT := (pR_ext em31).kd hT
  refine g_this dX2_init_128 rfl ?_
  refine g_si (128) dX2_init_129 rfl ?_
  replace h := bd_of h; obtain ⟨m32, em32, h⟩ := h
  refine g_newa hΓ.a (Or.inr (Or.inr (Or.inl ⟨rfl, rfl⟩))) q229 em32 dX2_init_132 ?_
  replace hT := (nA_ext em32).kd hT
  replace h := bd_of h; obtain ⟨m33, em33, h⟩ := h
  refine g_pR hΓ.k fl_X2_60_X2 (fun _ => ⟨rfl, fun C T N e9 => by cases e9; rfl⟩) (Or.inr ⟨_, rfl⟩) em33 dX2_init_134 ?_
  replace hT := (pR_ext em33).kd hT
  refine g_this dX2_init_137 rfl ?_
  refine g_ic 2 dX2_init_138 rfl ?_
  replace h := bd_of h; obtain ⟨m34, em34, h⟩ := h
  refine g_newa hΓ.a (Or.inr (Or.inr (Or.inl ⟨rfl, rfl⟩))) q229 em34 dX2_init_139 ?_
  replace hT := (nA_ext em34).kd hT
  replace h := bd_of h; obtain ⟨m35, em35, h⟩ := h
  refine g_pR hΓ.k fl_X2_64_X2 (fun _ => ⟨rfl, fun C T N e9 => by cases e9; rfl⟩) (Or.inr ⟨_, rfl⟩) em35 dX2_init_141 ?_
  replace hT := (pR_ext em35).kd hT
  refine g_this dX2_init_144 rfl ?_
  refine g_bi (16) dX2_init_145 rfl ?_
  replace h := bd_of h; obtain ⟨m36, em36, h⟩ := h
  refine g_newa hΓ.a (Or.inr (Or.inr (Or.inr ⟨rfl, rfl⟩))) q182 em36 dX2_init_147 ?_
  replace hT := (nA_ext em36).kd hT
  replace h := bd_of h; obtain ⟨m37, em37, h⟩ := h
  refine g_pR hΓ.k fl_X2_67_X2 (fun _ => ⟨rfl, fun C T N e9 => by cases e9; rfl⟩) (Or.inr ⟨_, rfl⟩) em37 dX2_init_149 ?_
  replace hT := (pR_ext em37).kd hT
  refine g_this dX2_init_152 rfl ?_
  refine g_bi (16) dX2_init_153 rfl ?_
  replace h := bd_of h; obtain ⟨m38, em38, h⟩ := h
  refine g_newa hΓ.a (Or.inr (Or.inr (Or.inr ⟨rfl, rfl⟩))) q182 em38 dX2_init_155 ?_
  replace hT := (nA_ext em38).kd hT
  replace h := bd_of h; obtain ⟨m39, em39, h⟩ := h
  refine g_pR hΓ.k fl_X2_71_X2 (fun _ => ⟨rfl, fun C T N e9 => by cases e9; rfl⟩) (Or.inr ⟨_, rfl⟩) em39 dX2_init_157 ?_
  replace hT := (pR_ext em39).kd hT
  refine g_this dX2_init_160 rfl ?_
  refine g_si (192) dX2_init_161 rfl ?_
  replace h := bd_of h; obtain ⟨m40, em40, h⟩ := h
  refine g_newa hΓ.a (Or.inr (Or.inr (Or.inr ⟨rfl, rfl⟩))) q182 em40 dX2_init_164 ?_
  replace hT := (nA_ext em40).kd hT
  replace h := bd_of h; obtain ⟨m41, em41, h⟩ := h
  refine g_pR hΓ.k fl_X2_74_X2 (fun _ => ⟨rfl, fun C T N e9 => by cases e9; rfl⟩) (Or.inr ⟨_, rfl⟩) em41 dX2_init_166 ?_
  replace hT := (pR_ext em41).kd hT
  refine g_this dX2_init_169 rfl ?_
  refine g_bi (6) dX2_init_170 rfl ?_
  replace h := bd_of h; obtain ⟨m42, em42, h⟩ := h
  refine g_newa hΓ.a (Or.inl ⟨rfl, rfl⟩) q181 em42 dX2_init_172 ?_
  replace hT := (nA_ext em42).kd hT
  replace h := bd_of h; obtain ⟨m43, em43, h⟩ := h
  refine g_pR hΓ.k fl_X2_77_X2 (fun _ => ⟨rfl, fun C T N e9 => by cases e9; rfl⟩) (Or.inr ⟨_, rfl⟩) em43 dX2_init_174 ?_
  replace hT := (pR_ext em43).kd hT
  refine g_this dX2_init_177 rfl ?_
  refine g_bi (56) dX2_init_178 rfl ?_
  replace h := bd_of h; obtain ⟨m44, em44, h⟩ := h
  refine g_newa hΓ.a (Or.inl ⟨rfl, rfl⟩) q181 em44 dX2_init_180 ?_
  replace hT := (nA_ext em44).kd hT
  replace h := bd_of h; obtain ⟨m45, em45, h⟩ := h
  refine g_pR hΓ.k fl_X2_80_X2 (fun _ => ⟨rfl, fun C T N e9 => by cases e9; rfl⟩) (Or.inr ⟨_, rfl⟩) em45 dX2_init_182 ?_
  replace hT := (pR_ext em45).kd hT
  refine g_this dX2_init_185 rfl ?_
  refine g_si (448) dX2_init_186 rfl ?_
  replace h := bd_of h; obtain ⟨m46, em46, h⟩ := h
  refine g_newa hΓ.a (Or.inr (Or.inr (Or.inr ⟨rfl, rfl⟩))) q182 em46 dX2_init_189 ?_
  replace hT := (nA_ext em46).kd hT
  replace h := bd_of h; obtain ⟨m47, em47, h⟩ := h
  refine g_pR hΓ.k fl_X2_83_X2 (fun _ => ⟨rfl, fun C T N e9 => by cases e9; rfl⟩) (Or.inr ⟨_, rfl⟩) em47 dX2_init_191 ?_
  replace hT := (pR_ext em47).kd hT
  refine g_this dX2_init_194 rfl ?_
  refine g_bi (7) dX2_init_195 rfl ?_
  replace h := bd_of h; obtain ⟨m48, em48, h⟩ := h
  refine g_newa hΓ.a (Or.inr (Or.inr (Or.inr ⟨rfl, rfl⟩))) q182 em48 dX2_init_197 ?_
  replace hT := (nA_ext em48).kd hT
  replace h := bd_of h; obtain ⟨m49, em49, h⟩ := h
  refine g_pR hΓ.k fl_X2_86_X2 (fun _ => ⟨rfl, fun C T N e9 => by cases e9; rfl⟩) (Or.inr ⟨_, rfl⟩) em49 dX2_init_199 ?_
  replace hT := (pR_ext em49).kd hT
  refine g_this dX2_init_202 rfl ?_
  refine g_bi (7) dX2_init_203 rfl ?_
  replace h := bd_of h; obtain ⟨m50, em50, h⟩ := h
  refine g_newa hΓ.a (Or.inr (Or.inr (Or.inr ⟨rfl, rfl⟩))) q182 em50 dX2_init_205 ?_
  replace hT := (nA_ext em50).kd hT
  replace h := bd_of h; obtain ⟨m51, em51, h⟩ := h
  refine g_pR hΓ.k fl_X2_89_X2 (fun _ => ⟨rfl, fun C T N e9 => by cases e9; rfl⟩) (Or.inr ⟨_, rfl⟩) em51 dX2_init_207 ?_
  replace hT := (pR_ext em51).kd hT
  refine g_this dX2_init_210 rfl ?_
  refine g_bi (6) dX2_init_211 rfl ?_
  replace h := bd_of h; obtain ⟨m52, em52, h⟩ := h
  refine g_newa hΓ.a (Or.inl ⟨rfl, rfl⟩) q181 em52 dX2_init_213 ?_
  replace hT := (nA_ext em52).kd hT
  replace h := bd_of h; obtain ⟨m53, em53, h⟩ := h
  refine g_pR hΓ.k fl_X2_92_X2 (fun _ => ⟨rfl, fun C T N e9 => by cases e9; rfl⟩) (Or.inr ⟨_, rfl⟩) em53 dX2_init_215 ?_
  replace hT := (pR_ext em53).kd hT
  refine g_this dX2_init_218 rfl ?_
  refine g_bi (6) dX2_init_219 rfl ?_
  replace h := bd_of h; obtain ⟨m54, em54, h⟩ := h
  refine g_newa hΓ.a (Or.inl ⟨rfl, rfl⟩) q181 em54 dX2_init_221 ?_
  replace hT := (nA_ext em54).kd hT
  replace h := bd_of h; obtain ⟨m55, em55, h⟩ := h
  refine g_pR hΓ.k fl_X2_95_X2 (fun _ => ⟨rfl, fun C T N e9 => by cases e9; rfl⟩) (Or.inr ⟨_, rfl⟩) em55 dX2_init_223 ?_
  replace hT := (pR_ext em55).kd hT
  refine g_this dX2_init_226 rfl ?_
  refine g_bi (6) dX2_init_227 rfl ?_
  replace h := bd_of h; obtain ⟨m56, em56, h⟩ := h
  refine g_newa hΓ.a (Or.inl ⟨rfl, rfl⟩) q181 em56 dX2_init_229 ?_
  replace hT := (nA_ext em56).kd hT
  refine g_dup dX2_init_231 (va_rf_cat _) ?_
  refine g_ic 0 dX2_init_232 rfl ?_
  refine g_ic (-1) dX2_init_233 rfl ?_
  replace h := bd_of h; obtain ⟨m57, em57, h⟩ := h
  refine g_iast em57 dX2_init_234 ?_
  replace hT := (sI_ext em57).kd hT
  refine g_dup dX2_init_235 (va_rf_cat _) ?_
  refine g_ic 1 dX2_init_236 rfl ?_
  refine g_ic (-1) dX2_init_237 rfl ?_
  replace h := bd_of h; obtain ⟨m58, em58, h⟩ := h
  refine g_iast em58 dX2_init_238 ?_
  replace hT := (sI_ext em58).kd hT
  refine g_dup dX2_init_239 (va_rf_cat _) ?_
  refine g_ic 2 dX2_init_240 rfl ?_
  refine g_ic (-1) dX2_init_241 rfl ?_
  replace h := bd_of h; obtain ⟨m59, em59, h⟩ := h
  refine g_iast em59 dX2_init_242 ?_
  replace hT := (sI_ext em59).kd hT
  refine g_dup dX2_init_243 (va_rf_cat _) ?_
  refine g_ic 3 dX2_init_244 rfl ?_
  refine g_ic (-1) dX2_init_245 rfl ?_
  replace h := bd_of h; obtain ⟨m60, em60, h⟩ := h
  refine g_iast em60 dX2_init_246 ?_
  replace hT := (sI_ext em60).kd hT
  refine g_dup dX2_init_247 (va_rf_cat _) ?_
  refine g_ic 4 dX2_init_248 rfl ?_
  refine g_ic (-1) dX2_init_249 rfl ?_
  replace h := bd_of h; obtain ⟨m61, em61, h⟩ := h
  refine g_iast em61 dX2_init_250 ?_
  replace hT := (sI_ext em61).kd hT
  refine g_dup dX2_init_251 (va_rf_cat _) ?_
  refine g_ic 5 dX2_init_252 rfl ?_
  refine g_ic (-1) dX2_init_253 rfl ?_
  replace h := bd_of h; obtain ⟨m62, em62, h⟩ := h
  refine g_iast em62 dX2_init_254 ?_
  replace hT := (sI_ext em62).kd hT
  replace h := bd_of h; obtain ⟨m63, em63, h⟩ := h
  refine g_pR hΓ.k fl_X2_98_X2 (fun _ => ⟨rfl, fun C T N e9 => by cases e9; rfl⟩) (Or.inr ⟨_, rfl⟩) em63 dX2_init_255 ?_
  replace hT := (pR_ext em63).kd hT
  refine g_this dX2_init_258 rfl ?_
  refine g_bi (40) dX2_init_259 rfl ?_
  replace h := bd_of h; obtain ⟨m64, em64, h⟩ := h
  refine g_newa hΓ.a (Or.inl ⟨rfl, rfl⟩) q181 em64 dX2_init_261 ?_
  replace hT := (nA_ext em64).kd hT
  replace h := bd_of h; obtain ⟨m65, em65, h⟩ := h
  refine g_pR hΓ.k fl_X2_101_X2 (fun _ => ⟨rfl, fun C T N e9 => by cases e9; rfl⟩) (Or.inr ⟨_, rfl⟩) em65 dX2_init_263 ?_
  replace hT := (pR_ext em65).kd hT
  refine g_this dX2_init_266 rfl ?_
  refine g_bi (40) dX2_init_267 rfl ?_
  replace h := bd_of h; obtain ⟨m66, em66, h⟩ := h
  refine g_newa hΓ.a (Or.inl ⟨rfl, rfl⟩) q181 em66 dX2_init_269 ?_
  replace hT := (nA_ext em66).kd hT
  replace h := bd_of h; obtain ⟨m67, em67, h⟩ := h
  refine g_pR hΓ.k fl_X2_104_X2 (fun _ => ⟨rfl, fun C T N e9 => by cases e9; rfl⟩) (Or.inr ⟨_, rfl⟩) em67 dX2_init_271 ?_
  replace hT := (pR_ext em67).kd hT
  refine g_this dX2_init_274 rfl ?_
  refine g_si (3001) dX2_init_275 rfl ?_
  replace h := bd_of h; obtain ⟨m68, em68, h⟩ := h
  refine g_newa hΓ.a (Or.inl ⟨rfl, rfl⟩) q181 em68 dX2_init_278 ?_
  replace hT := (nA_ext em68).kd hT
  replace h := bd_of h; obtain ⟨m69, em69, h⟩ := h
  refine g_pR hΓ.k fl_X2_107_X2 (fun _ => ⟨rfl, fun C T N e9 => by cases e9; rfl⟩) (Or.inr ⟨_, rfl⟩) em69 dX2_init_280 ?_
  replace hT := (pR_ext em69).kd hT
  refine g_this dX2_init_283 rfl ?_
  refine g_si (9003) dX2_init_284 rfl ?_
  replace h := bd_of h; obtain ⟨m70, em70, h⟩ := h
  refine g_newa hΓ.a (Or.inl ⟨rfl, rfl⟩) q181 em70 dX2_init_287 ?_
  replace hT := (nA_ext em70).kd hT
  replace h := bd_of h; obtain ⟨m71, em71, h⟩ := h
  refine g_pR hΓ.k fl_X2_110_X2 (fun _ => ⟨rfl, fun C T N e9 => by cases e9; rfl⟩) (Or.inr ⟨_, rfl⟩) em71 dX2_init_289 ?_
  replace hT := (pR_ext em71).kd hT
  refine g_this dX2_init_292 rfl ?_
  refine g_si (3001) dX2_init_293 rfl ?_
  replace h := bd_of h; obtain ⟨m72, em72, h⟩ := h
  refine g_newa hΓ.a (Or.inl ⟨rfl, rfl⟩) q181 em72 dX2_init_296 ?_
  replace hT := (nA_ext em72).kd hT
  replace h := bd_of h; obtain ⟨m73, em73, h⟩ := h
  refine g_pR hΓ.k fl_X2_113_X2 (fun _ => ⟨rfl, fun C T N e9 => by cases e9; rfl⟩) (Or.inr ⟨_, rfl⟩) em73 dX2_init_298 ?_
  replace hT := (pR_ext em73).kd hT
  refine g_this dX2_init_301 rfl ?_
  refine g_si (3001) dX2_init_302 rfl ?_
  replace h := bd_of h; obtain ⟨m74, em74, h⟩ := h
  refine g_newa hΓ.a (Or.inl ⟨rfl, rfl⟩) q181 em74 dX2_init_305 ?_
  replace hT := (nA_ext em74).kd hT
  replace h := bd_of h; obtain ⟨m75, em75, h⟩ := h
  refine g_pR hΓ.k fl_X2_116_X2 (fun _ => ⟨rfl, fun C T N e9 => by cases e9; rfl⟩) (Or.inr ⟨_, rfl⟩) em75 dX2_init_307 ?_
  replace hT := (pR_ext em75).kd hT
  refine g_this dX2_init_310 rfl ?_
  refine g_bi (7) dX2_init_311 rfl ?_
  replace h := bd_of h; obtain ⟨m76, em76, h⟩ := h
  refine g_newa hΓ.a (Or.inl ⟨rfl, rfl⟩) q181 em76 dX2_init_313 ?_
  replace hT := (nA_ext em76).kd hT
  replace h := bd_of h; obtain ⟨m77, em77, h⟩ := h
  refine g_pR hΓ.k fl_X2_119_X2 (fun _ => ⟨rfl, fun C T N e9 => by cases e9; rfl⟩) (Or.inr ⟨_, rfl⟩) em77 dX2_init_315 ?_
  replace hT := (pR_ext em77).kd hT
  refine g_this dX2_init_318 rfl ?_
  refine g_bi (6) dX2_init_319 rfl ?_
  replace h := bd_of h; obtain ⟨m78, em78, h⟩ := h
  refine g_newa hΓ.a (Or.inl ⟨rfl, rfl⟩) q181 em78 dX2_init_321 ?_
  replace hT := (nA_ext em78).kd hT
  replace h := bd_of h; obtain ⟨m79, em79, h⟩ := h
  refine g_pR hΓ.k fl_X2_122_X2 (fun _ => ⟨rfl, fun C T N e9 => by cases e9; rfl⟩) (Or.inr ⟨_, rfl⟩) em79 dX2_init_323 ?_
  replace hT := (pR_ext em79).kd hT
  refine g_this dX2_init_326 rfl ?_
  refine g_ic (-1) dX2_init_327 rfl ?_
  replace h := bd_of h; obtain ⟨m80, em80, h⟩ := h
  refine g_pI hΓ.k fl_X2_125_X2 (fun h9 => by cases h9) rfl (Or.inl ⟨rfl, rfl⟩) em80 dX2_init_328 ?_
  replace hT := (pI_ext em80).kd hT
  refine g_this dX2_init_331 rfl ?_
  refine g_bi (6) dX2_init_332 rfl ?_
  replace h := bd_of h; obtain ⟨m81, em81, h⟩ := h
  refine g_newa hΓ.a (Or.inl ⟨rfl, rfl⟩) q181 em81 dX2_init_334 ?_
  replace hT := (nA_ext em81).kd hT
  replace h := bd_of h; obtain ⟨m82, em82, h⟩ := h
  refine g_pR hΓ.k fl_X2_128_X2 (fun _ => ⟨rfl, fun C T N e9 => by cases e9; rfl⟩) (Or.inr ⟨_, rfl⟩) em82 dX2_init_336 ?_
  replace hT := (pR_ext em82).kd hT
  refine g_this dX2_init_339 rfl ?_
  refine g_bi (8) dX2_init_340 rfl ?_
  replace h := bd_of h; obtain ⟨m83, em83, h⟩ := h
  refine g_newa hΓ.a (Or.inl ⟨rfl, rfl⟩) q181 em83 dX2_init_342 ?_
  replace hT := (nA_ext em83).kd hT
  replace h := bd_of h; obtain ⟨m84, em84, h⟩ := h
  refine g_pR hΓ.k fl_X2_131_X2 (fun _ => ⟨rfl, fun C T N e9 => by cases e9; rfl⟩) (Or.inr ⟨_, rfl⟩) em84 dX2_init_344 ?_
  replace hT := (pR_ext em84).kd hT
  refine g_this dX2_init_347 rfl ?_
  refine g_bi (30) dX2_init_348 rfl ?_
  replace h := bd_of h; obtain ⟨m85, em85, h⟩ := h
  refine g_newa hΓ.a (Or.inl ⟨rfl, rfl⟩) q181 em85 dX2_init_350 ?_
  replace hT := (nA_ext em85).kd hT
  replace h := bd_of h; obtain ⟨m86, em86, h⟩ := h
  refine g_pR hΓ.k fl_X2_134_X2 (fun _ => ⟨rfl, fun C T N e9 => by cases e9; rfl⟩) (Or.inr ⟨_, rfl⟩) em86 dX2_init_352 ?_
  replace hT := (pR_ext em86).kd hT
  refine g_this dX2_init_355 rfl ?_
  refine g_bi (30) dX2_init_356 rfl ?_
  replace h := bd_of h; obtain ⟨m87, em87, h⟩ := h
  refine g_newa hΓ.a (Or.inl ⟨rfl, rfl⟩) q181 em87 dX2_init_358 ?_
  replace hT := (nA_ext em87).kd hT
  replace h := bd_of h; obtain ⟨m88, em88, h⟩ := h
  refine g_pR hΓ.k fl_X2_137_X2 (fun _ => ⟨rfl, fun C T N e9 => by cases e9; rfl⟩) (Or.inr ⟨_, rfl⟩) em88 dX2_init_360 ?_
  replace hT := (pR_ext em88).kd hT
  refine g_this dX2_init_363 rfl ?_
  refine g_bi (30) dX2_init_364 rfl ?_
  replace h := bd_of h; obtain ⟨m89, em89, h⟩ := h
  refine g_newa hΓ.a (Or.inl ⟨rfl, rfl⟩) q181 em89 dX2_init_366 ?_
  replace hT := (nA_ext em89).kd hT
  replace h := bd_of h; obtain ⟨m90, em90, h⟩ := h
  refine g_pR hΓ.k fl_X2_140_X2 (fun _ => ⟨rfl, fun C T N e9 => by cases e9; rfl⟩) (Or.inr ⟨_, rfl⟩) em90 dX2_init_368 ?_
  replace hT := (pR_ext em90).kd hT
  refine g_this dX2_init_371 rfl ?_
  refine g_bi (30) dX2_init_372 rfl ?_
  replace h := bd_of h; obtain ⟨m91, em91, h⟩ := h
  refine g_newa hΓ.a (Or.inl ⟨rfl, rfl⟩) q181 em91 dX2_init_374 ?_
  replace hT := (nA_ext em91).kd hT
  replace h := bd_of h; obtain ⟨m92, em92, h⟩ := h
  refine g_pR hΓ.k fl_X2_143_X2 (fun _ => ⟨rfl, fun C T N e9 => by cases e9; rfl⟩) (Or.inr ⟨_, rfl⟩) em92 dX2_init_376 ?_
  replace hT := (pR_ext em92).kd hT
  refine g_this dX2_init_379 rfl ?_
  refine g_bi (30) dX2_init_380 rfl ?_
  replace h := bd_of h; obtain ⟨m93, em93, h⟩ := h
  refine g_newa hΓ.a (Or.inr (Or.inr (Or.inl ⟨rfl, rfl⟩))) q229 em93 dX2_init_382 ?_
  replace hT := (nA_ext em93).kd hT
  replace h := bd_of h; obtain ⟨m94, em94, h⟩ := h
  refine g_pR hΓ.k fl_X2_146_X2 (fun _ => ⟨rfl, fun C T N e9 => by cases e9; rfl⟩) (Or.inr ⟨_, rfl⟩) em94 dX2_init_384 ?_
  replace hT := (pR_ext em94).kd hT
  refine g_this dX2_init_387 rfl ?_
  refine g_ic 3 dX2_init_388 rfl ?_
  replace h := bd_of h; obtain ⟨m95, em95, h⟩ := h
  refine g_newa hΓ.a (Or.inl ⟨rfl, rfl⟩) q181 em95 dX2_init_389 ?_
  replace hT := (nA_ext em95).kd hT
  replace h := bd_of h; obtain ⟨m96, em96, h⟩ := h
  refine g_pR hΓ.k fl_X2_149_X2 (fun _ => ⟨rfl, fun C T N e9 => by cases e9; rfl⟩) (Or.inr ⟨_, rfl⟩) em96 dX2_init_391 ?_
  replace hT := (pR_ext em96).kd hT
  refine g_this dX2_init_394 rfl ?_
  refine g_bi (18) dX2_init_395 rfl ?_
  replace h := bd_of h; obtain ⟨m97, em97, h⟩ := h
  refine g_newa hΓ.a (Or.inl ⟨rfl, rfl⟩) q181 em97 dX2_init_397 ?_
  replace hT := (nA_ext em97).kd hT
  replace h := bd_of h; obtain ⟨m98, em98, h⟩ := h
  refine g_pR hΓ.k fl_X2_152_X2 (fun _ => ⟨rfl, fun C T N e9 => by cases e9; rfl⟩) (Or.inr ⟨_, rfl⟩) em98 dX2_init_399 ?_
  replace hT := (pR_ext em98).kd hT
  refine g_this dX2_init_402 rfl ?_
  refine g_bi (18) dX2_init_403 rfl ?_
  replace h := bd_of h; obtain ⟨m99, em99, h⟩ := h
  refine g_newa hΓ.a (Or.inl ⟨rfl, rfl⟩) q181 em99 dX2_init_405 ?_
  replace hT := (nA_ext em99).kd hT
  replace h := bd_of h; obtain ⟨m100, em100, h⟩ := h
  refine g_pR hΓ.k fl_X2_155_X2 (fun _ => ⟨rfl, fun C T N e9 => by cases e9; rfl⟩) (Or.inr ⟨_, rfl⟩) em100 dX2_init_407 ?_
  replace hT := (pR_ext em100).kd hT
  refine g_this dX2_init_410 rfl ?_
  replace h := bd2_of h; obtain ⟨_, m101, em101, h⟩ := h
  have C := ct_X2_clearBank hΓ hT em101
  refine g_callVv hΓ.k vl_X2_158 hT C rfl rfl (Nat.le_of_ble_eq_true rfl) (Nat.le_of_ble_eq_true rfl) (Nat.le_of_ble_eq_true rfl) dX2_init_411 ?_
  replace hT := (C.1).kd hT
  refine g_this dX2_init_414 rfl ?_
  replace h := bd2_of h; obtain ⟨_, m102, em102, h⟩ := h
  have C := ct_X2_begin hΓ hT em102
  refine g_callVv hΓ.k vl_X2_161 hT C rfl rfl (Nat.le_of_ble_eq_true rfl) (Nat.le_of_ble_eq_true rfl) (Nat.le_of_ble_eq_true rfl) dX2_init_415 ?_
  replace hT := (C.1).kd hT
  refine g_ic 0 dX2_init_418 rfl ?_
  refine g_istore_n 1 dX2_init_419 rfl (Nat.le_of_ble_eq_true rfl) rfl ?_
  dsimp only [List.set]
  cases h
  refine G.weak [true, true] rfl ?_
  exact Hl _ rfl hT
theorem ct_X2_init {Γ : GG} (hΓ : GF Γ) {m mF : MM} {x : Nat} (hT : (m.K x).1 = 3) {r : Unit} (h : f_X2_init x m = some (r, mF)) : Ct Γ kX2_init cX2_init [.ref x] m (.inl none) mF := by
  unfold f_X2_init at h
  replace h := bd_of h; obtain ⟨q, e, h⟩ := h
  have H := rx_go_ind (P := p_X2_init Γ m mF x r) (fun z o hs Hl Hr => by
    match z with
    | (l1, m) => exact fun hT => w_X2_init_420 hΓ hT hs Hl Hr) h
  exact Ct.of (κ := kX2_init) (by decide) rfl (Nat.le_of_ble_eq_true rfl) rfl (w_X2_init_0 hΓ hT e H.1 H.2)
set_option maxHeartbeats 4000000 in
theorem w_X2_isDigit_0 {Γ : GG} (hΓ : GF Γ) {m0 mF m : MM} {l0 : Int32} {r : Int32} (h : b_X2_isDigit_0 l0 m = some (r, mF)) : G Γ kX2_isDigit cX2_isDigit m0 mF (.inl (some (.int r))) m 0 [some (.int l0)] [] := by
  unfold b_X2_isDigit_0 at h
  refine g_iload_n 0 dX2_isDigit_0 rfl rfl ?_
  refine g_bi (48) dX2_isDigit_1 rfl ?_
  replace h := ite_of h; rcases h with ⟨hc, h⟩ | ⟨hc, h⟩
  · refine g_icltT dX2_isDigit_3 rfl hc ?_
    refine g_ic 0 dX2_isDigit_16 rfl ?_
    cases h
    exact g_zret rfl (by decide) dX2_isDigit_17
  · refine g_icltF dX2_isDigit_3 rfl hc ?_
    refine g_iload_n 0 dX2_isDigit_6 rfl rfl ?_
    refine g_bi (57) dX2_isDigit_7 rfl ?_
    replace h := ite_of h; rcases h with ⟨hc, h⟩ | ⟨hc, h⟩
    · refine g_icgtT dX2_isDigit_9 rfl hc ?_
      refine g_ic 0 dX2_isDigit_16 rfl ?_
      cases h
      exact g_zret rfl (by decide) dX2_isDigit_17
    · refine g_icgtF dX2_isDigit_9 rfl hc ?_
      refine g_ic 1 dX2_isDigit_12 rfl ?_
      refine g_goto dX2_isDigit_13 rfl ?_
      cases h
      exact g_zret rfl (by decide) dX2_isDigit_17
theorem ct_X2_isDigit {Γ : GG} (hΓ : GF Γ) {m mF : MM} {l0 : Int32} {r : Int32} (h : f_X2_isDigit l0 m = some (r, mF)) : Ct Γ kX2_isDigit cX2_isDigit [.int l0] m (.inl (some (.int r))) mF := by
  unfold f_X2_isDigit at h
  exact Ct.of (κ := kX2_isDigit) (by decide) rfl (Nat.le_of_ble_eq_true rfl) rfl (w_X2_isDigit_0 hΓ h)
set_option maxHeartbeats 4000000 in
theorem w_X2_isKept_0 {Γ : GG} (hΓ : GF Γ) {m0 mF m : MM} {l0 : Int64} {r : Int32} (h : b_X2_isKept_0 l0 m = some (r, mF)) : G Γ kX2_isKept cX2_isKept m0 mF (.inl (some (.int r))) m 0 [some (.long l0), none] [] := by
  unfold b_X2_isKept_0 at h
  refine g_lload_n 0 dX2_isKept_0 rfl rfl ?_
  refine g_ldc2 (v := 2003792484) q1492 dX2_isKept_1 ?_
  refine g_lcmp dX2_isKept_4 ?_
  replace h := ite_of h; rcases h with ⟨hc, h⟩ | ⟨hc, h⟩
  · refine g_ifeqT dX2_isKept_5 rfl hc ?_
    refine g_ic 1 dX2_isKept_48 rfl ?_
    refine g_goto dX2_isKept_49 rfl ?_
    cases h
    exact g_zret rfl (by decide) dX2_isKept_53
  · refine g_ifeqF dX2_isKept_5 rfl hc ?_
    refine g_lload_n 0 dX2_isKept_8 rfl rfl ?_
    refine g_ldc2 (v := 1885432178) q1493 dX2_isKept_9 ?_
    refine g_lcmp dX2_isKept_12 ?_
    replace h := ite_of h; rcases h with ⟨hc, h⟩ | ⟨hc, h⟩
    · refine g_ifeqT dX2_isKept_13 rfl hc ?_
      refine g_ic 1 dX2_isKept_48 rfl ?_
      refine g_goto dX2_isKept_49 rfl ?_
      cases h
      exact g_zret rfl (by decide) dX2_isKept_53
    · refine g_ifeqF dX2_isKept_13 rfl hc ?_
      refine g_lload_n 0 dX2_isKept_16 rfl rfl ?_
      refine g_ldc2 (v := 1920298085) q1494 dX2_isKept_17 ?_
      refine g_lcmp dX2_isKept_20 ?_
      replace h := ite_of h; rcases h with ⟨hc, h⟩ | ⟨hc, h⟩
      · refine g_ifeqT dX2_isKept_21 rfl hc ?_
        refine g_ic 1 dX2_isKept_48 rfl ?_
        refine g_goto dX2_isKept_49 rfl ?_
        cases h
        exact g_zret rfl (by decide) dX2_isKept_53
      · refine g_ifeqF dX2_isKept_21 rfl hc ?_
        refine g_lload_n 0 dX2_isKept_24 rfl rfl ?_
        refine g_ldc2 (v := 28530) q1495 dX2_isKept_25 ?_
        refine g_lcmp dX2_isKept_28 ?_
        replace h := ite_of h; rcases h with ⟨hc, h⟩ | ⟨hc, h⟩
        · refine g_ifeqT dX2_isKept_29 rfl hc ?_
          refine g_ic 1 dX2_isKept_48 rfl ?_
          refine g_goto dX2_isKept_49 rfl ?_
          cases h
          exact g_zret rfl (by decide) dX2_isKept_53
        · refine g_ifeqF dX2_isKept_29 rfl hc ?_
          refine g_lload_n 0 dX2_isKept_32 rfl rfl ?_
          refine g_ldc2 (v := 119182899770472) q1496 dX2_isKept_33 ?_
          refine g_lcmp dX2_isKept_36 ?_
          replace h := ite_of h; rcases h with ⟨hc, h⟩ | ⟨hc, h⟩
          · refine g_ifeqT dX2_isKept_37 rfl hc ?_
            refine g_ic 1 dX2_isKept_48 rfl ?_
            refine g_goto dX2_isKept_49 rfl ?_
            cases h
            exact g_zret rfl (by decide) dX2_isKept_53
          · refine g_ifeqF dX2_isKept_37 rfl hc ?_
            refine g_lload_n 0 dX2_isKept_40 rfl rfl ?_
            refine g_ldc2 (v := 500186639987) q1497 dX2_isKept_41 ?_
            refine g_lcmp dX2_isKept_44 ?_
            replace h := ite_of h; rcases h with ⟨hc, h⟩ | ⟨hc, h⟩
            · refine g_ifneF dX2_isKept_45 rfl hc ?_
              refine g_ic 1 dX2_isKept_48 rfl ?_
              refine g_goto dX2_isKept_49 rfl ?_
              cases h
              exact g_zret rfl (by decide) dX2_isKept_53
            · refine g_ifneT dX2_isKept_45 rfl hc ?_
              refine g_ic 0 dX2_isKept_52 rfl ?_
              cases h
              exact g_zret rfl (by decide) dX2_isKept_53
theorem ct_X2_isKept {Γ : GG} (hΓ : GF Γ) {m mF : MM} {l0 : Int64} {r : Int32} (h : f_X2_isKept l0 m = some (r, mF)) : Ct Γ kX2_isKept cX2_isKept [.long l0] m (.inl (some (.int r))) mF := by
  unfold f_X2_isKept at h
  exact Ct.of (κ := kX2_isKept) (by decide) rfl (Nat.le_of_ble_eq_true rfl) rfl (w_X2_isKept_0 hΓ h)
set_option maxHeartbeats 4000000 in
theorem w_X2_isLetter_0 {Γ : GG} (hΓ : GF Γ) {m0 mF m : MM} {l0 : Int32} {r : Int32} (h : b_X2_isLetter_0 l0 m = some (r, mF)) : G Γ kX2_isLetter cX2_isLetter m0 mF (.inl (some (.int r))) m 0 [some (.int l0)] [] := by
  unfold b_X2_isLetter_0 at h
  refine g_iload_n 0 dX2_isLetter_0 rfl rfl ?_
  refine g_bi (97) dX2_isLetter_1 rfl ?_
  replace h := ite_of h; rcases h with ⟨hc, h⟩ | ⟨hc, h⟩
  · refine g_icltT dX2_isLetter_3 rfl hc ?_
    refine g_ic 0 dX2_isLetter_16 rfl ?_
    cases h
    exact g_zret rfl (by decide) dX2_isLetter_17
  · refine g_icltF dX2_isLetter_3 rfl hc ?_
    refine g_iload_n 0 dX2_isLetter_6 rfl rfl ?_
    refine g_bi (122) dX2_isLetter_7 rfl ?_
    replace h := ite_of h; rcases h with ⟨hc, h⟩ | ⟨hc, h⟩
    · refine g_icgtT dX2_isLetter_9 rfl hc ?_
      refine g_ic 0 dX2_isLetter_16 rfl ?_
      cases h
      exact g_zret rfl (by decide) dX2_isLetter_17
    · refine g_icgtF dX2_isLetter_9 rfl hc ?_
      refine g_ic 1 dX2_isLetter_12 rfl ?_
      refine g_goto dX2_isLetter_13 rfl ?_
      cases h
      exact g_zret rfl (by decide) dX2_isLetter_17
theorem ct_X2_isLetter {Γ : GG} (hΓ : GF Γ) {m mF : MM} {l0 : Int32} {r : Int32} (h : f_X2_isLetter l0 m = some (r, mF)) : Ct Γ kX2_isLetter cX2_isLetter [.int l0] m (.inl (some (.int r))) mF := by
  unfold f_X2_isLetter at h
  exact Ct.of (κ := kX2_isLetter) (by decide) rfl (Nat.le_of_ble_eq_true rfl) rfl (w_X2_isLetter_0 hΓ h)
set_option maxHeartbeats 4000000 in
theorem w_X2_sign_0 {Γ : GG} (hΓ : GF Γ) {m0 mF m : MM} {x : Nat} {l1 : Int32} (hT : (m.K x).1 = 3) {r : Int32} (h : b_X2_sign_0 x l1 m = some (r, mF)) : G Γ kX2_sign cX2_sign m0 mF (.inl (some (.int r))) m 0 [some (.ref x), some (.int l1)] [] := by
  unfold b_X2_sign_0 at h
  refine g_iload_n 1 dX2_sign_0 rfl rfl ?_
  refine g_this dX2_sign_1 rfl ?_
  refine g_getI hΓ.k fl_X2_164_X2 rfl hT dX2_sign_2 ?_
  replace h := ite_of h; rcases h with ⟨hc, h⟩ | ⟨hc, h⟩
  · refine g_icgeT dX2_sign_5 rfl hc ?_
    refine g_ic 0 dX2_sign_21 rfl ?_
    cases h
    exact g_iret rfl dX2_sign_22
  · refine g_icgeF dX2_sign_5 rfl hc ?_
    refine g_this dX2_sign_8 rfl ?_
    refine g_getR hΓ.k fl_X2_13_X2 rfl hT dX2_sign_9 ?_
    refine g_iload_n 1 dX2_sign_12 rfl rfl ?_
    replace h := bd_of h; obtain ⟨v1, ev1, h⟩ := h
    refine g_bald ev1 dX2_sign_13 ?_
    refine g_si (255) dX2_sign_14 rfl ?_
    refine g_iand dX2_sign_17 ?_
    refine g_goto dX2_sign_18 rfl ?_
    cases h
    exact g_iret rfl dX2_sign_22
theorem ct_X2_sign {Γ : GG} (hΓ : GF Γ) {m mF : MM} {x : Nat} {l1 : Int32} (hT : (m.K x).1 = 3) {r : Int32} (h : f_X2_sign x l1 m = some (r, mF)) : Ct Γ kX2_sign cX2_sign [.ref x, .int l1] m (.inl (some (.int r))) mF := by
  unfold f_X2_sign at h
  exact Ct.of (κ := kX2_sign) (by decide) rfl (Nat.le_of_ble_eq_true rfl) rfl (w_X2_sign_0 hΓ hT h)
def p_X2_goOn (Γ : GG) (m0 mF : MM) (x : Nat) (r : Unit) : ((MM) ⊕ (MM) ⊕ (Int32 × MM) ⊕ (MM)) → Prop := fun z => match z with
  | (.inl m) => (m.K x).1 = 3 → G Γ kX2_goOn cX2_goOn m0 mF (.inl none) m 8 [some (.ref x), none, none] []
  | (.inr (.inl m)) => (m.K x).1 = 3 → G Γ kX2_goOn cX2_goOn m0 mF (.inl none) m 119 [some (.ref x), none, none] []
  | (.inr (.inr (.inl (l2, m)))) => (m.K x).1 = 3 → G Γ kX2_goOn cX2_goOn m0 mF (.inl none) m 156 [some (.ref x), none, some (.int l2)] []
  | (.inr (.inr (.inr m))) => (m.K x).1 = 3 → G Γ kX2_goOn cX2_goOn m0 mF (.inl none) m 259 [some (.ref x), none, none] []
set_option maxHeartbeats 4000000 in
theorem w_X2_goOn_309 {Γ : GG} (hΓ : GF Γ) {m0 mF m : MM} {x : Nat} (hT : (m.K x).1 = 3) {r : Unit} {q : ((MM) ⊕ (MM) ⊕ (Int32 × MM) ⊕ (MM)) ⊕ (Unit × MM)} (h : b_X2_goOn_309 x m = some q) (Hl : ∀ z, q = .inl z → p_X2_goOn Γ m0 mF x r z) (Hr : ∀ z, q = .inr z → z = (r, mF)) : G Γ kX2_goOn cX2_goOn m0 mF (.inl none) m 309 [some (.ref x), none, none] [] := by
  unfold b_X2_goOn_309 at h
  refine g_this dX2_goOn_309 rfl ?_
  refine g_dup dX2_goOn_310 rfl ?_
  refine g_getI hΓ.k fl_X2_182_X2 rfl hT dX2_goOn_311 ?_
  refine g_ic 1 dX2_goOn_314 rfl ?_
  refine g_iadd dX2_goOn_315 ?_
  replace h := bd_of h; obtain ⟨m1, em1, h⟩ := h
  refine g_pI hΓ.k fl_X2_182_X2 (fun h9 => by cases h9) rfl (Or.inl ⟨rfl, rfl⟩) em1 dX2_goOn_316 ?_
  replace hT := (pI_ext em1).kd hT
  refine g_goto dX2_goOn_319 rfl ?_
  cases h
  refine G.weak [true, false, false] rfl ?_
  exact Hl _ rfl hT
set_option maxHeartbeats 4000000 in
theorem w_X2_goOn_259 {Γ : GG} (hΓ : GF Γ) {m0 mF m : MM} {x : Nat} (hT : (m.K x).1 = 3) {r : Unit} {q : ((MM) ⊕ (MM) ⊕ (Int32 × MM) ⊕ (MM)) ⊕ (Unit × MM)} (h : b_X2_goOn_259 x m = some q) (Hl : ∀ z, q = .inl z → p_X2_goOn Γ m0 mF x r z) (Hr : ∀ z, q = .inr z → z = (r, mF)) : G Γ kX2_goOn cX2_goOn m0 mF (.inl none) m 259 [some (.ref x), none, none] [] := by
  unfold b_X2_goOn_259 at h
  refine g_this dX2_goOn_259 rfl ?_
  refine g_this dX2_goOn_260 rfl ?_
  refine g_getI hΓ.k fl_X2_182_X2 rfl hT dX2_goOn_261 ?_
  replace h := bd2_of h; obtain ⟨v1, m2, em2, h⟩ := h
  have C := ct_X2_sign hΓ hT em2
  refine g_callVi hΓ.k vl_X2_188 hT C rfl rfl (Nat.le_of_ble_eq_true rfl) (Nat.le_of_ble_eq_true rfl) (Nat.le_of_ble_eq_true rfl) dX2_goOn_264 ?_
  replace hT := (C.1).kd hT
  replace h := bd2_of h; obtain ⟨v3, m4, em4, h⟩ := h
  have C := ct_X2_isDigit hΓ em4
  refine g_callSi sl_X2_207 C rfl rfl (Nat.le_of_ble_eq_true rfl) (Nat.le_of_ble_eq_true rfl) (Nat.le_of_ble_eq_true rfl) dX2_goOn_267 ?_
  replace hT := (C.1).kd hT
  replace h := ite_of h; rcases h with ⟨hc, h⟩ | ⟨hc, h⟩
  · refine g_ifeqT dX2_goOn_270 rfl hc ?_
    refine g_this dX2_goOn_322 rfl ?_
    refine g_this dX2_goOn_323 rfl ?_
    refine g_getI hΓ.k fl_X2_182_X2 rfl hT dX2_goOn_324 ?_
    refine g_this dX2_goOn_327 rfl ?_
    refine g_getI hΓ.k fl_X2_185_X2 rfl hT dX2_goOn_328 ?_
    refine g_isub dX2_goOn_331 ?_
    refine g_ic 4 dX2_goOn_332 rfl ?_
    replace h := ite_of h; rcases h with ⟨hc, h⟩ | ⟨hc, h⟩
    · refine g_icgtT dX2_goOn_333 rfl hc ?_
      refine g_ic 1 dX2_goOn_350 rfl ?_
      refine g_goto dX2_goOn_351 rfl ?_
      replace h := bd_of h; obtain ⟨m5, em5, h⟩ := h
      refine g_pI hΓ.k fl_X2_192_X2 (fun h9 => by cases h9) rfl (Or.inl ⟨rfl, rfl⟩) em5 dX2_goOn_355 ?_
      replace hT := (pI_ext em5).kd hT
      refine g_goto dX2_goOn_358 rfl ?_
      cases h
      cases Hr _ rfl
      exact g_vret rfl dX2_goOn_382
    · refine g_icgtF dX2_goOn_333 rfl hc ?_
      refine g_this dX2_goOn_336 rfl ?_
      refine g_this dX2_goOn_337 rfl ?_
      refine g_getI hΓ.k fl_X2_182_X2 rfl hT dX2_goOn_338 ?_
      replace h := bd2_of h; obtain ⟨v6, m7, em7, h⟩ := h
      have C := ct_X2_sign hΓ hT em7
      refine g_callVi hΓ.k vl_X2_188 hT C rfl rfl (Nat.le_of_ble_eq_true rfl) (Nat.le_of_ble_eq_true rfl) (Nat.le_of_ble_eq_true rfl) dX2_goOn_341 ?_
      replace hT := (C.1).kd hT
      replace h := bd2_of h; obtain ⟨v8, m9, em9, h⟩ := h
      have C := ct_X2_isLetter hΓ em9
      refine g_callSi sl_X2_195 C rfl rfl (Nat.le_of_ble_eq_true rfl) (Nat.le_of_ble_eq_true rfl) (Nat.le_of_ble_eq_true rfl) dX2_goOn_344 ?_
      replace hT := (C.1).kd hT
      replace h := ite_of h; rcases h with ⟨hc, h⟩ | ⟨hc, h⟩
      · refine g_ifeqT dX2_goOn_347 rfl hc ?_
        refine g_ic 4 dX2_goOn_354 rfl ?_
        replace h := bd_of h; obtain ⟨m10, em10, h⟩ := h
        refine g_pI hΓ.k fl_X2_192_X2 (fun h9 => by cases h9) rfl (Or.inl ⟨rfl, rfl⟩) em10 dX2_goOn_355 ?_
        replace hT := (pI_ext em10).kd hT
        refine g_goto dX2_goOn_358 rfl ?_
        cases h
        cases Hr _ rfl
        exact g_vret rfl dX2_goOn_382
      · refine g_ifeqF dX2_goOn_347 rfl hc ?_
        refine g_ic 1 dX2_goOn_350 rfl ?_
        refine g_goto dX2_goOn_351 rfl ?_
        replace h := bd_of h; obtain ⟨m11, em11, h⟩ := h
        refine g_pI hΓ.k fl_X2_192_X2 (fun h9 => by cases h9) rfl (Or.inl ⟨rfl, rfl⟩) em11 dX2_goOn_355 ?_
        replace hT := (pI_ext em11).kd hT
        refine g_goto dX2_goOn_358 rfl ?_
        cases h
        cases Hr _ rfl
        exact g_vret rfl dX2_goOn_382
  · refine g_ifeqF dX2_goOn_270 rfl hc ?_
    refine g_this dX2_goOn_273 rfl ?_
    refine g_getI hΓ.k fl_X2_182_X2 rfl hT dX2_goOn_274 ?_
    refine g_this dX2_goOn_277 rfl ?_
    refine g_getI hΓ.k fl_X2_185_X2 rfl hT dX2_goOn_278 ?_
    refine g_isub dX2_goOn_281 ?_
    refine g_ic 4 dX2_goOn_282 rfl ?_
    replace h := ite_of h; rcases h with ⟨hc, h⟩ | ⟨hc, h⟩
    · refine g_icgeT dX2_goOn_283 rfl hc ?_
      refine G.weak [true, false, false] rfl ?_
      exact w_X2_goOn_309 hΓ hT h Hl Hr
    · refine g_icgeF dX2_goOn_283 rfl hc ?_
      refine g_this dX2_goOn_286 rfl ?_
      refine g_bi (10) dX2_goOn_287 rfl ?_
      refine g_this dX2_goOn_289 rfl ?_
      refine g_getI hΓ.k fl_X2_210_X2 rfl hT dX2_goOn_290 ?_
      refine g_imul dX2_goOn_293 ?_
      refine g_this dX2_goOn_294 rfl ?_
      refine g_this dX2_goOn_295 rfl ?_
      refine g_getI hΓ.k fl_X2_182_X2 rfl hT dX2_goOn_296 ?_
      replace h := bd2_of h; obtain ⟨v12, m13, em13, h⟩ := h
      have C := ct_X2_sign hΓ hT em13
      refine g_callVi hΓ.k vl_X2_188 hT C rfl rfl (Nat.le_of_ble_eq_true rfl) (Nat.le_of_ble_eq_true rfl) (Nat.le_of_ble_eq_true rfl) dX2_goOn_299 ?_
      replace hT := (C.1).kd hT
      refine g_iadd dX2_goOn_302 ?_
      refine g_bi (48) dX2_goOn_303 rfl ?_
      refine g_isub dX2_goOn_305 ?_
      replace h := bd_of h; obtain ⟨m14, em14, h⟩ := h
      refine g_pI hΓ.k fl_X2_210_X2 (fun h9 => by cases h9) rfl (Or.inl ⟨rfl, rfl⟩) em14 dX2_goOn_306 ?_
      replace hT := (pI_ext em14).kd hT
      refine G.weak [true, false, false] rfl ?_
      exact w_X2_goOn_309 hΓ hT h Hl Hr
set_option maxHeartbeats 4000000 in
theorem w_X2_goOn_199 {Γ : GG} (hΓ : GF Γ) {m0 mF m : MM} {x : Nat} (hT : (m.K x).1 = 3) {r : Unit} {q : ((MM) ⊕ (MM) ⊕ (Int32 × MM) ⊕ (MM)) ⊕ (Unit × MM)} (h : b_X2_goOn_199 x m = some q) (Hl : ∀ z, q = .inl z → p_X2_goOn Γ m0 mF x r z) (Hr : ∀ z, q = .inr z → z = (r, mF)) : G Γ kX2_goOn cX2_goOn m0 mF (.inl none) m 199 [some (.ref x), none, none] [] := by
  unfold b_X2_goOn_199 at h
  refine g_this dX2_goOn_199 rfl ?_
  refine g_this dX2_goOn_200 rfl ?_
  refine g_getI hΓ.k fl_X2_182_X2 rfl hT dX2_goOn_201 ?_
  refine g_this dX2_goOn_204 rfl ?_
  refine g_getI hΓ.k fl_X2_185_X2 rfl hT dX2_goOn_205 ?_
  refine g_isub dX2_goOn_208 ?_
  refine g_bi (8) dX2_goOn_209 rfl ?_
  replace h := ite_of h; rcases h with ⟨hc, h⟩ | ⟨hc, h⟩
  · refine g_icleT dX2_goOn_211 rfl hc ?_
    refine g_this dX2_goOn_218 rfl ?_
    refine g_getL hΓ.k fl_X2_199_X2 rfl hT dX2_goOn_219 ?_
    replace h := bd2_of h; obtain ⟨v1, m2, em2, h⟩ := h
    have C := ct_X2_isKept hΓ em2
    refine g_callSi sl_X2_203 C rfl rfl (Nat.le_of_ble_eq_true rfl) (Nat.le_of_ble_eq_true rfl) (Nat.le_of_ble_eq_true rfl) dX2_goOn_222 ?_
    replace hT := (C.1).kd hT
    replace h := ite_of h; rcases h with ⟨hc, h⟩ | ⟨hc, h⟩
    · refine g_ifeqT dX2_goOn_225 rfl hc ?_
      refine g_ic 2 dX2_goOn_232 rfl ?_
      replace h := bd_of h; obtain ⟨m3, em3, h⟩ := h
      refine g_pI hΓ.k fl_X2_192_X2 (fun h9 => by cases h9) rfl (Or.inl ⟨rfl, rfl⟩) em3 dX2_goOn_233 ?_
      replace hT := (pI_ext em3).kd hT
      refine g_goto dX2_goOn_236 rfl ?_
      cases h
      cases Hr _ rfl
      exact g_vret rfl dX2_goOn_382
    · refine g_ifeqF dX2_goOn_225 rfl hc ?_
      refine g_ic 3 dX2_goOn_228 rfl ?_
      refine g_goto dX2_goOn_229 rfl ?_
      replace h := bd_of h; obtain ⟨m4, em4, h⟩ := h
      refine g_pI hΓ.k fl_X2_192_X2 (fun h9 => by cases h9) rfl (Or.inl ⟨rfl, rfl⟩) em4 dX2_goOn_233 ?_
      replace hT := (pI_ext em4).kd hT
      refine g_goto dX2_goOn_236 rfl ?_
      cases h
      cases Hr _ rfl
      exact g_vret rfl dX2_goOn_382
  · refine g_icleF dX2_goOn_211 rfl hc ?_
    refine g_ic 1 dX2_goOn_214 rfl ?_
    refine g_goto dX2_goOn_215 rfl ?_
    replace h := bd_of h; obtain ⟨m5, em5, h⟩ := h
    refine g_pI hΓ.k fl_X2_192_X2 (fun h9 => by cases h9) rfl (Or.inl ⟨rfl, rfl⟩) em5 dX2_goOn_233 ?_
    replace hT := (pI_ext em5).kd hT
    refine g_goto dX2_goOn_236 rfl ?_
    cases h
    cases Hr _ rfl
    exact g_vret rfl dX2_goOn_382
set_option maxHeartbeats 4000000 in
theorem w_X2_goOn_156 {Γ : GG} (hΓ : GF Γ) {m0 mF m : MM} {x : Nat} {l2 : Int32} (hT : (m.K x).1 = 3) {r : Unit} {q : ((MM) ⊕ (MM) ⊕ (Int32 × MM) ⊕ (MM)) ⊕ (Unit × MM)} (h : b_X2_goOn_156 x l2 m = some q) (Hl : ∀ z, q = .inl z → p_X2_goOn Γ m0 mF x r z) (Hr : ∀ z, q = .inr z → z = (r, mF)) : G Γ kX2_goOn cX2_goOn m0 mF (.inl none) m 156 [some (.ref x), none, some (.int l2)] [] := by
  unfold b_X2_goOn_156 at h
  refine g_iload_n 2 dX2_goOn_156 rfl rfl ?_
  refine g_this dX2_goOn_157 rfl ?_
  refine g_getI hΓ.k fl_X2_182_X2 rfl hT dX2_goOn_158 ?_
  replace h := ite_of h; rcases h with ⟨hc, h⟩ | ⟨hc, h⟩
  · refine g_icgeT dX2_goOn_161 rfl hc ?_
    refine G.weak [true, false, false] rfl ?_
    exact w_X2_goOn_199 hΓ hT h Hl Hr
  · refine g_icgeF dX2_goOn_161 rfl hc ?_
    refine g_iload_n 2 dX2_goOn_164 rfl rfl ?_
    refine g_this dX2_goOn_165 rfl ?_
    refine g_getI hΓ.k fl_X2_185_X2 rfl hT dX2_goOn_166 ?_
    refine g_bi (8) dX2_goOn_169 rfl ?_
    refine g_iadd dX2_goOn_171 ?_
    replace h := ite_of h; rcases h with ⟨hc, h⟩ | ⟨hc, h⟩
    · refine g_icgeT dX2_goOn_172 rfl hc ?_
      refine G.weak [true, false, false] rfl ?_
      exact w_X2_goOn_199 hΓ hT h Hl Hr
    · refine g_icgeF dX2_goOn_172 rfl hc ?_
      refine g_this dX2_goOn_175 rfl ?_
      refine g_this dX2_goOn_176 rfl ?_
      refine g_getL hΓ.k fl_X2_199_X2 rfl hT dX2_goOn_177 ?_
      refine g_bi (8) dX2_goOn_180 rfl ?_
      refine g_lshl dX2_goOn_182 ?_
      refine g_this dX2_goOn_183 rfl ?_
      refine g_iload_n 2 dX2_goOn_184 rfl rfl ?_
      replace h := bd2_of h; obtain ⟨v1, m2, em2, h⟩ := h
      have C := ct_X2_sign hΓ hT em2
      refine g_callVi hΓ.k vl_X2_188 hT C rfl rfl (Nat.le_of_ble_eq_true rfl) (Nat.le_of_ble_eq_true rfl) (Nat.le_of_ble_eq_true rfl) dX2_goOn_185 ?_
      replace hT := (C.1).kd hT
      refine g_i2l dX2_goOn_188 ?_
      refine g_lor dX2_goOn_189 ?_
      replace h := bd_of h; obtain ⟨m3, em3, h⟩ := h
      refine g_pL hΓ.k fl_X2_199_X2 (fun h9 => by cases h9) rfl em3 dX2_goOn_190 ?_
      replace hT := (pL_ext em3).kd hT
      refine g_iinc (l2 + (1 : Int32)) dX2_goOn_193 rfl rfl (Nat.le_of_ble_eq_true rfl) rfl ?_
      dsimp only [List.set]
      refine g_goto dX2_goOn_196 rfl ?_
      cases h
      refine G.weak [true, false, true] rfl ?_
      exact Hl _ rfl hT
set_option maxHeartbeats 4000000 in
theorem w_X2_goOn_119 {Γ : GG} (hΓ : GF Γ) {m0 mF m : MM} {x : Nat} (hT : (m.K x).1 = 3) {r : Unit} {q : ((MM) ⊕ (MM) ⊕ (Int32 × MM) ⊕ (MM)) ⊕ (Unit × MM)} (h : b_X2_goOn_119 x m = some q) (Hl : ∀ z, q = .inl z → p_X2_goOn Γ m0 mF x r z) (Hr : ∀ z, q = .inr z → z = (r, mF)) : G Γ kX2_goOn cX2_goOn m0 mF (.inl none) m 119 [some (.ref x), none, none] [] := by
  unfold b_X2_goOn_119 at h
  refine g_this dX2_goOn_119 rfl ?_
  refine g_this dX2_goOn_120 rfl ?_
  refine g_getI hΓ.k fl_X2_182_X2 rfl hT dX2_goOn_121 ?_
  replace h := bd2_of h; obtain ⟨v1, m2, em2, h⟩ := h
  have C := ct_X2_sign hΓ hT em2
  refine g_callVi hΓ.k vl_X2_188 hT C rfl rfl (Nat.le_of_ble_eq_true rfl) (Nat.le_of_ble_eq_true rfl) (Nat.le_of_ble_eq_true rfl) dX2_goOn_124 ?_
  replace hT := (C.1).kd hT
  replace h := bd2_of h; obtain ⟨v3, m4, em4, h⟩ := h
  have C := ct_X2_isLetter hΓ em4
  refine g_callSi sl_X2_195 C rfl rfl (Nat.le_of_ble_eq_true rfl) (Nat.le_of_ble_eq_true rfl) (Nat.le_of_ble_eq_true rfl) dX2_goOn_127 ?_
  replace hT := (C.1).kd hT
  replace h := ite_of h; rcases h with ⟨hc, h⟩ | ⟨hc, h⟩
  · refine g_ifeqT dX2_goOn_130 rfl hc ?_
    refine g_this dX2_goOn_146 rfl ?_
    refine g_lc 0 dX2_goOn_147 rfl ?_
    replace h := bd_of h; obtain ⟨m5, em5, h⟩ := h
    refine g_pL hΓ.k fl_X2_199_X2 (fun h9 => by cases h9) rfl em5 dX2_goOn_148 ?_
    replace hT := (pL_ext em5).kd hT
    refine g_this dX2_goOn_151 rfl ?_
    refine g_getI hΓ.k fl_X2_185_X2 rfl hT dX2_goOn_152 ?_
    refine g_istore_n 2 dX2_goOn_155 rfl (Nat.le_of_ble_eq_true rfl) rfl ?_
    dsimp only [List.set]
    cases h
    refine G.weak [true, false, true] rfl ?_
    exact Hl _ rfl hT
  · refine g_ifeqF dX2_goOn_130 rfl hc ?_
    refine g_this dX2_goOn_133 rfl ?_
    refine g_dup dX2_goOn_134 rfl ?_
    refine g_getI hΓ.k fl_X2_182_X2 rfl hT dX2_goOn_135 ?_
    refine g_ic 1 dX2_goOn_138 rfl ?_
    refine g_iadd dX2_goOn_139 ?_
    replace h := bd_of h; obtain ⟨m6, em6, h⟩ := h
    refine g_pI hΓ.k fl_X2_182_X2 (fun h9 => by cases h9) rfl (Or.inl ⟨rfl, rfl⟩) em6 dX2_goOn_140 ?_
    replace hT := (pI_ext em6).kd hT
    refine g_goto dX2_goOn_143 rfl ?_
    cases h
    refine G.weak [true, false, false] rfl ?_
    exact Hl _ rfl hT
set_option maxHeartbeats 4000000 in
theorem w_X2_goOn_58 {Γ : GG} (hΓ : GF Γ) {m0 mF m : MM} {x : Nat} (hT : (m.K x).1 = 3) {r : Unit} {q : ((MM) ⊕ (MM) ⊕ (Int32 × MM) ⊕ (MM)) ⊕ (Unit × MM)} (h : b_X2_goOn_58 x m = some q) (Hl : ∀ z, q = .inl z → p_X2_goOn Γ m0 mF x r z) (Hr : ∀ z, q = .inr z → z = (r, mF)) : G Γ kX2_goOn cX2_goOn m0 mF (.inl none) m 58 [some (.ref x), none, none] [] := by
  unfold b_X2_goOn_58 at h
  refine g_this dX2_goOn_58 rfl ?_
  refine g_this dX2_goOn_59 rfl ?_
  refine g_getI hΓ.k fl_X2_185_X2 rfl hT dX2_goOn_60 ?_
  replace h := bd2_of h; obtain ⟨v1, m2, em2, h⟩ := h
  have C := ct_X2_sign hΓ hT em2
  refine g_callVi hΓ.k vl_X2_188 hT C rfl rfl (Nat.le_of_ble_eq_true rfl) (Nat.le_of_ble_eq_true rfl) (Nat.le_of_ble_eq_true rfl) dX2_goOn_63 ?_
  replace hT := (C.1).kd hT
  refine g_istore_n 1 dX2_goOn_66 rfl (Nat.le_of_ble_eq_true rfl) rfl ?_
  dsimp only [List.set]
  refine g_this dX2_goOn_67 rfl ?_
  refine g_this dX2_goOn_68 rfl ?_
  refine g_getI hΓ.k fl_X2_185_X2 rfl hT dX2_goOn_69 ?_
  refine g_ic 1 dX2_goOn_72 rfl ?_
  refine g_iadd dX2_goOn_73 ?_
  replace h := bd_of h; obtain ⟨m3, em3, h⟩ := h
  refine g_pI hΓ.k fl_X2_182_X2 (fun h9 => by cases h9) rfl (Or.inl ⟨rfl, rfl⟩) em3 dX2_goOn_74 ?_
  replace hT := (pI_ext em3).kd hT
  refine g_this dX2_goOn_77 rfl ?_
  refine g_getI hΓ.k fl_X2_185_X2 rfl hT dX2_goOn_78 ?_
  refine g_this dX2_goOn_81 rfl ?_
  refine g_getI hΓ.k fl_X2_164_X2 rfl hT dX2_goOn_82 ?_
  replace h := ite_of h; rcases h with ⟨hc, h⟩ | ⟨hc, h⟩
  · refine g_icltT dX2_goOn_85 rfl hc ?_
    refine g_iload_n 1 dX2_goOn_112 rfl rfl ?_
    replace h := bd2_of h; obtain ⟨v4, m5, em5, h⟩ := h
    have C := ct_X2_isLetter hΓ em5
    refine g_callSi sl_X2_195 C rfl rfl (Nat.le_of_ble_eq_true rfl) (Nat.le_of_ble_eq_true rfl) (Nat.le_of_ble_eq_true rfl) dX2_goOn_113 ?_
    replace hT := (C.1).kd hT
    replace h := ite_of h; rcases h with ⟨hc, h⟩ | ⟨hc, h⟩
    · refine g_ifeqT dX2_goOn_116 rfl hc ?_
      refine g_iload_n 1 dX2_goOn_239 rfl rfl ?_
      replace h := bd2_of h; obtain ⟨v6, m7, em7, h⟩ := h
      have C := ct_X2_isDigit hΓ em7
      refine g_callSi sl_X2_207 C rfl rfl (Nat.le_of_ble_eq_true rfl) (Nat.le_of_ble_eq_true rfl) (Nat.le_of_ble_eq_true rfl) dX2_goOn_240 ?_
      replace hT := (C.1).kd hT
      replace h := ite_of h; rcases h with ⟨hc, h⟩ | ⟨hc, h⟩
      · refine g_ifeqT dX2_goOn_243 rfl hc ?_
        refine g_this dX2_goOn_361 rfl ?_
        refine g_iload_n 1 dX2_goOn_362 rfl rfl ?_
        refine g_bi (59) dX2_goOn_363 rfl ?_
        replace h := ite_of h; rcases h with ⟨hc, h⟩ | ⟨hc, h⟩
        · refine g_iceqT dX2_goOn_365 rfl hc ?_
          refine g_ic 5 dX2_goOn_374 rfl ?_
          refine g_goto dX2_goOn_375 rfl ?_
          replace h := bd_of h; obtain ⟨m8, em8, h⟩ := h
          refine g_pI hΓ.k fl_X2_192_X2 (fun h9 => by cases h9) rfl (Or.inl ⟨rfl, rfl⟩) em8 dX2_goOn_379 ?_
          replace hT := (pI_ext em8).kd hT
          cases h
          cases Hr _ rfl
          exact g_vret rfl dX2_goOn_382
        · refine g_iceqF dX2_goOn_365 rfl hc ?_
          refine g_iload_n 1 dX2_goOn_368 rfl rfl ?_
          refine g_bi (61) dX2_goOn_369 rfl ?_
          replace h := ite_of h; rcases h with ⟨hc, h⟩ | ⟨hc, h⟩
          · refine g_icneF dX2_goOn_371 rfl hc ?_
            refine g_ic 5 dX2_goOn_374 rfl ?_
            refine g_goto dX2_goOn_375 rfl ?_
            replace h := bd_of h; obtain ⟨m10, em10, h⟩ := h
            refine g_pI hΓ.k fl_X2_192_X2 (fun h9 => by cases h9) rfl (Or.inl ⟨rfl, rfl⟩) em10 dX2_goOn_379 ?_
            replace hT := (pI_ext em10).kd hT
            cases h
            cases Hr _ rfl
            exact g_vret rfl dX2_goOn_382
          · refine g_icneT dX2_goOn_371 rfl hc ?_
            refine g_ic 1 dX2_goOn_378 rfl ?_
            replace h := bd_of h; obtain ⟨m9, em9, h⟩ := h
            refine g_pI hΓ.k fl_X2_192_X2 (fun h9 => by cases h9) rfl (Or.inl ⟨rfl, rfl⟩) em9 dX2_goOn_379 ?_
            replace hT := (pI_ext em9).kd hT
            cases h
            cases Hr _ rfl
            exact g_vret rfl dX2_goOn_382
      · refine g_ifeqF dX2_goOn_243 rfl hc ?_
        refine g_this dX2_goOn_246 rfl ?_
        refine g_ic 0 dX2_goOn_247 rfl ?_
        replace h := bd_of h; obtain ⟨m11, em11, h⟩ := h
        refine g_pI hΓ.k fl_X2_210_X2 (fun h9 => by cases h9) rfl (Or.inl ⟨rfl, rfl⟩) em11 dX2_goOn_248 ?_
        replace hT := (pI_ext em11).kd hT
        refine g_this dX2_goOn_251 rfl ?_
        refine g_this dX2_goOn_252 rfl ?_
        refine g_getI hΓ.k fl_X2_185_X2 rfl hT dX2_goOn_253 ?_
        replace h := bd_of h; obtain ⟨m12, em12, h⟩ := h
        refine g_pI hΓ.k fl_X2_182_X2 (fun h9 => by cases h9) rfl (Or.inl ⟨rfl, rfl⟩) em12 dX2_goOn_256 ?_
        replace hT := (pI_ext em12).kd hT
        cases h
        refine G.weak [true, false, false] rfl ?_
        exact Hl _ rfl hT
    · refine g_ifeqF dX2_goOn_116 rfl hc ?_
      cases h
      refine G.weak [true, false, false] rfl ?_
      exact Hl _ rfl hT
  · refine g_icltF dX2_goOn_85 rfl hc ?_
    refine g_this dX2_goOn_88 rfl ?_
    refine g_ic 0 dX2_goOn_89 rfl ?_
    replace h := bd_of h; obtain ⟨m13, em13, h⟩ := h
    refine g_pI hΓ.k fl_X2_192_X2 (fun h9 => by cases h9) rfl (Or.inl ⟨rfl, rfl⟩) em13 dX2_goOn_90 ?_
    replace hT := (pI_ext em13).kd hT
    refine g_this dX2_goOn_93 rfl ?_
    refine g_this dX2_goOn_94 rfl ?_
    refine g_getI hΓ.k fl_X2_164_X2 rfl hT dX2_goOn_95 ?_
    replace h := bd_of h; obtain ⟨m14, em14, h⟩ := h
    refine g_pI hΓ.k fl_X2_185_X2 (fun h9 => by cases h9) rfl (Or.inl ⟨rfl, rfl⟩) em14 dX2_goOn_98 ?_
    replace hT := (pI_ext em14).kd hT
    refine g_this dX2_goOn_101 rfl ?_
    refine g_this dX2_goOn_102 rfl ?_
    refine g_getI hΓ.k fl_X2_164_X2 rfl hT dX2_goOn_103 ?_
    replace h := bd_of h; obtain ⟨m15, em15, h⟩ := h
    refine g_pI hΓ.k fl_X2_182_X2 (fun h9 => by cases h9) rfl (Or.inl ⟨rfl, rfl⟩) em15 dX2_goOn_106 ?_
    replace hT := (pI_ext em15).kd hT
    refine g_goto dX2_goOn_109 rfl ?_
    cases h
    cases Hr _ rfl
    exact g_vret rfl dX2_goOn_382
set_option maxHeartbeats 4000000 in
theorem w_X2_goOn_45 {Γ : GG} (hΓ : GF Γ) {m0 mF m : MM} {x : Nat} (hT : (m.K x).1 = 3) {r : Unit} {q : ((MM) ⊕ (MM) ⊕ (Int32 × MM) ⊕ (MM)) ⊕ (Unit × MM)} (h : b_X2_goOn_45 x m = some q) (Hl : ∀ z, q = .inl z → p_X2_goOn Γ m0 mF x r z) (Hr : ∀ z, q = .inr z → z = (r, mF)) : G Γ kX2_goOn cX2_goOn m0 mF (.inl none) m 45 [some (.ref x), none, none] [] := by
  unfold b_X2_goOn_45 at h
  refine g_this dX2_goOn_45 rfl ?_
  refine g_dup dX2_goOn_46 rfl ?_
  refine g_getI hΓ.k fl_X2_185_X2 rfl hT dX2_goOn_47 ?_
  refine g_ic 1 dX2_goOn_50 rfl ?_
  refine g_iadd dX2_goOn_51 ?_
  replace h := bd_of h; obtain ⟨m1, em1, h⟩ := h
  refine g_pI hΓ.k fl_X2_185_X2 (fun h9 => by cases h9) rfl (Or.inl ⟨rfl, rfl⟩) em1 dX2_goOn_52 ?_
  replace hT := (pI_ext em1).kd hT
  refine g_goto dX2_goOn_55 rfl ?_
  cases h
  refine G.weak [true, false, false] rfl ?_
  exact Hl _ rfl hT
set_option maxHeartbeats 4000000 in
theorem w_X2_goOn_8 {Γ : GG} (hΓ : GF Γ) {m0 mF m : MM} {x : Nat} (hT : (m.K x).1 = 3) {r : Unit} {q : ((MM) ⊕ (MM) ⊕ (Int32 × MM) ⊕ (MM)) ⊕ (Unit × MM)} (h : b_X2_goOn_8 x m = some q) (Hl : ∀ z, q = .inl z → p_X2_goOn Γ m0 mF x r z) (Hr : ∀ z, q = .inr z → z = (r, mF)) : G Γ kX2_goOn cX2_goOn m0 mF (.inl none) m 8 [some (.ref x), none, none] [] := by
  unfold b_X2_goOn_8 at h
  refine g_this dX2_goOn_8 rfl ?_
  refine g_getI hΓ.k fl_X2_185_X2 rfl hT dX2_goOn_9 ?_
  refine g_this dX2_goOn_12 rfl ?_
  refine g_getI hΓ.k fl_X2_164_X2 rfl hT dX2_goOn_13 ?_
  replace h := ite_of h; rcases h with ⟨hc, h⟩ | ⟨hc, h⟩
  · refine g_icgeT dX2_goOn_16 rfl hc ?_
    refine G.weak [true, false, false] rfl ?_
    exact w_X2_goOn_58 hΓ hT h Hl Hr
  · refine g_icgeF dX2_goOn_16 rfl hc ?_
    refine g_this dX2_goOn_19 rfl ?_
    refine g_this dX2_goOn_20 rfl ?_
    refine g_getI hΓ.k fl_X2_185_X2 rfl hT dX2_goOn_21 ?_
    replace h := bd2_of h; obtain ⟨v1, m2, em2, h⟩ := h
    have C := ct_X2_sign hΓ hT em2
    refine g_callVi hΓ.k vl_X2_188 hT C rfl rfl (Nat.le_of_ble_eq_true rfl) (Nat.le_of_ble_eq_true rfl) (Nat.le_of_ble_eq_true rfl) dX2_goOn_24 ?_
    replace hT := (C.1).kd hT
    refine g_bi (32) dX2_goOn_27 rfl ?_
    replace h := ite_of h; rcases h with ⟨hc, h⟩ | ⟨hc, h⟩
    · refine g_iceqT dX2_goOn_29 rfl hc ?_
      refine G.weak [true, false, false] rfl ?_
      exact w_X2_goOn_45 hΓ hT h Hl Hr
    · refine g_iceqF dX2_goOn_29 rfl hc ?_
      refine g_this dX2_goOn_32 rfl ?_
      refine g_this dX2_goOn_33 rfl ?_
      refine g_getI hΓ.k fl_X2_185_X2 rfl hT dX2_goOn_34 ?_
      replace h := bd2_of h; obtain ⟨v3, m4, em4, h⟩ := h
      have C := ct_X2_sign hΓ hT em4
      refine g_callVi hΓ.k vl_X2_188 hT C rfl rfl (Nat.le_of_ble_eq_true rfl) (Nat.le_of_ble_eq_true rfl) (Nat.le_of_ble_eq_true rfl) dX2_goOn_37 ?_
      replace hT := (C.1).kd hT
      refine g_bi (10) dX2_goOn_40 rfl ?_
      replace h := ite_of h; rcases h with ⟨hc, h⟩ | ⟨hc, h⟩
      · refine g_icneF dX2_goOn_42 rfl hc ?_
        refine G.weak [true, false, false] rfl ?_
        exact w_X2_goOn_45 hΓ hT h Hl Hr
      · refine g_icneT dX2_goOn_42 rfl hc ?_
        refine G.weak [true, false, false] rfl ?_
        exact w_X2_goOn_58 hΓ hT h Hl Hr
set_option maxHeartbeats 4000000 in
theorem w_X2_goOn_0 {Γ : GG} (hΓ : GF Γ) {m0 mF m : MM} {x : Nat} (hT : (m.K x).1 = 3) {r : Unit} {q : ((MM) ⊕ (MM) ⊕ (Int32 × MM) ⊕ (MM)) ⊕ (Unit × MM)} (h : b_X2_goOn_0 x m = some q) (Hl : ∀ z, q = .inl z → p_X2_goOn Γ m0 mF x r z) (Hr : ∀ z, q = .inr z → z = (r, mF)) : G Γ kX2_goOn cX2_goOn m0 mF (.inl none) m 0 [some (.ref x), none, none] [] := by
  unfold b_X2_goOn_0 at h
  refine g_this dX2_goOn_0 rfl ?_
  refine g_this dX2_goOn_1 rfl ?_
  refine g_getI hΓ.k fl_X2_182_X2 rfl hT dX2_goOn_2 ?_
  replace h := bd_of h; obtain ⟨m1, em1, h⟩ := h
  refine g_pI hΓ.k fl_X2_185_X2 (fun h9 => by cases h9) rfl (Or.inl ⟨rfl, rfl⟩) em1 dX2_goOn_5 ?_
  replace hT := (pI_ext em1).kd hT
  cases h
  refine G.weak [true, false, false] rfl ?_
  exact Hl _ rfl hT
theorem ct_X2_goOn {Γ : GG} (hΓ : GF Γ) {m mF : MM} {x : Nat} (hT : (m.K x).1 = 3) {r : Unit} (h : f_X2_goOn x m = some (r, mF)) : Ct Γ kX2_goOn cX2_goOn [.ref x] m (.inl none) mF := by
  unfold f_X2_goOn at h
  replace h := bd_of h; obtain ⟨q, e, h⟩ := h
  have H := rx_go_ind (P := p_X2_goOn Γ m mF x r) (fun z o hs Hl Hr => by
    match z with
    | (.inl m) => exact fun hT => w_X2_goOn_8 hΓ hT hs Hl Hr
    | (.inr (.inl m)) => exact fun hT => w_X2_goOn_119 hΓ hT hs Hl Hr
    | (.inr (.inr (.inl (l2, m)))) => exact fun hT => w_X2_goOn_156 hΓ hT hs Hl Hr
    | (.inr (.inr (.inr m))) => exact fun hT => w_X2_goOn_259 hΓ hT hs Hl Hr) h
  exact Ct.of (κ := kX2_goOn) (by decide) rfl (Nat.le_of_ble_eq_true rfl) rfl (w_X2_goOn_0 hΓ hT e H.1 H.2)
set_option maxHeartbeats 4000000 in
theorem w_X2_isGood_0 {Γ : GG} (hΓ : GF Γ) {m0 mF m : MM} {x : Nat} (hT : (m.K x).1 = 3) {r : Int32} (h : b_X2_isGood_0 x m = some (r, mF)) : G Γ kX2_isGood cX2_isGood m0 mF (.inl (some (.int r))) m 0 [some (.ref x)] [] := by
  unfold b_X2_isGood_0 at h
  refine g_this dX2_isGood_0 rfl ?_
  refine g_getI hΓ.k fl_X2_167_X2 rfl hT dX2_isGood_1 ?_
  replace h := ite_of h; rcases h with ⟨hc, h⟩ | ⟨hc, h⟩
  · refine g_ifneF dX2_isGood_4 rfl hc ?_
    refine g_ic 1 dX2_isGood_7 rfl ?_
    refine g_goto dX2_isGood_8 rfl ?_
    cases h
    exact g_zret rfl (by decide) dX2_isGood_12
  · refine g_ifneT dX2_isGood_4 rfl hc ?_
    refine g_ic 0 dX2_isGood_11 rfl ?_
    cases h
    exact g_zret rfl (by decide) dX2_isGood_12
theorem ct_X2_isGood {Γ : GG} (hΓ : GF Γ) {m mF : MM} {x : Nat} (hT : (m.K x).1 = 3) {r : Int32} (h : f_X2_isGood x m = some (r, mF)) : Ct Γ kX2_isGood cX2_isGood [.ref x] m (.inl (some (.int r))) mF := by
  unfold f_X2_isGood at h
  exact Ct.of (κ := kX2_isGood) (by decide) rfl (Nat.le_of_ble_eq_true rfl) rfl (w_X2_isGood_0 hΓ hT h)
set_option maxHeartbeats 4000000 in
theorem w_X2_isWord_0 {Γ : GG} (hΓ : GF Γ) {m0 mF m : MM} {x : Nat} {l1 : Int64} (hT : (m.K x).1 = 3) {r : Int32} (h : b_X2_isWord_0 x l1 m = some (r, mF)) : G Γ kX2_isWord cX2_isWord m0 mF (.inl (some (.int r))) m 0 [some (.ref x), some (.long l1), none] [] := by
  unfold b_X2_isWord_0 at h
  refine g_this dX2_isWord_0 rfl ?_
  refine g_getI hΓ.k fl_X2_192_X2 rfl hT dX2_isWord_1 ?_
  refine g_ic 3 dX2_isWord_4 rfl ?_
  replace h := ite_of h; rcases h with ⟨hc, h⟩ | ⟨hc, h⟩
  · refine g_icneF dX2_isWord_5 rfl hc ?_
    refine g_this dX2_isWord_8 rfl ?_
    refine g_getL hΓ.k fl_X2_199_X2 rfl hT dX2_isWord_9 ?_
    refine g_lload_n 1 dX2_isWord_12 rfl rfl ?_
    refine g_lcmp dX2_isWord_13 ?_
    replace h := ite_of h; rcases h with ⟨hc, h⟩ | ⟨hc, h⟩
    · refine g_ifneF dX2_isWord_14 rfl hc ?_
      refine g_ic 1 dX2_isWord_17 rfl ?_
      refine g_goto dX2_isWord_18 rfl ?_
      cases h
      exact g_zret rfl (by decide) dX2_isWord_22
    · refine g_ifneT dX2_isWord_14 rfl hc ?_
      refine g_ic 0 dX2_isWord_21 rfl ?_
      cases h
      exact g_zret rfl (by decide) dX2_isWord_22
  · refine g_icneT dX2_isWord_5 rfl hc ?_
    refine g_ic 0 dX2_isWord_21 rfl ?_
    cases h
    exact g_zret rfl (by decide) dX2_isWord_22
theorem ct_X2_isWord {Γ : GG} (hΓ : GF Γ) {m mF : MM} {x : Nat} {l1 : Int64} (hT : (m.K x).1 = 3) {r : Int32} (h : f_X2_isWord x l1 m = some (r, mF)) : Ct Γ kX2_isWord cX2_isWord [.ref x, .long l1] m (.inl (some (.int r))) mF := by
  unfold f_X2_isWord at h
  exact Ct.of (κ := kX2_isWord) (by decide) rfl (Nat.le_of_ble_eq_true rfl) rfl (w_X2_isWord_0 hΓ hT h)
set_option maxHeartbeats 4000000 in
theorem w_X2_isFull_0 {Γ : GG} (hΓ : GF Γ) {m0 mF m : MM} {x : Nat} (hT : (m.K x).1 = 3) {r : Int32} (h : b_X2_isFull_0 x m = some (r, mF)) : G Γ kX2_isFull cX2_isFull m0 mF (.inl (some (.int r))) m 0 [some (.ref x)] [] := by
  unfold b_X2_isFull_0 at h
  refine g_this dX2_isFull_0 rfl ?_
  refine g_ldc2 (v := 2003792484) q1492 dX2_isFull_1 ?_
  replace h := bd2_of h; obtain ⟨v1, m2, em2, h⟩ := h
  have C := ct_X2_isWord hΓ hT em2
  refine g_callVi hΓ.k vl_X2_251 hT C rfl rfl (Nat.le_of_ble_eq_true rfl) (Nat.le_of_ble_eq_true rfl) (Nat.le_of_ble_eq_true rfl) dX2_isFull_4 ?_
  replace hT := (C.1).kd hT
  replace h := ite_of h; rcases h with ⟨hc, h⟩ | ⟨hc, h⟩
  · refine g_ifeqT dX2_isFull_7 rfl hc ?_
    refine g_this dX2_isFull_30 rfl ?_
    refine g_ldc2 (v := 1885432178) q1493 dX2_isFull_31 ?_
    replace h := bd2_of h; obtain ⟨v3, m4, em4, h⟩ := h
    have C := ct_X2_isWord hΓ hT em4
    refine g_callVi hΓ.k vl_X2_251 hT C rfl rfl (Nat.le_of_ble_eq_true rfl) (Nat.le_of_ble_eq_true rfl) (Nat.le_of_ble_eq_true rfl) dX2_isFull_34 ?_
    replace hT := (C.1).kd hT
    replace h := ite_of h; rcases h with ⟨hc, h⟩ | ⟨hc, h⟩
    · refine g_ifeqT dX2_isFull_37 rfl hc ?_
      refine g_this dX2_isFull_60 rfl ?_
      refine g_ldc2 (v := 1920298085) q1494 dX2_isFull_61 ?_
      replace h := bd2_of h; obtain ⟨v5, m6, em6, h⟩ := h
      have C := ct_X2_isWord hΓ hT em6
      refine g_callVi hΓ.k vl_X2_251 hT C rfl rfl (Nat.le_of_ble_eq_true rfl) (Nat.le_of_ble_eq_true rfl) (Nat.le_of_ble_eq_true rfl) dX2_isFull_64 ?_
      replace hT := (C.1).kd hT
      replace h := ite_of h; rcases h with ⟨hc, h⟩ | ⟨hc, h⟩
      · refine g_ifeqT dX2_isFull_67 rfl hc ?_
        refine g_this dX2_isFull_90 rfl ?_
        refine g_ldc2 (v := 119182899770472) q1496 dX2_isFull_91 ?_
        replace h := bd2_of h; obtain ⟨v7, m8, em8, h⟩ := h
        have C := ct_X2_isWord hΓ hT em8
        refine g_callVi hΓ.k vl_X2_251 hT C rfl rfl (Nat.le_of_ble_eq_true rfl) (Nat.le_of_ble_eq_true rfl) (Nat.le_of_ble_eq_true rfl) dX2_isFull_94 ?_
        replace hT := (C.1).kd hT
        replace h := ite_of h; rcases h with ⟨hc, h⟩ | ⟨hc, h⟩
        · refine g_ifeqT dX2_isFull_97 rfl hc ?_
          refine g_this dX2_isFull_110 rfl ?_
          refine g_ldc2 (v := 500186639987) q1497 dX2_isFull_111 ?_
          replace h := bd2_of h; obtain ⟨v9, m10, em10, h⟩ := h
          have C := ct_X2_isWord hΓ hT em10
          refine g_callVi hΓ.k vl_X2_251 hT C rfl rfl (Nat.le_of_ble_eq_true rfl) (Nat.le_of_ble_eq_true rfl) (Nat.le_of_ble_eq_true rfl) dX2_isFull_114 ?_
          replace hT := (C.1).kd hT
          replace h := ite_of h; rcases h with ⟨hc, h⟩ | ⟨hc, h⟩
          · refine g_ifeqT dX2_isFull_117 rfl hc ?_
            refine g_ic 1 dX2_isFull_132 rfl ?_
            refine g_goto dX2_isFull_133 rfl ?_
            cases h
            exact g_zret rfl (by decide) dX2_isFull_137
          · refine g_ifeqF dX2_isFull_117 rfl hc ?_
            refine g_this dX2_isFull_120 rfl ?_
            refine g_getR hΓ.k fl_X2_36_X2 rfl hT dX2_isFull_121 ?_
            refine g_this dX2_isFull_124 rfl ?_
            refine g_getI hΓ.k fl_X2_227_X2 rfl hT dX2_isFull_125 ?_
            replace h := bd_of h; obtain ⟨v11, ev11, h⟩ := h
            refine g_iald ev11 dX2_isFull_128 ?_
            replace h := ite_of h; rcases h with ⟨hc, h⟩ | ⟨hc, h⟩
            · refine g_ifleT dX2_isFull_129 rfl hc ?_
              refine g_ic 0 dX2_isFull_136 rfl ?_
              cases h
              exact g_zret rfl (by decide) dX2_isFull_137
            · refine g_ifleF dX2_isFull_129 rfl hc ?_
              refine g_ic 1 dX2_isFull_132 rfl ?_
              refine g_goto dX2_isFull_133 rfl ?_
              cases h
              exact g_zret rfl (by decide) dX2_isFull_137
        · refine g_ifeqF dX2_isFull_97 rfl hc ?_
          refine g_this dX2_isFull_100 rfl ?_
          refine g_getR hΓ.k fl_X2_64_X2 rfl hT dX2_isFull_101 ?_
          refine g_this dX2_isFull_104 rfl ?_
          refine g_getI hΓ.k fl_X2_227_X2 rfl hT dX2_isFull_105 ?_
          replace h := bd_of h; obtain ⟨v12, ev12, h⟩ := h
          refine g_zald ev12 dX2_isFull_108 ?_
          replace h := ite_of h; rcases h with ⟨hc, h⟩ | ⟨hc, h⟩
          · cases h
            exact g_zret rfl hc dX2_isFull_109
          · cases h
      · refine g_ifeqF dX2_isFull_67 rfl hc ?_
        refine g_this dX2_isFull_70 rfl ?_
        refine g_getR hΓ.k fl_X2_27_X2 rfl hT dX2_isFull_71 ?_
        refine g_this dX2_isFull_74 rfl ?_
        refine g_getI hΓ.k fl_X2_227_X2 rfl hT dX2_isFull_75 ?_
        replace h := bd_of h; obtain ⟨v13, ev13, h⟩ := h
        refine g_iald ev13 dX2_isFull_78 ?_
        refine g_bi (8) dX2_isFull_79 rfl ?_
        replace h := ite_of h; rcases h with ⟨hc, h⟩ | ⟨hc, h⟩
        · refine g_icneF dX2_isFull_81 rfl hc ?_
          refine g_ic 1 dX2_isFull_84 rfl ?_
          refine g_goto dX2_isFull_85 rfl ?_
          cases h
          exact g_zret rfl (by decide) dX2_isFull_89
        · refine g_icneT dX2_isFull_81 rfl hc ?_
          refine g_ic 0 dX2_isFull_88 rfl ?_
          cases h
          exact g_zret rfl (by decide) dX2_isFull_89
    · refine g_ifeqF dX2_isFull_37 rfl hc ?_
      refine g_this dX2_isFull_40 rfl ?_
      refine g_getR hΓ.k fl_X2_24_X2 rfl hT dX2_isFull_41 ?_
      refine g_this dX2_isFull_44 rfl ?_
      refine g_getI hΓ.k fl_X2_227_X2 rfl hT dX2_isFull_45 ?_
      replace h := bd_of h; obtain ⟨v14, ev14, h⟩ := h
      refine g_iald ev14 dX2_isFull_48 ?_
      refine g_bi (12) dX2_isFull_49 rfl ?_
      replace h := ite_of h; rcases h with ⟨hc, h⟩ | ⟨hc, h⟩
      · refine g_icneF dX2_isFull_51 rfl hc ?_
        refine g_ic 1 dX2_isFull_54 rfl ?_
        refine g_goto dX2_isFull_55 rfl ?_
        cases h
        exact g_zret rfl (by decide) dX2_isFull_59
      · refine g_icneT dX2_isFull_51 rfl hc ?_
        refine g_ic 0 dX2_isFull_58 rfl ?_
        cases h
        exact g_zret rfl (by decide) dX2_isFull_59
  · refine g_ifeqF dX2_isFull_7 rfl hc ?_
    refine g_this dX2_isFull_10 rfl ?_
    refine g_getR hΓ.k fl_X2_20_X2 rfl hT dX2_isFull_11 ?_
    refine g_this dX2_isFull_14 rfl ?_
    refine g_getI hΓ.k fl_X2_227_X2 rfl hT dX2_isFull_15 ?_
    replace h := bd_of h; obtain ⟨v15, ev15, h⟩ := h
    refine g_iald ev15 dX2_isFull_18 ?_
    refine g_bi (8) dX2_isFull_19 rfl ?_
    replace h := ite_of h; rcases h with ⟨hc, h⟩ | ⟨hc, h⟩
    · refine g_icneF dX2_isFull_21 rfl hc ?_
      refine g_ic 1 dX2_isFull_24 rfl ?_
      refine g_goto dX2_isFull_25 rfl ?_
      cases h
      exact g_zret rfl (by decide) dX2_isFull_29
    · refine g_icneT dX2_isFull_21 rfl hc ?_
      refine g_ic 0 dX2_isFull_28 rfl ?_
      cases h
      exact g_zret rfl (by decide) dX2_isFull_29
theorem ct_X2_isFull {Γ : GG} (hΓ : GF Γ) {m mF : MM} {x : Nat} (hT : (m.K x).1 = 3) {r : Int32} (h : f_X2_isFull x m = some (r, mF)) : Ct Γ kX2_isFull cX2_isFull [.ref x] m (.inl (some (.int r))) mF := by
  unfold f_X2_isFull at h
  exact Ct.of (κ := kX2_isFull) (by decide) rfl (Nat.le_of_ble_eq_true rfl) rfl (w_X2_isFull_0 hΓ hT h)
set_option maxHeartbeats 4000000 in
theorem w_X2_isSignHere_0 {Γ : GG} (hΓ : GF Γ) {m0 mF m : MM} {x : Nat} {l1 : Int32} (hT : (m.K x).1 = 3) {r : Int32} (h : b_X2_isSignHere_0 x l1 m = some (r, mF)) : G Γ kX2_isSignHere cX2_isSignHere m0 mF (.inl (some (.int r))) m 0 [some (.ref x), some (.int l1)] [] := by
  unfold b_X2_isSignHere_0 at h
  refine g_this dX2_isSignHere_0 rfl ?_
  refine g_getI hΓ.k fl_X2_192_X2 rfl hT dX2_isSignHere_1 ?_
  refine g_ic 5 dX2_isSignHere_4 rfl ?_
  replace h := ite_of h; rcases h with ⟨hc, h⟩ | ⟨hc, h⟩
  · refine g_icneF dX2_isSignHere_5 rfl hc ?_
    refine g_this dX2_isSignHere_8 rfl ?_
    refine g_this dX2_isSignHere_9 rfl ?_
    refine g_getI hΓ.k fl_X2_185_X2 rfl hT dX2_isSignHere_10 ?_
    replace h := bd2_of h; obtain ⟨v1, m2, em2, h⟩ := h
    have C := ct_X2_sign hΓ hT em2
    refine g_callVi hΓ.k vl_X2_188 hT C rfl rfl (Nat.le_of_ble_eq_true rfl) (Nat.le_of_ble_eq_true rfl) (Nat.le_of_ble_eq_true rfl) dX2_isSignHere_13 ?_
    replace hT := (C.1).kd hT
    refine g_iload_n 1 dX2_isSignHere_16 rfl rfl ?_
    replace h := ite_of h; rcases h with ⟨hc, h⟩ | ⟨hc, h⟩
    · refine g_icneF dX2_isSignHere_17 rfl hc ?_
      refine g_ic 1 dX2_isSignHere_20 rfl ?_
      refine g_goto dX2_isSignHere_21 rfl ?_
      cases h
      exact g_zret rfl (by decide) dX2_isSignHere_25
    · refine g_icneT dX2_isSignHere_17 rfl hc ?_
      refine g_ic 0 dX2_isSignHere_24 rfl ?_
      cases h
      exact g_zret rfl (by decide) dX2_isSignHere_25
  · refine g_icneT dX2_isSignHere_5 rfl hc ?_
    refine g_ic 0 dX2_isSignHere_24 rfl ?_
    cases h
    exact g_zret rfl (by decide) dX2_isSignHere_25
theorem ct_X2_isSignHere {Γ : GG} (hΓ : GF Γ) {m mF : MM} {x : Nat} {l1 : Int32} (hT : (m.K x).1 = 3) {r : Int32} (h : f_X2_isSignHere x l1 m = some (r, mF)) : Ct Γ kX2_isSignHere cX2_isSignHere [.ref x, .int l1] m (.inl (some (.int r))) mF := by
  unfold f_X2_isSignHere at h
  exact Ct.of (κ := kX2_isSignHere) (by decide) rfl (Nat.le_of_ble_eq_true rfl) rfl (w_X2_isSignHere_0 hΓ hT h)
set_option maxHeartbeats 4000000 in
theorem w_X2_fails_0 {Γ : GG} (hΓ : GF Γ) {m0 mF m : MM} {x : Nat} {l1 : Int32} {l2 : Int32} (hT : (m.K x).1 = 3) {r : Unit} (h : b_X2_fails_0 x l1 l2 m = some (r, mF)) : G Γ kX2_fails cX2_fails m0 mF (.inl none) m 0 [some (.ref x), some (.int l1), some (.int l2)] [] := by
  unfold b_X2_fails_0 at h
  refine g_this dX2_fails_0 rfl ?_
  refine g_getI hΓ.k fl_X2_167_X2 rfl hT dX2_fails_1 ?_
  replace h := ite_of h; rcases h with ⟨hc, h⟩ | ⟨hc, h⟩
  · refine g_ifleT dX2_fails_4 rfl hc ?_
    refine g_this dX2_fails_8 rfl ?_
    refine g_iload_n 1 dX2_fails_9 rfl rfl ?_
    replace h := bd_of h; obtain ⟨m1, em1, h⟩ := h
    refine g_pI hΓ.k fl_X2_167_X2 (fun h9 => by cases h9) rfl (Or.inl ⟨rfl, rfl⟩) em1 dX2_fails_10 ?_
    replace hT := (pI_ext em1).kd hT
    refine g_this dX2_fails_13 rfl ?_
    refine g_iload_n 2 dX2_fails_14 rfl rfl ?_
    replace h := bd_of h; obtain ⟨m2, em2, h⟩ := h
    refine g_pI hΓ.k fl_X2_16_X2 (fun h9 => by cases h9) rfl (Or.inl ⟨rfl, rfl⟩) em2 dX2_fails_15 ?_
    replace hT := (pI_ext em2).kd hT
    cases h
    exact g_vret rfl dX2_fails_18
  · refine g_ifleF dX2_fails_4 rfl hc ?_
    cases h
    exact g_vret rfl dX2_fails_7
theorem ct_X2_fails {Γ : GG} (hΓ : GF Γ) {m mF : MM} {x : Nat} {l1 : Int32} {l2 : Int32} (hT : (m.K x).1 = 3) {r : Unit} (h : f_X2_fails x l1 l2 m = some (r, mF)) : Ct Γ kX2_fails cX2_fails [.ref x, .int l1, .int l2] m (.inl none) mF := by
  unfold f_X2_fails at h
  exact Ct.of (κ := kX2_fails) (by decide) rfl (Nat.le_of_ble_eq_true rfl) rfl (w_X2_fails_0 hΓ hT h)
set_option maxHeartbeats 4000000 in
theorem w_X2_misplaced_14 {Γ : GG} (hΓ : GF Γ) {m0 mF m : MM} {x : Nat} {s0 : Option Nat} {s1 : Int32} (hT : (m.K x).1 = 3) {r : Unit} (h : b_X2_misplaced_14 x s0 s1 m = some (r, mF)) : G Γ kX2_misplaced cX2_misplaced m0 mF (.inl none) m 14 [some (.ref x)] [.int s1, va_rf s0] := by
  unfold b_X2_misplaced_14 at h
  refine g_this dX2_misplaced_14 rfl ?_
  refine g_getI hΓ.k fl_X2_185_X2 rfl hT dX2_misplaced_15 ?_
  replace h := bd_of h; obtain ⟨a1, ea1, h⟩ := h
  obtain ⟨ea1, ka1⟩ := isK_of ea1
  cases ea1
  replace h := bd2_of h; obtain ⟨_, m2, em2, h⟩ := h
  have C := ct_X2_fails hΓ ka1 em2
  refine g_callVv hΓ.k vl_X2_213 ka1 C rfl rfl (Nat.le_of_ble_eq_true rfl) (Nat.le_of_ble_eq_true rfl) (Nat.le_of_ble_eq_true rfl) dX2_misplaced_18 ?_
  replace hT := (C.1).kd hT
  cases h
  exact g_vret rfl dX2_misplaced_21
set_option maxHeartbeats 4000000 in
theorem w_X2_misplaced_0 {Γ : GG} (hΓ : GF Γ) {m0 mF m : MM} {x : Nat} (hT : (m.K x).1 = 3) {r : Unit} (h : b_X2_misplaced_0 x m = some (r, mF)) : G Γ kX2_misplaced cX2_misplaced m0 mF (.inl none) m 0 [some (.ref x)] [] := by
  unfold b_X2_misplaced_0 at h
  refine g_this dX2_misplaced_0 rfl ?_
  refine g_this dX2_misplaced_1 rfl ?_
  refine g_getI hΓ.k fl_X2_192_X2 rfl hT dX2_misplaced_2 ?_
  refine g_ic 1 dX2_misplaced_5 rfl ?_
  replace h := ite_of h; rcases h with ⟨hc, h⟩ | ⟨hc, h⟩
  · refine g_icneF dX2_misplaced_6 rfl hc ?_
    refine g_ic 1 dX2_misplaced_9 rfl ?_
    refine g_goto dX2_misplaced_10 rfl ?_
    refine G.weak [true] rfl ?_
    exact w_X2_misplaced_14 hΓ hT h
  · refine g_icneT dX2_misplaced_6 rfl hc ?_
    refine g_ic 2 dX2_misplaced_13 rfl ?_
    refine G.weak [true] rfl ?_
    exact w_X2_misplaced_14 hΓ hT h
theorem ct_X2_misplaced {Γ : GG} (hΓ : GF Γ) {m mF : MM} {x : Nat} (hT : (m.K x).1 = 3) {r : Unit} (h : f_X2_misplaced x m = some (r, mF)) : Ct Γ kX2_misplaced cX2_misplaced [.ref x] m (.inl none) mF := by
  unfold f_X2_misplaced at h
  exact Ct.of (κ := kX2_misplaced) (by decide) rfl (Nat.le_of_ble_eq_true rfl) rfl (w_X2_misplaced_0 hΓ hT h)
set_option maxHeartbeats 4000000 in
theorem w_X2_must_0 {Γ : GG} (hΓ : GF Γ) {m0 mF m : MM} {x : Nat} {l1 : Int32} (hT : (m.K x).1 = 3) {r : Unit} (h : b_X2_must_0 x l1 m = some (r, mF)) : G Γ kX2_must cX2_must m0 mF (.inl none) m 0 [some (.ref x), some (.int l1)] [] := by
  unfold b_X2_must_0 at h
  refine g_this dX2_must_0 rfl ?_
  replace h := bd2_of h; obtain ⟨v1, m2, em2, h⟩ := h
  have C := ct_X2_isGood hΓ hT em2
  refine g_callVi hΓ.k vl_X2_217 hT C rfl rfl (Nat.le_of_ble_eq_true rfl) (Nat.le_of_ble_eq_true rfl) (Nat.le_of_ble_eq_true rfl) dX2_must_1 ?_
  replace hT := (C.1).kd hT
  replace h := ite_of h; rcases h with ⟨hc, h⟩ | ⟨hc, h⟩
  · refine g_ifneF dX2_must_4 rfl hc ?_
    cases h
    exact g_vret rfl dX2_must_7
  · refine g_ifneT dX2_must_4 rfl hc ?_
    refine g_iload_n 1 dX2_must_8 rfl rfl ?_
    replace h := ite_of h; rcases h with ⟨hc, h⟩ | ⟨hc, h⟩
    · refine g_ifeqT dX2_must_9 rfl hc ?_
      refine g_this dX2_must_19 rfl ?_
      replace h := bd2_of h; obtain ⟨_, m3, em3, h⟩ := h
      have C := ct_X2_misplaced hΓ hT em3
      refine g_callVv hΓ.k vl_X2_224 hT C rfl rfl (Nat.le_of_ble_eq_true rfl) (Nat.le_of_ble_eq_true rfl) (Nat.le_of_ble_eq_true rfl) dX2_must_20 ?_
      replace hT := (C.1).kd hT
      cases h
      exact g_vret rfl dX2_must_23
    · refine g_ifeqF dX2_must_9 rfl hc ?_
      refine g_this dX2_must_12 rfl ?_
      replace h := bd2_of h; obtain ⟨_, m4, em4, h⟩ := h
      have C := ct_X2_goOn hΓ hT em4
      refine g_callVv hΓ.k vl_X2_221 hT C rfl rfl (Nat.le_of_ble_eq_true rfl) (Nat.le_of_ble_eq_true rfl) (Nat.le_of_ble_eq_true rfl) dX2_must_13 ?_
      replace hT := (C.1).kd hT
      refine g_goto dX2_must_16 rfl ?_
      cases h
      exact g_vret rfl dX2_must_23
theorem ct_X2_must {Γ : GG} (hΓ : GF Γ) {m mF : MM} {x : Nat} {l1 : Int32} (hT : (m.K x).1 = 3) {r : Unit} (h : f_X2_must x l1 m = some (r, mF)) : Ct Γ kX2_must cX2_must [.ref x, .int l1] m (.inl none) mF := by
  unfold f_X2_must at h
  exact Ct.of (κ := kX2_must) (by decide) rfl (Nat.le_of_ble_eq_true rfl) rfl (w_X2_must_0 hΓ hT h)
set_option maxHeartbeats 4000000 in
theorem w_X2_numeral_69 {Γ : GG} (hΓ : GF Γ) {m0 mF m : MM} {x : Nat} {l1 : Int32} {l2 : Int32} {l3 : Int32} (hT : (m.K x).1 = 3) {r : Int32} (h : b_X2_numeral_69 x l1 l2 l3 m = some (r, mF)) : G Γ kX2_numeral cX2_numeral m0 mF (.inl (some (.int r))) m 69 [some (.ref x), some (.int l1), some (.int l2), some (.int l3)] [] := by
  unfold b_X2_numeral_69 at h
  refine g_this dX2_numeral_69 rfl ?_
  replace h := bd2_of h; obtain ⟨v1, m2, em2, h⟩ := h
  have C := ct_X2_isGood hΓ hT em2
  refine g_callVi hΓ.k vl_X2_217 hT C rfl rfl (Nat.le_of_ble_eq_true rfl) (Nat.le_of_ble_eq_true rfl) (Nat.le_of_ble_eq_true rfl) dX2_numeral_70 ?_
  replace hT := (C.1).kd hT
  replace h := ite_of h; rcases h with ⟨hc, h⟩ | ⟨hc, h⟩
  · refine g_ifeqT dX2_numeral_73 rfl hc ?_
    refine g_iload_n 1 dX2_numeral_80 rfl rfl ?_
    cases h
    exact g_iret rfl dX2_numeral_81
  · refine g_ifeqF dX2_numeral_73 rfl hc ?_
    refine g_iload_n 3 dX2_numeral_76 rfl rfl ?_
    refine g_goto dX2_numeral_77 rfl ?_
    cases h
    exact g_iret rfl dX2_numeral_81
set_option maxHeartbeats 4000000 in
theorem w_X2_numeral_53 {Γ : GG} (hΓ : GF Γ) {m0 mF m : MM} {x : Nat} {l1 : Int32} {l2 : Int32} (hT : (m.K x).1 = 3) {r : Int32} (h : b_X2_numeral_53 x l1 l2 m = some (r, mF)) : G Γ kX2_numeral cX2_numeral m0 mF (.inl (some (.int r))) m 53 [some (.ref x), some (.int l1), some (.int l2), none] [] := by
  unfold b_X2_numeral_53 at h
  refine g_this dX2_numeral_53 rfl ?_
  refine g_getI hΓ.k fl_X2_210_X2 rfl hT dX2_numeral_54 ?_
  refine g_istore_n 3 dX2_numeral_57 rfl (Nat.le_of_ble_eq_true rfl) rfl ?_
  dsimp only [List.set]
  refine g_this dX2_numeral_58 rfl ?_
  replace h := bd2_of h; obtain ⟨v1, m2, em2, h⟩ := h
  have C := ct_X2_isGood hΓ hT em2
  refine g_callVi hΓ.k vl_X2_217 hT C rfl rfl (Nat.le_of_ble_eq_true rfl) (Nat.le_of_ble_eq_true rfl) (Nat.le_of_ble_eq_true rfl) dX2_numeral_59 ?_
  replace hT := (C.1).kd hT
  replace h := ite_of h; rcases h with ⟨hc, h⟩ | ⟨hc, h⟩
  · refine g_ifeqT dX2_numeral_62 rfl hc ?_
    refine G.weak [true, true, true, true] rfl ?_
    exact w_X2_numeral_69 hΓ hT h
  · refine g_ifeqF dX2_numeral_62 rfl hc ?_
    refine g_this dX2_numeral_65 rfl ?_
    replace h := bd2_of h; obtain ⟨_, m3, em3, h⟩ := h
    have C := ct_X2_goOn hΓ hT em3
    refine g_callVv hΓ.k vl_X2_221 hT C rfl rfl (Nat.le_of_ble_eq_true rfl) (Nat.le_of_ble_eq_true rfl) (Nat.le_of_ble_eq_true rfl) dX2_numeral_66 ?_
    replace hT := (C.1).kd hT
    refine G.weak [true, true, true, true] rfl ?_
    exact w_X2_numeral_69 hΓ hT h
set_option maxHeartbeats 4000000 in
theorem w_X2_numeral_44 {Γ : GG} (hΓ : GF Γ) {m0 mF m : MM} {x : Nat} {l1 : Int32} {l2 : Int32} (hT : (m.K x).1 = 3) {r : Int32} (h : b_X2_numeral_44 x l1 l2 m = some (r, mF)) : G Γ kX2_numeral cX2_numeral m0 mF (.inl (some (.int r))) m 44 [some (.ref x), some (.int l1), some (.int l2), none] [] := by
  unfold b_X2_numeral_44 at h
  refine g_this dX2_numeral_44 rfl ?_
  refine g_ic 4 dX2_numeral_45 rfl ?_
  refine g_this dX2_numeral_46 rfl ?_
  refine g_getI hΓ.k fl_X2_185_X2 rfl hT dX2_numeral_47 ?_
  replace h := bd2_of h; obtain ⟨_, m1, em1, h⟩ := h
  have C := ct_X2_fails hΓ hT em1
  refine g_callVv hΓ.k vl_X2_213 hT C rfl rfl (Nat.le_of_ble_eq_true rfl) (Nat.le_of_ble_eq_true rfl) (Nat.le_of_ble_eq_true rfl) dX2_numeral_50 ?_
  replace hT := (C.1).kd hT
  refine G.weak [true, true, true, false] rfl ?_
  exact w_X2_numeral_53 hΓ hT h
set_option maxHeartbeats 4000000 in
theorem w_X2_numeral_21 {Γ : GG} (hΓ : GF Γ) {m0 mF m : MM} {x : Nat} {l1 : Int32} {l2 : Int32} (hT : (m.K x).1 = 3) {r : Int32} (h : b_X2_numeral_21 x l1 l2 m = some (r, mF)) : G Γ kX2_numeral cX2_numeral m0 mF (.inl (some (.int r))) m 21 [some (.ref x), some (.int l1), some (.int l2), none] [] := by
  unfold b_X2_numeral_21 at h
  refine g_this dX2_numeral_21 rfl ?_
  replace h := bd2_of h; obtain ⟨v1, m2, em2, h⟩ := h
  have C := ct_X2_isGood hΓ hT em2
  refine g_callVi hΓ.k vl_X2_217 hT C rfl rfl (Nat.le_of_ble_eq_true rfl) (Nat.le_of_ble_eq_true rfl) (Nat.le_of_ble_eq_true rfl) dX2_numeral_22 ?_
  replace hT := (C.1).kd hT
  replace h := ite_of h; rcases h with ⟨hc, h⟩ | ⟨hc, h⟩
  · refine g_ifeqT dX2_numeral_25 rfl hc ?_
    refine G.weak [true, true, true, false] rfl ?_
    exact w_X2_numeral_53 hΓ hT h
  · refine g_ifeqF dX2_numeral_25 rfl hc ?_
    refine g_this dX2_numeral_28 rfl ?_
    refine g_getI hΓ.k fl_X2_210_X2 rfl hT dX2_numeral_29 ?_
    refine g_iload_n 1 dX2_numeral_32 rfl rfl ?_
    replace h := ite_of h; rcases h with ⟨hc, h⟩ | ⟨hc, h⟩
    · refine g_icltT dX2_numeral_33 rfl hc ?_
      refine G.weak [true, true, true, false] rfl ?_
      exact w_X2_numeral_44 hΓ hT h
    · refine g_icltF dX2_numeral_33 rfl hc ?_
      refine g_this dX2_numeral_36 rfl ?_
      refine g_getI hΓ.k fl_X2_210_X2 rfl hT dX2_numeral_37 ?_
      refine g_iload_n 2 dX2_numeral_40 rfl rfl ?_
      replace h := ite_of h; rcases h with ⟨hc, h⟩ | ⟨hc, h⟩
      · refine g_icleT dX2_numeral_41 rfl hc ?_
        refine G.weak [true, true, true, false] rfl ?_
        exact w_X2_numeral_53 hΓ hT h
      · refine g_icleF dX2_numeral_41 rfl hc ?_
        refine G.weak [true, true, true, false] rfl ?_
        exact w_X2_numeral_44 hΓ hT h
set_option maxHeartbeats 4000000 in
theorem w_X2_numeral_0 {Γ : GG} (hΓ : GF Γ) {m0 mF m : MM} {x : Nat} {l1 : Int32} {l2 : Int32} (hT : (m.K x).1 = 3) {r : Int32} (h : b_X2_numeral_0 x l1 l2 m = some (r, mF)) : G Γ kX2_numeral cX2_numeral m0 mF (.inl (some (.int r))) m 0 [some (.ref x), some (.int l1), some (.int l2), none] [] := by
  unfold b_X2_numeral_0 at h
  refine g_this dX2_numeral_0 rfl ?_
  replace h := bd2_of h; obtain ⟨v1, m2, em2, h⟩ := h
  have C := ct_X2_isGood hΓ hT em2
  refine g_callVi hΓ.k vl_X2_217 hT C rfl rfl (Nat.le_of_ble_eq_true rfl) (Nat.le_of_ble_eq_true rfl) (Nat.le_of_ble_eq_true rfl) dX2_numeral_1 ?_
  replace hT := (C.1).kd hT
  replace h := ite_of h; rcases h with ⟨hc, h⟩ | ⟨hc, h⟩
  · refine g_ifneF dX2_numeral_4 rfl hc ?_
    refine g_iload_n 1 dX2_numeral_7 rfl rfl ?_
    cases h
    exact g_iret rfl dX2_numeral_8
  · refine g_ifneT dX2_numeral_4 rfl hc ?_
    refine g_this dX2_numeral_9 rfl ?_
    refine g_getI hΓ.k fl_X2_192_X2 rfl hT dX2_numeral_10 ?_
    refine g_ic 4 dX2_numeral_13 rfl ?_
    replace h := ite_of h; rcases h with ⟨hc, h⟩ | ⟨hc, h⟩
    · refine g_iceqT dX2_numeral_14 rfl hc ?_
      refine G.weak [true, true, true, false] rfl ?_
      exact w_X2_numeral_21 hΓ hT h
    · refine g_iceqF dX2_numeral_14 rfl hc ?_
      refine g_this dX2_numeral_17 rfl ?_
      replace h := bd2_of h; obtain ⟨_, m3, em3, h⟩ := h
      have C := ct_X2_misplaced hΓ hT em3
      refine g_callVv hΓ.k vl_X2_224 hT C rfl rfl (Nat.le_of_ble_eq_true rfl) (Nat.le_of_ble_eq_true rfl) (Nat.le_of_ble_eq_true rfl) dX2_numeral_18 ?_
      replace hT := (C.1).kd hT
      refine G.weak [true, true, true, false] rfl ?_
      exact w_X2_numeral_21 hΓ hT h
theorem ct_X2_numeral {Γ : GG} (hΓ : GF Γ) {m mF : MM} {x : Nat} {l1 : Int32} {l2 : Int32} (hT : (m.K x).1 = 3) {r : Int32} (h : f_X2_numeral x l1 l2 m = some (r, mF)) : Ct Γ kX2_numeral cX2_numeral [.ref x, .int l1, .int l2] m (.inl (some (.int r))) mF := by
  unfold f_X2_numeral at h
  exact Ct.of (κ := kX2_numeral) (by decide) rfl (Nat.le_of_ble_eq_true rfl) rfl (w_X2_numeral_0 hΓ hT h)
def p_X2_wordOf (Γ : GG) (m0 mF : MM) (x : Nat) (l1 : Int64) (r : Int32) : ((Int32 × MM)) → Prop := fun z => match z with
  | (l3, m) => (m.K x).1 = 3 → G Γ kX2_wordOf cX2_wordOf m0 mF (.inl (some (.int r))) m 2 [some (.ref x), some (.long l1), none, some (.int l3)] []
set_option maxHeartbeats 4000000 in
theorem w_X2_wordOf_2 {Γ : GG} (hΓ : GF Γ) {m0 mF m : MM} {x : Nat} {l1 : Int64} {l3 : Int32} (hT : (m.K x).1 = 3) {r : Int32} {q : ((Int32 × MM)) ⊕ (Int32 × MM)} (h : b_X2_wordOf_2 x l1 l3 m = some q) (Hl : ∀ z, q = .inl z → p_X2_wordOf Γ m0 mF x l1 r z) (Hr : ∀ z, q = .inr z → z = (r, mF)) : G Γ kX2_wordOf cX2_wordOf m0 mF (.inl (some (.int r))) m 2 [some (.ref x), some (.long l1), none, some (.int l3)] [] := by
  unfold b_X2_wordOf_2 at h
  refine g_iload_n 3 dX2_wordOf_2 rfl rfl ?_
  refine g_this dX2_wordOf_3 rfl ?_
  refine g_getR hΓ.k fl_X2_20_X2 rfl hT dX2_wordOf_4 ?_
  refine g_this dX2_wordOf_7 rfl ?_
  refine g_getI hΓ.k fl_X2_227_X2 rfl hT dX2_wordOf_8 ?_
  replace h := bd_of h; obtain ⟨v1, ev1, h⟩ := h
  refine g_iald ev1 dX2_wordOf_11 ?_
  replace h := ite_of h; rcases h with ⟨hc, h⟩ | ⟨hc, h⟩
  · refine g_icgeT dX2_wordOf_12 rfl hc ?_
    refine g_ic (-1) dX2_wordOf_42 rfl ?_
    cases h
    cases Hr _ rfl
    exact g_iret rfl dX2_wordOf_43
  · refine g_icgeF dX2_wordOf_12 rfl hc ?_
    refine g_this dX2_wordOf_15 rfl ?_
    refine g_getR hΓ.k fl_X2_67_X2 rfl hT dX2_wordOf_16 ?_
    refine g_bi (8) dX2_wordOf_19 rfl ?_
    refine g_this dX2_wordOf_21 rfl ?_
    refine g_getI hΓ.k fl_X2_227_X2 rfl hT dX2_wordOf_22 ?_
    refine g_imul dX2_wordOf_25 ?_
    refine g_iload_n 3 dX2_wordOf_26 rfl rfl ?_
    refine g_iadd dX2_wordOf_27 ?_
    replace h := bd_of h; obtain ⟨v2, ev2, h⟩ := h
    refine g_lald ev2 dX2_wordOf_28 ?_
    refine g_lload_n 1 dX2_wordOf_29 rfl rfl ?_
    refine g_lcmp dX2_wordOf_30 ?_
    replace h := ite_of h; rcases h with ⟨hc, h⟩ | ⟨hc, h⟩
    · refine g_ifneF dX2_wordOf_31 rfl hc ?_
      refine g_iload_n 3 dX2_wordOf_34 rfl rfl ?_
      cases h
      cases Hr _ rfl
      exact g_iret rfl dX2_wordOf_35
    · refine g_ifneT dX2_wordOf_31 rfl hc ?_
      refine g_iinc (l3 + (1 : Int32)) dX2_wordOf_36 rfl rfl (Nat.le_of_ble_eq_true rfl) rfl ?_
      dsimp only [List.set]
      refine g_goto dX2_wordOf_39 rfl ?_
      cases h
      refine G.weak [true, true, false, true] rfl ?_
      exact Hl _ rfl hT
set_option maxHeartbeats 4000000 in
theorem w_X2_wordOf_0 {Γ : GG} (hΓ : GF Γ) {m0 mF m : MM} {x : Nat} {l1 : Int64} (hT : (m.K x).1 = 3) {r : Int32} {q : ((Int32 × MM)) ⊕ (Int32 × MM)} (h : b_X2_wordOf_0 x l1 m = some q) (Hl : ∀ z, q = .inl z → p_X2_wordOf Γ m0 mF x l1 r z) (Hr : ∀ z, q = .inr z → z = (r, mF)) : G Γ kX2_wordOf cX2_wordOf m0 mF (.inl (some (.int r))) m 0 [some (.ref x), some (.long l1), none, none] [] := by
  unfold b_X2_wordOf_0 at h
  refine g_ic 0 dX2_wordOf_0 rfl ?_
  refine g_istore_n 3 dX2_wordOf_1 rfl (Nat.le_of_ble_eq_true rfl) rfl ?_
  dsimp only [List.set]
  cases h
  refine G.weak [true, true, false, true] rfl ?_
  exact Hl _ rfl hT
theorem ct_X2_wordOf {Γ : GG} (hΓ : GF Γ) {m mF : MM} {x : Nat} {l1 : Int64} (hT : (m.K x).1 = 3) {r : Int32} (h : f_X2_wordOf x l1 m = some (r, mF)) : Ct Γ kX2_wordOf cX2_wordOf [.ref x, .long l1] m (.inl (some (.int r))) mF := by
  unfold f_X2_wordOf at h
  replace h := bd_of h; obtain ⟨q, e, h⟩ := h
  have H := rx_go_ind (P := p_X2_wordOf Γ m mF x l1 r) (fun z o hs Hl Hr => by
    match z with
    | (l3, m) => exact fun hT => w_X2_wordOf_2 hΓ hT hs Hl Hr) h
  exact Ct.of (κ := kX2_wordOf) (by decide) rfl (Nat.le_of_ble_eq_true rfl) rfl (w_X2_wordOf_0 hΓ hT e H.1 H.2)
set_option maxHeartbeats 4000000 in
theorem w_X2_known_57 {Γ : GG} (hΓ : GF Γ) {m0 mF m : MM} {x : Nat} {l1 : Int32} (hT : (m.K x).1 = 3) {r : Int32} (h : b_X2_known_57 x l1 m = some (r, mF)) : G Γ kX2_known cX2_known m0 mF (.inl (some (.int r))) m 57 [some (.ref x), some (.int l1)] [] := by
  unfold b_X2_known_57 at h
  refine g_iload_n 1 dX2_known_57 rfl rfl ?_
  replace h := ite_of h; rcases h with ⟨hc, h⟩ | ⟨hc, h⟩
  · refine g_ifgeT dX2_known_58 rfl hc ?_
    refine g_iload_n 1 dX2_known_65 rfl rfl ?_
    cases h
    exact g_iret rfl dX2_known_66
  · refine g_ifgeF dX2_known_58 rfl hc ?_
    refine g_ic 0 dX2_known_61 rfl ?_
    refine g_goto dX2_known_62 rfl ?_
    cases h
    exact g_iret rfl dX2_known_66
set_option maxHeartbeats 4000000 in
theorem w_X2_known_46 {Γ : GG} (hΓ : GF Γ) {m0 mF m : MM} {x : Nat} {l1 : Int32} (hT : (m.K x).1 = 3) {r : Int32} (h : b_X2_known_46 x l1 m = some (r, mF)) : G Γ kX2_known cX2_known m0 mF (.inl (some (.int r))) m 46 [some (.ref x), some (.int l1)] [] := by
  unfold b_X2_known_46 at h
  refine g_this dX2_known_46 rfl ?_
  replace h := bd2_of h; obtain ⟨v1, m2, em2, h⟩ := h
  have C := ct_X2_isGood hΓ hT em2
  refine g_callVi hΓ.k vl_X2_217 hT C rfl rfl (Nat.le_of_ble_eq_true rfl) (Nat.le_of_ble_eq_true rfl) (Nat.le_of_ble_eq_true rfl) dX2_known_47 ?_
  replace hT := (C.1).kd hT
  replace h := ite_of h; rcases h with ⟨hc, h⟩ | ⟨hc, h⟩
  · refine g_ifeqT dX2_known_50 rfl hc ?_
    refine G.weak [true, true] rfl ?_
    exact w_X2_known_57 hΓ hT h
  · refine g_ifeqF dX2_known_50 rfl hc ?_
    refine g_this dX2_known_53 rfl ?_
    replace h := bd2_of h; obtain ⟨_, m3, em3, h⟩ := h
    have C := ct_X2_goOn hΓ hT em3
    refine g_callVv hΓ.k vl_X2_221 hT C rfl rfl (Nat.le_of_ble_eq_true rfl) (Nat.le_of_ble_eq_true rfl) (Nat.le_of_ble_eq_true rfl) dX2_known_54 ?_
    replace hT := (C.1).kd hT
    refine G.weak [true, true] rfl ?_
    exact w_X2_known_57 hΓ hT h
set_option maxHeartbeats 4000000 in
theorem w_X2_known_0 {Γ : GG} (hΓ : GF Γ) {m0 mF m : MM} {x : Nat} (hT : (m.K x).1 = 3) {r : Int32} (h : b_X2_known_0 x m = some (r, mF)) : G Γ kX2_known cX2_known m0 mF (.inl (some (.int r))) m 0 [some (.ref x), none] [] := by
  unfold b_X2_known_0 at h
  refine g_this dX2_known_0 rfl ?_
  replace h := bd2_of h; obtain ⟨v1, m2, em2, h⟩ := h
  have C := ct_X2_isGood hΓ hT em2
  refine g_callVi hΓ.k vl_X2_217 hT C rfl rfl (Nat.le_of_ble_eq_true rfl) (Nat.le_of_ble_eq_true rfl) (Nat.le_of_ble_eq_true rfl) dX2_known_1 ?_
  replace hT := (C.1).kd hT
  replace h := ite_of h; rcases h with ⟨hc, h⟩ | ⟨hc, h⟩
  · refine g_ifneF dX2_known_4 rfl hc ?_
    refine g_ic 0 dX2_known_7 rfl ?_
    cases h
    exact g_iret rfl dX2_known_8
  · refine g_ifneT dX2_known_4 rfl hc ?_
    refine g_this dX2_known_9 rfl ?_
    refine g_this dX2_known_10 rfl ?_
    refine g_getL hΓ.k fl_X2_199_X2 rfl hT dX2_known_11 ?_
    replace h := bd2_of h; obtain ⟨v3, m4, em4, h⟩ := h
    have C := ct_X2_wordOf hΓ hT em4
    refine g_callVi hΓ.k vl_X2_280 hT C rfl rfl (Nat.le_of_ble_eq_true rfl) (Nat.le_of_ble_eq_true rfl) (Nat.le_of_ble_eq_true rfl) dX2_known_14 ?_
    replace hT := (C.1).kd hT
    refine g_istore_n 1 dX2_known_17 rfl (Nat.le_of_ble_eq_true rfl) rfl ?_
    dsimp only [List.set]
    refine g_this dX2_known_18 rfl ?_
    refine g_getI hΓ.k fl_X2_192_X2 rfl hT dX2_known_19 ?_
    refine g_ic 2 dX2_known_22 rfl ?_
    replace h := ite_of h; rcases h with ⟨hc, h⟩ | ⟨hc, h⟩
    · refine g_iceqT dX2_known_23 rfl hc ?_
      refine g_iload_n 1 dX2_known_33 rfl rfl ?_
      replace h := ite_of h; rcases h with ⟨hc, h⟩ | ⟨hc, h⟩
      · refine g_ifgeT dX2_known_34 rfl hc ?_
        refine G.weak [true, true] rfl ?_
        exact w_X2_known_46 hΓ hT h
      · refine g_ifgeF dX2_known_34 rfl hc ?_
        refine g_this dX2_known_37 rfl ?_
        refine g_ic 5 dX2_known_38 rfl ?_
        refine g_this dX2_known_39 rfl ?_
        refine g_getI hΓ.k fl_X2_185_X2 rfl hT dX2_known_40 ?_
        replace h := bd2_of h; obtain ⟨_, m5, em5, h⟩ := h
        have C := ct_X2_fails hΓ hT em5
        refine g_callVv hΓ.k vl_X2_213 hT C rfl rfl (Nat.le_of_ble_eq_true rfl) (Nat.le_of_ble_eq_true rfl) (Nat.le_of_ble_eq_true rfl) dX2_known_43 ?_
        replace hT := (C.1).kd hT
        refine G.weak [true, true] rfl ?_
        exact w_X2_known_46 hΓ hT h
    · refine g_iceqF dX2_known_23 rfl hc ?_
      refine g_this dX2_known_26 rfl ?_
      replace h := bd2_of h; obtain ⟨_, m6, em6, h⟩ := h
      have C := ct_X2_misplaced hΓ hT em6
      refine g_callVv hΓ.k vl_X2_224 hT C rfl rfl (Nat.le_of_ble_eq_true rfl) (Nat.le_of_ble_eq_true rfl) (Nat.le_of_ble_eq_true rfl) dX2_known_27 ?_
      replace hT := (C.1).kd hT
      refine g_goto dX2_known_30 rfl ?_
      refine G.weak [true, true] rfl ?_
      exact w_X2_known_46 hΓ hT h
theorem ct_X2_known {Γ : GG} (hΓ : GF Γ) {m mF : MM} {x : Nat} (hT : (m.K x).1 = 3) {r : Int32} (h : f_X2_known x m = some (r, mF)) : Ct Γ kX2_known cX2_known [.ref x] m (.inl (some (.int r))) mF := by
  unfold f_X2_known at h
  exact Ct.of (κ := kX2_known) (by decide) rfl (Nat.le_of_ble_eq_true rfl) rfl (w_X2_known_0 hΓ hT h)
def p_X2_readPair (Γ : GG) (m0 mF : MM) (x : Nat) (r : Unit) : ((Int32 × Int32 × MM)) → Prop := fun z => match z with
  | (l4, l5, m) => (m.K x).1 = 3 → G Γ kX2_readPair cX2_readPair m0 mF (.inl none) m 57 [some (.ref x), none, none, none, some (.int l4), some (.int l5)] []
set_option maxHeartbeats 4000000 in
theorem w_X2_readPair_57 {Γ : GG} (hΓ : GF Γ) {m0 mF m : MM} {x : Nat} {l4 : Int32} {l5 : Int32} (hT : (m.K x).1 = 3) {r : Unit} {q : ((Int32 × Int32 × MM)) ⊕ (Unit × MM)} (h : b_X2_readPair_57 x l4 l5 m = some q) (Hl : ∀ z, q = .inl z → p_X2_readPair Γ m0 mF x r z) (Hr : ∀ z, q = .inr z → z = (r, mF)) : G Γ kX2_readPair cX2_readPair m0 mF (.inl none) m 57 [some (.ref x), none, none, none, some (.int l4), some (.int l5)] [] := by
  unfold b_X2_readPair_57 at h
  refine g_iload dX2_readPair_57 rfl ?_
  refine g_ic 3 dX2_readPair_59 rfl ?_
  replace h := ite_of h; rcases h with ⟨hc, h⟩ | ⟨hc, h⟩
  · refine g_icgeT dX2_readPair_60 rfl hc ?_
    refine g_this dX2_readPair_91 rfl ?_
    replace h := bd2_of h; obtain ⟨v1, m2, em2, h⟩ := h
    have C := ct_X2_isGood hΓ hT em2
    refine g_callVi hΓ.k vl_X2_217 hT C rfl rfl (Nat.le_of_ble_eq_true rfl) (Nat.le_of_ble_eq_true rfl) (Nat.le_of_ble_eq_true rfl) dX2_readPair_92 ?_
    replace hT := (C.1).kd hT
    replace h := ite_of h; rcases h with ⟨hc, h⟩ | ⟨hc, h⟩
    · refine g_ifneF dX2_readPair_95 rfl hc ?_
      cases h
      cases Hr _ rfl
      exact g_vret rfl dX2_readPair_98
    · refine g_ifneT dX2_readPair_95 rfl hc ?_
      refine g_this dX2_readPair_99 rfl ?_
      refine g_getR hΓ.k fl_X2_60_X2 rfl hT dX2_readPair_100 ?_
      refine g_iload dX2_readPair_103 rfl ?_
      refine g_ic 1 dX2_readPair_105 rfl ?_
      replace h := bd_of h; obtain ⟨m3, em3, h⟩ := h
      refine g_zast em3 dX2_readPair_106 ?_
      replace hT := (sI_ext em3).kd hT
      refine g_this dX2_readPair_107 rfl ?_
      refine g_getR hΓ.k fl_X2_24_X2 rfl hT dX2_readPair_108 ?_
      refine g_this dX2_readPair_111 rfl ?_
      refine g_getI hΓ.k fl_X2_227_X2 rfl hT dX2_readPair_112 ?_
      refine g_dup2 dX2_readPair_115 rfl (va_rf_cat _) ?_
      replace h := bd_of h; obtain ⟨v4, ev4, h⟩ := h
      refine g_iald ev4 dX2_readPair_116 ?_
      refine g_ic 1 dX2_readPair_117 rfl ?_
      refine g_iadd dX2_readPair_118 ?_
      replace h := bd_of h; obtain ⟨m5, em5, h⟩ := h
      refine g_iast em5 dX2_readPair_119 ?_
      replace hT := (sI_ext em5).kd hT
      cases h
      cases Hr _ rfl
      exact g_vret rfl dX2_readPair_120
  · refine g_icgeF dX2_readPair_60 rfl hc ?_
    refine g_this dX2_readPair_63 rfl ?_
    refine g_getR hΓ.k fl_X2_45_X2 rfl hT dX2_readPair_64 ?_
    refine g_ic 3 dX2_readPair_67 rfl ?_
    refine g_iload dX2_readPair_68 rfl ?_
    refine g_imul dX2_readPair_70 ?_
    refine g_iload dX2_readPair_71 rfl ?_
    refine g_iadd dX2_readPair_73 ?_
    refine g_this dX2_readPair_74 rfl ?_
    refine g_ic 0 dX2_readPair_75 rfl ?_
    refine g_bi (99) dX2_readPair_76 rfl ?_
    replace h := bd2_of h; obtain ⟨v6, m7, em7, h⟩ := h
    have C := ct_X2_numeral hΓ hT em7
    refine g_callVi hΓ.k vl_X2_266 hT C rfl rfl (Nat.le_of_ble_eq_true rfl) (Nat.le_of_ble_eq_true rfl) (Nat.le_of_ble_eq_true rfl) dX2_readPair_78 ?_
    replace hT := (C.1).kd hT
    refine g_bi (50) dX2_readPair_81 rfl ?_
    refine g_isub dX2_readPair_83 ?_
    replace h := bd_of h; obtain ⟨m8, em8, h⟩ := h
    refine g_iast em8 dX2_readPair_84 ?_
    replace hT := (sI_ext em8).kd hT
    refine g_iinc (l5 + (1 : Int32)) dX2_readPair_85 rfl rfl (Nat.le_of_ble_eq_true rfl) rfl ?_
    dsimp only [List.set]
    refine g_goto dX2_readPair_88 rfl ?_
    cases h
    refine G.weak [true, false, false, false, true, true] rfl ?_
    exact Hl _ rfl hT
set_option maxHeartbeats 4000000 in
theorem w_X2_readPair_0 {Γ : GG} (hΓ : GF Γ) {m0 mF m : MM} {x : Nat} (hT : (m.K x).1 = 3) {r : Unit} {q : ((Int32 × Int32 × MM)) ⊕ (Unit × MM)} (h : b_X2_readPair_0 x m = some q) (Hl : ∀ z, q = .inl z → p_X2_readPair Γ m0 mF x r z) (Hr : ∀ z, q = .inr z → z = (r, mF)) : G Γ kX2_readPair cX2_readPair m0 mF (.inl none) m 0 [some (.ref x), none, none, none, none, none] [] := by
  unfold b_X2_readPair_0 at h
  refine g_this dX2_readPair_0 rfl ?_
  replace h := bd2_of h; obtain ⟨v1, m2, em2, h⟩ := h
  have C := ct_X2_known hΓ hT em2
  refine g_callVi hΓ.k vl_X2_291 hT C rfl rfl (Nat.le_of_ble_eq_true rfl) (Nat.le_of_ble_eq_true rfl) (Nat.le_of_ble_eq_true rfl) dX2_readPair_1 ?_
  replace hT := (C.1).kd hT
  refine g_istore_n 1 dX2_readPair_4 rfl (Nat.le_of_ble_eq_true rfl) rfl ?_
  dsimp only [List.set]
  refine g_this dX2_readPair_5 rfl ?_
  refine g_getI hΓ.k fl_X2_185_X2 rfl hT dX2_readPair_6 ?_
  refine g_istore_n 2 dX2_readPair_9 rfl (Nat.le_of_ble_eq_true rfl) rfl ?_
  dsimp only [List.set]
  refine g_this dX2_readPair_10 rfl ?_
  replace h := bd2_of h; obtain ⟨v3, m4, em4, h⟩ := h
  have C := ct_X2_known hΓ hT em4
  refine g_callVi hΓ.k vl_X2_291 hT C rfl rfl (Nat.le_of_ble_eq_true rfl) (Nat.le_of_ble_eq_true rfl) (Nat.le_of_ble_eq_true rfl) dX2_readPair_11 ?_
  replace hT := (C.1).kd hT
  refine g_istore_n 3 dX2_readPair_14 rfl (Nat.le_of_ble_eq_true rfl) rfl ?_
  dsimp only [List.set]
  refine g_bi (64) dX2_readPair_15 rfl ?_
  refine g_this dX2_readPair_17 rfl ?_
  refine g_getI hΓ.k fl_X2_227_X2 rfl hT dX2_readPair_18 ?_
  refine g_imul dX2_readPair_21 ?_
  refine g_bi (8) dX2_readPair_22 rfl ?_
  refine g_iload_n 1 dX2_readPair_24 rfl rfl ?_
  refine g_imul dX2_readPair_25 ?_
  refine g_iadd dX2_readPair_26 ?_
  refine g_iload_n 3 dX2_readPair_27 rfl rfl ?_
  refine g_iadd dX2_readPair_28 ?_
  refine g_istore dX2_readPair_29 (Nat.le_of_ble_eq_true rfl) rfl ?_
  dsimp only [List.set]
  refine g_this dX2_readPair_31 rfl ?_
  replace h := bd2_of h; obtain ⟨v5, m6, em6, h⟩ := h
  have C := ct_X2_isGood hΓ hT em6
  refine g_callVi hΓ.k vl_X2_217 hT C rfl rfl (Nat.le_of_ble_eq_true rfl) (Nat.le_of_ble_eq_true rfl) (Nat.le_of_ble_eq_true rfl) dX2_readPair_32 ?_
  replace hT := (C.1).kd hT
  replace h := ite_of h; rcases h with ⟨hc, h⟩ | ⟨hc, h⟩
  · refine g_ifeqT dX2_readPair_35 rfl hc ?_
    refine g_ic 0 dX2_readPair_54 rfl ?_
    refine g_istore dX2_readPair_55 (Nat.le_of_ble_eq_true rfl) rfl ?_
    dsimp only [List.set]
    cases h
    refine G.weak [true, false, false, false, true, true] rfl ?_
    exact Hl _ rfl hT
  · refine g_ifeqF dX2_readPair_35 rfl hc ?_
    refine g_this dX2_readPair_38 rfl ?_
    refine g_getR hΓ.k fl_X2_60_X2 rfl hT dX2_readPair_39 ?_
    refine g_iload dX2_readPair_42 rfl ?_
    replace h := bd_of h; obtain ⟨v7, ev7, h⟩ := h
    refine g_zald ev7 dX2_readPair_44 ?_
    replace h := ite_of h; rcases h with ⟨hc, h⟩ | ⟨hc, h⟩
    · refine g_ifeqT dX2_readPair_45 rfl hc ?_
      refine g_ic 0 dX2_readPair_54 rfl ?_
      refine g_istore dX2_readPair_55 (Nat.le_of_ble_eq_true rfl) rfl ?_
      dsimp only [List.set]
      cases h
      refine G.weak [true, false, false, false, true, true] rfl ?_
      exact Hl _ rfl hT
    · refine g_ifeqF dX2_readPair_45 rfl hc ?_
      refine g_this dX2_readPair_48 rfl ?_
      refine g_ic 3 dX2_readPair_49 rfl ?_
      refine g_iload_n 2 dX2_readPair_50 rfl rfl ?_
      replace h := bd2_of h; obtain ⟨_, m8, em8, h⟩ := h
      have C := ct_X2_fails hΓ hT em8
      refine g_callVv hΓ.k vl_X2_213 hT C rfl rfl (Nat.le_of_ble_eq_true rfl) (Nat.le_of_ble_eq_true rfl) (Nat.le_of_ble_eq_true rfl) dX2_readPair_51 ?_
      replace hT := (C.1).kd hT
      refine g_ic 0 dX2_readPair_54 rfl ?_
      refine g_istore dX2_readPair_55 (Nat.le_of_ble_eq_true rfl) rfl ?_
      dsimp only [List.set]
      cases h
      refine G.weak [true, false, false, false, true, true] rfl ?_
      exact Hl _ rfl hT
theorem ct_X2_readPair {Γ : GG} (hΓ : GF Γ) {m mF : MM} {x : Nat} (hT : (m.K x).1 = 3) {r : Unit} (h : f_X2_readPair x m = some (r, mF)) : Ct Γ kX2_readPair cX2_readPair [.ref x] m (.inl none) mF := by
  unfold f_X2_readPair at h
  replace h := bd_of h; obtain ⟨q, e, h⟩ := h
  have H := rx_go_ind (P := p_X2_readPair Γ m mF x r) (fun z o hs Hl Hr => by
    match z with
    | (l4, l5, m) => exact fun hT => w_X2_readPair_57 hΓ hT hs Hl Hr) h
  exact Ct.of (κ := kX2_readPair) (by decide) rfl (Nat.le_of_ble_eq_true rfl) rfl (w_X2_readPair_0 hΓ hT e H.1 H.2)
def p_X2_ruleOf (Γ : GG) (m0 mF : MM) (x : Nat) (l1 : Int64) (r : Int32) : ((Int32 × MM)) → Prop := fun z => match z with
  | (l3, m) => (m.K x).1 = 3 → G Γ kX2_ruleOf cX2_ruleOf m0 mF (.inl (some (.int r))) m 2 [some (.ref x), some (.long l1), none, some (.int l3)] []
set_option maxHeartbeats 4000000 in
theorem w_X2_ruleOf_2 {Γ : GG} (hΓ : GF Γ) {m0 mF m : MM} {x : Nat} {l1 : Int64} {l3 : Int32} (hT : (m.K x).1 = 3) {r : Int32} {q : ((Int32 × MM)) ⊕ (Int32 × MM)} (h : b_X2_ruleOf_2 x l1 l3 m = some q) (Hl : ∀ z, q = .inl z → p_X2_ruleOf Γ m0 mF x l1 r z) (Hr : ∀ z, q = .inr z → z = (r, mF)) : G Γ kX2_ruleOf cX2_ruleOf m0 mF (.inl (some (.int r))) m 2 [some (.ref x), some (.long l1), none, some (.int l3)] [] := by
  unfold b_X2_ruleOf_2 at h
  refine g_iload_n 3 dX2_ruleOf_2 rfl rfl ?_
  refine g_this dX2_ruleOf_3 rfl ?_
  refine g_getR hΓ.k fl_X2_27_X2 rfl hT dX2_ruleOf_4 ?_
  refine g_this dX2_ruleOf_7 rfl ?_
  refine g_getI hΓ.k fl_X2_227_X2 rfl hT dX2_ruleOf_8 ?_
  replace h := bd_of h; obtain ⟨v1, ev1, h⟩ := h
  refine g_iald ev1 dX2_ruleOf_11 ?_
  replace h := ite_of h; rcases h with ⟨hc, h⟩ | ⟨hc, h⟩
  · refine g_icgeT dX2_ruleOf_12 rfl hc ?_
    refine g_ic (-1) dX2_ruleOf_42 rfl ?_
    cases h
    cases Hr _ rfl
    exact g_iret rfl dX2_ruleOf_43
  · refine g_icgeF dX2_ruleOf_12 rfl hc ?_
    refine g_this dX2_ruleOf_15 rfl ?_
    refine g_getR hΓ.k fl_X2_71_X2 rfl hT dX2_ruleOf_16 ?_
    refine g_bi (8) dX2_ruleOf_19 rfl ?_
    refine g_this dX2_ruleOf_21 rfl ?_
    refine g_getI hΓ.k fl_X2_227_X2 rfl hT dX2_ruleOf_22 ?_
    refine g_imul dX2_ruleOf_25 ?_
    refine g_iload_n 3 dX2_ruleOf_26 rfl rfl ?_
    refine g_iadd dX2_ruleOf_27 ?_
    replace h := bd_of h; obtain ⟨v2, ev2, h⟩ := h
    refine g_lald ev2 dX2_ruleOf_28 ?_
    refine g_lload_n 1 dX2_ruleOf_29 rfl rfl ?_
    refine g_lcmp dX2_ruleOf_30 ?_
    replace h := ite_of h; rcases h with ⟨hc, h⟩ | ⟨hc, h⟩
    · refine g_ifneF dX2_ruleOf_31 rfl hc ?_
      refine g_iload_n 3 dX2_ruleOf_34 rfl rfl ?_
      cases h
      cases Hr _ rfl
      exact g_iret rfl dX2_ruleOf_35
    · refine g_ifneT dX2_ruleOf_31 rfl hc ?_
      refine g_iinc (l3 + (1 : Int32)) dX2_ruleOf_36 rfl rfl (Nat.le_of_ble_eq_true rfl) rfl ?_
      dsimp only [List.set]
      refine g_goto dX2_ruleOf_39 rfl ?_
      cases h
      refine G.weak [true, true, false, true] rfl ?_
      exact Hl _ rfl hT
set_option maxHeartbeats 4000000 in
theorem w_X2_ruleOf_0 {Γ : GG} (hΓ : GF Γ) {m0 mF m : MM} {x : Nat} {l1 : Int64} (hT : (m.K x).1 = 3) {r : Int32} {q : ((Int32 × MM)) ⊕ (Int32 × MM)} (h : b_X2_ruleOf_0 x l1 m = some q) (Hl : ∀ z, q = .inl z → p_X2_ruleOf Γ m0 mF x l1 r z) (Hr : ∀ z, q = .inr z → z = (r, mF)) : G Γ kX2_ruleOf cX2_ruleOf m0 mF (.inl (some (.int r))) m 0 [some (.ref x), some (.long l1), none, none] [] := by
  unfold b_X2_ruleOf_0 at h
  refine g_ic 0 dX2_ruleOf_0 rfl ?_
  refine g_istore_n 3 dX2_ruleOf_1 rfl (Nat.le_of_ble_eq_true rfl) rfl ?_
  dsimp only [List.set]
  cases h
  refine G.weak [true, true, false, true] rfl ?_
  exact Hl _ rfl hT
theorem ct_X2_ruleOf {Γ : GG} (hΓ : GF Γ) {m mF : MM} {x : Nat} {l1 : Int64} (hT : (m.K x).1 = 3) {r : Int32} (h : f_X2_ruleOf x l1 m = some (r, mF)) : Ct Γ kX2_ruleOf cX2_ruleOf [.ref x, .long l1] m (.inl (some (.int r))) mF := by
  unfold f_X2_ruleOf at h
  replace h := bd_of h; obtain ⟨q, e, h⟩ := h
  have H := rx_go_ind (P := p_X2_ruleOf Γ m mF x l1 r) (fun z o hs Hl Hr => by
    match z with
    | (l3, m) => exact fun hT => w_X2_ruleOf_2 hΓ hT hs Hl Hr) h
  exact Ct.of (κ := kX2_ruleOf) (by decide) rfl (Nat.le_of_ble_eq_true rfl) rfl (w_X2_ruleOf_0 hΓ hT e H.1 H.2)
set_option maxHeartbeats 4000000 in
theorem w_X2_fresh_55 {Γ : GG} (hΓ : GF Γ) {m0 mF m : MM} {x : Nat} (hT : (m.K x).1 = 3) {r : Int64} (h : b_X2_fresh_55 x m = some (r, mF)) : G Γ kX2_fresh cX2_fresh m0 mF (.inl (some (.long r))) m 55 [some (.ref x), none, none] [] := by
  unfold b_X2_fresh_55 at h
  refine g_this dX2_fresh_55 rfl ?_
  refine g_getL hΓ.k fl_X2_199_X2 rfl hT dX2_fresh_56 ?_
  refine g_lstore_n 1 dX2_fresh_59 rfl (Nat.le_of_ble_eq_true rfl) rfl ?_
  dsimp only [List.set]
  refine g_this dX2_fresh_60 rfl ?_
  replace h := bd2_of h; obtain ⟨v1, m2, em2, h⟩ := h
  have C := ct_X2_isGood hΓ hT em2
  refine g_callVi hΓ.k vl_X2_217 hT C rfl rfl (Nat.le_of_ble_eq_true rfl) (Nat.le_of_ble_eq_true rfl) (Nat.le_of_ble_eq_true rfl) dX2_fresh_61 ?_
  replace hT := (C.1).kd hT
  replace h := ite_of h; rcases h with ⟨hc, h⟩ | ⟨hc, h⟩
  · refine g_ifeqT dX2_fresh_64 rfl hc ?_
    refine g_lload_n 1 dX2_fresh_71 rfl rfl ?_
    cases h
    exact g_lret rfl dX2_fresh_72
  · refine g_ifeqF dX2_fresh_64 rfl hc ?_
    refine g_this dX2_fresh_67 rfl ?_
    replace h := bd2_of h; obtain ⟨_, m3, em3, h⟩ := h
    have C := ct_X2_goOn hΓ hT em3
    refine g_callVv hΓ.k vl_X2_221 hT C rfl rfl (Nat.le_of_ble_eq_true rfl) (Nat.le_of_ble_eq_true rfl) (Nat.le_of_ble_eq_true rfl) dX2_fresh_68 ?_
    replace hT := (C.1).kd hT
    refine g_lload_n 1 dX2_fresh_71 rfl rfl ?_
    cases h
    exact g_lret rfl dX2_fresh_72
set_option maxHeartbeats 4000000 in
theorem w_X2_fresh_46 {Γ : GG} (hΓ : GF Γ) {m0 mF m : MM} {x : Nat} (hT : (m.K x).1 = 3) {r : Int64} (h : b_X2_fresh_46 x m = some (r, mF)) : G Γ kX2_fresh cX2_fresh m0 mF (.inl (some (.long r))) m 46 [some (.ref x), none, none] [] := by
  unfold b_X2_fresh_46 at h
  refine g_this dX2_fresh_46 rfl ?_
  refine g_ic 3 dX2_fresh_47 rfl ?_
  refine g_this dX2_fresh_48 rfl ?_
  refine g_getI hΓ.k fl_X2_185_X2 rfl hT dX2_fresh_49 ?_
  replace h := bd2_of h; obtain ⟨_, m1, em1, h⟩ := h
  have C := ct_X2_fails hΓ hT em1
  refine g_callVv hΓ.k vl_X2_213 hT C rfl rfl (Nat.le_of_ble_eq_true rfl) (Nat.le_of_ble_eq_true rfl) (Nat.le_of_ble_eq_true rfl) dX2_fresh_52 ?_
  replace hT := (C.1).kd hT
  refine G.weak [true, false, false] rfl ?_
  exact w_X2_fresh_55 hΓ hT h
set_option maxHeartbeats 4000000 in
theorem w_X2_fresh_0 {Γ : GG} (hΓ : GF Γ) {m0 mF m : MM} {x : Nat} (hT : (m.K x).1 = 3) {r : Int64} (h : b_X2_fresh_0 x m = some (r, mF)) : G Γ kX2_fresh cX2_fresh m0 mF (.inl (some (.long r))) m 0 [some (.ref x), none, none] [] := by
  unfold b_X2_fresh_0 at h
  refine g_this dX2_fresh_0 rfl ?_
  replace h := bd2_of h; obtain ⟨v1, m2, em2, h⟩ := h
  have C := ct_X2_isGood hΓ hT em2
  refine g_callVi hΓ.k vl_X2_217 hT C rfl rfl (Nat.le_of_ble_eq_true rfl) (Nat.le_of_ble_eq_true rfl) (Nat.le_of_ble_eq_true rfl) dX2_fresh_1 ?_
  replace hT := (C.1).kd hT
  replace h := ite_of h; rcases h with ⟨hc, h⟩ | ⟨hc, h⟩
  · refine g_ifneF dX2_fresh_4 rfl hc ?_
    refine g_lc 0 dX2_fresh_7 rfl ?_
    cases h
    exact g_lret rfl dX2_fresh_8
  · refine g_ifneT dX2_fresh_4 rfl hc ?_
    refine g_this dX2_fresh_9 rfl ?_
    refine g_getI hΓ.k fl_X2_192_X2 rfl hT dX2_fresh_10 ?_
    refine g_ic 2 dX2_fresh_13 rfl ?_
    replace h := ite_of h; rcases h with ⟨hc, h⟩ | ⟨hc, h⟩
    · refine g_iceqT dX2_fresh_14 rfl hc ?_
      refine g_this dX2_fresh_24 rfl ?_
      refine g_this dX2_fresh_25 rfl ?_
      refine g_getL hΓ.k fl_X2_199_X2 rfl hT dX2_fresh_26 ?_
      replace h := bd2_of h; obtain ⟨v3, m4, em4, h⟩ := h
      have C := ct_X2_wordOf hΓ hT em4
      refine g_callVi hΓ.k vl_X2_280 hT C rfl rfl (Nat.le_of_ble_eq_true rfl) (Nat.le_of_ble_eq_true rfl) (Nat.le_of_ble_eq_true rfl) dX2_fresh_29 ?_
      replace hT := (C.1).kd hT
      replace h := ite_of h; rcases h with ⟨hc, h⟩ | ⟨hc, h⟩
      · refine g_ifgeT dX2_fresh_32 rfl hc ?_
        refine G.weak [true, false, false] rfl ?_
        exact w_X2_fresh_46 hΓ hT h
      · refine g_ifgeF dX2_fresh_32 rfl hc ?_
        refine g_this dX2_fresh_35 rfl ?_
        refine g_this dX2_fresh_36 rfl ?_
        refine g_getL hΓ.k fl_X2_199_X2 rfl hT dX2_fresh_37 ?_
        replace h := bd2_of h; obtain ⟨v5, m6, em6, h⟩ := h
        have C := ct_X2_ruleOf hΓ hT em6
        refine g_callVi hΓ.k vl_X2_284 hT C rfl rfl (Nat.le_of_ble_eq_true rfl) (Nat.le_of_ble_eq_true rfl) (Nat.le_of_ble_eq_true rfl) dX2_fresh_40 ?_
        replace hT := (C.1).kd hT
        replace h := ite_of h; rcases h with ⟨hc, h⟩ | ⟨hc, h⟩
        · refine g_ifltT dX2_fresh_43 rfl hc ?_
          refine G.weak [true, false, false] rfl ?_
          exact w_X2_fresh_55 hΓ hT h
        · refine g_ifltF dX2_fresh_43 rfl hc ?_
          refine G.weak [true, false, false] rfl ?_
          exact w_X2_fresh_46 hΓ hT h
    · refine g_iceqF dX2_fresh_14 rfl hc ?_
      refine g_this dX2_fresh_17 rfl ?_
      replace h := bd2_of h; obtain ⟨_, m7, em7, h⟩ := h
      have C := ct_X2_misplaced hΓ hT em7
      refine g_callVv hΓ.k vl_X2_224 hT C rfl rfl (Nat.le_of_ble_eq_true rfl) (Nat.le_of_ble_eq_true rfl) (Nat.le_of_ble_eq_true rfl) dX2_fresh_18 ?_
      replace hT := (C.1).kd hT
      refine g_goto dX2_fresh_21 rfl ?_
      refine G.weak [true, false, false] rfl ?_
      exact w_X2_fresh_55 hΓ hT h
theorem ct_X2_fresh {Γ : GG} (hΓ : GF Γ) {m mF : MM} {x : Nat} (hT : (m.K x).1 = 3) {r : Int64} (h : f_X2_fresh x m = some (r, mF)) : Ct Γ kX2_fresh cX2_fresh [.ref x] m (.inl (some (.long r))) mF := by
  unfold f_X2_fresh at h
  exact Ct.of (κ := kX2_fresh) (by decide) rfl (Nat.le_of_ble_eq_true rfl) rfl (w_X2_fresh_0 hΓ hT h)
def p_X2_readAlt (Γ : GG) (m0 mF : MM) (x : Nat) (r : Unit) : ((Int32 × MM)) → Prop := fun z => match z with
  | (l1, m) => (m.K x).1 = 3 → G Γ kX2_readAlt cX2_readAlt m0 mF (.inl none) m 87 [some (.ref x), some (.int l1)] []
set_option maxHeartbeats 4000000 in
theorem w_X2_readAlt_87 {Γ : GG} (hΓ : GF Γ) {m0 mF m : MM} {x : Nat} {l1 : Int32} (hT : (m.K x).1 = 3) {r : Unit} {q : ((Int32 × MM)) ⊕ (Unit × MM)} (h : b_X2_readAlt_87 x l1 m = some q) (Hl : ∀ z, q = .inl z → p_X2_readAlt Γ m0 mF x r z) (Hr : ∀ z, q = .inr z → z = (r, mF)) : G Γ kX2_readAlt cX2_readAlt m0 mF (.inl none) m 87 [some (.ref x), some (.int l1)] [] := by
  unfold b_X2_readAlt_87 at h
  refine g_this dX2_readAlt_87 rfl ?_
  replace h := bd2_of h; obtain ⟨v1, m2, em2, h⟩ := h
  have C := ct_X2_isGood hΓ hT em2
  refine g_callVi hΓ.k vl_X2_217 hT C rfl rfl (Nat.le_of_ble_eq_true rfl) (Nat.le_of_ble_eq_true rfl) (Nat.le_of_ble_eq_true rfl) dX2_readAlt_88 ?_
  replace hT := (C.1).kd hT
  replace h := ite_of h; rcases h with ⟨hc, h⟩ | ⟨hc, h⟩
  · refine g_ifeqT dX2_readAlt_91 rfl hc ?_
    cases h
    cases Hr _ rfl
    exact g_vret rfl dX2_readAlt_172
  · refine g_ifeqF dX2_readAlt_91 rfl hc ?_
    refine g_this dX2_readAlt_94 rfl ?_
    refine g_getI hΓ.k fl_X2_192_X2 rfl hT dX2_readAlt_95 ?_
    refine g_ic 2 dX2_readAlt_98 rfl ?_
    replace h := ite_of h; rcases h with ⟨hc, h⟩ | ⟨hc, h⟩
    · refine g_icneF dX2_readAlt_99 rfl hc ?_
      refine g_this dX2_readAlt_102 rfl ?_
      refine g_getR hΓ.k fl_X2_51_X2 rfl hT dX2_readAlt_103 ?_
      refine g_iload_n 1 dX2_readAlt_106 rfl rfl ?_
      replace h := bd_of h; obtain ⟨v3, ev3, h⟩ := h
      refine g_iald ev3 dX2_readAlt_107 ?_
      refine g_ic 4 dX2_readAlt_108 rfl ?_
      replace h := ite_of h; rcases h with ⟨hc, h⟩ | ⟨hc, h⟩
      · refine g_icneF dX2_readAlt_109 rfl hc ?_
        refine g_this dX2_readAlt_112 rfl ?_
        replace h := bd2_of h; obtain ⟨_, m11, em11, h⟩ := h
        have C := ct_X2_misplaced hΓ hT em11
        refine g_callVv hΓ.k vl_X2_224 hT C rfl rfl (Nat.le_of_ble_eq_true rfl) (Nat.le_of_ble_eq_true rfl) (Nat.le_of_ble_eq_true rfl) dX2_readAlt_113 ?_
        replace hT := (C.1).kd hT
        cases h
        cases Hr _ rfl
        exact g_vret rfl dX2_readAlt_116
      · refine g_icneT dX2_readAlt_109 rfl hc ?_
        refine g_this dX2_readAlt_117 rfl ?_
        refine g_getR hΓ.k fl_X2_74_X2 rfl hT dX2_readAlt_118 ?_
        refine g_ic 4 dX2_readAlt_121 rfl ?_
        refine g_iload_n 1 dX2_readAlt_122 rfl rfl ?_
        refine g_imul dX2_readAlt_123 ?_
        refine g_this dX2_readAlt_124 rfl ?_
        refine g_getR hΓ.k fl_X2_51_X2 rfl hT dX2_readAlt_125 ?_
        refine g_iload_n 1 dX2_readAlt_128 rfl rfl ?_
        replace h := bd_of h; obtain ⟨v4, ev4, h⟩ := h
        refine g_iald ev4 dX2_readAlt_129 ?_
        refine g_iadd dX2_readAlt_130 ?_
        refine g_this dX2_readAlt_131 rfl ?_
        refine g_getL hΓ.k fl_X2_199_X2 rfl hT dX2_readAlt_132 ?_
        replace h := bd_of h; obtain ⟨m5, em5, h⟩ := h
        refine g_last em5 dX2_readAlt_135 ?_
        replace hT := (sL_ext em5).kd hT
        refine g_this dX2_readAlt_136 rfl ?_
        refine g_getR hΓ.k fl_X2_57_X2 rfl hT dX2_readAlt_137 ?_
        refine g_ic 4 dX2_readAlt_140 rfl ?_
        refine g_iload_n 1 dX2_readAlt_141 rfl rfl ?_
        refine g_imul dX2_readAlt_142 ?_
        refine g_this dX2_readAlt_143 rfl ?_
        refine g_getR hΓ.k fl_X2_51_X2 rfl hT dX2_readAlt_144 ?_
        refine g_iload_n 1 dX2_readAlt_147 rfl rfl ?_
        replace h := bd_of h; obtain ⟨v6, ev6, h⟩ := h
        refine g_iald ev6 dX2_readAlt_148 ?_
        refine g_iadd dX2_readAlt_149 ?_
        refine g_this dX2_readAlt_150 rfl ?_
        refine g_getI hΓ.k fl_X2_185_X2 rfl hT dX2_readAlt_151 ?_
        replace h := bd_of h; obtain ⟨m7, em7, h⟩ := h
        refine g_iast em7 dX2_readAlt_154 ?_
        replace hT := (sI_ext em7).kd hT
        refine g_this dX2_readAlt_155 rfl ?_
        refine g_getR hΓ.k fl_X2_51_X2 rfl hT dX2_readAlt_156 ?_
        refine g_iload_n 1 dX2_readAlt_159 rfl rfl ?_
        refine g_dup2 dX2_readAlt_160 rfl (va_rf_cat _) ?_
        replace h := bd_of h; obtain ⟨v8, ev8, h⟩ := h
        refine g_iald ev8 dX2_readAlt_161 ?_
        refine g_ic 1 dX2_readAlt_162 rfl ?_
        refine g_iadd dX2_readAlt_163 ?_
        replace h := bd_of h; obtain ⟨m9, em9, h⟩ := h
        refine g_iast em9 dX2_readAlt_164 ?_
        replace hT := (sI_ext em9).kd hT
        refine g_this dX2_readAlt_165 rfl ?_
        replace h := bd2_of h; obtain ⟨_, m10, em10, h⟩ := h
        have C := ct_X2_goOn hΓ hT em10
        refine g_callVv hΓ.k vl_X2_221 hT C rfl rfl (Nat.le_of_ble_eq_true rfl) (Nat.le_of_ble_eq_true rfl) (Nat.le_of_ble_eq_true rfl) dX2_readAlt_166 ?_
        replace hT := (C.1).kd hT
        refine g_goto dX2_readAlt_169 rfl ?_
        cases h
        refine G.weak [true, true] rfl ?_
        exact Hl _ rfl hT
    · refine g_icneT dX2_readAlt_99 rfl hc ?_
      cases h
      cases Hr _ rfl
      exact g_vret rfl dX2_readAlt_172
set_option maxHeartbeats 4000000 in
theorem w_X2_readAlt_26 {Γ : GG} (hΓ : GF Γ) {m0 mF m : MM} {x : Nat} (hT : (m.K x).1 = 3) {r : Unit} {q : ((Int32 × MM)) ⊕ (Unit × MM)} (h : b_X2_readAlt_26 x m = some q) (Hl : ∀ z, q = .inl z → p_X2_readAlt Γ m0 mF x r z) (Hr : ∀ z, q = .inr z → z = (r, mF)) : G Γ kX2_readAlt cX2_readAlt m0 mF (.inl none) m 26 [some (.ref x), none] [] := by
  unfold b_X2_readAlt_26 at h
  refine g_this dX2_readAlt_26 rfl ?_
  replace h := bd2_of h; obtain ⟨v1, m2, em2, h⟩ := h
  have C := ct_X2_isGood hΓ hT em2
  refine g_callVi hΓ.k vl_X2_217 hT C rfl rfl (Nat.le_of_ble_eq_true rfl) (Nat.le_of_ble_eq_true rfl) (Nat.le_of_ble_eq_true rfl) dX2_readAlt_27 ?_
  replace hT := (C.1).kd hT
  replace h := ite_of h; rcases h with ⟨hc, h⟩ | ⟨hc, h⟩
  · refine g_ifneF dX2_readAlt_30 rfl hc ?_
    cases h
    cases Hr _ rfl
    exact g_vret rfl dX2_readAlt_33
  · refine g_ifneT dX2_readAlt_30 rfl hc ?_
    refine g_bi (24) dX2_readAlt_34 rfl ?_
    refine g_this dX2_readAlt_36 rfl ?_
    refine g_getI hΓ.k fl_X2_227_X2 rfl hT dX2_readAlt_37 ?_
    refine g_imul dX2_readAlt_40 ?_
    refine g_this dX2_readAlt_41 rfl ?_
    refine g_getR hΓ.k fl_X2_30_X2 rfl hT dX2_readAlt_42 ?_
    refine g_this dX2_readAlt_45 rfl ?_
    refine g_getI hΓ.k fl_X2_227_X2 rfl hT dX2_readAlt_46 ?_
    replace h := bd_of h; obtain ⟨v3, ev3, h⟩ := h
    refine g_iald ev3 dX2_readAlt_49 ?_
    refine g_iadd dX2_readAlt_50 ?_
    refine g_istore_n 1 dX2_readAlt_51 rfl (Nat.le_of_ble_eq_true rfl) rfl ?_
    dsimp only [List.set]
    refine g_this dX2_readAlt_52 rfl ?_
    refine g_getR hΓ.k fl_X2_48_X2 rfl hT dX2_readAlt_53 ?_
    refine g_iload_n 1 dX2_readAlt_56 rfl rfl ?_
    refine g_this dX2_readAlt_57 rfl ?_
    refine g_getR hΓ.k fl_X2_27_X2 rfl hT dX2_readAlt_58 ?_
    refine g_this dX2_readAlt_61 rfl ?_
    refine g_getI hΓ.k fl_X2_227_X2 rfl hT dX2_readAlt_62 ?_
    replace h := bd_of h; obtain ⟨v4, ev4, h⟩ := h
    refine g_iald ev4 dX2_readAlt_65 ?_
    replace h := bd_of h; obtain ⟨m5, em5, h⟩ := h
    refine g_iast em5 dX2_readAlt_66 ?_
    replace hT := (sI_ext em5).kd hT
    refine g_this dX2_readAlt_67 rfl ?_
    refine g_getR hΓ.k fl_X2_51_X2 rfl hT dX2_readAlt_68 ?_
    refine g_iload_n 1 dX2_readAlt_71 rfl rfl ?_
    refine g_ic 0 dX2_readAlt_72 rfl ?_
    replace h := bd_of h; obtain ⟨m6, em6, h⟩ := h
    refine g_iast em6 dX2_readAlt_73 ?_
    replace hT := (sI_ext em6).kd hT
    refine g_this dX2_readAlt_74 rfl ?_
    refine g_getR hΓ.k fl_X2_30_X2 rfl hT dX2_readAlt_75 ?_
    refine g_this dX2_readAlt_78 rfl ?_
    refine g_getI hΓ.k fl_X2_227_X2 rfl hT dX2_readAlt_79 ?_
    refine g_dup2 dX2_readAlt_82 rfl (va_rf_cat _) ?_
    replace h := bd_of h; obtain ⟨v7, ev7, h⟩ := h
    refine g_iald ev7 dX2_readAlt_83 ?_
    refine g_ic 1 dX2_readAlt_84 rfl ?_
    refine g_iadd dX2_readAlt_85 ?_
    replace h := bd_of h; obtain ⟨m8, em8, h⟩ := h
    refine g_iast em8 dX2_readAlt_86 ?_
    replace hT := (sI_ext em8).kd hT
    cases h
    refine G.weak [true, true] rfl ?_
    exact Hl _ rfl hT
set_option maxHeartbeats 4000000 in
theorem w_X2_readAlt_22 {Γ : GG} (hΓ : GF Γ) {m0 mF m : MM} {x : Nat} (hT : (m.K x).1 = 3) {r : Unit} {q : ((Int32 × MM)) ⊕ (Unit × MM)} (h : b_X2_readAlt_22 x m = some q) (Hl : ∀ z, q = .inl z → p_X2_readAlt Γ m0 mF x r z) (Hr : ∀ z, q = .inr z → z = (r, mF)) : G Γ kX2_readAlt cX2_readAlt m0 mF (.inl none) m 22 [some (.ref x), none] [] := by
  unfold b_X2_readAlt_22 at h
  refine g_this dX2_readAlt_22 rfl ?_
  replace h := bd2_of h; obtain ⟨_, m1, em1, h⟩ := h
  have C := ct_X2_misplaced hΓ hT em1
  refine g_callVv hΓ.k vl_X2_224 hT C rfl rfl (Nat.le_of_ble_eq_true rfl) (Nat.le_of_ble_eq_true rfl) (Nat.le_of_ble_eq_true rfl) dX2_readAlt_23 ?_
  replace hT := (C.1).kd hT
  refine G.weak [true, false] rfl ?_
  exact w_X2_readAlt_26 hΓ hT h Hl Hr
set_option maxHeartbeats 4000000 in
theorem w_X2_readAlt_0 {Γ : GG} (hΓ : GF Γ) {m0 mF m : MM} {x : Nat} (hT : (m.K x).1 = 3) {r : Unit} {q : ((Int32 × MM)) ⊕ (Unit × MM)} (h : b_X2_readAlt_0 x m = some q) (Hl : ∀ z, q = .inl z → p_X2_readAlt Γ m0 mF x r z) (Hr : ∀ z, q = .inr z → z = (r, mF)) : G Γ kX2_readAlt cX2_readAlt m0 mF (.inl none) m 0 [some (.ref x), none] [] := by
  unfold b_X2_readAlt_0 at h
  refine g_this dX2_readAlt_0 rfl ?_
  refine g_getI hΓ.k fl_X2_192_X2 rfl hT dX2_readAlt_1 ?_
  refine g_ic 2 dX2_readAlt_4 rfl ?_
  replace h := ite_of h; rcases h with ⟨hc, h⟩ | ⟨hc, h⟩
  · refine g_icneF dX2_readAlt_5 rfl hc ?_
    refine g_this dX2_readAlt_8 rfl ?_
    refine g_getR hΓ.k fl_X2_30_X2 rfl hT dX2_readAlt_9 ?_
    refine g_this dX2_readAlt_12 rfl ?_
    refine g_getI hΓ.k fl_X2_227_X2 rfl hT dX2_readAlt_13 ?_
    replace h := bd_of h; obtain ⟨v1, ev1, h⟩ := h
    refine g_iald ev1 dX2_readAlt_16 ?_
    refine g_bi (24) dX2_readAlt_17 rfl ?_
    replace h := ite_of h; rcases h with ⟨hc, h⟩ | ⟨hc, h⟩
    · refine g_icneF dX2_readAlt_19 rfl hc ?_
      refine G.weak [true, false] rfl ?_
      exact w_X2_readAlt_22 hΓ hT h Hl Hr
    · refine g_icneT dX2_readAlt_19 rfl hc ?_
      refine G.weak [true, false] rfl ?_
      exact w_X2_readAlt_26 hΓ hT h Hl Hr
  · refine g_icneT dX2_readAlt_5 rfl hc ?_
    refine G.weak [true, false] rfl ?_
    exact w_X2_readAlt_22 hΓ hT h Hl Hr
theorem ct_X2_readAlt {Γ : GG} (hΓ : GF Γ) {m mF : MM} {x : Nat} (hT : (m.K x).1 = 3) {r : Unit} (h : f_X2_readAlt x m = some (r, mF)) : Ct Γ kX2_readAlt cX2_readAlt [.ref x] m (.inl none) mF := by
  unfold f_X2_readAlt at h
  replace h := bd_of h; obtain ⟨q, e, h⟩ := h
  have H := rx_go_ind (P := p_X2_readAlt Γ m mF x r) (fun z o hs Hl Hr => by
    match z with
    | (l1, m) => exact fun hT => w_X2_readAlt_87 hΓ hT hs Hl Hr) h
  exact Ct.of (κ := kX2_readAlt) (by decide) rfl (Nat.le_of_ble_eq_true rfl) rfl (w_X2_readAlt_0 hΓ hT e H.1 H.2)
def p_X2_readRule (Γ : GG) (m0 mF : MM) (x : Nat) (r : Unit) : ((Int32 × MM)) → Prop := fun z => match z with
  | (l1, m) => (m.K x).1 = 3 → G Γ kX2_readRule cX2_readRule m0 mF (.inl none) m 38 [some (.ref x), some (.int l1)] []
set_option maxHeartbeats 4000000 in
theorem w_X2_readRule_87 {Γ : GG} (hΓ : GF Γ) {m0 mF m : MM} {x : Nat} (hT : (m.K x).1 = 3) {r : Unit} {q : ((Int32 × MM)) ⊕ (Unit × MM)} (h : b_X2_readRule_87 x m = some q) (Hl : ∀ z, q = .inl z → p_X2_readRule Γ m0 mF x r z) (Hr : ∀ z, q = .inr z → z = (r, mF)) : G Γ kX2_readRule cX2_readRule m0 mF (.inl none) m 87 [some (.ref x), none] [] := by
  unfold b_X2_readRule_87 at h
  refine g_this dX2_readRule_87 rfl ?_
  refine g_getR hΓ.k fl_X2_27_X2 rfl hT dX2_readRule_88 ?_
  refine g_this dX2_readRule_91 rfl ?_
  refine g_getI hΓ.k fl_X2_227_X2 rfl hT dX2_readRule_92 ?_
  refine g_dup2 dX2_readRule_95 rfl (va_rf_cat _) ?_
  replace h := bd_of h; obtain ⟨v1, ev1, h⟩ := h
  refine g_iald ev1 dX2_readRule_96 ?_
  refine g_ic 1 dX2_readRule_97 rfl ?_
  refine g_iadd dX2_readRule_98 ?_
  replace h := bd_of h; obtain ⟨m2, em2, h⟩ := h
  refine g_iast em2 dX2_readRule_99 ?_
  replace hT := (sI_ext em2).kd hT
  cases h
  cases Hr _ rfl
  exact g_vret rfl dX2_readRule_100
set_option maxHeartbeats 4000000 in
theorem w_X2_readRule_75 {Γ : GG} (hΓ : GF Γ) {m0 mF m : MM} {x : Nat} {s0 : Int32} (hT : (m.K x).1 = 3) {r : Unit} {q : ((Int32 × MM)) ⊕ (Unit × MM)} (h : b_X2_readRule_75 x s0 m = some q) (Hl : ∀ z, q = .inl z → p_X2_readRule Γ m0 mF x r z) (Hr : ∀ z, q = .inr z → z = (r, mF)) : G Γ kX2_readRule cX2_readRule m0 mF (.inl none) m 75 [some (.ref x), none] [.int s0] := by
  unfold b_X2_readRule_75 at h
  refine g_istore_n 1 dX2_readRule_75 rfl (Nat.le_of_ble_eq_true rfl) rfl ?_
  dsimp only [List.set]
  refine g_iload_n 1 dX2_readRule_76 rfl rfl ?_
  replace h := ite_of h; rcases h with ⟨hc, h⟩ | ⟨hc, h⟩
  · refine g_ifeqT dX2_readRule_77 rfl hc ?_
    cases h
    refine G.weak [true, true] rfl ?_
    exact Hl _ rfl hT
  · refine g_ifeqF dX2_readRule_77 rfl hc ?_
    refine g_this dX2_readRule_80 rfl ?_
    replace h := bd2_of h; obtain ⟨_, m1, em1, h⟩ := h
    have C := ct_X2_goOn hΓ hT em1
    refine g_callVv hΓ.k vl_X2_221 hT C rfl rfl (Nat.le_of_ble_eq_true rfl) (Nat.le_of_ble_eq_true rfl) (Nat.le_of_ble_eq_true rfl) dX2_readRule_81 ?_
    replace hT := (C.1).kd hT
    refine g_goto dX2_readRule_84 rfl ?_
    cases h
    refine G.weak [true, true] rfl ?_
    exact Hl _ rfl hT
set_option maxHeartbeats 4000000 in
theorem w_X2_readRule_74 {Γ : GG} (hΓ : GF Γ) {m0 mF m : MM} {x : Nat} (hT : (m.K x).1 = 3) {r : Unit} {q : ((Int32 × MM)) ⊕ (Unit × MM)} (h : b_X2_readRule_74 x m = some q) (Hl : ∀ z, q = .inl z → p_X2_readRule Γ m0 mF x r z) (Hr : ∀ z, q = .inr z → z = (r, mF)) : G Γ kX2_readRule cX2_readRule m0 mF (.inl none) m 74 [some (.ref x), none] [] := by
  unfold b_X2_readRule_74 at h
  refine g_ic 0 dX2_readRule_74 rfl ?_
  refine G.weak [true, false] rfl ?_
  exact w_X2_readRule_75 hΓ hT h Hl Hr
set_option maxHeartbeats 4000000 in
theorem w_X2_readRule_38 {Γ : GG} (hΓ : GF Γ) {m0 mF m : MM} {x : Nat} {l1 : Int32} (hT : (m.K x).1 = 3) {r : Unit} {q : ((Int32 × MM)) ⊕ (Unit × MM)} (h : b_X2_readRule_38 x l1 m = some q) (Hl : ∀ z, q = .inl z → p_X2_readRule Γ m0 mF x r z) (Hr : ∀ z, q = .inr z → z = (r, mF)) : G Γ kX2_readRule cX2_readRule m0 mF (.inl none) m 38 [some (.ref x), some (.int l1)] [] := by
  unfold b_X2_readRule_38 at h
  refine g_this dX2_readRule_38 rfl ?_
  replace h := bd2_of h; obtain ⟨v1, m2, em2, h⟩ := h
  have C := ct_X2_isGood hΓ hT em2
  refine g_callVi hΓ.k vl_X2_217 hT C rfl rfl (Nat.le_of_ble_eq_true rfl) (Nat.le_of_ble_eq_true rfl) (Nat.le_of_ble_eq_true rfl) dX2_readRule_39 ?_
  replace hT := (C.1).kd hT
  replace h := ite_of h; rcases h with ⟨hc, h⟩ | ⟨hc, h⟩
  · refine g_ifeqT dX2_readRule_42 rfl hc ?_
    refine G.weak [true, false] rfl ?_
    exact w_X2_readRule_87 hΓ hT h Hl Hr
  · refine g_ifeqF dX2_readRule_42 rfl hc ?_
    refine g_iload_n 1 dX2_readRule_45 rfl rfl ?_
    replace h := ite_of h; rcases h with ⟨hc, h⟩ | ⟨hc, h⟩
    · refine g_ifeqT dX2_readRule_46 rfl hc ?_
      refine G.weak [true, false] rfl ?_
      exact w_X2_readRule_87 hΓ hT h Hl Hr
    · refine g_ifeqF dX2_readRule_46 rfl hc ?_
      refine g_this dX2_readRule_49 rfl ?_
      replace h := bd2_of h; obtain ⟨_, m3, em3, h⟩ := h
      have C := ct_X2_readAlt hΓ hT em3
      refine g_callVv hΓ.k vl_X2_295 hT C rfl rfl (Nat.le_of_ble_eq_true rfl) (Nat.le_of_ble_eq_true rfl) (Nat.le_of_ble_eq_true rfl) dX2_readRule_50 ?_
      replace hT := (C.1).kd hT
      refine g_this dX2_readRule_53 rfl ?_
      replace h := bd2_of h; obtain ⟨v4, m5, em5, h⟩ := h
      have C := ct_X2_isGood hΓ hT em5
      refine g_callVi hΓ.k vl_X2_217 hT C rfl rfl (Nat.le_of_ble_eq_true rfl) (Nat.le_of_ble_eq_true rfl) (Nat.le_of_ble_eq_true rfl) dX2_readRule_54 ?_
      replace hT := (C.1).kd hT
      replace h := ite_of h; rcases h with ⟨hc, h⟩ | ⟨hc, h⟩
      · refine g_ifeqT dX2_readRule_57 rfl hc ?_
        refine G.weak [true, false] rfl ?_
        exact w_X2_readRule_74 hΓ hT h Hl Hr
      · refine g_ifeqF dX2_readRule_57 rfl hc ?_
        refine g_this dX2_readRule_60 rfl ?_
        refine g_ldc2 (v := 28530) q1495 dX2_readRule_61 ?_
        replace h := bd2_of h; obtain ⟨v6, m7, em7, h⟩ := h
        have C := ct_X2_isWord hΓ hT em7
        refine g_callVi hΓ.k vl_X2_251 hT C rfl rfl (Nat.le_of_ble_eq_true rfl) (Nat.le_of_ble_eq_true rfl) (Nat.le_of_ble_eq_true rfl) dX2_readRule_64 ?_
        replace hT := (C.1).kd hT
        replace h := ite_of h; rcases h with ⟨hc, h⟩ | ⟨hc, h⟩
        · refine g_ifeqT dX2_readRule_67 rfl hc ?_
          refine G.weak [true, false] rfl ?_
          exact w_X2_readRule_74 hΓ hT h Hl Hr
        · refine g_ifeqF dX2_readRule_67 rfl hc ?_
          refine g_ic 1 dX2_readRule_70 rfl ?_
          refine g_goto dX2_readRule_71 rfl ?_
          refine G.weak [true, false] rfl ?_
          exact w_X2_readRule_75 hΓ hT h Hl Hr
set_option maxHeartbeats 4000000 in
theorem w_X2_readRule_0 {Γ : GG} (hΓ : GF Γ) {m0 mF m : MM} {x : Nat} (hT : (m.K x).1 = 3) {r : Unit} {q : ((Int32 × MM)) ⊕ (Unit × MM)} (h : b_X2_readRule_0 x m = some q) (Hl : ∀ z, q = .inl z → p_X2_readRule Γ m0 mF x r z) (Hr : ∀ z, q = .inr z → z = (r, mF)) : G Γ kX2_readRule cX2_readRule m0 mF (.inl none) m 0 [some (.ref x), none] [] := by
  unfold b_X2_readRule_0 at h
  refine g_this dX2_readRule_0 rfl ?_
  refine g_getR hΓ.k fl_X2_71_X2 rfl hT dX2_readRule_1 ?_
  refine g_bi (8) dX2_readRule_4 rfl ?_
  refine g_this dX2_readRule_6 rfl ?_
  refine g_getI hΓ.k fl_X2_227_X2 rfl hT dX2_readRule_7 ?_
  refine g_imul dX2_readRule_10 ?_
  refine g_this dX2_readRule_11 rfl ?_
  refine g_getR hΓ.k fl_X2_27_X2 rfl hT dX2_readRule_12 ?_
  refine g_this dX2_readRule_15 rfl ?_
  refine g_getI hΓ.k fl_X2_227_X2 rfl hT dX2_readRule_16 ?_
  replace h := bd_of h; obtain ⟨v1, ev1, h⟩ := h
  refine g_iald ev1 dX2_readRule_19 ?_
  refine g_iadd dX2_readRule_20 ?_
  refine g_this dX2_readRule_21 rfl ?_
  replace h := bd2_of h; obtain ⟨v2, m3, em3, h⟩ := h
  have C := ct_X2_fresh hΓ hT em3
  refine g_callVl hΓ.k vl_X2_287 hT C rfl rfl (Nat.le_of_ble_eq_true rfl) (Nat.le_of_ble_eq_true rfl) (Nat.le_of_ble_eq_true rfl) dX2_readRule_22 ?_
  replace hT := (C.1).kd hT
  replace h := bd_of h; obtain ⟨m4, em4, h⟩ := h
  refine g_last em4 dX2_readRule_25 ?_
  replace hT := (sL_ext em4).kd hT
  refine g_this dX2_readRule_26 rfl ?_
  refine g_this dX2_readRule_27 rfl ?_
  refine g_bi (61) dX2_readRule_28 rfl ?_
  replace h := bd2_of h; obtain ⟨v5, m6, em6, h⟩ := h
  have C := ct_X2_isSignHere hΓ hT em6
  refine g_callVi hΓ.k vl_X2_273 hT C rfl rfl (Nat.le_of_ble_eq_true rfl) (Nat.le_of_ble_eq_true rfl) (Nat.le_of_ble_eq_true rfl) dX2_readRule_30 ?_
  replace hT := (C.1).kd hT
  replace h := bd2_of h; obtain ⟨_, m7, em7, h⟩ := h
  have C := ct_X2_must hΓ hT em7
  refine g_callVv hΓ.k vl_X2_276 hT C rfl rfl (Nat.le_of_ble_eq_true rfl) (Nat.le_of_ble_eq_true rfl) (Nat.le_of_ble_eq_true rfl) dX2_readRule_33 ?_
  replace hT := (C.1).kd hT
  refine g_ic 1 dX2_readRule_36 rfl ?_
  refine g_istore_n 1 dX2_readRule_37 rfl (Nat.le_of_ble_eq_true rfl) rfl ?_
  dsimp only [List.set]
  cases h
  refine G.weak [true, true] rfl ?_
  exact Hl _ rfl hT
theorem ct_X2_readRule {Γ : GG} (hΓ : GF Γ) {m mF : MM} {x : Nat} (hT : (m.K x).1 = 3) {r : Unit} (h : f_X2_readRule x m = some (r, mF)) : Ct Γ kX2_readRule cX2_readRule [.ref x] m (.inl none) mF := by
  unfold f_X2_readRule at h
  replace h := bd_of h; obtain ⟨q, e, h⟩ := h
  have H := rx_go_ind (P := p_X2_readRule Γ m mF x r) (fun z o hs Hl Hr => by
    match z with
    | (l1, m) => exact fun hT => w_X2_readRule_38 hΓ hT hs Hl Hr) h
  exact Ct.of (κ := kX2_readRule) (by decide) rfl (Nat.le_of_ble_eq_true rfl) rfl (w_X2_readRule_0 hΓ hT e H.1 H.2)
def p_X2_readTurns (Γ : GG) (m0 mF : MM) (x : Nat) (r : Unit) : ((MM)) → Prop := fun z => match z with
  | m => (m.K x).1 = 3 → G Γ kX2_readTurns cX2_readTurns m0 mF (.inl none) m 0 [some (.ref x), none] []
set_option maxHeartbeats 4000000 in
theorem w_X2_readTurns_18 {Γ : GG} (hΓ : GF Γ) {m0 mF m : MM} {x : Nat} (hT : (m.K x).1 = 3) {r : Unit} {q : ((MM)) ⊕ (Unit × MM)} (h : b_X2_readTurns_18 x m = some q) (Hl : ∀ z, q = .inl z → p_X2_readTurns Γ m0 mF x r z) (Hr : ∀ z, q = .inr z → z = (r, mF)) : G Γ kX2_readTurns cX2_readTurns m0 mF (.inl none) m 18 [some (.ref x), none] [] := by
  unfold b_X2_readTurns_18 at h
  refine g_this dX2_readTurns_18 rfl ?_
  refine g_ic 0 dX2_readTurns_19 rfl ?_
  refine g_ic 2 dX2_readTurns_20 rfl ?_
  replace h := bd2_of h; obtain ⟨v1, m2, em2, h⟩ := h
  have C := ct_X2_numeral hΓ hT em2
  refine g_callVi hΓ.k vl_X2_266 hT C rfl rfl (Nat.le_of_ble_eq_true rfl) (Nat.le_of_ble_eq_true rfl) (Nat.le_of_ble_eq_true rfl) dX2_readTurns_21 ?_
  replace hT := (C.1).kd hT
  refine g_istore_n 1 dX2_readTurns_24 rfl (Nat.le_of_ble_eq_true rfl) rfl ?_
  dsimp only [List.set]
  refine g_this dX2_readTurns_25 rfl ?_
  replace h := bd2_of h; obtain ⟨v3, m4, em4, h⟩ := h
  have C := ct_X2_isGood hΓ hT em4
  refine g_callVi hΓ.k vl_X2_217 hT C rfl rfl (Nat.le_of_ble_eq_true rfl) (Nat.le_of_ble_eq_true rfl) (Nat.le_of_ble_eq_true rfl) dX2_readTurns_26 ?_
  replace hT := (C.1).kd hT
  replace h := ite_of h; rcases h with ⟨hc, h⟩ | ⟨hc, h⟩
  · refine g_ifneF dX2_readTurns_29 rfl hc ?_
    cases h
    cases Hr _ rfl
    exact g_vret rfl dX2_readTurns_32
  · refine g_ifneT dX2_readTurns_29 rfl hc ?_
    refine g_this dX2_readTurns_33 rfl ?_
    refine g_getR hΓ.k fl_X2_39_X2 rfl hT dX2_readTurns_34 ?_
    refine g_bi (6) dX2_readTurns_37 rfl ?_
    refine g_this dX2_readTurns_39 rfl ?_
    refine g_getI hΓ.k fl_X2_227_X2 rfl hT dX2_readTurns_40 ?_
    refine g_imul dX2_readTurns_43 ?_
    refine g_this dX2_readTurns_44 rfl ?_
    refine g_getR hΓ.k fl_X2_36_X2 rfl hT dX2_readTurns_45 ?_
    refine g_this dX2_readTurns_48 rfl ?_
    refine g_getI hΓ.k fl_X2_227_X2 rfl hT dX2_readTurns_49 ?_
    replace h := bd_of h; obtain ⟨v5, ev5, h⟩ := h
    refine g_iald ev5 dX2_readTurns_52 ?_
    refine g_iadd dX2_readTurns_53 ?_
    refine g_iload_n 1 dX2_readTurns_54 rfl rfl ?_
    replace h := bd_of h; obtain ⟨m6, em6, h⟩ := h
    refine g_iast em6 dX2_readTurns_55 ?_
    replace hT := (sI_ext em6).kd hT
    refine g_this dX2_readTurns_56 rfl ?_
    refine g_getR hΓ.k fl_X2_36_X2 rfl hT dX2_readTurns_57 ?_
    refine g_this dX2_readTurns_60 rfl ?_
    refine g_getI hΓ.k fl_X2_227_X2 rfl hT dX2_readTurns_61 ?_
    refine g_dup2 dX2_readTurns_64 rfl (va_rf_cat _) ?_
    replace h := bd_of h; obtain ⟨v7, ev7, h⟩ := h
    refine g_iald ev7 dX2_readTurns_65 ?_
    refine g_ic 1 dX2_readTurns_66 rfl ?_
    refine g_iadd dX2_readTurns_67 ?_
    replace h := bd_of h; obtain ⟨m8, em8, h⟩ := h
    refine g_iast em8 dX2_readTurns_68 ?_
    replace hT := (sI_ext em8).kd hT
    refine g_this dX2_readTurns_69 rfl ?_
    refine g_getI hΓ.k fl_X2_192_X2 rfl hT dX2_readTurns_70 ?_
    refine g_ic 4 dX2_readTurns_73 rfl ?_
    replace h := ite_of h; rcases h with ⟨hc, h⟩ | ⟨hc, h⟩
    · refine g_iceqT dX2_readTurns_74 rfl hc ?_
      cases h
      refine G.weak [true, false] rfl ?_
      exact Hl _ rfl hT
    · refine g_iceqF dX2_readTurns_74 rfl hc ?_
      cases h
      cases Hr _ rfl
      exact g_vret rfl dX2_readTurns_77
set_option maxHeartbeats 4000000 in
theorem w_X2_readTurns_0 {Γ : GG} (hΓ : GF Γ) {m0 mF m : MM} {x : Nat} (hT : (m.K x).1 = 3) {r : Unit} {q : ((MM)) ⊕ (Unit × MM)} (h : b_X2_readTurns_0 x m = some q) (Hl : ∀ z, q = .inl z → p_X2_readTurns Γ m0 mF x r z) (Hr : ∀ z, q = .inr z → z = (r, mF)) : G Γ kX2_readTurns cX2_readTurns m0 mF (.inl none) m 0 [some (.ref x), none] [] := by
  unfold b_X2_readTurns_0 at h
  refine g_this dX2_readTurns_0 rfl ?_
  refine g_getR hΓ.k fl_X2_36_X2 rfl hT dX2_readTurns_1 ?_
  refine g_this dX2_readTurns_4 rfl ?_
  refine g_getI hΓ.k fl_X2_227_X2 rfl hT dX2_readTurns_5 ?_
  replace h := bd_of h; obtain ⟨v1, ev1, h⟩ := h
  refine g_iald ev1 dX2_readTurns_8 ?_
  refine g_bi (6) dX2_readTurns_9 rfl ?_
  replace h := ite_of h; rcases h with ⟨hc, h⟩ | ⟨hc, h⟩
  · refine g_icneF dX2_readTurns_11 rfl hc ?_
    refine g_this dX2_readTurns_14 rfl ?_
    replace h := bd2_of h; obtain ⟨_, m2, em2, h⟩ := h
    have C := ct_X2_misplaced hΓ hT em2
    refine g_callVv hΓ.k vl_X2_224 hT C rfl rfl (Nat.le_of_ble_eq_true rfl) (Nat.le_of_ble_eq_true rfl) (Nat.le_of_ble_eq_true rfl) dX2_readTurns_15 ?_
    replace hT := (C.1).kd hT
    refine G.weak [true, false] rfl ?_
    exact w_X2_readTurns_18 hΓ hT h Hl Hr
  · refine g_icneT dX2_readTurns_11 rfl hc ?_
    refine G.weak [true, false] rfl ?_
    exact w_X2_readTurns_18 hΓ hT h Hl Hr
theorem ct_X2_readTurns {Γ : GG} (hΓ : GF Γ) {m mF : MM} {x : Nat} (hT : (m.K x).1 = 3) {r : Unit} (h : f_X2_readTurns x m = some (r, mF)) : Ct Γ kX2_readTurns cX2_readTurns [.ref x] m (.inl none) mF := by
  unfold f_X2_readTurns at h
  replace h := bd_of h; obtain ⟨q, e, h⟩ := h
  have H := rx_go_ind (P := p_X2_readTurns Γ m mF x r) (fun z o hs Hl Hr => by
    match z with
    | m => exact fun hT => w_X2_readTurns_0 hΓ hT hs Hl Hr) h
  exact Ct.of (κ := kX2_readTurns) (by decide) rfl (Nat.le_of_ble_eq_true rfl) rfl (w_X2_readTurns_0 hΓ hT e H.1 H.2)
def p_X2_readWord (Γ : GG) (m0 mF : MM) (x : Nat) (r : Unit) : ((Int32 × Int32 × MM)) → Prop := fun z => match z with
  | (l1, l2, m) => (m.K x).1 = 3 → G Γ kX2_readWord cX2_readWord m0 mF (.inl none) m 30 [some (.ref x), some (.int l1), some (.int l2)] []
set_option maxHeartbeats 4000000 in
theorem w_X2_readWord_30 {Γ : GG} (hΓ : GF Γ) {m0 mF m : MM} {x : Nat} {l1 : Int32} {l2 : Int32} (hT : (m.K x).1 = 3) {r : Unit} {q : ((Int32 × Int32 × MM)) ⊕ (Unit × MM)} (h : b_X2_readWord_30 x l1 l2 m = some q) (Hl : ∀ z, q = .inl z → p_X2_readWord Γ m0 mF x r z) (Hr : ∀ z, q = .inr z → z = (r, mF)) : G Γ kX2_readWord cX2_readWord m0 mF (.inl none) m 30 [some (.ref x), some (.int l1), some (.int l2)] [] := by
  unfold b_X2_readWord_30 at h
  refine g_iload_n 2 dX2_readWord_30 rfl rfl ?_
  refine g_ic 3 dX2_readWord_31 rfl ?_
  replace h := ite_of h; rcases h with ⟨hc, h⟩ | ⟨hc, h⟩
  · refine g_icgeT dX2_readWord_32 rfl hc ?_
    refine g_this dX2_readWord_61 rfl ?_
    refine g_getR hΓ.k fl_X2_20_X2 rfl hT dX2_readWord_62 ?_
    refine g_this dX2_readWord_65 rfl ?_
    refine g_getI hΓ.k fl_X2_227_X2 rfl hT dX2_readWord_66 ?_
    refine g_dup2 dX2_readWord_69 rfl (va_rf_cat _) ?_
    replace h := bd_of h; obtain ⟨v1, ev1, h⟩ := h
    refine g_iald ev1 dX2_readWord_70 ?_
    refine g_ic 1 dX2_readWord_71 rfl ?_
    refine g_iadd dX2_readWord_72 ?_
    replace h := bd_of h; obtain ⟨m2, em2, h⟩ := h
    refine g_iast em2 dX2_readWord_73 ?_
    replace hT := (sI_ext em2).kd hT
    cases h
    cases Hr _ rfl
    exact g_vret rfl dX2_readWord_74
  · refine g_icgeF dX2_readWord_32 rfl hc ?_
    refine g_this dX2_readWord_35 rfl ?_
    refine g_getR hΓ.k fl_X2_42_X2 rfl hT dX2_readWord_36 ?_
    refine g_ic 3 dX2_readWord_39 rfl ?_
    refine g_iload_n 1 dX2_readWord_40 rfl rfl ?_
    refine g_imul dX2_readWord_41 ?_
    refine g_iload_n 2 dX2_readWord_42 rfl rfl ?_
    refine g_iadd dX2_readWord_43 ?_
    refine g_this dX2_readWord_44 rfl ?_
    refine g_ic 0 dX2_readWord_45 rfl ?_
    refine g_bi (99) dX2_readWord_46 rfl ?_
    replace h := bd2_of h; obtain ⟨v3, m4, em4, h⟩ := h
    have C := ct_X2_numeral hΓ hT em4
    refine g_callVi hΓ.k vl_X2_266 hT C rfl rfl (Nat.le_of_ble_eq_true rfl) (Nat.le_of_ble_eq_true rfl) (Nat.le_of_ble_eq_true rfl) dX2_readWord_48 ?_
    replace hT := (C.1).kd hT
    refine g_bi (50) dX2_readWord_51 rfl ?_
    refine g_isub dX2_readWord_53 ?_
    replace h := bd_of h; obtain ⟨m5, em5, h⟩ := h
    refine g_iast em5 dX2_readWord_54 ?_
    replace hT := (sI_ext em5).kd hT
    refine g_iinc (l2 + (1 : Int32)) dX2_readWord_55 rfl rfl (Nat.le_of_ble_eq_true rfl) rfl ?_
    dsimp only [List.set]
    refine g_goto dX2_readWord_58 rfl ?_
    cases h
    refine G.weak [true, true, true] rfl ?_
    exact Hl _ rfl hT
set_option maxHeartbeats 4000000 in
theorem w_X2_readWord_0 {Γ : GG} (hΓ : GF Γ) {m0 mF m : MM} {x : Nat} (hT : (m.K x).1 = 3) {r : Unit} {q : ((Int32 × Int32 × MM)) ⊕ (Unit × MM)} (h : b_X2_readWord_0 x m = some q) (Hl : ∀ z, q = .inl z → p_X2_readWord Γ m0 mF x r z) (Hr : ∀ z, q = .inr z → z = (r, mF)) : G Γ kX2_readWord cX2_readWord m0 mF (.inl none) m 0 [some (.ref x), none, none] [] := by
  unfold b_X2_readWord_0 at h
  refine g_bi (8) dX2_readWord_0 rfl ?_
  refine g_this dX2_readWord_2 rfl ?_
  refine g_getI hΓ.k fl_X2_227_X2 rfl hT dX2_readWord_3 ?_
  refine g_imul dX2_readWord_6 ?_
  refine g_this dX2_readWord_7 rfl ?_
  refine g_getR hΓ.k fl_X2_20_X2 rfl hT dX2_readWord_8 ?_
  refine g_this dX2_readWord_11 rfl ?_
  refine g_getI hΓ.k fl_X2_227_X2 rfl hT dX2_readWord_12 ?_
  replace h := bd_of h; obtain ⟨v1, ev1, h⟩ := h
  refine g_iald ev1 dX2_readWord_15 ?_
  refine g_iadd dX2_readWord_16 ?_
  refine g_istore_n 1 dX2_readWord_17 rfl (Nat.le_of_ble_eq_true rfl) rfl ?_
  dsimp only [List.set]
  refine g_this dX2_readWord_18 rfl ?_
  refine g_getR hΓ.k fl_X2_67_X2 rfl hT dX2_readWord_19 ?_
  refine g_iload_n 1 dX2_readWord_22 rfl rfl ?_
  refine g_this dX2_readWord_23 rfl ?_
  replace h := bd2_of h; obtain ⟨v2, m3, em3, h⟩ := h
  have C := ct_X2_fresh hΓ hT em3
  refine g_callVl hΓ.k vl_X2_287 hT C rfl rfl (Nat.le_of_ble_eq_true rfl) (Nat.le_of_ble_eq_true rfl) (Nat.le_of_ble_eq_true rfl) dX2_readWord_24 ?_
  replace hT := (C.1).kd hT
  replace h := bd_of h; obtain ⟨m4, em4, h⟩ := h
  refine g_last em4 dX2_readWord_27 ?_
  replace hT := (sL_ext em4).kd hT
  refine g_ic 0 dX2_readWord_28 rfl ?_
  refine g_istore_n 2 dX2_readWord_29 rfl (Nat.le_of_ble_eq_true rfl) rfl ?_
  dsimp only [List.set]
  cases h
  refine G.weak [true, true, true] rfl ?_
  exact Hl _ rfl hT
theorem ct_X2_readWord {Γ : GG} (hΓ : GF Γ) {m mF : MM} {x : Nat} (hT : (m.K x).1 = 3) {r : Unit} (h : f_X2_readWord x m = some (r, mF)) : Ct Γ kX2_readWord cX2_readWord [.ref x] m (.inl none) mF := by
  unfold f_X2_readWord at h
  replace h := bd_of h; obtain ⟨q, e, h⟩ := h
  have H := rx_go_ind (P := p_X2_readWord Γ m mF x r) (fun z o hs Hl Hr => by
    match z with
    | (l1, l2, m) => exact fun hT => w_X2_readWord_30 hΓ hT hs Hl Hr) h
  exact Ct.of (κ := kX2_readWord) (by decide) rfl (Nat.le_of_ble_eq_true rfl) rfl (w_X2_readWord_0 hΓ hT e H.1 H.2)
set_option maxHeartbeats 4000000 in
theorem w_X2_readLine_118 {Γ : GG} (hΓ : GF Γ) {m0 mF m : MM} {x : Nat} (hT : (m.K x).1 = 3) {r : Unit} (h : b_X2_readLine_118 x m = some (r, mF)) : G Γ kX2_readLine cX2_readLine m0 mF (.inl none) m 118 [some (.ref x), none, none] [] := by
  unfold b_X2_readLine_118 at h
  refine g_this dX2_readLine_118 rfl ?_
  refine g_this dX2_readLine_119 rfl ?_
  refine g_bi (59) dX2_readLine_120 rfl ?_
  replace h := bd2_of h; obtain ⟨v1, m2, em2, h⟩ := h
  have C := ct_X2_isSignHere hΓ hT em2
  refine g_callVi hΓ.k vl_X2_273 hT C rfl rfl (Nat.le_of_ble_eq_true rfl) (Nat.le_of_ble_eq_true rfl) (Nat.le_of_ble_eq_true rfl) dX2_readLine_122 ?_
  replace hT := (C.1).kd hT
  replace h := bd2_of h; obtain ⟨_, m3, em3, h⟩ := h
  have C := ct_X2_must hΓ hT em3
  refine g_callVv hΓ.k vl_X2_276 hT C rfl rfl (Nat.le_of_ble_eq_true rfl) (Nat.le_of_ble_eq_true rfl) (Nat.le_of_ble_eq_true rfl) dX2_readLine_125 ?_
  replace hT := (C.1).kd hT
  cases h
  exact g_vret rfl dX2_readLine_128
set_option maxHeartbeats 4000000 in
theorem w_X2_readLine_106 {Γ : GG} (hΓ : GF Γ) {m0 mF m : MM} {x : Nat} {l1 : Int64} (hT : (m.K x).1 = 3) {r : Unit} (h : b_X2_readLine_106 x l1 m = some (r, mF)) : G Γ kX2_readLine cX2_readLine m0 mF (.inl none) m 106 [some (.ref x), some (.long l1), none] [] := by
  unfold b_X2_readLine_106 at h
  refine g_lload_n 1 dX2_readLine_106 rfl rfl ?_
  refine g_ldc2 (v := 500186639987) q1497 dX2_readLine_107 ?_
  refine g_lcmp dX2_readLine_110 ?_
  replace h := ite_of h; rcases h with ⟨hc, h⟩ | ⟨hc, h⟩
  · refine g_ifneF dX2_readLine_111 rfl hc ?_
    refine g_this dX2_readLine_114 rfl ?_
    replace h := bd2_of h; obtain ⟨_, m1, em1, h⟩ := h
    have C := ct_X2_readTurns hΓ hT em1
    refine g_callVv hΓ.k vl_X2_270 hT C rfl rfl (Nat.le_of_ble_eq_true rfl) (Nat.le_of_ble_eq_true rfl) (Nat.le_of_ble_eq_true rfl) dX2_readLine_115 ?_
    replace hT := (C.1).kd hT
    refine G.weak [true, false, false] rfl ?_
    exact w_X2_readLine_118 hΓ hT h
  · refine g_ifneT dX2_readLine_111 rfl hc ?_
    refine G.weak [true, false, false] rfl ?_
    exact w_X2_readLine_118 hΓ hT h
set_option maxHeartbeats 4000000 in
theorem w_X2_readLine_72 {Γ : GG} (hΓ : GF Γ) {m0 mF m : MM} {x : Nat} {l1 : Int64} (hT : (m.K x).1 = 3) {r : Unit} (h : b_X2_readLine_72 x l1 m = some (r, mF)) : G Γ kX2_readLine cX2_readLine m0 mF (.inl none) m 72 [some (.ref x), some (.long l1), none] [] := by
  unfold b_X2_readLine_72 at h
  refine g_lload_n 1 dX2_readLine_72 rfl rfl ?_
  refine g_ldc2 (v := 119182899770472) q1496 dX2_readLine_73 ?_
  refine g_lcmp dX2_readLine_76 ?_
  replace h := ite_of h; rcases h with ⟨hc, h⟩ | ⟨hc, h⟩
  · refine g_ifneF dX2_readLine_77 rfl hc ?_
    refine g_this dX2_readLine_80 rfl ?_
    refine g_getR hΓ.k fl_X2_64_X2 rfl hT dX2_readLine_81 ?_
    refine g_this dX2_readLine_84 rfl ?_
    refine g_getI hΓ.k fl_X2_227_X2 rfl hT dX2_readLine_85 ?_
    refine g_ic 1 dX2_readLine_88 rfl ?_
    replace h := bd_of h; obtain ⟨m1, em1, h⟩ := h
    refine g_zast em1 dX2_readLine_89 ?_
    replace hT := (sI_ext em1).kd hT
    refine g_this dX2_readLine_90 rfl ?_
    refine g_getR hΓ.k fl_X2_33_X2 rfl hT dX2_readLine_91 ?_
    refine g_this dX2_readLine_94 rfl ?_
    refine g_getI hΓ.k fl_X2_227_X2 rfl hT dX2_readLine_95 ?_
    refine g_this dX2_readLine_98 rfl ?_
    refine g_ic 1 dX2_readLine_99 rfl ?_
    refine g_bi (6) dX2_readLine_100 rfl ?_
    replace h := bd2_of h; obtain ⟨v2, m3, em3, h⟩ := h
    have C := ct_X2_numeral hΓ hT em3
    refine g_callVi hΓ.k vl_X2_266 hT C rfl rfl (Nat.le_of_ble_eq_true rfl) (Nat.le_of_ble_eq_true rfl) (Nat.le_of_ble_eq_true rfl) dX2_readLine_102 ?_
    replace hT := (C.1).kd hT
    replace h := bd_of h; obtain ⟨m4, em4, h⟩ := h
    refine g_iast em4 dX2_readLine_105 ?_
    replace hT := (sI_ext em4).kd hT
    refine G.weak [true, true, false] rfl ?_
    exact w_X2_readLine_106 hΓ hT h
  · refine g_ifneT dX2_readLine_77 rfl hc ?_
    refine G.weak [true, true, false] rfl ?_
    exact w_X2_readLine_106 hΓ hT h
set_option maxHeartbeats 4000000 in
theorem w_X2_readLine_60 {Γ : GG} (hΓ : GF Γ) {m0 mF m : MM} {x : Nat} {l1 : Int64} (hT : (m.K x).1 = 3) {r : Unit} (h : b_X2_readLine_60 x l1 m = some (r, mF)) : G Γ kX2_readLine cX2_readLine m0 mF (.inl none) m 60 [some (.ref x), some (.long l1), none] [] := by
  unfold b_X2_readLine_60 at h
  refine g_lload_n 1 dX2_readLine_60 rfl rfl ?_
  refine g_ldc2 (v := 1920298085) q1494 dX2_readLine_61 ?_
  refine g_lcmp dX2_readLine_64 ?_
  replace h := ite_of h; rcases h with ⟨hc, h⟩ | ⟨hc, h⟩
  · refine g_ifneF dX2_readLine_65 rfl hc ?_
    refine g_this dX2_readLine_68 rfl ?_
    replace h := bd2_of h; obtain ⟨_, m1, em1, h⟩ := h
    have C := ct_X2_readRule hΓ hT em1
    refine g_callVv hΓ.k vl_X2_263 hT C rfl rfl (Nat.le_of_ble_eq_true rfl) (Nat.le_of_ble_eq_true rfl) (Nat.le_of_ble_eq_true rfl) dX2_readLine_69 ?_
    replace hT := (C.1).kd hT
    refine G.weak [true, true, false] rfl ?_
    exact w_X2_readLine_72 hΓ hT h
  · refine g_ifneT dX2_readLine_65 rfl hc ?_
    refine G.weak [true, true, false] rfl ?_
    exact w_X2_readLine_72 hΓ hT h
set_option maxHeartbeats 4000000 in
theorem w_X2_readLine_48 {Γ : GG} (hΓ : GF Γ) {m0 mF m : MM} {x : Nat} {l1 : Int64} (hT : (m.K x).1 = 3) {r : Unit} (h : b_X2_readLine_48 x l1 m = some (r, mF)) : G Γ kX2_readLine cX2_readLine m0 mF (.inl none) m 48 [some (.ref x), some (.long l1), none] [] := by
  unfold b_X2_readLine_48 at h
  refine g_lload_n 1 dX2_readLine_48 rfl rfl ?_
  refine g_ldc2 (v := 1885432178) q1493 dX2_readLine_49 ?_
  refine g_lcmp dX2_readLine_52 ?_
  replace h := ite_of h; rcases h with ⟨hc, h⟩ | ⟨hc, h⟩
  · refine g_ifneF dX2_readLine_53 rfl hc ?_
    refine g_this dX2_readLine_56 rfl ?_
    replace h := bd2_of h; obtain ⟨_, m1, em1, h⟩ := h
    have C := ct_X2_readPair hΓ hT em1
    refine g_callVv hΓ.k vl_X2_260 hT C rfl rfl (Nat.le_of_ble_eq_true rfl) (Nat.le_of_ble_eq_true rfl) (Nat.le_of_ble_eq_true rfl) dX2_readLine_57 ?_
    replace hT := (C.1).kd hT
    refine G.weak [true, true, false] rfl ?_
    exact w_X2_readLine_60 hΓ hT h
  · refine g_ifneT dX2_readLine_53 rfl hc ?_
    refine G.weak [true, true, false] rfl ?_
    exact w_X2_readLine_60 hΓ hT h
set_option maxHeartbeats 4000000 in
theorem w_X2_readLine_24 {Γ : GG} (hΓ : GF Γ) {m0 mF m : MM} {x : Nat} {l1 : Int64} (hT : (m.K x).1 = 3) {r : Unit} (h : b_X2_readLine_24 x l1 m = some (r, mF)) : G Γ kX2_readLine cX2_readLine m0 mF (.inl none) m 24 [some (.ref x), some (.long l1), none] [] := by
  unfold b_X2_readLine_24 at h
  refine g_this dX2_readLine_24 rfl ?_
  replace h := bd2_of h; obtain ⟨v1, m2, em2, h⟩ := h
  have C := ct_X2_isGood hΓ hT em2
  refine g_callVi hΓ.k vl_X2_217 hT C rfl rfl (Nat.le_of_ble_eq_true rfl) (Nat.le_of_ble_eq_true rfl) (Nat.le_of_ble_eq_true rfl) dX2_readLine_25 ?_
  replace hT := (C.1).kd hT
  replace h := ite_of h; rcases h with ⟨hc, h⟩ | ⟨hc, h⟩
  · refine g_ifneF dX2_readLine_28 rfl hc ?_
    cases h
    exact g_vret rfl dX2_readLine_31
  · refine g_ifneT dX2_readLine_28 rfl hc ?_
    refine g_this dX2_readLine_32 rfl ?_
    replace h := bd2_of h; obtain ⟨_, m3, em3, h⟩ := h
    have C := ct_X2_goOn hΓ hT em3
    refine g_callVv hΓ.k vl_X2_221 hT C rfl rfl (Nat.le_of_ble_eq_true rfl) (Nat.le_of_ble_eq_true rfl) (Nat.le_of_ble_eq_true rfl) dX2_readLine_33 ?_
    replace hT := (C.1).kd hT
    refine g_lload_n 1 dX2_readLine_36 rfl rfl ?_
    refine g_ldc2 (v := 2003792484) q1492 dX2_readLine_37 ?_
    refine g_lcmp dX2_readLine_40 ?_
    replace h := ite_of h; rcases h with ⟨hc, h⟩ | ⟨hc, h⟩
    · refine g_ifneF dX2_readLine_41 rfl hc ?_
      refine g_this dX2_readLine_44 rfl ?_
      replace h := bd2_of h; obtain ⟨_, m4, em4, h⟩ := h
      have C := ct_X2_readWord hΓ hT em4
      refine g_callVv hΓ.k vl_X2_257 hT C rfl rfl (Nat.le_of_ble_eq_true rfl) (Nat.le_of_ble_eq_true rfl) (Nat.le_of_ble_eq_true rfl) dX2_readLine_45 ?_
      replace hT := (C.1).kd hT
      refine G.weak [true, true, false] rfl ?_
      exact w_X2_readLine_48 hΓ hT h
    · refine g_ifneT dX2_readLine_41 rfl hc ?_
      refine G.weak [true, true, false] rfl ?_
      exact w_X2_readLine_48 hΓ hT h
set_option maxHeartbeats 4000000 in
theorem w_X2_readLine_20 {Γ : GG} (hΓ : GF Γ) {m0 mF m : MM} {x : Nat} {l1 : Int64} (hT : (m.K x).1 = 3) {r : Unit} (h : b_X2_readLine_20 x l1 m = some (r, mF)) : G Γ kX2_readLine cX2_readLine m0 mF (.inl none) m 20 [some (.ref x), some (.long l1), none] [] := by
  unfold b_X2_readLine_20 at h
  refine g_this dX2_readLine_20 rfl ?_
  replace h := bd2_of h; obtain ⟨_, m1, em1, h⟩ := h
  have C := ct_X2_misplaced hΓ hT em1
  refine g_callVv hΓ.k vl_X2_224 hT C rfl rfl (Nat.le_of_ble_eq_true rfl) (Nat.le_of_ble_eq_true rfl) (Nat.le_of_ble_eq_true rfl) dX2_readLine_21 ?_
  replace hT := (C.1).kd hT
  refine G.weak [true, true, false] rfl ?_
  exact w_X2_readLine_24 hΓ hT h
set_option maxHeartbeats 4000000 in
theorem w_X2_readLine_0 {Γ : GG} (hΓ : GF Γ) {m0 mF m : MM} {x : Nat} (hT : (m.K x).1 = 3) {r : Unit} (h : b_X2_readLine_0 x m = some (r, mF)) : G Γ kX2_readLine cX2_readLine m0 mF (.inl none) m 0 [some (.ref x), none, none] [] := by
  unfold b_X2_readLine_0 at h
  refine g_this dX2_readLine_0 rfl ?_
  refine g_getL hΓ.k fl_X2_199_X2 rfl hT dX2_readLine_1 ?_
  refine g_lstore_n 1 dX2_readLine_4 rfl (Nat.le_of_ble_eq_true rfl) rfl ?_
  dsimp only [List.set]
  refine g_this dX2_readLine_5 rfl ?_
  refine g_getI hΓ.k fl_X2_192_X2 rfl hT dX2_readLine_6 ?_
  refine g_ic 3 dX2_readLine_9 rfl ?_
  replace h := ite_of h; rcases h with ⟨hc, h⟩ | ⟨hc, h⟩
  · refine g_icneF dX2_readLine_10 rfl hc ?_
    refine g_this dX2_readLine_13 rfl ?_
    replace h := bd2_of h; obtain ⟨v1, m2, em2, h⟩ := h
    have C := ct_X2_isFull hΓ hT em2
    refine g_callVi hΓ.k vl_X2_254 hT C rfl rfl (Nat.le_of_ble_eq_true rfl) (Nat.le_of_ble_eq_true rfl) (Nat.le_of_ble_eq_true rfl) dX2_readLine_14 ?_
    replace hT := (C.1).kd hT
    replace h := ite_of h; rcases h with ⟨hc, h⟩ | ⟨hc, h⟩
    · refine g_ifeqT dX2_readLine_17 rfl hc ?_
      refine G.weak [true, true, false] rfl ?_
      exact w_X2_readLine_24 hΓ hT h
    · refine g_ifeqF dX2_readLine_17 rfl hc ?_
      refine G.weak [true, true, false] rfl ?_
      exact w_X2_readLine_20 hΓ hT h
  · refine g_icneT dX2_readLine_10 rfl hc ?_
    refine G.weak [true, true, false] rfl ?_
    exact w_X2_readLine_20 hΓ hT h
theorem ct_X2_readLine {Γ : GG} (hΓ : GF Γ) {m mF : MM} {x : Nat} (hT : (m.K x).1 = 3) {r : Unit} (h : f_X2_readLine x m = some (r, mF)) : Ct Γ kX2_readLine cX2_readLine [.ref x] m (.inl none) mF := by
  unfold f_X2_readLine at h
  exact Ct.of (κ := kX2_readLine) (by decide) rfl (Nat.le_of_ble_eq_true rfl) rfl (w_X2_readLine_0 hΓ hT h)
def p_X2_settle (Γ : GG) (m0 mF : MM) (x : Nat) (r : Unit) : ((Int32 × MM) ⊕ (Int32 × Int32 × MM)) → Prop := fun z => match z with
  | (.inl (l1, m)) => (m.K x).1 = 3 → G Γ kX2_settle cX2_settle m0 mF (.inl none) m 8 [some (.ref x), some (.int l1), none, none, none] []
  | (.inr (l1, l2, m)) => (m.K x).1 = 3 → G Γ kX2_settle cX2_settle m0 mF (.inl none) m 33 [some (.ref x), some (.int l1), some (.int l2), none, none] []
set_option maxHeartbeats 4000000 in
theorem w_X2_settle_133 {Γ : GG} (hΓ : GF Γ) {m0 mF m : MM} {x : Nat} {l1 : Int32} {l2 : Int32} {l3 : Int32} {l4 : Int32} (hT : (m.K x).1 = 3) {r : Unit} {q : ((Int32 × MM) ⊕ (Int32 × Int32 × MM)) ⊕ (Unit × MM)} (h : b_X2_settle_133 x l1 l2 l3 l4 m = some q) (Hl : ∀ z, q = .inl z → p_X2_settle Γ m0 mF x r z) (Hr : ∀ z, q = .inr z → z = (r, mF)) : G Γ kX2_settle cX2_settle m0 mF (.inl none) m 133 [some (.ref x), some (.int l1), some (.int l2), some (.int l3), some (.int l4)] [] := by
  unfold b_X2_settle_133 at h
  refine g_this dX2_settle_133 rfl ?_
  refine g_getR hΓ.k fl_X2_54_X2 rfl hT dX2_settle_134 ?_
  refine g_iload_n 2 dX2_settle_137 rfl rfl ?_
  refine g_iload_n 3 dX2_settle_138 rfl rfl ?_
  replace h := ite_of h; rcases h with ⟨hc, h⟩ | ⟨hc, h⟩
  · refine g_ifltT dX2_settle_139 rfl hc ?_
    refine g_bi (8) dX2_settle_146 rfl ?_
    refine g_iload dX2_settle_148 rfl ?_
    refine g_iadd dX2_settle_150 ?_
    replace h := bd_of h; obtain ⟨m1, em1, h⟩ := h
    refine g_iast em1 dX2_settle_151 ?_
    replace hT := (sI_ext em1).kd hT
    refine g_iinc (l2 + (1 : Int32)) dX2_settle_152 rfl rfl (Nat.le_of_ble_eq_true rfl) rfl ?_
    dsimp only [List.set]
    refine g_goto dX2_settle_155 rfl ?_
    cases h
    refine G.weak [true, true, true, false, false] rfl ?_
    exact Hl _ rfl hT
  · refine g_ifltF dX2_settle_139 rfl hc ?_
    refine g_iload_n 3 dX2_settle_142 rfl rfl ?_
    refine g_goto dX2_settle_143 rfl ?_
    replace h := bd_of h; obtain ⟨m2, em2, h⟩ := h
    refine g_iast em2 dX2_settle_151 ?_
    replace hT := (sI_ext em2).kd hT
    refine g_iinc (l2 + (1 : Int32)) dX2_settle_152 rfl rfl (Nat.le_of_ble_eq_true rfl) rfl ?_
    dsimp only [List.set]
    refine g_goto dX2_settle_155 rfl ?_
    cases h
    refine G.weak [true, true, true, false, false] rfl ?_
    exact Hl _ rfl hT
set_option maxHeartbeats 4000000 in
theorem w_X2_settle_91 {Γ : GG} (hΓ : GF Γ) {m0 mF m : MM} {x : Nat} {l1 : Int32} {l2 : Int32} {l3 : Int32} {l4 : Int32} (hT : (m.K x).1 = 3) {r : Unit} {q : ((Int32 × MM) ⊕ (Int32 × Int32 × MM)) ⊕ (Unit × MM)} (h : b_X2_settle_91 x l1 l2 l3 l4 m = some q) (Hl : ∀ z, q = .inl z → p_X2_settle Γ m0 mF x r z) (Hr : ∀ z, q = .inr z → z = (r, mF)) : G Γ kX2_settle cX2_settle m0 mF (.inl none) m 91 [some (.ref x), some (.int l1), some (.int l2), some (.int l3), some (.int l4)] [] := by
  unfold b_X2_settle_91 at h
  refine g_iload_n 3 dX2_settle_91 rfl rfl ?_
  replace h := ite_of h; rcases h with ⟨hc, h⟩ | ⟨hc, h⟩
  · refine g_ifgeT dX2_settle_92 rfl hc ?_
    refine G.weak [true, true, true, true, true] rfl ?_
    exact w_X2_settle_133 hΓ hT h Hl Hr
  · refine g_ifgeF dX2_settle_92 rfl hc ?_
    refine g_iload dX2_settle_95 rfl ?_
    replace h := ite_of h; rcases h with ⟨hc, h⟩ | ⟨hc, h⟩
    · refine g_ifltT dX2_settle_97 rfl hc ?_
      refine G.weak [true, true, true, true, true] rfl ?_
      exact w_X2_settle_133 hΓ hT h Hl Hr
    · refine g_ifltF dX2_settle_97 rfl hc ?_
      refine g_this dX2_settle_100 rfl ?_
      refine g_getR hΓ.k fl_X2_51_X2 rfl hT dX2_settle_101 ?_
      refine g_iload_n 1 dX2_settle_104 rfl rfl ?_
      replace h := bd_of h; obtain ⟨v1, ev1, h⟩ := h
      refine g_iald ev1 dX2_settle_105 ?_
      refine g_ic 1 dX2_settle_106 rfl ?_
      replace h := ite_of h; rcases h with ⟨hc, h⟩ | ⟨hc, h⟩
      · refine g_icneF dX2_settle_107 rfl hc ?_
        refine g_iload dX2_settle_110 rfl ?_
        refine g_this dX2_settle_112 rfl ?_
        refine g_getR hΓ.k fl_X2_48_X2 rfl hT dX2_settle_113 ?_
        refine g_iload_n 1 dX2_settle_116 rfl rfl ?_
        replace h := bd_of h; obtain ⟨v2, ev2, h⟩ := h
        refine g_iald ev2 dX2_settle_117 ?_
        replace h := ite_of h; rcases h with ⟨hc, h⟩ | ⟨hc, h⟩
        · refine g_icgtT dX2_settle_118 rfl hc ?_
          refine G.weak [true, true, true, true, true] rfl ?_
          exact w_X2_settle_133 hΓ hT h Hl Hr
        · refine g_icgtF dX2_settle_118 rfl hc ?_
          refine g_this dX2_settle_121 rfl ?_
          refine g_bi (7) dX2_settle_122 rfl ?_
          refine g_this dX2_settle_124 rfl ?_
          refine g_getR hΓ.k fl_X2_57_X2 rfl hT dX2_settle_125 ?_
          refine g_iload_n 2 dX2_settle_128 rfl rfl ?_
          replace h := bd_of h; obtain ⟨v3, ev3, h⟩ := h
          refine g_iald ev3 dX2_settle_129 ?_
          replace h := bd2_of h; obtain ⟨_, m4, em4, h⟩ := h
          have C := ct_X2_fails hΓ hT em4
          refine g_callVv hΓ.k vl_X2_213 hT C rfl rfl (Nat.le_of_ble_eq_true rfl) (Nat.le_of_ble_eq_true rfl) (Nat.le_of_ble_eq_true rfl) dX2_settle_130 ?_
          replace hT := (C.1).kd hT
          refine G.weak [true, true, true, true, true] rfl ?_
          exact w_X2_settle_133 hΓ hT h Hl Hr
      · refine g_icneT dX2_settle_107 rfl hc ?_
        refine G.weak [true, true, true, true, true] rfl ?_
        exact w_X2_settle_133 hΓ hT h Hl Hr
set_option maxHeartbeats 4000000 in
theorem w_X2_settle_33 {Γ : GG} (hΓ : GF Γ) {m0 mF m : MM} {x : Nat} {l1 : Int32} {l2 : Int32} (hT : (m.K x).1 = 3) {r : Unit} {q : ((Int32 × MM) ⊕ (Int32 × Int32 × MM)) ⊕ (Unit × MM)} (h : b_X2_settle_33 x l1 l2 m = some q) (Hl : ∀ z, q = .inl z → p_X2_settle Γ m0 mF x r z) (Hr : ∀ z, q = .inr z → z = (r, mF)) : G Γ kX2_settle cX2_settle m0 mF (.inl none) m 33 [some (.ref x), some (.int l1), some (.int l2), none, none] [] := by
  unfold b_X2_settle_33 at h
  refine g_iload_n 2 dX2_settle_33 rfl rfl ?_
  refine g_ic 4 dX2_settle_34 rfl ?_
  refine g_iload_n 1 dX2_settle_35 rfl rfl ?_
  refine g_imul dX2_settle_36 ?_
  refine g_this dX2_settle_37 rfl ?_
  refine g_getR hΓ.k fl_X2_51_X2 rfl hT dX2_settle_38 ?_
  refine g_iload_n 1 dX2_settle_41 rfl rfl ?_
  replace h := bd_of h; obtain ⟨v1, ev1, h⟩ := h
  refine g_iald ev1 dX2_settle_42 ?_
  refine g_iadd dX2_settle_43 ?_
  replace h := ite_of h; rcases h with ⟨hc, h⟩ | ⟨hc, h⟩
  · refine g_icgeT dX2_settle_44 rfl hc ?_
    refine g_iinc (l1 + (1 : Int32)) dX2_settle_158 rfl rfl (Nat.le_of_ble_eq_true rfl) rfl ?_
    dsimp only [List.set]
    refine g_goto dX2_settle_161 rfl ?_
    cases h
    refine G.weak [true, true, false, false, false] rfl ?_
    exact Hl _ rfl hT
  · refine g_icgeF dX2_settle_44 rfl hc ?_
    refine g_this dX2_settle_47 rfl ?_
    refine g_this dX2_settle_48 rfl ?_
    refine g_getR hΓ.k fl_X2_74_X2 rfl hT dX2_settle_49 ?_
    refine g_iload_n 2 dX2_settle_52 rfl rfl ?_
    replace h := bd_of h; obtain ⟨v2, ev2, h⟩ := h
    refine g_lald ev2 dX2_settle_53 ?_
    replace h := bd2_of h; obtain ⟨v3, m4, em4, h⟩ := h
    have C := ct_X2_wordOf hΓ hT em4
    refine g_callVi hΓ.k vl_X2_280 hT C rfl rfl (Nat.le_of_ble_eq_true rfl) (Nat.le_of_ble_eq_true rfl) (Nat.le_of_ble_eq_true rfl) dX2_settle_54 ?_
    replace hT := (C.1).kd hT
    refine g_istore_n 3 dX2_settle_57 rfl (Nat.le_of_ble_eq_true rfl) rfl ?_
    dsimp only [List.set]
    refine g_this dX2_settle_58 rfl ?_
    refine g_this dX2_settle_59 rfl ?_
    refine g_getR hΓ.k fl_X2_74_X2 rfl hT dX2_settle_60 ?_
    refine g_iload_n 2 dX2_settle_63 rfl rfl ?_
    replace h := bd_of h; obtain ⟨v5, ev5, h⟩ := h
    refine g_lald ev5 dX2_settle_64 ?_
    replace h := bd2_of h; obtain ⟨v6, m7, em7, h⟩ := h
    have C := ct_X2_ruleOf hΓ hT em7
    refine g_callVi hΓ.k vl_X2_284 hT C rfl rfl (Nat.le_of_ble_eq_true rfl) (Nat.le_of_ble_eq_true rfl) (Nat.le_of_ble_eq_true rfl) dX2_settle_65 ?_
    replace hT := (C.1).kd hT
    refine g_istore dX2_settle_68 (Nat.le_of_ble_eq_true rfl) rfl ?_
    dsimp only [List.set]
    refine g_iload_n 3 dX2_settle_70 rfl rfl ?_
    replace h := ite_of h; rcases h with ⟨hc, h⟩ | ⟨hc, h⟩
    · refine g_ifgeT dX2_settle_71 rfl hc ?_
      refine G.weak [true, true, true, true, true] rfl ?_
      exact w_X2_settle_91 hΓ hT h Hl Hr
    · refine g_ifgeF dX2_settle_71 rfl hc ?_
      refine g_iload dX2_settle_74 rfl ?_
      replace h := ite_of h; rcases h with ⟨hc, h⟩ | ⟨hc, h⟩
      · refine g_ifgeT dX2_settle_76 rfl hc ?_
        refine G.weak [true, true, true, true, true] rfl ?_
        exact w_X2_settle_91 hΓ hT h Hl Hr
      · refine g_ifgeF dX2_settle_76 rfl hc ?_
        refine g_this dX2_settle_79 rfl ?_
        refine g_bi (6) dX2_settle_80 rfl ?_
        refine g_this dX2_settle_82 rfl ?_
        refine g_getR hΓ.k fl_X2_57_X2 rfl hT dX2_settle_83 ?_
        refine g_iload_n 2 dX2_settle_86 rfl rfl ?_
        replace h := bd_of h; obtain ⟨v8, ev8, h⟩ := h
        refine g_iald ev8 dX2_settle_87 ?_
        replace h := bd2_of h; obtain ⟨_, m9, em9, h⟩ := h
        have C := ct_X2_fails hΓ hT em9
        refine g_callVv hΓ.k vl_X2_213 hT C rfl rfl (Nat.le_of_ble_eq_true rfl) (Nat.le_of_ble_eq_true rfl) (Nat.le_of_ble_eq_true rfl) dX2_settle_88 ?_
        replace hT := (C.1).kd hT
        refine G.weak [true, true, true, true, true] rfl ?_
        exact w_X2_settle_91 hΓ hT h Hl Hr
set_option maxHeartbeats 4000000 in
theorem w_X2_settle_8 {Γ : GG} (hΓ : GF Γ) {m0 mF m : MM} {x : Nat} {l1 : Int32} (hT : (m.K x).1 = 3) {r : Unit} {q : ((Int32 × MM) ⊕ (Int32 × Int32 × MM)) ⊕ (Unit × MM)} (h : b_X2_settle_8 x l1 m = some q) (Hl : ∀ z, q = .inl z → p_X2_settle Γ m0 mF x r z) (Hr : ∀ z, q = .inr z → z = (r, mF)) : G Γ kX2_settle cX2_settle m0 mF (.inl none) m 8 [some (.ref x), some (.int l1), none, none, none] [] := by
  unfold b_X2_settle_8 at h
  refine g_iload_n 1 dX2_settle_8 rfl rfl ?_
  refine g_bi (24) dX2_settle_9 rfl ?_
  refine g_this dX2_settle_11 rfl ?_
  refine g_getI hΓ.k fl_X2_227_X2 rfl hT dX2_settle_12 ?_
  refine g_imul dX2_settle_15 ?_
  refine g_this dX2_settle_16 rfl ?_
  refine g_getR hΓ.k fl_X2_30_X2 rfl hT dX2_settle_17 ?_
  refine g_this dX2_settle_20 rfl ?_
  refine g_getI hΓ.k fl_X2_227_X2 rfl hT dX2_settle_21 ?_
  replace h := bd_of h; obtain ⟨v1, ev1, h⟩ := h
  refine g_iald ev1 dX2_settle_24 ?_
  refine g_iadd dX2_settle_25 ?_
  replace h := ite_of h; rcases h with ⟨hc, h⟩ | ⟨hc, h⟩
  · refine g_icgeT dX2_settle_26 rfl hc ?_
    cases h
    cases Hr _ rfl
    exact g_vret rfl dX2_settle_164
  · refine g_icgeF dX2_settle_26 rfl hc ?_
    refine g_ic 4 dX2_settle_29 rfl ?_
    refine g_iload_n 1 dX2_settle_30 rfl rfl ?_
    refine g_imul dX2_settle_31 ?_
    refine g_istore_n 2 dX2_settle_32 rfl (Nat.le_of_ble_eq_true rfl) rfl ?_
    dsimp only [List.set]
    cases h
    refine G.weak [true, true, true, false, false] rfl ?_
    exact Hl _ rfl hT
set_option maxHeartbeats 4000000 in
theorem w_X2_settle_0 {Γ : GG} (hΓ : GF Γ) {m0 mF m : MM} {x : Nat} (hT : (m.K x).1 = 3) {r : Unit} {q : ((Int32 × MM) ⊕ (Int32 × Int32 × MM)) ⊕ (Unit × MM)} (h : b_X2_settle_0 x m = some q) (Hl : ∀ z, q = .inl z → p_X2_settle Γ m0 mF x r z) (Hr : ∀ z, q = .inr z → z = (r, mF)) : G Γ kX2_settle cX2_settle m0 mF (.inl none) m 0 [some (.ref x), none, none, none, none] [] := by
  unfold b_X2_settle_0 at h
  refine g_bi (24) dX2_settle_0 rfl ?_
  refine g_this dX2_settle_2 rfl ?_
  refine g_getI hΓ.k fl_X2_227_X2 rfl hT dX2_settle_3 ?_
  refine g_imul dX2_settle_6 ?_
  refine g_istore_n 1 dX2_settle_7 rfl (Nat.le_of_ble_eq_true rfl) rfl ?_
  dsimp only [List.set]
  cases h
  refine G.weak [true, true, false, false, false] rfl ?_
  exact Hl _ rfl hT
theorem ct_X2_settle {Γ : GG} (hΓ : GF Γ) {m mF : MM} {x : Nat} (hT : (m.K x).1 = 3) {r : Unit} (h : f_X2_settle x m = some (r, mF)) : Ct Γ kX2_settle cX2_settle [.ref x] m (.inl none) mF := by
  unfold f_X2_settle at h
  replace h := bd_of h; obtain ⟨q, e, h⟩ := h
  have H := rx_go_ind (P := p_X2_settle Γ m mF x r) (fun z o hs Hl Hr => by
    match z with
    | (.inl (l1, m)) => exact fun hT => w_X2_settle_8 hΓ hT hs Hl Hr
    | (.inr (l1, l2, m)) => exact fun hT => w_X2_settle_33 hΓ hT hs Hl Hr) h
  exact Ct.of (κ := kX2_settle) (by decide) rfl (Nat.le_of_ble_eq_true rfl) rfl (w_X2_settle_0 hΓ hT e H.1 H.2)
def p_X2_port (Γ : GG) (m0 mF : MM) (x : Nat) (r : Int32) : ((Int32 × MM) ⊕ (MM) ⊕ (Int32 × MM) ⊕ (Int32 × MM)) → Prop := fun z => match z with
  | (.inl (l1, m)) => (m.K x).1 = 3 → G Γ kX2_port cX2_port m0 mF (.inl (some (.int r))) m 20 [some (.ref x), some (.int l1)] []
  | (.inr (.inl m)) => (m.K x).1 = 3 → G Γ kX2_port cX2_port m0 mF (.inl (some (.int r))) m 74 [some (.ref x), none] []
  | (.inr (.inr (.inl (l1, m)))) => (m.K x).1 = 3 → G Γ kX2_port cX2_port m0 mF (.inl (some (.int r))) m 134 [some (.ref x), some (.int l1)] []
  | (.inr (.inr (.inr (l1, m)))) => (m.K x).1 = 3 → G Γ kX2_port cX2_port m0 mF (.inl (some (.int r))) m 165 [some (.ref x), some (.int l1)] []
set_option maxHeartbeats 4000000 in
theorem w_X2_port_165 {Γ : GG} (hΓ : GF Γ) {m0 mF m : MM} {x : Nat} {l1 : Int32} (hT : (m.K x).1 = 3) {r : Int32} {q : ((Int32 × MM) ⊕ (MM) ⊕ (Int32 × MM) ⊕ (Int32 × MM)) ⊕ (Int32 × MM)} (h : b_X2_port_165 x l1 m = some q) (Hl : ∀ z, q = .inl z → p_X2_port Γ m0 mF x r z) (Hr : ∀ z, q = .inr z → z = (r, mF)) : G Γ kX2_port cX2_port m0 mF (.inl (some (.int r))) m 165 [some (.ref x), some (.int l1)] [] := by
  unfold b_X2_port_165 at h
  refine g_iload_n 1 dX2_port_165 rfl rfl ?_
  refine g_ic 3 dX2_port_166 rfl ?_
  replace h := ite_of h; rcases h with ⟨hc, h⟩ | ⟨hc, h⟩
  · refine g_icgeT dX2_port_167 rfl hc ?_
    refine g_this dX2_port_183 rfl ?_
    refine g_getR hΓ.k fl_X2_20_X2 rfl hT dX2_port_184 ?_
    refine g_this dX2_port_187 rfl ?_
    refine g_getI hΓ.k fl_X2_233_X2 rfl hT dX2_port_188 ?_
    replace h := bd_of h; obtain ⟨v1, ev1, h⟩ := h
    refine g_iald ev1 dX2_port_191 ?_
    cases h
    cases Hr _ rfl
    exact g_iret rfl dX2_port_192
  · refine g_icgeF dX2_port_167 rfl hc ?_
    refine g_this dX2_port_170 rfl ?_
    refine g_getR hΓ.k fl_X2_149_X2 rfl hT dX2_port_171 ?_
    refine g_iload_n 1 dX2_port_174 rfl rfl ?_
    refine g_ic (-1) dX2_port_175 rfl ?_
    replace h := bd_of h; obtain ⟨m2, em2, h⟩ := h
    refine g_iast em2 dX2_port_176 ?_
    replace hT := (sI_ext em2).kd hT
    refine g_iinc (l1 + (1 : Int32)) dX2_port_177 rfl rfl (Nat.le_of_ble_eq_true rfl) rfl ?_
    dsimp only [List.set]
    refine g_goto dX2_port_180 rfl ?_
    cases h
    refine G.weak [true, true] rfl ?_
    exact Hl _ rfl hT
set_option maxHeartbeats 4000000 in
theorem w_X2_port_134 {Γ : GG} (hΓ : GF Γ) {m0 mF m : MM} {x : Nat} {l1 : Int32} (hT : (m.K x).1 = 3) {r : Int32} {q : ((Int32 × MM) ⊕ (MM) ⊕ (Int32 × MM) ⊕ (Int32 × MM)) ⊕ (Int32 × MM)} (h : b_X2_port_134 x l1 m = some q) (Hl : ∀ z, q = .inl z → p_X2_port Γ m0 mF x r z) (Hr : ∀ z, q = .inr z → z = (r, mF)) : G Γ kX2_port cX2_port m0 mF (.inl (some (.int r))) m 134 [some (.ref x), some (.int l1)] [] := by
  unfold b_X2_port_134 at h
  refine g_iload_n 1 dX2_port_134 rfl rfl ?_
  refine g_bi (6) dX2_port_135 rfl ?_
  replace h := ite_of h; rcases h with ⟨hc, h⟩ | ⟨hc, h⟩
  · refine g_icgeT dX2_port_137 rfl hc ?_
    refine g_this dX2_port_153 rfl ?_
    refine g_ic 0 dX2_port_154 rfl ?_
    replace h := bd_of h; obtain ⟨m1, em1, h⟩ := h
    refine g_pI hΓ.k fl_X2_245_X2 (fun h9 => by cases h9) rfl (Or.inl ⟨rfl, rfl⟩) em1 dX2_port_155 ?_
    replace hT := (pI_ext em1).kd hT
    refine g_this dX2_port_158 rfl ?_
    refine g_ic 0 dX2_port_159 rfl ?_
    replace h := bd_of h; obtain ⟨m2, em2, h⟩ := h
    refine g_pI hΓ.k fl_X2_248_X2 (fun h9 => by cases h9) rfl (Or.inl ⟨rfl, rfl⟩) em2 dX2_port_160 ?_
    replace hT := (pI_ext em2).kd hT
    refine g_ic 0 dX2_port_163 rfl ?_
    refine g_istore_n 1 dX2_port_164 rfl (Nat.le_of_ble_eq_true rfl) rfl ?_
    dsimp only [List.set]
    cases h
    refine G.weak [true, true] rfl ?_
    exact Hl _ rfl hT
  · refine g_icgeF dX2_port_137 rfl hc ?_
    refine g_this dX2_port_140 rfl ?_
    refine g_getR hΓ.k fl_X2_98_X2 rfl hT dX2_port_141 ?_
    refine g_iload_n 1 dX2_port_144 rfl rfl ?_
    refine g_ic (-1) dX2_port_145 rfl ?_
    replace h := bd_of h; obtain ⟨m3, em3, h⟩ := h
    refine g_iast em3 dX2_port_146 ?_
    replace hT := (sI_ext em3).kd hT
    refine g_iinc (l1 + (1 : Int32)) dX2_port_147 rfl rfl (Nat.le_of_ble_eq_true rfl) rfl ?_
    dsimp only [List.set]
    refine g_goto dX2_port_150 rfl ?_
    cases h
    refine G.weak [true, true] rfl ?_
    exact Hl _ rfl hT
set_option maxHeartbeats 4000000 in
theorem w_X2_port_106 {Γ : GG} (hΓ : GF Γ) {m0 mF m : MM} {x : Nat} (hT : (m.K x).1 = 3) {r : Int32} {q : ((Int32 × MM) ⊕ (MM) ⊕ (Int32 × MM) ⊕ (Int32 × MM)) ⊕ (Int32 × MM)} (h : b_X2_port_106 x m = some q) (Hl : ∀ z, q = .inl z → p_X2_port Γ m0 mF x r z) (Hr : ∀ z, q = .inr z → z = (r, mF)) : G Γ kX2_port cX2_port m0 mF (.inl (some (.int r))) m 106 [some (.ref x), none] [] := by
  unfold b_X2_port_106 at h
  refine g_this dX2_port_106 rfl ?_
  replace h := bd2_of h; obtain ⟨v1, m2, em2, h⟩ := h
  have C := ct_X2_isGood hΓ hT em2
  refine g_callVi hΓ.k vl_X2_217 hT C rfl rfl (Nat.le_of_ble_eq_true rfl) (Nat.le_of_ble_eq_true rfl) (Nat.le_of_ble_eq_true rfl) dX2_port_107 ?_
  replace hT := (C.1).kd hT
  replace h := ite_of h; rcases h with ⟨hc, h⟩ | ⟨hc, h⟩
  · refine g_ifneF dX2_port_110 rfl hc ?_
    refine g_ic (-1) dX2_port_113 rfl ?_
    cases h
    cases Hr _ rfl
    exact g_iret rfl dX2_port_114
  · refine g_ifneT dX2_port_110 rfl hc ?_
    refine g_this dX2_port_115 rfl ?_
    refine g_this dX2_port_116 rfl ?_
    refine g_getI hΓ.k fl_X2_227_X2 rfl hT dX2_port_117 ?_
    replace h := bd_of h; obtain ⟨m3, em3, h⟩ := h
    refine g_pI hΓ.k fl_X2_233_X2 (fun h9 => by cases h9) rfl (Or.inl ⟨rfl, rfl⟩) em3 dX2_port_120 ?_
    replace hT := (pI_ext em3).kd hT
    refine g_this dX2_port_123 rfl ?_
    refine g_lc 0 dX2_port_124 rfl ?_
    replace h := bd_of h; obtain ⟨m4, em4, h⟩ := h
    refine g_pL hΓ.k fl_X2_242_X2 (fun h9 => by cases h9) rfl em4 dX2_port_125 ?_
    replace hT := (pL_ext em4).kd hT
    refine g_this dX2_port_128 rfl ?_
    replace h := bd2_of h; obtain ⟨_, m5, em5, h⟩ := h
    have C := ct_X2_begin hΓ hT em5
    refine g_callVv hΓ.k vl_X2_161 hT C rfl rfl (Nat.le_of_ble_eq_true rfl) (Nat.le_of_ble_eq_true rfl) (Nat.le_of_ble_eq_true rfl) dX2_port_129 ?_
    replace hT := (C.1).kd hT
    refine g_ic 0 dX2_port_132 rfl ?_
    refine g_istore_n 1 dX2_port_133 rfl (Nat.le_of_ble_eq_true rfl) rfl ?_
    dsimp only [List.set]
    cases h
    refine G.weak [true, true] rfl ?_
    exact Hl _ rfl hT
set_option maxHeartbeats 4000000 in
theorem w_X2_port_95 {Γ : GG} (hΓ : GF Γ) {m0 mF m : MM} {x : Nat} (hT : (m.K x).1 = 3) {r : Int32} {q : ((Int32 × MM) ⊕ (MM) ⊕ (Int32 × MM) ⊕ (Int32 × MM)) ⊕ (Int32 × MM)} (h : b_X2_port_95 x m = some q) (Hl : ∀ z, q = .inl z → p_X2_port Γ m0 mF x r z) (Hr : ∀ z, q = .inr z → z = (r, mF)) : G Γ kX2_port cX2_port m0 mF (.inl (some (.int r))) m 95 [some (.ref x), none] [] := by
  unfold b_X2_port_95 at h
  refine g_this dX2_port_95 rfl ?_
  replace h := bd2_of h; obtain ⟨v1, m2, em2, h⟩ := h
  have C := ct_X2_isGood hΓ hT em2
  refine g_callVi hΓ.k vl_X2_217 hT C rfl rfl (Nat.le_of_ble_eq_true rfl) (Nat.le_of_ble_eq_true rfl) (Nat.le_of_ble_eq_true rfl) dX2_port_96 ?_
  replace hT := (C.1).kd hT
  replace h := ite_of h; rcases h with ⟨hc, h⟩ | ⟨hc, h⟩
  · refine g_ifeqT dX2_port_99 rfl hc ?_
    refine G.weak [true, false] rfl ?_
    exact w_X2_port_106 hΓ hT h Hl Hr
  · refine g_ifeqF dX2_port_99 rfl hc ?_
    refine g_this dX2_port_102 rfl ?_
    replace h := bd2_of h; obtain ⟨_, m3, em3, h⟩ := h
    have C := ct_X2_settle hΓ hT em3
    refine g_callVv hΓ.k vl_X2_239 hT C rfl rfl (Nat.le_of_ble_eq_true rfl) (Nat.le_of_ble_eq_true rfl) (Nat.le_of_ble_eq_true rfl) dX2_port_103 ?_
    replace hT := (C.1).kd hT
    refine G.weak [true, false] rfl ?_
    exact w_X2_port_106 hΓ hT h Hl Hr
set_option maxHeartbeats 4000000 in
theorem w_X2_port_74 {Γ : GG} (hΓ : GF Γ) {m0 mF m : MM} {x : Nat} (hT : (m.K x).1 = 3) {r : Int32} {q : ((Int32 × MM) ⊕ (MM) ⊕ (Int32 × MM) ⊕ (Int32 × MM)) ⊕ (Int32 × MM)} (h : b_X2_port_74 x m = some q) (Hl : ∀ z, q = .inl z → p_X2_port Γ m0 mF x r z) (Hr : ∀ z, q = .inr z → z = (r, mF)) : G Γ kX2_port cX2_port m0 mF (.inl (some (.int r))) m 74 [some (.ref x), none] [] := by
  unfold b_X2_port_74 at h
  refine g_this dX2_port_74 rfl ?_
  replace h := bd2_of h; obtain ⟨v1, m2, em2, h⟩ := h
  have C := ct_X2_isGood hΓ hT em2
  refine g_callVi hΓ.k vl_X2_217 hT C rfl rfl (Nat.le_of_ble_eq_true rfl) (Nat.le_of_ble_eq_true rfl) (Nat.le_of_ble_eq_true rfl) dX2_port_75 ?_
  replace hT := (C.1).kd hT
  replace h := ite_of h; rcases h with ⟨hc, h⟩ | ⟨hc, h⟩
  · refine g_ifeqT dX2_port_78 rfl hc ?_
    refine G.weak [true, false] rfl ?_
    exact w_X2_port_95 hΓ hT h Hl Hr
  · refine g_ifeqF dX2_port_78 rfl hc ?_
    refine g_this dX2_port_81 rfl ?_
    refine g_getI hΓ.k fl_X2_192_X2 rfl hT dX2_port_82 ?_
    replace h := ite_of h; rcases h with ⟨hc, h⟩ | ⟨hc, h⟩
    · refine g_ifeqT dX2_port_85 rfl hc ?_
      refine G.weak [true, false] rfl ?_
      exact w_X2_port_95 hΓ hT h Hl Hr
    · refine g_ifeqF dX2_port_85 rfl hc ?_
      refine g_this dX2_port_88 rfl ?_
      replace h := bd2_of h; obtain ⟨_, m3, em3, h⟩ := h
      have C := ct_X2_readLine hΓ hT em3
      refine g_callVv hΓ.k vl_X2_236 hT C rfl rfl (Nat.le_of_ble_eq_true rfl) (Nat.le_of_ble_eq_true rfl) (Nat.le_of_ble_eq_true rfl) dX2_port_89 ?_
      replace hT := (C.1).kd hT
      refine g_goto dX2_port_92 rfl ?_
      cases h
      refine G.weak [true, false] rfl ?_
      exact Hl _ rfl hT
set_option maxHeartbeats 4000000 in
theorem w_X2_port_20 {Γ : GG} (hΓ : GF Γ) {m0 mF m : MM} {x : Nat} {l1 : Int32} (hT : (m.K x).1 = 3) {r : Int32} {q : ((Int32 × MM) ⊕ (MM) ⊕ (Int32 × MM) ⊕ (Int32 × MM)) ⊕ (Int32 × MM)} (h : b_X2_port_20 x l1 m = some q) (Hl : ∀ z, q = .inl z → p_X2_port Γ m0 mF x r z) (Hr : ∀ z, q = .inr z → z = (r, mF)) : G Γ kX2_port cX2_port m0 mF (.inl (some (.int r))) m 20 [some (.ref x), some (.int l1)] [] := by
  unfold b_X2_port_20 at h
  refine g_iload_n 1 dX2_port_20 rfl rfl ?_
  refine g_this dX2_port_21 rfl ?_
  refine g_getI hΓ.k fl_X2_164_X2 rfl hT dX2_port_22 ?_
  replace h := ite_of h; rcases h with ⟨hc, h⟩ | ⟨hc, h⟩
  · refine g_icgeT dX2_port_25 rfl hc ?_
    refine g_this dX2_port_46 rfl ?_
    refine g_ic 0 dX2_port_47 rfl ?_
    replace h := bd_of h; obtain ⟨m1, em1, h⟩ := h
    refine g_pI hΓ.k fl_X2_230_X2 (fun h9 => by cases h9) rfl (Or.inl ⟨rfl, rfl⟩) em1 dX2_port_48 ?_
    replace hT := (pI_ext em1).kd hT
    refine g_this dX2_port_51 rfl ?_
    refine g_ic 0 dX2_port_52 rfl ?_
    replace h := bd_of h; obtain ⟨m2, em2, h⟩ := h
    refine g_pI hΓ.k fl_X2_182_X2 (fun h9 => by cases h9) rfl (Or.inl ⟨rfl, rfl⟩) em2 dX2_port_53 ?_
    replace hT := (pI_ext em2).kd hT
    refine g_this dX2_port_56 rfl ?_
    refine g_ic 1 dX2_port_57 rfl ?_
    refine g_this dX2_port_58 rfl ?_
    refine g_getI hΓ.k fl_X2_233_X2 rfl hT dX2_port_59 ?_
    refine g_isub dX2_port_62 ?_
    replace h := bd_of h; obtain ⟨m3, em3, h⟩ := h
    refine g_pI hΓ.k fl_X2_227_X2 (fun h9 => by cases h9) rfl (Or.inl ⟨rfl, rfl⟩) em3 dX2_port_63 ?_
    replace hT := (pI_ext em3).kd hT
    refine g_this dX2_port_66 rfl ?_
    replace h := bd2_of h; obtain ⟨_, m4, em4, h⟩ := h
    have C := ct_X2_clearBank hΓ hT em4
    refine g_callVv hΓ.k vl_X2_158 hT C rfl rfl (Nat.le_of_ble_eq_true rfl) (Nat.le_of_ble_eq_true rfl) (Nat.le_of_ble_eq_true rfl) dX2_port_67 ?_
    replace hT := (C.1).kd hT
    refine g_this dX2_port_70 rfl ?_
    replace h := bd2_of h; obtain ⟨_, m5, em5, h⟩ := h
    have C := ct_X2_goOn hΓ hT em5
    refine g_callVv hΓ.k vl_X2_221 hT C rfl rfl (Nat.le_of_ble_eq_true rfl) (Nat.le_of_ble_eq_true rfl) (Nat.le_of_ble_eq_true rfl) dX2_port_71 ?_
    replace hT := (C.1).kd hT
    cases h
    refine G.weak [true, false] rfl ?_
    exact Hl _ rfl hT
  · refine g_icgeF dX2_port_25 rfl hc ?_
    refine g_this dX2_port_28 rfl ?_
    refine g_getR hΓ.k fl_X2_13_X2 rfl hT dX2_port_29 ?_
    refine g_iload_n 1 dX2_port_32 rfl rfl ?_
    refine g_this dX2_port_33 rfl ?_
    refine g_getR hΓ.k fl_X2_7_X2 rfl hT dX2_port_34 ?_
    refine g_iload_n 1 dX2_port_37 rfl rfl ?_
    replace h := bd_of h; obtain ⟨v6, ev6, h⟩ := h
    refine g_bald ev6 dX2_port_38 ?_
    replace h := bd_of h; obtain ⟨m7, em7, h⟩ := h
    refine g_bast em7 dX2_port_39 ?_
    replace hT := (sI_ext em7).kd hT
    refine g_iinc (l1 + (1 : Int32)) dX2_port_40 rfl rfl (Nat.le_of_ble_eq_true rfl) rfl ?_
    dsimp only [List.set]
    refine g_goto dX2_port_43 rfl ?_
    cases h
    refine G.weak [true, true] rfl ?_
    exact Hl _ rfl hT
set_option maxHeartbeats 4000000 in
theorem w_X2_port_0 {Γ : GG} (hΓ : GF Γ) {m0 mF m : MM} {x : Nat} (hT : (m.K x).1 = 3) {r : Int32} {q : ((Int32 × MM) ⊕ (MM) ⊕ (Int32 × MM) ⊕ (Int32 × MM)) ⊕ (Int32 × MM)} (h : b_X2_port_0 x m = some q) (Hl : ∀ z, q = .inl z → p_X2_port Γ m0 mF x r z) (Hr : ∀ z, q = .inr z → z = (r, mF)) : G Γ kX2_port cX2_port m0 mF (.inl (some (.int r))) m 0 [some (.ref x), none] [] := by
  unfold b_X2_port_0 at h
  refine g_this dX2_port_0 rfl ?_
  refine g_ic 0 dX2_port_1 rfl ?_
  replace h := bd_of h; obtain ⟨m1, em1, h⟩ := h
  refine g_pI hΓ.k fl_X2_167_X2 (fun h9 => by cases h9) rfl (Or.inl ⟨rfl, rfl⟩) em1 dX2_port_2 ?_
  replace hT := (pI_ext em1).kd hT
  refine g_this dX2_port_5 rfl ?_
  refine g_ic (-1) dX2_port_6 rfl ?_
  replace h := bd_of h; obtain ⟨m2, em2, h⟩ := h
  refine g_pI hΓ.k fl_X2_16_X2 (fun h9 => by cases h9) rfl (Or.inl ⟨rfl, rfl⟩) em2 dX2_port_7 ?_
  replace hT := (pI_ext em2).kd hT
  refine g_this dX2_port_10 rfl ?_
  refine g_this dX2_port_11 rfl ?_
  refine g_getI hΓ.k fl_X2_230_X2 rfl hT dX2_port_12 ?_
  replace h := bd_of h; obtain ⟨m3, em3, h⟩ := h
  refine g_pI hΓ.k fl_X2_164_X2 (fun h9 => by cases h9) rfl (Or.inl ⟨rfl, rfl⟩) em3 dX2_port_15 ?_
  replace hT := (pI_ext em3).kd hT
  refine g_ic 0 dX2_port_18 rfl ?_
  refine g_istore_n 1 dX2_port_19 rfl (Nat.le_of_ble_eq_true rfl) rfl ?_
  dsimp only [List.set]
  cases h
  refine G.weak [true, true] rfl ?_
  exact Hl _ rfl hT
theorem ct_X2_port {Γ : GG} (hΓ : GF Γ) {m mF : MM} {x : Nat} (hT : (m.K x).1 = 3) {r : Int32} (h : f_X2_port x m = some (r, mF)) : Ct Γ kX2_port cX2_port [.ref x] m (.inl (some (.int r))) mF := by
  unfold f_X2_port at h
  replace h := bd_of h; obtain ⟨q, e, h⟩ := h
  have H := rx_go_ind (P := p_X2_port Γ m mF x r) (fun z o hs Hl Hr => by
    match z with
    | (.inl (l1, m)) => exact fun hT => w_X2_port_20 hΓ hT hs Hl Hr
    | (.inr (.inl m)) => exact fun hT => w_X2_port_74 hΓ hT hs Hl Hr
    | (.inr (.inr (.inl (l1, m)))) => exact fun hT => w_X2_port_134 hΓ hT hs Hl Hr
    | (.inr (.inr (.inr (l1, m)))) => exact fun hT => w_X2_port_165 hΓ hT hs Hl Hr) h
  exact Ct.of (κ := kX2_port) (by decide) rfl (Nat.le_of_ble_eq_true rfl) rfl (w_X2_port_0 hΓ hT e H.1 H.2)
set_option maxHeartbeats 4000000 in
theorem w_X2_fault_0 {Γ : GG} (hΓ : GF Γ) {m0 mF m : MM} {x : Nat} {l1 : Int32} (hT : (m.K x).1 = 3) {r : Int32} (h : b_X2_fault_0 x l1 m = some (r, mF)) : G Γ kX2_fault cX2_fault m0 mF (.inl (some (.int r))) m 0 [some (.ref x), some (.int l1)] [] := by
  unfold b_X2_fault_0 at h
  refine g_iload_n 1 dX2_fault_0 rfl rfl ?_
  replace h := ite_of h; rcases h with ⟨hc, h⟩ | ⟨hc, h⟩
  · refine g_ifneF dX2_fault_1 rfl hc ?_
    refine g_this dX2_fault_4 rfl ?_
    refine g_getI hΓ.k fl_X2_167_X2 rfl hT dX2_fault_5 ?_
    refine g_goto dX2_fault_8 rfl ?_
    cases h
    exact g_iret rfl dX2_fault_24
  · refine g_ifneT dX2_fault_1 rfl hc ?_
    refine g_iload_n 1 dX2_fault_11 rfl rfl ?_
    refine g_ic 1 dX2_fault_12 rfl ?_
    replace h := ite_of h; rcases h with ⟨hc, h⟩ | ⟨hc, h⟩
    · refine g_icneF dX2_fault_13 rfl hc ?_
      refine g_this dX2_fault_16 rfl ?_
      refine g_getI hΓ.k fl_X2_16_X2 rfl hT dX2_fault_17 ?_
      refine g_goto dX2_fault_20 rfl ?_
      cases h
      exact g_iret rfl dX2_fault_24
    · refine g_icneT dX2_fault_13 rfl hc ?_
      refine g_ic (-1) dX2_fault_23 rfl ?_
      cases h
      exact g_iret rfl dX2_fault_24
theorem ct_X2_fault {Γ : GG} (hΓ : GF Γ) {m mF : MM} {x : Nat} {l1 : Int32} (hT : (m.K x).1 = 3) {r : Int32} (h : f_X2_fault x l1 m = some (r, mF)) : Ct Γ kX2_fault cX2_fault [.ref x, .int l1] m (.inl (some (.int r))) mF := by
  unfold f_X2_fault at h
  exact Ct.of (κ := kX2_fault) (by decide) rfl (Nat.le_of_ble_eq_true rfl) rfl (w_X2_fault_0 hΓ hT h)
set_option maxHeartbeats 4000000 in
theorem w_X2_isIn_0 {Γ : GG} (hΓ : GF Γ) {m0 mF m : MM} {l0 : Int32} {l1 : Int32} {l2 : Int32} {r : Int32} (h : b_X2_isIn_0 l0 l1 l2 m = some (r, mF)) : G Γ kX2_isIn cX2_isIn m0 mF (.inl (some (.int r))) m 0 [some (.int l0), some (.int l1), some (.int l2)] [] := by
  unfold b_X2_isIn_0 at h
  refine g_iload_n 0 dX2_isIn_0 rfl rfl ?_
  refine g_iload_n 1 dX2_isIn_1 rfl rfl ?_
  replace h := ite_of h; rcases h with ⟨hc, h⟩ | ⟨hc, h⟩
  · refine g_icltT dX2_isIn_2 rfl hc ?_
    refine g_ic 0 dX2_isIn_14 rfl ?_
    cases h
    exact g_zret rfl (by decide) dX2_isIn_15
  · refine g_icltF dX2_isIn_2 rfl hc ?_
    refine g_iload_n 0 dX2_isIn_5 rfl rfl ?_
    refine g_iload_n 2 dX2_isIn_6 rfl rfl ?_
    replace h := ite_of h; rcases h with ⟨hc, h⟩ | ⟨hc, h⟩
    · refine g_icgtT dX2_isIn_7 rfl hc ?_
      refine g_ic 0 dX2_isIn_14 rfl ?_
      cases h
      exact g_zret rfl (by decide) dX2_isIn_15
    · refine g_icgtF dX2_isIn_7 rfl hc ?_
      refine g_ic 1 dX2_isIn_10 rfl ?_
      refine g_goto dX2_isIn_11 rfl ?_
      cases h
      exact g_zret rfl (by decide) dX2_isIn_15
theorem ct_X2_isIn {Γ : GG} (hΓ : GF Γ) {m mF : MM} {l0 : Int32} {l1 : Int32} {l2 : Int32} {r : Int32} (h : f_X2_isIn l0 l1 l2 m = some (r, mF)) : Ct Γ kX2_isIn cX2_isIn [.int l0, .int l1, .int l2] m (.inl (some (.int r))) mF := by
  unfold f_X2_isIn at h
  exact Ct.of (κ := kX2_isIn) (by decide) rfl (Nat.le_of_ble_eq_true rfl) rfl (w_X2_isIn_0 hΓ h)
set_option maxHeartbeats 4000000 in
theorem w_X2_isGuild_0 {Γ : GG} (hΓ : GF Γ) {m0 mF m : MM} {l0 : Int32} {r : Int32} (h : b_X2_isGuild_0 l0 m = some (r, mF)) : G Γ kX2_isGuild cX2_isGuild m0 mF (.inl (some (.int r))) m 0 [some (.int l0)] [] := by
  unfold b_X2_isGuild_0 at h
  refine g_iload_n 0 dX2_isGuild_0 rfl rfl ?_
  refine g_ic 0 dX2_isGuild_1 rfl ?_
  refine g_ic 2 dX2_isGuild_2 rfl ?_
  replace h := bd2_of h; obtain ⟨v1, m2, em2, h⟩ := h
  have C := ct_X2_isIn hΓ em2
  refine g_callSi sl_X2_298 C rfl rfl (Nat.le_of_ble_eq_true rfl) (Nat.le_of_ble_eq_true rfl) (Nat.le_of_ble_eq_true rfl) dX2_isGuild_3 ?_
  replace h := ite_of h; rcases h with ⟨hc, h⟩ | ⟨hc, h⟩
  · cases h
    exact g_zret rfl hc dX2_isGuild_6
  · cases h
theorem ct_X2_isGuild {Γ : GG} (hΓ : GF Γ) {m mF : MM} {l0 : Int32} {r : Int32} (h : f_X2_isGuild l0 m = some (r, mF)) : Ct Γ kX2_isGuild cX2_isGuild [.int l0] m (.inl (some (.int r))) mF := by
  unfold f_X2_isGuild at h
  exact Ct.of (κ := kX2_isGuild) (by decide) rfl (Nat.le_of_ble_eq_true rfl) rfl (w_X2_isGuild_0 hΓ h)
set_option maxHeartbeats 4000000 in
theorem w_X2_isWordOf_0 {Γ : GG} (hΓ : GF Γ) {m0 mF m : MM} {x : Nat} {l1 : Int32} (hT : (m.K x).1 = 3) {r : Int32} (h : b_X2_isWordOf_0 x l1 m = some (r, mF)) : G Γ kX2_isWordOf cX2_isWordOf m0 mF (.inl (some (.int r))) m 0 [some (.ref x), some (.int l1)] [] := by
  unfold b_X2_isWordOf_0 at h
  refine g_iload_n 1 dX2_isWordOf_0 rfl rfl ?_
  refine g_ic 0 dX2_isWordOf_1 rfl ?_
  refine g_this dX2_isWordOf_2 rfl ?_
  refine g_getR hΓ.k fl_X2_20_X2 rfl hT dX2_isWordOf_3 ?_
  refine g_this dX2_isWordOf_6 rfl ?_
  refine g_getI hΓ.k fl_X2_233_X2 rfl hT dX2_isWordOf_7 ?_
  replace h := bd_of h; obtain ⟨v1, ev1, h⟩ := h
  refine g_iald ev1 dX2_isWordOf_10 ?_
  refine g_ic 1 dX2_isWordOf_11 rfl ?_
  refine g_isub dX2_isWordOf_12 ?_
  replace h := bd2_of h; obtain ⟨v2, m3, em3, h⟩ := h
  have C := ct_X2_isIn hΓ em3
  refine g_callSi sl_X2_298 C rfl rfl (Nat.le_of_ble_eq_true rfl) (Nat.le_of_ble_eq_true rfl) (Nat.le_of_ble_eq_true rfl) dX2_isWordOf_13 ?_
  replace hT := (C.1).kd hT
  replace h := ite_of h; rcases h with ⟨hc, h⟩ | ⟨hc, h⟩
  · cases h
    exact g_zret rfl hc dX2_isWordOf_16
  · cases h
theorem ct_X2_isWordOf {Γ : GG} (hΓ : GF Γ) {m mF : MM} {x : Nat} {l1 : Int32} (hT : (m.K x).1 = 3) {r : Int32} (h : f_X2_isWordOf x l1 m = some (r, mF)) : Ct Γ kX2_isWordOf cX2_isWordOf [.ref x, .int l1] m (.inl (some (.int r))) mF := by
  unfold f_X2_isWordOf at h
  exact Ct.of (κ := kX2_isWordOf) (by decide) rfl (Nat.le_of_ble_eq_true rfl) rfl (w_X2_isWordOf_0 hΓ hT h)
set_option maxHeartbeats 4000000 in
theorem w_X2_worth_0 {Γ : GG} (hΓ : GF Γ) {m0 mF m : MM} {x : Nat} {l1 : Int32} {l2 : Int32} (hT : (m.K x).1 = 3) {r : Int32} (h : b_X2_worth_0 x l1 l2 m = some (r, mF)) : G Γ kX2_worth cX2_worth m0 mF (.inl (some (.int r))) m 0 [some (.ref x), some (.int l1), some (.int l2)] [] := by
  unfold b_X2_worth_0 at h
  refine g_this dX2_worth_0 rfl ?_
  refine g_iload_n 1 dX2_worth_1 rfl rfl ?_
  replace h := bd2_of h; obtain ⟨v1, m2, em2, h⟩ := h
  have C := ct_X2_isWordOf hΓ hT em2
  refine g_callVi hΓ.k vl_X2_305 hT C rfl rfl (Nat.le_of_ble_eq_true rfl) (Nat.le_of_ble_eq_true rfl) (Nat.le_of_ble_eq_true rfl) dX2_worth_2 ?_
  replace hT := (C.1).kd hT
  replace h := ite_of h; rcases h with ⟨hc, h⟩ | ⟨hc, h⟩
  · refine g_ifeqT dX2_worth_5 rfl hc ?_
    refine g_ldcw (v := -1000000) q1595 dX2_worth_36 ?_
    cases h
    exact g_iret rfl dX2_worth_39
  · refine g_ifeqF dX2_worth_5 rfl hc ?_
    refine g_iload_n 2 dX2_worth_8 rfl rfl ?_
    replace h := bd2_of h; obtain ⟨v3, m4, em4, h⟩ := h
    have C := ct_X2_isGuild hΓ em4
    refine g_callSi sl_X2_308 C rfl rfl (Nat.le_of_ble_eq_true rfl) (Nat.le_of_ble_eq_true rfl) (Nat.le_of_ble_eq_true rfl) dX2_worth_9 ?_
    replace hT := (C.1).kd hT
    replace h := ite_of h; rcases h with ⟨hc, h⟩ | ⟨hc, h⟩
    · refine g_ifeqT dX2_worth_12 rfl hc ?_
      refine g_ldcw (v := -1000000) q1595 dX2_worth_36 ?_
      cases h
      exact g_iret rfl dX2_worth_39
    · refine g_ifeqF dX2_worth_12 rfl hc ?_
      refine g_this dX2_worth_15 rfl ?_
      refine g_getR hΓ.k fl_X2_42_X2 rfl hT dX2_worth_16 ?_
      refine g_ic 3 dX2_worth_19 rfl ?_
      refine g_bi (8) dX2_worth_20 rfl ?_
      refine g_this dX2_worth_22 rfl ?_
      refine g_getI hΓ.k fl_X2_233_X2 rfl hT dX2_worth_23 ?_
      refine g_imul dX2_worth_26 ?_
      refine g_iload_n 1 dX2_worth_27 rfl rfl ?_
      refine g_iadd dX2_worth_28 ?_
      refine g_imul dX2_worth_29 ?_
      refine g_iload_n 2 dX2_worth_30 rfl rfl ?_
      refine g_iadd dX2_worth_31 ?_
      replace h := bd_of h; obtain ⟨v5, ev5, h⟩ := h
      refine g_iald ev5 dX2_worth_32 ?_
      refine g_goto dX2_worth_33 rfl ?_
      cases h
      exact g_iret rfl dX2_worth_39
theorem ct_X2_worth {Γ : GG} (hΓ : GF Γ) {m mF : MM} {x : Nat} {l1 : Int32} {l2 : Int32} (hT : (m.K x).1 = 3) {r : Int32} (h : f_X2_worth x l1 l2 m = some (r, mF)) : Ct Γ kX2_worth cX2_worth [.ref x, .int l1, .int l2] m (.inl (some (.int r))) mF := by
  unfold f_X2_worth at h
  exact Ct.of (κ := kX2_worth) (by decide) rfl (Nat.le_of_ble_eq_true rfl) rfl (w_X2_worth_0 hΓ hT h)
set_option maxHeartbeats 4000000 in
theorem w_X2_pairOf_0 {Γ : GG} (hΓ : GF Γ) {m0 mF m : MM} {x : Nat} {l1 : Int32} {l2 : Int32} {l3 : Int32} (hT : (m.K x).1 = 3) {r : Int32} (h : b_X2_pairOf_0 x l1 l2 l3 m = some (r, mF)) : G Γ kX2_pairOf cX2_pairOf m0 mF (.inl (some (.int r))) m 0 [some (.ref x), some (.int l1), some (.int l2), some (.int l3)] [] := by
  unfold b_X2_pairOf_0 at h
  refine g_this dX2_pairOf_0 rfl ?_
  refine g_getR hΓ.k fl_X2_60_X2 rfl hT dX2_pairOf_1 ?_
  refine g_bi (64) dX2_pairOf_4 rfl ?_
  refine g_this dX2_pairOf_6 rfl ?_
  refine g_getI hΓ.k fl_X2_233_X2 rfl hT dX2_pairOf_7 ?_
  refine g_imul dX2_pairOf_10 ?_
  refine g_bi (8) dX2_pairOf_11 rfl ?_
  refine g_iload_n 1 dX2_pairOf_13 rfl rfl ?_
  refine g_imul dX2_pairOf_14 ?_
  refine g_iadd dX2_pairOf_15 ?_
  refine g_iload_n 2 dX2_pairOf_16 rfl rfl ?_
  refine g_iadd dX2_pairOf_17 ?_
  replace h := bd_of h; obtain ⟨v1, ev1, h⟩ := h
  refine g_zald ev1 dX2_pairOf_18 ?_
  replace h := ite_of h; rcases h with ⟨hc, h⟩ | ⟨hc, h⟩
  · refine g_ifeqT dX2_pairOf_19 rfl hc ?_
    refine g_ic 0 dX2_pairOf_48 rfl ?_
    cases h
    exact g_iret rfl dX2_pairOf_49
  · refine g_ifeqF dX2_pairOf_19 rfl hc ?_
    refine g_this dX2_pairOf_22 rfl ?_
    refine g_getR hΓ.k fl_X2_45_X2 rfl hT dX2_pairOf_23 ?_
    refine g_ic 3 dX2_pairOf_26 rfl ?_
    refine g_bi (64) dX2_pairOf_27 rfl ?_
    refine g_this dX2_pairOf_29 rfl ?_
    refine g_getI hΓ.k fl_X2_233_X2 rfl hT dX2_pairOf_30 ?_
    refine g_imul dX2_pairOf_33 ?_
    refine g_bi (8) dX2_pairOf_34 rfl ?_
    refine g_iload_n 1 dX2_pairOf_36 rfl rfl ?_
    refine g_imul dX2_pairOf_37 ?_
    refine g_iadd dX2_pairOf_38 ?_
    refine g_iload_n 2 dX2_pairOf_39 rfl rfl ?_
    refine g_iadd dX2_pairOf_40 ?_
    refine g_imul dX2_pairOf_41 ?_
    refine g_iload_n 3 dX2_pairOf_42 rfl rfl ?_
    refine g_iadd dX2_pairOf_43 ?_
    replace h := bd_of h; obtain ⟨v2, ev2, h⟩ := h
    refine g_iald ev2 dX2_pairOf_44 ?_
    refine g_goto dX2_pairOf_45 rfl ?_
    cases h
    exact g_iret rfl dX2_pairOf_49
theorem ct_X2_pairOf {Γ : GG} (hΓ : GF Γ) {m mF : MM} {x : Nat} {l1 : Int32} {l2 : Int32} {l3 : Int32} (hT : (m.K x).1 = 3) {r : Int32} (h : f_X2_pairOf x l1 l2 l3 m = some (r, mF)) : Ct Γ kX2_pairOf cX2_pairOf [.ref x, .int l1, .int l2, .int l3] m (.inl (some (.int r))) mF := by
  unfold f_X2_pairOf at h
  exact Ct.of (κ := kX2_pairOf) (by decide) rfl (Nat.le_of_ble_eq_true rfl) rfl (w_X2_pairOf_0 hΓ hT h)
set_option maxHeartbeats 4000000 in
theorem w_X2_behind_0 {Γ : GG} (hΓ : GF Γ) {m0 mF m : MM} {x : Nat} {l1 : Int32} {l2 : Int32} {l3 : Int32} (hT : (m.K x).1 = 3) {r : Int32} (h : b_X2_behind_0 x l1 l2 l3 m = some (r, mF)) : G Γ kX2_behind cX2_behind m0 mF (.inl (some (.int r))) m 0 [some (.ref x), some (.int l1), some (.int l2), some (.int l3)] [] := by
  unfold b_X2_behind_0 at h
  refine g_this dX2_behind_0 rfl ?_
  refine g_iload_n 1 dX2_behind_1 rfl rfl ?_
  replace h := bd2_of h; obtain ⟨v1, m2, em2, h⟩ := h
  have C := ct_X2_isWordOf hΓ hT em2
  refine g_callVi hΓ.k vl_X2_305 hT C rfl rfl (Nat.le_of_ble_eq_true rfl) (Nat.le_of_ble_eq_true rfl) (Nat.le_of_ble_eq_true rfl) dX2_behind_2 ?_
  replace hT := (C.1).kd hT
  replace h := ite_of h; rcases h with ⟨hc, h⟩ | ⟨hc, h⟩
  · refine g_ifeqT dX2_behind_5 rfl hc ?_
    refine g_ldcw (v := -1000000) q1595 dX2_behind_33 ?_
    cases h
    exact g_iret rfl dX2_behind_36
  · refine g_ifeqF dX2_behind_5 rfl hc ?_
    refine g_this dX2_behind_8 rfl ?_
    refine g_iload_n 2 dX2_behind_9 rfl rfl ?_
    replace h := bd2_of h; obtain ⟨v3, m4, em4, h⟩ := h
    have C := ct_X2_isWordOf hΓ hT em4
    refine g_callVi hΓ.k vl_X2_305 hT C rfl rfl (Nat.le_of_ble_eq_true rfl) (Nat.le_of_ble_eq_true rfl) (Nat.le_of_ble_eq_true rfl) dX2_behind_10 ?_
    replace hT := (C.1).kd hT
    replace h := ite_of h; rcases h with ⟨hc, h⟩ | ⟨hc, h⟩
    · refine g_ifeqT dX2_behind_13 rfl hc ?_
      refine g_ldcw (v := -1000000) q1595 dX2_behind_33 ?_
      cases h
      exact g_iret rfl dX2_behind_36
    · refine g_ifeqF dX2_behind_13 rfl hc ?_
      refine g_iload_n 3 dX2_behind_16 rfl rfl ?_
      replace h := bd2_of h; obtain ⟨v5, m6, em6, h⟩ := h
      have C := ct_X2_isGuild hΓ em6
      refine g_callSi sl_X2_308 C rfl rfl (Nat.le_of_ble_eq_true rfl) (Nat.le_of_ble_eq_true rfl) (Nat.le_of_ble_eq_true rfl) dX2_behind_17 ?_
      replace hT := (C.1).kd hT
      replace h := ite_of h; rcases h with ⟨hc, h⟩ | ⟨hc, h⟩
      · refine g_ifeqT dX2_behind_20 rfl hc ?_
        refine g_ldcw (v := -1000000) q1595 dX2_behind_33 ?_
        cases h
        exact g_iret rfl dX2_behind_36
      · refine g_ifeqF dX2_behind_20 rfl hc ?_
        refine g_this dX2_behind_23 rfl ?_
        refine g_iload_n 1 dX2_behind_24 rfl rfl ?_
        refine g_iload_n 2 dX2_behind_25 rfl rfl ?_
        refine g_iload_n 3 dX2_behind_26 rfl rfl ?_
        replace h := bd2_of h; obtain ⟨v7, m8, em8, h⟩ := h
        have C := ct_X2_pairOf hΓ hT em8
        refine g_callVi hΓ.k vl_X2_312 hT C rfl rfl (Nat.le_of_ble_eq_true rfl) (Nat.le_of_ble_eq_true rfl) (Nat.le_of_ble_eq_true rfl) dX2_behind_27 ?_
        replace hT := (C.1).kd hT
        refine g_goto dX2_behind_30 rfl ?_
        cases h
        exact g_iret rfl dX2_behind_36
theorem ct_X2_behind {Γ : GG} (hΓ : GF Γ) {m mF : MM} {x : Nat} {l1 : Int32} {l2 : Int32} {l3 : Int32} (hT : (m.K x).1 = 3) {r : Int32} (h : f_X2_behind x l1 l2 l3 m = some (r, mF)) : Ct Γ kX2_behind cX2_behind [.ref x, .int l1, .int l2, .int l3] m (.inl (some (.int r))) mF := by
  unfold f_X2_behind at h
  exact Ct.of (κ := kX2_behind) (by decide) rfl (Nat.le_of_ble_eq_true rfl) rfl (w_X2_behind_0 hΓ hT h)
set_option maxHeartbeats 4000000 in
theorem w_X2_longOf_0 {Γ : GG} (hΓ : GF Γ) {m0 mF m : MM} {x : Nat} (hT : (m.K x).1 = 3) {r : Int32} (h : b_X2_longOf_0 x m = some (r, mF)) : G Γ kX2_longOf cX2_longOf m0 mF (.inl (some (.int r))) m 0 [some (.ref x)] [] := by
  unfold b_X2_longOf_0 at h
  refine g_this dX2_longOf_0 rfl ?_
  refine g_getR hΓ.k fl_X2_33_X2 rfl hT dX2_longOf_1 ?_
  refine g_this dX2_longOf_4 rfl ?_
  refine g_getI hΓ.k fl_X2_233_X2 rfl hT dX2_longOf_5 ?_
  replace h := bd_of h; obtain ⟨v1, ev1, h⟩ := h
  refine g_iald ev1 dX2_longOf_8 ?_
  cases h
  exact g_iret rfl dX2_longOf_9
theorem ct_X2_longOf {Γ : GG} (hΓ : GF Γ) {m mF : MM} {x : Nat} (hT : (m.K x).1 = 3) {r : Int32} (h : f_X2_longOf x m = some (r, mF)) : Ct Γ kX2_longOf cX2_longOf [.ref x] m (.inl (some (.int r))) mF := by
  unfold f_X2_longOf at h
  exact Ct.of (κ := kX2_longOf) (by decide) rfl (Nat.le_of_ble_eq_true rfl) rfl (w_X2_longOf_0 hΓ hT h)
set_option maxHeartbeats 4000000 in
theorem w_X2_isPlace_0 {Γ : GG} (hΓ : GF Γ) {m0 mF m : MM} {x : Nat} {l1 : Int32} (hT : (m.K x).1 = 3) {r : Int32} (h : b_X2_isPlace_0 x l1 m = some (r, mF)) : G Γ kX2_isPlace cX2_isPlace m0 mF (.inl (some (.int r))) m 0 [some (.ref x), some (.int l1)] [] := by
  unfold b_X2_isPlace_0 at h
  refine g_iload_n 1 dX2_isPlace_0 rfl rfl ?_
  refine g_ic 0 dX2_isPlace_1 rfl ?_
  refine g_this dX2_isPlace_2 rfl ?_
  replace h := bd2_of h; obtain ⟨v1, m2, em2, h⟩ := h
  have C := ct_X2_longOf hΓ hT em2
  refine g_callVi hΓ.k vl_X2_302 hT C rfl rfl (Nat.le_of_ble_eq_true rfl) (Nat.le_of_ble_eq_true rfl) (Nat.le_of_ble_eq_true rfl) dX2_isPlace_3 ?_
  replace hT := (C.1).kd hT
  refine g_ic 1 dX2_isPlace_6 rfl ?_
  refine g_isub dX2_isPlace_7 ?_
  replace h := bd2_of h; obtain ⟨v3, m4, em4, h⟩ := h
  have C := ct_X2_isIn hΓ em4
  refine g_callSi sl_X2_298 C rfl rfl (Nat.le_of_ble_eq_true rfl) (Nat.le_of_ble_eq_true rfl) (Nat.le_of_ble_eq_true rfl) dX2_isPlace_8 ?_
  replace hT := (C.1).kd hT
  replace h := ite_of h; rcases h with ⟨hc, h⟩ | ⟨hc, h⟩
  · cases h
    exact g_zret rfl hc dX2_isPlace_11
  · cases h
theorem ct_X2_isPlace {Γ : GG} (hΓ : GF Γ) {m mF : MM} {x : Nat} {l1 : Int32} (hT : (m.K x).1 = 3) {r : Int32} (h : f_X2_isPlace x l1 m = some (r, mF)) : Ct Γ kX2_isPlace cX2_isPlace [.ref x, .int l1] m (.inl (some (.int r))) mF := by
  unfold f_X2_isPlace at h
  exact Ct.of (κ := kX2_isPlace) (by decide) rfl (Nat.le_of_ble_eq_true rfl) rfl (w_X2_isPlace_0 hΓ hT h)
set_option maxHeartbeats 4000000 in
theorem w_X2_turn_0 {Γ : GG} (hΓ : GF Γ) {m0 mF m : MM} {x : Nat} {l1 : Int32} (hT : (m.K x).1 = 3) {r : Int32} (h : b_X2_turn_0 x l1 m = some (r, mF)) : G Γ kX2_turn cX2_turn m0 mF (.inl (some (.int r))) m 0 [some (.ref x), some (.int l1)] [] := by
  unfold b_X2_turn_0 at h
  refine g_this dX2_turn_0 rfl ?_
  refine g_iload_n 1 dX2_turn_1 rfl rfl ?_
  replace h := bd2_of h; obtain ⟨v1, m2, em2, h⟩ := h
  have C := ct_X2_isPlace hΓ hT em2
  refine g_callVi hΓ.k vl_X2_357 hT C rfl rfl (Nat.le_of_ble_eq_true rfl) (Nat.le_of_ble_eq_true rfl) (Nat.le_of_ble_eq_true rfl) dX2_turn_2 ?_
  replace hT := (C.1).kd hT
  replace h := ite_of h; rcases h with ⟨hc, h⟩ | ⟨hc, h⟩
  · refine g_ifeqT dX2_turn_5 rfl hc ?_
    refine g_ic (-1) dX2_turn_17 rfl ?_
    cases h
    exact g_iret rfl dX2_turn_18
  · refine g_ifeqF dX2_turn_5 rfl hc ?_
    refine g_this dX2_turn_8 rfl ?_
    refine g_getR hΓ.k fl_X2_95_X2 rfl hT dX2_turn_9 ?_
    refine g_iload_n 1 dX2_turn_12 rfl rfl ?_
    replace h := bd_of h; obtain ⟨v3, ev3, h⟩ := h
    refine g_iald ev3 dX2_turn_13 ?_
    refine g_goto dX2_turn_14 rfl ?_
    cases h
    exact g_iret rfl dX2_turn_18
theorem ct_X2_turn {Γ : GG} (hΓ : GF Γ) {m mF : MM} {x : Nat} {l1 : Int32} (hT : (m.K x).1 = 3) {r : Int32} (h : f_X2_turn x l1 m = some (r, mF)) : Ct Γ kX2_turn cX2_turn [.ref x, .int l1] m (.inl (some (.int r))) mF := by
  unfold f_X2_turn at h
  exact Ct.of (κ := kX2_turn) (by decide) rfl (Nat.le_of_ble_eq_true rfl) rfl (w_X2_turn_0 hΓ hT h)
set_option maxHeartbeats 4000000 in
theorem w_X2_word_0 {Γ : GG} (hΓ : GF Γ) {m0 mF m : MM} {x : Nat} {l1 : Int32} (hT : (m.K x).1 = 3) {r : Int32} (h : b_X2_word_0 x l1 m = some (r, mF)) : G Γ kX2_word cX2_word m0 mF (.inl (some (.int r))) m 0 [some (.ref x), some (.int l1)] [] := by
  unfold b_X2_word_0 at h
  refine g_iload_n 1 dX2_word_0 rfl rfl ?_
  refine g_ic 0 dX2_word_1 rfl ?_
  refine g_this dX2_word_2 rfl ?_
  refine g_getI hΓ.k fl_X2_336_X2 rfl hT dX2_word_3 ?_
  refine g_ic 1 dX2_word_6 rfl ?_
  refine g_isub dX2_word_7 ?_
  replace h := bd2_of h; obtain ⟨v1, m2, em2, h⟩ := h
  have C := ct_X2_isIn hΓ em2
  refine g_callSi sl_X2_298 C rfl rfl (Nat.le_of_ble_eq_true rfl) (Nat.le_of_ble_eq_true rfl) (Nat.le_of_ble_eq_true rfl) dX2_word_8 ?_
  replace hT := (C.1).kd hT
  replace h := ite_of h; rcases h with ⟨hc, h⟩ | ⟨hc, h⟩
  · refine g_ifeqT dX2_word_11 rfl hc ?_
    refine g_ic (-1) dX2_word_23 rfl ?_
    cases h
    exact g_iret rfl dX2_word_24
  · refine g_ifeqF dX2_word_11 rfl hc ?_
    refine g_this dX2_word_14 rfl ?_
    refine g_getR hΓ.k fl_X2_92_X2 rfl hT dX2_word_15 ?_
    refine g_iload_n 1 dX2_word_18 rfl rfl ?_
    replace h := bd_of h; obtain ⟨v3, ev3, h⟩ := h
    refine g_iald ev3 dX2_word_19 ?_
    refine g_goto dX2_word_20 rfl ?_
    cases h
    exact g_iret rfl dX2_word_24
theorem ct_X2_word {Γ : GG} (hΓ : GF Γ) {m mF : MM} {x : Nat} {l1 : Int32} (hT : (m.K x).1 = 3) {r : Int32} (h : f_X2_word x l1 m = some (r, mF)) : Ct Γ kX2_word cX2_word [.ref x, .int l1] m (.inl (some (.int r))) mF := by
  unfold f_X2_word at h
  exact Ct.of (κ := kX2_word) (by decide) rfl (Nat.le_of_ble_eq_true rfl) rfl (w_X2_word_0 hΓ hT h)
set_option maxHeartbeats 4000000 in
theorem w_X2_endsBy_0 {Γ : GG} (hΓ : GF Γ) {m0 mF m : MM} {x : Nat} {l1 : Int32} {l2 : Int32} (hT : (m.K x).1 = 3) {r : Int32} (h : b_X2_endsBy_0 x l1 l2 m = some (r, mF)) : G Γ kX2_endsBy cX2_endsBy m0 mF (.inl (some (.int r))) m 0 [some (.ref x), some (.int l1), some (.int l2)] [] := by
  unfold b_X2_endsBy_0 at h
  refine g_iload_n 1 dX2_endsBy_0 rfl rfl ?_
  refine g_bi (8) dX2_endsBy_1 rfl ?_
  replace h := ite_of h; rcases h with ⟨hc, h⟩ | ⟨hc, h⟩
  · refine g_icltT dX2_endsBy_3 rfl hc ?_
    refine g_this dX2_endsBy_21 rfl ?_
    refine g_getR hΓ.k fl_X2_77_X2 rfl hT dX2_endsBy_22 ?_
    refine g_iload_n 2 dX2_endsBy_25 rfl rfl ?_
    replace h := bd_of h; obtain ⟨v1, ev1, h⟩ := h
    refine g_iald ev1 dX2_endsBy_26 ?_
    refine g_ic (-1) dX2_endsBy_27 rfl ?_
    replace h := ite_of h; rcases h with ⟨hc, h⟩ | ⟨hc, h⟩
    · refine g_iceqT dX2_endsBy_28 rfl hc ?_
      refine g_ic 1 dX2_endsBy_41 rfl ?_
      refine g_iload_n 2 dX2_endsBy_42 rfl rfl ?_
      refine g_ic 1 dX2_endsBy_43 rfl ?_
      refine g_iadd dX2_endsBy_44 ?_
      refine g_ishl dX2_endsBy_45 ?_
      refine g_goto dX2_endsBy_46 rfl ?_
      cases h
      exact g_iret rfl dX2_endsBy_50
    · refine g_iceqF dX2_endsBy_28 rfl hc ?_
      refine g_this dX2_endsBy_31 rfl ?_
      refine g_getR hΓ.k fl_X2_77_X2 rfl hT dX2_endsBy_32 ?_
      refine g_iload_n 2 dX2_endsBy_35 rfl rfl ?_
      replace h := bd_of h; obtain ⟨v2, ev2, h⟩ := h
      refine g_iald ev2 dX2_endsBy_36 ?_
      refine g_iload_n 1 dX2_endsBy_37 rfl rfl ?_
      replace h := ite_of h; rcases h with ⟨hc, h⟩ | ⟨hc, h⟩
      · refine g_icneF dX2_endsBy_38 rfl hc ?_
        refine g_ic 1 dX2_endsBy_41 rfl ?_
        refine g_iload_n 2 dX2_endsBy_42 rfl rfl ?_
        refine g_ic 1 dX2_endsBy_43 rfl ?_
        refine g_iadd dX2_endsBy_44 ?_
        refine g_ishl dX2_endsBy_45 ?_
        refine g_goto dX2_endsBy_46 rfl ?_
        cases h
        exact g_iret rfl dX2_endsBy_50
      · refine g_icneT dX2_endsBy_38 rfl hc ?_
        refine g_ic 0 dX2_endsBy_49 rfl ?_
        cases h
        exact g_iret rfl dX2_endsBy_50
  · refine g_icltF dX2_endsBy_3 rfl hc ?_
    refine g_this dX2_endsBy_6 rfl ?_
    refine g_getR hΓ.k fl_X2_80_X2 rfl hT dX2_endsBy_7 ?_
    refine g_bi (7) dX2_endsBy_10 rfl ?_
    refine g_iload_n 1 dX2_endsBy_12 rfl rfl ?_
    refine g_bi (8) dX2_endsBy_13 rfl ?_
    refine g_isub dX2_endsBy_15 ?_
    refine g_imul dX2_endsBy_16 ?_
    refine g_iload_n 2 dX2_endsBy_17 rfl rfl ?_
    refine g_iadd dX2_endsBy_18 ?_
    replace h := bd_of h; obtain ⟨v3, ev3, h⟩ := h
    refine g_iald ev3 dX2_endsBy_19 ?_
    cases h
    exact g_iret rfl dX2_endsBy_20
theorem ct_X2_endsBy {Γ : GG} (hΓ : GF Γ) {m mF : MM} {x : Nat} {l1 : Int32} {l2 : Int32} (hT : (m.K x).1 = 3) {r : Int32} (h : f_X2_endsBy x l1 l2 m = some (r, mF)) : Ct Γ kX2_endsBy cX2_endsBy [.ref x, .int l1, .int l2] m (.inl (some (.int r))) mF := by
  unfold f_X2_endsBy at h
  exact Ct.of (κ := kX2_endsBy) (by decide) rfl (Nat.le_of_ble_eq_true rfl) rfl (w_X2_endsBy_0 hΓ hT h)
def p_X2_doesRead (Γ : GG) (m0 mF : MM) (x : Nat) (l1 : Int32) (l2 : Int32) (l3 : Int32) (r : Int32) : ((Int32 × Int32 × MM) ⊕ (Int32 × Int32 × Int32 × Int32 × MM)) → Prop := fun z => match z with
  | (.inl (l4, l5, m)) => (m.K x).1 = 3 → G Γ kX2_doesRead cX2_doesRead m0 mF (.inl (some (.int r))) m 10 [some (.ref x), some (.int l1), some (.int l2), some (.int l3), some (.int l4), some (.int l5), none, none] []
  | (.inr (l4, l5, l6, l7, m)) => (m.K x).1 = 3 → G Γ kX2_doesRead cX2_doesRead m0 mF (.inl (some (.int r))) m 31 [some (.ref x), some (.int l1), some (.int l2), some (.int l3), some (.int l4), some (.int l5), some (.int l6), some (.int l7)] []
set_option maxHeartbeats 4000000 in
theorem w_X2_doesRead_31 {Γ : GG} (hΓ : GF Γ) {m0 mF m : MM} {x : Nat} {l1 : Int32} {l2 : Int32} {l3 : Int32} {l4 : Int32} {l5 : Int32} {l6 : Int32} {l7 : Int32} (hT : (m.K x).1 = 3) {r : Int32} {q : ((Int32 × Int32 × MM) ⊕ (Int32 × Int32 × Int32 × Int32 × MM)) ⊕ (Int32 × MM)} (h : b_X2_doesRead_31 x l1 l2 l3 l4 l5 l6 l7 m = some q) (Hl : ∀ z, q = .inl z → p_X2_doesRead Γ m0 mF x l1 l2 l3 r z) (Hr : ∀ z, q = .inr z → z = (r, mF)) : G Γ kX2_doesRead cX2_doesRead m0 mF (.inl (some (.int r))) m 31 [some (.ref x), some (.int l1), some (.int l2), some (.int l3), some (.int l4), some (.int l5), some (.int l6), some (.int l7)] [] := by
  unfold b_X2_doesRead_31 at h
  refine g_iload dX2_doesRead_31 rfl ?_
  refine g_iload_n 3 dX2_doesRead_33 rfl rfl ?_
  replace h := ite_of h; rcases h with ⟨hc, h⟩ | ⟨hc, h⟩
  · refine g_icgeT dX2_doesRead_34 rfl hc ?_
    refine g_iload dX2_doesRead_72 rfl ?_
    refine g_istore dX2_doesRead_74 (Nat.le_of_ble_eq_true rfl) rfl ?_
    dsimp only [List.set]
    refine g_iinc (l5 + (1 : Int32)) dX2_doesRead_76 rfl rfl (Nat.le_of_ble_eq_true rfl) rfl ?_
    dsimp only [List.set]
    refine g_goto dX2_doesRead_79 rfl ?_
    cases h
    refine G.weak [true, true, true, true, true, true, false, false] rfl ?_
    exact Hl _ rfl hT
  · refine g_icgeF dX2_doesRead_34 rfl hc ?_
    refine g_iload dX2_doesRead_37 rfl ?_
    refine g_iload dX2_doesRead_39 rfl ?_
    refine g_ishr dX2_doesRead_41 ?_
    refine g_ic 1 dX2_doesRead_42 rfl ?_
    refine g_iand dX2_doesRead_43 ?_
    refine g_ic 1 dX2_doesRead_44 rfl ?_
    replace h := ite_of h; rcases h with ⟨hc, h⟩ | ⟨hc, h⟩
    · refine g_icneF dX2_doesRead_45 rfl hc ?_
      refine g_iload dX2_doesRead_48 rfl ?_
      refine g_this dX2_doesRead_50 rfl ?_
      refine g_this dX2_doesRead_51 rfl ?_
      refine g_getR hΓ.k fl_X2_54_X2 rfl hT dX2_doesRead_52 ?_
      refine g_iload dX2_doesRead_55 rfl ?_
      replace h := bd_of h; obtain ⟨v1, ev1, h⟩ := h
      refine g_iald ev1 dX2_doesRead_57 ?_
      refine g_iload dX2_doesRead_58 rfl ?_
      replace h := bd2_of h; obtain ⟨v2, m3, em3, h⟩ := h
      have C := ct_X2_endsBy hΓ hT em3
      refine g_callVi hΓ.k vl_X2_316 hT C rfl rfl (Nat.le_of_ble_eq_true rfl) (Nat.le_of_ble_eq_true rfl) (Nat.le_of_ble_eq_true rfl) dX2_doesRead_60 ?_
      replace hT := (C.1).kd hT
      refine g_ior dX2_doesRead_63 ?_
      refine g_istore dX2_doesRead_64 (Nat.le_of_ble_eq_true rfl) rfl ?_
      dsimp only [List.set]
      refine g_iinc (l7 + (1 : Int32)) dX2_doesRead_66 rfl rfl (Nat.le_of_ble_eq_true rfl) rfl ?_
      dsimp only [List.set]
      refine g_goto dX2_doesRead_69 rfl ?_
      cases h
      refine G.weak [true, true, true, true, true, true, true, true] rfl ?_
      exact Hl _ rfl hT
    · refine g_icneT dX2_doesRead_45 rfl hc ?_
      refine g_iinc (l7 + (1 : Int32)) dX2_doesRead_66 rfl rfl (Nat.le_of_ble_eq_true rfl) rfl ?_
      dsimp only [List.set]
      refine g_goto dX2_doesRead_69 rfl ?_
      cases h
      refine G.weak [true, true, true, true, true, true, true, true] rfl ?_
      exact Hl _ rfl hT
set_option maxHeartbeats 4000000 in
theorem w_X2_doesRead_10 {Γ : GG} (hΓ : GF Γ) {m0 mF m : MM} {x : Nat} {l1 : Int32} {l2 : Int32} {l3 : Int32} {l4 : Int32} {l5 : Int32} (hT : (m.K x).1 = 3) {r : Int32} {q : ((Int32 × Int32 × MM) ⊕ (Int32 × Int32 × Int32 × Int32 × MM)) ⊕ (Int32 × MM)} (h : b_X2_doesRead_10 x l1 l2 l3 l4 l5 m = some q) (Hl : ∀ z, q = .inl z → p_X2_doesRead Γ m0 mF x l1 l2 l3 r z) (Hr : ∀ z, q = .inr z → z = (r, mF)) : G Γ kX2_doesRead cX2_doesRead m0 mF (.inl (some (.int r))) m 10 [some (.ref x), some (.int l1), some (.int l2), some (.int l3), some (.int l4), some (.int l5), none, none] [] := by
  unfold b_X2_doesRead_10 at h
  refine g_iload dX2_doesRead_10 rfl ?_
  refine g_ic 4 dX2_doesRead_12 rfl ?_
  refine g_iload_n 1 dX2_doesRead_13 rfl rfl ?_
  refine g_imul dX2_doesRead_14 ?_
  refine g_this dX2_doesRead_15 rfl ?_
  refine g_getR hΓ.k fl_X2_51_X2 rfl hT dX2_doesRead_16 ?_
  refine g_iload_n 1 dX2_doesRead_19 rfl rfl ?_
  replace h := bd_of h; obtain ⟨v1, ev1, h⟩ := h
  refine g_iald ev1 dX2_doesRead_20 ?_
  refine g_iadd dX2_doesRead_21 ?_
  replace h := ite_of h; rcases h with ⟨hc, h⟩ | ⟨hc, h⟩
  · refine g_icgeT dX2_doesRead_22 rfl hc ?_
    refine g_iload dX2_doesRead_82 rfl ?_
    refine g_iload_n 3 dX2_doesRead_84 rfl rfl ?_
    refine g_ishr dX2_doesRead_85 ?_
    refine g_ic 1 dX2_doesRead_86 rfl ?_
    refine g_iand dX2_doesRead_87 ?_
    refine g_ic 1 dX2_doesRead_88 rfl ?_
    replace h := ite_of h; rcases h with ⟨hc, h⟩ | ⟨hc, h⟩
    · refine g_icneF dX2_doesRead_89 rfl hc ?_
      refine g_ic 1 dX2_doesRead_92 rfl ?_
      refine g_goto dX2_doesRead_93 rfl ?_
      cases h
      cases Hr _ rfl
      exact g_zret rfl (by decide) dX2_doesRead_97
    · refine g_icneT dX2_doesRead_89 rfl hc ?_
      refine g_ic 0 dX2_doesRead_96 rfl ?_
      cases h
      cases Hr _ rfl
      exact g_zret rfl (by decide) dX2_doesRead_97
  · refine g_icgeF dX2_doesRead_22 rfl hc ?_
    refine g_ic 0 dX2_doesRead_25 rfl ?_
    refine g_istore dX2_doesRead_26 (Nat.le_of_ble_eq_true rfl) rfl ?_
    dsimp only [List.set]
    refine g_iload_n 2 dX2_doesRead_28 rfl rfl ?_
    refine g_istore dX2_doesRead_29 (Nat.le_of_ble_eq_true rfl) rfl ?_
    dsimp only [List.set]
    cases h
    refine G.weak [true, true, true, true, true, true, true, true] rfl ?_
    exact Hl _ rfl hT
set_option maxHeartbeats 4000000 in
theorem w_X2_doesRead_0 {Γ : GG} (hΓ : GF Γ) {m0 mF m : MM} {x : Nat} {l1 : Int32} {l2 : Int32} {l3 : Int32} (hT : (m.K x).1 = 3) {r : Int32} {q : ((Int32 × Int32 × MM) ⊕ (Int32 × Int32 × Int32 × Int32 × MM)) ⊕ (Int32 × MM)} (h : b_X2_doesRead_0 x l1 l2 l3 m = some q) (Hl : ∀ z, q = .inl z → p_X2_doesRead Γ m0 mF x l1 l2 l3 r z) (Hr : ∀ z, q = .inr z → z = (r, mF)) : G Γ kX2_doesRead cX2_doesRead m0 mF (.inl (some (.int r))) m 0 [some (.ref x), some (.int l1), some (.int l2), some (.int l3), none, none, none, none] [] := by
  unfold b_X2_doesRead_0 at h
  refine g_ic 1 dX2_doesRead_0 rfl ?_
  refine g_iload_n 2 dX2_doesRead_1 rfl rfl ?_
  refine g_ishl dX2_doesRead_2 ?_
  refine g_istore dX2_doesRead_3 (Nat.le_of_ble_eq_true rfl) rfl ?_
  dsimp only [List.set]
  refine g_ic 4 dX2_doesRead_5 rfl ?_
  refine g_iload_n 1 dX2_doesRead_6 rfl rfl ?_
  refine g_imul dX2_doesRead_7 ?_
  refine g_istore dX2_doesRead_8 (Nat.le_of_ble_eq_true rfl) rfl ?_
  dsimp only [List.set]
  cases h
  refine G.weak [true, true, true, true, true, true, false, false] rfl ?_
  exact Hl _ rfl hT
theorem ct_X2_doesRead {Γ : GG} (hΓ : GF Γ) {m mF : MM} {x : Nat} {l1 : Int32} {l2 : Int32} {l3 : Int32} (hT : (m.K x).1 = 3) {r : Int32} (h : f_X2_doesRead x l1 l2 l3 m = some (r, mF)) : Ct Γ kX2_doesRead cX2_doesRead [.ref x, .int l1, .int l2, .int l3] m (.inl (some (.int r))) mF := by
  unfold f_X2_doesRead at h
  replace h := bd_of h; obtain ⟨q, e, h⟩ := h
  have H := rx_go_ind (P := p_X2_doesRead Γ m mF x l1 l2 l3 r) (fun z o hs Hl Hr => by
    match z with
    | (.inl (l4, l5, m)) => exact fun hT => w_X2_doesRead_10 hΓ hT hs Hl Hr
    | (.inr (l4, l5, l6, l7, m)) => exact fun hT => w_X2_doesRead_31 hΓ hT hs Hl Hr) h
  exact Ct.of (κ := kX2_doesRead) (by decide) rfl (Nat.le_of_ble_eq_true rfl) rfl (w_X2_doesRead_0 hΓ hT e H.1 H.2)
def p_X2_layEnds (Γ : GG) (m0 mF : MM) (x : Nat) (l1 : Int32) (r : Unit) : ((Int32 × MM) ⊕ (Int32 × MM) ⊕ (Int32 × Int32 × MM) ⊕ (Int32 × Int32 × Int32 × MM)) → Prop := fun z => match z with
  | (.inl (l2, m)) => (m.K x).1 = 3 → G Γ kX2_layEnds cX2_layEnds m0 mF (.inl none) m 2 [some (.ref x), some (.int l1), some (.int l2), none, none] []
  | (.inr (.inl (l2, m))) => (m.K x).1 = 3 → G Γ kX2_layEnds cX2_layEnds m0 mF (.inl none) m 23 [some (.ref x), some (.int l1), some (.int l2), none, none] []
  | (.inr (.inr (.inl (l2, l3, m)))) => (m.K x).1 = 3 → G Γ kX2_layEnds cX2_layEnds m0 mF (.inl none) m 30 [some (.ref x), some (.int l1), some (.int l2), some (.int l3), none] []
  | (.inr (.inr (.inr (l2, l3, l4, m)))) => (m.K x).1 = 3 → G Γ kX2_layEnds cX2_layEnds m0 mF (.inl none) m 58 [some (.ref x), some (.int l1), some (.int l2), some (.int l3), some (.int l4)] []
set_option maxHeartbeats 4000000 in
theorem w_X2_layEnds_58 {Γ : GG} (hΓ : GF Γ) {m0 mF m : MM} {x : Nat} {l1 : Int32} {l2 : Int32} {l3 : Int32} {l4 : Int32} (hT : (m.K x).1 = 3) {r : Unit} {q : ((Int32 × MM) ⊕ (Int32 × MM) ⊕ (Int32 × Int32 × MM) ⊕ (Int32 × Int32 × Int32 × MM)) ⊕ (Unit × MM)} (h : b_X2_layEnds_58 x l1 l2 l3 l4 m = some q) (Hl : ∀ z, q = .inl z → p_X2_layEnds Γ m0 mF x l1 r z) (Hr : ∀ z, q = .inr z → z = (r, mF)) : G Γ kX2_layEnds cX2_layEnds m0 mF (.inl none) m 58 [some (.ref x), some (.int l1), some (.int l2), some (.int l3), some (.int l4)] [] := by
  unfold b_X2_layEnds_58 at h
  refine g_iload dX2_layEnds_58 rfl ?_
  refine g_bi (24) dX2_layEnds_60 rfl ?_
  refine g_this dX2_layEnds_62 rfl ?_
  refine g_getI hΓ.k fl_X2_233_X2 rfl hT dX2_layEnds_63 ?_
  refine g_imul dX2_layEnds_66 ?_
  replace h := ite_of h; rcases h with ⟨hc, h⟩ | ⟨hc, h⟩
  · refine g_icltT dX2_layEnds_67 rfl hc ?_
    refine g_iinc (l3 + (1 : Int32)) dX2_layEnds_114 rfl rfl (Nat.le_of_ble_eq_true rfl) rfl ?_
    dsimp only [List.set]
    refine g_goto dX2_layEnds_117 rfl ?_
    cases h
    refine G.weak [true, true, true, true, false] rfl ?_
    exact Hl _ rfl hT
  · refine g_icltF dX2_layEnds_67 rfl hc ?_
    refine g_this dX2_layEnds_70 rfl ?_
    refine g_iload dX2_layEnds_71 rfl ?_
    refine g_iload_n 3 dX2_layEnds_73 rfl rfl ?_
    refine g_iload_n 3 dX2_layEnds_74 rfl rfl ?_
    refine g_iload_n 2 dX2_layEnds_75 rfl rfl ?_
    refine g_iadd dX2_layEnds_76 ?_
    replace h := bd2_of h; obtain ⟨v1, m2, em2, h⟩ := h
    have C := ct_X2_doesRead hΓ hT em2
    refine g_callVi hΓ.k vl_X2_319 hT C rfl rfl (Nat.le_of_ble_eq_true rfl) (Nat.le_of_ble_eq_true rfl) (Nat.le_of_ble_eq_true rfl) dX2_layEnds_77 ?_
    replace hT := (C.1).kd hT
    replace h := ite_of h; rcases h with ⟨hc, h⟩ | ⟨hc, h⟩
    · refine g_ifeqT dX2_layEnds_80 rfl hc ?_
      refine g_iinc (l4 + (-1 : Int32)) dX2_layEnds_108 rfl rfl (Nat.le_of_ble_eq_true rfl) rfl ?_
      dsimp only [List.set]
      refine g_goto dX2_layEnds_111 rfl ?_
      cases h
      refine G.weak [true, true, true, true, true] rfl ?_
      exact Hl _ rfl hT
    · refine g_ifeqF dX2_layEnds_80 rfl hc ?_
      refine g_this dX2_layEnds_83 rfl ?_
      refine g_getR hΓ.k fl_X2_80_X2 rfl hT dX2_layEnds_84 ?_
      refine g_bi (7) dX2_layEnds_87 rfl ?_
      refine g_this dX2_layEnds_89 rfl ?_
      refine g_getR hΓ.k fl_X2_48_X2 rfl hT dX2_layEnds_90 ?_
      refine g_iload dX2_layEnds_93 rfl ?_
      replace h := bd_of h; obtain ⟨v3, ev3, h⟩ := h
      refine g_iald ev3 dX2_layEnds_95 ?_
      refine g_imul dX2_layEnds_96 ?_
      refine g_iload_n 3 dX2_layEnds_97 rfl rfl ?_
      refine g_iadd dX2_layEnds_98 ?_
      refine g_dup2 dX2_layEnds_99 rfl (va_rf_cat _) ?_
      replace h := bd_of h; obtain ⟨v4, ev4, h⟩ := h
      refine g_iald ev4 dX2_layEnds_100 ?_
      refine g_ic 1 dX2_layEnds_101 rfl ?_
      refine g_iload_n 3 dX2_layEnds_102 rfl rfl ?_
      refine g_iload_n 2 dX2_layEnds_103 rfl rfl ?_
      refine g_iadd dX2_layEnds_104 ?_
      refine g_ishl dX2_layEnds_105 ?_
      refine g_ior dX2_layEnds_106 ?_
      replace h := bd_of h; obtain ⟨m5, em5, h⟩ := h
      refine g_iast em5 dX2_layEnds_107 ?_
      replace hT := (sI_ext em5).kd hT
      refine g_iinc (l4 + (-1 : Int32)) dX2_layEnds_108 rfl rfl (Nat.le_of_ble_eq_true rfl) rfl ?_
      dsimp only [List.set]
      refine g_goto dX2_layEnds_111 rfl ?_
      cases h
      refine G.weak [true, true, true, true, true] rfl ?_
      exact Hl _ rfl hT
set_option maxHeartbeats 4000000 in
theorem w_X2_layEnds_30 {Γ : GG} (hΓ : GF Γ) {m0 mF m : MM} {x : Nat} {l1 : Int32} {l2 : Int32} {l3 : Int32} (hT : (m.K x).1 = 3) {r : Unit} {q : ((Int32 × MM) ⊕ (Int32 × MM) ⊕ (Int32 × Int32 × MM) ⊕ (Int32 × Int32 × Int32 × MM)) ⊕ (Unit × MM)} (h : b_X2_layEnds_30 x l1 l2 l3 m = some q) (Hl : ∀ z, q = .inl z → p_X2_layEnds Γ m0 mF x l1 r z) (Hr : ∀ z, q = .inr z → z = (r, mF)) : G Γ kX2_layEnds cX2_layEnds m0 mF (.inl none) m 30 [some (.ref x), some (.int l1), some (.int l2), some (.int l3), none] [] := by
  unfold b_X2_layEnds_30 at h
  refine g_iload_n 3 dX2_layEnds_30 rfl rfl ?_
  refine g_iload_n 2 dX2_layEnds_31 rfl rfl ?_
  refine g_iadd dX2_layEnds_32 ?_
  refine g_iload_n 1 dX2_layEnds_33 rfl rfl ?_
  replace h := ite_of h; rcases h with ⟨hc, h⟩ | ⟨hc, h⟩
  · refine g_icgtT dX2_layEnds_34 rfl hc ?_
    refine g_iinc (l2 + (1 : Int32)) dX2_layEnds_120 rfl rfl (Nat.le_of_ble_eq_true rfl) rfl ?_
    dsimp only [List.set]
    refine g_goto dX2_layEnds_123 rfl ?_
    cases h
    refine G.weak [true, true, true, false, false] rfl ?_
    exact Hl _ rfl hT
  · refine g_icgtF dX2_layEnds_34 rfl hc ?_
    refine g_bi (24) dX2_layEnds_37 rfl ?_
    refine g_this dX2_layEnds_39 rfl ?_
    refine g_getI hΓ.k fl_X2_233_X2 rfl hT dX2_layEnds_40 ?_
    refine g_imul dX2_layEnds_43 ?_
    refine g_this dX2_layEnds_44 rfl ?_
    refine g_getR hΓ.k fl_X2_30_X2 rfl hT dX2_layEnds_45 ?_
    refine g_this dX2_layEnds_48 rfl ?_
    refine g_getI hΓ.k fl_X2_233_X2 rfl hT dX2_layEnds_49 ?_
    replace h := bd_of h; obtain ⟨v1, ev1, h⟩ := h
    refine g_iald ev1 dX2_layEnds_52 ?_
    refine g_iadd dX2_layEnds_53 ?_
    refine g_ic 1 dX2_layEnds_54 rfl ?_
    refine g_isub dX2_layEnds_55 ?_
    refine g_istore dX2_layEnds_56 (Nat.le_of_ble_eq_true rfl) rfl ?_
    dsimp only [List.set]
    cases h
    refine G.weak [true, true, true, true, true] rfl ?_
    exact Hl _ rfl hT
set_option maxHeartbeats 4000000 in
theorem w_X2_layEnds_23 {Γ : GG} (hΓ : GF Γ) {m0 mF m : MM} {x : Nat} {l1 : Int32} {l2 : Int32} (hT : (m.K x).1 = 3) {r : Unit} {q : ((Int32 × MM) ⊕ (Int32 × MM) ⊕ (Int32 × Int32 × MM) ⊕ (Int32 × Int32 × Int32 × MM)) ⊕ (Unit × MM)} (h : b_X2_layEnds_23 x l1 l2 m = some q) (Hl : ∀ z, q = .inl z → p_X2_layEnds Γ m0 mF x l1 r z) (Hr : ∀ z, q = .inr z → z = (r, mF)) : G Γ kX2_layEnds cX2_layEnds m0 mF (.inl none) m 23 [some (.ref x), some (.int l1), some (.int l2), none, none] [] := by
  unfold b_X2_layEnds_23 at h
  refine g_iload_n 2 dX2_layEnds_23 rfl rfl ?_
  refine g_iload_n 1 dX2_layEnds_24 rfl rfl ?_
  replace h := ite_of h; rcases h with ⟨hc, h⟩ | ⟨hc, h⟩
  · refine g_icgtT dX2_layEnds_25 rfl hc ?_
    cases h
    cases Hr _ rfl
    exact g_vret rfl dX2_layEnds_126
  · refine g_icgtF dX2_layEnds_25 rfl hc ?_
    refine g_ic 0 dX2_layEnds_28 rfl ?_
    refine g_istore_n 3 dX2_layEnds_29 rfl (Nat.le_of_ble_eq_true rfl) rfl ?_
    dsimp only [List.set]
    cases h
    refine G.weak [true, true, true, true, false] rfl ?_
    exact Hl _ rfl hT
set_option maxHeartbeats 4000000 in
theorem w_X2_layEnds_2 {Γ : GG} (hΓ : GF Γ) {m0 mF m : MM} {x : Nat} {l1 : Int32} {l2 : Int32} (hT : (m.K x).1 = 3) {r : Unit} {q : ((Int32 × MM) ⊕ (Int32 × MM) ⊕ (Int32 × Int32 × MM) ⊕ (Int32 × Int32 × Int32 × MM)) ⊕ (Unit × MM)} (h : b_X2_layEnds_2 x l1 l2 m = some q) (Hl : ∀ z, q = .inl z → p_X2_layEnds Γ m0 mF x l1 r z) (Hr : ∀ z, q = .inr z → z = (r, mF)) : G Γ kX2_layEnds cX2_layEnds m0 mF (.inl none) m 2 [some (.ref x), some (.int l1), some (.int l2), none, none] [] := by
  unfold b_X2_layEnds_2 at h
  refine g_iload_n 2 dX2_layEnds_2 rfl rfl ?_
  refine g_bi (56) dX2_layEnds_3 rfl ?_
  replace h := ite_of h; rcases h with ⟨hc, h⟩ | ⟨hc, h⟩
  · refine g_icgeT dX2_layEnds_5 rfl hc ?_
    refine g_ic 1 dX2_layEnds_21 rfl ?_
    refine g_istore_n 2 dX2_layEnds_22 rfl (Nat.le_of_ble_eq_true rfl) rfl ?_
    dsimp only [List.set]
    cases h
    refine G.weak [true, true, true, false, false] rfl ?_
    exact Hl _ rfl hT
  · refine g_icgeF dX2_layEnds_5 rfl hc ?_
    refine g_this dX2_layEnds_8 rfl ?_
    refine g_getR hΓ.k fl_X2_80_X2 rfl hT dX2_layEnds_9 ?_
    refine g_iload_n 2 dX2_layEnds_12 rfl rfl ?_
    refine g_ic 0 dX2_layEnds_13 rfl ?_
    replace h := bd_of h; obtain ⟨m1, em1, h⟩ := h
    refine g_iast em1 dX2_layEnds_14 ?_
    replace hT := (sI_ext em1).kd hT
    refine g_iinc (l2 + (1 : Int32)) dX2_layEnds_15 rfl rfl (Nat.le_of_ble_eq_true rfl) rfl ?_
    dsimp only [List.set]
    refine g_goto dX2_layEnds_18 rfl ?_
    cases h
    refine G.weak [true, true, true, false, false] rfl ?_
    exact Hl _ rfl hT
set_option maxHeartbeats 4000000 in
theorem w_X2_layEnds_0 {Γ : GG} (hΓ : GF Γ) {m0 mF m : MM} {x : Nat} {l1 : Int32} (hT : (m.K x).1 = 3) {r : Unit} {q : ((Int32 × MM) ⊕ (Int32 × MM) ⊕ (Int32 × Int32 × MM) ⊕ (Int32 × Int32 × Int32 × MM)) ⊕ (Unit × MM)} (h : b_X2_layEnds_0 x l1 m = some q) (Hl : ∀ z, q = .inl z → p_X2_layEnds Γ m0 mF x l1 r z) (Hr : ∀ z, q = .inr z → z = (r, mF)) : G Γ kX2_layEnds cX2_layEnds m0 mF (.inl none) m 0 [some (.ref x), some (.int l1), none, none, none] [] := by
  unfold b_X2_layEnds_0 at h
  refine g_ic 0 dX2_layEnds_0 rfl ?_
  refine g_istore_n 2 dX2_layEnds_1 rfl (Nat.le_of_ble_eq_true rfl) rfl ?_
  dsimp only [List.set]
  cases h
  refine G.weak [true, true, true, false, false] rfl ?_
  exact Hl _ rfl hT
theorem ct_X2_layEnds {Γ : GG} (hΓ : GF Γ) {m mF : MM} {x : Nat} {l1 : Int32} (hT : (m.K x).1 = 3) {r : Unit} (h : f_X2_layEnds x l1 m = some (r, mF)) : Ct Γ kX2_layEnds cX2_layEnds [.ref x, .int l1] m (.inl none) mF := by
  unfold f_X2_layEnds at h
  replace h := bd_of h; obtain ⟨q, e, h⟩ := h
  have H := rx_go_ind (P := p_X2_layEnds Γ m mF x l1 r) (fun z o hs Hl Hr => by
    match z with
    | (.inl (l2, m)) => exact fun hT => w_X2_layEnds_2 hΓ hT hs Hl Hr
    | (.inr (.inl (l2, m))) => exact fun hT => w_X2_layEnds_23 hΓ hT hs Hl Hr
    | (.inr (.inr (.inl (l2, l3, m)))) => exact fun hT => w_X2_layEnds_30 hΓ hT hs Hl Hr
    | (.inr (.inr (.inr (l2, l3, l4, m)))) => exact fun hT => w_X2_layEnds_58 hΓ hT hs Hl Hr) h
  exact Ct.of (κ := kX2_layEnds) (by decide) rfl (Nat.le_of_ble_eq_true rfl) rfl (w_X2_layEnds_0 hΓ hT e H.1 H.2)
set_option maxHeartbeats 4000000 in
theorem w_X2_isRead_0 {Γ : GG} (hΓ : GF Γ) {m0 mF m : MM} {x : Nat} {l1 : Int32} (hT : (m.K x).1 = 3) {r : Int32} (h : b_X2_isRead_0 x l1 m = some (r, mF)) : G Γ kX2_isRead cX2_isRead m0 mF (.inl (some (.int r))) m 0 [some (.ref x), some (.int l1)] [] := by
  unfold b_X2_isRead_0 at h
  refine g_this dX2_isRead_0 rfl ?_
  refine g_getR hΓ.k fl_X2_27_X2 rfl hT dX2_isRead_1 ?_
  refine g_this dX2_isRead_4 rfl ?_
  refine g_getI hΓ.k fl_X2_233_X2 rfl hT dX2_isRead_5 ?_
  replace h := bd_of h; obtain ⟨v1, ev1, h⟩ := h
  refine g_iald ev1 dX2_isRead_8 ?_
  replace h := ite_of h; rcases h with ⟨hc, h⟩ | ⟨hc, h⟩
  · refine g_ifeqT dX2_isRead_9 rfl hc ?_
    refine g_ic 0 dX2_isRead_16 rfl ?_
    cases h
    exact g_zret rfl (by decide) dX2_isRead_17
  · refine g_ifeqF dX2_isRead_9 rfl hc ?_
    refine g_iload_n 1 dX2_isRead_12 rfl rfl ?_
    replace h := ite_of h; rcases h with ⟨hc, h⟩ | ⟨hc, h⟩
    · refine g_ifneF dX2_isRead_13 rfl hc ?_
      refine g_ic 0 dX2_isRead_16 rfl ?_
      cases h
      exact g_zret rfl (by decide) dX2_isRead_17
    · refine g_ifneT dX2_isRead_13 rfl hc ?_
      refine g_this dX2_isRead_18 rfl ?_
      refine g_iload_n 1 dX2_isRead_19 rfl rfl ?_
      replace h := bd2_of h; obtain ⟨_, m2, em2, h⟩ := h
      have C := ct_X2_layEnds hΓ hT em2
      refine g_callVv hΓ.k vl_X2_322 hT C rfl rfl (Nat.le_of_ble_eq_true rfl) (Nat.le_of_ble_eq_true rfl) (Nat.le_of_ble_eq_true rfl) dX2_isRead_20 ?_
      replace hT := (C.1).kd hT
      refine g_this dX2_isRead_23 rfl ?_
      refine g_getR hΓ.k fl_X2_80_X2 rfl hT dX2_isRead_24 ?_
      refine g_ic 0 dX2_isRead_27 rfl ?_
      replace h := bd_of h; obtain ⟨v3, ev3, h⟩ := h
      refine g_iald ev3 dX2_isRead_28 ?_
      refine g_iload_n 1 dX2_isRead_29 rfl rfl ?_
      refine g_ishr dX2_isRead_30 ?_
      refine g_ic 1 dX2_isRead_31 rfl ?_
      refine g_iand dX2_isRead_32 ?_
      refine g_ic 1 dX2_isRead_33 rfl ?_
      replace h := ite_of h; rcases h with ⟨hc, h⟩ | ⟨hc, h⟩
      · refine g_icneF dX2_isRead_34 rfl hc ?_
        refine g_ic 1 dX2_isRead_37 rfl ?_
        refine g_goto dX2_isRead_38 rfl ?_
        cases h
        exact g_zret rfl (by decide) dX2_isRead_42
      · refine g_icneT dX2_isRead_34 rfl hc ?_
        refine g_ic 0 dX2_isRead_41 rfl ?_
        cases h
        exact g_zret rfl (by decide) dX2_isRead_42
theorem ct_X2_isRead {Γ : GG} (hΓ : GF Γ) {m mF : MM} {x : Nat} {l1 : Int32} (hT : (m.K x).1 = 3) {r : Int32} (h : f_X2_isRead x l1 m = some (r, mF)) : Ct Γ kX2_isRead cX2_isRead [.ref x, .int l1] m (.inl (some (.int r))) mF := by
  unfold f_X2_isRead at h
  exact Ct.of (κ := kX2_isRead) (by decide) rfl (Nat.le_of_ble_eq_true rfl) rfl (w_X2_isRead_0 hΓ hT h)
def p_X2_canGoOn (Γ : GG) (m0 mF : MM) (x : Nat) (l1 : Int32) (r : Int32) : ((Int32 × MM)) → Prop := fun z => match z with
  | (l2, m) => (m.K x).1 = 3 → G Γ kX2_canGoOn cX2_canGoOn m0 mF (.inl (some (.int r))) m 2 [some (.ref x), some (.int l1), some (.int l2)] []
set_option maxHeartbeats 4000000 in
theorem w_X2_canGoOn_2 {Γ : GG} (hΓ : GF Γ) {m0 mF m : MM} {x : Nat} {l1 : Int32} {l2 : Int32} (hT : (m.K x).1 = 3) {r : Int32} {q : ((Int32 × MM)) ⊕ (Int32 × MM)} (h : b_X2_canGoOn_2 x l1 l2 m = some q) (Hl : ∀ z, q = .inl z → p_X2_canGoOn Γ m0 mF x l1 r z) (Hr : ∀ z, q = .inr z → z = (r, mF)) : G Γ kX2_canGoOn cX2_canGoOn m0 mF (.inl (some (.int r))) m 2 [some (.ref x), some (.int l1), some (.int l2)] [] := by
  unfold b_X2_canGoOn_2 at h
  refine g_iload_n 2 dX2_canGoOn_2 rfl rfl ?_
  refine g_this dX2_canGoOn_3 rfl ?_
  replace h := bd2_of h; obtain ⟨v1, m2, em2, h⟩ := h
  have C := ct_X2_longOf hΓ hT em2
  refine g_callVi hΓ.k vl_X2_302 hT C rfl rfl (Nat.le_of_ble_eq_true rfl) (Nat.le_of_ble_eq_true rfl) (Nat.le_of_ble_eq_true rfl) dX2_canGoOn_4 ?_
  replace hT := (C.1).kd hT
  replace h := ite_of h; rcases h with ⟨hc, h⟩ | ⟨hc, h⟩
  · refine g_icgeT dX2_canGoOn_7 rfl hc ?_
    refine g_iload_n 1 dX2_canGoOn_23 rfl rfl ?_
    refine g_this dX2_canGoOn_24 rfl ?_
    replace h := bd2_of h; obtain ⟨v3, m4, em4, h⟩ := h
    have C := ct_X2_longOf hΓ hT em4
    refine g_callVi hΓ.k vl_X2_302 hT C rfl rfl (Nat.le_of_ble_eq_true rfl) (Nat.le_of_ble_eq_true rfl) (Nat.le_of_ble_eq_true rfl) dX2_canGoOn_25 ?_
    replace hT := (C.1).kd hT
    replace h := ite_of h; rcases h with ⟨hc, h⟩ | ⟨hc, h⟩
    · refine g_icgtT dX2_canGoOn_28 rfl hc ?_
      refine g_ic 0 dX2_canGoOn_46 rfl ?_
      cases h
      cases Hr _ rfl
      exact g_zret rfl (by decide) dX2_canGoOn_47
    · refine g_icgtF dX2_canGoOn_28 rfl hc ?_
      refine g_this dX2_canGoOn_31 rfl ?_
      refine g_this dX2_canGoOn_32 rfl ?_
      replace h := bd2_of h; obtain ⟨v5, m6, em6, h⟩ := h
      have C := ct_X2_longOf hΓ hT em6
      refine g_callVi hΓ.k vl_X2_302 hT C rfl rfl (Nat.le_of_ble_eq_true rfl) (Nat.le_of_ble_eq_true rfl) (Nat.le_of_ble_eq_true rfl) dX2_canGoOn_33 ?_
      replace hT := (C.1).kd hT
      replace h := bd2_of h; obtain ⟨v7, m8, em8, h⟩ := h
      have C := ct_X2_isRead hΓ hT em8
      refine g_callVi hΓ.k vl_X2_348 hT C rfl rfl (Nat.le_of_ble_eq_true rfl) (Nat.le_of_ble_eq_true rfl) (Nat.le_of_ble_eq_true rfl) dX2_canGoOn_36 ?_
      replace hT := (C.1).kd hT
      replace h := ite_of h; rcases h with ⟨hc, h⟩ | ⟨hc, h⟩
      · refine g_ifeqT dX2_canGoOn_39 rfl hc ?_
        refine g_ic 0 dX2_canGoOn_46 rfl ?_
        cases h
        cases Hr _ rfl
        exact g_zret rfl (by decide) dX2_canGoOn_47
      · refine g_ifeqF dX2_canGoOn_39 rfl hc ?_
        refine g_ic 1 dX2_canGoOn_42 rfl ?_
        refine g_goto dX2_canGoOn_43 rfl ?_
        cases h
        cases Hr _ rfl
        exact g_zret rfl (by decide) dX2_canGoOn_47
  · refine g_icgeF dX2_canGoOn_7 rfl hc ?_
    refine g_this dX2_canGoOn_10 rfl ?_
    refine g_getR hΓ.k fl_X2_77_X2 rfl hT dX2_canGoOn_11 ?_
    refine g_iload_n 2 dX2_canGoOn_14 rfl rfl ?_
    refine g_ic (-1) dX2_canGoOn_15 rfl ?_
    replace h := bd_of h; obtain ⟨m9, em9, h⟩ := h
    refine g_iast em9 dX2_canGoOn_16 ?_
    replace hT := (sI_ext em9).kd hT
    refine g_iinc (l2 + (1 : Int32)) dX2_canGoOn_17 rfl rfl (Nat.le_of_ble_eq_true rfl) rfl ?_
    dsimp only [List.set]
    refine g_goto dX2_canGoOn_20 rfl ?_
    cases h
    refine G.weak [true, true, true] rfl ?_
    exact Hl _ rfl hT
set_option maxHeartbeats 4000000 in
theorem w_X2_canGoOn_0 {Γ : GG} (hΓ : GF Γ) {m0 mF m : MM} {x : Nat} {l1 : Int32} (hT : (m.K x).1 = 3) {r : Int32} {q : ((Int32 × MM)) ⊕ (Int32 × MM)} (h : b_X2_canGoOn_0 x l1 m = some q) (Hl : ∀ z, q = .inl z → p_X2_canGoOn Γ m0 mF x l1 r z) (Hr : ∀ z, q = .inr z → z = (r, mF)) : G Γ kX2_canGoOn cX2_canGoOn m0 mF (.inl (some (.int r))) m 0 [some (.ref x), some (.int l1), none] [] := by
  unfold b_X2_canGoOn_0 at h
  refine g_iload_n 1 dX2_canGoOn_0 rfl rfl ?_
  refine g_istore_n 2 dX2_canGoOn_1 rfl (Nat.le_of_ble_eq_true rfl) rfl ?_
  dsimp only [List.set]
  cases h
  refine G.weak [true, true, true] rfl ?_
  exact Hl _ rfl hT
theorem ct_X2_canGoOn {Γ : GG} (hΓ : GF Γ) {m mF : MM} {x : Nat} {l1 : Int32} (hT : (m.K x).1 = 3) {r : Int32} (h : f_X2_canGoOn x l1 m = some (r, mF)) : Ct Γ kX2_canGoOn cX2_canGoOn [.ref x, .int l1] m (.inl (some (.int r))) mF := by
  unfold f_X2_canGoOn at h
  replace h := bd_of h; obtain ⟨q, e, h⟩ := h
  have H := rx_go_ind (P := p_X2_canGoOn Γ m mF x l1 r) (fun z o hs Hl Hr => by
    match z with
    | (l2, m) => exact fun hT => w_X2_canGoOn_2 hΓ hT hs Hl Hr) h
  exact Ct.of (κ := kX2_canGoOn) (by decide) rfl (Nat.le_of_ble_eq_true rfl) rfl (w_X2_canGoOn_0 hΓ hT e H.1 H.2)
def p_X2_tryRow (Γ : GG) (m0 mF : MM) (x : Nat) (r : Unit) : ((Int32 × MM)) → Prop := fun z => match z with
  | (l1, m) => (m.K x).1 = 3 → G Γ kX2_tryRow cX2_tryRow m0 mF (.inl none) m 2 [some (.ref x), some (.int l1)] []
set_option maxHeartbeats 4000000 in
theorem w_X2_tryRow_2 {Γ : GG} (hΓ : GF Γ) {m0 mF m : MM} {x : Nat} {l1 : Int32} (hT : (m.K x).1 = 3) {r : Unit} {q : ((Int32 × MM)) ⊕ (Unit × MM)} (h : b_X2_tryRow_2 x l1 m = some q) (Hl : ∀ z, q = .inl z → p_X2_tryRow Γ m0 mF x r z) (Hr : ∀ z, q = .inr z → z = (r, mF)) : G Γ kX2_tryRow cX2_tryRow m0 mF (.inl none) m 2 [some (.ref x), some (.int l1)] [] := by
  unfold b_X2_tryRow_2 at h
  refine g_iload_n 1 dX2_tryRow_2 rfl rfl ?_
  refine g_this dX2_tryRow_3 rfl ?_
  refine g_getI hΓ.k fl_X2_336_X2 rfl hT dX2_tryRow_4 ?_
  replace h := ite_of h; rcases h with ⟨hc, h⟩ | ⟨hc, h⟩
  · refine g_icgeT dX2_tryRow_7 rfl hc ?_
    cases h
    cases Hr _ rfl
    exact g_vret rfl dX2_tryRow_28
  · refine g_icgeF dX2_tryRow_7 rfl hc ?_
    refine g_this dX2_tryRow_10 rfl ?_
    refine g_getR hΓ.k fl_X2_77_X2 rfl hT dX2_tryRow_11 ?_
    refine g_iload_n 1 dX2_tryRow_14 rfl rfl ?_
    refine g_this dX2_tryRow_15 rfl ?_
    refine g_getR hΓ.k fl_X2_92_X2 rfl hT dX2_tryRow_16 ?_
    refine g_iload_n 1 dX2_tryRow_19 rfl rfl ?_
    replace h := bd_of h; obtain ⟨v1, ev1, h⟩ := h
    refine g_iald ev1 dX2_tryRow_20 ?_
    replace h := bd_of h; obtain ⟨m2, em2, h⟩ := h
    refine g_iast em2 dX2_tryRow_21 ?_
    replace hT := (sI_ext em2).kd hT
    refine g_iinc (l1 + (1 : Int32)) dX2_tryRow_22 rfl rfl (Nat.le_of_ble_eq_true rfl) rfl ?_
    dsimp only [List.set]
    refine g_goto dX2_tryRow_25 rfl ?_
    cases h
    refine G.weak [true, true] rfl ?_
    exact Hl _ rfl hT
set_option maxHeartbeats 4000000 in
theorem w_X2_tryRow_0 {Γ : GG} (hΓ : GF Γ) {m0 mF m : MM} {x : Nat} (hT : (m.K x).1 = 3) {r : Unit} {q : ((Int32 × MM)) ⊕ (Unit × MM)} (h : b_X2_tryRow_0 x m = some q) (Hl : ∀ z, q = .inl z → p_X2_tryRow Γ m0 mF x r z) (Hr : ∀ z, q = .inr z → z = (r, mF)) : G Γ kX2_tryRow cX2_tryRow m0 mF (.inl none) m 0 [some (.ref x), none] [] := by
  unfold b_X2_tryRow_0 at h
  refine g_ic 0 dX2_tryRow_0 rfl ?_
  refine g_istore_n 1 dX2_tryRow_1 rfl (Nat.le_of_ble_eq_true rfl) rfl ?_
  dsimp only [List.set]
  cases h
  refine G.weak [true, true] rfl ?_
  exact Hl _ rfl hT
theorem ct_X2_tryRow {Γ : GG} (hΓ : GF Γ) {m mF : MM} {x : Nat} (hT : (m.K x).1 = 3) {r : Unit} (h : f_X2_tryRow x m = some (r, mF)) : Ct Γ kX2_tryRow cX2_tryRow [.ref x] m (.inl none) mF := by
  unfold f_X2_tryRow at h
  replace h := bd_of h; obtain ⟨q, e, h⟩ := h
  have H := rx_go_ind (P := p_X2_tryRow Γ m mF x r) (fun z o hs Hl Hr => by
    match z with
    | (l1, m) => exact fun hT => w_X2_tryRow_2 hΓ hT hs Hl Hr) h
  exact Ct.of (κ := kX2_tryRow) (by decide) rfl (Nat.le_of_ble_eq_true rfl) rfl (w_X2_tryRow_0 hΓ hT e H.1 H.2)
set_option maxHeartbeats 4000000 in
theorem w_X2_canCome_0 {Γ : GG} (hΓ : GF Γ) {m0 mF m : MM} {x : Nat} {l1 : Int32} (hT : (m.K x).1 = 3) {r : Int32} (h : b_X2_canCome_0 x l1 m = some (r, mF)) : G Γ kX2_canCome cX2_canCome m0 mF (.inl (some (.int r))) m 0 [some (.ref x), some (.int l1)] [] := by
  unfold b_X2_canCome_0 at h
  refine g_this dX2_canCome_0 rfl ?_
  refine g_getI hΓ.k fl_X2_336_X2 rfl hT dX2_canCome_1 ?_
  refine g_this dX2_canCome_4 rfl ?_
  replace h := bd2_of h; obtain ⟨v1, m2, em2, h⟩ := h
  have C := ct_X2_longOf hΓ hT em2
  refine g_callVi hΓ.k vl_X2_302 hT C rfl rfl (Nat.le_of_ble_eq_true rfl) (Nat.le_of_ble_eq_true rfl) (Nat.le_of_ble_eq_true rfl) dX2_canCome_5 ?_
  replace hT := (C.1).kd hT
  replace h := ite_of h; rcases h with ⟨hc, h⟩ | ⟨hc, h⟩
  · refine g_icneF dX2_canCome_8 rfl hc ?_
    refine g_ic 0 dX2_canCome_11 rfl ?_
    cases h
    exact g_zret rfl (by decide) dX2_canCome_12
  · refine g_icneT dX2_canCome_8 rfl hc ?_
    refine g_this dX2_canCome_13 rfl ?_
    replace h := bd2_of h; obtain ⟨_, m3, em3, h⟩ := h
    have C := ct_X2_tryRow hΓ hT em3
    refine g_callVv hΓ.k vl_X2_351 hT C rfl rfl (Nat.le_of_ble_eq_true rfl) (Nat.le_of_ble_eq_true rfl) (Nat.le_of_ble_eq_true rfl) dX2_canCome_14 ?_
    replace hT := (C.1).kd hT
    refine g_this dX2_canCome_17 rfl ?_
    refine g_getR hΓ.k fl_X2_77_X2 rfl hT dX2_canCome_18 ?_
    refine g_this dX2_canCome_21 rfl ?_
    refine g_getI hΓ.k fl_X2_336_X2 rfl hT dX2_canCome_22 ?_
    refine g_iload_n 1 dX2_canCome_25 rfl rfl ?_
    replace h := bd_of h; obtain ⟨m4, em4, h⟩ := h
    refine g_iast em4 dX2_canCome_26 ?_
    replace hT := (sI_ext em4).kd hT
    refine g_this dX2_canCome_27 rfl ?_
    refine g_this dX2_canCome_28 rfl ?_
    refine g_getI hΓ.k fl_X2_336_X2 rfl hT dX2_canCome_29 ?_
    refine g_ic 1 dX2_canCome_32 rfl ?_
    refine g_iadd dX2_canCome_33 ?_
    replace h := bd2_of h; obtain ⟨v5, m6, em6, h⟩ := h
    have C := ct_X2_canGoOn hΓ hT em6
    refine g_callVi hΓ.k vl_X2_354 hT C rfl rfl (Nat.le_of_ble_eq_true rfl) (Nat.le_of_ble_eq_true rfl) (Nat.le_of_ble_eq_true rfl) dX2_canCome_34 ?_
    replace hT := (C.1).kd hT
    replace h := ite_of h; rcases h with ⟨hc, h⟩ | ⟨hc, h⟩
    · cases h
      exact g_zret rfl hc dX2_canCome_37
    · cases h
theorem ct_X2_canCome {Γ : GG} (hΓ : GF Γ) {m mF : MM} {x : Nat} {l1 : Int32} (hT : (m.K x).1 = 3) {r : Int32} (h : f_X2_canCome x l1 m = some (r, mF)) : Ct Γ kX2_canCome cX2_canCome [.ref x, .int l1] m (.inl (some (.int r))) mF := by
  unfold f_X2_canCome at h
  exact Ct.of (κ := kX2_canCome) (by decide) rfl (Nat.le_of_ble_eq_true rfl) rfl (w_X2_canCome_0 hΓ hT h)
def p_X2_next (Γ : GG) (m0 mF : MM) (x : Nat) (r : Int32) : ((Int32 × Int32 × MM)) → Prop := fun z => match z with
  | (l1, l2, m) => (m.K x).1 = 3 → G Γ kX2_next cX2_next m0 mF (.inl (some (.int r))) m 4 [some (.ref x), some (.int l1), some (.int l2)] []
set_option maxHeartbeats 4000000 in
theorem w_X2_next_4 {Γ : GG} (hΓ : GF Γ) {m0 mF m : MM} {x : Nat} {l1 : Int32} {l2 : Int32} (hT : (m.K x).1 = 3) {r : Int32} {q : ((Int32 × Int32 × MM)) ⊕ (Int32 × MM)} (h : b_X2_next_4 x l1 l2 m = some q) (Hl : ∀ z, q = .inl z → p_X2_next Γ m0 mF x r z) (Hr : ∀ z, q = .inr z → z = (r, mF)) : G Γ kX2_next cX2_next m0 mF (.inl (some (.int r))) m 4 [some (.ref x), some (.int l1), some (.int l2)] [] := by
  unfold b_X2_next_4 at h
  refine g_iload_n 2 dX2_next_4 rfl rfl ?_
  refine g_this dX2_next_5 rfl ?_
  refine g_getR hΓ.k fl_X2_20_X2 rfl hT dX2_next_6 ?_
  refine g_this dX2_next_9 rfl ?_
  refine g_getI hΓ.k fl_X2_233_X2 rfl hT dX2_next_10 ?_
  replace h := bd_of h; obtain ⟨v1, ev1, h⟩ := h
  refine g_iald ev1 dX2_next_13 ?_
  replace h := ite_of h; rcases h with ⟨hc, h⟩ | ⟨hc, h⟩
  · refine g_icgeT dX2_next_14 rfl hc ?_
    refine g_iload_n 1 dX2_next_41 rfl rfl ?_
    cases h
    cases Hr _ rfl
    exact g_iret rfl dX2_next_42
  · refine g_icgeF dX2_next_14 rfl hc ?_
    refine g_iload_n 1 dX2_next_17 rfl rfl ?_
    refine g_this dX2_next_18 rfl ?_
    refine g_iload_n 2 dX2_next_19 rfl rfl ?_
    replace h := bd2_of h; obtain ⟨v2, m3, em3, h⟩ := h
    have C := ct_X2_canCome hΓ hT em3
    refine g_callVi hΓ.k vl_X2_360 hT C rfl rfl (Nat.le_of_ble_eq_true rfl) (Nat.le_of_ble_eq_true rfl) (Nat.le_of_ble_eq_true rfl) dX2_next_20 ?_
    replace hT := (C.1).kd hT
    replace h := ite_of h; rcases h with ⟨hc, h⟩ | ⟨hc, h⟩
    · refine g_ifeqT dX2_next_23 rfl hc ?_
      refine g_ic 0 dX2_next_32 rfl ?_
      refine g_ior dX2_next_33 ?_
      refine g_istore_n 1 dX2_next_34 rfl (Nat.le_of_ble_eq_true rfl) rfl ?_
      dsimp only [List.set]
      refine g_iinc (l2 + (1 : Int32)) dX2_next_35 rfl rfl (Nat.le_of_ble_eq_true rfl) rfl ?_
      dsimp only [List.set]
      refine g_goto dX2_next_38 rfl ?_
      cases h
      refine G.weak [true, true, true] rfl ?_
      exact Hl _ rfl hT
    · refine g_ifeqF dX2_next_23 rfl hc ?_
      refine g_ic 1 dX2_next_26 rfl ?_
      refine g_iload_n 2 dX2_next_27 rfl rfl ?_
      refine g_ishl dX2_next_28 ?_
      refine g_goto dX2_next_29 rfl ?_
      refine g_ior dX2_next_33 ?_
      refine g_istore_n 1 dX2_next_34 rfl (Nat.le_of_ble_eq_true rfl) rfl ?_
      dsimp only [List.set]
      refine g_iinc (l2 + (1 : Int32)) dX2_next_35 rfl rfl (Nat.le_of_ble_eq_true rfl) rfl ?_
      dsimp only [List.set]
      refine g_goto dX2_next_38 rfl ?_
      cases h
      refine G.weak [true, true, true] rfl ?_
      exact Hl _ rfl hT
set_option maxHeartbeats 4000000 in
theorem w_X2_next_0 {Γ : GG} (hΓ : GF Γ) {m0 mF m : MM} {x : Nat} (hT : (m.K x).1 = 3) {r : Int32} {q : ((Int32 × Int32 × MM)) ⊕ (Int32 × MM)} (h : b_X2_next_0 x m = some q) (Hl : ∀ z, q = .inl z → p_X2_next Γ m0 mF x r z) (Hr : ∀ z, q = .inr z → z = (r, mF)) : G Γ kX2_next cX2_next m0 mF (.inl (some (.int r))) m 0 [some (.ref x), none, none] [] := by
  unfold b_X2_next_0 at h
  refine g_ic 0 dX2_next_0 rfl ?_
  refine g_istore_n 1 dX2_next_1 rfl (Nat.le_of_ble_eq_true rfl) rfl ?_
  dsimp only [List.set]
  refine g_ic 0 dX2_next_2 rfl ?_
  refine g_istore_n 2 dX2_next_3 rfl (Nat.le_of_ble_eq_true rfl) rfl ?_
  dsimp only [List.set]
  cases h
  refine G.weak [true, true, true] rfl ?_
  exact Hl _ rfl hT
theorem ct_X2_next {Γ : GG} (hΓ : GF Γ) {m mF : MM} {x : Nat} (hT : (m.K x).1 = 3) {r : Int32} (h : f_X2_next x m = some (r, mF)) : Ct Γ kX2_next cX2_next [.ref x] m (.inl (some (.int r))) mF := by
  unfold f_X2_next at h
  replace h := bd_of h; obtain ⟨q, e, h⟩ := h
  have H := rx_go_ind (P := p_X2_next Γ m mF x r) (fun z o hs Hl Hr => by
    match z with
    | (l1, l2, m) => exact fun hT => w_X2_next_4 hΓ hT hs Hl Hr) h
  exact Ct.of (κ := kX2_next) (by decide) rfl (Nat.le_of_ble_eq_true rfl) rfl (w_X2_next_0 hΓ hT e H.1 H.2)
set_option maxHeartbeats 4000000 in
theorem w_X2_atMost_0 {Γ : GG} (hΓ : GF Γ) {m0 mF m : MM} {l0 : Int64} {r : Int64} (h : b_X2_atMost_0 l0 m = some (r, mF)) : G Γ kX2_atMost cX2_atMost m0 mF (.inl (some (.long r))) m 0 [some (.long l0), none] [] := by
  unfold b_X2_atMost_0 at h
  refine g_lload_n 0 dX2_atMost_0 rfl rfl ?_
  refine g_ldc2 (v := 1000000000) q1667 dX2_atMost_1 ?_
  refine g_lcmp dX2_atMost_4 ?_
  replace h := ite_of h; rcases h with ⟨hc, h⟩ | ⟨hc, h⟩
  · refine g_ifleT dX2_atMost_5 rfl hc ?_
    refine g_lload_n 0 dX2_atMost_14 rfl rfl ?_
    cases h
    exact g_lret rfl dX2_atMost_15
  · refine g_ifleF dX2_atMost_5 rfl hc ?_
    refine g_ldc2 (v := 1000000000) q1667 dX2_atMost_8 ?_
    refine g_goto dX2_atMost_11 rfl ?_
    cases h
    exact g_lret rfl dX2_atMost_15
theorem ct_X2_atMost {Γ : GG} (hΓ : GF Γ) {m mF : MM} {l0 : Int64} {r : Int64} (h : f_X2_atMost l0 m = some (r, mF)) : Ct Γ kX2_atMost cX2_atMost [.long l0] m (.inl (some (.long r))) mF := by
  unfold f_X2_atMost at h
  exact Ct.of (κ := kX2_atMost) (by decide) rfl (Nat.le_of_ble_eq_true rfl) rfl (w_X2_atMost_0 hΓ h)
def p_X2_waysBy (Γ : GG) (m0 mF : MM) (x : Nat) (l1 : Int32) (l2 : Int32) (l3 : Int32) (r : Int64) : ((Int32 × MM) ⊕ (Int32 × MM) ⊕ (Int32 × Int32 × MM) ⊕ (Int32 × Int32 × MM) ⊕ (Int32 × Int32 × Int32 × MM) ⊕ (Int32 × Int32 × MM)) → Prop := fun z => match z with
  | (.inl (l4, m)) => (m.K x).1 = 3 → G Γ kX2_waysBy cX2_waysBy m0 mF (.inl (some (.long r))) m 3 [some (.ref x), some (.int l1), some (.int l2), some (.int l3), some (.int l4), none, none] []
  | (.inr (.inl (l4, m))) => (m.K x).1 = 3 → G Γ kX2_waysBy cX2_waysBy m0 mF (.inl (some (.long r))) m 39 [some (.ref x), some (.int l1), some (.int l2), some (.int l3), some (.int l4), none, none] []
  | (.inr (.inr (.inl (l4, l5, m)))) => (m.K x).1 = 3 → G Γ kX2_waysBy cX2_waysBy m0 mF (.inl (some (.long r))) m 57 [some (.ref x), some (.int l1), some (.int l2), some (.int l3), some (.int l4), some (.int l5), none] []
  | (.inr (.inr (.inr (.inl (l4, l5, m))))) => (m.K x).1 = 3 → G Γ kX2_waysBy cX2_waysBy m0 mF (.inl (some (.long r))) m 81 [some (.ref x), some (.int l1), some (.int l2), some (.int l3), some (.int l4), some (.int l5), none] []
  | (.inr (.inr (.inr (.inr (.inl (l4, l5, l6, m)))))) => (m.K x).1 = 3 → G Γ kX2_waysBy cX2_waysBy m0 mF (.inl (some (.long r))) m 169 [some (.ref x), some (.int l1), some (.int l2), some (.int l3), some (.int l4), some (.int l5), some (.int l6)] []
  | (.inr (.inr (.inr (.inr (.inr (l4, l5, m)))))) => (m.K x).1 = 3 → G Γ kX2_waysBy cX2_waysBy m0 mF (.inl (some (.long r))) m 243 [some (.ref x), some (.int l1), some (.int l2), some (.int l3), some (.int l4), some (.int l5), none] []
set_option maxHeartbeats 4000000 in
theorem w_X2_waysBy_243 {Γ : GG} (hΓ : GF Γ) {m0 mF m : MM} {x : Nat} {l1 : Int32} {l2 : Int32} {l3 : Int32} {l4 : Int32} {l5 : Int32} (hT : (m.K x).1 = 3) {r : Int64} {q : ((Int32 × MM) ⊕ (Int32 × MM) ⊕ (Int32 × Int32 × MM) ⊕ (Int32 × Int32 × MM) ⊕ (Int32 × Int32 × Int32 × MM) ⊕ (Int32 × Int32 × MM)) ⊕ (Int64 × MM)} (h : b_X2_waysBy_243 x l1 l2 l3 l4 l5 m = some q) (Hl : ∀ z, q = .inl z → p_X2_waysBy Γ m0 mF x l1 l2 l3 r z) (Hr : ∀ z, q = .inr z → z = (r, mF)) : G Γ kX2_waysBy cX2_waysBy m0 mF (.inl (some (.long r))) m 243 [some (.ref x), some (.int l1), some (.int l2), some (.int l3), some (.int l4), some (.int l5), none] [] := by
  unfold b_X2_waysBy_243 at h
  refine g_iload dX2_waysBy_243 rfl ?_
  refine g_bi (7) dX2_waysBy_245 rfl ?_
  replace h := ite_of h; rcases h with ⟨hc, h⟩ | ⟨hc, h⟩
  · refine g_icgeT dX2_waysBy_247 rfl hc ?_
    refine g_iinc (l4 + (1 : Int32)) dX2_waysBy_270 rfl rfl (Nat.le_of_ble_eq_true rfl) rfl ?_
    dsimp only [List.set]
    refine g_goto dX2_waysBy_273 rfl ?_
    cases h
    refine G.weak [true, true, true, true, true, false, false] rfl ?_
    exact Hl _ rfl hT
  · refine g_icgeF dX2_waysBy_247 rfl hc ?_
    refine g_this dX2_waysBy_250 rfl ?_
    refine g_getR hΓ.k fl_X2_86_X2 rfl hT dX2_waysBy_251 ?_
    refine g_iload dX2_waysBy_254 rfl ?_
    refine g_this dX2_waysBy_256 rfl ?_
    refine g_getR hΓ.k fl_X2_89_X2 rfl hT dX2_waysBy_257 ?_
    refine g_iload dX2_waysBy_260 rfl ?_
    replace h := bd_of h; obtain ⟨v1, ev1, h⟩ := h
    refine g_lald ev1 dX2_waysBy_262 ?_
    replace h := bd_of h; obtain ⟨m2, em2, h⟩ := h
    refine g_last em2 dX2_waysBy_263 ?_
    replace hT := (sL_ext em2).kd hT
    refine g_iinc (l5 + (1 : Int32)) dX2_waysBy_264 rfl rfl (Nat.le_of_ble_eq_true rfl) rfl ?_
    dsimp only [List.set]
    refine g_goto dX2_waysBy_267 rfl ?_
    cases h
    refine G.weak [true, true, true, true, true, true, false] rfl ?_
    exact Hl _ rfl hT
set_option maxHeartbeats 4000000 in
theorem w_X2_waysBy_169 {Γ : GG} (hΓ : GF Γ) {m0 mF m : MM} {x : Nat} {l1 : Int32} {l2 : Int32} {l3 : Int32} {l4 : Int32} {l5 : Int32} {l6 : Int32} (hT : (m.K x).1 = 3) {r : Int64} {q : ((Int32 × MM) ⊕ (Int32 × MM) ⊕ (Int32 × Int32 × MM) ⊕ (Int32 × Int32 × MM) ⊕ (Int32 × Int32 × Int32 × MM) ⊕ (Int32 × Int32 × MM)) ⊕ (Int64 × MM)} (h : b_X2_waysBy_169 x l1 l2 l3 l4 l5 l6 m = some q) (Hl : ∀ z, q = .inl z → p_X2_waysBy Γ m0 mF x l1 l2 l3 r z) (Hr : ∀ z, q = .inr z → z = (r, mF)) : G Γ kX2_waysBy cX2_waysBy m0 mF (.inl (some (.long r))) m 169 [some (.ref x), some (.int l1), some (.int l2), some (.int l3), some (.int l4), some (.int l5), some (.int l6)] [] := by
  unfold b_X2_waysBy_169 at h
  refine g_iload dX2_waysBy_169 rfl ?_
  refine g_iload_n 3 dX2_waysBy_171 rfl rfl ?_
  replace h := ite_of h; rcases h with ⟨hc, h⟩ | ⟨hc, h⟩
  · refine g_icgtT dX2_waysBy_172 rfl hc ?_
    refine g_iinc (l5 + (1 : Int32)) dX2_waysBy_234 rfl rfl (Nat.le_of_ble_eq_true rfl) rfl ?_
    dsimp only [List.set]
    refine g_goto dX2_waysBy_237 rfl ?_
    cases h
    refine G.weak [true, true, true, true, true, true, false] rfl ?_
    exact Hl _ rfl hT
  · refine g_icgtF dX2_waysBy_172 rfl hc ?_
    refine g_this dX2_waysBy_175 rfl ?_
    refine g_getR hΓ.k fl_X2_89_X2 rfl hT dX2_waysBy_176 ?_
    refine g_iload dX2_waysBy_179 rfl ?_
    refine g_this dX2_waysBy_181 rfl ?_
    refine g_getR hΓ.k fl_X2_89_X2 rfl hT dX2_waysBy_182 ?_
    refine g_iload dX2_waysBy_185 rfl ?_
    replace h := bd_of h; obtain ⟨v1, ev1, h⟩ := h
    refine g_lald ev1 dX2_waysBy_187 ?_
    refine g_this dX2_waysBy_188 rfl ?_
    refine g_getR hΓ.k fl_X2_86_X2 rfl hT dX2_waysBy_189 ?_
    refine g_iload dX2_waysBy_192 rfl ?_
    replace h := bd_of h; obtain ⟨v2, ev2, h⟩ := h
    refine g_lald ev2 dX2_waysBy_194 ?_
    refine g_this dX2_waysBy_195 rfl ?_
    refine g_getR hΓ.k fl_X2_83_X2 rfl hT dX2_waysBy_196 ?_
    refine g_bi (56) dX2_waysBy_199 rfl ?_
    refine g_this dX2_waysBy_201 rfl ?_
    refine g_getR hΓ.k fl_X2_54_X2 rfl hT dX2_waysBy_202 ?_
    refine g_iload dX2_waysBy_205 rfl ?_
    replace h := bd_of h; obtain ⟨v3, ev3, h⟩ := h
    refine g_iald ev3 dX2_waysBy_207 ?_
    refine g_bi (8) dX2_waysBy_208 rfl ?_
    refine g_isub dX2_waysBy_210 ?_
    refine g_imul dX2_waysBy_211 ?_
    refine g_bi (7) dX2_waysBy_212 rfl ?_
    refine g_iload dX2_waysBy_214 rfl ?_
    refine g_imul dX2_waysBy_216 ?_
    refine g_iadd dX2_waysBy_217 ?_
    refine g_iload dX2_waysBy_218 rfl ?_
    refine g_iadd dX2_waysBy_220 ?_
    replace h := bd_of h; obtain ⟨v4, ev4, h⟩ := h
    refine g_lald ev4 dX2_waysBy_221 ?_
    refine g_lmul dX2_waysBy_222 ?_
    refine g_ladd dX2_waysBy_223 ?_
    replace h := bd2_of h; obtain ⟨v5, m6, em6, h⟩ := h
    have C := ct_X2_atMost hΓ em6
    refine g_callSl sl_X2_330 C rfl rfl (Nat.le_of_ble_eq_true rfl) (Nat.le_of_ble_eq_true rfl) (Nat.le_of_ble_eq_true rfl) dX2_waysBy_224 ?_
    replace hT := (C.1).kd hT
    replace h := bd_of h; obtain ⟨m7, em7, h⟩ := h
    refine g_last em7 dX2_waysBy_227 ?_
    replace hT := (sL_ext em7).kd hT
    refine g_iinc (l6 + (1 : Int32)) dX2_waysBy_228 rfl rfl (Nat.le_of_ble_eq_true rfl) rfl ?_
    dsimp only [List.set]
    refine g_goto dX2_waysBy_231 rfl ?_
    cases h
    refine G.weak [true, true, true, true, true, true, true] rfl ?_
    exact Hl _ rfl hT
set_option maxHeartbeats 4000000 in
theorem w_X2_waysBy_81 {Γ : GG} (hΓ : GF Γ) {m0 mF m : MM} {x : Nat} {l1 : Int32} {l2 : Int32} {l3 : Int32} {l4 : Int32} {l5 : Int32} (hT : (m.K x).1 = 3) {r : Int64} {q : ((Int32 × MM) ⊕ (Int32 × MM) ⊕ (Int32 × Int32 × MM) ⊕ (Int32 × Int32 × MM) ⊕ (Int32 × Int32 × Int32 × MM) ⊕ (Int32 × Int32 × MM)) ⊕ (Int64 × MM)} (h : b_X2_waysBy_81 x l1 l2 l3 l4 l5 m = some q) (Hl : ∀ z, q = .inl z → p_X2_waysBy Γ m0 mF x l1 l2 l3 r z) (Hr : ∀ z, q = .inr z → z = (r, mF)) : G Γ kX2_waysBy cX2_waysBy m0 mF (.inl (some (.long r))) m 81 [some (.ref x), some (.int l1), some (.int l2), some (.int l3), some (.int l4), some (.int l5), none] [] := by
  unfold b_X2_waysBy_81 at h
  refine g_iload dX2_waysBy_81 rfl ?_
  refine g_iload_n 3 dX2_waysBy_83 rfl rfl ?_
  replace h := ite_of h; rcases h with ⟨hc, h⟩ | ⟨hc, h⟩
  · refine g_icgeT dX2_waysBy_84 rfl hc ?_
    refine g_ic 0 dX2_waysBy_240 rfl ?_
    refine g_istore dX2_waysBy_241 (Nat.le_of_ble_eq_true rfl) rfl ?_
    dsimp only [List.set]
    cases h
    refine G.weak [true, true, true, true, true, true, false] rfl ?_
    exact Hl _ rfl hT
  · refine g_icgeF dX2_waysBy_84 rfl hc ?_
    refine g_this dX2_waysBy_87 rfl ?_
    refine g_getR hΓ.k fl_X2_86_X2 rfl hT dX2_waysBy_88 ?_
    refine g_iload dX2_waysBy_91 rfl ?_
    replace h := bd_of h; obtain ⟨v1, ev1, h⟩ := h
    refine g_lald ev1 dX2_waysBy_93 ?_
    refine g_lc 0 dX2_waysBy_94 rfl ?_
    refine g_lcmp dX2_waysBy_95 ?_
    replace h := ite_of h; rcases h with ⟨hc, h⟩ | ⟨hc, h⟩
    · refine g_ifneF dX2_waysBy_96 rfl hc ?_
      refine g_goto dX2_waysBy_99 rfl ?_
      refine g_iinc (l5 + (1 : Int32)) dX2_waysBy_234 rfl rfl (Nat.le_of_ble_eq_true rfl) rfl ?_
      dsimp only [List.set]
      refine g_goto dX2_waysBy_237 rfl ?_
      cases h
      refine G.weak [true, true, true, true, true, true, false] rfl ?_
      exact Hl _ rfl hT
    · refine g_ifneT dX2_waysBy_96 rfl hc ?_
      refine g_this dX2_waysBy_102 rfl ?_
      refine g_getR hΓ.k fl_X2_54_X2 rfl hT dX2_waysBy_103 ?_
      refine g_iload dX2_waysBy_106 rfl ?_
      replace h := bd_of h; obtain ⟨v2, ev2, h⟩ := h
      refine g_iald ev2 dX2_waysBy_108 ?_
      refine g_bi (8) dX2_waysBy_109 rfl ?_
      replace h := ite_of h; rcases h with ⟨hc, h⟩ | ⟨hc, h⟩
      · refine g_icgeT dX2_waysBy_111 rfl hc ?_
        refine g_iload dX2_waysBy_163 rfl ?_
        refine g_ic 1 dX2_waysBy_165 rfl ?_
        refine g_iadd dX2_waysBy_166 ?_
        refine g_istore dX2_waysBy_167 (Nat.le_of_ble_eq_true rfl) rfl ?_
        dsimp only [List.set]
        cases h
        refine G.weak [true, true, true, true, true, true, true] rfl ?_
        exact Hl _ rfl hT
      · refine g_icgeF dX2_waysBy_111 rfl hc ?_
        refine g_this dX2_waysBy_114 rfl ?_
        refine g_getR hΓ.k fl_X2_77_X2 rfl hT dX2_waysBy_115 ?_
        refine g_iload dX2_waysBy_118 rfl ?_
        replace h := bd_of h; obtain ⟨v3, ev3, h⟩ := h
        refine g_iald ev3 dX2_waysBy_120 ?_
        refine g_this dX2_waysBy_121 rfl ?_
        refine g_getR hΓ.k fl_X2_54_X2 rfl hT dX2_waysBy_122 ?_
        refine g_iload dX2_waysBy_125 rfl ?_
        replace h := bd_of h; obtain ⟨v4, ev4, h⟩ := h
        refine g_iald ev4 dX2_waysBy_127 ?_
        replace h := ite_of h; rcases h with ⟨hc, h⟩ | ⟨hc, h⟩
        · refine g_icneF dX2_waysBy_128 rfl hc ?_
          refine g_this dX2_waysBy_131 rfl ?_
          refine g_getR hΓ.k fl_X2_89_X2 rfl hT dX2_waysBy_132 ?_
          refine g_iload dX2_waysBy_135 rfl ?_
          refine g_ic 1 dX2_waysBy_137 rfl ?_
          refine g_iadd dX2_waysBy_138 ?_
          refine g_this dX2_waysBy_139 rfl ?_
          refine g_getR hΓ.k fl_X2_89_X2 rfl hT dX2_waysBy_140 ?_
          refine g_iload dX2_waysBy_143 rfl ?_
          refine g_ic 1 dX2_waysBy_145 rfl ?_
          refine g_iadd dX2_waysBy_146 ?_
          replace h := bd_of h; obtain ⟨v5, ev5, h⟩ := h
          refine g_lald ev5 dX2_waysBy_147 ?_
          refine g_this dX2_waysBy_148 rfl ?_
          refine g_getR hΓ.k fl_X2_86_X2 rfl hT dX2_waysBy_149 ?_
          refine g_iload dX2_waysBy_152 rfl ?_
          replace h := bd_of h; obtain ⟨v6, ev6, h⟩ := h
          refine g_lald ev6 dX2_waysBy_154 ?_
          refine g_ladd dX2_waysBy_155 ?_
          replace h := bd2_of h; obtain ⟨v7, m8, em8, h⟩ := h
          have C := ct_X2_atMost hΓ em8
          refine g_callSl sl_X2_330 C rfl rfl (Nat.le_of_ble_eq_true rfl) (Nat.le_of_ble_eq_true rfl) (Nat.le_of_ble_eq_true rfl) dX2_waysBy_156 ?_
          replace hT := (C.1).kd hT
          replace h := bd_of h; obtain ⟨m9, em9, h⟩ := h
          refine g_last em9 dX2_waysBy_159 ?_
          replace hT := (sL_ext em9).kd hT
          refine g_goto dX2_waysBy_160 rfl ?_
          refine g_iinc (l5 + (1 : Int32)) dX2_waysBy_234 rfl rfl (Nat.le_of_ble_eq_true rfl) rfl ?_
          dsimp only [List.set]
          refine g_goto dX2_waysBy_237 rfl ?_
          cases h
          refine G.weak [true, true, true, true, true, true, false] rfl ?_
          exact Hl _ rfl hT
        · refine g_icneT dX2_waysBy_128 rfl hc ?_
          refine g_iinc (l5 + (1 : Int32)) dX2_waysBy_234 rfl rfl (Nat.le_of_ble_eq_true rfl) rfl ?_
          dsimp only [List.set]
          refine g_goto dX2_waysBy_237 rfl ?_
          cases h
          refine G.weak [true, true, true, true, true, true, false] rfl ?_
          exact Hl _ rfl hT
set_option maxHeartbeats 4000000 in
theorem w_X2_waysBy_57 {Γ : GG} (hΓ : GF Γ) {m0 mF m : MM} {x : Nat} {l1 : Int32} {l2 : Int32} {l3 : Int32} {l4 : Int32} {l5 : Int32} (hT : (m.K x).1 = 3) {r : Int64} {q : ((Int32 × MM) ⊕ (Int32 × MM) ⊕ (Int32 × Int32 × MM) ⊕ (Int32 × Int32 × MM) ⊕ (Int32 × Int32 × Int32 × MM) ⊕ (Int32 × Int32 × MM)) ⊕ (Int64 × MM)} (h : b_X2_waysBy_57 x l1 l2 l3 l4 l5 m = some q) (Hl : ∀ z, q = .inl z → p_X2_waysBy Γ m0 mF x l1 l2 l3 r z) (Hr : ∀ z, q = .inr z → z = (r, mF)) : G Γ kX2_waysBy cX2_waysBy m0 mF (.inl (some (.long r))) m 57 [some (.ref x), some (.int l1), some (.int l2), some (.int l3), some (.int l4), some (.int l5), none] [] := by
  unfold b_X2_waysBy_57 at h
  refine g_iload dX2_waysBy_57 rfl ?_
  refine g_bi (7) dX2_waysBy_59 rfl ?_
  replace h := ite_of h; rcases h with ⟨hc, h⟩ | ⟨hc, h⟩
  · refine g_icgeT dX2_waysBy_61 rfl hc ?_
    refine g_iload_n 2 dX2_waysBy_78 rfl rfl ?_
    refine g_istore dX2_waysBy_79 (Nat.le_of_ble_eq_true rfl) rfl ?_
    dsimp only [List.set]
    cases h
    refine G.weak [true, true, true, true, true, true, false] rfl ?_
    exact Hl _ rfl hT
  · refine g_icgeF dX2_waysBy_61 rfl hc ?_
    refine g_this dX2_waysBy_64 rfl ?_
    refine g_getR hΓ.k fl_X2_89_X2 rfl hT dX2_waysBy_65 ?_
    refine g_iload dX2_waysBy_68 rfl ?_
    refine g_lc 0 dX2_waysBy_70 rfl ?_
    replace h := bd_of h; obtain ⟨m1, em1, h⟩ := h
    refine g_last em1 dX2_waysBy_71 ?_
    replace hT := (sL_ext em1).kd hT
    refine g_iinc (l5 + (1 : Int32)) dX2_waysBy_72 rfl rfl (Nat.le_of_ble_eq_true rfl) rfl ?_
    dsimp only [List.set]
    refine g_goto dX2_waysBy_75 rfl ?_
    cases h
    refine G.weak [true, true, true, true, true, true, false] rfl ?_
    exact Hl _ rfl hT
set_option maxHeartbeats 4000000 in
theorem w_X2_waysBy_39 {Γ : GG} (hΓ : GF Γ) {m0 mF m : MM} {x : Nat} {l1 : Int32} {l2 : Int32} {l3 : Int32} {l4 : Int32} (hT : (m.K x).1 = 3) {r : Int64} {q : ((Int32 × MM) ⊕ (Int32 × MM) ⊕ (Int32 × Int32 × MM) ⊕ (Int32 × Int32 × MM) ⊕ (Int32 × Int32 × Int32 × MM) ⊕ (Int32 × Int32 × MM)) ⊕ (Int64 × MM)} (h : b_X2_waysBy_39 x l1 l2 l3 l4 m = some q) (Hl : ∀ z, q = .inl z → p_X2_waysBy Γ m0 mF x l1 l2 l3 r z) (Hr : ∀ z, q = .inr z → z = (r, mF)) : G Γ kX2_waysBy cX2_waysBy m0 mF (.inl (some (.long r))) m 39 [some (.ref x), some (.int l1), some (.int l2), some (.int l3), some (.int l4), none, none] [] := by
  unfold b_X2_waysBy_39 at h
  refine g_iload dX2_waysBy_39 rfl ?_
  refine g_ic 4 dX2_waysBy_41 rfl ?_
  refine g_iload_n 1 dX2_waysBy_42 rfl rfl ?_
  refine g_imul dX2_waysBy_43 ?_
  refine g_this dX2_waysBy_44 rfl ?_
  refine g_getR hΓ.k fl_X2_51_X2 rfl hT dX2_waysBy_45 ?_
  refine g_iload_n 1 dX2_waysBy_48 rfl rfl ?_
  replace h := bd_of h; obtain ⟨v1, ev1, h⟩ := h
  refine g_iald ev1 dX2_waysBy_49 ?_
  refine g_iadd dX2_waysBy_50 ?_
  replace h := ite_of h; rcases h with ⟨hc, h⟩ | ⟨hc, h⟩
  · refine g_icgeT dX2_waysBy_51 rfl hc ?_
    refine g_this dX2_waysBy_276 rfl ?_
    refine g_getR hΓ.k fl_X2_86_X2 rfl hT dX2_waysBy_277 ?_
    refine g_iload_n 3 dX2_waysBy_280 rfl rfl ?_
    replace h := bd_of h; obtain ⟨v2, ev2, h⟩ := h
    refine g_lald ev2 dX2_waysBy_281 ?_
    cases h
    cases Hr _ rfl
    exact g_lret rfl dX2_waysBy_282
  · refine g_icgeF dX2_waysBy_51 rfl hc ?_
    refine g_ic 0 dX2_waysBy_54 rfl ?_
    refine g_istore dX2_waysBy_55 (Nat.le_of_ble_eq_true rfl) rfl ?_
    dsimp only [List.set]
    cases h
    refine G.weak [true, true, true, true, true, true, false] rfl ?_
    exact Hl _ rfl hT
set_option maxHeartbeats 4000000 in
theorem w_X2_waysBy_3 {Γ : GG} (hΓ : GF Γ) {m0 mF m : MM} {x : Nat} {l1 : Int32} {l2 : Int32} {l3 : Int32} {l4 : Int32} (hT : (m.K x).1 = 3) {r : Int64} {q : ((Int32 × MM) ⊕ (Int32 × MM) ⊕ (Int32 × Int32 × MM) ⊕ (Int32 × Int32 × MM) ⊕ (Int32 × Int32 × Int32 × MM) ⊕ (Int32 × Int32 × MM)) ⊕ (Int64 × MM)} (h : b_X2_waysBy_3 x l1 l2 l3 l4 m = some q) (Hl : ∀ z, q = .inl z → p_X2_waysBy Γ m0 mF x l1 l2 l3 r z) (Hr : ∀ z, q = .inr z → z = (r, mF)) : G Γ kX2_waysBy cX2_waysBy m0 mF (.inl (some (.long r))) m 3 [some (.ref x), some (.int l1), some (.int l2), some (.int l3), some (.int l4), none, none] [] := by
  unfold b_X2_waysBy_3 at h
  refine g_iload dX2_waysBy_3 rfl ?_
  refine g_bi (7) dX2_waysBy_5 rfl ?_
  replace h := ite_of h; rcases h with ⟨hc, h⟩ | ⟨hc, h⟩
  · refine g_icgeT dX2_waysBy_7 rfl hc ?_
    refine g_ic 4 dX2_waysBy_34 rfl ?_
    refine g_iload_n 1 dX2_waysBy_35 rfl rfl ?_
    refine g_imul dX2_waysBy_36 ?_
    refine g_istore dX2_waysBy_37 (Nat.le_of_ble_eq_true rfl) rfl ?_
    dsimp only [List.set]
    cases h
    refine G.weak [true, true, true, true, true, false, false] rfl ?_
    exact Hl _ rfl hT
  · refine g_icgeF dX2_waysBy_7 rfl hc ?_
    refine g_this dX2_waysBy_10 rfl ?_
    refine g_getR hΓ.k fl_X2_86_X2 rfl hT dX2_waysBy_11 ?_
    refine g_iload dX2_waysBy_14 rfl ?_
    refine g_iload dX2_waysBy_16 rfl ?_
    refine g_iload_n 2 dX2_waysBy_18 rfl rfl ?_
    replace h := ite_of h; rcases h with ⟨hc, h⟩ | ⟨hc, h⟩
    · refine g_icneF dX2_waysBy_19 rfl hc ?_
      refine g_lc 1 dX2_waysBy_22 rfl ?_
      refine g_goto dX2_waysBy_23 rfl ?_
      replace h := bd_of h; obtain ⟨m2, em2, h⟩ := h
      refine g_last em2 dX2_waysBy_27 ?_
      replace hT := (sL_ext em2).kd hT
      refine g_iinc (l4 + (1 : Int32)) dX2_waysBy_28 rfl rfl (Nat.le_of_ble_eq_true rfl) rfl ?_
      dsimp only [List.set]
      refine g_goto dX2_waysBy_31 rfl ?_
      cases h
      refine G.weak [true, true, true, true, true, false, false] rfl ?_
      exact Hl _ rfl hT
    · refine g_icneT dX2_waysBy_19 rfl hc ?_
      refine g_lc 0 dX2_waysBy_26 rfl ?_
      replace h := bd_of h; obtain ⟨m1, em1, h⟩ := h
      refine g_last em1 dX2_waysBy_27 ?_
      replace hT := (sL_ext em1).kd hT
      refine g_iinc (l4 + (1 : Int32)) dX2_waysBy_28 rfl rfl (Nat.le_of_ble_eq_true rfl) rfl ?_
      dsimp only [List.set]
      refine g_goto dX2_waysBy_31 rfl ?_
      cases h
      refine G.weak [true, true, true, true, true, false, false] rfl ?_
      exact Hl _ rfl hT
set_option maxHeartbeats 4000000 in
theorem w_X2_waysBy_0 {Γ : GG} (hΓ : GF Γ) {m0 mF m : MM} {x : Nat} {l1 : Int32} {l2 : Int32} {l3 : Int32} (hT : (m.K x).1 = 3) {r : Int64} {q : ((Int32 × MM) ⊕ (Int32 × MM) ⊕ (Int32 × Int32 × MM) ⊕ (Int32 × Int32 × MM) ⊕ (Int32 × Int32 × Int32 × MM) ⊕ (Int32 × Int32 × MM)) ⊕ (Int64 × MM)} (h : b_X2_waysBy_0 x l1 l2 l3 m = some q) (Hl : ∀ z, q = .inl z → p_X2_waysBy Γ m0 mF x l1 l2 l3 r z) (Hr : ∀ z, q = .inr z → z = (r, mF)) : G Γ kX2_waysBy cX2_waysBy m0 mF (.inl (some (.long r))) m 0 [some (.ref x), some (.int l1), some (.int l2), some (.int l3), none, none, none] [] := by
  unfold b_X2_waysBy_0 at h
  refine g_ic 0 dX2_waysBy_0 rfl ?_
  refine g_istore dX2_waysBy_1 (Nat.le_of_ble_eq_true rfl) rfl ?_
  dsimp only [List.set]
  cases h
  refine G.weak [true, true, true, true, true, false, false] rfl ?_
  exact Hl _ rfl hT
theorem ct_X2_waysBy {Γ : GG} (hΓ : GF Γ) {m mF : MM} {x : Nat} {l1 : Int32} {l2 : Int32} {l3 : Int32} (hT : (m.K x).1 = 3) {r : Int64} (h : f_X2_waysBy x l1 l2 l3 m = some (r, mF)) : Ct Γ kX2_waysBy cX2_waysBy [.ref x, .int l1, .int l2, .int l3] m (.inl (some (.long r))) mF := by
  unfold f_X2_waysBy at h
  replace h := bd_of h; obtain ⟨q, e, h⟩ := h
  have H := rx_go_ind (P := p_X2_waysBy Γ m mF x l1 l2 l3 r) (fun z o hs Hl Hr => by
    match z with
    | (.inl (l4, m)) => exact fun hT => w_X2_waysBy_3 hΓ hT hs Hl Hr
    | (.inr (.inl (l4, m))) => exact fun hT => w_X2_waysBy_39 hΓ hT hs Hl Hr
    | (.inr (.inr (.inl (l4, l5, m)))) => exact fun hT => w_X2_waysBy_57 hΓ hT hs Hl Hr
    | (.inr (.inr (.inr (.inl (l4, l5, m))))) => exact fun hT => w_X2_waysBy_81 hΓ hT hs Hl Hr
    | (.inr (.inr (.inr (.inr (.inl (l4, l5, l6, m)))))) => exact fun hT => w_X2_waysBy_169 hΓ hT hs Hl Hr
    | (.inr (.inr (.inr (.inr (.inr (l4, l5, m)))))) => exact fun hT => w_X2_waysBy_243 hΓ hT hs Hl Hr) h
  exact Ct.of (κ := kX2_waysBy) (by decide) rfl (Nat.le_of_ble_eq_true rfl) rfl (w_X2_waysBy_0 hΓ hT e H.1 H.2)
def p_X2_readingsOf (Γ : GG) (m0 mF : MM) (x : Nat) (l1 : Int32) (r : Int64) : ((Int32 × MM) ⊕ (Int32 × MM) ⊕ (Int32 × Int32 × MM) ⊕ (Int32 × Int32 × Int32 × MM)) → Prop := fun z => match z with
  | (.inl (l2, m)) => (m.K x).1 = 3 → G Γ kX2_readingsOf cX2_readingsOf m0 mF (.inl (some (.long r))) m 20 [some (.ref x), some (.int l1), some (.int l2), none, none, none] []
  | (.inr (.inl (l2, m))) => (m.K x).1 = 3 → G Γ kX2_readingsOf cX2_readingsOf m0 mF (.inl (some (.long r))) m 42 [some (.ref x), some (.int l1), some (.int l2), none, none, none] []
  | (.inr (.inr (.inl (l2, l3, m)))) => (m.K x).1 = 3 → G Γ kX2_readingsOf cX2_readingsOf m0 mF (.inl (some (.long r))) m 49 [some (.ref x), some (.int l1), some (.int l2), some (.int l3), none, none] []
  | (.inr (.inr (.inr (l2, l3, l4, m)))) => (m.K x).1 = 3 → G Γ kX2_readingsOf cX2_readingsOf m0 mF (.inl (some (.long r))) m 77 [some (.ref x), some (.int l1), some (.int l2), some (.int l3), some (.int l4), none] []
set_option maxHeartbeats 4000000 in
theorem w_X2_readingsOf_77 {Γ : GG} (hΓ : GF Γ) {m0 mF m : MM} {x : Nat} {l1 : Int32} {l2 : Int32} {l3 : Int32} {l4 : Int32} (hT : (m.K x).1 = 3) {r : Int64} {q : ((Int32 × MM) ⊕ (Int32 × MM) ⊕ (Int32 × Int32 × MM) ⊕ (Int32 × Int32 × Int32 × MM)) ⊕ (Int64 × MM)} (h : b_X2_readingsOf_77 x l1 l2 l3 l4 m = some q) (Hl : ∀ z, q = .inl z → p_X2_readingsOf Γ m0 mF x l1 r z) (Hr : ∀ z, q = .inr z → z = (r, mF)) : G Γ kX2_readingsOf cX2_readingsOf m0 mF (.inl (some (.long r))) m 77 [some (.ref x), some (.int l1), some (.int l2), some (.int l3), some (.int l4), none] [] := by
  unfold b_X2_readingsOf_77 at h
  refine g_iload dX2_readingsOf_77 rfl ?_
  refine g_bi (24) dX2_readingsOf_79 rfl ?_
  refine g_this dX2_readingsOf_81 rfl ?_
  refine g_getI hΓ.k fl_X2_233_X2 rfl hT dX2_readingsOf_82 ?_
  refine g_imul dX2_readingsOf_85 ?_
  replace h := ite_of h; rcases h with ⟨hc, h⟩ | ⟨hc, h⟩
  · refine g_icltT dX2_readingsOf_86 rfl hc ?_
    refine g_iinc (l3 + (1 : Int32)) dX2_readingsOf_144 rfl rfl (Nat.le_of_ble_eq_true rfl) rfl ?_
    dsimp only [List.set]
    refine g_goto dX2_readingsOf_147 rfl ?_
    cases h
    refine G.weak [true, true, true, true, false, false] rfl ?_
    exact Hl _ rfl hT
  · refine g_icltF dX2_readingsOf_86 rfl hc ?_
    refine g_bi (56) dX2_readingsOf_89 rfl ?_
    refine g_this dX2_readingsOf_91 rfl ?_
    refine g_getR hΓ.k fl_X2_48_X2 rfl hT dX2_readingsOf_92 ?_
    refine g_iload dX2_readingsOf_95 rfl ?_
    replace h := bd_of h; obtain ⟨v1, ev1, h⟩ := h
    refine g_iald ev1 dX2_readingsOf_97 ?_
    refine g_imul dX2_readingsOf_98 ?_
    refine g_bi (7) dX2_readingsOf_99 rfl ?_
    refine g_iload_n 3 dX2_readingsOf_101 rfl rfl ?_
    refine g_imul dX2_readingsOf_102 ?_
    refine g_iadd dX2_readingsOf_103 ?_
    refine g_iload_n 3 dX2_readingsOf_104 rfl rfl ?_
    refine g_iadd dX2_readingsOf_105 ?_
    refine g_iload_n 2 dX2_readingsOf_106 rfl rfl ?_
    refine g_iadd dX2_readingsOf_107 ?_
    refine g_istore dX2_readingsOf_108 (Nat.le_of_ble_eq_true rfl) rfl ?_
    dsimp only [List.set]
    refine g_this dX2_readingsOf_110 rfl ?_
    refine g_getR hΓ.k fl_X2_83_X2 rfl hT dX2_readingsOf_111 ?_
    refine g_iload dX2_readingsOf_114 rfl ?_
    refine g_this dX2_readingsOf_116 rfl ?_
    refine g_getR hΓ.k fl_X2_83_X2 rfl hT dX2_readingsOf_117 ?_
    refine g_iload dX2_readingsOf_120 rfl ?_
    replace h := bd_of h; obtain ⟨v2, ev2, h⟩ := h
    refine g_lald ev2 dX2_readingsOf_122 ?_
    refine g_this dX2_readingsOf_123 rfl ?_
    refine g_iload dX2_readingsOf_124 rfl ?_
    refine g_iload_n 3 dX2_readingsOf_126 rfl rfl ?_
    refine g_iload_n 3 dX2_readingsOf_127 rfl rfl ?_
    refine g_iload_n 2 dX2_readingsOf_128 rfl rfl ?_
    refine g_iadd dX2_readingsOf_129 ?_
    replace h := bd2_of h; obtain ⟨v3, m4, em4, h⟩ := h
    have C := ct_X2_waysBy hΓ hT em4
    refine g_callVl hΓ.k vl_X2_326 hT C rfl rfl (Nat.le_of_ble_eq_true rfl) (Nat.le_of_ble_eq_true rfl) (Nat.le_of_ble_eq_true rfl) dX2_readingsOf_130 ?_
    replace hT := (C.1).kd hT
    refine g_ladd dX2_readingsOf_133 ?_
    replace h := bd2_of h; obtain ⟨v5, m6, em6, h⟩ := h
    have C := ct_X2_atMost hΓ em6
    refine g_callSl sl_X2_330 C rfl rfl (Nat.le_of_ble_eq_true rfl) (Nat.le_of_ble_eq_true rfl) (Nat.le_of_ble_eq_true rfl) dX2_readingsOf_134 ?_
    replace hT := (C.1).kd hT
    replace h := bd_of h; obtain ⟨m7, em7, h⟩ := h
    refine g_last em7 dX2_readingsOf_137 ?_
    replace hT := (sL_ext em7).kd hT
    refine g_iinc (l4 + (-1 : Int32)) dX2_readingsOf_138 rfl rfl (Nat.le_of_ble_eq_true rfl) rfl ?_
    dsimp only [List.set]
    refine g_goto dX2_readingsOf_141 rfl ?_
    cases h
    refine G.weak [true, true, true, true, true, false] rfl ?_
    exact Hl _ rfl hT
set_option maxHeartbeats 4000000 in
theorem w_X2_readingsOf_49 {Γ : GG} (hΓ : GF Γ) {m0 mF m : MM} {x : Nat} {l1 : Int32} {l2 : Int32} {l3 : Int32} (hT : (m.K x).1 = 3) {r : Int64} {q : ((Int32 × MM) ⊕ (Int32 × MM) ⊕ (Int32 × Int32 × MM) ⊕ (Int32 × Int32 × Int32 × MM)) ⊕ (Int64 × MM)} (h : b_X2_readingsOf_49 x l1 l2 l3 m = some q) (Hl : ∀ z, q = .inl z → p_X2_readingsOf Γ m0 mF x l1 r z) (Hr : ∀ z, q = .inr z → z = (r, mF)) : G Γ kX2_readingsOf cX2_readingsOf m0 mF (.inl (some (.long r))) m 49 [some (.ref x), some (.int l1), some (.int l2), some (.int l3), none, none] [] := by
  unfold b_X2_readingsOf_49 at h
  refine g_iload_n 3 dX2_readingsOf_49 rfl rfl ?_
  refine g_iload_n 2 dX2_readingsOf_50 rfl rfl ?_
  refine g_iadd dX2_readingsOf_51 ?_
  refine g_iload_n 1 dX2_readingsOf_52 rfl rfl ?_
  replace h := ite_of h; rcases h with ⟨hc, h⟩ | ⟨hc, h⟩
  · refine g_icgtT dX2_readingsOf_53 rfl hc ?_
    refine g_iinc (l2 + (1 : Int32)) dX2_readingsOf_150 rfl rfl (Nat.le_of_ble_eq_true rfl) rfl ?_
    dsimp only [List.set]
    refine g_goto dX2_readingsOf_153 rfl ?_
    cases h
    refine G.weak [true, true, true, false, false, false] rfl ?_
    exact Hl _ rfl hT
  · refine g_icgtF dX2_readingsOf_53 rfl hc ?_
    refine g_bi (24) dX2_readingsOf_56 rfl ?_
    refine g_this dX2_readingsOf_58 rfl ?_
    refine g_getI hΓ.k fl_X2_233_X2 rfl hT dX2_readingsOf_59 ?_
    refine g_imul dX2_readingsOf_62 ?_
    refine g_this dX2_readingsOf_63 rfl ?_
    refine g_getR hΓ.k fl_X2_30_X2 rfl hT dX2_readingsOf_64 ?_
    refine g_this dX2_readingsOf_67 rfl ?_
    refine g_getI hΓ.k fl_X2_233_X2 rfl hT dX2_readingsOf_68 ?_
    replace h := bd_of h; obtain ⟨v1, ev1, h⟩ := h
    refine g_iald ev1 dX2_readingsOf_71 ?_
    refine g_iadd dX2_readingsOf_72 ?_
    refine g_ic 1 dX2_readingsOf_73 rfl ?_
    refine g_isub dX2_readingsOf_74 ?_
    refine g_istore dX2_readingsOf_75 (Nat.le_of_ble_eq_true rfl) rfl ?_
    dsimp only [List.set]
    cases h
    refine G.weak [true, true, true, true, true, false] rfl ?_
    exact Hl _ rfl hT
set_option maxHeartbeats 4000000 in
theorem w_X2_readingsOf_42 {Γ : GG} (hΓ : GF Γ) {m0 mF m : MM} {x : Nat} {l1 : Int32} {l2 : Int32} (hT : (m.K x).1 = 3) {r : Int64} {q : ((Int32 × MM) ⊕ (Int32 × MM) ⊕ (Int32 × Int32 × MM) ⊕ (Int32 × Int32 × Int32 × MM)) ⊕ (Int64 × MM)} (h : b_X2_readingsOf_42 x l1 l2 m = some q) (Hl : ∀ z, q = .inl z → p_X2_readingsOf Γ m0 mF x l1 r z) (Hr : ∀ z, q = .inr z → z = (r, mF)) : G Γ kX2_readingsOf cX2_readingsOf m0 mF (.inl (some (.long r))) m 42 [some (.ref x), some (.int l1), some (.int l2), none, none, none] [] := by
  unfold b_X2_readingsOf_42 at h
  refine g_iload_n 2 dX2_readingsOf_42 rfl rfl ?_
  refine g_iload_n 1 dX2_readingsOf_43 rfl rfl ?_
  replace h := ite_of h; rcases h with ⟨hc, h⟩ | ⟨hc, h⟩
  · refine g_icgtT dX2_readingsOf_44 rfl hc ?_
    refine g_this dX2_readingsOf_156 rfl ?_
    refine g_getR hΓ.k fl_X2_83_X2 rfl hT dX2_readingsOf_157 ?_
    refine g_iload_n 1 dX2_readingsOf_160 rfl rfl ?_
    replace h := bd_of h; obtain ⟨v1, ev1, h⟩ := h
    refine g_lald ev1 dX2_readingsOf_161 ?_
    cases h
    cases Hr _ rfl
    exact g_lret rfl dX2_readingsOf_162
  · refine g_icgtF dX2_readingsOf_44 rfl hc ?_
    refine g_ic 0 dX2_readingsOf_47 rfl ?_
    refine g_istore_n 3 dX2_readingsOf_48 rfl (Nat.le_of_ble_eq_true rfl) rfl ?_
    dsimp only [List.set]
    cases h
    refine G.weak [true, true, true, true, false, false] rfl ?_
    exact Hl _ rfl hT
set_option maxHeartbeats 4000000 in
theorem w_X2_readingsOf_20 {Γ : GG} (hΓ : GF Γ) {m0 mF m : MM} {x : Nat} {l1 : Int32} {l2 : Int32} (hT : (m.K x).1 = 3) {r : Int64} {q : ((Int32 × MM) ⊕ (Int32 × MM) ⊕ (Int32 × Int32 × MM) ⊕ (Int32 × Int32 × Int32 × MM)) ⊕ (Int64 × MM)} (h : b_X2_readingsOf_20 x l1 l2 m = some q) (Hl : ∀ z, q = .inl z → p_X2_readingsOf Γ m0 mF x l1 r z) (Hr : ∀ z, q = .inr z → z = (r, mF)) : G Γ kX2_readingsOf cX2_readingsOf m0 mF (.inl (some (.long r))) m 20 [some (.ref x), some (.int l1), some (.int l2), none, none, none] [] := by
  unfold b_X2_readingsOf_20 at h
  refine g_iload_n 2 dX2_readingsOf_20 rfl rfl ?_
  refine g_si (448) dX2_readingsOf_21 rfl ?_
  replace h := ite_of h; rcases h with ⟨hc, h⟩ | ⟨hc, h⟩
  · refine g_icgeT dX2_readingsOf_24 rfl hc ?_
    refine g_ic 1 dX2_readingsOf_40 rfl ?_
    refine g_istore_n 2 dX2_readingsOf_41 rfl (Nat.le_of_ble_eq_true rfl) rfl ?_
    dsimp only [List.set]
    cases h
    refine G.weak [true, true, true, false, false, false] rfl ?_
    exact Hl _ rfl hT
  · refine g_icgeF dX2_readingsOf_24 rfl hc ?_
    refine g_this dX2_readingsOf_27 rfl ?_
    refine g_getR hΓ.k fl_X2_83_X2 rfl hT dX2_readingsOf_28 ?_
    refine g_iload_n 2 dX2_readingsOf_31 rfl rfl ?_
    refine g_lc 0 dX2_readingsOf_32 rfl ?_
    replace h := bd_of h; obtain ⟨m1, em1, h⟩ := h
    refine g_last em1 dX2_readingsOf_33 ?_
    replace hT := (sL_ext em1).kd hT
    refine g_iinc (l2 + (1 : Int32)) dX2_readingsOf_34 rfl rfl (Nat.le_of_ble_eq_true rfl) rfl ?_
    dsimp only [List.set]
    refine g_goto dX2_readingsOf_37 rfl ?_
    cases h
    refine G.weak [true, true, true, false, false, false] rfl ?_
    exact Hl _ rfl hT
set_option maxHeartbeats 4000000 in
theorem w_X2_readingsOf_0 {Γ : GG} (hΓ : GF Γ) {m0 mF m : MM} {x : Nat} {l1 : Int32} (hT : (m.K x).1 = 3) {r : Int64} {q : ((Int32 × MM) ⊕ (Int32 × MM) ⊕ (Int32 × Int32 × MM) ⊕ (Int32 × Int32 × Int32 × MM)) ⊕ (Int64 × MM)} (h : b_X2_readingsOf_0 x l1 m = some q) (Hl : ∀ z, q = .inl z → p_X2_readingsOf Γ m0 mF x l1 r z) (Hr : ∀ z, q = .inr z → z = (r, mF)) : G Γ kX2_readingsOf cX2_readingsOf m0 mF (.inl (some (.long r))) m 0 [some (.ref x), some (.int l1), none, none, none, none] [] := by
  unfold b_X2_readingsOf_0 at h
  refine g_this dX2_readingsOf_0 rfl ?_
  refine g_getR hΓ.k fl_X2_27_X2 rfl hT dX2_readingsOf_1 ?_
  refine g_this dX2_readingsOf_4 rfl ?_
  refine g_getI hΓ.k fl_X2_233_X2 rfl hT dX2_readingsOf_5 ?_
  replace h := bd_of h; obtain ⟨v1, ev1, h⟩ := h
  refine g_iald ev1 dX2_readingsOf_8 ?_
  replace h := ite_of h; rcases h with ⟨hc, h⟩ | ⟨hc, h⟩
  · refine g_ifeqT dX2_readingsOf_9 rfl hc ?_
    refine g_lc 0 dX2_readingsOf_16 rfl ?_
    cases h
    cases Hr _ rfl
    exact g_lret rfl dX2_readingsOf_17
  · refine g_ifeqF dX2_readingsOf_9 rfl hc ?_
    refine g_iload_n 1 dX2_readingsOf_12 rfl rfl ?_
    replace h := ite_of h; rcases h with ⟨hc, h⟩ | ⟨hc, h⟩
    · refine g_ifneF dX2_readingsOf_13 rfl hc ?_
      refine g_lc 0 dX2_readingsOf_16 rfl ?_
      cases h
      cases Hr _ rfl
      exact g_lret rfl dX2_readingsOf_17
    · refine g_ifneT dX2_readingsOf_13 rfl hc ?_
      refine g_ic 0 dX2_readingsOf_18 rfl ?_
      refine g_istore_n 2 dX2_readingsOf_19 rfl (Nat.le_of_ble_eq_true rfl) rfl ?_
      dsimp only [List.set]
      cases h
      refine G.weak [true, true, true, false, false, false] rfl ?_
      exact Hl _ rfl hT
theorem ct_X2_readingsOf {Γ : GG} (hΓ : GF Γ) {m mF : MM} {x : Nat} {l1 : Int32} (hT : (m.K x).1 = 3) {r : Int64} (h : f_X2_readingsOf x l1 m = some (r, mF)) : Ct Γ kX2_readingsOf cX2_readingsOf [.ref x, .int l1] m (.inl (some (.long r))) mF := by
  unfold f_X2_readingsOf at h
  replace h := bd_of h; obtain ⟨q, e, h⟩ := h
  have H := rx_go_ind (P := p_X2_readingsOf Γ m mF x l1 r) (fun z o hs Hl Hr => by
    match z with
    | (.inl (l2, m)) => exact fun hT => w_X2_readingsOf_20 hΓ hT hs Hl Hr
    | (.inr (.inl (l2, m))) => exact fun hT => w_X2_readingsOf_42 hΓ hT hs Hl Hr
    | (.inr (.inr (.inl (l2, l3, m)))) => exact fun hT => w_X2_readingsOf_49 hΓ hT hs Hl Hr
    | (.inr (.inr (.inr (l2, l3, l4, m)))) => exact fun hT => w_X2_readingsOf_77 hΓ hT hs Hl Hr) h
  exact Ct.of (κ := kX2_readingsOf) (by decide) rfl (Nat.le_of_ble_eq_true rfl) rfl (w_X2_readingsOf_0 hΓ hT e H.1 H.2)
set_option maxHeartbeats 4000000 in
theorem w_X2_readings_0 {Γ : GG} (hΓ : GF Γ) {m0 mF m : MM} {x : Nat} (hT : (m.K x).1 = 3) {r : Int32} (h : b_X2_readings_0 x m = some (r, mF)) : G Γ kX2_readings cX2_readings m0 mF (.inl (some (.int r))) m 0 [some (.ref x)] [] := by
  unfold b_X2_readings_0 at h
  refine g_this dX2_readings_0 rfl ?_
  replace h := bd2_of h; obtain ⟨_, m1, em1, h⟩ := h
  have C := ct_X2_tryRow hΓ hT em1
  refine g_callVv hΓ.k vl_X2_351 hT C rfl rfl (Nat.le_of_ble_eq_true rfl) (Nat.le_of_ble_eq_true rfl) (Nat.le_of_ble_eq_true rfl) dX2_readings_1 ?_
  replace hT := (C.1).kd hT
  refine g_this dX2_readings_4 rfl ?_
  refine g_this dX2_readings_5 rfl ?_
  refine g_getI hΓ.k fl_X2_336_X2 rfl hT dX2_readings_6 ?_
  replace h := bd2_of h; obtain ⟨v2, m3, em3, h⟩ := h
  have C := ct_X2_readingsOf hΓ hT em3
  refine g_callVl hΓ.k vl_X2_363 hT C rfl rfl (Nat.le_of_ble_eq_true rfl) (Nat.le_of_ble_eq_true rfl) (Nat.le_of_ble_eq_true rfl) dX2_readings_9 ?_
  replace hT := (C.1).kd hT
  refine g_l2i dX2_readings_12 ?_
  cases h
  exact g_iret rfl dX2_readings_13
theorem ct_X2_readings {Γ : GG} (hΓ : GF Γ) {m mF : MM} {x : Nat} (hT : (m.K x).1 = 3) {r : Int32} (h : f_X2_readings x m = some (r, mF)) : Ct Γ kX2_readings cX2_readings [.ref x] m (.inl (some (.int r))) mF := by
  unfold f_X2_readings at h
  exact Ct.of (κ := kX2_readings) (by decide) rfl (Nat.le_of_ble_eq_true rfl) rfl (w_X2_readings_0 hΓ hT h)
def p_X2_meansOf (Γ : GG) (m0 mF : MM) (x : Nat) (l1 : Int32) (l2 : Int32) (r : Int32) : ((Int32 × Int32 × MM)) → Prop := fun z => match z with
  | (l3, l4, m) => (m.K x).1 = 3 → G Γ kX2_meansOf cX2_meansOf m0 mF (.inl (some (.int r))) m 5 [some (.ref x), some (.int l1), some (.int l2), some (.int l3), some (.int l4)] []
set_option maxHeartbeats 4000000 in
theorem w_X2_meansOf_5 {Γ : GG} (hΓ : GF Γ) {m0 mF m : MM} {x : Nat} {l1 : Int32} {l2 : Int32} {l3 : Int32} {l4 : Int32} (hT : (m.K x).1 = 3) {r : Int32} {q : ((Int32 × Int32 × MM)) ⊕ (Int32 × MM)} (h : b_X2_meansOf_5 x l1 l2 l3 l4 m = some q) (Hl : ∀ z, q = .inl z → p_X2_meansOf Γ m0 mF x l1 l2 r z) (Hr : ∀ z, q = .inr z → z = (r, mF)) : G Γ kX2_meansOf cX2_meansOf m0 mF (.inl (some (.int r))) m 5 [some (.ref x), some (.int l1), some (.int l2), some (.int l3), some (.int l4)] [] := by
  unfold b_X2_meansOf_5 at h
  refine g_iload dX2_meansOf_5 rfl ?_
  refine g_iload_n 1 dX2_meansOf_7 rfl rfl ?_
  replace h := ite_of h; rcases h with ⟨hc, h⟩ | ⟨hc, h⟩
  · refine g_icgeT dX2_meansOf_8 rfl hc ?_
    refine g_iload_n 3 dX2_meansOf_75 rfl rfl ?_
    cases h
    cases Hr _ rfl
    exact g_iret rfl dX2_meansOf_76
  · refine g_icgeF dX2_meansOf_8 rfl hc ?_
    refine g_iload_n 3 dX2_meansOf_11 rfl rfl ?_
    refine g_this dX2_meansOf_12 rfl ?_
    refine g_getR hΓ.k fl_X2_42_X2 rfl hT dX2_meansOf_13 ?_
    refine g_ic 3 dX2_meansOf_16 rfl ?_
    refine g_bi (8) dX2_meansOf_17 rfl ?_
    refine g_this dX2_meansOf_19 rfl ?_
    refine g_getI hΓ.k fl_X2_233_X2 rfl hT dX2_meansOf_20 ?_
    refine g_imul dX2_meansOf_23 ?_
    refine g_this dX2_meansOf_24 rfl ?_
    refine g_getR hΓ.k fl_X2_77_X2 rfl hT dX2_meansOf_25 ?_
    refine g_iload dX2_meansOf_28 rfl ?_
    replace h := bd_of h; obtain ⟨v1, ev1, h⟩ := h
    refine g_iald ev1 dX2_meansOf_30 ?_
    refine g_iadd dX2_meansOf_31 ?_
    refine g_imul dX2_meansOf_32 ?_
    refine g_iload_n 2 dX2_meansOf_33 rfl rfl ?_
    refine g_iadd dX2_meansOf_34 ?_
    replace h := bd_of h; obtain ⟨v2, ev2, h⟩ := h
    refine g_iald ev2 dX2_meansOf_35 ?_
    refine g_iload dX2_meansOf_36 rfl ?_
    replace h := ite_of h; rcases h with ⟨hc, h⟩ | ⟨hc, h⟩
    · refine g_ifleT dX2_meansOf_38 rfl hc ?_
      refine g_ic 0 dX2_meansOf_65 rfl ?_
      refine g_iadd dX2_meansOf_66 ?_
      refine g_iadd dX2_meansOf_67 ?_
      refine g_istore_n 3 dX2_meansOf_68 rfl (Nat.le_of_ble_eq_true rfl) rfl ?_
      dsimp only [List.set]
      refine g_iinc (l4 + (1 : Int32)) dX2_meansOf_69 rfl rfl (Nat.le_of_ble_eq_true rfl) rfl ?_
      dsimp only [List.set]
      refine g_goto dX2_meansOf_72 rfl ?_
      cases h
      refine G.weak [true, true, true, true, true] rfl ?_
      exact Hl _ rfl hT
    · refine g_ifleF dX2_meansOf_38 rfl hc ?_
      refine g_this dX2_meansOf_41 rfl ?_
      refine g_this dX2_meansOf_42 rfl ?_
      refine g_getR hΓ.k fl_X2_77_X2 rfl hT dX2_meansOf_43 ?_
      refine g_iload dX2_meansOf_46 rfl ?_
      refine g_ic 1 dX2_meansOf_48 rfl ?_
      refine g_isub dX2_meansOf_49 ?_
      replace h := bd_of h; obtain ⟨v3, ev3, h⟩ := h
      refine g_iald ev3 dX2_meansOf_50 ?_
      refine g_this dX2_meansOf_51 rfl ?_
      refine g_getR hΓ.k fl_X2_77_X2 rfl hT dX2_meansOf_52 ?_
      refine g_iload dX2_meansOf_55 rfl ?_
      replace h := bd_of h; obtain ⟨v4, ev4, h⟩ := h
      refine g_iald ev4 dX2_meansOf_57 ?_
      refine g_iload_n 2 dX2_meansOf_58 rfl rfl ?_
      replace h := bd2_of h; obtain ⟨v5, m6, em6, h⟩ := h
      have C := ct_X2_pairOf hΓ hT em6
      refine g_callVi hΓ.k vl_X2_312 hT C rfl rfl (Nat.le_of_ble_eq_true rfl) (Nat.le_of_ble_eq_true rfl) (Nat.le_of_ble_eq_true rfl) dX2_meansOf_59 ?_
      replace hT := (C.1).kd hT
      refine g_goto dX2_meansOf_62 rfl ?_
      refine g_iadd dX2_meansOf_66 ?_
      refine g_iadd dX2_meansOf_67 ?_
      refine g_istore_n 3 dX2_meansOf_68 rfl (Nat.le_of_ble_eq_true rfl) rfl ?_
      dsimp only [List.set]
      refine g_iinc (l4 + (1 : Int32)) dX2_meansOf_69 rfl rfl (Nat.le_of_ble_eq_true rfl) rfl ?_
      dsimp only [List.set]
      refine g_goto dX2_meansOf_72 rfl ?_
      cases h
      refine G.weak [true, true, true, true, true] rfl ?_
      exact Hl _ rfl hT
set_option maxHeartbeats 4000000 in
theorem w_X2_meansOf_0 {Γ : GG} (hΓ : GF Γ) {m0 mF m : MM} {x : Nat} {l1 : Int32} {l2 : Int32} (hT : (m.K x).1 = 3) {r : Int32} {q : ((Int32 × Int32 × MM)) ⊕ (Int32 × MM)} (h : b_X2_meansOf_0 x l1 l2 m = some q) (Hl : ∀ z, q = .inl z → p_X2_meansOf Γ m0 mF x l1 l2 r z) (Hr : ∀ z, q = .inr z → z = (r, mF)) : G Γ kX2_meansOf cX2_meansOf m0 mF (.inl (some (.int r))) m 0 [some (.ref x), some (.int l1), some (.int l2), none, none] [] := by
  unfold b_X2_meansOf_0 at h
  refine g_ic 0 dX2_meansOf_0 rfl ?_
  refine g_istore_n 3 dX2_meansOf_1 rfl (Nat.le_of_ble_eq_true rfl) rfl ?_
  dsimp only [List.set]
  refine g_ic 0 dX2_meansOf_2 rfl ?_
  refine g_istore dX2_meansOf_3 (Nat.le_of_ble_eq_true rfl) rfl ?_
  dsimp only [List.set]
  cases h
  refine G.weak [true, true, true, true, true] rfl ?_
  exact Hl _ rfl hT
theorem ct_X2_meansOf {Γ : GG} (hΓ : GF Γ) {m mF : MM} {x : Nat} {l1 : Int32} {l2 : Int32} (hT : (m.K x).1 = 3) {r : Int32} (h : f_X2_meansOf x l1 l2 m = some (r, mF)) : Ct Γ kX2_meansOf cX2_meansOf [.ref x, .int l1, .int l2] m (.inl (some (.int r))) mF := by
  unfold f_X2_meansOf at h
  replace h := bd_of h; obtain ⟨q, e, h⟩ := h
  have H := rx_go_ind (P := p_X2_meansOf Γ m mF x l1 l2 r) (fun z o hs Hl Hr => by
    match z with
    | (l3, l4, m) => exact fun hT => w_X2_meansOf_5 hΓ hT hs Hl Hr) h
  exact Ct.of (κ := kX2_meansOf) (by decide) rfl (Nat.le_of_ble_eq_true rfl) rfl (w_X2_meansOf_0 hΓ hT e H.1 H.2)
set_option maxHeartbeats 4000000 in
theorem w_X2_means_0 {Γ : GG} (hΓ : GF Γ) {m0 mF m : MM} {x : Nat} {l1 : Int32} (hT : (m.K x).1 = 3) {r : Int32} (h : b_X2_means_0 x l1 m = some (r, mF)) : G Γ kX2_means cX2_means m0 mF (.inl (some (.int r))) m 0 [some (.ref x), some (.int l1)] [] := by
  unfold b_X2_means_0 at h
  refine g_iload_n 1 dX2_means_0 rfl rfl ?_
  replace h := bd2_of h; obtain ⟨v1, m2, em2, h⟩ := h
  have C := ct_X2_isGuild hΓ em2
  refine g_callSi sl_X2_308 C rfl rfl (Nat.le_of_ble_eq_true rfl) (Nat.le_of_ble_eq_true rfl) (Nat.le_of_ble_eq_true rfl) dX2_means_1 ?_
  replace hT := (C.1).kd hT
  replace h := ite_of h; rcases h with ⟨hc, h⟩ | ⟨hc, h⟩
  · refine g_ifneF dX2_means_4 rfl hc ?_
    refine g_ldcw (v := -1000000) q1595 dX2_means_7 ?_
    cases h
    exact g_iret rfl dX2_means_10
  · refine g_ifneT dX2_means_4 rfl hc ?_
    refine g_this dX2_means_11 rfl ?_
    replace h := bd2_of h; obtain ⟨_, m3, em3, h⟩ := h
    have C := ct_X2_tryRow hΓ hT em3
    refine g_callVv hΓ.k vl_X2_351 hT C rfl rfl (Nat.le_of_ble_eq_true rfl) (Nat.le_of_ble_eq_true rfl) (Nat.le_of_ble_eq_true rfl) dX2_means_12 ?_
    replace hT := (C.1).kd hT
    refine g_this dX2_means_15 rfl ?_
    refine g_this dX2_means_16 rfl ?_
    refine g_getI hΓ.k fl_X2_336_X2 rfl hT dX2_means_17 ?_
    refine g_iload_n 1 dX2_means_20 rfl rfl ?_
    replace h := bd2_of h; obtain ⟨v4, m5, em5, h⟩ := h
    have C := ct_X2_meansOf hΓ hT em5
    refine g_callVi hΓ.k vl_X2_367 hT C rfl rfl (Nat.le_of_ble_eq_true rfl) (Nat.le_of_ble_eq_true rfl) (Nat.le_of_ble_eq_true rfl) dX2_means_21 ?_
    replace hT := (C.1).kd hT
    cases h
    exact g_iret rfl dX2_means_24
theorem ct_X2_means {Γ : GG} (hΓ : GF Γ) {m mF : MM} {x : Nat} {l1 : Int32} (hT : (m.K x).1 = 3) {r : Int32} (h : f_X2_means x l1 m = some (r, mF)) : Ct Γ kX2_means cX2_means [.ref x, .int l1] m (.inl (some (.int r))) mF := by
  unfold f_X2_means at h
  exact Ct.of (κ := kX2_means) (by decide) rfl (Nat.le_of_ble_eq_true rfl) rfl (w_X2_means_0 hΓ hT h)
def p_X2_keepAct (Γ : GG) (m0 mF : MM) (x : Nat) (l1 : Int32) (l2 : Int32) (r : Unit) : ((Int32 × MM)) → Prop := fun z => match z with
  | (l3, m) => (m.K x).1 = 3 → G Γ kX2_keepAct cX2_keepAct m0 mF (.inl none) m 11 [some (.ref x), some (.int l1), some (.int l2), some (.int l3)] []
set_option maxHeartbeats 4000000 in
theorem w_X2_keepAct_61 {Γ : GG} (hΓ : GF Γ) {m0 mF m : MM} {x : Nat} {l1 : Int32} {l2 : Int32} (hT : (m.K x).1 = 3) {r : Unit} {q : ((Int32 × MM)) ⊕ (Unit × MM)} (h : b_X2_keepAct_61 x l1 l2 m = some q) (Hl : ∀ z, q = .inl z → p_X2_keepAct Γ m0 mF x l1 l2 r z) (Hr : ∀ z, q = .inr z → z = (r, mF)) : G Γ kX2_keepAct cX2_keepAct m0 mF (.inl none) m 61 [some (.ref x), some (.int l1), some (.int l2), none] [] := by
  unfold b_X2_keepAct_61 at h
  refine g_this dX2_keepAct_61 rfl ?_
  refine g_getR hΓ.k fl_X2_101_X2 rfl hT dX2_keepAct_62 ?_
  refine g_this dX2_keepAct_65 rfl ?_
  refine g_getI hΓ.k fl_X2_339_X2 rfl hT dX2_keepAct_66 ?_
  refine g_iload_n 1 dX2_keepAct_69 rfl rfl ?_
  replace h := bd_of h; obtain ⟨m1, em1, h⟩ := h
  refine g_iast em1 dX2_keepAct_70 ?_
  replace hT := (sI_ext em1).kd hT
  refine g_this dX2_keepAct_71 rfl ?_
  refine g_getR hΓ.k fl_X2_104_X2 rfl hT dX2_keepAct_72 ?_
  refine g_this dX2_keepAct_75 rfl ?_
  refine g_getI hΓ.k fl_X2_339_X2 rfl hT dX2_keepAct_76 ?_
  refine g_iload_n 2 dX2_keepAct_79 rfl rfl ?_
  replace h := bd_of h; obtain ⟨m2, em2, h⟩ := h
  refine g_iast em2 dX2_keepAct_80 ?_
  replace hT := (sI_ext em2).kd hT
  refine g_this dX2_keepAct_81 rfl ?_
  refine g_dup dX2_keepAct_82 rfl ?_
  refine g_getI hΓ.k fl_X2_339_X2 rfl hT dX2_keepAct_83 ?_
  refine g_ic 1 dX2_keepAct_86 rfl ?_
  refine g_iadd dX2_keepAct_87 ?_
  replace h := bd_of h; obtain ⟨m3, em3, h⟩ := h
  refine g_pI hΓ.k fl_X2_339_X2 (fun h9 => by cases h9) rfl (Or.inl ⟨rfl, rfl⟩) em3 dX2_keepAct_88 ?_
  replace hT := (pI_ext em3).kd hT
  refine g_this dX2_keepAct_91 rfl ?_
  refine g_ic 0 dX2_keepAct_92 rfl ?_
  replace h := bd_of h; obtain ⟨m4, em4, h⟩ := h
  refine g_pI hΓ.k fl_X2_342_X2 (fun h9 => by cases h9) rfl (Or.inl ⟨rfl, rfl⟩) em4 dX2_keepAct_93 ?_
  replace hT := (pI_ext em4).kd hT
  cases h
  cases Hr _ rfl
  exact g_vret rfl dX2_keepAct_96
set_option maxHeartbeats 4000000 in
theorem w_X2_keepAct_11 {Γ : GG} (hΓ : GF Γ) {m0 mF m : MM} {x : Nat} {l1 : Int32} {l2 : Int32} {l3 : Int32} (hT : (m.K x).1 = 3) {r : Unit} {q : ((Int32 × MM)) ⊕ (Unit × MM)} (h : b_X2_keepAct_11 x l1 l2 l3 m = some q) (Hl : ∀ z, q = .inl z → p_X2_keepAct Γ m0 mF x l1 l2 r z) (Hr : ∀ z, q = .inr z → z = (r, mF)) : G Γ kX2_keepAct cX2_keepAct m0 mF (.inl none) m 11 [some (.ref x), some (.int l1), some (.int l2), some (.int l3)] [] := by
  unfold b_X2_keepAct_11 at h
  refine g_iload_n 3 dX2_keepAct_11 rfl rfl ?_
  refine g_bi (40) dX2_keepAct_12 rfl ?_
  replace h := ite_of h; rcases h with ⟨hc, h⟩ | ⟨hc, h⟩
  · refine g_icgeT dX2_keepAct_14 rfl hc ?_
    refine g_this dX2_keepAct_51 rfl ?_
    refine g_dup dX2_keepAct_52 rfl ?_
    refine g_getI hΓ.k fl_X2_339_X2 rfl hT dX2_keepAct_53 ?_
    refine g_ic 1 dX2_keepAct_56 rfl ?_
    refine g_isub dX2_keepAct_57 ?_
    replace h := bd_of h; obtain ⟨m1, em1, h⟩ := h
    refine g_pI hΓ.k fl_X2_339_X2 (fun h9 => by cases h9) rfl (Or.inl ⟨rfl, rfl⟩) em1 dX2_keepAct_58 ?_
    replace hT := (pI_ext em1).kd hT
    refine G.weak [true, true, true, false] rfl ?_
    exact w_X2_keepAct_61 hΓ hT h Hl Hr
  · refine g_icgeF dX2_keepAct_14 rfl hc ?_
    refine g_this dX2_keepAct_17 rfl ?_
    refine g_getR hΓ.k fl_X2_101_X2 rfl hT dX2_keepAct_18 ?_
    refine g_iload_n 3 dX2_keepAct_21 rfl rfl ?_
    refine g_ic 1 dX2_keepAct_22 rfl ?_
    refine g_isub dX2_keepAct_23 ?_
    refine g_this dX2_keepAct_24 rfl ?_
    refine g_getR hΓ.k fl_X2_101_X2 rfl hT dX2_keepAct_25 ?_
    refine g_iload_n 3 dX2_keepAct_28 rfl rfl ?_
    replace h := bd_of h; obtain ⟨v2, ev2, h⟩ := h
    refine g_iald ev2 dX2_keepAct_29 ?_
    replace h := bd_of h; obtain ⟨m3, em3, h⟩ := h
    refine g_iast em3 dX2_keepAct_30 ?_
    replace hT := (sI_ext em3).kd hT
    refine g_this dX2_keepAct_31 rfl ?_
    refine g_getR hΓ.k fl_X2_104_X2 rfl hT dX2_keepAct_32 ?_
    refine g_iload_n 3 dX2_keepAct_35 rfl rfl ?_
    refine g_ic 1 dX2_keepAct_36 rfl ?_
    refine g_isub dX2_keepAct_37 ?_
    refine g_this dX2_keepAct_38 rfl ?_
    refine g_getR hΓ.k fl_X2_104_X2 rfl hT dX2_keepAct_39 ?_
    refine g_iload_n 3 dX2_keepAct_42 rfl rfl ?_
    replace h := bd_of h; obtain ⟨v4, ev4, h⟩ := h
    refine g_iald ev4 dX2_keepAct_43 ?_
    replace h := bd_of h; obtain ⟨m5, em5, h⟩ := h
    refine g_iast em5 dX2_keepAct_44 ?_
    replace hT := (sI_ext em5).kd hT
    refine g_iinc (l3 + (1 : Int32)) dX2_keepAct_45 rfl rfl (Nat.le_of_ble_eq_true rfl) rfl ?_
    dsimp only [List.set]
    refine g_goto dX2_keepAct_48 rfl ?_
    cases h
    refine G.weak [true, true, true, true] rfl ?_
    exact Hl _ rfl hT
set_option maxHeartbeats 4000000 in
theorem w_X2_keepAct_0 {Γ : GG} (hΓ : GF Γ) {m0 mF m : MM} {x : Nat} {l1 : Int32} {l2 : Int32} (hT : (m.K x).1 = 3) {r : Unit} {q : ((Int32 × MM)) ⊕ (Unit × MM)} (h : b_X2_keepAct_0 x l1 l2 m = some q) (Hl : ∀ z, q = .inl z → p_X2_keepAct Γ m0 mF x l1 l2 r z) (Hr : ∀ z, q = .inr z → z = (r, mF)) : G Γ kX2_keepAct cX2_keepAct m0 mF (.inl none) m 0 [some (.ref x), some (.int l1), some (.int l2), none] [] := by
  unfold b_X2_keepAct_0 at h
  refine g_this dX2_keepAct_0 rfl ?_
  refine g_getI hΓ.k fl_X2_339_X2 rfl hT dX2_keepAct_1 ?_
  refine g_bi (40) dX2_keepAct_4 rfl ?_
  replace h := ite_of h; rcases h with ⟨hc, h⟩ | ⟨hc, h⟩
  · refine g_icneF dX2_keepAct_6 rfl hc ?_
    refine g_ic 1 dX2_keepAct_9 rfl ?_
    refine g_istore_n 3 dX2_keepAct_10 rfl (Nat.le_of_ble_eq_true rfl) rfl ?_
    dsimp only [List.set]
    cases h
    refine G.weak [true, true, true, true] rfl ?_
    exact Hl _ rfl hT
  · refine g_icneT dX2_keepAct_6 rfl hc ?_
    refine G.weak [true, true, true, false] rfl ?_
    exact w_X2_keepAct_61 hΓ hT h Hl Hr
theorem ct_X2_keepAct {Γ : GG} (hΓ : GF Γ) {m mF : MM} {x : Nat} {l1 : Int32} {l2 : Int32} (hT : (m.K x).1 = 3) {r : Unit} (h : f_X2_keepAct x l1 l2 m = some (r, mF)) : Ct Γ kX2_keepAct cX2_keepAct [.ref x, .int l1, .int l2] m (.inl none) mF := by
  unfold f_X2_keepAct at h
  replace h := bd_of h; obtain ⟨q, e, h⟩ := h
  have H := rx_go_ind (P := p_X2_keepAct Γ m mF x l1 l2 r) (fun z o hs Hl Hr => by
    match z with
    | (l3, m) => exact fun hT => w_X2_keepAct_11 hΓ hT hs Hl Hr) h
  exact Ct.of (κ := kX2_keepAct) (by decide) rfl (Nat.le_of_ble_eq_true rfl) rfl (w_X2_keepAct_0 hΓ hT e H.1 H.2)
set_option maxHeartbeats 4000000 in
theorem w_X2_write_0 {Γ : GG} (hΓ : GF Γ) {m0 mF m : MM} {x : Nat} {l1 : Int32} (hT : (m.K x).1 = 3) {r : Int32} (h : b_X2_write_0 x l1 m = some (r, mF)) : G Γ kX2_write cX2_write m0 mF (.inl (some (.int r))) m 0 [some (.ref x), some (.int l1)] [] := by
  unfold b_X2_write_0 at h
  refine g_this dX2_write_0 rfl ?_
  refine g_iload_n 1 dX2_write_1 rfl rfl ?_
  replace h := bd2_of h; obtain ⟨v1, m2, em2, h⟩ := h
  have C := ct_X2_isWordOf hΓ hT em2
  refine g_callVi hΓ.k vl_X2_305 hT C rfl rfl (Nat.le_of_ble_eq_true rfl) (Nat.le_of_ble_eq_true rfl) (Nat.le_of_ble_eq_true rfl) dX2_write_2 ?_
  replace hT := (C.1).kd hT
  replace h := ite_of h; rcases h with ⟨hc, h⟩ | ⟨hc, h⟩
  · refine g_ifeqT dX2_write_5 rfl hc ?_
    refine g_ic (-1) dX2_write_16 rfl ?_
    cases h
    exact g_iret rfl dX2_write_17
  · refine g_ifeqF dX2_write_5 rfl hc ?_
    refine g_this dX2_write_8 rfl ?_
    refine g_iload_n 1 dX2_write_9 rfl rfl ?_
    replace h := bd2_of h; obtain ⟨v3, m4, em4, h⟩ := h
    have C := ct_X2_canCome hΓ hT em4
    refine g_callVi hΓ.k vl_X2_360 hT C rfl rfl (Nat.le_of_ble_eq_true rfl) (Nat.le_of_ble_eq_true rfl) (Nat.le_of_ble_eq_true rfl) dX2_write_10 ?_
    replace hT := (C.1).kd hT
    replace h := ite_of h; rcases h with ⟨hc, h⟩ | ⟨hc, h⟩
    · refine g_ifneF dX2_write_13 rfl hc ?_
      refine g_ic (-1) dX2_write_16 rfl ?_
      cases h
      exact g_iret rfl dX2_write_17
    · refine g_ifneT dX2_write_13 rfl hc ?_
      refine g_this dX2_write_18 rfl ?_
      refine g_ic (-1) dX2_write_19 rfl ?_
      refine g_iload_n 1 dX2_write_20 rfl rfl ?_
      replace h := bd2_of h; obtain ⟨_, m5, em5, h⟩ := h
      have C := ct_X2_keepAct hΓ hT em5
      refine g_callVv hΓ.k vl_X2_370 hT C rfl rfl (Nat.le_of_ble_eq_true rfl) (Nat.le_of_ble_eq_true rfl) (Nat.le_of_ble_eq_true rfl) dX2_write_21 ?_
      replace hT := (C.1).kd hT
      refine g_this dX2_write_24 rfl ?_
      refine g_getR hΓ.k fl_X2_92_X2 rfl hT dX2_write_25 ?_
      refine g_this dX2_write_28 rfl ?_
      refine g_getI hΓ.k fl_X2_336_X2 rfl hT dX2_write_29 ?_
      refine g_iload_n 1 dX2_write_32 rfl rfl ?_
      replace h := bd_of h; obtain ⟨m6, em6, h⟩ := h
      refine g_iast em6 dX2_write_33 ?_
      replace hT := (sI_ext em6).kd hT
      refine g_this dX2_write_34 rfl ?_
      refine g_dup dX2_write_35 rfl ?_
      refine g_getI hΓ.k fl_X2_336_X2 rfl hT dX2_write_36 ?_
      refine g_ic 1 dX2_write_39 rfl ?_
      refine g_iadd dX2_write_40 ?_
      replace h := bd_of h; obtain ⟨m7, em7, h⟩ := h
      refine g_pI hΓ.k fl_X2_336_X2 (fun h9 => by cases h9) rfl (Or.inl ⟨rfl, rfl⟩) em7 dX2_write_41 ?_
      replace hT := (pI_ext em7).kd hT
      refine g_this dX2_write_44 rfl ?_
      refine g_getI hΓ.k fl_X2_336_X2 rfl hT dX2_write_45 ?_
      cases h
      exact g_iret rfl dX2_write_48
theorem ct_X2_write {Γ : GG} (hΓ : GF Γ) {m mF : MM} {x : Nat} {l1 : Int32} (hT : (m.K x).1 = 3) {r : Int32} (h : f_X2_write x l1 m = some (r, mF)) : Ct Γ kX2_write cX2_write [.ref x, .int l1] m (.inl (some (.int r))) mF := by
  unfold f_X2_write at h
  exact Ct.of (κ := kX2_write) (by decide) rfl (Nat.le_of_ble_eq_true rfl) rfl (w_X2_write_0 hΓ hT h)
set_option maxHeartbeats 4000000 in
theorem w_X2_sell_0 {Γ : GG} (hΓ : GF Γ) {m0 mF m : MM} {x : Nat} {l1 : Int32} {l2 : Int32} (hT : (m.K x).1 = 3) {r : Int32} (h : b_X2_sell_0 x l1 l2 m = some (r, mF)) : G Γ kX2_sell cX2_sell m0 mF (.inl (some (.int r))) m 0 [some (.ref x), some (.int l1), some (.int l2), none] [] := by
  unfold b_X2_sell_0 at h
  refine g_iload_n 1 dX2_sell_0 rfl rfl ?_
  refine g_this dX2_sell_1 rfl ?_
  refine g_getI hΓ.k fl_X2_336_X2 rfl hT dX2_sell_2 ?_
  refine g_this dX2_sell_5 rfl ?_
  replace h := bd2_of h; obtain ⟨v1, m2, em2, h⟩ := h
  have C := ct_X2_longOf hΓ hT em2
  refine g_callVi hΓ.k vl_X2_302 hT C rfl rfl (Nat.le_of_ble_eq_true rfl) (Nat.le_of_ble_eq_true rfl) (Nat.le_of_ble_eq_true rfl) dX2_sell_6 ?_
  replace hT := (C.1).kd hT
  refine g_ic 1 dX2_sell_9 rfl ?_
  refine g_isub dX2_sell_10 ?_
  replace h := bd2_of h; obtain ⟨v3, m4, em4, h⟩ := h
  have C := ct_X2_isIn hΓ em4
  refine g_callSi sl_X2_298 C rfl rfl (Nat.le_of_ble_eq_true rfl) (Nat.le_of_ble_eq_true rfl) (Nat.le_of_ble_eq_true rfl) dX2_sell_11 ?_
  replace hT := (C.1).kd hT
  replace h := ite_of h; rcases h with ⟨hc, h⟩ | ⟨hc, h⟩
  · refine g_ifeqT dX2_sell_14 rfl hc ?_
    refine g_ic (-1) dX2_sell_24 rfl ?_
    cases h
    exact g_iret rfl dX2_sell_25
  · refine g_ifeqF dX2_sell_14 rfl hc ?_
    refine g_iload_n 2 dX2_sell_17 rfl rfl ?_
    replace h := bd2_of h; obtain ⟨v5, m6, em6, h⟩ := h
    have C := ct_X2_isGuild hΓ em6
    refine g_callSi sl_X2_308 C rfl rfl (Nat.le_of_ble_eq_true rfl) (Nat.le_of_ble_eq_true rfl) (Nat.le_of_ble_eq_true rfl) dX2_sell_18 ?_
    replace hT := (C.1).kd hT
    replace h := ite_of h; rcases h with ⟨hc, h⟩ | ⟨hc, h⟩
    · refine g_ifneF dX2_sell_21 rfl hc ?_
      refine g_ic (-1) dX2_sell_24 rfl ?_
      cases h
      exact g_iret rfl dX2_sell_25
    · refine g_ifneT dX2_sell_21 rfl hc ?_
      refine g_this dX2_sell_26 rfl ?_
      refine g_getR hΓ.k fl_X2_95_X2 rfl hT dX2_sell_27 ?_
      refine g_iload_n 1 dX2_sell_30 rfl rfl ?_
      replace h := bd_of h; obtain ⟨v7, ev7, h⟩ := h
      refine g_iald ev7 dX2_sell_31 ?_
      refine g_istore_n 3 dX2_sell_32 rfl (Nat.le_of_ble_eq_true rfl) rfl ?_
      dsimp only [List.set]
      refine g_this dX2_sell_33 rfl ?_
      refine g_iload_n 1 dX2_sell_34 rfl rfl ?_
      refine g_iload_n 3 dX2_sell_35 rfl rfl ?_
      replace h := bd2_of h; obtain ⟨_, m8, em8, h⟩ := h
      have C := ct_X2_keepAct hΓ hT em8
      refine g_callVv hΓ.k vl_X2_370 hT C rfl rfl (Nat.le_of_ble_eq_true rfl) (Nat.le_of_ble_eq_true rfl) (Nat.le_of_ble_eq_true rfl) dX2_sell_36 ?_
      replace hT := (C.1).kd hT
      refine g_this dX2_sell_39 rfl ?_
      refine g_getR hΓ.k fl_X2_95_X2 rfl hT dX2_sell_40 ?_
      refine g_iload_n 1 dX2_sell_43 rfl rfl ?_
      refine g_iload_n 2 dX2_sell_44 rfl rfl ?_
      replace h := bd_of h; obtain ⟨m9, em9, h⟩ := h
      refine g_iast em9 dX2_sell_45 ?_
      replace hT := (sI_ext em9).kd hT
      refine g_iload_n 3 dX2_sell_46 rfl rfl ?_
      cases h
      exact g_iret rfl dX2_sell_47
theorem ct_X2_sell {Γ : GG} (hΓ : GF Γ) {m mF : MM} {x : Nat} {l1 : Int32} {l2 : Int32} (hT : (m.K x).1 = 3) {r : Int32} (h : f_X2_sell x l1 l2 m = some (r, mF)) : Ct Γ kX2_sell cX2_sell [.ref x, .int l1, .int l2] m (.inl (some (.int r))) mF := by
  unfold f_X2_sell at h
  exact Ct.of (κ := kX2_sell) (by decide) rfl (Nat.le_of_ble_eq_true rfl) rfl (w_X2_sell_0 hΓ hT h)
set_option maxHeartbeats 4000000 in
theorem w_X2_exchange_35 {Γ : GG} (hΓ : GF Γ) {m0 mF m : MM} {x : Nat} {l1 : Int32} (hT : (m.K x).1 = 3) {r : Unit} (h : b_X2_exchange_35 x l1 m = some (r, mF)) : G Γ kX2_exchange cX2_exchange m0 mF (.inl none) m 35 [some (.ref x), some (.int l1), none] [] := by
  unfold b_X2_exchange_35 at h
  refine g_this dX2_exchange_35 rfl ?_
  refine g_dup dX2_exchange_36 rfl ?_
  refine g_getI hΓ.k fl_X2_336_X2 rfl hT dX2_exchange_37 ?_
  refine g_iload_n 1 dX2_exchange_40 rfl rfl ?_
  replace h := ite_of h; rcases h with ⟨hc, h⟩ | ⟨hc, h⟩
  · refine g_ifeqT dX2_exchange_41 rfl hc ?_
    refine g_ic 1 dX2_exchange_48 rfl ?_
    refine g_iadd dX2_exchange_49 ?_
    replace h := bd_of h; obtain ⟨m1, em1, h⟩ := h
    refine g_pI hΓ.k fl_X2_336_X2 (fun h9 => by cases h9) rfl (Or.inl ⟨rfl, rfl⟩) em1 dX2_exchange_50 ?_
    replace hT := (pI_ext em1).kd hT
    cases h
    exact g_vret rfl dX2_exchange_53
  · refine g_ifeqF dX2_exchange_41 rfl hc ?_
    refine g_ic (-1) dX2_exchange_44 rfl ?_
    refine g_goto dX2_exchange_45 rfl ?_
    refine g_iadd dX2_exchange_49 ?_
    replace h := bd_of h; obtain ⟨m2, em2, h⟩ := h
    refine g_pI hΓ.k fl_X2_336_X2 (fun h9 => by cases h9) rfl (Or.inl ⟨rfl, rfl⟩) em2 dX2_exchange_50 ?_
    replace hT := (pI_ext em2).kd hT
    cases h
    exact g_vret rfl dX2_exchange_53
set_option maxHeartbeats 4000000 in
theorem w_X2_exchange_0 {Γ : GG} (hΓ : GF Γ) {m0 mF m : MM} {x : Nat} {l1 : Int32} (hT : (m.K x).1 = 3) {r : Unit} (h : b_X2_exchange_0 x l1 m = some (r, mF)) : G Γ kX2_exchange cX2_exchange m0 mF (.inl none) m 0 [some (.ref x), some (.int l1), none] [] := by
  unfold b_X2_exchange_0 at h
  refine g_this dX2_exchange_0 rfl ?_
  refine g_getR hΓ.k fl_X2_101_X2 rfl hT dX2_exchange_1 ?_
  refine g_this dX2_exchange_4 rfl ?_
  refine g_getI hΓ.k fl_X2_339_X2 rfl hT dX2_exchange_5 ?_
  replace h := bd_of h; obtain ⟨v1, ev1, h⟩ := h
  refine g_iald ev1 dX2_exchange_8 ?_
  refine g_ic (-1) dX2_exchange_9 rfl ?_
  replace h := ite_of h; rcases h with ⟨hc, h⟩ | ⟨hc, h⟩
  · refine g_icneF dX2_exchange_10 rfl hc ?_
    refine g_iload_n 1 dX2_exchange_13 rfl rfl ?_
    replace h := ite_of h; rcases h with ⟨hc, h⟩ | ⟨hc, h⟩
    · refine g_ifneF dX2_exchange_14 rfl hc ?_
      refine g_this dX2_exchange_17 rfl ?_
      refine g_getR hΓ.k fl_X2_92_X2 rfl hT dX2_exchange_18 ?_
      refine g_this dX2_exchange_21 rfl ?_
      refine g_getI hΓ.k fl_X2_336_X2 rfl hT dX2_exchange_22 ?_
      refine g_this dX2_exchange_25 rfl ?_
      refine g_getR hΓ.k fl_X2_104_X2 rfl hT dX2_exchange_26 ?_
      refine g_this dX2_exchange_29 rfl ?_
      refine g_getI hΓ.k fl_X2_339_X2 rfl hT dX2_exchange_30 ?_
      replace h := bd_of h; obtain ⟨v8, ev8, h⟩ := h
      refine g_iald ev8 dX2_exchange_33 ?_
      replace h := bd_of h; obtain ⟨m9, em9, h⟩ := h
      refine g_iast em9 dX2_exchange_34 ?_
      replace hT := (sI_ext em9).kd hT
      refine G.weak [true, true, false] rfl ?_
      exact w_X2_exchange_35 hΓ hT h
    · refine g_ifneT dX2_exchange_14 rfl hc ?_
      refine G.weak [true, true, false] rfl ?_
      exact w_X2_exchange_35 hΓ hT h
  · refine g_icneT dX2_exchange_10 rfl hc ?_
    refine g_this dX2_exchange_54 rfl ?_
    refine g_getR hΓ.k fl_X2_95_X2 rfl hT dX2_exchange_55 ?_
    refine g_this dX2_exchange_58 rfl ?_
    refine g_getR hΓ.k fl_X2_101_X2 rfl hT dX2_exchange_59 ?_
    refine g_this dX2_exchange_62 rfl ?_
    refine g_getI hΓ.k fl_X2_339_X2 rfl hT dX2_exchange_63 ?_
    replace h := bd_of h; obtain ⟨v2, ev2, h⟩ := h
    refine g_iald ev2 dX2_exchange_66 ?_
    replace h := bd_of h; obtain ⟨v3, ev3, h⟩ := h
    refine g_iald ev3 dX2_exchange_67 ?_
    refine g_istore_n 2 dX2_exchange_68 rfl (Nat.le_of_ble_eq_true rfl) rfl ?_
    dsimp only [List.set]
    refine g_this dX2_exchange_69 rfl ?_
    refine g_getR hΓ.k fl_X2_95_X2 rfl hT dX2_exchange_70 ?_
    refine g_this dX2_exchange_73 rfl ?_
    refine g_getR hΓ.k fl_X2_101_X2 rfl hT dX2_exchange_74 ?_
    refine g_this dX2_exchange_77 rfl ?_
    refine g_getI hΓ.k fl_X2_339_X2 rfl hT dX2_exchange_78 ?_
    replace h := bd_of h; obtain ⟨v4, ev4, h⟩ := h
    refine g_iald ev4 dX2_exchange_81 ?_
    refine g_this dX2_exchange_82 rfl ?_
    refine g_getR hΓ.k fl_X2_104_X2 rfl hT dX2_exchange_83 ?_
    refine g_this dX2_exchange_86 rfl ?_
    refine g_getI hΓ.k fl_X2_339_X2 rfl hT dX2_exchange_87 ?_
    replace h := bd_of h; obtain ⟨v5, ev5, h⟩ := h
    refine g_iald ev5 dX2_exchange_90 ?_
    replace h := bd_of h; obtain ⟨m6, em6, h⟩ := h
    refine g_iast em6 dX2_exchange_91 ?_
    replace hT := (sI_ext em6).kd hT
    refine g_this dX2_exchange_92 rfl ?_
    refine g_getR hΓ.k fl_X2_104_X2 rfl hT dX2_exchange_93 ?_
    refine g_this dX2_exchange_96 rfl ?_
    refine g_getI hΓ.k fl_X2_339_X2 rfl hT dX2_exchange_97 ?_
    refine g_iload_n 2 dX2_exchange_100 rfl rfl ?_
    replace h := bd_of h; obtain ⟨m7, em7, h⟩ := h
    refine g_iast em7 dX2_exchange_101 ?_
    replace hT := (sI_ext em7).kd hT
    cases h
    exact g_vret rfl dX2_exchange_102
theorem ct_X2_exchange {Γ : GG} (hΓ : GF Γ) {m mF : MM} {x : Nat} {l1 : Int32} (hT : (m.K x).1 = 3) {r : Unit} (h : f_X2_exchange x l1 m = some (r, mF)) : Ct Γ kX2_exchange cX2_exchange [.ref x, .int l1] m (.inl none) mF := by
  unfold f_X2_exchange at h
  exact Ct.of (κ := kX2_exchange) (by decide) rfl (Nat.le_of_ble_eq_true rfl) rfl (w_X2_exchange_0 hΓ hT h)
set_option maxHeartbeats 4000000 in
theorem w_X2_undo_0 {Γ : GG} (hΓ : GF Γ) {m0 mF m : MM} {x : Nat} (hT : (m.K x).1 = 3) {r : Int32} (h : b_X2_undo_0 x m = some (r, mF)) : G Γ kX2_undo cX2_undo m0 mF (.inl (some (.int r))) m 0 [some (.ref x)] [] := by
  unfold b_X2_undo_0 at h
  refine g_this dX2_undo_0 rfl ?_
  refine g_getI hΓ.k fl_X2_339_X2 rfl hT dX2_undo_1 ?_
  replace h := ite_of h; rcases h with ⟨hc, h⟩ | ⟨hc, h⟩
  · refine g_ifneF dX2_undo_4 rfl hc ?_
    refine g_ic 0 dX2_undo_7 rfl ?_
    cases h
    exact g_zret rfl (by decide) dX2_undo_8
  · refine g_ifneT dX2_undo_4 rfl hc ?_
    refine g_this dX2_undo_9 rfl ?_
    refine g_dup dX2_undo_10 rfl ?_
    refine g_getI hΓ.k fl_X2_339_X2 rfl hT dX2_undo_11 ?_
    refine g_ic 1 dX2_undo_14 rfl ?_
    refine g_isub dX2_undo_15 ?_
    replace h := bd_of h; obtain ⟨m1, em1, h⟩ := h
    refine g_pI hΓ.k fl_X2_339_X2 (fun h9 => by cases h9) rfl (Or.inl ⟨rfl, rfl⟩) em1 dX2_undo_16 ?_
    replace hT := (pI_ext em1).kd hT
    refine g_this dX2_undo_19 rfl ?_
    refine g_dup dX2_undo_20 rfl ?_
    refine g_getI hΓ.k fl_X2_342_X2 rfl hT dX2_undo_21 ?_
    refine g_ic 1 dX2_undo_24 rfl ?_
    refine g_iadd dX2_undo_25 ?_
    replace h := bd_of h; obtain ⟨m2, em2, h⟩ := h
    refine g_pI hΓ.k fl_X2_342_X2 (fun h9 => by cases h9) rfl (Or.inl ⟨rfl, rfl⟩) em2 dX2_undo_26 ?_
    replace hT := (pI_ext em2).kd hT
    refine g_this dX2_undo_29 rfl ?_
    refine g_ic 1 dX2_undo_30 rfl ?_
    replace h := bd2_of h; obtain ⟨_, m3, em3, h⟩ := h
    have C := ct_X2_exchange hΓ hT em3
    refine g_callVv hΓ.k vl_X2_373 hT C rfl rfl (Nat.le_of_ble_eq_true rfl) (Nat.le_of_ble_eq_true rfl) (Nat.le_of_ble_eq_true rfl) dX2_undo_31 ?_
    replace hT := (C.1).kd hT
    refine g_ic 1 dX2_undo_34 rfl ?_
    cases h
    exact g_zret rfl (by decide) dX2_undo_35
theorem ct_X2_undo {Γ : GG} (hΓ : GF Γ) {m mF : MM} {x : Nat} (hT : (m.K x).1 = 3) {r : Int32} (h : f_X2_undo x m = some (r, mF)) : Ct Γ kX2_undo cX2_undo [.ref x] m (.inl (some (.int r))) mF := by
  unfold f_X2_undo at h
  exact Ct.of (κ := kX2_undo) (by decide) rfl (Nat.le_of_ble_eq_true rfl) rfl (w_X2_undo_0 hΓ hT h)
set_option maxHeartbeats 4000000 in
theorem w_X2_redo_0 {Γ : GG} (hΓ : GF Γ) {m0 mF m : MM} {x : Nat} (hT : (m.K x).1 = 3) {r : Int32} (h : b_X2_redo_0 x m = some (r, mF)) : G Γ kX2_redo cX2_redo m0 mF (.inl (some (.int r))) m 0 [some (.ref x)] [] := by
  unfold b_X2_redo_0 at h
  refine g_this dX2_redo_0 rfl ?_
  refine g_getI hΓ.k fl_X2_342_X2 rfl hT dX2_redo_1 ?_
  replace h := ite_of h; rcases h with ⟨hc, h⟩ | ⟨hc, h⟩
  · refine g_ifneF dX2_redo_4 rfl hc ?_
    refine g_ic 0 dX2_redo_7 rfl ?_
    cases h
    exact g_zret rfl (by decide) dX2_redo_8
  · refine g_ifneT dX2_redo_4 rfl hc ?_
    refine g_this dX2_redo_9 rfl ?_
    refine g_ic 0 dX2_redo_10 rfl ?_
    replace h := bd2_of h; obtain ⟨_, m1, em1, h⟩ := h
    have C := ct_X2_exchange hΓ hT em1
    refine g_callVv hΓ.k vl_X2_373 hT C rfl rfl (Nat.le_of_ble_eq_true rfl) (Nat.le_of_ble_eq_true rfl) (Nat.le_of_ble_eq_true rfl) dX2_redo_11 ?_
    replace hT := (C.1).kd hT
    refine g_this dX2_redo_14 rfl ?_
    refine g_dup dX2_redo_15 rfl ?_
    refine g_getI hΓ.k fl_X2_339_X2 rfl hT dX2_redo_16 ?_
    refine g_ic 1 dX2_redo_19 rfl ?_
    refine g_iadd dX2_redo_20 ?_
    replace h := bd_of h; obtain ⟨m2, em2, h⟩ := h
    refine g_pI hΓ.k fl_X2_339_X2 (fun h9 => by cases h9) rfl (Or.inl ⟨rfl, rfl⟩) em2 dX2_redo_21 ?_
    replace hT := (pI_ext em2).kd hT
    refine g_this dX2_redo_24 rfl ?_
    refine g_dup dX2_redo_25 rfl ?_
    refine g_getI hΓ.k fl_X2_342_X2 rfl hT dX2_redo_26 ?_
    refine g_ic 1 dX2_redo_29 rfl ?_
    refine g_isub dX2_redo_30 ?_
    replace h := bd_of h; obtain ⟨m3, em3, h⟩ := h
    refine g_pI hΓ.k fl_X2_342_X2 (fun h9 => by cases h9) rfl (Or.inl ⟨rfl, rfl⟩) em3 dX2_redo_31 ?_
    replace hT := (pI_ext em3).kd hT
    refine g_ic 1 dX2_redo_34 rfl ?_
    cases h
    exact g_zret rfl (by decide) dX2_redo_35
theorem ct_X2_redo {Γ : GG} (hΓ : GF Γ) {m mF : MM} {x : Nat} (hT : (m.K x).1 = 3) {r : Int32} (h : f_X2_redo x m = some (r, mF)) : Ct Γ kX2_redo cX2_redo [.ref x] m (.inl (some (.int r))) mF := by
  unfold f_X2_redo at h
  exact Ct.of (κ := kX2_redo) (by decide) rfl (Nat.le_of_ble_eq_true rfl) rfl (w_X2_redo_0 hΓ hT h)
set_option maxHeartbeats 4000000 in
theorem w_X2_wipe_0 {Γ : GG} (hΓ : GF Γ) {m0 mF m : MM} {x : Nat} (hT : (m.K x).1 = 3) {r : Int32} (h : b_X2_wipe_0 x m = some (r, mF)) : G Γ kX2_wipe cX2_wipe m0 mF (.inl (some (.int r))) m 0 [some (.ref x), none] [] := by
  unfold b_X2_wipe_0 at h
  refine g_this dX2_wipe_0 rfl ?_
  refine g_getI hΓ.k fl_X2_336_X2 rfl hT dX2_wipe_1 ?_
  refine g_istore_n 1 dX2_wipe_4 rfl (Nat.le_of_ble_eq_true rfl) rfl ?_
  dsimp only [List.set]
  refine g_this dX2_wipe_5 rfl ?_
  replace h := bd2_of h; obtain ⟨_, m1, em1, h⟩ := h
  have C := ct_X2_begin hΓ hT em1
  refine g_callVv hΓ.k vl_X2_161 hT C rfl rfl (Nat.le_of_ble_eq_true rfl) (Nat.le_of_ble_eq_true rfl) (Nat.le_of_ble_eq_true rfl) dX2_wipe_6 ?_
  replace hT := (C.1).kd hT
  refine g_iload_n 1 dX2_wipe_9 rfl rfl ?_
  cases h
  exact g_iret rfl dX2_wipe_10
theorem ct_X2_wipe {Γ : GG} (hΓ : GF Γ) {m mF : MM} {x : Nat} (hT : (m.K x).1 = 3) {r : Int32} (h : f_X2_wipe x m = some (r, mF)) : Ct Γ kX2_wipe cX2_wipe [.ref x] m (.inl (some (.int r))) mF := by
  unfold f_X2_wipe at h
  exact Ct.of (κ := kX2_wipe) (by decide) rfl (Nat.le_of_ble_eq_true rfl) rfl (w_X2_wipe_0 hΓ hT h)
set_option maxHeartbeats 4000000 in
theorem w_X2_lies_0 {Γ : GG} (hΓ : GF Γ) {m0 mF m : MM} {x : Nat} {l1 : Int32} (hT : (m.K x).1 = 3) {r : Int32} (h : b_X2_lies_0 x l1 m = some (r, mF)) : G Γ kX2_lies cX2_lies m0 mF (.inl (some (.int r))) m 0 [some (.ref x), some (.int l1)] [] := by
  unfold b_X2_lies_0 at h
  refine g_iload_n 1 dX2_lies_0 rfl rfl ?_
  refine g_ic 0 dX2_lies_1 rfl ?_
  refine g_this dX2_lies_2 rfl ?_
  refine g_getI hΓ.k fl_X2_248_X2 rfl hT dX2_lies_3 ?_
  refine g_ic 1 dX2_lies_6 rfl ?_
  refine g_isub dX2_lies_7 ?_
  replace h := bd2_of h; obtain ⟨v1, m2, em2, h⟩ := h
  have C := ct_X2_isIn hΓ em2
  refine g_callSi sl_X2_298 C rfl rfl (Nat.le_of_ble_eq_true rfl) (Nat.le_of_ble_eq_true rfl) (Nat.le_of_ble_eq_true rfl) dX2_lies_8 ?_
  replace hT := (C.1).kd hT
  replace h := ite_of h; rcases h with ⟨hc, h⟩ | ⟨hc, h⟩
  · refine g_ifeqT dX2_lies_11 rfl hc ?_
    refine g_ic (-1) dX2_lies_23 rfl ?_
    cases h
    exact g_iret rfl dX2_lies_24
  · refine g_ifeqF dX2_lies_11 rfl hc ?_
    refine g_this dX2_lies_14 rfl ?_
    refine g_getR hΓ.k fl_X2_128_X2 rfl hT dX2_lies_15 ?_
    refine g_iload_n 1 dX2_lies_18 rfl rfl ?_
    replace h := bd_of h; obtain ⟨v3, ev3, h⟩ := h
    refine g_iald ev3 dX2_lies_19 ?_
    refine g_goto dX2_lies_20 rfl ?_
    cases h
    exact g_iret rfl dX2_lies_24
theorem ct_X2_lies {Γ : GG} (hΓ : GF Γ) {m mF : MM} {x : Nat} {l1 : Int32} (hT : (m.K x).1 = 3) {r : Int32} (h : f_X2_lies x l1 m = some (r, mF)) : Ct Γ kX2_lies cX2_lies [.ref x, .int l1] m (.inl (some (.int r))) mF := by
  unfold f_X2_lies at h
  exact Ct.of (κ := kX2_lies) (by decide) rfl (Nat.le_of_ble_eq_true rfl) rfl (w_X2_lies_0 hΓ hT h)
set_option maxHeartbeats 4000000 in
theorem w_X2_wordIn_0 {Γ : GG} (hΓ : GF Γ) {m0 mF m : MM} {x : Nat} {l1 : Int32} {l2 : Int32} (hT : (m.K x).1 = 3) {r : Int32} (h : b_X2_wordIn_0 x l1 l2 m = some (r, mF)) : G Γ kX2_wordIn cX2_wordIn m0 mF (.inl (some (.int r))) m 0 [some (.ref x), some (.int l1), some (.int l2)] [] := by
  unfold b_X2_wordIn_0 at h
  refine g_iload_n 1 dX2_wordIn_0 rfl rfl ?_
  refine g_ic 3 dX2_wordIn_1 rfl ?_
  refine g_this dX2_wordIn_2 rfl ?_
  replace h := bd2_of h; obtain ⟨v1, m2, em2, h⟩ := h
  have C := ct_X2_longOf hΓ hT em2
  refine g_callVi hΓ.k vl_X2_302 hT C rfl rfl (Nat.le_of_ble_eq_true rfl) (Nat.le_of_ble_eq_true rfl) (Nat.le_of_ble_eq_true rfl) dX2_wordIn_3 ?_
  replace hT := (C.1).kd hT
  refine g_ic 1 dX2_wordIn_6 rfl ?_
  refine g_isub dX2_wordIn_7 ?_
  refine g_iload_n 2 dX2_wordIn_8 rfl rfl ?_
  refine g_isub dX2_wordIn_9 ?_
  refine g_imul dX2_wordIn_10 ?_
  refine g_ishr dX2_wordIn_11 ?_
  refine g_bi (7) dX2_wordIn_12 rfl ?_
  refine g_iand dX2_wordIn_14 ?_
  cases h
  exact g_iret rfl dX2_wordIn_15
theorem ct_X2_wordIn {Γ : GG} (hΓ : GF Γ) {m mF : MM} {x : Nat} {l1 : Int32} {l2 : Int32} (hT : (m.K x).1 = 3) {r : Int32} (h : f_X2_wordIn x l1 l2 m = some (r, mF)) : Ct Γ kX2_wordIn cX2_wordIn [.ref x, .int l1, .int l2] m (.inl (some (.int r))) mF := by
  unfold f_X2_wordIn at h
  exact Ct.of (κ := kX2_wordIn) (by decide) rfl (Nat.le_of_ble_eq_true rfl) rfl (w_X2_wordIn_0 hΓ hT h)
def p_X2_lay (Γ : GG) (m0 mF : MM) (x : Nat) (l1 : Int32) (r : Unit) : ((Int32 × MM)) → Prop := fun z => match z with
  | (l2, m) => (m.K x).1 = 3 → G Γ kX2_lay cX2_lay m0 mF (.inl none) m 2 [some (.ref x), some (.int l1), some (.int l2)] []
set_option maxHeartbeats 4000000 in
theorem w_X2_lay_2 {Γ : GG} (hΓ : GF Γ) {m0 mF m : MM} {x : Nat} {l1 : Int32} {l2 : Int32} (hT : (m.K x).1 = 3) {r : Unit} {q : ((Int32 × MM)) ⊕ (Unit × MM)} (h : b_X2_lay_2 x l1 l2 m = some q) (Hl : ∀ z, q = .inl z → p_X2_lay Γ m0 mF x l1 r z) (Hr : ∀ z, q = .inr z → z = (r, mF)) : G Γ kX2_lay cX2_lay m0 mF (.inl none) m 2 [some (.ref x), some (.int l1), some (.int l2)] [] := by
  unfold b_X2_lay_2 at h
  refine g_iload_n 2 dX2_lay_2 rfl rfl ?_
  refine g_this dX2_lay_3 rfl ?_
  replace h := bd2_of h; obtain ⟨v1, m2, em2, h⟩ := h
  have C := ct_X2_longOf hΓ hT em2
  refine g_callVi hΓ.k vl_X2_302 hT C rfl rfl (Nat.le_of_ble_eq_true rfl) (Nat.le_of_ble_eq_true rfl) (Nat.le_of_ble_eq_true rfl) dX2_lay_4 ?_
  replace hT := (C.1).kd hT
  replace h := ite_of h; rcases h with ⟨hc, h⟩ | ⟨hc, h⟩
  · refine g_icgeT dX2_lay_7 rfl hc ?_
    refine g_this dX2_lay_33 rfl ?_
    refine g_this dX2_lay_34 rfl ?_
    replace h := bd2_of h; obtain ⟨v3, m4, em4, h⟩ := h
    have C := ct_X2_longOf hΓ hT em4
    refine g_callVi hΓ.k vl_X2_302 hT C rfl rfl (Nat.le_of_ble_eq_true rfl) (Nat.le_of_ble_eq_true rfl) (Nat.le_of_ble_eq_true rfl) dX2_lay_35 ?_
    replace hT := (C.1).kd hT
    replace h := bd_of h; obtain ⟨m5, em5, h⟩ := h
    refine g_pI hΓ.k fl_X2_248_X2 (fun h9 => by cases h9) rfl (Or.inl ⟨rfl, rfl⟩) em5 dX2_lay_38 ?_
    replace hT := (pI_ext em5).kd hT
    cases h
    cases Hr _ rfl
    exact g_vret rfl dX2_lay_41
  · refine g_icgeF dX2_lay_7 rfl hc ?_
    refine g_this dX2_lay_10 rfl ?_
    refine g_getR hΓ.k fl_X2_128_X2 rfl hT dX2_lay_11 ?_
    refine g_iload_n 2 dX2_lay_14 rfl rfl ?_
    refine g_this dX2_lay_15 rfl ?_
    refine g_this dX2_lay_16 rfl ?_
    refine g_getR hΓ.k fl_X2_107_X2 rfl hT dX2_lay_17 ?_
    refine g_iload_n 1 dX2_lay_20 rfl rfl ?_
    replace h := bd_of h; obtain ⟨v6, ev6, h⟩ := h
    refine g_iald ev6 dX2_lay_21 ?_
    refine g_iload_n 2 dX2_lay_22 rfl rfl ?_
    replace h := bd2_of h; obtain ⟨v7, m8, em8, h⟩ := h
    have C := ct_X2_wordIn hΓ hT em8
    refine g_callVi hΓ.k vl_X2_380 hT C rfl rfl (Nat.le_of_ble_eq_true rfl) (Nat.le_of_ble_eq_true rfl) (Nat.le_of_ble_eq_true rfl) dX2_lay_23 ?_
    replace hT := (C.1).kd hT
    replace h := bd_of h; obtain ⟨m9, em9, h⟩ := h
    refine g_iast em9 dX2_lay_26 ?_
    replace hT := (sI_ext em9).kd hT
    refine g_iinc (l2 + (1 : Int32)) dX2_lay_27 rfl rfl (Nat.le_of_ble_eq_true rfl) rfl ?_
    dsimp only [List.set]
    refine g_goto dX2_lay_30 rfl ?_
    cases h
    refine G.weak [true, true, true] rfl ?_
    exact Hl _ rfl hT
set_option maxHeartbeats 4000000 in
theorem w_X2_lay_0 {Γ : GG} (hΓ : GF Γ) {m0 mF m : MM} {x : Nat} {l1 : Int32} (hT : (m.K x).1 = 3) {r : Unit} {q : ((Int32 × MM)) ⊕ (Unit × MM)} (h : b_X2_lay_0 x l1 m = some q) (Hl : ∀ z, q = .inl z → p_X2_lay Γ m0 mF x l1 r z) (Hr : ∀ z, q = .inr z → z = (r, mF)) : G Γ kX2_lay cX2_lay m0 mF (.inl none) m 0 [some (.ref x), some (.int l1), none] [] := by
  unfold b_X2_lay_0 at h
  refine g_ic 0 dX2_lay_0 rfl ?_
  refine g_istore_n 2 dX2_lay_1 rfl (Nat.le_of_ble_eq_true rfl) rfl ?_
  dsimp only [List.set]
  cases h
  refine G.weak [true, true, true] rfl ?_
  exact Hl _ rfl hT
theorem ct_X2_lay {Γ : GG} (hΓ : GF Γ) {m mF : MM} {x : Nat} {l1 : Int32} (hT : (m.K x).1 = 3) {r : Unit} (h : f_X2_lay x l1 m = some (r, mF)) : Ct Γ kX2_lay cX2_lay [.ref x, .int l1] m (.inl none) mF := by
  unfold f_X2_lay at h
  replace h := bd_of h; obtain ⟨q, e, h⟩ := h
  have H := rx_go_ind (P := p_X2_lay Γ m mF x l1 r) (fun z o hs Hl Hr => by
    match z with
    | (l2, m) => exact fun hT => w_X2_lay_2 hΓ hT hs Hl Hr) h
  exact Ct.of (κ := kX2_lay) (by decide) rfl (Nat.le_of_ble_eq_true rfl) rfl (w_X2_lay_0 hΓ hT e H.1 H.2)
def p_X2_isOnPath (Γ : GG) (m0 mF : MM) (x : Nat) (l1 : Int32) (r : Int32) : ((Int32 × MM)) → Prop := fun z => match z with
  | (l2, m) => (m.K x).1 = 3 → G Γ kX2_isOnPath cX2_isOnPath m0 mF (.inl (some (.int r))) m 2 [some (.ref x), some (.int l1), some (.int l2)] []
set_option maxHeartbeats 4000000 in
theorem w_X2_isOnPath_2 {Γ : GG} (hΓ : GF Γ) {m0 mF m : MM} {x : Nat} {l1 : Int32} {l2 : Int32} (hT : (m.K x).1 = 3) {r : Int32} {q : ((Int32 × MM)) ⊕ (Int32 × MM)} (h : b_X2_isOnPath_2 x l1 l2 m = some q) (Hl : ∀ z, q = .inl z → p_X2_isOnPath Γ m0 mF x l1 r z) (Hr : ∀ z, q = .inr z → z = (r, mF)) : G Γ kX2_isOnPath cX2_isOnPath m0 mF (.inl (some (.int r))) m 2 [some (.ref x), some (.int l1), some (.int l2)] [] := by
  unfold b_X2_isOnPath_2 at h
  refine g_iload_n 2 dX2_isOnPath_2 rfl rfl ?_
  refine g_iload_n 1 dX2_isOnPath_3 rfl rfl ?_
  replace h := ite_of h; rcases h with ⟨hc, h⟩ | ⟨hc, h⟩
  · refine g_icgeT dX2_isOnPath_4 rfl hc ?_
    refine g_this dX2_isOnPath_25 rfl ?_
    refine g_iload_n 1 dX2_isOnPath_26 rfl rfl ?_
    replace h := bd2_of h; obtain ⟨v1, m2, em2, h⟩ := h
    have C := ct_X2_canGoOn hΓ hT em2
    refine g_callVi hΓ.k vl_X2_354 hT C rfl rfl (Nat.le_of_ble_eq_true rfl) (Nat.le_of_ble_eq_true rfl) (Nat.le_of_ble_eq_true rfl) dX2_isOnPath_27 ?_
    replace hT := (C.1).kd hT
    replace h := ite_of h; rcases h with ⟨hc, h⟩ | ⟨hc, h⟩
    · cases h
      cases Hr _ rfl
      exact g_zret rfl hc dX2_isOnPath_30
    · cases h
  · refine g_icgeF dX2_isOnPath_4 rfl hc ?_
    refine g_this dX2_isOnPath_7 rfl ?_
    refine g_getR hΓ.k fl_X2_77_X2 rfl hT dX2_isOnPath_8 ?_
    refine g_iload_n 2 dX2_isOnPath_11 rfl rfl ?_
    refine g_this dX2_isOnPath_12 rfl ?_
    refine g_getR hΓ.k fl_X2_119_X2 rfl hT dX2_isOnPath_13 ?_
    refine g_iload_n 2 dX2_isOnPath_16 rfl rfl ?_
    replace h := bd_of h; obtain ⟨v3, ev3, h⟩ := h
    refine g_iald ev3 dX2_isOnPath_17 ?_
    replace h := bd_of h; obtain ⟨m4, em4, h⟩ := h
    refine g_iast em4 dX2_isOnPath_18 ?_
    replace hT := (sI_ext em4).kd hT
    refine g_iinc (l2 + (1 : Int32)) dX2_isOnPath_19 rfl rfl (Nat.le_of_ble_eq_true rfl) rfl ?_
    dsimp only [List.set]
    refine g_goto dX2_isOnPath_22 rfl ?_
    cases h
    refine G.weak [true, true, true] rfl ?_
    exact Hl _ rfl hT
set_option maxHeartbeats 4000000 in
theorem w_X2_isOnPath_0 {Γ : GG} (hΓ : GF Γ) {m0 mF m : MM} {x : Nat} {l1 : Int32} (hT : (m.K x).1 = 3) {r : Int32} {q : ((Int32 × MM)) ⊕ (Int32 × MM)} (h : b_X2_isOnPath_0 x l1 m = some q) (Hl : ∀ z, q = .inl z → p_X2_isOnPath Γ m0 mF x l1 r z) (Hr : ∀ z, q = .inr z → z = (r, mF)) : G Γ kX2_isOnPath cX2_isOnPath m0 mF (.inl (some (.int r))) m 0 [some (.ref x), some (.int l1), none] [] := by
  unfold b_X2_isOnPath_0 at h
  refine g_ic 0 dX2_isOnPath_0 rfl ?_
  refine g_istore_n 2 dX2_isOnPath_1 rfl (Nat.le_of_ble_eq_true rfl) rfl ?_
  dsimp only [List.set]
  cases h
  refine G.weak [true, true, true] rfl ?_
  exact Hl _ rfl hT
theorem ct_X2_isOnPath {Γ : GG} (hΓ : GF Γ) {m mF : MM} {x : Nat} {l1 : Int32} (hT : (m.K x).1 = 3) {r : Int32} (h : f_X2_isOnPath x l1 m = some (r, mF)) : Ct Γ kX2_isOnPath cX2_isOnPath [.ref x, .int l1] m (.inl (some (.int r))) mF := by
  unfold f_X2_isOnPath at h
  replace h := bd_of h; obtain ⟨q, e, h⟩ := h
  have H := rx_go_ind (P := p_X2_isOnPath Γ m mF x l1 r) (fun z o hs Hl Hr => by
    match z with
    | (l2, m) => exact fun hT => w_X2_isOnPath_2 hΓ hT hs Hl Hr) h
  exact Ct.of (κ := kX2_isOnPath) (by decide) rfl (Nat.le_of_ble_eq_true rfl) rfl (w_X2_isOnPath_0 hΓ hT e H.1 H.2)
def p_X2_keyOf (Γ : GG) (m0 mF : MM) (x : Nat) (l1 : Int32) (l2 : Int32) (r : Int64) : ((Int64 × Int32 × MM)) → Prop := fun z => match z with
  | (l3, l5, m) => (m.K x).1 = 3 → G Γ kX2_keyOf cX2_keyOf m0 mF (.inl (some (.long r))) m 18 [some (.ref x), some (.int l1), some (.int l2), some (.long l3), none, some (.int l5)] []
set_option maxHeartbeats 4000000 in
theorem w_X2_keyOf_18 {Γ : GG} (hΓ : GF Γ) {m0 mF m : MM} {x : Nat} {l1 : Int32} {l2 : Int32} {l3 : Int64} {l5 : Int32} (hT : (m.K x).1 = 3) {r : Int64} {q : ((Int64 × Int32 × MM)) ⊕ (Int64 × MM)} (h : b_X2_keyOf_18 x l1 l2 l3 l5 m = some q) (Hl : ∀ z, q = .inl z → p_X2_keyOf Γ m0 mF x l1 l2 r z) (Hr : ∀ z, q = .inr z → z = (r, mF)) : G Γ kX2_keyOf cX2_keyOf m0 mF (.inl (some (.long r))) m 18 [some (.ref x), some (.int l1), some (.int l2), some (.long l3), none, some (.int l5)] [] := by
  unfold b_X2_keyOf_18 at h
  refine g_iload dX2_keyOf_18 rfl ?_
  refine g_bi (6) dX2_keyOf_20 rfl ?_
  replace h := ite_of h; rcases h with ⟨hc, h⟩ | ⟨hc, h⟩
  · refine g_icgeT dX2_keyOf_22 rfl hc ?_
    refine g_lload_n 3 dX2_keyOf_74 rfl rfl ?_
    cases h
    cases Hr _ rfl
    exact g_lret rfl dX2_keyOf_75
  · refine g_icgeF dX2_keyOf_22 rfl hc ?_
    refine g_lload_n 3 dX2_keyOf_25 rfl rfl ?_
    refine g_ldc2 (v := 10) q1725 dX2_keyOf_26 ?_
    refine g_lmul dX2_keyOf_29 ?_
    refine g_iload_n 2 dX2_keyOf_30 rfl rfl ?_
    replace h := ite_of h; rcases h with ⟨hc, h⟩ | ⟨hc, h⟩
    · refine g_ifeqT dX2_keyOf_31 rfl hc ?_
      refine g_iload dX2_keyOf_46 rfl ?_
      refine g_iload_n 1 dX2_keyOf_48 rfl rfl ?_
      replace h := ite_of h; rcases h with ⟨hc, h⟩ | ⟨hc, h⟩
      · refine g_icgeT dX2_keyOf_49 rfl hc ?_
        refine g_ic 0 dX2_keyOf_64 rfl ?_
        refine g_i2l dX2_keyOf_65 ?_
        refine g_ladd dX2_keyOf_66 ?_
        refine g_lstore_n 3 dX2_keyOf_67 rfl (Nat.le_of_ble_eq_true rfl) rfl ?_
        dsimp only [List.set]
        refine g_iinc (l5 + (1 : Int32)) dX2_keyOf_68 rfl rfl (Nat.le_of_ble_eq_true rfl) rfl ?_
        dsimp only [List.set]
        refine g_goto dX2_keyOf_71 rfl ?_
        cases h
        refine G.weak [true, true, true, true, false, true] rfl ?_
        exact Hl _ rfl hT
      · refine g_icgeF dX2_keyOf_49 rfl hc ?_
        refine g_ic 1 dX2_keyOf_52 rfl ?_
        refine g_this dX2_keyOf_53 rfl ?_
        refine g_getR hΓ.k fl_X2_119_X2 rfl hT dX2_keyOf_54 ?_
        refine g_iload dX2_keyOf_57 rfl ?_
        replace h := bd_of h; obtain ⟨v1, ev1, h⟩ := h
        refine g_iald ev1 dX2_keyOf_59 ?_
        refine g_iadd dX2_keyOf_60 ?_
        refine g_goto dX2_keyOf_61 rfl ?_
        refine g_i2l dX2_keyOf_65 ?_
        refine g_ladd dX2_keyOf_66 ?_
        refine g_lstore_n 3 dX2_keyOf_67 rfl (Nat.le_of_ble_eq_true rfl) rfl ?_
        dsimp only [List.set]
        refine g_iinc (l5 + (1 : Int32)) dX2_keyOf_68 rfl rfl (Nat.le_of_ble_eq_true rfl) rfl ?_
        dsimp only [List.set]
        refine g_goto dX2_keyOf_71 rfl ?_
        cases h
        refine G.weak [true, true, true, true, false, true] rfl ?_
        exact Hl _ rfl hT
    · refine g_ifeqF dX2_keyOf_31 rfl hc ?_
      refine g_ic 1 dX2_keyOf_34 rfl ?_
      refine g_this dX2_keyOf_35 rfl ?_
      refine g_getR hΓ.k fl_X2_98_X2 rfl hT dX2_keyOf_36 ?_
      refine g_iload dX2_keyOf_39 rfl ?_
      replace h := bd_of h; obtain ⟨v2, ev2, h⟩ := h
      refine g_iald ev2 dX2_keyOf_41 ?_
      refine g_iadd dX2_keyOf_42 ?_
      refine g_goto dX2_keyOf_43 rfl ?_
      refine g_i2l dX2_keyOf_65 ?_
      refine g_ladd dX2_keyOf_66 ?_
      refine g_lstore_n 3 dX2_keyOf_67 rfl (Nat.le_of_ble_eq_true rfl) rfl ?_
      dsimp only [List.set]
      refine g_iinc (l5 + (1 : Int32)) dX2_keyOf_68 rfl rfl (Nat.le_of_ble_eq_true rfl) rfl ?_
      dsimp only [List.set]
      refine g_goto dX2_keyOf_71 rfl ?_
      cases h
      refine G.weak [true, true, true, true, false, true] rfl ?_
      exact Hl _ rfl hT
set_option maxHeartbeats 4000000 in
theorem w_X2_keyOf_0 {Γ : GG} (hΓ : GF Γ) {m0 mF m : MM} {x : Nat} {l1 : Int32} {l2 : Int32} (hT : (m.K x).1 = 3) {r : Int64} {q : ((Int64 × Int32 × MM)) ⊕ (Int64 × MM)} (h : b_X2_keyOf_0 x l1 l2 m = some q) (Hl : ∀ z, q = .inl z → p_X2_keyOf Γ m0 mF x l1 l2 r z) (Hr : ∀ z, q = .inr z → z = (r, mF)) : G Γ kX2_keyOf cX2_keyOf m0 mF (.inl (some (.long r))) m 0 [some (.ref x), some (.int l1), some (.int l2), none, none, none] [] := by
  unfold b_X2_keyOf_0 at h
  refine g_iload_n 2 dX2_keyOf_0 rfl rfl ?_
  replace h := ite_of h; rcases h with ⟨hc, h⟩ | ⟨hc, h⟩
  · refine g_ifeqT dX2_keyOf_1 rfl hc ?_
    refine g_lc 1 dX2_keyOf_10 rfl ?_
    refine g_iload_n 1 dX2_keyOf_11 rfl rfl ?_
    refine g_i2l dX2_keyOf_12 ?_
    refine g_ladd dX2_keyOf_13 ?_
    refine g_lstore_n 3 dX2_keyOf_14 rfl (Nat.le_of_ble_eq_true rfl) rfl ?_
    dsimp only [List.set]
    refine g_ic 0 dX2_keyOf_15 rfl ?_
    refine g_istore dX2_keyOf_16 (Nat.le_of_ble_eq_true rfl) rfl ?_
    dsimp only [List.set]
    cases h
    refine G.weak [true, true, true, true, false, true] rfl ?_
    exact Hl _ rfl hT
  · refine g_ifeqF dX2_keyOf_1 rfl hc ?_
    refine g_ldc2 (v := 8) q1724 dX2_keyOf_4 ?_
    refine g_goto dX2_keyOf_7 rfl ?_
    refine g_lstore_n 3 dX2_keyOf_14 rfl (Nat.le_of_ble_eq_true rfl) rfl ?_
    dsimp only [List.set]
    refine g_ic 0 dX2_keyOf_15 rfl ?_
    refine g_istore dX2_keyOf_16 (Nat.le_of_ble_eq_true rfl) rfl ?_
    dsimp only [List.set]
    cases h
    refine G.weak [true, true, true, true, false, true] rfl ?_
    exact Hl _ rfl hT
theorem ct_X2_keyOf {Γ : GG} (hΓ : GF Γ) {m mF : MM} {x : Nat} {l1 : Int32} {l2 : Int32} (hT : (m.K x).1 = 3) {r : Int64} (h : f_X2_keyOf x l1 l2 m = some (r, mF)) : Ct Γ kX2_keyOf cX2_keyOf [.ref x, .int l1, .int l2] m (.inl (some (.long r))) mF := by
  unfold f_X2_keyOf at h
  replace h := bd_of h; obtain ⟨q, e, h⟩ := h
  have H := rx_go_ind (P := p_X2_keyOf Γ m mF x l1 l2 r) (fun z o hs Hl Hr => by
    match z with
    | (l3, l5, m) => exact fun hT => w_X2_keyOf_18 hΓ hT hs Hl Hr) h
  exact Ct.of (κ := kX2_keyOf) (by decide) rfl (Nat.le_of_ble_eq_true rfl) rfl (w_X2_keyOf_0 hΓ hT e H.1 H.2)
def p_X2_packed (Γ : GG) (m0 mF : MM) (x : Nat) (r : Int32) : ((Int32 × Int32 × MM)) → Prop := fun z => match z with
  | (l1, l2, m) => (m.K x).1 = 3 → G Γ kX2_packed cX2_packed m0 mF (.inl (some (.int r))) m 4 [some (.ref x), some (.int l1), some (.int l2)] []
set_option maxHeartbeats 4000000 in
theorem w_X2_packed_4 {Γ : GG} (hΓ : GF Γ) {m0 mF m : MM} {x : Nat} {l1 : Int32} {l2 : Int32} (hT : (m.K x).1 = 3) {r : Int32} {q : ((Int32 × Int32 × MM)) ⊕ (Int32 × MM)} (h : b_X2_packed_4 x l1 l2 m = some q) (Hl : ∀ z, q = .inl z → p_X2_packed Γ m0 mF x r z) (Hr : ∀ z, q = .inr z → z = (r, mF)) : G Γ kX2_packed cX2_packed m0 mF (.inl (some (.int r))) m 4 [some (.ref x), some (.int l1), some (.int l2)] [] := by
  unfold b_X2_packed_4 at h
  refine g_iload_n 2 dX2_packed_4 rfl rfl ?_
  refine g_this dX2_packed_5 rfl ?_
  replace h := bd2_of h; obtain ⟨v1, m2, em2, h⟩ := h
  have C := ct_X2_longOf hΓ hT em2
  refine g_callVi hΓ.k vl_X2_302 hT C rfl rfl (Nat.le_of_ble_eq_true rfl) (Nat.le_of_ble_eq_true rfl) (Nat.le_of_ble_eq_true rfl) dX2_packed_6 ?_
  replace hT := (C.1).kd hT
  replace h := ite_of h; rcases h with ⟨hc, h⟩ | ⟨hc, h⟩
  · refine g_icgeT dX2_packed_9 rfl hc ?_
    refine g_iload_n 1 dX2_packed_29 rfl rfl ?_
    cases h
    cases Hr _ rfl
    exact g_iret rfl dX2_packed_30
  · refine g_icgeF dX2_packed_9 rfl hc ?_
    refine g_iload_n 1 dX2_packed_12 rfl rfl ?_
    refine g_ic 3 dX2_packed_13 rfl ?_
    refine g_ishl dX2_packed_14 ?_
    refine g_this dX2_packed_15 rfl ?_
    refine g_getR hΓ.k fl_X2_77_X2 rfl hT dX2_packed_16 ?_
    refine g_iload_n 2 dX2_packed_19 rfl rfl ?_
    replace h := bd_of h; obtain ⟨v3, ev3, h⟩ := h
    refine g_iald ev3 dX2_packed_20 ?_
    refine g_ior dX2_packed_21 ?_
    refine g_istore_n 1 dX2_packed_22 rfl (Nat.le_of_ble_eq_true rfl) rfl ?_
    dsimp only [List.set]
    refine g_iinc (l2 + (1 : Int32)) dX2_packed_23 rfl rfl (Nat.le_of_ble_eq_true rfl) rfl ?_
    dsimp only [List.set]
    refine g_goto dX2_packed_26 rfl ?_
    cases h
    refine G.weak [true, true, true] rfl ?_
    exact Hl _ rfl hT
set_option maxHeartbeats 4000000 in
theorem w_X2_packed_0 {Γ : GG} (hΓ : GF Γ) {m0 mF m : MM} {x : Nat} (hT : (m.K x).1 = 3) {r : Int32} {q : ((Int32 × Int32 × MM)) ⊕ (Int32 × MM)} (h : b_X2_packed_0 x m = some q) (Hl : ∀ z, q = .inl z → p_X2_packed Γ m0 mF x r z) (Hr : ∀ z, q = .inr z → z = (r, mF)) : G Γ kX2_packed cX2_packed m0 mF (.inl (some (.int r))) m 0 [some (.ref x), none, none] [] := by
  unfold b_X2_packed_0 at h
  refine g_ic 0 dX2_packed_0 rfl ?_
  refine g_istore_n 1 dX2_packed_1 rfl (Nat.le_of_ble_eq_true rfl) rfl ?_
  dsimp only [List.set]
  refine g_ic 0 dX2_packed_2 rfl ?_
  refine g_istore_n 2 dX2_packed_3 rfl (Nat.le_of_ble_eq_true rfl) rfl ?_
  dsimp only [List.set]
  cases h
  refine G.weak [true, true, true] rfl ?_
  exact Hl _ rfl hT
theorem ct_X2_packed {Γ : GG} (hΓ : GF Γ) {m mF : MM} {x : Nat} (hT : (m.K x).1 = 3) {r : Int32} (h : f_X2_packed x m = some (r, mF)) : Ct Γ kX2_packed cX2_packed [.ref x] m (.inl (some (.int r))) mF := by
  unfold f_X2_packed at h
  replace h := bd_of h; obtain ⟨q, e, h⟩ := h
  have H := rx_go_ind (P := p_X2_packed Γ m mF x r) (fun z o hs Hl Hr => by
    match z with
    | (l1, l2, m) => exact fun hT => w_X2_packed_4 hΓ hT hs Hl Hr) h
  exact Ct.of (κ := kX2_packed) (by decide) rfl (Nat.le_of_ble_eq_true rfl) rfl (w_X2_packed_0 hΓ hT e H.1 H.2)
def p_X2_takeCharter (Γ : GG) (m0 mF : MM) (x : Nat) (r : Unit) : ((Int32 × MM) ⊕ (Int32 × MM)) → Prop := fun z => match z with
  | (.inl (l1, m)) => (m.K x).1 = 3 → G Γ kX2_takeCharter cX2_takeCharter m0 mF (.inl none) m 2 [some (.ref x), some (.int l1)] []
  | (.inr (l1, m)) => (m.K x).1 = 3 → G Γ kX2_takeCharter cX2_takeCharter m0 mF (.inl none) m 43 [some (.ref x), some (.int l1)] []
set_option maxHeartbeats 4000000 in
theorem w_X2_takeCharter_43 {Γ : GG} (hΓ : GF Γ) {m0 mF m : MM} {x : Nat} {l1 : Int32} (hT : (m.K x).1 = 3) {r : Unit} {q : ((Int32 × MM) ⊕ (Int32 × MM)) ⊕ (Unit × MM)} (h : b_X2_takeCharter_43 x l1 m = some q) (Hl : ∀ z, q = .inl z → p_X2_takeCharter Γ m0 mF x r z) (Hr : ∀ z, q = .inr z → z = (r, mF)) : G Γ kX2_takeCharter cX2_takeCharter m0 mF (.inl none) m 43 [some (.ref x), some (.int l1)] [] := by
  unfold b_X2_takeCharter_43 at h
  refine g_iload_n 1 dX2_takeCharter_43 rfl rfl ?_
  refine g_ic 3 dX2_takeCharter_44 rfl ?_
  replace h := ite_of h; rcases h with ⟨hc, h⟩ | ⟨hc, h⟩
  · refine g_icgeT dX2_takeCharter_45 rfl hc ?_
    refine g_this dX2_takeCharter_76 rfl ?_
    refine g_dup dX2_takeCharter_77 rfl ?_
    refine g_getI hΓ.k fl_X2_390_X2 rfl hT dX2_takeCharter_78 ?_
    refine g_ic 1 dX2_takeCharter_81 rfl ?_
    refine g_iadd dX2_takeCharter_82 ?_
    replace h := bd_of h; obtain ⟨m1, em1, h⟩ := h
    refine g_pI hΓ.k fl_X2_390_X2 (fun h9 => by cases h9) rfl (Or.inl ⟨rfl, rfl⟩) em1 dX2_takeCharter_83 ?_
    replace hT := (pI_ext em1).kd hT
    cases h
    cases Hr _ rfl
    exact g_vret rfl dX2_takeCharter_86
  · refine g_icgeF dX2_takeCharter_45 rfl hc ?_
    refine g_this dX2_takeCharter_48 rfl ?_
    refine g_getR hΓ.k fl_X2_110_X2 rfl hT dX2_takeCharter_49 ?_
    refine g_ic 3 dX2_takeCharter_52 rfl ?_
    refine g_this dX2_takeCharter_53 rfl ?_
    refine g_getI hΓ.k fl_X2_390_X2 rfl hT dX2_takeCharter_54 ?_
    refine g_imul dX2_takeCharter_57 ?_
    refine g_iload_n 1 dX2_takeCharter_58 rfl rfl ?_
    refine g_iadd dX2_takeCharter_59 ?_
    refine g_this dX2_takeCharter_60 rfl ?_
    refine g_this dX2_takeCharter_61 rfl ?_
    replace h := bd2_of h; obtain ⟨v2, m3, em3, h⟩ := h
    have C := ct_X2_longOf hΓ hT em3
    refine g_callVi hΓ.k vl_X2_302 hT C rfl rfl (Nat.le_of_ble_eq_true rfl) (Nat.le_of_ble_eq_true rfl) (Nat.le_of_ble_eq_true rfl) dX2_takeCharter_62 ?_
    replace hT := (C.1).kd hT
    refine g_iload_n 1 dX2_takeCharter_65 rfl rfl ?_
    replace h := bd2_of h; obtain ⟨v4, m5, em5, h⟩ := h
    have C := ct_X2_meansOf hΓ hT em5
    refine g_callVi hΓ.k vl_X2_367 hT C rfl rfl (Nat.le_of_ble_eq_true rfl) (Nat.le_of_ble_eq_true rfl) (Nat.le_of_ble_eq_true rfl) dX2_takeCharter_66 ?_
    replace hT := (C.1).kd hT
    replace h := bd_of h; obtain ⟨m6, em6, h⟩ := h
    refine g_iast em6 dX2_takeCharter_69 ?_
    replace hT := (sI_ext em6).kd hT
    refine g_iinc (l1 + (1 : Int32)) dX2_takeCharter_70 rfl rfl (Nat.le_of_ble_eq_true rfl) rfl ?_
    dsimp only [List.set]
    refine g_goto dX2_takeCharter_73 rfl ?_
    cases h
    refine G.weak [true, true] rfl ?_
    exact Hl _ rfl hT
set_option maxHeartbeats 4000000 in
theorem w_X2_takeCharter_2 {Γ : GG} (hΓ : GF Γ) {m0 mF m : MM} {x : Nat} {l1 : Int32} (hT : (m.K x).1 = 3) {r : Unit} {q : ((Int32 × MM) ⊕ (Int32 × MM)) ⊕ (Unit × MM)} (h : b_X2_takeCharter_2 x l1 m = some q) (Hl : ∀ z, q = .inl z → p_X2_takeCharter Γ m0 mF x r z) (Hr : ∀ z, q = .inr z → z = (r, mF)) : G Γ kX2_takeCharter cX2_takeCharter m0 mF (.inl none) m 2 [some (.ref x), some (.int l1)] [] := by
  unfold b_X2_takeCharter_2 at h
  refine g_iload_n 1 dX2_takeCharter_2 rfl rfl ?_
  refine g_this dX2_takeCharter_3 rfl ?_
  replace h := bd2_of h; obtain ⟨v1, m2, em2, h⟩ := h
  have C := ct_X2_longOf hΓ hT em2
  refine g_callVi hΓ.k vl_X2_302 hT C rfl rfl (Nat.le_of_ble_eq_true rfl) (Nat.le_of_ble_eq_true rfl) (Nat.le_of_ble_eq_true rfl) dX2_takeCharter_4 ?_
  replace hT := (C.1).kd hT
  replace h := ite_of h; rcases h with ⟨hc, h⟩ | ⟨hc, h⟩
  · refine g_icgeT dX2_takeCharter_7 rfl hc ?_
    refine g_this dX2_takeCharter_28 rfl ?_
    refine g_getR hΓ.k fl_X2_107_X2 rfl hT dX2_takeCharter_29 ?_
    refine g_this dX2_takeCharter_32 rfl ?_
    refine g_getI hΓ.k fl_X2_390_X2 rfl hT dX2_takeCharter_33 ?_
    refine g_this dX2_takeCharter_36 rfl ?_
    replace h := bd2_of h; obtain ⟨v3, m4, em4, h⟩ := h
    have C := ct_X2_packed hΓ hT em4
    refine g_callVi hΓ.k vl_X2_402 hT C rfl rfl (Nat.le_of_ble_eq_true rfl) (Nat.le_of_ble_eq_true rfl) (Nat.le_of_ble_eq_true rfl) dX2_takeCharter_37 ?_
    replace hT := (C.1).kd hT
    replace h := bd_of h; obtain ⟨m5, em5, h⟩ := h
    refine g_iast em5 dX2_takeCharter_40 ?_
    replace hT := (sI_ext em5).kd hT
    refine g_ic 0 dX2_takeCharter_41 rfl ?_
    refine g_istore_n 1 dX2_takeCharter_42 rfl (Nat.le_of_ble_eq_true rfl) rfl ?_
    dsimp only [List.set]
    cases h
    refine G.weak [true, true] rfl ?_
    exact Hl _ rfl hT
  · refine g_icgeF dX2_takeCharter_7 rfl hc ?_
    refine g_this dX2_takeCharter_10 rfl ?_
    refine g_getR hΓ.k fl_X2_77_X2 rfl hT dX2_takeCharter_11 ?_
    refine g_iload_n 1 dX2_takeCharter_14 rfl rfl ?_
    refine g_this dX2_takeCharter_15 rfl ?_
    refine g_getR hΓ.k fl_X2_119_X2 rfl hT dX2_takeCharter_16 ?_
    refine g_iload_n 1 dX2_takeCharter_19 rfl rfl ?_
    replace h := bd_of h; obtain ⟨v6, ev6, h⟩ := h
    refine g_iald ev6 dX2_takeCharter_20 ?_
    replace h := bd_of h; obtain ⟨m7, em7, h⟩ := h
    refine g_iast em7 dX2_takeCharter_21 ?_
    replace hT := (sI_ext em7).kd hT
    refine g_iinc (l1 + (1 : Int32)) dX2_takeCharter_22 rfl rfl (Nat.le_of_ble_eq_true rfl) rfl ?_
    dsimp only [List.set]
    refine g_goto dX2_takeCharter_25 rfl ?_
    cases h
    refine G.weak [true, true] rfl ?_
    exact Hl _ rfl hT
set_option maxHeartbeats 4000000 in
theorem w_X2_takeCharter_0 {Γ : GG} (hΓ : GF Γ) {m0 mF m : MM} {x : Nat} (hT : (m.K x).1 = 3) {r : Unit} {q : ((Int32 × MM) ⊕ (Int32 × MM)) ⊕ (Unit × MM)} (h : b_X2_takeCharter_0 x m = some q) (Hl : ∀ z, q = .inl z → p_X2_takeCharter Γ m0 mF x r z) (Hr : ∀ z, q = .inr z → z = (r, mF)) : G Γ kX2_takeCharter cX2_takeCharter m0 mF (.inl none) m 0 [some (.ref x), none] [] := by
  unfold b_X2_takeCharter_0 at h
  refine g_ic 0 dX2_takeCharter_0 rfl ?_
  refine g_istore_n 1 dX2_takeCharter_1 rfl (Nat.le_of_ble_eq_true rfl) rfl ?_
  dsimp only [List.set]
  cases h
  refine G.weak [true, true] rfl ?_
  exact Hl _ rfl hT
theorem ct_X2_takeCharter {Γ : GG} (hΓ : GF Γ) {m mF : MM} {x : Nat} (hT : (m.K x).1 = 3) {r : Unit} (h : f_X2_takeCharter x m = some (r, mF)) : Ct Γ kX2_takeCharter cX2_takeCharter [.ref x] m (.inl none) mF := by
  unfold f_X2_takeCharter at h
  replace h := bd_of h; obtain ⟨q, e, h⟩ := h
  have H := rx_go_ind (P := p_X2_takeCharter Γ m mF x r) (fun z o hs Hl Hr => by
    match z with
    | (.inl (l1, m)) => exact fun hT => w_X2_takeCharter_2 hΓ hT hs Hl Hr
    | (.inr (l1, m)) => exact fun hT => w_X2_takeCharter_43 hΓ hT hs Hl Hr) h
  exact Ct.of (κ := kX2_takeCharter) (by decide) rfl (Nat.le_of_ble_eq_true rfl) rfl (w_X2_takeCharter_0 hΓ hT e H.1 H.2)
def p_X2_layList (Γ : GG) (m0 mF : MM) (x : Nat) (l1 : Int32) (l2 : Int32) (r : Int32) : ((Int32 × MM)) → Prop := fun z => match z with
  | (l5, m) => (m.K x).1 = 3 → G Γ kX2_layList cX2_layList m0 mF (.inl (some (.int r))) m 91 [some (.ref x), some (.int l1), some (.int l2), none, none, some (.int l5)] []
set_option maxHeartbeats 4000000 in
theorem w_X2_layList_234 {Γ : GG} (hΓ : GF Γ) {m0 mF m : MM} {x : Nat} {l1 : Int32} {l2 : Int32} (hT : (m.K x).1 = 3) {r : Int32} {q : ((Int32 × MM)) ⊕ (Int32 × MM)} (h : b_X2_layList_234 x l1 l2 m = some q) (Hl : ∀ z, q = .inl z → p_X2_layList Γ m0 mF x l1 l2 r z) (Hr : ∀ z, q = .inr z → z = (r, mF)) : G Γ kX2_layList cX2_layList m0 mF (.inl (some (.int r))) m 234 [some (.ref x), some (.int l1), some (.int l2), none, none, none] [] := by
  unfold b_X2_layList_234 at h
  refine g_this dX2_layList_234 rfl ?_
  refine g_getI hΓ.k fl_X2_387_X2 rfl hT dX2_layList_235 ?_
  refine g_si (3000) dX2_layList_238 rfl ?_
  replace h := ite_of h; rcases h with ⟨hc, h⟩ | ⟨hc, h⟩
  · refine g_icgtT dX2_layList_241 rfl hc ?_
    refine g_ic 0 dX2_layList_248 rfl ?_
    cases h
    cases Hr _ rfl
    exact g_zret rfl (by decide) dX2_layList_249
  · refine g_icgtF dX2_layList_241 rfl hc ?_
    refine g_ic 1 dX2_layList_244 rfl ?_
    refine g_goto dX2_layList_245 rfl ?_
    cases h
    cases Hr _ rfl
    exact g_zret rfl (by decide) dX2_layList_249
set_option maxHeartbeats 4000000 in
theorem w_X2_layList_183 {Γ : GG} (hΓ : GF Γ) {m0 mF m : MM} {x : Nat} {l1 : Int32} {l2 : Int32} {l5 : Int32} (hT : (m.K x).1 = 3) {r : Int32} {q : ((Int32 × MM)) ⊕ (Int32 × MM)} (h : b_X2_layList_183 x l1 l2 l5 m = some q) (Hl : ∀ z, q = .inl z → p_X2_layList Γ m0 mF x l1 l2 r z) (Hr : ∀ z, q = .inr z → z = (r, mF)) : G Γ kX2_layList cX2_layList m0 mF (.inl (some (.int r))) m 183 [some (.ref x), some (.int l1), some (.int l2), none, none, some (.int l5)] [] := by
  unfold b_X2_layList_183 at h
  refine g_this dX2_layList_183 rfl ?_
  refine g_iload dX2_layList_184 rfl ?_
  refine g_ic 1 dX2_layList_186 rfl ?_
  refine g_iadd dX2_layList_187 ?_
  replace h := bd2_of h; obtain ⟨v1, m2, em2, h⟩ := h
  have C := ct_X2_isOnPath hΓ hT em2
  refine g_callVi hΓ.k vl_X2_396 hT C rfl rfl (Nat.le_of_ble_eq_true rfl) (Nat.le_of_ble_eq_true rfl) (Nat.le_of_ble_eq_true rfl) dX2_layList_188 ?_
  replace hT := (C.1).kd hT
  replace h := ite_of h; rcases h with ⟨hc, h⟩ | ⟨hc, h⟩
  · refine g_ifneF dX2_layList_191 rfl hc ?_
    refine g_goto dX2_layList_194 rfl ?_
    cases h
    refine G.weak [true, true, true, false, false, true] rfl ?_
    exact Hl _ rfl hT
  · refine g_ifneT dX2_layList_191 rfl hc ?_
    refine g_this dX2_layList_197 rfl ?_
    refine g_dup dX2_layList_198 rfl ?_
    refine g_getI hΓ.k fl_X2_387_X2 rfl hT dX2_layList_199 ?_
    refine g_ic 1 dX2_layList_202 rfl ?_
    refine g_iadd dX2_layList_203 ?_
    replace h := bd_of h; obtain ⟨m3, em3, h⟩ := h
    refine g_pI hΓ.k fl_X2_387_X2 (fun h9 => by cases h9) rfl (Or.inl ⟨rfl, rfl⟩) em3 dX2_layList_204 ?_
    replace hT := (pI_ext em3).kd hT
    refine g_iinc (l5 + (1 : Int32)) dX2_layList_207 rfl rfl (Nat.le_of_ble_eq_true rfl) rfl ?_
    dsimp only [List.set]
    refine g_this dX2_layList_210 rfl ?_
    refine g_getR hΓ.k fl_X2_119_X2 rfl hT dX2_layList_211 ?_
    refine g_iload dX2_layList_214 rfl ?_
    refine g_ic (-1) dX2_layList_216 rfl ?_
    replace h := bd_of h; obtain ⟨m4, em4, h⟩ := h
    refine g_iast em4 dX2_layList_217 ?_
    replace hT := (sI_ext em4).kd hT
    refine g_iload dX2_layList_218 rfl ?_
    refine g_this dX2_layList_220 rfl ?_
    replace h := bd2_of h; obtain ⟨v5, m6, em6, h⟩ := h
    have C := ct_X2_longOf hΓ hT em6
    refine g_callVi hΓ.k vl_X2_302 hT C rfl rfl (Nat.le_of_ble_eq_true rfl) (Nat.le_of_ble_eq_true rfl) (Nat.le_of_ble_eq_true rfl) dX2_layList_221 ?_
    replace hT := (C.1).kd hT
    replace h := ite_of h; rcases h with ⟨hc, h⟩ | ⟨hc, h⟩
    · refine g_icneF dX2_layList_224 rfl hc ?_
      refine g_this dX2_layList_227 rfl ?_
      replace h := bd2_of h; obtain ⟨_, m7, em7, h⟩ := h
      have C := ct_X2_takeCharter hΓ hT em7
      refine g_callVv hΓ.k vl_X2_399 hT C rfl rfl (Nat.le_of_ble_eq_true rfl) (Nat.le_of_ble_eq_true rfl) (Nat.le_of_ble_eq_true rfl) dX2_layList_228 ?_
      replace hT := (C.1).kd hT
      refine g_goto dX2_layList_231 rfl ?_
      cases h
      refine G.weak [true, true, true, false, false, true] rfl ?_
      exact Hl _ rfl hT
    · refine g_icneT dX2_layList_224 rfl hc ?_
      cases h
      refine G.weak [true, true, true, false, false, true] rfl ?_
      exact Hl _ rfl hT
set_option maxHeartbeats 4000000 in
theorem w_X2_layList_91 {Γ : GG} (hΓ : GF Γ) {m0 mF m : MM} {x : Nat} {l1 : Int32} {l2 : Int32} {l5 : Int32} (hT : (m.K x).1 = 3) {r : Int32} {q : ((Int32 × MM)) ⊕ (Int32 × MM)} (h : b_X2_layList_91 x l1 l2 l5 m = some q) (Hl : ∀ z, q = .inl z → p_X2_layList Γ m0 mF x l1 l2 r z) (Hr : ∀ z, q = .inr z → z = (r, mF)) : G Γ kX2_layList cX2_layList m0 mF (.inl (some (.int r))) m 91 [some (.ref x), some (.int l1), some (.int l2), none, none, some (.int l5)] [] := by
  unfold b_X2_layList_91 at h
  refine g_iload dX2_layList_91 rfl ?_
  refine g_iload_n 1 dX2_layList_93 rfl rfl ?_
  replace h := ite_of h; rcases h with ⟨hc, h⟩ | ⟨hc, h⟩
  · refine g_icltT dX2_layList_94 rfl hc ?_
    refine G.weak [true, true, true, false, false, false] rfl ?_
    exact w_X2_layList_234 hΓ hT h Hl Hr
  · refine g_icltF dX2_layList_94 rfl hc ?_
    refine g_this dX2_layList_97 rfl ?_
    refine g_getI hΓ.k fl_X2_387_X2 rfl hT dX2_layList_98 ?_
    refine g_si (3000) dX2_layList_101 rfl ?_
    replace h := ite_of h; rcases h with ⟨hc, h⟩ | ⟨hc, h⟩
    · refine g_icgtT dX2_layList_104 rfl hc ?_
      refine G.weak [true, true, true, false, false, false] rfl ?_
      exact w_X2_layList_234 hΓ hT h Hl Hr
    · refine g_icgtF dX2_layList_104 rfl hc ?_
      refine g_this dX2_layList_107 rfl ?_
      refine g_getR hΓ.k fl_X2_119_X2 rfl hT dX2_layList_108 ?_
      refine g_iload dX2_layList_111 rfl ?_
      refine g_dup2 dX2_layList_113 rfl (va_rf_cat _) ?_
      replace h := bd_of h; obtain ⟨v1, ev1, h⟩ := h
      refine g_iald ev1 dX2_layList_114 ?_
      refine g_ic 1 dX2_layList_115 rfl ?_
      refine g_iadd dX2_layList_116 ?_
      replace h := bd_of h; obtain ⟨m2, em2, h⟩ := h
      refine g_iast em2 dX2_layList_117 ?_
      replace hT := (sI_ext em2).kd hT
      refine g_iload dX2_layList_118 rfl ?_
      refine g_this dX2_layList_120 rfl ?_
      replace h := bd2_of h; obtain ⟨v3, m4, em4, h⟩ := h
      have C := ct_X2_longOf hΓ hT em4
      refine g_callVi hΓ.k vl_X2_302 hT C rfl rfl (Nat.le_of_ble_eq_true rfl) (Nat.le_of_ble_eq_true rfl) (Nat.le_of_ble_eq_true rfl) dX2_layList_121 ?_
      replace hT := (C.1).kd hT
      replace h := ite_of h; rcases h with ⟨hc, h⟩ | ⟨hc, h⟩
      · refine g_iceqT dX2_layList_124 rfl hc ?_
        refine g_iinc (l5 + (-1 : Int32)) dX2_layList_146 rfl rfl (Nat.le_of_ble_eq_true rfl) rfl ?_
        dsimp only [List.set]
        refine g_goto dX2_layList_149 rfl ?_
        cases h
        refine G.weak [true, true, true, false, false, true] rfl ?_
        exact Hl _ rfl hT
      · refine g_iceqF dX2_layList_124 rfl hc ?_
        refine g_this dX2_layList_127 rfl ?_
        refine g_getR hΓ.k fl_X2_119_X2 rfl hT dX2_layList_128 ?_
        refine g_iload dX2_layList_131 rfl ?_
        replace h := bd_of h; obtain ⟨v5, ev5, h⟩ := h
        refine g_iald ev5 dX2_layList_133 ?_
        refine g_this dX2_layList_134 rfl ?_
        refine g_getR hΓ.k fl_X2_20_X2 rfl hT dX2_layList_135 ?_
        refine g_this dX2_layList_138 rfl ?_
        refine g_getI hΓ.k fl_X2_233_X2 rfl hT dX2_layList_139 ?_
        replace h := bd_of h; obtain ⟨v6, ev6, h⟩ := h
        refine g_iald ev6 dX2_layList_142 ?_
        replace h := ite_of h; rcases h with ⟨hc, h⟩ | ⟨hc, h⟩
        · refine g_icltT dX2_layList_143 rfl hc ?_
          refine g_iload_n 2 dX2_layList_152 rfl rfl ?_
          replace h := ite_of h; rcases h with ⟨hc, h⟩ | ⟨hc, h⟩
          · refine g_ifeqT dX2_layList_153 rfl hc ?_
            refine G.weak [true, true, true, false, false, true] rfl ?_
            exact w_X2_layList_183 hΓ hT h Hl Hr
          · refine g_ifeqF dX2_layList_153 rfl hc ?_
            refine g_this dX2_layList_156 rfl ?_
            refine g_getR hΓ.k fl_X2_98_X2 rfl hT dX2_layList_157 ?_
            refine g_iload dX2_layList_160 rfl ?_
            replace h := bd_of h; obtain ⟨v7, ev7, h⟩ := h
            refine g_iald ev7 dX2_layList_162 ?_
            replace h := ite_of h; rcases h with ⟨hc, h⟩ | ⟨hc, h⟩
            · refine g_ifltT dX2_layList_163 rfl hc ?_
              refine G.weak [true, true, true, false, false, true] rfl ?_
              exact w_X2_layList_183 hΓ hT h Hl Hr
            · refine g_ifltF dX2_layList_163 rfl hc ?_
              refine g_this dX2_layList_166 rfl ?_
              refine g_getR hΓ.k fl_X2_98_X2 rfl hT dX2_layList_167 ?_
              refine g_iload dX2_layList_170 rfl ?_
              replace h := bd_of h; obtain ⟨v8, ev8, h⟩ := h
              refine g_iald ev8 dX2_layList_172 ?_
              refine g_this dX2_layList_173 rfl ?_
              refine g_getR hΓ.k fl_X2_119_X2 rfl hT dX2_layList_174 ?_
              refine g_iload dX2_layList_177 rfl ?_
              replace h := bd_of h; obtain ⟨v9, ev9, h⟩ := h
              refine g_iald ev9 dX2_layList_179 ?_
              replace h := ite_of h; rcases h with ⟨hc, h⟩ | ⟨hc, h⟩
              · refine g_icneF dX2_layList_180 rfl hc ?_
                refine G.weak [true, true, true, false, false, true] rfl ?_
                exact w_X2_layList_183 hΓ hT h Hl Hr
              · refine g_icneT dX2_layList_180 rfl hc ?_
                cases h
                refine G.weak [true, true, true, false, false, true] rfl ?_
                exact Hl _ rfl hT
        · refine g_icltF dX2_layList_143 rfl hc ?_
          refine g_iinc (l5 + (-1 : Int32)) dX2_layList_146 rfl rfl (Nat.le_of_ble_eq_true rfl) rfl ?_
          dsimp only [List.set]
          refine g_goto dX2_layList_149 rfl ?_
          cases h
          refine G.weak [true, true, true, false, false, true] rfl ?_
          exact Hl _ rfl hT
set_option maxHeartbeats 4000000 in
theorem w_X2_layList_0 {Γ : GG} (hΓ : GF Γ) {m0 mF m : MM} {x : Nat} {l1 : Int32} {l2 : Int32} (hT : (m.K x).1 = 3) {r : Int32} {q : ((Int32 × MM)) ⊕ (Int32 × MM)} (h : b_X2_layList_0 x l1 l2 m = some q) (Hl : ∀ z, q = .inl z → p_X2_layList Γ m0 mF x l1 l2 r z) (Hr : ∀ z, q = .inr z → z = (r, mF)) : G Γ kX2_layList cX2_layList m0 mF (.inl (some (.int r))) m 0 [some (.ref x), some (.int l1), some (.int l2), none, none, none] [] := by
  unfold b_X2_layList_0 at h
  refine g_this dX2_layList_0 rfl ?_
  refine g_iload_n 1 dX2_layList_1 rfl rfl ?_
  refine g_iload_n 2 dX2_layList_2 rfl rfl ?_
  replace h := bd2_of h; obtain ⟨v1, m2, em2, h⟩ := h
  have C := ct_X2_keyOf hΓ hT em2
  refine g_callVl hΓ.k vl_X2_383 hT C rfl rfl (Nat.le_of_ble_eq_true rfl) (Nat.le_of_ble_eq_true rfl) (Nat.le_of_ble_eq_true rfl) dX2_layList_3 ?_
  replace hT := (C.1).kd hT
  refine g_lstore_n 3 dX2_layList_6 rfl (Nat.le_of_ble_eq_true rfl) rfl ?_
  dsimp only [List.set]
  refine g_lload_n 3 dX2_layList_7 rfl rfl ?_
  refine g_this dX2_layList_8 rfl ?_
  refine g_getL hΓ.k fl_X2_242_X2 rfl hT dX2_layList_9 ?_
  refine g_lcmp dX2_layList_12 ?_
  replace h := ite_of h; rcases h with ⟨hc, h⟩ | ⟨hc, h⟩
  · refine g_ifneF dX2_layList_13 rfl hc ?_
    refine g_this dX2_layList_16 rfl ?_
    refine g_getI hΓ.k fl_X2_387_X2 rfl hT dX2_layList_17 ?_
    refine g_si (3000) dX2_layList_20 rfl ?_
    replace h := ite_of h; rcases h with ⟨hc, h⟩ | ⟨hc, h⟩
    · refine g_icgtT dX2_layList_23 rfl hc ?_
      refine g_ic 0 dX2_layList_30 rfl ?_
      cases h
      cases Hr _ rfl
      exact g_zret rfl (by decide) dX2_layList_31
    · refine g_icgtF dX2_layList_23 rfl hc ?_
      refine g_ic 1 dX2_layList_26 rfl ?_
      refine g_goto dX2_layList_27 rfl ?_
      cases h
      cases Hr _ rfl
      exact g_zret rfl (by decide) dX2_layList_31
  · refine g_ifneT dX2_layList_13 rfl hc ?_
    refine g_this dX2_layList_32 rfl ?_
    refine g_lload_n 3 dX2_layList_33 rfl rfl ?_
    replace h := bd_of h; obtain ⟨m3, em3, h⟩ := h
    refine g_pL hΓ.k fl_X2_242_X2 (fun h9 => by cases h9) rfl em3 dX2_layList_34 ?_
    replace hT := (pL_ext em3).kd hT
    refine g_this dX2_layList_37 rfl ?_
    refine g_ic 0 dX2_layList_38 rfl ?_
    replace h := bd_of h; obtain ⟨m4, em4, h⟩ := h
    refine g_pI hΓ.k fl_X2_390_X2 (fun h9 => by cases h9) rfl (Or.inl ⟨rfl, rfl⟩) em4 dX2_layList_39 ?_
    replace hT := (pI_ext em4).kd hT
    refine g_this dX2_layList_42 rfl ?_
    refine g_ic 0 dX2_layList_43 rfl ?_
    replace h := bd_of h; obtain ⟨m5, em5, h⟩ := h
    refine g_pI hΓ.k fl_X2_387_X2 (fun h9 => by cases h9) rfl (Or.inl ⟨rfl, rfl⟩) em5 dX2_layList_44 ?_
    replace hT := (pI_ext em5).kd hT
    refine g_this dX2_layList_47 rfl ?_
    refine g_iload_n 1 dX2_layList_48 rfl rfl ?_
    replace h := bd_of h; obtain ⟨m6, em6, h⟩ := h
    refine g_pI hΓ.k fl_X2_393_X2 (fun h9 => by cases h9) rfl (Or.inl ⟨rfl, rfl⟩) em6 dX2_layList_49 ?_
    replace hT := (pI_ext em6).kd hT
    refine g_this dX2_layList_52 rfl ?_
    refine g_iload_n 1 dX2_layList_53 rfl rfl ?_
    replace h := bd2_of h; obtain ⟨v7, m8, em8, h⟩ := h
    have C := ct_X2_isOnPath hΓ hT em8
    refine g_callVi hΓ.k vl_X2_396 hT C rfl rfl (Nat.le_of_ble_eq_true rfl) (Nat.le_of_ble_eq_true rfl) (Nat.le_of_ble_eq_true rfl) dX2_layList_54 ?_
    replace hT := (C.1).kd hT
    replace h := ite_of h; rcases h with ⟨hc, h⟩ | ⟨hc, h⟩
    · refine g_ifneF dX2_layList_57 rfl hc ?_
      refine g_ic 1 dX2_layList_60 rfl ?_
      cases h
      cases Hr _ rfl
      exact g_zret rfl (by decide) dX2_layList_61
    · refine g_ifneT dX2_layList_57 rfl hc ?_
      refine g_iload_n 1 dX2_layList_62 rfl rfl ?_
      refine g_istore dX2_layList_63 (Nat.le_of_ble_eq_true rfl) rfl ?_
      dsimp only [List.set]
      refine g_this dX2_layList_65 rfl ?_
      refine g_ic 1 dX2_layList_66 rfl ?_
      replace h := bd_of h; obtain ⟨m9, em9, h⟩ := h
      refine g_pI hΓ.k fl_X2_387_X2 (fun h9 => by cases h9) rfl (Or.inl ⟨rfl, rfl⟩) em9 dX2_layList_67 ?_
      replace hT := (pI_ext em9).kd hT
      refine g_iload dX2_layList_70 rfl ?_
      refine g_this dX2_layList_72 rfl ?_
      replace h := bd2_of h; obtain ⟨v10, m11, em11, h⟩ := h
      have C := ct_X2_longOf hΓ hT em11
      refine g_callVi hΓ.k vl_X2_302 hT C rfl rfl (Nat.le_of_ble_eq_true rfl) (Nat.le_of_ble_eq_true rfl) (Nat.le_of_ble_eq_true rfl) dX2_layList_73 ?_
      replace hT := (C.1).kd hT
      replace h := ite_of h; rcases h with ⟨hc, h⟩ | ⟨hc, h⟩
      · refine g_icneF dX2_layList_76 rfl hc ?_
        refine g_this dX2_layList_79 rfl ?_
        replace h := bd2_of h; obtain ⟨_, m13, em13, h⟩ := h
        have C := ct_X2_takeCharter hΓ hT em13
        refine g_callVv hΓ.k vl_X2_399 hT C rfl rfl (Nat.le_of_ble_eq_true rfl) (Nat.le_of_ble_eq_true rfl) (Nat.le_of_ble_eq_true rfl) dX2_layList_80 ?_
        replace hT := (C.1).kd hT
        refine g_this dX2_layList_83 rfl ?_
        refine g_getR hΓ.k fl_X2_119_X2 rfl hT dX2_layList_84 ?_
        refine g_iload dX2_layList_87 rfl ?_
        refine g_ic (-1) dX2_layList_89 rfl ?_
        replace h := bd_of h; obtain ⟨m14, em14, h⟩ := h
        refine g_iast em14 dX2_layList_90 ?_
        replace hT := (sI_ext em14).kd hT
        cases h
        refine G.weak [true, true, true, false, false, true] rfl ?_
        exact Hl _ rfl hT
      · refine g_icneT dX2_layList_76 rfl hc ?_
        refine g_this dX2_layList_83 rfl ?_
        refine g_getR hΓ.k fl_X2_119_X2 rfl hT dX2_layList_84 ?_
        refine g_iload dX2_layList_87 rfl ?_
        refine g_ic (-1) dX2_layList_89 rfl ?_
        replace h := bd_of h; obtain ⟨m12, em12, h⟩ := h
        refine g_iast em12 dX2_layList_90 ?_
        replace hT := (sI_ext em12).kd hT
        cases h
        refine G.weak [true, true, true, false, false, true] rfl ?_
        exact Hl _ rfl hT
theorem ct_X2_layList {Γ : GG} (hΓ : GF Γ) {m mF : MM} {x : Nat} {l1 : Int32} {l2 : Int32} (hT : (m.K x).1 = 3) {r : Int32} (h : f_X2_layList x l1 l2 m = some (r, mF)) : Ct Γ kX2_layList cX2_layList [.ref x, .int l1, .int l2] m (.inl (some (.int r))) mF := by
  unfold f_X2_layList at h
  replace h := bd_of h; obtain ⟨q, e, h⟩ := h
  have H := rx_go_ind (P := p_X2_layList Γ m mF x l1 l2 r) (fun z o hs Hl Hr => by
    match z with
    | (l5, m) => exact fun hT => w_X2_layList_91 hΓ hT hs Hl Hr) h
  exact Ct.of (κ := kX2_layList) (by decide) rfl (Nat.le_of_ble_eq_true rfl) rfl (w_X2_layList_0 hΓ hT e H.1 H.2)
def p_X2_layFromRow (Γ : GG) (m0 mF : MM) (x : Nat) (r : Int32) : ((Int32 × MM)) → Prop := fun z => match z with
  | (l1, m) => (m.K x).1 = 3 → G Γ kX2_layFromRow cX2_layFromRow m0 mF (.inl (some (.int r))) m 2 [some (.ref x), some (.int l1)] []
set_option maxHeartbeats 4000000 in
theorem w_X2_layFromRow_2 {Γ : GG} (hΓ : GF Γ) {m0 mF m : MM} {x : Nat} {l1 : Int32} (hT : (m.K x).1 = 3) {r : Int32} {q : ((Int32 × MM)) ⊕ (Int32 × MM)} (h : b_X2_layFromRow_2 x l1 m = some q) (Hl : ∀ z, q = .inl z → p_X2_layFromRow Γ m0 mF x r z) (Hr : ∀ z, q = .inr z → z = (r, mF)) : G Γ kX2_layFromRow cX2_layFromRow m0 mF (.inl (some (.int r))) m 2 [some (.ref x), some (.int l1)] [] := by
  unfold b_X2_layFromRow_2 at h
  refine g_iload_n 1 dX2_layFromRow_2 rfl rfl ?_
  refine g_this dX2_layFromRow_3 rfl ?_
  refine g_getI hΓ.k fl_X2_336_X2 rfl hT dX2_layFromRow_4 ?_
  replace h := ite_of h; rcases h with ⟨hc, h⟩ | ⟨hc, h⟩
  · refine g_icgeT dX2_layFromRow_7 rfl hc ?_
    refine g_this dX2_layFromRow_28 rfl ?_
    refine g_this dX2_layFromRow_29 rfl ?_
    refine g_getI hΓ.k fl_X2_336_X2 rfl hT dX2_layFromRow_30 ?_
    refine g_ic 0 dX2_layFromRow_33 rfl ?_
    replace h := bd2_of h; obtain ⟨v1, m2, em2, h⟩ := h
    have C := ct_X2_layList hΓ hT em2
    refine g_callVi hΓ.k vl_X2_405 hT C rfl rfl (Nat.le_of_ble_eq_true rfl) (Nat.le_of_ble_eq_true rfl) (Nat.le_of_ble_eq_true rfl) dX2_layFromRow_34 ?_
    replace hT := (C.1).kd hT
    replace h := ite_of h; rcases h with ⟨hc, h⟩ | ⟨hc, h⟩
    · cases h
      cases Hr _ rfl
      exact g_zret rfl hc dX2_layFromRow_37
    · cases h
  · refine g_icgeF dX2_layFromRow_7 rfl hc ?_
    refine g_this dX2_layFromRow_10 rfl ?_
    refine g_getR hΓ.k fl_X2_119_X2 rfl hT dX2_layFromRow_11 ?_
    refine g_iload_n 1 dX2_layFromRow_14 rfl rfl ?_
    refine g_this dX2_layFromRow_15 rfl ?_
    refine g_getR hΓ.k fl_X2_92_X2 rfl hT dX2_layFromRow_16 ?_
    refine g_iload_n 1 dX2_layFromRow_19 rfl rfl ?_
    replace h := bd_of h; obtain ⟨v3, ev3, h⟩ := h
    refine g_iald ev3 dX2_layFromRow_20 ?_
    replace h := bd_of h; obtain ⟨m4, em4, h⟩ := h
    refine g_iast em4 dX2_layFromRow_21 ?_
    replace hT := (sI_ext em4).kd hT
    refine g_iinc (l1 + (1 : Int32)) dX2_layFromRow_22 rfl rfl (Nat.le_of_ble_eq_true rfl) rfl ?_
    dsimp only [List.set]
    refine g_goto dX2_layFromRow_25 rfl ?_
    cases h
    refine G.weak [true, true] rfl ?_
    exact Hl _ rfl hT
set_option maxHeartbeats 4000000 in
theorem w_X2_layFromRow_0 {Γ : GG} (hΓ : GF Γ) {m0 mF m : MM} {x : Nat} (hT : (m.K x).1 = 3) {r : Int32} {q : ((Int32 × MM)) ⊕ (Int32 × MM)} (h : b_X2_layFromRow_0 x m = some q) (Hl : ∀ z, q = .inl z → p_X2_layFromRow Γ m0 mF x r z) (Hr : ∀ z, q = .inr z → z = (r, mF)) : G Γ kX2_layFromRow cX2_layFromRow m0 mF (.inl (some (.int r))) m 0 [some (.ref x), none] [] := by
  unfold b_X2_layFromRow_0 at h
  refine g_ic 0 dX2_layFromRow_0 rfl ?_
  refine g_istore_n 1 dX2_layFromRow_1 rfl (Nat.le_of_ble_eq_true rfl) rfl ?_
  dsimp only [List.set]
  cases h
  refine G.weak [true, true] rfl ?_
  exact Hl _ rfl hT
theorem ct_X2_layFromRow {Γ : GG} (hΓ : GF Γ) {m mF : MM} {x : Nat} (hT : (m.K x).1 = 3) {r : Int32} (h : f_X2_layFromRow x m = some (r, mF)) : Ct Γ kX2_layFromRow cX2_layFromRow [.ref x] m (.inl (some (.int r))) mF := by
  unfold f_X2_layFromRow at h
  replace h := bd_of h; obtain ⟨q, e, h⟩ := h
  have H := rx_go_ind (P := p_X2_layFromRow Γ m mF x r) (fun z o hs Hl Hr => by
    match z with
    | (l1, m) => exact fun hT => w_X2_layFromRow_2 hΓ hT hs Hl Hr) h
  exact Ct.of (κ := kX2_layFromRow) (by decide) rfl (Nat.le_of_ble_eq_true rfl) rfl (w_X2_layFromRow_0 hΓ hT e H.1 H.2)
set_option maxHeartbeats 4000000 in
theorem w_X2_areGrouped_0 {Γ : GG} (hΓ : GF Γ) {m0 mF m : MM} {x : Nat} {l1 : Int32} {l2 : Int32} {l3 : Int32} (hT : (m.K x).1 = 3) {r : Int32} (h : b_X2_areGrouped_0 x l1 l2 l3 m = some (r, mF)) : G Γ kX2_areGrouped cX2_areGrouped m0 mF (.inl (some (.int r))) m 0 [some (.ref x), some (.int l1), some (.int l2), some (.int l3)] [] := by
  unfold b_X2_areGrouped_0 at h
  refine g_this dX2_areGrouped_0 rfl ?_
  refine g_getR hΓ.k fl_X2_107_X2 rfl hT dX2_areGrouped_1 ?_
  refine g_iload_n 1 dX2_areGrouped_4 rfl rfl ?_
  replace h := bd_of h; obtain ⟨v1, ev1, h⟩ := h
  refine g_iald ev1 dX2_areGrouped_5 ?_
  refine g_ic 3 dX2_areGrouped_6 rfl ?_
  refine g_this dX2_areGrouped_7 rfl ?_
  replace h := bd2_of h; obtain ⟨v2, m3, em3, h⟩ := h
  have C := ct_X2_longOf hΓ hT em3
  refine g_callVi hΓ.k vl_X2_302 hT C rfl rfl (Nat.le_of_ble_eq_true rfl) (Nat.le_of_ble_eq_true rfl) (Nat.le_of_ble_eq_true rfl) dX2_areGrouped_8 ?_
  replace hT := (C.1).kd hT
  refine g_iload_n 3 dX2_areGrouped_11 rfl rfl ?_
  refine g_isub dX2_areGrouped_12 ?_
  refine g_imul dX2_areGrouped_13 ?_
  refine g_ishr dX2_areGrouped_14 ?_
  refine g_this dX2_areGrouped_15 rfl ?_
  refine g_getR hΓ.k fl_X2_107_X2 rfl hT dX2_areGrouped_16 ?_
  refine g_iload_n 2 dX2_areGrouped_19 rfl rfl ?_
  replace h := bd_of h; obtain ⟨v4, ev4, h⟩ := h
  refine g_iald ev4 dX2_areGrouped_20 ?_
  refine g_ic 3 dX2_areGrouped_21 rfl ?_
  refine g_this dX2_areGrouped_22 rfl ?_
  replace h := bd2_of h; obtain ⟨v5, m6, em6, h⟩ := h
  have C := ct_X2_longOf hΓ hT em6
  refine g_callVi hΓ.k vl_X2_302 hT C rfl rfl (Nat.le_of_ble_eq_true rfl) (Nat.le_of_ble_eq_true rfl) (Nat.le_of_ble_eq_true rfl) dX2_areGrouped_23 ?_
  replace hT := (C.1).kd hT
  refine g_iload_n 3 dX2_areGrouped_26 rfl rfl ?_
  refine g_isub dX2_areGrouped_27 ?_
  refine g_imul dX2_areGrouped_28 ?_
  refine g_ishr dX2_areGrouped_29 ?_
  replace h := ite_of h; rcases h with ⟨hc, h⟩ | ⟨hc, h⟩
  · refine g_icneF dX2_areGrouped_30 rfl hc ?_
    refine g_ic 1 dX2_areGrouped_33 rfl ?_
    refine g_goto dX2_areGrouped_34 rfl ?_
    cases h
    exact g_zret rfl (by decide) dX2_areGrouped_38
  · refine g_icneT dX2_areGrouped_30 rfl hc ?_
    refine g_ic 0 dX2_areGrouped_37 rfl ?_
    cases h
    exact g_zret rfl (by decide) dX2_areGrouped_38
theorem ct_X2_areGrouped {Γ : GG} (hΓ : GF Γ) {m mF : MM} {x : Nat} {l1 : Int32} {l2 : Int32} {l3 : Int32} (hT : (m.K x).1 = 3) {r : Int32} (h : f_X2_areGrouped x l1 l2 l3 m = some (r, mF)) : Ct Γ kX2_areGrouped cX2_areGrouped [.ref x, .int l1, .int l2, .int l3] m (.inl (some (.int r))) mF := by
  unfold f_X2_areGrouped at h
  exact Ct.of (κ := kX2_areGrouped) (by decide) rfl (Nat.le_of_ble_eq_true rfl) rfl (w_X2_areGrouped_0 hΓ hT h)
set_option maxHeartbeats 4000000 in
theorem w_X2_gain_0 {Γ : GG} (hΓ : GF Γ) {m0 mF m : MM} {x : Nat} {l1 : Int32} {l2 : Int32} (hT : (m.K x).1 = 3) {r : Int32} (h : b_X2_gain_0 x l1 l2 m = some (r, mF)) : G Γ kX2_gain cX2_gain m0 mF (.inl (some (.int r))) m 0 [some (.ref x), some (.int l1), some (.int l2)] [] := by
  unfold b_X2_gain_0 at h
  refine g_this dX2_gain_0 rfl ?_
  refine g_getR hΓ.k fl_X2_110_X2 rfl hT dX2_gain_1 ?_
  refine g_ic 3 dX2_gain_4 rfl ?_
  refine g_iload_n 1 dX2_gain_5 rfl rfl ?_
  refine g_imul dX2_gain_6 ?_
  refine g_iload_n 2 dX2_gain_7 rfl rfl ?_
  refine g_iadd dX2_gain_8 ?_
  replace h := bd_of h; obtain ⟨v1, ev1, h⟩ := h
  refine g_iald ev1 dX2_gain_9 ?_
  refine g_iload_n 2 dX2_gain_10 rfl rfl ?_
  refine g_this dX2_gain_11 rfl ?_
  refine g_getI hΓ.k fl_X2_125_X2 rfl hT dX2_gain_12 ?_
  replace h := ite_of h; rcases h with ⟨hc, h⟩ | ⟨hc, h⟩
  · refine g_icneF dX2_gain_15 rfl hc ?_
    refine g_this dX2_gain_18 rfl ?_
    refine g_this dX2_gain_19 rfl ?_
    refine g_getR hΓ.k fl_X2_107_X2 rfl hT dX2_gain_20 ?_
    refine g_iload_n 1 dX2_gain_23 rfl rfl ?_
    replace h := bd_of h; obtain ⟨v2, ev2, h⟩ := h
    refine g_iald ev2 dX2_gain_24 ?_
    refine g_this dX2_gain_25 rfl ?_
    refine g_getI hΓ.k fl_X2_409_X2 rfl hT dX2_gain_26 ?_
    replace h := bd2_of h; obtain ⟨v3, m4, em4, h⟩ := h
    have C := ct_X2_wordIn hΓ hT em4
    refine g_callVi hΓ.k vl_X2_380 hT C rfl rfl (Nat.le_of_ble_eq_true rfl) (Nat.le_of_ble_eq_true rfl) (Nat.le_of_ble_eq_true rfl) dX2_gain_29 ?_
    replace hT := (C.1).kd hT
    refine g_this dX2_gain_32 rfl ?_
    refine g_getI hΓ.k fl_X2_412_X2 rfl hT dX2_gain_33 ?_
    replace h := ite_of h; rcases h with ⟨hc, h⟩ | ⟨hc, h⟩
    · refine g_icneF dX2_gain_36 rfl hc ?_
      refine g_this dX2_gain_39 rfl ?_
      refine g_getI hΓ.k fl_X2_415_X2 rfl hT dX2_gain_40 ?_
      refine g_goto dX2_gain_43 rfl ?_
      refine g_iadd dX2_gain_47 ?_
      cases h
      exact g_iret rfl dX2_gain_48
    · refine g_icneT dX2_gain_36 rfl hc ?_
      refine g_ic 0 dX2_gain_46 rfl ?_
      refine g_iadd dX2_gain_47 ?_
      cases h
      exact g_iret rfl dX2_gain_48
  · refine g_icneT dX2_gain_15 rfl hc ?_
    refine g_ic 0 dX2_gain_46 rfl ?_
    refine g_iadd dX2_gain_47 ?_
    cases h
    exact g_iret rfl dX2_gain_48
theorem ct_X2_gain {Γ : GG} (hΓ : GF Γ) {m mF : MM} {x : Nat} {l1 : Int32} {l2 : Int32} (hT : (m.K x).1 = 3) {r : Int32} (h : f_X2_gain x l1 l2 m = some (r, mF)) : Ct Γ kX2_gain cX2_gain [.ref x, .int l1, .int l2] m (.inl (some (.int r))) mF := by
  unfold f_X2_gain at h
  exact Ct.of (κ := kX2_gain) (by decide) rfl (Nat.le_of_ble_eq_true rfl) rfl (w_X2_gain_0 hΓ hT h)
def p_X2_gainOf (Γ : GG) (m0 mF : MM) (x : Nat) (l1 : Int32) (l2 : Int32) (r : Int32) : ((Int32 × Int32 × MM)) → Prop := fun z => match z with
  | (l3, l4, m) => (m.K x).1 = 3 → G Γ kX2_gainOf cX2_gainOf m0 mF (.inl (some (.int r))) m 5 [some (.ref x), some (.int l1), some (.int l2), some (.int l3), some (.int l4)] []
set_option maxHeartbeats 4000000 in
theorem w_X2_gainOf_5 {Γ : GG} (hΓ : GF Γ) {m0 mF m : MM} {x : Nat} {l1 : Int32} {l2 : Int32} {l3 : Int32} {l4 : Int32} (hT : (m.K x).1 = 3) {r : Int32} {q : ((Int32 × Int32 × MM)) ⊕ (Int32 × MM)} (h : b_X2_gainOf_5 x l1 l2 l3 l4 m = some q) (Hl : ∀ z, q = .inl z → p_X2_gainOf Γ m0 mF x l1 l2 r z) (Hr : ∀ z, q = .inr z → z = (r, mF)) : G Γ kX2_gainOf cX2_gainOf m0 mF (.inl (some (.int r))) m 5 [some (.ref x), some (.int l1), some (.int l2), some (.int l3), some (.int l4)] [] := by
  unfold b_X2_gainOf_5 at h
  refine g_iload dX2_gainOf_5 rfl ?_
  refine g_ic 3 dX2_gainOf_7 rfl ?_
  replace h := ite_of h; rcases h with ⟨hc, h⟩ | ⟨hc, h⟩
  · refine g_icgeT dX2_gainOf_8 rfl hc ?_
    refine g_iload_n 3 dX2_gainOf_45 rfl rfl ?_
    cases h
    cases Hr _ rfl
    exact g_iret rfl dX2_gainOf_46
  · refine g_icgeF dX2_gainOf_8 rfl hc ?_
    refine g_iload_n 3 dX2_gainOf_11 rfl rfl ?_
    refine g_iload_n 2 dX2_gainOf_12 rfl rfl ?_
    refine g_iload dX2_gainOf_13 rfl ?_
    refine g_ishr dX2_gainOf_15 ?_
    refine g_ic 1 dX2_gainOf_16 rfl ?_
    refine g_iand dX2_gainOf_17 ?_
    refine g_ic 1 dX2_gainOf_18 rfl ?_
    replace h := ite_of h; rcases h with ⟨hc, h⟩ | ⟨hc, h⟩
    · refine g_icneF dX2_gainOf_19 rfl hc ?_
      refine g_this dX2_gainOf_22 rfl ?_
      refine g_getR hΓ.k fl_X2_110_X2 rfl hT dX2_gainOf_23 ?_
      refine g_ic 3 dX2_gainOf_26 rfl ?_
      refine g_iload_n 1 dX2_gainOf_27 rfl rfl ?_
      refine g_imul dX2_gainOf_28 ?_
      refine g_iload dX2_gainOf_29 rfl ?_
      refine g_iadd dX2_gainOf_31 ?_
      replace h := bd_of h; obtain ⟨v1, ev1, h⟩ := h
      refine g_iald ev1 dX2_gainOf_32 ?_
      refine g_goto dX2_gainOf_33 rfl ?_
      refine g_iadd dX2_gainOf_37 ?_
      refine g_istore_n 3 dX2_gainOf_38 rfl (Nat.le_of_ble_eq_true rfl) rfl ?_
      dsimp only [List.set]
      refine g_iinc (l4 + (1 : Int32)) dX2_gainOf_39 rfl rfl (Nat.le_of_ble_eq_true rfl) rfl ?_
      dsimp only [List.set]
      refine g_goto dX2_gainOf_42 rfl ?_
      cases h
      refine G.weak [true, true, true, true, true] rfl ?_
      exact Hl _ rfl hT
    · refine g_icneT dX2_gainOf_19 rfl hc ?_
      refine g_ic 0 dX2_gainOf_36 rfl ?_
      refine g_iadd dX2_gainOf_37 ?_
      refine g_istore_n 3 dX2_gainOf_38 rfl (Nat.le_of_ble_eq_true rfl) rfl ?_
      dsimp only [List.set]
      refine g_iinc (l4 + (1 : Int32)) dX2_gainOf_39 rfl rfl (Nat.le_of_ble_eq_true rfl) rfl ?_
      dsimp only [List.set]
      refine g_goto dX2_gainOf_42 rfl ?_
      cases h
      refine G.weak [true, true, true, true, true] rfl ?_
      exact Hl _ rfl hT
set_option maxHeartbeats 4000000 in
theorem w_X2_gainOf_0 {Γ : GG} (hΓ : GF Γ) {m0 mF m : MM} {x : Nat} {l1 : Int32} {l2 : Int32} (hT : (m.K x).1 = 3) {r : Int32} {q : ((Int32 × Int32 × MM)) ⊕ (Int32 × MM)} (h : b_X2_gainOf_0 x l1 l2 m = some q) (Hl : ∀ z, q = .inl z → p_X2_gainOf Γ m0 mF x l1 l2 r z) (Hr : ∀ z, q = .inr z → z = (r, mF)) : G Γ kX2_gainOf cX2_gainOf m0 mF (.inl (some (.int r))) m 0 [some (.ref x), some (.int l1), some (.int l2), none, none] [] := by
  unfold b_X2_gainOf_0 at h
  refine g_ic 0 dX2_gainOf_0 rfl ?_
  refine g_istore_n 3 dX2_gainOf_1 rfl (Nat.le_of_ble_eq_true rfl) rfl ?_
  dsimp only [List.set]
  refine g_ic 0 dX2_gainOf_2 rfl ?_
  refine g_istore dX2_gainOf_3 (Nat.le_of_ble_eq_true rfl) rfl ?_
  dsimp only [List.set]
  cases h
  refine G.weak [true, true, true, true, true] rfl ?_
  exact Hl _ rfl hT
theorem ct_X2_gainOf {Γ : GG} (hΓ : GF Γ) {m mF : MM} {x : Nat} {l1 : Int32} {l2 : Int32} (hT : (m.K x).1 = 3) {r : Int32} (h : f_X2_gainOf x l1 l2 m = some (r, mF)) : Ct Γ kX2_gainOf cX2_gainOf [.ref x, .int l1, .int l2] m (.inl (some (.int r))) mF := by
  unfold f_X2_gainOf at h
  replace h := bd_of h; obtain ⟨q, e, h⟩ := h
  have H := rx_go_ind (P := p_X2_gainOf Γ m mF x l1 l2 r) (fun z o hs Hl Hr => by
    match z with
    | (l3, l4, m) => exact fun hT => w_X2_gainOf_5 hΓ hT hs Hl Hr) h
  exact Ct.of (κ := kX2_gainOf) (by decide) rfl (Nat.le_of_ble_eq_true rfl) rfl (w_X2_gainOf_0 hΓ hT e H.1 H.2)
set_option maxHeartbeats 4000000 in
theorem w_X2_isBetter_56 {Γ : GG} (hΓ : GF Γ) {m0 mF m : MM} {x : Nat} {l1 : Int32} {l2 : Int32} {l3 : Int32} {l4 : Int32} {s0 : Int32} (hT : (m.K x).1 = 3) {r : Int32} (h : b_X2_isBetter_56 x l1 l2 l3 l4 s0 m = some (r, mF)) : G Γ kX2_isBetter cX2_isBetter m0 mF (.inl (some (.int r))) m 56 [some (.ref x), some (.int l1), some (.int l2), some (.int l3), some (.int l4), none] [.int s0] := by
  unfold b_X2_isBetter_56 at h
  refine g_istore dX2_isBetter_56 (Nat.le_of_ble_eq_true rfl) rfl ?_
  dsimp only [List.set]
  refine g_iload dX2_isBetter_58 rfl ?_
  replace h := ite_of h; rcases h with ⟨hc, h⟩ | ⟨hc, h⟩
  · refine g_ifeqT dX2_isBetter_60 rfl hc ?_
    refine g_this dX2_isBetter_88 rfl ?_
    refine g_iload_n 1 dX2_isBetter_89 rfl rfl ?_
    refine g_iload dX2_isBetter_90 rfl ?_
    replace h := bd2_of h; obtain ⟨v1, m2, em2, h⟩ := h
    have C := ct_X2_gainOf hΓ hT em2
    refine g_callVi hΓ.k vl_X2_421 hT C rfl rfl (Nat.le_of_ble_eq_true rfl) (Nat.le_of_ble_eq_true rfl) (Nat.le_of_ble_eq_true rfl) dX2_isBetter_92 ?_
    replace hT := (C.1).kd hT
    refine g_this dX2_isBetter_95 rfl ?_
    refine g_iload_n 2 dX2_isBetter_96 rfl rfl ?_
    refine g_iload dX2_isBetter_97 rfl ?_
    replace h := bd2_of h; obtain ⟨v3, m4, em4, h⟩ := h
    have C := ct_X2_gainOf hΓ hT em4
    refine g_callVi hΓ.k vl_X2_421 hT C rfl rfl (Nat.le_of_ble_eq_true rfl) (Nat.le_of_ble_eq_true rfl) (Nat.le_of_ble_eq_true rfl) dX2_isBetter_99 ?_
    replace hT := (C.1).kd hT
    replace h := ite_of h; rcases h with ⟨hc, h⟩ | ⟨hc, h⟩
    · refine g_icgeT dX2_isBetter_102 rfl hc ?_
      refine g_ic 0 dX2_isBetter_109 rfl ?_
      cases h
      exact g_zret rfl (by decide) dX2_isBetter_110
    · refine g_icgeF dX2_isBetter_102 rfl hc ?_
      refine g_ic 1 dX2_isBetter_105 rfl ?_
      refine g_goto dX2_isBetter_106 rfl ?_
      cases h
      exact g_zret rfl (by decide) dX2_isBetter_110
  · refine g_ifeqF dX2_isBetter_60 rfl hc ?_
    refine g_this dX2_isBetter_63 rfl ?_
    refine g_iload_n 1 dX2_isBetter_64 rfl rfl ?_
    refine g_iload dX2_isBetter_65 rfl ?_
    replace h := bd2_of h; obtain ⟨v5, m6, em6, h⟩ := h
    have C := ct_X2_gainOf hΓ hT em6
    refine g_callVi hΓ.k vl_X2_421 hT C rfl rfl (Nat.le_of_ble_eq_true rfl) (Nat.le_of_ble_eq_true rfl) (Nat.le_of_ble_eq_true rfl) dX2_isBetter_67 ?_
    replace hT := (C.1).kd hT
    refine g_this dX2_isBetter_70 rfl ?_
    refine g_iload_n 2 dX2_isBetter_71 rfl rfl ?_
    refine g_iload dX2_isBetter_72 rfl ?_
    replace h := bd2_of h; obtain ⟨v7, m8, em8, h⟩ := h
    have C := ct_X2_gainOf hΓ hT em8
    refine g_callVi hΓ.k vl_X2_421 hT C rfl rfl (Nat.le_of_ble_eq_true rfl) (Nat.le_of_ble_eq_true rfl) (Nat.le_of_ble_eq_true rfl) dX2_isBetter_74 ?_
    replace hT := (C.1).kd hT
    replace h := ite_of h; rcases h with ⟨hc, h⟩ | ⟨hc, h⟩
    · refine g_icleT dX2_isBetter_77 rfl hc ?_
      refine g_ic 0 dX2_isBetter_84 rfl ?_
      refine g_goto dX2_isBetter_85 rfl ?_
      cases h
      exact g_zret rfl (by decide) dX2_isBetter_110
    · refine g_icleF dX2_isBetter_77 rfl hc ?_
      refine g_ic 1 dX2_isBetter_80 rfl ?_
      refine g_goto dX2_isBetter_81 rfl ?_
      cases h
      exact g_zret rfl (by decide) dX2_isBetter_110
set_option maxHeartbeats 4000000 in
theorem w_X2_isBetter_0 {Γ : GG} (hΓ : GF Γ) {m0 mF m : MM} {x : Nat} {l1 : Int32} {l2 : Int32} {l3 : Int32} {l4 : Int32} (hT : (m.K x).1 = 3) {r : Int32} (h : b_X2_isBetter_0 x l1 l2 l3 l4 m = some (r, mF)) : G Γ kX2_isBetter cX2_isBetter m0 mF (.inl (some (.int r))) m 0 [some (.ref x), some (.int l1), some (.int l2), some (.int l3), some (.int l4), none] [] := by
  unfold b_X2_isBetter_0 at h
  refine g_iload dX2_isBetter_0 rfl ?_
  replace h := ite_of h; rcases h with ⟨hc, h⟩ | ⟨hc, h⟩
  · refine g_ifneF dX2_isBetter_2 rfl hc ?_
    refine g_this dX2_isBetter_5 rfl ?_
    refine g_iload_n 1 dX2_isBetter_6 rfl rfl ?_
    refine g_this dX2_isBetter_7 rfl ?_
    refine g_getR hΓ.k fl_X2_122_X2 rfl hT dX2_isBetter_8 ?_
    refine g_iload_n 3 dX2_isBetter_11 rfl rfl ?_
    replace h := bd_of h; obtain ⟨v2, ev2, h⟩ := h
    refine g_iald ev2 dX2_isBetter_12 ?_
    replace h := bd2_of h; obtain ⟨v3, m4, em4, h⟩ := h
    have C := ct_X2_gain hΓ hT em4
    refine g_callVi hΓ.k vl_X2_418 hT C rfl rfl (Nat.le_of_ble_eq_true rfl) (Nat.le_of_ble_eq_true rfl) (Nat.le_of_ble_eq_true rfl) dX2_isBetter_13 ?_
    replace hT := (C.1).kd hT
    refine g_this dX2_isBetter_16 rfl ?_
    refine g_iload_n 2 dX2_isBetter_17 rfl rfl ?_
    refine g_this dX2_isBetter_18 rfl ?_
    refine g_getR hΓ.k fl_X2_122_X2 rfl hT dX2_isBetter_19 ?_
    refine g_iload_n 3 dX2_isBetter_22 rfl rfl ?_
    replace h := bd_of h; obtain ⟨v5, ev5, h⟩ := h
    refine g_iald ev5 dX2_isBetter_23 ?_
    replace h := bd2_of h; obtain ⟨v6, m7, em7, h⟩ := h
    have C := ct_X2_gain hΓ hT em7
    refine g_callVi hΓ.k vl_X2_418 hT C rfl rfl (Nat.le_of_ble_eq_true rfl) (Nat.le_of_ble_eq_true rfl) (Nat.le_of_ble_eq_true rfl) dX2_isBetter_24 ?_
    replace hT := (C.1).kd hT
    replace h := ite_of h; rcases h with ⟨hc, h⟩ | ⟨hc, h⟩
    · refine g_icleT dX2_isBetter_27 rfl hc ?_
      refine g_ic 0 dX2_isBetter_34 rfl ?_
      cases h
      exact g_zret rfl (by decide) dX2_isBetter_35
    · refine g_icleF dX2_isBetter_27 rfl hc ?_
      refine g_ic 1 dX2_isBetter_30 rfl ?_
      refine g_goto dX2_isBetter_31 rfl ?_
      cases h
      exact g_zret rfl (by decide) dX2_isBetter_35
  · refine g_ifneT dX2_isBetter_2 rfl hc ?_
    refine g_iload dX2_isBetter_36 rfl ?_
    refine g_this dX2_isBetter_38 rfl ?_
    refine g_getR hΓ.k fl_X2_122_X2 rfl hT dX2_isBetter_39 ?_
    refine g_iload_n 3 dX2_isBetter_42 rfl rfl ?_
    replace h := bd_of h; obtain ⟨v1, ev1, h⟩ := h
    refine g_iald ev1 dX2_isBetter_43 ?_
    refine g_ishr dX2_isBetter_44 ?_
    refine g_ic 1 dX2_isBetter_45 rfl ?_
    refine g_iand dX2_isBetter_46 ?_
    refine g_ic 1 dX2_isBetter_47 rfl ?_
    replace h := ite_of h; rcases h with ⟨hc, h⟩ | ⟨hc, h⟩
    · refine g_icneF dX2_isBetter_48 rfl hc ?_
      refine g_ic 1 dX2_isBetter_51 rfl ?_
      refine g_goto dX2_isBetter_52 rfl ?_
      refine G.weak [true, true, true, true, true, false] rfl ?_
      exact w_X2_isBetter_56 hΓ hT h
    · refine g_icneT dX2_isBetter_48 rfl hc ?_
      refine g_ic 0 dX2_isBetter_55 rfl ?_
      refine G.weak [true, true, true, true, true, false] rfl ?_
      exact w_X2_isBetter_56 hΓ hT h
theorem ct_X2_isBetter {Γ : GG} (hΓ : GF Γ) {m mF : MM} {x : Nat} {l1 : Int32} {l2 : Int32} {l3 : Int32} {l4 : Int32} (hT : (m.K x).1 = 3) {r : Int32} (h : f_X2_isBetter x l1 l2 l3 l4 m = some (r, mF)) : Ct Γ kX2_isBetter cX2_isBetter [.ref x, .int l1, .int l2, .int l3, .int l4] m (.inl (some (.int r))) mF := by
  unfold f_X2_isBetter at h
  exact Ct.of (κ := kX2_isBetter) (by decide) rfl (Nat.le_of_ble_eq_true rfl) rfl (w_X2_isBetter_0 hΓ hT h)
def p_X2_plays (Γ : GG) (m0 mF : MM) (x : Nat) (l1 : Int32) (r : Int32) : ((Int32 × Int32 × MM) ⊕ (Int32 × Int32 × MM) ⊕ (Int32 × Int32 × Int32 × Int32 × MM) ⊕ (Int32 × Int32 × Int32 × MM)) → Prop := fun z => match z with
  | (.inl (l2, l3, m)) => (m.K x).1 = 3 → G Γ kX2_plays cX2_plays m0 mF (.inl (some (.int r))) m 7 [some (.ref x), some (.int l1), some (.int l2), some (.int l3), none, none] []
  | (.inr (.inl (l2, l3, m))) => (m.K x).1 = 3 → G Γ kX2_plays cX2_plays m0 mF (.inl (some (.int r))) m 32 [some (.ref x), some (.int l1), some (.int l2), some (.int l3), none, none] []
  | (.inr (.inr (.inl (l2, l3, l4, l5, m)))) => (m.K x).1 = 3 → G Γ kX2_plays cX2_plays m0 mF (.inl (some (.int r))) m 46 [some (.ref x), some (.int l1), some (.int l2), some (.int l3), some (.int l4), some (.int l5)] []
  | (.inr (.inr (.inr (l2, l3, l5, m)))) => (m.K x).1 = 3 → G Γ kX2_plays cX2_plays m0 mF (.inl (some (.int r))) m 154 [some (.ref x), some (.int l1), some (.int l2), some (.int l3), none, some (.int l5)] []
set_option maxHeartbeats 4000000 in
theorem w_X2_plays_154 {Γ : GG} (hΓ : GF Γ) {m0 mF m : MM} {x : Nat} {l1 : Int32} {l2 : Int32} {l3 : Int32} {l5 : Int32} (hT : (m.K x).1 = 3) {r : Int32} {q : ((Int32 × Int32 × MM) ⊕ (Int32 × Int32 × MM) ⊕ (Int32 × Int32 × Int32 × Int32 × MM) ⊕ (Int32 × Int32 × Int32 × MM)) ⊕ (Int32 × MM)} (h : b_X2_plays_154 x l1 l2 l3 l5 m = some q) (Hl : ∀ z, q = .inl z → p_X2_plays Γ m0 mF x l1 r z) (Hr : ∀ z, q = .inr z → z = (r, mF)) : G Γ kX2_plays cX2_plays m0 mF (.inl (some (.int r))) m 154 [some (.ref x), some (.int l1), some (.int l2), some (.int l3), none, some (.int l5)] [] := by
  unfold b_X2_plays_154 at h
  refine g_iload dX2_plays_154 rfl ?_
  refine g_iload_n 2 dX2_plays_156 rfl rfl ?_
  replace h := ite_of h; rcases h with ⟨hc, h⟩ | ⟨hc, h⟩
  · refine g_icgeT dX2_plays_157 rfl hc ?_
    refine g_iinc (l3 + (-1 : Int32)) dX2_plays_180 rfl rfl (Nat.le_of_ble_eq_true rfl) rfl ?_
    dsimp only [List.set]
    refine g_goto dX2_plays_183 rfl ?_
    cases h
    refine G.weak [true, true, true, true, false, false] rfl ?_
    exact Hl _ rfl hT
  · refine g_icgeF dX2_plays_157 rfl hc ?_
    refine g_this dX2_plays_160 rfl ?_
    refine g_getR hΓ.k fl_X2_113_X2 rfl hT dX2_plays_161 ?_
    refine g_iload dX2_plays_164 rfl ?_
    refine g_this dX2_plays_166 rfl ?_
    refine g_getR hΓ.k fl_X2_116_X2 rfl hT dX2_plays_167 ?_
    refine g_iload dX2_plays_170 rfl ?_
    replace h := bd_of h; obtain ⟨v1, ev1, h⟩ := h
    refine g_iald ev1 dX2_plays_172 ?_
    replace h := bd_of h; obtain ⟨m2, em2, h⟩ := h
    refine g_iast em2 dX2_plays_173 ?_
    replace hT := (sI_ext em2).kd hT
    refine g_iinc (l5 + (1 : Int32)) dX2_plays_174 rfl rfl (Nat.le_of_ble_eq_true rfl) rfl ?_
    dsimp only [List.set]
    refine g_goto dX2_plays_177 rfl ?_
    cases h
    refine G.weak [true, true, true, true, false, true] rfl ?_
    exact Hl _ rfl hT
set_option maxHeartbeats 4000000 in
theorem w_X2_plays_125 {Γ : GG} (hΓ : GF Γ) {m0 mF m : MM} {x : Nat} {l1 : Int32} {l2 : Int32} {l3 : Int32} {l4 : Int32} {l5 : Int32} (hT : (m.K x).1 = 3) {r : Int32} {q : ((Int32 × Int32 × MM) ⊕ (Int32 × Int32 × MM) ⊕ (Int32 × Int32 × Int32 × Int32 × MM) ⊕ (Int32 × Int32 × Int32 × MM)) ⊕ (Int32 × MM)} (h : b_X2_plays_125 x l1 l2 l3 l4 l5 m = some q) (Hl : ∀ z, q = .inl z → p_X2_plays Γ m0 mF x l1 r z) (Hr : ∀ z, q = .inr z → z = (r, mF)) : G Γ kX2_plays cX2_plays m0 mF (.inl (some (.int r))) m 125 [some (.ref x), some (.int l1), some (.int l2), some (.int l3), some (.int l4), some (.int l5)] [] := by
  unfold b_X2_plays_125 at h
  refine g_this dX2_plays_125 rfl ?_
  refine g_getR hΓ.k fl_X2_116_X2 rfl hT dX2_plays_126 ?_
  refine g_iload dX2_plays_129 rfl ?_
  refine g_this dX2_plays_131 rfl ?_
  refine g_getR hΓ.k fl_X2_113_X2 rfl hT dX2_plays_132 ?_
  refine g_iload dX2_plays_135 rfl ?_
  replace h := bd_of h; obtain ⟨v1, ev1, h⟩ := h
  refine g_iald ev1 dX2_plays_137 ?_
  replace h := bd_of h; obtain ⟨m2, em2, h⟩ := h
  refine g_iast em2 dX2_plays_138 ?_
  replace hT := (sI_ext em2).kd hT
  refine g_iinc (l4 + (1 : Int32)) dX2_plays_139 rfl rfl (Nat.le_of_ble_eq_true rfl) rfl ?_
  dsimp only [List.set]
  refine g_iinc (l5 + (1 : Int32)) dX2_plays_142 rfl rfl (Nat.le_of_ble_eq_true rfl) rfl ?_
  dsimp only [List.set]
  refine g_goto dX2_plays_145 rfl ?_
  cases h
  refine G.weak [true, true, true, true, true, true] rfl ?_
  exact Hl _ rfl hT
set_option maxHeartbeats 4000000 in
theorem w_X2_plays_46 {Γ : GG} (hΓ : GF Γ) {m0 mF m : MM} {x : Nat} {l1 : Int32} {l2 : Int32} {l3 : Int32} {l4 : Int32} {l5 : Int32} (hT : (m.K x).1 = 3) {r : Int32} {q : ((Int32 × Int32 × MM) ⊕ (Int32 × Int32 × MM) ⊕ (Int32 × Int32 × Int32 × Int32 × MM) ⊕ (Int32 × Int32 × Int32 × MM)) ⊕ (Int32 × MM)} (h : b_X2_plays_46 x l1 l2 l3 l4 l5 m = some q) (Hl : ∀ z, q = .inl z → p_X2_plays Γ m0 mF x l1 r z) (Hr : ∀ z, q = .inr z → z = (r, mF)) : G Γ kX2_plays cX2_plays m0 mF (.inl (some (.int r))) m 46 [some (.ref x), some (.int l1), some (.int l2), some (.int l3), some (.int l4), some (.int l5)] [] := by
  unfold b_X2_plays_46 at h
  refine g_iload dX2_plays_46 rfl ?_
  refine g_iload_n 2 dX2_plays_48 rfl rfl ?_
  replace h := ite_of h; rcases h with ⟨hc, h⟩ | ⟨hc, h⟩
  · refine g_icgeT dX2_plays_49 rfl hc ?_
    refine g_iload dX2_plays_148 rfl ?_
    refine g_istore_n 2 dX2_plays_150 rfl (Nat.le_of_ble_eq_true rfl) rfl ?_
    dsimp only [List.set]
    refine g_ic 0 dX2_plays_151 rfl ?_
    refine g_istore dX2_plays_152 (Nat.le_of_ble_eq_true rfl) rfl ?_
    dsimp only [List.set]
    cases h
    refine G.weak [true, true, true, true, false, true] rfl ?_
    exact Hl _ rfl hT
  · refine g_icgeF dX2_plays_49 rfl hc ?_
    refine g_iload dX2_plays_52 rfl ?_
    replace h := ite_of h; rcases h with ⟨hc, h⟩ | ⟨hc, h⟩
    · refine g_ifleT dX2_plays_54 rfl hc ?_
      refine G.weak [true, true, true, true, true, true] rfl ?_
      exact w_X2_plays_125 hΓ hT h Hl Hr
    · refine g_ifleF dX2_plays_54 rfl hc ?_
      refine g_this dX2_plays_57 rfl ?_
      refine g_this dX2_plays_58 rfl ?_
      refine g_getR hΓ.k fl_X2_113_X2 rfl hT dX2_plays_59 ?_
      refine g_iload dX2_plays_62 rfl ?_
      replace h := bd_of h; obtain ⟨v1, ev1, h⟩ := h
      refine g_iald ev1 dX2_plays_64 ?_
      refine g_this dX2_plays_65 rfl ?_
      refine g_getR hΓ.k fl_X2_116_X2 rfl hT dX2_plays_66 ?_
      refine g_iload dX2_plays_69 rfl ?_
      refine g_ic 1 dX2_plays_71 rfl ?_
      refine g_isub dX2_plays_72 ?_
      replace h := bd_of h; obtain ⟨v2, ev2, h⟩ := h
      refine g_iald ev2 dX2_plays_73 ?_
      refine g_iload_n 3 dX2_plays_74 rfl rfl ?_
      replace h := bd2_of h; obtain ⟨v3, m4, em4, h⟩ := h
      have C := ct_X2_areGrouped hΓ hT em4
      refine g_callVi hΓ.k vl_X2_424 hT C rfl rfl (Nat.le_of_ble_eq_true rfl) (Nat.le_of_ble_eq_true rfl) (Nat.le_of_ble_eq_true rfl) dX2_plays_75 ?_
      replace hT := (C.1).kd hT
      replace h := ite_of h; rcases h with ⟨hc, h⟩ | ⟨hc, h⟩
      · refine g_ifeqT dX2_plays_78 rfl hc ?_
        refine G.weak [true, true, true, true, true, true] rfl ?_
        exact w_X2_plays_125 hΓ hT h Hl Hr
      · refine g_ifeqF dX2_plays_78 rfl hc ?_
        refine g_this dX2_plays_81 rfl ?_
        refine g_this dX2_plays_82 rfl ?_
        refine g_getR hΓ.k fl_X2_113_X2 rfl hT dX2_plays_83 ?_
        refine g_iload dX2_plays_86 rfl ?_
        replace h := bd_of h; obtain ⟨v5, ev5, h⟩ := h
        refine g_iald ev5 dX2_plays_88 ?_
        refine g_this dX2_plays_89 rfl ?_
        refine g_getR hΓ.k fl_X2_116_X2 rfl hT dX2_plays_90 ?_
        refine g_iload dX2_plays_93 rfl ?_
        refine g_ic 1 dX2_plays_95 rfl ?_
        refine g_isub dX2_plays_96 ?_
        replace h := bd_of h; obtain ⟨v6, ev6, h⟩ := h
        refine g_iald ev6 dX2_plays_97 ?_
        refine g_iload_n 3 dX2_plays_98 rfl rfl ?_
        refine g_iload_n 1 dX2_plays_99 rfl rfl ?_
        replace h := bd2_of h; obtain ⟨v7, m8, em8, h⟩ := h
        have C := ct_X2_isBetter hΓ hT em8
        refine g_callVi hΓ.k vl_X2_427 hT C rfl rfl (Nat.le_of_ble_eq_true rfl) (Nat.le_of_ble_eq_true rfl) (Nat.le_of_ble_eq_true rfl) dX2_plays_100 ?_
        replace hT := (C.1).kd hT
        replace h := ite_of h; rcases h with ⟨hc, h⟩ | ⟨hc, h⟩
        · refine g_ifeqT dX2_plays_103 rfl hc ?_
          refine g_iinc (l5 + (1 : Int32)) dX2_plays_142 rfl rfl (Nat.le_of_ble_eq_true rfl) rfl ?_
          dsimp only [List.set]
          refine g_goto dX2_plays_145 rfl ?_
          cases h
          refine G.weak [true, true, true, true, true, true] rfl ?_
          exact Hl _ rfl hT
        · refine g_ifeqF dX2_plays_103 rfl hc ?_
          refine g_this dX2_plays_106 rfl ?_
          refine g_getR hΓ.k fl_X2_116_X2 rfl hT dX2_plays_107 ?_
          refine g_iload dX2_plays_110 rfl ?_
          refine g_ic 1 dX2_plays_112 rfl ?_
          refine g_isub dX2_plays_113 ?_
          refine g_this dX2_plays_114 rfl ?_
          refine g_getR hΓ.k fl_X2_113_X2 rfl hT dX2_plays_115 ?_
          refine g_iload dX2_plays_118 rfl ?_
          replace h := bd_of h; obtain ⟨v9, ev9, h⟩ := h
          refine g_iald ev9 dX2_plays_120 ?_
          replace h := bd_of h; obtain ⟨m10, em10, h⟩ := h
          refine g_iast em10 dX2_plays_121 ?_
          replace hT := (sI_ext em10).kd hT
          refine g_goto dX2_plays_122 rfl ?_
          refine g_iinc (l5 + (1 : Int32)) dX2_plays_142 rfl rfl (Nat.le_of_ble_eq_true rfl) rfl ?_
          dsimp only [List.set]
          refine g_goto dX2_plays_145 rfl ?_
          cases h
          refine G.weak [true, true, true, true, true, true] rfl ?_
          exact Hl _ rfl hT
set_option maxHeartbeats 4000000 in
theorem w_X2_plays_32 {Γ : GG} (hΓ : GF Γ) {m0 mF m : MM} {x : Nat} {l1 : Int32} {l2 : Int32} {l3 : Int32} (hT : (m.K x).1 = 3) {r : Int32} {q : ((Int32 × Int32 × MM) ⊕ (Int32 × Int32 × MM) ⊕ (Int32 × Int32 × Int32 × Int32 × MM) ⊕ (Int32 × Int32 × Int32 × MM)) ⊕ (Int32 × MM)} (h : b_X2_plays_32 x l1 l2 l3 m = some q) (Hl : ∀ z, q = .inl z → p_X2_plays Γ m0 mF x l1 r z) (Hr : ∀ z, q = .inr z → z = (r, mF)) : G Γ kX2_plays cX2_plays m0 mF (.inl (some (.int r))) m 32 [some (.ref x), some (.int l1), some (.int l2), some (.int l3), none, none] [] := by
  unfold b_X2_plays_32 at h
  refine g_iload_n 3 dX2_plays_32 rfl rfl ?_
  refine g_this dX2_plays_33 rfl ?_
  refine g_getI hΓ.k fl_X2_393_X2 rfl hT dX2_plays_34 ?_
  replace h := ite_of h; rcases h with ⟨hc, h⟩ | ⟨hc, h⟩
  · refine g_icltT dX2_plays_37 rfl hc ?_
    refine g_iload_n 2 dX2_plays_186 rfl rfl ?_
    replace h := ite_of h; rcases h with ⟨hc, h⟩ | ⟨hc, h⟩
    · refine g_ifneF dX2_plays_187 rfl hc ?_
      refine g_ic (-1) dX2_plays_190 rfl ?_
      refine g_goto dX2_plays_191 rfl ?_
      cases h
      cases Hr _ rfl
      exact g_iret rfl dX2_plays_200
    · refine g_ifneT dX2_plays_187 rfl hc ?_
      refine g_this dX2_plays_194 rfl ?_
      refine g_getR hΓ.k fl_X2_113_X2 rfl hT dX2_plays_195 ?_
      refine g_ic 0 dX2_plays_198 rfl ?_
      replace h := bd_of h; obtain ⟨v1, ev1, h⟩ := h
      refine g_iald ev1 dX2_plays_199 ?_
      cases h
      cases Hr _ rfl
      exact g_iret rfl dX2_plays_200
  · refine g_icltF dX2_plays_37 rfl hc ?_
    refine g_ic 0 dX2_plays_40 rfl ?_
    refine g_istore dX2_plays_41 (Nat.le_of_ble_eq_true rfl) rfl ?_
    dsimp only [List.set]
    refine g_ic 0 dX2_plays_43 rfl ?_
    refine g_istore dX2_plays_44 (Nat.le_of_ble_eq_true rfl) rfl ?_
    dsimp only [List.set]
    cases h
    refine G.weak [true, true, true, true, true, true] rfl ?_
    exact Hl _ rfl hT
set_option maxHeartbeats 4000000 in
theorem w_X2_plays_7 {Γ : GG} (hΓ : GF Γ) {m0 mF m : MM} {x : Nat} {l1 : Int32} {l2 : Int32} {l3 : Int32} (hT : (m.K x).1 = 3) {r : Int32} {q : ((Int32 × Int32 × MM) ⊕ (Int32 × Int32 × MM) ⊕ (Int32 × Int32 × Int32 × Int32 × MM) ⊕ (Int32 × Int32 × Int32 × MM)) ⊕ (Int32 × MM)} (h : b_X2_plays_7 x l1 l2 l3 m = some q) (Hl : ∀ z, q = .inl z → p_X2_plays Γ m0 mF x l1 r z) (Hr : ∀ z, q = .inr z → z = (r, mF)) : G Γ kX2_plays cX2_plays m0 mF (.inl (some (.int r))) m 7 [some (.ref x), some (.int l1), some (.int l2), some (.int l3), none, none] [] := by
  unfold b_X2_plays_7 at h
  refine g_iload_n 3 dX2_plays_7 rfl rfl ?_
  refine g_iload_n 2 dX2_plays_8 rfl rfl ?_
  replace h := ite_of h; rcases h with ⟨hc, h⟩ | ⟨hc, h⟩
  · refine g_icgeT dX2_plays_9 rfl hc ?_
    refine g_this dX2_plays_25 rfl ?_
    replace h := bd2_of h; obtain ⟨v1, m2, em2, h⟩ := h
    have C := ct_X2_longOf hΓ hT em2
    refine g_callVi hΓ.k vl_X2_302 hT C rfl rfl (Nat.le_of_ble_eq_true rfl) (Nat.le_of_ble_eq_true rfl) (Nat.le_of_ble_eq_true rfl) dX2_plays_26 ?_
    replace hT := (C.1).kd hT
    refine g_ic 1 dX2_plays_29 rfl ?_
    refine g_isub dX2_plays_30 ?_
    refine g_istore_n 3 dX2_plays_31 rfl (Nat.le_of_ble_eq_true rfl) rfl ?_
    dsimp only [List.set]
    cases h
    refine G.weak [true, true, true, true, false, false] rfl ?_
    exact Hl _ rfl hT
  · refine g_icgeF dX2_plays_9 rfl hc ?_
    refine g_this dX2_plays_12 rfl ?_
    refine g_getR hΓ.k fl_X2_113_X2 rfl hT dX2_plays_13 ?_
    refine g_iload_n 3 dX2_plays_16 rfl rfl ?_
    refine g_iload_n 3 dX2_plays_17 rfl rfl ?_
    replace h := bd_of h; obtain ⟨m3, em3, h⟩ := h
    refine g_iast em3 dX2_plays_18 ?_
    replace hT := (sI_ext em3).kd hT
    refine g_iinc (l3 + (1 : Int32)) dX2_plays_19 rfl rfl (Nat.le_of_ble_eq_true rfl) rfl ?_
    dsimp only [List.set]
    refine g_goto dX2_plays_22 rfl ?_
    cases h
    refine G.weak [true, true, true, true, false, false] rfl ?_
    exact Hl _ rfl hT
set_option maxHeartbeats 4000000 in
theorem w_X2_plays_0 {Γ : GG} (hΓ : GF Γ) {m0 mF m : MM} {x : Nat} {l1 : Int32} (hT : (m.K x).1 = 3) {r : Int32} {q : ((Int32 × Int32 × MM) ⊕ (Int32 × Int32 × MM) ⊕ (Int32 × Int32 × Int32 × Int32 × MM) ⊕ (Int32 × Int32 × Int32 × MM)) ⊕ (Int32 × MM)} (h : b_X2_plays_0 x l1 m = some q) (Hl : ∀ z, q = .inl z → p_X2_plays Γ m0 mF x l1 r z) (Hr : ∀ z, q = .inr z → z = (r, mF)) : G Γ kX2_plays cX2_plays m0 mF (.inl (some (.int r))) m 0 [some (.ref x), some (.int l1), none, none, none, none] [] := by
  unfold b_X2_plays_0 at h
  refine g_this dX2_plays_0 rfl ?_
  refine g_getI hΓ.k fl_X2_390_X2 rfl hT dX2_plays_1 ?_
  refine g_istore_n 2 dX2_plays_4 rfl (Nat.le_of_ble_eq_true rfl) rfl ?_
  dsimp only [List.set]
  refine g_ic 0 dX2_plays_5 rfl ?_
  refine g_istore_n 3 dX2_plays_6 rfl (Nat.le_of_ble_eq_true rfl) rfl ?_
  dsimp only [List.set]
  cases h
  refine G.weak [true, true, true, true, false, false] rfl ?_
  exact Hl _ rfl hT
theorem ct_X2_plays {Γ : GG} (hΓ : GF Γ) {m mF : MM} {x : Nat} {l1 : Int32} (hT : (m.K x).1 = 3) {r : Int32} (h : f_X2_plays x l1 m = some (r, mF)) : Ct Γ kX2_plays cX2_plays [.ref x, .int l1] m (.inl (some (.int r))) mF := by
  unfold f_X2_plays at h
  replace h := bd_of h; obtain ⟨q, e, h⟩ := h
  have H := rx_go_ind (P := p_X2_plays Γ m mF x l1 r) (fun z o hs Hl Hr => by
    match z with
    | (.inl (l2, l3, m)) => exact fun hT => w_X2_plays_7 hΓ hT hs Hl Hr
    | (.inr (.inl (l2, l3, m))) => exact fun hT => w_X2_plays_32 hΓ hT hs Hl Hr
    | (.inr (.inr (.inl (l2, l3, l4, l5, m)))) => exact fun hT => w_X2_plays_46 hΓ hT hs Hl Hr
    | (.inr (.inr (.inr (l2, l3, l5, m)))) => exact fun hT => w_X2_plays_154 hΓ hT hs Hl Hr) h
  exact Ct.of (κ := kX2_plays) (by decide) rfl (Nat.le_of_ble_eq_true rfl) rfl (w_X2_plays_0 hΓ hT e H.1 H.2)
def p_X2_turnsNow (Γ : GG) (m0 mF : MM) (x : Nat) (r : Unit) : ((Int32 × MM)) → Prop := fun z => match z with
  | (l1, m) => (m.K x).1 = 3 → G Γ kX2_turnsNow cX2_turnsNow m0 mF (.inl none) m 2 [some (.ref x), some (.int l1)] []
set_option maxHeartbeats 4000000 in
theorem w_X2_turnsNow_2 {Γ : GG} (hΓ : GF Γ) {m0 mF m : MM} {x : Nat} {l1 : Int32} (hT : (m.K x).1 = 3) {r : Unit} {q : ((Int32 × MM)) ⊕ (Unit × MM)} (h : b_X2_turnsNow_2 x l1 m = some q) (Hl : ∀ z, q = .inl z → p_X2_turnsNow Γ m0 mF x r z) (Hr : ∀ z, q = .inr z → z = (r, mF)) : G Γ kX2_turnsNow cX2_turnsNow m0 mF (.inl none) m 2 [some (.ref x), some (.int l1)] [] := by
  unfold b_X2_turnsNow_2 at h
  refine g_iload_n 1 dX2_turnsNow_2 rfl rfl ?_
  refine g_bi (6) dX2_turnsNow_3 rfl ?_
  replace h := ite_of h; rcases h with ⟨hc, h⟩ | ⟨hc, h⟩
  · refine g_icgeT dX2_turnsNow_5 rfl hc ?_
    cases h
    cases Hr _ rfl
    exact g_vret rfl dX2_turnsNow_26
  · refine g_icgeF dX2_turnsNow_5 rfl hc ?_
    refine g_this dX2_turnsNow_8 rfl ?_
    refine g_getR hΓ.k fl_X2_122_X2 rfl hT dX2_turnsNow_9 ?_
    refine g_iload_n 1 dX2_turnsNow_12 rfl rfl ?_
    refine g_this dX2_turnsNow_13 rfl ?_
    refine g_getR hΓ.k fl_X2_95_X2 rfl hT dX2_turnsNow_14 ?_
    refine g_iload_n 1 dX2_turnsNow_17 rfl rfl ?_
    replace h := bd_of h; obtain ⟨v1, ev1, h⟩ := h
    refine g_iald ev1 dX2_turnsNow_18 ?_
    replace h := bd_of h; obtain ⟨m2, em2, h⟩ := h
    refine g_iast em2 dX2_turnsNow_19 ?_
    replace hT := (sI_ext em2).kd hT
    refine g_iinc (l1 + (1 : Int32)) dX2_turnsNow_20 rfl rfl (Nat.le_of_ble_eq_true rfl) rfl ?_
    dsimp only [List.set]
    refine g_goto dX2_turnsNow_23 rfl ?_
    cases h
    refine G.weak [true, true] rfl ?_
    exact Hl _ rfl hT
set_option maxHeartbeats 4000000 in
theorem w_X2_turnsNow_0 {Γ : GG} (hΓ : GF Γ) {m0 mF m : MM} {x : Nat} (hT : (m.K x).1 = 3) {r : Unit} {q : ((Int32 × MM)) ⊕ (Unit × MM)} (h : b_X2_turnsNow_0 x m = some q) (Hl : ∀ z, q = .inl z → p_X2_turnsNow Γ m0 mF x r z) (Hr : ∀ z, q = .inr z → z = (r, mF)) : G Γ kX2_turnsNow cX2_turnsNow m0 mF (.inl none) m 0 [some (.ref x), none] [] := by
  unfold b_X2_turnsNow_0 at h
  refine g_ic 0 dX2_turnsNow_0 rfl ?_
  refine g_istore_n 1 dX2_turnsNow_1 rfl (Nat.le_of_ble_eq_true rfl) rfl ?_
  dsimp only [List.set]
  cases h
  refine G.weak [true, true] rfl ?_
  exact Hl _ rfl hT
theorem ct_X2_turnsNow {Γ : GG} (hΓ : GF Γ) {m mF : MM} {x : Nat} (hT : (m.K x).1 = 3) {r : Unit} (h : f_X2_turnsNow x m = some (r, mF)) : Ct Γ kX2_turnsNow cX2_turnsNow [.ref x] m (.inl none) mF := by
  unfold f_X2_turnsNow at h
  replace h := bd_of h; obtain ⟨q, e, h⟩ := h
  have H := rx_go_ind (P := p_X2_turnsNow Γ m mF x r) (fun z o hs Hl Hr => by
    match z with
    | (l1, m) => exact fun hT => w_X2_turnsNow_2 hΓ hT hs Hl Hr) h
  exact Ct.of (κ := kX2_turnsNow) (by decide) rfl (Nat.le_of_ble_eq_true rfl) rfl (w_X2_turnsNow_0 hΓ hT e H.1 H.2)
set_option maxHeartbeats 4000000 in
theorem w_X2_written_0 {Γ : GG} (hΓ : GF Γ) {m0 mF m : MM} {x : Nat} {l1 : Int32} (hT : (m.K x).1 = 3) {r : Int32} (h : b_X2_written_0 x l1 m = some (r, mF)) : G Γ kX2_written cX2_written m0 mF (.inl (some (.int r))) m 0 [some (.ref x), some (.int l1), none] [] := by
  unfold b_X2_written_0 at h
  refine g_this dX2_written_0 rfl ?_
  refine g_ic 0 dX2_written_1 rfl ?_
  replace h := bd_of h; obtain ⟨m1, em1, h⟩ := h
  refine g_pI hΓ.k fl_X2_248_X2 (fun h9 => by cases h9) rfl (Or.inl ⟨rfl, rfl⟩) em1 dX2_written_2 ?_
  replace hT := (pI_ext em1).kd hT
  refine g_iload_n 1 dX2_written_5 rfl rfl ?_
  replace h := bd2_of h; obtain ⟨v2, m3, em3, h⟩ := h
  have C := ct_X2_isGuild hΓ em3
  refine g_callSi sl_X2_308 C rfl rfl (Nat.le_of_ble_eq_true rfl) (Nat.le_of_ble_eq_true rfl) (Nat.le_of_ble_eq_true rfl) dX2_written_6 ?_
  replace hT := (C.1).kd hT
  replace h := ite_of h; rcases h with ⟨hc, h⟩ | ⟨hc, h⟩
  · refine g_ifeqT dX2_written_9 rfl hc ?_
    refine g_ldcw (v := -1000000) q1595 dX2_written_19 ?_
    cases h
    exact g_iret rfl dX2_written_22
  · refine g_ifeqF dX2_written_9 rfl hc ?_
    refine g_this dX2_written_12 rfl ?_
    replace h := bd2_of h; obtain ⟨v4, m5, em5, h⟩ := h
    have C := ct_X2_layFromRow hΓ hT em5
    refine g_callVi hΓ.k vl_X2_434 hT C rfl rfl (Nat.le_of_ble_eq_true rfl) (Nat.le_of_ble_eq_true rfl) (Nat.le_of_ble_eq_true rfl) dX2_written_13 ?_
    replace hT := (C.1).kd hT
    replace h := ite_of h; rcases h with ⟨hc, h⟩ | ⟨hc, h⟩
    · refine g_ifneF dX2_written_16 rfl hc ?_
      refine g_ldcw (v := -1000000) q1595 dX2_written_19 ?_
      cases h
      exact g_iret rfl dX2_written_22
    · refine g_ifneT dX2_written_16 rfl hc ?_
      refine g_this dX2_written_23 rfl ?_
      replace h := bd2_of h; obtain ⟨_, m6, em6, h⟩ := h
      have C := ct_X2_turnsNow hΓ hT em6
      refine g_callVv hΓ.k vl_X2_437 hT C rfl rfl (Nat.le_of_ble_eq_true rfl) (Nat.le_of_ble_eq_true rfl) (Nat.le_of_ble_eq_true rfl) dX2_written_24 ?_
      replace hT := (C.1).kd hT
      refine g_this dX2_written_27 rfl ?_
      refine g_ic 0 dX2_written_28 rfl ?_
      replace h := bd2_of h; obtain ⟨v7, m8, em8, h⟩ := h
      have C := ct_X2_plays hΓ hT em8
      refine g_callVi hΓ.k vl_X2_440 hT C rfl rfl (Nat.le_of_ble_eq_true rfl) (Nat.le_of_ble_eq_true rfl) (Nat.le_of_ble_eq_true rfl) dX2_written_29 ?_
      replace hT := (C.1).kd hT
      refine g_istore_n 2 dX2_written_32 rfl (Nat.le_of_ble_eq_true rfl) rfl ?_
      dsimp only [List.set]
      refine g_iload_n 2 dX2_written_33 rfl rfl ?_
      replace h := ite_of h; rcases h with ⟨hc, h⟩ | ⟨hc, h⟩
      · refine g_ifgeT dX2_written_34 rfl hc ?_
        refine g_this dX2_written_41 rfl ?_
        refine g_iload_n 2 dX2_written_42 rfl rfl ?_
        replace h := bd2_of h; obtain ⟨_, m9, em9, h⟩ := h
        have C := ct_X2_lay hΓ hT em9
        refine g_callVv hΓ.k vl_X2_443 hT C rfl rfl (Nat.le_of_ble_eq_true rfl) (Nat.le_of_ble_eq_true rfl) (Nat.le_of_ble_eq_true rfl) dX2_written_43 ?_
        replace hT := (C.1).kd hT
        refine g_this dX2_written_46 rfl ?_
        refine g_getR hΓ.k fl_X2_110_X2 rfl hT dX2_written_47 ?_
        refine g_ic 3 dX2_written_50 rfl ?_
        refine g_iload_n 2 dX2_written_51 rfl rfl ?_
        refine g_imul dX2_written_52 ?_
        refine g_iload_n 1 dX2_written_53 rfl rfl ?_
        refine g_iadd dX2_written_54 ?_
        replace h := bd_of h; obtain ⟨v10, ev10, h⟩ := h
        refine g_iald ev10 dX2_written_55 ?_
        cases h
        exact g_iret rfl dX2_written_56
      · refine g_ifgeF dX2_written_34 rfl hc ?_
        refine g_ldcw (v := -1000000) q1595 dX2_written_37 ?_
        cases h
        exact g_iret rfl dX2_written_40
theorem ct_X2_written {Γ : GG} (hΓ : GF Γ) {m mF : MM} {x : Nat} {l1 : Int32} (hT : (m.K x).1 = 3) {r : Int32} (h : f_X2_written x l1 m = some (r, mF)) : Ct Γ kX2_written cX2_written [.ref x, .int l1] m (.inl (some (.int r))) mF := by
  unfold f_X2_written at h
  exact Ct.of (κ := kX2_written) (by decide) rfl (Nat.le_of_ble_eq_true rfl) rfl (w_X2_written_0 hΓ hT h)
set_option maxHeartbeats 4000000 in
theorem w_X2_heldBy_0 {Γ : GG} (hΓ : GF Γ) {m0 mF m : MM} {x : Nat} {l1 : Int32} (hT : (m.K x).1 = 3) {r : Int32} (h : b_X2_heldBy_0 x l1 m = some (r, mF)) : G Γ kX2_heldBy cX2_heldBy m0 mF (.inl (some (.int r))) m 0 [some (.ref x), some (.int l1), none] [] := by
  unfold b_X2_heldBy_0 at h
  refine g_this dX2_heldBy_0 rfl ?_
  refine g_iload_n 1 dX2_heldBy_1 rfl rfl ?_
  replace h := bd2_of h; obtain ⟨v1, m2, em2, h⟩ := h
  have C := ct_X2_plays hΓ hT em2
  refine g_callVi hΓ.k vl_X2_440 hT C rfl rfl (Nat.le_of_ble_eq_true rfl) (Nat.le_of_ble_eq_true rfl) (Nat.le_of_ble_eq_true rfl) dX2_heldBy_2 ?_
  replace hT := (C.1).kd hT
  refine g_istore_n 2 dX2_heldBy_5 rfl (Nat.le_of_ble_eq_true rfl) rfl ?_
  dsimp only [List.set]
  refine g_this dX2_heldBy_6 rfl ?_
  refine g_iload_n 2 dX2_heldBy_7 rfl rfl ?_
  refine g_iload_n 1 dX2_heldBy_8 rfl rfl ?_
  replace h := bd2_of h; obtain ⟨v3, m4, em4, h⟩ := h
  have C := ct_X2_gainOf hΓ hT em4
  refine g_callVi hΓ.k vl_X2_421 hT C rfl rfl (Nat.le_of_ble_eq_true rfl) (Nat.le_of_ble_eq_true rfl) (Nat.le_of_ble_eq_true rfl) dX2_heldBy_9 ?_
  replace hT := (C.1).kd hT
  cases h
  exact g_iret rfl dX2_heldBy_12
theorem ct_X2_heldBy {Γ : GG} (hΓ : GF Γ) {m mF : MM} {x : Nat} {l1 : Int32} (hT : (m.K x).1 = 3) {r : Int32} (h : f_X2_heldBy x l1 m = some (r, mF)) : Ct Γ kX2_heldBy cX2_heldBy [.ref x, .int l1] m (.inl (some (.int r))) mF := by
  unfold f_X2_heldBy at h
  exact Ct.of (κ := kX2_heldBy) (by decide) rfl (Nat.le_of_ble_eq_true rfl) rfl (w_X2_heldBy_0 hΓ hT h)
set_option maxHeartbeats 4000000 in
theorem w_X2_held_0 {Γ : GG} (hΓ : GF Γ) {m0 mF m : MM} {x : Nat} {l1 : Int32} (hT : (m.K x).1 = 3) {r : Int32} (h : b_X2_held_0 x l1 m = some (r, mF)) : G Γ kX2_held cX2_held m0 mF (.inl (some (.int r))) m 0 [some (.ref x), some (.int l1)] [] := by
  unfold b_X2_held_0 at h
  refine g_iload_n 1 dX2_held_0 rfl rfl ?_
  refine g_ic 1 dX2_held_1 rfl ?_
  refine g_bi (7) dX2_held_2 rfl ?_
  replace h := bd2_of h; obtain ⟨v1, m2, em2, h⟩ := h
  have C := ct_X2_isIn hΓ em2
  refine g_callSi sl_X2_298 C rfl rfl (Nat.le_of_ble_eq_true rfl) (Nat.le_of_ble_eq_true rfl) (Nat.le_of_ble_eq_true rfl) dX2_held_4 ?_
  replace hT := (C.1).kd hT
  replace h := ite_of h; rcases h with ⟨hc, h⟩ | ⟨hc, h⟩
  · refine g_ifeqT dX2_held_7 rfl hc ?_
    refine g_ldcw (v := -1000000) q1595 dX2_held_24 ?_
    cases h
    exact g_iret rfl dX2_held_27
  · refine g_ifeqF dX2_held_7 rfl hc ?_
    refine g_this dX2_held_10 rfl ?_
    replace h := bd2_of h; obtain ⟨v3, m4, em4, h⟩ := h
    have C := ct_X2_layFromRow hΓ hT em4
    refine g_callVi hΓ.k vl_X2_434 hT C rfl rfl (Nat.le_of_ble_eq_true rfl) (Nat.le_of_ble_eq_true rfl) (Nat.le_of_ble_eq_true rfl) dX2_held_11 ?_
    replace hT := (C.1).kd hT
    replace h := ite_of h; rcases h with ⟨hc, h⟩ | ⟨hc, h⟩
    · refine g_ifeqT dX2_held_14 rfl hc ?_
      refine g_ldcw (v := -1000000) q1595 dX2_held_24 ?_
      cases h
      exact g_iret rfl dX2_held_27
    · refine g_ifeqF dX2_held_14 rfl hc ?_
      refine g_this dX2_held_17 rfl ?_
      refine g_getI hΓ.k fl_X2_390_X2 rfl hT dX2_held_18 ?_
      replace h := ite_of h; rcases h with ⟨hc, h⟩ | ⟨hc, h⟩
      · refine g_ifneF dX2_held_21 rfl hc ?_
        refine g_ldcw (v := -1000000) q1595 dX2_held_24 ?_
        cases h
        exact g_iret rfl dX2_held_27
      · refine g_ifneT dX2_held_21 rfl hc ?_
        refine g_this dX2_held_28 rfl ?_
        replace h := bd2_of h; obtain ⟨_, m5, em5, h⟩ := h
        have C := ct_X2_turnsNow hΓ hT em5
        refine g_callVv hΓ.k vl_X2_437 hT C rfl rfl (Nat.le_of_ble_eq_true rfl) (Nat.le_of_ble_eq_true rfl) (Nat.le_of_ble_eq_true rfl) dX2_held_29 ?_
        replace hT := (C.1).kd hT
        refine g_this dX2_held_32 rfl ?_
        refine g_iload_n 1 dX2_held_33 rfl rfl ?_
        replace h := bd2_of h; obtain ⟨v6, m7, em7, h⟩ := h
        have C := ct_X2_heldBy hΓ hT em7
        refine g_callVi hΓ.k vl_X2_446 hT C rfl rfl (Nat.le_of_ble_eq_true rfl) (Nat.le_of_ble_eq_true rfl) (Nat.le_of_ble_eq_true rfl) dX2_held_34 ?_
        replace hT := (C.1).kd hT
        cases h
        exact g_iret rfl dX2_held_37
theorem ct_X2_held {Γ : GG} (hΓ : GF Γ) {m mF : MM} {x : Nat} {l1 : Int32} (hT : (m.K x).1 = 3) {r : Int32} (h : f_X2_held x l1 m = some (r, mF)) : Ct Γ kX2_held cX2_held [.ref x, .int l1] m (.inl (some (.int r))) mF := by
  unfold f_X2_held at h
  exact Ct.of (κ := kX2_held) (by decide) rfl (Nat.le_of_ble_eq_true rfl) rfl (w_X2_held_0 hΓ hT h)
def p_X2_common (Γ : GG) (m0 mF : MM) (l0 : Int32) (l1 : Int32) (r : Int32) : ((Int32 × Int32 × MM)) → Prop := fun z => match z with
  | (l2, l3, m) => G Γ kX2_common cX2_common m0 mF (.inl (some (.int r))) m 13 [some (.int l0), some (.int l1), some (.int l2), some (.int l3), none] []
set_option maxHeartbeats 4000000 in
theorem w_X2_common_13 {Γ : GG} (hΓ : GF Γ) {m0 mF m : MM} {l0 : Int32} {l1 : Int32} {l2 : Int32} {l3 : Int32} {r : Int32} {q : ((Int32 × Int32 × MM)) ⊕ (Int32 × MM)} (h : b_X2_common_13 l0 l1 l2 l3 m = some q) (Hl : ∀ z, q = .inl z → p_X2_common Γ m0 mF l0 l1 r z) (Hr : ∀ z, q = .inr z → z = (r, mF)) : G Γ kX2_common cX2_common m0 mF (.inl (some (.int r))) m 13 [some (.int l0), some (.int l1), some (.int l2), some (.int l3), none] [] := by
  unfold b_X2_common_13 at h
  refine g_iload_n 3 dX2_common_13 rfl rfl ?_
  replace h := ite_of h; rcases h with ⟨hc, h⟩ | ⟨hc, h⟩
  · refine g_ifeqT dX2_common_14 rfl hc ?_
    refine g_iload_n 2 dX2_common_30 rfl rfl ?_
    cases h
    cases Hr _ rfl
    exact g_iret rfl dX2_common_31
  · refine g_ifeqF dX2_common_14 rfl hc ?_
    refine g_iload_n 2 dX2_common_17 rfl rfl ?_
    refine g_iload_n 3 dX2_common_18 rfl rfl ?_
    replace h := ite_of h; rcases h with ⟨hc, h⟩ | ⟨hc, h⟩
    · cases h
    refine g_irem dX2_common_19 hc ?_
    refine g_istore dX2_common_20 (Nat.le_of_ble_eq_true rfl) rfl ?_
    dsimp only [List.set]
    refine g_iload_n 3 dX2_common_22 rfl rfl ?_
    refine g_istore_n 2 dX2_common_23 rfl (Nat.le_of_ble_eq_true rfl) rfl ?_
    dsimp only [List.set]
    refine g_iload dX2_common_24 rfl ?_
    refine g_istore_n 3 dX2_common_26 rfl (Nat.le_of_ble_eq_true rfl) rfl ?_
    dsimp only [List.set]
    refine g_goto dX2_common_27 rfl ?_
    cases h
    refine G.weak [true, true, true, true, false] rfl ?_
    exact Hl _ rfl
set_option maxHeartbeats 4000000 in
theorem w_X2_common_0 {Γ : GG} (hΓ : GF Γ) {m0 mF m : MM} {l0 : Int32} {l1 : Int32} {r : Int32} {q : ((Int32 × Int32 × MM)) ⊕ (Int32 × MM)} (h : b_X2_common_0 l0 l1 m = some q) (Hl : ∀ z, q = .inl z → p_X2_common Γ m0 mF l0 l1 r z) (Hr : ∀ z, q = .inr z → z = (r, mF)) : G Γ kX2_common cX2_common m0 mF (.inl (some (.int r))) m 0 [some (.int l0), some (.int l1), none, none, none] [] := by
  unfold b_X2_common_0 at h
  refine g_iload_n 0 dX2_common_0 rfl rfl ?_
  replace h := ite_of h; rcases h with ⟨hc, h⟩ | ⟨hc, h⟩
  · refine g_ifgeT dX2_common_1 rfl hc ?_
    refine g_iload_n 0 dX2_common_9 rfl rfl ?_
    refine g_istore_n 2 dX2_common_10 rfl (Nat.le_of_ble_eq_true rfl) rfl ?_
    dsimp only [List.set]
    refine g_iload_n 1 dX2_common_11 rfl rfl ?_
    refine g_istore_n 3 dX2_common_12 rfl (Nat.le_of_ble_eq_true rfl) rfl ?_
    dsimp only [List.set]
    cases h
    refine G.weak [true, true, true, true, false] rfl ?_
    exact Hl _ rfl
  · refine g_ifgeF dX2_common_1 rfl hc ?_
    refine g_iload_n 0 dX2_common_4 rfl rfl ?_
    refine g_ineg dX2_common_5 ?_
    refine g_goto dX2_common_6 rfl ?_
    refine g_istore_n 2 dX2_common_10 rfl (Nat.le_of_ble_eq_true rfl) rfl ?_
    dsimp only [List.set]
    refine g_iload_n 1 dX2_common_11 rfl rfl ?_
    refine g_istore_n 3 dX2_common_12 rfl (Nat.le_of_ble_eq_true rfl) rfl ?_
    dsimp only [List.set]
    cases h
    refine G.weak [true, true, true, true, false] rfl ?_
    exact Hl _ rfl
theorem ct_X2_common {Γ : GG} (hΓ : GF Γ) {m mF : MM} {l0 : Int32} {l1 : Int32} {r : Int32} (h : f_X2_common l0 l1 m = some (r, mF)) : Ct Γ kX2_common cX2_common [.int l0, .int l1] m (.inl (some (.int r))) mF := by
  unfold f_X2_common at h
  replace h := bd_of h; obtain ⟨q, e, h⟩ := h
  have H := rx_go_ind (P := p_X2_common Γ m mF l0 l1 r) (fun z o hs Hl Hr => by
    match z with
    | (l2, l3, m) => exact w_X2_common_13 hΓ hs Hl Hr) h
  exact Ct.of (κ := kX2_common) (by decide) rfl (Nat.le_of_ble_eq_true rfl) rfl (w_X2_common_0 hΓ e H.1 H.2)
set_option maxHeartbeats 4000000 in
theorem w_X2_orderTurn_55 {Γ : GG} (hΓ : GF Γ) {m0 mF m : MM} {l0 : Int32} {l1 : Int32} {l3 : Int32} {l4 : Int32} {s0 : Int32} {s1 : Int32} {r : Int32} (h : b_X2_orderTurn_55 l0 l1 l3 l4 s0 s1 m = some (r, mF)) : G Γ kX2_orderTurn cX2_orderTurn m0 mF (.inl (some (.int r))) m 55 [some (.int l0), some (.int l1), none, some (.int l3), some (.int l4), none] [.int s1, .int s0] := by
  unfold b_X2_orderTurn_55 at h
  replace h := ite_of h; rcases h with ⟨hc, h⟩ | ⟨hc, h⟩
  · refine g_icneF dX2_orderTurn_55 rfl hc ?_
    refine g_iload_n 3 dX2_orderTurn_58 rfl rfl ?_
    refine g_goto dX2_orderTurn_59 rfl ?_
    cases h
    exact g_iret rfl dX2_orderTurn_64
  · refine g_icneT dX2_orderTurn_55 rfl hc ?_
    refine g_iload dX2_orderTurn_62 rfl ?_
    cases h
    exact g_iret rfl dX2_orderTurn_64
set_option maxHeartbeats 4000000 in
theorem w_X2_orderTurn_44 {Γ : GG} (hΓ : GF Γ) {m0 mF m : MM} {l0 : Int32} {l1 : Int32} {l3 : Int32} {l4 : Int32} {s0 : Int32} {r : Int32} (h : b_X2_orderTurn_44 l0 l1 l3 l4 s0 m = some (r, mF)) : G Γ kX2_orderTurn cX2_orderTurn m0 mF (.inl (some (.int r))) m 44 [some (.int l0), some (.int l1), none, some (.int l3), some (.int l4), none] [.int s0] := by
  unfold b_X2_orderTurn_44 at h
  refine g_iload_n 0 dX2_orderTurn_44 rfl rfl ?_
  refine g_ic 2 dX2_orderTurn_45 rfl ?_
  refine g_irem dX2_orderTurn_46 (by decide) ?_
  replace h := ite_of h; rcases h with ⟨hc, h⟩ | ⟨hc, h⟩
  · refine g_ifneF dX2_orderTurn_47 rfl hc ?_
    refine g_ic 1 dX2_orderTurn_50 rfl ?_
    refine g_goto dX2_orderTurn_51 rfl ?_
    refine G.weak [true, true, false, true, true, false] rfl ?_
    exact w_X2_orderTurn_55 hΓ h
  · refine g_ifneT dX2_orderTurn_47 rfl hc ?_
    refine g_ic 0 dX2_orderTurn_54 rfl ?_
    refine G.weak [true, true, false, true, true, false] rfl ?_
    exact w_X2_orderTurn_55 hΓ h
set_option maxHeartbeats 4000000 in
theorem w_X2_orderTurn_13 {Γ : GG} (hΓ : GF Γ) {m0 mF m : MM} {l0 : Int32} {l1 : Int32} {l2 : Int32} {s0 : Int32} {r : Int32} (h : b_X2_orderTurn_13 l0 l1 l2 s0 m = some (r, mF)) : G Γ kX2_orderTurn cX2_orderTurn m0 mF (.inl (some (.int r))) m 13 [some (.int l0), some (.int l1), some (.int l2), none, none, none] [.int s0] := by
  unfold b_X2_orderTurn_13 at h
  refine g_istore_n 3 dX2_orderTurn_13 rfl (Nat.le_of_ble_eq_true rfl) rfl ?_
  dsimp only [List.set]
  refine g_ic 3 dX2_orderTurn_14 rfl ?_
  refine g_iload_n 2 dX2_orderTurn_15 rfl rfl ?_
  refine g_isub dX2_orderTurn_16 ?_
  refine g_iload_n 3 dX2_orderTurn_17 rfl rfl ?_
  refine g_isub dX2_orderTurn_18 ?_
  refine g_istore dX2_orderTurn_19 (Nat.le_of_ble_eq_true rfl) rfl ?_
  dsimp only [List.set]
  refine g_iload_n 1 dX2_orderTurn_21 rfl rfl ?_
  refine g_ic 3 dX2_orderTurn_22 rfl ?_
  refine g_irem dX2_orderTurn_23 (by decide) ?_
  refine g_istore dX2_orderTurn_24 (Nat.le_of_ble_eq_true rfl) rfl ?_
  dsimp only [List.set]
  refine g_iload dX2_orderTurn_26 rfl ?_
  replace h := ite_of h; rcases h with ⟨hc, h⟩ | ⟨hc, h⟩
  · refine g_ifneF dX2_orderTurn_28 rfl hc ?_
    refine g_iload_n 2 dX2_orderTurn_31 rfl rfl ?_
    cases h
    exact g_iret rfl dX2_orderTurn_32
  · refine g_ifneT dX2_orderTurn_28 rfl hc ?_
    refine g_iload dX2_orderTurn_33 rfl ?_
    refine g_ic 1 dX2_orderTurn_35 rfl ?_
    replace h := ite_of h; rcases h with ⟨hc, h⟩ | ⟨hc, h⟩
    · refine g_icneF dX2_orderTurn_36 rfl hc ?_
      refine g_ic 1 dX2_orderTurn_39 rfl ?_
      refine g_goto dX2_orderTurn_40 rfl ?_
      refine G.weak [true, true, false, true, true, false] rfl ?_
      exact w_X2_orderTurn_44 hΓ h
    · refine g_icneT dX2_orderTurn_36 rfl hc ?_
      refine g_ic 0 dX2_orderTurn_43 rfl ?_
      refine G.weak [true, true, false, true, true, false] rfl ?_
      exact w_X2_orderTurn_44 hΓ h
set_option maxHeartbeats 4000000 in
theorem w_X2_orderTurn_0 {Γ : GG} (hΓ : GF Γ) {m0 mF m : MM} {l0 : Int32} {l1 : Int32} {r : Int32} (h : b_X2_orderTurn_0 l0 l1 m = some (r, mF)) : G Γ kX2_orderTurn cX2_orderTurn m0 mF (.inl (some (.int r))) m 0 [some (.int l0), some (.int l1), none, none, none, none] [] := by
  unfold b_X2_orderTurn_0 at h
  refine g_iload_n 0 dX2_orderTurn_0 rfl rfl ?_
  refine g_ic 2 dX2_orderTurn_1 rfl ?_
  refine g_idiv dX2_orderTurn_2 (by decide) ?_
  refine g_istore_n 2 dX2_orderTurn_3 rfl (Nat.le_of_ble_eq_true rfl) rfl ?_
  dsimp only [List.set]
  refine g_iload_n 2 dX2_orderTurn_4 rfl rfl ?_
  replace h := ite_of h; rcases h with ⟨hc, h⟩ | ⟨hc, h⟩
  · refine g_ifneF dX2_orderTurn_5 rfl hc ?_
    refine g_ic 1 dX2_orderTurn_8 rfl ?_
    refine g_goto dX2_orderTurn_9 rfl ?_
    refine G.weak [true, true, true, false, false, false] rfl ?_
    exact w_X2_orderTurn_13 hΓ h
  · refine g_ifneT dX2_orderTurn_5 rfl hc ?_
    refine g_ic 0 dX2_orderTurn_12 rfl ?_
    refine G.weak [true, true, true, false, false, false] rfl ?_
    exact w_X2_orderTurn_13 hΓ h
theorem ct_X2_orderTurn {Γ : GG} (hΓ : GF Γ) {m mF : MM} {l0 : Int32} {l1 : Int32} {r : Int32} (h : f_X2_orderTurn l0 l1 m = some (r, mF)) : Ct Γ kX2_orderTurn cX2_orderTurn [.int l0, .int l1] m (.inl (some (.int r))) mF := by
  unfold f_X2_orderTurn at h
  exact Ct.of (κ := kX2_orderTurn) (by decide) rfl (Nat.le_of_ble_eq_true rfl) rfl (w_X2_orderTurn_0 hΓ h)
def p_X2_share (Γ : GG) (m0 mF : MM) (x : Nat) (l1 : Int32) (l2 : Int32) (r : Int32) : ((Int32 × Int32 × MM) ⊕ (Int32 × Int32 × Int32 × Int32 × MM)) → Prop := fun z => match z with
  | (.inl (l3, l4, m)) => (m.K x).1 = 3 → G Γ kX2_share cX2_share m0 mF (.inl (some (.int r))) m 43 [some (.ref x), some (.int l1), some (.int l2), some (.int l3), some (.int l4), none, none] []
  | (.inr (l3, l4, l5, l6, m)) => (m.K x).1 = 3 → G Γ kX2_share cX2_share m0 mF (.inl (some (.int r))) m 56 [some (.ref x), some (.int l1), some (.int l2), some (.int l3), some (.int l4), some (.int l5), some (.int l6)] []
set_option maxHeartbeats 4000000 in
theorem w_X2_share_56 {Γ : GG} (hΓ : GF Γ) {m0 mF m : MM} {x : Nat} {l1 : Int32} {l2 : Int32} {l3 : Int32} {l4 : Int32} {l5 : Int32} {l6 : Int32} (hT : (m.K x).1 = 3) {r : Int32} {q : ((Int32 × Int32 × MM) ⊕ (Int32 × Int32 × Int32 × Int32 × MM)) ⊕ (Int32 × MM)} (h : b_X2_share_56 x l1 l2 l3 l4 l5 l6 m = some q) (Hl : ∀ z, q = .inl z → p_X2_share Γ m0 mF x l1 l2 r z) (Hr : ∀ z, q = .inr z → z = (r, mF)) : G Γ kX2_share cX2_share m0 mF (.inl (some (.int r))) m 56 [some (.ref x), some (.int l1), some (.int l2), some (.int l3), some (.int l4), some (.int l5), some (.int l6)] [] := by
  unfold b_X2_share_56 at h
  refine g_iload dX2_share_56 rfl ?_
  refine g_iload dX2_share_58 rfl ?_
  replace h := bd2_of h; obtain ⟨v1, m2, em2, h⟩ := h
  have C := ct_X2_orderTurn hΓ em2
  refine g_callSi sl_X2_431 C rfl rfl (Nat.le_of_ble_eq_true rfl) (Nat.le_of_ble_eq_true rfl) (Nat.le_of_ble_eq_true rfl) dX2_share_60 ?_
  replace hT := (C.1).kd hT
  refine g_iload_n 1 dX2_share_63 rfl rfl ?_
  replace h := ite_of h; rcases h with ⟨hc, h⟩ | ⟨hc, h⟩
  · refine g_iceqT dX2_share_64 rfl hc ?_
    refine g_iload_n 3 dX2_share_87 rfl rfl ?_
    refine g_this dX2_share_88 rfl ?_
    refine g_iload dX2_share_89 rfl ?_
    refine g_ic 1 dX2_share_91 rfl ?_
    refine g_iload_n 1 dX2_share_92 rfl rfl ?_
    refine g_ishl dX2_share_93 ?_
    refine g_ior dX2_share_94 ?_
    replace h := bd2_of h; obtain ⟨v3, m4, em4, h⟩ := h
    have C := ct_X2_heldBy hΓ hT em4
    refine g_callVi hΓ.k vl_X2_446 hT C rfl rfl (Nat.le_of_ble_eq_true rfl) (Nat.le_of_ble_eq_true rfl) (Nat.le_of_ble_eq_true rfl) dX2_share_95 ?_
    replace hT := (C.1).kd hT
    refine g_iload dX2_share_98 rfl ?_
    replace h := ite_of h; rcases h with ⟨hc, h⟩ | ⟨hc, h⟩
    · refine g_ifneF dX2_share_100 rfl hc ?_
      refine g_ic 0 dX2_share_103 rfl ?_
      refine g_goto dX2_share_104 rfl ?_
      refine g_isub dX2_share_113 ?_
      refine g_iadd dX2_share_114 ?_
      refine g_istore_n 3 dX2_share_115 rfl (Nat.le_of_ble_eq_true rfl) rfl ?_
      dsimp only [List.set]
      refine g_iinc (l4 + (1 : Int32)) dX2_share_116 rfl rfl (Nat.le_of_ble_eq_true rfl) rfl ?_
      dsimp only [List.set]
      refine g_goto dX2_share_119 rfl ?_
      cases h
      refine G.weak [true, true, true, true, true, false, false] rfl ?_
      exact Hl _ rfl hT
    · refine g_ifneT dX2_share_100 rfl hc ?_
      refine g_this dX2_share_107 rfl ?_
      refine g_iload dX2_share_108 rfl ?_
      replace h := bd2_of h; obtain ⟨v5, m6, em6, h⟩ := h
      have C := ct_X2_heldBy hΓ hT em6
      refine g_callVi hΓ.k vl_X2_446 hT C rfl rfl (Nat.le_of_ble_eq_true rfl) (Nat.le_of_ble_eq_true rfl) (Nat.le_of_ble_eq_true rfl) dX2_share_110 ?_
      replace hT := (C.1).kd hT
      refine g_isub dX2_share_113 ?_
      refine g_iadd dX2_share_114 ?_
      refine g_istore_n 3 dX2_share_115 rfl (Nat.le_of_ble_eq_true rfl) rfl ?_
      dsimp only [List.set]
      refine g_iinc (l4 + (1 : Int32)) dX2_share_116 rfl rfl (Nat.le_of_ble_eq_true rfl) rfl ?_
      dsimp only [List.set]
      refine g_goto dX2_share_119 rfl ?_
      cases h
      refine G.weak [true, true, true, true, true, false, false] rfl ?_
      exact Hl _ rfl hT
  · refine g_iceqF dX2_share_64 rfl hc ?_
    refine g_iload dX2_share_67 rfl ?_
    refine g_ic 1 dX2_share_69 rfl ?_
    refine g_iload dX2_share_70 rfl ?_
    refine g_iload dX2_share_72 rfl ?_
    replace h := bd2_of h; obtain ⟨v7, m8, em8, h⟩ := h
    have C := ct_X2_orderTurn hΓ em8
    refine g_callSi sl_X2_431 C rfl rfl (Nat.le_of_ble_eq_true rfl) (Nat.le_of_ble_eq_true rfl) (Nat.le_of_ble_eq_true rfl) dX2_share_74 ?_
    replace hT := (C.1).kd hT
    refine g_ishl dX2_share_77 ?_
    refine g_ior dX2_share_78 ?_
    refine g_istore dX2_share_79 (Nat.le_of_ble_eq_true rfl) rfl ?_
    dsimp only [List.set]
    refine g_iinc (l6 + (1 : Int32)) dX2_share_81 rfl rfl (Nat.le_of_ble_eq_true rfl) rfl ?_
    dsimp only [List.set]
    refine g_goto dX2_share_84 rfl ?_
    cases h
    refine G.weak [true, true, true, true, true, true, true] rfl ?_
    exact Hl _ rfl hT
set_option maxHeartbeats 4000000 in
theorem w_X2_share_43 {Γ : GG} (hΓ : GF Γ) {m0 mF m : MM} {x : Nat} {l1 : Int32} {l2 : Int32} {l3 : Int32} {l4 : Int32} (hT : (m.K x).1 = 3) {r : Int32} {q : ((Int32 × Int32 × MM) ⊕ (Int32 × Int32 × Int32 × Int32 × MM)) ⊕ (Int32 × MM)} (h : b_X2_share_43 x l1 l2 l3 l4 m = some q) (Hl : ∀ z, q = .inl z → p_X2_share Γ m0 mF x l1 l2 r z) (Hr : ∀ z, q = .inr z → z = (r, mF)) : G Γ kX2_share cX2_share m0 mF (.inl (some (.int r))) m 43 [some (.ref x), some (.int l1), some (.int l2), some (.int l3), some (.int l4), none, none] [] := by
  unfold b_X2_share_43 at h
  refine g_iload dX2_share_43 rfl ?_
  refine g_bi (6) dX2_share_45 rfl ?_
  replace h := ite_of h; rcases h with ⟨hc, h⟩ | ⟨hc, h⟩
  · refine g_icgeT dX2_share_47 rfl hc ?_
    refine g_iload_n 3 dX2_share_122 rfl rfl ?_
    refine g_bi (6) dX2_share_123 rfl ?_
    replace h := bd2_of h; obtain ⟨v1, m2, em2, h⟩ := h
    have C := ct_X2_common hΓ em2
    refine g_callSi sl_X2_449 C rfl rfl (Nat.le_of_ble_eq_true rfl) (Nat.le_of_ble_eq_true rfl) (Nat.le_of_ble_eq_true rfl) dX2_share_125 ?_
    replace hT := (C.1).kd hT
    refine g_istore dX2_share_128 (Nat.le_of_ble_eq_true rfl) rfl ?_
    dsimp only [List.set]
    refine g_iload_n 2 dX2_share_130 rfl rfl ?_
    replace h := ite_of h; rcases h with ⟨hc, h⟩ | ⟨hc, h⟩
    · refine g_ifneF dX2_share_131 rfl hc ?_
      refine g_iload_n 3 dX2_share_134 rfl rfl ?_
      refine g_iload dX2_share_135 rfl ?_
      replace h := ite_of h; rcases h with ⟨hc, h⟩ | ⟨hc, h⟩
      · cases h
      refine g_idiv dX2_share_137 hc ?_
      refine g_goto dX2_share_138 rfl ?_
      cases h
      cases Hr _ rfl
      exact g_iret rfl dX2_share_146
    · refine g_ifneT dX2_share_131 rfl hc ?_
      refine g_bi (6) dX2_share_141 rfl ?_
      refine g_iload dX2_share_143 rfl ?_
      replace h := ite_of h; rcases h with ⟨hc, h⟩ | ⟨hc, h⟩
      · cases h
      refine g_idiv dX2_share_145 hc ?_
      cases h
      cases Hr _ rfl
      exact g_iret rfl dX2_share_146
  · refine g_icgeF dX2_share_47 rfl hc ?_
    refine g_ic 0 dX2_share_50 rfl ?_
    refine g_istore dX2_share_51 (Nat.le_of_ble_eq_true rfl) rfl ?_
    dsimp only [List.set]
    refine g_ic 0 dX2_share_53 rfl ?_
    refine g_istore dX2_share_54 (Nat.le_of_ble_eq_true rfl) rfl ?_
    dsimp only [List.set]
    cases h
    refine G.weak [true, true, true, true, true, true, true] rfl ?_
    exact Hl _ rfl hT
set_option maxHeartbeats 4000000 in
theorem w_X2_share_0 {Γ : GG} (hΓ : GF Γ) {m0 mF m : MM} {x : Nat} {l1 : Int32} {l2 : Int32} (hT : (m.K x).1 = 3) {r : Int32} {q : ((Int32 × Int32 × MM) ⊕ (Int32 × Int32 × Int32 × Int32 × MM)) ⊕ (Int32 × MM)} (h : b_X2_share_0 x l1 l2 m = some q) (Hl : ∀ z, q = .inl z → p_X2_share Γ m0 mF x l1 l2 r z) (Hr : ∀ z, q = .inr z → z = (r, mF)) : G Γ kX2_share cX2_share m0 mF (.inl (some (.int r))) m 0 [some (.ref x), some (.int l1), some (.int l2), none, none, none, none] [] := by
  unfold b_X2_share_0 at h
  refine g_iload_n 1 dX2_share_0 rfl rfl ?_
  replace h := bd2_of h; obtain ⟨v1, m2, em2, h⟩ := h
  have C := ct_X2_isGuild hΓ em2
  refine g_callSi sl_X2_308 C rfl rfl (Nat.le_of_ble_eq_true rfl) (Nat.le_of_ble_eq_true rfl) (Nat.le_of_ble_eq_true rfl) dX2_share_1 ?_
  replace hT := (C.1).kd hT
  replace h := ite_of h; rcases h with ⟨hc, h⟩ | ⟨hc, h⟩
  · refine g_ifeqT dX2_share_4 rfl hc ?_
    refine g_ldcw (v := -1000000) q1595 dX2_share_30 ?_
    cases h
    cases Hr _ rfl
    exact g_iret rfl dX2_share_33
  · refine g_ifeqF dX2_share_4 rfl hc ?_
    refine g_iload_n 2 dX2_share_7 rfl rfl ?_
    refine g_ic 0 dX2_share_8 rfl ?_
    refine g_ic 1 dX2_share_9 rfl ?_
    replace h := bd2_of h; obtain ⟨v3, m4, em4, h⟩ := h
    have C := ct_X2_isIn hΓ em4
    refine g_callSi sl_X2_298 C rfl rfl (Nat.le_of_ble_eq_true rfl) (Nat.le_of_ble_eq_true rfl) (Nat.le_of_ble_eq_true rfl) dX2_share_10 ?_
    replace hT := (C.1).kd hT
    replace h := ite_of h; rcases h with ⟨hc, h⟩ | ⟨hc, h⟩
    · refine g_ifeqT dX2_share_13 rfl hc ?_
      refine g_ldcw (v := -1000000) q1595 dX2_share_30 ?_
      cases h
      cases Hr _ rfl
      exact g_iret rfl dX2_share_33
    · refine g_ifeqF dX2_share_13 rfl hc ?_
      refine g_this dX2_share_16 rfl ?_
      replace h := bd2_of h; obtain ⟨v5, m6, em6, h⟩ := h
      have C := ct_X2_layFromRow hΓ hT em6
      refine g_callVi hΓ.k vl_X2_434 hT C rfl rfl (Nat.le_of_ble_eq_true rfl) (Nat.le_of_ble_eq_true rfl) (Nat.le_of_ble_eq_true rfl) dX2_share_17 ?_
      replace hT := (C.1).kd hT
      replace h := ite_of h; rcases h with ⟨hc, h⟩ | ⟨hc, h⟩
      · refine g_ifeqT dX2_share_20 rfl hc ?_
        refine g_ldcw (v := -1000000) q1595 dX2_share_30 ?_
        cases h
        cases Hr _ rfl
        exact g_iret rfl dX2_share_33
      · refine g_ifeqF dX2_share_20 rfl hc ?_
        refine g_this dX2_share_23 rfl ?_
        refine g_getI hΓ.k fl_X2_390_X2 rfl hT dX2_share_24 ?_
        replace h := ite_of h; rcases h with ⟨hc, h⟩ | ⟨hc, h⟩
        · refine g_ifneF dX2_share_27 rfl hc ?_
          refine g_ldcw (v := -1000000) q1595 dX2_share_30 ?_
          cases h
          cases Hr _ rfl
          exact g_iret rfl dX2_share_33
        · refine g_ifneT dX2_share_27 rfl hc ?_
          refine g_this dX2_share_34 rfl ?_
          replace h := bd2_of h; obtain ⟨_, m7, em7, h⟩ := h
          have C := ct_X2_turnsNow hΓ hT em7
          refine g_callVv hΓ.k vl_X2_437 hT C rfl rfl (Nat.le_of_ble_eq_true rfl) (Nat.le_of_ble_eq_true rfl) (Nat.le_of_ble_eq_true rfl) dX2_share_35 ?_
          replace hT := (C.1).kd hT
          refine g_ic 0 dX2_share_38 rfl ?_
          refine g_istore_n 3 dX2_share_39 rfl (Nat.le_of_ble_eq_true rfl) rfl ?_
          dsimp only [List.set]
          refine g_ic 0 dX2_share_40 rfl ?_
          refine g_istore dX2_share_41 (Nat.le_of_ble_eq_true rfl) rfl ?_
          dsimp only [List.set]
          cases h
          refine G.weak [true, true, true, true, true, false, false] rfl ?_
          exact Hl _ rfl hT
theorem ct_X2_share {Γ : GG} (hΓ : GF Γ) {m mF : MM} {x : Nat} {l1 : Int32} {l2 : Int32} (hT : (m.K x).1 = 3) {r : Int32} (h : f_X2_share x l1 l2 m = some (r, mF)) : Ct Γ kX2_share cX2_share [.ref x, .int l1, .int l2] m (.inl (some (.int r))) mF := by
  unfold f_X2_share at h
  replace h := bd_of h; obtain ⟨q, e, h⟩ := h
  have H := rx_go_ind (P := p_X2_share Γ m mF x l1 l2 r) (fun z o hs Hl Hr => by
    match z with
    | (.inl (l3, l4, m)) => exact fun hT => w_X2_share_43 hΓ hT hs Hl Hr
    | (.inr (l3, l4, l5, l6, m)) => exact fun hT => w_X2_share_56 hΓ hT hs Hl Hr) h
  exact Ct.of (κ := kX2_share) (by decide) rfl (Nat.le_of_ble_eq_true rfl) rfl (w_X2_share_0 hΓ hT e H.1 H.2)
def p_X2_swap (Γ : GG) (m0 mF : MM) (x : Nat) (r : Int32) : ((Int32 × Int32 × MM) ⊕ (Int32 × Int32 × Int32 × MM)) → Prop := fun z => match z with
  | (.inl (l1, l2, m)) => (m.K x).1 = 3 → G Γ kX2_swap cX2_swap m0 mF (.inl (some (.int r))) m 31 [some (.ref x), some (.int l1), some (.int l2), none, none, none, none] []
  | (.inr (l1, l2, l3, m)) => (m.K x).1 = 3 → G Γ kX2_swap cX2_swap m0 mF (.inl (some (.int r))) m 43 [some (.ref x), some (.int l1), some (.int l2), some (.int l3), none, none, none] []
set_option maxHeartbeats 4000000 in
theorem w_X2_swap_43 {Γ : GG} (hΓ : GF Γ) {m0 mF m : MM} {x : Nat} {l1 : Int32} {l2 : Int32} {l3 : Int32} (hT : (m.K x).1 = 3) {r : Int32} {q : ((Int32 × Int32 × MM) ⊕ (Int32 × Int32 × Int32 × MM)) ⊕ (Int32 × MM)} (h : b_X2_swap_43 x l1 l2 l3 m = some q) (Hl : ∀ z, q = .inl z → p_X2_swap Γ m0 mF x r z) (Hr : ∀ z, q = .inr z → z = (r, mF)) : G Γ kX2_swap cX2_swap m0 mF (.inl (some (.int r))) m 43 [some (.ref x), some (.int l1), some (.int l2), some (.int l3), none, none, none] [] := by
  unfold b_X2_swap_43 at h
  refine g_iload_n 3 dX2_swap_43 rfl rfl ?_
  refine g_this dX2_swap_44 rfl ?_
  replace h := bd2_of h; obtain ⟨v1, m2, em2, h⟩ := h
  have C := ct_X2_longOf hΓ hT em2
  refine g_callVi hΓ.k vl_X2_302 hT C rfl rfl (Nat.le_of_ble_eq_true rfl) (Nat.le_of_ble_eq_true rfl) (Nat.le_of_ble_eq_true rfl) dX2_swap_45 ?_
  replace hT := (C.1).kd hT
  replace h := ite_of h; rcases h with ⟨hc, h⟩ | ⟨hc, h⟩
  · refine g_icgeT dX2_swap_48 rfl hc ?_
    refine g_iinc (l2 + (1 : Int32)) dX2_swap_169 rfl rfl (Nat.le_of_ble_eq_true rfl) rfl ?_
    dsimp only [List.set]
    refine g_goto dX2_swap_172 rfl ?_
    cases h
    refine G.weak [true, true, true, false, false, false, false] rfl ?_
    exact Hl _ rfl hT
  · refine g_icgeF dX2_swap_48 rfl hc ?_
    refine g_this dX2_swap_51 rfl ?_
    refine g_getR hΓ.k fl_X2_95_X2 rfl hT dX2_swap_52 ?_
    refine g_iload_n 2 dX2_swap_55 rfl rfl ?_
    replace h := bd_of h; obtain ⟨v3, ev3, h⟩ := h
    refine g_iald ev3 dX2_swap_56 ?_
    refine g_istore dX2_swap_57 (Nat.le_of_ble_eq_true rfl) rfl ?_
    dsimp only [List.set]
    refine g_this dX2_swap_59 rfl ?_
    refine g_getR hΓ.k fl_X2_95_X2 rfl hT dX2_swap_60 ?_
    refine g_iload_n 3 dX2_swap_63 rfl rfl ?_
    replace h := bd_of h; obtain ⟨v4, ev4, h⟩ := h
    refine g_iald ev4 dX2_swap_64 ?_
    refine g_istore dX2_swap_65 (Nat.le_of_ble_eq_true rfl) rfl ?_
    dsimp only [List.set]
    refine g_iload dX2_swap_67 rfl ?_
    refine g_iload dX2_swap_69 rfl ?_
    replace h := ite_of h; rcases h with ⟨hc, h⟩ | ⟨hc, h⟩
    · refine g_icneF dX2_swap_71 rfl hc ?_
      refine g_goto dX2_swap_74 rfl ?_
      refine g_iinc (l3 + (1 : Int32)) dX2_swap_163 rfl rfl (Nat.le_of_ble_eq_true rfl) rfl ?_
      dsimp only [List.set]
      refine g_goto dX2_swap_166 rfl ?_
      cases h
      refine G.weak [true, true, true, true, false, false, false] rfl ?_
      exact Hl _ rfl hT
    · refine g_icneT dX2_swap_71 rfl hc ?_
      refine g_this dX2_swap_77 rfl ?_
      replace h := bd2_of h; obtain ⟨_, m5, em5, h⟩ := h
      have C := ct_X2_turnsNow hΓ hT em5
      refine g_callVv hΓ.k vl_X2_437 hT C rfl rfl (Nat.le_of_ble_eq_true rfl) (Nat.le_of_ble_eq_true rfl) (Nat.le_of_ble_eq_true rfl) dX2_swap_78 ?_
      replace hT := (C.1).kd hT
      refine g_this dX2_swap_81 rfl ?_
      refine g_getR hΓ.k fl_X2_122_X2 rfl hT dX2_swap_82 ?_
      refine g_iload_n 2 dX2_swap_85 rfl rfl ?_
      refine g_iload dX2_swap_86 rfl ?_
      replace h := bd_of h; obtain ⟨m6, em6, h⟩ := h
      refine g_iast em6 dX2_swap_88 ?_
      replace hT := (sI_ext em6).kd hT
      refine g_this dX2_swap_89 rfl ?_
      refine g_getR hΓ.k fl_X2_122_X2 rfl hT dX2_swap_90 ?_
      refine g_iload_n 3 dX2_swap_93 rfl rfl ?_
      refine g_iload dX2_swap_94 rfl ?_
      replace h := bd_of h; obtain ⟨m7, em7, h⟩ := h
      refine g_iast em7 dX2_swap_96 ?_
      replace hT := (sI_ext em7).kd hT
      refine g_this dX2_swap_97 rfl ?_
      refine g_ic 0 dX2_swap_98 rfl ?_
      replace h := bd2_of h; obtain ⟨v8, m9, em9, h⟩ := h
      have C := ct_X2_plays hΓ hT em9
      refine g_callVi hΓ.k vl_X2_440 hT C rfl rfl (Nat.le_of_ble_eq_true rfl) (Nat.le_of_ble_eq_true rfl) (Nat.le_of_ble_eq_true rfl) dX2_swap_99 ?_
      replace hT := (C.1).kd hT
      refine g_istore dX2_swap_102 (Nat.le_of_ble_eq_true rfl) rfl ?_
      dsimp only [List.set]
      refine g_this dX2_swap_104 rfl ?_
      refine g_getR hΓ.k fl_X2_110_X2 rfl hT dX2_swap_105 ?_
      refine g_ic 3 dX2_swap_108 rfl ?_
      refine g_iload dX2_swap_109 rfl ?_
      refine g_imul dX2_swap_111 ?_
      refine g_iload dX2_swap_112 rfl ?_
      refine g_iadd dX2_swap_114 ?_
      replace h := bd_of h; obtain ⟨v10, ev10, h⟩ := h
      refine g_iald ev10 dX2_swap_115 ?_
      refine g_this dX2_swap_116 rfl ?_
      refine g_getR hΓ.k fl_X2_110_X2 rfl hT dX2_swap_117 ?_
      refine g_ic 3 dX2_swap_120 rfl ?_
      refine g_iload_n 1 dX2_swap_121 rfl rfl ?_
      refine g_imul dX2_swap_122 ?_
      refine g_iload dX2_swap_123 rfl ?_
      refine g_iadd dX2_swap_125 ?_
      replace h := bd_of h; obtain ⟨v11, ev11, h⟩ := h
      refine g_iald ev11 dX2_swap_126 ?_
      replace h := ite_of h; rcases h with ⟨hc, h⟩ | ⟨hc, h⟩
      · refine g_icleT dX2_swap_127 rfl hc ?_
        refine g_iinc (l3 + (1 : Int32)) dX2_swap_163 rfl rfl (Nat.le_of_ble_eq_true rfl) rfl ?_
        dsimp only [List.set]
        refine g_goto dX2_swap_166 rfl ?_
        cases h
        refine G.weak [true, true, true, true, false, false, false] rfl ?_
        exact Hl _ rfl hT
      · refine g_icleF dX2_swap_127 rfl hc ?_
        refine g_this dX2_swap_130 rfl ?_
        refine g_getR hΓ.k fl_X2_110_X2 rfl hT dX2_swap_131 ?_
        refine g_ic 3 dX2_swap_134 rfl ?_
        refine g_iload dX2_swap_135 rfl ?_
        refine g_imul dX2_swap_137 ?_
        refine g_iload dX2_swap_138 rfl ?_
        refine g_iadd dX2_swap_140 ?_
        replace h := bd_of h; obtain ⟨v12, ev12, h⟩ := h
        refine g_iald ev12 dX2_swap_141 ?_
        refine g_this dX2_swap_142 rfl ?_
        refine g_getR hΓ.k fl_X2_110_X2 rfl hT dX2_swap_143 ?_
        refine g_ic 3 dX2_swap_146 rfl ?_
        refine g_iload_n 1 dX2_swap_147 rfl rfl ?_
        refine g_imul dX2_swap_148 ?_
        refine g_iload dX2_swap_149 rfl ?_
        refine g_iadd dX2_swap_151 ?_
        replace h := bd_of h; obtain ⟨v13, ev13, h⟩ := h
        refine g_iald ev13 dX2_swap_152 ?_
        replace h := ite_of h; rcases h with ⟨hc, h⟩ | ⟨hc, h⟩
        · refine g_icleT dX2_swap_153 rfl hc ?_
          refine g_iinc (l3 + (1 : Int32)) dX2_swap_163 rfl rfl (Nat.le_of_ble_eq_true rfl) rfl ?_
          dsimp only [List.set]
          refine g_goto dX2_swap_166 rfl ?_
          cases h
          refine G.weak [true, true, true, true, false, false, false] rfl ?_
          exact Hl _ rfl hT
        · refine g_icleF dX2_swap_153 rfl hc ?_
          refine g_bi (10) dX2_swap_156 rfl ?_
          refine g_iload_n 2 dX2_swap_158 rfl rfl ?_
          refine g_imul dX2_swap_159 ?_
          refine g_iload_n 3 dX2_swap_160 rfl rfl ?_
          refine g_iadd dX2_swap_161 ?_
          cases h
          cases Hr _ rfl
          exact g_iret rfl dX2_swap_162
set_option maxHeartbeats 4000000 in
theorem w_X2_swap_31 {Γ : GG} (hΓ : GF Γ) {m0 mF m : MM} {x : Nat} {l1 : Int32} {l2 : Int32} (hT : (m.K x).1 = 3) {r : Int32} {q : ((Int32 × Int32 × MM) ⊕ (Int32 × Int32 × Int32 × MM)) ⊕ (Int32 × MM)} (h : b_X2_swap_31 x l1 l2 m = some q) (Hl : ∀ z, q = .inl z → p_X2_swap Γ m0 mF x r z) (Hr : ∀ z, q = .inr z → z = (r, mF)) : G Γ kX2_swap cX2_swap m0 mF (.inl (some (.int r))) m 31 [some (.ref x), some (.int l1), some (.int l2), none, none, none, none] [] := by
  unfold b_X2_swap_31 at h
  refine g_iload_n 2 dX2_swap_31 rfl rfl ?_
  refine g_this dX2_swap_32 rfl ?_
  replace h := bd2_of h; obtain ⟨v1, m2, em2, h⟩ := h
  have C := ct_X2_longOf hΓ hT em2
  refine g_callVi hΓ.k vl_X2_302 hT C rfl rfl (Nat.le_of_ble_eq_true rfl) (Nat.le_of_ble_eq_true rfl) (Nat.le_of_ble_eq_true rfl) dX2_swap_33 ?_
  replace hT := (C.1).kd hT
  replace h := ite_of h; rcases h with ⟨hc, h⟩ | ⟨hc, h⟩
  · refine g_icgeT dX2_swap_36 rfl hc ?_
    refine g_ic (-1) dX2_swap_175 rfl ?_
    cases h
    cases Hr _ rfl
    exact g_iret rfl dX2_swap_176
  · refine g_icgeF dX2_swap_36 rfl hc ?_
    refine g_iload_n 2 dX2_swap_39 rfl rfl ?_
    refine g_ic 1 dX2_swap_40 rfl ?_
    refine g_iadd dX2_swap_41 ?_
    refine g_istore_n 3 dX2_swap_42 rfl (Nat.le_of_ble_eq_true rfl) rfl ?_
    dsimp only [List.set]
    cases h
    refine G.weak [true, true, true, true, false, false, false] rfl ?_
    exact Hl _ rfl hT
set_option maxHeartbeats 4000000 in
theorem w_X2_swap_0 {Γ : GG} (hΓ : GF Γ) {m0 mF m : MM} {x : Nat} (hT : (m.K x).1 = 3) {r : Int32} {q : ((Int32 × Int32 × MM) ⊕ (Int32 × Int32 × Int32 × MM)) ⊕ (Int32 × MM)} (h : b_X2_swap_0 x m = some q) (Hl : ∀ z, q = .inl z → p_X2_swap Γ m0 mF x r z) (Hr : ∀ z, q = .inr z → z = (r, mF)) : G Γ kX2_swap cX2_swap m0 mF (.inl (some (.int r))) m 0 [some (.ref x), none, none, none, none, none, none] [] := by
  unfold b_X2_swap_0 at h
  refine g_this dX2_swap_0 rfl ?_
  replace h := bd2_of h; obtain ⟨v1, m2, em2, h⟩ := h
  have C := ct_X2_layFromRow hΓ hT em2
  refine g_callVi hΓ.k vl_X2_434 hT C rfl rfl (Nat.le_of_ble_eq_true rfl) (Nat.le_of_ble_eq_true rfl) (Nat.le_of_ble_eq_true rfl) dX2_swap_1 ?_
  replace hT := (C.1).kd hT
  replace h := ite_of h; rcases h with ⟨hc, h⟩ | ⟨hc, h⟩
  · refine g_ifeqT dX2_swap_4 rfl hc ?_
    refine g_ic (-1) dX2_swap_14 rfl ?_
    cases h
    cases Hr _ rfl
    exact g_iret rfl dX2_swap_15
  · refine g_ifeqF dX2_swap_4 rfl hc ?_
    refine g_this dX2_swap_7 rfl ?_
    refine g_getI hΓ.k fl_X2_390_X2 rfl hT dX2_swap_8 ?_
    replace h := ite_of h; rcases h with ⟨hc, h⟩ | ⟨hc, h⟩
    · refine g_ifneF dX2_swap_11 rfl hc ?_
      refine g_ic (-1) dX2_swap_14 rfl ?_
      cases h
      cases Hr _ rfl
      exact g_iret rfl dX2_swap_15
    · refine g_ifneT dX2_swap_11 rfl hc ?_
      refine g_this dX2_swap_16 rfl ?_
      replace h := bd2_of h; obtain ⟨_, m3, em3, h⟩ := h
      have C := ct_X2_turnsNow hΓ hT em3
      refine g_callVv hΓ.k vl_X2_437 hT C rfl rfl (Nat.le_of_ble_eq_true rfl) (Nat.le_of_ble_eq_true rfl) (Nat.le_of_ble_eq_true rfl) dX2_swap_17 ?_
      replace hT := (C.1).kd hT
      refine g_this dX2_swap_20 rfl ?_
      refine g_ic 0 dX2_swap_21 rfl ?_
      replace h := bd2_of h; obtain ⟨v4, m5, em5, h⟩ := h
      have C := ct_X2_plays hΓ hT em5
      refine g_callVi hΓ.k vl_X2_440 hT C rfl rfl (Nat.le_of_ble_eq_true rfl) (Nat.le_of_ble_eq_true rfl) (Nat.le_of_ble_eq_true rfl) dX2_swap_22 ?_
      replace hT := (C.1).kd hT
      refine g_istore_n 1 dX2_swap_25 rfl (Nat.le_of_ble_eq_true rfl) rfl ?_
      dsimp only [List.set]
      refine g_this dX2_swap_26 rfl ?_
      refine g_getI hΓ.k fl_X2_336_X2 rfl hT dX2_swap_27 ?_
      refine g_istore_n 2 dX2_swap_30 rfl (Nat.le_of_ble_eq_true rfl) rfl ?_
      dsimp only [List.set]
      cases h
      refine G.weak [true, true, true, false, false, false, false] rfl ?_
      exact Hl _ rfl hT
theorem ct_X2_swap {Γ : GG} (hΓ : GF Γ) {m mF : MM} {x : Nat} (hT : (m.K x).1 = 3) {r : Int32} (h : f_X2_swap x m = some (r, mF)) : Ct Γ kX2_swap cX2_swap [.ref x] m (.inl (some (.int r))) mF := by
  unfold f_X2_swap at h
  replace h := bd_of h; obtain ⟨q, e, h⟩ := h
  have H := rx_go_ind (P := p_X2_swap Γ m mF x r) (fun z o hs Hl Hr => by
    match z with
    | (.inl (l1, l2, m)) => exact fun hT => w_X2_swap_31 hΓ hT hs Hl Hr
    | (.inr (l1, l2, l3, m)) => exact fun hT => w_X2_swap_43 hΓ hT hs Hl Hr) h
  exact Ct.of (κ := kX2_swap) (by decide) rfl (Nat.le_of_ble_eq_true rfl) rfl (w_X2_swap_0 hΓ hT e H.1 H.2)
def p_X2_bribe (Γ : GG) (m0 mF : MM) (x : Nat) (l1 : Int32) (l2 : Int32) (r : Int32) : ((MM)) → Prop := fun z => match z with
  | m => (m.K x).1 = 3 → G Γ kX2_bribe cX2_bribe m0 mF (.inl (some (.int r))) m 73 [some (.ref x), some (.int l1), some (.int l2)] []
set_option maxHeartbeats 4000000 in
theorem w_X2_bribe_114 {Γ : GG} (hΓ : GF Γ) {m0 mF m : MM} {x : Nat} {l1 : Int32} {l2 : Int32} (hT : (m.K x).1 = 3) {r : Int32} {q : ((MM)) ⊕ (Int32 × MM)} (h : b_X2_bribe_114 x l1 l2 m = some q) (Hl : ∀ z, q = .inl z → p_X2_bribe Γ m0 mF x l1 l2 r z) (Hr : ∀ z, q = .inr z → z = (r, mF)) : G Γ kX2_bribe cX2_bribe m0 mF (.inl (some (.int r))) m 114 [some (.ref x), some (.int l1), some (.int l2)] [] := by
  unfold b_X2_bribe_114 at h
  refine g_this dX2_bribe_114 rfl ?_
  refine g_ic (-1) dX2_bribe_115 rfl ?_
  replace h := bd_of h; obtain ⟨m1, em1, h⟩ := h
  refine g_pI hΓ.k fl_X2_125_X2 (fun h9 => by cases h9) rfl (Or.inl ⟨rfl, rfl⟩) em1 dX2_bribe_116 ?_
  replace hT := (pI_ext em1).kd hT
  refine g_this dX2_bribe_119 rfl ?_
  refine g_getI hΓ.k fl_X2_415_X2 rfl hT dX2_bribe_120 ?_
  refine g_bi (99) dX2_bribe_123 rfl ?_
  replace h := ite_of h; rcases h with ⟨hc, h⟩ | ⟨hc, h⟩
  · refine g_icleT dX2_bribe_125 rfl hc ?_
    refine g_this dX2_bribe_132 rfl ?_
    refine g_getI hΓ.k fl_X2_415_X2 rfl hT dX2_bribe_133 ?_
    cases h
    cases Hr _ rfl
    exact g_iret rfl dX2_bribe_136
  · refine g_icleF dX2_bribe_125 rfl hc ?_
    refine g_ic (-1) dX2_bribe_128 rfl ?_
    refine g_goto dX2_bribe_129 rfl ?_
    cases h
    cases Hr _ rfl
    exact g_iret rfl dX2_bribe_136
set_option maxHeartbeats 4000000 in
theorem w_X2_bribe_73 {Γ : GG} (hΓ : GF Γ) {m0 mF m : MM} {x : Nat} {l1 : Int32} {l2 : Int32} (hT : (m.K x).1 = 3) {r : Int32} {q : ((MM)) ⊕ (Int32 × MM)} (h : b_X2_bribe_73 x l1 l2 m = some q) (Hl : ∀ z, q = .inl z → p_X2_bribe Γ m0 mF x l1 l2 r z) (Hr : ∀ z, q = .inr z → z = (r, mF)) : G Γ kX2_bribe cX2_bribe m0 mF (.inl (some (.int r))) m 73 [some (.ref x), some (.int l1), some (.int l2)] [] := by
  unfold b_X2_bribe_73 at h
  refine g_this dX2_bribe_73 rfl ?_
  refine g_getI hΓ.k fl_X2_415_X2 rfl hT dX2_bribe_74 ?_
  refine g_bi (99) dX2_bribe_77 rfl ?_
  replace h := ite_of h; rcases h with ⟨hc, h⟩ | ⟨hc, h⟩
  · refine g_icgtT dX2_bribe_79 rfl hc ?_
    refine G.weak [true, true, true] rfl ?_
    exact w_X2_bribe_114 hΓ hT h Hl Hr
  · refine g_icgtF dX2_bribe_79 rfl hc ?_
    refine g_this dX2_bribe_82 rfl ?_
    refine g_this dX2_bribe_83 rfl ?_
    refine g_getR hΓ.k fl_X2_107_X2 rfl hT dX2_bribe_84 ?_
    refine g_this dX2_bribe_87 rfl ?_
    refine g_ic 0 dX2_bribe_88 rfl ?_
    replace h := bd2_of h; obtain ⟨v1, m2, em2, h⟩ := h
    have C := ct_X2_plays hΓ hT em2
    refine g_callVi hΓ.k vl_X2_440 hT C rfl rfl (Nat.le_of_ble_eq_true rfl) (Nat.le_of_ble_eq_true rfl) (Nat.le_of_ble_eq_true rfl) dX2_bribe_89 ?_
    replace hT := (C.1).kd hT
    replace h := bd_of h; obtain ⟨v3, ev3, h⟩ := h
    refine g_iald ev3 dX2_bribe_92 ?_
    refine g_iload_n 1 dX2_bribe_93 rfl rfl ?_
    replace h := bd2_of h; obtain ⟨v4, m5, em5, h⟩ := h
    have C := ct_X2_wordIn hΓ hT em5
    refine g_callVi hΓ.k vl_X2_380 hT C rfl rfl (Nat.le_of_ble_eq_true rfl) (Nat.le_of_ble_eq_true rfl) (Nat.le_of_ble_eq_true rfl) dX2_bribe_94 ?_
    replace hT := (C.1).kd hT
    refine g_iload_n 2 dX2_bribe_97 rfl rfl ?_
    replace h := ite_of h; rcases h with ⟨hc, h⟩ | ⟨hc, h⟩
    · refine g_iceqT dX2_bribe_98 rfl hc ?_
      refine G.weak [true, true, true] rfl ?_
      exact w_X2_bribe_114 hΓ hT h Hl Hr
    · refine g_iceqF dX2_bribe_98 rfl hc ?_
      refine g_this dX2_bribe_101 rfl ?_
      refine g_dup dX2_bribe_102 rfl ?_
      refine g_getI hΓ.k fl_X2_415_X2 rfl hT dX2_bribe_103 ?_
      refine g_ic 1 dX2_bribe_106 rfl ?_
      refine g_iadd dX2_bribe_107 ?_
      replace h := bd_of h; obtain ⟨m6, em6, h⟩ := h
      refine g_pI hΓ.k fl_X2_415_X2 (fun h9 => by cases h9) rfl (Or.inl ⟨rfl, rfl⟩) em6 dX2_bribe_108 ?_
      replace hT := (pI_ext em6).kd hT
      refine g_goto dX2_bribe_111 rfl ?_
      cases h
      refine G.weak [true, true, true] rfl ?_
      exact Hl _ rfl hT
set_option maxHeartbeats 4000000 in
theorem w_X2_bribe_0 {Γ : GG} (hΓ : GF Γ) {m0 mF m : MM} {x : Nat} {l1 : Int32} {l2 : Int32} (hT : (m.K x).1 = 3) {r : Int32} {q : ((MM)) ⊕ (Int32 × MM)} (h : b_X2_bribe_0 x l1 l2 m = some q) (Hl : ∀ z, q = .inl z → p_X2_bribe Γ m0 mF x l1 l2 r z) (Hr : ∀ z, q = .inr z → z = (r, mF)) : G Γ kX2_bribe cX2_bribe m0 mF (.inl (some (.int r))) m 0 [some (.ref x), some (.int l1), some (.int l2)] [] := by
  unfold b_X2_bribe_0 at h
  refine g_iload_n 1 dX2_bribe_0 rfl rfl ?_
  refine g_this dX2_bribe_1 rfl ?_
  refine g_getI hΓ.k fl_X2_336_X2 rfl hT dX2_bribe_2 ?_
  refine g_this dX2_bribe_5 rfl ?_
  replace h := bd2_of h; obtain ⟨v1, m2, em2, h⟩ := h
  have C := ct_X2_longOf hΓ hT em2
  refine g_callVi hΓ.k vl_X2_302 hT C rfl rfl (Nat.le_of_ble_eq_true rfl) (Nat.le_of_ble_eq_true rfl) (Nat.le_of_ble_eq_true rfl) dX2_bribe_6 ?_
  replace hT := (C.1).kd hT
  refine g_ic 1 dX2_bribe_9 rfl ?_
  refine g_isub dX2_bribe_10 ?_
  replace h := bd2_of h; obtain ⟨v3, m4, em4, h⟩ := h
  have C := ct_X2_isIn hΓ em4
  refine g_callSi sl_X2_298 C rfl rfl (Nat.le_of_ble_eq_true rfl) (Nat.le_of_ble_eq_true rfl) (Nat.le_of_ble_eq_true rfl) dX2_bribe_11 ?_
  replace hT := (C.1).kd hT
  replace h := ite_of h; rcases h with ⟨hc, h⟩ | ⟨hc, h⟩
  · refine g_ifeqT dX2_bribe_14 rfl hc ?_
    refine g_bi (-2) dX2_bribe_25 rfl ?_
    cases h
    cases Hr _ rfl
    exact g_iret rfl dX2_bribe_27
  · refine g_ifeqF dX2_bribe_14 rfl hc ?_
    refine g_this dX2_bribe_17 rfl ?_
    refine g_iload_n 2 dX2_bribe_18 rfl rfl ?_
    replace h := bd2_of h; obtain ⟨v5, m6, em6, h⟩ := h
    have C := ct_X2_isWordOf hΓ hT em6
    refine g_callVi hΓ.k vl_X2_305 hT C rfl rfl (Nat.le_of_ble_eq_true rfl) (Nat.le_of_ble_eq_true rfl) (Nat.le_of_ble_eq_true rfl) dX2_bribe_19 ?_
    replace hT := (C.1).kd hT
    replace h := ite_of h; rcases h with ⟨hc, h⟩ | ⟨hc, h⟩
    · refine g_ifneF dX2_bribe_22 rfl hc ?_
      refine g_bi (-2) dX2_bribe_25 rfl ?_
      cases h
      cases Hr _ rfl
      exact g_iret rfl dX2_bribe_27
    · refine g_ifneT dX2_bribe_22 rfl hc ?_
      refine g_this dX2_bribe_28 rfl ?_
      replace h := bd2_of h; obtain ⟨v7, m8, em8, h⟩ := h
      have C := ct_X2_layFromRow hΓ hT em8
      refine g_callVi hΓ.k vl_X2_434 hT C rfl rfl (Nat.le_of_ble_eq_true rfl) (Nat.le_of_ble_eq_true rfl) (Nat.le_of_ble_eq_true rfl) dX2_bribe_29 ?_
      replace hT := (C.1).kd hT
      replace h := ite_of h; rcases h with ⟨hc, h⟩ | ⟨hc, h⟩
      · refine g_ifeqT dX2_bribe_32 rfl hc ?_
        refine g_ic (-1) dX2_bribe_42 rfl ?_
        cases h
        cases Hr _ rfl
        exact g_iret rfl dX2_bribe_43
      · refine g_ifeqF dX2_bribe_32 rfl hc ?_
        refine g_this dX2_bribe_35 rfl ?_
        refine g_getI hΓ.k fl_X2_390_X2 rfl hT dX2_bribe_36 ?_
        replace h := ite_of h; rcases h with ⟨hc, h⟩ | ⟨hc, h⟩
        · refine g_ifneF dX2_bribe_39 rfl hc ?_
          refine g_ic (-1) dX2_bribe_42 rfl ?_
          cases h
          cases Hr _ rfl
          exact g_iret rfl dX2_bribe_43
        · refine g_ifneT dX2_bribe_39 rfl hc ?_
          refine g_this dX2_bribe_44 rfl ?_
          replace h := bd2_of h; obtain ⟨_, m9, em9, h⟩ := h
          have C := ct_X2_turnsNow hΓ hT em9
          refine g_callVv hΓ.k vl_X2_437 hT C rfl rfl (Nat.le_of_ble_eq_true rfl) (Nat.le_of_ble_eq_true rfl) (Nat.le_of_ble_eq_true rfl) dX2_bribe_45 ?_
          replace hT := (C.1).kd hT
          refine g_this dX2_bribe_48 rfl ?_
          refine g_this dX2_bribe_49 rfl ?_
          refine g_getR hΓ.k fl_X2_95_X2 rfl hT dX2_bribe_50 ?_
          refine g_iload_n 1 dX2_bribe_53 rfl rfl ?_
          replace h := bd_of h; obtain ⟨v10, ev10, h⟩ := h
          refine g_iald ev10 dX2_bribe_54 ?_
          replace h := bd_of h; obtain ⟨m11, em11, h⟩ := h
          refine g_pI hΓ.k fl_X2_125_X2 (fun h9 => by cases h9) rfl (Or.inl ⟨rfl, rfl⟩) em11 dX2_bribe_55 ?_
          replace hT := (pI_ext em11).kd hT
          refine g_this dX2_bribe_58 rfl ?_
          refine g_iload_n 1 dX2_bribe_59 rfl rfl ?_
          replace h := bd_of h; obtain ⟨m12, em12, h⟩ := h
          refine g_pI hΓ.k fl_X2_409_X2 (fun h9 => by cases h9) rfl (Or.inl ⟨rfl, rfl⟩) em12 dX2_bribe_60 ?_
          replace hT := (pI_ext em12).kd hT
          refine g_this dX2_bribe_63 rfl ?_
          refine g_iload_n 2 dX2_bribe_64 rfl rfl ?_
          replace h := bd_of h; obtain ⟨m13, em13, h⟩ := h
          refine g_pI hΓ.k fl_X2_412_X2 (fun h9 => by cases h9) rfl (Or.inl ⟨rfl, rfl⟩) em13 dX2_bribe_65 ?_
          replace hT := (pI_ext em13).kd hT
          refine g_this dX2_bribe_68 rfl ?_
          refine g_ic 0 dX2_bribe_69 rfl ?_
          replace h := bd_of h; obtain ⟨m14, em14, h⟩ := h
          refine g_pI hΓ.k fl_X2_415_X2 (fun h9 => by cases h9) rfl (Or.inl ⟨rfl, rfl⟩) em14 dX2_bribe_70 ?_
          replace hT := (pI_ext em14).kd hT
          cases h
          refine G.weak [true, true, true] rfl ?_
          exact Hl _ rfl hT
theorem ct_X2_bribe {Γ : GG} (hΓ : GF Γ) {m mF : MM} {x : Nat} {l1 : Int32} {l2 : Int32} (hT : (m.K x).1 = 3) {r : Int32} (h : f_X2_bribe x l1 l2 m = some (r, mF)) : Ct Γ kX2_bribe cX2_bribe [.ref x, .int l1, .int l2] m (.inl (some (.int r))) mF := by
  unfold f_X2_bribe at h
  replace h := bd_of h; obtain ⟨q, e, h⟩ := h
  have H := rx_go_ind (P := p_X2_bribe Γ m mF x l1 l2 r) (fun z o hs Hl Hr => by
    match z with
    | m => exact fun hT => w_X2_bribe_73 hΓ hT hs Hl Hr) h
  exact Ct.of (κ := kX2_bribe) (by decide) rfl (Nat.le_of_ble_eq_true rfl) rfl (w_X2_bribe_0 hΓ hT e H.1 H.2)
set_option maxHeartbeats 4000000 in
theorem w_X2_layFromNone_0 {Γ : GG} (hΓ : GF Γ) {m0 mF m : MM} {x : Nat} (hT : (m.K x).1 = 3) {r : Int32} (h : b_X2_layFromNone_0 x m = some (r, mF)) : G Γ kX2_layFromNone cX2_layFromNone m0 mF (.inl (some (.int r))) m 0 [some (.ref x)] [] := by
  unfold b_X2_layFromNone_0 at h
  refine g_this dX2_layFromNone_0 rfl ?_
  refine g_ic 0 dX2_layFromNone_1 rfl ?_
  refine g_ic 0 dX2_layFromNone_2 rfl ?_
  replace h := bd2_of h; obtain ⟨v1, m2, em2, h⟩ := h
  have C := ct_X2_layList hΓ hT em2
  refine g_callVi hΓ.k vl_X2_405 hT C rfl rfl (Nat.le_of_ble_eq_true rfl) (Nat.le_of_ble_eq_true rfl) (Nat.le_of_ble_eq_true rfl) dX2_layFromNone_3 ?_
  replace hT := (C.1).kd hT
  replace h := ite_of h; rcases h with ⟨hc, h⟩ | ⟨hc, h⟩
  · cases h
    exact g_zret rfl hc dX2_layFromNone_6
  · cases h
theorem ct_X2_layFromNone {Γ : GG} (hΓ : GF Γ) {m mF : MM} {x : Nat} (hT : (m.K x).1 = 3) {r : Int32} (h : f_X2_layFromNone x m = some (r, mF)) : Ct Γ kX2_layFromNone cX2_layFromNone [.ref x] m (.inl (some (.int r))) mF := by
  unfold f_X2_layFromNone at h
  exact Ct.of (κ := kX2_layFromNone) (by decide) rfl (Nat.le_of_ble_eq_true rfl) rfl (w_X2_layFromNone_0 hΓ hT h)
def p_X2_turnsByOrder (Γ : GG) (m0 mF : MM) (x : Nat) (l1 : Int32) (r : Unit) : ((Int32 × MM)) → Prop := fun z => match z with
  | (l2, m) => (m.K x).1 = 3 → G Γ kX2_turnsByOrder cX2_turnsByOrder m0 mF (.inl none) m 2 [some (.ref x), some (.int l1), some (.int l2)] []
set_option maxHeartbeats 4000000 in
theorem w_X2_turnsByOrder_2 {Γ : GG} (hΓ : GF Γ) {m0 mF m : MM} {x : Nat} {l1 : Int32} {l2 : Int32} (hT : (m.K x).1 = 3) {r : Unit} {q : ((Int32 × MM)) ⊕ (Unit × MM)} (h : b_X2_turnsByOrder_2 x l1 l2 m = some q) (Hl : ∀ z, q = .inl z → p_X2_turnsByOrder Γ m0 mF x l1 r z) (Hr : ∀ z, q = .inr z → z = (r, mF)) : G Γ kX2_turnsByOrder cX2_turnsByOrder m0 mF (.inl none) m 2 [some (.ref x), some (.int l1), some (.int l2)] [] := by
  unfold b_X2_turnsByOrder_2 at h
  refine g_iload_n 2 dX2_turnsByOrder_2 rfl rfl ?_
  refine g_bi (6) dX2_turnsByOrder_3 rfl ?_
  replace h := ite_of h; rcases h with ⟨hc, h⟩ | ⟨hc, h⟩
  · refine g_icgeT dX2_turnsByOrder_5 rfl hc ?_
    cases h
    cases Hr _ rfl
    exact g_vret rfl dX2_turnsByOrder_25
  · refine g_icgeF dX2_turnsByOrder_5 rfl hc ?_
    refine g_this dX2_turnsByOrder_8 rfl ?_
    refine g_getR hΓ.k fl_X2_122_X2 rfl hT dX2_turnsByOrder_9 ?_
    refine g_iload_n 2 dX2_turnsByOrder_12 rfl rfl ?_
    refine g_iload_n 1 dX2_turnsByOrder_13 rfl rfl ?_
    refine g_iload_n 2 dX2_turnsByOrder_14 rfl rfl ?_
    replace h := bd2_of h; obtain ⟨v1, m2, em2, h⟩ := h
    have C := ct_X2_orderTurn hΓ em2
    refine g_callSi sl_X2_431 C rfl rfl (Nat.le_of_ble_eq_true rfl) (Nat.le_of_ble_eq_true rfl) (Nat.le_of_ble_eq_true rfl) dX2_turnsByOrder_15 ?_
    replace hT := (C.1).kd hT
    replace h := bd_of h; obtain ⟨m3, em3, h⟩ := h
    refine g_iast em3 dX2_turnsByOrder_18 ?_
    replace hT := (sI_ext em3).kd hT
    refine g_iinc (l2 + (1 : Int32)) dX2_turnsByOrder_19 rfl rfl (Nat.le_of_ble_eq_true rfl) rfl ?_
    dsimp only [List.set]
    refine g_goto dX2_turnsByOrder_22 rfl ?_
    cases h
    refine G.weak [true, true, true] rfl ?_
    exact Hl _ rfl hT
set_option maxHeartbeats 4000000 in
theorem w_X2_turnsByOrder_0 {Γ : GG} (hΓ : GF Γ) {m0 mF m : MM} {x : Nat} {l1 : Int32} (hT : (m.K x).1 = 3) {r : Unit} {q : ((Int32 × MM)) ⊕ (Unit × MM)} (h : b_X2_turnsByOrder_0 x l1 m = some q) (Hl : ∀ z, q = .inl z → p_X2_turnsByOrder Γ m0 mF x l1 r z) (Hr : ∀ z, q = .inr z → z = (r, mF)) : G Γ kX2_turnsByOrder cX2_turnsByOrder m0 mF (.inl none) m 0 [some (.ref x), some (.int l1), none] [] := by
  unfold b_X2_turnsByOrder_0 at h
  refine g_ic 0 dX2_turnsByOrder_0 rfl ?_
  refine g_istore_n 2 dX2_turnsByOrder_1 rfl (Nat.le_of_ble_eq_true rfl) rfl ?_
  dsimp only [List.set]
  cases h
  refine G.weak [true, true, true] rfl ?_
  exact Hl _ rfl hT
theorem ct_X2_turnsByOrder {Γ : GG} (hΓ : GF Γ) {m mF : MM} {x : Nat} {l1 : Int32} (hT : (m.K x).1 = 3) {r : Unit} (h : f_X2_turnsByOrder x l1 m = some (r, mF)) : Ct Γ kX2_turnsByOrder cX2_turnsByOrder [.ref x, .int l1] m (.inl none) mF := by
  unfold f_X2_turnsByOrder at h
  replace h := bd_of h; obtain ⟨q, e, h⟩ := h
  have H := rx_go_ind (P := p_X2_turnsByOrder Γ m mF x l1 r) (fun z o hs Hl Hr => by
    match z with
    | (l2, m) => exact fun hT => w_X2_turnsByOrder_2 hΓ hT hs Hl Hr) h
  exact Ct.of (κ := kX2_turnsByOrder) (by decide) rfl (Nat.le_of_ble_eq_true rfl) rfl (w_X2_turnsByOrder_0 hΓ hT e H.1 H.2)
def p_X2_lots (Γ : GG) (m0 mF : MM) (x : Nat) (l1 : Int32) (r : Int32) : ((Int32 × Int32 × MM)) → Prop := fun z => match z with
  | (l2, l3, m) => (m.K x).1 = 3 → G Γ kX2_lots cX2_lots m0 mF (.inl (some (.int r))) m 29 [some (.ref x), some (.int l1), some (.int l2), some (.int l3)] []
set_option maxHeartbeats 4000000 in
theorem w_X2_lots_29 {Γ : GG} (hΓ : GF Γ) {m0 mF m : MM} {x : Nat} {l1 : Int32} {l2 : Int32} {l3 : Int32} (hT : (m.K x).1 = 3) {r : Int32} {q : ((Int32 × Int32 × MM)) ⊕ (Int32 × MM)} (h : b_X2_lots_29 x l1 l2 l3 m = some q) (Hl : ∀ z, q = .inl z → p_X2_lots Γ m0 mF x l1 r z) (Hr : ∀ z, q = .inr z → z = (r, mF)) : G Γ kX2_lots cX2_lots m0 mF (.inl (some (.int r))) m 29 [some (.ref x), some (.int l1), some (.int l2), some (.int l3)] [] := by
  unfold b_X2_lots_29 at h
  refine g_iload_n 3 dX2_lots_29 rfl rfl ?_
  refine g_bi (6) dX2_lots_30 rfl ?_
  replace h := ite_of h; rcases h with ⟨hc, h⟩ | ⟨hc, h⟩
  · refine g_icgeT dX2_lots_32 rfl hc ?_
    refine g_iload_n 2 dX2_lots_63 rfl rfl ?_
    cases h
    cases Hr _ rfl
    exact g_iret rfl dX2_lots_64
  · refine g_icgeF dX2_lots_32 rfl hc ?_
    refine g_this dX2_lots_35 rfl ?_
    refine g_iload_n 3 dX2_lots_36 rfl rfl ?_
    replace h := bd2_of h; obtain ⟨_, m1, em1, h⟩ := h
    have C := ct_X2_turnsByOrder hΓ hT em1
    refine g_callVv hΓ.k vl_X2_455 hT C rfl rfl (Nat.le_of_ble_eq_true rfl) (Nat.le_of_ble_eq_true rfl) (Nat.le_of_ble_eq_true rfl) dX2_lots_37 ?_
    replace hT := (C.1).kd hT
    refine g_iload_n 2 dX2_lots_40 rfl rfl ?_
    refine g_this dX2_lots_41 rfl ?_
    refine g_getR hΓ.k fl_X2_110_X2 rfl hT dX2_lots_42 ?_
    refine g_ic 3 dX2_lots_45 rfl ?_
    refine g_this dX2_lots_46 rfl ?_
    refine g_ic 0 dX2_lots_47 rfl ?_
    replace h := bd2_of h; obtain ⟨v2, m3, em3, h⟩ := h
    have C := ct_X2_plays hΓ hT em3
    refine g_callVi hΓ.k vl_X2_440 hT C rfl rfl (Nat.le_of_ble_eq_true rfl) (Nat.le_of_ble_eq_true rfl) (Nat.le_of_ble_eq_true rfl) dX2_lots_48 ?_
    replace hT := (C.1).kd hT
    refine g_imul dX2_lots_51 ?_
    refine g_iload_n 1 dX2_lots_52 rfl rfl ?_
    refine g_iadd dX2_lots_53 ?_
    replace h := bd_of h; obtain ⟨v4, ev4, h⟩ := h
    refine g_iald ev4 dX2_lots_54 ?_
    refine g_iadd dX2_lots_55 ?_
    refine g_istore_n 2 dX2_lots_56 rfl (Nat.le_of_ble_eq_true rfl) rfl ?_
    dsimp only [List.set]
    refine g_iinc (l3 + (1 : Int32)) dX2_lots_57 rfl rfl (Nat.le_of_ble_eq_true rfl) rfl ?_
    dsimp only [List.set]
    refine g_goto dX2_lots_60 rfl ?_
    cases h
    refine G.weak [true, true, true, true] rfl ?_
    exact Hl _ rfl hT
set_option maxHeartbeats 4000000 in
theorem w_X2_lots_0 {Γ : GG} (hΓ : GF Γ) {m0 mF m : MM} {x : Nat} {l1 : Int32} (hT : (m.K x).1 = 3) {r : Int32} {q : ((Int32 × Int32 × MM)) ⊕ (Int32 × MM)} (h : b_X2_lots_0 x l1 m = some q) (Hl : ∀ z, q = .inl z → p_X2_lots Γ m0 mF x l1 r z) (Hr : ∀ z, q = .inr z → z = (r, mF)) : G Γ kX2_lots cX2_lots m0 mF (.inl (some (.int r))) m 0 [some (.ref x), some (.int l1), none, none] [] := by
  unfold b_X2_lots_0 at h
  refine g_iload_n 1 dX2_lots_0 rfl rfl ?_
  replace h := bd2_of h; obtain ⟨v1, m2, em2, h⟩ := h
  have C := ct_X2_isGuild hΓ em2
  refine g_callSi sl_X2_308 C rfl rfl (Nat.le_of_ble_eq_true rfl) (Nat.le_of_ble_eq_true rfl) (Nat.le_of_ble_eq_true rfl) dX2_lots_1 ?_
  replace hT := (C.1).kd hT
  replace h := ite_of h; rcases h with ⟨hc, h⟩ | ⟨hc, h⟩
  · refine g_ifeqT dX2_lots_4 rfl hc ?_
    refine g_ldcw (v := -1000000) q1595 dX2_lots_21 ?_
    cases h
    cases Hr _ rfl
    exact g_iret rfl dX2_lots_24
  · refine g_ifeqF dX2_lots_4 rfl hc ?_
    refine g_this dX2_lots_7 rfl ?_
    replace h := bd2_of h; obtain ⟨v3, m4, em4, h⟩ := h
    have C := ct_X2_layFromNone hΓ hT em4
    refine g_callVi hΓ.k vl_X2_452 hT C rfl rfl (Nat.le_of_ble_eq_true rfl) (Nat.le_of_ble_eq_true rfl) (Nat.le_of_ble_eq_true rfl) dX2_lots_8 ?_
    replace hT := (C.1).kd hT
    replace h := ite_of h; rcases h with ⟨hc, h⟩ | ⟨hc, h⟩
    · refine g_ifeqT dX2_lots_11 rfl hc ?_
      refine g_ldcw (v := -1000000) q1595 dX2_lots_21 ?_
      cases h
      cases Hr _ rfl
      exact g_iret rfl dX2_lots_24
    · refine g_ifeqF dX2_lots_11 rfl hc ?_
      refine g_this dX2_lots_14 rfl ?_
      refine g_getI hΓ.k fl_X2_390_X2 rfl hT dX2_lots_15 ?_
      replace h := ite_of h; rcases h with ⟨hc, h⟩ | ⟨hc, h⟩
      · refine g_ifneF dX2_lots_18 rfl hc ?_
        refine g_ldcw (v := -1000000) q1595 dX2_lots_21 ?_
        cases h
        cases Hr _ rfl
        exact g_iret rfl dX2_lots_24
      · refine g_ifneT dX2_lots_18 rfl hc ?_
        refine g_ic 0 dX2_lots_25 rfl ?_
        refine g_istore_n 2 dX2_lots_26 rfl (Nat.le_of_ble_eq_true rfl) rfl ?_
        dsimp only [List.set]
        refine g_ic 0 dX2_lots_27 rfl ?_
        refine g_istore_n 3 dX2_lots_28 rfl (Nat.le_of_ble_eq_true rfl) rfl ?_
        dsimp only [List.set]
        cases h
        refine G.weak [true, true, true, true] rfl ?_
        exact Hl _ rfl hT
theorem ct_X2_lots {Γ : GG} (hΓ : GF Γ) {m mF : MM} {x : Nat} {l1 : Int32} (hT : (m.K x).1 = 3) {r : Int32} (h : f_X2_lots x l1 m = some (r, mF)) : Ct Γ kX2_lots cX2_lots [.ref x, .int l1] m (.inl (some (.int r))) mF := by
  unfold f_X2_lots at h
  replace h := bd_of h; obtain ⟨q, e, h⟩ := h
  have H := rx_go_ind (P := p_X2_lots Γ m mF x l1 r) (fun z o hs Hl Hr => by
    match z with
    | (l2, l3, m) => exact fun hT => w_X2_lots_29 hΓ hT hs Hl Hr) h
  exact Ct.of (κ := kX2_lots) (by decide) rfl (Nat.le_of_ble_eq_true rfl) rfl (w_X2_lots_0 hΓ hT e H.1 H.2)
def p_X2_sumOf (Γ : GG) (m0 mF : MM) (x : Nat) (l1 : Int32) (r : Int32) : ((Int32 × Int32 × MM)) → Prop := fun z => match z with
  | (l2, l3, m) => (m.K x).1 = 3 → G Γ kX2_sumOf cX2_sumOf m0 mF (.inl (some (.int r))) m 6 [some (.ref x), some (.int l1), some (.int l2), some (.int l3), none] []
set_option maxHeartbeats 4000000 in
theorem w_X2_sumOf_49 {Γ : GG} (hΓ : GF Γ) {m0 mF m : MM} {x : Nat} {l1 : Int32} {l2 : Int32} {l3 : Int32} {s0 : Int32} (hT : (m.K x).1 = 3) {r : Int32} {q : ((Int32 × Int32 × MM)) ⊕ (Int32 × MM)} (h : b_X2_sumOf_49 x l1 l2 l3 s0 m = some q) (Hl : ∀ z, q = .inl z → p_X2_sumOf Γ m0 mF x l1 r z) (Hr : ∀ z, q = .inr z → z = (r, mF)) : G Γ kX2_sumOf cX2_sumOf m0 mF (.inl (some (.int r))) m 49 [some (.ref x), some (.int l1), some (.int l2), some (.int l3), none] [.int s0] := by
  unfold b_X2_sumOf_49 at h
  refine g_istore dX2_sumOf_49 (Nat.le_of_ble_eq_true rfl) rfl ?_
  dsimp only [List.set]
  refine g_iload dX2_sumOf_51 rfl ?_
  replace h := ite_of h; rcases h with ⟨hc, h⟩ | ⟨hc, h⟩
  · refine g_ifneF dX2_sumOf_53 rfl hc ?_
    refine g_ic 0 dX2_sumOf_56 rfl ?_
    cases h
    cases Hr _ rfl
    exact g_iret rfl dX2_sumOf_57
  · refine g_ifneT dX2_sumOf_53 rfl hc ?_
    refine g_iload_n 2 dX2_sumOf_58 rfl rfl ?_
    refine g_iload dX2_sumOf_59 rfl ?_
    refine g_iadd dX2_sumOf_61 ?_
    refine g_istore_n 2 dX2_sumOf_62 rfl (Nat.le_of_ble_eq_true rfl) rfl ?_
    dsimp only [List.set]
    refine g_iinc (l3 + (1 : Int32)) dX2_sumOf_63 rfl rfl (Nat.le_of_ble_eq_true rfl) rfl ?_
    dsimp only [List.set]
    refine g_goto dX2_sumOf_66 rfl ?_
    cases h
    refine G.weak [true, true, true, true, false] rfl ?_
    exact Hl _ rfl hT
set_option maxHeartbeats 4000000 in
theorem w_X2_sumOf_6 {Γ : GG} (hΓ : GF Γ) {m0 mF m : MM} {x : Nat} {l1 : Int32} {l2 : Int32} {l3 : Int32} (hT : (m.K x).1 = 3) {r : Int32} {q : ((Int32 × Int32 × MM)) ⊕ (Int32 × MM)} (h : b_X2_sumOf_6 x l1 l2 l3 m = some q) (Hl : ∀ z, q = .inl z → p_X2_sumOf Γ m0 mF x l1 r z) (Hr : ∀ z, q = .inr z → z = (r, mF)) : G Γ kX2_sumOf cX2_sumOf m0 mF (.inl (some (.int r))) m 6 [some (.ref x), some (.int l1), some (.int l2), some (.int l3), none] [] := by
  unfold b_X2_sumOf_6 at h
  refine g_iload_n 3 dX2_sumOf_6 rfl rfl ?_
  refine g_ic 4 dX2_sumOf_7 rfl ?_
  refine g_iload_n 1 dX2_sumOf_8 rfl rfl ?_
  refine g_imul dX2_sumOf_9 ?_
  refine g_this dX2_sumOf_10 rfl ?_
  refine g_getR hΓ.k fl_X2_51_X2 rfl hT dX2_sumOf_11 ?_
  refine g_iload_n 1 dX2_sumOf_14 rfl rfl ?_
  replace h := bd_of h; obtain ⟨v1, ev1, h⟩ := h
  refine g_iald ev1 dX2_sumOf_15 ?_
  refine g_iadd dX2_sumOf_16 ?_
  replace h := ite_of h; rcases h with ⟨hc, h⟩ | ⟨hc, h⟩
  · refine g_icgeT dX2_sumOf_17 rfl hc ?_
    refine g_iload_n 2 dX2_sumOf_69 rfl rfl ?_
    refine g_ldcw (v := 1000000) q1820 dX2_sumOf_70 ?_
    replace h := ite_of h; rcases h with ⟨hc, h⟩ | ⟨hc, h⟩
    · refine g_icleT dX2_sumOf_73 rfl hc ?_
      refine g_iload_n 2 dX2_sumOf_82 rfl rfl ?_
      cases h
      cases Hr _ rfl
      exact g_iret rfl dX2_sumOf_83
    · refine g_icleF dX2_sumOf_73 rfl hc ?_
      refine g_ldcw (v := 1000000) q1820 dX2_sumOf_76 ?_
      refine g_goto dX2_sumOf_79 rfl ?_
      cases h
      cases Hr _ rfl
      exact g_iret rfl dX2_sumOf_83
  · refine g_icgeF dX2_sumOf_17 rfl hc ?_
    refine g_this dX2_sumOf_20 rfl ?_
    refine g_getR hΓ.k fl_X2_54_X2 rfl hT dX2_sumOf_21 ?_
    refine g_iload_n 3 dX2_sumOf_24 rfl rfl ?_
    replace h := bd_of h; obtain ⟨v2, ev2, h⟩ := h
    refine g_iald ev2 dX2_sumOf_25 ?_
    refine g_bi (8) dX2_sumOf_26 rfl ?_
    replace h := ite_of h; rcases h with ⟨hc, h⟩ | ⟨hc, h⟩
    · refine g_icgeT dX2_sumOf_28 rfl hc ?_
      refine g_this dX2_sumOf_35 rfl ?_
      refine g_getR hΓ.k fl_X2_131_X2 rfl hT dX2_sumOf_36 ?_
      refine g_this dX2_sumOf_39 rfl ?_
      refine g_getR hΓ.k fl_X2_54_X2 rfl hT dX2_sumOf_40 ?_
      refine g_iload_n 3 dX2_sumOf_43 rfl rfl ?_
      replace h := bd_of h; obtain ⟨v3, ev3, h⟩ := h
      refine g_iald ev3 dX2_sumOf_44 ?_
      refine g_bi (8) dX2_sumOf_45 rfl ?_
      refine g_isub dX2_sumOf_47 ?_
      replace h := bd_of h; obtain ⟨v4, ev4, h⟩ := h
      refine g_iald ev4 dX2_sumOf_48 ?_
      refine G.weak [true, true, true, true, false] rfl ?_
      exact w_X2_sumOf_49 hΓ hT h Hl Hr
    · refine g_icgeF dX2_sumOf_28 rfl hc ?_
      refine g_ic 1 dX2_sumOf_31 rfl ?_
      refine g_goto dX2_sumOf_32 rfl ?_
      refine G.weak [true, true, true, true, false] rfl ?_
      exact w_X2_sumOf_49 hΓ hT h Hl Hr
set_option maxHeartbeats 4000000 in
theorem w_X2_sumOf_0 {Γ : GG} (hΓ : GF Γ) {m0 mF m : MM} {x : Nat} {l1 : Int32} (hT : (m.K x).1 = 3) {r : Int32} {q : ((Int32 × Int32 × MM)) ⊕ (Int32 × MM)} (h : b_X2_sumOf_0 x l1 m = some q) (Hl : ∀ z, q = .inl z → p_X2_sumOf Γ m0 mF x l1 r z) (Hr : ∀ z, q = .inr z → z = (r, mF)) : G Γ kX2_sumOf cX2_sumOf m0 mF (.inl (some (.int r))) m 0 [some (.ref x), some (.int l1), none, none, none] [] := by
  unfold b_X2_sumOf_0 at h
  refine g_ic 0 dX2_sumOf_0 rfl ?_
  refine g_istore_n 2 dX2_sumOf_1 rfl (Nat.le_of_ble_eq_true rfl) rfl ?_
  dsimp only [List.set]
  refine g_ic 4 dX2_sumOf_2 rfl ?_
  refine g_iload_n 1 dX2_sumOf_3 rfl rfl ?_
  refine g_imul dX2_sumOf_4 ?_
  refine g_istore_n 3 dX2_sumOf_5 rfl (Nat.le_of_ble_eq_true rfl) rfl ?_
  dsimp only [List.set]
  cases h
  refine G.weak [true, true, true, true, false] rfl ?_
  exact Hl _ rfl hT
theorem ct_X2_sumOf {Γ : GG} (hΓ : GF Γ) {m mF : MM} {x : Nat} {l1 : Int32} (hT : (m.K x).1 = 3) {r : Int32} (h : f_X2_sumOf x l1 m = some (r, mF)) : Ct Γ kX2_sumOf cX2_sumOf [.ref x, .int l1] m (.inl (some (.int r))) mF := by
  unfold f_X2_sumOf at h
  replace h := bd_of h; obtain ⟨q, e, h⟩ := h
  have H := rx_go_ind (P := p_X2_sumOf Γ m mF x l1 r) (fun z o hs Hl Hr => by
    match z with
    | (l2, l3, m) => exact fun hT => w_X2_sumOf_6 hΓ hT hs Hl Hr) h
  exact Ct.of (κ := kX2_sumOf) (by decide) rfl (Nat.le_of_ble_eq_true rfl) rfl (w_X2_sumOf_0 hΓ hT e H.1 H.2)
def p_X2_layShortest (Γ : GG) (m0 mF : MM) (x : Nat) (r : Unit) : ((Int32 × MM) ⊕ (Int32 × MM) ⊕ (Int32 × Int32 × MM)) → Prop := fun z => match z with
  | (.inl (l1, m)) => (m.K x).1 = 3 → G Γ kX2_layShortest cX2_layShortest m0 mF (.inl none) m 2 [some (.ref x), some (.int l1), none, none, none] []
  | (.inr (.inl (l1, m))) => (m.K x).1 = 3 → G Γ kX2_layShortest cX2_layShortest m0 mF (.inl none) m 23 [some (.ref x), some (.int l1), none, none, none] []
  | (.inr (.inr (l1, l2, m))) => (m.K x).1 = 3 → G Γ kX2_layShortest cX2_layShortest m0 mF (.inl none) m 37 [some (.ref x), some (.int l1), some (.int l2), none, none] []
set_option maxHeartbeats 4000000 in
theorem w_X2_layShortest_100 {Γ : GG} (hΓ : GF Γ) {m0 mF m : MM} {x : Nat} {l2 : Int32} {l3 : Int32} {l4 : Int32} (hT : (m.K x).1 = 3) {r : Unit} {q : ((Int32 × MM) ⊕ (Int32 × MM) ⊕ (Int32 × Int32 × MM)) ⊕ (Unit × MM)} (h : b_X2_layShortest_100 x l2 l3 l4 m = some q) (Hl : ∀ z, q = .inl z → p_X2_layShortest Γ m0 mF x r z) (Hr : ∀ z, q = .inr z → z = (r, mF)) : G Γ kX2_layShortest cX2_layShortest m0 mF (.inl none) m 100 [some (.ref x), none, some (.int l2), some (.int l3), some (.int l4)] [] := by
  unfold b_X2_layShortest_100 at h
  refine g_this dX2_layShortest_100 rfl ?_
  refine g_getR hΓ.k fl_X2_131_X2 rfl hT dX2_layShortest_101 ?_
  refine g_iload dX2_layShortest_104 rfl ?_
  refine g_iload_n 3 dX2_layShortest_106 rfl rfl ?_
  replace h := bd_of h; obtain ⟨m1, em1, h⟩ := h
  refine g_iast em1 dX2_layShortest_107 ?_
  replace hT := (sI_ext em1).kd hT
  refine g_ic 1 dX2_layShortest_108 rfl ?_
  refine g_istore_n 1 dX2_layShortest_109 rfl (Nat.le_of_ble_eq_true rfl) rfl ?_
  dsimp only [List.set]
  refine g_iinc (l2 + (1 : Int32)) dX2_layShortest_110 rfl rfl (Nat.le_of_ble_eq_true rfl) rfl ?_
  dsimp only [List.set]
  refine g_goto dX2_layShortest_113 rfl ?_
  cases h
  refine G.weak [true, true, true, false, false] rfl ?_
  exact Hl _ rfl hT
set_option maxHeartbeats 4000000 in
theorem w_X2_layShortest_37 {Γ : GG} (hΓ : GF Γ) {m0 mF m : MM} {x : Nat} {l1 : Int32} {l2 : Int32} (hT : (m.K x).1 = 3) {r : Unit} {q : ((Int32 × MM) ⊕ (Int32 × MM) ⊕ (Int32 × Int32 × MM)) ⊕ (Unit × MM)} (h : b_X2_layShortest_37 x l1 l2 m = some q) (Hl : ∀ z, q = .inl z → p_X2_layShortest Γ m0 mF x r z) (Hr : ∀ z, q = .inr z → z = (r, mF)) : G Γ kX2_layShortest cX2_layShortest m0 mF (.inl none) m 37 [some (.ref x), some (.int l1), some (.int l2), none, none] [] := by
  unfold b_X2_layShortest_37 at h
  refine g_iload_n 2 dX2_layShortest_37 rfl rfl ?_
  refine g_bi (24) dX2_layShortest_38 rfl ?_
  refine g_this dX2_layShortest_40 rfl ?_
  refine g_getI hΓ.k fl_X2_233_X2 rfl hT dX2_layShortest_41 ?_
  refine g_imul dX2_layShortest_44 ?_
  refine g_this dX2_layShortest_45 rfl ?_
  refine g_getR hΓ.k fl_X2_30_X2 rfl hT dX2_layShortest_46 ?_
  refine g_this dX2_layShortest_49 rfl ?_
  refine g_getI hΓ.k fl_X2_233_X2 rfl hT dX2_layShortest_50 ?_
  replace h := bd_of h; obtain ⟨v1, ev1, h⟩ := h
  refine g_iald ev1 dX2_layShortest_53 ?_
  refine g_iadd dX2_layShortest_54 ?_
  replace h := ite_of h; rcases h with ⟨hc, h⟩ | ⟨hc, h⟩
  · refine g_icgeT dX2_layShortest_55 rfl hc ?_
    refine g_goto dX2_layShortest_116 rfl ?_
    cases h
    refine G.weak [true, true, false, false, false] rfl ?_
    exact Hl _ rfl hT
  · refine g_icgeF dX2_layShortest_55 rfl hc ?_
    refine g_this dX2_layShortest_58 rfl ?_
    refine g_iload_n 2 dX2_layShortest_59 rfl rfl ?_
    replace h := bd2_of h; obtain ⟨v2, m3, em3, h⟩ := h
    have C := ct_X2_sumOf hΓ hT em3
    refine g_callVi hΓ.k vl_X2_458 hT C rfl rfl (Nat.le_of_ble_eq_true rfl) (Nat.le_of_ble_eq_true rfl) (Nat.le_of_ble_eq_true rfl) dX2_layShortest_60 ?_
    replace hT := (C.1).kd hT
    refine g_istore_n 3 dX2_layShortest_63 rfl (Nat.le_of_ble_eq_true rfl) rfl ?_
    dsimp only [List.set]
    refine g_this dX2_layShortest_64 rfl ?_
    refine g_getR hΓ.k fl_X2_48_X2 rfl hT dX2_layShortest_65 ?_
    refine g_iload_n 2 dX2_layShortest_68 rfl rfl ?_
    replace h := bd_of h; obtain ⟨v4, ev4, h⟩ := h
    refine g_iald ev4 dX2_layShortest_69 ?_
    refine g_istore dX2_layShortest_70 (Nat.le_of_ble_eq_true rfl) rfl ?_
    dsimp only [List.set]
    refine g_iload_n 3 dX2_layShortest_72 rfl rfl ?_
    replace h := ite_of h; rcases h with ⟨hc, h⟩ | ⟨hc, h⟩
    · refine g_ifeqT dX2_layShortest_73 rfl hc ?_
      refine g_iinc (l2 + (1 : Int32)) dX2_layShortest_110 rfl rfl (Nat.le_of_ble_eq_true rfl) rfl ?_
      dsimp only [List.set]
      refine g_goto dX2_layShortest_113 rfl ?_
      cases h
      refine G.weak [true, true, true, false, false] rfl ?_
      exact Hl _ rfl hT
    · refine g_ifeqF dX2_layShortest_73 rfl hc ?_
      refine g_this dX2_layShortest_76 rfl ?_
      refine g_getR hΓ.k fl_X2_131_X2 rfl hT dX2_layShortest_77 ?_
      refine g_iload dX2_layShortest_80 rfl ?_
      replace h := bd_of h; obtain ⟨v5, ev5, h⟩ := h
      refine g_iald ev5 dX2_layShortest_82 ?_
      replace h := ite_of h; rcases h with ⟨hc, h⟩ | ⟨hc, h⟩
      · refine g_ifleT dX2_layShortest_83 rfl hc ?_
        refine G.weak [true, false, true, true, true] rfl ?_
        exact w_X2_layShortest_100 hΓ hT h Hl Hr
      · refine g_ifleF dX2_layShortest_83 rfl hc ?_
        refine g_this dX2_layShortest_86 rfl ?_
        refine g_getR hΓ.k fl_X2_131_X2 rfl hT dX2_layShortest_87 ?_
        refine g_iload dX2_layShortest_90 rfl ?_
        replace h := bd_of h; obtain ⟨v6, ev6, h⟩ := h
        refine g_iald ev6 dX2_layShortest_92 ?_
        refine g_iload_n 3 dX2_layShortest_93 rfl rfl ?_
        replace h := ite_of h; rcases h with ⟨hc, h⟩ | ⟨hc, h⟩
        · refine g_icgtT dX2_layShortest_94 rfl hc ?_
          refine G.weak [true, false, true, true, true] rfl ?_
          exact w_X2_layShortest_100 hΓ hT h Hl Hr
        · refine g_icgtF dX2_layShortest_94 rfl hc ?_
          refine g_goto dX2_layShortest_97 rfl ?_
          refine g_iinc (l2 + (1 : Int32)) dX2_layShortest_110 rfl rfl (Nat.le_of_ble_eq_true rfl) rfl ?_
          dsimp only [List.set]
          refine g_goto dX2_layShortest_113 rfl ?_
          cases h
          refine G.weak [true, true, true, false, false] rfl ?_
          exact Hl _ rfl hT
set_option maxHeartbeats 4000000 in
theorem w_X2_layShortest_23 {Γ : GG} (hΓ : GF Γ) {m0 mF m : MM} {x : Nat} {l1 : Int32} (hT : (m.K x).1 = 3) {r : Unit} {q : ((Int32 × MM) ⊕ (Int32 × MM) ⊕ (Int32 × Int32 × MM)) ⊕ (Unit × MM)} (h : b_X2_layShortest_23 x l1 m = some q) (Hl : ∀ z, q = .inl z → p_X2_layShortest Γ m0 mF x r z) (Hr : ∀ z, q = .inr z → z = (r, mF)) : G Γ kX2_layShortest cX2_layShortest m0 mF (.inl none) m 23 [some (.ref x), some (.int l1), none, none, none] [] := by
  unfold b_X2_layShortest_23 at h
  refine g_iload_n 1 dX2_layShortest_23 rfl rfl ?_
  replace h := ite_of h; rcases h with ⟨hc, h⟩ | ⟨hc, h⟩
  · refine g_ifeqT dX2_layShortest_24 rfl hc ?_
    cases h
    cases Hr _ rfl
    exact g_vret rfl dX2_layShortest_119
  · refine g_ifeqF dX2_layShortest_24 rfl hc ?_
    refine g_ic 0 dX2_layShortest_27 rfl ?_
    refine g_istore_n 1 dX2_layShortest_28 rfl (Nat.le_of_ble_eq_true rfl) rfl ?_
    dsimp only [List.set]
    refine g_bi (24) dX2_layShortest_29 rfl ?_
    refine g_this dX2_layShortest_31 rfl ?_
    refine g_getI hΓ.k fl_X2_233_X2 rfl hT dX2_layShortest_32 ?_
    refine g_imul dX2_layShortest_35 ?_
    refine g_istore_n 2 dX2_layShortest_36 rfl (Nat.le_of_ble_eq_true rfl) rfl ?_
    dsimp only [List.set]
    cases h
    refine G.weak [true, true, true, false, false] rfl ?_
    exact Hl _ rfl hT
set_option maxHeartbeats 4000000 in
theorem w_X2_layShortest_2 {Γ : GG} (hΓ : GF Γ) {m0 mF m : MM} {x : Nat} {l1 : Int32} (hT : (m.K x).1 = 3) {r : Unit} {q : ((Int32 × MM) ⊕ (Int32 × MM) ⊕ (Int32 × Int32 × MM)) ⊕ (Unit × MM)} (h : b_X2_layShortest_2 x l1 m = some q) (Hl : ∀ z, q = .inl z → p_X2_layShortest Γ m0 mF x r z) (Hr : ∀ z, q = .inr z → z = (r, mF)) : G Γ kX2_layShortest cX2_layShortest m0 mF (.inl none) m 2 [some (.ref x), some (.int l1), none, none, none] [] := by
  unfold b_X2_layShortest_2 at h
  refine g_iload_n 1 dX2_layShortest_2 rfl rfl ?_
  refine g_bi (8) dX2_layShortest_3 rfl ?_
  replace h := ite_of h; rcases h with ⟨hc, h⟩ | ⟨hc, h⟩
  · refine g_icgeT dX2_layShortest_5 rfl hc ?_
    refine g_ic 1 dX2_layShortest_21 rfl ?_
    refine g_istore_n 1 dX2_layShortest_22 rfl (Nat.le_of_ble_eq_true rfl) rfl ?_
    dsimp only [List.set]
    cases h
    refine G.weak [true, true, false, false, false] rfl ?_
    exact Hl _ rfl hT
  · refine g_icgeF dX2_layShortest_5 rfl hc ?_
    refine g_this dX2_layShortest_8 rfl ?_
    refine g_getR hΓ.k fl_X2_131_X2 rfl hT dX2_layShortest_9 ?_
    refine g_iload_n 1 dX2_layShortest_12 rfl rfl ?_
    refine g_ic 0 dX2_layShortest_13 rfl ?_
    replace h := bd_of h; obtain ⟨m1, em1, h⟩ := h
    refine g_iast em1 dX2_layShortest_14 ?_
    replace hT := (sI_ext em1).kd hT
    refine g_iinc (l1 + (1 : Int32)) dX2_layShortest_15 rfl rfl (Nat.le_of_ble_eq_true rfl) rfl ?_
    dsimp only [List.set]
    refine g_goto dX2_layShortest_18 rfl ?_
    cases h
    refine G.weak [true, true, false, false, false] rfl ?_
    exact Hl _ rfl hT
set_option maxHeartbeats 4000000 in
theorem w_X2_layShortest_0 {Γ : GG} (hΓ : GF Γ) {m0 mF m : MM} {x : Nat} (hT : (m.K x).1 = 3) {r : Unit} {q : ((Int32 × MM) ⊕ (Int32 × MM) ⊕ (Int32 × Int32 × MM)) ⊕ (Unit × MM)} (h : b_X2_layShortest_0 x m = some q) (Hl : ∀ z, q = .inl z → p_X2_layShortest Γ m0 mF x r z) (Hr : ∀ z, q = .inr z → z = (r, mF)) : G Γ kX2_layShortest cX2_layShortest m0 mF (.inl none) m 0 [some (.ref x), none, none, none, none] [] := by
  unfold b_X2_layShortest_0 at h
  refine g_ic 0 dX2_layShortest_0 rfl ?_
  refine g_istore_n 1 dX2_layShortest_1 rfl (Nat.le_of_ble_eq_true rfl) rfl ?_
  dsimp only [List.set]
  cases h
  refine G.weak [true, true, false, false, false] rfl ?_
  exact Hl _ rfl hT
theorem ct_X2_layShortest {Γ : GG} (hΓ : GF Γ) {m mF : MM} {x : Nat} (hT : (m.K x).1 = 3) {r : Unit} (h : f_X2_layShortest x m = some (r, mF)) : Ct Γ kX2_layShortest cX2_layShortest [.ref x] m (.inl none) mF := by
  unfold f_X2_layShortest at h
  replace h := bd_of h; obtain ⟨q, e, h⟩ := h
  have H := rx_go_ind (P := p_X2_layShortest Γ m mF x r) (fun z o hs Hl Hr => by
    match z with
    | (.inl (l1, m)) => exact fun hT => w_X2_layShortest_2 hΓ hT hs Hl Hr
    | (.inr (.inl (l1, m))) => exact fun hT => w_X2_layShortest_23 hΓ hT hs Hl Hr
    | (.inr (.inr (l1, l2, m))) => exact fun hT => w_X2_layShortest_37 hΓ hT hs Hl Hr) h
  exact Ct.of (κ := kX2_layShortest) (by decide) rfl (Nat.le_of_ble_eq_true rfl) rfl (w_X2_layShortest_0 hΓ hT e H.1 H.2)
def p_X2_used (Γ : GG) (m0 mF : MM) (x : Nat) (r : Int32) : ((Int32 × Int32 × MM) ⊕ (Int32 × Int32 × Int32 × MM) ⊕ (Int32 × Int32 × Int32 × Int32 × MM)) → Prop := fun z => match z with
  | (.inl (l1, l2, m)) => (m.K x).1 = 3 → G Γ kX2_used cX2_used m0 mF (.inl (some (.int r))) m 31 [some (.ref x), some (.int l1), some (.int l2), none, none] []
  | (.inr (.inl (l1, l2, l3, m))) => (m.K x).1 = 3 → G Γ kX2_used cX2_used m0 mF (.inl (some (.int r))) m 46 [some (.ref x), some (.int l1), some (.int l2), some (.int l3), none] []
  | (.inr (.inr (l1, l2, l3, l4, m))) => (m.K x).1 = 3 → G Γ kX2_used cX2_used m0 mF (.inl (some (.int r))) m 96 [some (.ref x), some (.int l1), some (.int l2), some (.int l3), some (.int l4)] []
set_option maxHeartbeats 4000000 in
theorem w_X2_used_96 {Γ : GG} (hΓ : GF Γ) {m0 mF m : MM} {x : Nat} {l1 : Int32} {l2 : Int32} {l3 : Int32} {l4 : Int32} (hT : (m.K x).1 = 3) {r : Int32} {q : ((Int32 × Int32 × MM) ⊕ (Int32 × Int32 × Int32 × MM) ⊕ (Int32 × Int32 × Int32 × Int32 × MM)) ⊕ (Int32 × MM)} (h : b_X2_used_96 x l1 l2 l3 l4 m = some q) (Hl : ∀ z, q = .inl z → p_X2_used Γ m0 mF x r z) (Hr : ∀ z, q = .inr z → z = (r, mF)) : G Γ kX2_used cX2_used m0 mF (.inl (some (.int r))) m 96 [some (.ref x), some (.int l1), some (.int l2), some (.int l3), some (.int l4)] [] := by
  unfold b_X2_used_96 at h
  refine g_iload dX2_used_96 rfl ?_
  refine g_ic 4 dX2_used_98 rfl ?_
  refine g_iload_n 3 dX2_used_99 rfl rfl ?_
  refine g_imul dX2_used_100 ?_
  refine g_this dX2_used_101 rfl ?_
  refine g_getR hΓ.k fl_X2_51_X2 rfl hT dX2_used_102 ?_
  refine g_iload_n 3 dX2_used_105 rfl rfl ?_
  replace h := bd_of h; obtain ⟨v1, ev1, h⟩ := h
  refine g_iald ev1 dX2_used_106 ?_
  refine g_iadd dX2_used_107 ?_
  replace h := ite_of h; rcases h with ⟨hc, h⟩ | ⟨hc, h⟩
  · refine g_icgeT dX2_used_108 rfl hc ?_
    refine g_iinc (l3 + (1 : Int32)) dX2_used_144 rfl rfl (Nat.le_of_ble_eq_true rfl) rfl ?_
    dsimp only [List.set]
    refine g_goto dX2_used_147 rfl ?_
    cases h
    refine G.weak [true, true, true, true, false] rfl ?_
    exact Hl _ rfl hT
  · refine g_icgeF dX2_used_108 rfl hc ?_
    refine g_this dX2_used_111 rfl ?_
    refine g_getR hΓ.k fl_X2_54_X2 rfl hT dX2_used_112 ?_
    refine g_iload dX2_used_115 rfl ?_
    replace h := bd_of h; obtain ⟨v2, ev2, h⟩ := h
    refine g_iald ev2 dX2_used_117 ?_
    refine g_bi (8) dX2_used_118 rfl ?_
    replace h := ite_of h; rcases h with ⟨hc, h⟩ | ⟨hc, h⟩
    · refine g_icltT dX2_used_120 rfl hc ?_
      refine g_iinc (l4 + (1 : Int32)) dX2_used_138 rfl rfl (Nat.le_of_ble_eq_true rfl) rfl ?_
      dsimp only [List.set]
      refine g_goto dX2_used_141 rfl ?_
      cases h
      refine G.weak [true, true, true, true, true] rfl ?_
      exact Hl _ rfl hT
    · refine g_icltF dX2_used_120 rfl hc ?_
      refine g_iload_n 1 dX2_used_123 rfl rfl ?_
      refine g_ic 1 dX2_used_124 rfl ?_
      refine g_this dX2_used_125 rfl ?_
      refine g_getR hΓ.k fl_X2_54_X2 rfl hT dX2_used_126 ?_
      refine g_iload dX2_used_129 rfl ?_
      replace h := bd_of h; obtain ⟨v3, ev3, h⟩ := h
      refine g_iald ev3 dX2_used_131 ?_
      refine g_bi (8) dX2_used_132 rfl ?_
      refine g_isub dX2_used_134 ?_
      refine g_ishl dX2_used_135 ?_
      refine g_ior dX2_used_136 ?_
      refine g_istore_n 1 dX2_used_137 rfl (Nat.le_of_ble_eq_true rfl) rfl ?_
      dsimp only [List.set]
      refine g_iinc (l4 + (1 : Int32)) dX2_used_138 rfl rfl (Nat.le_of_ble_eq_true rfl) rfl ?_
      dsimp only [List.set]
      refine g_goto dX2_used_141 rfl ?_
      cases h
      refine G.weak [true, true, true, true, true] rfl ?_
      exact Hl _ rfl hT
set_option maxHeartbeats 4000000 in
theorem w_X2_used_46 {Γ : GG} (hΓ : GF Γ) {m0 mF m : MM} {x : Nat} {l1 : Int32} {l2 : Int32} {l3 : Int32} (hT : (m.K x).1 = 3) {r : Int32} {q : ((Int32 × Int32 × MM) ⊕ (Int32 × Int32 × Int32 × MM) ⊕ (Int32 × Int32 × Int32 × Int32 × MM)) ⊕ (Int32 × MM)} (h : b_X2_used_46 x l1 l2 l3 m = some q) (Hl : ∀ z, q = .inl z → p_X2_used Γ m0 mF x r z) (Hr : ∀ z, q = .inr z → z = (r, mF)) : G Γ kX2_used cX2_used m0 mF (.inl (some (.int r))) m 46 [some (.ref x), some (.int l1), some (.int l2), some (.int l3), none] [] := by
  unfold b_X2_used_46 at h
  refine g_iload_n 3 dX2_used_46 rfl rfl ?_
  refine g_bi (24) dX2_used_47 rfl ?_
  refine g_this dX2_used_49 rfl ?_
  refine g_getI hΓ.k fl_X2_233_X2 rfl hT dX2_used_50 ?_
  refine g_imul dX2_used_53 ?_
  refine g_this dX2_used_54 rfl ?_
  refine g_getR hΓ.k fl_X2_30_X2 rfl hT dX2_used_55 ?_
  refine g_this dX2_used_58 rfl ?_
  refine g_getI hΓ.k fl_X2_233_X2 rfl hT dX2_used_59 ?_
  replace h := bd_of h; obtain ⟨v1, ev1, h⟩ := h
  refine g_iald ev1 dX2_used_62 ?_
  refine g_iadd dX2_used_63 ?_
  replace h := ite_of h; rcases h with ⟨hc, h⟩ | ⟨hc, h⟩
  · refine g_icgeT dX2_used_64 rfl hc ?_
    refine g_goto dX2_used_150 rfl ?_
    cases h
    refine G.weak [true, true, true, false, false] rfl ?_
    exact Hl _ rfl hT
  · refine g_icgeF dX2_used_64 rfl hc ?_
    refine g_iload_n 1 dX2_used_67 rfl rfl ?_
    refine g_this dX2_used_68 rfl ?_
    refine g_getR hΓ.k fl_X2_48_X2 rfl hT dX2_used_69 ?_
    refine g_iload_n 3 dX2_used_72 rfl rfl ?_
    replace h := bd_of h; obtain ⟨v2, ev2, h⟩ := h
    refine g_iald ev2 dX2_used_73 ?_
    refine g_ishr dX2_used_74 ?_
    refine g_ic 1 dX2_used_75 rfl ?_
    refine g_iand dX2_used_76 ?_
    replace h := ite_of h; rcases h with ⟨hc, h⟩ | ⟨hc, h⟩
    · refine g_ifeqT dX2_used_77 rfl hc ?_
      refine g_iinc (l3 + (1 : Int32)) dX2_used_144 rfl rfl (Nat.le_of_ble_eq_true rfl) rfl ?_
      dsimp only [List.set]
      refine g_goto dX2_used_147 rfl ?_
      cases h
      refine G.weak [true, true, true, true, false] rfl ?_
      exact Hl _ rfl hT
    · refine g_ifeqF dX2_used_77 rfl hc ?_
      refine g_this dX2_used_80 rfl ?_
      refine g_iload_n 3 dX2_used_81 rfl rfl ?_
      replace h := bd2_of h; obtain ⟨v3, m4, em4, h⟩ := h
      have C := ct_X2_sumOf hΓ hT em4
      refine g_callVi hΓ.k vl_X2_458 hT C rfl rfl (Nat.le_of_ble_eq_true rfl) (Nat.le_of_ble_eq_true rfl) (Nat.le_of_ble_eq_true rfl) dX2_used_82 ?_
      replace hT := (C.1).kd hT
      replace h := ite_of h; rcases h with ⟨hc, h⟩ | ⟨hc, h⟩
      · refine g_ifneF dX2_used_85 rfl hc ?_
        refine g_goto dX2_used_88 rfl ?_
        refine g_iinc (l3 + (1 : Int32)) dX2_used_144 rfl rfl (Nat.le_of_ble_eq_true rfl) rfl ?_
        dsimp only [List.set]
        refine g_goto dX2_used_147 rfl ?_
        cases h
        refine G.weak [true, true, true, true, false] rfl ?_
        exact Hl _ rfl hT
      · refine g_ifneT dX2_used_85 rfl hc ?_
        refine g_ic 4 dX2_used_91 rfl ?_
        refine g_iload_n 3 dX2_used_92 rfl rfl ?_
        refine g_imul dX2_used_93 ?_
        refine g_istore dX2_used_94 (Nat.le_of_ble_eq_true rfl) rfl ?_
        dsimp only [List.set]
        cases h
        refine G.weak [true, true, true, true, true] rfl ?_
        exact Hl _ rfl hT
set_option maxHeartbeats 4000000 in
theorem w_X2_used_31 {Γ : GG} (hΓ : GF Γ) {m0 mF m : MM} {x : Nat} {l1 : Int32} {l2 : Int32} (hT : (m.K x).1 = 3) {r : Int32} {q : ((Int32 × Int32 × MM) ⊕ (Int32 × Int32 × Int32 × MM) ⊕ (Int32 × Int32 × Int32 × Int32 × MM)) ⊕ (Int32 × MM)} (h : b_X2_used_31 x l1 l2 m = some q) (Hl : ∀ z, q = .inl z → p_X2_used Γ m0 mF x r z) (Hr : ∀ z, q = .inr z → z = (r, mF)) : G Γ kX2_used cX2_used m0 mF (.inl (some (.int r))) m 31 [some (.ref x), some (.int l1), some (.int l2), none, none] [] := by
  unfold b_X2_used_31 at h
  refine g_iload_n 2 dX2_used_31 rfl rfl ?_
  refine g_iload_n 1 dX2_used_32 rfl rfl ?_
  replace h := ite_of h; rcases h with ⟨hc, h⟩ | ⟨hc, h⟩
  · refine g_iceqT dX2_used_33 rfl hc ?_
    refine g_iload_n 1 dX2_used_153 rfl rfl ?_
    cases h
    cases Hr _ rfl
    exact g_iret rfl dX2_used_154
  · refine g_iceqF dX2_used_33 rfl hc ?_
    refine g_iload_n 1 dX2_used_36 rfl rfl ?_
    refine g_istore_n 2 dX2_used_37 rfl (Nat.le_of_ble_eq_true rfl) rfl ?_
    dsimp only [List.set]
    refine g_bi (24) dX2_used_38 rfl ?_
    refine g_this dX2_used_40 rfl ?_
    refine g_getI hΓ.k fl_X2_233_X2 rfl hT dX2_used_41 ?_
    refine g_imul dX2_used_44 ?_
    refine g_istore_n 3 dX2_used_45 rfl (Nat.le_of_ble_eq_true rfl) rfl ?_
    dsimp only [List.set]
    cases h
    refine G.weak [true, true, true, true, false] rfl ?_
    exact Hl _ rfl hT
set_option maxHeartbeats 4000000 in
theorem w_X2_used_0 {Γ : GG} (hΓ : GF Γ) {m0 mF m : MM} {x : Nat} (hT : (m.K x).1 = 3) {r : Int32} {q : ((Int32 × Int32 × MM) ⊕ (Int32 × Int32 × Int32 × MM) ⊕ (Int32 × Int32 × Int32 × Int32 × MM)) ⊕ (Int32 × MM)} (h : b_X2_used_0 x m = some q) (Hl : ∀ z, q = .inl z → p_X2_used Γ m0 mF x r z) (Hr : ∀ z, q = .inr z → z = (r, mF)) : G Γ kX2_used cX2_used m0 mF (.inl (some (.int r))) m 0 [some (.ref x), none, none, none, none] [] := by
  unfold b_X2_used_0 at h
  refine g_this dX2_used_0 rfl ?_
  replace h := bd2_of h; obtain ⟨_, m1, em1, h⟩ := h
  have C := ct_X2_layShortest hΓ hT em1
  refine g_callVv hΓ.k vl_X2_462 hT C rfl rfl (Nat.le_of_ble_eq_true rfl) (Nat.le_of_ble_eq_true rfl) (Nat.le_of_ble_eq_true rfl) dX2_used_1 ?_
  replace hT := (C.1).kd hT
  refine g_this dX2_used_4 rfl ?_
  refine g_getR hΓ.k fl_X2_27_X2 rfl hT dX2_used_5 ?_
  refine g_this dX2_used_8 rfl ?_
  refine g_getI hΓ.k fl_X2_233_X2 rfl hT dX2_used_9 ?_
  replace h := bd_of h; obtain ⟨v2, ev2, h⟩ := h
  refine g_iald ev2 dX2_used_12 ?_
  replace h := ite_of h; rcases h with ⟨hc, h⟩ | ⟨hc, h⟩
  · refine g_ifeqT dX2_used_13 rfl hc ?_
    refine g_ic 0 dX2_used_25 rfl ?_
    cases h
    cases Hr _ rfl
    exact g_iret rfl dX2_used_26
  · refine g_ifeqF dX2_used_13 rfl hc ?_
    refine g_this dX2_used_16 rfl ?_
    refine g_getR hΓ.k fl_X2_131_X2 rfl hT dX2_used_17 ?_
    refine g_ic 0 dX2_used_20 rfl ?_
    replace h := bd_of h; obtain ⟨v3, ev3, h⟩ := h
    refine g_iald ev3 dX2_used_21 ?_
    replace h := ite_of h; rcases h with ⟨hc, h⟩ | ⟨hc, h⟩
    · refine g_ifneF dX2_used_22 rfl hc ?_
      refine g_ic 0 dX2_used_25 rfl ?_
      cases h
      cases Hr _ rfl
      exact g_iret rfl dX2_used_26
    · refine g_ifneT dX2_used_22 rfl hc ?_
      refine g_ic 1 dX2_used_27 rfl ?_
      refine g_istore_n 1 dX2_used_28 rfl (Nat.le_of_ble_eq_true rfl) rfl ?_
      dsimp only [List.set]
      refine g_ic 0 dX2_used_29 rfl ?_
      refine g_istore_n 2 dX2_used_30 rfl (Nat.le_of_ble_eq_true rfl) rfl ?_
      dsimp only [List.set]
      cases h
      refine G.weak [true, true, true, false, false] rfl ?_
      exact Hl _ rfl hT
theorem ct_X2_used {Γ : GG} (hΓ : GF Γ) {m mF : MM} {x : Nat} (hT : (m.K x).1 = 3) {r : Int32} (h : f_X2_used x m = some (r, mF)) : Ct Γ kX2_used cX2_used [.ref x] m (.inl (some (.int r))) mF := by
  unfold f_X2_used at h
  replace h := bd_of h; obtain ⟨q, e, h⟩ := h
  have H := rx_go_ind (P := p_X2_used Γ m mF x r) (fun z o hs Hl Hr => by
    match z with
    | (.inl (l1, l2, m)) => exact fun hT => w_X2_used_31 hΓ hT hs Hl Hr
    | (.inr (.inl (l1, l2, l3, m))) => exact fun hT => w_X2_used_46 hΓ hT hs Hl Hr
    | (.inr (.inr (l1, l2, l3, l4, m))) => exact fun hT => w_X2_used_96 hΓ hT hs Hl Hr) h
  exact Ct.of (κ := kX2_used) (by decide) rfl (Nat.le_of_ble_eq_true rfl) rfl (w_X2_used_0 hΓ hT e H.1 H.2)
set_option maxHeartbeats 4000000 in
theorem w_X2_shortest_0 {Γ : GG} (hΓ : GF Γ) {m0 mF m : MM} {x : Nat} {l1 : Int32} (hT : (m.K x).1 = 3) {r : Int32} (h : b_X2_shortest_0 x l1 m = some (r, mF)) : G Γ kX2_shortest cX2_shortest m0 mF (.inl (some (.int r))) m 0 [some (.ref x), some (.int l1)] [] := by
  unfold b_X2_shortest_0 at h
  refine g_iload_n 1 dX2_shortest_0 rfl rfl ?_
  refine g_ic 0 dX2_shortest_1 rfl ?_
  refine g_this dX2_shortest_2 rfl ?_
  refine g_getR hΓ.k fl_X2_27_X2 rfl hT dX2_shortest_3 ?_
  refine g_this dX2_shortest_6 rfl ?_
  refine g_getI hΓ.k fl_X2_233_X2 rfl hT dX2_shortest_7 ?_
  replace h := bd_of h; obtain ⟨v1, ev1, h⟩ := h
  refine g_iald ev1 dX2_shortest_10 ?_
  refine g_ic 1 dX2_shortest_11 rfl ?_
  refine g_isub dX2_shortest_12 ?_
  replace h := bd2_of h; obtain ⟨v2, m3, em3, h⟩ := h
  have C := ct_X2_isIn hΓ em3
  refine g_callSi sl_X2_298 C rfl rfl (Nat.le_of_ble_eq_true rfl) (Nat.le_of_ble_eq_true rfl) (Nat.le_of_ble_eq_true rfl) dX2_shortest_13 ?_
  replace hT := (C.1).kd hT
  replace h := ite_of h; rcases h with ⟨hc, h⟩ | ⟨hc, h⟩
  · refine g_ifneF dX2_shortest_16 rfl hc ?_
    refine g_ic (-1) dX2_shortest_19 rfl ?_
    cases h
    exact g_iret rfl dX2_shortest_20
  · refine g_ifneT dX2_shortest_16 rfl hc ?_
    refine g_this dX2_shortest_21 rfl ?_
    replace h := bd2_of h; obtain ⟨_, m4, em4, h⟩ := h
    have C := ct_X2_layShortest hΓ hT em4
    refine g_callVv hΓ.k vl_X2_462 hT C rfl rfl (Nat.le_of_ble_eq_true rfl) (Nat.le_of_ble_eq_true rfl) (Nat.le_of_ble_eq_true rfl) dX2_shortest_22 ?_
    replace hT := (C.1).kd hT
    refine g_this dX2_shortest_25 rfl ?_
    refine g_getR hΓ.k fl_X2_131_X2 rfl hT dX2_shortest_26 ?_
    refine g_iload_n 1 dX2_shortest_29 rfl rfl ?_
    replace h := bd_of h; obtain ⟨v5, ev5, h⟩ := h
    refine g_iald ev5 dX2_shortest_30 ?_
    cases h
    exact g_iret rfl dX2_shortest_31
theorem ct_X2_shortest {Γ : GG} (hΓ : GF Γ) {m mF : MM} {x : Nat} {l1 : Int32} (hT : (m.K x).1 = 3) {r : Int32} (h : f_X2_shortest x l1 m = some (r, mF)) : Ct Γ kX2_shortest cX2_shortest [.ref x, .int l1] m (.inl (some (.int r))) mF := by
  unfold f_X2_shortest at h
  exact Ct.of (κ := kX2_shortest) (by decide) rfl (Nat.le_of_ble_eq_true rfl) rfl (w_X2_shortest_0 hΓ hT h)
def p_X2_unpack (Γ : GG) (m0 mF : MM) (x : Nat) (l1 : Int32) (r : Unit) : ((Int32 × MM)) → Prop := fun z => match z with
  | (l2, m) => (m.K x).1 = 3 → G Γ kX2_unpack cX2_unpack m0 mF (.inl none) m 2 [some (.ref x), some (.int l1), some (.int l2)] []
set_option maxHeartbeats 4000000 in
theorem w_X2_unpack_2 {Γ : GG} (hΓ : GF Γ) {m0 mF m : MM} {x : Nat} {l1 : Int32} {l2 : Int32} (hT : (m.K x).1 = 3) {r : Unit} {q : ((Int32 × MM)) ⊕ (Unit × MM)} (h : b_X2_unpack_2 x l1 l2 m = some q) (Hl : ∀ z, q = .inl z → p_X2_unpack Γ m0 mF x l1 r z) (Hr : ∀ z, q = .inr z → z = (r, mF)) : G Γ kX2_unpack cX2_unpack m0 mF (.inl none) m 2 [some (.ref x), some (.int l1), some (.int l2)] [] := by
  unfold b_X2_unpack_2 at h
  refine g_iload_n 2 dX2_unpack_2 rfl rfl ?_
  refine g_this dX2_unpack_3 rfl ?_
  replace h := bd2_of h; obtain ⟨v1, m2, em2, h⟩ := h
  have C := ct_X2_longOf hΓ hT em2
  refine g_callVi hΓ.k vl_X2_302 hT C rfl rfl (Nat.le_of_ble_eq_true rfl) (Nat.le_of_ble_eq_true rfl) (Nat.le_of_ble_eq_true rfl) dX2_unpack_4 ?_
  replace hT := (C.1).kd hT
  replace h := ite_of h; rcases h with ⟨hc, h⟩ | ⟨hc, h⟩
  · refine g_icgeT dX2_unpack_7 rfl hc ?_
    cases h
    cases Hr _ rfl
    exact g_vret rfl dX2_unpack_28
  · refine g_icgeF dX2_unpack_7 rfl hc ?_
    refine g_this dX2_unpack_10 rfl ?_
    refine g_getR hΓ.k fl_X2_77_X2 rfl hT dX2_unpack_11 ?_
    refine g_iload_n 2 dX2_unpack_14 rfl rfl ?_
    refine g_this dX2_unpack_15 rfl ?_
    refine g_iload_n 1 dX2_unpack_16 rfl rfl ?_
    refine g_iload_n 2 dX2_unpack_17 rfl rfl ?_
    replace h := bd2_of h; obtain ⟨v3, m4, em4, h⟩ := h
    have C := ct_X2_wordIn hΓ hT em4
    refine g_callVi hΓ.k vl_X2_380 hT C rfl rfl (Nat.le_of_ble_eq_true rfl) (Nat.le_of_ble_eq_true rfl) (Nat.le_of_ble_eq_true rfl) dX2_unpack_18 ?_
    replace hT := (C.1).kd hT
    replace h := bd_of h; obtain ⟨m5, em5, h⟩ := h
    refine g_iast em5 dX2_unpack_21 ?_
    replace hT := (sI_ext em5).kd hT
    refine g_iinc (l2 + (1 : Int32)) dX2_unpack_22 rfl rfl (Nat.le_of_ble_eq_true rfl) rfl ?_
    dsimp only [List.set]
    refine g_goto dX2_unpack_25 rfl ?_
    cases h
    refine G.weak [true, true, true] rfl ?_
    exact Hl _ rfl hT
set_option maxHeartbeats 4000000 in
theorem w_X2_unpack_0 {Γ : GG} (hΓ : GF Γ) {m0 mF m : MM} {x : Nat} {l1 : Int32} (hT : (m.K x).1 = 3) {r : Unit} {q : ((Int32 × MM)) ⊕ (Unit × MM)} (h : b_X2_unpack_0 x l1 m = some q) (Hl : ∀ z, q = .inl z → p_X2_unpack Γ m0 mF x l1 r z) (Hr : ∀ z, q = .inr z → z = (r, mF)) : G Γ kX2_unpack cX2_unpack m0 mF (.inl none) m 0 [some (.ref x), some (.int l1), none] [] := by
  unfold b_X2_unpack_0 at h
  refine g_ic 0 dX2_unpack_0 rfl ?_
  refine g_istore_n 2 dX2_unpack_1 rfl (Nat.le_of_ble_eq_true rfl) rfl ?_
  dsimp only [List.set]
  cases h
  refine G.weak [true, true, true] rfl ?_
  exact Hl _ rfl hT
theorem ct_X2_unpack {Γ : GG} (hΓ : GF Γ) {m mF : MM} {x : Nat} {l1 : Int32} (hT : (m.K x).1 = 3) {r : Unit} (h : f_X2_unpack x l1 m = some (r, mF)) : Ct Γ kX2_unpack cX2_unpack [.ref x, .int l1] m (.inl none) mF := by
  unfold f_X2_unpack at h
  replace h := bd_of h; obtain ⟨q, e, h⟩ := h
  have H := rx_go_ind (P := p_X2_unpack Γ m mF x l1 r) (fun z o hs Hl Hr => by
    match z with
    | (l2, m) => exact fun hT => w_X2_unpack_2 hΓ hT hs Hl Hr) h
  exact Ct.of (κ := kX2_unpack) (by decide) rfl (Nat.le_of_ble_eq_true rfl) rfl (w_X2_unpack_0 hΓ hT e H.1 H.2)
def p_X2_doubtful (Γ : GG) (m0 mF : MM) (x : Nat) (r : Int32) : ((Int32 × MM)) → Prop := fun z => match z with
  | (l1, m) => (m.K x).1 = 3 → G Γ kX2_doubtful cX2_doubtful m0 mF (.inl (some (.int r))) m 17 [some (.ref x), some (.int l1), none, none] []
set_option maxHeartbeats 4000000 in
theorem w_X2_doubtful_17 {Γ : GG} (hΓ : GF Γ) {m0 mF m : MM} {x : Nat} {l1 : Int32} (hT : (m.K x).1 = 3) {r : Int32} {q : ((Int32 × MM)) ⊕ (Int32 × MM)} (h : b_X2_doubtful_17 x l1 m = some q) (Hl : ∀ z, q = .inl z → p_X2_doubtful Γ m0 mF x r z) (Hr : ∀ z, q = .inr z → z = (r, mF)) : G Γ kX2_doubtful cX2_doubtful m0 mF (.inl (some (.int r))) m 17 [some (.ref x), some (.int l1), none, none] [] := by
  unfold b_X2_doubtful_17 at h
  refine g_iload_n 1 dX2_doubtful_17 rfl rfl ?_
  refine g_this dX2_doubtful_18 rfl ?_
  refine g_getI hΓ.k fl_X2_390_X2 rfl hT dX2_doubtful_19 ?_
  replace h := ite_of h; rcases h with ⟨hc, h⟩ | ⟨hc, h⟩
  · refine g_icgeT dX2_doubtful_22 rfl hc ?_
    refine g_ic 0 dX2_doubtful_69 rfl ?_
    cases h
    cases Hr _ rfl
    exact g_iret rfl dX2_doubtful_70
  · refine g_icgeF dX2_doubtful_22 rfl hc ?_
    refine g_this dX2_doubtful_25 rfl ?_
    refine g_this dX2_doubtful_26 rfl ?_
    refine g_getR hΓ.k fl_X2_107_X2 rfl hT dX2_doubtful_27 ?_
    refine g_iload_n 1 dX2_doubtful_30 rfl rfl ?_
    replace h := bd_of h; obtain ⟨v1, ev1, h⟩ := h
    refine g_iald ev1 dX2_doubtful_31 ?_
    replace h := bd2_of h; obtain ⟨_, m2, em2, h⟩ := h
    have C := ct_X2_unpack hΓ hT em2
    refine g_callVv hΓ.k vl_X2_465 hT C rfl rfl (Nat.le_of_ble_eq_true rfl) (Nat.le_of_ble_eq_true rfl) (Nat.le_of_ble_eq_true rfl) dX2_doubtful_32 ?_
    replace hT := (C.1).kd hT
    refine g_this dX2_doubtful_35 rfl ?_
    refine g_this dX2_doubtful_36 rfl ?_
    replace h := bd2_of h; obtain ⟨v3, m4, em4, h⟩ := h
    have C := ct_X2_longOf hΓ hT em4
    refine g_callVi hΓ.k vl_X2_302 hT C rfl rfl (Nat.le_of_ble_eq_true rfl) (Nat.le_of_ble_eq_true rfl) (Nat.le_of_ble_eq_true rfl) dX2_doubtful_37 ?_
    replace hT := (C.1).kd hT
    replace h := bd2_of h; obtain ⟨v5, m6, em6, h⟩ := h
    have C := ct_X2_readingsOf hΓ hT em6
    refine g_callVl hΓ.k vl_X2_363 hT C rfl rfl (Nat.le_of_ble_eq_true rfl) (Nat.le_of_ble_eq_true rfl) (Nat.le_of_ble_eq_true rfl) dX2_doubtful_40 ?_
    replace hT := (C.1).kd hT
    refine g_lstore_n 2 dX2_doubtful_43 rfl (Nat.le_of_ble_eq_true rfl) rfl ?_
    dsimp only [List.set]
    refine g_lload_n 2 dX2_doubtful_44 rfl rfl ?_
    refine g_ldc2 (v := 2) q1833 dX2_doubtful_45 ?_
    refine g_lcmp dX2_doubtful_48 ?_
    replace h := ite_of h; rcases h with ⟨hc, h⟩ | ⟨hc, h⟩
    · refine g_ifgeT dX2_doubtful_49 rfl hc ?_
      refine g_this dX2_doubtful_55 rfl ?_
      refine g_iload_n 1 dX2_doubtful_56 rfl rfl ?_
      replace h := bd2_of h; obtain ⟨_, m7, em7, h⟩ := h
      have C := ct_X2_lay hΓ hT em7
      refine g_callVv hΓ.k vl_X2_443 hT C rfl rfl (Nat.le_of_ble_eq_true rfl) (Nat.le_of_ble_eq_true rfl) (Nat.le_of_ble_eq_true rfl) dX2_doubtful_57 ?_
      replace hT := (C.1).kd hT
      refine g_lload_n 2 dX2_doubtful_60 rfl rfl ?_
      refine g_l2i dX2_doubtful_61 ?_
      cases h
      cases Hr _ rfl
      exact g_iret rfl dX2_doubtful_62
    · refine g_ifgeF dX2_doubtful_49 rfl hc ?_
      refine g_goto dX2_doubtful_52 rfl ?_
      refine g_iinc (l1 + (1 : Int32)) dX2_doubtful_63 rfl rfl (Nat.le_of_ble_eq_true rfl) rfl ?_
      dsimp only [List.set]
      refine g_goto dX2_doubtful_66 rfl ?_
      cases h
      refine G.weak [true, true, false, false] rfl ?_
      exact Hl _ rfl hT
set_option maxHeartbeats 4000000 in
theorem w_X2_doubtful_0 {Γ : GG} (hΓ : GF Γ) {m0 mF m : MM} {x : Nat} (hT : (m.K x).1 = 3) {r : Int32} {q : ((Int32 × MM)) ⊕ (Int32 × MM)} (h : b_X2_doubtful_0 x m = some q) (Hl : ∀ z, q = .inl z → p_X2_doubtful Γ m0 mF x r z) (Hr : ∀ z, q = .inr z → z = (r, mF)) : G Γ kX2_doubtful cX2_doubtful m0 mF (.inl (some (.int r))) m 0 [some (.ref x), none, none, none] [] := by
  unfold b_X2_doubtful_0 at h
  refine g_this dX2_doubtful_0 rfl ?_
  refine g_ic 0 dX2_doubtful_1 rfl ?_
  replace h := bd_of h; obtain ⟨m1, em1, h⟩ := h
  refine g_pI hΓ.k fl_X2_248_X2 (fun h9 => by cases h9) rfl (Or.inl ⟨rfl, rfl⟩) em1 dX2_doubtful_2 ?_
  replace hT := (pI_ext em1).kd hT
  refine g_this dX2_doubtful_5 rfl ?_
  replace h := bd2_of h; obtain ⟨v2, m3, em3, h⟩ := h
  have C := ct_X2_layFromNone hΓ hT em3
  refine g_callVi hΓ.k vl_X2_452 hT C rfl rfl (Nat.le_of_ble_eq_true rfl) (Nat.le_of_ble_eq_true rfl) (Nat.le_of_ble_eq_true rfl) dX2_doubtful_6 ?_
  replace hT := (C.1).kd hT
  replace h := ite_of h; rcases h with ⟨hc, h⟩ | ⟨hc, h⟩
  · refine g_ifneF dX2_doubtful_9 rfl hc ?_
    refine g_bi (-2) dX2_doubtful_12 rfl ?_
    cases h
    cases Hr _ rfl
    exact g_iret rfl dX2_doubtful_14
  · refine g_ifneT dX2_doubtful_9 rfl hc ?_
    refine g_ic 0 dX2_doubtful_15 rfl ?_
    refine g_istore_n 1 dX2_doubtful_16 rfl (Nat.le_of_ble_eq_true rfl) rfl ?_
    dsimp only [List.set]
    cases h
    refine G.weak [true, true, false, false] rfl ?_
    exact Hl _ rfl hT
theorem ct_X2_doubtful {Γ : GG} (hΓ : GF Γ) {m mF : MM} {x : Nat} (hT : (m.K x).1 = 3) {r : Int32} (h : f_X2_doubtful x m = some (r, mF)) : Ct Γ kX2_doubtful cX2_doubtful [.ref x] m (.inl (some (.int r))) mF := by
  unfold f_X2_doubtful at h
  replace h := bd_of h; obtain ⟨q, e, h⟩ := h
  have H := rx_go_ind (P := p_X2_doubtful Γ m mF x r) (fun z o hs Hl Hr => by
    match z with
    | (l1, m) => exact fun hT => w_X2_doubtful_17 hΓ hT hs Hl Hr) h
  exact Ct.of (κ := kX2_doubtful) (by decide) rfl (Nat.le_of_ble_eq_true rfl) rfl (w_X2_doubtful_0 hΓ hT e H.1 H.2)
set_option maxHeartbeats 4000000 in
theorem w_X2_hole_0 {Γ : GG} (hΓ : GF Γ) {m0 mF m : MM} {x : Nat} {l1 : Int32} {l2 : Int32} (hT : (m.K x).1 = 3) {r : Int32} (h : b_X2_hole_0 x l1 l2 m = some (r, mF)) : G Γ kX2_hole cX2_hole m0 mF (.inl (some (.int r))) m 0 [some (.ref x), some (.int l1), some (.int l2)] [] := by
  unfold b_X2_hole_0 at h
  refine g_this dX2_hole_0 rfl ?_
  refine g_iload_n 1 dX2_hole_1 rfl rfl ?_
  replace h := bd2_of h; obtain ⟨v1, m2, em2, h⟩ := h
  have C := ct_X2_isPlace hΓ hT em2
  refine g_callVi hΓ.k vl_X2_357 hT C rfl rfl (Nat.le_of_ble_eq_true rfl) (Nat.le_of_ble_eq_true rfl) (Nat.le_of_ble_eq_true rfl) dX2_hole_2 ?_
  replace hT := (C.1).kd hT
  replace h := ite_of h; rcases h with ⟨hc, h⟩ | ⟨hc, h⟩
  · refine g_ifeqT dX2_hole_5 rfl hc ?_
    refine g_ic 0 dX2_hole_21 rfl ?_
    cases h
    exact g_zret rfl (by decide) dX2_hole_22
  · refine g_ifeqF dX2_hole_5 rfl hc ?_
    refine g_iload_n 2 dX2_hole_8 rfl rfl ?_
    refine g_ic (-1) dX2_hole_9 rfl ?_
    replace h := ite_of h; rcases h with ⟨hc, h⟩ | ⟨hc, h⟩
    · refine g_iceqT dX2_hole_10 rfl hc ?_
      refine g_this dX2_hole_23 rfl ?_
      refine g_getR hΓ.k fl_X2_98_X2 rfl hT dX2_hole_24 ?_
      refine g_iload_n 1 dX2_hole_27 rfl rfl ?_
      refine g_iload_n 2 dX2_hole_28 rfl rfl ?_
      replace h := bd_of h; obtain ⟨m3, em3, h⟩ := h
      refine g_iast em3 dX2_hole_29 ?_
      replace hT := (sI_ext em3).kd hT
      refine g_ic 1 dX2_hole_30 rfl ?_
      cases h
      exact g_zret rfl (by decide) dX2_hole_31
    · refine g_iceqF dX2_hole_10 rfl hc ?_
      refine g_this dX2_hole_13 rfl ?_
      refine g_iload_n 2 dX2_hole_14 rfl rfl ?_
      replace h := bd2_of h; obtain ⟨v4, m5, em5, h⟩ := h
      have C := ct_X2_isWordOf hΓ hT em5
      refine g_callVi hΓ.k vl_X2_305 hT C rfl rfl (Nat.le_of_ble_eq_true rfl) (Nat.le_of_ble_eq_true rfl) (Nat.le_of_ble_eq_true rfl) dX2_hole_15 ?_
      replace hT := (C.1).kd hT
      replace h := ite_of h; rcases h with ⟨hc, h⟩ | ⟨hc, h⟩
      · refine g_ifneF dX2_hole_18 rfl hc ?_
        refine g_ic 0 dX2_hole_21 rfl ?_
        cases h
        exact g_zret rfl (by decide) dX2_hole_22
      · refine g_ifneT dX2_hole_18 rfl hc ?_
        refine g_this dX2_hole_23 rfl ?_
        refine g_getR hΓ.k fl_X2_98_X2 rfl hT dX2_hole_24 ?_
        refine g_iload_n 1 dX2_hole_27 rfl rfl ?_
        refine g_iload_n 2 dX2_hole_28 rfl rfl ?_
        replace h := bd_of h; obtain ⟨m6, em6, h⟩ := h
        refine g_iast em6 dX2_hole_29 ?_
        replace hT := (sI_ext em6).kd hT
        refine g_ic 1 dX2_hole_30 rfl ?_
        cases h
        exact g_zret rfl (by decide) dX2_hole_31
theorem ct_X2_hole {Γ : GG} (hΓ : GF Γ) {m mF : MM} {x : Nat} {l1 : Int32} {l2 : Int32} (hT : (m.K x).1 = 3) {r : Int32} (h : f_X2_hole x l1 l2 m = some (r, mF)) : Ct Γ kX2_hole cX2_hole [.ref x, .int l1, .int l2] m (.inl (some (.int r))) mF := by
  unfold f_X2_hole at h
  exact Ct.of (κ := kX2_hole) (by decide) rfl (Nat.le_of_ble_eq_true rfl) rfl (w_X2_hole_0 hΓ hT h)
set_option maxHeartbeats 4000000 in
theorem w_X2_fit_0 {Γ : GG} (hΓ : GF Γ) {m0 mF m : MM} {x : Nat} (hT : (m.K x).1 = 3) {r : Int32} (h : b_X2_fit_0 x m = some (r, mF)) : G Γ kX2_fit cX2_fit m0 mF (.inl (some (.int r))) m 0 [some (.ref x)] [] := by
  unfold b_X2_fit_0 at h
  refine g_this dX2_fit_0 rfl ?_
  refine g_ic 0 dX2_fit_1 rfl ?_
  refine g_ic 1 dX2_fit_2 rfl ?_
  replace h := bd2_of h; obtain ⟨v1, m2, em2, h⟩ := h
  have C := ct_X2_layList hΓ hT em2
  refine g_callVi hΓ.k vl_X2_405 hT C rfl rfl (Nat.le_of_ble_eq_true rfl) (Nat.le_of_ble_eq_true rfl) (Nat.le_of_ble_eq_true rfl) dX2_fit_3 ?_
  replace hT := (C.1).kd hT
  replace h := ite_of h; rcases h with ⟨hc, h⟩ | ⟨hc, h⟩
  · refine g_ifeqT dX2_fit_6 rfl hc ?_
    refine g_bi (-2) dX2_fit_16 rfl ?_
    cases h
    exact g_iret rfl dX2_fit_18
  · refine g_ifeqF dX2_fit_6 rfl hc ?_
    refine g_this dX2_fit_9 rfl ?_
    refine g_getI hΓ.k fl_X2_390_X2 rfl hT dX2_fit_10 ?_
    refine g_goto dX2_fit_13 rfl ?_
    cases h
    exact g_iret rfl dX2_fit_18
theorem ct_X2_fit {Γ : GG} (hΓ : GF Γ) {m mF : MM} {x : Nat} (hT : (m.K x).1 = 3) {r : Int32} (h : f_X2_fit x m = some (r, mF)) : Ct Γ kX2_fit cX2_fit [.ref x] m (.inl (some (.int r))) mF := by
  unfold f_X2_fit at h
  exact Ct.of (κ := kX2_fit) (by decide) rfl (Nat.le_of_ble_eq_true rfl) rfl (w_X2_fit_0 hΓ hT h)
def p_X2_best (Γ : GG) (m0 mF : MM) (x : Nat) (l1 : Int32) (r : Int32) : ((Int32 × Int32 × MM)) → Prop := fun z => match z with
  | (l2, l3, m) => (m.K x).1 = 3 → G Γ kX2_best cX2_best m0 mF (.inl (some (.int r))) m 36 [some (.ref x), some (.int l1), some (.int l2), some (.int l3)] []
set_option maxHeartbeats 4000000 in
theorem w_X2_best_36 {Γ : GG} (hΓ : GF Γ) {m0 mF m : MM} {x : Nat} {l1 : Int32} {l2 : Int32} {l3 : Int32} (hT : (m.K x).1 = 3) {r : Int32} {q : ((Int32 × Int32 × MM)) ⊕ (Int32 × MM)} (h : b_X2_best_36 x l1 l2 l3 m = some q) (Hl : ∀ z, q = .inl z → p_X2_best Γ m0 mF x l1 r z) (Hr : ∀ z, q = .inr z → z = (r, mF)) : G Γ kX2_best cX2_best m0 mF (.inl (some (.int r))) m 36 [some (.ref x), some (.int l1), some (.int l2), some (.int l3)] [] := by
  unfold b_X2_best_36 at h
  refine g_iload_n 3 dX2_best_36 rfl rfl ?_
  refine g_this dX2_best_37 rfl ?_
  refine g_getI hΓ.k fl_X2_390_X2 rfl hT dX2_best_38 ?_
  replace h := ite_of h; rcases h with ⟨hc, h⟩ | ⟨hc, h⟩
  · refine g_icgeT dX2_best_41 rfl hc ?_
    refine g_this dX2_best_75 rfl ?_
    refine g_iload_n 2 dX2_best_76 rfl rfl ?_
    replace h := bd2_of h; obtain ⟨_, m1, em1, h⟩ := h
    have C := ct_X2_lay hΓ hT em1
    refine g_callVv hΓ.k vl_X2_443 hT C rfl rfl (Nat.le_of_ble_eq_true rfl) (Nat.le_of_ble_eq_true rfl) (Nat.le_of_ble_eq_true rfl) dX2_best_77 ?_
    replace hT := (C.1).kd hT
    refine g_this dX2_best_80 rfl ?_
    refine g_getR hΓ.k fl_X2_110_X2 rfl hT dX2_best_81 ?_
    refine g_ic 3 dX2_best_84 rfl ?_
    refine g_iload_n 2 dX2_best_85 rfl rfl ?_
    refine g_imul dX2_best_86 ?_
    refine g_iload_n 1 dX2_best_87 rfl rfl ?_
    refine g_iadd dX2_best_88 ?_
    replace h := bd_of h; obtain ⟨v2, ev2, h⟩ := h
    refine g_iald ev2 dX2_best_89 ?_
    cases h
    cases Hr _ rfl
    exact g_iret rfl dX2_best_90
  · refine g_icgeF dX2_best_41 rfl hc ?_
    refine g_this dX2_best_44 rfl ?_
    refine g_getR hΓ.k fl_X2_110_X2 rfl hT dX2_best_45 ?_
    refine g_ic 3 dX2_best_48 rfl ?_
    refine g_iload_n 3 dX2_best_49 rfl rfl ?_
    refine g_imul dX2_best_50 ?_
    refine g_iload_n 1 dX2_best_51 rfl rfl ?_
    refine g_iadd dX2_best_52 ?_
    replace h := bd_of h; obtain ⟨v3, ev3, h⟩ := h
    refine g_iald ev3 dX2_best_53 ?_
    refine g_this dX2_best_54 rfl ?_
    refine g_getR hΓ.k fl_X2_110_X2 rfl hT dX2_best_55 ?_
    refine g_ic 3 dX2_best_58 rfl ?_
    refine g_iload_n 2 dX2_best_59 rfl rfl ?_
    refine g_imul dX2_best_60 ?_
    refine g_iload_n 1 dX2_best_61 rfl rfl ?_
    refine g_iadd dX2_best_62 ?_
    replace h := bd_of h; obtain ⟨v4, ev4, h⟩ := h
    refine g_iald ev4 dX2_best_63 ?_
    replace h := ite_of h; rcases h with ⟨hc, h⟩ | ⟨hc, h⟩
    · refine g_icleT dX2_best_64 rfl hc ?_
      refine g_iinc (l3 + (1 : Int32)) dX2_best_69 rfl rfl (Nat.le_of_ble_eq_true rfl) rfl ?_
      dsimp only [List.set]
      refine g_goto dX2_best_72 rfl ?_
      cases h
      refine G.weak [true, true, true, true] rfl ?_
      exact Hl _ rfl hT
    · refine g_icleF dX2_best_64 rfl hc ?_
      refine g_iload_n 3 dX2_best_67 rfl rfl ?_
      refine g_istore_n 2 dX2_best_68 rfl (Nat.le_of_ble_eq_true rfl) rfl ?_
      dsimp only [List.set]
      refine g_iinc (l3 + (1 : Int32)) dX2_best_69 rfl rfl (Nat.le_of_ble_eq_true rfl) rfl ?_
      dsimp only [List.set]
      refine g_goto dX2_best_72 rfl ?_
      cases h
      refine G.weak [true, true, true, true] rfl ?_
      exact Hl _ rfl hT
set_option maxHeartbeats 4000000 in
theorem w_X2_best_0 {Γ : GG} (hΓ : GF Γ) {m0 mF m : MM} {x : Nat} {l1 : Int32} (hT : (m.K x).1 = 3) {r : Int32} {q : ((Int32 × Int32 × MM)) ⊕ (Int32 × MM)} (h : b_X2_best_0 x l1 m = some q) (Hl : ∀ z, q = .inl z → p_X2_best Γ m0 mF x l1 r z) (Hr : ∀ z, q = .inr z → z = (r, mF)) : G Γ kX2_best cX2_best m0 mF (.inl (some (.int r))) m 0 [some (.ref x), some (.int l1), none, none] [] := by
  unfold b_X2_best_0 at h
  refine g_this dX2_best_0 rfl ?_
  refine g_ic 0 dX2_best_1 rfl ?_
  replace h := bd_of h; obtain ⟨m1, em1, h⟩ := h
  refine g_pI hΓ.k fl_X2_248_X2 (fun h9 => by cases h9) rfl (Or.inl ⟨rfl, rfl⟩) em1 dX2_best_2 ?_
  replace hT := (pI_ext em1).kd hT
  refine g_iload_n 1 dX2_best_5 rfl rfl ?_
  replace h := bd2_of h; obtain ⟨v2, m3, em3, h⟩ := h
  have C := ct_X2_isGuild hΓ em3
  refine g_callSi sl_X2_308 C rfl rfl (Nat.le_of_ble_eq_true rfl) (Nat.le_of_ble_eq_true rfl) (Nat.le_of_ble_eq_true rfl) dX2_best_6 ?_
  replace hT := (C.1).kd hT
  replace h := ite_of h; rcases h with ⟨hc, h⟩ | ⟨hc, h⟩
  · refine g_ifeqT dX2_best_9 rfl hc ?_
    refine g_ldcw (v := -1000000) q1595 dX2_best_28 ?_
    cases h
    cases Hr _ rfl
    exact g_iret rfl dX2_best_31
  · refine g_ifeqF dX2_best_9 rfl hc ?_
    refine g_this dX2_best_12 rfl ?_
    refine g_ic 0 dX2_best_13 rfl ?_
    refine g_ic 1 dX2_best_14 rfl ?_
    replace h := bd2_of h; obtain ⟨v4, m5, em5, h⟩ := h
    have C := ct_X2_layList hΓ hT em5
    refine g_callVi hΓ.k vl_X2_405 hT C rfl rfl (Nat.le_of_ble_eq_true rfl) (Nat.le_of_ble_eq_true rfl) (Nat.le_of_ble_eq_true rfl) dX2_best_15 ?_
    replace hT := (C.1).kd hT
    replace h := ite_of h; rcases h with ⟨hc, h⟩ | ⟨hc, h⟩
    · refine g_ifeqT dX2_best_18 rfl hc ?_
      refine g_ldcw (v := -1000000) q1595 dX2_best_28 ?_
      cases h
      cases Hr _ rfl
      exact g_iret rfl dX2_best_31
    · refine g_ifeqF dX2_best_18 rfl hc ?_
      refine g_this dX2_best_21 rfl ?_
      refine g_getI hΓ.k fl_X2_390_X2 rfl hT dX2_best_22 ?_
      replace h := ite_of h; rcases h with ⟨hc, h⟩ | ⟨hc, h⟩
      · refine g_ifneF dX2_best_25 rfl hc ?_
        refine g_ldcw (v := -1000000) q1595 dX2_best_28 ?_
        cases h
        cases Hr _ rfl
        exact g_iret rfl dX2_best_31
      · refine g_ifneT dX2_best_25 rfl hc ?_
        refine g_ic 0 dX2_best_32 rfl ?_
        refine g_istore_n 2 dX2_best_33 rfl (Nat.le_of_ble_eq_true rfl) rfl ?_
        dsimp only [List.set]
        refine g_ic 1 dX2_best_34 rfl ?_
        refine g_istore_n 3 dX2_best_35 rfl (Nat.le_of_ble_eq_true rfl) rfl ?_
        dsimp only [List.set]
        cases h
        refine G.weak [true, true, true, true] rfl ?_
        exact Hl _ rfl hT
theorem ct_X2_best {Γ : GG} (hΓ : GF Γ) {m mF : MM} {x : Nat} {l1 : Int32} (hT : (m.K x).1 = 3) {r : Int32} (h : f_X2_best x l1 m = some (r, mF)) : Ct Γ kX2_best cX2_best [.ref x, .int l1] m (.inl (some (.int r))) mF := by
  unfold f_X2_best at h
  replace h := bd_of h; obtain ⟨q, e, h⟩ := h
  have H := rx_go_ind (P := p_X2_best Γ m mF x l1 r) (fun z o hs Hl Hr => by
    match z with
    | (l2, l3, m) => exact fun hT => w_X2_best_36 hΓ hT hs Hl Hr) h
  exact Ct.of (κ := kX2_best) (by decide) rfl (Nat.le_of_ble_eq_true rfl) rfl (w_X2_best_0 hΓ hT e H.1 H.2)
def p_X2_tryWithout (Γ : GG) (m0 mF : MM) (x : Nat) (l1 : Int32) (r : Unit) : ((Int32 × Int32 × MM)) → Prop := fun z => match z with
  | (l2, l3, m) => (m.K x).1 = 3 → G Γ kX2_tryWithout cX2_tryWithout m0 mF (.inl none) m 4 [some (.ref x), some (.int l1), some (.int l2), some (.int l3)] []
set_option maxHeartbeats 4000000 in
theorem w_X2_tryWithout_4 {Γ : GG} (hΓ : GF Γ) {m0 mF m : MM} {x : Nat} {l1 : Int32} {l2 : Int32} {l3 : Int32} (hT : (m.K x).1 = 3) {r : Unit} {q : ((Int32 × Int32 × MM)) ⊕ (Unit × MM)} (h : b_X2_tryWithout_4 x l1 l2 l3 m = some q) (Hl : ∀ z, q = .inl z → p_X2_tryWithout Γ m0 mF x l1 r z) (Hr : ∀ z, q = .inr z → z = (r, mF)) : G Γ kX2_tryWithout cX2_tryWithout m0 mF (.inl none) m 4 [some (.ref x), some (.int l1), some (.int l2), some (.int l3)] [] := by
  unfold b_X2_tryWithout_4 at h
  refine g_iload_n 3 dX2_tryWithout_4 rfl rfl ?_
  refine g_this dX2_tryWithout_5 rfl ?_
  refine g_getI hΓ.k fl_X2_336_X2 rfl hT dX2_tryWithout_6 ?_
  replace h := ite_of h; rcases h with ⟨hc, h⟩ | ⟨hc, h⟩
  · refine g_icgeT dX2_tryWithout_9 rfl hc ?_
    cases h
    cases Hr _ rfl
    exact g_vret rfl dX2_tryWithout_41
  · refine g_icgeF dX2_tryWithout_9 rfl hc ?_
    refine g_iload_n 3 dX2_tryWithout_12 rfl rfl ?_
    refine g_iload_n 1 dX2_tryWithout_13 rfl rfl ?_
    replace h := ite_of h; rcases h with ⟨hc, h⟩ | ⟨hc, h⟩
    · refine g_icneF dX2_tryWithout_14 rfl hc ?_
      refine g_goto dX2_tryWithout_17 rfl ?_
      refine g_iinc (l3 + (1 : Int32)) dX2_tryWithout_35 rfl rfl (Nat.le_of_ble_eq_true rfl) rfl ?_
      dsimp only [List.set]
      refine g_goto dX2_tryWithout_38 rfl ?_
      cases h
      refine G.weak [true, true, true, true] rfl ?_
      exact Hl _ rfl hT
    · refine g_icneT dX2_tryWithout_14 rfl hc ?_
      refine g_this dX2_tryWithout_20 rfl ?_
      refine g_getR hΓ.k fl_X2_77_X2 rfl hT dX2_tryWithout_21 ?_
      refine g_iload_n 2 dX2_tryWithout_24 rfl rfl ?_
      refine g_this dX2_tryWithout_25 rfl ?_
      refine g_getR hΓ.k fl_X2_92_X2 rfl hT dX2_tryWithout_26 ?_
      refine g_iload_n 3 dX2_tryWithout_29 rfl rfl ?_
      replace h := bd_of h; obtain ⟨v1, ev1, h⟩ := h
      refine g_iald ev1 dX2_tryWithout_30 ?_
      replace h := bd_of h; obtain ⟨m2, em2, h⟩ := h
      refine g_iast em2 dX2_tryWithout_31 ?_
      replace hT := (sI_ext em2).kd hT
      refine g_iinc (l2 + (1 : Int32)) dX2_tryWithout_32 rfl rfl (Nat.le_of_ble_eq_true rfl) rfl ?_
      dsimp only [List.set]
      refine g_iinc (l3 + (1 : Int32)) dX2_tryWithout_35 rfl rfl (Nat.le_of_ble_eq_true rfl) rfl ?_
      dsimp only [List.set]
      refine g_goto dX2_tryWithout_38 rfl ?_
      cases h
      refine G.weak [true, true, true, true] rfl ?_
      exact Hl _ rfl hT
set_option maxHeartbeats 4000000 in
theorem w_X2_tryWithout_0 {Γ : GG} (hΓ : GF Γ) {m0 mF m : MM} {x : Nat} {l1 : Int32} (hT : (m.K x).1 = 3) {r : Unit} {q : ((Int32 × Int32 × MM)) ⊕ (Unit × MM)} (h : b_X2_tryWithout_0 x l1 m = some q) (Hl : ∀ z, q = .inl z → p_X2_tryWithout Γ m0 mF x l1 r z) (Hr : ∀ z, q = .inr z → z = (r, mF)) : G Γ kX2_tryWithout cX2_tryWithout m0 mF (.inl none) m 0 [some (.ref x), some (.int l1), none, none] [] := by
  unfold b_X2_tryWithout_0 at h
  refine g_ic 0 dX2_tryWithout_0 rfl ?_
  refine g_istore_n 2 dX2_tryWithout_1 rfl (Nat.le_of_ble_eq_true rfl) rfl ?_
  dsimp only [List.set]
  refine g_ic 0 dX2_tryWithout_2 rfl ?_
  refine g_istore_n 3 dX2_tryWithout_3 rfl (Nat.le_of_ble_eq_true rfl) rfl ?_
  dsimp only [List.set]
  cases h
  refine G.weak [true, true, true, true] rfl ?_
  exact Hl _ rfl hT
theorem ct_X2_tryWithout {Γ : GG} (hΓ : GF Γ) {m mF : MM} {x : Nat} {l1 : Int32} (hT : (m.K x).1 = 3) {r : Unit} (h : f_X2_tryWithout x l1 m = some (r, mF)) : Ct Γ kX2_tryWithout cX2_tryWithout [.ref x, .int l1] m (.inl none) mF := by
  unfold f_X2_tryWithout at h
  replace h := bd_of h; obtain ⟨q, e, h⟩ := h
  have H := rx_go_ind (P := p_X2_tryWithout Γ m mF x l1 r) (fun z o hs Hl Hr => by
    match z with
    | (l2, l3, m) => exact fun hT => w_X2_tryWithout_4 hΓ hT hs Hl Hr) h
  exact Ct.of (κ := kX2_tryWithout) (by decide) rfl (Nat.le_of_ble_eq_true rfl) rfl (w_X2_tryWithout_0 hΓ hT e H.1 H.2)
def p_X2_struck (Γ : GG) (m0 mF : MM) (x : Nat) (l1 : Int32) (r : Int32) : ((Int32 × Int32 × Int32 × MM)) → Prop := fun z => match z with
  | (l2, l3, l4, m) => (m.K x).1 = 3 → G Γ kX2_struck cX2_struck m0 mF (.inl (some (.int r))) m 31 [some (.ref x), some (.int l1), some (.int l2), some (.int l3), some (.int l4), none] []
set_option maxHeartbeats 4000000 in
theorem w_X2_struck_31 {Γ : GG} (hΓ : GF Γ) {m0 mF m : MM} {x : Nat} {l1 : Int32} {l2 : Int32} {l3 : Int32} {l4 : Int32} (hT : (m.K x).1 = 3) {r : Int32} {q : ((Int32 × Int32 × Int32 × MM)) ⊕ (Int32 × MM)} (h : b_X2_struck_31 x l1 l2 l3 l4 m = some q) (Hl : ∀ z, q = .inl z → p_X2_struck Γ m0 mF x l1 r z) (Hr : ∀ z, q = .inr z → z = (r, mF)) : G Γ kX2_struck cX2_struck m0 mF (.inl (some (.int r))) m 31 [some (.ref x), some (.int l1), some (.int l2), some (.int l3), some (.int l4), none] [] := by
  unfold b_X2_struck_31 at h
  refine g_iload dX2_struck_31 rfl ?_
  refine g_this dX2_struck_33 rfl ?_
  refine g_getI hΓ.k fl_X2_336_X2 rfl hT dX2_struck_34 ?_
  replace h := ite_of h; rcases h with ⟨hc, h⟩ | ⟨hc, h⟩
  · refine g_icgeT dX2_struck_37 rfl hc ?_
    refine g_iload_n 2 dX2_struck_100 rfl rfl ?_
    cases h
    cases Hr _ rfl
    exact g_iret rfl dX2_struck_101
  · refine g_icgeF dX2_struck_37 rfl hc ?_
    refine g_this dX2_struck_40 rfl ?_
    refine g_iload dX2_struck_41 rfl ?_
    replace h := bd2_of h; obtain ⟨_, m1, em1, h⟩ := h
    have C := ct_X2_tryWithout hΓ hT em1
    refine g_callVv hΓ.k vl_X2_470 hT C rfl rfl (Nat.le_of_ble_eq_true rfl) (Nat.le_of_ble_eq_true rfl) (Nat.le_of_ble_eq_true rfl) dX2_struck_43 ?_
    replace hT := (C.1).kd hT
    refine g_this dX2_struck_46 rfl ?_
    refine g_this dX2_struck_47 rfl ?_
    refine g_getI hΓ.k fl_X2_336_X2 rfl hT dX2_struck_48 ?_
    refine g_ic 1 dX2_struck_51 rfl ?_
    refine g_isub dX2_struck_52 ?_
    replace h := bd2_of h; obtain ⟨v2, m3, em3, h⟩ := h
    have C := ct_X2_isRead hΓ hT em3
    refine g_callVi hΓ.k vl_X2_348 hT C rfl rfl (Nat.le_of_ble_eq_true rfl) (Nat.le_of_ble_eq_true rfl) (Nat.le_of_ble_eq_true rfl) dX2_struck_53 ?_
    replace hT := (C.1).kd hT
    replace h := ite_of h; rcases h with ⟨hc, h⟩ | ⟨hc, h⟩
    · refine g_ifneF dX2_struck_56 rfl hc ?_
      refine g_goto dX2_struck_59 rfl ?_
      refine g_iinc (l4 + (1 : Int32)) dX2_struck_94 rfl rfl (Nat.le_of_ble_eq_true rfl) rfl ?_
      dsimp only [List.set]
      refine g_goto dX2_struck_97 rfl ?_
      cases h
      refine G.weak [true, true, true, true, true, false] rfl ?_
      exact Hl _ rfl hT
    · refine g_ifneT dX2_struck_56 rfl hc ?_
      refine g_this dX2_struck_62 rfl ?_
      refine g_this dX2_struck_63 rfl ?_
      refine g_getI hΓ.k fl_X2_336_X2 rfl hT dX2_struck_64 ?_
      refine g_ic 1 dX2_struck_67 rfl ?_
      refine g_isub dX2_struck_68 ?_
      refine g_iload_n 1 dX2_struck_69 rfl rfl ?_
      replace h := bd2_of h; obtain ⟨v4, m5, em5, h⟩ := h
      have C := ct_X2_meansOf hΓ hT em5
      refine g_callVi hΓ.k vl_X2_367 hT C rfl rfl (Nat.le_of_ble_eq_true rfl) (Nat.le_of_ble_eq_true rfl) (Nat.le_of_ble_eq_true rfl) dX2_struck_70 ?_
      replace hT := (C.1).kd hT
      refine g_istore dX2_struck_73 (Nat.le_of_ble_eq_true rfl) rfl ?_
      dsimp only [List.set]
      refine g_iload_n 2 dX2_struck_75 rfl rfl ?_
      replace h := ite_of h; rcases h with ⟨hc, h⟩ | ⟨hc, h⟩
      · refine g_ifltT dX2_struck_76 rfl hc ?_
        refine g_iload dX2_struck_88 rfl ?_
        refine g_istore_n 2 dX2_struck_90 rfl (Nat.le_of_ble_eq_true rfl) rfl ?_
        dsimp only [List.set]
        refine g_iload dX2_struck_91 rfl ?_
        refine g_istore_n 3 dX2_struck_93 rfl (Nat.le_of_ble_eq_true rfl) rfl ?_
        dsimp only [List.set]
        refine g_iinc (l4 + (1 : Int32)) dX2_struck_94 rfl rfl (Nat.le_of_ble_eq_true rfl) rfl ?_
        dsimp only [List.set]
        refine g_goto dX2_struck_97 rfl ?_
        cases h
        refine G.weak [true, true, true, true, true, false] rfl ?_
        exact Hl _ rfl hT
      · refine g_ifltF dX2_struck_76 rfl hc ?_
        refine g_iload dX2_struck_79 rfl ?_
        refine g_iload_n 3 dX2_struck_81 rfl rfl ?_
        replace h := ite_of h; rcases h with ⟨hc, h⟩ | ⟨hc, h⟩
        · refine g_icgtT dX2_struck_82 rfl hc ?_
          refine g_iload dX2_struck_88 rfl ?_
          refine g_istore_n 2 dX2_struck_90 rfl (Nat.le_of_ble_eq_true rfl) rfl ?_
          dsimp only [List.set]
          refine g_iload dX2_struck_91 rfl ?_
          refine g_istore_n 3 dX2_struck_93 rfl (Nat.le_of_ble_eq_true rfl) rfl ?_
          dsimp only [List.set]
          refine g_iinc (l4 + (1 : Int32)) dX2_struck_94 rfl rfl (Nat.le_of_ble_eq_true rfl) rfl ?_
          dsimp only [List.set]
          refine g_goto dX2_struck_97 rfl ?_
          cases h
          refine G.weak [true, true, true, true, true, false] rfl ?_
          exact Hl _ rfl hT
        · refine g_icgtF dX2_struck_82 rfl hc ?_
          refine g_goto dX2_struck_85 rfl ?_
          refine g_iinc (l4 + (1 : Int32)) dX2_struck_94 rfl rfl (Nat.le_of_ble_eq_true rfl) rfl ?_
          dsimp only [List.set]
          refine g_goto dX2_struck_97 rfl ?_
          cases h
          refine G.weak [true, true, true, true, true, false] rfl ?_
          exact Hl _ rfl hT
set_option maxHeartbeats 4000000 in
theorem w_X2_struck_0 {Γ : GG} (hΓ : GF Γ) {m0 mF m : MM} {x : Nat} {l1 : Int32} (hT : (m.K x).1 = 3) {r : Int32} {q : ((Int32 × Int32 × Int32 × MM)) ⊕ (Int32 × MM)} (h : b_X2_struck_0 x l1 m = some q) (Hl : ∀ z, q = .inl z → p_X2_struck Γ m0 mF x l1 r z) (Hr : ∀ z, q = .inr z → z = (r, mF)) : G Γ kX2_struck cX2_struck m0 mF (.inl (some (.int r))) m 0 [some (.ref x), some (.int l1), none, none, none, none] [] := by
  unfold b_X2_struck_0 at h
  refine g_this dX2_struck_0 rfl ?_
  replace h := bd2_of h; obtain ⟨_, m1, em1, h⟩ := h
  have C := ct_X2_tryRow hΓ hT em1
  refine g_callVv hΓ.k vl_X2_351 hT C rfl rfl (Nat.le_of_ble_eq_true rfl) (Nat.le_of_ble_eq_true rfl) (Nat.le_of_ble_eq_true rfl) dX2_struck_1 ?_
  replace hT := (C.1).kd hT
  refine g_iload_n 1 dX2_struck_4 rfl rfl ?_
  replace h := bd2_of h; obtain ⟨v2, m3, em3, h⟩ := h
  have C := ct_X2_isGuild hΓ em3
  refine g_callSi sl_X2_308 C rfl rfl (Nat.le_of_ble_eq_true rfl) (Nat.le_of_ble_eq_true rfl) (Nat.le_of_ble_eq_true rfl) dX2_struck_5 ?_
  replace hT := (C.1).kd hT
  replace h := ite_of h; rcases h with ⟨hc, h⟩ | ⟨hc, h⟩
  · refine g_ifeqT dX2_struck_8 rfl hc ?_
    refine g_ic (-1) dX2_struck_22 rfl ?_
    cases h
    cases Hr _ rfl
    exact g_iret rfl dX2_struck_23
  · refine g_ifeqF dX2_struck_8 rfl hc ?_
    refine g_this dX2_struck_11 rfl ?_
    refine g_this dX2_struck_12 rfl ?_
    refine g_getI hΓ.k fl_X2_336_X2 rfl hT dX2_struck_13 ?_
    replace h := bd2_of h; obtain ⟨v4, m5, em5, h⟩ := h
    have C := ct_X2_isRead hΓ hT em5
    refine g_callVi hΓ.k vl_X2_348 hT C rfl rfl (Nat.le_of_ble_eq_true rfl) (Nat.le_of_ble_eq_true rfl) (Nat.le_of_ble_eq_true rfl) dX2_struck_16 ?_
    replace hT := (C.1).kd hT
    replace h := ite_of h; rcases h with ⟨hc, h⟩ | ⟨hc, h⟩
    · refine g_ifneF dX2_struck_19 rfl hc ?_
      refine g_ic (-1) dX2_struck_22 rfl ?_
      cases h
      cases Hr _ rfl
      exact g_iret rfl dX2_struck_23
    · refine g_ifneT dX2_struck_19 rfl hc ?_
      refine g_ic (-1) dX2_struck_24 rfl ?_
      refine g_istore_n 2 dX2_struck_25 rfl (Nat.le_of_ble_eq_true rfl) rfl ?_
      dsimp only [List.set]
      refine g_ic 0 dX2_struck_26 rfl ?_
      refine g_istore_n 3 dX2_struck_27 rfl (Nat.le_of_ble_eq_true rfl) rfl ?_
      dsimp only [List.set]
      refine g_ic 0 dX2_struck_28 rfl ?_
      refine g_istore dX2_struck_29 (Nat.le_of_ble_eq_true rfl) rfl ?_
      dsimp only [List.set]
      cases h
      refine G.weak [true, true, true, true, true, false] rfl ?_
      exact Hl _ rfl hT
theorem ct_X2_struck {Γ : GG} (hΓ : GF Γ) {m mF : MM} {x : Nat} {l1 : Int32} (hT : (m.K x).1 = 3) {r : Int32} (h : f_X2_struck x l1 m = some (r, mF)) : Ct Γ kX2_struck cX2_struck [.ref x, .int l1] m (.inl (some (.int r))) mF := by
  unfold f_X2_struck at h
  replace h := bd_of h; obtain ⟨q, e, h⟩ := h
  have H := rx_go_ind (P := p_X2_struck Γ m mF x l1 r) (fun z o hs Hl Hr => by
    match z with
    | (l2, l3, l4, m) => exact fun hT => w_X2_struck_31 hΓ hT hs Hl Hr) h
  exact Ct.of (κ := kX2_struck) (by decide) rfl (Nat.le_of_ble_eq_true rfl) rfl (w_X2_struck_0 hΓ hT e H.1 H.2)
set_option maxHeartbeats 4000000 in
theorem w_X2_seen_0 {Γ : GG} (hΓ : GF Γ) {m0 mF m : MM} {x : Nat} {l1 : Int32} {l2 : Int32} {l3 : Int32} (hT : (m.K x).1 = 3) {r : Int32} (h : b_X2_seen_0 x l1 l2 l3 m = some (r, mF)) : G Γ kX2_seen cX2_seen m0 mF (.inl (some (.int r))) m 0 [some (.ref x), some (.int l1), some (.int l2), some (.int l3)] [] := by
  unfold b_X2_seen_0 at h
  refine g_this dX2_seen_0 rfl ?_
  refine g_iload_n 1 dX2_seen_1 rfl rfl ?_
  replace h := bd2_of h; obtain ⟨v1, m2, em2, h⟩ := h
  have C := ct_X2_isPlace hΓ hT em2
  refine g_callVi hΓ.k vl_X2_357 hT C rfl rfl (Nat.le_of_ble_eq_true rfl) (Nat.le_of_ble_eq_true rfl) (Nat.le_of_ble_eq_true rfl) dX2_seen_2 ?_
  replace hT := (C.1).kd hT
  replace h := ite_of h; rcases h with ⟨hc, h⟩ | ⟨hc, h⟩
  · refine g_ifeqT dX2_seen_5 rfl hc ?_
    refine g_ic (-1) dX2_seen_25 rfl ?_
    cases h
    exact g_iret rfl dX2_seen_26
  · refine g_ifeqF dX2_seen_5 rfl hc ?_
    refine g_this dX2_seen_8 rfl ?_
    refine g_iload_n 2 dX2_seen_9 rfl rfl ?_
    replace h := bd2_of h; obtain ⟨v3, m4, em4, h⟩ := h
    have C := ct_X2_isWordOf hΓ hT em4
    refine g_callVi hΓ.k vl_X2_305 hT C rfl rfl (Nat.le_of_ble_eq_true rfl) (Nat.le_of_ble_eq_true rfl) (Nat.le_of_ble_eq_true rfl) dX2_seen_10 ?_
    replace hT := (C.1).kd hT
    replace h := ite_of h; rcases h with ⟨hc, h⟩ | ⟨hc, h⟩
    · refine g_ifeqT dX2_seen_13 rfl hc ?_
      refine g_ic (-1) dX2_seen_25 rfl ?_
      cases h
      exact g_iret rfl dX2_seen_26
    · refine g_ifeqF dX2_seen_13 rfl hc ?_
      refine g_this dX2_seen_16 rfl ?_
      refine g_getI hΓ.k fl_X2_245_X2 rfl hT dX2_seen_17 ?_
      refine g_bi (30) dX2_seen_20 rfl ?_
      replace h := ite_of h; rcases h with ⟨hc, h⟩ | ⟨hc, h⟩
      · refine g_icneF dX2_seen_22 rfl hc ?_
        refine g_ic (-1) dX2_seen_25 rfl ?_
        cases h
        exact g_iret rfl dX2_seen_26
      · refine g_icneT dX2_seen_22 rfl hc ?_
        refine g_this dX2_seen_27 rfl ?_
        refine g_getR hΓ.k fl_X2_134_X2 rfl hT dX2_seen_28 ?_
        refine g_this dX2_seen_31 rfl ?_
        refine g_getI hΓ.k fl_X2_245_X2 rfl hT dX2_seen_32 ?_
        refine g_iload_n 1 dX2_seen_35 rfl rfl ?_
        replace h := bd_of h; obtain ⟨m5, em5, h⟩ := h
        refine g_iast em5 dX2_seen_36 ?_
        replace hT := (sI_ext em5).kd hT
        refine g_this dX2_seen_37 rfl ?_
        refine g_getR hΓ.k fl_X2_137_X2 rfl hT dX2_seen_38 ?_
        refine g_this dX2_seen_41 rfl ?_
        refine g_getI hΓ.k fl_X2_245_X2 rfl hT dX2_seen_42 ?_
        refine g_iload_n 2 dX2_seen_45 rfl rfl ?_
        replace h := bd_of h; obtain ⟨m6, em6, h⟩ := h
        refine g_iast em6 dX2_seen_46 ?_
        replace hT := (sI_ext em6).kd hT
        refine g_this dX2_seen_47 rfl ?_
        refine g_getR hΓ.k fl_X2_146_X2 rfl hT dX2_seen_48 ?_
        refine g_this dX2_seen_51 rfl ?_
        refine g_getI hΓ.k fl_X2_245_X2 rfl hT dX2_seen_52 ?_
        refine g_iload_n 3 dX2_seen_55 rfl rfl ?_
        replace h := bd_of h; obtain ⟨m7, em7, h⟩ := h
        refine g_zast em7 dX2_seen_56 ?_
        replace hT := (sI_ext em7).kd hT
        refine g_this dX2_seen_57 rfl ?_
        refine g_getR hΓ.k fl_X2_140_X2 rfl hT dX2_seen_58 ?_
        refine g_this dX2_seen_61 rfl ?_
        refine g_getI hΓ.k fl_X2_245_X2 rfl hT dX2_seen_62 ?_
        refine g_this dX2_seen_65 rfl ?_
        refine g_getI hΓ.k fl_X2_473_X2 rfl hT dX2_seen_66 ?_
        replace h := bd_of h; obtain ⟨m8, em8, h⟩ := h
        refine g_iast em8 dX2_seen_69 ?_
        replace hT := (sI_ext em8).kd hT
        refine g_this dX2_seen_70 rfl ?_
        refine g_getR hΓ.k fl_X2_143_X2 rfl hT dX2_seen_71 ?_
        refine g_this dX2_seen_74 rfl ?_
        refine g_getI hΓ.k fl_X2_245_X2 rfl hT dX2_seen_75 ?_
        refine g_ic (-1) dX2_seen_78 rfl ?_
        replace h := bd_of h; obtain ⟨m9, em9, h⟩ := h
        refine g_iast em9 dX2_seen_79 ?_
        replace hT := (sI_ext em9).kd hT
        refine g_this dX2_seen_80 rfl ?_
        refine g_dup dX2_seen_81 rfl ?_
        refine g_getI hΓ.k fl_X2_245_X2 rfl hT dX2_seen_82 ?_
        refine g_ic 1 dX2_seen_85 rfl ?_
        refine g_iadd dX2_seen_86 ?_
        replace h := bd_of h; obtain ⟨m10, em10, h⟩ := h
        refine g_pI hΓ.k fl_X2_245_X2 (fun h9 => by cases h9) rfl (Or.inl ⟨rfl, rfl⟩) em10 dX2_seen_87 ?_
        replace hT := (pI_ext em10).kd hT
        refine g_this dX2_seen_90 rfl ?_
        refine g_getI hΓ.k fl_X2_245_X2 rfl hT dX2_seen_91 ?_
        refine g_ic 1 dX2_seen_94 rfl ?_
        refine g_isub dX2_seen_95 ?_
        cases h
        exact g_iret rfl dX2_seen_96
theorem ct_X2_seen {Γ : GG} (hΓ : GF Γ) {m mF : MM} {x : Nat} {l1 : Int32} {l2 : Int32} {l3 : Int32} (hT : (m.K x).1 = 3) {r : Int32} (h : f_X2_seen x l1 l2 l3 m = some (r, mF)) : Ct Γ kX2_seen cX2_seen [.ref x, .int l1, .int l2, .int l3] m (.inl (some (.int r))) mF := by
  unfold f_X2_seen at h
  exact Ct.of (κ := kX2_seen) (by decide) rfl (Nat.le_of_ble_eq_true rfl) rfl (w_X2_seen_0 hΓ hT h)
set_option maxHeartbeats 4000000 in
theorem w_X2_untell_0 {Γ : GG} (hΓ : GF Γ) {m0 mF m : MM} {x : Nat} {l1 : Int32} (hT : (m.K x).1 = 3) {r : Int32} (h : b_X2_untell_0 x l1 m = some (r, mF)) : G Γ kX2_untell cX2_untell m0 mF (.inl (some (.int r))) m 0 [some (.ref x), some (.int l1)] [] := by
  unfold b_X2_untell_0 at h
  refine g_iload_n 1 dX2_untell_0 rfl rfl ?_
  refine g_ic 0 dX2_untell_1 rfl ?_
  refine g_this dX2_untell_2 rfl ?_
  refine g_getI hΓ.k fl_X2_245_X2 rfl hT dX2_untell_3 ?_
  refine g_ic 1 dX2_untell_6 rfl ?_
  refine g_isub dX2_untell_7 ?_
  replace h := bd2_of h; obtain ⟨v1, m2, em2, h⟩ := h
  have C := ct_X2_isIn hΓ em2
  refine g_callSi sl_X2_298 C rfl rfl (Nat.le_of_ble_eq_true rfl) (Nat.le_of_ble_eq_true rfl) (Nat.le_of_ble_eq_true rfl) dX2_untell_8 ?_
  replace hT := (C.1).kd hT
  replace h := ite_of h; rcases h with ⟨hc, h⟩ | ⟨hc, h⟩
  · refine g_ifeqT dX2_untell_11 rfl hc ?_
    refine g_ic 0 dX2_untell_23 rfl ?_
    cases h
    exact g_zret rfl (by decide) dX2_untell_24
  · refine g_ifeqF dX2_untell_11 rfl hc ?_
    refine g_this dX2_untell_14 rfl ?_
    refine g_getR hΓ.k fl_X2_143_X2 rfl hT dX2_untell_15 ?_
    refine g_iload_n 1 dX2_untell_18 rfl rfl ?_
    replace h := bd_of h; obtain ⟨v3, ev3, h⟩ := h
    refine g_iald ev3 dX2_untell_19 ?_
    replace h := ite_of h; rcases h with ⟨hc, h⟩ | ⟨hc, h⟩
    · refine g_ifltT dX2_untell_20 rfl hc ?_
      refine g_this dX2_untell_25 rfl ?_
      refine g_getR hΓ.k fl_X2_143_X2 rfl hT dX2_untell_26 ?_
      refine g_iload_n 1 dX2_untell_29 rfl rfl ?_
      refine g_this dX2_untell_30 rfl ?_
      refine g_getI hΓ.k fl_X2_473_X2 rfl hT dX2_untell_31 ?_
      replace h := bd_of h; obtain ⟨m4, em4, h⟩ := h
      refine g_iast em4 dX2_untell_34 ?_
      replace hT := (sI_ext em4).kd hT
      refine g_ic 1 dX2_untell_35 rfl ?_
      cases h
      exact g_zret rfl (by decide) dX2_untell_36
    · refine g_ifltF dX2_untell_20 rfl hc ?_
      refine g_ic 0 dX2_untell_23 rfl ?_
      cases h
      exact g_zret rfl (by decide) dX2_untell_24
theorem ct_X2_untell {Γ : GG} (hΓ : GF Γ) {m mF : MM} {x : Nat} {l1 : Int32} (hT : (m.K x).1 = 3) {r : Int32} (h : f_X2_untell x l1 m = some (r, mF)) : Ct Γ kX2_untell cX2_untell [.ref x, .int l1] m (.inl (some (.int r))) mF := by
  unfold f_X2_untell at h
  exact Ct.of (κ := kX2_untell) (by decide) rfl (Nat.le_of_ble_eq_true rfl) rfl (w_X2_untell_0 hΓ hT h)
set_option maxHeartbeats 4000000 in
theorem w_X2_later_0 {Γ : GG} (hΓ : GF Γ) {m0 mF m : MM} {x : Nat} {l1 : Int32} (hT : (m.K x).1 = 3) {r : Int32} (h : b_X2_later_0 x l1 m = some (r, mF)) : G Γ kX2_later cX2_later m0 mF (.inl (some (.int r))) m 0 [some (.ref x), some (.int l1)] [] := by
  unfold b_X2_later_0 at h
  refine g_iload_n 1 dX2_later_0 rfl rfl ?_
  refine g_ic 0 dX2_later_1 rfl ?_
  refine g_si (1000) dX2_later_2 rfl ?_
  replace h := bd2_of h; obtain ⟨v1, m2, em2, h⟩ := h
  have C := ct_X2_isIn hΓ em2
  refine g_callSi sl_X2_298 C rfl rfl (Nat.le_of_ble_eq_true rfl) (Nat.le_of_ble_eq_true rfl) (Nat.le_of_ble_eq_true rfl) dX2_later_5 ?_
  replace hT := (C.1).kd hT
  replace h := ite_of h; rcases h with ⟨hc, h⟩ | ⟨hc, h⟩
  · refine g_ifeqT dX2_later_8 rfl hc ?_
    refine g_ic (-1) dX2_later_23 rfl ?_
    cases h
    exact g_iret rfl dX2_later_24
  · refine g_ifeqF dX2_later_8 rfl hc ?_
    refine g_this dX2_later_11 rfl ?_
    refine g_getI hΓ.k fl_X2_473_X2 rfl hT dX2_later_12 ?_
    refine g_iload_n 1 dX2_later_15 rfl rfl ?_
    refine g_iadd dX2_later_16 ?_
    refine g_ldcw (v := 100000) q1866 dX2_later_17 ?_
    replace h := ite_of h; rcases h with ⟨hc, h⟩ | ⟨hc, h⟩
    · refine g_icleT dX2_later_20 rfl hc ?_
      refine g_this dX2_later_25 rfl ?_
      refine g_dup dX2_later_26 rfl ?_
      refine g_getI hΓ.k fl_X2_473_X2 rfl hT dX2_later_27 ?_
      refine g_iload_n 1 dX2_later_30 rfl rfl ?_
      refine g_iadd dX2_later_31 ?_
      replace h := bd_of h; obtain ⟨m3, em3, h⟩ := h
      refine g_pI hΓ.k fl_X2_473_X2 (fun h9 => by cases h9) rfl (Or.inl ⟨rfl, rfl⟩) em3 dX2_later_32 ?_
      replace hT := (pI_ext em3).kd hT
      refine g_this dX2_later_35 rfl ?_
      refine g_getI hΓ.k fl_X2_473_X2 rfl hT dX2_later_36 ?_
      cases h
      exact g_iret rfl dX2_later_39
    · refine g_icleF dX2_later_20 rfl hc ?_
      refine g_ic (-1) dX2_later_23 rfl ?_
      cases h
      exact g_iret rfl dX2_later_24
theorem ct_X2_later {Γ : GG} (hΓ : GF Γ) {m mF : MM} {x : Nat} {l1 : Int32} (hT : (m.K x).1 = 3) {r : Int32} (h : f_X2_later x l1 m = some (r, mF)) : Ct Γ kX2_later cX2_later [.ref x, .int l1] m (.inl (some (.int r))) mF := by
  unfold f_X2_later at h
  exact Ct.of (κ := kX2_later) (by decide) rfl (Nat.le_of_ble_eq_true rfl) rfl (w_X2_later_0 hΓ hT h)
def p_X2_isSo (Γ : GG) (m0 mF : MM) (x : Nat) (l1 : Int32) (l2 : Int32) (r : Int32) : ((Int32 × MM)) → Prop := fun z => match z with
  | (l3, m) => (m.K x).1 = 3 → G Γ kX2_isSo cX2_isSo m0 mF (.inl (some (.int r))) m 2 [some (.ref x), some (.int l1), some (.int l2), some (.int l3)] []
set_option maxHeartbeats 4000000 in
theorem w_X2_isSo_69 {Γ : GG} (hΓ : GF Γ) {m0 mF m : MM} {x : Nat} {l1 : Int32} {l2 : Int32} {l3 : Int32} {s0 : Int32} (hT : (m.K x).1 = 3) {r : Int32} {q : ((Int32 × MM)) ⊕ (Int32 × MM)} (h : b_X2_isSo_69 x l1 l2 l3 s0 m = some q) (Hl : ∀ z, q = .inl z → p_X2_isSo Γ m0 mF x l1 l2 r z) (Hr : ∀ z, q = .inr z → z = (r, mF)) : G Γ kX2_isSo cX2_isSo m0 mF (.inl (some (.int r))) m 69 [some (.ref x), some (.int l1), some (.int l2), some (.int l3)] [.int s0] := by
  unfold b_X2_isSo_69 at h
  refine g_this dX2_isSo_69 rfl ?_
  refine g_getR hΓ.k fl_X2_146_X2 rfl hT dX2_isSo_70 ?_
  refine g_iload_n 3 dX2_isSo_73 rfl rfl ?_
  replace h := bd_of h; obtain ⟨v1, ev1, h⟩ := h
  refine g_zald ev1 dX2_isSo_74 ?_
  replace h := ite_of h; rcases h with ⟨hc, h⟩ | ⟨hc, h⟩
  · refine g_iceqT dX2_isSo_75 rfl hc ?_
    refine g_iinc (l3 + (1 : Int32)) dX2_isSo_80 rfl rfl (Nat.le_of_ble_eq_true rfl) rfl ?_
    dsimp only [List.set]
    refine g_goto dX2_isSo_83 rfl ?_
    cases h
    refine G.weak [true, true, true, true] rfl ?_
    exact Hl _ rfl hT
  · refine g_iceqF dX2_isSo_75 rfl hc ?_
    refine g_ic 0 dX2_isSo_78 rfl ?_
    cases h
    cases Hr _ rfl
    exact g_zret rfl (by decide) dX2_isSo_79
set_option maxHeartbeats 4000000 in
theorem w_X2_isSo_39 {Γ : GG} (hΓ : GF Γ) {m0 mF m : MM} {x : Nat} {l1 : Int32} {l2 : Int32} {l3 : Int32} (hT : (m.K x).1 = 3) {r : Int32} {q : ((Int32 × MM)) ⊕ (Int32 × MM)} (h : b_X2_isSo_39 x l1 l2 l3 m = some q) (Hl : ∀ z, q = .inl z → p_X2_isSo Γ m0 mF x l1 l2 r z) (Hr : ∀ z, q = .inr z → z = (r, mF)) : G Γ kX2_isSo cX2_isSo m0 mF (.inl (some (.int r))) m 39 [some (.ref x), some (.int l1), some (.int l2), some (.int l3)] [] := by
  unfold b_X2_isSo_39 at h
  refine g_this dX2_isSo_39 rfl ?_
  refine g_this dX2_isSo_40 rfl ?_
  refine g_getR hΓ.k fl_X2_107_X2 rfl hT dX2_isSo_41 ?_
  refine g_iload_n 1 dX2_isSo_44 rfl rfl ?_
  replace h := bd_of h; obtain ⟨v1, ev1, h⟩ := h
  refine g_iald ev1 dX2_isSo_45 ?_
  refine g_this dX2_isSo_46 rfl ?_
  refine g_getR hΓ.k fl_X2_134_X2 rfl hT dX2_isSo_47 ?_
  refine g_iload_n 3 dX2_isSo_50 rfl rfl ?_
  replace h := bd_of h; obtain ⟨v2, ev2, h⟩ := h
  refine g_iald ev2 dX2_isSo_51 ?_
  replace h := bd2_of h; obtain ⟨v3, m4, em4, h⟩ := h
  have C := ct_X2_wordIn hΓ hT em4
  refine g_callVi hΓ.k vl_X2_380 hT C rfl rfl (Nat.le_of_ble_eq_true rfl) (Nat.le_of_ble_eq_true rfl) (Nat.le_of_ble_eq_true rfl) dX2_isSo_52 ?_
  replace hT := (C.1).kd hT
  refine g_this dX2_isSo_55 rfl ?_
  refine g_getR hΓ.k fl_X2_137_X2 rfl hT dX2_isSo_56 ?_
  refine g_iload_n 3 dX2_isSo_59 rfl rfl ?_
  replace h := bd_of h; obtain ⟨v5, ev5, h⟩ := h
  refine g_iald ev5 dX2_isSo_60 ?_
  replace h := ite_of h; rcases h with ⟨hc, h⟩ | ⟨hc, h⟩
  · refine g_icneF dX2_isSo_61 rfl hc ?_
    refine g_ic 1 dX2_isSo_64 rfl ?_
    refine g_goto dX2_isSo_65 rfl ?_
    refine G.weak [true, true, true, true] rfl ?_
    exact w_X2_isSo_69 hΓ hT h Hl Hr
  · refine g_icneT dX2_isSo_61 rfl hc ?_
    refine g_ic 0 dX2_isSo_68 rfl ?_
    refine G.weak [true, true, true, true] rfl ?_
    exact w_X2_isSo_69 hΓ hT h Hl Hr
set_option maxHeartbeats 4000000 in
theorem w_X2_isSo_2 {Γ : GG} (hΓ : GF Γ) {m0 mF m : MM} {x : Nat} {l1 : Int32} {l2 : Int32} {l3 : Int32} (hT : (m.K x).1 = 3) {r : Int32} {q : ((Int32 × MM)) ⊕ (Int32 × MM)} (h : b_X2_isSo_2 x l1 l2 l3 m = some q) (Hl : ∀ z, q = .inl z → p_X2_isSo Γ m0 mF x l1 l2 r z) (Hr : ∀ z, q = .inr z → z = (r, mF)) : G Γ kX2_isSo cX2_isSo m0 mF (.inl (some (.int r))) m 2 [some (.ref x), some (.int l1), some (.int l2), some (.int l3)] [] := by
  unfold b_X2_isSo_2 at h
  refine g_iload_n 3 dX2_isSo_2 rfl rfl ?_
  refine g_this dX2_isSo_3 rfl ?_
  refine g_getI hΓ.k fl_X2_245_X2 rfl hT dX2_isSo_4 ?_
  replace h := ite_of h; rcases h with ⟨hc, h⟩ | ⟨hc, h⟩
  · refine g_icgeT dX2_isSo_7 rfl hc ?_
    refine g_ic 1 dX2_isSo_86 rfl ?_
    cases h
    cases Hr _ rfl
    exact g_zret rfl (by decide) dX2_isSo_87
  · refine g_icgeF dX2_isSo_7 rfl hc ?_
    refine g_this dX2_isSo_10 rfl ?_
    refine g_getR hΓ.k fl_X2_140_X2 rfl hT dX2_isSo_11 ?_
    refine g_iload_n 3 dX2_isSo_14 rfl rfl ?_
    replace h := bd_of h; obtain ⟨v1, ev1, h⟩ := h
    refine g_iald ev1 dX2_isSo_15 ?_
    refine g_iload_n 2 dX2_isSo_16 rfl rfl ?_
    replace h := ite_of h; rcases h with ⟨hc, h⟩ | ⟨hc, h⟩
    · refine g_icgtT dX2_isSo_17 rfl hc ?_
      refine g_iinc (l3 + (1 : Int32)) dX2_isSo_80 rfl rfl (Nat.le_of_ble_eq_true rfl) rfl ?_
      dsimp only [List.set]
      refine g_goto dX2_isSo_83 rfl ?_
      cases h
      refine G.weak [true, true, true, true] rfl ?_
      exact Hl _ rfl hT
    · refine g_icgtF dX2_isSo_17 rfl hc ?_
      refine g_this dX2_isSo_20 rfl ?_
      refine g_getR hΓ.k fl_X2_143_X2 rfl hT dX2_isSo_21 ?_
      refine g_iload_n 3 dX2_isSo_24 rfl rfl ?_
      replace h := bd_of h; obtain ⟨v2, ev2, h⟩ := h
      refine g_iald ev2 dX2_isSo_25 ?_
      replace h := ite_of h; rcases h with ⟨hc, h⟩ | ⟨hc, h⟩
      · refine g_ifltT dX2_isSo_26 rfl hc ?_
        refine G.weak [true, true, true, true] rfl ?_
        exact w_X2_isSo_39 hΓ hT h Hl Hr
      · refine g_ifltF dX2_isSo_26 rfl hc ?_
        refine g_this dX2_isSo_29 rfl ?_
        refine g_getR hΓ.k fl_X2_143_X2 rfl hT dX2_isSo_30 ?_
        refine g_iload_n 3 dX2_isSo_33 rfl rfl ?_
        replace h := bd_of h; obtain ⟨v3, ev3, h⟩ := h
        refine g_iald ev3 dX2_isSo_34 ?_
        refine g_iload_n 2 dX2_isSo_35 rfl rfl ?_
        replace h := ite_of h; rcases h with ⟨hc, h⟩ | ⟨hc, h⟩
        · refine g_icleT dX2_isSo_36 rfl hc ?_
          refine g_iinc (l3 + (1 : Int32)) dX2_isSo_80 rfl rfl (Nat.le_of_ble_eq_true rfl) rfl ?_
          dsimp only [List.set]
          refine g_goto dX2_isSo_83 rfl ?_
          cases h
          refine G.weak [true, true, true, true] rfl ?_
          exact Hl _ rfl hT
        · refine g_icleF dX2_isSo_36 rfl hc ?_
          refine G.weak [true, true, true, true] rfl ?_
          exact w_X2_isSo_39 hΓ hT h Hl Hr
set_option maxHeartbeats 4000000 in
theorem w_X2_isSo_0 {Γ : GG} (hΓ : GF Γ) {m0 mF m : MM} {x : Nat} {l1 : Int32} {l2 : Int32} (hT : (m.K x).1 = 3) {r : Int32} {q : ((Int32 × MM)) ⊕ (Int32 × MM)} (h : b_X2_isSo_0 x l1 l2 m = some q) (Hl : ∀ z, q = .inl z → p_X2_isSo Γ m0 mF x l1 l2 r z) (Hr : ∀ z, q = .inr z → z = (r, mF)) : G Γ kX2_isSo cX2_isSo m0 mF (.inl (some (.int r))) m 0 [some (.ref x), some (.int l1), some (.int l2), none] [] := by
  unfold b_X2_isSo_0 at h
  refine g_ic 0 dX2_isSo_0 rfl ?_
  refine g_istore_n 3 dX2_isSo_1 rfl (Nat.le_of_ble_eq_true rfl) rfl ?_
  dsimp only [List.set]
  cases h
  refine G.weak [true, true, true, true] rfl ?_
  exact Hl _ rfl hT
theorem ct_X2_isSo {Γ : GG} (hΓ : GF Γ) {m mF : MM} {x : Nat} {l1 : Int32} {l2 : Int32} (hT : (m.K x).1 = 3) {r : Int32} (h : f_X2_isSo x l1 l2 m = some (r, mF)) : Ct Γ kX2_isSo cX2_isSo [.ref x, .int l1, .int l2] m (.inl (some (.int r))) mF := by
  unfold f_X2_isSo at h
  replace h := bd_of h; obtain ⟨q, e, h⟩ := h
  have H := rx_go_ind (P := p_X2_isSo Γ m mF x l1 l2 r) (fun z o hs Hl Hr => by
    match z with
    | (l3, m) => exact fun hT => w_X2_isSo_2 hΓ hT hs Hl Hr) h
  exact Ct.of (κ := kX2_isSo) (by decide) rfl (Nat.le_of_ble_eq_true rfl) rfl (w_X2_isSo_0 hΓ hT e H.1 H.2)
def p_X2_orders (Γ : GG) (m0 mF : MM) (x : Nat) (l1 : Int32) (r : Int32) : ((Int32 × Int32 × MM)) → Prop := fun z => match z with
  | (l2, l3, m) => (m.K x).1 = 3 → G Γ kX2_orders cX2_orders m0 mF (.inl (some (.int r))) m 14 [some (.ref x), some (.int l1), some (.int l2), some (.int l3)] []
set_option maxHeartbeats 4000000 in
theorem w_X2_orders_14 {Γ : GG} (hΓ : GF Γ) {m0 mF m : MM} {x : Nat} {l1 : Int32} {l2 : Int32} {l3 : Int32} (hT : (m.K x).1 = 3) {r : Int32} {q : ((Int32 × Int32 × MM)) ⊕ (Int32 × MM)} (h : b_X2_orders_14 x l1 l2 l3 m = some q) (Hl : ∀ z, q = .inl z → p_X2_orders Γ m0 mF x l1 r z) (Hr : ∀ z, q = .inr z → z = (r, mF)) : G Γ kX2_orders cX2_orders m0 mF (.inl (some (.int r))) m 14 [some (.ref x), some (.int l1), some (.int l2), some (.int l3)] [] := by
  unfold b_X2_orders_14 at h
  refine g_iload_n 3 dX2_orders_14 rfl rfl ?_
  refine g_bi (6) dX2_orders_15 rfl ?_
  replace h := ite_of h; rcases h with ⟨hc, h⟩ | ⟨hc, h⟩
  · refine g_icgeT dX2_orders_17 rfl hc ?_
    refine g_iload_n 2 dX2_orders_61 rfl rfl ?_
    cases h
    cases Hr _ rfl
    exact g_iret rfl dX2_orders_62
  · refine g_icgeF dX2_orders_17 rfl hc ?_
    refine g_this dX2_orders_20 rfl ?_
    refine g_getI hΓ.k fl_X2_390_X2 rfl hT dX2_orders_21 ?_
    replace h := ite_of h; rcases h with ⟨hc, h⟩ | ⟨hc, h⟩
    · refine g_ifleT dX2_orders_24 rfl hc ?_
      refine g_iload_n 2 dX2_orders_61 rfl rfl ?_
      cases h
      cases Hr _ rfl
      exact g_iret rfl dX2_orders_62
    · refine g_ifleF dX2_orders_24 rfl hc ?_
      refine g_this dX2_orders_27 rfl ?_
      refine g_iload_n 3 dX2_orders_28 rfl rfl ?_
      replace h := bd2_of h; obtain ⟨_, m1, em1, h⟩ := h
      have C := ct_X2_turnsByOrder hΓ hT em1
      refine g_callVv hΓ.k vl_X2_455 hT C rfl rfl (Nat.le_of_ble_eq_true rfl) (Nat.le_of_ble_eq_true rfl) (Nat.le_of_ble_eq_true rfl) dX2_orders_29 ?_
      replace hT := (C.1).kd hT
      refine g_iload_n 2 dX2_orders_32 rfl rfl ?_
      refine g_this dX2_orders_33 rfl ?_
      refine g_this dX2_orders_34 rfl ?_
      refine g_ic 0 dX2_orders_35 rfl ?_
      replace h := bd2_of h; obtain ⟨v2, m3, em3, h⟩ := h
      have C := ct_X2_plays hΓ hT em3
      refine g_callVi hΓ.k vl_X2_440 hT C rfl rfl (Nat.le_of_ble_eq_true rfl) (Nat.le_of_ble_eq_true rfl) (Nat.le_of_ble_eq_true rfl) dX2_orders_36 ?_
      replace hT := (C.1).kd hT
      refine g_iload_n 1 dX2_orders_39 rfl rfl ?_
      replace h := bd2_of h; obtain ⟨v4, m5, em5, h⟩ := h
      have C := ct_X2_isSo hΓ hT em5
      refine g_callVi hΓ.k vl_X2_477 hT C rfl rfl (Nat.le_of_ble_eq_true rfl) (Nat.le_of_ble_eq_true rfl) (Nat.le_of_ble_eq_true rfl) dX2_orders_40 ?_
      replace hT := (C.1).kd hT
      replace h := ite_of h; rcases h with ⟨hc, h⟩ | ⟨hc, h⟩
      · refine g_ifeqT dX2_orders_43 rfl hc ?_
        refine g_ic 0 dX2_orders_52 rfl ?_
        refine g_ior dX2_orders_53 ?_
        refine g_istore_n 2 dX2_orders_54 rfl (Nat.le_of_ble_eq_true rfl) rfl ?_
        dsimp only [List.set]
        refine g_iinc (l3 + (1 : Int32)) dX2_orders_55 rfl rfl (Nat.le_of_ble_eq_true rfl) rfl ?_
        dsimp only [List.set]
        refine g_goto dX2_orders_58 rfl ?_
        cases h
        refine G.weak [true, true, true, true] rfl ?_
        exact Hl _ rfl hT
      · refine g_ifeqF dX2_orders_43 rfl hc ?_
        refine g_ic 1 dX2_orders_46 rfl ?_
        refine g_iload_n 3 dX2_orders_47 rfl rfl ?_
        refine g_ishl dX2_orders_48 ?_
        refine g_goto dX2_orders_49 rfl ?_
        refine g_ior dX2_orders_53 ?_
        refine g_istore_n 2 dX2_orders_54 rfl (Nat.le_of_ble_eq_true rfl) rfl ?_
        dsimp only [List.set]
        refine g_iinc (l3 + (1 : Int32)) dX2_orders_55 rfl rfl (Nat.le_of_ble_eq_true rfl) rfl ?_
        dsimp only [List.set]
        refine g_goto dX2_orders_58 rfl ?_
        cases h
        refine G.weak [true, true, true, true] rfl ?_
        exact Hl _ rfl hT
set_option maxHeartbeats 4000000 in
theorem w_X2_orders_0 {Γ : GG} (hΓ : GF Γ) {m0 mF m : MM} {x : Nat} {l1 : Int32} (hT : (m.K x).1 = 3) {r : Int32} {q : ((Int32 × Int32 × MM)) ⊕ (Int32 × MM)} (h : b_X2_orders_0 x l1 m = some q) (Hl : ∀ z, q = .inl z → p_X2_orders Γ m0 mF x l1 r z) (Hr : ∀ z, q = .inr z → z = (r, mF)) : G Γ kX2_orders cX2_orders m0 mF (.inl (some (.int r))) m 0 [some (.ref x), some (.int l1), none, none] [] := by
  unfold b_X2_orders_0 at h
  refine g_this dX2_orders_0 rfl ?_
  replace h := bd2_of h; obtain ⟨v1, m2, em2, h⟩ := h
  have C := ct_X2_layFromNone hΓ hT em2
  refine g_callVi hΓ.k vl_X2_452 hT C rfl rfl (Nat.le_of_ble_eq_true rfl) (Nat.le_of_ble_eq_true rfl) (Nat.le_of_ble_eq_true rfl) dX2_orders_1 ?_
  replace hT := (C.1).kd hT
  replace h := ite_of h; rcases h with ⟨hc, h⟩ | ⟨hc, h⟩
  · refine g_ifneF dX2_orders_4 rfl hc ?_
    refine g_bi (-2) dX2_orders_7 rfl ?_
    cases h
    cases Hr _ rfl
    exact g_iret rfl dX2_orders_9
  · refine g_ifneT dX2_orders_4 rfl hc ?_
    refine g_ic 0 dX2_orders_10 rfl ?_
    refine g_istore_n 2 dX2_orders_11 rfl (Nat.le_of_ble_eq_true rfl) rfl ?_
    dsimp only [List.set]
    refine g_ic 0 dX2_orders_12 rfl ?_
    refine g_istore_n 3 dX2_orders_13 rfl (Nat.le_of_ble_eq_true rfl) rfl ?_
    dsimp only [List.set]
    cases h
    refine G.weak [true, true, true, true] rfl ?_
    exact Hl _ rfl hT
theorem ct_X2_orders {Γ : GG} (hΓ : GF Γ) {m mF : MM} {x : Nat} {l1 : Int32} (hT : (m.K x).1 = 3) {r : Int32} (h : f_X2_orders x l1 m = some (r, mF)) : Ct Γ kX2_orders cX2_orders [.ref x, .int l1] m (.inl (some (.int r))) mF := by
  unfold f_X2_orders at h
  replace h := bd_of h; obtain ⟨q, e, h⟩ := h
  have H := rx_go_ind (P := p_X2_orders Γ m mF x l1 r) (fun z o hs Hl Hr => by
    match z with
    | (l2, l3, m) => exact fun hT => w_X2_orders_14 hΓ hT hs Hl Hr) h
  exact Ct.of (κ := kX2_orders) (by decide) rfl (Nat.le_of_ble_eq_true rfl) rfl (w_X2_orders_0 hΓ hT e H.1 H.2)
def p_X2_image (Γ : GG) (m0 mF : MM) (x : Nat) (l1 : Int32) (r : Int32) : ((Int32 × MM)) → Prop := fun z => match z with
  | (l2, m) => (m.K x).1 = 3 → G Γ kX2_image cX2_image m0 mF (.inl (some (.int r))) m 13 [some (.ref x), some (.int l1), some (.int l2)] []
set_option maxHeartbeats 4000000 in
theorem w_X2_image_13 {Γ : GG} (hΓ : GF Γ) {m0 mF m : MM} {x : Nat} {l1 : Int32} {l2 : Int32} (hT : (m.K x).1 = 3) {r : Int32} {q : ((Int32 × MM)) ⊕ (Int32 × MM)} (h : b_X2_image_13 x l1 l2 m = some q) (Hl : ∀ z, q = .inl z → p_X2_image Γ m0 mF x l1 r z) (Hr : ∀ z, q = .inr z → z = (r, mF)) : G Γ kX2_image cX2_image m0 mF (.inl (some (.int r))) m 13 [some (.ref x), some (.int l1), some (.int l2)] [] := by
  unfold b_X2_image_13 at h
  refine g_iload_n 2 dX2_image_13 rfl rfl ?_
  refine g_bi (6) dX2_image_14 rfl ?_
  replace h := ite_of h; rcases h with ⟨hc, h⟩ | ⟨hc, h⟩
  · refine g_icgeT dX2_image_16 rfl hc ?_
    refine g_this dX2_image_59 rfl ?_
    refine g_getR hΓ.k fl_X2_149_X2 rfl hT dX2_image_60 ?_
    refine g_iload_n 1 dX2_image_63 rfl rfl ?_
    refine g_this dX2_image_64 rfl ?_
    refine g_getI hΓ.k fl_X2_336_X2 rfl hT dX2_image_65 ?_
    replace h := bd_of h; obtain ⟨m1, em1, h⟩ := h
    refine g_iast em1 dX2_image_68 ?_
    replace hT := (sI_ext em1).kd hT
    refine g_this dX2_image_69 rfl ?_
    refine g_getI hΓ.k fl_X2_336_X2 rfl hT dX2_image_70 ?_
    cases h
    cases Hr _ rfl
    exact g_iret rfl dX2_image_73
  · refine g_icgeF dX2_image_16 rfl hc ?_
    refine g_this dX2_image_19 rfl ?_
    refine g_getR hΓ.k fl_X2_152_X2 rfl hT dX2_image_20 ?_
    refine g_bi (6) dX2_image_23 rfl ?_
    refine g_iload_n 1 dX2_image_25 rfl rfl ?_
    refine g_imul dX2_image_26 ?_
    refine g_iload_n 2 dX2_image_27 rfl rfl ?_
    refine g_iadd dX2_image_28 ?_
    refine g_this dX2_image_29 rfl ?_
    refine g_getR hΓ.k fl_X2_92_X2 rfl hT dX2_image_30 ?_
    refine g_iload_n 2 dX2_image_33 rfl rfl ?_
    replace h := bd_of h; obtain ⟨v2, ev2, h⟩ := h
    refine g_iald ev2 dX2_image_34 ?_
    replace h := bd_of h; obtain ⟨m3, em3, h⟩ := h
    refine g_iast em3 dX2_image_35 ?_
    replace hT := (sI_ext em3).kd hT
    refine g_this dX2_image_36 rfl ?_
    refine g_getR hΓ.k fl_X2_155_X2 rfl hT dX2_image_37 ?_
    refine g_bi (6) dX2_image_40 rfl ?_
    refine g_iload_n 1 dX2_image_42 rfl rfl ?_
    refine g_imul dX2_image_43 ?_
    refine g_iload_n 2 dX2_image_44 rfl rfl ?_
    refine g_iadd dX2_image_45 ?_
    refine g_this dX2_image_46 rfl ?_
    refine g_getR hΓ.k fl_X2_95_X2 rfl hT dX2_image_47 ?_
    refine g_iload_n 2 dX2_image_50 rfl rfl ?_
    replace h := bd_of h; obtain ⟨v4, ev4, h⟩ := h
    refine g_iald ev4 dX2_image_51 ?_
    replace h := bd_of h; obtain ⟨m5, em5, h⟩ := h
    refine g_iast em5 dX2_image_52 ?_
    replace hT := (sI_ext em5).kd hT
    refine g_iinc (l2 + (1 : Int32)) dX2_image_53 rfl rfl (Nat.le_of_ble_eq_true rfl) rfl ?_
    dsimp only [List.set]
    refine g_goto dX2_image_56 rfl ?_
    cases h
    refine G.weak [true, true, true] rfl ?_
    exact Hl _ rfl hT
set_option maxHeartbeats 4000000 in
theorem w_X2_image_0 {Γ : GG} (hΓ : GF Γ) {m0 mF m : MM} {x : Nat} {l1 : Int32} (hT : (m.K x).1 = 3) {r : Int32} {q : ((Int32 × MM)) ⊕ (Int32 × MM)} (h : b_X2_image_0 x l1 m = some q) (Hl : ∀ z, q = .inl z → p_X2_image Γ m0 mF x l1 r z) (Hr : ∀ z, q = .inr z → z = (r, mF)) : G Γ kX2_image cX2_image m0 mF (.inl (some (.int r))) m 0 [some (.ref x), some (.int l1), none] [] := by
  unfold b_X2_image_0 at h
  refine g_iload_n 1 dX2_image_0 rfl rfl ?_
  refine g_ic 0 dX2_image_1 rfl ?_
  refine g_ic 2 dX2_image_2 rfl ?_
  replace h := bd2_of h; obtain ⟨v1, m2, em2, h⟩ := h
  have C := ct_X2_isIn hΓ em2
  refine g_callSi sl_X2_298 C rfl rfl (Nat.le_of_ble_eq_true rfl) (Nat.le_of_ble_eq_true rfl) (Nat.le_of_ble_eq_true rfl) dX2_image_3 ?_
  replace hT := (C.1).kd hT
  replace h := ite_of h; rcases h with ⟨hc, h⟩ | ⟨hc, h⟩
  · refine g_ifneF dX2_image_6 rfl hc ?_
    refine g_ic (-1) dX2_image_9 rfl ?_
    cases h
    cases Hr _ rfl
    exact g_iret rfl dX2_image_10
  · refine g_ifneT dX2_image_6 rfl hc ?_
    refine g_ic 0 dX2_image_11 rfl ?_
    refine g_istore_n 2 dX2_image_12 rfl (Nat.le_of_ble_eq_true rfl) rfl ?_
    dsimp only [List.set]
    cases h
    refine G.weak [true, true, true] rfl ?_
    exact Hl _ rfl hT
theorem ct_X2_image {Γ : GG} (hΓ : GF Γ) {m mF : MM} {x : Nat} {l1 : Int32} (hT : (m.K x).1 = 3) {r : Int32} (h : f_X2_image x l1 m = some (r, mF)) : Ct Γ kX2_image cX2_image [.ref x, .int l1] m (.inl (some (.int r))) mF := by
  unfold f_X2_image at h
  replace h := bd_of h; obtain ⟨q, e, h⟩ := h
  have H := rx_go_ind (P := p_X2_image Γ m mF x l1 r) (fun z o hs Hl Hr => by
    match z with
    | (l2, m) => exact fun hT => w_X2_image_13 hΓ hT hs Hl Hr) h
  exact Ct.of (κ := kX2_image) (by decide) rfl (Nat.le_of_ble_eq_true rfl) rfl (w_X2_image_0 hΓ hT e H.1 H.2)
def p_X2_back (Γ : GG) (m0 mF : MM) (x : Nat) (l1 : Int32) (r : Int32) : ((Int32 × MM)) → Prop := fun z => match z with
  | (l2, m) => (m.K x).1 = 3 → G Γ kX2_back cX2_back m0 mF (.inl (some (.int r))) m 26 [some (.ref x), some (.int l1), some (.int l2)] []
set_option maxHeartbeats 4000000 in
theorem w_X2_back_26 {Γ : GG} (hΓ : GF Γ) {m0 mF m : MM} {x : Nat} {l1 : Int32} {l2 : Int32} (hT : (m.K x).1 = 3) {r : Int32} {q : ((Int32 × MM)) ⊕ (Int32 × MM)} (h : b_X2_back_26 x l1 l2 m = some q) (Hl : ∀ z, q = .inl z → p_X2_back Γ m0 mF x l1 r z) (Hr : ∀ z, q = .inr z → z = (r, mF)) : G Γ kX2_back cX2_back m0 mF (.inl (some (.int r))) m 26 [some (.ref x), some (.int l1), some (.int l2)] [] := by
  unfold b_X2_back_26 at h
  refine g_iload_n 2 dX2_back_26 rfl rfl ?_
  refine g_bi (6) dX2_back_27 rfl ?_
  replace h := ite_of h; rcases h with ⟨hc, h⟩ | ⟨hc, h⟩
  · refine g_icgeT dX2_back_29 rfl hc ?_
    refine g_this dX2_back_72 rfl ?_
    refine g_this dX2_back_73 rfl ?_
    refine g_getR hΓ.k fl_X2_149_X2 rfl hT dX2_back_74 ?_
    refine g_iload_n 1 dX2_back_77 rfl rfl ?_
    replace h := bd_of h; obtain ⟨v1, ev1, h⟩ := h
    refine g_iald ev1 dX2_back_78 ?_
    replace h := bd_of h; obtain ⟨m2, em2, h⟩ := h
    refine g_pI hΓ.k fl_X2_336_X2 (fun h9 => by cases h9) rfl (Or.inl ⟨rfl, rfl⟩) em2 dX2_back_79 ?_
    replace hT := (pI_ext em2).kd hT
    refine g_this dX2_back_82 rfl ?_
    refine g_getI hΓ.k fl_X2_336_X2 rfl hT dX2_back_83 ?_
    cases h
    cases Hr _ rfl
    exact g_iret rfl dX2_back_86
  · refine g_icgeF dX2_back_29 rfl hc ?_
    refine g_this dX2_back_32 rfl ?_
    refine g_getR hΓ.k fl_X2_92_X2 rfl hT dX2_back_33 ?_
    refine g_iload_n 2 dX2_back_36 rfl rfl ?_
    refine g_this dX2_back_37 rfl ?_
    refine g_getR hΓ.k fl_X2_152_X2 rfl hT dX2_back_38 ?_
    refine g_bi (6) dX2_back_41 rfl ?_
    refine g_iload_n 1 dX2_back_43 rfl rfl ?_
    refine g_imul dX2_back_44 ?_
    refine g_iload_n 2 dX2_back_45 rfl rfl ?_
    refine g_iadd dX2_back_46 ?_
    replace h := bd_of h; obtain ⟨v3, ev3, h⟩ := h
    refine g_iald ev3 dX2_back_47 ?_
    replace h := bd_of h; obtain ⟨m4, em4, h⟩ := h
    refine g_iast em4 dX2_back_48 ?_
    replace hT := (sI_ext em4).kd hT
    refine g_this dX2_back_49 rfl ?_
    refine g_getR hΓ.k fl_X2_95_X2 rfl hT dX2_back_50 ?_
    refine g_iload_n 2 dX2_back_53 rfl rfl ?_
    refine g_this dX2_back_54 rfl ?_
    refine g_getR hΓ.k fl_X2_155_X2 rfl hT dX2_back_55 ?_
    refine g_bi (6) dX2_back_58 rfl ?_
    refine g_iload_n 1 dX2_back_60 rfl rfl ?_
    refine g_imul dX2_back_61 ?_
    refine g_iload_n 2 dX2_back_62 rfl rfl ?_
    refine g_iadd dX2_back_63 ?_
    replace h := bd_of h; obtain ⟨v5, ev5, h⟩ := h
    refine g_iald ev5 dX2_back_64 ?_
    replace h := bd_of h; obtain ⟨m6, em6, h⟩ := h
    refine g_iast em6 dX2_back_65 ?_
    replace hT := (sI_ext em6).kd hT
    refine g_iinc (l2 + (1 : Int32)) dX2_back_66 rfl rfl (Nat.le_of_ble_eq_true rfl) rfl ?_
    dsimp only [List.set]
    refine g_goto dX2_back_69 rfl ?_
    cases h
    refine G.weak [true, true, true] rfl ?_
    exact Hl _ rfl hT
set_option maxHeartbeats 4000000 in
theorem w_X2_back_0 {Γ : GG} (hΓ : GF Γ) {m0 mF m : MM} {x : Nat} {l1 : Int32} (hT : (m.K x).1 = 3) {r : Int32} {q : ((Int32 × MM)) ⊕ (Int32 × MM)} (h : b_X2_back_0 x l1 m = some q) (Hl : ∀ z, q = .inl z → p_X2_back Γ m0 mF x l1 r z) (Hr : ∀ z, q = .inr z → z = (r, mF)) : G Γ kX2_back cX2_back m0 mF (.inl (some (.int r))) m 0 [some (.ref x), some (.int l1), none] [] := by
  unfold b_X2_back_0 at h
  refine g_iload_n 1 dX2_back_0 rfl rfl ?_
  refine g_ic 0 dX2_back_1 rfl ?_
  refine g_ic 2 dX2_back_2 rfl ?_
  replace h := bd2_of h; obtain ⟨v1, m2, em2, h⟩ := h
  have C := ct_X2_isIn hΓ em2
  refine g_callSi sl_X2_298 C rfl rfl (Nat.le_of_ble_eq_true rfl) (Nat.le_of_ble_eq_true rfl) (Nat.le_of_ble_eq_true rfl) dX2_back_3 ?_
  replace hT := (C.1).kd hT
  replace h := ite_of h; rcases h with ⟨hc, h⟩ | ⟨hc, h⟩
  · refine g_ifeqT dX2_back_6 rfl hc ?_
    refine g_ic (-1) dX2_back_18 rfl ?_
    cases h
    cases Hr _ rfl
    exact g_iret rfl dX2_back_19
  · refine g_ifeqF dX2_back_6 rfl hc ?_
    refine g_this dX2_back_9 rfl ?_
    refine g_getR hΓ.k fl_X2_149_X2 rfl hT dX2_back_10 ?_
    refine g_iload_n 1 dX2_back_13 rfl rfl ?_
    replace h := bd_of h; obtain ⟨v3, ev3, h⟩ := h
    refine g_iald ev3 dX2_back_14 ?_
    replace h := ite_of h; rcases h with ⟨hc, h⟩ | ⟨hc, h⟩
    · refine g_ifgeT dX2_back_15 rfl hc ?_
      refine g_this dX2_back_20 rfl ?_
      replace h := bd2_of h; obtain ⟨_, m4, em4, h⟩ := h
      have C := ct_X2_begin hΓ hT em4
      refine g_callVv hΓ.k vl_X2_161 hT C rfl rfl (Nat.le_of_ble_eq_true rfl) (Nat.le_of_ble_eq_true rfl) (Nat.le_of_ble_eq_true rfl) dX2_back_21 ?_
      replace hT := (C.1).kd hT
      refine g_ic 0 dX2_back_24 rfl ?_
      refine g_istore_n 2 dX2_back_25 rfl (Nat.le_of_ble_eq_true rfl) rfl ?_
      dsimp only [List.set]
      cases h
      refine G.weak [true, true, true] rfl ?_
      exact Hl _ rfl hT
    · refine g_ifgeF dX2_back_15 rfl hc ?_
      refine g_ic (-1) dX2_back_18 rfl ?_
      cases h
      cases Hr _ rfl
      exact g_iret rfl dX2_back_19
theorem ct_X2_back {Γ : GG} (hΓ : GF Γ) {m mF : MM} {x : Nat} {l1 : Int32} (hT : (m.K x).1 = 3) {r : Int32} (h : f_X2_back x l1 m = some (r, mF)) : Ct Γ kX2_back cX2_back [.ref x, .int l1] m (.inl (some (.int r))) mF := by
  unfold f_X2_back at h
  replace h := bd_of h; obtain ⟨q, e, h⟩ := h
  have H := rx_go_ind (P := p_X2_back Γ m mF x l1 r) (fun z o hs Hl Hr => by
    match z with
    | (l2, m) => exact fun hT => w_X2_back_26 hΓ hT hs Hl Hr) h
  exact Ct.of (κ := kX2_back) (by decide) rfl (Nat.le_of_ble_eq_true rfl) rfl (w_X2_back_0 hΓ hT e H.1 H.2)
set_option maxHeartbeats 4000000 in
theorem w_X2_about_0 {Γ : GG} (hΓ : GF Γ) {m0 mF m : MM} {x : Nat} {l1 : Int32} (hT : (m.K x).1 = 3) {r : Int32} (h : b_X2_about_0 x l1 m = some (r, mF)) : G Γ kX2_about cX2_about m0 mF (.inl (some (.int r))) m 0 [some (.ref x), some (.int l1)] [] := by
  unfold b_X2_about_0 at h
  refine g_iload_n 1 dX2_about_0 rfl rfl ?_
  replace h := ite_of h; rcases h with ⟨hc, h⟩ | ⟨hc0, h⟩
  · refine g_tabIn (v := 0) dX2_about_1 hc (by decide) (by decide) rfl rfl ?_
    refine g_this dX2_about_64 rfl ?_
    refine g_getR hΓ.k fl_X2_20_X2 rfl hT dX2_about_65 ?_
    refine g_this dX2_about_68 rfl ?_
    refine g_getI hΓ.k fl_X2_233_X2 rfl hT dX2_about_69 ?_
    replace h := bd_of h; obtain ⟨v1, ev1, h⟩ := h
    refine g_iald ev1 dX2_about_72 ?_
    cases h
    exact g_iret rfl dX2_about_73
  replace h := ite_of h; rcases h with ⟨hc, h⟩ | ⟨hc1, h⟩
  · refine g_tabIn (v := 1) dX2_about_1 hc (by decide) (by decide) rfl rfl ?_
    refine g_this dX2_about_74 rfl ?_
    refine g_getR hΓ.k fl_X2_24_X2 rfl hT dX2_about_75 ?_
    refine g_this dX2_about_78 rfl ?_
    refine g_getI hΓ.k fl_X2_233_X2 rfl hT dX2_about_79 ?_
    replace h := bd_of h; obtain ⟨v2, ev2, h⟩ := h
    refine g_iald ev2 dX2_about_82 ?_
    cases h
    exact g_iret rfl dX2_about_83
  replace h := ite_of h; rcases h with ⟨hc, h⟩ | ⟨hc2, h⟩
  · refine g_tabIn (v := 2) dX2_about_1 hc (by decide) (by decide) rfl rfl ?_
    refine g_this dX2_about_84 rfl ?_
    refine g_getR hΓ.k fl_X2_27_X2 rfl hT dX2_about_85 ?_
    refine g_this dX2_about_88 rfl ?_
    refine g_getI hΓ.k fl_X2_233_X2 rfl hT dX2_about_89 ?_
    replace h := bd_of h; obtain ⟨v3, ev3, h⟩ := h
    refine g_iald ev3 dX2_about_92 ?_
    cases h
    exact g_iret rfl dX2_about_93
  replace h := ite_of h; rcases h with ⟨hc, h⟩ | ⟨hc3, h⟩
  · refine g_tabIn (v := 3) dX2_about_1 hc (by decide) (by decide) rfl rfl ?_
    refine g_this dX2_about_94 rfl ?_
    refine g_getR hΓ.k fl_X2_30_X2 rfl hT dX2_about_95 ?_
    refine g_this dX2_about_98 rfl ?_
    refine g_getI hΓ.k fl_X2_233_X2 rfl hT dX2_about_99 ?_
    replace h := bd_of h; obtain ⟨v4, ev4, h⟩ := h
    refine g_iald ev4 dX2_about_102 ?_
    cases h
    exact g_iret rfl dX2_about_103
  replace h := ite_of h; rcases h with ⟨hc, h⟩ | ⟨hc4, h⟩
  · refine g_tabIn (v := 4) dX2_about_1 hc (by decide) (by decide) rfl rfl ?_
    refine g_this dX2_about_104 rfl ?_
    replace h := bd2_of h; obtain ⟨v5, m6, em6, h⟩ := h
    have C := ct_X2_longOf hΓ hT em6
    refine g_callVi hΓ.k vl_X2_302 hT C rfl rfl (Nat.le_of_ble_eq_true rfl) (Nat.le_of_ble_eq_true rfl) (Nat.le_of_ble_eq_true rfl) dX2_about_105 ?_
    replace hT := (C.1).kd hT
    cases h
    exact g_iret rfl dX2_about_108
  replace h := ite_of h; rcases h with ⟨hc, h⟩ | ⟨hc5, h⟩
  · refine g_tabIn (v := 5) dX2_about_1 hc (by decide) (by decide) rfl rfl ?_
    refine g_this dX2_about_109 rfl ?_
    refine g_getI hΓ.k fl_X2_336_X2 rfl hT dX2_about_110 ?_
    cases h
    exact g_iret rfl dX2_about_113
  replace h := ite_of h; rcases h with ⟨hc, h⟩ | ⟨hc6, h⟩
  · refine g_tabIn (v := 6) dX2_about_1 hc (by decide) (by decide) rfl rfl ?_
    refine g_this dX2_about_114 rfl ?_
    refine g_getI hΓ.k fl_X2_339_X2 rfl hT dX2_about_115 ?_
    cases h
    exact g_iret rfl dX2_about_118
  replace h := ite_of h; rcases h with ⟨hc, h⟩ | ⟨hc7, h⟩
  · refine g_tabIn (v := 7) dX2_about_1 hc (by decide) (by decide) rfl rfl ?_
    refine g_this dX2_about_119 rfl ?_
    refine g_getI hΓ.k fl_X2_342_X2 rfl hT dX2_about_120 ?_
    cases h
    exact g_iret rfl dX2_about_123
  replace h := ite_of h; rcases h with ⟨hc, h⟩ | ⟨hc8, h⟩
  · refine g_tabIn (v := 8) dX2_about_1 hc (by decide) (by decide) rfl rfl ?_
    refine g_this dX2_about_124 rfl ?_
    refine g_getI hΓ.k fl_X2_245_X2 rfl hT dX2_about_125 ?_
    cases h
    exact g_iret rfl dX2_about_128
  replace h := ite_of h; rcases h with ⟨hc, h⟩ | ⟨hc9, h⟩
  · refine g_tabIn (v := 9) dX2_about_1 hc (by decide) (by decide) rfl rfl ?_
    refine g_this dX2_about_129 rfl ?_
    refine g_getI hΓ.k fl_X2_473_X2 rfl hT dX2_about_130 ?_
    cases h
    exact g_iret rfl dX2_about_133
  replace h := ite_of h; rcases h with ⟨hc, h⟩ | ⟨hc10, h⟩
  · refine g_tabIn (v := 10) dX2_about_1 hc (by decide) (by decide) rfl rfl ?_
    refine g_this dX2_about_134 rfl ?_
    refine g_getI hΓ.k fl_X2_230_X2 rfl hT dX2_about_135 ?_
    cases h
    exact g_iret rfl dX2_about_138
  replace h := ite_of h; rcases h with ⟨hc, h⟩ | ⟨hc11, h⟩
  · refine g_tabIn (v := 11) dX2_about_1 hc (by decide) (by decide) rfl rfl ?_
    refine g_this dX2_about_139 rfl ?_
    refine g_getI hΓ.k fl_X2_248_X2 rfl hT dX2_about_140 ?_
    cases h
    exact g_iret rfl dX2_about_143
  refine g_tabOut dX2_about_1 (tab_out 0 12 (by decide) (by decide) (fun j hj => by
    match j, hj with
    | 0, _ => exact hc0
    | 1, _ => exact hc1
    | 2, _ => exact hc2
    | 3, _ => exact hc3
    | 4, _ => exact hc4
    | 5, _ => exact hc5
    | 6, _ => exact hc6
    | 7, _ => exact hc7
    | 8, _ => exact hc8
    | 9, _ => exact hc9
    | 10, _ => exact hc10
    | 11, _ => exact hc11
    | j + 12, hj => exact absurd hj (by omega)) rfl) rfl ?_
  refine g_ic (-1) dX2_about_144 rfl ?_
  cases h
  exact g_iret rfl dX2_about_145
theorem ct_X2_about {Γ : GG} (hΓ : GF Γ) {m mF : MM} {x : Nat} {l1 : Int32} (hT : (m.K x).1 = 3) {r : Int32} (h : f_X2_about x l1 m = some (r, mF)) : Ct Γ kX2_about cX2_about [.ref x, .int l1] m (.inl (some (.int r))) mF := by
  unfold f_X2_about at h
  exact Ct.of (κ := kX2_about) (by decide) rfl (Nat.le_of_ble_eq_true rfl) rfl (w_X2_about_0 hΓ hT h)
def p_X2_feed (Γ : GG) (m0 mF : MM) (x : Nat) (l1 : Int32) (l2 : Int32) (l3 : Int32) (l4 : Int32) (l5 : Int32) (r : Int32) : ((Int32 × MM)) → Prop := fun z => match z with
  | (l6, m) => (m.K x).1 = 3 → G Γ kX2_feed cX2_feed m0 mF (.inl (some (.int r))) m 18 [some (.ref x), some (.int l1), some (.int l2), some (.int l3), some (.int l4), some (.int l5), some (.int l6), none] []
set_option maxHeartbeats 4000000 in
theorem w_X2_feed_71 {Γ : GG} (hΓ : GF Γ) {m0 mF m : MM} {x : Nat} {l1 : Int32} {l2 : Int32} {l3 : Int32} {l4 : Int32} {l5 : Int32} {l6 : Int32} {s0 : Int32} (hT : (m.K x).1 = 3) {r : Int32} {q : ((Int32 × MM)) ⊕ (Int32 × MM)} (h : b_X2_feed_71 x l1 l2 l3 l4 l5 l6 s0 m = some q) (Hl : ∀ z, q = .inl z → p_X2_feed Γ m0 mF x l1 l2 l3 l4 l5 r z) (Hr : ∀ z, q = .inr z → z = (r, mF)) : G Γ kX2_feed cX2_feed m0 mF (.inl (some (.int r))) m 71 [some (.ref x), some (.int l1), some (.int l2), some (.int l3), some (.int l4), some (.int l5), some (.int l6), none] [.int s0] := by
  unfold b_X2_feed_71 at h
  refine g_istore dX2_feed_71 (Nat.le_of_ble_eq_true rfl) rfl ?_
  dsimp only [List.set]
  refine g_this dX2_feed_73 rfl ?_
  refine g_getR hΓ.k fl_X2_7_X2 rfl hT dX2_feed_74 ?_
  refine g_this dX2_feed_77 rfl ?_
  refine g_getI hΓ.k fl_X2_230_X2 rfl hT dX2_feed_78 ?_
  refine g_iload dX2_feed_81 rfl ?_
  refine g_iadd dX2_feed_83 ?_
  refine g_iload dX2_feed_84 rfl ?_
  refine g_bi (24) dX2_feed_86 rfl ?_
  refine g_bi (8) dX2_feed_88 rfl ?_
  refine g_iload dX2_feed_90 rfl ?_
  refine g_ic 3 dX2_feed_92 rfl ?_
  refine g_iand dX2_feed_93 ?_
  refine g_imul dX2_feed_94 ?_
  refine g_isub dX2_feed_95 ?_
  refine g_ishr dX2_feed_96 ?_
  refine g_i2b dX2_feed_97 ?_
  replace h := bd_of h; obtain ⟨m1, em1, h⟩ := h
  refine g_bast em1 dX2_feed_98 ?_
  replace hT := (sI_ext em1).kd hT
  refine g_iinc (l6 + (1 : Int32)) dX2_feed_99 rfl rfl (Nat.le_of_ble_eq_true rfl) rfl ?_
  dsimp only [List.set]
  refine g_goto dX2_feed_102 rfl ?_
  cases h
  refine G.weak [true, true, true, true, true, true, true, false] rfl ?_
  exact Hl _ rfl hT
set_option maxHeartbeats 4000000 in
theorem w_X2_feed_18 {Γ : GG} (hΓ : GF Γ) {m0 mF m : MM} {x : Nat} {l1 : Int32} {l2 : Int32} {l3 : Int32} {l4 : Int32} {l5 : Int32} {l6 : Int32} (hT : (m.K x).1 = 3) {r : Int32} {q : ((Int32 × MM)) ⊕ (Int32 × MM)} (h : b_X2_feed_18 x l1 l2 l3 l4 l5 l6 m = some q) (Hl : ∀ z, q = .inl z → p_X2_feed Γ m0 mF x l1 l2 l3 l4 l5 r z) (Hr : ∀ z, q = .inr z → z = (r, mF)) : G Γ kX2_feed cX2_feed m0 mF (.inl (some (.int r))) m 18 [some (.ref x), some (.int l1), some (.int l2), some (.int l3), some (.int l4), some (.int l5), some (.int l6), none] [] := by
  unfold b_X2_feed_18 at h
  refine g_iload dX2_feed_18 rfl ?_
  refine g_bi (20) dX2_feed_20 rfl ?_
  replace h := ite_of h; rcases h with ⟨hc, h⟩ | ⟨hc, h⟩
  · refine g_icgeT dX2_feed_22 rfl hc ?_
    refine g_this dX2_feed_105 rfl ?_
    refine g_dup dX2_feed_106 rfl ?_
    refine g_getI hΓ.k fl_X2_230_X2 rfl hT dX2_feed_107 ?_
    refine g_bi (20) dX2_feed_110 rfl ?_
    refine g_iadd dX2_feed_112 ?_
    replace h := bd_of h; obtain ⟨m1, em1, h⟩ := h
    refine g_pI hΓ.k fl_X2_230_X2 (fun h9 => by cases h9) rfl (Or.inl ⟨rfl, rfl⟩) em1 dX2_feed_113 ?_
    replace hT := (pI_ext em1).kd hT
    refine g_this dX2_feed_116 rfl ?_
    refine g_getI hΓ.k fl_X2_230_X2 rfl hT dX2_feed_117 ?_
    cases h
    cases Hr _ rfl
    exact g_iret rfl dX2_feed_120
  · refine g_icgeF dX2_feed_22 rfl hc ?_
    refine g_iload dX2_feed_25 rfl ?_
    refine g_ic 4 dX2_feed_27 rfl ?_
    replace h := ite_of h; rcases h with ⟨hc, h⟩ | ⟨hc, h⟩
    · refine g_icgeT dX2_feed_28 rfl hc ?_
      refine g_iload dX2_feed_35 rfl ?_
      refine g_bi (8) dX2_feed_37 rfl ?_
      replace h := ite_of h; rcases h with ⟨hc, h⟩ | ⟨hc, h⟩
      · refine g_icgeT dX2_feed_39 rfl hc ?_
        refine g_iload dX2_feed_46 rfl ?_
        refine g_bi (12) dX2_feed_48 rfl ?_
        replace h := ite_of h; rcases h with ⟨hc, h⟩ | ⟨hc, h⟩
        · refine g_icgeT dX2_feed_50 rfl hc ?_
          refine g_iload dX2_feed_57 rfl ?_
          refine g_bi (16) dX2_feed_59 rfl ?_
          replace h := ite_of h; rcases h with ⟨hc, h⟩ | ⟨hc, h⟩
          · refine g_icgeT dX2_feed_61 rfl hc ?_
            refine g_iload dX2_feed_69 rfl ?_
            refine G.weak [true, true, true, true, true, true, true, false] rfl ?_
            exact w_X2_feed_71 hΓ hT h Hl Hr
          · refine g_icgeF dX2_feed_61 rfl hc ?_
            refine g_iload dX2_feed_64 rfl ?_
            refine g_goto dX2_feed_66 rfl ?_
            refine G.weak [true, true, true, true, true, true, true, false] rfl ?_
            exact w_X2_feed_71 hΓ hT h Hl Hr
        · refine g_icgeF dX2_feed_50 rfl hc ?_
          refine g_iload_n 3 dX2_feed_53 rfl rfl ?_
          refine g_goto dX2_feed_54 rfl ?_
          refine G.weak [true, true, true, true, true, true, true, false] rfl ?_
          exact w_X2_feed_71 hΓ hT h Hl Hr
      · refine g_icgeF dX2_feed_39 rfl hc ?_
        refine g_iload_n 2 dX2_feed_42 rfl rfl ?_
        refine g_goto dX2_feed_43 rfl ?_
        refine G.weak [true, true, true, true, true, true, true, false] rfl ?_
        exact w_X2_feed_71 hΓ hT h Hl Hr
    · refine g_icgeF dX2_feed_28 rfl hc ?_
      refine g_iload_n 1 dX2_feed_31 rfl rfl ?_
      refine g_goto dX2_feed_32 rfl ?_
      refine G.weak [true, true, true, true, true, true, true, false] rfl ?_
      exact w_X2_feed_71 hΓ hT h Hl Hr
set_option maxHeartbeats 4000000 in
theorem w_X2_feed_0 {Γ : GG} (hΓ : GF Γ) {m0 mF m : MM} {x : Nat} {l1 : Int32} {l2 : Int32} {l3 : Int32} {l4 : Int32} {l5 : Int32} (hT : (m.K x).1 = 3) {r : Int32} {q : ((Int32 × MM)) ⊕ (Int32 × MM)} (h : b_X2_feed_0 x l1 l2 l3 l4 l5 m = some q) (Hl : ∀ z, q = .inl z → p_X2_feed Γ m0 mF x l1 l2 l3 l4 l5 r z) (Hr : ∀ z, q = .inr z → z = (r, mF)) : G Γ kX2_feed cX2_feed m0 mF (.inl (some (.int r))) m 0 [some (.ref x), some (.int l1), some (.int l2), some (.int l3), some (.int l4), some (.int l5), none, none] [] := by
  unfold b_X2_feed_0 at h
  refine g_this dX2_feed_0 rfl ?_
  refine g_getI hΓ.k fl_X2_230_X2 rfl hT dX2_feed_1 ?_
  refine g_bi (20) dX2_feed_4 rfl ?_
  refine g_iadd dX2_feed_6 ?_
  refine g_si (1600) dX2_feed_7 rfl ?_
  replace h := ite_of h; rcases h with ⟨hc, h⟩ | ⟨hc, h⟩
  · refine g_icleT dX2_feed_10 rfl hc ?_
    refine g_ic 0 dX2_feed_15 rfl ?_
    refine g_istore dX2_feed_16 (Nat.le_of_ble_eq_true rfl) rfl ?_
    dsimp only [List.set]
    cases h
    refine G.weak [true, true, true, true, true, true, true, false] rfl ?_
    exact Hl _ rfl hT
  · refine g_icleF dX2_feed_10 rfl hc ?_
    refine g_ic (-1) dX2_feed_13 rfl ?_
    cases h
    cases Hr _ rfl
    exact g_iret rfl dX2_feed_14
theorem ct_X2_feed {Γ : GG} (hΓ : GF Γ) {m mF : MM} {x : Nat} {l1 : Int32} {l2 : Int32} {l3 : Int32} {l4 : Int32} {l5 : Int32} (hT : (m.K x).1 = 3) {r : Int32} (h : f_X2_feed x l1 l2 l3 l4 l5 m = some (r, mF)) : Ct Γ kX2_feed cX2_feed [.ref x, .int l1, .int l2, .int l3, .int l4, .int l5] m (.inl (some (.int r))) mF := by
  unfold f_X2_feed at h
  replace h := bd_of h; obtain ⟨q, e, h⟩ := h
  have H := rx_go_ind (P := p_X2_feed Γ m mF x l1 l2 l3 l4 l5 r) (fun z o hs Hl Hr => by
    match z with
    | (l6, m) => exact fun hT => w_X2_feed_18 hΓ hT hs Hl Hr) h
  exact Ct.of (κ := kX2_feed) (by decide) rfl (Nat.le_of_ble_eq_true rfl) rfl (w_X2_feed_0 hΓ hT e H.1 H.2)
set_option maxHeartbeats 4000000 in
theorem w_X2_end_0 {Γ : GG} (hΓ : GF Γ) {m0 mF m : MM} {x : Nat} {l1 : Int32} (hT : (m.K x).1 = 3) {r : Int32} (h : b_X2_end_0 x l1 m = some (r, mF)) : G Γ kX2_end cX2_end m0 mF (.inl (some (.int r))) m 0 [some (.ref x), some (.int l1)] [] := by
  unfold b_X2_end_0 at h
  refine g_iload_n 1 dX2_end_0 rfl rfl ?_
  replace h := ite_of h; rcases h with ⟨hc, h⟩ | ⟨hc, h⟩
  · refine g_ifltT dX2_end_1 rfl hc ?_
    refine g_ic (-1) dX2_end_12 rfl ?_
    cases h
    exact g_iret rfl dX2_end_13
  · refine g_ifltF dX2_end_1 rfl hc ?_
    refine g_iload_n 1 dX2_end_4 rfl rfl ?_
    refine g_this dX2_end_5 rfl ?_
    refine g_getI hΓ.k fl_X2_230_X2 rfl hT dX2_end_6 ?_
    replace h := ite_of h; rcases h with ⟨hc, h⟩ | ⟨hc, h⟩
    · refine g_icleT dX2_end_9 rfl hc ?_
      refine g_this dX2_end_14 rfl ?_
      refine g_iload_n 1 dX2_end_15 rfl rfl ?_
      replace h := bd_of h; obtain ⟨m1, em1, h⟩ := h
      refine g_pI hΓ.k fl_X2_230_X2 (fun h9 => by cases h9) rfl (Or.inl ⟨rfl, rfl⟩) em1 dX2_end_16 ?_
      replace hT := (pI_ext em1).kd hT
      refine g_iload_n 1 dX2_end_19 rfl rfl ?_
      cases h
      exact g_iret rfl dX2_end_20
    · refine g_icleF dX2_end_9 rfl hc ?_
      refine g_ic (-1) dX2_end_12 rfl ?_
      cases h
      exact g_iret rfl dX2_end_13
theorem ct_X2_end {Γ : GG} (hΓ : GF Γ) {m mF : MM} {x : Nat} {l1 : Int32} (hT : (m.K x).1 = 3) {r : Int32} (h : f_X2_end x l1 m = some (r, mF)) : Ct Γ kX2_end cX2_end [.ref x, .int l1] m (.inl (some (.int r))) mF := by
  unfold f_X2_end at h
  exact Ct.of (κ := kX2_end) (by decide) rfl (Nat.le_of_ble_eq_true rfl) rfl (w_X2_end_0 hΓ hT h)
