/-! printed by wip/gen: what the methods compute, as functions over the memory -/
set_option maxRecDepth 100000
noncomputable def b_J0_init_0 (x : Nat) (m : MM) : Option (Unit × MM) :=
  some ((), m)
noncomputable def f_J0_init (x : Nat) (m : MM) : Option (Unit × MM) := b_J0_init_0 x m
noncomputable def b_J1_init_0 (x : Nat) (m : MM) : Option (Unit × MM) :=
  bd2 (f_J0_init x m) fun _ m1 =>
  bd (pI m1 (some x) 9 0 50 (0 : Int32)) fun m2 =>
  some ((), m2)
noncomputable def f_J1_init (x : Nat) (m : MM) : Option (Unit × MM) := b_J1_init_0 x m
noncomputable def b_J2_init_0 (x : Nat) (l1 : Int32) (m : MM) : Option (Unit × MM) :=
  bd2 (f_J1_init x m) fun _ m1 =>
  if l1 ≤ 0 then (
    none
    ) else (
    bd (nA m1 54 l1) fun m2 =>
    bd (pR m2 (some x) 9 1 (some m1.n)) fun m3 =>
    some ((), m3)
    )
noncomputable def f_J2_init (x : Nat) (l1 : Int32) (m : MM) : Option (Unit × MM) := b_J2_init_0 x l1 m
noncomputable def b_X1_turn_0 (x : Nat) (l1 : Int32) (m : MM) : Option (Int32 × MM) :=
  if (m.I x 9) = 0 then (
    some ((ji_rem l1 (3 : Int32)), m)
    ) else (
    if (m.I x 9) = 0 then none else
    bd (aI m 50 (m.R x 4) (ji_rem l1 (m.I x 9))) fun v1 =>
    some (v1, m)
    )
noncomputable def f_X1_turn (x : Nat) (l1 : Int32) (m : MM) : Option (Int32 × MM) := b_X1_turn_0 x l1 m
noncomputable def b_X0_begin_2 (x : Nat) (l1 : Int32) (m : MM) : Option (((Int32 × MM)) ⊕ (Unit × MM)) :=
  if (6 : Int32) ≤ l1 then (
    bd (sI m 50 (m.R x 16) (12 : Int32) (0 : Int32)) fun m1 =>
    bd (pI m1 (some x) 1 18 50 (0 : Int32)) fun m2 =>
    bd (pI m2 (some x) 1 19 50 (0 : Int32)) fun m3 =>
    some (.inr ((), m3))
    ) else (
    bd (sI m 50 (m.R x 16) l1 (-1 : Int32)) fun m4 =>
    bd (isK m4 (m4.R x 14) 2) fun a5 =>
    bd2 (f_X1_turn a5 l1 m4) fun v6 m7 =>
    bd (sI m7 50 (m4.R x 16) ((6 : Int32) + l1) v6) fun m8 =>
    some (.inl ((l1 + (1 : Int32)), m8))
    )
noncomputable def b_X0_begin_0 (x : Nat) (m : MM) : Option (((Int32 × MM)) ⊕ (Unit × MM)) :=
  some (.inl ((0 : Int32), m))
noncomputable def s_X0_begin (x : Nat) : ((Int32 × MM)) → Option (((Int32 × MM)) ⊕ (Unit × MM)) := fun z => match z with
  | (l1, m) => b_X0_begin_2 x l1 m
noncomputable def f_X0_begin (x : Nat) (m : MM) : Option (Unit × MM) := bd (b_X0_begin_0 x m) (rx_go (s_X0_begin x))
noncomputable def b_X1_init_0 (x : Nat) (m : MM) : Option (Unit × MM) :=
  bd (nO m 9 3) fun m1 =>
  bd (isK m1 (some m.n) 9) fun a2 =>
  bd2 (f_J2_init a2 (2 : Int32) m1) fun _ m3 =>
  bd (pR m3 (some x) 2 0 (some m.n)) fun m4 =>
  bd (nO m4 9 3) fun m5 =>
  bd (isK m5 (some m4.n) 9) fun a6 =>
  bd2 (f_J2_init a6 (2 : Int32) m5) fun _ m7 =>
  bd (pR m7 (some x) 2 1 (some m4.n)) fun m8 =>
  bd (nA m8 50 (24 : Int32)) fun m9 =>
  bd (pR m9 (some x) 2 2 (some m8.n)) fun m10 =>
  bd (nA m10 50 (192 : Int32)) fun m11 =>
  bd (pR m11 (some x) 2 3 (some m10.n)) fun m12 =>
  bd (nA m12 50 (6 : Int32)) fun m13 =>
  bd (pR m13 (some x) 2 4 (some m12.n)) fun m14 =>
  bd (nA m14 52 (64 : Int32)) fun m15 =>
  bd (pR m15 (some x) 2 5 (some m14.n)) fun m16 =>
  some ((), m16)
noncomputable def f_X1_init (x : Nat) (m : MM) : Option (Unit × MM) := b_X1_init_0 x m
noncomputable def b_X0_init_208 (x : Nat) (l1 : Int32) (m : MM) : Option (((Int32 × MM)) ⊕ (Unit × MM)) :=
  if (6 : Int32) ≤ l1 then (
    some (.inr ((), m))
    ) else (
    bd (sI m 50 (m.R x 29) l1 (-1 : Int32)) fun m1 =>
    some (.inl ((l1 + (1 : Int32)), m1))
    )
noncomputable def b_X0_init_0 (x : Nat) (m : MM) : Option (((Int32 × MM)) ⊕ (Unit × MM)) :=
  bd (nA m 50 (6 : Int32)) fun m1 =>
  bd (pR m1 (some x) 1 0 (some m.n)) fun m2 =>
  bd (nA m2 53 (392 : Int32)) fun m3 =>
  bd (pR m3 (some x) 1 1 (some m2.n)) fun m4 =>
  bd (nA m4 50 (3000 : Int32)) fun m5 =>
  bd (pR m5 (some x) 1 2 (some m4.n)) fun m6 =>
  bd (nA m6 50 (3000 : Int32)) fun m7 =>
  bd (pR m7 (some x) 1 3 (some m6.n)) fun m8 =>
  bd (nA m8 50 (3000 : Int32)) fun m9 =>
  bd (pR m9 (some x) 1 4 (some m8.n)) fun m10 =>
  bd (nA m10 50 (3000 : Int32)) fun m11 =>
  bd (pR m11 (some x) 1 5 (some m10.n)) fun m12 =>
  bd (nA m12 50 (3000 : Int32)) fun m13 =>
  bd (pR m13 (some x) 1 6 (some m12.n)) fun m14 =>
  bd (nA m14 50 (6 : Int32)) fun m15 =>
  bd (pR m15 (some x) 1 9 (some m14.n)) fun m16 =>
  bd (nA m16 51 (1600 : Int32)) fun m17 =>
  bd (pR m17 (some x) 1 10 (some m16.n)) fun m18 =>
  bd (pI m18 (some x) 1 13 50 (-1 : Int32)) fun m19 =>
  bd (nO m19 2 10) fun m20 =>
  bd (isK m20 (some m19.n) 2) fun a21 =>
  bd2 (f_X1_init a21 m20) fun _ m22 =>
  bd (pR m22 (some x) 1 14 (some m19.n)) fun m23 =>
  bd (nA m23 50 (13 : Int32)) fun m24 =>
  bd (pR m24 (some x) 1 16 (some m23.n)) fun m25 =>
  bd (nM m25 (40 : Int32) (13 : Int32)) fun m26 =>
  bd (pR m26 (some x) 1 17 (some m25.n)) fun m27 =>
  bd (nA m27 50 (6 : Int32)) fun m28 =>
  bd (pR m28 (some x) 1 20 (some m27.n)) fun m29 =>
  bd (nA m29 50 (6 : Int32)) fun m30 =>
  bd (pR m30 (some x) 1 21 (some m29.n)) fun m31 =>
  bd (nA m31 50 (6 : Int32)) fun m32 =>
  bd (pR m32 (some x) 1 22 (some m31.n)) fun m33 =>
  bd (pI m33 (some x) 1 24 50 (-1 : Int32)) fun m34 =>
  bd (nA m34 50 (8 : Int32)) fun m35 =>
  bd (pR m35 (some x) 1 28 (some m34.n)) fun m36 =>
  bd (nA m36 50 (6 : Int32)) fun m37 =>
  bd (pR m37 (some x) 1 29 (some m36.n)) fun m38 =>
  bd (nA m38 50 (6 : Int32)) fun m39 =>
  bd (pR m39 (some x) 1 30 (some m38.n)) fun m40 =>
  bd (nO m40 9 3) fun m41 =>
  bd (isK m41 (some m40.n) 9) fun a42 =>
  bd2 (f_J2_init a42 (2 : Int32) m41) fun _ m43 =>
  bd (pR m43 (some x) 1 31 (some m40.n)) fun m44 =>
  bd (nM m44 (3 : Int32) (13 : Int32)) fun m45 =>
  bd (pR m45 (some x) 1 32 (some m44.n)) fun m46 =>
  bd (nA m46 52 (3 : Int32)) fun m47 =>
  bd (pR m47 (some x) 1 33 (some m46.n)) fun m48 =>
  bd2 (f_X0_begin x m48) fun _ m49 =>
  some (.inl ((0 : Int32), m49))
noncomputable def s_X0_init (x : Nat) : ((Int32 × MM)) → Option (((Int32 × MM)) ⊕ (Unit × MM)) := fun z => match z with
  | (l1, m) => b_X0_init_208 x l1 m
noncomputable def f_X0_init (x : Nat) (m : MM) : Option (Unit × MM) := bd (b_X0_init_0 x m) (rx_go (s_X0_init x))
noncomputable def b_X0_feed_72 (x : Nat) (l1 : Int32) (l2 : Int32) (l3 : Int32) (l4 : Int32) (l5 : Int32) (l7 : Option Nat) (l8 : Int32) (l9 : Int32) (l10 : Int32) (l11 : Int32) (m : MM) : Option (((Option Nat × Int32 × Int32 × MM) ⊕ (Option Nat × Int32 × Int32 × Int32 × Int32 × MM)) ⊕ (Int32 × MM)) :=
  if l11 < 0 then (
    some (.inl (.inl (l7, l8, (l9 + (1 : Int32)), m)))
    ) else (
    bd (sI m 51 (m.R x 10) (m.I x 11) (jb_byte (ji_shr l10 l11))) fun m1 =>
    bd (pI m1 (some x) 1 11 50 ((m1.I x 11) + (1 : Int32))) fun m2 =>
    some (.inl (.inr (l7, l8, l9, l10, (l11 + (-8 : Int32)), m2)))
    )
noncomputable def b_X0_feed_54 (x : Nat) (l1 : Int32) (l2 : Int32) (l3 : Int32) (l4 : Int32) (l5 : Int32) (l7 : Option Nat) (l8 : Int32) (l9 : Int32) (m : MM) : Option (((Option Nat × Int32 × Int32 × MM) ⊕ (Option Nat × Int32 × Int32 × Int32 × Int32 × MM)) ⊕ (Int32 × MM)) :=
  if l8 ≤ l9 then (
    some (.inr ((m.I x 11), m))
    ) else (
    bd (aI m 50 l7 l9) fun v1 =>
    some (.inl (.inr (l7, l8, l9, v1, (24 : Int32), m)))
    )
noncomputable def b_X0_feed_0 (x : Nat) (l1 : Int32) (l2 : Int32) (l3 : Int32) (l4 : Int32) (l5 : Int32) (m : MM) : Option (((Option Nat × Int32 × Int32 × MM) ⊕ (Option Nat × Int32 × Int32 × Int32 × Int32 × MM)) ⊕ (Int32 × MM)) :=
  if ((m.I x 11) + (20 : Int32)) ≤ (1600 : Int32) then (
    bd (nA m 50 (5 : Int32)) fun m1 =>
    bd (sI m1 50 (some m.n) (0 : Int32) l1) fun m2 =>
    bd (sI m2 50 (some m.n) (1 : Int32) l2) fun m3 =>
    bd (sI m3 50 (some m.n) (2 : Int32) l3) fun m4 =>
    bd (sI m4 50 (some m.n) (3 : Int32) l4) fun m5 =>
    bd (sI m5 50 (some m.n) (4 : Int32) l5) fun m6 =>
    bd (aN m6 50 (some m.n)) fun v7 =>
    some (.inl (.inl ((some m.n), v7, (0 : Int32), m6)))
    ) else (
    some (.inr ((-1 : Int32), m))
    )
noncomputable def s_X0_feed (x : Nat) (l1 : Int32) (l2 : Int32) (l3 : Int32) (l4 : Int32) (l5 : Int32) : ((Option Nat × Int32 × Int32 × MM) ⊕ (Option Nat × Int32 × Int32 × Int32 × Int32 × MM)) → Option (((Option Nat × Int32 × Int32 × MM) ⊕ (Option Nat × Int32 × Int32 × Int32 × Int32 × MM)) ⊕ (Int32 × MM)) := fun z => match z with
  | (.inl (l7, l8, l9, m)) => b_X0_feed_54 x l1 l2 l3 l4 l5 l7 l8 l9 m
  | (.inr (l7, l8, l9, l10, l11, m)) => b_X0_feed_72 x l1 l2 l3 l4 l5 l7 l8 l9 l10 l11 m
noncomputable def f_X0_feed (x : Nat) (l1 : Int32) (l2 : Int32) (l3 : Int32) (l4 : Int32) (l5 : Int32) (m : MM) : Option (Int32 × MM) := bd (b_X0_feed_0 x l1 l2 l3 l4 l5 m) (rx_go (s_X0_feed x l1 l2 l3 l4 l5))
noncomputable def b_X0_end_0 (x : Nat) (l1 : Int32) (m : MM) : Option (Int32 × MM) :=
  if l1 < 0 then (
    some ((-1 : Int32), m)
    ) else (
    if l1 ≤ (m.I x 11) then (
      bd (pI m (some x) 1 11 50 l1) fun m1 =>
      some (l1, m1)
      ) else (
      some ((-1 : Int32), m)
      )
    )
noncomputable def f_X0_end (x : Nat) (l1 : Int32) (m : MM) : Option (Int32 × MM) := b_X0_end_0 x l1 m
noncomputable def b_J2_clear_27 (x : Nat) (l1 : Option Nat) (l2 : Int32) (l3 : Int32) (m : MM) : Option (((Option Nat × Int32 × Int32 × MM)) ⊕ (Unit × MM)) :=
  if l2 ≤ l3 then (
    some (.inr ((), m))
    ) else (
    bd (sR m 54 l1 l3 none) fun m1 =>
    some (.inl (l1, l2, (l3 + (1 : Int32)), m1))
    )
noncomputable def b_J2_clear_0 (x : Nat) (m : MM) : Option (((Option Nat × Int32 × Int32 × MM)) ⊕ (Unit × MM)) :=
  bd (pI m (some x) 9 0 50 ((m.I x 0) + (1 : Int32))) fun m1 =>
  bd (pI m1 (some x) 9 2 50 (0 : Int32)) fun m2 =>
  some (.inl ((m1.R x 1), (m1.I x 2), (0 : Int32), m2))
noncomputable def s_J2_clear (x : Nat) : ((Option Nat × Int32 × Int32 × MM)) → Option (((Option Nat × Int32 × Int32 × MM)) ⊕ (Unit × MM)) := fun z => match z with
  | (l1, l2, l3, m) => b_J2_clear_27 x l1 l2 l3 m
noncomputable def f_J2_clear (x : Nat) (m : MM) : Option (Unit × MM) := bd (b_J2_clear_0 x m) (rx_go (s_J2_clear x))
noncomputable def b_J2_size_0 (x : Nat) (m : MM) : Option (Int32 × MM) :=
  some ((m.I x 2), m)
noncomputable def f_J2_size (x : Nat) (m : MM) : Option (Int32 × MM) := b_J2_size_0 x m
noncomputable def b_X3_init_0 (x : Nat) (l1 : Option Nat) (m : MM) : Option (Unit × MM) :=
  bd (pR m (some x) 4 6 l1) fun m1 =>
  bd (pR m1 (some x) 4 4 (m1.c 7)) fun m2 =>
  bd (nO m2 2 10) fun m3 =>
  bd (isK m3 (some m2.n) 2) fun a4 =>
  bd2 (f_X1_init a4 m3) fun _ m5 =>
  bd (pR m5 (some x) 4 5 (some m2.n)) fun m6 =>
  some ((), m6)
noncomputable def f_X3_init (x : Nat) (l1 : Option Nat) (m : MM) : Option (Unit × MM) := b_X3_init_0 x l1 m
noncomputable def b_J11_checkIndex_0 (l0 : Int32) (l1 : Int32) (l2 : Option Nat) (m : MM) : Option (Int32 × MM) :=
  if l0 < 0 then (
    none
    ) else (
    if l0 < l1 then (
      none
      ) else (
      none
      )
    )
noncomputable def f_J11_checkIndex (l0 : Int32) (l1 : Int32) (l2 : Option Nat) (m : MM) : Option (Int32 × MM) := b_J11_checkIndex_0 l0 l1 l2 m
noncomputable def b_J14_checkIndex_0 (l0 : Int32) (l1 : Int32) (m : MM) : Option (Int32 × MM) :=
  bd2 (f_J11_checkIndex l0 l1 none m) fun v1 m2 =>
  some (v1, m2)
noncomputable def f_J14_checkIndex (l0 : Int32) (l1 : Int32) (m : MM) : Option (Int32 × MM) := b_J14_checkIndex_0 l0 l1 m
noncomputable def b_J2_elementData_0 (x : Nat) (l1 : Int32) (m : MM) : Option (Option Nat × MM) :=
  bd (aR m 54 (m.R x 1) l1) fun v1 =>
  some (v1, m)
noncomputable def f_J2_elementData (x : Nat) (l1 : Int32) (m : MM) : Option (Option Nat × MM) := b_J2_elementData_0 x l1 m
noncomputable def b_J2_get_0 (x : Nat) (l1 : Int32) (m : MM) : Option (Option Nat × MM) :=
  bd2 (f_J14_checkIndex l1 (m.I x 2) m) fun v1 m2 =>
  bd2 (f_J2_elementData x l1 m2) fun v3 m4 =>
  some (v3, m4)
noncomputable def f_J2_get (x : Nat) (l1 : Int32) (m : MM) : Option (Option Nat × MM) := b_J2_get_0 x l1 m
noncomputable def b_J10_equals_9 (l0 : Option Nat) (l1 : Option Nat) (l2 : Int32) (m : MM) : Option (((Int32 × MM)) ⊕ (Int32 × MM)) :=
  bd (aN m 51 l0) fun v1 =>
  if v1 ≤ l2 then (
    some (.inr ((1 : Int32), m))
    ) else (
    bd (aI m 51 l0 l2) fun v2 =>
    bd (aI m 51 l1 l2) fun v3 =>
    if v2 = v3 then (
      some (.inl ((l2 + (1 : Int32)), m))
      ) else (
      some (.inr ((0 : Int32), m))
      )
    )
noncomputable def b_J10_equals_0 (l0 : Option Nat) (l1 : Option Nat) (m : MM) : Option (((Int32 × MM)) ⊕ (Int32 × MM)) :=
  bd (aN m 51 l0) fun v1 =>
  bd (aN m 51 l1) fun v2 =>
  if v1 = v2 then (
    some (.inl ((0 : Int32), m))
    ) else (
    some (.inr ((0 : Int32), m))
    )
noncomputable def s_J10_equals (l0 : Option Nat) (l1 : Option Nat) : ((Int32 × MM)) → Option (((Int32 × MM)) ⊕ (Int32 × MM)) := fun z => match z with
  | (l2, m) => b_J10_equals_9 l0 l1 l2 m
noncomputable def f_J10_equals (l0 : Option Nat) (l1 : Option Nat) (m : MM) : Option (Int32 × MM) := bd (b_J10_equals_0 l0 l1 m) (rx_go (s_J10_equals l0 l1))
noncomputable def b_J5_equals_36 (x : Nat) (l1 : Option Nat) (l2 : Option Nat) (m : MM) : Option (Int32 × MM) :=
  bd (gR m l2 11 0) fun v1 =>
  bd2 (f_J10_equals (m.R x 0) v1 m) fun v2 m3 =>
  if v2 = 0 then (
    some ((0 : Int32), m3)
    ) else (
    some ((1 : Int32), m3)
    )
noncomputable def b_J5_equals_0 (x : Nat) (l1 : Option Nat) (m : MM) : Option (Int32 × MM) :=
  if x = l1 then (
    some ((1 : Int32), m)
    ) else (
    bd (isK m l1 11) fun v1 =>
    if (1 : Int32) = 0 then (
      some ((0 : Int32), m)
      ) else (
      if okC m 11 l1 = true then (
        if (1 : Int32) = 0 then (
          b_J5_equals_36 x l1 l1 m
          ) else (
          bd (gI m l1 11 1) fun v2 =>
          if (m.I x 1) = v2 then (
            b_J5_equals_36 x l1 l1 m
            ) else (
            some ((0 : Int32), m)
            )
          )
        ) else none
      )
    )
noncomputable def f_J5_equals (x : Nat) (l1 : Option Nat) (m : MM) : Option (Int32 × MM) := b_J5_equals_0 x l1 m
noncomputable def b_X1_rule_4 (x : Nat) (l1 : Option Nat) (l2 : Int32) (l3 : Int32) (m : MM) : Option (((Int32 × Int32 × MM)) ⊕ (Int32 × MM)) :=
  bd (isK m (m.R x 1) 9) fun a1 =>
  bd2 (f_J2_size a1 m) fun v2 m3 =>
  if v2 ≤ l3 then (
    some (.inr (l2, m3))
    ) else (
    bd (isK m3 (m3.R x 1) 9) fun a4 =>
    bd2 (f_J2_get a4 l3 m3) fun v5 m6 =>
    if okC m6 6 v5 = true then (
      bd (gR m6 v5 6 0) fun v7 =>
      bd (isK m6 v7 11) fun a8 =>
      bd2 (f_J5_equals a8 l1 m6) fun v9 m10 =>
      if v9 = 0 then (
        some (.inl (l2, (l3 + (1 : Int32)), m10))
        ) else (
        some (.inl (l3, (l3 + (1 : Int32)), m10))
        )
      ) else none
    )
noncomputable def b_X1_rule_0 (x : Nat) (l1 : Option Nat) (m : MM) : Option (((Int32 × Int32 × MM)) ⊕ (Int32 × MM)) :=
  some (.inl ((-1 : Int32), (0 : Int32), m))
noncomputable def s_X1_rule (x : Nat) (l1 : Option Nat) : ((Int32 × Int32 × MM)) → Option (((Int32 × Int32 × MM)) ⊕ (Int32 × MM)) := fun z => match z with
  | (l2, l3, m) => b_X1_rule_4 x l1 l2 l3 m
noncomputable def f_X1_rule (x : Nat) (l1 : Option Nat) (m : MM) : Option (Int32 × MM) := bd (b_X1_rule_0 x l1 m) (rx_go (s_X1_rule x l1))
noncomputable def b_X1_word_4 (x : Nat) (l1 : Option Nat) (l2 : Int32) (l3 : Int32) (m : MM) : Option (((Int32 × Int32 × MM)) ⊕ (Int32 × MM)) :=
  bd (isK m (m.R x 0) 9) fun a1 =>
  bd2 (f_J2_size a1 m) fun v2 m3 =>
  if v2 ≤ l3 then (
    some (.inr (l2, m3))
    ) else (
    bd (isK m3 (m3.R x 0) 9) fun a4 =>
    bd2 (f_J2_get a4 l3 m3) fun v5 m6 =>
    if okC m6 11 v5 = true then (
      bd (isK m6 v5 11) fun a7 =>
      bd2 (f_J5_equals a7 l1 m6) fun v8 m9 =>
      if v8 = 0 then (
        some (.inl (l2, (l3 + (1 : Int32)), m9))
        ) else (
        some (.inl (l3, (l3 + (1 : Int32)), m9))
        )
      ) else none
    )
noncomputable def b_X1_word_0 (x : Nat) (l1 : Option Nat) (m : MM) : Option (((Int32 × Int32 × MM)) ⊕ (Int32 × MM)) :=
  some (.inl ((-1 : Int32), (0 : Int32), m))
noncomputable def s_X1_word (x : Nat) (l1 : Option Nat) : ((Int32 × Int32 × MM)) → Option (((Int32 × Int32 × MM)) ⊕ (Int32 × MM)) := fun z => match z with
  | (l2, l3, m) => b_X1_word_4 x l1 l2 l3 m
noncomputable def f_X1_word (x : Nat) (l1 : Option Nat) (m : MM) : Option (Int32 × MM) := bd (b_X1_word_0 x l1 m) (rx_go (s_X1_word x l1))
noncomputable def b_J12_init_2_0 (x : Nat) (l1 : Option Nat) (l2 : Option Nat) (l3 : Int32) (l4 : Int32) (m : MM) : Option (Unit × MM) :=
  bd (pR m (some x) 5 0 (some x)) fun m1 =>
  bd (pR m1 (some x) 5 1 (m1.c 8)) fun m2 =>
  bd (pR m2 (some x) 5 2 (m2.c 9)) fun m3 =>
  if l4 = 0 then (
    bd (pR m3 (some x) 5 1 none) fun m4 =>
    bd (pR m4 (some x) 5 3 l1) fun m5 =>
    bd (pR m5 (some x) 5 0 l2) fun m6 =>
    if l3 = 0 then (
      bd (pR m6 (some x) 5 2 none) fun m7 =>
      some ((), m7)
      ) else (
      some ((), m6)
      )
    ) else (
    none
    )
noncomputable def f_J12_init_2 (x : Nat) (l1 : Option Nat) (l2 : Option Nat) (l3 : Int32) (l4 : Int32) (m : MM) : Option (Unit × MM) := b_J12_init_2_0 x l1 l2 l3 l4 m
noncomputable def b_J13_init_0 (x : Nat) (l1 : Option Nat) (l2 : Option Nat) (l3 : Int32) (l4 : Int32) (m : MM) : Option (Unit × MM) :=
  bd2 (f_J12_init_2 x l1 l2 l3 l4 m) fun _ m1 =>
  some ((), m1)
noncomputable def f_J13_init (x : Nat) (l1 : Option Nat) (l2 : Option Nat) (l3 : Int32) (l4 : Int32) (m : MM) : Option (Unit × MM) := b_J13_init_0 x l1 l2 l3 l4 m
noncomputable def b_X4_init_0 (x : Nat) (l1 : Int32) (l2 : Int32) (m : MM) : Option (Unit × MM) :=
  bd2 (f_J13_init x none none (0 : Int32) (0 : Int32) m) fun _ m1 =>
  bd (pI m1 (some x) 5 6 50 l1) fun m2 =>
  bd (pI m2 (some x) 5 7 50 l2) fun m3 =>
  some ((), m3)
noncomputable def f_X4_init (x : Nat) (l1 : Int32) (l2 : Int32) (m : MM) : Option (Unit × MM) := b_X4_init_0 x l1 l2 m
noncomputable def b_X3_part_39 (x : Nat) (l1 : Option Nat) (l2 : Int32) (l3 : Int32) (l4 : Int32) (m : MM) : Option ((Int32 ⊕ Nat) × MM) :=
  if l3 < 0 then (
    some (.inl ((8 : Int32) + l4), m)
    ) else (
    some (.inl l3, m)
    )
noncomputable def b_X3_part_0 (x : Nat) (l1 : Option Nat) (l2 : Int32) (m : MM) : Option ((Int32 ⊕ Nat) × MM) :=
  bd (isK m (m.R x 5) 2) fun a1 =>
  bd2 (f_X1_word a1 l1 m) fun v2 m3 =>
  bd (isK m3 (m3.R x 5) 2) fun a4 =>
  bd2 (f_X1_rule a4 l1 m3) fun v5 m6 =>
  if 0 ≤ v2 then (
    b_X3_part_39 x l1 l2 v2 v5 m6
    ) else (
    if 0 ≤ v5 then (
      b_X3_part_39 x l1 l2 v2 v5 m6
      ) else (
      bd (nO m6 5 8) fun m7 =>
      bd (isK m7 (some m6.n) 5) fun a8 =>
      bd2 (f_X4_init a8 (6 : Int32) l2 m7) fun _ m9 =>
      bd (some m6.n) fun q10 =>
      some (.inr q10, m9)
      )
    )
noncomputable def f_X3_part (x : Nat) (l1 : Option Nat) (l2 : Int32) (m : MM) : Option ((Int32 ⊕ Nat) × MM) := b_X3_part_0 x l1 l2 m
noncomputable def b_X3_bind_59 (x : Nat) (l1 : Int32) (l2 : Option Nat) (l3 : Int32) (l4 : Option Nat) (l5 : Int32) (m : MM) : Option (((Option Nat × Int32 × MM) ⊕ (Option Nat × Int32 × Option Nat × Int32 × MM)) ⊕ ((Unit ⊕ Nat) × MM)) :=
  bd (gR m l4 7 2) fun v1 =>
  bd (aN m 50 v1) fun v2 =>
  if v2 ≤ l5 then (
    bd (gR m l4 7 2) fun v3 =>
    bd (aN m 50 v3) fun v4 =>
    if v4 = (1 : Int32) then (
      bd (gR m l4 7 2) fun v5 =>
      bd (aI m 50 v5 (0 : Int32)) fun v6 =>
      if v6 < (8 : Int32) then (
        some (.inl (.inl (l2, (l3 + (1 : Int32)), m)))
        ) else (
        bd (gR m l4 7 2) fun v7 =>
        bd (aI m 50 v7 (0 : Int32)) fun v8 =>
        if l1 < (v8 - (8 : Int32)) then (
          some (.inl (.inl (l2, (l3 + (1 : Int32)), m)))
          ) else (
          bd (nO m 5 8) fun m9 =>
          bd (gR m9 l4 7 1) fun v10 =>
          bd (aI m9 50 v10 (0 : Int32)) fun v11 =>
          bd (isK m9 (some m.n) 5) fun a12 =>
          bd2 (f_X4_init a12 (7 : Int32) v11 m9) fun _ m13 =>
          bd (some m.n) fun q14 =>
          some (.inr (.inr q14, m13))
          )
        )
      ) else (
      some (.inl (.inl (l2, (l3 + (1 : Int32)), m)))
      )
    ) else (
    bd (gR m l4 7 2) fun v15 =>
    bd (gR m l4 7 0) fun v16 =>
    bd (isK m v16 9) fun a17 =>
    bd2 (f_J2_get a17 l5 m) fun v18 m19 =>
    if okC m19 11 v18 = true then (
      bd (gR m19 l4 7 1) fun v20 =>
      bd (aI m19 50 v20 l5) fun v21 =>
      bdxl (f_X3_part x v18 v21 m19) fun v22 m23 =>
      bd (sI m23 50 v15 l5 v22) fun m24 =>
      some (.inl (.inr (l2, l3, l4, (l5 + (1 : Int32)), m24)))
      ) else none
    )
noncomputable def b_X3_bind_17 (x : Nat) (l1 : Int32) (l2 : Option Nat) (l3 : Int32) (m : MM) : Option (((Option Nat × Int32 × MM) ⊕ (Option Nat × Int32 × Option Nat × Int32 × MM)) ⊕ ((Unit ⊕ Nat) × MM)) :=
  bd (gR m l2 6 1) fun v1 =>
  bd (isK m v1 9) fun a2 =>
  bd2 (f_J2_size a2 m) fun v3 m4 =>
  if v3 ≤ l3 then (
    some (.inr (.inl (), m4))
    ) else (
    bd (gR m4 l2 6 1) fun v5 =>
    bd (isK m4 v5 9) fun a6 =>
    bd2 (f_J2_get a6 l3 m4) fun v7 m8 =>
    if okC m8 7 v7 = true then (
      bd (gR m8 v7 7 0) fun v9 =>
      bd (isK m8 v9 9) fun a10 =>
      bd2 (f_J2_size a10 m8) fun v11 m12 =>
      bd (nA m12 50 v11) fun m13 =>
      bd (pR m13 v7 7 2 (some m12.n)) fun m14 =>
      some (.inl (.inr (l2, l3, v7, (0 : Int32), m14)))
      ) else none
    )
noncomputable def b_X3_bind_0 (x : Nat) (l1 : Int32) (m : MM) : Option (((Option Nat × Int32 × MM) ⊕ (Option Nat × Int32 × Option Nat × Int32 × MM)) ⊕ ((Unit ⊕ Nat) × MM)) :=
  bd (gR m (m.R x 5) 2 1) fun v1 =>
  bd (isK m v1 9) fun a2 =>
  bd2 (f_J2_get a2 l1 m) fun v3 m4 =>
  if okC m4 6 v3 = true then (
    some (.inl (.inl (v3, (0 : Int32), m4)))
    ) else none
noncomputable def s_X3_bind (x : Nat) (l1 : Int32) : ((Option Nat × Int32 × MM) ⊕ (Option Nat × Int32 × Option Nat × Int32 × MM)) → Option (((Option Nat × Int32 × MM) ⊕ (Option Nat × Int32 × Option Nat × Int32 × MM)) ⊕ ((Unit ⊕ Nat) × MM)) := fun z => match z with
  | (.inl (l2, l3, m)) => b_X3_bind_17 x l1 l2 l3 m
  | (.inr (l2, l3, l4, l5, m)) => b_X3_bind_59 x l1 l2 l3 l4 l5 m
noncomputable def f_X3_bind (x : Nat) (l1 : Int32) (m : MM) : Option ((Unit ⊕ Nat) × MM) := bd (b_X3_bind_0 x l1 m) (rx_go (s_X3_bind x l1))
noncomputable def b_J10_canEncode_0 (l0 : Int32) (m : MM) : Option (Int32 × MM) :=
  if (255 : Int32) < l0 then (
    some ((0 : Int32), m)
    ) else (
    some ((1 : Int32), m)
    )
noncomputable def f_J10_canEncode (l0 : Int32) (m : MM) : Option (Int32 × MM) := b_J10_canEncode_0 l0 m
noncomputable def b_J3_ensureCapacityInternal_0 (x : Nat) (l1 : Int32) (m : MM) : Option (Unit × MM) :=
  bd (aN m 51 (m.R x 0)) fun v1 =>
  if (l1 - (ji_shr v1 (m.I x 1))) ≤ 0 then (
    some ((), m)
    ) else (
    none
    )
noncomputable def f_J3_ensureCapacityInternal (x : Nat) (l1 : Int32) (m : MM) : Option (Unit × MM) := b_J3_ensureCapacityInternal_0 x l1 m
noncomputable def b_J3_isLatin1_0 (x : Nat) (m : MM) : Option (Int32 × MM) :=
  if (1 : Int32) = 0 then (
    some ((0 : Int32), m)
    ) else (
    if (m.I x 1) = 0 then (
      some ((1 : Int32), m)
      ) else (
      some ((0 : Int32), m)
      )
    )
noncomputable def f_J3_isLatin1 (x : Nat) (m : MM) : Option (Int32 × MM) := b_J3_isLatin1_0 x m
noncomputable def b_J3_append_0 (x : Nat) (l1 : Int32) (m : MM) : Option (Option Nat × MM) :=
  bd2 (f_J3_ensureCapacityInternal x ((m.I x 3) + (1 : Int32)) m) fun _ m1 =>
  bd2 (f_J3_isLatin1 x m1) fun v2 m3 =>
  if v2 = 0 then (
    none
    ) else (
    bd2 (f_J10_canEncode l1 m3) fun v4 m5 =>
    if v4 = 0 then (
      none
      ) else (
      bd (pI m5 (some x) 10 3 50 ((m5.I x 3) + (1 : Int32))) fun m6 =>
      bd (sI m6 51 (m5.R x 0) (m5.I x 3) (jb_byte l1)) fun m7 =>
      some ((some x), m7)
      )
    )
noncomputable def f_J3_append (x : Nat) (l1 : Int32) (m : MM) : Option (Option Nat × MM) := b_J3_append_0 x l1 m
noncomputable def b_J4_append_0 (x : Nat) (l1 : Int32) (m : MM) : Option (Option Nat × MM) :=
  bd2 (f_J3_append x l1 m) fun v1 m2 =>
  some ((some x), m2)
noncomputable def f_J4_append (x : Nat) (l1 : Int32) (m : MM) : Option (Option Nat × MM) := b_J4_append_0 x l1 m
noncomputable def b_J3_init_0 (x : Nat) (l1 : Int32) (m : MM) : Option (Unit × MM) :=
  if (1 : Int32) = 0 then (
    none
    ) else (
    bd (nA m 51 l1) fun m1 =>
    bd (pR m1 (some x) 10 0 (some m.n)) fun m2 =>
    bd (pI m2 (some x) 10 1 51 (0 : Int32)) fun m3 =>
    some ((), m3)
    )
noncomputable def f_J3_init (x : Nat) (l1 : Int32) (m : MM) : Option (Unit × MM) := b_J3_init_0 x l1 m
noncomputable def b_J4_init_0 (x : Nat) (l1 : Int32) (m : MM) : Option (Unit × MM) :=
  bd2 (f_J3_init x l1 m) fun _ m1 =>
  some ((), m1)
noncomputable def f_J4_init (x : Nat) (l1 : Int32) (m : MM) : Option (Unit × MM) := b_J4_init_0 x l1 m
noncomputable def b_J3_getValue_0 (x : Nat) (m : MM) : Option (Option Nat × MM) :=
  some ((m.R x 0), m)
noncomputable def f_J3_getValue (x : Nat) (m : MM) : Option (Option Nat × MM) := b_J3_getValue_0 x m
noncomputable def b_J3_length_0 (x : Nat) (m : MM) : Option (Int32 × MM) :=
  some ((m.I x 3), m)
noncomputable def f_J3_length (x : Nat) (m : MM) : Option (Int32 × MM) := b_J3_length_0 x m
noncomputable def b_J4_length_0 (x : Nat) (m : MM) : Option (Int32 × MM) :=
  bd2 (f_J3_length x m) fun v1 m2 =>
  some (v1, m2)
noncomputable def f_J4_length (x : Nat) (m : MM) : Option (Int32 × MM) := b_J4_length_0 x m
noncomputable def b_J9_checkLength_0 (l0 : Int32) (l1 : Int32) (m : MM) : Option (Unit × MM) :=
  if l0 ≤ l1 then (
    some ((), m)
    ) else (
    none
    )
noncomputable def f_J9_checkLength (l0 : Int32) (l1 : Int32) (m : MM) : Option (Unit × MM) := b_J9_checkLength_0 l0 l1 m
noncomputable def b_J9_copyOfRangeByte_0 (l0 : Option Nat) (l1 : Int32) (l2 : Int32) (m : MM) : Option (Option Nat × MM) :=
  bd2 (f_J9_checkLength l1 l2 m) fun _ m1 =>
  bd (nA m1 51 (l2 - l1)) fun m2 =>
  bd (aN m2 51 l0) fun v3 =>
  bd (cI m2 51 l0 l1 (some m1.n) (0 : Int32) (ji_min (v3 - l1) (l2 - l1))) fun m4 =>
  some ((some m1.n), m4)
noncomputable def f_J9_copyOfRangeByte (l0 : Option Nat) (l1 : Int32) (l2 : Int32) (m : MM) : Option (Option Nat × MM) := b_J9_copyOfRangeByte_0 l0 l1 l2 m
noncomputable def b_J9_copyOfRange_10 (l0 : Option Nat) (l1 : Int32) (l2 : Int32) (m : MM) : Option (Option Nat × MM) :=
  bd2 (f_J9_copyOfRangeByte l0 l1 l2 m) fun v1 m2 =>
  some (v1, m2)
noncomputable def b_J9_copyOfRange_0 (l0 : Option Nat) (l1 : Int32) (l2 : Int32) (m : MM) : Option (Option Nat × MM) :=
  if l1 = 0 then (
    bd (aN m 51 l0) fun v1 =>
    if l2 = v1 then (
      bd (clB m l0) fun m2 =>
      if okZ m2 51 (some m.n) = true then (
        some ((some m.n), m2)
        ) else none
      ) else (
      b_J9_copyOfRange_10 l0 l1 l2 m
      )
    ) else (
    b_J9_copyOfRange_10 l0 l1 l2 m
    )
noncomputable def f_J9_copyOfRange (l0 : Option Nat) (l1 : Int32) (l2 : Int32) (m : MM) : Option (Option Nat × MM) := b_J9_copyOfRange_0 l0 l1 l2 m
noncomputable def b_J5_init_2_0 (x : Nat) (l1 : Option Nat) (l2 : Option Nat) (m : MM) : Option (Unit × MM) :=
  bd (isK m l1 10) fun a1 =>
  bd2 (f_J3_getValue a1 m) fun v2 m3 =>
  bd (isK m3 l1 10) fun a4 =>
  bd2 (f_J4_length a4 m3) fun v5 m6 =>
  bd (isK m6 l1 10) fun a7 =>
  bd2 (f_J3_isLatin1 a7 m6) fun v8 m9 =>
  if v8 = 0 then (
    none
    ) else (
    bd (pI m9 (some x) 11 1 51 (0 : Int32)) fun m10 =>
    bd2 (f_J9_copyOfRange v2 (0 : Int32) v5 m10) fun v11 m12 =>
    bd (pR m12 (some x) 11 0 v11) fun m13 =>
    some ((), m13)
    )
noncomputable def f_J5_init_2 (x : Nat) (l1 : Option Nat) (l2 : Option Nat) (m : MM) : Option (Unit × MM) := b_J5_init_2_0 x l1 l2 m
noncomputable def b_J5_init_0 (x : Nat) (l1 : Option Nat) (m : MM) : Option (Unit × MM) :=
  bd2 (f_J5_init_2 x l1 none m) fun _ m1 =>
  some ((), m1)
noncomputable def f_J5_init (x : Nat) (l1 : Option Nat) (m : MM) : Option (Unit × MM) := b_J5_init_0 x l1 m
noncomputable def b_J4_toString_0 (x : Nat) (m : MM) : Option (Option Nat × MM) :=
  bd (nO m 11 4) fun m1 =>
  bd (isK m1 (some m.n) 11) fun a2 =>
  bd2 (f_J5_init a2 (some x) m1) fun _ m3 =>
  some ((some m.n), m3)
noncomputable def f_J4_toString (x : Nat) (m : MM) : Option (Option Nat × MM) := b_J4_toString_0 x m
noncomputable def b_X3_here_0 (x : Nat) (l1 : Int32) (m : MM) : Option (Int32 × MM) :=
  bd (gI m (m.R x 6) 1 11) fun v1 =>
  if v1 ≤ ((m.I x 0) + l1) then (
    some ((-1 : Int32), m)
    ) else (
    bd (gR m (m.R x 6) 1 10) fun v2 =>
    bd (aI m 51 v2 ((m.I x 0) + l1)) fun v3 =>
    some ((v3 &&& (255 : Int32)), m)
    )
noncomputable def f_X3_here (x : Nat) (l1 : Int32) (m : MM) : Option (Int32 × MM) := b_X3_here_0 x l1 m
noncomputable def b_X3_isDigit_0 (x : Nat) (l1 : Int32) (m : MM) : Option (Int32 × MM) :=
  bd2 (f_X3_here x l1 m) fun v1 m2 =>
  if v1 < (48 : Int32) then (
    some ((0 : Int32), m2)
    ) else (
    bd2 (f_X3_here x l1 m2) fun v3 m4 =>
    if (57 : Int32) < v3 then (
      some ((0 : Int32), m4)
      ) else (
      some ((1 : Int32), m4)
      )
    )
noncomputable def f_X3_isDigit (x : Nat) (l1 : Int32) (m : MM) : Option (Int32 × MM) := b_X3_isDigit_0 x l1 m
noncomputable def b_X3_isLetter_0 (x : Nat) (l1 : Int32) (m : MM) : Option (Int32 × MM) :=
  bd2 (f_X3_here x l1 m) fun v1 m2 =>
  if v1 < (97 : Int32) then (
    some ((0 : Int32), m2)
    ) else (
    bd2 (f_X3_here x l1 m2) fun v3 m4 =>
    if (122 : Int32) < v3 then (
      some ((0 : Int32), m4)
      ) else (
      some ((1 : Int32), m4)
      )
    )
noncomputable def f_X3_isLetter (x : Nat) (l1 : Int32) (m : MM) : Option (Int32 × MM) := b_X3_isLetter_0 x l1 m
noncomputable def b_X3_go_20 (x : Nat) (m : MM) : Option (((MM) ⊕ (Int32 × Option Nat × MM) ⊕ (Int32 × MM)) ⊕ (Unit × MM)) :=
  bd (pI m (some x) 4 0 50 ((m.I x 0) + (1 : Int32))) fun m1 =>
  some (.inl (.inl (m1)))
noncomputable def b_X3_go_224 (x : Nat) (l1 : Int32) (m : MM) : Option (((MM) ⊕ (Int32 × Option Nat × MM) ⊕ (Int32 × MM)) ⊕ (Unit × MM)) :=
  bd (pI m (some x) 4 1 50 l1) fun m1 =>
  bd (pI m1 (some x) 4 0 50 ((m1.I x 0) + (1 : Int32))) fun m2 =>
  some (.inr ((), m2))
noncomputable def b_X3_go_151 (x : Nat) (l2 : Int32) (m : MM) : Option (((MM) ⊕ (Int32 × Option Nat × MM) ⊕ (Int32 × MM)) ⊕ (Unit × MM)) :=
  bd2 (f_X3_isDigit x l2 m) fun v1 m2 =>
  if v1 = 0 then (
    if (4 : Int32) < l2 then (
      some (.inr ((), m2))
      ) else (
      bd2 (f_X3_isLetter x l2 m2) fun v3 m4 =>
      if v3 = 0 then (
        bd (pI m4 (some x) 4 1 50 (2 : Int32)) fun m5 =>
        bd (pI m5 (some x) 4 0 50 ((m5.I x 0) + l2)) fun m6 =>
        some (.inr ((), m6))
        ) else (
        some (.inr ((), m4))
        )
      )
    ) else (
    if (4 : Int32) ≤ l2 then (
      some (.inl (.inr (.inr ((l2 + (1 : Int32)), m2))))
      ) else (
      bd2 (f_X3_here x l2 m2) fun v7 m8 =>
      bd (pI m8 (some x) 4 3 50 ((((10 : Int32) * (m2.I x 3)) + v7) - (48 : Int32))) fun m9 =>
      some (.inl (.inr (.inr ((l2 + (1 : Int32)), m9))))
      )
    )
noncomputable def b_X3_go_84 (x : Nat) (l2 : Int32) (l3 : Option Nat) (m : MM) : Option (((MM) ⊕ (Int32 × Option Nat × MM) ⊕ (Int32 × MM)) ⊕ (Unit × MM)) :=
  bd2 (f_X3_isLetter x l2 m) fun v1 m2 =>
  if v1 = 0 then (
    if l2 ≤ (8 : Int32) then (
      bd (isK m2 l3 10) fun a3 =>
      bd2 (f_J4_toString a3 m2) fun v4 m5 =>
      bd (pR m5 (some x) 4 4 v4) fun m6 =>
      bd (pI m6 (some x) 4 1 50 (1 : Int32)) fun m7 =>
      bd (pI m7 (some x) 4 0 50 ((m7.I x 0) + l2)) fun m8 =>
      some (.inr ((), m8))
      ) else (
      some (.inr ((), m2))
      )
    ) else (
    if (8 : Int32) ≤ l2 then (
      some (.inl (.inr (.inl ((l2 + (1 : Int32)), l3, m2))))
      ) else (
      bd2 (f_X3_here x l2 m2) fun v9 m10 =>
      bd (isK m10 l3 10) fun a11 =>
      bd2 (f_J4_append a11 (jc_char v9) m10) fun v12 m13 =>
      some (.inl (.inr (.inl ((l2 + (1 : Int32)), l3, m13))))
      )
    )
noncomputable def b_X3_go_0 (x : Nat) (m : MM) : Option (((MM) ⊕ (Int32 × Option Nat × MM) ⊕ (Int32 × MM)) ⊕ (Unit × MM)) :=
  bd2 (f_X3_here x (0 : Int32) m) fun v1 m2 =>
  if v1 = (32 : Int32) then (
    b_X3_go_20 x m2
    ) else (
    bd2 (f_X3_here x (0 : Int32) m2) fun v3 m4 =>
    if v3 = (10 : Int32) then (
      b_X3_go_20 x m4
      ) else (
      bd (pI m4 (some x) 4 2 50 (m4.I x 0)) fun m5 =>
      bd2 (f_X3_here x (0 : Int32) m5) fun v6 m7 =>
      bd (pI m7 (some x) 4 1 50 (3 : Int32)) fun m8 =>
      if 0 ≤ v6 then (
        bd2 (f_X3_isLetter x (0 : Int32) m8) fun v9 m10 =>
        if v9 = 0 then (
          bd2 (f_X3_isDigit x (0 : Int32) m10) fun v11 m12 =>
          if v11 = 0 then (
            if v6 = (59 : Int32) then (
              b_X3_go_224 x v6 m12
              ) else (
              if v6 = (61 : Int32) then (
                b_X3_go_224 x v6 m12
                ) else (
                bd (pI m12 (some x) 4 0 50 ((m12.I x 0) + (0 : Int32))) fun m13 =>
                some (.inr ((), m13))
                )
              )
            ) else (
            bd (pI m12 (some x) 4 3 50 (0 : Int32)) fun m14 =>
            some (.inl (.inr (.inr ((0 : Int32), m14))))
            )
          ) else (
          bd (nO m10 10 4) fun m15 =>
          bd (isK m15 (some m10.n) 10) fun a16 =>
          bd2 (f_J4_init a16 (8 : Int32) m15) fun _ m17 =>
          some (.inl (.inr (.inl ((0 : Int32), (some m10.n), m17))))
          )
        ) else (
        bd (pI m8 (some x) 4 1 50 (0 : Int32)) fun m18 =>
        bd (pI m18 (some x) 4 0 50 ((m18.I x 0) + (0 : Int32))) fun m19 =>
        some (.inr ((), m19))
        )
      )
    )
noncomputable def s_X3_go (x : Nat) : ((MM) ⊕ (Int32 × Option Nat × MM) ⊕ (Int32 × MM)) → Option (((MM) ⊕ (Int32 × Option Nat × MM) ⊕ (Int32 × MM)) ⊕ (Unit × MM)) := fun z => match z with
  | (.inl m) => b_X3_go_0 x m
  | (.inr (.inl (l2, l3, m))) => b_X3_go_84 x l2 l3 m
  | (.inr (.inr (l2, m))) => b_X3_go_151 x l2 m
noncomputable def f_X3_go (x : Nat) (m : MM) : Option (Unit × MM) := bd (b_X3_go_0 x m) (rx_go (s_X3_go x))
noncomputable def b_X3_is_0 (x : Nat) (l1 : Option Nat) (m : MM) : Option (Int32 × MM) :=
  if (m.I x 1) = (1 : Int32) then (
    bd (isK m (m.R x 4) 11) fun a1 =>
    bd2 (f_J5_equals a1 l1 m) fun v2 m3 =>
    if v2 = 0 then (
      some ((0 : Int32), m3)
      ) else (
      some ((1 : Int32), m3)
      )
    ) else (
    some ((0 : Int32), m)
    )
noncomputable def f_X3_is (x : Nat) (l1 : Option Nat) (m : MM) : Option (Int32 × MM) := b_X3_is_0 x l1 m
noncomputable def b_X3_wrong_17 (x : Nat) (s0 : Option Nat) (s1 : Option Nat) (s2 : Int32) (m : MM) : Option (Option Nat × MM) :=
  bd (isK m s1 5) fun a1 =>
  bd2 (f_X4_init a1 s2 (m.I x 2) m) fun _ m2 =>
  some (s0, m2)
noncomputable def b_X3_wrong_0 (x : Nat) (m : MM) : Option (Option Nat × MM) :=
  bd (nO m 5 8) fun m1 =>
  if (m1.I x 1) = (3 : Int32) then (
    b_X3_wrong_17 x (some m.n) (some m.n) (1 : Int32) m1
    ) else (
    b_X3_wrong_17 x (some m.n) (some m.n) (2 : Int32) m1
    )
noncomputable def f_X3_wrong (x : Nat) (m : MM) : Option (Option Nat × MM) := b_X3_wrong_0 x m
noncomputable def b_X3_number_29 (x : Nat) (l1 : Int32) (l2 : Int32) (m : MM) : Option ((Int32 ⊕ Nat) × MM) :=
  bd (nO m 5 8) fun m1 =>
  bd (isK m1 (some m.n) 5) fun a2 =>
  bd2 (f_X4_init a2 (4 : Int32) (m1.I x 2) m1) fun _ m3 =>
  bd (some m.n) fun q4 =>
  some (.inr q4, m3)
noncomputable def b_X3_number_0 (x : Nat) (l1 : Int32) (l2 : Int32) (m : MM) : Option ((Int32 ⊕ Nat) × MM) :=
  if (m.I x 1) = (2 : Int32) then (
    if (m.I x 3) < l1 then (
      b_X3_number_29 x l1 l2 m
      ) else (
      if (m.I x 3) ≤ l2 then (
        bd2 (f_X3_go x m) fun _ m1 =>
        some (.inl (m.I x 3), m1)
        ) else (
        b_X3_number_29 x l1 l2 m
        )
      )
    ) else (
    bd2 (f_X3_wrong x m) fun v2 m3 =>
    bd v2 fun q4 =>
    some (.inr q4, m3)
    )
noncomputable def f_X3_number (x : Nat) (l1 : Int32) (l2 : Int32) (m : MM) : Option ((Int32 ⊕ Nat) × MM) := b_X3_number_0 x l1 l2 m
noncomputable def b_X3_length_0 (x : Nat) (m : MM) : Option ((Unit ⊕ Nat) × MM) :=
  bd2 (f_X3_go x m) fun _ m1 =>
  bdx (f_X3_number x (1 : Int32) (6 : Int32) m1) fun v2 m3 =>
  bd (pI m3 (m1.R x 5) 2 8 50 v2) fun m4 =>
  some (.inl (), m4)
noncomputable def f_X3_length (x : Nat) (m : MM) : Option ((Unit ⊕ Nat) × MM) := b_X3_length_0 x m
noncomputable def b_J7_signedHashCode_8 (l1 : Option Nat) (l2 : Int32) (l3 : Int32) (l0 : Int32) (l4 : Int32) (l5 : Int32) (m : MM) : Option (((Int32 × Int32 × Int32 × MM)) ⊕ (Int32 × MM)) :=
  if l4 ≤ l5 then (
    some (.inr (l0, m))
    ) else (
    bd (aI m 51 l1 l5) fun v1 =>
    some (.inl ((((31 : Int32) * l0) + (v1 &&& (255 : Int32))), l4, (l5 + (1 : Int32)), m))
    )
noncomputable def b_J7_signedHashCode_0 (l1 : Option Nat) (l2 : Int32) (l3 : Int32) (l0 : Int32) (m : MM) : Option (((Int32 × Int32 × Int32 × MM)) ⊕ (Int32 × MM)) :=
  some (.inl (l0, (l2 + l3), l2, m))
noncomputable def s_J7_signedHashCode (l1 : Option Nat) (l2 : Int32) (l3 : Int32) : ((Int32 × Int32 × Int32 × MM)) → Option (((Int32 × Int32 × Int32 × MM)) ⊕ (Int32 × MM)) := fun z => match z with
  | (l0, l4, l5, m) => b_J7_signedHashCode_8 l1 l2 l3 l0 l4 l5 m
noncomputable def f_J7_signedHashCode (l0 : Int32) (l1 : Option Nat) (l2 : Int32) (l3 : Int32) (m : MM) : Option (Int32 × MM) := bd (b_J7_signedHashCode_0 l1 l2 l3 l0 m) (rx_go (s_J7_signedHashCode l1 l2 l3))
noncomputable def b_J7_vectorizedHashCode_0 (l0 : Option Nat) (l1 : Int32) (l2 : Int32) (l3 : Int32) (l4 : Int32) (m : MM) : Option (Int32 × MM) :=
  if l4 = (4 : Int32) then (
    if okZ m 51 l0 = true then (
      bd2 (f_J7_signedHashCode l3 l0 l1 l2 m) fun v1 m2 =>
      some (v1, m2)
      ) else none
    ) else
  if l4 = (5 : Int32) then (
    none
    ) else
  if l4 = (6 : Int32) then (
    none
    ) else
  if l4 = (7 : Int32) then (
    none
    ) else
  if l4 = (8 : Int32) then (
    none
    ) else
  if l4 = (9 : Int32) then (
    none
    ) else
  if l4 = (10 : Int32) then (
    none
    ) else
  none
noncomputable def f_J7_vectorizedHashCode (l0 : Option Nat) (l1 : Int32) (l2 : Int32) (l3 : Int32) (l4 : Int32) (m : MM) : Option (Int32 × MM) := b_J7_vectorizedHashCode_0 l0 l1 l2 l3 l4 m
noncomputable def b_J10_hashCode_0 (l0 : Option Nat) (m : MM) : Option (Int32 × MM) :=
  bd (aN m 51 l0) fun v1 =>
  if v1 = (0 : Int32) then (
    some ((0 : Int32), m)
    ) else
  if v1 = (1 : Int32) then (
    bd (aI m 51 l0 (0 : Int32)) fun v2 =>
    some ((v2 &&& (255 : Int32)), m)
    ) else
  bd (aN m 51 l0) fun v3 =>
  bd2 (f_J7_vectorizedHashCode l0 (0 : Int32) v3 (0 : Int32) (4 : Int32) m) fun v4 m5 =>
  some (v4, m5)
noncomputable def f_J10_hashCode (l0 : Option Nat) (m : MM) : Option (Int32 × MM) := b_J10_hashCode_0 l0 m
noncomputable def b_J5_isLatin1_0 (x : Nat) (m : MM) : Option (Int32 × MM) :=
  if (1 : Int32) = 0 then (
    some ((0 : Int32), m)
    ) else (
    if (m.I x 1) = 0 then (
      some ((1 : Int32), m)
      ) else (
      some ((0 : Int32), m)
      )
    )
noncomputable def f_J5_isLatin1 (x : Nat) (m : MM) : Option (Int32 × MM) := b_J5_isLatin1_0 x m
noncomputable def b_J5_hashCode_0 (x : Nat) (m : MM) : Option (Int32 × MM) :=
  if (m.I x 2) = 0 then (
    if (m.I x 3) = 0 then (
      bd2 (f_J5_isLatin1 x m) fun v1 m2 =>
      if v1 = 0 then (
        none
        ) else (
        bd2 (f_J10_hashCode (m2.R x 0) m2) fun v3 m4 =>
        if v3 = 0 then (
          bd (pI m4 (some x) 11 3 52 (1 : Int32)) fun m6 =>
          some (v3, m6)
          ) else (
          bd (pI m4 (some x) 11 2 50 v3) fun m5 =>
          some (v3, m5)
          )
        )
      ) else (
      some ((m.I x 2), m)
      )
    ) else (
    some ((m.I x 2), m)
    )
noncomputable def f_J5_hashCode (x : Nat) (m : MM) : Option (Int32 × MM) := b_J5_hashCode_0 x m
noncomputable def b_X3_isName_161 (x : Nat) (l2 : Int32) (m : MM) : Option (Int32 × MM) :=
  if l2 = (0 : Int32) then (
    some ((0 : Int32), m)
    ) else
  if l2 = (1 : Int32) then (
    some ((0 : Int32), m)
    ) else
  if l2 = (2 : Int32) then (
    some ((0 : Int32), m)
    ) else
  if l2 = (3 : Int32) then (
    some ((0 : Int32), m)
    ) else
  if l2 = (4 : Int32) then (
    some ((0 : Int32), m)
    ) else
  if l2 = (5 : Int32) then (
    some ((0 : Int32), m)
    ) else
  some ((1 : Int32), m)
noncomputable def b_X3_isName_0 (x : Nat) (m : MM) : Option (Int32 × MM) :=
  if (m.I x 1) = (1 : Int32) then (
    bd (isK m (m.R x 4) 11) fun a1 =>
    bd2 (f_J5_hashCode a1 m) fun v2 m3 =>
    if v2 = (-1106363674 : Int32) then (
      bd (isK m3 (m.R x 4) 11) fun a4 =>
      bd2 (f_J5_equals a4 (m3.c 5) m3) fun v5 m6 =>
      if v5 = 0 then (
        b_X3_isName_161 x (-1 : Int32) m6
        ) else (
        b_X3_isName_161 x (4 : Int32) m6
        )
      ) else
    if v2 = (3555 : Int32) then (
      bd (isK m3 (m.R x 4) 11) fun a7 =>
      bd2 (f_J5_equals a7 (m3.c 4) m3) fun v8 m9 =>
      if v8 = 0 then (
        b_X3_isName_161 x (-1 : Int32) m9
        ) else (
        b_X3_isName_161 x (3 : Int32) m9
        )
      ) else
    if v2 = (3433178 : Int32) then (
      bd (isK m3 (m.R x 4) 11) fun a10 =>
      bd2 (f_J5_equals a10 (m3.c 2) m3) fun v11 m12 =>
      if v11 = 0 then (
        b_X3_isName_161 x (-1 : Int32) m12
        ) else (
        b_X3_isName_161 x (1 : Int32) m12
        )
      ) else
    if v2 = (3512060 : Int32) then (
      bd (isK m3 (m.R x 4) 11) fun a13 =>
      bd2 (f_J5_equals a13 (m3.c 3) m3) fun v14 m15 =>
      if v14 = 0 then (
        b_X3_isName_161 x (-1 : Int32) m15
        ) else (
        b_X3_isName_161 x (2 : Int32) m15
        )
      ) else
    if v2 = (3655434 : Int32) then (
      bd (isK m3 (m.R x 4) 11) fun a16 =>
      bd2 (f_J5_equals a16 (m3.c 1) m3) fun v17 m18 =>
      if v17 = 0 then (
        b_X3_isName_161 x (-1 : Int32) m18
        ) else (
        b_X3_isName_161 x (0 : Int32) m18
        )
      ) else
    if v2 = (110727062 : Int32) then (
      bd (isK m3 (m.R x 4) 11) fun a19 =>
      bd2 (f_J5_equals a19 (m3.c 6) m3) fun v20 m21 =>
      if v20 = 0 then (
        b_X3_isName_161 x (-1 : Int32) m21
        ) else (
        b_X3_isName_161 x (5 : Int32) m21
        )
      ) else
    b_X3_isName_161 x (-1 : Int32) m3
    ) else (
    some ((0 : Int32), m)
    )
noncomputable def f_X3_isName (x : Nat) (m : MM) : Option (Int32 × MM) := b_X3_isName_0 x m
noncomputable def b_X3_old_0 (x : Nat) (m : MM) : Option ((Int32 ⊕ Nat) × MM) :=
  bd2 (f_X3_isName x m) fun v1 m2 =>
  if v1 = 0 then (
    bd2 (f_X3_wrong x m2) fun v10 m11 =>
    bd v10 fun q12 =>
    some (.inr q12, m11)
    ) else (
    bd (isK m2 (m2.R x 5) 2) fun a3 =>
    bd2 (f_X1_word a3 (m2.R x 4) m2) fun v4 m5 =>
    if 0 ≤ v4 then (
      some (.inl v4, m5)
      ) else (
      bd (nO m5 5 8) fun m6 =>
      bd (isK m6 (some m5.n) 5) fun a7 =>
      bd2 (f_X4_init a7 (5 : Int32) (m6.I x 2) m6) fun _ m8 =>
      bd (some m5.n) fun q9 =>
      some (.inr q9, m8)
      )
    )
noncomputable def f_X3_old (x : Nat) (m : MM) : Option ((Int32 ⊕ Nat) × MM) := b_X3_old_0 x m
noncomputable def b_X3_three_2 (x : Nat) (l1 : Option Nat) (l2 : Int32) (l3 : Int32) (m : MM) : Option (((Int32 × MM)) ⊕ ((Unit ⊕ Nat) × MM)) :=
  if (3 : Int32) ≤ l3 then (
    some (.inr (.inl (), m))
    ) else (
    bdxl (f_X3_number x (0 : Int32) (99 : Int32) m) fun v1 m2 =>
    bd (sI m2 50 l1 (((3 : Int32) * l2) + l3) (v1 - (50 : Int32))) fun m3 =>
    some (.inl ((l3 + (1 : Int32)), m3))
    )
noncomputable def b_X3_three_0 (x : Nat) (l1 : Option Nat) (l2 : Int32) (m : MM) : Option (((Int32 × MM)) ⊕ ((Unit ⊕ Nat) × MM)) :=
  some (.inl ((0 : Int32), m))
noncomputable def s_X3_three (x : Nat) (l1 : Option Nat) (l2 : Int32) : ((Int32 × MM)) → Option (((Int32 × MM)) ⊕ ((Unit ⊕ Nat) × MM)) := fun z => match z with
  | (l3, m) => b_X3_three_2 x l1 l2 l3 m
noncomputable def f_X3_three (x : Nat) (l1 : Option Nat) (l2 : Int32) (m : MM) : Option ((Unit ⊕ Nat) × MM) := bd (b_X3_three_0 x l1 l2 m) (rx_go (s_X3_three x l1 l2))
noncomputable def b_X3_pair_0 (x : Nat) (m : MM) : Option ((Unit ⊕ Nat) × MM) :=
  bd2 (f_X3_go x m) fun _ m1 =>
  bdx (f_X3_old x m1) fun v2 m3 =>
  bd2 (f_X3_go x m3) fun _ m4 =>
  bdx (f_X3_old x m4) fun v5 m6 =>
  bd (gR m6 (m6.R x 5) 2 5) fun v7 =>
  bd (aI m6 52 v7 (((8 : Int32) * v2) + v5)) fun v8 =>
  if v8 = 0 then (
    bd2 (f_X3_go x m6) fun _ m9 =>
    bd (gR m9 (m9.R x 5) 2 3) fun v10 =>
    bdx (f_X3_three x v10 (((8 : Int32) * v2) + v5) m9) fun _ m11 =>
    bd (gR m11 (m11.R x 5) 2 5) fun v13 =>
    bd (sI m11 52 v13 (((8 : Int32) * v2) + v5) (1 : Int32)) fun m14 =>
    bd (gI m14 (m14.R x 5) 2 6) fun v15 =>
    bd (pI m14 (m14.R x 5) 2 6 50 (v15 + (1 : Int32))) fun m16 =>
    some (.inl (), m16)
    ) else (
    bd (nO m6 5 8) fun m17 =>
    bd (isK m17 (some m6.n) 5) fun a18 =>
    bd2 (f_X4_init a18 (3 : Int32) (m17.I x 2) m17) fun _ m19 =>
    bd (some m6.n) fun q20 =>
    some (.inr q20, m19)
    )
noncomputable def f_X3_pair (x : Nat) (m : MM) : Option ((Unit ⊕ Nat) × MM) := b_X3_pair_0 x m
noncomputable def b_J7_newLength_21 (l0 : Int32) (l1 : Int32) (l2 : Int32) (m : MM) : Option (Int32 × MM) :=
  none
noncomputable def b_J7_newLength_0 (l0 : Int32) (l1 : Int32) (l2 : Int32) (m : MM) : Option (Int32 × MM) :=
  if (l0 + (ji_max l1 l2)) ≤ (0 : Int32) then (
    b_J7_newLength_21 l0 l1 l2 m
    ) else (
    if (2147483639 : Int32) < (l0 + (ji_max l1 l2)) then (
      b_J7_newLength_21 l0 l1 l2 m
      ) else (
      some ((l0 + (ji_max l1 l2)), m)
      )
    )
noncomputable def f_J7_newLength (l0 : Int32) (l1 : Int32) (l2 : Int32) (m : MM) : Option (Int32 × MM) := b_J7_newLength_0 l0 l1 l2 m
noncomputable def b_J9_copyOf_3_0 (l0 : Option Nat) (l1 : Int32) (l2 : Option Nat) (m : MM) : Option (Option Nat × MM) :=
  if l2 = (m.c 10) then (
    bd (nA m 54 l1) fun m1 =>
    bd (aN m1 54 l0) fun v2 =>
    bd (cR m1 54 l0 (0 : Int32) (some m.n) (0 : Int32) (ji_min v2 l1)) fun m3 =>
    some ((some m.n), m3)
    ) else (
    none
    )
noncomputable def f_J9_copyOf_3 (l0 : Option Nat) (l1 : Int32) (l2 : Option Nat) (m : MM) : Option (Option Nat × MM) := b_J9_copyOf_3_0 l0 l1 l2 m
noncomputable def b_J9_copyOf_2_0 (l0 : Option Nat) (l1 : Int32) (m : MM) : Option (Option Nat × MM) :=
  bd (isKz m l0 54) fun a1 =>
  bd2 (f_J9_copyOf_3 l0 l1 (m.c 10) m) fun v2 m3 =>
  some (v2, m3)
noncomputable def f_J9_copyOf_2 (l0 : Option Nat) (l1 : Int32) (m : MM) : Option (Option Nat × MM) := b_J9_copyOf_2_0 l0 l1 m
noncomputable def b_J2_grow_2_0 (x : Nat) (l1 : Int32) (m : MM) : Option (Option Nat × MM) :=
  bd (aN m 54 (m.R x 1)) fun v1 =>
  if 0 < v1 then (
    bd2 (f_J7_newLength v1 (l1 - v1) (ji_shr v1 (1 : Int32)) m) fun v2 m3 =>
    bd2 (f_J9_copyOf_2 (m3.R x 1) v2 m3) fun v4 m5 =>
    bd (pR m5 (some x) 9 1 v4) fun m6 =>
    some (v4, m6)
    ) else (
    none
    )
noncomputable def f_J2_grow_2 (x : Nat) (l1 : Int32) (m : MM) : Option (Option Nat × MM) := b_J2_grow_2_0 x l1 m
noncomputable def b_J2_grow_0 (x : Nat) (m : MM) : Option (Option Nat × MM) :=
  bd2 (f_J2_grow_2 x ((m.I x 2) + (1 : Int32)) m) fun v1 m2 =>
  some (v1, m2)
noncomputable def f_J2_grow (x : Nat) (m : MM) : Option (Option Nat × MM) := b_J2_grow_0 x m
noncomputable def b_J2_add_2_11 (x : Nat) (l1 : Option Nat) (l3 : Int32) (l2 : Option Nat) (m : MM) : Option (Unit × MM) :=
  bd (sR m 54 l2 l3 l1) fun m1 =>
  bd (pI m1 (some x) 9 2 50 (l3 + (1 : Int32))) fun m2 =>
  some ((), m2)
noncomputable def b_J2_add_2_0 (x : Nat) (l1 : Option Nat) (l3 : Int32) (l2 : Option Nat) (m : MM) : Option (Unit × MM) :=
  bd (aN m 54 l2) fun v1 =>
  if l3 = v1 then (
    bd2 (f_J2_grow x m) fun v2 m3 =>
    b_J2_add_2_11 x l1 l3 v2 m3
    ) else (
    b_J2_add_2_11 x l1 l3 l2 m
    )
noncomputable def f_J2_add_2 (x : Nat) (l1 : Option Nat) (l2 : Option Nat) (l3 : Int32) (m : MM) : Option (Unit × MM) := b_J2_add_2_0 x l1 l3 l2 m
noncomputable def b_J2_add_0 (x : Nat) (l1 : Option Nat) (m : MM) : Option (Int32 × MM) :=
  bd (pI m (some x) 9 0 50 ((m.I x 0) + (1 : Int32))) fun m1 =>
  bd2 (f_J2_add_2 x l1 (m1.R x 1) (m1.I x 2) m1) fun _ m2 =>
  some ((1 : Int32), m2)
noncomputable def f_J2_add (x : Nat) (l1 : Option Nat) (m : MM) : Option (Int32 × MM) := b_J2_add_0 x l1 m
noncomputable def b_X6_init_0 (x : Nat) (m : MM) : Option (Unit × MM) :=
  bd (nO m 9 3) fun m1 =>
  bd (isK m1 (some m.n) 9) fun a2 =>
  bd2 (f_J2_init a2 (2 : Int32) m1) fun _ m3 =>
  bd (pR m3 (some x) 7 0 (some m.n)) fun m4 =>
  bd (nA m4 50 (4 : Int32)) fun m5 =>
  bd (pR m5 (some x) 7 1 (some m4.n)) fun m6 =>
  bd (nA m6 50 (0 : Int32)) fun m7 =>
  bd (pR m7 (some x) 7 2 (some m6.n)) fun m8 =>
  some ((), m8)
noncomputable def f_X6_init (x : Nat) (m : MM) : Option (Unit × MM) := b_X6_init_0 x m
noncomputable def b_X3_alt_19 (x : Nat) (m : MM) : Option (((Option Nat × MM)) ⊕ ((Option Nat ⊕ Nat) × MM)) :=
  bd2 (f_X3_wrong x m) fun v1 m2 =>
  bd v1 fun q3 =>
  some (.inr (.inr q3, m2))
noncomputable def b_X3_alt_45 (x : Nat) (l1 : Option Nat) (m : MM) : Option (((Option Nat × MM)) ⊕ ((Option Nat ⊕ Nat) × MM)) :=
  bd2 (f_X3_isName x m) fun v1 m2 =>
  if v1 = 0 then (
    some (.inr (.inl l1, m2))
    ) else (
    bd (gR m2 l1 7 0) fun v3 =>
    bd (isK m2 v3 9) fun a4 =>
    bd2 (f_J2_size a4 m2) fun v5 m6 =>
    if v5 = (4 : Int32) then (
      bd2 (f_X3_wrong x m6) fun v18 m19 =>
      bd v18 fun q20 =>
      some (.inr (.inr q20, m19))
      ) else (
      bd (gR m6 l1 7 1) fun v7 =>
      bd (gR m6 l1 7 0) fun v8 =>
      bd (isK m6 v8 9) fun a9 =>
      bd2 (f_J2_size a9 m6) fun v10 m11 =>
      bd (sI m11 50 v7 v10 (m11.I x 2)) fun m12 =>
      bd (gR m12 l1 7 0) fun v13 =>
      bd (isK m12 v13 9) fun a14 =>
      bd2 (f_J2_add a14 (m12.R x 4) m12) fun v15 m16 =>
      bd2 (f_X3_go x m16) fun _ m17 =>
      some (.inl (l1, m17))
      )
    )
noncomputable def b_X3_alt_0 (x : Nat) (m : MM) : Option (((Option Nat × MM)) ⊕ ((Option Nat ⊕ Nat) × MM)) :=
  bd2 (f_X3_isName x m) fun v1 m2 =>
  if v1 = 0 then (
    b_X3_alt_19 x m2
    ) else (
    bd (gI m2 (m2.R x 5) 2 7) fun v3 =>
    if v3 = (24 : Int32) then (
      b_X3_alt_19 x m2
      ) else (
      bd (gI m2 (m2.R x 5) 2 7) fun v4 =>
      bd (pI m2 (m2.R x 5) 2 7 50 (v4 + (1 : Int32))) fun m5 =>
      bd (nO m5 7 3) fun m6 =>
      bd (isK m6 (some m5.n) 7) fun a7 =>
      bd2 (f_X6_init a7 m6) fun _ m8 =>
      some (.inl ((some m5.n), m8))
      )
    )
noncomputable def s_X3_alt (x : Nat) : ((Option Nat × MM)) → Option (((Option Nat × MM)) ⊕ ((Option Nat ⊕ Nat) × MM)) := fun z => match z with
  | (l1, m) => b_X3_alt_45 x l1 m
noncomputable def f_X3_alt (x : Nat) (m : MM) : Option ((Option Nat ⊕ Nat) × MM) := bd (b_X3_alt_0 x m) (rx_go (s_X3_alt x))
noncomputable def b_X3_newName_40 (x : Nat) (m : MM) : Option ((Option Nat ⊕ Nat) × MM) :=
  bd (nO m 5 8) fun m1 =>
  bd (isK m1 (some m.n) 5) fun a2 =>
  bd2 (f_X4_init a2 (3 : Int32) (m1.I x 2) m1) fun _ m3 =>
  bd (some m.n) fun q4 =>
  some (.inr q4, m3)
noncomputable def b_X3_newName_0 (x : Nat) (m : MM) : Option ((Option Nat ⊕ Nat) × MM) :=
  bd2 (f_X3_isName x m) fun v1 m2 =>
  if v1 = 0 then (
    bd2 (f_X3_wrong x m2) fun v10 m11 =>
    bd v10 fun q12 =>
    some (.inr q12, m11)
    ) else (
    bd (isK m2 (m2.R x 5) 2) fun a3 =>
    bd2 (f_X1_word a3 (m2.R x 4) m2) fun v4 m5 =>
    if 0 ≤ v4 then (
      b_X3_newName_40 x m5
      ) else (
      bd (isK m5 (m5.R x 5) 2) fun a6 =>
      bd2 (f_X1_rule a6 (m5.R x 4) m5) fun v7 m8 =>
      if v7 < 0 then (
        bd2 (f_X3_go x m8) fun _ m9 =>
        some (.inl (m8.R x 4), m9)
        ) else (
        b_X3_newName_40 x m8
        )
      )
    )
noncomputable def f_X3_newName (x : Nat) (m : MM) : Option ((Option Nat ⊕ Nat) × MM) := b_X3_newName_0 x m
noncomputable def b_X5_init_0 (x : Nat) (l1 : Option Nat) (m : MM) : Option (Unit × MM) :=
  bd (nO m 9 3) fun m1 =>
  bd (isK m1 (some m.n) 9) fun a2 =>
  bd2 (f_J2_init a2 (2 : Int32) m1) fun _ m3 =>
  bd (pR m3 (some x) 6 1 (some m.n)) fun m4 =>
  bd (pR m4 (some x) 6 0 l1) fun m5 =>
  some ((), m5)
noncomputable def f_X5_init (x : Nat) (l1 : Option Nat) (m : MM) : Option (Unit × MM) := b_X5_init_0 x l1 m
noncomputable def b_X3_rule_46 (x : Nat) (l1 : Option Nat) (m : MM) : Option (((Option Nat × MM)) ⊕ ((Unit ⊕ Nat) × MM)) :=
  bd2 (f_X3_is x (m.c 4) m) fun v1 m2 =>
  if v1 = 0 then (
    bd (gR m2 (m2.R x 5) 2 1) fun v3 =>
    bd (isK m2 v3 9) fun a4 =>
    bd2 (f_J2_add a4 l1 m2) fun v5 m6 =>
    some (.inr (.inl (), m6))
    ) else (
    bd2 (f_X3_go x m2) fun _ m7 =>
    bd (gR m7 l1 6 1) fun v8 =>
    bdxl (f_X3_alt x m7) fun v9 m10 =>
    bd (isK m10 v8 9) fun a11 =>
    bd2 (f_J2_add a11 v9 m10) fun v12 m13 =>
    some (.inl (l1, m13))
    )
noncomputable def b_X3_rule_0 (x : Nat) (m : MM) : Option (((Option Nat × MM)) ⊕ ((Unit ⊕ Nat) × MM)) :=
  bd2 (f_X3_go x m) fun _ m1 =>
  bd (nO m1 6 2) fun m2 =>
  bdxl (f_X3_newName x m2) fun v3 m4 =>
  bd (isK m4 (some m1.n) 6) fun a5 =>
  bd2 (f_X5_init a5 v3 m4) fun _ m6 =>
  if (m6.I x 1) = (61 : Int32) then (
    bd2 (f_X3_go x m6) fun _ m7 =>
    bd (gR m7 (some m1.n) 6 1) fun v8 =>
    bdxl (f_X3_alt x m7) fun v9 m10 =>
    bd (isK m10 v8 9) fun a11 =>
    bd2 (f_J2_add a11 v9 m10) fun v12 m13 =>
    some (.inl ((some m1.n), m13))
    ) else (
    bd2 (f_X3_wrong x m6) fun v14 m15 =>
    bd v14 fun q16 =>
    some (.inr (.inr q16, m15))
    )
noncomputable def s_X3_rule (x : Nat) : ((Option Nat × MM)) → Option (((Option Nat × MM)) ⊕ ((Unit ⊕ Nat) × MM)) := fun z => match z with
  | (l1, m) => b_X3_rule_46 x l1 m
noncomputable def f_X3_rule (x : Nat) (m : MM) : Option ((Unit ⊕ Nat) × MM) := bd (b_X3_rule_0 x m) (rx_go (s_X3_rule x))
noncomputable def b_X3_turns_22 (x : Nat) (m : MM) : Option (((MM)) ⊕ ((Unit ⊕ Nat) × MM)) :=
  bd (gI m (m.R x 5) 2 9) fun v1 =>
  if v1 = (6 : Int32) then (
    bd2 (f_X3_wrong x m) fun v9 m10 =>
    bd v9 fun q11 =>
    some (.inr (.inr q11, m10))
    ) else (
    bd (gR m (m.R x 5) 2 4) fun v2 =>
    bd (gI m (m.R x 5) 2 9) fun v3 =>
    bdxl (f_X3_number x (0 : Int32) (2 : Int32) m) fun v4 m5 =>
    bd (sI m5 50 v2 v3 v4) fun m6 =>
    bd (gI m6 (m6.R x 5) 2 9) fun v7 =>
    bd (pI m6 (m6.R x 5) 2 9 50 (v7 + (1 : Int32))) fun m8 =>
    some (.inl (m8))
    )
noncomputable def b_X3_turns_4 (x : Nat) (m : MM) : Option (((MM)) ⊕ ((Unit ⊕ Nat) × MM)) :=
  bd (gI m (m.R x 5) 2 9) fun v1 =>
  if v1 = 0 then (
    b_X3_turns_22 x m
    ) else (
    if (m.I x 1) = (2 : Int32) then (
      b_X3_turns_22 x m
      ) else (
      some (.inr (.inl (), m))
      )
    )
noncomputable def b_X3_turns_0 (x : Nat) (m : MM) : Option (((MM)) ⊕ ((Unit ⊕ Nat) × MM)) :=
  bd2 (f_X3_go x m) fun _ m1 =>
  some (.inl (m1))
noncomputable def s_X3_turns (x : Nat) : ((MM)) → Option (((MM)) ⊕ ((Unit ⊕ Nat) × MM)) := fun z => match z with
  | m => b_X3_turns_4 x m
noncomputable def f_X3_turns (x : Nat) (m : MM) : Option ((Unit ⊕ Nat) × MM) := bd (b_X3_turns_0 x m) (rx_go (s_X3_turns x))
noncomputable def b_X3_word_0 (x : Nat) (m : MM) : Option ((Unit ⊕ Nat) × MM) :=
  bd2 (f_X3_go x m) fun _ m1 =>
  bdx (f_X3_newName x m1) fun v2 m3 =>
  bd (gR m3 (m3.R x 5) 2 2) fun v4 =>
  bd (gR m3 (m3.R x 5) 2 0) fun v5 =>
  bd (isK m3 v5 9) fun a6 =>
  bd2 (f_J2_size a6 m3) fun v7 m8 =>
  bdx (f_X3_three x v4 v7 m8) fun _ m9 =>
  bd (gR m9 (m9.R x 5) 2 0) fun v11 =>
  bd (isK m9 v11 9) fun a12 =>
  bd2 (f_J2_add a12 v2 m9) fun v13 m14 =>
  some (.inl (), m14)
noncomputable def f_X3_word (x : Nat) (m : MM) : Option ((Unit ⊕ Nat) × MM) := b_X3_word_0 x m
noncomputable def b_X3_text_181 (x : Nat) (l1 : Int32) (m : MM) : Option (((MM) ⊕ (Int32 × MM)) ⊕ ((Option Nat ⊕ Nat) × MM)) :=
  bd (gR m (m.R x 5) 2 1) fun v1 =>
  bd (isK m v1 9) fun a2 =>
  bd2 (f_J2_size a2 m) fun v3 m4 =>
  if v3 ≤ l1 then (
    some (.inr (.inl (m4.R x 5), m4))
    ) else (
    bdxl (f_X3_bind x l1 m4) fun _ m5 =>
    some (.inl (.inr ((l1 + (1 : Int32)), m5)))
    )
noncomputable def b_X3_text_153 (x : Nat) (m : MM) : Option (((MM) ⊕ (Int32 × MM)) ⊕ ((Option Nat ⊕ Nat) × MM)) :=
  bd2 (f_X3_wrong x m) fun v1 m2 =>
  bd v1 fun q3 =>
  some (.inr (.inr q3, m2))
noncomputable def b_X3_text_158 (x : Nat) (m : MM) : Option (((MM) ⊕ (Int32 × MM)) ⊕ ((Option Nat ⊕ Nat) × MM)) :=
  if (m.I x 1) = (59 : Int32) then (
    bd2 (f_X3_go x m) fun _ m1 =>
    some (.inl (.inl (m1)))
    ) else (
    bd2 (f_X3_wrong x m) fun v2 m3 =>
    bd v2 fun q4 =>
    some (.inr (.inr q4, m3))
    )
noncomputable def b_X3_text_127 (x : Nat) (m : MM) : Option (((MM) ⊕ (Int32 × MM)) ⊕ ((Option Nat ⊕ Nat) × MM)) :=
  bd2 (f_X3_is x (m.c 6) m) fun v1 m2 =>
  if v1 = 0 then (
    b_X3_text_153 x m2
    ) else (
    bd (gI m2 (m2.R x 5) 2 9) fun v3 =>
    if v3 = 0 then (
      bdxl (f_X3_turns x m2) fun _ m4 =>
      b_X3_text_158 x m4
      ) else (
      b_X3_text_153 x m2
      )
    )
noncomputable def b_X3_text_101 (x : Nat) (m : MM) : Option (((MM) ⊕ (Int32 × MM)) ⊕ ((Option Nat ⊕ Nat) × MM)) :=
  bd2 (f_X3_is x (m.c 5) m) fun v1 m2 =>
  if v1 = 0 then (
    b_X3_text_127 x m2
    ) else (
    bd (gI m2 (m2.R x 5) 2 8) fun v3 =>
    if v3 = 0 then (
      bdxl (f_X3_length x m2) fun _ m4 =>
      b_X3_text_158 x m4
      ) else (
      b_X3_text_127 x m2
      )
    )
noncomputable def b_X3_text_70 (x : Nat) (m : MM) : Option (((MM) ⊕ (Int32 × MM)) ⊕ ((Option Nat ⊕ Nat) × MM)) :=
  bd2 (f_X3_is x (m.c 3) m) fun v1 m2 =>
  if v1 = 0 then (
    b_X3_text_101 x m2
    ) else (
    bd (gR m2 (m2.R x 5) 2 1) fun v3 =>
    bd (isK m2 v3 9) fun a4 =>
    bd2 (f_J2_size a4 m2) fun v5 m6 =>
    if (8 : Int32) ≤ v5 then (
      b_X3_text_101 x m6
      ) else (
      bdxl (f_X3_rule x m6) fun _ m7 =>
      b_X3_text_158 x m7
      )
    )
noncomputable def b_X3_text_42 (x : Nat) (m : MM) : Option (((MM) ⊕ (Int32 × MM)) ⊕ ((Option Nat ⊕ Nat) × MM)) :=
  bd2 (f_X3_is x (m.c 2) m) fun v1 m2 =>
  if v1 = 0 then (
    b_X3_text_70 x m2
    ) else (
    bd (gI m2 (m2.R x 5) 2 6) fun v3 =>
    if (12 : Int32) ≤ v3 then (
      b_X3_text_70 x m2
      ) else (
      bdxl (f_X3_pair x m2) fun _ m4 =>
      b_X3_text_158 x m4
      )
    )
noncomputable def b_X3_text_4 (x : Nat) (m : MM) : Option (((MM) ⊕ (Int32 × MM)) ⊕ ((Option Nat ⊕ Nat) × MM)) :=
  if (m.I x 1) = 0 then (
    some (.inl (.inr ((0 : Int32), m)))
    ) else (
    bd2 (f_X3_is x (m.c 1) m) fun v1 m2 =>
    if v1 = 0 then (
      b_X3_text_42 x m2
      ) else (
      bd (gR m2 (m2.R x 5) 2 0) fun v3 =>
      bd (isK m2 v3 9) fun a4 =>
      bd2 (f_J2_size a4 m2) fun v5 m6 =>
      if (8 : Int32) ≤ v5 then (
        b_X3_text_42 x m6
        ) else (
        bdxl (f_X3_word x m6) fun _ m7 =>
        b_X3_text_158 x m7
        )
      )
    )
noncomputable def b_X3_text_0 (x : Nat) (m : MM) : Option (((MM) ⊕ (Int32 × MM)) ⊕ ((Option Nat ⊕ Nat) × MM)) :=
  bd2 (f_X3_go x m) fun _ m1 =>
  some (.inl (.inl (m1)))
noncomputable def s_X3_text (x : Nat) : ((MM) ⊕ (Int32 × MM)) → Option (((MM) ⊕ (Int32 × MM)) ⊕ ((Option Nat ⊕ Nat) × MM)) := fun z => match z with
  | (.inl m) => b_X3_text_4 x m
  | (.inr (l1, m)) => b_X3_text_181 x l1 m
noncomputable def f_X3_text (x : Nat) (m : MM) : Option ((Option Nat ⊕ Nat) × MM) := bd (b_X3_text_0 x m) (rx_go (s_X3_text x))
noncomputable def b_X0_port_109 (x : Nat) (l1 : Option Nat) (s0 : Option Nat) (s1 : Int32) (m : MM) : Option (((Option Nat × Int32 × MM) ⊕ (Option Nat × Int32 × MM)) ⊕ (Int32 × MM)) :=
  bd (pI m s0 1 13 50 s1) fun m1 =>
  bd (pI m1 (some x) 1 11 50 (0 : Int32)) fun m2 =>
  if l1 = none then (
    bd (gR m2 (m2.R x 14) 2 0) fun v3 =>
    bd (isK m2 v3 9) fun a4 =>
    bd2 (f_J2_size a4 m2) fun v5 m6 =>
    some (.inr (v5, m6))
    ) else (
    some (.inr ((-1 : Int32), m2))
    )
noncomputable def b_X0_port_93 (x : Nat) (l1 : Option Nat) (s0 : Option Nat) (s1 : Int32) (m : MM) : Option (((Option Nat × Int32 × MM) ⊕ (Option Nat × Int32 × MM)) ⊕ (Int32 × MM)) :=
  bd (pI m s0 1 12 50 s1) fun m1 =>
  if l1 = none then (
    b_X0_port_109 x l1 (some x) (-1 : Int32) m1
    ) else (
    bd (gI m1 l1 5 7) fun v2 =>
    b_X0_port_109 x l1 (some x) v2 m1
    )
noncomputable def b_X0_port_80 (x : Nat) (l1 : Option Nat) (m : MM) : Option (((Option Nat × Int32 × MM) ⊕ (Option Nat × Int32 × MM)) ⊕ (Int32 × MM)) :=
  if l1 = none then (
    b_X0_port_93 x l1 (some x) (0 : Int32) m
    ) else (
    bd (gI m l1 5 6) fun v1 =>
    b_X0_port_93 x l1 (some x) v1 m
    )
noncomputable def b_X0_port_56 (x : Nat) (l1 : Option Nat) (l2 : Int32) (m : MM) : Option (((Option Nat × Int32 × MM) ⊕ (Option Nat × Int32 × MM)) ⊕ (Int32 × MM)) :=
  if (3 : Int32) ≤ l2 then (
    b_X0_port_80 x l1 m
    ) else (
    bd (sI m 52 (m.R x 33) l2 (0 : Int32)) fun m1 =>
    some (.inl (.inr (l1, (l2 + (1 : Int32)), m1)))
    )
noncomputable def b_X0_port_35 (x : Nat) (l1 : Option Nat) (l2 : Int32) (m : MM) : Option (((Option Nat × Int32 × MM) ⊕ (Option Nat × Int32 × MM)) ⊕ (Int32 × MM)) :=
  if (6 : Int32) ≤ l2 then (
    some (.inl (.inr (l1, (0 : Int32), m)))
    ) else (
    bd (sI m 50 (m.R x 29) l2 (-1 : Int32)) fun m1 =>
    some (.inl (.inl (l1, (l2 + (1 : Int32)), m1)))
    )
noncomputable def b_X0_port_0 (x : Nat) (m : MM) : Option (((Option Nat × Int32 × MM) ⊕ (Option Nat × Int32 × MM)) ⊕ (Int32 × MM)) :=
  bd (nO m 4 7) fun m1 =>
  bd (isK m1 (some m.n) 4) fun a2 =>
  bd2 (f_X3_init a2 (some x) m1) fun _ m3 =>
  bd (isK m3 (some m.n) 4) fun a4 =>
  bdc (f_X3_text a4 m3) (fun q7 m8 =>
    if (m8.K q7).1 = 5 then (
      b_X0_port_80 x (some q7) m8
      ) else none) fun v5 m6 =>
  bd (pR m6 (some x) 1 14 v5) fun m9 =>
  bd2 (f_X0_begin x m9) fun _ m10 =>
  bd (pI m10 (some x) 1 23 50 (0 : Int32)) fun m11 =>
  bd (isK m11 (m11.R x 31) 9) fun a12 =>
  bd2 (f_J2_clear a12 m11) fun _ m13 =>
  some (.inl (.inl (none, (0 : Int32), m13)))
noncomputable def s_X0_port (x : Nat) : ((Option Nat × Int32 × MM) ⊕ (Option Nat × Int32 × MM)) → Option (((Option Nat × Int32 × MM) ⊕ (Option Nat × Int32 × MM)) ⊕ (Int32 × MM)) := fun z => match z with
  | (.inl (l1, l2, m)) => b_X0_port_35 x l1 l2 m
  | (.inr (l1, l2, m)) => b_X0_port_56 x l1 l2 m
noncomputable def f_X0_port (x : Nat) (m : MM) : Option (Int32 × MM) := bd (b_X0_port_0 x m) (rx_go (s_X0_port x))
noncomputable def b_X0_fault_0 (x : Nat) (l1 : Int32) (m : MM) : Option (Int32 × MM) :=
  if l1 = 0 then (
    some ((m.I x 12), m)
    ) else (
    if l1 = (1 : Int32) then (
      some ((m.I x 13), m)
      ) else (
      some ((-1 : Int32), m)
      )
    )
noncomputable def f_X0_fault (x : Nat) (l1 : Int32) (m : MM) : Option (Int32 × MM) := b_X0_fault_0 x l1 m
noncomputable def b_X0_isIn_0 (l0 : Int32) (l1 : Int32) (l2 : Int32) (m : MM) : Option (Int32 × MM) :=
  if l0 < l1 then (
    some ((0 : Int32), m)
    ) else (
    if l2 < l0 then (
      some ((0 : Int32), m)
      ) else (
      some ((1 : Int32), m)
      )
    )
noncomputable def f_X0_isIn (l0 : Int32) (l1 : Int32) (l2 : Int32) (m : MM) : Option (Int32 × MM) := b_X0_isIn_0 l0 l1 l2 m
noncomputable def b_X0_isGuild_0 (l0 : Int32) (m : MM) : Option (Int32 × MM) :=
  bd2 (f_X0_isIn l0 (0 : Int32) (2 : Int32) m) fun v1 m2 =>
  if fitT 52 v1 = true then some (v1, m2) else none
noncomputable def f_X0_isGuild (l0 : Int32) (m : MM) : Option (Int32 × MM) := b_X0_isGuild_0 l0 m
noncomputable def b_X0_isWord_0 (x : Nat) (l1 : Int32) (m : MM) : Option (Int32 × MM) :=
  bd (gR m (m.R x 14) 2 0) fun v1 =>
  bd (isK m v1 9) fun a2 =>
  bd2 (f_J2_size a2 m) fun v3 m4 =>
  bd2 (f_X0_isIn l1 (0 : Int32) (v3 - (1 : Int32)) m4) fun v5 m6 =>
  if fitT 52 v5 = true then some (v5, m6) else none
noncomputable def f_X0_isWord (x : Nat) (l1 : Int32) (m : MM) : Option (Int32 × MM) := b_X0_isWord_0 x l1 m
noncomputable def b_X0_worth_0 (x : Nat) (l1 : Int32) (l2 : Int32) (m : MM) : Option (Int32 × MM) :=
  bd2 (f_X0_isWord x l1 m) fun v1 m2 =>
  if v1 = 0 then (
    some ((-1000000 : Int32), m2)
    ) else (
    bd2 (f_X0_isGuild l2 m2) fun v3 m4 =>
    if v3 = 0 then (
      some ((-1000000 : Int32), m4)
      ) else (
      bd (gR m4 (m4.R x 14) 2 2) fun v5 =>
      bd (aI m4 50 v5 (((3 : Int32) * l1) + l2)) fun v6 =>
      some (v6, m4)
      )
    )
noncomputable def f_X0_worth (x : Nat) (l1 : Int32) (l2 : Int32) (m : MM) : Option (Int32 × MM) := b_X0_worth_0 x l1 l2 m
noncomputable def b_X0_behind_0 (x : Nat) (l1 : Int32) (l2 : Int32) (l3 : Int32) (m : MM) : Option (Int32 × MM) :=
  bd2 (f_X0_isWord x l1 m) fun v1 m2 =>
  if v1 = 0 then (
    some ((-1000000 : Int32), m2)
    ) else (
    bd2 (f_X0_isWord x l2 m2) fun v3 m4 =>
    if v3 = 0 then (
      some ((-1000000 : Int32), m4)
      ) else (
      bd2 (f_X0_isGuild l3 m4) fun v5 m6 =>
      if v5 = 0 then (
        some ((-1000000 : Int32), m6)
        ) else (
        bd (gR m6 (m6.R x 14) 2 3) fun v7 =>
        bd (aI m6 50 v7 (((3 : Int32) * (((8 : Int32) * l1) + l2)) + l3)) fun v8 =>
        some (v8, m6)
        )
      )
    )
noncomputable def f_X0_behind (x : Nat) (l1 : Int32) (l2 : Int32) (l3 : Int32) (m : MM) : Option (Int32 × MM) := b_X0_behind_0 x l1 l2 l3 m
noncomputable def b_X0_exchange_2 (x : Nat) (l1 : Option Nat) (l2 : Int32) (m : MM) : Option (((Int32 × MM)) ⊕ (Unit × MM)) :=
  if (13 : Int32) ≤ l2 then (
    some (.inr ((), m))
    ) else (
    bd (aI m 50 l1 l2) fun v1 =>
    bd (aI m 50 (m.R x 16) l2) fun v2 =>
    bd (sI m 50 l1 l2 v2) fun m3 =>
    bd (sI m3 50 (m3.R x 16) l2 v1) fun m4 =>
    some (.inl ((l2 + (1 : Int32)), m4))
    )
noncomputable def b_X0_exchange_0 (x : Nat) (l1 : Option Nat) (m : MM) : Option (((Int32 × MM)) ⊕ (Unit × MM)) :=
  some (.inl ((0 : Int32), m))
noncomputable def s_X0_exchange (x : Nat) (l1 : Option Nat) : ((Int32 × MM)) → Option (((Int32 × MM)) ⊕ (Unit × MM)) := fun z => match z with
  | (l2, m) => b_X0_exchange_2 x l1 l2 m
noncomputable def f_X0_exchange (x : Nat) (l1 : Option Nat) (m : MM) : Option (Unit × MM) := bd (b_X0_exchange_0 x l1 m) (rx_go (s_X0_exchange x l1))
noncomputable def b_X0_undo_0 (x : Nat) (m : MM) : Option (Int32 × MM) :=
  if (m.I x 18) = 0 then (
    some ((0 : Int32), m)
    ) else (
    bd (pI m (some x) 1 18 50 ((m.I x 18) - (1 : Int32))) fun m1 =>
    bd (pI m1 (some x) 1 19 50 ((m1.I x 19) + (1 : Int32))) fun m2 =>
    bd (aR m2 55 (m2.R x 17) (m2.I x 18)) fun v3 =>
    bd2 (f_X0_exchange x v3 m2) fun _ m4 =>
    some ((1 : Int32), m4)
    )
noncomputable def f_X0_undo (x : Nat) (m : MM) : Option (Int32 × MM) := b_X0_undo_0 x m
noncomputable def b_X0_redo_0 (x : Nat) (m : MM) : Option (Int32 × MM) :=
  if (m.I x 19) = 0 then (
    some ((0 : Int32), m)
    ) else (
    bd (aR m 55 (m.R x 17) (m.I x 18)) fun v1 =>
    bd2 (f_X0_exchange x v1 m) fun _ m2 =>
    bd (pI m2 (some x) 1 18 50 ((m2.I x 18) + (1 : Int32))) fun m3 =>
    bd (pI m3 (some x) 1 19 50 ((m3.I x 19) - (1 : Int32))) fun m4 =>
    some ((1 : Int32), m4)
    )
noncomputable def f_X0_redo (x : Nat) (m : MM) : Option (Int32 × MM) := b_X0_redo_0 x m
noncomputable def b_X1_most_0 (x : Nat) (m : MM) : Option (Int32 × MM) :=
  if (m.I x 8) = 0 then (
    some ((3 : Int32), m)
    ) else (
    some ((m.I x 8), m)
    )
noncomputable def f_X1_most (x : Nat) (m : MM) : Option (Int32 × MM) := b_X1_most_0 x m
noncomputable def b_X0_isPlace_0 (x : Nat) (l1 : Int32) (m : MM) : Option (Int32 × MM) :=
  bd (isK m (m.R x 14) 2) fun a1 =>
  bd2 (f_X1_most a1 m) fun v2 m3 =>
  bd2 (f_X0_isIn l1 (0 : Int32) (v2 - (1 : Int32)) m3) fun v4 m5 =>
  if fitT 52 v4 = true then some (v4, m5) else none
noncomputable def f_X0_isPlace (x : Nat) (l1 : Int32) (m : MM) : Option (Int32 × MM) := b_X0_isPlace_0 x l1 m
noncomputable def b_X0_turn_0 (x : Nat) (l1 : Int32) (m : MM) : Option (Int32 × MM) :=
  bd2 (f_X0_isPlace x l1 m) fun v1 m2 =>
  if v1 = 0 then (
    some ((-1 : Int32), m2)
    ) else (
    bd (aI m2 50 (m2.R x 16) ((6 : Int32) + l1)) fun v3 =>
    some (v3, m2)
    )
noncomputable def f_X0_turn (x : Nat) (l1 : Int32) (m : MM) : Option (Int32 × MM) := b_X0_turn_0 x l1 m
noncomputable def b_X0_act_49 (x : Nat) (m : MM) : Option (Unit × MM) :=
  bd (aR m 55 (m.R x 17) (m.I x 18)) fun v1 =>
  bd (cI m 50 (m.R x 16) (0 : Int32) v1 (0 : Int32) (13 : Int32)) fun m2 =>
  bd (pI m2 (some x) 1 18 50 ((m2.I x 18) + (1 : Int32))) fun m3 =>
  bd (pI m3 (some x) 1 19 50 (0 : Int32)) fun m4 =>
  some ((), m4)
noncomputable def b_X0_act_0 (x : Nat) (m : MM) : Option (Unit × MM) :=
  if (m.I x 18) = (40 : Int32) then (
    bd (aR m 55 (m.R x 17) (0 : Int32)) fun v1 =>
    bd (cR m 55 (m.R x 17) (1 : Int32) (m.R x 17) (0 : Int32) (39 : Int32)) fun m2 =>
    bd (sR m2 55 (m2.R x 17) (39 : Int32) v1) fun m3 =>
    bd (pI m3 (some x) 1 18 50 ((m3.I x 18) - (1 : Int32))) fun m4 =>
    b_X0_act_49 x m4
    ) else (
    b_X0_act_49 x m
    )
noncomputable def f_X0_act (x : Nat) (m : MM) : Option (Unit × MM) := b_X0_act_0 x m
noncomputable def b_J2_isEmpty_0 (x : Nat) (m : MM) : Option (Int32 × MM) :=
  if (m.I x 2) = 0 then (
    some ((1 : Int32), m)
    ) else (
    some ((0 : Int32), m)
    )
noncomputable def f_J2_isEmpty (x : Nat) (m : MM) : Option (Int32 × MM) := b_J2_isEmpty_0 x m
noncomputable def b_X0_span_0 (l0 : Int32) (l1 : Int32) (l2 : Int32) (m : MM) : Option (Int32 × MM) :=
  some (((((l0 * (7 : Int32)) + l1) * (7 : Int32)) + l2), m)
noncomputable def f_X0_span (l0 : Int32) (l1 : Int32) (l2 : Int32) (m : MM) : Option (Int32 × MM) := b_X0_span_0 l0 l1 l2 m
noncomputable def b_X0_reads_0 (x : Nat) (l1 : Int32) (l2 : Int32) (l3 : Int32) (m : MM) : Option (Int64 × MM) :=
  if l1 < (8 : Int32) then (
    if l3 = (l2 + (1 : Int32)) then (
      bd (aI m 50 (m.R x 0) l2) fun v1 =>
      if v1 = l1 then (
        some ((1 : Int64), m)
        ) else (
        bd (aI m 50 (m.R x 0) l2) fun v2 =>
        if v2 = (-1 : Int32) then (
          some ((1 : Int64), m)
          ) else (
          some ((0 : Int64), m)
          )
        )
      ) else (
      some ((0 : Int64), m)
      )
    ) else (
    bd2 (f_X0_span (l1 - (8 : Int32)) l2 l3 m) fun v3 m4 =>
    bd (aL m4 (m.R x 1) v3) fun v5 =>
    some (v5, m4)
    )
noncomputable def f_X0_reads (x : Nat) (l1 : Int32) (l2 : Int32) (l3 : Int32) (m : MM) : Option (Int64 × MM) := b_X0_reads_0 x l1 l2 l3 m
noncomputable def b_X0_cover_27 (rf : Option Nat → Option Nat → Int32 → Int32 → Int32 → MM → Option (Int64 × MM)) (l0 : Option Nat) (l1 : Option Nat) (l2 : Int32) (l3 : Int32) (l4 : Int32) (l5 : Int64) (l7 : Int32) (m : MM) : Option (((Int64 × Int32 × MM)) ⊕ (Int64 × MM)) :=
  bd (aN m 50 l1) fun v1 =>
  if (l4 - ((v1 - (1 : Int32)) - l2)) < l7 then (
    some (.inr (l5, m))
    ) else (
    bd (aI m 50 l1 l2) fun v2 =>
    bd (isK m l0 1) fun a3 =>
    bd2 (f_X0_reads a3 v2 l3 l7 m) fun v4 m5 =>
    if (lg_cmp v4 (0 : Int64)) ≤ 0 then (
      some (.inl (l5, (l7 + (1 : Int32)), m5))
      ) else (
      bd2 (rf l0 l1 (l2 + (1 : Int32)) l7 l4 m5) fun v6 m7 =>
      some (.inl ((jl_min (1000000000 : Int64) (l5 + (v4 * v6))), (l7 + (1 : Int32)), m7))
      )
    )
noncomputable def b_X0_cover_0 (rf : Option Nat → Option Nat → Int32 → Int32 → Int32 → MM → Option (Int64 × MM)) (l0 : Option Nat) (l1 : Option Nat) (l2 : Int32) (l3 : Int32) (l4 : Int32) (m : MM) : Option (((Int64 × Int32 × MM)) ⊕ (Int64 × MM)) :=
  bd (aN m 50 l1) fun v1 =>
  if l2 = (v1 - (1 : Int32)) then (
    bd (aI m 50 l1 l2) fun v2 =>
    bd (isK m l0 1) fun a3 =>
    bd2 (f_X0_reads a3 v2 l3 l4 m) fun v4 m5 =>
    some (.inr (v4, m5))
    ) else (
    some (.inl ((0 : Int64), (l3 + (1 : Int32)), m))
    )
noncomputable def s_X0_cover (rf : Option Nat → Option Nat → Int32 → Int32 → Int32 → MM → Option (Int64 × MM)) (l0 : Option Nat) (l1 : Option Nat) (l2 : Int32) (l3 : Int32) (l4 : Int32) : ((Int64 × Int32 × MM)) → Option (((Int64 × Int32 × MM)) ⊕ (Int64 × MM)) := fun z => match z with
  | (l5, l7, m) => b_X0_cover_27 rf l0 l1 l2 l3 l4 l5 l7 m
noncomputable def f_X0_cover : Nat → Option Nat → Option Nat → Int32 → Int32 → Int32 → MM → Option (Int64 × MM)
  | 0 => fun _ _ _ _ _ _ => none
  | dd + 1 => fun l0 l1 l2 l3 l4 m => bd (b_X0_cover_0 (f_X0_cover dd) l0 l1 l2 l3 l4 m) (rx_go (s_X0_cover (f_X0_cover dd) l0 l1 l2 l3 l4))
noncomputable def b_X0_readings_77 (x : Nat) (l1 : Int32) (l2 : Int32) (l3 : Int32) (l4 : Int32) (l5 : Option Nat) (l6 : Int64) (l8 : Int32) (m : MM) : Option (((Int32 × MM) ⊕ (Int32 × Int32 × MM) ⊕ (Int32 × Int32 × Int32 × MM) ⊕ (Int32 × Int32 × Int32 × Option Nat × Int64 × Int32 × MM)) ⊕ (Int64 × MM)) :=
  bd (gR m l5 6 1) fun v1 =>
  bd (isK m v1 9) fun a2 =>
  bd2 (f_J2_size a2 m) fun v3 m4 =>
  if v3 ≤ l8 then (
    bd2 (f_X0_span l4 l3 (l3 + l2) m4) fun v5 m6 =>
    bd (sL m6 (m4.R x 1) v5 l6) fun m7 =>
    some (.inl (.inr (.inr (.inl (l2, l3, (l4 + (-1 : Int32)), m7)))))
    ) else (
    bd (gR m4 l5 6 1) fun v8 =>
    bd (isK m4 v8 9) fun a9 =>
    bd2 (f_J2_get a9 l8 m4) fun v10 m11 =>
    if okC m11 7 v10 = true then (
      bd (gR m11 v10 7 2) fun v12 =>
      bd (aN m11 50 v12) fun v13 =>
      if l2 < v13 then (
        some (.inl (.inr (.inr (.inr (l2, l3, l4, l5, l6, (l8 + (1 : Int32)), m11)))))
        ) else (
        bd (gR m11 l5 6 1) fun v14 =>
        bd (isK m11 v14 9) fun a15 =>
        bd2 (f_J2_get a15 l8 m11) fun v16 m17 =>
        if okC m17 7 v16 = true then (
          bd (gR m17 v16 7 2) fun v18 =>
          bd2 (f_X0_cover 9 (some x) v18 (0 : Int32) l3 (l3 + l2) m17) fun v19 m20 =>
          some (.inl (.inr (.inr (.inr (l2, l3, l4, l5, (jl_min (1000000000 : Int64) (l6 + v19)), (l8 + (1 : Int32)), m20)))))
          ) else none
        )
      ) else none
    )
noncomputable def b_X0_readings_49 (x : Nat) (l1 : Int32) (l2 : Int32) (l3 : Int32) (l4 : Int32) (m : MM) : Option (((Int32 × MM) ⊕ (Int32 × Int32 × MM) ⊕ (Int32 × Int32 × Int32 × MM) ⊕ (Int32 × Int32 × Int32 × Option Nat × Int64 × Int32 × MM)) ⊕ (Int64 × MM)) :=
  if l4 < 0 then (
    some (.inl (.inr (.inl (l2, (l3 + (1 : Int32)), m))))
    ) else (
    bd (gR m (m.R x 14) 2 1) fun v1 =>
    bd (isK m v1 9) fun a2 =>
    bd2 (f_J2_get a2 l4 m) fun v3 m4 =>
    if okC m4 6 v3 = true then (
      some (.inl (.inr (.inr (.inr (l2, l3, l4, v3, (0 : Int64), (0 : Int32), m4)))))
      ) else none
    )
noncomputable def b_X0_readings_28 (x : Nat) (l1 : Int32) (l2 : Int32) (l3 : Int32) (m : MM) : Option (((Int32 × MM) ⊕ (Int32 × Int32 × MM) ⊕ (Int32 × Int32 × Int32 × MM) ⊕ (Int32 × Int32 × Int32 × Option Nat × Int64 × Int32 × MM)) ⊕ (Int64 × MM)) :=
  if l1 < (l3 + l2) then (
    some (.inl (.inl ((l2 + (1 : Int32)), m)))
    ) else (
    bd (gR m (m.R x 14) 2 1) fun v1 =>
    bd (isK m v1 9) fun a2 =>
    bd2 (f_J2_size a2 m) fun v3 m4 =>
    some (.inl (.inr (.inr (.inl (l2, l3, (v3 - (1 : Int32)), m4)))))
    )
noncomputable def b_X0_readings_21 (x : Nat) (l1 : Int32) (l2 : Int32) (m : MM) : Option (((Int32 × MM) ⊕ (Int32 × Int32 × MM) ⊕ (Int32 × Int32 × Int32 × MM) ⊕ (Int32 × Int32 × Int32 × Option Nat × Int64 × Int32 × MM)) ⊕ (Int64 × MM)) :=
  if l1 < l2 then (
    bd2 (f_X0_span (0 : Int32) (0 : Int32) l1 m) fun v1 m2 =>
    bd (aL m2 (m.R x 1) v1) fun v3 =>
    some (.inr (v3, m2))
    ) else (
    some (.inl (.inr (.inl (l2, (0 : Int32), m))))
    )
noncomputable def b_X0_readings_0 (x : Nat) (l1 : Int32) (m : MM) : Option (((Int32 × MM) ⊕ (Int32 × Int32 × MM) ⊕ (Int32 × Int32 × Int32 × MM) ⊕ (Int32 × Int32 × Int32 × Option Nat × Int64 × Int32 × MM)) ⊕ (Int64 × MM)) :=
  bd (gR m (m.R x 14) 2 1) fun v1 =>
  bd (isK m v1 9) fun a2 =>
  bd2 (f_J2_isEmpty a2 m) fun v3 m4 =>
  if v3 = 0 then (
    if l1 = 0 then (
      some (.inr ((0 : Int64), m4))
      ) else (
      some (.inl (.inl ((1 : Int32), m4)))
      )
    ) else (
    some (.inr ((0 : Int64), m4))
    )
noncomputable def s_X0_readings (x : Nat) (l1 : Int32) : ((Int32 × MM) ⊕ (Int32 × Int32 × MM) ⊕ (Int32 × Int32 × Int32 × MM) ⊕ (Int32 × Int32 × Int32 × Option Nat × Int64 × Int32 × MM)) → Option (((Int32 × MM) ⊕ (Int32 × Int32 × MM) ⊕ (Int32 × Int32 × Int32 × MM) ⊕ (Int32 × Int32 × Int32 × Option Nat × Int64 × Int32 × MM)) ⊕ (Int64 × MM)) := fun z => match z with
  | (.inl (l2, m)) => b_X0_readings_21 x l1 l2 m
  | (.inr (.inl (l2, l3, m))) => b_X0_readings_28 x l1 l2 l3 m
  | (.inr (.inr (.inl (l2, l3, l4, m)))) => b_X0_readings_49 x l1 l2 l3 l4 m
  | (.inr (.inr (.inr (l2, l3, l4, l5, l6, l8, m)))) => b_X0_readings_77 x l1 l2 l3 l4 l5 l6 l8 m
noncomputable def f_X0_readings (x : Nat) (l1 : Int32) (m : MM) : Option (Int64 × MM) := bd (b_X0_readings_0 x l1 m) (rx_go (s_X0_readings x l1))
noncomputable def b_X0_canGoOn_10 (x : Nat) (l1 : Int32) (l2 : Int32) (l3 : Int32) (m : MM) : Option (((Int32 × Int32 × MM)) ⊕ (Int32 × MM)) :=
  if l2 ≤ l3 then (
    bd2 (f_X0_readings x l2 m) fun v1 m2 =>
    if (lg_cmp v1 (0 : Int64)) ≤ 0 then (
      some (.inr ((0 : Int32), m2))
      ) else (
      some (.inr ((1 : Int32), m2))
      )
    ) else (
    bd (sI m 50 (m.R x 0) l3 (-1 : Int32)) fun m3 =>
    some (.inl (l2, (l3 + (1 : Int32)), m3))
    )
noncomputable def b_X0_canGoOn_0 (x : Nat) (l1 : Int32) (m : MM) : Option (((Int32 × Int32 × MM)) ⊕ (Int32 × MM)) :=
  bd (isK m (m.R x 14) 2) fun a1 =>
  bd2 (f_X1_most a1 m) fun v2 m3 =>
  some (.inl (v2, l1, m3))
noncomputable def s_X0_canGoOn (x : Nat) (l1 : Int32) : ((Int32 × Int32 × MM)) → Option (((Int32 × Int32 × MM)) ⊕ (Int32 × MM)) := fun z => match z with
  | (l2, l3, m) => b_X0_canGoOn_10 x l1 l2 l3 m
noncomputable def f_X0_canGoOn (x : Nat) (l1 : Int32) (m : MM) : Option (Int32 × MM) := bd (b_X0_canGoOn_0 x l1 m) (rx_go (s_X0_canGoOn x l1))
noncomputable def b_X0_load_0 (x : Nat) (l1 : Option Nat) (l2 : Int32) (m : MM) : Option (Unit × MM) :=
  bd (cI m 50 l1 (0 : Int32) (m.R x 0) (0 : Int32) l2) fun m1 =>
  some ((), m1)
noncomputable def f_X0_load (x : Nat) (l1 : Option Nat) (l2 : Int32) (m : MM) : Option (Unit × MM) := b_X0_load_0 x l1 l2 m
noncomputable def b_X0_canCome_0 (x : Nat) (l1 : Int32) (m : MM) : Option (Int32 × MM) :=
  bd (aI m 50 (m.R x 16) (12 : Int32)) fun v1 =>
  bd (isK m (m.R x 14) 2) fun a2 =>
  bd2 (f_X1_most a2 m) fun v3 m4 =>
  if v1 = v3 then (
    some ((0 : Int32), m4)
    ) else (
    bd2 (f_X0_isWord x l1 m4) fun v5 m6 =>
    if v5 = 0 then (
      some ((0 : Int32), m6)
      ) else (
      bd2 (f_X0_load x (m6.R x 16) v1 m6) fun _ m7 =>
      bd (sI m7 50 (m7.R x 0) v1 l1) fun m8 =>
      bd2 (f_X0_canGoOn x (v1 + (1 : Int32)) m8) fun v9 m10 =>
      if fitT 52 v9 = true then some (v9, m10) else none
      )
    )
noncomputable def f_X0_canCome (x : Nat) (l1 : Int32) (m : MM) : Option (Int32 × MM) := b_X0_canCome_0 x l1 m
noncomputable def b_X0_write_0 (x : Nat) (l1 : Int32) (m : MM) : Option (Int32 × MM) :=
  bd2 (f_X0_canCome x l1 m) fun v1 m2 =>
  if v1 = 0 then (
    some ((-1 : Int32), m2)
    ) else (
    bd2 (f_X0_act x m2) fun _ m3 =>
    bd (aI m3 50 (m3.R x 16) (12 : Int32)) fun v4 =>
    bd (sI m3 50 (m3.R x 16) v4 l1) fun m5 =>
    bd (aI m5 50 (m5.R x 16) (12 : Int32)) fun v6 =>
    bd (sI m5 50 (m5.R x 16) (12 : Int32) (v6 + (1 : Int32))) fun m7 =>
    bd (aI m7 50 (m7.R x 16) (12 : Int32)) fun v8 =>
    some (v8, m7)
    )
noncomputable def f_X0_write (x : Nat) (l1 : Int32) (m : MM) : Option (Int32 × MM) := b_X0_write_0 x l1 m
noncomputable def b_X0_sell_0 (x : Nat) (l1 : Int32) (l2 : Int32) (m : MM) : Option (Int32 × MM) :=
  bd2 (f_X0_isPlace x l1 m) fun v1 m2 =>
  if v1 = 0 then (
    some ((-1 : Int32), m2)
    ) else (
    bd (aI m2 50 (m2.R x 16) (12 : Int32)) fun v3 =>
    if l1 < v3 then (
      some ((-1 : Int32), m2)
      ) else (
      bd2 (f_X0_isGuild l2 m2) fun v4 m5 =>
      if v4 = 0 then (
        some ((-1 : Int32), m5)
        ) else (
        bd2 (f_X0_act x m5) fun _ m6 =>
        bd (aI m6 50 (m6.R x 16) ((6 : Int32) + l1)) fun v7 =>
        bd (sI m6 50 (m6.R x 16) ((6 : Int32) + l1) l2) fun m8 =>
        some (v7, m8)
        )
      )
    )
noncomputable def f_X0_sell (x : Nat) (l1 : Int32) (l2 : Int32) (m : MM) : Option (Int32 × MM) := b_X0_sell_0 x l1 l2 m
noncomputable def b_X0_wipe_0 (x : Nat) (m : MM) : Option (Int32 × MM) :=
  bd (aI m 50 (m.R x 16) (12 : Int32)) fun v1 =>
  bd2 (f_X0_begin x m) fun _ m2 =>
  some (v1, m2)
noncomputable def f_X0_wipe (x : Nat) (m : MM) : Option (Int32 × MM) := b_X0_wipe_0 x m
noncomputable def b_X0_word_0 (x : Nat) (l1 : Int32) (m : MM) : Option (Int32 × MM) :=
  bd (aI m 50 (m.R x 16) (12 : Int32)) fun v1 =>
  bd2 (f_X0_isIn l1 (0 : Int32) (v1 - (1 : Int32)) m) fun v2 m3 =>
  if v2 = 0 then (
    some ((-1 : Int32), m3)
    ) else (
    bd (aI m3 50 (m3.R x 16) l1) fun v4 =>
    some (v4, m3)
    )
noncomputable def f_X0_word (x : Nat) (l1 : Int32) (m : MM) : Option (Int32 × MM) := b_X0_word_0 x l1 m
noncomputable def b_X0_next_4 (x : Nat) (l1 : Int32) (l2 : Int32) (m : MM) : Option (((Int32 × Int32 × MM)) ⊕ (Int32 × MM)) :=
  bd (gR m (m.R x 14) 2 0) fun v1 =>
  bd (isK m v1 9) fun a2 =>
  bd2 (f_J2_size a2 m) fun v3 m4 =>
  if v3 ≤ l2 then (
    some (.inr (l1, m4))
    ) else (
    bd2 (f_X0_canCome x l2 m4) fun v5 m6 =>
    if v5 = 0 then (
      some (.inl ((l1 ||| (0 : Int32)), (l2 + (1 : Int32)), m6))
      ) else (
      some (.inl ((l1 ||| (ji_shl (1 : Int32) l2)), (l2 + (1 : Int32)), m6))
      )
    )
noncomputable def b_X0_next_0 (x : Nat) (m : MM) : Option (((Int32 × Int32 × MM)) ⊕ (Int32 × MM)) :=
  some (.inl ((0 : Int32), (0 : Int32), m))
noncomputable def s_X0_next (x : Nat) : ((Int32 × Int32 × MM)) → Option (((Int32 × Int32 × MM)) ⊕ (Int32 × MM)) := fun z => match z with
  | (l1, l2, m) => b_X0_next_4 x l1 l2 m
noncomputable def f_X0_next (x : Nat) (m : MM) : Option (Int32 × MM) := bd (b_X0_next_0 x m) (rx_go (s_X0_next x))
noncomputable def b_X0_readings_2_0 (x : Nat) (m : MM) : Option (Int32 × MM) :=
  bd (aI m 50 (m.R x 16) (12 : Int32)) fun v1 =>
  bd2 (f_X0_load x (m.R x 16) v1 m) fun _ m2 =>
  bd (aI m2 50 (m2.R x 16) (12 : Int32)) fun v3 =>
  bd2 (f_X0_readings x v3 m2) fun v4 m5 =>
  some ((v4).toInt32, m5)
noncomputable def f_X0_readings_2 (x : Nat) (m : MM) : Option (Int32 × MM) := b_X0_readings_2_0 x m
noncomputable def b_X0_meaning_6 (x : Nat) (l1 : Option Nat) (l2 : Int32) (l3 : Int32) (l4 : Int32) (l5 : Int32) (m : MM) : Option (((Int32 × Int32 × MM)) ⊕ (Int32 × MM)) :=
  if l2 ≤ l5 then (
    if l3 = (m.I x 24) then (
      bd (aI m 50 l1 (m.I x 25)) fun v1 =>
      if v1 = (m.I x 26) then (
        some (.inr ((l4 + (m.I x 27)), m))
        ) else (
        some (.inr (l4, m))
        )
      ) else (
      some (.inr (l4, m))
      )
    ) else (
    bd (gR m (m.R x 14) 2 2) fun v2 =>
    bd (aI m 50 l1 l5) fun v3 =>
    bd (aI m 50 v2 (((3 : Int32) * v3) + l3)) fun v4 =>
    if l5 ≤ 0 then (
      some (.inl ((l4 + v4), (l5 + (1 : Int32)), m))
      ) else (
      bd (gR m (m.R x 14) 2 3) fun v5 =>
      bd (aI m 50 l1 (l5 - (1 : Int32))) fun v6 =>
      bd (aI m 50 l1 l5) fun v7 =>
      bd (aI m 50 v5 (((3 : Int32) * (((8 : Int32) * v6) + v7)) + l3)) fun v8 =>
      some (.inl (((l4 + v4) + v8), (l5 + (1 : Int32)), m))
      )
    )
noncomputable def b_X0_meaning_0 (x : Nat) (l1 : Option Nat) (l2 : Int32) (l3 : Int32) (m : MM) : Option (((Int32 × Int32 × MM)) ⊕ (Int32 × MM)) :=
  some (.inl ((0 : Int32), (0 : Int32), m))
noncomputable def s_X0_meaning (x : Nat) (l1 : Option Nat) (l2 : Int32) (l3 : Int32) : ((Int32 × Int32 × MM)) → Option (((Int32 × Int32 × MM)) ⊕ (Int32 × MM)) := fun z => match z with
  | (l4, l5, m) => b_X0_meaning_6 x l1 l2 l3 l4 l5 m
noncomputable def f_X0_meaning (x : Nat) (l1 : Option Nat) (l2 : Int32) (l3 : Int32) (m : MM) : Option (Int32 × MM) := bd (b_X0_meaning_0 x l1 l2 l3 m) (rx_go (s_X0_meaning x l1 l2 l3))
noncomputable def b_X0_means_0 (x : Nat) (l1 : Int32) (m : MM) : Option (Int32 × MM) :=
  bd2 (f_X0_isGuild l1 m) fun v1 m2 =>
  if v1 = 0 then (
    some ((-1000000 : Int32), m2)
    ) else (
    bd (aI m2 50 (m2.R x 16) (12 : Int32)) fun v3 =>
    bd2 (f_X0_meaning x (m2.R x 16) v3 l1 m2) fun v4 m5 =>
    some (v4, m5)
    )
noncomputable def f_X0_means (x : Nat) (l1 : Int32) (m : MM) : Option (Int32 × MM) := b_X0_means_0 x l1 m
noncomputable def b_X0_pathOf_14 (x : Nat) (l1 : Int32) (l2 : Option Nat) (l3 : Int32) (l4 : Int32) (m : MM) : Option (((Int32 × MM)) ⊕ (Option Nat × MM)) :=
  if l4 ≤ 0 then (
    some (.inr ((m.R x 9), m))
    ) else (
    bd (aI m 50 (m.R x 4) l4) fun v1 =>
    bd (aI m 50 (m.R x 3) l4) fun v2 =>
    bd (sI m 50 (m.R x 9) (v1 - (1 : Int32)) v2) fun m3 =>
    bd (aI m3 50 (m3.R x 2) l4) fun v4 =>
    some (.inl (v4, m3))
    )
noncomputable def b_X0_pathOf_0 (x : Nat) (l1 : Int32) (l2 : Option Nat) (l3 : Int32) (m : MM) : Option (((Int32 × MM)) ⊕ (Option Nat × MM)) :=
  bd (cI m 50 l2 (0 : Int32) (m.R x 9) (0 : Int32) l3) fun m1 =>
  some (.inl (l1, m1))
noncomputable def s_X0_pathOf (x : Nat) (l1 : Int32) (l2 : Option Nat) (l3 : Int32) : ((Int32 × MM)) → Option (((Int32 × MM)) ⊕ (Option Nat × MM)) := fun z => match z with
  | (l4, m) => b_X0_pathOf_14 x l1 l2 l3 l4 m
noncomputable def f_X0_pathOf (x : Nat) (l1 : Int32) (l2 : Option Nat) (l3 : Int32) (m : MM) : Option (Option Nat × MM) := bd (b_X0_pathOf_0 x l1 l2 l3 m) (rx_go (s_X0_pathOf x l1 l2 l3))
noncomputable def b_X0_layDown_0 (x : Nat) (l1 : Int32) (l2 : Option Nat) (l3 : Int32) (m : MM) : Option (Unit × MM) :=
  bd2 (f_X0_pathOf x l1 l2 l3 m) fun v1 m2 =>
  bd (isK m2 (m2.R x 14) 2) fun a3 =>
  bd2 (f_X1_most a3 m2) fun v4 m5 =>
  bd (cI m5 50 v1 (0 : Int32) (m2.R x 21) (0 : Int32) v4) fun m6 =>
  bd (isK m6 (m6.R x 14) 2) fun a7 =>
  bd2 (f_X1_most a7 m6) fun v8 m9 =>
  bd (pI m9 (some x) 1 23 50 v8) fun m10 =>
  some ((), m10)
noncomputable def f_X0_layDown (x : Nat) (l1 : Int32) (l2 : Option Nat) (l3 : Int32) (m : MM) : Option (Unit × MM) := b_X0_layDown_0 x l1 l2 l3 m
noncomputable def b_X0_grow_66 (rf : Option Nat → Int32 → Option Nat → MM → Option (Unit × MM)) (l0 : Option Nat) (l1 : Int32) (l2 : Option Nat) (l3 : Int32) (l4 : Int32) (m : MM) : Option (((Int32 × Int32 × MM)) ⊕ (Unit × MM)) :=
  bd (gR m l0 1 0) fun v1 =>
  bd (sI m 50 v1 l3 l4) fun m2 =>
  bd (isK m2 l0 1) fun a3 =>
  bd2 (f_X0_canGoOn a3 (l3 + (1 : Int32)) m2) fun v4 m5 =>
  if v4 = 0 then (
    some (.inl (l3, (l4 + (1 : Int32)), m5))
    ) else (
    bd (gI m5 l0 1 7) fun v6 =>
    if v6 = (3000 : Int32) then (
      bd (pI m5 l0 1 8 52 (1 : Int32)) fun m17 =>
      some (.inr ((), m17))
      ) else (
      bd (gI m5 l0 1 7) fun v7 =>
      bd (gI m5 l0 1 7) fun v8 =>
      bd (pI m5 l0 1 7 50 (v8 + (1 : Int32))) fun m9 =>
      bd (gR m9 l0 1 2) fun v10 =>
      bd (sI m9 50 v10 v7 l1) fun m11 =>
      bd (gR m11 l0 1 3) fun v12 =>
      bd (sI m11 50 v12 v7 l4) fun m13 =>
      bd (gR m13 l0 1 4) fun v14 =>
      bd (sI m13 50 v14 v7 (l3 + (1 : Int32))) fun m15 =>
      bd2 (rf l0 v7 l2 m15) fun _ m16 =>
      some (.inl (l3, (l4 + (1 : Int32)), m16))
      )
    )
noncomputable def b_X0_grow_22 (rf : Option Nat → Int32 → Option Nat → MM → Option (Unit × MM)) (l0 : Option Nat) (l1 : Int32) (l2 : Option Nat) (l3 : Int32) (l4 : Int32) (m : MM) : Option (((Int32 × Int32 × MM)) ⊕ (Unit × MM)) :=
  bd (gR m l0 1 14) fun v1 =>
  bd (gR m v1 2 0) fun v2 =>
  bd (isK m v2 9) fun a3 =>
  bd2 (f_J2_size a3 m) fun v4 m5 =>
  if v4 ≤ l4 then (
    some (.inr ((), m5))
    ) else (
    bd (gI m5 l0 1 8) fun v6 =>
    if v6 = 0 then (
      if l2 = none then (
        b_X0_grow_66 rf l0 l1 l2 l3 l4 m5
        ) else (
        bd (aI m5 50 l2 l3) fun v7 =>
        if v7 = (-1 : Int32) then (
          b_X0_grow_66 rf l0 l1 l2 l3 l4 m5
          ) else (
          bd (aI m5 50 l2 l3) fun v8 =>
          if v8 = l4 then (
            b_X0_grow_66 rf l0 l1 l2 l3 l4 m5
            ) else (
            some (.inl (l3, (l4 + (1 : Int32)), m5))
            )
          )
        )
      ) else (
      some (.inr ((), m5))
      )
    )
noncomputable def b_X0_grow_0 (rf : Option Nat → Int32 → Option Nat → MM → Option (Unit × MM)) (l0 : Option Nat) (l1 : Int32) (l2 : Option Nat) (m : MM) : Option (((Int32 × Int32 × MM)) ⊕ (Unit × MM)) :=
  bd (gR m l0 1 4) fun v1 =>
  bd (aI m 50 v1 l1) fun v2 =>
  bd (gR m l0 1 14) fun v3 =>
  bd (isK m v3 2) fun a4 =>
  bd2 (f_X1_most a4 m) fun v5 m6 =>
  if v2 = v5 then (
    some (.inr ((), m6))
    ) else (
    some (.inl (v2, (0 : Int32), m6))
    )
noncomputable def s_X0_grow (rf : Option Nat → Int32 → Option Nat → MM → Option (Unit × MM)) (l0 : Option Nat) (l1 : Int32) (l2 : Option Nat) : ((Int32 × Int32 × MM)) → Option (((Int32 × Int32 × MM)) ⊕ (Unit × MM)) := fun z => match z with
  | (l3, l4, m) => b_X0_grow_22 rf l0 l1 l2 l3 l4 m
noncomputable def f_X0_grow : Nat → Option Nat → Int32 → Option Nat → MM → Option (Unit × MM)
  | 0 => fun _ _ _ _ => none
  | dd + 1 => fun l0 l1 l2 m => bd (b_X0_grow_0 (f_X0_grow dd) l0 l1 l2 m) (rx_go (s_X0_grow (f_X0_grow dd) l0 l1 l2))
noncomputable def b_X0_layTree_0 (x : Nat) (l1 : Option Nat) (l2 : Int32) (l3 : Option Nat) (m : MM) : Option (Int32 × MM) :=
  bd2 (f_X0_load x l1 l2 m) fun _ m1 =>
  bd (pI m1 (some x) 1 7 50 (1 : Int32)) fun m2 =>
  bd (pI m2 (some x) 1 8 52 (0 : Int32)) fun m3 =>
  bd (sI m3 50 (m3.R x 2) (0 : Int32) (-1 : Int32)) fun m4 =>
  bd (sI m4 50 (m4.R x 4) (0 : Int32) l2) fun m5 =>
  bd2 (f_X0_canGoOn x l2 m5) fun v6 m7 =>
  if v6 = 0 then (
    some ((0 : Int32), m7)
    ) else (
    bd2 (f_X0_load x l1 l2 m7) fun _ m8 =>
    bd2 (f_X0_grow 9 (some x) (0 : Int32) l3 m8) fun _ m9 =>
    some ((1 : Int32), m9)
    )
noncomputable def f_X0_layTree (x : Nat) (l1 : Option Nat) (l2 : Int32) (l3 : Option Nat) (m : MM) : Option (Int32 × MM) := b_X0_layTree_0 x l1 l2 l3 m
noncomputable def b_X0_meaningOf_0 (x : Nat) (l1 : Int32) (l2 : Option Nat) (l3 : Int32) (l4 : Int32) (m : MM) : Option (Int32 × MM) :=
  bd2 (f_X0_pathOf x l1 l2 l3 m) fun v1 m2 =>
  bd (isK m2 (m2.R x 14) 2) fun a3 =>
  bd2 (f_X1_most a3 m2) fun v4 m5 =>
  bd2 (f_X0_meaning x v1 v4 l4 m5) fun v6 m7 =>
  some (v6, m7)
noncomputable def f_X0_meaningOf (x : Nat) (l1 : Int32) (l2 : Option Nat) (l3 : Int32) (l4 : Int32) (m : MM) : Option (Int32 × MM) := b_X0_meaningOf_0 x l1 l2 l3 l4 m
noncomputable def b_X0_isWhole_0 (x : Nat) (l1 : Int32) (m : MM) : Option (Int32 × MM) :=
  bd (aI m 50 (m.R x 4) l1) fun v1 =>
  bd (isK m (m.R x 14) 2) fun a2 =>
  bd2 (f_X1_most a2 m) fun v3 m4 =>
  if v1 = v3 then (
    some ((1 : Int32), m4)
    ) else (
    some ((0 : Int32), m4)
    )
noncomputable def f_X0_isWhole (x : Nat) (l1 : Int32) (m : MM) : Option (Int32 × MM) := b_X0_isWhole_0 x l1 m
noncomputable def b_X0_write_2_127 (x : Nat) (l1 : Option Nat) (l2 : Int32) (l3 : Option Nat) (l4 : Int32) (l5 : Int32) (m : MM) : Option (((Int32 × MM) ⊕ (Int32 × MM)) ⊕ (Int32 × MM)) :=
  bd (aI m 50 (m.R x 5) l4) fun v1 =>
  bd (sI m 50 (m.R x 5) l5 v1) fun m2 =>
  some (.inl (.inr ((l4 + (-1 : Int32)), m2)))
noncomputable def b_X0_write_2_48 (x : Nat) (l1 : Option Nat) (l2 : Int32) (l3 : Option Nat) (l4 : Int32) (m : MM) : Option (((Int32 × MM) ⊕ (Int32 × MM)) ⊕ (Int32 × MM)) :=
  if l4 ≤ 0 then (
    bd (aI m 50 (m.R x 5) (0 : Int32)) fun v1 =>
    some (.inr (v1, m))
    ) else (
    bd (aI m 50 (m.R x 2) l4) fun v2 =>
    bd (aI m 50 (m.R x 4) v2) fun v3 =>
    bd (aI m 50 l3 v3) fun v4 =>
    bd (aI m 50 (m.R x 5) v2) fun v5 =>
    if v5 < 0 then (
      b_X0_write_2_127 x l1 l2 l3 l4 v2 m
      ) else (
      bd (aI m 50 (m.R x 5) l4) fun v6 =>
      bd2 (f_X0_pathOf x v6 l1 l2 m) fun v7 m8 =>
      bd (isK m8 (m8.R x 14) 2) fun a9 =>
      bd2 (f_X1_most a9 m8) fun v10 m11 =>
      bd2 (f_X0_meaning x v7 v10 v4 m11) fun v12 m13 =>
      bd (aI m13 50 (m13.R x 5) v2) fun v14 =>
      bd2 (f_X0_meaningOf x v14 l1 l2 v4 m13) fun v15 m16 =>
      if v12 < v15 then (
        some (.inl (.inr ((l4 + (-1 : Int32)), m16)))
        ) else (
        b_X0_write_2_127 x l1 l2 l3 l4 v2 m16
        )
      )
    )
noncomputable def b_X0_write_2_3 (x : Nat) (l1 : Option Nat) (l2 : Int32) (l3 : Option Nat) (l4 : Int32) (m : MM) : Option (((Int32 × MM) ⊕ (Int32 × MM)) ⊕ (Int32 × MM)) :=
  if (m.I x 7) ≤ l4 then (
    some (.inl (.inr (((m.I x 7) - (1 : Int32)), m)))
    ) else (
    bd2 (f_X0_isWhole x l4 m) fun v1 m2 =>
    if v1 = 0 then (
      bd (sI m2 50 (m.R x 5) l4 (-1 : Int32)) fun m3 =>
      some (.inl (.inl ((l4 + (1 : Int32)), m3)))
      ) else (
      bd (sI m2 50 (m.R x 5) l4 l4) fun m4 =>
      some (.inl (.inl ((l4 + (1 : Int32)), m4)))
      )
    )
noncomputable def b_X0_write_2_0 (x : Nat) (l1 : Option Nat) (l2 : Int32) (l3 : Option Nat) (m : MM) : Option (((Int32 × MM) ⊕ (Int32 × MM)) ⊕ (Int32 × MM)) :=
  some (.inl (.inl ((0 : Int32), m)))
noncomputable def s_X0_write_2 (x : Nat) (l1 : Option Nat) (l2 : Int32) (l3 : Option Nat) : ((Int32 × MM) ⊕ (Int32 × MM)) → Option (((Int32 × MM) ⊕ (Int32 × MM)) ⊕ (Int32 × MM)) := fun z => match z with
  | (.inl (l4, m)) => b_X0_write_2_3 x l1 l2 l3 l4 m
  | (.inr (l4, m)) => b_X0_write_2_48 x l1 l2 l3 l4 m
noncomputable def f_X0_write_2 (x : Nat) (l1 : Option Nat) (l2 : Int32) (l3 : Option Nat) (m : MM) : Option (Int32 × MM) := bd (b_X0_write_2_0 x l1 l2 l3 m) (rx_go (s_X0_write_2 x l1 l2 l3))
noncomputable def b_X0_written_0 (x : Nat) (l1 : Int32) (m : MM) : Option (Int32 × MM) :=
  bd (pI m (some x) 1 23 50 (0 : Int32)) fun m1 =>
  bd2 (f_X0_isGuild l1 m1) fun v2 m3 =>
  if v2 = 0 then (
    some ((-1000000 : Int32), m3)
    ) else (
    bd (aI m3 50 (m3.R x 16) (12 : Int32)) fun v4 =>
    bd2 (f_X0_layTree x (m3.R x 16) v4 none m3) fun v5 m6 =>
    if v5 = 0 then (
      some ((-1000000 : Int32), m6)
      ) else (
      if (m6.I x 8) = 0 then (
        bd (cI m6 50 (m6.R x 16) (6 : Int32) (m6.R x 20) (0 : Int32) (6 : Int32)) fun m7 =>
        bd (aI m7 50 (m7.R x 16) (12 : Int32)) fun v8 =>
        bd2 (f_X0_write_2 x (m7.R x 16) v8 (m7.R x 20) m7) fun v9 m10 =>
        bd (aI m10 50 (m10.R x 16) (12 : Int32)) fun v11 =>
        bd2 (f_X0_layDown x v9 (m10.R x 16) v11 m10) fun _ m12 =>
        bd (aI m12 50 (m12.R x 16) (12 : Int32)) fun v13 =>
        bd2 (f_X0_meaningOf x v9 (m12.R x 16) v13 l1 m12) fun v14 m15 =>
        some (v14, m15)
        ) else (
        some ((-1000000 : Int32), m6)
        )
      )
    )
noncomputable def f_X0_written (x : Nat) (l1 : Int32) (m : MM) : Option (Int32 × MM) := b_X0_written_0 x l1 m
noncomputable def b_X0_hasTree_0 (x : Nat) (m : MM) : Option (Int32 × MM) :=
  bd (aI m 50 (m.R x 16) (12 : Int32)) fun v1 =>
  bd2 (f_X0_layTree x (m.R x 16) v1 none m) fun v2 m3 =>
  if v2 = 0 then (
    some ((0 : Int32), m3)
    ) else (
    if (m3.I x 8) = 0 then (
      some ((1 : Int32), m3)
      ) else (
      some ((0 : Int32), m3)
      )
    )
noncomputable def f_X0_hasTree (x : Nat) (m : MM) : Option (Int32 × MM) := b_X0_hasTree_0 x m
noncomputable def b_X0_sumOf_5 (x : Nat) (l1 : Int32) (l2 : Int32) (l3 : Int32) (l4 : Int32) (m : MM) : Option (((Int32 × Int32 × MM)) ⊕ (Int32 × MM)) :=
  if (3 : Int32) ≤ l4 then (
    some (.inr (l3, m))
    ) else (
    if ((ji_shr l2 l4) &&& (1 : Int32)) = 0 then (
      some (.inl ((l3 + (0 : Int32)), (l4 + (1 : Int32)), m))
      ) else (
      bd (aI m 50 (m.R x 16) (12 : Int32)) fun v1 =>
      bd2 (f_X0_meaningOf x l1 (m.R x 16) v1 l4 m) fun v2 m3 =>
      some (.inl ((l3 + v2), (l4 + (1 : Int32)), m3))
      )
    )
noncomputable def b_X0_sumOf_0 (x : Nat) (l1 : Int32) (l2 : Int32) (m : MM) : Option (((Int32 × Int32 × MM)) ⊕ (Int32 × MM)) :=
  some (.inl ((0 : Int32), (0 : Int32), m))
noncomputable def s_X0_sumOf (x : Nat) (l1 : Int32) (l2 : Int32) : ((Int32 × Int32 × MM)) → Option (((Int32 × Int32 × MM)) ⊕ (Int32 × MM)) := fun z => match z with
  | (l3, l4, m) => b_X0_sumOf_5 x l1 l2 l3 l4 m
noncomputable def f_X0_sumOf (x : Nat) (l1 : Int32) (l2 : Int32) (m : MM) : Option (Int32 × MM) := bd (b_X0_sumOf_0 x l1 l2 m) (rx_go (s_X0_sumOf x l1 l2))
noncomputable def b_X0_hold_165 (x : Nat) (l1 : Int32) (l2 : Int32) (l3 : Int32) (m : MM) : Option (((Int32 × MM) ⊕ (Int32 × MM)) ⊕ (Int32 × MM)) :=
  bd (sI m 50 (m.R x 5) l3 (1 : Int32)) fun m1 =>
  some (.inl (.inr ((l2 + (-1 : Int32)), m1)))
noncomputable def b_X0_hold_153 (x : Nat) (l1 : Int32) (l2 : Int32) (l3 : Int32) (m : MM) : Option (((Int32 × MM) ⊕ (Int32 × MM)) ⊕ (Int32 × MM)) :=
  bd (aI m 50 (m.R x 6) l2) fun v1 =>
  bd (sI m 50 (m.R x 6) l3 v1) fun m2 =>
  b_X0_hold_165 x l1 l2 l3 m2
noncomputable def b_X0_hold_104 (x : Nat) (l1 : Int32) (l2 : Int32) (l3 : Int32) (s0 : Int32) (m : MM) : Option (((Int32 × MM) ⊕ (Int32 × MM)) ⊕ (Int32 × MM)) :=
  bd (aI m 50 (m.R x 5) l3) fun v1 =>
  if v1 = 0 then (
    b_X0_hold_153 x l1 l2 l3 m
    ) else (
    if s0 = 0 then (
      bd (aI m 50 (m.R x 6) l2) fun v2 =>
      bd (aI m 50 (m.R x 6) l3) fun v3 =>
      if v3 ≤ v2 then (
        b_X0_hold_165 x l1 l2 l3 m
        ) else (
        b_X0_hold_153 x l1 l2 l3 m
        )
      ) else (
      bd (aI m 50 (m.R x 6) l2) fun v4 =>
      bd (aI m 50 (m.R x 6) l3) fun v5 =>
      if v4 ≤ v5 then (
        b_X0_hold_165 x l1 l2 l3 m
        ) else (
        b_X0_hold_153 x l1 l2 l3 m
        )
      )
    )
noncomputable def b_X0_hold_66 (x : Nat) (l1 : Int32) (l2 : Int32) (m : MM) : Option (((Int32 × MM) ⊕ (Int32 × MM)) ⊕ (Int32 × MM)) :=
  if l2 ≤ 0 then (
    bd (aI m 50 (m.R x 6) (0 : Int32)) fun v1 =>
    some (.inr (v1, m))
    ) else (
    bd (aI m 50 (m.R x 2) l2) fun v2 =>
    bd (aI m 50 (m.R x 4) v2) fun v3 =>
    bd (aI m 50 (m.R x 16) ((6 : Int32) + v3)) fun v4 =>
    if ((ji_shr l1 v4) &&& (1 : Int32)) = (1 : Int32) then (
      b_X0_hold_104 x l1 l2 v2 (1 : Int32) m
      ) else (
      b_X0_hold_104 x l1 l2 v2 (0 : Int32) m
      )
    )
noncomputable def b_X0_hold_28 (x : Nat) (l1 : Int32) (l2 : Int32) (s0 : Option Nat) (s1 : Int32) (s2 : Int32) (m : MM) : Option (((Int32 × MM) ⊕ (Int32 × MM)) ⊕ (Int32 × MM)) :=
  bd (sI m 50 s0 s1 s2) fun m1 =>
  bd2 (f_X0_isWhole x l2 m1) fun v2 m3 =>
  if v2 = 0 then (
    bd (sI m3 50 (m1.R x 6) l2 (0 : Int32)) fun m4 =>
    some (.inl (.inl ((l2 + (1 : Int32)), m4)))
    ) else (
    bd2 (f_X0_sumOf x l2 l1 m3) fun v5 m6 =>
    bd (sI m6 50 (m1.R x 6) l2 v5) fun m7 =>
    some (.inl (.inl ((l2 + (1 : Int32)), m7)))
    )
noncomputable def b_X0_hold_2 (x : Nat) (l1 : Int32) (l2 : Int32) (m : MM) : Option (((Int32 × MM) ⊕ (Int32 × MM)) ⊕ (Int32 × MM)) :=
  if (m.I x 7) ≤ l2 then (
    some (.inl (.inr (((m.I x 7) - (1 : Int32)), m)))
    ) else (
    bd2 (f_X0_isWhole x l2 m) fun v1 m2 =>
    if v1 = 0 then (
      b_X0_hold_28 x l1 l2 (m.R x 5) l2 (0 : Int32) m2
      ) else (
      b_X0_hold_28 x l1 l2 (m.R x 5) l2 (1 : Int32) m2
      )
    )
noncomputable def b_X0_hold_0 (x : Nat) (l1 : Int32) (m : MM) : Option (((Int32 × MM) ⊕ (Int32 × MM)) ⊕ (Int32 × MM)) :=
  some (.inl (.inl ((0 : Int32), m)))
noncomputable def s_X0_hold (x : Nat) (l1 : Int32) : ((Int32 × MM) ⊕ (Int32 × MM)) → Option (((Int32 × MM) ⊕ (Int32 × MM)) ⊕ (Int32 × MM)) := fun z => match z with
  | (.inl (l2, m)) => b_X0_hold_2 x l1 l2 m
  | (.inr (l2, m)) => b_X0_hold_66 x l1 l2 m
noncomputable def f_X0_hold (x : Nat) (l1 : Int32) (m : MM) : Option (Int32 × MM) := bd (b_X0_hold_0 x l1 m) (rx_go (s_X0_hold x l1))
noncomputable def b_X0_held_0 (x : Nat) (l1 : Int32) (m : MM) : Option (Int32 × MM) :=
  bd2 (f_X0_isIn l1 (1 : Int32) (7 : Int32) m) fun v1 m2 =>
  if v1 = 0 then (
    some ((-1000000 : Int32), m2)
    ) else (
    bd2 (f_X0_hasTree x m2) fun v3 m4 =>
    if v3 = 0 then (
      some ((-1000000 : Int32), m4)
      ) else (
      bd2 (f_X0_hold x l1 m4) fun v5 m6 =>
      some (v5, m6)
      )
    )
noncomputable def f_X0_held (x : Nat) (l1 : Int32) (m : MM) : Option (Int32 × MM) := b_X0_held_0 x l1 m
noncomputable def b_X0_byOrder_32 (l0 : Int32) (l1 : Int32) (l2 : Int32) (s0 : Int32) (m : MM) : Option (Int32 × MM) :=
  if (ji_rem l1 (3 : Int32)) = 0 then (
    some (l2, m)
    ) else (
    if (ji_rem l1 (3 : Int32)) = (1 : Int32) then (
      some (s0, m)
      ) else (
      some ((((3 : Int32) - l2) - s0), m)
      )
    )
noncomputable def b_X0_byOrder_0 (l0 : Int32) (l1 : Int32) (m : MM) : Option (Int32 × MM) :=
  if (ji_rem l0 (2 : Int32)) = 0 then (
    if (l0 / (2 : Int32)) = 0 then (
      b_X0_byOrder_32 l0 l1 (l0 / (2 : Int32)) (1 : Int32) m
      ) else (
      b_X0_byOrder_32 l0 l1 (l0 / (2 : Int32)) (0 : Int32) m
      )
    ) else (
    if (l0 / (2 : Int32)) = (2 : Int32) then (
      b_X0_byOrder_32 l0 l1 (l0 / (2 : Int32)) (1 : Int32) m
      ) else (
      b_X0_byOrder_32 l0 l1 (l0 / (2 : Int32)) (2 : Int32) m
      )
    )
noncomputable def f_X0_byOrder (l0 : Int32) (l1 : Int32) (m : MM) : Option (Int32 × MM) := b_X0_byOrder_0 l0 l1 m
noncomputable def b_X0_common_0 (rf : Int32 → Int32 → MM → Option (Int32 × MM)) (l0 : Int32) (l1 : Int32) (m : MM) : Option (Int32 × MM) :=
  if l1 = 0 then (
    some ((ji_abs l0), m)
    ) else (
    if l1 = 0 then none else
    bd2 (rf l1 (ji_rem l0 l1) m) fun v1 m2 =>
    some (v1, m2)
    )
noncomputable def f_X0_common : Nat → Int32 → Int32 → MM → Option (Int32 × MM)
  | 0 => fun _ _ _ => none
  | dd + 1 => fun l0 l1 m => b_X0_common_0 (f_X0_common dd) l0 l1 m
noncomputable def b_X0_share_44 (x : Nat) (l1 : Int32) (l2 : Int32) (l3 : Int32) (l4 : Int32) (l5 : Int32) (l6 : Int32) (m : MM) : Option (((Int32 × Int32 × MM) ⊕ (Int32 × Int32 × Int32 × Int32 × MM)) ⊕ (Int32 × MM)) :=
  bd2 (f_X0_byOrder l4 l6 m) fun v1 m2 =>
  if v1 = l1 then (
    bd2 (f_X0_hold x (l5 ||| (ji_shl (1 : Int32) l1)) m2) fun v3 m4 =>
    if l5 = 0 then (
      some (.inl (.inl ((l3 + (v3 - (0 : Int32))), (l4 + (1 : Int32)), m4)))
      ) else (
      bd2 (f_X0_hold x l5 m4) fun v5 m6 =>
      some (.inl (.inl ((l3 + (v3 - v5)), (l4 + (1 : Int32)), m6)))
      )
    ) else (
    bd2 (f_X0_byOrder l4 l6 m2) fun v7 m8 =>
    some (.inl (.inr (l3, l4, (l5 ||| (ji_shl (1 : Int32) v7)), (l6 + (1 : Int32)), m8)))
    )
noncomputable def b_X0_share_31 (x : Nat) (l1 : Int32) (l2 : Int32) (l3 : Int32) (l4 : Int32) (m : MM) : Option (((Int32 × Int32 × MM) ⊕ (Int32 × Int32 × Int32 × Int32 × MM)) ⊕ (Int32 × MM)) :=
  if (6 : Int32) ≤ l4 then (
    bd2 (f_X0_common 9 l3 (6 : Int32) m) fun v1 m2 =>
    if l2 = 0 then (
      if v1 = 0 then none else
      some (.inr ((l3 / v1), m2))
      ) else (
      if v1 = 0 then none else
      some (.inr (((6 : Int32) / v1), m2))
      )
    ) else (
    some (.inl (.inr (l3, l4, (0 : Int32), (0 : Int32), m)))
    )
noncomputable def b_X0_share_0 (x : Nat) (l1 : Int32) (l2 : Int32) (m : MM) : Option (((Int32 × Int32 × MM) ⊕ (Int32 × Int32 × Int32 × Int32 × MM)) ⊕ (Int32 × MM)) :=
  bd2 (f_X0_isGuild l1 m) fun v1 m2 =>
  if v1 = 0 then (
    some (.inr ((-1000000 : Int32), m2))
    ) else (
    bd2 (f_X0_isIn l2 (0 : Int32) (1 : Int32) m2) fun v3 m4 =>
    if v3 = 0 then (
      some (.inr ((-1000000 : Int32), m4))
      ) else (
      bd2 (f_X0_hasTree x m4) fun v5 m6 =>
      if v5 = 0 then (
        some (.inr ((-1000000 : Int32), m6))
        ) else (
        some (.inl (.inl ((0 : Int32), (0 : Int32), m6)))
        )
      )
    )
noncomputable def s_X0_share (x : Nat) (l1 : Int32) (l2 : Int32) : ((Int32 × Int32 × MM) ⊕ (Int32 × Int32 × Int32 × Int32 × MM)) → Option (((Int32 × Int32 × MM) ⊕ (Int32 × Int32 × Int32 × Int32 × MM)) ⊕ (Int32 × MM)) := fun z => match z with
  | (.inl (l3, l4, m)) => b_X0_share_31 x l1 l2 l3 l4 m
  | (.inr (l3, l4, l5, l6, m)) => b_X0_share_44 x l1 l2 l3 l4 l5 l6 m
noncomputable def f_X0_share (x : Nat) (l1 : Int32) (l2 : Int32) (m : MM) : Option (Int32 × MM) := bd (b_X0_share_0 x l1 l2 m) (rx_go (s_X0_share x l1 l2))
noncomputable def b_X0_writtenNow_0 (x : Nat) (m : MM) : Option (Int32 × MM) :=
  bd (cI m 50 (m.R x 16) (6 : Int32) (m.R x 20) (0 : Int32) (6 : Int32)) fun m1 =>
  bd (aI m1 50 (m1.R x 16) (12 : Int32)) fun v2 =>
  bd2 (f_X0_write_2 x (m1.R x 16) v2 (m1.R x 20) m1) fun v3 m4 =>
  some (v3, m4)
noncomputable def f_X0_writtenNow (x : Nat) (m : MM) : Option (Int32 × MM) := b_X0_writtenNow_0 x m
noncomputable def b_X0_doSwap_0 (x : Nat) (l1 : Int32) (l2 : Int32) (m : MM) : Option (Int32 × MM) :=
  bd (aI m 50 (m.R x 16) (12 : Int32)) fun v1 =>
  bd (aI m 50 (m.R x 16) ((6 : Int32) + l1)) fun v2 =>
  bd (aI m 50 (m.R x 16) ((6 : Int32) + l2)) fun v3 =>
  bd2 (f_X0_writtenNow x m) fun v4 m5 =>
  bd2 (f_X0_meaningOf x v4 (m5.R x 16) v1 v2 m5) fun v6 m7 =>
  bd2 (f_X0_meaningOf x v4 (m7.R x 16) v1 v3 m7) fun v8 m9 =>
  bd (sI m9 50 (m9.R x 20) l1 v3) fun m10 =>
  bd (sI m10 50 (m10.R x 20) l2 v2) fun m11 =>
  bd2 (f_X0_write_2 x (m11.R x 16) v1 (m11.R x 20) m11) fun v12 m13 =>
  bd2 (f_X0_meaningOf x v12 (m13.R x 16) v1 v2 m13) fun v14 m15 =>
  if v14 ≤ v6 then (
    some ((0 : Int32), m15)
    ) else (
    bd2 (f_X0_meaningOf x v12 (m15.R x 16) v1 v3 m15) fun v16 m17 =>
    if v16 ≤ v8 then (
      some ((0 : Int32), m17)
      ) else (
      some ((1 : Int32), m17)
      )
    )
noncomputable def f_X0_doSwap (x : Nat) (l1 : Int32) (l2 : Int32) (m : MM) : Option (Int32 × MM) := b_X0_doSwap_0 x l1 l2 m
noncomputable def b_X0_swap_32 (x : Nat) (l1 : Int32) (l2 : Int32) (m : MM) : Option (((Int32 × MM) ⊕ (Int32 × Int32 × MM)) ⊕ (Int32 × MM)) :=
  bd (isK m (m.R x 14) 2) fun a1 =>
  bd2 (f_X1_most a1 m) fun v2 m3 =>
  if v2 ≤ l2 then (
    some (.inl (.inl ((l1 + (1 : Int32)), m3)))
    ) else (
    bd (aI m3 50 (m3.R x 16) ((6 : Int32) + l1)) fun v4 =>
    bd (aI m3 50 (m3.R x 16) ((6 : Int32) + l2)) fun v5 =>
    if v4 = v5 then (
      some (.inl (.inr (l1, (l2 + (1 : Int32)), m3)))
      ) else (
      bd2 (f_X0_doSwap x l1 l2 m3) fun v6 m7 =>
      if v6 = 0 then (
        some (.inl (.inr (l1, (l2 + (1 : Int32)), m7)))
        ) else (
        some (.inr ((((10 : Int32) * l1) + l2), m7))
        )
      )
    )
noncomputable def b_X0_swap_17 (x : Nat) (l1 : Int32) (m : MM) : Option (((Int32 × MM) ⊕ (Int32 × Int32 × MM)) ⊕ (Int32 × MM)) :=
  bd (isK m (m.R x 14) 2) fun a1 =>
  bd2 (f_X1_most a1 m) fun v2 m3 =>
  if v2 ≤ l1 then (
    some (.inr ((-1 : Int32), m3))
    ) else (
    some (.inl (.inr (l1, (l1 + (1 : Int32)), m3)))
    )
noncomputable def b_X0_swap_0 (x : Nat) (m : MM) : Option (((Int32 × MM) ⊕ (Int32 × Int32 × MM)) ⊕ (Int32 × MM)) :=
  bd2 (f_X0_hasTree x m) fun v1 m2 =>
  if v1 = 0 then (
    some (.inr ((-1 : Int32), m2))
    ) else (
    bd (aI m2 50 (m2.R x 16) (12 : Int32)) fun v3 =>
    some (.inl (.inl (v3, m2)))
    )
noncomputable def s_X0_swap (x : Nat) : ((Int32 × MM) ⊕ (Int32 × Int32 × MM)) → Option (((Int32 × MM) ⊕ (Int32 × Int32 × MM)) ⊕ (Int32 × MM)) := fun z => match z with
  | (.inl (l1, m)) => b_X0_swap_17 x l1 m
  | (.inr (l1, l2, m)) => b_X0_swap_32 x l1 l2 m
noncomputable def f_X0_swap (x : Nat) (m : MM) : Option (Int32 × MM) := bd (b_X0_swap_0 x m) (rx_go (s_X0_swap x))
noncomputable def b_X0_comesBy_0 (x : Nat) (l1 : Int32) (l2 : Int32) (l3 : Int32) (m : MM) : Option (Int32 × MM) :=
  bd (aI m 50 (m.R x 16) ((6 : Int32) + l2)) fun v1 =>
  bd (pI m (some x) 1 24 50 v1) fun m2 =>
  bd (pI m2 (some x) 1 25 50 l2) fun m3 =>
  bd (pI m3 (some x) 1 26 50 l3) fun m4 =>
  bd (pI m4 (some x) 1 27 50 l1) fun m5 =>
  bd2 (f_X0_writtenNow x m5) fun v6 m7 =>
  bd (aI m7 50 (m7.R x 16) (12 : Int32)) fun v8 =>
  bd2 (f_X0_pathOf x v6 (m7.R x 16) v8 m7) fun v9 m10 =>
  bd (aI m10 50 v9 l2) fun v11 =>
  if v11 = l3 then (
    bd (pI m10 (some x) 1 24 50 (-1 : Int32)) fun m13 =>
    some ((1 : Int32), m13)
    ) else (
    bd (pI m10 (some x) 1 24 50 (-1 : Int32)) fun m12 =>
    some ((0 : Int32), m12)
    )
noncomputable def f_X0_comesBy (x : Nat) (l1 : Int32) (l2 : Int32) (l3 : Int32) (m : MM) : Option (Int32 × MM) := b_X0_comesBy_0 x l1 l2 l3 m
noncomputable def b_X0_bribe_41 (x : Nat) (l1 : Int32) (l2 : Int32) (l3 : Int32) (m : MM) : Option (((Int32 × MM)) ⊕ (Int32 × MM)) :=
  if (100 : Int32) ≤ l3 then (
    some (.inr ((-1 : Int32), m))
    ) else (
    bd2 (f_X0_comesBy x l3 l1 l2 m) fun v1 m2 =>
    if v1 = 0 then (
      some (.inl ((l3 + (1 : Int32)), m2))
      ) else (
      some (.inr (l3, m2))
      )
    )
noncomputable def b_X0_bribe_0 (x : Nat) (l1 : Int32) (l2 : Int32) (m : MM) : Option (((Int32 × MM)) ⊕ (Int32 × MM)) :=
  bd2 (f_X0_isPlace x l1 m) fun v1 m2 =>
  if v1 = 0 then (
    some (.inr ((-2 : Int32), m2))
    ) else (
    bd (aI m2 50 (m2.R x 16) (12 : Int32)) fun v3 =>
    if l1 < v3 then (
      some (.inr ((-2 : Int32), m2))
      ) else (
      bd2 (f_X0_isWord x l2 m2) fun v4 m5 =>
      if v4 = 0 then (
        some (.inr ((-2 : Int32), m5))
        ) else (
        bd2 (f_X0_hasTree x m5) fun v6 m7 =>
        if v6 = 0 then (
          some (.inr ((-1 : Int32), m7))
          ) else (
          some (.inl ((0 : Int32), m7))
          )
        )
      )
    )
noncomputable def s_X0_bribe (x : Nat) (l1 : Int32) (l2 : Int32) : ((Int32 × MM)) → Option (((Int32 × MM)) ⊕ (Int32 × MM)) := fun z => match z with
  | (l3, m) => b_X0_bribe_41 x l1 l2 l3 m
noncomputable def f_X0_bribe (x : Nat) (l1 : Int32) (l2 : Int32) (m : MM) : Option (Int32 × MM) := bd (b_X0_bribe_0 x l1 l2 m) (rx_go (s_X0_bribe x l1 l2))
noncomputable def b_X0_fewestOf_42 (x : Nat) (l1 : Option Nat) (l2 : Int32) (l3 : Int32) (s0 : Int32) (m : MM) : Option (((Int32 × Int32 × MM)) ⊕ (Int32 × MM)) :=
  if s0 = 0 then (
    some (.inr ((0 : Int32), m))
    ) else (
    some (.inl ((l2 + s0), (l3 + (1 : Int32)), m))
    )
noncomputable def b_X0_fewestOf_4 (x : Nat) (l1 : Option Nat) (l2 : Int32) (l3 : Int32) (m : MM) : Option (((Int32 × Int32 × MM)) ⊕ (Int32 × MM)) :=
  bd (gR m l1 7 2) fun v1 =>
  bd (aN m 50 v1) fun v2 =>
  if v2 ≤ l3 then (
    some (.inr (l2, m))
    ) else (
    bd (gR m l1 7 2) fun v3 =>
    bd (aI m 50 v3 l3) fun v4 =>
    if (8 : Int32) ≤ v4 then (
      bd (gR m l1 7 2) fun v5 =>
      bd (aI m 50 v5 l3) fun v6 =>
      bd (aI m 50 (m.R x 28) (v6 - (8 : Int32))) fun v7 =>
      b_X0_fewestOf_42 x l1 l2 l3 v7 m
      ) else (
      b_X0_fewestOf_42 x l1 l2 l3 (1 : Int32) m
      )
    )
noncomputable def b_X0_fewestOf_0 (x : Nat) (l1 : Option Nat) (m : MM) : Option (((Int32 × Int32 × MM)) ⊕ (Int32 × MM)) :=
  some (.inl ((0 : Int32), (0 : Int32), m))
noncomputable def s_X0_fewestOf (x : Nat) (l1 : Option Nat) : ((Int32 × Int32 × MM)) → Option (((Int32 × Int32 × MM)) ⊕ (Int32 × MM)) := fun z => match z with
  | (l2, l3, m) => b_X0_fewestOf_4 x l1 l2 l3 m
noncomputable def f_X0_fewestOf (x : Nat) (l1 : Option Nat) (m : MM) : Option (Int32 × MM) := bd (b_X0_fewestOf_0 x l1 m) (rx_go (s_X0_fewestOf x l1))
noncomputable def b_X0_layFewest_129 (x : Nat) (l2 : Int32) (l3 : Int32) (l4 : Int32) (m : MM) : Option (((Int32 × MM) ⊕ (Int32 × MM) ⊕ (Int32 × Int32 × MM) ⊕ (Int32 × Int32 × Int32 × MM)) ⊕ (Unit × MM)) :=
  bd (sI m 50 (m.R x 28) l2 l4) fun m1 =>
  some (.inl (.inr (.inr (.inr ((1 : Int32), l2, (l3 + (1 : Int32)), m1)))))
noncomputable def b_X0_layFewest_47 (x : Nat) (l1 : Int32) (l2 : Int32) (l3 : Int32) (m : MM) : Option (((Int32 × MM) ⊕ (Int32 × MM) ⊕ (Int32 × Int32 × MM) ⊕ (Int32 × Int32 × Int32 × MM)) ⊕ (Unit × MM)) :=
  bd (gR m (m.R x 14) 2 1) fun v1 =>
  bd (isK m v1 9) fun a2 =>
  bd2 (f_J2_get a2 l2 m) fun v3 m4 =>
  if okC m4 6 v3 = true then (
    bd (gR m4 v3 6 1) fun v5 =>
    bd (isK m4 v5 9) fun a6 =>
    bd2 (f_J2_size a6 m4) fun v7 m8 =>
    if v7 ≤ l3 then (
      some (.inl (.inr (.inr (.inl (l1, (l2 + (1 : Int32)), m8)))))
      ) else (
      bd (gR m8 (m8.R x 14) 2 1) fun v9 =>
      bd (isK m8 v9 9) fun a10 =>
      bd2 (f_J2_get a10 l2 m8) fun v11 m12 =>
      if okC m12 6 v11 = true then (
        bd (gR m12 v11 6 1) fun v13 =>
        bd (isK m12 v13 9) fun a14 =>
        bd2 (f_J2_get a14 l3 m12) fun v15 m16 =>
        if okC m16 7 v15 = true then (
          bd2 (f_X0_fewestOf x v15 m16) fun v17 m18 =>
          if v17 = 0 then (
            some (.inl (.inr (.inr (.inr (l1, l2, (l3 + (1 : Int32)), m18)))))
            ) else (
            bd (aI m18 50 (m18.R x 28) l2) fun v19 =>
            if v19 ≤ 0 then (
              b_X0_layFewest_129 x l2 l3 v17 m18
              ) else (
              bd (aI m18 50 (m18.R x 28) l2) fun v20 =>
              if v17 < v20 then (
                b_X0_layFewest_129 x l2 l3 v17 m18
                ) else (
                some (.inl (.inr (.inr (.inr (l1, l2, (l3 + (1 : Int32)), m18)))))
                )
              )
            )
          ) else none
        ) else none
      )
    ) else none
noncomputable def b_X0_layFewest_31 (x : Nat) (l1 : Int32) (l2 : Int32) (m : MM) : Option (((Int32 × MM) ⊕ (Int32 × MM) ⊕ (Int32 × Int32 × MM) ⊕ (Int32 × Int32 × Int32 × MM)) ⊕ (Unit × MM)) :=
  bd (gR m (m.R x 14) 2 1) fun v1 =>
  bd (isK m v1 9) fun a2 =>
  bd2 (f_J2_size a2 m) fun v3 m4 =>
  if v3 ≤ l2 then (
    some (.inl (.inr (.inl (l1, m4))))
    ) else (
    some (.inl (.inr (.inr (.inr (l1, l2, (0 : Int32), m4)))))
    )
noncomputable def b_X0_layFewest_23 (x : Nat) (l1 : Int32) (m : MM) : Option (((Int32 × MM) ⊕ (Int32 × MM) ⊕ (Int32 × Int32 × MM) ⊕ (Int32 × Int32 × Int32 × MM)) ⊕ (Unit × MM)) :=
  if l1 = 0 then (
    some (.inr ((), m))
    ) else (
    some (.inl (.inr (.inr (.inl ((0 : Int32), (0 : Int32), m)))))
    )
noncomputable def b_X0_layFewest_2 (x : Nat) (l1 : Int32) (m : MM) : Option (((Int32 × MM) ⊕ (Int32 × MM) ⊕ (Int32 × Int32 × MM) ⊕ (Int32 × Int32 × Int32 × MM)) ⊕ (Unit × MM)) :=
  if (8 : Int32) ≤ l1 then (
    some (.inl (.inr (.inl ((1 : Int32), m))))
    ) else (
    bd (sI m 50 (m.R x 28) l1 (0 : Int32)) fun m1 =>
    some (.inl (.inl ((l1 + (1 : Int32)), m1)))
    )
noncomputable def b_X0_layFewest_0 (x : Nat) (m : MM) : Option (((Int32 × MM) ⊕ (Int32 × MM) ⊕ (Int32 × Int32 × MM) ⊕ (Int32 × Int32 × Int32 × MM)) ⊕ (Unit × MM)) :=
  some (.inl (.inl ((0 : Int32), m)))
noncomputable def s_X0_layFewest (x : Nat) : ((Int32 × MM) ⊕ (Int32 × MM) ⊕ (Int32 × Int32 × MM) ⊕ (Int32 × Int32 × Int32 × MM)) → Option (((Int32 × MM) ⊕ (Int32 × MM) ⊕ (Int32 × Int32 × MM) ⊕ (Int32 × Int32 × Int32 × MM)) ⊕ (Unit × MM)) := fun z => match z with
  | (.inl (l1, m)) => b_X0_layFewest_2 x l1 m
  | (.inr (.inl (l1, m))) => b_X0_layFewest_23 x l1 m
  | (.inr (.inr (.inl (l1, l2, m)))) => b_X0_layFewest_31 x l1 l2 m
  | (.inr (.inr (.inr (l1, l2, l3, m)))) => b_X0_layFewest_47 x l1 l2 l3 m
noncomputable def f_X0_layFewest (x : Nat) (m : MM) : Option (Unit × MM) := bd (b_X0_layFewest_0 x m) (rx_go (s_X0_layFewest x))
noncomputable def b_X0_shortest_0 (x : Nat) (l1 : Int32) (m : MM) : Option (Int32 × MM) :=
  bd2 (f_X0_layFewest x m) fun _ m1 =>
  bd (gR m1 (m1.R x 14) 2 1) fun v2 =>
  bd (isK m1 v2 9) fun a3 =>
  bd2 (f_J2_size a3 m1) fun v4 m5 =>
  bd2 (f_X0_isIn l1 (0 : Int32) (v4 - (1 : Int32)) m5) fun v6 m7 =>
  if v6 = 0 then (
    some ((-1 : Int32), m7)
    ) else (
    bd (aI m7 50 (m7.R x 28) l1) fun v8 =>
    some (v8, m7)
    )
noncomputable def f_X0_shortest (x : Nat) (l1 : Int32) (m : MM) : Option (Int32 × MM) := b_X0_shortest_0 x l1 m
noncomputable def b_X0_comesTo_49 (x : Nat) (l1 : Int32) (l2 : Int32) (l3 : Option Nat) (l4 : Int32) (l5 : Option Nat) (l6 : Int32) (m : MM) : Option (((Int32 × Option Nat × Int32 × MM) ⊕ (Int32 × Option Nat × Int32 × Option Nat × Int32 × MM)) ⊕ (Int32 × MM)) :=
  bd (gR m l5 7 2) fun v1 =>
  bd (aN m 50 v1) fun v2 =>
  if v2 ≤ l6 then (
    some (.inl (.inl (l2, l3, (l4 + (1 : Int32)), m)))
    ) else (
    bd2 (f_X0_fewestOf x l5 m) fun v3 m4 =>
    if v3 ≤ 0 then (
      some (.inl (.inl (l2, l3, (l4 + (1 : Int32)), m4)))
      ) else (
      bd (gR m4 l5 7 2) fun v5 =>
      bd (aI m4 50 v5 l6) fun v6 =>
      if (8 : Int32) ≤ v6 then (
        bd (gR m4 l5 7 2) fun v7 =>
        bd (aI m4 50 v7 l6) fun v8 =>
        some (.inl (.inr ((l2 ||| (ji_shl (1 : Int32) (v8 - (8 : Int32)))), l3, l4, l5, (l6 + (1 : Int32)), m4)))
        ) else (
        some (.inl (.inr ((l2 ||| (0 : Int32)), l3, l4, l5, (l6 + (1 : Int32)), m4)))
        )
      )
    )
noncomputable def b_X0_comesTo_20 (x : Nat) (l1 : Int32) (l2 : Int32) (l3 : Option Nat) (l4 : Int32) (m : MM) : Option (((Int32 × Option Nat × Int32 × MM) ⊕ (Int32 × Option Nat × Int32 × Option Nat × Int32 × MM)) ⊕ (Int32 × MM)) :=
  bd (gR m l3 6 1) fun v1 =>
  bd (isK m v1 9) fun a2 =>
  bd2 (f_J2_size a2 m) fun v3 m4 =>
  if v3 ≤ l4 then (
    some (.inr (l2, m4))
    ) else (
    bd (gR m4 l3 6 1) fun v5 =>
    bd (isK m4 v5 9) fun a6 =>
    bd2 (f_J2_get a6 l4 m4) fun v7 m8 =>
    if okC m8 7 v7 = true then (
      some (.inl (.inr (l2, l3, l4, v7, (0 : Int32), m8)))
      ) else none
    )
noncomputable def b_X0_comesTo_0 (x : Nat) (l1 : Int32) (m : MM) : Option (((Int32 × Option Nat × Int32 × MM) ⊕ (Int32 × Option Nat × Int32 × Option Nat × Int32 × MM)) ⊕ (Int32 × MM)) :=
  bd (gR m (m.R x 14) 2 1) fun v1 =>
  bd (isK m v1 9) fun a2 =>
  bd2 (f_J2_get a2 l1 m) fun v3 m4 =>
  if okC m4 6 v3 = true then (
    some (.inl (.inl ((0 : Int32), v3, (0 : Int32), m4)))
    ) else none
noncomputable def s_X0_comesTo (x : Nat) (l1 : Int32) : ((Int32 × Option Nat × Int32 × MM) ⊕ (Int32 × Option Nat × Int32 × Option Nat × Int32 × MM)) → Option (((Int32 × Option Nat × Int32 × MM) ⊕ (Int32 × Option Nat × Int32 × Option Nat × Int32 × MM)) ⊕ (Int32 × MM)) := fun z => match z with
  | (.inl (l2, l3, l4, m)) => b_X0_comesTo_20 x l1 l2 l3 l4 m
  | (.inr (l2, l3, l4, l5, l6, m)) => b_X0_comesTo_49 x l1 l2 l3 l4 l5 l6 m
noncomputable def f_X0_comesTo (x : Nat) (l1 : Int32) (m : MM) : Option (Int32 × MM) := bd (b_X0_comesTo_0 x l1 m) (rx_go (s_X0_comesTo x l1))
noncomputable def b_X0_used_41 (x : Nat) (l1 : Int32) (l2 : Int32) (l3 : Int32) (m : MM) : Option (((Int32 × Int32 × MM) ⊕ (Int32 × Int32 × Int32 × MM)) ⊕ (Int32 × MM)) :=
  bd (gR m (m.R x 14) 2 1) fun v1 =>
  bd (isK m v1 9) fun a2 =>
  bd2 (f_J2_size a2 m) fun v3 m4 =>
  if v3 ≤ l3 then (
    some (.inl (.inl (l1, l2, m4)))
    ) else (
    if ((ji_shr l2 l3) &&& (1 : Int32)) = (1 : Int32) then (
      bd2 (f_X0_comesTo x l3 m4) fun v5 m6 =>
      some (.inl (.inr ((l1 ||| v5), l2, (l3 + (1 : Int32)), m6)))
      ) else (
      some (.inl (.inr ((l1 ||| (0 : Int32)), l2, (l3 + (1 : Int32)), m4)))
      )
    )
noncomputable def b_X0_used_32 (x : Nat) (l1 : Int32) (l2 : Int32) (m : MM) : Option (((Int32 × Int32 × MM) ⊕ (Int32 × Int32 × Int32 × MM)) ⊕ (Int32 × MM)) :=
  if l1 = l2 then (
    some (.inr (l1, m))
    ) else (
    some (.inl (.inr (l1, l1, (0 : Int32), m)))
    )
noncomputable def b_X0_used_0 (x : Nat) (m : MM) : Option (((Int32 × Int32 × MM) ⊕ (Int32 × Int32 × Int32 × MM)) ⊕ (Int32 × MM)) :=
  bd2 (f_X0_layFewest x m) fun _ m1 =>
  bd (gR m1 (m1.R x 14) 2 1) fun v2 =>
  bd (isK m1 v2 9) fun a3 =>
  bd2 (f_J2_isEmpty a3 m1) fun v4 m5 =>
  if v4 = 0 then (
    bd (aI m5 50 (m5.R x 28) (0 : Int32)) fun v6 =>
    if v6 = 0 then (
      some (.inr ((0 : Int32), m5))
      ) else (
      some (.inl (.inl ((1 : Int32), (0 : Int32), m5)))
      )
    ) else (
    some (.inr ((0 : Int32), m5))
    )
noncomputable def s_X0_used (x : Nat) : ((Int32 × Int32 × MM) ⊕ (Int32 × Int32 × Int32 × MM)) → Option (((Int32 × Int32 × MM) ⊕ (Int32 × Int32 × Int32 × MM)) ⊕ (Int32 × MM)) := fun z => match z with
  | (.inl (l1, l2, m)) => b_X0_used_32 x l1 l2 m
  | (.inr (l1, l2, l3, m)) => b_X0_used_41 x l1 l2 l3 m
noncomputable def f_X0_used (x : Nat) (m : MM) : Option (Int32 × MM) := bd (b_X0_used_0 x m) (rx_go (s_X0_used x))
noncomputable def b_X0_doubtful_32 (x : Nat) (l1 : Int32) (m : MM) : Option (((Int32 × MM)) ⊕ (Int32 × MM)) :=
  if (m.I x 7) ≤ l1 then (
    some (.inr ((0 : Int32), m))
    ) else (
    bd2 (f_X0_isWhole x l1 m) fun v1 m2 =>
    if v1 = 0 then (
      some (.inl ((l1 + (1 : Int32)), m2))
      ) else (
      bd2 (f_X0_pathOf x l1 (m2.R x 22) (0 : Int32) m2) fun v3 m4 =>
      bd (isK m4 (m4.R x 14) 2) fun a5 =>
      bd2 (f_X1_most a5 m4) fun v6 m7 =>
      bd2 (f_X0_load x v3 v6 m7) fun _ m8 =>
      bd (isK m8 (m8.R x 14) 2) fun a9 =>
      bd2 (f_X1_most a9 m8) fun v10 m11 =>
      bd2 (f_X0_readings x v10 m11) fun v12 m13 =>
      if (2 : Int32) ≤ (v12).toInt32 then (
        bd2 (f_X0_layDown x l1 (m13.R x 22) (0 : Int32) m13) fun _ m14 =>
        some (.inr ((v12).toInt32, m14))
        ) else (
        some (.inl ((l1 + (1 : Int32)), m13))
        )
      )
    )
noncomputable def b_X0_doubtful_0 (x : Nat) (m : MM) : Option (((Int32 × MM)) ⊕ (Int32 × MM)) :=
  bd (pI m (some x) 1 23 50 (0 : Int32)) fun m1 =>
  bd2 (f_X0_layTree x (m1.R x 22) (0 : Int32) none m1) fun v2 m3 =>
  if v2 = 0 then (
    some (.inr ((0 : Int32), m3))
    ) else (
    if (m3.I x 8) = 0 then (
      some (.inl ((0 : Int32), m3))
      ) else (
      some (.inr ((-2 : Int32), m3))
      )
    )
noncomputable def s_X0_doubtful (x : Nat) : ((Int32 × MM)) → Option (((Int32 × MM)) ⊕ (Int32 × MM)) := fun z => match z with
  | (l1, m) => b_X0_doubtful_32 x l1 m
noncomputable def f_X0_doubtful (x : Nat) (m : MM) : Option (Int32 × MM) := bd (b_X0_doubtful_0 x m) (rx_go (s_X0_doubtful x))
noncomputable def b_X0_writeBy_2 (x : Nat) (l1 : Int32) (l2 : Int32) (m : MM) : Option (((Int32 × MM)) ⊕ (Int32 × MM)) :=
  if (6 : Int32) ≤ l2 then (
    bd2 (f_X0_write_2 x (m.R x 22) (0 : Int32) (m.R x 20) m) fun v1 m2 =>
    some (.inr (v1, m2))
    ) else (
    bd2 (f_X0_byOrder l1 l2 m) fun v3 m4 =>
    bd (sI m4 50 (m.R x 20) l2 v3) fun m5 =>
    some (.inl ((l2 + (1 : Int32)), m5))
    )
noncomputable def b_X0_writeBy_0 (x : Nat) (l1 : Int32) (m : MM) : Option (((Int32 × MM)) ⊕ (Int32 × MM)) :=
  some (.inl ((0 : Int32), m))
noncomputable def s_X0_writeBy (x : Nat) (l1 : Int32) : ((Int32 × MM)) → Option (((Int32 × MM)) ⊕ (Int32 × MM)) := fun z => match z with
  | (l2, m) => b_X0_writeBy_2 x l1 l2 m
noncomputable def f_X0_writeBy (x : Nat) (l1 : Int32) (m : MM) : Option (Int32 × MM) := bd (b_X0_writeBy_0 x l1 m) (rx_go (s_X0_writeBy x l1))
noncomputable def b_X0_lots_34 (x : Nat) (l1 : Int32) (l2 : Int32) (l3 : Int32) (m : MM) : Option (((Int32 × Int32 × MM)) ⊕ (Int32 × MM)) :=
  if (6 : Int32) ≤ l3 then (
    some (.inr (l2, m))
    ) else (
    bd2 (f_X0_writeBy x l3 m) fun v1 m2 =>
    bd2 (f_X0_meaningOf x v1 (m2.R x 22) (0 : Int32) l1 m2) fun v3 m4 =>
    some (.inl ((l2 + v3), (l3 + (1 : Int32)), m4))
    )
noncomputable def b_X0_lots_0 (x : Nat) (l1 : Int32) (m : MM) : Option (((Int32 × Int32 × MM)) ⊕ (Int32 × MM)) :=
  bd2 (f_X0_isGuild l1 m) fun v1 m2 =>
  if v1 = 0 then (
    some (.inr ((-1000000 : Int32), m2))
    ) else (
    bd2 (f_X0_layTree x (m2.R x 22) (0 : Int32) none m2) fun v3 m4 =>
    if v3 = 0 then (
      some (.inr ((-1000000 : Int32), m4))
      ) else (
      if (m4.I x 8) = 0 then (
        some (.inl ((0 : Int32), (0 : Int32), m4))
        ) else (
        some (.inr ((-1000000 : Int32), m4))
        )
      )
    )
noncomputable def s_X0_lots (x : Nat) (l1 : Int32) : ((Int32 × Int32 × MM)) → Option (((Int32 × Int32 × MM)) ⊕ (Int32 × MM)) := fun z => match z with
  | (l2, l3, m) => b_X0_lots_34 x l1 l2 l3 m
noncomputable def f_X0_lots (x : Nat) (l1 : Int32) (m : MM) : Option (Int32 × MM) := bd (b_X0_lots_0 x l1 m) (rx_go (s_X0_lots x l1))
noncomputable def b_X0_hole_0 (x : Nat) (l1 : Int32) (l2 : Int32) (m : MM) : Option (Int32 × MM) :=
  bd2 (f_X0_isPlace x l1 m) fun v1 m2 =>
  if v1 = 0 then (
    some ((0 : Int32), m2)
    ) else (
    if l2 = (-1 : Int32) then (
      bd (sI m2 50 (m2.R x 29) l1 l2) fun m3 =>
      some ((1 : Int32), m3)
      ) else (
      bd2 (f_X0_isWord x l2 m2) fun v4 m5 =>
      if v4 = 0 then (
        some ((0 : Int32), m5)
        ) else (
        bd (sI m5 50 (m5.R x 29) l1 l2) fun m6 =>
        some ((1 : Int32), m6)
        )
      )
    )
noncomputable def f_X0_hole (x : Nat) (l1 : Int32) (l2 : Int32) (m : MM) : Option (Int32 × MM) := b_X0_hole_0 x l1 l2 m
noncomputable def b_X0_fit_32 (x : Nat) (l1 : Int32) (l2 : Int32) (m : MM) : Option (((Int32 × Int32 × MM)) ⊕ (Int32 × MM)) :=
  if (m.I x 7) ≤ l2 then (
    some (.inr (l1, m))
    ) else (
    bd2 (f_X0_isWhole x l2 m) fun v1 m2 =>
    if v1 = 0 then (
      some (.inl ((l1 + (0 : Int32)), (l2 + (1 : Int32)), m2))
      ) else (
      some (.inl ((l1 + (1 : Int32)), (l2 + (1 : Int32)), m2))
      )
    )
noncomputable def b_X0_fit_0 (x : Nat) (m : MM) : Option (((Int32 × Int32 × MM)) ⊕ (Int32 × MM)) :=
  bd2 (f_X0_layTree x (m.R x 22) (0 : Int32) (m.R x 29) m) fun v1 m2 =>
  if v1 = 0 then (
    some (.inr ((0 : Int32), m2))
    ) else (
    if (m2.I x 8) = 0 then (
      some (.inl ((0 : Int32), (0 : Int32), m2))
      ) else (
      some (.inr ((-2 : Int32), m2))
      )
    )
noncomputable def s_X0_fit (x : Nat) : ((Int32 × Int32 × MM)) → Option (((Int32 × Int32 × MM)) ⊕ (Int32 × MM)) := fun z => match z with
  | (l1, l2, m) => b_X0_fit_32 x l1 l2 m
noncomputable def f_X0_fit (x : Nat) (m : MM) : Option (Int32 × MM) := bd (b_X0_fit_0 x m) (rx_go (s_X0_fit x))
noncomputable def b_X0_best_27 (x : Nat) (l1 : Int32) (l2 : Int32) (l3 : Int32) (m : MM) : Option (((Int32 × Int32 × MM)) ⊕ (Int32 × MM)) :=
  if (m.I x 7) ≤ l3 then (
    bd2 (f_X0_layDown x l2 (m.R x 22) (0 : Int32) m) fun _ m1 =>
    bd2 (f_X0_meaningOf x l2 (m1.R x 22) (0 : Int32) l1 m1) fun v2 m3 =>
    some (.inr (v2, m3))
    ) else (
    bd2 (f_X0_isWhole x l3 m) fun v4 m5 =>
    if v4 = 0 then (
      some (.inl (l2, (l3 + (1 : Int32)), m5))
      ) else (
      if l2 < 0 then (
        some (.inl (l3, (l3 + (1 : Int32)), m5))
        ) else (
        bd2 (f_X0_meaningOf x l3 (m5.R x 22) (0 : Int32) l1 m5) fun v6 m7 =>
        bd2 (f_X0_meaningOf x l2 (m7.R x 22) (0 : Int32) l1 m7) fun v8 m9 =>
        if v6 ≤ v8 then (
          some (.inl (l2, (l3 + (1 : Int32)), m9))
          ) else (
          some (.inl (l3, (l3 + (1 : Int32)), m9))
          )
        )
      )
    )
noncomputable def b_X0_best_0 (x : Nat) (l1 : Int32) (m : MM) : Option (((Int32 × Int32 × MM)) ⊕ (Int32 × MM)) :=
  bd (pI m (some x) 1 23 50 (0 : Int32)) fun m1 =>
  bd2 (f_X0_isGuild l1 m1) fun v2 m3 =>
  if v2 = 0 then (
    some (.inr ((-1000000 : Int32), m3))
    ) else (
    bd2 (f_X0_fit x m3) fun v4 m5 =>
    if (1 : Int32) ≤ v4 then (
      some (.inl ((-1 : Int32), (0 : Int32), m5))
      ) else (
      some (.inr ((-1000000 : Int32), m5))
      )
    )
noncomputable def s_X0_best (x : Nat) (l1 : Int32) : ((Int32 × Int32 × MM)) → Option (((Int32 × Int32 × MM)) ⊕ (Int32 × MM)) := fun z => match z with
  | (l2, l3, m) => b_X0_best_27 x l1 l2 l3 m
noncomputable def f_X0_best (x : Nat) (l1 : Int32) (m : MM) : Option (Int32 × MM) := bd (b_X0_best_0 x l1 m) (rx_go (s_X0_best x l1))
noncomputable def b_X0_canStrike_2 (x : Nat) (l1 : Int32) (l2 : Int32) (l3 : Int32) (m : MM) : Option (((Int32 × MM)) ⊕ (Int32 × MM)) :=
  if (l2 - (1 : Int32)) ≤ l3 then (
    bd2 (f_X0_load x (m.R x 30) (l2 - (1 : Int32)) m) fun _ m1 =>
    bd2 (f_X0_readings x (l2 - (1 : Int32)) m1) fun v2 m3 =>
    if (lg_cmp v2 (0 : Int64)) ≤ 0 then (
      some (.inr ((0 : Int32), m3))
      ) else (
      some (.inr ((1 : Int32), m3))
      )
    ) else (
    if l1 ≤ l3 then (
      bd (aI m 50 (m.R x 16) (l3 + (1 : Int32))) fun v4 =>
      bd (sI m 50 (m.R x 30) l3 v4) fun m5 =>
      some (.inl ((l3 + (1 : Int32)), m5))
      ) else (
      bd (aI m 50 (m.R x 16) l3) fun v6 =>
      bd (sI m 50 (m.R x 30) l3 v6) fun m7 =>
      some (.inl ((l3 + (1 : Int32)), m7))
      )
    )
noncomputable def b_X0_canStrike_0 (x : Nat) (l1 : Int32) (l2 : Int32) (m : MM) : Option (((Int32 × MM)) ⊕ (Int32 × MM)) :=
  some (.inl ((0 : Int32), m))
noncomputable def s_X0_canStrike (x : Nat) (l1 : Int32) (l2 : Int32) : ((Int32 × MM)) → Option (((Int32 × MM)) ⊕ (Int32 × MM)) := fun z => match z with
  | (l3, m) => b_X0_canStrike_2 x l1 l2 l3 m
noncomputable def f_X0_canStrike (x : Nat) (l1 : Int32) (l2 : Int32) (m : MM) : Option (Int32 × MM) := bd (b_X0_canStrike_0 x l1 l2 m) (rx_go (s_X0_canStrike x l1 l2))
noncomputable def b_X0_struck_32 (x : Nat) (l1 : Int32) (l2 : Int32) (l3 : Int32) (l4 : Int32) (l5 : Int32) (m : MM) : Option (((Int32 × Int32 × Int32 × Int32 × MM)) ⊕ (Int32 × MM)) :=
  if l2 ≤ l5 then (
    some (.inr (l3, m))
    ) else (
    bd2 (f_X0_canStrike x l5 l2 m) fun v1 m2 =>
    if v1 = 0 then (
      some (.inl (l2, l3, l4, (l5 + (1 : Int32)), m2))
      ) else (
      bd2 (f_X0_meaning x (m2.R x 30) (l2 - (1 : Int32)) l1 m2) fun v3 m4 =>
      if l3 < 0 then (
        some (.inl (l2, l5, v3, (l5 + (1 : Int32)), m4))
        ) else (
        if l4 < v3 then (
          some (.inl (l2, l5, v3, (l5 + (1 : Int32)), m4))
          ) else (
          some (.inl (l2, l3, l4, (l5 + (1 : Int32)), m4))
          )
        )
      )
    )
noncomputable def b_X0_struck_0 (x : Nat) (l1 : Int32) (m : MM) : Option (((Int32 × Int32 × Int32 × Int32 × MM)) ⊕ (Int32 × MM)) :=
  bd2 (f_X0_isGuild l1 m) fun v1 m2 =>
  if v1 = 0 then (
    some (.inr ((-1 : Int32), m2))
    ) else (
    bd2 (f_X0_readings_2 x m2) fun v3 m4 =>
    if v3 = 0 then (
      some (.inr ((-1 : Int32), m4))
      ) else (
      bd (aI m4 50 (m4.R x 16) (12 : Int32)) fun v5 =>
      some (.inl (v5, (-1 : Int32), (0 : Int32), (0 : Int32), m4))
      )
    )
noncomputable def s_X0_struck (x : Nat) (l1 : Int32) : ((Int32 × Int32 × Int32 × Int32 × MM)) → Option (((Int32 × Int32 × Int32 × Int32 × MM)) ⊕ (Int32 × MM)) := fun z => match z with
  | (l2, l3, l4, l5, m) => b_X0_struck_32 x l1 l2 l3 l4 l5 m
noncomputable def f_X0_struck (x : Nat) (l1 : Int32) (m : MM) : Option (Int32 × MM) := bd (b_X0_struck_0 x l1 m) (rx_go (s_X0_struck x l1))
noncomputable def b_X0_lies_0 (x : Nat) (l1 : Int32) (m : MM) : Option (Int32 × MM) :=
  bd2 (f_X0_isIn l1 (0 : Int32) ((m.I x 23) - (1 : Int32)) m) fun v1 m2 =>
  if v1 = 0 then (
    some ((-1 : Int32), m2)
    ) else (
    bd (aI m2 50 (m2.R x 21) l1) fun v3 =>
    some (v3, m2)
    )
noncomputable def f_X0_lies (x : Nat) (l1 : Int32) (m : MM) : Option (Int32 × MM) := b_X0_lies_0 x l1 m
noncomputable def b_X7_init_0 (x : Nat) (l1 : Int32) (l2 : Int32) (l3 : Int32) (l4 : Int32) (m : MM) : Option (Unit × MM) :=
  bd (pI m (some x) 8 4 50 (-1 : Int32)) fun m1 =>
  bd (pI m1 (some x) 8 0 50 l1) fun m2 =>
  bd (pI m2 (some x) 8 1 50 l2) fun m3 =>
  bd (pI m3 (some x) 8 3 52 l3) fun m4 =>
  bd (pI m4 (some x) 8 2 50 l4) fun m5 =>
  some ((), m5)
noncomputable def f_X7_init (x : Nat) (l1 : Int32) (l2 : Int32) (l3 : Int32) (l4 : Int32) (m : MM) : Option (Unit × MM) := b_X7_init_0 x l1 l2 l3 l4 m
noncomputable def b_X0_seen_0 (x : Nat) (l1 : Int32) (l2 : Int32) (l3 : Int32) (m : MM) : Option (Int32 × MM) :=
  bd2 (f_X0_isPlace x l1 m) fun v1 m2 =>
  if v1 = 0 then (
    some ((-1 : Int32), m2)
    ) else (
    bd2 (f_X0_isWord x l2 m2) fun v3 m4 =>
    if v3 = 0 then (
      some ((-1 : Int32), m4)
      ) else (
      bd (isK m4 (m4.R x 31) 9) fun a5 =>
      bd2 (f_J2_size a5 m4) fun v6 m7 =>
      if v6 = (30 : Int32) then (
        some ((-1 : Int32), m7)
        ) else (
        bd (nO m7 8 5) fun m8 =>
        bd (isK m8 (some m7.n) 8) fun a9 =>
        bd2 (f_X7_init a9 l1 l2 l3 (m8.I x 15) m8) fun _ m10 =>
        bd (isK m10 (m7.R x 31) 9) fun a11 =>
        bd2 (f_J2_add a11 (some m7.n) m10) fun v12 m13 =>
        bd (isK m13 (m13.R x 31) 9) fun a14 =>
        bd2 (f_J2_size a14 m13) fun v15 m16 =>
        some ((v15 - (1 : Int32)), m16)
        )
      )
    )
noncomputable def f_X0_seen (x : Nat) (l1 : Int32) (l2 : Int32) (l3 : Int32) (m : MM) : Option (Int32 × MM) := b_X0_seen_0 x l1 l2 l3 m
noncomputable def b_X7_untell_0 (x : Nat) (l1 : Int32) (m : MM) : Option (Int32 × MM) :=
  if (m.I x 4) < 0 then (
    bd (pI m (some x) 8 4 50 l1) fun m1 =>
    some ((1 : Int32), m1)
    ) else (
    some ((0 : Int32), m)
    )
noncomputable def f_X7_untell (x : Nat) (l1 : Int32) (m : MM) : Option (Int32 × MM) := b_X7_untell_0 x l1 m
noncomputable def b_X0_untell_0 (x : Nat) (l1 : Int32) (m : MM) : Option (Int32 × MM) :=
  bd (isK m (m.R x 31) 9) fun a1 =>
  bd2 (f_J2_size a1 m) fun v2 m3 =>
  bd2 (f_X0_isIn l1 (0 : Int32) (v2 - (1 : Int32)) m3) fun v4 m5 =>
  if v4 = 0 then (
    some ((0 : Int32), m5)
    ) else (
    bd (isK m5 (m5.R x 31) 9) fun a6 =>
    bd2 (f_J2_get a6 l1 m5) fun v7 m8 =>
    if okC m8 8 v7 = true then (
      bd (isK m8 v7 8) fun a9 =>
      bd2 (f_X7_untell a9 (m8.I x 15) m8) fun v10 m11 =>
      if v10 = 0 then (
        some ((0 : Int32), m11)
        ) else (
        some ((1 : Int32), m11)
        )
      ) else none
    )
noncomputable def f_X0_untell (x : Nat) (l1 : Int32) (m : MM) : Option (Int32 × MM) := b_X0_untell_0 x l1 m
noncomputable def b_X0_later_0 (x : Nat) (l1 : Int32) (m : MM) : Option (Int32 × MM) :=
  if l1 < 0 then (
    some ((-1 : Int32), m)
    ) else (
    if (1000 : Int32) < l1 then (
      some ((-1 : Int32), m)
      ) else (
      if ((m.I x 15) + l1) ≤ (100000 : Int32) then (
        bd (pI m (some x) 1 15 50 ((m.I x 15) + l1)) fun m1 =>
        some ((m1.I x 15), m1)
        ) else (
        some ((-1 : Int32), m)
        )
      )
    )
noncomputable def f_X0_later (x : Nat) (l1 : Int32) (m : MM) : Option (Int32 × MM) := b_X0_later_0 x l1 m
noncomputable def b_X7_isKnown_0 (x : Nat) (l1 : Int32) (m : MM) : Option (Int32 × MM) :=
  if l1 < (m.I x 2) then (
    some ((0 : Int32), m)
    ) else (
    if (m.I x 4) < 0 then (
      some ((1 : Int32), m)
      ) else (
      if (m.I x 4) ≤ l1 then (
        some ((0 : Int32), m)
        ) else (
        some ((1 : Int32), m)
        )
      )
    )
noncomputable def f_X7_isKnown (x : Nat) (l1 : Int32) (m : MM) : Option (Int32 × MM) := b_X7_isKnown_0 x l1 m
noncomputable def b_X0_areSo_64 (x : Nat) (l1 : Option Nat) (l2 : Int32) (l4 : Int32) (l5 : Option Nat) (s0 : Int32) (m : MM) : Option (((Int32 × Int32 × MM)) ⊕ (Int32 × MM)) :=
  bd (gI m l5 8 3) fun v1 =>
  if s0 = v1 then (
    some (.inl ((1 : Int32), (l4 + (1 : Int32)), m))
    ) else (
    some (.inl ((0 : Int32), (l4 + (1 : Int32)), m))
    )
noncomputable def b_X0_areSo_5 (x : Nat) (l1 : Option Nat) (l2 : Int32) (l3 : Int32) (l4 : Int32) (m : MM) : Option (((Int32 × Int32 × MM)) ⊕ (Int32 × MM)) :=
  bd (isK m (m.R x 31) 9) fun a1 =>
  bd2 (f_J2_size a1 m) fun v2 m3 =>
  if v2 ≤ l4 then (
    if fitT 52 l3 = true then some (.inr (l3, m3)) else none
    ) else (
    bd (isK m3 (m3.R x 31) 9) fun a4 =>
    bd2 (f_J2_get a4 l4 m3) fun v5 m6 =>
    if okC m6 8 v5 = true then (
      if l3 = 0 then (
        some (.inl ((0 : Int32), (l4 + (1 : Int32)), m6))
        ) else (
        bd (isK m6 v5 8) fun a7 =>
        bd2 (f_X7_isKnown a7 l2 m6) fun v8 m9 =>
        if v8 = 0 then (
          some (.inl ((1 : Int32), (l4 + (1 : Int32)), m9))
          ) else (
          bd (gI m9 v5 8 0) fun v10 =>
          bd (aI m9 50 l1 v10) fun v11 =>
          bd (gI m9 v5 8 1) fun v12 =>
          if v11 = v12 then (
            b_X0_areSo_64 x l1 l2 l4 v5 (1 : Int32) m9
            ) else (
            b_X0_areSo_64 x l1 l2 l4 v5 (0 : Int32) m9
            )
          )
        )
      ) else none
    )
noncomputable def b_X0_areSo_0 (x : Nat) (l1 : Option Nat) (l2 : Int32) (m : MM) : Option (((Int32 × Int32 × MM)) ⊕ (Int32 × MM)) :=
  some (.inl ((1 : Int32), (0 : Int32), m))
noncomputable def s_X0_areSo (x : Nat) (l1 : Option Nat) (l2 : Int32) : ((Int32 × Int32 × MM)) → Option (((Int32 × Int32 × MM)) ⊕ (Int32 × MM)) := fun z => match z with
  | (l3, l4, m) => b_X0_areSo_5 x l1 l2 l3 l4 m
noncomputable def f_X0_areSo (x : Nat) (l1 : Option Nat) (l2 : Int32) (m : MM) : Option (Int32 × MM) := bd (b_X0_areSo_0 x l1 l2 m) (rx_go (s_X0_areSo x l1 l2))
noncomputable def b_X0_orders_29 (x : Nat) (l1 : Int32) (l2 : Int32) (l3 : Int32) (m : MM) : Option (((Int32 × Int32 × MM)) ⊕ (Int32 × MM)) :=
  if (6 : Int32) ≤ l3 then (
    some (.inr (l2, m))
    ) else (
    bd2 (f_X0_writeBy x l3 m) fun v1 m2 =>
    bd2 (f_X0_pathOf x v1 (m2.R x 22) (0 : Int32) m2) fun v3 m4 =>
    bd2 (f_X0_areSo x v3 l1 m4) fun v5 m6 =>
    if v5 = 0 then (
      some (.inl ((l2 ||| (0 : Int32)), (l3 + (1 : Int32)), m6))
      ) else (
      some (.inl ((l2 ||| (ji_shl (1 : Int32) l3)), (l3 + (1 : Int32)), m6))
      )
    )
noncomputable def b_X0_orders_0 (x : Nat) (l1 : Int32) (m : MM) : Option (((Int32 × Int32 × MM)) ⊕ (Int32 × MM)) :=
  bd2 (f_X0_layTree x (m.R x 22) (0 : Int32) none m) fun v1 m2 =>
  if v1 = 0 then (
    some (.inr ((0 : Int32), m2))
    ) else (
    if (m2.I x 8) = 0 then (
      some (.inl ((0 : Int32), (0 : Int32), m2))
      ) else (
      some (.inr ((-2 : Int32), m2))
      )
    )
noncomputable def s_X0_orders (x : Nat) (l1 : Int32) : ((Int32 × Int32 × MM)) → Option (((Int32 × Int32 × MM)) ⊕ (Int32 × MM)) := fun z => match z with
  | (l2, l3, m) => b_X0_orders_29 x l1 l2 l3 m
noncomputable def f_X0_orders (x : Nat) (l1 : Int32) (m : MM) : Option (Int32 × MM) := bd (b_X0_orders_0 x l1 m) (rx_go (s_X0_orders x l1))
noncomputable def b_X0_isBox_0 (l0 : Int32) (m : MM) : Option (Int32 × MM) :=
  bd2 (f_X0_isIn l0 (0 : Int32) (2 : Int32) m) fun v1 m2 =>
  if fitT 52 v1 = true then some (v1, m2) else none
noncomputable def f_X0_isBox (l0 : Int32) (m : MM) : Option (Int32 × MM) := b_X0_isBox_0 l0 m
noncomputable def b_X0_image_0 (x : Nat) (l1 : Int32) (m : MM) : Option (Int32 × MM) :=
  bd2 (f_X0_isBox l1 m) fun v1 m2 =>
  if v1 = 0 then (
    some ((-1 : Int32), m2)
    ) else (
    bd (aR m2 55 (m2.R x 32) l1) fun v3 =>
    bd (cI m2 50 (m2.R x 16) (0 : Int32) v3 (0 : Int32) (13 : Int32)) fun m4 =>
    bd (sI m4 52 (m4.R x 33) l1 (1 : Int32)) fun m5 =>
    bd (aI m5 50 (m5.R x 16) (12 : Int32)) fun v6 =>
    some (v6, m5)
    )
noncomputable def f_X0_image (x : Nat) (l1 : Int32) (m : MM) : Option (Int32 × MM) := b_X0_image_0 x l1 m
noncomputable def b_X0_back_0 (x : Nat) (l1 : Int32) (m : MM) : Option (Int32 × MM) :=
  bd2 (f_X0_isBox l1 m) fun v1 m2 =>
  if v1 = 0 then (
    some ((-1 : Int32), m2)
    ) else (
    bd (aI m2 52 (m2.R x 33) l1) fun v3 =>
    if v3 = 0 then (
      some ((-1 : Int32), m2)
      ) else (
      bd (aR m2 55 (m2.R x 32) l1) fun v4 =>
      bd (cI m2 50 v4 (0 : Int32) (m2.R x 16) (0 : Int32) (13 : Int32)) fun m5 =>
      bd (pI m5 (some x) 1 18 50 (0 : Int32)) fun m6 =>
      bd (pI m6 (some x) 1 19 50 (0 : Int32)) fun m7 =>
      bd (aI m7 50 (m7.R x 16) (12 : Int32)) fun v8 =>
      some (v8, m7)
      )
    )
noncomputable def f_X0_back (x : Nat) (l1 : Int32) (m : MM) : Option (Int32 × MM) := b_X0_back_0 x l1 m
noncomputable def b_X0_about_0 (x : Nat) (l1 : Int32) (m : MM) : Option (Int32 × MM) :=
  if l1 = (0 : Int32) then (
    bd (gR m (m.R x 14) 2 0) fun v1 =>
    bd (isK m v1 9) fun a2 =>
    bd2 (f_J2_size a2 m) fun v3 m4 =>
    some (v3, m4)
    ) else
  if l1 = (1 : Int32) then (
    bd (gI m (m.R x 14) 2 6) fun v5 =>
    some (v5, m)
    ) else
  if l1 = (2 : Int32) then (
    bd (gR m (m.R x 14) 2 1) fun v6 =>
    bd (isK m v6 9) fun a7 =>
    bd2 (f_J2_size a7 m) fun v8 m9 =>
    some (v8, m9)
    ) else
  if l1 = (3 : Int32) then (
    bd (gI m (m.R x 14) 2 7) fun v10 =>
    some (v10, m)
    ) else
  if l1 = (4 : Int32) then (
    bd (isK m (m.R x 14) 2) fun a11 =>
    bd2 (f_X1_most a11 m) fun v12 m13 =>
    some (v12, m13)
    ) else
  if l1 = (5 : Int32) then (
    bd (aI m 50 (m.R x 16) (12 : Int32)) fun v14 =>
    some (v14, m)
    ) else
  if l1 = (6 : Int32) then (
    some ((m.I x 18), m)
    ) else
  if l1 = (7 : Int32) then (
    some ((m.I x 19), m)
    ) else
  if l1 = (8 : Int32) then (
    bd (isK m (m.R x 31) 9) fun a15 =>
    bd2 (f_J2_size a15 m) fun v16 m17 =>
    some (v16, m17)
    ) else
  if l1 = (9 : Int32) then (
    some ((m.I x 15), m)
    ) else
  if l1 = (10 : Int32) then (
    some ((m.I x 11), m)
    ) else
  if l1 = (11 : Int32) then (
    some ((m.I x 23), m)
    ) else
  some ((-1 : Int32), m)
noncomputable def f_X0_about (x : Nat) (l1 : Int32) (m : MM) : Option (Int32 × MM) := b_X0_about_0 x l1 m
