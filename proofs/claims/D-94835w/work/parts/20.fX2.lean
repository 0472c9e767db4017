/-! printed by wip/gen: what the methods compute, as functions over the memory -/
set_option maxRecDepth 100000
noncomputable def b_X2_toldTurn_0 (x : Nat) (l1 : Int32) (m : MM) : Option (Int32 × MM) :=
  bd (aI m 50 (m.R x 16) (m.I x 29)) fun v1 =>
  if v1 = 0 then (
    some ((ji_rem l1 (3 : Int32)), m)
    ) else (
    bd (aI m 50 (m.R x 16) (m.I x 29)) fun v2 =>
    if v2 = 0 then none else
    bd (aI m 50 (m.R x 17) (((6 : Int32) * (m.I x 29)) + (ji_rem l1 v2))) fun v3 =>
    some (v3, m)
    )
noncomputable def f_X2_toldTurn (x : Nat) (l1 : Int32) (m : MM) : Option (Int32 × MM) := b_X2_toldTurn_0 x l1 m
noncomputable def b_X2_begin_17 (x : Nat) (l1 : Int32) (m : MM) : Option (((Int32 × MM)) ⊕ (Unit × MM)) :=
  if (6 : Int32) ≤ l1 then (
    some (.inr ((), m))
    ) else (
    bd2 (f_X2_toldTurn x l1 m) fun v1 m2 =>
    bd (sI m2 50 (m.R x 37) l1 v1) fun m3 =>
    some (.inl ((l1 + (1 : Int32)), m3))
    )
noncomputable def b_X2_begin_0 (x : Nat) (m : MM) : Option (((Int32 × MM)) ⊕ (Unit × MM)) :=
  bd (pI m (some x) 3 39 50 (0 : Int32)) fun m1 =>
  bd (pI m1 (some x) 3 42 50 (0 : Int32)) fun m2 =>
  bd (pI m2 (some x) 3 43 50 (0 : Int32)) fun m3 =>
  some (.inl ((0 : Int32), m3))
noncomputable def s_X2_begin (x : Nat) : ((Int32 × MM)) → Option (((Int32 × MM)) ⊕ (Unit × MM)) := fun z => match z with
  | (l1, m) => b_X2_begin_17 x l1 m
noncomputable def f_X2_begin (x : Nat) (m : MM) : Option (Unit × MM) := bd (b_X2_begin_0 x m) (rx_go (s_X2_begin x))
noncomputable def b_X2_clearBank_78 (x : Nat) (l1 : Int32) (m : MM) : Option (((Int32 × MM)) ⊕ (Unit × MM)) :=
  if (((64 : Int32) * (m.I x 30)) + (64 : Int32)) ≤ l1 then (
    some (.inr ((), m))
    ) else (
    bd (sI m 52 (m.R x 24) l1 (0 : Int32)) fun m1 =>
    some (.inl ((l1 + (1 : Int32)), m1))
    )
noncomputable def b_X2_clearBank_0 (x : Nat) (m : MM) : Option (((Int32 × MM)) ⊕ (Unit × MM)) :=
  bd (sI m 50 (m.R x 11) (m.I x 30) (0 : Int32)) fun m1 =>
  bd (sI m1 50 (m1.R x 12) (m1.I x 30) (0 : Int32)) fun m2 =>
  bd (sI m2 50 (m2.R x 13) (m2.I x 30) (0 : Int32)) fun m3 =>
  bd (sI m3 50 (m3.R x 14) (m3.I x 30) (0 : Int32)) fun m4 =>
  bd (sI m4 50 (m4.R x 15) (m4.I x 30) (3 : Int32)) fun m5 =>
  bd (sI m5 50 (m5.R x 16) (m5.I x 30) (0 : Int32)) fun m6 =>
  bd (sI m6 52 (m6.R x 25) (m6.I x 30) (0 : Int32)) fun m7 =>
  some (.inl (((64 : Int32) * (m7.I x 30)), m7))
noncomputable def s_X2_clearBank (x : Nat) : ((Int32 × MM)) → Option (((Int32 × MM)) ⊕ (Unit × MM)) := fun z => match z with
  | (l1, m) => b_X2_clearBank_78 x l1 m
noncomputable def f_X2_clearBank (x : Nat) (m : MM) : Option (Unit × MM) := bd (b_X2_clearBank_0 x m) (rx_go (s_X2_clearBank x))
noncomputable def b_X2_init_420 (x : Nat) (l1 : Int32) (m : MM) : Option (((Int32 × MM)) ⊕ (Unit × MM)) :=
  if (3 : Int32) ≤ l1 then (
    some (.inr ((), m))
    ) else (
    bd (sI m 50 (m.R x 68) l1 (-1 : Int32)) fun m1 =>
    some (.inl ((l1 + (1 : Int32)), m1))
    )
noncomputable def b_X2_init_0 (x : Nat) (m : MM) : Option (((Int32 × MM)) ⊕ (Unit × MM)) :=
  bd (nA m 51 (1620 : Int32)) fun m1 =>
  bd (pR m1 (some x) 3 0 (some m.n)) fun m2 =>
  bd (nA m2 51 (1600 : Int32)) fun m3 =>
  bd (pR m3 (some x) 3 1 (some m2.n)) fun m4 =>
  bd (pI m4 (some x) 3 5 50 (-1 : Int32)) fun m5 =>
  bd (nA m5 50 (2 : Int32)) fun m6 =>
  bd (pR m6 (some x) 3 11 (some m5.n)) fun m7 =>
  bd (nA m7 50 (2 : Int32)) fun m8 =>
  bd (pR m8 (some x) 3 12 (some m7.n)) fun m9 =>
  bd (nA m9 50 (2 : Int32)) fun m10 =>
  bd (pR m10 (some x) 3 13 (some m9.n)) fun m11 =>
  bd (nA m11 50 (2 : Int32)) fun m12 =>
  bd (pR m12 (some x) 3 14 (some m11.n)) fun m13 =>
  bd (nA m13 50 (2 : Int32)) fun m14 =>
  bd (pR m14 (some x) 3 15 (some m13.n)) fun m15 =>
  bd (nA m15 50 (2 : Int32)) fun m16 =>
  bd (pR m16 (some x) 3 16 (some m15.n)) fun m17 =>
  bd (nA m17 50 (12 : Int32)) fun m18 =>
  bd (pR m18 (some x) 3 17 (some m17.n)) fun m19 =>
  bd (nA m19 50 (48 : Int32)) fun m20 =>
  bd (pR m20 (some x) 3 18 (some m19.n)) fun m21 =>
  bd (nA m21 50 (384 : Int32)) fun m22 =>
  bd (pR m22 (some x) 3 19 (some m21.n)) fun m23 =>
  bd (nA m23 50 (48 : Int32)) fun m24 =>
  bd (pR m24 (some x) 3 20 (some m23.n)) fun m25 =>
  bd (nA m25 50 (48 : Int32)) fun m26 =>
  bd (pR m26 (some x) 3 21 (some m25.n)) fun m27 =>
  bd (nA m27 50 (192 : Int32)) fun m28 =>
  bd (pR m28 (some x) 3 22 (some m27.n)) fun m29 =>
  bd (nA m29 50 (192 : Int32)) fun m30 =>
  bd (pR m30 (some x) 3 23 (some m29.n)) fun m31 =>
  bd (nA m31 52 (128 : Int32)) fun m32 =>
  bd (pR m32 (some x) 3 24 (some m31.n)) fun m33 =>
  bd (nA m33 52 (2 : Int32)) fun m34 =>
  bd (pR m34 (some x) 3 25 (some m33.n)) fun m35 =>
  bd (nA m35 53 (16 : Int32)) fun m36 =>
  bd (pR m36 (some x) 3 26 (some m35.n)) fun m37 =>
  bd (nA m37 53 (16 : Int32)) fun m38 =>
  bd (pR m38 (some x) 3 27 (some m37.n)) fun m39 =>
  bd (nA m39 53 (192 : Int32)) fun m40 =>
  bd (pR m40 (some x) 3 28 (some m39.n)) fun m41 =>
  bd (nA m41 50 (6 : Int32)) fun m42 =>
  bd (pR m42 (some x) 3 31 (some m41.n)) fun m43 =>
  bd (nA m43 50 (56 : Int32)) fun m44 =>
  bd (pR m44 (some x) 3 32 (some m43.n)) fun m45 =>
  bd (nA m45 53 (448 : Int32)) fun m46 =>
  bd (pR m46 (some x) 3 33 (some m45.n)) fun m47 =>
  bd (nA m47 53 (7 : Int32)) fun m48 =>
  bd (pR m48 (some x) 3 34 (some m47.n)) fun m49 =>
  bd (nA m49 53 (7 : Int32)) fun m50 =>
  bd (pR m50 (some x) 3 35 (some m49.n)) fun m51 =>
  bd (nA m51 50 (6 : Int32)) fun m52 =>
  bd (pR m52 (some x) 3 36 (some m51.n)) fun m53 =>
  bd (nA m53 50 (6 : Int32)) fun m54 =>
  bd (pR m54 (some x) 3 37 (some m53.n)) fun m55 =>
  bd (nA m55 50 (6 : Int32)) fun m56 =>
  bd (sI m56 50 (some m55.n) (0 : Int32) (-1 : Int32)) fun m57 =>
  bd (sI m57 50 (some m55.n) (1 : Int32) (-1 : Int32)) fun m58 =>
  bd (sI m58 50 (some m55.n) (2 : Int32) (-1 : Int32)) fun m59 =>
  bd (sI m59 50 (some m55.n) (3 : Int32) (-1 : Int32)) fun m60 =>
  bd (sI m60 50 (some m55.n) (4 : Int32) (-1 : Int32)) fun m61 =>
  bd (sI m61 50 (some m55.n) (5 : Int32) (-1 : Int32)) fun m62 =>
  bd (pR m62 (some x) 3 38 (some m55.n)) fun m63 =>
  bd (nA m63 50 (40 : Int32)) fun m64 =>
  bd (pR m64 (some x) 3 40 (some m63.n)) fun m65 =>
  bd (nA m65 50 (40 : Int32)) fun m66 =>
  bd (pR m66 (some x) 3 41 (some m65.n)) fun m67 =>
  bd (nA m67 50 (3001 : Int32)) fun m68 =>
  bd (pR m68 (some x) 3 44 (some m67.n)) fun m69 =>
  bd (nA m69 50 (9003 : Int32)) fun m70 =>
  bd (pR m70 (some x) 3 45 (some m69.n)) fun m71 =>
  bd (nA m71 50 (3001 : Int32)) fun m72 =>
  bd (pR m72 (some x) 3 46 (some m71.n)) fun m73 =>
  bd (nA m73 50 (3001 : Int32)) fun m74 =>
  bd (pR m74 (some x) 3 47 (some m73.n)) fun m75 =>
  bd (nA m75 50 (7 : Int32)) fun m76 =>
  bd (pR m76 (some x) 3 52 (some m75.n)) fun m77 =>
  bd (nA m77 50 (6 : Int32)) fun m78 =>
  bd (pR m78 (some x) 3 53 (some m77.n)) fun m79 =>
  bd (pI m79 (some x) 3 54 50 (-1 : Int32)) fun m80 =>
  bd (nA m80 50 (6 : Int32)) fun m81 =>
  bd (pR m81 (some x) 3 58 (some m80.n)) fun m82 =>
  bd (nA m82 50 (8 : Int32)) fun m83 =>
  bd (pR m83 (some x) 3 60 (some m82.n)) fun m84 =>
  bd (nA m84 50 (30 : Int32)) fun m85 =>
  bd (pR m85 (some x) 3 61 (some m84.n)) fun m86 =>
  bd (nA m86 50 (30 : Int32)) fun m87 =>
  bd (pR m87 (some x) 3 62 (some m86.n)) fun m88 =>
  bd (nA m88 50 (30 : Int32)) fun m89 =>
  bd (pR m89 (some x) 3 63 (some m88.n)) fun m90 =>
  bd (nA m90 50 (30 : Int32)) fun m91 =>
  bd (pR m91 (some x) 3 64 (some m90.n)) fun m92 =>
  bd (nA m92 52 (30 : Int32)) fun m93 =>
  bd (pR m93 (some x) 3 65 (some m92.n)) fun m94 =>
  bd (nA m94 50 (3 : Int32)) fun m95 =>
  bd (pR m95 (some x) 3 68 (some m94.n)) fun m96 =>
  bd (nA m96 50 (18 : Int32)) fun m97 =>
  bd (pR m97 (some x) 3 69 (some m96.n)) fun m98 =>
  bd (nA m98 50 (18 : Int32)) fun m99 =>
  bd (pR m99 (some x) 3 70 (some m98.n)) fun m100 =>
  bd2 (f_X2_clearBank x m100) fun _ m101 =>
  bd2 (f_X2_begin x m101) fun _ m102 =>
  some (.inl ((0 : Int32), m102))
noncomputable def s_X2_init (x : Nat) : ((Int32 × MM)) → Option (((Int32 × MM)) ⊕ (Unit × MM)) := fun z => match z with
  | (l1, m) => b_X2_init_420 x l1 m
noncomputable def f_X2_init (x : Nat) (m : MM) : Option (Unit × MM) := bd (b_X2_init_0 x m) (rx_go (s_X2_init x))
noncomputable def b_X2_isDigit_0 (l0 : Int32) (m : MM) : Option (Int32 × MM) :=
  if l0 < (48 : Int32) then (
    some ((0 : Int32), m)
    ) else (
    if (57 : Int32) < l0 then (
      some ((0 : Int32), m)
      ) else (
      some ((1 : Int32), m)
      )
    )
noncomputable def f_X2_isDigit (l0 : Int32) (m : MM) : Option (Int32 × MM) := b_X2_isDigit_0 l0 m
noncomputable def b_X2_isKept_0 (l0 : Int64) (m : MM) : Option (Int32 × MM) :=
  if (lg_cmp l0 (2003792484 : Int64)) = 0 then (
    some ((1 : Int32), m)
    ) else (
    if (lg_cmp l0 (1885432178 : Int64)) = 0 then (
      some ((1 : Int32), m)
      ) else (
      if (lg_cmp l0 (1920298085 : Int64)) = 0 then (
        some ((1 : Int32), m)
        ) else (
        if (lg_cmp l0 (28530 : Int64)) = 0 then (
          some ((1 : Int32), m)
          ) else (
          if (lg_cmp l0 (119182899770472 : Int64)) = 0 then (
            some ((1 : Int32), m)
            ) else (
            if (lg_cmp l0 (500186639987 : Int64)) = 0 then (
              some ((1 : Int32), m)
              ) else (
              some ((0 : Int32), m)
              )
            )
          )
        )
      )
    )
noncomputable def f_X2_isKept (l0 : Int64) (m : MM) : Option (Int32 × MM) := b_X2_isKept_0 l0 m
noncomputable def b_X2_isLetter_0 (l0 : Int32) (m : MM) : Option (Int32 × MM) :=
  if l0 < (97 : Int32) then (
    some ((0 : Int32), m)
    ) else (
    if (122 : Int32) < l0 then (
      some ((0 : Int32), m)
      ) else (
      some ((1 : Int32), m)
      )
    )
noncomputable def f_X2_isLetter (l0 : Int32) (m : MM) : Option (Int32 × MM) := b_X2_isLetter_0 l0 m
noncomputable def b_X2_sign_0 (x : Nat) (l1 : Int32) (m : MM) : Option (Int32 × MM) :=
  if (m.I x 3) ≤ l1 then (
    some ((0 : Int32), m)
    ) else (
    bd (aI m 51 (m.R x 1) l1) fun v1 =>
    some ((v1 &&& (255 : Int32)), m)
    )
noncomputable def f_X2_sign (x : Nat) (l1 : Int32) (m : MM) : Option (Int32 × MM) := b_X2_sign_0 x l1 m
noncomputable def b_X2_goOn_309 (x : Nat) (m : MM) : Option (((MM) ⊕ (MM) ⊕ (Int32 × MM) ⊕ (MM)) ⊕ (Unit × MM)) :=
  bd (pI m (some x) 3 7 50 ((m.I x 7) + (1 : Int32))) fun m1 =>
  some (.inl (.inr (.inr (.inr (m1)))))
noncomputable def b_X2_goOn_259 (x : Nat) (m : MM) : Option (((MM) ⊕ (MM) ⊕ (Int32 × MM) ⊕ (MM)) ⊕ (Unit × MM)) :=
  bd2 (f_X2_sign x (m.I x 7) m) fun v1 m2 =>
  bd2 (f_X2_isDigit v1 m2) fun v3 m4 =>
  if v3 = 0 then (
    if (4 : Int32) < ((m4.I x 7) - (m4.I x 6)) then (
      bd (pI m4 (some x) 3 8 50 (1 : Int32)) fun m5 =>
      some (.inr ((), m5))
      ) else (
      bd2 (f_X2_sign x (m4.I x 7) m4) fun v6 m7 =>
      bd2 (f_X2_isLetter v6 m7) fun v8 m9 =>
      if v8 = 0 then (
        bd (pI m9 (some x) 3 8 50 (4 : Int32)) fun m10 =>
        some (.inr ((), m10))
        ) else (
        bd (pI m9 (some x) 3 8 50 (1 : Int32)) fun m11 =>
        some (.inr ((), m11))
        )
      )
    ) else (
    if (4 : Int32) ≤ ((m4.I x 7) - (m4.I x 6)) then (
      b_X2_goOn_309 x m4
      ) else (
      bd2 (f_X2_sign x (m4.I x 7) m4) fun v12 m13 =>
      bd (pI m13 (some x) 3 9 50 ((((10 : Int32) * (m4.I x 9)) + v12) - (48 : Int32))) fun m14 =>
      b_X2_goOn_309 x m14
      )
    )
noncomputable def b_X2_goOn_199 (x : Nat) (m : MM) : Option (((MM) ⊕ (MM) ⊕ (Int32 × MM) ⊕ (MM)) ⊕ (Unit × MM)) :=
  if ((m.I x 7) - (m.I x 6)) ≤ (8 : Int32) then (
    bd2 (f_X2_isKept (m.L x 10) m) fun v1 m2 =>
    if v1 = 0 then (
      bd (pI m2 (some x) 3 8 50 (2 : Int32)) fun m3 =>
      some (.inr ((), m3))
      ) else (
      bd (pI m2 (some x) 3 8 50 (3 : Int32)) fun m4 =>
      some (.inr ((), m4))
      )
    ) else (
    bd (pI m (some x) 3 8 50 (1 : Int32)) fun m5 =>
    some (.inr ((), m5))
    )
noncomputable def b_X2_goOn_156 (x : Nat) (l2 : Int32) (m : MM) : Option (((MM) ⊕ (MM) ⊕ (Int32 × MM) ⊕ (MM)) ⊕ (Unit × MM)) :=
  if (m.I x 7) ≤ l2 then (
    b_X2_goOn_199 x m
    ) else (
    if ((m.I x 6) + (8 : Int32)) ≤ l2 then (
      b_X2_goOn_199 x m
      ) else (
      bd2 (f_X2_sign x l2 m) fun v1 m2 =>
      bd (pL m2 (some x) 3 10 ((jl_shl (m.L x 10) (8 : Int32)) ||| (v1).toInt64)) fun m3 =>
      some (.inl (.inr (.inr (.inl ((l2 + (1 : Int32)), m3)))))
      )
    )
noncomputable def b_X2_goOn_119 (x : Nat) (m : MM) : Option (((MM) ⊕ (MM) ⊕ (Int32 × MM) ⊕ (MM)) ⊕ (Unit × MM)) :=
  bd2 (f_X2_sign x (m.I x 7) m) fun v1 m2 =>
  bd2 (f_X2_isLetter v1 m2) fun v3 m4 =>
  if v3 = 0 then (
    bd (pL m4 (some x) 3 10 (0 : Int64)) fun m5 =>
    some (.inl (.inr (.inr (.inl ((m5.I x 6), m5)))))
    ) else (
    bd (pI m4 (some x) 3 7 50 ((m4.I x 7) + (1 : Int32))) fun m6 =>
    some (.inl (.inr (.inl (m6))))
    )
noncomputable def b_X2_goOn_58 (x : Nat) (m : MM) : Option (((MM) ⊕ (MM) ⊕ (Int32 × MM) ⊕ (MM)) ⊕ (Unit × MM)) :=
  bd2 (f_X2_sign x (m.I x 6) m) fun v1 m2 =>
  bd (pI m2 (some x) 3 7 50 ((m2.I x 6) + (1 : Int32))) fun m3 =>
  if (m3.I x 6) < (m3.I x 3) then (
    bd2 (f_X2_isLetter v1 m3) fun v4 m5 =>
    if v4 = 0 then (
      bd2 (f_X2_isDigit v1 m5) fun v6 m7 =>
      if v6 = 0 then (
        if v1 = (59 : Int32) then (
          bd (pI m7 (some x) 3 8 50 (5 : Int32)) fun m8 =>
          some (.inr ((), m8))
          ) else (
          if v1 = (61 : Int32) then (
            bd (pI m7 (some x) 3 8 50 (5 : Int32)) fun m10 =>
            some (.inr ((), m10))
            ) else (
            bd (pI m7 (some x) 3 8 50 (1 : Int32)) fun m9 =>
            some (.inr ((), m9))
            )
          )
        ) else (
        bd (pI m7 (some x) 3 9 50 (0 : Int32)) fun m11 =>
        bd (pI m11 (some x) 3 7 50 (m11.I x 6)) fun m12 =>
        some (.inl (.inr (.inr (.inr (m12)))))
        )
      ) else (
      some (.inl (.inr (.inl (m5))))
      )
    ) else (
    bd (pI m3 (some x) 3 8 50 (0 : Int32)) fun m13 =>
    bd (pI m13 (some x) 3 6 50 (m13.I x 3)) fun m14 =>
    bd (pI m14 (some x) 3 7 50 (m14.I x 3)) fun m15 =>
    some (.inr ((), m15))
    )
noncomputable def b_X2_goOn_45 (x : Nat) (m : MM) : Option (((MM) ⊕ (MM) ⊕ (Int32 × MM) ⊕ (MM)) ⊕ (Unit × MM)) :=
  bd (pI m (some x) 3 6 50 ((m.I x 6) + (1 : Int32))) fun m1 =>
  some (.inl (.inl (m1)))
noncomputable def b_X2_goOn_8 (x : Nat) (m : MM) : Option (((MM) ⊕ (MM) ⊕ (Int32 × MM) ⊕ (MM)) ⊕ (Unit × MM)) :=
  if (m.I x 3) ≤ (m.I x 6) then (
    b_X2_goOn_58 x m
    ) else (
    bd2 (f_X2_sign x (m.I x 6) m) fun v1 m2 =>
    if v1 = (32 : Int32) then (
      b_X2_goOn_45 x m2
      ) else (
      bd2 (f_X2_sign x (m2.I x 6) m2) fun v3 m4 =>
      if v3 = (10 : Int32) then (
        b_X2_goOn_45 x m4
        ) else (
        b_X2_goOn_58 x m4
        )
      )
    )
noncomputable def b_X2_goOn_0 (x : Nat) (m : MM) : Option (((MM) ⊕ (MM) ⊕ (Int32 × MM) ⊕ (MM)) ⊕ (Unit × MM)) :=
  bd (pI m (some x) 3 6 50 (m.I x 7)) fun m1 =>
  some (.inl (.inl (m1)))
noncomputable def s_X2_goOn (x : Nat) : ((MM) ⊕ (MM) ⊕ (Int32 × MM) ⊕ (MM)) → Option (((MM) ⊕ (MM) ⊕ (Int32 × MM) ⊕ (MM)) ⊕ (Unit × MM)) := fun z => match z with
  | (.inl m) => b_X2_goOn_8 x m
  | (.inr (.inl m)) => b_X2_goOn_119 x m
  | (.inr (.inr (.inl (l2, m)))) => b_X2_goOn_156 x l2 m
  | (.inr (.inr (.inr m))) => b_X2_goOn_259 x m
noncomputable def f_X2_goOn (x : Nat) (m : MM) : Option (Unit × MM) := bd (b_X2_goOn_0 x m) (rx_go (s_X2_goOn x))
noncomputable def b_X2_isGood_0 (x : Nat) (m : MM) : Option (Int32 × MM) :=
  if (m.I x 4) = 0 then (
    some ((1 : Int32), m)
    ) else (
    some ((0 : Int32), m)
    )
noncomputable def f_X2_isGood (x : Nat) (m : MM) : Option (Int32 × MM) := b_X2_isGood_0 x m
noncomputable def b_X2_isWord_0 (x : Nat) (l1 : Int64) (m : MM) : Option (Int32 × MM) :=
  if (m.I x 8) = (3 : Int32) then (
    if (lg_cmp (m.L x 10) l1) = 0 then (
      some ((1 : Int32), m)
      ) else (
      some ((0 : Int32), m)
      )
    ) else (
    some ((0 : Int32), m)
    )
noncomputable def f_X2_isWord (x : Nat) (l1 : Int64) (m : MM) : Option (Int32 × MM) := b_X2_isWord_0 x l1 m
noncomputable def b_X2_isFull_0 (x : Nat) (m : MM) : Option (Int32 × MM) :=
  bd2 (f_X2_isWord x (2003792484 : Int64) m) fun v1 m2 =>
  if v1 = 0 then (
    bd2 (f_X2_isWord x (1885432178 : Int64) m2) fun v3 m4 =>
    if v3 = 0 then (
      bd2 (f_X2_isWord x (1920298085 : Int64) m4) fun v5 m6 =>
      if v5 = 0 then (
        bd2 (f_X2_isWord x (119182899770472 : Int64) m6) fun v7 m8 =>
        if v7 = 0 then (
          bd2 (f_X2_isWord x (500186639987 : Int64) m8) fun v9 m10 =>
          if v9 = 0 then (
            some ((1 : Int32), m10)
            ) else (
            bd (aI m10 50 (m10.R x 16) (m10.I x 30)) fun v11 =>
            if v11 ≤ 0 then (
              some ((0 : Int32), m10)
              ) else (
              some ((1 : Int32), m10)
              )
            )
          ) else (
          bd (aI m8 52 (m8.R x 25) (m8.I x 30)) fun v12 =>
          if fitT 52 v12 = true then some (v12, m8) else none
          )
        ) else (
        bd (aI m6 50 (m6.R x 13) (m6.I x 30)) fun v13 =>
        if v13 = (8 : Int32) then (
          some ((1 : Int32), m6)
          ) else (
          some ((0 : Int32), m6)
          )
        )
      ) else (
      bd (aI m4 50 (m4.R x 12) (m4.I x 30)) fun v14 =>
      if v14 = (12 : Int32) then (
        some ((1 : Int32), m4)
        ) else (
        some ((0 : Int32), m4)
        )
      )
    ) else (
    bd (aI m2 50 (m2.R x 11) (m2.I x 30)) fun v15 =>
    if v15 = (8 : Int32) then (
      some ((1 : Int32), m2)
      ) else (
      some ((0 : Int32), m2)
      )
    )
noncomputable def f_X2_isFull (x : Nat) (m : MM) : Option (Int32 × MM) := b_X2_isFull_0 x m
noncomputable def b_X2_isSignHere_0 (x : Nat) (l1 : Int32) (m : MM) : Option (Int32 × MM) :=
  if (m.I x 8) = (5 : Int32) then (
    bd2 (f_X2_sign x (m.I x 6) m) fun v1 m2 =>
    if v1 = l1 then (
      some ((1 : Int32), m2)
      ) else (
      some ((0 : Int32), m2)
      )
    ) else (
    some ((0 : Int32), m)
    )
noncomputable def f_X2_isSignHere (x : Nat) (l1 : Int32) (m : MM) : Option (Int32 × MM) := b_X2_isSignHere_0 x l1 m
noncomputable def b_X2_fails_0 (x : Nat) (l1 : Int32) (l2 : Int32) (m : MM) : Option (Unit × MM) :=
  if (m.I x 4) ≤ 0 then (
    bd (pI m (some x) 3 4 50 l1) fun m1 =>
    bd (pI m1 (some x) 3 5 50 l2) fun m2 =>
    some ((), m2)
    ) else (
    some ((), m)
    )
noncomputable def f_X2_fails (x : Nat) (l1 : Int32) (l2 : Int32) (m : MM) : Option (Unit × MM) := b_X2_fails_0 x l1 l2 m
noncomputable def b_X2_misplaced_14 (x : Nat) (s0 : Option Nat) (s1 : Int32) (m : MM) : Option (Unit × MM) :=
  bd (isK m s0 3) fun a1 =>
  bd2 (f_X2_fails a1 s1 (m.I x 6) m) fun _ m2 =>
  some ((), m2)
noncomputable def b_X2_misplaced_0 (x : Nat) (m : MM) : Option (Unit × MM) :=
  if (m.I x 8) = (1 : Int32) then (
    b_X2_misplaced_14 x (some x) (1 : Int32) m
    ) else (
    b_X2_misplaced_14 x (some x) (2 : Int32) m
    )
noncomputable def f_X2_misplaced (x : Nat) (m : MM) : Option (Unit × MM) := b_X2_misplaced_0 x m
noncomputable def b_X2_must_0 (x : Nat) (l1 : Int32) (m : MM) : Option (Unit × MM) :=
  bd2 (f_X2_isGood x m) fun v1 m2 =>
  if v1 = 0 then (
    some ((), m2)
    ) else (
    if l1 = 0 then (
      bd2 (f_X2_misplaced x m2) fun _ m3 =>
      some ((), m3)
      ) else (
      bd2 (f_X2_goOn x m2) fun _ m4 =>
      some ((), m4)
      )
    )
noncomputable def f_X2_must (x : Nat) (l1 : Int32) (m : MM) : Option (Unit × MM) := b_X2_must_0 x l1 m
noncomputable def b_X2_numeral_69 (x : Nat) (l1 : Int32) (l2 : Int32) (l3 : Int32) (m : MM) : Option (Int32 × MM) :=
  bd2 (f_X2_isGood x m) fun v1 m2 =>
  if v1 = 0 then (
    some (l1, m2)
    ) else (
    some (l3, m2)
    )
noncomputable def b_X2_numeral_53 (x : Nat) (l1 : Int32) (l2 : Int32) (m : MM) : Option (Int32 × MM) :=
  bd2 (f_X2_isGood x m) fun v1 m2 =>
  if v1 = 0 then (
    b_X2_numeral_69 x l1 l2 (m.I x 9) m2
    ) else (
    bd2 (f_X2_goOn x m2) fun _ m3 =>
    b_X2_numeral_69 x l1 l2 (m.I x 9) m3
    )
noncomputable def b_X2_numeral_44 (x : Nat) (l1 : Int32) (l2 : Int32) (m : MM) : Option (Int32 × MM) :=
  bd2 (f_X2_fails x (4 : Int32) (m.I x 6) m) fun _ m1 =>
  b_X2_numeral_53 x l1 l2 m1
noncomputable def b_X2_numeral_21 (x : Nat) (l1 : Int32) (l2 : Int32) (m : MM) : Option (Int32 × MM) :=
  bd2 (f_X2_isGood x m) fun v1 m2 =>
  if v1 = 0 then (
    b_X2_numeral_53 x l1 l2 m2
    ) else (
    if (m2.I x 9) < l1 then (
      b_X2_numeral_44 x l1 l2 m2
      ) else (
      if (m2.I x 9) ≤ l2 then (
        b_X2_numeral_53 x l1 l2 m2
        ) else (
        b_X2_numeral_44 x l1 l2 m2
        )
      )
    )
noncomputable def b_X2_numeral_0 (x : Nat) (l1 : Int32) (l2 : Int32) (m : MM) : Option (Int32 × MM) :=
  bd2 (f_X2_isGood x m) fun v1 m2 =>
  if v1 = 0 then (
    some (l1, m2)
    ) else (
    if (m2.I x 8) = (4 : Int32) then (
      b_X2_numeral_21 x l1 l2 m2
      ) else (
      bd2 (f_X2_misplaced x m2) fun _ m3 =>
      b_X2_numeral_21 x l1 l2 m3
      )
    )
noncomputable def f_X2_numeral (x : Nat) (l1 : Int32) (l2 : Int32) (m : MM) : Option (Int32 × MM) := b_X2_numeral_0 x l1 l2 m
noncomputable def b_X2_wordOf_2 (x : Nat) (l1 : Int64) (l3 : Int32) (m : MM) : Option (((Int32 × MM)) ⊕ (Int32 × MM)) :=
  bd (aI m 50 (m.R x 11) (m.I x 30)) fun v1 =>
  if v1 ≤ l3 then (
    some (.inr ((-1 : Int32), m))
    ) else (
    bd (aL m (m.R x 26) (((8 : Int32) * (m.I x 30)) + l3)) fun v2 =>
    if (lg_cmp v2 l1) = 0 then (
      some (.inr (l3, m))
      ) else (
      some (.inl ((l3 + (1 : Int32)), m))
      )
    )
noncomputable def b_X2_wordOf_0 (x : Nat) (l1 : Int64) (m : MM) : Option (((Int32 × MM)) ⊕ (Int32 × MM)) :=
  some (.inl ((0 : Int32), m))
noncomputable def s_X2_wordOf (x : Nat) (l1 : Int64) : ((Int32 × MM)) → Option (((Int32 × MM)) ⊕ (Int32 × MM)) := fun z => match z with
  | (l3, m) => b_X2_wordOf_2 x l1 l3 m
noncomputable def f_X2_wordOf (x : Nat) (l1 : Int64) (m : MM) : Option (Int32 × MM) := bd (b_X2_wordOf_0 x l1 m) (rx_go (s_X2_wordOf x l1))
noncomputable def b_X2_known_57 (x : Nat) (l1 : Int32) (m : MM) : Option (Int32 × MM) :=
  if 0 ≤ l1 then (
    some (l1, m)
    ) else (
    some ((0 : Int32), m)
    )
noncomputable def b_X2_known_46 (x : Nat) (l1 : Int32) (m : MM) : Option (Int32 × MM) :=
  bd2 (f_X2_isGood x m) fun v1 m2 =>
  if v1 = 0 then (
    b_X2_known_57 x l1 m2
    ) else (
    bd2 (f_X2_goOn x m2) fun _ m3 =>
    b_X2_known_57 x l1 m3
    )
noncomputable def b_X2_known_0 (x : Nat) (m : MM) : Option (Int32 × MM) :=
  bd2 (f_X2_isGood x m) fun v1 m2 =>
  if v1 = 0 then (
    some ((0 : Int32), m2)
    ) else (
    bd2 (f_X2_wordOf x (m2.L x 10) m2) fun v3 m4 =>
    if (m4.I x 8) = (2 : Int32) then (
      if 0 ≤ v3 then (
        b_X2_known_46 x v3 m4
        ) else (
        bd2 (f_X2_fails x (5 : Int32) (m4.I x 6) m4) fun _ m5 =>
        b_X2_known_46 x v3 m5
        )
      ) else (
      bd2 (f_X2_misplaced x m4) fun _ m6 =>
      b_X2_known_46 x v3 m6
      )
    )
noncomputable def f_X2_known (x : Nat) (m : MM) : Option (Int32 × MM) := b_X2_known_0 x m
noncomputable def b_X2_readPair_57 (x : Nat) (l4 : Int32) (l5 : Int32) (m : MM) : Option (((Int32 × Int32 × MM)) ⊕ (Unit × MM)) :=
  if (3 : Int32) ≤ l5 then (
    bd2 (f_X2_isGood x m) fun v1 m2 =>
    if v1 = 0 then (
      some (.inr ((), m2))
      ) else (
      bd (sI m2 52 (m2.R x 24) l4 (1 : Int32)) fun m3 =>
      bd (aI m3 50 (m3.R x 12) (m3.I x 30)) fun v4 =>
      bd (sI m3 50 (m3.R x 12) (m3.I x 30) (v4 + (1 : Int32))) fun m5 =>
      some (.inr ((), m5))
      )
    ) else (
    bd2 (f_X2_numeral x (0 : Int32) (99 : Int32) m) fun v6 m7 =>
    bd (sI m7 50 (m.R x 19) (((3 : Int32) * l4) + l5) (v6 - (50 : Int32))) fun m8 =>
    some (.inl (l4, (l5 + (1 : Int32)), m8))
    )
noncomputable def b_X2_readPair_0 (x : Nat) (m : MM) : Option (((Int32 × Int32 × MM)) ⊕ (Unit × MM)) :=
  bd2 (f_X2_known x m) fun v1 m2 =>
  bd2 (f_X2_known x m2) fun v3 m4 =>
  bd2 (f_X2_isGood x m4) fun v5 m6 =>
  if v5 = 0 then (
    some (.inl (((((64 : Int32) * (m4.I x 30)) + ((8 : Int32) * v1)) + v3), (0 : Int32), m6))
    ) else (
    bd (aI m6 52 (m6.R x 24) ((((64 : Int32) * (m4.I x 30)) + ((8 : Int32) * v1)) + v3)) fun v7 =>
    if v7 = 0 then (
      some (.inl (((((64 : Int32) * (m4.I x 30)) + ((8 : Int32) * v1)) + v3), (0 : Int32), m6))
      ) else (
      bd2 (f_X2_fails x (3 : Int32) (m2.I x 6) m6) fun _ m8 =>
      some (.inl (((((64 : Int32) * (m4.I x 30)) + ((8 : Int32) * v1)) + v3), (0 : Int32), m8))
      )
    )
noncomputable def s_X2_readPair (x : Nat) : ((Int32 × Int32 × MM)) → Option (((Int32 × Int32 × MM)) ⊕ (Unit × MM)) := fun z => match z with
  | (l4, l5, m) => b_X2_readPair_57 x l4 l5 m
noncomputable def f_X2_readPair (x : Nat) (m : MM) : Option (Unit × MM) := bd (b_X2_readPair_0 x m) (rx_go (s_X2_readPair x))
noncomputable def b_X2_ruleOf_2 (x : Nat) (l1 : Int64) (l3 : Int32) (m : MM) : Option (((Int32 × MM)) ⊕ (Int32 × MM)) :=
  bd (aI m 50 (m.R x 13) (m.I x 30)) fun v1 =>
  if v1 ≤ l3 then (
    some (.inr ((-1 : Int32), m))
    ) else (
    bd (aL m (m.R x 27) (((8 : Int32) * (m.I x 30)) + l3)) fun v2 =>
    if (lg_cmp v2 l1) = 0 then (
      some (.inr (l3, m))
      ) else (
      some (.inl ((l3 + (1 : Int32)), m))
      )
    )
noncomputable def b_X2_ruleOf_0 (x : Nat) (l1 : Int64) (m : MM) : Option (((Int32 × MM)) ⊕ (Int32 × MM)) :=
  some (.inl ((0 : Int32), m))
noncomputable def s_X2_ruleOf (x : Nat) (l1 : Int64) : ((Int32 × MM)) → Option (((Int32 × MM)) ⊕ (Int32 × MM)) := fun z => match z with
  | (l3, m) => b_X2_ruleOf_2 x l1 l3 m
noncomputable def f_X2_ruleOf (x : Nat) (l1 : Int64) (m : MM) : Option (Int32 × MM) := bd (b_X2_ruleOf_0 x l1 m) (rx_go (s_X2_ruleOf x l1))
noncomputable def b_X2_fresh_55 (x : Nat) (m : MM) : Option (Int64 × MM) :=
  bd2 (f_X2_isGood x m) fun v1 m2 =>
  if v1 = 0 then (
    some ((m.L x 10), m2)
    ) else (
    bd2 (f_X2_goOn x m2) fun _ m3 =>
    some ((m.L x 10), m3)
    )
noncomputable def b_X2_fresh_46 (x : Nat) (m : MM) : Option (Int64 × MM) :=
  bd2 (f_X2_fails x (3 : Int32) (m.I x 6) m) fun _ m1 =>
  b_X2_fresh_55 x m1
noncomputable def b_X2_fresh_0 (x : Nat) (m : MM) : Option (Int64 × MM) :=
  bd2 (f_X2_isGood x m) fun v1 m2 =>
  if v1 = 0 then (
    some ((0 : Int64), m2)
    ) else (
    if (m2.I x 8) = (2 : Int32) then (
      bd2 (f_X2_wordOf x (m2.L x 10) m2) fun v3 m4 =>
      if 0 ≤ v3 then (
        b_X2_fresh_46 x m4
        ) else (
        bd2 (f_X2_ruleOf x (m4.L x 10) m4) fun v5 m6 =>
        if v5 < 0 then (
          b_X2_fresh_55 x m6
          ) else (
          b_X2_fresh_46 x m6
          )
        )
      ) else (
      bd2 (f_X2_misplaced x m2) fun _ m7 =>
      b_X2_fresh_55 x m7
      )
    )
noncomputable def f_X2_fresh (x : Nat) (m : MM) : Option (Int64 × MM) := b_X2_fresh_0 x m
noncomputable def b_X2_readAlt_87 (x : Nat) (l1 : Int32) (m : MM) : Option (((Int32 × MM)) ⊕ (Unit × MM)) :=
  bd2 (f_X2_isGood x m) fun v1 m2 =>
  if v1 = 0 then (
    some (.inr ((), m2))
    ) else (
    if (m2.I x 8) = (2 : Int32) then (
      bd (aI m2 50 (m2.R x 21) l1) fun v3 =>
      if v3 = (4 : Int32) then (
        bd2 (f_X2_misplaced x m2) fun _ m11 =>
        some (.inr ((), m11))
        ) else (
        bd (aI m2 50 (m2.R x 21) l1) fun v4 =>
        bd (sL m2 (m2.R x 28) (((4 : Int32) * l1) + v4) (m2.L x 10)) fun m5 =>
        bd (aI m5 50 (m5.R x 21) l1) fun v6 =>
        bd (sI m5 50 (m5.R x 23) (((4 : Int32) * l1) + v6) (m5.I x 6)) fun m7 =>
        bd (aI m7 50 (m7.R x 21) l1) fun v8 =>
        bd (sI m7 50 (m7.R x 21) l1 (v8 + (1 : Int32))) fun m9 =>
        bd2 (f_X2_goOn x m9) fun _ m10 =>
        some (.inl (l1, m10))
        )
      ) else (
      some (.inr ((), m2))
      )
    )
noncomputable def b_X2_readAlt_26 (x : Nat) (m : MM) : Option (((Int32 × MM)) ⊕ (Unit × MM)) :=
  bd2 (f_X2_isGood x m) fun v1 m2 =>
  if v1 = 0 then (
    some (.inr ((), m2))
    ) else (
    bd (aI m2 50 (m2.R x 14) (m2.I x 30)) fun v3 =>
    bd (aI m2 50 (m2.R x 13) (m2.I x 30)) fun v4 =>
    bd (sI m2 50 (m2.R x 20) (((24 : Int32) * (m2.I x 30)) + v3) v4) fun m5 =>
    bd (sI m5 50 (m5.R x 21) (((24 : Int32) * (m2.I x 30)) + v3) (0 : Int32)) fun m6 =>
    bd (aI m6 50 (m6.R x 14) (m6.I x 30)) fun v7 =>
    bd (sI m6 50 (m6.R x 14) (m6.I x 30) (v7 + (1 : Int32))) fun m8 =>
    some (.inl ((((24 : Int32) * (m2.I x 30)) + v3), m8))
    )
noncomputable def b_X2_readAlt_22 (x : Nat) (m : MM) : Option (((Int32 × MM)) ⊕ (Unit × MM)) :=
  bd2 (f_X2_misplaced x m) fun _ m1 =>
  b_X2_readAlt_26 x m1
noncomputable def b_X2_readAlt_0 (x : Nat) (m : MM) : Option (((Int32 × MM)) ⊕ (Unit × MM)) :=
  if (m.I x 8) = (2 : Int32) then (
    bd (aI m 50 (m.R x 14) (m.I x 30)) fun v1 =>
    if v1 = (24 : Int32) then (
      b_X2_readAlt_22 x m
      ) else (
      b_X2_readAlt_26 x m
      )
    ) else (
    b_X2_readAlt_22 x m
    )
noncomputable def s_X2_readAlt (x : Nat) : ((Int32 × MM)) → Option (((Int32 × MM)) ⊕ (Unit × MM)) := fun z => match z with
  | (l1, m) => b_X2_readAlt_87 x l1 m
noncomputable def f_X2_readAlt (x : Nat) (m : MM) : Option (Unit × MM) := bd (b_X2_readAlt_0 x m) (rx_go (s_X2_readAlt x))
noncomputable def b_X2_readRule_87 (x : Nat) (m : MM) : Option (((Int32 × MM)) ⊕ (Unit × MM)) :=
  bd (aI m 50 (m.R x 13) (m.I x 30)) fun v1 =>
  bd (sI m 50 (m.R x 13) (m.I x 30) (v1 + (1 : Int32))) fun m2 =>
  some (.inr ((), m2))
noncomputable def b_X2_readRule_75 (x : Nat) (s0 : Int32) (m : MM) : Option (((Int32 × MM)) ⊕ (Unit × MM)) :=
  if s0 = 0 then (
    some (.inl (s0, m))
    ) else (
    bd2 (f_X2_goOn x m) fun _ m1 =>
    some (.inl (s0, m1))
    )
noncomputable def b_X2_readRule_74 (x : Nat) (m : MM) : Option (((Int32 × MM)) ⊕ (Unit × MM)) :=
  b_X2_readRule_75 x (0 : Int32) m
noncomputable def b_X2_readRule_38 (x : Nat) (l1 : Int32) (m : MM) : Option (((Int32 × MM)) ⊕ (Unit × MM)) :=
  bd2 (f_X2_isGood x m) fun v1 m2 =>
  if v1 = 0 then (
    b_X2_readRule_87 x m2
    ) else (
    if l1 = 0 then (
      b_X2_readRule_87 x m2
      ) else (
      bd2 (f_X2_readAlt x m2) fun _ m3 =>
      bd2 (f_X2_isGood x m3) fun v4 m5 =>
      if v4 = 0 then (
        b_X2_readRule_74 x m5
        ) else (
        bd2 (f_X2_isWord x (28530 : Int64) m5) fun v6 m7 =>
        if v6 = 0 then (
          b_X2_readRule_74 x m7
          ) else (
          b_X2_readRule_75 x (1 : Int32) m7
          )
        )
      )
    )
noncomputable def b_X2_readRule_0 (x : Nat) (m : MM) : Option (((Int32 × MM)) ⊕ (Unit × MM)) :=
  bd (aI m 50 (m.R x 13) (m.I x 30)) fun v1 =>
  bd2 (f_X2_fresh x m) fun v2 m3 =>
  bd (sL m3 (m.R x 27) (((8 : Int32) * (m.I x 30)) + v1) v2) fun m4 =>
  bd2 (f_X2_isSignHere x (61 : Int32) m4) fun v5 m6 =>
  bd2 (f_X2_must x v5 m6) fun _ m7 =>
  some (.inl ((1 : Int32), m7))
noncomputable def s_X2_readRule (x : Nat) : ((Int32 × MM)) → Option (((Int32 × MM)) ⊕ (Unit × MM)) := fun z => match z with
  | (l1, m) => b_X2_readRule_38 x l1 m
noncomputable def f_X2_readRule (x : Nat) (m : MM) : Option (Unit × MM) := bd (b_X2_readRule_0 x m) (rx_go (s_X2_readRule x))
noncomputable def b_X2_readTurns_18 (x : Nat) (m : MM) : Option (((MM)) ⊕ (Unit × MM)) :=
  bd2 (f_X2_numeral x (0 : Int32) (2 : Int32) m) fun v1 m2 =>
  bd2 (f_X2_isGood x m2) fun v3 m4 =>
  if v3 = 0 then (
    some (.inr ((), m4))
    ) else (
    bd (aI m4 50 (m4.R x 16) (m4.I x 30)) fun v5 =>
    bd (sI m4 50 (m4.R x 17) (((6 : Int32) * (m4.I x 30)) + v5) v1) fun m6 =>
    bd (aI m6 50 (m6.R x 16) (m6.I x 30)) fun v7 =>
    bd (sI m6 50 (m6.R x 16) (m6.I x 30) (v7 + (1 : Int32))) fun m8 =>
    if (m8.I x 8) = (4 : Int32) then (
      some (.inl (m8))
      ) else (
      some (.inr ((), m8))
      )
    )
noncomputable def b_X2_readTurns_0 (x : Nat) (m : MM) : Option (((MM)) ⊕ (Unit × MM)) :=
  bd (aI m 50 (m.R x 16) (m.I x 30)) fun v1 =>
  if v1 = (6 : Int32) then (
    bd2 (f_X2_misplaced x m) fun _ m2 =>
    b_X2_readTurns_18 x m2
    ) else (
    b_X2_readTurns_18 x m
    )
noncomputable def s_X2_readTurns (x : Nat) : ((MM)) → Option (((MM)) ⊕ (Unit × MM)) := fun z => match z with
  | m => b_X2_readTurns_0 x m
noncomputable def f_X2_readTurns (x : Nat) (m : MM) : Option (Unit × MM) := bd (b_X2_readTurns_0 x m) (rx_go (s_X2_readTurns x))
noncomputable def b_X2_readWord_30 (x : Nat) (l1 : Int32) (l2 : Int32) (m : MM) : Option (((Int32 × Int32 × MM)) ⊕ (Unit × MM)) :=
  if (3 : Int32) ≤ l2 then (
    bd (aI m 50 (m.R x 11) (m.I x 30)) fun v1 =>
    bd (sI m 50 (m.R x 11) (m.I x 30) (v1 + (1 : Int32))) fun m2 =>
    some (.inr ((), m2))
    ) else (
    bd2 (f_X2_numeral x (0 : Int32) (99 : Int32) m) fun v3 m4 =>
    bd (sI m4 50 (m.R x 18) (((3 : Int32) * l1) + l2) (v3 - (50 : Int32))) fun m5 =>
    some (.inl (l1, (l2 + (1 : Int32)), m5))
    )
noncomputable def b_X2_readWord_0 (x : Nat) (m : MM) : Option (((Int32 × Int32 × MM)) ⊕ (Unit × MM)) :=
  bd (aI m 50 (m.R x 11) (m.I x 30)) fun v1 =>
  bd2 (f_X2_fresh x m) fun v2 m3 =>
  bd (sL m3 (m.R x 26) (((8 : Int32) * (m.I x 30)) + v1) v2) fun m4 =>
  some (.inl ((((8 : Int32) * (m.I x 30)) + v1), (0 : Int32), m4))
noncomputable def s_X2_readWord (x : Nat) : ((Int32 × Int32 × MM)) → Option (((Int32 × Int32 × MM)) ⊕ (Unit × MM)) := fun z => match z with
  | (l1, l2, m) => b_X2_readWord_30 x l1 l2 m
noncomputable def f_X2_readWord (x : Nat) (m : MM) : Option (Unit × MM) := bd (b_X2_readWord_0 x m) (rx_go (s_X2_readWord x))
noncomputable def b_X2_readLine_118 (x : Nat) (m : MM) : Option (Unit × MM) :=
  bd2 (f_X2_isSignHere x (59 : Int32) m) fun v1 m2 =>
  bd2 (f_X2_must x v1 m2) fun _ m3 =>
  some ((), m3)
noncomputable def b_X2_readLine_106 (x : Nat) (l1 : Int64) (m : MM) : Option (Unit × MM) :=
  if (lg_cmp l1 (500186639987 : Int64)) = 0 then (
    bd2 (f_X2_readTurns x m) fun _ m1 =>
    b_X2_readLine_118 x m1
    ) else (
    b_X2_readLine_118 x m
    )
noncomputable def b_X2_readLine_72 (x : Nat) (l1 : Int64) (m : MM) : Option (Unit × MM) :=
  if (lg_cmp l1 (119182899770472 : Int64)) = 0 then (
    bd (sI m 52 (m.R x 25) (m.I x 30) (1 : Int32)) fun m1 =>
    bd2 (f_X2_numeral x (1 : Int32) (6 : Int32) m1) fun v2 m3 =>
    bd (sI m3 50 (m1.R x 15) (m1.I x 30) v2) fun m4 =>
    b_X2_readLine_106 x l1 m4
    ) else (
    b_X2_readLine_106 x l1 m
    )
noncomputable def b_X2_readLine_60 (x : Nat) (l1 : Int64) (m : MM) : Option (Unit × MM) :=
  if (lg_cmp l1 (1920298085 : Int64)) = 0 then (
    bd2 (f_X2_readRule x m) fun _ m1 =>
    b_X2_readLine_72 x l1 m1
    ) else (
    b_X2_readLine_72 x l1 m
    )
noncomputable def b_X2_readLine_48 (x : Nat) (l1 : Int64) (m : MM) : Option (Unit × MM) :=
  if (lg_cmp l1 (1885432178 : Int64)) = 0 then (
    bd2 (f_X2_readPair x m) fun _ m1 =>
    b_X2_readLine_60 x l1 m1
    ) else (
    b_X2_readLine_60 x l1 m
    )
noncomputable def b_X2_readLine_24 (x : Nat) (l1 : Int64) (m : MM) : Option (Unit × MM) :=
  bd2 (f_X2_isGood x m) fun v1 m2 =>
  if v1 = 0 then (
    some ((), m2)
    ) else (
    bd2 (f_X2_goOn x m2) fun _ m3 =>
    if (lg_cmp l1 (2003792484 : Int64)) = 0 then (
      bd2 (f_X2_readWord x m3) fun _ m4 =>
      b_X2_readLine_48 x l1 m4
      ) else (
      b_X2_readLine_48 x l1 m3
      )
    )
noncomputable def b_X2_readLine_20 (x : Nat) (l1 : Int64) (m : MM) : Option (Unit × MM) :=
  bd2 (f_X2_misplaced x m) fun _ m1 =>
  b_X2_readLine_24 x l1 m1
noncomputable def b_X2_readLine_0 (x : Nat) (m : MM) : Option (Unit × MM) :=
  if (m.I x 8) = (3 : Int32) then (
    bd2 (f_X2_isFull x m) fun v1 m2 =>
    if v1 = 0 then (
      b_X2_readLine_24 x (m.L x 10) m2
      ) else (
      b_X2_readLine_20 x (m.L x 10) m2
      )
    ) else (
    b_X2_readLine_20 x (m.L x 10) m
    )
noncomputable def f_X2_readLine (x : Nat) (m : MM) : Option (Unit × MM) := b_X2_readLine_0 x m
noncomputable def b_X2_settle_133 (x : Nat) (l1 : Int32) (l2 : Int32) (l3 : Int32) (l4 : Int32) (m : MM) : Option (((Int32 × MM) ⊕ (Int32 × Int32 × MM)) ⊕ (Unit × MM)) :=
  if l3 < 0 then (
    bd (sI m 50 (m.R x 22) l2 ((8 : Int32) + l4)) fun m1 =>
    some (.inl (.inr (l1, (l2 + (1 : Int32)), m1)))
    ) else (
    bd (sI m 50 (m.R x 22) l2 l3) fun m2 =>
    some (.inl (.inr (l1, (l2 + (1 : Int32)), m2)))
    )
noncomputable def b_X2_settle_91 (x : Nat) (l1 : Int32) (l2 : Int32) (l3 : Int32) (l4 : Int32) (m : MM) : Option (((Int32 × MM) ⊕ (Int32 × Int32 × MM)) ⊕ (Unit × MM)) :=
  if 0 ≤ l3 then (
    b_X2_settle_133 x l1 l2 l3 l4 m
    ) else (
    if l4 < 0 then (
      b_X2_settle_133 x l1 l2 l3 l4 m
      ) else (
      bd (aI m 50 (m.R x 21) l1) fun v1 =>
      if v1 = (1 : Int32) then (
        bd (aI m 50 (m.R x 20) l1) fun v2 =>
        if v2 < l4 then (
          b_X2_settle_133 x l1 l2 l3 l4 m
          ) else (
          bd (aI m 50 (m.R x 23) l2) fun v3 =>
          bd2 (f_X2_fails x (7 : Int32) v3 m) fun _ m4 =>
          b_X2_settle_133 x l1 l2 l3 l4 m4
          )
        ) else (
        b_X2_settle_133 x l1 l2 l3 l4 m
        )
      )
    )
noncomputable def b_X2_settle_33 (x : Nat) (l1 : Int32) (l2 : Int32) (m : MM) : Option (((Int32 × MM) ⊕ (Int32 × Int32 × MM)) ⊕ (Unit × MM)) :=
  bd (aI m 50 (m.R x 21) l1) fun v1 =>
  if (((4 : Int32) * l1) + v1) ≤ l2 then (
    some (.inl (.inl ((l1 + (1 : Int32)), m)))
    ) else (
    bd (aL m (m.R x 28) l2) fun v2 =>
    bd2 (f_X2_wordOf x v2 m) fun v3 m4 =>
    bd (aL m4 (m4.R x 28) l2) fun v5 =>
    bd2 (f_X2_ruleOf x v5 m4) fun v6 m7 =>
    if 0 ≤ v3 then (
      b_X2_settle_91 x l1 l2 v3 v6 m7
      ) else (
      if 0 ≤ v6 then (
        b_X2_settle_91 x l1 l2 v3 v6 m7
        ) else (
        bd (aI m7 50 (m7.R x 23) l2) fun v8 =>
        bd2 (f_X2_fails x (6 : Int32) v8 m7) fun _ m9 =>
        b_X2_settle_91 x l1 l2 v3 v6 m9
        )
      )
    )
noncomputable def b_X2_settle_8 (x : Nat) (l1 : Int32) (m : MM) : Option (((Int32 × MM) ⊕ (Int32 × Int32 × MM)) ⊕ (Unit × MM)) :=
  bd (aI m 50 (m.R x 14) (m.I x 30)) fun v1 =>
  if (((24 : Int32) * (m.I x 30)) + v1) ≤ l1 then (
    some (.inr ((), m))
    ) else (
    some (.inl (.inr (l1, ((4 : Int32) * l1), m)))
    )
noncomputable def b_X2_settle_0 (x : Nat) (m : MM) : Option (((Int32 × MM) ⊕ (Int32 × Int32 × MM)) ⊕ (Unit × MM)) :=
  some (.inl (.inl (((24 : Int32) * (m.I x 30)), m)))
noncomputable def s_X2_settle (x : Nat) : ((Int32 × MM) ⊕ (Int32 × Int32 × MM)) → Option (((Int32 × MM) ⊕ (Int32 × Int32 × MM)) ⊕ (Unit × MM)) := fun z => match z with
  | (.inl (l1, m)) => b_X2_settle_8 x l1 m
  | (.inr (l1, l2, m)) => b_X2_settle_33 x l1 l2 m
noncomputable def f_X2_settle (x : Nat) (m : MM) : Option (Unit × MM) := bd (b_X2_settle_0 x m) (rx_go (s_X2_settle x))
noncomputable def b_X2_port_165 (x : Nat) (l1 : Int32) (m : MM) : Option (((Int32 × MM) ⊕ (MM) ⊕ (Int32 × MM) ⊕ (Int32 × MM)) ⊕ (Int32 × MM)) :=
  if (3 : Int32) ≤ l1 then (
    bd (aI m 50 (m.R x 11) (m.I x 29)) fun v1 =>
    some (.inr (v1, m))
    ) else (
    bd (sI m 50 (m.R x 68) l1 (-1 : Int32)) fun m2 =>
    some (.inl (.inr (.inr (.inr ((l1 + (1 : Int32)), m2)))))
    )
noncomputable def b_X2_port_134 (x : Nat) (l1 : Int32) (m : MM) : Option (((Int32 × MM) ⊕ (MM) ⊕ (Int32 × MM) ⊕ (Int32 × MM)) ⊕ (Int32 × MM)) :=
  if (6 : Int32) ≤ l1 then (
    bd (pI m (some x) 3 66 50 (0 : Int32)) fun m1 =>
    bd (pI m1 (some x) 3 59 50 (0 : Int32)) fun m2 =>
    some (.inl (.inr (.inr (.inr ((0 : Int32), m2)))))
    ) else (
    bd (sI m 50 (m.R x 38) l1 (-1 : Int32)) fun m3 =>
    some (.inl (.inr (.inr (.inl ((l1 + (1 : Int32)), m3)))))
    )
noncomputable def b_X2_port_106 (x : Nat) (m : MM) : Option (((Int32 × MM) ⊕ (MM) ⊕ (Int32 × MM) ⊕ (Int32 × MM)) ⊕ (Int32 × MM)) :=
  bd2 (f_X2_isGood x m) fun v1 m2 =>
  if v1 = 0 then (
    some (.inr ((-1 : Int32), m2))
    ) else (
    bd (pI m2 (some x) 3 29 50 (m2.I x 30)) fun m3 =>
    bd (pL m3 (some x) 3 51 (0 : Int64)) fun m4 =>
    bd2 (f_X2_begin x m4) fun _ m5 =>
    some (.inl (.inr (.inr (.inl ((0 : Int32), m5)))))
    )
noncomputable def b_X2_port_95 (x : Nat) (m : MM) : Option (((Int32 × MM) ⊕ (MM) ⊕ (Int32 × MM) ⊕ (Int32 × MM)) ⊕ (Int32 × MM)) :=
  bd2 (f_X2_isGood x m) fun v1 m2 =>
  if v1 = 0 then (
    b_X2_port_106 x m2
    ) else (
    bd2 (f_X2_settle x m2) fun _ m3 =>
    b_X2_port_106 x m3
    )
noncomputable def b_X2_port_74 (x : Nat) (m : MM) : Option (((Int32 × MM) ⊕ (MM) ⊕ (Int32 × MM) ⊕ (Int32 × MM)) ⊕ (Int32 × MM)) :=
  bd2 (f_X2_isGood x m) fun v1 m2 =>
  if v1 = 0 then (
    b_X2_port_95 x m2
    ) else (
    if (m2.I x 8) = 0 then (
      b_X2_port_95 x m2
      ) else (
      bd2 (f_X2_readLine x m2) fun _ m3 =>
      some (.inl (.inr (.inl (m3))))
      )
    )
noncomputable def b_X2_port_20 (x : Nat) (l1 : Int32) (m : MM) : Option (((Int32 × MM) ⊕ (MM) ⊕ (Int32 × MM) ⊕ (Int32 × MM)) ⊕ (Int32 × MM)) :=
  if (m.I x 3) ≤ l1 then (
    bd (pI m (some x) 3 2 50 (0 : Int32)) fun m1 =>
    bd (pI m1 (some x) 3 7 50 (0 : Int32)) fun m2 =>
    bd (pI m2 (some x) 3 30 50 ((1 : Int32) - (m2.I x 29))) fun m3 =>
    bd2 (f_X2_clearBank x m3) fun _ m4 =>
    bd2 (f_X2_goOn x m4) fun _ m5 =>
    some (.inl (.inr (.inl (m5))))
    ) else (
    bd (aI m 51 (m.R x 0) l1) fun v6 =>
    bd (sI m 51 (m.R x 1) l1 v6) fun m7 =>
    some (.inl (.inl ((l1 + (1 : Int32)), m7)))
    )
noncomputable def b_X2_port_0 (x : Nat) (m : MM) : Option (((Int32 × MM) ⊕ (MM) ⊕ (Int32 × MM) ⊕ (Int32 × MM)) ⊕ (Int32 × MM)) :=
  bd (pI m (some x) 3 4 50 (0 : Int32)) fun m1 =>
  bd (pI m1 (some x) 3 5 50 (-1 : Int32)) fun m2 =>
  bd (pI m2 (some x) 3 3 50 (m2.I x 2)) fun m3 =>
  some (.inl (.inl ((0 : Int32), m3)))
noncomputable def s_X2_port (x : Nat) : ((Int32 × MM) ⊕ (MM) ⊕ (Int32 × MM) ⊕ (Int32 × MM)) → Option (((Int32 × MM) ⊕ (MM) ⊕ (Int32 × MM) ⊕ (Int32 × MM)) ⊕ (Int32 × MM)) := fun z => match z with
  | (.inl (l1, m)) => b_X2_port_20 x l1 m
  | (.inr (.inl m)) => b_X2_port_74 x m
  | (.inr (.inr (.inl (l1, m)))) => b_X2_port_134 x l1 m
  | (.inr (.inr (.inr (l1, m)))) => b_X2_port_165 x l1 m
noncomputable def f_X2_port (x : Nat) (m : MM) : Option (Int32 × MM) := bd (b_X2_port_0 x m) (rx_go (s_X2_port x))
noncomputable def b_X2_fault_0 (x : Nat) (l1 : Int32) (m : MM) : Option (Int32 × MM) :=
  if l1 = 0 then (
    some ((m.I x 4), m)
    ) else (
    if l1 = (1 : Int32) then (
      some ((m.I x 5), m)
      ) else (
      some ((-1 : Int32), m)
      )
    )
noncomputable def f_X2_fault (x : Nat) (l1 : Int32) (m : MM) : Option (Int32 × MM) := b_X2_fault_0 x l1 m
noncomputable def b_X2_isIn_0 (l0 : Int32) (l1 : Int32) (l2 : Int32) (m : MM) : Option (Int32 × MM) :=
  if l0 < l1 then (
    some ((0 : Int32), m)
    ) else (
    if l2 < l0 then (
      some ((0 : Int32), m)
      ) else (
      some ((1 : Int32), m)
      )
    )
noncomputable def f_X2_isIn (l0 : Int32) (l1 : Int32) (l2 : Int32) (m : MM) : Option (Int32 × MM) := b_X2_isIn_0 l0 l1 l2 m
noncomputable def b_X2_isGuild_0 (l0 : Int32) (m : MM) : Option (Int32 × MM) :=
  bd2 (f_X2_isIn l0 (0 : Int32) (2 : Int32) m) fun v1 m2 =>
  if fitT 52 v1 = true then some (v1, m2) else none
noncomputable def f_X2_isGuild (l0 : Int32) (m : MM) : Option (Int32 × MM) := b_X2_isGuild_0 l0 m
noncomputable def b_X2_isWordOf_0 (x : Nat) (l1 : Int32) (m : MM) : Option (Int32 × MM) :=
  bd (aI m 50 (m.R x 11) (m.I x 29)) fun v1 =>
  bd2 (f_X2_isIn l1 (0 : Int32) (v1 - (1 : Int32)) m) fun v2 m3 =>
  if fitT 52 v2 = true then some (v2, m3) else none
noncomputable def f_X2_isWordOf (x : Nat) (l1 : Int32) (m : MM) : Option (Int32 × MM) := b_X2_isWordOf_0 x l1 m
noncomputable def b_X2_worth_0 (x : Nat) (l1 : Int32) (l2 : Int32) (m : MM) : Option (Int32 × MM) :=
  bd2 (f_X2_isWordOf x l1 m) fun v1 m2 =>
  if v1 = 0 then (
    some ((-1000000 : Int32), m2)
    ) else (
    bd2 (f_X2_isGuild l2 m2) fun v3 m4 =>
    if v3 = 0 then (
      some ((-1000000 : Int32), m4)
      ) else (
      bd (aI m4 50 (m4.R x 18) (((3 : Int32) * (((8 : Int32) * (m4.I x 29)) + l1)) + l2)) fun v5 =>
      some (v5, m4)
      )
    )
noncomputable def f_X2_worth (x : Nat) (l1 : Int32) (l2 : Int32) (m : MM) : Option (Int32 × MM) := b_X2_worth_0 x l1 l2 m
noncomputable def b_X2_pairOf_0 (x : Nat) (l1 : Int32) (l2 : Int32) (l3 : Int32) (m : MM) : Option (Int32 × MM) :=
  bd (aI m 52 (m.R x 24) ((((64 : Int32) * (m.I x 29)) + ((8 : Int32) * l1)) + l2)) fun v1 =>
  if v1 = 0 then (
    some ((0 : Int32), m)
    ) else (
    bd (aI m 50 (m.R x 19) (((3 : Int32) * ((((64 : Int32) * (m.I x 29)) + ((8 : Int32) * l1)) + l2)) + l3)) fun v2 =>
    some (v2, m)
    )
noncomputable def f_X2_pairOf (x : Nat) (l1 : Int32) (l2 : Int32) (l3 : Int32) (m : MM) : Option (Int32 × MM) := b_X2_pairOf_0 x l1 l2 l3 m
noncomputable def b_X2_behind_0 (x : Nat) (l1 : Int32) (l2 : Int32) (l3 : Int32) (m : MM) : Option (Int32 × MM) :=
  bd2 (f_X2_isWordOf x l1 m) fun v1 m2 =>
  if v1 = 0 then (
    some ((-1000000 : Int32), m2)
    ) else (
    bd2 (f_X2_isWordOf x l2 m2) fun v3 m4 =>
    if v3 = 0 then (
      some ((-1000000 : Int32), m4)
      ) else (
      bd2 (f_X2_isGuild l3 m4) fun v5 m6 =>
      if v5 = 0 then (
        some ((-1000000 : Int32), m6)
        ) else (
        bd2 (f_X2_pairOf x l1 l2 l3 m6) fun v7 m8 =>
        some (v7, m8)
        )
      )
    )
noncomputable def f_X2_behind (x : Nat) (l1 : Int32) (l2 : Int32) (l3 : Int32) (m : MM) : Option (Int32 × MM) := b_X2_behind_0 x l1 l2 l3 m
noncomputable def b_X2_longOf_0 (x : Nat) (m : MM) : Option (Int32 × MM) :=
  bd (aI m 50 (m.R x 15) (m.I x 29)) fun v1 =>
  some (v1, m)
noncomputable def f_X2_longOf (x : Nat) (m : MM) : Option (Int32 × MM) := b_X2_longOf_0 x m
noncomputable def b_X2_isPlace_0 (x : Nat) (l1 : Int32) (m : MM) : Option (Int32 × MM) :=
  bd2 (f_X2_longOf x m) fun v1 m2 =>
  bd2 (f_X2_isIn l1 (0 : Int32) (v1 - (1 : Int32)) m2) fun v3 m4 =>
  if fitT 52 v3 = true then some (v3, m4) else none
noncomputable def f_X2_isPlace (x : Nat) (l1 : Int32) (m : MM) : Option (Int32 × MM) := b_X2_isPlace_0 x l1 m
noncomputable def b_X2_turn_0 (x : Nat) (l1 : Int32) (m : MM) : Option (Int32 × MM) :=
  bd2 (f_X2_isPlace x l1 m) fun v1 m2 =>
  if v1 = 0 then (
    some ((-1 : Int32), m2)
    ) else (
    bd (aI m2 50 (m2.R x 37) l1) fun v3 =>
    some (v3, m2)
    )
noncomputable def f_X2_turn (x : Nat) (l1 : Int32) (m : MM) : Option (Int32 × MM) := b_X2_turn_0 x l1 m
noncomputable def b_X2_word_0 (x : Nat) (l1 : Int32) (m : MM) : Option (Int32 × MM) :=
  bd2 (f_X2_isIn l1 (0 : Int32) ((m.I x 39) - (1 : Int32)) m) fun v1 m2 =>
  if v1 = 0 then (
    some ((-1 : Int32), m2)
    ) else (
    bd (aI m2 50 (m2.R x 36) l1) fun v3 =>
    some (v3, m2)
    )
noncomputable def f_X2_word (x : Nat) (l1 : Int32) (m : MM) : Option (Int32 × MM) := b_X2_word_0 x l1 m
noncomputable def b_X2_endsBy_0 (x : Nat) (l1 : Int32) (l2 : Int32) (m : MM) : Option (Int32 × MM) :=
  if l1 < (8 : Int32) then (
    bd (aI m 50 (m.R x 31) l2) fun v1 =>
    if v1 = (-1 : Int32) then (
      some ((ji_shl (1 : Int32) (l2 + (1 : Int32))), m)
      ) else (
      bd (aI m 50 (m.R x 31) l2) fun v2 =>
      if v2 = l1 then (
        some ((ji_shl (1 : Int32) (l2 + (1 : Int32))), m)
        ) else (
        some ((0 : Int32), m)
        )
      )
    ) else (
    bd (aI m 50 (m.R x 32) (((7 : Int32) * (l1 - (8 : Int32))) + l2)) fun v3 =>
    some (v3, m)
    )
noncomputable def f_X2_endsBy (x : Nat) (l1 : Int32) (l2 : Int32) (m : MM) : Option (Int32 × MM) := b_X2_endsBy_0 x l1 l2 m
noncomputable def b_X2_doesRead_31 (x : Nat) (l1 : Int32) (l2 : Int32) (l3 : Int32) (l4 : Int32) (l5 : Int32) (l6 : Int32) (l7 : Int32) (m : MM) : Option (((Int32 × Int32 × MM) ⊕ (Int32 × Int32 × Int32 × Int32 × MM)) ⊕ (Int32 × MM)) :=
  if l3 ≤ l7 then (
    some (.inl (.inl (l6, (l5 + (1 : Int32)), m)))
    ) else (
    if ((ji_shr l4 l7) &&& (1 : Int32)) = (1 : Int32) then (
      bd (aI m 50 (m.R x 22) l5) fun v1 =>
      bd2 (f_X2_endsBy x v1 l7 m) fun v2 m3 =>
      some (.inl (.inr (l4, l5, (l6 ||| v2), (l7 + (1 : Int32)), m3)))
      ) else (
      some (.inl (.inr (l4, l5, l6, (l7 + (1 : Int32)), m)))
      )
    )
noncomputable def b_X2_doesRead_10 (x : Nat) (l1 : Int32) (l2 : Int32) (l3 : Int32) (l4 : Int32) (l5 : Int32) (m : MM) : Option (((Int32 × Int32 × MM) ⊕ (Int32 × Int32 × Int32 × Int32 × MM)) ⊕ (Int32 × MM)) :=
  bd (aI m 50 (m.R x 21) l1) fun v1 =>
  if (((4 : Int32) * l1) + v1) ≤ l5 then (
    if ((ji_shr l4 l3) &&& (1 : Int32)) = (1 : Int32) then (
      some (.inr ((1 : Int32), m))
      ) else (
      some (.inr ((0 : Int32), m))
      )
    ) else (
    some (.inl (.inr (l4, l5, (0 : Int32), l2, m)))
    )
noncomputable def b_X2_doesRead_0 (x : Nat) (l1 : Int32) (l2 : Int32) (l3 : Int32) (m : MM) : Option (((Int32 × Int32 × MM) ⊕ (Int32 × Int32 × Int32 × Int32 × MM)) ⊕ (Int32 × MM)) :=
  some (.inl (.inl ((ji_shl (1 : Int32) l2), ((4 : Int32) * l1), m)))
noncomputable def s_X2_doesRead (x : Nat) (l1 : Int32) (l2 : Int32) (l3 : Int32) : ((Int32 × Int32 × MM) ⊕ (Int32 × Int32 × Int32 × Int32 × MM)) → Option (((Int32 × Int32 × MM) ⊕ (Int32 × Int32 × Int32 × Int32 × MM)) ⊕ (Int32 × MM)) := fun z => match z with
  | (.inl (l4, l5, m)) => b_X2_doesRead_10 x l1 l2 l3 l4 l5 m
  | (.inr (l4, l5, l6, l7, m)) => b_X2_doesRead_31 x l1 l2 l3 l4 l5 l6 l7 m
noncomputable def f_X2_doesRead (x : Nat) (l1 : Int32) (l2 : Int32) (l3 : Int32) (m : MM) : Option (Int32 × MM) := bd (b_X2_doesRead_0 x l1 l2 l3 m) (rx_go (s_X2_doesRead x l1 l2 l3))
noncomputable def b_X2_layEnds_58 (x : Nat) (l1 : Int32) (l2 : Int32) (l3 : Int32) (l4 : Int32) (m : MM) : Option (((Int32 × MM) ⊕ (Int32 × MM) ⊕ (Int32 × Int32 × MM) ⊕ (Int32 × Int32 × Int32 × MM)) ⊕ (Unit × MM)) :=
  if l4 < ((24 : Int32) * (m.I x 29)) then (
    some (.inl (.inr (.inr (.inl (l2, (l3 + (1 : Int32)), m)))))
    ) else (
    bd2 (f_X2_doesRead x l4 l3 (l3 + l2) m) fun v1 m2 =>
    if v1 = 0 then (
      some (.inl (.inr (.inr (.inr (l2, l3, (l4 + (-1 : Int32)), m2)))))
      ) else (
      bd (aI m2 50 (m2.R x 20) l4) fun v3 =>
      bd (aI m2 50 (m2.R x 32) (((7 : Int32) * v3) + l3)) fun v4 =>
      bd (sI m2 50 (m2.R x 32) (((7 : Int32) * v3) + l3) (v4 ||| (ji_shl (1 : Int32) (l3 + l2)))) fun m5 =>
      some (.inl (.inr (.inr (.inr (l2, l3, (l4 + (-1 : Int32)), m5)))))
      )
    )
noncomputable def b_X2_layEnds_30 (x : Nat) (l1 : Int32) (l2 : Int32) (l3 : Int32) (m : MM) : Option (((Int32 × MM) ⊕ (Int32 × MM) ⊕ (Int32 × Int32 × MM) ⊕ (Int32 × Int32 × Int32 × MM)) ⊕ (Unit × MM)) :=
  if l1 < (l3 + l2) then (
    some (.inl (.inr (.inl ((l2 + (1 : Int32)), m))))
    ) else (
    bd (aI m 50 (m.R x 14) (m.I x 29)) fun v1 =>
    some (.inl (.inr (.inr (.inr (l2, l3, ((((24 : Int32) * (m.I x 29)) + v1) - (1 : Int32)), m)))))
    )
noncomputable def b_X2_layEnds_23 (x : Nat) (l1 : Int32) (l2 : Int32) (m : MM) : Option (((Int32 × MM) ⊕ (Int32 × MM) ⊕ (Int32 × Int32 × MM) ⊕ (Int32 × Int32 × Int32 × MM)) ⊕ (Unit × MM)) :=
  if l1 < l2 then (
    some (.inr ((), m))
    ) else (
    some (.inl (.inr (.inr (.inl (l2, (0 : Int32), m)))))
    )
noncomputable def b_X2_layEnds_2 (x : Nat) (l1 : Int32) (l2 : Int32) (m : MM) : Option (((Int32 × MM) ⊕ (Int32 × MM) ⊕ (Int32 × Int32 × MM) ⊕ (Int32 × Int32 × Int32 × MM)) ⊕ (Unit × MM)) :=
  if (56 : Int32) ≤ l2 then (
    some (.inl (.inr (.inl ((1 : Int32), m))))
    ) else (
    bd (sI m 50 (m.R x 32) l2 (0 : Int32)) fun m1 =>
    some (.inl (.inl ((l2 + (1 : Int32)), m1)))
    )
noncomputable def b_X2_layEnds_0 (x : Nat) (l1 : Int32) (m : MM) : Option (((Int32 × MM) ⊕ (Int32 × MM) ⊕ (Int32 × Int32 × MM) ⊕ (Int32 × Int32 × Int32 × MM)) ⊕ (Unit × MM)) :=
  some (.inl (.inl ((0 : Int32), m)))
noncomputable def s_X2_layEnds (x : Nat) (l1 : Int32) : ((Int32 × MM) ⊕ (Int32 × MM) ⊕ (Int32 × Int32 × MM) ⊕ (Int32 × Int32 × Int32 × MM)) → Option (((Int32 × MM) ⊕ (Int32 × MM) ⊕ (Int32 × Int32 × MM) ⊕ (Int32 × Int32 × Int32 × MM)) ⊕ (Unit × MM)) := fun z => match z with
  | (.inl (l2, m)) => b_X2_layEnds_2 x l1 l2 m
  | (.inr (.inl (l2, m))) => b_X2_layEnds_23 x l1 l2 m
  | (.inr (.inr (.inl (l2, l3, m)))) => b_X2_layEnds_30 x l1 l2 l3 m
  | (.inr (.inr (.inr (l2, l3, l4, m)))) => b_X2_layEnds_58 x l1 l2 l3 l4 m
noncomputable def f_X2_layEnds (x : Nat) (l1 : Int32) (m : MM) : Option (Unit × MM) := bd (b_X2_layEnds_0 x l1 m) (rx_go (s_X2_layEnds x l1))
noncomputable def b_X2_isRead_0 (x : Nat) (l1 : Int32) (m : MM) : Option (Int32 × MM) :=
  bd (aI m 50 (m.R x 13) (m.I x 29)) fun v1 =>
  if v1 = 0 then (
    some ((0 : Int32), m)
    ) else (
    if l1 = 0 then (
      some ((0 : Int32), m)
      ) else (
      bd2 (f_X2_layEnds x l1 m) fun _ m2 =>
      bd (aI m2 50 (m2.R x 32) (0 : Int32)) fun v3 =>
      if ((ji_shr v3 l1) &&& (1 : Int32)) = (1 : Int32) then (
        some ((1 : Int32), m2)
        ) else (
        some ((0 : Int32), m2)
        )
      )
    )
noncomputable def f_X2_isRead (x : Nat) (l1 : Int32) (m : MM) : Option (Int32 × MM) := b_X2_isRead_0 x l1 m
noncomputable def b_X2_canGoOn_2 (x : Nat) (l1 : Int32) (l2 : Int32) (m : MM) : Option (((Int32 × MM)) ⊕ (Int32 × MM)) :=
  bd2 (f_X2_longOf x m) fun v1 m2 =>
  if v1 ≤ l2 then (
    bd2 (f_X2_longOf x m2) fun v3 m4 =>
    if v3 < l1 then (
      some (.inr ((0 : Int32), m4))
      ) else (
      bd2 (f_X2_longOf x m4) fun v5 m6 =>
      bd2 (f_X2_isRead x v5 m6) fun v7 m8 =>
      if v7 = 0 then (
        some (.inr ((0 : Int32), m8))
        ) else (
        some (.inr ((1 : Int32), m8))
        )
      )
    ) else (
    bd (sI m2 50 (m2.R x 31) l2 (-1 : Int32)) fun m9 =>
    some (.inl ((l2 + (1 : Int32)), m9))
    )
noncomputable def b_X2_canGoOn_0 (x : Nat) (l1 : Int32) (m : MM) : Option (((Int32 × MM)) ⊕ (Int32 × MM)) :=
  some (.inl (l1, m))
noncomputable def s_X2_canGoOn (x : Nat) (l1 : Int32) : ((Int32 × MM)) → Option (((Int32 × MM)) ⊕ (Int32 × MM)) := fun z => match z with
  | (l2, m) => b_X2_canGoOn_2 x l1 l2 m
noncomputable def f_X2_canGoOn (x : Nat) (l1 : Int32) (m : MM) : Option (Int32 × MM) := bd (b_X2_canGoOn_0 x l1 m) (rx_go (s_X2_canGoOn x l1))
noncomputable def b_X2_tryRow_2 (x : Nat) (l1 : Int32) (m : MM) : Option (((Int32 × MM)) ⊕ (Unit × MM)) :=
  if (m.I x 39) ≤ l1 then (
    some (.inr ((), m))
    ) else (
    bd (aI m 50 (m.R x 36) l1) fun v1 =>
    bd (sI m 50 (m.R x 31) l1 v1) fun m2 =>
    some (.inl ((l1 + (1 : Int32)), m2))
    )
noncomputable def b_X2_tryRow_0 (x : Nat) (m : MM) : Option (((Int32 × MM)) ⊕ (Unit × MM)) :=
  some (.inl ((0 : Int32), m))
noncomputable def s_X2_tryRow (x : Nat) : ((Int32 × MM)) → Option (((Int32 × MM)) ⊕ (Unit × MM)) := fun z => match z with
  | (l1, m) => b_X2_tryRow_2 x l1 m
noncomputable def f_X2_tryRow (x : Nat) (m : MM) : Option (Unit × MM) := bd (b_X2_tryRow_0 x m) (rx_go (s_X2_tryRow x))
noncomputable def b_X2_canCome_0 (x : Nat) (l1 : Int32) (m : MM) : Option (Int32 × MM) :=
  bd2 (f_X2_longOf x m) fun v1 m2 =>
  if (m.I x 39) = v1 then (
    some ((0 : Int32), m2)
    ) else (
    bd2 (f_X2_tryRow x m2) fun _ m3 =>
    bd (sI m3 50 (m3.R x 31) (m3.I x 39) l1) fun m4 =>
    bd2 (f_X2_canGoOn x ((m4.I x 39) + (1 : Int32)) m4) fun v5 m6 =>
    if fitT 52 v5 = true then some (v5, m6) else none
    )
noncomputable def f_X2_canCome (x : Nat) (l1 : Int32) (m : MM) : Option (Int32 × MM) := b_X2_canCome_0 x l1 m
noncomputable def b_X2_next_4 (x : Nat) (l1 : Int32) (l2 : Int32) (m : MM) : Option (((Int32 × Int32 × MM)) ⊕ (Int32 × MM)) :=
  bd (aI m 50 (m.R x 11) (m.I x 29)) fun v1 =>
  if v1 ≤ l2 then (
    some (.inr (l1, m))
    ) else (
    bd2 (f_X2_canCome x l2 m) fun v2 m3 =>
    if v2 = 0 then (
      some (.inl ((l1 ||| (0 : Int32)), (l2 + (1 : Int32)), m3))
      ) else (
      some (.inl ((l1 ||| (ji_shl (1 : Int32) l2)), (l2 + (1 : Int32)), m3))
      )
    )
noncomputable def b_X2_next_0 (x : Nat) (m : MM) : Option (((Int32 × Int32 × MM)) ⊕ (Int32 × MM)) :=
  some (.inl ((0 : Int32), (0 : Int32), m))
noncomputable def s_X2_next (x : Nat) : ((Int32 × Int32 × MM)) → Option (((Int32 × Int32 × MM)) ⊕ (Int32 × MM)) := fun z => match z with
  | (l1, l2, m) => b_X2_next_4 x l1 l2 m
noncomputable def f_X2_next (x : Nat) (m : MM) : Option (Int32 × MM) := bd (b_X2_next_0 x m) (rx_go (s_X2_next x))
noncomputable def b_X2_atMost_0 (l0 : Int64) (m : MM) : Option (Int64 × MM) :=
  if (lg_cmp l0 (1000000000 : Int64)) ≤ 0 then (
    some (l0, m)
    ) else (
    some ((1000000000 : Int64), m)
    )
noncomputable def f_X2_atMost (l0 : Int64) (m : MM) : Option (Int64 × MM) := b_X2_atMost_0 l0 m
noncomputable def b_X2_waysBy_243 (x : Nat) (l1 : Int32) (l2 : Int32) (l3 : Int32) (l4 : Int32) (l5 : Int32) (m : MM) : Option (((Int32 × MM) ⊕ (Int32 × MM) ⊕ (Int32 × Int32 × MM) ⊕ (Int32 × Int32 × MM) ⊕ (Int32 × Int32 × Int32 × MM) ⊕ (Int32 × Int32 × MM)) ⊕ (Int64 × MM)) :=
  if (7 : Int32) ≤ l5 then (
    some (.inl (.inr (.inl ((l4 + (1 : Int32)), m))))
    ) else (
    bd (aL m (m.R x 35) l5) fun v1 =>
    bd (sL m (m.R x 34) l5 v1) fun m2 =>
    some (.inl (.inr (.inr (.inr (.inr (.inr (l4, (l5 + (1 : Int32)), m2)))))))
    )
noncomputable def b_X2_waysBy_169 (x : Nat) (l1 : Int32) (l2 : Int32) (l3 : Int32) (l4 : Int32) (l5 : Int32) (l6 : Int32) (m : MM) : Option (((Int32 × MM) ⊕ (Int32 × MM) ⊕ (Int32 × Int32 × MM) ⊕ (Int32 × Int32 × MM) ⊕ (Int32 × Int32 × Int32 × MM) ⊕ (Int32 × Int32 × MM)) ⊕ (Int64 × MM)) :=
  if l3 < l6 then (
    some (.inl (.inr (.inr (.inr (.inl (l4, (l5 + (1 : Int32)), m))))))
    ) else (
    bd (aL m (m.R x 35) l6) fun v1 =>
    bd (aL m (m.R x 34) l5) fun v2 =>
    bd (aI m 50 (m.R x 22) l4) fun v3 =>
    bd (aL m (m.R x 33) ((((56 : Int32) * (v3 - (8 : Int32))) + ((7 : Int32) * l5)) + l6)) fun v4 =>
    bd2 (f_X2_atMost (v1 + (v2 * v4)) m) fun v5 m6 =>
    bd (sL m6 (m.R x 35) l6 v5) fun m7 =>
    some (.inl (.inr (.inr (.inr (.inr (.inl (l4, l5, (l6 + (1 : Int32)), m7)))))))
    )
noncomputable def b_X2_waysBy_81 (x : Nat) (l1 : Int32) (l2 : Int32) (l3 : Int32) (l4 : Int32) (l5 : Int32) (m : MM) : Option (((Int32 × MM) ⊕ (Int32 × MM) ⊕ (Int32 × Int32 × MM) ⊕ (Int32 × Int32 × MM) ⊕ (Int32 × Int32 × Int32 × MM) ⊕ (Int32 × Int32 × MM)) ⊕ (Int64 × MM)) :=
  if l3 ≤ l5 then (
    some (.inl (.inr (.inr (.inr (.inr (.inr (l4, (0 : Int32), m)))))))
    ) else (
    bd (aL m (m.R x 34) l5) fun v1 =>
    if (lg_cmp v1 (0 : Int64)) = 0 then (
      some (.inl (.inr (.inr (.inr (.inl (l4, (l5 + (1 : Int32)), m))))))
      ) else (
      bd (aI m 50 (m.R x 22) l4) fun v2 =>
      if (8 : Int32) ≤ v2 then (
        some (.inl (.inr (.inr (.inr (.inr (.inl (l4, l5, (l5 + (1 : Int32)), m)))))))
        ) else (
        bd (aI m 50 (m.R x 31) l5) fun v3 =>
        bd (aI m 50 (m.R x 22) l4) fun v4 =>
        if v3 = v4 then (
          bd (aL m (m.R x 35) (l5 + (1 : Int32))) fun v5 =>
          bd (aL m (m.R x 34) l5) fun v6 =>
          bd2 (f_X2_atMost (v5 + v6) m) fun v7 m8 =>
          bd (sL m8 (m.R x 35) (l5 + (1 : Int32)) v7) fun m9 =>
          some (.inl (.inr (.inr (.inr (.inl (l4, (l5 + (1 : Int32)), m9))))))
          ) else (
          some (.inl (.inr (.inr (.inr (.inl (l4, (l5 + (1 : Int32)), m))))))
          )
        )
      )
    )
noncomputable def b_X2_waysBy_57 (x : Nat) (l1 : Int32) (l2 : Int32) (l3 : Int32) (l4 : Int32) (l5 : Int32) (m : MM) : Option (((Int32 × MM) ⊕ (Int32 × MM) ⊕ (Int32 × Int32 × MM) ⊕ (Int32 × Int32 × MM) ⊕ (Int32 × Int32 × Int32 × MM) ⊕ (Int32 × Int32 × MM)) ⊕ (Int64 × MM)) :=
  if (7 : Int32) ≤ l5 then (
    some (.inl (.inr (.inr (.inr (.inl (l4, l2, m))))))
    ) else (
    bd (sL m (m.R x 35) l5 (0 : Int64)) fun m1 =>
    some (.inl (.inr (.inr (.inl (l4, (l5 + (1 : Int32)), m1)))))
    )
noncomputable def b_X2_waysBy_39 (x : Nat) (l1 : Int32) (l2 : Int32) (l3 : Int32) (l4 : Int32) (m : MM) : Option (((Int32 × MM) ⊕ (Int32 × MM) ⊕ (Int32 × Int32 × MM) ⊕ (Int32 × Int32 × MM) ⊕ (Int32 × Int32 × Int32 × MM) ⊕ (Int32 × Int32 × MM)) ⊕ (Int64 × MM)) :=
  bd (aI m 50 (m.R x 21) l1) fun v1 =>
  if (((4 : Int32) * l1) + v1) ≤ l4 then (
    bd (aL m (m.R x 34) l3) fun v2 =>
    some (.inr (v2, m))
    ) else (
    some (.inl (.inr (.inr (.inl (l4, (0 : Int32), m)))))
    )
noncomputable def b_X2_waysBy_3 (x : Nat) (l1 : Int32) (l2 : Int32) (l3 : Int32) (l4 : Int32) (m : MM) : Option (((Int32 × MM) ⊕ (Int32 × MM) ⊕ (Int32 × Int32 × MM) ⊕ (Int32 × Int32 × MM) ⊕ (Int32 × Int32 × Int32 × MM) ⊕ (Int32 × Int32 × MM)) ⊕ (Int64 × MM)) :=
  if (7 : Int32) ≤ l4 then (
    some (.inl (.inr (.inl (((4 : Int32) * l1), m))))
    ) else (
    if l4 = l2 then (
      bd (sL m (m.R x 34) l4 (1 : Int64)) fun m2 =>
      some (.inl (.inl ((l4 + (1 : Int32)), m2)))
      ) else (
      bd (sL m (m.R x 34) l4 (0 : Int64)) fun m1 =>
      some (.inl (.inl ((l4 + (1 : Int32)), m1)))
      )
    )
noncomputable def b_X2_waysBy_0 (x : Nat) (l1 : Int32) (l2 : Int32) (l3 : Int32) (m : MM) : Option (((Int32 × MM) ⊕ (Int32 × MM) ⊕ (Int32 × Int32 × MM) ⊕ (Int32 × Int32 × MM) ⊕ (Int32 × Int32 × Int32 × MM) ⊕ (Int32 × Int32 × MM)) ⊕ (Int64 × MM)) :=
  some (.inl (.inl ((0 : Int32), m)))
noncomputable def s_X2_waysBy (x : Nat) (l1 : Int32) (l2 : Int32) (l3 : Int32) : ((Int32 × MM) ⊕ (Int32 × MM) ⊕ (Int32 × Int32 × MM) ⊕ (Int32 × Int32 × MM) ⊕ (Int32 × Int32 × Int32 × MM) ⊕ (Int32 × Int32 × MM)) → Option (((Int32 × MM) ⊕ (Int32 × MM) ⊕ (Int32 × Int32 × MM) ⊕ (Int32 × Int32 × MM) ⊕ (Int32 × Int32 × Int32 × MM) ⊕ (Int32 × Int32 × MM)) ⊕ (Int64 × MM)) := fun z => match z with
  | (.inl (l4, m)) => b_X2_waysBy_3 x l1 l2 l3 l4 m
  | (.inr (.inl (l4, m))) => b_X2_waysBy_39 x l1 l2 l3 l4 m
  | (.inr (.inr (.inl (l4, l5, m)))) => b_X2_waysBy_57 x l1 l2 l3 l4 l5 m
  | (.inr (.inr (.inr (.inl (l4, l5, m))))) => b_X2_waysBy_81 x l1 l2 l3 l4 l5 m
  | (.inr (.inr (.inr (.inr (.inl (l4, l5, l6, m)))))) => b_X2_waysBy_169 x l1 l2 l3 l4 l5 l6 m
  | (.inr (.inr (.inr (.inr (.inr (l4, l5, m)))))) => b_X2_waysBy_243 x l1 l2 l3 l4 l5 m
noncomputable def f_X2_waysBy (x : Nat) (l1 : Int32) (l2 : Int32) (l3 : Int32) (m : MM) : Option (Int64 × MM) := bd (b_X2_waysBy_0 x l1 l2 l3 m) (rx_go (s_X2_waysBy x l1 l2 l3))
noncomputable def b_X2_readingsOf_77 (x : Nat) (l1 : Int32) (l2 : Int32) (l3 : Int32) (l4 : Int32) (m : MM) : Option (((Int32 × MM) ⊕ (Int32 × MM) ⊕ (Int32 × Int32 × MM) ⊕ (Int32 × Int32 × Int32 × MM)) ⊕ (Int64 × MM)) :=
  if l4 < ((24 : Int32) * (m.I x 29)) then (
    some (.inl (.inr (.inr (.inl (l2, (l3 + (1 : Int32)), m)))))
    ) else (
    bd (aI m 50 (m.R x 20) l4) fun v1 =>
    bd (aL m (m.R x 33) (((((56 : Int32) * v1) + ((7 : Int32) * l3)) + l3) + l2)) fun v2 =>
    bd2 (f_X2_waysBy x l4 l3 (l3 + l2) m) fun v3 m4 =>
    bd2 (f_X2_atMost (v2 + v3) m4) fun v5 m6 =>
    bd (sL m6 (m.R x 33) (((((56 : Int32) * v1) + ((7 : Int32) * l3)) + l3) + l2) v5) fun m7 =>
    some (.inl (.inr (.inr (.inr (l2, l3, (l4 + (-1 : Int32)), m7)))))
    )
noncomputable def b_X2_readingsOf_49 (x : Nat) (l1 : Int32) (l2 : Int32) (l3 : Int32) (m : MM) : Option (((Int32 × MM) ⊕ (Int32 × MM) ⊕ (Int32 × Int32 × MM) ⊕ (Int32 × Int32 × Int32 × MM)) ⊕ (Int64 × MM)) :=
  if l1 < (l3 + l2) then (
    some (.inl (.inr (.inl ((l2 + (1 : Int32)), m))))
    ) else (
    bd (aI m 50 (m.R x 14) (m.I x 29)) fun v1 =>
    some (.inl (.inr (.inr (.inr (l2, l3, ((((24 : Int32) * (m.I x 29)) + v1) - (1 : Int32)), m)))))
    )
noncomputable def b_X2_readingsOf_42 (x : Nat) (l1 : Int32) (l2 : Int32) (m : MM) : Option (((Int32 × MM) ⊕ (Int32 × MM) ⊕ (Int32 × Int32 × MM) ⊕ (Int32 × Int32 × Int32 × MM)) ⊕ (Int64 × MM)) :=
  if l1 < l2 then (
    bd (aL m (m.R x 33) l1) fun v1 =>
    some (.inr (v1, m))
    ) else (
    some (.inl (.inr (.inr (.inl (l2, (0 : Int32), m)))))
    )
noncomputable def b_X2_readingsOf_20 (x : Nat) (l1 : Int32) (l2 : Int32) (m : MM) : Option (((Int32 × MM) ⊕ (Int32 × MM) ⊕ (Int32 × Int32 × MM) ⊕ (Int32 × Int32 × Int32 × MM)) ⊕ (Int64 × MM)) :=
  if (448 : Int32) ≤ l2 then (
    some (.inl (.inr (.inl ((1 : Int32), m))))
    ) else (
    bd (sL m (m.R x 33) l2 (0 : Int64)) fun m1 =>
    some (.inl (.inl ((l2 + (1 : Int32)), m1)))
    )
noncomputable def b_X2_readingsOf_0 (x : Nat) (l1 : Int32) (m : MM) : Option (((Int32 × MM) ⊕ (Int32 × MM) ⊕ (Int32 × Int32 × MM) ⊕ (Int32 × Int32 × Int32 × MM)) ⊕ (Int64 × MM)) :=
  bd (aI m 50 (m.R x 13) (m.I x 29)) fun v1 =>
  if v1 = 0 then (
    some (.inr ((0 : Int64), m))
    ) else (
    if l1 = 0 then (
      some (.inr ((0 : Int64), m))
      ) else (
      some (.inl (.inl ((0 : Int32), m)))
      )
    )
noncomputable def s_X2_readingsOf (x : Nat) (l1 : Int32) : ((Int32 × MM) ⊕ (Int32 × MM) ⊕ (Int32 × Int32 × MM) ⊕ (Int32 × Int32 × Int32 × MM)) → Option (((Int32 × MM) ⊕ (Int32 × MM) ⊕ (Int32 × Int32 × MM) ⊕ (Int32 × Int32 × Int32 × MM)) ⊕ (Int64 × MM)) := fun z => match z with
  | (.inl (l2, m)) => b_X2_readingsOf_20 x l1 l2 m
  | (.inr (.inl (l2, m))) => b_X2_readingsOf_42 x l1 l2 m
  | (.inr (.inr (.inl (l2, l3, m)))) => b_X2_readingsOf_49 x l1 l2 l3 m
  | (.inr (.inr (.inr (l2, l3, l4, m)))) => b_X2_readingsOf_77 x l1 l2 l3 l4 m
noncomputable def f_X2_readingsOf (x : Nat) (l1 : Int32) (m : MM) : Option (Int64 × MM) := bd (b_X2_readingsOf_0 x l1 m) (rx_go (s_X2_readingsOf x l1))
noncomputable def b_X2_readings_0 (x : Nat) (m : MM) : Option (Int32 × MM) :=
  bd2 (f_X2_tryRow x m) fun _ m1 =>
  bd2 (f_X2_readingsOf x (m1.I x 39) m1) fun v2 m3 =>
  some ((v2).toInt32, m3)
noncomputable def f_X2_readings (x : Nat) (m : MM) : Option (Int32 × MM) := b_X2_readings_0 x m
noncomputable def b_X2_meansOf_5 (x : Nat) (l1 : Int32) (l2 : Int32) (l3 : Int32) (l4 : Int32) (m : MM) : Option (((Int32 × Int32 × MM)) ⊕ (Int32 × MM)) :=
  if l1 ≤ l4 then (
    some (.inr (l3, m))
    ) else (
    bd (aI m 50 (m.R x 31) l4) fun v1 =>
    bd (aI m 50 (m.R x 18) (((3 : Int32) * (((8 : Int32) * (m.I x 29)) + v1)) + l2)) fun v2 =>
    if l4 ≤ 0 then (
      some (.inl ((l3 + (v2 + (0 : Int32))), (l4 + (1 : Int32)), m))
      ) else (
      bd (aI m 50 (m.R x 31) (l4 - (1 : Int32))) fun v3 =>
      bd (aI m 50 (m.R x 31) l4) fun v4 =>
      bd2 (f_X2_pairOf x v3 v4 l2 m) fun v5 m6 =>
      some (.inl ((l3 + (v2 + v5)), (l4 + (1 : Int32)), m6))
      )
    )
noncomputable def b_X2_meansOf_0 (x : Nat) (l1 : Int32) (l2 : Int32) (m : MM) : Option (((Int32 × Int32 × MM)) ⊕ (Int32 × MM)) :=
  some (.inl ((0 : Int32), (0 : Int32), m))
noncomputable def s_X2_meansOf (x : Nat) (l1 : Int32) (l2 : Int32) : ((Int32 × Int32 × MM)) → Option (((Int32 × Int32 × MM)) ⊕ (Int32 × MM)) := fun z => match z with
  | (l3, l4, m) => b_X2_meansOf_5 x l1 l2 l3 l4 m
noncomputable def f_X2_meansOf (x : Nat) (l1 : Int32) (l2 : Int32) (m : MM) : Option (Int32 × MM) := bd (b_X2_meansOf_0 x l1 l2 m) (rx_go (s_X2_meansOf x l1 l2))
noncomputable def b_X2_means_0 (x : Nat) (l1 : Int32) (m : MM) : Option (Int32 × MM) :=
  bd2 (f_X2_isGuild l1 m) fun v1 m2 =>
  if v1 = 0 then (
    some ((-1000000 : Int32), m2)
    ) else (
    bd2 (f_X2_tryRow x m2) fun _ m3 =>
    bd2 (f_X2_meansOf x (m3.I x 39) l1 m3) fun v4 m5 =>
    some (v4, m5)
    )
noncomputable def f_X2_means (x : Nat) (l1 : Int32) (m : MM) : Option (Int32 × MM) := b_X2_means_0 x l1 m
noncomputable def b_X2_keepAct_61 (x : Nat) (l1 : Int32) (l2 : Int32) (m : MM) : Option (((Int32 × MM)) ⊕ (Unit × MM)) :=
  bd (sI m 50 (m.R x 40) (m.I x 42) l1) fun m1 =>
  bd (sI m1 50 (m1.R x 41) (m1.I x 42) l2) fun m2 =>
  bd (pI m2 (some x) 3 42 50 ((m2.I x 42) + (1 : Int32))) fun m3 =>
  bd (pI m3 (some x) 3 43 50 (0 : Int32)) fun m4 =>
  some (.inr ((), m4))
noncomputable def b_X2_keepAct_11 (x : Nat) (l1 : Int32) (l2 : Int32) (l3 : Int32) (m : MM) : Option (((Int32 × MM)) ⊕ (Unit × MM)) :=
  if (40 : Int32) ≤ l3 then (
    bd (pI m (some x) 3 42 50 ((m.I x 42) - (1 : Int32))) fun m1 =>
    b_X2_keepAct_61 x l1 l2 m1
    ) else (
    bd (aI m 50 (m.R x 40) l3) fun v2 =>
    bd (sI m 50 (m.R x 40) (l3 - (1 : Int32)) v2) fun m3 =>
    bd (aI m3 50 (m3.R x 41) l3) fun v4 =>
    bd (sI m3 50 (m3.R x 41) (l3 - (1 : Int32)) v4) fun m5 =>
    some (.inl ((l3 + (1 : Int32)), m5))
    )
noncomputable def b_X2_keepAct_0 (x : Nat) (l1 : Int32) (l2 : Int32) (m : MM) : Option (((Int32 × MM)) ⊕ (Unit × MM)) :=
  if (m.I x 42) = (40 : Int32) then (
    some (.inl ((1 : Int32), m))
    ) else (
    b_X2_keepAct_61 x l1 l2 m
    )
noncomputable def s_X2_keepAct (x : Nat) (l1 : Int32) (l2 : Int32) : ((Int32 × MM)) → Option (((Int32 × MM)) ⊕ (Unit × MM)) := fun z => match z with
  | (l3, m) => b_X2_keepAct_11 x l1 l2 l3 m
noncomputable def f_X2_keepAct (x : Nat) (l1 : Int32) (l2 : Int32) (m : MM) : Option (Unit × MM) := bd (b_X2_keepAct_0 x l1 l2 m) (rx_go (s_X2_keepAct x l1 l2))
noncomputable def b_X2_write_0 (x : Nat) (l1 : Int32) (m : MM) : Option (Int32 × MM) :=
  bd2 (f_X2_isWordOf x l1 m) fun v1 m2 =>
  if v1 = 0 then (
    some ((-1 : Int32), m2)
    ) else (
    bd2 (f_X2_canCome x l1 m2) fun v3 m4 =>
    if v3 = 0 then (
      some ((-1 : Int32), m4)
      ) else (
      bd2 (f_X2_keepAct x (-1 : Int32) l1 m4) fun _ m5 =>
      bd (sI m5 50 (m5.R x 36) (m5.I x 39) l1) fun m6 =>
      bd (pI m6 (some x) 3 39 50 ((m6.I x 39) + (1 : Int32))) fun m7 =>
      some ((m7.I x 39), m7)
      )
    )
noncomputable def f_X2_write (x : Nat) (l1 : Int32) (m : MM) : Option (Int32 × MM) := b_X2_write_0 x l1 m
noncomputable def b_X2_sell_0 (x : Nat) (l1 : Int32) (l2 : Int32) (m : MM) : Option (Int32 × MM) :=
  bd2 (f_X2_longOf x m) fun v1 m2 =>
  bd2 (f_X2_isIn l1 (m.I x 39) (v1 - (1 : Int32)) m2) fun v3 m4 =>
  if v3 = 0 then (
    some ((-1 : Int32), m4)
    ) else (
    bd2 (f_X2_isGuild l2 m4) fun v5 m6 =>
    if v5 = 0 then (
      some ((-1 : Int32), m6)
      ) else (
      bd (aI m6 50 (m6.R x 37) l1) fun v7 =>
      bd2 (f_X2_keepAct x l1 v7 m6) fun _ m8 =>
      bd (sI m8 50 (m8.R x 37) l1 l2) fun m9 =>
      some (v7, m9)
      )
    )
noncomputable def f_X2_sell (x : Nat) (l1 : Int32) (l2 : Int32) (m : MM) : Option (Int32 × MM) := b_X2_sell_0 x l1 l2 m
noncomputable def b_X2_exchange_35 (x : Nat) (l1 : Int32) (m : MM) : Option (Unit × MM) :=
  if l1 = 0 then (
    bd (pI m (some x) 3 39 50 ((m.I x 39) + (1 : Int32))) fun m1 =>
    some ((), m1)
    ) else (
    bd (pI m (some x) 3 39 50 ((m.I x 39) + (-1 : Int32))) fun m2 =>
    some ((), m2)
    )
noncomputable def b_X2_exchange_0 (x : Nat) (l1 : Int32) (m : MM) : Option (Unit × MM) :=
  bd (aI m 50 (m.R x 40) (m.I x 42)) fun v1 =>
  if v1 = (-1 : Int32) then (
    if l1 = 0 then (
      bd (aI m 50 (m.R x 41) (m.I x 42)) fun v8 =>
      bd (sI m 50 (m.R x 36) (m.I x 39) v8) fun m9 =>
      b_X2_exchange_35 x l1 m9
      ) else (
      b_X2_exchange_35 x l1 m
      )
    ) else (
    bd (aI m 50 (m.R x 40) (m.I x 42)) fun v2 =>
    bd (aI m 50 (m.R x 37) v2) fun v3 =>
    bd (aI m 50 (m.R x 40) (m.I x 42)) fun v4 =>
    bd (aI m 50 (m.R x 41) (m.I x 42)) fun v5 =>
    bd (sI m 50 (m.R x 37) v4 v5) fun m6 =>
    bd (sI m6 50 (m6.R x 41) (m6.I x 42) v3) fun m7 =>
    some ((), m7)
    )
noncomputable def f_X2_exchange (x : Nat) (l1 : Int32) (m : MM) : Option (Unit × MM) := b_X2_exchange_0 x l1 m
noncomputable def b_X2_undo_0 (x : Nat) (m : MM) : Option (Int32 × MM) :=
  if (m.I x 42) = 0 then (
    some ((0 : Int32), m)
    ) else (
    bd (pI m (some x) 3 42 50 ((m.I x 42) - (1 : Int32))) fun m1 =>
    bd (pI m1 (some x) 3 43 50 ((m1.I x 43) + (1 : Int32))) fun m2 =>
    bd2 (f_X2_exchange x (1 : Int32) m2) fun _ m3 =>
    some ((1 : Int32), m3)
    )
noncomputable def f_X2_undo (x : Nat) (m : MM) : Option (Int32 × MM) := b_X2_undo_0 x m
noncomputable def b_X2_redo_0 (x : Nat) (m : MM) : Option (Int32 × MM) :=
  if (m.I x 43) = 0 then (
    some ((0 : Int32), m)
    ) else (
    bd2 (f_X2_exchange x (0 : Int32) m) fun _ m1 =>
    bd (pI m1 (some x) 3 42 50 ((m1.I x 42) + (1 : Int32))) fun m2 =>
    bd (pI m2 (some x) 3 43 50 ((m2.I x 43) - (1 : Int32))) fun m3 =>
    some ((1 : Int32), m3)
    )
noncomputable def f_X2_redo (x : Nat) (m : MM) : Option (Int32 × MM) := b_X2_redo_0 x m
noncomputable def b_X2_wipe_0 (x : Nat) (m : MM) : Option (Int32 × MM) :=
  bd2 (f_X2_begin x m) fun _ m1 =>
  some ((m.I x 39), m1)
noncomputable def f_X2_wipe (x : Nat) (m : MM) : Option (Int32 × MM) := b_X2_wipe_0 x m
noncomputable def b_X2_lies_0 (x : Nat) (l1 : Int32) (m : MM) : Option (Int32 × MM) :=
  bd2 (f_X2_isIn l1 (0 : Int32) ((m.I x 59) - (1 : Int32)) m) fun v1 m2 =>
  if v1 = 0 then (
    some ((-1 : Int32), m2)
    ) else (
    bd (aI m2 50 (m2.R x 58) l1) fun v3 =>
    some (v3, m2)
    )
noncomputable def f_X2_lies (x : Nat) (l1 : Int32) (m : MM) : Option (Int32 × MM) := b_X2_lies_0 x l1 m
noncomputable def b_X2_wordIn_0 (x : Nat) (l1 : Int32) (l2 : Int32) (m : MM) : Option (Int32 × MM) :=
  bd2 (f_X2_longOf x m) fun v1 m2 =>
  some (((ji_shr l1 ((3 : Int32) * ((v1 - (1 : Int32)) - l2))) &&& (7 : Int32)), m2)
noncomputable def f_X2_wordIn (x : Nat) (l1 : Int32) (l2 : Int32) (m : MM) : Option (Int32 × MM) := b_X2_wordIn_0 x l1 l2 m
noncomputable def b_X2_lay_2 (x : Nat) (l1 : Int32) (l2 : Int32) (m : MM) : Option (((Int32 × MM)) ⊕ (Unit × MM)) :=
  bd2 (f_X2_longOf x m) fun v1 m2 =>
  if v1 ≤ l2 then (
    bd2 (f_X2_longOf x m2) fun v3 m4 =>
    bd (pI m4 (some x) 3 59 50 v3) fun m5 =>
    some (.inr ((), m5))
    ) else (
    bd (aI m2 50 (m2.R x 44) l1) fun v6 =>
    bd2 (f_X2_wordIn x v6 l2 m2) fun v7 m8 =>
    bd (sI m8 50 (m2.R x 58) l2 v7) fun m9 =>
    some (.inl ((l2 + (1 : Int32)), m9))
    )
noncomputable def b_X2_lay_0 (x : Nat) (l1 : Int32) (m : MM) : Option (((Int32 × MM)) ⊕ (Unit × MM)) :=
  some (.inl ((0 : Int32), m))
noncomputable def s_X2_lay (x : Nat) (l1 : Int32) : ((Int32 × MM)) → Option (((Int32 × MM)) ⊕ (Unit × MM)) := fun z => match z with
  | (l2, m) => b_X2_lay_2 x l1 l2 m
noncomputable def f_X2_lay (x : Nat) (l1 : Int32) (m : MM) : Option (Unit × MM) := bd (b_X2_lay_0 x l1 m) (rx_go (s_X2_lay x l1))
noncomputable def b_X2_isOnPath_2 (x : Nat) (l1 : Int32) (l2 : Int32) (m : MM) : Option (((Int32 × MM)) ⊕ (Int32 × MM)) :=
  if l1 ≤ l2 then (
    bd2 (f_X2_canGoOn x l1 m) fun v1 m2 =>
    if fitT 52 v1 = true then some (.inr (v1, m2)) else none
    ) else (
    bd (aI m 50 (m.R x 52) l2) fun v3 =>
    bd (sI m 50 (m.R x 31) l2 v3) fun m4 =>
    some (.inl ((l2 + (1 : Int32)), m4))
    )
noncomputable def b_X2_isOnPath_0 (x : Nat) (l1 : Int32) (m : MM) : Option (((Int32 × MM)) ⊕ (Int32 × MM)) :=
  some (.inl ((0 : Int32), m))
noncomputable def s_X2_isOnPath (x : Nat) (l1 : Int32) : ((Int32 × MM)) → Option (((Int32 × MM)) ⊕ (Int32 × MM)) := fun z => match z with
  | (l2, m) => b_X2_isOnPath_2 x l1 l2 m
noncomputable def f_X2_isOnPath (x : Nat) (l1 : Int32) (m : MM) : Option (Int32 × MM) := bd (b_X2_isOnPath_0 x l1 m) (rx_go (s_X2_isOnPath x l1))
noncomputable def b_X2_keyOf_18 (x : Nat) (l1 : Int32) (l2 : Int32) (l3 : Int64) (l5 : Int32) (m : MM) : Option (((Int64 × Int32 × MM)) ⊕ (Int64 × MM)) :=
  if (6 : Int32) ≤ l5 then (
    some (.inr (l3, m))
    ) else (
    if l2 = 0 then (
      if l1 ≤ l5 then (
        some (.inl (((l3 * (10 : Int64)) + ((0 : Int32)).toInt64), (l5 + (1 : Int32)), m))
        ) else (
        bd (aI m 50 (m.R x 52) l5) fun v1 =>
        some (.inl (((l3 * (10 : Int64)) + (((1 : Int32) + v1)).toInt64), (l5 + (1 : Int32)), m))
        )
      ) else (
      bd (aI m 50 (m.R x 38) l5) fun v2 =>
      some (.inl (((l3 * (10 : Int64)) + (((1 : Int32) + v2)).toInt64), (l5 + (1 : Int32)), m))
      )
    )
noncomputable def b_X2_keyOf_0 (x : Nat) (l1 : Int32) (l2 : Int32) (m : MM) : Option (((Int64 × Int32 × MM)) ⊕ (Int64 × MM)) :=
  if l2 = 0 then (
    some (.inl (((1 : Int64) + (l1).toInt64), (0 : Int32), m))
    ) else (
    some (.inl ((8 : Int64), (0 : Int32), m))
    )
noncomputable def s_X2_keyOf (x : Nat) (l1 : Int32) (l2 : Int32) : ((Int64 × Int32 × MM)) → Option (((Int64 × Int32 × MM)) ⊕ (Int64 × MM)) := fun z => match z with
  | (l3, l5, m) => b_X2_keyOf_18 x l1 l2 l3 l5 m
noncomputable def f_X2_keyOf (x : Nat) (l1 : Int32) (l2 : Int32) (m : MM) : Option (Int64 × MM) := bd (b_X2_keyOf_0 x l1 l2 m) (rx_go (s_X2_keyOf x l1 l2))
noncomputable def b_X2_packed_4 (x : Nat) (l1 : Int32) (l2 : Int32) (m : MM) : Option (((Int32 × Int32 × MM)) ⊕ (Int32 × MM)) :=
  bd2 (f_X2_longOf x m) fun v1 m2 =>
  if v1 ≤ l2 then (
    some (.inr (l1, m2))
    ) else (
    bd (aI m2 50 (m2.R x 31) l2) fun v3 =>
    some (.inl (((ji_shl l1 (3 : Int32)) ||| v3), (l2 + (1 : Int32)), m2))
    )
noncomputable def b_X2_packed_0 (x : Nat) (m : MM) : Option (((Int32 × Int32 × MM)) ⊕ (Int32 × MM)) :=
  some (.inl ((0 : Int32), (0 : Int32), m))
noncomputable def s_X2_packed (x : Nat) : ((Int32 × Int32 × MM)) → Option (((Int32 × Int32 × MM)) ⊕ (Int32 × MM)) := fun z => match z with
  | (l1, l2, m) => b_X2_packed_4 x l1 l2 m
noncomputable def f_X2_packed (x : Nat) (m : MM) : Option (Int32 × MM) := bd (b_X2_packed_0 x m) (rx_go (s_X2_packed x))
noncomputable def b_X2_takeCharter_43 (x : Nat) (l1 : Int32) (m : MM) : Option (((Int32 × MM) ⊕ (Int32 × MM)) ⊕ (Unit × MM)) :=
  if (3 : Int32) ≤ l1 then (
    bd (pI m (some x) 3 48 50 ((m.I x 48) + (1 : Int32))) fun m1 =>
    some (.inr ((), m1))
    ) else (
    bd2 (f_X2_longOf x m) fun v2 m3 =>
    bd2 (f_X2_meansOf x v2 l1 m3) fun v4 m5 =>
    bd (sI m5 50 (m.R x 45) (((3 : Int32) * (m.I x 48)) + l1) v4) fun m6 =>
    some (.inl (.inr ((l1 + (1 : Int32)), m6)))
    )
noncomputable def b_X2_takeCharter_2 (x : Nat) (l1 : Int32) (m : MM) : Option (((Int32 × MM) ⊕ (Int32 × MM)) ⊕ (Unit × MM)) :=
  bd2 (f_X2_longOf x m) fun v1 m2 =>
  if v1 ≤ l1 then (
    bd2 (f_X2_packed x m2) fun v3 m4 =>
    bd (sI m4 50 (m2.R x 44) (m2.I x 48) v3) fun m5 =>
    some (.inl (.inr ((0 : Int32), m5)))
    ) else (
    bd (aI m2 50 (m2.R x 52) l1) fun v6 =>
    bd (sI m2 50 (m2.R x 31) l1 v6) fun m7 =>
    some (.inl (.inl ((l1 + (1 : Int32)), m7)))
    )
noncomputable def b_X2_takeCharter_0 (x : Nat) (m : MM) : Option (((Int32 × MM) ⊕ (Int32 × MM)) ⊕ (Unit × MM)) :=
  some (.inl (.inl ((0 : Int32), m)))
noncomputable def s_X2_takeCharter (x : Nat) : ((Int32 × MM) ⊕ (Int32 × MM)) → Option (((Int32 × MM) ⊕ (Int32 × MM)) ⊕ (Unit × MM)) := fun z => match z with
  | (.inl (l1, m)) => b_X2_takeCharter_2 x l1 m
  | (.inr (l1, m)) => b_X2_takeCharter_43 x l1 m
noncomputable def f_X2_takeCharter (x : Nat) (m : MM) : Option (Unit × MM) := bd (b_X2_takeCharter_0 x m) (rx_go (s_X2_takeCharter x))
noncomputable def b_X2_layList_234 (x : Nat) (l1 : Int32) (l2 : Int32) (m : MM) : Option (((Int32 × MM)) ⊕ (Int32 × MM)) :=
  if (3000 : Int32) < (m.I x 50) then (
    some (.inr ((0 : Int32), m))
    ) else (
    some (.inr ((1 : Int32), m))
    )
noncomputable def b_X2_layList_183 (x : Nat) (l1 : Int32) (l2 : Int32) (l5 : Int32) (m : MM) : Option (((Int32 × MM)) ⊕ (Int32 × MM)) :=
  bd2 (f_X2_isOnPath x (l5 + (1 : Int32)) m) fun v1 m2 =>
  if v1 = 0 then (
    some (.inl (l5, m2))
    ) else (
    bd (pI m2 (some x) 3 50 50 ((m2.I x 50) + (1 : Int32))) fun m3 =>
    bd (sI m3 50 (m3.R x 52) (l5 + (1 : Int32)) (-1 : Int32)) fun m4 =>
    bd2 (f_X2_longOf x m4) fun v5 m6 =>
    if (l5 + (1 : Int32)) = v5 then (
      bd2 (f_X2_takeCharter x m6) fun _ m7 =>
      some (.inl ((l5 + (1 : Int32)), m7))
      ) else (
      some (.inl ((l5 + (1 : Int32)), m6))
      )
    )
noncomputable def b_X2_layList_91 (x : Nat) (l1 : Int32) (l2 : Int32) (l5 : Int32) (m : MM) : Option (((Int32 × MM)) ⊕ (Int32 × MM)) :=
  if l5 < l1 then (
    b_X2_layList_234 x l1 l2 m
    ) else (
    if (3000 : Int32) < (m.I x 50) then (
      b_X2_layList_234 x l1 l2 m
      ) else (
      bd (aI m 50 (m.R x 52) l5) fun v1 =>
      bd (sI m 50 (m.R x 52) l5 (v1 + (1 : Int32))) fun m2 =>
      bd2 (f_X2_longOf x m2) fun v3 m4 =>
      if l5 = v3 then (
        some (.inl ((l5 + (-1 : Int32)), m4))
        ) else (
        bd (aI m4 50 (m4.R x 52) l5) fun v5 =>
        bd (aI m4 50 (m4.R x 11) (m4.I x 29)) fun v6 =>
        if v5 < v6 then (
          if l2 = 0 then (
            b_X2_layList_183 x l1 l2 l5 m4
            ) else (
            bd (aI m4 50 (m4.R x 38) l5) fun v7 =>
            if v7 < 0 then (
              b_X2_layList_183 x l1 l2 l5 m4
              ) else (
              bd (aI m4 50 (m4.R x 38) l5) fun v8 =>
              bd (aI m4 50 (m4.R x 52) l5) fun v9 =>
              if v8 = v9 then (
                b_X2_layList_183 x l1 l2 l5 m4
                ) else (
                some (.inl (l5, m4))
                )
              )
            )
          ) else (
          some (.inl ((l5 + (-1 : Int32)), m4))
          )
        )
      )
    )
noncomputable def b_X2_layList_0 (x : Nat) (l1 : Int32) (l2 : Int32) (m : MM) : Option (((Int32 × MM)) ⊕ (Int32 × MM)) :=
  bd2 (f_X2_keyOf x l1 l2 m) fun v1 m2 =>
  if (lg_cmp v1 (m2.L x 51)) = 0 then (
    if (3000 : Int32) < (m2.I x 50) then (
      some (.inr ((0 : Int32), m2))
      ) else (
      some (.inr ((1 : Int32), m2))
      )
    ) else (
    bd (pL m2 (some x) 3 51 v1) fun m3 =>
    bd (pI m3 (some x) 3 48 50 (0 : Int32)) fun m4 =>
    bd (pI m4 (some x) 3 50 50 (0 : Int32)) fun m5 =>
    bd (pI m5 (some x) 3 49 50 l1) fun m6 =>
    bd2 (f_X2_isOnPath x l1 m6) fun v7 m8 =>
    if v7 = 0 then (
      some (.inr ((1 : Int32), m8))
      ) else (
      bd (pI m8 (some x) 3 50 50 (1 : Int32)) fun m9 =>
      bd2 (f_X2_longOf x m9) fun v10 m11 =>
      if l1 = v10 then (
        bd2 (f_X2_takeCharter x m11) fun _ m13 =>
        bd (sI m13 50 (m13.R x 52) l1 (-1 : Int32)) fun m14 =>
        some (.inl (l1, m14))
        ) else (
        bd (sI m11 50 (m11.R x 52) l1 (-1 : Int32)) fun m12 =>
        some (.inl (l1, m12))
        )
      )
    )
noncomputable def s_X2_layList (x : Nat) (l1 : Int32) (l2 : Int32) : ((Int32 × MM)) → Option (((Int32 × MM)) ⊕ (Int32 × MM)) := fun z => match z with
  | (l5, m) => b_X2_layList_91 x l1 l2 l5 m
noncomputable def f_X2_layList (x : Nat) (l1 : Int32) (l2 : Int32) (m : MM) : Option (Int32 × MM) := bd (b_X2_layList_0 x l1 l2 m) (rx_go (s_X2_layList x l1 l2))
noncomputable def b_X2_layFromRow_2 (x : Nat) (l1 : Int32) (m : MM) : Option (((Int32 × MM)) ⊕ (Int32 × MM)) :=
  if (m.I x 39) ≤ l1 then (
    bd2 (f_X2_layList x (m.I x 39) (0 : Int32) m) fun v1 m2 =>
    if fitT 52 v1 = true then some (.inr (v1, m2)) else none
    ) else (
    bd (aI m 50 (m.R x 36) l1) fun v3 =>
    bd (sI m 50 (m.R x 52) l1 v3) fun m4 =>
    some (.inl ((l1 + (1 : Int32)), m4))
    )
noncomputable def b_X2_layFromRow_0 (x : Nat) (m : MM) : Option (((Int32 × MM)) ⊕ (Int32 × MM)) :=
  some (.inl ((0 : Int32), m))
noncomputable def s_X2_layFromRow (x : Nat) : ((Int32 × MM)) → Option (((Int32 × MM)) ⊕ (Int32 × MM)) := fun z => match z with
  | (l1, m) => b_X2_layFromRow_2 x l1 m
noncomputable def f_X2_layFromRow (x : Nat) (m : MM) : Option (Int32 × MM) := bd (b_X2_layFromRow_0 x m) (rx_go (s_X2_layFromRow x))
noncomputable def b_X2_areGrouped_0 (x : Nat) (l1 : Int32) (l2 : Int32) (l3 : Int32) (m : MM) : Option (Int32 × MM) :=
  bd (aI m 50 (m.R x 44) l1) fun v1 =>
  bd2 (f_X2_longOf x m) fun v2 m3 =>
  bd (aI m3 50 (m3.R x 44) l2) fun v4 =>
  bd2 (f_X2_longOf x m3) fun v5 m6 =>
  if (ji_shr v1 ((3 : Int32) * (v2 - l3))) = (ji_shr v4 ((3 : Int32) * (v5 - l3))) then (
    some ((1 : Int32), m6)
    ) else (
    some ((0 : Int32), m6)
    )
noncomputable def f_X2_areGrouped (x : Nat) (l1 : Int32) (l2 : Int32) (l3 : Int32) (m : MM) : Option (Int32 × MM) := b_X2_areGrouped_0 x l1 l2 l3 m
noncomputable def b_X2_gain_0 (x : Nat) (l1 : Int32) (l2 : Int32) (m : MM) : Option (Int32 × MM) :=
  bd (aI m 50 (m.R x 45) (((3 : Int32) * l1) + l2)) fun v1 =>
  if l2 = (m.I x 54) then (
    bd (aI m 50 (m.R x 44) l1) fun v2 =>
    bd2 (f_X2_wordIn x v2 (m.I x 55) m) fun v3 m4 =>
    if v3 = (m4.I x 56) then (
      some ((v1 + (m4.I x 57)), m4)
      ) else (
      some ((v1 + (0 : Int32)), m4)
      )
    ) else (
    some ((v1 + (0 : Int32)), m)
    )
noncomputable def f_X2_gain (x : Nat) (l1 : Int32) (l2 : Int32) (m : MM) : Option (Int32 × MM) := b_X2_gain_0 x l1 l2 m
noncomputable def b_X2_gainOf_5 (x : Nat) (l1 : Int32) (l2 : Int32) (l3 : Int32) (l4 : Int32) (m : MM) : Option (((Int32 × Int32 × MM)) ⊕ (Int32 × MM)) :=
  if (3 : Int32) ≤ l4 then (
    some (.inr (l3, m))
    ) else (
    if ((ji_shr l2 l4) &&& (1 : Int32)) = (1 : Int32) then (
      bd (aI m 50 (m.R x 45) (((3 : Int32) * l1) + l4)) fun v1 =>
      some (.inl ((l3 + v1), (l4 + (1 : Int32)), m))
      ) else (
      some (.inl ((l3 + (0 : Int32)), (l4 + (1 : Int32)), m))
      )
    )
noncomputable def b_X2_gainOf_0 (x : Nat) (l1 : Int32) (l2 : Int32) (m : MM) : Option (((Int32 × Int32 × MM)) ⊕ (Int32 × MM)) :=
  some (.inl ((0 : Int32), (0 : Int32), m))
noncomputable def s_X2_gainOf (x : Nat) (l1 : Int32) (l2 : Int32) : ((Int32 × Int32 × MM)) → Option (((Int32 × Int32 × MM)) ⊕ (Int32 × MM)) := fun z => match z with
  | (l3, l4, m) => b_X2_gainOf_5 x l1 l2 l3 l4 m
noncomputable def f_X2_gainOf (x : Nat) (l1 : Int32) (l2 : Int32) (m : MM) : Option (Int32 × MM) := bd (b_X2_gainOf_0 x l1 l2 m) (rx_go (s_X2_gainOf x l1 l2))
noncomputable def b_X2_isBetter_56 (x : Nat) (l1 : Int32) (l2 : Int32) (l3 : Int32) (l4 : Int32) (s0 : Int32) (m : MM) : Option (Int32 × MM) :=
  if s0 = 0 then (
    bd2 (f_X2_gainOf x l1 l4 m) fun v1 m2 =>
    bd2 (f_X2_gainOf x l2 l4 m2) fun v3 m4 =>
    if v3 ≤ v1 then (
      some ((0 : Int32), m4)
      ) else (
      some ((1 : Int32), m4)
      )
    ) else (
    bd2 (f_X2_gainOf x l1 l4 m) fun v5 m6 =>
    bd2 (f_X2_gainOf x l2 l4 m6) fun v7 m8 =>
    if v5 ≤ v7 then (
      some ((0 : Int32), m8)
      ) else (
      some ((1 : Int32), m8)
      )
    )
noncomputable def b_X2_isBetter_0 (x : Nat) (l1 : Int32) (l2 : Int32) (l3 : Int32) (l4 : Int32) (m : MM) : Option (Int32 × MM) :=
  if l4 = 0 then (
    bd (aI m 50 (m.R x 53) l3) fun v2 =>
    bd2 (f_X2_gain x l1 v2 m) fun v3 m4 =>
    bd (aI m4 50 (m4.R x 53) l3) fun v5 =>
    bd2 (f_X2_gain x l2 v5 m4) fun v6 m7 =>
    if v3 ≤ v6 then (
      some ((0 : Int32), m7)
      ) else (
      some ((1 : Int32), m7)
      )
    ) else (
    bd (aI m 50 (m.R x 53) l3) fun v1 =>
    if ((ji_shr l4 v1) &&& (1 : Int32)) = (1 : Int32) then (
      b_X2_isBetter_56 x l1 l2 l3 l4 (1 : Int32) m
      ) else (
      b_X2_isBetter_56 x l1 l2 l3 l4 (0 : Int32) m
      )
    )
noncomputable def f_X2_isBetter (x : Nat) (l1 : Int32) (l2 : Int32) (l3 : Int32) (l4 : Int32) (m : MM) : Option (Int32 × MM) := b_X2_isBetter_0 x l1 l2 l3 l4 m
noncomputable def b_X2_plays_154 (x : Nat) (l1 : Int32) (l2 : Int32) (l3 : Int32) (l5 : Int32) (m : MM) : Option (((Int32 × Int32 × MM) ⊕ (Int32 × Int32 × MM) ⊕ (Int32 × Int32 × Int32 × Int32 × MM) ⊕ (Int32 × Int32 × Int32 × MM)) ⊕ (Int32 × MM)) :=
  if l2 ≤ l5 then (
    some (.inl (.inr (.inl (l2, (l3 + (-1 : Int32)), m))))
    ) else (
    bd (aI m 50 (m.R x 47) l5) fun v1 =>
    bd (sI m 50 (m.R x 46) l5 v1) fun m2 =>
    some (.inl (.inr (.inr (.inr (l2, l3, (l5 + (1 : Int32)), m2)))))
    )
noncomputable def b_X2_plays_125 (x : Nat) (l1 : Int32) (l2 : Int32) (l3 : Int32) (l4 : Int32) (l5 : Int32) (m : MM) : Option (((Int32 × Int32 × MM) ⊕ (Int32 × Int32 × MM) ⊕ (Int32 × Int32 × Int32 × Int32 × MM) ⊕ (Int32 × Int32 × Int32 × MM)) ⊕ (Int32 × MM)) :=
  bd (aI m 50 (m.R x 46) l5) fun v1 =>
  bd (sI m 50 (m.R x 47) l4 v1) fun m2 =>
  some (.inl (.inr (.inr (.inl (l2, l3, (l4 + (1 : Int32)), (l5 + (1 : Int32)), m2)))))
noncomputable def b_X2_plays_46 (x : Nat) (l1 : Int32) (l2 : Int32) (l3 : Int32) (l4 : Int32) (l5 : Int32) (m : MM) : Option (((Int32 × Int32 × MM) ⊕ (Int32 × Int32 × MM) ⊕ (Int32 × Int32 × Int32 × Int32 × MM) ⊕ (Int32 × Int32 × Int32 × MM)) ⊕ (Int32 × MM)) :=
  if l2 ≤ l5 then (
    some (.inl (.inr (.inr (.inr (l4, l3, (0 : Int32), m)))))
    ) else (
    if l4 ≤ 0 then (
      b_X2_plays_125 x l1 l2 l3 l4 l5 m
      ) else (
      bd (aI m 50 (m.R x 46) l5) fun v1 =>
      bd (aI m 50 (m.R x 47) (l4 - (1 : Int32))) fun v2 =>
      bd2 (f_X2_areGrouped x v1 v2 l3 m) fun v3 m4 =>
      if v3 = 0 then (
        b_X2_plays_125 x l1 l2 l3 l4 l5 m4
        ) else (
        bd (aI m4 50 (m4.R x 46) l5) fun v5 =>
        bd (aI m4 50 (m4.R x 47) (l4 - (1 : Int32))) fun v6 =>
        bd2 (f_X2_isBetter x v5 v6 l3 l1 m4) fun v7 m8 =>
        if v7 = 0 then (
          some (.inl (.inr (.inr (.inl (l2, l3, l4, (l5 + (1 : Int32)), m8)))))
          ) else (
          bd (aI m8 50 (m8.R x 46) l5) fun v9 =>
          bd (sI m8 50 (m8.R x 47) (l4 - (1 : Int32)) v9) fun m10 =>
          some (.inl (.inr (.inr (.inl (l2, l3, l4, (l5 + (1 : Int32)), m10)))))
          )
        )
      )
    )
noncomputable def b_X2_plays_32 (x : Nat) (l1 : Int32) (l2 : Int32) (l3 : Int32) (m : MM) : Option (((Int32 × Int32 × MM) ⊕ (Int32 × Int32 × MM) ⊕ (Int32 × Int32 × Int32 × Int32 × MM) ⊕ (Int32 × Int32 × Int32 × MM)) ⊕ (Int32 × MM)) :=
  if l3 < (m.I x 49) then (
    if l2 = 0 then (
      some (.inr ((-1 : Int32), m))
      ) else (
      bd (aI m 50 (m.R x 46) (0 : Int32)) fun v1 =>
      some (.inr (v1, m))
      )
    ) else (
    some (.inl (.inr (.inr (.inl (l2, l3, (0 : Int32), (0 : Int32), m)))))
    )
noncomputable def b_X2_plays_7 (x : Nat) (l1 : Int32) (l2 : Int32) (l3 : Int32) (m : MM) : Option (((Int32 × Int32 × MM) ⊕ (Int32 × Int32 × MM) ⊕ (Int32 × Int32 × Int32 × Int32 × MM) ⊕ (Int32 × Int32 × Int32 × MM)) ⊕ (Int32 × MM)) :=
  if l2 ≤ l3 then (
    bd2 (f_X2_longOf x m) fun v1 m2 =>
    some (.inl (.inr (.inl (l2, (v1 - (1 : Int32)), m2))))
    ) else (
    bd (sI m 50 (m.R x 46) l3 l3) fun m3 =>
    some (.inl (.inl (l2, (l3 + (1 : Int32)), m3)))
    )
noncomputable def b_X2_plays_0 (x : Nat) (l1 : Int32) (m : MM) : Option (((Int32 × Int32 × MM) ⊕ (Int32 × Int32 × MM) ⊕ (Int32 × Int32 × Int32 × Int32 × MM) ⊕ (Int32 × Int32 × Int32 × MM)) ⊕ (Int32 × MM)) :=
  some (.inl (.inl ((m.I x 48), (0 : Int32), m)))
noncomputable def s_X2_plays (x : Nat) (l1 : Int32) : ((Int32 × Int32 × MM) ⊕ (Int32 × Int32 × MM) ⊕ (Int32 × Int32 × Int32 × Int32 × MM) ⊕ (Int32 × Int32 × Int32 × MM)) → Option (((Int32 × Int32 × MM) ⊕ (Int32 × Int32 × MM) ⊕ (Int32 × Int32 × Int32 × Int32 × MM) ⊕ (Int32 × Int32 × Int32 × MM)) ⊕ (Int32 × MM)) := fun z => match z with
  | (.inl (l2, l3, m)) => b_X2_plays_7 x l1 l2 l3 m
  | (.inr (.inl (l2, l3, m))) => b_X2_plays_32 x l1 l2 l3 m
  | (.inr (.inr (.inl (l2, l3, l4, l5, m)))) => b_X2_plays_46 x l1 l2 l3 l4 l5 m
  | (.inr (.inr (.inr (l2, l3, l5, m)))) => b_X2_plays_154 x l1 l2 l3 l5 m
noncomputable def f_X2_plays (x : Nat) (l1 : Int32) (m : MM) : Option (Int32 × MM) := bd (b_X2_plays_0 x l1 m) (rx_go (s_X2_plays x l1))
noncomputable def b_X2_turnsNow_2 (x : Nat) (l1 : Int32) (m : MM) : Option (((Int32 × MM)) ⊕ (Unit × MM)) :=
  if (6 : Int32) ≤ l1 then (
    some (.inr ((), m))
    ) else (
    bd (aI m 50 (m.R x 37) l1) fun v1 =>
    bd (sI m 50 (m.R x 53) l1 v1) fun m2 =>
    some (.inl ((l1 + (1 : Int32)), m2))
    )
noncomputable def b_X2_turnsNow_0 (x : Nat) (m : MM) : Option (((Int32 × MM)) ⊕ (Unit × MM)) :=
  some (.inl ((0 : Int32), m))
noncomputable def s_X2_turnsNow (x : Nat) : ((Int32 × MM)) → Option (((Int32 × MM)) ⊕ (Unit × MM)) := fun z => match z with
  | (l1, m) => b_X2_turnsNow_2 x l1 m
noncomputable def f_X2_turnsNow (x : Nat) (m : MM) : Option (Unit × MM) := bd (b_X2_turnsNow_0 x m) (rx_go (s_X2_turnsNow x))
noncomputable def b_X2_written_0 (x : Nat) (l1 : Int32) (m : MM) : Option (Int32 × MM) :=
  bd (pI m (some x) 3 59 50 (0 : Int32)) fun m1 =>
  bd2 (f_X2_isGuild l1 m1) fun v2 m3 =>
  if v2 = 0 then (
    some ((-1000000 : Int32), m3)
    ) else (
    bd2 (f_X2_layFromRow x m3) fun v4 m5 =>
    if v4 = 0 then (
      some ((-1000000 : Int32), m5)
      ) else (
      bd2 (f_X2_turnsNow x m5) fun _ m6 =>
      bd2 (f_X2_plays x (0 : Int32) m6) fun v7 m8 =>
      if 0 ≤ v7 then (
        bd2 (f_X2_lay x v7 m8) fun _ m9 =>
        bd (aI m9 50 (m9.R x 45) (((3 : Int32) * v7) + l1)) fun v10 =>
        some (v10, m9)
        ) else (
        some ((-1000000 : Int32), m8)
        )
      )
    )
noncomputable def f_X2_written (x : Nat) (l1 : Int32) (m : MM) : Option (Int32 × MM) := b_X2_written_0 x l1 m
noncomputable def b_X2_heldBy_0 (x : Nat) (l1 : Int32) (m : MM) : Option (Int32 × MM) :=
  bd2 (f_X2_plays x l1 m) fun v1 m2 =>
  bd2 (f_X2_gainOf x v1 l1 m2) fun v3 m4 =>
  some (v3, m4)
noncomputable def f_X2_heldBy (x : Nat) (l1 : Int32) (m : MM) : Option (Int32 × MM) := b_X2_heldBy_0 x l1 m
noncomputable def b_X2_held_0 (x : Nat) (l1 : Int32) (m : MM) : Option (Int32 × MM) :=
  bd2 (f_X2_isIn l1 (1 : Int32) (7 : Int32) m) fun v1 m2 =>
  if v1 = 0 then (
    some ((-1000000 : Int32), m2)
    ) else (
    bd2 (f_X2_layFromRow x m2) fun v3 m4 =>
    if v3 = 0 then (
      some ((-1000000 : Int32), m4)
      ) else (
      if (m4.I x 48) = 0 then (
        some ((-1000000 : Int32), m4)
        ) else (
        bd2 (f_X2_turnsNow x m4) fun _ m5 =>
        bd2 (f_X2_heldBy x l1 m5) fun v6 m7 =>
        some (v6, m7)
        )
      )
    )
noncomputable def f_X2_held (x : Nat) (l1 : Int32) (m : MM) : Option (Int32 × MM) := b_X2_held_0 x l1 m
noncomputable def b_X2_common_13 (l0 : Int32) (l1 : Int32) (l2 : Int32) (l3 : Int32) (m : MM) : Option (((Int32 × Int32 × MM)) ⊕ (Int32 × MM)) :=
  if l3 = 0 then (
    some (.inr (l2, m))
    ) else (
    if l3 = 0 then none else
    some (.inl (l3, (ji_rem l2 l3), m))
    )
noncomputable def b_X2_common_0 (l0 : Int32) (l1 : Int32) (m : MM) : Option (((Int32 × Int32 × MM)) ⊕ (Int32 × MM)) :=
  if 0 ≤ l0 then (
    some (.inl (l0, l1, m))
    ) else (
    some (.inl ((-l0), l1, m))
    )
noncomputable def s_X2_common (l0 : Int32) (l1 : Int32) : ((Int32 × Int32 × MM)) → Option (((Int32 × Int32 × MM)) ⊕ (Int32 × MM)) := fun z => match z with
  | (l2, l3, m) => b_X2_common_13 l0 l1 l2 l3 m
noncomputable def f_X2_common (l0 : Int32) (l1 : Int32) (m : MM) : Option (Int32 × MM) := bd (b_X2_common_0 l0 l1 m) (rx_go (s_X2_common l0 l1))
noncomputable def b_X2_orderTurn_55 (l0 : Int32) (l1 : Int32) (l3 : Int32) (l4 : Int32) (s0 : Int32) (s1 : Int32) (m : MM) : Option (Int32 × MM) :=
  if s0 = s1 then (
    some (l3, m)
    ) else (
    some (l4, m)
    )
noncomputable def b_X2_orderTurn_44 (l0 : Int32) (l1 : Int32) (l3 : Int32) (l4 : Int32) (s0 : Int32) (m : MM) : Option (Int32 × MM) :=
  if (ji_rem l0 (2 : Int32)) = 0 then (
    b_X2_orderTurn_55 l0 l1 l3 l4 s0 (1 : Int32) m
    ) else (
    b_X2_orderTurn_55 l0 l1 l3 l4 s0 (0 : Int32) m
    )
noncomputable def b_X2_orderTurn_13 (l0 : Int32) (l1 : Int32) (l2 : Int32) (s0 : Int32) (m : MM) : Option (Int32 × MM) :=
  if (ji_rem l1 (3 : Int32)) = 0 then (
    some (l2, m)
    ) else (
    if (ji_rem l1 (3 : Int32)) = (1 : Int32) then (
      b_X2_orderTurn_44 l0 l1 s0 (((3 : Int32) - l2) - s0) (1 : Int32) m
      ) else (
      b_X2_orderTurn_44 l0 l1 s0 (((3 : Int32) - l2) - s0) (0 : Int32) m
      )
    )
noncomputable def b_X2_orderTurn_0 (l0 : Int32) (l1 : Int32) (m : MM) : Option (Int32 × MM) :=
  if (l0 / (2 : Int32)) = 0 then (
    b_X2_orderTurn_13 l0 l1 (l0 / (2 : Int32)) (1 : Int32) m
    ) else (
    b_X2_orderTurn_13 l0 l1 (l0 / (2 : Int32)) (0 : Int32) m
    )
noncomputable def f_X2_orderTurn (l0 : Int32) (l1 : Int32) (m : MM) : Option (Int32 × MM) := b_X2_orderTurn_0 l0 l1 m
noncomputable def b_X2_share_56 (x : Nat) (l1 : Int32) (l2 : Int32) (l3 : Int32) (l4 : Int32) (l5 : Int32) (l6 : Int32) (m : MM) : Option (((Int32 × Int32 × MM) ⊕ (Int32 × Int32 × Int32 × Int32 × MM)) ⊕ (Int32 × MM)) :=
  bd2 (f_X2_orderTurn l4 l6 m) fun v1 m2 =>
  if v1 = l1 then (
    bd2 (f_X2_heldBy x (l5 ||| (ji_shl (1 : Int32) l1)) m2) fun v3 m4 =>
    if l5 = 0 then (
      some (.inl (.inl ((l3 + (v3 - (0 : Int32))), (l4 + (1 : Int32)), m4)))
      ) else (
      bd2 (f_X2_heldBy x l5 m4) fun v5 m6 =>
      some (.inl (.inl ((l3 + (v3 - v5)), (l4 + (1 : Int32)), m6)))
      )
    ) else (
    bd2 (f_X2_orderTurn l4 l6 m2) fun v7 m8 =>
    some (.inl (.inr (l3, l4, (l5 ||| (ji_shl (1 : Int32) v7)), (l6 + (1 : Int32)), m8)))
    )
noncomputable def b_X2_share_43 (x : Nat) (l1 : Int32) (l2 : Int32) (l3 : Int32) (l4 : Int32) (m : MM) : Option (((Int32 × Int32 × MM) ⊕ (Int32 × Int32 × Int32 × Int32 × MM)) ⊕ (Int32 × MM)) :=
  if (6 : Int32) ≤ l4 then (
    bd2 (f_X2_common l3 (6 : Int32) m) fun v1 m2 =>
    if l2 = 0 then (
      if v1 = 0 then none else
      some (.inr ((l3 / v1), m2))
      ) else (
      if v1 = 0 then none else
      some (.inr (((6 : Int32) / v1), m2))
      )
    ) else (
    some (.inl (.inr (l3, l4, (0 : Int32), (0 : Int32), m)))
    )
noncomputable def b_X2_share_0 (x : Nat) (l1 : Int32) (l2 : Int32) (m : MM) : Option (((Int32 × Int32 × MM) ⊕ (Int32 × Int32 × Int32 × Int32 × MM)) ⊕ (Int32 × MM)) :=
  bd2 (f_X2_isGuild l1 m) fun v1 m2 =>
  if v1 = 0 then (
    some (.inr ((-1000000 : Int32), m2))
    ) else (
    bd2 (f_X2_isIn l2 (0 : Int32) (1 : Int32) m2) fun v3 m4 =>
    if v3 = 0 then (
      some (.inr ((-1000000 : Int32), m4))
      ) else (
      bd2 (f_X2_layFromRow x m4) fun v5 m6 =>
      if v5 = 0 then (
        some (.inr ((-1000000 : Int32), m6))
        ) else (
        if (m6.I x 48) = 0 then (
          some (.inr ((-1000000 : Int32), m6))
          ) else (
          bd2 (f_X2_turnsNow x m6) fun _ m7 =>
          some (.inl (.inl ((0 : Int32), (0 : Int32), m7)))
          )
        )
      )
    )
noncomputable def s_X2_share (x : Nat) (l1 : Int32) (l2 : Int32) : ((Int32 × Int32 × MM) ⊕ (Int32 × Int32 × Int32 × Int32 × MM)) → Option (((Int32 × Int32 × MM) ⊕ (Int32 × Int32 × Int32 × Int32 × MM)) ⊕ (Int32 × MM)) := fun z => match z with
  | (.inl (l3, l4, m)) => b_X2_share_43 x l1 l2 l3 l4 m
  | (.inr (l3, l4, l5, l6, m)) => b_X2_share_56 x l1 l2 l3 l4 l5 l6 m
noncomputable def f_X2_share (x : Nat) (l1 : Int32) (l2 : Int32) (m : MM) : Option (Int32 × MM) := bd (b_X2_share_0 x l1 l2 m) (rx_go (s_X2_share x l1 l2))
noncomputable def b_X2_swap_43 (x : Nat) (l1 : Int32) (l2 : Int32) (l3 : Int32) (m : MM) : Option (((Int32 × Int32 × MM) ⊕ (Int32 × Int32 × Int32 × MM)) ⊕ (Int32 × MM)) :=
  bd2 (f_X2_longOf x m) fun v1 m2 =>
  if v1 ≤ l3 then (
    some (.inl (.inl (l1, (l2 + (1 : Int32)), m2)))
    ) else (
    bd (aI m2 50 (m2.R x 37) l2) fun v3 =>
    bd (aI m2 50 (m2.R x 37) l3) fun v4 =>
    if v3 = v4 then (
      some (.inl (.inr (l1, l2, (l3 + (1 : Int32)), m2)))
      ) else (
      bd2 (f_X2_turnsNow x m2) fun _ m5 =>
      bd (sI m5 50 (m5.R x 53) l2 v4) fun m6 =>
      bd (sI m6 50 (m6.R x 53) l3 v3) fun m7 =>
      bd2 (f_X2_plays x (0 : Int32) m7) fun v8 m9 =>
      bd (aI m9 50 (m9.R x 45) (((3 : Int32) * v8) + v3)) fun v10 =>
      bd (aI m9 50 (m9.R x 45) (((3 : Int32) * l1) + v3)) fun v11 =>
      if v10 ≤ v11 then (
        some (.inl (.inr (l1, l2, (l3 + (1 : Int32)), m9)))
        ) else (
        bd (aI m9 50 (m9.R x 45) (((3 : Int32) * v8) + v4)) fun v12 =>
        bd (aI m9 50 (m9.R x 45) (((3 : Int32) * l1) + v4)) fun v13 =>
        if v12 ≤ v13 then (
          some (.inl (.inr (l1, l2, (l3 + (1 : Int32)), m9)))
          ) else (
          some (.inr ((((10 : Int32) * l2) + l3), m9))
          )
        )
      )
    )
noncomputable def b_X2_swap_31 (x : Nat) (l1 : Int32) (l2 : Int32) (m : MM) : Option (((Int32 × Int32 × MM) ⊕ (Int32 × Int32 × Int32 × MM)) ⊕ (Int32 × MM)) :=
  bd2 (f_X2_longOf x m) fun v1 m2 =>
  if v1 ≤ l2 then (
    some (.inr ((-1 : Int32), m2))
    ) else (
    some (.inl (.inr (l1, l2, (l2 + (1 : Int32)), m2)))
    )
noncomputable def b_X2_swap_0 (x : Nat) (m : MM) : Option (((Int32 × Int32 × MM) ⊕ (Int32 × Int32 × Int32 × MM)) ⊕ (Int32 × MM)) :=
  bd2 (f_X2_layFromRow x m) fun v1 m2 =>
  if v1 = 0 then (
    some (.inr ((-1 : Int32), m2))
    ) else (
    if (m2.I x 48) = 0 then (
      some (.inr ((-1 : Int32), m2))
      ) else (
      bd2 (f_X2_turnsNow x m2) fun _ m3 =>
      bd2 (f_X2_plays x (0 : Int32) m3) fun v4 m5 =>
      some (.inl (.inl (v4, (m5.I x 39), m5)))
      )
    )
noncomputable def s_X2_swap (x : Nat) : ((Int32 × Int32 × MM) ⊕ (Int32 × Int32 × Int32 × MM)) → Option (((Int32 × Int32 × MM) ⊕ (Int32 × Int32 × Int32 × MM)) ⊕ (Int32 × MM)) := fun z => match z with
  | (.inl (l1, l2, m)) => b_X2_swap_31 x l1 l2 m
  | (.inr (l1, l2, l3, m)) => b_X2_swap_43 x l1 l2 l3 m
noncomputable def f_X2_swap (x : Nat) (m : MM) : Option (Int32 × MM) := bd (b_X2_swap_0 x m) (rx_go (s_X2_swap x))
noncomputable def b_X2_bribe_114 (x : Nat) (l1 : Int32) (l2 : Int32) (m : MM) : Option (((MM)) ⊕ (Int32 × MM)) :=
  bd (pI m (some x) 3 54 50 (-1 : Int32)) fun m1 =>
  if (m1.I x 57) ≤ (99 : Int32) then (
    some (.inr ((m1.I x 57), m1))
    ) else (
    some (.inr ((-1 : Int32), m1))
    )
noncomputable def b_X2_bribe_73 (x : Nat) (l1 : Int32) (l2 : Int32) (m : MM) : Option (((MM)) ⊕ (Int32 × MM)) :=
  if (99 : Int32) < (m.I x 57) then (
    b_X2_bribe_114 x l1 l2 m
    ) else (
    bd2 (f_X2_plays x (0 : Int32) m) fun v1 m2 =>
    bd (aI m2 50 (m.R x 44) v1) fun v3 =>
    bd2 (f_X2_wordIn x v3 l1 m2) fun v4 m5 =>
    if v4 = l2 then (
      b_X2_bribe_114 x l1 l2 m5
      ) else (
      bd (pI m5 (some x) 3 57 50 ((m5.I x 57) + (1 : Int32))) fun m6 =>
      some (.inl (m6))
      )
    )
noncomputable def b_X2_bribe_0 (x : Nat) (l1 : Int32) (l2 : Int32) (m : MM) : Option (((MM)) ⊕ (Int32 × MM)) :=
  bd2 (f_X2_longOf x m) fun v1 m2 =>
  bd2 (f_X2_isIn l1 (m.I x 39) (v1 - (1 : Int32)) m2) fun v3 m4 =>
  if v3 = 0 then (
    some (.inr ((-2 : Int32), m4))
    ) else (
    bd2 (f_X2_isWordOf x l2 m4) fun v5 m6 =>
    if v5 = 0 then (
      some (.inr ((-2 : Int32), m6))
      ) else (
      bd2 (f_X2_layFromRow x m6) fun v7 m8 =>
      if v7 = 0 then (
        some (.inr ((-1 : Int32), m8))
        ) else (
        if (m8.I x 48) = 0 then (
          some (.inr ((-1 : Int32), m8))
          ) else (
          bd2 (f_X2_turnsNow x m8) fun _ m9 =>
          bd (aI m9 50 (m9.R x 37) l1) fun v10 =>
          bd (pI m9 (some x) 3 54 50 v10) fun m11 =>
          bd (pI m11 (some x) 3 55 50 l1) fun m12 =>
          bd (pI m12 (some x) 3 56 50 l2) fun m13 =>
          bd (pI m13 (some x) 3 57 50 (0 : Int32)) fun m14 =>
          some (.inl (m14))
          )
        )
      )
    )
noncomputable def s_X2_bribe (x : Nat) (l1 : Int32) (l2 : Int32) : ((MM)) → Option (((MM)) ⊕ (Int32 × MM)) := fun z => match z with
  | m => b_X2_bribe_73 x l1 l2 m
noncomputable def f_X2_bribe (x : Nat) (l1 : Int32) (l2 : Int32) (m : MM) : Option (Int32 × MM) := bd (b_X2_bribe_0 x l1 l2 m) (rx_go (s_X2_bribe x l1 l2))
noncomputable def b_X2_layFromNone_0 (x : Nat) (m : MM) : Option (Int32 × MM) :=
  bd2 (f_X2_layList x (0 : Int32) (0 : Int32) m) fun v1 m2 =>
  if fitT 52 v1 = true then some (v1, m2) else none
noncomputable def f_X2_layFromNone (x : Nat) (m : MM) : Option (Int32 × MM) := b_X2_layFromNone_0 x m
noncomputable def b_X2_turnsByOrder_2 (x : Nat) (l1 : Int32) (l2 : Int32) (m : MM) : Option (((Int32 × MM)) ⊕ (Unit × MM)) :=
  if (6 : Int32) ≤ l2 then (
    some (.inr ((), m))
    ) else (
    bd2 (f_X2_orderTurn l1 l2 m) fun v1 m2 =>
    bd (sI m2 50 (m.R x 53) l2 v1) fun m3 =>
    some (.inl ((l2 + (1 : Int32)), m3))
    )
noncomputable def b_X2_turnsByOrder_0 (x : Nat) (l1 : Int32) (m : MM) : Option (((Int32 × MM)) ⊕ (Unit × MM)) :=
  some (.inl ((0 : Int32), m))
noncomputable def s_X2_turnsByOrder (x : Nat) (l1 : Int32) : ((Int32 × MM)) → Option (((Int32 × MM)) ⊕ (Unit × MM)) := fun z => match z with
  | (l2, m) => b_X2_turnsByOrder_2 x l1 l2 m
noncomputable def f_X2_turnsByOrder (x : Nat) (l1 : Int32) (m : MM) : Option (Unit × MM) := bd (b_X2_turnsByOrder_0 x l1 m) (rx_go (s_X2_turnsByOrder x l1))
noncomputable def b_X2_lots_29 (x : Nat) (l1 : Int32) (l2 : Int32) (l3 : Int32) (m : MM) : Option (((Int32 × Int32 × MM)) ⊕ (Int32 × MM)) :=
  if (6 : Int32) ≤ l3 then (
    some (.inr (l2, m))
    ) else (
    bd2 (f_X2_turnsByOrder x l3 m) fun _ m1 =>
    bd2 (f_X2_plays x (0 : Int32) m1) fun v2 m3 =>
    bd (aI m3 50 (m1.R x 45) (((3 : Int32) * v2) + l1)) fun v4 =>
    some (.inl ((l2 + v4), (l3 + (1 : Int32)), m3))
    )
noncomputable def b_X2_lots_0 (x : Nat) (l1 : Int32) (m : MM) : Option (((Int32 × Int32 × MM)) ⊕ (Int32 × MM)) :=
  bd2 (f_X2_isGuild l1 m) fun v1 m2 =>
  if v1 = 0 then (
    some (.inr ((-1000000 : Int32), m2))
    ) else (
    bd2 (f_X2_layFromNone x m2) fun v3 m4 =>
    if v3 = 0 then (
      some (.inr ((-1000000 : Int32), m4))
      ) else (
      if (m4.I x 48) = 0 then (
        some (.inr ((-1000000 : Int32), m4))
        ) else (
        some (.inl ((0 : Int32), (0 : Int32), m4))
        )
      )
    )
noncomputable def s_X2_lots (x : Nat) (l1 : Int32) : ((Int32 × Int32 × MM)) → Option (((Int32 × Int32 × MM)) ⊕ (Int32 × MM)) := fun z => match z with
  | (l2, l3, m) => b_X2_lots_29 x l1 l2 l3 m
noncomputable def f_X2_lots (x : Nat) (l1 : Int32) (m : MM) : Option (Int32 × MM) := bd (b_X2_lots_0 x l1 m) (rx_go (s_X2_lots x l1))
noncomputable def b_X2_sumOf_49 (x : Nat) (l1 : Int32) (l2 : Int32) (l3 : Int32) (s0 : Int32) (m : MM) : Option (((Int32 × Int32 × MM)) ⊕ (Int32 × MM)) :=
  if s0 = 0 then (
    some (.inr ((0 : Int32), m))
    ) else (
    some (.inl ((l2 + s0), (l3 + (1 : Int32)), m))
    )
noncomputable def b_X2_sumOf_6 (x : Nat) (l1 : Int32) (l2 : Int32) (l3 : Int32) (m : MM) : Option (((Int32 × Int32 × MM)) ⊕ (Int32 × MM)) :=
  bd (aI m 50 (m.R x 21) l1) fun v1 =>
  if (((4 : Int32) * l1) + v1) ≤ l3 then (
    if l2 ≤ (1000000 : Int32) then (
      some (.inr (l2, m))
      ) else (
      some (.inr ((1000000 : Int32), m))
      )
    ) else (
    bd (aI m 50 (m.R x 22) l3) fun v2 =>
    if (8 : Int32) ≤ v2 then (
      bd (aI m 50 (m.R x 22) l3) fun v3 =>
      bd (aI m 50 (m.R x 60) (v3 - (8 : Int32))) fun v4 =>
      b_X2_sumOf_49 x l1 l2 l3 v4 m
      ) else (
      b_X2_sumOf_49 x l1 l2 l3 (1 : Int32) m
      )
    )
noncomputable def b_X2_sumOf_0 (x : Nat) (l1 : Int32) (m : MM) : Option (((Int32 × Int32 × MM)) ⊕ (Int32 × MM)) :=
  some (.inl ((0 : Int32), ((4 : Int32) * l1), m))
noncomputable def s_X2_sumOf (x : Nat) (l1 : Int32) : ((Int32 × Int32 × MM)) → Option (((Int32 × Int32 × MM)) ⊕ (Int32 × MM)) := fun z => match z with
  | (l2, l3, m) => b_X2_sumOf_6 x l1 l2 l3 m
noncomputable def f_X2_sumOf (x : Nat) (l1 : Int32) (m : MM) : Option (Int32 × MM) := bd (b_X2_sumOf_0 x l1 m) (rx_go (s_X2_sumOf x l1))
noncomputable def b_X2_layShortest_100 (x : Nat) (l2 : Int32) (l3 : Int32) (l4 : Int32) (m : MM) : Option (((Int32 × MM) ⊕ (Int32 × MM) ⊕ (Int32 × Int32 × MM)) ⊕ (Unit × MM)) :=
  bd (sI m 50 (m.R x 60) l4 l3) fun m1 =>
  some (.inl (.inr (.inr ((1 : Int32), (l2 + (1 : Int32)), m1))))
noncomputable def b_X2_layShortest_37 (x : Nat) (l1 : Int32) (l2 : Int32) (m : MM) : Option (((Int32 × MM) ⊕ (Int32 × MM) ⊕ (Int32 × Int32 × MM)) ⊕ (Unit × MM)) :=
  bd (aI m 50 (m.R x 14) (m.I x 29)) fun v1 =>
  if (((24 : Int32) * (m.I x 29)) + v1) ≤ l2 then (
    some (.inl (.inr (.inl (l1, m))))
    ) else (
    bd2 (f_X2_sumOf x l2 m) fun v2 m3 =>
    bd (aI m3 50 (m3.R x 20) l2) fun v4 =>
    if v2 = 0 then (
      some (.inl (.inr (.inr (l1, (l2 + (1 : Int32)), m3))))
      ) else (
      bd (aI m3 50 (m3.R x 60) v4) fun v5 =>
      if v5 ≤ 0 then (
        b_X2_layShortest_100 x l2 v2 v4 m3
        ) else (
        bd (aI m3 50 (m3.R x 60) v4) fun v6 =>
        if v2 < v6 then (
          b_X2_layShortest_100 x l2 v2 v4 m3
          ) else (
          some (.inl (.inr (.inr (l1, (l2 + (1 : Int32)), m3))))
          )
        )
      )
    )
noncomputable def b_X2_layShortest_23 (x : Nat) (l1 : Int32) (m : MM) : Option (((Int32 × MM) ⊕ (Int32 × MM) ⊕ (Int32 × Int32 × MM)) ⊕ (Unit × MM)) :=
  if l1 = 0 then (
    some (.inr ((), m))
    ) else (
    some (.inl (.inr (.inr ((0 : Int32), ((24 : Int32) * (m.I x 29)), m))))
    )
noncomputable def b_X2_layShortest_2 (x : Nat) (l1 : Int32) (m : MM) : Option (((Int32 × MM) ⊕ (Int32 × MM) ⊕ (Int32 × Int32 × MM)) ⊕ (Unit × MM)) :=
  if (8 : Int32) ≤ l1 then (
    some (.inl (.inr (.inl ((1 : Int32), m))))
    ) else (
    bd (sI m 50 (m.R x 60) l1 (0 : Int32)) fun m1 =>
    some (.inl (.inl ((l1 + (1 : Int32)), m1)))
    )
noncomputable def b_X2_layShortest_0 (x : Nat) (m : MM) : Option (((Int32 × MM) ⊕ (Int32 × MM) ⊕ (Int32 × Int32 × MM)) ⊕ (Unit × MM)) :=
  some (.inl (.inl ((0 : Int32), m)))
noncomputable def s_X2_layShortest (x : Nat) : ((Int32 × MM) ⊕ (Int32 × MM) ⊕ (Int32 × Int32 × MM)) → Option (((Int32 × MM) ⊕ (Int32 × MM) ⊕ (Int32 × Int32 × MM)) ⊕ (Unit × MM)) := fun z => match z with
  | (.inl (l1, m)) => b_X2_layShortest_2 x l1 m
  | (.inr (.inl (l1, m))) => b_X2_layShortest_23 x l1 m
  | (.inr (.inr (l1, l2, m))) => b_X2_layShortest_37 x l1 l2 m
noncomputable def f_X2_layShortest (x : Nat) (m : MM) : Option (Unit × MM) := bd (b_X2_layShortest_0 x m) (rx_go (s_X2_layShortest x))
noncomputable def b_X2_used_96 (x : Nat) (l1 : Int32) (l2 : Int32) (l3 : Int32) (l4 : Int32) (m : MM) : Option (((Int32 × Int32 × MM) ⊕ (Int32 × Int32 × Int32 × MM) ⊕ (Int32 × Int32 × Int32 × Int32 × MM)) ⊕ (Int32 × MM)) :=
  bd (aI m 50 (m.R x 21) l3) fun v1 =>
  if (((4 : Int32) * l3) + v1) ≤ l4 then (
    some (.inl (.inr (.inl (l1, l2, (l3 + (1 : Int32)), m))))
    ) else (
    bd (aI m 50 (m.R x 22) l4) fun v2 =>
    if v2 < (8 : Int32) then (
      some (.inl (.inr (.inr (l1, l2, l3, (l4 + (1 : Int32)), m))))
      ) else (
      bd (aI m 50 (m.R x 22) l4) fun v3 =>
      some (.inl (.inr (.inr ((l1 ||| (ji_shl (1 : Int32) (v3 - (8 : Int32)))), l2, l3, (l4 + (1 : Int32)), m))))
      )
    )
noncomputable def b_X2_used_46 (x : Nat) (l1 : Int32) (l2 : Int32) (l3 : Int32) (m : MM) : Option (((Int32 × Int32 × MM) ⊕ (Int32 × Int32 × Int32 × MM) ⊕ (Int32 × Int32 × Int32 × Int32 × MM)) ⊕ (Int32 × MM)) :=
  bd (aI m 50 (m.R x 14) (m.I x 29)) fun v1 =>
  if (((24 : Int32) * (m.I x 29)) + v1) ≤ l3 then (
    some (.inl (.inl (l1, l2, m)))
    ) else (
    bd (aI m 50 (m.R x 20) l3) fun v2 =>
    if ((ji_shr l1 v2) &&& (1 : Int32)) = 0 then (
      some (.inl (.inr (.inl (l1, l2, (l3 + (1 : Int32)), m))))
      ) else (
      bd2 (f_X2_sumOf x l3 m) fun v3 m4 =>
      if v3 = 0 then (
        some (.inl (.inr (.inl (l1, l2, (l3 + (1 : Int32)), m4))))
        ) else (
        some (.inl (.inr (.inr (l1, l2, l3, ((4 : Int32) * l3), m4))))
        )
      )
    )
noncomputable def b_X2_used_31 (x : Nat) (l1 : Int32) (l2 : Int32) (m : MM) : Option (((Int32 × Int32 × MM) ⊕ (Int32 × Int32 × Int32 × MM) ⊕ (Int32 × Int32 × Int32 × Int32 × MM)) ⊕ (Int32 × MM)) :=
  if l2 = l1 then (
    some (.inr (l1, m))
    ) else (
    some (.inl (.inr (.inl (l1, l1, ((24 : Int32) * (m.I x 29)), m))))
    )
noncomputable def b_X2_used_0 (x : Nat) (m : MM) : Option (((Int32 × Int32 × MM) ⊕ (Int32 × Int32 × Int32 × MM) ⊕ (Int32 × Int32 × Int32 × Int32 × MM)) ⊕ (Int32 × MM)) :=
  bd2 (f_X2_layShortest x m) fun _ m1 =>
  bd (aI m1 50 (m1.R x 13) (m1.I x 29)) fun v2 =>
  if v2 = 0 then (
    some (.inr ((0 : Int32), m1))
    ) else (
    bd (aI m1 50 (m1.R x 60) (0 : Int32)) fun v3 =>
    if v3 = 0 then (
      some (.inr ((0 : Int32), m1))
      ) else (
      some (.inl (.inl ((1 : Int32), (0 : Int32), m1)))
      )
    )
noncomputable def s_X2_used (x : Nat) : ((Int32 × Int32 × MM) ⊕ (Int32 × Int32 × Int32 × MM) ⊕ (Int32 × Int32 × Int32 × Int32 × MM)) → Option (((Int32 × Int32 × MM) ⊕ (Int32 × Int32 × Int32 × MM) ⊕ (Int32 × Int32 × Int32 × Int32 × MM)) ⊕ (Int32 × MM)) := fun z => match z with
  | (.inl (l1, l2, m)) => b_X2_used_31 x l1 l2 m
  | (.inr (.inl (l1, l2, l3, m))) => b_X2_used_46 x l1 l2 l3 m
  | (.inr (.inr (l1, l2, l3, l4, m))) => b_X2_used_96 x l1 l2 l3 l4 m
noncomputable def f_X2_used (x : Nat) (m : MM) : Option (Int32 × MM) := bd (b_X2_used_0 x m) (rx_go (s_X2_used x))
noncomputable def b_X2_shortest_0 (x : Nat) (l1 : Int32) (m : MM) : Option (Int32 × MM) :=
  bd (aI m 50 (m.R x 13) (m.I x 29)) fun v1 =>
  bd2 (f_X2_isIn l1 (0 : Int32) (v1 - (1 : Int32)) m) fun v2 m3 =>
  if v2 = 0 then (
    some ((-1 : Int32), m3)
    ) else (
    bd2 (f_X2_layShortest x m3) fun _ m4 =>
    bd (aI m4 50 (m4.R x 60) l1) fun v5 =>
    some (v5, m4)
    )
noncomputable def f_X2_shortest (x : Nat) (l1 : Int32) (m : MM) : Option (Int32 × MM) := b_X2_shortest_0 x l1 m
noncomputable def b_X2_unpack_2 (x : Nat) (l1 : Int32) (l2 : Int32) (m : MM) : Option (((Int32 × MM)) ⊕ (Unit × MM)) :=
  bd2 (f_X2_longOf x m) fun v1 m2 =>
  if v1 ≤ l2 then (
    some (.inr ((), m2))
    ) else (
    bd2 (f_X2_wordIn x l1 l2 m2) fun v3 m4 =>
    bd (sI m4 50 (m2.R x 31) l2 v3) fun m5 =>
    some (.inl ((l2 + (1 : Int32)), m5))
    )
noncomputable def b_X2_unpack_0 (x : Nat) (l1 : Int32) (m : MM) : Option (((Int32 × MM)) ⊕ (Unit × MM)) :=
  some (.inl ((0 : Int32), m))
noncomputable def s_X2_unpack (x : Nat) (l1 : Int32) : ((Int32 × MM)) → Option (((Int32 × MM)) ⊕ (Unit × MM)) := fun z => match z with
  | (l2, m) => b_X2_unpack_2 x l1 l2 m
noncomputable def f_X2_unpack (x : Nat) (l1 : Int32) (m : MM) : Option (Unit × MM) := bd (b_X2_unpack_0 x l1 m) (rx_go (s_X2_unpack x l1))
noncomputable def b_X2_doubtful_17 (x : Nat) (l1 : Int32) (m : MM) : Option (((Int32 × MM)) ⊕ (Int32 × MM)) :=
  if (m.I x 48) ≤ l1 then (
    some (.inr ((0 : Int32), m))
    ) else (
    bd (aI m 50 (m.R x 44) l1) fun v1 =>
    bd2 (f_X2_unpack x v1 m) fun _ m2 =>
    bd2 (f_X2_longOf x m2) fun v3 m4 =>
    bd2 (f_X2_readingsOf x v3 m4) fun v5 m6 =>
    if 0 ≤ (lg_cmp v5 (2 : Int64)) then (
      bd2 (f_X2_lay x l1 m6) fun _ m7 =>
      some (.inr ((v5).toInt32, m7))
      ) else (
      some (.inl ((l1 + (1 : Int32)), m6))
      )
    )
noncomputable def b_X2_doubtful_0 (x : Nat) (m : MM) : Option (((Int32 × MM)) ⊕ (Int32 × MM)) :=
  bd (pI m (some x) 3 59 50 (0 : Int32)) fun m1 =>
  bd2 (f_X2_layFromNone x m1) fun v2 m3 =>
  if v2 = 0 then (
    some (.inr ((-2 : Int32), m3))
    ) else (
    some (.inl ((0 : Int32), m3))
    )
noncomputable def s_X2_doubtful (x : Nat) : ((Int32 × MM)) → Option (((Int32 × MM)) ⊕ (Int32 × MM)) := fun z => match z with
  | (l1, m) => b_X2_doubtful_17 x l1 m
noncomputable def f_X2_doubtful (x : Nat) (m : MM) : Option (Int32 × MM) := bd (b_X2_doubtful_0 x m) (rx_go (s_X2_doubtful x))
noncomputable def b_X2_hole_0 (x : Nat) (l1 : Int32) (l2 : Int32) (m : MM) : Option (Int32 × MM) :=
  bd2 (f_X2_isPlace x l1 m) fun v1 m2 =>
  if v1 = 0 then (
    some ((0 : Int32), m2)
    ) else (
    if l2 = (-1 : Int32) then (
      bd (sI m2 50 (m2.R x 38) l1 l2) fun m3 =>
      some ((1 : Int32), m3)
      ) else (
      bd2 (f_X2_isWordOf x l2 m2) fun v4 m5 =>
      if v4 = 0 then (
        some ((0 : Int32), m5)
        ) else (
        bd (sI m5 50 (m5.R x 38) l1 l2) fun m6 =>
        some ((1 : Int32), m6)
        )
      )
    )
noncomputable def f_X2_hole (x : Nat) (l1 : Int32) (l2 : Int32) (m : MM) : Option (Int32 × MM) := b_X2_hole_0 x l1 l2 m
noncomputable def b_X2_fit_0 (x : Nat) (m : MM) : Option (Int32 × MM) :=
  bd2 (f_X2_layList x (0 : Int32) (1 : Int32) m) fun v1 m2 =>
  if v1 = 0 then (
    some ((-2 : Int32), m2)
    ) else (
    some ((m2.I x 48), m2)
    )
noncomputable def f_X2_fit (x : Nat) (m : MM) : Option (Int32 × MM) := b_X2_fit_0 x m
noncomputable def b_X2_best_36 (x : Nat) (l1 : Int32) (l2 : Int32) (l3 : Int32) (m : MM) : Option (((Int32 × Int32 × MM)) ⊕ (Int32 × MM)) :=
  if (m.I x 48) ≤ l3 then (
    bd2 (f_X2_lay x l2 m) fun _ m1 =>
    bd (aI m1 50 (m1.R x 45) (((3 : Int32) * l2) + l1)) fun v2 =>
    some (.inr (v2, m1))
    ) else (
    bd (aI m 50 (m.R x 45) (((3 : Int32) * l3) + l1)) fun v3 =>
    bd (aI m 50 (m.R x 45) (((3 : Int32) * l2) + l1)) fun v4 =>
    if v3 ≤ v4 then (
      some (.inl (l2, (l3 + (1 : Int32)), m))
      ) else (
      some (.inl (l3, (l3 + (1 : Int32)), m))
      )
    )
noncomputable def b_X2_best_0 (x : Nat) (l1 : Int32) (m : MM) : Option (((Int32 × Int32 × MM)) ⊕ (Int32 × MM)) :=
  bd (pI m (some x) 3 59 50 (0 : Int32)) fun m1 =>
  bd2 (f_X2_isGuild l1 m1) fun v2 m3 =>
  if v2 = 0 then (
    some (.inr ((-1000000 : Int32), m3))
    ) else (
    bd2 (f_X2_layList x (0 : Int32) (1 : Int32) m3) fun v4 m5 =>
    if v4 = 0 then (
      some (.inr ((-1000000 : Int32), m5))
      ) else (
      if (m5.I x 48) = 0 then (
        some (.inr ((-1000000 : Int32), m5))
        ) else (
        some (.inl ((0 : Int32), (1 : Int32), m5))
        )
      )
    )
noncomputable def s_X2_best (x : Nat) (l1 : Int32) : ((Int32 × Int32 × MM)) → Option (((Int32 × Int32 × MM)) ⊕ (Int32 × MM)) := fun z => match z with
  | (l2, l3, m) => b_X2_best_36 x l1 l2 l3 m
noncomputable def f_X2_best (x : Nat) (l1 : Int32) (m : MM) : Option (Int32 × MM) := bd (b_X2_best_0 x l1 m) (rx_go (s_X2_best x l1))
noncomputable def b_X2_tryWithout_4 (x : Nat) (l1 : Int32) (l2 : Int32) (l3 : Int32) (m : MM) : Option (((Int32 × Int32 × MM)) ⊕ (Unit × MM)) :=
  if (m.I x 39) ≤ l3 then (
    some (.inr ((), m))
    ) else (
    if l3 = l1 then (
      some (.inl (l2, (l3 + (1 : Int32)), m))
      ) else (
      bd (aI m 50 (m.R x 36) l3) fun v1 =>
      bd (sI m 50 (m.R x 31) l2 v1) fun m2 =>
      some (.inl ((l2 + (1 : Int32)), (l3 + (1 : Int32)), m2))
      )
    )
noncomputable def b_X2_tryWithout_0 (x : Nat) (l1 : Int32) (m : MM) : Option (((Int32 × Int32 × MM)) ⊕ (Unit × MM)) :=
  some (.inl ((0 : Int32), (0 : Int32), m))
noncomputable def s_X2_tryWithout (x : Nat) (l1 : Int32) : ((Int32 × Int32 × MM)) → Option (((Int32 × Int32 × MM)) ⊕ (Unit × MM)) := fun z => match z with
  | (l2, l3, m) => b_X2_tryWithout_4 x l1 l2 l3 m
noncomputable def f_X2_tryWithout (x : Nat) (l1 : Int32) (m : MM) : Option (Unit × MM) := bd (b_X2_tryWithout_0 x l1 m) (rx_go (s_X2_tryWithout x l1))
noncomputable def b_X2_struck_31 (x : Nat) (l1 : Int32) (l2 : Int32) (l3 : Int32) (l4 : Int32) (m : MM) : Option (((Int32 × Int32 × Int32 × MM)) ⊕ (Int32 × MM)) :=
  if (m.I x 39) ≤ l4 then (
    some (.inr (l2, m))
    ) else (
    bd2 (f_X2_tryWithout x l4 m) fun _ m1 =>
    bd2 (f_X2_isRead x ((m1.I x 39) - (1 : Int32)) m1) fun v2 m3 =>
    if v2 = 0 then (
      some (.inl (l2, l3, (l4 + (1 : Int32)), m3))
      ) else (
      bd2 (f_X2_meansOf x ((m3.I x 39) - (1 : Int32)) l1 m3) fun v4 m5 =>
      if l2 < 0 then (
        some (.inl (l4, v4, (l4 + (1 : Int32)), m5))
        ) else (
        if l3 < v4 then (
          some (.inl (l4, v4, (l4 + (1 : Int32)), m5))
          ) else (
          some (.inl (l2, l3, (l4 + (1 : Int32)), m5))
          )
        )
      )
    )
noncomputable def b_X2_struck_0 (x : Nat) (l1 : Int32) (m : MM) : Option (((Int32 × Int32 × Int32 × MM)) ⊕ (Int32 × MM)) :=
  bd2 (f_X2_tryRow x m) fun _ m1 =>
  bd2 (f_X2_isGuild l1 m1) fun v2 m3 =>
  if v2 = 0 then (
    some (.inr ((-1 : Int32), m3))
    ) else (
    bd2 (f_X2_isRead x (m3.I x 39) m3) fun v4 m5 =>
    if v4 = 0 then (
      some (.inr ((-1 : Int32), m5))
      ) else (
      some (.inl ((-1 : Int32), (0 : Int32), (0 : Int32), m5))
      )
    )
noncomputable def s_X2_struck (x : Nat) (l1 : Int32) : ((Int32 × Int32 × Int32 × MM)) → Option (((Int32 × Int32 × Int32 × MM)) ⊕ (Int32 × MM)) := fun z => match z with
  | (l2, l3, l4, m) => b_X2_struck_31 x l1 l2 l3 l4 m
noncomputable def f_X2_struck (x : Nat) (l1 : Int32) (m : MM) : Option (Int32 × MM) := bd (b_X2_struck_0 x l1 m) (rx_go (s_X2_struck x l1))
noncomputable def b_X2_seen_0 (x : Nat) (l1 : Int32) (l2 : Int32) (l3 : Int32) (m : MM) : Option (Int32 × MM) :=
  bd2 (f_X2_isPlace x l1 m) fun v1 m2 =>
  if v1 = 0 then (
    some ((-1 : Int32), m2)
    ) else (
    bd2 (f_X2_isWordOf x l2 m2) fun v3 m4 =>
    if v3 = 0 then (
      some ((-1 : Int32), m4)
      ) else (
      if (m4.I x 66) = (30 : Int32) then (
        some ((-1 : Int32), m4)
        ) else (
        bd (sI m4 50 (m4.R x 61) (m4.I x 66) l1) fun m5 =>
        bd (sI m5 50 (m5.R x 62) (m5.I x 66) l2) fun m6 =>
        bd (sI m6 52 (m6.R x 65) (m6.I x 66) l3) fun m7 =>
        bd (sI m7 50 (m7.R x 63) (m7.I x 66) (m7.I x 67)) fun m8 =>
        bd (sI m8 50 (m8.R x 64) (m8.I x 66) (-1 : Int32)) fun m9 =>
        bd (pI m9 (some x) 3 66 50 ((m9.I x 66) + (1 : Int32))) fun m10 =>
        some (((m10.I x 66) - (1 : Int32)), m10)
        )
      )
    )
noncomputable def f_X2_seen (x : Nat) (l1 : Int32) (l2 : Int32) (l3 : Int32) (m : MM) : Option (Int32 × MM) := b_X2_seen_0 x l1 l2 l3 m
noncomputable def b_X2_untell_0 (x : Nat) (l1 : Int32) (m : MM) : Option (Int32 × MM) :=
  bd2 (f_X2_isIn l1 (0 : Int32) ((m.I x 66) - (1 : Int32)) m) fun v1 m2 =>
  if v1 = 0 then (
    some ((0 : Int32), m2)
    ) else (
    bd (aI m2 50 (m2.R x 64) l1) fun v3 =>
    if v3 < 0 then (
      bd (sI m2 50 (m2.R x 64) l1 (m2.I x 67)) fun m4 =>
      some ((1 : Int32), m4)
      ) else (
      some ((0 : Int32), m2)
      )
    )
noncomputable def f_X2_untell (x : Nat) (l1 : Int32) (m : MM) : Option (Int32 × MM) := b_X2_untell_0 x l1 m
noncomputable def b_X2_later_0 (x : Nat) (l1 : Int32) (m : MM) : Option (Int32 × MM) :=
  bd2 (f_X2_isIn l1 (0 : Int32) (1000 : Int32) m) fun v1 m2 =>
  if v1 = 0 then (
    some ((-1 : Int32), m2)
    ) else (
    if ((m2.I x 67) + l1) ≤ (100000 : Int32) then (
      bd (pI m2 (some x) 3 67 50 ((m2.I x 67) + l1)) fun m3 =>
      some ((m3.I x 67), m3)
      ) else (
      some ((-1 : Int32), m2)
      )
    )
noncomputable def f_X2_later (x : Nat) (l1 : Int32) (m : MM) : Option (Int32 × MM) := b_X2_later_0 x l1 m
noncomputable def b_X2_isSo_69 (x : Nat) (l1 : Int32) (l2 : Int32) (l3 : Int32) (s0 : Int32) (m : MM) : Option (((Int32 × MM)) ⊕ (Int32 × MM)) :=
  bd (aI m 52 (m.R x 65) l3) fun v1 =>
  if s0 = v1 then (
    some (.inl ((l3 + (1 : Int32)), m))
    ) else (
    some (.inr ((0 : Int32), m))
    )
noncomputable def b_X2_isSo_39 (x : Nat) (l1 : Int32) (l2 : Int32) (l3 : Int32) (m : MM) : Option (((Int32 × MM)) ⊕ (Int32 × MM)) :=
  bd (aI m 50 (m.R x 44) l1) fun v1 =>
  bd (aI m 50 (m.R x 61) l3) fun v2 =>
  bd2 (f_X2_wordIn x v1 v2 m) fun v3 m4 =>
  bd (aI m4 50 (m4.R x 62) l3) fun v5 =>
  if v3 = v5 then (
    b_X2_isSo_69 x l1 l2 l3 (1 : Int32) m4
    ) else (
    b_X2_isSo_69 x l1 l2 l3 (0 : Int32) m4
    )
noncomputable def b_X2_isSo_2 (x : Nat) (l1 : Int32) (l2 : Int32) (l3 : Int32) (m : MM) : Option (((Int32 × MM)) ⊕ (Int32 × MM)) :=
  if (m.I x 66) ≤ l3 then (
    some (.inr ((1 : Int32), m))
    ) else (
    bd (aI m 50 (m.R x 63) l3) fun v1 =>
    if l2 < v1 then (
      some (.inl ((l3 + (1 : Int32)), m))
      ) else (
      bd (aI m 50 (m.R x 64) l3) fun v2 =>
      if v2 < 0 then (
        b_X2_isSo_39 x l1 l2 l3 m
        ) else (
        bd (aI m 50 (m.R x 64) l3) fun v3 =>
        if v3 ≤ l2 then (
          some (.inl ((l3 + (1 : Int32)), m))
          ) else (
          b_X2_isSo_39 x l1 l2 l3 m
          )
        )
      )
    )
noncomputable def b_X2_isSo_0 (x : Nat) (l1 : Int32) (l2 : Int32) (m : MM) : Option (((Int32 × MM)) ⊕ (Int32 × MM)) :=
  some (.inl ((0 : Int32), m))
noncomputable def s_X2_isSo (x : Nat) (l1 : Int32) (l2 : Int32) : ((Int32 × MM)) → Option (((Int32 × MM)) ⊕ (Int32 × MM)) := fun z => match z with
  | (l3, m) => b_X2_isSo_2 x l1 l2 l3 m
noncomputable def f_X2_isSo (x : Nat) (l1 : Int32) (l2 : Int32) (m : MM) : Option (Int32 × MM) := bd (b_X2_isSo_0 x l1 l2 m) (rx_go (s_X2_isSo x l1 l2))
noncomputable def b_X2_orders_14 (x : Nat) (l1 : Int32) (l2 : Int32) (l3 : Int32) (m : MM) : Option (((Int32 × Int32 × MM)) ⊕ (Int32 × MM)) :=
  if (6 : Int32) ≤ l3 then (
    some (.inr (l2, m))
    ) else (
    if (m.I x 48) ≤ 0 then (
      some (.inr (l2, m))
      ) else (
      bd2 (f_X2_turnsByOrder x l3 m) fun _ m1 =>
      bd2 (f_X2_plays x (0 : Int32) m1) fun v2 m3 =>
      bd2 (f_X2_isSo x v2 l1 m3) fun v4 m5 =>
      if v4 = 0 then (
        some (.inl ((l2 ||| (0 : Int32)), (l3 + (1 : Int32)), m5))
        ) else (
        some (.inl ((l2 ||| (ji_shl (1 : Int32) l3)), (l3 + (1 : Int32)), m5))
        )
      )
    )
noncomputable def b_X2_orders_0 (x : Nat) (l1 : Int32) (m : MM) : Option (((Int32 × Int32 × MM)) ⊕ (Int32 × MM)) :=
  bd2 (f_X2_layFromNone x m) fun v1 m2 =>
  if v1 = 0 then (
    some (.inr ((-2 : Int32), m2))
    ) else (
    some (.inl ((0 : Int32), (0 : Int32), m2))
    )
noncomputable def s_X2_orders (x : Nat) (l1 : Int32) : ((Int32 × Int32 × MM)) → Option (((Int32 × Int32 × MM)) ⊕ (Int32 × MM)) := fun z => match z with
  | (l2, l3, m) => b_X2_orders_14 x l1 l2 l3 m
noncomputable def f_X2_orders (x : Nat) (l1 : Int32) (m : MM) : Option (Int32 × MM) := bd (b_X2_orders_0 x l1 m) (rx_go (s_X2_orders x l1))
noncomputable def b_X2_image_13 (x : Nat) (l1 : Int32) (l2 : Int32) (m : MM) : Option (((Int32 × MM)) ⊕ (Int32 × MM)) :=
  if (6 : Int32) ≤ l2 then (
    bd (sI m 50 (m.R x 68) l1 (m.I x 39)) fun m1 =>
    some (.inr ((m1.I x 39), m1))
    ) else (
    bd (aI m 50 (m.R x 36) l2) fun v2 =>
    bd (sI m 50 (m.R x 69) (((6 : Int32) * l1) + l2) v2) fun m3 =>
    bd (aI m3 50 (m3.R x 37) l2) fun v4 =>
    bd (sI m3 50 (m3.R x 70) (((6 : Int32) * l1) + l2) v4) fun m5 =>
    some (.inl ((l2 + (1 : Int32)), m5))
    )
noncomputable def b_X2_image_0 (x : Nat) (l1 : Int32) (m : MM) : Option (((Int32 × MM)) ⊕ (Int32 × MM)) :=
  bd2 (f_X2_isIn l1 (0 : Int32) (2 : Int32) m) fun v1 m2 =>
  if v1 = 0 then (
    some (.inr ((-1 : Int32), m2))
    ) else (
    some (.inl ((0 : Int32), m2))
    )
noncomputable def s_X2_image (x : Nat) (l1 : Int32) : ((Int32 × MM)) → Option (((Int32 × MM)) ⊕ (Int32 × MM)) := fun z => match z with
  | (l2, m) => b_X2_image_13 x l1 l2 m
noncomputable def f_X2_image (x : Nat) (l1 : Int32) (m : MM) : Option (Int32 × MM) := bd (b_X2_image_0 x l1 m) (rx_go (s_X2_image x l1))
noncomputable def b_X2_back_26 (x : Nat) (l1 : Int32) (l2 : Int32) (m : MM) : Option (((Int32 × MM)) ⊕ (Int32 × MM)) :=
  if (6 : Int32) ≤ l2 then (
    bd (aI m 50 (m.R x 68) l1) fun v1 =>
    bd (pI m (some x) 3 39 50 v1) fun m2 =>
    some (.inr ((m2.I x 39), m2))
    ) else (
    bd (aI m 50 (m.R x 69) (((6 : Int32) * l1) + l2)) fun v3 =>
    bd (sI m 50 (m.R x 36) l2 v3) fun m4 =>
    bd (aI m4 50 (m4.R x 70) (((6 : Int32) * l1) + l2)) fun v5 =>
    bd (sI m4 50 (m4.R x 37) l2 v5) fun m6 =>
    some (.inl ((l2 + (1 : Int32)), m6))
    )
noncomputable def b_X2_back_0 (x : Nat) (l1 : Int32) (m : MM) : Option (((Int32 × MM)) ⊕ (Int32 × MM)) :=
  bd2 (f_X2_isIn l1 (0 : Int32) (2 : Int32) m) fun v1 m2 =>
  if v1 = 0 then (
    some (.inr ((-1 : Int32), m2))
    ) else (
    bd (aI m2 50 (m2.R x 68) l1) fun v3 =>
    if 0 ≤ v3 then (
      bd2 (f_X2_begin x m2) fun _ m4 =>
      some (.inl ((0 : Int32), m4))
      ) else (
      some (.inr ((-1 : Int32), m2))
      )
    )
noncomputable def s_X2_back (x : Nat) (l1 : Int32) : ((Int32 × MM)) → Option (((Int32 × MM)) ⊕ (Int32 × MM)) := fun z => match z with
  | (l2, m) => b_X2_back_26 x l1 l2 m
noncomputable def f_X2_back (x : Nat) (l1 : Int32) (m : MM) : Option (Int32 × MM) := bd (b_X2_back_0 x l1 m) (rx_go (s_X2_back x l1))
noncomputable def b_X2_about_0 (x : Nat) (l1 : Int32) (m : MM) : Option (Int32 × MM) :=
  if l1 = (0 : Int32) then (
    bd (aI m 50 (m.R x 11) (m.I x 29)) fun v1 =>
    some (v1, m)
    ) else
  if l1 = (1 : Int32) then (
    bd (aI m 50 (m.R x 12) (m.I x 29)) fun v2 =>
    some (v2, m)
    ) else
  if l1 = (2 : Int32) then (
    bd (aI m 50 (m.R x 13) (m.I x 29)) fun v3 =>
    some (v3, m)
    ) else
  if l1 = (3 : Int32) then (
    bd (aI m 50 (m.R x 14) (m.I x 29)) fun v4 =>
    some (v4, m)
    ) else
  if l1 = (4 : Int32) then (
    bd2 (f_X2_longOf x m) fun v5 m6 =>
    some (v5, m6)
    ) else
  if l1 = (5 : Int32) then (
    some ((m.I x 39), m)
    ) else
  if l1 = (6 : Int32) then (
    some ((m.I x 42), m)
    ) else
  if l1 = (7 : Int32) then (
    some ((m.I x 43), m)
    ) else
  if l1 = (8 : Int32) then (
    some ((m.I x 66), m)
    ) else
  if l1 = (9 : Int32) then (
    some ((m.I x 67), m)
    ) else
  if l1 = (10 : Int32) then (
    some ((m.I x 2), m)
    ) else
  if l1 = (11 : Int32) then (
    some ((m.I x 59), m)
    ) else
  some ((-1 : Int32), m)
noncomputable def f_X2_about (x : Nat) (l1 : Int32) (m : MM) : Option (Int32 × MM) := b_X2_about_0 x l1 m
noncomputable def b_X2_feed_71 (x : Nat) (l1 : Int32) (l2 : Int32) (l3 : Int32) (l4 : Int32) (l5 : Int32) (l6 : Int32) (s0 : Int32) (m : MM) : Option (((Int32 × MM)) ⊕ (Int32 × MM)) :=
  bd (sI m 51 (m.R x 0) ((m.I x 2) + l6) (jb_byte (ji_shr s0 ((24 : Int32) - ((8 : Int32) * (l6 &&& (3 : Int32))))))) fun m1 =>
  some (.inl ((l6 + (1 : Int32)), m1))
noncomputable def b_X2_feed_18 (x : Nat) (l1 : Int32) (l2 : Int32) (l3 : Int32) (l4 : Int32) (l5 : Int32) (l6 : Int32) (m : MM) : Option (((Int32 × MM)) ⊕ (Int32 × MM)) :=
  if (20 : Int32) ≤ l6 then (
    bd (pI m (some x) 3 2 50 ((m.I x 2) + (20 : Int32))) fun m1 =>
    some (.inr ((m1.I x 2), m1))
    ) else (
    if (4 : Int32) ≤ l6 then (
      if (8 : Int32) ≤ l6 then (
        if (12 : Int32) ≤ l6 then (
          if (16 : Int32) ≤ l6 then (
            b_X2_feed_71 x l1 l2 l3 l4 l5 l6 l5 m
            ) else (
            b_X2_feed_71 x l1 l2 l3 l4 l5 l6 l4 m
            )
          ) else (
          b_X2_feed_71 x l1 l2 l3 l4 l5 l6 l3 m
          )
        ) else (
        b_X2_feed_71 x l1 l2 l3 l4 l5 l6 l2 m
        )
      ) else (
      b_X2_feed_71 x l1 l2 l3 l4 l5 l6 l1 m
      )
    )
noncomputable def b_X2_feed_0 (x : Nat) (l1 : Int32) (l2 : Int32) (l3 : Int32) (l4 : Int32) (l5 : Int32) (m : MM) : Option (((Int32 × MM)) ⊕ (Int32 × MM)) :=
  if ((m.I x 2) + (20 : Int32)) ≤ (1600 : Int32) then (
    some (.inl ((0 : Int32), m))
    ) else (
    some (.inr ((-1 : Int32), m))
    )
noncomputable def s_X2_feed (x : Nat) (l1 : Int32) (l2 : Int32) (l3 : Int32) (l4 : Int32) (l5 : Int32) : ((Int32 × MM)) → Option (((Int32 × MM)) ⊕ (Int32 × MM)) := fun z => match z with
  | (l6, m) => b_X2_feed_18 x l1 l2 l3 l4 l5 l6 m
noncomputable def f_X2_feed (x : Nat) (l1 : Int32) (l2 : Int32) (l3 : Int32) (l4 : Int32) (l5 : Int32) (m : MM) : Option (Int32 × MM) := bd (b_X2_feed_0 x l1 l2 l3 l4 l5 m) (rx_go (s_X2_feed x l1 l2 l3 l4 l5))
noncomputable def b_X2_end_0 (x : Nat) (l1 : Int32) (m : MM) : Option (Int32 × MM) :=
  if l1 < 0 then (
    some ((-1 : Int32), m)
    ) else (
    if l1 ≤ (m.I x 2) then (
      bd (pI m (some x) 3 2 50 l1) fun m1 =>
      some (l1, m1)
      ) else (
      some ((-1 : Int32), m)
      )
    )
noncomputable def f_X2_end (x : Nat) (l1 : Int32) (m : MM) : Option (Int32 × MM) := b_X2_end_0 x l1 m
