/-! printed by wip/gen: what the methods compute, as functions over the memory -/
set_option maxRecDepth 100000
noncomputable def b_L_law_947 (l0 : Option Nat) (l1 : Option Nat) (l2 : Option Nat) (l3 : Int32) (s0 : Int32) (s1 : Option Nat) (s2 : Int32) (s3 : Int32) (s4 : Int32) (m : MM) : Option (((Option Nat × Option Nat × Int32 × MM)) ⊕ (Int32 × MM)) :=
  bd (isK m s1 3) fun a1 =>
  bd2 (f_X2_seen a1 s2 s3 s4 m) fun v2 m3 =>
  if s0 = v2 then (
    some (.inl (l1, l2, (l3 + (6 : Int32)), m3))
    ) else (
    some (.inr ((0 : Int32), m3))
    )
noncomputable def b_L_law_920 (l0 : Option Nat) (l1 : Option Nat) (l2 : Option Nat) (l3 : Int32) (s0 : Option Nat) (s1 : Int32) (s2 : Int32) (s3 : Int32) (m : MM) : Option (((Option Nat × Option Nat × Int32 × MM)) ⊕ (Int32 × MM)) :=
  bd (isK m s0 1) fun a1 =>
  bd2 (f_X0_seen a1 s1 s2 s3 m) fun v2 m3 =>
  bd (aI m3 50 l0 (l3 + (1 : Int32))) fun v4 =>
  bd (aI m3 50 l0 (l3 + (2 : Int32))) fun v5 =>
  bd (aI m3 50 l0 (l3 + (3 : Int32))) fun v6 =>
  if v6 = 0 then (
    b_L_law_947 l0 l1 l2 l3 v2 l2 v4 v5 (0 : Int32) m3
    ) else (
    b_L_law_947 l0 l1 l2 l3 v2 l2 v4 v5 (1 : Int32) m3
    )
noncomputable def b_L_law_18 (l0 : Option Nat) (l1 : Option Nat) (l2 : Option Nat) (l3 : Int32) (m : MM) : Option (((Option Nat × Option Nat × Int32 × MM)) ⊕ (Int32 × MM)) :=
  bd (aN m 50 l0) fun v1 =>
  if (v1 - (6 : Int32)) < l3 then (
    some (.inr ((1 : Int32), m))
    ) else (
    bd (aI m 50 l0 l3) fun v2 =>
    if (v2 &&& (63 : Int32)) = (0 : Int32) then (
      bd (aI m 50 l0 (l3 + (1 : Int32))) fun v3 =>
      bd (aI m 50 l0 (l3 + (2 : Int32))) fun v4 =>
      bd (aI m 50 l0 (l3 + (3 : Int32))) fun v5 =>
      bd (aI m 50 l0 (l3 + (4 : Int32))) fun v6 =>
      bd (aI m 50 l0 (l3 + (5 : Int32))) fun v7 =>
      bd (isK m l1 1) fun a8 =>
      bd2 (f_X0_feed a8 v3 v4 v5 v6 v7 m) fun v9 m10 =>
      bd (aI m10 50 l0 (l3 + (1 : Int32))) fun v11 =>
      bd (aI m10 50 l0 (l3 + (2 : Int32))) fun v12 =>
      bd (aI m10 50 l0 (l3 + (3 : Int32))) fun v13 =>
      bd (aI m10 50 l0 (l3 + (4 : Int32))) fun v14 =>
      bd (aI m10 50 l0 (l3 + (5 : Int32))) fun v15 =>
      bd (isK m10 l2 3) fun a16 =>
      bd2 (f_X2_feed a16 v11 v12 v13 v14 v15 m10) fun v17 m18 =>
      if v9 = v17 then (
        some (.inl (l1, l2, (l3 + (6 : Int32)), m18))
        ) else (
        some (.inr ((0 : Int32), m18))
        )
      ) else
    if (v2 &&& (63 : Int32)) = (1 : Int32) then (
      bd (aI m 50 l0 (l3 + (1 : Int32))) fun v19 =>
      bd (isK m l1 1) fun a20 =>
      bd2 (f_X0_end a20 v19 m) fun v21 m22 =>
      bd (aI m22 50 l0 (l3 + (1 : Int32))) fun v23 =>
      bd (isK m22 l2 3) fun a24 =>
      bd2 (f_X2_end a24 v23 m22) fun v25 m26 =>
      if v21 = v25 then (
        some (.inl (l1, l2, (l3 + (6 : Int32)), m26))
        ) else (
        some (.inr ((0 : Int32), m26))
        )
      ) else
    if (v2 &&& (63 : Int32)) = (2 : Int32) then (
      bd (isK m l1 1) fun a27 =>
      bd2 (f_X0_port a27 m) fun v28 m29 =>
      bd (isK m29 l2 3) fun a30 =>
      bd2 (f_X2_port a30 m29) fun v31 m32 =>
      if v28 = v31 then (
        some (.inl (l1, l2, (l3 + (6 : Int32)), m32))
        ) else (
        some (.inr ((0 : Int32), m32))
        )
      ) else
    if (v2 &&& (63 : Int32)) = (3 : Int32) then (
      bd (aI m 50 l0 (l3 + (1 : Int32))) fun v33 =>
      bd (isK m l1 1) fun a34 =>
      bd2 (f_X0_fault a34 v33 m) fun v35 m36 =>
      bd (aI m36 50 l0 (l3 + (1 : Int32))) fun v37 =>
      bd (isK m36 l2 3) fun a38 =>
      bd2 (f_X2_fault a38 v37 m36) fun v39 m40 =>
      if v35 = v39 then (
        some (.inl (l1, l2, (l3 + (6 : Int32)), m40))
        ) else (
        some (.inr ((0 : Int32), m40))
        )
      ) else
    if (v2 &&& (63 : Int32)) = (4 : Int32) then (
      bd (aI m 50 l0 (l3 + (1 : Int32))) fun v41 =>
      bd (aI m 50 l0 (l3 + (2 : Int32))) fun v42 =>
      bd (isK m l1 1) fun a43 =>
      bd2 (f_X0_worth a43 v41 v42 m) fun v44 m45 =>
      bd (aI m45 50 l0 (l3 + (1 : Int32))) fun v46 =>
      bd (aI m45 50 l0 (l3 + (2 : Int32))) fun v47 =>
      bd (isK m45 l2 3) fun a48 =>
      bd2 (f_X2_worth a48 v46 v47 m45) fun v49 m50 =>
      if v44 = v49 then (
        some (.inl (l1, l2, (l3 + (6 : Int32)), m50))
        ) else (
        some (.inr ((0 : Int32), m50))
        )
      ) else
    if (v2 &&& (63 : Int32)) = (5 : Int32) then (
      bd (aI m 50 l0 (l3 + (1 : Int32))) fun v51 =>
      bd (aI m 50 l0 (l3 + (2 : Int32))) fun v52 =>
      bd (aI m 50 l0 (l3 + (3 : Int32))) fun v53 =>
      bd (isK m l1 1) fun a54 =>
      bd2 (f_X0_behind a54 v51 v52 v53 m) fun v55 m56 =>
      bd (aI m56 50 l0 (l3 + (1 : Int32))) fun v57 =>
      bd (aI m56 50 l0 (l3 + (2 : Int32))) fun v58 =>
      bd (aI m56 50 l0 (l3 + (3 : Int32))) fun v59 =>
      bd (isK m56 l2 3) fun a60 =>
      bd2 (f_X2_behind a60 v57 v58 v59 m56) fun v61 m62 =>
      if v55 = v61 then (
        some (.inl (l1, l2, (l3 + (6 : Int32)), m62))
        ) else (
        some (.inr ((0 : Int32), m62))
        )
      ) else
    if (v2 &&& (63 : Int32)) = (6 : Int32) then (
      bd (aI m 50 l0 (l3 + (1 : Int32))) fun v63 =>
      bd (isK m l1 1) fun a64 =>
      bd2 (f_X0_turn a64 v63 m) fun v65 m66 =>
      bd (aI m66 50 l0 (l3 + (1 : Int32))) fun v67 =>
      bd (isK m66 l2 3) fun a68 =>
      bd2 (f_X2_turn a68 v67 m66) fun v69 m70 =>
      if v65 = v69 then (
        some (.inl (l1, l2, (l3 + (6 : Int32)), m70))
        ) else (
        some (.inr ((0 : Int32), m70))
        )
      ) else
    if (v2 &&& (63 : Int32)) = (7 : Int32) then (
      bd (aI m 50 l0 (l3 + (1 : Int32))) fun v71 =>
      bd (isK m l1 1) fun a72 =>
      bd2 (f_X0_write a72 v71 m) fun v73 m74 =>
      bd (aI m74 50 l0 (l3 + (1 : Int32))) fun v75 =>
      bd (isK m74 l2 3) fun a76 =>
      bd2 (f_X2_write a76 v75 m74) fun v77 m78 =>
      if v73 = v77 then (
        some (.inl (l1, l2, (l3 + (6 : Int32)), m78))
        ) else (
        some (.inr ((0 : Int32), m78))
        )
      ) else
    if (v2 &&& (63 : Int32)) = (8 : Int32) then (
      bd (aI m 50 l0 (l3 + (1 : Int32))) fun v79 =>
      bd (aI m 50 l0 (l3 + (2 : Int32))) fun v80 =>
      bd (isK m l1 1) fun a81 =>
      bd2 (f_X0_sell a81 v79 v80 m) fun v82 m83 =>
      bd (aI m83 50 l0 (l3 + (1 : Int32))) fun v84 =>
      bd (aI m83 50 l0 (l3 + (2 : Int32))) fun v85 =>
      bd (isK m83 l2 3) fun a86 =>
      bd2 (f_X2_sell a86 v84 v85 m83) fun v87 m88 =>
      if v82 = v87 then (
        some (.inl (l1, l2, (l3 + (6 : Int32)), m88))
        ) else (
        some (.inr ((0 : Int32), m88))
        )
      ) else
    if (v2 &&& (63 : Int32)) = (9 : Int32) then (
      bd (isK m l1 1) fun a89 =>
      bd2 (f_X0_undo a89 m) fun v90 m91 =>
      bd (isK m91 l2 3) fun a92 =>
      bd2 (f_X2_undo a92 m91) fun v93 m94 =>
      if v90 = v93 then (
        some (.inl (l1, l2, (l3 + (6 : Int32)), m94))
        ) else (
        some (.inr ((0 : Int32), m94))
        )
      ) else
    if (v2 &&& (63 : Int32)) = (10 : Int32) then (
      bd (isK m l1 1) fun a95 =>
      bd2 (f_X0_redo a95 m) fun v96 m97 =>
      bd (isK m97 l2 3) fun a98 =>
      bd2 (f_X2_redo a98 m97) fun v99 m100 =>
      if v96 = v99 then (
        some (.inl (l1, l2, (l3 + (6 : Int32)), m100))
        ) else (
        some (.inr ((0 : Int32), m100))
        )
      ) else
    if (v2 &&& (63 : Int32)) = (11 : Int32) then (
      bd (isK m l1 1) fun a101 =>
      bd2 (f_X0_wipe a101 m) fun v102 m103 =>
      bd (isK m103 l2 3) fun a104 =>
      bd2 (f_X2_wipe a104 m103) fun v105 m106 =>
      if v102 = v105 then (
        some (.inl (l1, l2, (l3 + (6 : Int32)), m106))
        ) else (
        some (.inr ((0 : Int32), m106))
        )
      ) else
    if (v2 &&& (63 : Int32)) = (12 : Int32) then (
      bd (aI m 50 l0 (l3 + (1 : Int32))) fun v107 =>
      bd (isK m l1 1) fun a108 =>
      bd2 (f_X0_word a108 v107 m) fun v109 m110 =>
      bd (aI m110 50 l0 (l3 + (1 : Int32))) fun v111 =>
      bd (isK m110 l2 3) fun a112 =>
      bd2 (f_X2_word a112 v111 m110) fun v113 m114 =>
      if v109 = v113 then (
        some (.inl (l1, l2, (l3 + (6 : Int32)), m114))
        ) else (
        some (.inr ((0 : Int32), m114))
        )
      ) else
    if (v2 &&& (63 : Int32)) = (13 : Int32) then (
      bd (isK m l1 1) fun a115 =>
      bd2 (f_X0_next a115 m) fun v116 m117 =>
      bd (isK m117 l2 3) fun a118 =>
      bd2 (f_X2_next a118 m117) fun v119 m120 =>
      if v116 = v119 then (
        some (.inl (l1, l2, (l3 + (6 : Int32)), m120))
        ) else (
        some (.inr ((0 : Int32), m120))
        )
      ) else
    if (v2 &&& (63 : Int32)) = (14 : Int32) then (
      bd (isK m l1 1) fun a121 =>
      bd2 (f_X0_readings_2 a121 m) fun v122 m123 =>
      bd (isK m123 l2 3) fun a124 =>
      bd2 (f_X2_readings a124 m123) fun v125 m126 =>
      if v122 = v125 then (
        some (.inl (l1, l2, (l3 + (6 : Int32)), m126))
        ) else (
        some (.inr ((0 : Int32), m126))
        )
      ) else
    if (v2 &&& (63 : Int32)) = (15 : Int32) then (
      bd (aI m 50 l0 (l3 + (1 : Int32))) fun v127 =>
      bd (isK m l1 1) fun a128 =>
      bd2 (f_X0_means a128 v127 m) fun v129 m130 =>
      bd (aI m130 50 l0 (l3 + (1 : Int32))) fun v131 =>
      bd (isK m130 l2 3) fun a132 =>
      bd2 (f_X2_means a132 v131 m130) fun v133 m134 =>
      if v129 = v133 then (
        some (.inl (l1, l2, (l3 + (6 : Int32)), m134))
        ) else (
        some (.inr ((0 : Int32), m134))
        )
      ) else
    if (v2 &&& (63 : Int32)) = (16 : Int32) then (
      bd (aI m 50 l0 (l3 + (1 : Int32))) fun v135 =>
      bd (isK m l1 1) fun a136 =>
      bd2 (f_X0_written a136 v135 m) fun v137 m138 =>
      bd (aI m138 50 l0 (l3 + (1 : Int32))) fun v139 =>
      bd (isK m138 l2 3) fun a140 =>
      bd2 (f_X2_written a140 v139 m138) fun v141 m142 =>
      if v137 = v141 then (
        some (.inl (l1, l2, (l3 + (6 : Int32)), m142))
        ) else (
        some (.inr ((0 : Int32), m142))
        )
      ) else
    if (v2 &&& (63 : Int32)) = (17 : Int32) then (
      bd (aI m 50 l0 (l3 + (1 : Int32))) fun v143 =>
      bd (isK m l1 1) fun a144 =>
      bd2 (f_X0_held a144 v143 m) fun v145 m146 =>
      bd (aI m146 50 l0 (l3 + (1 : Int32))) fun v147 =>
      bd (isK m146 l2 3) fun a148 =>
      bd2 (f_X2_held a148 v147 m146) fun v149 m150 =>
      if v145 = v149 then (
        some (.inl (l1, l2, (l3 + (6 : Int32)), m150))
        ) else (
        some (.inr ((0 : Int32), m150))
        )
      ) else
    if (v2 &&& (63 : Int32)) = (18 : Int32) then (
      bd (aI m 50 l0 (l3 + (1 : Int32))) fun v151 =>
      bd (aI m 50 l0 (l3 + (2 : Int32))) fun v152 =>
      bd (isK m l1 1) fun a153 =>
      bd2 (f_X0_share a153 v151 v152 m) fun v154 m155 =>
      bd (aI m155 50 l0 (l3 + (1 : Int32))) fun v156 =>
      bd (aI m155 50 l0 (l3 + (2 : Int32))) fun v157 =>
      bd (isK m155 l2 3) fun a158 =>
      bd2 (f_X2_share a158 v156 v157 m155) fun v159 m160 =>
      if v154 = v159 then (
        some (.inl (l1, l2, (l3 + (6 : Int32)), m160))
        ) else (
        some (.inr ((0 : Int32), m160))
        )
      ) else
    if (v2 &&& (63 : Int32)) = (19 : Int32) then (
      bd (isK m l1 1) fun a161 =>
      bd2 (f_X0_swap a161 m) fun v162 m163 =>
      bd (isK m163 l2 3) fun a164 =>
      bd2 (f_X2_swap a164 m163) fun v165 m166 =>
      if v162 = v165 then (
        some (.inl (l1, l2, (l3 + (6 : Int32)), m166))
        ) else (
        some (.inr ((0 : Int32), m166))
        )
      ) else
    if (v2 &&& (63 : Int32)) = (20 : Int32) then (
      bd (aI m 50 l0 (l3 + (1 : Int32))) fun v167 =>
      bd (aI m 50 l0 (l3 + (2 : Int32))) fun v168 =>
      bd (isK m l1 1) fun a169 =>
      bd2 (f_X0_bribe a169 v167 v168 m) fun v170 m171 =>
      bd (aI m171 50 l0 (l3 + (1 : Int32))) fun v172 =>
      bd (aI m171 50 l0 (l3 + (2 : Int32))) fun v173 =>
      bd (isK m171 l2 3) fun a174 =>
      bd2 (f_X2_bribe a174 v172 v173 m171) fun v175 m176 =>
      if v170 = v175 then (
        some (.inl (l1, l2, (l3 + (6 : Int32)), m176))
        ) else (
        some (.inr ((0 : Int32), m176))
        )
      ) else
    if (v2 &&& (63 : Int32)) = (21 : Int32) then (
      bd (isK m l1 1) fun a177 =>
      bd2 (f_X0_used a177 m) fun v178 m179 =>
      bd (isK m179 l2 3) fun a180 =>
      bd2 (f_X2_used a180 m179) fun v181 m182 =>
      if v178 = v181 then (
        some (.inl (l1, l2, (l3 + (6 : Int32)), m182))
        ) else (
        some (.inr ((0 : Int32), m182))
        )
      ) else
    if (v2 &&& (63 : Int32)) = (22 : Int32) then (
      bd (aI m 50 l0 (l3 + (1 : Int32))) fun v183 =>
      bd (isK m l1 1) fun a184 =>
      bd2 (f_X0_shortest a184 v183 m) fun v185 m186 =>
      bd (aI m186 50 l0 (l3 + (1 : Int32))) fun v187 =>
      bd (isK m186 l2 3) fun a188 =>
      bd2 (f_X2_shortest a188 v187 m186) fun v189 m190 =>
      if v185 = v189 then (
        some (.inl (l1, l2, (l3 + (6 : Int32)), m190))
        ) else (
        some (.inr ((0 : Int32), m190))
        )
      ) else
    if (v2 &&& (63 : Int32)) = (23 : Int32) then (
      bd (isK m l1 1) fun a191 =>
      bd2 (f_X0_doubtful a191 m) fun v192 m193 =>
      bd (isK m193 l2 3) fun a194 =>
      bd2 (f_X2_doubtful a194 m193) fun v195 m196 =>
      if v192 = v195 then (
        some (.inl (l1, l2, (l3 + (6 : Int32)), m196))
        ) else (
        some (.inr ((0 : Int32), m196))
        )
      ) else
    if (v2 &&& (63 : Int32)) = (24 : Int32) then (
      bd (aI m 50 l0 (l3 + (1 : Int32))) fun v197 =>
      bd (isK m l1 1) fun a198 =>
      bd2 (f_X0_lots a198 v197 m) fun v199 m200 =>
      bd (aI m200 50 l0 (l3 + (1 : Int32))) fun v201 =>
      bd (isK m200 l2 3) fun a202 =>
      bd2 (f_X2_lots a202 v201 m200) fun v203 m204 =>
      if v199 = v203 then (
        some (.inl (l1, l2, (l3 + (6 : Int32)), m204))
        ) else (
        some (.inr ((0 : Int32), m204))
        )
      ) else
    if (v2 &&& (63 : Int32)) = (25 : Int32) then (
      bd (aI m 50 l0 (l3 + (1 : Int32))) fun v205 =>
      bd (aI m 50 l0 (l3 + (2 : Int32))) fun v206 =>
      bd (isK m l1 1) fun a207 =>
      bd2 (f_X0_hole a207 v205 v206 m) fun v208 m209 =>
      bd (aI m209 50 l0 (l3 + (1 : Int32))) fun v210 =>
      bd (aI m209 50 l0 (l3 + (2 : Int32))) fun v211 =>
      bd (isK m209 l2 3) fun a212 =>
      bd2 (f_X2_hole a212 v210 v211 m209) fun v213 m214 =>
      if v208 = v213 then (
        some (.inl (l1, l2, (l3 + (6 : Int32)), m214))
        ) else (
        some (.inr ((0 : Int32), m214))
        )
      ) else
    if (v2 &&& (63 : Int32)) = (26 : Int32) then (
      bd (isK m l1 1) fun a215 =>
      bd2 (f_X0_fit a215 m) fun v216 m217 =>
      bd (isK m217 l2 3) fun a218 =>
      bd2 (f_X2_fit a218 m217) fun v219 m220 =>
      if v216 = v219 then (
        some (.inl (l1, l2, (l3 + (6 : Int32)), m220))
        ) else (
        some (.inr ((0 : Int32), m220))
        )
      ) else
    if (v2 &&& (63 : Int32)) = (27 : Int32) then (
      bd (aI m 50 l0 (l3 + (1 : Int32))) fun v221 =>
      bd (isK m l1 1) fun a222 =>
      bd2 (f_X0_best a222 v221 m) fun v223 m224 =>
      bd (aI m224 50 l0 (l3 + (1 : Int32))) fun v225 =>
      bd (isK m224 l2 3) fun a226 =>
      bd2 (f_X2_best a226 v225 m224) fun v227 m228 =>
      if v223 = v227 then (
        some (.inl (l1, l2, (l3 + (6 : Int32)), m228))
        ) else (
        some (.inr ((0 : Int32), m228))
        )
      ) else
    if (v2 &&& (63 : Int32)) = (28 : Int32) then (
      bd (aI m 50 l0 (l3 + (1 : Int32))) fun v229 =>
      bd (isK m l1 1) fun a230 =>
      bd2 (f_X0_struck a230 v229 m) fun v231 m232 =>
      bd (aI m232 50 l0 (l3 + (1 : Int32))) fun v233 =>
      bd (isK m232 l2 3) fun a234 =>
      bd2 (f_X2_struck a234 v233 m232) fun v235 m236 =>
      if v231 = v235 then (
        some (.inl (l1, l2, (l3 + (6 : Int32)), m236))
        ) else (
        some (.inr ((0 : Int32), m236))
        )
      ) else
    if (v2 &&& (63 : Int32)) = (29 : Int32) then (
      bd (aI m 50 l0 (l3 + (1 : Int32))) fun v237 =>
      bd (isK m l1 1) fun a238 =>
      bd2 (f_X0_lies a238 v237 m) fun v239 m240 =>
      bd (aI m240 50 l0 (l3 + (1 : Int32))) fun v241 =>
      bd (isK m240 l2 3) fun a242 =>
      bd2 (f_X2_lies a242 v241 m240) fun v243 m244 =>
      if v239 = v243 then (
        some (.inl (l1, l2, (l3 + (6 : Int32)), m244))
        ) else (
        some (.inr ((0 : Int32), m244))
        )
      ) else
    if (v2 &&& (63 : Int32)) = (30 : Int32) then (
      bd (aI m 50 l0 (l3 + (1 : Int32))) fun v245 =>
      bd (aI m 50 l0 (l3 + (2 : Int32))) fun v246 =>
      bd (aI m 50 l0 (l3 + (3 : Int32))) fun v247 =>
      if v247 = 0 then (
        b_L_law_920 l0 l1 l2 l3 l1 v245 v246 (0 : Int32) m
        ) else (
        b_L_law_920 l0 l1 l2 l3 l1 v245 v246 (1 : Int32) m
        )
      ) else
    if (v2 &&& (63 : Int32)) = (31 : Int32) then (
      bd (aI m 50 l0 (l3 + (1 : Int32))) fun v248 =>
      bd (isK m l1 1) fun a249 =>
      bd2 (f_X0_untell a249 v248 m) fun v250 m251 =>
      bd (aI m251 50 l0 (l3 + (1 : Int32))) fun v252 =>
      bd (isK m251 l2 3) fun a253 =>
      bd2 (f_X2_untell a253 v252 m251) fun v254 m255 =>
      if v250 = v254 then (
        some (.inl (l1, l2, (l3 + (6 : Int32)), m255))
        ) else (
        some (.inr ((0 : Int32), m255))
        )
      ) else
    if (v2 &&& (63 : Int32)) = (32 : Int32) then (
      bd (aI m 50 l0 (l3 + (1 : Int32))) fun v256 =>
      bd (isK m l1 1) fun a257 =>
      bd2 (f_X0_later a257 v256 m) fun v258 m259 =>
      bd (aI m259 50 l0 (l3 + (1 : Int32))) fun v260 =>
      bd (isK m259 l2 3) fun a261 =>
      bd2 (f_X2_later a261 v260 m259) fun v262 m263 =>
      if v258 = v262 then (
        some (.inl (l1, l2, (l3 + (6 : Int32)), m263))
        ) else (
        some (.inr ((0 : Int32), m263))
        )
      ) else
    if (v2 &&& (63 : Int32)) = (33 : Int32) then (
      bd (aI m 50 l0 (l3 + (1 : Int32))) fun v264 =>
      bd (isK m l1 1) fun a265 =>
      bd2 (f_X0_orders a265 v264 m) fun v266 m267 =>
      bd (aI m267 50 l0 (l3 + (1 : Int32))) fun v268 =>
      bd (isK m267 l2 3) fun a269 =>
      bd2 (f_X2_orders a269 v268 m267) fun v270 m271 =>
      if v266 = v270 then (
        some (.inl (l1, l2, (l3 + (6 : Int32)), m271))
        ) else (
        some (.inr ((0 : Int32), m271))
        )
      ) else
    if (v2 &&& (63 : Int32)) = (34 : Int32) then (
      bd (aI m 50 l0 (l3 + (1 : Int32))) fun v272 =>
      bd (isK m l1 1) fun a273 =>
      bd2 (f_X0_image a273 v272 m) fun v274 m275 =>
      bd (aI m275 50 l0 (l3 + (1 : Int32))) fun v276 =>
      bd (isK m275 l2 3) fun a277 =>
      bd2 (f_X2_image a277 v276 m275) fun v278 m279 =>
      if v274 = v278 then (
        some (.inl (l1, l2, (l3 + (6 : Int32)), m279))
        ) else (
        some (.inr ((0 : Int32), m279))
        )
      ) else
    if (v2 &&& (63 : Int32)) = (35 : Int32) then (
      bd (aI m 50 l0 (l3 + (1 : Int32))) fun v280 =>
      bd (isK m l1 1) fun a281 =>
      bd2 (f_X0_back a281 v280 m) fun v282 m283 =>
      bd (aI m283 50 l0 (l3 + (1 : Int32))) fun v284 =>
      bd (isK m283 l2 3) fun a285 =>
      bd2 (f_X2_back a285 v284 m283) fun v286 m287 =>
      if v282 = v286 then (
        some (.inl (l1, l2, (l3 + (6 : Int32)), m287))
        ) else (
        some (.inr ((0 : Int32), m287))
        )
      ) else
    if (v2 &&& (63 : Int32)) = (36 : Int32) then (
      bd (aI m 50 l0 (l3 + (1 : Int32))) fun v288 =>
      bd (isK m l1 1) fun a289 =>
      bd2 (f_X0_about a289 v288 m) fun v290 m291 =>
      bd (aI m291 50 l0 (l3 + (1 : Int32))) fun v292 =>
      bd (isK m291 l2 3) fun a293 =>
      bd2 (f_X2_about a293 v292 m291) fun v294 m295 =>
      if v290 = v294 then (
        some (.inl (l1, l2, (l3 + (6 : Int32)), m295))
        ) else (
        some (.inr ((0 : Int32), m295))
        )
      ) else
    some (.inl (l1, l2, (l3 + (6 : Int32)), m))
    )
noncomputable def b_L_law_0 (l0 : Option Nat) (m : MM) : Option (((Option Nat × Option Nat × Int32 × MM)) ⊕ (Int32 × MM)) :=
  bd (nO m 1 34) fun m1 =>
  bd (isK m1 (some m.n) 1) fun a2 =>
  bd2 (f_X0_init a2 m1) fun _ m3 =>
  bd (nO m3 3 71) fun m4 =>
  bd (isK m4 (some m3.n) 3) fun a5 =>
  bd2 (f_X2_init a5 m4) fun _ m6 =>
  some (.inl ((some m.n), (some m3.n), (0 : Int32), m6))
noncomputable def s_L_law (l0 : Option Nat) : ((Option Nat × Option Nat × Int32 × MM)) → Option (((Option Nat × Option Nat × Int32 × MM)) ⊕ (Int32 × MM)) := fun z => match z with
  | (l1, l2, l3, m) => b_L_law_18 l0 l1 l2 l3 m
noncomputable def f_L_law (l0 : Option Nat) (m : MM) : Option (Int32 × MM) := bd (b_L_law_0 l0 m) (rx_go (s_L_law l0))
