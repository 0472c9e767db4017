/-! printed by wip/gen/mklay.py: the Model's arrays: field k lies at x + off -/
set_option maxRecDepth 100000
def yTab : List (Nat × Nat × Nat × Nat) := [(0, 1, 51, 1620), (1, 2, 51, 1600), (11, 3, 50, 2), (12, 4, 50, 2), (13, 5, 50, 2), (14, 6, 50, 2), (15, 7, 50, 2), (16, 8, 50, 2), (17, 9, 50, 12), (18, 10, 50, 48), (19, 11, 50, 384), (20, 12, 50, 48), (21, 13, 50, 48), (22, 14, 50, 192), (23, 15, 50, 192), (24, 16, 52, 128), (25, 17, 52, 2), (26, 18, 53, 16), (27, 19, 53, 16), (28, 20, 53, 192), (31, 21, 50, 6), (32, 22, 50, 56), (33, 23, 53, 448), (34, 24, 53, 7), (35, 25, 53, 7), (36, 26, 50, 6), (37, 27, 50, 6), (38, 28, 50, 6), (40, 29, 50, 40), (41, 30, 50, 40), (44, 31, 50, 3001), (45, 32, 50, 9003), (46, 33, 50, 3001), (47, 34, 50, 3001), (52, 35, 50, 7), (53, 36, 50, 6), (58, 37, 50, 6), (60, 38, 50, 8), (61, 39, 50, 30), (62, 40, 50, 30), (63, 41, 50, 30), (64, 42, 50, 30), (65, 43, 52, 30), (68, 44, 50, 3), (69, 45, 50, 18), (70, 46, 50, 18)]
/-- the Model stands at x, its arrays behind it -/
def LY (m : MM) (x : Nat) : Prop := m.b ≤ x ∧ m.K x = (3, 71) ∧ ∀ q ∈ yTab, m.R x q.1 = some (x + q.2.1) ∧ m.K (x + q.2.1) = (q.2.2.1, q.2.2.2)
theorem LY.b {m : MM} {x : Nat} (h : LY m x) : m.b ≤ x := h.1
theorem LY.b2 {m : MM} {x k : Nat} (h : LY m x) : m.b ≤ x + k := Nat.le_trans h.1 (Nat.le_add_right x k)
theorem LY.K {m : MM} {x : Nat} (h : LY m x) : m.K x = (3, 71) := h.2.1
theorem LY.q {m : MM} {x : Nat} (h : LY m x) {q : Nat × Nat × Nat × Nat} (n : Nat) (e : yTab[n]? = some q) : m.R x q.1 = some (x + q.2.1) ∧ m.K (x + q.2.1) = (q.2.2.1, q.2.2.2) := h.2.2 q (List.mem_of_getElem? e)
theorem LY.pI {m : MM} {x k : Nat} {v : Int32} (h : LY m x) : pI m (some x) 3 k 50 v = some (m.putI x (up (m.I x) k v)) := pI_at rfl h.K h.b rfl
theorem LY.pL {m : MM} {x k : Nat} {v : Int64} (h : LY m x) : pL m (some x) 3 k v = some (m.putL x (up (m.L x) k v)) := pL_at rfl h.K h.b
theorem LY.putI {m : MM} {x a : Nat} {f : Nat → Int32} (h : LY m x) : LY (m.putI a f) x := h
theorem LY.putL {m : MM} {x a : Nat} {f : Nat → Int64} (h : LY m x) : LY (m.putL a f) x := h
theorem yr_tape {m : MM} {x i : Nat} (h : LY m x) (hi : i < 1620) : aI m 51 (m.R x 0) (N i) = some (m.I (x + 1) i) := aI_at (h.q 0 rfl).1 (h.q 0 rfl).2 hi (by decide)
theorem yw_tape {v : Int32} {m : MM} {x i : Nat} (h : LY m x) (hi : i < 1620) : sI m 51 (m.R x 0) (N i) v = some (m.putI (x + 1) (up (m.I (x + 1)) i (narT 51 v))) := sI_at (h.q 0 rfl).1 (h.q 0 rfl).2 hi (by decide) h.b2
theorem yr_text {m : MM} {x i : Nat} (h : LY m x) (hi : i < 1600) : aI m 51 (m.R x 1) (N i) = some (m.I (x + 2) i) := aI_at (h.q 1 rfl).1 (h.q 1 rfl).2 hi (by decide)
theorem yw_text {v : Int32} {m : MM} {x i : Nat} (h : LY m x) (hi : i < 1600) : sI m 51 (m.R x 1) (N i) v = some (m.putI (x + 2) (up (m.I (x + 2)) i (narT 51 v))) := sI_at (h.q 1 rfl).1 (h.q 1 rfl).2 hi (by decide) h.b2
theorem yr_words {m : MM} {x i : Nat} (h : LY m x) (hi : i < 2) : aI m 50 (m.R x 11) (N i) = some (m.I (x + 3) i) := aI_at (h.q 2 rfl).1 (h.q 2 rfl).2 hi (by decide)
theorem yw_words {v : Int32} {m : MM} {x i : Nat} (h : LY m x) (hi : i < 2) : sI m 50 (m.R x 11) (N i) v = some (m.putI (x + 3) (up (m.I (x + 3)) i v)) := sI_at (h.q 2 rfl).1 (h.q 2 rfl).2 hi (by decide) h.b2
theorem yr_pairs {m : MM} {x i : Nat} (h : LY m x) (hi : i < 2) : aI m 50 (m.R x 12) (N i) = some (m.I (x + 4) i) := aI_at (h.q 3 rfl).1 (h.q 3 rfl).2 hi (by decide)
theorem yw_pairs {v : Int32} {m : MM} {x i : Nat} (h : LY m x) (hi : i < 2) : sI m 50 (m.R x 12) (N i) v = some (m.putI (x + 4) (up (m.I (x + 4)) i v)) := sI_at (h.q 3 rfl).1 (h.q 3 rfl).2 hi (by decide) h.b2
theorem yr_rules {m : MM} {x i : Nat} (h : LY m x) (hi : i < 2) : aI m 50 (m.R x 13) (N i) = some (m.I (x + 5) i) := aI_at (h.q 4 rfl).1 (h.q 4 rfl).2 hi (by decide)
theorem yw_rules {v : Int32} {m : MM} {x i : Nat} (h : LY m x) (hi : i < 2) : sI m 50 (m.R x 13) (N i) v = some (m.putI (x + 5) (up (m.I (x + 5)) i v)) := sI_at (h.q 4 rfl).1 (h.q 4 rfl).2 hi (by decide) h.b2
theorem yr_alts {m : MM} {x i : Nat} (h : LY m x) (hi : i < 2) : aI m 50 (m.R x 14) (N i) = some (m.I (x + 6) i) := aI_at (h.q 5 rfl).1 (h.q 5 rfl).2 hi (by decide)
theorem yw_alts {v : Int32} {m : MM} {x i : Nat} (h : LY m x) (hi : i < 2) : sI m 50 (m.R x 14) (N i) v = some (m.putI (x + 6) (up (m.I (x + 6)) i v)) := sI_at (h.q 5 rfl).1 (h.q 5 rfl).2 hi (by decide) h.b2
theorem yr_length {m : MM} {x i : Nat} (h : LY m x) (hi : i < 2) : aI m 50 (m.R x 15) (N i) = some (m.I (x + 7) i) := aI_at (h.q 6 rfl).1 (h.q 6 rfl).2 hi (by decide)
theorem yw_length {v : Int32} {m : MM} {x i : Nat} (h : LY m x) (hi : i < 2) : sI m 50 (m.R x 15) (N i) v = some (m.putI (x + 7) (up (m.I (x + 7)) i v)) := sI_at (h.q 6 rfl).1 (h.q 6 rfl).2 hi (by decide) h.b2
theorem yr_turnMany {m : MM} {x i : Nat} (h : LY m x) (hi : i < 2) : aI m 50 (m.R x 16) (N i) = some (m.I (x + 8) i) := aI_at (h.q 7 rfl).1 (h.q 7 rfl).2 hi (by decide)
theorem yw_turnMany {v : Int32} {m : MM} {x i : Nat} (h : LY m x) (hi : i < 2) : sI m 50 (m.R x 16) (N i) v = some (m.putI (x + 8) (up (m.I (x + 8)) i v)) := sI_at (h.q 7 rfl).1 (h.q 7 rfl).2 hi (by decide) h.b2
theorem yr_turnOf {m : MM} {x i : Nat} (h : LY m x) (hi : i < 12) : aI m 50 (m.R x 17) (N i) = some (m.I (x + 9) i) := aI_at (h.q 8 rfl).1 (h.q 8 rfl).2 hi (by decide)
theorem yw_turnOf {v : Int32} {m : MM} {x i : Nat} (h : LY m x) (hi : i < 12) : sI m 50 (m.R x 17) (N i) v = some (m.putI (x + 9) (up (m.I (x + 9)) i v)) := sI_at (h.q 8 rfl).1 (h.q 8 rfl).2 hi (by decide) h.b2
theorem yr_worthOf {m : MM} {x i : Nat} (h : LY m x) (hi : i < 48) : aI m 50 (m.R x 18) (N i) = some (m.I (x + 10) i) := aI_at (h.q 9 rfl).1 (h.q 9 rfl).2 hi (by decide)
theorem yw_worthOf {v : Int32} {m : MM} {x i : Nat} (h : LY m x) (hi : i < 48) : sI m 50 (m.R x 18) (N i) v = some (m.putI (x + 10) (up (m.I (x + 10)) i v)) := sI_at (h.q 9 rfl).1 (h.q 9 rfl).2 hi (by decide) h.b2
theorem yr_pairWorth {m : MM} {x i : Nat} (h : LY m x) (hi : i < 384) : aI m 50 (m.R x 19) (N i) = some (m.I (x + 11) i) := aI_at (h.q 10 rfl).1 (h.q 10 rfl).2 hi (by decide)
theorem yw_pairWorth {v : Int32} {m : MM} {x i : Nat} (h : LY m x) (hi : i < 384) : sI m 50 (m.R x 19) (N i) v = some (m.putI (x + 11) (up (m.I (x + 11)) i v)) := sI_at (h.q 10 rfl).1 (h.q 10 rfl).2 hi (by decide) h.b2
theorem yr_altRule {m : MM} {x i : Nat} (h : LY m x) (hi : i < 48) : aI m 50 (m.R x 20) (N i) = some (m.I (x + 12) i) := aI_at (h.q 11 rfl).1 (h.q 11 rfl).2 hi (by decide)
theorem yw_altRule {v : Int32} {m : MM} {x i : Nat} (h : LY m x) (hi : i < 48) : sI m 50 (m.R x 20) (N i) v = some (m.putI (x + 12) (up (m.I (x + 12)) i v)) := sI_at (h.q 11 rfl).1 (h.q 11 rfl).2 hi (by decide) h.b2
theorem yr_altMany {m : MM} {x i : Nat} (h : LY m x) (hi : i < 48) : aI m 50 (m.R x 21) (N i) = some (m.I (x + 13) i) := aI_at (h.q 12 rfl).1 (h.q 12 rfl).2 hi (by decide)
theorem yw_altMany {v : Int32} {m : MM} {x i : Nat} (h : LY m x) (hi : i < 48) : sI m 50 (m.R x 21) (N i) v = some (m.putI (x + 13) (up (m.I (x + 13)) i v)) := sI_at (h.q 12 rfl).1 (h.q 12 rfl).2 hi (by decide) h.b2
theorem yr_altName {m : MM} {x i : Nat} (h : LY m x) (hi : i < 192) : aI m 50 (m.R x 22) (N i) = some (m.I (x + 14) i) := aI_at (h.q 13 rfl).1 (h.q 13 rfl).2 hi (by decide)
theorem yw_altName {v : Int32} {m : MM} {x i : Nat} (h : LY m x) (hi : i < 192) : sI m 50 (m.R x 22) (N i) v = some (m.putI (x + 14) (up (m.I (x + 14)) i v)) := sI_at (h.q 13 rfl).1 (h.q 13 rfl).2 hi (by decide) h.b2
theorem yr_altPlace {m : MM} {x i : Nat} (h : LY m x) (hi : i < 192) : aI m 50 (m.R x 23) (N i) = some (m.I (x + 15) i) := aI_at (h.q 14 rfl).1 (h.q 14 rfl).2 hi (by decide)
theorem yw_altPlace {v : Int32} {m : MM} {x i : Nat} (h : LY m x) (hi : i < 192) : sI m 50 (m.R x 23) (N i) v = some (m.putI (x + 15) (up (m.I (x + 15)) i v)) := sI_at (h.q 14 rfl).1 (h.q 14 rfl).2 hi (by decide) h.b2
theorem yr_isPair {m : MM} {x i : Nat} (h : LY m x) (hi : i < 128) : aI m 52 (m.R x 24) (N i) = some (m.I (x + 16) i) := aI_at (h.q 15 rfl).1 (h.q 15 rfl).2 hi (by decide)
theorem yw_isPair {v : Int32} {m : MM} {x i : Nat} (h : LY m x) (hi : i < 128) : sI m 52 (m.R x 24) (N i) v = some (m.putI (x + 16) (up (m.I (x + 16)) i (narT 52 v))) := sI_at (h.q 15 rfl).1 (h.q 15 rfl).2 hi (by decide) h.b2
theorem yr_isLength {m : MM} {x i : Nat} (h : LY m x) (hi : i < 2) : aI m 52 (m.R x 25) (N i) = some (m.I (x + 17) i) := aI_at (h.q 16 rfl).1 (h.q 16 rfl).2 hi (by decide)
theorem yw_isLength {v : Int32} {m : MM} {x i : Nat} (h : LY m x) (hi : i < 2) : sI m 52 (m.R x 25) (N i) v = some (m.putI (x + 17) (up (m.I (x + 17)) i (narT 52 v))) := sI_at (h.q 16 rfl).1 (h.q 16 rfl).2 hi (by decide) h.b2
theorem yr_wName {m : MM} {x i : Nat} (h : LY m x) (hi : i < 16) : aL m (m.R x 26) (N i) = some (m.L (x + 18) i) := aL_at (h.q 17 rfl).1 (h.q 17 rfl).2 hi (by decide)
theorem yw_wName {v : Int64} {m : MM} {x i : Nat} (h : LY m x) (hi : i < 16) : sL m (m.R x 26) (N i) v = some (m.putL (x + 18) (up (m.L (x + 18)) i v)) := sL_at (h.q 17 rfl).1 (h.q 17 rfl).2 hi (by decide) h.b2
theorem yr_rName {m : MM} {x i : Nat} (h : LY m x) (hi : i < 16) : aL m (m.R x 27) (N i) = some (m.L (x + 19) i) := aL_at (h.q 18 rfl).1 (h.q 18 rfl).2 hi (by decide)
theorem yw_rName {v : Int64} {m : MM} {x i : Nat} (h : LY m x) (hi : i < 16) : sL m (m.R x 27) (N i) v = some (m.putL (x + 19) (up (m.L (x + 19)) i v)) := sL_at (h.q 18 rfl).1 (h.q 18 rfl).2 hi (by decide) h.b2
theorem yr_altWord {m : MM} {x i : Nat} (h : LY m x) (hi : i < 192) : aL m (m.R x 28) (N i) = some (m.L (x + 20) i) := aL_at (h.q 19 rfl).1 (h.q 19 rfl).2 hi (by decide)
theorem yw_altWord {v : Int64} {m : MM} {x i : Nat} (h : LY m x) (hi : i < 192) : sL m (m.R x 28) (N i) v = some (m.putL (x + 20) (up (m.L (x + 20)) i v)) := sL_at (h.q 19 rfl).1 (h.q 19 rfl).2 hi (by decide) h.b2
theorem yr_tried {m : MM} {x i : Nat} (h : LY m x) (hi : i < 6) : aI m 50 (m.R x 31) (N i) = some (m.I (x + 21) i) := aI_at (h.q 20 rfl).1 (h.q 20 rfl).2 hi (by decide)
theorem yw_tried {v : Int32} {m : MM} {x i : Nat} (h : LY m x) (hi : i < 6) : sI m 50 (m.R x 31) (N i) v = some (m.putI (x + 21) (up (m.I (x + 21)) i v)) := sI_at (h.q 20 rfl).1 (h.q 20 rfl).2 hi (by decide) h.b2
theorem yr_ends {m : MM} {x i : Nat} (h : LY m x) (hi : i < 56) : aI m 50 (m.R x 32) (N i) = some (m.I (x + 22) i) := aI_at (h.q 21 rfl).1 (h.q 21 rfl).2 hi (by decide)
theorem yw_ends {v : Int32} {m : MM} {x i : Nat} (h : LY m x) (hi : i < 56) : sI m 50 (m.R x 32) (N i) v = some (m.putI (x + 22) (up (m.I (x + 22)) i v)) := sI_at (h.q 21 rfl).1 (h.q 21 rfl).2 hi (by decide) h.b2
theorem yr_waysTo {m : MM} {x i : Nat} (h : LY m x) (hi : i < 448) : aL m (m.R x 33) (N i) = some (m.L (x + 23) i) := aL_at (h.q 22 rfl).1 (h.q 22 rfl).2 hi (by decide)
theorem yw_waysTo {v : Int64} {m : MM} {x i : Nat} (h : LY m x) (hi : i < 448) : sL m (m.R x 33) (N i) v = some (m.putL (x + 23) (up (m.L (x + 23)) i v)) := sL_at (h.q 22 rfl).1 (h.q 22 rfl).2 hi (by decide) h.b2
theorem yr_step {m : MM} {x i : Nat} (h : LY m x) (hi : i < 7) : aL m (m.R x 34) (N i) = some (m.L (x + 24) i) := aL_at (h.q 23 rfl).1 (h.q 23 rfl).2 hi (by decide)
theorem yw_step {v : Int64} {m : MM} {x i : Nat} (h : LY m x) (hi : i < 7) : sL m (m.R x 34) (N i) v = some (m.putL (x + 24) (up (m.L (x + 24)) i v)) := sL_at (h.q 23 rfl).1 (h.q 23 rfl).2 hi (by decide) h.b2
theorem yr_stepNext {m : MM} {x i : Nat} (h : LY m x) (hi : i < 7) : aL m (m.R x 35) (N i) = some (m.L (x + 25) i) := aL_at (h.q 24 rfl).1 (h.q 24 rfl).2 hi (by decide)
theorem yw_stepNext {v : Int64} {m : MM} {x i : Nat} (h : LY m x) (hi : i < 7) : sL m (m.R x 35) (N i) v = some (m.putL (x + 25) (up (m.L (x + 25)) i v)) := sL_at (h.q 24 rfl).1 (h.q 24 rfl).2 hi (by decide) h.b2
theorem yr_row {m : MM} {x i : Nat} (h : LY m x) (hi : i < 6) : aI m 50 (m.R x 36) (N i) = some (m.I (x + 26) i) := aI_at (h.q 25 rfl).1 (h.q 25 rfl).2 hi (by decide)
theorem yw_row {v : Int32} {m : MM} {x i : Nat} (h : LY m x) (hi : i < 6) : sI m 50 (m.R x 36) (N i) v = some (m.putI (x + 26) (up (m.I (x + 26)) i v)) := sI_at (h.q 25 rfl).1 (h.q 25 rfl).2 hi (by decide) h.b2
theorem yr_turnNow {m : MM} {x i : Nat} (h : LY m x) (hi : i < 6) : aI m 50 (m.R x 37) (N i) = some (m.I (x + 27) i) := aI_at (h.q 26 rfl).1 (h.q 26 rfl).2 hi (by decide)
theorem yw_turnNow {v : Int32} {m : MM} {x i : Nat} (h : LY m x) (hi : i < 6) : sI m 50 (m.R x 37) (N i) v = some (m.putI (x + 27) (up (m.I (x + 27)) i v)) := sI_at (h.q 26 rfl).1 (h.q 26 rfl).2 hi (by decide) h.b2
theorem yr_holes {m : MM} {x i : Nat} (h : LY m x) (hi : i < 6) : aI m 50 (m.R x 38) (N i) = some (m.I (x + 28) i) := aI_at (h.q 27 rfl).1 (h.q 27 rfl).2 hi (by decide)
theorem yw_holes {v : Int32} {m : MM} {x i : Nat} (h : LY m x) (hi : i < 6) : sI m 50 (m.R x 38) (N i) v = some (m.putI (x + 28) (up (m.I (x + 28)) i v)) := sI_at (h.q 27 rfl).1 (h.q 27 rfl).2 hi (by decide) h.b2
theorem yr_actPlace {m : MM} {x i : Nat} (h : LY m x) (hi : i < 40) : aI m 50 (m.R x 40) (N i) = some (m.I (x + 29) i) := aI_at (h.q 28 rfl).1 (h.q 28 rfl).2 hi (by decide)
theorem yw_actPlace {v : Int32} {m : MM} {x i : Nat} (h : LY m x) (hi : i < 40) : sI m 50 (m.R x 40) (N i) v = some (m.putI (x + 29) (up (m.I (x + 29)) i v)) := sI_at (h.q 28 rfl).1 (h.q 28 rfl).2 hi (by decide) h.b2
theorem yr_actWhat {m : MM} {x i : Nat} (h : LY m x) (hi : i < 40) : aI m 50 (m.R x 41) (N i) = some (m.I (x + 30) i) := aI_at (h.q 29 rfl).1 (h.q 29 rfl).2 hi (by decide)
theorem yw_actWhat {v : Int32} {m : MM} {x i : Nat} (h : LY m x) (hi : i < 40) : sI m 50 (m.R x 41) (N i) v = some (m.putI (x + 30) (up (m.I (x + 30)) i v)) := sI_at (h.q 29 rfl).1 (h.q 29 rfl).2 hi (by decide) h.b2
theorem yr_list {m : MM} {x i : Nat} (h : LY m x) (hi : i < 3001) : aI m 50 (m.R x 44) (N i) = some (m.I (x + 31) i) := aI_at (h.q 30 rfl).1 (h.q 30 rfl).2 hi (by decide)
theorem yw_list {v : Int32} {m : MM} {x i : Nat} (h : LY m x) (hi : i < 3001) : sI m 50 (m.R x 44) (N i) v = some (m.putI (x + 31) (up (m.I (x + 31)) i v)) := sI_at (h.q 30 rfl).1 (h.q 30 rfl).2 hi (by decide) h.b2
theorem yr_meansTo {m : MM} {x i : Nat} (h : LY m x) (hi : i < 9003) : aI m 50 (m.R x 45) (N i) = some (m.I (x + 32) i) := aI_at (h.q 31 rfl).1 (h.q 31 rfl).2 hi (by decide)
theorem yw_meansTo {v : Int32} {m : MM} {x i : Nat} (h : LY m x) (hi : i < 9003) : sI m 50 (m.R x 45) (N i) v = some (m.putI (x + 32) (up (m.I (x + 32)) i v)) := sI_at (h.q 31 rfl).1 (h.q 31 rfl).2 hi (by decide) h.b2
theorem yr_left {m : MM} {x i : Nat} (h : LY m x) (hi : i < 3001) : aI m 50 (m.R x 46) (N i) = some (m.I (x + 33) i) := aI_at (h.q 32 rfl).1 (h.q 32 rfl).2 hi (by decide)
theorem yw_left {v : Int32} {m : MM} {x i : Nat} (h : LY m x) (hi : i < 3001) : sI m 50 (m.R x 46) (N i) v = some (m.putI (x + 33) (up (m.I (x + 33)) i v)) := sI_at (h.q 32 rfl).1 (h.q 32 rfl).2 hi (by decide) h.b2
theorem yr_leftNext {m : MM} {x i : Nat} (h : LY m x) (hi : i < 3001) : aI m 50 (m.R x 47) (N i) = some (m.I (x + 34) i) := aI_at (h.q 33 rfl).1 (h.q 33 rfl).2 hi (by decide)
theorem yw_leftNext {v : Int32} {m : MM} {x i : Nat} (h : LY m x) (hi : i < 3001) : sI m 50 (m.R x 47) (N i) v = some (m.putI (x + 34) (up (m.I (x + 34)) i v)) := sI_at (h.q 33 rfl).1 (h.q 33 rfl).2 hi (by decide) h.b2
theorem yr_path {m : MM} {x i : Nat} (h : LY m x) (hi : i < 7) : aI m 50 (m.R x 52) (N i) = some (m.I (x + 35) i) := aI_at (h.q 34 rfl).1 (h.q 34 rfl).2 hi (by decide)
theorem yw_path {v : Int32} {m : MM} {x i : Nat} (h : LY m x) (hi : i < 7) : sI m 50 (m.R x 52) (N i) v = some (m.putI (x + 35) (up (m.I (x + 35)) i v)) := sI_at (h.q 34 rfl).1 (h.q 34 rfl).2 hi (by decide) h.b2
theorem yr_playTurn {m : MM} {x i : Nat} (h : LY m x) (hi : i < 6) : aI m 50 (m.R x 53) (N i) = some (m.I (x + 36) i) := aI_at (h.q 35 rfl).1 (h.q 35 rfl).2 hi (by decide)
theorem yw_playTurn {v : Int32} {m : MM} {x i : Nat} (h : LY m x) (hi : i < 6) : sI m 50 (m.R x 53) (N i) v = some (m.putI (x + 36) (up (m.I (x + 36)) i v)) := sI_at (h.q 35 rfl).1 (h.q 35 rfl).2 hi (by decide) h.b2
theorem yr_laidRow {m : MM} {x i : Nat} (h : LY m x) (hi : i < 6) : aI m 50 (m.R x 58) (N i) = some (m.I (x + 37) i) := aI_at (h.q 36 rfl).1 (h.q 36 rfl).2 hi (by decide)
theorem yw_laidRow {v : Int32} {m : MM} {x i : Nat} (h : LY m x) (hi : i < 6) : sI m 50 (m.R x 58) (N i) v = some (m.putI (x + 37) (up (m.I (x + 37)) i v)) := sI_at (h.q 36 rfl).1 (h.q 36 rfl).2 hi (by decide) h.b2
theorem yr_shortestOf {m : MM} {x i : Nat} (h : LY m x) (hi : i < 8) : aI m 50 (m.R x 60) (N i) = some (m.I (x + 38) i) := aI_at (h.q 37 rfl).1 (h.q 37 rfl).2 hi (by decide)
theorem yw_shortestOf {v : Int32} {m : MM} {x i : Nat} (h : LY m x) (hi : i < 8) : sI m 50 (m.R x 60) (N i) v = some (m.putI (x + 38) (up (m.I (x + 38)) i v)) := sI_at (h.q 37 rfl).1 (h.q 37 rfl).2 hi (by decide) h.b2
theorem yr_sPlace {m : MM} {x i : Nat} (h : LY m x) (hi : i < 30) : aI m 50 (m.R x 61) (N i) = some (m.I (x + 39) i) := aI_at (h.q 38 rfl).1 (h.q 38 rfl).2 hi (by decide)
theorem yw_sPlace {v : Int32} {m : MM} {x i : Nat} (h : LY m x) (hi : i < 30) : sI m 50 (m.R x 61) (N i) v = some (m.putI (x + 39) (up (m.I (x + 39)) i v)) := sI_at (h.q 38 rfl).1 (h.q 38 rfl).2 hi (by decide) h.b2
theorem yr_sWord {m : MM} {x i : Nat} (h : LY m x) (hi : i < 30) : aI m 50 (m.R x 62) (N i) = some (m.I (x + 40) i) := aI_at (h.q 39 rfl).1 (h.q 39 rfl).2 hi (by decide)
theorem yw_sWord {v : Int32} {m : MM} {x i : Nat} (h : LY m x) (hi : i < 30) : sI m 50 (m.R x 62) (N i) v = some (m.putI (x + 40) (up (m.I (x + 40)) i v)) := sI_at (h.q 39 rfl).1 (h.q 39 rfl).2 hi (by decide) h.b2
theorem yr_sTold {m : MM} {x i : Nat} (h : LY m x) (hi : i < 30) : aI m 50 (m.R x 63) (N i) = some (m.I (x + 41) i) := aI_at (h.q 40 rfl).1 (h.q 40 rfl).2 hi (by decide)
theorem yw_sTold {v : Int32} {m : MM} {x i : Nat} (h : LY m x) (hi : i < 30) : sI m 50 (m.R x 63) (N i) v = some (m.putI (x + 41) (up (m.I (x + 41)) i v)) := sI_at (h.q 40 rfl).1 (h.q 40 rfl).2 hi (by decide) h.b2
theorem yr_sUntold {m : MM} {x i : Nat} (h : LY m x) (hi : i < 30) : aI m 50 (m.R x 64) (N i) = some (m.I (x + 42) i) := aI_at (h.q 41 rfl).1 (h.q 41 rfl).2 hi (by decide)
theorem yw_sUntold {v : Int32} {m : MM} {x i : Nat} (h : LY m x) (hi : i < 30) : sI m 50 (m.R x 64) (N i) v = some (m.putI (x + 42) (up (m.I (x + 42)) i v)) := sI_at (h.q 41 rfl).1 (h.q 41 rfl).2 hi (by decide) h.b2
theorem yr_sStood {m : MM} {x i : Nat} (h : LY m x) (hi : i < 30) : aI m 52 (m.R x 65) (N i) = some (m.I (x + 43) i) := aI_at (h.q 42 rfl).1 (h.q 42 rfl).2 hi (by decide)
theorem yw_sStood {v : Int32} {m : MM} {x i : Nat} (h : LY m x) (hi : i < 30) : sI m 52 (m.R x 65) (N i) v = some (m.putI (x + 43) (up (m.I (x + 43)) i (narT 52 v))) := sI_at (h.q 42 rfl).1 (h.q 42 rfl).2 hi (by decide) h.b2
theorem yr_boxMany {m : MM} {x i : Nat} (h : LY m x) (hi : i < 3) : aI m 50 (m.R x 68) (N i) = some (m.I (x + 44) i) := aI_at (h.q 43 rfl).1 (h.q 43 rfl).2 hi (by decide)
theorem yw_boxMany {v : Int32} {m : MM} {x i : Nat} (h : LY m x) (hi : i < 3) : sI m 50 (m.R x 68) (N i) v = some (m.putI (x + 44) (up (m.I (x + 44)) i v)) := sI_at (h.q 43 rfl).1 (h.q 43 rfl).2 hi (by decide) h.b2
theorem yr_boxRow {m : MM} {x i : Nat} (h : LY m x) (hi : i < 18) : aI m 50 (m.R x 69) (N i) = some (m.I (x + 45) i) := aI_at (h.q 44 rfl).1 (h.q 44 rfl).2 hi (by decide)
theorem yw_boxRow {v : Int32} {m : MM} {x i : Nat} (h : LY m x) (hi : i < 18) : sI m 50 (m.R x 69) (N i) v = some (m.putI (x + 45) (up (m.I (x + 45)) i v)) := sI_at (h.q 44 rfl).1 (h.q 44 rfl).2 hi (by decide) h.b2
theorem yr_boxTurn {m : MM} {x i : Nat} (h : LY m x) (hi : i < 18) : aI m 50 (m.R x 70) (N i) = some (m.I (x + 46) i) := aI_at (h.q 45 rfl).1 (h.q 45 rfl).2 hi (by decide)
theorem yw_boxTurn {v : Int32} {m : MM} {x i : Nat} (h : LY m x) (hi : i < 18) : sI m 50 (m.R x 70) (N i) v = some (m.putI (x + 46) (up (m.I (x + 46)) i v)) := sI_at (h.q 45 rfl).1 (h.q 45 rfl).2 hi (by decide) h.b2
