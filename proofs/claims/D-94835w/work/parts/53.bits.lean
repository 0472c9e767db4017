/-! sets of small numbers as bits; what is tried *-/
set_option maxRecDepth 100000
theorem N_toBV {n : Nat} : (N n).toBitVec = BitVec.ofNat 32 n := by
  unfold N
  simp
theorem N_or {a b : Nat} : N a ||| N b = N (a ||| b) := by
  apply Int32.toBitVec_inj.mp
  rw [Int32.toBitVec_or, N_toBV, N_toBV, N_toBV]
  apply BitVec.eq_of_toNat_eq
  simp [Nat.or_mod_two_pow]
theorem N_and {a b : Nat} : N a &&& N b = N (a &&& b) := by
  apply Int32.toBitVec_inj.mp
  rw [Int32.toBitVec_and, N_toBV, N_toBV, N_toBV]
  apply BitVec.eq_of_toNat_eq
  simp [Nat.and_mod_two_pow]
theorem bv_smod {k : Nat} (hk : k < 32) : (BitVec.ofNat 32 k).smod 32 = BitVec.ofNat 32 k := by
  have h : ∀ j : Fin 32, (BitVec.ofNat 32 j.val).smod 32 = BitVec.ofNat 32 j.val := by decide +kernel
  exact h ⟨k, hk⟩
theorem N_shl {a k : Nat} (hk : k < 32) : ji_shl (N a) (N k) = N (a <<< k) := by
  unfold ji_shl
  have e : N k &&& 31 = N k := by
    have h : (31 : Int32) = N 31 := rfl
    rw [h, N_and]
    congr 1
    have : k &&& (2 ^ 5 - 1) = k % 2 ^ 5 := Nat.and_two_pow_sub_one_eq_mod k 5
    have h2 : k &&& 31 = k % 32 := this
    rw [h2, Nat.mod_eq_of_lt hk]
  rw [e]
  apply Int32.toBitVec_inj.mp
  rw [Int32.toBitVec_shiftLeft, N_toBV, N_toBV, N_toBV]
  apply BitVec.eq_of_toNat_eq
  have := bv_smod hk
  rw [this]
  simp [Nat.mod_eq_of_lt (show k < 4294967296 by omega), Nat.shiftLeft_eq, Nat.mul_mod]
theorem N_shr {a k : Nat} (ha : a ≤ 2147483647) (hk : k < 32) : ji_shr (N a) (N k) = N (a >>> k) := by
  unfold ji_shr
  have e : N k &&& 31 = N k := by
    have h : (31 : Int32) = N 31 := rfl
    rw [h, N_and]
    congr 1
    have : k &&& (2 ^ 5 - 1) = k % 2 ^ 5 := Nat.and_two_pow_sub_one_eq_mod k 5
    have h2 : k &&& 31 = k % 32 := this
    rw [h2, Nat.mod_eq_of_lt hk]
  rw [e]
  apply Int32.toInt_inj.mp
  have hd : a >>> k ≤ a := by rw [Nat.shiftRight_eq_div_pow]; exact Nat.div_le_self _ _
  rw [N_toInt (by omega)]
  have h1 : (N a >>> N k).toInt = (N a).toInt >>> k := by
    rw [← Int32.toInt_toBitVec, Int32.toBitVec_shiftRight, N_toBV, N_toBV]
    have := bv_smod hk
    rw [this]
    rw [BitVec.sshiftRight_eq', BitVec.toInt_sshiftRight, ← N_toBV, Int32.toInt_toBitVec]
    simp [Nat.mod_eq_of_lt (show k < 4294967296 by omega)]
  rw [h1, N_toInt ha]
  rfl
/-- the bit at k -/
theorem N_bit {a k : Nat} (ha : a ≤ 2147483647) (hk : k < 32) : (ji_shr (N a) (N k) &&& 1 = 1) ↔ a.testBit k = true := by
  have h : (1 : Int32) = N 1 := rfl
  have hd : a >>> k ≤ a := by rw [Nat.shiftRight_eq_div_pow]; exact Nat.div_le_self _ _
  rw [N_shr ha hk, h, N_and, N_eq (Nat.le_trans Nat.and_le_left (by omega)) (by omega)]
  unfold Nat.testBit
  rw [Nat.and_comm]
  have : 1 &&& a >>> k ≤ 1 := Nat.and_le_left
  constructor
  · intro h; rw [h]; rfl
  · intro h
    have : (1 &&& a >>> k) ≠ 0 := by simpa using h
    omega
def pv : Option Nat → Int32
  | none => -1
  | some w => N w
