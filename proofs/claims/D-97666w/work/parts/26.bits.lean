/-! bits of numbers -/
set_option maxRecDepth 100000
theorem nI_or (a b : Nat) : nI a ||| nI b = nI (a ||| b) := by
  apply Int32.toBitVec_inj.mp
  show BitVec.ofNat 32 a ||| BitVec.ofNat 32 b = BitVec.ofNat 32 (a ||| b)
  apply BitVec.eq_of_getLsbD_eq
  intro i hi
  simp [BitVec.getLsbD_ofNat, hi]
theorem nI_and (a b : Nat) : nI a &&& nI b = nI (a &&& b) := by
  apply Int32.toBitVec_inj.mp
  show BitVec.ofNat 32 a &&& BitVec.ofNat 32 b = BitVec.ofNat 32 (a &&& b)
  apply BitVec.eq_of_getLsbD_eq
  intro i hi
  simp [BitVec.getLsbD_ofNat, hi]
theorem nI_xor (a b : Nat) : nI a ^^^ nI b = nI (a ^^^ b) := by
  apply Int32.toBitVec_inj.mp
  show BitVec.ofNat 32 a ^^^ BitVec.ofNat 32 b = BitVec.ofNat 32 (a ^^^ b)
  apply BitVec.eq_of_getLsbD_eq
  intro i hi
  simp [BitVec.getLsbD_ofNat, hi]
theorem or_sum {a b : Nat} (h : a < 2 ^ b) : nI a ||| nI (2 ^ b) = nI (a + 2 ^ b) := by
  rw [nI_or]
  have := Nat.two_pow_add_eq_or_of_lt h 1
  rw [Nat.mul_one] at this
  rw [Nat.or_comm, ← this, Nat.add_comm]
theorem or_0 (x : Int32) : x ||| 0 = x := by simp
theorem clr_ok2 {L b : Nat} (hL : L < 64) (hb : b < 6) : (nI L &&& (nI (2 ^ b) ^^^ (-1))) = nI (clr L b) := by
  rw [← shl_one_ b (by omega)]; exact clr_ok hL hb
theorem pow_lt {b : Nat} (hb : b < 8) : 2 ^ b < 2147483648 := by
  have := Nat.pow_le_pow_right (n := 2) (by omega) (show b ≤ 7 by omega)
  omega
theorem pow_le64 {b : Nat} (hb : b ≤ 6) : 2 ^ b ≤ 64 := by
  have := Nat.pow_le_pow_right (n := 2) (by omega) hb
  omega
theorem shl_1 {b : Nat} (hb : b < 8) : (1 : Int32) <<< (nI b &&& 31) = nI (2 ^ b) := shl_one_ b hb
theorem shl_0 {b : Nat} (hb : b < 8) : (0 : Int32) <<< (nI b &&& 31) = 0 := or_zero_ b hb
theorem nI0 {a : Nat} (h : a = 0) : (0 : Int32) = nI a := by rw [h]; rfl
