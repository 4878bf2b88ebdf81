/-! digits of a path, bits of a number -/
def dig (z : Int) (k : Nat) : Int := z / 16 ^ k % 16
theorem bv_ofInt_toInt (z : Int) : (Int32.ofInt z).toBitVec.toNat = (z % 4294967296).toNat := by
  show (BitVec.ofInt 32 z).toNat = _
  rw [BitVec.toNat_ofInt]; rfl
theorem i32_small (x : Int32) (n : Nat) (h : x.toBitVec.toNat = n) (hn : n < 2147483648) : x.toInt = (n : Int) := by
  rw [← Int32.toInt_toBitVec, BitVec.toInt_eq_toNat_cond, h, if_pos (by omega)]
theorem and15 (z : Int) : (Int32.ofInt z &&& Int32.ofInt 15).toInt = z % 16 := by
  have h : (Int32.ofInt z &&& Int32.ofInt 15).toBitVec.toNat = (z % 16).toNat := by
    rw [Int32.toBitVec_and, BitVec.toNat_and, bv_ofInt_toInt]
    show _ &&& 15 = _
    rw [show (15:Nat) = 2^4 - 1 from rfl, Nat.and_two_pow_sub_one_eq_mod]
    omega
  rw [i32_small _ _ h (by omega)]
  omega
theorem i32_mod (x : Int32) : x.toInt % 65536 = ((x.toBitVec.toNat % 65536 : Nat) : Int) := by
  rw [← Int32.toInt_toBitVec, BitVec.toInt_eq_toNat_cond]
  split <;> omega
theorem ushr15 (z : Int) (k : Nat) (hk : k < 4) : (Int32.ofInt ((Int32.ofInt z).toUInt32 >>> ((Int32.ofInt (4 * (k:Int))).toUInt32 &&& Int32.toUInt32 31)).toInt32.toInt &&& Int32.ofInt 15).toInt = dig z k := by
  rw [and15]
  have e : ((Int32.ofInt z).toUInt32 >>> ((Int32.ofInt (4 * (k:Int))).toUInt32 &&& Int32.toUInt32 31)).toInt32.toBitVec.toNat = (z % 4294967296).toNat / 16 ^ k := by
    show ((Int32.ofInt z).toUInt32 >>> ((Int32.ofInt (4 * (k:Int))).toUInt32 &&& Int32.toUInt32 31)).toNat = _
    rw [UInt32.toNat_shiftRight]
    have : ((Int32.ofInt (4 * (k:Int))).toUInt32 &&& Int32.toUInt32 31).toNat % 32 = 4 * k := by
      rcases (by omega : k = 0 ∨ k = 1 ∨ k = 2 ∨ k = 3) with h | h | h | h <;> subst h <;> rfl
    rw [this, Nat.shiftRight_eq_div_pow, Nat.pow_mul]
    show (Int32.ofInt z).toBitVec.toNat / _ = _
    rw [bv_ofInt_toInt]
  have e2 := i32_mod ((Int32.ofInt z).toUInt32 >>> ((Int32.ofInt (4 * (k:Int))).toUInt32 &&& Int32.toUInt32 31)).toInt32
  rw [e] at e2
  unfold dig
  rcases (by omega : k = 0 ∨ k = 1 ∨ k = 2 ∨ k = 3) with h | h | h | h <;> subst h <;> simp only [Nat.reducePow, Int.reducePow] at e2 ⊢ <;> omega
theorem bmod_sm (z : Int) : (Int32.ofInt z).toInt = (z + 2147483648) % 4294967296 - 2147483648 := by
  rw [Int32.toInt_ofInt]
  show Int.bmod z 4294967296 = _
  simp only [Int.bmod]
  omega
theorem ishr_val (z : Int) (k : Nat) (hk : k < 8) : (Int32.ofInt z >>> (Int32.ofInt (4 * (k:Int)) &&& 31)).toInt = (Int32.ofInt z).toInt / 16 ^ k := by
  rw [← Int32.toInt_toBitVec, Int32.toBitVec_shiftRight]
  rcases (by omega : k = 0 ∨ k = 1 ∨ k = 2 ∨ k = 3 ∨ k = 4 ∨ k = 5 ∨ k = 6 ∨ k = 7) with h | h | h | h | h | h | h | h <;> subst h <;>
  · show (BitVec.sshiftRight' _ _).toInt = _
    rw [BitVec.toInt_sshiftRight', Int.shiftRight_eq_div_pow]
    rfl
theorem shr15 (z : Int) (k : Nat) (hk : k < 4) : (Int32.ofInt (Int32.ofInt z >>> (Int32.ofInt (4 * (k:Int)) &&& 31)).toInt &&& Int32.ofInt 15).toInt = dig z k := by
  rw [and15, ishr_val z k (by omega), bmod_sm]
  unfold dig
  rcases (by omega : k = 0 ∨ k = 1 ∨ k = 2 ∨ k = 3) with h | h | h | h <;> subst h <;> simp only [Int.reducePow] <;> omega
theorem shr16 (z : Int) (hz : -2147483648 ≤ z ∧ z ≤ 2147483647) : (Int32.ofInt z >>> (Int32.ofInt 16 &&& 31)).toInt = z / 65536 := by
  have := ishr_val z 4 (by omega)
  rw [bmod_sm] at this
  rw [show (4 * ((4 : Nat) : Int)) = 16 from rfl] at this
  rw [this]
  simp only [Int.reducePow]
  omega
theorem ushr16 (z : Int) (hz : -2147483648 ≤ z ∧ z ≤ 2147483647) : ((Int32.ofInt z).toUInt32 >>> ((Int32.ofInt 16).toUInt32 &&& Int32.toUInt32 31)).toInt32.toInt = (z % 4294967296) / 65536 := by
  have e : ((Int32.ofInt z).toUInt32 >>> ((Int32.ofInt 16).toUInt32 &&& Int32.toUInt32 31)).toInt32.toBitVec.toNat = (z % 4294967296).toNat / 65536 := by
    show ((Int32.ofInt z).toUInt32 >>> ((Int32.ofInt 16).toUInt32 &&& Int32.toUInt32 31)).toNat = _
    rw [UInt32.toNat_shiftRight]
    have : ((Int32.ofInt 16).toUInt32 &&& Int32.toUInt32 31).toNat % 32 = 16 := rfl
    rw [this, Nat.shiftRight_eq_div_pow]
    show (Int32.ofInt z).toBitVec.toNat / _ = _
    rw [bv_ofInt_toInt]
  rw [i32_small _ _ e (by omega)]
  omega
