/-! small numbers: shifts and bits -/
theorem shr_nat {k j : Nat} (hk : k < 2 ^ 31) (hj : j < 32) : dx_shr (Int32.ofNat k) (Int32.ofNat j) = Int32.ofNat (k / 2 ^ j) := by
  have e : ∀ j, j < 32 → ((Int32.ofNat j &&& 31).toBitVec.smod (32 : BitVec 32)) = BitVec.ofNat 32 j := by decide
  apply Int32.toBitVec_inj.mp
  show (Int32.ofNat k >>> (Int32.ofNat j &&& 31)).toBitVec = _
  rw [Int32.toBitVec_shiftRight, e j hj, BitVec.sshiftRight_eq', BitVec.toNat_ofNat, Nat.mod_eq_of_lt (by omega)]
  have m : (Int32.ofNat k).toBitVec.msb = false := by
    show (BitVec.ofNat 32 k).msb = false
    rw [BitVec.msb_eq_decide, BitVec.toNat_ofNat]
    simp
    omega
  rw [BitVec.sshiftRight_eq_of_msb_false m]
  apply BitVec.eq_of_toNat_eq
  show ((BitVec.ofNat 32 k) >>> j).toNat = (BitVec.ofNat 32 (k / 2 ^ j)).toNat
  rw [BitVec.toNat_ushiftRight, BitVec.toNat_ofNat, BitVec.toNat_ofNat, Nat.shiftRight_eq_div_pow, Nat.mod_eq_of_lt (by omega), Nat.mod_eq_of_lt]
  exact Nat.lt_of_le_of_lt (Nat.div_le_self _ _) (by omega)
theorem and_nat {a b : Nat} (ha : a < 2 ^ 32) (hb : b < 2 ^ 32) : Int32.ofNat a &&& Int32.ofNat b = Int32.ofNat (a &&& b) := by
  apply Int32.toBitVec_inj.mp
  apply BitVec.eq_of_toNat_eq
  show (BitVec.ofNat 32 a &&& BitVec.ofNat 32 b).toNat = (BitVec.ofNat 32 (a &&& b)).toNat
  rw [BitVec.toNat_and, BitVec.toNat_ofNat, BitVec.toNat_ofNat, BitVec.toNat_ofNat, Nat.mod_eq_of_lt ha, Nat.mod_eq_of_lt hb, Nat.mod_eq_of_lt]
  exact Nat.lt_of_le_of_lt Nat.and_le_left ha
theorem and3_nat {a : Nat} (ha : a < 2 ^ 32) : Int32.ofNat a &&& 3 = Int32.ofNat (a % 4) := by
  rw [show (3 : Int32) = Int32.ofNat 3 from rfl, and_nat ha (by omega), show (3 : Nat) = 2 ^ 2 - 1 from rfl, Nat.and_two_pow_sub_one_eq_mod]
theorem and1_nat {a : Nat} (ha : a < 2 ^ 32) : Int32.ofNat a &&& 1 = Int32.ofNat (a % 2) := by
  rw [show (1 : Int32) = Int32.ofNat 1 from rfl, and_nat ha (by omega), show (1 : Nat) = 2 ^ 1 - 1 from rfl, Nat.and_two_pow_sub_one_eq_mod]
theorem div_nat {a b : Nat} (ha : a < 2 ^ 31) (hb : b < 2 ^ 31) : Int32.ofNat a / Int32.ofNat b = Int32.ofNat (a / b) := by
  have hd : a / b < 2 ^ 31 := Nat.lt_of_le_of_lt (Nat.div_le_self _ _) ha
  rw [← Int32.toInt_inj, Int32.toInt_div, i_toInt ha, i_toInt hb, i_toInt hd, show ((a : Int).tdiv (b : Int)) = ((a / b : Nat) : Int) from rfl]
  generalize a / b = q at hd
  unfold Int.bmod
  dsimp only
  split <;> omega
theorem rem_nat {a b : Nat} (ha : a < 2 ^ 31) (hb : b < 2 ^ 31) : dx_rem (Int32.ofNat a) (Int32.ofNat b) = Int32.ofNat (a % b) := by
  show Int32.ofNat a - Int32.ofNat a / Int32.ofNat b * Int32.ofNat b = _
  rw [div_nat ha hb, i_mul, i_sub (Nat.div_mul_le_self a b)]
  congr 1
  have := Nat.div_add_mod a b
  rw [Nat.mul_comm] at this
  omega
theorem i2c_nat {a : Nat} : dx_i2c (Int32.ofNat a) = Int32.ofNat (a % 65536) := by
  apply Int32.toBitVec_inj.mp
  apply BitVec.eq_of_toNat_eq
  show ((Int32.ofNat a).toUInt32 % 65536).toNat = (BitVec.ofNat 32 (a % 65536)).toNat
  rw [UInt32.toNat_mod, BitVec.toNat_ofNat]
  show (BitVec.ofNat 32 a).toNat % 65536 = _
  rw [BitVec.toNat_ofNat]
  omega
