/-! bits of numbers -/
def bt (x : Int32) (k : Nat) : Bool := x.toBitVec.getLsbD k
theorem bt_or (x y : Int32) (k : Nat) : bt (x ||| y) k = (bt x k || bt y k) := by
  unfold bt
  rw [Int32.toBitVec_or, BitVec.getLsbD_or]
theorem bt_and (x y : Int32) (k : Nat) : bt (x &&& y) k = (bt x k && bt y k) := by
  unfold bt
  rw [Int32.toBitVec_and, BitVec.getLsbD_and]
theorem bt_ext {x y : Int32} (h : ∀ k, k < 32 → bt x k = bt y k) : x = y := by
  apply Int32.toBitVec_inj.mp
  exact BitVec.eq_of_getLsbD_eq h
theorem bt_shl1 : ∀ j, j < 32 → ∀ k, k < 32 → bt (dx_shl 1 (Int32.ofNat j)) k = decide (k = j) := by decide +kernel
theorem bt_lo : ∀ k, k < 32 → bt 65535 k = decide (k < 16) := by decide +kernel
theorem bt_255 : ∀ k, k < 32 → bt 255 k = decide (k < 8) := by decide +kernel
theorem bt_one : ∀ k, k < 32 → bt 1 k = decide (k = 0) := by decide +kernel
theorem bt_zero : ∀ k, k < 32 → bt 0 k = false := by decide +kernel
theorem bt_small {n k : Nat} (hn : n < 65536) (hk : 16 ≤ k) : bt (Int32.ofNat n) k = false := by
  unfold bt
  show (BitVec.ofNat 32 n).getLsbD k = false
  rw [BitVec.getLsbD_ofNat, Nat.testBit_lt_two_pow (Nat.lt_of_lt_of_le hn (Nat.pow_le_pow_right (n := 2) (by omega) hk)), Bool.and_false]
theorem sh_amt : ∀ k, k < 32 → (Int32.ofNat k &&& 31).toBitVec.smod 32 = BitVec.ofNat 32 k := by decide +kernel
theorem bt_shr {x : Int32} {k : Nat} (hk : k < 32) : bt (dx_shr x (Int32.ofNat k)) 0 = bt x k := by
  unfold bt
  show (x >>> (Int32.ofNat k &&& 31)).toBitVec.getLsbD 0 = _
  rw [Int32.toBitVec_shiftRight, show (Int32.ofNat k &&& 31).toBitVec.smod 32 = BitVec.ofNat 32 k from sh_amt k hk, BitVec.sshiftRight_eq', BitVec.toNat_ofNat, Nat.mod_eq_of_lt (by omega), BitVec.getLsbD_sshiftRight]
  simp [hk]
theorem bt_and1 (x : Int32) : (x &&& 1 = 0 ↔ bt x 0 = false) ∧ (x &&& 1 = 1 ↔ bt x 0 = true) := by
  have z : bt (x &&& 1) 0 = bt x 0 := by rw [bt_and, bt_one 0 (by omega)]; simp
  have e : ∀ k, k < 32 → k ≠ 0 → bt (x &&& 1) k = false := fun k hk h0 => by rw [bt_and, bt_one k hk]; simp [h0]
  constructor <;> constructor
  · intro y; rw [← z, y]; exact bt_zero 0 (by omega)
  · intro y
    refine bt_ext fun k hk => ?_
    by_cases k0 : k = 0
    · rw [k0, z, y, bt_zero 0 (by omega)]
    · rw [e k hk k0, bt_zero k hk]
  · intro y; rw [← z, y]; exact bt_one 0 (by omega)
  · intro y
    refine bt_ext fun k hk => ?_
    by_cases k0 : k = 0
    · rw [k0, z, y, bt_one 0 (by omega)]; rfl
    · rw [e k hk k0, bt_one k hk]; simp [k0]
theorem bt_sh {x : Int32} {k : Nat} (hk : k < 32) : (dx_shr x (Int32.ofNat k) &&& 1 = 0 ↔ bt x k = false) ∧ (dx_shr x (Int32.ofNat k) &&& 1 = 1 ↔ bt x k = true) := by
  have := bt_and1 (dx_shr x (Int32.ofNat k))
  rw [bt_shr hk] at this
  exact this
theorem bt_used {D : Nat → Int32} {b : Nat} (hb : b < 32) : usedF D b = 1 ↔ bt (D (32 + b / 16)) (b % 16) = true := by
  unfold usedF
  rw [← (bt_sh (x := D (32 + b / 16)) (k := b % 16) (by omega)).2]
  split
  · rename_i z; exact ⟨fun _ => z, fun _ => rfl⟩
  · rename_i z; exact ⟨fun y => absurd y (by decide), fun y => absurd y z⟩
theorem bt_ushr {x : Int32} {k : Nat} (hk : k < 32) : bt (dx_ushr x 16) k = if k < 16 then bt x (16 + k) else false := by
  unfold bt
  show ((x.toUInt32 >>> (16 : UInt32)).toInt32).toBitVec.getLsbD k = _
  have : ((x.toUInt32 >>> (16 : UInt32)).toInt32).toBitVec = x.toBitVec >>> 16 := by
    show (x.toUInt32 >>> (16 : UInt32)).toBitVec = _
    rw [UInt32.toBitVec_shiftRight]
    rfl
  rw [this, BitVec.getLsbD_ushiftRight]
  split
  · rfl
  · exact BitVec.getLsbD_of_ge _ _ (by omega)
theorem bt_words {v x y : Int32} {m n : Nat} (hx : x = Int32.ofNat m) (hy : y = Int32.ofNat n) (hm : m < 65536) (hn : n < 65536) : (x = v &&& 65535 ∧ y = dx_ushr v 16) ↔ ∀ k, k < 16 → bt x k = bt v k ∧ bt y k = bt v (16 + k) := by
  constructor
  · rintro ⟨e1, e2⟩ k hk
    constructor
    · rw [e1, bt_and, bt_lo k (by omega)]; simp [hk]
    · rw [e2, bt_ushr (by omega), if_pos hk]
  · intro e
    constructor
    · refine bt_ext fun k hk => ?_
      rw [bt_and, bt_lo k hk]
      by_cases z : k < 16
      · rw [(e k z).1]; simp [z]
      · rw [hx, bt_small hm (by omega)]; simp [z]
    · refine bt_ext fun k hk => ?_
      rw [bt_ushr hk]
      by_cases z : k < 16
      · rw [(e k z).2, if_pos z]
      · rw [hy, bt_small hn (by omega), if_neg z]
