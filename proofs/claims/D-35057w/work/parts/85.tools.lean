/-! how the words of a body are worked out -/
theorem dx_app {a b : Option ax_R} {r : ax_R} (h : dx_le a b) (ha : a = some r) : b = some r := h r ha
theorem lt_at {α : Type} {x : α} {E : α → Option ax_R} : dx_lt x E = E x := rfl
theorem nn_ref {o : Nat} {E : Option ax_R} : dx_nn (.ref o) E = E := rfl
theorem cI_v {x : Int32} {h : ax_H} {F : Int32 → ax_H → Option ax_R} {X : Nat → ax_H → Option ax_R} : dx_cI (some (.inl (some (.int x)), h)) F X = F x h := rfl
theorem cV_v {h : ax_H} {F : ax_H → Option ax_R} {X : Nat → ax_H → Option ax_R} : dx_cV (some (.inl none, h)) F X = F h := rfl
theorem cJ_v {x : Int64} {h : ax_H} {F : Int64 → ax_H → Option ax_R} {X : Nat → ax_H → Option ax_R} : dx_cJ (some (.inl (some (.long x)), h)) F X = F x h := rfl
theorem cR_r {a : Nat} {h : ax_H} {F : Value → ax_H → Option ax_R} {X : Nat → ax_H → Option ax_R} : dx_cR (some (.inl (some (.ref a)), h)) F X = F (.ref a) h := rfl
theorem cR_n {h : ax_H} {F : Value → ax_H → Option ax_R} {X : Nat → ax_H → Option ax_R} : dx_cR (some (.inl (some .null), h)) F X = F .null h := rfl
theorem cI_x {i : Nat} {h : ax_H} {F : Int32 → ax_H → Option ax_R} {X : Nat → ax_H → Option ax_R} : dx_cI (some (.inr i, h)) F X = X i h := rfl
theorem cV_x {i : Nat} {h : ax_H} {F : ax_H → Option ax_R} {X : Nat → ax_H → Option ax_R} : dx_cV (some (.inr i, h)) F X = X i h := rfl
theorem cJ_x {i : Nat} {h : ax_H} {F : Int64 → ax_H → Option ax_R} {X : Nat → ax_H → Option ax_R} : dx_cJ (some (.inr i, h)) F X = X i h := rfl
theorem cR_x {i : Nat} {h : ax_H} {F : Value → ax_H → Option ax_R} {X : Nat → ax_H → Option ax_R} : dx_cR (some (.inr i, h)) F X = X i h := rfl
theorem nul_ref {o : Nat} {A B : Option ax_R} : dx_nul (.ref o) A B = B := rfl
theorem nul_null {A B : Option ax_R} : dx_nul .null A B = A := rfl
/-! small numbers -/
theorem i_toInt {k : Nat} (h : k < 2 ^ 31) : (Int32.ofNat k).toInt = k := Int32.toInt_ofNat_of_lt h
theorem i_nat {k : Nat} (h : k < 2 ^ 31) : (Int32.ofNat k).toNatClampNeg = k := by
  show (Int32.ofNat k).toInt.toNat = k
  rw [i_toInt h]; rfl
theorem i_lt {a b : Nat} (ha : a < 2 ^ 31) (hb : b < 2 ^ 31) : Int32.ofNat a < Int32.ofNat b ↔ a < b := by
  rw [Int32.lt_iff_toInt_lt, i_toInt ha, i_toInt hb]; omega
theorem i_le {a b : Nat} (ha : a < 2 ^ 31) (hb : b < 2 ^ 31) : Int32.ofNat a ≤ Int32.ofNat b ↔ a ≤ b := by
  rw [Int32.le_iff_toInt_le, i_toInt ha, i_toInt hb]; omega
theorem i_eq {a b : Nat} (ha : a < 2 ^ 31) (hb : b < 2 ^ 31) : Int32.ofNat a = Int32.ofNat b ↔ a = b := by
  rw [← Int32.toInt_inj, i_toInt ha, i_toInt hb]; omega
theorem i_add (a b : Nat) : Int32.ofNat a + Int32.ofNat b = Int32.ofNat (a + b) := (Int32.ofNat_add a b).symm
theorem i_mul (a b : Nat) : Int32.ofNat a * Int32.ofNat b = Int32.ofNat (a * b) := (Int32.ofNat_mul a b).symm
theorem i_sub {a b : Nat} (h : b ≤ a) : Int32.ofNat a - Int32.ofNat b = Int32.ofNat (a - b) := by
  have e : Int32.ofNat a = Int32.ofNat (a - b) + Int32.ofNat b := by rw [i_add, Nat.sub_add_cancel h]
  rw [e, Int32.add_sub_cancel]
theorem ix_of {n k : Nat} {i : Int32} (hi : i = Int32.ofNat k) (hk : k < n) (hn : n ≤ 2147483648) : ix n i = some k := by
  subst hi; exact ix_ofNat hk (by omega)
theorem d_succ {d k : Nat} (h : k + 1 ≤ d) : ∃ e, d = e + 1 ∧ k ≤ e := ⟨d - 1, by omega, by omega⟩
