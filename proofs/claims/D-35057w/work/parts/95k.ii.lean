/-! class and twin alike: the word behind an instruction's first one -/
/- with AR.g RB.mem RB.reg secS secC -/
section SEC
variable {n : Nat} {w : Int32} {s0 s : Nat → Nat → Int32} {M : Nat → Prop} {c : Nat → Int32}
theorem sec_eq (A : AR n w s0 M c s) (C : WC c) {v : Nat} (hv : v < 65536) (h3 : nn (c 3) + 1 < 256) : secS s (Int32.ofNat v) (s 25 (nn (c 3) + 1)) = Int32.ofNat (secC c v) ∧ secC c v < 65536 := by
  obtain ⟨a1, a2⟩ := rg.nat (C.2.2.2.2.2.1 (nn (c 3) + 1) h3)
  obtain ⟨b1, b2⟩ := rg.nat (C.2.2.1 (v % 4) (by omega))
  have m : s 25 (nn (c 3) + 1) = c (108 + (nn (c 3) + 1)) := A.1.mem h3
  have e1 : dx_rem (Int32.ofNat v / 4) 4 = Int32.ofNat (v / 4 % 4) := by rw [show Int32.ofNat v / 4 = Int32.ofNat (v / 4) from div_nat (b := 4) (by omega) (by omega)]; exact rem_nat (b := 4) (by omega) (by omega)
  have e2 : dx_rem (Int32.ofNat v) 4 = Int32.ofNat (v % 4) := rem_nat (b := 4) (by omega) (by omega)
  unfold secS secC
  rw [e1, e2, m, show 108 + nn (c 3) + 1 = 108 + (nn (c 3) + 1) by omega]
  by_cases q : v / 4 % 4 = v % 4
  · rw [if_pos q, if_pos (by rw [q])]
    exact ⟨a2, by omega⟩
  · rw [if_neg q, if_neg (fun z => q ((i_eq (by omega) (by omega)).mp z)), show (Int32.ofNat (v % 4)).toNatClampNeg = v % 4 from i_nat (by omega), A.1.reg (a := v % 4) (by omega), b2, nn_of (by omega)]
    refine ⟨?_, Nat.mod_lt _ (by omega)⟩
    rw [a2, nn_of (by omega), i_add]
    exact rem_nat (b := 65536) (by omega) (by omega)
end SEC
