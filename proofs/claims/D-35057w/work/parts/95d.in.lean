/-! class and twin alike: reckoning, moving -/
/- with AR.up AR.mem AR.tap AR.eqc AR.eqs RB.sml RB.mem RB.reg reckS jumpS fF_reg fF_mem -/
theorem AR.g {n : Nat} {w : Int32} {s0 s : Nat → Nat → Int32} {M : Nat → Prop} {c : Nat → Int32} (A : AR n w s0 M c s) {p : Nat} (h : p < 18) : s (fF p) (fI p) = c p := A.1.sml h
theorem AR.reg {n : Nat} {w : Int32} {s0 s : Nat → Nat → Int32} {M : Nat → Prop} {c : Nat → Int32} {x : Int32} (A : AR n w s0 M c s) {r : Nat} (h : r < 4) : AR n w s0 M (upd c (12 + r) x) (tw_up s 26 r x) := A.up (Or.inl (by omega)) (fF_reg h).1 (fF_reg h).2
section INS
variable {n : Nat} {w : Int32} {s0 s : Nat → Nat → Int32} {M : Nat → Prop} {c : Nat → Int32}
/-- flags are 0 or 1 -/
def F01 (c : Nat → Int32) : Prop := ∀ p, 5 ≤ p → p < 10 → c p = 0 ∨ c p = 1
theorem in_reck (A : AR n w s0 M c s) (C : WC c) {o r y : Nat} (ho : 4 ≤ o ∧ o ≤ 11) (hr : r < 4) (hy : y < 65536) : AR n w s0 M (apW c (reckW c (Int32.ofNat o) (Int32.ofNat (12 + r)) (Int32.ofNat y) ++ [(3, c 3 + 2)])) (reckS s (Int32.ofNat o) (Int32.ofNat r) (Int32.ofNat y)) := by
  have e3 : s 27 0 = c 3 := A.g (p := 3) (by omega)
  have er : s 26 r = c (12 + r) := A.1.reg hr
  obtain ⟨a1, a2⟩ := rg.nat (C.2.2.1 r hr)
  have q := reck_eq (o := o) (a := nn (c (12 + r))) (y := y) ho (by omega) hy
  rw [← a2] at q
  have nr : (Int32.ofNat r).toNatClampNeg = r := i_nat (by omega)
  have nr2 : nn (Int32.ofNat (12 + r)) = 12 + r := nn_of (by omega)
  have ne : ∀ k, k < 4 → Int32.ofNat o ≠ Int32.ofNat k := fun k hk z => by have := (i_eq (by omega) (by omega)).mp z; omega
  unfold reckS
  rw [if_neg (show ¬ Int32.ofNat o = 0 from ne 0 (by omega))]
  simp only []
  rw [if_neg (show ¬ Int32.ofNat o = 1 from ne 1 (by omega)), if_neg (show ¬ Int32.ofNat o = 2 from ne 2 (by omega)), if_neg (show ¬ Int32.ofNat o = 3 from ne 3 (by omega)), nr, er, e3]
  have A0 := ((A.up (p := 3) (x := c 3 + 2) (Or.inl (by omega)) rfl rfl).up (p := 6) (x := lessT (Int32.ofNat o) (c (12 + r)) (Int32.ofNat y)) (Or.inl (by omega)) rfl rfl).up (p := 5) (x := if wordT (Int32.ofNat o) (c (12 + r)) (Int32.ofNat y) = 0 then 1 else 0) (Or.inl (by omega)) rfl rfl
  have La : (c (12 + r)).toInt64 = lNn (nn (c (12 + r))) := (congrArg Int32.toInt64 a2).trans (toL (by omega))
  unfold reckW
  simp only []
  rw [nr2, La, show (Int32.ofNat y).toInt64 = lNn y from toL (by omega), q.1, q.2]
  by_cases e : Int32.ofNat o = 11
  · rw [if_pos e, if_pos e, List.append_nil]
    refine (A0.eqs ?_).eqc ?_
    · have := tw_up_same (tw_up (tw_up (tw_up s 27 0 (c 3 + 2)) 30 0 (lessT (Int32.ofNat o) (c (12 + r)) (Int32.ofNat y))) 29 0 (if wordT (Int32.ofNat o) (c (12 + r)) (Int32.ofNat y) = 0 then 1 else 0)) 26 r
      rw [show (tw_up (tw_up (tw_up s 27 0 (c 3 + 2)) 30 0 (lessT (Int32.ofNat o) (c (12 + r)) (Int32.ofNat y))) 29 0 (if wordT (Int32.ofNat o) (c (12 + r)) (Int32.ofNat y) = 0 then 1 else 0)) 26 r = c (12 + r) from er] at this
      exact this
    · show upd (upd (upd c 6 _) 5 _) 3 _ = _
      rw [upd_comm _ (show 5 ≠ 3 by omega), upd_comm _ (show 6 ≠ 3 by omega)]
  · rw [if_neg e, if_neg e]
    refine (A0.reg hr).eqc ?_
    show upd (upd (upd (upd c 6 _) 5 _) (12 + r) _) 3 _ = _
    rw [upd_comm _ (show 12 + r ≠ 3 by omega), upd_comm _ (show 5 ≠ 3 by omega), upd_comm _ (show 6 ≠ 3 by omega)]
end INS
