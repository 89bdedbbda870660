/-! class and twin alike: why an instruction cannot be done -/
/- with AR.g opO moveW serveO fltS -/
section FLT
variable {n : Nat} {w : Int32} {s0 s : Nat → Nat → Int32} {M : Nat → Prop} {c : Nat → Int32} {K : kk_K}
def fO (x : (ce_W × Int32) ⊕ Int32) : Int32 := match x with
  | .inl _ => 0
  | .inr f => f
theorem flt_eq (A : AR n w s0 M c s) (C : WC c) {o r y : Nat} (ho : o ≤ 26) (hy : y < 65536) (nx : Int32) : fltS s (Int32.ofNat o) (Int32.ofNat y) = fO (opO K c o r y nx) := by
  have e4 : s 28 0 = c 4 := A.g (p := 4) (by omega)
  have e17 : s 37 0 = c 17 := A.g (p := 17) (by omega)
  obtain ⟨k1, k2⟩ := rg.nat C.2.1
  have o26 : Int32.ofNat o ≤ 26 := (i_le (b := 26) (by omega) (by omega)).mpr ho
  have ne : ∀ k, k < 30 → o ≠ k → Int32.ofNat o ≠ Int32.ofNat k := fun k hk h z => h ((i_eq (by omega) (by omega)).mp z)
  have y2 : Int32.ofNat y < 256 ↔ y < 256 := i_lt (b := 256) (by omega) (by omega)
  have c256 : c 4 + 0 ≤ 256 := by rw [Int32.add_zero, k2]; exact (i_le (b := 256) (by omega) (by omega)).mpr k1
  have lt1 : c 4 < 1 ↔ ¬ (1 : Int32) ≤ c 4 := ⟨fun z y => absurd z (Int32.not_lt.mpr y), fun z => Int32.not_le.mp z⟩
  have plain : o ≠ 2 → o ≠ 3 → o ≠ 15 → o ≠ 16 → o ≠ 17 → o ≠ 18 → o ≠ 21 → o ≠ 25 → fltS s (Int32.ofNat o) (Int32.ofNat y) = 0 := by
    intro h2 h3 h15 h16 h17 h18 h21 h25
    unfold fltS
    rw [if_pos o26, if_neg (fun z => z.1.elim (ne 2 (by omega) h2) (ne 3 (by omega) h3)), if_neg (fun z => z.1.elim (ne 15 (by omega) h15) (ne 17 (by omega) h17)), if_neg (show ¬ (Int32.ofNat o = 16 ∨ Int32.ofNat o = 18) from fun z => z.elim (ne 16 (by omega) h16) (ne 18 (by omega) h18)), if_neg (show ¬ Int32.ofNat o = 21 from ne 21 (by omega) h21), e4, if_pos c256, if_neg (show ¬ (Int32.ofNat o = 25 ∧ s 37 0 = 60) from fun z => ne 25 (by omega) h25 z.1)]
  have mv : ¬ (4 ≤ o ∧ o ≤ 11) → o ≤ 18 → opO K c o r y nx = moveW c (Int32.ofNat o) (Int32.ofNat r) (Int32.ofNat y) nx := fun h1 h2 => by unfold opO; rw [if_neg h1, if_pos h2]
  have sv : 19 ≤ o → opO K c o r y nx = serveO K c (Int32.ofNat o) (Int32.ofNat r) (Int32.ofNat y) nx := fun h1 => by unfold opO; rw [if_neg (by omega), if_neg (by omega)]
  by_cases q : 4 ≤ o ∧ o ≤ 11
  · rw [plain (by omega) (by omega) (by omega) (by omega) (by omega) (by omega) (by omega) (by omega)]
    unfold opO
    rw [if_pos q]; rfl
  by_cases q2 : o ≤ 18
  · rw [mv q q2]
    obtain rfl | rfl | rfl | rfl | rfl | rfl | rfl | rfl | rfl | rfl | rfl : o = 0 ∨ o = 1 ∨ o = 2 ∨ o = 3 ∨ o = 12 ∨ o = 13 ∨ o = 14 ∨ o = 15 ∨ o = 16 ∨ o = 17 ∨ o = 18 := by omega
    · rw [plain (by omega) (by omega) (by omega) (by omega) (by omega) (by omega) (by omega) (by omega)]; rfl
    · rw [plain (by omega) (by omega) (by omega) (by omega) (by omega) (by omega) (by omega) (by omega)]; rfl
    · show fltS s (Int32.ofNat 2) (Int32.ofNat y) = fO (if Int32.ofNat y < 256 then .inl ([(nn (Int32.ofNat r), c (nn (108 + Int32.ofNat y)))], nx) else .inr 1)
      unfold fltS
      rw [if_pos o26]
      by_cases h : Int32.ofNat y < 256
      · rw [if_neg (fun z => z.2 h), if_pos h, if_neg (fun z => absurd z.1 (by decide)), show (if Int32.ofNat 2 = 16 ∨ Int32.ofNat 2 = 18 then (1 : Int32) else if Int32.ofNat 2 = 21 then 2 else 0) = 0 from by decide, e4, if_pos c256, if_neg (fun z => absurd z.1 (by decide))]; rfl
      · rw [if_pos ⟨Or.inl rfl, h⟩, if_neg h]; rfl
    · show fltS s (Int32.ofNat 3) (Int32.ofNat y) = fO (if Int32.ofNat y < 256 then .inl ([(nn (108 + Int32.ofNat y), c (nn (Int32.ofNat r)))], nx) else .inr 1)
      unfold fltS
      rw [if_pos o26]
      by_cases h : Int32.ofNat y < 256
      · rw [if_neg (fun z => z.2 h), if_pos h, if_neg (fun z => absurd z.1 (by decide)), show (if Int32.ofNat 3 = 16 ∨ Int32.ofNat 3 = 18 then (1 : Int32) else if Int32.ofNat 3 = 21 then 2 else 0) = 0 from by decide, e4, if_pos c256, if_neg (fun z => absurd z.1 (by decide))]; rfl
      · rw [if_pos ⟨Or.inr rfl, h⟩, if_neg h]; rfl
    · rw [plain (by omega) (by omega) (by omega) (by omega) (by omega) (by omega) (by omega) (by omega)]; rfl
    · rw [plain (by omega) (by omega) (by omega) (by omega) (by omega) (by omega) (by omega) (by omega)]; rfl
    · rw [plain (by omega) (by omega) (by omega) (by omega) (by omega) (by omega) (by omega) (by omega)]; rfl
    · show fltS s (Int32.ofNat 15) (Int32.ofNat y) = fO (if 1 ≤ c 4 then .inl (pushW c nx, Int32.ofNat y) else .inr 3)
      unfold fltS
      rw [if_pos o26, if_neg (fun z => absurd z.1 (by decide)), e4]
      by_cases h : (1 : Int32) ≤ c 4
      · rw [if_neg (fun z => lt1.mp z.2 h), if_pos h, show (if Int32.ofNat 15 = 16 ∨ Int32.ofNat 15 = 18 then (1 : Int32) else if Int32.ofNat 15 = 21 then 2 else 0) = 0 from by decide, if_pos c256, if_neg (fun z => absurd z.1 (by decide))]; rfl
      · rw [if_pos ⟨Or.inl rfl, lt1.mpr h⟩, if_neg h]; rfl
    · show fltS s (Int32.ofNat 16) (Int32.ofNat y) = fO (if c 4 + 1 ≤ 256 then .inl (pullW c, pullV c) else .inr 3)
      unfold fltS
      rw [if_pos o26, if_neg (fun z => absurd z.1 (by decide)), if_neg (fun z => absurd z.1 (by decide)), show (if Int32.ofNat 16 = 16 ∨ Int32.ofNat 16 = 18 then (1 : Int32) else if Int32.ofNat 16 = 21 then 2 else 0) = 1 from by decide, e4]
      by_cases h : c 4 + 1 ≤ 256
      · rw [if_pos h, if_pos h, if_neg (fun z => absurd z.1 (by decide))]; rfl
      · rw [if_neg h, if_neg h]; rfl
    · show fltS s (Int32.ofNat 17) (Int32.ofNat y) = fO (if 1 ≤ c 4 then .inl (pushW c (Int32.ofNat y), nx) else .inr 3)
      unfold fltS
      rw [if_pos o26, if_neg (fun z => absurd z.1 (by decide)), e4]
      by_cases h : (1 : Int32) ≤ c 4
      · rw [if_neg (fun z => lt1.mp z.2 h), if_pos h, show (if Int32.ofNat 17 = 16 ∨ Int32.ofNat 17 = 18 then (1 : Int32) else if Int32.ofNat 17 = 21 then 2 else 0) = 0 from by decide, if_pos c256, if_neg (fun z => absurd z.1 (by decide))]; rfl
      · rw [if_pos ⟨Or.inr rfl, lt1.mpr h⟩, if_neg h]; rfl
    · show fltS s (Int32.ofNat 18) (Int32.ofNat y) = fO (if c 4 + 1 ≤ 256 then .inl (pullW c ++ [(nn (Int32.ofNat r), pullV c)], nx) else .inr 3)
      unfold fltS
      rw [if_pos o26, if_neg (fun z => absurd z.1 (by decide)), if_neg (fun z => absurd z.1 (by decide)), show (if Int32.ofNat 18 = 16 ∨ Int32.ofNat 18 = 18 then (1 : Int32) else if Int32.ofNat 18 = 21 then 2 else 0) = 1 from by decide, e4]
      by_cases h : c 4 + 1 ≤ 256
      · rw [if_pos h, if_pos h, if_neg (fun z => absurd z.1 (by decide))]; rfl
      · rw [if_neg h, if_neg h]; rfl
  · rw [sv (by omega)]
    obtain rfl | rfl | rfl | rfl | rfl | rfl | rfl | rfl : o = 19 ∨ o = 20 ∨ o = 21 ∨ o = 22 ∨ o = 23 ∨ o = 24 ∨ o = 25 ∨ o = 26 := by omega
    · rw [plain (by omega) (by omega) (by omega) (by omega) (by omega) (by omega) (by omega) (by omega)]; rfl
    · rw [plain (by omega) (by omega) (by omega) (by omega) (by omega) (by omega) (by omega) (by omega)]; rfl
    · unfold fltS
      rw [if_pos o26, if_neg (fun z => absurd z.1 (by decide)), if_neg (fun z => absurd z.1 (by decide)), show (if Int32.ofNat 21 = 16 ∨ Int32.ofNat 21 = 18 then (1 : Int32) else if Int32.ofNat 21 = 21 then 2 else 0) = 2 from by decide, e4]
      by_cases h : c 4 + 2 ≤ 256
      · rw [if_pos h, if_neg (fun z => absurd z.1 (by decide))]
        unfold serveO; rw [if_neg (by decide), if_neg (by decide), if_pos (by decide)]; simp only []; rw [if_pos h]; rfl
      · rw [if_neg h]
        unfold serveO; rw [if_neg (by decide), if_neg (by decide), if_pos (by decide)]; simp only []; rw [if_neg h]; rfl
    · rw [plain (by omega) (by omega) (by omega) (by omega) (by omega) (by omega) (by omega) (by omega)]; rfl
    · rw [plain (by omega) (by omega) (by omega) (by omega) (by omega) (by omega) (by omega) (by omega)]; rfl
    · rw [plain (by omega) (by omega) (by omega) (by omega) (by omega) (by omega) (by omega) (by omega)]; rfl
    · unfold fltS
      rw [if_pos o26, if_neg (fun z => absurd z.1 (by decide)), if_neg (fun z => absurd z.1 (by decide)), show (if Int32.ofNat 25 = 16 ∨ Int32.ofNat 25 = 18 then (1 : Int32) else if Int32.ofNat 25 = 21 then 2 else 0) = 0 from by decide, e4, e17, if_pos c256]
      by_cases h : c 17 = 60
      · rw [if_pos ⟨rfl, h⟩]
        unfold serveO; rw [if_neg (by decide), if_neg (by decide), if_neg (by decide), if_neg (by decide), if_neg (by decide), if_neg (by decide), if_pos (by decide), if_pos h]; rfl
      · rw [if_neg (fun z => h z.2)]
        unfold serveO; rw [if_neg (by decide), if_neg (by decide), if_neg (by decide), if_neg (by decide), if_neg (by decide), if_neg (by decide), if_pos (by decide), if_neg h]; rfl
    · rw [plain (by omega) (by omega) (by omega) (by omega) (by omega) (by omega) (by omega) (by omega)]; rfl
end FLT
