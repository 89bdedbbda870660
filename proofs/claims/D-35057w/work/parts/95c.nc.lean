/-! numbers: both make the same of two words -/
theorem l_of {v : Int64} {n : Nat} (h : v.toInt = n) (hn : n < 65536) : Int64.toInt32 v = Int32.ofNat n := by
  apply Int32.toInt_inj.mp
  rw [Int64.toInt_toInt32, h, i_toInt (by omega)]
  unfold Int.bmod
  dsimp only
  split <;> omega
theorem wordT_eq {op w y : Int32} {z : Int} (h : (madeT op w y).toInt = z) (h1 : -65536 ≤ z) (h2 : z < 2 ^ 40) : wordT op w y = Int32.ofNat (z % 65536).toNat := by
  unfold wordT
  generalize madeT op w y = m at h
  have e1 : (m + 65536).toInt = z + 65536 := by
    rw [Int64.toInt_add, h, show (65536 : Int64).toInt = 65536 from rfl, l_bm (by omega) (by omega)]
  have e2 : ((m + 65536) / 65536).toInt = (z + 65536) / 65536 := by
    rw [Int64.toInt_div, e1, show (65536 : Int64).toInt = 65536 from rfl, Int.tdiv_eq_ediv_of_nonneg (by omega), l_bm (by omega) (by omega)]
  have e3 : ((m + 65536) / 65536 * 65536).toInt = (z + 65536) / 65536 * 65536 := by
    rw [Int64.toInt_mul, e2, show (65536 : Int64).toInt = 65536 from rfl, l_bm (by omega) (by omega)]
  refine l_of ?_ (by omega)
  show ((m + 65536) - (m + 65536) / 65536 * 65536).toInt = _
  rw [Int64.toInt_sub, e1, e3, l_bm (by omega) (by omega)]
  omega
theorem lg_lt {x y : Int64} {a b : Int} (hx : x.toInt = a) (hy : y.toInt = b) : lg_cmp x y < 0 ↔ a < b := by
  rw [lg_cmp_lt, Int64.lt_iff_toInt_lt, hx, hy]
theorem lg_le {x y : Int64} {a b : Int} (hx : x.toInt = a) (hy : y.toInt = b) : lg_cmp x y ≤ 0 ↔ a ≤ b := by
  rw [lg_cmp_le, Int64.le_iff_toInt_le, hx, hy]
theorem lg_ge {x y : Int64} {a b : Int} (hx : x.toInt = a) (hy : y.toInt = b) : 0 ≤ lg_cmp x y ↔ b ≤ a := by
  rw [lg_cmp_ge, Int64.le_iff_toInt_le, hx, hy]
theorem lessT_eq {op w y : Int32} {z : Int} (h : (madeT op w y).toInt = z) : lessT op w y = if z < 0 ∨ 65536 ≤ z then 1 else 0 := by
  unfold lessT
  have a1 := lg_lt h (show (0 : Int64).toInt = 0 from rfl)
  have a2 := lg_lt h (show (65536 : Int64).toInt = 65536 from rfl)
  by_cases z0 : z < 0
  · rw [if_pos (a1.mpr z0), if_pos (Or.inl z0)]
  · rw [if_neg (fun y => z0 (a1.mp y))]
    by_cases z1 : z < 65536
    · rw [if_pos (a2.mpr z1), if_neg (by omega)]
    · rw [if_neg (fun y => z1 (a2.mp y)), if_pos (by omega)]
theorem reck_eq {o a y : Nat} (ho : 4 ≤ o ∧ o ≤ 11) (ha : a < 65536) (hy : y < 65536) : cutI (itsOf (Int32.ofNat o) (lNn a) (lNn y) (Int32.ofNat y)) = wordT (Int32.ofNat o) (Int32.ofNat a) (Int32.ofNat y) ∧ lessOf (Int32.ofNat o) (itsOf (Int32.ofNat o) (lNn a) (lNn y) (Int32.ofNat y)) = lessT (Int32.ofNat o) (Int32.ofNat a) (Int32.ofNat y) := by
  have La : (Int32.ofNat a).toInt64 = lNn a := toL (by omega)
  have Ly : (Int32.ofNat y).toInt64 = lNn y := toL (by omega)
  have ta : (lNn a).toInt = a := lNn_toInt (by omega)
  have ty : (lNn y).toInt = y := lNn_toInt (by omega)
  have i0 : (0 : Int64).toInt = 0 := rfl
  have i1 : (65535 : Int64).toInt = 65535 := rfl
  have r16 : dx_rem (Int32.ofNat y) 16 = Int32.ofNat (y % 16) := rem_nat (b := 16) (by omega) (by omega)
  have a40 : a * y < 2 ^ 40 := Nat.lt_of_lt_of_le (Nat.mul_lt_mul'' ha hy) (by decide)
  -- a sum, a difference, a product
  have sub : ∀ z : Int64, z.toInt = (a : Int) - y → ∀ op : Int32, madeT op (Int32.ofNat a) (Int32.ofNat y) = z → (lessOf op z = if 0 ≤ lg_cmp z 0 then 0 else 1) → cutI z = wordT op (Int32.ofNat a) (Int32.ofNat y) ∧ lessOf op z = lessT op (Int32.ofNat a) (Int32.ofNat y) := by
    intro z hz op em el
    rw [← em] at hz
    rw [wordT_eq hz (by omega) (by omega), lessT_eq hz, cut_toInt, el, ← em, hz]
    refine ⟨rfl, ?_⟩
    have g := lg_ge hz i0
    by_cases q : (0 : Int) ≤ (a : Int) - y
    · rw [if_pos (g.mpr q), if_neg (by omega)]
    · rw [if_neg (fun w => q (g.mp w)), if_pos (by omega)]
  have big : ∀ (z : Int64) (v : Nat), v < 2 ^ 40 → z.toInt = (v : Int) → ∀ op : Int32, madeT op (Int32.ofNat a) (Int32.ofNat y) = z → (lessOf op z = if lg_cmp z 65535 ≤ 0 then 0 else 1) → cutI z = wordT op (Int32.ofNat a) (Int32.ofNat y) ∧ lessOf op z = lessT op (Int32.ofNat a) (Int32.ofNat y) := by
    intro z v hv hz op em el
    rw [← em] at hz
    rw [wordT_eq hz (by omega) (by omega), lessT_eq hz, cut_toInt, el, ← em, hz]
    refine ⟨rfl, ?_⟩
    have g := lg_le hz i1
    by_cases q : (v : Int) ≤ 65535
    · rw [if_pos (g.mpr q), if_neg (by omega)]
    · rw [if_neg (fun w => q (g.mp w)), if_pos (by omega)]
  have word : ∀ (z : Int64) (v v' : Nat), v < 2 ^ 40 → z.toInt = (v : Int) → v' < 65536 → v % 65536 = v' → ∀ op : Int32, (madeT op (Int32.ofNat a) (Int32.ofNat y)).toInt = (v' : Int) → lessOf op z = 0 → cutI z = wordT op (Int32.ofNat a) (Int32.ofNat y) ∧ lessOf op z = lessT op (Int32.ofNat a) (Int32.ofNat y) := by
    intro z v v' hv hz hv' e op em el
    rw [wordT_eq em (by omega) (by omega), lessT_eq em, cut_toInt, el, hz, if_neg (by omega)]
    refine ⟨?_, rfl⟩
    congr 1
    omega
  have p16 : 2 ^ (y % 16) ≤ 2 ^ 15 := Nat.pow_le_pow_right (by omega) (by omega)
  have am : a * 2 ^ (y % 16) < 2 ^ 31 := Nat.lt_of_le_of_lt (Nat.mul_le_mul (Nat.le_of_lt_succ ha : a ≤ 65535) p16) (by decide)
  obtain rfl | rfl | rfl | rfl | rfl | rfl | rfl | rfl : o = 4 ∨ o = 5 ∨ o = 6 ∨ o = 7 ∨ o = 8 ∨ o = 9 ∨ o = 10 ∨ o = 11 := by omega
  · refine big (lNn a + lNn y) (a + y) (by omega) ?_ _ ?_ rfl
    · rw [Int64.toInt_add, ta, ty, l_bm (by omega) (by omega)]; omega
    · rw [← La, ← Ly]; rfl
  · refine sub (lNn a - lNn y) ?_ _ ?_ rfl
    · rw [Int64.toInt_sub, ta, ty, l_bm (by omega) (by omega)]
    · rw [← La, ← Ly]; rfl
  · refine big (lNn a * lNn y) (a * y) a40 ?_ _ ?_ rfl
    · rw [Int64.toInt_mul, ta, ty, l_bm (by rw [← Int.natCast_mul]; omega) (by rw [← Int.natCast_mul]; omega), Int.natCast_mul]
    · rw [← La, ← Ly]; rfl
  · have an : a &&& y < 65536 := Nat.lt_of_le_of_lt Nat.and_le_left ha
    refine word (lNn a &&& lNn y) (a &&& y) (a &&& y) (by omega) ?_ an (by omega) _ ?_ rfl
    · rw [lN_and (by omega) (by omega), lNn_toInt (by omega)]
    · show (Int32.ofNat a &&& Int32.ofNat y).toInt64.toInt = _
      rw [and_nat (by omega) (by omega), toL (by omega), lNn_toInt (by omega)]
  · have an : a ^^^ y < 2 ^ 16 := Nat.xor_lt_two_pow (by omega) (by omega)
    refine word (lNn a ^^^ lNn y) (a ^^^ y) (a ^^^ y) (by omega) ?_ (by omega) (by omega) _ ?_ rfl
    · rw [lN_xor ha hy, lNn_toInt (by omega)]
    · show (Int32.ofNat a ^^^ Int32.ofNat y).toInt64.toInt = _
      rw [xor_nat ha hy, toL (by omega), lNn_toInt (by omega)]
  · refine word (dx_lshl (lNn a) (dx_rem (Int32.ofNat y) 16)) (a * 2 ^ (y % 16)) (a * 2 ^ (y % 16) % 65536) (by omega) ?_ (by omega) rfl _ ?_ rfl
    · rw [r16, lN_shl ha (by omega), lNn_toInt (by omega)]
    · show (dx_rem (dx_shl (Int32.ofNat a) (dx_rem (Int32.ofNat y) 16)) 65536).toInt64.toInt = _
      rw [r16, shl_nat (by omega)]
      generalize a * 2 ^ (y % 16) = u at am
      rw [show dx_rem (Int32.ofNat u) 65536 = Int32.ofNat (u % 65536) from rem_nat (b := 65536) (by omega) (by omega), toL (by omega), lNn_toInt (by omega)]
  · obtain ⟨u, hu⟩ : ∃ u, u = a / 2 ^ (y % 16) := ⟨_, rfl⟩
    have dv : u ≤ a := by rw [hu]; exact Nat.div_le_self _ _
    clear am p16
    refine word (dx_lshr (lNn a) (dx_rem (Int32.ofNat y) 16)) u u (by omega) ?_ (by omega) (by omega) _ ?_ rfl
    · rw [r16, lN_shr ha (by omega), ← hu, lNn_toInt (by omega)]
    · show (dx_shr (Int32.ofNat a) (dx_rem (Int32.ofNat y) 16)).toInt64.toInt = _
      rw [r16, shr_nat (by omega) (by omega), ← hu, toL (by omega), lNn_toInt (by omega)]
  · refine sub (lNn a - lNn y) ?_ _ ?_ rfl
    · rw [Int64.toInt_sub, ta, ty, l_bm (by omega) (by omega)]
    · rw [← La, ← Ly]; rfl
