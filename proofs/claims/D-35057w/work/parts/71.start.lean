/-! the start (printed by gen/emit90.py) -/
set_option maxRecDepth 100000
theorem st_l {s : State} {A0 : Array Value} {a b : Cond} (h : (Cond.and a b).before A0 s = true) : a.before A0 s = true := by
  rw [Cond.before_and, Bool.and_eq_true] at h; exact h.1
theorem st_r {s : State} {A0 : Array Value} {a b : Cond} (h : (Cond.and a b).before A0 s = true) : b.before A0 s = true := by
  rw [Cond.before_and, Bool.and_eq_true] at h; exact h.2
theorem st_c0 {P : Nat → Prop} : ∀ j, j < 0 → P j := fun j h => absurd h (Nat.not_lt_zero _)
theorem st_cs {P : Nat → Prop} {n : Nat} (h : ∀ j, j < n → P j) (p : P n) : ∀ j, j < n + 1 → P j := by
  intro j hj
  by_cases q : j < n
  · exact h j q
  · obtain rfl : j = n := by omega
    exact p
section ST
variable {s : State} {A0 : Array Value}
theorem st_lift (h : ∀ w ∈ lw_tbl, w.before A0 s = true) : ∀ w ∈ lw_all, w.before A0 s = true := fun w hw => h w (lw_all_tbl hw)
theorem st_ap {C : String} {T : u_T} {N : Nat} (hts : ∀ w ∈ lw_all, w.before A0 s = true) (hin : ∀ w ∈ u_ws C T N, w ∈ lw_all) (ty : Nat → FieldType) (hty : ∀ k, k < N → parseFieldDescriptor (T k).2.2.1 = some (ty k)) (hd : ∀ a, a < N → ∀ b, b < N → a ≠ b → (T a).2.1 ≠ (T b).2.1 ∨ ((T a).2.2.2 = true ∧ (T b).2.2.2 = true ∧ (T a).1 ≠ (T b).1)) {c : ClassId} {i : Nat → Nat} (hK : u_Kn s C T N c i) : ∀ x y, x < N → y < N → x ≠ y → i x ≠ i y := by
  intro x y hx hy hne
  obtain ⟨hS, -⟩ := hK
  obtain ⟨ca, ka, ia, fa, hia, ea⟩ := hS x hx
  obtain ⟨cb, kb, ib, fb, hib, eb⟩ := hS y hy
  rw [← ea, ← eb]
  rcases hd x hx y hy hne with q | ⟨q1, q2, q3⟩
  · refine u_apart (u_lays hts hin hx) (u_lays hts hin hy) hia hib ?_
    rw [(State.fieldFound?_type hia (hty x hx)).1, (State.fieldFound?_type hib (hty y hy)).1]
    exact q
  · have w1 := hts _ (hin _ (u_in_lay hx))
    have w2 := hts _ (hin _ (u_in_lay hy))
    unfold u_lay at w1 w2
    rw [if_pos q1] at w1
    rw [if_pos q2] at w2
    obtain ⟨c1, k1, c1', k1', i1, f1, r1, r2, r3, -, -, -, r4, -, d1, r5, r6, -⟩ := Cond.laysFinal_spec w1
    obtain ⟨c2, k2, c2', k2', i2, f2, t1, t2, t3, -, -, -, t4, -, d2, t5, t6, -⟩ := Cond.laysFinal_spec w2
    cases r1.symm.trans t1
    cases hia.symm.trans r3
    cases hib.symm.trans t3
    intro e
    rw [e] at r5
    cases r5.symm.trans t5
    obtain ⟨z1, y1, y2⟩ := Vm.findClass_spec r4
    obtain ⟨z2, y3, y4⟩ := Vm.findClass_spec t4
    have x1 := (State.fieldFound?_spec hia).1
    have x2 := (State.fieldFound?_spec hib).1
    cases y1.symm.trans x1
    cases y3.symm.trans x2
    exact q3 (by rw [← y2, ← y4, ← r6, ← t6])
theorem st_knl (hts : ∀ w ∈ lw_all, w.before A0 s = true) : ∀ q ∈ ax_cl, ∃ (c : ClassId) (i : Nat → Nat), u_Kn s q.1 q.2.1 q.2.2 c i := by
  unfold ax_cl
  exact (List.forall_mem_cons.mpr ⟨u_known hts (fun _ h => nomatch h) (hts _ q1718), (List.forall_mem_cons.mpr ⟨u_known hts in_J14 (hts _ q1108), (List.forall_mem_cons.mpr ⟨u_known hts in_J16 (hts _ q526), (List.forall_mem_cons.mpr ⟨u_known hts in_E3 (hts _ q709), (List.forall_mem_cons.mpr ⟨u_known hts in_J2 (hts _ q192), (List.forall_mem_cons.mpr ⟨u_known hts in_J22 (hts _ q2634), (List.forall_mem_cons.mpr ⟨u_known hts (fun _ h => nomatch h) (hts _ q848), (List.forall_mem_cons.mpr ⟨u_known hts (fun _ h => nomatch h) (hts _ q1551), (List.forall_mem_cons.mpr ⟨u_known hts in_J26 (hts _ q1472), (List.forall_mem_cons.mpr ⟨u_known hts in_J27 (hts _ q2436), (List.forall_mem_cons.mpr ⟨u_known hts in_J29 (hts _ q2497), (List.forall_mem_cons.mpr ⟨u_known hts in_J30 (hts _ q2540), (List.forall_mem_cons.mpr ⟨u_known hts in_J31 (hts _ q1290), (List.forall_mem_cons.mpr ⟨u_known hts in_J32 (hts _ q1388), (List.forall_mem_cons.mpr ⟨u_known hts in_J35 (hts _ q1447), (List.forall_mem_cons.mpr ⟨u_known hts in_J4 (hts _ q234), (List.forall_mem_cons.mpr ⟨u_known hts in_J5 (hts _ q257), (List.forall_mem_cons.mpr ⟨u_known hts in_J6 (hts _ q520), (List.forall_mem_cons.mpr ⟨u_known hts (fun _ h => nomatch h) (hts _ q741), (List.forall_mem_cons.mpr ⟨u_known hts in_X1 (hts _ q184), (List.forall_mem_cons.mpr ⟨u_known hts in_X10 (hts _ q1831), (List.forall_mem_cons.mpr ⟨u_known hts in_X11 (hts _ q1851), (List.forall_mem_cons.mpr ⟨u_known hts in_X12 (hts _ q1874), (List.forall_mem_cons.mpr ⟨u_known hts in_X13 (hts _ q1894), (List.forall_mem_cons.mpr ⟨u_known hts in_X14 (hts _ q1911), (List.forall_mem_cons.mpr ⟨u_known hts in_X15 (hts _ q385), (List.forall_mem_cons.mpr ⟨u_known hts in_X16 (hts _ q391), (List.forall_mem_cons.mpr ⟨u_known hts in_X18 (hts _ q416), (List.forall_mem_cons.mpr ⟨u_known hts in_E28 (hts _ q476), (List.forall_mem_cons.mpr ⟨u_known hts in_X2 (hts _ q228), (List.forall_mem_cons.mpr ⟨u_known hts in_X20 (hts _ q1141), (List.forall_mem_cons.mpr ⟨u_known hts in_X21 (hts _ q2033), (List.forall_mem_cons.mpr ⟨u_known hts in_E32 (hts _ q2120), (List.forall_mem_cons.mpr ⟨u_known hts in_E33 (hts _ q2151), (List.forall_mem_cons.mpr ⟨u_known hts in_E34 (hts _ q2171), (List.forall_mem_cons.mpr ⟨u_known hts in_E35 (hts _ q2224), (List.forall_mem_cons.mpr ⟨u_known hts in_X26 (hts _ q2397), (List.forall_mem_cons.mpr ⟨u_known hts in_X27 (hts _ q2661), (List.forall_mem_cons.mpr ⟨u_known hts in_X3 (hts _ q2744), (List.forall_mem_cons.mpr ⟨u_known hts in_X5 (hts _ q1695), (List.forall_mem_cons.mpr ⟨u_known hts in_X6 (hts _ q1743), (List.forall_mem_cons.mpr ⟨u_known hts in_X7 (hts _ q1766), (List.forall_mem_cons.mpr ⟨u_known hts in_X8 (hts _ q1782), (List.forall_mem_cons.mpr ⟨u_known hts in_X9 (hts _ q1811), (List.forall_mem_cons.mpr ⟨u_known hts in_E44 (hts _ q1718), (List.forall_mem_cons.mpr ⟨u_known hts in_E45 (hts _ q1551), (List.forall_mem_cons.mpr ⟨u_known hts in_E46 (hts _ q848), (List.forall_mem_nil _)⟩)⟩)⟩)⟩)⟩)⟩)⟩)⟩)⟩)⟩)⟩)⟩)⟩)⟩)⟩)⟩)⟩)⟩)⟩)⟩)⟩)⟩)⟩)⟩)⟩)⟩)⟩)⟩)⟩)⟩)⟩)⟩)⟩)⟩)⟩)⟩)⟩)⟩)⟩)⟩)⟩)⟩)⟩)⟩)⟩)⟩)⟩)
theorem st_apl (hts : ∀ w ∈ lw_all, w.before A0 s = true) : ∀ q ∈ ax_cl, ∀ (c : ClassId) (i : Nat → Nat), u_Kn s q.1 q.2.1 q.2.2 c i → ∀ x y, x < q.2.2 → y < q.2.2 → x ≠ y → i x ≠ i y := by
  unfold ax_cl
  exact (List.forall_mem_cons.mpr ⟨fun c i h => fun x y hx => absurd hx (Nat.not_lt_zero _), (List.forall_mem_cons.mpr ⟨fun c i h => st_ap hts in_J14 tyJ14 tyJ14_ok (by decide +kernel) h, (List.forall_mem_cons.mpr ⟨fun c i h => st_ap hts in_J16 tyJ16 tyJ16_ok (by decide +kernel) h, (List.forall_mem_cons.mpr ⟨fun c i h => st_ap hts in_E3 tyE3 tyE3_ok (by decide +kernel) h, (List.forall_mem_cons.mpr ⟨fun c i h => st_ap hts in_J2 tyJ2 tyJ2_ok (by decide +kernel) h, (List.forall_mem_cons.mpr ⟨fun c i h => st_ap hts in_J22 tyJ22 tyJ22_ok (by decide +kernel) h, (List.forall_mem_cons.mpr ⟨fun c i h => fun x y hx => absurd hx (Nat.not_lt_zero _), (List.forall_mem_cons.mpr ⟨fun c i h => fun x y hx => absurd hx (Nat.not_lt_zero _), (List.forall_mem_cons.mpr ⟨fun c i h => st_ap hts in_J26 tyJ26 tyJ26_ok (by decide +kernel) h, (List.forall_mem_cons.mpr ⟨fun c i h => st_ap hts in_J27 tyJ27 tyJ27_ok (by decide +kernel) h, (List.forall_mem_cons.mpr ⟨fun c i h => st_ap hts in_J29 tyJ29 tyJ29_ok (by decide +kernel) h, (List.forall_mem_cons.mpr ⟨fun c i h => st_ap hts in_J30 tyJ30 tyJ30_ok (by decide +kernel) h, (List.forall_mem_cons.mpr ⟨fun c i h => st_ap hts in_J31 tyJ31 tyJ31_ok (by decide +kernel) h, (List.forall_mem_cons.mpr ⟨fun c i h => st_ap hts in_J32 tyJ32 tyJ32_ok (by decide +kernel) h, (List.forall_mem_cons.mpr ⟨fun c i h => st_ap hts in_J35 tyJ35 tyJ35_ok (by decide +kernel) h, (List.forall_mem_cons.mpr ⟨fun c i h => st_ap hts in_J4 tyJ4 tyJ4_ok (by decide +kernel) h, (List.forall_mem_cons.mpr ⟨fun c i h => st_ap hts in_J5 tyJ5 tyJ5_ok (by decide +kernel) h, (List.forall_mem_cons.mpr ⟨fun c i h => st_ap hts in_J6 tyJ6 tyJ6_ok (by decide +kernel) h, (List.forall_mem_cons.mpr ⟨fun c i h => fun x y hx => absurd hx (Nat.not_lt_zero _), (List.forall_mem_cons.mpr ⟨fun c i h => st_ap hts in_X1 tyX1 tyX1_ok (by decide +kernel) h, (List.forall_mem_cons.mpr ⟨fun c i h => st_ap hts in_X10 tyX10 tyX10_ok (by decide +kernel) h, (List.forall_mem_cons.mpr ⟨fun c i h => st_ap hts in_X11 tyX11 tyX11_ok (by decide +kernel) h, (List.forall_mem_cons.mpr ⟨fun c i h => st_ap hts in_X12 tyX12 tyX12_ok (by decide +kernel) h, (List.forall_mem_cons.mpr ⟨fun c i h => st_ap hts in_X13 tyX13 tyX13_ok (by decide +kernel) h, (List.forall_mem_cons.mpr ⟨fun c i h => st_ap hts in_X14 tyX14 tyX14_ok (by decide +kernel) h, (List.forall_mem_cons.mpr ⟨fun c i h => st_ap hts in_X15 tyX15 tyX15_ok (by decide +kernel) h, (List.forall_mem_cons.mpr ⟨fun c i h => st_ap hts in_X16 tyX16 tyX16_ok (by decide +kernel) h, (List.forall_mem_cons.mpr ⟨fun c i h => st_ap hts in_X18 tyX18 tyX18_ok (by decide +kernel) h, (List.forall_mem_cons.mpr ⟨fun c i h => st_ap hts in_E28 tyE28 tyE28_ok (by decide +kernel) h, (List.forall_mem_cons.mpr ⟨fun c i h => st_ap hts in_X2 tyX2 tyX2_ok (by decide +kernel) h, (List.forall_mem_cons.mpr ⟨fun c i h => st_ap hts in_X20 tyX20 tyX20_ok (by decide +kernel) h, (List.forall_mem_cons.mpr ⟨fun c i h => st_ap hts in_X21 tyX21 tyX21_ok (by decide +kernel) h, (List.forall_mem_cons.mpr ⟨fun c i h => st_ap hts in_E32 tyE32 tyE32_ok (by decide +kernel) h, (List.forall_mem_cons.mpr ⟨fun c i h => st_ap hts in_E33 tyE33 tyE33_ok (by decide +kernel) h, (List.forall_mem_cons.mpr ⟨fun c i h => st_ap hts in_E34 tyE34 tyE34_ok (by decide +kernel) h, (List.forall_mem_cons.mpr ⟨fun c i h => st_ap hts in_E35 tyE35 tyE35_ok (by decide +kernel) h, (List.forall_mem_cons.mpr ⟨fun c i h => st_ap hts in_X26 tyX26 tyX26_ok (by decide +kernel) h, (List.forall_mem_cons.mpr ⟨fun c i h => st_ap hts in_X27 tyX27 tyX27_ok (by decide +kernel) h, (List.forall_mem_cons.mpr ⟨fun c i h => st_ap hts in_X3 tyX3 tyX3_ok (by decide +kernel) h, (List.forall_mem_cons.mpr ⟨fun c i h => st_ap hts in_X5 tyX5 tyX5_ok (by decide +kernel) h, (List.forall_mem_cons.mpr ⟨fun c i h => st_ap hts in_X6 tyX6 tyX6_ok (by decide +kernel) h, (List.forall_mem_cons.mpr ⟨fun c i h => st_ap hts in_X7 tyX7 tyX7_ok (by decide +kernel) h, (List.forall_mem_cons.mpr ⟨fun c i h => st_ap hts in_X8 tyX8 tyX8_ok (by decide +kernel) h, (List.forall_mem_cons.mpr ⟨fun c i h => st_ap hts in_X9 tyX9 tyX9_ok (by decide +kernel) h, (List.forall_mem_cons.mpr ⟨fun c i h => st_ap hts in_E44 tyE44 tyE44_ok (by decide +kernel) h, (List.forall_mem_cons.mpr ⟨fun c i h => st_ap hts in_E45 tyE45 tyE45_ok (by decide +kernel) h, (List.forall_mem_cons.mpr ⟨fun c i h => st_ap hts in_E46 tyE46 tyE46_ok (by decide +kernel) h, (List.forall_mem_nil _)⟩)⟩)⟩)⟩)⟩)⟩)⟩)⟩)⟩)⟩)⟩)⟩)⟩)⟩)⟩)⟩)⟩)⟩)⟩)⟩)⟩)⟩)⟩)⟩)⟩)⟩)⟩)⟩)⟩)⟩)⟩)⟩)⟩)⟩)⟩)⟩)⟩)⟩)⟩)⟩)⟩)⟩)⟩)⟩)⟩)⟩)⟩)
theorem st_arr0 {ty : FieldType} (h : (Cond.arrayClass ty).before A0 s = true) (hn : refKind ty = false) (hr : ∀ c, s.vm.findClass ("[" ++ ty.toString) = some c → va_RA s c ty) : ∃ cA : ClassId, ArrOfT s cA ty ∧ va_RA s cA ty := by
  obtain ⟨c, k, comp, h1, h2, h3⟩ := Cond.arrayClass_spec h
  exact ⟨c, fun n z => ⟨(fun q hq => by cases hq), k, h2, comp, h3⟩, hr c h1⟩
theorem st_arr (hts : ∀ w ∈ lw_tbl, w.before A0 s = true) : ∀ t, t ≤ 5 → ∃ cA : ClassId, ArrOfT s cA (ax_ty t) ∧ va_RA s cA (ax_ty t) := by
  intro t ht
  match t, ht with
  | 0, _ => exact st_arr0 (ty := .int) (hts _ (lw_all_tbl q255)) rfl fun c h => h
  | 1, _ => exact st_arr0 (ty := .long) (hts _ (lw_all_tbl q1312)) rfl fun c h => h
  | 2, _ => exact st_arr0 (ty := .boolean) (hts _ (lw_all_tbl q464)) rfl fun c h => h
  | 3, _ => exact st_arr0 (ty := .byte) (hts _ (lw_all_tbl q556)) rfl fun c h => h
  | 4, _ =>
    obtain ⟨comp, c, k, h1, -, h2, h3, h4⟩ := Cond.arrayOver_spec (hts _ q263)
    exact ⟨c, fun n z => ⟨(fun q hq => by cases hq), k, h2, comp, h3⟩, k, comp, h2, h3, h1, h4⟩
  | 5, _ =>
    obtain ⟨comp, c, k, h1, h2, h3, h4⟩ := Cond.arrayOver_specA (hts _ q278)
    exact ⟨c, fun n z => ⟨(fun q hq => by cases hq), k, h2, comp, h3⟩, h4⟩
  | t + 6, ht => omega
def st_len : List Nat := [6, 13, 11, 13, 21]
def st_byt : List (List Int32) := [[101, 114, 114, 111, 114, 32], [32, 97, 116, 32, 116, 104, 101, 32, 108, 105, 110, 101, 32], [110, 111, 32, 97, 100, 100, 114, 101, 115, 115, 32], [110, 111, 32, 111, 112, 101, 114, 97, 116, 105, 111, 110, 32], [116, 104, 101, 32, 115, 116, 97, 99, 107, 32, 112, 111, 105, 110, 116, 101, 114, 32, 105, 115, 32]]
/-- the old things: the script, ArrayList's empty row, the cached Integers, the digits, five texts -/
def old_c (L : Nat) (xs : Nat → Int32) (i : Nat) : ax_C :=
  if i = 0 then .inl (0, L, .inl xs)
  else if i = 1 then .inl (4, 0, .inr (.inr (.inr (.inr fun _ => none))))
  else if i = 3 then .inl (6, 256, .inr (.inr (.inr (.inr fun j => some (20 + j)))))
  else if i = 4 then .inl (3, 100, .inl fun j => Int32.ofNat (48 + j / 10))
  else if i = 5 then .inl (3, 100, .inl fun j => Int32.ofNat (48 + j % 10))
  else if 20 ≤ i ∧ i < 276 then .inr (5, [.int (Int32.ofNat (i - 20) - 128)])
  else if 280 ≤ i ∧ i < 290 then (if i % 2 = 0 then .inr (3, [.ref (i + 1), .int 0]) else .inl (3, st_len.getD ((i - 280) / 2) 0, .inl fun j => (st_byt.getD ((i - 280) / 2) []).getD j 0))
  else ax_dead
def st_h (L : Nat) (xs : Nat → Int32) : ax_H := (fun i => if i < 400 then old_c L xs i else ax_dead, 0, 0)
theorem st_size {z n : Nat} (h : z.toInt32 = Int32.ofNat n) (hn : n < 2 ^ 31) : n ≤ z := by
  have h1 := congrArg (fun x : Int32 => x.toBitVec.toNat) h
  have h2 : z % 4294967296 = n % 4294967296 := by simpa using h1
  omega
theorem st_len_of {tm : Term} {n : Nat} (h : (Cond.eq (.length tm) (.int (Int32.ofNat n))).before A0 s = true) (hn : n < 2 ^ 31) : ∃ (t : Nat) (cell : Cell), tm.eval A0 s none [] s = some (.ref t) ∧ s.arrayAt? t = some cell ∧ cell.slots.size.toInt32 = Int32.ofNat n ∧ n ≤ cell.slots.size := by
  obtain ⟨t, cell, ht, hat, hv⟩ := Term.length_spec (va_eqt h)
  exact ⟨t, cell, ht, hat, (Value.int.inj hv).symm, st_size (Value.int.inj hv).symm hn⟩
/-- a row of bytes whose words are told -/
theorem st_bytes {tm : Term} {n : Nat} {f : Nat → Int32} (hn : n < 2 ^ 31) (ha : (Cond.arrayOf tm .byte).before A0 s = true) (hl : (Cond.eq (.length tm) (.int (Int32.ofNat n))).before A0 s = true) (he : ∀ j, j < n → (Cond.eq (.elem tm (.int (Int32.ofNat j))) (.int (f j))).before A0 s = true) :
    ∃ t : Nat, tm.eval A0 s none [] s = some (.ref t) ∧ t < s.heap.size ∧ ∃ cell : Cell, s.heap[t]? = some cell ∧ s.isArrayOf cell .byte ∧ cell.vm ≠ .unknown ∧ n ≤ cell.slots.size ∧ cell.slots.size.toInt32 = Int32.ofNat n ∧ ∀ j, j < n → cell.slots[j]? = some (.int (f j)) := by
  obtain ⟨t, h1, cell, q1, q2, q3, q4, q5, q6, -⟩ := va_Tof (A := fun q => s.heap.size ≤ q) (f := fun j => .int (f j)) hn ha (va_eqt hl) (fun j hj => va_eqt (he j hj)) (fun a h => Nat.not_le.mpr h)
  exact ⟨t, h1, (Array.getElem?_eq_some_iff.mp q1).1, cell, q1, q2, q3, q4, q5, q6⟩
/-- a text whose bytes are told -/
theorem st_text {tm : Term} {n : Nat} {f : Nat → Int32} (hn : n < 2 ^ 31) (hx : (Cond.exactly tm "java/lang/String").before A0 s = true) (hc : (Cond.eq (.field tm "java/lang/String" "code\x72" "B") (.int 0)).before A0 s = true) (ha : (Cond.arrayOf (.field tm "java/lang/String" "value" "[B") .byte).before A0 s = true) (hl : (Cond.eq (.length (.field tm "java/lang/String" "value" "[B")) (.int (Int32.ofNat n))).before A0 s = true) (he : ∀ j, j < n → (Cond.eq (.elem (.field tm "java/lang/String" "value" "[B") (.int (Int32.ofNat j))) (.int (f j))).before A0 s = true) :
    ∃ a t : Nat, tm.eval A0 s none [] s = some (.ref a) ∧ a < s.heap.size ∧ t < s.heap.size ∧ va_O "java/lang/String" a (fun q => s.heap.size ≤ q) s s.heap ∧ va_OF "java/lang/String" "code\x72" "B" (.int 0) a (fun q => s.heap.size ≤ q) s s.heap ∧ va_OF "java/lang/String" "value" "[B" (.ref t) a (fun q => s.heap.size ≤ q) s s.heap ∧
      ∃ cell : Cell, s.heap[t]? = some cell ∧ s.isArrayOf cell .byte ∧ cell.vm ≠ .unknown ∧ n ≤ cell.slots.size ∧ cell.slots.size.toInt32 = Int32.ofNat n ∧ ∀ j, j < n → cell.slots[j]? = some (.int (f j)) := by
  obtain ⟨a, c, cA, kA, q1, q2, q3, q4, q5, q6, -⟩ := Cond.exactly_spec (args := A0) (first := s) (o := none) (s := s) (idx := []) (t := tm) (cls := "java/lang/String") hx
  obtain ⟨t, ht, hlt, hT⟩ := st_bytes hn ha hl he
  have hlo : a < s.heap.size := (Array.getElem?_eq_some_iff.mp q3).1
  have hA : ∀ a : Nat, a < s.heap.size → ¬ (fun q => s.heap.size ≤ q) a := fun a h => Nat.not_le.mpr h
  exact ⟨a, t, q1, hlo, hlt, ⟨cA, q3, q5, by rw [q6]; exact q2, hA a hlo⟩, vk_OFof q1 (va_eqt hc) hA, vk_OFof q1 ht hA, hT⟩
theorem st_ref {tm : Term} {C : String} (hx : (Cond.exactly tm C).before A0 s = true) : ∃ a : Nat, tm.eval A0 s none [] s = some (.ref a) ∧ a < s.heap.size := by
  obtain ⟨a, c, cA, kA, q1, q2, q3, -⟩ := Cond.exactly_spec (args := A0) (first := s) (o := none) (s := s) (idx := []) (t := tm) (cls := C) hx
  exact ⟨a, q1, (Array.getElem?_eq_some_iff.mp q3).1⟩
/-- the cached Integers -/
theorem st_cache {tm : Term} (ha : (Cond.arrayOf tm (.object "java/lang/Intege\x72")).before A0 s = true) (hl : (Cond.eq (.length tm) (.int (Int32.ofNat 256))).before A0 s = true) (hall : (Cond.all tm (.and (.exactly (.elem tm (.index 0)) "java/lang/Intege\x72") (.eq (.field (.elem tm (.index 0)) "java/lang/Intege\x72" "value" "I") (.sub (.index 0) (.int 128))))).before A0 s = true) (hidx : ∀ idx, tm.eval A0 s none idx s = tm.eval A0 s none [] s) :
    ∃ (t : Nat) (ci : Nat → Nat), tm.eval A0 s none [] s = some (.ref t) ∧ t < s.heap.size ∧ (∃ cell : Cell, s.heap[t]? = some cell ∧ s.isArrayOf cell (.object "java/lang/Intege\x72") ∧ cell.vm ≠ .unknown ∧ 256 ≤ cell.slots.size ∧ cell.slots.size.toInt32 = Int32.ofNat 256 ∧ ∀ j, j < 256 → cell.slots[j]? = some (.ref (ci j))) ∧
      ∀ j, j < 256 → ci j < s.heap.size ∧ va_O "java/lang/Intege\x72" (ci j) (fun q => s.heap.size ≤ q) s s.heap ∧ va_OF "java/lang/Intege\x72" "value" "I" (.int (Int32.ofNat j - 128)) (ci j) (fun q => s.heap.size ≤ q) s s.heap := by
  obtain ⟨t, cell, ht, hat, hz, hn⟩ := st_len_of (n := 256) hl (by decide)
  obtain ⟨hcell, hkn, -, -⟩ := State.arrayAt?_spec hat
  obtain ⟨hof, -⟩ := Cond.arrayOf_spec ha ht hcell
  have hv : (Cond.all tm (.and (.exactly (.elem tm (.index 0)) "java/lang/Intege\x72") (.eq (.field (.elem tm (.index 0)) "java/lang/Intege\x72" "value" "I") (.sub (.index 0) (.int 128))))).value A0 s none s [] = some true := by
    simpa [Cond.before, Cond.holds] using hall
  have hev := Cond.all_elim ht hat hv
  have hA : ∀ a : Nat, a < s.heap.size → ¬ (fun q => s.heap.size ≤ q) a := fun a h => Nat.not_le.mpr h
  have key : ∀ j : Nat, ∃ a : Nat, j < 256 → cell.slots[j]? = some (.ref a) ∧ a < s.heap.size ∧ va_O "java/lang/Intege\x72" a (fun q => s.heap.size ≤ q) s s.heap ∧ va_OF "java/lang/Intege\x72" "value" "I" (.int (Int32.ofNat j - 128)) a (fun q => s.heap.size ≤ q) s s.heap := by
    intro j
    by_cases hj : j < 256
    · have h1 := hev j (by omega)
      have h2 : (Cond.and (.exactly (.elem tm (.index 0)) "java/lang/Intege\x72") (.eq (.field (.elem tm (.index 0)) "java/lang/Intege\x72" "value" "I") (.sub (.index 0) (.int 128)))).holds A0 s none s [j] = true := by
        unfold Cond.holds; rw [h1]; rfl
      rw [Cond.holds_and, Bool.and_eq_true] at h2
      obtain ⟨a, c, cA, kA, q1, q2, q3, q4, q5, q6, -⟩ := Cond.exactly_spec h2.1
      have hlo : a < s.heap.size := (Array.getElem?_eq_some_iff.mp q3).1
      obtain ⟨a', i', cell', g1, g2, g3, g4, g5⟩ := Term.elem_spec q1
      rw [hidx, ht] at g1
      cases g1
      cases hat.symm.trans g3
      have g6 : (Term.index 0).eval A0 s none [j] s = some (.int (Int32.ofNat j)) := rfl
      cases g6.symm.trans g2
      rw [Int32.toNatClampNeg_ofNat_of_lt (Nat.lt_trans hj (by decide))] at g5
      have hf : s.fieldOf? a "java/lang/Intege\x72" "value" "I" = some (.int (Int32.ofNat j - 128)) := by
        have h3 := h2.2
        have g7 : (Term.sub (.index 0) (.int 128)).eval A0 s none [j] s = some (.int (Int32.ofNat j - 128)) := rfl
        have g8 := va_fe (c := "java/lang/Intege\x72") (n := "value") (d := "I") q1
        cases hw : s.fieldOf? a "java/lang/Intege\x72" "value" "I" with
        | none => rw [hw] at g8; simp only [Cond.holds, Cond.value, g8, g7] at h3; simp at h3
        | some w =>
          rw [hw] at g8
          simp only [Cond.holds, Cond.value, g8, g7] at h3
          cases w <;> simp_all
      refine ⟨a, fun _ => ⟨g5, hlo, ⟨cA, q3, q5, by rw [q6]; exact q2, hA a hlo⟩, ?_⟩⟩
      have hrr : (Term.elem tm (.int (Int32.ofNat j))).eval A0 s none [] s = some (.ref a) := by
        simp only [Term.eval, ht, Option.bind_eq_bind, Option.bind_some, hat]
        have g4' : ¬ (Int32.ofNat j) < 0 := fun q => g4 (Or.inl q)
        rw [if_neg g4', Int32.toNatClampNeg_ofNat_of_lt (Nat.lt_trans hj (by decide)), g5]
      exact vk_OFof hrr (by rw [va_fe hrr, hf]) hA
    · exact ⟨0, fun h => absurd h hj⟩
  obtain ⟨ci, hci⟩ := Classical.axiomOfChoice key
  exact ⟨t, ci, ht, (Array.getElem?_eq_some_iff.mp hcell).1, ⟨cell, hcell, hof, hkn, hn, hz, fun j hj => (hci j hj).1⟩, fun j hj => (hci j hj).2⟩
end ST
