/-! what a call plans is within bounds -/
/- with FSI.cong FSI.fw FSI.name FSI.size FSI.app1 FSI.app2 FSI.repl FSI.rmv rmT trnW usB appS1 appS2 rmvS addS noS -/
theorem of_bits {x : Int32} (h : ∀ k, 16 ≤ k → k < 32 → bt x k = false) : rg 65535 x := by
  have lt : x.toBitVec.toNat < 2 ^ 16 := by
    refine Nat.lt_pow_two_of_testBit _ fun i hi => ?_
    rcases Nat.lt_or_ge i 32 with z | z
    · exact h i hi z
    · exact BitVec.getLsbD_of_ge x.toBitVec i z
  have e : x = Int32.ofNat x.toBitVec.toNat := by
    apply Int32.toBitVec_inj.mp
    show x.toBitVec = BitVec.ofNat 32 x.toBitVec.toNat
    rw [BitVec.ofNat_toNat, BitVec.setWidth_eq]
  rw [e]
  exact rg.of (by omega) (by omega)
theorem to_bits {x : Int32} (h : rg 65535 x) : ∀ k, 16 ≤ k → k < 32 → bt x k = false := by
  obtain ⟨n1, n2⟩ := rg.nat h
  intro k hk _
  rw [n2]
  exact bt_small (by omega) hk
theorem trn_rg {D : Nat → Int32} {b : Nat} (hb : b < 32) (hD : ∀ a, a < 256 → rg 65535 (D a)) : ∀ a, a < 256 → rg 65535 (trnW D b a) := by
  intro a ha
  unfold trnW bitI
  rw [upd_at]
  by_cases e : a = 32 + b / 16
  · rw [if_pos e]
    refine of_bits fun k h1 h2 => ?_
    rw [bt_xor, bt_shl1 _ (by omega) k h2, to_bits (hD _ (by omega)) k h1 h2]
    have : ¬ k = b % 16 := by omega
    simp [this]
  · rw [if_neg e]; exact hD a ha
theorem rmT_rg {D : Nat → Int32} {b : Nat → Nat} (hb32 : ∀ k, k < 2 → b k < 32) (hD : ∀ a, a < 256 → rg 65535 (D a)) : ∀ k, k ≤ 2 → ∀ a, a < 256 → rg 65535 (rmT D b k a) := by
  intro k
  induction k with
  | zero => intro _; exact hD
  | succ k ih =>
    intro hk
    show ∀ a, a < 256 → rg 65535 ((if b k = 0 then rmT D b k else trnW (rmT D b k) (b k)) a)
    by_cases q : b k = 0
    · rw [if_pos q]; exact ih (by omega)
    · rw [if_neg q]; exact trn_rg (hb32 k (by omega)) (ih (by omega))
theorem ent_rg {D : Nat → Int32} {n k : Nat} {x : Int32} (hx : rg 65535 x) (hD : ∀ a, a < 256 → rg 65535 (D a)) : ∀ a, a < 256 → rg 65535 (entW D n k x a) := by
  intro a ha
  unfold entW
  rw [upd_at]
  split
  · exact hx
  · exact hD a ha
/-- what is said of a plan -/
def GP (D : Nat → Int32) (o : ce_W × Int32 × (Nat → Prop) × (Nat → Int32)) : Prop := (o.2.2.1 = noS ∧ (∃ r, r ≤ 9 ∧ o.2.1 = Int32.ofNat r) ∧ (o.1 = [] ∨ ∃ p x, o.1 = [(p, x)] ∧ (p = 13 ∨ p = 14) ∧ rg 65535 x)) ∨ (o.1 = [] ∧ (1 ≤ cntS o.2.2.1 32 ∧ cntS o.2.2.1 32 ≤ 3) ∧ (∀ q, o.2.2.1 q → 4 ≤ q ∧ q < 32) ∧ FSI o.2.2.2 ∧ (∀ a, a < 256 → rg 65535 (o.2.2.2 a)) ∧ ∀ a, a < 256 → ¬ o.2.2.1 (a / 8) → o.2.2.2 a = D a)
theorem rmv_ok {D : Nat → Int32} {n : Nat} (I : FSI D) (hn : n < 6) (hD : ∀ a, a < 256 → rg 65535 (D a)) : (∀ a, a < 256 → rg 65535 (rmvW D n 4 0 D a)) ∧ ∀ a, ¬ rmvS D n noS (a / 8) → rmvW D n 4 0 D a = D a := by
  obtain ⟨v0, v01, v02, v03⟩ := (I.1 n hn).2.2 0 (by omega)
  obtain ⟨v1, v11, v12, v13⟩ := (I.1 n hn).2.2 1 (by omega)
  have hb32 : ∀ k, k < 2 → (fun k => if k = 0 then v0 else v1) k < 32 := fun k hk => by show (if k = 0 then v0 else v1) < 32; split <;> assumption
  have hb : ∀ k, k < 2 → D (40 + 4 * n + (2 + k)) = Int32.ofNat ((fun k => if k = 0 then v0 else v1) k) := fun k hk => by
    show _ = Int32.ofNat (if k = 0 then v0 else v1)
    obtain rfl | rfl : k = 0 ∨ k = 1 := by omega
    · rw [if_pos rfl]; exact v02
    · rw [if_neg (by omega)]; exact v12
  have at' := rmv_at I hn hb hb32
  refine ⟨fun a ha => ?_, fun a hS => ?_⟩
  · rw [at']
    split
    · exact rg.of (n := 0) (by omega) (by omega)
    · exact rmT_rg hb32 hD 2 (by omega) a ha
  · have hS : ¬ (noS (a / 8) ∨ a / 8 = 5 + n / 2 ∨ (a / 8 = 4 ∧ (¬ D (40 + 4 * n + 2) = 0 ∨ ¬ D (40 + 4 * n + 3) = 0))) := hS
    rw [at', if_neg (fun z => hS (Or.inr (Or.inl (by omega))))]
    by_cases e4 : a / 8 = 4
    · have z2 : D (40 + 4 * n + 2) = 0 := Decidable.of_not_not fun z => hS (Or.inr (Or.inr ⟨e4, Or.inl z⟩))
      have z3 : D (40 + 4 * n + 3) = 0 := Decidable.of_not_not fun z => hS (Or.inr (Or.inr ⟨e4, Or.inr z⟩))
      have v00 : v0 = 0 := (i_eq (b := 0) (by omega) (by omega)).mp (v02.symm.trans z2)
      have v10 : v1 = 0 := (i_eq (b := 0) (by omega) (by omega)).mp (v12.symm.trans z3)
      have e1 : rmT D (fun k => if k = 0 then v0 else v1) 1 = D := if_pos v00
      have e2 : rmT D (fun k => if k = 0 then v0 else v1) 2 = rmT D (fun k => if k = 0 then v0 else v1) 1 := if_pos v10
      rw [e2, e1]
    · exact rmT_hi hb32 (by omega) 2 (by omega)
theorem plan_ok {c : Nat → Int32} (C : WC c) (I : FSI (ds c)) {y : Nat} (hy : y ≤ 65535) : GP (ds c) (plO c (Int32.ofNat y)) := by
  have hD : ∀ a, a < 256 → rg 65535 (ds c a) := C.2.2.2.2.2.2
  have h12 : rg 65535 (c 12) := C.2.2.1 0 (by omega)
  have h13 : rg 65535 (c 13) := C.2.2.1 1 (by omega)
  have h14 : rg 65535 (c 14) := C.2.2.1 2 (by omega)
  have no0 : ∀ r : Nat, r ≤ 9 → GP (ds c) ([], Int32.ofNat r, noS, ds c) := fun r hr => Or.inl ⟨rfl, ⟨r, hr, rfl⟩, Or.inl rfl⟩
  unfold plO
  dsimp only
  by_cases p6 : ¬ Int32.ofNat y ≤ 6
  · rw [if_pos p6]; exact no0 9 (by omega)
  rw [if_neg p6]
  by_cases p0 : Int32.ofNat y = 0
  · rw [if_pos p0]
    by_cases q1 : c 12 = 0
    · rw [if_pos q1]; exact no0 1 (by omega)
    rw [if_neg q1, if_neg q1]
    by_cases q2 : ¬ findF (ds c) (c 12) = -1
    · rw [if_pos q2]; exact no0 1 (by omega)
    rw [if_neg q2]
    rcases findF_nat (ds c) 0 with q3 | ⟨g, g1, g2, g3⟩
    · rw [if_pos q3]; exact no0 2 (by omega)
    rw [g2, if_neg (ofNat_ne_neg (by omega)), nn_of (by omega)]
    refine Or.inr ⟨rfl, cnt_b (t0 := 5 + g / 2) (t1 := 5 + g / 2) (t2 := 5 + g / 2) (fun q hq => hq.elim (fun z => z.elim) Or.inl) (q := 5 + g / 2) (Or.inr rfl) (by omega), fun q hq => ?_, I.name g1 q1, ent_rg h12 hD, fun a ha hS => ?_⟩
    · rcases hq with z | z
      · exact z.elim
      · omega
    · refine upd_ne _ _ fun e => hS (Or.inr (by omega))
  rw [if_neg p0]
  generalize hfi : (if c 12 = 0 then (-1 : Int32) else findF (ds c) (c 12)) = fi
  by_cases q2 : fi = -1
  · rw [if_pos q2]; exact no0 1 (by omega)
  rw [if_neg q2]
  have q1 : c 12 ≠ 0 := fun z => q2 (by rw [← hfi, if_pos z])
  rw [if_neg q1] at hfi
  obtain ⟨f, n6, f2, f3⟩ := (findF_nat (ds c) (c 12)).resolve_left (fun z => q2 (hfi.symm.trans z))
  have hf0 : ds c (40 + 4 * f) ≠ 0 := by rw [f3]; exact q1
  obtain ⟨i1, ⟨z, z1, z2, z3⟩, i3⟩ := I.1 f n6
  obtain ⟨n13, m13⟩ := rg.nat h13
  rw [← hfi, f2, nn_of (show f < 2 ^ 31 by omega), z2, nn_of (show z < 2 ^ 31 by omega)]
  have bk : ∀ j, j < 2 → 8 * j < z → ∃ v, v < 32 ∧ 8 ≤ v ∧ ds c (40 + 4 * f + (2 + j)) = Int32.ofNat v := by
    intro j hj hz
    obtain ⟨v, v1, v2, v3⟩ := i3 j hj
    refine ⟨v, v1, (v3 fun v0 => ?_).1, v2⟩
    have := (z3 j hj).mp (by rw [v2, v0]; rfl)
    omega
  have ltz : c 13 < Int32.ofNat z ↔ nn (c 13) < z := by
    have := i_lt (a := nn (c 13)) (b := z) (by omega) (by omega)
    rw [← m13] at this; exact this
  by_cases k1 : Int32.ofNat y = 1
  · rw [if_pos k1]
    by_cases w16 : z = 16
    · rw [if_pos w16]; exact no0 2 (by omega)
    rw [if_neg w16]
    by_cases w8 : ¬ z % 8 = 0
    · rw [if_pos w8]
      obtain ⟨v, v2, v1, v3⟩ := bk (z / 8) (by omega) (by omega)
      rw [v3, nn_of (show v < 2 ^ 31 by omega)]
      refine Or.inr ⟨rfl, cnt_b (t0 := v) (t1 := 5 + f / 2) (t2 := 5 + f / 2) (fun q hq => hq.imp id Or.inl) (q := v) (Or.inl rfl) v2, fun q hq => ?_, I.app1 n6 z2 w8 (by omega) v1, fun a ha => ?_, fun a ha hS => ?_⟩
      · rcases hq with z | z <;> omega
      · show rg 65535 (entW (upd (ds c) (8 * v + z % 8) (c 13)) f 1 (Int32.ofNat (z + 1)) a)
        unfold entW
        rw [upd_at, upd_at]
        split
        · exact rg.of (by omega) (by omega)
        · split
          · exact h13
          · exact hD a ha
      · have e1 : a ≠ 40 + 4 * f + 1 := fun e => hS (Or.inr (by omega))
        have e2 : a ≠ 8 * v + z % 8 := fun e => hS (Or.inl (by omega))
        show entW (upd (ds c) (8 * v + z % 8) (c 13)) f 1 (Int32.ofNat (z + 1)) a = _
        unfold entW
        rw [upd_ne _ _ e1, upd_ne _ _ e2]
    rw [if_neg w8]
    rcases freeF_cases (ds c) with k3 | ⟨v, v1, v2, v3⟩
    · rw [if_pos k3]; exact no0 3 (by omega)
    rw [v3, if_neg (ofNat_ne_neg (by omega)), nn_of (show v < 2 ^ 31 by omega)]
    have nu := freeF_not v2 v3
    have at' := app2_at (x := c 13) (z := z) n6 (by omega) v1 v2 nu
    refine Or.inr ⟨rfl, cnt_b (t0 := v) (t1 := 4) (t2 := 5 + f / 2) (fun q hq => hq) (q := 4) (Or.inr (Or.inl rfl)) (by omega), fun q hq => ?_, I.app2 n6 z2 (by omega) (by omega) v1 v2 nu hf0, fun a ha => ?_, fun a ha hS => ?_⟩
    · rcases hq with z | z | z <;> omega
    · show rg 65535 (appW2 (ds c) f z v (c 13) a)
      rw [at']
      split
      · exact rg.of (by omega) (by omega)
      split
      · exact rg.of (by omega) (by omega)
      split
      · exact h13
      split
      · exact rg.of (n := 0) (by omega) (by omega)
      · exact trn_rg v2 hD a ha
    · have hS : ¬ (a / 8 = v ∨ a / 8 = 4 ∨ a / 8 = 5 + f / 2) := hS
      show appW2 (ds c) f z v (c 13) a = _
      rw [at', if_neg (show ¬ a = 40 + 4 * f + 1 by omega), if_neg (show ¬ a = 40 + 4 * f + (2 + z / 8) by omega), if_neg (show ¬ a = 8 * v + z % 8 by omega), if_neg (show ¬ (8 * v ≤ a ∧ a < 8 * v + 8) by omega)]
      exact upd_ne _ _ (by omega)
  rw [if_neg k1]
  by_cases k2 : Int32.ofNat y = 2
  · rw [if_pos k2]
    by_cases q : c 13 < Int32.ofNat z
    · rw [if_pos q]
      have lz := ltz.mp q
      obtain ⟨v, v2, v1, v3⟩ := bk (nn (c 13) / 8) (by omega) (by omega)
      rw [v3, nn_of (show v < 2 ^ 31 by omega)]
      refine Or.inr ⟨rfl, cnt_b (t0 := v) (t1 := v) (t2 := v) (fun q hq => hq.elim (fun z => z.elim) Or.inl) (q := v) (Or.inr rfl) v2, fun q hq => ?_, I.repl v1, fun a ha => ?_, fun a ha hS => ?_⟩
      · rcases hq with z | z
        · exact z.elim
        · omega
      · show rg 65535 (upd (ds c) (8 * v + nn (c 13) % 8) (c 14) a)
        rw [upd_at]
        split
        · exact h14
        · exact hD a ha
      · exact upd_ne _ _ (fun e => hS (Or.inr (by omega)))
    · rw [if_neg q]; exact no0 2 (by omega)
  rw [if_neg k2]
  by_cases k3 : Int32.ofNat y = 3
  · rw [if_pos k3]
    by_cases q : c 13 < Int32.ofNat z
    · rw [if_pos q]
      have lz := ltz.mp q
      obtain ⟨v, v2, v1, v3⟩ := bk (nn (c 13) / 8) (by omega) (by omega)
      rw [v3, nn_of (show v < 2 ^ 31 by omega)]
      exact Or.inl ⟨rfl, ⟨0, by omega, rfl⟩, Or.inr ⟨14, _, rfl, Or.inr rfl, hD _ (by omega)⟩⟩
    · rw [if_neg q]; exact no0 2 (by omega)
  rw [if_neg k3]
  by_cases k4 : Int32.ofNat y = 4
  · rw [if_pos k4]
    exact Or.inl ⟨rfl, ⟨0, by omega, rfl⟩, Or.inr ⟨13, _, rfl, Or.inl rfl, rg.of (by omega) (by omega)⟩⟩
  rw [if_neg k4]
  by_cases k5 : Int32.ofNat y = 5
  · rw [if_pos k5]
    obtain ⟨r1, r2⟩ := rmv_ok I n6 hD
    refine Or.inr ⟨rfl, cnt_b (t0 := 5 + f / 2) (t1 := 4) (t2 := 4) (fun q hq => hq.elim (fun z => z.elim) fun z => z.imp id fun z => Or.inl z.1) (q := 5 + f / 2) (Or.inr (Or.inl rfl)) (by omega), fun q hq => ?_, I.rmv n6, r1, fun a _ => r2 a⟩
    rcases hq with z | z | z
    · exact z.elim
    · omega
    · have := z.1; omega
  rw [if_neg k5]
  by_cases r0 : c 13 = 0
  · rw [if_pos r0]; exact no0 1 (by omega)
  rw [if_neg r0]
  by_cases r1 : c 13 = c 12
  · rw [if_pos r1]; exact no0 0 (by omega)
  rw [if_neg r1]
  rcases findF_nat (ds c) (c 13) with g0 | ⟨g, g1, g2, g3⟩
  · rw [if_pos g0]
    refine Or.inr ⟨rfl, cnt_b (t0 := 5 + f / 2) (t1 := 5 + f / 2) (t2 := 5 + f / 2) (fun q hq => hq.elim (fun z => z.elim) Or.inl) (q := 5 + f / 2) (Or.inr rfl) (by omega), fun q hq => ?_, I.name n6 r0, ent_rg h13 hD, fun a ha hS => upd_ne _ _ fun e => hS (Or.inr (by omega))⟩
    rcases hq with z | z
    · exact z.elim
    · omega
  · rw [g2, if_neg (ofNat_ne_neg (by omega)), nn_of (show g < 2 ^ 31 by omega)]
    obtain ⟨r1, r2⟩ := rmv_ok I g1 hD
    refine Or.inr ⟨rfl, cnt_b (t0 := 5 + f / 2) (t1 := 5 + g / 2) (t2 := 4) (fun q hq => hq.elim (fun z => z.elim (fun z => z.elim) fun z => z.elim (fun z => Or.inr (Or.inl z)) fun z => Or.inr (Or.inr z.1)) Or.inl) (q := 5 + f / 2) (Or.inr rfl) (by omega), fun q hq => ?_, (I.rmv g1).name n6 r0, ent_rg h13 r1, fun a ha hS => ?_⟩
    · rcases hq with (z | z | z) | z
      · exact z.elim
      · omega
      · have := z.1; omega
      · omega
    · have e1 : a ≠ 40 + 4 * f + 0 := fun e => hS (Or.inr (by omega))
      show entW (rmvW (ds c) g 4 0 (ds c)) f 0 (c 13) a = _
      unfold entW
      rw [upd_ne _ _ e1]
      exact r2 a fun z => hS (Or.inl z)
