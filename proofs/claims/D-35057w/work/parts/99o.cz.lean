/-! the class assembles: the whole -/
/- with lnD lnV CLW GO OLD OLD.mono Ext Ext.tr Ext.up CPS CB AP WR CB.mv CB.set CB.ap1 CPS.mv WR.x0 al_init Ex st1 st2 s2T skS sk0 sk0_inv as1 as2 asR as1_go as2_go as2_sk go1_sk LIV SKI OE OE.le OE.V R1 R2 PRE PRE.go PRE.size PRE.V PRE.old x_go1 x_go2 INV2 CAR ZB go_inv LIV.st st1_sk sk_inv useP WS WS.i XP XP.x0 xR FrP -/
section CZS
variable {H h h' : ax_H} {q0 nU c1 c2 arr cap pk pb d k p a w e l j u sec g us n t m x y b f0 f1 : Nat} {it : Nat → Nat} {lab bu : Nat → Int32} {bh wd mc v : Int32} {σ σ' σe : skT} {ls : Nat → lnD} {P : Nat → Prop} {iv : Value}
/-- a use, made -/
theorem x_newUse (hp : p + 1 = 400 + h.2.1) (h4 : 400 ≤ p) (e0 : h.1 p = .inr (26, [.int 0, .null, .int 0, .int 0])) (hd : 1 ≤ d) : Ok (ax_c d 285 [.ref p, .int v] h) (.inl none) (fun h5 => h5.2.1 = h.2.1 + 1 ∧ h5.2.2 = h.2.2 + 4 ∧ (∀ q, q < p → h5.1 q = h.1 q) ∧ h5.1 p = .inr (26, [.int v, .ref (p + 1), .int 0, .int 0]) ∧ ∃ f, h5.1 (p + 1) = .inl (0, 4, .inl f) ∧ ∀ j, j < 4 → f j = -1) := by
  obtain ⟨d, rfl, he2⟩ := d_succ hd
  refine Ok.le m_X16_init ?_
  rw [nn_ref, na_at (n := 4) (k := 4) rfl (by omega)]
  obtain ⟨hB, ehB⟩ : ∃ hB, hB = ax_new h (.inl (0, 4, ax_dat 0)) 4 := ⟨_, rfl⟩
  have B0 : hB.1 p = .inr (26, [.int 0, .null, .int 0, .int 0]) := by rw [ehB]; exact (new_ne _ _ (by omega)).trans e0
  have B1 : hB.2.1 = h.2.1 + 1 := by rw [ehB]; rfl
  have B2 : hB.2.2 = h.2.2 + 4 := by rw [ehB]; rfl
  have B3 : ∀ q, q < p → hB.1 q = h.1 q := fun q hq => by rw [ehB]; exact new_ne _ _ (by omega)
  have B4 : hB.1 (p + 1) = .inl (0, 4, ax_dat 0) := by rw [ehB, hp]; exact new_eq _ _
  rw [← ehB, ← hp]
  clear ehB
  rw [pF_aref (p := p + 1) B0 rfl (Nat.le_of_ble_eq_true rfl) (by omega), Option.bind_some]
  have C0 : (ax_set hB p (.inr (26, [.int 0, .ref (p + 1), .int 0, .int 0]))).1 p = .inr (26, [.int 0, .ref (p + 1), .int 0, .int 0]) := set_eq _
  rw [show ([.int 0, .null, .int 0, .int 0] : List Value).set 1 (.ref (p + 1)) = [.int 0, .ref (p + 1), .int 0, .int 0] from rfl, pF_int C0 rfl (Nat.le_of_ble_eq_true rfl) (by omega), Option.bind_some, show ([.int 0, .ref (p + 1), .int 0, .int 0] : List Value).set 0 (.int v) = [.int v, .ref (p + 1), .int 0, .int 0] from rfl]
  have loop : ∀ r k (h5 : ax_H), k + r = 4 → h5.2.1 = h.2.1 + 1 → h5.2.2 = h.2.2 + 4 → (∀ q, q < p → h5.1 q = h.1 q) → h5.1 p = .inr (26, [.int v, .ref (p + 1), .int 0, .int 0]) → (∃ f, h5.1 (p + 1) = .inl (0, 4, .inl f) ∧ ∀ j, j < k → f j = -1) → Ok (B_X16_init_18 (ax_c d) p (Int32.ofNat k) h5) (.inl none) (fun h5 => h5.2.1 = h.2.1 + 1 ∧ h5.2.2 = h.2.2 + 4 ∧ (∀ q, q < p → h5.1 q = h.1 q) ∧ h5.1 p = .inr (26, [.int v, .ref (p + 1), .int 0, .int 0]) ∧ ∃ f, h5.1 (p + 1) = .inl (0, 4, .inl f) ∧ ∀ j, j < 4 → f j = -1) := by
    intro r
    induction r with
    | zero =>
      rintro k h5 hk e1 e2 e3 e4 ⟨f, e5, e6⟩
      obtain rfl : k = 4 := by omega
      refine Ok.le b_X16_init_18 ?_
      rw [gA_r e4 rfl rfl, Option.bind_some, len_at e5, Option.bind_some, if_pos (Int32.le_refl _)]
      exact Ok.ret ⟨e1, e2, e3, e4, f, e5, e6⟩
    | succ r ih =>
      rintro k h5 hk e1 e2 e3 e4 ⟨f, e5, e6⟩
      refine Ok.le b_X16_init_18 ?_
      rw [gA_r e4 rfl rfl, Option.bind_some, len_at e5, Option.bind_some, if_neg (i_ge_not (by omega) (by omega)), Option.bind_some, sI_at e5 (by omega), ix_of rfl (show k < 4 by omega) (by omega), Option.bind_some, Option.bind_some, lt_at, show Int32.ofNat k + 1 = Int32.ofNat (k + 1) from i_add k 1]
      refine ih (k + 1) _ (by omega) e1 e2 (fun q hq => (set_ne _ (by omega)).trans (e3 q hq)) ((set_ne _ (by omega)).trans e4) ⟨_, set_eq _, fun j hj => ?_⟩
      show (if j = k then -1 else f j) = -1
      by_cases z : j = k
      · rw [if_pos z]
      · rw [if_neg z]; exact e6 j (by omega)
  exact loop 4 0 _ rfl B1 B2 (fun q hq => (set_ne _ (by omega)).trans ((set_ne _ (by omega)).trans (B3 q hq))) (set_eq _) ⟨fun _ => 0, (set_ne _ (by omega)).trans ((set_ne _ (by omega)).trans B4), fun j hj => absurd hj (Nat.not_lt_zero _)⟩
/-- a pass, made -/
theorem x_pass0 (n : Nat) (hpk : pk = 27 ∨ pk = 30) (hp : pb + 1 = 400 + h.2.1) (h4 : 400 ≤ pb) (e0 : h.1 pb = .inr (pk, .null :: .int 0 :: .null :: .null :: .null :: .int 0 :: .int 0 :: .null :: psT pk q0)) (hd : 1 ≤ d) : Ok (ax_c d 286 [.ref pb, .ref 400] h) (.inl none) (fun h5 => h5.2.1 = h.2.1 + 4 ∧ h5.2.2 = h.2.2 + 17 ∧ (∀ q, q < pb → h5.1 q = h.1 q) ∧ CPS pk q0 pb (sk0 n) h5) := by
  obtain ⟨d, rfl, he2⟩ := d_succ hd
  have lk : ∀ j : Nat, [(27, j), (30, j)].lookup pk = some j := fun j => by rcases hpk with rfl | rfl <;> rfl
  have step : ∀ {fs : List Value} {hh : ax_H} (t nn : Nat), hh.1 pb = .inr (pk, fs) → pb < 400 + hh.2.1 → (ax_new hh (.inl (t, nn, ax_dat 0)) nn).1 pb = .inr (pk, fs) := fun t nn z1 z2 => (new_ne _ _ (by omega)).trans z1
  refine Ok.le (m_X17_init rfl) ?_
  rw [pF_oref e0 (lk 7) (by simp) h4, Option.bind_some, nn_ref, na_at (n := 2) (k := 2) rfl (by omega)]
  obtain ⟨hA, ehA⟩ : ∃ hA, hA = ax_set h pb (.inr (pk, .null :: .int 0 :: .null :: .null :: .null :: .int 0 :: .int 0 :: .ref 400 :: psT pk q0)) := ⟨_, rfl⟩
  rw [show (Value.null :: .int 0 :: .null :: .null :: .null :: .int 0 :: .int 0 :: .null :: psT pk q0).set 7 (.ref 400) = .null :: .int 0 :: .null :: .null :: .null :: .int 0 :: .int 0 :: .ref 400 :: psT pk q0 from rfl, ← ehA]
  have A0 : hA.1 pb = .inr (pk, .null :: .int 0 :: .null :: .null :: .null :: .int 0 :: .int 0 :: .ref 400 :: psT pk q0) := by rw [ehA]; exact set_eq _
  have A1 : hA.2 = h.2 := by rw [ehA]; rfl
  have A2 : ∀ q, q < pb → hA.1 q = h.1 q := fun q hq => by rw [ehA]; exact set_ne _ (by omega)
  clear ehA
  have pA : 400 + hA.2.1 = pb + 1 := by rw [A1]; omega
  rw [pA]
  -- sizes
  obtain ⟨hB, ehB⟩ : ∃ hB, hB = ax_set (ax_new hA (.inl (0, 2, ax_dat 0)) 2) pb (.inr (pk, .ref (pb + 1) :: .int 0 :: .null :: .null :: .null :: .int 0 :: .int 0 :: .ref 400 :: psT pk q0)) := ⟨_, rfl⟩
  rw [pF_aref (p := pb + 1) (step 0 2 A0 (by omega)) (lk 0) (by simp) h4, Option.bind_some, show (Value.null :: .int 0 :: .null :: .null :: .null :: .int 0 :: .int 0 :: .ref 400 :: psT pk q0).set 0 (.ref (pb + 1)) = .ref (pb + 1) :: .int 0 :: .null :: .null :: .null :: .int 0 :: .int 0 :: .ref 400 :: psT pk q0 from rfl, ← ehB, na_at (n := 5) (k := 5) rfl (by omega)]
  have B0 : hB.1 pb = .inr (pk, .ref (pb + 1) :: .int 0 :: .null :: .null :: .null :: .int 0 :: .int 0 :: .ref 400 :: psT pk q0) := by rw [ehB]; exact set_eq _
  have B1 : hB.2.1 = h.2.1 + 1 := by rw [ehB]; show hA.2.1 + 1 = _; rw [A1]
  have B2 : hB.2.2 = h.2.2 + 2 := by rw [ehB]; show hA.2.2 + 2 = _; rw [A1]
  have B3 : ∀ q, q < pb → hB.1 q = h.1 q := fun q hq => by rw [ehB]; exact (set_ne _ (by omega)).trans ((new_ne _ _ (by omega)).trans (A2 q hq))
  have B4 : hB.1 (pb + 1) = .inl (0, 2, ax_dat 0) := by rw [ehB, ← pA]; exact (set_ne _ (by omega)).trans (new_eq _ _)
  clear ehB
  have pB : 400 + hB.2.1 = pb + 2 := by omega
  rw [pB]
  -- begins
  obtain ⟨hC, ehC⟩ : ∃ hC, hC = ax_set (ax_new hB (.inl (0, 5, ax_dat 0)) 5) pb (.inr (pk, .ref (pb + 1) :: .int 0 :: .ref (pb + 2) :: .null :: .null :: .int 0 :: .int 0 :: .ref 400 :: psT pk q0)) := ⟨_, rfl⟩
  rw [pF_aref (p := pb + 2) (step 0 5 B0 (by omega)) (lk 2) (by simp) h4, Option.bind_some, show (Value.ref (pb + 1) :: .int 0 :: .null :: .null :: .null :: .int 0 :: .int 0 :: .ref 400 :: psT pk q0).set 2 (.ref (pb + 2)) = .ref (pb + 1) :: .int 0 :: .ref (pb + 2) :: .null :: .null :: .int 0 :: .int 0 :: .ref 400 :: psT pk q0 from rfl, ← ehC, na_at (n := 5) (k := 5) rfl (by omega)]
  have C0 : hC.1 pb = .inr (pk, .ref (pb + 1) :: .int 0 :: .ref (pb + 2) :: .null :: .null :: .int 0 :: .int 0 :: .ref 400 :: psT pk q0) := by rw [ehC]; exact set_eq _
  have C1 : hC.2.1 = h.2.1 + 2 := by rw [ehC]; show hB.2.1 + 1 = _; omega
  have C2 : hC.2.2 = h.2.2 + 7 := by rw [ehC]; show hB.2.2 + 5 = _; omega
  have C3 : ∀ q, q < pb + 2 → q ≠ pb → hC.1 q = hB.1 q := fun q hq hne => by rw [ehC]; exact (set_ne _ hne).trans (new_ne _ _ (by omega))
  have C4 : hC.1 (pb + 2) = .inl (0, 5, ax_dat 0) := by rw [ehC, ← pB]; exact (set_ne _ (by omega)).trans (new_eq _ _)
  clear ehC
  have pC : 400 + hC.2.1 = pb + 3 := by omega
  rw [pC]
  -- ends
  obtain ⟨hD, ehD⟩ : ∃ hD, hD = ax_set (ax_new hC (.inl (0, 5, ax_dat 0)) 5) pb (.inr (pk, .ref (pb + 1) :: .int 0 :: .ref (pb + 2) :: .ref (pb + 3) :: .null :: .int 0 :: .int 0 :: .ref 400 :: psT pk q0)) := ⟨_, rfl⟩
  rw [pF_aref (p := pb + 3) (step 0 5 C0 (by omega)) (lk 3) (by simp) h4, Option.bind_some, show (Value.ref (pb + 1) :: .int 0 :: .ref (pb + 2) :: .null :: .null :: .int 0 :: .int 0 :: .ref 400 :: psT pk q0).set 3 (.ref (pb + 3)) = .ref (pb + 1) :: .int 0 :: .ref (pb + 2) :: .ref (pb + 3) :: .null :: .int 0 :: .int 0 :: .ref 400 :: psT pk q0 from rfl, ← ehD, na_at (n := 5) (k := 5) rfl (by omega)]
  have D0 : hD.1 pb = .inr (pk, .ref (pb + 1) :: .int 0 :: .ref (pb + 2) :: .ref (pb + 3) :: .null :: .int 0 :: .int 0 :: .ref 400 :: psT pk q0) := by rw [ehD]; exact set_eq _
  have D1 : hD.2.1 = h.2.1 + 3 := by rw [ehD]; show hC.2.1 + 1 = _; omega
  have D2 : hD.2.2 = h.2.2 + 12 := by rw [ehD]; show hC.2.2 + 5 = _; omega
  have D3 : ∀ q, q < pb + 3 → q ≠ pb → hD.1 q = hC.1 q := fun q hq hne => by rw [ehD]; exact (set_ne _ hne).trans (new_ne _ _ (by omega))
  have D4 : hD.1 (pb + 3) = .inl (0, 5, ax_dat 0) := by rw [ehD, ← pC]; exact (set_ne _ (by omega)).trans (new_eq _ _)
  clear ehD
  have pD : 400 + hD.2.1 = pb + 4 := by omega
  rw [pD]
  -- used
  obtain ⟨hE, ehE⟩ : ∃ hE, hE = ax_set (ax_new hD (.inl (2, 5, ax_dat 0)) 5) pb (.inr (pk, psF (psT pk q0) pb 0 0 0)) := ⟨_, rfl⟩
  rw [pF_aref (p := pb + 4) (step 2 5 D0 (by omega)) (lk 4) (by simp) h4, Option.bind_some, show (Value.ref (pb + 1) :: .int 0 :: .ref (pb + 2) :: .ref (pb + 3) :: .null :: .int 0 :: .int 0 :: .ref 400 :: psT pk q0).set 4 (.ref (pb + 4)) = psF (psT pk q0) pb 0 0 0 from rfl, ← ehE]
  have E0 : hE.1 pb = .inr (pk, psF (psT pk q0) pb 0 0 0) := by rw [ehE]; exact set_eq _
  have E1 : hE.2.1 = h.2.1 + 4 := by rw [ehE]; show hD.2.1 + 1 = _; omega
  have E2 : hE.2.2 = h.2.2 + 17 := by rw [ehE]; show hD.2.2 + 5 = _; omega
  have E3 : ∀ q, q < pb + 4 → q ≠ pb → hE.1 q = hD.1 q := fun q hq hne => by rw [ehE]; exact (set_ne _ hne).trans (new_ne _ _ (by omega))
  have E4 : hE.1 (pb + 4) = .inl (2, 5, ax_dat 0) := by rw [ehE, ← pD]; exact (set_ne _ (by omega)).trans (new_eq _ _)
  clear ehE
  have loop : ∀ r k (h5 : ax_H), k + r = 5 → h5.2 = hE.2 → (∀ q, q ≠ pb + 2 → h5.1 q = hE.1 q) → (∃ f, h5.1 (pb + 2) = .inl (0, 5, .inl f) ∧ ∀ j, j < k → f j = -1) → Ok (B_X17_init_39 (ax_c d) pb (Int32.ofNat k) h5) (.inl none) (fun h5 => h5.2 = hE.2 ∧ (∀ q, q ≠ pb + 2 → h5.1 q = hE.1 q) ∧ ∃ f, h5.1 (pb + 2) = .inl (0, 5, .inl f) ∧ ∀ j, j < 5 → f j = -1) := by
    intro r
    induction r with
    | zero =>
      rintro k h5 hk e1 e3 ⟨f, e5, e6⟩
      obtain rfl : k = 5 := by omega
      refine Ok.le b_X17_init_39 ?_
      rw [if_pos (by decide)]
      exact Ok.ret ⟨e1, e3, f, e5, e6⟩
    | succ r ih =>
      rintro k h5 hk e1 e3 ⟨f, e5, e6⟩
      refine Ok.le b_X17_init_39 ?_
      have e4 : h5.1 pb = _ := (e3 pb (by omega)).trans E0
      rw [if_neg (show ¬ (5 : Int32) ≤ Int32.ofNat k from i_ge_not (n := 5) (by omega) (by omega)), gA_r e4 (lk 2) rfl, Option.bind_some, sI_at e5 (by omega), ix_of rfl (show k < 5 by omega) (by omega), Option.bind_some, Option.bind_some, lt_at, show Int32.ofNat k + 1 = Int32.ofNat (k + 1) from i_add k 1]
      refine ih (k + 1) _ (by omega) e1 (fun q hq => (set_ne _ hq).trans (e3 q hq)) ⟨_, set_eq _, fun j hj => ?_⟩
      show (if j = k then -1 else f j) = -1
      by_cases z : j = k
      · rw [if_pos z]
      · rw [if_neg z]; exact e6 j (by omega)
  have E5 : hE.1 (pb + 2) = .inl (0, 5, ax_dat 0) := (E3 _ (by omega) (by omega)).trans ((D3 _ (by omega) (by omega)).trans C4)
  refine Ok.imp (loop 5 0 hE rfl rfl (fun _ _ => rfl) ⟨fun _ => 0, E5, fun j hj => absurd hj (Nat.not_lt_zero _)⟩) ?_
  rintro h5 ⟨s1, s2, f, s3, s4⟩
  refine ⟨by rw [s1]; exact E1, by rw [s1]; exact E2, fun q hq => ?_, hpk, (s2 _ (by omega)).trans E0, ⟨fun _ => 0, ?_, rfl, rfl⟩, ⟨f, fun _ => 0, s3, ?_, fun m hm => ⟨fun _ => s4 m hm, fun x y z => (by cases z)⟩⟩, fun _ => 0, (s2 _ (by omega)).trans E4, fun m hm => ?_⟩
  · rw [s2 _ (by omega), E3 _ (by omega) (by omega), D3 _ (by omega) (by omega), C3 _ (by omega) (by omega)]; exact B3 q hq
  · rw [s2 _ (by omega), E3 _ (by omega) (by omega), D3 _ (by omega) (by omega), C3 _ (by omega) (by omega)]; exact B4
  · rw [s2 _ (by omega), E3 _ (by omega) (by omega)]; exact D4
  · rw [if_neg]
    rintro ⟨f, f1, f2⟩
    have : f = (0, n, 0, 5) := List.mem_singleton.mp f1
    rw [this] at f2
    exact absurd f2 (by show ¬ 5 = m; omega)
/-- more is made behind -/
theorem CB.grow (C : CB H q0 nU c1 c2 it lab bu bh wd mc arr cap h) (e : ∀ q, q < 400 + h.2.1 → h'.1 q = h.1 q) (s1 : h.2.1 ≤ h'.2.1) (s2 : h.2.2 ≤ h'.2.2) (s3 : h'.2.1 ≤ h.2.1 + x) (s4 : h'.2.2 ≤ h.2.2 + y) : CB H q0 nU (c1 + x) (c2 + y) it lab bu bh wd mc arr cap h' := by
  obtain ⟨a1, ⟨b1, b2, b3, b4, b5⟩, a3, a4, ⟨f0, a5, a5'⟩, ⟨sx, sy, a6⟩, ⟨f1, a7, a7'⟩, ⟨fm, a8, a8'⟩, a9, ⟨a10, a10', a10''⟩, a11, a12⟩ := C
  have arlt : arr < 400 + h.2.1 := a9.2.2.2.2.2.2.2.2
  refine ⟨a1, ⟨fun q hq => (e q (by omega)).trans (b1 q hq), by omega, by omega, by omega, by omega⟩, by omega, (e _ (by omega)).trans a4, ⟨f0, (e _ (by omega)).trans a5, a5'⟩, ⟨sx, sy, (e _ (by omega)).trans a6⟩, ⟨f1, (e _ (by omega)).trans a7, a7'⟩, ⟨fm, (e _ (by omega)).trans a8, a8'⟩, a9.mono (e _ (by omega)) (e _ arlt) s1, ⟨a10, a10', a10''⟩, fun k hk => ?_, a12⟩
  obtain ⟨z1, ⟨m', xx', yy', z2, z3⟩, f, z4, z5⟩ := a11 k hk
  exact ⟨⟨z1.1, by omega, z1.2.2⟩, ⟨m', xx', yy', z2, (e _ (by omega)).trans z3⟩, f, (e _ (by omega)).trans z4, z5⟩
/-- the assembly's numbers -/
theorem CB.num (C : CB H q0 nU c1 c2 it lab bu bh wd mc arr cap h) (x : Int32) : ∃ h', dx_pF [(25, 4)] .int (.ref q0) (.int x) h = some h' ∧ CB H q0 nU c1 c2 it lab bu x wd mc arr cap h' ∧ ∃ c, h' = ax_set h q0 c := by
  obtain ⟨a1, ⟨b1, b2, b3, b4, b5⟩, a3, a4, ⟨f0, a5, a5'⟩, ⟨sx, sy, a6⟩, ⟨f1, a7, a7'⟩, ⟨fm, a8, a8'⟩, a9, ⟨a10, a10', a10''⟩, a11, a12⟩ := C
  refine ⟨_, pF_int a4 rfl (Nat.le_of_ble_eq_true rfl) (by omega), ⟨a1, ⟨fun q hq => (set_ne _ (by omega)).trans (b1 q hq), b2, b3, b4, b5⟩, a3, set_eq _, ⟨f0, (set_ne _ (by omega)).trans a5, a5'⟩, ⟨sx, sy, (set_ne _ (by omega)).trans a6⟩, ⟨f1, (set_ne _ (by omega)).trans a7, a7'⟩, ⟨fm, (set_ne _ (by omega)).trans a8, a8'⟩, a9.mono (set_ne _ (by omega)) (set_ne _ (by omega)) (Nat.le_refl _), ⟨a10, a10', a10''⟩, fun k hk => ?_, a12⟩, _, rfl⟩
  obtain ⟨z1, ⟨m', xx', yy', z2, z3⟩, f, z4, z5⟩ := a11 k hk
  exact ⟨z1, ⟨m', xx', yy', z2, (set_ne _ (by omega)).trans z3⟩, f, (set_ne _ (by omega)).trans z4, z5⟩
theorem CB.num5 (C : CB H q0 nU c1 c2 it lab bu bh wd mc arr cap h) (x : Int32) : ∃ h', dx_pF [(25, 5)] .int (.ref q0) (.int x) h = some h' ∧ CB H q0 nU c1 c2 it lab bu bh x mc arr cap h' ∧ ∃ c, h' = ax_set h q0 c := by
  obtain ⟨a1, ⟨b1, b2, b3, b4, b5⟩, a3, a4, ⟨f0, a5, a5'⟩, ⟨sx, sy, a6⟩, ⟨f1, a7, a7'⟩, ⟨fm, a8, a8'⟩, a9, ⟨a10, a10', a10''⟩, a11, a12⟩ := C
  refine ⟨_, pF_int a4 rfl (Nat.le_of_ble_eq_true rfl) (by omega), ⟨a1, ⟨fun q hq => (set_ne _ (by omega)).trans (b1 q hq), b2, b3, b4, b5⟩, a3, set_eq _, ⟨f0, (set_ne _ (by omega)).trans a5, a5'⟩, ⟨sx, sy, (set_ne _ (by omega)).trans a6⟩, ⟨f1, (set_ne _ (by omega)).trans a7, a7'⟩, ⟨fm, (set_ne _ (by omega)).trans a8, a8'⟩, a9.mono (set_ne _ (by omega)) (set_ne _ (by omega)) (Nat.le_refl _), ⟨a10, a10', a10''⟩, fun k hk => ?_, a12⟩, _, rfl⟩
  obtain ⟨z1, ⟨m', xx', yy', z2, z3⟩, f, z4, z5⟩ := a11 k hk
  exact ⟨z1, ⟨m', xx', yy', z2, (set_ne _ (by omega)).trans z3⟩, f, (set_ne _ (by omega)).trans z4, z5⟩
end CZS
