/-! the class assembles: error, assemble -/
/- with lnD lnV CLW GO OLD OLD.mono Ext Ext.tr Ext.up CPS CB AP WR CB.mv CB.set CB.ap1 CB.grow CB.num CB.num5 CPS.mv CPS.lk CPS.vn CPS.sizes CPS.szS WR.x0 al_init Ex st1 st2 s2T skS sk0 sk0_inv as1 as2 asR as1_go as2_go as2_sk go1_sk LIV SKI OE OE.le OE.V R1 R2 PRE PRE.go PRE.size PRE.V PRE.old x_go1 x_go2 x_newUse x_pass0 INV2 CAR ZB go_inv LIV.st st1_sk sk_inv useP WS WS.i WS.o XP XP.x0 xR FrP erC -/
section CAZ
variable {H h h' : ax_H} {q0 nU c1 c2 arr cap pk pb d k p a w e l j u sec g us n t m x y b f0 f1 : Nat} {it : Nat → Nat} {lab bu : Nat → Int32} {bh wd mc v : Int32} {σ σ' σe : skT} {ls : Nat → lnD} {P : Nat → Prop} {iv : Value}
theorem ix16 (hk : k < 16) : ix 16 (Int32.ofNat k) = some k := ix_of rfl hk (by omega)
/-- stage: so many things and words, the assembly's fields -/
def STG (H : ax_H) (k w : Nat) (fs : List Value) (h : ax_H) : Prop := h.2.1 = H.2.1 + k ∧ h.2.2 = H.2.2 + w ∧ (∀ q, q < 400 + H.2.1 → h.1 q = H.1 q) ∧ h.1 (400 + H.2.1) = .inr (25, fs)
theorem STG.fld {fs : List Value} (S : STG H k w fs h) {ty : FieldType} {j : Nat} {v : Value} (hj : j < fs.length) (ht : ax_ft ty v = true) : ∃ h', dx_pF [(25, j)] ty (.ref (400 + H.2.1)) v h = some h' ∧ STG H k w (fs.set j v) h' ∧ ∀ q, q ≠ 400 + H.2.1 → h'.1 q = h.1 q := by
  obtain ⟨a, b, c, e⟩ := S
  exact ⟨_, pF_at e (by simp [List.lookup]) hj ht (by omega), ⟨a, b, fun q hq => (set_ne _ (by omega)).trans (c q hq), set_eq _⟩, fun q hq => set_ne _ hq⟩
theorem STG.new {fs : List Value} (S : STG H k w fs h) (hk : 0 < k) (c : ax_C) (m : Nat) : STG H (k + 1) (w + m) fs (ax_new h c m) ∧ (ax_new h c m).1 (400 + H.2.1 + k) = c ∧ (∀ q, q < 400 + H.2.1 + k → (ax_new h c m).1 q = h.1 q) ∧ 400 + h.2.1 = 400 + H.2.1 + k := by
  obtain ⟨a, b, c', e⟩ := S
  have p : 400 + h.2.1 = 400 + H.2.1 + k := by omega
  refine ⟨⟨by show h.2.1 + 1 = _; omega, by show h.2.2 + m = _; omega, fun q hq => (new_ne _ _ (by omega)).trans (c' q hq), (new_ne _ _ (by omega)).trans e⟩, by rw [← p]; exact new_eq _ _, fun q hq => new_ne _ _ (by omega), p⟩
theorem x_makeWords (Z : PRE H n ls P iv) {S : skT × (Nat → Int32)} (hS : as1 ls n = .inl S) (LI : LIV S) (B : CB H q0 S.1.2.2.2.2.2 11 317 it S.2 (fun _ => 0) (Int32.ofNat (8 + S.1.2.2.2.1 0)) wd mc arr cap h) (hd : 80 ≤ d) : OE H (as2 ls n S.1 S.2) (fun _ => none) (fun S2 h' => ∃ mc arr cap, CB H q0 S.1.2.2.2.2.2 16 400 it S.2 S2.2.2 (Int32.ofNat (8 + S.1.2.2.2.1 0)) wd mc arr cap h') (ax_c d 284 [.ref q0] h) := by
  obtain ⟨n1, V⟩ := Z.V
  obtain ⟨G1, G2⟩ := as1_go V
  obtain ⟨I, len0⟩ := G2 S hS
  rw [hS] at G1
  obtain ⟨d, rfl, he⟩ := d_succ hd
  refine OE.le ?_ m_X15_makeWords
  rw [nw_at]
  have hq0 := B.1
  have h11 := B.2.2.1
  have arlt : arr < 400 + h.2.1 := B.2.2.2.2.2.2.2.2.1.2.2.2.2.2.2.2.2
  obtain ⟨hA, ehA⟩ : ∃ hA, hA = ax_new h (.inr (30, [.null, .int 0, .null, .null, .null, .int 0, .int 0, .null, .null])) 9 := ⟨_, rfl⟩
  obtain ⟨pb, epb⟩ : ∃ pb, pb = 400 + h.2.1 := ⟨_, rfl⟩
  rw [← ehA, ← epb]
  have A0 : hA.1 pb = .inr (30, [.null, .int 0, .null, .null, .null, .int 0, .int 0, .null, .null]) := by rw [ehA, epb]; exact new_eq _ _
  have A1 : hA.2.1 = h.2.1 + 1 := by rw [ehA]; rfl
  have A2 : hA.2.2 = h.2.2 + 9 := by rw [ehA]; rfl
  have A3 : ∀ q, q < pb → hA.1 q = h.1 q := fun q hq => by rw [ehA]; exact new_ne _ _ (by omega)
  clear ehA
  have init : Ok (ax_c d 357 [.ref pb, .ref q0] hA) (.inl none) (fun h5 => h5.2.1 = h.2.1 + 5 ∧ h5.2.2 = h.2.2 + 26 ∧ (∀ q, q < pb → h5.1 q = h.1 q) ∧ CPS 30 q0 pb (sk0 n) h5) := by
    obtain ⟨d, rfl, -⟩ := d_succ (k := 10) (by omega : 11 ≤ d)
    refine Ok.le (m_X20_init rfl) ?_
    rw [pF_oref A0 rfl (Nat.le_of_ble_eq_true rfl) (by omega), Option.bind_some]
    have B0 : (ax_set hA pb (.inr (30, [.null, .int 0, .null, .null, .null, .int 0, .int 0, .null, .ref q0]))).1 q0 = _ := (set_ne _ (by omega)).trans ((A3 q0 (by omega)).trans B.2.2.2.1)
    rw [show ([.null, .int 0, .null, .null, .null, .int 0, .int 0, .null, .null] : List Value).set 8 (.ref q0) = [.null, .int 0, .null, .null, .null, .int 0, .int 0, .null, .ref q0] from rfl, gA_r B0 rfl rfl, Option.bind_some]
    refine Ok.V (x_pass0 (pk := 30) (q0 := q0) n (Or.inr rfl) (h := ax_set hA pb (.inr (30, [.null, .int 0, .null, .null, .null, .int 0, .int 0, .null, .ref q0]))) (pb := pb) (by show pb + 1 = 400 + hA.2.1; omega) (by omega) (set_eq _) (by omega)) fun h5 X => ?_
    obtain ⟨x1, x2, x3, x4⟩ := X
    exact Ok.ret ⟨by rw [x1]; show hA.2.1 + 4 = _; omega, by rw [x2]; show hA.2.2 + 17 = _; omega, fun q hq => (x3 q hq).trans ((set_ne _ (by omega)).trans (A3 q hq)), x4⟩
  refine OE.V init ?_
  rintro h5 ⟨x1, x2, x3, x4⟩
  have B5 : CB H q0 S.1.2.2.2.2.2 16 400 it S.2 (fun _ => 0) (Int32.ofNat (8 + S.1.2.2.2.1 0)) wd mc arr cap h5 := by
    have := B.grow (h' := h5) (x := 5) (y := 83) (fun q hq => x3 q (by omega)) (by omega) (by omega) (by omega) (by omega)
    exact this
  obtain ⟨ea, ew, E, E1, E2⟩ := B5.ext (by have := I.2.2.2.2.2; have := I.2.2.2.2.1; omega) (by omega) (by omega)
  have g6 : dx_gA [(25, 6)] (.ref q0) h5 = some (.ref 400) := gA_r B5.2.2.2.1 rfl rfl
  have g0 : dx_gA [(19, 0)] (.ref 400) h5 = some (.ref 401) := gA_r (Z.go E) rfl rfl
  obtain ⟨v59, s59⟩ := Z.size (d := d) E (by omega)
  have g1 : dx_gA [(25, 1)] (.ref q0) h5 = some (.ref (q0 + 2)) := gA_r B5.2.2.2.1 rfl rfl
  rw [g6, Option.bind_some, g0, Option.bind_some, v59, Option.bind_some, s59, cI_v, g1, Option.bind_some, x4.vn, Option.bind_some, show (if 30 = 27 then 287 else 287) = 287 from rfl]
  have ap : ∀ j, j < 5 → AP q0 S.1.2.2.2.2.2 it arr (pb + j) := fun j hj => ⟨by omega, by omega, fun k hk => by
    have := (B.2.2.2.2.2.2.2.2.2.2.1 k hk).1; omega⟩
  have hsk : goG (skS ls n) (fun σ => σ.1.length) 604 0 (sk0 n) = some (.inl S.1) := go1_sk _ _ _ _ G1
  have X := x_go2 (σe := S.1) (f0 := S.1.2.2.2.1 0) (f1 := S.1.2.2.2.1 1) (pb := pb) (wd := wd) (mc := mc) (cap := cap) (d := d - 1) Z ap (by have := I.2.2.2.2.2; have := I.2.2.2.2.1; omega) rfl rfl I.2.2.2.1 rfl LI.2 604 0 n 0 5 [] (fun _ => none) 0 (fun _ => 0) 0 0 (0, 0) [] (fun _ => 0) h5 _ (as2_go (lab := S.2) V S.1) ⟨sk0_inv n, ⟨604, hsk⟩, fun i _ => rfl, rfl⟩ ⟨B5, x4, fun z => absurd rfl z, trivial⟩ (by show 4 * (7 - (0 + 1)) + 40 ≤ d - 1; omega)
  obtain ⟨d, rfl, -⟩ := d_succ (k := 70) (by omega : 71 ≤ d)
  rw [show useP q0 it [] 0 = q0 + 2 from if_pos rfl, show d + 1 - 1 = d from rfl] at X
  have X := OE.le X (m_X17_go (d := d) (v0 := pb) (v1 := 0) (v2 := Int32.ofNat n) (v3 := .ref (q0 + 2)) (h := h5) rfl)
  cases hr : as2 ls n S.1 S.2 with
  | inr er =>
    rw [hr] at X
    exact OkX.xV X fun i h' W => W.x0
  | inl S2 =>
    rw [hr] at X
    refine Ok.V X fun h' Y => ?_
    exact Ok.ret ⟨mc, arr, cap, Y.2.2.1⟩
theorem x_assembly (Z : PRE H n ls P iv) (hd : 90 ≤ d) : OE H (asR ls n) (fun _ => none) (fun r h' => Ext 1000 7000 H h' ∧ (∃ a b c w1, h'.1 (400 + H.2.1) = .inr (25, [a, b, c, .ref (400 + H.2.1 + 5), .int w1, .int (Int32.ofNat r.1), .ref 400])) ∧ H.2.1 + 11 ≤ h'.2.1 ∧ ∃ f, h'.1 (400 + H.2.1 + 5) = .inl (0, 256, .inl f) ∧ ∀ i, i < 256 → f i = r.2 i) (ax_c d 281 [.ref (400 + H.2.1), .ref 400] (ax_new H (.inr (25, [.null, .null, .null, .null, .int 0, .int 0, .null])) 7)) := by
  obtain ⟨n1, V⟩ := Z.V
  obtain ⟨d, rfl, he⟩ := d_succ hd
  obtain ⟨q0, eq0⟩ : ∃ q0, q0 = 400 + H.2.1 := ⟨_, rfl⟩
  refine OE.le ?_ (m_X15_init rfl)
  have SA : STG H 1 7 [.null, .null, .null, .null, .int 0, .int 0, .null] (ax_new H (.inr (25, [.null, .null, .null, .null, .int 0, .int 0, .null])) 7) := ⟨rfl, rfl, fun q hq => new_ne _ _ (by omega), new_eq _ _⟩
  obtain ⟨hB, eB, SB, -⟩ := SA.fld (ty := .object "KernelGym") (j := 6) (v := .ref 400) (Nat.le_of_ble_eq_true rfl) (ft_oref _ _)
  rw [eB, Option.bind_some, nn_ref, na_at (n := 16) (k := 16) rfl (by omega)]
  obtain ⟨SC, C1, C2, C3⟩ := SB.new (by omega) (.inl (0, 16, ax_dat 0)) 16
  rw [C3]
  generalize hCe : ax_new hB (.inl (0, 16, ax_dat 0)) 16 = hC at SC C1 C2
  obtain ⟨hD, eD, SD, D1⟩ := SC.fld (ty := .array .int) (j := 0) (v := .ref (400 + H.2.1 + 1)) (Nat.le_of_ble_eq_true rfl) (ft_aref _ _)
  rw [eD, Option.bind_some, nw_at]
  obtain ⟨SE, E1, E2, E3⟩ := SD.new (by omega) (.inr (26, [.int 0, .null, .int 0, .int 0])) 4
  rw [E3]
  generalize hEe : ax_new hD (.inr (26, [.int 0, .null, .int 0, .int 0])) 4 = hE at SE E1 E2
  have c1E : hE.1 (400 + H.2.1 + 1) = .inl (0, 16, ax_dat 0) := (E2 _ (by omega)).trans ((D1 _ (by omega)).trans C1)
  refine OE.V (x_newUse (p := 400 + H.2.1 + (1 + 1)) (v := -1) (by have := SE.1; omega) (by omega) E1 (by omega)) ?_
  rintro hF ⟨F1, F2, F3, F4, ff, F5, F6⟩
  have SF : STG H 4 31 [.ref (400 + H.2.1 + 1), .null, .null, .null, .int 0, .int 0, .ref 400] hF := ⟨by rw [F1, SE.1], by rw [F2, SE.2.1], fun q hq => (F3 q (by omega)).trans (SE.2.2.1 q hq), (F3 _ (by omega)).trans SE.2.2.2⟩
  obtain ⟨hG, eG, SG, G1⟩ := SF.fld (ty := .object "KernelGym$Use") (j := 1) (v := .ref (400 + H.2.1 + (1 + 1))) (Nat.le_of_ble_eq_true rfl) (ft_oref _ _)
  rw [eG, Option.bind_some, nw_at]
  obtain ⟨SI, I1, I2, I3⟩ := SG.new (by omega) (.inr (4, [.int 0, .null, .int 0])) 3
  rw [I3]
  generalize hIe : ax_new hG (.inr (4, [.int 0, .null, .int 0])) 3 = hI at SI I1 I2
  have o1 : ∃ f, hI.1 1 = .inl (4, 0, objs f) := by
    obtain ⟨f, o⟩ := Z.1.1
    exact ⟨f, (SI.2.2.1 1 (by omega)).trans o⟩
  refine OE.V (al_init (by omega) (by omega) (by rw [SI.1]; omega) I1 o1 (fun _ => 0)) ?_
  rintro hJ ⟨AJ, J1, J2⟩
  have SJ : STG H 5 34 [.ref (400 + H.2.1 + 1), .ref (400 + H.2.1 + 2), .null, .null, .int 0, .int 0, .ref 400] hJ := ⟨by rw [J1, SI.1], by rw [J1, SI.2.1], fun q hq => (J2 q (by omega)).trans (SI.2.2.1 q hq), (J2 _ (by omega)).trans SI.2.2.2⟩
  obtain ⟨hK, eK, SK, K1⟩ := SJ.fld (ty := .object "java/util/List") (j := 2) (v := .ref (400 + H.2.1 + 4)) (Nat.le_of_ble_eq_true rfl) (ft_oref _ _)
  rw [eK, Option.bind_some, na_at (n := 256) (k := 256) rfl (by omega)]
  obtain ⟨SL, L1, L2, L3⟩ := SK.new (by omega) (.inl (0, 256, ax_dat 0)) 256
  rw [L3]
  generalize hLe : ax_new hK (.inl (0, 256, ax_dat 0)) 256 = hL at SL L1 L2
  obtain ⟨hM, eM, SM, M1⟩ := SL.fld (ty := .array .int) (j := 3) (v := .ref (400 + H.2.1 + 5)) (Nat.le_of_ble_eq_true rfl) (ft_aref _ _)
  rw [eM, Option.bind_some]
  -- what lies there
  have m1 : hM.1 (400 + H.2.1 + 1) = .inl (0, 16, ax_dat 0) := by
    rw [M1 _ (by omega), L2 _ (by omega), K1 _ (by omega), J2 _ (by omega), I2 _ (by omega), G1 _ (by omega), F3 _ (by omega)]; exact c1E
  have m2 : hM.1 (400 + H.2.1 + 2) = .inr (26, [.int (-1), .ref (400 + H.2.1 + 3), .int 0, .int 0]) := by
    rw [M1 _ (by omega), L2 _ (by omega), K1 _ (by omega), J2 _ (by omega), I2 _ (by omega), G1 _ (by omega)]; exact F4
  have m3 : hM.1 (400 + H.2.1 + 3) = .inl (0, 4, .inl ff) := by
    rw [M1 _ (by omega), L2 _ (by omega), K1 _ (by omega), J2 _ (by omega), I2 _ (by omega), G1 _ (by omega)]; exact F5
  have m5 : hM.1 (400 + H.2.1 + 5) = .inl (0, 256, ax_dat 0) := (M1 _ (by omega)).trans L1
  have m4 : AL hM (400 + H.2.1 + 4) 0 1 0 0 (fun _ => 0) := AJ.mono ((M1 _ (by omega)).trans ((L2 _ (by omega)).trans (K1 _ (by omega)))) ((M1 _ (by omega)).trans ((L2 _ (by omega)).trans (K1 _ (by omega)))) (by rw [SM.1, SJ.1]; omega)
  have SM : STG H 6 290 [.ref (400 + H.2.1 + 1), .ref (400 + H.2.1 + 2), .ref (400 + H.2.1 + 4), .ref (400 + H.2.1 + 5), .int 0, .int 0, .ref 400] hM := SM
  -- the labels
  have loop : ∀ r k (h5 : ax_H), k + r = 16 → h5.2 = hM.2 → (∀ q, q ≠ 400 + H.2.1 + 1 → h5.1 q = hM.1 q) → (∃ f, h5.1 (400 + H.2.1 + 1) = .inl (0, 16, .inl f) ∧ ∀ j, j < k → f j = -1) → ∃ h6, h6.2 = hM.2 ∧ (∀ q, q ≠ 400 + H.2.1 + 1 → h6.1 q = hM.1 q) ∧ (∃ f, h6.1 (400 + H.2.1 + 1) = .inl (0, 16, .inl f) ∧ ∀ j, j < 16 → f j = -1) ∧ dx_le (B_X15_init_51 (ax_c d) (400 + H.2.1) (.ref 400) 16 h6) (B_X15_init_51 (ax_c d) (400 + H.2.1) (.ref 400) (Int32.ofNat k) h5) := by
    intro r
    induction r with
    | zero =>
      rintro k h5 hk e1 e3 ⟨f, e5, e6⟩
      obtain rfl : k = 16 := by omega
      exact ⟨h5, e1, e3, ⟨f, e5, e6⟩, dx_refl _⟩
    | succ r ih =>
      rintro k h5 hk e1 e3 ⟨f, e5, e6⟩
      have lb := b_X15_init_51 (K := ax_c d) (v0 := 400 + H.2.1) (v1 := .ref 400) (v2 := Int32.ofNat k) (h := h5) rfl
      have e4 : h5.1 (400 + H.2.1) = _ := (e3 _ (by omega)).trans SM.2.2.2
      rw [if_neg (show ¬ (16 : Int32) ≤ Int32.ofNat k from i_ge_not (n := 16) (by omega) (by omega)), gA_r e4 rfl rfl, Option.bind_some, sI_at e5 (by omega), ix16 (by omega), Option.bind_some, Option.bind_some, lt_at, show Int32.ofNat k + 1 = Int32.ofNat (k + 1) from i_add k 1] at lb
      obtain ⟨h6, y1, y2, y3, y4⟩ := ih (k + 1) _ (by omega) (show (ax_set h5 (400 + H.2.1 + 1) _).2 = hM.2 from e1) (fun q hq => (set_ne _ hq).trans (e3 q hq)) ⟨_, set_eq _, fun j hj => by
        show (if j = k then -1 else f j) = -1
        by_cases z : j = k
        · rw [if_pos z]
        · rw [if_neg z]; exact e6 j (by omega)⟩
      exact ⟨h6, y1, y2, y3, dx_trans y4 lb⟩
  obtain ⟨h6, y1, y2, ⟨fl, y3, y3'⟩, y4⟩ := loop 16 0 hM rfl rfl (fun _ _ => rfl) ⟨fun _ => 0, m1, fun j hj => absurd hj (Nat.not_lt_zero _)⟩
  refine OE.le ?_ y4
  refine OE.le ?_ (b_X15_init_51 rfl)
  have S6 : STG H 6 290 [.ref (400 + H.2.1 + 1), .ref (400 + H.2.1 + 2), .ref (400 + H.2.1 + 4), .ref (400 + H.2.1 + 5), .int 0, .int 0, .ref 400] h6 := ⟨by rw [y1]; exact SM.1, by rw [y1]; exact SM.2.1, fun q hq => (y2 q (by omega)).trans (SM.2.2.1 q hq), (y2 _ (by omega)).trans SM.2.2.2⟩
  rw [if_pos (Int32.le_refl _), nw_at]
  obtain ⟨S7, N1, N2, N3⟩ := S6.new (by omega) (.inr (27, [.null, .int 0, .null, .null, .null, .int 0, .int 0, .null, .null, .null])) 10
  rw [N3]
  generalize h7e : ax_new h6 (.inr (27, [.null, .int 0, .null, .null, .null, .int 0, .int 0, .null, .null, .null])) 10 = h7 at S7 N1 N2
  have init : Ok (ax_c d 290 [.ref (400 + H.2.1 + 6), .ref (400 + H.2.1), .ref 400] h7) (.inl none) (fun h5 => h5.2.1 = H.2.1 + 11 ∧ h5.2.2 = H.2.2 + 317 ∧ (∀ q, q < 400 + H.2.1 + 6 → h5.1 q = h7.1 q) ∧ CPS 27 (400 + H.2.1) (400 + H.2.1 + 6) (sk0 n) h5) := by
    obtain ⟨d, rfl, -⟩ := d_succ (k := 10) (by omega : 11 ≤ d)
    refine Ok.le (m_X18_init rfl rfl) ?_
    rw [pF_oref N1 rfl (Nat.le_of_ble_eq_true rfl) (by omega), Option.bind_some, pF_oref (set_eq _) rfl (Nat.le_of_ble_eq_true rfl) (by omega), Option.bind_some]
    generalize e8 : ax_set (ax_set h7 (400 + H.2.1 + 6) _) (400 + H.2.1 + 6) _ = h8
    have a0 : h8.1 (400 + H.2.1 + 6) = .inr (27, [.null, .int 0, .null, .null, .null, .int 0, .int 0, .null, .ref 400, .ref (400 + H.2.1)]) := by rw [← e8]; exact set_eq _
    have a1 : ∀ q, q ≠ 400 + H.2.1 + 6 → h8.1 q = h7.1 q := fun q hq => by rw [← e8]; exact (set_ne _ hq).trans (set_ne _ hq)
    have a2 : h8.2 = h7.2 := by rw [← e8]; rfl
    have a3 : h8.1 (400 + H.2.1) = _ := (a1 _ (by omega)).trans S7.2.2.2
    rw [gA_r a3 rfl rfl, Option.bind_some]
    refine Ok.V (x_pass0 (pk := 27) (q0 := 400 + H.2.1) n (Or.inl rfl) (h := h8) (pb := 400 + H.2.1 + 6) (by rw [a2, S7.1]; omega) (by omega) a0 (by omega)) fun h5 X => ?_
    obtain ⟨x1, x2, x3, x4⟩ := X
    exact Ok.ret ⟨by rw [x1, a2, S7.1], by rw [x2, a2, S7.2.1], fun q hq => (x3 q hq).trans (a1 q (by omega)), x4⟩
  refine OE.V init ?_
  rintro h8 ⟨x1, x2, x3, x4⟩
  have up : ∀ q, q < 400 + H.2.1 + 6 → q ≠ 400 + H.2.1 + 1 → h8.1 q = hM.1 q := fun q hq hne => (x3 q hq).trans ((N2 q (by omega)).trans (y2 q hne))
  have B8 : CB H q0 0 11 317 (fun _ => 0) (fun _ => -1) (fun _ => 0) 0 0 0 1 0 h8 := by
    rw [eq0]
    refine ⟨rfl, ⟨fun q hq => (x3 q (by omega)).trans ((N2 q (by omega)).trans (S6.2.2.1 q hq)), by omega, by omega, by omega, by omega⟩, by omega, (x3 _ (by omega)).trans S7.2.2.2, ⟨fl, (x3 _ (by omega)).trans ((N2 _ (by omega)).trans y3), y3'⟩, ⟨0, 0, (up _ (by omega) (by omega)).trans m2⟩, ⟨ff, (up _ (by omega) (by omega)).trans m3, F6⟩, ⟨fun _ => 0, (up _ (by omega) (by omega)).trans m5, fun _ _ => rfl⟩, m4.mono (up _ (by omega) (by omega)) (up _ (by omega) (by omega)) (by rw [x1, SM.1]; omega), ⟨by omega, Or.inl rfl, Or.inl (by omega)⟩, fun k hk => absurd hk (Nat.not_lt_zero _), fun j k _ hk => absurd hk (Nat.not_lt_zero _)⟩
  have C8 : CPS 27 q0 (q0 + 6) (sk0 n) h8 := by rw [eq0]; exact x4
  rw [← eq0]
  obtain ⟨ea, ew, E, E1', E2'⟩ := B8.ext (by omega) (by omega) (by omega)
  have g0 : dx_gA [(19, 0)] (.ref 400) h8 = some (.ref 401) := gA_r (Z.go E) rfl rfl
  obtain ⟨v59, s59⟩ := Z.size (d := d) E (by omega)
  have g1 : dx_gA [(25, 1)] (.ref q0) h8 = some (.ref (q0 + 2)) := gA_r B8.2.2.2.1 rfl rfl
  rw [g0, Option.bind_some, v59, Option.bind_some, s59, cI_v, g1, Option.bind_some, C8.vn, Option.bind_some, if_pos rfl]
  obtain ⟨G1', G2'⟩ := as1_go V
  have L0 : LIV ((sk0 n, fun _ => -1) : skT × (Nat → Int32)) := ⟨fun _ _ => rfl, fun _ => Or.inl rfl⟩
  have X := x_go1 Z 604 0 n 0 5 [] (fun _ => none) 0 (fun _ => 0) 0 0 (fun _ => -1) (fun _ => 0) h8 (d - 1) _ G1' (sk0_inv n) L0 ⟨0, 1, 0, B8, C8⟩ (by show 4 * (7 - (0 + 1)) + 40 ≤ d - 1; omega)
  rw [show useP q0 (fun _ => 0) [] 0 = q0 + 2 from if_pos rfl] at X
  have X := OE.le X (show dx_le _ (ax_c d 287 [.ref (q0 + 6), .int 0, .int (Int32.ofNat n), .ref (q0 + 2)] h8) from by
    obtain ⟨d, rfl, -⟩ := d_succ (k := 70) (by omega : 71 ≤ d)
    exact m_X17_go (d := d) (v0 := q0 + 6) (v1 := 0) (v2 := Int32.ofNat n) (v3 := .ref (q0 + 2)) (h := h8) rfl)
  cases hr : as1 ls n with
  | inr er =>
    rw [hr] at X
    have er' : asR ls n = .inr er := by unfold asR; rw [hr]
    rw [er']
    exact OkX.xV X fun i h' W => W.x0
  | inl S =>
    rw [hr] at X
    have LI : LIV S := (go_inv (Inv := fun S => SKI ls n S.1 ∧ LIV S) (fun S S' J hl hst => ⟨(sk_inv V J.1 (st1_sk hst) hl).1, LIV.st V J.1 J.2 hl hst⟩) _ _ _ _ ⟨sk0_inv n, L0⟩ (by rw [← hr]; exact G1')).2
    have I := (G2' S hr).1
    refine OE.V X ?_
    rintro h9 ⟨t1, it9, -, -, mc9, arr9, cap9, B9, C9⟩
    obtain ⟨⟨F9, mac9, sec9, sz9, g9, us9⟩, lab9⟩ := S
    dsimp only at t1 B9 C9 I
    have z0 : _ = some (Int32.ofNat (sz9 0)) := C9.szS (j := 0) (by omega)
    obtain ⟨hP, p1, BP, ccP, p3⟩ := B9.num (8 + Int32.ofNat (sz9 0))
    have CP : CPS 27 q0 (q0 + 6) ((n, n, 0, 5) :: [], mac9, sec9, sz9, g9, us9) hP := C9.mv fun j hj => by rw [p3]; exact set_ne _ (by omega)
    have zP0 : _ = some (Int32.ofNat (sz9 0)) := CP.szS (j := 0) (by omega)
    have zP1 : _ = some (Int32.ofNat (sz9 1)) := CP.szS (j := 1) (by omega)
    obtain ⟨hQ, r1, BQ, -⟩ := BP.num5 (Int32.ofNat (sz9 0) + Int32.ofNat (sz9 1))
    have v284 : dx_vn [(25, 284)] (.ref q0) hQ = some 284 := vn_at BQ.2.2.2.1
    rw [show (0 : Int32) = Int32.ofNat 0 from rfl, C9.sizes, Option.bind_some, z0, Option.bind_some, p1, Option.bind_some, CP.sizes, Option.bind_some, zP0, Option.bind_some, Option.bind_some, show (1 : Int32) = Int32.ofNat 1 from rfl, zP1, Option.bind_some, r1, Option.bind_some, v284, Option.bind_some]
    have Y := x_makeWords (d := d) (S := (((F9, mac9, sec9, sz9, g9, us9), lab9) : skT × (Nat → Int32))) Z hr LI (by rw [show (8 : Int32) + Int32.ofNat (sz9 0) = Int32.ofNat (8 + sz9 0) from i_add 8 _] at BQ; exact BQ) (by omega)
    cases hr2 : as2 ls n (F9, mac9, sec9, sz9, g9, us9) lab9 with
    | inr er =>
      rw [hr2] at Y
      have er' : asR ls n = .inr er := by unfold asR; rw [hr]; dsimp only; rw [hr2]
      rw [er']
      exact OkX.xV Y fun i h' W => W.x0
    | inl S2 =>
      rw [hr2] at Y
      have er' : asR ls n = .inl (sz9 0 + sz9 1, S2.2.2) := by unfold asR; rw [hr]; dsimp only; rw [hr2]
      rw [er']
      refine Ok.V Y ?_
      rintro h' ⟨mc', arr', cap', BZ⟩
      obtain ⟨ea, ew, E, E1, E2⟩ := BZ.ext (by have := I.2.2.2.2.2; have := I.2.2.2.2.1; dsimp only at *; omega) (by omega) (by omega)
      refine Ok.ret ⟨E.up (by omega) (by omega), ⟨.ref (q0 + 1), .ref (q0 + 2), .ref (q0 + 4), Int32.ofNat (8 + sz9 0), ?_⟩, BZ.2.2.1, BZ.2.2.2.2.2.2.2.1⟩
      rw [BZ.2.2.2.1, i_add]
end CAZ
