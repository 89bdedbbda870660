/-! the nine methods that add a line -/
/- with OLD GO GO.g XP XP.x0 Ext Ext.new Ext.tr Ext.up x_in x_inX FrP WS WS.i WS.o CLW LnC lnV x_addT x_operand inI_val -/
section SRN
variable {n : Nat} {ls : Nat → lnD} {P : Nat → Prop} {H h h0 : ax_H} {x y z k l m : Int32} {d : Nat} {iv : Value}
theorem WS.o {o k j : Nat} {fs : List Value} {s : String} (W : WS o k fs h0 h) (hj : j < fs.length) (h4 : 400 ≤ o) (x : Nat) : ∃ h', dx_pF [(k, j)] (.object s) (.ref o) (.ref x) h = some h' ∧ WS o k (fs.set j (.ref x)) h0 h' := by
  obtain ⟨a, b, c⟩ := W
  refine ⟨_, pF_oref a (by simp [List.lookup]) hj h4, set_eq _, fun q hq => (set_ne _ hq).trans (b q hq), c⟩
theorem x494 {b : Nat} (hd : 1 ≤ d) : ax_c d 494 [.ref b] h = some (.inl none, h) := by
  obtain ⟨d, rfl, -⟩ := d_succ hd
  exact dx_app m_X4_init rfl
theorem inI_rg {hi : Nat} (hh : hi < 2 ^ 31) (e : inI x 0 (Int32.ofNat hi) ≠ 0) : rg hi x := by
  obtain ⟨k, -, k2, k3⟩ := (inI_val (lo := 0) hh (by omega)).mp e
  rw [k3]; exact rg.of k2 hh
/-- all that a method that adds a line does in the end -/
def LAD (n : Nat) (ls : Nat → lnD) (l : lnD) (P : Nat → Prop) (H : ax_H) (c : Option ax_R) : Prop := (n = 100 → OkX c (XP 0 (Ext 6 40 H))) ∧ (n < 100 → Ok c (.inl (some (.int (Int32.ofNat (n + 1))))) (fun H' => CLW (n + 1) (fun t => if t = n then l else ls t) (xR P H H') H' ∧ FrP P 6 250 H H'))
theorem LAD.of {c c' : Option ax_R} {a w : Nat} {li : lnD} (hl : dx_le c c') (ha : a ≤ 5) (hw : w ≤ 34) (X : (n = 100 → OkX c (XP 0 (Ext (a + 1) (w + 6) H))) ∧ (n < 100 → Ok c (.inl (some (.int (Int32.ofNat (n + 1))))) (fun H' => CLW (n + 1) (fun t => if t = n then li else ls t) (xR P H H') H' ∧ FrP P (a + 1) (w + 210) H H'))) : LAD n ls li P H c' := by
  obtain ⟨x1, x2⟩ := X
  refine ⟨fun hn => ?_, fun hn => ?_⟩
  · obtain ⟨i, h', e, X⟩ := OkX.le hl (x1 hn)
    exact ⟨i, h', e, X.1, X.2.1, X.2.2.up (by omega) (by omega)⟩
  · obtain ⟨h', e, X, f1, f2, f3, f4, f5⟩ := Ok.le hl (x2 hn)
    exact ⟨h', e, X, f1, f2, by omega, by omega, f5⟩
theorem OkX.exu {c : Option ax_R} {k a w a' w' : Nat} (X : OkX c (XP k (Ext a w H))) (ha : a ≤ a') (hw : w ≤ w') : OkX c (XP k (Ext a' w' H)) := by
  obtain ⟨i, h', e, X⟩ := X
  exact ⟨i, h', e, X.1, X.2.1, X.2.2.up ha hw⟩
theorem code_or : ∀ o, o < 27 → ∀ x, x < 4 → ∀ y, y < 4 → ((dx_shl (Int32.ofNat o) 4) ||| (dx_shl (Int32.ofNat x) 2)) ||| Int32.ofNat y = 16 * Int32.ofNat o + 4 * Int32.ofNat x + Int32.ofNat y ∧ 16 * Int32.ofNat o + 4 * Int32.ofNat x + Int32.ofNat y = Int32.ofNat (16 * o + 4 * x + y) := by decide +kernel
theorem x_new39 {b : Nat} (e : h.1 b = .inr (39, [.int 0, .null])) (hb4 : 400 ≤ b) (hd : 2 ≤ d) : ∃ h', ax_c d 496 [.ref b, .ref 400, .int x] h = some (.inl none, h') ∧ WS b 39 [.int x, .ref 400] h h' := by
  obtain ⟨d, rfl, he⟩ := d_succ hd
  have W0 : WS b 39 [.int 0, .null] h h := ⟨e, fun _ _ => rfl, rfl⟩
  obtain ⟨h1, e1, W1⟩ := W0.o (j := 1) (s := "KernelGym") (Nat.le_of_ble_eq_true rfl) hb4 400
  obtain ⟨h2, e2, W2⟩ := W1.i (j := 0) (Nat.le_of_ble_eq_true rfl) hb4 x
  refine ⟨h2, dx_app (m_X5_init rfl) ?_, W2⟩
  rw [e1, Option.bind_some, e2, Option.bind_some, x494 he, cV_v]
theorem x_section_bad (hx : inI x 0 1 = 0) (hd : 3 ≤ d) : OkX (ax_c d 231 [.ref 400, .int x] H) (XP 18 (Ext 6 40 H)) := by
  obtain ⟨d, rfl, he⟩ := d_succ hd
  refine OkX.le m_X1_section ?_
  exact OkX.xI (x_inX (by omega) hx) fun i h' X => XP.x0 rfl ⟨X.1, X.2.1, (X.2.2).up (by omega) (by omega)⟩
theorem x_section (C : CLW n ls P H) (G : GO H iv) (g0 : inI x 0 1 ≠ 0) (hd : 9 ≤ d) : LAD n ls (0, x, 0, 0, 0, 0) P H (ax_c d 231 [.ref 400, .int x] H) := by
  obtain ⟨d, rfl, he⟩ := d_succ hd
  have p4 : 401 < 400 + H.2.1 := by obtain ⟨mc, arr, cap, it, Q, A, c1, c2, c3, c4, c5, c6, c7, c8⟩ := C; exact (c6 401 c7).2
  have le := m_X1_section (d := d) (v0 := 400) (v1 := x) (h := H)
  rw [x_in (by omega) g0, cI_v] at le
  rw [nw_at] at le
  obtain ⟨h1, e1, w1, w2, w3⟩ := x_new39 (h := (ax_new H (.inr (39, [.int 0, .null])) 2)) (b := 400 + H.2.1) (x := x) (d := d) (new_eq _ _) (by omega) (by omega)
  rw [e1, cV_v] at le
  have s1 : h1.2.1 = H.2.1 + 1 := by rw [w3]; rfl
  have s2 : h1.2.2 = H.2.2 + 2 := by rw [w3]; rfl
  have EN : Ext 1 2 H h1 := ⟨fun q hq => (w2 q (by omega)).trans (new_ne _ _ (by omega)), by omega, by omega, by omega, by omega⟩
  have L : LnC (fun r => 400 + H.2.1 ≤ r ∧ r < 400 + h1.2.1) (400 + H.2.1) (0, x, 0, 0, 0, 0) h1 := by
    refine ⟨0, 0, 0, 0, 0, w1, ⟨by omega, by omega⟩, fun q => ?_, fun q => ?_, fun q => ?_⟩
    · exact absurd q (by simp [opK])
    · exact absurd (show 0 = 8 from q) (by decide)
    · exact absurd (show 0 = 2 from q) (by decide)
  have V : lnV (0, x, 0, 0, 0, 0) := by
    refine ⟨by show 0 ≤ 8; omega, fun q => ?_, fun q => ?_, fun q => ?_, fun q => ?_, fun q => ?_, fun q => ?_, fun q => ?_, fun q => ?_⟩
    · exact inI_rg (hi := 1) (by omega) g0
    · exact absurd q (by show ¬ 0 = 1; omega)
    · exact absurd q (by simp [opK])
    · exact absurd q (by show ¬ 0 = 8; omega)
    · exact absurd q (by show ¬ 0 = 4; omega)
    · exact absurd q (by show ¬ 0 = 5; omega)
    · exact absurd q (by show ¬ 0 = 6; omega)
    · exact absurd q (by show ¬ 0 = 2; omega)
  exact LAD.of le (by omega) (by omega) (x_addT C G (EN.up (Nat.le_refl _) (Nat.le_refl _)) L V (by omega))
theorem x_new40 {b : Nat} (e : h.1 b = .inr (40, [.int 0, .null])) (hb4 : 400 ≤ b) (hd : 2 ≤ d) : ∃ h', ax_c d 498 [.ref b, .ref 400, .int x] h = some (.inl none, h') ∧ WS b 40 [.int x, .ref 400] h h' := by
  obtain ⟨d, rfl, he⟩ := d_succ hd
  have W0 : WS b 40 [.int 0, .null] h h := ⟨e, fun _ _ => rfl, rfl⟩
  obtain ⟨h1, e1, W1⟩ := W0.o (j := 1) (s := "KernelGym") (Nat.le_of_ble_eq_true rfl) hb4 400
  obtain ⟨h2, e2, W2⟩ := W1.i (j := 0) (Nat.le_of_ble_eq_true rfl) hb4 x
  refine ⟨h2, dx_app (m_X6_init rfl) ?_, W2⟩
  rw [e1, Option.bind_some, e2, Option.bind_some, x494 he, cV_v]
theorem x_label_bad (hx : inI x 0 19 = 0) (hd : 3 ≤ d) : OkX (ax_c d 235 [.ref 400, .int x] H) (XP 18 (Ext 6 40 H)) := by
  obtain ⟨d, rfl, he⟩ := d_succ hd
  refine OkX.le m_X1_label ?_
  exact OkX.xI (x_inX (by omega) hx) fun i h' X => XP.x0 rfl ⟨X.1, X.2.1, (X.2.2).up (by omega) (by omega)⟩
theorem x_label (C : CLW n ls P H) (G : GO H iv) (g0 : inI x 0 19 ≠ 0) (hd : 9 ≤ d) : LAD n ls (1, x, 0, 0, 0, 0) P H (ax_c d 235 [.ref 400, .int x] H) := by
  obtain ⟨d, rfl, he⟩ := d_succ hd
  have p4 : 401 < 400 + H.2.1 := by obtain ⟨mc, arr, cap, it, Q, A, c1, c2, c3, c4, c5, c6, c7, c8⟩ := C; exact (c6 401 c7).2
  have le := m_X1_label (d := d) (v0 := 400) (v1 := x) (h := H)
  rw [x_in (by omega) g0, cI_v] at le
  rw [nw_at] at le
  obtain ⟨h1, e1, w1, w2, w3⟩ := x_new40 (h := (ax_new H (.inr (40, [.int 0, .null])) 2)) (b := 400 + H.2.1) (x := x) (d := d) (new_eq _ _) (by omega) (by omega)
  rw [e1, cV_v] at le
  have s1 : h1.2.1 = H.2.1 + 1 := by rw [w3]; rfl
  have s2 : h1.2.2 = H.2.2 + 2 := by rw [w3]; rfl
  have EN : Ext 1 2 H h1 := ⟨fun q hq => (w2 q (by omega)).trans (new_ne _ _ (by omega)), by omega, by omega, by omega, by omega⟩
  have L : LnC (fun r => 400 + H.2.1 ≤ r ∧ r < 400 + h1.2.1) (400 + H.2.1) (1, x, 0, 0, 0, 0) h1 := by
    refine ⟨0, 0, 0, 0, 0, w1, ⟨by omega, by omega⟩, fun q => ?_, fun q => ?_, fun q => ?_⟩
    · exact absurd q (by simp [opK])
    · exact absurd (show 1 = 8 from q) (by decide)
    · exact absurd (show 1 = 2 from q) (by decide)
  have V : lnV (1, x, 0, 0, 0, 0) := by
    refine ⟨by show 1 ≤ 8; omega, fun q => ?_, fun q => ?_, fun q => ?_, fun q => ?_, fun q => ?_, fun q => ?_, fun q => ?_, fun q => ?_⟩
    · exact absurd q (by show ¬ 1 = 0; omega)
    · exact inI_rg (hi := 19) (by omega) g0
    · exact absurd q (by simp [opK])
    · exact absurd q (by show ¬ 1 = 8; omega)
    · exact absurd q (by show ¬ 1 = 4; omega)
    · exact absurd q (by show ¬ 1 = 5; omega)
    · exact absurd q (by show ¬ 1 = 6; omega)
    · exact absurd q (by show ¬ 1 = 2; omega)
  exact LAD.of le (by omega) (by omega) (x_addT C G (EN.up (Nat.le_refl _) (Nat.le_refl _)) L V (by omega))
theorem x_new42 {b q0 : Nat} (e : h.1 b = .inr (42, [.int 0, .int 0, .int 0, .null, .null])) (hb4 : 400 ≤ b) (hd : 2 ≤ d) : ∃ h', ax_c d 501 [.ref b, .ref 400, .int x, .int y, .int z, .ref q0] h = some (.inl none, h') ∧ WS b 42 [.int x, .int y, .int z, .ref q0, .ref 400] h h' := by
  obtain ⟨d, rfl, he⟩ := d_succ hd
  have W0 : WS b 42 [.int 0, .int 0, .int 0, .null, .null] h h := ⟨e, fun _ _ => rfl, rfl⟩
  obtain ⟨h1, e1, W1⟩ := W0.o (j := 4) (s := "KernelGym") (Nat.le_of_ble_eq_true rfl) hb4 400
  obtain ⟨h2, e2, W2⟩ := W1.i (j := 0) (Nat.le_of_ble_eq_true rfl) hb4 x
  obtain ⟨h3, e3, W3⟩ := W2.i (j := 1) (Nat.le_of_ble_eq_true rfl) hb4 y
  obtain ⟨h4, e4, W4⟩ := W3.i (j := 2) (Nat.le_of_ble_eq_true rfl) hb4 z
  obtain ⟨h5, e5, W5⟩ := W4.o (j := 3) (s := "KernelGym$Operand") (Nat.le_of_ble_eq_true rfl) hb4 q0
  refine ⟨h5, dx_app (m_X8_init rfl rfl) ?_, W5⟩
  rw [e1, Option.bind_some, e2, Option.bind_some, e3, Option.bind_some, e4, Option.bind_some, e5, Option.bind_some, x494 he, cV_v]
theorem x_code_bad (hx : inI x 0 26 = 0 ∨ inI y 0 3 = 0 ∨ inI z 0 3 = 0 ∨ ¬ opG k l) (hd : 3 ≤ d) : OkX (ax_c d 236 [.ref 400, .int x, .int y, .int z, .int k, .int l] H) (XP 18 (Ext 6 40 H)) := by
  obtain ⟨d, rfl, he⟩ := d_succ hd
  refine OkX.le m_X1_code ?_
  by_cases e0 : inI x 0 26 = 0
  · exact OkX.xI (x_inX (by omega) e0) fun i h' X => XP.x0 rfl ⟨X.1, X.2.1, (X.2.2).up (by omega) (by omega)⟩
  · rw [x_in (by omega) e0, cI_v]
    by_cases e1 : inI y 0 3 = 0
    · exact OkX.xI (x_inX (by omega) e1) fun i h' X => XP.x0 rfl ⟨X.1, X.2.1, (X.2.2).up (by omega) (by omega)⟩
    · rw [x_in (by omega) e1, cI_v]
      by_cases e2 : inI z 0 3 = 0
      · exact OkX.xI (x_inX (by omega) e2) fun i h' X => XP.x0 rfl ⟨X.1, X.2.1, (X.2.2).up (by omega) (by omega)⟩
      · rw [x_in (by omega) e2, cI_v]
        have f : ¬ opG k l := by
          rcases hx with w | w | w | w
          · exact absurd w e0
          · exact absurd w e1
          · exact absurd w e2
          · exact w
        exact OkX.xR (x_operand_bad f (by omega)) fun i h' X => XP.x0 rfl ⟨X.1, X.2.1, (X.2.2).up (by omega) (by omega)⟩
theorem x_code (C : CLW n ls P H) (G : GO H iv) (g0 : inI x 0 26 ≠ 0) (g1 : inI y 0 3 ≠ 0) (g2 : inI z 0 3 ≠ 0) (g3 : opG k l) (hd : 9 ≤ d) : LAD n ls (2, k, l, 16 * x + 4 * y + z, 0, 0) P H (ax_c d 236 [.ref 400, .int x, .int y, .int z, .int k, .int l] H) := by
  obtain ⟨d, rfl, he⟩ := d_succ hd
  have p4 : 401 < 400 + H.2.1 := by obtain ⟨mc, arr, cap, it, Q, A, c1, c2, c3, c4, c5, c6, c7, c8⟩ := C; exact (c6 401 c7).2
  have le := m_X1_code (d := d) (v0 := 400) (v1 := x) (v2 := y) (v3 := z) (v4 := k) (v5 := l) (h := H)
  rw [x_in (by omega) g0, cI_v, x_in (by omega) g1, cI_v, x_in (by omega) g2, cI_v] at le
  obtain ⟨a0, k0, r0, E0, t0⟩ := x_operand (H := H) (d := d) g3 (by omega)
  rw [k0, cR_r] at le
  rw [nw_at] at le
  obtain ⟨h1, e1, w1, w2, w3⟩ := x_new42 (h := (ax_new a0 (.inr (42, [.int 0, .int 0, .int 0, .null, .null])) 5)) (b := 400 + a0.2.1) (q0 := 400 + H.2.1) (x := x) (y := y) (z := z) (d := d) (new_eq _ _) (by omega) (by omega)
  rw [e1, cV_v] at le
  have s1 : h1.2.1 = a0.2.1 + 1 := by rw [w3]; rfl
  have s2 : h1.2.2 = a0.2.2 + 5 := by rw [w3]; rfl
  have EN : Ext 1 5 a0 h1 := ⟨fun q hq => (w2 q (by omega)).trans (new_ne _ _ (by omega)), by omega, by omega, by omega, by omega⟩
  have L : LnC (fun r => 400 + H.2.1 ≤ r ∧ r < 400 + h1.2.1) (400 + a0.2.1) (2, k, l, 16 * x + 4 * y + z, 0, 0) h1 := by
    refine ⟨(400 + H.2.1), 0, x, y, z, w1, ⟨by omega, by omega⟩, fun q => ?_, fun q => ?_, fun q => ?_⟩
    · exact ⟨⟨by omega, by omega⟩, by rw [EN.1 _ (by omega)]; exact r0⟩
    · exact absurd (show 2 = 8 from q) (by decide)
    · obtain ⟨o, o1, o2⟩ := (rg.nat (inI_rg (hi := 26) (by omega) g0)) |> fun q => (⟨_, q⟩ : ∃ o, o ≤ 26 ∧ x = Int32.ofNat o)
      obtain ⟨u, u1, u2⟩ := (rg.nat (inI_rg (hi := 3) (by omega) g1)) |> fun q => (⟨_, q⟩ : ∃ o, o ≤ 3 ∧ y = Int32.ofNat o)
      obtain ⟨v, v1, v2⟩ := (rg.nat (inI_rg (hi := 3) (by omega) g2)) |> fun q => (⟨_, q⟩ : ∃ o, o ≤ 3 ∧ z = Int32.ofNat o)
      show ((dx_shl x 4) ||| (dx_shl y 2)) ||| z = 16 * x + 4 * y + z
      rw [o2, u2, v2]; exact (code_or o (by omega) u (by omega) v (by omega)).1
  have V : lnV (2, k, l, 16 * x + 4 * y + z, 0, 0) := by
    refine ⟨by show 2 ≤ 8; omega, fun q => ?_, fun q => ?_, fun q => ?_, fun q => ?_, fun q => ?_, fun q => ?_, fun q => ?_, fun q => ?_⟩
    · exact absurd q (by show ¬ 2 = 0; omega)
    · exact absurd q (by show ¬ 2 = 1; omega)
    · exact g3
    · exact absurd q (by show ¬ 2 = 8; omega)
    · exact absurd q (by show ¬ 2 = 4; omega)
    · exact absurd q (by show ¬ 2 = 5; omega)
    · exact absurd q (by show ¬ 2 = 6; omega)
    · obtain ⟨o, o1, o2⟩ := (rg.nat (inI_rg (hi := 26) (by omega) g0)) |> fun q => (⟨_, q⟩ : ∃ o, o ≤ 26 ∧ x = Int32.ofNat o)
      obtain ⟨u, u1, u2⟩ := (rg.nat (inI_rg (hi := 3) (by omega) g1)) |> fun q => (⟨_, q⟩ : ∃ o, o ≤ 3 ∧ y = Int32.ofNat o)
      obtain ⟨v, v1, v2⟩ := (rg.nat (inI_rg (hi := 3) (by omega) g2)) |> fun q => (⟨_, q⟩ : ∃ o, o ≤ 3 ∧ z = Int32.ofNat o)
      show rg 511 (16 * x + 4 * y + z)
      rw [o2, u2, v2, (code_or o (by omega) u (by omega) v (by omega)).2]; exact rg.of (by omega) (by omega)
  exact LAD.of le (by omega) (by omega) (x_addT C G ((E0.tr EN).up (Nat.le_refl _) (Nat.le_refl _)) L V (by omega))
theorem x_new43 {b q0 : Nat} (e : h.1 b = .inr (43, [.null, .null])) (hb4 : 400 ≤ b) (hd : 2 ≤ d) : ∃ h', ax_c d 503 [.ref b, .ref 400, .ref q0] h = some (.inl none, h') ∧ WS b 43 [.ref q0, .ref 400] h h' := by
  obtain ⟨d, rfl, he⟩ := d_succ hd
  have W0 : WS b 43 [.null, .null] h h := ⟨e, fun _ _ => rfl, rfl⟩
  obtain ⟨h1, e1, W1⟩ := W0.o (j := 1) (s := "KernelGym") (Nat.le_of_ble_eq_true rfl) hb4 400
  obtain ⟨h2, e2, W2⟩ := W1.o (j := 0) (s := "KernelGym$Operand") (Nat.le_of_ble_eq_true rfl) hb4 q0
  refine ⟨h2, dx_app (m_X9_init rfl rfl) ?_, W2⟩
  rw [e1, Option.bind_some, e2, Option.bind_some, x494 he, cV_v]
theorem x_word_bad (hx : ¬ opG k l) (hd : 3 ≤ d) : OkX (ax_c d 238 [.ref 400, .int k, .int l] H) (XP 18 (Ext 6 40 H)) := by
  obtain ⟨d, rfl, he⟩ := d_succ hd
  refine OkX.le m_X1_word ?_
  exact OkX.xR (x_operand_bad hx (by omega)) fun i h' X => XP.x0 rfl ⟨X.1, X.2.1, (X.2.2).up (by omega) (by omega)⟩
theorem x_word (C : CLW n ls P H) (G : GO H iv) (g0 : opG k l) (hd : 9 ≤ d) : LAD n ls (3, k, l, 0, 0, 0) P H (ax_c d 238 [.ref 400, .int k, .int l] H) := by
  obtain ⟨d, rfl, he⟩ := d_succ hd
  have p4 : 401 < 400 + H.2.1 := by obtain ⟨mc, arr, cap, it, Q, A, c1, c2, c3, c4, c5, c6, c7, c8⟩ := C; exact (c6 401 c7).2
  have le := m_X1_word (d := d) (v0 := 400) (v1 := k) (v2 := l) (h := H)
  obtain ⟨a0, k0, r0, E0, t0⟩ := x_operand (H := H) (d := d) g0 (by omega)
  rw [k0, cR_r] at le
  rw [nw_at] at le
  obtain ⟨h1, e1, w1, w2, w3⟩ := x_new43 (h := (ax_new a0 (.inr (43, [.null, .null])) 2)) (b := 400 + a0.2.1) (q0 := 400 + H.2.1) (d := d) (new_eq _ _) (by omega) (by omega)
  rw [e1, cV_v] at le
  have s1 : h1.2.1 = a0.2.1 + 1 := by rw [w3]; rfl
  have s2 : h1.2.2 = a0.2.2 + 2 := by rw [w3]; rfl
  have EN : Ext 1 2 a0 h1 := ⟨fun q hq => (w2 q (by omega)).trans (new_ne _ _ (by omega)), by omega, by omega, by omega, by omega⟩
  have L : LnC (fun r => 400 + H.2.1 ≤ r ∧ r < 400 + h1.2.1) (400 + a0.2.1) (3, k, l, 0, 0, 0) h1 := by
    refine ⟨(400 + H.2.1), 0, 0, 0, 0, w1, ⟨by omega, by omega⟩, fun q => ?_, fun q => ?_, fun q => ?_⟩
    · exact ⟨⟨by omega, by omega⟩, by rw [EN.1 _ (by omega)]; exact r0⟩
    · exact absurd (show 3 = 8 from q) (by decide)
    · exact absurd (show 3 = 2 from q) (by decide)
  have V : lnV (3, k, l, 0, 0, 0) := by
    refine ⟨by show 3 ≤ 8; omega, fun q => ?_, fun q => ?_, fun q => ?_, fun q => ?_, fun q => ?_, fun q => ?_, fun q => ?_, fun q => ?_⟩
    · exact absurd q (by show ¬ 3 = 0; omega)
    · exact absurd q (by show ¬ 3 = 1; omega)
    · exact g0
    · exact absurd q (by show ¬ 3 = 8; omega)
    · exact absurd q (by show ¬ 3 = 4; omega)
    · exact absurd q (by show ¬ 3 = 5; omega)
    · exact absurd q (by show ¬ 3 = 6; omega)
    · exact absurd q (by show ¬ 3 = 2; omega)
  exact LAD.of le (by omega) (by omega) (x_addT C G ((E0.tr EN).up (Nat.le_refl _) (Nat.le_refl _)) L V (by omega))
theorem x_new20 {b : Nat} (e : h.1 b = .inr (20, [.int 0, .null])) (hb4 : 400 ≤ b) (hd : 2 ≤ d) : ∃ h', ax_c d 270 [.ref b, .ref 400, .int x] h = some (.inl none, h') ∧ WS b 20 [.int x, .ref 400] h h' := by
  obtain ⟨d, rfl, he⟩ := d_succ hd
  have W0 : WS b 20 [.int 0, .null] h h := ⟨e, fun _ _ => rfl, rfl⟩
  obtain ⟨h1, e1, W1⟩ := W0.o (j := 1) (s := "KernelGym") (Nat.le_of_ble_eq_true rfl) hb4 400
  obtain ⟨h2, e2, W2⟩ := W1.i (j := 0) (Nat.le_of_ble_eq_true rfl) hb4 x
  refine ⟨h2, dx_app (m_X10_init rfl) ?_, W2⟩
  rw [e1, Option.bind_some, e2, Option.bind_some, x494 he, cV_v]
theorem x_space_bad (hx : inI x 1 32 = 0) (hd : 3 ≤ d) : OkX (ax_c d 239 [.ref 400, .int x] H) (XP 18 (Ext 6 40 H)) := by
  obtain ⟨d, rfl, he⟩ := d_succ hd
  refine OkX.le m_X1_space ?_
  exact OkX.xI (x_inX (by omega) hx) fun i h' X => XP.x0 rfl ⟨X.1, X.2.1, (X.2.2).up (by omega) (by omega)⟩
theorem x_space (C : CLW n ls P H) (G : GO H iv) (g0 : inI x 1 32 ≠ 0) (hd : 9 ≤ d) : LAD n ls (4, x, 0, 0, 0, 0) P H (ax_c d 239 [.ref 400, .int x] H) := by
  obtain ⟨d, rfl, he⟩ := d_succ hd
  have p4 : 401 < 400 + H.2.1 := by obtain ⟨mc, arr, cap, it, Q, A, c1, c2, c3, c4, c5, c6, c7, c8⟩ := C; exact (c6 401 c7).2
  have le := m_X1_space (d := d) (v0 := 400) (v1 := x) (h := H)
  rw [x_in (by omega) g0, cI_v] at le
  rw [nw_at] at le
  obtain ⟨h1, e1, w1, w2, w3⟩ := x_new20 (h := (ax_new H (.inr (20, [.int 0, .null])) 2)) (b := 400 + H.2.1) (x := x) (d := d) (new_eq _ _) (by omega) (by omega)
  rw [e1, cV_v] at le
  have s1 : h1.2.1 = H.2.1 + 1 := by rw [w3]; rfl
  have s2 : h1.2.2 = H.2.2 + 2 := by rw [w3]; rfl
  have EN : Ext 1 2 H h1 := ⟨fun q hq => (w2 q (by omega)).trans (new_ne _ _ (by omega)), by omega, by omega, by omega, by omega⟩
  have L : LnC (fun r => 400 + H.2.1 ≤ r ∧ r < 400 + h1.2.1) (400 + H.2.1) (4, x, 0, 0, 0, 0) h1 := by
    refine ⟨0, 0, 0, 0, 0, w1, ⟨by omega, by omega⟩, fun q => ?_, fun q => ?_, fun q => ?_⟩
    · exact absurd q (by simp [opK])
    · exact absurd (show 4 = 8 from q) (by decide)
    · exact absurd (show 4 = 2 from q) (by decide)
  have V : lnV (4, x, 0, 0, 0, 0) := by
    refine ⟨by show 4 ≤ 8; omega, fun q => ?_, fun q => ?_, fun q => ?_, fun q => ?_, fun q => ?_, fun q => ?_, fun q => ?_, fun q => ?_⟩
    · exact absurd q (by show ¬ 4 = 0; omega)
    · exact absurd q (by show ¬ 4 = 1; omega)
    · exact absurd q (by simp [opK])
    · exact absurd q (by show ¬ 4 = 8; omega)
    · obtain ⟨o, o1, o2, o3⟩ := (inI_val (lo := 1) (hi := 32) (by omega) (by omega)).mp g0
      show rg 32 x
      rw [o3]; exact rg.of o2 (by omega)
    · exact absurd q (by show ¬ 4 = 5; omega)
    · exact absurd q (by show ¬ 4 = 6; omega)
    · exact absurd q (by show ¬ 4 = 2; omega)
  exact LAD.of le (by omega) (by omega) (x_addT C G (EN.up (Nat.le_refl _) (Nat.le_refl _)) L V (by omega))
theorem x_new21 {b q0 : Nat} (e : h.1 b = .inr (21, [.int 0, .null, .null])) (hb4 : 400 ≤ b) (hd : 2 ≤ d) : ∃ h', ax_c d 272 [.ref b, .ref 400, .int x, .ref q0] h = some (.inl none, h') ∧ WS b 21 [.int x, .ref q0, .ref 400] h h' := by
  obtain ⟨d, rfl, he⟩ := d_succ hd
  have W0 : WS b 21 [.int 0, .null, .null] h h := ⟨e, fun _ _ => rfl, rfl⟩
  obtain ⟨h1, e1, W1⟩ := W0.o (j := 2) (s := "KernelGym") (Nat.le_of_ble_eq_true rfl) hb4 400
  obtain ⟨h2, e2, W2⟩ := W1.i (j := 0) (Nat.le_of_ble_eq_true rfl) hb4 x
  obtain ⟨h3, e3, W3⟩ := W2.o (j := 1) (s := "KernelGym$Operand") (Nat.le_of_ble_eq_true rfl) hb4 q0
  refine ⟨h3, dx_app (m_X11_init rfl rfl) ?_, W3⟩
  rw [e1, Option.bind_some, e2, Option.bind_some, e3, Option.bind_some, x494 he, cV_v]
theorem x_vector_bad (hx : inI x 0 1 = 0 ∨ ¬ opG k l) (hd : 3 ≤ d) : OkX (ax_c d 240 [.ref 400, .int x, .int k, .int l] H) (XP 18 (Ext 6 40 H)) := by
  obtain ⟨d, rfl, he⟩ := d_succ hd
  refine OkX.le m_X1_vector ?_
  by_cases e0 : inI x 0 1 = 0
  · exact OkX.xI (x_inX (by omega) e0) fun i h' X => XP.x0 rfl ⟨X.1, X.2.1, (X.2.2).up (by omega) (by omega)⟩
  · rw [x_in (by omega) e0, cI_v]
    have f : ¬ opG k l := by
      rcases hx with w | w
      · exact absurd w e0
      · exact w
    exact OkX.xR (x_operand_bad f (by omega)) fun i h' X => XP.x0 rfl ⟨X.1, X.2.1, (X.2.2).up (by omega) (by omega)⟩
theorem x_vector (C : CLW n ls P H) (G : GO H iv) (g0 : inI x 0 1 ≠ 0) (g1 : opG k l) (hd : 9 ≤ d) : LAD n ls (5, k, l, x, 0, 0) P H (ax_c d 240 [.ref 400, .int x, .int k, .int l] H) := by
  obtain ⟨d, rfl, he⟩ := d_succ hd
  have p4 : 401 < 400 + H.2.1 := by obtain ⟨mc, arr, cap, it, Q, A, c1, c2, c3, c4, c5, c6, c7, c8⟩ := C; exact (c6 401 c7).2
  have le := m_X1_vector (d := d) (v0 := 400) (v1 := x) (v2 := k) (v3 := l) (h := H)
  rw [x_in (by omega) g0, cI_v] at le
  obtain ⟨a0, k0, r0, E0, t0⟩ := x_operand (H := H) (d := d) g1 (by omega)
  rw [k0, cR_r] at le
  rw [nw_at] at le
  obtain ⟨h1, e1, w1, w2, w3⟩ := x_new21 (h := (ax_new a0 (.inr (21, [.int 0, .null, .null])) 3)) (b := 400 + a0.2.1) (q0 := 400 + H.2.1) (x := x) (d := d) (new_eq _ _) (by omega) (by omega)
  rw [e1, cV_v] at le
  have s1 : h1.2.1 = a0.2.1 + 1 := by rw [w3]; rfl
  have s2 : h1.2.2 = a0.2.2 + 3 := by rw [w3]; rfl
  have EN : Ext 1 3 a0 h1 := ⟨fun q hq => (w2 q (by omega)).trans (new_ne _ _ (by omega)), by omega, by omega, by omega, by omega⟩
  have L : LnC (fun r => 400 + H.2.1 ≤ r ∧ r < 400 + h1.2.1) (400 + a0.2.1) (5, k, l, x, 0, 0) h1 := by
    refine ⟨(400 + H.2.1), 0, 0, 0, 0, w1, ⟨by omega, by omega⟩, fun q => ?_, fun q => ?_, fun q => ?_⟩
    · exact ⟨⟨by omega, by omega⟩, by rw [EN.1 _ (by omega)]; exact r0⟩
    · exact absurd (show 5 = 8 from q) (by decide)
    · exact absurd (show 5 = 2 from q) (by decide)
  have V : lnV (5, k, l, x, 0, 0) := by
    refine ⟨by show 5 ≤ 8; omega, fun q => ?_, fun q => ?_, fun q => ?_, fun q => ?_, fun q => ?_, fun q => ?_, fun q => ?_, fun q => ?_⟩
    · exact absurd q (by show ¬ 5 = 0; omega)
    · exact absurd q (by show ¬ 5 = 1; omega)
    · exact g1
    · exact absurd q (by show ¬ 5 = 8; omega)
    · exact absurd q (by show ¬ 5 = 4; omega)
    · exact inI_rg (hi := 1) (by omega) g0
    · exact absurd q (by show ¬ 5 = 6; omega)
    · exact absurd q (by show ¬ 5 = 2; omega)
  exact LAD.of le (by omega) (by omega) (x_addT C G ((E0.tr EN).up (Nat.le_refl _) (Nat.le_refl _)) L V (by omega))
theorem x_new22 {b : Nat} (e : h.1 b = .inr (22, [.int 0, .null])) (hb4 : 400 ≤ b) (hd : 2 ≤ d) : ∃ h', ax_c d 275 [.ref b, .ref 400, .int x] h = some (.inl none, h') ∧ WS b 22 [.int x, .ref 400] h h' := by
  obtain ⟨d, rfl, he⟩ := d_succ hd
  have W0 : WS b 22 [.int 0, .null] h h := ⟨e, fun _ _ => rfl, rfl⟩
  obtain ⟨h1, e1, W1⟩ := W0.o (j := 1) (s := "KernelGym") (Nat.le_of_ble_eq_true rfl) hb4 400
  obtain ⟨h2, e2, W2⟩ := W1.i (j := 0) (Nat.le_of_ble_eq_true rfl) hb4 x
  refine ⟨h2, dx_app (m_X12_init rfl) ?_, W2⟩
  rw [e1, Option.bind_some, e2, Option.bind_some, x494 he, cV_v]
theorem x_macro_bad (hx : inI x 0 4 = 0) (hd : 3 ≤ d) : OkX (ax_c d 241 [.ref 400, .int x] H) (XP 18 (Ext 6 40 H)) := by
  obtain ⟨d, rfl, he⟩ := d_succ hd
  refine OkX.le m_X1_macro ?_
  exact OkX.xI (x_inX (by omega) hx) fun i h' X => XP.x0 rfl ⟨X.1, X.2.1, (X.2.2).up (by omega) (by omega)⟩
theorem x_macro (C : CLW n ls P H) (G : GO H iv) (g0 : inI x 0 4 ≠ 0) (hd : 9 ≤ d) : LAD n ls (6, x, 0, 0, 0, 0) P H (ax_c d 241 [.ref 400, .int x] H) := by
  obtain ⟨d, rfl, he⟩ := d_succ hd
  have p4 : 401 < 400 + H.2.1 := by obtain ⟨mc, arr, cap, it, Q, A, c1, c2, c3, c4, c5, c6, c7, c8⟩ := C; exact (c6 401 c7).2
  have le := m_X1_macro (d := d) (v0 := 400) (v1 := x) (h := H)
  rw [x_in (by omega) g0, cI_v] at le
  rw [nw_at] at le
  obtain ⟨h1, e1, w1, w2, w3⟩ := x_new22 (h := (ax_new H (.inr (22, [.int 0, .null])) 2)) (b := 400 + H.2.1) (x := x) (d := d) (new_eq _ _) (by omega) (by omega)
  rw [e1, cV_v] at le
  have s1 : h1.2.1 = H.2.1 + 1 := by rw [w3]; rfl
  have s2 : h1.2.2 = H.2.2 + 2 := by rw [w3]; rfl
  have EN : Ext 1 2 H h1 := ⟨fun q hq => (w2 q (by omega)).trans (new_ne _ _ (by omega)), by omega, by omega, by omega, by omega⟩
  have L : LnC (fun r => 400 + H.2.1 ≤ r ∧ r < 400 + h1.2.1) (400 + H.2.1) (6, x, 0, 0, 0, 0) h1 := by
    refine ⟨0, 0, 0, 0, 0, w1, ⟨by omega, by omega⟩, fun q => ?_, fun q => ?_, fun q => ?_⟩
    · exact absurd q (by simp [opK])
    · exact absurd (show 6 = 8 from q) (by decide)
    · exact absurd (show 6 = 2 from q) (by decide)
  have V : lnV (6, x, 0, 0, 0, 0) := by
    refine ⟨by show 6 ≤ 8; omega, fun q => ?_, fun q => ?_, fun q => ?_, fun q => ?_, fun q => ?_, fun q => ?_, fun q => ?_, fun q => ?_⟩
    · exact absurd q (by show ¬ 6 = 0; omega)
    · exact absurd q (by show ¬ 6 = 1; omega)
    · exact absurd q (by simp [opK])
    · exact absurd q (by show ¬ 6 = 8; omega)
    · exact absurd q (by show ¬ 6 = 4; omega)
    · exact absurd q (by show ¬ 6 = 5; omega)
    · exact inI_rg (hi := 4) (by omega) g0
    · exact absurd q (by show ¬ 6 = 2; omega)
  exact LAD.of le (by omega) (by omega) (x_addT C G (EN.up (Nat.le_refl _) (Nat.le_refl _)) L V (by omega))
theorem x_new23 {b : Nat} (e : h.1 b = .inr (23, [.null])) (hb4 : 400 ≤ b) (hd : 2 ≤ d) : ∃ h', ax_c d 278 [.ref b, .ref 400] h = some (.inl none, h') ∧ WS b 23 [.ref 400] h h' := by
  obtain ⟨d, rfl, he⟩ := d_succ hd
  have W0 : WS b 23 [.null] h h := ⟨e, fun _ _ => rfl, rfl⟩
  obtain ⟨h1, e1, W1⟩ := W0.o (j := 0) (s := "KernelGym") (Nat.le_of_ble_eq_true rfl) hb4 400
  refine ⟨h1, dx_app (m_X13_init rfl) ?_, W1⟩
  rw [e1, Option.bind_some, x494 he, cV_v]
theorem x_endMacro (C : CLW n ls P H) (G : GO H iv) (hd : 9 ≤ d) : LAD n ls (7, 0, 0, 0, 0, 0) P H (ax_c d 242 [.ref 400] H) := by
  obtain ⟨d, rfl, he⟩ := d_succ hd
  have p4 : 401 < 400 + H.2.1 := by obtain ⟨mc, arr, cap, it, Q, A, c1, c2, c3, c4, c5, c6, c7, c8⟩ := C; exact (c6 401 c7).2
  have le := m_X1_endMacro (d := d) (v0 := 400) (h := H)
  rw [nw_at] at le
  obtain ⟨h1, e1, w1, w2, w3⟩ := x_new23 (h := (ax_new H (.inr (23, [.null])) 1)) (b := 400 + H.2.1) (d := d) (new_eq _ _) (by omega) (by omega)
  rw [e1, cV_v] at le
  have s1 : h1.2.1 = H.2.1 + 1 := by rw [w3]; rfl
  have s2 : h1.2.2 = H.2.2 + 1 := by rw [w3]; rfl
  have EN : Ext 1 1 H h1 := ⟨fun q hq => (w2 q (by omega)).trans (new_ne _ _ (by omega)), by omega, by omega, by omega, by omega⟩
  have L : LnC (fun r => 400 + H.2.1 ≤ r ∧ r < 400 + h1.2.1) (400 + H.2.1) (7, 0, 0, 0, 0, 0) h1 := by
    refine ⟨0, 0, 0, 0, 0, w1, ⟨by omega, by omega⟩, fun q => ?_, fun q => ?_, fun q => ?_⟩
    · exact absurd q (by simp [opK])
    · exact absurd (show 7 = 8 from q) (by decide)
    · exact absurd (show 7 = 2 from q) (by decide)
  have V : lnV (7, 0, 0, 0, 0, 0) := by
    refine ⟨by show 7 ≤ 8; omega, fun q => ?_, fun q => ?_, fun q => ?_, fun q => ?_, fun q => ?_, fun q => ?_, fun q => ?_, fun q => ?_⟩
    · exact absurd q (by show ¬ 7 = 0; omega)
    · exact absurd q (by show ¬ 7 = 1; omega)
    · exact absurd q (by simp [opK])
    · exact absurd q (by show ¬ 7 = 8; omega)
    · exact absurd q (by show ¬ 7 = 4; omega)
    · exact absurd q (by show ¬ 7 = 5; omega)
    · exact absurd q (by show ¬ 7 = 6; omega)
    · exact absurd q (by show ¬ 7 = 2; omega)
  exact LAD.of le (by omega) (by omega) (x_addT C G (EN.up (Nat.le_refl _) (Nat.le_refl _)) L V (by omega))
theorem x_new24 {b q0 q1 : Nat} (e : h.1 b = .inr (24, [.int 0, .null, .null, .null])) (hb4 : 400 ≤ b) (hd : 2 ≤ d) : ∃ h', ax_c d 280 [.ref b, .ref 400, .int x, .ref q0, .ref q1] h = some (.inl none, h') ∧ WS b 24 [.int x, .ref q0, .ref q1, .ref 400] h h' := by
  obtain ⟨d, rfl, he⟩ := d_succ hd
  have W0 : WS b 24 [.int 0, .null, .null, .null] h h := ⟨e, fun _ _ => rfl, rfl⟩
  obtain ⟨h1, e1, W1⟩ := W0.o (j := 3) (s := "KernelGym") (Nat.le_of_ble_eq_true rfl) hb4 400
  obtain ⟨h2, e2, W2⟩ := W1.i (j := 0) (Nat.le_of_ble_eq_true rfl) hb4 x
  obtain ⟨h3, e3, W3⟩ := W2.o (j := 1) (s := "KernelGym$Operand") (Nat.le_of_ble_eq_true rfl) hb4 q0
  obtain ⟨h4, e4, W4⟩ := W3.o (j := 2) (s := "KernelGym$Operand") (Nat.le_of_ble_eq_true rfl) hb4 q1
  refine ⟨h4, dx_app (m_X14_init rfl rfl rfl) ?_, W4⟩
  rw [e1, Option.bind_some, e2, Option.bind_some, e3, Option.bind_some, e4, Option.bind_some, x494 he, cV_v]
theorem x_use_bad (hx : inI x 0 4 = 0 ∨ ¬ opG k l ∨ ¬ opG y z) (hd : 3 ≤ d) : OkX (ax_c d 243 [.ref 400, .int x, .int k, .int l, .int y, .int z] H) (XP 18 (Ext 6 40 H)) := by
  obtain ⟨d, rfl, he⟩ := d_succ hd
  refine OkX.le m_X1_use ?_
  by_cases e0 : inI x 0 4 = 0
  · exact OkX.xI (x_inX (by omega) e0) fun i h' X => XP.x0 rfl ⟨X.1, X.2.1, (X.2.2).up (by omega) (by omega)⟩
  · rw [x_in (by omega) e0, cI_v]
    by_cases e1 : ¬ opG k l
    · exact OkX.xR (x_operand_bad e1 (by omega)) fun i h' X => XP.x0 rfl ⟨X.1, X.2.1, (X.2.2).up (by omega) (by omega)⟩
    · have g1 := Classical.not_not.mp e1
      obtain ⟨h1, k1, k2, E0, -⟩ := x_operand (H := H) (d := d) g1 (by omega)
      rw [k1, cR_r]
      have f : ¬ opG y z := by
        rcases hx with w | w | w
        · exact absurd w e0
        · exact absurd w e1
        · exact w
      exact OkX.xR (x_operand_bad f (by omega)) fun i h' X => XP.x0 rfl ⟨X.1, X.2.1, ((E0.tr X.2.2)).up (by omega) (by omega)⟩
theorem x_use (C : CLW n ls P H) (G : GO H iv) (g0 : inI x 0 4 ≠ 0) (g1 : opG k l) (g2 : opG y z) (hd : 9 ≤ d) : LAD n ls (8, k, l, y, z, x) P H (ax_c d 243 [.ref 400, .int x, .int k, .int l, .int y, .int z] H) := by
  obtain ⟨d, rfl, he⟩ := d_succ hd
  have p4 : 401 < 400 + H.2.1 := by obtain ⟨mc, arr, cap, it, Q, A, c1, c2, c3, c4, c5, c6, c7, c8⟩ := C; exact (c6 401 c7).2
  have le := m_X1_use (d := d) (v0 := 400) (v1 := x) (v2 := k) (v3 := l) (v4 := y) (v5 := z) (h := H)
  rw [x_in (by omega) g0, cI_v] at le
  obtain ⟨a0, k0, r0, E0, t0⟩ := x_operand (H := H) (d := d) g1 (by omega)
  rw [k0, cR_r] at le
  obtain ⟨a1, k1, r1, E1, t1⟩ := x_operand (H := a0) (d := d) g2 (by omega)
  rw [k1, cR_r] at le
  rw [nw_at] at le
  obtain ⟨h1, e1, w1, w2, w3⟩ := x_new24 (h := (ax_new a1 (.inr (24, [.int 0, .null, .null, .null])) 4)) (b := 400 + a1.2.1) (q0 := 400 + H.2.1) (q1 := 400 + a0.2.1) (x := x) (d := d) (new_eq _ _) (by omega) (by omega)
  rw [e1, cV_v] at le
  have s1 : h1.2.1 = a1.2.1 + 1 := by rw [w3]; rfl
  have s2 : h1.2.2 = a1.2.2 + 4 := by rw [w3]; rfl
  have EN : Ext 1 4 a1 h1 := ⟨fun q hq => (w2 q (by omega)).trans (new_ne _ _ (by omega)), by omega, by omega, by omega, by omega⟩
  have L : LnC (fun r => 400 + H.2.1 ≤ r ∧ r < 400 + h1.2.1) (400 + a1.2.1) (8, k, l, y, z, x) h1 := by
    refine ⟨(400 + H.2.1), (400 + a0.2.1), 0, 0, 0, w1, ⟨by omega, by omega⟩, fun q => ?_, fun q => ?_, fun q => ?_⟩
    · exact ⟨⟨by omega, by omega⟩, by rw [EN.1 _ (by omega), E1.1 _ (by omega)]; exact r0⟩
    · exact ⟨⟨by omega, by omega⟩, by rw [EN.1 _ (by omega)]; exact r1⟩
    · exact absurd (show 8 = 2 from q) (by decide)
  have V : lnV (8, k, l, y, z, x) := by
    refine ⟨by show 8 ≤ 8; omega, fun q => ?_, fun q => ?_, fun q => ?_, fun q => ?_, fun q => ?_, fun q => ?_, fun q => ?_, fun q => ?_⟩
    · exact absurd q (by show ¬ 8 = 0; omega)
    · exact absurd q (by show ¬ 8 = 1; omega)
    · exact g1
    · exact ⟨g2, inI_rg (hi := 4) (by omega) g0⟩
    · exact absurd q (by show ¬ 8 = 4; omega)
    · exact absurd q (by show ¬ 8 = 5; omega)
    · exact absurd q (by show ¬ 8 = 6; omega)
    · exact absurd q (by show ¬ 8 = 2; omega)
  exact LAD.of le (by omega) (by omega) (x_addT C G ((E0.tr (E1.tr EN)).up (Nat.le_refl _) (Nat.le_refl _)) L V (by omega))
end SRN
