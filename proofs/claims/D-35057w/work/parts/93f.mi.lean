/-! the class's machine made; its disk formatted -/
/- with MM.mv MM.cells MM.sI -/
def formC (c : ce_C) : ce_C := upd (zerC c 364 257) 397 255
section MMI
variable {d b im n cap : Nat} {kp : Int32} {ds0 c : Nat → Int32} {K : kk_K} {J : mm_J} {P : Nat → Prop} {h : ax_H}
theorem c_format (hd : 1 ≤ d) (M : MM b kp im ds0 c K n J cap P h) : Ok (ax_c d 299 [.ref b] h) (.inl none) (fun h' => MM b kp im ds0 (formC c) K n J cap P h' ∧ Ex (fun q => q = b + 1) h h') := by
  obtain ⟨d, rfl, he⟩ := d_succ hd
  refine Ok.le m_X2_format ?_
  have loop : ∀ k j : Nat, j + k = 257 → ∀ h1, MM b kp im ds0 (zerC c 364 j) K n J cap P h1 → Ex (fun q => q = b + 1) h h1 → Ok (B_X2_format_4 (ax_c d) b (Int32.ofNat (364 + j)) h1) (.inl none) (fun h' => MM b kp im ds0 (formC c) K n J cap P h' ∧ Ex (fun q => q = b + 1) h h') := by
    intro k
    induction k with
    | zero =>
      intro j hj h1 M1 E1
      obtain rfl : j = 257 := by omega
      refine Ok.le b_X2_format_4 ?_
      rw [if_pos (by decide), M1.mv.g0, Option.bind_some, M1.sI (i := 397) (k := 397) rfl (by omega), Option.bind_some]
      exact Ok.ret ⟨M1.cells _, E1.tr (Ex.set rfl)⟩
    | succ k ih =>
      intro j hj h1 M1 E1
      refine Ok.le b_X2_format_4 ?_
      rw [if_neg (show ¬ (621 : Int32) ≤ Int32.ofNat (364 + j) from i_ge_not (n := 621) (by omega) (by omega)), M1.mv.g0, Option.bind_some, M1.sI rfl (show 364 + j < 621 by omega), Option.bind_some, lt_at, show Int32.ofNat (364 + j) + 1 = Int32.ofNat (364 + (j + 1)) from i_add (364 + j) 1]
      have := M1.cells (upd (zerC c 364 j) (364 + j) 0)
      rw [zerC_up] at this ⊢
      exact ih (j + 1) (by omega) _ this (E1.tr (Ex.set rfl))
  exact loop 257 0 rfl h (by rw [zerC_zero]; exact M) Ex.rf
theorem ft_bool {v : Int32} (hv : v = 0 ∨ v = 1) : ax_ft .boolean (.int v) = true := by
  rcases hv with rfl | rfl
  · exact ftb0
  · exact ftb1
theorem Ms.ne {h0 h : ax_H} {m w q : Nat} (M : Ms h0 m w h) (hq : q < 400 + h0.2.1) : h.1 q = h0.1 q := M.2.2.2.2 q hq
theorem c_minit (hd : 6 ≤ d) (eb : b + 1 = 400 + h.2.1) (h4 : 402 ≤ b) (e : h.1 b = .inr (29, [.null, .null, .null, .int 0, .null, .null, .null, .null, .null, .int 0])) (hk : kp = 0 ∨ kp = 1) (kt kv : Nat → Int32) (J : mm_J) : Ok (ax_c d 298 [.ref b, .int kp] h) (.inl none) (fun h' => MM b kp (b + 5) (fun _ => 0) (formC fun _ => 0) (0, kt, kv) 0 J 17 (fun q => b ≤ q ∧ q ≤ b + 11) h' ∧ h'.2.1 = h.2.1 + 11 ∧ h'.2.2 = h.2.2 + 931 ∧ ∀ q, q < b → h'.1 q = h.1 q) := by
  obtain ⟨d, rfl, he⟩ := d_succ hd
  refine Ok.le m_X2_init ?_
  rw [nn_ref, na_at (k := 621) (n := 621) rfl (by omega), ← eb, pF_aref ((new_ne _ _ (by omega)).trans e) rfl (Nat.le_of_ble_eq_true rfl) (by omega), Option.bind_some, nw_at]
  -- cells
  obtain ⟨g1, eg1⟩ : ∃ g1, g1 = ax_set (ax_new h (.inl (0, 621, ax_dat 0)) 621) b (.inr (29, [.null, .null, .null, .int 0, .null, .null, .null, .null, .null, .int 0].set 0 (.ref (b + 1)))) := ⟨_, rfl⟩
  rw [← eg1]
  have a1 : g1.1 b = .inr (29, [.ref (b + 1), .null, .null, .int 0, .null, .null, .null, .null, .null, .int 0]) := by rw [eg1]; exact (set_eq _).trans rfl
  have a2 : g1.1 (b + 1) = .inl (0, 621, .inl fun _ => 0) := by rw [eg1]; exact (set_ne _ (by omega)).trans (by rw [eb]; exact new_eq _ _)
  have a3 : g1.2.1 = h.2.1 + 1 := by rw [eg1]; rfl
  have a4 : g1.2.2 = h.2.2 + 621 := by rw [eg1]; rfl
  have a5 : ∀ q, q < b → g1.1 q = h.1 q := fun q hq => by rw [eg1]; exact (set_ne _ (by omega)).trans (new_ne _ _ (by omega))
  clear eg1
  -- keys
  have p2 : 400 + g1.2.1 = b + 2 := by omega
  rw [p2]
  have l0 : (ax_new g1 (.inr (15, [.int 0, .int 0, .null, .null])) 4).1 (b + 2) = .inr (15, [.int 0, .int 0, .null, .null]) := by rw [← p2]; exact new_eq _ _
  refine Ok.V (ll_init (by omega) (by omega) (by show b + 2 < 400 + (g1.2.1 + 1); omega) l0 (fun _ => 0) (fun _ => 0)) ?_
  rintro g2 ⟨l1, E2⟩
  have c1 : g2.1 b = .inr (29, [.ref (b + 1), .null, .null, .int 0, .null, .null, .null, .null, .null, .int 0]) := (E2.2 b (by omega)).trans ((new_ne _ _ (by omega)).trans a1)
  have c2 : g2.1 (b + 1) = .inl (0, 621, .inl fun _ => 0) := (E2.2 _ (by omega)).trans ((new_ne _ _ (by omega)).trans a2)
  have c3 : g2.2.1 = h.2.1 + 2 := by rw [E2.1]; show g1.2.1 + 1 = _; omega
  have c4 : g2.2.2 = h.2.2 + 625 := by rw [E2.1]; show g1.2.2 + 4 = _; omega
  have c5 : ∀ q, q < b → g2.1 q = h.1 q := fun q hq => (E2.2 q (by omega)).trans ((new_ne _ _ (by omega)).trans (a5 q hq))
  rw [pF_oref c1 rfl (Nat.le_of_ble_eq_true rfl) (by omega), Option.bind_some, nw_at]
  -- kept
  obtain ⟨g3, eg3⟩ : ∃ g3, g3 = ax_new (ax_set g2 b (.inr (29, [.ref (b + 1), .null, .null, .int 0, .null, .null, .null, .null, .null, .int 0].set 1 (.ref (b + 2))))) (.inr (16, [.null, .int 0, .int 0])) 3 := ⟨_, rfl⟩
  have p3 : 400 + (ax_set g2 b (.inr (29, [.ref (b + 1), .null, .null, .int 0, .null, .null, .null, .null, .null, .int 0].set 1 (.ref (b + 2))))).2.1 = b + 3 := by show 400 + g2.2.1 = _; omega
  rw [← eg3, p3]
  have d0 : g3.1 (b + 3) = .inr (16, [.null, .int 0, .int 0]) := by rw [eg3, ← p3]; exact new_eq _ _
  have d1 : g3.1 b = .inr (29, [.ref (b + 1), .ref (b + 2), .null, .int 0, .null, .null, .null, .null, .null, .int 0]) := by rw [eg3]; exact (new_ne _ _ (by rw [p3]; omega)).trans ((set_eq _).trans rfl)
  have d2 : ∀ q, q ≠ b → q < b + 3 → g3.1 q = g2.1 q := fun q q1 q2 => by rw [eg3]; exact (new_ne _ _ (by rw [p3]; omega)).trans (set_ne _ q1)
  have d3 : g3.2.1 = h.2.1 + 3 := by rw [eg3]; show g2.2.1 + 1 = _; omega
  have d4 : g3.2.2 = h.2.2 + 628 := by rw [eg3]; show g2.2.2 + 3 = _; omega
  clear eg3
  refine Ok.V (dq_init (by omega) (by omega) (by omega) d0 (fun _ => 0)) ?_
  rintro g4 ⟨q1, f3, f4, f5⟩
  have p4 : 400 + g3.2.1 = b + 4 := by omega
  rw [p4] at q1
  have e1 : g4.1 b = .inr (29, [.ref (b + 1), .ref (b + 2), .null, .int 0, .null, .null, .null, .null, .null, .int 0]) := (f5 b (by omega) (by omega)).trans d1
  rw [pF_oref e1 rfl (Nat.le_of_ble_eq_true rfl) (by omega), Option.bind_some, na_at (k := 0) (n := 0) rfl (by omega)]
  -- the rows that are only made
  have row : ∀ (g : ax_H) (x : ax_C) (q : Nat), q ≠ b → (ax_set g b x).1 q = g.1 q := fun g x q hq => set_ne _ hq
  obtain ⟨g5, eg5⟩ : ∃ g5, g5 = ax_set (ax_new (ax_set g4 b (.inr (29, [.ref (b + 1), .ref (b + 2), .null, .int 0, .null, .null, .null, .null, .null, .int 0].set 2 (.ref (b + 3))))) (.inl (0, 0, ax_dat 0)) 0) b (.inr (29, [.ref (b + 1), .ref (b + 2), .ref (b + 3), .int 0, .null, .ref (b + 5), .null, .null, .null, .int 0])) := ⟨_, rfl⟩
  have p5 : 400 + (ax_set g4 b (.inr (29, [.ref (b + 1), .ref (b + 2), .null, .int 0, .null, .null, .null, .null, .null, .int 0].set 2 (.ref (b + 3))))).2.1 = b + 5 := by show 400 + g4.2.1 = _; omega
  rw [p5, pF_aref ((new_ne _ _ (by rw [p5]; omega)).trans (set_eq _)) rfl (Nat.le_of_ble_eq_true rfl) (by omega), Option.bind_some]
  rw [show [Value.ref (b + 1), .ref (b + 2), .null, .int 0, .null, .null, .null, .null, .null, .int 0].set 2 (.ref (b + 3)) = [Value.ref (b + 1), .ref (b + 2), .ref (b + 3), .int 0, .null, .null, .null, .null, .null, .int 0] from rfl] at eg5 ⊢
  rw [show [Value.ref (b + 1), .ref (b + 2), .ref (b + 3), .int 0, .null, .null, .null, .null, .null, .int 0].set 5 (.ref (b + 5)) = [Value.ref (b + 1), .ref (b + 2), .ref (b + 3), .int 0, .null, .ref (b + 5), .null, .null, .null, .int 0] from rfl, ← eg5]
  have i1 : g5.1 b = .inr (29, [.ref (b + 1), .ref (b + 2), .ref (b + 3), .int 0, .null, .ref (b + 5), .null, .null, .null, .int 0]) := by rw [eg5]; exact set_eq _
  have i3 : g5.2.1 = h.2.1 + 5 := by rw [eg5]; show g4.2.1 + 1 = _; omega
  have i4 : g5.2.2 = h.2.2 + 645 := by rw [eg5]; show g4.2.2 + 0 = _; omega
  have i5 : ∀ q, q ≠ b → q < b + 5 → g5.1 q = g4.1 q := fun q q1 q2 => by rw [eg5]; exact (set_ne _ q1).trans ((new_ne _ _ (by show q ≠ 400 + g4.2.1; omega)).trans (set_ne _ q1))
  clear eg5 p5
  rw [na_at (k := 256) (n := 256) rfl (by omega), show 400 + g5.2.1 = b + 6 by omega, pF_aref ((new_ne _ _ (by omega)).trans i1) rfl (Nat.le_of_ble_eq_true rfl) (by omega), Option.bind_some]
  obtain ⟨g6, eg6⟩ : ∃ g6, g6 = ax_set (ax_new g5 (.inl (0, 256, ax_dat 0)) 256) b (.inr (29, [.ref (b + 1), .ref (b + 2), .ref (b + 3), .int 0, .null, .ref (b + 5), .ref (b + 6), .null, .null, .int 0])) := ⟨_, rfl⟩
  rw [show [Value.ref (b + 1), .ref (b + 2), .ref (b + 3), .int 0, .null, .ref (b + 5), .null, .null, .null, .int 0].set 6 (.ref (b + 6)) = [Value.ref (b + 1), .ref (b + 2), .ref (b + 3), .int 0, .null, .ref (b + 5), .ref (b + 6), .null, .null, .int 0] from rfl, ← eg6]
  have j1 : g6.1 b = .inr (29, [.ref (b + 1), .ref (b + 2), .ref (b + 3), .int 0, .null, .ref (b + 5), .ref (b + 6), .null, .null, .int 0]) := by rw [eg6]; exact set_eq _
  have j2 : g6.1 (b + 6) = .inl (0, 256, .inl fun _ => 0) := by rw [eg6]; exact (set_ne _ (by omega)).trans (by rw [show b + 6 = 400 + g5.2.1 by omega]; exact new_eq _ _)
  have j3 : g6.2.1 = h.2.1 + 6 := by rw [eg6]; show g5.2.1 + 1 = _; omega
  have j4 : g6.2.2 = h.2.2 + 901 := by rw [eg6]; show g5.2.2 + 256 = _; omega
  have j5 : ∀ q, q ≠ b → q < b + 6 → g6.1 q = g5.1 q := fun q q1 q2 => by rw [eg6]; exact (set_ne _ q1).trans (new_ne _ _ (by omega))
  clear eg6
  rw [na_at (k := 3) (n := 3) rfl (by omega), show 400 + g6.2.1 = b + 7 by omega, pF_aref ((new_ne _ _ (by omega)).trans j1) rfl (Nat.le_of_ble_eq_true rfl) (by omega), Option.bind_some]
  obtain ⟨g7, eg7⟩ : ∃ g7, g7 = ax_set (ax_new g6 (.inl (0, 3, ax_dat 0)) 3) b (.inr (29, [.ref (b + 1), .ref (b + 2), .ref (b + 3), .int 0, .null, .ref (b + 5), .ref (b + 6), .ref (b + 7), .null, .int 0])) := ⟨_, rfl⟩
  rw [show [Value.ref (b + 1), .ref (b + 2), .ref (b + 3), .int 0, .null, .ref (b + 5), .ref (b + 6), .null, .null, .int 0].set 7 (.ref (b + 7)) = [Value.ref (b + 1), .ref (b + 2), .ref (b + 3), .int 0, .null, .ref (b + 5), .ref (b + 6), .ref (b + 7), .null, .int 0] from rfl, ← eg7]
  have k1 : g7.1 b = .inr (29, [.ref (b + 1), .ref (b + 2), .ref (b + 3), .int 0, .null, .ref (b + 5), .ref (b + 6), .ref (b + 7), .null, .int 0]) := by rw [eg7]; exact set_eq _
  have k2 : g7.1 (b + 7) = .inl (0, 3, .inl fun _ => 0) := by rw [eg7]; exact (set_ne _ (by omega)).trans (by rw [show b + 7 = 400 + g6.2.1 by omega]; exact new_eq _ _)
  have k3 : g7.2.1 = h.2.1 + 7 := by rw [eg7]; show g6.2.1 + 1 = _; omega
  have k4 : g7.2.2 = h.2.2 + 904 := by rw [eg7]; show g6.2.2 + 3 = _; omega
  have k5 : ∀ q, q ≠ b → q < b + 7 → g7.1 q = g6.1 q := fun q q1 q2 => by rw [eg7]; exact (set_ne _ q1).trans (new_ne _ _ (by omega))
  clear eg7
  -- the drafts
  show Ok (if (3 : Int32) = 3 ∧ (8 : Int32) = 8 then _ else none) _ _
  rw [if_pos ⟨rfl, rfl⟩, show 400 + g7.2.1 = b + 8 by omega]
  have n8 : ∀ q, q < b + 8 → (ax_newaa g7).1 q = g7.1 q := fun q hq => by
    unfold ax_newaa
    exact (new_ne _ _ (by show q ≠ 400 + (g7.2.1 + 1 + 1 + 1); omega)).trans ((new_ne _ _ (by show q ≠ 400 + (g7.2.1 + 1 + 1); omega)).trans ((new_ne _ _ (by show q ≠ 400 + (g7.2.1 + 1); omega)).trans (new_ne _ _ (by omega))))
  have m8 : (ax_newaa g7).1 (b + 8) = .inl (5, 3, objs fun j => if j < 3 then some (b + 9 + j) else none) := by
    unfold ax_newaa
    rw [show b + 8 = 400 + g7.2.1 by omega]
    refine (new_ne _ _ (by show 400 + g7.2.1 ≠ 400 + (g7.2.1 + 1 + 1 + 1); omega)).trans ((new_ne _ _ (by show 400 + g7.2.1 ≠ 400 + (g7.2.1 + 1 + 1); omega)).trans ((new_ne _ _ (by show 400 + g7.2.1 ≠ 400 + (g7.2.1 + 1); omega)).trans ((new_eq _ _).trans ?_)))
    have : (fun j => if j < 3 then some (400 + g7.2.1 + 1 + j) else none) = (fun j => if j < 3 then some (b + 9 + j) else none) := by
      funext j
      rw [show 400 + g7.2.1 + 1 = b + 9 by omega]
    rw [this]
  have m9 : ∀ k, k < 3 → (ax_newaa g7).1 (b + 9 + k) = .inl (0, 8, .inl fun _ => 0) := by
    intro k hk
    unfold ax_newaa
    obtain rfl | rfl | rfl : k = 0 ∨ k = 1 ∨ k = 2 := by omega
    · refine (new_ne _ _ (by show b + 9 + 0 ≠ 400 + (g7.2.1 + 1 + 1 + 1); omega)).trans ((new_ne _ _ (by show b + 9 + 0 ≠ 400 + (g7.2.1 + 1 + 1); omega)).trans ?_)
      rw [show b + 9 + 0 = 400 + (g7.2.1 + 1) by omega]
      exact new_eq _ _
    · refine (new_ne _ _ (by show b + 9 + 1 ≠ 400 + (g7.2.1 + 1 + 1 + 1); omega)).trans ?_
      rw [show b + 9 + 1 = 400 + (g7.2.1 + 1 + 1) by omega]
      exact new_eq _ _
    · rw [show b + 9 + 2 = 400 + (g7.2.1 + 1 + 1 + 1) by omega]
      exact new_eq _ _
  have s8 : (ax_newaa g7).2.1 = h.2.1 + 11 := by show g7.2.1 + 1 + 1 + 1 + 1 = _; omega
  have s82 : (ax_newaa g7).2.2 = h.2.2 + 931 := by show g7.2.2 + 3 + 8 + 8 + 8 = _; omega
  generalize ax_newaa g7 = g8 at n8 m8 m9 s8 s82
  simp only []
  rw [pF_aref ((n8 b (by omega)).trans k1) rfl (Nat.le_of_ble_eq_true rfl) (by omega), Option.bind_some, pF_at (set_eq _) rfl (Nat.le_of_ble_eq_true rfl) (ft_bool hk) (by omega), Option.bind_some]
  obtain ⟨g9, eg9⟩ : ∃ g9, g9 = ax_set (ax_set g8 b (.inr (29, [.ref (b + 1), .ref (b + 2), .ref (b + 3), .int 0, .null, .ref (b + 5), .ref (b + 6), .ref (b + 7), .null, .int 0].set 8 (.ref (b + 8))))) b (.inr (29, ([.ref (b + 1), .ref (b + 2), .ref (b + 3), .int 0, .null, .ref (b + 5), .ref (b + 6), .ref (b + 7), .null, .int 0].set 8 (.ref (b + 8))).set 3 (.int kp))) := ⟨_, rfl⟩
  rw [← eg9]
  have z0 : ∀ q, q ≠ b → g9.1 q = g8.1 q := fun q hq => by rw [eg9]; exact (set_ne _ hq).trans (set_ne _ hq)
  have z1 : g9.1 b = .inr (29, mo_fs b (g9, kp, b + 5) none 0) := by rw [eg9]; exact (set_eq _).trans rfl
  have z2 : g9.2 = g8.2 := by rw [eg9]; rfl
  clear eg9
  have lo : ∀ q, q ≠ b → q < b + 5 → g9.1 q = g4.1 q := fun q r1 r2 => (z0 q r1).trans ((n8 q (by omega)).trans ((k5 q r1 (by omega)).trans ((j5 q r1 (by omega)).trans (i5 q r1 r2))))
  have lo2 : ∀ q, q ≠ b → q < b + 3 → g9.1 q = g2.1 q := fun q r1 r2 => (lo q r1 (by omega)).trans ((f5 q (by omega) (by omega)).trans (d2 q r1 r2))
  have M : MM b kp (b + 5) (fun _ => 0) (fun _ => 0) (0, kt, kv) 0 J 17 (fun q => b ≤ q ∧ q ≤ b + 11) g9 := by
    refine ⟨(0, fun _ => 0, fun j => j, fun _ _ => 0), b + 4, 0, fun _ => 0, fun _ => 0, z1, (lo2 _ (by omega) (by omega)).trans c2, ⟨(z0 _ (by omega)).trans ((n8 _ (by omega)).trans k2), ⟨_, (z0 _ (by omega)).trans m8, fun j hj => if_pos hj⟩, fun k hk => (z0 _ (by omega)).trans (m9 k hk), fun j hj => hj, fun i j hij _ => by show i ≠ j; omega⟩, ⟨0, fun _ => 0, fun _ => 0, l1.mono (lo2 _ (by omega) (by omega)) (fun i hi => by omega) (by rw [z2]; omega), by show 0 ≤ 20; omega, fun i hi => absurd hi (Nat.not_lt_zero i)⟩, q1.mono (lo _ (by omega) (by omega)) (lo _ (by omega) (by omega)) (by rw [z2]; omega), Nat.le_refl _, Or.inl rfl, fun i hi => by omega, fun i j _ hj => by omega, (z0 _ (by omega)).trans ((n8 _ (by omega)).trans ((k5 _ (by omega) (by omega)).trans j2)), h4, by rw [z2]; omega, fun q hq => by rw [z2]; have := hq.2; omega, fun q r1 r2 => ⟨r1, r2⟩, ⟨by omega, by omega⟩, fun i hi => by omega⟩
  rw [M.mv.vn, Option.bind_some]
  refine Ok.V (c_format (by omega) M) ?_
  rintro g10 ⟨M2, E10⟩
  refine Ok.ret ⟨M2, by rw [E10.1, z2]; exact s8, by rw [E10.1, z2]; exact s82, fun q hq => (E10.2 q (by omega)).trans ((lo2 q (by omega) (by omega)).trans (c5 q hq))⟩
end MMI
