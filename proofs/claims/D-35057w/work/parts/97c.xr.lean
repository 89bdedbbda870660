/-! the gym: going to an address, back, pressing, crashing, starting, formatting -/
/- with ON ON.iv ON.go goP rnN rtN atP kpI IV IV.b20 IV.it IV.start CK.wl CO CO.mv CO.sz FR FR.tr FR.rf FR.up FR.go FR.old FR.rg MM.mv MV.g0 MV.vn MV.rdn MM.mono MM.cells OLD.mono x_make fE_end fE_le c_goesOn c_isOn inI_val inI_1 XP XP.x0 Ext GO.g x_in x_inX x_must x_mustX it_press KT.press JU unW prJ hasP_app beg_eq DK.lg OF K0 IV.sc GD.wc CI.wk CK.ci -/
section XRS
variable {N n im cap a w k : Nat} {v x lo hi key : Int32} {ds0 img c : Nat → Int32} {K : kk_K} {J : mm_J} {P P' : Nat → Prop} {H H' : ax_H} {iv : Value}
theorem i1_100 {k : Nat} (h1 : 1 ≤ k) (hk : k ≤ 100) : inI (Int32.ofNat k) 1 100 ≠ 0 := (inI_val (lo := 1) (hi := 100) (by omega) (by omega)).mpr ⟨k, h1, hk, rfl⟩
theorem i1_200 {k : Nat} (h1 : 1 ≤ k) (hk : k ≤ 200) : inI (Int32.ofNat k) 1 200 ≠ 0 := (inI_val (lo := 1) (hi := 200) (by omega) (by omega)).mpr ⟨k, h1, hk, rfl⟩
theorem x_runTo32 {k : Nat} (hk : k ≤ 100) {d : Nat} (hd : 15 ≤ d) : ∀ m j, j + m = k → ∀ (N n cap : Nat) (J : mm_J) (P : Nat → Prop) (H : ax_H), ON N n K ds0 img → CO N n K ds0 img v im J cap P H → OLD H → RG P → GO H iv → Ok (B_X1_runTo_32 (ax_c d) 400 x (Int32.ofNat k) (Int32.ofNat j) 0 H) (.inl (some (.int (Int32.ofNat (j + rtN K (stC ds0 img K v) x m N))))) (fun H' => ∃ J' cap' P' e, CO (N + rtN K (stC ds0 img K v) x m N) (kpI (rtN K (stC ds0 img K v) x m N) n) K ds0 img v im J' cap' P' H' ∧ FR P P' cap cap' (160 * rtN K (stC ds0 img K v) x m N + 12 * e) (340 * rtN K (stC ds0 img K v) x m N + 1100 * e) H H' ∧ e ≤ 1 ∧ (itC K (stC ds0 img K v) N 0 ≠ 1 → e = 0)) := by
  intro m
  induction m with
  | zero =>
    intro j hj N n cap J P H O C D R G
    obtain rfl : j = k := by omega
    refine Ok.le b_X1_runTo_32 ?_
    rw [if_neg (fun z => z rfl), if_pos (Int32.le_refl _)]
    exact Ok.ret ⟨J, cap, P, 0, C, FR.rf, by omega, fun _ => rfl⟩
  | succ m ih =>
    intro j hj N n cap J P H O C D R G
    refine Ok.le b_X1_runTo_32 ?_
    rw [if_neg (fun z => z rfl), if_neg (i_ge_not (by omega) (by omega)), G.g, Option.bind_some, C.mv.vn, Option.bind_some, c_goesOn (by omega) C.mv, cI_v, go_val O]
    by_cases q : goP K (stC ds0 img K v) N
    · rw [@if_pos _ (Classical.propDecidable _) q, if_neg (by decide), G.g, Option.bind_some, C.mv.vn, Option.bind_some]
      refine Ok.V (x_make O C D q (by omega)) ?_
      rintro H1 ⟨J1, cap1, P1, C1, F1⟩
      have G1 := F1.go R G C.sz.1
      have V1 := C1.mv
      rw [lt_at, show Int32.ofNat j + 1 = Int32.ofNat (j + 1) from i_add j 1, G1.g, Option.bind_some, V1.g0, Option.bind_some, V1.rdn (i := 3) (k := 3) rfl (by decide), Option.bind_some]
      have fl := fE_le (K := K) (c := itC K (stC ds0 img K v) N)
      by_cases qa : atP K (stC ds0 img K v) x (N + 1)
      · have er : rtN K (stC ds0 img K v) x (m + 1) N = 1 := (@if_pos _ (Classical.propDecidable _) q _ _ _).trans (@if_pos _ (Classical.propDecidable _) qa _ _ _)
        rw [er, if_neg (fun z => z qa.1), Option.bind_some, V1.g0, Option.bind_some, V1.rdn (i := 18) (k := 18) rfl (by decide), Option.bind_some, if_neg (fun z => z qa.2)]
        refine Ok.le b_X1_runTo_32 ?_
        rw [if_pos (by decide)]
        exact Ok.ret ⟨J1, cap1, P1, fE K (itC K (stC ds0 img K v) N), C1, F1.up (by omega) (by omega), fl, fun z => absurd q.1 z⟩
      · have er : rtN K (stC ds0 img K v) x (m + 1) N = rtN K (stC ds0 img K v) x m (N + 1) + 1 := (@if_pos _ (Classical.propDecidable _) q _ _ _).trans (@if_neg _ (Classical.propDecidable _) qa _ _ _)
        have rest : Ok (B_X1_runTo_32 (ax_c d) 400 x (Int32.ofNat k) (Int32.ofNat (j + 1)) 0 H1) (.inl (some (.int (Int32.ofNat (j + rtN K (stC ds0 img K v) x (m + 1) N))))) (fun H' => ∃ J' cap' P' e, CO (N + rtN K (stC ds0 img K v) x (m + 1) N) (kpI (rtN K (stC ds0 img K v) x (m + 1) N) n) K ds0 img v im J' cap' P' H' ∧ FR P P' cap cap' (160 * rtN K (stC ds0 img K v) x (m + 1) N + 12 * e) (340 * rtN K (stC ds0 img K v) x (m + 1) N + 1100 * e) H H' ∧ e ≤ 1 ∧ (itC K (stC ds0 img K v) N 0 ≠ 1 → e = 0)) := by
          rw [er, show j + (rtN K (stC ds0 img K v) x m (N + 1) + 1) = j + 1 + rtN K (stC ds0 img K v) x m (N + 1) by omega]
          refine (ih (j + 1) (by omega) (N + 1) (kpN n) cap1 J1 P1 H1 (O.go q.2) C1 (F1.old R D) (F1.rg R C.sz.1) G1).imp ?_
          rintro H2 ⟨J2, cap2, P2, e2, C2, F2, l2, z2⟩
          have fz : fE K (itC K (stC ds0 img K v) N) ≠ 0 → e2 = 0 := fun z => z2 (by
            rw [show itC K (stC ds0 img K v) (N + 1) 0 = 3 from fE_end z]; decide)
          refine ⟨J2, cap2, P2, fE K (itC K (stC ds0 img K v) N) + e2, ?_, (F1.tr F2).up (by omega) (by omega), ?_, fun z => absurd q.1 z⟩
          · rw [show N + (rtN K (stC ds0 img K v) x m (N + 1) + 1) = N + 1 + rtN K (stC ds0 img K v) x m (N + 1) by omega]; exact C2
          · by_cases z : fE K (itC K (stC ds0 img K v) N) = 0
            · omega
            · have := fz z; omega
        by_cases q1 : itC K (stC ds0 img K v) (N + 1) 3 = x
        · rw [if_neg (fun z => z q1), Option.bind_some, V1.g0, Option.bind_some, V1.rdn (i := 18) (k := 18) rfl (by decide), Option.bind_some, if_pos (fun z => qa ⟨q1, z⟩)]; exact rest
        · rw [if_pos q1]; exact rest
    · have er : rtN K (stC ds0 img K v) x (m + 1) N = 0 := @if_neg _ (Classical.propDecidable _) q _ _ _
      rw [@if_neg _ (Classical.propDecidable _) q, if_pos rfl, er]
      exact Ok.ret ⟨J, cap, P, 0, C, FR.rf, by omega, fun _ => rfl⟩
theorem x_runTo_bad1 {y : Int32} (hx : inI x 0 255 = 0) {d : Nat} (hd : 2 ≤ d) : OkX (ax_c d 250 [.ref 400, .int x, .int y] H) (XP 18 (Ext 1 6 H)) := by
  obtain ⟨d, rfl, he⟩ := d_succ hd
  refine OkX.le m_X1_runTo ?_
  exact OkX.xI (x_inX he hx) fun i h' X => X.x0 rfl
theorem x_runTo_bad2 {y : Int32} (hx : inI x 0 255 ≠ 0) (hy : inI y 1 100 = 0) {d : Nat} (hd : 2 ≤ d) : OkX (ax_c d 250 [.ref 400, .int x, .int y] H) (XP 18 (Ext 1 6 H)) := by
  obtain ⟨d, rfl, he⟩ := d_succ hd
  refine OkX.le m_X1_runTo ?_
  rw [x_in he hx, cI_v]
  exact OkX.xI (x_inX he hy) fun i h' X => X.x0 rfl
theorem x_runTo_off {y : Int32} (hx : inI x 0 255 ≠ 0) (hy : inI y 1 100 ≠ 0) (G : GO H iv) (M : MV 402 c H) (h0 : c 0 = 0) {d : Nat} (hd : 2 ≤ d) : OkX (ax_c d 250 [.ref 400, .int x, .int y] H) (XP 0 (Ext 1 6 H)) := by
  obtain ⟨d, rfl, he⟩ := d_succ hd
  refine OkX.le m_X1_runTo ?_
  rw [x_in he hx, cI_v, x_in he hy, cI_v, G.g, Option.bind_some, M.vn, Option.bind_some, c_isOn he M, cI_v, if_pos h0]
  exact OkX.xV (x_mustX he) fun i h' X => X.x0 rfl
theorem x_runTo_yes (hx : inI x 0 255 ≠ 0) (O : ON N n K ds0 img) (C : CO N n K ds0 img v im J cap P H) (D : OLD H) (R : RG P) (G : GO H iv) {k : Nat} (h1 : 1 ≤ k) (hk : k ≤ 100) {d : Nat} (hd : 16 ≤ d) : Ok (ax_c d 250 [.ref 400, .int x, .int (Int32.ofNat k)] H) (.inl (some (.int (Int32.ofNat (rtN K (stC ds0 img K v) x k N))))) (fun H' => ∃ J' cap' P', CO (N + rtN K (stC ds0 img K v) x k N) (kpI (rtN K (stC ds0 img K v) x k N) n) K ds0 img v im J' cap' P' H' ∧ FR P P' cap cap' 16012 35100 H H') := by
  obtain ⟨d, rfl, he⟩ := d_succ hd
  refine Ok.le m_X1_runTo ?_
  have n0 := (O.iv (v := v)).2.2.2.1
  rw [x_in (by omega) hx, cI_v, x_in (by omega) (i1_100 h1 hk), cI_v, G.g, Option.bind_some, C.mv.vn, Option.bind_some, c_isOn (by omega) C.mv, cI_v, if_neg n0, x_must (by omega) (by decide), cV_v]
  have := x_runTo32 (x := x) (iv := iv) hk (d := d) (by omega) k 0 (by omega) N n cap J P H O C D R G
  rw [Nat.zero_add] at this
  refine this.imp ?_
  rintro H' ⟨J', cap', P', e, C', F', l, -⟩
  have hr : ∀ m N, rtN K (stC ds0 img K v) x m N ≤ m := by
    intro m
    induction m with
    | zero => intro N; exact Nat.le_refl _
    | succ m ih =>
      intro N
      show @ite _ (goP K (stC ds0 img K v) N) (Classical.propDecidable _) (@ite _ (atP K (stC ds0 img K v) x (N + 1)) (Classical.propDecidable _) 1 (rtN K (stC ds0 img K v) x m (N + 1) + 1)) 0 ≤ m + 1
      by_cases q : goP K (stC ds0 img K v) N
      · rw [@if_pos _ (Classical.propDecidable _) q]
        have := ih (N + 1)
        by_cases q2 : atP K (stC ds0 img K v) x (N + 1)
        · rw [@if_pos _ (Classical.propDecidable _) q2]; omega
        · rw [@if_neg _ (Classical.propDecidable _) q2]; omega
      · rw [@if_neg _ (Classical.propDecidable _) q]; omega
  have := hr k N
  exact ⟨J', cap', P', C', F'.up (by omega) (by omega)⟩
/-! back -/
theorem x_back_bad (hx : inI x 1 200 = 0) {d : Nat} (hd : 2 ≤ d) : OkX (ax_c d 251 [.ref 400, .int x] H) (XP 18 (Ext 1 6 H)) := by
  obtain ⟨d, rfl, he⟩ := d_succ hd
  refine OkX.le m_X1_back ?_
  exact OkX.xI (x_inX he hx) fun i h' X => X.x0 rfl
theorem x_back_off (hx : inI x 1 200 ≠ 0) (G : GO H iv) (M : MV 402 c H) (h0 : c 0 = 0) {d : Nat} (hd : 2 ≤ d) : OkX (ax_c d 251 [.ref 400, .int x] H) (XP 0 (Ext 1 6 H)) := by
  obtain ⟨d, rfl, he⟩ := d_succ hd
  refine OkX.le m_X1_back ?_
  rw [x_in he hx, cI_v, G.g, Option.bind_some, M.vn, Option.bind_some, c_isOn he M, cI_v, if_pos h0]
  exact OkX.xV (x_mustX he) fun i h' X => X.x0 rfl
theorem bk_it {c0 : Nat → Int32} (U : JU K c0 N n J) (hn : n ≤ N) : ∀ k, k ≤ n → bkC (itC K c0 N) J n k = itC K c0 (N - k) := by
  intro k
  induction k with
  | zero => intro _; rfl
  | succ k ih =>
    intro hk
    show unW (bkC (itC K c0 N) J n k) (J (n - 1 - k)) = _
    have := (U (n - 1 - k) (by omega)).1
    rw [show N - n + (n - 1 - k) + 1 = N - k by omega, show N - n + (n - 1 - k) = N - (k + 1) by omega] at this
    rw [ih (by omega), this]
theorem Ex.fr2 {A : Nat → Prop} (E : Ex A H H') (h : ∀ q, A q → P q) : FR P P cap cap 0 0 H H' := ⟨fun q _ hp => E.2 q (fun z => hp (h q z)), fun _ z => Or.inl z, by rw [E.1]; exact Nat.le_refl _, by rw [E.1]; exact Nat.le_refl _, Nat.le_refl _, by rw [E.1]; exact Nat.le_refl _, by rw [E.1]; exact Nat.le_refl _⟩
theorem x_back_yes (O : ON N n K ds0 img) (C : CO N n K ds0 img v im J cap P H) (G : GO H iv) {k : Nat} (h1 : 1 ≤ k) (hk : k ≤ 200) {d : Nat} (hd : 5 ≤ d) : Ok (ax_c d 251 [.ref 400, .int (Int32.ofNat k)] H) (.inl (some (.int (Int32.ofNat (if k < n then k else n))))) (fun H' => CO (N - (if k < n then k else n)) (n - (if k < n then k else n)) K ds0 img v im J cap P H' ∧ FR P P cap cap 0 0 H H') := by
  obtain ⟨d, rfl, he⟩ := d_succ hd
  refine Ok.le m_X1_back ?_
  have n0 := (O.iv (v := v)).2.2.2.1
  rw [x_in (by omega) (i1_200 h1 hk), cI_v, G.g, Option.bind_some, C.mv.vn, Option.bind_some, c_isOn (by omega) C.mv, cI_v, if_neg n0, x_must (by omega) (by decide), cV_v, G.g, Option.bind_some, C.mv.vn, Option.bind_some]
  obtain ⟨ds1, M, c1, c2, c3, c4, c5, c6⟩ := C
  have hr : (if k < n then k else n) ≤ n := by split <;> omega
  have o1 := O.1
  refine Ok.I (c_back he M hk O.2.2.1) fun H' h => ?_
  obtain ⟨M', E⟩ := h
  rw [bk_it c5 O.1 _ hr] at M'
  have F := Ex.fr2 (P := P) (cap := cap) E fun q z => z
  refine Ok.ret ⟨⟨ds1, M', c1, (E.2 im c4).trans c2, by rw [E.1]; exact c3, c4, fun i hi => ?_, fun j hj => c6 j (by omega)⟩, F⟩
  have := c5 i (by omega)
  rw [show N - (if k < n then k else n) - (n - (if k < n then k else n)) = N - n by omega]
  exact this
/-! a key -/
theorem x_press_bad (hx : inI key 0 65535 = 0) {d : Nat} (hd : 2 ≤ d) : OkX (ax_c d 252 [.ref 400, .int key] H) (XP 18 (Ext 1 6 H)) := by
  obtain ⟨d, rfl, he⟩ := d_succ hd
  refine OkX.le m_X1_press ?_
  exact OkX.xI (x_inX he hx) fun i h' X => X.x0 rfl
end XRS
