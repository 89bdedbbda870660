/-! the gym's steps -/
/- with ON ON.iv ON.go goP rnN rtN atP kpI IV IV.b20 CK.wl CO FR FR.tr FR.rf FR.up MM.mv MV.g0 MV.vn OLD.mono x_make fE_end fE_le c_goesOn c_isOn inI_val inI_1 -/
/-- something of kind k is thrown -/
def XP (k : Nat) (Q : ax_H → Prop) (i : Nat) (h : ax_H) : Prop := 400 ≤ i ∧ (∃ fs, h.1 i = .inr (k, fs)) ∧ Q h
/-- a few things more -/
def Ext (a w : Nat) (H H' : ax_H) : Prop := (∀ q, q < 400 + H.2.1 → H'.1 q = H.1 q) ∧ H.2.1 ≤ H'.2.1 ∧ H.2.2 ≤ H'.2.2 ∧ H'.2.1 ≤ H.2.1 + a ∧ H'.2.2 ≤ H.2.2 + w
/-- regions of the gym lie behind 401 -/
def RG (P : Nat → Prop) : Prop := ∀ q, P q → 402 ≤ q
section XSS
variable {N n im cap a w k : Nat} {v x lo hi : Int32} {ds0 img : Nat → Int32} {K : kk_K} {J : mm_J} {P P' : Nat → Prop} {H H' : ax_H} {iv : Value}
theorem Ext.rf : Ext 0 0 H H := ⟨fun _ _ => rfl, Nat.le_refl _, Nat.le_refl _, Nat.le_refl _, Nat.le_refl _⟩
theorem Ext.new {c : Nat} {fs : List Value} {w : Nat} : Ext 1 w H (ax_new H (.inr (c, fs)) w) := ⟨fun q hq => new_ne _ _ (by omega), Nat.le_succ _, Nat.le_add_right _ _, Nat.le_refl _, Nat.le_refl _⟩
theorem thr_new {kk w : Nat} (hk : hd_0 kk = some none) : OkX (dx_nw H (.inr (kk, [])) w fun a2 h1 => dx_ath hd_0 (.ref a2) h1 (fun _ _ => none)) (XP kk (Ext 1 w H)) := by
  rw [nw_at]
  exact OkX.x0 (by omega) (new_eq _ _) hk ⟨by omega, ⟨_, new_eq _ _⟩, Ext.new⟩
theorem x_in {d : Nat} (hd : 1 ≤ d) (h : inI x lo hi ≠ 0) : ax_c d 232 [.int x, .int lo, .int hi] H = some (.inl (some (.int x)), H) := by
  obtain ⟨d, rfl, -⟩ := d_succ hd
  refine dx_app m_X1_in ?_
  unfold inI at h
  by_cases q : x < lo
  · rw [if_pos q] at h; exact absurd rfl h
  · rw [if_neg q] at h
    by_cases q2 : hi < x
    · rw [if_pos q2] at h; exact absurd rfl h
    · rw [if_neg q, if_pos (Int32.not_lt.mp q2)]
theorem x_inX {d : Nat} (hd : 1 ≤ d) (h : inI x lo hi = 0) : OkX (ax_c d 232 [.int x, .int lo, .int hi] H) (XP 18 (Ext 1 6 H)) := by
  obtain ⟨d, rfl, -⟩ := d_succ hd
  refine OkX.le m_X1_in ?_
  by_cases q : x < lo
  · rw [if_pos q]; exact thr_new rfl
  · rw [if_neg q, if_neg]
    · exact thr_new rfl
    · intro z
      unfold inI at h
      rw [if_neg q, if_neg (Int32.not_lt.mpr z)] at h
      exact absurd h (by decide)
theorem x_must {d : Nat} (hd : 1 ≤ d) (h : x ≠ 0) : ax_c d 234 [.int x] H = some (.inl none, H) := by
  obtain ⟨d, rfl, -⟩ := d_succ hd
  exact dx_app m_X1_must (if_pos h)
theorem x_mustX {d : Nat} (hd : 1 ≤ d) : OkX (ax_c d 234 [.int 0] H) (XP 0 (Ext 1 6 H)) := by
  obtain ⟨d, rfl, -⟩ := d_succ hd
  refine OkX.le m_X1_must ?_
  rw [if_neg (fun z => z rfl)]
  exact thr_new rfl
theorem XP.x0 {i : Nat} {Q : ax_H → Prop} {h : ax_H} (hk : hd_0 k = some none) (X : XP k Q i h) : OkX (dx_x0 i h) (XP k Q) := by
  obtain ⟨x1, ⟨fs, x2⟩, x3⟩ := X
  exact OkX.x0 x1 x2 hk ⟨x1, ⟨fs, x2⟩, x3⟩
theorem GO.g (G : GO H iv) : dx_gA [(19, 1)] (.ref 400) H = some (.ref 402) := gA_r G rfl rfl
theorem CO.mv (C : CO N n K ds0 img v im J cap P H) : MV 402 (itC K (stC ds0 img K v) N) H := by
  obtain ⟨ds1, M, -⟩ := C
  exact M.mv
theorem CO.sz (C : CO N n K ds0 img v im J cap P H) : 13 < H.2.1 ∧ (∀ q, P q → q < 400 + H.2.1) ∧ cap ≤ 404 ∧ 17 ≤ cap := by
  obtain ⟨ds1, M, -⟩ := C
  obtain ⟨X, arr, a, it, rw', m1, m2, m3, m4, m5, m6, m7, m8, m9, m10, m11, m12, m13, -⟩ := M
  exact ⟨by omega, m13, m5.2.2.2.2.1, m6⟩
theorem FR.go {cap' : Nat} (F : FR P P' cap cap' a w H H') (R : RG P) (G : GO H iv) (h : 13 < H.2.1) : GO H' iv := (F.1 400 (by omega) (fun z => by have := R 400 z; omega)).trans G
theorem FR.old {cap' : Nat} (F : FR P P' cap cap' a w H H') (R : RG P) (D : OLD H) : OLD H' := D.mono fun q hq => F.1 q (by omega) (fun z => by have := R q z; omega)
theorem FR.rg {cap' : Nat} (F : FR P P' cap cap' a w H H') (R : RG P) (h : 13 < H.2.1) : RG P' := fun q hq => by
  rcases F.2.1 q hq with z | z
  · exact R q z
  · omega
theorem go_val (O : ON N n K ds0 img) : (if itC K (stC ds0 img K v) N 0 = 1 ∧ itC K (stC ds0 img K v) N 2 < 1000 then (1 : Int32) else 0) = @ite _ (goP K (stC ds0 img K v) N) (Classical.propDecidable _) 1 0 := by
  have e2 := (O.iv (v := v)).2.2.1
  have n1 := O.2.1
  have lt : itC K (stC ds0 img K v) N 2 < 1000 ↔ N < 1000 := by rw [e2]; exact i_lt (b := 1000) (by omega) (by omega)
  by_cases q : goP K (stC ds0 img K v) N
  · rw [@if_pos _ (Classical.propDecidable _) q, if_pos ⟨q.1, lt.mpr q.2⟩]
  · rw [@if_neg _ (Classical.propDecidable _) q, if_neg (fun z => q ⟨z.1, lt.mp z.2⟩)]
theorem x_step20 {k : Nat} (hk : k ≤ 100) {d : Nat} (hd : 15 ≤ d) : ∀ m j, j + m = k → ∀ (N n cap : Nat) (J : mm_J) (P : Nat → Prop) (H : ax_H), ON N n K ds0 img → CO N n K ds0 img v im J cap P H → OLD H → RG P → GO H iv → Ok (B_X1_step_20 (ax_c d) 400 (Int32.ofNat k) (Int32.ofNat j) H) (.inl (some (.int (Int32.ofNat (j + rnN K (stC ds0 img K v) m N))))) (fun H' => ∃ J' cap' P' e, CO (N + rnN K (stC ds0 img K v) m N) (kpI (rnN K (stC ds0 img K v) m N) n) K ds0 img v im J' cap' P' H' ∧ FR P P' cap cap' (160 * rnN K (stC ds0 img K v) m N + 12 * e) (340 * rnN K (stC ds0 img K v) m N + 1100 * e) H H' ∧ e ≤ 1 ∧ (itC K (stC ds0 img K v) N 0 ≠ 1 → e = 0)) := by
  intro m
  induction m with
  | zero =>
    intro j hj N n cap J P H O C D R G
    obtain rfl : j = k := by omega
    refine Ok.le b_X1_step_20 ?_
    rw [if_pos (Int32.le_refl _)]
    exact Ok.ret ⟨J, cap, P, 0, C, FR.rf, by omega, fun _ => rfl⟩
  | succ m ih =>
    intro j hj N n cap J P H O C D R G
    refine Ok.le b_X1_step_20 ?_
    rw [if_neg (i_ge_not (by omega) (by omega)), G.g, Option.bind_some, C.mv.vn, Option.bind_some, c_goesOn (by omega) C.mv, cI_v, go_val O]
    by_cases q : goP K (stC ds0 img K v) N
    · have er : rnN K (stC ds0 img K v) (m + 1) N = rnN K (stC ds0 img K v) m (N + 1) + 1 := @if_pos _ (Classical.propDecidable _) q _ _ _
      rw [@if_pos _ (Classical.propDecidable _) q, if_neg (by decide), G.g, Option.bind_some, C.mv.vn, Option.bind_some]
      refine Ok.V (x_make O C D q (by omega)) ?_
      rintro H1 ⟨J1, cap1, P1, C1, F1⟩
      rw [lt_at, show Int32.ofNat j + 1 = Int32.ofNat (j + 1) from i_add j 1, er, show j + (rnN K (stC ds0 img K v) m (N + 1) + 1) = j + 1 + rnN K (stC ds0 img K v) m (N + 1) by omega]
      refine (ih (j + 1) (by omega) (N + 1) (kpN n) cap1 J1 P1 H1 (O.go q.2) C1 (F1.old R D) (F1.rg R C.sz.1) (F1.go R G C.sz.1)).imp ?_
      rintro H2 ⟨J2, cap2, P2, e2, C2, F2, l2, z2⟩
      have fl := fE_le (K := K) (c := itC K (stC ds0 img K v) N)
      have fz : fE K (itC K (stC ds0 img K v) N) ≠ 0 → e2 = 0 := fun z => z2 (by
        rw [show itC K (stC ds0 img K v) (N + 1) 0 = 3 from fE_end z]; decide)
      refine ⟨J2, cap2, P2, fE K (itC K (stC ds0 img K v) N) + e2, ?_, (F1.tr F2).up (by omega) (by omega), ?_, fun z => absurd q.1 z⟩
      · rw [show N + (rnN K (stC ds0 img K v) m (N + 1) + 1) = N + 1 + rnN K (stC ds0 img K v) m (N + 1) by omega]; exact C2
      · by_cases z : fE K (itC K (stC ds0 img K v) N) = 0
        · omega
        · have := fz z; omega
    · have er : rnN K (stC ds0 img K v) (m + 1) N = 0 := @if_neg _ (Classical.propDecidable _) q _ _ _
      rw [@if_neg _ (Classical.propDecidable _) q, if_pos rfl, er]
      exact Ok.ret ⟨J, cap, P, 0, C, FR.rf, by omega, fun _ => rfl⟩
theorem x_step_bad (hx : inI x 1 100 = 0) {d : Nat} (hd : 2 ≤ d) : OkX (ax_c d 249 [.ref 400, .int x] H) (XP 18 (Ext 1 6 H)) := by
  obtain ⟨d, rfl, he⟩ := d_succ hd
  refine OkX.le m_X1_step ?_
  exact OkX.xI (x_inX he hx) fun i h' X => X.x0 rfl
theorem x_step_off {c : Nat → Int32} (hx : inI x 1 100 ≠ 0) (G : GO H iv) (M : MV 402 c H) (h0 : c 0 = 0) {d : Nat} (hd : 2 ≤ d) : OkX (ax_c d 249 [.ref 400, .int x] H) (XP 0 (Ext 1 6 H)) := by
  obtain ⟨d, rfl, he⟩ := d_succ hd
  refine OkX.le m_X1_step ?_
  rw [x_in he hx, cI_v, G.g, Option.bind_some, M.vn, Option.bind_some, c_isOn he M, cI_v, if_pos h0]
  exact OkX.xV (x_mustX he) fun i h' X => X.x0 rfl
theorem x_step_yes (O : ON N n K ds0 img) (C : CO N n K ds0 img v im J cap P H) (D : OLD H) (R : RG P) (G : GO H iv) {k : Nat} (h1 : 1 ≤ k) (hk : k ≤ 100) {d : Nat} (hd : 16 ≤ d) : Ok (ax_c d 249 [.ref 400, .int (Int32.ofNat k)] H) (.inl (some (.int (Int32.ofNat (rnN K (stC ds0 img K v) k N))))) (fun H' => ∃ J' cap' P', CO (N + rnN K (stC ds0 img K v) k N) (kpI (rnN K (stC ds0 img K v) k N) n) K ds0 img v im J' cap' P' H' ∧ FR P P' cap cap' 16012 35100 H H') := by
  obtain ⟨d, rfl, he⟩ := d_succ hd
  refine Ok.le m_X1_step ?_
  have n0 := (O.iv (v := v)).2.2.2.1
  rw [x_in (x := Int32.ofNat k) (lo := 1) (hi := 100) (by omega) ((inI_val (lo := 1) (hi := 100) (by omega) (by omega)).mpr ⟨k, h1, hk, rfl⟩), cI_v, G.g, Option.bind_some, C.mv.vn, Option.bind_some, c_isOn (by omega) C.mv, cI_v, if_neg n0, x_must (by omega) (by decide), cV_v]
  have := x_step20 (iv := iv) hk (d := d) (by omega) k 0 (by omega) N n cap J P H O C D R G
  rw [Nat.zero_add] at this
  refine this.imp ?_
  rintro H' ⟨J', cap', P', e, C', F', l, -⟩
  have hr : ∀ m N, rnN K (stC ds0 img K v) m N ≤ m := by
    intro m
    induction m with
    | zero => intro N; exact Nat.le_refl _
    | succ m ih =>
      intro N
      show @ite _ (goP K (stC ds0 img K v) N) (Classical.propDecidable _) (rnN K (stC ds0 img K v) m (N + 1) + 1) 0 ≤ m + 1
      by_cases q : goP K (stC ds0 img K v) N
      · rw [@if_pos _ (Classical.propDecidable _) q]; have := ih (N + 1); omega
      · rw [@if_neg _ (Classical.propDecidable _) q]; omega
  have := hr k N
  exact ⟨J', cap', P', C', F'.up (by omega) (by omega)⟩
end XSS
