/-! the class's machine at rest: looked at; mended, started, crashed -/
theorem xR_same {P : Nat → Prop} {h h' : ax_H} (hP : ∀ q, P q → q < 400 + h.2.1) (e : h'.2.1 = h.2.1) : xR P h h' = P := by
  funext q
  apply propext
  unfold xR
  rw [e]
  exact ⟨fun z => z.2.elim id fun y => by omega, fun z => ⟨hP q z, Or.inl z⟩⟩
theorem xR_xR {P : Nat → Prop} {h h1 h2 : ax_H} (hP : ∀ q, P q → q < 400 + h.2.1) (e1 : h.2.1 ≤ h1.2.1) (e2 : h1.2.1 ≤ h2.2.1) : xR (xR P h h1) h1 h2 = xR P h h2 := by
  funext q
  apply propext
  unfold xR
  constructor
  · rintro ⟨z, y | y⟩
    · exact ⟨z, y.2⟩
    · exact ⟨z, Or.inr (by omega)⟩
  · rintro ⟨z, y | y⟩
    · exact ⟨z, Or.inl ⟨by have := hP q y; omega, Or.inl y⟩⟩
    · rcases Nat.lt_or_ge q (400 + h1.2.1) with w | w
      · exact ⟨z, Or.inl ⟨w, Or.inr y⟩⟩
      · exact ⟨z, Or.inr w⟩
section FRP
variable {P : Nat → Prop} {a w a' w' : Nat} {h h1 h2 : ax_H}
theorem FrP.rf : FrP P 0 0 h h := ⟨Nat.le_refl _, Nat.le_refl _, Nat.le_refl _, Nat.le_refl _, fun _ _ _ => rfl⟩
theorem FrP.tr (x : FrP P a w h h1) (y : FrP (xR P h h1) a' w' h1 h2) : FrP P (a + a') (w + w') h h2 := by
  obtain ⟨x1, x2, x3, x4, x5⟩ := x
  obtain ⟨y1, y2, y3, y4, y5⟩ := y
  exact ⟨by omega, by omega, by omega, by omega, fun q hq hP => (y5 q (by omega) (fun z => z.2.elim hP (by omega))).trans (x5 q hq hP)⟩
theorem FrP.le (x : FrP P a w h h1) (ha : a ≤ a') (hw : w ≤ w') : FrP P a' w' h h1 := by
  obtain ⟨x1, x2, x3, x4, x5⟩ := x
  exact ⟨x1, x2, by omega, by omega, x5⟩
theorem FrP.ex {A : Nat → Prop} (x : Ex A h h1) (hA : ∀ q, A q → P q) : FrP P 0 0 h h1 := by
  obtain ⟨x1, x2⟩ := x
  exact ⟨by rw [x1]; exact Nat.le_refl _, by rw [x1]; exact Nat.le_refl _, by rw [x1]; exact Nat.le_refl _, by rw [x1]; exact Nat.le_refl _, fun q _ hq => x2 q fun z => hq (hA q z)⟩
end FRP
section MMS
variable {d b im n cap : Nat} {kp : Int32} {ds0 c : Nat → Int32} {K : kk_K} {J : mm_J} {P : Nat → Prop} {h : ax_H}
theorem MM.mv (M : MM b kp im ds0 c K n J cap P h) : MV b c h := by
  obtain ⟨X, arr, a, it, rw', m1, m2, -⟩ := M
  exact ⟨⟨_, m1⟩, m2⟩
theorem MM.g1 (M : MM b kp im ds0 c K n J cap P h) : dx_gA [(29, 1)] (.ref b) h = some (.ref (b + 2)) := by
  obtain ⟨X, arr, a, it, rw', m1, -⟩ := M
  exact gA_r m1 rfl rfl
theorem MM.g2 (M : MM b kp im ds0 c K n J cap P h) : dx_gA [(29, 2)] (.ref b) h = some (.ref (b + 3)) := by
  obtain ⟨X, arr, a, it, rw', m1, -⟩ := M
  exact gA_r m1 rfl rfl
theorem MM.g5 (M : MM b kp im ds0 c K n J cap P h) : dx_gA [(29, 5)] (.ref b) h = some (.ref im) := by
  obtain ⟨X, arr, a, it, rw', m1, -⟩ := M
  exact gA_r m1 rfl rfl
theorem MM.g6 (M : MM b kp im ds0 c K n J cap P h) : dx_gA [(29, 6)] (.ref b) h = some (.ref (b + 6)) := by
  obtain ⟨X, arr, a, it, rw', m1, -⟩ := M
  exact gA_r m1 rfl rfl
theorem MM.d6 (M : MM b kp im ds0 c K n J cap P h) : h.1 (b + 6) = .inl (0, 256, .inl ds0) := by
  obtain ⟨X, arr, a, it, rw', m1, m2, m3, m4, m5, m6, m7, m8, m9, m10, m11⟩ := M
  exact m10
theorem MM.bd (M : MM b kp im ds0 c K n J cap P h) : 402 ≤ b ∧ b + 11 < 400 + h.2.1 ∧ (∀ q, P q → q < 400 + h.2.1) ∧ ∀ q, b ≤ q → q ≤ b + 11 → P q := by
  obtain ⟨X, arr, a, it, rw', m1, m2, m3, m4, m5, m6, m7, m8, m9, m10, m11, m12, m13, m14, m15⟩ := M
  exact ⟨m11, m12, m13, m14⟩
theorem MM.key (M : MM b kp im ds0 c K n J cap P h) : KYP b h K P := by
  obtain ⟨X, arr, a, it, rw', m1, m2, m3, m4, -⟩ := M
  exact m4
/-- one cell of the fixed part changes -/
theorem MM.one {q : Nat} {x : ax_C} {im' : Nat} {ds0' c' : Nat → Int32} (M : MM b kp im ds0 c K n J cap P h)
    (hq : (q = b + 1 ∧ x = .inl (0, 621, .inl c') ∧ im' = im ∧ ds0' = ds0) ∨ (q = b + 6 ∧ x = .inl (0, 256, .inl ds0') ∧ im' = im ∧ c' = c) ∨ (q = b ∧ c' = c ∧ ds0' = ds0 ∧ ∀ X : mr_X, h.1 b = .inr (29, mo_fs b (h, kp, im) none X.1) → x = .inr (29, mo_fs b (h, kp, im') none X.1))) : MM b kp im' ds0' c' K n J cap P (ax_set h q x) := by
  obtain ⟨X, arr, a, it, rw', m1, m2, ⟨y1, ⟨g, y2, y3⟩, y4, y5⟩, m4, m5, m6, m7, m8, m9, m10, m11, m12, m13, m14, m15, m16⟩ := M
  have q1 : q = b ∨ q = b + 1 ∨ q = b + 6 := by rcases hq with ⟨z, -⟩ | ⟨z, -⟩ | ⟨z, -⟩ <;> omega
  refine ⟨X, arr, a, it, rw', ?_, ?_, ⟨(set_ne _ (by omega)).trans y1, ⟨g, (set_ne _ (by omega)).trans y2, y3⟩, fun k hk => (set_ne _ (by omega)).trans (y4 k hk), y5⟩, m4.mono (fun r hr hh _ _ => set_ne _ (by omega)) (fun _ _ z => z) (Nat.le_refl _), m5.mono (set_ne _ (by omega)) (set_ne _ (by omega)) (Nat.le_refl _), m6, m7, fun i hi => (m8 i hi).mono (set_ne _ (by have := (m8 i hi).2.1; omega)) (set_ne _ (by have := (m8 i hi).2.2.1; omega)) (Nat.le_refl _), m9, ?_, m11, m12, m13, m14, m15, m16⟩
  · rcases hq with ⟨z, e, rfl, rfl⟩ | ⟨z, e, rfl, rfl⟩ | ⟨z, rfl, rfl, e⟩
    · exact (set_ne _ (by omega)).trans m1
    · exact (set_ne _ (by omega)).trans m1
    · rw [z]
      exact (set_eq _).trans (e X m1)
  · rcases hq with ⟨z, e, rfl, rfl⟩ | ⟨z, e, rfl, rfl⟩ | ⟨z, rfl, rfl, e⟩
    · rw [z]; exact (set_eq _).trans e
    · exact (set_ne _ (by omega)).trans m2
    · exact (set_ne _ (by omega)).trans m2
  · rcases hq with ⟨z, e, rfl, rfl⟩ | ⟨z, e, rfl, rfl⟩ | ⟨z, rfl, rfl, e⟩
    · exact (set_ne _ (by omega)).trans m10
    · rw [z]; exact (set_eq _).trans e
    · exact (set_ne _ (by omega)).trans m10
theorem MM.cells (M : MM b kp im ds0 c K n J cap P h) (c' : Nat → Int32) : MM b kp im ds0 c' K n J cap P (ax_set h (b + 1) (.inl (0, 621, .inl c'))) := M.one (Or.inl ⟨rfl, rfl, rfl, rfl⟩)
theorem MM.sI (M : MM b kp im ds0 c K n J cap P h) {i : Int32} {k : Nat} (hi : i = Int32.ofNat k) (hk : k < 621) (v : Int32) : dx_sI 0 (.ref (b + 1)) i v h = some (ax_set h (b + 1) (.inl (0, 621, .inl (upd c k v)))) := by
  rw [sI_at M.mv.2 (by have := M.bd.1; omega), ix_of hi hk (by omega), Option.bind_some]
theorem c_isOn (hd : 1 ≤ d) (M : MV b c h) : ax_c d 309 [.ref b] h = some (.inl (some (.int (if c 0 = 0 then 0 else 1))), h) := by
  obtain ⟨d, rfl, he⟩ := d_succ hd
  refine dx_app m_X2_isOn ?_
  rw [M.g0, Option.bind_some, M.rdn (i := 0) (k := 0) rfl (by decide), Option.bind_some]
  split <;> rfl
theorem c_goesOn (hd : 1 ≤ d) (M : MV b c h) : ax_c d 315 [.ref b] h = some (.inl (some (.int (if c 0 = 1 ∧ c 2 < 1000 then 1 else 0))), h) := by
  obtain ⟨d, rfl, he⟩ := d_succ hd
  refine dx_app m_X2_goesOn ?_
  rw [M.g0, Option.bind_some, M.rdn (i := 0) (k := 0) rfl (by decide), Option.bind_some]
  by_cases q : c 0 = 1
  · rw [if_neg (fun z => z q), Option.bind_some, M.rdn (i := 2) (k := 2) rfl (by decide), Option.bind_some]
    by_cases q2 : c 2 < 1000
    · rw [if_neg (Int32.not_le.mpr q2), if_pos ⟨q, q2⟩]
    · rw [if_pos (Int32.not_lt.mp q2), if_neg (fun z => q2 z.2)]
  · rw [if_pos q, if_neg (fun z => q z.1)]
def flC (c : ce_C) : Int32 := c 5 + 2 * c 6 + 4 * c 7 + 8 * c 8 + 16 * c 9
theorem c_flags (hd : 1 ≤ d) (M : MV b c h) : ax_c d 300 [.ref b] h = some (.inl (some (.int (flC c))), h) := by
  obtain ⟨d, rfl, he⟩ := d_succ hd
  refine dx_app m_X2_flags ?_
  rw [M.g0, Option.bind_some, M.rdn (i := 5) (k := 5) rfl (by decide), Option.bind_some, Option.bind_some, M.rdn (i := 6) (k := 6) rfl (by decide), Option.bind_some, Option.bind_some, M.rdn (i := 7) (k := 7) rfl (by decide), Option.bind_some, Option.bind_some, M.rdn (i := 8) (k := 8) rfl (by decide), Option.bind_some, Option.bind_some, M.rdn (i := 9) (k := 9) rfl (by decide), Option.bind_some]
  rfl
def wlC (c : ce_C) : Int32 := if c 18 = 0 then 0 else 2 * c 18 + 2 - c 19
theorem c_writesLeft (hd : 1 ≤ d) (M : MV b c h) : ax_c d 301 [.ref b] h = some (.inl (some (.int (wlC c))), h) := by
  obtain ⟨d, rfl, he⟩ := d_succ hd
  refine dx_app m_X2_writesLeft ?_
  unfold wlC
  rw [M.g0, Option.bind_some, M.rdn (i := 18) (k := 18) rfl (by decide), Option.bind_some]
  by_cases q : c 18 = 0
  · rw [if_neg (fun z => z q), if_pos q]
  · rw [if_pos q, if_neg q, Option.bind_some, M.rdn (i := 18) (k := 18) rfl (by decide), Option.bind_some, Option.bind_some, M.rdn (i := 19) (k := 19) rfl (by decide), Option.bind_some]
def joI (s x : Int32) : Int32 := dx_rem (31 * s + x) 1000003
def adC (c : ce_C) (s : Int32) (o : Nat) : Nat → Int32
  | 0 => s
  | m + 1 => joI (adC c s o m) (c (o + m))
theorem c_joined (hd : 1 ≤ d) (s x : Int32) : ax_c d 304 [.int s, .int x] h = some (.inl (some (.int (joI s x))), h) := by
  obtain ⟨d, rfl, he⟩ := d_succ hd
  exact dx_app m_X2_joined rfl
theorem c_added (hd : 1 ≤ d) (M : MV b c h) (s : Int32) {o m : Nat} {i j : Int32} (hi : i = Int32.ofNat o) (hj : j = Int32.ofNat m) (hom : o + m ≤ 621) : ax_c d 303 [.ref b, .int s, .int i, .int j] h = some (.inl (some (.int (adC c s o m))), h) := by
  subst hi hj
  obtain ⟨d, rfl, he⟩ := d_succ hd
  refine dx_app m_X2_added ?_
  have loop : ∀ k j : Nat, j + k = m → B_X2_added_6 (ax_c d) b (Int32.ofNat o) (Int32.ofNat m) (adC c s o j) (Int32.ofNat (o + j)) h = some (.inl (some (.int (adC c s o m))), h) := by
    intro k
    induction k with
    | zero =>
      intro j hj
      obtain rfl : j = m := by omega
      refine dx_app b_X2_added_6 ?_
      rw [i_add, if_pos ((i_le (by omega) (by omega)).mpr (Nat.le_refl _))]
    | succ k ih =>
      intro j hj
      refine dx_app b_X2_added_6 ?_
      rw [i_add, if_neg (i_ge_not (by omega) (by omega)), M.g0, Option.bind_some, M.rdn rfl (show o + j < 621 by omega), Option.bind_some, lt_at, lt_at, show Int32.ofNat (o + j) + 1 = Int32.ofNat (o + (j + 1)) from i_add (o + j) 1]
      exact ih (j + 1) (by omega)
  exact loop m 0 (by omega)
def smC (c : ce_C) : Int32 := adC c (joI (adC c (adC c (joI (adC c (adC c (joI (adC c 7 0 5) (flC c)) 10 2) 12 4) (wlC c)) 108 256) 365 256) (c 17)) 48 (nn (c 17))
theorem c_sum (hd : 2 ≤ d) (M : MV b c h) (h17 : rg 60 (c 17)) : ax_c d 302 [.ref b] h = some (.inl (some (.int (smC c))), h) := by
  obtain ⟨n1, n2⟩ := rg.nat h17
  obtain ⟨d, rfl, he⟩ := d_succ hd
  refine dx_app m_X2_sum ?_
  rw [M.vn, Option.bind_some, c_added he M 7 (i := 0) (j := 5) (o := 0) (m := 5) rfl rfl (by omega), cI_v, M.vn, Option.bind_some, c_flags he M, cI_v, c_joined he, cI_v, M.vn, Option.bind_some, c_added he M _ (i := 10) (j := 2) (o := 10) (m := 2) rfl rfl (by omega), cI_v, M.vn, Option.bind_some, c_added he M _ (i := 12) (j := 4) (o := 12) (m := 4) rfl rfl (by omega), cI_v, M.vn, Option.bind_some, c_writesLeft he M, cI_v, c_joined he, cI_v, M.vn, Option.bind_some, c_added he M _ (i := 108) (j := 256) (o := 108) (m := 256) rfl rfl (by omega), cI_v, M.vn, Option.bind_some, c_added he M _ (i := 365) (j := 256) (o := 365) (m := 256) rfl rfl (by omega), cI_v, M.g0, Option.bind_some, M.rdn (i := 17) (k := 17) rfl (by decide), Option.bind_some, c_joined he, cI_v, M.g0, Option.bind_some, M.rdn (i := 17) (k := 17) rfl (by decide), Option.bind_some, M.vn, Option.bind_some, c_added he M _ (i := 48) (o := 48) (m := nn (c 17)) rfl n2 (by omega), cI_v]
  rfl
/-! mending -/
def logC (c : ce_C) (m : Nat) : Int32 := dx_i2c (sumT (fun k => ds c (8 + k)) (sumT (ds c) 0 4) (8 * m))
theorem c_logged (hd : 2 ≤ d) (M : MV b c h) {m : Nat} (hm : m ≤ 3) : ax_c d 312 [.ref b, .int (Int32.ofNat m)] h = some (.inl (some (.int (logC c m))), h) := by
  obtain ⟨d, rfl, he⟩ := d_succ hd
  refine dx_app m_X2_logged ?_
  have l2 : ∀ k j : Nat, j + k = 8 * m → B_X2_logged_31 (ax_c d) b (Int32.ofNat m) (sumT (fun k => ds c (8 + k)) (sumT (ds c) 0 4) j) (Int32.ofNat (8 + j)) h = some (.inl (some (.int (logC c m))), h) := by
    intro k
    induction k with
    | zero =>
      intro j hj
      obtain rfl : j = 8 * m := by omega
      refine dx_app b_X2_logged_31 ?_
      rw [show (8 : Int32) * Int32.ofNat m = Int32.ofNat (8 * m) from i_mul 8 m, show (8 : Int32) + Int32.ofNat (8 * m) = Int32.ofNat (8 + 8 * m) from i_add 8 _, if_pos ((i_le (by omega) (by omega)).mpr (Nat.le_refl _)), c_cut he, cI_v]
      unfold cutI logC
      rw [Int32.toInt32_toInt64]
    | succ k ih =>
      intro j hj
      refine dx_app b_X2_logged_31 ?_
      rw [show (8 : Int32) * Int32.ofNat m = Int32.ofNat (8 * m) from i_mul 8 m, show (8 : Int32) + Int32.ofNat (8 * m) = Int32.ofNat (8 + 8 * m) from i_add 8 _, if_neg (i_ge_not (by omega) (by omega)), M.g0, Option.bind_some, M.rdn (i := 365 + Int32.ofNat (8 + j)) (k := 365 + (8 + j)) (i_add 365 _) (by omega), Option.bind_some, lt_at, lt_at, show Int32.ofNat (8 + j) + 1 = Int32.ofNat (8 + (j + 1)) from i_add (8 + j) 1]
      exact ih (j + 1) (by omega)
  have l1 : ∀ k j : Nat, j + k = 4 → B_X2_logged_4 (ax_c d) b (Int32.ofNat m) (sumT (ds c) 0 j) (Int32.ofNat j) h = some (.inl (some (.int (logC c m))), h) := by
    intro k
    induction k with
    | zero =>
      intro j hj
      obtain rfl : j = 4 := by omega
      refine dx_app b_X2_logged_4 ?_
      rw [if_pos (by decide)]
      exact l2 (8 * m) 0 (by omega)
    | succ k ih =>
      intro j hj
      refine dx_app b_X2_logged_4 ?_
      rw [if_neg (nge4 (show j < 4 by omega)), M.g0, Option.bind_some, M.rdn (i := 365 + Int32.ofNat j) (k := 365 + j) (i_add 365 _) (by omega), Option.bind_some, lt_at, lt_at, show Int32.ofNat j + 1 = Int32.ofNat (j + 1) from i_add j 1]
      exact ih (j + 1) (by omega)
  exact l1 4 0 rfl
/-- k blocks of the log copied home -/
def cpB (c : ce_C) : Nat → ce_C
  | 0 => c
  | k + 1 => va_cpy (cpB c k) (cpB c k) (365 + 8 * (1 + k)) (365 + 8 * nn (c (366 + k))) 8
def zerC (c : ce_C) (o k : Nat) : ce_C := fun p => if o ≤ p ∧ p < o + k then 0 else c p
theorem zerC_up (c : ce_C) (o k : Nat) : upd (zerC c o k) (o + k) 0 = zerC c o (k + 1) := by
  funext p
  show (if p = o + k then 0 else if o ≤ p ∧ p < o + k then 0 else c p) = (if o ≤ p ∧ p < o + (k + 1) then 0 else c p)
  by_cases q : p = o + k
  · rw [if_pos q, if_pos (by omega)]
  · rw [if_neg q]
    by_cases q2 : o ≤ p ∧ p < o + k
    · rw [if_pos q2, if_pos (by omega)]
    · rw [if_neg q2, if_neg (by omega)]
theorem zerC_zero (c : ce_C) (o : Nat) : zerC c o 0 = c := by
  funext p
  exact if_neg (by omega)
def mendC (c : ce_C) (m : Nat) : ce_C := if m = 0 then c else upd (zerC (cpB c m) 365 8) 364 (c 364 + Int32.ofNat (1 + m))
/-- the log is whole, or there is none -/
def LG (c : ce_C) (m : Nat) : Prop := c 365 = Int32.ofNat m ∧ m ≤ 3 ∧ (m ≠ 0 → logC c m = c 369) ∧ ∀ j, j < m → ∃ v, 4 ≤ v ∧ v < 32 ∧ c (366 + j) = Int32.ofNat v
theorem cpB_lo (c : ce_C) {m : Nat} (hb : ∀ j, j < m → ∃ v, 4 ≤ v ∧ v < 32 ∧ c (366 + j) = Int32.ofNat v) : ∀ k, k ≤ m → ∀ p, p < 397 → cpB c k p = c p := by
  intro k
  induction k with
  | zero => intro _ p _; rfl
  | succ k ih =>
    intro hk p hp
    obtain ⟨v, v1, v2, v3⟩ := hb k (by omega)
    show (if 365 + 8 * nn (c (366 + k)) ≤ p ∧ p < 365 + 8 * nn (c (366 + k)) + 8 then _ else cpB c k p) = _
    rw [v3, nn_of (by omega), if_neg (by omega)]
    exact ih (by omega) p hp
theorem c_mend (hd : 3 ≤ d) (M : MM b kp im ds0 c K n J cap P h) {m : Nat} (G : LG c m) : Ok (ax_c d 311 [.ref b] h) (.inl (some (.int (if m = 0 then 0 else Int32.ofNat (1 + m))))) (fun h' => MM b kp im ds0 (mendC c m) K n J cap P h' ∧ Ex (fun q => q = b + 1) h h') := by
  obtain ⟨g1, g2, g3, g4⟩ := G
  obtain ⟨d, rfl, he⟩ := d_succ hd
  refine Ok.le m_X2_mend ?_
  have V := M.mv
  rw [V.g0, Option.bind_some, V.rdn (i := 365) (k := 365) rfl (by decide), Option.bind_some, g1]
  by_cases q : m = 0
  · rw [if_neg (fun z => z (by rw [q]; rfl)), if_pos q]
    refine Ok.ret ⟨?_, Ex.rf⟩
    unfold mendC
    rw [if_pos q]
    exact M
  · rw [if_pos (show ¬ Int32.ofNat m = 0 from fun z => q ((i_eq (b := 0) (by omega) (by omega)).mp z)), if_neg (show ¬ (3 : Int32) < Int32.ofNat m from fun z => by have := (i_lt (a := 3) (by omega) (by omega)).mp z; omega), if_neg q, V.vn, Option.bind_some, c_logged (by omega) V g2, cI_v, V.g0, Option.bind_some, V.rdn (i := 369) (k := 369) rfl (by decide), Option.bind_some, if_neg (fun z => z (g3 q))]
    have l2 : ∀ k j : Nat, j + k = 8 → ∀ h1, MM b kp im ds0 (zerC (cpB c m) 365 j) K n J cap P h1 → Ex (fun q => q = b + 1) h h1 → Ok (B_X2_mend_97 (ax_c d) b (Int32.ofNat (1 + m)) (Int32.ofNat j) h1) (.inl (some (.int (Int32.ofNat (1 + m))))) (fun h' => MM b kp im ds0 (mendC c m) K n J cap P h' ∧ Ex (fun q => q = b + 1) h h') := by
      intro k
      induction k with
      | zero =>
        intro j hj h1 M1 E1
        obtain rfl : j = 8 := by omega
        refine Ok.le b_X2_mend_97 ?_
        have V1 := M1.mv
        have e364 : zerC (cpB c m) 365 8 364 = c 364 := (if_neg (by omega)).trans (cpB_lo c g4 m (Nat.le_refl _) 364 (by omega))
        rw [if_pos (by decide), V1.g0, Option.bind_some, V1.rdn (i := 364) (k := 364) rfl (by decide), Option.bind_some, M1.sI (i := 364) (k := 364) rfl (by omega), Option.bind_some, e364]
        refine Ok.ret ⟨?_, E1.tr (Ex.set rfl)⟩
        unfold mendC
        rw [if_neg q]
        exact M1.cells _
      | succ k ih =>
        intro j hj h1 M1 E1
        refine Ok.le b_X2_mend_97 ?_
        have V1 := M1.mv
        rw [if_neg (nge8 (show j < 8 by omega)), V1.g0, Option.bind_some, M1.sI (i := 365 + Int32.ofNat j) (k := 365 + j) (i_add 365 j) (by omega), Option.bind_some, lt_at, show Int32.ofNat j + 1 = Int32.ofNat (j + 1) from i_add j 1]
        refine ih (j + 1) (by omega) _ ?_ (E1.tr (Ex.set rfl))
        rw [← zerC_up]
        exact M1.cells _
    have l1 : ∀ k j : Nat, j + k = m → ∀ h1, MM b kp im ds0 (cpB c j) K n J cap P h1 → Ex (fun q => q = b + 1) h h1 → Ok (B_X2_mend_40 (ax_c d) b (Int32.ofNat m) 1 (Int32.ofNat j) h1) (.inl (some (.int (Int32.ofNat (1 + m))))) (fun h' => MM b kp im ds0 (mendC c m) K n J cap P h' ∧ Ex (fun q => q = b + 1) h h') := by
      intro k
      induction k with
      | zero =>
        intro j hj h1 M1 E1
        obtain rfl : j = m := by omega
        refine Ok.le b_X2_mend_40 ?_
        rw [if_pos ((i_le (by omega) (by omega)).mpr (Nat.le_refl _)), lt_at, show (1 : Int32) + Int32.ofNat j = Int32.ofNat (1 + j) from i_add 1 j]
        exact l2 8 0 rfl h1 (by rw [zerC_zero]; exact M1) E1
      | succ k ih =>
        intro j hj h1 M1 E1
        obtain ⟨v, v1, v2, v3⟩ := g4 j (by omega)
        refine Ok.le b_X2_mend_40 ?_
        have V1 := M1.mv
        rw [if_neg (i_ge_not (by omega) (by omega)), V1.g0, Option.bind_some, Option.bind_some, Option.bind_some, V1.rdn (i := 366 + Int32.ofNat j) (k := 366 + j) (i_add 366 j) (by omega), Option.bind_some, cpB_lo c g4 j (by omega) (366 + j) (by omega), v3, acpI_at (s := 365 + 8 * (1 + j)) (d := 365 + 8 * v) (k := 8) (kk := 8) V1.2 V1.2 (by have := M.bd.1; omega) (by rw [show (1 : Int32) + Int32.ofNat j = Int32.ofNat (1 + j) from i_add 1 j, show (8 : Int32) * Int32.ofNat (1 + j) = Int32.ofNat (8 * (1 + j)) from i_mul 8 _]; exact i_add 365 _) (by rw [show (8 : Int32) * Int32.ofNat v = Int32.ofNat (8 * v) from i_mul 8 v]; exact i_add 365 _) rfl (by omega) (by omega) (by omega) (by omega), Option.bind_some, lt_at, show Int32.ofNat j + 1 = Int32.ofNat (j + 1) from i_add j 1]
        refine ih (j + 1) (by omega) _ ?_ (E1.tr (Ex.set rfl))
        have : cpB c (j + 1) = va_cpy (cpB c j) (cpB c j) (365 + 8 * (1 + j)) (365 + 8 * v) 8 := by
          show va_cpy _ _ _ (365 + 8 * nn (c (366 + j))) 8 = _
          rw [v3, nn_of (by omega)]
        rw [this]
        exact M1.cells _
    exact l1 m 0 (by omega) h M Ex.rf
/-- it begins with an image -/
def begC (c img : ce_C) : ce_C := upd (upd (upd (va_cpy img c 0 108 256) 0 1) 3 8) 4 256
theorem c_begin (hd : 1 ≤ d) (M : MM b kp im ds0 c K n J cap P h) {its : Nat} {img : Nat → Int32} (hi : h.1 its = .inl (0, 256, .inl img)) : Ok (ax_c d 313 [.ref b, .ref its] h) (.inl none) (fun h' => MM b kp its ds0 (begC c img) K n J cap P h' ∧ Ex (fun q => q = b ∨ q = b + 1) h h') := by
  obtain ⟨d, rfl, he⟩ := d_succ hd
  refine Ok.le (m_X2_begin rfl) ?_
  have b4 := M.bd.1
  have m1 : ∃ X : mr_X, h.1 b = .inr (29, mo_fs b (h, kp, im) none X.1) := by
    obtain ⟨X, arr, a, it, rw', m1, -⟩ := M
    exact ⟨X, m1⟩
  obtain ⟨X, m1⟩ := m1
  have ib : its ≠ b := by
    intro z
    rw [z, m1] at hi
    cases hi
  have i1 : ∀ x, its = b + 1 → h.1 its = .inl (0, 621, .inl x) → False := fun x z e => by rw [hi] at e; cases e
  have ib1 : its ≠ b + 1 := fun z => i1 c z (by rw [z]; exact M.mv.2)
  have M1 : MM b kp its ds0 c K n J cap P (ax_set h b (.inr (29, (mo_fs b (h, kp, im) none X.1).set 5 (.ref its)))) := M.one (Or.inr (Or.inr ⟨rfl, rfl, rfl, fun X' e => by
    rw [m1] at e
    injection e with e
    injection e with e1 e2
    have e3 : Int32.ofNat X.1 = Int32.ofNat X'.1 := by
      have := congrArg (fun l : List Value => l[9]?) e2
      have : some (Value.int (Int32.ofNat X.1)) = some (Value.int (Int32.ofNat X'.1)) := this
      injection this with this
      injection this
    show (Sum.inr (29, [.ref (b + 1), .ref (b + 2), .ref (b + 3), .int kp, va_rf none, .ref its, .ref (b + 6), .ref (b + 7), .ref (b + 8), .int (Int32.ofNat X.1)]) : ax_C) = .inr (29, [.ref (b + 1), .ref (b + 2), .ref (b + 3), .int kp, va_rf none, .ref its, .ref (b + 6), .ref (b + 7), .ref (b + 8), .int (Int32.ofNat X'.1)])
    rw [e3]⟩))
  have V1 := M1.mv
  rw [pF_aref m1 rfl (Nat.le_of_ble_eq_true rfl) (by omega), Option.bind_some, V1.g0, Option.bind_some, acpI_at (s := 0) (d := 108) (k := 256) (sp := 0) (dp := 108) (kk := 256) ((set_ne _ ib).trans hi) V1.2 (by omega) rfl rfl rfl (by omega) (by omega) (by omega) (by omega), Option.bind_some]
  have M2 := M1.cells (va_cpy img c 0 108 256)
  rw [M2.mv.g0, Option.bind_some, M2.sI (i := 0) (k := 0) rfl (by omega), Option.bind_some]
  have M3 := M2.cells (upd (va_cpy img c 0 108 256) 0 1)
  rw [M3.mv.g0, Option.bind_some, M3.sI (i := 3) (k := 3) rfl (by omega), Option.bind_some]
  have M4 := M3.cells (upd (upd (va_cpy img c 0 108 256) 0 1) 3 8)
  rw [M4.mv.g0, Option.bind_some, M4.sI (i := 4) (k := 4) rfl (by omega), Option.bind_some]
  exact Ok.ret ⟨M4.cells _, (Ex.set (Or.inl rfl)).tr ((Ex.set (Or.inr rfl)).tr ((Ex.set (Or.inr rfl)).tr ((Ex.set (Or.inr rfl)).tr (Ex.set (Or.inr rfl)))))⟩
theorem c_start (hd : 4 ≤ d) (M : MM b kp im ds0 c K n J cap P h) {m : Nat} (G : LG c m) {its : Nat} {img : Nat → Int32} (hi : h.1 its = .inl (0, 256, .inl img)) (hi2 : its < b ∨ b + 12 ≤ its) : Ok (ax_c d 310 [.ref b, .ref its] h) (.inl (some (.int (if m = 0 then 0 else Int32.ofNat (1 + m))))) (fun h' => ∃ ds1, MM b kp its ds1 (begC (mendC c m) img) K n J cap P h' ∧ (∀ p, p < 256 → ds1 p = ds (mendC c m) p) ∧ Ex (fun q => b ≤ q ∧ q ≤ b + 11) h h') := by
  obtain ⟨d, rfl, he⟩ := d_succ hd
  refine Ok.le (m_X2_start rfl) ?_
  rw [M.mv.vn, Option.bind_some]
  refine Ok.I (c_mend he M G) ?_
  rintro h1 ⟨M1, E1⟩
  have b4 := M1.bd.1
  rw [M1.mv.g0, Option.bind_some, M1.g6, Option.bind_some, Option.bind_some, len_at M1.d6, Option.bind_some, acpI_at (s := 365) (d := 0) (k := 256) (sp := 365) (dp := 0) (kk := Int32.ofNat 256) M1.mv.2 M1.d6 (by omega) rfl rfl rfl (by omega) (by omega) (by omega) (by omega), Option.bind_some]
  have M2 : MM b kp im (va_cpy (mendC c m) ds0 365 0 256) (mendC c m) K n J cap P (ax_set h1 (b + 6) (.inl (0, 256, .inl (va_cpy (mendC c m) ds0 365 0 256)))) := M1.one (Or.inr (Or.inl ⟨rfl, rfl, rfl, rfl⟩))
  rw [M2.mv.vn, Option.bind_some]
  refine Ok.V (c_begin (by omega) M2 (its := its) (img := img) ((set_ne _ (by omega)).trans ((E1.2 its (by omega)).trans hi))) ?_
  rintro h3 ⟨M3, E3⟩
  refine Ok.ret ⟨_, M3, fun p hp => ?_, (E1.le fun q hq => by omega).tr ((Ex.set (by omega)).tr (E3.le fun q hq => by omega))⟩
  show (if 0 ≤ p ∧ p < 0 + 256 then mendC c m (365 + (p - 0)) else ds0 p) = _
  rw [if_pos (by omega), Nat.sub_zero]
  rfl
end MMS
