/-! StringBuilder and numbers as texts: all goes well, and what stood before stays -/
/-- the things that were there before the law began -/
def OLD (h : ax_H) : Prop := (∃ f, h.1 1 = .inl (4, 0, objs f)) ∧ (∃ f : Nat → Int32, h.1 4 = .inl (3, 100, .inl f)) ∧ (∃ f : Nat → Int32, h.1 5 = .inl (3, 100, .inl f)) ∧ (∀ j, j < 5 → h.1 (280 + 2 * j) = .inr (3, [.ref (281 + 2 * j), .int 0]) ∧ ∃ (n : Nat) (f : Nat → Int32), n ≤ 30 ∧ h.1 (281 + 2 * j) = .inl (3, n, .inl f)) ∧ h.1 3 = .inl (6, 256, objs fun j => some (20 + j)) ∧ ∀ j, j < 256 → h.1 (20 + j) = .inr (5, [.int (Int32.ofNat j - 128)])
theorem OLD.mono {h h' : ax_H} (o : OLD h) (e : ∀ q, q < 400 → h'.1 q = h.1 q) : OLD h' := by
  obtain ⟨⟨f1, a1⟩, ⟨f2, a2⟩, ⟨f3, a3⟩, a4, a5, a6⟩ := o
  refine ⟨⟨f1, (e 1 (by omega)).trans a1⟩, ⟨f2, (e 4 (by omega)).trans a2⟩, ⟨f3, (e 5 (by omega)).trans a3⟩, fun j hj => ⟨(e _ (by omega)).trans (a4 j hj).1, ?_⟩, (e 3 (by omega)).trans a5, fun j hj => (e _ (by omega)).trans (a6 j hj)⟩
  obtain ⟨n, f, x1, x2⟩ := (a4 j hj).2
  exact ⟨n, f, x1, (e _ (by omega)).trans x2⟩
/-- the builder at b, made since h0 stood, with c signs and room for k; at most m cells and w words have been made since -/
def SB (h0 : ax_H) (b c k m w : Nat) (h : ax_H) : Prop := (∃ (ar cap : Nat) (f : Nat → Int32) (l : Value), h.1 b = .inr (2, [.ref ar, .int 0, l, .int (Int32.ofNat c)]) ∧ h.1 ar = .inl (3, cap, .inl f) ∧ c ≤ k ∧ k ≤ cap ∧ cap ≤ 202 ∧ 400 + h0.2.1 ≤ ar ∧ ar < 400 + h.2.1) ∧ 400 + h0.2.1 ≤ b ∧ b < 400 + h.2.1 ∧ (∀ q, q < 400 + h0.2.1 → h.1 q = h0.1 q) ∧ h0.2.1 ≤ h.2.1 ∧ h0.2.2 ≤ h.2.2 ∧ h.2.1 ≤ h0.2.1 + m ∧ h.2.2 ≤ h0.2.2 + w
theorem ft_byte0 : ax_ft .byte (.int 0) = true := by decide
theorem sb_init {d : Nat} (hd : 3 ≤ d) {h0 : ax_H} : Ok (ax_c d 29 [.ref (400 + h0.2.1)] (ax_new h0 (.inr (2, [.null, .int 0, .int 0, .int 0])) 4)) (.inl none) (SB h0 (400 + h0.2.1) 0 0 2 20) := by
  obtain ⟨d, rfl, he⟩ := d_succ hd
  refine Ok.le m_J16_init ?_
  refine Ok.V (P := SB h0 (400 + h0.2.1) 0 0 2 20) ?_ (fun h' p' => Ok.ret p')
  obtain ⟨d2, rfl, he2⟩ := d_succ he
  refine Ok.le m_J15_init ?_
  have e1 := new_eq (h := h0) (.inr (2, [.null, .int 0, .int 0, .int 0])) 4
  rw [nn_ref, if_neg (by decide), na_at (k := 16) (n := 16) rfl (by omega), pF_aref ((new_ne _ _ (show 400 + h0.2.1 ≠ 400 + (h0.2.1 + 1) by omega)).trans e1) rfl (Nat.le_of_ble_eq_true rfl) (by omega), Option.bind_some, pF_at (set_eq _) rfl (Nat.le_of_ble_eq_true rfl) ft_byte0 (by omega), Option.bind_some]
  refine Ok.ret ⟨⟨400 + (h0.2.1 + 1), 16, fun _ => 0, .int 0, (set_eq _).trans rfl, (set_ne _ (by omega)).trans ((set_ne _ (by omega)).trans (new_eq _ _)), by omega, by omega, by omega, by omega, ?_⟩, by omega, ?_, fun q hq => (set_ne _ (by omega)).trans ((set_ne _ (by omega)).trans ((new_ne _ _ (show q ≠ 400 + (h0.2.1 + 1) by omega)).trans (new_ne _ _ (by omega)))), ?_, ?_, ?_, ?_⟩
  · show 400 + (h0.2.1 + 1) < 400 + (h0.2.1 + 1 + 1); omega
  · show 400 + h0.2.1 < 400 + (h0.2.1 + 1 + 1); omega
  · show h0.2.1 ≤ h0.2.1 + 1 + 1; omega
  · show h0.2.2 ≤ h0.2.2 + 4 + 16; omega
  · show h0.2.1 + 1 + 1 ≤ h0.2.1 + 2; omega
  · show h0.2.2 + 4 + 16 ≤ h0.2.2 + 20; omega
/-- arraycopy of bytes -/
theorem acpB_at {h : ax_H} {a b n0 n1 s d k : Nat} {sp dp kk : Int32} {f g : Nat → Int32} (ha : h.1 a = .inl (3, n0, .inl f)) (hb : h.1 b = .inl (3, n1, .inl g)) (h4 : 400 ≤ b) (hs : sp = Int32.ofNat s) (hd : dp = Int32.ofNat d) (hk : kk = Int32.ofNat k) (h1 : s + k ≤ n0) (h2 : d + k ≤ n1) (h3 : n0 < 2 ^ 31) (h5 : n1 < 2 ^ 31) : dx_acp (.ref a) sp (.ref b) dp kk h = some (ax_set h b (.inl (3, n1, .inl (va_cpy f g s d k)))) := by
  subst hs hd hk
  have nb : ¬ ax_bd (Int32.ofNat s) (Int32.ofNat d) (Int32.ofNat k) n0 n1 := by
    unfold ax_bd
    rw [i_nat (by omega), i_nat (by omega), i_nat (by omega)]
    rintro (z | z | z | z | z)
    · exact i_neg (by omega) z
    · exact i_neg (by omega) z
    · exact i_neg (by omega) z
    · omega
    · omega
  show (if b < 400 then none else (ax_cp _ _ _ (h.1 a) (h.1 b)).bind fun c => some (ax_set h b c)) = _
  rw [if_neg (by omega), ha, hb]
  show Option.bind (if 3 = 3 ∧ (3 = 0 ∨ 3 = 3) then _ else none) _ = _
  rw [if_neg nb, i_nat (by omega), i_nat (by omega), i_nat (by omega)]
  rfl
theorem i_shr0 : ∀ k, k < 301 → dx_shr (Int32.ofNat k) 0 = Int32.ofNat k := by decide +kernel
theorem i_shl0 : ∀ k, k < 301 → dx_shl (Int32.ofNat k) 0 = Int32.ofNat k := by decide +kernel
/-- a longer row of bytes -/
theorem by_copyOf {d : Nat} (hd : 1 ≤ d) {h : ax_H} {a n m : Nat} {f : Nat → Int32} (e : h.1 a = .inl (3, n, .inl f)) (ha : a < 400 + h.2.1) (h1 : n < m) (h2 : m ≤ 300) : ax_c d 9 [.ref a, .int (Int32.ofNat m)] h = some (.inl (some (.ref (400 + h.2.1))), ax_set (ax_new h (.inl (3, m, ax_dat 0)) m) (400 + h.2.1) (.inl (3, m, .inl (va_cpy f (fun _ => 0) 0 0 n)))) := by
  obtain ⟨d, rfl, he⟩ := d_succ hd
  refine dx_app (m_J13_copyOf rfl) ?_
  have hb : (ax_new h (.inl (3, m, ax_dat 0)) m).1 (400 + h.2.1) = .inl (3, m, .inl fun _ => 0) := new_eq _ _
  have ea := (new_ne (h := h) (.inl (3, m, ax_dat 0)) m (q := a) (by omega)).trans e
  rw [len_at e, Option.bind_some, if_pos (fun z => by have := (i_eq (by omega) (by omega)).mp z; omega), na_at rfl (by omega), len_at ea, Option.bind_some, i_min _ _ (by omega) (by omega), if_neg (by omega), acpB_at (f := f) (g := fun _ => 0) (s := 0) (d := 0) (k := n) (sp := 0) (dp := 0) ea hb (by omega) rfl rfl rfl (by omega) (by omega) (by omega) (by omega)]
  rfl
theorem i_sub_le0 {a b : Nat} (ha : a < 2 ^ 30) (hb : b < 2 ^ 30) : Int32.ofNat a - Int32.ofNat b ≤ 0 ↔ a ≤ b := by
  rw [Int32.le_iff_toInt_le, Int32.toInt_sub, i_toInt (by omega), i_toInt (by omega)]
  have h0 : (0 : Int32).toInt = 0 := rfl
  unfold Int.bmod
  dsimp only
  split <;> omega
theorem sb_ensure {d : Nat} (hd : 4 ≤ d) {h0 h : ax_H} {b c k m w n : Nat} (S : SB h0 b c k m w h) (hn : n ≤ 100) (hcn : c ≤ n) : Ok (ax_c d 20 [.ref b, .int (Int32.ofNat n)] h) (.inl none) (SB h0 b c n (m + 1) (w + 202)) := by
  obtain ⟨⟨ar, cap, f, l, s1, s2, s3, s4, s5, s6, s7⟩, s8, s9, s10, s11, s12, s13, s14⟩ := S
  obtain ⟨d, rfl, he⟩ := d_succ hd
  refine Ok.le m_J15_ensureCapacityInternal ?_
  rw [gA_r s1 rfl rfl, Option.bind_some, len_at s2, Option.bind_some, gI_at s1 rfl rfl, Option.bind_some, i_shr0 cap (by omega), lt_at]
  by_cases q : n ≤ cap
  · rw [if_pos ((i_sub_le0 (by omega) (by omega)).mpr q)]
    exact Ok.ret ⟨⟨ar, cap, f, l, s1, s2, hcn, q, s5, s6, s7⟩, s8, s9, s10, s11, s12, by omega, by omega⟩
  · rw [if_neg (fun z => q ((i_sub_le0 (by omega) (by omega)).mp z)), Option.bind_some, vn_at s1]
    show Ok (Option.bind (some 21) _) _ _
    rw [Option.bind_some]
    obtain ⟨cp, ecp⟩ : ∃ cp, cp = cap + if n - cap < cap + 2 then cap + 2 else n - cap := ⟨_, rfl⟩
    have hcp : n ≤ cp ∧ cp ≤ 202 ∧ cap < cp := by
      rw [ecp]
      split <;> omega
    have e21 : ax_c d 21 [.ref b, .int (Int32.ofNat n)] h = some (.inl (some (.int (Int32.ofNat cp))), h) := by
      obtain ⟨d2, rfl, he2⟩ := d_succ he
      refine dx_app m_J15_newCapacity ?_
      rw [gA_r s1 rfl rfl, Option.bind_some, len_at s2, Option.bind_some, gI_at s1 rfl rfl, Option.bind_some, i_shl0 n (by omega), lt_at, i_sub (by omega), lt_at, Option.bind_some]
      have e5 : ax_c d2 5 [.int (Int32.ofNat cap), .int (Int32.ofNat (n - cap)), .int (Int32.ofNat cap + dx_shl 2 0)] h = some (.inl (some (.int (Int32.ofNat cp))), h) := by
        obtain ⟨d4, rfl, -⟩ := d_succ (k := 0) (by omega : 1 ≤ d2)
        refine dx_app m_J11_newLength ?_
        rw [show Int32.ofNat cap + dx_shl 2 0 = Int32.ofNat (cap + 2) from i_add cap 2, i_max _ _ (by omega) (by omega), i_add, lt_at, ← ecp]
        rw [if_neg (fun z => by have := (i_le (b := 0) (by omega) (by omega)).mp z; omega), if_neg (fun z => by have := (i_lt (a := 2147483639) (by omega) (by omega)).mp z; omega)]
      rw [e5, cI_v, if_pos (fun z => by have := (i_eq (b := 2147483647) (by omega) (by omega)).mp z; omega), gI_at s1 rfl rfl, Option.bind_some, i_shr0 cp (by omega)]
    have pb : b ≠ 400 + h.2.1 := by omega
    rw [e21, cI_v, gI_at s1 rfl rfl, Option.bind_some, i_shl0 cp (by omega), by_copyOf (by omega) s2 s7 hcp.2.2 (by omega), cR_r, pF_aref ((set_ne _ pb).trans ((new_ne _ _ pb).trans s1)) rfl (Nat.le_of_ble_eq_true rfl) (by omega), Option.bind_some]
    refine Ok.ret ⟨⟨400 + h.2.1, cp, _, l, set_eq _, (set_ne _ (Ne.symm pb)).trans (set_eq _), hcn, hcp.1, hcp.2.1, by omega, ?_⟩, s8, ?_, fun r hr => (set_ne _ (by omega)).trans ((set_ne _ (by omega)).trans ((new_ne _ _ (by omega)).trans (s10 r hr))), ?_, ?_, ?_, ?_⟩
    · show 400 + h.2.1 < 400 + (h.2.1 + 1); omega
    · show b < 400 + (h.2.1 + 1); omega
    · show h0.2.1 ≤ h.2.1 + 1; omega
    · show h0.2.2 ≤ h.2.2 + cp; omega
    · show h.2.1 + 1 ≤ _; omega
    · show h.2.2 + cp ≤ _; omega
theorem ft_byte0' {h : ax_H} {A B : Option ax_R} : (if ax_ft .byte (.int 0) = true then A else B) = A := if_pos ft_byte0
theorem st_coder {d : Nat} (hd : 1 ≤ d) {h : ax_H} {q r : Nat} (e : h.1 q = .inr (3, [.ref r, .int 0])) : ax_c d 36 [.ref q] h = some (.inl (some (.int 0)), h) := by
  obtain ⟨d, rfl, he⟩ := d_succ hd
  refine dx_app m_J17_coder ?_
  rw [if_neg (by decide), gI_at e rfl rfl, Option.bind_some, if_pos ft_byte0]
theorem st_length {d : Nat} (hd : 2 ≤ d) {h : ax_H} {q r n : Nat} {f : Nat → Int32} (e : h.1 q = .inr (3, [.ref r, .int 0])) (er : h.1 r = .inl (3, n, .inl f)) (hn : n ≤ 300) : ax_c d 35 [.ref q] h = some (.inl (some (.int (Int32.ofNat n))), h) := by
  obtain ⟨d, rfl, he⟩ := d_succ hd
  refine dx_app m_J17_length ?_
  rw [gA_r e rfl rfl, Option.bind_some, len_at er, Option.bind_some, vn_at e]
  show Option.bind (some 36) _ = _
  rw [Option.bind_some, st_coder he e, cI_v, i_shr0 n (by omega)]
/-- a text behind -/
theorem sb_text {d : Nat} (hd : 6 ≤ d) {h0 h : ax_H} {b c k m w q r n : Nat} {f : Nat → Int32} (S : SB h0 b c k m w h) (hq : q < 400 + h0.2.1) (hr : r < 400 + h0.2.1) (e : h0.1 q = .inr (3, [.ref r, .int 0])) (er : h0.1 r = .inl (3, n, .inl f)) (hn : n ≤ 30) (hc : c + n ≤ 100) : Ok (ax_c d 30 [.ref b, .ref q] h) (.inl (some (.ref b))) (SB h0 b (c + n) (c + n) (m + 1) (w + 202)) := by
  have Sb : ∃ fs, h.1 b = .inr (2, fs) := by
    obtain ⟨⟨ar, cap, f, l, s1, _⟩, _⟩ := S
    exact ⟨_, s1⟩
  obtain ⟨fs, Sb⟩ := Sb
  obtain ⟨d, rfl, he⟩ := d_succ hd
  refine Ok.le (m_J16_append rfl) ?_
  rw [vn_at Sb]
  show Ok (Option.bind (some 18) _) _ _
  rw [Option.bind_some]
  have hk := fun q hq => S.2.2.2.1 q hq
  have e1 := (hk q hq).trans e
  have er1 := (hk r hr).trans er
  refine Ok.R (x := b) (P := SB h0 b (c + n) (c + n) (m + 1) (w + 202)) ?_ (fun h' p' => Ok.ret p')
  obtain ⟨d2, rfl, he2⟩ := d_succ he
  refine Ok.le (m_J15_append rfl) ?_
  obtain ⟨⟨ar, cap, f2, l, s1, s2⟩, s8⟩ := id S
  rw [nul_ref, vn_at e1]
  show Ok (Option.bind (some 35) _) _ _
  rw [Option.bind_some, st_length (by omega) e1 er1 (by omega), cI_v, gI_at s1 rfl rfl, Option.bind_some, vn_at s1]
  show Ok (Option.bind (some 20) _) _ _
  rw [Option.bind_some, i_add]
  refine Ok.V (sb_ensure he2 S hc (by omega)) ?_
  clear s1 s2 s8
  intro h1 S1
  obtain ⟨⟨ar, cap, f2, l, s1, s2, s3, s4, s5, s6, s7⟩, s8, s9, s10, s11, s12, s13, s14⟩ := S1
  have e2 := (s10 q hq).trans e
  have er2 := (s10 r hr).trans er
  have ab : ar ≠ b := by
    intro z
    rw [z, s1] at s2
    cases s2
  rw [gI_at s1 rfl rfl, Option.bind_some, vn_at s1]
  show Ok (Option.bind (some 23) _) _ _
  rw [Option.bind_some]
  have e23 : ax_c d2 23 [.ref b, .int (Int32.ofNat c), .ref q] h1 = some (.inl none, ax_set h1 ar (.inl (3, cap, .inl (va_cpy f f2 0 c n)))) := by
    obtain ⟨d3, rfl, he3⟩ := d_succ he2
    refine dx_app (m_J15_putStringAt rfl) ?_
    have e24 : ax_c d3 24 [.ref b, .ref q] h1 = some (.inl none, h1) := by
      obtain ⟨d4, rfl, he4⟩ := d_succ (k := 1) (by omega : 2 ≤ d3)
      refine dx_app (m_J15_inflateIfNeededFor rfl) ?_
      rw [if_neg (by decide), gI_at s1 rfl rfl, Option.bind_some, vn_at e2]
      show Option.bind (some 36) _ = _
      rw [Option.bind_some, st_coder (by omega) e2, cI_v, if_pos rfl]
    have e38 : ax_c d3 38 [.ref q, .ref ar, .int (Int32.ofNat c), .int 0] h1 = some (.inl none, ax_set h1 ar (.inl (3, cap, .inl (va_cpy f f2 0 c n)))) := by
      obtain ⟨d4, rfl, he4⟩ := d_succ (k := 1) (by omega : 2 ≤ d3)
      refine dx_app (m_J17_getBytes rfl) ?_
      rw [vn_at e2]
      show Option.bind (some 36) _ = _
      rw [Option.bind_some, st_coder (by omega) e2, cI_v, if_neg (fun z => z rfl), gA_r e2 rfl rfl, Option.bind_some, Option.bind_some, len_at er2, Option.bind_some, i_shl0 c (by omega), acpB_at (s := 0) (d := c) (k := n) (sp := 0) er2 s2 (by omega) rfl rfl rfl (by omega) (by omega) (by omega) (by omega)]
      rfl
    rw [vn_at s1]
    show Option.bind (some 24) _ = _
    rw [Option.bind_some, e24, cV_v, gA_r s1 rfl rfl, Option.bind_some, gI_at s1 rfl rfl, Option.bind_some, vn_at e2]
    show Option.bind (some 38) _ = _
    rw [Option.bind_some, e38, cV_v]
  rw [e23, cV_v, gI_at ((set_ne _ (Ne.symm ab)).trans s1) rfl rfl, Option.bind_some, pF_int ((set_ne _ (Ne.symm ab)).trans s1) rfl (Nat.le_of_ble_eq_true rfl) (by omega), Option.bind_some, i_add]
  exact Ok.ret ⟨⟨ar, cap, _, l, set_eq _, (set_ne _ ab).trans (set_eq _), Nat.le_refl _, s4, s5, s6, s7⟩, s8, s9, fun r hr => (set_ne _ (by omega)).trans ((set_ne _ (by omega)).trans (s10 r hr)), s11, s12, s13, s14⟩
/-! a number as signs -/
def dg : Nat → Nat → Nat
  | 0, v => if v < 10 then 1 else 2
  | m + 1, v => if v < 10 then 1 else if v < 100 then 2 else dg m (v / 100) + 2
theorem i_negT {v : Nat} (hv : v < 2 ^ 31) : (-(Int32.ofNat v)).toInt = -(v : Int) := by
  rw [Int32.toInt_neg, i_toInt hv]
  unfold Int.bmod
  dsimp only
  split <;> omega
theorem i_negle {v k : Nat} (hv : v < 2 ^ 31) (hk : k < 2 ^ 31) : -(Int32.ofNat v) ≤ -(Int32.ofNat k) ↔ k ≤ v := by
  rw [Int32.le_iff_toInt_le, i_negT hv, i_negT hk]; omega
theorem i_neglt {v k : Nat} (hv : v < 2 ^ 31) (hk : k < 2 ^ 31) : -(Int32.ofNat k) < -(Int32.ofNat v) ↔ v < k := by
  rw [Int32.lt_iff_toInt_lt, i_negT hv, i_negT hk]; omega
theorem nm_size {d : Nat} (hd : 1 ≤ d) {h : ax_H} {v : Nat} (hv : v < 1000000) : ax_c d 74 [.int (Int32.ofNat v)] h = some (.inl (some (.int (Int32.ofNat (dg 3 v)))), h) := by
  obtain ⟨d, rfl, -⟩ := d_succ hd
  refine dx_app m_J22_stringSize ?_
  rw [if_neg (i_neg (by omega)), lt_at]
  have un : ∀ (K : ax_K) (i t : Nat) (R : ax_R), i < 10 → t < 2000000 → ((t ≤ v → B_J22_stringSize_16 K (-(Int32.ofNat v)) 0 (-(Int32.ofNat (10 * t))) (Int32.ofNat (i + 1)) h = some R) ∧ (¬ t ≤ v → some (.inl (some (.int (Int32.ofNat i))), h) = some R)) → B_J22_stringSize_16 K (-(Int32.ofNat v)) 0 (-(Int32.ofNat t)) (Int32.ofNat i) h = some R := by
    intro K i t R hi ht hh
    refine dx_app b_J22_stringSize_16 ?_
    rw [if_neg (fun z => by have := (i_le (a := 10) (by omega) (by omega)).mp z; omega)]
    by_cases q : t ≤ v
    · rw [if_pos ((i_negle (by omega) (by omega)).mpr q), lt_at, lt_at, show Int32.ofNat i + 1 = Int32.ofNat (i + 1) from i_add i 1]
      have e : (10 : Int32) * -(Int32.ofNat t) = -(Int32.ofNat (10 * t)) := by
        rw [Int32.mul_neg, show (10 : Int32) * Int32.ofNat t = Int32.ofNat (10 * t) from i_mul 10 t]
      rw [e]
      exact hh.1 q
    · rw [if_neg (fun z => q ((i_negle (by omega) (by omega)).mp z)), Int32.add_zero]
      exact hh.2 q
  refine un _ 1 10 _ (by omega) (by omega) ⟨fun h1 => ?_, fun h1 => ?_⟩
  · refine un _ 2 100 _ (by omega) (by omega) ⟨fun h2 => ?_, fun h2 => ?_⟩
    · refine un _ 3 1000 _ (by omega) (by omega) ⟨fun h3 => ?_, fun h3 => ?_⟩
      · refine un _ 4 10000 _ (by omega) (by omega) ⟨fun h4 => ?_, fun h4 => ?_⟩
        · refine un _ 5 100000 _ (by omega) (by omega) ⟨fun h5 => ?_, fun h5 => ?_⟩
          · refine un _ 6 1000000 _ (by omega) (by omega) ⟨fun h6 => by omega, fun h6 => ?_⟩
            unfold dg; rw [if_neg (by omega), if_neg (by omega)]; unfold dg; rw [if_neg (by omega), if_neg (by omega)]; unfold dg; rw [if_neg (by omega), if_pos (by omega)]
          · unfold dg; rw [if_neg (by omega), if_neg (by omega)]; unfold dg; rw [if_neg (by omega), if_neg (by omega)]; unfold dg; rw [if_pos (by omega)]
        · unfold dg; rw [if_neg (by omega), if_neg (by omega)]; unfold dg; rw [if_neg (by omega), if_pos (by omega)]
      · unfold dg; rw [if_neg (by omega), if_neg (by omega)]; unfold dg; rw [if_pos (by omega)]
    · unfold dg; rw [if_neg (by omega), if_pos (by omega)]
  · unfold dg; rw [if_pos (by omega)]
