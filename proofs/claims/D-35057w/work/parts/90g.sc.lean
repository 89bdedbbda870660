/-! StringBuilder: a number behind, the text made; exceptions with a text -/
theorem dg_pos (m v : Nat) : 1 ≤ dg m v := by cases m <;> unfold dg <;> split <;> (try split) <;> omega
theorem gc_104 {K : ax_K} {a j : Nat} {h : ax_H} : B_J22_getChars_104 K (.ref a) (Int32.ofNat j) 0 h = some (.inl (some (.int (Int32.ofNat j))), h) := dx_app (b_J22_getChars_104 rfl) (if_pos rfl)
theorem i_negneg {v : Nat} : -(-(Int32.ofNat v)) = Int32.ofNat v := Int32.neg_neg
theorem i_divneg {v : Nat} (hv : v < 2 ^ 31) : -(Int32.ofNat v) / 100 = -(Int32.ofNat (v / 100)) := by
  rw [← Int32.toInt_inj, Int32.toInt_div, i_negT hv, i_negT (by omega), show (100 : Int32) = Int32.ofNat 100 from rfl, i_toInt (by omega)]
  rw [Int.neg_tdiv, show ((v : Int).tdiv ((100 : Nat) : Int)) = ((v / 100 : Nat) : Int) from rfl]
  unfold Int.bmod
  dsimp only
  split <;> omega
theorem i_negmul {v : Nat} : -(Int32.ofNat v) * 100 = -(Int32.ofNat (v * 100)) := by
  rw [Int32.neg_mul, show Int32.ofNat v * 100 = Int32.ofNat (v * 100) from i_mul v 100]
theorem i_negsub {v w : Nat} (h : w ≤ v) : -(Int32.ofNat w) - -(Int32.ofNat v) = Int32.ofNat (v - w) := by
  rw [Int32.sub_neg, Int32.add_comm, ← Int32.sub_eq_add_neg, i_sub h]
theorem set_set {h : ax_H} {a : Nat} {c1 c2 : ax_C} : ax_set (ax_set h a c1) a c2 = ax_set h a c2 := by
  unfold ax_set
  refine Prod.ext ?_ rfl
  funext j
  show (if j = a then c2 else if j = a then c1 else h.1 j) = (if j = a then c2 else h.1 j)
  by_cases w : j = a
  · rw [if_pos w, if_pos w]
  · rw [if_neg w, if_neg w, if_neg w]
/-- the signs of a number written, from the end -/
theorem gc_22 {K : ax_K} {a n : Nat} (h4 : 400 ≤ a) (hn : n ≤ 202) : ∀ (m v idx : Nat) (h : ax_H), OLD h → v < 2 ^ 30 → v < 100 ^ (m + 1) → dg m v ≤ idx → idx ≤ n → (∃ f : Nat → Int32, h.1 a = .inl (3, n, .inl f)) → ∃ (j : Nat) (g : Nat → Int32), B_J22_getChars_22 K (-(Int32.ofNat v)) (.ref a) (Int32.ofNat idx) 0 h = some (.inl (some (.int (Int32.ofNat j))), ax_set h a (.inl (3, n, .inl g))) := by
  intro m
  have two : ∀ (idx v : Nat) (h : ax_H) (f : Nat → Int32), OLD h → h.1 a = .inl (3, n, .inl f) → v < 100 → 1 ≤ idx → idx ≤ n → (10 ≤ v → 2 ≤ idx) → ∃ (j : Nat) (g : Nat → Int32), B_J22_getChars_22 K (-(Int32.ofNat v)) (.ref a) (Int32.ofNat idx) 0 h = some (.inl (some (.int (Int32.ofNat j))), ax_set h a (.inl (3, n, .inl g))) := by
    intro idx v h f o e hv h1 h2 h3
    obtain ⟨-, ⟨f4, o4⟩, ⟨f5, o5⟩, -⟩ := o
    have c1 : (-100 : Int32) < -(Int32.ofNat v) := (i_neglt (k := 100) (by omega) (by omega)).mpr hv
    by_cases q : v < 10
    · refine ⟨idx - 1, upd f (idx - 1) (vp_nar .byte (f5 v)), dx_app (b_J22_getChars_22 rfl) ?_⟩
      have c2 : (-9 : Int32) ≤ -(Int32.ofNat v) := (i_negle (v := 9) (by omega) (by omega)).mpr (by omega)
      rw [if_pos c1, i_dec h1, lt_at, i_negneg, lI_at o5, ix_of rfl (show v < 100 by omega) (by omega), Option.bind_some, Option.bind_some, sI_at e h4, ix_of rfl (show idx - 1 < n by omega) (by omega), Option.bind_some, Option.bind_some, if_pos c2, gc_104]
    · have h3 := h3 (by omega)
      refine ⟨idx - 1 - 1, upd (upd f (idx - 1) (vp_nar .byte (f5 v))) (idx - 1 - 1) (vp_nar .byte (f4 v)), dx_app (b_J22_getChars_22 rfl) ?_⟩
      have c2 : ¬ (-9 : Int32) ≤ -(Int32.ofNat v) := fun z => by have := (i_negle (v := 9) (by omega) (by omega)).mp z; omega
      have aa : (4 : Nat) ≠ a := by omega
      rw [if_pos c1, i_dec h1, lt_at, i_negneg, lI_at o5, ix_of rfl (show v < 100 by omega) (by omega), Option.bind_some, Option.bind_some, sI_at e h4, ix_of rfl (show idx - 1 < n by omega) (by omega), Option.bind_some, Option.bind_some, if_neg c2, i_dec (by omega), lt_at, lI_at ((set_ne _ aa).trans o4), ix_of rfl (show v < 100 by omega) (by omega), Option.bind_some, Option.bind_some, sI_at (set_eq _) h4, ix_of rfl (show idx - 1 - 1 < n by omega) (by omega), Option.bind_some, Option.bind_some, gc_104]
      rw [set_set]
  induction m with
  | zero =>
    intro v idx h o hv hv2 h1 h2 ⟨f, e⟩
    by_cases q : v < 10
    · exact two idx v h f o e (by omega) (by have := dg_pos 0 v; omega) h2 (fun z => by omega)
    · unfold dg at h1
      rw [if_neg q] at h1
      exact two idx v h f o e (by omega) (by omega) h2 (fun z => by omega)
  | succ m ih =>
    intro v idx h o hv hv2 h1 h2 ⟨f, e⟩
    unfold dg at h1
    by_cases q : v < 10
    · rw [if_pos q] at h1
      exact two idx v h f o e (by omega) (by omega) h2 (fun z => by omega)
    · rw [if_neg q] at h1
      by_cases q2 : v < 100
      · rw [if_pos q2] at h1
        exact two idx v h f o e (by omega) (by omega) h2 (fun z => by omega)
      · rw [if_neg q2] at h1
        have o0 := o
        obtain ⟨-, ⟨f4, o4⟩, ⟨f5, o5⟩, -⟩ := o
        have c1 : ¬ (-100 : Int32) < -(Int32.ofNat v) := fun z => q2 ((i_neglt (k := 100) (by omega) (by omega)).mp z)
        have aa : (4 : Nat) ≠ a := by omega
        have pd := dg_pos m (v / 100)
        have o2 : ∀ c, OLD (ax_set h a c) := fun c => o0.mono fun q hq => set_ne _ (by omega)
        obtain ⟨j, g, r⟩ := ih (v / 100) (idx - 1 - 1) (ax_set h a (.inl (3, n, .inl (upd (upd f (idx - 1) (vp_nar .byte (f5 (v - v / 100 * 100)))) (idx - 1 - 1) (vp_nar .byte (f4 (v - v / 100 * 100))))))) (o2 _) (by omega) (by rw [Nat.pow_succ] at hv2; omega) (by omega) (by omega) ⟨_, set_eq _⟩
        refine ⟨j, g, dx_app (b_J22_getChars_22 rfl) ?_⟩
        rw [if_neg c1, i_divneg (by omega), lt_at, i_negmul, i_negsub (by omega), lt_at, i_dec (by omega), lt_at, lI_at o5, ix_of rfl (show v - v / 100 * 100 < 100 by omega) (by omega), Option.bind_some, Option.bind_some, sI_at e h4, ix_of rfl (show idx - 1 < n by omega) (by omega), Option.bind_some, Option.bind_some, i_dec (by omega), lt_at, lI_at ((set_ne _ aa).trans o4), ix_of rfl (show v - v / 100 * 100 < 100 by omega) (by omega), Option.bind_some, Option.bind_some, sI_at (set_eq _) h4, ix_of rfl (show idx - 1 - 1 < n by omega) (by omega), Option.bind_some, Option.bind_some]
        rw [set_set] at r ⊢
        exact r
theorem dg_le : ∀ m v, dg m v ≤ 2 * m + 2 := by
  intro m
  induction m with
  | zero => intro v; unfold dg; split <;> omega
  | succ m ih => intro v; unfold dg; split <;> (try split) <;> (try have := ih (v / 100)) <;> omega
theorem sb_num {d : Nat} (hd : 6 ≤ d) {h0 h : ax_H} {b c k m w v : Nat} (S : SB h0 b c k m w h) (o : OLD h0) (hv : v < 1000000) (hc : c ≤ 80) : Ok (ax_c d 31 [.ref b, .int (Int32.ofNat v)] h) (.inl (some (.ref b))) (SB h0 b (c + dg 3 v) (c + dg 3 v) (m + 1) (w + 202)) := by
  have Sb : ∃ fs, h.1 b = .inr (2, fs) := by
    obtain ⟨⟨ar, cap, f, l, s1, _⟩, _⟩ := S
    exact ⟨_, s1⟩
  obtain ⟨fs, Sb⟩ := Sb
  obtain ⟨d, rfl, he⟩ := d_succ hd
  have hl := dg_le 3 v
  have hp := dg_pos 3 v
  refine Ok.le m_J16_append_2 ?_
  rw [vn_at Sb]
  show Ok (Option.bind (some 26) _) _ _
  rw [Option.bind_some]
  refine Ok.R (x := b) (P := SB h0 b (c + dg 3 v) (c + dg 3 v) (m + 1) (w + 202)) ?_ (fun h' p' => Ok.ret p')
  obtain ⟨d2, rfl, he2⟩ := d_succ he
  refine Ok.le m_J15_append_2 ?_
  obtain ⟨⟨ar, cap, f2, l, s1, s2⟩, s8⟩ := id S
  rw [gI_at s1 rfl rfl, Option.bind_some, nm_size (by omega) hv, cI_v, i_add, lt_at, vn_at s1]
  show Ok (Option.bind (some 20) _) _ _
  rw [Option.bind_some]
  refine Ok.V (sb_ensure he2 S (n := c + dg 3 v) (by omega) (by omega)) ?_
  clear s1 s2 s8
  intro h1 S1
  obtain ⟨⟨ar, cap, f2, l, s1, s2, s3, s4, s5, s6, s7⟩, s8, s9, s10, s11, s12, s13, s14⟩ := S1
  have ab : ar ≠ b := by
    intro z
    rw [z, s1] at s2
    cases s2
  have e22 : ax_c d2 22 [.ref b] h1 = some (.inl (some (.int 1)), h1) := by
    obtain ⟨d4, rfl, he4⟩ := d_succ (k := 0) (by omega : 1 ≤ d2)
    refine dx_app m_J15_isLatin1 ?_
    rw [if_neg (by decide), gI_at s1 rfl rfl, Option.bind_some, if_neg (fun z => z rfl)]
  have o1 : OLD h1 := o.mono fun q hq => s10 q (by omega)
  obtain ⟨j, g, e22g⟩ := gc_22 (K := ax_c (d2 - 1)) (a := ar) (n := cap) (by omega) (by omega) 3 v (c + dg 3 v) h1 o1 (by omega) (by omega) (by omega) s4 ⟨f2, s2⟩
  have e75 : ax_c d2 75 [.int (Int32.ofNat v), .int (Int32.ofNat (c + dg 3 v)), .ref ar] h1 = some (.inl (some (.int (Int32.ofNat j))), ax_set h1 ar (.inl (3, cap, .inl g))) := by
    obtain ⟨d4, rfl, he4⟩ := d_succ (k := 0) (by omega : 1 ≤ d2)
    refine dx_app (m_J22_getChars rfl) ?_
    rw [if_pos (i_nonneg (by omega)), if_neg (fun z => z rfl), lt_at]
    exact e22g
  rw [vn_at s1]
  show Ok (Option.bind (some 22) _) _ _
  rw [Option.bind_some, e22, cI_v, if_neg (by decide), gA_r s1 rfl rfl, Option.bind_some, e75, cI_v, pF_int ((set_ne _ (Ne.symm ab)).trans s1) rfl (Nat.le_of_ble_eq_true rfl) (by omega), Option.bind_some]
  exact Ok.ret ⟨⟨ar, cap, _, l, set_eq _, (set_ne _ ab).trans (set_eq _), Nat.le_refl _, s4, s5, s6, s7⟩, s8, s9, fun r hr => (set_ne _ (by omega)).trans ((set_ne _ (by omega)).trans (s10 r hr)), s11, s12, s13, s14⟩
/-- what a step that makes things behind h0 leaves -/
def Ms (h0 : ax_H) (m w : Nat) (h : ax_H) : Prop := h0.2.1 ≤ h.2.1 ∧ h0.2.2 ≤ h.2.2 ∧ h.2.1 ≤ h0.2.1 + m ∧ h.2.2 ≤ h0.2.2 + w ∧ ∀ q, q < 400 + h0.2.1 → h.1 q = h0.1 q
theorem sb_str {d : Nat} (hd : 6 ≤ d) {h0 h : ax_H} {b c m w : Nat} (S : SB h0 b c c m w h) : Ok (ax_c d 32 [.ref b] h) (.inl (some (.ref (400 + h.2.1)))) (Ms h0 (m + 2) (w + 206)) := by
  obtain ⟨⟨ar, cap, f2, l, s1, s2, s3, s4, s5, s6, s7⟩, s8, s9, s10, s11, s12, s13, s14⟩ := S
  obtain ⟨d, rfl, he⟩ := d_succ hd
  refine Ok.le m_J16_toString ?_
  rw [nw_at]
  have nb : b ≠ 400 + h.2.1 := by omega
  have na : ar ≠ 400 + h.2.1 := by omega
  obtain ⟨h1, eh⟩ : ∃ h1, h1 = ax_new h (.inr (3, [.null, .int 0])) 4 := ⟨_, rfl⟩
  rw [← eh]
  have t1 : h1.1 b = .inr (2, [.ref ar, .int 0, l, .int (Int32.ofNat c)]) := by rw [eh]; exact (new_ne _ _ nb).trans s1
  have t2 : h1.1 ar = .inl (3, cap, .inl f2) := by rw [eh]; exact (new_ne _ _ na).trans s2
  have t3 : h1.1 (400 + h.2.1) = .inr (3, [.null, .int 0]) := by rw [eh]; exact new_eq _ _
  have t4 : h1.2.1 = h.2.1 + 1 := by rw [eh]; rfl
  have t5 : h1.2.2 = h.2.2 + 4 := by rw [eh]; rfl
  have t6 : ∀ q, q < 400 + h0.2.1 → h1.1 q = h0.1 q := fun q hq => by rw [eh]; exact (new_ne _ _ (by omega)).trans (s10 q hq)
  clear eh
  refine Ok.V (P := Ms h0 (m + 2) (w + 206)) ?_ (fun h' p' => Ok.ret p')
  obtain ⟨d2, rfl, he2⟩ := d_succ he
  refine Ok.le (m_J17_init rfl) ?_
  refine Ok.V (P := Ms h0 (m + 2) (w + 206)) ?_ (fun h' p' => Ok.ret p')
  obtain ⟨d3, rfl, he3⟩ := d_succ he2
  refine Ok.le (m_J17_init_2 rfl rfl) ?_
  have e27 : ax_c d3 27 [.ref b] h1 = some (.inl (some (.ref ar)), h1) := by
    obtain ⟨d4, rfl, he4⟩ := d_succ (k := 0) (by omega : 1 ≤ d3)
    refine dx_app m_J15_getValue ?_
    rw [gA_r t1 rfl rfl, Option.bind_some]
  have e33 : ax_c d3 33 [.ref b] h1 = some (.inl (some (.int (Int32.ofNat c))), h1) := by
    obtain ⟨d4, rfl, he4⟩ := d_succ (k := 1) (by omega : 2 ≤ d3)
    refine dx_app m_J16_length ?_
    have e28 : ax_c d4 28 [.ref b] h1 = some (.inl (some (.int (Int32.ofNat c))), h1) := by
      obtain ⟨d5, rfl, he5⟩ := d_succ (k := 0) (by omega : 1 ≤ d4)
      refine dx_app m_J15_length ?_
      rw [gI_at t1 rfl rfl, Option.bind_some]
    rw [vn_at t1]
    show Option.bind (some 28) _ = _
    rw [Option.bind_some, e28, cI_v]
  have e22 : ax_c d3 22 [.ref b] h1 = some (.inl (some (.int 1)), h1) := by
    obtain ⟨d4, rfl, he4⟩ := d_succ (k := 0) (by omega : 1 ≤ d3)
    refine dx_app m_J15_isLatin1 ?_
    rw [if_neg (by decide), gI_at t1 rfl rfl, Option.bind_some, if_neg (fun z => z rfl)]
  rw [nn_ref, vn_at t1]
  show Ok (Option.bind (some 27) _) _ _
  rw [Option.bind_some, e27, cR_r, vn_at t1]
  show Ok (Option.bind (some 33) _) _ _
  rw [Option.bind_some, e33, cI_v, vn_at t1]
  show Ok (Option.bind (some 22) _) _ _
  rw [Option.bind_some, e22, cI_v, if_neg (by decide), pF_at t3 rfl (Nat.le_of_ble_eq_true rfl) ft_byte0 (by omega), Option.bind_some]
  obtain ⟨h2, eh⟩ : ∃ h2, h2 = ax_set h1 (400 + h.2.1) (.inr (3, [.null, .int 0])) := ⟨_, rfl⟩
  show Ok (dx_cR (ax_c d3 10 _ (ax_set h1 (400 + h.2.1) (.inr (3, [.null, .int 0])))) _ _) _ _
  rw [← eh]
  have u1 : h2.1 ar = .inl (3, cap, .inl f2) := by rw [eh]; exact (set_ne _ na).trans t2
  have u2 : h2.1 (400 + h.2.1) = .inr (3, [.null, .int 0]) := by rw [eh]; exact set_eq _
  have u3 : h2.2 = h1.2 := by rw [eh]; rfl
  have u4 : ∀ q, q < 400 + h0.2.1 → h2.1 q = h0.1 q := fun q hq => by rw [eh]; exact (set_ne _ (by omega)).trans (t6 q hq)
  clear eh
  have e10 : Ok (ax_c d3 10 [.ref ar, .int 0, .int (Int32.ofNat c)] h2) (.inl (some (.ref (400 + h2.2.1)))) (fun h' => h'.2.1 = h2.2.1 + 1 ∧ h'.2.2 ≤ h2.2.2 + 202 ∧ h2.2.2 ≤ h'.2.2 ∧ ∀ q, q < 400 + h2.2.1 → h'.1 q = h2.1 q) := by
    obtain ⟨d4, rfl, he4⟩ := d_succ (k := 2) (by omega : 3 ≤ d3)
    refine Ok.le (m_J13_copyOfRange rfl) ?_
    rw [if_neg (fun z => z rfl), len_at u1, Option.bind_some]
    by_cases q : c = cap
    · rw [if_pos (by rw [q])]
      show Ok (if ar < 400 then none else (ax_cln 3 (h2.1 ar)).bind fun k => dx_nw h2 (h2.1 ar) k _) _ _
      rw [if_neg (by omega), u1]
      rw [show ax_cln 3 (.inl (3, cap, .inl f2)) = some cap from rfl, Option.bind_some, nw_at]
      show Ok (if 400 + h2.2.1 < 400 then none else (match (ax_new h2 (.inl (3, cap, .inl f2)) cap).1 (400 + h2.2.1) with
        | .inl (t', _) => if t' = 3 then _ else none
        | _ => none)) _ _
      rw [if_neg (by omega), new_eq]
      show Ok (if 3 = 3 then _ else none) _ _
      rw [if_pos rfl]
      refine Ok.ret ⟨rfl, ?_, ?_, fun q hq => new_ne _ _ (by omega)⟩
      · show h2.2.2 + cap ≤ _; omega
      · show _ ≤ h2.2.2 + cap; omega
    · rw [if_neg (fun z => q ((i_eq (by omega) (by omega)).mp z))]
      refine Ok.R (x := 400 + h2.2.1) (P := fun h' => h'.2.1 = h2.2.1 + 1 ∧ h'.2.2 ≤ h2.2.2 + 202 ∧ h2.2.2 ≤ h'.2.2 ∧ ∀ q, q < 400 + h2.2.1 → h'.1 q = h2.1 q) ?_ (fun h' p' => Ok.ret p')
      obtain ⟨d5, rfl, he5⟩ := d_succ (k := 1) he4
      refine Ok.le (m_J13_copyOfRangeByte rfl) ?_
      have e12 : ax_c d5 12 [.int 0, .int (Int32.ofNat c)] h2 = some (.inl none, h2) := by
        obtain ⟨d6, rfl, he6⟩ := d_succ (k := 0) he5
        refine dx_app m_J13_checkLength ?_
        rw [if_pos (i_nonneg (by omega))]
      have ea := (new_ne (h := h2) (.inl (3, c, ax_dat 0)) c (q := ar) (by rw [u3, t4]; omega)).trans u1
      have eb : (ax_new h2 (.inl (3, c, ax_dat 0)) c).1 (400 + h2.2.1) = .inl (3, c, .inl fun _ => 0) := new_eq _ _
      rw [e12, cV_v, show Int32.ofNat c - 0 = Int32.ofNat c from Int32.sub_zero _, lt_at, na_at rfl (by omega), len_at ea, Option.bind_some, show Int32.ofNat cap - 0 = Int32.ofNat cap from Int32.sub_zero _, i_min _ _ (by omega) (by omega), if_pos (by omega), acpB_at (f := f2) (g := fun _ => 0) (s := 0) (d := 0) (k := c) (sp := 0) (dp := 0) ea eb (by omega) rfl rfl rfl (by omega) (by omega) (by omega) (by omega), Option.bind_some]
      refine Ok.ret ⟨rfl, ?_, ?_, fun q hq => (set_ne _ (by omega)).trans (new_ne _ _ (by omega))⟩
      · show h2.2.2 + c ≤ _; omega
      · show _ ≤ h2.2.2 + c; omega
  refine Ok.R e10 ?_
  rintro h3 ⟨v1, v2, v3, v4⟩
  rw [u3] at v1 v2 v3 v4
  rw [pF_aref ((v4 _ (by omega)).trans u2) rfl (Nat.le_of_ble_eq_true rfl) (by omega), Option.bind_some]
  refine Ok.ret ⟨?_, ?_, ?_, ?_, fun q hq => (set_ne _ (by omega)).trans ((v4 q (by omega)).trans (u4 q hq))⟩
  · show _ ≤ h3.2.1; omega
  · show _ ≤ h3.2.2; omega
  · show h3.2.1 ≤ _; omega
  · show h3.2.2 ≤ _; omega
