/-! the class's machine: is the disk whole; a set of bits -/
/- with MM.mv MM.cells MM.sI vp_updL -/
theorem or_and64 (w a b : Int64) : (w ||| a) &&& b = (w &&& b) ||| (a &&& b) := by
  apply Int64.toBitVec_inj.mp
  simp only [Int64.toBitVec_and, Int64.toBitVec_or]
  apply BitVec.eq_of_getLsbD_eq
  intro i hi
  simp only [BitVec.getLsbD_and, BitVec.getLsbD_or, Bool.and_or_distrib_right]
theorem or_abs64 (x s : Int64) : (x ||| s) &&& s = s := by
  apply Int64.toBitVec_inj.mp
  simp only [Int64.toBitVec_and, Int64.toBitVec_or]
  apply BitVec.eq_of_getLsbD_eq
  intro i hi
  simp only [BitVec.getLsbD_and, BitVec.getLsbD_or]
  cases x.toBitVec.getLsbD i <;> cases s.toBitVec.getLsbD i <;> rfl
theorem zr_and64 (s : Int64) : 0 &&& s = 0 := Int64.zero_and
theorem sl_ne : ∀ j, j < 32 → ∀ k, k < 32 → j ≠ k → dx_lshl 1 (Int32.ofNat j) &&& dx_lshl 1 (Int32.ofNat k) = 0 := by decide +kernel
theorem sl_nz : ∀ k, k < 32 → dx_lshl 1 (Int32.ofNat k) ≠ 0 := by decide +kernel
/-- the bits of a word -/
def BW (w : Int64) (B : Nat → Prop) : Prop := ∀ k, k < 32 → (w &&& dx_lshl 1 (Int32.ofNat k) = 0 ↔ ¬ B k)
theorem BW.put {w : Int64} {B : Nat → Prop} {j : Nat} (b : BW w B) (hj : j < 32) : BW (w ||| dx_lshl 1 (Int32.ofNat j)) (fun k => B k ∨ k = j) := by
  intro k hk
  by_cases e : k = j
  · subst e
    rw [or_abs64]
    exact ⟨fun z => absurd z (sl_nz k hk), fun z => absurd (Or.inr rfl) z⟩
  · rw [or_and64, sl_ne j hj k hk (fun z => e z.symm), Int64.or_zero, b k hk]
    exact ⟨fun z y => y.elim z e, fun z y => z (Or.inl y)⟩
theorem BW.eight : BW (0 ||| (dx_lshl (-1) 0 &&& dx_lushr (-1) (-8))) (fun k => k < 8) := by
  unfold BW
  decide +kernel
section MJ31
variable {d p wa : Nat} {h : ax_H} {w : Int64} {x : Int32} {B : Nat → Prop}
def BS (h : ax_H) (p wa : Nat) (x : Int32) (w : Int64) : Prop := h.1 p = .inr (12, [.ref wa, .int x, .int 1]) ∧ (∃ f : Nat → Int64, h.1 wa = .inl (1, 1, .inr (.inl f)) ∧ f 0 = w) ∧ 400 ≤ p ∧ 400 ≤ wa ∧ p ≠ wa
theorem BS.mono {h' : ax_H} (b : BS h p wa x w) (e1 : h'.1 p = h.1 p) (e2 : h'.1 wa = h.1 wa) : BS h' p wa x w := by
  obtain ⟨b1, ⟨f, b2, b3⟩, b4⟩ := b
  exact ⟨e1.trans b1, ⟨f, e2.trans b2, b3⟩, b4⟩
theorem j31_wi (hd : 1 ≤ d) {k : Nat} (hk : k < 64) : ax_c d 101 [.int (Int32.ofNat k)] h = some (.inl (some (.int 0)), h) := by
  obtain ⟨d, rfl, he⟩ := d_succ hd
  refine dx_app m_J31_wordIndex ?_
  rw [show dx_shr (Int32.ofNat k) 6 = Int32.ofNat (k / 2 ^ 6) from shr_nat (j := 6) (by omega) (by omega), show k / 2 ^ 6 = 0 by omega]
  rfl
theorem j31_ci (hd : 1 ≤ d) : ax_c d 106 [.ref p] h = some (.inl none, h) := by
  obtain ⟨d, rfl, he⟩ := d_succ hd
  refine dx_app m_J31_checkInvariants ?_
  rw [if_pos (by decide)]
  refine dx_app b_J31_checkInvariants_37 ?_
  rw [if_pos (by decide)]
  refine dx_app b_J31_checkInvariants_70 ?_
  rw [if_pos (by decide)]
theorem j31_init (hd : 3 ≤ d) (ep : p + 1 = 400 + h.2.1) (h4 : 400 ≤ p) (e : h.1 p = .inr (12, [.null, .int 0, .int 0])) : Ok (ax_c d 99 [.ref p, .int 32] h) (.inl none) (fun h' => BS h' p (p + 1) 0 0 ∧ h'.2.1 = h.2.1 + 1 ∧ h'.2.2 = h.2.2 + 1 ∧ ∀ q, q < p → h'.1 q = h.1 q) := by
  obtain ⟨d, rfl, he⟩ := d_succ hd
  refine Ok.le m_J31_init ?_
  rw [nn_ref, pF_int e rfl (Nat.le_of_ble_eq_true rfl) h4, Option.bind_some, pF_at (set_eq _) rfl (Nat.le_of_ble_eq_true rfl) ftb0 h4, Option.bind_some, if_pos (by decide), vn_at (set_eq _)]
  show Ok (Option.bind (some 100) _) _ _
  rw [Option.bind_some]
  obtain ⟨g, eg⟩ : ∃ g, g = ax_set (ax_set h p (.inr (12, [Value.null, .int 0, .int 0].set 1 (.int 0)))) p (.inr (12, ([Value.null, .int 0, .int 0].set 1 (.int 0)).set 2 (.int 0))) := ⟨_, rfl⟩
  rw [← eg]
  have g1 : g.1 p = .inr (12, [.null, .int 0, .int 0]) := by rw [eg]; exact (set_eq _).trans rfl
  have g2 : g.2 = h.2 := by rw [eg]; rfl
  have g3 : ∀ q, q ≠ p → g.1 q = h.1 q := fun q hq => by rw [eg]; exact (set_ne _ hq).trans (set_ne _ hq)
  clear eg
  have e100 : Ok (ax_c d 100 [.ref p, .int 32] g) (.inl none) (fun h' => h'.1 p = .inr (12, [.ref (p + 1), .int 0, .int 0]) ∧ h'.1 (p + 1) = .inl (1, 1, .inr (.inl fun _ => 0)) ∧ h'.2.1 = h.2.1 + 1 ∧ h'.2.2 = h.2.2 + 1 ∧ ∀ q, q < p → h'.1 q = h.1 q) := by
    obtain ⟨d2, rfl, he2⟩ := d_succ (k := 1) he
    refine Ok.le m_J31_initWords ?_
    have gs : 400 + g.2.1 = p + 1 := by rw [g2]; omega
    rw [show (32 : Int32) - 1 = Int32.ofNat 31 from rfl, j31_wi (by omega) (by omega), cI_v, na_at (k := 0 + 1) (n := 1) rfl (by omega), gs, pF_aref ((new_ne _ _ (by omega)).trans g1) rfl (Nat.le_of_ble_eq_true rfl) h4, Option.bind_some]
    exact Ok.ret ⟨(set_eq _).trans rfl, (set_ne _ (by omega)).trans (by rw [← gs]; exact new_eq _ _), by show g.2.1 + 1 = _; rw [g2], by show g.2.2 + 1 = _; rw [g2], fun q hq => (set_ne _ (by omega)).trans ((new_ne _ _ (by omega)).trans (g3 q (by omega)))⟩
  refine Ok.V e100 ?_
  rintro h3 ⟨k1, k2, k3, k4, k5⟩
  rw [pF_at k1 rfl (Nat.le_of_ble_eq_true rfl) ftb1 h4, Option.bind_some]
  exact Ok.ret ⟨⟨(set_eq _).trans rfl, ⟨_, (set_ne _ (by omega)).trans k2, rfl⟩, h4, by omega, by omega⟩, k3, k4, fun q hq => (set_ne _ (by omega)).trans (k5 q hq)⟩
theorem j31_get (hd : 2 ≤ d) (b : BS h p wa 1 w) (hw : BW w B) {k : Nat} (hk : k < 32) : ∃ r : Int32, (r = 0 ∧ ¬ B k ∨ r = 1 ∧ B k) ∧ ax_c d 107 [.ref p, .int (Int32.ofNat k)] h = some (.inl (some (.int r)), h) := by
  obtain ⟨b1, ⟨f, b2, rfl⟩, b4, b5, b6⟩ := b
  obtain ⟨d, rfl, he⟩ := d_succ hd
  have run : ∀ r : Int32, (if lg_cmp (f 0 &&& dx_lshl 1 (Int32.ofNat k)) 0 = 0 then some ((.inl (some (.int 0)), h) : ax_R) else some (.inl (some (.int 1)), h)) = some (.inl (some (.int r)), h) → ax_c (d + 1) 107 [.ref p, .int (Int32.ofNat k)] h = some (.inl (some (.int r)), h) := by
    intro r hr
    refine dx_app m_J31_get ?_
    rw [if_pos (show (0 : Int32) ≤ Int32.ofNat k from (i_le (a := 0) (by omega) (by omega)).mpr (Nat.zero_le _)), vn_at b1]
    show Option.bind (some 106) _ = _
    rw [Option.bind_some, j31_ci (by omega), cV_v, j31_wi (by omega) (by omega), cI_v, gI_at b1 rfl rfl, Option.bind_some, if_neg (show ¬ (1 : Int32) ≤ 0 by decide), gA_r b1 rfl rfl, Option.bind_some, lJ_at b2, ix_of (i := 0) (k := 0) rfl (by omega) (by omega), Option.bind_some, Option.bind_some]
    exact hr
  by_cases z : f 0 &&& dx_lshl 1 (Int32.ofNat k) = 0
  · exact ⟨0, Or.inl ⟨rfl, (hw k hk).mp z⟩, run 0 (if_pos ((lg_cmp_eq _ _).mpr z))⟩
  · exact ⟨1, Or.inr ⟨rfl, Classical.byContradiction fun y => z ((hw k hk).mpr y)⟩, run 1 (if_neg fun y => z ((lg_cmp_eq _ _).mp y))⟩
theorem j31_set (hd : 2 ≤ d) (b : BS h p wa 1 w) {k : Nat} (hk : k < 32) : Ok (ax_c d 108 [.ref p, .int (Int32.ofNat k)] h) (.inl none) (fun h' => BS h' p wa 1 (w ||| dx_lshl 1 (Int32.ofNat k)) ∧ Ex (fun q => q = wa) h h') := by
  obtain ⟨b1, ⟨f, b2, rfl⟩, b4, b5, b6⟩ := b
  obtain ⟨d, rfl, he⟩ := d_succ hd
  have e104 : ax_c d 104 [.ref p, .int 0] h = some (.inl none, h) := by
    obtain ⟨d2, rfl, he2⟩ := d_succ (k := 0) he
    refine dx_app m_J31_expandTo ?_
    rw [lt_at, gI_at b1 rfl rfl, Option.bind_some, if_pos (by decide)]
  refine Ok.le m_J31_set_2 ?_
  rw [if_pos (show (0 : Int32) ≤ Int32.ofNat k from (i_le (a := 0) (by omega) (by omega)).mpr (Nat.zero_le _)), j31_wi (by omega) (by omega), cI_v, vn_at b1]
  show Ok (Option.bind (some 104) _) _ _
  rw [Option.bind_some, e104, cV_v, gA_r b1 rfl rfl, Option.bind_some, lJ_at b2, ix_of (i := 0) (k := 0) rfl (by omega) (by omega), Option.bind_some, Option.bind_some, sJ_at b2 b5, ix_of (i := 0) (k := 0) rfl (by omega) (by omega), Option.bind_some, Option.bind_some, vn_at ((set_ne _ b6).trans b1)]
  show Ok (Option.bind (some 106) _) _ _
  rw [Option.bind_some, j31_ci (by omega), cV_v]
  exact Ok.ret ⟨⟨(set_ne _ b6).trans b1, ⟨_, set_eq _, rfl⟩, b4, b5, b6⟩, Ex.set rfl⟩
theorem j31_set8 (hd : 3 ≤ d) (b : BS h p wa 0 0) : Ok (ax_c d 102 [.ref p, .int 0, .int 8] h) (.inl none) (fun h' => BS h' p wa 1 (0 ||| (dx_lshl (-1) 0 &&& dx_lushr (-1) (-8))) ∧ Ex (fun q => q = p ∨ q = wa) h h') := by
  obtain ⟨b1, ⟨f, b2, hf⟩, b4, b5, b6⟩ := b
  obtain ⟨d, rfl, he⟩ := d_succ hd
  have e103 : ax_c d 103 [.int 0, .int 8] h = some (.inl none, h) := by
    obtain ⟨d2, rfl, he2⟩ := d_succ (k := 1) he
    refine dx_app m_J31_checkRange ?_
    rw [if_pos (by decide), if_pos (by decide), if_pos (by decide)]
  have e104 : ax_c d 104 [.ref p, .int 0] h = some (.inl none, ax_set h p (.inr (12, [.ref wa, .int 1, .int 1]))) := by
    obtain ⟨d2, rfl, he2⟩ := d_succ (k := 1) he
    refine dx_app m_J31_expandTo ?_
    rw [lt_at, gI_at b1 rfl rfl, Option.bind_some, if_neg (by decide), vn_at b1]
    show Option.bind (some 105) _ = _
    have e105 : ax_c d2 105 [.ref p, .int (0 + 1)] h = some (.inl none, h) := by
      obtain ⟨d3, rfl, he3⟩ := d_succ (k := 0) he2
      refine dx_app m_J31_ensureCapacity ?_
      rw [gA_r b1 rfl rfl, Option.bind_some, len_at b2, Option.bind_some, if_pos (by decide)]
    rw [Option.bind_some, e105, cV_v, pF_int b1 rfl (Nat.le_of_ble_eq_true rfl) b4, Option.bind_some]
    rfl
  have a1 : (ax_set h p (.inr (12, [.ref wa, .int 1, .int 1]))).1 p = .inr (12, [.ref wa, .int 1, .int 1]) := set_eq _
  have a2 : (ax_set h p (.inr (12, [.ref wa, .int 1, .int 1]))).1 wa = .inl (1, 1, .inr (.inl f)) := (set_ne _ (Ne.symm b6)).trans b2
  refine Ok.le m_J31_set ?_
  rw [e103, cV_v, if_pos (by decide), show (0 : Int32) = Int32.ofNat 0 from rfl, j31_wi (k := 0) (by omega) (by omega), cI_v, show (8 : Int32) - 1 = Int32.ofNat 7 from rfl, j31_wi (k := 7) (by omega) (by omega), cI_v, vn_at b1]
  show Ok (Option.bind (some 104) _) _ _
  rw [Option.bind_some, e104, cV_v, lt_at, lt_at, if_neg (by decide), gA_r a1 rfl rfl, Option.bind_some, lJ_at a2, ix_of (i := 0) (k := 0) rfl (by omega) (by omega), Option.bind_some, Option.bind_some, sJ_at a2 b5, ix_of (i := 0) (k := 0) rfl (by omega) (by omega), Option.bind_some, Option.bind_some, vn_at ((set_ne _ b6).trans a1)]
  show Ok (Option.bind (some 106) _) _ _
  rw [Option.bind_some, j31_ci (by omega), cV_v, hf]
  exact Ok.ret ⟨⟨(set_ne _ b6).trans a1, ⟨_, set_eq _, rfl⟩, b4, b5, b6⟩, rfl, fun q hq => (set_ne _ (fun z => hq (Or.inr z))).trans (set_ne _ (fun z => hq (Or.inl z)))⟩
end MJ31
