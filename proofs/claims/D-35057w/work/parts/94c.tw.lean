/-! the twin: is the disk whole, the loop -/
/- with bo.and bo.iff OkB.le t_entry t_find t_in tl_50 t_isEntrySo -/
theorem wM_iff {D : Nat → Int32} : ∀ m, wM D m ↔ wE D 6 ∧ ∀ b, b < m → (usedF D b = 1 ↔ sbP D 6 b)
  | 0 => ⟨fun z => ⟨z, fun b hb => absurd hb (Nat.not_lt_zero b)⟩, fun z => z.1⟩
  | m + 1 => by
    show (wM D m ∧ _) ↔ _
    rw [wM_iff m]
    constructor
    · rintro ⟨⟨z1, z2⟩, z3⟩
      refine ⟨z1, fun b hb => ?_⟩
      by_cases e : b = m
      · rw [e]; exact z3
      · exact z2 b (by omega)
    · rintro ⟨z1, z2⟩
      exact ⟨⟨z1, fun b hb => z2 b (by omega)⟩, z2 m (by omega)⟩
theorem wE_le {D : Nat → Int32} {f : Nat} : ∀ k, wE D (f + k) → wE D f
  | 0, h => h
  | k + 1, h => wE_le k h.1.1.1
theorem no_wM {D : Nat → Int32} {f : Nat} (hf : f ≤ 6) (h : ¬ wE D f) : ¬ wM D 32 := fun z => h (wE_le (6 - f) (by rw [show f + (6 - f) = 6 by omega]; exact ((wM_iff 32).mp z).1))
def MK (v : Int32) (S : Nat → Prop) : Prop := ∀ k, k < 32 → (bt v k = true ↔ S k)
section MTV
variable {d : Nat} {h : ax_H} {s : Nat → Nat → Int32}
theorem t_isWholeNow (hd : 4 ≤ d) (C : ∀ p, p < 256 → rg 65535 (s 50 p)) : OkB (ax_c d 481 [.ref 417] (tw_H h s)) (wM (s 50) 32) (fun h' => h' = tw_H h s) := by
  obtain ⟨d, rfl, he⟩ := d_succ hd
  have no : ∀ {A : Prop}, ¬ A → OkB (some (.inl (some (.int 0)), tw_H h s)) A (fun h' => h' = tw_H h s) := fun hA => ⟨0, bo.no hA, Ok.ret rfl⟩
  have yes : ∀ {A : Prop}, A → OkB (some (.inl (some (.int 1)), tw_H h s)) A (fun h' => h' = tw_H h s) := fun hA => ⟨1, bo.yes hA, Ok.ret rfl⟩
  have end0 : ∀ v1, ¬ wM (s 50) 32 → OkB (B_X3_isWholeNow_112 (ax_c d) 417 v1 0 (tw_H h s)) (wM (s 50) 32) (fun h' => h' = tw_H h s) := by
    intro v1 w
    refine OkB.le b_X3_isWholeNow_112 ?_
    rw [if_pos rfl]
    exact no w
  have stop : ∀ v1 f, f ≤ 6 → ¬ wM (s 50) 32 → OkB (B_X3_isWholeNow_21 (ax_c d) 417 v1 0 (Int32.ofNat f) (tw_H h s)) (wM (s 50) 32) (fun h' => h' = tw_H h s) := by
    intro v1 f hf w
    refine OkB.le b_X3_isWholeNow_21 ?_
    by_cases e : (6 : Int32) ≤ Int32.ofNat f
    · rw [if_pos e]; exact end0 v1 w
    · rw [if_neg e, if_pos rfl]; exact end0 v1 w
  -- a block
  have blk : ∀ (f j : Nat) (S : Nat → Prop) (v1 : Int32), f < 6 → j < 2 → MK v1 S → (s 50 (40 + 4 * f + (2 + j)) = 0 ∨ nn (s 50 (40 + 4 * f + (2 + j))) < 32) → S 0 → (tbP (s 50) S f j → ∀ v1', MK v1' (sbM (s 50) S f j) → OkB (B_X3_isWholeNow_40 (ax_c d) 417 v1' 1 (Int32.ofNat f) (Int32.ofNat (2 + (j + 1))) (tw_H h s)) (wM (s 50) 32) (fun h' => h' = tw_H h s)) → (¬ tbP (s 50) S f j → ¬ wM (s 50) 32) → OkB (B_X3_isWholeNow_40 (ax_c d) 417 v1 1 (Int32.ofNat f) (Int32.ofNat (2 + j)) (tw_H h s)) (wM (s 50) 32) (fun h' => h' = tw_H h s) := by
    intro f j S v1 hf hj hm hx S0 nxt non
    refine OkB.le b_X3_isWholeNow_40 ?_
    have x2 := (rg.nat (C (40 + 4 * f + (2 + j)) (by omega))).2
    rw [if_neg (show ¬ (4 : Int32) ≤ Int32.ofNat (2 + j) from i_ge_not (n := 4) (by omega) (by omega)), if_neg (by decide), tr_50, Option.bind_some, t_entry (by omega), cI_v, i_entry, i_add, tl_50, ix_of (k := 40 + 4 * f + (2 + j)) rfl (by omega) (by omega), Option.bind_some, Option.bind_some]
    by_cases x0 : s 50 (40 + 4 * f + (2 + j)) = 0
    · rw [if_pos x0]
      refine OkB.le b_X3_isWholeNow_83 ?_
      rw [if_neg (fun w => w x0), lt_at, lt_at, show Int32.ofNat (2 + j) + 1 = Int32.ofNat (2 + (j + 1)) from i_add (2 + j) 1]
      refine nxt (fun w => absurd x0 w) _ fun k hk => ?_
      rw [Int32.or_zero, hm k hk]
      refine ⟨Or.inl, fun w => w.elim id fun w => ?_⟩
      rw [x0] at w
      have : k = 0 := ((i_eq (a := 0) (by omega) (by omega)).mp w).symm
      rw [this]
      exact S0
    · rw [if_neg x0]
      generalize hxx : nn (s 50 (40 + 4 * f + (2 + j))) = x at hx x2
      have hx : x < 32 := hx.resolve_left x0
      have tb : tbP (s 50) S f j ↔ ¬ S x := by
        unfold tbP
        rw [hxx]
        exact ⟨fun w => w x0, fun w _ => w⟩
      by_cases Sx : S x
      · rw [if_pos (show ¬ (dx_shr v1 (s 50 (40 + 4 * f + (2 + j))) &&& 1) = 0 from fun w => by
          rw [x2] at w
          have := (bt_sh hx).1.mp w
          rw [(hm x hx).mpr Sx] at this
          cases this)]
        refine OkB.le b_X3_isWholeNow_83 ?_
        rw [if_pos x0, lt_at, lt_at, show Int32.ofNat (2 + j) + 1 = Int32.ofNat (2 + (j + 1)) from i_add (2 + j) 1]
        refine OkB.le b_X3_isWholeNow_40 ?_
        have nw := non fun w => tb.mp w Sx
        by_cases e : (4 : Int32) ≤ Int32.ofNat (2 + (j + 1))
        · rw [if_pos e, lt_at, show Int32.ofNat f + 1 = Int32.ofNat (f + 1) from i_add f 1]
          exact stop _ _ (by omega) nw
        · rw [if_neg e, if_pos rfl, lt_at, show Int32.ofNat f + 1 = Int32.ofNat (f + 1) from i_add f 1]
          exact stop _ _ (by omega) nw
      · rw [if_neg (show ¬ ¬ (dx_shr v1 (s 50 (40 + 4 * f + (2 + j))) &&& 1) = 0 from fun w => w (by
          rw [x2, (bt_sh hx).1]
          cases q : bt v1 x
          · rfl
          · exact absurd ((hm x hx).mp q) Sx))]
        refine OkB.le b_X3_isWholeNow_83 ?_
        rw [if_pos x0, lt_at, lt_at, show Int32.ofNat (2 + j) + 1 = Int32.ofNat (2 + (j + 1)) from i_add (2 + j) 1]
        refine nxt (tb.mpr Sx) _ fun k hk => ?_
        unfold sbM
        rw [x2, bt_or, bt_shl1 x hx k hk, Bool.or_eq_true, decide_eq_true_eq, hm k hk]
        exact or_congr Iff.rfl ⟨fun w => by rw [w], fun w => ((i_eq (by omega) (by omega)).mp w).symm⟩
  have S00 : ∀ f, sbP (s 50) f 0 := by
    intro f
    induction f with
    | zero => exact (by show 0 < 8; omega)
    | succ f ih => exact Or.inl (Or.inl ih)
  have files : ∀ r f : Nat, f + r = 6 → ∀ v1 : Int32, MK v1 (sbP (s 50) f) → wE (s 50) f → OkB (B_X3_isWholeNow_21 (ax_c d) 417 v1 1 (Int32.ofNat f) (tw_H h s)) (wM (s 50) 32) (fun h' => h' = tw_H h s) := by
    intro r
    induction r with
    | zero =>
      intro f hf v1 hm w
      obtain rfl : f = 6 := by omega
      refine OkB.le b_X3_isWholeNow_21 ?_
      rw [if_pos (by decide)]
      refine OkB.le b_X3_isWholeNow_112 ?_
      obtain ⟨m1, m2⟩ := rg.nat (C 32 (by omega))
      obtain ⟨n1, n2⟩ := rg.nat (C 33 (by omega))
      have key : (s 50 32 = v1 &&& 65535 ∧ s 50 33 = dx_ushr v1 16) ↔ wM (s 50) 32 := by
        rw [bt_words m2 n2 (by omega) (by omega), wM_iff]
        constructor
        · intro e
          refine ⟨w, fun b hb => ?_⟩
          rw [bt_used hb]
          by_cases b16 : b < 16
          · rw [show b / 16 = 0 by omega, show b % 16 = b by omega, (e b b16).1]
            exact hm b hb
          · rw [show b / 16 = 1 by omega, show b % 16 = b - 16 by omega, (e (b - 16) (by omega)).2, show 16 + (b - 16) = b by omega]
            exact hm b hb
        · rintro ⟨-, e⟩ k hk
          have e1 := e k (by omega)
          have e2 := e (16 + k) (by omega)
          rw [bt_used (by omega), show k / 16 = 0 by omega, show k % 16 = k by omega, ← hm k (by omega)] at e1
          rw [bt_used (by omega), show (16 + k) / 16 = 1 by omega, show (16 + k) % 16 = k by omega, ← hm _ (by omega)] at e2
          exact ⟨Bool.eq_iff_iff.mpr e1, Bool.eq_iff_iff.mpr e2⟩
      rw [if_neg (by decide), tr_50, Option.bind_some, tl_50, ix_of (i := 32) (k := 32) rfl (by omega) (by omega), Option.bind_some, Option.bind_some]
      by_cases e1 : s 50 32 = v1 &&& 65535
      · rw [if_neg (fun z => z e1), Option.bind_some, tl_50, ix_of (i := 33) (k := 33) rfl (by omega) (by omega), Option.bind_some, Option.bind_some]
        by_cases e2 : s 50 33 = dx_ushr v1 16
        · rw [if_neg (fun z => z e2)]
          exact yes (key.mp ⟨e1, e2⟩)
        · rw [if_pos e2]
          exact no fun z => e2 (key.mpr z).2
      · rw [if_pos e1]
        exact no fun z => e1 (key.mpr z).1
    | succ r ih =>
      intro f hf v1 hm w
      have f6 : f < 6 := by omega
      refine OkB.le b_X3_isWholeNow_21 ?_
      obtain ⟨x, hx, h', ex, rfl⟩ := t_isEntrySo (d := d) (h := h) (s := s) (by omega) f6
      have st : wE (s 50) (f + 1) ↔ wE (s 50) f ∧ enP (s 50) f ∧ tbP (s 50) (sbP (s 50) f) f 0 ∧ tbP (s 50) (sbM (s 50) (sbP (s 50) f) f 0) f 1 := by
        rw [← en_iff f6 C]
        exact ⟨fun z => ⟨z.1.1.1, ⟨z.1.1.2, z.1.2⟩, z.2⟩, fun z => ⟨⟨⟨z.1, z.2.1.1⟩, z.2.1.2⟩, z.2.2⟩⟩
      rw [if_neg (show ¬ (6 : Int32) ≤ Int32.ofNat f from i_ge_not (n := 6) f6 (by omega)), if_neg (by decide), tw_vn, Option.bind_some, ex, cI_v]
      rcases hx with ⟨rfl, hx⟩ | ⟨rfl, hx⟩
      · have sm : ∀ j, j < 2 → (s 50 (40 + 4 * f + (2 + j)) = 0 ∨ nn (s 50 (40 + 4 * f + (2 + j))) < 32) := by
          have inn : ∀ p, p < 256 → (s 50 p = 0 ∨ inI (s 50 p) 8 31 ≠ 0) → (s 50 p = 0 ∨ nn (s 50 p) < 32) := fun p hp z => z.imp id fun z => by
            obtain ⟨p1, p2⟩ := rg.nat (C p hp)
            rw [p2] at z
            have := (inI_nat p1).mp z
            omega
          intro j hj
          by_cases n0 : s 50 (40 + 4 * f) = 0
          · have := hx.1 n0
            obtain rfl | rfl : j = 0 ∨ j = 1 := by omega
            · exact Or.inl this.2.1
            · exact Or.inl this.2.2
          · have := hx.2 n0
            obtain rfl | rfl : j = 0 ∨ j = 1 := by omega
            · exact inn _ (by omega) this.2.2.2.1
            · exact inn _ (by omega) this.2.2.2.2.1
        refine blk f 0 (sbP (s 50) f) v1 f6 (by omega) hm (sm 0 (by omega)) (S00 f) (fun t0 v2 hm2 => blk f 1 (sbM (s 50) (sbP (s 50) f) f 0) v2 f6 (by omega) hm2 (sm 1 (by omega)) (Or.inl (S00 f)) (fun t1 v3 hm3 => ?_) fun z => no_wM (f := f + 1) (by omega) fun y => z (st.mp y).2.2.2) fun z => no_wM (f := f + 1) (by omega) fun y => z (st.mp y).2.2.1
        refine OkB.le b_X3_isWholeNow_40 ?_
        rw [if_pos (by decide), lt_at, show Int32.ofNat f + 1 = Int32.ofNat (f + 1) from i_add f 1]
        exact ih (f + 1) (by omega) v3 hm3 (st.mpr ⟨w, hx, t0, t1⟩)
      · refine OkB.le b_X3_isWholeNow_40 ?_
        rw [if_neg (by decide), if_pos rfl, lt_at, show Int32.ofNat f + 1 = Int32.ofNat (f + 1) from i_add f 1]
        exact stop _ _ (by omega) (no_wM (f := f + 1) (by omega) fun y => hx (st.mp y).2.1)
  refine OkB.le m_X3_isWholeNow ?_
  rw [tr_50, Option.bind_some, tl_50, ix_of (i := 0) (k := 0) rfl (by omega) (by omega), Option.bind_some, Option.bind_some]
  by_cases z : s 50 0 = 0
  · rw [if_neg (fun w => w z)]
    exact files 6 0 rfl 255 (fun k hk => by rw [bt_255 k hk, decide_eq_true_eq]; exact Iff.rfl) z
  · rw [if_pos z]
    exact stop 255 0 (by omega) (no_wM (f := 0) (by omega) z)
theorem t_isWhole (hd : 5 ≤ d) (C : ∀ p, p < 256 → rg 65535 (s 50 p)) : OkB (ax_c d 480 [.ref 417] (tw_H h s)) (wM (s 50) 32) (fun h' => h' = tw_H h (tw_up s 0 0 0)) := by
  obtain ⟨d, rfl, he⟩ := d_succ hd
  refine OkB.le m_X3_isWhole ?_
  rw [tp_0, Option.bind_some, tw_vn, Option.bind_some]
  obtain ⟨r, hr, h', er, rfl⟩ := t_isWholeNow (d := d) (h := h) (s := tw_up s 0 0 0) (by omega) C
  rw [er, cI_v, if_pos (hr.elim (fun z => Or.inr z.1) (fun z => Or.inl z.1))]
  exact ⟨r, hr, Ok.ret rfl⟩
end MTV
