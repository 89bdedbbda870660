/-! the twin: the disk mended by its log -/
def chkT (row : Nat → Int32) (m : Nat) : Int32 := dx_rem (sumT (fun k => row (8 + k)) (row 0 + row 1 + row 2 + row 3) (8 * m)) 65536
theorem t_checkOfLog {d : Nat} (hd : 1 ≤ d) (h : ax_H) (s : Nat → Nat → Int32) {m : Nat} (hm : s 50 0 = Int32.ofNat m) (hm3 : m ≤ 3) : ax_c d 407 [.ref 417] (tw_H h s) = some (.inl (some (.int (chkT (s 50) m))), tw_H h s) := by
  obtain ⟨d, rfl, he⟩ := d_succ hd
  have i0 : ix 256 0 = some 0 := by decide
  have i1 : ix 256 1 = some 1 := by decide
  have i2 : ix 256 2 = some 2 := by decide
  have i3 : ix 256 3 = some 3 := by decide
  refine dx_app m_X3_checkOfLog ?_
  simp only [tg_0, tp_0, tg_1, tp_1, tr_2, tl_2, ts_2, tn_2, tr_3, tl_3, ts_3, tn_3, tr_4, tl_4, ts_4, tn_4, tr_5, tl_5, ts_5, tn_5, tr_6, tl_6, ts_6, tn_6, tr_7, tl_7, ts_7, tn_7, tr_8, tl_8, ts_8, tn_8, tr_9, tl_9, ts_9, tn_9, tr_10, tl_10, ts_10, tn_10, tr_11, tl_11, ts_11, tn_11, tr_12, tl_12, ts_12, tn_12, tr_13, tl_13, ts_13, tn_13, tg_14, tp_14, tg_15, tp_15, tg_16, tp_16, tg_17, tp_17, tg_18, tp_18, tg_19, tp_19, tr_20, tl_20, ts_20, tn_20, tr_21, tl_21, ts_21, tn_21, tg_22, tp_22, tg_23, tp_23, tg_24, tp_24, tr_25, tl_25, ts_25, tn_25, tr_26, tl_26, ts_26, tn_26, tg_27, tp_27, tg_28, tp_28, tg_29, tp_29, tg_30, tp_30, tg_31, tp_31, tg_32, tp_32, tg_33, tp_33, tg_34, tp_34, tg_35, tp_35, tr_36, tl_36, ts_36, tn_36, tg_37, tp_37, tg_38, tp_38, tg_39, tp_39, tg_40, tp_40, tr_41, tl_41, ts_41, tn_41, tr_42, tl_42, ts_42, tn_42, tg_43, tp_43, tr_44, tl_44, ts_44, tn_44, tr_45, tl_45, ts_45, tn_45, tg_46, tp_46, tg_47, tp_47, tr_48, tl_48, ts_48, tn_48, tr_49, tl_49, ts_49, tn_49, tr_50, tl_50, ts_50, tn_50, tr_51, tl_51, ts_51, tn_51, tg_52, tp_52, tr_53, tl_53, ts_53, tn_53, tr_54, tl_54, ts_54, tn_54, tg_55, tp_55, tr_56, tl_56, ts_56, tn_56, tr_57, tl_57, ts_57, tn_57, tg_58, tp_58, tg_59, tp_59, tg_60, tp_60, tr_61, tl_61, ts_61, tn_61, tr_62, tl_62, ts_62, tn_62, tr_63, tl_63, ts_63, tn_63, tr_64, tl_64, ts_64, tn_64, tr_65, tl_65, ts_65, tn_65, tr_66, tl_66, ts_66, tn_66, tr_67, tl_67, ts_67, tn_67, tr_68, tl_68, ts_68, tn_68, tr_69, tl_69, ts_69, tn_69, tr_70, tl_70, ts_70, tn_70, tr_71, tl_71, ts_71, tn_71, tr_72, tl_72, ts_72, tn_72, tr_73, tl_73, ts_73, tn_73, tw_vn, tw_up_at, upd_at, ↓reduceIte, Nat.reduceEqDiff, Nat.reduceAdd, Nat.reduceMul, Nat.reduceSub, Nat.reduceLT, Option.bind_some, Option.bind_none, lt_at, nn_ref, cI_v, cV_v, cJ_v, cR_r, cR_n, cI_x, cV_x, cJ_x, cR_x, nul_ref, nul_null, i0, i1, i2, i3]
  have loop : ∀ n k : Nat, k + n = 8 * m → B_X3_checkOfLog_30 (ax_c d) 417 (sumT (fun k => s 50 (8 + k)) (s 50 0 + s 50 1 + s 50 2 + s 50 3) k) (Int32.ofNat k) (tw_H h s) = some (.inl (some (.int (chkT (s 50) m))), tw_H h s) := by
    intro n
    induction n with
    | zero =>
      intro k hk
      obtain rfl : k = 8 * m := by omega
      refine dx_app b_X3_checkOfLog_30 ?_
      rw [tr_50, Option.bind_some, tl_50, i0, Option.bind_some, Option.bind_some, hm, show (8 : Int32) * Int32.ofNat m = Int32.ofNat (8 * m) from i_mul 8 m, if_pos ((i_le (by omega) (by omega)).mpr (Nat.le_refl _))]
      unfold chkT
      rw [hm]
    | succ n ih =>
      intro k hk
      have hi : ix 256 (8 + Int32.ofNat k) = some (8 + k) := ix_of (i_add 8 k) (by omega) (by omega)
      have hc : ¬ 8 * s 50 0 ≤ Int32.ofNat k := by
        rw [hm, show (8 : Int32) * Int32.ofNat m = Int32.ofNat (8 * m) from i_mul 8 m]
        intro z
        have := (i_le (by omega) (by omega)).mp z
        omega
      refine dx_app b_X3_checkOfLog_30 ?_
      rw [tr_50, Option.bind_some, tl_50, i0, Option.bind_some, Option.bind_some, if_neg hc, Option.bind_some, tl_50, hi, Option.bind_some, Option.bind_some, lt_at, lt_at, show Int32.ofNat k + 1 = Int32.ofNat (k + 1) from i_add k 1]
      exact ih (k + 1) (by omega)
  exact loop (8 * m) 0 (by omega)
theorem t_writesHead0 {d : Nat} (hd : 1 ≤ d) (h : ax_H) (s : Nat → Nat → Int32) : ax_c d 408 [.ref 417, .int 0] (tw_H h s) = some (.inl none, tw_H h (tw_fl s 50 8 fun _ => 0)) := by
  obtain ⟨d, rfl, he⟩ := d_succ hd
  refine dx_app m_X3_writesHead ?_
  have l1 : ∀ n k : Nat, k + n = 8 → B_X3_writesHead_2 (ax_c d) 417 0 (Int32.ofNat k) (tw_H h (tw_fl s 50 k fun _ => 0)) = some (.inl none, tw_H h (tw_fl s 50 8 fun _ => 0)) := by
    intro n
    induction n with
    | zero =>
      intro k hk
      obtain rfl : k = 8 := by omega
      refine dx_app b_X3_writesHead_2 ?_
      rw [if_pos (by decide), if_neg (fun z => z rfl)]
    | succ n ih =>
      intro k hk
      have hi : ix 256 (Int32.ofNat k) = some k := ix_of rfl (by omega) (by omega)
      refine dx_app b_X3_writesHead_2 ?_
      rw [if_neg (nge8 (show k < 8 by omega)), tr_50, Option.bind_some, ts_50, hi, Option.bind_some, Option.bind_some, lt_at, show Int32.ofNat k + 1 = Int32.ofNat (k + 1) from i_add k 1]
      have := ih (k + 1) (by omega)
      rw [← fl_up] at this
      exact this
  have := l1 8 0 rfl
  rw [fl_zero] at this
  exact this
/-- the log's blocks written home, word by word -/
def mndS (s : Nat → Nat → Int32) : Nat → Nat → Nat → Int32
  | 0 => s
  | k + 1 => tw_up (mndS s k) 50 (8 * (s 50 (1 + k / 8)).toNatClampNeg + k % 8) (s 50 (8 + k))
theorem mndS_ne (s : Nat → Nat → Int32) {f : Nat} (hf : f ≠ 50) : ∀ k, mndS s k f = s f := by
  intro k
  induction k with
  | zero => rfl
  | succ k ih => unfold mndS; rw [tw_up_at, if_neg hf]; exact ih
theorem mndS_lo (s : Nat → Nat → Int32) {m : Nat} (hb : ∀ j, j < m → ∃ b, 4 ≤ b ∧ b < 32 ∧ s 50 (1 + j) = Int32.ofNat b) : ∀ k, k ≤ 8 * m → ∀ i, i < 32 → mndS s k 50 i = s 50 i := by
  intro k
  induction k with
  | zero => intro _ i _; rfl
  | succ k ih =>
    intro hk i hi
    obtain ⟨b, b1, b2, b3⟩ := hb (k / 8) (by omega)
    unfold mndS
    rw [tw_up_at, if_pos rfl, upd_at, b3, i_nat (by omega), if_neg (by omega)]
    exact ih (by omega) i hi
theorem i_div8 : ∀ k, k < 24 → Int32.ofNat k / 8 = Int32.ofNat (k / 8) := by decide
theorem i_rem8 : ∀ k, k < 24 → dx_rem (Int32.ofNat k) 8 = Int32.ofNat (k % 8) := by decide
def mendS (s : Nat → Nat → Int32) (m : Nat) : Nat → Nat → Int32 := tw_up (tw_fl (mndS s (8 * m)) 50 8 fun _ => 0) 52 0 (s 52 0 + Int32.ofNat (1 + m))
/-- a whole log, or none -/
theorem t_mends {d : Nat} (hd : 2 ≤ d) (h : ax_H) (s : Nat → Nat → Int32) {m : Nat} (hm : s 50 0 = Int32.ofNat m) (hm3 : m ≤ 3) (hc : m ≠ 0 → chkT (s 50) m = s 50 4) (hb : ∀ j, j < m → ∃ b, 4 ≤ b ∧ b < 32 ∧ s 50 (1 + j) = Int32.ofNat b) : ax_c d 406 [.ref 417] (tw_H h s) = some (.inl (some (.int (if m = 0 then 0 else Int32.ofNat (1 + m)))), tw_H h (if m = 0 then s else mendS s m)) := by
  obtain ⟨d, rfl, he⟩ := d_succ hd
  have i0 : ix 256 0 = some 0 := by decide
  have i4 : ix 256 4 = some 4 := by decide
  have h99 : ∀ t : Nat → Nat → Int32, B_X3_mends_99 (ax_c d) 417 (Int32.ofNat (1 + m)) (tw_H h t) = some (.inl (some (.int (Int32.ofNat (1 + m)))), tw_H h (tw_up (tw_fl t 50 8 fun _ => 0) 52 0 (t 52 0 + Int32.ofNat (1 + m)))) := by
    intro t
    refine dx_app b_X3_mends_99 ?_
    rw [tw_vn, Option.bind_some, t_writesHead0 he h t, cV_v, tg_52, Option.bind_some, tp_52, Option.bind_some, fl_ne (by decide)]
  have loop : ∀ n k : Nat, k + n = 8 * m → B_X3_mends_47 (ax_c d) 417 (Int32.ofNat (1 + m)) (Int32.ofNat k) (tw_H h (mndS s k)) = some (.inl (some (.int (Int32.ofNat (1 + m)))), tw_H h (mendS s m)) := by
    intro n
    induction n with
    | zero =>
      intro k hk
      obtain rfl : k = 8 * m := by omega
      refine dx_app b_X3_mends_47 ?_
      rw [tr_50, Option.bind_some, tl_50, i0, Option.bind_some, Option.bind_some, mndS_lo s hb (8 * m) (Nat.le_refl _) 0 (by omega), hm, show (8 : Int32) * Int32.ofNat m = Int32.ofNat (8 * m) from i_mul 8 m, if_pos ((i_le (by omega) (by omega)).mpr (Nat.le_refl _)), h99]
      unfold mendS
      rw [mndS_ne s (f := 52) (by decide)]
    | succ n ih =>
      intro k hk
      obtain ⟨b, b1, b2, b3⟩ := hb (k / 8) (by omega)
      have e1 : ix 256 (1 + Int32.ofNat k / 8) = some (1 + k / 8) := ix_of (by rw [i_div8 k (by omega)]; exact i_add 1 (k / 8)) (by omega) (by omega)
      have e2 : ix 256 (8 + Int32.ofNat k) = some (8 + k) := ix_of (i_add 8 k) (by omega) (by omega)
      have e3 : ix 256 (8 * s 50 (1 + k / 8) + dx_rem (Int32.ofNat k) 8) = some (8 * (s 50 (1 + k / 8)).toNatClampNeg + k % 8) := ix_of (by rw [i_rem8 k (by omega), b3, i_nat (by omega), show (8 : Int32) * Int32.ofNat b = Int32.ofNat (8 * b) from i_mul 8 b, i_add]) (by rw [b3, i_nat (by omega)]; omega) (by omega)
      have hcc : ¬ 8 * s 50 0 ≤ Int32.ofNat k := by
        rw [hm, show (8 : Int32) * Int32.ofNat m = Int32.ofNat (8 * m) from i_mul 8 m]
        intro z
        have := (i_le (by omega) (by omega)).mp z
        omega
      refine dx_app b_X3_mends_47 ?_
      have lo := mndS_lo s hb k (by omega)
      rw [tr_50, Option.bind_some, tl_50, i0, Option.bind_some, Option.bind_some, lo 0 (by omega), if_neg hcc, Option.bind_some, Option.bind_some, tl_50, e1, Option.bind_some, Option.bind_some, Option.bind_some, tl_50, e2, Option.bind_some, Option.bind_some, lo (1 + k / 8) (by omega), lo (8 + k) (by omega), ts_50, e3, Option.bind_some, Option.bind_some, lt_at, show Int32.ofNat k + 1 = Int32.ofNat (k + 1) from i_add k 1]
      exact ih (k + 1) (by omega)
  refine dx_app m_X3_mends ?_
  rw [tr_50, Option.bind_some, tl_50, i0, Option.bind_some, Option.bind_some, hm]
  by_cases q : m = 0
  · rw [if_neg (fun z => z (by rw [q]; rfl)), if_pos q, if_pos q]
  · have q' : ¬ Int32.ofNat m = 0 := fun z => q ((i_eq (b := 0) (by omega) (by omega)).mp z)
    have q3 : ¬ (3 : Int32) < Int32.ofNat m := fun z => by
      have := (i_lt (a := 3) (by omega) (by omega)).mp z
      omega
    rw [if_pos q', if_neg q, if_neg q, Option.bind_some, tl_50, i0, Option.bind_some, Option.bind_some, hm, if_neg q3, tw_vn, Option.bind_some, t_checkOfLog he h s hm hm3, cI_v]
    simp only [tg_0, tp_0, tg_1, tp_1, tr_2, tl_2, ts_2, tn_2, tr_3, tl_3, ts_3, tn_3, tr_4, tl_4, ts_4, tn_4, tr_5, tl_5, ts_5, tn_5, tr_6, tl_6, ts_6, tn_6, tr_7, tl_7, ts_7, tn_7, tr_8, tl_8, ts_8, tn_8, tr_9, tl_9, ts_9, tn_9, tr_10, tl_10, ts_10, tn_10, tr_11, tl_11, ts_11, tn_11, tr_12, tl_12, ts_12, tn_12, tr_13, tl_13, ts_13, tn_13, tg_14, tp_14, tg_15, tp_15, tg_16, tp_16, tg_17, tp_17, tg_18, tp_18, tg_19, tp_19, tr_20, tl_20, ts_20, tn_20, tr_21, tl_21, ts_21, tn_21, tg_22, tp_22, tg_23, tp_23, tg_24, tp_24, tr_25, tl_25, ts_25, tn_25, tr_26, tl_26, ts_26, tn_26, tg_27, tp_27, tg_28, tp_28, tg_29, tp_29, tg_30, tp_30, tg_31, tp_31, tg_32, tp_32, tg_33, tp_33, tg_34, tp_34, tg_35, tp_35, tr_36, tl_36, ts_36, tn_36, tg_37, tp_37, tg_38, tp_38, tg_39, tp_39, tg_40, tp_40, tr_41, tl_41, ts_41, tn_41, tr_42, tl_42, ts_42, tn_42, tg_43, tp_43, tr_44, tl_44, ts_44, tn_44, tr_45, tl_45, ts_45, tn_45, tg_46, tp_46, tg_47, tp_47, tr_48, tl_48, ts_48, tn_48, tr_49, tl_49, ts_49, tn_49, tr_50, tl_50, ts_50, tn_50, tr_51, tl_51, ts_51, tn_51, tg_52, tp_52, tr_53, tl_53, ts_53, tn_53, tr_54, tl_54, ts_54, tn_54, tg_55, tp_55, tr_56, tl_56, ts_56, tn_56, tr_57, tl_57, ts_57, tn_57, tg_58, tp_58, tg_59, tp_59, tg_60, tp_60, tr_61, tl_61, ts_61, tn_61, tr_62, tl_62, ts_62, tn_62, tr_63, tl_63, ts_63, tn_63, tr_64, tl_64, ts_64, tn_64, tr_65, tl_65, ts_65, tn_65, tr_66, tl_66, ts_66, tn_66, tr_67, tl_67, ts_67, tn_67, tr_68, tl_68, ts_68, tn_68, tr_69, tl_69, ts_69, tn_69, tr_70, tl_70, ts_70, tn_70, tr_71, tl_71, ts_71, tn_71, tr_72, tl_72, ts_72, tn_72, tr_73, tl_73, ts_73, tn_73, tw_vn, tw_up_at, upd_at, ↓reduceIte, Nat.reduceEqDiff, Nat.reduceAdd, Nat.reduceMul, Nat.reduceSub, Nat.reduceLT, Option.bind_some, Option.bind_none, lt_at, nn_ref, cI_v, cV_v, cJ_v, cR_r, cR_n, cI_x, cV_x, cJ_x, cR_x, nul_ref, nul_null, i0, i4, hc q, hm, not_true_eq_false]
    rw [show (1 : Int32) + Int32.ofNat m = Int32.ofNat (1 + m) from i_add 1 m]
    exact loop (8 * m) 0 (by omega)
