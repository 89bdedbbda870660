/-! the twin: numbers, lines of the source -/
def inI (x lo hi : Int32) : Int32 := if x < lo then 0 else if hi < x then 0 else 1
theorem t_in {d : Nat} (hd : 1 ≤ d) (h : ax_H) (x lo hi : Int32) : ax_c d 376 [.int x, .int lo, .int hi] h = some (.inl (some (.int (inI x lo hi))), h) := by
  obtain ⟨d, rfl, -⟩ := d_succ hd
  refine dx_app m_X3_in ?_
  unfold inI
  split
  · rfl
  · split <;> rfl
def opI (k n : Int32) : Int32 := if inI k 0 3 = 0 then 0 else if k = 1 then (if inI n 0 19 = 0 then 0 else 1) else (if inI n 0 65535 = 0 then 0 else 1)
theorem t_isOperand {d : Nat} (hd : 2 ≤ d) (h : ax_H) (k n : Int32) : ax_c d 381 [.int k, .int n] h = some (.inl (some (.int (opI k n))), h) := by
  obtain ⟨d, rfl, he⟩ := d_succ hd
  refine dx_app m_X3_isOperand ?_
  rw [t_in he, cI_v]
  unfold opI
  split
  · rfl
  · by_cases q : k = 1
    · rw [if_neg (fun z => z q), if_pos q]
      refine dx_app b_X3_isOperand_23 ?_
      rw [t_in he, cI_v]
      split <;> rfl
    · rw [if_pos q, if_neg q]
      refine dx_app b_X3_isOperand_23 ?_
      rw [t_in he, cI_v]
      split <;> rfl
theorem t_holds {d : Nat} (hd : 1 ≤ d) (h : ax_H) (s : Nat → Nat → Int32) (w : Int32) : ax_c d 378 [.ref 417, .int w] (tw_H h s) = some (.inl (some (.int (if w = 0 then 1 else 0))), tw_H h (tw_up s 0 0 w)) := by
  obtain ⟨d, rfl, -⟩ := d_succ hd
  refine dx_app m_X3_holds ?_
  simp only [tg_0, tp_0, tg_1, tp_1, tr_2, tl_2, ts_2, tn_2, tr_3, tl_3, ts_3, tn_3, tr_4, tl_4, ts_4, tn_4, tr_5, tl_5, ts_5, tn_5, tr_6, tl_6, ts_6, tn_6, tr_7, tl_7, ts_7, tn_7, tr_8, tl_8, ts_8, tn_8, tr_9, tl_9, ts_9, tn_9, tr_10, tl_10, ts_10, tn_10, tr_11, tl_11, ts_11, tn_11, tr_12, tl_12, ts_12, tn_12, tr_13, tl_13, ts_13, tn_13, tg_14, tp_14, tg_15, tp_15, tg_16, tp_16, tg_17, tp_17, tg_18, tp_18, tg_19, tp_19, tr_20, tl_20, ts_20, tn_20, tr_21, tl_21, ts_21, tn_21, tg_22, tp_22, tg_23, tp_23, tg_24, tp_24, tr_25, tl_25, ts_25, tn_25, tr_26, tl_26, ts_26, tn_26, tg_27, tp_27, tg_28, tp_28, tg_29, tp_29, tg_30, tp_30, tg_31, tp_31, tg_32, tp_32, tg_33, tp_33, tg_34, tp_34, tg_35, tp_35, tr_36, tl_36, ts_36, tn_36, tg_37, tp_37, tg_38, tp_38, tg_39, tp_39, tg_40, tp_40, tr_41, tl_41, ts_41, tn_41, tr_42, tl_42, ts_42, tn_42, tg_43, tp_43, tr_44, tl_44, ts_44, tn_44, tr_45, tl_45, ts_45, tn_45, tg_46, tp_46, tg_47, tp_47, tr_48, tl_48, ts_48, tn_48, tr_49, tl_49, ts_49, tn_49, tr_50, tl_50, ts_50, tn_50, tr_51, tl_51, ts_51, tn_51, tg_52, tp_52, tr_53, tl_53, ts_53, tn_53, tr_54, tl_54, ts_54, tn_54, tg_55, tp_55, tr_56, tl_56, ts_56, tn_56, tr_57, tl_57, ts_57, tn_57, tg_58, tp_58, tg_59, tp_59, tg_60, tp_60, tr_61, tl_61, ts_61, tn_61, tr_62, tl_62, ts_62, tn_62, tr_63, tl_63, ts_63, tn_63, tr_64, tl_64, ts_64, tn_64, tr_65, tl_65, ts_65, tn_65, tr_66, tl_66, ts_66, tn_66, tr_67, tl_67, ts_67, tn_67, tr_68, tl_68, ts_68, tn_68, tr_69, tl_69, ts_69, tn_69, tr_70, tl_70, ts_70, tn_70, tr_71, tl_71, ts_71, tn_71, tr_72, tl_72, ts_72, tn_72, tr_73, tl_73, ts_73, tn_73, tw_vn, tw_up_at, upd_at, ↓reduceIte, Nat.reduceEqDiff, Nat.reduceAdd, Nat.reduceMul, Nat.reduceSub, Nat.reduceLT, Option.bind_some, Option.bind_none, lt_at, nn_ref, cI_v, cV_v, cJ_v, cR_r, cR_n, cI_x, cV_x, cJ_x, cR_x, nul_ref, nul_null]
  by_cases q : w = 0 <;> simp [q]
theorem t_clear {d : Nat} (hd : 1 ≤ d) (h : ax_H) (s : Nat → Nat → Int32) : ax_c d 373 [.ref 417] (tw_H h s) = some (.inl (some (.int (s 1 0))), tw_H h (tw_up (tw_up s 0 0 0) 1 0 0)) := by
  obtain ⟨d, rfl, -⟩ := d_succ hd
  refine dx_app m_X3_clear ?_
  simp only [tg_0, tp_0, tg_1, tp_1, tr_2, tl_2, ts_2, tn_2, tr_3, tl_3, ts_3, tn_3, tr_4, tl_4, ts_4, tn_4, tr_5, tl_5, ts_5, tn_5, tr_6, tl_6, ts_6, tn_6, tr_7, tl_7, ts_7, tn_7, tr_8, tl_8, ts_8, tn_8, tr_9, tl_9, ts_9, tn_9, tr_10, tl_10, ts_10, tn_10, tr_11, tl_11, ts_11, tn_11, tr_12, tl_12, ts_12, tn_12, tr_13, tl_13, ts_13, tn_13, tg_14, tp_14, tg_15, tp_15, tg_16, tp_16, tg_17, tp_17, tg_18, tp_18, tg_19, tp_19, tr_20, tl_20, ts_20, tn_20, tr_21, tl_21, ts_21, tn_21, tg_22, tp_22, tg_23, tp_23, tg_24, tp_24, tr_25, tl_25, ts_25, tn_25, tr_26, tl_26, ts_26, tn_26, tg_27, tp_27, tg_28, tp_28, tg_29, tp_29, tg_30, tp_30, tg_31, tp_31, tg_32, tp_32, tg_33, tp_33, tg_34, tp_34, tg_35, tp_35, tr_36, tl_36, ts_36, tn_36, tg_37, tp_37, tg_38, tp_38, tg_39, tp_39, tg_40, tp_40, tr_41, tl_41, ts_41, tn_41, tr_42, tl_42, ts_42, tn_42, tg_43, tp_43, tr_44, tl_44, ts_44, tn_44, tr_45, tl_45, ts_45, tn_45, tg_46, tp_46, tg_47, tp_47, tr_48, tl_48, ts_48, tn_48, tr_49, tl_49, ts_49, tn_49, tr_50, tl_50, ts_50, tn_50, tr_51, tl_51, ts_51, tn_51, tg_52, tp_52, tr_53, tl_53, ts_53, tn_53, tr_54, tl_54, ts_54, tn_54, tg_55, tp_55, tr_56, tl_56, ts_56, tn_56, tr_57, tl_57, ts_57, tn_57, tg_58, tp_58, tg_59, tp_59, tg_60, tp_60, tr_61, tl_61, ts_61, tn_61, tr_62, tl_62, ts_62, tn_62, tr_63, tl_63, ts_63, tn_63, tr_64, tl_64, ts_64, tn_64, tr_65, tl_65, ts_65, tn_65, tr_66, tl_66, ts_66, tn_66, tr_67, tl_67, ts_67, tn_67, tr_68, tl_68, ts_68, tn_68, tr_69, tl_69, ts_69, tn_69, tr_70, tl_70, ts_70, tn_70, tr_71, tl_71, ts_71, tn_71, tr_72, tl_72, ts_72, tn_72, tr_73, tl_73, ts_73, tn_73, tw_vn, tw_up_at, upd_at, ↓reduceIte, Nat.reduceEqDiff, Nat.reduceAdd, Nat.reduceMul, Nat.reduceSub, Nat.reduceLT, Option.bind_some, Option.bind_none, lt_at, nn_ref, cI_v, cV_v, cJ_v, cR_r, cR_n, cI_x, cV_x, cJ_x, cR_x, nul_ref, nul_null]
/-- a line more: its kind and five numbers -/
def lineS (s : Nat → Nat → Int32) (n : Nat) (kind a b c d e : Int32) : Nat → Nat → Int32 := tw_up (tw_up (tw_up (tw_up (tw_up (tw_up (tw_up (tw_up s 0 0 0) 2 n kind) 3 (5 * n) a) 3 (5 * n + 1) b) 3 (5 * n + 2) c) 3 (5 * n + 3) d) 3 (5 * n + 4) e) 1 0 (Int32.ofNat (n + 1))
theorem t_adds_bad {d : Nat} (hd : 2 ≤ d) (h : ax_H) (s : Nat → Nat → Int32) (kind a b c e f : Int32) : ax_c d 377 [.ref 417, .int 0, .int kind, .int a, .int b, .int c, .int e, .int f] (tw_H h s) = some (.inl (some (.int 0)), tw_H h (tw_up s 0 0 1)) := by
  obtain ⟨d, rfl, he⟩ := d_succ hd
  refine dx_app m_X3_adds ?_
  rw [if_neg (by decide)]
  refine dx_app b_X3_adds_23 ?_
  rw [tw_vn, Option.bind_some, t_holds he, cI_v]
  rfl
theorem t_adds_full {d : Nat} (hd : 2 ≤ d) (h : ax_H) (s : Nat → Nat → Int32) (hs : s 1 0 = 100) (kind a b c e f : Int32) : ax_c d 377 [.ref 417, .int 1, .int kind, .int a, .int b, .int c, .int e, .int f] (tw_H h s) = some (.inl (some (.int 0)), tw_H h (tw_up s 0 0 2)) := by
  obtain ⟨d, rfl, he⟩ := d_succ hd
  refine dx_app m_X3_adds ?_
  rw [if_pos (by decide), tg_1, Option.bind_some, hs, if_neg (by decide)]
  refine dx_app b_X3_adds_23 ?_
  rw [tw_vn, Option.bind_some, t_holds he, cI_v]
  rfl
theorem t_adds_ok {d : Nat} (hd : 2 ≤ d) (h : ax_H) (s : Nat → Nat → Int32) {n : Nat} (hs : s 1 0 = Int32.ofNat n) (hn : n < 100) (kind a b c e f : Int32) : ax_c d 377 [.ref 417, .int 1, .int kind, .int a, .int b, .int c, .int e, .int f] (tw_H h s) = some (.inl (some (.int (Int32.ofNat (n + 1)))), tw_H h (lineS s n kind a b c e f)) := by
  obtain ⟨d, rfl, he⟩ := d_succ hd
  refine dx_app m_X3_adds ?_
  have hne : ¬ s 1 0 = 100 := by
    rw [hs]; intro z
    have := (i_eq (a := n) (b := 100) (by omega) (by omega)).mp z
    omega
  rw [if_pos (by decide), tg_1, Option.bind_some, if_pos hne]
  refine dx_app b_X3_adds_23 ?_
  rw [tw_vn, Option.bind_some, t_holds he, cI_v, if_pos rfl, if_pos (by decide)]
  have i0 : ix 100 (s 1 0) = some n := ix_of hs (by omega) (by omega)
  have i1 : ix 500 (5 * s 1 0) = some (5 * n) := ix_of (by rw [hs]; exact i_mul 5 n) (by omega) (by omega)
  have i2 : ix 500 (5 * s 1 0 + 1) = some (5 * n + 1) := ix_of (by rw [hs]; exact (congrArg (· + 1) (i_mul 5 n)).trans (i_add (5 * n) 1)) (by omega) (by omega)
  have i3 : ix 500 (5 * s 1 0 + 2) = some (5 * n + 2) := ix_of (by rw [hs]; exact (congrArg (· + 2) (i_mul 5 n)).trans (i_add (5 * n) 2)) (by omega) (by omega)
  have i4 : ix 500 (5 * s 1 0 + 3) = some (5 * n + 3) := ix_of (by rw [hs]; exact (congrArg (· + 3) (i_mul 5 n)).trans (i_add (5 * n) 3)) (by omega) (by omega)
  have i5 : ix 500 (5 * s 1 0 + 4) = some (5 * n + 4) := ix_of (by rw [hs]; exact (congrArg (· + 4) (i_mul 5 n)).trans (i_add (5 * n) 4)) (by omega) (by omega)
  have e1 : s 1 0 + 1 = Int32.ofNat (n + 1) := by rw [hs]; exact i_add n 1
  simp only [tg_0, tp_0, tg_1, tp_1, tr_2, tl_2, ts_2, tn_2, tr_3, tl_3, ts_3, tn_3, tr_4, tl_4, ts_4, tn_4, tr_5, tl_5, ts_5, tn_5, tr_6, tl_6, ts_6, tn_6, tr_7, tl_7, ts_7, tn_7, tr_8, tl_8, ts_8, tn_8, tr_9, tl_9, ts_9, tn_9, tr_10, tl_10, ts_10, tn_10, tr_11, tl_11, ts_11, tn_11, tr_12, tl_12, ts_12, tn_12, tr_13, tl_13, ts_13, tn_13, tg_14, tp_14, tg_15, tp_15, tg_16, tp_16, tg_17, tp_17, tg_18, tp_18, tg_19, tp_19, tr_20, tl_20, ts_20, tn_20, tr_21, tl_21, ts_21, tn_21, tg_22, tp_22, tg_23, tp_23, tg_24, tp_24, tr_25, tl_25, ts_25, tn_25, tr_26, tl_26, ts_26, tn_26, tg_27, tp_27, tg_28, tp_28, tg_29, tp_29, tg_30, tp_30, tg_31, tp_31, tg_32, tp_32, tg_33, tp_33, tg_34, tp_34, tg_35, tp_35, tr_36, tl_36, ts_36, tn_36, tg_37, tp_37, tg_38, tp_38, tg_39, tp_39, tg_40, tp_40, tr_41, tl_41, ts_41, tn_41, tr_42, tl_42, ts_42, tn_42, tg_43, tp_43, tr_44, tl_44, ts_44, tn_44, tr_45, tl_45, ts_45, tn_45, tg_46, tp_46, tg_47, tp_47, tr_48, tl_48, ts_48, tn_48, tr_49, tl_49, ts_49, tn_49, tr_50, tl_50, ts_50, tn_50, tr_51, tl_51, ts_51, tn_51, tg_52, tp_52, tr_53, tl_53, ts_53, tn_53, tr_54, tl_54, ts_54, tn_54, tg_55, tp_55, tr_56, tl_56, ts_56, tn_56, tr_57, tl_57, ts_57, tn_57, tg_58, tp_58, tg_59, tp_59, tg_60, tp_60, tr_61, tl_61, ts_61, tn_61, tr_62, tl_62, ts_62, tn_62, tr_63, tl_63, ts_63, tn_63, tr_64, tl_64, ts_64, tn_64, tr_65, tl_65, ts_65, tn_65, tr_66, tl_66, ts_66, tn_66, tr_67, tl_67, ts_67, tn_67, tr_68, tl_68, ts_68, tn_68, tr_69, tl_69, ts_69, tn_69, tr_70, tl_70, ts_70, tn_70, tr_71, tl_71, ts_71, tn_71, tr_72, tl_72, ts_72, tn_72, tr_73, tl_73, ts_73, tn_73, tw_vn, tw_up_at, upd_at, ↓reduceIte, Nat.reduceEqDiff, Nat.reduceAdd, Nat.reduceMul, Nat.reduceSub, Nat.reduceLT, Option.bind_some, Option.bind_none, lt_at, nn_ref, cI_v, cV_v, cJ_v, cR_r, cR_n, cI_x, cV_x, cJ_x, cR_x, nul_ref, nul_null, i0, i1, i2, i3, i4, i5, e1, lineS]
