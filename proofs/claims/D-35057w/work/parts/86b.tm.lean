/-! the twin's machine: words of memory, the stack, faults -/
def kw (s : Nat → Nat → Int32) (a : Int32) : Nat → Nat → Int32 := if s 38 0 < 1000 then tw_up (tw_up s 45 (s 38 0).toNatClampNeg (if s 44 (s 38 0).toNatClampNeg = -1 then -1 else a)) 44 (s 38 0).toNatClampNeg (if s 44 (s 38 0).toNatClampNeg = -1 then a else s 44 (s 38 0).toNatClampNeg) else s
theorem ix_mk {n : Nat} {i : Int32} (h0 : 0 ≤ i) (h1 : i.toNatClampNeg < n) : ix n i = some i.toNatClampNeg := by
  unfold ix
  rw [if_neg]
  intro z
  rcases z with z | z
  · exact Int32.not_lt.mpr h0 z
  · omega
theorem nat_lt {i : Int32} {k : Nat} (hk : k < 2 ^ 31) (h : i < Int32.ofNat k) : i.toNatClampNeg < k ∨ i < 0 := by
  rw [Int32.lt_iff_toInt_lt, i_toInt hk] at h
  by_cases q : i < 0
  · exact Or.inr q
  · refine Or.inl ?_
    have : i.toNatClampNeg = i.toInt.toNat := rfl
    rw [Int32.lt_iff_toInt_lt] at q
    have h0 : (0 : Int32).toInt = 0 := rfl
    omega
theorem t_keepsWrite {d : Nat} (hd : 1 ≤ d) (h : ax_H) (s : Nat → Nat → Int32) (hs : 0 ≤ s 38 0) (a : Int32) : ax_c d 425 [.ref 417, .int a] (tw_H h s) = some (.inl none, tw_H h (kw s a)) := by
  obtain ⟨d, rfl, -⟩ := d_succ hd
  refine dx_app m_X3_keepsWrite ?_
  rw [tg_38, Option.bind_some]
  unfold kw
  by_cases q : s 38 0 < 1000
  · have hi : ix 1000 (s 38 0) = some (s 38 0).toNatClampNeg := ix_mk hs (by
      rcases nat_lt (k := 1000) (by decide) q with z | z
      · exact z
      · exact absurd hs (Int32.not_le.mpr z))
    rw [if_neg (Int32.not_le.mpr q), if_pos q]
    by_cases q2 : s 44 (s 38 0).toNatClampNeg = -1
    · simp only [tg_0, tp_0, tg_1, tp_1, tr_2, tl_2, ts_2, tn_2, tr_3, tl_3, ts_3, tn_3, tr_4, tl_4, ts_4, tn_4, tr_5, tl_5, ts_5, tn_5, tr_6, tl_6, ts_6, tn_6, tr_7, tl_7, ts_7, tn_7, tr_8, tl_8, ts_8, tn_8, tr_9, tl_9, ts_9, tn_9, tr_10, tl_10, ts_10, tn_10, tr_11, tl_11, ts_11, tn_11, tr_12, tl_12, ts_12, tn_12, tr_13, tl_13, ts_13, tn_13, tg_14, tp_14, tg_15, tp_15, tg_16, tp_16, tg_17, tp_17, tg_18, tp_18, tg_19, tp_19, tr_20, tl_20, ts_20, tn_20, tr_21, tl_21, ts_21, tn_21, tg_22, tp_22, tg_23, tp_23, tg_24, tp_24, tr_25, tl_25, ts_25, tn_25, tr_26, tl_26, ts_26, tn_26, tg_27, tp_27, tg_28, tp_28, tg_29, tp_29, tg_30, tp_30, tg_31, tp_31, tg_32, tp_32, tg_33, tp_33, tg_34, tp_34, tg_35, tp_35, tr_36, tl_36, ts_36, tn_36, tg_37, tp_37, tg_38, tp_38, tg_39, tp_39, tg_40, tp_40, tr_41, tl_41, ts_41, tn_41, tr_42, tl_42, ts_42, tn_42, tg_43, tp_43, tr_44, tl_44, ts_44, tn_44, tr_45, tl_45, ts_45, tn_45, tg_46, tp_46, tg_47, tp_47, tr_48, tl_48, ts_48, tn_48, tr_49, tl_49, ts_49, tn_49, tr_50, tl_50, ts_50, tn_50, tr_51, tl_51, ts_51, tn_51, tg_52, tp_52, tr_53, tl_53, ts_53, tn_53, tr_54, tl_54, ts_54, tn_54, tg_55, tp_55, tr_56, tl_56, ts_56, tn_56, tr_57, tl_57, ts_57, tn_57, tg_58, tp_58, tg_59, tp_59, tg_60, tp_60, tr_61, tl_61, ts_61, tn_61, tr_62, tl_62, ts_62, tn_62, tr_63, tl_63, ts_63, tn_63, tr_64, tl_64, ts_64, tn_64, tr_65, tl_65, ts_65, tn_65, tr_66, tl_66, ts_66, tn_66, tr_67, tl_67, ts_67, tn_67, tr_68, tl_68, ts_68, tn_68, tr_69, tl_69, ts_69, tn_69, tr_70, tl_70, ts_70, tn_70, tr_71, tl_71, ts_71, tn_71, tr_72, tl_72, ts_72, tn_72, tr_73, tl_73, ts_73, tn_73, tw_vn, tw_up_at, upd_at, ↓reduceIte, Nat.reduceEqDiff, Nat.reduceAdd, Nat.reduceMul, Nat.reduceSub, Nat.reduceLT, Option.bind_some, Option.bind_none, lt_at, nn_ref, cI_v, cV_v, cJ_v, cR_r, cR_n, cI_x, cV_x, cJ_x, cR_x, nul_ref, nul_null, hi, q2]
      rw [if_neg (by decide)]
      refine dx_app (b_X3_keepsWrite_36 rfl) ?_
      simp only [tg_0, tp_0, tg_1, tp_1, tr_2, tl_2, ts_2, tn_2, tr_3, tl_3, ts_3, tn_3, tr_4, tl_4, ts_4, tn_4, tr_5, tl_5, ts_5, tn_5, tr_6, tl_6, ts_6, tn_6, tr_7, tl_7, ts_7, tn_7, tr_8, tl_8, ts_8, tn_8, tr_9, tl_9, ts_9, tn_9, tr_10, tl_10, ts_10, tn_10, tr_11, tl_11, ts_11, tn_11, tr_12, tl_12, ts_12, tn_12, tr_13, tl_13, ts_13, tn_13, tg_14, tp_14, tg_15, tp_15, tg_16, tp_16, tg_17, tp_17, tg_18, tp_18, tg_19, tp_19, tr_20, tl_20, ts_20, tn_20, tr_21, tl_21, ts_21, tn_21, tg_22, tp_22, tg_23, tp_23, tg_24, tp_24, tr_25, tl_25, ts_25, tn_25, tr_26, tl_26, ts_26, tn_26, tg_27, tp_27, tg_28, tp_28, tg_29, tp_29, tg_30, tp_30, tg_31, tp_31, tg_32, tp_32, tg_33, tp_33, tg_34, tp_34, tg_35, tp_35, tr_36, tl_36, ts_36, tn_36, tg_37, tp_37, tg_38, tp_38, tg_39, tp_39, tg_40, tp_40, tr_41, tl_41, ts_41, tn_41, tr_42, tl_42, ts_42, tn_42, tg_43, tp_43, tr_44, tl_44, ts_44, tn_44, tr_45, tl_45, ts_45, tn_45, tg_46, tp_46, tg_47, tp_47, tr_48, tl_48, ts_48, tn_48, tr_49, tl_49, ts_49, tn_49, tr_50, tl_50, ts_50, tn_50, tr_51, tl_51, ts_51, tn_51, tg_52, tp_52, tr_53, tl_53, ts_53, tn_53, tr_54, tl_54, ts_54, tn_54, tg_55, tp_55, tr_56, tl_56, ts_56, tn_56, tr_57, tl_57, ts_57, tn_57, tg_58, tp_58, tg_59, tp_59, tg_60, tp_60, tr_61, tl_61, ts_61, tn_61, tr_62, tl_62, ts_62, tn_62, tr_63, tl_63, ts_63, tn_63, tr_64, tl_64, ts_64, tn_64, tr_65, tl_65, ts_65, tn_65, tr_66, tl_66, ts_66, tn_66, tr_67, tl_67, ts_67, tn_67, tr_68, tl_68, ts_68, tn_68, tr_69, tl_69, ts_69, tn_69, tr_70, tl_70, ts_70, tn_70, tr_71, tl_71, ts_71, tn_71, tr_72, tl_72, ts_72, tn_72, tr_73, tl_73, ts_73, tn_73, tw_vn, tw_up_at, upd_at, ↓reduceIte, Nat.reduceEqDiff, Nat.reduceAdd, Nat.reduceMul, Nat.reduceSub, Nat.reduceLT, Option.bind_some, Option.bind_none, lt_at, nn_ref, cI_v, cV_v, cJ_v, cR_r, cR_n, cI_x, cV_x, cJ_x, cR_x, nul_ref, nul_null, hi, q2]
      simp
    · simp only [tg_0, tp_0, tg_1, tp_1, tr_2, tl_2, ts_2, tn_2, tr_3, tl_3, ts_3, tn_3, tr_4, tl_4, ts_4, tn_4, tr_5, tl_5, ts_5, tn_5, tr_6, tl_6, ts_6, tn_6, tr_7, tl_7, ts_7, tn_7, tr_8, tl_8, ts_8, tn_8, tr_9, tl_9, ts_9, tn_9, tr_10, tl_10, ts_10, tn_10, tr_11, tl_11, ts_11, tn_11, tr_12, tl_12, ts_12, tn_12, tr_13, tl_13, ts_13, tn_13, tg_14, tp_14, tg_15, tp_15, tg_16, tp_16, tg_17, tp_17, tg_18, tp_18, tg_19, tp_19, tr_20, tl_20, ts_20, tn_20, tr_21, tl_21, ts_21, tn_21, tg_22, tp_22, tg_23, tp_23, tg_24, tp_24, tr_25, tl_25, ts_25, tn_25, tr_26, tl_26, ts_26, tn_26, tg_27, tp_27, tg_28, tp_28, tg_29, tp_29, tg_30, tp_30, tg_31, tp_31, tg_32, tp_32, tg_33, tp_33, tg_34, tp_34, tg_35, tp_35, tr_36, tl_36, ts_36, tn_36, tg_37, tp_37, tg_38, tp_38, tg_39, tp_39, tg_40, tp_40, tr_41, tl_41, ts_41, tn_41, tr_42, tl_42, ts_42, tn_42, tg_43, tp_43, tr_44, tl_44, ts_44, tn_44, tr_45, tl_45, ts_45, tn_45, tg_46, tp_46, tg_47, tp_47, tr_48, tl_48, ts_48, tn_48, tr_49, tl_49, ts_49, tn_49, tr_50, tl_50, ts_50, tn_50, tr_51, tl_51, ts_51, tn_51, tg_52, tp_52, tr_53, tl_53, ts_53, tn_53, tr_54, tl_54, ts_54, tn_54, tg_55, tp_55, tr_56, tl_56, ts_56, tn_56, tr_57, tl_57, ts_57, tn_57, tg_58, tp_58, tg_59, tp_59, tg_60, tp_60, tr_61, tl_61, ts_61, tn_61, tr_62, tl_62, ts_62, tn_62, tr_63, tl_63, ts_63, tn_63, tr_64, tl_64, ts_64, tn_64, tr_65, tl_65, ts_65, tn_65, tr_66, tl_66, ts_66, tn_66, tr_67, tl_67, ts_67, tn_67, tr_68, tl_68, ts_68, tn_68, tr_69, tl_69, ts_69, tn_69, tr_70, tl_70, ts_70, tn_70, tr_71, tl_71, ts_71, tn_71, tr_72, tl_72, ts_72, tn_72, tr_73, tl_73, ts_73, tn_73, tw_vn, tw_up_at, upd_at, ↓reduceIte, Nat.reduceEqDiff, Nat.reduceAdd, Nat.reduceMul, Nat.reduceSub, Nat.reduceLT, Option.bind_some, Option.bind_none, lt_at, nn_ref, cI_v, cV_v, cJ_v, cR_r, cR_n, cI_x, cV_x, cJ_x, cR_x, nul_ref, nul_null, hi]
      rw [if_pos q2]
      refine dx_app (b_X3_keepsWrite_36 rfl) ?_
      simp only [tg_0, tp_0, tg_1, tp_1, tr_2, tl_2, ts_2, tn_2, tr_3, tl_3, ts_3, tn_3, tr_4, tl_4, ts_4, tn_4, tr_5, tl_5, ts_5, tn_5, tr_6, tl_6, ts_6, tn_6, tr_7, tl_7, ts_7, tn_7, tr_8, tl_8, ts_8, tn_8, tr_9, tl_9, ts_9, tn_9, tr_10, tl_10, ts_10, tn_10, tr_11, tl_11, ts_11, tn_11, tr_12, tl_12, ts_12, tn_12, tr_13, tl_13, ts_13, tn_13, tg_14, tp_14, tg_15, tp_15, tg_16, tp_16, tg_17, tp_17, tg_18, tp_18, tg_19, tp_19, tr_20, tl_20, ts_20, tn_20, tr_21, tl_21, ts_21, tn_21, tg_22, tp_22, tg_23, tp_23, tg_24, tp_24, tr_25, tl_25, ts_25, tn_25, tr_26, tl_26, ts_26, tn_26, tg_27, tp_27, tg_28, tp_28, tg_29, tp_29, tg_30, tp_30, tg_31, tp_31, tg_32, tp_32, tg_33, tp_33, tg_34, tp_34, tg_35, tp_35, tr_36, tl_36, ts_36, tn_36, tg_37, tp_37, tg_38, tp_38, tg_39, tp_39, tg_40, tp_40, tr_41, tl_41, ts_41, tn_41, tr_42, tl_42, ts_42, tn_42, tg_43, tp_43, tr_44, tl_44, ts_44, tn_44, tr_45, tl_45, ts_45, tn_45, tg_46, tp_46, tg_47, tp_47, tr_48, tl_48, ts_48, tn_48, tr_49, tl_49, ts_49, tn_49, tr_50, tl_50, ts_50, tn_50, tr_51, tl_51, ts_51, tn_51, tg_52, tp_52, tr_53, tl_53, ts_53, tn_53, tr_54, tl_54, ts_54, tn_54, tg_55, tp_55, tr_56, tl_56, ts_56, tn_56, tr_57, tl_57, ts_57, tn_57, tg_58, tp_58, tg_59, tp_59, tg_60, tp_60, tr_61, tl_61, ts_61, tn_61, tr_62, tl_62, ts_62, tn_62, tr_63, tl_63, ts_63, tn_63, tr_64, tl_64, ts_64, tn_64, tr_65, tl_65, ts_65, tn_65, tr_66, tl_66, ts_66, tn_66, tr_67, tl_67, ts_67, tn_67, tr_68, tl_68, ts_68, tn_68, tr_69, tl_69, ts_69, tn_69, tr_70, tl_70, ts_70, tn_70, tr_71, tl_71, ts_71, tn_71, tr_72, tl_72, ts_72, tn_72, tr_73, tl_73, ts_73, tn_73, tw_vn, tw_up_at, upd_at, ↓reduceIte, Nat.reduceEqDiff, Nat.reduceAdd, Nat.reduceMul, Nat.reduceSub, Nat.reduceLT, Option.bind_some, Option.bind_none, lt_at, nn_ref, cI_v, cV_v, cJ_v, cR_r, cR_n, cI_x, cV_x, cJ_x, cR_x, nul_ref, nul_null, hi]
      simp [q2, hi]
  · rw [if_pos (Int32.not_lt.mp q), if_neg q]
theorem t_writes {d : Nat} (hd : 2 ≤ d) (h : ax_H) (s : Nat → Nat → Int32) (hs : 0 ≤ s 38 0) {a w : Int32} {k : Nat} (hk : ix 256 a = some k) : ax_c d 424 [.ref 417, .int a, .int w] (tw_H h s) = some (.inl none, tw_H h (kw (tw_up s 25 k w) a)) := by
  obtain ⟨d, rfl, he⟩ := d_succ hd
  refine dx_app m_X3_writes ?_
  simp only [tg_0, tp_0, tg_1, tp_1, tr_2, tl_2, ts_2, tn_2, tr_3, tl_3, ts_3, tn_3, tr_4, tl_4, ts_4, tn_4, tr_5, tl_5, ts_5, tn_5, tr_6, tl_6, ts_6, tn_6, tr_7, tl_7, ts_7, tn_7, tr_8, tl_8, ts_8, tn_8, tr_9, tl_9, ts_9, tn_9, tr_10, tl_10, ts_10, tn_10, tr_11, tl_11, ts_11, tn_11, tr_12, tl_12, ts_12, tn_12, tr_13, tl_13, ts_13, tn_13, tg_14, tp_14, tg_15, tp_15, tg_16, tp_16, tg_17, tp_17, tg_18, tp_18, tg_19, tp_19, tr_20, tl_20, ts_20, tn_20, tr_21, tl_21, ts_21, tn_21, tg_22, tp_22, tg_23, tp_23, tg_24, tp_24, tr_25, tl_25, ts_25, tn_25, tr_26, tl_26, ts_26, tn_26, tg_27, tp_27, tg_28, tp_28, tg_29, tp_29, tg_30, tp_30, tg_31, tp_31, tg_32, tp_32, tg_33, tp_33, tg_34, tp_34, tg_35, tp_35, tr_36, tl_36, ts_36, tn_36, tg_37, tp_37, tg_38, tp_38, tg_39, tp_39, tg_40, tp_40, tr_41, tl_41, ts_41, tn_41, tr_42, tl_42, ts_42, tn_42, tg_43, tp_43, tr_44, tl_44, ts_44, tn_44, tr_45, tl_45, ts_45, tn_45, tg_46, tp_46, tg_47, tp_47, tr_48, tl_48, ts_48, tn_48, tr_49, tl_49, ts_49, tn_49, tr_50, tl_50, ts_50, tn_50, tr_51, tl_51, ts_51, tn_51, tg_52, tp_52, tr_53, tl_53, ts_53, tn_53, tr_54, tl_54, ts_54, tn_54, tg_55, tp_55, tr_56, tl_56, ts_56, tn_56, tr_57, tl_57, ts_57, tn_57, tg_58, tp_58, tg_59, tp_59, tg_60, tp_60, tr_61, tl_61, ts_61, tn_61, tr_62, tl_62, ts_62, tn_62, tr_63, tl_63, ts_63, tn_63, tr_64, tl_64, ts_64, tn_64, tr_65, tl_65, ts_65, tn_65, tr_66, tl_66, ts_66, tn_66, tr_67, tl_67, ts_67, tn_67, tr_68, tl_68, ts_68, tn_68, tr_69, tl_69, ts_69, tn_69, tr_70, tl_70, ts_70, tn_70, tr_71, tl_71, ts_71, tn_71, tr_72, tl_72, ts_72, tn_72, tr_73, tl_73, ts_73, tn_73, tw_vn, tw_up_at, upd_at, ↓reduceIte, Nat.reduceEqDiff, Nat.reduceAdd, Nat.reduceMul, Nat.reduceSub, Nat.reduceLT, Option.bind_some, Option.bind_none, lt_at, nn_ref, cI_v, cV_v, cJ_v, cR_r, cR_n, cI_x, cV_x, cJ_x, cR_x, nul_ref, nul_null, hk]
  rw [t_keepsWrite he h (tw_up s 25 k w) hs, cV_v]
theorem t_pushes {d : Nat} (hd : 3 ≤ d) (h : ax_H) (s : Nat → Nat → Int32) (hs : 0 ≤ s 38 0) {w : Int32} {k : Nat} (hk : ix 256 (s 28 0 - 1) = some k) : ax_c d 423 [.ref 417, .int w] (tw_H h s) = some (.inl none, tw_H h (kw (tw_up (tw_up s 28 0 (s 28 0 - 1)) 25 k w) (s 28 0 - 1))) := by
  obtain ⟨d, rfl, he⟩ := d_succ hd
  refine dx_app m_X3_pushes ?_
  simp only [tg_0, tp_0, tg_1, tp_1, tr_2, tl_2, ts_2, tn_2, tr_3, tl_3, ts_3, tn_3, tr_4, tl_4, ts_4, tn_4, tr_5, tl_5, ts_5, tn_5, tr_6, tl_6, ts_6, tn_6, tr_7, tl_7, ts_7, tn_7, tr_8, tl_8, ts_8, tn_8, tr_9, tl_9, ts_9, tn_9, tr_10, tl_10, ts_10, tn_10, tr_11, tl_11, ts_11, tn_11, tr_12, tl_12, ts_12, tn_12, tr_13, tl_13, ts_13, tn_13, tg_14, tp_14, tg_15, tp_15, tg_16, tp_16, tg_17, tp_17, tg_18, tp_18, tg_19, tp_19, tr_20, tl_20, ts_20, tn_20, tr_21, tl_21, ts_21, tn_21, tg_22, tp_22, tg_23, tp_23, tg_24, tp_24, tr_25, tl_25, ts_25, tn_25, tr_26, tl_26, ts_26, tn_26, tg_27, tp_27, tg_28, tp_28, tg_29, tp_29, tg_30, tp_30, tg_31, tp_31, tg_32, tp_32, tg_33, tp_33, tg_34, tp_34, tg_35, tp_35, tr_36, tl_36, ts_36, tn_36, tg_37, tp_37, tg_38, tp_38, tg_39, tp_39, tg_40, tp_40, tr_41, tl_41, ts_41, tn_41, tr_42, tl_42, ts_42, tn_42, tg_43, tp_43, tr_44, tl_44, ts_44, tn_44, tr_45, tl_45, ts_45, tn_45, tg_46, tp_46, tg_47, tp_47, tr_48, tl_48, ts_48, tn_48, tr_49, tl_49, ts_49, tn_49, tr_50, tl_50, ts_50, tn_50, tr_51, tl_51, ts_51, tn_51, tg_52, tp_52, tr_53, tl_53, ts_53, tn_53, tr_54, tl_54, ts_54, tn_54, tg_55, tp_55, tr_56, tl_56, ts_56, tn_56, tr_57, tl_57, ts_57, tn_57, tg_58, tp_58, tg_59, tp_59, tg_60, tp_60, tr_61, tl_61, ts_61, tn_61, tr_62, tl_62, ts_62, tn_62, tr_63, tl_63, ts_63, tn_63, tr_64, tl_64, ts_64, tn_64, tr_65, tl_65, ts_65, tn_65, tr_66, tl_66, ts_66, tn_66, tr_67, tl_67, ts_67, tn_67, tr_68, tl_68, ts_68, tn_68, tr_69, tl_69, ts_69, tn_69, tr_70, tl_70, ts_70, tn_70, tr_71, tl_71, ts_71, tn_71, tr_72, tl_72, ts_72, tn_72, tr_73, tl_73, ts_73, tn_73, tw_vn, tw_up_at, upd_at, ↓reduceIte, Nat.reduceEqDiff, Nat.reduceAdd, Nat.reduceMul, Nat.reduceSub, Nat.reduceLT, Option.bind_some, Option.bind_none, lt_at, nn_ref, cI_v, cV_v, cJ_v, cR_r, cR_n, cI_x, cV_x, cJ_x, cR_x, nul_ref, nul_null]
  rw [t_writes he h (tw_up s 28 0 (s 28 0 - 1)) hs (k := k) hk, cV_v]
theorem t_pulls {d : Nat} (hd : 1 ≤ d) (h : ax_H) (s : Nat → Nat → Int32) {k : Nat} (hk : ix 256 (s 28 0) = some k) : ax_c d 432 [.ref 417] (tw_H h s) = some (.inl (some (.int (s 25 k))), tw_H h (tw_up s 28 0 (s 28 0 + 1))) := by
  obtain ⟨d, rfl, -⟩ := d_succ hd
  refine dx_app m_X3_pulls ?_
  have e : s 28 0 + 1 - 1 = s 28 0 := Int32.add_sub_cancel _ _
  simp only [tg_0, tp_0, tg_1, tp_1, tr_2, tl_2, ts_2, tn_2, tr_3, tl_3, ts_3, tn_3, tr_4, tl_4, ts_4, tn_4, tr_5, tl_5, ts_5, tn_5, tr_6, tl_6, ts_6, tn_6, tr_7, tl_7, ts_7, tn_7, tr_8, tl_8, ts_8, tn_8, tr_9, tl_9, ts_9, tn_9, tr_10, tl_10, ts_10, tn_10, tr_11, tl_11, ts_11, tn_11, tr_12, tl_12, ts_12, tn_12, tr_13, tl_13, ts_13, tn_13, tg_14, tp_14, tg_15, tp_15, tg_16, tp_16, tg_17, tp_17, tg_18, tp_18, tg_19, tp_19, tr_20, tl_20, ts_20, tn_20, tr_21, tl_21, ts_21, tn_21, tg_22, tp_22, tg_23, tp_23, tg_24, tp_24, tr_25, tl_25, ts_25, tn_25, tr_26, tl_26, ts_26, tn_26, tg_27, tp_27, tg_28, tp_28, tg_29, tp_29, tg_30, tp_30, tg_31, tp_31, tg_32, tp_32, tg_33, tp_33, tg_34, tp_34, tg_35, tp_35, tr_36, tl_36, ts_36, tn_36, tg_37, tp_37, tg_38, tp_38, tg_39, tp_39, tg_40, tp_40, tr_41, tl_41, ts_41, tn_41, tr_42, tl_42, ts_42, tn_42, tg_43, tp_43, tr_44, tl_44, ts_44, tn_44, tr_45, tl_45, ts_45, tn_45, tg_46, tp_46, tg_47, tp_47, tr_48, tl_48, ts_48, tn_48, tr_49, tl_49, ts_49, tn_49, tr_50, tl_50, ts_50, tn_50, tr_51, tl_51, ts_51, tn_51, tg_52, tp_52, tr_53, tl_53, ts_53, tn_53, tr_54, tl_54, ts_54, tn_54, tg_55, tp_55, tr_56, tl_56, ts_56, tn_56, tr_57, tl_57, ts_57, tn_57, tg_58, tp_58, tg_59, tp_59, tg_60, tp_60, tr_61, tl_61, ts_61, tn_61, tr_62, tl_62, ts_62, tn_62, tr_63, tl_63, ts_63, tn_63, tr_64, tl_64, ts_64, tn_64, tr_65, tl_65, ts_65, tn_65, tr_66, tl_66, ts_66, tn_66, tr_67, tl_67, ts_67, tn_67, tr_68, tl_68, ts_68, tn_68, tr_69, tl_69, ts_69, tn_69, tr_70, tl_70, ts_70, tn_70, tr_71, tl_71, ts_71, tn_71, tr_72, tl_72, ts_72, tn_72, tr_73, tl_73, ts_73, tn_73, tw_vn, tw_up_at, upd_at, ↓reduceIte, Nat.reduceEqDiff, Nat.reduceAdd, Nat.reduceMul, Nat.reduceSub, Nat.reduceLT, Option.bind_some, Option.bind_none, lt_at, nn_ref, cI_v, cV_v, cJ_v, cR_r, cR_n, cI_x, cV_x, cJ_x, cR_x, nul_ref, nul_null]
  simp [e, hk, tw_up_at]
theorem t_faults {d : Nat} (hd : 1 ≤ d) (h : ax_H) (s : Nat → Nat → Int32) (f : Int32) : ax_c d 422 [.ref 417, .int f] (tw_H h s) = some (.inl none, tw_H h (tw_up (tw_up s 23 0 3) 24 0 f)) := by
  obtain ⟨d, rfl, -⟩ := d_succ hd
  refine dx_app m_X3_faults ?_
  simp only [tg_0, tp_0, tg_1, tp_1, tr_2, tl_2, ts_2, tn_2, tr_3, tl_3, ts_3, tn_3, tr_4, tl_4, ts_4, tn_4, tr_5, tl_5, ts_5, tn_5, tr_6, tl_6, ts_6, tn_6, tr_7, tl_7, ts_7, tn_7, tr_8, tl_8, ts_8, tn_8, tr_9, tl_9, ts_9, tn_9, tr_10, tl_10, ts_10, tn_10, tr_11, tl_11, ts_11, tn_11, tr_12, tl_12, ts_12, tn_12, tr_13, tl_13, ts_13, tn_13, tg_14, tp_14, tg_15, tp_15, tg_16, tp_16, tg_17, tp_17, tg_18, tp_18, tg_19, tp_19, tr_20, tl_20, ts_20, tn_20, tr_21, tl_21, ts_21, tn_21, tg_22, tp_22, tg_23, tp_23, tg_24, tp_24, tr_25, tl_25, ts_25, tn_25, tr_26, tl_26, ts_26, tn_26, tg_27, tp_27, tg_28, tp_28, tg_29, tp_29, tg_30, tp_30, tg_31, tp_31, tg_32, tp_32, tg_33, tp_33, tg_34, tp_34, tg_35, tp_35, tr_36, tl_36, ts_36, tn_36, tg_37, tp_37, tg_38, tp_38, tg_39, tp_39, tg_40, tp_40, tr_41, tl_41, ts_41, tn_41, tr_42, tl_42, ts_42, tn_42, tg_43, tp_43, tr_44, tl_44, ts_44, tn_44, tr_45, tl_45, ts_45, tn_45, tg_46, tp_46, tg_47, tp_47, tr_48, tl_48, ts_48, tn_48, tr_49, tl_49, ts_49, tn_49, tr_50, tl_50, ts_50, tn_50, tr_51, tl_51, ts_51, tn_51, tg_52, tp_52, tr_53, tl_53, ts_53, tn_53, tr_54, tl_54, ts_54, tn_54, tg_55, tp_55, tr_56, tl_56, ts_56, tn_56, tr_57, tl_57, ts_57, tn_57, tg_58, tp_58, tg_59, tp_59, tg_60, tp_60, tr_61, tl_61, ts_61, tn_61, tr_62, tl_62, ts_62, tn_62, tr_63, tl_63, ts_63, tn_63, tr_64, tl_64, ts_64, tn_64, tr_65, tl_65, ts_65, tn_65, tr_66, tl_66, ts_66, tn_66, tr_67, tl_67, ts_67, tn_67, tr_68, tl_68, ts_68, tn_68, tr_69, tl_69, ts_69, tn_69, tr_70, tl_70, ts_70, tn_70, tr_71, tl_71, ts_71, tn_71, tr_72, tl_72, ts_72, tn_72, tr_73, tl_73, ts_73, tn_73, tw_vn, tw_up_at, upd_at, ↓reduceIte, Nat.reduceEqDiff, Nat.reduceAdd, Nat.reduceMul, Nat.reduceSub, Nat.reduceLT, Option.bind_some, Option.bind_none, lt_at, nn_ref, cI_v, cV_v, cJ_v, cR_r, cR_n, cI_x, cV_x, cJ_x, cR_x, nul_ref, nul_null]
/-- interrupts: the vector by who waits -/
def interS (s : Nat → Nat → Int32) : Nat → Nat → Int32 :=
  let v : Nat := if s 32 0 = 0 then 1 else 0
  let s1 := tw_up (tw_up s 33 0 (if s 32 0 = 0 then 0 else if s 33 0 = 0 then 0 else 1)) 32 0 0
  let s2 := kw (tw_up (tw_up s1 28 0 (s 28 0 - 1)) 25 (s 28 0 - 1).toNatClampNeg (s 27 0)) (s 28 0 - 1)
  let s3 := kw (tw_up (tw_up s2 28 0 (s 28 0 - 1 - 1)) 25 (s 28 0 - 1 - 1).toNatClampNeg ((if s 29 0 = 0 then 0 else 1) + (if s 30 0 = 0 then 0 else 2))) (s 28 0 - 1 - 1)
  let s4 := tw_up s3 31 0 0
  tw_up s4 27 0 (s4 25 v)
theorem kw_at (s : Nat → Nat → Int32) (a : Int32) (f : Nat) (h1 : f ≠ 44) (h2 : f ≠ 45) : kw s a f = s f := by
  unfold kw
  split
  · rw [tw_up_at, if_neg h1, tw_up_at, if_neg h2]
  · rfl
theorem t_faultOf {d : Nat} (hd : 1 ≤ d) (h : ax_H) (s : Nat → Nat → Int32) (op y : Int32) : ax_c d 427 [.ref 417, .int op, .int y] (tw_H h s) = some (.inl (some (.int (
    if op ≤ 26 then (if (op = 2 ∨ op = 3) ∧ ¬ y < 256 then 1 else
      if (op = 15 ∨ op = 17) ∧ s 28 0 < 1 then 3 else
      if s 28 0 + (if op = 16 ∨ op = 18 then 1 else if op = 21 then 2 else 0) ≤ 256 then (if op = 25 ∧ s 37 0 = 60 then 4 else 0) else 3) else 2))), tw_H h s) := by
  obtain ⟨d, rfl, -⟩ := d_succ hd
  have h86 : ∀ (K : ax_K) (p : Int32), B_X3_faultOf_86 K 417 op p (tw_H h s) = some (.inl (some (.int (if s 28 0 + p ≤ 256 then (if op = 25 ∧ s 37 0 = 60 then 4 else 0) else 3))), tw_H h s) := by
    intro K p
    refine dx_app b_X3_faultOf_86 ?_
    simp only [tg_0, tp_0, tg_1, tp_1, tr_2, tl_2, ts_2, tn_2, tr_3, tl_3, ts_3, tn_3, tr_4, tl_4, ts_4, tn_4, tr_5, tl_5, ts_5, tn_5, tr_6, tl_6, ts_6, tn_6, tr_7, tl_7, ts_7, tn_7, tr_8, tl_8, ts_8, tn_8, tr_9, tl_9, ts_9, tn_9, tr_10, tl_10, ts_10, tn_10, tr_11, tl_11, ts_11, tn_11, tr_12, tl_12, ts_12, tn_12, tr_13, tl_13, ts_13, tn_13, tg_14, tp_14, tg_15, tp_15, tg_16, tp_16, tg_17, tp_17, tg_18, tp_18, tg_19, tp_19, tr_20, tl_20, ts_20, tn_20, tr_21, tl_21, ts_21, tn_21, tg_22, tp_22, tg_23, tp_23, tg_24, tp_24, tr_25, tl_25, ts_25, tn_25, tr_26, tl_26, ts_26, tn_26, tg_27, tp_27, tg_28, tp_28, tg_29, tp_29, tg_30, tp_30, tg_31, tp_31, tg_32, tp_32, tg_33, tp_33, tg_34, tp_34, tg_35, tp_35, tr_36, tl_36, ts_36, tn_36, tg_37, tp_37, tg_38, tp_38, tg_39, tp_39, tg_40, tp_40, tr_41, tl_41, ts_41, tn_41, tr_42, tl_42, ts_42, tn_42, tg_43, tp_43, tr_44, tl_44, ts_44, tn_44, tr_45, tl_45, ts_45, tn_45, tg_46, tp_46, tg_47, tp_47, tr_48, tl_48, ts_48, tn_48, tr_49, tl_49, ts_49, tn_49, tr_50, tl_50, ts_50, tn_50, tr_51, tl_51, ts_51, tn_51, tg_52, tp_52, tr_53, tl_53, ts_53, tn_53, tr_54, tl_54, ts_54, tn_54, tg_55, tp_55, tr_56, tl_56, ts_56, tn_56, tr_57, tl_57, ts_57, tn_57, tg_58, tp_58, tg_59, tp_59, tg_60, tp_60, tr_61, tl_61, ts_61, tn_61, tr_62, tl_62, ts_62, tn_62, tr_63, tl_63, ts_63, tn_63, tr_64, tl_64, ts_64, tn_64, tr_65, tl_65, ts_65, tn_65, tr_66, tl_66, ts_66, tn_66, tr_67, tl_67, ts_67, tn_67, tr_68, tl_68, ts_68, tn_68, tr_69, tl_69, ts_69, tn_69, tr_70, tl_70, ts_70, tn_70, tr_71, tl_71, ts_71, tn_71, tr_72, tl_72, ts_72, tn_72, tr_73, tl_73, ts_73, tn_73, tw_vn, tw_up_at, upd_at, ↓reduceIte, Nat.reduceEqDiff, Nat.reduceAdd, Nat.reduceMul, Nat.reduceSub, Nat.reduceLT, Option.bind_some, Option.bind_none, lt_at, nn_ref, cI_v, cV_v, cJ_v, cR_r, cR_n, cI_x, cV_x, cJ_x, cR_x, nul_ref, nul_null]
    by_cases q1 : s 28 0 + p ≤ 256
    · by_cases q2 : op = 25
      · by_cases q3 : s 37 0 = 60
        · simp [q1, q2, q3]
        · simp [q1, q2, q3]
      · simp [q1, q2]
    · simp [q1]
  have h72 : ∀ (K : ax_K) (p b : Int32), B_X3_faultOf_72 K p 417 op b (tw_H h s) = some (.inl (some (.int (if b ≠ 0 ∧ s 28 0 < 1 then 3 else if s 28 0 + p ≤ 256 then (if op = 25 ∧ s 37 0 = 60 then 4 else 0) else 3))), tw_H h s) := by
    intro K p b
    refine dx_app b_X3_faultOf_72 ?_
    simp only [tg_0, tp_0, tg_1, tp_1, tr_2, tl_2, ts_2, tn_2, tr_3, tl_3, ts_3, tn_3, tr_4, tl_4, ts_4, tn_4, tr_5, tl_5, ts_5, tn_5, tr_6, tl_6, ts_6, tn_6, tr_7, tl_7, ts_7, tn_7, tr_8, tl_8, ts_8, tn_8, tr_9, tl_9, ts_9, tn_9, tr_10, tl_10, ts_10, tn_10, tr_11, tl_11, ts_11, tn_11, tr_12, tl_12, ts_12, tn_12, tr_13, tl_13, ts_13, tn_13, tg_14, tp_14, tg_15, tp_15, tg_16, tp_16, tg_17, tp_17, tg_18, tp_18, tg_19, tp_19, tr_20, tl_20, ts_20, tn_20, tr_21, tl_21, ts_21, tn_21, tg_22, tp_22, tg_23, tp_23, tg_24, tp_24, tr_25, tl_25, ts_25, tn_25, tr_26, tl_26, ts_26, tn_26, tg_27, tp_27, tg_28, tp_28, tg_29, tp_29, tg_30, tp_30, tg_31, tp_31, tg_32, tp_32, tg_33, tp_33, tg_34, tp_34, tg_35, tp_35, tr_36, tl_36, ts_36, tn_36, tg_37, tp_37, tg_38, tp_38, tg_39, tp_39, tg_40, tp_40, tr_41, tl_41, ts_41, tn_41, tr_42, tl_42, ts_42, tn_42, tg_43, tp_43, tr_44, tl_44, ts_44, tn_44, tr_45, tl_45, ts_45, tn_45, tg_46, tp_46, tg_47, tp_47, tr_48, tl_48, ts_48, tn_48, tr_49, tl_49, ts_49, tn_49, tr_50, tl_50, ts_50, tn_50, tr_51, tl_51, ts_51, tn_51, tg_52, tp_52, tr_53, tl_53, ts_53, tn_53, tr_54, tl_54, ts_54, tn_54, tg_55, tp_55, tr_56, tl_56, ts_56, tn_56, tr_57, tl_57, ts_57, tn_57, tg_58, tp_58, tg_59, tp_59, tg_60, tp_60, tr_61, tl_61, ts_61, tn_61, tr_62, tl_62, ts_62, tn_62, tr_63, tl_63, ts_63, tn_63, tr_64, tl_64, ts_64, tn_64, tr_65, tl_65, ts_65, tn_65, tr_66, tl_66, ts_66, tn_66, tr_67, tl_67, ts_67, tn_67, tr_68, tl_68, ts_68, tn_68, tr_69, tl_69, ts_69, tn_69, tr_70, tl_70, ts_70, tn_70, tr_71, tl_71, ts_71, tn_71, tr_72, tl_72, ts_72, tn_72, tr_73, tl_73, ts_73, tn_73, tw_vn, tw_up_at, upd_at, ↓reduceIte, Nat.reduceEqDiff, Nat.reduceAdd, Nat.reduceMul, Nat.reduceSub, Nat.reduceLT, Option.bind_some, Option.bind_none, lt_at, nn_ref, cI_v, cV_v, cJ_v, cR_r, cR_n, cI_x, cV_x, cJ_x, cR_x, nul_ref, nul_null, h86]
    by_cases q1 : b = 0
    · simp [q1]
    · by_cases q2 : s 28 0 < 1
      · simp [q1, q2]
      · simp [q1, q2]
  have h44 : ∀ (K : ax_K) (b : Int32), B_X3_faultOf_44 K b 417 op (tw_H h s) = some (.inl (some (.int (if b ≠ 0 ∧ s 28 0 < 1 then 3 else if s 28 0 + (if op = 16 ∨ op = 18 then 1 else if op = 21 then 2 else 0) ≤ 256 then (if op = 25 ∧ s 37 0 = 60 then 4 else 0) else 3))), tw_H h s) := by
    intro K b
    refine dx_app b_X3_faultOf_44 ?_
    simp only [h72]
    by_cases q1 : op = 16
    · simp [q1]
    · by_cases q2 : op = 18
      · simp [q2]
      · by_cases q3 : op = 21
        · simp [q3]
        · simp [q1, q2, q3]
  have h27 : ∀ (K : ax_K), B_X3_faultOf_27 K 417 op (tw_H h s) = some (.inl (some (.int (if (op = 15 ∨ op = 17) ∧ s 28 0 < 1 then 3 else if s 28 0 + (if op = 16 ∨ op = 18 then 1 else if op = 21 then 2 else 0) ≤ 256 then (if op = 25 ∧ s 37 0 = 60 then 4 else 0) else 3))), tw_H h s) := by
    intro K
    refine dx_app b_X3_faultOf_27 ?_
    simp only [h44]
    by_cases q1 : op = 15
    · simp [q1]
    · by_cases q2 : op = 17
      · simp [q2]
      · simp [q1, q2]
  refine dx_app m_X3_faultOf ?_
  simp only [h27]
  by_cases q0 : op ≤ 26
  · by_cases q1 : op = 2
    · by_cases q2 : y < 256
      · simp [q1, q2]
      · simp [q1, q2]
    · by_cases q3 : op = 3
      · by_cases q2 : y < 256
        · simp [q3, q2]
        · simp [q3, q2]
      · simp [q0, q1, q3]
  · simp [q0]
