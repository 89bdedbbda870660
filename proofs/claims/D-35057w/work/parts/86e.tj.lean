/-! the twin's machine: jumps -/
def pushS (s : Nat → Nat → Int32) (w : Int32) : Nat → Nat → Int32 := kw (tw_up (tw_up s 28 0 (s 28 0 - 1)) 25 (s 28 0 - 1).toNatClampNeg w) (s 28 0 - 1)
theorem t_push {d : Nat} (hd : 3 ≤ d) (h : ax_H) (s : Nat → Nat → Int32) (hs : 0 ≤ s 38 0) (w : Int32) (h0 : 0 ≤ s 28 0 - 1) (h1 : (s 28 0 - 1).toNatClampNeg < 256) : ax_c d 423 [.ref 417, .int w] (tw_H h s) = some (.inl none, tw_H h (pushS s w)) := t_pushes' hd h s hs w h0 h1
theorem pushS_at (s : Nat → Nat → Int32) (w : Int32) (f : Nat) (h1 : f ≠ 44) (h2 : f ≠ 45) (h3 : f ≠ 28) (h4 : f ≠ 25) : pushS s w f = s f := by
  unfold pushS
  rw [kw_at _ _ f h1 h2, tw_up_at, if_neg h4, tw_up_at, if_neg h3]
def jumpS (s : Nat → Nat → Int32) (op r y : Int32) : Nat → Nat → Int32 :=
  if op = 12 then tw_up s 27 0 y
  else if op = 13 then tw_up s 27 0 (if s 29 0 = 0 then s 27 0 + 2 else y)
  else if op = 14 then tw_up s 27 0 (if s 30 0 = 0 then s 27 0 + 2 else y)
  else if op = 15 then tw_up (pushS s (s 27 0 + 2)) 27 0 y
  else if op = 16 then tw_up (tw_up s 28 0 (s 28 0 + 1)) 27 0 (s 25 (s 28 0).toNatClampNeg)
  else if op = 17 then tw_up (pushS s y) 27 0 (s 27 0 + 2)
  else tw_up (tw_up (tw_up s 27 0 (s 27 0 + 2)) 28 0 (s 28 0 + 1)) 26 r.toNatClampNeg (s 25 (s 28 0).toNatClampNeg)
theorem ix_nat {n k : Nat} {i : Int32} (h : ix n i = some k) : i.toNatClampNeg = k := by
  unfold ix at h
  split at h
  · cases h
  · cases h; rfl
theorem t_jumps {d : Nat} (hd : 4 ≤ d) (h : ax_H) (s : Nat → Nat → Int32) (hs : 0 ≤ s 38 0) (op r y : Int32) (ho : op = 12 ∨ op = 13 ∨ op = 14 ∨ op = 15 ∨ op = 16 ∨ op = 17 ∨ op = 18) {k : Nat} (hr : ix 4 r = some k)
    (hp : op = 15 ∨ op = 17 → 0 ≤ s 28 0 - 1 ∧ (s 28 0 - 1).toNatClampNeg < 256) (hq : op = 16 ∨ op = 18 → ix 256 (s 28 0) = some (s 28 0).toNatClampNeg) : ax_c d 431 [.ref 417, .int op, .int r, .int y] (tw_H h s) = some (.inl none, tw_H h (jumpS s op r y)) := by
  obtain ⟨d, rfl, he⟩ := d_succ hd
  have ek := ix_nat hr
  have h101 : ∀ (t : Nat → Nat → Int32) (x : Int32), ¬ op = 18 → B_X3_jumps_101 (ax_c d) 417 x 417 op r (tw_H h t) = some (.inl none, tw_H h (tw_up t 27 0 x)) := by
    intro t x q
    refine dx_app b_X3_jumps_101 ?_
    simp only [tg_0, tp_0, tg_1, tp_1, tr_2, tl_2, ts_2, tn_2, tr_3, tl_3, ts_3, tn_3, tr_4, tl_4, ts_4, tn_4, tr_5, tl_5, ts_5, tn_5, tr_6, tl_6, ts_6, tn_6, tr_7, tl_7, ts_7, tn_7, tr_8, tl_8, ts_8, tn_8, tr_9, tl_9, ts_9, tn_9, tr_10, tl_10, ts_10, tn_10, tr_11, tl_11, ts_11, tn_11, tr_12, tl_12, ts_12, tn_12, tr_13, tl_13, ts_13, tn_13, tg_14, tp_14, tg_15, tp_15, tg_16, tp_16, tg_17, tp_17, tg_18, tp_18, tg_19, tp_19, tr_20, tl_20, ts_20, tn_20, tr_21, tl_21, ts_21, tn_21, tg_22, tp_22, tg_23, tp_23, tg_24, tp_24, tr_25, tl_25, ts_25, tn_25, tr_26, tl_26, ts_26, tn_26, tg_27, tp_27, tg_28, tp_28, tg_29, tp_29, tg_30, tp_30, tg_31, tp_31, tg_32, tp_32, tg_33, tp_33, tg_34, tp_34, tg_35, tp_35, tr_36, tl_36, ts_36, tn_36, tg_37, tp_37, tg_38, tp_38, tg_39, tp_39, tg_40, tp_40, tr_41, tl_41, ts_41, tn_41, tr_42, tl_42, ts_42, tn_42, tg_43, tp_43, tr_44, tl_44, ts_44, tn_44, tr_45, tl_45, ts_45, tn_45, tg_46, tp_46, tg_47, tp_47, tr_48, tl_48, ts_48, tn_48, tr_49, tl_49, ts_49, tn_49, tr_50, tl_50, ts_50, tn_50, tr_51, tl_51, ts_51, tn_51, tg_52, tp_52, tr_53, tl_53, ts_53, tn_53, tr_54, tl_54, ts_54, tn_54, tg_55, tp_55, tr_56, tl_56, ts_56, tn_56, tr_57, tl_57, ts_57, tn_57, tg_58, tp_58, tg_59, tp_59, tg_60, tp_60, tr_61, tl_61, ts_61, tn_61, tr_62, tl_62, ts_62, tn_62, tr_63, tl_63, ts_63, tn_63, tr_64, tl_64, ts_64, tn_64, tr_65, tl_65, ts_65, tn_65, tr_66, tl_66, ts_66, tn_66, tr_67, tl_67, ts_67, tn_67, tr_68, tl_68, ts_68, tn_68, tr_69, tl_69, ts_69, tn_69, tr_70, tl_70, ts_70, tn_70, tr_71, tl_71, ts_71, tn_71, tr_72, tl_72, ts_72, tn_72, tr_73, tl_73, ts_73, tn_73, tw_vn, tw_up_at, upd_at, ↓reduceIte, Nat.reduceEqDiff, Nat.reduceAdd, Nat.reduceMul, Nat.reduceSub, Nat.reduceLT, Option.bind_some, Option.bind_none, lt_at, nn_ref, cI_v, cV_v, cJ_v, cR_r, cR_n, cI_x, cV_x, cJ_x, cR_x, nul_ref, nul_null, q, not_false_eq_true]
  have h74 : ∀ (t : Nat → Nat → Int32) (i b : Int32), ¬ op = 16 → ¬ op = 18 → B_X3_jumps_74 (ax_c d) i 417 op r y b (tw_H h t) = some (.inl none, tw_H h (tw_up t 27 0 (if i = 0 then b else y))) := by
    intro t i b q1 q2
    refine dx_app b_X3_jumps_74 ?_
    rw [if_pos q1]
    by_cases q : i = 0
    · rw [if_pos q, h101 _ _ q2, if_pos q]
    · rw [if_neg q, h101 _ _ q2, if_neg q]
  refine dx_app m_X3_jumps ?_
  rw [tg_27, Option.bind_some, lt_at]
  rcases ho with rfl | rfl | rfl | rfl | rfl | rfl | rfl
  · rw [if_pos (by decide), if_pos (by decide)]
    refine dx_app b_X3_jumps_31 ?_
    rw [if_pos rfl, h74 _ 1 _ (by decide) (by decide), if_neg (by decide)]
    rfl
  · rw [if_pos (by decide), if_pos (by decide)]
    refine dx_app b_X3_jumps_31 ?_
    rw [if_neg (by decide), if_neg (by decide), if_neg (by decide), tg_29, Option.bind_some]
    by_cases q : s 29 0 = 0
    · rw [if_neg (fun z => z q)]
      refine dx_app b_X3_jumps_56 ?_
      rw [if_pos (by decide), h74 _ 0 _ (by decide) (by decide), if_pos rfl]
      show _ = some (_, tw_H h (tw_up s 27 0 (if s 29 0 = 0 then s 27 0 + 2 else y)))
      rw [if_pos q]
    · rw [if_pos q, h74 _ 1 _ (by decide) (by decide), if_neg (by decide)]
      show _ = some (_, tw_H h (tw_up s 27 0 (if s 29 0 = 0 then s 27 0 + 2 else y)))
      rw [if_neg q]
  · rw [if_pos (by decide), if_pos (by decide)]
    refine dx_app b_X3_jumps_31 ?_
    rw [if_neg (by decide), if_neg (by decide), if_pos (by decide)]
    refine dx_app b_X3_jumps_56 ?_
    rw [if_neg (by decide), tg_30, Option.bind_some]
    by_cases q : s 30 0 = 0
    · rw [if_pos q, h74 _ 0 _ (by decide) (by decide), if_pos rfl]
      show _ = some (_, tw_H h (tw_up s 27 0 (if s 30 0 = 0 then s 27 0 + 2 else y)))
      rw [if_pos q]
    · rw [if_neg q, h74 _ 1 _ (by decide) (by decide), if_neg (by decide)]
      show _ = some (_, tw_H h (tw_up s 27 0 (if s 30 0 = 0 then s 27 0 + 2 else y)))
      rw [if_neg q]
  · obtain ⟨p0, p1⟩ := hp (Or.inl rfl)
    rw [if_neg (by decide), tw_vn, Option.bind_some, t_push he h s hs _ p0 p1, cV_v, if_pos (by decide)]
    refine dx_app b_X3_jumps_31 ?_
    rw [if_neg (by decide), if_pos rfl, h74 _ 1 _ (by decide) (by decide), if_neg (by decide)]
    rfl
  · have hq' := hq (Or.inl rfl)
    rw [if_pos (by decide), if_pos (by decide)]
    refine dx_app b_X3_jumps_31 ?_
    rw [if_neg (by decide), if_neg (by decide), if_pos (by decide)]
    refine dx_app b_X3_jumps_56 ?_
    rw [if_pos (by decide)]
    refine dx_app b_X3_jumps_74 ?_
    rw [if_neg (by decide), tw_vn, Option.bind_some, t_pulls (by omega) h s hq', cI_v, h101 _ _ (by decide)]
    rfl
  · obtain ⟨p0, p1⟩ := hp (Or.inr rfl)
    rw [if_pos (by decide), if_neg (by decide), tw_vn, Option.bind_some, t_push he h s hs _ p0 p1, cV_v]
    refine dx_app b_X3_jumps_31 ?_
    rw [if_neg (by decide), if_neg (by decide), if_pos (by decide)]
    refine dx_app b_X3_jumps_56 ?_
    rw [if_pos (by decide), h74 _ 0 _ (by decide) (by decide), if_pos rfl]
    rfl
  · have hq' := hq (Or.inr rfl)
    rw [if_pos (by decide), if_pos (by decide)]
    refine dx_app b_X3_jumps_31 ?_
    rw [if_neg (by decide), if_neg (by decide), if_pos (by decide)]
    refine dx_app b_X3_jumps_56 ?_
    rw [if_pos (by decide)]
    refine dx_app b_X3_jumps_74 ?_
    rw [if_pos (by decide), if_pos rfl]
    refine dx_app b_X3_jumps_101 ?_
    have hp2 := t_pulls (d := d) (by omega) h (tw_up s 27 0 (s 27 0 + 2)) hq'
    simp only [tg_0, tp_0, tg_1, tp_1, tr_2, tl_2, ts_2, tn_2, tr_3, tl_3, ts_3, tn_3, tr_4, tl_4, ts_4, tn_4, tr_5, tl_5, ts_5, tn_5, tr_6, tl_6, ts_6, tn_6, tr_7, tl_7, ts_7, tn_7, tr_8, tl_8, ts_8, tn_8, tr_9, tl_9, ts_9, tn_9, tr_10, tl_10, ts_10, tn_10, tr_11, tl_11, ts_11, tn_11, tr_12, tl_12, ts_12, tn_12, tr_13, tl_13, ts_13, tn_13, tg_14, tp_14, tg_15, tp_15, tg_16, tp_16, tg_17, tp_17, tg_18, tp_18, tg_19, tp_19, tr_20, tl_20, ts_20, tn_20, tr_21, tl_21, ts_21, tn_21, tg_22, tp_22, tg_23, tp_23, tg_24, tp_24, tr_25, tl_25, ts_25, tn_25, tr_26, tl_26, ts_26, tn_26, tg_27, tp_27, tg_28, tp_28, tg_29, tp_29, tg_30, tp_30, tg_31, tp_31, tg_32, tp_32, tg_33, tp_33, tg_34, tp_34, tg_35, tp_35, tr_36, tl_36, ts_36, tn_36, tg_37, tp_37, tg_38, tp_38, tg_39, tp_39, tg_40, tp_40, tr_41, tl_41, ts_41, tn_41, tr_42, tl_42, ts_42, tn_42, tg_43, tp_43, tr_44, tl_44, ts_44, tn_44, tr_45, tl_45, ts_45, tn_45, tg_46, tp_46, tg_47, tp_47, tr_48, tl_48, ts_48, tn_48, tr_49, tl_49, ts_49, tn_49, tr_50, tl_50, ts_50, tn_50, tr_51, tl_51, ts_51, tn_51, tg_52, tp_52, tr_53, tl_53, ts_53, tn_53, tr_54, tl_54, ts_54, tn_54, tg_55, tp_55, tr_56, tl_56, ts_56, tn_56, tr_57, tl_57, ts_57, tn_57, tg_58, tp_58, tg_59, tp_59, tg_60, tp_60, tr_61, tl_61, ts_61, tn_61, tr_62, tl_62, ts_62, tn_62, tr_63, tl_63, ts_63, tn_63, tr_64, tl_64, ts_64, tn_64, tr_65, tl_65, ts_65, tn_65, tr_66, tl_66, ts_66, tn_66, tr_67, tl_67, ts_67, tn_67, tr_68, tl_68, ts_68, tn_68, tr_69, tl_69, ts_69, tn_69, tr_70, tl_70, ts_70, tn_70, tr_71, tl_71, ts_71, tn_71, tr_72, tl_72, ts_72, tn_72, tr_73, tl_73, ts_73, tn_73, tw_vn, tw_up_at, upd_at, ↓reduceIte, Nat.reduceEqDiff, Nat.reduceAdd, Nat.reduceMul, Nat.reduceSub, Nat.reduceLT, Option.bind_some, Option.bind_none, lt_at, nn_ref, cI_v, cV_v, cJ_v, cR_r, cR_n, cI_x, cV_x, cJ_x, cR_x, nul_ref, nul_null] at hp2 ⊢
    rw [if_neg (by decide), hp2, cI_v, ts_26, hr, Option.bind_some, Option.bind_some]
    show _ = some (_, tw_H h (tw_up (tw_up (tw_up s 27 0 (s 27 0 + 2)) 28 0 (s 28 0 + 1)) 26 r.toNatClampNeg (s 25 (s 28 0).toNatClampNeg)))
    rw [ek]
