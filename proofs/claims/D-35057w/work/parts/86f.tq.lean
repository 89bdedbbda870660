/-! the twin's machine: the other operations -/
def onN (s : Nat → Nat → Int32) : Int32 := if s 31 0 = 0 then 0 else 1
def othA (s : Nat → Nat → Int32) (op : Int32) : Nat → Nat → Int32 := tw_up (tw_up s 27 0 (s 27 0 + (if op = 22 ∧ s 32 0 = 0 ∧ s 33 0 = 0 then 0 else 2))) 31 0 (if op = 19 then 1 else if op = 20 then 0 else onN s)
def othS (s : Nat → Nat → Int32) (op r y : Int32) (n : Nat) : Nat → Nat → Int32 :=
  if op = 21 then tw_up (tw_up (tw_up (tw_up (tw_up (tw_up s 28 0 (s 28 0 + 1)) 29 0 (if dx_rem (s 25 (s 28 0).toNatClampNeg) 2 = 1 then 1 else 0)) 30 0 (if dx_rem (s 25 (s 28 0).toNatClampNeg / 2) 2 = 1 then 1 else 0)) 28 0 (s 28 0 + 1 + 1)) 27 0 (s 25 (s 28 0 + 1).toNatClampNeg)) 31 0 1
  else if op = 23 then tw_up (tw_up (othA s op) 34 0 y) 35 0 0
  else if op = 24 then (if Int32.ofNat (cntT s n) ≤ s 39 0 then tw_up (tw_up (othA s op) 26 r.toNatClampNeg 65535) 39 0 (s 39 0 + 0) else tw_up (tw_up (othA s op) 26 r.toNatClampNeg (s 42 (s 39 0).toNatClampNeg)) 39 0 (s 39 0 + 1))
  else if op = 25 then tw_up (tw_up (othA s op) 36 (s 37 0).toNatClampNeg y) 37 0 (s 37 0 + 1)
  else othA s op
theorem cntT_cong {s t : Nat → Nat → Int32} (h1 : s 38 0 = t 38 0) (h2 : s 41 = t 41) : ∀ n, cntT s n = cntT t n := by
  intro n
  induction n with
  | zero => rfl
  | succ n ih => unfold cntT; rw [ih, h1, h2]
theorem t_others {d : Nat} (hd : 2 ≤ d) (h : ax_H) (s : Nat → Nat → Int32) (op r y : Int32) (ho : op = 19 ∨ op = 20 ∨ op = 21 ∨ op = 22 ∨ op = 23 ∨ op = 24 ∨ op = 25) {k n : Nat} (hr : ix 4 r = some k)
    (hq : op = 21 → ix 256 (s 28 0) = some (s 28 0).toNatClampNeg ∧ ix 256 (s 28 0 + 1) = some (s 28 0 + 1).toNatClampNeg)
    (hn : op = 24 → s 43 0 = Int32.ofNat n ∧ n ≤ 20 ∧ (¬ Int32.ofNat (cntT s n) ≤ s 39 0 → ix 20 (s 39 0) = some (s 39 0).toNatClampNeg)) (ht : op = 25 → ix 60 (s 37 0) = some (s 37 0).toNatClampNeg) : ax_c d 433 [.ref 417, .int op, .int r, .int y] (tw_H h s) = some (.inl none, tw_H h (othS s op r y n)) := by
  obtain ⟨d, rfl, he⟩ := d_succ hd
  have ek := ix_nat hr
  have h220 : ∀ t : Nat → Nat → Int32, ¬ op = 25 → B_X3_others_220 (ax_c d) 417 op y (tw_H h t) = some (.inl none, tw_H h t) := by
    intro t q
    refine dx_app b_X3_others_220 ?_
    rw [if_pos q]
  have h152 : ∀ t : Nat → Nat → Int32, ¬ op = 24 → B_X3_others_152 (ax_c d) 417 op r y (tw_H h t) = B_X3_others_220 (ax_c d) 417 op y (tw_H h t) → ∀ u, B_X3_others_220 (ax_c d) 417 op y (tw_H h t) = some u → B_X3_others_152 (ax_c d) 417 op r y (tw_H h t) = some u := fun t _ e u eu => e.trans eu
  have g152 : ∀ (t : Nat → Nat → Int32) (u : ax_R), ¬ op = 24 → B_X3_others_220 (ax_c d) 417 op y (tw_H h t) = some u → B_X3_others_152 (ax_c d) 417 op r y (tw_H h t) = some u := by
    intro t u q eu
    refine dx_app b_X3_others_152 ?_
    rw [if_pos q]
    exact eu
  have g133 : ∀ (t : Nat → Nat → Int32) (z : Int32) (u : ax_R), ax_ft .boolean (.int z) = true → ¬ op = 23 → B_X3_others_152 (ax_c d) 417 op r y (tw_H h (tw_up t 31 0 z)) = some u → B_X3_others_133 (ax_c d) 417 z 417 op r y (tw_H h t) = some u := by
    intro t z u hz q eu
    refine dx_app b_X3_others_133 ?_
    simp only [tg_0, tp_0, tg_1, tp_1, tr_2, tl_2, ts_2, tn_2, tr_3, tl_3, ts_3, tn_3, tr_4, tl_4, ts_4, tn_4, tr_5, tl_5, ts_5, tn_5, tr_6, tl_6, ts_6, tn_6, tr_7, tl_7, ts_7, tn_7, tr_8, tl_8, ts_8, tn_8, tr_9, tl_9, ts_9, tn_9, tr_10, tl_10, ts_10, tn_10, tr_11, tl_11, ts_11, tn_11, tr_12, tl_12, ts_12, tn_12, tr_13, tl_13, ts_13, tn_13, tg_14, tp_14, tg_15, tp_15, tg_16, tp_16, tg_17, tp_17, tg_18, tp_18, tg_19, tp_19, tr_20, tl_20, ts_20, tn_20, tr_21, tl_21, ts_21, tn_21, tg_22, tp_22, tg_23, tp_23, tg_24, tp_24, tr_25, tl_25, ts_25, tn_25, tr_26, tl_26, ts_26, tn_26, tg_27, tp_27, tg_28, tp_28, tg_29, tp_29, tg_30, tp_30, tg_31, tp_31, tg_32, tp_32, tg_33, tp_33, tg_34, tp_34, tg_35, tp_35, tr_36, tl_36, ts_36, tn_36, tg_37, tp_37, tg_38, tp_38, tg_39, tp_39, tg_40, tp_40, tr_41, tl_41, ts_41, tn_41, tr_42, tl_42, ts_42, tn_42, tg_43, tp_43, tr_44, tl_44, ts_44, tn_44, tr_45, tl_45, ts_45, tn_45, tg_46, tp_46, tg_47, tp_47, tr_48, tl_48, ts_48, tn_48, tr_49, tl_49, ts_49, tn_49, tr_50, tl_50, ts_50, tn_50, tr_51, tl_51, ts_51, tn_51, tg_52, tp_52, tr_53, tl_53, ts_53, tn_53, tr_54, tl_54, ts_54, tn_54, tg_55, tp_55, tr_56, tl_56, ts_56, tn_56, tr_57, tl_57, ts_57, tn_57, tg_58, tp_58, tg_59, tp_59, tg_60, tp_60, tr_61, tl_61, ts_61, tn_61, tr_62, tl_62, ts_62, tn_62, tr_63, tl_63, ts_63, tn_63, tr_64, tl_64, ts_64, tn_64, tr_65, tl_65, ts_65, tn_65, tr_66, tl_66, ts_66, tn_66, tr_67, tl_67, ts_67, tn_67, tr_68, tl_68, ts_68, tn_68, tr_69, tl_69, ts_69, tn_69, tr_70, tl_70, ts_70, tn_70, tr_71, tl_71, ts_71, tn_71, tr_72, tl_72, ts_72, tn_72, tr_73, tl_73, ts_73, tn_73, tw_vn, tw_up_at, upd_at, ↓reduceIte, Nat.reduceEqDiff, Nat.reduceAdd, Nat.reduceMul, Nat.reduceSub, Nat.reduceLT, Option.bind_some, Option.bind_none, lt_at, nn_ref, cI_v, cV_v, cJ_v, cR_r, cR_n, cI_x, cV_x, cJ_x, cR_x, nul_ref, nul_null, hz, q, not_false_eq_true]
    exact eu
  have g104 : ∀ (c1 c2 : Int32) (u : ax_R), B_X3_others_133 (ax_c d) 417 (if op = 19 then 1 else if op = 20 then 0 else onN s) 417 op r y (tw_H h (tw_up s 27 0 (c1 + c2))) = some u → B_X3_others_104 (ax_c d) 417 c1 c2 417 op r y (tw_H h s) = some u := by
    intro c1 c2 u eu
    refine dx_app b_X3_others_104 ?_
    unfold onN at eu
    simp only [tg_0, tp_0, tg_1, tp_1, tr_2, tl_2, ts_2, tn_2, tr_3, tl_3, ts_3, tn_3, tr_4, tl_4, ts_4, tn_4, tr_5, tl_5, ts_5, tn_5, tr_6, tl_6, ts_6, tn_6, tr_7, tl_7, ts_7, tn_7, tr_8, tl_8, ts_8, tn_8, tr_9, tl_9, ts_9, tn_9, tr_10, tl_10, ts_10, tn_10, tr_11, tl_11, ts_11, tn_11, tr_12, tl_12, ts_12, tn_12, tr_13, tl_13, ts_13, tn_13, tg_14, tp_14, tg_15, tp_15, tg_16, tp_16, tg_17, tp_17, tg_18, tp_18, tg_19, tp_19, tr_20, tl_20, ts_20, tn_20, tr_21, tl_21, ts_21, tn_21, tg_22, tp_22, tg_23, tp_23, tg_24, tp_24, tr_25, tl_25, ts_25, tn_25, tr_26, tl_26, ts_26, tn_26, tg_27, tp_27, tg_28, tp_28, tg_29, tp_29, tg_30, tp_30, tg_31, tp_31, tg_32, tp_32, tg_33, tp_33, tg_34, tp_34, tg_35, tp_35, tr_36, tl_36, ts_36, tn_36, tg_37, tp_37, tg_38, tp_38, tg_39, tp_39, tg_40, tp_40, tr_41, tl_41, ts_41, tn_41, tr_42, tl_42, ts_42, tn_42, tg_43, tp_43, tr_44, tl_44, ts_44, tn_44, tr_45, tl_45, ts_45, tn_45, tg_46, tp_46, tg_47, tp_47, tr_48, tl_48, ts_48, tn_48, tr_49, tl_49, ts_49, tn_49, tr_50, tl_50, ts_50, tn_50, tr_51, tl_51, ts_51, tn_51, tg_52, tp_52, tr_53, tl_53, ts_53, tn_53, tr_54, tl_54, ts_54, tn_54, tg_55, tp_55, tr_56, tl_56, ts_56, tn_56, tr_57, tl_57, ts_57, tn_57, tg_58, tp_58, tg_59, tp_59, tg_60, tp_60, tr_61, tl_61, ts_61, tn_61, tr_62, tl_62, ts_62, tn_62, tr_63, tl_63, ts_63, tn_63, tr_64, tl_64, ts_64, tn_64, tr_65, tl_65, ts_65, tn_65, tr_66, tl_66, ts_66, tn_66, tr_67, tl_67, ts_67, tn_67, tr_68, tl_68, ts_68, tn_68, tr_69, tl_69, ts_69, tn_69, tr_70, tl_70, ts_70, tn_70, tr_71, tl_71, ts_71, tn_71, tr_72, tl_72, ts_72, tn_72, tr_73, tl_73, ts_73, tn_73, tw_vn, tw_up_at, upd_at, ↓reduceIte, Nat.reduceEqDiff, Nat.reduceAdd, Nat.reduceMul, Nat.reduceSub, Nat.reduceLT, Option.bind_some, Option.bind_none, lt_at, nn_ref, cI_v, cV_v, cJ_v, cR_r, cR_n, cI_x, cV_x, cJ_x, cR_x, nul_ref, nul_null]
    by_cases q1 : op = 19
    · rw [if_pos q1] at eu ⊢; exact eu
    · rw [if_neg q1] at eu ⊢
      by_cases q2 : op = 20
      · rw [if_pos q2] at eu ⊢; exact eu
      · rw [if_neg q2] at eu ⊢
        by_cases q3 : s 31 0 = 0
        · rw [if_pos q3] at eu ⊢; exact eu
        · rw [if_neg q3] at eu ⊢; exact eu
  have gm : ∀ u : ax_R, ¬ op = 21 → ¬ op = 26 → B_X3_others_104 (ax_c d) 417 (s 27 0) (if op = 22 ∧ s 32 0 = 0 ∧ s 33 0 = 0 then 0 else 2) 417 op r y (tw_H h s) = some u → ax_c (d + 1) 433 [.ref 417, .int op, .int r, .int y] (tw_H h s) = some u := by
    intro u q1 q2 eu
    refine dx_app m_X3_others ?_
    rw [if_pos q1, if_pos q2, tg_27, Option.bind_some]
    by_cases q3 : op = 22
    · rw [if_neg (fun z => z q3), tg_32, Option.bind_some]
      by_cases q4 : s 32 0 = 0
      · rw [if_neg (fun z => z q4), tg_33, Option.bind_some]
        by_cases q5 : s 33 0 = 0
        · rw [if_neg (fun z => z q5)]
          rw [if_pos ⟨q3, q4, q5⟩] at eu
          exact eu
        · rw [if_pos q5]
          rw [if_neg (fun z => q5 z.2.2)] at eu
          exact eu
      · rw [if_pos q4]
        rw [if_neg (fun z => q4 z.2.1)] at eu
        exact eu
    · rw [if_pos q3]
      rw [if_neg (fun z => q3 z.1)] at eu
      exact eu
  have hon : ax_ft .boolean (.int (if op = 19 then 1 else if op = 20 then 0 else onN s)) = true := by
    unfold onN
    split
    · exact ftb1
    · split
      · exact ftb0
      · split
        · exact ftb0
        · exact ftb1
  by_cases q21 : op = 21
  · subst q21
    obtain ⟨p1, p2⟩ := hq rfl
    refine dx_app m_X3_others ?_
    have a1 := t_pulls (d := d) (by omega) h s p1
    have g45 : ∀ (t : Nat → Nat → Int32) (z : Int32), ax_ft .boolean (.int z) = true → t 28 0 = s 28 0 + 1 → t 25 = s 25 → B_X3_others_45 (ax_c d) 417 z 417 (tw_H h t) = some (.inl none, tw_H h (tw_up (tw_up (tw_up (tw_up t 30 0 z) 28 0 (s 28 0 + 1 + 1)) 27 0 (s 25 (s 28 0 + 1).toNatClampNeg)) 31 0 1)) := by
      intro t z hz e1 e2
      refine dx_app b_X3_others_45 ?_
      have a2 := t_pulls (d := d) (by omega) h (tw_up t 30 0 z) (k := (s 28 0 + 1).toNatClampNeg) (by show ix 256 (t 28 0) = _; rw [e1]; exact p2)
      simp only [tg_0, tp_0, tg_1, tp_1, tr_2, tl_2, ts_2, tn_2, tr_3, tl_3, ts_3, tn_3, tr_4, tl_4, ts_4, tn_4, tr_5, tl_5, ts_5, tn_5, tr_6, tl_6, ts_6, tn_6, tr_7, tl_7, ts_7, tn_7, tr_8, tl_8, ts_8, tn_8, tr_9, tl_9, ts_9, tn_9, tr_10, tl_10, ts_10, tn_10, tr_11, tl_11, ts_11, tn_11, tr_12, tl_12, ts_12, tn_12, tr_13, tl_13, ts_13, tn_13, tg_14, tp_14, tg_15, tp_15, tg_16, tp_16, tg_17, tp_17, tg_18, tp_18, tg_19, tp_19, tr_20, tl_20, ts_20, tn_20, tr_21, tl_21, ts_21, tn_21, tg_22, tp_22, tg_23, tp_23, tg_24, tp_24, tr_25, tl_25, ts_25, tn_25, tr_26, tl_26, ts_26, tn_26, tg_27, tp_27, tg_28, tp_28, tg_29, tp_29, tg_30, tp_30, tg_31, tp_31, tg_32, tp_32, tg_33, tp_33, tg_34, tp_34, tg_35, tp_35, tr_36, tl_36, ts_36, tn_36, tg_37, tp_37, tg_38, tp_38, tg_39, tp_39, tg_40, tp_40, tr_41, tl_41, ts_41, tn_41, tr_42, tl_42, ts_42, tn_42, tg_43, tp_43, tr_44, tl_44, ts_44, tn_44, tr_45, tl_45, ts_45, tn_45, tg_46, tp_46, tg_47, tp_47, tr_48, tl_48, ts_48, tn_48, tr_49, tl_49, ts_49, tn_49, tr_50, tl_50, ts_50, tn_50, tr_51, tl_51, ts_51, tn_51, tg_52, tp_52, tr_53, tl_53, ts_53, tn_53, tr_54, tl_54, ts_54, tn_54, tg_55, tp_55, tr_56, tl_56, ts_56, tn_56, tr_57, tl_57, ts_57, tn_57, tg_58, tp_58, tg_59, tp_59, tg_60, tp_60, tr_61, tl_61, ts_61, tn_61, tr_62, tl_62, ts_62, tn_62, tr_63, tl_63, ts_63, tn_63, tr_64, tl_64, ts_64, tn_64, tr_65, tl_65, ts_65, tn_65, tr_66, tl_66, ts_66, tn_66, tr_67, tl_67, ts_67, tn_67, tr_68, tl_68, ts_68, tn_68, tr_69, tl_69, ts_69, tn_69, tr_70, tl_70, ts_70, tn_70, tr_71, tl_71, ts_71, tn_71, tr_72, tl_72, ts_72, tn_72, tr_73, tl_73, ts_73, tn_73, tw_vn, tw_up_at, upd_at, ↓reduceIte, Nat.reduceEqDiff, Nat.reduceAdd, Nat.reduceMul, Nat.reduceSub, Nat.reduceLT, Option.bind_some, Option.bind_none, lt_at, nn_ref, cI_v, cV_v, cJ_v, cR_r, cR_n, cI_x, cV_x, cJ_x, cR_x, nul_ref, nul_null, e1, e2] at a2
      simp only [tg_0, tp_0, tg_1, tp_1, tr_2, tl_2, ts_2, tn_2, tr_3, tl_3, ts_3, tn_3, tr_4, tl_4, ts_4, tn_4, tr_5, tl_5, ts_5, tn_5, tr_6, tl_6, ts_6, tn_6, tr_7, tl_7, ts_7, tn_7, tr_8, tl_8, ts_8, tn_8, tr_9, tl_9, ts_9, tn_9, tr_10, tl_10, ts_10, tn_10, tr_11, tl_11, ts_11, tn_11, tr_12, tl_12, ts_12, tn_12, tr_13, tl_13, ts_13, tn_13, tg_14, tp_14, tg_15, tp_15, tg_16, tp_16, tg_17, tp_17, tg_18, tp_18, tg_19, tp_19, tr_20, tl_20, ts_20, tn_20, tr_21, tl_21, ts_21, tn_21, tg_22, tp_22, tg_23, tp_23, tg_24, tp_24, tr_25, tl_25, ts_25, tn_25, tr_26, tl_26, ts_26, tn_26, tg_27, tp_27, tg_28, tp_28, tg_29, tp_29, tg_30, tp_30, tg_31, tp_31, tg_32, tp_32, tg_33, tp_33, tg_34, tp_34, tg_35, tp_35, tr_36, tl_36, ts_36, tn_36, tg_37, tp_37, tg_38, tp_38, tg_39, tp_39, tg_40, tp_40, tr_41, tl_41, ts_41, tn_41, tr_42, tl_42, ts_42, tn_42, tg_43, tp_43, tr_44, tl_44, ts_44, tn_44, tr_45, tl_45, ts_45, tn_45, tg_46, tp_46, tg_47, tp_47, tr_48, tl_48, ts_48, tn_48, tr_49, tl_49, ts_49, tn_49, tr_50, tl_50, ts_50, tn_50, tr_51, tl_51, ts_51, tn_51, tg_52, tp_52, tr_53, tl_53, ts_53, tn_53, tr_54, tl_54, ts_54, tn_54, tg_55, tp_55, tr_56, tl_56, ts_56, tn_56, tr_57, tl_57, ts_57, tn_57, tg_58, tp_58, tg_59, tp_59, tg_60, tp_60, tr_61, tl_61, ts_61, tn_61, tr_62, tl_62, ts_62, tn_62, tr_63, tl_63, ts_63, tn_63, tr_64, tl_64, ts_64, tn_64, tr_65, tl_65, ts_65, tn_65, tr_66, tl_66, ts_66, tn_66, tr_67, tl_67, ts_67, tn_67, tr_68, tl_68, ts_68, tn_68, tr_69, tl_69, ts_69, tn_69, tr_70, tl_70, ts_70, tn_70, tr_71, tl_71, ts_71, tn_71, tr_72, tl_72, ts_72, tn_72, tr_73, tl_73, ts_73, tn_73, tw_vn, tw_up_at, upd_at, ↓reduceIte, Nat.reduceEqDiff, Nat.reduceAdd, Nat.reduceMul, Nat.reduceSub, Nat.reduceLT, Option.bind_some, Option.bind_none, lt_at, nn_ref, cI_v, cV_v, cJ_v, cR_r, cR_n, cI_x, cV_x, cJ_x, cR_x, nul_ref, nul_null, hz, a2, ftb1]
    have g26 : ∀ (t : Nat → Nat → Int32) (z x : Int32), ax_ft .boolean (.int z) = true → t 28 0 = s 28 0 + 1 → t 25 = s 25 → B_X3_others_26 (ax_c d) 417 z 417 x (tw_H h t) = some (.inl none, tw_H h (tw_up (tw_up (tw_up (tw_up (tw_up t 29 0 z) 30 0 (if dx_rem (x / 2) 2 = 1 then 1 else 0)) 28 0 (s 28 0 + 1 + 1)) 27 0 (s 25 (s 28 0 + 1).toNatClampNeg)) 31 0 1)) := by
      intro t z x hz e1 e2
      refine dx_app b_X3_others_26 ?_
      rw [tp_29, if_pos hz, Option.bind_some]
      by_cases q : dx_rem (x / 2) 2 = 1
      · rw [if_neg (fun z => z q), if_pos q]
        exact g45 (tw_up t 29 0 z) 1 ftb1 e1 e2
      · rw [if_pos q, if_neg q]
        exact g45 (tw_up t 29 0 z) 0 ftb0 e1 e2
    rw [if_neg (by decide), tw_vn, Option.bind_some, a1, cI_v]
    unfold othS
    rw [if_pos rfl]
    by_cases q : dx_rem (s 25 (s 28 0).toNatClampNeg) 2 = 1
    · rw [if_neg (fun z => z q), if_pos q]
      exact g26 (tw_up s 28 0 (s 28 0 + 1)) 1 _ ftb1 rfl rfl
    · rw [if_pos q, if_neg q]
      exact g26 (tw_up s 28 0 (s 28 0 + 1)) 0 _ ftb0 rfl rfl
  · have q26 : ¬ op = 26 := by rcases ho with rfl | rfl | rfl | rfl | rfl | rfl | rfl <;> decide
    refine gm _ q21 q26 (g104 _ _ _ ?_)
    unfold othS
    rw [if_neg q21]
    by_cases q23 : op = 23
    · rw [if_pos q23]
      refine dx_app b_X3_others_133 ?_
      rw [tp_31, if_pos hon, Option.bind_some, if_neg (fun z => z q23), tp_34, Option.bind_some, tp_35, Option.bind_some]
      exact g152 _ _ (by rw [q23]; decide) (h220 _ (by rw [q23]; decide))
    · rw [if_neg q23]
      refine g133 _ _ _ hon q23 ?_
      by_cases q24 : op = 24
      · rw [if_pos q24]
        obtain ⟨n1, n2, n3⟩ := hn q24
        refine dx_app b_X3_others_152 ?_
        have hc := t_come (d := d) (by omega) h (othA s op) (n := n) n1 n2
        rw [if_neg (fun z => z q24), tg_39, Option.bind_some, tw_vn, Option.bind_some]
        rw [show tw_up (tw_up s 27 0 (s 27 0 + if op = 22 ∧ s 32 0 = 0 ∧ s 33 0 = 0 then 0 else 2)) 31 0 (if op = 19 then 1 else if op = 20 then 0 else onN s) = othA s op from rfl, hc, cI_v, cntT_cong (s := othA s op) (t := s) rfl rfl n, show othA s op 39 0 = s 39 0 from rfl]
        by_cases c : Int32.ofNat (cntT s n) ≤ s 39 0
        · rw [if_pos c, if_pos c]
          refine dx_app b_X3_others_174 ?_
          rw [tr_26, Option.bind_some, if_pos rfl]
          refine dx_app (b_X3_others_200 rfl) ?_
          simp only [tg_0, tp_0, tg_1, tp_1, tr_2, tl_2, ts_2, tn_2, tr_3, tl_3, ts_3, tn_3, tr_4, tl_4, ts_4, tn_4, tr_5, tl_5, ts_5, tn_5, tr_6, tl_6, ts_6, tn_6, tr_7, tl_7, ts_7, tn_7, tr_8, tl_8, ts_8, tn_8, tr_9, tl_9, ts_9, tn_9, tr_10, tl_10, ts_10, tn_10, tr_11, tl_11, ts_11, tn_11, tr_12, tl_12, ts_12, tn_12, tr_13, tl_13, ts_13, tn_13, tg_14, tp_14, tg_15, tp_15, tg_16, tp_16, tg_17, tp_17, tg_18, tp_18, tg_19, tp_19, tr_20, tl_20, ts_20, tn_20, tr_21, tl_21, ts_21, tn_21, tg_22, tp_22, tg_23, tp_23, tg_24, tp_24, tr_25, tl_25, ts_25, tn_25, tr_26, tl_26, ts_26, tn_26, tg_27, tp_27, tg_28, tp_28, tg_29, tp_29, tg_30, tp_30, tg_31, tp_31, tg_32, tp_32, tg_33, tp_33, tg_34, tp_34, tg_35, tp_35, tr_36, tl_36, ts_36, tn_36, tg_37, tp_37, tg_38, tp_38, tg_39, tp_39, tg_40, tp_40, tr_41, tl_41, ts_41, tn_41, tr_42, tl_42, ts_42, tn_42, tg_43, tp_43, tr_44, tl_44, ts_44, tn_44, tr_45, tl_45, ts_45, tn_45, tg_46, tp_46, tg_47, tp_47, tr_48, tl_48, ts_48, tn_48, tr_49, tl_49, ts_49, tn_49, tr_50, tl_50, ts_50, tn_50, tr_51, tl_51, ts_51, tn_51, tg_52, tp_52, tr_53, tl_53, ts_53, tn_53, tr_54, tl_54, ts_54, tn_54, tg_55, tp_55, tr_56, tl_56, ts_56, tn_56, tr_57, tl_57, ts_57, tn_57, tg_58, tp_58, tg_59, tp_59, tg_60, tp_60, tr_61, tl_61, ts_61, tn_61, tr_62, tl_62, ts_62, tn_62, tr_63, tl_63, ts_63, tn_63, tr_64, tl_64, ts_64, tn_64, tr_65, tl_65, ts_65, tn_65, tr_66, tl_66, ts_66, tn_66, tr_67, tl_67, ts_67, tn_67, tr_68, tl_68, ts_68, tn_68, tr_69, tl_69, ts_69, tn_69, tr_70, tl_70, ts_70, tn_70, tr_71, tl_71, ts_71, tn_71, tr_72, tl_72, ts_72, tn_72, tr_73, tl_73, ts_73, tn_73, tw_vn, tw_up_at, upd_at, ↓reduceIte, Nat.reduceEqDiff, Nat.reduceAdd, Nat.reduceMul, Nat.reduceSub, Nat.reduceLT, Option.bind_some, Option.bind_none, lt_at, nn_ref, cI_v, cV_v, cJ_v, cR_r, cR_n, cI_x, cV_x, cJ_x, cR_x, nul_ref, nul_null, hr, ek]
          exact h220 _ (by rw [q24]; decide)
        · rw [if_neg c, if_neg c]
          refine dx_app b_X3_others_174 ?_
          have i3 := n3 c
          rw [tr_26, Option.bind_some, if_neg (by decide), tr_42, Option.bind_some, tg_39, Option.bind_some, tl_42, show othA s op 39 0 = s 39 0 from rfl, i3, Option.bind_some, Option.bind_some]
          refine dx_app (b_X3_others_200 rfl) ?_
          rw [ts_26, hr, Option.bind_some, Option.bind_some, tg_39, Option.bind_some, if_neg (by decide), tp_39, Option.bind_some, h220 _ (by rw [q24]; decide), ek]
          rfl
      · rw [if_neg q24]
        refine g152 _ _ q24 ?_
        by_cases q25 : op = 25
        · rw [if_pos q25]
          have i5 := ht q25
          refine dx_app b_X3_others_220 ?_
          rw [if_neg (fun z => z q25)]
          rw [show tw_up (tw_up s 27 0 (s 27 0 + if op = 22 ∧ s 32 0 = 0 ∧ s 33 0 = 0 then 0 else 2)) 31 0 (if op = 19 then 1 else if op = 20 then 0 else onN s) = othA s op from rfl]
          rw [tr_36, Option.bind_some, tg_37, Option.bind_some, ts_36, show othA s op 37 0 = s 37 0 from rfl, i5, Option.bind_some, Option.bind_some, tg_37, Option.bind_some, tp_37, Option.bind_some]
          rfl
        · rw [if_neg q25]
          exact h220 _ q25
