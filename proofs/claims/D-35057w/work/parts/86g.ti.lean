/-! the twin's machine: an instruction, a step -/
def fltS (s : Nat → Nat → Int32) (op y : Int32) : Int32 :=
    if op ≤ 26 then (if (op = 2 ∨ op = 3) ∧ ¬ y < 256 then 1 else
      if (op = 15 ∨ op = 17) ∧ s 28 0 < 1 then 3 else
      if s 28 0 + (if op = 16 ∨ op = 18 then 1 else if op = 21 then 2 else 0) ≤ 256 then (if op = 25 ∧ s 37 0 = 60 then 4 else 0) else 3) else 2
def secS (s : Nat → Nat → Int32) (v w : Int32) : Int32 := if dx_rem (v / 4) 4 = dx_rem v 4 then w else dx_rem (s 26 (dx_rem v 4).toNatClampNeg + w) 65536
theorem t_instr0 {d : Nat} (hd : 2 ≤ d) (h : ax_H) (s : Nat → Nat → Int32) (hc : ¬ s 27 0 ≤ 254) : ax_c d 426 [.ref 417] (tw_H h s) = some (.inl none, tw_H h (tw_up (tw_up s 23 0 3) 24 0 1)) := by
  obtain ⟨d, rfl, he⟩ := d_succ hd
  refine dx_app m_X3_instructs ?_
  rw [tg_27, Option.bind_some, if_neg hc, tw_vn, Option.bind_some, t_faults he, cV_v]
theorem t_instr {d : Nat} (hd : 2 ≤ d) (h : ax_H) (s s' : Nat → Nat → Int32) (hc : s 27 0 ≤ 254) {k k1 r : Nat} (i0 : ix 256 (s 27 0) = some k) (i1 : ix 256 (s 27 0 + 1) = some k1) (ir : ix 4 (dx_rem (s 25 k) 4) = some r)
    (hu : ∀ (e : Nat), e + 1 = d → ∀ y : Int32, y = secS s (s 25 k) (s 25 k1) → (if fltS s (s 25 k / 16) y = 0 then (if 12 ≤ s 25 k / 16 then (if 19 ≤ s 25 k / 16 then ax_c e 433 [.ref 417, .int (s 25 k / 16), .int (dx_rem (s 25 k / 4) 4), .int y] (tw_H h s) else ax_c e 431 [.ref 417, .int (s 25 k / 16), .int (dx_rem (s 25 k / 4) 4), .int y] (tw_H h s)) else ax_c e 428 [.ref 417, .int (s 25 k / 16), .int (dx_rem (s 25 k / 4) 4), .int y] (tw_H h s)) else ax_c e 422 [.ref 417, .int (fltS s (s 25 k / 16) y)] (tw_H h s)) = some (.inl none, tw_H h s')) : ax_c d 426 [.ref 417] (tw_H h s) = some (.inl none, tw_H h s') := by
  obtain ⟨d, rfl, he⟩ := d_succ hd
  have h76 : ∀ y : Int32, y = secS s (s 25 k) (s 25 k1) → B_X3_instructs_76 (ax_c d) y 417 (s 25 k) (dx_rem (s 25 k / 4) 4) (tw_H h s) = some (.inl none, tw_H h s') := by
    intro y hy
    have hu' := hu d rfl y hy
    refine dx_app b_X3_instructs_76 ?_
    have hf : ax_c d 427 [.ref 417, .int (s 25 k / 16), .int y] (tw_H h s) = some (.inl (some (.int (fltS s (s 25 k / 16) y))), tw_H h s) := t_faultOf he h s _ y
    rw [tw_vn, Option.bind_some, hf, cI_v]
    by_cases q : fltS s (s 25 k / 16) y = 0
    · rw [if_pos q] at hu' ⊢
      by_cases q1 : 12 ≤ s 25 k / 16
      · rw [if_pos q1] at hu' ⊢
        by_cases q2 : 19 ≤ s 25 k / 16
        · rw [if_pos q2] at hu' ⊢
          rw [tw_vn, Option.bind_some, hu', cV_v]
        · rw [if_neg q2] at hu' ⊢
          rw [tw_vn, Option.bind_some, hu', cV_v]
      · rw [if_neg q1] at hu' ⊢
        rw [tw_vn, Option.bind_some, hu', cV_v]
    · rw [if_neg q] at hu' ⊢
      rw [tw_vn, Option.bind_some, hu', cV_v]
  refine dx_app m_X3_instructs ?_
  rw [tg_27, Option.bind_some, if_pos hc]
  simp only [tg_0, tp_0, tg_1, tp_1, tr_2, tl_2, ts_2, tn_2, tr_3, tl_3, ts_3, tn_3, tr_4, tl_4, ts_4, tn_4, tr_5, tl_5, ts_5, tn_5, tr_6, tl_6, ts_6, tn_6, tr_7, tl_7, ts_7, tn_7, tr_8, tl_8, ts_8, tn_8, tr_9, tl_9, ts_9, tn_9, tr_10, tl_10, ts_10, tn_10, tr_11, tl_11, ts_11, tn_11, tr_12, tl_12, ts_12, tn_12, tr_13, tl_13, ts_13, tn_13, tg_14, tp_14, tg_15, tp_15, tg_16, tp_16, tg_17, tp_17, tg_18, tp_18, tg_19, tp_19, tr_20, tl_20, ts_20, tn_20, tr_21, tl_21, ts_21, tn_21, tg_22, tp_22, tg_23, tp_23, tg_24, tp_24, tr_25, tl_25, ts_25, tn_25, tr_26, tl_26, ts_26, tn_26, tg_27, tp_27, tg_28, tp_28, tg_29, tp_29, tg_30, tp_30, tg_31, tp_31, tg_32, tp_32, tg_33, tp_33, tg_34, tp_34, tg_35, tp_35, tr_36, tl_36, ts_36, tn_36, tg_37, tp_37, tg_38, tp_38, tg_39, tp_39, tg_40, tp_40, tr_41, tl_41, ts_41, tn_41, tr_42, tl_42, ts_42, tn_42, tg_43, tp_43, tr_44, tl_44, ts_44, tn_44, tr_45, tl_45, ts_45, tn_45, tg_46, tp_46, tg_47, tp_47, tr_48, tl_48, ts_48, tn_48, tr_49, tl_49, ts_49, tn_49, tr_50, tl_50, ts_50, tn_50, tr_51, tl_51, ts_51, tn_51, tg_52, tp_52, tr_53, tl_53, ts_53, tn_53, tr_54, tl_54, ts_54, tn_54, tg_55, tp_55, tr_56, tl_56, ts_56, tn_56, tr_57, tl_57, ts_57, tn_57, tg_58, tp_58, tg_59, tp_59, tg_60, tp_60, tr_61, tl_61, ts_61, tn_61, tr_62, tl_62, ts_62, tn_62, tr_63, tl_63, ts_63, tn_63, tr_64, tl_64, ts_64, tn_64, tr_65, tl_65, ts_65, tn_65, tr_66, tl_66, ts_66, tn_66, tr_67, tl_67, ts_67, tn_67, tr_68, tl_68, ts_68, tn_68, tr_69, tl_69, ts_69, tn_69, tr_70, tl_70, ts_70, tn_70, tr_71, tl_71, ts_71, tn_71, tr_72, tl_72, ts_72, tn_72, tr_73, tl_73, ts_73, tn_73, tw_vn, tw_up_at, upd_at, ↓reduceIte, Nat.reduceEqDiff, Nat.reduceAdd, Nat.reduceMul, Nat.reduceSub, Nat.reduceLT, Option.bind_some, Option.bind_none, lt_at, nn_ref, cI_v, cV_v, cJ_v, cR_r, cR_n, cI_x, cV_x, cJ_x, cR_x, nul_ref, nul_null, i0, i1, ir]
  by_cases q : dx_rem (s 25 k / 4) 4 = dx_rem (s 25 k) 4
  · rw [if_neg (fun z => z q)]
    exact h76 _ (by unfold secS; rw [if_pos q])
  · rw [if_pos q]
    exact h76 _ (by unfold secS; rw [if_neg q, ix_nat ir])
/-- what comes behind each step: the number of steps, the timer -/
def tickS (s : Nat → Nat → Int32) : Nat → Nat → Int32 :=
  let s1 := tw_up s 38 0 (s 38 0 + 1)
  if s 34 0 ≤ 0 then s1 else
  let s2 := tw_up (tw_up s1 35 0 (s 35 0 + 1)) 32 0 (if s 32 0 = 0 ∧ ¬ s 35 0 + 1 = s 34 0 then 0 else 1)
  tw_up s2 35 0 (if s 35 0 + 1 = s 34 0 then 0 else s 35 0 + 1)
/-- the marks of a step that begins -/
def markS (s : Nat → Nat → Int32) : Nat → Nat → Int32 := if s 38 0 < 1000 then tw_up (tw_up s 44 (s 38 0).toNatClampNeg (-1)) 45 (s 38 0).toNatClampNeg (-1) else s
theorem t_step {d : Nat} (hd : 2 ≤ d) (h : ax_H) (s s1 : Nat → Nat → Int32) (hs : 0 ≤ s 38 0) {n : Nat} (hn : s1 43 0 = Int32.ofNat n) (hn20 : n ≤ 20) (hk : s1 33 0 = 0 ∨ s1 33 0 = 1) (hb : s1 32 0 = 0 ∨ s1 32 0 = 1)
    (hu : ∀ e : Nat, e + 1 = d → (if (markS s) 46 0 ≤ 0 then (if s 31 0 = 0 ∨ (s 32 0 = 0 ∧ s 33 0 = 0) then ax_c e 426 [.ref 417] (tw_H h (markS s)) else ax_c e 421 [.ref 417] (tw_H h (markS s))) else ax_c e 420 [.ref 417] (tw_H h (markS s))) = some (.inl none, tw_H h s1)) :
    ∃ x : Int32, ax_c d 419 [.ref 417] (tw_H h s) = some (.inl none, tw_H h (tw_up (tickS s1) 33 0 x)) ∧ ((s1 33 0 = 1 ∨ anyT (tickS s1) n) → x = 1) ∧ (¬ (s1 33 0 = 1 ∨ anyT (tickS s1) n) → x = 0) := by
  obtain ⟨d, rfl, he⟩ := d_succ hd
  have tk : ∀ f, f ≠ 38 → f ≠ 35 → f ≠ 32 → tickS s1 f = s1 f := by
    intro f a b c
    unfold tickS
    split
    · show tw_up s1 38 0 _ f = _
      rw [tw_up_at, if_neg a]
    · show tw_up (tw_up (tw_up (tw_up s1 38 0 _) 35 0 _) 32 0 _) 35 0 _ f = _
      rw [tw_up_at, if_neg b, tw_up_at, if_neg c, tw_up_at, if_neg b, tw_up_at, if_neg a]
  obtain ⟨x, kc, k1, k2⟩ := t_keysCome he h (tickS s1) (n := n) (by rw [tk 43 (by decide) (by decide) (by decide)]; exact hn) hn20 (by rw [tk 33 (by decide) (by decide) (by decide)]; exact hk)
  rw [tk 33 (by decide) (by decide) (by decide)] at k1 k2
  have h127 : ∀ z : Int32, z = (if s1 32 0 = 0 ∧ ¬ s1 35 0 + 1 = s1 34 0 then 0 else 1) → ¬ s1 34 0 ≤ 0 → B_X3_stepsOnce_127 (ax_c d) 417 z 417 (tw_H h (tw_up (tw_up s1 38 0 (s1 38 0 + 1)) 35 0 (s1 35 0 + 1))) = some (.inl none, tw_H h (tw_up (tickS s1) 33 0 x)) := by
    intro z hz hi
    have e0 : tickS s1 = tw_up (tw_up (tw_up (tw_up s1 38 0 (s1 38 0 + 1)) 35 0 (s1 35 0 + 1)) 32 0 z) 35 0 (if s1 35 0 + 1 = s1 34 0 then 0 else s1 35 0 + 1) := by
      unfold tickS
      rw [if_neg hi, hz]
    refine dx_app b_X3_stepsOnce_127 ?_
    have hz2 : ax_ft .boolean (.int z) = true := by
      rw [hz]; split
      · exact ftb0
      · exact ftb1
    rw [tp_32, if_pos hz2, Option.bind_some]
    simp only [tg_0, tp_0, tg_1, tp_1, tr_2, tl_2, ts_2, tn_2, tr_3, tl_3, ts_3, tn_3, tr_4, tl_4, ts_4, tn_4, tr_5, tl_5, ts_5, tn_5, tr_6, tl_6, ts_6, tn_6, tr_7, tl_7, ts_7, tn_7, tr_8, tl_8, ts_8, tn_8, tr_9, tl_9, ts_9, tn_9, tr_10, tl_10, ts_10, tn_10, tr_11, tl_11, ts_11, tn_11, tr_12, tl_12, ts_12, tn_12, tr_13, tl_13, ts_13, tn_13, tg_14, tp_14, tg_15, tp_15, tg_16, tp_16, tg_17, tp_17, tg_18, tp_18, tg_19, tp_19, tr_20, tl_20, ts_20, tn_20, tr_21, tl_21, ts_21, tn_21, tg_22, tp_22, tg_23, tp_23, tg_24, tp_24, tr_25, tl_25, ts_25, tn_25, tr_26, tl_26, ts_26, tn_26, tg_27, tp_27, tg_28, tp_28, tg_29, tp_29, tg_30, tp_30, tg_31, tp_31, tg_32, tp_32, tg_33, tp_33, tg_34, tp_34, tg_35, tp_35, tr_36, tl_36, ts_36, tn_36, tg_37, tp_37, tg_38, tp_38, tg_39, tp_39, tg_40, tp_40, tr_41, tl_41, ts_41, tn_41, tr_42, tl_42, ts_42, tn_42, tg_43, tp_43, tr_44, tl_44, ts_44, tn_44, tr_45, tl_45, ts_45, tn_45, tg_46, tp_46, tg_47, tp_47, tr_48, tl_48, ts_48, tn_48, tr_49, tl_49, ts_49, tn_49, tr_50, tl_50, ts_50, tn_50, tr_51, tl_51, ts_51, tn_51, tg_52, tp_52, tr_53, tl_53, ts_53, tn_53, tr_54, tl_54, ts_54, tn_54, tg_55, tp_55, tr_56, tl_56, ts_56, tn_56, tr_57, tl_57, ts_57, tn_57, tg_58, tp_58, tg_59, tp_59, tg_60, tp_60, tr_61, tl_61, ts_61, tn_61, tr_62, tl_62, ts_62, tn_62, tr_63, tl_63, ts_63, tn_63, tr_64, tl_64, ts_64, tn_64, tr_65, tl_65, ts_65, tn_65, tr_66, tl_66, ts_66, tn_66, tr_67, tl_67, ts_67, tn_67, tr_68, tl_68, ts_68, tn_68, tr_69, tl_69, ts_69, tn_69, tr_70, tl_70, ts_70, tn_70, tr_71, tl_71, ts_71, tn_71, tr_72, tl_72, ts_72, tn_72, tr_73, tl_73, ts_73, tn_73, tw_vn, tw_up_at, upd_at, ↓reduceIte, Nat.reduceEqDiff, Nat.reduceAdd, Nat.reduceMul, Nat.reduceSub, Nat.reduceLT, Option.bind_some, Option.bind_none, lt_at, nn_ref, cI_v, cV_v, cJ_v, cR_r, cR_n, cI_x, cV_x, cJ_x, cR_x, nul_ref, nul_null]
    by_cases q : s1 35 0 + 1 = s1 34 0
    · rw [if_pos q] at e0
      rw [if_neg (fun w => w q), ← e0, kc, cV_v]
    · rw [if_neg q] at e0
      rw [if_pos q, ← e0, kc, cV_v]
  have h76 : ∀ u : ax_H, u = tw_H h s1 → B_X3_stepsOnce_76 (ax_c d) 417 u = some (.inl none, tw_H h (tw_up (tickS s1) 33 0 x)) := by
    intro u hu
    subst hu
    refine dx_app b_X3_stepsOnce_76 ?_
    simp only [tg_0, tp_0, tg_1, tp_1, tr_2, tl_2, ts_2, tn_2, tr_3, tl_3, ts_3, tn_3, tr_4, tl_4, ts_4, tn_4, tr_5, tl_5, ts_5, tn_5, tr_6, tl_6, ts_6, tn_6, tr_7, tl_7, ts_7, tn_7, tr_8, tl_8, ts_8, tn_8, tr_9, tl_9, ts_9, tn_9, tr_10, tl_10, ts_10, tn_10, tr_11, tl_11, ts_11, tn_11, tr_12, tl_12, ts_12, tn_12, tr_13, tl_13, ts_13, tn_13, tg_14, tp_14, tg_15, tp_15, tg_16, tp_16, tg_17, tp_17, tg_18, tp_18, tg_19, tp_19, tr_20, tl_20, ts_20, tn_20, tr_21, tl_21, ts_21, tn_21, tg_22, tp_22, tg_23, tp_23, tg_24, tp_24, tr_25, tl_25, ts_25, tn_25, tr_26, tl_26, ts_26, tn_26, tg_27, tp_27, tg_28, tp_28, tg_29, tp_29, tg_30, tp_30, tg_31, tp_31, tg_32, tp_32, tg_33, tp_33, tg_34, tp_34, tg_35, tp_35, tr_36, tl_36, ts_36, tn_36, tg_37, tp_37, tg_38, tp_38, tg_39, tp_39, tg_40, tp_40, tr_41, tl_41, ts_41, tn_41, tr_42, tl_42, ts_42, tn_42, tg_43, tp_43, tr_44, tl_44, ts_44, tn_44, tr_45, tl_45, ts_45, tn_45, tg_46, tp_46, tg_47, tp_47, tr_48, tl_48, ts_48, tn_48, tr_49, tl_49, ts_49, tn_49, tr_50, tl_50, ts_50, tn_50, tr_51, tl_51, ts_51, tn_51, tg_52, tp_52, tr_53, tl_53, ts_53, tn_53, tr_54, tl_54, ts_54, tn_54, tg_55, tp_55, tr_56, tl_56, ts_56, tn_56, tr_57, tl_57, ts_57, tn_57, tg_58, tp_58, tg_59, tp_59, tg_60, tp_60, tr_61, tl_61, ts_61, tn_61, tr_62, tl_62, ts_62, tn_62, tr_63, tl_63, ts_63, tn_63, tr_64, tl_64, ts_64, tn_64, tr_65, tl_65, ts_65, tn_65, tr_66, tl_66, ts_66, tn_66, tr_67, tl_67, ts_67, tn_67, tr_68, tl_68, ts_68, tn_68, tr_69, tl_69, ts_69, tn_69, tr_70, tl_70, ts_70, tn_70, tr_71, tl_71, ts_71, tn_71, tr_72, tl_72, ts_72, tn_72, tr_73, tl_73, ts_73, tn_73, tw_vn, tw_up_at, upd_at, ↓reduceIte, Nat.reduceEqDiff, Nat.reduceAdd, Nat.reduceMul, Nat.reduceSub, Nat.reduceLT, Option.bind_some, Option.bind_none, lt_at, nn_ref, cI_v, cV_v, cJ_v, cR_r, cR_n, cI_x, cV_x, cJ_x, cR_x, nul_ref, nul_null]
    by_cases q : s1 34 0 ≤ 0
    · have e0 : tickS s1 = tw_up s1 38 0 (s1 38 0 + 1) := by unfold tickS; rw [if_pos q]
      rw [if_pos q, ← e0, kc, cV_v]
    · rw [if_neg q]
      by_cases q1 : s1 32 0 = 0
      · rw [if_neg (fun w => w q1)]
        by_cases q2 : s1 35 0 + 1 = s1 34 0
        · rw [if_neg (fun w => w q2)]
          exact h127 1 (by rw [if_neg (fun w => w.2 q2)]) q
        · rw [if_pos q2]
          exact h127 0 (by rw [if_pos ⟨q1, q2⟩]) q
      · rw [if_pos q1]
        exact h127 1 (by rw [if_neg (fun w => q1 w.1)]) q
  have m31 : (markS s) 31 0 = s 31 0 ∧ (markS s) 32 0 = s 32 0 ∧ (markS s) 33 0 = s 33 0 := by
    unfold markS
    split <;> exact ⟨rfl, rfl, rfl⟩
  have h30 : B_X3_stepsOnce_30 (ax_c d) 417 (tw_H h (markS s)) = some (.inl none, tw_H h (tw_up (tickS s1) 33 0 x)) := by
    have hu' := hu d rfl
    refine dx_app b_X3_stepsOnce_30 ?_
    rw [tg_46, Option.bind_some]
    by_cases q0 : (markS s) 46 0 ≤ 0
    · rw [if_pos q0] at hu' ⊢
      rw [tg_31, Option.bind_some, m31.1]
      by_cases q1 : s 31 0 = 0
      · rw [if_pos (Or.inl q1)] at hu'
        rw [if_pos q1, tw_vn, Option.bind_some, hu', cV_v]
        exact h76 _ rfl
      · rw [if_neg q1, tg_32, Option.bind_some, m31.2.1]
        by_cases q2 : s 32 0 = 0
        · rw [if_neg (fun w => w q2), tg_33, Option.bind_some, m31.2.2]
          by_cases q3 : s 33 0 = 0
          · rw [if_pos (Or.inr ⟨q2, q3⟩)] at hu'
            rw [if_pos q3, tw_vn, Option.bind_some, hu', cV_v]
            exact h76 _ rfl
          · rw [if_neg (fun w => w.elim q1 (fun v => q3 v.2))] at hu'
            rw [if_neg q3, tw_vn, Option.bind_some, hu', cV_v]
            exact h76 _ rfl
        · rw [if_neg (fun w => w.elim q1 (fun v => q2 v.1))] at hu'
          rw [if_pos q2, tw_vn, Option.bind_some, hu', cV_v]
          exact h76 _ rfl
    · rw [if_neg q0] at hu' ⊢
      rw [tw_vn, Option.bind_some, hu', cV_v]
      exact h76 _ rfl
  refine ⟨x, dx_app m_X3_stepsOnce ?_, k1, k2⟩
  rw [tg_38, Option.bind_some]
  unfold markS at h30
  by_cases q : s 38 0 < 1000
  · have hi : ix 1000 (s 38 0) = some (s 38 0).toNatClampNeg := ix_mk hs (by
      rcases nat_lt (k := 1000) (by decide) q with z | z
      · exact z
      · exact absurd hs (Int32.not_le.mpr z))
    rw [if_pos q] at h30
    rw [if_neg (Int32.not_le.mpr q)]
    simp only [tg_0, tp_0, tg_1, tp_1, tr_2, tl_2, ts_2, tn_2, tr_3, tl_3, ts_3, tn_3, tr_4, tl_4, ts_4, tn_4, tr_5, tl_5, ts_5, tn_5, tr_6, tl_6, ts_6, tn_6, tr_7, tl_7, ts_7, tn_7, tr_8, tl_8, ts_8, tn_8, tr_9, tl_9, ts_9, tn_9, tr_10, tl_10, ts_10, tn_10, tr_11, tl_11, ts_11, tn_11, tr_12, tl_12, ts_12, tn_12, tr_13, tl_13, ts_13, tn_13, tg_14, tp_14, tg_15, tp_15, tg_16, tp_16, tg_17, tp_17, tg_18, tp_18, tg_19, tp_19, tr_20, tl_20, ts_20, tn_20, tr_21, tl_21, ts_21, tn_21, tg_22, tp_22, tg_23, tp_23, tg_24, tp_24, tr_25, tl_25, ts_25, tn_25, tr_26, tl_26, ts_26, tn_26, tg_27, tp_27, tg_28, tp_28, tg_29, tp_29, tg_30, tp_30, tg_31, tp_31, tg_32, tp_32, tg_33, tp_33, tg_34, tp_34, tg_35, tp_35, tr_36, tl_36, ts_36, tn_36, tg_37, tp_37, tg_38, tp_38, tg_39, tp_39, tg_40, tp_40, tr_41, tl_41, ts_41, tn_41, tr_42, tl_42, ts_42, tn_42, tg_43, tp_43, tr_44, tl_44, ts_44, tn_44, tr_45, tl_45, ts_45, tn_45, tg_46, tp_46, tg_47, tp_47, tr_48, tl_48, ts_48, tn_48, tr_49, tl_49, ts_49, tn_49, tr_50, tl_50, ts_50, tn_50, tr_51, tl_51, ts_51, tn_51, tg_52, tp_52, tr_53, tl_53, ts_53, tn_53, tr_54, tl_54, ts_54, tn_54, tg_55, tp_55, tr_56, tl_56, ts_56, tn_56, tr_57, tl_57, ts_57, tn_57, tg_58, tp_58, tg_59, tp_59, tg_60, tp_60, tr_61, tl_61, ts_61, tn_61, tr_62, tl_62, ts_62, tn_62, tr_63, tl_63, ts_63, tn_63, tr_64, tl_64, ts_64, tn_64, tr_65, tl_65, ts_65, tn_65, tr_66, tl_66, ts_66, tn_66, tr_67, tl_67, ts_67, tn_67, tr_68, tl_68, ts_68, tn_68, tr_69, tl_69, ts_69, tn_69, tr_70, tl_70, ts_70, tn_70, tr_71, tl_71, ts_71, tn_71, tr_72, tl_72, ts_72, tn_72, tr_73, tl_73, ts_73, tn_73, tw_vn, tw_up_at, upd_at, ↓reduceIte, Nat.reduceEqDiff, Nat.reduceAdd, Nat.reduceMul, Nat.reduceSub, Nat.reduceLT, Option.bind_some, Option.bind_none, lt_at, nn_ref, cI_v, cV_v, cJ_v, cR_r, cR_n, cI_x, cV_x, cJ_x, cR_x, nul_ref, nul_null, hi]
    exact h30
  · rw [if_neg q] at h30
    rw [if_pos (Int32.not_lt.mp q)]
    exact h30
