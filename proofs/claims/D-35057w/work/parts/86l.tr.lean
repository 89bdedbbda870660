/-! the twin: what a file call answers -/
def szF (s : Nat → Nat → Int32) (n : Nat) : Int32 := s 50 (40 + 4 * n + 1)
def resA (s : Nat → Nat → Int32) (call : Int32) (n : Nat) : Int32 :=
  if call = 1 then (if szF s n = 16 then 2 else if dx_rem (szF s n) 8 = 0 ∧ freeF (s 50) = -1 then 3 else 0)
  else if (call = 2 ∨ call = 3) ∧ ¬ s 26 1 < szF s n then 2 else 0
def resF (s : Nat → Nat → Int32) (call file : Int32) (n : Nat) : Int32 :=
  if call = 0 then (if s 26 0 = 0 ∨ ¬ file = -1 then 1 else if findF (s 50) 0 = -1 then 2 else 0)
  else if ¬ call ≤ 6 then 9
  else if s 26 0 = 0 ∨ file = -1 ∨ (call = 6 ∧ s 26 1 = 0) then 1
  else resA s call n
theorem t_resultOf {d : Nat} (hd : 4 ≤ d) (h : ax_H) (s : Nat → Nat → Int32) (call file : Int32) (n : Nat) (hf : file = -1 ∨ (file = Int32.ofNat n ∧ n < 6)) : ax_c d 436 [.ref 417, .int call, .int file] (tw_H h s) = some (.inl (some (.int (resF s call file n))), tw_H h s) := by
  obtain ⟨d, rfl, he⟩ := d_succ hd
  have i0 : ix 4 0 = some 0 := by decide
  have i1 : ix 4 1 = some 1 := by decide
  have h151 : ∀ z : Int32, B_X3_resultOf_151 (ax_c d) 417 z (tw_H h s) = some (.inl (some (.int (if s 26 1 < z then 0 else 2))), tw_H h s) := by
    intro z
    refine dx_app b_X3_resultOf_151 ?_
    simp only [tg_0, tp_0, tg_1, tp_1, tr_2, tl_2, ts_2, tn_2, tr_3, tl_3, ts_3, tn_3, tr_4, tl_4, ts_4, tn_4, tr_5, tl_5, ts_5, tn_5, tr_6, tl_6, ts_6, tn_6, tr_7, tl_7, ts_7, tn_7, tr_8, tl_8, ts_8, tn_8, tr_9, tl_9, ts_9, tn_9, tr_10, tl_10, ts_10, tn_10, tr_11, tl_11, ts_11, tn_11, tr_12, tl_12, ts_12, tn_12, tr_13, tl_13, ts_13, tn_13, tg_14, tp_14, tg_15, tp_15, tg_16, tp_16, tg_17, tp_17, tg_18, tp_18, tg_19, tp_19, tr_20, tl_20, ts_20, tn_20, tr_21, tl_21, ts_21, tn_21, tg_22, tp_22, tg_23, tp_23, tg_24, tp_24, tr_25, tl_25, ts_25, tn_25, tr_26, tl_26, ts_26, tn_26, tg_27, tp_27, tg_28, tp_28, tg_29, tp_29, tg_30, tp_30, tg_31, tp_31, tg_32, tp_32, tg_33, tp_33, tg_34, tp_34, tg_35, tp_35, tr_36, tl_36, ts_36, tn_36, tg_37, tp_37, tg_38, tp_38, tg_39, tp_39, tg_40, tp_40, tr_41, tl_41, ts_41, tn_41, tr_42, tl_42, ts_42, tn_42, tg_43, tp_43, tr_44, tl_44, ts_44, tn_44, tr_45, tl_45, ts_45, tn_45, tg_46, tp_46, tg_47, tp_47, tr_48, tl_48, ts_48, tn_48, tr_49, tl_49, ts_49, tn_49, tr_50, tl_50, ts_50, tn_50, tr_51, tl_51, ts_51, tn_51, tg_52, tp_52, tr_53, tl_53, ts_53, tn_53, tr_54, tl_54, ts_54, tn_54, tg_55, tp_55, tr_56, tl_56, ts_56, tn_56, tr_57, tl_57, ts_57, tn_57, tg_58, tp_58, tg_59, tp_59, tg_60, tp_60, tr_61, tl_61, ts_61, tn_61, tr_62, tl_62, ts_62, tn_62, tr_63, tl_63, ts_63, tn_63, tr_64, tl_64, ts_64, tn_64, tr_65, tl_65, ts_65, tn_65, tr_66, tl_66, ts_66, tn_66, tr_67, tl_67, ts_67, tn_67, tr_68, tl_68, ts_68, tn_68, tr_69, tl_69, ts_69, tn_69, tr_70, tl_70, ts_70, tn_70, tr_71, tl_71, ts_71, tn_71, tr_72, tl_72, ts_72, tn_72, tr_73, tl_73, ts_73, tn_73, tw_vn, tw_up_at, upd_at, ↓reduceIte, Nat.reduceEqDiff, Nat.reduceAdd, Nat.reduceMul, Nat.reduceSub, Nat.reduceLT, Option.bind_some, Option.bind_none, lt_at, nn_ref, cI_v, cV_v, cJ_v, cR_r, cR_n, cI_x, cV_x, cJ_x, cR_x, nul_ref, nul_null, i1]
    split <;> rfl
  have h90 : ¬ file = -1 → B_X3_resultOf_90 (ax_c d) 417 call file (tw_H h s) = some (.inl (some (.int (resA s call n))), tw_H h s) := by
    intro hne
    obtain ⟨rfl, hn6⟩ := hf.resolve_left hne
    have hi : ix 256 (40 + 4 * Int32.ofNat n + 1) = some (40 + 4 * n + 1) := ix_of (by rw [i_entry]; exact i_add _ 1) (by omega) (by omega)
    refine dx_app b_X3_resultOf_90 ?_
    rw [tr_50, Option.bind_some, t_entry (by omega), cI_v, tl_50, hi, Option.bind_some, Option.bind_some]
    rw [show s 50 (40 + 4 * n + 1) = szF s n from rfl]
    unfold resA
    by_cases q1 : call = 1
    · rw [if_neg (fun z => z q1), if_pos q1]
      by_cases q2 : szF s n = 16
      · rw [if_neg (fun z => z q2), if_pos q2]
      · rw [if_pos q2, if_neg q2]
        by_cases q3 : dx_rem (szF s n) 8 = 0
        · rw [if_neg (fun z => z q3), tw_vn, Option.bind_some, t_freeBlock (by omega), cI_v]
          by_cases q4 : freeF (s 50) = -1
          · rw [if_neg (fun z => z q4), if_pos ⟨q3, q4⟩]
          · rw [if_pos q4, if_neg (fun z => q4 z.2)]
        · rw [if_pos q3, if_neg (fun z => q3 z.1)]
    · rw [if_pos q1, if_neg q1]
      by_cases q2 : call = 2
      · rw [if_pos q2, h151]
        by_cases q4 : s 26 1 < szF s n
        · rw [if_pos q4, if_neg (fun z => z.2 q4)]
        · rw [if_neg q4, if_pos ⟨Or.inl q2, q4⟩]
      · rw [if_neg q2]
        by_cases q3 : call = 3
        · rw [if_neg (fun z => z q3), h151]
          by_cases q4 : s 26 1 < szF s n
          · rw [if_pos q4, if_neg (fun z => z.2 q4)]
          · rw [if_neg q4, if_pos ⟨Or.inr q3, q4⟩]
        · rw [if_pos q3, if_neg (fun z => z.1.elim q2 q3)]
  have h19 : ∀ z : Int32, ((z = 0 ∧ ¬ s 26 0 = 0 ∧ ¬ file = -1) ∨ (z = 1 ∧ (s 26 0 = 0 ∨ file = -1))) → B_X3_resultOf_19 (ax_c d) z 417 call file (tw_H h s) = some (.inl (some (.int (resF s call file n))), tw_H h s) := by
    intro z hz
    refine dx_app b_X3_resultOf_19 ?_
    unfold resF
    by_cases q0 : call = 0
    · rw [if_neg (fun w => w q0), if_pos q0, tr_26, Option.bind_some, tl_26, i0, Option.bind_some, Option.bind_some]
      by_cases q1 : s 26 0 = 0
      · rw [if_pos q1, if_pos (Or.inl q1)]
      · rw [if_neg q1]
        by_cases q2 : file = -1
        · rw [if_pos q2, if_neg (fun w => w.elim q1 (fun v => v q2)), tr_50, Option.bind_some, t_find (by omega) h s _ 50 (tl_50 h), cI_v]
          by_cases q3 : findF (s 50) 0 = -1
          · rw [if_neg (fun w => w q3), if_pos q3]
          · rw [if_pos q3, if_neg q3]
        · rw [if_neg q2, if_pos (Or.inr q2)]
    · rw [if_pos q0, if_neg q0]
      by_cases q6 : call ≤ 6
      · rw [if_pos q6, if_neg (show ¬ ¬ call ≤ 6 from fun w => w q6)]
        rcases hz with ⟨rfl, a1, a2⟩ | ⟨rfl, a1⟩
        · rw [if_neg (show ¬ ¬ (0 : Int32) = 0 by decide)]
          by_cases q7 : call = 6
          · rw [if_neg (show ¬ ¬ call = 6 from fun w => w q7), tr_26, Option.bind_some, tl_26, i1, Option.bind_some, Option.bind_some]
            by_cases q8 : s 26 1 = 0
            · rw [if_neg (fun w => w q8), if_pos (Or.inr (Or.inr ⟨q7, q8⟩))]
            · rw [if_pos q8, if_neg (fun w => w.elim a1 (fun v => v.elim a2 (fun u => q8 u.2)))]
              exact h90 a2
          · rw [if_pos q7, if_neg (fun w => w.elim a1 (fun v => v.elim a2 (fun u => q7 u.1)))]
            exact h90 a2
        · rw [if_pos (show ¬ (1 : Int32) = 0 by decide), if_pos (a1.elim Or.inl (fun v => Or.inr (Or.inl v)))]
      · rw [if_neg q6, if_pos q6]
  refine dx_app m_X3_resultOf ?_
  rw [tr_26, Option.bind_some, tl_26, i0, Option.bind_some, Option.bind_some]
  by_cases q1 : s 26 0 = 0
  · rw [if_pos q1]
    exact h19 1 (Or.inr ⟨rfl, Or.inl q1⟩)
  · rw [if_neg q1]
    by_cases q2 : file = -1
    · rw [if_neg (fun w => w q2)]
      exact h19 1 (Or.inr ⟨rfl, Or.inr q2⟩)
    · rw [if_pos q2]
      exact h19 0 (Or.inl ⟨rfl, q1, q2⟩)
