/-! the twin: rows filled; starting, sleeping, waking -/
/-- the first n words of the row f are g's -/
def tw_fl (s : Nat → Nat → Int32) (f n : Nat) (g : Nat → Int32) : Nat → Nat → Int32 := fun a => if a = f then (fun j => if j < n then g j else s f j) else s a
theorem fl_at (s : Nat → Nat → Int32) (f n : Nat) (g : Nat → Int32) (a : Nat) : tw_fl s f n g a = if a = f then (fun j => if j < n then g j else s f j) else s a := rfl
theorem fl_ne {s : Nat → Nat → Int32} {f n : Nat} {g : Nat → Int32} {a : Nat} (h : a ≠ f) : tw_fl s f n g a = s a := if_neg h
theorem fl_zero (s : Nat → Nat → Int32) (f : Nat) (g : Nat → Int32) : tw_fl s f 0 g = s := by
  funext a
  rw [fl_at]
  by_cases e : a = f
  · rw [if_pos e, e]
    funext j
    rw [if_neg (Nat.not_lt_zero _)]
  · rw [if_neg e]
theorem fl_up (s : Nat → Nat → Int32) (f k : Nat) (g : Nat → Int32) : tw_up (tw_fl s f k g) f k (g k) = tw_fl s f (k + 1) g := by
  funext a
  rw [tw_up_at, fl_at, fl_at, fl_at]
  by_cases e : a = f
  · rw [if_pos e, if_pos e, if_pos rfl]
    funext j
    rw [upd_at]
    by_cases e1 : j = k
    · rw [if_pos e1, if_pos (by omega), e1]
    · rw [if_neg e1]
      by_cases e2 : j < k
      · rw [if_pos e2, if_pos (by omega)]
      · rw [if_neg e2, if_neg (by omega)]
  · rw [if_neg e, if_neg e, if_neg e]
theorem i_ge_not {n k : Nat} (h : k < n) (hn : n < 2 ^ 31) : ¬ Int32.ofNat n ≤ Int32.ofNat k := fun z => by
  have := (i_le hn (by omega)).mp z
  omega
theorem nge256 {k : Nat} (h : k < 256) : ¬ (256 : Int32) ≤ Int32.ofNat k := i_ge_not (n := 256) h (by decide)
theorem nge4 {k : Nat} (h : k < 4) : ¬ (4 : Int32) ≤ Int32.ofNat k := i_ge_not (n := 4) h (by decide)
theorem nge8 {k : Nat} (h : k < 8) : ¬ (8 : Int32) ≤ Int32.ofNat k := i_ge_not (n := 8) h (by decide)
theorem t_copies {d : Nat} (hd : 1 ≤ d) (h : ax_H) (s : Nat → Nat → Int32) (p q f1 f2 : Nat) (hne : f1 ≠ f2) (hl : ∀ (t : Nat → Nat → Int32) (i : Int32), dx_lI 0 (.ref p) i (tw_H h t) = (ix 256 i).bind fun k => some (t f1 k)) (hs : ∀ (t : Nat → Nat → Int32) (i x : Int32), dx_sI 0 (.ref q) i x (tw_H h t) = (ix 256 i).bind fun j => some (tw_H h (tw_up t f2 j x))) : ax_c d 409 [.ref p, .ref q] (tw_H h s) = some (.inl none, tw_H h (tw_fl s f2 256 (s f1))) := by
  obtain ⟨d, rfl, he⟩ := d_succ hd
  refine dx_app (m_X3_copies rfl rfl) ?_
  have loop : ∀ m k : Nat, k + m = 256 → B_X3_copies_2 (ax_c d) (.ref p) (.ref q) (Int32.ofNat k) (tw_H h (tw_fl s f2 k (s f1))) = some (.inl none, tw_H h (tw_fl s f2 256 (s f1))) := by
    intro m
    induction m with
    | zero =>
      intro k hk
      obtain rfl : k = 256 := by omega
      exact dx_app (b_X3_copies_2 rfl rfl) (if_pos (by decide))
    | succ m ih =>
      intro k hk
      have hi : ix 256 (Int32.ofNat k) = some k := ix_of rfl (by omega) (by omega)
      refine dx_app (b_X3_copies_2 rfl rfl) ?_
      rw [if_neg (nge256 (show k < 256 by omega)), hl, hi, Option.bind_some, Option.bind_some, hs, hi, Option.bind_some, Option.bind_some, lt_at, fl_ne hne, fl_up, show Int32.ofNat k + 1 = Int32.ofNat (k + 1) from i_add k 1]
      exact ih (k + 1) (by omega)
  have := loop 256 0 rfl
  rw [fl_zero] at this
  exact this
def formS (s : Nat → Nat → Int32) : Nat → Nat → Int32 := tw_up (tw_up (tw_fl s 50 256 fun _ => 0) 50 32 255) 52 0 0
theorem t_formats {d : Nat} (hd : 1 ≤ d) (h : ax_H) (s : Nat → Nat → Int32) : ax_c d 371 [.ref 417] (tw_H h s) = some (.inl none, tw_H h (formS s)) := by
  obtain ⟨d, rfl, he⟩ := d_succ hd
  refine dx_app m_X3_formats ?_
  have i32 : ix 256 32 = some 32 := by decide
  have loop : ∀ m k : Nat, k + m = 256 → B_X3_formats_2 (ax_c d) 417 (Int32.ofNat k) (tw_H h (tw_fl s 50 k fun _ => 0)) = some (.inl none, tw_H h (formS s)) := by
    intro m
    induction m with
    | zero =>
      intro k hk
      obtain rfl : k = 256 := by omega
      refine dx_app b_X3_formats_2 ?_
      rw [if_pos (by decide)]
      simp only [tg_0, tp_0, tg_1, tp_1, tr_2, tl_2, ts_2, tn_2, tr_3, tl_3, ts_3, tn_3, tr_4, tl_4, ts_4, tn_4, tr_5, tl_5, ts_5, tn_5, tr_6, tl_6, ts_6, tn_6, tr_7, tl_7, ts_7, tn_7, tr_8, tl_8, ts_8, tn_8, tr_9, tl_9, ts_9, tn_9, tr_10, tl_10, ts_10, tn_10, tr_11, tl_11, ts_11, tn_11, tr_12, tl_12, ts_12, tn_12, tr_13, tl_13, ts_13, tn_13, tg_14, tp_14, tg_15, tp_15, tg_16, tp_16, tg_17, tp_17, tg_18, tp_18, tg_19, tp_19, tr_20, tl_20, ts_20, tn_20, tr_21, tl_21, ts_21, tn_21, tg_22, tp_22, tg_23, tp_23, tg_24, tp_24, tr_25, tl_25, ts_25, tn_25, tr_26, tl_26, ts_26, tn_26, tg_27, tp_27, tg_28, tp_28, tg_29, tp_29, tg_30, tp_30, tg_31, tp_31, tg_32, tp_32, tg_33, tp_33, tg_34, tp_34, tg_35, tp_35, tr_36, tl_36, ts_36, tn_36, tg_37, tp_37, tg_38, tp_38, tg_39, tp_39, tg_40, tp_40, tr_41, tl_41, ts_41, tn_41, tr_42, tl_42, ts_42, tn_42, tg_43, tp_43, tr_44, tl_44, ts_44, tn_44, tr_45, tl_45, ts_45, tn_45, tg_46, tp_46, tg_47, tp_47, tr_48, tl_48, ts_48, tn_48, tr_49, tl_49, ts_49, tn_49, tr_50, tl_50, ts_50, tn_50, tr_51, tl_51, ts_51, tn_51, tg_52, tp_52, tr_53, tl_53, ts_53, tn_53, tr_54, tl_54, ts_54, tn_54, tg_55, tp_55, tr_56, tl_56, ts_56, tn_56, tr_57, tl_57, ts_57, tn_57, tg_58, tp_58, tg_59, tp_59, tg_60, tp_60, tr_61, tl_61, ts_61, tn_61, tr_62, tl_62, ts_62, tn_62, tr_63, tl_63, ts_63, tn_63, tr_64, tl_64, ts_64, tn_64, tr_65, tl_65, ts_65, tn_65, tr_66, tl_66, ts_66, tn_66, tr_67, tl_67, ts_67, tn_67, tr_68, tl_68, ts_68, tn_68, tr_69, tl_69, ts_69, tn_69, tr_70, tl_70, ts_70, tn_70, tr_71, tl_71, ts_71, tn_71, tr_72, tl_72, ts_72, tn_72, tr_73, tl_73, ts_73, tn_73, tw_vn, tw_up_at, upd_at, ↓reduceIte, Nat.reduceEqDiff, Nat.reduceAdd, Nat.reduceMul, Nat.reduceSub, Nat.reduceLT, Option.bind_some, Option.bind_none, lt_at, nn_ref, cI_v, cV_v, cJ_v, cR_r, cR_n, cI_x, cV_x, cJ_x, cR_x, nul_ref, nul_null, i32, formS]
    | succ m ih =>
      intro k hk
      have hi : ix 256 (Int32.ofNat k) = some k := ix_of rfl (by omega) (by omega)
      refine dx_app b_X3_formats_2 ?_
      rw [if_neg (nge256 (show k < 256 by omega)), tr_50, Option.bind_some, ts_50, hi, Option.bind_some, Option.bind_some, lt_at, show Int32.ofNat k + 1 = Int32.ofNat (k + 1) from i_add k 1]
      have := ih (k + 1) (by omega)
      rw [← fl_up] at this
      exact this
  have := loop 256 0 rfl
  rw [fl_zero] at this
  exact this
def sleepS (s : Nat → Nat → Int32) : Nat → Nat → Int32 :=
  tw_up (tw_up (tw_up (tw_up (tw_up (tw_up (tw_up (tw_up (tw_up (tw_up (tw_up (tw_up (tw_up (tw_fl (tw_fl (tw_up (tw_up s 23 0 0) 24 0 0) 25 256 fun _ => 0) 26 4 fun _ => 0) 27 0 0) 28 0 0) 29 0 0) 30 0 0) 31 0 0) 32 0 0) 33 0 0) 34 0 0) 35 0 0) 37 0 0) 38 0 0) 39 0 0) 46 0 0
theorem t_sleeps {d : Nat} (hd : 1 ≤ d) (h : ax_H) (s : Nat → Nat → Int32) : ax_c d 411 [.ref 417] (tw_H h s) = some (.inl none, tw_H h (sleepS s)) := by
  obtain ⟨d, rfl, he⟩ := d_succ hd
  refine dx_app m_X3_sleeps ?_
  rw [tp_23, Option.bind_some, tp_24, Option.bind_some]
  have l2 : ∀ m k : Nat, k + m = 4 → B_X3_sleeps_34 (ax_c d) 417 (Int32.ofNat k) (tw_H h (tw_fl (tw_fl (tw_up (tw_up s 23 0 0) 24 0 0) 25 256 fun _ => 0) 26 k fun _ => 0)) = some (.inl none, tw_H h (sleepS s)) := by
    intro m
    induction m with
    | zero =>
      intro k hk
      obtain rfl : k = 4 := by omega
      refine dx_app b_X3_sleeps_34 ?_
      rw [if_pos (by decide)]
      simp only [tg_0, tp_0, tg_1, tp_1, tr_2, tl_2, ts_2, tn_2, tr_3, tl_3, ts_3, tn_3, tr_4, tl_4, ts_4, tn_4, tr_5, tl_5, ts_5, tn_5, tr_6, tl_6, ts_6, tn_6, tr_7, tl_7, ts_7, tn_7, tr_8, tl_8, ts_8, tn_8, tr_9, tl_9, ts_9, tn_9, tr_10, tl_10, ts_10, tn_10, tr_11, tl_11, ts_11, tn_11, tr_12, tl_12, ts_12, tn_12, tr_13, tl_13, ts_13, tn_13, tg_14, tp_14, tg_15, tp_15, tg_16, tp_16, tg_17, tp_17, tg_18, tp_18, tg_19, tp_19, tr_20, tl_20, ts_20, tn_20, tr_21, tl_21, ts_21, tn_21, tg_22, tp_22, tg_23, tp_23, tg_24, tp_24, tr_25, tl_25, ts_25, tn_25, tr_26, tl_26, ts_26, tn_26, tg_27, tp_27, tg_28, tp_28, tg_29, tp_29, tg_30, tp_30, tg_31, tp_31, tg_32, tp_32, tg_33, tp_33, tg_34, tp_34, tg_35, tp_35, tr_36, tl_36, ts_36, tn_36, tg_37, tp_37, tg_38, tp_38, tg_39, tp_39, tg_40, tp_40, tr_41, tl_41, ts_41, tn_41, tr_42, tl_42, ts_42, tn_42, tg_43, tp_43, tr_44, tl_44, ts_44, tn_44, tr_45, tl_45, ts_45, tn_45, tg_46, tp_46, tg_47, tp_47, tr_48, tl_48, ts_48, tn_48, tr_49, tl_49, ts_49, tn_49, tr_50, tl_50, ts_50, tn_50, tr_51, tl_51, ts_51, tn_51, tg_52, tp_52, tr_53, tl_53, ts_53, tn_53, tr_54, tl_54, ts_54, tn_54, tg_55, tp_55, tr_56, tl_56, ts_56, tn_56, tr_57, tl_57, ts_57, tn_57, tg_58, tp_58, tg_59, tp_59, tg_60, tp_60, tr_61, tl_61, ts_61, tn_61, tr_62, tl_62, ts_62, tn_62, tr_63, tl_63, ts_63, tn_63, tr_64, tl_64, ts_64, tn_64, tr_65, tl_65, ts_65, tn_65, tr_66, tl_66, ts_66, tn_66, tr_67, tl_67, ts_67, tn_67, tr_68, tl_68, ts_68, tn_68, tr_69, tl_69, ts_69, tn_69, tr_70, tl_70, ts_70, tn_70, tr_71, tl_71, ts_71, tn_71, tr_72, tl_72, ts_72, tn_72, tr_73, tl_73, ts_73, tn_73, tw_vn, tw_up_at, upd_at, ↓reduceIte, Nat.reduceEqDiff, Nat.reduceAdd, Nat.reduceMul, Nat.reduceSub, Nat.reduceLT, Option.bind_some, Option.bind_none, lt_at, nn_ref, cI_v, cV_v, cJ_v, cR_r, cR_n, cI_x, cV_x, cJ_x, cR_x, nul_ref, nul_null, ftb0, sleepS]
    | succ m ih =>
      intro k hk
      have hi : ix 4 (Int32.ofNat k) = some k := ix_of rfl (by omega) (by omega)
      refine dx_app b_X3_sleeps_34 ?_
      rw [if_neg (nge4 (show k < 4 by omega)), tr_26, Option.bind_some, ts_26, hi, Option.bind_some, Option.bind_some, lt_at, show Int32.ofNat k + 1 = Int32.ofNat (k + 1) from i_add k 1]
      have := ih (k + 1) (by omega)
      rw [← fl_up] at this
      exact this
  have l1 : ∀ m k : Nat, k + m = 256 → B_X3_sleeps_12 (ax_c d) 417 (Int32.ofNat k) (tw_H h (tw_fl (tw_up (tw_up s 23 0 0) 24 0 0) 25 k fun _ => 0)) = some (.inl none, tw_H h (sleepS s)) := by
    intro m
    induction m with
    | zero =>
      intro k hk
      obtain rfl : k = 256 := by omega
      refine dx_app b_X3_sleeps_12 ?_
      rw [if_pos (by decide)]
      have := l2 4 0 rfl
      rw [fl_zero] at this
      exact this
    | succ m ih =>
      intro k hk
      have hi : ix 256 (Int32.ofNat k) = some k := ix_of rfl (by omega) (by omega)
      refine dx_app b_X3_sleeps_12 ?_
      rw [if_neg (nge256 (show k < 256 by omega)), tr_25, Option.bind_some, ts_25, hi, Option.bind_some, Option.bind_some, lt_at, show Int32.ofNat k + 1 = Int32.ofNat (k + 1) from i_add k 1]
      have := ih (k + 1) (by omega)
      rw [← fl_up] at this
      exact this
  have := l1 256 0 rfl
  rw [fl_zero] at this
  exact this
def wakeS (s : Nat → Nat → Int32) (g : Nat → Int32) : Nat → Nat → Int32 := tw_up (tw_up (tw_up (tw_fl (sleepS s) 25 256 g) 23 0 1) 27 0 8) 28 0 256
theorem t_wakes {d : Nat} (hd : 2 ≤ d) (h : ax_H) (s : Nat → Nat → Int32) (p f : Nat) (hne : f ≠ 25) (hf : sleepS s f = s f) (hl : ∀ (t : Nat → Nat → Int32) (i : Int32), dx_lI 0 (.ref p) i (tw_H h t) = (ix 256 i).bind fun k => some (t f k)) : ax_c d 410 [.ref 417, .ref p] (tw_H h s) = some (.inl none, tw_H h (wakeS s (s f))) := by
  obtain ⟨d, rfl, he⟩ := d_succ hd
  refine dx_app (m_X3_wakes rfl) ?_
  rw [tw_vn, Option.bind_some, t_sleeps he, cV_v]
  have loop : ∀ m k : Nat, k + m = 256 → B_X3_wakes_6 (ax_c d) 417 (.ref p) (Int32.ofNat k) (tw_H h (tw_fl (sleepS s) 25 k (s f))) = some (.inl none, tw_H h (wakeS s (s f))) := by
    intro m
    induction m with
    | zero =>
      intro k hk
      obtain rfl : k = 256 := by omega
      refine dx_app (b_X3_wakes_6 rfl) ?_
      rw [if_pos (by decide)]
      simp only [tg_0, tp_0, tg_1, tp_1, tr_2, tl_2, ts_2, tn_2, tr_3, tl_3, ts_3, tn_3, tr_4, tl_4, ts_4, tn_4, tr_5, tl_5, ts_5, tn_5, tr_6, tl_6, ts_6, tn_6, tr_7, tl_7, ts_7, tn_7, tr_8, tl_8, ts_8, tn_8, tr_9, tl_9, ts_9, tn_9, tr_10, tl_10, ts_10, tn_10, tr_11, tl_11, ts_11, tn_11, tr_12, tl_12, ts_12, tn_12, tr_13, tl_13, ts_13, tn_13, tg_14, tp_14, tg_15, tp_15, tg_16, tp_16, tg_17, tp_17, tg_18, tp_18, tg_19, tp_19, tr_20, tl_20, ts_20, tn_20, tr_21, tl_21, ts_21, tn_21, tg_22, tp_22, tg_23, tp_23, tg_24, tp_24, tr_25, tl_25, ts_25, tn_25, tr_26, tl_26, ts_26, tn_26, tg_27, tp_27, tg_28, tp_28, tg_29, tp_29, tg_30, tp_30, tg_31, tp_31, tg_32, tp_32, tg_33, tp_33, tg_34, tp_34, tg_35, tp_35, tr_36, tl_36, ts_36, tn_36, tg_37, tp_37, tg_38, tp_38, tg_39, tp_39, tg_40, tp_40, tr_41, tl_41, ts_41, tn_41, tr_42, tl_42, ts_42, tn_42, tg_43, tp_43, tr_44, tl_44, ts_44, tn_44, tr_45, tl_45, ts_45, tn_45, tg_46, tp_46, tg_47, tp_47, tr_48, tl_48, ts_48, tn_48, tr_49, tl_49, ts_49, tn_49, tr_50, tl_50, ts_50, tn_50, tr_51, tl_51, ts_51, tn_51, tg_52, tp_52, tr_53, tl_53, ts_53, tn_53, tr_54, tl_54, ts_54, tn_54, tg_55, tp_55, tr_56, tl_56, ts_56, tn_56, tr_57, tl_57, ts_57, tn_57, tg_58, tp_58, tg_59, tp_59, tg_60, tp_60, tr_61, tl_61, ts_61, tn_61, tr_62, tl_62, ts_62, tn_62, tr_63, tl_63, ts_63, tn_63, tr_64, tl_64, ts_64, tn_64, tr_65, tl_65, ts_65, tn_65, tr_66, tl_66, ts_66, tn_66, tr_67, tl_67, ts_67, tn_67, tr_68, tl_68, ts_68, tn_68, tr_69, tl_69, ts_69, tn_69, tr_70, tl_70, ts_70, tn_70, tr_71, tl_71, ts_71, tn_71, tr_72, tl_72, ts_72, tn_72, tr_73, tl_73, ts_73, tn_73, tw_vn, tw_up_at, upd_at, ↓reduceIte, Nat.reduceEqDiff, Nat.reduceAdd, Nat.reduceMul, Nat.reduceSub, Nat.reduceLT, Option.bind_some, Option.bind_none, lt_at, nn_ref, cI_v, cV_v, cJ_v, cR_r, cR_n, cI_x, cV_x, cJ_x, cR_x, nul_ref, nul_null, wakeS]
    | succ m ih =>
      intro k hk
      have hi : ix 256 (Int32.ofNat k) = some k := ix_of rfl (by omega) (by omega)
      refine dx_app (b_X3_wakes_6 rfl) ?_
      rw [if_neg (nge256 (show k < 256 by omega)), tr_25, Option.bind_some, hl, hi, Option.bind_some, Option.bind_some, ts_25, hi, Option.bind_some, Option.bind_some, lt_at, show Int32.ofNat k + 1 = Int32.ofNat (k + 1) from i_add k 1, fl_ne hne, hf, fl_up]
      exact ih (k + 1) (by omega)
  have := loop 256 0 rfl
  rw [fl_zero] at this
  exact this
