/-! the twin: the log's head, a block written -/
/-- n words of the row f from the place o are g's -/
def tw_fo (s : Nat → Nat → Int32) (f o n : Nat) (g : Nat → Int32) : Nat → Nat → Int32 := fun a => if a = f then (fun j => if o ≤ j ∧ j < o + n then g (j - o) else s f j) else s a
theorem fo_at (s : Nat → Nat → Int32) (f o n : Nat) (g : Nat → Int32) (a : Nat) : tw_fo s f o n g a = if a = f then (fun j => if o ≤ j ∧ j < o + n then g (j - o) else s f j) else s a := rfl
theorem fo_ne {s : Nat → Nat → Int32} {f o n : Nat} {g : Nat → Int32} {a : Nat} (h : a ≠ f) : tw_fo s f o n g a = s a := if_neg h
theorem fo_zero (s : Nat → Nat → Int32) (f o : Nat) (g : Nat → Int32) : tw_fo s f o 0 g = s := by
  funext a
  rw [fo_at]
  by_cases e : a = f
  · rw [if_pos e, e]
    funext j
    rw [if_neg (by omega)]
  · rw [if_neg e]
theorem fo_up (s : Nat → Nat → Int32) (f o k : Nat) (g : Nat → Int32) : tw_up (tw_fo s f o k g) f (o + k) (g k) = tw_fo s f o (k + 1) g := by
  funext a
  rw [tw_up_at, fo_at, fo_at, fo_at]
  by_cases e : a = f
  · rw [if_pos e, if_pos e, if_pos rfl]
    funext j
    rw [upd_at]
    by_cases e1 : j = o + k
    · rw [if_pos e1, if_pos (by omega), e1, Nat.add_sub_cancel_left]
    · rw [if_neg e1]
      by_cases e2 : o ≤ j ∧ j < o + k
      · rw [if_pos e2, if_pos (by omega)]
      · rw [if_neg e2, if_neg (by omega)]
  · rw [if_neg e, if_neg e, if_neg e]
def sumT (g : Nat → Int32) (a : Int32) : Nat → Int32
  | 0 => a
  | n + 1 => sumT g a n + g n
def headS (s : Nat → Nat → Int32) (m : Nat) : Nat → Nat → Int32 := tw_up (tw_fo (tw_up (tw_fl s 50 8 fun _ => 0) 50 0 (s 47 0)) 50 1 m (s 48)) 50 4 (dx_rem (sumT (s 49) (sumT (s 48) (s 47 0) m) (8 * m)) 65536)
theorem t_writesHead {d : Nat} (hd : 1 ≤ d) (h : ax_H) (s : Nat → Nat → Int32) (full : Int32) {m : Nat} (hm : s 47 0 = Int32.ofNat m) (hm3 : m ≤ 3) : ax_c d 408 [.ref 417, .int full] (tw_H h s) = some (.inl none, tw_H h (if full = 0 then tw_fl s 50 8 fun _ => 0 else headS s m)) := by
  obtain ⟨d, rfl, he⟩ := d_succ hd
  refine dx_app m_X3_writesHead ?_
  have i4 : ix 256 4 = some 4 := by decide
  have i0 : ix 256 0 = some 0 := by decide
  have l3 : ∀ n k : Nat, k + n = 8 * m → B_X3_writesHead_82 (ax_c d) 417 (sumT (s 49) (sumT (s 48) (s 47 0) m) k) (Int32.ofNat k) (tw_H h (tw_fo (tw_up (tw_fl s 50 8 fun _ => 0) 50 0 (s 47 0)) 50 1 m (s 48))) = some (.inl none, tw_H h (headS s m)) := by
    intro n
    induction n with
    | zero =>
      intro k hk
      obtain rfl : k = 8 * m := by omega
      refine dx_app b_X3_writesHead_82 ?_
      rw [tg_47, Option.bind_some, show tw_fo (tw_up (tw_fl s 50 8 fun _ => 0) 50 0 (s 47 0)) 50 1 m (s 48) 47 0 = s 47 0 from rfl, hm, show (8 : Int32) * Int32.ofNat m = Int32.ofNat (8 * m) from i_mul 8 m, if_pos ((i_le (by omega) (by omega)).mpr (Nat.le_refl _)), tr_50, Option.bind_some, ts_50, i4, Option.bind_some, Option.bind_some]
      unfold headS
      rw [hm]
    | succ n ih =>
      intro k hk
      have hi : ix 24 (Int32.ofNat k) = some k := ix_of rfl (by omega) (by omega)
      refine dx_app b_X3_writesHead_82 ?_
      rw [tg_47, Option.bind_some, show tw_fo (tw_up (tw_fl s 50 8 fun _ => 0) 50 0 (s 47 0)) 50 1 m (s 48) 47 0 = s 47 0 from rfl]
      have hc : ¬ 8 * s 47 0 ≤ Int32.ofNat k := by
        rw [hm, show (8 : Int32) * Int32.ofNat m = Int32.ofNat (8 * m) from i_mul 8 m]
        intro z
        have := (i_le (by omega) (by omega)).mp z
        omega
      rw [if_neg hc, tr_49, Option.bind_some, tl_49, hi, Option.bind_some, Option.bind_some, lt_at, lt_at, show Int32.ofNat k + 1 = Int32.ofNat (k + 1) from i_add k 1]
      exact ih (k + 1) (by omega)
  have l2 : ∀ n k : Nat, k + n = m → B_X3_writesHead_43 (ax_c d) 417 (sumT (s 48) (s 47 0) k) (Int32.ofNat k) (tw_H h (tw_fo (tw_up (tw_fl s 50 8 fun _ => 0) 50 0 (s 47 0)) 50 1 k (s 48))) = some (.inl none, tw_H h (headS s m)) := by
    intro n
    induction n with
    | zero =>
      intro k hk
      obtain rfl : k = m := by omega
      refine dx_app b_X3_writesHead_43 ?_
      rw [tg_47, Option.bind_some, if_pos (show tw_fo (tw_up (tw_fl s 50 8 fun _ => 0) 50 0 (s 47 0)) 50 1 k (s 48) 47 0 ≤ Int32.ofNat k from by show s 47 0 ≤ _; rw [hm]; exact (i_le (by omega) (by omega)).mpr (Nat.le_refl _))]
      exact l3 (8 * k) 0 (by omega)
    | succ n ih =>
      intro k hk
      have hi : ix 3 (Int32.ofNat k) = some k := ix_of rfl (by omega) (by omega)
      have hj : ix 256 (1 + Int32.ofNat k) = some (1 + k) := ix_of (i_add 1 k) (by omega) (by omega)
      refine dx_app b_X3_writesHead_43 ?_
      have hc : ¬ s 47 0 ≤ Int32.ofNat k := by
        rw [hm]; intro z
        have := (i_le (by omega) (by omega)).mp z
        omega
      rw [tg_47, Option.bind_some, if_neg (show ¬ tw_fo (tw_up (tw_fl s 50 8 fun _ => 0) 50 0 (s 47 0)) 50 1 k (s 48) 47 0 ≤ Int32.ofNat k from hc), tr_50, Option.bind_some, tr_48, Option.bind_some, tl_48, hi, Option.bind_some, Option.bind_some, ts_50, hj, Option.bind_some, Option.bind_some, tr_48, Option.bind_some, tl_48, hi, Option.bind_some, Option.bind_some, lt_at, lt_at, show Int32.ofNat k + 1 = Int32.ofNat (k + 1) from i_add k 1]
      rw [show tw_fo (tw_up (tw_fl s 50 8 fun _ => 0) 50 0 (s 47 0)) 50 1 k (s 48) 48 k = s 48 k from rfl, fo_up]
      exact ih (k + 1) (by omega)
  have l1 : ∀ n k : Nat, k + n = 8 → B_X3_writesHead_2 (ax_c d) 417 full (Int32.ofNat k) (tw_H h (tw_fl s 50 k fun _ => 0)) = some (.inl none, tw_H h (if full = 0 then tw_fl s 50 8 fun _ => 0 else headS s m)) := by
    intro n
    induction n with
    | zero =>
      intro k hk
      obtain rfl : k = 8 := by omega
      refine dx_app b_X3_writesHead_2 ?_
      rw [if_pos (by decide)]
      by_cases q : full = 0
      · rw [if_neg (fun z => z q), if_pos q]
      · rw [if_pos q, if_neg q, tg_47, Option.bind_some, tr_50, Option.bind_some, Option.bind_some, ts_50, i0, Option.bind_some, Option.bind_some]
        have := l2 m 0 (by omega)
        rw [fo_zero] at this
        exact this
    | succ n ih =>
      intro k hk
      have hi : ix 256 (Int32.ofNat k) = some k := ix_of rfl (by omega) (by omega)
      refine dx_app b_X3_writesHead_2 ?_
      rw [if_neg (nge8 (show k < 8 by omega)), tr_50, Option.bind_some, ts_50, hi, Option.bind_some, Option.bind_some, lt_at, show Int32.ofNat k + 1 = Int32.ofNat (k + 1) from i_add k 1]
      have := ih (k + 1) (by omega)
      rw [← fl_up] at this
      exact this
  have := l1 8 0 rfl
  rw [fl_zero] at this
  exact this
/-- the end of a file call -/
def endS (t : Nat → Nat → Int32) : Nat → Nat → Int32 := if t 46 0 = 0 then tw_up (tw_up t 26 3 0) 27 0 (t 27 0 + 2) else t
def wrtA (s : Nat → Nat → Int32) : Nat → Nat → Int32 := tw_up (tw_up s 46 0 (s 46 0 - 1)) 52 0 (s 52 0 + 1)
/-- the k-th write of a call that writes m blocks -/
def wrtS (s : Nat → Nat → Int32) (m k : Nat) : Nat → Nat → Int32 :=
  if k = m then endS (headS (wrtA s) m)
  else if k = 2 * m + 1 then endS (tw_fl (wrtA s) 50 8 fun _ => 0)
  else if k < m then endS (tw_fo (wrtA s) 50 (8 * (1 + k)) 8 fun j => s 49 (8 * k + j))
  else endS (tw_fo (wrtA s) 50 (8 * (s 48 (k - m - 1)).toNatClampNeg) 8 fun j => s 49 (8 * (k - m - 1) + j))
theorem t_writesBlock {d : Nat} (hd : 2 ≤ d) (h : ax_H) (s : Nat → Nat → Int32) {m k : Nat} (hm : s 47 0 = Int32.ofNat m) (hm3 : m ≤ 3) (hk : k ≤ 2 * m + 1) (hl : s 46 0 = Int32.ofNat (2 * m + 2 - k)) (hb : m < k → k ≤ 2 * m → ∃ b, b < 32 ∧ s 48 (k - m - 1) = Int32.ofNat b) : ax_c d 420 [.ref 417] (tw_H h s) = some (.inl none, tw_H h (wrtS s m k)) := by
  obtain ⟨d, rfl, he⟩ := d_succ hd
  have i3 : ix 4 3 = some 3 := by decide
  have h156 : ∀ t : Nat → Nat → Int32, B_X3_writesBlock_156 (ax_c d) 417 (tw_H h t) = some (.inl none, tw_H h (endS t)) := by
    intro t
    refine dx_app b_X3_writesBlock_156 ?_
    unfold endS
    rw [tg_46, Option.bind_some]
    by_cases q : t 46 0 = 0
    · rw [if_neg (fun z => z q), if_pos q]
      simp only [tg_0, tp_0, tg_1, tp_1, tr_2, tl_2, ts_2, tn_2, tr_3, tl_3, ts_3, tn_3, tr_4, tl_4, ts_4, tn_4, tr_5, tl_5, ts_5, tn_5, tr_6, tl_6, ts_6, tn_6, tr_7, tl_7, ts_7, tn_7, tr_8, tl_8, ts_8, tn_8, tr_9, tl_9, ts_9, tn_9, tr_10, tl_10, ts_10, tn_10, tr_11, tl_11, ts_11, tn_11, tr_12, tl_12, ts_12, tn_12, tr_13, tl_13, ts_13, tn_13, tg_14, tp_14, tg_15, tp_15, tg_16, tp_16, tg_17, tp_17, tg_18, tp_18, tg_19, tp_19, tr_20, tl_20, ts_20, tn_20, tr_21, tl_21, ts_21, tn_21, tg_22, tp_22, tg_23, tp_23, tg_24, tp_24, tr_25, tl_25, ts_25, tn_25, tr_26, tl_26, ts_26, tn_26, tg_27, tp_27, tg_28, tp_28, tg_29, tp_29, tg_30, tp_30, tg_31, tp_31, tg_32, tp_32, tg_33, tp_33, tg_34, tp_34, tg_35, tp_35, tr_36, tl_36, ts_36, tn_36, tg_37, tp_37, tg_38, tp_38, tg_39, tp_39, tg_40, tp_40, tr_41, tl_41, ts_41, tn_41, tr_42, tl_42, ts_42, tn_42, tg_43, tp_43, tr_44, tl_44, ts_44, tn_44, tr_45, tl_45, ts_45, tn_45, tg_46, tp_46, tg_47, tp_47, tr_48, tl_48, ts_48, tn_48, tr_49, tl_49, ts_49, tn_49, tr_50, tl_50, ts_50, tn_50, tr_51, tl_51, ts_51, tn_51, tg_52, tp_52, tr_53, tl_53, ts_53, tn_53, tr_54, tl_54, ts_54, tn_54, tg_55, tp_55, tr_56, tl_56, ts_56, tn_56, tr_57, tl_57, ts_57, tn_57, tg_58, tp_58, tg_59, tp_59, tg_60, tp_60, tr_61, tl_61, ts_61, tn_61, tr_62, tl_62, ts_62, tn_62, tr_63, tl_63, ts_63, tn_63, tr_64, tl_64, ts_64, tn_64, tr_65, tl_65, ts_65, tn_65, tr_66, tl_66, ts_66, tn_66, tr_67, tl_67, ts_67, tn_67, tr_68, tl_68, ts_68, tn_68, tr_69, tl_69, ts_69, tn_69, tr_70, tl_70, ts_70, tn_70, tr_71, tl_71, ts_71, tn_71, tr_72, tl_72, ts_72, tn_72, tr_73, tl_73, ts_73, tn_73, tw_vn, tw_up_at, upd_at, ↓reduceIte, Nat.reduceEqDiff, Nat.reduceAdd, Nat.reduceMul, Nat.reduceSub, Nat.reduceLT, Option.bind_some, Option.bind_none, lt_at, nn_ref, cI_v, cV_v, cJ_v, cR_r, cR_n, cI_x, cV_x, cJ_x, cR_x, nul_ref, nul_null, i3]
    · rw [if_pos q, if_neg q]
  have h119 : ∀ (t : Nat → Nat → Int32) (w b : Nat), w < 3 → b < 32 → ∀ n j : Nat, j + n = 8 → B_X3_writesBlock_119 (ax_c d) 417 (Int32.ofNat w) (Int32.ofNat b) (Int32.ofNat j) (tw_H h (tw_fo t 50 (8 * b) j fun i => t 49 (8 * w + i))) = some (.inl none, tw_H h (endS (tw_fo t 50 (8 * b) 8 fun i => t 49 (8 * w + i)))) := by
    intro t w b hw hbb n
    induction n with
    | zero =>
      intro j hj
      obtain rfl : j = 8 := by omega
      refine dx_app b_X3_writesBlock_119 ?_
      rw [if_pos (by decide)]
      exact h156 _
    | succ n ih =>
      intro j hj
      have e1 : ix 24 (8 * Int32.ofNat w + Int32.ofNat j) = some (8 * w + j) := ix_of (by rw [show (8 : Int32) * Int32.ofNat w = Int32.ofNat (8 * w) from i_mul 8 w, i_add]) (by omega) (by omega)
      have e2 : ix 256 (8 * Int32.ofNat b + Int32.ofNat j) = some (8 * b + j) := ix_of (by rw [show (8 : Int32) * Int32.ofNat b = Int32.ofNat (8 * b) from i_mul 8 b, i_add]) (by omega) (by omega)
      refine dx_app b_X3_writesBlock_119 ?_
      rw [if_neg (nge8 (show j < 8 by omega)), tr_50, Option.bind_some, tr_49, Option.bind_some, tl_49, e1, Option.bind_some, Option.bind_some, ts_50, e2, Option.bind_some, Option.bind_some, lt_at, show Int32.ofNat j + 1 = Int32.ofNat (j + 1) from i_add j 1]
      have := ih (j + 1) (by omega)
      rw [← fo_up] at this
      exact this
  have ek : 2 * s 47 0 + 2 - s 46 0 = Int32.ofNat k := by
    rw [hm, hl, show (2 : Int32) * Int32.ofNat m = Int32.ofNat (2 * m) from i_mul 2 m, show Int32.ofNat (2 * m) + 2 = Int32.ofNat (2 * m + 2) from i_add _ 2, i_sub (by omega)]
    congr 1
    omega
  refine dx_app m_X3_writesBlock ?_
  rw [tg_47, Option.bind_some, tg_46, Option.bind_some, lt_at, Option.bind_some, tp_46, Option.bind_some, tg_52, Option.bind_some, show tw_up s 46 0 (s 46 0 - 1) 52 0 = s 52 0 from rfl, tp_52, Option.bind_some, tg_47, Option.bind_some, ek]
  rw [show tw_up (tw_up s 46 0 (s 46 0 - 1)) 52 0 (s 52 0 + 1) = wrtA s from rfl, show wrtA s 47 0 = s 47 0 from rfl, hm]
  have hmA : wrtA s 47 0 = Int32.ofNat m := hm
  unfold wrtS
  by_cases q1 : k = m
  · rw [if_pos (by rw [q1]), if_pos q1]
    refine dx_app b_X3_writesBlock_54 ?_
    rw [tg_47, Option.bind_some, hmA, if_neg (fun z => z (by rw [q1])), tw_vn, Option.bind_some, t_writesHead he h _ 1 hmA hm3, cV_v, if_neg (by decide)]
    exact h156 _
  · have q1' : ¬ Int32.ofNat k = Int32.ofNat m := fun z => q1 ((i_eq (by omega) (by omega)).mp z)
    have e2 : (2 : Int32) * Int32.ofNat m + 1 = Int32.ofNat (2 * m + 1) := by rw [show (2 : Int32) * Int32.ofNat m = Int32.ofNat (2 * m) from i_mul 2 m]; exact i_add _ 1
    rw [if_neg q1', if_neg q1, Option.bind_some, e2]
    by_cases q2 : k = 2 * m + 1
    · rw [if_neg (fun z => z (by rw [q2])), if_pos q2]
      refine dx_app b_X3_writesBlock_54 ?_
      rw [tg_47, Option.bind_some, hmA, if_pos q1', tw_vn, Option.bind_some, t_writesHead he h _ 0 hmA hm3, cV_v, if_pos rfl]
      exact h156 _
    · have q2' : ¬ Int32.ofNat k = Int32.ofNat (2 * m + 1) := fun z => q2 ((i_eq (by omega) (by omega)).mp z)
      rw [if_pos q2', if_neg q2, Option.bind_some]
      by_cases q3 : k < m
      · have c : ¬ Int32.ofNat m ≤ Int32.ofNat k := fun z => by
          have := (i_le (by omega) (by omega)).mp z
          omega
        rw [if_neg c, if_pos q3]
        refine dx_app b_X3_writesBlock_94 ?_
        rw [tg_47, Option.bind_some, hmA, if_neg c, lt_at, show (1 : Int32) + Int32.ofNat k = Int32.ofNat (1 + k) from i_add 1 k]
        have := h119 (wrtA s) k (1 + k) (by omega) (by omega) 8 0 rfl
        rw [fo_zero] at this
        exact this
      · have c : Int32.ofNat m ≤ Int32.ofNat k := (i_le (by omega) (by omega)).mpr (by omega)
        obtain ⟨b, hb1, hb2⟩ := hb (by omega) (by omega)
        have hi : ix 3 (Int32.ofNat (k - m - 1)) = some (k - m - 1) := ix_of rfl (by omega) (by omega)
        rw [if_pos c, if_neg q3, Option.bind_some, i_sub (by omega), show Int32.ofNat (k - m) - 1 = Int32.ofNat (k - m - 1) from i_sub (b := 1) (by omega)]
        refine dx_app b_X3_writesBlock_94 ?_
        rw [tg_47, Option.bind_some, hmA, if_pos c, tr_48, Option.bind_some, tl_48, hi, Option.bind_some, Option.bind_some, show wrtA s 48 (k - m - 1) = s 48 (k - m - 1) from rfl, hb2, i_nat (by omega)]
        have := h119 (wrtA s) (k - m - 1) b (by omega) hb1 8 0 rfl
        rw [fo_zero] at this
        exact this
