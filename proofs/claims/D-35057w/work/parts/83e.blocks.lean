/-! printed by gen/emit82.py -/
set_option maxRecDepth 100000
noncomputable def B_X3_mends_47 (K : ax_K) (v0 : Nat) (v1 : Int32) (v2 : Int32) (h : ax_H) : Option ax_R := ax_run K P_X3_mends 47 [some (.ref v0), some (.int v1), some (.int v2)] [] h
noncomputable def B_X3_mends_99 (K : ax_K) (v0 : Nat) (v1 : Int32) (h : ax_H) : Option ax_R := ax_run K P_X3_mends 99 [some (.ref v0), some (.int v1), none] [] h
theorem b_X3_mends_47 {K : ax_K} {v0 : Nat} {v1 : Int32} {v2 : Int32} {h : ax_H}  : dx_le ((dx_gA [(38, 50)] (.ref v0) h).bind fun r1 => (dx_lI 0 r1 0 h).bind fun x2 => if (8 * x2) ≤ v2 then B_X3_mends_99 K v0 v1 h else (dx_gA [(38, 50)] (.ref v0) h).bind fun r3 => (dx_gA [(38, 50)] (.ref v0) h).bind fun r4 => (dx_lI 0 r4 (1 + (v2 / 8)) h).bind fun x5 => (dx_gA [(38, 50)] (.ref v0) h).bind fun r6 => (dx_lI 0 r6 (8 + v2) h).bind fun x7 => (dx_sI 0 r3 ((8 * x5) + (dx_rem v2 8)) x7 h).bind fun h8 => dx_lt (v2 + 1) fun x9 => B_X3_mends_47 K v0 v1 x9 h8) (B_X3_mends_47 K v0 v1 v2 h) := by
  show dx_le _ (ax_run K P_X3_mends 47 [some (.ref v0), some (.int v1), some (.int v2)] [] h)
  refine e_iload rfl rfl ?_
  refine e_push rfl ?_
  refine e_aload rfl rfl rfl ?_
  refine e_getA rfl fun r1 hr1 => ?_
  refine e_push rfl ?_
  refine e_iald rfl fun x2 => ?_
  refine e_i2 rfl ?_
  refine e_if2 rfl rfl ?_ ?_
  · exact e_wk mP_X3_mends (ll_1 (ll_1 (ll_0 ll_n)))
  · refine e_aload rfl rfl rfl ?_
    refine e_getA rfl fun r3 hr3 => ?_
    refine e_push rfl ?_
    refine e_aload rfl rfl rfl ?_
    refine e_getA rfl fun r4 hr4 => ?_
    refine e_push rfl ?_
    refine e_iload rfl rfl ?_
    refine e_push rfl ?_
    refine e_idn rfl (by decide) ?_
    refine e_i2 rfl ?_
    refine e_iald rfl fun x5 => ?_
    refine e_i2 rfl ?_
    refine e_iload rfl rfl ?_
    refine e_push rfl ?_
    refine e_rem rfl (by decide) ?_
    refine e_i2 rfl ?_
    refine e_aload rfl rfl rfl ?_
    refine e_getA rfl fun r6 hr6 => ?_
    refine e_push rfl ?_
    refine e_iload rfl rfl ?_
    refine e_i2 rfl ?_
    refine e_iald rfl fun x7 => ?_
    refine e_iastI rfl fun h8 => ?_
    refine e_iinc (M := fun x9 => [some (.ref v0), some (.int v1), some (.int x9)]) rfl rfl (fun _ => dx_sto (Nat.le_of_ble_eq_true rfl) (Or.inr ⟨_, rfl, rfl⟩) rfl) fun x9 => ?_
    refine e_goto rfl ?_
    exact e_wk mP_X3_mends (ll_1 (ll_1 (ll_1 ll_n)))
theorem b_X3_mends_99 {K : ax_K} {v0 : Nat} {v1 : Int32} {h : ax_H}  : dx_le ((dx_vn [(38, 408)] (.ref v0) h).bind fun k => dx_cV (K k [.ref v0, .int 0] h) (fun h1 => (dx_gI [(38, 52)] (.ref v0) h1).bind fun x2 => (dx_pF [(38, 52)] (.int) (.ref v0) (.int (x2 + v1)) h1).bind fun h3 => some (.inl (some (.int v1)), h3)) dx_x0) (B_X3_mends_99 K v0 v1 h) := by
  show dx_le _ (ax_run K P_X3_mends 99 [some (.ref v0), some (.int v1), none] [] h)
  refine e_aload rfl rfl rfl ?_
  refine e_push rfl ?_
  refine e_ivV rfl rfl rfl (Nat.le_of_ble_eq_true rfl) (fun _ _ => e_x0) fun h1 => ?_
  refine e_aload rfl rfl rfl ?_
  refine e_dup rfl rfl ?_
  refine e_getI rfl fun x2 => ?_
  refine e_iload rfl rfl ?_
  refine e_i2 rfl ?_
  refine e_putf rfl fun h3 => ?_
  refine e_iload rfl rfl ?_
  exact e_iret rfl
theorem m_X3_mends {d : Nat} {v0 : Nat} {h : ax_H}  : dx_le ((dx_gA [(38, 50)] (.ref v0) h).bind fun r1 => (dx_lI 0 r1 0 h).bind fun x2 => if ¬ x2 = 0 then (dx_gA [(38, 50)] (.ref v0) h).bind fun r3 => (dx_lI 0 r3 0 h).bind fun x4 => if (3 : Int32) < x4 then B_X3_mends_99 (ax_c d) v0 1 h else (dx_vn [(38, 407)] (.ref v0) h).bind fun k => dx_cI ((ax_c d) k [.ref v0] h) (fun x6 h5 => (dx_gA [(38, 50)] (.ref v0) h5).bind fun r7 => (dx_lI 0 r7 4 h5).bind fun x8 => if ¬ x6 = x8 then B_X3_mends_99 (ax_c d) v0 1 h5 else (dx_gA [(38, 50)] (.ref v0) h5).bind fun r9 => (dx_lI 0 r9 0 h5).bind fun x10 => dx_lt (1 + x10) fun x11 => B_X3_mends_47 (ax_c d) v0 x11 0 h5) dx_x0 else some (.inl (some (.int 0)), h)) (ax_c (d + 1) 406 [.ref v0] h) := by
  refine e_entry (L' := [some (.ref v0), none, none]) rfl (ag_A rfl ag_n) (Nat.le_of_ble_eq_true rfl) rfl ?_
  refine e_aload rfl rfl rfl ?_
  refine e_getA rfl fun r1 hr1 => ?_
  refine e_push rfl ?_
  refine e_iald rfl fun x2 => ?_
  refine e_if1 rfl rfl ?_ ?_
  · refine e_push rfl ?_
    refine e_istore (L' := [some (.ref v0), some (.int 1), none]) rfl (dx_sto (Nat.le_of_ble_eq_true rfl) (Or.inr ⟨_, rfl, rfl⟩) rfl) ?_
    refine e_aload rfl rfl rfl ?_
    refine e_getA rfl fun r3 hr3 => ?_
    refine e_push rfl ?_
    refine e_iald rfl fun x4 => ?_
    refine e_push rfl ?_
    refine e_if2 rfl rfl ?_ ?_
    · exact e_wk mP_X3_mends (ll_1 (ll_1 (ll_0 ll_n)))
    · refine e_aload rfl rfl rfl ?_
      refine e_ivI rfl rfl rfl (Nat.le_of_ble_eq_true rfl) (fun _ _ => e_x0) fun x6 h5 => ?_
      refine e_aload rfl rfl rfl ?_
      refine e_getA rfl fun r7 hr7 => ?_
      refine e_push rfl ?_
      refine e_iald rfl fun x8 => ?_
      refine e_if2 rfl rfl ?_ ?_
      · exact e_wk mP_X3_mends (ll_1 (ll_1 (ll_0 ll_n)))
      · refine e_iload rfl rfl ?_
        refine e_aload rfl rfl rfl ?_
        refine e_getA rfl fun r9 hr9 => ?_
        refine e_push rfl ?_
        refine e_iald rfl fun x10 => ?_
        refine e_i2 rfl ?_
        refine e_istoreL (M := fun x11 => [some (.ref v0), some (.int x11), none]) rfl (fun _ => dx_sto (Nat.le_of_ble_eq_true rfl) (Or.inr ⟨_, rfl, rfl⟩) rfl) fun x11 => ?_
        refine e_push rfl ?_
        refine e_istore (L' := [some (.ref v0), some (.int x11), some (.int 0)]) rfl (dx_sto (Nat.le_of_ble_eq_true rfl) (Or.inr ⟨_, rfl, rfl⟩) rfl) ?_
        exact e_wk mP_X3_mends (ll_1 (ll_1 (ll_1 ll_n)))
  · refine e_push rfl ?_
    exact e_iret rfl
noncomputable def B_X3_checkOfLog_30 (K : ax_K) (v0 : Nat) (v1 : Int32) (v2 : Int32) (h : ax_H) : Option ax_R := ax_run K P_X3_checkOfLog 30 [some (.ref v0), some (.int v1), some (.int v2)] [] h
theorem b_X3_checkOfLog_30 {K : ax_K} {v0 : Nat} {v1 : Int32} {v2 : Int32} {h : ax_H}  : dx_le ((dx_gA [(38, 50)] (.ref v0) h).bind fun r1 => (dx_lI 0 r1 0 h).bind fun x2 => if (8 * x2) ≤ v2 then some (.inl (some (.int (dx_rem v1 65536))), h) else (dx_gA [(38, 50)] (.ref v0) h).bind fun r3 => (dx_lI 0 r3 (8 + v2) h).bind fun x4 => dx_lt (v1 + x4) fun x5 => dx_lt (v2 + 1) fun x6 => B_X3_checkOfLog_30 K v0 x5 x6 h) (B_X3_checkOfLog_30 K v0 v1 v2 h) := by
  show dx_le _ (ax_run K P_X3_checkOfLog 30 [some (.ref v0), some (.int v1), some (.int v2)] [] h)
  refine e_iload rfl rfl ?_
  refine e_push rfl ?_
  refine e_aload rfl rfl rfl ?_
  refine e_getA rfl fun r1 hr1 => ?_
  refine e_push rfl ?_
  refine e_iald rfl fun x2 => ?_
  refine e_i2 rfl ?_
  refine e_if2 rfl rfl ?_ ?_
  · refine e_iload rfl rfl ?_
    refine e_push rfl ?_
    refine e_rem rfl (by decide) ?_
    exact e_iret rfl
  · refine e_iload rfl rfl ?_
    refine e_aload rfl rfl rfl ?_
    refine e_getA rfl fun r3 hr3 => ?_
    refine e_push rfl ?_
    refine e_iload rfl rfl ?_
    refine e_i2 rfl ?_
    refine e_iald rfl fun x4 => ?_
    refine e_i2 rfl ?_
    refine e_istoreL (M := fun x5 => [some (.ref v0), some (.int x5), some (.int v2)]) rfl (fun _ => dx_sto (Nat.le_of_ble_eq_true rfl) (Or.inr ⟨_, rfl, rfl⟩) rfl) fun x5 => ?_
    refine e_iinc (M := fun x6 => [some (.ref v0), some (.int x5), some (.int x6)]) rfl rfl (fun _ => dx_sto (Nat.le_of_ble_eq_true rfl) (Or.inr ⟨_, rfl, rfl⟩) rfl) fun x6 => ?_
    refine e_goto rfl ?_
    exact e_wk mP_X3_checkOfLog (ll_1 (ll_1 (ll_1 ll_n)))
theorem m_X3_checkOfLog {d : Nat} {v0 : Nat} {h : ax_H}  : dx_le ((dx_gA [(38, 50)] (.ref v0) h).bind fun r1 => (dx_lI 0 r1 0 h).bind fun x2 => (dx_gA [(38, 50)] (.ref v0) h).bind fun r3 => (dx_lI 0 r3 1 h).bind fun x4 => (dx_gA [(38, 50)] (.ref v0) h).bind fun r5 => (dx_lI 0 r5 2 h).bind fun x6 => (dx_gA [(38, 50)] (.ref v0) h).bind fun r7 => (dx_lI 0 r7 3 h).bind fun x8 => dx_lt (((x2 + x4) + x6) + x8) fun x9 => B_X3_checkOfLog_30 (ax_c d) v0 x9 0 h) (ax_c (d + 1) 407 [.ref v0] h) := by
  refine e_entry (L' := [some (.ref v0), none, none]) rfl (ag_A rfl ag_n) (Nat.le_of_ble_eq_true rfl) rfl ?_
  refine e_aload rfl rfl rfl ?_
  refine e_getA rfl fun r1 hr1 => ?_
  refine e_push rfl ?_
  refine e_iald rfl fun x2 => ?_
  refine e_aload rfl rfl rfl ?_
  refine e_getA rfl fun r3 hr3 => ?_
  refine e_push rfl ?_
  refine e_iald rfl fun x4 => ?_
  refine e_i2 rfl ?_
  refine e_aload rfl rfl rfl ?_
  refine e_getA rfl fun r5 hr5 => ?_
  refine e_push rfl ?_
  refine e_iald rfl fun x6 => ?_
  refine e_i2 rfl ?_
  refine e_aload rfl rfl rfl ?_
  refine e_getA rfl fun r7 hr7 => ?_
  refine e_push rfl ?_
  refine e_iald rfl fun x8 => ?_
  refine e_i2 rfl ?_
  refine e_istoreL (M := fun x9 => [some (.ref v0), some (.int x9), none]) rfl (fun _ => dx_sto (Nat.le_of_ble_eq_true rfl) (Or.inr ⟨_, rfl, rfl⟩) rfl) fun x9 => ?_
  refine e_push rfl ?_
  refine e_istore (L' := [some (.ref v0), some (.int x9), some (.int 0)]) rfl (dx_sto (Nat.le_of_ble_eq_true rfl) (Or.inr ⟨_, rfl, rfl⟩) rfl) ?_
  exact e_wk mP_X3_checkOfLog (ll_1 (ll_1 (ll_1 ll_n)))
noncomputable def B_X3_writesHead_2 (K : ax_K) (v0 : Nat) (v1 : Int32) (v2 : Int32) (h : ax_H) : Option ax_R := ax_run K P_X3_writesHead 2 [some (.ref v0), some (.int v1), some (.int v2), none] [] h
noncomputable def B_X3_writesHead_43 (K : ax_K) (v0 : Nat) (v2 : Int32) (v3 : Int32) (h : ax_H) : Option ax_R := ax_run K P_X3_writesHead 43 [some (.ref v0), none, some (.int v2), some (.int v3)] [] h
noncomputable def B_X3_writesHead_82 (K : ax_K) (v0 : Nat) (v2 : Int32) (v3 : Int32) (h : ax_H) : Option ax_R := ax_run K P_X3_writesHead 82 [some (.ref v0), none, some (.int v2), some (.int v3)] [] h
theorem b_X3_writesHead_2 {K : ax_K} {v0 : Nat} {v1 : Int32} {v2 : Int32} {h : ax_H}  : dx_le (if (8 : Int32) ≤ v2 then if ¬ v1 = 0 then (dx_gI [(38, 47)] (.ref v0) h).bind fun x1 => (dx_gA [(38, 50)] (.ref v0) h).bind fun r2 => (dx_gI [(38, 47)] (.ref v0) h).bind fun x3 => (dx_sI 0 r2 0 x3 h).bind fun h4 => B_X3_writesHead_43 K v0 x1 0 h4 else some (.inl none, h) else (dx_gA [(38, 50)] (.ref v0) h).bind fun r5 => (dx_sI 0 r5 v2 0 h).bind fun h6 => dx_lt (v2 + 1) fun x7 => B_X3_writesHead_2 K v0 v1 x7 h6) (B_X3_writesHead_2 K v0 v1 v2 h) := by
  show dx_le _ (ax_run K P_X3_writesHead 2 [some (.ref v0), some (.int v1), some (.int v2), none] [] h)
  refine e_iload rfl rfl ?_
  refine e_push rfl ?_
  refine e_if2 rfl rfl ?_ ?_
  · refine e_iload rfl rfl ?_
    refine e_if1 rfl rfl ?_ ?_
    · refine e_aload rfl rfl rfl ?_
      refine e_getI rfl fun x1 => ?_
      refine e_istore (L' := [some (.ref v0), some (.int v1), some (.int x1), none]) rfl (dx_sto (Nat.le_of_ble_eq_true rfl) (Or.inr ⟨_, rfl, rfl⟩) rfl) ?_
      refine e_aload rfl rfl rfl ?_
      refine e_getA rfl fun r2 hr2 => ?_
      refine e_push rfl ?_
      refine e_aload rfl rfl rfl ?_
      refine e_getI rfl fun x3 => ?_
      refine e_iastI rfl fun h4 => ?_
      refine e_push rfl ?_
      refine e_istore (L' := [some (.ref v0), some (.int v1), some (.int x1), some (.int 0)]) rfl (dx_sto (Nat.le_of_ble_eq_true rfl) (Or.inr ⟨_, rfl, rfl⟩) rfl) ?_
      exact e_wk mP_X3_writesHead (ll_1 (ll_0 (ll_1 (ll_1 ll_n))))
    · exact e_ret rfl
  · refine e_aload rfl rfl rfl ?_
    refine e_getA rfl fun r5 hr5 => ?_
    refine e_iload rfl rfl ?_
    refine e_push rfl ?_
    refine e_iastI rfl fun h6 => ?_
    refine e_iinc (M := fun x7 => [some (.ref v0), some (.int v1), some (.int x7), none]) rfl rfl (fun _ => dx_sto (Nat.le_of_ble_eq_true rfl) (Or.inr ⟨_, rfl, rfl⟩) rfl) fun x7 => ?_
    refine e_goto rfl ?_
    exact e_wk mP_X3_writesHead (ll_1 (ll_1 (ll_1 (ll_0 ll_n))))
theorem b_X3_writesHead_43 {K : ax_K} {v0 : Nat} {v2 : Int32} {v3 : Int32} {h : ax_H}  : dx_le ((dx_gI [(38, 47)] (.ref v0) h).bind fun x1 => if x1 ≤ v3 then B_X3_writesHead_82 K v0 v2 0 h else (dx_gA [(38, 50)] (.ref v0) h).bind fun r2 => (dx_gA [(38, 48)] (.ref v0) h).bind fun r3 => (dx_lI 0 r3 v3 h).bind fun x4 => (dx_sI 0 r2 (1 + v3) x4 h).bind fun h5 => (dx_gA [(38, 48)] (.ref v0) h5).bind fun r6 => (dx_lI 0 r6 v3 h5).bind fun x7 => dx_lt (v2 + x7) fun x8 => dx_lt (v3 + 1) fun x9 => B_X3_writesHead_43 K v0 x8 x9 h5) (B_X3_writesHead_43 K v0 v2 v3 h) := by
  show dx_le _ (ax_run K P_X3_writesHead 43 [some (.ref v0), none, some (.int v2), some (.int v3)] [] h)
  refine e_iload rfl rfl ?_
  refine e_aload rfl rfl rfl ?_
  refine e_getI rfl fun x1 => ?_
  refine e_if2 rfl rfl ?_ ?_
  · refine e_push rfl ?_
    refine e_istore (L' := [some (.ref v0), none, some (.int v2), some (.int 0)]) rfl (dx_sto (Nat.le_of_ble_eq_true rfl) (Or.inr ⟨_, rfl, rfl⟩) rfl) ?_
    exact e_wk mP_X3_writesHead (ll_1 (ll_0 (ll_1 (ll_1 ll_n))))
  · refine e_aload rfl rfl rfl ?_
    refine e_getA rfl fun r2 hr2 => ?_
    refine e_push rfl ?_
    refine e_iload rfl rfl ?_
    refine e_i2 rfl ?_
    refine e_aload rfl rfl rfl ?_
    refine e_getA rfl fun r3 hr3 => ?_
    refine e_iload rfl rfl ?_
    refine e_iald rfl fun x4 => ?_
    refine e_iastI rfl fun h5 => ?_
    refine e_iload rfl rfl ?_
    refine e_aload rfl rfl rfl ?_
    refine e_getA rfl fun r6 hr6 => ?_
    refine e_iload rfl rfl ?_
    refine e_iald rfl fun x7 => ?_
    refine e_i2 rfl ?_
    refine e_istoreL (M := fun x8 => [some (.ref v0), none, some (.int x8), some (.int v3)]) rfl (fun _ => dx_sto (Nat.le_of_ble_eq_true rfl) (Or.inr ⟨_, rfl, rfl⟩) rfl) fun x8 => ?_
    refine e_iinc (M := fun x9 => [some (.ref v0), none, some (.int x8), some (.int x9)]) rfl rfl (fun _ => dx_sto (Nat.le_of_ble_eq_true rfl) (Or.inr ⟨_, rfl, rfl⟩) rfl) fun x9 => ?_
    refine e_goto rfl ?_
    exact e_wk mP_X3_writesHead (ll_1 (ll_0 (ll_1 (ll_1 ll_n))))
theorem b_X3_writesHead_82 {K : ax_K} {v0 : Nat} {v2 : Int32} {v3 : Int32} {h : ax_H}  : dx_le ((dx_gI [(38, 47)] (.ref v0) h).bind fun x1 => if (8 * x1) ≤ v3 then (dx_gA [(38, 50)] (.ref v0) h).bind fun r2 => (dx_sI 0 r2 4 (dx_rem v2 65536) h).bind fun h3 => some (.inl none, h3) else (dx_gA [(38, 49)] (.ref v0) h).bind fun r4 => (dx_lI 0 r4 v3 h).bind fun x5 => dx_lt (v2 + x5) fun x6 => dx_lt (v3 + 1) fun x7 => B_X3_writesHead_82 K v0 x6 x7 h) (B_X3_writesHead_82 K v0 v2 v3 h) := by
  show dx_le _ (ax_run K P_X3_writesHead 82 [some (.ref v0), none, some (.int v2), some (.int v3)] [] h)
  refine e_iload rfl rfl ?_
  refine e_push rfl ?_
  refine e_aload rfl rfl rfl ?_
  refine e_getI rfl fun x1 => ?_
  refine e_i2 rfl ?_
  refine e_if2 rfl rfl ?_ ?_
  · refine e_aload rfl rfl rfl ?_
    refine e_getA rfl fun r2 hr2 => ?_
    refine e_push rfl ?_
    refine e_iload rfl rfl ?_
    refine e_push rfl ?_
    refine e_rem rfl (by decide) ?_
    refine e_iastI rfl fun h3 => ?_
    exact e_ret rfl
  · refine e_iload rfl rfl ?_
    refine e_aload rfl rfl rfl ?_
    refine e_getA rfl fun r4 hr4 => ?_
    refine e_iload rfl rfl ?_
    refine e_iald rfl fun x5 => ?_
    refine e_i2 rfl ?_
    refine e_istoreL (M := fun x6 => [some (.ref v0), none, some (.int x6), some (.int v3)]) rfl (fun _ => dx_sto (Nat.le_of_ble_eq_true rfl) (Or.inr ⟨_, rfl, rfl⟩) rfl) fun x6 => ?_
    refine e_iinc (M := fun x7 => [some (.ref v0), none, some (.int x6), some (.int x7)]) rfl rfl (fun _ => dx_sto (Nat.le_of_ble_eq_true rfl) (Or.inr ⟨_, rfl, rfl⟩) rfl) fun x7 => ?_
    refine e_goto rfl ?_
    exact e_wk mP_X3_writesHead (ll_1 (ll_0 (ll_1 (ll_1 ll_n))))
theorem m_X3_writesHead {d : Nat} {v0 : Nat} {v1 : Int32} {h : ax_H}  : dx_le (B_X3_writesHead_2 (ax_c d) v0 v1 0 h) (ax_c (d + 1) 408 [.ref v0, .int v1] h) := by
  refine e_entry (L' := [some (.ref v0), some (.int v1), none, none]) rfl (ag_A rfl (ag_I ag_n)) (Nat.le_of_ble_eq_true rfl) rfl ?_
  refine e_push rfl ?_
  refine e_istore (L' := [some (.ref v0), some (.int v1), some (.int 0), none]) rfl (dx_sto (Nat.le_of_ble_eq_true rfl) (Or.inr ⟨_, rfl, rfl⟩) rfl) ?_
  exact e_wk mP_X3_writesHead (ll_1 (ll_1 (ll_1 (ll_0 ll_n))))
noncomputable def B_X3_copies_2 (K : ax_K) (v0 : Value) (v1 : Value) (v2 : Int32) (h : ax_H) : Option ax_R := ax_run K P_X3_copies 2 [some (v0), some (v1), some (.int v2)] [] h
theorem b_X3_copies_2 {K : ax_K} {v0 : Value} {v1 : Value} {v2 : Int32} {h : ax_H} (hv0 : ax_rv v0 = true) (hv1 : ax_rv v1 = true) : dx_le (if (256 : Int32) ≤ v2 then some (.inl none, h) else (dx_lI 0 v0 v2 h).bind fun x1 => (dx_sI 0 v1 v2 x1 h).bind fun h2 => dx_lt (v2 + 1) fun x3 => B_X3_copies_2 K v0 v1 x3 h2) (B_X3_copies_2 K v0 v1 v2 h) := by
  show dx_le _ (ax_run K P_X3_copies 2 [some (v0), some (v1), some (.int v2)] [] h)
  refine e_iload rfl rfl ?_
  refine e_push rfl ?_
  refine e_if2 rfl rfl ?_ ?_
  · exact e_ret rfl
  · refine e_aload rfl rfl hv1 ?_
    refine e_iload rfl rfl ?_
    refine e_aload rfl rfl hv0 ?_
    refine e_iload rfl rfl ?_
    refine e_iald rfl fun x1 => ?_
    refine e_iastI rfl fun h2 => ?_
    refine e_iinc (M := fun x3 => [some (v0), some (v1), some (.int x3)]) rfl rfl (fun _ => dx_sto (Nat.le_of_ble_eq_true rfl) (Or.inr ⟨_, rfl, dx_nl hv1⟩) rfl) fun x3 => ?_
    refine e_goto rfl ?_
    exact e_wk mP_X3_copies (ll_1 (ll_1 (ll_1 ll_n)))
theorem m_X3_copies {d : Nat} {v0 : Value} {v1 : Value} {h : ax_H} (hv0 : ax_rv v0 = true) (hv1 : ax_rv v1 = true) : dx_le (B_X3_copies_2 (ax_c d) v0 v1 0 h) (ax_c (d + 1) 409 [v0, v1] h) := by
  refine e_entry (L' := [some (v0), some (v1), none]) rfl (ag_A hv0 (ag_A hv1 ag_n)) (Nat.le_of_ble_eq_true rfl) rfl ?_
  refine e_push rfl ?_
  refine e_istore (L' := [some (v0), some (v1), some (.int 0)]) rfl (dx_sto (Nat.le_of_ble_eq_true rfl) (Or.inr ⟨_, rfl, dx_nl hv1⟩) rfl) ?_
  exact e_wk mP_X3_copies (ll_1 (ll_1 (ll_1 ll_n)))
noncomputable def B_X3_wakes_6 (K : ax_K) (v0 : Nat) (v1 : Value) (v2 : Int32) (h : ax_H) : Option ax_R := ax_run K P_X3_wakes 6 [some (.ref v0), some (v1), some (.int v2)] [] h
theorem b_X3_wakes_6 {K : ax_K} {v0 : Nat} {v1 : Value} {v2 : Int32} {h : ax_H} (hv1 : ax_rv v1 = true) : dx_le (if (256 : Int32) ≤ v2 then (dx_pF [(38, 23)] (.int) (.ref v0) (.int 1) h).bind fun h1 => (dx_pF [(38, 27)] (.int) (.ref v0) (.int 8) h1).bind fun h2 => (dx_pF [(38, 28)] (.int) (.ref v0) (.int 256) h2).bind fun h3 => some (.inl none, h3) else (dx_gA [(38, 25)] (.ref v0) h).bind fun r4 => (dx_lI 0 v1 v2 h).bind fun x5 => (dx_sI 0 r4 v2 x5 h).bind fun h6 => dx_lt (v2 + 1) fun x7 => B_X3_wakes_6 K v0 v1 x7 h6) (B_X3_wakes_6 K v0 v1 v2 h) := by
  show dx_le _ (ax_run K P_X3_wakes 6 [some (.ref v0), some (v1), some (.int v2)] [] h)
  refine e_iload rfl rfl ?_
  refine e_push rfl ?_
  refine e_if2 rfl rfl ?_ ?_
  · refine e_aload rfl rfl rfl ?_
    refine e_push rfl ?_
    refine e_putf rfl fun h1 => ?_
    refine e_aload rfl rfl rfl ?_
    refine e_push rfl ?_
    refine e_putf rfl fun h2 => ?_
    refine e_aload rfl rfl rfl ?_
    refine e_push rfl ?_
    refine e_putf rfl fun h3 => ?_
    exact e_ret rfl
  · refine e_aload rfl rfl rfl ?_
    refine e_getA rfl fun r4 hr4 => ?_
    refine e_iload rfl rfl ?_
    refine e_aload rfl rfl hv1 ?_
    refine e_iload rfl rfl ?_
    refine e_iald rfl fun x5 => ?_
    refine e_iastI rfl fun h6 => ?_
    refine e_iinc (M := fun x7 => [some (.ref v0), some (v1), some (.int x7)]) rfl rfl (fun _ => dx_sto (Nat.le_of_ble_eq_true rfl) (Or.inr ⟨_, rfl, dx_nl hv1⟩) rfl) fun x7 => ?_
    refine e_goto rfl ?_
    exact e_wk mP_X3_wakes (ll_1 (ll_1 (ll_1 ll_n)))
theorem m_X3_wakes {d : Nat} {v0 : Nat} {v1 : Value} {h : ax_H} (hv1 : ax_rv v1 = true) : dx_le ((dx_vn [(38, 411)] (.ref v0) h).bind fun k => dx_cV ((ax_c d) k [.ref v0] h) (fun h1 => B_X3_wakes_6 (ax_c d) v0 v1 0 h1) dx_x0) (ax_c (d + 1) 410 [.ref v0, v1] h) := by
  refine e_entry (L' := [some (.ref v0), some (v1), none]) rfl (ag_A rfl (ag_A hv1 ag_n)) (Nat.le_of_ble_eq_true rfl) rfl ?_
  refine e_aload rfl rfl rfl ?_
  refine e_ivV rfl rfl rfl (Nat.le_of_ble_eq_true rfl) (fun _ _ => e_x0) fun h1 => ?_
  refine e_push rfl ?_
  refine e_istore (L' := [some (.ref v0), some (v1), some (.int 0)]) rfl (dx_sto (Nat.le_of_ble_eq_true rfl) (Or.inr ⟨_, rfl, dx_nl hv1⟩) rfl) ?_
  exact e_wk mP_X3_wakes (ll_1 (ll_1 (ll_1 ll_n)))
noncomputable def B_X3_sleeps_12 (K : ax_K) (v0 : Nat) (v1 : Int32) (h : ax_H) : Option ax_R := ax_run K P_X3_sleeps 12 [some (.ref v0), some (.int v1)] [] h
noncomputable def B_X3_sleeps_34 (K : ax_K) (v0 : Nat) (v1 : Int32) (h : ax_H) : Option ax_R := ax_run K P_X3_sleeps 34 [some (.ref v0), some (.int v1)] [] h
theorem b_X3_sleeps_12 {K : ax_K} {v0 : Nat} {v1 : Int32} {h : ax_H}  : dx_le (if (256 : Int32) ≤ v1 then B_X3_sleeps_34 K v0 0 h else (dx_gA [(38, 25)] (.ref v0) h).bind fun r1 => (dx_sI 0 r1 v1 0 h).bind fun h2 => dx_lt (v1 + 1) fun x3 => B_X3_sleeps_12 K v0 x3 h2) (B_X3_sleeps_12 K v0 v1 h) := by
  show dx_le _ (ax_run K P_X3_sleeps 12 [some (.ref v0), some (.int v1)] [] h)
  refine e_iload rfl rfl ?_
  refine e_push rfl ?_
  refine e_if2 rfl rfl ?_ ?_
  · refine e_push rfl ?_
    refine e_istore (L' := [some (.ref v0), some (.int 0)]) rfl (dx_sto (Nat.le_of_ble_eq_true rfl) (Or.inr ⟨_, rfl, rfl⟩) rfl) ?_
    exact e_wk mP_X3_sleeps (ll_1 (ll_1 ll_n))
  · refine e_aload rfl rfl rfl ?_
    refine e_getA rfl fun r1 hr1 => ?_
    refine e_iload rfl rfl ?_
    refine e_push rfl ?_
    refine e_iastI rfl fun h2 => ?_
    refine e_iinc (M := fun x3 => [some (.ref v0), some (.int x3)]) rfl rfl (fun _ => dx_sto (Nat.le_of_ble_eq_true rfl) (Or.inr ⟨_, rfl, rfl⟩) rfl) fun x3 => ?_
    refine e_goto rfl ?_
    exact e_wk mP_X3_sleeps (ll_1 (ll_1 ll_n))
theorem b_X3_sleeps_34 {K : ax_K} {v0 : Nat} {v1 : Int32} {h : ax_H}  : dx_le (if (4 : Int32) ≤ v1 then (dx_pF [(38, 27)] (.int) (.ref v0) (.int 0) h).bind fun h1 => (dx_pF [(38, 28)] (.int) (.ref v0) (.int 0) h1).bind fun h2 => (dx_pF [(38, 29)] (.boolean) (.ref v0) (.int 0) h2).bind fun h3 => (dx_pF [(38, 30)] (.boolean) (.ref v0) (.int 0) h3).bind fun h4 => (dx_pF [(38, 31)] (.boolean) (.ref v0) (.int 0) h4).bind fun h5 => (dx_pF [(38, 32)] (.boolean) (.ref v0) (.int 0) h5).bind fun h6 => (dx_pF [(38, 33)] (.boolean) (.ref v0) (.int 0) h6).bind fun h7 => (dx_pF [(38, 34)] (.int) (.ref v0) (.int 0) h7).bind fun h8 => (dx_pF [(38, 35)] (.int) (.ref v0) (.int 0) h8).bind fun h9 => (dx_pF [(38, 37)] (.int) (.ref v0) (.int 0) h9).bind fun h10 => (dx_pF [(38, 38)] (.int) (.ref v0) (.int 0) h10).bind fun h11 => (dx_pF [(38, 39)] (.int) (.ref v0) (.int 0) h11).bind fun h12 => (dx_pF [(38, 46)] (.int) (.ref v0) (.int 0) h12).bind fun h13 => some (.inl none, h13) else (dx_gA [(38, 26)] (.ref v0) h).bind fun r14 => (dx_sI 0 r14 v1 0 h).bind fun h15 => dx_lt (v1 + 1) fun x16 => B_X3_sleeps_34 K v0 x16 h15) (B_X3_sleeps_34 K v0 v1 h) := by
  show dx_le _ (ax_run K P_X3_sleeps 34 [some (.ref v0), some (.int v1)] [] h)
  refine e_iload rfl rfl ?_
  refine e_push rfl ?_
  refine e_if2 rfl rfl ?_ ?_
  · refine e_aload rfl rfl rfl ?_
    refine e_push rfl ?_
    refine e_putf rfl fun h1 => ?_
    refine e_aload rfl rfl rfl ?_
    refine e_push rfl ?_
    refine e_putf rfl fun h2 => ?_
    refine e_aload rfl rfl rfl ?_
    refine e_push rfl ?_
    refine e_putf rfl fun h3 => ?_
    refine e_aload rfl rfl rfl ?_
    refine e_push rfl ?_
    refine e_putf rfl fun h4 => ?_
    refine e_aload rfl rfl rfl ?_
    refine e_push rfl ?_
    refine e_putf rfl fun h5 => ?_
    refine e_aload rfl rfl rfl ?_
    refine e_push rfl ?_
    refine e_putf rfl fun h6 => ?_
    refine e_aload rfl rfl rfl ?_
    refine e_push rfl ?_
    refine e_putf rfl fun h7 => ?_
    refine e_aload rfl rfl rfl ?_
    refine e_push rfl ?_
    refine e_putf rfl fun h8 => ?_
    refine e_aload rfl rfl rfl ?_
    refine e_push rfl ?_
    refine e_putf rfl fun h9 => ?_
    refine e_aload rfl rfl rfl ?_
    refine e_push rfl ?_
    refine e_putf rfl fun h10 => ?_
    refine e_aload rfl rfl rfl ?_
    refine e_push rfl ?_
    refine e_putf rfl fun h11 => ?_
    refine e_aload rfl rfl rfl ?_
    refine e_push rfl ?_
    refine e_putf rfl fun h12 => ?_
    refine e_aload rfl rfl rfl ?_
    refine e_push rfl ?_
    refine e_putf rfl fun h13 => ?_
    exact e_ret rfl
  · refine e_aload rfl rfl rfl ?_
    refine e_getA rfl fun r14 hr14 => ?_
    refine e_iload rfl rfl ?_
    refine e_push rfl ?_
    refine e_iastI rfl fun h15 => ?_
    refine e_iinc (M := fun x16 => [some (.ref v0), some (.int x16)]) rfl rfl (fun _ => dx_sto (Nat.le_of_ble_eq_true rfl) (Or.inr ⟨_, rfl, rfl⟩) rfl) fun x16 => ?_
    refine e_goto rfl ?_
    exact e_wk mP_X3_sleeps (ll_1 (ll_1 ll_n))
theorem m_X3_sleeps {d : Nat} {v0 : Nat} {h : ax_H}  : dx_le ((dx_pF [(38, 23)] (.int) (.ref v0) (.int 0) h).bind fun h1 => (dx_pF [(38, 24)] (.int) (.ref v0) (.int 0) h1).bind fun h2 => B_X3_sleeps_12 (ax_c d) v0 0 h2) (ax_c (d + 1) 411 [.ref v0] h) := by
  refine e_entry (L' := [some (.ref v0), none]) rfl (ag_A rfl ag_n) (Nat.le_of_ble_eq_true rfl) rfl ?_
  refine e_aload rfl rfl rfl ?_
  refine e_push rfl ?_
  refine e_putf rfl fun h1 => ?_
  refine e_aload rfl rfl rfl ?_
  refine e_push rfl ?_
  refine e_putf rfl fun h2 => ?_
  refine e_push rfl ?_
  refine e_istore (L' := [some (.ref v0), some (.int 0)]) rfl (dx_sto (Nat.le_of_ble_eq_true rfl) (Or.inr ⟨_, rfl, rfl⟩) rfl) ?_
  exact e_wk mP_X3_sleeps (ll_1 (ll_1 ll_n))
noncomputable def B_X3_crash_13 (K : ax_K) (s0 : Nat) (s1 : Int32) (v0 : Nat) (h : ax_H) : Option ax_R := ax_run K P_X3_crash 13 [some (.ref v0), none] [.int s1, .ref s0] h
theorem b_X3_crash_13 {K : ax_K} {s0 : Nat} {s1 : Int32} {v0 : Nat} {h : ax_H}  : dx_le ((dx_vn [(38, 378)] (.ref s0) h).bind fun k => dx_cI (K k [.ref s0, .int s1] h) (fun x2 h1 => if ¬ x2 = 0 then (dx_gI [(38, 38)] (.ref v0) h1).bind fun x3 => (dx_pF [(38, 40)] (.int) (.ref v0) (.int 0) h1).bind fun h4 => (dx_vn [(38, 411)] (.ref v0) h4).bind fun k => dx_cV (K k [.ref v0] h4) (fun h5 => some (.inl (some (.int x3)), h5)) dx_x0 else some (.inl (some (.int 0)), h1)) dx_x0) (B_X3_crash_13 K s0 s1 v0 h) := by
  show dx_le _ (ax_run K P_X3_crash 13 [some (.ref v0), none] [.int s1, .ref s0] h)
  refine e_ivI rfl rfl rfl (Nat.le_of_ble_eq_true rfl) (fun _ _ => e_x0) fun x2 h1 => ?_
  refine e_if1 rfl rfl ?_ ?_
  · refine e_aload rfl rfl rfl ?_
    refine e_getI rfl fun x3 => ?_
    refine e_istore (L' := [some (.ref v0), some (.int x3)]) rfl (dx_sto (Nat.le_of_ble_eq_true rfl) (Or.inr ⟨_, rfl, rfl⟩) rfl) ?_
    refine e_aload rfl rfl rfl ?_
    refine e_push rfl ?_
    refine e_putf rfl fun h4 => ?_
    refine e_aload rfl rfl rfl ?_
    refine e_ivV rfl rfl rfl (Nat.le_of_ble_eq_true rfl) (fun _ _ => e_x0) fun h5 => ?_
    refine e_iload rfl rfl ?_
    exact e_iret rfl
  · refine e_push rfl ?_
    exact e_iret rfl
theorem m_X3_crash {d : Nat} {v0 : Nat} {h : ax_H}  : dx_le ((dx_vn [(38, 405)] (.ref v0) h).bind fun k => dx_cI ((ax_c d) k [.ref v0] h) (fun x2 h1 => if x2 = 0 then B_X3_crash_13 (ax_c d) v0 1 v0 h1 else B_X3_crash_13 (ax_c d) v0 0 v0 h1) dx_x0) (ax_c (d + 1) 412 [.ref v0] h) := by
  refine e_entry (L' := [some (.ref v0), none]) rfl (ag_A rfl ag_n) (Nat.le_of_ble_eq_true rfl) rfl ?_
  refine e_aload rfl rfl rfl ?_
  refine e_aload rfl rfl rfl ?_
  refine e_ivI rfl rfl rfl (Nat.le_of_ble_eq_true rfl) (fun _ _ => e_x0) fun x2 h1 => ?_
  refine e_if1 rfl rfl ?_ ?_
  · refine e_push rfl ?_
    exact e_wk mP_X3_crash (ll_1 (ll_0 ll_n))
  · refine e_push rfl ?_
    refine e_goto rfl ?_
    exact e_wk mP_X3_crash (ll_1 (ll_0 ll_n))
noncomputable def B_X3_format_13 (K : ax_K) (s0 : Nat) (s1 : Int32) (v0 : Nat) (h : ax_H) : Option ax_R := ax_run K P_X3_format 13 [some (.ref v0), none] [.int s1, .ref s0] h
theorem b_X3_format_13 {K : ax_K} {s0 : Nat} {s1 : Int32} {v0 : Nat} {h : ax_H}  : dx_le ((dx_vn [(38, 378)] (.ref s0) h).bind fun k => dx_cI (K k [.ref s0, .int s1] h) (fun x2 h1 => if ¬ x2 = 0 then (dx_vn [(38, 414)] (.ref v0) h1).bind fun k => dx_cI (K k [.ref v0] h1) (fun x4 h3 => (dx_vn [(38, 371)] (.ref v0) h3).bind fun k => dx_cV (K k [.ref v0] h3) (fun h5 => some (.inl (some (.int x4)), h5)) dx_x0) dx_x0 else some (.inl (some (.int 0)), h1)) dx_x0) (B_X3_format_13 K s0 s1 v0 h) := by
  show dx_le _ (ax_run K P_X3_format 13 [some (.ref v0), none] [.int s1, .ref s0] h)
  refine e_ivI rfl rfl rfl (Nat.le_of_ble_eq_true rfl) (fun _ _ => e_x0) fun x2 h1 => ?_
  refine e_if1 rfl rfl ?_ ?_
  · refine e_aload rfl rfl rfl ?_
    refine e_ivI rfl rfl rfl (Nat.le_of_ble_eq_true rfl) (fun _ _ => e_x0) fun x4 h3 => ?_
    refine e_istore (L' := [some (.ref v0), some (.int x4)]) rfl (dx_sto (Nat.le_of_ble_eq_true rfl) (Or.inr ⟨_, rfl, rfl⟩) rfl) ?_
    refine e_aload rfl rfl rfl ?_
    refine e_ivV rfl rfl rfl (Nat.le_of_ble_eq_true rfl) (fun _ _ => e_x0) fun h5 => ?_
    refine e_iload rfl rfl ?_
    exact e_iret rfl
  · refine e_push rfl ?_
    exact e_iret rfl
theorem m_X3_format {d : Nat} {v0 : Nat} {h : ax_H}  : dx_le ((dx_vn [(38, 405)] (.ref v0) h).bind fun k => dx_cI ((ax_c d) k [.ref v0] h) (fun x2 h1 => if x2 = 0 then B_X3_format_13 (ax_c d) v0 0 v0 h1 else B_X3_format_13 (ax_c d) v0 1 v0 h1) dx_x0) (ax_c (d + 1) 413 [.ref v0] h) := by
  refine e_entry (L' := [some (.ref v0), none]) rfl (ag_A rfl ag_n) (Nat.le_of_ble_eq_true rfl) rfl ?_
  refine e_aload rfl rfl rfl ?_
  refine e_aload rfl rfl rfl ?_
  refine e_ivI rfl rfl rfl (Nat.le_of_ble_eq_true rfl) (fun _ _ => e_x0) fun x2 h1 => ?_
  refine e_if1 rfl rfl ?_ ?_
  · refine e_push rfl ?_
    exact e_wk mP_X3_format (ll_1 (ll_0 ll_n))
  · refine e_push rfl ?_
    refine e_goto rfl ?_
    exact e_wk mP_X3_format (ll_1 (ll_0 ll_n))
noncomputable def B_X3_filesOf_4 (K : ax_K) (v0 : Nat) (v1 : Int32) (v2 : Int32) (h : ax_H) : Option ax_R := ax_run K P_X3_filesOf 4 [some (.ref v0), some (.int v1), some (.int v2)] [] h
theorem b_X3_filesOf_4 {K : ax_K} {v0 : Nat} {v1 : Int32} {v2 : Int32} {h : ax_H}  : dx_le (if (6 : Int32) ≤ v2 then some (.inl (some (.int v1)), h) else (dx_gA [(38, 50)] (.ref v0) h).bind fun r1 => dx_cI (K 415 [.int v2] h) (fun x3 h2 => (dx_lI 0 r1 x3 h2).bind fun x4 => if ¬ x4 = 0 then dx_lt (v1 + 1) fun x5 => dx_lt (v2 + 1) fun x6 => B_X3_filesOf_4 K v0 x5 x6 h2 else dx_lt (v1 + 0) fun x7 => dx_lt (v2 + 1) fun x8 => B_X3_filesOf_4 K v0 x7 x8 h2) dx_x0) (B_X3_filesOf_4 K v0 v1 v2 h) := by
  show dx_le _ (ax_run K P_X3_filesOf 4 [some (.ref v0), some (.int v1), some (.int v2)] [] h)
  refine e_iload rfl rfl ?_
  refine e_push rfl ?_
  refine e_if2 rfl rfl ?_ ?_
  · refine e_iload rfl rfl ?_
    exact e_iret rfl
  · refine e_iload rfl rfl ?_
    refine e_aload rfl rfl rfl ?_
    refine e_getA rfl fun r1 hr1 => ?_
    refine e_iload rfl rfl ?_
    refine e_isI rfl (Nat.le_of_ble_eq_true rfl) rfl rfl (Nat.le_of_ble_eq_true rfl) (fun _ _ => e_x0) fun x3 h2 => ?_
    refine e_iald rfl fun x4 => ?_
    refine e_if1 rfl rfl ?_ ?_
    · refine e_push rfl ?_
      refine e_i2 rfl ?_
      refine e_istoreL (M := fun x5 => [some (.ref v0), some (.int x5), some (.int v2)]) rfl (fun _ => dx_sto (Nat.le_of_ble_eq_true rfl) (Or.inr ⟨_, rfl, rfl⟩) rfl) fun x5 => ?_
      refine e_iinc (M := fun x6 => [some (.ref v0), some (.int x5), some (.int x6)]) rfl rfl (fun _ => dx_sto (Nat.le_of_ble_eq_true rfl) (Or.inr ⟨_, rfl, rfl⟩) rfl) fun x6 => ?_
      refine e_goto rfl ?_
      exact e_wk mP_X3_filesOf (ll_1 (ll_1 (ll_1 ll_n)))
    · refine e_push rfl ?_
      refine e_goto rfl ?_
      refine e_i2 rfl ?_
      refine e_istoreL (M := fun x7 => [some (.ref v0), some (.int x7), some (.int v2)]) rfl (fun _ => dx_sto (Nat.le_of_ble_eq_true rfl) (Or.inr ⟨_, rfl, rfl⟩) rfl) fun x7 => ?_
      refine e_iinc (M := fun x8 => [some (.ref v0), some (.int x7), some (.int x8)]) rfl rfl (fun _ => dx_sto (Nat.le_of_ble_eq_true rfl) (Or.inr ⟨_, rfl, rfl⟩) rfl) fun x8 => ?_
      refine e_goto rfl ?_
      exact e_wk mP_X3_filesOf (ll_1 (ll_1 (ll_1 ll_n)))
theorem m_X3_filesOf {d : Nat} {v0 : Nat} {h : ax_H}  : dx_le (B_X3_filesOf_4 (ax_c d) v0 0 0 h) (ax_c (d + 1) 414 [.ref v0] h) := by
  refine e_entry (L' := [some (.ref v0), none, none]) rfl (ag_A rfl ag_n) (Nat.le_of_ble_eq_true rfl) rfl ?_
  refine e_push rfl ?_
  refine e_istore (L' := [some (.ref v0), some (.int 0), none]) rfl (dx_sto (Nat.le_of_ble_eq_true rfl) (Or.inr ⟨_, rfl, rfl⟩) rfl) ?_
  refine e_push rfl ?_
  refine e_istore (L' := [some (.ref v0), some (.int 0), some (.int 0)]) rfl (dx_sto (Nat.le_of_ble_eq_true rfl) (Or.inr ⟨_, rfl, rfl⟩) rfl) ?_
  exact e_wk mP_X3_filesOf (ll_1 (ll_1 (ll_1 ll_n)))
theorem m_X3_entry {d : Nat} {v0 : Int32} {h : ax_H}  : dx_le (some (.inl (some (.int (40 + (4 * v0)))), h)) (ax_c (d + 1) 415 [.int v0] h) := by
  refine e_entry (L' := [some (.int v0)]) rfl (ag_I ag_n) (Nat.le_of_ble_eq_true rfl) rfl ?_
  refine e_push rfl ?_
  refine e_push rfl ?_
  refine e_iload rfl rfl ?_
  refine e_i2 rfl ?_
  refine e_i2 rfl ?_
  exact e_iret rfl
noncomputable def B_X3_step_37 (K : ax_K) (v0 : Nat) (v1 : Int32) (v2 : Int32) (h : ax_H) : Option ax_R := ax_run K P_X3_step 37 [some (.ref v0), some (.int v1), some (.int v2)] [] h
theorem b_X3_step_37 {K : ax_K} {v0 : Nat} {v1 : Int32} {v2 : Int32} {h : ax_H}  : dx_le (if v1 ≤ v2 then some (.inl (some (.int v2)), h) else (dx_vn [(38, 417)] (.ref v0) h).bind fun k => dx_cI (K k [.ref v0] h) (fun x2 h1 => if x2 = 0 then some (.inl (some (.int v2)), h1) else (dx_vn [(38, 418)] (.ref v0) h1).bind fun k => dx_cV (K k [.ref v0] h1) (fun h3 => dx_lt (v2 + 1) fun x4 => B_X3_step_37 K v0 v1 x4 h3) dx_x0) dx_x0) (B_X3_step_37 K v0 v1 v2 h) := by
  show dx_le _ (ax_run K P_X3_step 37 [some (.ref v0), some (.int v1), some (.int v2)] [] h)
  refine e_iload rfl rfl ?_
  refine e_iload rfl rfl ?_
  refine e_if2 rfl rfl ?_ ?_
  · refine e_iload rfl rfl ?_
    exact e_iret rfl
  · refine e_aload rfl rfl rfl ?_
    refine e_ivI rfl rfl rfl (Nat.le_of_ble_eq_true rfl) (fun _ _ => e_x0) fun x2 h1 => ?_
    refine e_if1 rfl rfl ?_ ?_
    · refine e_iload rfl rfl ?_
      exact e_iret rfl
    · refine e_aload rfl rfl rfl ?_
      refine e_ivV rfl rfl rfl (Nat.le_of_ble_eq_true rfl) (fun _ _ => e_x0) fun h3 => ?_
      refine e_iinc (M := fun x4 => [some (.ref v0), some (.int v1), some (.int x4)]) rfl rfl (fun _ => dx_sto (Nat.le_of_ble_eq_true rfl) (Or.inr ⟨_, rfl, rfl⟩) rfl) fun x4 => ?_
      refine e_goto rfl ?_
      exact e_wk mP_X3_step (ll_1 (ll_1 (ll_1 ll_n)))
theorem m_X3_step {d : Nat} {v0 : Nat} {v1 : Int32} {h : ax_H}  : dx_le (dx_cI ((ax_c d) 376 [.int v1, .int 1, .int 100] h) (fun x2 h1 => if ¬ x2 = 0 then (dx_vn [(38, 405)] (.ref v0) h1).bind fun k => dx_cI ((ax_c d) k [.ref v0] h1) (fun x4 h3 => if x4 = 0 then (dx_vn [(38, 378)] (.ref v0) h3).bind fun k => dx_cI ((ax_c d) k [.ref v0, .int 2] h3) (fun x6 h5 => if ¬ x6 = 0 then B_X3_step_37 (ax_c d) v0 v1 0 h5 else some (.inl (some (.int 0)), h5)) dx_x0 else (dx_vn [(38, 378)] (.ref v0) h3).bind fun k => dx_cI ((ax_c d) k [.ref v0, .int 0] h3) (fun x8 h7 => if ¬ x8 = 0 then B_X3_step_37 (ax_c d) v0 v1 0 h7 else some (.inl (some (.int 0)), h7)) dx_x0) dx_x0 else (dx_vn [(38, 378)] (.ref v0) h1).bind fun k => dx_cI ((ax_c d) k [.ref v0, .int 1] h1) (fun x10 h9 => if ¬ x10 = 0 then B_X3_step_37 (ax_c d) v0 v1 0 h9 else some (.inl (some (.int 0)), h9)) dx_x0) dx_x0) (ax_c (d + 1) 416 [.ref v0, .int v1] h) := by
  refine e_entry (L' := [some (.ref v0), some (.int v1), none]) rfl (ag_A rfl (ag_I ag_n)) (Nat.le_of_ble_eq_true rfl) rfl ?_
  refine e_aload rfl rfl rfl ?_
  refine e_iload rfl rfl ?_
  refine e_push rfl ?_
  refine e_push rfl ?_
  refine e_isI rfl (Nat.le_of_ble_eq_true rfl) rfl rfl (Nat.le_of_ble_eq_true rfl) (fun _ _ => e_x0) fun x2 h1 => ?_
  refine e_if1 rfl rfl ?_ ?_
  · refine e_aload rfl rfl rfl ?_
    refine e_ivI rfl rfl rfl (Nat.le_of_ble_eq_true rfl) (fun _ _ => e_x0) fun x4 h3 => ?_
    refine e_if1 rfl rfl ?_ ?_
    · refine e_push rfl ?_
      refine e_ivI rfl rfl rfl (Nat.le_of_ble_eq_true rfl) (fun _ _ => e_x0) fun x6 h5 => ?_
      refine e_if1 rfl rfl ?_ ?_
      · refine e_push rfl ?_
        refine e_istore (L' := [some (.ref v0), some (.int v1), some (.int 0)]) rfl (dx_sto (Nat.le_of_ble_eq_true rfl) (Or.inr ⟨_, rfl, rfl⟩) rfl) ?_
        exact e_wk mP_X3_step (ll_1 (ll_1 (ll_1 ll_n)))
      · refine e_push rfl ?_
        exact e_iret rfl
    · refine e_push rfl ?_
      refine e_goto rfl ?_
      refine e_ivI rfl rfl rfl (Nat.le_of_ble_eq_true rfl) (fun _ _ => e_x0) fun x8 h7 => ?_
      refine e_if1 rfl rfl ?_ ?_
      · refine e_push rfl ?_
        refine e_istore (L' := [some (.ref v0), some (.int v1), some (.int 0)]) rfl (dx_sto (Nat.le_of_ble_eq_true rfl) (Or.inr ⟨_, rfl, rfl⟩) rfl) ?_
        exact e_wk mP_X3_step (ll_1 (ll_1 (ll_1 ll_n)))
      · refine e_push rfl ?_
        exact e_iret rfl
  · refine e_push rfl ?_
    refine e_goto rfl ?_
    refine e_ivI rfl rfl rfl (Nat.le_of_ble_eq_true rfl) (fun _ _ => e_x0) fun x10 h9 => ?_
    refine e_if1 rfl rfl ?_ ?_
    · refine e_push rfl ?_
      refine e_istore (L' := [some (.ref v0), some (.int v1), some (.int 0)]) rfl (dx_sto (Nat.le_of_ble_eq_true rfl) (Or.inr ⟨_, rfl, rfl⟩) rfl) ?_
      exact e_wk mP_X3_step (ll_1 (ll_1 (ll_1 ll_n)))
    · refine e_push rfl ?_
      exact e_iret rfl
theorem m_X3_canStep {d : Nat} {v0 : Nat} {h : ax_H}  : dx_le ((dx_gI [(38, 23)] (.ref v0) h).bind fun x1 => if ¬ x1 = 1 then some (.inl (some (.int 0)), h) else (dx_gI [(38, 38)] (.ref v0) h).bind fun x2 => if (1000 : Int32) ≤ x2 then some (.inl (some (.int 0)), h) else some (.inl (some (.int 1)), h)) (ax_c (d + 1) 417 [.ref v0] h) := by
  refine e_entry (L' := [some (.ref v0)]) rfl (ag_A rfl ag_n) (Nat.le_of_ble_eq_true rfl) rfl ?_
  refine e_aload rfl rfl rfl ?_
  refine e_getI rfl fun x1 => ?_
  refine e_push rfl ?_
  refine e_if2 rfl rfl ?_ ?_
  · refine e_push rfl ?_
    exact e_zret0 rfl
  · refine e_aload rfl rfl rfl ?_
    refine e_getI rfl fun x2 => ?_
    refine e_push rfl ?_
    refine e_if2 rfl rfl ?_ ?_
    · refine e_push rfl ?_
      exact e_zret0 rfl
    · refine e_push rfl ?_
      refine e_goto rfl ?_
      exact e_zret1 rfl
theorem m_X3_stepsAndKeeps {d : Nat} {v0 : Nat} {h : ax_H}  : dx_le ((dx_vn [(38, 419)] (.ref v0) h).bind fun k => dx_cV ((ax_c d) k [.ref v0] h) (fun h1 => (dx_gI [(38, 40)] (.ref v0) h1).bind fun x2 => (dx_gI [(38, 40)] (.ref v0) h1).bind fun x3 => if (200 : Int32) ≤ x3 then (dx_pF [(38, 40)] (.int) (.ref v0) (.int (x2 + 0)) h1).bind fun h4 => some (.inl none, h4) else (dx_pF [(38, 40)] (.int) (.ref v0) (.int (x2 + 1)) h1).bind fun h5 => some (.inl none, h5)) dx_x0) (ax_c (d + 1) 418 [.ref v0] h) := by
  refine e_entry (L' := [some (.ref v0)]) rfl (ag_A rfl ag_n) (Nat.le_of_ble_eq_true rfl) rfl ?_
  refine e_aload rfl rfl rfl ?_
  refine e_ivV rfl rfl rfl (Nat.le_of_ble_eq_true rfl) (fun _ _ => e_x0) fun h1 => ?_
  refine e_aload rfl rfl rfl ?_
  refine e_dup rfl rfl ?_
  refine e_getI rfl fun x2 => ?_
  refine e_aload rfl rfl rfl ?_
  refine e_getI rfl fun x3 => ?_
  refine e_push rfl ?_
  refine e_if2 rfl rfl ?_ ?_
  · refine e_push rfl ?_
    refine e_i2 rfl ?_
    refine e_putf rfl fun h4 => ?_
    exact e_ret rfl
  · refine e_push rfl ?_
    refine e_goto rfl ?_
    refine e_i2 rfl ?_
    refine e_putf rfl fun h5 => ?_
    exact e_ret rfl
noncomputable def B_X3_stepsOnce_30 (K : ax_K) (v0 : Nat) (h : ax_H) : Option ax_R := ax_run K P_X3_stepsOnce 30 [some (.ref v0)] [] h
noncomputable def B_X3_stepsOnce_76 (K : ax_K) (v0 : Nat) (h : ax_H) : Option ax_R := ax_run K P_X3_stepsOnce 76 [some (.ref v0)] [] h
noncomputable def B_X3_stepsOnce_127 (K : ax_K) (s0 : Nat) (s1 : Int32) (v0 : Nat) (h : ax_H) : Option ax_R := ax_run K P_X3_stepsOnce 127 [some (.ref v0)] [.int s1, .ref s0] h
theorem b_X3_stepsOnce_30 {K : ax_K} {v0 : Nat} {h : ax_H}  : dx_le ((dx_gI [(38, 46)] (.ref v0) h).bind fun x1 => if x1 ≤ 0 then (dx_gI [(38, 31)] (.ref v0) h).bind fun x2 => if x2 = 0 then (dx_vn [(38, 426)] (.ref v0) h).bind fun k => dx_cV (K k [.ref v0] h) (fun h3 => B_X3_stepsOnce_76 K v0 h3) dx_x0 else (dx_gI [(38, 32)] (.ref v0) h).bind fun x4 => if ¬ x4 = 0 then (dx_vn [(38, 421)] (.ref v0) h).bind fun k => dx_cV (K k [.ref v0] h) (fun h5 => B_X3_stepsOnce_76 K v0 h5) dx_x0 else (dx_gI [(38, 33)] (.ref v0) h).bind fun x6 => if x6 = 0 then (dx_vn [(38, 426)] (.ref v0) h).bind fun k => dx_cV (K k [.ref v0] h) (fun h7 => B_X3_stepsOnce_76 K v0 h7) dx_x0 else (dx_vn [(38, 421)] (.ref v0) h).bind fun k => dx_cV (K k [.ref v0] h) (fun h8 => B_X3_stepsOnce_76 K v0 h8) dx_x0 else (dx_vn [(38, 420)] (.ref v0) h).bind fun k => dx_cV (K k [.ref v0] h) (fun h9 => B_X3_stepsOnce_76 K v0 h9) dx_x0) (B_X3_stepsOnce_30 K v0 h) := by
  show dx_le _ (ax_run K P_X3_stepsOnce 30 [some (.ref v0)] [] h)
  refine e_aload rfl rfl rfl ?_
  refine e_getI rfl fun x1 => ?_
  refine e_if1 rfl rfl ?_ ?_
  · refine e_aload rfl rfl rfl ?_
    refine e_getI rfl fun x2 => ?_
    refine e_if1 rfl rfl ?_ ?_
    · refine e_aload rfl rfl rfl ?_
      refine e_ivV rfl rfl rfl (Nat.le_of_ble_eq_true rfl) (fun _ _ => e_x0) fun h3 => ?_
      exact e_wk mP_X3_stepsOnce (ll_1 ll_n)
    · refine e_aload rfl rfl rfl ?_
      refine e_getI rfl fun x4 => ?_
      refine e_if1 rfl rfl ?_ ?_
      · refine e_aload rfl rfl rfl ?_
        refine e_ivV rfl rfl rfl (Nat.le_of_ble_eq_true rfl) (fun _ _ => e_x0) fun h5 => ?_
        refine e_goto rfl ?_
        exact e_wk mP_X3_stepsOnce (ll_1 ll_n)
      · refine e_aload rfl rfl rfl ?_
        refine e_getI rfl fun x6 => ?_
        refine e_if1 rfl rfl ?_ ?_
        · refine e_aload rfl rfl rfl ?_
          refine e_ivV rfl rfl rfl (Nat.le_of_ble_eq_true rfl) (fun _ _ => e_x0) fun h7 => ?_
          exact e_wk mP_X3_stepsOnce (ll_1 ll_n)
        · refine e_aload rfl rfl rfl ?_
          refine e_ivV rfl rfl rfl (Nat.le_of_ble_eq_true rfl) (fun _ _ => e_x0) fun h8 => ?_
          refine e_goto rfl ?_
          exact e_wk mP_X3_stepsOnce (ll_1 ll_n)
  · refine e_aload rfl rfl rfl ?_
    refine e_ivV rfl rfl rfl (Nat.le_of_ble_eq_true rfl) (fun _ _ => e_x0) fun h9 => ?_
    refine e_goto rfl ?_
    exact e_wk mP_X3_stepsOnce (ll_1 ll_n)
theorem b_X3_stepsOnce_76 {K : ax_K} {v0 : Nat} {h : ax_H}  : dx_le ((dx_gI [(38, 38)] (.ref v0) h).bind fun x1 => (dx_pF [(38, 38)] (.int) (.ref v0) (.int (x1 + 1)) h).bind fun h2 => (dx_gI [(38, 34)] (.ref v0) h2).bind fun x3 => if x3 ≤ 0 then (dx_vn [(38, 449)] (.ref v0) h2).bind fun k => dx_cV (K k [.ref v0] h2) (fun h4 => some (.inl none, h4)) dx_x0 else (dx_gI [(38, 35)] (.ref v0) h2).bind fun x5 => (dx_pF [(38, 35)] (.int) (.ref v0) (.int (x5 + 1)) h2).bind fun h6 => (dx_gI [(38, 32)] (.ref v0) h6).bind fun x7 => if ¬ x7 = 0 then B_X3_stepsOnce_127 K v0 1 v0 h6 else (dx_gI [(38, 35)] (.ref v0) h6).bind fun x8 => (dx_gI [(38, 34)] (.ref v0) h6).bind fun x9 => if ¬ x8 = x9 then B_X3_stepsOnce_127 K v0 0 v0 h6 else B_X3_stepsOnce_127 K v0 1 v0 h6) (B_X3_stepsOnce_76 K v0 h) := by
  show dx_le _ (ax_run K P_X3_stepsOnce 76 [some (.ref v0)] [] h)
  refine e_aload rfl rfl rfl ?_
  refine e_dup rfl rfl ?_
  refine e_getI rfl fun x1 => ?_
  refine e_push rfl ?_
  refine e_i2 rfl ?_
  refine e_putf rfl fun h2 => ?_
  refine e_aload rfl rfl rfl ?_
  refine e_getI rfl fun x3 => ?_
  refine e_if1 rfl rfl ?_ ?_
  · refine e_aload rfl rfl rfl ?_
    refine e_ivV rfl rfl rfl (Nat.le_of_ble_eq_true rfl) (fun _ _ => e_x0) fun h4 => ?_
    exact e_ret rfl
  · refine e_aload rfl rfl rfl ?_
    refine e_dup rfl rfl ?_
    refine e_getI rfl fun x5 => ?_
    refine e_push rfl ?_
    refine e_i2 rfl ?_
    refine e_putf rfl fun h6 => ?_
    refine e_aload rfl rfl rfl ?_
    refine e_aload rfl rfl rfl ?_
    refine e_getI rfl fun x7 => ?_
    refine e_if1 rfl rfl ?_ ?_
    · refine e_push rfl ?_
      refine e_goto rfl ?_
      exact e_wk mP_X3_stepsOnce (ll_1 ll_n)
    · refine e_aload rfl rfl rfl ?_
      refine e_getI rfl fun x8 => ?_
      refine e_aload rfl rfl rfl ?_
      refine e_getI rfl fun x9 => ?_
      refine e_if2 rfl rfl ?_ ?_
      · refine e_push rfl ?_
        exact e_wk mP_X3_stepsOnce (ll_1 ll_n)
      · refine e_push rfl ?_
        refine e_goto rfl ?_
        exact e_wk mP_X3_stepsOnce (ll_1 ll_n)
theorem b_X3_stepsOnce_127 {K : ax_K} {s0 : Nat} {s1 : Int32} {v0 : Nat} {h : ax_H}  : dx_le ((dx_pF [(38, 32)] (.boolean) (.ref s0) (.int s1) h).bind fun h1 => (dx_gI [(38, 35)] (.ref v0) h1).bind fun x2 => (dx_gI [(38, 34)] (.ref v0) h1).bind fun x3 => if ¬ x2 = x3 then (dx_gI [(38, 35)] (.ref v0) h1).bind fun x4 => (dx_pF [(38, 35)] (.int) (.ref v0) (.int x4) h1).bind fun h5 => (dx_vn [(38, 449)] (.ref v0) h5).bind fun k => dx_cV (K k [.ref v0] h5) (fun h6 => some (.inl none, h6)) dx_x0 else (dx_pF [(38, 35)] (.int) (.ref v0) (.int 0) h1).bind fun h7 => (dx_vn [(38, 449)] (.ref v0) h7).bind fun k => dx_cV (K k [.ref v0] h7) (fun h8 => some (.inl none, h8)) dx_x0) (B_X3_stepsOnce_127 K s0 s1 v0 h) := by
  show dx_le _ (ax_run K P_X3_stepsOnce 127 [some (.ref v0)] [.int s1, .ref s0] h)
  refine e_putf rfl fun h1 => ?_
  refine e_aload rfl rfl rfl ?_
  refine e_aload rfl rfl rfl ?_
  refine e_getI rfl fun x2 => ?_
  refine e_aload rfl rfl rfl ?_
  refine e_getI rfl fun x3 => ?_
  refine e_if2 rfl rfl ?_ ?_
  · refine e_aload rfl rfl rfl ?_
    refine e_getI rfl fun x4 => ?_
    refine e_putf rfl fun h5 => ?_
    refine e_aload rfl rfl rfl ?_
    refine e_ivV rfl rfl rfl (Nat.le_of_ble_eq_true rfl) (fun _ _ => e_x0) fun h6 => ?_
    exact e_ret rfl
  · refine e_push rfl ?_
    refine e_goto rfl ?_
    refine e_putf rfl fun h7 => ?_
    refine e_aload rfl rfl rfl ?_
    refine e_ivV rfl rfl rfl (Nat.le_of_ble_eq_true rfl) (fun _ _ => e_x0) fun h8 => ?_
    exact e_ret rfl
theorem m_X3_stepsOnce {d : Nat} {v0 : Nat} {h : ax_H}  : dx_le ((dx_gI [(38, 38)] (.ref v0) h).bind fun x1 => if (1000 : Int32) ≤ x1 then B_X3_stepsOnce_30 (ax_c d) v0 h else (dx_gA [(38, 44)] (.ref v0) h).bind fun r2 => (dx_gI [(38, 38)] (.ref v0) h).bind fun x3 => (dx_sI 0 r2 x3 (-1) h).bind fun h4 => (dx_gA [(38, 45)] (.ref v0) h4).bind fun r5 => (dx_gI [(38, 38)] (.ref v0) h4).bind fun x6 => (dx_sI 0 r5 x6 (-1) h4).bind fun h7 => B_X3_stepsOnce_30 (ax_c d) v0 h7) (ax_c (d + 1) 419 [.ref v0] h) := by
  refine e_entry (L' := [some (.ref v0)]) rfl (ag_A rfl ag_n) (Nat.le_of_ble_eq_true rfl) rfl ?_
  refine e_aload rfl rfl rfl ?_
  refine e_getI rfl fun x1 => ?_
  refine e_push rfl ?_
  refine e_if2 rfl rfl ?_ ?_
  · exact e_wk mP_X3_stepsOnce (ll_1 ll_n)
  · refine e_aload rfl rfl rfl ?_
    refine e_getA rfl fun r2 hr2 => ?_
    refine e_aload rfl rfl rfl ?_
    refine e_getI rfl fun x3 => ?_
    refine e_push rfl ?_
    refine e_iastI rfl fun h4 => ?_
    refine e_aload rfl rfl rfl ?_
    refine e_getA rfl fun r5 hr5 => ?_
    refine e_aload rfl rfl rfl ?_
    refine e_getI rfl fun x6 => ?_
    refine e_push rfl ?_
    refine e_iastI rfl fun h7 => ?_
    exact e_wk mP_X3_stepsOnce (ll_1 ll_n)
noncomputable def B_X3_writesBlock_54 (K : ax_K) (v0 : Nat) (v1 : Int32) (h : ax_H) : Option ax_R := ax_run K P_X3_writesBlock 54 [some (.ref v0), some (.int v1), none, none, none] [] h
noncomputable def B_X3_writesBlock_94 (K : ax_K) (s0 : Int32) (v0 : Nat) (v1 : Int32) (h : ax_H) : Option ax_R := ax_run K P_X3_writesBlock 94 [some (.ref v0), some (.int v1), none, none, none] [.int s0] h
noncomputable def B_X3_writesBlock_119 (K : ax_K) (v0 : Nat) (v2 : Int32) (v3 : Int32) (v4 : Int32) (h : ax_H) : Option ax_R := ax_run K P_X3_writesBlock 119 [some (.ref v0), none, some (.int v2), some (.int v3), some (.int v4)] [] h
noncomputable def B_X3_writesBlock_156 (K : ax_K) (v0 : Nat) (h : ax_H) : Option ax_R := ax_run K P_X3_writesBlock 156 [some (.ref v0), none, none, none, none] [] h
theorem b_X3_writesBlock_54 {K : ax_K} {v0 : Nat} {v1 : Int32} {h : ax_H}  : dx_le ((dx_gI [(38, 47)] (.ref v0) h).bind fun x1 => if ¬ v1 = x1 then (dx_vn [(38, 408)] (.ref v0) h).bind fun k => dx_cV (K k [.ref v0, .int 0] h) (fun h2 => B_X3_writesBlock_156 K v0 h2) dx_x0 else (dx_vn [(38, 408)] (.ref v0) h).bind fun k => dx_cV (K k [.ref v0, .int 1] h) (fun h3 => B_X3_writesBlock_156 K v0 h3) dx_x0) (B_X3_writesBlock_54 K v0 v1 h) := by
  show dx_le _ (ax_run K P_X3_writesBlock 54 [some (.ref v0), some (.int v1), none, none, none] [] h)
  refine e_aload rfl rfl rfl ?_
  refine e_iload rfl rfl ?_
  refine e_aload rfl rfl rfl ?_
  refine e_getI rfl fun x1 => ?_
  refine e_if2 rfl rfl ?_ ?_
  · refine e_push rfl ?_
    refine e_ivV rfl rfl rfl (Nat.le_of_ble_eq_true rfl) (fun _ _ => e_x0) fun h2 => ?_
    refine e_goto rfl ?_
    exact e_wk mP_X3_writesBlock (ll_1 (ll_0 (ll_0 (ll_0 (ll_0 ll_n)))))
  · refine e_push rfl ?_
    refine e_goto rfl ?_
    refine e_ivV rfl rfl rfl (Nat.le_of_ble_eq_true rfl) (fun _ _ => e_x0) fun h3 => ?_
    refine e_goto rfl ?_
    exact e_wk mP_X3_writesBlock (ll_1 (ll_0 (ll_0 (ll_0 (ll_0 ll_n)))))
theorem b_X3_writesBlock_94 {K : ax_K} {s0 : Int32} {v0 : Nat} {v1 : Int32} {h : ax_H}  : dx_le ((dx_gI [(38, 47)] (.ref v0) h).bind fun x1 => if x1 ≤ v1 then (dx_gA [(38, 48)] (.ref v0) h).bind fun r2 => (dx_lI 0 r2 s0 h).bind fun x3 => B_X3_writesBlock_119 K v0 s0 x3 0 h else dx_lt (1 + v1) fun x4 => B_X3_writesBlock_119 K v0 s0 x4 0 h) (B_X3_writesBlock_94 K s0 v0 v1 h) := by
  show dx_le _ (ax_run K P_X3_writesBlock 94 [some (.ref v0), some (.int v1), none, none, none] [.int s0] h)
  refine e_istore (L' := [some (.ref v0), some (.int v1), some (.int s0), none, none]) rfl (dx_sto (Nat.le_of_ble_eq_true rfl) (Or.inr ⟨_, rfl, rfl⟩) rfl) ?_
  refine e_iload rfl rfl ?_
  refine e_aload rfl rfl rfl ?_
  refine e_getI rfl fun x1 => ?_
  refine e_if2 rfl rfl ?_ ?_
  · refine e_aload rfl rfl rfl ?_
    refine e_getA rfl fun r2 hr2 => ?_
    refine e_iload rfl rfl ?_
    refine e_iald rfl fun x3 => ?_
    refine e_istore (L' := [some (.ref v0), some (.int v1), some (.int s0), some (.int x3), none]) rfl (dx_sto (Nat.le_of_ble_eq_true rfl) (Or.inr ⟨_, rfl, rfl⟩) rfl) ?_
    refine e_push rfl ?_
    refine e_istore (L' := [some (.ref v0), some (.int v1), some (.int s0), some (.int x3), some (.int 0)]) rfl (dx_sto (Nat.le_of_ble_eq_true rfl) (Or.inr ⟨_, rfl, rfl⟩) rfl) ?_
    exact e_wk mP_X3_writesBlock (ll_1 (ll_0 (ll_1 (ll_1 (ll_1 ll_n)))))
  · refine e_push rfl ?_
    refine e_iload rfl rfl ?_
    refine e_i2 rfl ?_
    refine e_goto rfl ?_
    refine e_istoreL (M := fun x4 => [some (.ref v0), some (.int v1), some (.int s0), some (.int x4), none]) rfl (fun _ => dx_sto (Nat.le_of_ble_eq_true rfl) (Or.inr ⟨_, rfl, rfl⟩) rfl) fun x4 => ?_
    refine e_push rfl ?_
    refine e_istore (L' := [some (.ref v0), some (.int v1), some (.int s0), some (.int x4), some (.int 0)]) rfl (dx_sto (Nat.le_of_ble_eq_true rfl) (Or.inr ⟨_, rfl, rfl⟩) rfl) ?_
    exact e_wk mP_X3_writesBlock (ll_1 (ll_0 (ll_1 (ll_1 (ll_1 ll_n)))))
theorem b_X3_writesBlock_119 {K : ax_K} {v0 : Nat} {v2 : Int32} {v3 : Int32} {v4 : Int32} {h : ax_H}  : dx_le (if (8 : Int32) ≤ v4 then B_X3_writesBlock_156 K v0 h else (dx_gA [(38, 50)] (.ref v0) h).bind fun r1 => (dx_gA [(38, 49)] (.ref v0) h).bind fun r2 => (dx_lI 0 r2 ((8 * v2) + v4) h).bind fun x3 => (dx_sI 0 r1 ((8 * v3) + v4) x3 h).bind fun h4 => dx_lt (v4 + 1) fun x5 => B_X3_writesBlock_119 K v0 v2 v3 x5 h4) (B_X3_writesBlock_119 K v0 v2 v3 v4 h) := by
  show dx_le _ (ax_run K P_X3_writesBlock 119 [some (.ref v0), none, some (.int v2), some (.int v3), some (.int v4)] [] h)
  refine e_iload rfl rfl ?_
  refine e_push rfl ?_
  refine e_if2 rfl rfl ?_ ?_
  · exact e_wk mP_X3_writesBlock (ll_1 (ll_0 (ll_0 (ll_0 (ll_0 ll_n)))))
  · refine e_aload rfl rfl rfl ?_
    refine e_getA rfl fun r1 hr1 => ?_
    refine e_push rfl ?_
    refine e_iload rfl rfl ?_
    refine e_i2 rfl ?_
    refine e_iload rfl rfl ?_
    refine e_i2 rfl ?_
    refine e_aload rfl rfl rfl ?_
    refine e_getA rfl fun r2 hr2 => ?_
    refine e_push rfl ?_
    refine e_iload rfl rfl ?_
    refine e_i2 rfl ?_
    refine e_iload rfl rfl ?_
    refine e_i2 rfl ?_
    refine e_iald rfl fun x3 => ?_
    refine e_iastI rfl fun h4 => ?_
    refine e_iinc (M := fun x5 => [some (.ref v0), none, some (.int v2), some (.int v3), some (.int x5)]) rfl rfl (fun _ => dx_sto (Nat.le_of_ble_eq_true rfl) (Or.inr ⟨_, rfl, rfl⟩) rfl) fun x5 => ?_
    refine e_goto rfl ?_
    exact e_wk mP_X3_writesBlock (ll_1 (ll_0 (ll_1 (ll_1 (ll_1 ll_n)))))
theorem b_X3_writesBlock_156 {K : ax_K} {v0 : Nat} {h : ax_H}  : dx_le ((dx_gI [(38, 46)] (.ref v0) h).bind fun x1 => if ¬ x1 = 0 then some (.inl none, h) else (dx_gA [(38, 26)] (.ref v0) h).bind fun r2 => (dx_sI 0 r2 3 0 h).bind fun h3 => (dx_gI [(38, 27)] (.ref v0) h3).bind fun x4 => (dx_pF [(38, 27)] (.int) (.ref v0) (.int (x4 + 2)) h3).bind fun h5 => some (.inl none, h5)) (B_X3_writesBlock_156 K v0 h) := by
  show dx_le _ (ax_run K P_X3_writesBlock 156 [some (.ref v0), none, none, none, none] [] h)
  refine e_aload rfl rfl rfl ?_
  refine e_getI rfl fun x1 => ?_
  refine e_if1 rfl rfl ?_ ?_
  · exact e_ret rfl
  · refine e_aload rfl rfl rfl ?_
    refine e_getA rfl fun r2 hr2 => ?_
    refine e_push rfl ?_
    refine e_push rfl ?_
    refine e_iastI rfl fun h3 => ?_
    refine e_aload rfl rfl rfl ?_
    refine e_dup rfl rfl ?_
    refine e_getI rfl fun x4 => ?_
    refine e_push rfl ?_
    refine e_i2 rfl ?_
    refine e_putf rfl fun h5 => ?_
    exact e_ret rfl
theorem m_X3_writesBlock {d : Nat} {v0 : Nat} {h : ax_H}  : dx_le ((dx_gI [(38, 47)] (.ref v0) h).bind fun x1 => (dx_gI [(38, 46)] (.ref v0) h).bind fun x2 => dx_lt (((2 * x1) + 2) - x2) fun x3 => (dx_gI [(38, 46)] (.ref v0) h).bind fun x4 => (dx_pF [(38, 46)] (.int) (.ref v0) (.int (x4 - 1)) h).bind fun h5 => (dx_gI [(38, 52)] (.ref v0) h5).bind fun x6 => (dx_pF [(38, 52)] (.int) (.ref v0) (.int (x6 + 1)) h5).bind fun h7 => (dx_gI [(38, 47)] (.ref v0) h7).bind fun x8 => if x3 = x8 then B_X3_writesBlock_54 (ax_c d) v0 x3 h7 else (dx_gI [(38, 47)] (.ref v0) h7).bind fun x9 => if ¬ x3 = ((2 * x9) + 1) then (dx_gI [(38, 47)] (.ref v0) h7).bind fun x10 => if x10 ≤ x3 then (dx_gI [(38, 47)] (.ref v0) h7).bind fun x11 => B_X3_writesBlock_94 (ax_c d) ((x3 - x11) - 1) v0 x3 h7 else B_X3_writesBlock_94 (ax_c d) x3 v0 x3 h7 else B_X3_writesBlock_54 (ax_c d) v0 x3 h7) (ax_c (d + 1) 420 [.ref v0] h) := by
  refine e_entry (L' := [some (.ref v0), none, none, none, none]) rfl (ag_A rfl ag_n) (Nat.le_of_ble_eq_true rfl) rfl ?_
  refine e_push rfl ?_
  refine e_aload rfl rfl rfl ?_
  refine e_getI rfl fun x1 => ?_
  refine e_i2 rfl ?_
  refine e_push rfl ?_
  refine e_i2 rfl ?_
  refine e_aload rfl rfl rfl ?_
  refine e_getI rfl fun x2 => ?_
  refine e_i2 rfl ?_
  refine e_istoreL (M := fun x3 => [some (.ref v0), some (.int x3), none, none, none]) rfl (fun _ => dx_sto (Nat.le_of_ble_eq_true rfl) (Or.inr ⟨_, rfl, rfl⟩) rfl) fun x3 => ?_
  refine e_aload rfl rfl rfl ?_
  refine e_dup rfl rfl ?_
  refine e_getI rfl fun x4 => ?_
  refine e_push rfl ?_
  refine e_i2 rfl ?_
  refine e_putf rfl fun h5 => ?_
  refine e_aload rfl rfl rfl ?_
  refine e_dup rfl rfl ?_
  refine e_getI rfl fun x6 => ?_
  refine e_push rfl ?_
  refine e_i2 rfl ?_
  refine e_putf rfl fun h7 => ?_
  refine e_iload rfl rfl ?_
  refine e_aload rfl rfl rfl ?_
  refine e_getI rfl fun x8 => ?_
  refine e_if2 rfl rfl ?_ ?_
  · exact e_wk mP_X3_writesBlock (ll_1 (ll_1 (ll_0 (ll_0 (ll_0 ll_n)))))
  · refine e_iload rfl rfl ?_
    refine e_push rfl ?_
    refine e_aload rfl rfl rfl ?_
    refine e_getI rfl fun x9 => ?_
    refine e_i2 rfl ?_
    refine e_push rfl ?_
    refine e_i2 rfl ?_
    refine e_if2 rfl rfl ?_ ?_
    · refine e_iload rfl rfl ?_
      refine e_aload rfl rfl rfl ?_
      refine e_getI rfl fun x10 => ?_
      refine e_if2 rfl rfl ?_ ?_
      · refine e_iload rfl rfl ?_
        refine e_aload rfl rfl rfl ?_
        refine e_getI rfl fun x11 => ?_
        refine e_i2 rfl ?_
        refine e_push rfl ?_
        refine e_i2 rfl ?_
        exact e_wk mP_X3_writesBlock (ll_1 (ll_1 (ll_0 (ll_0 (ll_0 ll_n)))))
      · refine e_iload rfl rfl ?_
        refine e_goto rfl ?_
        exact e_wk mP_X3_writesBlock (ll_1 (ll_1 (ll_0 (ll_0 (ll_0 ll_n)))))
    · exact e_wk mP_X3_writesBlock (ll_1 (ll_1 (ll_0 (ll_0 (ll_0 ll_n)))))
noncomputable def B_X3_interrupts_26 (K : ax_K) (s0 : Int32) (v0 : Nat) (h : ax_H) : Option ax_R := ax_run K P_X3_interrupts 26 [some (.ref v0), none] [.int s0] h
noncomputable def B_X3_interrupts_47 (K : ax_K) (s0 : Nat) (s1 : Int32) (v0 : Nat) (v1 : Int32) (h : ax_H) : Option ax_R := ax_run K P_X3_interrupts 47 [some (.ref v0), some (.int v1)] [.int s1, .ref s0] h
noncomputable def B_X3_interrupts_88 (K : ax_K) (s0 : Nat) (s1 : Int32) (s2 : Int32) (v0 : Nat) (v1 : Int32) (h : ax_H) : Option ax_R := ax_run K P_X3_interrupts 88 [some (.ref v0), some (.int v1)] [.int s2, .int s1, .ref s0] h
theorem b_X3_interrupts_26 {K : ax_K} {s0 : Int32} {v0 : Nat} {h : ax_H}  : dx_le ((dx_gI [(38, 32)] (.ref v0) h).bind fun x1 => if x1 = 0 then B_X3_interrupts_47 K v0 0 v0 s0 h else (dx_gI [(38, 33)] (.ref v0) h).bind fun x2 => if x2 = 0 then B_X3_interrupts_47 K v0 0 v0 s0 h else B_X3_interrupts_47 K v0 1 v0 s0 h) (B_X3_interrupts_26 K s0 v0 h) := by
  show dx_le _ (ax_run K P_X3_interrupts 26 [some (.ref v0), none] [.int s0] h)
  refine e_istore (L' := [some (.ref v0), some (.int s0)]) rfl (dx_sto (Nat.le_of_ble_eq_true rfl) (Or.inr ⟨_, rfl, rfl⟩) rfl) ?_
  refine e_aload rfl rfl rfl ?_
  refine e_aload rfl rfl rfl ?_
  refine e_getI rfl fun x1 => ?_
  refine e_if1 rfl rfl ?_ ?_
  · refine e_push rfl ?_
    exact e_wk mP_X3_interrupts (ll_1 (ll_1 ll_n))
  · refine e_aload rfl rfl rfl ?_
    refine e_getI rfl fun x2 => ?_
    refine e_if1 rfl rfl ?_ ?_
    · refine e_push rfl ?_
      exact e_wk mP_X3_interrupts (ll_1 (ll_1 ll_n))
    · refine e_push rfl ?_
      refine e_goto rfl ?_
      exact e_wk mP_X3_interrupts (ll_1 (ll_1 ll_n))
theorem b_X3_interrupts_47 {K : ax_K} {s0 : Nat} {s1 : Int32} {v0 : Nat} {v1 : Int32} {h : ax_H}  : dx_le ((dx_pF [(38, 33)] (.boolean) (.ref s0) (.int s1) h).bind fun h1 => (dx_pF [(38, 32)] (.boolean) (.ref v0) (.int 0) h1).bind fun h2 => (dx_gI [(38, 27)] (.ref v0) h2).bind fun x3 => (dx_vn [(38, 423)] (.ref v0) h2).bind fun k => dx_cV (K k [.ref v0, .int x3] h2) (fun h4 => (dx_gI [(38, 29)] (.ref v0) h4).bind fun x5 => if x5 = 0 then (dx_gI [(38, 30)] (.ref v0) h4).bind fun x6 => if x6 = 0 then B_X3_interrupts_88 K v0 0 0 v0 v1 h4 else B_X3_interrupts_88 K v0 0 2 v0 v1 h4 else (dx_gI [(38, 30)] (.ref v0) h4).bind fun x7 => if x7 = 0 then B_X3_interrupts_88 K v0 1 0 v0 v1 h4 else B_X3_interrupts_88 K v0 1 2 v0 v1 h4) dx_x0) (B_X3_interrupts_47 K s0 s1 v0 v1 h) := by
  show dx_le _ (ax_run K P_X3_interrupts 47 [some (.ref v0), some (.int v1)] [.int s1, .ref s0] h)
  refine e_putf rfl fun h1 => ?_
  refine e_aload rfl rfl rfl ?_
  refine e_push rfl ?_
  refine e_putf rfl fun h2 => ?_
  refine e_aload rfl rfl rfl ?_
  refine e_aload rfl rfl rfl ?_
  refine e_getI rfl fun x3 => ?_
  refine e_ivV rfl rfl rfl (Nat.le_of_ble_eq_true rfl) (fun _ _ => e_x0) fun h4 => ?_
  refine e_aload rfl rfl rfl ?_
  refine e_aload rfl rfl rfl ?_
  refine e_getI rfl fun x5 => ?_
  refine e_if1 rfl rfl ?_ ?_
  · refine e_push rfl ?_
    refine e_aload rfl rfl rfl ?_
    refine e_getI rfl fun x6 => ?_
    refine e_if1 rfl rfl ?_ ?_
    · refine e_push rfl ?_
      exact e_wk mP_X3_interrupts (ll_1 (ll_1 ll_n))
    · refine e_push rfl ?_
      refine e_goto rfl ?_
      exact e_wk mP_X3_interrupts (ll_1 (ll_1 ll_n))
  · refine e_push rfl ?_
    refine e_goto rfl ?_
    refine e_aload rfl rfl rfl ?_
    refine e_getI rfl fun x7 => ?_
    refine e_if1 rfl rfl ?_ ?_
    · refine e_push rfl ?_
      exact e_wk mP_X3_interrupts (ll_1 (ll_1 ll_n))
    · refine e_push rfl ?_
      refine e_goto rfl ?_
      exact e_wk mP_X3_interrupts (ll_1 (ll_1 ll_n))
theorem b_X3_interrupts_88 {K : ax_K} {s0 : Nat} {s1 : Int32} {s2 : Int32} {v0 : Nat} {v1 : Int32} {h : ax_H}  : dx_le ((dx_vn [(38, 423)] (.ref s0) h).bind fun k => dx_cV (K k [.ref s0, .int (s1 + s2)] h) (fun h1 => (dx_pF [(38, 31)] (.boolean) (.ref v0) (.int 0) h1).bind fun h2 => (dx_gA [(38, 25)] (.ref v0) h2).bind fun r3 => (dx_lI 0 r3 v1 h2).bind fun x4 => (dx_pF [(38, 27)] (.int) (.ref v0) (.int x4) h2).bind fun h5 => some (.inl none, h5)) dx_x0) (B_X3_interrupts_88 K s0 s1 s2 v0 v1 h) := by
  show dx_le _ (ax_run K P_X3_interrupts 88 [some (.ref v0), some (.int v1)] [.int s2, .int s1, .ref s0] h)
  refine e_i2 rfl ?_
  refine e_ivV rfl rfl rfl (Nat.le_of_ble_eq_true rfl) (fun _ _ => e_x0) fun h1 => ?_
  refine e_aload rfl rfl rfl ?_
  refine e_push rfl ?_
  refine e_putf rfl fun h2 => ?_
  refine e_aload rfl rfl rfl ?_
  refine e_aload rfl rfl rfl ?_
  refine e_getA rfl fun r3 hr3 => ?_
  refine e_iload rfl rfl ?_
  refine e_iald rfl fun x4 => ?_
  refine e_putf rfl fun h5 => ?_
  exact e_ret rfl
theorem m_X3_interrupts {d : Nat} {v0 : Nat} {h : ax_H}  : dx_le ((dx_gI [(38, 28)] (.ref v0) h).bind fun x1 => if (2 : Int32) ≤ x1 then (dx_gI [(38, 32)] (.ref v0) h).bind fun x2 => if x2 = 0 then B_X3_interrupts_26 (ax_c d) 1 v0 h else B_X3_interrupts_26 (ax_c d) 0 v0 h else (dx_vn [(38, 422)] (.ref v0) h).bind fun k => dx_cV ((ax_c d) k [.ref v0, .int 3] h) (fun h3 => some (.inl none, h3)) dx_x0) (ax_c (d + 1) 421 [.ref v0] h) := by
  refine e_entry (L' := [some (.ref v0), none]) rfl (ag_A rfl ag_n) (Nat.le_of_ble_eq_true rfl) rfl ?_
  refine e_aload rfl rfl rfl ?_
  refine e_getI rfl fun x1 => ?_
  refine e_push rfl ?_
  refine e_if2 rfl rfl ?_ ?_
  · refine e_aload rfl rfl rfl ?_
    refine e_getI rfl fun x2 => ?_
    refine e_if1 rfl rfl ?_ ?_
    · refine e_push rfl ?_
      exact e_wk mP_X3_interrupts (ll_1 (ll_0 ll_n))
    · refine e_push rfl ?_
      refine e_goto rfl ?_
      exact e_wk mP_X3_interrupts (ll_1 (ll_0 ll_n))
  · refine e_aload rfl rfl rfl ?_
    refine e_push rfl ?_
    refine e_ivV rfl rfl rfl (Nat.le_of_ble_eq_true rfl) (fun _ _ => e_x0) fun h3 => ?_
    exact e_ret rfl
theorem m_X3_faults {d : Nat} {v0 : Nat} {v1 : Int32} {h : ax_H}  : dx_le ((dx_pF [(38, 23)] (.int) (.ref v0) (.int 3) h).bind fun h1 => (dx_pF [(38, 24)] (.int) (.ref v0) (.int v1) h1).bind fun h2 => some (.inl none, h2)) (ax_c (d + 1) 422 [.ref v0, .int v1] h) := by
  refine e_entry (L' := [some (.ref v0), some (.int v1)]) rfl (ag_A rfl (ag_I ag_n)) (Nat.le_of_ble_eq_true rfl) rfl ?_
  refine e_aload rfl rfl rfl ?_
  refine e_push rfl ?_
  refine e_putf rfl fun h1 => ?_
  refine e_aload rfl rfl rfl ?_
  refine e_iload rfl rfl ?_
  refine e_putf rfl fun h2 => ?_
  exact e_ret rfl
theorem m_X3_pushes {d : Nat} {v0 : Nat} {v1 : Int32} {h : ax_H}  : dx_le ((dx_gI [(38, 28)] (.ref v0) h).bind fun x1 => (dx_pF [(38, 28)] (.int) (.ref v0) (.int (x1 - 1)) h).bind fun h2 => (dx_gI [(38, 28)] (.ref v0) h2).bind fun x3 => (dx_vn [(38, 424)] (.ref v0) h2).bind fun k => dx_cV ((ax_c d) k [.ref v0, .int x3, .int v1] h2) (fun h4 => some (.inl none, h4)) dx_x0) (ax_c (d + 1) 423 [.ref v0, .int v1] h) := by
  refine e_entry (L' := [some (.ref v0), some (.int v1)]) rfl (ag_A rfl (ag_I ag_n)) (Nat.le_of_ble_eq_true rfl) rfl ?_
  refine e_aload rfl rfl rfl ?_
  refine e_dup rfl rfl ?_
  refine e_getI rfl fun x1 => ?_
  refine e_push rfl ?_
  refine e_i2 rfl ?_
  refine e_putf rfl fun h2 => ?_
  refine e_aload rfl rfl rfl ?_
  refine e_aload rfl rfl rfl ?_
  refine e_getI rfl fun x3 => ?_
  refine e_iload rfl rfl ?_
  refine e_ivV rfl rfl rfl (Nat.le_of_ble_eq_true rfl) (fun _ _ => e_x0) fun h4 => ?_
  exact e_ret rfl
theorem m_X3_writes {d : Nat} {v0 : Nat} {v1 : Int32} {v2 : Int32} {h : ax_H}  : dx_le ((dx_gA [(38, 25)] (.ref v0) h).bind fun r1 => (dx_sI 0 r1 v1 v2 h).bind fun h2 => (dx_vn [(38, 425)] (.ref v0) h2).bind fun k => dx_cV ((ax_c d) k [.ref v0, .int v1] h2) (fun h3 => some (.inl none, h3)) dx_x0) (ax_c (d + 1) 424 [.ref v0, .int v1, .int v2] h) := by
  refine e_entry (L' := [some (.ref v0), some (.int v1), some (.int v2)]) rfl (ag_A rfl (ag_I (ag_I ag_n))) (Nat.le_of_ble_eq_true rfl) rfl ?_
  refine e_aload rfl rfl rfl ?_
  refine e_getA rfl fun r1 hr1 => ?_
  refine e_iload rfl rfl ?_
  refine e_iload rfl rfl ?_
  refine e_iastI rfl fun h2 => ?_
  refine e_aload rfl rfl rfl ?_
  refine e_iload rfl rfl ?_
  refine e_ivV rfl rfl rfl (Nat.le_of_ble_eq_true rfl) (fun _ _ => e_x0) fun h3 => ?_
  exact e_ret rfl
noncomputable def B_X3_keepsWrite_36 (K : ax_K) (s0 : Value) (s1 : Int32) (s2 : Int32) (v0 : Nat) (v1 : Int32) (h : ax_H) : Option ax_R := ax_run K P_X3_keepsWrite 36 [some (.ref v0), some (.int v1)] [.int s2, .int s1, s0] h
theorem b_X3_keepsWrite_36 {K : ax_K} {s0 : Value} {s1 : Int32} {s2 : Int32} {v0 : Nat} {v1 : Int32} {h : ax_H} (hs0 : ax_rv s0 = true) : dx_le ((dx_sI 0 s0 s1 s2 h).bind fun h1 => (dx_gA [(38, 44)] (.ref v0) h1).bind fun r2 => (dx_gI [(38, 38)] (.ref v0) h1).bind fun x3 => (dx_gA [(38, 44)] (.ref v0) h1).bind fun r4 => (dx_gI [(38, 38)] (.ref v0) h1).bind fun x5 => (dx_lI 0 r4 x5 h1).bind fun x6 => if ¬ x6 = (-1) then (dx_gA [(38, 44)] (.ref v0) h1).bind fun r7 => (dx_gI [(38, 38)] (.ref v0) h1).bind fun x8 => (dx_lI 0 r7 x8 h1).bind fun x9 => (dx_sI 0 r2 x3 x9 h1).bind fun h10 => some (.inl none, h10) else (dx_sI 0 r2 x3 v1 h1).bind fun h11 => some (.inl none, h11)) (B_X3_keepsWrite_36 K s0 s1 s2 v0 v1 h) := by
  show dx_le _ (ax_run K P_X3_keepsWrite 36 [some (.ref v0), some (.int v1)] [.int s2, .int s1, s0] h)
  refine e_iastI rfl fun h1 => ?_
  refine e_aload rfl rfl rfl ?_
  refine e_getA rfl fun r2 hr2 => ?_
  refine e_aload rfl rfl rfl ?_
  refine e_getI rfl fun x3 => ?_
  refine e_aload rfl rfl rfl ?_
  refine e_getA rfl fun r4 hr4 => ?_
  refine e_aload rfl rfl rfl ?_
  refine e_getI rfl fun x5 => ?_
  refine e_iald rfl fun x6 => ?_
  refine e_push rfl ?_
  refine e_if2 rfl rfl ?_ ?_
  · refine e_aload rfl rfl rfl ?_
    refine e_getA rfl fun r7 hr7 => ?_
    refine e_aload rfl rfl rfl ?_
    refine e_getI rfl fun x8 => ?_
    refine e_iald rfl fun x9 => ?_
    refine e_iastI rfl fun h10 => ?_
    exact e_ret rfl
  · refine e_iload rfl rfl ?_
    refine e_goto rfl ?_
    refine e_iastI rfl fun h11 => ?_
    exact e_ret rfl
theorem m_X3_keepsWrite {d : Nat} {v0 : Nat} {v1 : Int32} {h : ax_H}  : dx_le ((dx_gI [(38, 38)] (.ref v0) h).bind fun x1 => if (1000 : Int32) ≤ x1 then some (.inl none, h) else (dx_gA [(38, 45)] (.ref v0) h).bind fun r2 => (dx_gI [(38, 38)] (.ref v0) h).bind fun x3 => (dx_gA [(38, 44)] (.ref v0) h).bind fun r4 => (dx_gI [(38, 38)] (.ref v0) h).bind fun x5 => (dx_lI 0 r4 x5 h).bind fun x6 => if ¬ x6 = (-1) then B_X3_keepsWrite_36 (ax_c d) r2 x3 v1 v0 v1 h else B_X3_keepsWrite_36 (ax_c d) r2 x3 (-1) v0 v1 h) (ax_c (d + 1) 425 [.ref v0, .int v1] h) := by
  refine e_entry (L' := [some (.ref v0), some (.int v1)]) rfl (ag_A rfl (ag_I ag_n)) (Nat.le_of_ble_eq_true rfl) rfl ?_
  refine e_aload rfl rfl rfl ?_
  refine e_getI rfl fun x1 => ?_
  refine e_push rfl ?_
  refine e_if2 rfl rfl ?_ ?_
  · exact e_ret rfl
  · refine e_aload rfl rfl rfl ?_
    refine e_getA rfl fun r2 hr2 => ?_
    refine e_aload rfl rfl rfl ?_
    refine e_getI rfl fun x3 => ?_
    refine e_aload rfl rfl rfl ?_
    refine e_getA rfl fun r4 hr4 => ?_
    refine e_aload rfl rfl rfl ?_
    refine e_getI rfl fun x5 => ?_
    refine e_iald rfl fun x6 => ?_
    refine e_push rfl ?_
    refine e_if2 rfl rfl ?_ ?_
    · refine e_iload rfl rfl ?_
      exact e_wk mP_X3_keepsWrite (ll_1 (ll_1 ll_n))
    · refine e_push rfl ?_
      refine e_goto rfl ?_
      exact e_wk mP_X3_keepsWrite (ll_1 (ll_1 ll_n))
noncomputable def B_X3_instructs_76 (K : ax_K) (s0 : Int32) (v0 : Nat) (v1 : Int32) (v2 : Int32) (h : ax_H) : Option ax_R := ax_run K P_X3_instructs 76 [some (.ref v0), some (.int v1), some (.int v2), none, none, none] [.int s0] h
theorem b_X3_instructs_76 {K : ax_K} {s0 : Int32} {v0 : Nat} {v1 : Int32} {v2 : Int32} {h : ax_H}  : dx_le ((dx_vn [(38, 427)] (.ref v0) h).bind fun k => dx_cI (K k [.ref v0, .int (v1 / 16), .int s0] h) (fun x2 h1 => if x2 = 0 then if (12 : Int32) ≤ (v1 / 16) then if (19 : Int32) ≤ (v1 / 16) then (dx_vn [(38, 433)] (.ref v0) h1).bind fun k => dx_cV (K k [.ref v0, .int (v1 / 16), .int v2, .int s0] h1) (fun h3 => some (.inl none, h3)) dx_x0 else (dx_vn [(38, 431)] (.ref v0) h1).bind fun k => dx_cV (K k [.ref v0, .int (v1 / 16), .int v2, .int s0] h1) (fun h4 => some (.inl none, h4)) dx_x0 else (dx_vn [(38, 428)] (.ref v0) h1).bind fun k => dx_cV (K k [.ref v0, .int (v1 / 16), .int v2, .int s0] h1) (fun h5 => some (.inl none, h5)) dx_x0 else (dx_vn [(38, 422)] (.ref v0) h1).bind fun k => dx_cV (K k [.ref v0, .int x2] h1) (fun h6 => some (.inl none, h6)) dx_x0) dx_x0) (B_X3_instructs_76 K s0 v0 v1 v2 h) := by
  show dx_le _ (ax_run K P_X3_instructs 76 [some (.ref v0), some (.int v1), some (.int v2), none, none, none] [.int s0] h)
  refine e_istore (L' := [some (.ref v0), some (.int v1), some (.int v2), none, some (.int s0), none]) rfl (dx_sto (Nat.le_of_ble_eq_true rfl) (Or.inr ⟨_, rfl, rfl⟩) rfl) ?_
  refine e_aload rfl rfl rfl ?_
  refine e_iload rfl rfl ?_
  refine e_push rfl ?_
  refine e_idn rfl (by decide) ?_
  refine e_iload rfl rfl ?_
  refine e_ivI rfl rfl rfl (Nat.le_of_ble_eq_true rfl) (fun _ _ => e_x0) fun x2 h1 => ?_
  refine e_istore (L' := [some (.ref v0), some (.int v1), some (.int v2), none, some (.int s0), some (.int x2)]) rfl (dx_sto (Nat.le_of_ble_eq_true rfl) (Or.inr ⟨_, rfl, rfl⟩) rfl) ?_
  refine e_iload rfl rfl ?_
  refine e_if1 rfl rfl ?_ ?_
  · refine e_iload rfl rfl ?_
    refine e_push rfl ?_
    refine e_idn rfl (by decide) ?_
    refine e_push rfl ?_
    refine e_if2 rfl rfl ?_ ?_
    · refine e_iload rfl rfl ?_
      refine e_push rfl ?_
      refine e_idn rfl (by decide) ?_
      refine e_push rfl ?_
      refine e_if2 rfl rfl ?_ ?_
      · refine e_aload rfl rfl rfl ?_
        refine e_iload rfl rfl ?_
        refine e_push rfl ?_
        refine e_idn rfl (by decide) ?_
        refine e_iload rfl rfl ?_
        refine e_iload rfl rfl ?_
        refine e_ivV rfl rfl rfl (Nat.le_of_ble_eq_true rfl) (fun _ _ => e_x0) fun h3 => ?_
        exact e_ret rfl
      · refine e_aload rfl rfl rfl ?_
        refine e_iload rfl rfl ?_
        refine e_push rfl ?_
        refine e_idn rfl (by decide) ?_
        refine e_iload rfl rfl ?_
        refine e_iload rfl rfl ?_
        refine e_ivV rfl rfl rfl (Nat.le_of_ble_eq_true rfl) (fun _ _ => e_x0) fun h4 => ?_
        refine e_goto rfl ?_
        exact e_ret rfl
    · refine e_aload rfl rfl rfl ?_
      refine e_iload rfl rfl ?_
      refine e_push rfl ?_
      refine e_idn rfl (by decide) ?_
      refine e_iload rfl rfl ?_
      refine e_iload rfl rfl ?_
      refine e_ivV rfl rfl rfl (Nat.le_of_ble_eq_true rfl) (fun _ _ => e_x0) fun h5 => ?_
      refine e_goto rfl ?_
      exact e_ret rfl
  · refine e_aload rfl rfl rfl ?_
    refine e_iload rfl rfl ?_
    refine e_ivV rfl rfl rfl (Nat.le_of_ble_eq_true rfl) (fun _ _ => e_x0) fun h6 => ?_
    refine e_goto rfl ?_
    exact e_ret rfl
theorem m_X3_instructs {d : Nat} {v0 : Nat} {h : ax_H}  : dx_le ((dx_gI [(38, 27)] (.ref v0) h).bind fun x1 => if x1 ≤ 254 then (dx_gA [(38, 25)] (.ref v0) h).bind fun r2 => (dx_gI [(38, 27)] (.ref v0) h).bind fun x3 => (dx_lI 0 r2 x3 h).bind fun x4 => dx_lt (dx_rem (x4 / 4) 4) fun x5 => dx_lt (dx_rem x4 4) fun x6 => if ¬ x5 = x6 then (dx_gA [(38, 26)] (.ref v0) h).bind fun r7 => (dx_lI 0 r7 x6 h).bind fun x8 => (dx_gA [(38, 25)] (.ref v0) h).bind fun r9 => (dx_gI [(38, 27)] (.ref v0) h).bind fun x10 => (dx_lI 0 r9 (x10 + 1) h).bind fun x11 => B_X3_instructs_76 (ax_c d) (dx_rem (x8 + x11) 65536) v0 x4 x5 h else (dx_gA [(38, 25)] (.ref v0) h).bind fun r12 => (dx_gI [(38, 27)] (.ref v0) h).bind fun x13 => (dx_lI 0 r12 (x13 + 1) h).bind fun x14 => B_X3_instructs_76 (ax_c d) x14 v0 x4 x5 h else (dx_vn [(38, 422)] (.ref v0) h).bind fun k => dx_cV ((ax_c d) k [.ref v0, .int 1] h) (fun h15 => some (.inl none, h15)) dx_x0) (ax_c (d + 1) 426 [.ref v0] h) := by
  refine e_entry (L' := [some (.ref v0), none, none, none, none, none]) rfl (ag_A rfl ag_n) (Nat.le_of_ble_eq_true rfl) rfl ?_
  refine e_aload rfl rfl rfl ?_
  refine e_getI rfl fun x1 => ?_
  refine e_push rfl ?_
  refine e_if2 rfl rfl ?_ ?_
  · refine e_aload rfl rfl rfl ?_
    refine e_getA rfl fun r2 hr2 => ?_
    refine e_aload rfl rfl rfl ?_
    refine e_getI rfl fun x3 => ?_
    refine e_iald rfl fun x4 => ?_
    refine e_istore (L' := [some (.ref v0), some (.int x4), none, none, none, none]) rfl (dx_sto (Nat.le_of_ble_eq_true rfl) (Or.inr ⟨_, rfl, rfl⟩) rfl) ?_
    refine e_iload rfl rfl ?_
    refine e_push rfl ?_
    refine e_idn rfl (by decide) ?_
    refine e_push rfl ?_
    refine e_rem rfl (by decide) ?_
    refine e_istoreL (M := fun x5 => [some (.ref v0), some (.int x4), some (.int x5), none, none, none]) rfl (fun _ => dx_sto (Nat.le_of_ble_eq_true rfl) (Or.inr ⟨_, rfl, rfl⟩) rfl) fun x5 => ?_
    refine e_iload rfl rfl ?_
    refine e_push rfl ?_
    refine e_rem rfl (by decide) ?_
    refine e_istoreL (M := fun x6 => [some (.ref v0), some (.int x4), some (.int x5), some (.int x6), none, none]) rfl (fun _ => dx_sto (Nat.le_of_ble_eq_true rfl) (Or.inr ⟨_, rfl, rfl⟩) rfl) fun x6 => ?_
    refine e_iload rfl rfl ?_
    refine e_iload rfl rfl ?_
    refine e_if2 rfl rfl ?_ ?_
    · refine e_aload rfl rfl rfl ?_
      refine e_getA rfl fun r7 hr7 => ?_
      refine e_iload rfl rfl ?_
      refine e_iald rfl fun x8 => ?_
      refine e_aload rfl rfl rfl ?_
      refine e_getA rfl fun r9 hr9 => ?_
      refine e_aload rfl rfl rfl ?_
      refine e_getI rfl fun x10 => ?_
      refine e_push rfl ?_
      refine e_i2 rfl ?_
      refine e_iald rfl fun x11 => ?_
      refine e_i2 rfl ?_
      refine e_push rfl ?_
      refine e_rem rfl (by decide) ?_
      exact e_wk mP_X3_instructs (ll_1 (ll_1 (ll_1 (ll_0 (ll_0 (ll_0 ll_n))))))
    · refine e_aload rfl rfl rfl ?_
      refine e_getA rfl fun r12 hr12 => ?_
      refine e_aload rfl rfl rfl ?_
      refine e_getI rfl fun x13 => ?_
      refine e_push rfl ?_
      refine e_i2 rfl ?_
      refine e_iald rfl fun x14 => ?_
      refine e_goto rfl ?_
      exact e_wk mP_X3_instructs (ll_1 (ll_1 (ll_1 (ll_0 (ll_0 (ll_0 ll_n))))))
  · refine e_aload rfl rfl rfl ?_
    refine e_push rfl ?_
    refine e_ivV rfl rfl rfl (Nat.le_of_ble_eq_true rfl) (fun _ _ => e_x0) fun h15 => ?_
    exact e_ret rfl
noncomputable def B_X3_faultOf_27 (K : ax_K) (v0 : Nat) (v1 : Int32) (h : ax_H) : Option ax_R := ax_run K P_X3_faultOf 27 [some (.ref v0), some (.int v1), none, none, none] [] h
noncomputable def B_X3_faultOf_44 (K : ax_K) (s0 : Int32) (v0 : Nat) (v1 : Int32) (h : ax_H) : Option ax_R := ax_run K P_X3_faultOf 44 [some (.ref v0), some (.int v1), none, none, none] [.int s0] h
noncomputable def B_X3_faultOf_72 (K : ax_K) (s0 : Int32) (v0 : Nat) (v1 : Int32) (v3 : Int32) (h : ax_H) : Option ax_R := ax_run K P_X3_faultOf 72 [some (.ref v0), some (.int v1), none, some (.int v3), none] [.int s0] h
noncomputable def B_X3_faultOf_86 (K : ax_K) (v0 : Nat) (v1 : Int32) (v4 : Int32) (h : ax_H) : Option ax_R := ax_run K P_X3_faultOf 86 [some (.ref v0), some (.int v1), none, none, some (.int v4)] [] h
theorem b_X3_faultOf_27 {K : ax_K} {v0 : Nat} {v1 : Int32} {h : ax_H}  : dx_le (if v1 = 15 then B_X3_faultOf_44 K 1 v0 v1 h else if ¬ v1 = 17 then B_X3_faultOf_44 K 0 v0 v1 h else B_X3_faultOf_44 K 1 v0 v1 h) (B_X3_faultOf_27 K v0 v1 h) := by
  show dx_le _ (ax_run K P_X3_faultOf 27 [some (.ref v0), some (.int v1), none, none, none] [] h)
  refine e_iload rfl rfl ?_
  refine e_push rfl ?_
  refine e_if2 rfl rfl ?_ ?_
  · refine e_push rfl ?_
    refine e_goto rfl ?_
    exact e_wk mP_X3_faultOf (ll_1 (ll_1 (ll_0 (ll_0 (ll_0 ll_n)))))
  · refine e_iload rfl rfl ?_
    refine e_push rfl ?_
    refine e_if2 rfl rfl ?_ ?_
    · refine e_push rfl ?_
      exact e_wk mP_X3_faultOf (ll_1 (ll_1 (ll_0 (ll_0 (ll_0 ll_n)))))
    · refine e_push rfl ?_
      refine e_goto rfl ?_
      exact e_wk mP_X3_faultOf (ll_1 (ll_1 (ll_0 (ll_0 (ll_0 ll_n)))))
theorem b_X3_faultOf_44 {K : ax_K} {s0 : Int32} {v0 : Nat} {v1 : Int32} {h : ax_H}  : dx_le (if v1 = 16 then B_X3_faultOf_72 K 1 v0 v1 s0 h else if ¬ v1 = 18 then if ¬ v1 = 21 then B_X3_faultOf_72 K 0 v0 v1 s0 h else B_X3_faultOf_72 K 2 v0 v1 s0 h else B_X3_faultOf_72 K 1 v0 v1 s0 h) (B_X3_faultOf_44 K s0 v0 v1 h) := by
  show dx_le _ (ax_run K P_X3_faultOf 44 [some (.ref v0), some (.int v1), none, none, none] [.int s0] h)
  refine e_istore (L' := [some (.ref v0), some (.int v1), none, some (.int s0), none]) rfl (dx_sto (Nat.le_of_ble_eq_true rfl) (Or.inr ⟨_, rfl, rfl⟩) rfl) ?_
  refine e_iload rfl rfl ?_
  refine e_push rfl ?_
  refine e_if2 rfl rfl ?_ ?_
  · refine e_push rfl ?_
    refine e_goto rfl ?_
    exact e_wk mP_X3_faultOf (ll_1 (ll_1 (ll_0 (ll_1 (ll_0 ll_n)))))
  · refine e_iload rfl rfl ?_
    refine e_push rfl ?_
    refine e_if2 rfl rfl ?_ ?_
    · refine e_iload rfl rfl ?_
      refine e_push rfl ?_
      refine e_if2 rfl rfl ?_ ?_
      · refine e_push rfl ?_
        exact e_wk mP_X3_faultOf (ll_1 (ll_1 (ll_0 (ll_1 (ll_0 ll_n)))))
      · refine e_push rfl ?_
        refine e_goto rfl ?_
        exact e_wk mP_X3_faultOf (ll_1 (ll_1 (ll_0 (ll_1 (ll_0 ll_n)))))
    · refine e_push rfl ?_
      refine e_goto rfl ?_
      exact e_wk mP_X3_faultOf (ll_1 (ll_1 (ll_0 (ll_1 (ll_0 ll_n)))))
theorem b_X3_faultOf_72 {K : ax_K} {s0 : Int32} {v0 : Nat} {v1 : Int32} {v3 : Int32} {h : ax_H}  : dx_le (if v3 = 0 then B_X3_faultOf_86 K v0 v1 s0 h else (dx_gI [(38, 28)] (.ref v0) h).bind fun x1 => if x1 < 1 then some (.inl (some (.int 3)), h) else B_X3_faultOf_86 K v0 v1 s0 h) (B_X3_faultOf_72 K s0 v0 v1 v3 h) := by
  show dx_le _ (ax_run K P_X3_faultOf 72 [some (.ref v0), some (.int v1), none, some (.int v3), none] [.int s0] h)
  refine e_istore (L' := [some (.ref v0), some (.int v1), none, some (.int v3), some (.int s0)]) rfl (dx_sto (Nat.le_of_ble_eq_true rfl) (Or.inr ⟨_, rfl, rfl⟩) rfl) ?_
  refine e_iload rfl rfl ?_
  refine e_if1 rfl rfl ?_ ?_
  · exact e_wk mP_X3_faultOf (ll_1 (ll_1 (ll_0 (ll_0 (ll_1 ll_n)))))
  · refine e_aload rfl rfl rfl ?_
    refine e_getI rfl fun x1 => ?_
    refine e_push rfl ?_
    refine e_if2 rfl rfl ?_ ?_
    · refine e_push rfl ?_
      exact e_iret rfl
    · exact e_wk mP_X3_faultOf (ll_1 (ll_1 (ll_0 (ll_0 (ll_1 ll_n)))))
theorem b_X3_faultOf_86 {K : ax_K} {v0 : Nat} {v1 : Int32} {v4 : Int32} {h : ax_H}  : dx_le ((dx_gI [(38, 28)] (.ref v0) h).bind fun x1 => if (x1 + v4) ≤ 256 then if ¬ v1 = 25 then some (.inl (some (.int 0)), h) else (dx_gI [(38, 37)] (.ref v0) h).bind fun x2 => if ¬ x2 = 60 then some (.inl (some (.int 0)), h) else some (.inl (some (.int 4)), h) else some (.inl (some (.int 3)), h)) (B_X3_faultOf_86 K v0 v1 v4 h) := by
  show dx_le _ (ax_run K P_X3_faultOf 86 [some (.ref v0), some (.int v1), none, none, some (.int v4)] [] h)
  refine e_aload rfl rfl rfl ?_
  refine e_getI rfl fun x1 => ?_
  refine e_iload rfl rfl ?_
  refine e_i2 rfl ?_
  refine e_push rfl ?_
  refine e_if2 rfl rfl ?_ ?_
  · refine e_iload rfl rfl ?_
    refine e_push rfl ?_
    refine e_if2 rfl rfl ?_ ?_
    · refine e_push rfl ?_
      exact e_iret rfl
    · refine e_aload rfl rfl rfl ?_
      refine e_getI rfl fun x2 => ?_
      refine e_push rfl ?_
      refine e_if2 rfl rfl ?_ ?_
      · refine e_push rfl ?_
        exact e_iret rfl
      · refine e_push rfl ?_
        refine e_goto rfl ?_
        exact e_iret rfl
  · refine e_push rfl ?_
    exact e_iret rfl
theorem m_X3_faultOf {d : Nat} {v0 : Nat} {v1 : Int32} {v2 : Int32} {h : ax_H}  : dx_le (if v1 ≤ 26 then if v1 = 2 then if v2 < 256 then B_X3_faultOf_27 (ax_c d) v0 v1 h else some (.inl (some (.int 1)), h) else if ¬ v1 = 3 then B_X3_faultOf_27 (ax_c d) v0 v1 h else if v2 < 256 then B_X3_faultOf_27 (ax_c d) v0 v1 h else some (.inl (some (.int 1)), h) else some (.inl (some (.int 2)), h)) (ax_c (d + 1) 427 [.ref v0, .int v1, .int v2] h) := by
  refine e_entry (L' := [some (.ref v0), some (.int v1), some (.int v2), none, none]) rfl (ag_A rfl (ag_I (ag_I ag_n))) (Nat.le_of_ble_eq_true rfl) rfl ?_
  refine e_iload rfl rfl ?_
  refine e_push rfl ?_
  refine e_if2 rfl rfl ?_ ?_
  · refine e_iload rfl rfl ?_
    refine e_push rfl ?_
    refine e_if2 rfl rfl ?_ ?_
    · refine e_iload rfl rfl ?_
      refine e_push rfl ?_
      refine e_if2 rfl rfl ?_ ?_
      · exact e_wk mP_X3_faultOf (ll_1 (ll_1 (ll_0 (ll_0 (ll_0 ll_n)))))
      · refine e_push rfl ?_
        exact e_iret rfl
    · refine e_iload rfl rfl ?_
      refine e_push rfl ?_
      refine e_if2 rfl rfl ?_ ?_
      · exact e_wk mP_X3_faultOf (ll_1 (ll_1 (ll_0 (ll_0 (ll_0 ll_n)))))
      · refine e_iload rfl rfl ?_
        refine e_push rfl ?_
        refine e_if2 rfl rfl ?_ ?_
        · exact e_wk mP_X3_faultOf (ll_1 (ll_1 (ll_0 (ll_0 (ll_0 ll_n)))))
        · refine e_push rfl ?_
          exact e_iret rfl
  · refine e_push rfl ?_
    exact e_iret rfl
noncomputable def B_X3_reckons_122 (K : ax_K) (s0 : Nat) (s1 : Int32) (v0 : Nat) (v1 : Int32) (v2 : Int32) (v6 : Int32) (h : ax_H) : Option ax_R := ax_run K P_X3_reckons 122 [some (.ref v0), some (.int v1), some (.int v2), none, none, none, some (.int v6)] [.int s1, .ref s0] h
noncomputable def B_X3_reckons_136 (K : ax_K) (s0 : Nat) (s1 : Int32) (v0 : Nat) (v1 : Int32) (v2 : Int32) (v6 : Int32) (h : ax_H) : Option ax_R := ax_run K P_X3_reckons 136 [some (.ref v0), some (.int v1), some (.int v2), none, none, none, some (.int v6)] [.int s1, .ref s0] h
theorem b_X3_reckons_122 {K : ax_K} {s0 : Nat} {s1 : Int32} {v0 : Nat} {v1 : Int32} {v2 : Int32} {v6 : Int32} {h : ax_H}  : dx_le ((dx_pF [(38, 30)] (.boolean) (.ref s0) (.int s1) h).bind fun h1 => if ¬ v6 = 0 then B_X3_reckons_136 K v0 0 v0 v1 v2 v6 h1 else B_X3_reckons_136 K v0 1 v0 v1 v2 v6 h1) (B_X3_reckons_122 K s0 s1 v0 v1 v2 v6 h) := by
  show dx_le _ (ax_run K P_X3_reckons 122 [some (.ref v0), some (.int v1), some (.int v2), none, none, none, some (.int v6)] [.int s1, .ref s0] h)
  refine e_putf rfl fun h1 => ?_
  refine e_aload rfl rfl rfl ?_
  refine e_iload rfl rfl ?_
  refine e_if1 rfl rfl ?_ ?_
  · refine e_push rfl ?_
    exact e_wk mP_X3_reckons (ll_1 (ll_1 (ll_1 (ll_0 (ll_0 (ll_0 (ll_1 ll_n)))))))
  · refine e_push rfl ?_
    refine e_goto rfl ?_
    exact e_wk mP_X3_reckons (ll_1 (ll_1 (ll_1 (ll_0 (ll_0 (ll_0 (ll_1 ll_n)))))))
theorem b_X3_reckons_136 {K : ax_K} {s0 : Nat} {s1 : Int32} {v0 : Nat} {v1 : Int32} {v2 : Int32} {v6 : Int32} {h : ax_H}  : dx_le ((dx_pF [(38, 29)] (.boolean) (.ref s0) (.int s1) h).bind fun h1 => (dx_gA [(38, 26)] (.ref v0) h1).bind fun r2 => if ¬ v1 = 11 then (dx_sI 0 r2 v2 v6 h1).bind fun h3 => some (.inl none, h3) else (dx_gA [(38, 26)] (.ref v0) h1).bind fun r4 => (dx_lI 0 r4 v2 h1).bind fun x5 => (dx_sI 0 r2 v2 x5 h1).bind fun h6 => some (.inl none, h6)) (B_X3_reckons_136 K s0 s1 v0 v1 v2 v6 h) := by
  show dx_le _ (ax_run K P_X3_reckons 136 [some (.ref v0), some (.int v1), some (.int v2), none, none, none, some (.int v6)] [.int s1, .ref s0] h)
  refine e_putf rfl fun h1 => ?_
  refine e_aload rfl rfl rfl ?_
  refine e_getA rfl fun r2 hr2 => ?_
  refine e_iload rfl rfl ?_
  refine e_iload rfl rfl ?_
  refine e_push rfl ?_
  refine e_if2 rfl rfl ?_ ?_
  · refine e_iload rfl rfl ?_
    refine e_iastI rfl fun h3 => ?_
    exact e_ret rfl
  · refine e_aload rfl rfl rfl ?_
    refine e_getA rfl fun r4 hr4 => ?_
    refine e_iload rfl rfl ?_
    refine e_iald rfl fun x5 => ?_
    refine e_goto rfl ?_
    refine e_iastI rfl fun h6 => ?_
    exact e_ret rfl
theorem m_X3_reckons {d : Nat} {v0 : Nat} {v1 : Int32} {v2 : Int32} {v3 : Int32} {h : ax_H}  : dx_le (if ¬ v1 = 0 then (dx_gI [(38, 27)] (.ref v0) h).bind fun x1 => (dx_pF [(38, 27)] (.int) (.ref v0) (.int (x1 + 2)) h).bind fun h2 => if ¬ v1 = 1 then if ¬ v1 = 2 then if ¬ v1 = 3 then (dx_gA [(38, 26)] (.ref v0) h2).bind fun r3 => (dx_lI 0 r3 v2 h2).bind fun x4 => dx_cJ ((ax_c d) 429 [.int v1, .int x4, .int v3] h2) (fun j6 h5 => dx_lt (Int64.toInt32 (dx_lrem (j6 + 65536) 65536)) fun x7 => if (lg_cmp j6 0) < 0 then B_X3_reckons_122 (ax_c d) v0 1 v0 v1 v2 x7 h5 else if (lg_cmp j6 65536) < 0 then B_X3_reckons_122 (ax_c d) v0 0 v0 v1 v2 x7 h5 else B_X3_reckons_122 (ax_c d) v0 1 v0 v1 v2 x7 h5) dx_x0 else (dx_gA [(38, 26)] (.ref v0) h2).bind fun r8 => (dx_lI 0 r8 v2 h2).bind fun x9 => (dx_vn [(38, 424)] (.ref v0) h2).bind fun k => dx_cV ((ax_c d) k [.ref v0, .int v3, .int x9] h2) (fun h10 => some (.inl none, h10)) dx_x0 else (dx_gA [(38, 26)] (.ref v0) h2).bind fun r11 => (dx_gA [(38, 25)] (.ref v0) h2).bind fun r12 => (dx_lI 0 r12 v3 h2).bind fun x13 => (dx_sI 0 r11 v2 x13 h2).bind fun h14 => some (.inl none, h14) else (dx_gA [(38, 26)] (.ref v0) h2).bind fun r15 => (dx_sI 0 r15 v2 v3 h2).bind fun h16 => some (.inl none, h16) else (dx_pF [(38, 23)] (.int) (.ref v0) (.int 2) h).bind fun h17 => some (.inl none, h17)) (ax_c (d + 1) 428 [.ref v0, .int v1, .int v2, .int v3] h) := by
  refine e_entry (L' := [some (.ref v0), some (.int v1), some (.int v2), some (.int v3), none, none, none]) rfl (ag_A rfl (ag_I (ag_I (ag_I ag_n)))) (Nat.le_of_ble_eq_true rfl) rfl ?_
  refine e_iload rfl rfl ?_
  refine e_if1 rfl rfl ?_ ?_
  · refine e_aload rfl rfl rfl ?_
    refine e_dup rfl rfl ?_
    refine e_getI rfl fun x1 => ?_
    refine e_push rfl ?_
    refine e_i2 rfl ?_
    refine e_putf rfl fun h2 => ?_
    refine e_iload rfl rfl ?_
    refine e_push rfl ?_
    refine e_if2 rfl rfl ?_ ?_
    · refine e_iload rfl rfl ?_
      refine e_push rfl ?_
      refine e_if2 rfl rfl ?_ ?_
      · refine e_iload rfl rfl ?_
        refine e_push rfl ?_
        refine e_if2 rfl rfl ?_ ?_
        · refine e_iload rfl rfl ?_
          refine e_aload rfl rfl rfl ?_
          refine e_getA rfl fun r3 hr3 => ?_
          refine e_iload rfl rfl ?_
          refine e_iald rfl fun x4 => ?_
          refine e_iload rfl rfl ?_
          refine e_isJ rfl (Nat.le_of_ble_eq_true rfl) rfl rfl (Nat.le_of_ble_eq_true rfl) (fun _ _ => e_x0) fun j6 h5 => ?_
          refine e_lstore (L' := [some (.ref v0), some (.int v1), some (.int v2), some (.int v3), some (.long j6), none, none]) rfl (dx_sto2 (Nat.le_of_ble_eq_true rfl) (Or.inr ⟨_, rfl, rfl⟩) rfl) ?_
          refine e_lload rfl rfl ?_
          refine e_push rfl ?_
          refine e_l2 rfl ?_
          refine e_push rfl ?_
          refine e_lrem rfl (by decide) ?_
          refine e_l2i rfl ?_
          refine e_istoreL (M := fun x7 => [some (.ref v0), some (.int v1), some (.int v2), some (.int v3), some (.long j6), none, some (.int x7)]) rfl (fun _ => dx_sto (Nat.le_of_ble_eq_true rfl) (Or.inr ⟨_, rfl, rfl⟩) rfl) fun x7 => ?_
          refine e_aload rfl rfl rfl ?_
          refine e_lload rfl rfl ?_
          refine e_push rfl ?_
          refine e_lcmp rfl ?_
          refine e_if1 rfl rfl ?_ ?_
          · refine e_push rfl ?_
            refine e_goto rfl ?_
            exact e_wk mP_X3_reckons (ll_1 (ll_1 (ll_1 (ll_0 (ll_0 (ll_0 (ll_1 ll_n)))))))
          · refine e_lload rfl rfl ?_
            refine e_push rfl ?_
            refine e_lcmp rfl ?_
            refine e_if1 rfl rfl ?_ ?_
            · refine e_push rfl ?_
              exact e_wk mP_X3_reckons (ll_1 (ll_1 (ll_1 (ll_0 (ll_0 (ll_0 (ll_1 ll_n)))))))
            · refine e_push rfl ?_
              refine e_goto rfl ?_
              exact e_wk mP_X3_reckons (ll_1 (ll_1 (ll_1 (ll_0 (ll_0 (ll_0 (ll_1 ll_n)))))))
        · refine e_aload rfl rfl rfl ?_
          refine e_iload rfl rfl ?_
          refine e_aload rfl rfl rfl ?_
          refine e_getA rfl fun r8 hr8 => ?_
          refine e_iload rfl rfl ?_
          refine e_iald rfl fun x9 => ?_
          refine e_ivV rfl rfl rfl (Nat.le_of_ble_eq_true rfl) (fun _ _ => e_x0) fun h10 => ?_
          refine e_goto rfl ?_
          exact e_ret rfl
      · refine e_aload rfl rfl rfl ?_
        refine e_getA rfl fun r11 hr11 => ?_
        refine e_iload rfl rfl ?_
        refine e_aload rfl rfl rfl ?_
        refine e_getA rfl fun r12 hr12 => ?_
        refine e_iload rfl rfl ?_
        refine e_iald rfl fun x13 => ?_
        refine e_iastI rfl fun h14 => ?_
        refine e_goto rfl ?_
        exact e_ret rfl
    · refine e_aload rfl rfl rfl ?_
      refine e_getA rfl fun r15 hr15 => ?_
      refine e_iload rfl rfl ?_
      refine e_iload rfl rfl ?_
      refine e_iastI rfl fun h16 => ?_
      refine e_goto rfl ?_
      exact e_ret rfl
  · refine e_aload rfl rfl rfl ?_
    refine e_push rfl ?_
    refine e_putf rfl fun h17 => ?_
    exact e_ret rfl
noncomputable def B_X3_made_24 (K : ax_K) (v1 : Int32) (v2 : Int32) (h : ax_H) : Option ax_R := ax_run K P_X3_made 24 [none, some (.int v1), some (.int v2)] [] h
theorem b_X3_made_24 {K : ax_K} {v1 : Int32} {v2 : Int32} {h : ax_H}  : dx_le (some (.inl (some (.long ((Int32.toInt64 v1) - (Int32.toInt64 v2)))), h)) (B_X3_made_24 K v1 v2 h) := by
  show dx_le _ (ax_run K P_X3_made 24 [none, some (.int v1), some (.int v2)] [] h)
  refine e_iload rfl rfl ?_
  refine e_i2l rfl ?_
  refine e_iload rfl rfl ?_
  refine e_i2l rfl ?_
  refine e_l2 rfl ?_
  refine e_goto rfl ?_
  exact e_lret rfl
theorem m_X3_made {d : Nat} {v0 : Int32} {v1 : Int32} {v2 : Int32} {h : ax_H}  : dx_le (if ¬ v0 = 4 then if v0 = 5 then B_X3_made_24 (ax_c d) v1 v2 h else if ¬ v0 = 11 then if ¬ v0 = 6 then if ¬ v0 = 7 then if ¬ v0 = 8 then if ¬ v0 = 9 then dx_cI ((ax_c d) 430 [.int v1, .int (dx_rem v2 16), .int 0] h) (fun x2 h1 => some (.inl (some (.long (Int32.toInt64 x2))), h1)) dx_x0 else dx_cI ((ax_c d) 430 [.int v1, .int (dx_rem v2 16), .int 1] h) (fun x4 h3 => some (.inl (some (.long (Int32.toInt64 x4))), h3)) dx_x0 else some (.inl (some (.long (Int32.toInt64 (v1 ^^^ v2)))), h) else some (.inl (some (.long (Int32.toInt64 (v1 &&& v2)))), h) else some (.inl (some (.long ((Int32.toInt64 v1) * (Int32.toInt64 v2)))), h) else B_X3_made_24 (ax_c d) v1 v2 h else some (.inl (some (.long ((Int32.toInt64 v1) + (Int32.toInt64 v2)))), h)) (ax_c (d + 1) 429 [.int v0, .int v1, .int v2] h) := by
  refine e_entry (L' := [some (.int v0), some (.int v1), some (.int v2)]) rfl (ag_I (ag_I (ag_I ag_n))) (Nat.le_of_ble_eq_true rfl) rfl ?_
  refine e_iload rfl rfl ?_
  refine e_push rfl ?_
  refine e_if2 rfl rfl ?_ ?_
  · refine e_iload rfl rfl ?_
    refine e_push rfl ?_
    refine e_if2 rfl rfl ?_ ?_
    · exact e_wk mP_X3_made (ll_0 (ll_1 (ll_1 ll_n)))
    · refine e_iload rfl rfl ?_
      refine e_push rfl ?_
      refine e_if2 rfl rfl ?_ ?_
      · refine e_iload rfl rfl ?_
        refine e_push rfl ?_
        refine e_if2 rfl rfl ?_ ?_
        · refine e_iload rfl rfl ?_
          refine e_push rfl ?_
          refine e_if2 rfl rfl ?_ ?_
          · refine e_iload rfl rfl ?_
            refine e_push rfl ?_
            refine e_if2 rfl rfl ?_ ?_
            · refine e_iload rfl rfl ?_
              refine e_iload rfl rfl ?_
              refine e_push rfl ?_
              refine e_rem rfl (by decide) ?_
              refine e_iload rfl rfl ?_
              refine e_push rfl ?_
              refine e_if2 rfl rfl ?_ ?_
              · refine e_push rfl ?_
                refine e_isI rfl (Nat.le_of_ble_eq_true rfl) rfl rfl (Nat.le_of_ble_eq_true rfl) (fun _ _ => e_x0) fun x2 h1 => ?_
                refine e_i2l rfl ?_
                exact e_lret rfl
              · refine e_push rfl ?_
                refine e_goto rfl ?_
                refine e_isI rfl (Nat.le_of_ble_eq_true rfl) rfl rfl (Nat.le_of_ble_eq_true rfl) (fun _ _ => e_x0) fun x4 h3 => ?_
                refine e_i2l rfl ?_
                exact e_lret rfl
            · refine e_iload rfl rfl ?_
              refine e_iload rfl rfl ?_
              refine e_i2 rfl ?_
              refine e_i2l rfl ?_
              refine e_goto rfl ?_
              exact e_lret rfl
          · refine e_iload rfl rfl ?_
            refine e_iload rfl rfl ?_
            refine e_i2 rfl ?_
            refine e_i2l rfl ?_
            refine e_goto rfl ?_
            exact e_lret rfl
        · refine e_iload rfl rfl ?_
          refine e_i2l rfl ?_
          refine e_iload rfl rfl ?_
          refine e_i2l rfl ?_
          refine e_l2 rfl ?_
          refine e_goto rfl ?_
          exact e_lret rfl
      · exact e_wk mP_X3_made (ll_0 (ll_1 (ll_1 ll_n)))
  · refine e_iload rfl rfl ?_
    refine e_i2l rfl ?_
    refine e_iload rfl rfl ?_
    refine e_i2l rfl ?_
    refine e_l2 rfl ?_
    refine e_goto rfl ?_
    exact e_lret rfl
theorem m_X3_shifted {d : Nat} {v0 : Int32} {v1 : Int32} {v2 : Int32} {h : ax_H}  : dx_le (if v2 = 0 then some (.inl (some (.int (dx_shr v0 v1))), h) else some (.inl (some (.int (dx_rem (dx_shl v0 v1) 65536))), h)) (ax_c (d + 1) 430 [.int v0, .int v1, .int v2] h) := by
  refine e_entry (L' := [some (.int v0), some (.int v1), some (.int v2)]) rfl (ag_I (ag_I (ag_I ag_n))) (Nat.le_of_ble_eq_true rfl) rfl ?_
  refine e_iload rfl rfl ?_
  refine e_if1 rfl rfl ?_ ?_
  · refine e_iload rfl rfl ?_
    refine e_iload rfl rfl ?_
    refine e_shr rfl ?_
    exact e_iret rfl
  · refine e_iload rfl rfl ?_
    refine e_iload rfl rfl ?_
    refine e_shl rfl ?_
    refine e_push rfl ?_
    refine e_rem rfl (by decide) ?_
    refine e_goto rfl ?_
    exact e_iret rfl
noncomputable def B_X3_jumps_31 (K : ax_K) (v0 : Nat) (v1 : Int32) (v2 : Int32) (v3 : Int32) (v4 : Int32) (h : ax_H) : Option ax_R := ax_run K P_X3_jumps 31 [some (.ref v0), some (.int v1), some (.int v2), some (.int v3), some (.int v4), none] [] h
noncomputable def B_X3_jumps_56 (K : ax_K) (v0 : Nat) (v1 : Int32) (v2 : Int32) (v3 : Int32) (v4 : Int32) (h : ax_H) : Option ax_R := ax_run K P_X3_jumps 56 [some (.ref v0), some (.int v1), some (.int v2), some (.int v3), some (.int v4), none] [] h
noncomputable def B_X3_jumps_74 (K : ax_K) (s0 : Int32) (v0 : Nat) (v1 : Int32) (v2 : Int32) (v3 : Int32) (v4 : Int32) (h : ax_H) : Option ax_R := ax_run K P_X3_jumps 74 [some (.ref v0), some (.int v1), some (.int v2), some (.int v3), some (.int v4), none] [.int s0] h
noncomputable def B_X3_jumps_101 (K : ax_K) (s0 : Nat) (s1 : Int32) (v0 : Nat) (v1 : Int32) (v2 : Int32) (h : ax_H) : Option ax_R := ax_run K P_X3_jumps 101 [some (.ref v0), some (.int v1), some (.int v2), none, none, none] [.int s1, .ref s0] h
theorem b_X3_jumps_31 {K : ax_K} {v0 : Nat} {v1 : Int32} {v2 : Int32} {v3 : Int32} {v4 : Int32} {h : ax_H}  : dx_le (if v1 = 12 then B_X3_jumps_74 K 1 v0 v1 v2 v3 v4 h else if v1 = 15 then B_X3_jumps_74 K 1 v0 v1 v2 v3 v4 h else if ¬ v1 = 13 then B_X3_jumps_56 K v0 v1 v2 v3 v4 h else (dx_gI [(38, 29)] (.ref v0) h).bind fun x1 => if ¬ x1 = 0 then B_X3_jumps_74 K 1 v0 v1 v2 v3 v4 h else B_X3_jumps_56 K v0 v1 v2 v3 v4 h) (B_X3_jumps_31 K v0 v1 v2 v3 v4 h) := by
  show dx_le _ (ax_run K P_X3_jumps 31 [some (.ref v0), some (.int v1), some (.int v2), some (.int v3), some (.int v4), none] [] h)
  refine e_iload rfl rfl ?_
  refine e_push rfl ?_
  refine e_if2 rfl rfl ?_ ?_
  · refine e_push rfl ?_
    refine e_goto rfl ?_
    exact e_wk mP_X3_jumps (ll_1 (ll_1 (ll_1 (ll_1 (ll_1 (ll_0 ll_n))))))
  · refine e_iload rfl rfl ?_
    refine e_push rfl ?_
    refine e_if2 rfl rfl ?_ ?_
    · refine e_push rfl ?_
      refine e_goto rfl ?_
      exact e_wk mP_X3_jumps (ll_1 (ll_1 (ll_1 (ll_1 (ll_1 (ll_0 ll_n))))))
    · refine e_iload rfl rfl ?_
      refine e_push rfl ?_
      refine e_if2 rfl rfl ?_ ?_
      · exact e_wk mP_X3_jumps (ll_1 (ll_1 (ll_1 (ll_1 (ll_1 (ll_0 ll_n))))))
      · refine e_aload rfl rfl rfl ?_
        refine e_getI rfl fun x1 => ?_
        refine e_if1 rfl rfl ?_ ?_
        · refine e_push rfl ?_
          refine e_goto rfl ?_
          exact e_wk mP_X3_jumps (ll_1 (ll_1 (ll_1 (ll_1 (ll_1 (ll_0 ll_n))))))
        · exact e_wk mP_X3_jumps (ll_1 (ll_1 (ll_1 (ll_1 (ll_1 (ll_0 ll_n))))))
theorem b_X3_jumps_56 {K : ax_K} {v0 : Nat} {v1 : Int32} {v2 : Int32} {v3 : Int32} {v4 : Int32} {h : ax_H}  : dx_le (if ¬ v1 = 14 then B_X3_jumps_74 K 0 v0 v1 v2 v3 v4 h else (dx_gI [(38, 30)] (.ref v0) h).bind fun x1 => if x1 = 0 then B_X3_jumps_74 K 0 v0 v1 v2 v3 v4 h else B_X3_jumps_74 K 1 v0 v1 v2 v3 v4 h) (B_X3_jumps_56 K v0 v1 v2 v3 v4 h) := by
  show dx_le _ (ax_run K P_X3_jumps 56 [some (.ref v0), some (.int v1), some (.int v2), some (.int v3), some (.int v4), none] [] h)
  refine e_iload rfl rfl ?_
  refine e_push rfl ?_
  refine e_if2 rfl rfl ?_ ?_
  · refine e_push rfl ?_
    exact e_wk mP_X3_jumps (ll_1 (ll_1 (ll_1 (ll_1 (ll_1 (ll_0 ll_n))))))
  · refine e_aload rfl rfl rfl ?_
    refine e_getI rfl fun x1 => ?_
    refine e_if1 rfl rfl ?_ ?_
    · refine e_push rfl ?_
      exact e_wk mP_X3_jumps (ll_1 (ll_1 (ll_1 (ll_1 (ll_1 (ll_0 ll_n))))))
    · refine e_push rfl ?_
      refine e_goto rfl ?_
      exact e_wk mP_X3_jumps (ll_1 (ll_1 (ll_1 (ll_1 (ll_1 (ll_0 ll_n))))))
theorem b_X3_jumps_74 {K : ax_K} {s0 : Int32} {v0 : Nat} {v1 : Int32} {v2 : Int32} {v3 : Int32} {v4 : Int32} {h : ax_H}  : dx_le (if ¬ v1 = 16 then if s0 = 0 then B_X3_jumps_101 K v0 v4 v0 v1 v2 h else B_X3_jumps_101 K v0 v3 v0 v1 v2 h else (dx_vn [(38, 432)] (.ref v0) h).bind fun k => dx_cI (K k [.ref v0] h) (fun x2 h1 => B_X3_jumps_101 K v0 x2 v0 v1 v2 h1) dx_x0) (B_X3_jumps_74 K s0 v0 v1 v2 v3 v4 h) := by
  show dx_le _ (ax_run K P_X3_jumps 74 [some (.ref v0), some (.int v1), some (.int v2), some (.int v3), some (.int v4), none] [.int s0] h)
  refine e_istore (L' := [some (.ref v0), some (.int v1), some (.int v2), some (.int v3), some (.int v4), some (.int s0)]) rfl (dx_sto (Nat.le_of_ble_eq_true rfl) (Or.inr ⟨_, rfl, rfl⟩) rfl) ?_
  refine e_aload rfl rfl rfl ?_
  refine e_iload rfl rfl ?_
  refine e_push rfl ?_
  refine e_if2 rfl rfl ?_ ?_
  · refine e_iload rfl rfl ?_
    refine e_if1 rfl rfl ?_ ?_
    · refine e_iload rfl rfl ?_
      exact e_wk mP_X3_jumps (ll_1 (ll_1 (ll_1 (ll_0 (ll_0 (ll_0 ll_n))))))
    · refine e_iload rfl rfl ?_
      refine e_goto rfl ?_
      exact e_wk mP_X3_jumps (ll_1 (ll_1 (ll_1 (ll_0 (ll_0 (ll_0 ll_n))))))
  · refine e_aload rfl rfl rfl ?_
    refine e_ivI rfl rfl rfl (Nat.le_of_ble_eq_true rfl) (fun _ _ => e_x0) fun x2 h1 => ?_
    refine e_goto rfl ?_
    exact e_wk mP_X3_jumps (ll_1 (ll_1 (ll_1 (ll_0 (ll_0 (ll_0 ll_n))))))
theorem b_X3_jumps_101 {K : ax_K} {s0 : Nat} {s1 : Int32} {v0 : Nat} {v1 : Int32} {v2 : Int32} {h : ax_H}  : dx_le ((dx_pF [(38, 27)] (.int) (.ref s0) (.int s1) h).bind fun h1 => if ¬ v1 = 18 then some (.inl none, h1) else (dx_gA [(38, 26)] (.ref v0) h1).bind fun r2 => (dx_vn [(38, 432)] (.ref v0) h1).bind fun k => dx_cI (K k [.ref v0] h1) (fun x4 h3 => (dx_sI 0 r2 v2 x4 h3).bind fun h5 => some (.inl none, h5)) dx_x0) (B_X3_jumps_101 K s0 s1 v0 v1 v2 h) := by
  show dx_le _ (ax_run K P_X3_jumps 101 [some (.ref v0), some (.int v1), some (.int v2), none, none, none] [.int s1, .ref s0] h)
  refine e_putf rfl fun h1 => ?_
  refine e_iload rfl rfl ?_
  refine e_push rfl ?_
  refine e_if2 rfl rfl ?_ ?_
  · exact e_ret rfl
  · refine e_aload rfl rfl rfl ?_
    refine e_getA rfl fun r2 hr2 => ?_
    refine e_iload rfl rfl ?_
    refine e_aload rfl rfl rfl ?_
    refine e_ivI rfl rfl rfl (Nat.le_of_ble_eq_true rfl) (fun _ _ => e_x0) fun x4 h3 => ?_
    refine e_iastI rfl fun h5 => ?_
    exact e_ret rfl
theorem m_X3_jumps {d : Nat} {v0 : Nat} {v1 : Int32} {v2 : Int32} {v3 : Int32} {h : ax_H}  : dx_le ((dx_gI [(38, 27)] (.ref v0) h).bind fun x1 => dx_lt (x1 + 2) fun x2 => if ¬ v1 = 15 then if ¬ v1 = 17 then B_X3_jumps_31 (ax_c d) v0 v1 v2 v3 x2 h else (dx_vn [(38, 423)] (.ref v0) h).bind fun k => dx_cV ((ax_c d) k [.ref v0, .int v3] h) (fun h3 => B_X3_jumps_31 (ax_c d) v0 v1 v2 v3 x2 h3) dx_x0 else (dx_vn [(38, 423)] (.ref v0) h).bind fun k => dx_cV ((ax_c d) k [.ref v0, .int x2] h) (fun h4 => if ¬ v1 = 17 then B_X3_jumps_31 (ax_c d) v0 v1 v2 v3 x2 h4 else (dx_vn [(38, 423)] (.ref v0) h4).bind fun k => dx_cV ((ax_c d) k [.ref v0, .int v3] h4) (fun h5 => B_X3_jumps_31 (ax_c d) v0 v1 v2 v3 x2 h5) dx_x0) dx_x0) (ax_c (d + 1) 431 [.ref v0, .int v1, .int v2, .int v3] h) := by
  refine e_entry (L' := [some (.ref v0), some (.int v1), some (.int v2), some (.int v3), none, none]) rfl (ag_A rfl (ag_I (ag_I (ag_I ag_n)))) (Nat.le_of_ble_eq_true rfl) rfl ?_
  refine e_aload rfl rfl rfl ?_
  refine e_getI rfl fun x1 => ?_
  refine e_push rfl ?_
  refine e_i2 rfl ?_
  refine e_istoreL (M := fun x2 => [some (.ref v0), some (.int v1), some (.int v2), some (.int v3), some (.int x2), none]) rfl (fun _ => dx_sto (Nat.le_of_ble_eq_true rfl) (Or.inr ⟨_, rfl, rfl⟩) rfl) fun x2 => ?_
  refine e_iload rfl rfl ?_
  refine e_push rfl ?_
  refine e_if2 rfl rfl ?_ ?_
  · refine e_iload rfl rfl ?_
    refine e_push rfl ?_
    refine e_if2 rfl rfl ?_ ?_
    · exact e_wk mP_X3_jumps (ll_1 (ll_1 (ll_1 (ll_1 (ll_1 (ll_0 ll_n))))))
    · refine e_aload rfl rfl rfl ?_
      refine e_iload rfl rfl ?_
      refine e_ivV rfl rfl rfl (Nat.le_of_ble_eq_true rfl) (fun _ _ => e_x0) fun h3 => ?_
      exact e_wk mP_X3_jumps (ll_1 (ll_1 (ll_1 (ll_1 (ll_1 (ll_0 ll_n))))))
  · refine e_aload rfl rfl rfl ?_
    refine e_iload rfl rfl ?_
    refine e_ivV rfl rfl rfl (Nat.le_of_ble_eq_true rfl) (fun _ _ => e_x0) fun h4 => ?_
    refine e_iload rfl rfl ?_
    refine e_push rfl ?_
    refine e_if2 rfl rfl ?_ ?_
    · exact e_wk mP_X3_jumps (ll_1 (ll_1 (ll_1 (ll_1 (ll_1 (ll_0 ll_n))))))
    · refine e_aload rfl rfl rfl ?_
      refine e_iload rfl rfl ?_
      refine e_ivV rfl rfl rfl (Nat.le_of_ble_eq_true rfl) (fun _ _ => e_x0) fun h5 => ?_
      exact e_wk mP_X3_jumps (ll_1 (ll_1 (ll_1 (ll_1 (ll_1 (ll_0 ll_n))))))
theorem m_X3_pulls {d : Nat} {v0 : Nat} {h : ax_H}  : dx_le ((dx_gI [(38, 28)] (.ref v0) h).bind fun x1 => (dx_pF [(38, 28)] (.int) (.ref v0) (.int (x1 + 1)) h).bind fun h2 => (dx_gA [(38, 25)] (.ref v0) h2).bind fun r3 => (dx_gI [(38, 28)] (.ref v0) h2).bind fun x4 => (dx_lI 0 r3 (x4 - 1) h2).bind fun x5 => some (.inl (some (.int x5)), h2)) (ax_c (d + 1) 432 [.ref v0] h) := by
  refine e_entry (L' := [some (.ref v0)]) rfl (ag_A rfl ag_n) (Nat.le_of_ble_eq_true rfl) rfl ?_
  refine e_aload rfl rfl rfl ?_
  refine e_dup rfl rfl ?_
  refine e_getI rfl fun x1 => ?_
  refine e_push rfl ?_
  refine e_i2 rfl ?_
  refine e_putf rfl fun h2 => ?_
  refine e_aload rfl rfl rfl ?_
  refine e_getA rfl fun r3 hr3 => ?_
  refine e_aload rfl rfl rfl ?_
  refine e_getI rfl fun x4 => ?_
  refine e_push rfl ?_
  refine e_i2 rfl ?_
  refine e_iald rfl fun x5 => ?_
  exact e_iret rfl
noncomputable def B_X3_others_26 (K : ax_K) (s0 : Nat) (s1 : Int32) (v0 : Nat) (v4 : Int32) (h : ax_H) : Option ax_R := ax_run K P_X3_others 26 [some (.ref v0), none, none, none, some (.int v4)] [.int s1, .ref s0] h
noncomputable def B_X3_others_45 (K : ax_K) (s0 : Nat) (s1 : Int32) (v0 : Nat) (h : ax_H) : Option ax_R := ax_run K P_X3_others 45 [some (.ref v0), none, none, none, none] [.int s1, .ref s0] h
noncomputable def B_X3_others_104 (K : ax_K) (s0 : Nat) (s1 : Int32) (s2 : Int32) (v0 : Nat) (v1 : Int32) (v2 : Int32) (v3 : Int32) (h : ax_H) : Option ax_R := ax_run K P_X3_others 104 [some (.ref v0), some (.int v1), some (.int v2), some (.int v3), none] [.int s2, .int s1, .ref s0] h
noncomputable def B_X3_others_133 (K : ax_K) (s0 : Nat) (s1 : Int32) (v0 : Nat) (v1 : Int32) (v2 : Int32) (v3 : Int32) (h : ax_H) : Option ax_R := ax_run K P_X3_others 133 [some (.ref v0), some (.int v1), some (.int v2), some (.int v3), none] [.int s1, .ref s0] h
noncomputable def B_X3_others_152 (K : ax_K) (v0 : Nat) (v1 : Int32) (v2 : Int32) (v3 : Int32) (h : ax_H) : Option ax_R := ax_run K P_X3_others 152 [some (.ref v0), some (.int v1), some (.int v2), some (.int v3), none] [] h
noncomputable def B_X3_others_174 (K : ax_K) (s0 : Int32) (v0 : Nat) (v1 : Int32) (v2 : Int32) (v3 : Int32) (h : ax_H) : Option ax_R := ax_run K P_X3_others 174 [some (.ref v0), some (.int v1), some (.int v2), some (.int v3), none] [.int s0] h
noncomputable def B_X3_others_200 (K : ax_K) (s0 : Value) (s1 : Int32) (s2 : Int32) (v0 : Nat) (v1 : Int32) (v3 : Int32) (v4 : Int32) (h : ax_H) : Option ax_R := ax_run K P_X3_others 200 [some (.ref v0), some (.int v1), none, some (.int v3), some (.int v4)] [.int s2, .int s1, s0] h
noncomputable def B_X3_others_220 (K : ax_K) (v0 : Nat) (v1 : Int32) (v3 : Int32) (h : ax_H) : Option ax_R := ax_run K P_X3_others 220 [some (.ref v0), some (.int v1), none, some (.int v3), none] [] h
theorem b_X3_others_26 {K : ax_K} {s0 : Nat} {s1 : Int32} {v0 : Nat} {v4 : Int32} {h : ax_H}  : dx_le ((dx_pF [(38, 29)] (.boolean) (.ref s0) (.int s1) h).bind fun h1 => if ¬ (dx_rem (v4 / 2) 2) = 1 then B_X3_others_45 K v0 0 v0 h1 else B_X3_others_45 K v0 1 v0 h1) (B_X3_others_26 K s0 s1 v0 v4 h) := by
  show dx_le _ (ax_run K P_X3_others 26 [some (.ref v0), none, none, none, some (.int v4)] [.int s1, .ref s0] h)
  refine e_putf rfl fun h1 => ?_
  refine e_aload rfl rfl rfl ?_
  refine e_iload rfl rfl ?_
  refine e_push rfl ?_
  refine e_idn rfl (by decide) ?_
  refine e_push rfl ?_
  refine e_rem rfl (by decide) ?_
  refine e_push rfl ?_
  refine e_if2 rfl rfl ?_ ?_
  · refine e_push rfl ?_
    exact e_wk mP_X3_others (ll_1 (ll_0 (ll_0 (ll_0 (ll_0 ll_n)))))
  · refine e_push rfl ?_
    refine e_goto rfl ?_
    exact e_wk mP_X3_others (ll_1 (ll_0 (ll_0 (ll_0 (ll_0 ll_n)))))
theorem b_X3_others_45 {K : ax_K} {s0 : Nat} {s1 : Int32} {v0 : Nat} {h : ax_H}  : dx_le ((dx_pF [(38, 30)] (.boolean) (.ref s0) (.int s1) h).bind fun h1 => (dx_vn [(38, 432)] (.ref v0) h1).bind fun k => dx_cI (K k [.ref v0] h1) (fun x3 h2 => (dx_pF [(38, 27)] (.int) (.ref v0) (.int x3) h2).bind fun h4 => (dx_pF [(38, 31)] (.boolean) (.ref v0) (.int 1) h4).bind fun h5 => some (.inl none, h5)) dx_x0) (B_X3_others_45 K s0 s1 v0 h) := by
  show dx_le _ (ax_run K P_X3_others 45 [some (.ref v0), none, none, none, none] [.int s1, .ref s0] h)
  refine e_putf rfl fun h1 => ?_
  refine e_aload rfl rfl rfl ?_
  refine e_aload rfl rfl rfl ?_
  refine e_ivI rfl rfl rfl (Nat.le_of_ble_eq_true rfl) (fun _ _ => e_x0) fun x3 h2 => ?_
  refine e_putf rfl fun h4 => ?_
  refine e_aload rfl rfl rfl ?_
  refine e_push rfl ?_
  refine e_putf rfl fun h5 => ?_
  exact e_ret rfl
theorem b_X3_others_104 {K : ax_K} {s0 : Nat} {s1 : Int32} {s2 : Int32} {v0 : Nat} {v1 : Int32} {v2 : Int32} {v3 : Int32} {h : ax_H}  : dx_le ((dx_pF [(38, 27)] (.int) (.ref s0) (.int (s1 + s2)) h).bind fun h1 => if v1 = 19 then B_X3_others_133 K v0 1 v0 v1 v2 v3 h1 else if v1 = 20 then B_X3_others_133 K v0 0 v0 v1 v2 v3 h1 else (dx_gI [(38, 31)] (.ref v0) h1).bind fun x2 => if x2 = 0 then B_X3_others_133 K v0 0 v0 v1 v2 v3 h1 else B_X3_others_133 K v0 1 v0 v1 v2 v3 h1) (B_X3_others_104 K s0 s1 s2 v0 v1 v2 v3 h) := by
  show dx_le _ (ax_run K P_X3_others 104 [some (.ref v0), some (.int v1), some (.int v2), some (.int v3), none] [.int s2, .int s1, .ref s0] h)
  refine e_i2 rfl ?_
  refine e_putf rfl fun h1 => ?_
  refine e_aload rfl rfl rfl ?_
  refine e_iload rfl rfl ?_
  refine e_push rfl ?_
  refine e_if2 rfl rfl ?_ ?_
  · refine e_push rfl ?_
    refine e_goto rfl ?_
    exact e_wk mP_X3_others (ll_1 (ll_1 (ll_1 (ll_1 (ll_0 ll_n)))))
  · refine e_iload rfl rfl ?_
    refine e_push rfl ?_
    refine e_if2 rfl rfl ?_ ?_
    · refine e_push rfl ?_
      exact e_wk mP_X3_others (ll_1 (ll_1 (ll_1 (ll_1 (ll_0 ll_n)))))
    · refine e_aload rfl rfl rfl ?_
      refine e_getI rfl fun x2 => ?_
      refine e_if1 rfl rfl ?_ ?_
      · refine e_push rfl ?_
        exact e_wk mP_X3_others (ll_1 (ll_1 (ll_1 (ll_1 (ll_0 ll_n)))))
      · refine e_push rfl ?_
        refine e_goto rfl ?_
        exact e_wk mP_X3_others (ll_1 (ll_1 (ll_1 (ll_1 (ll_0 ll_n)))))
theorem b_X3_others_133 {K : ax_K} {s0 : Nat} {s1 : Int32} {v0 : Nat} {v1 : Int32} {v2 : Int32} {v3 : Int32} {h : ax_H}  : dx_le ((dx_pF [(38, 31)] (.boolean) (.ref s0) (.int s1) h).bind fun h1 => if ¬ v1 = 23 then B_X3_others_152 K v0 v1 v2 v3 h1 else (dx_pF [(38, 34)] (.int) (.ref v0) (.int v3) h1).bind fun h2 => (dx_pF [(38, 35)] (.int) (.ref v0) (.int 0) h2).bind fun h3 => B_X3_others_152 K v0 v1 v2 v3 h3) (B_X3_others_133 K s0 s1 v0 v1 v2 v3 h) := by
  show dx_le _ (ax_run K P_X3_others 133 [some (.ref v0), some (.int v1), some (.int v2), some (.int v3), none] [.int s1, .ref s0] h)
  refine e_putf rfl fun h1 => ?_
  refine e_iload rfl rfl ?_
  refine e_push rfl ?_
  refine e_if2 rfl rfl ?_ ?_
  · exact e_wk mP_X3_others (ll_1 (ll_1 (ll_1 (ll_1 (ll_0 ll_n)))))
  · refine e_aload rfl rfl rfl ?_
    refine e_iload rfl rfl ?_
    refine e_putf rfl fun h2 => ?_
    refine e_aload rfl rfl rfl ?_
    refine e_push rfl ?_
    refine e_putf rfl fun h3 => ?_
    exact e_wk mP_X3_others (ll_1 (ll_1 (ll_1 (ll_1 (ll_0 ll_n)))))
theorem b_X3_others_152 {K : ax_K} {v0 : Nat} {v1 : Int32} {v2 : Int32} {v3 : Int32} {h : ax_H}  : dx_le (if ¬ v1 = 24 then B_X3_others_220 K v0 v1 v3 h else (dx_gI [(38, 39)] (.ref v0) h).bind fun x1 => (dx_vn [(38, 448)] (.ref v0) h).bind fun k => dx_cI (K k [.ref v0] h) (fun x3 h2 => if x3 ≤ x1 then B_X3_others_174 K 0 v0 v1 v2 v3 h2 else B_X3_others_174 K 1 v0 v1 v2 v3 h2) dx_x0) (B_X3_others_152 K v0 v1 v2 v3 h) := by
  show dx_le _ (ax_run K P_X3_others 152 [some (.ref v0), some (.int v1), some (.int v2), some (.int v3), none] [] h)
  refine e_iload rfl rfl ?_
  refine e_push rfl ?_
  refine e_if2 rfl rfl ?_ ?_
  · exact e_wk mP_X3_others (ll_1 (ll_1 (ll_0 (ll_1 (ll_0 ll_n)))))
  · refine e_aload rfl rfl rfl ?_
    refine e_getI rfl fun x1 => ?_
    refine e_aload rfl rfl rfl ?_
    refine e_ivI rfl rfl rfl (Nat.le_of_ble_eq_true rfl) (fun _ _ => e_x0) fun x3 h2 => ?_
    refine e_if2 rfl rfl ?_ ?_
    · refine e_push rfl ?_
      exact e_wk mP_X3_others (ll_1 (ll_1 (ll_1 (ll_1 (ll_0 ll_n)))))
    · refine e_push rfl ?_
      refine e_goto rfl ?_
      exact e_wk mP_X3_others (ll_1 (ll_1 (ll_1 (ll_1 (ll_0 ll_n)))))
theorem b_X3_others_174 {K : ax_K} {s0 : Int32} {v0 : Nat} {v1 : Int32} {v2 : Int32} {v3 : Int32} {h : ax_H}  : dx_le ((dx_gA [(38, 26)] (.ref v0) h).bind fun r1 => if s0 = 0 then B_X3_others_200 K r1 v2 65535 v0 v1 v3 s0 h else (dx_gA [(38, 42)] (.ref v0) h).bind fun r2 => (dx_gI [(38, 39)] (.ref v0) h).bind fun x3 => (dx_lI 0 r2 x3 h).bind fun x4 => B_X3_others_200 K r1 v2 x4 v0 v1 v3 s0 h) (B_X3_others_174 K s0 v0 v1 v2 v3 h) := by
  show dx_le _ (ax_run K P_X3_others 174 [some (.ref v0), some (.int v1), some (.int v2), some (.int v3), none] [.int s0] h)
  refine e_istore (L' := [some (.ref v0), some (.int v1), some (.int v2), some (.int v3), some (.int s0)]) rfl (dx_sto (Nat.le_of_ble_eq_true rfl) (Or.inr ⟨_, rfl, rfl⟩) rfl) ?_
  refine e_aload rfl rfl rfl ?_
  refine e_getA rfl fun r1 hr1 => ?_
  refine e_iload rfl rfl ?_
  refine e_iload rfl rfl ?_
  refine e_if1 rfl rfl ?_ ?_
  · refine e_push rfl ?_
    exact e_wk mP_X3_others (ll_1 (ll_1 (ll_0 (ll_1 (ll_1 ll_n)))))
  · refine e_aload rfl rfl rfl ?_
    refine e_getA rfl fun r2 hr2 => ?_
    refine e_aload rfl rfl rfl ?_
    refine e_getI rfl fun x3 => ?_
    refine e_iald rfl fun x4 => ?_
    refine e_goto rfl ?_
    exact e_wk mP_X3_others (ll_1 (ll_1 (ll_0 (ll_1 (ll_1 ll_n)))))
theorem b_X3_others_200 {K : ax_K} {s0 : Value} {s1 : Int32} {s2 : Int32} {v0 : Nat} {v1 : Int32} {v3 : Int32} {v4 : Int32} {h : ax_H} (hs0 : ax_rv s0 = true) : dx_le ((dx_sI 0 s0 s1 s2 h).bind fun h1 => (dx_gI [(38, 39)] (.ref v0) h1).bind fun x2 => if v4 = 0 then (dx_pF [(38, 39)] (.int) (.ref v0) (.int (x2 + 0)) h1).bind fun h3 => B_X3_others_220 K v0 v1 v3 h3 else (dx_pF [(38, 39)] (.int) (.ref v0) (.int (x2 + 1)) h1).bind fun h4 => B_X3_others_220 K v0 v1 v3 h4) (B_X3_others_200 K s0 s1 s2 v0 v1 v3 v4 h) := by
  show dx_le _ (ax_run K P_X3_others 200 [some (.ref v0), some (.int v1), none, some (.int v3), some (.int v4)] [.int s2, .int s1, s0] h)
  refine e_iastI rfl fun h1 => ?_
  refine e_aload rfl rfl rfl ?_
  refine e_dup rfl rfl ?_
  refine e_getI rfl fun x2 => ?_
  refine e_iload rfl rfl ?_
  refine e_if1 rfl rfl ?_ ?_
  · refine e_push rfl ?_
    refine e_i2 rfl ?_
    refine e_putf rfl fun h3 => ?_
    exact e_wk mP_X3_others (ll_1 (ll_1 (ll_0 (ll_1 (ll_0 ll_n)))))
  · refine e_push rfl ?_
    refine e_goto rfl ?_
    refine e_i2 rfl ?_
    refine e_putf rfl fun h4 => ?_
    exact e_wk mP_X3_others (ll_1 (ll_1 (ll_0 (ll_1 (ll_0 ll_n)))))
theorem b_X3_others_220 {K : ax_K} {v0 : Nat} {v1 : Int32} {v3 : Int32} {h : ax_H}  : dx_le (if ¬ v1 = 25 then some (.inl none, h) else (dx_gA [(38, 36)] (.ref v0) h).bind fun r1 => (dx_gI [(38, 37)] (.ref v0) h).bind fun x2 => (dx_sI 0 r1 x2 v3 h).bind fun h3 => (dx_gI [(38, 37)] (.ref v0) h3).bind fun x4 => (dx_pF [(38, 37)] (.int) (.ref v0) (.int (x4 + 1)) h3).bind fun h5 => some (.inl none, h5)) (B_X3_others_220 K v0 v1 v3 h) := by
  show dx_le _ (ax_run K P_X3_others 220 [some (.ref v0), some (.int v1), none, some (.int v3), none] [] h)
  refine e_iload rfl rfl ?_
  refine e_push rfl ?_
  refine e_if2 rfl rfl ?_ ?_
  · exact e_ret rfl
  · refine e_aload rfl rfl rfl ?_
    refine e_getA rfl fun r1 hr1 => ?_
    refine e_aload rfl rfl rfl ?_
    refine e_getI rfl fun x2 => ?_
    refine e_iload rfl rfl ?_
    refine e_iastI rfl fun h3 => ?_
    refine e_aload rfl rfl rfl ?_
    refine e_dup rfl rfl ?_
    refine e_getI rfl fun x4 => ?_
    refine e_push rfl ?_
    refine e_i2 rfl ?_
    refine e_putf rfl fun h5 => ?_
    exact e_ret rfl
theorem m_X3_others {d : Nat} {v0 : Nat} {v1 : Int32} {v2 : Int32} {v3 : Int32} {h : ax_H}  : dx_le (if ¬ v1 = 21 then if ¬ v1 = 26 then (dx_gI [(38, 27)] (.ref v0) h).bind fun x1 => if ¬ v1 = 22 then B_X3_others_104 (ax_c d) v0 x1 2 v0 v1 v2 v3 h else (dx_gI [(38, 32)] (.ref v0) h).bind fun x2 => if ¬ x2 = 0 then B_X3_others_104 (ax_c d) v0 x1 2 v0 v1 v2 v3 h else (dx_gI [(38, 33)] (.ref v0) h).bind fun x3 => if ¬ x3 = 0 then B_X3_others_104 (ax_c d) v0 x1 2 v0 v1 v2 v3 h else B_X3_others_104 (ax_c d) v0 x1 0 v0 v1 v2 v3 h else (dx_vn [(38, 434)] (.ref v0) h).bind fun k => dx_cV ((ax_c d) k [.ref v0, .int v3] h) (fun h4 => some (.inl none, h4)) dx_x0 else (dx_vn [(38, 432)] (.ref v0) h).bind fun k => dx_cI ((ax_c d) k [.ref v0] h) (fun x6 h5 => if ¬ (dx_rem x6 2) = 1 then B_X3_others_26 (ax_c d) v0 0 v0 x6 h5 else B_X3_others_26 (ax_c d) v0 1 v0 x6 h5) dx_x0) (ax_c (d + 1) 433 [.ref v0, .int v1, .int v2, .int v3] h) := by
  refine e_entry (L' := [some (.ref v0), some (.int v1), some (.int v2), some (.int v3), none]) rfl (ag_A rfl (ag_I (ag_I (ag_I ag_n)))) (Nat.le_of_ble_eq_true rfl) rfl ?_
  refine e_iload rfl rfl ?_
  refine e_push rfl ?_
  refine e_if2 rfl rfl ?_ ?_
  · refine e_iload rfl rfl ?_
    refine e_push rfl ?_
    refine e_if2 rfl rfl ?_ ?_
    · refine e_aload rfl rfl rfl ?_
      refine e_dup rfl rfl ?_
      refine e_getI rfl fun x1 => ?_
      refine e_iload rfl rfl ?_
      refine e_push rfl ?_
      refine e_if2 rfl rfl ?_ ?_
      · refine e_push rfl ?_
        exact e_wk mP_X3_others (ll_1 (ll_1 (ll_1 (ll_1 (ll_0 ll_n)))))
      · refine e_aload rfl rfl rfl ?_
        refine e_getI rfl fun x2 => ?_
        refine e_if1 rfl rfl ?_ ?_
        · refine e_push rfl ?_
          exact e_wk mP_X3_others (ll_1 (ll_1 (ll_1 (ll_1 (ll_0 ll_n)))))
        · refine e_aload rfl rfl rfl ?_
          refine e_getI rfl fun x3 => ?_
          refine e_if1 rfl rfl ?_ ?_
          · refine e_push rfl ?_
            exact e_wk mP_X3_others (ll_1 (ll_1 (ll_1 (ll_1 (ll_0 ll_n)))))
          · refine e_push rfl ?_
            refine e_goto rfl ?_
            exact e_wk mP_X3_others (ll_1 (ll_1 (ll_1 (ll_1 (ll_0 ll_n)))))
    · refine e_aload rfl rfl rfl ?_
      refine e_iload rfl rfl ?_
      refine e_ivV rfl rfl rfl (Nat.le_of_ble_eq_true rfl) (fun _ _ => e_x0) fun h4 => ?_
      exact e_ret rfl
  · refine e_aload rfl rfl rfl ?_
    refine e_ivI rfl rfl rfl (Nat.le_of_ble_eq_true rfl) (fun _ _ => e_x0) fun x6 h5 => ?_
    refine e_istore (L' := [some (.ref v0), some (.int v1), some (.int v2), some (.int v3), some (.int x6)]) rfl (dx_sto (Nat.le_of_ble_eq_true rfl) (Or.inr ⟨_, rfl, rfl⟩) rfl) ?_
    refine e_aload rfl rfl rfl ?_
    refine e_iload rfl rfl ?_
    refine e_push rfl ?_
    refine e_rem rfl (by decide) ?_
    refine e_push rfl ?_
    refine e_if2 rfl rfl ?_ ?_
    · refine e_push rfl ?_
      exact e_wk mP_X3_others (ll_1 (ll_0 (ll_0 (ll_0 (ll_1 ll_n)))))
    · refine e_push rfl ?_
      refine e_goto rfl ?_
      exact e_wk mP_X3_others (ll_1 (ll_0 (ll_0 (ll_0 (ll_1 ll_n)))))
noncomputable def B_X3_calls_61 (K : ax_K) (s0 : Int32) (v0 : Nat) (v1 : Int32) (v2 : Int32) (v3 : Int32) (h : ax_H) : Option ax_R := ax_run K P_X3_calls 61 [some (.ref v0), some (.int v1), some (.int v2), some (.int v3), none, none] [.int s0] h
noncomputable def B_X3_calls_116 (K : ax_K) (v0 : Nat) (v1 : Int32) (v2 : Int32) (v3 : Int32) (h : ax_H) : Option ax_R := ax_run K P_X3_calls 116 [some (.ref v0), some (.int v1), some (.int v2), some (.int v3), none, none] [] h
noncomputable def B_X3_calls_142 (K : ax_K) (v0 : Nat) (v3 : Int32) (h : ax_H) : Option ax_R := ax_run K P_X3_calls 142 [some (.ref v0), none, none, some (.int v3), none, none] [] h
noncomputable def B_X3_calls_163 (K : ax_K) (v0 : Nat) (v1 : Int32) (v2 : Int32) (v5 : Int32) (h : ax_H) : Option ax_R := ax_run K P_X3_calls 163 [some (.ref v0), some (.int v1), some (.int v2), none, none, some (.int v5)] [] h
theorem b_X3_calls_61 {K : ax_K} {s0 : Int32} {v0 : Nat} {v1 : Int32} {v2 : Int32} {v3 : Int32} {h : ax_H}  : dx_le (if s0 = 0 then B_X3_calls_163 K v0 v1 v2 0 h else if ¬ v3 = 0 then B_X3_calls_116 K v0 v1 v2 v3 h else if ¬ v1 = 3 then B_X3_calls_116 K v0 v1 v2 v3 h else (dx_gA [(38, 26)] (.ref v0) h).bind fun r1 => (dx_gA [(38, 50)] (.ref v0) h).bind fun r2 => (dx_gA [(38, 50)] (.ref v0) h).bind fun r3 => (dx_gA [(38, 26)] (.ref v0) h).bind fun r4 => (dx_lI 0 r4 1 h).bind fun x5 => (dx_vn [(38, 439)] (.ref v0) h).bind fun k => dx_cI (K k [.ref v0, r3, .int v2, .int x5] h) (fun x7 h6 => (dx_gA [(38, 26)] (.ref v0) h6).bind fun r8 => (dx_lI 0 r8 1 h6).bind fun x9 => (dx_lI 0 r2 ((8 * x7) + (dx_rem x9 8)) h6).bind fun x10 => (dx_sI 0 r1 2 x10 h6).bind fun h11 => B_X3_calls_116 K v0 v1 v2 v3 h11) dx_x0) (B_X3_calls_61 K s0 v0 v1 v2 v3 h) := by
  show dx_le _ (ax_run K P_X3_calls 61 [some (.ref v0), some (.int v1), some (.int v2), some (.int v3), none, none] [.int s0] h)
  refine e_istore (L' := [some (.ref v0), some (.int v1), some (.int v2), some (.int v3), some (.int s0), none]) rfl (dx_sto (Nat.le_of_ble_eq_true rfl) (Or.inr ⟨_, rfl, rfl⟩) rfl) ?_
  refine e_iload rfl rfl ?_
  refine e_if1 rfl rfl ?_ ?_
  · refine e_push rfl ?_
    refine e_istore (L' := [some (.ref v0), some (.int v1), some (.int v2), some (.int v3), some (.int s0), some (.int 0)]) rfl (dx_sto (Nat.le_of_ble_eq_true rfl) (Or.inr ⟨_, rfl, rfl⟩) rfl) ?_
    exact e_wk mP_X3_calls (ll_1 (ll_1 (ll_1 (ll_0 (ll_0 (ll_1 ll_n))))))
  · refine e_iload rfl rfl ?_
    refine e_if1 rfl rfl ?_ ?_
    · exact e_wk mP_X3_calls (ll_1 (ll_1 (ll_1 (ll_1 (ll_0 (ll_0 ll_n))))))
    · refine e_iload rfl rfl ?_
      refine e_push rfl ?_
      refine e_if2 rfl rfl ?_ ?_
      · exact e_wk mP_X3_calls (ll_1 (ll_1 (ll_1 (ll_1 (ll_0 (ll_0 ll_n))))))
      · refine e_aload rfl rfl rfl ?_
        refine e_getA rfl fun r1 hr1 => ?_
        refine e_push rfl ?_
        refine e_aload rfl rfl rfl ?_
        refine e_getA rfl fun r2 hr2 => ?_
        refine e_push rfl ?_
        refine e_aload rfl rfl rfl ?_
        refine e_aload rfl rfl rfl ?_
        refine e_getA rfl fun r3 hr3 => ?_
        refine e_iload rfl rfl ?_
        refine e_aload rfl rfl rfl ?_
        refine e_getA rfl fun r4 hr4 => ?_
        refine e_push rfl ?_
        refine e_iald rfl fun x5 => ?_
        refine e_ivI rfl rfl rfl (Nat.le_of_ble_eq_true rfl) (fun _ _ => e_x0) fun x7 h6 => ?_
        refine e_i2 rfl ?_
        refine e_aload rfl rfl rfl ?_
        refine e_getA rfl fun r8 hr8 => ?_
        refine e_push rfl ?_
        refine e_iald rfl fun x9 => ?_
        refine e_push rfl ?_
        refine e_rem rfl (by decide) ?_
        refine e_i2 rfl ?_
        refine e_iald rfl fun x10 => ?_
        refine e_iastI rfl fun h11 => ?_
        exact e_wk mP_X3_calls (ll_1 (ll_1 (ll_1 (ll_1 (ll_0 (ll_0 ll_n))))))
theorem b_X3_calls_116 {K : ax_K} {v0 : Nat} {v1 : Int32} {v2 : Int32} {v3 : Int32} {h : ax_H}  : dx_le (if ¬ v3 = 0 then B_X3_calls_142 K v0 v3 h else if ¬ v1 = 4 then B_X3_calls_142 K v0 v3 h else (dx_gA [(38, 26)] (.ref v0) h).bind fun r1 => (dx_gA [(38, 50)] (.ref v0) h).bind fun r2 => dx_cI (K 415 [.int v2] h) (fun x4 h3 => (dx_lI 0 r2 (x4 + 1) h3).bind fun x5 => (dx_sI 0 r1 1 x5 h3).bind fun h6 => B_X3_calls_142 K v0 v3 h6) dx_x0) (B_X3_calls_116 K v0 v1 v2 v3 h) := by
  show dx_le _ (ax_run K P_X3_calls 116 [some (.ref v0), some (.int v1), some (.int v2), some (.int v3), none, none] [] h)
  refine e_iload rfl rfl ?_
  refine e_if1 rfl rfl ?_ ?_
  · exact e_wk mP_X3_calls (ll_1 (ll_0 (ll_0 (ll_1 (ll_0 (ll_0 ll_n))))))
  · refine e_iload rfl rfl ?_
    refine e_push rfl ?_
    refine e_if2 rfl rfl ?_ ?_
    · exact e_wk mP_X3_calls (ll_1 (ll_0 (ll_0 (ll_1 (ll_0 (ll_0 ll_n))))))
    · refine e_aload rfl rfl rfl ?_
      refine e_getA rfl fun r1 hr1 => ?_
      refine e_push rfl ?_
      refine e_aload rfl rfl rfl ?_
      refine e_getA rfl fun r2 hr2 => ?_
      refine e_iload rfl rfl ?_
      refine e_isI rfl (Nat.le_of_ble_eq_true rfl) rfl rfl (Nat.le_of_ble_eq_true rfl) (fun _ _ => e_x0) fun x4 h3 => ?_
      refine e_push rfl ?_
      refine e_i2 rfl ?_
      refine e_iald rfl fun x5 => ?_
      refine e_iastI rfl fun h6 => ?_
      exact e_wk mP_X3_calls (ll_1 (ll_0 (ll_0 (ll_1 (ll_0 (ll_0 ll_n))))))
theorem b_X3_calls_142 {K : ax_K} {v0 : Nat} {v3 : Int32} {h : ax_H}  : dx_le ((dx_gA [(38, 26)] (.ref v0) h).bind fun r1 => (dx_sI 0 r1 3 v3 h).bind fun h2 => (dx_gI [(38, 27)] (.ref v0) h2).bind fun x3 => (dx_pF [(38, 27)] (.int) (.ref v0) (.int (x3 + 2)) h2).bind fun h4 => some (.inl none, h4)) (B_X3_calls_142 K v0 v3 h) := by
  show dx_le _ (ax_run K P_X3_calls 142 [some (.ref v0), none, none, some (.int v3), none, none] [] h)
  refine e_aload rfl rfl rfl ?_
  refine e_getA rfl fun r1 hr1 => ?_
  refine e_push rfl ?_
  refine e_iload rfl rfl ?_
  refine e_iastI rfl fun h2 => ?_
  refine e_aload rfl rfl rfl ?_
  refine e_dup rfl rfl ?_
  refine e_getI rfl fun x3 => ?_
  refine e_push rfl ?_
  refine e_i2 rfl ?_
  refine e_putf rfl fun h4 => ?_
  exact e_ret rfl
theorem b_X3_calls_163 {K : ax_K} {v0 : Nat} {v1 : Int32} {v2 : Int32} {v5 : Int32} {h : ax_H}  : dx_le (if (256 : Int32) ≤ v5 then if ¬ v1 = 0 then if ¬ v1 = 1 then if ¬ v1 = 2 then if ¬ v1 = 5 then (dx_vn [(38, 446)] (.ref v0) h).bind fun k => dx_cI (K k [.ref v0, .int v2] h) (fun x2 h1 => (dx_vn [(38, 447)] (.ref v0) h1).bind fun k => dx_cV (K k [.ref v0, .int x2] h1) (fun h3 => some (.inl none, h3)) dx_x0) dx_x0 else (dx_vn [(38, 445)] (.ref v0) h).bind fun k => dx_cI (K k [.ref v0, .int v2] h) (fun x5 h4 => (dx_vn [(38, 447)] (.ref v0) h4).bind fun k => dx_cV (K k [.ref v0, .int x5] h4) (fun h6 => some (.inl none, h6)) dx_x0) dx_x0 else (dx_vn [(38, 444)] (.ref v0) h).bind fun k => dx_cI (K k [.ref v0, .int v2] h) (fun x8 h7 => (dx_vn [(38, 447)] (.ref v0) h7).bind fun k => dx_cV (K k [.ref v0, .int x8] h7) (fun h9 => some (.inl none, h9)) dx_x0) dx_x0 else (dx_vn [(38, 442)] (.ref v0) h).bind fun k => dx_cI (K k [.ref v0, .int v2] h) (fun x11 h10 => (dx_vn [(38, 447)] (.ref v0) h10).bind fun k => dx_cV (K k [.ref v0, .int x11] h10) (fun h12 => some (.inl none, h12)) dx_x0) dx_x0 else (dx_vn [(38, 440)] (.ref v0) h).bind fun k => dx_cI (K k [.ref v0] h) (fun x14 h13 => (dx_vn [(38, 447)] (.ref v0) h13).bind fun k => dx_cV (K k [.ref v0, .int x14] h13) (fun h15 => some (.inl none, h15)) dx_x0) dx_x0 else (dx_gA [(38, 51)] (.ref v0) h).bind fun r16 => (dx_gA [(38, 50)] (.ref v0) h).bind fun r17 => (dx_lI 0 r17 v5 h).bind fun x18 => (dx_sI 0 r16 v5 x18 h).bind fun h19 => dx_lt (v5 + 1) fun x20 => B_X3_calls_163 K v0 v1 v2 x20 h19) (B_X3_calls_163 K v0 v1 v2 v5 h) := by
  show dx_le _ (ax_run K P_X3_calls 163 [some (.ref v0), some (.int v1), some (.int v2), none, none, some (.int v5)] [] h)
  refine e_iload rfl rfl ?_
  refine e_push rfl ?_
  refine e_if2 rfl rfl ?_ ?_
  · refine e_iload rfl rfl ?_
    refine e_if1 rfl rfl ?_ ?_
    · refine e_iload rfl rfl ?_
      refine e_push rfl ?_
      refine e_if2 rfl rfl ?_ ?_
      · refine e_iload rfl rfl ?_
        refine e_push rfl ?_
        refine e_if2 rfl rfl ?_ ?_
        · refine e_iload rfl rfl ?_
          refine e_push rfl ?_
          refine e_if2 rfl rfl ?_ ?_
          · refine e_aload rfl rfl rfl ?_
            refine e_iload rfl rfl ?_
            refine e_ivI rfl rfl rfl (Nat.le_of_ble_eq_true rfl) (fun _ _ => e_x0) fun x2 h1 => ?_
            refine e_istore (L' := [some (.ref v0), some (.int v1), some (.int v2), none, none, some (.int x2)]) rfl (dx_sto (Nat.le_of_ble_eq_true rfl) (Or.inr ⟨_, rfl, rfl⟩) rfl) ?_
            refine e_aload rfl rfl rfl ?_
            refine e_iload rfl rfl ?_
            refine e_ivV rfl rfl rfl (Nat.le_of_ble_eq_true rfl) (fun _ _ => e_x0) fun h3 => ?_
            exact e_ret rfl
          · refine e_aload rfl rfl rfl ?_
            refine e_iload rfl rfl ?_
            refine e_ivI rfl rfl rfl (Nat.le_of_ble_eq_true rfl) (fun _ _ => e_x0) fun x5 h4 => ?_
            refine e_goto rfl ?_
            refine e_istore (L' := [some (.ref v0), some (.int v1), some (.int v2), none, none, some (.int x5)]) rfl (dx_sto (Nat.le_of_ble_eq_true rfl) (Or.inr ⟨_, rfl, rfl⟩) rfl) ?_
            refine e_aload rfl rfl rfl ?_
            refine e_iload rfl rfl ?_
            refine e_ivV rfl rfl rfl (Nat.le_of_ble_eq_true rfl) (fun _ _ => e_x0) fun h6 => ?_
            exact e_ret rfl
        · refine e_aload rfl rfl rfl ?_
          refine e_iload rfl rfl ?_
          refine e_ivI rfl rfl rfl (Nat.le_of_ble_eq_true rfl) (fun _ _ => e_x0) fun x8 h7 => ?_
          refine e_goto rfl ?_
          refine e_istore (L' := [some (.ref v0), some (.int v1), some (.int v2), none, none, some (.int x8)]) rfl (dx_sto (Nat.le_of_ble_eq_true rfl) (Or.inr ⟨_, rfl, rfl⟩) rfl) ?_
          refine e_aload rfl rfl rfl ?_
          refine e_iload rfl rfl ?_
          refine e_ivV rfl rfl rfl (Nat.le_of_ble_eq_true rfl) (fun _ _ => e_x0) fun h9 => ?_
          exact e_ret rfl
      · refine e_aload rfl rfl rfl ?_
        refine e_iload rfl rfl ?_
        refine e_ivI rfl rfl rfl (Nat.le_of_ble_eq_true rfl) (fun _ _ => e_x0) fun x11 h10 => ?_
        refine e_goto rfl ?_
        refine e_istore (L' := [some (.ref v0), some (.int v1), some (.int v2), none, none, some (.int x11)]) rfl (dx_sto (Nat.le_of_ble_eq_true rfl) (Or.inr ⟨_, rfl, rfl⟩) rfl) ?_
        refine e_aload rfl rfl rfl ?_
        refine e_iload rfl rfl ?_
        refine e_ivV rfl rfl rfl (Nat.le_of_ble_eq_true rfl) (fun _ _ => e_x0) fun h12 => ?_
        exact e_ret rfl
    · refine e_aload rfl rfl rfl ?_
      refine e_ivI rfl rfl rfl (Nat.le_of_ble_eq_true rfl) (fun _ _ => e_x0) fun x14 h13 => ?_
      refine e_goto rfl ?_
      refine e_istore (L' := [some (.ref v0), some (.int v1), some (.int v2), none, none, some (.int x14)]) rfl (dx_sto (Nat.le_of_ble_eq_true rfl) (Or.inr ⟨_, rfl, rfl⟩) rfl) ?_
      refine e_aload rfl rfl rfl ?_
      refine e_iload rfl rfl ?_
      refine e_ivV rfl rfl rfl (Nat.le_of_ble_eq_true rfl) (fun _ _ => e_x0) fun h15 => ?_
      exact e_ret rfl
  · refine e_aload rfl rfl rfl ?_
    refine e_getA rfl fun r16 hr16 => ?_
    refine e_iload rfl rfl ?_
    refine e_aload rfl rfl rfl ?_
    refine e_getA rfl fun r17 hr17 => ?_
    refine e_iload rfl rfl ?_
    refine e_iald rfl fun x18 => ?_
    refine e_iastI rfl fun h19 => ?_
    refine e_iinc (M := fun x20 => [some (.ref v0), some (.int v1), some (.int v2), none, none, some (.int x20)]) rfl rfl (fun _ => dx_sto (Nat.le_of_ble_eq_true rfl) (Or.inr ⟨_, rfl, rfl⟩) rfl) fun x20 => ?_
    refine e_goto rfl ?_
    exact e_wk mP_X3_calls (ll_1 (ll_1 (ll_1 (ll_0 (ll_0 (ll_1 ll_n))))))
theorem m_X3_calls {d : Nat} {v0 : Nat} {v1 : Int32} {h : ax_H}  : dx_le ((dx_gA [(38, 50)] (.ref v0) h).bind fun r1 => (dx_gA [(38, 26)] (.ref v0) h).bind fun r2 => (dx_lI 0 r2 0 h).bind fun x3 => dx_cI ((ax_c d) 435 [r1, .int x3] h) (fun x5 h4 => (dx_vn [(38, 436)] (.ref v0) h4).bind fun k => dx_cI ((ax_c d) k [.ref v0, .int v1, .int x5] h4) (fun x7 h6 => if ¬ x7 = 0 then B_X3_calls_61 (ax_c d) 1 v0 v1 x5 x7 h6 else if v1 = 3 then B_X3_calls_61 (ax_c d) 1 v0 v1 x5 x7 h6 else if v1 = 4 then B_X3_calls_61 (ax_c d) 1 v0 v1 x5 x7 h6 else if ¬ v1 = 6 then B_X3_calls_61 (ax_c d) 0 v0 v1 x5 x7 h6 else (dx_gA [(38, 26)] (.ref v0) h6).bind fun r8 => (dx_lI 0 r8 0 h6).bind fun x9 => (dx_gA [(38, 26)] (.ref v0) h6).bind fun r10 => (dx_lI 0 r10 1 h6).bind fun x11 => if ¬ x9 = x11 then B_X3_calls_61 (ax_c d) 0 v0 v1 x5 x7 h6 else B_X3_calls_61 (ax_c d) 1 v0 v1 x5 x7 h6) dx_x0) dx_x0) (ax_c (d + 1) 434 [.ref v0, .int v1] h) := by
  refine e_entry (L' := [some (.ref v0), some (.int v1), none, none, none, none]) rfl (ag_A rfl (ag_I ag_n)) (Nat.le_of_ble_eq_true rfl) rfl ?_
  refine e_aload rfl rfl rfl ?_
  refine e_getA rfl fun r1 hr1 => ?_
  refine e_aload rfl rfl rfl ?_
  refine e_getA rfl fun r2 hr2 => ?_
  refine e_push rfl ?_
  refine e_iald rfl fun x3 => ?_
  refine e_isI rfl (Nat.le_of_ble_eq_true rfl) rfl rfl (Nat.le_of_ble_eq_true rfl) (fun _ _ => e_x0) fun x5 h4 => ?_
  refine e_istore (L' := [some (.ref v0), some (.int v1), some (.int x5), none, none, none]) rfl (dx_sto (Nat.le_of_ble_eq_true rfl) (Or.inr ⟨_, rfl, rfl⟩) rfl) ?_
  refine e_aload rfl rfl rfl ?_
  refine e_iload rfl rfl ?_
  refine e_iload rfl rfl ?_
  refine e_ivI rfl rfl rfl (Nat.le_of_ble_eq_true rfl) (fun _ _ => e_x0) fun x7 h6 => ?_
  refine e_istore (L' := [some (.ref v0), some (.int v1), some (.int x5), some (.int x7), none, none]) rfl (dx_sto (Nat.le_of_ble_eq_true rfl) (Or.inr ⟨_, rfl, rfl⟩) rfl) ?_
  refine e_iload rfl rfl ?_
  refine e_if1 rfl rfl ?_ ?_
  · refine e_push rfl ?_
    refine e_goto rfl ?_
    exact e_wk mP_X3_calls (ll_1 (ll_1 (ll_1 (ll_1 (ll_0 (ll_0 ll_n))))))
  · refine e_iload rfl rfl ?_
    refine e_push rfl ?_
    refine e_if2 rfl rfl ?_ ?_
    · refine e_push rfl ?_
      refine e_goto rfl ?_
      exact e_wk mP_X3_calls (ll_1 (ll_1 (ll_1 (ll_1 (ll_0 (ll_0 ll_n))))))
    · refine e_iload rfl rfl ?_
      refine e_push rfl ?_
      refine e_if2 rfl rfl ?_ ?_
      · refine e_push rfl ?_
        refine e_goto rfl ?_
        exact e_wk mP_X3_calls (ll_1 (ll_1 (ll_1 (ll_1 (ll_0 (ll_0 ll_n))))))
      · refine e_iload rfl rfl ?_
        refine e_push rfl ?_
        refine e_if2 rfl rfl ?_ ?_
        · refine e_push rfl ?_
          exact e_wk mP_X3_calls (ll_1 (ll_1 (ll_1 (ll_1 (ll_0 (ll_0 ll_n))))))
        · refine e_aload rfl rfl rfl ?_
          refine e_getA rfl fun r8 hr8 => ?_
          refine e_push rfl ?_
          refine e_iald rfl fun x9 => ?_
          refine e_aload rfl rfl rfl ?_
          refine e_getA rfl fun r10 hr10 => ?_
          refine e_push rfl ?_
          refine e_iald rfl fun x11 => ?_
          refine e_if2 rfl rfl ?_ ?_
          · refine e_push rfl ?_
            exact e_wk mP_X3_calls (ll_1 (ll_1 (ll_1 (ll_1 (ll_0 (ll_0 ll_n))))))
          · refine e_push rfl ?_
            refine e_goto rfl ?_
            exact e_wk mP_X3_calls (ll_1 (ll_1 (ll_1 (ll_1 (ll_0 (ll_0 ll_n))))))
noncomputable def B_X3_find_2 (K : ax_K) (v0 : Value) (v1 : Int32) (v2 : Int32) (h : ax_H) : Option ax_R := ax_run K P_X3_find 2 [some (v0), some (.int v1), some (.int v2)] [] h
theorem b_X3_find_2 {K : ax_K} {v0 : Value} {v1 : Int32} {v2 : Int32} {h : ax_H} (hv0 : ax_rv v0 = true) : dx_le (if (6 : Int32) ≤ v2 then some (.inl (some (.int (-1))), h) else dx_cI (K 415 [.int v2] h) (fun x2 h1 => (dx_lI 0 v0 x2 h1).bind fun x3 => if ¬ x3 = v1 then dx_lt (v2 + 1) fun x4 => B_X3_find_2 K v0 v1 x4 h1 else some (.inl (some (.int v2)), h1)) dx_x0) (B_X3_find_2 K v0 v1 v2 h) := by
  show dx_le _ (ax_run K P_X3_find 2 [some (v0), some (.int v1), some (.int v2)] [] h)
  refine e_iload rfl rfl ?_
  refine e_push rfl ?_
  refine e_if2 rfl rfl ?_ ?_
  · refine e_push rfl ?_
    exact e_iret rfl
  · refine e_aload rfl rfl hv0 ?_
    refine e_iload rfl rfl ?_
    refine e_isI rfl (Nat.le_of_ble_eq_true rfl) rfl rfl (Nat.le_of_ble_eq_true rfl) (fun _ _ => e_x0) fun x2 h1 => ?_
    refine e_iald rfl fun x3 => ?_
    refine e_iload rfl rfl ?_
    refine e_if2 rfl rfl ?_ ?_
    · refine e_iinc (M := fun x4 => [some (v0), some (.int v1), some (.int x4)]) rfl rfl (fun _ => dx_sto (Nat.le_of_ble_eq_true rfl) (Or.inr ⟨_, rfl, rfl⟩) rfl) fun x4 => ?_
      refine e_goto rfl ?_
      exact e_wk mP_X3_find (ll_1 (ll_1 (ll_1 ll_n)))
    · refine e_iload rfl rfl ?_
      exact e_iret rfl
theorem m_X3_find {d : Nat} {v0 : Value} {v1 : Int32} {h : ax_H} (hv0 : ax_rv v0 = true) : dx_le (B_X3_find_2 (ax_c d) v0 v1 0 h) (ax_c (d + 1) 435 [v0, .int v1] h) := by
  refine e_entry (L' := [some (v0), some (.int v1), none]) rfl (ag_A hv0 (ag_I ag_n)) (Nat.le_of_ble_eq_true rfl) rfl ?_
  refine e_push rfl ?_
  refine e_istore (L' := [some (v0), some (.int v1), some (.int 0)]) rfl (dx_sto (Nat.le_of_ble_eq_true rfl) (Or.inr ⟨_, rfl, rfl⟩) rfl) ?_
  exact e_wk mP_X3_find (ll_1 (ll_1 (ll_1 ll_n)))
noncomputable def B_X3_resultOf_19 (K : ax_K) (s0 : Int32) (v0 : Nat) (v1 : Int32) (v2 : Int32) (h : ax_H) : Option ax_R := ax_run K P_X3_resultOf 19 [some (.ref v0), some (.int v1), some (.int v2), none, none] [.int s0] h
noncomputable def B_X3_resultOf_90 (K : ax_K) (v0 : Nat) (v1 : Int32) (v2 : Int32) (h : ax_H) : Option ax_R := ax_run K P_X3_resultOf 90 [some (.ref v0), some (.int v1), some (.int v2), none, none] [] h
noncomputable def B_X3_resultOf_151 (K : ax_K) (v0 : Nat) (v4 : Int32) (h : ax_H) : Option ax_R := ax_run K P_X3_resultOf 151 [some (.ref v0), none, none, none, some (.int v4)] [] h
theorem b_X3_resultOf_19 {K : ax_K} {s0 : Int32} {v0 : Nat} {v1 : Int32} {v2 : Int32} {h : ax_H}  : dx_le (if ¬ v1 = 0 then if v1 ≤ 6 then if ¬ s0 = 0 then some (.inl (some (.int 1)), h) else if ¬ v1 = 6 then B_X3_resultOf_90 K v0 v1 v2 h else (dx_gA [(38, 26)] (.ref v0) h).bind fun r1 => (dx_lI 0 r1 1 h).bind fun x2 => if ¬ x2 = 0 then B_X3_resultOf_90 K v0 v1 v2 h else some (.inl (some (.int 1)), h) else some (.inl (some (.int 9)), h) else (dx_gA [(38, 26)] (.ref v0) h).bind fun r3 => (dx_lI 0 r3 0 h).bind fun x4 => if x4 = 0 then some (.inl (some (.int 1)), h) else if v2 = (-1) then (dx_gA [(38, 50)] (.ref v0) h).bind fun r5 => dx_cI (K 435 [r5, .int 0] h) (fun x7 h6 => if ¬ x7 = (-1) then some (.inl (some (.int 0)), h6) else some (.inl (some (.int 2)), h6)) dx_x0 else some (.inl (some (.int 1)), h)) (B_X3_resultOf_19 K s0 v0 v1 v2 h) := by
  show dx_le _ (ax_run K P_X3_resultOf 19 [some (.ref v0), some (.int v1), some (.int v2), none, none] [.int s0] h)
  refine e_istore (L' := [some (.ref v0), some (.int v1), some (.int v2), some (.int s0), none]) rfl (dx_sto (Nat.le_of_ble_eq_true rfl) (Or.inr ⟨_, rfl, rfl⟩) rfl) ?_
  refine e_iload rfl rfl ?_
  refine e_if1 rfl rfl ?_ ?_
  · refine e_iload rfl rfl ?_
    refine e_push rfl ?_
    refine e_if2 rfl rfl ?_ ?_
    · refine e_iload rfl rfl ?_
      refine e_if1 rfl rfl ?_ ?_
      · refine e_push rfl ?_
        exact e_iret rfl
      · refine e_iload rfl rfl ?_
        refine e_push rfl ?_
        refine e_if2 rfl rfl ?_ ?_
        · exact e_wk mP_X3_resultOf (ll_1 (ll_1 (ll_1 (ll_0 (ll_0 ll_n)))))
        · refine e_aload rfl rfl rfl ?_
          refine e_getA rfl fun r1 hr1 => ?_
          refine e_push rfl ?_
          refine e_iald rfl fun x2 => ?_
          refine e_if1 rfl rfl ?_ ?_
          · exact e_wk mP_X3_resultOf (ll_1 (ll_1 (ll_1 (ll_0 (ll_0 ll_n)))))
          · refine e_push rfl ?_
            exact e_iret rfl
    · refine e_push rfl ?_
      exact e_iret rfl
  · refine e_aload rfl rfl rfl ?_
    refine e_getA rfl fun r3 hr3 => ?_
    refine e_push rfl ?_
    refine e_iald rfl fun x4 => ?_
    refine e_if1 rfl rfl ?_ ?_
    · refine e_push rfl ?_
      refine e_goto rfl ?_
      exact e_iret rfl
    · refine e_iload rfl rfl ?_
      refine e_push rfl ?_
      refine e_if2 rfl rfl ?_ ?_
      · refine e_aload rfl rfl rfl ?_
        refine e_getA rfl fun r5 hr5 => ?_
        refine e_push rfl ?_
        refine e_isI rfl (Nat.le_of_ble_eq_true rfl) rfl rfl (Nat.le_of_ble_eq_true rfl) (fun _ _ => e_x0) fun x7 h6 => ?_
        refine e_push rfl ?_
        refine e_if2 rfl rfl ?_ ?_
        · refine e_push rfl ?_
          exact e_iret rfl
        · refine e_push rfl ?_
          refine e_goto rfl ?_
          exact e_iret rfl
      · refine e_push rfl ?_
        refine e_goto rfl ?_
        exact e_iret rfl
theorem b_X3_resultOf_90 {K : ax_K} {v0 : Nat} {v1 : Int32} {v2 : Int32} {h : ax_H}  : dx_le ((dx_gA [(38, 50)] (.ref v0) h).bind fun r1 => dx_cI (K 415 [.int v2] h) (fun x3 h2 => (dx_lI 0 r1 (x3 + 1) h2).bind fun x4 => if ¬ v1 = 1 then if v1 = 2 then B_X3_resultOf_151 K v0 x4 h2 else if ¬ v1 = 3 then some (.inl (some (.int 0)), h2) else B_X3_resultOf_151 K v0 x4 h2 else if ¬ x4 = 16 then if ¬ (dx_rem x4 8) = 0 then some (.inl (some (.int 0)), h2) else (dx_vn [(38, 437)] (.ref v0) h2).bind fun k => dx_cI (K k [.ref v0] h2) (fun x6 h5 => if ¬ x6 = (-1) then some (.inl (some (.int 0)), h5) else some (.inl (some (.int 3)), h5)) dx_x0 else some (.inl (some (.int 2)), h2)) dx_x0) (B_X3_resultOf_90 K v0 v1 v2 h) := by
  show dx_le _ (ax_run K P_X3_resultOf 90 [some (.ref v0), some (.int v1), some (.int v2), none, none] [] h)
  refine e_aload rfl rfl rfl ?_
  refine e_getA rfl fun r1 hr1 => ?_
  refine e_iload rfl rfl ?_
  refine e_isI rfl (Nat.le_of_ble_eq_true rfl) rfl rfl (Nat.le_of_ble_eq_true rfl) (fun _ _ => e_x0) fun x3 h2 => ?_
  refine e_push rfl ?_
  refine e_i2 rfl ?_
  refine e_iald rfl fun x4 => ?_
  refine e_istore (L' := [some (.ref v0), some (.int v1), some (.int v2), none, some (.int x4)]) rfl (dx_sto (Nat.le_of_ble_eq_true rfl) (Or.inr ⟨_, rfl, rfl⟩) rfl) ?_
  refine e_iload rfl rfl ?_
  refine e_push rfl ?_
  refine e_if2 rfl rfl ?_ ?_
  · refine e_iload rfl rfl ?_
    refine e_push rfl ?_
    refine e_if2 rfl rfl ?_ ?_
    · exact e_wk mP_X3_resultOf (ll_1 (ll_0 (ll_0 (ll_0 (ll_1 ll_n)))))
    · refine e_iload rfl rfl ?_
      refine e_push rfl ?_
      refine e_if2 rfl rfl ?_ ?_
      · refine e_push rfl ?_
        exact e_iret rfl
      · exact e_wk mP_X3_resultOf (ll_1 (ll_0 (ll_0 (ll_0 (ll_1 ll_n)))))
  · refine e_iload rfl rfl ?_
    refine e_push rfl ?_
    refine e_if2 rfl rfl ?_ ?_
    · refine e_iload rfl rfl ?_
      refine e_push rfl ?_
      refine e_rem rfl (by decide) ?_
      refine e_if1 rfl rfl ?_ ?_
      · refine e_push rfl ?_
        exact e_iret rfl
      · refine e_aload rfl rfl rfl ?_
        refine e_ivI rfl rfl rfl (Nat.le_of_ble_eq_true rfl) (fun _ _ => e_x0) fun x6 h5 => ?_
        refine e_push rfl ?_
        refine e_if2 rfl rfl ?_ ?_
        · refine e_push rfl ?_
          exact e_iret rfl
        · refine e_push rfl ?_
          refine e_goto rfl ?_
          exact e_iret rfl
    · refine e_push rfl ?_
      refine e_goto rfl ?_
      exact e_iret rfl
theorem b_X3_resultOf_151 {K : ax_K} {v0 : Nat} {v4 : Int32} {h : ax_H}  : dx_le ((dx_gA [(38, 26)] (.ref v0) h).bind fun r1 => (dx_lI 0 r1 1 h).bind fun x2 => if x2 < v4 then some (.inl (some (.int 0)), h) else some (.inl (some (.int 2)), h)) (B_X3_resultOf_151 K v0 v4 h) := by
  show dx_le _ (ax_run K P_X3_resultOf 151 [some (.ref v0), none, none, none, some (.int v4)] [] h)
  refine e_aload rfl rfl rfl ?_
  refine e_getA rfl fun r1 hr1 => ?_
  refine e_push rfl ?_
  refine e_iald rfl fun x2 => ?_
  refine e_iload rfl rfl ?_
  refine e_if2 rfl rfl ?_ ?_
  · refine e_push rfl ?_
    exact e_iret rfl
  · refine e_push rfl ?_
    refine e_goto rfl ?_
    exact e_iret rfl
theorem m_X3_resultOf {d : Nat} {v0 : Nat} {v1 : Int32} {v2 : Int32} {h : ax_H}  : dx_le ((dx_gA [(38, 26)] (.ref v0) h).bind fun r1 => (dx_lI 0 r1 0 h).bind fun x2 => if x2 = 0 then B_X3_resultOf_19 (ax_c d) 1 v0 v1 v2 h else if ¬ v2 = (-1) then B_X3_resultOf_19 (ax_c d) 0 v0 v1 v2 h else B_X3_resultOf_19 (ax_c d) 1 v0 v1 v2 h) (ax_c (d + 1) 436 [.ref v0, .int v1, .int v2] h) := by
  refine e_entry (L' := [some (.ref v0), some (.int v1), some (.int v2), none, none]) rfl (ag_A rfl (ag_I (ag_I ag_n))) (Nat.le_of_ble_eq_true rfl) rfl ?_
  refine e_aload rfl rfl rfl ?_
  refine e_getA rfl fun r1 hr1 => ?_
  refine e_push rfl ?_
  refine e_iald rfl fun x2 => ?_
  refine e_if1 rfl rfl ?_ ?_
  · refine e_push rfl ?_
    refine e_goto rfl ?_
    exact e_wk mP_X3_resultOf (ll_1 (ll_1 (ll_1 (ll_0 (ll_0 ll_n)))))
  · refine e_iload rfl rfl ?_
    refine e_push rfl ?_
    refine e_if2 rfl rfl ?_ ?_
    · refine e_push rfl ?_
      exact e_wk mP_X3_resultOf (ll_1 (ll_1 (ll_1 (ll_0 (ll_0 ll_n)))))
    · refine e_push rfl ?_
      refine e_goto rfl ?_
      exact e_wk mP_X3_resultOf (ll_1 (ll_1 (ll_1 (ll_0 (ll_0 ll_n)))))
noncomputable def B_X3_freeBlock_3 (K : ax_K) (v0 : Nat) (v1 : Int32) (h : ax_H) : Option ax_R := ax_run K P_X3_freeBlock 3 [some (.ref v0), some (.int v1)] [] h
theorem b_X3_freeBlock_3 {K : ax_K} {v0 : Nat} {v1 : Int32} {h : ax_H}  : dx_le (if (32 : Int32) ≤ v1 then some (.inl (some (.int (-1))), h) else (dx_gA [(38, 50)] (.ref v0) h).bind fun r1 => dx_cI (K 438 [r1, .int v1] h) (fun x3 h2 => if ¬ x3 = 0 then dx_lt (v1 + 1) fun x4 => B_X3_freeBlock_3 K v0 x4 h2 else some (.inl (some (.int v1)), h2)) dx_x0) (B_X3_freeBlock_3 K v0 v1 h) := by
  show dx_le _ (ax_run K P_X3_freeBlock 3 [some (.ref v0), some (.int v1)] [] h)
  refine e_iload rfl rfl ?_
  refine e_push rfl ?_
  refine e_if2 rfl rfl ?_ ?_
  · refine e_push rfl ?_
    exact e_iret rfl
  · refine e_aload rfl rfl rfl ?_
    refine e_getA rfl fun r1 hr1 => ?_
    refine e_iload rfl rfl ?_
    refine e_isI rfl (Nat.le_of_ble_eq_true rfl) rfl rfl (Nat.le_of_ble_eq_true rfl) (fun _ _ => e_x0) fun x3 h2 => ?_
    refine e_if1 rfl rfl ?_ ?_
    · refine e_iinc (M := fun x4 => [some (.ref v0), some (.int x4)]) rfl rfl (fun _ => dx_sto (Nat.le_of_ble_eq_true rfl) (Or.inr ⟨_, rfl, rfl⟩) rfl) fun x4 => ?_
      refine e_goto rfl ?_
      exact e_wk mP_X3_freeBlock (ll_1 (ll_1 ll_n))
    · refine e_iload rfl rfl ?_
      exact e_iret rfl
theorem m_X3_freeBlock {d : Nat} {v0 : Nat} {h : ax_H}  : dx_le (B_X3_freeBlock_3 (ax_c d) v0 8 h) (ax_c (d + 1) 437 [.ref v0] h) := by
  refine e_entry (L' := [some (.ref v0), none]) rfl (ag_A rfl ag_n) (Nat.le_of_ble_eq_true rfl) rfl ?_
  refine e_push rfl ?_
  refine e_istore (L' := [some (.ref v0), some (.int 8)]) rfl (dx_sto (Nat.le_of_ble_eq_true rfl) (Or.inr ⟨_, rfl, rfl⟩) rfl) ?_
  exact e_wk mP_X3_freeBlock (ll_1 (ll_1 ll_n))
theorem m_X3_isUsed {d : Nat} {v0 : Value} {v1 : Int32} {h : ax_H} (hv0 : ax_rv v0 = true) : dx_le ((dx_lI 0 v0 (32 + (v1 / 16)) h).bind fun x1 => if ¬ ((dx_shr x1 (dx_rem v1 16)) &&& 1) = 1 then some (.inl (some (.int 0)), h) else some (.inl (some (.int 1)), h)) (ax_c (d + 1) 438 [v0, .int v1] h) := by
  refine e_entry (L' := [some (v0), some (.int v1)]) rfl (ag_A hv0 (ag_I ag_n)) (Nat.le_of_ble_eq_true rfl) rfl ?_
  refine e_aload rfl rfl hv0 ?_
  refine e_push rfl ?_
  refine e_iload rfl rfl ?_
  refine e_push rfl ?_
  refine e_idn rfl (by decide) ?_
  refine e_i2 rfl ?_
  refine e_iald rfl fun x1 => ?_
  refine e_iload rfl rfl ?_
  refine e_push rfl ?_
  refine e_rem rfl (by decide) ?_
  refine e_shr rfl ?_
  refine e_push rfl ?_
  refine e_i2 rfl ?_
  refine e_push rfl ?_
  refine e_if2 rfl rfl ?_ ?_
  · refine e_push rfl ?_
    exact e_zret0 rfl
  · refine e_push rfl ?_
    refine e_goto rfl ?_
    exact e_zret1 rfl
theorem m_X3_blockOf {d : Nat} {v0 : Nat} {v1 : Value} {v2 : Int32} {v3 : Int32} {h : ax_H} (hv1 : ax_rv v1 = true) : dx_le (dx_cI ((ax_c d) 415 [.int v2] h) (fun x2 h1 => (dx_lI 0 v1 ((x2 + 2) + (v3 / 8)) h1).bind fun x3 => some (.inl (some (.int x3)), h1)) dx_x0) (ax_c (d + 1) 439 [.ref v0, v1, .int v2, .int v3] h) := by
  refine e_entry (L' := [some (.ref v0), some (v1), some (.int v2), some (.int v3)]) rfl (ag_A rfl (ag_A hv1 (ag_I (ag_I ag_n)))) (Nat.le_of_ble_eq_true rfl) rfl ?_
  refine e_aload rfl rfl hv1 ?_
  refine e_iload rfl rfl ?_
  refine e_isI rfl (Nat.le_of_ble_eq_true rfl) rfl rfl (Nat.le_of_ble_eq_true rfl) (fun _ _ => e_x0) fun x2 h1 => ?_
  refine e_push rfl ?_
  refine e_i2 rfl ?_
  refine e_iload rfl rfl ?_
  refine e_push rfl ?_
  refine e_idn rfl (by decide) ?_
  refine e_i2 rfl ?_
  refine e_iald rfl fun x3 => ?_
  exact e_iret rfl
theorem m_X3_makesFile {d : Nat} {v0 : Nat} {h : ax_H}  : dx_le ((dx_gA [(38, 50)] (.ref v0) h).bind fun r1 => dx_cI ((ax_c d) 435 [r1, .int 0] h) (fun x3 h2 => (dx_gA [(38, 51)] (.ref v0) h2).bind fun r4 => dx_cI ((ax_c d) 415 [.int x3] h2) (fun x6 h5 => (dx_gA [(38, 26)] (.ref v0) h5).bind fun r7 => (dx_lI 0 r7 0 h5).bind fun x8 => (dx_sI 0 r4 x6 x8 h5).bind fun h9 => (dx_gA [(38, 51)] (.ref v0) h9).bind fun r10 => dx_cI ((ax_c d) 415 [.int x3] h9) (fun x12 h11 => (dx_sI 0 r10 (x12 + 1) 0 h11).bind fun h13 => (dx_gA [(38, 51)] (.ref v0) h13).bind fun r14 => dx_cI ((ax_c d) 415 [.int x3] h13) (fun x16 h15 => (dx_sI 0 r14 (x16 + 2) 0 h15).bind fun h17 => (dx_gA [(38, 51)] (.ref v0) h17).bind fun r18 => dx_cI ((ax_c d) 415 [.int x3] h17) (fun x20 h19 => (dx_sI 0 r18 (x20 + 3) 0 h19).bind fun h21 => dx_cI ((ax_c d) 441 [.int x3] h21) (fun x23 h22 => some (.inl (some (.int x23)), h22)) dx_x0) dx_x0) dx_x0) dx_x0) dx_x0) dx_x0) (ax_c (d + 1) 440 [.ref v0] h) := by
  refine e_entry (L' := [some (.ref v0), none]) rfl (ag_A rfl ag_n) (Nat.le_of_ble_eq_true rfl) rfl ?_
  refine e_aload rfl rfl rfl ?_
  refine e_getA rfl fun r1 hr1 => ?_
  refine e_push rfl ?_
  refine e_isI rfl (Nat.le_of_ble_eq_true rfl) rfl rfl (Nat.le_of_ble_eq_true rfl) (fun _ _ => e_x0) fun x3 h2 => ?_
  refine e_istore (L' := [some (.ref v0), some (.int x3)]) rfl (dx_sto (Nat.le_of_ble_eq_true rfl) (Or.inr ⟨_, rfl, rfl⟩) rfl) ?_
  refine e_aload rfl rfl rfl ?_
  refine e_getA rfl fun r4 hr4 => ?_
  refine e_iload rfl rfl ?_
  refine e_isI rfl (Nat.le_of_ble_eq_true rfl) rfl rfl (Nat.le_of_ble_eq_true rfl) (fun _ _ => e_x0) fun x6 h5 => ?_
  refine e_aload rfl rfl rfl ?_
  refine e_getA rfl fun r7 hr7 => ?_
  refine e_push rfl ?_
  refine e_iald rfl fun x8 => ?_
  refine e_iastI rfl fun h9 => ?_
  refine e_aload rfl rfl rfl ?_
  refine e_getA rfl fun r10 hr10 => ?_
  refine e_iload rfl rfl ?_
  refine e_isI rfl (Nat.le_of_ble_eq_true rfl) rfl rfl (Nat.le_of_ble_eq_true rfl) (fun _ _ => e_x0) fun x12 h11 => ?_
  refine e_push rfl ?_
  refine e_i2 rfl ?_
  refine e_push rfl ?_
  refine e_iastI rfl fun h13 => ?_
  refine e_aload rfl rfl rfl ?_
  refine e_getA rfl fun r14 hr14 => ?_
  refine e_iload rfl rfl ?_
  refine e_isI rfl (Nat.le_of_ble_eq_true rfl) rfl rfl (Nat.le_of_ble_eq_true rfl) (fun _ _ => e_x0) fun x16 h15 => ?_
  refine e_push rfl ?_
  refine e_i2 rfl ?_
  refine e_push rfl ?_
  refine e_iastI rfl fun h17 => ?_
  refine e_aload rfl rfl rfl ?_
  refine e_getA rfl fun r18 hr18 => ?_
  refine e_iload rfl rfl ?_
  refine e_isI rfl (Nat.le_of_ble_eq_true rfl) rfl rfl (Nat.le_of_ble_eq_true rfl) (fun _ _ => e_x0) fun x20 h19 => ?_
  refine e_push rfl ?_
  refine e_i2 rfl ?_
  refine e_push rfl ?_
  refine e_iastI rfl fun h21 => ?_
  refine e_iload rfl rfl ?_
  refine e_isI rfl (Nat.le_of_ble_eq_true rfl) rfl rfl (Nat.le_of_ble_eq_true rfl) (fun _ _ => e_x0) fun x23 h22 => ?_
  exact e_iret rfl
theorem m_X3_blockOfEntry {d : Nat} {v0 : Int32} {h : ax_H}  : dx_le (some (.inl (some (.int (dx_shl 1 (5 + (v0 / 2))))), h)) (ax_c (d + 1) 441 [.int v0] h) := by
  refine e_entry (L' := [some (.int v0)]) rfl (ag_I ag_n) (Nat.le_of_ble_eq_true rfl) rfl ?_
  refine e_push rfl ?_
  refine e_push rfl ?_
  refine e_iload rfl rfl ?_
  refine e_push rfl ?_
  refine e_idn rfl (by decide) ?_
  refine e_i2 rfl ?_
  refine e_shl rfl ?_
  exact e_iret rfl
noncomputable def B_X3_appends_60 (K : ax_K) (v0 : Nat) (v1 : Int32) (v2 : Int32) (v3 : Int32) (v4 : Int32) (v5 : Int32) (h : ax_H) : Option ax_R := ax_run K P_X3_appends 60 [some (.ref v0), some (.int v1), some (.int v2), some (.int v3), some (.int v4), some (.int v5)] [] h
noncomputable def B_X3_appends_92 (K : ax_K) (v0 : Nat) (v1 : Int32) (v2 : Int32) (v3 : Int32) (h : ax_H) : Option ax_R := ax_run K P_X3_appends 92 [some (.ref v0), some (.int v1), some (.int v2), some (.int v3), none, none] [] h
theorem b_X3_appends_60 {K : ax_K} {v0 : Nat} {v1 : Int32} {v2 : Int32} {v3 : Int32} {v4 : Int32} {v5 : Int32} {h : ax_H}  : dx_le (if (8 : Int32) ≤ v5 then dx_lt (v3 ||| 16) fun x1 => B_X3_appends_92 K v0 v1 v2 x1 h else (dx_gA [(38, 51)] (.ref v0) h).bind fun r2 => (dx_sI 0 r2 ((8 * v4) + v5) 0 h).bind fun h3 => dx_lt (v5 + 1) fun x4 => B_X3_appends_60 K v0 v1 v2 v3 v4 x4 h3) (B_X3_appends_60 K v0 v1 v2 v3 v4 v5 h) := by
  show dx_le _ (ax_run K P_X3_appends 60 [some (.ref v0), some (.int v1), some (.int v2), some (.int v3), some (.int v4), some (.int v5)] [] h)
  refine e_iload rfl rfl ?_
  refine e_push rfl ?_
  refine e_if2 rfl rfl ?_ ?_
  · refine e_iload rfl rfl ?_
    refine e_push rfl ?_
    refine e_i2 rfl ?_
    refine e_istoreL (M := fun x1 => [some (.ref v0), some (.int v1), some (.int v2), some (.int x1), some (.int v4), some (.int v5)]) rfl (fun _ => dx_sto (Nat.le_of_ble_eq_true rfl) (Or.inr ⟨_, rfl, rfl⟩) rfl) fun x1 => ?_
    exact e_wk mP_X3_appends (ll_1 (ll_1 (ll_1 (ll_1 (ll_0 (ll_0 ll_n))))))
  · refine e_aload rfl rfl rfl ?_
    refine e_getA rfl fun r2 hr2 => ?_
    refine e_push rfl ?_
    refine e_iload rfl rfl ?_
    refine e_i2 rfl ?_
    refine e_iload rfl rfl ?_
    refine e_i2 rfl ?_
    refine e_push rfl ?_
    refine e_iastI rfl fun h3 => ?_
    refine e_iinc (M := fun x4 => [some (.ref v0), some (.int v1), some (.int v2), some (.int v3), some (.int v4), some (.int x4)]) rfl rfl (fun _ => dx_sto (Nat.le_of_ble_eq_true rfl) (Or.inr ⟨_, rfl, rfl⟩) rfl) fun x4 => ?_
    refine e_goto rfl ?_
    exact e_wk mP_X3_appends (ll_1 (ll_1 (ll_1 (ll_1 (ll_1 (ll_1 ll_n))))))
theorem b_X3_appends_92 {K : ax_K} {v0 : Nat} {v1 : Int32} {v2 : Int32} {v3 : Int32} {h : ax_H}  : dx_le ((dx_gA [(38, 51)] (.ref v0) h).bind fun r1 => (dx_vn [(38, 439)] (.ref v0) h).bind fun k => dx_cI (K k [.ref v0, r1, .int v1, .int v2] h) (fun x3 h2 => (dx_gA [(38, 51)] (.ref v0) h2).bind fun r4 => (dx_gA [(38, 26)] (.ref v0) h2).bind fun r5 => (dx_lI 0 r5 1 h2).bind fun x6 => (dx_sI 0 r4 ((8 * x3) + (dx_rem v2 8)) x6 h2).bind fun h7 => (dx_gA [(38, 51)] (.ref v0) h7).bind fun r8 => dx_cI (K 415 [.int v1] h7) (fun x10 h9 => (dx_sI 0 r8 (x10 + 1) (v2 + 1) h9).bind fun h11 => some (.inl (some (.int (v3 ||| (dx_shl 1 x3)))), h11)) dx_x0) dx_x0) (B_X3_appends_92 K v0 v1 v2 v3 h) := by
  show dx_le _ (ax_run K P_X3_appends 92 [some (.ref v0), some (.int v1), some (.int v2), some (.int v3), none, none] [] h)
  refine e_aload rfl rfl rfl ?_
  refine e_aload rfl rfl rfl ?_
  refine e_getA rfl fun r1 hr1 => ?_
  refine e_iload rfl rfl ?_
  refine e_iload rfl rfl ?_
  refine e_ivI rfl rfl rfl (Nat.le_of_ble_eq_true rfl) (fun _ _ => e_x0) fun x3 h2 => ?_
  refine e_istore (L' := [some (.ref v0), some (.int v1), some (.int v2), some (.int v3), some (.int x3), none]) rfl (dx_sto (Nat.le_of_ble_eq_true rfl) (Or.inr ⟨_, rfl, rfl⟩) rfl) ?_
  refine e_aload rfl rfl rfl ?_
  refine e_getA rfl fun r4 hr4 => ?_
  refine e_push rfl ?_
  refine e_iload rfl rfl ?_
  refine e_i2 rfl ?_
  refine e_iload rfl rfl ?_
  refine e_push rfl ?_
  refine e_rem rfl (by decide) ?_
  refine e_i2 rfl ?_
  refine e_aload rfl rfl rfl ?_
  refine e_getA rfl fun r5 hr5 => ?_
  refine e_push rfl ?_
  refine e_iald rfl fun x6 => ?_
  refine e_iastI rfl fun h7 => ?_
  refine e_aload rfl rfl rfl ?_
  refine e_getA rfl fun r8 hr8 => ?_
  refine e_iload rfl rfl ?_
  refine e_isI rfl (Nat.le_of_ble_eq_true rfl) rfl rfl (Nat.le_of_ble_eq_true rfl) (fun _ _ => e_x0) fun x10 h9 => ?_
  refine e_push rfl ?_
  refine e_i2 rfl ?_
  refine e_iload rfl rfl ?_
  refine e_push rfl ?_
  refine e_i2 rfl ?_
  refine e_iastI rfl fun h11 => ?_
  refine e_iload rfl rfl ?_
  refine e_push rfl ?_
  refine e_iload rfl rfl ?_
  refine e_shl rfl ?_
  refine e_i2 rfl ?_
  exact e_iret rfl
theorem m_X3_appends {d : Nat} {v0 : Nat} {v1 : Int32} {h : ax_H}  : dx_le ((dx_gA [(38, 51)] (.ref v0) h).bind fun r1 => dx_cI ((ax_c d) 415 [.int v1] h) (fun x3 h2 => (dx_lI 0 r1 (x3 + 1) h2).bind fun x4 => dx_cI ((ax_c d) 441 [.int v1] h2) (fun x6 h5 => if ¬ (dx_rem x4 8) = 0 then B_X3_appends_92 (ax_c d) v0 v1 x4 x6 h5 else (dx_vn [(38, 437)] (.ref v0) h5).bind fun k => dx_cI ((ax_c d) k [.ref v0] h5) (fun x8 h7 => (dx_gA [(38, 51)] (.ref v0) h7).bind fun r9 => dx_cV ((ax_c d) 443 [r9, .int x8] h7) (fun h10 => (dx_gA [(38, 51)] (.ref v0) h10).bind fun r11 => dx_cI ((ax_c d) 415 [.int v1] h10) (fun x13 h12 => (dx_sI 0 r11 ((x13 + 2) + (x4 / 8)) x8 h12).bind fun h14 => B_X3_appends_60 (ax_c d) v0 v1 x4 x6 x8 0 h14) dx_x0) dx_x0) dx_x0) dx_x0) dx_x0) (ax_c (d + 1) 442 [.ref v0, .int v1] h) := by
  refine e_entry (L' := [some (.ref v0), some (.int v1), none, none, none, none]) rfl (ag_A rfl (ag_I ag_n)) (Nat.le_of_ble_eq_true rfl) rfl ?_
  refine e_aload rfl rfl rfl ?_
  refine e_getA rfl fun r1 hr1 => ?_
  refine e_iload rfl rfl ?_
  refine e_isI rfl (Nat.le_of_ble_eq_true rfl) rfl rfl (Nat.le_of_ble_eq_true rfl) (fun _ _ => e_x0) fun x3 h2 => ?_
  refine e_push rfl ?_
  refine e_i2 rfl ?_
  refine e_iald rfl fun x4 => ?_
  refine e_istore (L' := [some (.ref v0), some (.int v1), some (.int x4), none, none, none]) rfl (dx_sto (Nat.le_of_ble_eq_true rfl) (Or.inr ⟨_, rfl, rfl⟩) rfl) ?_
  refine e_iload rfl rfl ?_
  refine e_isI rfl (Nat.le_of_ble_eq_true rfl) rfl rfl (Nat.le_of_ble_eq_true rfl) (fun _ _ => e_x0) fun x6 h5 => ?_
  refine e_istore (L' := [some (.ref v0), some (.int v1), some (.int x4), some (.int x6), none, none]) rfl (dx_sto (Nat.le_of_ble_eq_true rfl) (Or.inr ⟨_, rfl, rfl⟩) rfl) ?_
  refine e_iload rfl rfl ?_
  refine e_push rfl ?_
  refine e_rem rfl (by decide) ?_
  refine e_if1 rfl rfl ?_ ?_
  · exact e_wk mP_X3_appends (ll_1 (ll_1 (ll_1 (ll_1 (ll_0 (ll_0 ll_n))))))
  · refine e_aload rfl rfl rfl ?_
    refine e_ivI rfl rfl rfl (Nat.le_of_ble_eq_true rfl) (fun _ _ => e_x0) fun x8 h7 => ?_
    refine e_istore (L' := [some (.ref v0), some (.int v1), some (.int x4), some (.int x6), some (.int x8), none]) rfl (dx_sto (Nat.le_of_ble_eq_true rfl) (Or.inr ⟨_, rfl, rfl⟩) rfl) ?_
    refine e_aload rfl rfl rfl ?_
    refine e_getA rfl fun r9 hr9 => ?_
    refine e_iload rfl rfl ?_
    refine e_isV rfl (Nat.le_of_ble_eq_true rfl) rfl rfl (Nat.le_of_ble_eq_true rfl) (fun _ _ => e_x0) fun h10 => ?_
    refine e_aload rfl rfl rfl ?_
    refine e_getA rfl fun r11 hr11 => ?_
    refine e_iload rfl rfl ?_
    refine e_isI rfl (Nat.le_of_ble_eq_true rfl) rfl rfl (Nat.le_of_ble_eq_true rfl) (fun _ _ => e_x0) fun x13 h12 => ?_
    refine e_push rfl ?_
    refine e_i2 rfl ?_
    refine e_iload rfl rfl ?_
    refine e_push rfl ?_
    refine e_idn rfl (by decide) ?_
    refine e_i2 rfl ?_
    refine e_iload rfl rfl ?_
    refine e_iastI rfl fun h14 => ?_
    refine e_push rfl ?_
    refine e_istore (L' := [some (.ref v0), some (.int v1), some (.int x4), some (.int x6), some (.int x8), some (.int 0)]) rfl (dx_sto (Nat.le_of_ble_eq_true rfl) (Or.inr ⟨_, rfl, rfl⟩) rfl) ?_
    exact e_wk mP_X3_appends (ll_1 (ll_1 (ll_1 (ll_1 (ll_1 (ll_1 ll_n))))))
theorem m_X3_turns {d : Nat} {v0 : Value} {v1 : Int32} {h : ax_H} (hv0 : ax_rv v0 = true) : dx_le ((dx_lI 0 v0 (32 + (v1 / 16)) h).bind fun x1 => (dx_sI 0 v0 (32 + (v1 / 16)) (x1 ^^^ (dx_shl 1 (dx_rem v1 16))) h).bind fun h2 => some (.inl none, h2)) (ax_c (d + 1) 443 [v0, .int v1] h) := by
  refine e_entry (L' := [some (v0), some (.int v1)]) rfl (ag_A hv0 (ag_I ag_n)) (Nat.le_of_ble_eq_true rfl) rfl ?_
  refine e_aload rfl rfl hv0 ?_
  refine e_push rfl ?_
  refine e_iload rfl rfl ?_
  refine e_push rfl ?_
  refine e_idn rfl (by decide) ?_
  refine e_i2 rfl ?_
  refine e_dup2 rfl rfl (dx_c1 hv0) ?_
  refine e_iald rfl fun x1 => ?_
  refine e_push rfl ?_
  refine e_iload rfl rfl ?_
  refine e_push rfl ?_
  refine e_rem rfl (by decide) ?_
  refine e_shl rfl ?_
  refine e_i2 rfl ?_
  refine e_iastI rfl fun h2 => ?_
  exact e_ret rfl
theorem m_X3_replaces {d : Nat} {v0 : Nat} {v1 : Int32} {h : ax_H}  : dx_le ((dx_gA [(38, 51)] (.ref v0) h).bind fun r1 => (dx_gA [(38, 26)] (.ref v0) h).bind fun r2 => (dx_lI 0 r2 1 h).bind fun x3 => (dx_vn [(38, 439)] (.ref v0) h).bind fun k => dx_cI ((ax_c d) k [.ref v0, r1, .int v1, .int x3] h) (fun x5 h4 => (dx_gA [(38, 51)] (.ref v0) h4).bind fun r6 => (dx_gA [(38, 26)] (.ref v0) h4).bind fun r7 => (dx_lI 0 r7 1 h4).bind fun x8 => (dx_gA [(38, 26)] (.ref v0) h4).bind fun r9 => (dx_lI 0 r9 2 h4).bind fun x10 => (dx_sI 0 r6 ((8 * x5) + (dx_rem x8 8)) x10 h4).bind fun h11 => some (.inl (some (.int (dx_shl 1 x5))), h11)) dx_x0) (ax_c (d + 1) 444 [.ref v0, .int v1] h) := by
  refine e_entry (L' := [some (.ref v0), some (.int v1), none]) rfl (ag_A rfl (ag_I ag_n)) (Nat.le_of_ble_eq_true rfl) rfl ?_
  refine e_aload rfl rfl rfl ?_
  refine e_aload rfl rfl rfl ?_
  refine e_getA rfl fun r1 hr1 => ?_
  refine e_iload rfl rfl ?_
  refine e_aload rfl rfl rfl ?_
  refine e_getA rfl fun r2 hr2 => ?_
  refine e_push rfl ?_
  refine e_iald rfl fun x3 => ?_
  refine e_ivI rfl rfl rfl (Nat.le_of_ble_eq_true rfl) (fun _ _ => e_x0) fun x5 h4 => ?_
  refine e_istore (L' := [some (.ref v0), some (.int v1), some (.int x5)]) rfl (dx_sto (Nat.le_of_ble_eq_true rfl) (Or.inr ⟨_, rfl, rfl⟩) rfl) ?_
  refine e_aload rfl rfl rfl ?_
  refine e_getA rfl fun r6 hr6 => ?_
  refine e_push rfl ?_
  refine e_iload rfl rfl ?_
  refine e_i2 rfl ?_
  refine e_aload rfl rfl rfl ?_
  refine e_getA rfl fun r7 hr7 => ?_
  refine e_push rfl ?_
  refine e_iald rfl fun x8 => ?_
  refine e_push rfl ?_
  refine e_rem rfl (by decide) ?_
  refine e_i2 rfl ?_
  refine e_aload rfl rfl rfl ?_
  refine e_getA rfl fun r9 hr9 => ?_
  refine e_push rfl ?_
  refine e_iald rfl fun x10 => ?_
  refine e_iastI rfl fun h11 => ?_
  refine e_push rfl ?_
  refine e_iload rfl rfl ?_
  refine e_shl rfl ?_
  exact e_iret rfl
noncomputable def B_X3_removes_7 (K : ax_K) (v0 : Nat) (v1 : Int32) (v2 : Int32) (v3 : Int32) (h : ax_H) : Option ax_R := ax_run K P_X3_removes 7 [some (.ref v0), some (.int v1), some (.int v2), some (.int v3), none] [] h
noncomputable def B_X3_removes_52 (K : ax_K) (v0 : Nat) (v1 : Int32) (v2 : Int32) (v3 : Int32) (h : ax_H) : Option ax_R := ax_run K P_X3_removes 52 [some (.ref v0), some (.int v1), some (.int v2), some (.int v3), none] [] h
theorem b_X3_removes_7 {K : ax_K} {v0 : Nat} {v1 : Int32} {v2 : Int32} {v3 : Int32} {h : ax_H}  : dx_le (if (4 : Int32) ≤ v3 then B_X3_removes_52 K v0 v1 v2 0 h else (dx_gA [(38, 51)] (.ref v0) h).bind fun r1 => dx_cI (K 415 [.int v1] h) (fun x3 h2 => (dx_lI 0 r1 (x3 + v3) h2).bind fun x4 => if x4 = 0 then dx_lt (v3 + 1) fun x5 => B_X3_removes_7 K v0 v1 v2 x5 h2 else (dx_gA [(38, 51)] (.ref v0) h2).bind fun r6 => dx_cV (K 443 [r6, .int x4] h2) (fun h7 => dx_lt (v2 ||| 16) fun x8 => dx_lt (v3 + 1) fun x9 => B_X3_removes_7 K v0 v1 x8 x9 h7) dx_x0) dx_x0) (B_X3_removes_7 K v0 v1 v2 v3 h) := by
  show dx_le _ (ax_run K P_X3_removes 7 [some (.ref v0), some (.int v1), some (.int v2), some (.int v3), none] [] h)
  refine e_iload rfl rfl ?_
  refine e_push rfl ?_
  refine e_if2 rfl rfl ?_ ?_
  · refine e_push rfl ?_
    refine e_istore (L' := [some (.ref v0), some (.int v1), some (.int v2), some (.int 0), none]) rfl (dx_sto (Nat.le_of_ble_eq_true rfl) (Or.inr ⟨_, rfl, rfl⟩) rfl) ?_
    exact e_wk mP_X3_removes (ll_1 (ll_1 (ll_1 (ll_1 (ll_0 ll_n)))))
  · refine e_aload rfl rfl rfl ?_
    refine e_getA rfl fun r1 hr1 => ?_
    refine e_iload rfl rfl ?_
    refine e_isI rfl (Nat.le_of_ble_eq_true rfl) rfl rfl (Nat.le_of_ble_eq_true rfl) (fun _ _ => e_x0) fun x3 h2 => ?_
    refine e_iload rfl rfl ?_
    refine e_i2 rfl ?_
    refine e_iald rfl fun x4 => ?_
    refine e_istore (L' := [some (.ref v0), some (.int v1), some (.int v2), some (.int v3), some (.int x4)]) rfl (dx_sto (Nat.le_of_ble_eq_true rfl) (Or.inr ⟨_, rfl, rfl⟩) rfl) ?_
    refine e_iload rfl rfl ?_
    refine e_if1 rfl rfl ?_ ?_
    · refine e_iinc (M := fun x5 => [some (.ref v0), some (.int v1), some (.int v2), some (.int x5), some (.int x4)]) rfl rfl (fun _ => dx_sto (Nat.le_of_ble_eq_true rfl) (Or.inr ⟨_, rfl, rfl⟩) rfl) fun x5 => ?_
      refine e_goto rfl ?_
      exact e_wk mP_X3_removes (ll_1 (ll_1 (ll_1 (ll_1 (ll_0 ll_n)))))
    · refine e_aload rfl rfl rfl ?_
      refine e_getA rfl fun r6 hr6 => ?_
      refine e_iload rfl rfl ?_
      refine e_isV rfl (Nat.le_of_ble_eq_true rfl) rfl rfl (Nat.le_of_ble_eq_true rfl) (fun _ _ => e_x0) fun h7 => ?_
      refine e_iload rfl rfl ?_
      refine e_push rfl ?_
      refine e_i2 rfl ?_
      refine e_istoreL (M := fun x8 => [some (.ref v0), some (.int v1), some (.int x8), some (.int v3), some (.int x4)]) rfl (fun _ => dx_sto (Nat.le_of_ble_eq_true rfl) (Or.inr ⟨_, rfl, rfl⟩) rfl) fun x8 => ?_
      refine e_iinc (M := fun x9 => [some (.ref v0), some (.int v1), some (.int x8), some (.int x9), some (.int x4)]) rfl rfl (fun _ => dx_sto (Nat.le_of_ble_eq_true rfl) (Or.inr ⟨_, rfl, rfl⟩) rfl) fun x9 => ?_
      refine e_goto rfl ?_
      exact e_wk mP_X3_removes (ll_1 (ll_1 (ll_1 (ll_1 (ll_0 ll_n)))))
theorem b_X3_removes_52 {K : ax_K} {v0 : Nat} {v1 : Int32} {v2 : Int32} {v3 : Int32} {h : ax_H}  : dx_le (if (4 : Int32) ≤ v3 then some (.inl (some (.int v2)), h) else (dx_gA [(38, 51)] (.ref v0) h).bind fun r1 => dx_cI (K 415 [.int v1] h) (fun x3 h2 => (dx_sI 0 r1 (x3 + v3) 0 h2).bind fun h4 => dx_lt (v3 + 1) fun x5 => B_X3_removes_52 K v0 v1 v2 x5 h4) dx_x0) (B_X3_removes_52 K v0 v1 v2 v3 h) := by
  show dx_le _ (ax_run K P_X3_removes 52 [some (.ref v0), some (.int v1), some (.int v2), some (.int v3), none] [] h)
  refine e_iload rfl rfl ?_
  refine e_push rfl ?_
  refine e_if2 rfl rfl ?_ ?_
  · refine e_iload rfl rfl ?_
    exact e_iret rfl
  · refine e_aload rfl rfl rfl ?_
    refine e_getA rfl fun r1 hr1 => ?_
    refine e_iload rfl rfl ?_
    refine e_isI rfl (Nat.le_of_ble_eq_true rfl) rfl rfl (Nat.le_of_ble_eq_true rfl) (fun _ _ => e_x0) fun x3 h2 => ?_
    refine e_iload rfl rfl ?_
    refine e_i2 rfl ?_
    refine e_push rfl ?_
    refine e_iastI rfl fun h4 => ?_
    refine e_iinc (M := fun x5 => [some (.ref v0), some (.int v1), some (.int v2), some (.int x5), none]) rfl rfl (fun _ => dx_sto (Nat.le_of_ble_eq_true rfl) (Or.inr ⟨_, rfl, rfl⟩) rfl) fun x5 => ?_
    refine e_goto rfl ?_
    exact e_wk mP_X3_removes (ll_1 (ll_1 (ll_1 (ll_1 (ll_0 ll_n)))))
theorem m_X3_removes {d : Nat} {v0 : Nat} {v1 : Int32} {h : ax_H}  : dx_le (dx_cI ((ax_c d) 441 [.int v1] h) (fun x2 h1 => B_X3_removes_7 (ax_c d) v0 v1 x2 2 h1) dx_x0) (ax_c (d + 1) 445 [.ref v0, .int v1] h) := by
  refine e_entry (L' := [some (.ref v0), some (.int v1), none, none, none]) rfl (ag_A rfl (ag_I ag_n)) (Nat.le_of_ble_eq_true rfl) rfl ?_
  refine e_iload rfl rfl ?_
  refine e_isI rfl (Nat.le_of_ble_eq_true rfl) rfl rfl (Nat.le_of_ble_eq_true rfl) (fun _ _ => e_x0) fun x2 h1 => ?_
  refine e_istore (L' := [some (.ref v0), some (.int v1), some (.int x2), none, none]) rfl (dx_sto (Nat.le_of_ble_eq_true rfl) (Or.inr ⟨_, rfl, rfl⟩) rfl) ?_
  refine e_push rfl ?_
  refine e_istore (L' := [some (.ref v0), some (.int v1), some (.int x2), some (.int 2), none]) rfl (dx_sto (Nat.le_of_ble_eq_true rfl) (Or.inr ⟨_, rfl, rfl⟩) rfl) ?_
  exact e_wk mP_X3_removes (ll_1 (ll_1 (ll_1 (ll_1 (ll_0 ll_n)))))
noncomputable def B_X3_renames_28 (K : ax_K) (s0 : Int32) (v0 : Nat) (v1 : Int32) (h : ax_H) : Option ax_R := ax_run K P_X3_renames 28 [some (.ref v0), some (.int v1), none, none] [.int s0] h
theorem b_X3_renames_28 {K : ax_K} {s0 : Int32} {v0 : Nat} {v1 : Int32} {h : ax_H}  : dx_le ((dx_gA [(38, 51)] (.ref v0) h).bind fun r1 => dx_cI (K 415 [.int v1] h) (fun x3 h2 => (dx_gA [(38, 26)] (.ref v0) h2).bind fun r4 => (dx_lI 0 r4 1 h2).bind fun x5 => (dx_sI 0 r1 x3 x5 h2).bind fun h6 => dx_cI (K 441 [.int v1] h6) (fun x8 h7 => some (.inl (some (.int (s0 ||| x8))), h7)) dx_x0) dx_x0) (B_X3_renames_28 K s0 v0 v1 h) := by
  show dx_le _ (ax_run K P_X3_renames 28 [some (.ref v0), some (.int v1), none, none] [.int s0] h)
  refine e_istore (L' := [some (.ref v0), some (.int v1), none, some (.int s0)]) rfl (dx_sto (Nat.le_of_ble_eq_true rfl) (Or.inr ⟨_, rfl, rfl⟩) rfl) ?_
  refine e_aload rfl rfl rfl ?_
  refine e_getA rfl fun r1 hr1 => ?_
  refine e_iload rfl rfl ?_
  refine e_isI rfl (Nat.le_of_ble_eq_true rfl) rfl rfl (Nat.le_of_ble_eq_true rfl) (fun _ _ => e_x0) fun x3 h2 => ?_
  refine e_aload rfl rfl rfl ?_
  refine e_getA rfl fun r4 hr4 => ?_
  refine e_push rfl ?_
  refine e_iald rfl fun x5 => ?_
  refine e_iastI rfl fun h6 => ?_
  refine e_iload rfl rfl ?_
  refine e_iload rfl rfl ?_
  refine e_isI rfl (Nat.le_of_ble_eq_true rfl) rfl rfl (Nat.le_of_ble_eq_true rfl) (fun _ _ => e_x0) fun x8 h7 => ?_
  refine e_i2 rfl ?_
  exact e_iret rfl
theorem m_X3_renames {d : Nat} {v0 : Nat} {v1 : Int32} {h : ax_H}  : dx_le ((dx_gA [(38, 50)] (.ref v0) h).bind fun r1 => (dx_gA [(38, 26)] (.ref v0) h).bind fun r2 => (dx_lI 0 r2 1 h).bind fun x3 => dx_cI ((ax_c d) 435 [r1, .int x3] h) (fun x5 h4 => if ¬ x5 = (-1) then (dx_vn [(38, 445)] (.ref v0) h4).bind fun k => dx_cI ((ax_c d) k [.ref v0, .int x5] h4) (fun x7 h6 => B_X3_renames_28 (ax_c d) x7 v0 v1 h6) dx_x0 else B_X3_renames_28 (ax_c d) 0 v0 v1 h4) dx_x0) (ax_c (d + 1) 446 [.ref v0, .int v1] h) := by
  refine e_entry (L' := [some (.ref v0), some (.int v1), none, none]) rfl (ag_A rfl (ag_I ag_n)) (Nat.le_of_ble_eq_true rfl) rfl ?_
  refine e_aload rfl rfl rfl ?_
  refine e_getA rfl fun r1 hr1 => ?_
  refine e_aload rfl rfl rfl ?_
  refine e_getA rfl fun r2 hr2 => ?_
  refine e_push rfl ?_
  refine e_iald rfl fun x3 => ?_
  refine e_isI rfl (Nat.le_of_ble_eq_true rfl) rfl rfl (Nat.le_of_ble_eq_true rfl) (fun _ _ => e_x0) fun x5 h4 => ?_
  refine e_istore (L' := [some (.ref v0), some (.int v1), some (.int x5), none]) rfl (dx_sto (Nat.le_of_ble_eq_true rfl) (Or.inr ⟨_, rfl, rfl⟩) rfl) ?_
  refine e_iload rfl rfl ?_
  refine e_push rfl ?_
  refine e_if2 rfl rfl ?_ ?_
  · refine e_aload rfl rfl rfl ?_
    refine e_iload rfl rfl ?_
    refine e_ivI rfl rfl rfl (Nat.le_of_ble_eq_true rfl) (fun _ _ => e_x0) fun x7 h6 => ?_
    exact e_wk mP_X3_renames (ll_1 (ll_1 (ll_0 (ll_0 ll_n))))
  · refine e_push rfl ?_
    refine e_goto rfl ?_
    exact e_wk mP_X3_renames (ll_1 (ll_1 (ll_0 (ll_0 ll_n))))
noncomputable def B_X3_prepares_7 (K : ax_K) (v0 : Nat) (v1 : Int32) (v2 : Int32) (h : ax_H) : Option ax_R := ax_run K P_X3_prepares 7 [some (.ref v0), some (.int v1), some (.int v2), none] [] h
noncomputable def B_X3_prepares_34 (K : ax_K) (v0 : Nat) (v1 : Int32) (v2 : Int32) (v3 : Int32) (h : ax_H) : Option ax_R := ax_run K P_X3_prepares 34 [some (.ref v0), some (.int v1), some (.int v2), some (.int v3)] [] h
theorem b_X3_prepares_7 {K : ax_K} {v0 : Nat} {v1 : Int32} {v2 : Int32} {h : ax_H}  : dx_le (if (32 : Int32) ≤ v2 then (dx_gI [(38, 47)] (.ref v0) h).bind fun x1 => (dx_pF [(38, 46)] (.int) (.ref v0) (.int ((2 * x1) + 2)) h).bind fun h2 => some (.inl none, h2) else if ¬ ((dx_shr v1 v2) &&& 1) = 1 then dx_lt (v2 + 1) fun x3 => B_X3_prepares_7 K v0 v1 x3 h else (dx_gA [(38, 48)] (.ref v0) h).bind fun r4 => (dx_gI [(38, 47)] (.ref v0) h).bind fun x5 => (dx_sI 0 r4 x5 v2 h).bind fun h6 => B_X3_prepares_34 K v0 v1 v2 0 h6) (B_X3_prepares_7 K v0 v1 v2 h) := by
  show dx_le _ (ax_run K P_X3_prepares 7 [some (.ref v0), some (.int v1), some (.int v2), none] [] h)
  refine e_iload rfl rfl ?_
  refine e_push rfl ?_
  refine e_if2 rfl rfl ?_ ?_
  · refine e_aload rfl rfl rfl ?_
    refine e_push rfl ?_
    refine e_aload rfl rfl rfl ?_
    refine e_getI rfl fun x1 => ?_
    refine e_i2 rfl ?_
    refine e_push rfl ?_
    refine e_i2 rfl ?_
    refine e_putf rfl fun h2 => ?_
    exact e_ret rfl
  · refine e_iload rfl rfl ?_
    refine e_iload rfl rfl ?_
    refine e_shr rfl ?_
    refine e_push rfl ?_
    refine e_i2 rfl ?_
    refine e_push rfl ?_
    refine e_if2 rfl rfl ?_ ?_
    · refine e_iinc (M := fun x3 => [some (.ref v0), some (.int v1), some (.int x3), none]) rfl rfl (fun _ => dx_sto (Nat.le_of_ble_eq_true rfl) (Or.inr ⟨_, rfl, rfl⟩) rfl) fun x3 => ?_
      refine e_goto rfl ?_
      exact e_wk mP_X3_prepares (ll_1 (ll_1 (ll_1 (ll_0 ll_n))))
    · refine e_aload rfl rfl rfl ?_
      refine e_getA rfl fun r4 hr4 => ?_
      refine e_aload rfl rfl rfl ?_
      refine e_getI rfl fun x5 => ?_
      refine e_iload rfl rfl ?_
      refine e_iastI rfl fun h6 => ?_
      refine e_push rfl ?_
      refine e_istore (L' := [some (.ref v0), some (.int v1), some (.int v2), some (.int 0)]) rfl (dx_sto (Nat.le_of_ble_eq_true rfl) (Or.inr ⟨_, rfl, rfl⟩) rfl) ?_
      exact e_wk mP_X3_prepares (ll_1 (ll_1 (ll_1 (ll_1 ll_n))))
theorem b_X3_prepares_34 {K : ax_K} {v0 : Nat} {v1 : Int32} {v2 : Int32} {v3 : Int32} {h : ax_H}  : dx_le (if (8 : Int32) ≤ v3 then (dx_gI [(38, 47)] (.ref v0) h).bind fun x1 => (dx_pF [(38, 47)] (.int) (.ref v0) (.int (x1 + 1)) h).bind fun h2 => dx_lt (v2 + 1) fun x3 => B_X3_prepares_7 K v0 v1 x3 h2 else (dx_gA [(38, 49)] (.ref v0) h).bind fun r4 => (dx_gI [(38, 47)] (.ref v0) h).bind fun x5 => (dx_gA [(38, 51)] (.ref v0) h).bind fun r6 => (dx_lI 0 r6 ((8 * v2) + v3) h).bind fun x7 => (dx_sI 0 r4 ((8 * x5) + v3) x7 h).bind fun h8 => dx_lt (v3 + 1) fun x9 => B_X3_prepares_34 K v0 v1 v2 x9 h8) (B_X3_prepares_34 K v0 v1 v2 v3 h) := by
  show dx_le _ (ax_run K P_X3_prepares 34 [some (.ref v0), some (.int v1), some (.int v2), some (.int v3)] [] h)
  refine e_iload rfl rfl ?_
  refine e_push rfl ?_
  refine e_if2 rfl rfl ?_ ?_
  · refine e_aload rfl rfl rfl ?_
    refine e_dup rfl rfl ?_
    refine e_getI rfl fun x1 => ?_
    refine e_push rfl ?_
    refine e_i2 rfl ?_
    refine e_putf rfl fun h2 => ?_
    refine e_iinc (M := fun x3 => [some (.ref v0), some (.int v1), some (.int x3), some (.int v3)]) rfl rfl (fun _ => dx_sto (Nat.le_of_ble_eq_true rfl) (Or.inr ⟨_, rfl, rfl⟩) rfl) fun x3 => ?_
    refine e_goto rfl ?_
    exact e_wk mP_X3_prepares (ll_1 (ll_1 (ll_1 (ll_0 ll_n))))
  · refine e_aload rfl rfl rfl ?_
    refine e_getA rfl fun r4 hr4 => ?_
    refine e_push rfl ?_
    refine e_aload rfl rfl rfl ?_
    refine e_getI rfl fun x5 => ?_
    refine e_i2 rfl ?_
    refine e_iload rfl rfl ?_
    refine e_i2 rfl ?_
    refine e_aload rfl rfl rfl ?_
    refine e_getA rfl fun r6 hr6 => ?_
    refine e_push rfl ?_
    refine e_iload rfl rfl ?_
    refine e_i2 rfl ?_
    refine e_iload rfl rfl ?_
    refine e_i2 rfl ?_
    refine e_iald rfl fun x7 => ?_
    refine e_iastI rfl fun h8 => ?_
    refine e_iinc (M := fun x9 => [some (.ref v0), some (.int v1), some (.int v2), some (.int x9)]) rfl rfl (fun _ => dx_sto (Nat.le_of_ble_eq_true rfl) (Or.inr ⟨_, rfl, rfl⟩) rfl) fun x9 => ?_
    refine e_goto rfl ?_
    exact e_wk mP_X3_prepares (ll_1 (ll_1 (ll_1 (ll_1 ll_n))))
theorem m_X3_prepares {d : Nat} {v0 : Nat} {v1 : Int32} {h : ax_H}  : dx_le ((dx_pF [(38, 47)] (.int) (.ref v0) (.int 0) h).bind fun h1 => B_X3_prepares_7 (ax_c d) v0 v1 0 h1) (ax_c (d + 1) 447 [.ref v0, .int v1] h) := by
  refine e_entry (L' := [some (.ref v0), some (.int v1), none, none]) rfl (ag_A rfl (ag_I ag_n)) (Nat.le_of_ble_eq_true rfl) rfl ?_
  refine e_aload rfl rfl rfl ?_
  refine e_push rfl ?_
  refine e_putf rfl fun h1 => ?_
  refine e_push rfl ?_
  refine e_istore (L' := [some (.ref v0), some (.int v1), some (.int 0), none]) rfl (dx_sto (Nat.le_of_ble_eq_true rfl) (Or.inr ⟨_, rfl, rfl⟩) rfl) ?_
  exact e_wk mP_X3_prepares (ll_1 (ll_1 (ll_1 (ll_0 ll_n))))
noncomputable def B_X3_come_4 (K : ax_K) (v0 : Nat) (v1 : Int32) (v2 : Int32) (h : ax_H) : Option ax_R := ax_run K P_X3_come 4 [some (.ref v0), some (.int v1), some (.int v2)] [] h
theorem b_X3_come_4 {K : ax_K} {v0 : Nat} {v1 : Int32} {v2 : Int32} {h : ax_H}  : dx_le ((dx_gI [(38, 43)] (.ref v0) h).bind fun x1 => if x1 ≤ v2 then some (.inl (some (.int v1)), h) else (dx_gA [(38, 41)] (.ref v0) h).bind fun r2 => (dx_lI 0 r2 v2 h).bind fun x3 => (dx_gI [(38, 38)] (.ref v0) h).bind fun x4 => if x4 < x3 then dx_lt (v1 + 0) fun x5 => dx_lt (v2 + 1) fun x6 => B_X3_come_4 K v0 x5 x6 h else dx_lt (v1 + 1) fun x7 => dx_lt (v2 + 1) fun x8 => B_X3_come_4 K v0 x7 x8 h) (B_X3_come_4 K v0 v1 v2 h) := by
  show dx_le _ (ax_run K P_X3_come 4 [some (.ref v0), some (.int v1), some (.int v2)] [] h)
  refine e_iload rfl rfl ?_
  refine e_aload rfl rfl rfl ?_
  refine e_getI rfl fun x1 => ?_
  refine e_if2 rfl rfl ?_ ?_
  · refine e_iload rfl rfl ?_
    exact e_iret rfl
  · refine e_iload rfl rfl ?_
    refine e_aload rfl rfl rfl ?_
    refine e_getA rfl fun r2 hr2 => ?_
    refine e_iload rfl rfl ?_
    refine e_iald rfl fun x3 => ?_
    refine e_aload rfl rfl rfl ?_
    refine e_getI rfl fun x4 => ?_
    refine e_if2 rfl rfl ?_ ?_
    · refine e_push rfl ?_
      refine e_i2 rfl ?_
      refine e_istoreL (M := fun x5 => [some (.ref v0), some (.int x5), some (.int v2)]) rfl (fun _ => dx_sto (Nat.le_of_ble_eq_true rfl) (Or.inr ⟨_, rfl, rfl⟩) rfl) fun x5 => ?_
      refine e_iinc (M := fun x6 => [some (.ref v0), some (.int x5), some (.int x6)]) rfl rfl (fun _ => dx_sto (Nat.le_of_ble_eq_true rfl) (Or.inr ⟨_, rfl, rfl⟩) rfl) fun x6 => ?_
      refine e_goto rfl ?_
      exact e_wk mP_X3_come (ll_1 (ll_1 (ll_1 ll_n)))
    · refine e_push rfl ?_
      refine e_goto rfl ?_
      refine e_i2 rfl ?_
      refine e_istoreL (M := fun x7 => [some (.ref v0), some (.int x7), some (.int v2)]) rfl (fun _ => dx_sto (Nat.le_of_ble_eq_true rfl) (Or.inr ⟨_, rfl, rfl⟩) rfl) fun x7 => ?_
      refine e_iinc (M := fun x8 => [some (.ref v0), some (.int x7), some (.int x8)]) rfl rfl (fun _ => dx_sto (Nat.le_of_ble_eq_true rfl) (Or.inr ⟨_, rfl, rfl⟩) rfl) fun x8 => ?_
      refine e_goto rfl ?_
      exact e_wk mP_X3_come (ll_1 (ll_1 (ll_1 ll_n)))
theorem m_X3_come {d : Nat} {v0 : Nat} {h : ax_H}  : dx_le (B_X3_come_4 (ax_c d) v0 0 0 h) (ax_c (d + 1) 448 [.ref v0] h) := by
  refine e_entry (L' := [some (.ref v0), none, none]) rfl (ag_A rfl ag_n) (Nat.le_of_ble_eq_true rfl) rfl ?_
  refine e_push rfl ?_
  refine e_istore (L' := [some (.ref v0), some (.int 0), none]) rfl (dx_sto (Nat.le_of_ble_eq_true rfl) (Or.inr ⟨_, rfl, rfl⟩) rfl) ?_
  refine e_push rfl ?_
  refine e_istore (L' := [some (.ref v0), some (.int 0), some (.int 0)]) rfl (dx_sto (Nat.le_of_ble_eq_true rfl) (Or.inr ⟨_, rfl, rfl⟩) rfl) ?_
  exact e_wk mP_X3_come (ll_1 (ll_1 (ll_1 ll_n)))
noncomputable def B_X3_keysCome_2 (K : ax_K) (v0 : Nat) (v1 : Int32) (h : ax_H) : Option ax_R := ax_run K P_X3_keysCome 2 [some (.ref v0), some (.int v1)] [] h
theorem b_X3_keysCome_2 {K : ax_K} {v0 : Nat} {v1 : Int32} {h : ax_H}  : dx_le ((dx_gI [(38, 43)] (.ref v0) h).bind fun x1 => if x1 ≤ v1 then some (.inl none, h) else (dx_gI [(38, 33)] (.ref v0) h).bind fun x2 => if ¬ x2 = 0 then (dx_pF [(38, 33)] (.boolean) (.ref v0) (.int 1) h).bind fun h3 => dx_lt (v1 + 1) fun x4 => B_X3_keysCome_2 K v0 x4 h3 else (dx_gA [(38, 41)] (.ref v0) h).bind fun r5 => (dx_lI 0 r5 v1 h).bind fun x6 => (dx_gI [(38, 38)] (.ref v0) h).bind fun x7 => if ¬ x6 = x7 then (dx_pF [(38, 33)] (.boolean) (.ref v0) (.int 0) h).bind fun h8 => dx_lt (v1 + 1) fun x9 => B_X3_keysCome_2 K v0 x9 h8 else (dx_pF [(38, 33)] (.boolean) (.ref v0) (.int 1) h).bind fun h10 => dx_lt (v1 + 1) fun x11 => B_X3_keysCome_2 K v0 x11 h10) (B_X3_keysCome_2 K v0 v1 h) := by
  show dx_le _ (ax_run K P_X3_keysCome 2 [some (.ref v0), some (.int v1)] [] h)
  refine e_iload rfl rfl ?_
  refine e_aload rfl rfl rfl ?_
  refine e_getI rfl fun x1 => ?_
  refine e_if2 rfl rfl ?_ ?_
  · exact e_ret rfl
  · refine e_aload rfl rfl rfl ?_
    refine e_aload rfl rfl rfl ?_
    refine e_getI rfl fun x2 => ?_
    refine e_if1 rfl rfl ?_ ?_
    · refine e_push rfl ?_
      refine e_goto rfl ?_
      refine e_putf rfl fun h3 => ?_
      refine e_iinc (M := fun x4 => [some (.ref v0), some (.int x4)]) rfl rfl (fun _ => dx_sto (Nat.le_of_ble_eq_true rfl) (Or.inr ⟨_, rfl, rfl⟩) rfl) fun x4 => ?_
      refine e_goto rfl ?_
      exact e_wk mP_X3_keysCome (ll_1 (ll_1 ll_n))
    · refine e_aload rfl rfl rfl ?_
      refine e_getA rfl fun r5 hr5 => ?_
      refine e_iload rfl rfl ?_
      refine e_iald rfl fun x6 => ?_
      refine e_aload rfl rfl rfl ?_
      refine e_getI rfl fun x7 => ?_
      refine e_if2 rfl rfl ?_ ?_
      · refine e_push rfl ?_
        refine e_putf rfl fun h8 => ?_
        refine e_iinc (M := fun x9 => [some (.ref v0), some (.int x9)]) rfl rfl (fun _ => dx_sto (Nat.le_of_ble_eq_true rfl) (Or.inr ⟨_, rfl, rfl⟩) rfl) fun x9 => ?_
        refine e_goto rfl ?_
        exact e_wk mP_X3_keysCome (ll_1 (ll_1 ll_n))
      · refine e_push rfl ?_
        refine e_goto rfl ?_
        refine e_putf rfl fun h10 => ?_
        refine e_iinc (M := fun x11 => [some (.ref v0), some (.int x11)]) rfl rfl (fun _ => dx_sto (Nat.le_of_ble_eq_true rfl) (Or.inr ⟨_, rfl, rfl⟩) rfl) fun x11 => ?_
        refine e_goto rfl ?_
        exact e_wk mP_X3_keysCome (ll_1 (ll_1 ll_n))
theorem m_X3_keysCome {d : Nat} {v0 : Nat} {h : ax_H}  : dx_le (B_X3_keysCome_2 (ax_c d) v0 0 h) (ax_c (d + 1) 449 [.ref v0] h) := by
  refine e_entry (L' := [some (.ref v0), none]) rfl (ag_A rfl ag_n) (Nat.le_of_ble_eq_true rfl) rfl ?_
  refine e_push rfl ?_
  refine e_istore (L' := [some (.ref v0), some (.int 0)]) rfl (dx_sto (Nat.le_of_ble_eq_true rfl) (Or.inr ⟨_, rfl, rfl⟩) rfl) ?_
  exact e_wk mP_X3_keysCome (ll_1 (ll_1 ll_n))
noncomputable def B_X3_runTo_38 (K : ax_K) (s0 : Nat) (s1 : Int32) (v0 : Nat) (v1 : Int32) (v2 : Int32) (h : ax_H) : Option ax_R := ax_run K P_X3_runTo 38 [some (.ref v0), some (.int v1), some (.int v2), none, none] [.int s1, .ref s0] h
noncomputable def B_X3_runTo_51 (K : ax_K) (v0 : Nat) (v1 : Int32) (v2 : Int32) (v3 : Int32) (v4 : Int32) (h : ax_H) : Option ax_R := ax_run K P_X3_runTo 51 [some (.ref v0), some (.int v1), some (.int v2), some (.int v3), some (.int v4)] [] h
theorem b_X3_runTo_38 {K : ax_K} {s0 : Nat} {s1 : Int32} {v0 : Nat} {v1 : Int32} {v2 : Int32} {h : ax_H}  : dx_le ((dx_vn [(38, 378)] (.ref s0) h).bind fun k => dx_cI (K k [.ref s0, .int s1] h) (fun x2 h1 => if ¬ x2 = 0 then B_X3_runTo_51 K v0 v1 v2 0 0 h1 else some (.inl (some (.int 0)), h1)) dx_x0) (B_X3_runTo_38 K s0 s1 v0 v1 v2 h) := by
  show dx_le _ (ax_run K P_X3_runTo 38 [some (.ref v0), some (.int v1), some (.int v2), none, none] [.int s1, .ref s0] h)
  refine e_ivI rfl rfl rfl (Nat.le_of_ble_eq_true rfl) (fun _ _ => e_x0) fun x2 h1 => ?_
  refine e_if1 rfl rfl ?_ ?_
  · refine e_push rfl ?_
    refine e_istore (L' := [some (.ref v0), some (.int v1), some (.int v2), some (.int 0), none]) rfl (dx_sto (Nat.le_of_ble_eq_true rfl) (Or.inr ⟨_, rfl, rfl⟩) rfl) ?_
    refine e_push rfl ?_
    refine e_istore (L' := [some (.ref v0), some (.int v1), some (.int v2), some (.int 0), some (.int 0)]) rfl (dx_sto (Nat.le_of_ble_eq_true rfl) (Or.inr ⟨_, rfl, rfl⟩) rfl) ?_
    exact e_wk mP_X3_runTo (ll_1 (ll_1 (ll_1 (ll_1 (ll_1 ll_n)))))
  · refine e_push rfl ?_
    exact e_iret rfl
theorem b_X3_runTo_51 {K : ax_K} {v0 : Nat} {v1 : Int32} {v2 : Int32} {v3 : Int32} {v4 : Int32} {h : ax_H}  : dx_le (if v2 ≤ v3 then some (.inl (some (.int v3)), h) else if ¬ v4 = 0 then some (.inl (some (.int v3)), h) else (dx_vn [(38, 417)] (.ref v0) h).bind fun k => dx_cI (K k [.ref v0] h) (fun x2 h1 => if x2 = 0 then some (.inl (some (.int v3)), h1) else (dx_vn [(38, 418)] (.ref v0) h1).bind fun k => dx_cV (K k [.ref v0] h1) (fun h3 => dx_lt (v3 + 1) fun x4 => (dx_gI [(38, 27)] (.ref v0) h3).bind fun x5 => if ¬ x5 = v1 then B_X3_runTo_51 K v0 v1 v2 x4 0 h3 else (dx_gI [(38, 46)] (.ref v0) h3).bind fun x6 => if ¬ x6 = 0 then B_X3_runTo_51 K v0 v1 v2 x4 0 h3 else B_X3_runTo_51 K v0 v1 v2 x4 1 h3) dx_x0) dx_x0) (B_X3_runTo_51 K v0 v1 v2 v3 v4 h) := by
  show dx_le _ (ax_run K P_X3_runTo 51 [some (.ref v0), some (.int v1), some (.int v2), some (.int v3), some (.int v4)] [] h)
  refine e_iload rfl rfl ?_
  refine e_iload rfl rfl ?_
  refine e_if2 rfl rfl ?_ ?_
  · refine e_iload rfl rfl ?_
    exact e_iret rfl
  · refine e_iload rfl rfl ?_
    refine e_if1 rfl rfl ?_ ?_
    · refine e_iload rfl rfl ?_
      exact e_iret rfl
    · refine e_aload rfl rfl rfl ?_
      refine e_ivI rfl rfl rfl (Nat.le_of_ble_eq_true rfl) (fun _ _ => e_x0) fun x2 h1 => ?_
      refine e_if1 rfl rfl ?_ ?_
      · refine e_iload rfl rfl ?_
        exact e_iret rfl
      · refine e_aload rfl rfl rfl ?_
        refine e_ivV rfl rfl rfl (Nat.le_of_ble_eq_true rfl) (fun _ _ => e_x0) fun h3 => ?_
        refine e_iinc (M := fun x4 => [some (.ref v0), some (.int v1), some (.int v2), some (.int x4), some (.int v4)]) rfl rfl (fun _ => dx_sto (Nat.le_of_ble_eq_true rfl) (Or.inr ⟨_, rfl, rfl⟩) rfl) fun x4 => ?_
        refine e_aload rfl rfl rfl ?_
        refine e_getI rfl fun x5 => ?_
        refine e_iload rfl rfl ?_
        refine e_if2 rfl rfl ?_ ?_
        · refine e_push rfl ?_
          refine e_istore (L' := [some (.ref v0), some (.int v1), some (.int v2), some (.int x4), some (.int 0)]) rfl (dx_sto (Nat.le_of_ble_eq_true rfl) (Or.inr ⟨_, rfl, rfl⟩) rfl) ?_
          refine e_goto rfl ?_
          exact e_wk mP_X3_runTo (ll_1 (ll_1 (ll_1 (ll_1 (ll_1 ll_n)))))
        · refine e_aload rfl rfl rfl ?_
          refine e_getI rfl fun x6 => ?_
          refine e_if1 rfl rfl ?_ ?_
          · refine e_push rfl ?_
            refine e_istore (L' := [some (.ref v0), some (.int v1), some (.int v2), some (.int x4), some (.int 0)]) rfl (dx_sto (Nat.le_of_ble_eq_true rfl) (Or.inr ⟨_, rfl, rfl⟩) rfl) ?_
            refine e_goto rfl ?_
            exact e_wk mP_X3_runTo (ll_1 (ll_1 (ll_1 (ll_1 (ll_1 ll_n)))))
          · refine e_push rfl ?_
            refine e_goto rfl ?_
            refine e_istore (L' := [some (.ref v0), some (.int v1), some (.int v2), some (.int x4), some (.int 1)]) rfl (dx_sto (Nat.le_of_ble_eq_true rfl) (Or.inr ⟨_, rfl, rfl⟩) rfl) ?_
            refine e_goto rfl ?_
            exact e_wk mP_X3_runTo (ll_1 (ll_1 (ll_1 (ll_1 (ll_1 ll_n)))))
theorem m_X3_runTo {d : Nat} {v0 : Nat} {v1 : Int32} {v2 : Int32} {h : ax_H}  : dx_le (dx_cI ((ax_c d) 376 [.int v1, .int 0, .int 255] h) (fun x2 h1 => if x2 = 0 then B_X3_runTo_38 (ax_c d) v0 1 v0 v1 v2 h1 else dx_cI ((ax_c d) 376 [.int v2, .int 1, .int 100] h1) (fun x4 h3 => if ¬ x4 = 0 then (dx_vn [(38, 405)] (.ref v0) h3).bind fun k => dx_cI ((ax_c d) k [.ref v0] h3) (fun x6 h5 => if x6 = 0 then B_X3_runTo_38 (ax_c d) v0 2 v0 v1 v2 h5 else B_X3_runTo_38 (ax_c d) v0 0 v0 v1 v2 h5) dx_x0 else B_X3_runTo_38 (ax_c d) v0 1 v0 v1 v2 h3) dx_x0) dx_x0) (ax_c (d + 1) 450 [.ref v0, .int v1, .int v2] h) := by
  refine e_entry (L' := [some (.ref v0), some (.int v1), some (.int v2), none, none]) rfl (ag_A rfl (ag_I (ag_I ag_n))) (Nat.le_of_ble_eq_true rfl) rfl ?_
  refine e_aload rfl rfl rfl ?_
  refine e_iload rfl rfl ?_
  refine e_push rfl ?_
  refine e_push rfl ?_
  refine e_isI rfl (Nat.le_of_ble_eq_true rfl) rfl rfl (Nat.le_of_ble_eq_true rfl) (fun _ _ => e_x0) fun x2 h1 => ?_
  refine e_if1 rfl rfl ?_ ?_
  · refine e_push rfl ?_
    refine e_goto rfl ?_
    exact e_wk mP_X3_runTo (ll_1 (ll_1 (ll_1 (ll_0 (ll_0 ll_n)))))
  · refine e_iload rfl rfl ?_
    refine e_push rfl ?_
    refine e_push rfl ?_
    refine e_isI rfl (Nat.le_of_ble_eq_true rfl) rfl rfl (Nat.le_of_ble_eq_true rfl) (fun _ _ => e_x0) fun x4 h3 => ?_
    refine e_if1 rfl rfl ?_ ?_
    · refine e_aload rfl rfl rfl ?_
      refine e_ivI rfl rfl rfl (Nat.le_of_ble_eq_true rfl) (fun _ _ => e_x0) fun x6 h5 => ?_
      refine e_if1 rfl rfl ?_ ?_
      · refine e_push rfl ?_
        exact e_wk mP_X3_runTo (ll_1 (ll_1 (ll_1 (ll_0 (ll_0 ll_n)))))
      · refine e_push rfl ?_
        refine e_goto rfl ?_
        exact e_wk mP_X3_runTo (ll_1 (ll_1 (ll_1 (ll_0 (ll_0 ll_n)))))
    · refine e_push rfl ?_
      refine e_goto rfl ?_
      exact e_wk mP_X3_runTo (ll_1 (ll_1 (ll_1 (ll_0 (ll_0 ll_n)))))
noncomputable def B_X3_back_28 (K : ax_K) (s0 : Nat) (s1 : Int32) (v0 : Nat) (v1 : Int32) (h : ax_H) : Option ax_R := ax_run K P_X3_back 28 [some (.ref v0), some (.int v1), none, none] [.int s1, .ref s0] h
noncomputable def B_X3_back_52 (K : ax_K) (s0 : Int32) (v0 : Nat) (h : ax_H) : Option ax_R := ax_run K P_X3_back 52 [some (.ref v0), none, none, none] [.int s0] h
theorem b_X3_back_28 {K : ax_K} {s0 : Nat} {s1 : Int32} {v0 : Nat} {v1 : Int32} {h : ax_H}  : dx_le ((dx_vn [(38, 378)] (.ref s0) h).bind fun k => dx_cI (K k [.ref s0, .int s1] h) (fun x2 h1 => if ¬ x2 = 0 then (dx_gI [(38, 40)] (.ref v0) h1).bind fun x3 => if x3 ≤ v1 then (dx_gI [(38, 40)] (.ref v0) h1).bind fun x4 => B_X3_back_52 K x4 v0 h1 else B_X3_back_52 K v1 v0 h1 else some (.inl (some (.int 0)), h1)) dx_x0) (B_X3_back_28 K s0 s1 v0 v1 h) := by
  show dx_le _ (ax_run K P_X3_back 28 [some (.ref v0), some (.int v1), none, none] [.int s1, .ref s0] h)
  refine e_ivI rfl rfl rfl (Nat.le_of_ble_eq_true rfl) (fun _ _ => e_x0) fun x2 h1 => ?_
  refine e_if1 rfl rfl ?_ ?_
  · refine e_iload rfl rfl ?_
    refine e_aload rfl rfl rfl ?_
    refine e_getI rfl fun x3 => ?_
    refine e_if2 rfl rfl ?_ ?_
    · refine e_aload rfl rfl rfl ?_
      refine e_getI rfl fun x4 => ?_
      exact e_wk mP_X3_back (ll_1 (ll_0 (ll_0 (ll_0 ll_n))))
    · refine e_iload rfl rfl ?_
      refine e_goto rfl ?_
      exact e_wk mP_X3_back (ll_1 (ll_0 (ll_0 (ll_0 ll_n))))
  · refine e_push rfl ?_
    exact e_iret rfl
theorem b_X3_back_52 {K : ax_K} {s0 : Int32} {v0 : Nat} {h : ax_H}  : dx_le ((dx_gI [(38, 38)] (.ref v0) h).bind fun x1 => dx_lt (x1 - s0) fun x2 => (dx_gI [(38, 40)] (.ref v0) h).bind fun x3 => (dx_pF [(38, 40)] (.int) (.ref v0) (.int (x3 - s0)) h).bind fun h4 => (dx_vn [(38, 452)] (.ref v0) h4).bind fun k => dx_cV (K k [.ref v0, .int x2] h4) (fun h5 => some (.inl (some (.int s0)), h5)) dx_x0) (B_X3_back_52 K s0 v0 h) := by
  show dx_le _ (ax_run K P_X3_back 52 [some (.ref v0), none, none, none] [.int s0] h)
  refine e_istore (L' := [some (.ref v0), none, some (.int s0), none]) rfl (dx_sto (Nat.le_of_ble_eq_true rfl) (Or.inr ⟨_, rfl, rfl⟩) rfl) ?_
  refine e_aload rfl rfl rfl ?_
  refine e_getI rfl fun x1 => ?_
  refine e_iload rfl rfl ?_
  refine e_i2 rfl ?_
  refine e_istoreL (M := fun x2 => [some (.ref v0), none, some (.int s0), some (.int x2)]) rfl (fun _ => dx_sto (Nat.le_of_ble_eq_true rfl) (Or.inr ⟨_, rfl, rfl⟩) rfl) fun x2 => ?_
  refine e_aload rfl rfl rfl ?_
  refine e_dup rfl rfl ?_
  refine e_getI rfl fun x3 => ?_
  refine e_iload rfl rfl ?_
  refine e_i2 rfl ?_
  refine e_putf rfl fun h4 => ?_
  refine e_aload rfl rfl rfl ?_
  refine e_iload rfl rfl ?_
  refine e_ivV rfl rfl rfl (Nat.le_of_ble_eq_true rfl) (fun _ _ => e_x0) fun h5 => ?_
  refine e_iload rfl rfl ?_
  exact e_iret rfl
theorem m_X3_back {d : Nat} {v0 : Nat} {v1 : Int32} {h : ax_H}  : dx_le (dx_cI ((ax_c d) 376 [.int v1, .int 1, .int 200] h) (fun x2 h1 => if ¬ x2 = 0 then (dx_vn [(38, 405)] (.ref v0) h1).bind fun k => dx_cI ((ax_c d) k [.ref v0] h1) (fun x4 h3 => if x4 = 0 then B_X3_back_28 (ax_c d) v0 2 v0 v1 h3 else B_X3_back_28 (ax_c d) v0 0 v0 v1 h3) dx_x0 else B_X3_back_28 (ax_c d) v0 1 v0 v1 h1) dx_x0) (ax_c (d + 1) 451 [.ref v0, .int v1] h) := by
  refine e_entry (L' := [some (.ref v0), some (.int v1), none, none]) rfl (ag_A rfl (ag_I ag_n)) (Nat.le_of_ble_eq_true rfl) rfl ?_
  refine e_aload rfl rfl rfl ?_
  refine e_iload rfl rfl ?_
  refine e_push rfl ?_
  refine e_push rfl ?_
  refine e_isI rfl (Nat.le_of_ble_eq_true rfl) rfl rfl (Nat.le_of_ble_eq_true rfl) (fun _ _ => e_x0) fun x2 h1 => ?_
  refine e_if1 rfl rfl ?_ ?_
  · refine e_aload rfl rfl rfl ?_
    refine e_ivI rfl rfl rfl (Nat.le_of_ble_eq_true rfl) (fun _ _ => e_x0) fun x4 h3 => ?_
    refine e_if1 rfl rfl ?_ ?_
    · refine e_push rfl ?_
      exact e_wk mP_X3_back (ll_1 (ll_1 (ll_0 (ll_0 ll_n))))
    · refine e_push rfl ?_
      refine e_goto rfl ?_
      exact e_wk mP_X3_back (ll_1 (ll_1 (ll_0 (ll_0 ll_n))))
  · refine e_push rfl ?_
    refine e_goto rfl ?_
    exact e_wk mP_X3_back (ll_1 (ll_1 (ll_0 (ll_0 ll_n))))
noncomputable def B_X3_makesAnew_33 (K : ax_K) (v0 : Nat) (v1 : Int32) (v2 : Int32) (h : ax_H) : Option ax_R := ax_run K P_X3_makesAnew 33 [some (.ref v0), some (.int v1), some (.int v2)] [] h
theorem b_X3_makesAnew_33 {K : ax_K} {v0 : Nat} {v1 : Int32} {v2 : Int32} {h : ax_H}  : dx_le (if v1 ≤ v2 then some (.inl none, h) else (dx_vn [(38, 419)] (.ref v0) h).bind fun k => dx_cV (K k [.ref v0] h) (fun h1 => dx_lt (v2 + 1) fun x2 => B_X3_makesAnew_33 K v0 v1 x2 h1) dx_x0) (B_X3_makesAnew_33 K v0 v1 v2 h) := by
  show dx_le _ (ax_run K P_X3_makesAnew 33 [some (.ref v0), some (.int v1), some (.int v2)] [] h)
  refine e_iload rfl rfl ?_
  refine e_iload rfl rfl ?_
  refine e_if2 rfl rfl ?_ ?_
  · exact e_ret rfl
  · refine e_aload rfl rfl rfl ?_
    refine e_ivV rfl rfl rfl (Nat.le_of_ble_eq_true rfl) (fun _ _ => e_x0) fun h1 => ?_
    refine e_iinc (M := fun x2 => [some (.ref v0), some (.int v1), some (.int x2)]) rfl rfl (fun _ => dx_sto (Nat.le_of_ble_eq_true rfl) (Or.inr ⟨_, rfl, rfl⟩) rfl) fun x2 => ?_
    refine e_goto rfl ?_
    exact e_wk mP_X3_makesAnew (ll_1 (ll_1 (ll_1 ll_n)))
theorem m_X3_makesAnew {d : Nat} {v0 : Nat} {v1 : Int32} {h : ax_H}  : dx_le ((dx_gA [(38, 54)] (.ref v0) h).bind fun r1 => (dx_gA [(38, 50)] (.ref v0) h).bind fun r2 => dx_cV ((ax_c d) 409 [r1, r2] h) (fun h3 => (dx_gI [(38, 55)] (.ref v0) h3).bind fun x4 => (dx_pF [(38, 52)] (.int) (.ref v0) (.int x4) h3).bind fun h5 => (dx_gA [(38, 53)] (.ref v0) h5).bind fun r6 => (dx_vn [(38, 410)] (.ref v0) h5).bind fun k => dx_cV ((ax_c d) k [.ref v0, r6] h5) (fun h7 => (dx_vn [(38, 449)] (.ref v0) h7).bind fun k => dx_cV ((ax_c d) k [.ref v0] h7) (fun h8 => B_X3_makesAnew_33 (ax_c d) v0 v1 0 h8) dx_x0) dx_x0) dx_x0) (ax_c (d + 1) 452 [.ref v0, .int v1] h) := by
  refine e_entry (L' := [some (.ref v0), some (.int v1), none]) rfl (ag_A rfl (ag_I ag_n)) (Nat.le_of_ble_eq_true rfl) rfl ?_
  refine e_aload rfl rfl rfl ?_
  refine e_getA rfl fun r1 hr1 => ?_
  refine e_aload rfl rfl rfl ?_
  refine e_getA rfl fun r2 hr2 => ?_
  refine e_isV rfl (Nat.le_of_ble_eq_true rfl) rfl rfl (Nat.le_of_ble_eq_true rfl) (fun _ _ => e_x0) fun h3 => ?_
  refine e_aload rfl rfl rfl ?_
  refine e_aload rfl rfl rfl ?_
  refine e_getI rfl fun x4 => ?_
  refine e_putf rfl fun h5 => ?_
  refine e_aload rfl rfl rfl ?_
  refine e_aload rfl rfl rfl ?_
  refine e_getA rfl fun r6 hr6 => ?_
  refine e_ivV rfl rfl rfl (Nat.le_of_ble_eq_true rfl) (fun _ _ => e_x0) fun h7 => ?_
  refine e_aload rfl rfl rfl ?_
  refine e_ivV rfl rfl rfl (Nat.le_of_ble_eq_true rfl) (fun _ _ => e_x0) fun h8 => ?_
  refine e_push rfl ?_
  refine e_istore (L' := [some (.ref v0), some (.int v1), some (.int 0)]) rfl (dx_sto (Nat.le_of_ble_eq_true rfl) (Or.inr ⟨_, rfl, rfl⟩) rfl) ?_
  exact e_wk mP_X3_makesAnew (ll_1 (ll_1 (ll_1 ll_n)))
noncomputable def B_X3_press_37 (K : ax_K) (s0 : Nat) (s1 : Int32) (v0 : Nat) (v1 : Int32) (h : ax_H) : Option ax_R := ax_run K P_X3_press 37 [some (.ref v0), some (.int v1), none] [.int s1, .ref s0] h
noncomputable def B_X3_press_50 (K : ax_K) (v0 : Nat) (v1 : Int32) (v2 : Int32) (h : ax_H) : Option ax_R := ax_run K P_X3_press 50 [some (.ref v0), some (.int v1), some (.int v2)] [] h
noncomputable def B_X3_press_103 (K : ax_K) (v0 : Nat) (v1 : Int32) (v2 : Int32) (h : ax_H) : Option ax_R := ax_run K P_X3_press 103 [some (.ref v0), some (.int v1), some (.int v2)] [] h
theorem b_X3_press_37 {K : ax_K} {s0 : Nat} {s1 : Int32} {v0 : Nat} {v1 : Int32} {h : ax_H}  : dx_le ((dx_vn [(38, 378)] (.ref s0) h).bind fun k => dx_cI (K k [.ref s0, .int s1] h) (fun x2 h1 => if ¬ x2 = 0 then (dx_gI [(38, 43)] (.ref v0) h1).bind fun x3 => B_X3_press_50 K v0 v1 x3 h1 else some (.inl (some (.int 0)), h1)) dx_x0) (B_X3_press_37 K s0 s1 v0 v1 h) := by
  show dx_le _ (ax_run K P_X3_press 37 [some (.ref v0), some (.int v1), none] [.int s1, .ref s0] h)
  refine e_ivI rfl rfl rfl (Nat.le_of_ble_eq_true rfl) (fun _ _ => e_x0) fun x2 h1 => ?_
  refine e_if1 rfl rfl ?_ ?_
  · refine e_aload rfl rfl rfl ?_
    refine e_getI rfl fun x3 => ?_
    refine e_istore (L' := [some (.ref v0), some (.int v1), some (.int x3)]) rfl (dx_sto (Nat.le_of_ble_eq_true rfl) (Or.inr ⟨_, rfl, rfl⟩) rfl) ?_
    exact e_wk mP_X3_press (ll_1 (ll_1 (ll_1 ll_n)))
  · refine e_push rfl ?_
    exact e_iret rfl
theorem b_X3_press_50 {K : ax_K} {v0 : Nat} {v1 : Int32} {v2 : Int32} {h : ax_H}  : dx_le (if v2 ≤ 0 then B_X3_press_103 K v0 v1 v2 h else (dx_gA [(38, 41)] (.ref v0) h).bind fun r1 => (dx_lI 0 r1 (v2 - 1) h).bind fun x2 => (dx_gI [(38, 38)] (.ref v0) h).bind fun x3 => if x2 ≤ x3 then B_X3_press_103 K v0 v1 v2 h else (dx_gA [(38, 41)] (.ref v0) h).bind fun r4 => (dx_gA [(38, 41)] (.ref v0) h).bind fun r5 => (dx_lI 0 r5 (v2 - 1) h).bind fun x6 => (dx_sI 0 r4 v2 x6 h).bind fun h7 => (dx_gA [(38, 42)] (.ref v0) h7).bind fun r8 => (dx_gA [(38, 42)] (.ref v0) h7).bind fun r9 => (dx_lI 0 r9 (v2 - 1) h7).bind fun x10 => (dx_sI 0 r8 v2 x10 h7).bind fun h11 => dx_lt (v2 + (-1)) fun x12 => B_X3_press_50 K v0 v1 x12 h11) (B_X3_press_50 K v0 v1 v2 h) := by
  show dx_le _ (ax_run K P_X3_press 50 [some (.ref v0), some (.int v1), some (.int v2)] [] h)
  refine e_iload rfl rfl ?_
  refine e_if1 rfl rfl ?_ ?_
  · exact e_wk mP_X3_press (ll_1 (ll_1 (ll_1 ll_n)))
  · refine e_aload rfl rfl rfl ?_
    refine e_getA rfl fun r1 hr1 => ?_
    refine e_iload rfl rfl ?_
    refine e_push rfl ?_
    refine e_i2 rfl ?_
    refine e_iald rfl fun x2 => ?_
    refine e_aload rfl rfl rfl ?_
    refine e_getI rfl fun x3 => ?_
    refine e_if2 rfl rfl ?_ ?_
    · exact e_wk mP_X3_press (ll_1 (ll_1 (ll_1 ll_n)))
    · refine e_aload rfl rfl rfl ?_
      refine e_getA rfl fun r4 hr4 => ?_
      refine e_iload rfl rfl ?_
      refine e_aload rfl rfl rfl ?_
      refine e_getA rfl fun r5 hr5 => ?_
      refine e_iload rfl rfl ?_
      refine e_push rfl ?_
      refine e_i2 rfl ?_
      refine e_iald rfl fun x6 => ?_
      refine e_iastI rfl fun h7 => ?_
      refine e_aload rfl rfl rfl ?_
      refine e_getA rfl fun r8 hr8 => ?_
      refine e_iload rfl rfl ?_
      refine e_aload rfl rfl rfl ?_
      refine e_getA rfl fun r9 hr9 => ?_
      refine e_iload rfl rfl ?_
      refine e_push rfl ?_
      refine e_i2 rfl ?_
      refine e_iald rfl fun x10 => ?_
      refine e_iastI rfl fun h11 => ?_
      refine e_iinc (M := fun x12 => [some (.ref v0), some (.int v1), some (.int x12)]) rfl rfl (fun _ => dx_sto (Nat.le_of_ble_eq_true rfl) (Or.inr ⟨_, rfl, rfl⟩) rfl) fun x12 => ?_
      refine e_goto rfl ?_
      exact e_wk mP_X3_press (ll_1 (ll_1 (ll_1 ll_n)))
theorem b_X3_press_103 {K : ax_K} {v0 : Nat} {v1 : Int32} {v2 : Int32} {h : ax_H}  : dx_le ((dx_gA [(38, 41)] (.ref v0) h).bind fun r1 => (dx_gI [(38, 38)] (.ref v0) h).bind fun x2 => (dx_sI 0 r1 v2 x2 h).bind fun h3 => (dx_gA [(38, 42)] (.ref v0) h3).bind fun r4 => (dx_sI 0 r4 v2 v1 h3).bind fun h5 => (dx_gI [(38, 43)] (.ref v0) h5).bind fun x6 => (dx_pF [(38, 43)] (.int) (.ref v0) (.int (x6 + 1)) h5).bind fun h7 => (dx_pF [(38, 33)] (.boolean) (.ref v0) (.int 1) h7).bind fun h8 => (dx_gI [(38, 43)] (.ref v0) h8).bind fun x9 => some (.inl (some (.int x9)), h8)) (B_X3_press_103 K v0 v1 v2 h) := by
  show dx_le _ (ax_run K P_X3_press 103 [some (.ref v0), some (.int v1), some (.int v2)] [] h)
  refine e_aload rfl rfl rfl ?_
  refine e_getA rfl fun r1 hr1 => ?_
  refine e_iload rfl rfl ?_
  refine e_aload rfl rfl rfl ?_
  refine e_getI rfl fun x2 => ?_
  refine e_iastI rfl fun h3 => ?_
  refine e_aload rfl rfl rfl ?_
  refine e_getA rfl fun r4 hr4 => ?_
  refine e_iload rfl rfl ?_
  refine e_iload rfl rfl ?_
  refine e_iastI rfl fun h5 => ?_
  refine e_aload rfl rfl rfl ?_
  refine e_dup rfl rfl ?_
  refine e_getI rfl fun x6 => ?_
  refine e_push rfl ?_
  refine e_i2 rfl ?_
  refine e_putf rfl fun h7 => ?_
  refine e_aload rfl rfl rfl ?_
  refine e_push rfl ?_
  refine e_putf rfl fun h8 => ?_
  refine e_aload rfl rfl rfl ?_
  refine e_getI rfl fun x9 => ?_
  exact e_iret rfl
theorem m_X3_press {d : Nat} {v0 : Nat} {v1 : Int32} {h : ax_H}  : dx_le (dx_cI ((ax_c d) 376 [.int v1, .int 0, .int 65535] h) (fun x2 h1 => if ¬ x2 = 0 then (dx_gI [(38, 23)] (.ref v0) h1).bind fun x3 => if ¬ x3 = 1 then B_X3_press_37 (ax_c d) v0 2 v0 v1 h1 else (dx_gI [(38, 43)] (.ref v0) h1).bind fun x4 => if ¬ x4 = 20 then B_X3_press_37 (ax_c d) v0 0 v0 v1 h1 else B_X3_press_37 (ax_c d) v0 2 v0 v1 h1 else B_X3_press_37 (ax_c d) v0 1 v0 v1 h1) dx_x0) (ax_c (d + 1) 453 [.ref v0, .int v1] h) := by
  refine e_entry (L' := [some (.ref v0), some (.int v1), none]) rfl (ag_A rfl (ag_I ag_n)) (Nat.le_of_ble_eq_true rfl) rfl ?_
  refine e_aload rfl rfl rfl ?_
  refine e_iload rfl rfl ?_
  refine e_push rfl ?_
  refine e_push rfl ?_
  refine e_isI rfl (Nat.le_of_ble_eq_true rfl) rfl rfl (Nat.le_of_ble_eq_true rfl) (fun _ _ => e_x0) fun x2 h1 => ?_
  refine e_if1 rfl rfl ?_ ?_
  · refine e_aload rfl rfl rfl ?_
    refine e_getI rfl fun x3 => ?_
    refine e_push rfl ?_
    refine e_if2 rfl rfl ?_ ?_
    · refine e_push rfl ?_
      refine e_goto rfl ?_
      exact e_wk mP_X3_press (ll_1 (ll_1 (ll_0 ll_n)))
    · refine e_aload rfl rfl rfl ?_
      refine e_getI rfl fun x4 => ?_
      refine e_push rfl ?_
      refine e_if2 rfl rfl ?_ ?_
      · refine e_push rfl ?_
        exact e_wk mP_X3_press (ll_1 (ll_1 (ll_0 ll_n)))
      · refine e_push rfl ?_
        refine e_goto rfl ?_
        exact e_wk mP_X3_press (ll_1 (ll_1 (ll_0 ll_n)))
  · refine e_push rfl ?_
    refine e_goto rfl ?_
    exact e_wk mP_X3_press (ll_1 (ll_1 (ll_0 ll_n)))
theorem m_X3_state {d : Nat} {v0 : Nat} {h : ax_H}  : dx_le ((dx_pF [(38, 0)] (.int) (.ref v0) (.int 0) h).bind fun h1 => (dx_gI [(38, 23)] (.ref v0) h1).bind fun x2 => some (.inl (some (.int x2)), h1)) (ax_c (d + 1) 454 [.ref v0] h) := by
  refine e_entry (L' := [some (.ref v0)]) rfl (ag_A rfl ag_n) (Nat.le_of_ble_eq_true rfl) rfl ?_
  refine e_aload rfl rfl rfl ?_
  refine e_push rfl ?_
  refine e_putf rfl fun h1 => ?_
  refine e_aload rfl rfl rfl ?_
  refine e_getI rfl fun x2 => ?_
  exact e_iret rfl
theorem m_X3_fault {d : Nat} {v0 : Nat} {h : ax_H}  : dx_le ((dx_pF [(38, 0)] (.int) (.ref v0) (.int 0) h).bind fun h1 => (dx_gI [(38, 24)] (.ref v0) h1).bind fun x2 => some (.inl (some (.int x2)), h1)) (ax_c (d + 1) 455 [.ref v0] h) := by
  refine e_entry (L' := [some (.ref v0)]) rfl (ag_A rfl ag_n) (Nat.le_of_ble_eq_true rfl) rfl ?_
  refine e_aload rfl rfl rfl ?_
  refine e_push rfl ?_
  refine e_putf rfl fun h1 => ?_
  refine e_aload rfl rfl rfl ?_
  refine e_getI rfl fun x2 => ?_
  exact e_iret rfl
theorem m_X3_steps {d : Nat} {v0 : Nat} {h : ax_H}  : dx_le ((dx_pF [(38, 0)] (.int) (.ref v0) (.int 0) h).bind fun h1 => (dx_gI [(38, 38)] (.ref v0) h1).bind fun x2 => some (.inl (some (.int x2)), h1)) (ax_c (d + 1) 456 [.ref v0] h) := by
  refine e_entry (L' := [some (.ref v0)]) rfl (ag_A rfl ag_n) (Nat.le_of_ble_eq_true rfl) rfl ?_
  refine e_aload rfl rfl rfl ?_
  refine e_push rfl ?_
  refine e_putf rfl fun h1 => ?_
  refine e_aload rfl rfl rfl ?_
  refine e_getI rfl fun x2 => ?_
  exact e_iret rfl
theorem m_X3_kept {d : Nat} {v0 : Nat} {h : ax_H}  : dx_le ((dx_pF [(38, 0)] (.int) (.ref v0) (.int 0) h).bind fun h1 => (dx_gI [(38, 40)] (.ref v0) h1).bind fun x2 => some (.inl (some (.int x2)), h1)) (ax_c (d + 1) 457 [.ref v0] h) := by
  refine e_entry (L' := [some (.ref v0)]) rfl (ag_A rfl ag_n) (Nat.le_of_ble_eq_true rfl) rfl ?_
  refine e_aload rfl rfl rfl ?_
  refine e_push rfl ?_
  refine e_putf rfl fun h1 => ?_
  refine e_aload rfl rfl rfl ?_
  refine e_getI rfl fun x2 => ?_
  exact e_iret rfl
theorem m_X3_counter {d : Nat} {v0 : Nat} {h : ax_H}  : dx_le ((dx_pF [(38, 0)] (.int) (.ref v0) (.int 0) h).bind fun h1 => (dx_gI [(38, 27)] (.ref v0) h1).bind fun x2 => some (.inl (some (.int x2)), h1)) (ax_c (d + 1) 458 [.ref v0] h) := by
  refine e_entry (L' := [some (.ref v0)]) rfl (ag_A rfl ag_n) (Nat.le_of_ble_eq_true rfl) rfl ?_
  refine e_aload rfl rfl rfl ?_
  refine e_push rfl ?_
  refine e_putf rfl fun h1 => ?_
  refine e_aload rfl rfl rfl ?_
  refine e_getI rfl fun x2 => ?_
  exact e_iret rfl
theorem m_X3_stack {d : Nat} {v0 : Nat} {h : ax_H}  : dx_le ((dx_pF [(38, 0)] (.int) (.ref v0) (.int 0) h).bind fun h1 => (dx_gI [(38, 28)] (.ref v0) h1).bind fun x2 => some (.inl (some (.int x2)), h1)) (ax_c (d + 1) 459 [.ref v0] h) := by
  refine e_entry (L' := [some (.ref v0)]) rfl (ag_A rfl ag_n) (Nat.le_of_ble_eq_true rfl) rfl ?_
  refine e_aload rfl rfl rfl ?_
  refine e_push rfl ?_
  refine e_putf rfl fun h1 => ?_
  refine e_aload rfl rfl rfl ?_
  refine e_getI rfl fun x2 => ?_
  exact e_iret rfl
theorem m_X3_flags {d : Nat} {v0 : Nat} {h : ax_H}  : dx_le ((dx_pF [(38, 0)] (.int) (.ref v0) (.int 0) h).bind fun h1 => (dx_vn [(38, 461)] (.ref v0) h1).bind fun k => dx_cI ((ax_c d) k [.ref v0] h1) (fun x3 h2 => some (.inl (some (.int x3)), h2)) dx_x0) (ax_c (d + 1) 460 [.ref v0] h) := by
  refine e_entry (L' := [some (.ref v0)]) rfl (ag_A rfl ag_n) (Nat.le_of_ble_eq_true rfl) rfl ?_
  refine e_aload rfl rfl rfl ?_
  refine e_push rfl ?_
  refine e_putf rfl fun h1 => ?_
  refine e_aload rfl rfl rfl ?_
  refine e_ivI rfl rfl rfl (Nat.le_of_ble_eq_true rfl) (fun _ _ => e_x0) fun x3 h2 => ?_
  exact e_iret rfl
noncomputable def B_X3_flagsOf_24 (K : ax_K) (s0 : Int32) (s1 : Int32) (v0 : Nat) (h : ax_H) : Option ax_R := ax_run K P_X3_flagsOf 24 [some (.ref v0)] [.int s1, .int s0] h
noncomputable def B_X3_flagsOf_37 (K : ax_K) (s0 : Int32) (s1 : Int32) (v0 : Nat) (h : ax_H) : Option ax_R := ax_run K P_X3_flagsOf 37 [some (.ref v0)] [.int s1, .int s0] h
noncomputable def B_X3_flagsOf_51 (K : ax_K) (s0 : Int32) (s1 : Int32) (v0 : Nat) (h : ax_H) : Option ax_R := ax_run K P_X3_flagsOf 51 [some (.ref v0)] [.int s1, .int s0] h
theorem b_X3_flagsOf_24 {K : ax_K} {s0 : Int32} {s1 : Int32} {v0 : Nat} {h : ax_H}  : dx_le ((dx_gI [(38, 31)] (.ref v0) h).bind fun x1 => if x1 = 0 then B_X3_flagsOf_37 K (s0 + s1) 0 v0 h else B_X3_flagsOf_37 K (s0 + s1) 4 v0 h) (B_X3_flagsOf_24 K s0 s1 v0 h) := by
  show dx_le _ (ax_run K P_X3_flagsOf 24 [some (.ref v0)] [.int s1, .int s0] h)
  refine e_i2 rfl ?_
  refine e_aload rfl rfl rfl ?_
  refine e_getI rfl fun x1 => ?_
  refine e_if1 rfl rfl ?_ ?_
  · refine e_push rfl ?_
    exact e_wk mP_X3_flagsOf (ll_1 ll_n)
  · refine e_push rfl ?_
    refine e_goto rfl ?_
    exact e_wk mP_X3_flagsOf (ll_1 ll_n)
theorem b_X3_flagsOf_37 {K : ax_K} {s0 : Int32} {s1 : Int32} {v0 : Nat} {h : ax_H}  : dx_le ((dx_gI [(38, 32)] (.ref v0) h).bind fun x1 => if x1 = 0 then B_X3_flagsOf_51 K (s0 + s1) 0 v0 h else B_X3_flagsOf_51 K (s0 + s1) 8 v0 h) (B_X3_flagsOf_37 K s0 s1 v0 h) := by
  show dx_le _ (ax_run K P_X3_flagsOf 37 [some (.ref v0)] [.int s1, .int s0] h)
  refine e_i2 rfl ?_
  refine e_aload rfl rfl rfl ?_
  refine e_getI rfl fun x1 => ?_
  refine e_if1 rfl rfl ?_ ?_
  · refine e_push rfl ?_
    exact e_wk mP_X3_flagsOf (ll_1 ll_n)
  · refine e_push rfl ?_
    refine e_goto rfl ?_
    exact e_wk mP_X3_flagsOf (ll_1 ll_n)
theorem b_X3_flagsOf_51 {K : ax_K} {s0 : Int32} {s1 : Int32} {v0 : Nat} {h : ax_H}  : dx_le ((dx_gI [(38, 33)] (.ref v0) h).bind fun x1 => if x1 = 0 then some (.inl (some (.int ((s0 + s1) + 0))), h) else some (.inl (some (.int ((s0 + s1) + 16))), h)) (B_X3_flagsOf_51 K s0 s1 v0 h) := by
  show dx_le _ (ax_run K P_X3_flagsOf 51 [some (.ref v0)] [.int s1, .int s0] h)
  refine e_i2 rfl ?_
  refine e_aload rfl rfl rfl ?_
  refine e_getI rfl fun x1 => ?_
  refine e_if1 rfl rfl ?_ ?_
  · refine e_push rfl ?_
    refine e_i2 rfl ?_
    exact e_iret rfl
  · refine e_push rfl ?_
    refine e_goto rfl ?_
    refine e_i2 rfl ?_
    exact e_iret rfl
theorem m_X3_flagsOf {d : Nat} {v0 : Nat} {h : ax_H}  : dx_le ((dx_gI [(38, 29)] (.ref v0) h).bind fun x1 => if x1 = 0 then (dx_gI [(38, 30)] (.ref v0) h).bind fun x2 => if x2 = 0 then B_X3_flagsOf_24 (ax_c d) 0 0 v0 h else B_X3_flagsOf_24 (ax_c d) 0 2 v0 h else (dx_gI [(38, 30)] (.ref v0) h).bind fun x3 => if x3 = 0 then B_X3_flagsOf_24 (ax_c d) 1 0 v0 h else B_X3_flagsOf_24 (ax_c d) 1 2 v0 h) (ax_c (d + 1) 461 [.ref v0] h) := by
  refine e_entry (L' := [some (.ref v0)]) rfl (ag_A rfl ag_n) (Nat.le_of_ble_eq_true rfl) rfl ?_
  refine e_aload rfl rfl rfl ?_
  refine e_getI rfl fun x1 => ?_
  refine e_if1 rfl rfl ?_ ?_
  · refine e_push rfl ?_
    refine e_aload rfl rfl rfl ?_
    refine e_getI rfl fun x2 => ?_
    refine e_if1 rfl rfl ?_ ?_
    · refine e_push rfl ?_
      exact e_wk mP_X3_flagsOf (ll_1 ll_n)
    · refine e_push rfl ?_
      refine e_goto rfl ?_
      exact e_wk mP_X3_flagsOf (ll_1 ll_n)
  · refine e_push rfl ?_
    refine e_goto rfl ?_
    refine e_aload rfl rfl rfl ?_
    refine e_getI rfl fun x3 => ?_
    refine e_if1 rfl rfl ?_ ?_
    · refine e_push rfl ?_
      exact e_wk mP_X3_flagsOf (ll_1 ll_n)
    · refine e_push rfl ?_
      refine e_goto rfl ?_
      exact e_wk mP_X3_flagsOf (ll_1 ll_n)
theorem m_X3_writesLeft {d : Nat} {v0 : Nat} {h : ax_H}  : dx_le ((dx_pF [(38, 0)] (.int) (.ref v0) (.int 0) h).bind fun h1 => (dx_gI [(38, 46)] (.ref v0) h1).bind fun x2 => some (.inl (some (.int x2)), h1)) (ax_c (d + 1) 462 [.ref v0] h) := by
  refine e_entry (L' := [some (.ref v0)]) rfl (ag_A rfl ag_n) (Nat.le_of_ble_eq_true rfl) rfl ?_
  refine e_aload rfl rfl rfl ?_
  refine e_push rfl ?_
  refine e_putf rfl fun h1 => ?_
  refine e_aload rfl rfl rfl ?_
  refine e_getI rfl fun x2 => ?_
  exact e_iret rfl
noncomputable def B_X3_register_15 (K : ax_K) (s0 : Nat) (s1 : Int32) (v0 : Nat) (v1 : Int32) (h : ax_H) : Option ax_R := ax_run K P_X3_register 15 [some (.ref v0), some (.int v1)] [.int s1, .ref s0] h
theorem b_X3_register_15 {K : ax_K} {s0 : Nat} {s1 : Int32} {v0 : Nat} {v1 : Int32} {h : ax_H}  : dx_le ((dx_vn [(38, 378)] (.ref s0) h).bind fun k => dx_cI (K k [.ref s0, .int s1] h) (fun x2 h1 => if x2 = 0 then some (.inl (some (.int 0)), h1) else (dx_gA [(38, 26)] (.ref v0) h1).bind fun r3 => (dx_lI 0 r3 v1 h1).bind fun x4 => some (.inl (some (.int x4)), h1)) dx_x0) (B_X3_register_15 K s0 s1 v0 v1 h) := by
  show dx_le _ (ax_run K P_X3_register 15 [some (.ref v0), some (.int v1)] [.int s1, .ref s0] h)
  refine e_ivI rfl rfl rfl (Nat.le_of_ble_eq_true rfl) (fun _ _ => e_x0) fun x2 h1 => ?_
  refine e_if1 rfl rfl ?_ ?_
  · refine e_push rfl ?_
    exact e_iret rfl
  · refine e_aload rfl rfl rfl ?_
    refine e_getA rfl fun r3 hr3 => ?_
    refine e_iload rfl rfl ?_
    refine e_iald rfl fun x4 => ?_
    refine e_goto rfl ?_
    exact e_iret rfl
theorem m_X3_register {d : Nat} {v0 : Nat} {v1 : Int32} {h : ax_H}  : dx_le (dx_cI ((ax_c d) 376 [.int v1, .int 0, .int 3] h) (fun x2 h1 => if x2 = 0 then B_X3_register_15 (ax_c d) v0 1 v0 v1 h1 else B_X3_register_15 (ax_c d) v0 0 v0 v1 h1) dx_x0) (ax_c (d + 1) 463 [.ref v0, .int v1] h) := by
  refine e_entry (L' := [some (.ref v0), some (.int v1)]) rfl (ag_A rfl (ag_I ag_n)) (Nat.le_of_ble_eq_true rfl) rfl ?_
  refine e_aload rfl rfl rfl ?_
  refine e_iload rfl rfl ?_
  refine e_push rfl ?_
  refine e_push rfl ?_
  refine e_isI rfl (Nat.le_of_ble_eq_true rfl) rfl rfl (Nat.le_of_ble_eq_true rfl) (fun _ _ => e_x0) fun x2 h1 => ?_
  refine e_if1 rfl rfl ?_ ?_
  · refine e_push rfl ?_
    exact e_wk mP_X3_register (ll_1 (ll_1 ll_n))
  · refine e_push rfl ?_
    refine e_goto rfl ?_
    exact e_wk mP_X3_register (ll_1 (ll_1 ll_n))
noncomputable def B_X3_memory_13 (K : ax_K) (s0 : Nat) (s1 : Int32) (v0 : Nat) (v1 : Int32) (h : ax_H) : Option ax_R := ax_run K P_X3_memory 13 [some (.ref v0), some (.int v1)] [.int s1, .ref s0] h
theorem b_X3_memory_13 {K : ax_K} {s0 : Nat} {s1 : Int32} {v0 : Nat} {v1 : Int32} {h : ax_H}  : dx_le ((dx_vn [(38, 378)] (.ref s0) h).bind fun k => dx_cI (K k [.ref s0, .int s1] h) (fun x2 h1 => if x2 = 0 then some (.inl (some (.int 0)), h1) else (dx_gA [(38, 25)] (.ref v0) h1).bind fun r3 => (dx_lI 0 r3 v1 h1).bind fun x4 => some (.inl (some (.int x4)), h1)) dx_x0) (B_X3_memory_13 K s0 s1 v0 v1 h) := by
  show dx_le _ (ax_run K P_X3_memory 13 [some (.ref v0), some (.int v1)] [.int s1, .ref s0] h)
  refine e_ivI rfl rfl rfl (Nat.le_of_ble_eq_true rfl) (fun _ _ => e_x0) fun x2 h1 => ?_
  refine e_if1 rfl rfl ?_ ?_
  · refine e_push rfl ?_
    exact e_iret rfl
  · refine e_aload rfl rfl rfl ?_
    refine e_getA rfl fun r3 hr3 => ?_
    refine e_iload rfl rfl ?_
    refine e_iald rfl fun x4 => ?_
    refine e_goto rfl ?_
    exact e_iret rfl
theorem m_X3_memory {d : Nat} {v0 : Nat} {v1 : Int32} {h : ax_H}  : dx_le (dx_cI ((ax_c d) 465 [.int v1] h) (fun x2 h1 => if x2 = 0 then B_X3_memory_13 (ax_c d) v0 1 v0 v1 h1 else B_X3_memory_13 (ax_c d) v0 0 v0 v1 h1) dx_x0) (ax_c (d + 1) 464 [.ref v0, .int v1] h) := by
  refine e_entry (L' := [some (.ref v0), some (.int v1)]) rfl (ag_A rfl (ag_I ag_n)) (Nat.le_of_ble_eq_true rfl) rfl ?_
  refine e_aload rfl rfl rfl ?_
  refine e_iload rfl rfl ?_
  refine e_isI rfl (Nat.le_of_ble_eq_true rfl) rfl rfl (Nat.le_of_ble_eq_true rfl) (fun _ _ => e_x0) fun x2 h1 => ?_
  refine e_if1 rfl rfl ?_ ?_
  · refine e_push rfl ?_
    exact e_wk mP_X3_memory (ll_1 (ll_1 ll_n))
  · refine e_push rfl ?_
    refine e_goto rfl ?_
    exact e_wk mP_X3_memory (ll_1 (ll_1 ll_n))
theorem m_X3_isAddress {d : Nat} {v0 : Int32} {h : ax_H}  : dx_le (dx_cI ((ax_c d) 376 [.int v0, .int 0, .int 255] h) (fun x2 h1 => if x2 = 0 ∨ x2 = 1 then some (.inl (some (.int x2)), h1) else none) dx_x0) (ax_c (d + 1) 465 [.int v0] h) := by
  refine e_entry (L' := [some (.int v0)]) rfl (ag_I ag_n) (Nat.le_of_ble_eq_true rfl) rfl ?_
  refine e_iload rfl rfl ?_
  refine e_push rfl ?_
  refine e_push rfl ?_
  refine e_isI rfl (Nat.le_of_ble_eq_true rfl) rfl rfl (Nat.le_of_ble_eq_true rfl) (fun _ _ => e_x0) fun x2 h1 => ?_
  exact e_zret rfl
noncomputable def B_X3_changedAt_13 (K : ax_K) (s0 : Nat) (s1 : Int32) (v0 : Nat) (v1 : Int32) (h : ax_H) : Option ax_R := ax_run K P_X3_changedAt 13 [some (.ref v0), some (.int v1), none] [.int s1, .ref s0] h
noncomputable def B_X3_changedAt_28 (K : ax_K) (v0 : Nat) (v1 : Int32) (v2 : Int32) (h : ax_H) : Option ax_R := ax_run K P_X3_changedAt 28 [some (.ref v0), some (.int v1), some (.int v2)] [] h
theorem b_X3_changedAt_13 {K : ax_K} {s0 : Nat} {s1 : Int32} {v0 : Nat} {v1 : Int32} {h : ax_H}  : dx_le ((dx_vn [(38, 378)] (.ref s0) h).bind fun k => dx_cI (K k [.ref s0, .int s1] h) (fun x2 h1 => if ¬ x2 = 0 then (dx_gI [(38, 38)] (.ref v0) h1).bind fun x3 => dx_lt (x3 - 1) fun x4 => B_X3_changedAt_28 K v0 v1 x4 h1 else some (.inl (some (.int 0)), h1)) dx_x0) (B_X3_changedAt_13 K s0 s1 v0 v1 h) := by
  show dx_le _ (ax_run K P_X3_changedAt 13 [some (.ref v0), some (.int v1), none] [.int s1, .ref s0] h)
  refine e_ivI rfl rfl rfl (Nat.le_of_ble_eq_true rfl) (fun _ _ => e_x0) fun x2 h1 => ?_
  refine e_if1 rfl rfl ?_ ?_
  · refine e_aload rfl rfl rfl ?_
    refine e_getI rfl fun x3 => ?_
    refine e_push rfl ?_
    refine e_i2 rfl ?_
    refine e_istoreL (M := fun x4 => [some (.ref v0), some (.int v1), some (.int x4)]) rfl (fun _ => dx_sto (Nat.le_of_ble_eq_true rfl) (Or.inr ⟨_, rfl, rfl⟩) rfl) fun x4 => ?_
    exact e_wk mP_X3_changedAt (ll_1 (ll_1 (ll_1 ll_n)))
  · refine e_push rfl ?_
    exact e_iret rfl
theorem b_X3_changedAt_28 {K : ax_K} {v0 : Nat} {v1 : Int32} {v2 : Int32} {h : ax_H}  : dx_le ((dx_gI [(38, 38)] (.ref v0) h).bind fun x1 => (dx_gI [(38, 40)] (.ref v0) h).bind fun x2 => if v2 < (x1 - x2) then some (.inl (some (.int (-1))), h) else (dx_gA [(38, 44)] (.ref v0) h).bind fun r3 => (dx_lI 0 r3 v2 h).bind fun x4 => if x4 = v1 then some (.inl (some (.int v2)), h) else (dx_gA [(38, 45)] (.ref v0) h).bind fun r5 => (dx_lI 0 r5 v2 h).bind fun x6 => if ¬ x6 = v1 then dx_lt (v2 + (-1)) fun x7 => B_X3_changedAt_28 K v0 v1 x7 h else some (.inl (some (.int v2)), h)) (B_X3_changedAt_28 K v0 v1 v2 h) := by
  show dx_le _ (ax_run K P_X3_changedAt 28 [some (.ref v0), some (.int v1), some (.int v2)] [] h)
  refine e_iload rfl rfl ?_
  refine e_aload rfl rfl rfl ?_
  refine e_getI rfl fun x1 => ?_
  refine e_aload rfl rfl rfl ?_
  refine e_getI rfl fun x2 => ?_
  refine e_i2 rfl ?_
  refine e_if2 rfl rfl ?_ ?_
  · refine e_push rfl ?_
    exact e_iret rfl
  · refine e_aload rfl rfl rfl ?_
    refine e_getA rfl fun r3 hr3 => ?_
    refine e_iload rfl rfl ?_
    refine e_iald rfl fun x4 => ?_
    refine e_iload rfl rfl ?_
    refine e_if2 rfl rfl ?_ ?_
    · refine e_iload rfl rfl ?_
      exact e_iret rfl
    · refine e_aload rfl rfl rfl ?_
      refine e_getA rfl fun r5 hr5 => ?_
      refine e_iload rfl rfl ?_
      refine e_iald rfl fun x6 => ?_
      refine e_iload rfl rfl ?_
      refine e_if2 rfl rfl ?_ ?_
      · refine e_iinc (M := fun x7 => [some (.ref v0), some (.int v1), some (.int x7)]) rfl rfl (fun _ => dx_sto (Nat.le_of_ble_eq_true rfl) (Or.inr ⟨_, rfl, rfl⟩) rfl) fun x7 => ?_
        refine e_goto rfl ?_
        exact e_wk mP_X3_changedAt (ll_1 (ll_1 (ll_1 ll_n)))
      · refine e_iload rfl rfl ?_
        exact e_iret rfl
theorem m_X3_changedAt {d : Nat} {v0 : Nat} {v1 : Int32} {h : ax_H}  : dx_le (dx_cI ((ax_c d) 465 [.int v1] h) (fun x2 h1 => if x2 = 0 then B_X3_changedAt_13 (ax_c d) v0 1 v0 v1 h1 else B_X3_changedAt_13 (ax_c d) v0 0 v0 v1 h1) dx_x0) (ax_c (d + 1) 466 [.ref v0, .int v1] h) := by
  refine e_entry (L' := [some (.ref v0), some (.int v1), none]) rfl (ag_A rfl (ag_I ag_n)) (Nat.le_of_ble_eq_true rfl) rfl ?_
  refine e_aload rfl rfl rfl ?_
  refine e_iload rfl rfl ?_
  refine e_isI rfl (Nat.le_of_ble_eq_true rfl) rfl rfl (Nat.le_of_ble_eq_true rfl) (fun _ _ => e_x0) fun x2 h1 => ?_
  refine e_if1 rfl rfl ?_ ?_
  · refine e_push rfl ?_
    exact e_wk mP_X3_changedAt (ll_1 (ll_1 (ll_0 ll_n)))
  · refine e_push rfl ?_
    refine e_goto rfl ?_
    exact e_wk mP_X3_changedAt (ll_1 (ll_1 (ll_0 ll_n)))
theorem m_X3_tape {d : Nat} {v0 : Nat} {h : ax_H}  : dx_le ((dx_pF [(38, 0)] (.int) (.ref v0) (.int 0) h).bind fun h1 => (dx_gI [(38, 37)] (.ref v0) h1).bind fun x2 => some (.inl (some (.int x2)), h1)) (ax_c (d + 1) 467 [.ref v0] h) := by
  refine e_entry (L' := [some (.ref v0)]) rfl (ag_A rfl ag_n) (Nat.le_of_ble_eq_true rfl) rfl ?_
  refine e_aload rfl rfl rfl ?_
  refine e_push rfl ?_
  refine e_putf rfl fun h1 => ?_
  refine e_aload rfl rfl rfl ?_
  refine e_getI rfl fun x2 => ?_
  exact e_iret rfl
noncomputable def B_X3_tapeAt_20 (K : ax_K) (s0 : Nat) (s1 : Int32) (v0 : Nat) (v1 : Int32) (h : ax_H) : Option ax_R := ax_run K P_X3_tapeAt 20 [some (.ref v0), some (.int v1)] [.int s1, .ref s0] h
theorem b_X3_tapeAt_20 {K : ax_K} {s0 : Nat} {s1 : Int32} {v0 : Nat} {v1 : Int32} {h : ax_H}  : dx_le ((dx_vn [(38, 378)] (.ref s0) h).bind fun k => dx_cI (K k [.ref s0, .int s1] h) (fun x2 h1 => if x2 = 0 then some (.inl (some (.int 0)), h1) else (dx_gA [(38, 36)] (.ref v0) h1).bind fun r3 => (dx_lI 0 r3 v1 h1).bind fun x4 => some (.inl (some (.int x4)), h1)) dx_x0) (B_X3_tapeAt_20 K s0 s1 v0 v1 h) := by
  show dx_le _ (ax_run K P_X3_tapeAt 20 [some (.ref v0), some (.int v1)] [.int s1, .ref s0] h)
  refine e_ivI rfl rfl rfl (Nat.le_of_ble_eq_true rfl) (fun _ _ => e_x0) fun x2 h1 => ?_
  refine e_if1 rfl rfl ?_ ?_
  · refine e_push rfl ?_
    exact e_iret rfl
  · refine e_aload rfl rfl rfl ?_
    refine e_getA rfl fun r3 hr3 => ?_
    refine e_iload rfl rfl ?_
    refine e_iald rfl fun x4 => ?_
    refine e_goto rfl ?_
    exact e_iret rfl
theorem m_X3_tapeAt {d : Nat} {v0 : Nat} {v1 : Int32} {h : ax_H}  : dx_le ((dx_gI [(38, 37)] (.ref v0) h).bind fun x1 => dx_cI ((ax_c d) 376 [.int v1, .int 0, .int (x1 - 1)] h) (fun x3 h2 => if x3 = 0 then B_X3_tapeAt_20 (ax_c d) v0 1 v0 v1 h2 else B_X3_tapeAt_20 (ax_c d) v0 0 v0 v1 h2) dx_x0) (ax_c (d + 1) 468 [.ref v0, .int v1] h) := by
  refine e_entry (L' := [some (.ref v0), some (.int v1)]) rfl (ag_A rfl (ag_I ag_n)) (Nat.le_of_ble_eq_true rfl) rfl ?_
  refine e_aload rfl rfl rfl ?_
  refine e_iload rfl rfl ?_
  refine e_push rfl ?_
  refine e_aload rfl rfl rfl ?_
  refine e_getI rfl fun x1 => ?_
  refine e_push rfl ?_
  refine e_i2 rfl ?_
  refine e_isI rfl (Nat.le_of_ble_eq_true rfl) rfl rfl (Nat.le_of_ble_eq_true rfl) (fun _ _ => e_x0) fun x3 h2 => ?_
  refine e_if1 rfl rfl ?_ ?_
  · refine e_push rfl ?_
    exact e_wk mP_X3_tapeAt (ll_1 (ll_1 ll_n))
  · refine e_push rfl ?_
    refine e_goto rfl ?_
    exact e_wk mP_X3_tapeAt (ll_1 (ll_1 ll_n))
theorem m_X3_sum {d : Nat} {v0 : Nat} {h : ax_H}  : dx_le ((dx_pF [(38, 0)] (.int) (.ref v0) (.int 0) h).bind fun h1 => (dx_vn [(38, 470)] (.ref v0) h1).bind fun k => dx_cI ((ax_c d) k [.ref v0] h1) (fun x3 h2 => some (.inl (some (.int x3)), h2)) dx_x0) (ax_c (d + 1) 469 [.ref v0] h) := by
  refine e_entry (L' := [some (.ref v0)]) rfl (ag_A rfl ag_n) (Nat.le_of_ble_eq_true rfl) rfl ?_
  refine e_aload rfl rfl rfl ?_
  refine e_push rfl ?_
  refine e_putf rfl fun h1 => ?_
  refine e_aload rfl rfl rfl ?_
  refine e_ivI rfl rfl rfl (Nat.le_of_ble_eq_true rfl) (fun _ _ => e_x0) fun x3 h2 => ?_
  exact e_iret rfl
noncomputable def B_X3_sumOf_63 (K : ax_K) (v0 : Nat) (v1 : Int32) (v2 : Int32) (h : ax_H) : Option ax_R := ax_run K P_X3_sumOf 63 [some (.ref v0), some (.int v1), some (.int v2)] [] h
noncomputable def B_X3_sumOf_96 (K : ax_K) (v0 : Nat) (v1 : Int32) (v2 : Int32) (h : ax_H) : Option ax_R := ax_run K P_X3_sumOf 96 [some (.ref v0), some (.int v1), some (.int v2)] [] h
noncomputable def B_X3_sumOf_122 (K : ax_K) (v0 : Nat) (v1 : Int32) (v2 : Int32) (h : ax_H) : Option ax_R := ax_run K P_X3_sumOf 122 [some (.ref v0), some (.int v1), some (.int v2)] [] h
noncomputable def B_X3_sumOf_157 (K : ax_K) (v0 : Nat) (v1 : Int32) (v2 : Int32) (h : ax_H) : Option ax_R := ax_run K P_X3_sumOf 157 [some (.ref v0), some (.int v1), some (.int v2)] [] h
theorem b_X3_sumOf_63 {K : ax_K} {v0 : Nat} {v1 : Int32} {v2 : Int32} {h : ax_H}  : dx_le (if (4 : Int32) ≤ v2 then (dx_gI [(38, 46)] (.ref v0) h).bind fun x1 => dx_cI (K 471 [.int v1, .int x1] h) (fun x3 h2 => B_X3_sumOf_96 K v0 x3 0 h2) dx_x0 else (dx_gA [(38, 26)] (.ref v0) h).bind fun r4 => (dx_lI 0 r4 v2 h).bind fun x5 => dx_cI (K 471 [.int v1, .int x5] h) (fun x7 h6 => dx_lt (v2 + 1) fun x8 => B_X3_sumOf_63 K v0 x7 x8 h6) dx_x0) (B_X3_sumOf_63 K v0 v1 v2 h) := by
  show dx_le _ (ax_run K P_X3_sumOf 63 [some (.ref v0), some (.int v1), some (.int v2)] [] h)
  refine e_iload rfl rfl ?_
  refine e_push rfl ?_
  refine e_if2 rfl rfl ?_ ?_
  · refine e_iload rfl rfl ?_
    refine e_aload rfl rfl rfl ?_
    refine e_getI rfl fun x1 => ?_
    refine e_isI rfl (Nat.le_of_ble_eq_true rfl) rfl rfl (Nat.le_of_ble_eq_true rfl) (fun _ _ => e_x0) fun x3 h2 => ?_
    refine e_istore (L' := [some (.ref v0), some (.int x3), some (.int v2)]) rfl (dx_sto (Nat.le_of_ble_eq_true rfl) (Or.inr ⟨_, rfl, rfl⟩) rfl) ?_
    refine e_push rfl ?_
    refine e_istore (L' := [some (.ref v0), some (.int x3), some (.int 0)]) rfl (dx_sto (Nat.le_of_ble_eq_true rfl) (Or.inr ⟨_, rfl, rfl⟩) rfl) ?_
    exact e_wk mP_X3_sumOf (ll_1 (ll_1 (ll_1 ll_n)))
  · refine e_iload rfl rfl ?_
    refine e_aload rfl rfl rfl ?_
    refine e_getA rfl fun r4 hr4 => ?_
    refine e_iload rfl rfl ?_
    refine e_iald rfl fun x5 => ?_
    refine e_isI rfl (Nat.le_of_ble_eq_true rfl) rfl rfl (Nat.le_of_ble_eq_true rfl) (fun _ _ => e_x0) fun x7 h6 => ?_
    refine e_istore (L' := [some (.ref v0), some (.int x7), some (.int v2)]) rfl (dx_sto (Nat.le_of_ble_eq_true rfl) (Or.inr ⟨_, rfl, rfl⟩) rfl) ?_
    refine e_iinc (M := fun x8 => [some (.ref v0), some (.int x7), some (.int x8)]) rfl rfl (fun _ => dx_sto (Nat.le_of_ble_eq_true rfl) (Or.inr ⟨_, rfl, rfl⟩) rfl) fun x8 => ?_
    refine e_goto rfl ?_
    exact e_wk mP_X3_sumOf (ll_1 (ll_1 (ll_1 ll_n)))
theorem b_X3_sumOf_96 {K : ax_K} {v0 : Nat} {v1 : Int32} {v2 : Int32} {h : ax_H}  : dx_le (if (256 : Int32) ≤ v2 then B_X3_sumOf_122 K v0 v1 0 h else (dx_gA [(38, 25)] (.ref v0) h).bind fun r1 => (dx_lI 0 r1 v2 h).bind fun x2 => dx_cI (K 471 [.int v1, .int x2] h) (fun x4 h3 => dx_lt (v2 + 1) fun x5 => B_X3_sumOf_96 K v0 x4 x5 h3) dx_x0) (B_X3_sumOf_96 K v0 v1 v2 h) := by
  show dx_le _ (ax_run K P_X3_sumOf 96 [some (.ref v0), some (.int v1), some (.int v2)] [] h)
  refine e_iload rfl rfl ?_
  refine e_push rfl ?_
  refine e_if2 rfl rfl ?_ ?_
  · refine e_push rfl ?_
    refine e_istore (L' := [some (.ref v0), some (.int v1), some (.int 0)]) rfl (dx_sto (Nat.le_of_ble_eq_true rfl) (Or.inr ⟨_, rfl, rfl⟩) rfl) ?_
    exact e_wk mP_X3_sumOf (ll_1 (ll_1 (ll_1 ll_n)))
  · refine e_iload rfl rfl ?_
    refine e_aload rfl rfl rfl ?_
    refine e_getA rfl fun r1 hr1 => ?_
    refine e_iload rfl rfl ?_
    refine e_iald rfl fun x2 => ?_
    refine e_isI rfl (Nat.le_of_ble_eq_true rfl) rfl rfl (Nat.le_of_ble_eq_true rfl) (fun _ _ => e_x0) fun x4 h3 => ?_
    refine e_istore (L' := [some (.ref v0), some (.int x4), some (.int v2)]) rfl (dx_sto (Nat.le_of_ble_eq_true rfl) (Or.inr ⟨_, rfl, rfl⟩) rfl) ?_
    refine e_iinc (M := fun x5 => [some (.ref v0), some (.int x4), some (.int x5)]) rfl rfl (fun _ => dx_sto (Nat.le_of_ble_eq_true rfl) (Or.inr ⟨_, rfl, rfl⟩) rfl) fun x5 => ?_
    refine e_goto rfl ?_
    exact e_wk mP_X3_sumOf (ll_1 (ll_1 (ll_1 ll_n)))
theorem b_X3_sumOf_122 {K : ax_K} {v0 : Nat} {v1 : Int32} {v2 : Int32} {h : ax_H}  : dx_le (if (256 : Int32) ≤ v2 then (dx_gI [(38, 37)] (.ref v0) h).bind fun x1 => dx_cI (K 471 [.int v1, .int x1] h) (fun x3 h2 => B_X3_sumOf_157 K v0 x3 0 h2) dx_x0 else (dx_gA [(38, 50)] (.ref v0) h).bind fun r4 => (dx_lI 0 r4 v2 h).bind fun x5 => dx_cI (K 471 [.int v1, .int x5] h) (fun x7 h6 => dx_lt (v2 + 1) fun x8 => B_X3_sumOf_122 K v0 x7 x8 h6) dx_x0) (B_X3_sumOf_122 K v0 v1 v2 h) := by
  show dx_le _ (ax_run K P_X3_sumOf 122 [some (.ref v0), some (.int v1), some (.int v2)] [] h)
  refine e_iload rfl rfl ?_
  refine e_push rfl ?_
  refine e_if2 rfl rfl ?_ ?_
  · refine e_iload rfl rfl ?_
    refine e_aload rfl rfl rfl ?_
    refine e_getI rfl fun x1 => ?_
    refine e_isI rfl (Nat.le_of_ble_eq_true rfl) rfl rfl (Nat.le_of_ble_eq_true rfl) (fun _ _ => e_x0) fun x3 h2 => ?_
    refine e_istore (L' := [some (.ref v0), some (.int x3), some (.int v2)]) rfl (dx_sto (Nat.le_of_ble_eq_true rfl) (Or.inr ⟨_, rfl, rfl⟩) rfl) ?_
    refine e_push rfl ?_
    refine e_istore (L' := [some (.ref v0), some (.int x3), some (.int 0)]) rfl (dx_sto (Nat.le_of_ble_eq_true rfl) (Or.inr ⟨_, rfl, rfl⟩) rfl) ?_
    exact e_wk mP_X3_sumOf (ll_1 (ll_1 (ll_1 ll_n)))
  · refine e_iload rfl rfl ?_
    refine e_aload rfl rfl rfl ?_
    refine e_getA rfl fun r4 hr4 => ?_
    refine e_iload rfl rfl ?_
    refine e_iald rfl fun x5 => ?_
    refine e_isI rfl (Nat.le_of_ble_eq_true rfl) rfl rfl (Nat.le_of_ble_eq_true rfl) (fun _ _ => e_x0) fun x7 h6 => ?_
    refine e_istore (L' := [some (.ref v0), some (.int x7), some (.int v2)]) rfl (dx_sto (Nat.le_of_ble_eq_true rfl) (Or.inr ⟨_, rfl, rfl⟩) rfl) ?_
    refine e_iinc (M := fun x8 => [some (.ref v0), some (.int x7), some (.int x8)]) rfl rfl (fun _ => dx_sto (Nat.le_of_ble_eq_true rfl) (Or.inr ⟨_, rfl, rfl⟩) rfl) fun x8 => ?_
    refine e_goto rfl ?_
    exact e_wk mP_X3_sumOf (ll_1 (ll_1 (ll_1 ll_n)))
theorem b_X3_sumOf_157 {K : ax_K} {v0 : Nat} {v1 : Int32} {v2 : Int32} {h : ax_H}  : dx_le ((dx_gI [(38, 37)] (.ref v0) h).bind fun x1 => if x1 ≤ v2 then some (.inl (some (.int v1)), h) else (dx_gA [(38, 36)] (.ref v0) h).bind fun r2 => (dx_lI 0 r2 v2 h).bind fun x3 => dx_cI (K 471 [.int v1, .int x3] h) (fun x5 h4 => dx_lt (v2 + 1) fun x6 => B_X3_sumOf_157 K v0 x5 x6 h4) dx_x0) (B_X3_sumOf_157 K v0 v1 v2 h) := by
  show dx_le _ (ax_run K P_X3_sumOf 157 [some (.ref v0), some (.int v1), some (.int v2)] [] h)
  refine e_iload rfl rfl ?_
  refine e_aload rfl rfl rfl ?_
  refine e_getI rfl fun x1 => ?_
  refine e_if2 rfl rfl ?_ ?_
  · refine e_iload rfl rfl ?_
    exact e_iret rfl
  · refine e_iload rfl rfl ?_
    refine e_aload rfl rfl rfl ?_
    refine e_getA rfl fun r2 hr2 => ?_
    refine e_iload rfl rfl ?_
    refine e_iald rfl fun x3 => ?_
    refine e_isI rfl (Nat.le_of_ble_eq_true rfl) rfl rfl (Nat.le_of_ble_eq_true rfl) (fun _ _ => e_x0) fun x5 h4 => ?_
    refine e_istore (L' := [some (.ref v0), some (.int x5), some (.int v2)]) rfl (dx_sto (Nat.le_of_ble_eq_true rfl) (Or.inr ⟨_, rfl, rfl⟩) rfl) ?_
    refine e_iinc (M := fun x6 => [some (.ref v0), some (.int x5), some (.int x6)]) rfl rfl (fun _ => dx_sto (Nat.le_of_ble_eq_true rfl) (Or.inr ⟨_, rfl, rfl⟩) rfl) fun x6 => ?_
    refine e_goto rfl ?_
    exact e_wk mP_X3_sumOf (ll_1 (ll_1 (ll_1 ll_n)))
theorem m_X3_sumOf {d : Nat} {v0 : Nat} {h : ax_H}  : dx_le ((dx_gI [(38, 23)] (.ref v0) h).bind fun x1 => dx_cI ((ax_c d) 471 [.int 7, .int x1] h) (fun x3 h2 => (dx_gI [(38, 24)] (.ref v0) h2).bind fun x4 => dx_cI ((ax_c d) 471 [.int x3, .int x4] h2) (fun x6 h5 => (dx_gI [(38, 38)] (.ref v0) h5).bind fun x7 => dx_cI ((ax_c d) 471 [.int x6, .int x7] h5) (fun x9 h8 => (dx_gI [(38, 27)] (.ref v0) h8).bind fun x10 => dx_cI ((ax_c d) 471 [.int x9, .int x10] h8) (fun x12 h11 => (dx_gI [(38, 28)] (.ref v0) h11).bind fun x13 => dx_cI ((ax_c d) 471 [.int x12, .int x13] h11) (fun x15 h14 => (dx_vn [(38, 461)] (.ref v0) h14).bind fun k => dx_cI ((ax_c d) k [.ref v0] h14) (fun x17 h16 => dx_cI ((ax_c d) 471 [.int x15, .int x17] h16) (fun x19 h18 => (dx_gI [(38, 34)] (.ref v0) h18).bind fun x20 => dx_cI ((ax_c d) 471 [.int x19, .int x20] h18) (fun x22 h21 => (dx_gI [(38, 35)] (.ref v0) h21).bind fun x23 => dx_cI ((ax_c d) 471 [.int x22, .int x23] h21) (fun x25 h24 => B_X3_sumOf_63 (ax_c d) v0 x25 0 h24) dx_x0) dx_x0) dx_x0) dx_x0) dx_x0) dx_x0) dx_x0) dx_x0) dx_x0) (ax_c (d + 1) 470 [.ref v0] h) := by
  refine e_entry (L' := [some (.ref v0), none, none]) rfl (ag_A rfl ag_n) (Nat.le_of_ble_eq_true rfl) rfl ?_
  refine e_push rfl ?_
  refine e_aload rfl rfl rfl ?_
  refine e_getI rfl fun x1 => ?_
  refine e_isI rfl (Nat.le_of_ble_eq_true rfl) rfl rfl (Nat.le_of_ble_eq_true rfl) (fun _ _ => e_x0) fun x3 h2 => ?_
  refine e_aload rfl rfl rfl ?_
  refine e_getI rfl fun x4 => ?_
  refine e_isI rfl (Nat.le_of_ble_eq_true rfl) rfl rfl (Nat.le_of_ble_eq_true rfl) (fun _ _ => e_x0) fun x6 h5 => ?_
  refine e_aload rfl rfl rfl ?_
  refine e_getI rfl fun x7 => ?_
  refine e_isI rfl (Nat.le_of_ble_eq_true rfl) rfl rfl (Nat.le_of_ble_eq_true rfl) (fun _ _ => e_x0) fun x9 h8 => ?_
  refine e_aload rfl rfl rfl ?_
  refine e_getI rfl fun x10 => ?_
  refine e_isI rfl (Nat.le_of_ble_eq_true rfl) rfl rfl (Nat.le_of_ble_eq_true rfl) (fun _ _ => e_x0) fun x12 h11 => ?_
  refine e_istore (L' := [some (.ref v0), some (.int x12), none]) rfl (dx_sto (Nat.le_of_ble_eq_true rfl) (Or.inr ⟨_, rfl, rfl⟩) rfl) ?_
  refine e_iload rfl rfl ?_
  refine e_aload rfl rfl rfl ?_
  refine e_getI rfl fun x13 => ?_
  refine e_isI rfl (Nat.le_of_ble_eq_true rfl) rfl rfl (Nat.le_of_ble_eq_true rfl) (fun _ _ => e_x0) fun x15 h14 => ?_
  refine e_aload rfl rfl rfl ?_
  refine e_ivI rfl rfl rfl (Nat.le_of_ble_eq_true rfl) (fun _ _ => e_x0) fun x17 h16 => ?_
  refine e_isI rfl (Nat.le_of_ble_eq_true rfl) rfl rfl (Nat.le_of_ble_eq_true rfl) (fun _ _ => e_x0) fun x19 h18 => ?_
  refine e_aload rfl rfl rfl ?_
  refine e_getI rfl fun x20 => ?_
  refine e_isI rfl (Nat.le_of_ble_eq_true rfl) rfl rfl (Nat.le_of_ble_eq_true rfl) (fun _ _ => e_x0) fun x22 h21 => ?_
  refine e_aload rfl rfl rfl ?_
  refine e_getI rfl fun x23 => ?_
  refine e_isI rfl (Nat.le_of_ble_eq_true rfl) rfl rfl (Nat.le_of_ble_eq_true rfl) (fun _ _ => e_x0) fun x25 h24 => ?_
  refine e_istore (L' := [some (.ref v0), some (.int x25), none]) rfl (dx_sto (Nat.le_of_ble_eq_true rfl) (Or.inr ⟨_, rfl, rfl⟩) rfl) ?_
  refine e_push rfl ?_
  refine e_istore (L' := [some (.ref v0), some (.int x25), some (.int 0)]) rfl (dx_sto (Nat.le_of_ble_eq_true rfl) (Or.inr ⟨_, rfl, rfl⟩) rfl) ?_
  exact e_wk mP_X3_sumOf (ll_1 (ll_1 (ll_1 ll_n)))
theorem m_X3_added {d : Nat} {v0 : Int32} {v1 : Int32} {h : ax_H}  : dx_le (some (.inl (some (.int (Int64.toInt32 (dx_lrem ((31 * (Int32.toInt64 v0)) + (Int32.toInt64 v1)) 1000003)))), h)) (ax_c (d + 1) 471 [.int v0, .int v1] h) := by
  refine e_entry (L' := [some (.int v0), some (.int v1)]) rfl (ag_I (ag_I ag_n)) (Nat.le_of_ble_eq_true rfl) rfl ?_
  refine e_push rfl ?_
  refine e_iload rfl rfl ?_
  refine e_i2l rfl ?_
  refine e_l2 rfl ?_
  refine e_iload rfl rfl ?_
  refine e_i2l rfl ?_
  refine e_l2 rfl ?_
  refine e_push rfl ?_
  refine e_lrem rfl (by decide) ?_
  refine e_l2i rfl ?_
  exact e_iret rfl
noncomputable def B_X3_sumAnew_29 (K : ax_K) (s0 : Nat) (s1 : Int32) (v0 : Nat) (v1 : Int32) (h : ax_H) : Option ax_R := ax_run K P_X3_sumAnew 29 [some (.ref v0), some (.int v1), none, none] [.int s1, .ref s0] h
theorem b_X3_sumAnew_29 {K : ax_K} {s0 : Nat} {s1 : Int32} {v0 : Nat} {v1 : Int32} {h : ax_H}  : dx_le ((dx_vn [(38, 378)] (.ref s0) h).bind fun k => dx_cI (K k [.ref s0, .int s1] h) (fun x2 h1 => if ¬ x2 = 0 then (dx_gI [(38, 38)] (.ref v0) h1).bind fun x3 => (dx_vn [(38, 452)] (.ref v0) h1).bind fun k => dx_cV (K k [.ref v0, .int v1] h1) (fun h4 => (dx_vn [(38, 470)] (.ref v0) h4).bind fun k => dx_cI (K k [.ref v0] h4) (fun x6 h5 => (dx_vn [(38, 452)] (.ref v0) h5).bind fun k => dx_cV (K k [.ref v0, .int x3] h5) (fun h7 => some (.inl (some (.int x6)), h7)) dx_x0) dx_x0) dx_x0 else some (.inl (some (.int 0)), h1)) dx_x0) (B_X3_sumAnew_29 K s0 s1 v0 v1 h) := by
  show dx_le _ (ax_run K P_X3_sumAnew 29 [some (.ref v0), some (.int v1), none, none] [.int s1, .ref s0] h)
  refine e_ivI rfl rfl rfl (Nat.le_of_ble_eq_true rfl) (fun _ _ => e_x0) fun x2 h1 => ?_
  refine e_if1 rfl rfl ?_ ?_
  · refine e_aload rfl rfl rfl ?_
    refine e_getI rfl fun x3 => ?_
    refine e_istore (L' := [some (.ref v0), some (.int v1), some (.int x3), none]) rfl (dx_sto (Nat.le_of_ble_eq_true rfl) (Or.inr ⟨_, rfl, rfl⟩) rfl) ?_
    refine e_aload rfl rfl rfl ?_
    refine e_iload rfl rfl ?_
    refine e_ivV rfl rfl rfl (Nat.le_of_ble_eq_true rfl) (fun _ _ => e_x0) fun h4 => ?_
    refine e_aload rfl rfl rfl ?_
    refine e_ivI rfl rfl rfl (Nat.le_of_ble_eq_true rfl) (fun _ _ => e_x0) fun x6 h5 => ?_
    refine e_istore (L' := [some (.ref v0), some (.int v1), some (.int x3), some (.int x6)]) rfl (dx_sto (Nat.le_of_ble_eq_true rfl) (Or.inr ⟨_, rfl, rfl⟩) rfl) ?_
    refine e_aload rfl rfl rfl ?_
    refine e_iload rfl rfl ?_
    refine e_ivV rfl rfl rfl (Nat.le_of_ble_eq_true rfl) (fun _ _ => e_x0) fun h7 => ?_
    refine e_iload rfl rfl ?_
    exact e_iret rfl
  · refine e_push rfl ?_
    exact e_iret rfl
theorem m_X3_sumAnew {d : Nat} {v0 : Nat} {v1 : Int32} {h : ax_H}  : dx_le ((dx_vn [(38, 405)] (.ref v0) h).bind fun k => dx_cI ((ax_c d) k [.ref v0] h) (fun x2 h1 => if ¬ x2 = 0 then (dx_gI [(38, 38)] (.ref v0) h1).bind fun x3 => dx_cI ((ax_c d) 376 [.int v1, .int 0, .int x3] h1) (fun x5 h4 => if x5 = 0 then B_X3_sumAnew_29 (ax_c d) v0 2 v0 v1 h4 else B_X3_sumAnew_29 (ax_c d) v0 0 v0 v1 h4) dx_x0 else B_X3_sumAnew_29 (ax_c d) v0 1 v0 v1 h1) dx_x0) (ax_c (d + 1) 472 [.ref v0, .int v1] h) := by
  refine e_entry (L' := [some (.ref v0), some (.int v1), none, none]) rfl (ag_A rfl (ag_I ag_n)) (Nat.le_of_ble_eq_true rfl) rfl ?_
  refine e_aload rfl rfl rfl ?_
  refine e_aload rfl rfl rfl ?_
  refine e_ivI rfl rfl rfl (Nat.le_of_ble_eq_true rfl) (fun _ _ => e_x0) fun x2 h1 => ?_
  refine e_if1 rfl rfl ?_ ?_
  · refine e_iload rfl rfl ?_
    refine e_push rfl ?_
    refine e_aload rfl rfl rfl ?_
    refine e_getI rfl fun x3 => ?_
    refine e_isI rfl (Nat.le_of_ble_eq_true rfl) rfl rfl (Nat.le_of_ble_eq_true rfl) (fun _ _ => e_x0) fun x5 h4 => ?_
    refine e_if1 rfl rfl ?_ ?_
    · refine e_push rfl ?_
      exact e_wk mP_X3_sumAnew (ll_1 (ll_1 (ll_0 (ll_0 ll_n))))
    · refine e_push rfl ?_
      refine e_goto rfl ?_
      exact e_wk mP_X3_sumAnew (ll_1 (ll_1 (ll_0 (ll_0 ll_n))))
  · refine e_push rfl ?_
    refine e_goto rfl ?_
    exact e_wk mP_X3_sumAnew (ll_1 (ll_1 (ll_0 (ll_0 ll_n))))
theorem m_X3_written {d : Nat} {v0 : Nat} {h : ax_H}  : dx_le ((dx_pF [(38, 0)] (.int) (.ref v0) (.int 0) h).bind fun h1 => (dx_gI [(38, 52)] (.ref v0) h1).bind fun x2 => some (.inl (some (.int x2)), h1)) (ax_c (d + 1) 473 [.ref v0] h) := by
  refine e_entry (L' := [some (.ref v0)]) rfl (ag_A rfl ag_n) (Nat.le_of_ble_eq_true rfl) rfl ?_
  refine e_aload rfl rfl rfl ?_
  refine e_push rfl ?_
  refine e_putf rfl fun h1 => ?_
  refine e_aload rfl rfl rfl ?_
  refine e_getI rfl fun x2 => ?_
  exact e_iret rfl
noncomputable def B_X3_disk_26 (K : ax_K) (s0 : Nat) (s1 : Int32) (v0 : Nat) (v1 : Int32) (v2 : Int32) (h : ax_H) : Option ax_R := ax_run K P_X3_disk 26 [some (.ref v0), some (.int v1), some (.int v2)] [.int s1, .ref s0] h
theorem b_X3_disk_26 {K : ax_K} {s0 : Nat} {s1 : Int32} {v0 : Nat} {v1 : Int32} {v2 : Int32} {h : ax_H}  : dx_le ((dx_vn [(38, 378)] (.ref s0) h).bind fun k => dx_cI (K k [.ref s0, .int s1] h) (fun x2 h1 => if x2 = 0 then some (.inl (some (.int 0)), h1) else (dx_gA [(38, 50)] (.ref v0) h1).bind fun r3 => (dx_lI 0 r3 ((8 * v1) + v2) h1).bind fun x4 => some (.inl (some (.int x4)), h1)) dx_x0) (B_X3_disk_26 K s0 s1 v0 v1 v2 h) := by
  show dx_le _ (ax_run K P_X3_disk 26 [some (.ref v0), some (.int v1), some (.int v2)] [.int s1, .ref s0] h)
  refine e_ivI rfl rfl rfl (Nat.le_of_ble_eq_true rfl) (fun _ _ => e_x0) fun x2 h1 => ?_
  refine e_if1 rfl rfl ?_ ?_
  · refine e_push rfl ?_
    exact e_iret rfl
  · refine e_aload rfl rfl rfl ?_
    refine e_getA rfl fun r3 hr3 => ?_
    refine e_push rfl ?_
    refine e_iload rfl rfl ?_
    refine e_i2 rfl ?_
    refine e_iload rfl rfl ?_
    refine e_i2 rfl ?_
    refine e_iald rfl fun x4 => ?_
    refine e_goto rfl ?_
    exact e_iret rfl
theorem m_X3_disk {d : Nat} {v0 : Nat} {v1 : Int32} {v2 : Int32} {h : ax_H}  : dx_le (dx_cI ((ax_c d) 376 [.int v1, .int 0, .int 31] h) (fun x2 h1 => if x2 = 0 then B_X3_disk_26 (ax_c d) v0 1 v0 v1 v2 h1 else dx_cI ((ax_c d) 376 [.int v2, .int 0, .int 7] h1) (fun x4 h3 => if x4 = 0 then B_X3_disk_26 (ax_c d) v0 1 v0 v1 v2 h3 else B_X3_disk_26 (ax_c d) v0 0 v0 v1 v2 h3) dx_x0) dx_x0) (ax_c (d + 1) 474 [.ref v0, .int v1, .int v2] h) := by
  refine e_entry (L' := [some (.ref v0), some (.int v1), some (.int v2)]) rfl (ag_A rfl (ag_I (ag_I ag_n))) (Nat.le_of_ble_eq_true rfl) rfl ?_
  refine e_aload rfl rfl rfl ?_
  refine e_iload rfl rfl ?_
  refine e_push rfl ?_
  refine e_push rfl ?_
  refine e_isI rfl (Nat.le_of_ble_eq_true rfl) rfl rfl (Nat.le_of_ble_eq_true rfl) (fun _ _ => e_x0) fun x2 h1 => ?_
  refine e_if1 rfl rfl ?_ ?_
  · refine e_push rfl ?_
    exact e_wk mP_X3_disk (ll_1 (ll_1 (ll_1 ll_n)))
  · refine e_iload rfl rfl ?_
    refine e_push rfl ?_
    refine e_push rfl ?_
    refine e_isI rfl (Nat.le_of_ble_eq_true rfl) rfl rfl (Nat.le_of_ble_eq_true rfl) (fun _ _ => e_x0) fun x4 h3 => ?_
    refine e_if1 rfl rfl ?_ ?_
    · refine e_push rfl ?_
      exact e_wk mP_X3_disk (ll_1 (ll_1 (ll_1 ll_n)))
    · refine e_push rfl ?_
      refine e_goto rfl ?_
      exact e_wk mP_X3_disk (ll_1 (ll_1 (ll_1 ll_n)))
theorem m_X3_files {d : Nat} {v0 : Nat} {h : ax_H}  : dx_le ((dx_pF [(38, 0)] (.int) (.ref v0) (.int 0) h).bind fun h1 => (dx_vn [(38, 414)] (.ref v0) h1).bind fun k => dx_cI ((ax_c d) k [.ref v0] h1) (fun x3 h2 => some (.inl (some (.int x3)), h2)) dx_x0) (ax_c (d + 1) 475 [.ref v0] h) := by
  refine e_entry (L' := [some (.ref v0)]) rfl (ag_A rfl ag_n) (Nat.le_of_ble_eq_true rfl) rfl ?_
  refine e_aload rfl rfl rfl ?_
  refine e_push rfl ?_
  refine e_putf rfl fun h1 => ?_
  refine e_aload rfl rfl rfl ?_
  refine e_ivI rfl rfl rfl (Nat.le_of_ble_eq_true rfl) (fun _ _ => e_x0) fun x3 h2 => ?_
  exact e_iret rfl
theorem m_X3_size {d : Nat} {v0 : Nat} {v1 : Int32} {h : ax_H}  : dx_le ((dx_vn [(38, 477)] (.ref v0) h).bind fun k => dx_cI ((ax_c d) k [.ref v0, .int v1] h) (fun x2 h1 => (dx_vn [(38, 378)] (.ref v0) h1).bind fun k => dx_cI ((ax_c d) k [.ref v0, .int x2] h1) (fun x4 h3 => if x4 = 0 then some (.inl (some (.int 0)), h3) else (dx_gA [(38, 50)] (.ref v0) h3).bind fun r5 => (dx_gA [(38, 50)] (.ref v0) h3).bind fun r6 => dx_cI ((ax_c d) 435 [r6, .int v1] h3) (fun x8 h7 => dx_cI ((ax_c d) 415 [.int x8] h7) (fun x10 h9 => (dx_lI 0 r5 (x10 + 1) h9).bind fun x11 => some (.inl (some (.int x11)), h9)) dx_x0) dx_x0) dx_x0) dx_x0) (ax_c (d + 1) 476 [.ref v0, .int v1] h) := by
  refine e_entry (L' := [some (.ref v0), some (.int v1)]) rfl (ag_A rfl (ag_I ag_n)) (Nat.le_of_ble_eq_true rfl) rfl ?_
  refine e_aload rfl rfl rfl ?_
  refine e_aload rfl rfl rfl ?_
  refine e_iload rfl rfl ?_
  refine e_ivI rfl rfl rfl (Nat.le_of_ble_eq_true rfl) (fun _ _ => e_x0) fun x2 h1 => ?_
  refine e_ivI rfl rfl rfl (Nat.le_of_ble_eq_true rfl) (fun _ _ => e_x0) fun x4 h3 => ?_
  refine e_if1 rfl rfl ?_ ?_
  · refine e_push rfl ?_
    exact e_iret rfl
  · refine e_aload rfl rfl rfl ?_
    refine e_getA rfl fun r5 hr5 => ?_
    refine e_aload rfl rfl rfl ?_
    refine e_getA rfl fun r6 hr6 => ?_
    refine e_iload rfl rfl ?_
    refine e_isI rfl (Nat.le_of_ble_eq_true rfl) rfl rfl (Nat.le_of_ble_eq_true rfl) (fun _ _ => e_x0) fun x8 h7 => ?_
    refine e_isI rfl (Nat.le_of_ble_eq_true rfl) rfl rfl (Nat.le_of_ble_eq_true rfl) (fun _ _ => e_x0) fun x10 h9 => ?_
    refine e_push rfl ?_
    refine e_i2 rfl ?_
    refine e_iald rfl fun x11 => ?_
    refine e_goto rfl ?_
    exact e_iret rfl
theorem m_X3_errorOfName {d : Nat} {v0 : Nat} {v1 : Int32} {h : ax_H}  : dx_le (dx_cI ((ax_c d) 376 [.int v1, .int 1, .int 65535] h) (fun x2 h1 => if ¬ x2 = 0 then (dx_gA [(38, 50)] (.ref v0) h1).bind fun r3 => dx_cI ((ax_c d) 435 [r3, .int v1] h1) (fun x5 h4 => if ¬ x5 = (-1) then some (.inl (some (.int 0)), h4) else some (.inl (some (.int 2)), h4)) dx_x0 else some (.inl (some (.int 1)), h1)) dx_x0) (ax_c (d + 1) 477 [.ref v0, .int v1] h) := by
  refine e_entry (L' := [some (.ref v0), some (.int v1)]) rfl (ag_A rfl (ag_I ag_n)) (Nat.le_of_ble_eq_true rfl) rfl ?_
  refine e_iload rfl rfl ?_
  refine e_push rfl ?_
  refine e_push rfl ?_
  refine e_isI rfl (Nat.le_of_ble_eq_true rfl) rfl rfl (Nat.le_of_ble_eq_true rfl) (fun _ _ => e_x0) fun x2 h1 => ?_
  refine e_if1 rfl rfl ?_ ?_
  · refine e_aload rfl rfl rfl ?_
    refine e_getA rfl fun r3 hr3 => ?_
    refine e_iload rfl rfl ?_
    refine e_isI rfl (Nat.le_of_ble_eq_true rfl) rfl rfl (Nat.le_of_ble_eq_true rfl) (fun _ _ => e_x0) fun x5 h4 => ?_
    refine e_push rfl ?_
    refine e_if2 rfl rfl ?_ ?_
    · refine e_push rfl ?_
      exact e_iret rfl
    · refine e_push rfl ?_
      refine e_goto rfl ?_
      exact e_iret rfl
  · refine e_push rfl ?_
    refine e_goto rfl ?_
    exact e_iret rfl
noncomputable def B_X3_wordOf_52 (K : ax_K) (s0 : Nat) (s1 : Int32) (v0 : Nat) (v2 : Int32) (v4 : Int32) (h : ax_H) : Option ax_R := ax_run K P_X3_wordOf 52 [some (.ref v0), none, some (.int v2), none, some (.int v4)] [.int s1, .ref s0] h
theorem b_X3_wordOf_52 {K : ax_K} {s0 : Nat} {s1 : Int32} {v0 : Nat} {v2 : Int32} {v4 : Int32} {h : ax_H}  : dx_le ((dx_vn [(38, 378)] (.ref s0) h).bind fun k => dx_cI (K k [.ref s0, .int s1] h) (fun x2 h1 => if ¬ x2 = 0 then (dx_gA [(38, 50)] (.ref v0) h1).bind fun r3 => (dx_gA [(38, 50)] (.ref v0) h1).bind fun r4 => (dx_vn [(38, 439)] (.ref v0) h1).bind fun k => dx_cI (K k [.ref v0, r4, .int v4, .int v2] h1) (fun x6 h5 => (dx_lI 0 r3 ((8 * x6) + (dx_rem v2 8)) h5).bind fun x7 => some (.inl (some (.int x7)), h5)) dx_x0 else some (.inl (some (.int 0)), h1)) dx_x0) (B_X3_wordOf_52 K s0 s1 v0 v2 v4 h) := by
  show dx_le _ (ax_run K P_X3_wordOf 52 [some (.ref v0), none, some (.int v2), none, some (.int v4)] [.int s1, .ref s0] h)
  refine e_ivI rfl rfl rfl (Nat.le_of_ble_eq_true rfl) (fun _ _ => e_x0) fun x2 h1 => ?_
  refine e_if1 rfl rfl ?_ ?_
  · refine e_aload rfl rfl rfl ?_
    refine e_getA rfl fun r3 hr3 => ?_
    refine e_push rfl ?_
    refine e_aload rfl rfl rfl ?_
    refine e_aload rfl rfl rfl ?_
    refine e_getA rfl fun r4 hr4 => ?_
    refine e_iload rfl rfl ?_
    refine e_iload rfl rfl ?_
    refine e_ivI rfl rfl rfl (Nat.le_of_ble_eq_true rfl) (fun _ _ => e_x0) fun x6 h5 => ?_
    refine e_i2 rfl ?_
    refine e_iload rfl rfl ?_
    refine e_push rfl ?_
    refine e_rem rfl (by decide) ?_
    refine e_i2 rfl ?_
    refine e_iald rfl fun x7 => ?_
    exact e_iret rfl
  · refine e_push rfl ?_
    exact e_iret rfl
theorem m_X3_wordOf {d : Nat} {v0 : Nat} {v1 : Int32} {v2 : Int32} {h : ax_H}  : dx_le ((dx_vn [(38, 477)] (.ref v0) h).bind fun k => dx_cI ((ax_c d) k [.ref v0, .int v1] h) (fun x2 h1 => (dx_gA [(38, 50)] (.ref v0) h1).bind fun r3 => dx_cI ((ax_c d) 435 [r3, .int v1] h1) (fun x5 h4 => if x2 = 0 then (dx_gA [(38, 50)] (.ref v0) h4).bind fun r6 => dx_cI ((ax_c d) 415 [.int x5] h4) (fun x8 h7 => (dx_lI 0 r6 (x8 + 1) h7).bind fun x9 => dx_cI ((ax_c d) 376 [.int v2, .int 0, .int (x9 - 1)] h7) (fun x11 h10 => if x11 = 0 then B_X3_wordOf_52 (ax_c d) v0 3 v0 v2 x5 h10 else B_X3_wordOf_52 (ax_c d) v0 0 v0 v2 x5 h10) dx_x0) dx_x0 else B_X3_wordOf_52 (ax_c d) v0 x2 v0 v2 x5 h4) dx_x0) dx_x0) (ax_c (d + 1) 478 [.ref v0, .int v1, .int v2] h) := by
  refine e_entry (L' := [some (.ref v0), some (.int v1), some (.int v2), none, none]) rfl (ag_A rfl (ag_I (ag_I ag_n))) (Nat.le_of_ble_eq_true rfl) rfl ?_
  refine e_aload rfl rfl rfl ?_
  refine e_iload rfl rfl ?_
  refine e_ivI rfl rfl rfl (Nat.le_of_ble_eq_true rfl) (fun _ _ => e_x0) fun x2 h1 => ?_
  refine e_istore (L' := [some (.ref v0), some (.int v1), some (.int v2), some (.int x2), none]) rfl (dx_sto (Nat.le_of_ble_eq_true rfl) (Or.inr ⟨_, rfl, rfl⟩) rfl) ?_
  refine e_aload rfl rfl rfl ?_
  refine e_getA rfl fun r3 hr3 => ?_
  refine e_iload rfl rfl ?_
  refine e_isI rfl (Nat.le_of_ble_eq_true rfl) rfl rfl (Nat.le_of_ble_eq_true rfl) (fun _ _ => e_x0) fun x5 h4 => ?_
  refine e_istore (L' := [some (.ref v0), some (.int v1), some (.int v2), some (.int x2), some (.int x5)]) rfl (dx_sto (Nat.le_of_ble_eq_true rfl) (Or.inr ⟨_, rfl, rfl⟩) rfl) ?_
  refine e_aload rfl rfl rfl ?_
  refine e_iload rfl rfl ?_
  refine e_if1 rfl rfl ?_ ?_
  · refine e_iload rfl rfl ?_
    refine e_push rfl ?_
    refine e_aload rfl rfl rfl ?_
    refine e_getA rfl fun r6 hr6 => ?_
    refine e_iload rfl rfl ?_
    refine e_isI rfl (Nat.le_of_ble_eq_true rfl) rfl rfl (Nat.le_of_ble_eq_true rfl) (fun _ _ => e_x0) fun x8 h7 => ?_
    refine e_push rfl ?_
    refine e_i2 rfl ?_
    refine e_iald rfl fun x9 => ?_
    refine e_push rfl ?_
    refine e_i2 rfl ?_
    refine e_isI rfl (Nat.le_of_ble_eq_true rfl) rfl rfl (Nat.le_of_ble_eq_true rfl) (fun _ _ => e_x0) fun x11 h10 => ?_
    refine e_if1 rfl rfl ?_ ?_
    · refine e_push rfl ?_
      exact e_wk mP_X3_wordOf (ll_1 (ll_0 (ll_1 (ll_0 (ll_1 ll_n)))))
    · refine e_push rfl ?_
      refine e_goto rfl ?_
      exact e_wk mP_X3_wordOf (ll_1 (ll_0 (ll_1 (ll_0 (ll_1 ll_n)))))
  · refine e_iload rfl rfl ?_
    refine e_goto rfl ?_
    exact e_wk mP_X3_wordOf (ll_1 (ll_0 (ll_1 (ll_0 (ll_1 ll_n)))))
noncomputable def B_X3_freeBlocks_10 (K : ax_K) (v0 : Nat) (v1 : Int32) (v2 : Int32) (h : ax_H) : Option ax_R := ax_run K P_X3_freeBlocks 10 [some (.ref v0), some (.int v1), some (.int v2)] [] h
theorem b_X3_freeBlocks_10 {K : ax_K} {v0 : Nat} {v1 : Int32} {v2 : Int32} {h : ax_H}  : dx_le (if (32 : Int32) ≤ v2 then some (.inl (some (.int v1)), h) else (dx_gA [(38, 50)] (.ref v0) h).bind fun r1 => dx_cI (K 438 [r1, .int v2] h) (fun x3 h2 => if x3 = 0 then dx_lt (v1 + 1) fun x4 => dx_lt (v2 + 1) fun x5 => B_X3_freeBlocks_10 K v0 x4 x5 h2 else dx_lt (v1 + 0) fun x6 => dx_lt (v2 + 1) fun x7 => B_X3_freeBlocks_10 K v0 x6 x7 h2) dx_x0) (B_X3_freeBlocks_10 K v0 v1 v2 h) := by
  show dx_le _ (ax_run K P_X3_freeBlocks 10 [some (.ref v0), some (.int v1), some (.int v2)] [] h)
  refine e_iload rfl rfl ?_
  refine e_push rfl ?_
  refine e_if2 rfl rfl ?_ ?_
  · refine e_iload rfl rfl ?_
    exact e_iret rfl
  · refine e_iload rfl rfl ?_
    refine e_aload rfl rfl rfl ?_
    refine e_getA rfl fun r1 hr1 => ?_
    refine e_iload rfl rfl ?_
    refine e_isI rfl (Nat.le_of_ble_eq_true rfl) rfl rfl (Nat.le_of_ble_eq_true rfl) (fun _ _ => e_x0) fun x3 h2 => ?_
    refine e_if1 rfl rfl ?_ ?_
    · refine e_push rfl ?_
      refine e_i2 rfl ?_
      refine e_istoreL (M := fun x4 => [some (.ref v0), some (.int x4), some (.int v2)]) rfl (fun _ => dx_sto (Nat.le_of_ble_eq_true rfl) (Or.inr ⟨_, rfl, rfl⟩) rfl) fun x4 => ?_
      refine e_iinc (M := fun x5 => [some (.ref v0), some (.int x4), some (.int x5)]) rfl rfl (fun _ => dx_sto (Nat.le_of_ble_eq_true rfl) (Or.inr ⟨_, rfl, rfl⟩) rfl) fun x5 => ?_
      refine e_goto rfl ?_
      exact e_wk mP_X3_freeBlocks (ll_1 (ll_1 (ll_1 ll_n)))
    · refine e_push rfl ?_
      refine e_goto rfl ?_
      refine e_i2 rfl ?_
      refine e_istoreL (M := fun x6 => [some (.ref v0), some (.int x6), some (.int v2)]) rfl (fun _ => dx_sto (Nat.le_of_ble_eq_true rfl) (Or.inr ⟨_, rfl, rfl⟩) rfl) fun x6 => ?_
      refine e_iinc (M := fun x7 => [some (.ref v0), some (.int x6), some (.int x7)]) rfl rfl (fun _ => dx_sto (Nat.le_of_ble_eq_true rfl) (Or.inr ⟨_, rfl, rfl⟩) rfl) fun x7 => ?_
      refine e_goto rfl ?_
      exact e_wk mP_X3_freeBlocks (ll_1 (ll_1 (ll_1 ll_n)))
theorem m_X3_freeBlocks {d : Nat} {v0 : Nat} {h : ax_H}  : dx_le ((dx_pF [(38, 0)] (.int) (.ref v0) (.int 0) h).bind fun h1 => B_X3_freeBlocks_10 (ax_c d) v0 0 8 h1) (ax_c (d + 1) 479 [.ref v0] h) := by
  refine e_entry (L' := [some (.ref v0), none, none]) rfl (ag_A rfl ag_n) (Nat.le_of_ble_eq_true rfl) rfl ?_
  refine e_aload rfl rfl rfl ?_
  refine e_push rfl ?_
  refine e_putf rfl fun h1 => ?_
  refine e_push rfl ?_
  refine e_istore (L' := [some (.ref v0), some (.int 0), none]) rfl (dx_sto (Nat.le_of_ble_eq_true rfl) (Or.inr ⟨_, rfl, rfl⟩) rfl) ?_
  refine e_push rfl ?_
  refine e_istore (L' := [some (.ref v0), some (.int 0), some (.int 8)]) rfl (dx_sto (Nat.le_of_ble_eq_true rfl) (Or.inr ⟨_, rfl, rfl⟩) rfl) ?_
  exact e_wk mP_X3_freeBlocks (ll_1 (ll_1 (ll_1 ll_n)))
theorem m_X3_isWhole {d : Nat} {v0 : Nat} {h : ax_H}  : dx_le ((dx_pF [(38, 0)] (.int) (.ref v0) (.int 0) h).bind fun h1 => (dx_vn [(38, 481)] (.ref v0) h1).bind fun k => dx_cI ((ax_c d) k [.ref v0] h1) (fun x3 h2 => if x3 = 0 ∨ x3 = 1 then some (.inl (some (.int x3)), h2) else none) dx_x0) (ax_c (d + 1) 480 [.ref v0] h) := by
  refine e_entry (L' := [some (.ref v0)]) rfl (ag_A rfl ag_n) (Nat.le_of_ble_eq_true rfl) rfl ?_
  refine e_aload rfl rfl rfl ?_
  refine e_push rfl ?_
  refine e_putf rfl fun h1 => ?_
  refine e_aload rfl rfl rfl ?_
  refine e_ivI rfl rfl rfl (Nat.le_of_ble_eq_true rfl) (fun _ _ => e_x0) fun x3 h2 => ?_
  exact e_zret rfl
