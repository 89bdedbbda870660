/-! printed by gen/emit82.py -/
set_option maxRecDepth 100000
noncomputable def B_X3_isWholeNow_21 (K : ax_K) (v0 : Nat) (v1 : Int32) (v2 : Int32) (v3 : Int32) (h : ax_H) : Option ax_R := ax_run K P_X3_isWholeNow 21 [some (.ref v0), some (.int v1), some (.int v2), some (.int v3), none, none] [] h
noncomputable def B_X3_isWholeNow_40 (K : ax_K) (v0 : Nat) (v1 : Int32) (v2 : Int32) (v3 : Int32) (v4 : Int32) (h : ax_H) : Option ax_R := ax_run K P_X3_isWholeNow 40 [some (.ref v0), some (.int v1), some (.int v2), some (.int v3), some (.int v4), none] [] h
noncomputable def B_X3_isWholeNow_83 (K : ax_K) (s0 : Int32) (v0 : Nat) (v1 : Int32) (v3 : Int32) (v4 : Int32) (v5 : Int32) (h : ax_H) : Option ax_R := ax_run K P_X3_isWholeNow 83 [some (.ref v0), some (.int v1), none, some (.int v3), some (.int v4), some (.int v5)] [.int s0] h
noncomputable def B_X3_isWholeNow_112 (K : ax_K) (v0 : Nat) (v1 : Int32) (v2 : Int32) (h : ax_H) : Option ax_R := ax_run K P_X3_isWholeNow 112 [some (.ref v0), some (.int v1), some (.int v2), none, none, none] [] h
theorem b_X3_isWholeNow_21 {K : ax_K} {v0 : Nat} {v1 : Int32} {v2 : Int32} {v3 : Int32} {h : ax_H}  : dx_le (if (6 : Int32) ≤ v3 then B_X3_isWholeNow_112 K v0 v1 v2 h else if v2 = 0 then B_X3_isWholeNow_112 K v0 v1 v2 h else (dx_vn [(38, 482)] (.ref v0) h).bind fun k => dx_cI (K k [.ref v0, .int v3] h) (fun x2 h1 => B_X3_isWholeNow_40 K v0 v1 x2 v3 2 h1) dx_x0) (B_X3_isWholeNow_21 K v0 v1 v2 v3 h) := by
  show dx_le _ (ax_run K P_X3_isWholeNow 21 [some (.ref v0), some (.int v1), some (.int v2), some (.int v3), none, none] [] h)
  refine e_iload rfl rfl ?_
  refine e_push rfl ?_
  refine e_if2 rfl rfl ?_ ?_
  · exact e_wk mP_X3_isWholeNow (ll_1 (ll_1 (ll_1 (ll_0 (ll_0 (ll_0 ll_n))))))
  · refine e_iload rfl rfl ?_
    refine e_if1 rfl rfl ?_ ?_
    · exact e_wk mP_X3_isWholeNow (ll_1 (ll_1 (ll_1 (ll_0 (ll_0 (ll_0 ll_n))))))
    · refine e_aload rfl rfl rfl ?_
      refine e_iload rfl rfl ?_
      refine e_ivI rfl rfl rfl (Nat.le_of_ble_eq_true rfl) (fun _ _ => e_x0) fun x2 h1 => ?_
      refine e_istore (L' := [some (.ref v0), some (.int v1), some (.int x2), some (.int v3), none, none]) rfl (dx_sto (Nat.le_of_ble_eq_true rfl) (Or.inr ⟨_, rfl, rfl⟩) rfl) ?_
      refine e_push rfl ?_
      refine e_istore (L' := [some (.ref v0), some (.int v1), some (.int x2), some (.int v3), some (.int 2), none]) rfl (dx_sto (Nat.le_of_ble_eq_true rfl) (Or.inr ⟨_, rfl, rfl⟩) rfl) ?_
      exact e_wk mP_X3_isWholeNow (ll_1 (ll_1 (ll_1 (ll_1 (ll_1 (ll_0 ll_n))))))
theorem b_X3_isWholeNow_40 {K : ax_K} {v0 : Nat} {v1 : Int32} {v2 : Int32} {v3 : Int32} {v4 : Int32} {h : ax_H}  : dx_le (if (4 : Int32) ≤ v4 then dx_lt (v3 + 1) fun x1 => B_X3_isWholeNow_21 K v0 v1 v2 x1 h else if v2 = 0 then dx_lt (v3 + 1) fun x2 => B_X3_isWholeNow_21 K v0 v1 v2 x2 h else (dx_gA [(38, 50)] (.ref v0) h).bind fun r3 => dx_cI (K 415 [.int v3] h) (fun x5 h4 => (dx_lI 0 r3 (x5 + v4) h4).bind fun x6 => if x6 = 0 then B_X3_isWholeNow_83 K 1 v0 v1 v3 v4 x6 h4 else if ¬ ((dx_shr v1 x6) &&& 1) = 0 then B_X3_isWholeNow_83 K 0 v0 v1 v3 v4 x6 h4 else B_X3_isWholeNow_83 K 1 v0 v1 v3 v4 x6 h4) dx_x0) (B_X3_isWholeNow_40 K v0 v1 v2 v3 v4 h) := by
  show dx_le _ (ax_run K P_X3_isWholeNow 40 [some (.ref v0), some (.int v1), some (.int v2), some (.int v3), some (.int v4), none] [] h)
  refine e_iload rfl rfl ?_
  refine e_push rfl ?_
  refine e_if2 rfl rfl ?_ ?_
  · refine e_iinc (M := fun x1 => [some (.ref v0), some (.int v1), some (.int v2), some (.int x1), some (.int v4), none]) rfl rfl (fun _ => dx_sto (Nat.le_of_ble_eq_true rfl) (Or.inr ⟨_, rfl, rfl⟩) rfl) fun x1 => ?_
    refine e_goto rfl ?_
    exact e_wk mP_X3_isWholeNow (ll_1 (ll_1 (ll_1 (ll_1 (ll_0 (ll_0 ll_n))))))
  · refine e_iload rfl rfl ?_
    refine e_if1 rfl rfl ?_ ?_
    · refine e_iinc (M := fun x2 => [some (.ref v0), some (.int v1), some (.int v2), some (.int x2), some (.int v4), none]) rfl rfl (fun _ => dx_sto (Nat.le_of_ble_eq_true rfl) (Or.inr ⟨_, rfl, rfl⟩) rfl) fun x2 => ?_
      refine e_goto rfl ?_
      exact e_wk mP_X3_isWholeNow (ll_1 (ll_1 (ll_1 (ll_1 (ll_0 (ll_0 ll_n))))))
    · refine e_aload rfl rfl rfl ?_
      refine e_getA rfl fun r3 hr3 => ?_
      refine e_iload rfl rfl ?_
      refine e_isI rfl (Nat.le_of_ble_eq_true rfl) rfl rfl (Nat.le_of_ble_eq_true rfl) (fun _ _ => e_x0) fun x5 h4 => ?_
      refine e_iload rfl rfl ?_
      refine e_i2 rfl ?_
      refine e_iald rfl fun x6 => ?_
      refine e_istore (L' := [some (.ref v0), some (.int v1), some (.int v2), some (.int v3), some (.int v4), some (.int x6)]) rfl (dx_sto (Nat.le_of_ble_eq_true rfl) (Or.inr ⟨_, rfl, rfl⟩) rfl) ?_
      refine e_iload rfl rfl ?_
      refine e_if1 rfl rfl ?_ ?_
      · refine e_push rfl ?_
        refine e_goto rfl ?_
        exact e_wk mP_X3_isWholeNow (ll_1 (ll_1 (ll_0 (ll_1 (ll_1 (ll_1 ll_n))))))
      · refine e_iload rfl rfl ?_
        refine e_iload rfl rfl ?_
        refine e_shr rfl ?_
        refine e_push rfl ?_
        refine e_i2 rfl ?_
        refine e_if1 rfl rfl ?_ ?_
        · refine e_push rfl ?_
          exact e_wk mP_X3_isWholeNow (ll_1 (ll_1 (ll_0 (ll_1 (ll_1 (ll_1 ll_n))))))
        · refine e_push rfl ?_
          refine e_goto rfl ?_
          exact e_wk mP_X3_isWholeNow (ll_1 (ll_1 (ll_0 (ll_1 (ll_1 (ll_1 ll_n))))))
theorem b_X3_isWholeNow_83 {K : ax_K} {s0 : Int32} {v0 : Nat} {v1 : Int32} {v3 : Int32} {v4 : Int32} {v5 : Int32} {h : ax_H}  : dx_le (if ¬ v5 = 0 then dx_lt (v1 ||| (dx_shl 1 v5)) fun x1 => dx_lt (v4 + 1) fun x2 => B_X3_isWholeNow_40 K v0 x1 s0 v3 x2 h else dx_lt (v1 ||| 0) fun x3 => dx_lt (v4 + 1) fun x4 => B_X3_isWholeNow_40 K v0 x3 s0 v3 x4 h) (B_X3_isWholeNow_83 K s0 v0 v1 v3 v4 v5 h) := by
  show dx_le _ (ax_run K P_X3_isWholeNow 83 [some (.ref v0), some (.int v1), none, some (.int v3), some (.int v4), some (.int v5)] [.int s0] h)
  refine e_istore (L' := [some (.ref v0), some (.int v1), some (.int s0), some (.int v3), some (.int v4), some (.int v5)]) rfl (dx_sto (Nat.le_of_ble_eq_true rfl) (Or.inr ⟨_, rfl, rfl⟩) rfl) ?_
  refine e_iload rfl rfl ?_
  refine e_iload rfl rfl ?_
  refine e_if1 rfl rfl ?_ ?_
  · refine e_push rfl ?_
    refine e_iload rfl rfl ?_
    refine e_shl rfl ?_
    refine e_i2 rfl ?_
    refine e_istoreL (M := fun x1 => [some (.ref v0), some (.int x1), some (.int s0), some (.int v3), some (.int v4), some (.int v5)]) rfl (fun _ => dx_sto (Nat.le_of_ble_eq_true rfl) (Or.inr ⟨_, rfl, rfl⟩) rfl) fun x1 => ?_
    refine e_iinc (M := fun x2 => [some (.ref v0), some (.int x1), some (.int s0), some (.int v3), some (.int x2), some (.int v5)]) rfl rfl (fun _ => dx_sto (Nat.le_of_ble_eq_true rfl) (Or.inr ⟨_, rfl, rfl⟩) rfl) fun x2 => ?_
    refine e_goto rfl ?_
    exact e_wk mP_X3_isWholeNow (ll_1 (ll_1 (ll_1 (ll_1 (ll_1 (ll_0 ll_n))))))
  · refine e_push rfl ?_
    refine e_goto rfl ?_
    refine e_i2 rfl ?_
    refine e_istoreL (M := fun x3 => [some (.ref v0), some (.int x3), some (.int s0), some (.int v3), some (.int v4), some (.int v5)]) rfl (fun _ => dx_sto (Nat.le_of_ble_eq_true rfl) (Or.inr ⟨_, rfl, rfl⟩) rfl) fun x3 => ?_
    refine e_iinc (M := fun x4 => [some (.ref v0), some (.int x3), some (.int s0), some (.int v3), some (.int x4), some (.int v5)]) rfl rfl (fun _ => dx_sto (Nat.le_of_ble_eq_true rfl) (Or.inr ⟨_, rfl, rfl⟩) rfl) fun x4 => ?_
    refine e_goto rfl ?_
    exact e_wk mP_X3_isWholeNow (ll_1 (ll_1 (ll_1 (ll_1 (ll_1 (ll_0 ll_n))))))
theorem b_X3_isWholeNow_112 {K : ax_K} {v0 : Nat} {v1 : Int32} {v2 : Int32} {h : ax_H}  : dx_le (if v2 = 0 then some (.inl (some (.int 0)), h) else (dx_gA [(38, 50)] (.ref v0) h).bind fun r1 => (dx_lI 0 r1 32 h).bind fun x2 => if ¬ x2 = (v1 &&& 65535) then some (.inl (some (.int 0)), h) else (dx_gA [(38, 50)] (.ref v0) h).bind fun r3 => (dx_lI 0 r3 33 h).bind fun x4 => if ¬ x4 = (dx_ushr v1 16) then some (.inl (some (.int 0)), h) else some (.inl (some (.int 1)), h)) (B_X3_isWholeNow_112 K v0 v1 v2 h) := by
  show dx_le _ (ax_run K P_X3_isWholeNow 112 [some (.ref v0), some (.int v1), some (.int v2), none, none, none] [] h)
  refine e_iload rfl rfl ?_
  refine e_if1 rfl rfl ?_ ?_
  · refine e_push rfl ?_
    exact e_zret0 rfl
  · refine e_aload rfl rfl rfl ?_
    refine e_getA rfl fun r1 hr1 => ?_
    refine e_push rfl ?_
    refine e_iald rfl fun x2 => ?_
    refine e_iload rfl rfl ?_
    refine e_push rfl ?_
    refine e_i2 rfl ?_
    refine e_if2 rfl rfl ?_ ?_
    · refine e_push rfl ?_
      exact e_zret0 rfl
    · refine e_aload rfl rfl rfl ?_
      refine e_getA rfl fun r3 hr3 => ?_
      refine e_push rfl ?_
      refine e_iald rfl fun x4 => ?_
      refine e_iload rfl rfl ?_
      refine e_push rfl ?_
      refine e_ushr rfl ?_
      refine e_if2 rfl rfl ?_ ?_
      · refine e_push rfl ?_
        exact e_zret0 rfl
      · refine e_push rfl ?_
        refine e_goto rfl ?_
        exact e_zret1 rfl
theorem m_X3_isWholeNow {d : Nat} {v0 : Nat} {h : ax_H}  : dx_le ((dx_gA [(38, 50)] (.ref v0) h).bind fun r1 => (dx_lI 0 r1 0 h).bind fun x2 => if ¬ x2 = 0 then B_X3_isWholeNow_21 (ax_c d) v0 255 0 0 h else B_X3_isWholeNow_21 (ax_c d) v0 255 1 0 h) (ax_c (d + 1) 481 [.ref v0] h) := by
  refine e_entry (L' := [some (.ref v0), none, none, none, none, none]) rfl (ag_A rfl ag_n) (Nat.le_of_ble_eq_true rfl) rfl ?_
  refine e_push rfl ?_
  refine e_istore (L' := [some (.ref v0), some (.int 255), none, none, none, none]) rfl (dx_sto (Nat.le_of_ble_eq_true rfl) (Or.inr ⟨_, rfl, rfl⟩) rfl) ?_
  refine e_aload rfl rfl rfl ?_
  refine e_getA rfl fun r1 hr1 => ?_
  refine e_push rfl ?_
  refine e_iald rfl fun x2 => ?_
  refine e_if1 rfl rfl ?_ ?_
  · refine e_push rfl ?_
    refine e_istore (L' := [some (.ref v0), some (.int 255), some (.int 0), none, none, none]) rfl (dx_sto (Nat.le_of_ble_eq_true rfl) (Or.inr ⟨_, rfl, rfl⟩) rfl) ?_
    refine e_push rfl ?_
    refine e_istore (L' := [some (.ref v0), some (.int 255), some (.int 0), some (.int 0), none, none]) rfl (dx_sto (Nat.le_of_ble_eq_true rfl) (Or.inr ⟨_, rfl, rfl⟩) rfl) ?_
    exact e_wk mP_X3_isWholeNow (ll_1 (ll_1 (ll_1 (ll_1 (ll_0 (ll_0 ll_n))))))
  · refine e_push rfl ?_
    refine e_goto rfl ?_
    refine e_istore (L' := [some (.ref v0), some (.int 255), some (.int 1), none, none, none]) rfl (dx_sto (Nat.le_of_ble_eq_true rfl) (Or.inr ⟨_, rfl, rfl⟩) rfl) ?_
    refine e_push rfl ?_
    refine e_istore (L' := [some (.ref v0), some (.int 255), some (.int 1), some (.int 0), none, none]) rfl (dx_sto (Nat.le_of_ble_eq_true rfl) (Or.inr ⟨_, rfl, rfl⟩) rfl) ?_
    exact e_wk mP_X3_isWholeNow (ll_1 (ll_1 (ll_1 (ll_1 (ll_0 (ll_0 ll_n))))))
noncomputable def B_X3_isEntrySo_92 (K : ax_K) (s0 : Int32) (s1 : Int32) (v0 : Nat) (v1 : Int32) (v2 : Int32) (v3 : Int32) (v4 : Int32) (h : ax_H) : Option ax_R := ax_run K P_X3_isEntrySo 92 [some (.ref v0), some (.int v1), some (.int v2), some (.int v3), some (.int v4), none] [.int s1, .int s0] h
noncomputable def B_X3_isEntrySo_105 (K : ax_K) (s0 : Int32) (v0 : Nat) (v1 : Int32) (v2 : Int32) (v3 : Int32) (v4 : Int32) (h : ax_H) : Option ax_R := ax_run K P_X3_isEntrySo 105 [some (.ref v0), some (.int v1), some (.int v2), some (.int v3), some (.int v4), none] [.int s0] h
noncomputable def B_X3_isEntrySo_124 (K : ax_K) (s0 : Int32) (v0 : Nat) (v1 : Int32) (v3 : Int32) (v4 : Int32) (h : ax_H) : Option ax_R := ax_run K P_X3_isEntrySo 124 [some (.ref v0), some (.int v1), none, some (.int v3), some (.int v4), none] [.int s0] h
noncomputable def B_X3_isEntrySo_146 (K : ax_K) (v0 : Nat) (v1 : Int32) (v4 : Int32) (h : ax_H) : Option ax_R := ax_run K P_X3_isEntrySo 146 [some (.ref v0), some (.int v1), none, none, some (.int v4), none] [] h
noncomputable def B_X3_isEntrySo_163 (K : ax_K) (v0 : Nat) (v1 : Int32) (h : ax_H) : Option ax_R := ax_run K P_X3_isEntrySo 163 [some (.ref v0), some (.int v1), none, none, none, none] [] h
theorem b_X3_isEntrySo_92 {K : ax_K} {s0 : Int32} {s1 : Int32} {v0 : Nat} {v1 : Int32} {v2 : Int32} {v3 : Int32} {v4 : Int32} {h : ax_H}  : dx_le (if ¬ s0 = s1 then B_X3_isEntrySo_124 K 0 v0 v1 v3 v4 h else if v4 ≤ 0 then B_X3_isEntrySo_105 K 0 v0 v1 v2 v3 v4 h else B_X3_isEntrySo_105 K 1 v0 v1 v2 v3 v4 h) (B_X3_isEntrySo_92 K s0 s1 v0 v1 v2 v3 v4 h) := by
  show dx_le _ (ax_run K P_X3_isEntrySo 92 [some (.ref v0), some (.int v1), some (.int v2), some (.int v3), some (.int v4), none] [.int s1, .int s0] h)
  refine e_if2 rfl rfl ?_ ?_
  · refine e_push rfl ?_
    exact e_wk mP_X3_isEntrySo (ll_1 (ll_1 (ll_0 (ll_1 (ll_1 (ll_0 ll_n))))))
  · refine e_iload rfl rfl ?_
    refine e_if1 rfl rfl ?_ ?_
    · refine e_push rfl ?_
      exact e_wk mP_X3_isEntrySo (ll_1 (ll_1 (ll_1 (ll_1 (ll_1 (ll_0 ll_n))))))
    · refine e_push rfl ?_
      refine e_goto rfl ?_
      exact e_wk mP_X3_isEntrySo (ll_1 (ll_1 (ll_1 (ll_1 (ll_1 (ll_0 ll_n))))))
theorem b_X3_isEntrySo_105 {K : ax_K} {s0 : Int32} {v0 : Nat} {v1 : Int32} {v2 : Int32} {v3 : Int32} {v4 : Int32} {h : ax_H}  : dx_le (if v2 ≤ 8 then if ¬ s0 = 0 then B_X3_isEntrySo_124 K 0 v0 v1 v3 v4 h else B_X3_isEntrySo_124 K 1 v0 v1 v3 v4 h else if ¬ s0 = 1 then B_X3_isEntrySo_124 K 0 v0 v1 v3 v4 h else B_X3_isEntrySo_124 K 1 v0 v1 v3 v4 h) (B_X3_isEntrySo_105 K s0 v0 v1 v2 v3 v4 h) := by
  show dx_le _ (ax_run K P_X3_isEntrySo 105 [some (.ref v0), some (.int v1), some (.int v2), some (.int v3), some (.int v4), none] [.int s0] h)
  refine e_iload rfl rfl ?_
  refine e_push rfl ?_
  refine e_if2 rfl rfl ?_ ?_
  · refine e_push rfl ?_
    refine e_if2 rfl rfl ?_ ?_
    · refine e_push rfl ?_
      exact e_wk mP_X3_isEntrySo (ll_1 (ll_1 (ll_0 (ll_1 (ll_1 (ll_0 ll_n))))))
    · refine e_push rfl ?_
      refine e_goto rfl ?_
      exact e_wk mP_X3_isEntrySo (ll_1 (ll_1 (ll_0 (ll_1 (ll_1 (ll_0 ll_n))))))
  · refine e_push rfl ?_
    refine e_goto rfl ?_
    refine e_if2 rfl rfl ?_ ?_
    · refine e_push rfl ?_
      exact e_wk mP_X3_isEntrySo (ll_1 (ll_1 (ll_0 (ll_1 (ll_1 (ll_0 ll_n))))))
    · refine e_push rfl ?_
      refine e_goto rfl ?_
      exact e_wk mP_X3_isEntrySo (ll_1 (ll_1 (ll_0 (ll_1 (ll_1 (ll_0 ll_n))))))
theorem b_X3_isEntrySo_124 {K : ax_K} {s0 : Int32} {v0 : Nat} {v1 : Int32} {v3 : Int32} {v4 : Int32} {h : ax_H}  : dx_le (if s0 = 0 then some (.inl (some (.int 0)), h) else if v3 = 0 then B_X3_isEntrySo_146 K v0 v1 v4 h else dx_cI (K 376 [.int v3, .int 8, .int 31] h) (fun x2 h1 => if x2 = 0 then some (.inl (some (.int 0)), h1) else B_X3_isEntrySo_146 K v0 v1 v4 h1) dx_x0) (B_X3_isEntrySo_124 K s0 v0 v1 v3 v4 h) := by
  show dx_le _ (ax_run K P_X3_isEntrySo 124 [some (.ref v0), some (.int v1), none, some (.int v3), some (.int v4), none] [.int s0] h)
  refine e_istore (L' := [some (.ref v0), some (.int v1), none, some (.int v3), some (.int v4), some (.int s0)]) rfl (dx_sto (Nat.le_of_ble_eq_true rfl) (Or.inr ⟨_, rfl, rfl⟩) rfl) ?_
  refine e_iload rfl rfl ?_
  refine e_if1 rfl rfl ?_ ?_
  · refine e_push rfl ?_
    exact e_zret0 rfl
  · refine e_iload rfl rfl ?_
    refine e_if1 rfl rfl ?_ ?_
    · exact e_wk mP_X3_isEntrySo (ll_1 (ll_1 (ll_0 (ll_0 (ll_1 (ll_0 ll_n))))))
    · refine e_iload rfl rfl ?_
      refine e_push rfl ?_
      refine e_push rfl ?_
      refine e_isI rfl (Nat.le_of_ble_eq_true rfl) rfl rfl (Nat.le_of_ble_eq_true rfl) (fun _ _ => e_x0) fun x2 h1 => ?_
      refine e_if1 rfl rfl ?_ ?_
      · refine e_push rfl ?_
        exact e_zret0 rfl
      · exact e_wk mP_X3_isEntrySo (ll_1 (ll_1 (ll_0 (ll_0 (ll_1 (ll_0 ll_n))))))
theorem b_X3_isEntrySo_146 {K : ax_K} {v0 : Nat} {v1 : Int32} {v4 : Int32} {h : ax_H}  : dx_le (if v4 = 0 then B_X3_isEntrySo_163 K v0 v1 h else dx_cI (K 376 [.int v4, .int 8, .int 31] h) (fun x2 h1 => if x2 = 0 then some (.inl (some (.int 0)), h1) else B_X3_isEntrySo_163 K v0 v1 h1) dx_x0) (B_X3_isEntrySo_146 K v0 v1 v4 h) := by
  show dx_le _ (ax_run K P_X3_isEntrySo 146 [some (.ref v0), some (.int v1), none, none, some (.int v4), none] [] h)
  refine e_iload rfl rfl ?_
  refine e_if1 rfl rfl ?_ ?_
  · exact e_wk mP_X3_isEntrySo (ll_1 (ll_1 (ll_0 (ll_0 (ll_0 (ll_0 ll_n))))))
  · refine e_iload rfl rfl ?_
    refine e_push rfl ?_
    refine e_push rfl ?_
    refine e_isI rfl (Nat.le_of_ble_eq_true rfl) rfl rfl (Nat.le_of_ble_eq_true rfl) (fun _ _ => e_x0) fun x2 h1 => ?_
    refine e_if1 rfl rfl ?_ ?_
    · refine e_push rfl ?_
      exact e_zret0 rfl
    · exact e_wk mP_X3_isEntrySo (ll_1 (ll_1 (ll_0 (ll_0 (ll_0 (ll_0 ll_n))))))
theorem b_X3_isEntrySo_163 {K : ax_K} {v0 : Nat} {v1 : Int32} {h : ax_H}  : dx_le ((dx_gA [(38, 50)] (.ref v0) h).bind fun r1 => (dx_gA [(38, 50)] (.ref v0) h).bind fun r2 => dx_cI (K 415 [.int v1] h) (fun x4 h3 => (dx_lI 0 r2 x4 h3).bind fun x5 => dx_cI (K 435 [r1, .int x5] h3) (fun x7 h6 => if ¬ x7 = v1 then some (.inl (some (.int 0)), h6) else some (.inl (some (.int 1)), h6)) dx_x0) dx_x0) (B_X3_isEntrySo_163 K v0 v1 h) := by
  show dx_le _ (ax_run K P_X3_isEntrySo 163 [some (.ref v0), some (.int v1), none, none, none, none] [] h)
  refine e_aload rfl rfl rfl ?_
  refine e_getA rfl fun r1 hr1 => ?_
  refine e_aload rfl rfl rfl ?_
  refine e_getA rfl fun r2 hr2 => ?_
  refine e_iload rfl rfl ?_
  refine e_isI rfl (Nat.le_of_ble_eq_true rfl) rfl rfl (Nat.le_of_ble_eq_true rfl) (fun _ _ => e_x0) fun x4 h3 => ?_
  refine e_iald rfl fun x5 => ?_
  refine e_isI rfl (Nat.le_of_ble_eq_true rfl) rfl rfl (Nat.le_of_ble_eq_true rfl) (fun _ _ => e_x0) fun x7 h6 => ?_
  refine e_iload rfl rfl ?_
  refine e_if2 rfl rfl ?_ ?_
  · refine e_push rfl ?_
    exact e_zret0 rfl
  · refine e_push rfl ?_
    refine e_goto rfl ?_
    exact e_zret1 rfl
theorem m_X3_isEntrySo {d : Nat} {v0 : Nat} {v1 : Int32} {h : ax_H}  : dx_le ((dx_gA [(38, 50)] (.ref v0) h).bind fun r1 => dx_cI ((ax_c d) 415 [.int v1] h) (fun x3 h2 => (dx_lI 0 r1 (x3 + 1) h2).bind fun x4 => (dx_gA [(38, 50)] (.ref v0) h2).bind fun r5 => dx_cI ((ax_c d) 415 [.int v1] h2) (fun x7 h6 => (dx_lI 0 r5 (x7 + 2) h6).bind fun x8 => (dx_gA [(38, 50)] (.ref v0) h6).bind fun r9 => dx_cI ((ax_c d) 415 [.int v1] h6) (fun x11 h10 => (dx_lI 0 r9 (x11 + 3) h10).bind fun x12 => (dx_gA [(38, 50)] (.ref v0) h10).bind fun r13 => dx_cI ((ax_c d) 415 [.int v1] h10) (fun x15 h14 => (dx_lI 0 r13 x15 h14).bind fun x16 => if ¬ x16 = 0 then if (16 : Int32) < x4 then B_X3_isEntrySo_124 (ax_c d) 0 v0 v1 x8 x12 h14 else if x8 ≤ 0 then if x4 ≤ 0 then B_X3_isEntrySo_92 (ax_c d) 0 0 v0 v1 x4 x8 x12 h14 else B_X3_isEntrySo_92 (ax_c d) 0 1 v0 v1 x4 x8 x12 h14 else if x4 ≤ 0 then B_X3_isEntrySo_92 (ax_c d) 1 0 v0 v1 x4 x8 x12 h14 else B_X3_isEntrySo_92 (ax_c d) 1 1 v0 v1 x4 x8 x12 h14 else if ¬ x4 = 0 then some (.inl (some (.int 0)), h14) else if ¬ x8 = 0 then some (.inl (some (.int 0)), h14) else if ¬ x12 = 0 then some (.inl (some (.int 0)), h14) else some (.inl (some (.int 1)), h14)) dx_x0) dx_x0) dx_x0) dx_x0) (ax_c (d + 1) 482 [.ref v0, .int v1] h) := by
  refine e_entry (L' := [some (.ref v0), some (.int v1), none, none, none, none]) rfl (ag_A rfl (ag_I ag_n)) (Nat.le_of_ble_eq_true rfl) rfl ?_
  refine e_aload rfl rfl rfl ?_
  refine e_getA rfl fun r1 hr1 => ?_
  refine e_iload rfl rfl ?_
  refine e_isI rfl (Nat.le_of_ble_eq_true rfl) rfl rfl (Nat.le_of_ble_eq_true rfl) (fun _ _ => e_x0) fun x3 h2 => ?_
  refine e_push rfl ?_
  refine e_i2 rfl ?_
  refine e_iald rfl fun x4 => ?_
  refine e_istore (L' := [some (.ref v0), some (.int v1), some (.int x4), none, none, none]) rfl (dx_sto (Nat.le_of_ble_eq_true rfl) (Or.inr ⟨_, rfl, rfl⟩) rfl) ?_
  refine e_aload rfl rfl rfl ?_
  refine e_getA rfl fun r5 hr5 => ?_
  refine e_iload rfl rfl ?_
  refine e_isI rfl (Nat.le_of_ble_eq_true rfl) rfl rfl (Nat.le_of_ble_eq_true rfl) (fun _ _ => e_x0) fun x7 h6 => ?_
  refine e_push rfl ?_
  refine e_i2 rfl ?_
  refine e_iald rfl fun x8 => ?_
  refine e_istore (L' := [some (.ref v0), some (.int v1), some (.int x4), some (.int x8), none, none]) rfl (dx_sto (Nat.le_of_ble_eq_true rfl) (Or.inr ⟨_, rfl, rfl⟩) rfl) ?_
  refine e_aload rfl rfl rfl ?_
  refine e_getA rfl fun r9 hr9 => ?_
  refine e_iload rfl rfl ?_
  refine e_isI rfl (Nat.le_of_ble_eq_true rfl) rfl rfl (Nat.le_of_ble_eq_true rfl) (fun _ _ => e_x0) fun x11 h10 => ?_
  refine e_push rfl ?_
  refine e_i2 rfl ?_
  refine e_iald rfl fun x12 => ?_
  refine e_istore (L' := [some (.ref v0), some (.int v1), some (.int x4), some (.int x8), some (.int x12), none]) rfl (dx_sto (Nat.le_of_ble_eq_true rfl) (Or.inr ⟨_, rfl, rfl⟩) rfl) ?_
  refine e_aload rfl rfl rfl ?_
  refine e_getA rfl fun r13 hr13 => ?_
  refine e_iload rfl rfl ?_
  refine e_isI rfl (Nat.le_of_ble_eq_true rfl) rfl rfl (Nat.le_of_ble_eq_true rfl) (fun _ _ => e_x0) fun x15 h14 => ?_
  refine e_iald rfl fun x16 => ?_
  refine e_if1 rfl rfl ?_ ?_
  · refine e_iload rfl rfl ?_
    refine e_push rfl ?_
    refine e_if2 rfl rfl ?_ ?_
    · refine e_push rfl ?_
      exact e_wk mP_X3_isEntrySo (ll_1 (ll_1 (ll_0 (ll_1 (ll_1 (ll_0 ll_n))))))
    · refine e_iload rfl rfl ?_
      refine e_if1 rfl rfl ?_ ?_
      · refine e_push rfl ?_
        refine e_iload rfl rfl ?_
        refine e_if1 rfl rfl ?_ ?_
        · refine e_push rfl ?_
          exact e_wk mP_X3_isEntrySo (ll_1 (ll_1 (ll_1 (ll_1 (ll_1 (ll_0 ll_n))))))
        · refine e_push rfl ?_
          refine e_goto rfl ?_
          exact e_wk mP_X3_isEntrySo (ll_1 (ll_1 (ll_1 (ll_1 (ll_1 (ll_0 ll_n))))))
      · refine e_push rfl ?_
        refine e_goto rfl ?_
        refine e_iload rfl rfl ?_
        refine e_if1 rfl rfl ?_ ?_
        · refine e_push rfl ?_
          exact e_wk mP_X3_isEntrySo (ll_1 (ll_1 (ll_1 (ll_1 (ll_1 (ll_0 ll_n))))))
        · refine e_push rfl ?_
          refine e_goto rfl ?_
          exact e_wk mP_X3_isEntrySo (ll_1 (ll_1 (ll_1 (ll_1 (ll_1 (ll_0 ll_n))))))
  · refine e_iload rfl rfl ?_
    refine e_if1 rfl rfl ?_ ?_
    · refine e_push rfl ?_
      exact e_zret0 rfl
    · refine e_iload rfl rfl ?_
      refine e_if1 rfl rfl ?_ ?_
      · refine e_push rfl ?_
        exact e_zret0 rfl
      · refine e_iload rfl rfl ?_
        refine e_if1 rfl rfl ?_ ?_
        · refine e_push rfl ?_
          exact e_zret0 rfl
        · refine e_push rfl ?_
          refine e_goto rfl ?_
          exact e_zret1 rfl
noncomputable def B_X3_testKey_29 (K : ax_K) (s0 : Nat) (s1 : Int32) (v0 : Nat) (v1 : Int32) (h : ax_H) : Option ax_R := ax_run K P_X3_testKey 29 [some (.ref v0), some (.int v1)] [.int s1, .ref s0] h
theorem b_X3_testKey_29 {K : ax_K} {s0 : Nat} {s1 : Int32} {v0 : Nat} {v1 : Int32} {h : ax_H}  : dx_le ((dx_vn [(38, 378)] (.ref s0) h).bind fun k => dx_cI (K k [.ref s0, .int s1] h) (fun x2 h1 => if ¬ x2 = 0 then (dx_gA [(38, 56)] (.ref v0) h1).bind fun r3 => (dx_gI [(38, 58)] (.ref v0) h1).bind fun x4 => (dx_sI 0 r3 x4 v1 h1).bind fun h5 => (dx_gI [(38, 58)] (.ref v0) h5).bind fun x6 => (dx_pF [(38, 58)] (.int) (.ref v0) (.int (x6 + 1)) h5).bind fun h7 => (dx_gI [(38, 58)] (.ref v0) h7).bind fun x8 => some (.inl (some (.int x8)), h7) else some (.inl (some (.int 0)), h1)) dx_x0) (B_X3_testKey_29 K s0 s1 v0 v1 h) := by
  show dx_le _ (ax_run K P_X3_testKey 29 [some (.ref v0), some (.int v1)] [.int s1, .ref s0] h)
  refine e_ivI rfl rfl rfl (Nat.le_of_ble_eq_true rfl) (fun _ _ => e_x0) fun x2 h1 => ?_
  refine e_if1 rfl rfl ?_ ?_
  · refine e_aload rfl rfl rfl ?_
    refine e_getA rfl fun r3 hr3 => ?_
    refine e_aload rfl rfl rfl ?_
    refine e_getI rfl fun x4 => ?_
    refine e_iload rfl rfl ?_
    refine e_iastI rfl fun h5 => ?_
    refine e_aload rfl rfl rfl ?_
    refine e_dup rfl rfl ?_
    refine e_getI rfl fun x6 => ?_
    refine e_push rfl ?_
    refine e_i2 rfl ?_
    refine e_putf rfl fun h7 => ?_
    refine e_aload rfl rfl rfl ?_
    refine e_getI rfl fun x8 => ?_
    exact e_iret rfl
  · refine e_push rfl ?_
    exact e_iret rfl
theorem m_X3_testKey {d : Nat} {v0 : Nat} {v1 : Int32} {h : ax_H}  : dx_le (dx_cI ((ax_c d) 376 [.int v1, .int 0, .int 65535] h) (fun x2 h1 => if ¬ x2 = 0 then (dx_gI [(38, 58)] (.ref v0) h1).bind fun x3 => if ¬ x3 = 6 then B_X3_testKey_29 (ax_c d) v0 0 v0 v1 h1 else B_X3_testKey_29 (ax_c d) v0 2 v0 v1 h1 else B_X3_testKey_29 (ax_c d) v0 1 v0 v1 h1) dx_x0) (ax_c (d + 1) 483 [.ref v0, .int v1] h) := by
  refine e_entry (L' := [some (.ref v0), some (.int v1)]) rfl (ag_A rfl (ag_I ag_n)) (Nat.le_of_ble_eq_true rfl) rfl ?_
  refine e_aload rfl rfl rfl ?_
  refine e_iload rfl rfl ?_
  refine e_push rfl ?_
  refine e_push rfl ?_
  refine e_isI rfl (Nat.le_of_ble_eq_true rfl) rfl rfl (Nat.le_of_ble_eq_true rfl) (fun _ _ => e_x0) fun x2 h1 => ?_
  refine e_if1 rfl rfl ?_ ?_
  · refine e_aload rfl rfl rfl ?_
    refine e_getI rfl fun x3 => ?_
    refine e_push rfl ?_
    refine e_if2 rfl rfl ?_ ?_
    · refine e_push rfl ?_
      exact e_wk mP_X3_testKey (ll_1 (ll_1 ll_n))
    · refine e_push rfl ?_
      refine e_goto rfl ?_
      exact e_wk mP_X3_testKey (ll_1 (ll_1 ll_n))
  · refine e_push rfl ?_
    refine e_goto rfl ?_
    exact e_wk mP_X3_testKey (ll_1 (ll_1 ll_n))
noncomputable def B_X3_testWord_29 (K : ax_K) (s0 : Nat) (s1 : Int32) (v0 : Nat) (v1 : Int32) (h : ax_H) : Option ax_R := ax_run K P_X3_testWord 29 [some (.ref v0), some (.int v1)] [.int s1, .ref s0] h
theorem b_X3_testWord_29 {K : ax_K} {s0 : Nat} {s1 : Int32} {v0 : Nat} {v1 : Int32} {h : ax_H}  : dx_le ((dx_vn [(38, 378)] (.ref s0) h).bind fun k => dx_cI (K k [.ref s0, .int s1] h) (fun x2 h1 => if ¬ x2 = 0 then (dx_gA [(38, 57)] (.ref v0) h1).bind fun r3 => (dx_gI [(38, 59)] (.ref v0) h1).bind fun x4 => (dx_sI 0 r3 x4 v1 h1).bind fun h5 => (dx_gI [(38, 59)] (.ref v0) h5).bind fun x6 => (dx_pF [(38, 59)] (.int) (.ref v0) (.int (x6 + 1)) h5).bind fun h7 => (dx_gI [(38, 59)] (.ref v0) h7).bind fun x8 => some (.inl (some (.int x8)), h7) else some (.inl (some (.int 0)), h1)) dx_x0) (B_X3_testWord_29 K s0 s1 v0 v1 h) := by
  show dx_le _ (ax_run K P_X3_testWord 29 [some (.ref v0), some (.int v1)] [.int s1, .ref s0] h)
  refine e_ivI rfl rfl rfl (Nat.le_of_ble_eq_true rfl) (fun _ _ => e_x0) fun x2 h1 => ?_
  refine e_if1 rfl rfl ?_ ?_
  · refine e_aload rfl rfl rfl ?_
    refine e_getA rfl fun r3 hr3 => ?_
    refine e_aload rfl rfl rfl ?_
    refine e_getI rfl fun x4 => ?_
    refine e_iload rfl rfl ?_
    refine e_iastI rfl fun h5 => ?_
    refine e_aload rfl rfl rfl ?_
    refine e_dup rfl rfl ?_
    refine e_getI rfl fun x6 => ?_
    refine e_push rfl ?_
    refine e_i2 rfl ?_
    refine e_putf rfl fun h7 => ?_
    refine e_aload rfl rfl rfl ?_
    refine e_getI rfl fun x8 => ?_
    exact e_iret rfl
  · refine e_push rfl ?_
    exact e_iret rfl
theorem m_X3_testWord {d : Nat} {v0 : Nat} {v1 : Int32} {h : ax_H}  : dx_le (dx_cI ((ax_c d) 376 [.int v1, .int 0, .int 65535] h) (fun x2 h1 => if ¬ x2 = 0 then (dx_gI [(38, 59)] (.ref v0) h1).bind fun x3 => if ¬ x3 = 6 then B_X3_testWord_29 (ax_c d) v0 0 v0 v1 h1 else B_X3_testWord_29 (ax_c d) v0 2 v0 v1 h1 else B_X3_testWord_29 (ax_c d) v0 1 v0 v1 h1) dx_x0) (ax_c (d + 1) 484 [.ref v0, .int v1] h) := by
  refine e_entry (L' := [some (.ref v0), some (.int v1)]) rfl (ag_A rfl (ag_I ag_n)) (Nat.le_of_ble_eq_true rfl) rfl ?_
  refine e_aload rfl rfl rfl ?_
  refine e_iload rfl rfl ?_
  refine e_push rfl ?_
  refine e_push rfl ?_
  refine e_isI rfl (Nat.le_of_ble_eq_true rfl) rfl rfl (Nat.le_of_ble_eq_true rfl) (fun _ _ => e_x0) fun x2 h1 => ?_
  refine e_if1 rfl rfl ?_ ?_
  · refine e_aload rfl rfl rfl ?_
    refine e_getI rfl fun x3 => ?_
    refine e_push rfl ?_
    refine e_if2 rfl rfl ?_ ?_
    · refine e_push rfl ?_
      exact e_wk mP_X3_testWord (ll_1 (ll_1 ll_n))
    · refine e_push rfl ?_
      refine e_goto rfl ?_
      exact e_wk mP_X3_testWord (ll_1 (ll_1 ll_n))
  · refine e_push rfl ?_
    refine e_goto rfl ?_
    exact e_wk mP_X3_testWord (ll_1 (ll_1 ll_n))
noncomputable def B_X3_addTest_48 (K : ax_K) (s0 : Int32) (v0 : Nat) (v1 : Int32) (v2 : Int32) (v3 : Int32) (v4 : Int32) (h : ax_H) : Option ax_R := ax_run K P_X3_addTest 48 [some (.ref v0), some (.int v1), some (.int v2), some (.int v3), some (.int v4), none, none] [.int s0] h
noncomputable def B_X3_addTest_73 (K : ax_K) (s0 : Nat) (s1 : Int32) (v0 : Nat) (v1 : Int32) (v2 : Int32) (v3 : Int32) (v4 : Int32) (h : ax_H) : Option ax_R := ax_run K P_X3_addTest 73 [some (.ref v0), some (.int v1), some (.int v2), some (.int v3), some (.int v4), none, none] [.int s1, .ref s0] h
noncomputable def B_X3_addTest_161 (K : ax_K) (v0 : Nat) (v6 : Int32) (h : ax_H) : Option ax_R := ax_run K P_X3_addTest 161 [some (.ref v0), none, none, none, none, none, some (.int v6)] [] h
theorem b_X3_addTest_48 {K : ax_K} {s0 : Int32} {v0 : Nat} {v1 : Int32} {v2 : Int32} {v3 : Int32} {v4 : Int32} {h : ax_H}  : dx_le (if ¬ s0 = 0 then (dx_gI [(38, 60)] (.ref v0) h).bind fun x1 => if ¬ x1 = 5 then B_X3_addTest_73 K v0 0 v0 v1 v2 v3 v4 h else B_X3_addTest_73 K v0 2 v0 v1 v2 v3 v4 h else B_X3_addTest_73 K v0 1 v0 v1 v2 v3 v4 h) (B_X3_addTest_48 K s0 v0 v1 v2 v3 v4 h) := by
  show dx_le _ (ax_run K P_X3_addTest 48 [some (.ref v0), some (.int v1), some (.int v2), some (.int v3), some (.int v4), none, none] [.int s0] h)
  refine e_istore (L' := [some (.ref v0), some (.int v1), some (.int v2), some (.int v3), some (.int v4), some (.int s0), none]) rfl (dx_sto (Nat.le_of_ble_eq_true rfl) (Or.inr ⟨_, rfl, rfl⟩) rfl) ?_
  refine e_aload rfl rfl rfl ?_
  refine e_iload rfl rfl ?_
  refine e_if1 rfl rfl ?_ ?_
  · refine e_aload rfl rfl rfl ?_
    refine e_getI rfl fun x1 => ?_
    refine e_push rfl ?_
    refine e_if2 rfl rfl ?_ ?_
    · refine e_push rfl ?_
      exact e_wk mP_X3_addTest (ll_1 (ll_1 (ll_1 (ll_1 (ll_1 (ll_0 (ll_0 ll_n)))))))
    · refine e_push rfl ?_
      refine e_goto rfl ?_
      exact e_wk mP_X3_addTest (ll_1 (ll_1 (ll_1 (ll_1 (ll_1 (ll_0 (ll_0 ll_n)))))))
  · refine e_push rfl ?_
    refine e_goto rfl ?_
    exact e_wk mP_X3_addTest (ll_1 (ll_1 (ll_1 (ll_1 (ll_1 (ll_0 (ll_0 ll_n)))))))
theorem b_X3_addTest_73 {K : ax_K} {s0 : Nat} {s1 : Int32} {v0 : Nat} {v1 : Int32} {v2 : Int32} {v3 : Int32} {v4 : Int32} {h : ax_H}  : dx_le ((dx_vn [(38, 378)] (.ref s0) h).bind fun k => dx_cI (K k [.ref s0, .int s1] h) (fun x2 h1 => if ¬ x2 = 0 then (dx_gA [(38, 65)] (.ref v0) h1).bind fun r3 => (dx_gI [(38, 60)] (.ref v0) h1).bind fun x4 => (dx_sI 0 r3 x4 v1 h1).bind fun h5 => (dx_gA [(38, 66)] (.ref v0) h5).bind fun r6 => (dx_gI [(38, 60)] (.ref v0) h5).bind fun x7 => (dx_sI 0 r6 x7 v2 h5).bind fun h8 => (dx_gA [(38, 67)] (.ref v0) h8).bind fun r9 => (dx_gI [(38, 60)] (.ref v0) h8).bind fun x10 => (dx_sI 0 r9 x10 v3 h8).bind fun h11 => (dx_gA [(38, 68)] (.ref v0) h11).bind fun r12 => (dx_gI [(38, 60)] (.ref v0) h11).bind fun x13 => (dx_sI 0 r12 x13 v4 h11).bind fun h14 => (dx_gA [(38, 69)] (.ref v0) h14).bind fun r15 => (dx_gI [(38, 60)] (.ref v0) h14).bind fun x16 => (dx_sI 0 r15 x16 (-1) h14).bind fun h17 => (dx_gA [(38, 62)] (.ref v0) h17).bind fun r18 => (dx_gI [(38, 60)] (.ref v0) h17).bind fun x19 => (dx_gI [(38, 58)] (.ref v0) h17).bind fun x20 => (dx_sI 0 r18 x19 x20 h17).bind fun h21 => (dx_gA [(38, 64)] (.ref v0) h21).bind fun r22 => (dx_gI [(38, 60)] (.ref v0) h21).bind fun x23 => (dx_gI [(38, 59)] (.ref v0) h21).bind fun x24 => (dx_sI 0 r22 x23 x24 h21).bind fun h25 => B_X3_addTest_161 K v0 0 h25 else some (.inl (some (.int 0)), h1)) dx_x0) (B_X3_addTest_73 K s0 s1 v0 v1 v2 v3 v4 h) := by
  show dx_le _ (ax_run K P_X3_addTest 73 [some (.ref v0), some (.int v1), some (.int v2), some (.int v3), some (.int v4), none, none] [.int s1, .ref s0] h)
  refine e_ivI rfl rfl rfl (Nat.le_of_ble_eq_true rfl) (fun _ _ => e_x0) fun x2 h1 => ?_
  refine e_if1 rfl rfl ?_ ?_
  · refine e_aload rfl rfl rfl ?_
    refine e_getA rfl fun r3 hr3 => ?_
    refine e_aload rfl rfl rfl ?_
    refine e_getI rfl fun x4 => ?_
    refine e_iload rfl rfl ?_
    refine e_iastI rfl fun h5 => ?_
    refine e_aload rfl rfl rfl ?_
    refine e_getA rfl fun r6 hr6 => ?_
    refine e_aload rfl rfl rfl ?_
    refine e_getI rfl fun x7 => ?_
    refine e_iload rfl rfl ?_
    refine e_iastI rfl fun h8 => ?_
    refine e_aload rfl rfl rfl ?_
    refine e_getA rfl fun r9 hr9 => ?_
    refine e_aload rfl rfl rfl ?_
    refine e_getI rfl fun x10 => ?_
    refine e_iload rfl rfl ?_
    refine e_iastI rfl fun h11 => ?_
    refine e_aload rfl rfl rfl ?_
    refine e_getA rfl fun r12 hr12 => ?_
    refine e_aload rfl rfl rfl ?_
    refine e_getI rfl fun x13 => ?_
    refine e_iload rfl rfl ?_
    refine e_iastI rfl fun h14 => ?_
    refine e_aload rfl rfl rfl ?_
    refine e_getA rfl fun r15 hr15 => ?_
    refine e_aload rfl rfl rfl ?_
    refine e_getI rfl fun x16 => ?_
    refine e_push rfl ?_
    refine e_iastI rfl fun h17 => ?_
    refine e_aload rfl rfl rfl ?_
    refine e_getA rfl fun r18 hr18 => ?_
    refine e_aload rfl rfl rfl ?_
    refine e_getI rfl fun x19 => ?_
    refine e_aload rfl rfl rfl ?_
    refine e_getI rfl fun x20 => ?_
    refine e_iastI rfl fun h21 => ?_
    refine e_aload rfl rfl rfl ?_
    refine e_getA rfl fun r22 hr22 => ?_
    refine e_aload rfl rfl rfl ?_
    refine e_getI rfl fun x23 => ?_
    refine e_aload rfl rfl rfl ?_
    refine e_getI rfl fun x24 => ?_
    refine e_iastI rfl fun h25 => ?_
    refine e_push rfl ?_
    refine e_istore (L' := [some (.ref v0), some (.int v1), some (.int v2), some (.int v3), some (.int v4), none, some (.int 0)]) rfl (dx_sto (Nat.le_of_ble_eq_true rfl) (Or.inr ⟨_, rfl, rfl⟩) rfl) ?_
    exact e_wk mP_X3_addTest (ll_1 (ll_0 (ll_0 (ll_0 (ll_0 (ll_0 (ll_1 ll_n)))))))
  · refine e_push rfl ?_
    exact e_iret rfl
theorem b_X3_addTest_161 {K : ax_K} {v0 : Nat} {v6 : Int32} {h : ax_H}  : dx_le (if (6 : Int32) ≤ v6 then (dx_pF [(38, 58)] (.int) (.ref v0) (.int 0) h).bind fun h1 => (dx_pF [(38, 59)] (.int) (.ref v0) (.int 0) h1).bind fun h2 => (dx_gI [(38, 60)] (.ref v0) h2).bind fun x3 => (dx_pF [(38, 60)] (.int) (.ref v0) (.int (x3 + 1)) h2).bind fun h4 => (dx_gI [(38, 60)] (.ref v0) h4).bind fun x5 => some (.inl (some (.int (x5 - 1))), h4) else (dx_gA [(38, 61)] (.ref v0) h).bind fun r6 => (dx_gI [(38, 60)] (.ref v0) h).bind fun x7 => (dx_gA [(38, 56)] (.ref v0) h).bind fun r8 => (dx_lI 0 r8 v6 h).bind fun x9 => (dx_sI 0 r6 ((6 * x7) + v6) x9 h).bind fun h10 => (dx_gA [(38, 63)] (.ref v0) h10).bind fun r11 => (dx_gI [(38, 60)] (.ref v0) h10).bind fun x12 => (dx_gA [(38, 57)] (.ref v0) h10).bind fun r13 => (dx_lI 0 r13 v6 h10).bind fun x14 => (dx_sI 0 r11 ((6 * x12) + v6) x14 h10).bind fun h15 => dx_lt (v6 + 1) fun x16 => B_X3_addTest_161 K v0 x16 h15) (B_X3_addTest_161 K v0 v6 h) := by
  show dx_le _ (ax_run K P_X3_addTest 161 [some (.ref v0), none, none, none, none, none, some (.int v6)] [] h)
  refine e_iload rfl rfl ?_
  refine e_push rfl ?_
  refine e_if2 rfl rfl ?_ ?_
  · refine e_aload rfl rfl rfl ?_
    refine e_push rfl ?_
    refine e_putf rfl fun h1 => ?_
    refine e_aload rfl rfl rfl ?_
    refine e_push rfl ?_
    refine e_putf rfl fun h2 => ?_
    refine e_aload rfl rfl rfl ?_
    refine e_dup rfl rfl ?_
    refine e_getI rfl fun x3 => ?_
    refine e_push rfl ?_
    refine e_i2 rfl ?_
    refine e_putf rfl fun h4 => ?_
    refine e_aload rfl rfl rfl ?_
    refine e_getI rfl fun x5 => ?_
    refine e_push rfl ?_
    refine e_i2 rfl ?_
    exact e_iret rfl
  · refine e_aload rfl rfl rfl ?_
    refine e_getA rfl fun r6 hr6 => ?_
    refine e_push rfl ?_
    refine e_aload rfl rfl rfl ?_
    refine e_getI rfl fun x7 => ?_
    refine e_i2 rfl ?_
    refine e_iload rfl rfl ?_
    refine e_i2 rfl ?_
    refine e_aload rfl rfl rfl ?_
    refine e_getA rfl fun r8 hr8 => ?_
    refine e_iload rfl rfl ?_
    refine e_iald rfl fun x9 => ?_
    refine e_iastI rfl fun h10 => ?_
    refine e_aload rfl rfl rfl ?_
    refine e_getA rfl fun r11 hr11 => ?_
    refine e_push rfl ?_
    refine e_aload rfl rfl rfl ?_
    refine e_getI rfl fun x12 => ?_
    refine e_i2 rfl ?_
    refine e_iload rfl rfl ?_
    refine e_i2 rfl ?_
    refine e_aload rfl rfl rfl ?_
    refine e_getA rfl fun r13 hr13 => ?_
    refine e_iload rfl rfl ?_
    refine e_iald rfl fun x14 => ?_
    refine e_iastI rfl fun h15 => ?_
    refine e_iinc (M := fun x16 => [some (.ref v0), none, none, none, none, none, some (.int x16)]) rfl rfl (fun _ => dx_sto (Nat.le_of_ble_eq_true rfl) (Or.inr ⟨_, rfl, rfl⟩) rfl) fun x16 => ?_
    refine e_goto rfl ?_
    exact e_wk mP_X3_addTest (ll_1 (ll_0 (ll_0 (ll_0 (ll_0 (ll_0 (ll_1 ll_n)))))))
theorem m_X3_addTest {d : Nat} {v0 : Nat} {v1 : Int32} {v2 : Int32} {v3 : Int32} {v4 : Int32} {h : ax_H}  : dx_le (dx_cI ((ax_c d) 376 [.int v1, .int 1, .int 500] h) (fun x2 h1 => if x2 = 0 then B_X3_addTest_48 (ax_c d) 0 v0 v1 v2 v3 v4 h1 else dx_cI ((ax_c d) 376 [.int v2, .int 0, .int 100] h1) (fun x4 h3 => if x4 = 0 then B_X3_addTest_48 (ax_c d) 0 v0 v1 v2 v3 v4 h3 else dx_cI ((ax_c d) 376 [.int v3, .int 1, .int 20] h3) (fun x6 h5 => if x6 = 0 then B_X3_addTest_48 (ax_c d) 0 v0 v1 v2 v3 v4 h5 else dx_cI ((ax_c d) 376 [.int v4, .int 0, .int 500] h5) (fun x8 h7 => if x8 = 0 then B_X3_addTest_48 (ax_c d) 0 v0 v1 v2 v3 v4 h7 else B_X3_addTest_48 (ax_c d) 1 v0 v1 v2 v3 v4 h7) dx_x0) dx_x0) dx_x0) dx_x0) (ax_c (d + 1) 485 [.ref v0, .int v1, .int v2, .int v3, .int v4] h) := by
  refine e_entry (L' := [some (.ref v0), some (.int v1), some (.int v2), some (.int v3), some (.int v4), none, none]) rfl (ag_A rfl (ag_I (ag_I (ag_I (ag_I ag_n))))) (Nat.le_of_ble_eq_true rfl) rfl ?_
  refine e_iload rfl rfl ?_
  refine e_push rfl ?_
  refine e_push rfl ?_
  refine e_isI rfl (Nat.le_of_ble_eq_true rfl) rfl rfl (Nat.le_of_ble_eq_true rfl) (fun _ _ => e_x0) fun x2 h1 => ?_
  refine e_if1 rfl rfl ?_ ?_
  · refine e_push rfl ?_
    exact e_wk mP_X3_addTest (ll_1 (ll_1 (ll_1 (ll_1 (ll_1 (ll_0 (ll_0 ll_n)))))))
  · refine e_iload rfl rfl ?_
    refine e_push rfl ?_
    refine e_push rfl ?_
    refine e_isI rfl (Nat.le_of_ble_eq_true rfl) rfl rfl (Nat.le_of_ble_eq_true rfl) (fun _ _ => e_x0) fun x4 h3 => ?_
    refine e_if1 rfl rfl ?_ ?_
    · refine e_push rfl ?_
      exact e_wk mP_X3_addTest (ll_1 (ll_1 (ll_1 (ll_1 (ll_1 (ll_0 (ll_0 ll_n)))))))
    · refine e_iload rfl rfl ?_
      refine e_push rfl ?_
      refine e_push rfl ?_
      refine e_isI rfl (Nat.le_of_ble_eq_true rfl) rfl rfl (Nat.le_of_ble_eq_true rfl) (fun _ _ => e_x0) fun x6 h5 => ?_
      refine e_if1 rfl rfl ?_ ?_
      · refine e_push rfl ?_
        exact e_wk mP_X3_addTest (ll_1 (ll_1 (ll_1 (ll_1 (ll_1 (ll_0 (ll_0 ll_n)))))))
      · refine e_iload rfl rfl ?_
        refine e_push rfl ?_
        refine e_push rfl ?_
        refine e_isI rfl (Nat.le_of_ble_eq_true rfl) rfl rfl (Nat.le_of_ble_eq_true rfl) (fun _ _ => e_x0) fun x8 h7 => ?_
        refine e_if1 rfl rfl ?_ ?_
        · refine e_push rfl ?_
          exact e_wk mP_X3_addTest (ll_1 (ll_1 (ll_1 (ll_1 (ll_1 (ll_0 (ll_0 ll_n)))))))
        · refine e_push rfl ?_
          refine e_goto rfl ?_
          exact e_wk mP_X3_addTest (ll_1 (ll_1 (ll_1 (ll_1 (ll_1 (ll_0 (ll_0 ll_n)))))))
theorem m_X3_tests {d : Nat} {v0 : Nat} {h : ax_H}  : dx_le ((dx_pF [(38, 0)] (.int) (.ref v0) (.int 0) h).bind fun h1 => (dx_gI [(38, 60)] (.ref v0) h1).bind fun x2 => some (.inl (some (.int x2)), h1)) (ax_c (d + 1) 486 [.ref v0] h) := by
  refine e_entry (L' := [some (.ref v0)]) rfl (ag_A rfl ag_n) (Nat.le_of_ble_eq_true rfl) rfl ?_
  refine e_aload rfl rfl rfl ?_
  refine e_push rfl ?_
  refine e_putf rfl fun h1 => ?_
  refine e_aload rfl rfl rfl ?_
  refine e_getI rfl fun x2 => ?_
  exact e_iret rfl
noncomputable def B_X3_submit_13 (K : ax_K) (s0 : Nat) (s1 : Int32) (v0 : Nat) (h : ax_H) : Option ax_R := ax_run K P_X3_submit 13 [some (.ref v0), none, none, none, none, none, none] [.int s1, .ref s0] h
noncomputable def B_X3_submit_56 (K : ax_K) (v0 : Nat) (v1 : Int32) (v2 : Int32) (v3 : Int32) (v4 : Int32) (v5 : Int32) (h : ax_H) : Option ax_R := ax_run K P_X3_submit 56 [some (.ref v0), some (.int v1), some (.int v2), some (.int v3), some (.int v4), some (.int v5), none] [] h
noncomputable def B_X3_submit_103 (K : ax_K) (v0 : Nat) (v1 : Int32) (v2 : Int32) (v3 : Int32) (v4 : Int32) (v5 : Int32) (v6 : Int32) (h : ax_H) : Option ax_R := ax_run K P_X3_submit 103 [some (.ref v0), some (.int v1), some (.int v2), some (.int v3), some (.int v4), some (.int v5), some (.int v6)] [] h
noncomputable def B_X3_submit_156 (K : ax_K) (s0 : Value) (s1 : Int32) (s2 : Int32) (v0 : Nat) (v1 : Int32) (v2 : Int32) (v3 : Int32) (v4 : Int32) (v5 : Int32) (v6 : Int32) (h : ax_H) : Option ax_R := ax_run K P_X3_submit 156 [some (.ref v0), some (.int v1), some (.int v2), some (.int v3), some (.int v4), some (.int v5), some (.int v6)] [.int s2, .int s1, s0] h
noncomputable def B_X3_submit_192 (K : ax_K) (v0 : Nat) (v1 : Int32) (v2 : Int32) (v3 : Int32) (v5 : Int32) (v6 : Int32) (h : ax_H) : Option ax_R := ax_run K P_X3_submit 192 [some (.ref v0), some (.int v1), some (.int v2), some (.int v3), none, some (.int v5), some (.int v6)] [] h
theorem b_X3_submit_13 {K : ax_K} {s0 : Nat} {s1 : Int32} {v0 : Nat} {h : ax_H}  : dx_le ((dx_vn [(38, 378)] (.ref s0) h).bind fun k => dx_cI (K k [.ref s0, .int s1] h) (fun x2 h1 => if ¬ x2 = 0 then (dx_vn [(38, 405)] (.ref v0) h1).bind fun k => dx_cI (K k [.ref v0] h1) (fun x4 h3 => (dx_gI [(38, 38)] (.ref v0) h3).bind fun x5 => (dx_gI [(38, 52)] (.ref v0) h3).bind fun x6 => (dx_gI [(38, 43)] (.ref v0) h3).bind fun x7 => (dx_gA [(38, 50)] (.ref v0) h3).bind fun r8 => (dx_gA [(38, 71)] (.ref v0) h3).bind fun r9 => dx_cV (K 409 [r8, r9] h3) (fun h10 => B_X3_submit_56 K v0 x4 x5 x6 x7 0 h10) dx_x0) dx_x0 else some (.inl (some (.int 0)), h1)) dx_x0) (B_X3_submit_13 K s0 s1 v0 h) := by
  show dx_le _ (ax_run K P_X3_submit 13 [some (.ref v0), none, none, none, none, none, none] [.int s1, .ref s0] h)
  refine e_ivI rfl rfl rfl (Nat.le_of_ble_eq_true rfl) (fun _ _ => e_x0) fun x2 h1 => ?_
  refine e_if1 rfl rfl ?_ ?_
  · refine e_aload rfl rfl rfl ?_
    refine e_ivI rfl rfl rfl (Nat.le_of_ble_eq_true rfl) (fun _ _ => e_x0) fun x4 h3 => ?_
    refine e_istore (L' := [some (.ref v0), some (.int x4), none, none, none, none, none]) rfl (dx_sto (Nat.le_of_ble_eq_true rfl) (Or.inr ⟨_, rfl, rfl⟩) rfl) ?_
    refine e_aload rfl rfl rfl ?_
    refine e_getI rfl fun x5 => ?_
    refine e_istore (L' := [some (.ref v0), some (.int x4), some (.int x5), none, none, none, none]) rfl (dx_sto (Nat.le_of_ble_eq_true rfl) (Or.inr ⟨_, rfl, rfl⟩) rfl) ?_
    refine e_aload rfl rfl rfl ?_
    refine e_getI rfl fun x6 => ?_
    refine e_istore (L' := [some (.ref v0), some (.int x4), some (.int x5), some (.int x6), none, none, none]) rfl (dx_sto (Nat.le_of_ble_eq_true rfl) (Or.inr ⟨_, rfl, rfl⟩) rfl) ?_
    refine e_aload rfl rfl rfl ?_
    refine e_getI rfl fun x7 => ?_
    refine e_istore (L' := [some (.ref v0), some (.int x4), some (.int x5), some (.int x6), some (.int x7), none, none]) rfl (dx_sto (Nat.le_of_ble_eq_true rfl) (Or.inr ⟨_, rfl, rfl⟩) rfl) ?_
    refine e_aload rfl rfl rfl ?_
    refine e_getA rfl fun r8 hr8 => ?_
    refine e_aload rfl rfl rfl ?_
    refine e_getA rfl fun r9 hr9 => ?_
    refine e_isV rfl (Nat.le_of_ble_eq_true rfl) rfl rfl (Nat.le_of_ble_eq_true rfl) (fun _ _ => e_x0) fun h10 => ?_
    refine e_push rfl ?_
    refine e_istore (L' := [some (.ref v0), some (.int x4), some (.int x5), some (.int x6), some (.int x7), some (.int 0), none]) rfl (dx_sto (Nat.le_of_ble_eq_true rfl) (Or.inr ⟨_, rfl, rfl⟩) rfl) ?_
    exact e_wk mP_X3_submit (ll_1 (ll_1 (ll_1 (ll_1 (ll_1 (ll_1 (ll_0 ll_n)))))))
  · refine e_push rfl ?_
    exact e_iret rfl
theorem b_X3_submit_56 {K : ax_K} {v0 : Nat} {v1 : Int32} {v2 : Int32} {v3 : Int32} {v4 : Int32} {v5 : Int32} {h : ax_H}  : dx_le (if (20 : Int32) ≤ v5 then B_X3_submit_103 K v0 v1 v2 v3 v4 0 0 h else (dx_gA [(38, 72)] (.ref v0) h).bind fun r1 => (dx_gA [(38, 41)] (.ref v0) h).bind fun r2 => (dx_lI 0 r2 v5 h).bind fun x3 => (dx_sI 0 r1 v5 x3 h).bind fun h4 => (dx_gA [(38, 73)] (.ref v0) h4).bind fun r5 => (dx_gA [(38, 42)] (.ref v0) h4).bind fun r6 => (dx_lI 0 r6 v5 h4).bind fun x7 => (dx_sI 0 r5 v5 x7 h4).bind fun h8 => dx_lt (v5 + 1) fun x9 => B_X3_submit_56 K v0 v1 v2 v3 v4 x9 h8) (B_X3_submit_56 K v0 v1 v2 v3 v4 v5 h) := by
  show dx_le _ (ax_run K P_X3_submit 56 [some (.ref v0), some (.int v1), some (.int v2), some (.int v3), some (.int v4), some (.int v5), none] [] h)
  refine e_iload rfl rfl ?_
  refine e_push rfl ?_
  refine e_if2 rfl rfl ?_ ?_
  · refine e_push rfl ?_
    refine e_istore (L' := [some (.ref v0), some (.int v1), some (.int v2), some (.int v3), some (.int v4), some (.int 0), none]) rfl (dx_sto (Nat.le_of_ble_eq_true rfl) (Or.inr ⟨_, rfl, rfl⟩) rfl) ?_
    refine e_push rfl ?_
    refine e_istore (L' := [some (.ref v0), some (.int v1), some (.int v2), some (.int v3), some (.int v4), some (.int 0), some (.int 0)]) rfl (dx_sto (Nat.le_of_ble_eq_true rfl) (Or.inr ⟨_, rfl, rfl⟩) rfl) ?_
    exact e_wk mP_X3_submit (ll_1 (ll_1 (ll_1 (ll_1 (ll_1 (ll_1 (ll_1 ll_n)))))))
  · refine e_aload rfl rfl rfl ?_
    refine e_getA rfl fun r1 hr1 => ?_
    refine e_iload rfl rfl ?_
    refine e_aload rfl rfl rfl ?_
    refine e_getA rfl fun r2 hr2 => ?_
    refine e_iload rfl rfl ?_
    refine e_iald rfl fun x3 => ?_
    refine e_iastI rfl fun h4 => ?_
    refine e_aload rfl rfl rfl ?_
    refine e_getA rfl fun r5 hr5 => ?_
    refine e_iload rfl rfl ?_
    refine e_aload rfl rfl rfl ?_
    refine e_getA rfl fun r6 hr6 => ?_
    refine e_iload rfl rfl ?_
    refine e_iald rfl fun x7 => ?_
    refine e_iastI rfl fun h8 => ?_
    refine e_iinc (M := fun x9 => [some (.ref v0), some (.int v1), some (.int v2), some (.int v3), some (.int v4), some (.int x9), none]) rfl rfl (fun _ => dx_sto (Nat.le_of_ble_eq_true rfl) (Or.inr ⟨_, rfl, rfl⟩) rfl) fun x9 => ?_
    refine e_goto rfl ?_
    exact e_wk mP_X3_submit (ll_1 (ll_1 (ll_1 (ll_1 (ll_1 (ll_1 (ll_0 ll_n)))))))
theorem b_X3_submit_103 {K : ax_K} {v0 : Nat} {v1 : Int32} {v2 : Int32} {v3 : Int32} {v4 : Int32} {v5 : Int32} {v6 : Int32} {h : ax_H}  : dx_le ((dx_gI [(38, 60)] (.ref v0) h).bind fun x1 => if x1 ≤ v6 then (dx_pF [(38, 43)] (.int) (.ref v0) (.int v4) h).bind fun h2 => B_X3_submit_192 K v0 v1 v2 v3 v5 0 h2 else (dx_gA [(38, 69)] (.ref v0) h).bind fun r3 => (dx_vn [(38, 488)] (.ref v0) h).bind fun k => dx_cI (K k [.ref v0, .int v6] h) (fun x5 h4 => (dx_sI 0 r3 v6 x5 h4).bind fun h6 => (dx_gA [(38, 70)] (.ref v0) h6).bind fun r7 => (dx_gA [(38, 70)] (.ref v0) h6).bind fun r8 => (dx_lI 2 r8 v6 h6).bind fun x9 => if ¬ x9 = 0 then B_X3_submit_156 K r7 v6 1 v0 v1 v2 v3 v4 v5 v6 h6 else (dx_gA [(38, 69)] (.ref v0) h6).bind fun r10 => (dx_lI 0 r10 v6 h6).bind fun x11 => if ¬ x11 = 0 then B_X3_submit_156 K r7 v6 0 v0 v1 v2 v3 v4 v5 v6 h6 else B_X3_submit_156 K r7 v6 1 v0 v1 v2 v3 v4 v5 v6 h6) dx_x0) (B_X3_submit_103 K v0 v1 v2 v3 v4 v5 v6 h) := by
  show dx_le _ (ax_run K P_X3_submit 103 [some (.ref v0), some (.int v1), some (.int v2), some (.int v3), some (.int v4), some (.int v5), some (.int v6)] [] h)
  refine e_iload rfl rfl ?_
  refine e_aload rfl rfl rfl ?_
  refine e_getI rfl fun x1 => ?_
  refine e_if2 rfl rfl ?_ ?_
  · refine e_aload rfl rfl rfl ?_
    refine e_iload rfl rfl ?_
    refine e_putf rfl fun h2 => ?_
    refine e_push rfl ?_
    refine e_istore (L' := [some (.ref v0), some (.int v1), some (.int v2), some (.int v3), some (.int v4), some (.int v5), some (.int 0)]) rfl (dx_sto (Nat.le_of_ble_eq_true rfl) (Or.inr ⟨_, rfl, rfl⟩) rfl) ?_
    exact e_wk mP_X3_submit (ll_1 (ll_1 (ll_1 (ll_1 (ll_0 (ll_1 (ll_1 ll_n)))))))
  · refine e_aload rfl rfl rfl ?_
    refine e_getA rfl fun r3 hr3 => ?_
    refine e_iload rfl rfl ?_
    refine e_aload rfl rfl rfl ?_
    refine e_iload rfl rfl ?_
    refine e_ivI rfl rfl rfl (Nat.le_of_ble_eq_true rfl) (fun _ _ => e_x0) fun x5 h4 => ?_
    refine e_iastI rfl fun h6 => ?_
    refine e_aload rfl rfl rfl ?_
    refine e_getA rfl fun r7 hr7 => ?_
    refine e_iload rfl rfl ?_
    refine e_aload rfl rfl rfl ?_
    refine e_getA rfl fun r8 hr8 => ?_
    refine e_iload rfl rfl ?_
    refine e_iald rfl fun x9 => ?_
    refine e_if1 rfl rfl ?_ ?_
    · refine e_push rfl ?_
      refine e_goto rfl ?_
      exact e_wk mP_X3_submit (ll_1 (ll_1 (ll_1 (ll_1 (ll_1 (ll_1 (ll_1 ll_n)))))))
    · refine e_aload rfl rfl rfl ?_
      refine e_getA rfl fun r10 hr10 => ?_
      refine e_iload rfl rfl ?_
      refine e_iald rfl fun x11 => ?_
      refine e_if1 rfl rfl ?_ ?_
      · refine e_push rfl ?_
        exact e_wk mP_X3_submit (ll_1 (ll_1 (ll_1 (ll_1 (ll_1 (ll_1 (ll_1 ll_n)))))))
      · refine e_push rfl ?_
        refine e_goto rfl ?_
        exact e_wk mP_X3_submit (ll_1 (ll_1 (ll_1 (ll_1 (ll_1 (ll_1 (ll_1 ll_n)))))))
theorem b_X3_submit_156 {K : ax_K} {s0 : Value} {s1 : Int32} {s2 : Int32} {v0 : Nat} {v1 : Int32} {v2 : Int32} {v3 : Int32} {v4 : Int32} {v5 : Int32} {v6 : Int32} {h : ax_H} (hs0 : ax_rv s0 = true) : dx_le ((dx_sI 2 s0 s1 (vp_nar .boolean s2) h).bind fun h1 => (dx_gA [(38, 69)] (.ref v0) h1).bind fun r2 => (dx_lI 0 r2 v6 h1).bind fun x3 => if ¬ x3 = 0 then dx_lt (v5 + 0) fun x4 => dx_lt (v6 + 1) fun x5 => B_X3_submit_103 K v0 v1 v2 v3 v4 x4 x5 h1 else dx_lt (v5 + 1) fun x6 => dx_lt (v6 + 1) fun x7 => B_X3_submit_103 K v0 v1 v2 v3 v4 x6 x7 h1) (B_X3_submit_156 K s0 s1 s2 v0 v1 v2 v3 v4 v5 v6 h) := by
  show dx_le _ (ax_run K P_X3_submit 156 [some (.ref v0), some (.int v1), some (.int v2), some (.int v3), some (.int v4), some (.int v5), some (.int v6)] [.int s2, .int s1, s0] h)
  refine e_iast (w := fun x => vp_nar .boolean x) rfl fun h1 => ?_
  refine e_iload rfl rfl ?_
  refine e_aload rfl rfl rfl ?_
  refine e_getA rfl fun r2 hr2 => ?_
  refine e_iload rfl rfl ?_
  refine e_iald rfl fun x3 => ?_
  refine e_if1 rfl rfl ?_ ?_
  · refine e_push rfl ?_
    refine e_i2 rfl ?_
    refine e_istoreL (M := fun x4 => [some (.ref v0), some (.int v1), some (.int v2), some (.int v3), some (.int v4), some (.int x4), some (.int v6)]) rfl (fun _ => dx_sto (Nat.le_of_ble_eq_true rfl) (Or.inr ⟨_, rfl, rfl⟩) rfl) fun x4 => ?_
    refine e_iinc (M := fun x5 => [some (.ref v0), some (.int v1), some (.int v2), some (.int v3), some (.int v4), some (.int x4), some (.int x5)]) rfl rfl (fun _ => dx_sto (Nat.le_of_ble_eq_true rfl) (Or.inr ⟨_, rfl, rfl⟩) rfl) fun x5 => ?_
    refine e_goto rfl ?_
    exact e_wk mP_X3_submit (ll_1 (ll_1 (ll_1 (ll_1 (ll_1 (ll_1 (ll_1 ll_n)))))))
  · refine e_push rfl ?_
    refine e_goto rfl ?_
    refine e_i2 rfl ?_
    refine e_istoreL (M := fun x6 => [some (.ref v0), some (.int v1), some (.int v2), some (.int v3), some (.int v4), some (.int x6), some (.int v6)]) rfl (fun _ => dx_sto (Nat.le_of_ble_eq_true rfl) (Or.inr ⟨_, rfl, rfl⟩) rfl) fun x6 => ?_
    refine e_iinc (M := fun x7 => [some (.ref v0), some (.int v1), some (.int v2), some (.int v3), some (.int v4), some (.int x6), some (.int x7)]) rfl rfl (fun _ => dx_sto (Nat.le_of_ble_eq_true rfl) (Or.inr ⟨_, rfl, rfl⟩) rfl) fun x7 => ?_
    refine e_goto rfl ?_
    exact e_wk mP_X3_submit (ll_1 (ll_1 (ll_1 (ll_1 (ll_1 (ll_1 (ll_1 ll_n)))))))
theorem b_X3_submit_192 {K : ax_K} {v0 : Nat} {v1 : Int32} {v2 : Int32} {v3 : Int32} {v5 : Int32} {v6 : Int32} {h : ax_H}  : dx_le (if (20 : Int32) ≤ v6 then (dx_vn [(38, 411)] (.ref v0) h).bind fun k => dx_cV (K k [.ref v0] h) (fun h1 => (dx_gA [(38, 71)] (.ref v0) h1).bind fun r2 => (dx_gA [(38, 50)] (.ref v0) h1).bind fun r3 => dx_cV (K 409 [r2, r3] h1) (fun h4 => (dx_pF [(38, 52)] (.int) (.ref v0) (.int v3) h4).bind fun h5 => if v1 = 0 then some (.inl (some (.int v5)), h5) else (dx_vn [(38, 452)] (.ref v0) h5).bind fun k => dx_cV (K k [.ref v0, .int v2] h5) (fun h6 => some (.inl (some (.int v5)), h6)) dx_x0) dx_x0) dx_x0 else (dx_gA [(38, 41)] (.ref v0) h).bind fun r7 => (dx_gA [(38, 72)] (.ref v0) h).bind fun r8 => (dx_lI 0 r8 v6 h).bind fun x9 => (dx_sI 0 r7 v6 x9 h).bind fun h10 => (dx_gA [(38, 42)] (.ref v0) h10).bind fun r11 => (dx_gA [(38, 73)] (.ref v0) h10).bind fun r12 => (dx_lI 0 r12 v6 h10).bind fun x13 => (dx_sI 0 r11 v6 x13 h10).bind fun h14 => dx_lt (v6 + 1) fun x15 => B_X3_submit_192 K v0 v1 v2 v3 v5 x15 h14) (B_X3_submit_192 K v0 v1 v2 v3 v5 v6 h) := by
  show dx_le _ (ax_run K P_X3_submit 192 [some (.ref v0), some (.int v1), some (.int v2), some (.int v3), none, some (.int v5), some (.int v6)] [] h)
  refine e_iload rfl rfl ?_
  refine e_push rfl ?_
  refine e_if2 rfl rfl ?_ ?_
  · refine e_aload rfl rfl rfl ?_
    refine e_ivV rfl rfl rfl (Nat.le_of_ble_eq_true rfl) (fun _ _ => e_x0) fun h1 => ?_
    refine e_aload rfl rfl rfl ?_
    refine e_getA rfl fun r2 hr2 => ?_
    refine e_aload rfl rfl rfl ?_
    refine e_getA rfl fun r3 hr3 => ?_
    refine e_isV rfl (Nat.le_of_ble_eq_true rfl) rfl rfl (Nat.le_of_ble_eq_true rfl) (fun _ _ => e_x0) fun h4 => ?_
    refine e_aload rfl rfl rfl ?_
    refine e_iload rfl rfl ?_
    refine e_putf rfl fun h5 => ?_
    refine e_iload rfl rfl ?_
    refine e_if1 rfl rfl ?_ ?_
    · refine e_iload rfl rfl ?_
      exact e_iret rfl
    · refine e_aload rfl rfl rfl ?_
      refine e_iload rfl rfl ?_
      refine e_ivV rfl rfl rfl (Nat.le_of_ble_eq_true rfl) (fun _ _ => e_x0) fun h6 => ?_
      refine e_iload rfl rfl ?_
      exact e_iret rfl
  · refine e_aload rfl rfl rfl ?_
    refine e_getA rfl fun r7 hr7 => ?_
    refine e_iload rfl rfl ?_
    refine e_aload rfl rfl rfl ?_
    refine e_getA rfl fun r8 hr8 => ?_
    refine e_iload rfl rfl ?_
    refine e_iald rfl fun x9 => ?_
    refine e_iastI rfl fun h10 => ?_
    refine e_aload rfl rfl rfl ?_
    refine e_getA rfl fun r11 hr11 => ?_
    refine e_iload rfl rfl ?_
    refine e_aload rfl rfl rfl ?_
    refine e_getA rfl fun r12 hr12 => ?_
    refine e_iload rfl rfl ?_
    refine e_iald rfl fun x13 => ?_
    refine e_iastI rfl fun h14 => ?_
    refine e_iinc (M := fun x15 => [some (.ref v0), some (.int v1), some (.int v2), some (.int v3), none, some (.int v5), some (.int x15)]) rfl rfl (fun _ => dx_sto (Nat.le_of_ble_eq_true rfl) (Or.inr ⟨_, rfl, rfl⟩) rfl) fun x15 => ?_
    refine e_goto rfl ?_
    exact e_wk mP_X3_submit (ll_1 (ll_1 (ll_1 (ll_1 (ll_0 (ll_1 (ll_1 ll_n)))))))
theorem m_X3_submit {d : Nat} {v0 : Nat} {h : ax_H}  : dx_le ((dx_gI [(38, 22)] (.ref v0) h).bind fun x1 => if x1 = 0 then B_X3_submit_13 (ax_c d) v0 1 v0 h else B_X3_submit_13 (ax_c d) v0 0 v0 h) (ax_c (d + 1) 487 [.ref v0] h) := by
  refine e_entry (L' := [some (.ref v0), none, none, none, none, none, none]) rfl (ag_A rfl ag_n) (Nat.le_of_ble_eq_true rfl) rfl ?_
  refine e_aload rfl rfl rfl ?_
  refine e_aload rfl rfl rfl ?_
  refine e_getI rfl fun x1 => ?_
  refine e_if1 rfl rfl ?_ ?_
  · refine e_push rfl ?_
    exact e_wk mP_X3_submit (ll_1 (ll_0 (ll_0 (ll_0 (ll_0 (ll_0 (ll_0 ll_n)))))))
  · refine e_push rfl ?_
    refine e_goto rfl ?_
    exact e_wk mP_X3_submit (ll_1 (ll_0 (ll_0 (ll_0 (ll_0 (ll_0 (ll_0 ll_n)))))))
noncomputable def B_X3_madeTest_16 (K : ax_K) (v0 : Nat) (v1 : Int32) (v2 : Int32) (h : ax_H) : Option ax_R := ax_run K P_X3_madeTest 16 [some (.ref v0), some (.int v1), some (.int v2)] [] h
noncomputable def B_X3_madeTest_68 (K : ax_K) (v0 : Nat) (v1 : Int32) (v2 : Int32) (h : ax_H) : Option ax_R := ax_run K P_X3_madeTest 68 [some (.ref v0), some (.int v1), some (.int v2)] [] h
noncomputable def B_X3_madeTest_132 (K : ax_K) (v0 : Nat) (v1 : Int32) (h : ax_H) : Option ax_R := ax_run K P_X3_madeTest 132 [some (.ref v0), some (.int v1), none] [] h
noncomputable def B_X3_madeTest_148 (K : ax_K) (v0 : Nat) (h : ax_H) : Option ax_R := ax_run K P_X3_madeTest 148 [some (.ref v0), none, none] [] h
theorem b_X3_madeTest_16 {K : ax_K} {v0 : Nat} {v1 : Int32} {v2 : Int32} {h : ax_H}  : dx_le ((dx_gI [(38, 43)] (.ref v0) h).bind fun x1 => if x1 ≤ v2 then (dx_gA [(38, 21)] (.ref v0) h).bind fun r2 => (dx_vn [(38, 410)] (.ref v0) h).bind fun k => dx_cV (K k [.ref v0, r2] h) (fun h3 => (dx_vn [(38, 449)] (.ref v0) h3).bind fun k => dx_cV (K k [.ref v0] h3) (fun h4 => B_X3_madeTest_68 K v0 v1 0 h4) dx_x0) dx_x0 else (dx_gA [(38, 41)] (.ref v0) h).bind fun r5 => (dx_sI 0 r5 v2 0 h).bind fun h6 => (dx_gA [(38, 42)] (.ref v0) h6).bind fun r7 => (dx_gA [(38, 61)] (.ref v0) h6).bind fun r8 => (dx_lI 0 r8 ((6 * v1) + v2) h6).bind fun x9 => (dx_sI 0 r7 v2 x9 h6).bind fun h10 => dx_lt (v2 + 1) fun x11 => B_X3_madeTest_16 K v0 v1 x11 h10) (B_X3_madeTest_16 K v0 v1 v2 h) := by
  show dx_le _ (ax_run K P_X3_madeTest 16 [some (.ref v0), some (.int v1), some (.int v2)] [] h)
  refine e_iload rfl rfl ?_
  refine e_aload rfl rfl rfl ?_
  refine e_getI rfl fun x1 => ?_
  refine e_if2 rfl rfl ?_ ?_
  · refine e_aload rfl rfl rfl ?_
    refine e_aload rfl rfl rfl ?_
    refine e_getA rfl fun r2 hr2 => ?_
    refine e_ivV rfl rfl rfl (Nat.le_of_ble_eq_true rfl) (fun _ _ => e_x0) fun h3 => ?_
    refine e_aload rfl rfl rfl ?_
    refine e_ivV rfl rfl rfl (Nat.le_of_ble_eq_true rfl) (fun _ _ => e_x0) fun h4 => ?_
    refine e_push rfl ?_
    refine e_istore (L' := [some (.ref v0), some (.int v1), some (.int 0)]) rfl (dx_sto (Nat.le_of_ble_eq_true rfl) (Or.inr ⟨_, rfl, rfl⟩) rfl) ?_
    exact e_wk mP_X3_madeTest (ll_1 (ll_1 (ll_1 ll_n)))
  · refine e_aload rfl rfl rfl ?_
    refine e_getA rfl fun r5 hr5 => ?_
    refine e_iload rfl rfl ?_
    refine e_push rfl ?_
    refine e_iastI rfl fun h6 => ?_
    refine e_aload rfl rfl rfl ?_
    refine e_getA rfl fun r7 hr7 => ?_
    refine e_iload rfl rfl ?_
    refine e_aload rfl rfl rfl ?_
    refine e_getA rfl fun r8 hr8 => ?_
    refine e_push rfl ?_
    refine e_iload rfl rfl ?_
    refine e_i2 rfl ?_
    refine e_iload rfl rfl ?_
    refine e_i2 rfl ?_
    refine e_iald rfl fun x9 => ?_
    refine e_iastI rfl fun h10 => ?_
    refine e_iinc (M := fun x11 => [some (.ref v0), some (.int v1), some (.int x11)]) rfl rfl (fun _ => dx_sto (Nat.le_of_ble_eq_true rfl) (Or.inr ⟨_, rfl, rfl⟩) rfl) fun x11 => ?_
    refine e_goto rfl ?_
    exact e_wk mP_X3_madeTest (ll_1 (ll_1 (ll_1 ll_n)))
theorem b_X3_madeTest_68 {K : ax_K} {v0 : Nat} {v1 : Int32} {v2 : Int32} {h : ax_H}  : dx_le ((dx_gI [(38, 23)] (.ref v0) h).bind fun x1 => if ¬ x1 = 1 then B_X3_madeTest_132 K v0 v1 h else (dx_gA [(38, 65)] (.ref v0) h).bind fun r2 => (dx_lI 0 r2 v1 h).bind fun x3 => if x3 ≤ v2 then B_X3_madeTest_132 K v0 v1 h else (dx_vn [(38, 419)] (.ref v0) h).bind fun k => dx_cV (K k [.ref v0] h) (fun h4 => dx_lt (v2 + 1) fun x5 => (dx_gA [(38, 68)] (.ref v0) h4).bind fun r6 => (dx_lI 0 r6 v1 h4).bind fun x7 => if ¬ x5 = x7 then B_X3_madeTest_68 K v0 v1 x5 h4 else (dx_gI [(38, 23)] (.ref v0) h4).bind fun x8 => if ¬ x8 = 1 then B_X3_madeTest_68 K v0 v1 x5 h4 else (dx_vn [(38, 406)] (.ref v0) h4).bind fun k => dx_cI (K k [.ref v0] h4) (fun x10 h9 => (dx_pF [(38, 43)] (.int) (.ref v0) (.int 0) h9).bind fun h11 => (dx_gA [(38, 21)] (.ref v0) h11).bind fun r12 => (dx_vn [(38, 410)] (.ref v0) h11).bind fun k => dx_cV (K k [.ref v0, r12] h11) (fun h13 => B_X3_madeTest_68 K v0 v1 x5 h13) dx_x0) dx_x0) dx_x0) (B_X3_madeTest_68 K v0 v1 v2 h) := by
  show dx_le _ (ax_run K P_X3_madeTest 68 [some (.ref v0), some (.int v1), some (.int v2)] [] h)
  refine e_aload rfl rfl rfl ?_
  refine e_getI rfl fun x1 => ?_
  refine e_push rfl ?_
  refine e_if2 rfl rfl ?_ ?_
  · exact e_wk mP_X3_madeTest (ll_1 (ll_1 (ll_0 ll_n)))
  · refine e_iload rfl rfl ?_
    refine e_aload rfl rfl rfl ?_
    refine e_getA rfl fun r2 hr2 => ?_
    refine e_iload rfl rfl ?_
    refine e_iald rfl fun x3 => ?_
    refine e_if2 rfl rfl ?_ ?_
    · exact e_wk mP_X3_madeTest (ll_1 (ll_1 (ll_0 ll_n)))
    · refine e_aload rfl rfl rfl ?_
      refine e_ivV rfl rfl rfl (Nat.le_of_ble_eq_true rfl) (fun _ _ => e_x0) fun h4 => ?_
      refine e_iinc (M := fun x5 => [some (.ref v0), some (.int v1), some (.int x5)]) rfl rfl (fun _ => dx_sto (Nat.le_of_ble_eq_true rfl) (Or.inr ⟨_, rfl, rfl⟩) rfl) fun x5 => ?_
      refine e_iload rfl rfl ?_
      refine e_aload rfl rfl rfl ?_
      refine e_getA rfl fun r6 hr6 => ?_
      refine e_iload rfl rfl ?_
      refine e_iald rfl fun x7 => ?_
      refine e_if2 rfl rfl ?_ ?_
      · exact e_wk mP_X3_madeTest (ll_1 (ll_1 (ll_1 ll_n)))
      · refine e_aload rfl rfl rfl ?_
        refine e_getI rfl fun x8 => ?_
        refine e_push rfl ?_
        refine e_if2 rfl rfl ?_ ?_
        · exact e_wk mP_X3_madeTest (ll_1 (ll_1 (ll_1 ll_n)))
        · refine e_aload rfl rfl rfl ?_
          refine e_ivI rfl rfl rfl (Nat.le_of_ble_eq_true rfl) (fun _ _ => e_x0) fun x10 h9 => ?_
          refine e_pop rfl rfl ?_
          refine e_aload rfl rfl rfl ?_
          refine e_push rfl ?_
          refine e_putf rfl fun h11 => ?_
          refine e_aload rfl rfl rfl ?_
          refine e_aload rfl rfl rfl ?_
          refine e_getA rfl fun r12 hr12 => ?_
          refine e_ivV rfl rfl rfl (Nat.le_of_ble_eq_true rfl) (fun _ _ => e_x0) fun h13 => ?_
          refine e_goto rfl ?_
          exact e_wk mP_X3_madeTest (ll_1 (ll_1 (ll_1 ll_n)))
theorem b_X3_madeTest_132 {K : ax_K} {v0 : Nat} {v1 : Int32} {h : ax_H}  : dx_le ((dx_gI [(38, 23)] (.ref v0) h).bind fun x1 => if x1 = 3 then B_X3_madeTest_148 K v0 h else (dx_gI [(38, 23)] (.ref v0) h).bind fun x2 => if ¬ x2 = 1 then (dx_gI [(38, 52)] (.ref v0) h).bind fun x3 => (dx_gA [(38, 66)] (.ref v0) h).bind fun r4 => (dx_lI 0 r4 v1 h).bind fun x5 => if x3 ≤ x5 then (dx_vn [(38, 489)] (.ref v0) h).bind fun k => dx_cI (K k [.ref v0, .int v1] h) (fun x7 h6 => if ¬ x7 = 0 then (dx_vn [(38, 481)] (.ref v0) h6).bind fun k => dx_cI (K k [.ref v0] h6) (fun x9 h8 => if x9 = 0 then some (.inl (some (.int 5)), h8) else some (.inl (some (.int 0)), h8)) dx_x0 else some (.inl (some (.int 4)), h6)) dx_x0 else some (.inl (some (.int 3)), h) else B_X3_madeTest_148 K v0 h) (B_X3_madeTest_132 K v0 v1 h) := by
  show dx_le _ (ax_run K P_X3_madeTest 132 [some (.ref v0), some (.int v1), none] [] h)
  refine e_aload rfl rfl rfl ?_
  refine e_getI rfl fun x1 => ?_
  refine e_push rfl ?_
  refine e_if2 rfl rfl ?_ ?_
  · exact e_wk mP_X3_madeTest (ll_1 (ll_0 (ll_0 ll_n)))
  · refine e_aload rfl rfl rfl ?_
    refine e_getI rfl fun x2 => ?_
    refine e_push rfl ?_
    refine e_if2 rfl rfl ?_ ?_
    · refine e_aload rfl rfl rfl ?_
      refine e_getI rfl fun x3 => ?_
      refine e_aload rfl rfl rfl ?_
      refine e_getA rfl fun r4 hr4 => ?_
      refine e_iload rfl rfl ?_
      refine e_iald rfl fun x5 => ?_
      refine e_if2 rfl rfl ?_ ?_
      · refine e_aload rfl rfl rfl ?_
        refine e_iload rfl rfl ?_
        refine e_ivI rfl rfl rfl (Nat.le_of_ble_eq_true rfl) (fun _ _ => e_x0) fun x7 h6 => ?_
        refine e_if1 rfl rfl ?_ ?_
        · refine e_aload rfl rfl rfl ?_
          refine e_ivI rfl rfl rfl (Nat.le_of_ble_eq_true rfl) (fun _ _ => e_x0) fun x9 h8 => ?_
          refine e_if1 rfl rfl ?_ ?_
          · refine e_push rfl ?_
            exact e_iret rfl
          · refine e_push rfl ?_
            refine e_goto rfl ?_
            exact e_iret rfl
        · refine e_push rfl ?_
          refine e_goto rfl ?_
          exact e_iret rfl
      · refine e_push rfl ?_
        refine e_goto rfl ?_
        exact e_iret rfl
    · exact e_wk mP_X3_madeTest (ll_1 (ll_0 (ll_0 ll_n)))
theorem b_X3_madeTest_148 {K : ax_K} {v0 : Nat} {h : ax_H}  : dx_le ((dx_gI [(38, 23)] (.ref v0) h).bind fun x1 => if ¬ x1 = 3 then some (.inl (some (.int 2)), h) else some (.inl (some (.int 1)), h)) (B_X3_madeTest_148 K v0 h) := by
  show dx_le _ (ax_run K P_X3_madeTest 148 [some (.ref v0), none, none] [] h)
  refine e_aload rfl rfl rfl ?_
  refine e_getI rfl fun x1 => ?_
  refine e_push rfl ?_
  refine e_if2 rfl rfl ?_ ?_
  · refine e_push rfl ?_
    exact e_iret rfl
  · refine e_push rfl ?_
    refine e_goto rfl ?_
    exact e_iret rfl
theorem m_X3_madeTest {d : Nat} {v0 : Nat} {v1 : Int32} {h : ax_H}  : dx_le ((dx_vn [(38, 371)] (.ref v0) h).bind fun k => dx_cV ((ax_c d) k [.ref v0] h) (fun h1 => (dx_gA [(38, 62)] (.ref v0) h1).bind fun r2 => (dx_lI 0 r2 v1 h1).bind fun x3 => (dx_pF [(38, 43)] (.int) (.ref v0) (.int x3) h1).bind fun h4 => B_X3_madeTest_16 (ax_c d) v0 v1 0 h4) dx_x0) (ax_c (d + 1) 488 [.ref v0, .int v1] h) := by
  refine e_entry (L' := [some (.ref v0), some (.int v1), none]) rfl (ag_A rfl (ag_I ag_n)) (Nat.le_of_ble_eq_true rfl) rfl ?_
  refine e_aload rfl rfl rfl ?_
  refine e_ivV rfl rfl rfl (Nat.le_of_ble_eq_true rfl) (fun _ _ => e_x0) fun h1 => ?_
  refine e_aload rfl rfl rfl ?_
  refine e_aload rfl rfl rfl ?_
  refine e_getA rfl fun r2 hr2 => ?_
  refine e_iload rfl rfl ?_
  refine e_iald rfl fun x3 => ?_
  refine e_putf rfl fun h4 => ?_
  refine e_push rfl ?_
  refine e_istore (L' := [some (.ref v0), some (.int v1), some (.int 0)]) rfl (dx_sto (Nat.le_of_ble_eq_true rfl) (Or.inr ⟨_, rfl, rfl⟩) rfl) ?_
  exact e_wk mP_X3_madeTest (ll_1 (ll_1 (ll_1 ll_n)))
noncomputable def B_X3_isTapeOf_21 (K : ax_K) (v0 : Nat) (v1 : Int32) (v2 : Int32) (v3 : Int32) (h : ax_H) : Option ax_R := ax_run K P_X3_isTapeOf 21 [some (.ref v0), some (.int v1), some (.int v2), some (.int v3)] [] h
theorem b_X3_isTapeOf_21 {K : ax_K} {v0 : Nat} {v1 : Int32} {v2 : Int32} {v3 : Int32} {h : ax_H}  : dx_le ((dx_gI [(38, 37)] (.ref v0) h).bind fun x1 => if x1 ≤ v3 then if v2 = 0 ∨ v2 = 1 then some (.inl (some (.int v2)), h) else none else if v2 = 0 then if v2 = 0 ∨ v2 = 1 then some (.inl (some (.int v2)), h) else none else (dx_gA [(38, 36)] (.ref v0) h).bind fun r2 => (dx_lI 0 r2 v3 h).bind fun x3 => (dx_gA [(38, 63)] (.ref v0) h).bind fun r4 => (dx_lI 0 r4 ((6 * v1) + v3) h).bind fun x5 => if ¬ x3 = x5 then dx_lt (v3 + 1) fun x6 => B_X3_isTapeOf_21 K v0 v1 0 x6 h else dx_lt (v3 + 1) fun x7 => B_X3_isTapeOf_21 K v0 v1 1 x7 h) (B_X3_isTapeOf_21 K v0 v1 v2 v3 h) := by
  show dx_le _ (ax_run K P_X3_isTapeOf 21 [some (.ref v0), some (.int v1), some (.int v2), some (.int v3)] [] h)
  refine e_iload rfl rfl ?_
  refine e_aload rfl rfl rfl ?_
  refine e_getI rfl fun x1 => ?_
  refine e_if2 rfl rfl ?_ ?_
  · refine e_iload rfl rfl ?_
    exact e_zret rfl
  · refine e_iload rfl rfl ?_
    refine e_if1 rfl rfl ?_ ?_
    · refine e_iload rfl rfl ?_
      exact e_zret rfl
    · refine e_aload rfl rfl rfl ?_
      refine e_getA rfl fun r2 hr2 => ?_
      refine e_iload rfl rfl ?_
      refine e_iald rfl fun x3 => ?_
      refine e_aload rfl rfl rfl ?_
      refine e_getA rfl fun r4 hr4 => ?_
      refine e_push rfl ?_
      refine e_iload rfl rfl ?_
      refine e_i2 rfl ?_
      refine e_iload rfl rfl ?_
      refine e_i2 rfl ?_
      refine e_iald rfl fun x5 => ?_
      refine e_if2 rfl rfl ?_ ?_
      · refine e_push rfl ?_
        refine e_istore (L' := [some (.ref v0), some (.int v1), some (.int 0), some (.int v3)]) rfl (dx_sto (Nat.le_of_ble_eq_true rfl) (Or.inr ⟨_, rfl, rfl⟩) rfl) ?_
        refine e_iinc (M := fun x6 => [some (.ref v0), some (.int v1), some (.int 0), some (.int x6)]) rfl rfl (fun _ => dx_sto (Nat.le_of_ble_eq_true rfl) (Or.inr ⟨_, rfl, rfl⟩) rfl) fun x6 => ?_
        refine e_goto rfl ?_
        exact e_wk mP_X3_isTapeOf (ll_1 (ll_1 (ll_1 (ll_1 ll_n))))
      · refine e_push rfl ?_
        refine e_goto rfl ?_
        refine e_istore (L' := [some (.ref v0), some (.int v1), some (.int 1), some (.int v3)]) rfl (dx_sto (Nat.le_of_ble_eq_true rfl) (Or.inr ⟨_, rfl, rfl⟩) rfl) ?_
        refine e_iinc (M := fun x7 => [some (.ref v0), some (.int v1), some (.int 1), some (.int x7)]) rfl rfl (fun _ => dx_sto (Nat.le_of_ble_eq_true rfl) (Or.inr ⟨_, rfl, rfl⟩) rfl) fun x7 => ?_
        refine e_goto rfl ?_
        exact e_wk mP_X3_isTapeOf (ll_1 (ll_1 (ll_1 (ll_1 ll_n))))
theorem m_X3_isTapeOf {d : Nat} {v0 : Nat} {v1 : Int32} {h : ax_H}  : dx_le ((dx_gI [(38, 37)] (.ref v0) h).bind fun x1 => (dx_gA [(38, 64)] (.ref v0) h).bind fun r2 => (dx_lI 0 r2 v1 h).bind fun x3 => if ¬ x1 = x3 then B_X3_isTapeOf_21 (ax_c d) v0 v1 0 0 h else B_X3_isTapeOf_21 (ax_c d) v0 v1 1 0 h) (ax_c (d + 1) 489 [.ref v0, .int v1] h) := by
  refine e_entry (L' := [some (.ref v0), some (.int v1), none, none]) rfl (ag_A rfl (ag_I ag_n)) (Nat.le_of_ble_eq_true rfl) rfl ?_
  refine e_aload rfl rfl rfl ?_
  refine e_getI rfl fun x1 => ?_
  refine e_aload rfl rfl rfl ?_
  refine e_getA rfl fun r2 hr2 => ?_
  refine e_iload rfl rfl ?_
  refine e_iald rfl fun x3 => ?_
  refine e_if2 rfl rfl ?_ ?_
  · refine e_push rfl ?_
    refine e_istore (L' := [some (.ref v0), some (.int v1), some (.int 0), none]) rfl (dx_sto (Nat.le_of_ble_eq_true rfl) (Or.inr ⟨_, rfl, rfl⟩) rfl) ?_
    refine e_push rfl ?_
    refine e_istore (L' := [some (.ref v0), some (.int v1), some (.int 0), some (.int 0)]) rfl (dx_sto (Nat.le_of_ble_eq_true rfl) (Or.inr ⟨_, rfl, rfl⟩) rfl) ?_
    exact e_wk mP_X3_isTapeOf (ll_1 (ll_1 (ll_1 (ll_1 ll_n))))
  · refine e_push rfl ?_
    refine e_goto rfl ?_
    refine e_istore (L' := [some (.ref v0), some (.int v1), some (.int 1), none]) rfl (dx_sto (Nat.le_of_ble_eq_true rfl) (Or.inr ⟨_, rfl, rfl⟩) rfl) ?_
    refine e_push rfl ?_
    refine e_istore (L' := [some (.ref v0), some (.int v1), some (.int 1), some (.int 0)]) rfl (dx_sto (Nat.le_of_ble_eq_true rfl) (Or.inr ⟨_, rfl, rfl⟩) rfl) ?_
    exact e_wk mP_X3_isTapeOf (ll_1 (ll_1 (ll_1 (ll_1 ll_n))))
noncomputable def B_X3_result_20 (K : ax_K) (s0 : Nat) (s1 : Int32) (v0 : Nat) (v1 : Int32) (h : ax_H) : Option ax_R := ax_run K P_X3_result 20 [some (.ref v0), some (.int v1)] [.int s1, .ref s0] h
theorem b_X3_result_20 {K : ax_K} {s0 : Nat} {s1 : Int32} {v0 : Nat} {v1 : Int32} {h : ax_H}  : dx_le ((dx_vn [(38, 378)] (.ref s0) h).bind fun k => dx_cI (K k [.ref s0, .int s1] h) (fun x2 h1 => if x2 = 0 then some (.inl (some (.int 0)), h1) else (dx_gA [(38, 69)] (.ref v0) h1).bind fun r3 => (dx_lI 0 r3 v1 h1).bind fun x4 => some (.inl (some (.int x4)), h1)) dx_x0) (B_X3_result_20 K s0 s1 v0 v1 h) := by
  show dx_le _ (ax_run K P_X3_result 20 [some (.ref v0), some (.int v1)] [.int s1, .ref s0] h)
  refine e_ivI rfl rfl rfl (Nat.le_of_ble_eq_true rfl) (fun _ _ => e_x0) fun x2 h1 => ?_
  refine e_if1 rfl rfl ?_ ?_
  · refine e_push rfl ?_
    exact e_iret rfl
  · refine e_aload rfl rfl rfl ?_
    refine e_getA rfl fun r3 hr3 => ?_
    refine e_iload rfl rfl ?_
    refine e_iald rfl fun x4 => ?_
    refine e_goto rfl ?_
    exact e_iret rfl
theorem m_X3_result {d : Nat} {v0 : Nat} {v1 : Int32} {h : ax_H}  : dx_le ((dx_gI [(38, 60)] (.ref v0) h).bind fun x1 => dx_cI ((ax_c d) 376 [.int v1, .int 0, .int (x1 - 1)] h) (fun x3 h2 => if x3 = 0 then B_X3_result_20 (ax_c d) v0 1 v0 v1 h2 else B_X3_result_20 (ax_c d) v0 0 v0 v1 h2) dx_x0) (ax_c (d + 1) 490 [.ref v0, .int v1] h) := by
  refine e_entry (L' := [some (.ref v0), some (.int v1)]) rfl (ag_A rfl (ag_I ag_n)) (Nat.le_of_ble_eq_true rfl) rfl ?_
  refine e_aload rfl rfl rfl ?_
  refine e_iload rfl rfl ?_
  refine e_push rfl ?_
  refine e_aload rfl rfl rfl ?_
  refine e_getI rfl fun x1 => ?_
  refine e_push rfl ?_
  refine e_i2 rfl ?_
  refine e_isI rfl (Nat.le_of_ble_eq_true rfl) rfl rfl (Nat.le_of_ble_eq_true rfl) (fun _ _ => e_x0) fun x3 h2 => ?_
  refine e_if1 rfl rfl ?_ ?_
  · refine e_push rfl ?_
    exact e_wk mP_X3_result (ll_1 (ll_1 ll_n))
  · refine e_push rfl ?_
    refine e_goto rfl ?_
    exact e_wk mP_X3_result (ll_1 (ll_1 ll_n))
noncomputable def B_X3_mark_9 (K : ax_K) (v0 : Nat) (v1 : Int32) (v2 : Int32) (h : ax_H) : Option ax_R := ax_run K P_X3_mark 9 [some (.ref v0), some (.int v1), some (.int v2)] [] h
theorem b_X3_mark_9 {K : ax_K} {v0 : Nat} {v1 : Int32} {v2 : Int32} {h : ax_H}  : dx_le ((dx_gI [(38, 60)] (.ref v0) h).bind fun x1 => if x1 ≤ v2 then if (0 : Int32) ≤ v1 then some (.inl (some (.int v1)), h) else some (.inl (some (.int 0)), h) else (dx_gA [(38, 69)] (.ref v0) h).bind fun r2 => (dx_lI 0 r2 v2 h).bind fun x3 => if ¬ x3 = 0 then (dx_gA [(38, 69)] (.ref v0) h).bind fun r4 => (dx_lI 0 r4 v2 h).bind fun x5 => if x5 = (-1) then dx_lt (v1 + 0) fun x6 => dx_lt (v2 + 1) fun x7 => B_X3_mark_9 K v0 x6 x7 h else (dx_gA [(38, 70)] (.ref v0) h).bind fun r8 => (dx_lI 2 r8 v2 h).bind fun x9 => if x9 = 0 then dx_lt (v1 + 0) fun x10 => dx_lt (v2 + 1) fun x11 => B_X3_mark_9 K v0 x10 x11 h else (dx_gA [(38, 67)] (.ref v0) h).bind fun r12 => (dx_lI 0 r12 v2 h).bind fun x13 => dx_lt (v1 + (-((x13 + 1) / 2))) fun x14 => dx_lt (v2 + 1) fun x15 => B_X3_mark_9 K v0 x14 x15 h else (dx_gA [(38, 67)] (.ref v0) h).bind fun r16 => (dx_lI 0 r16 v2 h).bind fun x17 => dx_lt (v1 + x17) fun x18 => dx_lt (v2 + 1) fun x19 => B_X3_mark_9 K v0 x18 x19 h) (B_X3_mark_9 K v0 v1 v2 h) := by
  show dx_le _ (ax_run K P_X3_mark 9 [some (.ref v0), some (.int v1), some (.int v2)] [] h)
  refine e_iload rfl rfl ?_
  refine e_aload rfl rfl rfl ?_
  refine e_getI rfl fun x1 => ?_
  refine e_if2 rfl rfl ?_ ?_
  · refine e_iload rfl rfl ?_
    refine e_if1 rfl rfl ?_ ?_
    · refine e_iload rfl rfl ?_
      exact e_iret rfl
    · refine e_push rfl ?_
      refine e_goto rfl ?_
      exact e_iret rfl
  · refine e_iload rfl rfl ?_
    refine e_aload rfl rfl rfl ?_
    refine e_getA rfl fun r2 hr2 => ?_
    refine e_iload rfl rfl ?_
    refine e_iald rfl fun x3 => ?_
    refine e_if1 rfl rfl ?_ ?_
    · refine e_aload rfl rfl rfl ?_
      refine e_getA rfl fun r4 hr4 => ?_
      refine e_iload rfl rfl ?_
      refine e_iald rfl fun x5 => ?_
      refine e_push rfl ?_
      refine e_if2 rfl rfl ?_ ?_
      · refine e_push rfl ?_
        refine e_i2 rfl ?_
        refine e_istoreL (M := fun x6 => [some (.ref v0), some (.int x6), some (.int v2)]) rfl (fun _ => dx_sto (Nat.le_of_ble_eq_true rfl) (Or.inr ⟨_, rfl, rfl⟩) rfl) fun x6 => ?_
        refine e_iinc (M := fun x7 => [some (.ref v0), some (.int x6), some (.int x7)]) rfl rfl (fun _ => dx_sto (Nat.le_of_ble_eq_true rfl) (Or.inr ⟨_, rfl, rfl⟩) rfl) fun x7 => ?_
        refine e_goto rfl ?_
        exact e_wk mP_X3_mark (ll_1 (ll_1 (ll_1 ll_n)))
      · refine e_aload rfl rfl rfl ?_
        refine e_getA rfl fun r8 hr8 => ?_
        refine e_iload rfl rfl ?_
        refine e_iald rfl fun x9 => ?_
        refine e_if1 rfl rfl ?_ ?_
        · refine e_push rfl ?_
          refine e_i2 rfl ?_
          refine e_istoreL (M := fun x10 => [some (.ref v0), some (.int x10), some (.int v2)]) rfl (fun _ => dx_sto (Nat.le_of_ble_eq_true rfl) (Or.inr ⟨_, rfl, rfl⟩) rfl) fun x10 => ?_
          refine e_iinc (M := fun x11 => [some (.ref v0), some (.int x10), some (.int x11)]) rfl rfl (fun _ => dx_sto (Nat.le_of_ble_eq_true rfl) (Or.inr ⟨_, rfl, rfl⟩) rfl) fun x11 => ?_
          refine e_goto rfl ?_
          exact e_wk mP_X3_mark (ll_1 (ll_1 (ll_1 ll_n)))
        · refine e_aload rfl rfl rfl ?_
          refine e_getA rfl fun r12 hr12 => ?_
          refine e_iload rfl rfl ?_
          refine e_iald rfl fun x13 => ?_
          refine e_push rfl ?_
          refine e_i2 rfl ?_
          refine e_push rfl ?_
          refine e_idn rfl (by decide) ?_
          refine e_i1 rfl ?_
          refine e_goto rfl ?_
          refine e_i2 rfl ?_
          refine e_istoreL (M := fun x14 => [some (.ref v0), some (.int x14), some (.int v2)]) rfl (fun _ => dx_sto (Nat.le_of_ble_eq_true rfl) (Or.inr ⟨_, rfl, rfl⟩) rfl) fun x14 => ?_
          refine e_iinc (M := fun x15 => [some (.ref v0), some (.int x14), some (.int x15)]) rfl rfl (fun _ => dx_sto (Nat.le_of_ble_eq_true rfl) (Or.inr ⟨_, rfl, rfl⟩) rfl) fun x15 => ?_
          refine e_goto rfl ?_
          exact e_wk mP_X3_mark (ll_1 (ll_1 (ll_1 ll_n)))
    · refine e_aload rfl rfl rfl ?_
      refine e_getA rfl fun r16 hr16 => ?_
      refine e_iload rfl rfl ?_
      refine e_iald rfl fun x17 => ?_
      refine e_goto rfl ?_
      refine e_i2 rfl ?_
      refine e_istoreL (M := fun x18 => [some (.ref v0), some (.int x18), some (.int v2)]) rfl (fun _ => dx_sto (Nat.le_of_ble_eq_true rfl) (Or.inr ⟨_, rfl, rfl⟩) rfl) fun x18 => ?_
      refine e_iinc (M := fun x19 => [some (.ref v0), some (.int x18), some (.int x19)]) rfl rfl (fun _ => dx_sto (Nat.le_of_ble_eq_true rfl) (Or.inr ⟨_, rfl, rfl⟩) rfl) fun x19 => ?_
      refine e_goto rfl ?_
      exact e_wk mP_X3_mark (ll_1 (ll_1 (ll_1 ll_n)))
theorem m_X3_mark {d : Nat} {v0 : Nat} {h : ax_H}  : dx_le ((dx_pF [(38, 0)] (.int) (.ref v0) (.int 0) h).bind fun h1 => B_X3_mark_9 (ax_c d) v0 0 0 h1) (ax_c (d + 1) 491 [.ref v0] h) := by
  refine e_entry (L' := [some (.ref v0), none, none]) rfl (ag_A rfl ag_n) (Nat.le_of_ble_eq_true rfl) rfl ?_
  refine e_aload rfl rfl rfl ?_
  refine e_push rfl ?_
  refine e_putf rfl fun h1 => ?_
  refine e_push rfl ?_
  refine e_istore (L' := [some (.ref v0), some (.int 0), none]) rfl (dx_sto (Nat.le_of_ble_eq_true rfl) (Or.inr ⟨_, rfl, rfl⟩) rfl) ?_
  refine e_push rfl ?_
  refine e_istore (L' := [some (.ref v0), some (.int 0), some (.int 0)]) rfl (dx_sto (Nat.le_of_ble_eq_true rfl) (Or.inr ⟨_, rfl, rfl⟩) rfl) ?_
  exact e_wk mP_X3_mark (ll_1 (ll_1 (ll_1 ll_n)))
theorem m_X4_endsMacro {d : Nat} {v0 : Nat} {h : ax_H}  : dx_le (some (.inl (some (.int 0)), h)) (ax_c (d + 1) 492 [.ref v0] h) := by
  refine e_entry (L' := [some (.ref v0)]) rfl (ag_A rfl ag_n) (Nat.le_of_ble_eq_true rfl) rfl ?_
  refine e_push rfl ?_
  exact e_zret0 rfl
theorem m_X4_beginsMacro {d : Nat} {v0 : Nat} {h : ax_H}  : dx_le (some (.inl (some (.int 0)), h)) (ax_c (d + 1) 493 [.ref v0] h) := by
  refine e_entry (L' := [some (.ref v0)]) rfl (ag_A rfl ag_n) (Nat.le_of_ble_eq_true rfl) rfl ?_
  refine e_push rfl ?_
  exact e_zret0 rfl
theorem m_X4_init {d : Nat} {v0 : Nat} {h : ax_H}  : dx_le (dx_nn (.ref v0) (some (.inl none, h))) (ax_c (d + 1) 494 [.ref v0] h) := by
  refine e_entry (L' := [some (.ref v0)]) rfl (ag_A rfl ag_n) (Nat.le_of_ble_eq_true rfl) rfl ?_
  refine e_aload rfl rfl rfl ?_
  refine e_oin rfl (Nat.le_of_ble_eq_true rfl) ?_
  exact e_ret rfl
theorem m_X5_go {d : Nat} {v0 : Nat} {v1 : Value} {v2 : Value} {v3 : Int32} {h : ax_H} (hv1 : ax_rv v1 = true) (hv2 : ax_rv v2 = true) : dx_le ((dx_gI [(39, 0)] (.ref v0) h).bind fun x1 => (dx_pF [(27, 1), (30, 1)] (.int) v1 (.int x1) h).bind fun h2 => some (.inl (some (.int (v3 + 1))), h2)) (ax_c (d + 1) 495 [.ref v0, v1, v2, .int v3] h) := by
  refine e_entry (L' := [some (.ref v0), some (v1), some (v2), some (.int v3)]) rfl (ag_A rfl (ag_A hv1 (ag_A hv2 (ag_I ag_n)))) (Nat.le_of_ble_eq_true rfl) rfl ?_
  refine e_aload rfl rfl hv1 ?_
  refine e_aload rfl rfl rfl ?_
  refine e_getI rfl fun x1 => ?_
  refine e_putf rfl fun h2 => ?_
  refine e_iload rfl rfl ?_
  refine e_push rfl ?_
  refine e_i2 rfl ?_
  exact e_iret rfl
theorem m_X5_init {d : Nat} {v0 : Nat} {v1 : Value} {v2 : Int32} {h : ax_H} (hv1 : ax_rv v1 = true) : dx_le ((dx_pF [(39, 1)] (.object "KernelGym") (.ref v0) v1 h).bind fun h1 => (dx_pF [(39, 0)] (.int) (.ref v0) (.int v2) h1).bind fun h2 => dx_cV ((ax_c d) 494 [.ref v0] h2) (fun h3 => some (.inl none, h3)) dx_x0) (ax_c (d + 1) 496 [.ref v0, v1, .int v2] h) := by
  refine e_entry (L' := [some (.ref v0), some (v1), some (.int v2)]) rfl (ag_A rfl (ag_A hv1 (ag_I ag_n))) (Nat.le_of_ble_eq_true rfl) rfl ?_
  refine e_aload rfl rfl rfl ?_
  refine e_aload rfl rfl hv1 ?_
  refine e_putf rfl fun h1 => ?_
  refine e_aload rfl rfl rfl ?_
  refine e_iload rfl rfl ?_
  refine e_putf rfl fun h2 => ?_
  refine e_aload rfl rfl rfl ?_
  refine e_isprV rfl rfl rfl (Nat.le_of_ble_eq_true rfl) (fun _ _ => e_x0) fun h3 => ?_
  exact e_ret rfl
theorem m_X6_go {d : Nat} {v0 : Nat} {v1 : Value} {v2 : Value} {v3 : Int32} {h : ax_H} (hv1 : ax_rv v1 = true) (hv2 : ax_rv v2 = true) : dx_le ((dx_gI [(40, 0)] (.ref v0) h).bind fun x1 => (dx_vn [(27, 291), (30, 352)] v1 h).bind fun k => dx_cV ((ax_c d) k [v1, .int x1, v2, .int v3] h) (fun h2 => some (.inl (some (.int (v3 + 1))), h2)) dx_x0) (ax_c (d + 1) 497 [.ref v0, v1, v2, .int v3] h) := by
  refine e_entry (L' := [some (.ref v0), some (v1), some (v2), some (.int v3)]) rfl (ag_A rfl (ag_A hv1 (ag_A hv2 (ag_I ag_n)))) (Nat.le_of_ble_eq_true rfl) rfl ?_
  refine e_aload rfl rfl hv1 ?_
  refine e_aload rfl rfl rfl ?_
  refine e_getI rfl fun x1 => ?_
  refine e_aload rfl rfl hv2 ?_
  refine e_iload rfl rfl ?_
  refine e_ivV rfl rfl rfl (Nat.le_of_ble_eq_true rfl) (fun _ _ => e_x0) fun h2 => ?_
  refine e_iload rfl rfl ?_
  refine e_push rfl ?_
  refine e_i2 rfl ?_
  exact e_iret rfl
theorem m_X6_init {d : Nat} {v0 : Nat} {v1 : Value} {v2 : Int32} {h : ax_H} (hv1 : ax_rv v1 = true) : dx_le ((dx_pF [(40, 1)] (.object "KernelGym") (.ref v0) v1 h).bind fun h1 => (dx_pF [(40, 0)] (.int) (.ref v0) (.int v2) h1).bind fun h2 => dx_cV ((ax_c d) 494 [.ref v0] h2) (fun h3 => some (.inl none, h3)) dx_x0) (ax_c (d + 1) 498 [.ref v0, v1, .int v2] h) := by
  refine e_entry (L' := [some (.ref v0), some (v1), some (.int v2)]) rfl (ag_A rfl (ag_A hv1 (ag_I ag_n))) (Nat.le_of_ble_eq_true rfl) rfl ?_
  refine e_aload rfl rfl rfl ?_
  refine e_aload rfl rfl hv1 ?_
  refine e_putf rfl fun h1 => ?_
  refine e_aload rfl rfl rfl ?_
  refine e_iload rfl rfl ?_
  refine e_putf rfl fun h2 => ?_
  refine e_aload rfl rfl rfl ?_
  refine e_isprV rfl rfl rfl (Nat.le_of_ble_eq_true rfl) (fun _ _ => e_x0) fun h3 => ?_
  exact e_ret rfl
theorem m_X7_init {d : Nat} {v0 : Nat} {v1 : Int32} {v2 : Int32} {h : ax_H}  : dx_le (dx_nn (.ref v0) ((dx_pF [(41, 0)] (.int) (.ref v0) (.int v1) h).bind fun h1 => (dx_pF [(41, 1)] (.int) (.ref v0) (.int v2) h1).bind fun h2 => some (.inl none, h2))) (ax_c (d + 1) 499 [.ref v0, .int v1, .int v2] h) := by
  refine e_entry (L' := [some (.ref v0), some (.int v1), some (.int v2)]) rfl (ag_A rfl (ag_I (ag_I ag_n))) (Nat.le_of_ble_eq_true rfl) rfl ?_
  refine e_aload rfl rfl rfl ?_
  refine e_oin rfl (Nat.le_of_ble_eq_true rfl) ?_
  refine e_aload rfl rfl rfl ?_
  refine e_iload rfl rfl ?_
  refine e_putf rfl fun h1 => ?_
  refine e_aload rfl rfl rfl ?_
  refine e_iload rfl rfl ?_
  refine e_putf rfl fun h2 => ?_
  exact e_ret rfl
theorem m_X8_go {d : Nat} {v0 : Nat} {v1 : Value} {v2 : Value} {v3 : Int32} {h : ax_H} (hv1 : ax_rv v1 = true) (hv2 : ax_rv v2 = true) : dx_le ((dx_gI [(42, 0)] (.ref v0) h).bind fun x1 => (dx_gI [(42, 1)] (.ref v0) h).bind fun x2 => (dx_gI [(42, 2)] (.ref v0) h).bind fun x3 => (dx_vn [(27, 292), (30, 353)] v1 h).bind fun k => dx_cV ((ax_c d) k [v1, .int (((dx_shl x1 4) ||| (dx_shl x2 2)) ||| x3), .int v3] h) (fun h4 => (dx_gA [(42, 3)] (.ref v0) h4).bind fun r5 => (dx_vn [(27, 293), (30, 354)] v1 h4).bind fun k => dx_cI ((ax_c d) k [v1, r5, v2, .int v3] h4) (fun x7 h6 => (dx_vn [(27, 292), (30, 353)] v1 h6).bind fun k => dx_cV ((ax_c d) k [v1, .int x7, .int v3] h6) (fun h8 => some (.inl (some (.int (v3 + 1))), h8)) dx_x0) dx_x0) dx_x0) (ax_c (d + 1) 500 [.ref v0, v1, v2, .int v3] h) := by
  refine e_entry (L' := [some (.ref v0), some (v1), some (v2), some (.int v3)]) rfl (ag_A rfl (ag_A hv1 (ag_A hv2 (ag_I ag_n)))) (Nat.le_of_ble_eq_true rfl) rfl ?_
  refine e_aload rfl rfl hv1 ?_
  refine e_aload rfl rfl rfl ?_
  refine e_getI rfl fun x1 => ?_
  refine e_push rfl ?_
  refine e_shl rfl ?_
  refine e_aload rfl rfl rfl ?_
  refine e_getI rfl fun x2 => ?_
  refine e_push rfl ?_
  refine e_shl rfl ?_
  refine e_i2 rfl ?_
  refine e_aload rfl rfl rfl ?_
  refine e_getI rfl fun x3 => ?_
  refine e_i2 rfl ?_
  refine e_iload rfl rfl ?_
  refine e_ivV rfl rfl rfl (Nat.le_of_ble_eq_true rfl) (fun _ _ => e_x0) fun h4 => ?_
  refine e_aload rfl rfl hv1 ?_
  refine e_aload rfl rfl hv1 ?_
  refine e_aload rfl rfl rfl ?_
  refine e_getA rfl fun r5 hr5 => ?_
  refine e_aload rfl rfl hv2 ?_
  refine e_iload rfl rfl ?_
  refine e_ivI rfl rfl rfl (Nat.le_of_ble_eq_true rfl) (fun _ _ => e_x0) fun x7 h6 => ?_
  refine e_iload rfl rfl ?_
  refine e_ivV rfl rfl rfl (Nat.le_of_ble_eq_true rfl) (fun _ _ => e_x0) fun h8 => ?_
  refine e_iload rfl rfl ?_
  refine e_push rfl ?_
  refine e_i2 rfl ?_
  exact e_iret rfl
theorem m_X8_init {d : Nat} {v0 : Nat} {v1 : Value} {v2 : Int32} {v3 : Int32} {v4 : Int32} {v5 : Value} {h : ax_H} (hv1 : ax_rv v1 = true) (hv5 : ax_rv v5 = true) : dx_le ((dx_pF [(42, 4)] (.object "KernelGym") (.ref v0) v1 h).bind fun h1 => (dx_pF [(42, 0)] (.int) (.ref v0) (.int v2) h1).bind fun h2 => (dx_pF [(42, 1)] (.int) (.ref v0) (.int v3) h2).bind fun h3 => (dx_pF [(42, 2)] (.int) (.ref v0) (.int v4) h3).bind fun h4 => (dx_pF [(42, 3)] (.object "KernelGym$Operand") (.ref v0) v5 h4).bind fun h5 => dx_cV ((ax_c d) 494 [.ref v0] h5) (fun h6 => some (.inl none, h6)) dx_x0) (ax_c (d + 1) 501 [.ref v0, v1, .int v2, .int v3, .int v4, v5] h) := by
  refine e_entry (L' := [some (.ref v0), some (v1), some (.int v2), some (.int v3), some (.int v4), some (v5)]) rfl (ag_A rfl (ag_A hv1 (ag_I (ag_I (ag_I (ag_A hv5 ag_n)))))) (Nat.le_of_ble_eq_true rfl) rfl ?_
  refine e_aload rfl rfl rfl ?_
  refine e_aload rfl rfl hv1 ?_
  refine e_putf rfl fun h1 => ?_
  refine e_aload rfl rfl rfl ?_
  refine e_iload rfl rfl ?_
  refine e_putf rfl fun h2 => ?_
  refine e_aload rfl rfl rfl ?_
  refine e_iload rfl rfl ?_
  refine e_putf rfl fun h3 => ?_
  refine e_aload rfl rfl rfl ?_
  refine e_iload rfl rfl ?_
  refine e_putf rfl fun h4 => ?_
  refine e_aload rfl rfl rfl ?_
  refine e_aload rfl rfl hv5 ?_
  refine e_putf rfl fun h5 => ?_
  refine e_aload rfl rfl rfl ?_
  refine e_isprV rfl rfl rfl (Nat.le_of_ble_eq_true rfl) (fun _ _ => e_x0) fun h6 => ?_
  exact e_ret rfl
theorem m_X9_go {d : Nat} {v0 : Nat} {v1 : Value} {v2 : Value} {v3 : Int32} {h : ax_H} (hv1 : ax_rv v1 = true) (hv2 : ax_rv v2 = true) : dx_le ((dx_gA [(43, 0)] (.ref v0) h).bind fun r1 => (dx_vn [(27, 293), (30, 354)] v1 h).bind fun k => dx_cI ((ax_c d) k [v1, r1, v2, .int v3] h) (fun x3 h2 => (dx_vn [(27, 292), (30, 353)] v1 h2).bind fun k => dx_cV ((ax_c d) k [v1, .int x3, .int v3] h2) (fun h4 => some (.inl (some (.int (v3 + 1))), h4)) dx_x0) dx_x0) (ax_c (d + 1) 502 [.ref v0, v1, v2, .int v3] h) := by
  refine e_entry (L' := [some (.ref v0), some (v1), some (v2), some (.int v3)]) rfl (ag_A rfl (ag_A hv1 (ag_A hv2 (ag_I ag_n)))) (Nat.le_of_ble_eq_true rfl) rfl ?_
  refine e_aload rfl rfl hv1 ?_
  refine e_aload rfl rfl hv1 ?_
  refine e_aload rfl rfl rfl ?_
  refine e_getA rfl fun r1 hr1 => ?_
  refine e_aload rfl rfl hv2 ?_
  refine e_iload rfl rfl ?_
  refine e_ivI rfl rfl rfl (Nat.le_of_ble_eq_true rfl) (fun _ _ => e_x0) fun x3 h2 => ?_
  refine e_iload rfl rfl ?_
  refine e_ivV rfl rfl rfl (Nat.le_of_ble_eq_true rfl) (fun _ _ => e_x0) fun h4 => ?_
  refine e_iload rfl rfl ?_
  refine e_push rfl ?_
  refine e_i2 rfl ?_
  exact e_iret rfl
theorem m_X9_init {d : Nat} {v0 : Nat} {v1 : Value} {v2 : Value} {h : ax_H} (hv1 : ax_rv v1 = true) (hv2 : ax_rv v2 = true) : dx_le ((dx_pF [(43, 1)] (.object "KernelGym") (.ref v0) v1 h).bind fun h1 => (dx_pF [(43, 0)] (.object "KernelGym$Operand") (.ref v0) v2 h1).bind fun h2 => dx_cV ((ax_c d) 494 [.ref v0] h2) (fun h3 => some (.inl none, h3)) dx_x0) (ax_c (d + 1) 503 [.ref v0, v1, v2] h) := by
  refine e_entry (L' := [some (.ref v0), some (v1), some (v2)]) rfl (ag_A rfl (ag_A hv1 (ag_A hv2 ag_n))) (Nat.le_of_ble_eq_true rfl) rfl ?_
  refine e_aload rfl rfl rfl ?_
  refine e_aload rfl rfl hv1 ?_
  refine e_putf rfl fun h1 => ?_
  refine e_aload rfl rfl rfl ?_
  refine e_aload rfl rfl hv2 ?_
  refine e_putf rfl fun h2 => ?_
  refine e_aload rfl rfl rfl ?_
  refine e_isprV rfl rfl rfl (Nat.le_of_ble_eq_true rfl) (fun _ _ => e_x0) fun h3 => ?_
  exact e_ret rfl
