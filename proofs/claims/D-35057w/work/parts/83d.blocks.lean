/-! printed by gen/emit82.py -/
set_option maxRecDepth 100000
noncomputable def B_X2_serve_44 (K : ax_K) (v0 : Nat) (v1 : Int32) (v4 : Int32) (h : ax_H) : Option ax_R := ax_run K P_X2_serve 44 [some (.ref v0), some (.int v1), none, none, some (.int v4), none] [] h
noncomputable def B_X2_serve_64 (K : ax_K) (v0 : Nat) (h : ax_H) : Option ax_R := ax_run K P_X2_serve 64 [some (.ref v0), none, none, none, none, none] [] h
noncomputable def B_X2_serve_108 (K : ax_K) (v0 : Nat) (v4 : Int32) (h : ax_H) : Option ax_R := ax_run K P_X2_serve 108 [some (.ref v0), none, none, none, some (.int v4), none] [] h
noncomputable def B_X2_serve_125 (K : ax_K) (v0 : Nat) (v3 : Int32) (v4 : Int32) (h : ax_H) : Option ax_R := ax_run K P_X2_serve 125 [some (.ref v0), none, none, some (.int v3), some (.int v4), none] [] h
noncomputable def B_X2_serve_142 (K : ax_K) (v0 : Nat) (v2 : Int32) (v4 : Int32) (h : ax_H) : Option ax_R := ax_run K P_X2_serve 142 [some (.ref v0), none, some (.int v2), none, some (.int v4), none] [] h
noncomputable def B_X2_serve_154 (K : ax_K) (v0 : Nat) (v3 : Int32) (v4 : Int32) (h : ax_H) : Option ax_R := ax_run K P_X2_serve 154 [some (.ref v0), none, none, some (.int v3), some (.int v4), none] [] h
noncomputable def B_X2_serve_207 (K : ax_K) (v0 : Nat) (v3 : Int32) (v4 : Int32) (h : ax_H) : Option ax_R := ax_run K P_X2_serve 207 [some (.ref v0), none, none, some (.int v3), some (.int v4), none] [] h
theorem b_X2_serve_44 {K : ax_K} {v0 : Nat} {v1 : Int32} {v4 : Int32} {h : ax_H}  : dx_le (if ¬ v1 = 19 then (dx_vn [(29, 320)] (.ref v0) h).bind fun k => dx_cV (K k [.ref v0, .int 7, .int 0] h) (fun h1 => some (.inl (some (.int v4)), h1)) dx_x0 else (dx_vn [(29, 320)] (.ref v0) h).bind fun k => dx_cV (K k [.ref v0, .int 7, .int 1] h) (fun h2 => some (.inl (some (.int v4)), h2)) dx_x0) (B_X2_serve_44 K v0 v1 v4 h) := by
  show dx_le _ (ax_run K P_X2_serve 44 [some (.ref v0), some (.int v1), none, none, some (.int v4), none] [] h)
  refine e_aload rfl rfl rfl ?_
  refine e_push rfl ?_
  refine e_iload rfl rfl ?_
  refine e_push rfl ?_
  refine e_if2 rfl rfl ?_ ?_
  · refine e_push rfl ?_
    refine e_ivV rfl rfl rfl (Nat.le_of_ble_eq_true rfl) (fun _ _ => e_x0) fun h1 => ?_
    refine e_iload rfl rfl ?_
    exact e_iret rfl
  · refine e_push rfl ?_
    refine e_goto rfl ?_
    refine e_ivV rfl rfl rfl (Nat.le_of_ble_eq_true rfl) (fun _ _ => e_x0) fun h2 => ?_
    refine e_iload rfl rfl ?_
    exact e_iret rfl
theorem b_X2_serve_64 {K : ax_K} {v0 : Nat} {h : ax_H}  : dx_le ((dx_vn [(29, 330)] (.ref v0) h).bind fun k => dx_cV (K k [.ref v0, .int 2] h) (fun h1 => (dx_vn [(29, 331)] (.ref v0) h1).bind fun k => dx_cI (K k [.ref v0] h1) (fun x3 h2 => (dx_vn [(29, 320)] (.ref v0) h2).bind fun k => dx_cV (K k [.ref v0, .int 5, .int (x3 &&& 1)] h2) (fun h4 => (dx_vn [(29, 320)] (.ref v0) h4).bind fun k => dx_cV (K k [.ref v0, .int 6, .int ((dx_shr x3 1) &&& 1)] h4) (fun h5 => (dx_vn [(29, 320)] (.ref v0) h5).bind fun k => dx_cV (K k [.ref v0, .int 7, .int 1] h5) (fun h6 => (dx_vn [(29, 331)] (.ref v0) h6).bind fun k => dx_cI (K k [.ref v0] h6) (fun x8 h7 => some (.inl (some (.int x8)), h7)) dx_x0) dx_x0) dx_x0) dx_x0) dx_x0) dx_x0) (B_X2_serve_64 K v0 h) := by
  show dx_le _ (ax_run K P_X2_serve 64 [some (.ref v0), none, none, none, none, none] [] h)
  refine e_aload rfl rfl rfl ?_
  refine e_push rfl ?_
  refine e_ivV rfl rfl rfl (Nat.le_of_ble_eq_true rfl) (fun _ _ => e_x0) fun h1 => ?_
  refine e_aload rfl rfl rfl ?_
  refine e_ivI rfl rfl rfl (Nat.le_of_ble_eq_true rfl) (fun _ _ => e_x0) fun x3 h2 => ?_
  refine e_istore (L' := [some (.ref v0), none, none, none, none, some (.int x3)]) rfl (dx_sto (Nat.le_of_ble_eq_true rfl) (Or.inr ⟨_, rfl, rfl⟩) rfl) ?_
  refine e_aload rfl rfl rfl ?_
  refine e_push rfl ?_
  refine e_iload rfl rfl ?_
  refine e_push rfl ?_
  refine e_i2 rfl ?_
  refine e_ivV rfl rfl rfl (Nat.le_of_ble_eq_true rfl) (fun _ _ => e_x0) fun h4 => ?_
  refine e_aload rfl rfl rfl ?_
  refine e_push rfl ?_
  refine e_iload rfl rfl ?_
  refine e_push rfl ?_
  refine e_shr rfl ?_
  refine e_push rfl ?_
  refine e_i2 rfl ?_
  refine e_ivV rfl rfl rfl (Nat.le_of_ble_eq_true rfl) (fun _ _ => e_x0) fun h5 => ?_
  refine e_aload rfl rfl rfl ?_
  refine e_push rfl ?_
  refine e_push rfl ?_
  refine e_ivV rfl rfl rfl (Nat.le_of_ble_eq_true rfl) (fun _ _ => e_x0) fun h6 => ?_
  refine e_aload rfl rfl rfl ?_
  refine e_ivI rfl rfl rfl (Nat.le_of_ble_eq_true rfl) (fun _ _ => e_x0) fun x8 h7 => ?_
  exact e_iret rfl
theorem b_X2_serve_108 {K : ax_K} {v0 : Nat} {v4 : Int32} {h : ax_H}  : dx_le ((dx_vn [(29, 322)] (.ref v0) h).bind fun k => dx_cI (K k [.ref v0] h) (fun x2 h1 => if x2 = 0 then some (.inl (some (.int (v4 - 2))), h1) else some (.inl (some (.int v4)), h1)) dx_x0) (B_X2_serve_108 K v0 v4 h) := by
  show dx_le _ (ax_run K P_X2_serve 108 [some (.ref v0), none, none, none, some (.int v4), none] [] h)
  refine e_aload rfl rfl rfl ?_
  refine e_ivI rfl rfl rfl (Nat.le_of_ble_eq_true rfl) (fun _ _ => e_x0) fun x2 h1 => ?_
  refine e_if1 rfl rfl ?_ ?_
  · refine e_iload rfl rfl ?_
    refine e_push rfl ?_
    refine e_i2 rfl ?_
    exact e_iret rfl
  · refine e_iload rfl rfl ?_
    refine e_goto rfl ?_
    exact e_iret rfl
theorem b_X2_serve_125 {K : ax_K} {v0 : Nat} {v3 : Int32} {v4 : Int32} {h : ax_H}  : dx_le ((dx_vn [(29, 320)] (.ref v0) h).bind fun k => dx_cV (K k [.ref v0, .int 10, .int v3] h) (fun h1 => (dx_vn [(29, 320)] (.ref v0) h1).bind fun k => dx_cV (K k [.ref v0, .int 11, .int 0] h1) (fun h2 => some (.inl (some (.int v4)), h2)) dx_x0) dx_x0) (B_X2_serve_125 K v0 v3 v4 h) := by
  show dx_le _ (ax_run K P_X2_serve 125 [some (.ref v0), none, none, some (.int v3), some (.int v4), none] [] h)
  refine e_aload rfl rfl rfl ?_
  refine e_push rfl ?_
  refine e_iload rfl rfl ?_
  refine e_ivV rfl rfl rfl (Nat.le_of_ble_eq_true rfl) (fun _ _ => e_x0) fun h1 => ?_
  refine e_aload rfl rfl rfl ?_
  refine e_push rfl ?_
  refine e_push rfl ?_
  refine e_ivV rfl rfl rfl (Nat.le_of_ble_eq_true rfl) (fun _ _ => e_x0) fun h2 => ?_
  refine e_iload rfl rfl ?_
  exact e_iret rfl
theorem b_X2_serve_142 {K : ax_K} {v0 : Nat} {v2 : Int32} {v4 : Int32} {h : ax_H}  : dx_le ((dx_vn [(29, 333)] (.ref v0) h).bind fun k => dx_cI (K k [.ref v0] h) (fun x2 h1 => (dx_vn [(29, 320)] (.ref v0) h1).bind fun k => dx_cV (K k [.ref v0, .int v2, .int x2] h1) (fun h3 => some (.inl (some (.int v4)), h3)) dx_x0) dx_x0) (B_X2_serve_142 K v0 v2 v4 h) := by
  show dx_le _ (ax_run K P_X2_serve 142 [some (.ref v0), none, some (.int v2), none, some (.int v4), none] [] h)
  refine e_aload rfl rfl rfl ?_
  refine e_iload rfl rfl ?_
  refine e_aload rfl rfl rfl ?_
  refine e_ivI rfl rfl rfl (Nat.le_of_ble_eq_true rfl) (fun _ _ => e_x0) fun x2 h1 => ?_
  refine e_ivV rfl rfl rfl (Nat.le_of_ble_eq_true rfl) (fun _ _ => e_x0) fun h3 => ?_
  refine e_iload rfl rfl ?_
  exact e_iret rfl
theorem b_X2_serve_154 {K : ax_K} {v0 : Nat} {v3 : Int32} {v4 : Int32} {h : ax_H}  : dx_le ((dx_gA [(29, 0)] (.ref v0) h).bind fun r1 => (dx_lI 0 r1 17 h).bind fun x2 => if ¬ x2 = 60 then (dx_gA [(29, 0)] (.ref v0) h).bind fun r3 => (dx_lI 0 r3 17 h).bind fun x4 => (dx_vn [(29, 320)] (.ref v0) h).bind fun k => dx_cV (K k [.ref v0, .int (48 + x4), .int v3] h) (fun h5 => (dx_gA [(29, 0)] (.ref v0) h5).bind fun r6 => (dx_lI 0 r6 17 h5).bind fun x7 => (dx_vn [(29, 320)] (.ref v0) h5).bind fun k => dx_cV (K k [.ref v0, .int 17, .int (x7 + 1)] h5) (fun h8 => some (.inl (some (.int v4)), h8)) dx_x0) dx_x0 else dx_nw h (.inr (35, [.null])) 6 fun a10 h9 => dx_cV (K 364 [.ref a10] h9) (fun h11 => dx_ath hd_0 (.ref a10) h11 (fun _ _ => none)) dx_x0) (B_X2_serve_154 K v0 v3 v4 h) := by
  show dx_le _ (ax_run K P_X2_serve 154 [some (.ref v0), none, none, some (.int v3), some (.int v4), none] [] h)
  refine e_aload rfl rfl rfl ?_
  refine e_getA rfl fun r1 hr1 => ?_
  refine e_push rfl ?_
  refine e_iald rfl fun x2 => ?_
  refine e_push rfl ?_
  refine e_if2 rfl rfl ?_ ?_
  · refine e_aload rfl rfl rfl ?_
    refine e_push rfl ?_
    refine e_aload rfl rfl rfl ?_
    refine e_getA rfl fun r3 hr3 => ?_
    refine e_push rfl ?_
    refine e_iald rfl fun x4 => ?_
    refine e_i2 rfl ?_
    refine e_iload rfl rfl ?_
    refine e_ivV rfl rfl rfl (Nat.le_of_ble_eq_true rfl) (fun _ _ => e_x0) fun h5 => ?_
    refine e_aload rfl rfl rfl ?_
    refine e_push rfl ?_
    refine e_aload rfl rfl rfl ?_
    refine e_getA rfl fun r6 hr6 => ?_
    refine e_push rfl ?_
    refine e_iald rfl fun x7 => ?_
    refine e_push rfl ?_
    refine e_i2 rfl ?_
    refine e_ivV rfl rfl rfl (Nat.le_of_ble_eq_true rfl) (fun _ _ => e_x0) fun h8 => ?_
    refine e_iload rfl rfl ?_
    exact e_iret rfl
  · refine e_new rfl fun a10 h9 => ?_
    refine e_dup rfl rfl ?_
    refine e_isprV rfl rfl rfl (Nat.le_of_ble_eq_true rfl) (fun _ _ => e_x0) fun h11 => ?_
    exact e_athrow rfl e_hn
theorem b_X2_serve_207 {K : ax_K} {v0 : Nat} {v3 : Int32} {v4 : Int32} {h : ax_H}  : dx_le ((dx_vn [(29, 335)] (.ref v0) h).bind fun k => dx_cI (K k [.ref v0, .int v3] h) (fun x2 h1 => if x2 = 0 then some (.inl (some (.int (v4 - 2))), h1) else some (.inl (some (.int v4)), h1)) dx_x0) (B_X2_serve_207 K v0 v3 v4 h) := by
  show dx_le _ (ax_run K P_X2_serve 207 [some (.ref v0), none, none, some (.int v3), some (.int v4), none] [] h)
  refine e_aload rfl rfl rfl ?_
  refine e_iload rfl rfl ?_
  refine e_ivI rfl rfl rfl (Nat.le_of_ble_eq_true rfl) (fun _ _ => e_x0) fun x2 h1 => ?_
  refine e_if1 rfl rfl ?_ ?_
  · refine e_iload rfl rfl ?_
    refine e_push rfl ?_
    refine e_i2 rfl ?_
    exact e_iret rfl
  · refine e_iload rfl rfl ?_
    refine e_goto rfl ?_
    exact e_iret rfl
theorem m_X2_serve {d : Nat} {v0 : Nat} {v1 : Int32} {v2 : Int32} {v3 : Int32} {v4 : Int32} {h : ax_H}  : dx_le (dx_tw (19) (25) v1 [B_X2_serve_44 (ax_c d) v0 v1 v4 h, B_X2_serve_44 (ax_c d) v0 v1 v4 h, B_X2_serve_64 (ax_c d) v0 h, B_X2_serve_108 (ax_c d) v0 v4 h, B_X2_serve_125 (ax_c d) v0 v3 v4 h, B_X2_serve_142 (ax_c d) v0 v2 v4 h, B_X2_serve_154 (ax_c d) v0 v3 v4 h] (B_X2_serve_207 (ax_c d) v0 v3 v4 h)) (ax_c (d + 1) 332 [.ref v0, .int v1, .int v2, .int v3, .int v4] h) := by
  refine e_entry (L' := [some (.ref v0), some (.int v1), some (.int v2), some (.int v3), some (.int v4), none]) rfl (ag_A rfl (ag_I (ag_I (ag_I (ag_I ag_n))))) (Nat.le_of_ble_eq_true rfl) rfl ?_
  refine e_iload rfl rfl ?_
  refine e_tsw rfl ?_ (fa_c ?_ (fa_c ?_ (fa_c ?_ (fa_c ?_ (fa_c ?_ (fa_c ?_ (fa_c ?_ fa_n)))))))
  · exact e_wk mP_X2_serve (ll_1 (ll_0 (ll_0 (ll_1 (ll_1 (ll_0 ll_n))))))
  · exact e_wk mP_X2_serve (ll_1 (ll_1 (ll_0 (ll_0 (ll_1 (ll_0 ll_n))))))
  · exact e_wk mP_X2_serve (ll_1 (ll_1 (ll_0 (ll_0 (ll_1 (ll_0 ll_n))))))
  · exact e_wk mP_X2_serve (ll_1 (ll_0 (ll_0 (ll_0 (ll_0 (ll_0 ll_n))))))
  · exact e_wk mP_X2_serve (ll_1 (ll_0 (ll_0 (ll_0 (ll_1 (ll_0 ll_n))))))
  · exact e_wk mP_X2_serve (ll_1 (ll_0 (ll_0 (ll_1 (ll_1 (ll_0 ll_n))))))
  · exact e_wk mP_X2_serve (ll_1 (ll_0 (ll_1 (ll_0 (ll_1 (ll_0 ll_n))))))
  · exact e_wk mP_X2_serve (ll_1 (ll_0 (ll_0 (ll_1 (ll_1 (ll_0 ll_n))))))
theorem m_X2_read {d : Nat} {v0 : Nat} {h : ax_H}  : dx_le ((dx_gA [(29, 0)] (.ref v0) h).bind fun r1 => (dx_lI 0 r1 16 h).bind fun x2 => (dx_gA [(29, 0)] (.ref v0) h).bind fun r3 => (dx_lI 0 r3 2 h).bind fun x4 => (dx_vn [(29, 334)] (.ref v0) h).bind fun k => dx_cI ((ax_c d) k [.ref v0, .int 0, .int x4] h) (fun x6 h5 => if ¬ x2 = x6 then (dx_gA [(29, 1)] (.ref v0) h5).bind fun r7 => (dx_gA [(29, 0)] (.ref v0) h5).bind fun r8 => (dx_lI 0 r8 16 h5).bind fun x9 => (dx_vn [(15, 127)] r7 h5).bind fun k => dx_cR ((ax_c d) k [r7, .int x9] h5) (fun r11 h10 => dx_cs [36] r11 h10 ((dx_gI [(36, 1)] r11 h10).bind fun x12 => (dx_gA [(29, 0)] (.ref v0) h10).bind fun r13 => (dx_lI 0 r13 16 h10).bind fun x14 => (dx_vn [(29, 320)] (.ref v0) h10).bind fun k => dx_cV ((ax_c d) k [.ref v0, .int 16, .int (x14 + 1)] h10) (fun h15 => some (.inl (some (.int x12)), h15)) dx_x0)) dx_x0 else some (.inl (some (.int 65535)), h5)) dx_x0) (ax_c (d + 1) 333 [.ref v0] h) := by
  refine e_entry (L' := [some (.ref v0), none]) rfl (ag_A rfl ag_n) (Nat.le_of_ble_eq_true rfl) rfl ?_
  refine e_aload rfl rfl rfl ?_
  refine e_getA rfl fun r1 hr1 => ?_
  refine e_push rfl ?_
  refine e_iald rfl fun x2 => ?_
  refine e_aload rfl rfl rfl ?_
  refine e_push rfl ?_
  refine e_aload rfl rfl rfl ?_
  refine e_getA rfl fun r3 hr3 => ?_
  refine e_push rfl ?_
  refine e_iald rfl fun x4 => ?_
  refine e_ivI rfl rfl rfl (Nat.le_of_ble_eq_true rfl) (fun _ _ => e_x0) fun x6 h5 => ?_
  refine e_if2 rfl rfl ?_ ?_
  · refine e_aload rfl rfl rfl ?_
    refine e_getA rfl fun r7 hr7 => ?_
    refine e_aload rfl rfl rfl ?_
    refine e_getA rfl fun r8 hr8 => ?_
    refine e_push rfl ?_
    refine e_iald rfl fun x9 => ?_
    refine e_ivR rfl rfl rfl (Nat.le_of_ble_eq_true rfl) (fun _ _ => e_x0) fun r11 h10 hr11 => ?_
    refine e_cast rfl ?_
    refine e_getI rfl fun x12 => ?_
    refine e_istore (L' := [some (.ref v0), some (.int x12)]) rfl (dx_sto (Nat.le_of_ble_eq_true rfl) (Or.inr ⟨_, rfl, rfl⟩) rfl) ?_
    refine e_aload rfl rfl rfl ?_
    refine e_push rfl ?_
    refine e_aload rfl rfl rfl ?_
    refine e_getA rfl fun r13 hr13 => ?_
    refine e_push rfl ?_
    refine e_iald rfl fun x14 => ?_
    refine e_push rfl ?_
    refine e_i2 rfl ?_
    refine e_ivV rfl rfl rfl (Nat.le_of_ble_eq_true rfl) (fun _ _ => e_x0) fun h15 => ?_
    refine e_iload rfl rfl ?_
    exact e_iret rfl
  · refine e_push rfl ?_
    exact e_iret rfl
noncomputable def B_X2_told_5 (K : ax_K) (v0 : Nat) (v1 : Int32) (v2 : Int32) (v3 : Int32) (v4 : Int32) (h : ax_H) : Option ax_R := ax_run K P_X2_told 5 [some (.ref v0), some (.int v1), some (.int v2), some (.int v3), some (.int v4), none] [] h
theorem b_X2_told_5 {K : ax_K} {v0 : Nat} {v1 : Int32} {v2 : Int32} {v3 : Int32} {v4 : Int32} {h : ax_H}  : dx_le ((dx_gA [(29, 1)] (.ref v0) h).bind fun r1 => (dx_vn [(15, 125)] r1 h).bind fun k => dx_cI (K k [r1] h) (fun x3 h2 => if x3 ≤ v4 then some (.inl (some (.int v3)), h2) else (dx_gA [(29, 1)] (.ref v0) h2).bind fun r4 => (dx_vn [(15, 127)] r4 h2).bind fun k => dx_cR (K k [r4, .int v4] h2) (fun r6 h5 => dx_cs [36] r6 h5 ((dx_gI [(36, 0)] r6 h5).bind fun x7 => if x7 < v1 then dx_lt (v3 + 0) fun x8 => dx_lt (v4 + 1) fun x9 => B_X2_told_5 K v0 v1 v2 x8 x9 h5 else if v2 < x7 then dx_lt (v3 + 0) fun x10 => dx_lt (v4 + 1) fun x11 => B_X2_told_5 K v0 v1 v2 x10 x11 h5 else dx_lt (v3 + 1) fun x12 => dx_lt (v4 + 1) fun x13 => B_X2_told_5 K v0 v1 v2 x12 x13 h5)) dx_x0) dx_x0) (B_X2_told_5 K v0 v1 v2 v3 v4 h) := by
  show dx_le _ (ax_run K P_X2_told 5 [some (.ref v0), some (.int v1), some (.int v2), some (.int v3), some (.int v4), none] [] h)
  refine e_iload rfl rfl ?_
  refine e_aload rfl rfl rfl ?_
  refine e_getA rfl fun r1 hr1 => ?_
  refine e_ivI rfl rfl rfl (Nat.le_of_ble_eq_true rfl) (fun _ _ => e_x0) fun x3 h2 => ?_
  refine e_if2 rfl rfl ?_ ?_
  · refine e_iload rfl rfl ?_
    exact e_iret rfl
  · refine e_aload rfl rfl rfl ?_
    refine e_getA rfl fun r4 hr4 => ?_
    refine e_iload rfl rfl ?_
    refine e_ivR rfl rfl rfl (Nat.le_of_ble_eq_true rfl) (fun _ _ => e_x0) fun r6 h5 hr6 => ?_
    refine e_cast rfl ?_
    refine e_getI rfl fun x7 => ?_
    refine e_istore (L' := [some (.ref v0), some (.int v1), some (.int v2), some (.int v3), some (.int v4), some (.int x7)]) rfl (dx_sto (Nat.le_of_ble_eq_true rfl) (Or.inr ⟨_, rfl, rfl⟩) rfl) ?_
    refine e_iload rfl rfl ?_
    refine e_iload rfl rfl ?_
    refine e_iload rfl rfl ?_
    refine e_if2 rfl rfl ?_ ?_
    · refine e_push rfl ?_
      refine e_i2 rfl ?_
      refine e_istoreL (M := fun x8 => [some (.ref v0), some (.int v1), some (.int v2), some (.int x8), some (.int v4), some (.int x7)]) rfl (fun _ => dx_sto (Nat.le_of_ble_eq_true rfl) (Or.inr ⟨_, rfl, rfl⟩) rfl) fun x8 => ?_
      refine e_iinc (M := fun x9 => [some (.ref v0), some (.int v1), some (.int v2), some (.int x8), some (.int x9), some (.int x7)]) rfl rfl (fun _ => dx_sto (Nat.le_of_ble_eq_true rfl) (Or.inr ⟨_, rfl, rfl⟩) rfl) fun x9 => ?_
      refine e_goto rfl ?_
      exact e_wk mP_X2_told (ll_1 (ll_1 (ll_1 (ll_1 (ll_1 (ll_0 ll_n))))))
    · refine e_iload rfl rfl ?_
      refine e_iload rfl rfl ?_
      refine e_if2 rfl rfl ?_ ?_
      · refine e_push rfl ?_
        refine e_i2 rfl ?_
        refine e_istoreL (M := fun x10 => [some (.ref v0), some (.int v1), some (.int v2), some (.int x10), some (.int v4), some (.int x7)]) rfl (fun _ => dx_sto (Nat.le_of_ble_eq_true rfl) (Or.inr ⟨_, rfl, rfl⟩) rfl) fun x10 => ?_
        refine e_iinc (M := fun x11 => [some (.ref v0), some (.int v1), some (.int v2), some (.int x10), some (.int x11), some (.int x7)]) rfl rfl (fun _ => dx_sto (Nat.le_of_ble_eq_true rfl) (Or.inr ⟨_, rfl, rfl⟩) rfl) fun x11 => ?_
        refine e_goto rfl ?_
        exact e_wk mP_X2_told (ll_1 (ll_1 (ll_1 (ll_1 (ll_1 (ll_0 ll_n))))))
      · refine e_push rfl ?_
        refine e_goto rfl ?_
        refine e_i2 rfl ?_
        refine e_istoreL (M := fun x12 => [some (.ref v0), some (.int v1), some (.int v2), some (.int x12), some (.int v4), some (.int x7)]) rfl (fun _ => dx_sto (Nat.le_of_ble_eq_true rfl) (Or.inr ⟨_, rfl, rfl⟩) rfl) fun x12 => ?_
        refine e_iinc (M := fun x13 => [some (.ref v0), some (.int v1), some (.int v2), some (.int x12), some (.int x13), some (.int x7)]) rfl rfl (fun _ => dx_sto (Nat.le_of_ble_eq_true rfl) (Or.inr ⟨_, rfl, rfl⟩) rfl) fun x13 => ?_
        refine e_goto rfl ?_
        exact e_wk mP_X2_told (ll_1 (ll_1 (ll_1 (ll_1 (ll_1 (ll_0 ll_n))))))
theorem m_X2_told {d : Nat} {v0 : Nat} {v1 : Int32} {v2 : Int32} {h : ax_H}  : dx_le (B_X2_told_5 (ax_c d) v0 v1 v2 0 0 h) (ax_c (d + 1) 334 [.ref v0, .int v1, .int v2] h) := by
  refine e_entry (L' := [some (.ref v0), some (.int v1), some (.int v2), none, none, none]) rfl (ag_A rfl (ag_I (ag_I ag_n))) (Nat.le_of_ble_eq_true rfl) rfl ?_
  refine e_push rfl ?_
  refine e_istore (L' := [some (.ref v0), some (.int v1), some (.int v2), some (.int 0), none, none]) rfl (dx_sto (Nat.le_of_ble_eq_true rfl) (Or.inr ⟨_, rfl, rfl⟩) rfl) ?_
  refine e_push rfl ?_
  refine e_istore (L' := [some (.ref v0), some (.int v1), some (.int v2), some (.int 0), some (.int 0), none]) rfl (dx_sto (Nat.le_of_ble_eq_true rfl) (Or.inr ⟨_, rfl, rfl⟩) rfl) ?_
  exact e_wk mP_X2_told (ll_1 (ll_1 (ll_1 (ll_1 (ll_1 (ll_0 ll_n))))))
noncomputable def B_X2_call_46 (K : ax_K) (v0 : Nat) (v3 : Int32) (h : ax_H) : Option ax_R := ax_run K P_X2_call 46 [some (.ref v0), none, none, some (.int v3), none] [] h
noncomputable def B_X2_call_80 (K : ax_K) (v0 : Nat) (v3 : Int32) (v4 : Int32) (h : ax_H) : Option ax_R := ax_run K P_X2_call 80 [some (.ref v0), none, none, some (.int v3), some (.int v4)] [] h
theorem b_X2_call_46 {K : ax_K} {v0 : Nat} {v3 : Int32} {h : ax_H}  : dx_le (if (3 : Int32) ≤ v3 then some (.inl (some (.int 0)), h) else (dx_gI [(29, 9)] (.ref v0) h).bind fun x1 => if x1 ≤ v3 then (dx_vn [(29, 320)] (.ref v0) h).bind fun k => dx_cV (K k [.ref v0, .int (20 + v3), .int 0] h) (fun h2 => B_X2_call_80 K v0 v3 0 h2) dx_x0 else (dx_gA [(29, 7)] (.ref v0) h).bind fun r3 => (dx_lI 0 r3 v3 h).bind fun x4 => (dx_vn [(29, 320)] (.ref v0) h).bind fun k => dx_cV (K k [.ref v0, .int (20 + v3), .int x4] h) (fun h5 => B_X2_call_80 K v0 v3 0 h5) dx_x0) (B_X2_call_46 K v0 v3 h) := by
  show dx_le _ (ax_run K P_X2_call 46 [some (.ref v0), none, none, some (.int v3), none] [] h)
  refine e_iload rfl rfl ?_
  refine e_push rfl ?_
  refine e_if2 rfl rfl ?_ ?_
  · refine e_push rfl ?_
    exact e_zret0 rfl
  · refine e_aload rfl rfl rfl ?_
    refine e_push rfl ?_
    refine e_iload rfl rfl ?_
    refine e_i2 rfl ?_
    refine e_iload rfl rfl ?_
    refine e_aload rfl rfl rfl ?_
    refine e_getI rfl fun x1 => ?_
    refine e_if2 rfl rfl ?_ ?_
    · refine e_push rfl ?_
      refine e_ivV rfl rfl rfl (Nat.le_of_ble_eq_true rfl) (fun _ _ => e_x0) fun h2 => ?_
      refine e_push rfl ?_
      refine e_istore (L' := [some (.ref v0), none, none, some (.int v3), some (.int 0)]) rfl (dx_sto (Nat.le_of_ble_eq_true rfl) (Or.inr ⟨_, rfl, rfl⟩) rfl) ?_
      exact e_wk mP_X2_call (ll_1 (ll_0 (ll_0 (ll_1 (ll_1 ll_n)))))
    · refine e_aload rfl rfl rfl ?_
      refine e_getA rfl fun r3 hr3 => ?_
      refine e_iload rfl rfl ?_
      refine e_iald rfl fun x4 => ?_
      refine e_goto rfl ?_
      refine e_ivV rfl rfl rfl (Nat.le_of_ble_eq_true rfl) (fun _ _ => e_x0) fun h5 => ?_
      refine e_push rfl ?_
      refine e_istore (L' := [some (.ref v0), none, none, some (.int v3), some (.int 0)]) rfl (dx_sto (Nat.le_of_ble_eq_true rfl) (Or.inr ⟨_, rfl, rfl⟩) rfl) ?_
      exact e_wk mP_X2_call (ll_1 (ll_0 (ll_0 (ll_1 (ll_1 ll_n)))))
theorem b_X2_call_80 {K : ax_K} {v0 : Nat} {v3 : Int32} {v4 : Int32} {h : ax_H}  : dx_le ((dx_gI [(29, 9)] (.ref v0) h).bind fun x1 => if x1 ≤ v3 then dx_lt (v3 + 1) fun x2 => B_X2_call_46 K v0 x2 h else if (8 : Int32) ≤ v4 then dx_lt (v3 + 1) fun x3 => B_X2_call_46 K v0 x3 h else (dx_gA [(29, 8)] (.ref v0) h).bind fun r4 => (dx_lA 5 r4 v3 h).bind fun r5 => (dx_lI 0 r5 v4 h).bind fun x6 => (dx_vn [(29, 320)] (.ref v0) h).bind fun k => dx_cV (K k [.ref v0, .int ((24 + (8 * v3)) + v4), .int x6] h) (fun h7 => dx_lt (v4 + 1) fun x8 => B_X2_call_80 K v0 v3 x8 h7) dx_x0) (B_X2_call_80 K v0 v3 v4 h) := by
  show dx_le _ (ax_run K P_X2_call 80 [some (.ref v0), none, none, some (.int v3), some (.int v4)] [] h)
  refine e_iload rfl rfl ?_
  refine e_aload rfl rfl rfl ?_
  refine e_getI rfl fun x1 => ?_
  refine e_if2 rfl rfl ?_ ?_
  · refine e_iinc (M := fun x2 => [some (.ref v0), none, none, some (.int x2), some (.int v4)]) rfl rfl (fun _ => dx_sto (Nat.le_of_ble_eq_true rfl) (Or.inr ⟨_, rfl, rfl⟩) rfl) fun x2 => ?_
    refine e_goto rfl ?_
    exact e_wk mP_X2_call (ll_1 (ll_0 (ll_0 (ll_1 (ll_0 ll_n)))))
  · refine e_iload rfl rfl ?_
    refine e_push rfl ?_
    refine e_if2 rfl rfl ?_ ?_
    · refine e_iinc (M := fun x3 => [some (.ref v0), none, none, some (.int x3), some (.int v4)]) rfl rfl (fun _ => dx_sto (Nat.le_of_ble_eq_true rfl) (Or.inr ⟨_, rfl, rfl⟩) rfl) fun x3 => ?_
      refine e_goto rfl ?_
      exact e_wk mP_X2_call (ll_1 (ll_0 (ll_0 (ll_1 (ll_0 ll_n)))))
    · refine e_aload rfl rfl rfl ?_
      refine e_push rfl ?_
      refine e_push rfl ?_
      refine e_iload rfl rfl ?_
      refine e_i2 rfl ?_
      refine e_i2 rfl ?_
      refine e_iload rfl rfl ?_
      refine e_i2 rfl ?_
      refine e_aload rfl rfl rfl ?_
      refine e_getA rfl fun r4 hr4 => ?_
      refine e_iload rfl rfl ?_
      refine e_aald rfl fun r5 hr5 => ?_
      refine e_iload rfl rfl ?_
      refine e_iald rfl fun x6 => ?_
      refine e_ivV rfl rfl rfl (Nat.le_of_ble_eq_true rfl) (fun _ _ => e_x0) fun h7 => ?_
      refine e_iinc (M := fun x8 => [some (.ref v0), none, none, some (.int v3), some (.int x8)]) rfl rfl (fun _ => dx_sto (Nat.le_of_ble_eq_true rfl) (Or.inr ⟨_, rfl, rfl⟩) rfl) fun x8 => ?_
      refine e_goto rfl ?_
      exact e_wk mP_X2_call (ll_1 (ll_0 (ll_0 (ll_1 (ll_1 ll_n)))))
theorem m_X2_call {d : Nat} {v0 : Nat} {v1 : Int32} {h : ax_H}  : dx_le ((dx_pF [(29, 9)] (.int) (.ref v0) (.int 0) h).bind fun h1 => (dx_vn [(29, 336)] (.ref v0) h1).bind fun k => dx_cI ((ax_c d) k [.ref v0, .int v1] h1) (fun x3 h2 => (dx_gI [(29, 9)] (.ref v0) h2).bind fun x4 => if ¬ x4 = 0 then (dx_gI [(29, 9)] (.ref v0) h2).bind fun x5 => (dx_vn [(29, 320)] (.ref v0) h2).bind fun k => dx_cV ((ax_c d) k [.ref v0, .int 18, .int x5] h2) (fun h6 => (dx_vn [(29, 320)] (.ref v0) h6).bind fun k => dx_cV ((ax_c d) k [.ref v0, .int 19, .int 0] h6) (fun h7 => B_X2_call_46 (ax_c d) v0 0 h7) dx_x0) dx_x0 else (dx_vn [(29, 320)] (.ref v0) h2).bind fun k => dx_cV ((ax_c d) k [.ref v0, .int 15, .int x3] h2) (fun h8 => some (.inl (some (.int 1)), h8)) dx_x0) dx_x0) (ax_c (d + 1) 335 [.ref v0, .int v1] h) := by
  refine e_entry (L' := [some (.ref v0), some (.int v1), none, none, none]) rfl (ag_A rfl (ag_I ag_n)) (Nat.le_of_ble_eq_true rfl) rfl ?_
  refine e_aload rfl rfl rfl ?_
  refine e_push rfl ?_
  refine e_putf rfl fun h1 => ?_
  refine e_aload rfl rfl rfl ?_
  refine e_iload rfl rfl ?_
  refine e_ivI rfl rfl rfl (Nat.le_of_ble_eq_true rfl) (fun _ _ => e_x0) fun x3 h2 => ?_
  refine e_istore (L' := [some (.ref v0), some (.int v1), some (.int x3), none, none]) rfl (dx_sto (Nat.le_of_ble_eq_true rfl) (Or.inr ⟨_, rfl, rfl⟩) rfl) ?_
  refine e_aload rfl rfl rfl ?_
  refine e_getI rfl fun x4 => ?_
  refine e_if1 rfl rfl ?_ ?_
  · refine e_aload rfl rfl rfl ?_
    refine e_push rfl ?_
    refine e_aload rfl rfl rfl ?_
    refine e_getI rfl fun x5 => ?_
    refine e_ivV rfl rfl rfl (Nat.le_of_ble_eq_true rfl) (fun _ _ => e_x0) fun h6 => ?_
    refine e_aload rfl rfl rfl ?_
    refine e_push rfl ?_
    refine e_push rfl ?_
    refine e_ivV rfl rfl rfl (Nat.le_of_ble_eq_true rfl) (fun _ _ => e_x0) fun h7 => ?_
    refine e_push rfl ?_
    refine e_istore (L' := [some (.ref v0), some (.int v1), some (.int x3), some (.int 0), none]) rfl (dx_sto (Nat.le_of_ble_eq_true rfl) (Or.inr ⟨_, rfl, rfl⟩) rfl) ?_
    exact e_wk mP_X2_call (ll_1 (ll_0 (ll_0 (ll_1 (ll_0 ll_n)))))
  · refine e_aload rfl rfl rfl ?_
    refine e_push rfl ?_
    refine e_iload rfl rfl ?_
    refine e_ivV rfl rfl rfl (Nat.le_of_ble_eq_true rfl) (fun _ _ => e_x0) fun h8 => ?_
    refine e_push rfl ?_
    exact e_zret1 rfl
noncomputable def B_X2_plan_69 (K : ax_K) (v5 : Int32) (h : ax_H) : Option ax_R := ax_run K P_X2_plan 69 [none, none, none, none, none, some (.int v5)] [] h
noncomputable def B_X2_plan_132 (K : ax_K) (v0 : Nat) (v3 : Int32) (v4 : Int32) (h : ax_H) : Option ax_R := ax_run K P_X2_plan 132 [some (.ref v0), none, none, some (.int v3), some (.int v4), none] [] h
noncomputable def B_X2_plan_171 (K : ax_K) (v0 : Nat) (v3 : Int32) (v4 : Int32) (h : ax_H) : Option ax_R := ax_run K P_X2_plan 171 [some (.ref v0), none, none, some (.int v3), some (.int v4), none] [] h
noncomputable def B_X2_plan_188 (K : ax_K) (v0 : Nat) (v3 : Int32) (v4 : Int32) (h : ax_H) : Option ax_R := ax_run K P_X2_plan 188 [some (.ref v0), none, none, some (.int v3), some (.int v4), none] [] h
noncomputable def B_X2_plan_212 (K : ax_K) (v0 : Nat) (v3 : Int32) (v4 : Int32) (h : ax_H) : Option ax_R := ax_run K P_X2_plan 212 [some (.ref v0), none, none, some (.int v3), some (.int v4), none] [] h
noncomputable def B_X2_plan_229 (K : ax_K) (v0 : Nat) (v4 : Int32) (h : ax_H) : Option ax_R := ax_run K P_X2_plan 229 [some (.ref v0), none, none, none, some (.int v4), none] [] h
theorem b_X2_plan_69 {K : ax_K} {v5 : Int32} {h : ax_H}  : dx_le (if ¬ v5 = (-1) then some (.inl (some (.int 0)), h) else some (.inl (some (.int 2)), h)) (B_X2_plan_69 K v5 h) := by
  show dx_le _ (ax_run K P_X2_plan 69 [none, none, none, none, none, some (.int v5)] [] h)
  refine e_iload rfl rfl ?_
  refine e_push rfl ?_
  refine e_if2 rfl rfl ?_ ?_
  · refine e_push rfl ?_
    exact e_iret rfl
  · refine e_push rfl ?_
    refine e_goto rfl ?_
    exact e_iret rfl
theorem b_X2_plan_132 {K : ax_K} {v0 : Nat} {v3 : Int32} {v4 : Int32} {h : ax_H}  : dx_le ((dx_vn [(29, 305)] (.ref v0) h).bind fun k => dx_cI (K k [.ref v0, .int v4, .int 1] h) (fun x2 h1 => if x2 ≤ v3 then B_X2_plan_171 K v0 v3 v4 h1 else (dx_vn [(29, 305)] (.ref v0) h1).bind fun k => dx_cI (K k [.ref v0, .int v4, .int (2 + (v3 / 8))] h1) (fun x4 h3 => (dx_vn [(29, 339)] (.ref v0) h3).bind fun k => dx_cR (K k [.ref v0, .int x4] h3) (fun r6 h5 => (dx_gA [(29, 0)] (.ref v0) h5).bind fun r7 => (dx_lI 0 r7 14 h5).bind fun x8 => (dx_sI 0 r6 (dx_rem v3 8) x8 h5).bind fun h9 => B_X2_plan_171 K v0 v3 v4 h9) dx_x0) dx_x0) dx_x0) (B_X2_plan_132 K v0 v3 v4 h) := by
  show dx_le _ (ax_run K P_X2_plan 132 [some (.ref v0), none, none, some (.int v3), some (.int v4), none] [] h)
  refine e_iload rfl rfl ?_
  refine e_aload rfl rfl rfl ?_
  refine e_iload rfl rfl ?_
  refine e_push rfl ?_
  refine e_ivI rfl rfl rfl (Nat.le_of_ble_eq_true rfl) (fun _ _ => e_x0) fun x2 h1 => ?_
  refine e_if2 rfl rfl ?_ ?_
  · exact e_wk mP_X2_plan (ll_1 (ll_0 (ll_0 (ll_1 (ll_1 (ll_0 ll_n))))))
  · refine e_aload rfl rfl rfl ?_
    refine e_aload rfl rfl rfl ?_
    refine e_iload rfl rfl ?_
    refine e_push rfl ?_
    refine e_iload rfl rfl ?_
    refine e_push rfl ?_
    refine e_idn rfl (by decide) ?_
    refine e_i2 rfl ?_
    refine e_ivI rfl rfl rfl (Nat.le_of_ble_eq_true rfl) (fun _ _ => e_x0) fun x4 h3 => ?_
    refine e_ivR rfl rfl rfl (Nat.le_of_ble_eq_true rfl) (fun _ _ => e_x0) fun r6 h5 hr6 => ?_
    refine e_iload rfl rfl ?_
    refine e_push rfl ?_
    refine e_rem rfl (by decide) ?_
    refine e_aload rfl rfl rfl ?_
    refine e_getA rfl fun r7 hr7 => ?_
    refine e_push rfl ?_
    refine e_iald rfl fun x8 => ?_
    refine e_iastI rfl fun h9 => ?_
    exact e_wk mP_X2_plan (ll_1 (ll_0 (ll_0 (ll_1 (ll_1 (ll_0 ll_n))))))
theorem b_X2_plan_171 {K : ax_K} {v0 : Nat} {v3 : Int32} {v4 : Int32} {h : ax_H}  : dx_le ((dx_vn [(29, 305)] (.ref v0) h).bind fun k => dx_cI (K k [.ref v0, .int v4, .int 1] h) (fun x2 h1 => if x2 ≤ v3 then some (.inl (some (.int 2)), h1) else some (.inl (some (.int 0)), h1)) dx_x0) (B_X2_plan_171 K v0 v3 v4 h) := by
  show dx_le _ (ax_run K P_X2_plan 171 [some (.ref v0), none, none, some (.int v3), some (.int v4), none] [] h)
  refine e_iload rfl rfl ?_
  refine e_aload rfl rfl rfl ?_
  refine e_iload rfl rfl ?_
  refine e_push rfl ?_
  refine e_ivI rfl rfl rfl (Nat.le_of_ble_eq_true rfl) (fun _ _ => e_x0) fun x2 h1 => ?_
  refine e_if2 rfl rfl ?_ ?_
  · refine e_push rfl ?_
    exact e_iret rfl
  · refine e_push rfl ?_
    refine e_goto rfl ?_
    exact e_iret rfl
theorem b_X2_plan_188 {K : ax_K} {v0 : Nat} {v3 : Int32} {v4 : Int32} {h : ax_H}  : dx_le ((dx_vn [(29, 305)] (.ref v0) h).bind fun k => dx_cI (K k [.ref v0, .int v4, .int 1] h) (fun x2 h1 => if x2 ≤ v3 then B_X2_plan_212 K v0 v3 v4 h1 else (dx_vn [(29, 343)] (.ref v0) h1).bind fun k => dx_cI (K k [.ref v0, .int v4, .int v3] h1) (fun x4 h3 => (dx_vn [(29, 320)] (.ref v0) h3).bind fun k => dx_cV (K k [.ref v0, .int 14, .int x4] h3) (fun h5 => B_X2_plan_212 K v0 v3 v4 h5) dx_x0) dx_x0) dx_x0) (B_X2_plan_188 K v0 v3 v4 h) := by
  show dx_le _ (ax_run K P_X2_plan 188 [some (.ref v0), none, none, some (.int v3), some (.int v4), none] [] h)
  refine e_iload rfl rfl ?_
  refine e_aload rfl rfl rfl ?_
  refine e_iload rfl rfl ?_
  refine e_push rfl ?_
  refine e_ivI rfl rfl rfl (Nat.le_of_ble_eq_true rfl) (fun _ _ => e_x0) fun x2 h1 => ?_
  refine e_if2 rfl rfl ?_ ?_
  · exact e_wk mP_X2_plan (ll_1 (ll_0 (ll_0 (ll_1 (ll_1 (ll_0 ll_n))))))
  · refine e_aload rfl rfl rfl ?_
    refine e_push rfl ?_
    refine e_aload rfl rfl rfl ?_
    refine e_iload rfl rfl ?_
    refine e_iload rfl rfl ?_
    refine e_ivI rfl rfl rfl (Nat.le_of_ble_eq_true rfl) (fun _ _ => e_x0) fun x4 h3 => ?_
    refine e_ivV rfl rfl rfl (Nat.le_of_ble_eq_true rfl) (fun _ _ => e_x0) fun h5 => ?_
    exact e_wk mP_X2_plan (ll_1 (ll_0 (ll_0 (ll_1 (ll_1 (ll_0 ll_n))))))
theorem b_X2_plan_212 {K : ax_K} {v0 : Nat} {v3 : Int32} {v4 : Int32} {h : ax_H}  : dx_le ((dx_vn [(29, 305)] (.ref v0) h).bind fun k => dx_cI (K k [.ref v0, .int v4, .int 1] h) (fun x2 h1 => if x2 ≤ v3 then some (.inl (some (.int 2)), h1) else some (.inl (some (.int 0)), h1)) dx_x0) (B_X2_plan_212 K v0 v3 v4 h) := by
  show dx_le _ (ax_run K P_X2_plan 212 [some (.ref v0), none, none, some (.int v3), some (.int v4), none] [] h)
  refine e_iload rfl rfl ?_
  refine e_aload rfl rfl rfl ?_
  refine e_iload rfl rfl ?_
  refine e_push rfl ?_
  refine e_ivI rfl rfl rfl (Nat.le_of_ble_eq_true rfl) (fun _ _ => e_x0) fun x2 h1 => ?_
  refine e_if2 rfl rfl ?_ ?_
  · refine e_push rfl ?_
    exact e_iret rfl
  · refine e_push rfl ?_
    refine e_goto rfl ?_
    exact e_iret rfl
theorem b_X2_plan_229 {K : ax_K} {v0 : Nat} {v4 : Int32} {h : ax_H}  : dx_le ((dx_vn [(29, 305)] (.ref v0) h).bind fun k => dx_cI (K k [.ref v0, .int v4, .int 1] h) (fun x2 h1 => (dx_vn [(29, 320)] (.ref v0) h1).bind fun k => dx_cV (K k [.ref v0, .int 13, .int x2] h1) (fun h3 => some (.inl (some (.int 0)), h3)) dx_x0) dx_x0) (B_X2_plan_229 K v0 v4 h) := by
  show dx_le _ (ax_run K P_X2_plan 229 [some (.ref v0), none, none, none, some (.int v4), none] [] h)
  refine e_aload rfl rfl rfl ?_
  refine e_push rfl ?_
  refine e_aload rfl rfl rfl ?_
  refine e_iload rfl rfl ?_
  refine e_push rfl ?_
  refine e_ivI rfl rfl rfl (Nat.le_of_ble_eq_true rfl) (fun _ _ => e_x0) fun x2 h1 => ?_
  refine e_ivV rfl rfl rfl (Nat.le_of_ble_eq_true rfl) (fun _ _ => e_x0) fun h3 => ?_
  refine e_push rfl ?_
  exact e_iret rfl
theorem m_X2_plan {d : Nat} {v0 : Nat} {v1 : Int32} {h : ax_H}  : dx_le ((dx_gA [(29, 0)] (.ref v0) h).bind fun r1 => (dx_lI 0 r1 12 h).bind fun x2 => (dx_gA [(29, 0)] (.ref v0) h).bind fun r3 => (dx_lI 0 r3 13 h).bind fun x4 => (dx_vn [(29, 337)] (.ref v0) h).bind fun k => dx_cI ((ax_c d) k [.ref v0, .int x2] h) (fun x6 h5 => if v1 ≤ 6 then if ¬ v1 = 0 then if ¬ x6 = (-1) then dx_tw (1) (5) v1 [(dx_vn [(29, 340)] (.ref v0) h5).bind fun k => dx_cI ((ax_c d) k [.ref v0, .int x6, .int x4] h5) (fun x10 h9 => some (.inl (some (.int x10)), h9)) dx_x0, B_X2_plan_132 (ax_c d) v0 x4 x6 h5, B_X2_plan_188 (ax_c d) v0 x4 x6 h5, B_X2_plan_229 (ax_c d) v0 x6 h5, (dx_vn [(29, 344)] (.ref v0) h5).bind fun k => dx_cV ((ax_c d) k [.ref v0, .int x6] h5) (fun h11 => some (.inl (some (.int 0)), h11)) dx_x0] ((dx_vn [(29, 345)] (.ref v0) h5).bind fun k => dx_cI ((ax_c d) k [.ref v0, .int x6, .int x2, .int x4] h5) (fun x8 h7 => some (.inl (some (.int x8)), h7)) dx_x0) else some (.inl (some (.int 1)), h5) else (dx_vn [(29, 308)] (.ref v0) h5).bind fun k => dx_cI ((ax_c d) k [.ref v0, .int 0] h5) (fun x13 h12 => if x2 = 0 then some (.inl (some (.int 1)), h12) else if x6 = (-1) then if x13 = (-1) then B_X2_plan_69 (ax_c d) x13 h12 else (dx_vn [(29, 338)] (.ref v0) h12).bind fun k => dx_cV ((ax_c d) k [.ref v0, .int x13, .int 0, .int x2] h12) (fun h14 => B_X2_plan_69 (ax_c d) x13 h14) dx_x0 else some (.inl (some (.int 1)), h12)) dx_x0 else some (.inl (some (.int 9)), h5)) dx_x0) (ax_c (d + 1) 336 [.ref v0, .int v1] h) := by
  refine e_entry (L' := [some (.ref v0), some (.int v1), none, none, none, none]) rfl (ag_A rfl (ag_I ag_n)) (Nat.le_of_ble_eq_true rfl) rfl ?_
  refine e_aload rfl rfl rfl ?_
  refine e_getA rfl fun r1 hr1 => ?_
  refine e_push rfl ?_
  refine e_iald rfl fun x2 => ?_
  refine e_istore (L' := [some (.ref v0), some (.int v1), some (.int x2), none, none, none]) rfl (dx_sto (Nat.le_of_ble_eq_true rfl) (Or.inr ⟨_, rfl, rfl⟩) rfl) ?_
  refine e_aload rfl rfl rfl ?_
  refine e_getA rfl fun r3 hr3 => ?_
  refine e_push rfl ?_
  refine e_iald rfl fun x4 => ?_
  refine e_istore (L' := [some (.ref v0), some (.int v1), some (.int x2), some (.int x4), none, none]) rfl (dx_sto (Nat.le_of_ble_eq_true rfl) (Or.inr ⟨_, rfl, rfl⟩) rfl) ?_
  refine e_aload rfl rfl rfl ?_
  refine e_iload rfl rfl ?_
  refine e_ivI rfl rfl rfl (Nat.le_of_ble_eq_true rfl) (fun _ _ => e_x0) fun x6 h5 => ?_
  refine e_istore (L' := [some (.ref v0), some (.int v1), some (.int x2), some (.int x4), some (.int x6), none]) rfl (dx_sto (Nat.le_of_ble_eq_true rfl) (Or.inr ⟨_, rfl, rfl⟩) rfl) ?_
  refine e_iload rfl rfl ?_
  refine e_push rfl ?_
  refine e_if2 rfl rfl ?_ ?_
  · refine e_iload rfl rfl ?_
    refine e_if1 rfl rfl ?_ ?_
    · refine e_iload rfl rfl ?_
      refine e_push rfl ?_
      refine e_if2 rfl rfl ?_ ?_
      · refine e_iload rfl rfl ?_
        refine e_tsw rfl ?_ (fa_c ?_ (fa_c ?_ (fa_c ?_ (fa_c ?_ (fa_c ?_ fa_n)))))
        · refine e_aload rfl rfl rfl ?_
          refine e_iload rfl rfl ?_
          refine e_iload rfl rfl ?_
          refine e_iload rfl rfl ?_
          refine e_ivI rfl rfl rfl (Nat.le_of_ble_eq_true rfl) (fun _ _ => e_x0) fun x8 h7 => ?_
          exact e_iret rfl
        · refine e_aload rfl rfl rfl ?_
          refine e_iload rfl rfl ?_
          refine e_iload rfl rfl ?_
          refine e_ivI rfl rfl rfl (Nat.le_of_ble_eq_true rfl) (fun _ _ => e_x0) fun x10 h9 => ?_
          exact e_iret rfl
        · exact e_wk mP_X2_plan (ll_1 (ll_0 (ll_0 (ll_1 (ll_1 (ll_0 ll_n))))))
        · exact e_wk mP_X2_plan (ll_1 (ll_0 (ll_0 (ll_1 (ll_1 (ll_0 ll_n))))))
        · exact e_wk mP_X2_plan (ll_1 (ll_0 (ll_0 (ll_0 (ll_1 (ll_0 ll_n))))))
        · refine e_aload rfl rfl rfl ?_
          refine e_iload rfl rfl ?_
          refine e_ivV rfl rfl rfl (Nat.le_of_ble_eq_true rfl) (fun _ _ => e_x0) fun h11 => ?_
          refine e_push rfl ?_
          exact e_iret rfl
      · refine e_push rfl ?_
        exact e_iret rfl
    · refine e_aload rfl rfl rfl ?_
      refine e_push rfl ?_
      refine e_ivI rfl rfl rfl (Nat.le_of_ble_eq_true rfl) (fun _ _ => e_x0) fun x13 h12 => ?_
      refine e_istore (L' := [some (.ref v0), some (.int v1), some (.int x2), some (.int x4), some (.int x6), some (.int x13)]) rfl (dx_sto (Nat.le_of_ble_eq_true rfl) (Or.inr ⟨_, rfl, rfl⟩) rfl) ?_
      refine e_iload rfl rfl ?_
      refine e_if1 rfl rfl ?_ ?_
      · refine e_push rfl ?_
        exact e_iret rfl
      · refine e_iload rfl rfl ?_
        refine e_push rfl ?_
        refine e_if2 rfl rfl ?_ ?_
        · refine e_iload rfl rfl ?_
          refine e_push rfl ?_
          refine e_if2 rfl rfl ?_ ?_
          · exact e_wk mP_X2_plan (ll_0 (ll_0 (ll_0 (ll_0 (ll_0 (ll_1 ll_n))))))
          · refine e_aload rfl rfl rfl ?_
            refine e_iload rfl rfl ?_
            refine e_push rfl ?_
            refine e_iload rfl rfl ?_
            refine e_ivV rfl rfl rfl (Nat.le_of_ble_eq_true rfl) (fun _ _ => e_x0) fun h14 => ?_
            exact e_wk mP_X2_plan (ll_0 (ll_0 (ll_0 (ll_0 (ll_0 (ll_1 ll_n))))))
        · refine e_push rfl ?_
          exact e_iret rfl
  · refine e_push rfl ?_
    exact e_iret rfl
theorem m_X2_named {d : Nat} {v0 : Nat} {v1 : Int32} {h : ax_H}  : dx_le (if ¬ v1 = 0 then (dx_vn [(29, 308)] (.ref v0) h).bind fun k => dx_cI ((ax_c d) k [.ref v0, .int v1] h) (fun x2 h1 => some (.inl (some (.int x2)), h1)) dx_x0 else some (.inl (some (.int (-1))), h)) (ax_c (d + 1) 337 [.ref v0, .int v1] h) := by
  refine e_entry (L' := [some (.ref v0), some (.int v1)]) rfl (ag_A rfl (ag_I ag_n)) (Nat.le_of_ble_eq_true rfl) rfl ?_
  refine e_iload rfl rfl ?_
  refine e_if1 rfl rfl ?_ ?_
  · refine e_aload rfl rfl rfl ?_
    refine e_iload rfl rfl ?_
    refine e_ivI rfl rfl rfl (Nat.le_of_ble_eq_true rfl) (fun _ _ => e_x0) fun x2 h1 => ?_
    exact e_iret rfl
  · refine e_push rfl ?_
    refine e_goto rfl ?_
    exact e_iret rfl
theorem m_X2_setEntry {d : Nat} {v0 : Nat} {v1 : Int32} {v2 : Int32} {v3 : Int32} {h : ax_H}  : dx_le ((dx_vn [(29, 339)] (.ref v0) h).bind fun k => dx_cR ((ax_c d) k [.ref v0, .int (5 + (v1 / 2))] h) (fun r2 h1 => (dx_sI 0 r2 ((4 * (dx_rem v1 2)) + v2) v3 h1).bind fun h3 => some (.inl none, h3)) dx_x0) (ax_c (d + 1) 338 [.ref v0, .int v1, .int v2, .int v3] h) := by
  refine e_entry (L' := [some (.ref v0), some (.int v1), some (.int v2), some (.int v3)]) rfl (ag_A rfl (ag_I (ag_I (ag_I ag_n)))) (Nat.le_of_ble_eq_true rfl) rfl ?_
  refine e_aload rfl rfl rfl ?_
  refine e_push rfl ?_
  refine e_iload rfl rfl ?_
  refine e_push rfl ?_
  refine e_idn rfl (by decide) ?_
  refine e_i2 rfl ?_
  refine e_ivR rfl rfl rfl (Nat.le_of_ble_eq_true rfl) (fun _ _ => e_x0) fun r2 h1 hr2 => ?_
  refine e_push rfl ?_
  refine e_iload rfl rfl ?_
  refine e_push rfl ?_
  refine e_rem rfl (by decide) ?_
  refine e_i2 rfl ?_
  refine e_iload rfl rfl ?_
  refine e_i2 rfl ?_
  refine e_iload rfl rfl ?_
  refine e_iastI rfl fun h3 => ?_
  exact e_ret rfl
noncomputable def B_X2_draft_2 (K : ax_K) (v0 : Nat) (v1 : Int32) (v2 : Int32) (h : ax_H) : Option ax_R := ax_run K P_X2_draft 2 [some (.ref v0), some (.int v1), some (.int v2), none, none] [] h
noncomputable def B_X2_draft_26 (K : ax_K) (v0 : Nat) (v1 : Int32) (v2 : Int32) (h : ax_H) : Option ax_R := ax_run K P_X2_draft 26 [some (.ref v0), some (.int v1), some (.int v2), none, none] [] h
noncomputable def B_X2_draft_44 (K : ax_K) (v0 : Nat) (v1 : Int32) (v2 : Int32) (h : ax_H) : Option ax_R := ax_run K P_X2_draft 44 [some (.ref v0), some (.int v1), some (.int v2), none, none] [] h
noncomputable def B_X2_draft_60 (K : ax_K) (v0 : Nat) (v1 : Int32) (v2 : Int32) (v3 : Value) (v4 : Int32) (h : ax_H) : Option ax_R := ax_run K P_X2_draft 60 [some (.ref v0), some (.int v1), some (.int v2), some (v3), some (.int v4)] [] h
theorem b_X2_draft_2 {K : ax_K} {v0 : Nat} {v1 : Int32} {v2 : Int32} {h : ax_H}  : dx_le ((dx_gI [(29, 9)] (.ref v0) h).bind fun x1 => if x1 ≤ v2 then B_X2_draft_26 K v0 v1 v2 h else (dx_gA [(29, 7)] (.ref v0) h).bind fun r2 => (dx_lI 0 r2 v2 h).bind fun x3 => if v1 ≤ x3 then B_X2_draft_26 K v0 v1 v2 h else dx_lt (v2 + 1) fun x4 => B_X2_draft_2 K v0 v1 x4 h) (B_X2_draft_2 K v0 v1 v2 h) := by
  show dx_le _ (ax_run K P_X2_draft 2 [some (.ref v0), some (.int v1), some (.int v2), none, none] [] h)
  refine e_iload rfl rfl ?_
  refine e_aload rfl rfl rfl ?_
  refine e_getI rfl fun x1 => ?_
  refine e_if2 rfl rfl ?_ ?_
  · exact e_wk mP_X2_draft (ll_1 (ll_1 (ll_1 (ll_0 (ll_0 ll_n)))))
  · refine e_aload rfl rfl rfl ?_
    refine e_getA rfl fun r2 hr2 => ?_
    refine e_iload rfl rfl ?_
    refine e_iald rfl fun x3 => ?_
    refine e_iload rfl rfl ?_
    refine e_if2 rfl rfl ?_ ?_
    · exact e_wk mP_X2_draft (ll_1 (ll_1 (ll_1 (ll_0 (ll_0 ll_n)))))
    · refine e_iinc (M := fun x4 => [some (.ref v0), some (.int v1), some (.int x4), none, none]) rfl rfl (fun _ => dx_sto (Nat.le_of_ble_eq_true rfl) (Or.inr ⟨_, rfl, rfl⟩) rfl) fun x4 => ?_
      refine e_goto rfl ?_
      exact e_wk mP_X2_draft (ll_1 (ll_1 (ll_1 (ll_0 (ll_0 ll_n)))))
theorem b_X2_draft_26 {K : ax_K} {v0 : Nat} {v1 : Int32} {v2 : Int32} {h : ax_H}  : dx_le ((dx_gI [(29, 9)] (.ref v0) h).bind fun x1 => if v2 = x1 then B_X2_draft_44 K v0 v1 v2 h else (dx_gA [(29, 7)] (.ref v0) h).bind fun r2 => (dx_lI 0 r2 v2 h).bind fun x3 => if x3 = v1 then (dx_gA [(29, 8)] (.ref v0) h).bind fun r4 => (dx_lA 5 r4 v2 h).bind fun r5 => some (.inl (some (r5)), h) else B_X2_draft_44 K v0 v1 v2 h) (B_X2_draft_26 K v0 v1 v2 h) := by
  show dx_le _ (ax_run K P_X2_draft 26 [some (.ref v0), some (.int v1), some (.int v2), none, none] [] h)
  refine e_iload rfl rfl ?_
  refine e_aload rfl rfl rfl ?_
  refine e_getI rfl fun x1 => ?_
  refine e_if2 rfl rfl ?_ ?_
  · exact e_wk mP_X2_draft (ll_1 (ll_1 (ll_1 (ll_0 (ll_0 ll_n)))))
  · refine e_aload rfl rfl rfl ?_
    refine e_getA rfl fun r2 hr2 => ?_
    refine e_iload rfl rfl ?_
    refine e_iald rfl fun x3 => ?_
    refine e_iload rfl rfl ?_
    refine e_if2 rfl rfl ?_ ?_
    · refine e_aload rfl rfl rfl ?_
      refine e_getA rfl fun r4 hr4 => ?_
      refine e_iload rfl rfl ?_
      refine e_aald rfl fun r5 hr5 => ?_
      exact e_aret rfl hr5
    · exact e_wk mP_X2_draft (ll_1 (ll_1 (ll_1 (ll_0 (ll_0 ll_n)))))
theorem b_X2_draft_44 {K : ax_K} {v0 : Nat} {v1 : Int32} {v2 : Int32} {h : ax_H}  : dx_le ((dx_gA [(29, 8)] (.ref v0) h).bind fun r1 => (dx_gI [(29, 9)] (.ref v0) h).bind fun x2 => (dx_lA 5 r1 x2 h).bind fun r3 => (dx_gI [(29, 9)] (.ref v0) h).bind fun x4 => B_X2_draft_60 K v0 v1 v2 r3 x4 h) (B_X2_draft_44 K v0 v1 v2 h) := by
  show dx_le _ (ax_run K P_X2_draft 44 [some (.ref v0), some (.int v1), some (.int v2), none, none] [] h)
  refine e_aload rfl rfl rfl ?_
  refine e_getA rfl fun r1 hr1 => ?_
  refine e_aload rfl rfl rfl ?_
  refine e_getI rfl fun x2 => ?_
  refine e_aald rfl fun r3 hr3 => ?_
  refine e_astore (L' := [some (.ref v0), some (.int v1), some (.int v2), some (r3), none]) rfl hr3 (dx_sto (Nat.le_of_ble_eq_true rfl) (Or.inr ⟨_, rfl, rfl⟩) rfl) ?_
  refine e_aload rfl rfl rfl ?_
  refine e_getI rfl fun x4 => ?_
  refine e_istore (L' := [some (.ref v0), some (.int v1), some (.int v2), some (r3), some (.int x4)]) rfl (dx_sto (Nat.le_of_ble_eq_true rfl) (Or.inr ⟨_, rfl, dx_nl hr3⟩) rfl) ?_
  exact e_wk mP_X2_draft (ll_1 (ll_1 (ll_1 (ll_1 (ll_1 ll_n)))))
theorem b_X2_draft_60 {K : ax_K} {v0 : Nat} {v1 : Int32} {v2 : Int32} {v3 : Value} {v4 : Int32} {h : ax_H} (hv3 : ax_rv v3 = true) : dx_le (if v4 ≤ v2 then (dx_gA [(29, 7)] (.ref v0) h).bind fun r1 => (dx_sI 0 r1 v2 v1 h).bind fun h2 => (dx_gA [(29, 8)] (.ref v0) h2).bind fun r3 => (dx_sR r3 v2 v3 h2).bind fun h4 => (dx_gA [(29, 0)] (.ref v0) h4).bind fun r5 => (dx_acp r5 (365 + (8 * v1)) v3 0 8 h4).bind fun h6 => (dx_gI [(29, 9)] (.ref v0) h6).bind fun x7 => (dx_pF [(29, 9)] (.int) (.ref v0) (.int (x7 + 1)) h6).bind fun h8 => (dx_gA [(29, 8)] (.ref v0) h8).bind fun r9 => (dx_lA 5 r9 v2 h8).bind fun r10 => some (.inl (some (r10)), h8) else (dx_gA [(29, 7)] (.ref v0) h).bind fun r11 => (dx_gA [(29, 7)] (.ref v0) h).bind fun r12 => (dx_lI 0 r12 (v4 - 1) h).bind fun x13 => (dx_sI 0 r11 v4 x13 h).bind fun h14 => (dx_gA [(29, 8)] (.ref v0) h14).bind fun r15 => (dx_gA [(29, 8)] (.ref v0) h14).bind fun r16 => (dx_lA 5 r16 (v4 - 1) h14).bind fun r17 => (dx_sR r15 v4 r17 h14).bind fun h18 => dx_lt (v4 + (-1)) fun x19 => B_X2_draft_60 K v0 v1 v2 v3 x19 h18) (B_X2_draft_60 K v0 v1 v2 v3 v4 h) := by
  show dx_le _ (ax_run K P_X2_draft 60 [some (.ref v0), some (.int v1), some (.int v2), some (v3), some (.int v4)] [] h)
  refine e_iload rfl rfl ?_
  refine e_iload rfl rfl ?_
  refine e_if2 rfl rfl ?_ ?_
  · refine e_aload rfl rfl rfl ?_
    refine e_getA rfl fun r1 hr1 => ?_
    refine e_iload rfl rfl ?_
    refine e_iload rfl rfl ?_
    refine e_iastI rfl fun h2 => ?_
    refine e_aload rfl rfl rfl ?_
    refine e_getA rfl fun r3 hr3 => ?_
    refine e_iload rfl rfl ?_
    refine e_aload rfl rfl hv3 ?_
    refine e_aastA rfl fun h4 => ?_
    refine e_aload rfl rfl rfl ?_
    refine e_getA rfl fun r5 hr5 => ?_
    refine e_push rfl ?_
    refine e_push rfl ?_
    refine e_iload rfl rfl ?_
    refine e_i2 rfl ?_
    refine e_i2 rfl ?_
    refine e_aload rfl rfl hv3 ?_
    refine e_push rfl ?_
    refine e_push rfl ?_
    refine e_acp rfl (Nat.le_of_ble_eq_true rfl) fun h6 => ?_
    refine e_aload rfl rfl rfl ?_
    refine e_dup rfl rfl ?_
    refine e_getI rfl fun x7 => ?_
    refine e_push rfl ?_
    refine e_i2 rfl ?_
    refine e_putf rfl fun h8 => ?_
    refine e_aload rfl rfl rfl ?_
    refine e_getA rfl fun r9 hr9 => ?_
    refine e_iload rfl rfl ?_
    refine e_aald rfl fun r10 hr10 => ?_
    exact e_aret rfl hr10
  · refine e_aload rfl rfl rfl ?_
    refine e_getA rfl fun r11 hr11 => ?_
    refine e_iload rfl rfl ?_
    refine e_aload rfl rfl rfl ?_
    refine e_getA rfl fun r12 hr12 => ?_
    refine e_iload rfl rfl ?_
    refine e_push rfl ?_
    refine e_i2 rfl ?_
    refine e_iald rfl fun x13 => ?_
    refine e_iastI rfl fun h14 => ?_
    refine e_aload rfl rfl rfl ?_
    refine e_getA rfl fun r15 hr15 => ?_
    refine e_iload rfl rfl ?_
    refine e_aload rfl rfl rfl ?_
    refine e_getA rfl fun r16 hr16 => ?_
    refine e_iload rfl rfl ?_
    refine e_push rfl ?_
    refine e_i2 rfl ?_
    refine e_aald rfl fun r17 hr17 => ?_
    refine e_aastA rfl fun h18 => ?_
    refine e_iinc (M := fun x19 => [some (.ref v0), some (.int v1), some (.int v2), some (v3), some (.int x19)]) rfl rfl (fun _ => dx_sto (Nat.le_of_ble_eq_true rfl) (Or.inr ⟨_, rfl, dx_nl hv3⟩) rfl) fun x19 => ?_
    refine e_goto rfl ?_
    exact e_wk mP_X2_draft (ll_1 (ll_1 (ll_1 (ll_1 (ll_1 ll_n)))))
theorem m_X2_draft {d : Nat} {v0 : Nat} {v1 : Int32} {h : ax_H}  : dx_le (B_X2_draft_2 (ax_c d) v0 v1 0 h) (ax_c (d + 1) 339 [.ref v0, .int v1] h) := by
  refine e_entry (L' := [some (.ref v0), some (.int v1), none, none, none]) rfl (ag_A rfl (ag_I ag_n)) (Nat.le_of_ble_eq_true rfl) rfl ?_
  refine e_push rfl ?_
  refine e_istore (L' := [some (.ref v0), some (.int v1), some (.int 0), none, none]) rfl (dx_sto (Nat.le_of_ble_eq_true rfl) (Or.inr ⟨_, rfl, rfl⟩) rfl) ?_
  exact e_wk mP_X2_draft (ll_1 (ll_1 (ll_1 (ll_0 (ll_0 ll_n)))))
noncomputable def B_X2_append_27 (K : ax_K) (s0 : Int32) (v0 : Nat) (v1 : Int32) (v2 : Int32) (v3 : Int32) (v4 : Int32) (h : ax_H) : Option ax_R := ax_run K P_X2_append 27 [some (.ref v0), some (.int v1), some (.int v2), some (.int v3), some (.int v4), none, none, none, none] [.int s0] h
noncomputable def B_X2_append_56 (K : ax_K) (s0 : Int32) (v0 : Nat) (v1 : Int32) (v2 : Int32) (v3 : Int32) (v4 : Int32) (v5 : Int32) (h : ax_H) : Option ax_R := ax_run K P_X2_append 56 [some (.ref v0), some (.int v1), some (.int v2), some (.int v3), some (.int v4), some (.int v5), none, none, none] [.int s0] h
noncomputable def B_X2_append_77 (K : ax_K) (v0 : Nat) (v1 : Int32) (v2 : Int32) (v3 : Int32) (v4 : Int32) (v5 : Int32) (v6 : Int32) (v7 : Value) (v8 : Int32) (h : ax_H) : Option ax_R := ax_run K P_X2_append 77 [some (.ref v0), some (.int v1), some (.int v2), some (.int v3), some (.int v4), some (.int v5), some (.int v6), some (v7), some (.int v8)] [] h
noncomputable def B_X2_append_101 (K : ax_K) (v0 : Nat) (v1 : Int32) (v2 : Int32) (v3 : Int32) (v4 : Int32) (v5 : Int32) (v6 : Int32) (v7 : Value) (h : ax_H) : Option ax_R := ax_run K P_X2_append 101 [some (.ref v0), some (.int v1), some (.int v2), some (.int v3), some (.int v4), some (.int v5), some (.int v6), some (v7), none] [] h
noncomputable def B_X2_append_130 (K : ax_K) (v0 : Nat) (v1 : Int32) (v3 : Int32) (h : ax_H) : Option ax_R := ax_run K P_X2_append 130 [some (.ref v0), some (.int v1), none, some (.int v3), none, none, none, none, none] [] h
theorem b_X2_append_27 {K : ax_K} {s0 : Int32} {v0 : Nat} {v1 : Int32} {v2 : Int32} {v3 : Int32} {v4 : Int32} {h : ax_H}  : dx_le (if ¬ v3 = 16 then if s0 = 0 then (dx_vn [(29, 305)] (.ref v0) h).bind fun k => dx_cI (K k [.ref v0, .int v1, .int v4] h) (fun x2 h1 => B_X2_append_56 K x2 v0 v1 v2 v3 v4 s0 h1) dx_x0 else (dx_vn [(29, 341)] (.ref v0) h).bind fun k => dx_cI (K k [.ref v0] h) (fun x4 h3 => B_X2_append_56 K x4 v0 v1 v2 v3 v4 s0 h3) dx_x0 else some (.inl (some (.int 2)), h)) (B_X2_append_27 K s0 v0 v1 v2 v3 v4 h) := by
  show dx_le _ (ax_run K P_X2_append 27 [some (.ref v0), some (.int v1), some (.int v2), some (.int v3), some (.int v4), none, none, none, none] [.int s0] h)
  refine e_istore (L' := [some (.ref v0), some (.int v1), some (.int v2), some (.int v3), some (.int v4), some (.int s0), none, none, none]) rfl (dx_sto (Nat.le_of_ble_eq_true rfl) (Or.inr ⟨_, rfl, rfl⟩) rfl) ?_
  refine e_iload rfl rfl ?_
  refine e_push rfl ?_
  refine e_if2 rfl rfl ?_ ?_
  · refine e_iload rfl rfl ?_
    refine e_if1 rfl rfl ?_ ?_
    · refine e_aload rfl rfl rfl ?_
      refine e_iload rfl rfl ?_
      refine e_iload rfl rfl ?_
      refine e_ivI rfl rfl rfl (Nat.le_of_ble_eq_true rfl) (fun _ _ => e_x0) fun x2 h1 => ?_
      exact e_wk mP_X2_append (ll_1 (ll_1 (ll_1 (ll_1 (ll_1 (ll_1 (ll_0 (ll_0 (ll_0 ll_n)))))))))
    · refine e_aload rfl rfl rfl ?_
      refine e_ivI rfl rfl rfl (Nat.le_of_ble_eq_true rfl) (fun _ _ => e_x0) fun x4 h3 => ?_
      refine e_goto rfl ?_
      exact e_wk mP_X2_append (ll_1 (ll_1 (ll_1 (ll_1 (ll_1 (ll_1 (ll_0 (ll_0 (ll_0 ll_n)))))))))
  · refine e_push rfl ?_
    exact e_iret rfl
theorem b_X2_append_56 {K : ax_K} {s0 : Int32} {v0 : Nat} {v1 : Int32} {v2 : Int32} {v3 : Int32} {v4 : Int32} {v5 : Int32} {h : ax_H}  : dx_le (if ¬ s0 = (-1) then (dx_vn [(29, 339)] (.ref v0) h).bind fun k => dx_cR (K k [.ref v0, .int s0] h) (fun r2 h1 => B_X2_append_77 K v0 v1 v2 v3 v4 v5 s0 r2 0 h1) dx_x0 else some (.inl (some (.int 3)), h)) (B_X2_append_56 K s0 v0 v1 v2 v3 v4 v5 h) := by
  show dx_le _ (ax_run K P_X2_append 56 [some (.ref v0), some (.int v1), some (.int v2), some (.int v3), some (.int v4), some (.int v5), none, none, none] [.int s0] h)
  refine e_istore (L' := [some (.ref v0), some (.int v1), some (.int v2), some (.int v3), some (.int v4), some (.int v5), some (.int s0), none, none]) rfl (dx_sto (Nat.le_of_ble_eq_true rfl) (Or.inr ⟨_, rfl, rfl⟩) rfl) ?_
  refine e_iload rfl rfl ?_
  refine e_push rfl ?_
  refine e_if2 rfl rfl ?_ ?_
  · refine e_aload rfl rfl rfl ?_
    refine e_iload rfl rfl ?_
    refine e_ivR rfl rfl rfl (Nat.le_of_ble_eq_true rfl) (fun _ _ => e_x0) fun r2 h1 hr2 => ?_
    refine e_astore (L' := [some (.ref v0), some (.int v1), some (.int v2), some (.int v3), some (.int v4), some (.int v5), some (.int s0), some (r2), none]) rfl hr2 (dx_sto (Nat.le_of_ble_eq_true rfl) (Or.inr ⟨_, rfl, rfl⟩) rfl) ?_
    refine e_push rfl ?_
    refine e_istore (L' := [some (.ref v0), some (.int v1), some (.int v2), some (.int v3), some (.int v4), some (.int v5), some (.int s0), some (r2), some (.int 0)]) rfl (dx_sto (Nat.le_of_ble_eq_true rfl) (Or.inr ⟨_, rfl, dx_nl hr2⟩) rfl) ?_
    exact e_wk mP_X2_append (ll_1 (ll_1 (ll_1 (ll_1 (ll_1 (ll_1 (ll_1 (ll_1 (ll_1 ll_n)))))))))
  · refine e_push rfl ?_
    exact e_iret rfl
theorem b_X2_append_77 {K : ax_K} {v0 : Nat} {v1 : Int32} {v2 : Int32} {v3 : Int32} {v4 : Int32} {v5 : Int32} {v6 : Int32} {v7 : Value} {v8 : Int32} {h : ax_H} (hv7 : ax_rv v7 = true) : dx_le (if v5 = 0 then B_X2_append_101 K v0 v1 v2 v3 v4 v5 v6 v7 h else if (8 : Int32) ≤ v8 then B_X2_append_101 K v0 v1 v2 v3 v4 v5 v6 v7 h else (dx_sI 0 v7 v8 0 h).bind fun h1 => dx_lt (v8 + 1) fun x2 => B_X2_append_77 K v0 v1 v2 v3 v4 v5 v6 v7 x2 h1) (B_X2_append_77 K v0 v1 v2 v3 v4 v5 v6 v7 v8 h) := by
  show dx_le _ (ax_run K P_X2_append 77 [some (.ref v0), some (.int v1), some (.int v2), some (.int v3), some (.int v4), some (.int v5), some (.int v6), some (v7), some (.int v8)] [] h)
  refine e_iload rfl rfl ?_
  refine e_if1 rfl rfl ?_ ?_
  · exact e_wk mP_X2_append (ll_1 (ll_1 (ll_1 (ll_1 (ll_1 (ll_1 (ll_1 (ll_1 (ll_0 ll_n)))))))))
  · refine e_iload rfl rfl ?_
    refine e_push rfl ?_
    refine e_if2 rfl rfl ?_ ?_
    · exact e_wk mP_X2_append (ll_1 (ll_1 (ll_1 (ll_1 (ll_1 (ll_1 (ll_1 (ll_1 (ll_0 ll_n)))))))))
    · refine e_aload rfl rfl hv7 ?_
      refine e_iload rfl rfl ?_
      refine e_push rfl ?_
      refine e_iastI rfl fun h1 => ?_
      refine e_iinc (M := fun x2 => [some (.ref v0), some (.int v1), some (.int v2), some (.int v3), some (.int v4), some (.int v5), some (.int v6), some (v7), some (.int x2)]) rfl rfl (fun _ => dx_sto (Nat.le_of_ble_eq_true rfl) (Or.inr ⟨_, rfl, dx_nl hv7⟩) rfl) fun x2 => ?_
      refine e_goto rfl ?_
      exact e_wk mP_X2_append (ll_1 (ll_1 (ll_1 (ll_1 (ll_1 (ll_1 (ll_1 (ll_1 (ll_1 ll_n)))))))))
theorem b_X2_append_101 {K : ax_K} {v0 : Nat} {v1 : Int32} {v2 : Int32} {v3 : Int32} {v4 : Int32} {v5 : Int32} {v6 : Int32} {v7 : Value} {h : ax_H} (hv7 : ax_rv v7 = true) : dx_le ((dx_sI 0 v7 (dx_rem v3 8) v2 h).bind fun h1 => if v5 = 0 then B_X2_append_130 K v0 v1 v3 h1 else (dx_vn [(29, 342)] (.ref v0) h1).bind fun k => dx_cV (K k [.ref v0, .int v6, .int 1] h1) (fun h2 => (dx_vn [(29, 338)] (.ref v0) h2).bind fun k => dx_cV (K k [.ref v0, .int v1, .int v4, .int v6] h2) (fun h3 => B_X2_append_130 K v0 v1 v3 h3) dx_x0) dx_x0) (B_X2_append_101 K v0 v1 v2 v3 v4 v5 v6 v7 h) := by
  show dx_le _ (ax_run K P_X2_append 101 [some (.ref v0), some (.int v1), some (.int v2), some (.int v3), some (.int v4), some (.int v5), some (.int v6), some (v7), none] [] h)
  refine e_aload rfl rfl hv7 ?_
  refine e_iload rfl rfl ?_
  refine e_push rfl ?_
  refine e_rem rfl (by decide) ?_
  refine e_iload rfl rfl ?_
  refine e_iastI rfl fun h1 => ?_
  refine e_iload rfl rfl ?_
  refine e_if1 rfl rfl ?_ ?_
  · exact e_wk mP_X2_append (ll_1 (ll_1 (ll_0 (ll_1 (ll_0 (ll_0 (ll_0 (ll_0 (ll_0 ll_n)))))))))
  · refine e_aload rfl rfl rfl ?_
    refine e_iload rfl rfl ?_
    refine e_push rfl ?_
    refine e_ivV rfl rfl rfl (Nat.le_of_ble_eq_true rfl) (fun _ _ => e_x0) fun h2 => ?_
    refine e_aload rfl rfl rfl ?_
    refine e_iload rfl rfl ?_
    refine e_iload rfl rfl ?_
    refine e_iload rfl rfl ?_
    refine e_ivV rfl rfl rfl (Nat.le_of_ble_eq_true rfl) (fun _ _ => e_x0) fun h3 => ?_
    exact e_wk mP_X2_append (ll_1 (ll_1 (ll_0 (ll_1 (ll_0 (ll_0 (ll_0 (ll_0 (ll_0 ll_n)))))))))
theorem b_X2_append_130 {K : ax_K} {v0 : Nat} {v1 : Int32} {v3 : Int32} {h : ax_H}  : dx_le ((dx_vn [(29, 338)] (.ref v0) h).bind fun k => dx_cV (K k [.ref v0, .int v1, .int 1, .int (v3 + 1)] h) (fun h1 => some (.inl (some (.int 0)), h1)) dx_x0) (B_X2_append_130 K v0 v1 v3 h) := by
  show dx_le _ (ax_run K P_X2_append 130 [some (.ref v0), some (.int v1), none, some (.int v3), none, none, none, none, none] [] h)
  refine e_aload rfl rfl rfl ?_
  refine e_iload rfl rfl ?_
  refine e_push rfl ?_
  refine e_iload rfl rfl ?_
  refine e_push rfl ?_
  refine e_i2 rfl ?_
  refine e_ivV rfl rfl rfl (Nat.le_of_ble_eq_true rfl) (fun _ _ => e_x0) fun h1 => ?_
  refine e_push rfl ?_
  exact e_iret rfl
theorem m_X2_append {d : Nat} {v0 : Nat} {v1 : Int32} {v2 : Int32} {h : ax_H}  : dx_le ((dx_vn [(29, 305)] (.ref v0) h).bind fun k => dx_cI ((ax_c d) k [.ref v0, .int v1, .int 1] h) (fun x2 h1 => dx_lt (2 + (x2 / 8)) fun x3 => if ¬ (dx_rem x2 8) = 0 then B_X2_append_27 (ax_c d) 0 v0 v1 v2 x2 x3 h1 else B_X2_append_27 (ax_c d) 1 v0 v1 v2 x2 x3 h1) dx_x0) (ax_c (d + 1) 340 [.ref v0, .int v1, .int v2] h) := by
  refine e_entry (L' := [some (.ref v0), some (.int v1), some (.int v2), none, none, none, none, none, none]) rfl (ag_A rfl (ag_I (ag_I ag_n))) (Nat.le_of_ble_eq_true rfl) rfl ?_
  refine e_aload rfl rfl rfl ?_
  refine e_iload rfl rfl ?_
  refine e_push rfl ?_
  refine e_ivI rfl rfl rfl (Nat.le_of_ble_eq_true rfl) (fun _ _ => e_x0) fun x2 h1 => ?_
  refine e_istore (L' := [some (.ref v0), some (.int v1), some (.int v2), some (.int x2), none, none, none, none, none]) rfl (dx_sto (Nat.le_of_ble_eq_true rfl) (Or.inr ⟨_, rfl, rfl⟩) rfl) ?_
  refine e_push rfl ?_
  refine e_iload rfl rfl ?_
  refine e_push rfl ?_
  refine e_idn rfl (by decide) ?_
  refine e_i2 rfl ?_
  refine e_istoreL (M := fun x3 => [some (.ref v0), some (.int v1), some (.int v2), some (.int x2), some (.int x3), none, none, none, none]) rfl (fun _ => dx_sto (Nat.le_of_ble_eq_true rfl) (Or.inr ⟨_, rfl, rfl⟩) rfl) fun x3 => ?_
  refine e_iload rfl rfl ?_
  refine e_push rfl ?_
  refine e_rem rfl (by decide) ?_
  refine e_if1 rfl rfl ?_ ?_
  · refine e_push rfl ?_
    exact e_wk mP_X2_append (ll_1 (ll_1 (ll_1 (ll_1 (ll_1 (ll_0 (ll_0 (ll_0 (ll_0 ll_n)))))))))
  · refine e_push rfl ?_
    refine e_goto rfl ?_
    exact e_wk mP_X2_append (ll_1 (ll_1 (ll_1 (ll_1 (ll_1 (ll_0 (ll_0 (ll_0 (ll_0 ll_n)))))))))
noncomputable def B_X2_firstFree_5 (K : ax_K) (v0 : Nat) (v1 : Int32) (v2 : Int32) (h : ax_H) : Option ax_R := ax_run K P_X2_firstFree 5 [some (.ref v0), some (.int v1), some (.int v2)] [] h
theorem b_X2_firstFree_5 {K : ax_K} {v0 : Nat} {v1 : Int32} {v2 : Int32} {h : ax_H}  : dx_le (if v2 < 8 then some (.inl (some (.int v1)), h) else (dx_vn [(29, 306)] (.ref v0) h).bind fun k => dx_cI (K k [.ref v0, .int v2] h) (fun x2 h1 => if x2 = 0 then dx_lt (v2 + (-1)) fun x3 => B_X2_firstFree_5 K v0 v2 x3 h1 else dx_lt (v2 + (-1)) fun x4 => B_X2_firstFree_5 K v0 v1 x4 h1) dx_x0) (B_X2_firstFree_5 K v0 v1 v2 h) := by
  show dx_le _ (ax_run K P_X2_firstFree 5 [some (.ref v0), some (.int v1), some (.int v2)] [] h)
  refine e_iload rfl rfl ?_
  refine e_push rfl ?_
  refine e_if2 rfl rfl ?_ ?_
  · refine e_iload rfl rfl ?_
    exact e_iret rfl
  · refine e_aload rfl rfl rfl ?_
    refine e_iload rfl rfl ?_
    refine e_ivI rfl rfl rfl (Nat.le_of_ble_eq_true rfl) (fun _ _ => e_x0) fun x2 h1 => ?_
    refine e_if1 rfl rfl ?_ ?_
    · refine e_iload rfl rfl ?_
      refine e_istore (L' := [some (.ref v0), some (.int v2), some (.int v2)]) rfl (dx_sto (Nat.le_of_ble_eq_true rfl) (Or.inr ⟨_, rfl, rfl⟩) rfl) ?_
      refine e_iinc (M := fun x3 => [some (.ref v0), some (.int v2), some (.int x3)]) rfl rfl (fun _ => dx_sto (Nat.le_of_ble_eq_true rfl) (Or.inr ⟨_, rfl, rfl⟩) rfl) fun x3 => ?_
      refine e_goto rfl ?_
      exact e_wk mP_X2_firstFree (ll_1 (ll_1 (ll_1 ll_n)))
    · refine e_iload rfl rfl ?_
      refine e_goto rfl ?_
      refine e_istore (L' := [some (.ref v0), some (.int v1), some (.int v2)]) rfl (dx_sto (Nat.le_of_ble_eq_true rfl) (Or.inr ⟨_, rfl, rfl⟩) rfl) ?_
      refine e_iinc (M := fun x4 => [some (.ref v0), some (.int v1), some (.int x4)]) rfl rfl (fun _ => dx_sto (Nat.le_of_ble_eq_true rfl) (Or.inr ⟨_, rfl, rfl⟩) rfl) fun x4 => ?_
      refine e_goto rfl ?_
      exact e_wk mP_X2_firstFree (ll_1 (ll_1 (ll_1 ll_n)))
theorem m_X2_firstFree {d : Nat} {v0 : Nat} {h : ax_H}  : dx_le (B_X2_firstFree_5 (ax_c d) v0 (-1) 31 h) (ax_c (d + 1) 341 [.ref v0] h) := by
  refine e_entry (L' := [some (.ref v0), none, none]) rfl (ag_A rfl ag_n) (Nat.le_of_ble_eq_true rfl) rfl ?_
  refine e_push rfl ?_
  refine e_istore (L' := [some (.ref v0), some (.int (-1)), none]) rfl (dx_sto (Nat.le_of_ble_eq_true rfl) (Or.inr ⟨_, rfl, rfl⟩) rfl) ?_
  refine e_push rfl ?_
  refine e_istore (L' := [some (.ref v0), some (.int (-1)), some (.int 31)]) rfl (dx_sto (Nat.le_of_ble_eq_true rfl) (Or.inr ⟨_, rfl, rfl⟩) rfl) ?_
  exact e_wk mP_X2_firstFree (ll_1 (ll_1 (ll_1 ll_n)))
theorem m_X2_mark {d : Nat} {v0 : Nat} {v1 : Int32} {v2 : Int32} {h : ax_H}  : dx_le ((dx_vn [(29, 339)] (.ref v0) h).bind fun k => dx_cR ((ax_c d) k [.ref v0, .int 4] h) (fun r2 h1 => dx_lt (dx_shl 1 (dx_rem v1 16)) fun x3 => if v2 = 0 then (dx_lI 0 r2 (v1 / 16) h1).bind fun x4 => (dx_sI 0 r2 (v1 / 16) (x4 &&& (x3 ^^^ (-1))) h1).bind fun h5 => some (.inl none, h5) else (dx_lI 0 r2 (v1 / 16) h1).bind fun x6 => (dx_sI 0 r2 (v1 / 16) (x6 ||| x3) h1).bind fun h7 => some (.inl none, h7)) dx_x0) (ax_c (d + 1) 342 [.ref v0, .int v1, .int v2] h) := by
  refine e_entry (L' := [some (.ref v0), some (.int v1), some (.int v2), none, none]) rfl (ag_A rfl (ag_I (ag_I ag_n))) (Nat.le_of_ble_eq_true rfl) rfl ?_
  refine e_aload rfl rfl rfl ?_
  refine e_push rfl ?_
  refine e_ivR rfl rfl rfl (Nat.le_of_ble_eq_true rfl) (fun _ _ => e_x0) fun r2 h1 hr2 => ?_
  refine e_astore (L' := [some (.ref v0), some (.int v1), some (.int v2), some (r2), none]) rfl hr2 (dx_sto (Nat.le_of_ble_eq_true rfl) (Or.inr ⟨_, rfl, rfl⟩) rfl) ?_
  refine e_push rfl ?_
  refine e_iload rfl rfl ?_
  refine e_push rfl ?_
  refine e_rem rfl (by decide) ?_
  refine e_shl rfl ?_
  refine e_istoreL (M := fun x3 => [some (.ref v0), some (.int v1), some (.int v2), some (r2), some (.int x3)]) rfl (fun _ => dx_sto (Nat.le_of_ble_eq_true rfl) (Or.inr ⟨_, rfl, dx_nl hr2⟩) rfl) fun x3 => ?_
  refine e_aload rfl rfl hr2 ?_
  refine e_iload rfl rfl ?_
  refine e_push rfl ?_
  refine e_idn rfl (by decide) ?_
  refine e_iload rfl rfl ?_
  refine e_if1 rfl rfl ?_ ?_
  · refine e_aload rfl rfl hr2 ?_
    refine e_iload rfl rfl ?_
    refine e_push rfl ?_
    refine e_idn rfl (by decide) ?_
    refine e_iald rfl fun x4 => ?_
    refine e_iload rfl rfl ?_
    refine e_push rfl ?_
    refine e_i2 rfl ?_
    refine e_i2 rfl ?_
    refine e_iastI rfl fun h5 => ?_
    exact e_ret rfl
  · refine e_aload rfl rfl hr2 ?_
    refine e_iload rfl rfl ?_
    refine e_push rfl ?_
    refine e_idn rfl (by decide) ?_
    refine e_iald rfl fun x6 => ?_
    refine e_iload rfl rfl ?_
    refine e_i2 rfl ?_
    refine e_goto rfl ?_
    refine e_iastI rfl fun h7 => ?_
    exact e_ret rfl
theorem m_X2_wordOf {d : Nat} {v0 : Nat} {v1 : Int32} {v2 : Int32} {h : ax_H}  : dx_le ((dx_gA [(29, 0)] (.ref v0) h).bind fun r1 => (dx_vn [(29, 305)] (.ref v0) h).bind fun k => dx_cI ((ax_c d) k [.ref v0, .int v1, .int (2 + (v2 / 8))] h) (fun x3 h2 => (dx_lI 0 r1 ((365 + (8 * x3)) + (dx_rem v2 8)) h2).bind fun x4 => some (.inl (some (.int x4)), h2)) dx_x0) (ax_c (d + 1) 343 [.ref v0, .int v1, .int v2] h) := by
  refine e_entry (L' := [some (.ref v0), some (.int v1), some (.int v2)]) rfl (ag_A rfl (ag_I (ag_I ag_n))) (Nat.le_of_ble_eq_true rfl) rfl ?_
  refine e_aload rfl rfl rfl ?_
  refine e_getA rfl fun r1 hr1 => ?_
  refine e_push rfl ?_
  refine e_push rfl ?_
  refine e_aload rfl rfl rfl ?_
  refine e_iload rfl rfl ?_
  refine e_push rfl ?_
  refine e_iload rfl rfl ?_
  refine e_push rfl ?_
  refine e_idn rfl (by decide) ?_
  refine e_i2 rfl ?_
  refine e_ivI rfl rfl rfl (Nat.le_of_ble_eq_true rfl) (fun _ _ => e_x0) fun x3 h2 => ?_
  refine e_i2 rfl ?_
  refine e_i2 rfl ?_
  refine e_iload rfl rfl ?_
  refine e_push rfl ?_
  refine e_rem rfl (by decide) ?_
  refine e_i2 rfl ?_
  refine e_iald rfl fun x4 => ?_
  exact e_iret rfl
noncomputable def B_X2_remove_2 (K : ax_K) (v0 : Nat) (v1 : Int32) (v2 : Int32) (h : ax_H) : Option ax_R := ax_run K P_X2_remove 2 [some (.ref v0), some (.int v1), some (.int v2)] [] h
noncomputable def B_X2_remove_32 (K : ax_K) (v0 : Nat) (v1 : Int32) (v2 : Int32) (h : ax_H) : Option ax_R := ax_run K P_X2_remove 32 [some (.ref v0), some (.int v1), some (.int v2)] [] h
theorem b_X2_remove_2 {K : ax_K} {v0 : Nat} {v1 : Int32} {v2 : Int32} {h : ax_H}  : dx_le (if (4 : Int32) ≤ v2 then some (.inl none, h) else if v2 < 2 then B_X2_remove_32 K v0 v1 v2 h else (dx_vn [(29, 305)] (.ref v0) h).bind fun k => dx_cI (K k [.ref v0, .int v1, .int v2] h) (fun x2 h1 => if x2 = 0 then B_X2_remove_32 K v0 v1 v2 h1 else (dx_vn [(29, 305)] (.ref v0) h1).bind fun k => dx_cI (K k [.ref v0, .int v1, .int v2] h1) (fun x4 h3 => (dx_vn [(29, 342)] (.ref v0) h3).bind fun k => dx_cV (K k [.ref v0, .int x4, .int 0] h3) (fun h5 => B_X2_remove_32 K v0 v1 v2 h5) dx_x0) dx_x0) dx_x0) (B_X2_remove_2 K v0 v1 v2 h) := by
  show dx_le _ (ax_run K P_X2_remove 2 [some (.ref v0), some (.int v1), some (.int v2)] [] h)
  refine e_iload rfl rfl ?_
  refine e_push rfl ?_
  refine e_if2 rfl rfl ?_ ?_
  · exact e_ret rfl
  · refine e_iload rfl rfl ?_
    refine e_push rfl ?_
    refine e_if2 rfl rfl ?_ ?_
    · exact e_wk mP_X2_remove (ll_1 (ll_1 (ll_1 ll_n)))
    · refine e_aload rfl rfl rfl ?_
      refine e_iload rfl rfl ?_
      refine e_iload rfl rfl ?_
      refine e_ivI rfl rfl rfl (Nat.le_of_ble_eq_true rfl) (fun _ _ => e_x0) fun x2 h1 => ?_
      refine e_if1 rfl rfl ?_ ?_
      · exact e_wk mP_X2_remove (ll_1 (ll_1 (ll_1 ll_n)))
      · refine e_aload rfl rfl rfl ?_
        refine e_aload rfl rfl rfl ?_
        refine e_iload rfl rfl ?_
        refine e_iload rfl rfl ?_
        refine e_ivI rfl rfl rfl (Nat.le_of_ble_eq_true rfl) (fun _ _ => e_x0) fun x4 h3 => ?_
        refine e_push rfl ?_
        refine e_ivV rfl rfl rfl (Nat.le_of_ble_eq_true rfl) (fun _ _ => e_x0) fun h5 => ?_
        exact e_wk mP_X2_remove (ll_1 (ll_1 (ll_1 ll_n)))
theorem b_X2_remove_32 {K : ax_K} {v0 : Nat} {v1 : Int32} {v2 : Int32} {h : ax_H}  : dx_le ((dx_vn [(29, 338)] (.ref v0) h).bind fun k => dx_cV (K k [.ref v0, .int v1, .int v2, .int 0] h) (fun h1 => dx_lt (v2 + 1) fun x2 => B_X2_remove_2 K v0 v1 x2 h1) dx_x0) (B_X2_remove_32 K v0 v1 v2 h) := by
  show dx_le _ (ax_run K P_X2_remove 32 [some (.ref v0), some (.int v1), some (.int v2)] [] h)
  refine e_aload rfl rfl rfl ?_
  refine e_iload rfl rfl ?_
  refine e_iload rfl rfl ?_
  refine e_push rfl ?_
  refine e_ivV rfl rfl rfl (Nat.le_of_ble_eq_true rfl) (fun _ _ => e_x0) fun h1 => ?_
  refine e_iinc (M := fun x2 => [some (.ref v0), some (.int v1), some (.int x2)]) rfl rfl (fun _ => dx_sto (Nat.le_of_ble_eq_true rfl) (Or.inr ⟨_, rfl, rfl⟩) rfl) fun x2 => ?_
  refine e_goto rfl ?_
  exact e_wk mP_X2_remove (ll_1 (ll_1 (ll_1 ll_n)))
theorem m_X2_remove {d : Nat} {v0 : Nat} {v1 : Int32} {h : ax_H}  : dx_le (B_X2_remove_2 (ax_c d) v0 v1 0 h) (ax_c (d + 1) 344 [.ref v0, .int v1] h) := by
  refine e_entry (L' := [some (.ref v0), some (.int v1), none]) rfl (ag_A rfl (ag_I ag_n)) (Nat.le_of_ble_eq_true rfl) rfl ?_
  refine e_push rfl ?_
  refine e_istore (L' := [some (.ref v0), some (.int v1), some (.int 0)]) rfl (dx_sto (Nat.le_of_ble_eq_true rfl) (Or.inr ⟨_, rfl, rfl⟩) rfl) ?_
  exact e_wk mP_X2_remove (ll_1 (ll_1 (ll_1 ll_n)))
noncomputable def B_X2_rename_30 (K : ax_K) (v0 : Nat) (v1 : Int32) (v3 : Int32) (h : ax_H) : Option ax_R := ax_run K P_X2_rename 30 [some (.ref v0), some (.int v1), none, some (.int v3), none] [] h
theorem b_X2_rename_30 {K : ax_K} {v0 : Nat} {v1 : Int32} {v3 : Int32} {h : ax_H}  : dx_le ((dx_vn [(29, 338)] (.ref v0) h).bind fun k => dx_cV (K k [.ref v0, .int v1, .int 0, .int v3] h) (fun h1 => some (.inl (some (.int 0)), h1)) dx_x0) (B_X2_rename_30 K v0 v1 v3 h) := by
  show dx_le _ (ax_run K P_X2_rename 30 [some (.ref v0), some (.int v1), none, some (.int v3), none] [] h)
  refine e_aload rfl rfl rfl ?_
  refine e_iload rfl rfl ?_
  refine e_push rfl ?_
  refine e_iload rfl rfl ?_
  refine e_ivV rfl rfl rfl (Nat.le_of_ble_eq_true rfl) (fun _ _ => e_x0) fun h1 => ?_
  refine e_push rfl ?_
  exact e_iret rfl
theorem m_X2_rename {d : Nat} {v0 : Nat} {v1 : Int32} {v2 : Int32} {v3 : Int32} {h : ax_H}  : dx_le (if ¬ v3 = 0 then (dx_vn [(29, 337)] (.ref v0) h).bind fun k => dx_cI ((ax_c d) k [.ref v0, .int v3] h) (fun x2 h1 => if v3 = v2 then some (.inl (some (.int 0)), h1) else if x2 = (-1) then B_X2_rename_30 (ax_c d) v0 v1 v3 h1 else (dx_vn [(29, 344)] (.ref v0) h1).bind fun k => dx_cV ((ax_c d) k [.ref v0, .int x2] h1) (fun h3 => B_X2_rename_30 (ax_c d) v0 v1 v3 h3) dx_x0) dx_x0 else some (.inl (some (.int 1)), h)) (ax_c (d + 1) 345 [.ref v0, .int v1, .int v2, .int v3] h) := by
  refine e_entry (L' := [some (.ref v0), some (.int v1), some (.int v2), some (.int v3), none]) rfl (ag_A rfl (ag_I (ag_I (ag_I ag_n)))) (Nat.le_of_ble_eq_true rfl) rfl ?_
  refine e_iload rfl rfl ?_
  refine e_if1 rfl rfl ?_ ?_
  · refine e_aload rfl rfl rfl ?_
    refine e_iload rfl rfl ?_
    refine e_ivI rfl rfl rfl (Nat.le_of_ble_eq_true rfl) (fun _ _ => e_x0) fun x2 h1 => ?_
    refine e_istore (L' := [some (.ref v0), some (.int v1), some (.int v2), some (.int v3), some (.int x2)]) rfl (dx_sto (Nat.le_of_ble_eq_true rfl) (Or.inr ⟨_, rfl, rfl⟩) rfl) ?_
    refine e_iload rfl rfl ?_
    refine e_iload rfl rfl ?_
    refine e_if2 rfl rfl ?_ ?_
    · refine e_push rfl ?_
      exact e_iret rfl
    · refine e_iload rfl rfl ?_
      refine e_push rfl ?_
      refine e_if2 rfl rfl ?_ ?_
      · exact e_wk mP_X2_rename (ll_1 (ll_1 (ll_0 (ll_1 (ll_0 ll_n)))))
      · refine e_aload rfl rfl rfl ?_
        refine e_iload rfl rfl ?_
        refine e_ivV rfl rfl rfl (Nat.le_of_ble_eq_true rfl) (fun _ _ => e_x0) fun h3 => ?_
        exact e_wk mP_X2_rename (ll_1 (ll_1 (ll_0 (ll_1 (ll_0 ll_n)))))
  · refine e_push rfl ?_
    exact e_iret rfl
theorem m_X2_stop {d : Nat} {v0 : Nat} {v1 : Int32} {h : ax_H}  : dx_le ((dx_vn [(29, 320)] (.ref v0) h).bind fun k => dx_cV ((ax_c d) k [.ref v0, .int 0, .int 3] h) (fun h1 => (dx_vn [(29, 320)] (.ref v0) h1).bind fun k => dx_cV ((ax_c d) k [.ref v0, .int 1, .int v1] h1) (fun h2 => some (.inl none, h2)) dx_x0) dx_x0) (ax_c (d + 1) 346 [.ref v0, .int v1] h) := by
  refine e_entry (L' := [some (.ref v0), some (.int v1)]) rfl (ag_A rfl (ag_I ag_n)) (Nat.le_of_ble_eq_true rfl) rfl ?_
  refine e_aload rfl rfl rfl ?_
  refine e_push rfl ?_
  refine e_push rfl ?_
  refine e_ivV rfl rfl rfl (Nat.le_of_ble_eq_true rfl) (fun _ _ => e_x0) fun h1 => ?_
  refine e_aload rfl rfl rfl ?_
  refine e_push rfl ?_
  refine e_iload rfl rfl ?_
  refine e_ivV rfl rfl rfl (Nat.le_of_ble_eq_true rfl) (fun _ _ => e_x0) fun h2 => ?_
  exact e_ret rfl
noncomputable def B_X2_pass_47 (K : ax_K) (s0 : Int32) (v0 : Nat) (h : ax_H) : Option ax_R := ax_run K P_X2_pass 47 [some (.ref v0), none] [.int s0] h
noncomputable def B_X2_pass_68 (K : ax_K) (s0 : Nat) (s1 : Int32) (s2 : Int32) (v0 : Nat) (v1 : Int32) (h : ax_H) : Option ax_R := ax_run K P_X2_pass 68 [some (.ref v0), some (.int v1)] [.int s2, .int s1, .ref s0] h
noncomputable def B_X2_pass_92 (K : ax_K) (v0 : Nat) (h : ax_H) : Option ax_R := ax_run K P_X2_pass 92 [some (.ref v0), none] [] h
theorem b_X2_pass_47 {K : ax_K} {s0 : Int32} {v0 : Nat} {h : ax_H}  : dx_le (if s0 = 0 then (dx_gA [(29, 0)] (.ref v0) h).bind fun r1 => (dx_lI 0 r1 11 h).bind fun x2 => B_X2_pass_68 K v0 11 (x2 + 1) v0 s0 h else B_X2_pass_68 K v0 11 0 v0 s0 h) (B_X2_pass_47 K s0 v0 h) := by
  show dx_le _ (ax_run K P_X2_pass 47 [some (.ref v0), none] [.int s0] h)
  refine e_istore (L' := [some (.ref v0), some (.int s0)]) rfl (dx_sto (Nat.le_of_ble_eq_true rfl) (Or.inr ⟨_, rfl, rfl⟩) rfl) ?_
  refine e_aload rfl rfl rfl ?_
  refine e_push rfl ?_
  refine e_iload rfl rfl ?_
  refine e_if1 rfl rfl ?_ ?_
  · refine e_aload rfl rfl rfl ?_
    refine e_getA rfl fun r1 hr1 => ?_
    refine e_push rfl ?_
    refine e_iald rfl fun x2 => ?_
    refine e_push rfl ?_
    refine e_i2 rfl ?_
    exact e_wk mP_X2_pass (ll_1 (ll_1 ll_n))
  · refine e_push rfl ?_
    refine e_goto rfl ?_
    exact e_wk mP_X2_pass (ll_1 (ll_1 ll_n))
theorem b_X2_pass_68 {K : ax_K} {s0 : Nat} {s1 : Int32} {s2 : Int32} {v0 : Nat} {v1 : Int32} {h : ax_H}  : dx_le ((dx_vn [(29, 320)] (.ref s0) h).bind fun k => dx_cV (K k [.ref s0, .int s1, .int s2] h) (fun h1 => if v1 = 0 then (dx_gA [(29, 0)] (.ref v0) h1).bind fun r2 => (dx_lI 0 r2 8 h1).bind fun x3 => (dx_vn [(29, 320)] (.ref v0) h1).bind fun k => dx_cV (K k [.ref v0, .int 8, .int x3] h1) (fun h4 => B_X2_pass_92 K v0 h4) dx_x0 else (dx_vn [(29, 320)] (.ref v0) h1).bind fun k => dx_cV (K k [.ref v0, .int 8, .int 1] h1) (fun h5 => B_X2_pass_92 K v0 h5) dx_x0) dx_x0) (B_X2_pass_68 K s0 s1 s2 v0 v1 h) := by
  show dx_le _ (ax_run K P_X2_pass 68 [some (.ref v0), some (.int v1)] [.int s2, .int s1, .ref s0] h)
  refine e_ivV rfl rfl rfl (Nat.le_of_ble_eq_true rfl) (fun _ _ => e_x0) fun h1 => ?_
  refine e_aload rfl rfl rfl ?_
  refine e_push rfl ?_
  refine e_iload rfl rfl ?_
  refine e_if1 rfl rfl ?_ ?_
  · refine e_aload rfl rfl rfl ?_
    refine e_getA rfl fun r2 hr2 => ?_
    refine e_push rfl ?_
    refine e_iald rfl fun x3 => ?_
    refine e_ivV rfl rfl rfl (Nat.le_of_ble_eq_true rfl) (fun _ _ => e_x0) fun h4 => ?_
    exact e_wk mP_X2_pass (ll_1 (ll_0 ll_n))
  · refine e_push rfl ?_
    refine e_goto rfl ?_
    refine e_ivV rfl rfl rfl (Nat.le_of_ble_eq_true rfl) (fun _ _ => e_x0) fun h5 => ?_
    exact e_wk mP_X2_pass (ll_1 (ll_0 ll_n))
theorem b_X2_pass_92 {K : ax_K} {v0 : Nat} {h : ax_H}  : dx_le ((dx_gA [(29, 0)] (.ref v0) h).bind fun r1 => (dx_lI 0 r1 2 h).bind fun x2 => (dx_gA [(29, 0)] (.ref v0) h).bind fun r3 => (dx_lI 0 r3 2 h).bind fun x4 => (dx_vn [(29, 334)] (.ref v0) h).bind fun k => dx_cI (K k [.ref v0, .int x2, .int x4] h) (fun x6 h5 => if x6 ≤ 0 then some (.inl none, h5) else (dx_vn [(29, 320)] (.ref v0) h5).bind fun k => dx_cV (K k [.ref v0, .int 9, .int 1] h5) (fun h7 => some (.inl none, h7)) dx_x0) dx_x0) (B_X2_pass_92 K v0 h) := by
  show dx_le _ (ax_run K P_X2_pass 92 [some (.ref v0), none] [] h)
  refine e_aload rfl rfl rfl ?_
  refine e_aload rfl rfl rfl ?_
  refine e_getA rfl fun r1 hr1 => ?_
  refine e_push rfl ?_
  refine e_iald rfl fun x2 => ?_
  refine e_aload rfl rfl rfl ?_
  refine e_getA rfl fun r3 hr3 => ?_
  refine e_push rfl ?_
  refine e_iald rfl fun x4 => ?_
  refine e_ivI rfl rfl rfl (Nat.le_of_ble_eq_true rfl) (fun _ _ => e_x0) fun x6 h5 => ?_
  refine e_if1 rfl rfl ?_ ?_
  · exact e_ret rfl
  · refine e_aload rfl rfl rfl ?_
    refine e_push rfl ?_
    refine e_push rfl ?_
    refine e_ivV rfl rfl rfl (Nat.le_of_ble_eq_true rfl) (fun _ _ => e_x0) fun h7 => ?_
    exact e_ret rfl
theorem m_X2_pass {d : Nat} {v0 : Nat} {h : ax_H}  : dx_le ((dx_gA [(29, 0)] (.ref v0) h).bind fun r1 => (dx_lI 0 r1 2 h).bind fun x2 => (dx_vn [(29, 320)] (.ref v0) h).bind fun k => dx_cV ((ax_c d) k [.ref v0, .int 2, .int (x2 + 1)] h) (fun h3 => (dx_gA [(29, 0)] (.ref v0) h3).bind fun r4 => (dx_lI 0 r4 10 h3).bind fun x5 => if x5 ≤ 0 then B_X2_pass_92 (ax_c d) v0 h3 else (dx_gA [(29, 0)] (.ref v0) h3).bind fun r6 => (dx_lI 0 r6 11 h3).bind fun x7 => (dx_gA [(29, 0)] (.ref v0) h3).bind fun r8 => (dx_lI 0 r8 10 h3).bind fun x9 => if ¬ (x7 + 1) = x9 then B_X2_pass_47 (ax_c d) 0 v0 h3 else B_X2_pass_47 (ax_c d) 1 v0 h3) dx_x0) (ax_c (d + 1) 347 [.ref v0] h) := by
  refine e_entry (L' := [some (.ref v0), none]) rfl (ag_A rfl ag_n) (Nat.le_of_ble_eq_true rfl) rfl ?_
  refine e_aload rfl rfl rfl ?_
  refine e_push rfl ?_
  refine e_aload rfl rfl rfl ?_
  refine e_getA rfl fun r1 hr1 => ?_
  refine e_push rfl ?_
  refine e_iald rfl fun x2 => ?_
  refine e_push rfl ?_
  refine e_i2 rfl ?_
  refine e_ivV rfl rfl rfl (Nat.le_of_ble_eq_true rfl) (fun _ _ => e_x0) fun h3 => ?_
  refine e_aload rfl rfl rfl ?_
  refine e_getA rfl fun r4 hr4 => ?_
  refine e_push rfl ?_
  refine e_iald rfl fun x5 => ?_
  refine e_if1 rfl rfl ?_ ?_
  · exact e_wk mP_X2_pass (ll_1 (ll_0 ll_n))
  · refine e_aload rfl rfl rfl ?_
    refine e_getA rfl fun r6 hr6 => ?_
    refine e_push rfl ?_
    refine e_iald rfl fun x7 => ?_
    refine e_push rfl ?_
    refine e_i2 rfl ?_
    refine e_aload rfl rfl rfl ?_
    refine e_getA rfl fun r8 hr8 => ?_
    refine e_push rfl ?_
    refine e_iald rfl fun x9 => ?_
    refine e_if2 rfl rfl ?_ ?_
    · refine e_push rfl ?_
      exact e_wk mP_X2_pass (ll_1 (ll_0 ll_n))
    · refine e_push rfl ?_
      refine e_goto rfl ?_
      exact e_wk mP_X2_pass (ll_1 (ll_0 ll_n))
noncomputable def B_X2_back_2 (K : ax_K) (v0 : Nat) (v1 : Int32) (v2 : Int32) (h : ax_H) : Option ax_R := ax_run K P_X2_back 2 [some (.ref v0), some (.int v1), some (.int v2), none, none] [] h
noncomputable def B_X2_back_36 (K : ax_K) (v0 : Nat) (v1 : Int32) (v2 : Int32) (v3 : Value) (v4 : Int32) (h : ax_H) : Option ax_R := ax_run K P_X2_back 36 [some (.ref v0), some (.int v1), some (.int v2), some (v3), some (.int v4)] [] h
theorem b_X2_back_2 {K : ax_K} {v0 : Nat} {v1 : Int32} {v2 : Int32} {h : ax_H}  : dx_le (if v1 ≤ v2 then some (.inl (some (.int v2)), h) else (dx_gA [(29, 2)] (.ref v0) h).bind fun r1 => (dx_vn [(16, 156)] r1 h).bind fun k => dx_cI (K k [r1] h) (fun x3 h2 => if ¬ x3 = 0 then some (.inl (some (.int v2)), h2) else (dx_gA [(29, 2)] (.ref v0) h2).bind fun r4 => (dx_vn [(16, 157)] r4 h2).bind fun k => dx_cR (K k [r4] h2) (fun r6 h5 => dx_cs [31] r6 h5 ((dx_gI [(31, 1)] r6 h5).bind fun x7 => dx_lt (x7 - 2) fun x8 => B_X2_back_36 K v0 v1 v2 r6 x8 h5)) dx_x0) dx_x0) (B_X2_back_2 K v0 v1 v2 h) := by
  show dx_le _ (ax_run K P_X2_back 2 [some (.ref v0), some (.int v1), some (.int v2), none, none] [] h)
  refine e_iload rfl rfl ?_
  refine e_iload rfl rfl ?_
  refine e_if2 rfl rfl ?_ ?_
  · refine e_iload rfl rfl ?_
    exact e_iret rfl
  · refine e_aload rfl rfl rfl ?_
    refine e_getA rfl fun r1 hr1 => ?_
    refine e_ivI rfl rfl rfl (Nat.le_of_ble_eq_true rfl) (fun _ _ => e_x0) fun x3 h2 => ?_
    refine e_if1 rfl rfl ?_ ?_
    · refine e_iload rfl rfl ?_
      exact e_iret rfl
    · refine e_aload rfl rfl rfl ?_
      refine e_getA rfl fun r4 hr4 => ?_
      refine e_ivR rfl rfl rfl (Nat.le_of_ble_eq_true rfl) (fun _ _ => e_x0) fun r6 h5 hr6 => ?_
      refine e_cast rfl ?_
      refine e_astore (L' := [some (.ref v0), some (.int v1), some (.int v2), some (r6), none]) rfl hr6 (dx_sto (Nat.le_of_ble_eq_true rfl) (Or.inr ⟨_, rfl, rfl⟩) rfl) ?_
      refine e_aload rfl rfl hr6 ?_
      refine e_getI rfl fun x7 => ?_
      refine e_push rfl ?_
      refine e_i2 rfl ?_
      refine e_istoreL (M := fun x8 => [some (.ref v0), some (.int v1), some (.int v2), some (r6), some (.int x8)]) rfl (fun _ => dx_sto (Nat.le_of_ble_eq_true rfl) (Or.inr ⟨_, rfl, dx_nl hr6⟩) rfl) fun x8 => ?_
      exact e_wk mP_X2_back (ll_1 (ll_1 (ll_1 (ll_1 (ll_1 ll_n)))))
theorem b_X2_back_36 {K : ax_K} {v0 : Nat} {v1 : Int32} {v2 : Int32} {v3 : Value} {v4 : Int32} {h : ax_H} (hv3 : ax_rv v3 = true) : dx_le (if v4 < 0 then dx_lt (v2 + 1) fun x1 => B_X2_back_2 K v0 v1 x1 h else (dx_gA [(29, 0)] (.ref v0) h).bind fun r2 => (dx_gA [(31, 0)] v3 h).bind fun r3 => (dx_lI 0 r3 v4 h).bind fun x4 => (dx_gA [(31, 0)] v3 h).bind fun r5 => (dx_lI 0 r5 (v4 + 1) h).bind fun x6 => (dx_sI 0 r2 x4 x6 h).bind fun h7 => dx_lt (v4 + (-2)) fun x8 => B_X2_back_36 K v0 v1 v2 v3 x8 h7) (B_X2_back_36 K v0 v1 v2 v3 v4 h) := by
  show dx_le _ (ax_run K P_X2_back 36 [some (.ref v0), some (.int v1), some (.int v2), some (v3), some (.int v4)] [] h)
  refine e_iload rfl rfl ?_
  refine e_if1 rfl rfl ?_ ?_
  · refine e_iinc (M := fun x1 => [some (.ref v0), some (.int v1), some (.int x1), some (v3), some (.int v4)]) rfl rfl (fun _ => dx_sto (Nat.le_of_ble_eq_true rfl) (Or.inr ⟨_, rfl, rfl⟩) rfl) fun x1 => ?_
    refine e_goto rfl ?_
    exact e_wk mP_X2_back (ll_1 (ll_1 (ll_1 (ll_0 (ll_0 ll_n)))))
  · refine e_aload rfl rfl rfl ?_
    refine e_getA rfl fun r2 hr2 => ?_
    refine e_aload rfl rfl hv3 ?_
    refine e_getA rfl fun r3 hr3 => ?_
    refine e_iload rfl rfl ?_
    refine e_iald rfl fun x4 => ?_
    refine e_aload rfl rfl hv3 ?_
    refine e_getA rfl fun r5 hr5 => ?_
    refine e_iload rfl rfl ?_
    refine e_push rfl ?_
    refine e_i2 rfl ?_
    refine e_iald rfl fun x6 => ?_
    refine e_iastI rfl fun h7 => ?_
    refine e_iinc (M := fun x8 => [some (.ref v0), some (.int v1), some (.int v2), some (v3), some (.int x8)]) rfl rfl (fun _ => dx_sto (Nat.le_of_ble_eq_true rfl) (Or.inr ⟨_, rfl, dx_nl hv3⟩) rfl) fun x8 => ?_
    refine e_goto rfl ?_
    exact e_wk mP_X2_back (ll_1 (ll_1 (ll_1 (ll_1 (ll_1 ll_n)))))
theorem m_X2_back {d : Nat} {v0 : Nat} {v1 : Int32} {h : ax_H}  : dx_le (B_X2_back_2 (ax_c d) v0 v1 0 h) (ax_c (d + 1) 348 [.ref v0, .int v1] h) := by
  refine e_entry (L' := [some (.ref v0), some (.int v1), none, none, none]) rfl (ag_A rfl (ag_I ag_n)) (Nat.le_of_ble_eq_true rfl) rfl ?_
  refine e_push rfl ?_
  refine e_istore (L' := [some (.ref v0), some (.int v1), some (.int 0), none, none]) rfl (dx_sto (Nat.le_of_ble_eq_true rfl) (Or.inr ⟨_, rfl, rfl⟩) rfl) ?_
  exact e_wk mP_X2_back (ll_1 (ll_1 (ll_1 (ll_0 (ll_0 ll_n)))))
noncomputable def B_X2_press_17 (K : ax_K) (v0 : Nat) (v1 : Int32) (v2 : Value) (v3 : Int32) (h : ax_H) : Option ax_R := ax_run K P_X2_press 17 [some (.ref v0), some (.int v1), some (v2), some (.int v3), none] [] h
noncomputable def B_X2_press_71 (K : ax_K) (v0 : Nat) (v1 : Int32) (v2 : Value) (h : ax_H) : Option ax_R := ax_run K P_X2_press 71 [some (.ref v0), some (.int v1), some (v2), none, none] [] h
theorem b_X2_press_17 {K : ax_K} {v0 : Nat} {v1 : Int32} {v2 : Value} {v3 : Int32} {h : ax_H} (hv2 : ax_rv v2 = true) : dx_le (if ¬ v3 = 0 then if v3 = 0 then B_X2_press_71 K v0 v1 v2 h else (dx_vn [(8, 86)] v2 h).bind fun k => dx_cR (K k [v2] h) (fun r2 h1 => B_X2_press_71 K v0 v1 v2 h1) dx_x0 else (dx_vn [(8, 88)] v2 h).bind fun k => dx_cI (K k [v2] h) (fun x4 h3 => if x4 = 0 then if v3 = 0 then B_X2_press_71 K v0 v1 v2 h3 else (dx_vn [(8, 86)] v2 h3).bind fun k => dx_cR (K k [v2] h3) (fun r6 h5 => B_X2_press_71 K v0 v1 v2 h5) dx_x0 else (dx_vn [(8, 89)] v2 h3).bind fun k => dx_cR (K k [v2] h3) (fun r8 h7 => dx_cs [36] r8 h7 ((dx_gI [(36, 0)] r8 h7).bind fun x9 => (dx_gA [(29, 0)] (.ref v0) h7).bind fun r10 => (dx_lI 0 r10 2 h7).bind fun x11 => if x11 < x9 then B_X2_press_17 K v0 v1 v2 0 h7 else B_X2_press_17 K v0 v1 v2 1 h7)) dx_x0) dx_x0) (B_X2_press_17 K v0 v1 v2 v3 h) := by
  show dx_le _ (ax_run K P_X2_press 17 [some (.ref v0), some (.int v1), some (v2), some (.int v3), none] [] h)
  refine e_iload rfl rfl ?_
  refine e_if1 rfl rfl ?_ ?_
  · refine e_iload rfl rfl ?_
    refine e_if1 rfl rfl ?_ ?_
    · exact e_wk mP_X2_press (ll_1 (ll_1 (ll_1 (ll_0 (ll_0 ll_n)))))
    · refine e_aload rfl rfl hv2 ?_
      refine e_ivR rfl rfl rfl (Nat.le_of_ble_eq_true rfl) (fun _ _ => e_x0) fun r2 h1 hr2 => ?_
      refine e_pop rfl (dx_c1 hr2) ?_
      exact e_wk mP_X2_press (ll_1 (ll_1 (ll_1 (ll_0 (ll_0 ll_n)))))
  · refine e_aload rfl rfl hv2 ?_
    refine e_ivI rfl rfl rfl (Nat.le_of_ble_eq_true rfl) (fun _ _ => e_x0) fun x4 h3 => ?_
    refine e_if1 rfl rfl ?_ ?_
    · refine e_iload rfl rfl ?_
      refine e_if1 rfl rfl ?_ ?_
      · exact e_wk mP_X2_press (ll_1 (ll_1 (ll_1 (ll_0 (ll_0 ll_n)))))
      · refine e_aload rfl rfl hv2 ?_
        refine e_ivR rfl rfl rfl (Nat.le_of_ble_eq_true rfl) (fun _ _ => e_x0) fun r6 h5 hr6 => ?_
        refine e_pop rfl (dx_c1 hr6) ?_
        exact e_wk mP_X2_press (ll_1 (ll_1 (ll_1 (ll_0 (ll_0 ll_n)))))
    · refine e_aload rfl rfl hv2 ?_
      refine e_ivR rfl rfl rfl (Nat.le_of_ble_eq_true rfl) (fun _ _ => e_x0) fun r8 h7 hr8 => ?_
      refine e_cast rfl ?_
      refine e_getI rfl fun x9 => ?_
      refine e_aload rfl rfl rfl ?_
      refine e_getA rfl fun r10 hr10 => ?_
      refine e_push rfl ?_
      refine e_iald rfl fun x11 => ?_
      refine e_if2 rfl rfl ?_ ?_
      · refine e_push rfl ?_
        refine e_istore (L' := [some (.ref v0), some (.int v1), some (v2), some (.int 0), none]) rfl (dx_sto (Nat.le_of_ble_eq_true rfl) (Or.inr ⟨_, rfl, dx_nl hv2⟩) rfl) ?_
        refine e_goto rfl ?_
        exact e_wk mP_X2_press (ll_1 (ll_1 (ll_1 (ll_1 (ll_0 ll_n)))))
      · refine e_push rfl ?_
        refine e_goto rfl ?_
        refine e_istore (L' := [some (.ref v0), some (.int v1), some (v2), some (.int 1), none]) rfl (dx_sto (Nat.le_of_ble_eq_true rfl) (Or.inr ⟨_, rfl, dx_nl hv2⟩) rfl) ?_
        refine e_goto rfl ?_
        exact e_wk mP_X2_press (ll_1 (ll_1 (ll_1 (ll_1 (ll_0 ll_n)))))
theorem b_X2_press_71 {K : ax_K} {v0 : Nat} {v1 : Int32} {v2 : Value} {h : ax_H} (hv2 : ax_rv v2 = true) : dx_le (dx_nw h (.inr (36, [.int 0, .int 0])) 2 fun a2 h1 => (dx_gA [(29, 0)] (.ref v0) h1).bind fun r3 => (dx_lI 0 r3 2 h1).bind fun x4 => dx_cV (K 365 [.ref a2, .int x4, .int v1] h1) (fun h5 => (dx_vn [(8, 90)] v2 h5).bind fun k => dx_cV (K k [v2, .ref a2] h5) (fun h6 => (dx_gA [(29, 2)] (.ref v0) h6).bind fun r7 => (dx_vn [(16, 159)] r7 h6).bind fun k => dx_cR (K k [r7] h6) (fun r9 h8 => dx_cs [31] r9 h8 (dx_nul r9 ((dx_gA [(29, 0)] (.ref v0) h8).bind fun r10 => (dx_sI 0 r10 9 1 h8).bind fun h11 => some (.inl none, h11)) ((dx_gA [(29, 0)] (.ref v0) h8).bind fun r12 => (dx_lI 0 r12 9 h8).bind fun x13 => (dx_vn [(31, 359)] r9 h8).bind fun k => dx_cV (K k [r9, .int 9, .int x13] h8) (fun h14 => (dx_gA [(29, 0)] (.ref v0) h14).bind fun r15 => (dx_sI 0 r15 9 1 h14).bind fun h16 => some (.inl none, h16)) dx_x0))) dx_x0) dx_x0) dx_x0) (B_X2_press_71 K v0 v1 v2 h) := by
  show dx_le _ (ax_run K P_X2_press 71 [some (.ref v0), some (.int v1), some (v2), none, none] [] h)
  refine e_aload rfl rfl hv2 ?_
  refine e_new rfl fun a2 h1 => ?_
  refine e_dup rfl rfl ?_
  refine e_aload rfl rfl rfl ?_
  refine e_getA rfl fun r3 hr3 => ?_
  refine e_push rfl ?_
  refine e_iald rfl fun x4 => ?_
  refine e_iload rfl rfl ?_
  refine e_isprV rfl rfl rfl (Nat.le_of_ble_eq_true rfl) (fun _ _ => e_x0) fun h5 => ?_
  refine e_ivV rfl rfl rfl (Nat.le_of_ble_eq_true rfl) (fun _ _ => e_x0) fun h6 => ?_
  refine e_aload rfl rfl rfl ?_
  refine e_getA rfl fun r7 hr7 => ?_
  refine e_ivR rfl rfl rfl (Nat.le_of_ble_eq_true rfl) (fun _ _ => e_x0) fun r9 h8 hr9 => ?_
  refine e_cast rfl ?_
  refine e_astore (L' := [some (.ref v0), some (.int v1), some (v2), none, some (r9)]) rfl hr9 (dx_sto (Nat.le_of_ble_eq_true rfl) (Or.inr ⟨_, rfl, rfl⟩) rfl) ?_
  refine e_aload rfl rfl hr9 ?_
  refine e_null rfl ?_ ?_
  · refine e_aload rfl rfl rfl ?_
    refine e_getA rfl fun r10 hr10 => ?_
    refine e_push rfl ?_
    refine e_push rfl ?_
    refine e_iastI rfl fun h11 => ?_
    exact e_ret rfl
  · refine e_aload rfl rfl hr9 ?_
    refine e_push rfl ?_
    refine e_aload rfl rfl rfl ?_
    refine e_getA rfl fun r12 hr12 => ?_
    refine e_push rfl ?_
    refine e_iald rfl fun x13 => ?_
    refine e_ivV rfl rfl rfl (Nat.le_of_ble_eq_true rfl) (fun _ _ => e_x0) fun h14 => ?_
    refine e_aload rfl rfl rfl ?_
    refine e_getA rfl fun r15 hr15 => ?_
    refine e_push rfl ?_
    refine e_push rfl ?_
    refine e_iastI rfl fun h16 => ?_
    exact e_ret rfl
theorem m_X2_press {d : Nat} {v0 : Nat} {v1 : Int32} {h : ax_H}  : dx_le ((dx_gA [(29, 1)] (.ref v0) h).bind fun r1 => (dx_gA [(29, 1)] (.ref v0) h).bind fun r2 => (dx_vn [(15, 125)] r2 h).bind fun k => dx_cI ((ax_c d) k [r2] h) (fun x4 h3 => (dx_vn [(15, 134)] r1 h3).bind fun k => dx_cR ((ax_c d) k [r1, .int x4] h3) (fun r6 h5 => B_X2_press_17 (ax_c d) v0 v1 r6 0 h5) dx_x0) dx_x0) (ax_c (d + 1) 349 [.ref v0, .int v1] h) := by
  refine e_entry (L' := [some (.ref v0), some (.int v1), none, none, none]) rfl (ag_A rfl (ag_I ag_n)) (Nat.le_of_ble_eq_true rfl) rfl ?_
  refine e_aload rfl rfl rfl ?_
  refine e_getA rfl fun r1 hr1 => ?_
  refine e_aload rfl rfl rfl ?_
  refine e_getA rfl fun r2 hr2 => ?_
  refine e_ivI rfl rfl rfl (Nat.le_of_ble_eq_true rfl) (fun _ _ => e_x0) fun x4 h3 => ?_
  refine e_ivR rfl rfl rfl (Nat.le_of_ble_eq_true rfl) (fun _ _ => e_x0) fun r6 h5 hr6 => ?_
  refine e_astore (L' := [some (.ref v0), some (.int v1), some (r6), none, none]) rfl hr6 (dx_sto (Nat.le_of_ble_eq_true rfl) (Or.inr ⟨_, rfl, rfl⟩) rfl) ?_
  refine e_push rfl ?_
  refine e_istore (L' := [some (.ref v0), some (.int v1), some (r6), some (.int 0), none]) rfl (dx_sto (Nat.le_of_ble_eq_true rfl) (Or.inr ⟨_, rfl, dx_nl hr6⟩) rfl) ?_
  exact e_wk mP_X2_press (ll_1 (ll_1 (ll_1 (ll_1 (ll_0 ll_n)))))
noncomputable def B_X2_changedAt_15 (K : ax_K) (v1 : Int32) (v2 : Int32) (v3 : Value) (h : ax_H) : Option ax_R := ax_run K P_X2_changedAt 15 [none, some (.int v1), some (.int v2), some (v3)] [] h
theorem b_X2_changedAt_15 {K : ax_K} {v1 : Int32} {v2 : Int32} {v3 : Value} {h : ax_H} (hv3 : ax_rv v3 = true) : dx_le ((dx_vn [(10, 92), (13, 110)] v3 h).bind fun k => dx_cI (K k [v3] h) (fun x2 h1 => if x2 = 0 then some (.inl (some (.int (-1))), h1) else dx_lt (v2 + (-1)) fun x3 => (dx_vn [(10, 94), (13, 111)] v3 h1).bind fun k => dx_cR (K k [v3] h1) (fun r5 h4 => dx_cs [31] r5 h4 ((dx_vn [(31, 360)] r5 h4).bind fun k => dx_cI (K k [r5, .int (108 + v1)] h4) (fun x7 h6 => if x7 = 0 then B_X2_changedAt_15 K v1 x3 v3 h6 else some (.inl (some (.int x3)), h6)) dx_x0)) dx_x0) dx_x0) (B_X2_changedAt_15 K v1 v2 v3 h) := by
  show dx_le _ (ax_run K P_X2_changedAt 15 [none, some (.int v1), some (.int v2), some (v3)] [] h)
  refine e_aload rfl rfl hv3 ?_
  refine e_ivI rfl rfl rfl (Nat.le_of_ble_eq_true rfl) (fun _ _ => e_x0) fun x2 h1 => ?_
  refine e_if1 rfl rfl ?_ ?_
  · refine e_push rfl ?_
    exact e_iret rfl
  · refine e_iinc (M := fun x3 => [none, some (.int v1), some (.int x3), some (v3)]) rfl rfl (fun _ => dx_sto (Nat.le_of_ble_eq_true rfl) (Or.inr ⟨_, rfl, rfl⟩) rfl) fun x3 => ?_
    refine e_aload rfl rfl hv3 ?_
    refine e_ivR rfl rfl rfl (Nat.le_of_ble_eq_true rfl) (fun _ _ => e_x0) fun r5 h4 hr5 => ?_
    refine e_cast rfl ?_
    refine e_push rfl ?_
    refine e_iload rfl rfl ?_
    refine e_i2 rfl ?_
    refine e_ivI rfl rfl rfl (Nat.le_of_ble_eq_true rfl) (fun _ _ => e_x0) fun x7 h6 => ?_
    refine e_if1 rfl rfl ?_ ?_
    · exact e_wk mP_X2_changedAt (ll_0 (ll_1 (ll_1 (ll_1 ll_n))))
    · refine e_iload rfl rfl ?_
      exact e_iret rfl
theorem m_X2_changedAt {d : Nat} {v0 : Nat} {v1 : Int32} {h : ax_H}  : dx_le ((dx_gA [(29, 0)] (.ref v0) h).bind fun r1 => (dx_lI 0 r1 2 h).bind fun x2 => (dx_gA [(29, 2)] (.ref v0) h).bind fun r3 => (dx_vn [(16, 160)] r3 h).bind fun k => dx_cR ((ax_c d) k [r3] h) (fun r5 h4 => B_X2_changedAt_15 (ax_c d) v1 x2 r5 h4) dx_x0) (ax_c (d + 1) 350 [.ref v0, .int v1] h) := by
  refine e_entry (L' := [some (.ref v0), some (.int v1), none, none]) rfl (ag_A rfl (ag_I ag_n)) (Nat.le_of_ble_eq_true rfl) rfl ?_
  refine e_aload rfl rfl rfl ?_
  refine e_getA rfl fun r1 hr1 => ?_
  refine e_push rfl ?_
  refine e_iald rfl fun x2 => ?_
  refine e_istore (L' := [some (.ref v0), some (.int v1), some (.int x2), none]) rfl (dx_sto (Nat.le_of_ble_eq_true rfl) (Or.inr ⟨_, rfl, rfl⟩) rfl) ?_
  refine e_aload rfl rfl rfl ?_
  refine e_getA rfl fun r3 hr3 => ?_
  refine e_ivR rfl rfl rfl (Nat.le_of_ble_eq_true rfl) (fun _ _ => e_x0) fun r5 h4 hr5 => ?_
  refine e_astore (L' := [some (.ref v0), some (.int v1), some (.int x2), some (r5)]) rfl hr5 (dx_sto (Nat.le_of_ble_eq_true rfl) (Or.inr ⟨_, rfl, rfl⟩) rfl) ?_
  exact e_wk mP_X2_changedAt (ll_0 (ll_1 (ll_1 (ll_1 ll_n))))
noncomputable def B_X2_sumAnew_39 (K : ax_K) (v0 : Nat) (v1 : Int32) (v2 : Nat) (v3 : Int32) (h : ax_H) : Option ax_R := ax_run K P_X2_sumAnew 39 [some (.ref v0), some (.int v1), some (.ref v2), some (.int v3)] [] h
noncomputable def B_X2_sumAnew_95 (K : ax_K) (v1 : Int32) (v2 : Nat) (h : ax_H) : Option ax_R := ax_run K P_X2_sumAnew 95 [none, some (.int v1), some (.ref v2), none] [] h
theorem b_X2_sumAnew_39 {K : ax_K} {v0 : Nat} {v1 : Int32} {v2 : Nat} {v3 : Int32} {h : ax_H}  : dx_le ((dx_gA [(29, 1)] (.ref v0) h).bind fun r1 => (dx_vn [(15, 125)] r1 h).bind fun k => dx_cI (K k [r1] h) (fun x3 h2 => if x3 ≤ v3 then (dx_gA [(29, 0)] (.ref v2) h2).bind fun r4 => (dx_vn [(29, 334)] (.ref v0) h2).bind fun k => dx_cI (K k [.ref v0, .int 0, .int 0] h2) (fun x6 h5 => if x6 ≤ 0 then (dx_sI 0 r4 9 0 h5).bind fun h7 => B_X2_sumAnew_95 K v1 v2 h7 else (dx_sI 0 r4 9 1 h5).bind fun h8 => B_X2_sumAnew_95 K v1 v2 h8) dx_x0 else (dx_gA [(29, 1)] (.ref v2) h2).bind fun r9 => (dx_gA [(29, 1)] (.ref v0) h2).bind fun r10 => (dx_vn [(15, 127)] r10 h2).bind fun k => dx_cR (K k [r10, .int v3] h2) (fun r12 h11 => dx_cs [36] r12 h11 ((dx_vn [(15, 139)] r9 h11).bind fun k => dx_cV (K k [r9, r12] h11) (fun h13 => dx_lt (v3 + 1) fun x14 => B_X2_sumAnew_39 K v0 v1 v2 x14 h13) dx_x0)) dx_x0) dx_x0) (B_X2_sumAnew_39 K v0 v1 v2 v3 h) := by
  show dx_le _ (ax_run K P_X2_sumAnew 39 [some (.ref v0), some (.int v1), some (.ref v2), some (.int v3)] [] h)
  refine e_iload rfl rfl ?_
  refine e_aload rfl rfl rfl ?_
  refine e_getA rfl fun r1 hr1 => ?_
  refine e_ivI rfl rfl rfl (Nat.le_of_ble_eq_true rfl) (fun _ _ => e_x0) fun x3 h2 => ?_
  refine e_if2 rfl rfl ?_ ?_
  · refine e_aload rfl rfl rfl ?_
    refine e_getA rfl fun r4 hr4 => ?_
    refine e_push rfl ?_
    refine e_aload rfl rfl rfl ?_
    refine e_push rfl ?_
    refine e_push rfl ?_
    refine e_ivI rfl rfl rfl (Nat.le_of_ble_eq_true rfl) (fun _ _ => e_x0) fun x6 h5 => ?_
    refine e_if1 rfl rfl ?_ ?_
    · refine e_push rfl ?_
      refine e_iastI rfl fun h7 => ?_
      exact e_wk mP_X2_sumAnew (ll_0 (ll_1 (ll_1 (ll_0 ll_n))))
    · refine e_push rfl ?_
      refine e_goto rfl ?_
      refine e_iastI rfl fun h8 => ?_
      exact e_wk mP_X2_sumAnew (ll_0 (ll_1 (ll_1 (ll_0 ll_n))))
  · refine e_aload rfl rfl rfl ?_
    refine e_getA rfl fun r9 hr9 => ?_
    refine e_aload rfl rfl rfl ?_
    refine e_getA rfl fun r10 hr10 => ?_
    refine e_iload rfl rfl ?_
    refine e_ivR rfl rfl rfl (Nat.le_of_ble_eq_true rfl) (fun _ _ => e_x0) fun r12 h11 hr12 => ?_
    refine e_cast rfl ?_
    refine e_ivV rfl rfl rfl (Nat.le_of_ble_eq_true rfl) (fun _ _ => e_x0) fun h13 => ?_
    refine e_iinc (M := fun x14 => [some (.ref v0), some (.int v1), some (.ref v2), some (.int x14)]) rfl rfl (fun _ => dx_sto (Nat.le_of_ble_eq_true rfl) (Or.inr ⟨_, rfl, rfl⟩) rfl) fun x14 => ?_
    refine e_goto rfl ?_
    exact e_wk mP_X2_sumAnew (ll_1 (ll_1 (ll_1 (ll_1 ll_n))))
theorem b_X2_sumAnew_95 {K : ax_K} {v1 : Int32} {v2 : Nat} {h : ax_H}  : dx_le ((dx_gA [(29, 0)] (.ref v2) h).bind fun r1 => (dx_lI 0 r1 2 h).bind fun x2 => if v1 ≤ x2 then (dx_vn [(29, 302)] (.ref v2) h).bind fun k => dx_cI (K k [.ref v2] h) (fun x4 h3 => some (.inl (some (.int x4)), h3)) dx_x0 else (dx_vn [(29, 316)] (.ref v2) h).bind fun k => dx_cV (K k [.ref v2] h) (fun h5 => B_X2_sumAnew_95 K v1 v2 h5) dx_x0) (B_X2_sumAnew_95 K v1 v2 h) := by
  show dx_le _ (ax_run K P_X2_sumAnew 95 [none, some (.int v1), some (.ref v2), none] [] h)
  refine e_aload rfl rfl rfl ?_
  refine e_getA rfl fun r1 hr1 => ?_
  refine e_push rfl ?_
  refine e_iald rfl fun x2 => ?_
  refine e_iload rfl rfl ?_
  refine e_if2 rfl rfl ?_ ?_
  · refine e_aload rfl rfl rfl ?_
    refine e_ivI rfl rfl rfl (Nat.le_of_ble_eq_true rfl) (fun _ _ => e_x0) fun x4 h3 => ?_
    exact e_iret rfl
  · refine e_aload rfl rfl rfl ?_
    refine e_ivV rfl rfl rfl (Nat.le_of_ble_eq_true rfl) (fun _ _ => e_x0) fun h5 => ?_
    refine e_goto rfl ?_
    exact e_wk mP_X2_sumAnew (ll_0 (ll_1 (ll_1 (ll_0 ll_n))))
theorem m_X2_sumAnew {d : Nat} {v0 : Nat} {v1 : Int32} {h : ax_H}  : dx_le (dx_nw h (.inr (29, [.null, .null, .null, .int 0, .null, .null, .null, .null, .null, .int 0])) 10 fun a2 h1 => dx_cV ((ax_c d) 298 [.ref a2, .int 0] h1) (fun h3 => (dx_gA [(29, 6)] (.ref v0) h3).bind fun r4 => (dx_gA [(29, 0)] (.ref a2) h3).bind fun r5 => (dx_gA [(29, 6)] (.ref v0) h3).bind fun r6 => (dx_len r6 h3).bind fun x7 => (dx_acp r4 0 r5 365 x7 h3).bind fun h8 => (dx_gA [(29, 5)] (.ref v0) h8).bind fun r9 => (dx_vn [(29, 313)] (.ref a2) h8).bind fun k => dx_cV ((ax_c d) k [.ref a2, r9] h8) (fun h10 => B_X2_sumAnew_39 (ax_c d) v0 v1 a2 0 h10) dx_x0) dx_x0) (ax_c (d + 1) 351 [.ref v0, .int v1] h) := by
  refine e_entry (L' := [some (.ref v0), some (.int v1), none, none]) rfl (ag_A rfl (ag_I ag_n)) (Nat.le_of_ble_eq_true rfl) rfl ?_
  refine e_new rfl fun a2 h1 => ?_
  refine e_dup rfl rfl ?_
  refine e_push rfl ?_
  refine e_isprV rfl rfl rfl (Nat.le_of_ble_eq_true rfl) (fun _ _ => e_x0) fun h3 => ?_
  refine e_astore (L' := [some (.ref v0), some (.int v1), some (.ref a2), none]) rfl rfl (dx_sto (Nat.le_of_ble_eq_true rfl) (Or.inr ⟨_, rfl, rfl⟩) rfl) ?_
  refine e_aload rfl rfl rfl ?_
  refine e_getA rfl fun r4 hr4 => ?_
  refine e_push rfl ?_
  refine e_aload rfl rfl rfl ?_
  refine e_getA rfl fun r5 hr5 => ?_
  refine e_push rfl ?_
  refine e_aload rfl rfl rfl ?_
  refine e_getA rfl fun r6 hr6 => ?_
  refine e_alen rfl fun x7 => ?_
  refine e_acp rfl (Nat.le_of_ble_eq_true rfl) fun h8 => ?_
  refine e_aload rfl rfl rfl ?_
  refine e_aload rfl rfl rfl ?_
  refine e_getA rfl fun r9 hr9 => ?_
  refine e_ivV rfl rfl rfl (Nat.le_of_ble_eq_true rfl) (fun _ _ => e_x0) fun h10 => ?_
  refine e_push rfl ?_
  refine e_istore (L' := [some (.ref v0), some (.int v1), some (.ref a2), some (.int 0)]) rfl (dx_sto (Nat.le_of_ble_eq_true rfl) (Or.inr ⟨_, rfl, rfl⟩) rfl) ?_
  exact e_wk mP_X2_sumAnew (ll_1 (ll_1 (ll_1 (ll_1 ll_n))))
theorem m_X20_set {d : Nat} {v0 : Nat} {v1 : Int32} {v2 : Value} {v3 : Int32} {h : ax_H} (hv2 : ax_rv v2 = true) : dx_le (some (.inl none, h)) (ax_c (d + 1) 352 [.ref v0, .int v1, v2, .int v3] h) := by
  refine e_entry (L' := [some (.ref v0), some (.int v1), some (v2), some (.int v3)]) rfl (ag_A rfl (ag_I (ag_A hv2 (ag_I ag_n)))) (Nat.le_of_ble_eq_true rfl) rfl ?_
  exact e_ret rfl
noncomputable def B_X20_take_26 (K : ax_K) (s0 : Value) (s1 : Int32) (v0 : Nat) (v1 : Int32) (h : ax_H) : Option ax_R := ax_run K P_X20_take 26 [some (.ref v0), some (.int v1), none] [.int s1, s0] h
theorem b_X20_take_26 {K : ax_K} {s0 : Value} {s1 : Int32} {v0 : Nat} {v1 : Int32} {h : ax_H} (hs0 : ax_rv s0 = true) : dx_le ((dx_gA [(27, 0), (30, 0)] (.ref v0) h).bind fun r1 => (dx_gI [(27, 1), (30, 1)] (.ref v0) h).bind fun x2 => (dx_lI 0 r1 x2 h).bind fun x3 => (dx_sI 0 s0 (s1 + x3) v1 h).bind fun h4 => (dx_gA [(27, 0), (30, 0)] (.ref v0) h4).bind fun r5 => (dx_gI [(27, 1), (30, 1)] (.ref v0) h4).bind fun x6 => (dx_lI 0 r5 x6 h4).bind fun x7 => (dx_sI 0 r5 x6 (x7 + 1) h4).bind fun h8 => some (.inl none, h8)) (B_X20_take_26 K s0 s1 v0 v1 h) := by
  show dx_le _ (ax_run K P_X20_take 26 [some (.ref v0), some (.int v1), none] [.int s1, s0] h)
  refine e_aload rfl rfl rfl ?_
  refine e_getA rfl fun r1 hr1 => ?_
  refine e_aload rfl rfl rfl ?_
  refine e_getI rfl fun x2 => ?_
  refine e_iald rfl fun x3 => ?_
  refine e_i2 rfl ?_
  refine e_iload rfl rfl ?_
  refine e_iastI rfl fun h4 => ?_
  refine e_aload rfl rfl rfl ?_
  refine e_getA rfl fun r5 hr5 => ?_
  refine e_aload rfl rfl rfl ?_
  refine e_getI rfl fun x6 => ?_
  refine e_dup2 rfl rfl (dx_c1 hr5) ?_
  refine e_iald rfl fun x7 => ?_
  refine e_push rfl ?_
  refine e_i2 rfl ?_
  refine e_iastI rfl fun h8 => ?_
  exact e_ret rfl
theorem m_X20_take {d : Nat} {v0 : Nat} {v1 : Int32} {v2 : Int32} {h : ax_H}  : dx_le ((dx_gA [(30, 8)] (.ref v0) h).bind fun r1 => (dx_gA [(25, 3)] r1 h).bind fun r2 => (dx_gI [(27, 1), (30, 1)] (.ref v0) h).bind fun x3 => if ¬ x3 = 0 then (dx_gA [(30, 8)] (.ref v0) h).bind fun r4 => (dx_gI [(25, 4)] r4 h).bind fun x5 => B_X20_take_26 (ax_c d) r2 x5 v0 v1 h else B_X20_take_26 (ax_c d) r2 8 v0 v1 h) (ax_c (d + 1) 353 [.ref v0, .int v1, .int v2] h) := by
  refine e_entry (L' := [some (.ref v0), some (.int v1), some (.int v2)]) rfl (ag_A rfl (ag_I (ag_I ag_n))) (Nat.le_of_ble_eq_true rfl) rfl ?_
  refine e_aload rfl rfl rfl ?_
  refine e_getA rfl fun r1 hr1 => ?_
  refine e_getA rfl fun r2 hr2 => ?_
  refine e_aload rfl rfl rfl ?_
  refine e_getI rfl fun x3 => ?_
  refine e_if1 rfl rfl ?_ ?_
  · refine e_aload rfl rfl rfl ?_
    refine e_getA rfl fun r4 hr4 => ?_
    refine e_getI rfl fun x5 => ?_
    exact e_wk mP_X20_take (ll_1 (ll_1 (ll_0 ll_n)))
  · refine e_push rfl ?_
    refine e_goto rfl ?_
    exact e_wk mP_X20_take (ll_1 (ll_1 (ll_0 ll_n)))
noncomputable def B_X20_value_47 (K : ax_K) (s0 : Int32) (v1 : Value) (v2 : Value) (v3 : Int32) (h : ax_H) : Option ax_R := ax_run K P_X20_value 47 [none, some (v1), some (v2), some (.int v3)] [.int s0] h
theorem b_X20_value_47 {K : ax_K} {s0 : Int32} {v1 : Value} {v2 : Value} {v3 : Int32} {h : ax_H} (hv1 : ax_rv v1 = true) (hv2 : ax_rv v2 = true) : dx_le (dx_cV (K 213 [.int s0, .int 7, .int v3] h) (fun h1 => (dx_gI [(41, 0)] v1 h1).bind fun x2 => if ¬ x2 = 2 then (dx_gI [(26, 3)] v2 h1).bind fun x3 => (dx_gI [(41, 1)] v1 h1).bind fun x4 => dx_cI (K 214 [.long (Int32.toInt64 (x3 + x4))] h1) (fun x6 h5 => some (.inl (some (.int x6)), h5)) dx_x0 else (dx_gI [(26, 2)] v2 h1).bind fun x7 => (dx_gI [(41, 1)] v1 h1).bind fun x8 => dx_cI (K 214 [.long (Int32.toInt64 (x7 + x8))] h1) (fun x10 h9 => some (.inl (some (.int x10)), h9)) dx_x0) dx_x0) (B_X20_value_47 K s0 v1 v2 v3 h) := by
  show dx_le _ (ax_run K P_X20_value 47 [none, some (v1), some (v2), some (.int v3)] [.int s0] h)
  refine e_push rfl ?_
  refine e_iload rfl rfl ?_
  refine e_isV rfl (Nat.le_of_ble_eq_true rfl) rfl rfl (Nat.le_of_ble_eq_true rfl) (fun _ _ => e_x0) fun h1 => ?_
  refine e_aload rfl rfl hv1 ?_
  refine e_getI rfl fun x2 => ?_
  refine e_push rfl ?_
  refine e_if2 rfl rfl ?_ ?_
  · refine e_aload rfl rfl hv2 ?_
    refine e_getI rfl fun x3 => ?_
    refine e_aload rfl rfl hv1 ?_
    refine e_getI rfl fun x4 => ?_
    refine e_i2 rfl ?_
    refine e_i2l rfl ?_
    refine e_isI rfl (Nat.le_of_ble_eq_true rfl) rfl rfl (Nat.le_of_ble_eq_true rfl) (fun _ _ => e_x0) fun x6 h5 => ?_
    exact e_iret rfl
  · refine e_aload rfl rfl hv2 ?_
    refine e_getI rfl fun x7 => ?_
    refine e_goto rfl ?_
    refine e_aload rfl rfl hv1 ?_
    refine e_getI rfl fun x8 => ?_
    refine e_i2 rfl ?_
    refine e_i2l rfl ?_
    refine e_isI rfl (Nat.le_of_ble_eq_true rfl) rfl rfl (Nat.le_of_ble_eq_true rfl) (fun _ _ => e_x0) fun x10 h9 => ?_
    exact e_iret rfl
theorem m_X20_value {d : Nat} {v0 : Nat} {v1 : Value} {v2 : Value} {v3 : Int32} {h : ax_H} (hv1 : ax_rv v1 = true) (hv2 : ax_rv v2 = true) : dx_le ((dx_gI [(41, 0)] v1 h).bind fun x1 => if ¬ x1 = 0 then (dx_gI [(41, 0)] v1 h).bind fun x2 => if ¬ x2 = 1 then (dx_gI [(26, 0)] v2 h).bind fun x3 => if x3 = (-1) then B_X20_value_47 (ax_c d) 0 v1 v2 v3 h else B_X20_value_47 (ax_c d) 1 v1 v2 v3 h else (dx_gA [(30, 8)] (.ref v0) h).bind fun r4 => (dx_gI [(41, 1)] v1 h).bind fun x5 => (dx_vn [(25, 283)] r4 h).bind fun k => dx_cI ((ax_c d) k [r4, .int x5, v2, .int v3] h) (fun x7 h6 => some (.inl (some (.int x7)), h6)) dx_x0 else (dx_gI [(41, 1)] v1 h).bind fun x8 => some (.inl (some (.int x8)), h)) (ax_c (d + 1) 354 [.ref v0, v1, v2, .int v3] h) := by
  refine e_entry (L' := [some (.ref v0), some (v1), some (v2), some (.int v3)]) rfl (ag_A rfl (ag_A hv1 (ag_A hv2 (ag_I ag_n)))) (Nat.le_of_ble_eq_true rfl) rfl ?_
  refine e_aload rfl rfl hv1 ?_
  refine e_getI rfl fun x1 => ?_
  refine e_if1 rfl rfl ?_ ?_
  · refine e_aload rfl rfl hv1 ?_
    refine e_getI rfl fun x2 => ?_
    refine e_push rfl ?_
    refine e_if2 rfl rfl ?_ ?_
    · refine e_aload rfl rfl hv2 ?_
      refine e_getI rfl fun x3 => ?_
      refine e_push rfl ?_
      refine e_if2 rfl rfl ?_ ?_
      · refine e_push rfl ?_
        exact e_wk mP_X20_value (ll_0 (ll_1 (ll_1 (ll_1 ll_n))))
      · refine e_push rfl ?_
        refine e_goto rfl ?_
        exact e_wk mP_X20_value (ll_0 (ll_1 (ll_1 (ll_1 ll_n))))
    · refine e_aload rfl rfl rfl ?_
      refine e_getA rfl fun r4 hr4 => ?_
      refine e_aload rfl rfl hv1 ?_
      refine e_getI rfl fun x5 => ?_
      refine e_aload rfl rfl hv2 ?_
      refine e_iload rfl rfl ?_
      refine e_ivI rfl rfl rfl (Nat.le_of_ble_eq_true rfl) (fun _ _ => e_x0) fun x7 h6 => ?_
      exact e_iret rfl
  · refine e_aload rfl rfl hv1 ?_
    refine e_getI rfl fun x8 => ?_
    exact e_iret rfl
theorem m_X20_point {d : Nat} {v0 : Nat} {v1 : Int32} {v2 : Int32} {h : ax_H}  : dx_le ((dx_gA [(30, 8)] (.ref v0) h).bind fun r1 => (dx_gA [(25, 3)] r1 h).bind fun r2 => (dx_sI 0 r2 v1 v2 h).bind fun h3 => some (.inl none, h3)) (ax_c (d + 1) 355 [.ref v0, .int v1, .int v2] h) := by
  refine e_entry (L' := [some (.ref v0), some (.int v1), some (.int v2)]) rfl (ag_A rfl (ag_I (ag_I ag_n))) (Nat.le_of_ble_eq_true rfl) rfl ?_
  refine e_aload rfl rfl rfl ?_
  refine e_getA rfl fun r1 hr1 => ?_
  refine e_getA rfl fun r2 hr2 => ?_
  refine e_iload rfl rfl ?_
  refine e_iload rfl rfl ?_
  refine e_iastI rfl fun h3 => ?_
  exact e_ret rfl
theorem m_X20_begin {d : Nat} {v0 : Nat} {v1 : Int32} {v2 : Int32} {h : ax_H}  : dx_le ((dx_gA [(30, 8)] (.ref v0) h).bind fun r1 => (dx_gA [(25, 2)] r1 h).bind fun r2 => (dx_vn [(4, 61)] r2 h).bind fun k => dx_cR ((ax_c d) k [r2, .int v1] h) (fun r4 h3 => dx_cs [26] r4 h3 (some (.inl (some (r4)), h3))) dx_x0) (ax_c (d + 1) 356 [.ref v0, .int v1, .int v2] h) := by
  refine e_entry (L' := [some (.ref v0), some (.int v1), some (.int v2)]) rfl (ag_A rfl (ag_I (ag_I ag_n))) (Nat.le_of_ble_eq_true rfl) rfl ?_
  refine e_aload rfl rfl rfl ?_
  refine e_getA rfl fun r1 hr1 => ?_
  refine e_getA rfl fun r2 hr2 => ?_
  refine e_iload rfl rfl ?_
  refine e_ivR rfl rfl rfl (Nat.le_of_ble_eq_true rfl) (fun _ _ => e_x0) fun r4 h3 hr4 => ?_
  refine e_cast rfl ?_
  exact e_aret rfl hr4
theorem m_X20_init {d : Nat} {v0 : Nat} {v1 : Value} {h : ax_H} (hv1 : ax_rv v1 = true) : dx_le ((dx_pF [(30, 8)] (.object "KernelGym$Assembly") (.ref v0) v1 h).bind fun h1 => (dx_gA [(25, 6)] v1 h1).bind fun r2 => dx_cV ((ax_c d) 286 [.ref v0, r2] h1) (fun h3 => some (.inl none, h3)) dx_x0) (ax_c (d + 1) 357 [.ref v0, v1] h) := by
  refine e_entry (L' := [some (.ref v0), some (v1)]) rfl (ag_A rfl (ag_A hv1 ag_n)) (Nat.le_of_ble_eq_true rfl) rfl ?_
  refine e_aload rfl rfl rfl ?_
  refine e_aload rfl rfl hv1 ?_
  refine e_putf rfl fun h1 => ?_
  refine e_aload rfl rfl rfl ?_
  refine e_aload rfl rfl hv1 ?_
  refine e_getA rfl fun r2 hr2 => ?_
  refine e_isprV rfl rfl rfl (Nat.le_of_ble_eq_true rfl) (fun _ _ => e_x0) fun h3 => ?_
  exact e_ret rfl
theorem m_X21_init {d : Nat} {v0 : Nat} {h : ax_H}  : dx_le (dx_nn (.ref v0) (dx_na 0 0 16 h fun a2 h1 => (dx_pF [(31, 0)] (.array (.int)) (.ref v0) (.ref a2) h1).bind fun h3 => some (.inl none, h3))) (ax_c (d + 1) 358 [.ref v0] h) := by
  refine e_entry (L' := [some (.ref v0)]) rfl (ag_A rfl ag_n) (Nat.le_of_ble_eq_true rfl) rfl ?_
  refine e_aload rfl rfl rfl ?_
  refine e_oin rfl (Nat.le_of_ble_eq_true rfl) ?_
  refine e_aload rfl rfl rfl ?_
  refine e_push rfl ?_
  refine e_newa rfl fun a2 h1 => ?_
  refine e_putf rfl fun h3 => ?_
  exact e_ret rfl
noncomputable def B_X21_note_40 (K : ax_K) (v0 : Nat) (v1 : Int32) (v2 : Int32) (h : ax_H) : Option ax_R := ax_run K P_X21_note 40 [some (.ref v0), some (.int v1), some (.int v2), none] [] h
theorem b_X21_note_40 {K : ax_K} {v0 : Nat} {v1 : Int32} {v2 : Int32} {h : ax_H}  : dx_le ((dx_gA [(31, 0)] (.ref v0) h).bind fun r1 => (dx_gI [(31, 1)] (.ref v0) h).bind fun x2 => (dx_sI 0 r1 x2 v1 h).bind fun h3 => (dx_gA [(31, 0)] (.ref v0) h3).bind fun r4 => (dx_gI [(31, 1)] (.ref v0) h3).bind fun x5 => (dx_sI 0 r4 (x5 + 1) v2 h3).bind fun h6 => (dx_gI [(31, 1)] (.ref v0) h6).bind fun x7 => (dx_pF [(31, 1)] (.int) (.ref v0) (.int (x7 + 2)) h6).bind fun h8 => some (.inl none, h8)) (B_X21_note_40 K v0 v1 v2 h) := by
  show dx_le _ (ax_run K P_X21_note 40 [some (.ref v0), some (.int v1), some (.int v2), none] [] h)
  refine e_aload rfl rfl rfl ?_
  refine e_getA rfl fun r1 hr1 => ?_
  refine e_aload rfl rfl rfl ?_
  refine e_getI rfl fun x2 => ?_
  refine e_iload rfl rfl ?_
  refine e_iastI rfl fun h3 => ?_
  refine e_aload rfl rfl rfl ?_
  refine e_getA rfl fun r4 hr4 => ?_
  refine e_aload rfl rfl rfl ?_
  refine e_getI rfl fun x5 => ?_
  refine e_push rfl ?_
  refine e_i2 rfl ?_
  refine e_iload rfl rfl ?_
  refine e_iastI rfl fun h6 => ?_
  refine e_aload rfl rfl rfl ?_
  refine e_dup rfl rfl ?_
  refine e_getI rfl fun x7 => ?_
  refine e_push rfl ?_
  refine e_i2 rfl ?_
  refine e_putf rfl fun h8 => ?_
  exact e_ret rfl
theorem m_X21_note {d : Nat} {v0 : Nat} {v1 : Int32} {v2 : Int32} {h : ax_H}  : dx_le ((dx_gI [(31, 1)] (.ref v0) h).bind fun x1 => (dx_gA [(31, 0)] (.ref v0) h).bind fun r2 => (dx_len r2 h).bind fun x3 => if ¬ x1 = x3 then B_X21_note_40 (ax_c d) v0 v1 v2 h else (dx_gI [(31, 1)] (.ref v0) h).bind fun x4 => dx_na 0 0 (2 * x4) h fun a6 h5 => (dx_gA [(31, 0)] (.ref v0) h5).bind fun r7 => (dx_gI [(31, 1)] (.ref v0) h5).bind fun x8 => (dx_acp r7 0 (.ref a6) 0 x8 h5).bind fun h9 => (dx_pF [(31, 0)] (.array (.int)) (.ref v0) (.ref a6) h9).bind fun h10 => B_X21_note_40 (ax_c d) v0 v1 v2 h10) (ax_c (d + 1) 359 [.ref v0, .int v1, .int v2] h) := by
  refine e_entry (L' := [some (.ref v0), some (.int v1), some (.int v2), none]) rfl (ag_A rfl (ag_I (ag_I ag_n))) (Nat.le_of_ble_eq_true rfl) rfl ?_
  refine e_aload rfl rfl rfl ?_
  refine e_getI rfl fun x1 => ?_
  refine e_aload rfl rfl rfl ?_
  refine e_getA rfl fun r2 hr2 => ?_
  refine e_alen rfl fun x3 => ?_
  refine e_if2 rfl rfl ?_ ?_
  · exact e_wk mP_X21_note (ll_1 (ll_1 (ll_1 (ll_0 ll_n))))
  · refine e_push rfl ?_
    refine e_aload rfl rfl rfl ?_
    refine e_getI rfl fun x4 => ?_
    refine e_i2 rfl ?_
    refine e_newa rfl fun a6 h5 => ?_
    refine e_astore (L' := [some (.ref v0), some (.int v1), some (.int v2), some (.ref a6)]) rfl rfl (dx_sto (Nat.le_of_ble_eq_true rfl) (Or.inr ⟨_, rfl, rfl⟩) rfl) ?_
    refine e_aload rfl rfl rfl ?_
    refine e_getA rfl fun r7 hr7 => ?_
    refine e_push rfl ?_
    refine e_aload rfl rfl rfl ?_
    refine e_push rfl ?_
    refine e_aload rfl rfl rfl ?_
    refine e_getI rfl fun x8 => ?_
    refine e_acp rfl (Nat.le_of_ble_eq_true rfl) fun h9 => ?_
    refine e_aload rfl rfl rfl ?_
    refine e_aload rfl rfl rfl ?_
    refine e_putf rfl fun h10 => ?_
    exact e_wk mP_X21_note (ll_1 (ll_1 (ll_1 (ll_0 ll_n))))
noncomputable def B_X21_has_4 (K : ax_K) (v0 : Nat) (v1 : Int32) (v2 : Int32) (v3 : Int32) (h : ax_H) : Option ax_R := ax_run K P_X21_has 4 [some (.ref v0), some (.int v1), some (.int v2), some (.int v3)] [] h
theorem b_X21_has_4 {K : ax_K} {v0 : Nat} {v1 : Int32} {v2 : Int32} {v3 : Int32} {h : ax_H}  : dx_le ((dx_gI [(31, 1)] (.ref v0) h).bind fun x1 => if x1 ≤ v3 then if v2 = 0 ∨ v2 = 1 then some (.inl (some (.int v2)), h) else none else (dx_gA [(31, 0)] (.ref v0) h).bind fun r2 => (dx_lI 0 r2 v3 h).bind fun x3 => if ¬ x3 = v1 then dx_lt (v2 ||| 0) fun x4 => dx_lt (v3 + 2) fun x5 => B_X21_has_4 K v0 v1 x4 x5 h else dx_lt (v2 ||| 1) fun x6 => dx_lt (v3 + 2) fun x7 => B_X21_has_4 K v0 v1 x6 x7 h) (B_X21_has_4 K v0 v1 v2 v3 h) := by
  show dx_le _ (ax_run K P_X21_has 4 [some (.ref v0), some (.int v1), some (.int v2), some (.int v3)] [] h)
  refine e_iload rfl rfl ?_
  refine e_aload rfl rfl rfl ?_
  refine e_getI rfl fun x1 => ?_
  refine e_if2 rfl rfl ?_ ?_
  · refine e_iload rfl rfl ?_
    exact e_zret rfl
  · refine e_iload rfl rfl ?_
    refine e_aload rfl rfl rfl ?_
    refine e_getA rfl fun r2 hr2 => ?_
    refine e_iload rfl rfl ?_
    refine e_iald rfl fun x3 => ?_
    refine e_iload rfl rfl ?_
    refine e_if2 rfl rfl ?_ ?_
    · refine e_push rfl ?_
      refine e_i2 rfl ?_
      refine e_istoreL (M := fun x4 => [some (.ref v0), some (.int v1), some (.int x4), some (.int v3)]) rfl (fun _ => dx_sto (Nat.le_of_ble_eq_true rfl) (Or.inr ⟨_, rfl, rfl⟩) rfl) fun x4 => ?_
      refine e_iinc (M := fun x5 => [some (.ref v0), some (.int v1), some (.int x4), some (.int x5)]) rfl rfl (fun _ => dx_sto (Nat.le_of_ble_eq_true rfl) (Or.inr ⟨_, rfl, rfl⟩) rfl) fun x5 => ?_
      refine e_goto rfl ?_
      exact e_wk mP_X21_has (ll_1 (ll_1 (ll_1 (ll_1 ll_n))))
    · refine e_push rfl ?_
      refine e_goto rfl ?_
      refine e_i2 rfl ?_
      refine e_istoreL (M := fun x6 => [some (.ref v0), some (.int v1), some (.int x6), some (.int v3)]) rfl (fun _ => dx_sto (Nat.le_of_ble_eq_true rfl) (Or.inr ⟨_, rfl, rfl⟩) rfl) fun x6 => ?_
      refine e_iinc (M := fun x7 => [some (.ref v0), some (.int v1), some (.int x6), some (.int x7)]) rfl rfl (fun _ => dx_sto (Nat.le_of_ble_eq_true rfl) (Or.inr ⟨_, rfl, rfl⟩) rfl) fun x7 => ?_
      refine e_goto rfl ?_
      exact e_wk mP_X21_has (ll_1 (ll_1 (ll_1 (ll_1 ll_n))))
theorem m_X21_has {d : Nat} {v0 : Nat} {v1 : Int32} {h : ax_H}  : dx_le (B_X21_has_4 (ax_c d) v0 v1 0 0 h) (ax_c (d + 1) 360 [.ref v0, .int v1] h) := by
  refine e_entry (L' := [some (.ref v0), some (.int v1), none, none]) rfl (ag_A rfl (ag_I ag_n)) (Nat.le_of_ble_eq_true rfl) rfl ?_
  refine e_push rfl ?_
  refine e_istore (L' := [some (.ref v0), some (.int v1), some (.int 0), none]) rfl (dx_sto (Nat.le_of_ble_eq_true rfl) (Or.inr ⟨_, rfl, rfl⟩) rfl) ?_
  refine e_push rfl ?_
  refine e_istore (L' := [some (.ref v0), some (.int v1), some (.int 0), some (.int 0)]) rfl (dx_sto (Nat.le_of_ble_eq_true rfl) (Or.inr ⟨_, rfl, rfl⟩) rfl) ?_
  exact e_wk mP_X21_has (ll_1 (ll_1 (ll_1 (ll_1 ll_n))))
theorem m_X22_init {d : Nat} {v0 : Nat} {v1 : Int32} {h : ax_H}  : dx_le (dx_nw h (.inr (2, [.null, .int 0, .int 0, .int 0])) 4 fun a2 h1 => dx_cV ((ax_c d) 29 [.ref a2] h1) (fun h3 => (dx_vn [(2, 30)] (.ref a2) h3).bind fun k => dx_cR ((ax_c d) k [.ref a2, .ref 288] h3) (fun r5 h4 => (dx_vn [(2, 31)] r5 h4).bind fun k => dx_cR ((ax_c d) k [r5, .int v1] h4) (fun r7 h6 => (dx_vn [(2, 32)] r7 h6).bind fun k => dx_cR ((ax_c d) k [r7] h6) (fun r9 h8 => dx_cV ((ax_c d) 168 [.ref v0, r9] h8) (fun h10 => some (.inl none, h10)) dx_x0) dx_x0) dx_x0) dx_x0) dx_x0) (ax_c (d + 1) 361 [.ref v0, .int v1] h) := by
  refine e_entry (L' := [some (.ref v0), some (.int v1)]) rfl (ag_A rfl (ag_I ag_n)) (Nat.le_of_ble_eq_true rfl) rfl ?_
  refine e_aload rfl rfl rfl ?_
  refine e_new rfl fun a2 h1 => ?_
  refine e_dup rfl rfl ?_
  refine e_isprV rfl rfl rfl (Nat.le_of_ble_eq_true rfl) (fun _ _ => e_x0) fun h3 => ?_
  refine e_push rfl ?_
  refine e_ivR rfl rfl rfl (Nat.le_of_ble_eq_true rfl) (fun _ _ => e_x0) fun r5 h4 hr5 => ?_
  refine e_iload rfl rfl ?_
  refine e_ivR rfl rfl rfl (Nat.le_of_ble_eq_true rfl) (fun _ _ => e_x0) fun r7 h6 hr7 => ?_
  refine e_ivR rfl rfl rfl (Nat.le_of_ble_eq_true rfl) (fun _ _ => e_x0) fun r9 h8 hr9 => ?_
  refine e_isprV rfl rfl rfl (Nat.le_of_ble_eq_true rfl) (fun _ _ => e_x0) fun h10 => ?_
  exact e_ret rfl
theorem m_X23_init {d : Nat} {v0 : Nat} {v1 : Int32} {h : ax_H}  : dx_le (dx_nw h (.inr (2, [.null, .int 0, .int 0, .int 0])) 4 fun a2 h1 => dx_cV ((ax_c d) 29 [.ref a2] h1) (fun h3 => (dx_vn [(2, 30)] (.ref a2) h3).bind fun k => dx_cR ((ax_c d) k [.ref a2, .ref 284] h3) (fun r5 h4 => (dx_vn [(2, 31)] r5 h4).bind fun k => dx_cR ((ax_c d) k [r5, .int v1] h4) (fun r7 h6 => (dx_vn [(2, 32)] r7 h6).bind fun k => dx_cR ((ax_c d) k [r7] h6) (fun r9 h8 => dx_cV ((ax_c d) 168 [.ref v0, r9] h8) (fun h10 => some (.inl none, h10)) dx_x0) dx_x0) dx_x0) dx_x0) dx_x0) (ax_c (d + 1) 362 [.ref v0, .int v1] h) := by
  refine e_entry (L' := [some (.ref v0), some (.int v1)]) rfl (ag_A rfl (ag_I ag_n)) (Nat.le_of_ble_eq_true rfl) rfl ?_
  refine e_aload rfl rfl rfl ?_
  refine e_new rfl fun a2 h1 => ?_
  refine e_dup rfl rfl ?_
  refine e_isprV rfl rfl rfl (Nat.le_of_ble_eq_true rfl) (fun _ _ => e_x0) fun h3 => ?_
  refine e_push rfl ?_
  refine e_ivR rfl rfl rfl (Nat.le_of_ble_eq_true rfl) (fun _ _ => e_x0) fun r5 h4 hr5 => ?_
  refine e_iload rfl rfl ?_
  refine e_ivR rfl rfl rfl (Nat.le_of_ble_eq_true rfl) (fun _ _ => e_x0) fun r7 h6 hr7 => ?_
  refine e_ivR rfl rfl rfl (Nat.le_of_ble_eq_true rfl) (fun _ _ => e_x0) fun r9 h8 hr9 => ?_
  refine e_isprV rfl rfl rfl (Nat.le_of_ble_eq_true rfl) (fun _ _ => e_x0) fun h10 => ?_
  exact e_ret rfl
theorem m_X24_init {d : Nat} {v0 : Nat} {v1 : Int32} {h : ax_H}  : dx_le (dx_nw h (.inr (2, [.null, .int 0, .int 0, .int 0])) 4 fun a2 h1 => dx_cV ((ax_c d) 29 [.ref a2] h1) (fun h3 => (dx_vn [(2, 30)] (.ref a2) h3).bind fun k => dx_cR ((ax_c d) k [.ref a2, .ref 286] h3) (fun r5 h4 => (dx_vn [(2, 31)] r5 h4).bind fun k => dx_cR ((ax_c d) k [r5, .int v1] h4) (fun r7 h6 => (dx_vn [(2, 32)] r7 h6).bind fun k => dx_cR ((ax_c d) k [r7] h6) (fun r9 h8 => dx_cV ((ax_c d) 168 [.ref v0, r9] h8) (fun h10 => some (.inl none, h10)) dx_x0) dx_x0) dx_x0) dx_x0) dx_x0) (ax_c (d + 1) 363 [.ref v0, .int v1] h) := by
  refine e_entry (L' := [some (.ref v0), some (.int v1)]) rfl (ag_A rfl (ag_I ag_n)) (Nat.le_of_ble_eq_true rfl) rfl ?_
  refine e_aload rfl rfl rfl ?_
  refine e_new rfl fun a2 h1 => ?_
  refine e_dup rfl rfl ?_
  refine e_isprV rfl rfl rfl (Nat.le_of_ble_eq_true rfl) (fun _ _ => e_x0) fun h3 => ?_
  refine e_push rfl ?_
  refine e_ivR rfl rfl rfl (Nat.le_of_ble_eq_true rfl) (fun _ _ => e_x0) fun r5 h4 hr5 => ?_
  refine e_iload rfl rfl ?_
  refine e_ivR rfl rfl rfl (Nat.le_of_ble_eq_true rfl) (fun _ _ => e_x0) fun r7 h6 hr7 => ?_
  refine e_ivR rfl rfl rfl (Nat.le_of_ble_eq_true rfl) (fun _ _ => e_x0) fun r9 h8 hr9 => ?_
  refine e_isprV rfl rfl rfl (Nat.le_of_ble_eq_true rfl) (fun _ _ => e_x0) fun h10 => ?_
  exact e_ret rfl
theorem m_X25_init {d : Nat} {v0 : Nat} {h : ax_H}  : dx_le (dx_cV ((ax_c d) 168 [.ref v0, .ref 290] h) (fun h1 => some (.inl none, h1)) dx_x0) (ax_c (d + 1) 364 [.ref v0] h) := by
  refine e_entry (L' := [some (.ref v0)]) rfl (ag_A rfl ag_n) (Nat.le_of_ble_eq_true rfl) rfl ?_
  refine e_aload rfl rfl rfl ?_
  refine e_push rfl ?_
  refine e_isprV rfl rfl rfl (Nat.le_of_ble_eq_true rfl) (fun _ _ => e_x0) fun h1 => ?_
  exact e_ret rfl
theorem m_X26_init {d : Nat} {v0 : Nat} {v1 : Int32} {v2 : Int32} {h : ax_H}  : dx_le (dx_nn (.ref v0) ((dx_pF [(36, 0)] (.int) (.ref v0) (.int v1) h).bind fun h1 => (dx_pF [(36, 1)] (.int) (.ref v0) (.int v2) h1).bind fun h2 => some (.inl none, h2))) (ax_c (d + 1) 365 [.ref v0, .int v1, .int v2] h) := by
  refine e_entry (L' := [some (.ref v0), some (.int v1), some (.int v2)]) rfl (ag_A rfl (ag_I (ag_I ag_n))) (Nat.le_of_ble_eq_true rfl) rfl ?_
  refine e_aload rfl rfl rfl ?_
  refine e_oin rfl (Nat.le_of_ble_eq_true rfl) ?_
  refine e_aload rfl rfl rfl ?_
  refine e_iload rfl rfl ?_
  refine e_putf rfl fun h1 => ?_
  refine e_aload rfl rfl rfl ?_
  refine e_iload rfl rfl ?_
  refine e_putf rfl fun h2 => ?_
  exact e_ret rfl
theorem m_X27_worth {d : Nat} {v0 : Nat} {h : ax_H}  : dx_le ((dx_gI [(37, 6)] (.ref v0) h).bind fun x1 => if ¬ x1 = 0 then (dx_gI [(37, 6)] (.ref v0) h).bind fun x2 => if x2 = (-1) then some (.inl (some (.int 0)), h) else (dx_gI [(37, 7)] (.ref v0) h).bind fun x3 => if x3 = 0 then some (.inl (some (.int 0)), h) else (dx_gI [(37, 4)] (.ref v0) h).bind fun x4 => some (.inl (some (.int ((-(x4 + 1)) / 2))), h) else (dx_gI [(37, 4)] (.ref v0) h).bind fun x5 => some (.inl (some (.int x5)), h)) (ax_c (d + 1) 366 [.ref v0] h) := by
  refine e_entry (L' := [some (.ref v0)]) rfl (ag_A rfl ag_n) (Nat.le_of_ble_eq_true rfl) rfl ?_
  refine e_aload rfl rfl rfl ?_
  refine e_getI rfl fun x1 => ?_
  refine e_if1 rfl rfl ?_ ?_
  · refine e_aload rfl rfl rfl ?_
    refine e_getI rfl fun x2 => ?_
    refine e_push rfl ?_
    refine e_if2 rfl rfl ?_ ?_
    · refine e_push rfl ?_
      exact e_iret rfl
    · refine e_aload rfl rfl rfl ?_
      refine e_getI rfl fun x3 => ?_
      refine e_if1 rfl rfl ?_ ?_
      · refine e_push rfl ?_
        exact e_iret rfl
      · refine e_aload rfl rfl rfl ?_
        refine e_getI rfl fun x4 => ?_
        refine e_push rfl ?_
        refine e_i2 rfl ?_
        refine e_i1 rfl ?_
        refine e_push rfl ?_
        refine e_idn rfl (by decide) ?_
        refine e_goto rfl ?_
        exact e_iret rfl
  · refine e_aload rfl rfl rfl ?_
    refine e_getI rfl fun x5 => ?_
    exact e_iret rfl
theorem m_X27_init {d : Nat} {v0 : Nat} {v1 : Value} {v2 : Value} {v3 : Int32} {v4 : Int32} {v5 : Int32} {v6 : Int32} {h : ax_H} (hv1 : ax_rv v1 = true) (hv2 : ax_rv v2 = true) : dx_le (dx_nn (.ref v0) ((dx_pF [(37, 6)] (.int) (.ref v0) (.int (-1)) h).bind fun h1 => (dx_pF [(37, 0)] (.array (.int)) (.ref v0) v1 h1).bind fun h2 => (dx_pF [(37, 1)] (.array (.int)) (.ref v0) v2 h2).bind fun h3 => (dx_pF [(37, 2)] (.int) (.ref v0) (.int v3) h3).bind fun h4 => (dx_pF [(37, 3)] (.int) (.ref v0) (.int v4) h4).bind fun h5 => (dx_pF [(37, 4)] (.int) (.ref v0) (.int v5) h5).bind fun h6 => (dx_pF [(37, 5)] (.int) (.ref v0) (.int v6) h6).bind fun h7 => some (.inl none, h7))) (ax_c (d + 1) 367 [.ref v0, v1, v2, .int v3, .int v4, .int v5, .int v6] h) := by
  refine e_entry (L' := [some (.ref v0), some (v1), some (v2), some (.int v3), some (.int v4), some (.int v5), some (.int v6)]) rfl (ag_A rfl (ag_A hv1 (ag_A hv2 (ag_I (ag_I (ag_I (ag_I ag_n))))))) (Nat.le_of_ble_eq_true rfl) rfl ?_
  refine e_aload rfl rfl rfl ?_
  refine e_oin rfl (Nat.le_of_ble_eq_true rfl) ?_
  refine e_aload rfl rfl rfl ?_
  refine e_push rfl ?_
  refine e_putf rfl fun h1 => ?_
  refine e_aload rfl rfl rfl ?_
  refine e_aload rfl rfl hv1 ?_
  refine e_putf rfl fun h2 => ?_
  refine e_aload rfl rfl rfl ?_
  refine e_aload rfl rfl hv2 ?_
  refine e_putf rfl fun h3 => ?_
  refine e_aload rfl rfl rfl ?_
  refine e_iload rfl rfl ?_
  refine e_putf rfl fun h4 => ?_
  refine e_aload rfl rfl rfl ?_
  refine e_iload rfl rfl ?_
  refine e_putf rfl fun h5 => ?_
  refine e_aload rfl rfl rfl ?_
  refine e_iload rfl rfl ?_
  refine e_putf rfl fun h6 => ?_
  refine e_aload rfl rfl rfl ?_
  refine e_iload rfl rfl ?_
  refine e_putf rfl fun h7 => ?_
  exact e_ret rfl
noncomputable def B_X27_make_27 (K : ax_K) (v0 : Nat) (v1 : Value) (v2 : Nat) (v3 : Value) (v4 : Int32) (v5 : Int32) (h : ax_H) : Option ax_R := ax_run K P_X27_make 27 [some (.ref v0), some (v1), some (.ref v2), some (v3), some (.int v4), some (.int v5), none] [] h
noncomputable def B_X27_make_54 (K : ax_K) (v0 : Nat) (v1 : Value) (v2 : Nat) (v3 : Int32) (h : ax_H) : Option ax_R := ax_run K P_X27_make 54 [some (.ref v0), some (v1), some (.ref v2), some (.int v3), none, none, none] [] h
noncomputable def B_X27_make_108 (K : ax_K) (v0 : Nat) (v2 : Nat) (h : ax_H) : Option ax_R := ax_run K P_X27_make 108 [some (.ref v0), none, some (.ref v2), none, none, none, none] [] h
noncomputable def B_X27_make_125 (K : ax_K) (s0 : Nat) (s1 : Int32) (s2 : Int32) (v0 : Nat) (v2 : Nat) (h : ax_H) : Option ax_R := ax_run K P_X27_make 125 [some (.ref v0), none, some (.ref v2), none, none, none, none] [.int s2, .int s1, .ref s0] h
theorem b_X27_make_27 {K : ax_K} {v0 : Nat} {v1 : Value} {v2 : Nat} {v3 : Value} {v4 : Int32} {v5 : Int32} {h : ax_H} (hv1 : ax_rv v1 = true) (hv3 : ax_rv v3 = true) : dx_le (if v4 ≤ v5 then B_X27_make_54 K v0 v1 v2 0 h else (dx_lI 0 v3 v5 h).bind fun x1 => (dx_vn [(29, 349)] (.ref v2) h).bind fun k => dx_cV (K k [.ref v2, .int x1] h) (fun h2 => dx_lt (v5 + 1) fun x3 => B_X27_make_27 K v0 v1 v2 v3 v4 x3 h2) dx_x0) (B_X27_make_27 K v0 v1 v2 v3 v4 v5 h) := by
  show dx_le _ (ax_run K P_X27_make 27 [some (.ref v0), some (v1), some (.ref v2), some (v3), some (.int v4), some (.int v5), none] [] h)
  refine e_iload rfl rfl ?_
  refine e_iload rfl rfl ?_
  refine e_if2 rfl rfl ?_ ?_
  · refine e_push rfl ?_
    refine e_istore (L' := [some (.ref v0), some (v1), some (.ref v2), some (.int 0), some (.int v4), some (.int v5), none]) rfl (dx_sto (Nat.le_of_ble_eq_true rfl) (Or.inr ⟨_, rfl, rfl⟩) rfl) ?_
    exact e_wk mP_X27_make (ll_1 (ll_1 (ll_1 (ll_1 (ll_0 (ll_0 (ll_0 ll_n)))))))
  · refine e_aload rfl rfl hv3 ?_
    refine e_iload rfl rfl ?_
    refine e_iald rfl fun x1 => ?_
    refine e_istore (L' := [some (.ref v0), some (v1), some (.ref v2), some (v3), some (.int v4), some (.int v5), some (.int x1)]) rfl (dx_sto (Nat.le_of_ble_eq_true rfl) (Or.inr ⟨_, rfl, rfl⟩) rfl) ?_
    refine e_aload rfl rfl rfl ?_
    refine e_iload rfl rfl ?_
    refine e_ivV rfl rfl rfl (Nat.le_of_ble_eq_true rfl) (fun _ _ => e_x0) fun h2 => ?_
    refine e_iinc (M := fun x3 => [some (.ref v0), some (v1), some (.ref v2), some (v3), some (.int v4), some (.int x3), some (.int x1)]) rfl rfl (fun _ => dx_sto (Nat.le_of_ble_eq_true rfl) (Or.inr ⟨_, rfl, rfl⟩) rfl) fun x3 => ?_
    refine e_goto rfl ?_
    exact e_wk mP_X27_make (ll_1 (ll_1 (ll_1 (ll_1 (ll_1 (ll_1 (ll_0 ll_n)))))))
theorem b_X27_make_54 {K : ax_K} {v0 : Nat} {v1 : Value} {v2 : Nat} {v3 : Int32} {h : ax_H} (hv1 : ax_rv v1 = true) : dx_le ((dx_vn [(29, 315)] (.ref v2) h).bind fun k => dx_cI (K k [.ref v2] h) (fun x2 h1 => if x2 = 0 then B_X27_make_108 K v0 v2 h1 else (dx_gI [(37, 2)] (.ref v0) h1).bind fun x3 => if x3 ≤ v3 then B_X27_make_108 K v0 v2 h1 else (dx_vn [(29, 316)] (.ref v2) h1).bind fun k => dx_cV (K k [.ref v2] h1) (fun h4 => dx_lt (v3 + 1) fun x5 => (dx_gI [(37, 5)] (.ref v0) h4).bind fun x6 => if ¬ x5 = x6 then B_X27_make_54 K v0 v1 v2 x5 h4 else (dx_gA [(29, 0)] (.ref v2) h4).bind fun r7 => (dx_lI 0 r7 0 h4).bind fun x8 => if ¬ x8 = 1 then B_X27_make_54 K v0 v1 v2 x5 h4 else (dx_vn [(29, 314)] (.ref v2) h4).bind fun k => dx_cI (K k [.ref v2] h4) (fun x10 h9 => (dx_vn [(29, 310)] (.ref v2) h9).bind fun k => dx_cI (K k [.ref v2, v1] h9) (fun x12 h11 => B_X27_make_54 K v0 v1 v2 x5 h11) dx_x0) dx_x0) dx_x0) dx_x0) (B_X27_make_54 K v0 v1 v2 v3 h) := by
  show dx_le _ (ax_run K P_X27_make 54 [some (.ref v0), some (v1), some (.ref v2), some (.int v3), none, none, none] [] h)
  refine e_aload rfl rfl rfl ?_
  refine e_ivI rfl rfl rfl (Nat.le_of_ble_eq_true rfl) (fun _ _ => e_x0) fun x2 h1 => ?_
  refine e_if1 rfl rfl ?_ ?_
  · exact e_wk mP_X27_make (ll_1 (ll_0 (ll_1 (ll_0 (ll_0 (ll_0 (ll_0 ll_n)))))))
  · refine e_iload rfl rfl ?_
    refine e_aload rfl rfl rfl ?_
    refine e_getI rfl fun x3 => ?_
    refine e_if2 rfl rfl ?_ ?_
    · exact e_wk mP_X27_make (ll_1 (ll_0 (ll_1 (ll_0 (ll_0 (ll_0 (ll_0 ll_n)))))))
    · refine e_aload rfl rfl rfl ?_
      refine e_ivV rfl rfl rfl (Nat.le_of_ble_eq_true rfl) (fun _ _ => e_x0) fun h4 => ?_
      refine e_iinc (M := fun x5 => [some (.ref v0), some (v1), some (.ref v2), some (.int x5), none, none, none]) rfl rfl (fun _ => dx_sto (Nat.le_of_ble_eq_true rfl) (Or.inr ⟨_, rfl, rfl⟩) rfl) fun x5 => ?_
      refine e_iload rfl rfl ?_
      refine e_aload rfl rfl rfl ?_
      refine e_getI rfl fun x6 => ?_
      refine e_if2 rfl rfl ?_ ?_
      · exact e_wk mP_X27_make (ll_1 (ll_1 (ll_1 (ll_1 (ll_0 (ll_0 (ll_0 ll_n)))))))
      · refine e_aload rfl rfl rfl ?_
        refine e_getA rfl fun r7 hr7 => ?_
        refine e_push rfl ?_
        refine e_iald rfl fun x8 => ?_
        refine e_push rfl ?_
        refine e_if2 rfl rfl ?_ ?_
        · exact e_wk mP_X27_make (ll_1 (ll_1 (ll_1 (ll_1 (ll_0 (ll_0 (ll_0 ll_n)))))))
        · refine e_aload rfl rfl rfl ?_
          refine e_ivI rfl rfl rfl (Nat.le_of_ble_eq_true rfl) (fun _ _ => e_x0) fun x10 h9 => ?_
          refine e_pop rfl rfl ?_
          refine e_aload rfl rfl rfl ?_
          refine e_aload rfl rfl hv1 ?_
          refine e_ivI rfl rfl rfl (Nat.le_of_ble_eq_true rfl) (fun _ _ => e_x0) fun x12 h11 => ?_
          refine e_pop rfl rfl ?_
          refine e_goto rfl ?_
          exact e_wk mP_X27_make (ll_1 (ll_1 (ll_1 (ll_1 (ll_0 (ll_0 (ll_0 ll_n)))))))
theorem b_X27_make_108 {K : ax_K} {v0 : Nat} {v2 : Nat} {h : ax_H}  : dx_le ((dx_gI [(37, 7)] (.ref v0) h).bind fun x1 => (dx_gI [(37, 6)] (.ref v0) h).bind fun x2 => if ¬ x2 = 0 then B_X27_make_125 K v0 x1 0 v0 v2 h else B_X27_make_125 K v0 x1 1 v0 v2 h) (B_X27_make_108 K v0 v2 h) := by
  show dx_le _ (ax_run K P_X27_make 108 [some (.ref v0), none, some (.ref v2), none, none, none, none] [] h)
  refine e_aload rfl rfl rfl ?_
  refine e_dup rfl rfl ?_
  refine e_getI rfl fun x1 => ?_
  refine e_aload rfl rfl rfl ?_
  refine e_getI rfl fun x2 => ?_
  refine e_if1 rfl rfl ?_ ?_
  · refine e_push rfl ?_
    exact e_wk mP_X27_make (ll_1 (ll_0 (ll_1 (ll_0 (ll_0 (ll_0 (ll_0 ll_n)))))))
  · refine e_push rfl ?_
    refine e_goto rfl ?_
    exact e_wk mP_X27_make (ll_1 (ll_0 (ll_1 (ll_0 (ll_0 (ll_0 (ll_0 ll_n)))))))
theorem b_X27_make_125 {K : ax_K} {s0 : Nat} {s1 : Int32} {s2 : Int32} {v0 : Nat} {v2 : Nat} {h : ax_H}  : dx_le ((dx_pF [(37, 7)] (.boolean) (.ref s0) (.int (s1 ||| s2)) h).bind fun h1 => (dx_vn [(37, 369)] (.ref v0) h1).bind fun k => dx_cI (K k [.ref v0, .ref v2] h1) (fun x3 h2 => (dx_pF [(37, 6)] (.int) (.ref v0) (.int x3) h2).bind fun h4 => some (.inl none, h4)) dx_x0) (B_X27_make_125 K s0 s1 s2 v0 v2 h) := by
  show dx_le _ (ax_run K P_X27_make 125 [some (.ref v0), none, some (.ref v2), none, none, none, none] [.int s2, .int s1, .ref s0] h)
  refine e_i2 rfl ?_
  refine e_putf rfl fun h1 => ?_
  refine e_aload rfl rfl rfl ?_
  refine e_aload rfl rfl rfl ?_
  refine e_aload rfl rfl rfl ?_
  refine e_ivI rfl rfl rfl (Nat.le_of_ble_eq_true rfl) (fun _ _ => e_x0) fun x3 h2 => ?_
  refine e_putf rfl fun h4 => ?_
  exact e_ret rfl
theorem m_X27_make {d : Nat} {v0 : Nat} {v1 : Value} {h : ax_H} (hv1 : ax_rv v1 = true) : dx_le (dx_nw h (.inr (29, [.null, .null, .null, .int 0, .null, .null, .null, .null, .null, .int 0])) 10 fun a2 h1 => dx_cV ((ax_c d) 298 [.ref a2, .int 0] h1) (fun h3 => (dx_vn [(29, 310)] (.ref a2) h3).bind fun k => dx_cI ((ax_c d) k [.ref a2, v1] h3) (fun x5 h4 => (dx_gA [(37, 0)] (.ref v0) h4).bind fun r6 => (dx_len r6 h4).bind fun x7 => B_X27_make_27 (ax_c d) v0 v1 a2 r6 x7 0 h4) dx_x0) dx_x0) (ax_c (d + 1) 368 [.ref v0, v1] h) := by
  refine e_entry (L' := [some (.ref v0), some (v1), none, none, none, none, none]) rfl (ag_A rfl (ag_A hv1 ag_n)) (Nat.le_of_ble_eq_true rfl) rfl ?_
  refine e_new rfl fun a2 h1 => ?_
  refine e_dup rfl rfl ?_
  refine e_push rfl ?_
  refine e_isprV rfl rfl rfl (Nat.le_of_ble_eq_true rfl) (fun _ _ => e_x0) fun h3 => ?_
  refine e_astore (L' := [some (.ref v0), some (v1), some (.ref a2), none, none, none, none]) rfl rfl (dx_sto (Nat.le_of_ble_eq_true rfl) (Or.inr ⟨_, rfl, dx_nl hv1⟩) rfl) ?_
  refine e_aload rfl rfl rfl ?_
  refine e_aload rfl rfl hv1 ?_
  refine e_ivI rfl rfl rfl (Nat.le_of_ble_eq_true rfl) (fun _ _ => e_x0) fun x5 h4 => ?_
  refine e_pop rfl rfl ?_
  refine e_aload rfl rfl rfl ?_
  refine e_getA rfl fun r6 hr6 => ?_
  refine e_astore (L' := [some (.ref v0), some (v1), some (.ref a2), some (r6), none, none, none]) rfl hr6 (dx_sto (Nat.le_of_ble_eq_true rfl) (Or.inr ⟨_, rfl, rfl⟩) rfl) ?_
  refine e_aload rfl rfl hr6 ?_
  refine e_alen rfl fun x7 => ?_
  refine e_istore (L' := [some (.ref v0), some (v1), some (.ref a2), some (r6), some (.int x7), none, none]) rfl (dx_sto (Nat.le_of_ble_eq_true rfl) (Or.inr ⟨_, rfl, dx_nl hr6⟩) rfl) ?_
  refine e_push rfl ?_
  refine e_istore (L' := [some (.ref v0), some (v1), some (.ref a2), some (r6), some (.int x7), some (.int 0), none]) rfl (dx_sto (Nat.le_of_ble_eq_true rfl) (Or.inr ⟨_, rfl, rfl⟩) rfl) ?_
  exact e_wk mP_X27_make (ll_1 (ll_1 (ll_1 (ll_1 (ll_1 (ll_1 (ll_0 ll_n)))))))
noncomputable def B_X27_resultOf_49 (K : ax_K) (v0 : Nat) (v1 : Value) (v2 : Int32) (v3 : Int32) (h : ax_H) : Option ax_R := ax_run K P_X27_resultOf 49 [some (.ref v0), some (v1), some (.int v2), some (.int v3)] [] h
noncomputable def B_X27_resultOf_92 (K : ax_K) (v0 : Nat) (v1 : Value) (v2 : Int32) (h : ax_H) : Option ax_R := ax_run K P_X27_resultOf 92 [some (.ref v0), some (v1), some (.int v2), none] [] h
theorem b_X27_resultOf_49 {K : ax_K} {v0 : Nat} {v1 : Value} {v2 : Int32} {v3 : Int32} {h : ax_H} (hv1 : ax_rv v1 = true) : dx_le (if v2 = 0 then B_X27_resultOf_92 K v0 v1 v2 h else (dx_gA [(37, 1)] (.ref v0) h).bind fun r1 => (dx_len r1 h).bind fun x2 => if x2 ≤ v3 then B_X27_resultOf_92 K v0 v1 v2 h else (dx_gA [(29, 0)] v1 h).bind fun r3 => (dx_lI 0 r3 (48 + v3) h).bind fun x4 => (dx_gA [(37, 1)] (.ref v0) h).bind fun r5 => (dx_lI 0 r5 v3 h).bind fun x6 => if ¬ x4 = x6 then dx_lt (v3 + 1) fun x7 => B_X27_resultOf_49 K v0 v1 0 x7 h else dx_lt (v3 + 1) fun x8 => B_X27_resultOf_49 K v0 v1 1 x8 h) (B_X27_resultOf_49 K v0 v1 v2 v3 h) := by
  show dx_le _ (ax_run K P_X27_resultOf 49 [some (.ref v0), some (v1), some (.int v2), some (.int v3)] [] h)
  refine e_iload rfl rfl ?_
  refine e_if1 rfl rfl ?_ ?_
  · exact e_wk mP_X27_resultOf (ll_1 (ll_1 (ll_1 (ll_0 ll_n))))
  · refine e_iload rfl rfl ?_
    refine e_aload rfl rfl rfl ?_
    refine e_getA rfl fun r1 hr1 => ?_
    refine e_alen rfl fun x2 => ?_
    refine e_if2 rfl rfl ?_ ?_
    · exact e_wk mP_X27_resultOf (ll_1 (ll_1 (ll_1 (ll_0 ll_n))))
    · refine e_aload rfl rfl hv1 ?_
      refine e_getA rfl fun r3 hr3 => ?_
      refine e_push rfl ?_
      refine e_iload rfl rfl ?_
      refine e_i2 rfl ?_
      refine e_iald rfl fun x4 => ?_
      refine e_aload rfl rfl rfl ?_
      refine e_getA rfl fun r5 hr5 => ?_
      refine e_iload rfl rfl ?_
      refine e_iald rfl fun x6 => ?_
      refine e_if2 rfl rfl ?_ ?_
      · refine e_push rfl ?_
        refine e_istore (L' := [some (.ref v0), some (v1), some (.int 0), some (.int v3)]) rfl (dx_sto (Nat.le_of_ble_eq_true rfl) (Or.inr ⟨_, rfl, dx_nl hv1⟩) rfl) ?_
        refine e_iinc (M := fun x7 => [some (.ref v0), some (v1), some (.int 0), some (.int x7)]) rfl rfl (fun _ => dx_sto (Nat.le_of_ble_eq_true rfl) (Or.inr ⟨_, rfl, rfl⟩) rfl) fun x7 => ?_
        refine e_goto rfl ?_
        exact e_wk mP_X27_resultOf (ll_1 (ll_1 (ll_1 (ll_1 ll_n))))
      · refine e_push rfl ?_
        refine e_goto rfl ?_
        refine e_istore (L' := [some (.ref v0), some (v1), some (.int 1), some (.int v3)]) rfl (dx_sto (Nat.le_of_ble_eq_true rfl) (Or.inr ⟨_, rfl, dx_nl hv1⟩) rfl) ?_
        refine e_iinc (M := fun x8 => [some (.ref v0), some (v1), some (.int 1), some (.int x8)]) rfl rfl (fun _ => dx_sto (Nat.le_of_ble_eq_true rfl) (Or.inr ⟨_, rfl, rfl⟩) rfl) fun x8 => ?_
        refine e_goto rfl ?_
        exact e_wk mP_X27_resultOf (ll_1 (ll_1 (ll_1 (ll_1 ll_n))))
theorem b_X27_resultOf_92 {K : ax_K} {v0 : Nat} {v1 : Value} {v2 : Int32} {h : ax_H} (hv1 : ax_rv v1 = true) : dx_le ((dx_gA [(29, 0)] v1 h).bind fun r1 => (dx_lI 0 r1 364 h).bind fun x2 => (dx_gI [(37, 3)] (.ref v0) h).bind fun x3 => if x2 ≤ x3 then if ¬ v2 = 0 then (dx_vn [(29, 307)] v1 h).bind fun k => dx_cI (K k [v1] h) (fun x5 h4 => if x5 = 0 then some (.inl (some (.int 5)), h4) else some (.inl (some (.int 0)), h4)) dx_x0 else some (.inl (some (.int 4)), h) else some (.inl (some (.int 3)), h)) (B_X27_resultOf_92 K v0 v1 v2 h) := by
  show dx_le _ (ax_run K P_X27_resultOf 92 [some (.ref v0), some (v1), some (.int v2), none] [] h)
  refine e_aload rfl rfl hv1 ?_
  refine e_getA rfl fun r1 hr1 => ?_
  refine e_push rfl ?_
  refine e_iald rfl fun x2 => ?_
  refine e_aload rfl rfl rfl ?_
  refine e_getI rfl fun x3 => ?_
  refine e_if2 rfl rfl ?_ ?_
  · refine e_iload rfl rfl ?_
    refine e_if1 rfl rfl ?_ ?_
    · refine e_aload rfl rfl hv1 ?_
      refine e_ivI rfl rfl rfl (Nat.le_of_ble_eq_true rfl) (fun _ _ => e_x0) fun x5 h4 => ?_
      refine e_if1 rfl rfl ?_ ?_
      · refine e_push rfl ?_
        exact e_iret rfl
      · refine e_push rfl ?_
        refine e_goto rfl ?_
        exact e_iret rfl
    · refine e_push rfl ?_
      refine e_goto rfl ?_
      exact e_iret rfl
  · refine e_push rfl ?_
    refine e_goto rfl ?_
    exact e_iret rfl
theorem m_X27_resultOf {d : Nat} {v0 : Nat} {v1 : Value} {h : ax_H} (hv1 : ax_rv v1 = true) : dx_le ((dx_gA [(29, 0)] v1 h).bind fun r1 => (dx_lI 0 r1 0 h).bind fun x2 => if x2 = 2 then (dx_gA [(29, 0)] v1 h).bind fun r3 => (dx_lI 0 r3 17 h).bind fun x4 => (dx_gA [(37, 1)] (.ref v0) h).bind fun r5 => (dx_len r5 h).bind fun x6 => if ¬ x4 = x6 then B_X27_resultOf_49 (ax_c d) v0 v1 0 0 h else B_X27_resultOf_49 (ax_c d) v0 v1 1 0 h else (dx_gA [(29, 0)] v1 h).bind fun r7 => (dx_lI 0 r7 0 h).bind fun x8 => if ¬ x8 = 3 then some (.inl (some (.int 2)), h) else some (.inl (some (.int 1)), h)) (ax_c (d + 1) 369 [.ref v0, v1] h) := by
  refine e_entry (L' := [some (.ref v0), some (v1), none, none]) rfl (ag_A rfl (ag_A hv1 ag_n)) (Nat.le_of_ble_eq_true rfl) rfl ?_
  refine e_aload rfl rfl hv1 ?_
  refine e_getA rfl fun r1 hr1 => ?_
  refine e_push rfl ?_
  refine e_iald rfl fun x2 => ?_
  refine e_push rfl ?_
  refine e_if2 rfl rfl ?_ ?_
  · refine e_aload rfl rfl hv1 ?_
    refine e_getA rfl fun r3 hr3 => ?_
    refine e_push rfl ?_
    refine e_iald rfl fun x4 => ?_
    refine e_aload rfl rfl rfl ?_
    refine e_getA rfl fun r5 hr5 => ?_
    refine e_alen rfl fun x6 => ?_
    refine e_if2 rfl rfl ?_ ?_
    · refine e_push rfl ?_
      refine e_istore (L' := [some (.ref v0), some (v1), some (.int 0), none]) rfl (dx_sto (Nat.le_of_ble_eq_true rfl) (Or.inr ⟨_, rfl, dx_nl hv1⟩) rfl) ?_
      refine e_push rfl ?_
      refine e_istore (L' := [some (.ref v0), some (v1), some (.int 0), some (.int 0)]) rfl (dx_sto (Nat.le_of_ble_eq_true rfl) (Or.inr ⟨_, rfl, rfl⟩) rfl) ?_
      exact e_wk mP_X27_resultOf (ll_1 (ll_1 (ll_1 (ll_1 ll_n))))
    · refine e_push rfl ?_
      refine e_goto rfl ?_
      refine e_istore (L' := [some (.ref v0), some (v1), some (.int 1), none]) rfl (dx_sto (Nat.le_of_ble_eq_true rfl) (Or.inr ⟨_, rfl, dx_nl hv1⟩) rfl) ?_
      refine e_push rfl ?_
      refine e_istore (L' := [some (.ref v0), some (v1), some (.int 1), some (.int 0)]) rfl (dx_sto (Nat.le_of_ble_eq_true rfl) (Or.inr ⟨_, rfl, rfl⟩) rfl) ?_
      exact e_wk mP_X27_resultOf (ll_1 (ll_1 (ll_1 (ll_1 ll_n))))
  · refine e_aload rfl rfl hv1 ?_
    refine e_getA rfl fun r7 hr7 => ?_
    refine e_push rfl ?_
    refine e_iald rfl fun x8 => ?_
    refine e_push rfl ?_
    refine e_if2 rfl rfl ?_ ?_
    · refine e_push rfl ?_
      exact e_iret rfl
    · refine e_push rfl ?_
      refine e_goto rfl ?_
      exact e_iret rfl
theorem m_X3_init {d : Nat} {v0 : Nat} {h : ax_H}  : dx_le (dx_nn (.ref v0) (dx_na 0 0 100 h fun a2 h1 => (dx_pF [(38, 2)] (.array (.int)) (.ref v0) (.ref a2) h1).bind fun h3 => dx_na 0 0 500 h3 fun a5 h4 => (dx_pF [(38, 3)] (.array (.int)) (.ref v0) (.ref a5) h4).bind fun h6 => dx_na 0 0 1220 h6 fun a8 h7 => (dx_pF [(38, 4)] (.array (.int)) (.ref v0) (.ref a8) h7).bind fun h9 => dx_na 0 0 2 h9 fun a11 h10 => (dx_pF [(38, 5)] (.array (.int)) (.ref v0) (.ref a11) h10).bind fun h12 => dx_na 0 0 5 h12 fun a14 h13 => (dx_pF [(38, 6)] (.array (.int)) (.ref v0) (.ref a14) h13).bind fun h15 => dx_na 0 0 5 h15 fun a17 h16 => (dx_pF [(38, 7)] (.array (.int)) (.ref v0) (.ref a17) h16).bind fun h18 => dx_na 0 0 6 h18 fun a20 h19 => (dx_pF [(38, 8)] (.array (.int)) (.ref v0) (.ref a20) h19).bind fun h21 => dx_na 0 0 6 h21 fun a23 h22 => (dx_pF [(38, 9)] (.array (.int)) (.ref v0) (.ref a23) h22).bind fun h24 => dx_na 0 0 6 h24 fun a26 h25 => (dx_pF [(38, 10)] (.array (.int)) (.ref v0) (.ref a26) h25).bind fun h27 => dx_na 0 0 6 h27 fun a29 h28 => (dx_pF [(38, 11)] (.array (.int)) (.ref v0) (.ref a29) h28).bind fun h30 => dx_na 0 0 6 h30 fun a32 h31 => (dx_pF [(38, 12)] (.array (.int)) (.ref v0) (.ref a32) h31).bind fun h33 => dx_na 0 0 6 h33 fun a35 h34 => (dx_pF [(38, 13)] (.array (.int)) (.ref v0) (.ref a35) h34).bind fun h36 => dx_na 0 0 256 h36 fun a38 h37 => (dx_pF [(38, 20)] (.array (.int)) (.ref v0) (.ref a38) h37).bind fun h39 => dx_na 0 0 256 h39 fun a41 h40 => (dx_pF [(38, 21)] (.array (.int)) (.ref v0) (.ref a41) h40).bind fun h42 => dx_na 0 0 256 h42 fun a44 h43 => (dx_pF [(38, 25)] (.array (.int)) (.ref v0) (.ref a44) h43).bind fun h45 => dx_na 0 0 4 h45 fun a47 h46 => (dx_pF [(38, 26)] (.array (.int)) (.ref v0) (.ref a47) h46).bind fun h48 => dx_na 0 0 60 h48 fun a50 h49 => (dx_pF [(38, 36)] (.array (.int)) (.ref v0) (.ref a50) h49).bind fun h51 => dx_na 0 0 20 h51 fun a53 h52 => (dx_pF [(38, 41)] (.array (.int)) (.ref v0) (.ref a53) h52).bind fun h54 => dx_na 0 0 20 h54 fun a56 h55 => (dx_pF [(38, 42)] (.array (.int)) (.ref v0) (.ref a56) h55).bind fun h57 => dx_na 0 0 1000 h57 fun a59 h58 => (dx_pF [(38, 44)] (.array (.int)) (.ref v0) (.ref a59) h58).bind fun h60 => dx_na 0 0 1000 h60 fun a62 h61 => (dx_pF [(38, 45)] (.array (.int)) (.ref v0) (.ref a62) h61).bind fun h63 => dx_na 0 0 3 h63 fun a65 h64 => (dx_pF [(38, 48)] (.array (.int)) (.ref v0) (.ref a65) h64).bind fun h66 => dx_na 0 0 24 h66 fun a68 h67 => (dx_pF [(38, 49)] (.array (.int)) (.ref v0) (.ref a68) h67).bind fun h69 => dx_na 0 0 256 h69 fun a71 h70 => (dx_pF [(38, 50)] (.array (.int)) (.ref v0) (.ref a71) h70).bind fun h72 => dx_na 0 0 256 h72 fun a74 h73 => (dx_pF [(38, 51)] (.array (.int)) (.ref v0) (.ref a74) h73).bind fun h75 => dx_na 0 0 256 h75 fun a77 h76 => (dx_pF [(38, 53)] (.array (.int)) (.ref v0) (.ref a77) h76).bind fun h78 => dx_na 0 0 256 h78 fun a80 h79 => (dx_pF [(38, 54)] (.array (.int)) (.ref v0) (.ref a80) h79).bind fun h81 => dx_na 0 0 6 h81 fun a83 h82 => (dx_pF [(38, 56)] (.array (.int)) (.ref v0) (.ref a83) h82).bind fun h84 => dx_na 0 0 6 h84 fun a86 h85 => (dx_pF [(38, 57)] (.array (.int)) (.ref v0) (.ref a86) h85).bind fun h87 => dx_na 0 0 30 h87 fun a89 h88 => (dx_pF [(38, 61)] (.array (.int)) (.ref v0) (.ref a89) h88).bind fun h90 => dx_na 0 0 5 h90 fun a92 h91 => (dx_pF [(38, 62)] (.array (.int)) (.ref v0) (.ref a92) h91).bind fun h93 => dx_na 0 0 30 h93 fun a95 h94 => (dx_pF [(38, 63)] (.array (.int)) (.ref v0) (.ref a95) h94).bind fun h96 => dx_na 0 0 5 h96 fun a98 h97 => (dx_pF [(38, 64)] (.array (.int)) (.ref v0) (.ref a98) h97).bind fun h99 => dx_na 0 0 5 h99 fun a101 h100 => (dx_pF [(38, 65)] (.array (.int)) (.ref v0) (.ref a101) h100).bind fun h102 => dx_na 0 0 5 h102 fun a104 h103 => (dx_pF [(38, 66)] (.array (.int)) (.ref v0) (.ref a104) h103).bind fun h105 => dx_na 0 0 5 h105 fun a107 h106 => (dx_pF [(38, 67)] (.array (.int)) (.ref v0) (.ref a107) h106).bind fun h108 => dx_na 0 0 5 h108 fun a110 h109 => (dx_pF [(38, 68)] (.array (.int)) (.ref v0) (.ref a110) h109).bind fun h111 => dx_na 0 0 5 h111 fun a113 h112 => (dx_pF [(38, 69)] (.array (.int)) (.ref v0) (.ref a113) h112).bind fun h114 => dx_na 2 0 5 h114 fun a116 h115 => (dx_pF [(38, 70)] (.array (.boolean)) (.ref v0) (.ref a116) h115).bind fun h117 => dx_na 0 0 256 h117 fun a119 h118 => (dx_pF [(38, 71)] (.array (.int)) (.ref v0) (.ref a119) h118).bind fun h120 => dx_na 0 0 20 h120 fun a122 h121 => (dx_pF [(38, 72)] (.array (.int)) (.ref v0) (.ref a122) h121).bind fun h123 => dx_na 0 0 20 h123 fun a125 h124 => (dx_pF [(38, 73)] (.array (.int)) (.ref v0) (.ref a125) h124).bind fun h126 => (dx_vn [(38, 371)] (.ref v0) h126).bind fun k => dx_cV ((ax_c d) k [.ref v0] h126) (fun h127 => some (.inl none, h127)) dx_x0)) (ax_c (d + 1) 370 [.ref v0] h) := by
  refine e_entry (L' := [some (.ref v0)]) rfl (ag_A rfl ag_n) (Nat.le_of_ble_eq_true rfl) rfl ?_
  refine e_aload rfl rfl rfl ?_
  refine e_oin rfl (Nat.le_of_ble_eq_true rfl) ?_
  refine e_aload rfl rfl rfl ?_
  refine e_push rfl ?_
  refine e_newa rfl fun a2 h1 => ?_
  refine e_putf rfl fun h3 => ?_
  refine e_aload rfl rfl rfl ?_
  refine e_push rfl ?_
  refine e_newa rfl fun a5 h4 => ?_
  refine e_putf rfl fun h6 => ?_
  refine e_aload rfl rfl rfl ?_
  refine e_push rfl ?_
  refine e_newa rfl fun a8 h7 => ?_
  refine e_putf rfl fun h9 => ?_
  refine e_aload rfl rfl rfl ?_
  refine e_push rfl ?_
  refine e_newa rfl fun a11 h10 => ?_
  refine e_putf rfl fun h12 => ?_
  refine e_aload rfl rfl rfl ?_
  refine e_push rfl ?_
  refine e_newa rfl fun a14 h13 => ?_
  refine e_putf rfl fun h15 => ?_
  refine e_aload rfl rfl rfl ?_
  refine e_push rfl ?_
  refine e_newa rfl fun a17 h16 => ?_
  refine e_putf rfl fun h18 => ?_
  refine e_aload rfl rfl rfl ?_
  refine e_push rfl ?_
  refine e_newa rfl fun a20 h19 => ?_
  refine e_putf rfl fun h21 => ?_
  refine e_aload rfl rfl rfl ?_
  refine e_push rfl ?_
  refine e_newa rfl fun a23 h22 => ?_
  refine e_putf rfl fun h24 => ?_
  refine e_aload rfl rfl rfl ?_
  refine e_push rfl ?_
  refine e_newa rfl fun a26 h25 => ?_
  refine e_putf rfl fun h27 => ?_
  refine e_aload rfl rfl rfl ?_
  refine e_push rfl ?_
  refine e_newa rfl fun a29 h28 => ?_
  refine e_putf rfl fun h30 => ?_
  refine e_aload rfl rfl rfl ?_
  refine e_push rfl ?_
  refine e_newa rfl fun a32 h31 => ?_
  refine e_putf rfl fun h33 => ?_
  refine e_aload rfl rfl rfl ?_
  refine e_push rfl ?_
  refine e_newa rfl fun a35 h34 => ?_
  refine e_putf rfl fun h36 => ?_
  refine e_aload rfl rfl rfl ?_
  refine e_push rfl ?_
  refine e_newa rfl fun a38 h37 => ?_
  refine e_putf rfl fun h39 => ?_
  refine e_aload rfl rfl rfl ?_
  refine e_push rfl ?_
  refine e_newa rfl fun a41 h40 => ?_
  refine e_putf rfl fun h42 => ?_
  refine e_aload rfl rfl rfl ?_
  refine e_push rfl ?_
  refine e_newa rfl fun a44 h43 => ?_
  refine e_putf rfl fun h45 => ?_
  refine e_aload rfl rfl rfl ?_
  refine e_push rfl ?_
  refine e_newa rfl fun a47 h46 => ?_
  refine e_putf rfl fun h48 => ?_
  refine e_aload rfl rfl rfl ?_
  refine e_push rfl ?_
  refine e_newa rfl fun a50 h49 => ?_
  refine e_putf rfl fun h51 => ?_
  refine e_aload rfl rfl rfl ?_
  refine e_push rfl ?_
  refine e_newa rfl fun a53 h52 => ?_
  refine e_putf rfl fun h54 => ?_
  refine e_aload rfl rfl rfl ?_
  refine e_push rfl ?_
  refine e_newa rfl fun a56 h55 => ?_
  refine e_putf rfl fun h57 => ?_
  refine e_aload rfl rfl rfl ?_
  refine e_push rfl ?_
  refine e_newa rfl fun a59 h58 => ?_
  refine e_putf rfl fun h60 => ?_
  refine e_aload rfl rfl rfl ?_
  refine e_push rfl ?_
  refine e_newa rfl fun a62 h61 => ?_
  refine e_putf rfl fun h63 => ?_
  refine e_aload rfl rfl rfl ?_
  refine e_push rfl ?_
  refine e_newa rfl fun a65 h64 => ?_
  refine e_putf rfl fun h66 => ?_
  refine e_aload rfl rfl rfl ?_
  refine e_push rfl ?_
  refine e_newa rfl fun a68 h67 => ?_
  refine e_putf rfl fun h69 => ?_
  refine e_aload rfl rfl rfl ?_
  refine e_push rfl ?_
  refine e_newa rfl fun a71 h70 => ?_
  refine e_putf rfl fun h72 => ?_
  refine e_aload rfl rfl rfl ?_
  refine e_push rfl ?_
  refine e_newa rfl fun a74 h73 => ?_
  refine e_putf rfl fun h75 => ?_
  refine e_aload rfl rfl rfl ?_
  refine e_push rfl ?_
  refine e_newa rfl fun a77 h76 => ?_
  refine e_putf rfl fun h78 => ?_
  refine e_aload rfl rfl rfl ?_
  refine e_push rfl ?_
  refine e_newa rfl fun a80 h79 => ?_
  refine e_putf rfl fun h81 => ?_
  refine e_aload rfl rfl rfl ?_
  refine e_push rfl ?_
  refine e_newa rfl fun a83 h82 => ?_
  refine e_putf rfl fun h84 => ?_
  refine e_aload rfl rfl rfl ?_
  refine e_push rfl ?_
  refine e_newa rfl fun a86 h85 => ?_
  refine e_putf rfl fun h87 => ?_
  refine e_aload rfl rfl rfl ?_
  refine e_push rfl ?_
  refine e_newa rfl fun a89 h88 => ?_
  refine e_putf rfl fun h90 => ?_
  refine e_aload rfl rfl rfl ?_
  refine e_push rfl ?_
  refine e_newa rfl fun a92 h91 => ?_
  refine e_putf rfl fun h93 => ?_
  refine e_aload rfl rfl rfl ?_
  refine e_push rfl ?_
  refine e_newa rfl fun a95 h94 => ?_
  refine e_putf rfl fun h96 => ?_
  refine e_aload rfl rfl rfl ?_
  refine e_push rfl ?_
  refine e_newa rfl fun a98 h97 => ?_
  refine e_putf rfl fun h99 => ?_
  refine e_aload rfl rfl rfl ?_
  refine e_push rfl ?_
  refine e_newa rfl fun a101 h100 => ?_
  refine e_putf rfl fun h102 => ?_
  refine e_aload rfl rfl rfl ?_
  refine e_push rfl ?_
  refine e_newa rfl fun a104 h103 => ?_
  refine e_putf rfl fun h105 => ?_
  refine e_aload rfl rfl rfl ?_
  refine e_push rfl ?_
  refine e_newa rfl fun a107 h106 => ?_
  refine e_putf rfl fun h108 => ?_
  refine e_aload rfl rfl rfl ?_
  refine e_push rfl ?_
  refine e_newa rfl fun a110 h109 => ?_
  refine e_putf rfl fun h111 => ?_
  refine e_aload rfl rfl rfl ?_
  refine e_push rfl ?_
  refine e_newa rfl fun a113 h112 => ?_
  refine e_putf rfl fun h114 => ?_
  refine e_aload rfl rfl rfl ?_
  refine e_push rfl ?_
  refine e_newa rfl fun a116 h115 => ?_
  refine e_putf rfl fun h117 => ?_
  refine e_aload rfl rfl rfl ?_
  refine e_push rfl ?_
  refine e_newa rfl fun a119 h118 => ?_
  refine e_putf rfl fun h120 => ?_
  refine e_aload rfl rfl rfl ?_
  refine e_push rfl ?_
  refine e_newa rfl fun a122 h121 => ?_
  refine e_putf rfl fun h123 => ?_
  refine e_aload rfl rfl rfl ?_
  refine e_push rfl ?_
  refine e_newa rfl fun a125 h124 => ?_
  refine e_putf rfl fun h126 => ?_
  refine e_aload rfl rfl rfl ?_
  refine e_ivV rfl rfl rfl (Nat.le_of_ble_eq_true rfl) (fun _ _ => e_x0) fun h127 => ?_
  exact e_ret rfl
noncomputable def B_X3_formats_2 (K : ax_K) (v0 : Nat) (v1 : Int32) (h : ax_H) : Option ax_R := ax_run K P_X3_formats 2 [some (.ref v0), some (.int v1)] [] h
theorem b_X3_formats_2 {K : ax_K} {v0 : Nat} {v1 : Int32} {h : ax_H}  : dx_le (if (256 : Int32) ≤ v1 then (dx_gA [(38, 50)] (.ref v0) h).bind fun r1 => (dx_sI 0 r1 32 255 h).bind fun h2 => (dx_pF [(38, 52)] (.int) (.ref v0) (.int 0) h2).bind fun h3 => some (.inl none, h3) else (dx_gA [(38, 50)] (.ref v0) h).bind fun r4 => (dx_sI 0 r4 v1 0 h).bind fun h5 => dx_lt (v1 + 1) fun x6 => B_X3_formats_2 K v0 x6 h5) (B_X3_formats_2 K v0 v1 h) := by
  show dx_le _ (ax_run K P_X3_formats 2 [some (.ref v0), some (.int v1)] [] h)
  refine e_iload rfl rfl ?_
  refine e_push rfl ?_
  refine e_if2 rfl rfl ?_ ?_
  · refine e_aload rfl rfl rfl ?_
    refine e_getA rfl fun r1 hr1 => ?_
    refine e_push rfl ?_
    refine e_push rfl ?_
    refine e_iastI rfl fun h2 => ?_
    refine e_aload rfl rfl rfl ?_
    refine e_push rfl ?_
    refine e_putf rfl fun h3 => ?_
    exact e_ret rfl
  · refine e_aload rfl rfl rfl ?_
    refine e_getA rfl fun r4 hr4 => ?_
    refine e_iload rfl rfl ?_
    refine e_push rfl ?_
    refine e_iastI rfl fun h5 => ?_
    refine e_iinc (M := fun x6 => [some (.ref v0), some (.int x6)]) rfl rfl (fun _ => dx_sto (Nat.le_of_ble_eq_true rfl) (Or.inr ⟨_, rfl, rfl⟩) rfl) fun x6 => ?_
    refine e_goto rfl ?_
    exact e_wk mP_X3_formats (ll_1 (ll_1 ll_n))
theorem m_X3_formats {d : Nat} {v0 : Nat} {h : ax_H}  : dx_le (B_X3_formats_2 (ax_c d) v0 0 h) (ax_c (d + 1) 371 [.ref v0] h) := by
  refine e_entry (L' := [some (.ref v0), none]) rfl (ag_A rfl ag_n) (Nat.le_of_ble_eq_true rfl) rfl ?_
  refine e_push rfl ?_
  refine e_istore (L' := [some (.ref v0), some (.int 0)]) rfl (dx_sto (Nat.le_of_ble_eq_true rfl) (Or.inr ⟨_, rfl, rfl⟩) rfl) ?_
  exact e_wk mP_X3_formats (ll_1 (ll_1 ll_n))
theorem m_X3_thrown {d : Nat} {v0 : Nat} {h : ax_H}  : dx_le ((dx_gI [(38, 0)] (.ref v0) h).bind fun x1 => some (.inl (some (.int x1)), h)) (ax_c (d + 1) 372 [.ref v0] h) := by
  refine e_entry (L' := [some (.ref v0)]) rfl (ag_A rfl ag_n) (Nat.le_of_ble_eq_true rfl) rfl ?_
  refine e_aload rfl rfl rfl ?_
  refine e_getI rfl fun x1 => ?_
  exact e_iret rfl
theorem m_X3_clear {d : Nat} {v0 : Nat} {h : ax_H}  : dx_le ((dx_pF [(38, 0)] (.int) (.ref v0) (.int 0) h).bind fun h1 => (dx_gI [(38, 1)] (.ref v0) h1).bind fun x2 => (dx_pF [(38, 1)] (.int) (.ref v0) (.int 0) h1).bind fun h3 => some (.inl (some (.int x2)), h3)) (ax_c (d + 1) 373 [.ref v0] h) := by
  refine e_entry (L' := [some (.ref v0), none]) rfl (ag_A rfl ag_n) (Nat.le_of_ble_eq_true rfl) rfl ?_
  refine e_aload rfl rfl rfl ?_
  refine e_push rfl ?_
  refine e_putf rfl fun h1 => ?_
  refine e_aload rfl rfl rfl ?_
  refine e_getI rfl fun x2 => ?_
  refine e_istore (L' := [some (.ref v0), some (.int x2)]) rfl (dx_sto (Nat.le_of_ble_eq_true rfl) (Or.inr ⟨_, rfl, rfl⟩) rfl) ?_
  refine e_aload rfl rfl rfl ?_
  refine e_push rfl ?_
  refine e_putf rfl fun h3 => ?_
  refine e_iload rfl rfl ?_
  exact e_iret rfl
theorem m_X3_lines {d : Nat} {v0 : Nat} {h : ax_H}  : dx_le ((dx_pF [(38, 0)] (.int) (.ref v0) (.int 0) h).bind fun h1 => (dx_gI [(38, 1)] (.ref v0) h1).bind fun x2 => some (.inl (some (.int x2)), h1)) (ax_c (d + 1) 374 [.ref v0] h) := by
  refine e_entry (L' := [some (.ref v0)]) rfl (ag_A rfl ag_n) (Nat.le_of_ble_eq_true rfl) rfl ?_
  refine e_aload rfl rfl rfl ?_
  refine e_push rfl ?_
  refine e_putf rfl fun h1 => ?_
  refine e_aload rfl rfl rfl ?_
  refine e_getI rfl fun x2 => ?_
  exact e_iret rfl
theorem m_X3_section {d : Nat} {v0 : Nat} {v1 : Int32} {h : ax_H}  : dx_le (dx_cI ((ax_c d) 376 [.int v1, .int 0, .int 1] h) (fun x2 h1 => (dx_vn [(38, 377)] (.ref v0) h1).bind fun k => dx_cI ((ax_c d) k [.ref v0, .int x2, .int 0, .int v1, .int 0, .int 0, .int 0, .int 0] h1) (fun x4 h3 => some (.inl (some (.int x4)), h3)) dx_x0) dx_x0) (ax_c (d + 1) 375 [.ref v0, .int v1] h) := by
  refine e_entry (L' := [some (.ref v0), some (.int v1)]) rfl (ag_A rfl (ag_I ag_n)) (Nat.le_of_ble_eq_true rfl) rfl ?_
  refine e_aload rfl rfl rfl ?_
  refine e_iload rfl rfl ?_
  refine e_push rfl ?_
  refine e_push rfl ?_
  refine e_isI rfl (Nat.le_of_ble_eq_true rfl) rfl rfl (Nat.le_of_ble_eq_true rfl) (fun _ _ => e_x0) fun x2 h1 => ?_
  refine e_push rfl ?_
  refine e_iload rfl rfl ?_
  refine e_push rfl ?_
  refine e_push rfl ?_
  refine e_push rfl ?_
  refine e_push rfl ?_
  refine e_ivI rfl rfl rfl (Nat.le_of_ble_eq_true rfl) (fun _ _ => e_x0) fun x4 h3 => ?_
  exact e_iret rfl
theorem m_X3_in {d : Nat} {v0 : Int32} {v1 : Int32} {v2 : Int32} {h : ax_H}  : dx_le (if v0 < v1 then some (.inl (some (.int 0)), h) else if v2 < v0 then some (.inl (some (.int 0)), h) else some (.inl (some (.int 1)), h)) (ax_c (d + 1) 376 [.int v0, .int v1, .int v2] h) := by
  refine e_entry (L' := [some (.int v0), some (.int v1), some (.int v2)]) rfl (ag_I (ag_I (ag_I ag_n))) (Nat.le_of_ble_eq_true rfl) rfl ?_
  refine e_iload rfl rfl ?_
  refine e_iload rfl rfl ?_
  refine e_if2 rfl rfl ?_ ?_
  · refine e_push rfl ?_
    exact e_zret0 rfl
  · refine e_iload rfl rfl ?_
    refine e_iload rfl rfl ?_
    refine e_if2 rfl rfl ?_ ?_
    · refine e_push rfl ?_
      exact e_zret0 rfl
    · refine e_push rfl ?_
      refine e_goto rfl ?_
      exact e_zret1 rfl
noncomputable def B_X3_adds_23 (K : ax_K) (s0 : Nat) (s1 : Int32) (v0 : Nat) (v2 : Int32) (v3 : Int32) (v4 : Int32) (v5 : Int32) (v6 : Int32) (v7 : Int32) (h : ax_H) : Option ax_R := ax_run K P_X3_adds 23 [some (.ref v0), none, some (.int v2), some (.int v3), some (.int v4), some (.int v5), some (.int v6), some (.int v7)] [.int s1, .ref s0] h
theorem b_X3_adds_23 {K : ax_K} {s0 : Nat} {s1 : Int32} {v0 : Nat} {v2 : Int32} {v3 : Int32} {v4 : Int32} {v5 : Int32} {v6 : Int32} {v7 : Int32} {h : ax_H}  : dx_le ((dx_vn [(38, 378)] (.ref s0) h).bind fun k => dx_cI (K k [.ref s0, .int s1] h) (fun x2 h1 => if ¬ x2 = 0 then (dx_gA [(38, 2)] (.ref v0) h1).bind fun r3 => (dx_gI [(38, 1)] (.ref v0) h1).bind fun x4 => (dx_sI 0 r3 x4 v2 h1).bind fun h5 => (dx_gA [(38, 3)] (.ref v0) h5).bind fun r6 => (dx_gI [(38, 1)] (.ref v0) h5).bind fun x7 => (dx_sI 0 r6 (5 * x7) v3 h5).bind fun h8 => (dx_gA [(38, 3)] (.ref v0) h8).bind fun r9 => (dx_gI [(38, 1)] (.ref v0) h8).bind fun x10 => (dx_sI 0 r9 ((5 * x10) + 1) v4 h8).bind fun h11 => (dx_gA [(38, 3)] (.ref v0) h11).bind fun r12 => (dx_gI [(38, 1)] (.ref v0) h11).bind fun x13 => (dx_sI 0 r12 ((5 * x13) + 2) v5 h11).bind fun h14 => (dx_gA [(38, 3)] (.ref v0) h14).bind fun r15 => (dx_gI [(38, 1)] (.ref v0) h14).bind fun x16 => (dx_sI 0 r15 ((5 * x16) + 3) v6 h14).bind fun h17 => (dx_gA [(38, 3)] (.ref v0) h17).bind fun r18 => (dx_gI [(38, 1)] (.ref v0) h17).bind fun x19 => (dx_sI 0 r18 ((5 * x19) + 4) v7 h17).bind fun h20 => (dx_gI [(38, 1)] (.ref v0) h20).bind fun x21 => (dx_pF [(38, 1)] (.int) (.ref v0) (.int (x21 + 1)) h20).bind fun h22 => (dx_gI [(38, 1)] (.ref v0) h22).bind fun x23 => some (.inl (some (.int x23)), h22) else some (.inl (some (.int 0)), h1)) dx_x0) (B_X3_adds_23 K s0 s1 v0 v2 v3 v4 v5 v6 v7 h) := by
  show dx_le _ (ax_run K P_X3_adds 23 [some (.ref v0), none, some (.int v2), some (.int v3), some (.int v4), some (.int v5), some (.int v6), some (.int v7)] [.int s1, .ref s0] h)
  refine e_ivI rfl rfl rfl (Nat.le_of_ble_eq_true rfl) (fun _ _ => e_x0) fun x2 h1 => ?_
  refine e_if1 rfl rfl ?_ ?_
  · refine e_aload rfl rfl rfl ?_
    refine e_getA rfl fun r3 hr3 => ?_
    refine e_aload rfl rfl rfl ?_
    refine e_getI rfl fun x4 => ?_
    refine e_iload rfl rfl ?_
    refine e_iastI rfl fun h5 => ?_
    refine e_aload rfl rfl rfl ?_
    refine e_getA rfl fun r6 hr6 => ?_
    refine e_push rfl ?_
    refine e_aload rfl rfl rfl ?_
    refine e_getI rfl fun x7 => ?_
    refine e_i2 rfl ?_
    refine e_iload rfl rfl ?_
    refine e_iastI rfl fun h8 => ?_
    refine e_aload rfl rfl rfl ?_
    refine e_getA rfl fun r9 hr9 => ?_
    refine e_push rfl ?_
    refine e_aload rfl rfl rfl ?_
    refine e_getI rfl fun x10 => ?_
    refine e_i2 rfl ?_
    refine e_push rfl ?_
    refine e_i2 rfl ?_
    refine e_iload rfl rfl ?_
    refine e_iastI rfl fun h11 => ?_
    refine e_aload rfl rfl rfl ?_
    refine e_getA rfl fun r12 hr12 => ?_
    refine e_push rfl ?_
    refine e_aload rfl rfl rfl ?_
    refine e_getI rfl fun x13 => ?_
    refine e_i2 rfl ?_
    refine e_push rfl ?_
    refine e_i2 rfl ?_
    refine e_iload rfl rfl ?_
    refine e_iastI rfl fun h14 => ?_
    refine e_aload rfl rfl rfl ?_
    refine e_getA rfl fun r15 hr15 => ?_
    refine e_push rfl ?_
    refine e_aload rfl rfl rfl ?_
    refine e_getI rfl fun x16 => ?_
    refine e_i2 rfl ?_
    refine e_push rfl ?_
    refine e_i2 rfl ?_
    refine e_iload rfl rfl ?_
    refine e_iastI rfl fun h17 => ?_
    refine e_aload rfl rfl rfl ?_
    refine e_getA rfl fun r18 hr18 => ?_
    refine e_push rfl ?_
    refine e_aload rfl rfl rfl ?_
    refine e_getI rfl fun x19 => ?_
    refine e_i2 rfl ?_
    refine e_push rfl ?_
    refine e_i2 rfl ?_
    refine e_iload rfl rfl ?_
    refine e_iastI rfl fun h20 => ?_
    refine e_aload rfl rfl rfl ?_
    refine e_dup rfl rfl ?_
    refine e_getI rfl fun x21 => ?_
    refine e_push rfl ?_
    refine e_i2 rfl ?_
    refine e_putf rfl fun h22 => ?_
    refine e_aload rfl rfl rfl ?_
    refine e_getI rfl fun x23 => ?_
    exact e_iret rfl
  · refine e_push rfl ?_
    exact e_iret rfl
theorem m_X3_adds {d : Nat} {v0 : Nat} {v1 : Int32} {v2 : Int32} {v3 : Int32} {v4 : Int32} {v5 : Int32} {v6 : Int32} {v7 : Int32} {h : ax_H}  : dx_le (if ¬ v1 = 0 then (dx_gI [(38, 1)] (.ref v0) h).bind fun x1 => if ¬ x1 = 100 then B_X3_adds_23 (ax_c d) v0 0 v0 v2 v3 v4 v5 v6 v7 h else B_X3_adds_23 (ax_c d) v0 2 v0 v2 v3 v4 v5 v6 v7 h else B_X3_adds_23 (ax_c d) v0 1 v0 v2 v3 v4 v5 v6 v7 h) (ax_c (d + 1) 377 [.ref v0, .int v1, .int v2, .int v3, .int v4, .int v5, .int v6, .int v7] h) := by
  refine e_entry (L' := [some (.ref v0), some (.int v1), some (.int v2), some (.int v3), some (.int v4), some (.int v5), some (.int v6), some (.int v7)]) rfl (ag_A rfl (ag_I (ag_I (ag_I (ag_I (ag_I (ag_I (ag_I ag_n)))))))) (Nat.le_of_ble_eq_true rfl) rfl ?_
  refine e_aload rfl rfl rfl ?_
  refine e_iload rfl rfl ?_
  refine e_if1 rfl rfl ?_ ?_
  · refine e_aload rfl rfl rfl ?_
    refine e_getI rfl fun x1 => ?_
    refine e_push rfl ?_
    refine e_if2 rfl rfl ?_ ?_
    · refine e_push rfl ?_
      exact e_wk mP_X3_adds (ll_1 (ll_0 (ll_1 (ll_1 (ll_1 (ll_1 (ll_1 (ll_1 ll_n))))))))
    · refine e_push rfl ?_
      refine e_goto rfl ?_
      exact e_wk mP_X3_adds (ll_1 (ll_0 (ll_1 (ll_1 (ll_1 (ll_1 (ll_1 (ll_1 ll_n))))))))
  · refine e_push rfl ?_
    refine e_goto rfl ?_
    exact e_wk mP_X3_adds (ll_1 (ll_0 (ll_1 (ll_1 (ll_1 (ll_1 (ll_1 (ll_1 ll_n))))))))
theorem m_X3_holds {d : Nat} {v0 : Nat} {v1 : Int32} {h : ax_H}  : dx_le ((dx_pF [(38, 0)] (.int) (.ref v0) (.int v1) h).bind fun h1 => if ¬ v1 = 0 then some (.inl (some (.int 0)), h1) else some (.inl (some (.int 1)), h1)) (ax_c (d + 1) 378 [.ref v0, .int v1] h) := by
  refine e_entry (L' := [some (.ref v0), some (.int v1)]) rfl (ag_A rfl (ag_I ag_n)) (Nat.le_of_ble_eq_true rfl) rfl ?_
  refine e_aload rfl rfl rfl ?_
  refine e_iload rfl rfl ?_
  refine e_putf rfl fun h1 => ?_
  refine e_iload rfl rfl ?_
  refine e_if1 rfl rfl ?_ ?_
  · refine e_push rfl ?_
    exact e_zret0 rfl
  · refine e_push rfl ?_
    refine e_goto rfl ?_
    exact e_zret1 rfl
theorem m_X3_label {d : Nat} {v0 : Nat} {v1 : Int32} {h : ax_H}  : dx_le (dx_cI ((ax_c d) 376 [.int v1, .int 0, .int 19] h) (fun x2 h1 => (dx_vn [(38, 377)] (.ref v0) h1).bind fun k => dx_cI ((ax_c d) k [.ref v0, .int x2, .int 1, .int v1, .int 0, .int 0, .int 0, .int 0] h1) (fun x4 h3 => some (.inl (some (.int x4)), h3)) dx_x0) dx_x0) (ax_c (d + 1) 379 [.ref v0, .int v1] h) := by
  refine e_entry (L' := [some (.ref v0), some (.int v1)]) rfl (ag_A rfl (ag_I ag_n)) (Nat.le_of_ble_eq_true rfl) rfl ?_
  refine e_aload rfl rfl rfl ?_
  refine e_iload rfl rfl ?_
  refine e_push rfl ?_
  refine e_push rfl ?_
  refine e_isI rfl (Nat.le_of_ble_eq_true rfl) rfl rfl (Nat.le_of_ble_eq_true rfl) (fun _ _ => e_x0) fun x2 h1 => ?_
  refine e_push rfl ?_
  refine e_iload rfl rfl ?_
  refine e_push rfl ?_
  refine e_push rfl ?_
  refine e_push rfl ?_
  refine e_push rfl ?_
  refine e_ivI rfl rfl rfl (Nat.le_of_ble_eq_true rfl) (fun _ _ => e_x0) fun x4 h3 => ?_
  exact e_iret rfl
noncomputable def B_X3_code_43 (K : ax_K) (s0 : Int32) (v0 : Nat) (v1 : Int32) (v2 : Int32) (v3 : Int32) (v4 : Int32) (v5 : Int32) (h : ax_H) : Option ax_R := ax_run K P_X3_code 43 [some (.ref v0), some (.int v1), some (.int v2), some (.int v3), some (.int v4), some (.int v5), none] [.int s0] h
theorem b_X3_code_43 {K : ax_K} {s0 : Int32} {v0 : Nat} {v1 : Int32} {v2 : Int32} {v3 : Int32} {v4 : Int32} {v5 : Int32} {h : ax_H}  : dx_le ((dx_vn [(38, 377)] (.ref v0) h).bind fun k => dx_cI (K k [.ref v0, .int s0, .int 2, .int v4, .int v5, .int (((16 * v1) + (4 * v2)) + v3), .int 0, .int 0] h) (fun x2 h1 => some (.inl (some (.int x2)), h1)) dx_x0) (B_X3_code_43 K s0 v0 v1 v2 v3 v4 v5 h) := by
  show dx_le _ (ax_run K P_X3_code 43 [some (.ref v0), some (.int v1), some (.int v2), some (.int v3), some (.int v4), some (.int v5), none] [.int s0] h)
  refine e_istore (L' := [some (.ref v0), some (.int v1), some (.int v2), some (.int v3), some (.int v4), some (.int v5), some (.int s0)]) rfl (dx_sto (Nat.le_of_ble_eq_true rfl) (Or.inr ⟨_, rfl, rfl⟩) rfl) ?_
  refine e_aload rfl rfl rfl ?_
  refine e_iload rfl rfl ?_
  refine e_push rfl ?_
  refine e_iload rfl rfl ?_
  refine e_iload rfl rfl ?_
  refine e_push rfl ?_
  refine e_iload rfl rfl ?_
  refine e_i2 rfl ?_
  refine e_push rfl ?_
  refine e_iload rfl rfl ?_
  refine e_i2 rfl ?_
  refine e_i2 rfl ?_
  refine e_iload rfl rfl ?_
  refine e_i2 rfl ?_
  refine e_push rfl ?_
  refine e_push rfl ?_
  refine e_ivI rfl rfl rfl (Nat.le_of_ble_eq_true rfl) (fun _ _ => e_x0) fun x2 h1 => ?_
  exact e_iret rfl
theorem m_X3_code {d : Nat} {v0 : Nat} {v1 : Int32} {v2 : Int32} {v3 : Int32} {v4 : Int32} {v5 : Int32} {h : ax_H}  : dx_le (dx_cI ((ax_c d) 376 [.int v1, .int 0, .int 26] h) (fun x2 h1 => if x2 = 0 then B_X3_code_43 (ax_c d) 0 v0 v1 v2 v3 v4 v5 h1 else dx_cI ((ax_c d) 376 [.int v2, .int 0, .int 3] h1) (fun x4 h3 => if x4 = 0 then B_X3_code_43 (ax_c d) 0 v0 v1 v2 v3 v4 v5 h3 else dx_cI ((ax_c d) 376 [.int v3, .int 0, .int 3] h3) (fun x6 h5 => if x6 = 0 then B_X3_code_43 (ax_c d) 0 v0 v1 v2 v3 v4 v5 h5 else dx_cI ((ax_c d) 381 [.int v4, .int v5] h5) (fun x8 h7 => if x8 = 0 then B_X3_code_43 (ax_c d) 0 v0 v1 v2 v3 v4 v5 h7 else B_X3_code_43 (ax_c d) 1 v0 v1 v2 v3 v4 v5 h7) dx_x0) dx_x0) dx_x0) dx_x0) (ax_c (d + 1) 380 [.ref v0, .int v1, .int v2, .int v3, .int v4, .int v5] h) := by
  refine e_entry (L' := [some (.ref v0), some (.int v1), some (.int v2), some (.int v3), some (.int v4), some (.int v5), none]) rfl (ag_A rfl (ag_I (ag_I (ag_I (ag_I (ag_I ag_n)))))) (Nat.le_of_ble_eq_true rfl) rfl ?_
  refine e_iload rfl rfl ?_
  refine e_push rfl ?_
  refine e_push rfl ?_
  refine e_isI rfl (Nat.le_of_ble_eq_true rfl) rfl rfl (Nat.le_of_ble_eq_true rfl) (fun _ _ => e_x0) fun x2 h1 => ?_
  refine e_if1 rfl rfl ?_ ?_
  · refine e_push rfl ?_
    exact e_wk mP_X3_code (ll_1 (ll_1 (ll_1 (ll_1 (ll_1 (ll_1 (ll_0 ll_n)))))))
  · refine e_iload rfl rfl ?_
    refine e_push rfl ?_
    refine e_push rfl ?_
    refine e_isI rfl (Nat.le_of_ble_eq_true rfl) rfl rfl (Nat.le_of_ble_eq_true rfl) (fun _ _ => e_x0) fun x4 h3 => ?_
    refine e_if1 rfl rfl ?_ ?_
    · refine e_push rfl ?_
      exact e_wk mP_X3_code (ll_1 (ll_1 (ll_1 (ll_1 (ll_1 (ll_1 (ll_0 ll_n)))))))
    · refine e_iload rfl rfl ?_
      refine e_push rfl ?_
      refine e_push rfl ?_
      refine e_isI rfl (Nat.le_of_ble_eq_true rfl) rfl rfl (Nat.le_of_ble_eq_true rfl) (fun _ _ => e_x0) fun x6 h5 => ?_
      refine e_if1 rfl rfl ?_ ?_
      · refine e_push rfl ?_
        exact e_wk mP_X3_code (ll_1 (ll_1 (ll_1 (ll_1 (ll_1 (ll_1 (ll_0 ll_n)))))))
      · refine e_iload rfl rfl ?_
        refine e_iload rfl rfl ?_
        refine e_isI rfl (Nat.le_of_ble_eq_true rfl) rfl rfl (Nat.le_of_ble_eq_true rfl) (fun _ _ => e_x0) fun x8 h7 => ?_
        refine e_if1 rfl rfl ?_ ?_
        · refine e_push rfl ?_
          exact e_wk mP_X3_code (ll_1 (ll_1 (ll_1 (ll_1 (ll_1 (ll_1 (ll_0 ll_n)))))))
        · refine e_push rfl ?_
          refine e_goto rfl ?_
          exact e_wk mP_X3_code (ll_1 (ll_1 (ll_1 (ll_1 (ll_1 (ll_1 (ll_0 ll_n)))))))
noncomputable def B_X3_isOperand_23 (K : ax_K) (s0 : Int32) (s1 : Int32) (s2 : Int32) (h : ax_H) : Option ax_R := ax_run K P_X3_isOperand 23 [none, none] [.int s2, .int s1, .int s0] h
theorem b_X3_isOperand_23 {K : ax_K} {s0 : Int32} {s1 : Int32} {s2 : Int32} {h : ax_H}  : dx_le (dx_cI (K 376 [.int s0, .int s1, .int s2] h) (fun x2 h1 => if x2 = 0 then some (.inl (some (.int 0)), h1) else some (.inl (some (.int 1)), h1)) dx_x0) (B_X3_isOperand_23 K s0 s1 s2 h) := by
  show dx_le _ (ax_run K P_X3_isOperand 23 [none, none] [.int s2, .int s1, .int s0] h)
  refine e_isI rfl (Nat.le_of_ble_eq_true rfl) rfl rfl (Nat.le_of_ble_eq_true rfl) (fun _ _ => e_x0) fun x2 h1 => ?_
  refine e_if1 rfl rfl ?_ ?_
  · refine e_push rfl ?_
    exact e_zret0 rfl
  · refine e_push rfl ?_
    refine e_goto rfl ?_
    exact e_zret1 rfl
theorem m_X3_isOperand {d : Nat} {v0 : Int32} {v1 : Int32} {h : ax_H}  : dx_le (dx_cI ((ax_c d) 376 [.int v0, .int 0, .int 3] h) (fun x2 h1 => if x2 = 0 then some (.inl (some (.int 0)), h1) else if ¬ v0 = 1 then B_X3_isOperand_23 (ax_c d) v1 0 65535 h1 else B_X3_isOperand_23 (ax_c d) v1 0 19 h1) dx_x0) (ax_c (d + 1) 381 [.int v0, .int v1] h) := by
  refine e_entry (L' := [some (.int v0), some (.int v1)]) rfl (ag_I (ag_I ag_n)) (Nat.le_of_ble_eq_true rfl) rfl ?_
  refine e_iload rfl rfl ?_
  refine e_push rfl ?_
  refine e_push rfl ?_
  refine e_isI rfl (Nat.le_of_ble_eq_true rfl) rfl rfl (Nat.le_of_ble_eq_true rfl) (fun _ _ => e_x0) fun x2 h1 => ?_
  refine e_if1 rfl rfl ?_ ?_
  · refine e_push rfl ?_
    exact e_zret0 rfl
  · refine e_iload rfl rfl ?_
    refine e_push rfl ?_
    refine e_iload rfl rfl ?_
    refine e_push rfl ?_
    refine e_if2 rfl rfl ?_ ?_
    · refine e_push rfl ?_
      exact e_wk mP_X3_isOperand (ll_0 (ll_0 ll_n))
    · refine e_push rfl ?_
      refine e_goto rfl ?_
      exact e_wk mP_X3_isOperand (ll_0 (ll_0 ll_n))
theorem m_X3_word {d : Nat} {v0 : Nat} {v1 : Int32} {v2 : Int32} {h : ax_H}  : dx_le (dx_cI ((ax_c d) 381 [.int v1, .int v2] h) (fun x2 h1 => (dx_vn [(38, 377)] (.ref v0) h1).bind fun k => dx_cI ((ax_c d) k [.ref v0, .int x2, .int 3, .int v1, .int v2, .int 0, .int 0, .int 0] h1) (fun x4 h3 => some (.inl (some (.int x4)), h3)) dx_x0) dx_x0) (ax_c (d + 1) 382 [.ref v0, .int v1, .int v2] h) := by
  refine e_entry (L' := [some (.ref v0), some (.int v1), some (.int v2)]) rfl (ag_A rfl (ag_I (ag_I ag_n))) (Nat.le_of_ble_eq_true rfl) rfl ?_
  refine e_aload rfl rfl rfl ?_
  refine e_iload rfl rfl ?_
  refine e_iload rfl rfl ?_
  refine e_isI rfl (Nat.le_of_ble_eq_true rfl) rfl rfl (Nat.le_of_ble_eq_true rfl) (fun _ _ => e_x0) fun x2 h1 => ?_
  refine e_push rfl ?_
  refine e_iload rfl rfl ?_
  refine e_iload rfl rfl ?_
  refine e_push rfl ?_
  refine e_push rfl ?_
  refine e_push rfl ?_
  refine e_ivI rfl rfl rfl (Nat.le_of_ble_eq_true rfl) (fun _ _ => e_x0) fun x4 h3 => ?_
  exact e_iret rfl
theorem m_X3_space {d : Nat} {v0 : Nat} {v1 : Int32} {h : ax_H}  : dx_le (dx_cI ((ax_c d) 376 [.int v1, .int 1, .int 32] h) (fun x2 h1 => (dx_vn [(38, 377)] (.ref v0) h1).bind fun k => dx_cI ((ax_c d) k [.ref v0, .int x2, .int 4, .int v1, .int 0, .int 0, .int 0, .int 0] h1) (fun x4 h3 => some (.inl (some (.int x4)), h3)) dx_x0) dx_x0) (ax_c (d + 1) 383 [.ref v0, .int v1] h) := by
  refine e_entry (L' := [some (.ref v0), some (.int v1)]) rfl (ag_A rfl (ag_I ag_n)) (Nat.le_of_ble_eq_true rfl) rfl ?_
  refine e_aload rfl rfl rfl ?_
  refine e_iload rfl rfl ?_
  refine e_push rfl ?_
  refine e_push rfl ?_
  refine e_isI rfl (Nat.le_of_ble_eq_true rfl) rfl rfl (Nat.le_of_ble_eq_true rfl) (fun _ _ => e_x0) fun x2 h1 => ?_
  refine e_push rfl ?_
  refine e_iload rfl rfl ?_
  refine e_push rfl ?_
  refine e_push rfl ?_
  refine e_push rfl ?_
  refine e_push rfl ?_
  refine e_ivI rfl rfl rfl (Nat.le_of_ble_eq_true rfl) (fun _ _ => e_x0) fun x4 h3 => ?_
  exact e_iret rfl
noncomputable def B_X3_vector_23 (K : ax_K) (s0 : Nat) (s1 : Int32) (v1 : Int32) (v2 : Int32) (v3 : Int32) (h : ax_H) : Option ax_R := ax_run K P_X3_vector 23 [none, some (.int v1), some (.int v2), some (.int v3)] [.int s1, .ref s0] h
theorem b_X3_vector_23 {K : ax_K} {s0 : Nat} {s1 : Int32} {v1 : Int32} {v2 : Int32} {v3 : Int32} {h : ax_H}  : dx_le ((dx_vn [(38, 377)] (.ref s0) h).bind fun k => dx_cI (K k [.ref s0, .int s1, .int 5, .int v2, .int v3, .int v1, .int 0, .int 0] h) (fun x2 h1 => some (.inl (some (.int x2)), h1)) dx_x0) (B_X3_vector_23 K s0 s1 v1 v2 v3 h) := by
  show dx_le _ (ax_run K P_X3_vector 23 [none, some (.int v1), some (.int v2), some (.int v3)] [.int s1, .ref s0] h)
  refine e_push rfl ?_
  refine e_iload rfl rfl ?_
  refine e_iload rfl rfl ?_
  refine e_iload rfl rfl ?_
  refine e_push rfl ?_
  refine e_push rfl ?_
  refine e_ivI rfl rfl rfl (Nat.le_of_ble_eq_true rfl) (fun _ _ => e_x0) fun x2 h1 => ?_
  exact e_iret rfl
theorem m_X3_vector {d : Nat} {v0 : Nat} {v1 : Int32} {v2 : Int32} {v3 : Int32} {h : ax_H}  : dx_le (dx_cI ((ax_c d) 376 [.int v1, .int 0, .int 1] h) (fun x2 h1 => if x2 = 0 then B_X3_vector_23 (ax_c d) v0 0 v1 v2 v3 h1 else dx_cI ((ax_c d) 381 [.int v2, .int v3] h1) (fun x4 h3 => if x4 = 0 then B_X3_vector_23 (ax_c d) v0 0 v1 v2 v3 h3 else B_X3_vector_23 (ax_c d) v0 1 v1 v2 v3 h3) dx_x0) dx_x0) (ax_c (d + 1) 384 [.ref v0, .int v1, .int v2, .int v3] h) := by
  refine e_entry (L' := [some (.ref v0), some (.int v1), some (.int v2), some (.int v3)]) rfl (ag_A rfl (ag_I (ag_I (ag_I ag_n)))) (Nat.le_of_ble_eq_true rfl) rfl ?_
  refine e_aload rfl rfl rfl ?_
  refine e_iload rfl rfl ?_
  refine e_push rfl ?_
  refine e_push rfl ?_
  refine e_isI rfl (Nat.le_of_ble_eq_true rfl) rfl rfl (Nat.le_of_ble_eq_true rfl) (fun _ _ => e_x0) fun x2 h1 => ?_
  refine e_if1 rfl rfl ?_ ?_
  · refine e_push rfl ?_
    exact e_wk mP_X3_vector (ll_0 (ll_1 (ll_1 (ll_1 ll_n))))
  · refine e_iload rfl rfl ?_
    refine e_iload rfl rfl ?_
    refine e_isI rfl (Nat.le_of_ble_eq_true rfl) rfl rfl (Nat.le_of_ble_eq_true rfl) (fun _ _ => e_x0) fun x4 h3 => ?_
    refine e_if1 rfl rfl ?_ ?_
    · refine e_push rfl ?_
      exact e_wk mP_X3_vector (ll_0 (ll_1 (ll_1 (ll_1 ll_n))))
    · refine e_push rfl ?_
      refine e_goto rfl ?_
      exact e_wk mP_X3_vector (ll_0 (ll_1 (ll_1 (ll_1 ll_n))))
theorem m_X3_macro {d : Nat} {v0 : Nat} {v1 : Int32} {h : ax_H}  : dx_le (dx_cI ((ax_c d) 376 [.int v1, .int 0, .int 4] h) (fun x2 h1 => (dx_vn [(38, 377)] (.ref v0) h1).bind fun k => dx_cI ((ax_c d) k [.ref v0, .int x2, .int 6, .int v1, .int 0, .int 0, .int 0, .int 0] h1) (fun x4 h3 => some (.inl (some (.int x4)), h3)) dx_x0) dx_x0) (ax_c (d + 1) 385 [.ref v0, .int v1] h) := by
  refine e_entry (L' := [some (.ref v0), some (.int v1)]) rfl (ag_A rfl (ag_I ag_n)) (Nat.le_of_ble_eq_true rfl) rfl ?_
  refine e_aload rfl rfl rfl ?_
  refine e_iload rfl rfl ?_
  refine e_push rfl ?_
  refine e_push rfl ?_
  refine e_isI rfl (Nat.le_of_ble_eq_true rfl) rfl rfl (Nat.le_of_ble_eq_true rfl) (fun _ _ => e_x0) fun x2 h1 => ?_
  refine e_push rfl ?_
  refine e_iload rfl rfl ?_
  refine e_push rfl ?_
  refine e_push rfl ?_
  refine e_push rfl ?_
  refine e_push rfl ?_
  refine e_ivI rfl rfl rfl (Nat.le_of_ble_eq_true rfl) (fun _ _ => e_x0) fun x4 h3 => ?_
  exact e_iret rfl
noncomputable def B_X3_endMacro_15 (K : ax_K) (s0 : Nat) (s1 : Int32) (v0 : Nat) (h : ax_H) : Option ax_R := ax_run K P_X3_endMacro 15 [some (.ref v0)] [.int s1, .ref s0] h
theorem b_X3_endMacro_15 {K : ax_K} {s0 : Nat} {s1 : Int32} {v0 : Nat} {h : ax_H}  : dx_le ((dx_vn [(38, 378)] (.ref s0) h).bind fun k => dx_cI (K k [.ref s0, .int s1] h) (fun x2 h1 => if ¬ x2 = 0 then (dx_vn [(38, 377)] (.ref v0) h1).bind fun k => dx_cI (K k [.ref v0, .int 1, .int 7, .int 0, .int 0, .int 0, .int 0, .int 0] h1) (fun x4 h3 => some (.inl (some (.int x4)), h3)) dx_x0 else some (.inl (some (.int 0)), h1)) dx_x0) (B_X3_endMacro_15 K s0 s1 v0 h) := by
  show dx_le _ (ax_run K P_X3_endMacro 15 [some (.ref v0)] [.int s1, .ref s0] h)
  refine e_ivI rfl rfl rfl (Nat.le_of_ble_eq_true rfl) (fun _ _ => e_x0) fun x2 h1 => ?_
  refine e_if1 rfl rfl ?_ ?_
  · refine e_aload rfl rfl rfl ?_
    refine e_push rfl ?_
    refine e_push rfl ?_
    refine e_push rfl ?_
    refine e_push rfl ?_
    refine e_push rfl ?_
    refine e_push rfl ?_
    refine e_push rfl ?_
    refine e_ivI rfl rfl rfl (Nat.le_of_ble_eq_true rfl) (fun _ _ => e_x0) fun x4 h3 => ?_
    exact e_iret rfl
  · refine e_push rfl ?_
    exact e_iret rfl
theorem m_X3_endMacro {d : Nat} {v0 : Nat} {h : ax_H}  : dx_le ((dx_gI [(38, 1)] (.ref v0) h).bind fun x1 => if ¬ x1 = 100 then B_X3_endMacro_15 (ax_c d) v0 0 v0 h else B_X3_endMacro_15 (ax_c d) v0 1 v0 h) (ax_c (d + 1) 386 [.ref v0] h) := by
  refine e_entry (L' := [some (.ref v0)]) rfl (ag_A rfl ag_n) (Nat.le_of_ble_eq_true rfl) rfl ?_
  refine e_aload rfl rfl rfl ?_
  refine e_aload rfl rfl rfl ?_
  refine e_getI rfl fun x1 => ?_
  refine e_push rfl ?_
  refine e_if2 rfl rfl ?_ ?_
  · refine e_push rfl ?_
    exact e_wk mP_X3_endMacro (ll_1 ll_n)
  · refine e_push rfl ?_
    refine e_goto rfl ?_
    exact e_wk mP_X3_endMacro (ll_1 ll_n)
noncomputable def B_X3_use_32 (K : ax_K) (s0 : Int32) (v0 : Nat) (v1 : Int32) (v2 : Int32) (v3 : Int32) (v4 : Int32) (v5 : Int32) (h : ax_H) : Option ax_R := ax_run K P_X3_use 32 [some (.ref v0), some (.int v1), some (.int v2), some (.int v3), some (.int v4), some (.int v5), none] [.int s0] h
theorem b_X3_use_32 {K : ax_K} {s0 : Int32} {v0 : Nat} {v1 : Int32} {v2 : Int32} {v3 : Int32} {v4 : Int32} {v5 : Int32} {h : ax_H}  : dx_le ((dx_vn [(38, 377)] (.ref v0) h).bind fun k => dx_cI (K k [.ref v0, .int s0, .int 8, .int v2, .int v3, .int v4, .int v5, .int v1] h) (fun x2 h1 => some (.inl (some (.int x2)), h1)) dx_x0) (B_X3_use_32 K s0 v0 v1 v2 v3 v4 v5 h) := by
  show dx_le _ (ax_run K P_X3_use 32 [some (.ref v0), some (.int v1), some (.int v2), some (.int v3), some (.int v4), some (.int v5), none] [.int s0] h)
  refine e_istore (L' := [some (.ref v0), some (.int v1), some (.int v2), some (.int v3), some (.int v4), some (.int v5), some (.int s0)]) rfl (dx_sto (Nat.le_of_ble_eq_true rfl) (Or.inr ⟨_, rfl, rfl⟩) rfl) ?_
  refine e_aload rfl rfl rfl ?_
  refine e_iload rfl rfl ?_
  refine e_push rfl ?_
  refine e_iload rfl rfl ?_
  refine e_iload rfl rfl ?_
  refine e_iload rfl rfl ?_
  refine e_iload rfl rfl ?_
  refine e_iload rfl rfl ?_
  refine e_ivI rfl rfl rfl (Nat.le_of_ble_eq_true rfl) (fun _ _ => e_x0) fun x2 h1 => ?_
  exact e_iret rfl
theorem m_X3_use {d : Nat} {v0 : Nat} {v1 : Int32} {v2 : Int32} {v3 : Int32} {v4 : Int32} {v5 : Int32} {h : ax_H}  : dx_le (dx_cI ((ax_c d) 376 [.int v1, .int 0, .int 4] h) (fun x2 h1 => if x2 = 0 then B_X3_use_32 (ax_c d) 0 v0 v1 v2 v3 v4 v5 h1 else dx_cI ((ax_c d) 381 [.int v2, .int v3] h1) (fun x4 h3 => if x4 = 0 then B_X3_use_32 (ax_c d) 0 v0 v1 v2 v3 v4 v5 h3 else dx_cI ((ax_c d) 381 [.int v4, .int v5] h3) (fun x6 h5 => if x6 = 0 then B_X3_use_32 (ax_c d) 0 v0 v1 v2 v3 v4 v5 h5 else B_X3_use_32 (ax_c d) 1 v0 v1 v2 v3 v4 v5 h5) dx_x0) dx_x0) dx_x0) (ax_c (d + 1) 387 [.ref v0, .int v1, .int v2, .int v3, .int v4, .int v5] h) := by
  refine e_entry (L' := [some (.ref v0), some (.int v1), some (.int v2), some (.int v3), some (.int v4), some (.int v5), none]) rfl (ag_A rfl (ag_I (ag_I (ag_I (ag_I (ag_I ag_n)))))) (Nat.le_of_ble_eq_true rfl) rfl ?_
  refine e_iload rfl rfl ?_
  refine e_push rfl ?_
  refine e_push rfl ?_
  refine e_isI rfl (Nat.le_of_ble_eq_true rfl) rfl rfl (Nat.le_of_ble_eq_true rfl) (fun _ _ => e_x0) fun x2 h1 => ?_
  refine e_if1 rfl rfl ?_ ?_
  · refine e_push rfl ?_
    exact e_wk mP_X3_use (ll_1 (ll_1 (ll_1 (ll_1 (ll_1 (ll_1 (ll_0 ll_n)))))))
  · refine e_iload rfl rfl ?_
    refine e_iload rfl rfl ?_
    refine e_isI rfl (Nat.le_of_ble_eq_true rfl) rfl rfl (Nat.le_of_ble_eq_true rfl) (fun _ _ => e_x0) fun x4 h3 => ?_
    refine e_if1 rfl rfl ?_ ?_
    · refine e_push rfl ?_
      exact e_wk mP_X3_use (ll_1 (ll_1 (ll_1 (ll_1 (ll_1 (ll_1 (ll_0 ll_n)))))))
    · refine e_iload rfl rfl ?_
      refine e_iload rfl rfl ?_
      refine e_isI rfl (Nat.le_of_ble_eq_true rfl) rfl rfl (Nat.le_of_ble_eq_true rfl) (fun _ _ => e_x0) fun x6 h5 => ?_
      refine e_if1 rfl rfl ?_ ?_
      · refine e_push rfl ?_
        exact e_wk mP_X3_use (ll_1 (ll_1 (ll_1 (ll_1 (ll_1 (ll_1 (ll_0 ll_n)))))))
      · refine e_push rfl ?_
        refine e_goto rfl ?_
        exact e_wk mP_X3_use (ll_1 (ll_1 (ll_1 (ll_1 (ll_1 (ll_1 (ll_0 ll_n)))))))
theorem m_X3_error {d : Nat} {v0 : Nat} {h : ax_H}  : dx_le ((dx_pF [(38, 0)] (.int) (.ref v0) (.int 0) h).bind fun h1 => (dx_vn [(38, 389)] (.ref v0) h1).bind fun k => dx_cI ((ax_c d) k [.ref v0] h1) (fun x3 h2 => some (.inl (some (.int x3)), h2)) dx_x0) (ax_c (d + 1) 388 [.ref v0] h) := by
  refine e_entry (L' := [some (.ref v0)]) rfl (ag_A rfl ag_n) (Nat.le_of_ble_eq_true rfl) rfl ?_
  refine e_aload rfl rfl rfl ?_
  refine e_push rfl ?_
  refine e_putf rfl fun h1 => ?_
  refine e_aload rfl rfl rfl ?_
  refine e_ivI rfl rfl rfl (Nat.le_of_ble_eq_true rfl) (fun _ _ => e_x0) fun x3 h2 => ?_
  exact e_iret rfl
noncomputable def B_X3_errorOfSource_2 (K : ax_K) (v0 : Nat) (v1 : Int32) (h : ax_H) : Option ax_R := ax_run K P_X3_errorOfSource 2 [some (.ref v0), some (.int v1)] [] h
noncomputable def B_X3_errorOfSource_24 (K : ax_K) (v0 : Nat) (v1 : Int32) (h : ax_H) : Option ax_R := ax_run K P_X3_errorOfSource 24 [some (.ref v0), some (.int v1)] [] h
theorem b_X3_errorOfSource_2 {K : ax_K} {v0 : Nat} {v1 : Int32} {h : ax_H}  : dx_le (if (1220 : Int32) ≤ v1 then B_X3_errorOfSource_24 K v0 0 h else (dx_gA [(38, 4)] (.ref v0) h).bind fun r1 => (dx_sI 0 r1 v1 (-1) h).bind fun h2 => dx_lt (v1 + 1) fun x3 => B_X3_errorOfSource_2 K v0 x3 h2) (B_X3_errorOfSource_2 K v0 v1 h) := by
  show dx_le _ (ax_run K P_X3_errorOfSource 2 [some (.ref v0), some (.int v1)] [] h)
  refine e_iload rfl rfl ?_
  refine e_push rfl ?_
  refine e_if2 rfl rfl ?_ ?_
  · refine e_push rfl ?_
    refine e_istore (L' := [some (.ref v0), some (.int 0)]) rfl (dx_sto (Nat.le_of_ble_eq_true rfl) (Or.inr ⟨_, rfl, rfl⟩) rfl) ?_
    exact e_wk mP_X3_errorOfSource (ll_1 (ll_1 ll_n))
  · refine e_aload rfl rfl rfl ?_
    refine e_getA rfl fun r1 hr1 => ?_
    refine e_iload rfl rfl ?_
    refine e_push rfl ?_
    refine e_iastI rfl fun h2 => ?_
    refine e_iinc (M := fun x3 => [some (.ref v0), some (.int x3)]) rfl rfl (fun _ => dx_sto (Nat.le_of_ble_eq_true rfl) (Or.inr ⟨_, rfl, rfl⟩) rfl) fun x3 => ?_
    refine e_goto rfl ?_
    exact e_wk mP_X3_errorOfSource (ll_1 (ll_1 ll_n))
theorem b_X3_errorOfSource_24 {K : ax_K} {v0 : Nat} {v1 : Int32} {h : ax_H}  : dx_le (if (256 : Int32) ≤ v1 then (dx_vn [(38, 390)] (.ref v0) h).bind fun k => dx_cI (K k [.ref v0, .int 0] h) (fun x2 h1 => if ¬ x2 = 0 then some (.inl (some (.int x2)), h1) else (dx_vn [(38, 390)] (.ref v0) h1).bind fun k => dx_cI (K k [.ref v0, .int 1] h1) (fun x4 h3 => some (.inl (some (.int x4)), h3)) dx_x0) dx_x0 else (dx_gA [(38, 20)] (.ref v0) h).bind fun r5 => (dx_sI 0 r5 v1 0 h).bind fun h6 => dx_lt (v1 + 1) fun x7 => B_X3_errorOfSource_24 K v0 x7 h6) (B_X3_errorOfSource_24 K v0 v1 h) := by
  show dx_le _ (ax_run K P_X3_errorOfSource 24 [some (.ref v0), some (.int v1)] [] h)
  refine e_iload rfl rfl ?_
  refine e_push rfl ?_
  refine e_if2 rfl rfl ?_ ?_
  · refine e_aload rfl rfl rfl ?_
    refine e_push rfl ?_
    refine e_ivI rfl rfl rfl (Nat.le_of_ble_eq_true rfl) (fun _ _ => e_x0) fun x2 h1 => ?_
    refine e_istore (L' := [some (.ref v0), some (.int x2)]) rfl (dx_sto (Nat.le_of_ble_eq_true rfl) (Or.inr ⟨_, rfl, rfl⟩) rfl) ?_
    refine e_iload rfl rfl ?_
    refine e_if1 rfl rfl ?_ ?_
    · refine e_iload rfl rfl ?_
      exact e_iret rfl
    · refine e_aload rfl rfl rfl ?_
      refine e_push rfl ?_
      refine e_ivI rfl rfl rfl (Nat.le_of_ble_eq_true rfl) (fun _ _ => e_x0) fun x4 h3 => ?_
      refine e_goto rfl ?_
      exact e_iret rfl
  · refine e_aload rfl rfl rfl ?_
    refine e_getA rfl fun r5 hr5 => ?_
    refine e_iload rfl rfl ?_
    refine e_push rfl ?_
    refine e_iastI rfl fun h6 => ?_
    refine e_iinc (M := fun x7 => [some (.ref v0), some (.int x7)]) rfl rfl (fun _ => dx_sto (Nat.le_of_ble_eq_true rfl) (Or.inr ⟨_, rfl, rfl⟩) rfl) fun x7 => ?_
    refine e_goto rfl ?_
    exact e_wk mP_X3_errorOfSource (ll_1 (ll_1 ll_n))
theorem m_X3_errorOfSource {d : Nat} {v0 : Nat} {h : ax_H}  : dx_le (B_X3_errorOfSource_2 (ax_c d) v0 0 h) (ax_c (d + 1) 389 [.ref v0] h) := by
  refine e_entry (L' := [some (.ref v0), none]) rfl (ag_A rfl ag_n) (Nat.le_of_ble_eq_true rfl) rfl ?_
  refine e_push rfl ?_
  refine e_istore (L' := [some (.ref v0), some (.int 0)]) rfl (dx_sto (Nat.le_of_ble_eq_true rfl) (Or.inr ⟨_, rfl, rfl⟩) rfl) ?_
  exact e_wk mP_X3_errorOfSource (ll_1 (ll_1 ll_n))
noncomputable def B_X3_goesThrough_66 (K : ax_K) (v0 : Nat) (v1 : Int32) (v2 : Int32) (h : ax_H) : Option ax_R := ax_run K P_X3_goesThrough 66 [some (.ref v0), some (.int v1), some (.int v2), none] [] h
noncomputable def B_X3_goesThrough_84 (K : ax_K) (v0 : Nat) (v1 : Int32) (h : ax_H) : Option ax_R := ax_run K P_X3_goesThrough 84 [some (.ref v0), some (.int v1), none, none] [] h
theorem b_X3_goesThrough_66 {K : ax_K} {v0 : Nat} {v1 : Int32} {v2 : Int32} {h : ax_H}  : dx_le (if (5 : Int32) ≤ v2 then B_X3_goesThrough_84 K v0 v1 h else (dx_gA [(38, 6)] (.ref v0) h).bind fun r1 => (dx_sI 0 r1 v2 (-1) h).bind fun h2 => dx_lt (v2 + 1) fun x3 => B_X3_goesThrough_66 K v0 v1 x3 h2) (B_X3_goesThrough_66 K v0 v1 v2 h) := by
  show dx_le _ (ax_run K P_X3_goesThrough 66 [some (.ref v0), some (.int v1), some (.int v2), none] [] h)
  refine e_iload rfl rfl ?_
  refine e_push rfl ?_
  refine e_if2 rfl rfl ?_ ?_
  · exact e_wk mP_X3_goesThrough (ll_1 (ll_1 (ll_0 (ll_0 ll_n))))
  · refine e_aload rfl rfl rfl ?_
    refine e_getA rfl fun r1 hr1 => ?_
    refine e_iload rfl rfl ?_
    refine e_push rfl ?_
    refine e_iastI rfl fun h2 => ?_
    refine e_iinc (M := fun x3 => [some (.ref v0), some (.int v1), some (.int x3), none]) rfl rfl (fun _ => dx_sto (Nat.le_of_ble_eq_true rfl) (Or.inr ⟨_, rfl, rfl⟩) rfl) fun x3 => ?_
    refine e_goto rfl ?_
    exact e_wk mP_X3_goesThrough (ll_1 (ll_1 (ll_1 (ll_0 ll_n))))
theorem b_X3_goesThrough_84 {K : ax_K} {v0 : Nat} {v1 : Int32} {h : ax_H}  : dx_le ((dx_gI [(38, 14)] (.ref v0) h).bind fun x1 => if x1 < 0 then some (.inl (some (.int 0)), h) else (dx_gA [(38, 8)] (.ref v0) h).bind fun r2 => (dx_gI [(38, 14)] (.ref v0) h).bind fun x3 => (dx_lI 0 r2 x3 h).bind fun x4 => (dx_gA [(38, 9)] (.ref v0) h).bind fun r5 => (dx_gI [(38, 14)] (.ref v0) h).bind fun x6 => (dx_lI 0 r5 x6 h).bind fun x7 => if ¬ x4 = x7 then (dx_gA [(38, 8)] (.ref v0) h).bind fun r8 => (dx_gI [(38, 14)] (.ref v0) h).bind fun x9 => (dx_lI 0 r8 x9 h).bind fun x10 => (dx_gA [(38, 8)] (.ref v0) h).bind fun r11 => (dx_gI [(38, 14)] (.ref v0) h).bind fun x12 => (dx_lI 0 r11 x12 h).bind fun x13 => (dx_sI 0 r11 x12 (x13 + 1) h).bind fun h14 => (dx_vn [(38, 391)] (.ref v0) h14).bind fun k => dx_cI (K k [.ref v0, .int x10, .int v1] h14) (fun x16 h15 => if x16 = 0 then B_X3_goesThrough_84 K v0 v1 h15 else some (.inl (some (.int x16)), h15)) dx_x0 else (dx_gI [(38, 14)] (.ref v0) h).bind fun x17 => (dx_pF [(38, 14)] (.int) (.ref v0) (.int (x17 - 1)) h).bind fun h18 => B_X3_goesThrough_84 K v0 v1 h18) (B_X3_goesThrough_84 K v0 v1 h) := by
  show dx_le _ (ax_run K P_X3_goesThrough 84 [some (.ref v0), some (.int v1), none, none] [] h)
  refine e_aload rfl rfl rfl ?_
  refine e_getI rfl fun x1 => ?_
  refine e_if1 rfl rfl ?_ ?_
  · refine e_push rfl ?_
    exact e_iret rfl
  · refine e_aload rfl rfl rfl ?_
    refine e_getA rfl fun r2 hr2 => ?_
    refine e_aload rfl rfl rfl ?_
    refine e_getI rfl fun x3 => ?_
    refine e_iald rfl fun x4 => ?_
    refine e_aload rfl rfl rfl ?_
    refine e_getA rfl fun r5 hr5 => ?_
    refine e_aload rfl rfl rfl ?_
    refine e_getI rfl fun x6 => ?_
    refine e_iald rfl fun x7 => ?_
    refine e_if2 rfl rfl ?_ ?_
    · refine e_aload rfl rfl rfl ?_
      refine e_getA rfl fun r8 hr8 => ?_
      refine e_aload rfl rfl rfl ?_
      refine e_getI rfl fun x9 => ?_
      refine e_iald rfl fun x10 => ?_
      refine e_istore (L' := [some (.ref v0), some (.int v1), some (.int x10), none]) rfl (dx_sto (Nat.le_of_ble_eq_true rfl) (Or.inr ⟨_, rfl, rfl⟩) rfl) ?_
      refine e_aload rfl rfl rfl ?_
      refine e_getA rfl fun r11 hr11 => ?_
      refine e_aload rfl rfl rfl ?_
      refine e_getI rfl fun x12 => ?_
      refine e_dup2 rfl rfl (dx_c1 hr11) ?_
      refine e_iald rfl fun x13 => ?_
      refine e_push rfl ?_
      refine e_i2 rfl ?_
      refine e_iastI rfl fun h14 => ?_
      refine e_aload rfl rfl rfl ?_
      refine e_iload rfl rfl ?_
      refine e_iload rfl rfl ?_
      refine e_ivI rfl rfl rfl (Nat.le_of_ble_eq_true rfl) (fun _ _ => e_x0) fun x16 h15 => ?_
      refine e_istore (L' := [some (.ref v0), some (.int v1), some (.int x10), some (.int x16)]) rfl (dx_sto (Nat.le_of_ble_eq_true rfl) (Or.inr ⟨_, rfl, rfl⟩) rfl) ?_
      refine e_iload rfl rfl ?_
      refine e_if1 rfl rfl ?_ ?_
      · refine e_goto rfl ?_
        exact e_wk mP_X3_goesThrough (ll_1 (ll_1 (ll_0 (ll_0 ll_n))))
      · refine e_iload rfl rfl ?_
        exact e_iret rfl
    · refine e_aload rfl rfl rfl ?_
      refine e_dup rfl rfl ?_
      refine e_getI rfl fun x17 => ?_
      refine e_push rfl ?_
      refine e_i2 rfl ?_
      refine e_putf rfl fun h18 => ?_
      refine e_goto rfl ?_
      exact e_wk mP_X3_goesThrough (ll_1 (ll_1 (ll_0 (ll_0 ll_n))))
theorem m_X3_goesThrough {d : Nat} {v0 : Nat} {v1 : Int32} {h : ax_H}  : dx_le ((dx_gA [(38, 5)] (.ref v0) h).bind fun r1 => (dx_lI 0 r1 0 h).bind fun x2 => (dx_pF [(38, 18)] (.int) (.ref v0) (.int (8 + x2)) h).bind fun h3 => (dx_gA [(38, 5)] (.ref v0) h3).bind fun r4 => (dx_sI 0 r4 0 0 h3).bind fun h5 => (dx_gA [(38, 5)] (.ref v0) h5).bind fun r6 => (dx_sI 0 r6 1 0 h5).bind fun h7 => (dx_pF [(38, 15)] (.int) (.ref v0) (.int 0) h7).bind fun h8 => (dx_pF [(38, 16)] (.int) (.ref v0) (.int 0) h8).bind fun h9 => (dx_pF [(38, 17)] (.int) (.ref v0) (.int 0) h9).bind fun h10 => (dx_pF [(38, 14)] (.int) (.ref v0) (.int 0) h10).bind fun h11 => (dx_gA [(38, 8)] (.ref v0) h11).bind fun r12 => (dx_sI 0 r12 0 0 h11).bind fun h13 => (dx_gA [(38, 9)] (.ref v0) h13).bind fun r14 => (dx_gI [(38, 1)] (.ref v0) h13).bind fun x15 => (dx_sI 0 r14 0 x15 h13).bind fun h16 => B_X3_goesThrough_66 (ax_c d) v0 v1 0 h16) (ax_c (d + 1) 390 [.ref v0, .int v1] h) := by
  refine e_entry (L' := [some (.ref v0), some (.int v1), none, none]) rfl (ag_A rfl (ag_I ag_n)) (Nat.le_of_ble_eq_true rfl) rfl ?_
  refine e_aload rfl rfl rfl ?_
  refine e_push rfl ?_
  refine e_aload rfl rfl rfl ?_
  refine e_getA rfl fun r1 hr1 => ?_
  refine e_push rfl ?_
  refine e_iald rfl fun x2 => ?_
  refine e_i2 rfl ?_
  refine e_putf rfl fun h3 => ?_
  refine e_aload rfl rfl rfl ?_
  refine e_getA rfl fun r4 hr4 => ?_
  refine e_push rfl ?_
  refine e_push rfl ?_
  refine e_iastI rfl fun h5 => ?_
  refine e_aload rfl rfl rfl ?_
  refine e_getA rfl fun r6 hr6 => ?_
  refine e_push rfl ?_
  refine e_push rfl ?_
  refine e_iastI rfl fun h7 => ?_
  refine e_aload rfl rfl rfl ?_
  refine e_push rfl ?_
  refine e_putf rfl fun h8 => ?_
  refine e_aload rfl rfl rfl ?_
  refine e_push rfl ?_
  refine e_putf rfl fun h9 => ?_
  refine e_aload rfl rfl rfl ?_
  refine e_push rfl ?_
  refine e_putf rfl fun h10 => ?_
  refine e_aload rfl rfl rfl ?_
  refine e_push rfl ?_
  refine e_putf rfl fun h11 => ?_
  refine e_aload rfl rfl rfl ?_
  refine e_getA rfl fun r12 hr12 => ?_
  refine e_push rfl ?_
  refine e_push rfl ?_
  refine e_iastI rfl fun h13 => ?_
  refine e_aload rfl rfl rfl ?_
  refine e_getA rfl fun r14 hr14 => ?_
  refine e_push rfl ?_
  refine e_aload rfl rfl rfl ?_
  refine e_getI rfl fun x15 => ?_
  refine e_iastI rfl fun h16 => ?_
  refine e_push rfl ?_
  refine e_istore (L' := [some (.ref v0), some (.int v1), some (.int 0), none]) rfl (dx_sto (Nat.le_of_ble_eq_true rfl) (Or.inr ⟨_, rfl, rfl⟩) rfl) ?_
  exact e_wk mP_X3_goesThrough (ll_1 (ll_1 (ll_1 (ll_0 ll_n))))
noncomputable def B_X3_goes_68 (K : ax_K) (v0 : Nat) (v1 : Int32) (v2 : Int32) (v3 : Int32) (v4 : Int32) (h : ax_H) : Option ax_R := ax_run K P_X3_goes 68 [some (.ref v0), some (.int v1), some (.int v2), some (.int v3), some (.int v4)] [] h
theorem b_X3_goes_68 {K : ax_K} {v0 : Nat} {v1 : Int32} {v2 : Int32} {v3 : Int32} {v4 : Int32} {h : ax_H}  : dx_le (if ¬ v4 = 0 then if ¬ v4 = 6 then if ¬ v4 = 7 then if ¬ v4 = 8 then if v2 = 0 then (dx_gA [(38, 5)] (.ref v0) h).bind fun r1 => (dx_gI [(38, 15)] (.ref v0) h).bind fun x2 => (dx_lI 0 r1 x2 h).bind fun x3 => (dx_sI 0 r1 x2 (x3 + v3) h).bind fun h4 => if ¬ v4 = 1 then some (.inl (some (.int 0)), h4) else (dx_vn [(38, 401)] (.ref v0) h4).bind fun k => dx_cI (K k [.ref v0, .int v1] h4) (fun x6 h5 => some (.inl (some (.int x6)), h5)) dx_x0 else (dx_vn [(38, 399)] (.ref v0) h).bind fun k => dx_cI (K k [.ref v0, .int v1] h) (fun x8 h7 => some (.inl (some (.int x8)), h7)) dx_x0 else (dx_vn [(38, 395)] (.ref v0) h).bind fun k => dx_cI (K k [.ref v0, .int v1, .int v2] h) (fun x10 h9 => some (.inl (some (.int x10)), h9)) dx_x0 else some (.inl (some (.int (400 + v1))), h) else (dx_vn [(38, 393)] (.ref v0) h).bind fun k => dx_cI (K k [.ref v0, .int v1] h) (fun x12 h11 => some (.inl (some (.int x12)), h11)) dx_x0 else (dx_gA [(38, 3)] (.ref v0) h).bind fun r13 => (dx_lI 0 r13 (5 * v1) h).bind fun x14 => (dx_pF [(38, 15)] (.int) (.ref v0) (.int x14) h).bind fun h15 => some (.inl (some (.int 0)), h15)) (B_X3_goes_68 K v0 v1 v2 v3 v4 h) := by
  show dx_le _ (ax_run K P_X3_goes 68 [some (.ref v0), some (.int v1), some (.int v2), some (.int v3), some (.int v4)] [] h)
  refine e_iload rfl rfl ?_
  refine e_if1 rfl rfl ?_ ?_
  · refine e_iload rfl rfl ?_
    refine e_push rfl ?_
    refine e_if2 rfl rfl ?_ ?_
    · refine e_iload rfl rfl ?_
      refine e_push rfl ?_
      refine e_if2 rfl rfl ?_ ?_
      · refine e_iload rfl rfl ?_
        refine e_push rfl ?_
        refine e_if2 rfl rfl ?_ ?_
        · refine e_iload rfl rfl ?_
          refine e_if1 rfl rfl ?_ ?_
          · refine e_aload rfl rfl rfl ?_
            refine e_getA rfl fun r1 hr1 => ?_
            refine e_aload rfl rfl rfl ?_
            refine e_getI rfl fun x2 => ?_
            refine e_dup2 rfl rfl (dx_c1 hr1) ?_
            refine e_iald rfl fun x3 => ?_
            refine e_iload rfl rfl ?_
            refine e_i2 rfl ?_
            refine e_iastI rfl fun h4 => ?_
            refine e_iload rfl rfl ?_
            refine e_push rfl ?_
            refine e_if2 rfl rfl ?_ ?_
            · refine e_push rfl ?_
              exact e_iret rfl
            · refine e_aload rfl rfl rfl ?_
              refine e_iload rfl rfl ?_
              refine e_ivI rfl rfl rfl (Nat.le_of_ble_eq_true rfl) (fun _ _ => e_x0) fun x6 h5 => ?_
              refine e_goto rfl ?_
              exact e_iret rfl
          · refine e_aload rfl rfl rfl ?_
            refine e_iload rfl rfl ?_
            refine e_ivI rfl rfl rfl (Nat.le_of_ble_eq_true rfl) (fun _ _ => e_x0) fun x8 h7 => ?_
            exact e_iret rfl
        · refine e_aload rfl rfl rfl ?_
          refine e_iload rfl rfl ?_
          refine e_iload rfl rfl ?_
          refine e_ivI rfl rfl rfl (Nat.le_of_ble_eq_true rfl) (fun _ _ => e_x0) fun x10 h9 => ?_
          exact e_iret rfl
      · refine e_push rfl ?_
        refine e_iload rfl rfl ?_
        refine e_i2 rfl ?_
        exact e_iret rfl
    · refine e_aload rfl rfl rfl ?_
      refine e_iload rfl rfl ?_
      refine e_ivI rfl rfl rfl (Nat.le_of_ble_eq_true rfl) (fun _ _ => e_x0) fun x12 h11 => ?_
      exact e_iret rfl
  · refine e_aload rfl rfl rfl ?_
    refine e_aload rfl rfl rfl ?_
    refine e_getA rfl fun r13 hr13 => ?_
    refine e_push rfl ?_
    refine e_iload rfl rfl ?_
    refine e_i2 rfl ?_
    refine e_iald rfl fun x14 => ?_
    refine e_putf rfl fun h15 => ?_
    refine e_push rfl ?_
    exact e_iret rfl
theorem m_X3_goes {d : Nat} {v0 : Nat} {v1 : Int32} {v2 : Int32} {h : ax_H}  : dx_le ((dx_gI [(38, 16)] (.ref v0) h).bind fun x1 => (dx_pF [(38, 16)] (.int) (.ref v0) (.int (x1 + 1)) h).bind fun h2 => (dx_vn [(38, 392)] (.ref v0) h2).bind fun k => dx_cI ((ax_c d) k [.ref v0, .int v1] h2) (fun x4 h3 => (dx_gA [(38, 2)] (.ref v0) h3).bind fun r5 => (dx_lI 0 r5 v1 h3).bind fun x6 => if ¬ v2 = 0 then B_X3_goes_68 (ax_c d) v0 v1 v2 x4 x6 h3 else (dx_gI [(38, 16)] (.ref v0) h3).bind fun x7 => if (300 : Int32) < x7 then some (.inl (some (.int (100 + v1))), h3) else if x4 ≤ 0 then B_X3_goes_68 (ax_c d) v0 v1 v2 x4 x6 h3 else (dx_gA [(38, 5)] (.ref v0) h3).bind fun r8 => (dx_lI 0 r8 0 h3).bind fun x9 => (dx_gA [(38, 5)] (.ref v0) h3).bind fun r10 => (dx_lI 0 r10 1 h3).bind fun x11 => if ((x9 + x11) + x4) ≤ 248 then B_X3_goes_68 (ax_c d) v0 v1 v2 x4 x6 h3 else some (.inl (some (.int (100 + v1))), h3)) dx_x0) (ax_c (d + 1) 391 [.ref v0, .int v1, .int v2] h) := by
  refine e_entry (L' := [some (.ref v0), some (.int v1), some (.int v2), none, none]) rfl (ag_A rfl (ag_I (ag_I ag_n))) (Nat.le_of_ble_eq_true rfl) rfl ?_
  refine e_aload rfl rfl rfl ?_
  refine e_dup rfl rfl ?_
  refine e_getI rfl fun x1 => ?_
  refine e_push rfl ?_
  refine e_i2 rfl ?_
  refine e_putf rfl fun h2 => ?_
  refine e_aload rfl rfl rfl ?_
  refine e_iload rfl rfl ?_
  refine e_ivI rfl rfl rfl (Nat.le_of_ble_eq_true rfl) (fun _ _ => e_x0) fun x4 h3 => ?_
  refine e_istore (L' := [some (.ref v0), some (.int v1), some (.int v2), some (.int x4), none]) rfl (dx_sto (Nat.le_of_ble_eq_true rfl) (Or.inr ⟨_, rfl, rfl⟩) rfl) ?_
  refine e_aload rfl rfl rfl ?_
  refine e_getA rfl fun r5 hr5 => ?_
  refine e_iload rfl rfl ?_
  refine e_iald rfl fun x6 => ?_
  refine e_istore (L' := [some (.ref v0), some (.int v1), some (.int v2), some (.int x4), some (.int x6)]) rfl (dx_sto (Nat.le_of_ble_eq_true rfl) (Or.inr ⟨_, rfl, rfl⟩) rfl) ?_
  refine e_iload rfl rfl ?_
  refine e_if1 rfl rfl ?_ ?_
  · exact e_wk mP_X3_goes (ll_1 (ll_1 (ll_1 (ll_1 (ll_1 ll_n)))))
  · refine e_aload rfl rfl rfl ?_
    refine e_getI rfl fun x7 => ?_
    refine e_push rfl ?_
    refine e_if2 rfl rfl ?_ ?_
    · refine e_push rfl ?_
      refine e_iload rfl rfl ?_
      refine e_i2 rfl ?_
      exact e_iret rfl
    · refine e_iload rfl rfl ?_
      refine e_if1 rfl rfl ?_ ?_
      · exact e_wk mP_X3_goes (ll_1 (ll_1 (ll_1 (ll_1 (ll_1 ll_n)))))
      · refine e_aload rfl rfl rfl ?_
        refine e_getA rfl fun r8 hr8 => ?_
        refine e_push rfl ?_
        refine e_iald rfl fun x9 => ?_
        refine e_aload rfl rfl rfl ?_
        refine e_getA rfl fun r10 hr10 => ?_
        refine e_push rfl ?_
        refine e_iald rfl fun x11 => ?_
        refine e_i2 rfl ?_
        refine e_iload rfl rfl ?_
        refine e_i2 rfl ?_
        refine e_push rfl ?_
        refine e_if2 rfl rfl ?_ ?_
        · exact e_wk mP_X3_goes (ll_1 (ll_1 (ll_1 (ll_1 (ll_1 ll_n)))))
        · refine e_push rfl ?_
          refine e_iload rfl rfl ?_
          refine e_i2 rfl ?_
          exact e_iret rfl
theorem m_X3_wordsOf {d : Nat} {v0 : Nat} {v1 : Int32} {h : ax_H}  : dx_le ((dx_gA [(38, 2)] (.ref v0) h).bind fun r1 => (dx_lI 0 r1 v1 h).bind fun x2 => if ¬ x2 = 2 then if ¬ x2 = 3 then if ¬ x2 = 4 then some (.inl (some (.int 0)), h) else (dx_gA [(38, 3)] (.ref v0) h).bind fun r3 => (dx_lI 0 r3 (5 * v1) h).bind fun x4 => some (.inl (some (.int x4)), h) else some (.inl (some (.int 1)), h) else some (.inl (some (.int 2)), h)) (ax_c (d + 1) 392 [.ref v0, .int v1] h) := by
  refine e_entry (L' := [some (.ref v0), some (.int v1), none]) rfl (ag_A rfl (ag_I ag_n)) (Nat.le_of_ble_eq_true rfl) rfl ?_
  refine e_aload rfl rfl rfl ?_
  refine e_getA rfl fun r1 hr1 => ?_
  refine e_iload rfl rfl ?_
  refine e_iald rfl fun x2 => ?_
  refine e_istore (L' := [some (.ref v0), some (.int v1), some (.int x2)]) rfl (dx_sto (Nat.le_of_ble_eq_true rfl) (Or.inr ⟨_, rfl, rfl⟩) rfl) ?_
  refine e_iload rfl rfl ?_
  refine e_push rfl ?_
  refine e_if2 rfl rfl ?_ ?_
  · refine e_iload rfl rfl ?_
    refine e_push rfl ?_
    refine e_if2 rfl rfl ?_ ?_
    · refine e_iload rfl rfl ?_
      refine e_push rfl ?_
      refine e_if2 rfl rfl ?_ ?_
      · refine e_push rfl ?_
        exact e_iret rfl
      · refine e_aload rfl rfl rfl ?_
        refine e_getA rfl fun r3 hr3 => ?_
        refine e_push rfl ?_
        refine e_iload rfl rfl ?_
        refine e_i2 rfl ?_
        refine e_iald rfl fun x4 => ?_
        refine e_goto rfl ?_
        exact e_iret rfl
    · refine e_push rfl ?_
      refine e_goto rfl ?_
      exact e_iret rfl
  · refine e_push rfl ?_
    refine e_goto rfl ?_
    exact e_iret rfl
noncomputable def B_X3_begins_47 (K : ax_K) (v1 : Int32) (v3 : Int32) (h : ax_H) : Option ax_R := ax_run K P_X3_begins 47 [none, some (.int v1), none, some (.int v3)] [] h
theorem b_X3_begins_47 {K : ax_K} {v1 : Int32} {v3 : Int32} {h : ax_H}  : dx_le (if ¬ v3 = (-1) then some (.inl (some (.int (400 + v3))), h) else some (.inl (some (.int (400 + v1))), h)) (B_X3_begins_47 K v1 v3 h) := by
  show dx_le _ (ax_run K P_X3_begins 47 [none, some (.int v1), none, some (.int v3)] [] h)
  refine e_push rfl ?_
  refine e_iload rfl rfl ?_
  refine e_push rfl ?_
  refine e_if2 rfl rfl ?_ ?_
  · refine e_iload rfl rfl ?_
    refine e_i2 rfl ?_
    exact e_iret rfl
  · refine e_iload rfl rfl ?_
    refine e_goto rfl ?_
    refine e_i2 rfl ?_
    exact e_iret rfl
theorem m_X3_begins {d : Nat} {v0 : Nat} {v1 : Int32} {h : ax_H}  : dx_le ((dx_gA [(38, 3)] (.ref v0) h).bind fun r1 => (dx_lI 0 r1 (5 * v1) h).bind fun x2 => (dx_gA [(38, 6)] (.ref v0) h).bind fun r3 => (dx_lI 0 r3 x2 h).bind fun x4 => if x4 = (-1) then (dx_vn [(38, 394)] (.ref v0) h).bind fun k => dx_cI ((ax_c d) k [.ref v0, .int v1] h) (fun x6 h5 => if x6 = (-1) then B_X3_begins_47 (ax_c d) v1 x6 h5 else (dx_gA [(38, 2)] (.ref v0) h5).bind fun r7 => (dx_lI 0 r7 x6 h5).bind fun x8 => if ¬ x8 = 6 then (dx_gA [(38, 6)] (.ref v0) h5).bind fun r9 => (dx_sI 0 r9 x2 (v1 + 1) h5).bind fun h10 => (dx_gA [(38, 7)] (.ref v0) h10).bind fun r11 => (dx_sI 0 r11 x2 x6 h10).bind fun h12 => (dx_gA [(38, 8)] (.ref v0) h12).bind fun r13 => (dx_gI [(38, 14)] (.ref v0) h12).bind fun x14 => (dx_sI 0 r13 x14 (x6 + 1) h12).bind fun h15 => some (.inl (some (.int 0)), h15) else B_X3_begins_47 (ax_c d) v1 x6 h5) dx_x0 else some (.inl (some (.int (300 + v1))), h)) (ax_c (d + 1) 393 [.ref v0, .int v1] h) := by
  refine e_entry (L' := [some (.ref v0), some (.int v1), none, none]) rfl (ag_A rfl (ag_I ag_n)) (Nat.le_of_ble_eq_true rfl) rfl ?_
  refine e_aload rfl rfl rfl ?_
  refine e_getA rfl fun r1 hr1 => ?_
  refine e_push rfl ?_
  refine e_iload rfl rfl ?_
  refine e_i2 rfl ?_
  refine e_iald rfl fun x2 => ?_
  refine e_istore (L' := [some (.ref v0), some (.int v1), some (.int x2), none]) rfl (dx_sto (Nat.le_of_ble_eq_true rfl) (Or.inr ⟨_, rfl, rfl⟩) rfl) ?_
  refine e_aload rfl rfl rfl ?_
  refine e_getA rfl fun r3 hr3 => ?_
  refine e_iload rfl rfl ?_
  refine e_iald rfl fun x4 => ?_
  refine e_push rfl ?_
  refine e_if2 rfl rfl ?_ ?_
  · refine e_aload rfl rfl rfl ?_
    refine e_iload rfl rfl ?_
    refine e_ivI rfl rfl rfl (Nat.le_of_ble_eq_true rfl) (fun _ _ => e_x0) fun x6 h5 => ?_
    refine e_istore (L' := [some (.ref v0), some (.int v1), some (.int x2), some (.int x6)]) rfl (dx_sto (Nat.le_of_ble_eq_true rfl) (Or.inr ⟨_, rfl, rfl⟩) rfl) ?_
    refine e_iload rfl rfl ?_
    refine e_push rfl ?_
    refine e_if2 rfl rfl ?_ ?_
    · exact e_wk mP_X3_begins (ll_0 (ll_1 (ll_0 (ll_1 ll_n))))
    · refine e_aload rfl rfl rfl ?_
      refine e_getA rfl fun r7 hr7 => ?_
      refine e_iload rfl rfl ?_
      refine e_iald rfl fun x8 => ?_
      refine e_push rfl ?_
      refine e_if2 rfl rfl ?_ ?_
      · refine e_aload rfl rfl rfl ?_
        refine e_getA rfl fun r9 hr9 => ?_
        refine e_iload rfl rfl ?_
        refine e_iload rfl rfl ?_
        refine e_push rfl ?_
        refine e_i2 rfl ?_
        refine e_iastI rfl fun h10 => ?_
        refine e_aload rfl rfl rfl ?_
        refine e_getA rfl fun r11 hr11 => ?_
        refine e_iload rfl rfl ?_
        refine e_iload rfl rfl ?_
        refine e_iastI rfl fun h12 => ?_
        refine e_aload rfl rfl rfl ?_
        refine e_getA rfl fun r13 hr13 => ?_
        refine e_aload rfl rfl rfl ?_
        refine e_getI rfl fun x14 => ?_
        refine e_iload rfl rfl ?_
        refine e_push rfl ?_
        refine e_i2 rfl ?_
        refine e_iastI rfl fun h15 => ?_
        refine e_push rfl ?_
        exact e_iret rfl
      · exact e_wk mP_X3_begins (ll_0 (ll_1 (ll_0 (ll_1 ll_n))))
  · refine e_push rfl ?_
    refine e_iload rfl rfl ?_
    refine e_i2 rfl ?_
    exact e_iret rfl
noncomputable def B_X3_nextOf_4 (K : ax_K) (v0 : Nat) (v2 : Int32) (h : ax_H) : Option ax_R := ax_run K P_X3_nextOf 4 [some (.ref v0), none, some (.int v2)] [] h
theorem b_X3_nextOf_4 {K : ax_K} {v0 : Nat} {v2 : Int32} {h : ax_H}  : dx_le ((dx_gI [(38, 1)] (.ref v0) h).bind fun x1 => if x1 ≤ v2 then some (.inl (some (.int (-1))), h) else (dx_gA [(38, 2)] (.ref v0) h).bind fun r2 => (dx_lI 0 r2 v2 h).bind fun x3 => if x3 = 7 then some (.inl (some (.int v2)), h) else (dx_gA [(38, 2)] (.ref v0) h).bind fun r4 => (dx_lI 0 r4 v2 h).bind fun x5 => if ¬ x5 = 6 then dx_lt (v2 + 1) fun x6 => B_X3_nextOf_4 K v0 x6 h else some (.inl (some (.int v2)), h)) (B_X3_nextOf_4 K v0 v2 h) := by
  show dx_le _ (ax_run K P_X3_nextOf 4 [some (.ref v0), none, some (.int v2)] [] h)
  refine e_iload rfl rfl ?_
  refine e_aload rfl rfl rfl ?_
  refine e_getI rfl fun x1 => ?_
  refine e_if2 rfl rfl ?_ ?_
  · refine e_push rfl ?_
    exact e_iret rfl
  · refine e_aload rfl rfl rfl ?_
    refine e_getA rfl fun r2 hr2 => ?_
    refine e_iload rfl rfl ?_
    refine e_iald rfl fun x3 => ?_
    refine e_push rfl ?_
    refine e_if2 rfl rfl ?_ ?_
    · refine e_iload rfl rfl ?_
      exact e_iret rfl
    · refine e_aload rfl rfl rfl ?_
      refine e_getA rfl fun r4 hr4 => ?_
      refine e_iload rfl rfl ?_
      refine e_iald rfl fun x5 => ?_
      refine e_push rfl ?_
      refine e_if2 rfl rfl ?_ ?_
      · refine e_iinc (M := fun x6 => [some (.ref v0), none, some (.int x6)]) rfl rfl (fun _ => dx_sto (Nat.le_of_ble_eq_true rfl) (Or.inr ⟨_, rfl, rfl⟩) rfl) fun x6 => ?_
        refine e_goto rfl ?_
        exact e_wk mP_X3_nextOf (ll_1 (ll_0 (ll_1 ll_n)))
      · refine e_iload rfl rfl ?_
        exact e_iret rfl
theorem m_X3_nextOf {d : Nat} {v0 : Nat} {v1 : Int32} {h : ax_H}  : dx_le (dx_lt (v1 + 1) fun x1 => B_X3_nextOf_4 (ax_c d) v0 x1 h) (ax_c (d + 1) 394 [.ref v0, .int v1] h) := by
  refine e_entry (L' := [some (.ref v0), some (.int v1), none]) rfl (ag_A rfl (ag_I ag_n)) (Nat.le_of_ble_eq_true rfl) rfl ?_
  refine e_iload rfl rfl ?_
  refine e_push rfl ?_
  refine e_i2 rfl ?_
  refine e_istoreL (M := fun x1 => [some (.ref v0), some (.int v1), some (.int x1)]) rfl (fun _ => dx_sto (Nat.le_of_ble_eq_true rfl) (Or.inr ⟨_, rfl, rfl⟩) rfl) fun x1 => ?_
  exact e_wk mP_X3_nextOf (ll_1 (ll_0 (ll_1 ll_n)))
noncomputable def B_X3_usesMacro_44 (K : ax_K) (v0 : Nat) (v1 : Int32) (v2 : Int32) (v3 : Int32) (v4 : Int32) (h : ax_H) : Option ax_R := ax_run K P_X3_usesMacro 44 [some (.ref v0), some (.int v1), some (.int v2), some (.int v3), some (.int v4), none, none, none] [] h
noncomputable def B_X3_usesMacro_70 (K : ax_K) (s0 : Int32) (v0 : Nat) (v1 : Int32) (v2 : Int32) (v3 : Int32) (v4 : Int32) (h : ax_H) : Option ax_R := ax_run K P_X3_usesMacro 70 [some (.ref v0), some (.int v1), some (.int v2), some (.int v3), some (.int v4), none, none, none] [.int s0] h
noncomputable def B_X3_usesMacro_84 (K : ax_K) (s0 : Int32) (v0 : Nat) (v1 : Int32) (v2 : Int32) (v3 : Int32) (v4 : Int32) (v5 : Int32) (h : ax_H) : Option ax_R := ax_run K P_X3_usesMacro 84 [some (.ref v0), some (.int v1), some (.int v2), some (.int v3), some (.int v4), some (.int v5), none, none] [.int s0] h
noncomputable def B_X3_usesMacro_114 (K : ax_K) (s0 : Int32) (v0 : Nat) (v1 : Int32) (v2 : Int32) (v4 : Int32) (v5 : Int32) (v6 : Int32) (h : ax_H) : Option ax_R := ax_run K P_X3_usesMacro 114 [some (.ref v0), some (.int v1), some (.int v2), none, some (.int v4), some (.int v5), some (.int v6), none] [.int s0] h
noncomputable def B_X3_usesMacro_134 (K : ax_K) (s0 : Int32) (v0 : Nat) (v1 : Int32) (v4 : Int32) (v5 : Int32) (v7 : Int32) (h : ax_H) : Option ax_R := ax_run K P_X3_usesMacro 134 [some (.ref v0), some (.int v1), none, none, some (.int v4), some (.int v5), none, some (.int v7)] [.int s0] h
theorem b_X3_usesMacro_44 {K : ax_K} {v0 : Nat} {v1 : Int32} {v2 : Int32} {v3 : Int32} {v4 : Int32} {h : ax_H}  : dx_le (if v2 = 0 then B_X3_usesMacro_70 K 0 v0 v1 v2 v3 v4 h else (dx_gA [(38, 3)] (.ref v0) h).bind fun r1 => (dx_lI 0 r1 v3 h).bind fun x2 => (dx_gA [(38, 3)] (.ref v0) h).bind fun r3 => (dx_lI 0 r3 (v3 + 1) h).bind fun x4 => (dx_vn [(38, 397)] (.ref v0) h).bind fun k => dx_cI (K k [.ref v0, .int x2, .int x4] h) (fun x6 h5 => B_X3_usesMacro_70 K x6 v0 v1 v2 v3 v4 h5) dx_x0) (B_X3_usesMacro_44 K v0 v1 v2 v3 v4 h) := by
  show dx_le _ (ax_run K P_X3_usesMacro 44 [some (.ref v0), some (.int v1), some (.int v2), some (.int v3), some (.int v4), none, none, none] [] h)
  refine e_iload rfl rfl ?_
  refine e_if1 rfl rfl ?_ ?_
  · refine e_push rfl ?_
    exact e_wk mP_X3_usesMacro (ll_1 (ll_1 (ll_1 (ll_1 (ll_1 (ll_0 (ll_0 (ll_0 ll_n))))))))
  · refine e_aload rfl rfl rfl ?_
    refine e_aload rfl rfl rfl ?_
    refine e_getA rfl fun r1 hr1 => ?_
    refine e_iload rfl rfl ?_
    refine e_iald rfl fun x2 => ?_
    refine e_aload rfl rfl rfl ?_
    refine e_getA rfl fun r3 hr3 => ?_
    refine e_iload rfl rfl ?_
    refine e_push rfl ?_
    refine e_i2 rfl ?_
    refine e_iald rfl fun x4 => ?_
    refine e_ivI rfl rfl rfl (Nat.le_of_ble_eq_true rfl) (fun _ _ => e_x0) fun x6 h5 => ?_
    refine e_goto rfl ?_
    exact e_wk mP_X3_usesMacro (ll_1 (ll_1 (ll_1 (ll_1 (ll_1 (ll_0 (ll_0 (ll_0 ll_n))))))))
theorem b_X3_usesMacro_70 {K : ax_K} {s0 : Int32} {v0 : Nat} {v1 : Int32} {v2 : Int32} {v3 : Int32} {v4 : Int32} {h : ax_H}  : dx_le (if v2 = 0 then B_X3_usesMacro_84 K 0 v0 v1 v2 v3 v4 s0 h else (dx_gI [(38, 19)] (.ref v0) h).bind fun x1 => B_X3_usesMacro_84 K x1 v0 v1 v2 v3 v4 s0 h) (B_X3_usesMacro_70 K s0 v0 v1 v2 v3 v4 h) := by
  show dx_le _ (ax_run K P_X3_usesMacro 70 [some (.ref v0), some (.int v1), some (.int v2), some (.int v3), some (.int v4), none, none, none] [.int s0] h)
  refine e_istore (L' := [some (.ref v0), some (.int v1), some (.int v2), some (.int v3), some (.int v4), some (.int s0), none, none]) rfl (dx_sto (Nat.le_of_ble_eq_true rfl) (Or.inr ⟨_, rfl, rfl⟩) rfl) ?_
  refine e_iload rfl rfl ?_
  refine e_if1 rfl rfl ?_ ?_
  · refine e_push rfl ?_
    exact e_wk mP_X3_usesMacro (ll_1 (ll_1 (ll_1 (ll_1 (ll_1 (ll_1 (ll_0 (ll_0 ll_n))))))))
  · refine e_aload rfl rfl rfl ?_
    refine e_getI rfl fun x1 => ?_
    refine e_goto rfl ?_
    exact e_wk mP_X3_usesMacro (ll_1 (ll_1 (ll_1 (ll_1 (ll_1 (ll_1 (ll_0 (ll_0 ll_n))))))))
theorem b_X3_usesMacro_84 {K : ax_K} {s0 : Int32} {v0 : Nat} {v1 : Int32} {v2 : Int32} {v3 : Int32} {v4 : Int32} {v5 : Int32} {h : ax_H}  : dx_le (if v2 = 0 then B_X3_usesMacro_114 K 0 v0 v1 v2 v4 v5 s0 h else (dx_gA [(38, 3)] (.ref v0) h).bind fun r1 => (dx_lI 0 r1 (v3 + 2) h).bind fun x2 => (dx_gA [(38, 3)] (.ref v0) h).bind fun r3 => (dx_lI 0 r3 (v3 + 3) h).bind fun x4 => (dx_vn [(38, 397)] (.ref v0) h).bind fun k => dx_cI (K k [.ref v0, .int x2, .int x4] h) (fun x6 h5 => B_X3_usesMacro_114 K x6 v0 v1 v2 v4 v5 s0 h5) dx_x0) (B_X3_usesMacro_84 K s0 v0 v1 v2 v3 v4 v5 h) := by
  show dx_le _ (ax_run K P_X3_usesMacro 84 [some (.ref v0), some (.int v1), some (.int v2), some (.int v3), some (.int v4), some (.int v5), none, none] [.int s0] h)
  refine e_istore (L' := [some (.ref v0), some (.int v1), some (.int v2), some (.int v3), some (.int v4), some (.int v5), some (.int s0), none]) rfl (dx_sto (Nat.le_of_ble_eq_true rfl) (Or.inr ⟨_, rfl, rfl⟩) rfl) ?_
  refine e_iload rfl rfl ?_
  refine e_if1 rfl rfl ?_ ?_
  · refine e_push rfl ?_
    exact e_wk mP_X3_usesMacro (ll_1 (ll_1 (ll_1 (ll_0 (ll_1 (ll_1 (ll_1 (ll_0 ll_n))))))))
  · refine e_aload rfl rfl rfl ?_
    refine e_aload rfl rfl rfl ?_
    refine e_getA rfl fun r1 hr1 => ?_
    refine e_iload rfl rfl ?_
    refine e_push rfl ?_
    refine e_i2 rfl ?_
    refine e_iald rfl fun x2 => ?_
    refine e_aload rfl rfl rfl ?_
    refine e_getA rfl fun r3 hr3 => ?_
    refine e_iload rfl rfl ?_
    refine e_push rfl ?_
    refine e_i2 rfl ?_
    refine e_iald rfl fun x4 => ?_
    refine e_ivI rfl rfl rfl (Nat.le_of_ble_eq_true rfl) (fun _ _ => e_x0) fun x6 h5 => ?_
    refine e_goto rfl ?_
    exact e_wk mP_X3_usesMacro (ll_1 (ll_1 (ll_1 (ll_0 (ll_1 (ll_1 (ll_1 (ll_0 ll_n))))))))
theorem b_X3_usesMacro_114 {K : ax_K} {s0 : Int32} {v0 : Nat} {v1 : Int32} {v2 : Int32} {v4 : Int32} {v5 : Int32} {v6 : Int32} {h : ax_H}  : dx_le (if v2 = 0 then B_X3_usesMacro_134 K v6 v0 v1 v4 v5 s0 h else if ¬ v6 = 0 then B_X3_usesMacro_134 K v6 v0 v1 v4 v5 s0 h else (dx_gI [(38, 19)] (.ref v0) h).bind fun x1 => B_X3_usesMacro_134 K x1 v0 v1 v4 v5 s0 h) (B_X3_usesMacro_114 K s0 v0 v1 v2 v4 v5 v6 h) := by
  show dx_le _ (ax_run K P_X3_usesMacro 114 [some (.ref v0), some (.int v1), some (.int v2), none, some (.int v4), some (.int v5), some (.int v6), none] [.int s0] h)
  refine e_istore (L' := [some (.ref v0), some (.int v1), some (.int v2), none, some (.int v4), some (.int v5), some (.int v6), some (.int s0)]) rfl (dx_sto (Nat.le_of_ble_eq_true rfl) (Or.inr ⟨_, rfl, rfl⟩) rfl) ?_
  refine e_iload rfl rfl ?_
  refine e_if1 rfl rfl ?_ ?_
  · refine e_iload rfl rfl ?_
    exact e_wk mP_X3_usesMacro (ll_1 (ll_1 (ll_0 (ll_0 (ll_1 (ll_1 (ll_0 (ll_1 ll_n))))))))
  · refine e_iload rfl rfl ?_
    refine e_if1 rfl rfl ?_ ?_
    · refine e_iload rfl rfl ?_
      exact e_wk mP_X3_usesMacro (ll_1 (ll_1 (ll_0 (ll_0 (ll_1 (ll_1 (ll_0 (ll_1 ll_n))))))))
    · refine e_aload rfl rfl rfl ?_
      refine e_getI rfl fun x1 => ?_
      refine e_goto rfl ?_
      exact e_wk mP_X3_usesMacro (ll_1 (ll_1 (ll_0 (ll_0 (ll_1 (ll_1 (ll_0 (ll_1 ll_n))))))))
theorem b_X3_usesMacro_134 {K : ax_K} {s0 : Int32} {v0 : Nat} {v1 : Int32} {v4 : Int32} {v5 : Int32} {v7 : Int32} {h : ax_H}  : dx_le ((dx_gI [(38, 14)] (.ref v0) h).bind fun x1 => (dx_pF [(38, 14)] (.int) (.ref v0) (.int (x1 + 1)) h).bind fun h2 => (dx_gA [(38, 8)] (.ref v0) h2).bind fun r3 => (dx_gI [(38, 14)] (.ref v0) h2).bind fun x4 => (dx_gA [(38, 6)] (.ref v0) h2).bind fun r5 => (dx_lI 0 r5 v4 h2).bind fun x6 => (dx_sI 0 r3 x4 x6 h2).bind fun h7 => (dx_gA [(38, 9)] (.ref v0) h7).bind fun r8 => (dx_gI [(38, 14)] (.ref v0) h7).bind fun x9 => (dx_gA [(38, 7)] (.ref v0) h7).bind fun r10 => (dx_lI 0 r10 v4 h7).bind fun x11 => (dx_sI 0 r8 x9 x11 h7).bind fun h12 => (dx_gA [(38, 10)] (.ref v0) h12).bind fun r13 => (dx_gI [(38, 14)] (.ref v0) h12).bind fun x14 => (dx_gI [(38, 17)] (.ref v0) h12).bind fun x15 => (dx_sI 0 r13 x14 x15 h12).bind fun h16 => (dx_gA [(38, 11)] (.ref v0) h16).bind fun r17 => (dx_gI [(38, 14)] (.ref v0) h16).bind fun x18 => (dx_sI 0 r17 x18 v4 h16).bind fun h19 => (dx_gA [(38, 12)] (.ref v0) h19).bind fun r20 => (dx_gI [(38, 14)] (.ref v0) h19).bind fun x21 => (dx_sI 0 r20 x21 v5 h19).bind fun h22 => (dx_gA [(38, 13)] (.ref v0) h22).bind fun r23 => (dx_gI [(38, 14)] (.ref v0) h22).bind fun x24 => (dx_sI 0 r23 x24 v7 h22).bind fun h25 => (dx_gI [(38, 17)] (.ref v0) h25).bind fun x26 => (dx_pF [(38, 17)] (.int) (.ref v0) (.int (x26 + 1)) h25).bind fun h27 => if ¬ s0 = 0 then some (.inl (some (.int ((100 * s0) + v1))), h27) else some (.inl (some (.int 0)), h27)) (B_X3_usesMacro_134 K s0 v0 v1 v4 v5 v7 h) := by
  show dx_le _ (ax_run K P_X3_usesMacro 134 [some (.ref v0), some (.int v1), none, none, some (.int v4), some (.int v5), none, some (.int v7)] [.int s0] h)
  refine e_istore (L' := [some (.ref v0), some (.int v1), none, none, some (.int v4), some (.int v5), some (.int s0), some (.int v7)]) rfl (dx_sto (Nat.le_of_ble_eq_true rfl) (Or.inr ⟨_, rfl, rfl⟩) rfl) ?_
  refine e_aload rfl rfl rfl ?_
  refine e_dup rfl rfl ?_
  refine e_getI rfl fun x1 => ?_
  refine e_push rfl ?_
  refine e_i2 rfl ?_
  refine e_putf rfl fun h2 => ?_
  refine e_aload rfl rfl rfl ?_
  refine e_getA rfl fun r3 hr3 => ?_
  refine e_aload rfl rfl rfl ?_
  refine e_getI rfl fun x4 => ?_
  refine e_aload rfl rfl rfl ?_
  refine e_getA rfl fun r5 hr5 => ?_
  refine e_iload rfl rfl ?_
  refine e_iald rfl fun x6 => ?_
  refine e_iastI rfl fun h7 => ?_
  refine e_aload rfl rfl rfl ?_
  refine e_getA rfl fun r8 hr8 => ?_
  refine e_aload rfl rfl rfl ?_
  refine e_getI rfl fun x9 => ?_
  refine e_aload rfl rfl rfl ?_
  refine e_getA rfl fun r10 hr10 => ?_
  refine e_iload rfl rfl ?_
  refine e_iald rfl fun x11 => ?_
  refine e_iastI rfl fun h12 => ?_
  refine e_aload rfl rfl rfl ?_
  refine e_getA rfl fun r13 hr13 => ?_
  refine e_aload rfl rfl rfl ?_
  refine e_getI rfl fun x14 => ?_
  refine e_aload rfl rfl rfl ?_
  refine e_getI rfl fun x15 => ?_
  refine e_iastI rfl fun h16 => ?_
  refine e_aload rfl rfl rfl ?_
  refine e_getA rfl fun r17 hr17 => ?_
  refine e_aload rfl rfl rfl ?_
  refine e_getI rfl fun x18 => ?_
  refine e_iload rfl rfl ?_
  refine e_iastI rfl fun h19 => ?_
  refine e_aload rfl rfl rfl ?_
  refine e_getA rfl fun r20 hr20 => ?_
  refine e_aload rfl rfl rfl ?_
  refine e_getI rfl fun x21 => ?_
  refine e_iload rfl rfl ?_
  refine e_iastI rfl fun h22 => ?_
  refine e_aload rfl rfl rfl ?_
  refine e_getA rfl fun r23 hr23 => ?_
  refine e_aload rfl rfl rfl ?_
  refine e_getI rfl fun x24 => ?_
  refine e_iload rfl rfl ?_
  refine e_iastI rfl fun h25 => ?_
  refine e_aload rfl rfl rfl ?_
  refine e_dup rfl rfl ?_
  refine e_getI rfl fun x26 => ?_
  refine e_push rfl ?_
  refine e_i2 rfl ?_
  refine e_putf rfl fun h27 => ?_
  refine e_iload rfl rfl ?_
  refine e_if1 rfl rfl ?_ ?_
  · refine e_push rfl ?_
    refine e_iload rfl rfl ?_
    refine e_i2 rfl ?_
    refine e_iload rfl rfl ?_
    refine e_i2 rfl ?_
    exact e_iret rfl
  · refine e_push rfl ?_
    refine e_goto rfl ?_
    exact e_iret rfl
theorem m_X3_usesMacro {d : Nat} {v0 : Nat} {v1 : Int32} {v2 : Int32} {h : ax_H}  : dx_le (dx_lt (5 * v1) fun x1 => (dx_gA [(38, 3)] (.ref v0) h).bind fun r2 => (dx_lI 0 r2 (x1 + 4) h).bind fun x3 => if ¬ v2 = 0 then B_X3_usesMacro_44 (ax_c d) v0 v1 v2 x1 x3 h else (dx_gA [(38, 6)] (.ref v0) h).bind fun r4 => (dx_lI 0 r4 x3 h).bind fun x5 => if x5 = (-1) then some (.inl (some (.int (500 + v1))), h) else (dx_vn [(38, 396)] (.ref v0) h).bind fun k => dx_cI ((ax_c d) k [.ref v0, .int x3] h) (fun x7 h6 => if x7 = 0 then B_X3_usesMacro_44 (ax_c d) v0 v1 v2 x1 x3 h6 else some (.inl (some (.int (500 + v1))), h6)) dx_x0) (ax_c (d + 1) 395 [.ref v0, .int v1, .int v2] h) := by
  refine e_entry (L' := [some (.ref v0), some (.int v1), some (.int v2), none, none, none, none, none]) rfl (ag_A rfl (ag_I (ag_I ag_n))) (Nat.le_of_ble_eq_true rfl) rfl ?_
  refine e_push rfl ?_
  refine e_iload rfl rfl ?_
  refine e_i2 rfl ?_
  refine e_istoreL (M := fun x1 => [some (.ref v0), some (.int v1), some (.int v2), some (.int x1), none, none, none, none]) rfl (fun _ => dx_sto (Nat.le_of_ble_eq_true rfl) (Or.inr ⟨_, rfl, rfl⟩) rfl) fun x1 => ?_
  refine e_aload rfl rfl rfl ?_
  refine e_getA rfl fun r2 hr2 => ?_
  refine e_iload rfl rfl ?_
  refine e_push rfl ?_
  refine e_i2 rfl ?_
  refine e_iald rfl fun x3 => ?_
  refine e_istore (L' := [some (.ref v0), some (.int v1), some (.int v2), some (.int x1), some (.int x3), none, none, none]) rfl (dx_sto (Nat.le_of_ble_eq_true rfl) (Or.inr ⟨_, rfl, rfl⟩) rfl) ?_
  refine e_iload rfl rfl ?_
  refine e_if1 rfl rfl ?_ ?_
  · exact e_wk mP_X3_usesMacro (ll_1 (ll_1 (ll_1 (ll_1 (ll_1 (ll_0 (ll_0 (ll_0 ll_n))))))))
  · refine e_aload rfl rfl rfl ?_
    refine e_getA rfl fun r4 hr4 => ?_
    refine e_iload rfl rfl ?_
    refine e_iald rfl fun x5 => ?_
    refine e_push rfl ?_
    refine e_if2 rfl rfl ?_ ?_
    · refine e_push rfl ?_
      refine e_iload rfl rfl ?_
      refine e_i2 rfl ?_
      exact e_iret rfl
    · refine e_aload rfl rfl rfl ?_
      refine e_iload rfl rfl ?_
      refine e_ivI rfl rfl rfl (Nat.le_of_ble_eq_true rfl) (fun _ _ => e_x0) fun x7 h6 => ?_
      refine e_if1 rfl rfl ?_ ?_
      · exact e_wk mP_X3_usesMacro (ll_1 (ll_1 (ll_1 (ll_1 (ll_1 (ll_0 (ll_0 (ll_0 ll_n))))))))
      · refine e_push rfl ?_
        refine e_iload rfl rfl ?_
        refine e_i2 rfl ?_
        exact e_iret rfl
noncomputable def B_X3_isGoneThrough_2 (K : ax_K) (v0 : Nat) (v1 : Int32) (v2 : Int32) (h : ax_H) : Option ax_R := ax_run K P_X3_isGoneThrough 2 [some (.ref v0), some (.int v1), some (.int v2)] [] h
theorem b_X3_isGoneThrough_2 {K : ax_K} {v0 : Nat} {v1 : Int32} {v2 : Int32} {h : ax_H}  : dx_le ((dx_gI [(38, 14)] (.ref v0) h).bind fun x1 => if x1 < v2 then some (.inl (some (.int 0)), h) else (dx_gA [(38, 11)] (.ref v0) h).bind fun r2 => (dx_lI 0 r2 v2 h).bind fun x3 => if ¬ x3 = v1 then dx_lt (v2 + 1) fun x4 => B_X3_isGoneThrough_2 K v0 v1 x4 h else some (.inl (some (.int 1)), h)) (B_X3_isGoneThrough_2 K v0 v1 v2 h) := by
  show dx_le _ (ax_run K P_X3_isGoneThrough 2 [some (.ref v0), some (.int v1), some (.int v2)] [] h)
  refine e_iload rfl rfl ?_
  refine e_aload rfl rfl rfl ?_
  refine e_getI rfl fun x1 => ?_
  refine e_if2 rfl rfl ?_ ?_
  · refine e_push rfl ?_
    exact e_zret0 rfl
  · refine e_aload rfl rfl rfl ?_
    refine e_getA rfl fun r2 hr2 => ?_
    refine e_iload rfl rfl ?_
    refine e_iald rfl fun x3 => ?_
    refine e_iload rfl rfl ?_
    refine e_if2 rfl rfl ?_ ?_
    · refine e_iinc (M := fun x4 => [some (.ref v0), some (.int v1), some (.int x4)]) rfl rfl (fun _ => dx_sto (Nat.le_of_ble_eq_true rfl) (Or.inr ⟨_, rfl, rfl⟩) rfl) fun x4 => ?_
      refine e_goto rfl ?_
      exact e_wk mP_X3_isGoneThrough (ll_1 (ll_1 (ll_1 ll_n)))
    · refine e_push rfl ?_
      exact e_zret1 rfl
theorem m_X3_isGoneThrough {d : Nat} {v0 : Nat} {v1 : Int32} {h : ax_H}  : dx_le (B_X3_isGoneThrough_2 (ax_c d) v0 v1 1 h) (ax_c (d + 1) 396 [.ref v0, .int v1] h) := by
  refine e_entry (L' := [some (.ref v0), some (.int v1), none]) rfl (ag_A rfl (ag_I ag_n)) (Nat.le_of_ble_eq_true rfl) rfl ?_
  refine e_push rfl ?_
  refine e_istore (L' := [some (.ref v0), some (.int v1), some (.int 1)]) rfl (dx_sto (Nat.le_of_ble_eq_true rfl) (Or.inr ⟨_, rfl, rfl⟩) rfl) ?_
  exact e_wk mP_X3_isGoneThrough (ll_1 (ll_1 (ll_1 ll_n)))
noncomputable def B_X3_value_33 (K : ax_K) (s0 : Nat) (s1 : Int32) (v0 : Nat) (v3 : Int32) (h : ax_H) : Option ax_R := ax_run K P_X3_value 33 [some (.ref v0), none, none, some (.int v3)] [.int s1, .ref s0] h
noncomputable def B_X3_value_89 (K : ax_K) (s0 : Nat) (s1 : Int32) (v0 : Nat) (v1 : Int32) (v2 : Int32) (h : ax_H) : Option ax_R := ax_run K P_X3_value 89 [some (.ref v0), some (.int v1), some (.int v2), none] [.int s1, .ref s0] h
theorem b_X3_value_33 {K : ax_K} {s0 : Nat} {s1 : Int32} {v0 : Nat} {v3 : Int32} {h : ax_H}  : dx_le ((dx_pF [(38, 19)] (.int) (.ref s0) (.int s1) h).bind fun h1 => if ¬ v3 = (-1) then if (1000 : Int32) ≤ v3 then (dx_gI [(38, 18)] (.ref v0) h1).bind fun x2 => some (.inl (some (.int ((dx_rem v3 1000) + x2))), h1) else some (.inl (some (.int ((dx_rem v3 1000) + 8))), h1) else some (.inl (some (.int 0)), h1)) (B_X3_value_33 K s0 s1 v0 v3 h) := by
  show dx_le _ (ax_run K P_X3_value 33 [some (.ref v0), none, none, some (.int v3)] [.int s1, .ref s0] h)
  refine e_putf rfl fun h1 => ?_
  refine e_iload rfl rfl ?_
  refine e_push rfl ?_
  refine e_if2 rfl rfl ?_ ?_
  · refine e_iload rfl rfl ?_
    refine e_push rfl ?_
    refine e_rem rfl (by decide) ?_
    refine e_iload rfl rfl ?_
    refine e_push rfl ?_
    refine e_if2 rfl rfl ?_ ?_
    · refine e_aload rfl rfl rfl ?_
      refine e_getI rfl fun x2 => ?_
      refine e_i2 rfl ?_
      exact e_iret rfl
    · refine e_push rfl ?_
      refine e_goto rfl ?_
      refine e_i2 rfl ?_
      exact e_iret rfl
  · refine e_push rfl ?_
    refine e_goto rfl ?_
    exact e_iret rfl
theorem b_X3_value_89 {K : ax_K} {s0 : Nat} {s1 : Int32} {v0 : Nat} {v1 : Int32} {v2 : Int32} {h : ax_H}  : dx_le ((dx_pF [(38, 19)] (.int) (.ref s0) (.int s1) h).bind fun h1 => (dx_gI [(38, 14)] (.ref v0) h1).bind fun x2 => if ¬ x2 = 0 then if ¬ v1 = 2 then (dx_gA [(38, 13)] (.ref v0) h1).bind fun r3 => (dx_gI [(38, 14)] (.ref v0) h1).bind fun x4 => (dx_lI 0 r3 x4 h1).bind fun x5 => some (.inl (some (.int (dx_rem (x5 + v2) 65536))), h1) else (dx_gA [(38, 12)] (.ref v0) h1).bind fun r6 => (dx_gI [(38, 14)] (.ref v0) h1).bind fun x7 => (dx_lI 0 r6 x7 h1).bind fun x8 => some (.inl (some (.int (dx_rem (x8 + v2) 65536))), h1) else some (.inl (some (.int 0)), h1)) (B_X3_value_89 K s0 s1 v0 v1 v2 h) := by
  show dx_le _ (ax_run K P_X3_value 89 [some (.ref v0), some (.int v1), some (.int v2), none] [.int s1, .ref s0] h)
  refine e_putf rfl fun h1 => ?_
  refine e_aload rfl rfl rfl ?_
  refine e_getI rfl fun x2 => ?_
  refine e_if1 rfl rfl ?_ ?_
  · refine e_iload rfl rfl ?_
    refine e_push rfl ?_
    refine e_if2 rfl rfl ?_ ?_
    · refine e_aload rfl rfl rfl ?_
      refine e_getA rfl fun r3 hr3 => ?_
      refine e_aload rfl rfl rfl ?_
      refine e_getI rfl fun x4 => ?_
      refine e_iald rfl fun x5 => ?_
      refine e_iload rfl rfl ?_
      refine e_i2 rfl ?_
      refine e_push rfl ?_
      refine e_rem rfl (by decide) ?_
      exact e_iret rfl
    · refine e_aload rfl rfl rfl ?_
      refine e_getA rfl fun r6 hr6 => ?_
      refine e_aload rfl rfl rfl ?_
      refine e_getI rfl fun x7 => ?_
      refine e_iald rfl fun x8 => ?_
      refine e_goto rfl ?_
      refine e_iload rfl rfl ?_
      refine e_i2 rfl ?_
      refine e_push rfl ?_
      refine e_rem rfl (by decide) ?_
      exact e_iret rfl
  · refine e_push rfl ?_
    refine e_goto rfl ?_
    exact e_iret rfl
theorem m_X3_value {d : Nat} {v0 : Nat} {v1 : Int32} {v2 : Int32} {h : ax_H}  : dx_le ((dx_pF [(38, 19)] (.int) (.ref v0) (.int 0) h).bind fun h1 => if ¬ v1 = 1 then if (2 : Int32) ≤ v1 then (dx_gI [(38, 14)] (.ref v0) h1).bind fun x2 => if ¬ x2 = 0 then B_X3_value_89 (ax_c d) v0 0 v0 v1 v2 h1 else B_X3_value_89 (ax_c d) v0 7 v0 v1 v2 h1 else some (.inl (some (.int v2)), h1) else (dx_gA [(38, 4)] (.ref v0) h1).bind fun r3 => (dx_vn [(38, 398)] (.ref v0) h1).bind fun k => dx_cI ((ax_c d) k [.ref v0, .int v2] h1) (fun x5 h4 => (dx_lI 0 r3 x5 h4).bind fun x6 => if ¬ x6 = (-1) then B_X3_value_33 (ax_c d) v0 0 v0 x6 h4 else B_X3_value_33 (ax_c d) v0 6 v0 x6 h4) dx_x0) (ax_c (d + 1) 397 [.ref v0, .int v1, .int v2] h) := by
  refine e_entry (L' := [some (.ref v0), some (.int v1), some (.int v2), none]) rfl (ag_A rfl (ag_I (ag_I ag_n))) (Nat.le_of_ble_eq_true rfl) rfl ?_
  refine e_aload rfl rfl rfl ?_
  refine e_push rfl ?_
  refine e_putf rfl fun h1 => ?_
  refine e_iload rfl rfl ?_
  refine e_push rfl ?_
  refine e_if2 rfl rfl ?_ ?_
  · refine e_iload rfl rfl ?_
    refine e_push rfl ?_
    refine e_if2 rfl rfl ?_ ?_
    · refine e_aload rfl rfl rfl ?_
      refine e_aload rfl rfl rfl ?_
      refine e_getI rfl fun x2 => ?_
      refine e_if1 rfl rfl ?_ ?_
      · refine e_push rfl ?_
        exact e_wk mP_X3_value (ll_1 (ll_1 (ll_1 (ll_0 ll_n))))
      · refine e_push rfl ?_
        refine e_goto rfl ?_
        exact e_wk mP_X3_value (ll_1 (ll_1 (ll_1 (ll_0 ll_n))))
    · refine e_iload rfl rfl ?_
      exact e_iret rfl
  · refine e_aload rfl rfl rfl ?_
    refine e_getA rfl fun r3 hr3 => ?_
    refine e_aload rfl rfl rfl ?_
    refine e_iload rfl rfl ?_
    refine e_ivI rfl rfl rfl (Nat.le_of_ble_eq_true rfl) (fun _ _ => e_x0) fun x5 h4 => ?_
    refine e_iald rfl fun x6 => ?_
    refine e_istore (L' := [some (.ref v0), some (.int v1), some (.int v2), some (.int x6)]) rfl (dx_sto (Nat.le_of_ble_eq_true rfl) (Or.inr ⟨_, rfl, rfl⟩) rfl) ?_
    refine e_aload rfl rfl rfl ?_
    refine e_iload rfl rfl ?_
    refine e_push rfl ?_
    refine e_if2 rfl rfl ?_ ?_
    · refine e_push rfl ?_
      exact e_wk mP_X3_value (ll_1 (ll_0 (ll_0 (ll_1 ll_n))))
    · refine e_push rfl ?_
      refine e_goto rfl ?_
      exact e_wk mP_X3_value (ll_1 (ll_0 (ll_0 (ll_1 ll_n))))
theorem m_X3_placeOf {d : Nat} {v0 : Nat} {v1 : Int32} {h : ax_H}  : dx_le (if v1 < 16 then some (.inl (some (.int v1)), h) else (dx_gI [(38, 14)] (.ref v0) h).bind fun x1 => if ¬ x1 = 0 then (dx_gA [(38, 10)] (.ref v0) h).bind fun r2 => (dx_gI [(38, 14)] (.ref v0) h).bind fun x3 => (dx_lI 0 r2 x3 h).bind fun x4 => some (.inl (some (.int (((20 + (4 * x4)) + v1) - 16))), h) else some (.inl (some (.int v1)), h)) (ax_c (d + 1) 398 [.ref v0, .int v1] h) := by
  refine e_entry (L' := [some (.ref v0), some (.int v1)]) rfl (ag_A rfl (ag_I ag_n)) (Nat.le_of_ble_eq_true rfl) rfl ?_
  refine e_iload rfl rfl ?_
  refine e_push rfl ?_
  refine e_if2 rfl rfl ?_ ?_
  · refine e_iload rfl rfl ?_
    refine e_goto rfl ?_
    exact e_iret rfl
  · refine e_aload rfl rfl rfl ?_
    refine e_getI rfl fun x1 => ?_
    refine e_if1 rfl rfl ?_ ?_
    · refine e_push rfl ?_
      refine e_push rfl ?_
      refine e_aload rfl rfl rfl ?_
      refine e_getA rfl fun r2 hr2 => ?_
      refine e_aload rfl rfl rfl ?_
      refine e_getI rfl fun x3 => ?_
      refine e_iald rfl fun x4 => ?_
      refine e_i2 rfl ?_
      refine e_i2 rfl ?_
      refine e_iload rfl rfl ?_
      refine e_i2 rfl ?_
      refine e_push rfl ?_
      refine e_i2 rfl ?_
      exact e_iret rfl
    · refine e_iload rfl rfl ?_
      refine e_goto rfl ?_
      exact e_iret rfl
noncomputable def B_X3_builds_53 (K : ax_K) (v0 : Nat) (v1 : Int32) (v2 : Int32) (v3 : Int32) (h : ax_H) : Option ax_R := ax_run K P_X3_builds 53 [some (.ref v0), some (.int v1), some (.int v2), some (.int v3), none] [] h
theorem b_X3_builds_53 {K : ax_K} {v0 : Nat} {v1 : Int32} {v2 : Int32} {v3 : Int32} {h : ax_H}  : dx_le ((dx_gA [(38, 3)] (.ref v0) h).bind fun r1 => (dx_lI 0 r1 v2 h).bind fun x2 => (dx_gA [(38, 3)] (.ref v0) h).bind fun r3 => (dx_lI 0 r3 (v2 + 1) h).bind fun x4 => (dx_vn [(38, 397)] (.ref v0) h).bind fun k => dx_cI (K k [.ref v0, .int x2, .int x4] h) (fun x6 h5 => (dx_gI [(38, 19)] (.ref v0) h5).bind fun x7 => if x7 = 0 then if ¬ v3 = 5 then if ¬ v3 = 2 then (dx_vn [(38, 400)] (.ref v0) h5).bind fun k => dx_cV (K k [.ref v0, .int x6] h5) (fun h8 => some (.inl (some (.int 0)), h8)) dx_x0 else (dx_gA [(38, 3)] (.ref v0) h5).bind fun r9 => (dx_lI 0 r9 (v2 + 2) h5).bind fun x10 => (dx_vn [(38, 400)] (.ref v0) h5).bind fun k => dx_cV (K k [.ref v0, .int x10] h5) (fun h11 => (dx_vn [(38, 400)] (.ref v0) h11).bind fun k => dx_cV (K k [.ref v0, .int x6] h11) (fun h12 => some (.inl (some (.int 0)), h12)) dx_x0) dx_x0 else (dx_gA [(38, 20)] (.ref v0) h5).bind fun r13 => (dx_gA [(38, 3)] (.ref v0) h5).bind fun r14 => (dx_lI 0 r14 (v2 + 2) h5).bind fun x15 => (dx_sI 0 r13 x15 x6 h5).bind fun h16 => some (.inl (some (.int 0)), h16) else (dx_gI [(38, 19)] (.ref v0) h5).bind fun x17 => some (.inl (some (.int ((100 * x17) + v1))), h5)) dx_x0) (B_X3_builds_53 K v0 v1 v2 v3 h) := by
  show dx_le _ (ax_run K P_X3_builds 53 [some (.ref v0), some (.int v1), some (.int v2), some (.int v3), none] [] h)
  refine e_aload rfl rfl rfl ?_
  refine e_aload rfl rfl rfl ?_
  refine e_getA rfl fun r1 hr1 => ?_
  refine e_iload rfl rfl ?_
  refine e_iald rfl fun x2 => ?_
  refine e_aload rfl rfl rfl ?_
  refine e_getA rfl fun r3 hr3 => ?_
  refine e_iload rfl rfl ?_
  refine e_push rfl ?_
  refine e_i2 rfl ?_
  refine e_iald rfl fun x4 => ?_
  refine e_ivI rfl rfl rfl (Nat.le_of_ble_eq_true rfl) (fun _ _ => e_x0) fun x6 h5 => ?_
  refine e_istore (L' := [some (.ref v0), some (.int v1), some (.int v2), some (.int v3), some (.int x6)]) rfl (dx_sto (Nat.le_of_ble_eq_true rfl) (Or.inr ⟨_, rfl, rfl⟩) rfl) ?_
  refine e_aload rfl rfl rfl ?_
  refine e_getI rfl fun x7 => ?_
  refine e_if1 rfl rfl ?_ ?_
  · refine e_iload rfl rfl ?_
    refine e_push rfl ?_
    refine e_if2 rfl rfl ?_ ?_
    · refine e_iload rfl rfl ?_
      refine e_push rfl ?_
      refine e_if2 rfl rfl ?_ ?_
      · refine e_aload rfl rfl rfl ?_
        refine e_iload rfl rfl ?_
        refine e_ivV rfl rfl rfl (Nat.le_of_ble_eq_true rfl) (fun _ _ => e_x0) fun h8 => ?_
        refine e_push rfl ?_
        exact e_iret rfl
      · refine e_aload rfl rfl rfl ?_
        refine e_aload rfl rfl rfl ?_
        refine e_getA rfl fun r9 hr9 => ?_
        refine e_iload rfl rfl ?_
        refine e_push rfl ?_
        refine e_i2 rfl ?_
        refine e_iald rfl fun x10 => ?_
        refine e_ivV rfl rfl rfl (Nat.le_of_ble_eq_true rfl) (fun _ _ => e_x0) fun h11 => ?_
        refine e_aload rfl rfl rfl ?_
        refine e_iload rfl rfl ?_
        refine e_ivV rfl rfl rfl (Nat.le_of_ble_eq_true rfl) (fun _ _ => e_x0) fun h12 => ?_
        refine e_push rfl ?_
        exact e_iret rfl
    · refine e_aload rfl rfl rfl ?_
      refine e_getA rfl fun r13 hr13 => ?_
      refine e_aload rfl rfl rfl ?_
      refine e_getA rfl fun r14 hr14 => ?_
      refine e_iload rfl rfl ?_
      refine e_push rfl ?_
      refine e_i2 rfl ?_
      refine e_iald rfl fun x15 => ?_
      refine e_iload rfl rfl ?_
      refine e_iastI rfl fun h16 => ?_
      refine e_push rfl ?_
      exact e_iret rfl
  · refine e_push rfl ?_
    refine e_aload rfl rfl rfl ?_
    refine e_getI rfl fun x17 => ?_
    refine e_i2 rfl ?_
    refine e_iload rfl rfl ?_
    refine e_i2 rfl ?_
    exact e_iret rfl
theorem m_X3_builds {d : Nat} {v0 : Nat} {v1 : Int32} {h : ax_H}  : dx_le (dx_lt (5 * v1) fun x1 => (dx_gA [(38, 2)] (.ref v0) h).bind fun r2 => (dx_lI 0 r2 v1 h).bind fun x3 => if ¬ x3 = 4 then if x3 = 2 then B_X3_builds_53 (ax_c d) v0 v1 x1 x3 h else if x3 = 3 then B_X3_builds_53 (ax_c d) v0 v1 x1 x3 h else if x3 = 5 then B_X3_builds_53 (ax_c d) v0 v1 x1 x3 h else some (.inl (some (.int 0)), h) else (dx_gA [(38, 5)] (.ref v0) h).bind fun r4 => (dx_gI [(38, 15)] (.ref v0) h).bind fun x5 => (dx_lI 0 r4 x5 h).bind fun x6 => (dx_gA [(38, 3)] (.ref v0) h).bind fun r7 => (dx_lI 0 r7 x1 h).bind fun x8 => (dx_sI 0 r4 x5 (x6 + x8) h).bind fun h9 => some (.inl (some (.int 0)), h9)) (ax_c (d + 1) 399 [.ref v0, .int v1] h) := by
  refine e_entry (L' := [some (.ref v0), some (.int v1), none, none, none]) rfl (ag_A rfl (ag_I ag_n)) (Nat.le_of_ble_eq_true rfl) rfl ?_
  refine e_push rfl ?_
  refine e_iload rfl rfl ?_
  refine e_i2 rfl ?_
  refine e_istoreL (M := fun x1 => [some (.ref v0), some (.int v1), some (.int x1), none, none]) rfl (fun _ => dx_sto (Nat.le_of_ble_eq_true rfl) (Or.inr ⟨_, rfl, rfl⟩) rfl) fun x1 => ?_
  refine e_aload rfl rfl rfl ?_
  refine e_getA rfl fun r2 hr2 => ?_
  refine e_iload rfl rfl ?_
  refine e_iald rfl fun x3 => ?_
  refine e_istore (L' := [some (.ref v0), some (.int v1), some (.int x1), some (.int x3), none]) rfl (dx_sto (Nat.le_of_ble_eq_true rfl) (Or.inr ⟨_, rfl, rfl⟩) rfl) ?_
  refine e_iload rfl rfl ?_
  refine e_push rfl ?_
  refine e_if2 rfl rfl ?_ ?_
  · refine e_iload rfl rfl ?_
    refine e_push rfl ?_
    refine e_if2 rfl rfl ?_ ?_
    · exact e_wk mP_X3_builds (ll_1 (ll_1 (ll_1 (ll_1 (ll_0 ll_n)))))
    · refine e_iload rfl rfl ?_
      refine e_push rfl ?_
      refine e_if2 rfl rfl ?_ ?_
      · exact e_wk mP_X3_builds (ll_1 (ll_1 (ll_1 (ll_1 (ll_0 ll_n)))))
      · refine e_iload rfl rfl ?_
        refine e_push rfl ?_
        refine e_if2 rfl rfl ?_ ?_
        · exact e_wk mP_X3_builds (ll_1 (ll_1 (ll_1 (ll_1 (ll_0 ll_n)))))
        · refine e_push rfl ?_
          exact e_iret rfl
  · refine e_aload rfl rfl rfl ?_
    refine e_getA rfl fun r4 hr4 => ?_
    refine e_aload rfl rfl rfl ?_
    refine e_getI rfl fun x5 => ?_
    refine e_dup2 rfl rfl (dx_c1 hr4) ?_
    refine e_iald rfl fun x6 => ?_
    refine e_aload rfl rfl rfl ?_
    refine e_getA rfl fun r7 hr7 => ?_
    refine e_iload rfl rfl ?_
    refine e_iald rfl fun x8 => ?_
    refine e_i2 rfl ?_
    refine e_iastI rfl fun h9 => ?_
    refine e_push rfl ?_
    exact e_iret rfl
noncomputable def B_X3_puts_20 (K : ax_K) (s0 : Value) (s1 : Int32) (v0 : Nat) (v1 : Int32) (h : ax_H) : Option ax_R := ax_run K P_X3_puts 20 [some (.ref v0), some (.int v1)] [.int s1, s0] h
theorem b_X3_puts_20 {K : ax_K} {s0 : Value} {s1 : Int32} {v0 : Nat} {v1 : Int32} {h : ax_H} (hs0 : ax_rv s0 = true) : dx_le ((dx_gA [(38, 5)] (.ref v0) h).bind fun r1 => (dx_gI [(38, 15)] (.ref v0) h).bind fun x2 => (dx_lI 0 r1 x2 h).bind fun x3 => (dx_sI 0 s0 (s1 + x3) v1 h).bind fun h4 => (dx_gA [(38, 5)] (.ref v0) h4).bind fun r5 => (dx_gI [(38, 15)] (.ref v0) h4).bind fun x6 => (dx_lI 0 r5 x6 h4).bind fun x7 => (dx_sI 0 r5 x6 (x7 + 1) h4).bind fun h8 => some (.inl none, h8)) (B_X3_puts_20 K s0 s1 v0 v1 h) := by
  show dx_le _ (ax_run K P_X3_puts 20 [some (.ref v0), some (.int v1)] [.int s1, s0] h)
  refine e_aload rfl rfl rfl ?_
  refine e_getA rfl fun r1 hr1 => ?_
  refine e_aload rfl rfl rfl ?_
  refine e_getI rfl fun x2 => ?_
  refine e_iald rfl fun x3 => ?_
  refine e_i2 rfl ?_
  refine e_iload rfl rfl ?_
  refine e_iastI rfl fun h4 => ?_
  refine e_aload rfl rfl rfl ?_
  refine e_getA rfl fun r5 hr5 => ?_
  refine e_aload rfl rfl rfl ?_
  refine e_getI rfl fun x6 => ?_
  refine e_dup2 rfl rfl (dx_c1 hr5) ?_
  refine e_iald rfl fun x7 => ?_
  refine e_push rfl ?_
  refine e_i2 rfl ?_
  refine e_iastI rfl fun h8 => ?_
  exact e_ret rfl
theorem m_X3_puts {d : Nat} {v0 : Nat} {v1 : Int32} {h : ax_H}  : dx_le ((dx_gA [(38, 20)] (.ref v0) h).bind fun r1 => (dx_gI [(38, 15)] (.ref v0) h).bind fun x2 => if ¬ x2 = 0 then (dx_gI [(38, 18)] (.ref v0) h).bind fun x3 => B_X3_puts_20 (ax_c d) r1 x3 v0 v1 h else B_X3_puts_20 (ax_c d) r1 8 v0 v1 h) (ax_c (d + 1) 400 [.ref v0, .int v1] h) := by
  refine e_entry (L' := [some (.ref v0), some (.int v1)]) rfl (ag_A rfl (ag_I ag_n)) (Nat.le_of_ble_eq_true rfl) rfl ?_
  refine e_aload rfl rfl rfl ?_
  refine e_getA rfl fun r1 hr1 => ?_
  refine e_aload rfl rfl rfl ?_
  refine e_getI rfl fun x2 => ?_
  refine e_if1 rfl rfl ?_ ?_
  · refine e_aload rfl rfl rfl ?_
    refine e_getI rfl fun x3 => ?_
    exact e_wk mP_X3_puts (ll_1 (ll_1 ll_n))
  · refine e_push rfl ?_
    refine e_goto rfl ?_
    exact e_wk mP_X3_puts (ll_1 (ll_1 ll_n))
theorem m_X3_setsLabel {d : Nat} {v0 : Nat} {v1 : Int32} {h : ax_H}  : dx_le ((dx_gA [(38, 3)] (.ref v0) h).bind fun r1 => (dx_lI 0 r1 (5 * v1) h).bind fun x2 => (dx_vn [(38, 398)] (.ref v0) h).bind fun k => dx_cI ((ax_c d) k [.ref v0, .int x2] h) (fun x4 h3 => (dx_gA [(38, 4)] (.ref v0) h3).bind fun r5 => (dx_lI 0 r5 x4 h3).bind fun x6 => if x6 = (-1) then (dx_gA [(38, 4)] (.ref v0) h3).bind fun r7 => (dx_gI [(38, 15)] (.ref v0) h3).bind fun x8 => (dx_gA [(38, 5)] (.ref v0) h3).bind fun r9 => (dx_gI [(38, 15)] (.ref v0) h3).bind fun x10 => (dx_lI 0 r9 x10 h3).bind fun x11 => (dx_sI 0 r7 x4 ((1000 * x8) + x11) h3).bind fun h12 => some (.inl (some (.int 0)), h12) else some (.inl (some (.int (200 + v1))), h3)) dx_x0) (ax_c (d + 1) 401 [.ref v0, .int v1] h) := by
  refine e_entry (L' := [some (.ref v0), some (.int v1), none]) rfl (ag_A rfl (ag_I ag_n)) (Nat.le_of_ble_eq_true rfl) rfl ?_
  refine e_aload rfl rfl rfl ?_
  refine e_aload rfl rfl rfl ?_
  refine e_getA rfl fun r1 hr1 => ?_
  refine e_push rfl ?_
  refine e_iload rfl rfl ?_
  refine e_i2 rfl ?_
  refine e_iald rfl fun x2 => ?_
  refine e_ivI rfl rfl rfl (Nat.le_of_ble_eq_true rfl) (fun _ _ => e_x0) fun x4 h3 => ?_
  refine e_istore (L' := [some (.ref v0), some (.int v1), some (.int x4)]) rfl (dx_sto (Nat.le_of_ble_eq_true rfl) (Or.inr ⟨_, rfl, rfl⟩) rfl) ?_
  refine e_aload rfl rfl rfl ?_
  refine e_getA rfl fun r5 hr5 => ?_
  refine e_iload rfl rfl ?_
  refine e_iald rfl fun x6 => ?_
  refine e_push rfl ?_
  refine e_if2 rfl rfl ?_ ?_
  · refine e_aload rfl rfl rfl ?_
    refine e_getA rfl fun r7 hr7 => ?_
    refine e_iload rfl rfl ?_
    refine e_push rfl ?_
    refine e_aload rfl rfl rfl ?_
    refine e_getI rfl fun x8 => ?_
    refine e_i2 rfl ?_
    refine e_aload rfl rfl rfl ?_
    refine e_getA rfl fun r9 hr9 => ?_
    refine e_aload rfl rfl rfl ?_
    refine e_getI rfl fun x10 => ?_
    refine e_iald rfl fun x11 => ?_
    refine e_i2 rfl ?_
    refine e_iastI rfl fun h12 => ?_
    refine e_push rfl ?_
    exact e_iret rfl
  · refine e_push rfl ?_
    refine e_iload rfl rfl ?_
    refine e_i2 rfl ?_
    exact e_iret rfl
noncomputable def B_X3_assemble_23 (K : ax_K) (v0 : Nat) (v1 : Int32) (h : ax_H) : Option ax_R := ax_run K P_X3_assemble 23 [some (.ref v0), some (.int v1)] [] h
theorem b_X3_assemble_23 {K : ax_K} {v0 : Nat} {v1 : Int32} {h : ax_H}  : dx_le (if (256 : Int32) ≤ v1 then (dx_pF [(38, 22)] (.boolean) (.ref v0) (.int 1) h).bind fun h1 => (dx_gA [(38, 5)] (.ref v0) h1).bind fun r2 => (dx_lI 0 r2 0 h1).bind fun x3 => (dx_gA [(38, 5)] (.ref v0) h1).bind fun r4 => (dx_lI 0 r4 1 h1).bind fun x5 => some (.inl (some (.int (x3 + x5))), h1) else (dx_gA [(38, 21)] (.ref v0) h).bind fun r6 => (dx_gA [(38, 20)] (.ref v0) h).bind fun r7 => (dx_lI 0 r7 v1 h).bind fun x8 => (dx_sI 0 r6 v1 x8 h).bind fun h9 => dx_lt (v1 + 1) fun x10 => B_X3_assemble_23 K v0 x10 h9) (B_X3_assemble_23 K v0 v1 h) := by
  show dx_le _ (ax_run K P_X3_assemble 23 [some (.ref v0), some (.int v1)] [] h)
  refine e_iload rfl rfl ?_
  refine e_push rfl ?_
  refine e_if2 rfl rfl ?_ ?_
  · refine e_aload rfl rfl rfl ?_
    refine e_push rfl ?_
    refine e_putf rfl fun h1 => ?_
    refine e_aload rfl rfl rfl ?_
    refine e_getA rfl fun r2 hr2 => ?_
    refine e_push rfl ?_
    refine e_iald rfl fun x3 => ?_
    refine e_aload rfl rfl rfl ?_
    refine e_getA rfl fun r4 hr4 => ?_
    refine e_push rfl ?_
    refine e_iald rfl fun x5 => ?_
    refine e_i2 rfl ?_
    exact e_iret rfl
  · refine e_aload rfl rfl rfl ?_
    refine e_getA rfl fun r6 hr6 => ?_
    refine e_iload rfl rfl ?_
    refine e_aload rfl rfl rfl ?_
    refine e_getA rfl fun r7 hr7 => ?_
    refine e_iload rfl rfl ?_
    refine e_iald rfl fun x8 => ?_
    refine e_iastI rfl fun h9 => ?_
    refine e_iinc (M := fun x10 => [some (.ref v0), some (.int x10)]) rfl rfl (fun _ => dx_sto (Nat.le_of_ble_eq_true rfl) (Or.inr ⟨_, rfl, rfl⟩) rfl) fun x10 => ?_
    refine e_goto rfl ?_
    exact e_wk mP_X3_assemble (ll_1 (ll_1 ll_n))
theorem m_X3_assemble {d : Nat} {v0 : Nat} {h : ax_H}  : dx_le ((dx_vn [(38, 389)] (.ref v0) h).bind fun k => dx_cI ((ax_c d) k [.ref v0] h) (fun x2 h1 => if ¬ x2 = 0 then (dx_vn [(38, 378)] (.ref v0) h1).bind fun k => dx_cI ((ax_c d) k [.ref v0, .int 1] h1) (fun x4 h3 => if ¬ x4 = 0 then B_X3_assemble_23 (ax_c d) v0 0 h3 else some (.inl (some (.int 0)), h3)) dx_x0 else (dx_vn [(38, 378)] (.ref v0) h1).bind fun k => dx_cI ((ax_c d) k [.ref v0, .int 0] h1) (fun x6 h5 => if ¬ x6 = 0 then B_X3_assemble_23 (ax_c d) v0 0 h5 else some (.inl (some (.int 0)), h5)) dx_x0) dx_x0) (ax_c (d + 1) 402 [.ref v0] h) := by
  refine e_entry (L' := [some (.ref v0), none]) rfl (ag_A rfl ag_n) (Nat.le_of_ble_eq_true rfl) rfl ?_
  refine e_aload rfl rfl rfl ?_
  refine e_aload rfl rfl rfl ?_
  refine e_ivI rfl rfl rfl (Nat.le_of_ble_eq_true rfl) (fun _ _ => e_x0) fun x2 h1 => ?_
  refine e_if1 rfl rfl ?_ ?_
  · refine e_push rfl ?_
    refine e_ivI rfl rfl rfl (Nat.le_of_ble_eq_true rfl) (fun _ _ => e_x0) fun x4 h3 => ?_
    refine e_if1 rfl rfl ?_ ?_
    · refine e_push rfl ?_
      refine e_istore (L' := [some (.ref v0), some (.int 0)]) rfl (dx_sto (Nat.le_of_ble_eq_true rfl) (Or.inr ⟨_, rfl, rfl⟩) rfl) ?_
      exact e_wk mP_X3_assemble (ll_1 (ll_1 ll_n))
    · refine e_push rfl ?_
      exact e_iret rfl
  · refine e_push rfl ?_
    refine e_goto rfl ?_
    refine e_ivI rfl rfl rfl (Nat.le_of_ble_eq_true rfl) (fun _ _ => e_x0) fun x6 h5 => ?_
    refine e_if1 rfl rfl ?_ ?_
    · refine e_push rfl ?_
      refine e_istore (L' := [some (.ref v0), some (.int 0)]) rfl (dx_sto (Nat.le_of_ble_eq_true rfl) (Or.inr ⟨_, rfl, rfl⟩) rfl) ?_
      exact e_wk mP_X3_assemble (ll_1 (ll_1 ll_n))
    · refine e_push rfl ?_
      exact e_iret rfl
noncomputable def B_X3_image_28 (K : ax_K) (s0 : Nat) (s1 : Int32) (v0 : Nat) (v1 : Int32) (h : ax_H) : Option ax_R := ax_run K P_X3_image 28 [some (.ref v0), some (.int v1)] [.int s1, .ref s0] h
theorem b_X3_image_28 {K : ax_K} {s0 : Nat} {s1 : Int32} {v0 : Nat} {v1 : Int32} {h : ax_H}  : dx_le ((dx_vn [(38, 378)] (.ref s0) h).bind fun k => dx_cI (K k [.ref s0, .int s1] h) (fun x2 h1 => if x2 = 0 then some (.inl (some (.int 0)), h1) else (dx_gA [(38, 21)] (.ref v0) h1).bind fun r3 => (dx_lI 0 r3 v1 h1).bind fun x4 => some (.inl (some (.int x4)), h1)) dx_x0) (B_X3_image_28 K s0 s1 v0 v1 h) := by
  show dx_le _ (ax_run K P_X3_image 28 [some (.ref v0), some (.int v1)] [.int s1, .ref s0] h)
  refine e_ivI rfl rfl rfl (Nat.le_of_ble_eq_true rfl) (fun _ _ => e_x0) fun x2 h1 => ?_
  refine e_if1 rfl rfl ?_ ?_
  · refine e_push rfl ?_
    exact e_iret rfl
  · refine e_aload rfl rfl rfl ?_
    refine e_getA rfl fun r3 hr3 => ?_
    refine e_iload rfl rfl ?_
    refine e_iald rfl fun x4 => ?_
    refine e_goto rfl ?_
    exact e_iret rfl
theorem m_X3_image {d : Nat} {v0 : Nat} {v1 : Int32} {h : ax_H}  : dx_le (dx_cI ((ax_c d) 376 [.int v1, .int 0, .int 255] h) (fun x2 h1 => if ¬ x2 = 0 then (dx_gI [(38, 22)] (.ref v0) h1).bind fun x3 => if x3 = 0 then B_X3_image_28 (ax_c d) v0 2 v0 v1 h1 else B_X3_image_28 (ax_c d) v0 0 v0 v1 h1 else B_X3_image_28 (ax_c d) v0 1 v0 v1 h1) dx_x0) (ax_c (d + 1) 403 [.ref v0, .int v1] h) := by
  refine e_entry (L' := [some (.ref v0), some (.int v1)]) rfl (ag_A rfl (ag_I ag_n)) (Nat.le_of_ble_eq_true rfl) rfl ?_
  refine e_aload rfl rfl rfl ?_
  refine e_iload rfl rfl ?_
  refine e_push rfl ?_
  refine e_push rfl ?_
  refine e_isI rfl (Nat.le_of_ble_eq_true rfl) rfl rfl (Nat.le_of_ble_eq_true rfl) (fun _ _ => e_x0) fun x2 h1 => ?_
  refine e_if1 rfl rfl ?_ ?_
  · refine e_aload rfl rfl rfl ?_
    refine e_getI rfl fun x3 => ?_
    refine e_if1 rfl rfl ?_ ?_
    · refine e_push rfl ?_
      exact e_wk mP_X3_image (ll_1 (ll_1 ll_n))
    · refine e_push rfl ?_
      refine e_goto rfl ?_
      exact e_wk mP_X3_image (ll_1 (ll_1 ll_n))
  · refine e_push rfl ?_
    refine e_goto rfl ?_
    exact e_wk mP_X3_image (ll_1 (ll_1 ll_n))
noncomputable def B_X3_start_20 (K : ax_K) (s0 : Nat) (s1 : Int32) (v0 : Nat) (h : ax_H) : Option ax_R := ax_run K P_X3_start 20 [some (.ref v0), none] [.int s1, .ref s0] h
theorem b_X3_start_20 {K : ax_K} {s0 : Nat} {s1 : Int32} {v0 : Nat} {h : ax_H}  : dx_le ((dx_vn [(38, 378)] (.ref s0) h).bind fun k => dx_cI (K k [.ref s0, .int s1] h) (fun x2 h1 => if ¬ x2 = 0 then (dx_vn [(38, 406)] (.ref v0) h1).bind fun k => dx_cI (K k [.ref v0] h1) (fun x4 h3 => (dx_gA [(38, 50)] (.ref v0) h3).bind fun r5 => (dx_gA [(38, 54)] (.ref v0) h3).bind fun r6 => dx_cV (K 409 [r5, r6] h3) (fun h7 => (dx_gA [(38, 21)] (.ref v0) h7).bind fun r8 => (dx_gA [(38, 53)] (.ref v0) h7).bind fun r9 => dx_cV (K 409 [r8, r9] h7) (fun h10 => (dx_gI [(38, 52)] (.ref v0) h10).bind fun x11 => (dx_pF [(38, 55)] (.int) (.ref v0) (.int x11) h10).bind fun h12 => (dx_pF [(38, 43)] (.int) (.ref v0) (.int 0) h12).bind fun h13 => (dx_pF [(38, 40)] (.int) (.ref v0) (.int 0) h13).bind fun h14 => (dx_gA [(38, 53)] (.ref v0) h14).bind fun r15 => (dx_vn [(38, 410)] (.ref v0) h14).bind fun k => dx_cV (K k [.ref v0, r15] h14) (fun h16 => some (.inl (some (.int x4)), h16)) dx_x0) dx_x0) dx_x0) dx_x0 else some (.inl (some (.int 0)), h1)) dx_x0) (B_X3_start_20 K s0 s1 v0 h) := by
  show dx_le _ (ax_run K P_X3_start 20 [some (.ref v0), none] [.int s1, .ref s0] h)
  refine e_ivI rfl rfl rfl (Nat.le_of_ble_eq_true rfl) (fun _ _ => e_x0) fun x2 h1 => ?_
  refine e_if1 rfl rfl ?_ ?_
  · refine e_aload rfl rfl rfl ?_
    refine e_ivI rfl rfl rfl (Nat.le_of_ble_eq_true rfl) (fun _ _ => e_x0) fun x4 h3 => ?_
    refine e_istore (L' := [some (.ref v0), some (.int x4)]) rfl (dx_sto (Nat.le_of_ble_eq_true rfl) (Or.inr ⟨_, rfl, rfl⟩) rfl) ?_
    refine e_aload rfl rfl rfl ?_
    refine e_getA rfl fun r5 hr5 => ?_
    refine e_aload rfl rfl rfl ?_
    refine e_getA rfl fun r6 hr6 => ?_
    refine e_isV rfl (Nat.le_of_ble_eq_true rfl) rfl rfl (Nat.le_of_ble_eq_true rfl) (fun _ _ => e_x0) fun h7 => ?_
    refine e_aload rfl rfl rfl ?_
    refine e_getA rfl fun r8 hr8 => ?_
    refine e_aload rfl rfl rfl ?_
    refine e_getA rfl fun r9 hr9 => ?_
    refine e_isV rfl (Nat.le_of_ble_eq_true rfl) rfl rfl (Nat.le_of_ble_eq_true rfl) (fun _ _ => e_x0) fun h10 => ?_
    refine e_aload rfl rfl rfl ?_
    refine e_aload rfl rfl rfl ?_
    refine e_getI rfl fun x11 => ?_
    refine e_putf rfl fun h12 => ?_
    refine e_aload rfl rfl rfl ?_
    refine e_push rfl ?_
    refine e_putf rfl fun h13 => ?_
    refine e_aload rfl rfl rfl ?_
    refine e_push rfl ?_
    refine e_putf rfl fun h14 => ?_
    refine e_aload rfl rfl rfl ?_
    refine e_aload rfl rfl rfl ?_
    refine e_getA rfl fun r15 hr15 => ?_
    refine e_ivV rfl rfl rfl (Nat.le_of_ble_eq_true rfl) (fun _ _ => e_x0) fun h16 => ?_
    refine e_iload rfl rfl ?_
    exact e_iret rfl
  · refine e_push rfl ?_
    exact e_iret rfl
theorem m_X3_start {d : Nat} {v0 : Nat} {h : ax_H}  : dx_le ((dx_vn [(38, 405)] (.ref v0) h).bind fun k => dx_cI ((ax_c d) k [.ref v0] h) (fun x2 h1 => if ¬ x2 = 0 then B_X3_start_20 (ax_c d) v0 1 v0 h1 else (dx_gI [(38, 22)] (.ref v0) h1).bind fun x3 => if ¬ x3 = 0 then B_X3_start_20 (ax_c d) v0 0 v0 h1 else B_X3_start_20 (ax_c d) v0 1 v0 h1) dx_x0) (ax_c (d + 1) 404 [.ref v0] h) := by
  refine e_entry (L' := [some (.ref v0), none]) rfl (ag_A rfl ag_n) (Nat.le_of_ble_eq_true rfl) rfl ?_
  refine e_aload rfl rfl rfl ?_
  refine e_aload rfl rfl rfl ?_
  refine e_ivI rfl rfl rfl (Nat.le_of_ble_eq_true rfl) (fun _ _ => e_x0) fun x2 h1 => ?_
  refine e_if1 rfl rfl ?_ ?_
  · refine e_push rfl ?_
    refine e_goto rfl ?_
    exact e_wk mP_X3_start (ll_1 (ll_0 ll_n))
  · refine e_aload rfl rfl rfl ?_
    refine e_getI rfl fun x3 => ?_
    refine e_if1 rfl rfl ?_ ?_
    · refine e_push rfl ?_
      exact e_wk mP_X3_start (ll_1 (ll_0 ll_n))
    · refine e_push rfl ?_
      refine e_goto rfl ?_
      exact e_wk mP_X3_start (ll_1 (ll_0 ll_n))
theorem m_X3_isMachine {d : Nat} {v0 : Nat} {h : ax_H}  : dx_le ((dx_gI [(38, 23)] (.ref v0) h).bind fun x1 => if x1 = 0 then some (.inl (some (.int 0)), h) else some (.inl (some (.int 1)), h)) (ax_c (d + 1) 405 [.ref v0] h) := by
  refine e_entry (L' := [some (.ref v0)]) rfl (ag_A rfl ag_n) (Nat.le_of_ble_eq_true rfl) rfl ?_
  refine e_aload rfl rfl rfl ?_
  refine e_getI rfl fun x1 => ?_
  refine e_if1 rfl rfl ?_ ?_
  · refine e_push rfl ?_
    exact e_zret0 rfl
  · refine e_push rfl ?_
    refine e_goto rfl ?_
    exact e_zret1 rfl
