/-! printed by gen/emit82.py -/
set_option maxRecDepth 100000
theorem m_X1_word {d : Nat} {v0 : Nat} {v1 : Int32} {v2 : Int32} {h : ax_H}  : dx_le (dx_cR ((ax_c d) 237 [.int v1, .int v2] h) (fun r2 h1 => dx_nw h1 (.inr (43, [.null, .null])) 2 fun a4 h3 => dx_cV ((ax_c d) 503 [.ref a4, .ref v0, r2] h3) (fun h5 => (dx_vn [(19, 233)] (.ref v0) h5).bind fun k => dx_cI ((ax_c d) k [.ref v0, .ref a4] h5) (fun x7 h6 => some (.inl (some (.int x7)), h6)) dx_x0) dx_x0) dx_x0) (ax_c (d + 1) 238 [.ref v0, .int v1, .int v2] h) := by
  refine e_entry (L' := [some (.ref v0), some (.int v1), some (.int v2), none]) rfl (ag_A rfl (ag_I (ag_I ag_n))) (Nat.le_of_ble_eq_true rfl) rfl ?_
  refine e_iload rfl rfl ?_
  refine e_iload rfl rfl ?_
  refine e_isR rfl (Nat.le_of_ble_eq_true rfl) rfl rfl (Nat.le_of_ble_eq_true rfl) (fun _ _ => e_x0) fun r2 h1 hr2 => ?_
  refine e_astore (L' := [some (.ref v0), some (.int v1), some (.int v2), some (r2)]) rfl hr2 (dx_sto (Nat.le_of_ble_eq_true rfl) (Or.inr ⟨_, rfl, rfl⟩) rfl) ?_
  refine e_aload rfl rfl rfl ?_
  refine e_new rfl fun a4 h3 => ?_
  refine e_dup rfl rfl ?_
  refine e_aload rfl rfl rfl ?_
  refine e_aload rfl rfl hr2 ?_
  refine e_isprV rfl rfl rfl (Nat.le_of_ble_eq_true rfl) (fun _ _ => e_x0) fun h5 => ?_
  refine e_ivI rfl rfl rfl (Nat.le_of_ble_eq_true rfl) (fun _ _ => e_x0) fun x7 h6 => ?_
  exact e_iret rfl
theorem m_X1_space {d : Nat} {v0 : Nat} {v1 : Int32} {h : ax_H}  : dx_le (dx_cI ((ax_c d) 232 [.int v1, .int 1, .int 32] h) (fun x2 h1 => dx_nw h1 (.inr (20, [.int 0, .null])) 2 fun a4 h3 => dx_cV ((ax_c d) 270 [.ref a4, .ref v0, .int v1] h3) (fun h5 => (dx_vn [(19, 233)] (.ref v0) h5).bind fun k => dx_cI ((ax_c d) k [.ref v0, .ref a4] h5) (fun x7 h6 => some (.inl (some (.int x7)), h6)) dx_x0) dx_x0) dx_x0) (ax_c (d + 1) 239 [.ref v0, .int v1] h) := by
  refine e_entry (L' := [some (.ref v0), some (.int v1)]) rfl (ag_A rfl (ag_I ag_n)) (Nat.le_of_ble_eq_true rfl) rfl ?_
  refine e_iload rfl rfl ?_
  refine e_push rfl ?_
  refine e_push rfl ?_
  refine e_isI rfl (Nat.le_of_ble_eq_true rfl) rfl rfl (Nat.le_of_ble_eq_true rfl) (fun _ _ => e_x0) fun x2 h1 => ?_
  refine e_pop rfl rfl ?_
  refine e_aload rfl rfl rfl ?_
  refine e_new rfl fun a4 h3 => ?_
  refine e_dup rfl rfl ?_
  refine e_aload rfl rfl rfl ?_
  refine e_iload rfl rfl ?_
  refine e_isprV rfl rfl rfl (Nat.le_of_ble_eq_true rfl) (fun _ _ => e_x0) fun h5 => ?_
  refine e_ivI rfl rfl rfl (Nat.le_of_ble_eq_true rfl) (fun _ _ => e_x0) fun x7 h6 => ?_
  exact e_iret rfl
theorem m_X1_vector {d : Nat} {v0 : Nat} {v1 : Int32} {v2 : Int32} {v3 : Int32} {h : ax_H}  : dx_le (dx_cI ((ax_c d) 232 [.int v1, .int 0, .int 1] h) (fun x2 h1 => dx_cR ((ax_c d) 237 [.int v2, .int v3] h1) (fun r4 h3 => dx_nw h3 (.inr (21, [.int 0, .null, .null])) 3 fun a6 h5 => dx_cV ((ax_c d) 272 [.ref a6, .ref v0, .int v1, r4] h5) (fun h7 => (dx_vn [(19, 233)] (.ref v0) h7).bind fun k => dx_cI ((ax_c d) k [.ref v0, .ref a6] h7) (fun x9 h8 => some (.inl (some (.int x9)), h8)) dx_x0) dx_x0) dx_x0) dx_x0) (ax_c (d + 1) 240 [.ref v0, .int v1, .int v2, .int v3] h) := by
  refine e_entry (L' := [some (.ref v0), some (.int v1), some (.int v2), some (.int v3), none]) rfl (ag_A rfl (ag_I (ag_I (ag_I ag_n)))) (Nat.le_of_ble_eq_true rfl) rfl ?_
  refine e_iload rfl rfl ?_
  refine e_push rfl ?_
  refine e_push rfl ?_
  refine e_isI rfl (Nat.le_of_ble_eq_true rfl) rfl rfl (Nat.le_of_ble_eq_true rfl) (fun _ _ => e_x0) fun x2 h1 => ?_
  refine e_pop rfl rfl ?_
  refine e_iload rfl rfl ?_
  refine e_iload rfl rfl ?_
  refine e_isR rfl (Nat.le_of_ble_eq_true rfl) rfl rfl (Nat.le_of_ble_eq_true rfl) (fun _ _ => e_x0) fun r4 h3 hr4 => ?_
  refine e_astore (L' := [some (.ref v0), some (.int v1), some (.int v2), some (.int v3), some (r4)]) rfl hr4 (dx_sto (Nat.le_of_ble_eq_true rfl) (Or.inr ⟨_, rfl, rfl⟩) rfl) ?_
  refine e_aload rfl rfl rfl ?_
  refine e_new rfl fun a6 h5 => ?_
  refine e_dup rfl rfl ?_
  refine e_aload rfl rfl rfl ?_
  refine e_iload rfl rfl ?_
  refine e_aload rfl rfl hr4 ?_
  refine e_isprV rfl rfl rfl (Nat.le_of_ble_eq_true rfl) (fun _ _ => e_x0) fun h7 => ?_
  refine e_ivI rfl rfl rfl (Nat.le_of_ble_eq_true rfl) (fun _ _ => e_x0) fun x9 h8 => ?_
  exact e_iret rfl
theorem m_X1_macro {d : Nat} {v0 : Nat} {v1 : Int32} {h : ax_H}  : dx_le (dx_cI ((ax_c d) 232 [.int v1, .int 0, .int 4] h) (fun x2 h1 => dx_nw h1 (.inr (22, [.int 0, .null])) 2 fun a4 h3 => dx_cV ((ax_c d) 275 [.ref a4, .ref v0, .int v1] h3) (fun h5 => (dx_vn [(19, 233)] (.ref v0) h5).bind fun k => dx_cI ((ax_c d) k [.ref v0, .ref a4] h5) (fun x7 h6 => some (.inl (some (.int x7)), h6)) dx_x0) dx_x0) dx_x0) (ax_c (d + 1) 241 [.ref v0, .int v1] h) := by
  refine e_entry (L' := [some (.ref v0), some (.int v1)]) rfl (ag_A rfl (ag_I ag_n)) (Nat.le_of_ble_eq_true rfl) rfl ?_
  refine e_iload rfl rfl ?_
  refine e_push rfl ?_
  refine e_push rfl ?_
  refine e_isI rfl (Nat.le_of_ble_eq_true rfl) rfl rfl (Nat.le_of_ble_eq_true rfl) (fun _ _ => e_x0) fun x2 h1 => ?_
  refine e_pop rfl rfl ?_
  refine e_aload rfl rfl rfl ?_
  refine e_new rfl fun a4 h3 => ?_
  refine e_dup rfl rfl ?_
  refine e_aload rfl rfl rfl ?_
  refine e_iload rfl rfl ?_
  refine e_isprV rfl rfl rfl (Nat.le_of_ble_eq_true rfl) (fun _ _ => e_x0) fun h5 => ?_
  refine e_ivI rfl rfl rfl (Nat.le_of_ble_eq_true rfl) (fun _ _ => e_x0) fun x7 h6 => ?_
  exact e_iret rfl
theorem m_X1_endMacro {d : Nat} {v0 : Nat} {h : ax_H}  : dx_le (dx_nw h (.inr (23, [.null])) 1 fun a2 h1 => dx_cV ((ax_c d) 278 [.ref a2, .ref v0] h1) (fun h3 => (dx_vn [(19, 233)] (.ref v0) h3).bind fun k => dx_cI ((ax_c d) k [.ref v0, .ref a2] h3) (fun x5 h4 => some (.inl (some (.int x5)), h4)) dx_x0) dx_x0) (ax_c (d + 1) 242 [.ref v0] h) := by
  refine e_entry (L' := [some (.ref v0)]) rfl (ag_A rfl ag_n) (Nat.le_of_ble_eq_true rfl) rfl ?_
  refine e_aload rfl rfl rfl ?_
  refine e_new rfl fun a2 h1 => ?_
  refine e_dup rfl rfl ?_
  refine e_aload rfl rfl rfl ?_
  refine e_isprV rfl rfl rfl (Nat.le_of_ble_eq_true rfl) (fun _ _ => e_x0) fun h3 => ?_
  refine e_ivI rfl rfl rfl (Nat.le_of_ble_eq_true rfl) (fun _ _ => e_x0) fun x5 h4 => ?_
  exact e_iret rfl
theorem m_X1_use {d : Nat} {v0 : Nat} {v1 : Int32} {v2 : Int32} {v3 : Int32} {v4 : Int32} {v5 : Int32} {h : ax_H}  : dx_le (dx_cI ((ax_c d) 232 [.int v1, .int 0, .int 4] h) (fun x2 h1 => dx_cR ((ax_c d) 237 [.int v2, .int v3] h1) (fun r4 h3 => dx_cR ((ax_c d) 237 [.int v4, .int v5] h3) (fun r6 h5 => dx_nw h5 (.inr (24, [.int 0, .null, .null, .null])) 4 fun a8 h7 => dx_cV ((ax_c d) 280 [.ref a8, .ref v0, .int v1, r4, r6] h7) (fun h9 => (dx_vn [(19, 233)] (.ref v0) h9).bind fun k => dx_cI ((ax_c d) k [.ref v0, .ref a8] h9) (fun x11 h10 => some (.inl (some (.int x11)), h10)) dx_x0) dx_x0) dx_x0) dx_x0) dx_x0) (ax_c (d + 1) 243 [.ref v0, .int v1, .int v2, .int v3, .int v4, .int v5] h) := by
  refine e_entry (L' := [some (.ref v0), some (.int v1), some (.int v2), some (.int v3), some (.int v4), some (.int v5), none, none]) rfl (ag_A rfl (ag_I (ag_I (ag_I (ag_I (ag_I ag_n)))))) (Nat.le_of_ble_eq_true rfl) rfl ?_
  refine e_iload rfl rfl ?_
  refine e_push rfl ?_
  refine e_push rfl ?_
  refine e_isI rfl (Nat.le_of_ble_eq_true rfl) rfl rfl (Nat.le_of_ble_eq_true rfl) (fun _ _ => e_x0) fun x2 h1 => ?_
  refine e_pop rfl rfl ?_
  refine e_iload rfl rfl ?_
  refine e_iload rfl rfl ?_
  refine e_isR rfl (Nat.le_of_ble_eq_true rfl) rfl rfl (Nat.le_of_ble_eq_true rfl) (fun _ _ => e_x0) fun r4 h3 hr4 => ?_
  refine e_astore (L' := [some (.ref v0), some (.int v1), some (.int v2), some (.int v3), some (.int v4), some (.int v5), some (r4), none]) rfl hr4 (dx_sto (Nat.le_of_ble_eq_true rfl) (Or.inr ⟨_, rfl, rfl⟩) rfl) ?_
  refine e_iload rfl rfl ?_
  refine e_iload rfl rfl ?_
  refine e_isR rfl (Nat.le_of_ble_eq_true rfl) rfl rfl (Nat.le_of_ble_eq_true rfl) (fun _ _ => e_x0) fun r6 h5 hr6 => ?_
  refine e_astore (L' := [some (.ref v0), some (.int v1), some (.int v2), some (.int v3), some (.int v4), some (.int v5), some (r4), some (r6)]) rfl hr6 (dx_sto (Nat.le_of_ble_eq_true rfl) (Or.inr ⟨_, rfl, dx_nl hr4⟩) rfl) ?_
  refine e_aload rfl rfl rfl ?_
  refine e_new rfl fun a8 h7 => ?_
  refine e_dup rfl rfl ?_
  refine e_aload rfl rfl rfl ?_
  refine e_iload rfl rfl ?_
  refine e_aload rfl rfl hr4 ?_
  refine e_aload rfl rfl hr6 ?_
  refine e_isprV rfl rfl rfl (Nat.le_of_ble_eq_true rfl) (fun _ _ => e_x0) fun h9 => ?_
  refine e_ivI rfl rfl rfl (Nat.le_of_ble_eq_true rfl) (fun _ _ => e_x0) fun x11 h10 => ?_
  exact e_iret rfl
noncomputable def B_X1_assemble_22 (K : ax_K) (s0 : Nat) (h : ax_H) : Option ax_R := ax_run K P_X1_assemble 22 [none, none] [.ref s0] h
theorem b_X1_assemble_22 {K : ax_K} {s0 : Nat} {h : ax_H}  : dx_le (dx_nw h (.inr (44, [.null])) 6 fun a2 h1 => dx_cV (K 4 [.ref a2, .ref 292, .ref s0] h1) (fun h3 => dx_ath hd_0 (.ref a2) h3 (fun _ _ => none)) dx_x0) (B_X1_assemble_22 K s0 h) := by
  show dx_le _ (ax_run K P_X1_assemble 22 [none, none] [.ref s0] h)
  refine e_astore (L' := [none, some (.ref s0)]) rfl rfl (dx_sto (Nat.le_of_ble_eq_true rfl) (Or.inr ⟨_, rfl, rfl⟩) rfl) ?_
  refine e_new rfl fun a2 h1 => ?_
  refine e_dup rfl rfl ?_
  refine e_push rfl ?_
  refine e_aload rfl rfl rfl ?_
  refine e_isprV rfl rfl rfl (Nat.le_of_ble_eq_true rfl) (fun _ _ => e_x0) fun h3 => ?_
  exact e_athrow rfl e_hn
theorem m_X1_assemble {d : Nat} {v0 : Nat} {h : ax_H}  : dx_le (dx_nw h (.inr (25, [.null, .null, .null, .null, .int 0, .int 0, .null])) 7 fun a2 h1 => dx_cV ((ax_c d) 281 [.ref a2, .ref v0] h1) (fun h3 => (dx_gA [(25, 3)] (.ref a2) h3).bind fun r4 => (dx_pF [(19, 5)] (.array (.int)) (.ref v0) r4 h3).bind fun h5 => (dx_gI [(25, 5)] (.ref a2) h5).bind fun x6 => some (.inl (some (.int x6)), h5)) (fun i hx => dx_xp (fun k : Nat => if k ∈ [28] then some (some 22) else if k ∈ [18, 0, 6, 7, 32, 33, 34, 35, 44, 45, 46] then some none else none) i hx (fun pc => if pc = 22 then B_X1_assemble_22 (ax_c d) i hx else none))) (ax_c (d + 1) 244 [.ref v0] h) := by
  refine e_entry (L' := [some (.ref v0), none]) rfl (ag_A rfl ag_n) (Nat.le_of_ble_eq_true rfl) rfl ?_
  refine e_new rfl fun a2 h1 => ?_
  refine e_dup rfl rfl ?_
  refine e_aload rfl rfl rfl ?_
  refine e_isprV rfl rfl rfl (Nat.le_of_ble_eq_true rfl) (fun i _ => e_xp (e_hc (e_wk mP_X1_assemble (ll_0 (ll_0 ll_n))) (e_hn i))) fun h3 => ?_
  refine e_astore (L' := [some (.ref v0), some (.ref a2)]) rfl rfl (dx_sto (Nat.le_of_ble_eq_true rfl) (Or.inr ⟨_, rfl, rfl⟩) rfl) ?_
  refine e_aload rfl rfl rfl ?_
  refine e_aload rfl rfl rfl ?_
  refine e_getA rfl fun r4 hr4 => ?_
  refine e_putf rfl fun h5 => ?_
  refine e_aload rfl rfl rfl ?_
  refine e_getI rfl fun x6 => ?_
  exact e_iret rfl
theorem m_X1_image {d : Nat} {v0 : Nat} {v1 : Int32} {h : ax_H}  : dx_le (dx_cI ((ax_c d) 232 [.int v1, .int 0, .int 255] h) (fun x2 h1 => (dx_gA [(19, 5)] (.ref v0) h1).bind fun r3 => dx_nul r3 (dx_cV ((ax_c d) 234 [.int 0] h1) (fun h4 => (dx_gA [(19, 5)] (.ref v0) h4).bind fun r5 => (dx_lI 0 r5 v1 h4).bind fun x6 => some (.inl (some (.int x6)), h4)) dx_x0) (dx_cV ((ax_c d) 234 [.int 1] h1) (fun h7 => (dx_gA [(19, 5)] (.ref v0) h7).bind fun r8 => (dx_lI 0 r8 v1 h7).bind fun x9 => some (.inl (some (.int x9)), h7)) dx_x0)) dx_x0) (ax_c (d + 1) 245 [.ref v0, .int v1] h) := by
  refine e_entry (L' := [some (.ref v0), some (.int v1)]) rfl (ag_A rfl (ag_I ag_n)) (Nat.le_of_ble_eq_true rfl) rfl ?_
  refine e_iload rfl rfl ?_
  refine e_push rfl ?_
  refine e_push rfl ?_
  refine e_isI rfl (Nat.le_of_ble_eq_true rfl) rfl rfl (Nat.le_of_ble_eq_true rfl) (fun _ _ => e_x0) fun x2 h1 => ?_
  refine e_pop rfl rfl ?_
  refine e_aload rfl rfl rfl ?_
  refine e_getA rfl fun r3 hr3 => ?_
  refine e_null rfl ?_ ?_
  · refine e_push rfl ?_
    refine e_isV rfl (Nat.le_of_ble_eq_true rfl) rfl rfl (Nat.le_of_ble_eq_true rfl) (fun _ _ => e_x0) fun h4 => ?_
    refine e_aload rfl rfl rfl ?_
    refine e_getA rfl fun r5 hr5 => ?_
    refine e_iload rfl rfl ?_
    refine e_iald rfl fun x6 => ?_
    exact e_iret rfl
  · refine e_push rfl ?_
    refine e_goto rfl ?_
    refine e_isV rfl (Nat.le_of_ble_eq_true rfl) rfl rfl (Nat.le_of_ble_eq_true rfl) (fun _ _ => e_x0) fun h7 => ?_
    refine e_aload rfl rfl rfl ?_
    refine e_getA rfl fun r8 hr8 => ?_
    refine e_iload rfl rfl ?_
    refine e_iald rfl fun x9 => ?_
    exact e_iret rfl
noncomputable def B_X1_start_22 (K : ax_K) (s0 : Int32) (v0 : Nat) (h : ax_H) : Option ax_R := ax_run K P_X1_start 22 [some (.ref v0)] [.int s0] h
theorem b_X1_start_22 {K : ax_K} {s0 : Int32} {v0 : Nat} {h : ax_H}  : dx_le (dx_cV (K 234 [.int s0] h) (fun h1 => (dx_gA [(19, 1)] (.ref v0) h1).bind fun r2 => (dx_gA [(19, 5)] (.ref v0) h1).bind fun r3 => (dx_vn [(29, 310)] r2 h1).bind fun k => dx_cI (K k [r2, r3] h1) (fun x5 h4 => some (.inl (some (.int x5)), h4)) dx_x0) dx_x0) (B_X1_start_22 K s0 v0 h) := by
  show dx_le _ (ax_run K P_X1_start 22 [some (.ref v0)] [.int s0] h)
  refine e_isV rfl (Nat.le_of_ble_eq_true rfl) rfl rfl (Nat.le_of_ble_eq_true rfl) (fun _ _ => e_x0) fun h1 => ?_
  refine e_aload rfl rfl rfl ?_
  refine e_getA rfl fun r2 hr2 => ?_
  refine e_aload rfl rfl rfl ?_
  refine e_getA rfl fun r3 hr3 => ?_
  refine e_ivI rfl rfl rfl (Nat.le_of_ble_eq_true rfl) (fun _ _ => e_x0) fun x5 h4 => ?_
  exact e_iret rfl
theorem m_X1_start {d : Nat} {v0 : Nat} {h : ax_H}  : dx_le ((dx_gA [(19, 1)] (.ref v0) h).bind fun r1 => (dx_vn [(29, 309)] r1 h).bind fun k => dx_cI ((ax_c d) k [r1] h) (fun x3 h2 => if ¬ x3 = 0 then B_X1_start_22 (ax_c d) 0 v0 h2 else (dx_gA [(19, 5)] (.ref v0) h2).bind fun r4 => dx_nul r4 (B_X1_start_22 (ax_c d) 0 v0 h2) (B_X1_start_22 (ax_c d) 1 v0 h2)) dx_x0) (ax_c (d + 1) 246 [.ref v0] h) := by
  refine e_entry (L' := [some (.ref v0)]) rfl (ag_A rfl ag_n) (Nat.le_of_ble_eq_true rfl) rfl ?_
  refine e_aload rfl rfl rfl ?_
  refine e_getA rfl fun r1 hr1 => ?_
  refine e_ivI rfl rfl rfl (Nat.le_of_ble_eq_true rfl) (fun _ _ => e_x0) fun x3 h2 => ?_
  refine e_if1 rfl rfl ?_ ?_
  · refine e_push rfl ?_
    exact e_wk mP_X1_start (ll_1 ll_n)
  · refine e_aload rfl rfl rfl ?_
    refine e_getA rfl fun r4 hr4 => ?_
    refine e_null rfl ?_ ?_
    · refine e_push rfl ?_
      exact e_wk mP_X1_start (ll_1 ll_n)
    · refine e_push rfl ?_
      refine e_goto rfl ?_
      exact e_wk mP_X1_start (ll_1 ll_n)
theorem m_X1_crash {d : Nat} {v0 : Nat} {h : ax_H}  : dx_le ((dx_gA [(19, 1)] (.ref v0) h).bind fun r1 => (dx_vn [(29, 309)] r1 h).bind fun k => dx_cI ((ax_c d) k [r1] h) (fun x3 h2 => dx_cV ((ax_c d) 234 [.int x3] h2) (fun h4 => (dx_gA [(19, 1)] (.ref v0) h4).bind fun r5 => (dx_vn [(29, 314)] r5 h4).bind fun k => dx_cI ((ax_c d) k [r5] h4) (fun x7 h6 => some (.inl (some (.int x7)), h6)) dx_x0) dx_x0) dx_x0) (ax_c (d + 1) 247 [.ref v0] h) := by
  refine e_entry (L' := [some (.ref v0)]) rfl (ag_A rfl ag_n) (Nat.le_of_ble_eq_true rfl) rfl ?_
  refine e_aload rfl rfl rfl ?_
  refine e_getA rfl fun r1 hr1 => ?_
  refine e_ivI rfl rfl rfl (Nat.le_of_ble_eq_true rfl) (fun _ _ => e_x0) fun x3 h2 => ?_
  refine e_isV rfl (Nat.le_of_ble_eq_true rfl) rfl rfl (Nat.le_of_ble_eq_true rfl) (fun _ _ => e_x0) fun h4 => ?_
  refine e_aload rfl rfl rfl ?_
  refine e_getA rfl fun r5 hr5 => ?_
  refine e_ivI rfl rfl rfl (Nat.le_of_ble_eq_true rfl) (fun _ _ => e_x0) fun x7 h6 => ?_
  exact e_iret rfl
noncomputable def B_X1_format_15 (K : ax_K) (s0 : Int32) (v0 : Nat) (h : ax_H) : Option ax_R := ax_run K P_X1_format 15 [some (.ref v0), none] [.int s0] h
theorem b_X1_format_15 {K : ax_K} {s0 : Int32} {v0 : Nat} {h : ax_H}  : dx_le (dx_cV (K 234 [.int s0] h) (fun h1 => (dx_vn [(19, 226)] (.ref v0) h1).bind fun k => dx_cI (K k [.ref v0] h1) (fun x3 h2 => (dx_gA [(19, 1)] (.ref v0) h2).bind fun r4 => (dx_vn [(29, 299)] r4 h2).bind fun k => dx_cV (K k [r4] h2) (fun h5 => some (.inl (some (.int x3)), h5)) dx_x0) dx_x0) dx_x0) (B_X1_format_15 K s0 v0 h) := by
  show dx_le _ (ax_run K P_X1_format 15 [some (.ref v0), none] [.int s0] h)
  refine e_isV rfl (Nat.le_of_ble_eq_true rfl) rfl rfl (Nat.le_of_ble_eq_true rfl) (fun _ _ => e_x0) fun h1 => ?_
  refine e_aload rfl rfl rfl ?_
  refine e_ivI rfl rfl rfl (Nat.le_of_ble_eq_true rfl) (fun _ _ => e_x0) fun x3 h2 => ?_
  refine e_istore (L' := [some (.ref v0), some (.int x3)]) rfl (dx_sto (Nat.le_of_ble_eq_true rfl) (Or.inr ⟨_, rfl, rfl⟩) rfl) ?_
  refine e_aload rfl rfl rfl ?_
  refine e_getA rfl fun r4 hr4 => ?_
  refine e_ivV rfl rfl rfl (Nat.le_of_ble_eq_true rfl) (fun _ _ => e_x0) fun h5 => ?_
  refine e_iload rfl rfl ?_
  exact e_iret rfl
theorem m_X1_format {d : Nat} {v0 : Nat} {h : ax_H}  : dx_le ((dx_gA [(19, 1)] (.ref v0) h).bind fun r1 => (dx_vn [(29, 309)] r1 h).bind fun k => dx_cI ((ax_c d) k [r1] h) (fun x3 h2 => if ¬ x3 = 0 then B_X1_format_15 (ax_c d) 0 v0 h2 else B_X1_format_15 (ax_c d) 1 v0 h2) dx_x0) (ax_c (d + 1) 248 [.ref v0] h) := by
  refine e_entry (L' := [some (.ref v0), none]) rfl (ag_A rfl ag_n) (Nat.le_of_ble_eq_true rfl) rfl ?_
  refine e_aload rfl rfl rfl ?_
  refine e_getA rfl fun r1 hr1 => ?_
  refine e_ivI rfl rfl rfl (Nat.le_of_ble_eq_true rfl) (fun _ _ => e_x0) fun x3 h2 => ?_
  refine e_if1 rfl rfl ?_ ?_
  · refine e_push rfl ?_
    exact e_wk mP_X1_format (ll_1 (ll_0 ll_n))
  · refine e_push rfl ?_
    refine e_goto rfl ?_
    exact e_wk mP_X1_format (ll_1 (ll_0 ll_n))
noncomputable def B_X1_step_20 (K : ax_K) (v0 : Nat) (v1 : Int32) (v2 : Int32) (h : ax_H) : Option ax_R := ax_run K P_X1_step 20 [some (.ref v0), some (.int v1), some (.int v2)] [] h
theorem b_X1_step_20 {K : ax_K} {v0 : Nat} {v1 : Int32} {v2 : Int32} {h : ax_H}  : dx_le (if v1 ≤ v2 then some (.inl (some (.int v2)), h) else (dx_gA [(19, 1)] (.ref v0) h).bind fun r1 => (dx_vn [(29, 315)] r1 h).bind fun k => dx_cI (K k [r1] h) (fun x3 h2 => if x3 = 0 then some (.inl (some (.int v2)), h2) else (dx_gA [(19, 1)] (.ref v0) h2).bind fun r4 => (dx_vn [(29, 316)] r4 h2).bind fun k => dx_cV (K k [r4] h2) (fun h5 => dx_lt (v2 + 1) fun x6 => B_X1_step_20 K v0 v1 x6 h5) dx_x0) dx_x0) (B_X1_step_20 K v0 v1 v2 h) := by
  show dx_le _ (ax_run K P_X1_step 20 [some (.ref v0), some (.int v1), some (.int v2)] [] h)
  refine e_iload rfl rfl ?_
  refine e_iload rfl rfl ?_
  refine e_if2 rfl rfl ?_ ?_
  · refine e_iload rfl rfl ?_
    exact e_iret rfl
  · refine e_aload rfl rfl rfl ?_
    refine e_getA rfl fun r1 hr1 => ?_
    refine e_ivI rfl rfl rfl (Nat.le_of_ble_eq_true rfl) (fun _ _ => e_x0) fun x3 h2 => ?_
    refine e_if1 rfl rfl ?_ ?_
    · refine e_iload rfl rfl ?_
      exact e_iret rfl
    · refine e_aload rfl rfl rfl ?_
      refine e_getA rfl fun r4 hr4 => ?_
      refine e_ivV rfl rfl rfl (Nat.le_of_ble_eq_true rfl) (fun _ _ => e_x0) fun h5 => ?_
      refine e_iinc (M := fun x6 => [some (.ref v0), some (.int v1), some (.int x6)]) rfl rfl (fun _ => dx_sto (Nat.le_of_ble_eq_true rfl) (Or.inr ⟨_, rfl, rfl⟩) rfl) fun x6 => ?_
      refine e_goto rfl ?_
      exact e_wk mP_X1_step (ll_1 (ll_1 (ll_1 ll_n)))
theorem m_X1_step {d : Nat} {v0 : Nat} {v1 : Int32} {h : ax_H}  : dx_le (dx_cI ((ax_c d) 232 [.int v1, .int 1, .int 100] h) (fun x2 h1 => (dx_gA [(19, 1)] (.ref v0) h1).bind fun r3 => (dx_vn [(29, 309)] r3 h1).bind fun k => dx_cI ((ax_c d) k [r3] h1) (fun x5 h4 => dx_cV ((ax_c d) 234 [.int x5] h4) (fun h6 => B_X1_step_20 (ax_c d) v0 v1 0 h6) dx_x0) dx_x0) dx_x0) (ax_c (d + 1) 249 [.ref v0, .int v1] h) := by
  refine e_entry (L' := [some (.ref v0), some (.int v1), none]) rfl (ag_A rfl (ag_I ag_n)) (Nat.le_of_ble_eq_true rfl) rfl ?_
  refine e_iload rfl rfl ?_
  refine e_push rfl ?_
  refine e_push rfl ?_
  refine e_isI rfl (Nat.le_of_ble_eq_true rfl) rfl rfl (Nat.le_of_ble_eq_true rfl) (fun _ _ => e_x0) fun x2 h1 => ?_
  refine e_pop rfl rfl ?_
  refine e_aload rfl rfl rfl ?_
  refine e_getA rfl fun r3 hr3 => ?_
  refine e_ivI rfl rfl rfl (Nat.le_of_ble_eq_true rfl) (fun _ _ => e_x0) fun x5 h4 => ?_
  refine e_isV rfl (Nat.le_of_ble_eq_true rfl) rfl rfl (Nat.le_of_ble_eq_true rfl) (fun _ _ => e_x0) fun h6 => ?_
  refine e_push rfl ?_
  refine e_istore (L' := [some (.ref v0), some (.int v1), some (.int 0)]) rfl (dx_sto (Nat.le_of_ble_eq_true rfl) (Or.inr ⟨_, rfl, rfl⟩) rfl) ?_
  exact e_wk mP_X1_step (ll_1 (ll_1 (ll_1 ll_n)))
noncomputable def B_X1_runTo_32 (K : ax_K) (v0 : Nat) (v1 : Int32) (v2 : Int32) (v3 : Int32) (v4 : Int32) (h : ax_H) : Option ax_R := ax_run K P_X1_runTo 32 [some (.ref v0), some (.int v1), some (.int v2), some (.int v3), some (.int v4)] [] h
theorem b_X1_runTo_32 {K : ax_K} {v0 : Nat} {v1 : Int32} {v2 : Int32} {v3 : Int32} {v4 : Int32} {h : ax_H}  : dx_le (if ¬ v4 = 0 then some (.inl (some (.int v3)), h) else if v2 ≤ v3 then some (.inl (some (.int v3)), h) else (dx_gA [(19, 1)] (.ref v0) h).bind fun r1 => (dx_vn [(29, 315)] r1 h).bind fun k => dx_cI (K k [r1] h) (fun x3 h2 => if x3 = 0 then some (.inl (some (.int v3)), h2) else (dx_gA [(19, 1)] (.ref v0) h2).bind fun r4 => (dx_vn [(29, 316)] r4 h2).bind fun k => dx_cV (K k [r4] h2) (fun h5 => dx_lt (v3 + 1) fun x6 => (dx_gA [(19, 1)] (.ref v0) h5).bind fun r7 => (dx_gA [(29, 0)] r7 h5).bind fun r8 => (dx_lI 0 r8 3 h5).bind fun x9 => if ¬ x9 = v1 then B_X1_runTo_32 K v0 v1 v2 x6 0 h5 else (dx_gA [(19, 1)] (.ref v0) h5).bind fun r10 => (dx_gA [(29, 0)] r10 h5).bind fun r11 => (dx_lI 0 r11 18 h5).bind fun x12 => if ¬ x12 = 0 then B_X1_runTo_32 K v0 v1 v2 x6 0 h5 else B_X1_runTo_32 K v0 v1 v2 x6 1 h5) dx_x0) dx_x0) (B_X1_runTo_32 K v0 v1 v2 v3 v4 h) := by
  show dx_le _ (ax_run K P_X1_runTo 32 [some (.ref v0), some (.int v1), some (.int v2), some (.int v3), some (.int v4)] [] h)
  refine e_iload rfl rfl ?_
  refine e_if1 rfl rfl ?_ ?_
  · refine e_iload rfl rfl ?_
    exact e_iret rfl
  · refine e_iload rfl rfl ?_
    refine e_iload rfl rfl ?_
    refine e_if2 rfl rfl ?_ ?_
    · refine e_iload rfl rfl ?_
      exact e_iret rfl
    · refine e_aload rfl rfl rfl ?_
      refine e_getA rfl fun r1 hr1 => ?_
      refine e_ivI rfl rfl rfl (Nat.le_of_ble_eq_true rfl) (fun _ _ => e_x0) fun x3 h2 => ?_
      refine e_if1 rfl rfl ?_ ?_
      · refine e_iload rfl rfl ?_
        exact e_iret rfl
      · refine e_aload rfl rfl rfl ?_
        refine e_getA rfl fun r4 hr4 => ?_
        refine e_ivV rfl rfl rfl (Nat.le_of_ble_eq_true rfl) (fun _ _ => e_x0) fun h5 => ?_
        refine e_iinc (M := fun x6 => [some (.ref v0), some (.int v1), some (.int v2), some (.int x6), some (.int v4)]) rfl rfl (fun _ => dx_sto (Nat.le_of_ble_eq_true rfl) (Or.inr ⟨_, rfl, rfl⟩) rfl) fun x6 => ?_
        refine e_aload rfl rfl rfl ?_
        refine e_getA rfl fun r7 hr7 => ?_
        refine e_getA rfl fun r8 hr8 => ?_
        refine e_push rfl ?_
        refine e_iald rfl fun x9 => ?_
        refine e_iload rfl rfl ?_
        refine e_if2 rfl rfl ?_ ?_
        · refine e_push rfl ?_
          refine e_istore (L' := [some (.ref v0), some (.int v1), some (.int v2), some (.int x6), some (.int 0)]) rfl (dx_sto (Nat.le_of_ble_eq_true rfl) (Or.inr ⟨_, rfl, rfl⟩) rfl) ?_
          refine e_goto rfl ?_
          exact e_wk mP_X1_runTo (ll_1 (ll_1 (ll_1 (ll_1 (ll_1 ll_n)))))
        · refine e_aload rfl rfl rfl ?_
          refine e_getA rfl fun r10 hr10 => ?_
          refine e_getA rfl fun r11 hr11 => ?_
          refine e_push rfl ?_
          refine e_iald rfl fun x12 => ?_
          refine e_if1 rfl rfl ?_ ?_
          · refine e_push rfl ?_
            refine e_istore (L' := [some (.ref v0), some (.int v1), some (.int v2), some (.int x6), some (.int 0)]) rfl (dx_sto (Nat.le_of_ble_eq_true rfl) (Or.inr ⟨_, rfl, rfl⟩) rfl) ?_
            refine e_goto rfl ?_
            exact e_wk mP_X1_runTo (ll_1 (ll_1 (ll_1 (ll_1 (ll_1 ll_n)))))
          · refine e_push rfl ?_
            refine e_goto rfl ?_
            refine e_istore (L' := [some (.ref v0), some (.int v1), some (.int v2), some (.int x6), some (.int 1)]) rfl (dx_sto (Nat.le_of_ble_eq_true rfl) (Or.inr ⟨_, rfl, rfl⟩) rfl) ?_
            refine e_goto rfl ?_
            exact e_wk mP_X1_runTo (ll_1 (ll_1 (ll_1 (ll_1 (ll_1 ll_n)))))
theorem m_X1_runTo {d : Nat} {v0 : Nat} {v1 : Int32} {v2 : Int32} {h : ax_H}  : dx_le (dx_cI ((ax_c d) 232 [.int v1, .int 0, .int 255] h) (fun x2 h1 => dx_cI ((ax_c d) 232 [.int v2, .int 1, .int 100] h1) (fun x4 h3 => (dx_gA [(19, 1)] (.ref v0) h3).bind fun r5 => (dx_vn [(29, 309)] r5 h3).bind fun k => dx_cI ((ax_c d) k [r5] h3) (fun x7 h6 => dx_cV ((ax_c d) 234 [.int x7] h6) (fun h8 => B_X1_runTo_32 (ax_c d) v0 v1 v2 0 0 h8) dx_x0) dx_x0) dx_x0) dx_x0) (ax_c (d + 1) 250 [.ref v0, .int v1, .int v2] h) := by
  refine e_entry (L' := [some (.ref v0), some (.int v1), some (.int v2), none, none]) rfl (ag_A rfl (ag_I (ag_I ag_n))) (Nat.le_of_ble_eq_true rfl) rfl ?_
  refine e_iload rfl rfl ?_
  refine e_push rfl ?_
  refine e_push rfl ?_
  refine e_isI rfl (Nat.le_of_ble_eq_true rfl) rfl rfl (Nat.le_of_ble_eq_true rfl) (fun _ _ => e_x0) fun x2 h1 => ?_
  refine e_pop rfl rfl ?_
  refine e_iload rfl rfl ?_
  refine e_push rfl ?_
  refine e_push rfl ?_
  refine e_isI rfl (Nat.le_of_ble_eq_true rfl) rfl rfl (Nat.le_of_ble_eq_true rfl) (fun _ _ => e_x0) fun x4 h3 => ?_
  refine e_pop rfl rfl ?_
  refine e_aload rfl rfl rfl ?_
  refine e_getA rfl fun r5 hr5 => ?_
  refine e_ivI rfl rfl rfl (Nat.le_of_ble_eq_true rfl) (fun _ _ => e_x0) fun x7 h6 => ?_
  refine e_isV rfl (Nat.le_of_ble_eq_true rfl) rfl rfl (Nat.le_of_ble_eq_true rfl) (fun _ _ => e_x0) fun h8 => ?_
  refine e_push rfl ?_
  refine e_istore (L' := [some (.ref v0), some (.int v1), some (.int v2), some (.int 0), none]) rfl (dx_sto (Nat.le_of_ble_eq_true rfl) (Or.inr ⟨_, rfl, rfl⟩) rfl) ?_
  refine e_push rfl ?_
  refine e_istore (L' := [some (.ref v0), some (.int v1), some (.int v2), some (.int 0), some (.int 0)]) rfl (dx_sto (Nat.le_of_ble_eq_true rfl) (Or.inr ⟨_, rfl, rfl⟩) rfl) ?_
  exact e_wk mP_X1_runTo (ll_1 (ll_1 (ll_1 (ll_1 (ll_1 ll_n)))))
theorem m_X1_back {d : Nat} {v0 : Nat} {v1 : Int32} {h : ax_H}  : dx_le (dx_cI ((ax_c d) 232 [.int v1, .int 1, .int 200] h) (fun x2 h1 => (dx_gA [(19, 1)] (.ref v0) h1).bind fun r3 => (dx_vn [(29, 309)] r3 h1).bind fun k => dx_cI ((ax_c d) k [r3] h1) (fun x5 h4 => dx_cV ((ax_c d) 234 [.int x5] h4) (fun h6 => (dx_gA [(19, 1)] (.ref v0) h6).bind fun r7 => (dx_vn [(29, 348)] r7 h6).bind fun k => dx_cI ((ax_c d) k [r7, .int v1] h6) (fun x9 h8 => some (.inl (some (.int x9)), h8)) dx_x0) dx_x0) dx_x0) dx_x0) (ax_c (d + 1) 251 [.ref v0, .int v1] h) := by
  refine e_entry (L' := [some (.ref v0), some (.int v1)]) rfl (ag_A rfl (ag_I ag_n)) (Nat.le_of_ble_eq_true rfl) rfl ?_
  refine e_iload rfl rfl ?_
  refine e_push rfl ?_
  refine e_push rfl ?_
  refine e_isI rfl (Nat.le_of_ble_eq_true rfl) rfl rfl (Nat.le_of_ble_eq_true rfl) (fun _ _ => e_x0) fun x2 h1 => ?_
  refine e_pop rfl rfl ?_
  refine e_aload rfl rfl rfl ?_
  refine e_getA rfl fun r3 hr3 => ?_
  refine e_ivI rfl rfl rfl (Nat.le_of_ble_eq_true rfl) (fun _ _ => e_x0) fun x5 h4 => ?_
  refine e_isV rfl (Nat.le_of_ble_eq_true rfl) rfl rfl (Nat.le_of_ble_eq_true rfl) (fun _ _ => e_x0) fun h6 => ?_
  refine e_aload rfl rfl rfl ?_
  refine e_getA rfl fun r7 hr7 => ?_
  refine e_iload rfl rfl ?_
  refine e_ivI rfl rfl rfl (Nat.le_of_ble_eq_true rfl) (fun _ _ => e_x0) fun x9 h8 => ?_
  exact e_iret rfl
noncomputable def B_X1_press_41 (K : ax_K) (s0 : Int32) (v0 : Nat) (v1 : Int32) (h : ax_H) : Option ax_R := ax_run K P_X1_press 41 [some (.ref v0), some (.int v1)] [.int s0] h
theorem b_X1_press_41 {K : ax_K} {s0 : Int32} {v0 : Nat} {v1 : Int32} {h : ax_H}  : dx_le (dx_cV (K 234 [.int s0] h) (fun h1 => (dx_gA [(19, 1)] (.ref v0) h1).bind fun r2 => (dx_vn [(29, 349)] r2 h1).bind fun k => dx_cV (K k [r2, .int v1] h1) (fun h3 => (dx_gA [(19, 1)] (.ref v0) h3).bind fun r4 => (dx_gA [(29, 1)] r4 h3).bind fun r5 => (dx_vn [(15, 125)] r5 h3).bind fun k => dx_cI (K k [r5] h3) (fun x7 h6 => some (.inl (some (.int x7)), h6)) dx_x0) dx_x0) dx_x0) (B_X1_press_41 K s0 v0 v1 h) := by
  show dx_le _ (ax_run K P_X1_press 41 [some (.ref v0), some (.int v1)] [.int s0] h)
  refine e_isV rfl (Nat.le_of_ble_eq_true rfl) rfl rfl (Nat.le_of_ble_eq_true rfl) (fun _ _ => e_x0) fun h1 => ?_
  refine e_aload rfl rfl rfl ?_
  refine e_getA rfl fun r2 hr2 => ?_
  refine e_iload rfl rfl ?_
  refine e_ivV rfl rfl rfl (Nat.le_of_ble_eq_true rfl) (fun _ _ => e_x0) fun h3 => ?_
  refine e_aload rfl rfl rfl ?_
  refine e_getA rfl fun r4 hr4 => ?_
  refine e_getA rfl fun r5 hr5 => ?_
  refine e_ivI rfl rfl rfl (Nat.le_of_ble_eq_true rfl) (fun _ _ => e_x0) fun x7 h6 => ?_
  exact e_iret rfl
theorem m_X1_press {d : Nat} {v0 : Nat} {v1 : Int32} {h : ax_H}  : dx_le (dx_cI ((ax_c d) 232 [.int v1, .int 0, .int 65535] h) (fun x2 h1 => (dx_gA [(19, 1)] (.ref v0) h1).bind fun r3 => (dx_gA [(29, 0)] r3 h1).bind fun r4 => (dx_lI 0 r4 0 h1).bind fun x5 => if ¬ x5 = 1 then B_X1_press_41 (ax_c d) 0 v0 v1 h1 else (dx_gA [(19, 1)] (.ref v0) h1).bind fun r6 => (dx_gA [(29, 1)] r6 h1).bind fun r7 => (dx_vn [(15, 125)] r7 h1).bind fun k => dx_cI ((ax_c d) k [r7] h1) (fun x9 h8 => if (20 : Int32) ≤ x9 then B_X1_press_41 (ax_c d) 0 v0 v1 h8 else B_X1_press_41 (ax_c d) 1 v0 v1 h8) dx_x0) dx_x0) (ax_c (d + 1) 252 [.ref v0, .int v1] h) := by
  refine e_entry (L' := [some (.ref v0), some (.int v1)]) rfl (ag_A rfl (ag_I ag_n)) (Nat.le_of_ble_eq_true rfl) rfl ?_
  refine e_iload rfl rfl ?_
  refine e_push rfl ?_
  refine e_push rfl ?_
  refine e_isI rfl (Nat.le_of_ble_eq_true rfl) rfl rfl (Nat.le_of_ble_eq_true rfl) (fun _ _ => e_x0) fun x2 h1 => ?_
  refine e_pop rfl rfl ?_
  refine e_aload rfl rfl rfl ?_
  refine e_getA rfl fun r3 hr3 => ?_
  refine e_getA rfl fun r4 hr4 => ?_
  refine e_push rfl ?_
  refine e_iald rfl fun x5 => ?_
  refine e_push rfl ?_
  refine e_if2 rfl rfl ?_ ?_
  · refine e_push rfl ?_
    exact e_wk mP_X1_press (ll_1 (ll_1 ll_n))
  · refine e_aload rfl rfl rfl ?_
    refine e_getA rfl fun r6 hr6 => ?_
    refine e_getA rfl fun r7 hr7 => ?_
    refine e_ivI rfl rfl rfl (Nat.le_of_ble_eq_true rfl) (fun _ _ => e_x0) fun x9 h8 => ?_
    refine e_push rfl ?_
    refine e_if2 rfl rfl ?_ ?_
    · refine e_push rfl ?_
      exact e_wk mP_X1_press (ll_1 (ll_1 ll_n))
    · refine e_push rfl ?_
      refine e_goto rfl ?_
      exact e_wk mP_X1_press (ll_1 (ll_1 ll_n))
theorem m_X1_register {d : Nat} {v0 : Nat} {v1 : Int32} {h : ax_H}  : dx_le ((dx_gA [(19, 1)] (.ref v0) h).bind fun r1 => (dx_gA [(29, 0)] r1 h).bind fun r2 => dx_cI ((ax_c d) 232 [.int v1, .int 0, .int 3] h) (fun x4 h3 => (dx_lI 0 r2 (12 + x4) h3).bind fun x5 => some (.inl (some (.int x5)), h3)) dx_x0) (ax_c (d + 1) 253 [.ref v0, .int v1] h) := by
  refine e_entry (L' := [some (.ref v0), some (.int v1)]) rfl (ag_A rfl (ag_I ag_n)) (Nat.le_of_ble_eq_true rfl) rfl ?_
  refine e_aload rfl rfl rfl ?_
  refine e_getA rfl fun r1 hr1 => ?_
  refine e_getA rfl fun r2 hr2 => ?_
  refine e_push rfl ?_
  refine e_iload rfl rfl ?_
  refine e_push rfl ?_
  refine e_push rfl ?_
  refine e_isI rfl (Nat.le_of_ble_eq_true rfl) rfl rfl (Nat.le_of_ble_eq_true rfl) (fun _ _ => e_x0) fun x4 h3 => ?_
  refine e_i2 rfl ?_
  refine e_iald rfl fun x5 => ?_
  exact e_iret rfl
theorem m_X1_memory {d : Nat} {v0 : Nat} {v1 : Int32} {h : ax_H}  : dx_le ((dx_gA [(19, 1)] (.ref v0) h).bind fun r1 => (dx_gA [(29, 0)] r1 h).bind fun r2 => dx_cI ((ax_c d) 232 [.int v1, .int 0, .int 255] h) (fun x4 h3 => (dx_lI 0 r2 (108 + x4) h3).bind fun x5 => some (.inl (some (.int x5)), h3)) dx_x0) (ax_c (d + 1) 254 [.ref v0, .int v1] h) := by
  refine e_entry (L' := [some (.ref v0), some (.int v1)]) rfl (ag_A rfl (ag_I ag_n)) (Nat.le_of_ble_eq_true rfl) rfl ?_
  refine e_aload rfl rfl rfl ?_
  refine e_getA rfl fun r1 hr1 => ?_
  refine e_getA rfl fun r2 hr2 => ?_
  refine e_push rfl ?_
  refine e_iload rfl rfl ?_
  refine e_push rfl ?_
  refine e_push rfl ?_
  refine e_isI rfl (Nat.le_of_ble_eq_true rfl) rfl rfl (Nat.le_of_ble_eq_true rfl) (fun _ _ => e_x0) fun x4 h3 => ?_
  refine e_i2 rfl ?_
  refine e_iald rfl fun x5 => ?_
  exact e_iret rfl
theorem m_X1_changedAt {d : Nat} {v0 : Nat} {v1 : Int32} {h : ax_H}  : dx_le ((dx_gA [(19, 1)] (.ref v0) h).bind fun r1 => dx_cI ((ax_c d) 232 [.int v1, .int 0, .int 255] h) (fun x3 h2 => (dx_vn [(29, 350)] r1 h2).bind fun k => dx_cI ((ax_c d) k [r1, .int x3] h2) (fun x5 h4 => some (.inl (some (.int x5)), h4)) dx_x0) dx_x0) (ax_c (d + 1) 255 [.ref v0, .int v1] h) := by
  refine e_entry (L' := [some (.ref v0), some (.int v1)]) rfl (ag_A rfl (ag_I ag_n)) (Nat.le_of_ble_eq_true rfl) rfl ?_
  refine e_aload rfl rfl rfl ?_
  refine e_getA rfl fun r1 hr1 => ?_
  refine e_iload rfl rfl ?_
  refine e_push rfl ?_
  refine e_push rfl ?_
  refine e_isI rfl (Nat.le_of_ble_eq_true rfl) rfl rfl (Nat.le_of_ble_eq_true rfl) (fun _ _ => e_x0) fun x3 h2 => ?_
  refine e_ivI rfl rfl rfl (Nat.le_of_ble_eq_true rfl) (fun _ _ => e_x0) fun x5 h4 => ?_
  exact e_iret rfl
theorem m_X1_tapeAt {d : Nat} {v0 : Nat} {v1 : Int32} {h : ax_H}  : dx_le (if v1 < 0 then dx_nw h (.inr (6, [])) 6 fun a2 h1 => dx_ath hd_0 (.ref a2) h1 (fun _ _ => none) else (dx_gA [(19, 1)] (.ref v0) h).bind fun r3 => (dx_gA [(29, 0)] r3 h).bind fun r4 => (dx_lI 0 r4 17 h).bind fun x5 => if v1 < x5 then (dx_gA [(19, 1)] (.ref v0) h).bind fun r6 => (dx_gA [(29, 0)] r6 h).bind fun r7 => (dx_lI 0 r7 (48 + v1) h).bind fun x8 => some (.inl (some (.int x8)), h) else dx_nw h (.inr (6, [])) 6 fun a10 h9 => dx_ath hd_0 (.ref a10) h9 (fun _ _ => none)) (ax_c (d + 1) 256 [.ref v0, .int v1] h) := by
  refine e_entry (L' := [some (.ref v0), some (.int v1)]) rfl (ag_A rfl (ag_I ag_n)) (Nat.le_of_ble_eq_true rfl) rfl ?_
  refine e_iload rfl rfl ?_
  refine e_if1 rfl rfl ?_ ?_
  · refine e_mk rfl (Nat.le_of_ble_eq_true rfl) fun a2 h1 => ?_
    exact e_athrow rfl e_hn
  · refine e_iload rfl rfl ?_
    refine e_aload rfl rfl rfl ?_
    refine e_getA rfl fun r3 hr3 => ?_
    refine e_getA rfl fun r4 hr4 => ?_
    refine e_push rfl ?_
    refine e_iald rfl fun x5 => ?_
    refine e_if2 rfl rfl ?_ ?_
    · refine e_aload rfl rfl rfl ?_
      refine e_getA rfl fun r6 hr6 => ?_
      refine e_getA rfl fun r7 hr7 => ?_
      refine e_push rfl ?_
      refine e_iload rfl rfl ?_
      refine e_i2 rfl ?_
      refine e_iald rfl fun x8 => ?_
      exact e_iret rfl
    · refine e_mk rfl (Nat.le_of_ble_eq_true rfl) fun a10 h9 => ?_
      exact e_athrow rfl e_hn
theorem m_X1_sumAnew {d : Nat} {v0 : Nat} {v1 : Int32} {h : ax_H}  : dx_le ((dx_gA [(19, 1)] (.ref v0) h).bind fun r1 => (dx_vn [(29, 309)] r1 h).bind fun k => dx_cI ((ax_c d) k [r1] h) (fun x3 h2 => dx_cV ((ax_c d) 234 [.int x3] h2) (fun h4 => (dx_gA [(19, 1)] (.ref v0) h4).bind fun r5 => (dx_gA [(19, 1)] (.ref v0) h4).bind fun r6 => (dx_gA [(29, 0)] r6 h4).bind fun r7 => (dx_lI 0 r7 2 h4).bind fun x8 => dx_cI ((ax_c d) 232 [.int v1, .int 0, .int x8] h4) (fun x10 h9 => (dx_vn [(29, 351)] r5 h9).bind fun k => dx_cI ((ax_c d) k [r5, .int x10] h9) (fun x12 h11 => some (.inl (some (.int x12)), h11)) dx_x0) dx_x0) dx_x0) dx_x0) (ax_c (d + 1) 257 [.ref v0, .int v1] h) := by
  refine e_entry (L' := [some (.ref v0), some (.int v1)]) rfl (ag_A rfl (ag_I ag_n)) (Nat.le_of_ble_eq_true rfl) rfl ?_
  refine e_aload rfl rfl rfl ?_
  refine e_getA rfl fun r1 hr1 => ?_
  refine e_ivI rfl rfl rfl (Nat.le_of_ble_eq_true rfl) (fun _ _ => e_x0) fun x3 h2 => ?_
  refine e_isV rfl (Nat.le_of_ble_eq_true rfl) rfl rfl (Nat.le_of_ble_eq_true rfl) (fun _ _ => e_x0) fun h4 => ?_
  refine e_aload rfl rfl rfl ?_
  refine e_getA rfl fun r5 hr5 => ?_
  refine e_iload rfl rfl ?_
  refine e_push rfl ?_
  refine e_aload rfl rfl rfl ?_
  refine e_getA rfl fun r6 hr6 => ?_
  refine e_getA rfl fun r7 hr7 => ?_
  refine e_push rfl ?_
  refine e_iald rfl fun x8 => ?_
  refine e_isI rfl (Nat.le_of_ble_eq_true rfl) rfl rfl (Nat.le_of_ble_eq_true rfl) (fun _ _ => e_x0) fun x10 h9 => ?_
  refine e_ivI rfl rfl rfl (Nat.le_of_ble_eq_true rfl) (fun _ _ => e_x0) fun x12 h11 => ?_
  exact e_iret rfl
theorem m_X1_disk {d : Nat} {v0 : Nat} {v1 : Int32} {v2 : Int32} {h : ax_H}  : dx_le (dx_cI ((ax_c d) 232 [.int v1, .int 0, .int 31] h) (fun x2 h1 => (dx_gA [(19, 1)] (.ref v0) h1).bind fun r3 => (dx_gA [(29, 0)] r3 h1).bind fun r4 => dx_cI ((ax_c d) 232 [.int v2, .int 0, .int 7] h1) (fun x6 h5 => (dx_lI 0 r4 ((365 + (8 * v1)) + x6) h5).bind fun x7 => some (.inl (some (.int x7)), h5)) dx_x0) dx_x0) (ax_c (d + 1) 258 [.ref v0, .int v1, .int v2] h) := by
  refine e_entry (L' := [some (.ref v0), some (.int v1), some (.int v2)]) rfl (ag_A rfl (ag_I (ag_I ag_n))) (Nat.le_of_ble_eq_true rfl) rfl ?_
  refine e_iload rfl rfl ?_
  refine e_push rfl ?_
  refine e_push rfl ?_
  refine e_isI rfl (Nat.le_of_ble_eq_true rfl) rfl rfl (Nat.le_of_ble_eq_true rfl) (fun _ _ => e_x0) fun x2 h1 => ?_
  refine e_pop rfl rfl ?_
  refine e_aload rfl rfl rfl ?_
  refine e_getA rfl fun r3 hr3 => ?_
  refine e_getA rfl fun r4 hr4 => ?_
  refine e_push rfl ?_
  refine e_push rfl ?_
  refine e_iload rfl rfl ?_
  refine e_i2 rfl ?_
  refine e_i2 rfl ?_
  refine e_iload rfl rfl ?_
  refine e_push rfl ?_
  refine e_push rfl ?_
  refine e_isI rfl (Nat.le_of_ble_eq_true rfl) rfl rfl (Nat.le_of_ble_eq_true rfl) (fun _ _ => e_x0) fun x6 h5 => ?_
  refine e_i2 rfl ?_
  refine e_iald rfl fun x7 => ?_
  exact e_iret rfl
theorem m_X1_size {d : Nat} {v0 : Nat} {v1 : Int32} {h : ax_H}  : dx_le ((dx_gA [(19, 1)] (.ref v0) h).bind fun r1 => (dx_vn [(19, 260)] (.ref v0) h).bind fun k => dx_cI ((ax_c d) k [.ref v0, .int v1] h) (fun x3 h2 => (dx_vn [(29, 305)] r1 h2).bind fun k => dx_cI ((ax_c d) k [r1, .int x3, .int 1] h2) (fun x5 h4 => some (.inl (some (.int x5)), h4)) dx_x0) dx_x0) (ax_c (d + 1) 259 [.ref v0, .int v1] h) := by
  refine e_entry (L' := [some (.ref v0), some (.int v1)]) rfl (ag_A rfl (ag_I ag_n)) (Nat.le_of_ble_eq_true rfl) rfl ?_
  refine e_aload rfl rfl rfl ?_
  refine e_getA rfl fun r1 hr1 => ?_
  refine e_aload rfl rfl rfl ?_
  refine e_iload rfl rfl ?_
  refine e_ivI rfl rfl rfl (Nat.le_of_ble_eq_true rfl) (fun _ _ => e_x0) fun x3 h2 => ?_
  refine e_push rfl ?_
  refine e_ivI rfl rfl rfl (Nat.le_of_ble_eq_true rfl) (fun _ _ => e_x0) fun x5 h4 => ?_
  exact e_iret rfl
theorem m_X1_file {d : Nat} {v0 : Nat} {v1 : Int32} {h : ax_H}  : dx_le ((dx_gA [(19, 1)] (.ref v0) h).bind fun r1 => dx_cI ((ax_c d) 232 [.int v1, .int 1, .int 65535] h) (fun x3 h2 => (dx_vn [(29, 308)] r1 h2).bind fun k => dx_cI ((ax_c d) k [r1, .int x3] h2) (fun x5 h4 => if ¬ x5 = (-1) then some (.inl (some (.int x5)), h4) else dx_nw h4 (.inr (45, [.null])) 6 fun a7 h6 => dx_cV ((ax_c d) 83 [.ref a7, .ref 390] h6) (fun h8 => dx_ath hd_0 (.ref a7) h8 (fun _ _ => none)) dx_x0) dx_x0) dx_x0) (ax_c (d + 1) 260 [.ref v0, .int v1] h) := by
  refine e_entry (L' := [some (.ref v0), some (.int v1), none]) rfl (ag_A rfl (ag_I ag_n)) (Nat.le_of_ble_eq_true rfl) rfl ?_
  refine e_aload rfl rfl rfl ?_
  refine e_getA rfl fun r1 hr1 => ?_
  refine e_iload rfl rfl ?_
  refine e_push rfl ?_
  refine e_push rfl ?_
  refine e_isI rfl (Nat.le_of_ble_eq_true rfl) rfl rfl (Nat.le_of_ble_eq_true rfl) (fun _ _ => e_x0) fun x3 h2 => ?_
  refine e_ivI rfl rfl rfl (Nat.le_of_ble_eq_true rfl) (fun _ _ => e_x0) fun x5 h4 => ?_
  refine e_istore (L' := [some (.ref v0), some (.int v1), some (.int x5)]) rfl (dx_sto (Nat.le_of_ble_eq_true rfl) (Or.inr ⟨_, rfl, rfl⟩) rfl) ?_
  refine e_iload rfl rfl ?_
  refine e_push rfl ?_
  refine e_if2 rfl rfl ?_ ?_
  · refine e_iload rfl rfl ?_
    exact e_iret rfl
  · refine e_new rfl fun a7 h6 => ?_
    refine e_dup rfl rfl ?_
    refine e_push rfl ?_
    refine e_isprV rfl rfl rfl (Nat.le_of_ble_eq_true rfl) (fun _ _ => e_x0) fun h8 => ?_
    exact e_athrow rfl e_hn
theorem m_X1_wordOf {d : Nat} {v0 : Nat} {v1 : Int32} {v2 : Int32} {h : ax_H}  : dx_le ((dx_vn [(19, 260)] (.ref v0) h).bind fun k => dx_cI ((ax_c d) k [.ref v0, .int v1] h) (fun x2 h1 => if v2 < 0 then dx_nw h1 (.inr (6, [])) 6 fun a4 h3 => dx_ath hd_0 (.ref a4) h3 (fun _ _ => none) else (dx_gA [(19, 1)] (.ref v0) h1).bind fun r5 => (dx_vn [(29, 305)] r5 h1).bind fun k => dx_cI ((ax_c d) k [r5, .int x2, .int 1] h1) (fun x7 h6 => if v2 < x7 then (dx_gA [(19, 1)] (.ref v0) h6).bind fun r8 => (dx_vn [(29, 343)] r8 h6).bind fun k => dx_cI ((ax_c d) k [r8, .int x2, .int v2] h6) (fun x10 h9 => some (.inl (some (.int x10)), h9)) dx_x0 else dx_nw h6 (.inr (6, [])) 6 fun a12 h11 => dx_ath hd_0 (.ref a12) h11 (fun _ _ => none)) dx_x0) dx_x0) (ax_c (d + 1) 261 [.ref v0, .int v1, .int v2] h) := by
  refine e_entry (L' := [some (.ref v0), some (.int v1), some (.int v2), none]) rfl (ag_A rfl (ag_I (ag_I ag_n))) (Nat.le_of_ble_eq_true rfl) rfl ?_
  refine e_aload rfl rfl rfl ?_
  refine e_iload rfl rfl ?_
  refine e_ivI rfl rfl rfl (Nat.le_of_ble_eq_true rfl) (fun _ _ => e_x0) fun x2 h1 => ?_
  refine e_istore (L' := [some (.ref v0), some (.int v1), some (.int v2), some (.int x2)]) rfl (dx_sto (Nat.le_of_ble_eq_true rfl) (Or.inr ⟨_, rfl, rfl⟩) rfl) ?_
  refine e_iload rfl rfl ?_
  refine e_if1 rfl rfl ?_ ?_
  · refine e_mk rfl (Nat.le_of_ble_eq_true rfl) fun a4 h3 => ?_
    exact e_athrow rfl e_hn
  · refine e_iload rfl rfl ?_
    refine e_aload rfl rfl rfl ?_
    refine e_getA rfl fun r5 hr5 => ?_
    refine e_iload rfl rfl ?_
    refine e_push rfl ?_
    refine e_ivI rfl rfl rfl (Nat.le_of_ble_eq_true rfl) (fun _ _ => e_x0) fun x7 h6 => ?_
    refine e_if2 rfl rfl ?_ ?_
    · refine e_aload rfl rfl rfl ?_
      refine e_getA rfl fun r8 hr8 => ?_
      refine e_iload rfl rfl ?_
      refine e_iload rfl rfl ?_
      refine e_ivI rfl rfl rfl (Nat.le_of_ble_eq_true rfl) (fun _ _ => e_x0) fun x10 h9 => ?_
      exact e_iret rfl
    · refine e_mk rfl (Nat.le_of_ble_eq_true rfl) fun a12 h11 => ?_
      exact e_athrow rfl e_hn
theorem m_X1_testKey {d : Nat} {v0 : Nat} {v1 : Int32} {h : ax_H}  : dx_le ((dx_gA [(19, 3)] (.ref v0) h).bind fun r1 => dx_cI ((ax_c d) 263 [r1, .int v1] h) (fun x3 h2 => some (.inl (some (.int x3)), h2)) dx_x0) (ax_c (d + 1) 262 [.ref v0, .int v1] h) := by
  refine e_entry (L' := [some (.ref v0), some (.int v1)]) rfl (ag_A rfl (ag_I ag_n)) (Nat.le_of_ble_eq_true rfl) rfl ?_
  refine e_aload rfl rfl rfl ?_
  refine e_getA rfl fun r1 hr1 => ?_
  refine e_iload rfl rfl ?_
  refine e_isI rfl (Nat.le_of_ble_eq_true rfl) rfl rfl (Nat.le_of_ble_eq_true rfl) (fun _ _ => e_x0) fun x3 h2 => ?_
  exact e_iret rfl
noncomputable def B_X1_draft_22 (K : ax_K) (s0 : Int32) (v0 : Value) (v1 : Int32) (h : ax_H) : Option ax_R := ax_run K P_X1_draft 22 [some (v0), some (.int v1)] [.int s0] h
theorem b_X1_draft_22 {K : ax_K} {s0 : Int32} {v0 : Value} {v1 : Int32} {h : ax_H} (hv0 : ax_rv v0 = true) : dx_le (dx_cV (K 234 [.int s0] h) (fun h1 => dx_cR (K 76 [.int v1] h1) (fun r3 h2 => (dx_vn [(15, 139)] v0 h2).bind fun k => dx_cV (K k [v0, r3] h2) (fun h4 => (dx_vn [(15, 125)] v0 h4).bind fun k => dx_cI (K k [v0] h4) (fun x6 h5 => some (.inl (some (.int x6)), h5)) dx_x0) dx_x0) dx_x0) dx_x0) (B_X1_draft_22 K s0 v0 v1 h) := by
  show dx_le _ (ax_run K P_X1_draft 22 [some (v0), some (.int v1)] [.int s0] h)
  refine e_isV rfl (Nat.le_of_ble_eq_true rfl) rfl rfl (Nat.le_of_ble_eq_true rfl) (fun _ _ => e_x0) fun h1 => ?_
  refine e_aload rfl rfl hv0 ?_
  refine e_iload rfl rfl ?_
  refine e_isR rfl (Nat.le_of_ble_eq_true rfl) rfl rfl (Nat.le_of_ble_eq_true rfl) (fun _ _ => e_x0) fun r3 h2 hr3 => ?_
  refine e_ivV rfl rfl rfl (Nat.le_of_ble_eq_true rfl) (fun _ _ => e_x0) fun h4 => ?_
  refine e_aload rfl rfl hv0 ?_
  refine e_ivI rfl rfl rfl (Nat.le_of_ble_eq_true rfl) (fun _ _ => e_x0) fun x6 h5 => ?_
  exact e_iret rfl
theorem m_X1_draft {d : Nat} {v0 : Value} {v1 : Int32} {h : ax_H} (hv0 : ax_rv v0 = true) : dx_le (dx_cI ((ax_c d) 232 [.int v1, .int 0, .int 65535] h) (fun x2 h1 => (dx_vn [(15, 125)] v0 h1).bind fun k => dx_cI ((ax_c d) k [v0] h1) (fun x4 h3 => if (6 : Int32) ≤ x4 then B_X1_draft_22 (ax_c d) 0 v0 v1 h3 else B_X1_draft_22 (ax_c d) 1 v0 v1 h3) dx_x0) dx_x0) (ax_c (d + 1) 263 [v0, .int v1] h) := by
  refine e_entry (L' := [some (v0), some (.int v1)]) rfl (ag_A hv0 (ag_I ag_n)) (Nat.le_of_ble_eq_true rfl) rfl ?_
  refine e_iload rfl rfl ?_
  refine e_push rfl ?_
  refine e_push rfl ?_
  refine e_isI rfl (Nat.le_of_ble_eq_true rfl) rfl rfl (Nat.le_of_ble_eq_true rfl) (fun _ _ => e_x0) fun x2 h1 => ?_
  refine e_pop rfl rfl ?_
  refine e_aload rfl rfl hv0 ?_
  refine e_ivI rfl rfl rfl (Nat.le_of_ble_eq_true rfl) (fun _ _ => e_x0) fun x4 h3 => ?_
  refine e_push rfl ?_
  refine e_if2 rfl rfl ?_ ?_
  · refine e_push rfl ?_
    exact e_wk mP_X1_draft (ll_1 (ll_1 ll_n))
  · refine e_push rfl ?_
    refine e_goto rfl ?_
    exact e_wk mP_X1_draft (ll_1 (ll_1 ll_n))
theorem m_X1_testWord {d : Nat} {v0 : Nat} {v1 : Int32} {h : ax_H}  : dx_le ((dx_gA [(19, 4)] (.ref v0) h).bind fun r1 => dx_cI ((ax_c d) 263 [r1, .int v1] h) (fun x3 h2 => some (.inl (some (.int x3)), h2)) dx_x0) (ax_c (d + 1) 264 [.ref v0, .int v1] h) := by
  refine e_entry (L' := [some (.ref v0), some (.int v1)]) rfl (ag_A rfl (ag_I ag_n)) (Nat.le_of_ble_eq_true rfl) rfl ?_
  refine e_aload rfl rfl rfl ?_
  refine e_getA rfl fun r1 hr1 => ?_
  refine e_iload rfl rfl ?_
  refine e_isI rfl (Nat.le_of_ble_eq_true rfl) rfl rfl (Nat.le_of_ble_eq_true rfl) (fun _ _ => e_x0) fun x3 h2 => ?_
  exact e_iret rfl
noncomputable def B_X1_addTest_53 (K : ax_K) (s0 : Int32) (v0 : Nat) (v1 : Int32) (v2 : Int32) (v3 : Int32) (v4 : Int32) (h : ax_H) : Option ax_R := ax_run K P_X1_addTest 53 [some (.ref v0), some (.int v1), some (.int v2), some (.int v3), some (.int v4)] [.int s0] h
theorem b_X1_addTest_53 {K : ax_K} {s0 : Int32} {v0 : Nat} {v1 : Int32} {v2 : Int32} {v3 : Int32} {v4 : Int32} {h : ax_H}  : dx_le (dx_cV (K 234 [.int s0] h) (fun h1 => (dx_gA [(19, 2)] (.ref v0) h1).bind fun r2 => dx_nw h1 (.inr (37, [.null, .null, .int 0, .int 0, .int 0, .int 0, .int 0, .int 0])) 8 fun a4 h3 => (dx_gA [(19, 3)] (.ref v0) h3).bind fun r5 => dx_cR (K 266 [r5] h3) (fun r7 h6 => (dx_gA [(19, 4)] (.ref v0) h6).bind fun r8 => dx_cR (K 266 [r8] h6) (fun r10 h9 => dx_cV (K 367 [.ref a4, r7, r10, .int v1, .int v2, .int v3, .int v4] h9) (fun h11 => (dx_vn [(4, 63)] r2 h11).bind fun k => dx_cI (K k [r2, .ref a4] h11) (fun x13 h12 => (dx_gA [(19, 2)] (.ref v0) h12).bind fun r14 => (dx_vn [(4, 59)] r14 h12).bind fun k => dx_cI (K k [r14] h12) (fun x16 h15 => some (.inl (some (.int (x16 - 1))), h15)) dx_x0) dx_x0) dx_x0) dx_x0) dx_x0) dx_x0) (B_X1_addTest_53 K s0 v0 v1 v2 v3 v4 h) := by
  show dx_le _ (ax_run K P_X1_addTest 53 [some (.ref v0), some (.int v1), some (.int v2), some (.int v3), some (.int v4)] [.int s0] h)
  refine e_isV rfl (Nat.le_of_ble_eq_true rfl) rfl rfl (Nat.le_of_ble_eq_true rfl) (fun _ _ => e_x0) fun h1 => ?_
  refine e_aload rfl rfl rfl ?_
  refine e_getA rfl fun r2 hr2 => ?_
  refine e_new rfl fun a4 h3 => ?_
  refine e_dup rfl rfl ?_
  refine e_aload rfl rfl rfl ?_
  refine e_getA rfl fun r5 hr5 => ?_
  refine e_isR rfl (Nat.le_of_ble_eq_true rfl) rfl rfl (Nat.le_of_ble_eq_true rfl) (fun _ _ => e_x0) fun r7 h6 hr7 => ?_
  refine e_aload rfl rfl rfl ?_
  refine e_getA rfl fun r8 hr8 => ?_
  refine e_isR rfl (Nat.le_of_ble_eq_true rfl) rfl rfl (Nat.le_of_ble_eq_true rfl) (fun _ _ => e_x0) fun r10 h9 hr10 => ?_
  refine e_iload rfl rfl ?_
  refine e_iload rfl rfl ?_
  refine e_iload rfl rfl ?_
  refine e_iload rfl rfl ?_
  refine e_isprV rfl rfl rfl (Nat.le_of_ble_eq_true rfl) (fun _ _ => e_x0) fun h11 => ?_
  refine e_ivI rfl rfl rfl (Nat.le_of_ble_eq_true rfl) (fun _ _ => e_x0) fun x13 h12 => ?_
  refine e_pop rfl rfl ?_
  refine e_aload rfl rfl rfl ?_
  refine e_getA rfl fun r14 hr14 => ?_
  refine e_ivI rfl rfl rfl (Nat.le_of_ble_eq_true rfl) (fun _ _ => e_x0) fun x16 h15 => ?_
  refine e_push rfl ?_
  refine e_i2 rfl ?_
  exact e_iret rfl
theorem m_X1_addTest {d : Nat} {v0 : Nat} {v1 : Int32} {v2 : Int32} {v3 : Int32} {v4 : Int32} {h : ax_H}  : dx_le (dx_cI ((ax_c d) 232 [.int v1, .int 1, .int 500] h) (fun x2 h1 => dx_cI ((ax_c d) 232 [.int v2, .int 0, .int 100] h1) (fun x4 h3 => dx_cI ((ax_c d) 232 [.int v3, .int 1, .int 20] h3) (fun x6 h5 => dx_cI ((ax_c d) 232 [.int v4, .int 0, .int 500] h5) (fun x8 h7 => (dx_gA [(19, 2)] (.ref v0) h7).bind fun r9 => (dx_vn [(4, 59)] r9 h7).bind fun k => dx_cI ((ax_c d) k [r9] h7) (fun x11 h10 => if (5 : Int32) ≤ x11 then B_X1_addTest_53 (ax_c d) 0 v0 v1 v2 v3 v4 h10 else B_X1_addTest_53 (ax_c d) 1 v0 v1 v2 v3 v4 h10) dx_x0) dx_x0) dx_x0) dx_x0) dx_x0) (ax_c (d + 1) 265 [.ref v0, .int v1, .int v2, .int v3, .int v4] h) := by
  refine e_entry (L' := [some (.ref v0), some (.int v1), some (.int v2), some (.int v3), some (.int v4)]) rfl (ag_A rfl (ag_I (ag_I (ag_I (ag_I ag_n))))) (Nat.le_of_ble_eq_true rfl) rfl ?_
  refine e_iload rfl rfl ?_
  refine e_push rfl ?_
  refine e_push rfl ?_
  refine e_isI rfl (Nat.le_of_ble_eq_true rfl) rfl rfl (Nat.le_of_ble_eq_true rfl) (fun _ _ => e_x0) fun x2 h1 => ?_
  refine e_pop rfl rfl ?_
  refine e_iload rfl rfl ?_
  refine e_push rfl ?_
  refine e_push rfl ?_
  refine e_isI rfl (Nat.le_of_ble_eq_true rfl) rfl rfl (Nat.le_of_ble_eq_true rfl) (fun _ _ => e_x0) fun x4 h3 => ?_
  refine e_pop rfl rfl ?_
  refine e_iload rfl rfl ?_
  refine e_push rfl ?_
  refine e_push rfl ?_
  refine e_isI rfl (Nat.le_of_ble_eq_true rfl) rfl rfl (Nat.le_of_ble_eq_true rfl) (fun _ _ => e_x0) fun x6 h5 => ?_
  refine e_pop rfl rfl ?_
  refine e_iload rfl rfl ?_
  refine e_push rfl ?_
  refine e_push rfl ?_
  refine e_isI rfl (Nat.le_of_ble_eq_true rfl) rfl rfl (Nat.le_of_ble_eq_true rfl) (fun _ _ => e_x0) fun x8 h7 => ?_
  refine e_pop rfl rfl ?_
  refine e_aload rfl rfl rfl ?_
  refine e_getA rfl fun r9 hr9 => ?_
  refine e_ivI rfl rfl rfl (Nat.le_of_ble_eq_true rfl) (fun _ _ => e_x0) fun x11 h10 => ?_
  refine e_push rfl ?_
  refine e_if2 rfl rfl ?_ ?_
  · refine e_push rfl ?_
    exact e_wk mP_X1_addTest (ll_1 (ll_1 (ll_1 (ll_1 (ll_1 ll_n)))))
  · refine e_push rfl ?_
    refine e_goto rfl ?_
    exact e_wk mP_X1_addTest (ll_1 (ll_1 (ll_1 (ll_1 (ll_1 ll_n)))))
noncomputable def B_X1_taken_9 (K : ax_K) (v0 : Value) (v1 : Nat) (v2 : Int32) (h : ax_H) : Option ax_R := ax_run K P_X1_taken 9 [some (v0), some (.ref v1), some (.int v2)] [] h
theorem b_X1_taken_9 {K : ax_K} {v0 : Value} {v1 : Nat} {v2 : Int32} {h : ax_H} (hv0 : ax_rv v0 = true) : dx_le ((dx_len (.ref v1) h).bind fun x1 => if x1 ≤ v2 then some (.inl (some (.ref v1)), h) else (dx_vn [(15, 140)] v0 h).bind fun k => dx_cR (K k [v0] h) (fun r3 h2 => dx_cs [5] r3 h2 ((dx_vn [(5, 78)] r3 h2).bind fun k => dx_cI (K k [r3] h2) (fun x5 h4 => (dx_sI 0 (.ref v1) v2 x5 h4).bind fun h6 => dx_lt (v2 + 1) fun x7 => B_X1_taken_9 K v0 v1 x7 h6) dx_x0)) dx_x0) (B_X1_taken_9 K v0 v1 v2 h) := by
  show dx_le _ (ax_run K P_X1_taken 9 [some (v0), some (.ref v1), some (.int v2)] [] h)
  refine e_iload rfl rfl ?_
  refine e_aload rfl rfl rfl ?_
  refine e_alen rfl fun x1 => ?_
  refine e_if2 rfl rfl ?_ ?_
  · refine e_aload rfl rfl rfl ?_
    exact e_aret rfl rfl
  · refine e_aload rfl rfl rfl ?_
    refine e_iload rfl rfl ?_
    refine e_aload rfl rfl hv0 ?_
    refine e_ivR rfl rfl rfl (Nat.le_of_ble_eq_true rfl) (fun _ _ => e_x0) fun r3 h2 hr3 => ?_
    refine e_cast rfl ?_
    refine e_ivI rfl rfl rfl (Nat.le_of_ble_eq_true rfl) (fun _ _ => e_x0) fun x5 h4 => ?_
    refine e_iastI rfl fun h6 => ?_
    refine e_iinc (M := fun x7 => [some (v0), some (.ref v1), some (.int x7)]) rfl rfl (fun _ => dx_sto (Nat.le_of_ble_eq_true rfl) (Or.inr ⟨_, rfl, rfl⟩) rfl) fun x7 => ?_
    refine e_goto rfl ?_
    exact e_wk mP_X1_taken (ll_1 (ll_1 (ll_1 ll_n)))
theorem m_X1_taken {d : Nat} {v0 : Value} {h : ax_H} (hv0 : ax_rv v0 = true) : dx_le ((dx_vn [(15, 125)] v0 h).bind fun k => dx_cI ((ax_c d) k [v0] h) (fun x2 h1 => dx_na 0 0 x2 h1 fun a4 h3 => B_X1_taken_9 (ax_c d) v0 a4 0 h3) dx_x0) (ax_c (d + 1) 266 [v0] h) := by
  refine e_entry (L' := [some (v0), none, none]) rfl (ag_A hv0 ag_n) (Nat.le_of_ble_eq_true rfl) rfl ?_
  refine e_aload rfl rfl hv0 ?_
  refine e_ivI rfl rfl rfl (Nat.le_of_ble_eq_true rfl) (fun _ _ => e_x0) fun x2 h1 => ?_
  refine e_newa rfl fun a4 h3 => ?_
  refine e_astore (L' := [some (v0), some (.ref a4), none]) rfl rfl (dx_sto (Nat.le_of_ble_eq_true rfl) (Or.inr ⟨_, rfl, dx_nl hv0⟩) rfl) ?_
  refine e_push rfl ?_
  refine e_istore (L' := [some (v0), some (.ref a4), some (.int 0)]) rfl (dx_sto (Nat.le_of_ble_eq_true rfl) (Or.inr ⟨_, rfl, rfl⟩) rfl) ?_
  exact e_wk mP_X1_taken (ll_1 (ll_1 (ll_1 ll_n)))
noncomputable def B_X1_submit_12 (K : ax_K) (s0 : Int32) (v0 : Nat) (h : ax_H) : Option ax_R := ax_run K P_X1_submit 12 [some (.ref v0), none, none, none] [.int s0] h
noncomputable def B_X1_submit_27 (K : ax_K) (v0 : Nat) (v1 : Int32) (v2 : Value) (h : ax_H) : Option ax_R := ax_run K P_X1_submit 27 [some (.ref v0), some (.int v1), some (v2), none] [] h
theorem b_X1_submit_12 {K : ax_K} {s0 : Int32} {v0 : Nat} {h : ax_H}  : dx_le (dx_cV (K 234 [.int s0] h) (fun h1 => (dx_gA [(19, 2)] (.ref v0) h1).bind fun r2 => (dx_vn [(4, 67)] r2 h1).bind fun k => dx_cR (K k [r2] h1) (fun r4 h3 => B_X1_submit_27 K v0 0 r4 h3) dx_x0) dx_x0) (B_X1_submit_12 K s0 v0 h) := by
  show dx_le _ (ax_run K P_X1_submit 12 [some (.ref v0), none, none, none] [.int s0] h)
  refine e_isV rfl (Nat.le_of_ble_eq_true rfl) rfl rfl (Nat.le_of_ble_eq_true rfl) (fun _ _ => e_x0) fun h1 => ?_
  refine e_push rfl ?_
  refine e_istore (L' := [some (.ref v0), some (.int 0), none, none]) rfl (dx_sto (Nat.le_of_ble_eq_true rfl) (Or.inr ⟨_, rfl, rfl⟩) rfl) ?_
  refine e_aload rfl rfl rfl ?_
  refine e_getA rfl fun r2 hr2 => ?_
  refine e_ivR rfl rfl rfl (Nat.le_of_ble_eq_true rfl) (fun _ _ => e_x0) fun r4 h3 hr4 => ?_
  refine e_astore (L' := [some (.ref v0), some (.int 0), some (r4), none]) rfl hr4 (dx_sto (Nat.le_of_ble_eq_true rfl) (Or.inr ⟨_, rfl, rfl⟩) rfl) ?_
  exact e_wk mP_X1_submit (ll_1 (ll_1 (ll_1 (ll_0 ll_n))))
theorem b_X1_submit_27 {K : ax_K} {v0 : Nat} {v1 : Int32} {v2 : Value} {h : ax_H} (hv2 : ax_rv v2 = true) : dx_le ((dx_vn [(10, 92), (13, 110)] v2 h).bind fun k => dx_cI (K k [v2] h) (fun x2 h1 => if x2 = 0 then some (.inl (some (.int v1)), h1) else (dx_vn [(10, 94), (13, 111)] v2 h1).bind fun k => dx_cR (K k [v2] h1) (fun r4 h3 => dx_cs [37] r4 h3 ((dx_gA [(19, 5)] (.ref v0) h3).bind fun r5 => (dx_vn [(37, 368)] r4 h3).bind fun k => dx_cV (K k [r4, r5] h3) (fun h6 => (dx_gI [(37, 6)] r4 h6).bind fun x7 => if ¬ x7 = 0 then dx_lt (v1 + 0) fun x8 => B_X1_submit_27 K v0 x8 v2 h6 else dx_lt (v1 + 1) fun x9 => B_X1_submit_27 K v0 x9 v2 h6) dx_x0)) dx_x0) dx_x0) (B_X1_submit_27 K v0 v1 v2 h) := by
  show dx_le _ (ax_run K P_X1_submit 27 [some (.ref v0), some (.int v1), some (v2), none] [] h)
  refine e_aload rfl rfl hv2 ?_
  refine e_ivI rfl rfl rfl (Nat.le_of_ble_eq_true rfl) (fun _ _ => e_x0) fun x2 h1 => ?_
  refine e_if1 rfl rfl ?_ ?_
  · refine e_iload rfl rfl ?_
    exact e_iret rfl
  · refine e_aload rfl rfl hv2 ?_
    refine e_ivR rfl rfl rfl (Nat.le_of_ble_eq_true rfl) (fun _ _ => e_x0) fun r4 h3 hr4 => ?_
    refine e_cast rfl ?_
    refine e_astore (L' := [some (.ref v0), some (.int v1), some (v2), some (r4)]) rfl hr4 (dx_sto (Nat.le_of_ble_eq_true rfl) (Or.inr ⟨_, rfl, dx_nl hv2⟩) rfl) ?_
    refine e_aload rfl rfl hr4 ?_
    refine e_aload rfl rfl rfl ?_
    refine e_getA rfl fun r5 hr5 => ?_
    refine e_ivV rfl rfl rfl (Nat.le_of_ble_eq_true rfl) (fun _ _ => e_x0) fun h6 => ?_
    refine e_iload rfl rfl ?_
    refine e_aload rfl rfl hr4 ?_
    refine e_getI rfl fun x7 => ?_
    refine e_if1 rfl rfl ?_ ?_
    · refine e_push rfl ?_
      refine e_i2 rfl ?_
      refine e_istoreL (M := fun x8 => [some (.ref v0), some (.int x8), some (v2), some (r4)]) rfl (fun _ => dx_sto (Nat.le_of_ble_eq_true rfl) (Or.inr ⟨_, rfl, rfl⟩) rfl) fun x8 => ?_
      refine e_goto rfl ?_
      exact e_wk mP_X1_submit (ll_1 (ll_1 (ll_1 (ll_0 ll_n))))
    · refine e_push rfl ?_
      refine e_goto rfl ?_
      refine e_i2 rfl ?_
      refine e_istoreL (M := fun x9 => [some (.ref v0), some (.int x9), some (v2), some (r4)]) rfl (fun _ => dx_sto (Nat.le_of_ble_eq_true rfl) (Or.inr ⟨_, rfl, rfl⟩) rfl) fun x9 => ?_
      refine e_goto rfl ?_
      exact e_wk mP_X1_submit (ll_1 (ll_1 (ll_1 (ll_0 ll_n))))
theorem m_X1_submit {d : Nat} {v0 : Nat} {h : ax_H}  : dx_le ((dx_gA [(19, 5)] (.ref v0) h).bind fun r1 => dx_nul r1 (B_X1_submit_12 (ax_c d) 0 v0 h) (B_X1_submit_12 (ax_c d) 1 v0 h)) (ax_c (d + 1) 267 [.ref v0] h) := by
  refine e_entry (L' := [some (.ref v0), none, none, none]) rfl (ag_A rfl ag_n) (Nat.le_of_ble_eq_true rfl) rfl ?_
  refine e_aload rfl rfl rfl ?_
  refine e_getA rfl fun r1 hr1 => ?_
  refine e_null rfl ?_ ?_
  · refine e_push rfl ?_
    exact e_wk mP_X1_submit (ll_1 (ll_0 (ll_0 (ll_0 ll_n))))
  · refine e_push rfl ?_
    refine e_goto rfl ?_
    exact e_wk mP_X1_submit (ll_1 (ll_0 (ll_0 (ll_0 ll_n))))
theorem m_X1_result {d : Nat} {v0 : Nat} {v1 : Int32} {h : ax_H}  : dx_le (if v1 < 0 then dx_nw h (.inr (46, [.null])) 6 fun a2 h1 => dx_cV ((ax_c d) 80 [.ref a2, .ref 391] h1) (fun h3 => dx_ath hd_0 (.ref a2) h3 (fun _ _ => none)) dx_x0 else (dx_gA [(19, 2)] (.ref v0) h).bind fun r4 => (dx_vn [(4, 59)] r4 h).bind fun k => dx_cI ((ax_c d) k [r4] h) (fun x6 h5 => if v1 < x6 then (dx_gA [(19, 2)] (.ref v0) h5).bind fun r7 => (dx_vn [(4, 61)] r7 h5).bind fun k => dx_cR ((ax_c d) k [r7, .int v1] h5) (fun r9 h8 => dx_cs [37] r9 h8 ((dx_gI [(37, 6)] r9 h8).bind fun x10 => some (.inl (some (.int x10)), h8))) dx_x0 else dx_nw h5 (.inr (46, [.null])) 6 fun a12 h11 => dx_cV ((ax_c d) 80 [.ref a12, .ref 391] h11) (fun h13 => dx_ath hd_0 (.ref a12) h13 (fun _ _ => none)) dx_x0) dx_x0) (ax_c (d + 1) 268 [.ref v0, .int v1] h) := by
  refine e_entry (L' := [some (.ref v0), some (.int v1)]) rfl (ag_A rfl (ag_I ag_n)) (Nat.le_of_ble_eq_true rfl) rfl ?_
  refine e_iload rfl rfl ?_
  refine e_if1 rfl rfl ?_ ?_
  · refine e_new rfl fun a2 h1 => ?_
    refine e_dup rfl rfl ?_
    refine e_push rfl ?_
    refine e_isprV rfl rfl rfl (Nat.le_of_ble_eq_true rfl) (fun _ _ => e_x0) fun h3 => ?_
    exact e_athrow rfl e_hn
  · refine e_iload rfl rfl ?_
    refine e_aload rfl rfl rfl ?_
    refine e_getA rfl fun r4 hr4 => ?_
    refine e_ivI rfl rfl rfl (Nat.le_of_ble_eq_true rfl) (fun _ _ => e_x0) fun x6 h5 => ?_
    refine e_if2 rfl rfl ?_ ?_
    · refine e_aload rfl rfl rfl ?_
      refine e_getA rfl fun r7 hr7 => ?_
      refine e_iload rfl rfl ?_
      refine e_ivR rfl rfl rfl (Nat.le_of_ble_eq_true rfl) (fun _ _ => e_x0) fun r9 h8 hr9 => ?_
      refine e_cast rfl ?_
      refine e_getI rfl fun x10 => ?_
      exact e_iret rfl
    · refine e_new rfl fun a12 h11 => ?_
      refine e_dup rfl rfl ?_
      refine e_push rfl ?_
      refine e_isprV rfl rfl rfl (Nat.le_of_ble_eq_true rfl) (fun _ _ => e_x0) fun h13 => ?_
      exact e_athrow rfl e_hn
noncomputable def B_X10_go_3 (K : ax_K) (v0 : Nat) (v1 : Value) (v3 : Int32) (v4 : Int32) (h : ax_H) : Option ax_R := ax_run K P_X10_go 3 [some (.ref v0), some (v1), none, some (.int v3), some (.int v4)] [] h
theorem b_X10_go_3 {K : ax_K} {v0 : Nat} {v1 : Value} {v3 : Int32} {v4 : Int32} {h : ax_H} (hv1 : ax_rv v1 = true) : dx_le ((dx_gI [(20, 0)] (.ref v0) h).bind fun x1 => if x1 ≤ v4 then some (.inl (some (.int (v3 + 1))), h) else (dx_vn [(27, 292), (30, 353)] v1 h).bind fun k => dx_cV (K k [v1, .int 0, .int v3] h) (fun h2 => dx_lt (v4 + 1) fun x3 => B_X10_go_3 K v0 v1 v3 x3 h2) dx_x0) (B_X10_go_3 K v0 v1 v3 v4 h) := by
  show dx_le _ (ax_run K P_X10_go 3 [some (.ref v0), some (v1), none, some (.int v3), some (.int v4)] [] h)
  refine e_iload rfl rfl ?_
  refine e_aload rfl rfl rfl ?_
  refine e_getI rfl fun x1 => ?_
  refine e_if2 rfl rfl ?_ ?_
  · refine e_iload rfl rfl ?_
    refine e_push rfl ?_
    refine e_i2 rfl ?_
    exact e_iret rfl
  · refine e_aload rfl rfl hv1 ?_
    refine e_push rfl ?_
    refine e_iload rfl rfl ?_
    refine e_ivV rfl rfl rfl (Nat.le_of_ble_eq_true rfl) (fun _ _ => e_x0) fun h2 => ?_
    refine e_iinc (M := fun x3 => [some (.ref v0), some (v1), none, some (.int v3), some (.int x3)]) rfl rfl (fun _ => dx_sto (Nat.le_of_ble_eq_true rfl) (Or.inr ⟨_, rfl, rfl⟩) rfl) fun x3 => ?_
    refine e_goto rfl ?_
    exact e_wk mP_X10_go (ll_1 (ll_1 (ll_0 (ll_1 (ll_1 ll_n)))))
theorem m_X10_go {d : Nat} {v0 : Nat} {v1 : Value} {v2 : Value} {v3 : Int32} {h : ax_H} (hv1 : ax_rv v1 = true) (hv2 : ax_rv v2 = true) : dx_le (B_X10_go_3 (ax_c d) v0 v1 v3 0 h) (ax_c (d + 1) 269 [.ref v0, v1, v2, .int v3] h) := by
  refine e_entry (L' := [some (.ref v0), some (v1), some (v2), some (.int v3), none]) rfl (ag_A rfl (ag_A hv1 (ag_A hv2 (ag_I ag_n)))) (Nat.le_of_ble_eq_true rfl) rfl ?_
  refine e_push rfl ?_
  refine e_istore (L' := [some (.ref v0), some (v1), some (v2), some (.int v3), some (.int 0)]) rfl (dx_sto (Nat.le_of_ble_eq_true rfl) (Or.inr ⟨_, rfl, rfl⟩) rfl) ?_
  exact e_wk mP_X10_go (ll_1 (ll_1 (ll_0 (ll_1 (ll_1 ll_n)))))
theorem m_X10_init {d : Nat} {v0 : Nat} {v1 : Value} {v2 : Int32} {h : ax_H} (hv1 : ax_rv v1 = true) : dx_le ((dx_pF [(20, 1)] (.object "KernelGym") (.ref v0) v1 h).bind fun h1 => (dx_pF [(20, 0)] (.int) (.ref v0) (.int v2) h1).bind fun h2 => dx_cV ((ax_c d) 494 [.ref v0] h2) (fun h3 => some (.inl none, h3)) dx_x0) (ax_c (d + 1) 270 [.ref v0, v1, .int v2] h) := by
  refine e_entry (L' := [some (.ref v0), some (v1), some (.int v2)]) rfl (ag_A rfl (ag_A hv1 (ag_I ag_n))) (Nat.le_of_ble_eq_true rfl) rfl ?_
  refine e_aload rfl rfl rfl ?_
  refine e_aload rfl rfl hv1 ?_
  refine e_putf rfl fun h1 => ?_
  refine e_aload rfl rfl rfl ?_
  refine e_iload rfl rfl ?_
  refine e_putf rfl fun h2 => ?_
  refine e_aload rfl rfl rfl ?_
  refine e_isprV rfl rfl rfl (Nat.le_of_ble_eq_true rfl) (fun _ _ => e_x0) fun h3 => ?_
  exact e_ret rfl
theorem m_X11_go {d : Nat} {v0 : Nat} {v1 : Value} {v2 : Value} {v3 : Int32} {h : ax_H} (hv1 : ax_rv v1 = true) (hv2 : ax_rv v2 = true) : dx_le ((dx_gI [(21, 0)] (.ref v0) h).bind fun x1 => (dx_gA [(21, 1)] (.ref v0) h).bind fun r2 => (dx_vn [(27, 293), (30, 354)] v1 h).bind fun k => dx_cI ((ax_c d) k [v1, r2, v2, .int v3] h) (fun x4 h3 => (dx_vn [(27, 294), (30, 355)] v1 h3).bind fun k => dx_cV ((ax_c d) k [v1, .int x1, .int x4] h3) (fun h5 => some (.inl (some (.int (v3 + 1))), h5)) dx_x0) dx_x0) (ax_c (d + 1) 271 [.ref v0, v1, v2, .int v3] h) := by
  refine e_entry (L' := [some (.ref v0), some (v1), some (v2), some (.int v3)]) rfl (ag_A rfl (ag_A hv1 (ag_A hv2 (ag_I ag_n)))) (Nat.le_of_ble_eq_true rfl) rfl ?_
  refine e_aload rfl rfl hv1 ?_
  refine e_aload rfl rfl rfl ?_
  refine e_getI rfl fun x1 => ?_
  refine e_aload rfl rfl hv1 ?_
  refine e_aload rfl rfl rfl ?_
  refine e_getA rfl fun r2 hr2 => ?_
  refine e_aload rfl rfl hv2 ?_
  refine e_iload rfl rfl ?_
  refine e_ivI rfl rfl rfl (Nat.le_of_ble_eq_true rfl) (fun _ _ => e_x0) fun x4 h3 => ?_
  refine e_ivV rfl rfl rfl (Nat.le_of_ble_eq_true rfl) (fun _ _ => e_x0) fun h5 => ?_
  refine e_iload rfl rfl ?_
  refine e_push rfl ?_
  refine e_i2 rfl ?_
  exact e_iret rfl
theorem m_X11_init {d : Nat} {v0 : Nat} {v1 : Value} {v2 : Int32} {v3 : Value} {h : ax_H} (hv1 : ax_rv v1 = true) (hv3 : ax_rv v3 = true) : dx_le ((dx_pF [(21, 2)] (.object "KernelGym") (.ref v0) v1 h).bind fun h1 => (dx_pF [(21, 0)] (.int) (.ref v0) (.int v2) h1).bind fun h2 => (dx_pF [(21, 1)] (.object "KernelGym$Operand") (.ref v0) v3 h2).bind fun h3 => dx_cV ((ax_c d) 494 [.ref v0] h3) (fun h4 => some (.inl none, h4)) dx_x0) (ax_c (d + 1) 272 [.ref v0, v1, .int v2, v3] h) := by
  refine e_entry (L' := [some (.ref v0), some (v1), some (.int v2), some (v3)]) rfl (ag_A rfl (ag_A hv1 (ag_I (ag_A hv3 ag_n)))) (Nat.le_of_ble_eq_true rfl) rfl ?_
  refine e_aload rfl rfl rfl ?_
  refine e_aload rfl rfl hv1 ?_
  refine e_putf rfl fun h1 => ?_
  refine e_aload rfl rfl rfl ?_
  refine e_iload rfl rfl ?_
  refine e_putf rfl fun h2 => ?_
  refine e_aload rfl rfl rfl ?_
  refine e_aload rfl rfl hv3 ?_
  refine e_putf rfl fun h3 => ?_
  refine e_aload rfl rfl rfl ?_
  refine e_isprV rfl rfl rfl (Nat.le_of_ble_eq_true rfl) (fun _ _ => e_x0) fun h4 => ?_
  exact e_ret rfl
theorem m_X12_go {d : Nat} {v0 : Nat} {v1 : Value} {v2 : Value} {v3 : Int32} {h : ax_H} (hv1 : ax_rv v1 = true) (hv2 : ax_rv v2 = true) : dx_le ((dx_gI [(22, 0)] (.ref v0) h).bind fun x1 => (dx_vn [(27, 288), (30, 288)] v1 h).bind fun k => dx_cI ((ax_c d) k [v1, .int x1, .int v3] h) (fun x3 h2 => some (.inl (some (.int x3)), h2)) dx_x0) (ax_c (d + 1) 273 [.ref v0, v1, v2, .int v3] h) := by
  refine e_entry (L' := [some (.ref v0), some (v1), some (v2), some (.int v3)]) rfl (ag_A rfl (ag_A hv1 (ag_A hv2 (ag_I ag_n)))) (Nat.le_of_ble_eq_true rfl) rfl ?_
  refine e_aload rfl rfl hv1 ?_
  refine e_aload rfl rfl rfl ?_
  refine e_getI rfl fun x1 => ?_
  refine e_iload rfl rfl ?_
  refine e_ivI rfl rfl rfl (Nat.le_of_ble_eq_true rfl) (fun _ _ => e_x0) fun x3 h2 => ?_
  exact e_iret rfl
theorem m_X12_beginsMacro {d : Nat} {v0 : Nat} {h : ax_H}  : dx_le (some (.inl (some (.int 1)), h)) (ax_c (d + 1) 274 [.ref v0] h) := by
  refine e_entry (L' := [some (.ref v0)]) rfl (ag_A rfl ag_n) (Nat.le_of_ble_eq_true rfl) rfl ?_
  refine e_push rfl ?_
  exact e_zret1 rfl
theorem m_X12_init {d : Nat} {v0 : Nat} {v1 : Value} {v2 : Int32} {h : ax_H} (hv1 : ax_rv v1 = true) : dx_le ((dx_pF [(22, 1)] (.object "KernelGym") (.ref v0) v1 h).bind fun h1 => (dx_pF [(22, 0)] (.int) (.ref v0) (.int v2) h1).bind fun h2 => dx_cV ((ax_c d) 494 [.ref v0] h2) (fun h3 => some (.inl none, h3)) dx_x0) (ax_c (d + 1) 275 [.ref v0, v1, .int v2] h) := by
  refine e_entry (L' := [some (.ref v0), some (v1), some (.int v2)]) rfl (ag_A rfl (ag_A hv1 (ag_I ag_n))) (Nat.le_of_ble_eq_true rfl) rfl ?_
  refine e_aload rfl rfl rfl ?_
  refine e_aload rfl rfl hv1 ?_
  refine e_putf rfl fun h1 => ?_
  refine e_aload rfl rfl rfl ?_
  refine e_iload rfl rfl ?_
  refine e_putf rfl fun h2 => ?_
  refine e_aload rfl rfl rfl ?_
  refine e_isprV rfl rfl rfl (Nat.le_of_ble_eq_true rfl) (fun _ _ => e_x0) fun h3 => ?_
  exact e_ret rfl
theorem m_X13_endsMacro {d : Nat} {v0 : Nat} {h : ax_H}  : dx_le (some (.inl (some (.int 1)), h)) (ax_c (d + 1) 276 [.ref v0] h) := by
  refine e_entry (L' := [some (.ref v0)]) rfl (ag_A rfl ag_n) (Nat.le_of_ble_eq_true rfl) rfl ?_
  refine e_push rfl ?_
  exact e_zret1 rfl
theorem m_X13_go {d : Nat} {v0 : Nat} {v1 : Value} {v2 : Value} {v3 : Int32} {h : ax_H} (hv1 : ax_rv v1 = true) (hv2 : ax_rv v2 = true) : dx_le (dx_nw h (.inr (28, [.int 0, .int 0, .null])) 8 fun a2 h1 => dx_cV ((ax_c d) 296 [.ref a2, .int 4, .int v3] h1) (fun h3 => dx_ath hd_0 (.ref a2) h3 (fun _ _ => none)) dx_x0) (ax_c (d + 1) 277 [.ref v0, v1, v2, .int v3] h) := by
  refine e_entry (L' := [some (.ref v0), some (v1), some (v2), some (.int v3)]) rfl (ag_A rfl (ag_A hv1 (ag_A hv2 (ag_I ag_n)))) (Nat.le_of_ble_eq_true rfl) rfl ?_
  refine e_new rfl fun a2 h1 => ?_
  refine e_dup rfl rfl ?_
  refine e_push rfl ?_
  refine e_iload rfl rfl ?_
  refine e_isprV rfl rfl rfl (Nat.le_of_ble_eq_true rfl) (fun _ _ => e_x0) fun h3 => ?_
  exact e_athrow rfl e_hn
theorem m_X13_init {d : Nat} {v0 : Nat} {v1 : Value} {h : ax_H} (hv1 : ax_rv v1 = true) : dx_le ((dx_pF [(23, 0)] (.object "KernelGym") (.ref v0) v1 h).bind fun h1 => dx_cV ((ax_c d) 494 [.ref v0] h1) (fun h2 => some (.inl none, h2)) dx_x0) (ax_c (d + 1) 278 [.ref v0, v1] h) := by
  refine e_entry (L' := [some (.ref v0), some (v1)]) rfl (ag_A rfl (ag_A hv1 ag_n)) (Nat.le_of_ble_eq_true rfl) rfl ?_
  refine e_aload rfl rfl rfl ?_
  refine e_aload rfl rfl hv1 ?_
  refine e_putf rfl fun h1 => ?_
  refine e_aload rfl rfl rfl ?_
  refine e_isprV rfl rfl rfl (Nat.le_of_ble_eq_true rfl) (fun _ _ => e_x0) fun h2 => ?_
  exact e_ret rfl
theorem m_X14_go {d : Nat} {v0 : Nat} {v1 : Value} {v2 : Value} {v3 : Int32} {h : ax_H} (hv1 : ax_rv v1 = true) (hv2 : ax_rv v2 = true) : dx_le ((dx_gI [(24, 0)] (.ref v0) h).bind fun x1 => (dx_gA [(24, 1)] (.ref v0) h).bind fun r2 => (dx_gA [(24, 2)] (.ref v0) h).bind fun r3 => (dx_vn [(27, 289), (30, 289)] v1 h).bind fun k => dx_cV ((ax_c d) k [v1, .int x1, r2, r3, v2, .int v3] h) (fun h4 => some (.inl (some (.int (v3 + 1))), h4)) dx_x0) (ax_c (d + 1) 279 [.ref v0, v1, v2, .int v3] h) := by
  refine e_entry (L' := [some (.ref v0), some (v1), some (v2), some (.int v3)]) rfl (ag_A rfl (ag_A hv1 (ag_A hv2 (ag_I ag_n)))) (Nat.le_of_ble_eq_true rfl) rfl ?_
  refine e_aload rfl rfl hv1 ?_
  refine e_aload rfl rfl rfl ?_
  refine e_getI rfl fun x1 => ?_
  refine e_aload rfl rfl rfl ?_
  refine e_getA rfl fun r2 hr2 => ?_
  refine e_aload rfl rfl rfl ?_
  refine e_getA rfl fun r3 hr3 => ?_
  refine e_aload rfl rfl hv2 ?_
  refine e_iload rfl rfl ?_
  refine e_ivV rfl rfl rfl (Nat.le_of_ble_eq_true rfl) (fun _ _ => e_x0) fun h4 => ?_
  refine e_iload rfl rfl ?_
  refine e_push rfl ?_
  refine e_i2 rfl ?_
  exact e_iret rfl
theorem m_X14_init {d : Nat} {v0 : Nat} {v1 : Value} {v2 : Int32} {v3 : Value} {v4 : Value} {h : ax_H} (hv1 : ax_rv v1 = true) (hv3 : ax_rv v3 = true) (hv4 : ax_rv v4 = true) : dx_le ((dx_pF [(24, 3)] (.object "KernelGym") (.ref v0) v1 h).bind fun h1 => (dx_pF [(24, 0)] (.int) (.ref v0) (.int v2) h1).bind fun h2 => (dx_pF [(24, 1)] (.object "KernelGym$Operand") (.ref v0) v3 h2).bind fun h3 => (dx_pF [(24, 2)] (.object "KernelGym$Operand") (.ref v0) v4 h3).bind fun h4 => dx_cV ((ax_c d) 494 [.ref v0] h4) (fun h5 => some (.inl none, h5)) dx_x0) (ax_c (d + 1) 280 [.ref v0, v1, .int v2, v3, v4] h) := by
  refine e_entry (L' := [some (.ref v0), some (v1), some (.int v2), some (v3), some (v4)]) rfl (ag_A rfl (ag_A hv1 (ag_I (ag_A hv3 (ag_A hv4 ag_n))))) (Nat.le_of_ble_eq_true rfl) rfl ?_
  refine e_aload rfl rfl rfl ?_
  refine e_aload rfl rfl hv1 ?_
  refine e_putf rfl fun h1 => ?_
  refine e_aload rfl rfl rfl ?_
  refine e_iload rfl rfl ?_
  refine e_putf rfl fun h2 => ?_
  refine e_aload rfl rfl rfl ?_
  refine e_aload rfl rfl hv3 ?_
  refine e_putf rfl fun h3 => ?_
  refine e_aload rfl rfl rfl ?_
  refine e_aload rfl rfl hv4 ?_
  refine e_putf rfl fun h4 => ?_
  refine e_aload rfl rfl rfl ?_
  refine e_isprV rfl rfl rfl (Nat.le_of_ble_eq_true rfl) (fun _ _ => e_x0) fun h5 => ?_
  exact e_ret rfl
noncomputable def B_X15_init_51 (K : ax_K) (v0 : Nat) (v1 : Value) (v2 : Int32) (h : ax_H) : Option ax_R := ax_run K P_X15_init 51 [some (.ref v0), some (v1), some (.int v2)] [] h
theorem b_X15_init_51 {K : ax_K} {v0 : Nat} {v1 : Value} {v2 : Int32} {h : ax_H} (hv1 : ax_rv v1 = true) : dx_le (if (16 : Int32) ≤ v2 then dx_nw h (.inr (27, [.null, .int 0, .null, .null, .null, .int 0, .int 0, .null, .null, .null])) 10 fun a2 h1 => dx_cV (K 290 [.ref a2, .ref v0, v1] h1) (fun h3 => (dx_gA [(19, 0)] v1 h3).bind fun r4 => (dx_vn [(4, 59)] r4 h3).bind fun k => dx_cI (K k [r4] h3) (fun x6 h5 => (dx_gA [(25, 1)] (.ref v0) h5).bind fun r7 => (dx_vn [(27, 287), (30, 287)] (.ref a2) h5).bind fun k => dx_cV (K k [.ref a2, .int 0, .int x6, r7] h5) (fun h8 => (dx_gA [(27, 0), (30, 0)] (.ref a2) h8).bind fun r9 => (dx_lI 0 r9 0 h8).bind fun x10 => (dx_pF [(25, 4)] (.int) (.ref v0) (.int (8 + x10)) h8).bind fun h11 => (dx_gA [(27, 0), (30, 0)] (.ref a2) h11).bind fun r12 => (dx_lI 0 r12 0 h11).bind fun x13 => (dx_gA [(27, 0), (30, 0)] (.ref a2) h11).bind fun r14 => (dx_lI 0 r14 1 h11).bind fun x15 => (dx_pF [(25, 5)] (.int) (.ref v0) (.int (x13 + x15)) h11).bind fun h16 => (dx_vn [(25, 284)] (.ref v0) h16).bind fun k => dx_cV (K k [.ref v0] h16) (fun h17 => some (.inl none, h17)) dx_x0) dx_x0) dx_x0) dx_x0 else (dx_gA [(25, 0)] (.ref v0) h).bind fun r18 => (dx_sI 0 r18 v2 (-1) h).bind fun h19 => dx_lt (v2 + 1) fun x20 => B_X15_init_51 K v0 v1 x20 h19) (B_X15_init_51 K v0 v1 v2 h) := by
  show dx_le _ (ax_run K P_X15_init 51 [some (.ref v0), some (v1), some (.int v2)] [] h)
  refine e_iload rfl rfl ?_
  refine e_push rfl ?_
  refine e_if2 rfl rfl ?_ ?_
  · refine e_new rfl fun a2 h1 => ?_
    refine e_dup rfl rfl ?_
    refine e_aload rfl rfl rfl ?_
    refine e_aload rfl rfl hv1 ?_
    refine e_isprV rfl rfl rfl (Nat.le_of_ble_eq_true rfl) (fun _ _ => e_x0) fun h3 => ?_
    refine e_astore (L' := [some (.ref v0), some (v1), some (.ref a2)]) rfl rfl (dx_sto (Nat.le_of_ble_eq_true rfl) (Or.inr ⟨_, rfl, dx_nl hv1⟩) rfl) ?_
    refine e_aload rfl rfl rfl ?_
    refine e_push rfl ?_
    refine e_aload rfl rfl hv1 ?_
    refine e_getA rfl fun r4 hr4 => ?_
    refine e_ivI rfl rfl rfl (Nat.le_of_ble_eq_true rfl) (fun _ _ => e_x0) fun x6 h5 => ?_
    refine e_aload rfl rfl rfl ?_
    refine e_getA rfl fun r7 hr7 => ?_
    refine e_ivV rfl rfl rfl (Nat.le_of_ble_eq_true rfl) (fun _ _ => e_x0) fun h8 => ?_
    refine e_aload rfl rfl rfl ?_
    refine e_push rfl ?_
    refine e_aload rfl rfl rfl ?_
    refine e_getA rfl fun r9 hr9 => ?_
    refine e_push rfl ?_
    refine e_iald rfl fun x10 => ?_
    refine e_i2 rfl ?_
    refine e_putf rfl fun h11 => ?_
    refine e_aload rfl rfl rfl ?_
    refine e_aload rfl rfl rfl ?_
    refine e_getA rfl fun r12 hr12 => ?_
    refine e_push rfl ?_
    refine e_iald rfl fun x13 => ?_
    refine e_aload rfl rfl rfl ?_
    refine e_getA rfl fun r14 hr14 => ?_
    refine e_push rfl ?_
    refine e_iald rfl fun x15 => ?_
    refine e_i2 rfl ?_
    refine e_putf rfl fun h16 => ?_
    refine e_aload rfl rfl rfl ?_
    refine e_ivV rfl rfl rfl (Nat.le_of_ble_eq_true rfl) (fun _ _ => e_x0) fun h17 => ?_
    exact e_ret rfl
  · refine e_aload rfl rfl rfl ?_
    refine e_getA rfl fun r18 hr18 => ?_
    refine e_iload rfl rfl ?_
    refine e_push rfl ?_
    refine e_iastI rfl fun h19 => ?_
    refine e_iinc (M := fun x20 => [some (.ref v0), some (v1), some (.int x20)]) rfl rfl (fun _ => dx_sto (Nat.le_of_ble_eq_true rfl) (Or.inr ⟨_, rfl, dx_nl hv1⟩) rfl) fun x20 => ?_
    refine e_goto rfl ?_
    exact e_wk mP_X15_init (ll_1 (ll_1 (ll_1 ll_n)))
theorem m_X15_init {d : Nat} {v0 : Nat} {v1 : Value} {h : ax_H} (hv1 : ax_rv v1 = true) : dx_le ((dx_pF [(25, 6)] (.object "KernelGym") (.ref v0) v1 h).bind fun h1 => dx_nn (.ref v0) (dx_na 0 0 16 h1 fun a3 h2 => (dx_pF [(25, 0)] (.array (.int)) (.ref v0) (.ref a3) h2).bind fun h4 => dx_nw h4 (.inr (26, [.int 0, .null, .int 0, .int 0])) 4 fun a6 h5 => dx_cV ((ax_c d) 285 [.ref a6, .int (-1)] h5) (fun h7 => (dx_pF [(25, 1)] (.object "KernelGym$Use") (.ref v0) (.ref a6) h7).bind fun h8 => dx_nw h8 (.inr (4, [.int 0, .null, .int 0])) 3 fun a10 h9 => dx_cV ((ax_c d) 58 [.ref a10] h9) (fun h11 => (dx_pF [(25, 2)] (.object "java/util/List") (.ref v0) (.ref a10) h11).bind fun h12 => dx_na 0 0 256 h12 fun a14 h13 => (dx_pF [(25, 3)] (.array (.int)) (.ref v0) (.ref a14) h13).bind fun h15 => B_X15_init_51 (ax_c d) v0 v1 0 h15) dx_x0) dx_x0)) (ax_c (d + 1) 281 [.ref v0, v1] h) := by
  refine e_entry (L' := [some (.ref v0), some (v1), none]) rfl (ag_A rfl (ag_A hv1 ag_n)) (Nat.le_of_ble_eq_true rfl) rfl ?_
  refine e_aload rfl rfl rfl ?_
  refine e_aload rfl rfl hv1 ?_
  refine e_putf rfl fun h1 => ?_
  refine e_aload rfl rfl rfl ?_
  refine e_oin rfl (Nat.le_of_ble_eq_true rfl) ?_
  refine e_aload rfl rfl rfl ?_
  refine e_push rfl ?_
  refine e_newa rfl fun a3 h2 => ?_
  refine e_putf rfl fun h4 => ?_
  refine e_aload rfl rfl rfl ?_
  refine e_new rfl fun a6 h5 => ?_
  refine e_dup rfl rfl ?_
  refine e_push rfl ?_
  refine e_isprV rfl rfl rfl (Nat.le_of_ble_eq_true rfl) (fun _ _ => e_x0) fun h7 => ?_
  refine e_putf rfl fun h8 => ?_
  refine e_aload rfl rfl rfl ?_
  refine e_new rfl fun a10 h9 => ?_
  refine e_dup rfl rfl ?_
  refine e_isprV rfl rfl rfl (Nat.le_of_ble_eq_true rfl) (fun _ _ => e_x0) fun h11 => ?_
  refine e_putf rfl fun h12 => ?_
  refine e_aload rfl rfl rfl ?_
  refine e_push rfl ?_
  refine e_newa rfl fun a14 h13 => ?_
  refine e_putf rfl fun h15 => ?_
  refine e_push rfl ?_
  refine e_istore (L' := [some (.ref v0), some (v1), some (.int 0)]) rfl (dx_sto (Nat.le_of_ble_eq_true rfl) (Or.inr ⟨_, rfl, dx_nl hv1⟩) rfl) ?_
  exact e_wk mP_X15_init (ll_1 (ll_1 (ll_1 ll_n)))
theorem m_X15_rowOf {d : Nat} {v0 : Nat} {v1 : Int32} {v2 : Value} {h : ax_H} (hv2 : ax_rv v2 = true) : dx_le (if (16 : Int32) ≤ v1 then (dx_gA [(26, 1)] v2 h).bind fun r1 => some (.inl (some (r1)), h) else (dx_gA [(25, 0)] (.ref v0) h).bind fun r2 => some (.inl (some (r2)), h)) (ax_c (d + 1) 282 [.ref v0, .int v1, v2] h) := by
  refine e_entry (L' := [some (.ref v0), some (.int v1), some (v2)]) rfl (ag_A rfl (ag_I (ag_A hv2 ag_n))) (Nat.le_of_ble_eq_true rfl) rfl ?_
  refine e_iload rfl rfl ?_
  refine e_push rfl ?_
  refine e_if2 rfl rfl ?_ ?_
  · refine e_aload rfl rfl hv2 ?_
    refine e_getA rfl fun r1 hr1 => ?_
    exact e_aret rfl hr1
  · refine e_aload rfl rfl rfl ?_
    refine e_getA rfl fun r2 hr2 => ?_
    refine e_goto rfl ?_
    exact e_aret rfl hr2
noncomputable def B_X15_address_24 (K : ax_K) (s0 : Int32) (v0 : Nat) (v3 : Int32) (v4 : Int32) (h : ax_H) : Option ax_R := ax_run K P_X15_address 24 [some (.ref v0), none, none, some (.int v3), some (.int v4)] [.int s0] h
theorem b_X15_address_24 {K : ax_K} {s0 : Int32} {v0 : Nat} {v3 : Int32} {v4 : Int32} {h : ax_H}  : dx_le (dx_cV (K 213 [.int s0, .int 6, .int v3] h) (fun h1 => if (1000 : Int32) ≤ v4 then (dx_gI [(25, 4)] (.ref v0) h1).bind fun x2 => some (.inl (some (.int (x2 + (dx_rem v4 1000)))), h1) else some (.inl (some (.int (8 + (dx_rem v4 1000)))), h1)) dx_x0) (B_X15_address_24 K s0 v0 v3 v4 h) := by
  show dx_le _ (ax_run K P_X15_address 24 [some (.ref v0), none, none, some (.int v3), some (.int v4)] [.int s0] h)
  refine e_push rfl ?_
  refine e_iload rfl rfl ?_
  refine e_isV rfl (Nat.le_of_ble_eq_true rfl) rfl rfl (Nat.le_of_ble_eq_true rfl) (fun _ _ => e_x0) fun h1 => ?_
  refine e_iload rfl rfl ?_
  refine e_push rfl ?_
  refine e_if2 rfl rfl ?_ ?_
  · refine e_aload rfl rfl rfl ?_
    refine e_getI rfl fun x2 => ?_
    refine e_iload rfl rfl ?_
    refine e_push rfl ?_
    refine e_rem rfl (by decide) ?_
    refine e_i2 rfl ?_
    exact e_iret rfl
  · refine e_push rfl ?_
    refine e_goto rfl ?_
    refine e_iload rfl rfl ?_
    refine e_push rfl ?_
    refine e_rem rfl (by decide) ?_
    refine e_i2 rfl ?_
    exact e_iret rfl
theorem m_X15_address {d : Nat} {v0 : Nat} {v1 : Int32} {v2 : Value} {v3 : Int32} {h : ax_H} (hv2 : ax_rv v2 = true) : dx_le ((dx_vn [(25, 282)] (.ref v0) h).bind fun k => dx_cR ((ax_c d) k [.ref v0, .int v1, v2] h) (fun r2 h1 => (dx_lI 0 r2 (dx_rem v1 16) h1).bind fun x3 => if x3 = (-1) then B_X15_address_24 (ax_c d) 0 v0 v3 x3 h1 else B_X15_address_24 (ax_c d) 1 v0 v3 x3 h1) dx_x0) (ax_c (d + 1) 283 [.ref v0, .int v1, v2, .int v3] h) := by
  refine e_entry (L' := [some (.ref v0), some (.int v1), some (v2), some (.int v3), none]) rfl (ag_A rfl (ag_I (ag_A hv2 (ag_I ag_n)))) (Nat.le_of_ble_eq_true rfl) rfl ?_
  refine e_aload rfl rfl rfl ?_
  refine e_iload rfl rfl ?_
  refine e_aload rfl rfl hv2 ?_
  refine e_ivR rfl rfl rfl (Nat.le_of_ble_eq_true rfl) (fun _ _ => e_x0) fun r2 h1 hr2 => ?_
  refine e_iload rfl rfl ?_
  refine e_push rfl ?_
  refine e_rem rfl (by decide) ?_
  refine e_iald rfl fun x3 => ?_
  refine e_istore (L' := [some (.ref v0), some (.int v1), some (v2), some (.int v3), some (.int x3)]) rfl (dx_sto (Nat.le_of_ble_eq_true rfl) (Or.inr ⟨_, rfl, rfl⟩) rfl) ?_
  refine e_iload rfl rfl ?_
  refine e_push rfl ?_
  refine e_if2 rfl rfl ?_ ?_
  · refine e_push rfl ?_
    exact e_wk mP_X15_address (ll_1 (ll_0 (ll_0 (ll_1 (ll_1 ll_n)))))
  · refine e_push rfl ?_
    refine e_goto rfl ?_
    exact e_wk mP_X15_address (ll_1 (ll_0 (ll_0 (ll_1 (ll_1 ll_n)))))
theorem m_X15_makeWords {d : Nat} {v0 : Nat} {h : ax_H}  : dx_le (dx_nw h (.inr (30, [.null, .int 0, .null, .null, .null, .int 0, .int 0, .null, .null])) 9 fun a2 h1 => dx_cV ((ax_c d) 357 [.ref a2, .ref v0] h1) (fun h3 => (dx_gA [(25, 6)] (.ref v0) h3).bind fun r4 => (dx_gA [(19, 0)] r4 h3).bind fun r5 => (dx_vn [(4, 59)] r5 h3).bind fun k => dx_cI ((ax_c d) k [r5] h3) (fun x7 h6 => (dx_gA [(25, 1)] (.ref v0) h6).bind fun r8 => (dx_vn [(27, 287), (30, 287)] (.ref a2) h6).bind fun k => dx_cV ((ax_c d) k [.ref a2, .int 0, .int x7, r8] h6) (fun h9 => some (.inl none, h9)) dx_x0) dx_x0) dx_x0) (ax_c (d + 1) 284 [.ref v0] h) := by
  refine e_entry (L' := [some (.ref v0), none]) rfl (ag_A rfl ag_n) (Nat.le_of_ble_eq_true rfl) rfl ?_
  refine e_new rfl fun a2 h1 => ?_
  refine e_dup rfl rfl ?_
  refine e_aload rfl rfl rfl ?_
  refine e_isprV rfl rfl rfl (Nat.le_of_ble_eq_true rfl) (fun _ _ => e_x0) fun h3 => ?_
  refine e_astore (L' := [some (.ref v0), some (.ref a2)]) rfl rfl (dx_sto (Nat.le_of_ble_eq_true rfl) (Or.inr ⟨_, rfl, rfl⟩) rfl) ?_
  refine e_aload rfl rfl rfl ?_
  refine e_push rfl ?_
  refine e_aload rfl rfl rfl ?_
  refine e_getA rfl fun r4 hr4 => ?_
  refine e_getA rfl fun r5 hr5 => ?_
  refine e_ivI rfl rfl rfl (Nat.le_of_ble_eq_true rfl) (fun _ _ => e_x0) fun x7 h6 => ?_
  refine e_aload rfl rfl rfl ?_
  refine e_getA rfl fun r8 hr8 => ?_
  refine e_ivV rfl rfl rfl (Nat.le_of_ble_eq_true rfl) (fun _ _ => e_x0) fun h9 => ?_
  exact e_ret rfl
noncomputable def B_X16_init_18 (K : ax_K) (v0 : Nat) (v2 : Int32) (h : ax_H) : Option ax_R := ax_run K P_X16_init 18 [some (.ref v0), none, some (.int v2)] [] h
theorem b_X16_init_18 {K : ax_K} {v0 : Nat} {v2 : Int32} {h : ax_H}  : dx_le ((dx_gA [(26, 1)] (.ref v0) h).bind fun r1 => (dx_len r1 h).bind fun x2 => if x2 ≤ v2 then some (.inl none, h) else (dx_gA [(26, 1)] (.ref v0) h).bind fun r3 => (dx_sI 0 r3 v2 (-1) h).bind fun h4 => dx_lt (v2 + 1) fun x5 => B_X16_init_18 K v0 x5 h4) (B_X16_init_18 K v0 v2 h) := by
  show dx_le _ (ax_run K P_X16_init 18 [some (.ref v0), none, some (.int v2)] [] h)
  refine e_iload rfl rfl ?_
  refine e_aload rfl rfl rfl ?_
  refine e_getA rfl fun r1 hr1 => ?_
  refine e_alen rfl fun x2 => ?_
  refine e_if2 rfl rfl ?_ ?_
  · exact e_ret rfl
  · refine e_aload rfl rfl rfl ?_
    refine e_getA rfl fun r3 hr3 => ?_
    refine e_iload rfl rfl ?_
    refine e_push rfl ?_
    refine e_iastI rfl fun h4 => ?_
    refine e_iinc (M := fun x5 => [some (.ref v0), none, some (.int x5)]) rfl rfl (fun _ => dx_sto (Nat.le_of_ble_eq_true rfl) (Or.inr ⟨_, rfl, rfl⟩) rfl) fun x5 => ?_
    refine e_goto rfl ?_
    exact e_wk mP_X16_init (ll_1 (ll_0 (ll_1 ll_n)))
theorem m_X16_init {d : Nat} {v0 : Nat} {v1 : Int32} {h : ax_H}  : dx_le (dx_nn (.ref v0) (dx_na 0 0 4 h fun a2 h1 => (dx_pF [(26, 1)] (.array (.int)) (.ref v0) (.ref a2) h1).bind fun h3 => (dx_pF [(26, 0)] (.int) (.ref v0) (.int v1) h3).bind fun h4 => B_X16_init_18 (ax_c d) v0 0 h4)) (ax_c (d + 1) 285 [.ref v0, .int v1] h) := by
  refine e_entry (L' := [some (.ref v0), some (.int v1), none]) rfl (ag_A rfl (ag_I ag_n)) (Nat.le_of_ble_eq_true rfl) rfl ?_
  refine e_aload rfl rfl rfl ?_
  refine e_oin rfl (Nat.le_of_ble_eq_true rfl) ?_
  refine e_aload rfl rfl rfl ?_
  refine e_push rfl ?_
  refine e_newa rfl fun a2 h1 => ?_
  refine e_putf rfl fun h3 => ?_
  refine e_aload rfl rfl rfl ?_
  refine e_iload rfl rfl ?_
  refine e_putf rfl fun h4 => ?_
  refine e_push rfl ?_
  refine e_istore (L' := [some (.ref v0), some (.int v1), some (.int 0)]) rfl (dx_sto (Nat.le_of_ble_eq_true rfl) (Or.inr ⟨_, rfl, rfl⟩) rfl) ?_
  exact e_wk mP_X16_init (ll_1 (ll_0 (ll_1 ll_n)))
noncomputable def B_X17_init_39 (K : ax_K) (v0 : Nat) (v2 : Int32) (h : ax_H) : Option ax_R := ax_run K P_X17_init 39 [some (.ref v0), none, some (.int v2)] [] h
theorem b_X17_init_39 {K : ax_K} {v0 : Nat} {v2 : Int32} {h : ax_H}  : dx_le (if (5 : Int32) ≤ v2 then some (.inl none, h) else (dx_gA [(27, 2), (30, 2)] (.ref v0) h).bind fun r1 => (dx_sI 0 r1 v2 (-1) h).bind fun h2 => dx_lt (v2 + 1) fun x3 => B_X17_init_39 K v0 x3 h2) (B_X17_init_39 K v0 v2 h) := by
  show dx_le _ (ax_run K P_X17_init 39 [some (.ref v0), none, some (.int v2)] [] h)
  refine e_iload rfl rfl ?_
  refine e_push rfl ?_
  refine e_if2 rfl rfl ?_ ?_
  · exact e_ret rfl
  · refine e_aload rfl rfl rfl ?_
    refine e_getA rfl fun r1 hr1 => ?_
    refine e_iload rfl rfl ?_
    refine e_push rfl ?_
    refine e_iastI rfl fun h2 => ?_
    refine e_iinc (M := fun x3 => [some (.ref v0), none, some (.int x3)]) rfl rfl (fun _ => dx_sto (Nat.le_of_ble_eq_true rfl) (Or.inr ⟨_, rfl, rfl⟩) rfl) fun x3 => ?_
    refine e_goto rfl ?_
    exact e_wk mP_X17_init (ll_1 (ll_0 (ll_1 ll_n)))
theorem m_X17_init {d : Nat} {v0 : Nat} {v1 : Value} {h : ax_H} (hv1 : ax_rv v1 = true) : dx_le ((dx_pF [(27, 7), (30, 7)] (.object "KernelGym") (.ref v0) v1 h).bind fun h1 => dx_nn (.ref v0) (dx_na 0 0 2 h1 fun a3 h2 => (dx_pF [(27, 0), (30, 0)] (.array (.int)) (.ref v0) (.ref a3) h2).bind fun h4 => dx_na 0 0 5 h4 fun a6 h5 => (dx_pF [(27, 2), (30, 2)] (.array (.int)) (.ref v0) (.ref a6) h5).bind fun h7 => dx_na 0 0 5 h7 fun a9 h8 => (dx_pF [(27, 3), (30, 3)] (.array (.int)) (.ref v0) (.ref a9) h8).bind fun h10 => dx_na 2 0 5 h10 fun a12 h11 => (dx_pF [(27, 4), (30, 4)] (.array (.boolean)) (.ref v0) (.ref a12) h11).bind fun h13 => B_X17_init_39 (ax_c d) v0 0 h13)) (ax_c (d + 1) 286 [.ref v0, v1] h) := by
  refine e_entry (L' := [some (.ref v0), some (v1), none]) rfl (ag_A rfl (ag_A hv1 ag_n)) (Nat.le_of_ble_eq_true rfl) rfl ?_
  refine e_aload rfl rfl rfl ?_
  refine e_aload rfl rfl hv1 ?_
  refine e_putf rfl fun h1 => ?_
  refine e_aload rfl rfl rfl ?_
  refine e_oin rfl (Nat.le_of_ble_eq_true rfl) ?_
  refine e_aload rfl rfl rfl ?_
  refine e_push rfl ?_
  refine e_newa rfl fun a3 h2 => ?_
  refine e_putf rfl fun h4 => ?_
  refine e_aload rfl rfl rfl ?_
  refine e_push rfl ?_
  refine e_newa rfl fun a6 h5 => ?_
  refine e_putf rfl fun h7 => ?_
  refine e_aload rfl rfl rfl ?_
  refine e_push rfl ?_
  refine e_newa rfl fun a9 h8 => ?_
  refine e_putf rfl fun h10 => ?_
  refine e_aload rfl rfl rfl ?_
  refine e_push rfl ?_
  refine e_newa rfl fun a12 h11 => ?_
  refine e_putf rfl fun h13 => ?_
  refine e_push rfl ?_
  refine e_istore (L' := [some (.ref v0), some (v1), some (.int 0)]) rfl (dx_sto (Nat.le_of_ble_eq_true rfl) (Or.inr ⟨_, rfl, dx_nl hv1⟩) rfl) ?_
  exact e_wk mP_X17_init (ll_1 (ll_0 (ll_1 ll_n)))
noncomputable def B_X17_go_3 (K : ax_K) (v0 : Nat) (v2 : Int32) (v3 : Value) (v4 : Int32) (h : ax_H) : Option ax_R := ax_run K P_X17_go 3 [some (.ref v0), none, some (.int v2), some (v3), some (.int v4)] [] h
noncomputable def B_X17_go_34 (K : ax_K) (s0 : Int32) (v0 : Nat) (v2 : Int32) (v3 : Value) (v4 : Int32) (h : ax_H) : Option ax_R := ax_run K P_X17_go 34 [some (.ref v0), none, some (.int v2), some (v3), some (.int v4)] [.int s0] h
theorem b_X17_go_3 {K : ax_K} {v0 : Nat} {v2 : Int32} {v3 : Value} {v4 : Int32} {h : ax_H} (hv3 : ax_rv v3 = true) : dx_le (if v2 ≤ v4 then some (.inl none, h) else (dx_gI [(27, 5), (30, 5)] (.ref v0) h).bind fun x1 => (dx_pF [(27, 5), (30, 5)] (.int) (.ref v0) (.int (x1 + 1)) h).bind fun h2 => (dx_gI [(27, 5), (30, 5)] (.ref v0) h2).bind fun x3 => if (300 : Int32) < x3 then B_X17_go_34 K 0 v0 v2 v3 v4 h2 else B_X17_go_34 K 1 v0 v2 v3 v4 h2) (B_X17_go_3 K v0 v2 v3 v4 h) := by
  show dx_le _ (ax_run K P_X17_go 3 [some (.ref v0), none, some (.int v2), some (v3), some (.int v4)] [] h)
  refine e_iload rfl rfl ?_
  refine e_iload rfl rfl ?_
  refine e_if2 rfl rfl ?_ ?_
  · exact e_ret rfl
  · refine e_aload rfl rfl rfl ?_
    refine e_dup rfl rfl ?_
    refine e_getI rfl fun x1 => ?_
    refine e_push rfl ?_
    refine e_i2 rfl ?_
    refine e_putf rfl fun h2 => ?_
    refine e_aload rfl rfl rfl ?_
    refine e_getI rfl fun x3 => ?_
    refine e_push rfl ?_
    refine e_if2 rfl rfl ?_ ?_
    · refine e_push rfl ?_
      exact e_wk mP_X17_go (ll_1 (ll_0 (ll_1 (ll_1 (ll_1 ll_n)))))
    · refine e_push rfl ?_
      refine e_goto rfl ?_
      exact e_wk mP_X17_go (ll_1 (ll_0 (ll_1 (ll_1 (ll_1 ll_n)))))
theorem b_X17_go_34 {K : ax_K} {s0 : Int32} {v0 : Nat} {v2 : Int32} {v3 : Value} {v4 : Int32} {h : ax_H} (hv3 : ax_rv v3 = true) : dx_le (dx_cV (K 213 [.int s0, .int 1, .int v4] h) (fun h1 => (dx_gA [(27, 7), (30, 7)] (.ref v0) h1).bind fun r2 => (dx_gA [(19, 0)] r2 h1).bind fun r3 => (dx_vn [(4, 61)] r3 h1).bind fun k => dx_cR (K k [r3, .int v4] h1) (fun r5 h4 => dx_cs [20, 21, 22, 23, 24, 39, 40, 42, 43] r5 h4 ((dx_vn [(20, 269), (21, 271), (22, 273), (23, 277), (24, 279), (39, 495), (40, 497), (42, 500), (43, 502)] r5 h4).bind fun k => dx_cI (K k [r5, .ref v0, v3, .int v4] h4) (fun x7 h6 => B_X17_go_3 K v0 v2 v3 x7 h6) dx_x0)) dx_x0) dx_x0) (B_X17_go_34 K s0 v0 v2 v3 v4 h) := by
  show dx_le _ (ax_run K P_X17_go 34 [some (.ref v0), none, some (.int v2), some (v3), some (.int v4)] [.int s0] h)
  refine e_push rfl ?_
  refine e_iload rfl rfl ?_
  refine e_isV rfl (Nat.le_of_ble_eq_true rfl) rfl rfl (Nat.le_of_ble_eq_true rfl) (fun _ _ => e_x0) fun h1 => ?_
  refine e_aload rfl rfl rfl ?_
  refine e_getA rfl fun r2 hr2 => ?_
  refine e_getA rfl fun r3 hr3 => ?_
  refine e_iload rfl rfl ?_
  refine e_ivR rfl rfl rfl (Nat.le_of_ble_eq_true rfl) (fun _ _ => e_x0) fun r5 h4 hr5 => ?_
  refine e_cast rfl ?_
  refine e_aload rfl rfl rfl ?_
  refine e_aload rfl rfl hv3 ?_
  refine e_iload rfl rfl ?_
  refine e_ivI rfl rfl rfl (Nat.le_of_ble_eq_true rfl) (fun _ _ => e_x0) fun x7 h6 => ?_
  refine e_istore (L' := [some (.ref v0), none, some (.int v2), some (v3), some (.int x7)]) rfl (dx_sto (Nat.le_of_ble_eq_true rfl) (Or.inr ⟨_, rfl, dx_nl hv3⟩) rfl) ?_
  refine e_goto rfl ?_
  exact e_wk mP_X17_go (ll_1 (ll_0 (ll_1 (ll_1 (ll_1 ll_n)))))
theorem m_X17_go {d : Nat} {v0 : Nat} {v1 : Int32} {v2 : Int32} {v3 : Value} {h : ax_H} (hv3 : ax_rv v3 = true) : dx_le (B_X17_go_3 (ax_c d) v0 v2 v3 v1 h) (ax_c (d + 1) 287 [.ref v0, .int v1, .int v2, v3] h) := by
  refine e_entry (L' := [some (.ref v0), some (.int v1), some (.int v2), some (v3), none]) rfl (ag_A rfl (ag_I (ag_I (ag_A hv3 ag_n)))) (Nat.le_of_ble_eq_true rfl) rfl ?_
  refine e_iload rfl rfl ?_
  refine e_istore (L' := [some (.ref v0), some (.int v1), some (.int v2), some (v3), some (.int v1)]) rfl (dx_sto (Nat.le_of_ble_eq_true rfl) (Or.inr ⟨_, rfl, dx_nl hv3⟩) rfl) ?_
  exact e_wk mP_X17_go (ll_1 (ll_0 (ll_1 (ll_1 (ll_1 ll_n)))))
noncomputable def B_X17_define_15 (K : ax_K) (s0 : Int32) (v0 : Nat) (v1 : Int32) (v2 : Int32) (h : ax_H) : Option ax_R := ax_run K P_X17_define 15 [some (.ref v0), some (.int v1), some (.int v2), none] [.int s0] h
noncomputable def B_X17_define_24 (K : ax_K) (v0 : Nat) (v1 : Int32) (v2 : Int32) (v3 : Int32) (h : ax_H) : Option ax_R := ax_run K P_X17_define 24 [some (.ref v0), some (.int v1), some (.int v2), some (.int v3)] [] h
noncomputable def B_X17_define_100 (K : ax_K) (v0 : Nat) (v1 : Int32) (v2 : Int32) (v3 : Int32) (h : ax_H) : Option ax_R := ax_run K P_X17_define 100 [some (.ref v0), some (.int v1), some (.int v2), some (.int v3)] [] h
noncomputable def B_X17_define_121 (K : ax_K) (s0 : Int32) (v0 : Nat) (v1 : Int32) (v2 : Int32) (v3 : Int32) (h : ax_H) : Option ax_R := ax_run K P_X17_define 121 [some (.ref v0), some (.int v1), some (.int v2), some (.int v3)] [.int s0] h
theorem b_X17_define_15 {K : ax_K} {s0 : Int32} {v0 : Nat} {v1 : Int32} {v2 : Int32} {h : ax_H}  : dx_le (dx_cV (K 213 [.int s0, .int 3, .int v2] h) (fun h1 => dx_lt (v2 + 1) fun x2 => B_X17_define_24 K v0 v1 v2 x2 h1) dx_x0) (B_X17_define_15 K s0 v0 v1 v2 h) := by
  show dx_le _ (ax_run K P_X17_define 15 [some (.ref v0), some (.int v1), some (.int v2), none] [.int s0] h)
  refine e_push rfl ?_
  refine e_iload rfl rfl ?_
  refine e_isV rfl (Nat.le_of_ble_eq_true rfl) rfl rfl (Nat.le_of_ble_eq_true rfl) (fun _ _ => e_x0) fun h1 => ?_
  refine e_iload rfl rfl ?_
  refine e_push rfl ?_
  refine e_i2 rfl ?_
  refine e_istoreL (M := fun x2 => [some (.ref v0), some (.int v1), some (.int v2), some (.int x2)]) rfl (fun _ => dx_sto (Nat.le_of_ble_eq_true rfl) (Or.inr ⟨_, rfl, rfl⟩) rfl) fun x2 => ?_
  exact e_wk mP_X17_define (ll_1 (ll_1 (ll_1 (ll_1 ll_n))))
theorem b_X17_define_24 {K : ax_K} {v0 : Nat} {v1 : Int32} {v2 : Int32} {v3 : Int32} {h : ax_H}  : dx_le ((dx_gA [(27, 7), (30, 7)] (.ref v0) h).bind fun r1 => (dx_gA [(19, 0)] r1 h).bind fun r2 => (dx_vn [(4, 59)] r2 h).bind fun k => dx_cI (K k [r2] h) (fun x4 h3 => if x4 ≤ v3 then B_X17_define_100 K v0 v1 v2 v3 h3 else (dx_gA [(27, 7), (30, 7)] (.ref v0) h3).bind fun r5 => (dx_gA [(19, 0)] r5 h3).bind fun r6 => (dx_vn [(4, 61)] r6 h3).bind fun k => dx_cR (K k [r6, .int v3] h3) (fun r8 h7 => dx_cs [20, 21, 22, 23, 24, 39, 40, 42, 43] r8 h7 ((dx_vn [(20, 492), (21, 492), (22, 492), (23, 276), (24, 492), (39, 492), (40, 492), (42, 492), (43, 492)] r8 h7).bind fun k => dx_cI (K k [r8] h7) (fun x10 h9 => if ¬ x10 = 0 then B_X17_define_100 K v0 v1 v2 v3 h9 else (dx_gA [(27, 7), (30, 7)] (.ref v0) h9).bind fun r11 => (dx_gA [(19, 0)] r11 h9).bind fun r12 => (dx_vn [(4, 61)] r12 h9).bind fun k => dx_cR (K k [r12, .int v3] h9) (fun r14 h13 => dx_cs [20, 21, 22, 23, 24, 39, 40, 42, 43] r14 h13 ((dx_vn [(20, 493), (21, 493), (22, 274), (23, 493), (24, 493), (39, 493), (40, 493), (42, 493), (43, 493)] r14 h13).bind fun k => dx_cI (K k [r14] h13) (fun x16 h15 => if ¬ x16 = 0 then dx_cV (K 213 [.int 0, .int 4, .int v3] h15) (fun h17 => dx_lt (v3 + 1) fun x18 => B_X17_define_24 K v0 v1 v2 x18 h17) dx_x0 else dx_cV (K 213 [.int 1, .int 4, .int v3] h15) (fun h19 => dx_lt (v3 + 1) fun x20 => B_X17_define_24 K v0 v1 v2 x20 h19) dx_x0) dx_x0)) dx_x0) dx_x0)) dx_x0) dx_x0) (B_X17_define_24 K v0 v1 v2 v3 h) := by
  show dx_le _ (ax_run K P_X17_define 24 [some (.ref v0), some (.int v1), some (.int v2), some (.int v3)] [] h)
  refine e_iload rfl rfl ?_
  refine e_aload rfl rfl rfl ?_
  refine e_getA rfl fun r1 hr1 => ?_
  refine e_getA rfl fun r2 hr2 => ?_
  refine e_ivI rfl rfl rfl (Nat.le_of_ble_eq_true rfl) (fun _ _ => e_x0) fun x4 h3 => ?_
  refine e_if2 rfl rfl ?_ ?_
  · exact e_wk mP_X17_define (ll_1 (ll_1 (ll_1 (ll_1 ll_n))))
  · refine e_aload rfl rfl rfl ?_
    refine e_getA rfl fun r5 hr5 => ?_
    refine e_getA rfl fun r6 hr6 => ?_
    refine e_iload rfl rfl ?_
    refine e_ivR rfl rfl rfl (Nat.le_of_ble_eq_true rfl) (fun _ _ => e_x0) fun r8 h7 hr8 => ?_
    refine e_cast rfl ?_
    refine e_ivI rfl rfl rfl (Nat.le_of_ble_eq_true rfl) (fun _ _ => e_x0) fun x10 h9 => ?_
    refine e_if1 rfl rfl ?_ ?_
    · exact e_wk mP_X17_define (ll_1 (ll_1 (ll_1 (ll_1 ll_n))))
    · refine e_aload rfl rfl rfl ?_
      refine e_getA rfl fun r11 hr11 => ?_
      refine e_getA rfl fun r12 hr12 => ?_
      refine e_iload rfl rfl ?_
      refine e_ivR rfl rfl rfl (Nat.le_of_ble_eq_true rfl) (fun _ _ => e_x0) fun r14 h13 hr14 => ?_
      refine e_cast rfl ?_
      refine e_ivI rfl rfl rfl (Nat.le_of_ble_eq_true rfl) (fun _ _ => e_x0) fun x16 h15 => ?_
      refine e_if1 rfl rfl ?_ ?_
      · refine e_push rfl ?_
        refine e_push rfl ?_
        refine e_iload rfl rfl ?_
        refine e_isV rfl (Nat.le_of_ble_eq_true rfl) rfl rfl (Nat.le_of_ble_eq_true rfl) (fun _ _ => e_x0) fun h17 => ?_
        refine e_iinc (M := fun x18 => [some (.ref v0), some (.int v1), some (.int v2), some (.int x18)]) rfl rfl (fun _ => dx_sto (Nat.le_of_ble_eq_true rfl) (Or.inr ⟨_, rfl, rfl⟩) rfl) fun x18 => ?_
        refine e_goto rfl ?_
        exact e_wk mP_X17_define (ll_1 (ll_1 (ll_1 (ll_1 ll_n))))
      · refine e_push rfl ?_
        refine e_goto rfl ?_
        refine e_push rfl ?_
        refine e_iload rfl rfl ?_
        refine e_isV rfl (Nat.le_of_ble_eq_true rfl) rfl rfl (Nat.le_of_ble_eq_true rfl) (fun _ _ => e_x0) fun h19 => ?_
        refine e_iinc (M := fun x20 => [some (.ref v0), some (.int v1), some (.int v2), some (.int x20)]) rfl rfl (fun _ => dx_sto (Nat.le_of_ble_eq_true rfl) (Or.inr ⟨_, rfl, rfl⟩) rfl) fun x20 => ?_
        refine e_goto rfl ?_
        exact e_wk mP_X17_define (ll_1 (ll_1 (ll_1 (ll_1 ll_n))))
theorem b_X17_define_100 {K : ax_K} {v0 : Nat} {v1 : Int32} {v2 : Int32} {v3 : Int32} {h : ax_H}  : dx_le ((dx_gA [(27, 7), (30, 7)] (.ref v0) h).bind fun r1 => (dx_gA [(19, 0)] r1 h).bind fun r2 => (dx_vn [(4, 59)] r2 h).bind fun k => dx_cI (K k [r2] h) (fun x4 h3 => if x4 ≤ v3 then B_X17_define_121 K 0 v0 v1 v2 v3 h3 else B_X17_define_121 K 1 v0 v1 v2 v3 h3) dx_x0) (B_X17_define_100 K v0 v1 v2 v3 h) := by
  show dx_le _ (ax_run K P_X17_define 100 [some (.ref v0), some (.int v1), some (.int v2), some (.int v3)] [] h)
  refine e_iload rfl rfl ?_
  refine e_aload rfl rfl rfl ?_
  refine e_getA rfl fun r1 hr1 => ?_
  refine e_getA rfl fun r2 hr2 => ?_
  refine e_ivI rfl rfl rfl (Nat.le_of_ble_eq_true rfl) (fun _ _ => e_x0) fun x4 h3 => ?_
  refine e_if2 rfl rfl ?_ ?_
  · refine e_push rfl ?_
    exact e_wk mP_X17_define (ll_1 (ll_1 (ll_1 (ll_1 ll_n))))
  · refine e_push rfl ?_
    refine e_goto rfl ?_
    exact e_wk mP_X17_define (ll_1 (ll_1 (ll_1 (ll_1 ll_n))))
theorem b_X17_define_121 {K : ax_K} {s0 : Int32} {v0 : Nat} {v1 : Int32} {v2 : Int32} {v3 : Int32} {h : ax_H}  : dx_le (dx_cV (K 213 [.int s0, .int 4, .int v2] h) (fun h1 => (dx_gA [(27, 2), (30, 2)] (.ref v0) h1).bind fun r2 => (dx_sI 0 r2 v1 (v2 + 1) h1).bind fun h3 => (dx_gA [(27, 3), (30, 3)] (.ref v0) h3).bind fun r4 => (dx_sI 0 r4 v1 v3 h3).bind fun h5 => some (.inl (some (.int (v3 + 1))), h5)) dx_x0) (B_X17_define_121 K s0 v0 v1 v2 v3 h) := by
  show dx_le _ (ax_run K P_X17_define 121 [some (.ref v0), some (.int v1), some (.int v2), some (.int v3)] [.int s0] h)
  refine e_push rfl ?_
  refine e_iload rfl rfl ?_
  refine e_isV rfl (Nat.le_of_ble_eq_true rfl) rfl rfl (Nat.le_of_ble_eq_true rfl) (fun _ _ => e_x0) fun h1 => ?_
  refine e_aload rfl rfl rfl ?_
  refine e_getA rfl fun r2 hr2 => ?_
  refine e_iload rfl rfl ?_
  refine e_iload rfl rfl ?_
  refine e_push rfl ?_
  refine e_i2 rfl ?_
  refine e_iastI rfl fun h3 => ?_
  refine e_aload rfl rfl rfl ?_
  refine e_getA rfl fun r4 hr4 => ?_
  refine e_iload rfl rfl ?_
  refine e_iload rfl rfl ?_
  refine e_iastI rfl fun h5 => ?_
  refine e_iload rfl rfl ?_
  refine e_push rfl ?_
  refine e_i2 rfl ?_
  exact e_iret rfl
theorem m_X17_define {d : Nat} {v0 : Nat} {v1 : Int32} {v2 : Int32} {h : ax_H}  : dx_le ((dx_gA [(27, 2), (30, 2)] (.ref v0) h).bind fun r1 => (dx_lI 0 r1 v1 h).bind fun x2 => if ¬ x2 = (-1) then B_X17_define_15 (ax_c d) 0 v0 v1 v2 h else B_X17_define_15 (ax_c d) 1 v0 v1 v2 h) (ax_c (d + 1) 288 [.ref v0, .int v1, .int v2] h) := by
  refine e_entry (L' := [some (.ref v0), some (.int v1), some (.int v2), none]) rfl (ag_A rfl (ag_I (ag_I ag_n))) (Nat.le_of_ble_eq_true rfl) rfl ?_
  refine e_aload rfl rfl rfl ?_
  refine e_getA rfl fun r1 hr1 => ?_
  refine e_iload rfl rfl ?_
  refine e_iald rfl fun x2 => ?_
  refine e_push rfl ?_
  refine e_if2 rfl rfl ?_ ?_
  · refine e_push rfl ?_
    exact e_wk mP_X17_define (ll_1 (ll_1 (ll_1 (ll_0 ll_n))))
  · refine e_push rfl ?_
    refine e_goto rfl ?_
    exact e_wk mP_X17_define (ll_1 (ll_1 (ll_1 (ll_0 ll_n))))
noncomputable def B_X17_expand_24 (K : ax_K) (s0 : Int32) (v0 : Nat) (v1 : Int32) (v2 : Value) (v3 : Value) (v4 : Value) (v5 : Int32) (h : ax_H) : Option ax_R := ax_run K P_X17_expand 24 [some (.ref v0), some (.int v1), some (v2), some (v3), some (v4), some (.int v5), none, none, none] [.int s0] h
theorem b_X17_expand_24 {K : ax_K} {s0 : Int32} {v0 : Nat} {v1 : Int32} {v2 : Value} {v3 : Value} {v4 : Value} {v5 : Int32} {h : ax_H} (hv2 : ax_rv v2 = true) (hv3 : ax_rv v3 = true) (hv4 : ax_rv v4 = true) : dx_le (dx_cV (K 213 [.int s0, .int 5, .int v5] h) (fun h1 => (dx_vn [(27, 293), (30, 354)] (.ref v0) h1).bind fun k => dx_cI (K k [.ref v0, v2, v4, .int v5] h1) (fun x3 h2 => (dx_vn [(27, 293), (30, 354)] (.ref v0) h2).bind fun k => dx_cI (K k [.ref v0, v3, v4, .int v5] h2) (fun x5 h4 => (dx_gI [(27, 6), (30, 6)] (.ref v0) h4).bind fun x6 => (dx_pF [(27, 6), (30, 6)] (.int) (.ref v0) (.int (x6 + 1)) h4).bind fun h7 => (dx_vn [(27, 295), (30, 356)] (.ref v0) h7).bind fun k => dx_cR (K k [.ref v0, .int x6, .int v1] h7) (fun r9 h8 => (dx_pF [(26, 2)] (.int) r9 (.int x3) h8).bind fun h10 => (dx_pF [(26, 3)] (.int) r9 (.int x5) h10).bind fun h11 => (dx_gA [(27, 4), (30, 4)] (.ref v0) h11).bind fun r12 => (dx_sI 2 r12 v1 (vp_nar .boolean 1) h11).bind fun h13 => (dx_gA [(27, 2), (30, 2)] (.ref v0) h13).bind fun r14 => (dx_lI 0 r14 v1 h13).bind fun x15 => (dx_gA [(27, 3), (30, 3)] (.ref v0) h13).bind fun r16 => (dx_lI 0 r16 v1 h13).bind fun x17 => (dx_vn [(27, 287), (30, 287)] (.ref v0) h13).bind fun k => dx_cV (K k [.ref v0, .int x15, .int x17, r9] h13) (fun h18 => (dx_gA [(27, 4), (30, 4)] (.ref v0) h18).bind fun r19 => (dx_sI 2 r19 v1 (vp_nar .boolean 0) h18).bind fun h20 => some (.inl none, h20)) dx_x0) dx_x0) dx_x0) dx_x0) dx_x0) (B_X17_expand_24 K s0 v0 v1 v2 v3 v4 v5 h) := by
  show dx_le _ (ax_run K P_X17_expand 24 [some (.ref v0), some (.int v1), some (v2), some (v3), some (v4), some (.int v5), none, none, none] [.int s0] h)
  refine e_push rfl ?_
  refine e_iload rfl rfl ?_
  refine e_isV rfl (Nat.le_of_ble_eq_true rfl) rfl rfl (Nat.le_of_ble_eq_true rfl) (fun _ _ => e_x0) fun h1 => ?_
  refine e_aload rfl rfl rfl ?_
  refine e_aload rfl rfl hv2 ?_
  refine e_aload rfl rfl hv4 ?_
  refine e_iload rfl rfl ?_
  refine e_ivI rfl rfl rfl (Nat.le_of_ble_eq_true rfl) (fun _ _ => e_x0) fun x3 h2 => ?_
  refine e_istore (L' := [some (.ref v0), some (.int v1), some (v2), some (v3), some (v4), some (.int v5), some (.int x3), none, none]) rfl (dx_sto (Nat.le_of_ble_eq_true rfl) (Or.inr ⟨_, rfl, rfl⟩) rfl) ?_
  refine e_aload rfl rfl rfl ?_
  refine e_aload rfl rfl hv3 ?_
  refine e_aload rfl rfl hv4 ?_
  refine e_iload rfl rfl ?_
  refine e_ivI rfl rfl rfl (Nat.le_of_ble_eq_true rfl) (fun _ _ => e_x0) fun x5 h4 => ?_
  refine e_istore (L' := [some (.ref v0), some (.int v1), some (v2), some (v3), some (v4), some (.int v5), some (.int x3), some (.int x5), none]) rfl (dx_sto (Nat.le_of_ble_eq_true rfl) (Or.inr ⟨_, rfl, rfl⟩) rfl) ?_
  refine e_aload rfl rfl rfl ?_
  refine e_aload rfl rfl rfl ?_
  refine e_dup rfl rfl ?_
  refine e_getI rfl fun x6 => ?_
  refine e_dupx1 rfl rfl rfl ?_
  refine e_push rfl ?_
  refine e_i2 rfl ?_
  refine e_putf rfl fun h7 => ?_
  refine e_iload rfl rfl ?_
  refine e_ivR rfl rfl rfl (Nat.le_of_ble_eq_true rfl) (fun _ _ => e_x0) fun r9 h8 hr9 => ?_
  refine e_astore (L' := [some (.ref v0), some (.int v1), some (v2), some (v3), some (v4), some (.int v5), some (.int x3), some (.int x5), some (r9)]) rfl hr9 (dx_sto (Nat.le_of_ble_eq_true rfl) (Or.inr ⟨_, rfl, rfl⟩) rfl) ?_
  refine e_aload rfl rfl hr9 ?_
  refine e_iload rfl rfl ?_
  refine e_putf rfl fun h10 => ?_
  refine e_aload rfl rfl hr9 ?_
  refine e_iload rfl rfl ?_
  refine e_putf rfl fun h11 => ?_
  refine e_aload rfl rfl rfl ?_
  refine e_getA rfl fun r12 hr12 => ?_
  refine e_iload rfl rfl ?_
  refine e_push rfl ?_
  refine e_iast (w := fun x => vp_nar .boolean x) rfl fun h13 => ?_
  refine e_aload rfl rfl rfl ?_
  refine e_aload rfl rfl rfl ?_
  refine e_getA rfl fun r14 hr14 => ?_
  refine e_iload rfl rfl ?_
  refine e_iald rfl fun x15 => ?_
  refine e_aload rfl rfl rfl ?_
  refine e_getA rfl fun r16 hr16 => ?_
  refine e_iload rfl rfl ?_
  refine e_iald rfl fun x17 => ?_
  refine e_aload rfl rfl hr9 ?_
  refine e_ivV rfl rfl rfl (Nat.le_of_ble_eq_true rfl) (fun _ _ => e_x0) fun h18 => ?_
  refine e_aload rfl rfl rfl ?_
  refine e_getA rfl fun r19 hr19 => ?_
  refine e_iload rfl rfl ?_
  refine e_push rfl ?_
  refine e_iast (w := fun x => vp_nar .boolean x) rfl fun h20 => ?_
  exact e_ret rfl
theorem m_X17_expand {d : Nat} {v0 : Nat} {v1 : Int32} {v2 : Value} {v3 : Value} {v4 : Value} {v5 : Int32} {h : ax_H} (hv2 : ax_rv v2 = true) (hv3 : ax_rv v3 = true) (hv4 : ax_rv v4 = true) : dx_le ((dx_gA [(27, 2), (30, 2)] (.ref v0) h).bind fun r1 => (dx_lI 0 r1 v1 h).bind fun x2 => if x2 = (-1) then B_X17_expand_24 (ax_c d) 0 v0 v1 v2 v3 v4 v5 h else (dx_gA [(27, 4), (30, 4)] (.ref v0) h).bind fun r3 => (dx_lI 2 r3 v1 h).bind fun x4 => if ¬ x4 = 0 then B_X17_expand_24 (ax_c d) 0 v0 v1 v2 v3 v4 v5 h else B_X17_expand_24 (ax_c d) 1 v0 v1 v2 v3 v4 v5 h) (ax_c (d + 1) 289 [.ref v0, .int v1, v2, v3, v4, .int v5] h) := by
  refine e_entry (L' := [some (.ref v0), some (.int v1), some (v2), some (v3), some (v4), some (.int v5), none, none, none]) rfl (ag_A rfl (ag_I (ag_A hv2 (ag_A hv3 (ag_A hv4 (ag_I ag_n)))))) (Nat.le_of_ble_eq_true rfl) rfl ?_
  refine e_aload rfl rfl rfl ?_
  refine e_getA rfl fun r1 hr1 => ?_
  refine e_iload rfl rfl ?_
  refine e_iald rfl fun x2 => ?_
  refine e_push rfl ?_
  refine e_if2 rfl rfl ?_ ?_
  · refine e_push rfl ?_
    exact e_wk mP_X17_expand (ll_1 (ll_1 (ll_1 (ll_1 (ll_1 (ll_1 (ll_0 (ll_0 (ll_0 ll_n)))))))))
  · refine e_aload rfl rfl rfl ?_
    refine e_getA rfl fun r3 hr3 => ?_
    refine e_iload rfl rfl ?_
    refine e_iald rfl fun x4 => ?_
    refine e_if1 rfl rfl ?_ ?_
    · refine e_push rfl ?_
      exact e_wk mP_X17_expand (ll_1 (ll_1 (ll_1 (ll_1 (ll_1 (ll_1 (ll_0 (ll_0 (ll_0 ll_n)))))))))
    · refine e_push rfl ?_
      refine e_goto rfl ?_
      exact e_wk mP_X17_expand (ll_1 (ll_1 (ll_1 (ll_1 (ll_1 (ll_1 (ll_0 (ll_0 (ll_0 ll_n)))))))))
theorem m_X18_init {d : Nat} {v0 : Nat} {v1 : Value} {v2 : Value} {h : ax_H} (hv1 : ax_rv v1 = true) (hv2 : ax_rv v2 = true) : dx_le ((dx_pF [(27, 9)] (.object "KernelGym$Assembly") (.ref v0) v1 h).bind fun h1 => (dx_pF [(27, 8)] (.object "KernelGym") (.ref v0) v2 h1).bind fun h2 => (dx_gA [(25, 6)] v1 h2).bind fun r3 => dx_cV ((ax_c d) 286 [.ref v0, r3] h2) (fun h4 => some (.inl none, h4)) dx_x0) (ax_c (d + 1) 290 [.ref v0, v1, v2] h) := by
  refine e_entry (L' := [some (.ref v0), some (v1), some (v2)]) rfl (ag_A rfl (ag_A hv1 (ag_A hv2 ag_n))) (Nat.le_of_ble_eq_true rfl) rfl ?_
  refine e_aload rfl rfl rfl ?_
  refine e_aload rfl rfl hv1 ?_
  refine e_putf rfl fun h1 => ?_
  refine e_aload rfl rfl rfl ?_
  refine e_aload rfl rfl hv2 ?_
  refine e_putf rfl fun h2 => ?_
  refine e_aload rfl rfl rfl ?_
  refine e_aload rfl rfl hv1 ?_
  refine e_getA rfl fun r3 hr3 => ?_
  refine e_isprV rfl rfl rfl (Nat.le_of_ble_eq_true rfl) (fun _ _ => e_x0) fun h4 => ?_
  exact e_ret rfl
noncomputable def B_X18_set_27 (K : ax_K) (s0 : Int32) (v0 : Nat) (v1 : Int32) (v3 : Int32) (v4 : Value) (h : ax_H) : Option ax_R := ax_run K P_X18_set 27 [some (.ref v0), some (.int v1), none, some (.int v3), some (v4)] [.int s0] h
theorem b_X18_set_27 {K : ax_K} {s0 : Int32} {v0 : Nat} {v1 : Int32} {v3 : Int32} {v4 : Value} {h : ax_H} (hv4 : ax_rv v4 = true) : dx_le (dx_cV (K 213 [.int s0, .int 2, .int v3] h) (fun h1 => (dx_gI [(27, 1), (30, 1)] (.ref v0) h1).bind fun x2 => (dx_gA [(27, 0), (30, 0)] (.ref v0) h1).bind fun r3 => (dx_gI [(27, 1), (30, 1)] (.ref v0) h1).bind fun x4 => (dx_lI 0 r3 x4 h1).bind fun x5 => (dx_sI 0 v4 (dx_rem v1 16) ((1000 * x2) + x5) h1).bind fun h6 => some (.inl none, h6)) dx_x0) (B_X18_set_27 K s0 v0 v1 v3 v4 h) := by
  show dx_le _ (ax_run K P_X18_set 27 [some (.ref v0), some (.int v1), none, some (.int v3), some (v4)] [.int s0] h)
  refine e_push rfl ?_
  refine e_iload rfl rfl ?_
  refine e_isV rfl (Nat.le_of_ble_eq_true rfl) rfl rfl (Nat.le_of_ble_eq_true rfl) (fun _ _ => e_x0) fun h1 => ?_
  refine e_aload rfl rfl hv4 ?_
  refine e_iload rfl rfl ?_
  refine e_push rfl ?_
  refine e_rem rfl (by decide) ?_
  refine e_push rfl ?_
  refine e_aload rfl rfl rfl ?_
  refine e_getI rfl fun x2 => ?_
  refine e_i2 rfl ?_
  refine e_aload rfl rfl rfl ?_
  refine e_getA rfl fun r3 hr3 => ?_
  refine e_aload rfl rfl rfl ?_
  refine e_getI rfl fun x4 => ?_
  refine e_iald rfl fun x5 => ?_
  refine e_i2 rfl ?_
  refine e_iastI rfl fun h6 => ?_
  exact e_ret rfl
theorem m_X18_set {d : Nat} {v0 : Nat} {v1 : Int32} {v2 : Value} {v3 : Int32} {h : ax_H} (hv2 : ax_rv v2 = true) : dx_le ((dx_gA [(27, 9)] (.ref v0) h).bind fun r1 => (dx_vn [(25, 282)] r1 h).bind fun k => dx_cR ((ax_c d) k [r1, .int v1, v2] h) (fun r3 h2 => (dx_lI 0 r3 (dx_rem v1 16) h2).bind fun x4 => if ¬ x4 = (-1) then B_X18_set_27 (ax_c d) 0 v0 v1 v3 r3 h2 else B_X18_set_27 (ax_c d) 1 v0 v1 v3 r3 h2) dx_x0) (ax_c (d + 1) 291 [.ref v0, .int v1, v2, .int v3] h) := by
  refine e_entry (L' := [some (.ref v0), some (.int v1), some (v2), some (.int v3), none]) rfl (ag_A rfl (ag_I (ag_A hv2 (ag_I ag_n)))) (Nat.le_of_ble_eq_true rfl) rfl ?_
  refine e_aload rfl rfl rfl ?_
  refine e_getA rfl fun r1 hr1 => ?_
  refine e_iload rfl rfl ?_
  refine e_aload rfl rfl hv2 ?_
  refine e_ivR rfl rfl rfl (Nat.le_of_ble_eq_true rfl) (fun _ _ => e_x0) fun r3 h2 hr3 => ?_
  refine e_astore (L' := [some (.ref v0), some (.int v1), some (v2), some (.int v3), some (r3)]) rfl hr3 (dx_sto (Nat.le_of_ble_eq_true rfl) (Or.inr ⟨_, rfl, rfl⟩) rfl) ?_
  refine e_aload rfl rfl hr3 ?_
  refine e_iload rfl rfl ?_
  refine e_push rfl ?_
  refine e_rem rfl (by decide) ?_
  refine e_iald rfl fun x4 => ?_
  refine e_push rfl ?_
  refine e_if2 rfl rfl ?_ ?_
  · refine e_push rfl ?_
    exact e_wk mP_X18_set (ll_1 (ll_1 (ll_0 (ll_1 (ll_1 ll_n)))))
  · refine e_push rfl ?_
    refine e_goto rfl ?_
    exact e_wk mP_X18_set (ll_1 (ll_1 (ll_0 (ll_1 (ll_1 ll_n)))))
theorem m_X18_take {d : Nat} {v0 : Nat} {v1 : Int32} {v2 : Int32} {h : ax_H}  : dx_le ((dx_gA [(27, 0), (30, 0)] (.ref v0) h).bind fun r1 => (dx_gI [(27, 1), (30, 1)] (.ref v0) h).bind fun x2 => (dx_lI 0 r1 x2 h).bind fun x3 => (dx_sI 0 r1 x2 (x3 + 1) h).bind fun h4 => (dx_gA [(27, 0), (30, 0)] (.ref v0) h4).bind fun r5 => (dx_lI 0 r5 0 h4).bind fun x6 => (dx_gA [(27, 0), (30, 0)] (.ref v0) h4).bind fun r7 => (dx_lI 0 r7 1 h4).bind fun x8 => if (248 : Int32) < (x6 + x8) then dx_cV ((ax_c d) 213 [.int 0, .int 1, .int v2] h4) (fun h9 => some (.inl none, h9)) dx_x0 else dx_cV ((ax_c d) 213 [.int 1, .int 1, .int v2] h4) (fun h10 => some (.inl none, h10)) dx_x0) (ax_c (d + 1) 292 [.ref v0, .int v1, .int v2] h) := by
  refine e_entry (L' := [some (.ref v0), some (.int v1), some (.int v2)]) rfl (ag_A rfl (ag_I (ag_I ag_n))) (Nat.le_of_ble_eq_true rfl) rfl ?_
  refine e_aload rfl rfl rfl ?_
  refine e_getA rfl fun r1 hr1 => ?_
  refine e_aload rfl rfl rfl ?_
  refine e_getI rfl fun x2 => ?_
  refine e_dup2 rfl rfl (dx_c1 hr1) ?_
  refine e_iald rfl fun x3 => ?_
  refine e_push rfl ?_
  refine e_i2 rfl ?_
  refine e_iastI rfl fun h4 => ?_
  refine e_aload rfl rfl rfl ?_
  refine e_getA rfl fun r5 hr5 => ?_
  refine e_push rfl ?_
  refine e_iald rfl fun x6 => ?_
  refine e_aload rfl rfl rfl ?_
  refine e_getA rfl fun r7 hr7 => ?_
  refine e_push rfl ?_
  refine e_iald rfl fun x8 => ?_
  refine e_i2 rfl ?_
  refine e_push rfl ?_
  refine e_if2 rfl rfl ?_ ?_
  · refine e_push rfl ?_
    refine e_push rfl ?_
    refine e_iload rfl rfl ?_
    refine e_isV rfl (Nat.le_of_ble_eq_true rfl) rfl rfl (Nat.le_of_ble_eq_true rfl) (fun _ _ => e_x0) fun h9 => ?_
    exact e_ret rfl
  · refine e_push rfl ?_
    refine e_goto rfl ?_
    refine e_push rfl ?_
    refine e_iload rfl rfl ?_
    refine e_isV rfl (Nat.le_of_ble_eq_true rfl) rfl rfl (Nat.le_of_ble_eq_true rfl) (fun _ _ => e_x0) fun h10 => ?_
    exact e_ret rfl
theorem m_X18_value {d : Nat} {v0 : Nat} {v1 : Value} {v2 : Value} {v3 : Int32} {h : ax_H} (hv1 : ax_rv v1 = true) (hv2 : ax_rv v2 = true) : dx_le (some (.inl (some (.int 0)), h)) (ax_c (d + 1) 293 [.ref v0, v1, v2, .int v3] h) := by
  refine e_entry (L' := [some (.ref v0), some (v1), some (v2), some (.int v3)]) rfl (ag_A rfl (ag_A hv1 (ag_A hv2 (ag_I ag_n)))) (Nat.le_of_ble_eq_true rfl) rfl ?_
  refine e_push rfl ?_
  exact e_iret rfl
theorem m_X18_point {d : Nat} {v0 : Nat} {v1 : Int32} {v2 : Int32} {h : ax_H}  : dx_le (some (.inl none, h)) (ax_c (d + 1) 294 [.ref v0, .int v1, .int v2] h) := by
  refine e_entry (L' := [some (.ref v0), some (.int v1), some (.int v2)]) rfl (ag_A rfl (ag_I (ag_I ag_n))) (Nat.le_of_ble_eq_true rfl) rfl ?_
  exact e_ret rfl
theorem m_X18_begin {d : Nat} {v0 : Nat} {v1 : Int32} {v2 : Int32} {h : ax_H}  : dx_le (dx_nw h (.inr (26, [.int 0, .null, .int 0, .int 0])) 4 fun a2 h1 => dx_cV ((ax_c d) 285 [.ref a2, .int v2] h1) (fun h3 => (dx_gA [(27, 9)] (.ref v0) h3).bind fun r4 => (dx_gA [(25, 2)] r4 h3).bind fun r5 => (dx_vn [(4, 63)] r5 h3).bind fun k => dx_cI ((ax_c d) k [r5, .ref a2] h3) (fun x7 h6 => some (.inl (some (.ref a2)), h6)) dx_x0) dx_x0) (ax_c (d + 1) 295 [.ref v0, .int v1, .int v2] h) := by
  refine e_entry (L' := [some (.ref v0), some (.int v1), some (.int v2), none]) rfl (ag_A rfl (ag_I (ag_I ag_n))) (Nat.le_of_ble_eq_true rfl) rfl ?_
  refine e_new rfl fun a2 h1 => ?_
  refine e_dup rfl rfl ?_
  refine e_iload rfl rfl ?_
  refine e_isprV rfl rfl rfl (Nat.le_of_ble_eq_true rfl) (fun _ _ => e_x0) fun h3 => ?_
  refine e_astore (L' := [some (.ref v0), some (.int v1), some (.int v2), some (.ref a2)]) rfl rfl (dx_sto (Nat.le_of_ble_eq_true rfl) (Or.inr ⟨_, rfl, rfl⟩) rfl) ?_
  refine e_aload rfl rfl rfl ?_
  refine e_getA rfl fun r4 hr4 => ?_
  refine e_getA rfl fun r5 hr5 => ?_
  refine e_aload rfl rfl rfl ?_
  refine e_ivI rfl rfl rfl (Nat.le_of_ble_eq_true rfl) (fun _ _ => e_x0) fun x7 h6 => ?_
  refine e_pop rfl rfl ?_
  refine e_aload rfl rfl rfl ?_
  exact e_aret rfl rfl
theorem m_X19_init {d : Nat} {v0 : Nat} {v1 : Int32} {v2 : Int32} {h : ax_H}  : dx_le (dx_nw h (.inr (2, [.null, .int 0, .int 0, .int 0])) 4 fun a2 h1 => dx_cV ((ax_c d) 29 [.ref a2] h1) (fun h3 => (dx_vn [(2, 30)] (.ref a2) h3).bind fun k => dx_cR ((ax_c d) k [.ref a2, .ref 280] h3) (fun r5 h4 => (dx_vn [(2, 31)] r5 h4).bind fun k => dx_cR ((ax_c d) k [r5, .int v1] h4) (fun r7 h6 => (dx_vn [(2, 30)] r7 h6).bind fun k => dx_cR ((ax_c d) k [r7, .ref 282] h6) (fun r9 h8 => (dx_vn [(2, 31)] r9 h8).bind fun k => dx_cR ((ax_c d) k [r9, .int v2] h8) (fun r11 h10 => (dx_vn [(2, 32)] r11 h10).bind fun k => dx_cR ((ax_c d) k [r11] h10) (fun r13 h12 => dx_cV ((ax_c d) 168 [.ref v0, r13] h12) (fun h14 => (dx_pF [(28, 0)] (.int) (.ref v0) (.int v1) h14).bind fun h15 => (dx_pF [(28, 1)] (.int) (.ref v0) (.int v2) h15).bind fun h16 => some (.inl none, h16)) dx_x0) dx_x0) dx_x0) dx_x0) dx_x0) dx_x0) dx_x0) (ax_c (d + 1) 296 [.ref v0, .int v1, .int v2] h) := by
  refine e_entry (L' := [some (.ref v0), some (.int v1), some (.int v2)]) rfl (ag_A rfl (ag_I (ag_I ag_n))) (Nat.le_of_ble_eq_true rfl) rfl ?_
  refine e_aload rfl rfl rfl ?_
  refine e_new rfl fun a2 h1 => ?_
  refine e_dup rfl rfl ?_
  refine e_isprV rfl rfl rfl (Nat.le_of_ble_eq_true rfl) (fun _ _ => e_x0) fun h3 => ?_
  refine e_push rfl ?_
  refine e_ivR rfl rfl rfl (Nat.le_of_ble_eq_true rfl) (fun _ _ => e_x0) fun r5 h4 hr5 => ?_
  refine e_iload rfl rfl ?_
  refine e_ivR rfl rfl rfl (Nat.le_of_ble_eq_true rfl) (fun _ _ => e_x0) fun r7 h6 hr7 => ?_
  refine e_push rfl ?_
  refine e_ivR rfl rfl rfl (Nat.le_of_ble_eq_true rfl) (fun _ _ => e_x0) fun r9 h8 hr9 => ?_
  refine e_iload rfl rfl ?_
  refine e_ivR rfl rfl rfl (Nat.le_of_ble_eq_true rfl) (fun _ _ => e_x0) fun r11 h10 hr11 => ?_
  refine e_ivR rfl rfl rfl (Nat.le_of_ble_eq_true rfl) (fun _ _ => e_x0) fun r13 h12 hr13 => ?_
  refine e_isprV rfl rfl rfl (Nat.le_of_ble_eq_true rfl) (fun _ _ => e_x0) fun h14 => ?_
  refine e_aload rfl rfl rfl ?_
  refine e_iload rfl rfl ?_
  refine e_putf rfl fun h15 => ?_
  refine e_aload rfl rfl rfl ?_
  refine e_iload rfl rfl ?_
  refine e_putf rfl fun h16 => ?_
  exact e_ret rfl
theorem m_X19_told {d : Nat} {v0 : Nat} {h : ax_H}  : dx_le ((dx_gI [(28, 0)] (.ref v0) h).bind fun x1 => (dx_gI [(28, 1)] (.ref v0) h).bind fun x2 => some (.inl (some (.int ((100 * x1) + x2))), h)) (ax_c (d + 1) 297 [.ref v0] h) := by
  refine e_entry (L' := [some (.ref v0)]) rfl (ag_A rfl ag_n) (Nat.le_of_ble_eq_true rfl) rfl ?_
  refine e_push rfl ?_
  refine e_aload rfl rfl rfl ?_
  refine e_getI rfl fun x1 => ?_
  refine e_i2 rfl ?_
  refine e_aload rfl rfl rfl ?_
  refine e_getI rfl fun x2 => ?_
  refine e_i2 rfl ?_
  exact e_iret rfl
theorem m_X2_init {d : Nat} {v0 : Nat} {v1 : Int32} {h : ax_H}  : dx_le (dx_nn (.ref v0) (dx_na 0 0 621 h fun a2 h1 => (dx_pF [(29, 0)] (.array (.int)) (.ref v0) (.ref a2) h1).bind fun h3 => dx_nw h3 (.inr (15, [.int 0, .int 0, .null, .null])) 4 fun a5 h4 => dx_cV ((ax_c d) 124 [.ref a5] h4) (fun h6 => (dx_pF [(29, 1)] (.object "java/util/LinkedList") (.ref v0) (.ref a5) h6).bind fun h7 => dx_nw h7 (.inr (16, [.null, .int 0, .int 0])) 3 fun a9 h8 => dx_cV ((ax_c d) 142 [.ref a9] h8) (fun h10 => (dx_pF [(29, 2)] (.object "java/util/ArrayDeque") (.ref v0) (.ref a9) h10).bind fun h11 => dx_na 0 0 0 h11 fun a13 h12 => (dx_pF [(29, 5)] (.array (.int)) (.ref v0) (.ref a13) h12).bind fun h14 => dx_na 0 0 256 h14 fun a16 h15 => (dx_pF [(29, 6)] (.array (.int)) (.ref v0) (.ref a16) h15).bind fun h17 => dx_na 0 0 3 h17 fun a19 h18 => (dx_pF [(29, 7)] (.array (.int)) (.ref v0) (.ref a19) h18).bind fun h20 => dx_naa 3 8 h20 fun a22 h21 => (dx_pF [(29, 8)] (.array (.array (.int))) (.ref v0) (.ref a22) h21).bind fun h23 => (dx_pF [(29, 3)] (.boolean) (.ref v0) (.int v1) h23).bind fun h24 => (dx_vn [(29, 299)] (.ref v0) h24).bind fun k => dx_cV ((ax_c d) k [.ref v0] h24) (fun h25 => some (.inl none, h25)) dx_x0) dx_x0) dx_x0)) (ax_c (d + 1) 298 [.ref v0, .int v1] h) := by
  refine e_entry (L' := [some (.ref v0), some (.int v1)]) rfl (ag_A rfl (ag_I ag_n)) (Nat.le_of_ble_eq_true rfl) rfl ?_
  refine e_aload rfl rfl rfl ?_
  refine e_oin rfl (Nat.le_of_ble_eq_true rfl) ?_
  refine e_aload rfl rfl rfl ?_
  refine e_push rfl ?_
  refine e_newa rfl fun a2 h1 => ?_
  refine e_putf rfl fun h3 => ?_
  refine e_aload rfl rfl rfl ?_
  refine e_new rfl fun a5 h4 => ?_
  refine e_dup rfl rfl ?_
  refine e_isprV rfl rfl rfl (Nat.le_of_ble_eq_true rfl) (fun _ _ => e_x0) fun h6 => ?_
  refine e_putf rfl fun h7 => ?_
  refine e_aload rfl rfl rfl ?_
  refine e_new rfl fun a9 h8 => ?_
  refine e_dup rfl rfl ?_
  refine e_isprV rfl rfl rfl (Nat.le_of_ble_eq_true rfl) (fun _ _ => e_x0) fun h10 => ?_
  refine e_putf rfl fun h11 => ?_
  refine e_aload rfl rfl rfl ?_
  refine e_push rfl ?_
  refine e_newa rfl fun a13 h12 => ?_
  refine e_putf rfl fun h14 => ?_
  refine e_aload rfl rfl rfl ?_
  refine e_push rfl ?_
  refine e_newa rfl fun a16 h15 => ?_
  refine e_putf rfl fun h17 => ?_
  refine e_aload rfl rfl rfl ?_
  refine e_push rfl ?_
  refine e_newa rfl fun a19 h18 => ?_
  refine e_putf rfl fun h20 => ?_
  refine e_aload rfl rfl rfl ?_
  refine e_push rfl ?_
  refine e_push rfl ?_
  refine e_newaa rfl fun a22 h21 => ?_
  refine e_putf rfl fun h23 => ?_
  refine e_aload rfl rfl rfl ?_
  refine e_iload rfl rfl ?_
  refine e_putf rfl fun h24 => ?_
  refine e_aload rfl rfl rfl ?_
  refine e_ivV rfl rfl rfl (Nat.le_of_ble_eq_true rfl) (fun _ _ => e_x0) fun h25 => ?_
  exact e_ret rfl
noncomputable def B_X2_format_4 (K : ax_K) (v0 : Nat) (v1 : Int32) (h : ax_H) : Option ax_R := ax_run K P_X2_format 4 [some (.ref v0), some (.int v1)] [] h
theorem b_X2_format_4 {K : ax_K} {v0 : Nat} {v1 : Int32} {h : ax_H}  : dx_le (if (621 : Int32) ≤ v1 then (dx_gA [(29, 0)] (.ref v0) h).bind fun r1 => (dx_sI 0 r1 397 255 h).bind fun h2 => some (.inl none, h2) else (dx_gA [(29, 0)] (.ref v0) h).bind fun r3 => (dx_sI 0 r3 v1 0 h).bind fun h4 => dx_lt (v1 + 1) fun x5 => B_X2_format_4 K v0 x5 h4) (B_X2_format_4 K v0 v1 h) := by
  show dx_le _ (ax_run K P_X2_format 4 [some (.ref v0), some (.int v1)] [] h)
  refine e_iload rfl rfl ?_
  refine e_push rfl ?_
  refine e_if2 rfl rfl ?_ ?_
  · refine e_aload rfl rfl rfl ?_
    refine e_getA rfl fun r1 hr1 => ?_
    refine e_push rfl ?_
    refine e_push rfl ?_
    refine e_iastI rfl fun h2 => ?_
    exact e_ret rfl
  · refine e_aload rfl rfl rfl ?_
    refine e_getA rfl fun r3 hr3 => ?_
    refine e_iload rfl rfl ?_
    refine e_push rfl ?_
    refine e_iastI rfl fun h4 => ?_
    refine e_iinc (M := fun x5 => [some (.ref v0), some (.int x5)]) rfl rfl (fun _ => dx_sto (Nat.le_of_ble_eq_true rfl) (Or.inr ⟨_, rfl, rfl⟩) rfl) fun x5 => ?_
    refine e_goto rfl ?_
    exact e_wk mP_X2_format (ll_1 (ll_1 ll_n))
theorem m_X2_format {d : Nat} {v0 : Nat} {h : ax_H}  : dx_le (B_X2_format_4 (ax_c d) v0 364 h) (ax_c (d + 1) 299 [.ref v0] h) := by
  refine e_entry (L' := [some (.ref v0), none]) rfl (ag_A rfl ag_n) (Nat.le_of_ble_eq_true rfl) rfl ?_
  refine e_push rfl ?_
  refine e_istore (L' := [some (.ref v0), some (.int 364)]) rfl (dx_sto (Nat.le_of_ble_eq_true rfl) (Or.inr ⟨_, rfl, rfl⟩) rfl) ?_
  exact e_wk mP_X2_format (ll_1 (ll_1 ll_n))
theorem m_X2_flags {d : Nat} {v0 : Nat} {h : ax_H}  : dx_le ((dx_gA [(29, 0)] (.ref v0) h).bind fun r1 => (dx_lI 0 r1 5 h).bind fun x2 => (dx_gA [(29, 0)] (.ref v0) h).bind fun r3 => (dx_lI 0 r3 6 h).bind fun x4 => (dx_gA [(29, 0)] (.ref v0) h).bind fun r5 => (dx_lI 0 r5 7 h).bind fun x6 => (dx_gA [(29, 0)] (.ref v0) h).bind fun r7 => (dx_lI 0 r7 8 h).bind fun x8 => (dx_gA [(29, 0)] (.ref v0) h).bind fun r9 => (dx_lI 0 r9 9 h).bind fun x10 => some (.inl (some (.int ((((x2 + (2 * x4)) + (4 * x6)) + (8 * x8)) + (16 * x10)))), h)) (ax_c (d + 1) 300 [.ref v0] h) := by
  refine e_entry (L' := [some (.ref v0)]) rfl (ag_A rfl ag_n) (Nat.le_of_ble_eq_true rfl) rfl ?_
  refine e_aload rfl rfl rfl ?_
  refine e_getA rfl fun r1 hr1 => ?_
  refine e_push rfl ?_
  refine e_iald rfl fun x2 => ?_
  refine e_push rfl ?_
  refine e_aload rfl rfl rfl ?_
  refine e_getA rfl fun r3 hr3 => ?_
  refine e_push rfl ?_
  refine e_iald rfl fun x4 => ?_
  refine e_i2 rfl ?_
  refine e_i2 rfl ?_
  refine e_push rfl ?_
  refine e_aload rfl rfl rfl ?_
  refine e_getA rfl fun r5 hr5 => ?_
  refine e_push rfl ?_
  refine e_iald rfl fun x6 => ?_
  refine e_i2 rfl ?_
  refine e_i2 rfl ?_
  refine e_push rfl ?_
  refine e_aload rfl rfl rfl ?_
  refine e_getA rfl fun r7 hr7 => ?_
  refine e_push rfl ?_
  refine e_iald rfl fun x8 => ?_
  refine e_i2 rfl ?_
  refine e_i2 rfl ?_
  refine e_push rfl ?_
  refine e_aload rfl rfl rfl ?_
  refine e_getA rfl fun r9 hr9 => ?_
  refine e_push rfl ?_
  refine e_iald rfl fun x10 => ?_
  refine e_i2 rfl ?_
  refine e_i2 rfl ?_
  exact e_iret rfl
theorem m_X2_writesLeft {d : Nat} {v0 : Nat} {h : ax_H}  : dx_le ((dx_gA [(29, 0)] (.ref v0) h).bind fun r1 => (dx_lI 0 r1 18 h).bind fun x2 => if ¬ x2 = 0 then (dx_gA [(29, 0)] (.ref v0) h).bind fun r3 => (dx_lI 0 r3 18 h).bind fun x4 => (dx_gA [(29, 0)] (.ref v0) h).bind fun r5 => (dx_lI 0 r5 19 h).bind fun x6 => some (.inl (some (.int (((2 * x4) + 2) - x6))), h) else some (.inl (some (.int 0)), h)) (ax_c (d + 1) 301 [.ref v0] h) := by
  refine e_entry (L' := [some (.ref v0)]) rfl (ag_A rfl ag_n) (Nat.le_of_ble_eq_true rfl) rfl ?_
  refine e_aload rfl rfl rfl ?_
  refine e_getA rfl fun r1 hr1 => ?_
  refine e_push rfl ?_
  refine e_iald rfl fun x2 => ?_
  refine e_if1 rfl rfl ?_ ?_
  · refine e_push rfl ?_
    refine e_aload rfl rfl rfl ?_
    refine e_getA rfl fun r3 hr3 => ?_
    refine e_push rfl ?_
    refine e_iald rfl fun x4 => ?_
    refine e_i2 rfl ?_
    refine e_push rfl ?_
    refine e_i2 rfl ?_
    refine e_aload rfl rfl rfl ?_
    refine e_getA rfl fun r5 hr5 => ?_
    refine e_push rfl ?_
    refine e_iald rfl fun x6 => ?_
    refine e_i2 rfl ?_
    exact e_iret rfl
  · refine e_push rfl ?_
    refine e_goto rfl ?_
    exact e_iret rfl
theorem m_X2_sum {d : Nat} {v0 : Nat} {h : ax_H}  : dx_le ((dx_vn [(29, 303)] (.ref v0) h).bind fun k => dx_cI ((ax_c d) k [.ref v0, .int 7, .int 0, .int 5] h) (fun x2 h1 => (dx_vn [(29, 300)] (.ref v0) h1).bind fun k => dx_cI ((ax_c d) k [.ref v0] h1) (fun x4 h3 => dx_cI ((ax_c d) 304 [.int x2, .int x4] h3) (fun x6 h5 => (dx_vn [(29, 303)] (.ref v0) h5).bind fun k => dx_cI ((ax_c d) k [.ref v0, .int x6, .int 10, .int 2] h5) (fun x8 h7 => (dx_vn [(29, 303)] (.ref v0) h7).bind fun k => dx_cI ((ax_c d) k [.ref v0, .int x8, .int 12, .int 4] h7) (fun x10 h9 => (dx_vn [(29, 301)] (.ref v0) h9).bind fun k => dx_cI ((ax_c d) k [.ref v0] h9) (fun x12 h11 => dx_cI ((ax_c d) 304 [.int x10, .int x12] h11) (fun x14 h13 => (dx_vn [(29, 303)] (.ref v0) h13).bind fun k => dx_cI ((ax_c d) k [.ref v0, .int x14, .int 108, .int 256] h13) (fun x16 h15 => (dx_vn [(29, 303)] (.ref v0) h15).bind fun k => dx_cI ((ax_c d) k [.ref v0, .int x16, .int 365, .int 256] h15) (fun x18 h17 => (dx_gA [(29, 0)] (.ref v0) h17).bind fun r19 => (dx_lI 0 r19 17 h17).bind fun x20 => dx_cI ((ax_c d) 304 [.int x18, .int x20] h17) (fun x22 h21 => (dx_gA [(29, 0)] (.ref v0) h21).bind fun r23 => (dx_lI 0 r23 17 h21).bind fun x24 => (dx_vn [(29, 303)] (.ref v0) h21).bind fun k => dx_cI ((ax_c d) k [.ref v0, .int x22, .int 48, .int x24] h21) (fun x26 h25 => some (.inl (some (.int x26)), h25)) dx_x0) dx_x0) dx_x0) dx_x0) dx_x0) dx_x0) dx_x0) dx_x0) dx_x0) dx_x0) dx_x0) (ax_c (d + 1) 302 [.ref v0] h) := by
  refine e_entry (L' := [some (.ref v0), none]) rfl (ag_A rfl ag_n) (Nat.le_of_ble_eq_true rfl) rfl ?_
  refine e_aload rfl rfl rfl ?_
  refine e_push rfl ?_
  refine e_push rfl ?_
  refine e_push rfl ?_
  refine e_ivI rfl rfl rfl (Nat.le_of_ble_eq_true rfl) (fun _ _ => e_x0) fun x2 h1 => ?_
  refine e_istore (L' := [some (.ref v0), some (.int x2)]) rfl (dx_sto (Nat.le_of_ble_eq_true rfl) (Or.inr ⟨_, rfl, rfl⟩) rfl) ?_
  refine e_iload rfl rfl ?_
  refine e_aload rfl rfl rfl ?_
  refine e_ivI rfl rfl rfl (Nat.le_of_ble_eq_true rfl) (fun _ _ => e_x0) fun x4 h3 => ?_
  refine e_isI rfl (Nat.le_of_ble_eq_true rfl) rfl rfl (Nat.le_of_ble_eq_true rfl) (fun _ _ => e_x0) fun x6 h5 => ?_
  refine e_istore (L' := [some (.ref v0), some (.int x6)]) rfl (dx_sto (Nat.le_of_ble_eq_true rfl) (Or.inr ⟨_, rfl, rfl⟩) rfl) ?_
  refine e_aload rfl rfl rfl ?_
  refine e_iload rfl rfl ?_
  refine e_push rfl ?_
  refine e_push rfl ?_
  refine e_ivI rfl rfl rfl (Nat.le_of_ble_eq_true rfl) (fun _ _ => e_x0) fun x8 h7 => ?_
  refine e_istore (L' := [some (.ref v0), some (.int x8)]) rfl (dx_sto (Nat.le_of_ble_eq_true rfl) (Or.inr ⟨_, rfl, rfl⟩) rfl) ?_
  refine e_aload rfl rfl rfl ?_
  refine e_iload rfl rfl ?_
  refine e_push rfl ?_
  refine e_push rfl ?_
  refine e_ivI rfl rfl rfl (Nat.le_of_ble_eq_true rfl) (fun _ _ => e_x0) fun x10 h9 => ?_
  refine e_istore (L' := [some (.ref v0), some (.int x10)]) rfl (dx_sto (Nat.le_of_ble_eq_true rfl) (Or.inr ⟨_, rfl, rfl⟩) rfl) ?_
  refine e_iload rfl rfl ?_
  refine e_aload rfl rfl rfl ?_
  refine e_ivI rfl rfl rfl (Nat.le_of_ble_eq_true rfl) (fun _ _ => e_x0) fun x12 h11 => ?_
  refine e_isI rfl (Nat.le_of_ble_eq_true rfl) rfl rfl (Nat.le_of_ble_eq_true rfl) (fun _ _ => e_x0) fun x14 h13 => ?_
  refine e_istore (L' := [some (.ref v0), some (.int x14)]) rfl (dx_sto (Nat.le_of_ble_eq_true rfl) (Or.inr ⟨_, rfl, rfl⟩) rfl) ?_
  refine e_aload rfl rfl rfl ?_
  refine e_iload rfl rfl ?_
  refine e_push rfl ?_
  refine e_push rfl ?_
  refine e_ivI rfl rfl rfl (Nat.le_of_ble_eq_true rfl) (fun _ _ => e_x0) fun x16 h15 => ?_
  refine e_istore (L' := [some (.ref v0), some (.int x16)]) rfl (dx_sto (Nat.le_of_ble_eq_true rfl) (Or.inr ⟨_, rfl, rfl⟩) rfl) ?_
  refine e_aload rfl rfl rfl ?_
  refine e_iload rfl rfl ?_
  refine e_push rfl ?_
  refine e_push rfl ?_
  refine e_ivI rfl rfl rfl (Nat.le_of_ble_eq_true rfl) (fun _ _ => e_x0) fun x18 h17 => ?_
  refine e_istore (L' := [some (.ref v0), some (.int x18)]) rfl (dx_sto (Nat.le_of_ble_eq_true rfl) (Or.inr ⟨_, rfl, rfl⟩) rfl) ?_
  refine e_iload rfl rfl ?_
  refine e_aload rfl rfl rfl ?_
  refine e_getA rfl fun r19 hr19 => ?_
  refine e_push rfl ?_
  refine e_iald rfl fun x20 => ?_
  refine e_isI rfl (Nat.le_of_ble_eq_true rfl) rfl rfl (Nat.le_of_ble_eq_true rfl) (fun _ _ => e_x0) fun x22 h21 => ?_
  refine e_istore (L' := [some (.ref v0), some (.int x22)]) rfl (dx_sto (Nat.le_of_ble_eq_true rfl) (Or.inr ⟨_, rfl, rfl⟩) rfl) ?_
  refine e_aload rfl rfl rfl ?_
  refine e_iload rfl rfl ?_
  refine e_push rfl ?_
  refine e_aload rfl rfl rfl ?_
  refine e_getA rfl fun r23 hr23 => ?_
  refine e_push rfl ?_
  refine e_iald rfl fun x24 => ?_
  refine e_ivI rfl rfl rfl (Nat.le_of_ble_eq_true rfl) (fun _ _ => e_x0) fun x26 h25 => ?_
  exact e_iret rfl
noncomputable def B_X2_added_6 (K : ax_K) (v0 : Nat) (v2 : Int32) (v3 : Int32) (v4 : Int32) (v5 : Int32) (h : ax_H) : Option ax_R := ax_run K P_X2_added 6 [some (.ref v0), none, some (.int v2), some (.int v3), some (.int v4), some (.int v5)] [] h
theorem b_X2_added_6 {K : ax_K} {v0 : Nat} {v2 : Int32} {v3 : Int32} {v4 : Int32} {v5 : Int32} {h : ax_H}  : dx_le (if (v2 + v3) ≤ v5 then some (.inl (some (.int v4)), h) else (dx_gA [(29, 0)] (.ref v0) h).bind fun r1 => (dx_lI 0 r1 v5 h).bind fun x2 => dx_lt (dx_rem ((31 * v4) + x2) 1000003) fun x3 => dx_lt (v5 + 1) fun x4 => B_X2_added_6 K v0 v2 v3 x3 x4 h) (B_X2_added_6 K v0 v2 v3 v4 v5 h) := by
  show dx_le _ (ax_run K P_X2_added 6 [some (.ref v0), none, some (.int v2), some (.int v3), some (.int v4), some (.int v5)] [] h)
  refine e_iload rfl rfl ?_
  refine e_iload rfl rfl ?_
  refine e_iload rfl rfl ?_
  refine e_i2 rfl ?_
  refine e_if2 rfl rfl ?_ ?_
  · refine e_iload rfl rfl ?_
    exact e_iret rfl
  · refine e_push rfl ?_
    refine e_iload rfl rfl ?_
    refine e_i2 rfl ?_
    refine e_aload rfl rfl rfl ?_
    refine e_getA rfl fun r1 hr1 => ?_
    refine e_iload rfl rfl ?_
    refine e_iald rfl fun x2 => ?_
    refine e_i2 rfl ?_
    refine e_push rfl ?_
    refine e_rem rfl (by decide) ?_
    refine e_istoreL (M := fun x3 => [some (.ref v0), none, some (.int v2), some (.int v3), some (.int x3), some (.int v5)]) rfl (fun _ => dx_sto (Nat.le_of_ble_eq_true rfl) (Or.inr ⟨_, rfl, rfl⟩) rfl) fun x3 => ?_
    refine e_iinc (M := fun x4 => [some (.ref v0), none, some (.int v2), some (.int v3), some (.int x3), some (.int x4)]) rfl rfl (fun _ => dx_sto (Nat.le_of_ble_eq_true rfl) (Or.inr ⟨_, rfl, rfl⟩) rfl) fun x4 => ?_
    refine e_goto rfl ?_
    exact e_wk mP_X2_added (ll_1 (ll_0 (ll_1 (ll_1 (ll_1 (ll_1 ll_n))))))
theorem m_X2_added {d : Nat} {v0 : Nat} {v1 : Int32} {v2 : Int32} {v3 : Int32} {h : ax_H}  : dx_le (B_X2_added_6 (ax_c d) v0 v2 v3 v1 v2 h) (ax_c (d + 1) 303 [.ref v0, .int v1, .int v2, .int v3] h) := by
  refine e_entry (L' := [some (.ref v0), some (.int v1), some (.int v2), some (.int v3), none, none]) rfl (ag_A rfl (ag_I (ag_I (ag_I ag_n)))) (Nat.le_of_ble_eq_true rfl) rfl ?_
  refine e_iload rfl rfl ?_
  refine e_istore (L' := [some (.ref v0), some (.int v1), some (.int v2), some (.int v3), some (.int v1), none]) rfl (dx_sto (Nat.le_of_ble_eq_true rfl) (Or.inr ⟨_, rfl, rfl⟩) rfl) ?_
  refine e_iload rfl rfl ?_
  refine e_istore (L' := [some (.ref v0), some (.int v1), some (.int v2), some (.int v3), some (.int v1), some (.int v2)]) rfl (dx_sto (Nat.le_of_ble_eq_true rfl) (Or.inr ⟨_, rfl, rfl⟩) rfl) ?_
  exact e_wk mP_X2_added (ll_1 (ll_0 (ll_1 (ll_1 (ll_1 (ll_1 ll_n))))))
theorem m_X2_joined {d : Nat} {v0 : Int32} {v1 : Int32} {h : ax_H}  : dx_le (some (.inl (some (.int (dx_rem ((31 * v0) + v1) 1000003))), h)) (ax_c (d + 1) 304 [.int v0, .int v1] h) := by
  refine e_entry (L' := [some (.int v0), some (.int v1)]) rfl (ag_I (ag_I ag_n)) (Nat.le_of_ble_eq_true rfl) rfl ?_
  refine e_push rfl ?_
  refine e_iload rfl rfl ?_
  refine e_i2 rfl ?_
  refine e_iload rfl rfl ?_
  refine e_i2 rfl ?_
  refine e_push rfl ?_
  refine e_rem rfl (by decide) ?_
  exact e_iret rfl
theorem m_X2_entry {d : Nat} {v0 : Nat} {v1 : Int32} {v2 : Int32} {h : ax_H}  : dx_le ((dx_gA [(29, 0)] (.ref v0) h).bind fun r1 => (dx_lI 0 r1 (((365 + (8 * (5 + (v1 / 2)))) + (4 * (dx_rem v1 2))) + v2) h).bind fun x2 => some (.inl (some (.int x2)), h)) (ax_c (d + 1) 305 [.ref v0, .int v1, .int v2] h) := by
  refine e_entry (L' := [some (.ref v0), some (.int v1), some (.int v2)]) rfl (ag_A rfl (ag_I (ag_I ag_n))) (Nat.le_of_ble_eq_true rfl) rfl ?_
  refine e_aload rfl rfl rfl ?_
  refine e_getA rfl fun r1 hr1 => ?_
  refine e_push rfl ?_
  refine e_push rfl ?_
  refine e_push rfl ?_
  refine e_iload rfl rfl ?_
  refine e_push rfl ?_
  refine e_idn rfl (by decide) ?_
  refine e_i2 rfl ?_
  refine e_i2 rfl ?_
  refine e_i2 rfl ?_
  refine e_push rfl ?_
  refine e_iload rfl rfl ?_
  refine e_push rfl ?_
  refine e_rem rfl (by decide) ?_
  refine e_i2 rfl ?_
  refine e_i2 rfl ?_
  refine e_iload rfl rfl ?_
  refine e_i2 rfl ?_
  refine e_iald rfl fun x2 => ?_
  exact e_iret rfl
theorem m_X2_isUsed {d : Nat} {v0 : Nat} {v1 : Int32} {h : ax_H}  : dx_le ((dx_gA [(29, 0)] (.ref v0) h).bind fun r1 => (dx_lI 0 r1 (397 + (v1 / 16)) h).bind fun x2 => if ((dx_shr x2 (dx_rem v1 16)) &&& 1) = 0 then some (.inl (some (.int 0)), h) else some (.inl (some (.int 1)), h)) (ax_c (d + 1) 306 [.ref v0, .int v1] h) := by
  refine e_entry (L' := [some (.ref v0), some (.int v1)]) rfl (ag_A rfl (ag_I ag_n)) (Nat.le_of_ble_eq_true rfl) rfl ?_
  refine e_aload rfl rfl rfl ?_
  refine e_getA rfl fun r1 hr1 => ?_
  refine e_push rfl ?_
  refine e_iload rfl rfl ?_
  refine e_push rfl ?_
  refine e_idn rfl (by decide) ?_
  refine e_i2 rfl ?_
  refine e_iald rfl fun x2 => ?_
  refine e_iload rfl rfl ?_
  refine e_push rfl ?_
  refine e_rem rfl (by decide) ?_
  refine e_shr rfl ?_
  refine e_push rfl ?_
  refine e_i2 rfl ?_
  refine e_if1 rfl rfl ?_ ?_
  · refine e_push rfl ?_
    exact e_zret0 rfl
  · refine e_push rfl ?_
    refine e_goto rfl ?_
    exact e_zret1 rfl
noncomputable def B_X2_isWhole_36 (K : ax_K) (v0 : Nat) (v1 : Nat) (v2 : Int32) (v3 : Int32) (h : ax_H) : Option ax_R := ax_run K P_X2_isWhole 36 [some (.ref v0), some (.ref v1), some (.int v2), some (.int v3), none, none, none, none] [] h
noncomputable def B_X2_isWhole_64 (K : ax_K) (s0 : Int32) (v0 : Nat) (v1 : Nat) (v2 : Int32) (v3 : Int32) (v4 : Int32) (h : ax_H) : Option ax_R := ax_run K P_X2_isWhole 64 [some (.ref v0), some (.ref v1), some (.int v2), some (.int v3), some (.int v4), none, none, none] [.int s0] h
noncomputable def B_X2_isWhole_116 (K : ax_K) (v0 : Nat) (v1 : Nat) (v2 : Int32) (v3 : Int32) (v4 : Int32) (v5 : Int32) (v6 : Int32) (h : ax_H) : Option ax_R := ax_run K P_X2_isWhole 116 [some (.ref v0), some (.ref v1), some (.int v2), some (.int v3), some (.int v4), some (.int v5), some (.int v6), none] [] h
noncomputable def B_X2_isWhole_190 (K : ax_K) (s0 : Int32) (s1 : Int32) (v0 : Nat) (v1 : Nat) (v3 : Int32) (v4 : Int32) (v5 : Int32) (v6 : Int32) (v7 : Int32) (h : ax_H) : Option ax_R := ax_run K P_X2_isWhole 190 [some (.ref v0), some (.ref v1), none, some (.int v3), some (.int v4), some (.int v5), some (.int v6), some (.int v7)] [.int s1, .int s0] h
noncomputable def B_X2_isWhole_219 (K : ax_K) (v0 : Nat) (v1 : Nat) (v2 : Int32) (v3 : Int32) (h : ax_H) : Option ax_R := ax_run K P_X2_isWhole 219 [some (.ref v0), some (.ref v1), some (.int v2), some (.int v3), none, none, none, none] [] h
theorem b_X2_isWhole_36 {K : ax_K} {v0 : Nat} {v1 : Nat} {v2 : Int32} {v3 : Int32} {h : ax_H}  : dx_le (if (6 : Int32) ≤ v3 then B_X2_isWhole_219 K v0 v1 v2 0 h else (dx_vn [(29, 305)] (.ref v0) h).bind fun k => dx_cI (K k [.ref v0, .int v3, .int 1] h) (fun x2 h1 => (dx_vn [(29, 305)] (.ref v0) h1).bind fun k => dx_cI (K k [.ref v0, .int v3, .int 0] h1) (fun x4 h3 => if x4 = 0 then B_X2_isWhole_64 K 0 v0 v1 v2 v3 x2 h3 else B_X2_isWhole_64 K 1 v0 v1 v2 v3 x2 h3) dx_x0) dx_x0) (B_X2_isWhole_36 K v0 v1 v2 v3 h) := by
  show dx_le _ (ax_run K P_X2_isWhole 36 [some (.ref v0), some (.ref v1), some (.int v2), some (.int v3), none, none, none, none] [] h)
  refine e_iload rfl rfl ?_
  refine e_push rfl ?_
  refine e_if2 rfl rfl ?_ ?_
  · refine e_push rfl ?_
    refine e_istore (L' := [some (.ref v0), some (.ref v1), some (.int v2), some (.int 0), none, none, none, none]) rfl (dx_sto (Nat.le_of_ble_eq_true rfl) (Or.inr ⟨_, rfl, rfl⟩) rfl) ?_
    exact e_wk mP_X2_isWhole (ll_1 (ll_1 (ll_1 (ll_1 (ll_0 (ll_0 (ll_0 (ll_0 ll_n))))))))
  · refine e_aload rfl rfl rfl ?_
    refine e_iload rfl rfl ?_
    refine e_push rfl ?_
    refine e_ivI rfl rfl rfl (Nat.le_of_ble_eq_true rfl) (fun _ _ => e_x0) fun x2 h1 => ?_
    refine e_istore (L' := [some (.ref v0), some (.ref v1), some (.int v2), some (.int v3), some (.int x2), none, none, none]) rfl (dx_sto (Nat.le_of_ble_eq_true rfl) (Or.inr ⟨_, rfl, rfl⟩) rfl) ?_
    refine e_aload rfl rfl rfl ?_
    refine e_iload rfl rfl ?_
    refine e_push rfl ?_
    refine e_ivI rfl rfl rfl (Nat.le_of_ble_eq_true rfl) (fun _ _ => e_x0) fun x4 h3 => ?_
    refine e_if1 rfl rfl ?_ ?_
    · refine e_push rfl ?_
      exact e_wk mP_X2_isWhole (ll_1 (ll_1 (ll_1 (ll_1 (ll_1 (ll_0 (ll_0 (ll_0 ll_n))))))))
    · refine e_push rfl ?_
      refine e_goto rfl ?_
      exact e_wk mP_X2_isWhole (ll_1 (ll_1 (ll_1 (ll_1 (ll_1 (ll_0 (ll_0 (ll_0 ll_n))))))))
theorem b_X2_isWhole_64 {K : ax_K} {s0 : Int32} {v0 : Nat} {v1 : Nat} {v2 : Int32} {v3 : Int32} {v4 : Int32} {h : ax_H}  : dx_le (if s0 = 0 then if ¬ v4 = 0 then dx_lt (v2 &&& 0) fun x1 => B_X2_isWhole_116 K v0 v1 x1 v3 v4 s0 2 h else dx_lt (v2 &&& 1) fun x2 => B_X2_isWhole_116 K v0 v1 x2 v3 v4 s0 2 h else (dx_vn [(29, 305)] (.ref v0) h).bind fun k => dx_cI (K k [.ref v0, .int v3, .int 0] h) (fun x4 h3 => (dx_vn [(29, 308)] (.ref v0) h3).bind fun k => dx_cI (K k [.ref v0, .int x4] h3) (fun x6 h5 => if ¬ x6 = v3 then dx_lt (v2 &&& 0) fun x7 => B_X2_isWhole_116 K v0 v1 x7 v3 v4 s0 2 h5 else if (16 : Int32) < v4 then dx_lt (v2 &&& 0) fun x8 => B_X2_isWhole_116 K v0 v1 x8 v3 v4 s0 2 h5 else dx_lt (v2 &&& 1) fun x9 => B_X2_isWhole_116 K v0 v1 x9 v3 v4 s0 2 h5) dx_x0) dx_x0) (B_X2_isWhole_64 K s0 v0 v1 v2 v3 v4 h) := by
  show dx_le _ (ax_run K P_X2_isWhole 64 [some (.ref v0), some (.ref v1), some (.int v2), some (.int v3), some (.int v4), none, none, none] [.int s0] h)
  refine e_istore (L' := [some (.ref v0), some (.ref v1), some (.int v2), some (.int v3), some (.int v4), some (.int s0), none, none]) rfl (dx_sto (Nat.le_of_ble_eq_true rfl) (Or.inr ⟨_, rfl, rfl⟩) rfl) ?_
  refine e_iload rfl rfl ?_
  refine e_iload rfl rfl ?_
  refine e_if1 rfl rfl ?_ ?_
  · refine e_iload rfl rfl ?_
    refine e_if1 rfl rfl ?_ ?_
    · refine e_push rfl ?_
      refine e_i2 rfl ?_
      refine e_istoreL (M := fun x1 => [some (.ref v0), some (.ref v1), some (.int x1), some (.int v3), some (.int v4), some (.int s0), none, none]) rfl (fun _ => dx_sto (Nat.le_of_ble_eq_true rfl) (Or.inr ⟨_, rfl, rfl⟩) rfl) fun x1 => ?_
      refine e_push rfl ?_
      refine e_istore (L' := [some (.ref v0), some (.ref v1), some (.int x1), some (.int v3), some (.int v4), some (.int s0), some (.int 2), none]) rfl (dx_sto (Nat.le_of_ble_eq_true rfl) (Or.inr ⟨_, rfl, rfl⟩) rfl) ?_
      exact e_wk mP_X2_isWhole (ll_1 (ll_1 (ll_1 (ll_1 (ll_1 (ll_1 (ll_1 (ll_0 ll_n))))))))
    · refine e_push rfl ?_
      refine e_goto rfl ?_
      refine e_i2 rfl ?_
      refine e_istoreL (M := fun x2 => [some (.ref v0), some (.ref v1), some (.int x2), some (.int v3), some (.int v4), some (.int s0), none, none]) rfl (fun _ => dx_sto (Nat.le_of_ble_eq_true rfl) (Or.inr ⟨_, rfl, rfl⟩) rfl) fun x2 => ?_
      refine e_push rfl ?_
      refine e_istore (L' := [some (.ref v0), some (.ref v1), some (.int x2), some (.int v3), some (.int v4), some (.int s0), some (.int 2), none]) rfl (dx_sto (Nat.le_of_ble_eq_true rfl) (Or.inr ⟨_, rfl, rfl⟩) rfl) ?_
      exact e_wk mP_X2_isWhole (ll_1 (ll_1 (ll_1 (ll_1 (ll_1 (ll_1 (ll_1 (ll_0 ll_n))))))))
  · refine e_aload rfl rfl rfl ?_
    refine e_aload rfl rfl rfl ?_
    refine e_iload rfl rfl ?_
    refine e_push rfl ?_
    refine e_ivI rfl rfl rfl (Nat.le_of_ble_eq_true rfl) (fun _ _ => e_x0) fun x4 h3 => ?_
    refine e_ivI rfl rfl rfl (Nat.le_of_ble_eq_true rfl) (fun _ _ => e_x0) fun x6 h5 => ?_
    refine e_iload rfl rfl ?_
    refine e_if2 rfl rfl ?_ ?_
    · refine e_push rfl ?_
      refine e_goto rfl ?_
      refine e_i2 rfl ?_
      refine e_istoreL (M := fun x7 => [some (.ref v0), some (.ref v1), some (.int x7), some (.int v3), some (.int v4), some (.int s0), none, none]) rfl (fun _ => dx_sto (Nat.le_of_ble_eq_true rfl) (Or.inr ⟨_, rfl, rfl⟩) rfl) fun x7 => ?_
      refine e_push rfl ?_
      refine e_istore (L' := [some (.ref v0), some (.ref v1), some (.int x7), some (.int v3), some (.int v4), some (.int s0), some (.int 2), none]) rfl (dx_sto (Nat.le_of_ble_eq_true rfl) (Or.inr ⟨_, rfl, rfl⟩) rfl) ?_
      exact e_wk mP_X2_isWhole (ll_1 (ll_1 (ll_1 (ll_1 (ll_1 (ll_1 (ll_1 (ll_0 ll_n))))))))
    · refine e_iload rfl rfl ?_
      refine e_push rfl ?_
      refine e_if2 rfl rfl ?_ ?_
      · refine e_push rfl ?_
        refine e_goto rfl ?_
        refine e_i2 rfl ?_
        refine e_istoreL (M := fun x8 => [some (.ref v0), some (.ref v1), some (.int x8), some (.int v3), some (.int v4), some (.int s0), none, none]) rfl (fun _ => dx_sto (Nat.le_of_ble_eq_true rfl) (Or.inr ⟨_, rfl, rfl⟩) rfl) fun x8 => ?_
        refine e_push rfl ?_
        refine e_istore (L' := [some (.ref v0), some (.ref v1), some (.int x8), some (.int v3), some (.int v4), some (.int s0), some (.int 2), none]) rfl (dx_sto (Nat.le_of_ble_eq_true rfl) (Or.inr ⟨_, rfl, rfl⟩) rfl) ?_
        exact e_wk mP_X2_isWhole (ll_1 (ll_1 (ll_1 (ll_1 (ll_1 (ll_1 (ll_1 (ll_0 ll_n))))))))
      · refine e_push rfl ?_
        refine e_goto rfl ?_
        refine e_i2 rfl ?_
        refine e_istoreL (M := fun x9 => [some (.ref v0), some (.ref v1), some (.int x9), some (.int v3), some (.int v4), some (.int s0), none, none]) rfl (fun _ => dx_sto (Nat.le_of_ble_eq_true rfl) (Or.inr ⟨_, rfl, rfl⟩) rfl) fun x9 => ?_
        refine e_push rfl ?_
        refine e_istore (L' := [some (.ref v0), some (.ref v1), some (.int x9), some (.int v3), some (.int v4), some (.int s0), some (.int 2), none]) rfl (dx_sto (Nat.le_of_ble_eq_true rfl) (Or.inr ⟨_, rfl, rfl⟩) rfl) ?_
        exact e_wk mP_X2_isWhole (ll_1 (ll_1 (ll_1 (ll_1 (ll_1 (ll_1 (ll_1 (ll_0 ll_n))))))))
theorem b_X2_isWhole_116 {K : ax_K} {v0 : Nat} {v1 : Nat} {v2 : Int32} {v3 : Int32} {v4 : Int32} {v5 : Int32} {v6 : Int32} {h : ax_H}  : dx_le (if (4 : Int32) ≤ v6 then dx_lt (v3 + 1) fun x1 => B_X2_isWhole_36 K v0 v1 v2 x1 h else (dx_vn [(29, 305)] (.ref v0) h).bind fun k => dx_cI (K k [.ref v0, .int v3, .int v6] h) (fun x3 h2 => if v5 = 0 then if ¬ x3 = 0 then B_X2_isWhole_190 K v2 0 v0 v1 v3 v4 v5 v6 x3 h2 else B_X2_isWhole_190 K v2 1 v0 v1 v3 v4 v5 v6 x3 h2 else if v4 ≤ (8 * (v6 - 2)) then if ¬ x3 = 0 then B_X2_isWhole_190 K v2 0 v0 v1 v3 v4 v5 v6 x3 h2 else B_X2_isWhole_190 K v2 1 v0 v1 v3 v4 v5 v6 x3 h2 else if x3 < 8 then B_X2_isWhole_190 K v2 0 v0 v1 v3 v4 v5 v6 x3 h2 else if (32 : Int32) ≤ x3 then B_X2_isWhole_190 K v2 0 v0 v1 v3 v4 v5 v6 x3 h2 else (dx_vn [(12, 107)] (.ref v1) h2).bind fun k => dx_cI (K k [.ref v1, .int x3] h2) (fun x5 h4 => if ¬ x5 = 0 then B_X2_isWhole_190 K v2 0 v0 v1 v3 v4 v5 v6 x3 h4 else B_X2_isWhole_190 K v2 1 v0 v1 v3 v4 v5 v6 x3 h4) dx_x0) dx_x0) (B_X2_isWhole_116 K v0 v1 v2 v3 v4 v5 v6 h) := by
  show dx_le _ (ax_run K P_X2_isWhole 116 [some (.ref v0), some (.ref v1), some (.int v2), some (.int v3), some (.int v4), some (.int v5), some (.int v6), none] [] h)
  refine e_iload rfl rfl ?_
  refine e_push rfl ?_
  refine e_if2 rfl rfl ?_ ?_
  · refine e_iinc (M := fun x1 => [some (.ref v0), some (.ref v1), some (.int v2), some (.int x1), some (.int v4), some (.int v5), some (.int v6), none]) rfl rfl (fun _ => dx_sto (Nat.le_of_ble_eq_true rfl) (Or.inr ⟨_, rfl, rfl⟩) rfl) fun x1 => ?_
    refine e_goto rfl ?_
    exact e_wk mP_X2_isWhole (ll_1 (ll_1 (ll_1 (ll_1 (ll_0 (ll_0 (ll_0 (ll_0 ll_n))))))))
  · refine e_aload rfl rfl rfl ?_
    refine e_iload rfl rfl ?_
    refine e_iload rfl rfl ?_
    refine e_ivI rfl rfl rfl (Nat.le_of_ble_eq_true rfl) (fun _ _ => e_x0) fun x3 h2 => ?_
    refine e_istore (L' := [some (.ref v0), some (.ref v1), some (.int v2), some (.int v3), some (.int v4), some (.int v5), some (.int v6), some (.int x3)]) rfl (dx_sto (Nat.le_of_ble_eq_true rfl) (Or.inr ⟨_, rfl, rfl⟩) rfl) ?_
    refine e_iload rfl rfl ?_
    refine e_iload rfl rfl ?_
    refine e_if1 rfl rfl ?_ ?_
    · refine e_iload rfl rfl ?_
      refine e_if1 rfl rfl ?_ ?_
      · refine e_push rfl ?_
        exact e_wk mP_X2_isWhole (ll_1 (ll_1 (ll_0 (ll_1 (ll_1 (ll_1 (ll_1 (ll_1 ll_n))))))))
      · refine e_push rfl ?_
        refine e_goto rfl ?_
        exact e_wk mP_X2_isWhole (ll_1 (ll_1 (ll_0 (ll_1 (ll_1 (ll_1 (ll_1 (ll_1 ll_n))))))))
    · refine e_iload rfl rfl ?_
      refine e_push rfl ?_
      refine e_iload rfl rfl ?_
      refine e_push rfl ?_
      refine e_i2 rfl ?_
      refine e_i2 rfl ?_
      refine e_if2 rfl rfl ?_ ?_
      · refine e_iload rfl rfl ?_
        refine e_if1 rfl rfl ?_ ?_
        · refine e_push rfl ?_
          exact e_wk mP_X2_isWhole (ll_1 (ll_1 (ll_0 (ll_1 (ll_1 (ll_1 (ll_1 (ll_1 ll_n))))))))
        · refine e_push rfl ?_
          refine e_goto rfl ?_
          exact e_wk mP_X2_isWhole (ll_1 (ll_1 (ll_0 (ll_1 (ll_1 (ll_1 (ll_1 (ll_1 ll_n))))))))
      · refine e_iload rfl rfl ?_
        refine e_push rfl ?_
        refine e_if2 rfl rfl ?_ ?_
        · refine e_push rfl ?_
          refine e_goto rfl ?_
          exact e_wk mP_X2_isWhole (ll_1 (ll_1 (ll_0 (ll_1 (ll_1 (ll_1 (ll_1 (ll_1 ll_n))))))))
        · refine e_iload rfl rfl ?_
          refine e_push rfl ?_
          refine e_if2 rfl rfl ?_ ?_
          · refine e_push rfl ?_
            refine e_goto rfl ?_
            exact e_wk mP_X2_isWhole (ll_1 (ll_1 (ll_0 (ll_1 (ll_1 (ll_1 (ll_1 (ll_1 ll_n))))))))
          · refine e_aload rfl rfl rfl ?_
            refine e_iload rfl rfl ?_
            refine e_ivI rfl rfl rfl (Nat.le_of_ble_eq_true rfl) (fun _ _ => e_x0) fun x5 h4 => ?_
            refine e_if1 rfl rfl ?_ ?_
            · refine e_push rfl ?_
              refine e_goto rfl ?_
              exact e_wk mP_X2_isWhole (ll_1 (ll_1 (ll_0 (ll_1 (ll_1 (ll_1 (ll_1 (ll_1 ll_n))))))))
            · refine e_push rfl ?_
              refine e_goto rfl ?_
              exact e_wk mP_X2_isWhole (ll_1 (ll_1 (ll_0 (ll_1 (ll_1 (ll_1 (ll_1 (ll_1 ll_n))))))))
theorem b_X2_isWhole_190 {K : ax_K} {s0 : Int32} {s1 : Int32} {v0 : Nat} {v1 : Nat} {v3 : Int32} {v4 : Int32} {v5 : Int32} {v6 : Int32} {v7 : Int32} {h : ax_H}  : dx_le (dx_lt (s0 &&& s1) fun x1 => if (32 : Int32) ≤ v7 then dx_lt (v6 + 1) fun x2 => B_X2_isWhole_116 K v0 v1 x1 v3 v4 v5 x2 h else (dx_vn [(12, 108)] (.ref v1) h).bind fun k => dx_cV (K k [.ref v1, .int v7] h) (fun h3 => dx_lt (v6 + 1) fun x4 => B_X2_isWhole_116 K v0 v1 x1 v3 v4 v5 x4 h3) dx_x0) (B_X2_isWhole_190 K s0 s1 v0 v1 v3 v4 v5 v6 v7 h) := by
  show dx_le _ (ax_run K P_X2_isWhole 190 [some (.ref v0), some (.ref v1), none, some (.int v3), some (.int v4), some (.int v5), some (.int v6), some (.int v7)] [.int s1, .int s0] h)
  refine e_i2 rfl ?_
  refine e_istoreL (M := fun x1 => [some (.ref v0), some (.ref v1), some (.int x1), some (.int v3), some (.int v4), some (.int v5), some (.int v6), some (.int v7)]) rfl (fun _ => dx_sto (Nat.le_of_ble_eq_true rfl) (Or.inr ⟨_, rfl, rfl⟩) rfl) fun x1 => ?_
  refine e_iload rfl rfl ?_
  refine e_push rfl ?_
  refine e_if2 rfl rfl ?_ ?_
  · refine e_iinc (M := fun x2 => [some (.ref v0), some (.ref v1), some (.int x1), some (.int v3), some (.int v4), some (.int v5), some (.int x2), some (.int v7)]) rfl rfl (fun _ => dx_sto (Nat.le_of_ble_eq_true rfl) (Or.inr ⟨_, rfl, rfl⟩) rfl) fun x2 => ?_
    refine e_goto rfl ?_
    exact e_wk mP_X2_isWhole (ll_1 (ll_1 (ll_1 (ll_1 (ll_1 (ll_1 (ll_1 (ll_0 ll_n))))))))
  · refine e_aload rfl rfl rfl ?_
    refine e_iload rfl rfl ?_
    refine e_ivV rfl rfl rfl (Nat.le_of_ble_eq_true rfl) (fun _ _ => e_x0) fun h3 => ?_
    refine e_iinc (M := fun x4 => [some (.ref v0), some (.ref v1), some (.int x1), some (.int v3), some (.int v4), some (.int v5), some (.int x4), some (.int v7)]) rfl rfl (fun _ => dx_sto (Nat.le_of_ble_eq_true rfl) (Or.inr ⟨_, rfl, rfl⟩) rfl) fun x4 => ?_
    refine e_goto rfl ?_
    exact e_wk mP_X2_isWhole (ll_1 (ll_1 (ll_1 (ll_1 (ll_1 (ll_1 (ll_1 (ll_0 ll_n))))))))
theorem b_X2_isWhole_219 {K : ax_K} {v0 : Nat} {v1 : Nat} {v2 : Int32} {v3 : Int32} {h : ax_H}  : dx_le (if (32 : Int32) ≤ v3 then if v2 = 0 ∨ v2 = 1 then some (.inl (some (.int v2)), h) else none else (dx_vn [(29, 306)] (.ref v0) h).bind fun k => dx_cI (K k [.ref v0, .int v3] h) (fun x2 h1 => (dx_vn [(12, 107)] (.ref v1) h1).bind fun k => dx_cI (K k [.ref v1, .int v3] h1) (fun x4 h3 => if ¬ x2 = x4 then dx_lt (v2 &&& 0) fun x5 => dx_lt (v3 + 1) fun x6 => B_X2_isWhole_219 K v0 v1 x5 x6 h3 else dx_lt (v2 &&& 1) fun x7 => dx_lt (v3 + 1) fun x8 => B_X2_isWhole_219 K v0 v1 x7 x8 h3) dx_x0) dx_x0) (B_X2_isWhole_219 K v0 v1 v2 v3 h) := by
  show dx_le _ (ax_run K P_X2_isWhole 219 [some (.ref v0), some (.ref v1), some (.int v2), some (.int v3), none, none, none, none] [] h)
  refine e_iload rfl rfl ?_
  refine e_push rfl ?_
  refine e_if2 rfl rfl ?_ ?_
  · refine e_iload rfl rfl ?_
    exact e_zret rfl
  · refine e_iload rfl rfl ?_
    refine e_aload rfl rfl rfl ?_
    refine e_iload rfl rfl ?_
    refine e_ivI rfl rfl rfl (Nat.le_of_ble_eq_true rfl) (fun _ _ => e_x0) fun x2 h1 => ?_
    refine e_aload rfl rfl rfl ?_
    refine e_iload rfl rfl ?_
    refine e_ivI rfl rfl rfl (Nat.le_of_ble_eq_true rfl) (fun _ _ => e_x0) fun x4 h3 => ?_
    refine e_if2 rfl rfl ?_ ?_
    · refine e_push rfl ?_
      refine e_i2 rfl ?_
      refine e_istoreL (M := fun x5 => [some (.ref v0), some (.ref v1), some (.int x5), some (.int v3), none, none, none, none]) rfl (fun _ => dx_sto (Nat.le_of_ble_eq_true rfl) (Or.inr ⟨_, rfl, rfl⟩) rfl) fun x5 => ?_
      refine e_iinc (M := fun x6 => [some (.ref v0), some (.ref v1), some (.int x5), some (.int x6), none, none, none, none]) rfl rfl (fun _ => dx_sto (Nat.le_of_ble_eq_true rfl) (Or.inr ⟨_, rfl, rfl⟩) rfl) fun x6 => ?_
      refine e_goto rfl ?_
      exact e_wk mP_X2_isWhole (ll_1 (ll_1 (ll_1 (ll_1 (ll_0 (ll_0 (ll_0 (ll_0 ll_n))))))))
    · refine e_push rfl ?_
      refine e_goto rfl ?_
      refine e_i2 rfl ?_
      refine e_istoreL (M := fun x7 => [some (.ref v0), some (.ref v1), some (.int x7), some (.int v3), none, none, none, none]) rfl (fun _ => dx_sto (Nat.le_of_ble_eq_true rfl) (Or.inr ⟨_, rfl, rfl⟩) rfl) fun x7 => ?_
      refine e_iinc (M := fun x8 => [some (.ref v0), some (.ref v1), some (.int x7), some (.int x8), none, none, none, none]) rfl rfl (fun _ => dx_sto (Nat.le_of_ble_eq_true rfl) (Or.inr ⟨_, rfl, rfl⟩) rfl) fun x8 => ?_
      refine e_goto rfl ?_
      exact e_wk mP_X2_isWhole (ll_1 (ll_1 (ll_1 (ll_1 (ll_0 (ll_0 (ll_0 (ll_0 ll_n))))))))
theorem m_X2_isWhole {d : Nat} {v0 : Nat} {h : ax_H}  : dx_le (dx_nw h (.inr (12, [.null, .int 0, .int 0])) 3 fun a2 h1 => dx_cV ((ax_c d) 99 [.ref a2, .int 32] h1) (fun h3 => (dx_vn [(12, 102)] (.ref a2) h3).bind fun k => dx_cV ((ax_c d) k [.ref a2, .int 0, .int 8] h3) (fun h4 => (dx_gA [(29, 0)] (.ref v0) h4).bind fun r5 => (dx_lI 0 r5 365 h4).bind fun x6 => if ¬ x6 = 0 then B_X2_isWhole_36 (ax_c d) v0 a2 0 0 h4 else B_X2_isWhole_36 (ax_c d) v0 a2 1 0 h4) dx_x0) dx_x0) (ax_c (d + 1) 307 [.ref v0] h) := by
  refine e_entry (L' := [some (.ref v0), none, none, none, none, none, none, none]) rfl (ag_A rfl ag_n) (Nat.le_of_ble_eq_true rfl) rfl ?_
  refine e_new rfl fun a2 h1 => ?_
  refine e_dup rfl rfl ?_
  refine e_push rfl ?_
  refine e_isprV rfl rfl rfl (Nat.le_of_ble_eq_true rfl) (fun _ _ => e_x0) fun h3 => ?_
  refine e_astore (L' := [some (.ref v0), some (.ref a2), none, none, none, none, none, none]) rfl rfl (dx_sto (Nat.le_of_ble_eq_true rfl) (Or.inr ⟨_, rfl, rfl⟩) rfl) ?_
  refine e_aload rfl rfl rfl ?_
  refine e_push rfl ?_
  refine e_push rfl ?_
  refine e_ivV rfl rfl rfl (Nat.le_of_ble_eq_true rfl) (fun _ _ => e_x0) fun h4 => ?_
  refine e_aload rfl rfl rfl ?_
  refine e_getA rfl fun r5 hr5 => ?_
  refine e_push rfl ?_
  refine e_iald rfl fun x6 => ?_
  refine e_if1 rfl rfl ?_ ?_
  · refine e_push rfl ?_
    refine e_istore (L' := [some (.ref v0), some (.ref a2), some (.int 0), none, none, none, none, none]) rfl (dx_sto (Nat.le_of_ble_eq_true rfl) (Or.inr ⟨_, rfl, rfl⟩) rfl) ?_
    refine e_push rfl ?_
    refine e_istore (L' := [some (.ref v0), some (.ref a2), some (.int 0), some (.int 0), none, none, none, none]) rfl (dx_sto (Nat.le_of_ble_eq_true rfl) (Or.inr ⟨_, rfl, rfl⟩) rfl) ?_
    exact e_wk mP_X2_isWhole (ll_1 (ll_1 (ll_1 (ll_1 (ll_0 (ll_0 (ll_0 (ll_0 ll_n))))))))
  · refine e_push rfl ?_
    refine e_goto rfl ?_
    refine e_istore (L' := [some (.ref v0), some (.ref a2), some (.int 1), none, none, none, none, none]) rfl (dx_sto (Nat.le_of_ble_eq_true rfl) (Or.inr ⟨_, rfl, rfl⟩) rfl) ?_
    refine e_push rfl ?_
    refine e_istore (L' := [some (.ref v0), some (.ref a2), some (.int 1), some (.int 0), none, none, none, none]) rfl (dx_sto (Nat.le_of_ble_eq_true rfl) (Or.inr ⟨_, rfl, rfl⟩) rfl) ?_
    exact e_wk mP_X2_isWhole (ll_1 (ll_1 (ll_1 (ll_1 (ll_0 (ll_0 (ll_0 (ll_0 ll_n))))))))
noncomputable def B_X2_find_4 (K : ax_K) (v0 : Nat) (v1 : Int32) (v2 : Int32) (v3 : Int32) (h : ax_H) : Option ax_R := ax_run K P_X2_find 4 [some (.ref v0), some (.int v1), some (.int v2), some (.int v3)] [] h
theorem b_X2_find_4 {K : ax_K} {v0 : Nat} {v1 : Int32} {v2 : Int32} {v3 : Int32} {h : ax_H}  : dx_le (if v3 < 0 then some (.inl (some (.int v2)), h) else (dx_vn [(29, 305)] (.ref v0) h).bind fun k => dx_cI (K k [.ref v0, .int v3, .int 0] h) (fun x2 h1 => if ¬ x2 = v1 then dx_lt (v3 + (-1)) fun x3 => B_X2_find_4 K v0 v1 v2 x3 h1 else dx_lt (v3 + (-1)) fun x4 => B_X2_find_4 K v0 v1 v3 x4 h1) dx_x0) (B_X2_find_4 K v0 v1 v2 v3 h) := by
  show dx_le _ (ax_run K P_X2_find 4 [some (.ref v0), some (.int v1), some (.int v2), some (.int v3)] [] h)
  refine e_iload rfl rfl ?_
  refine e_if1 rfl rfl ?_ ?_
  · refine e_iload rfl rfl ?_
    exact e_iret rfl
  · refine e_aload rfl rfl rfl ?_
    refine e_iload rfl rfl ?_
    refine e_push rfl ?_
    refine e_ivI rfl rfl rfl (Nat.le_of_ble_eq_true rfl) (fun _ _ => e_x0) fun x2 h1 => ?_
    refine e_iload rfl rfl ?_
    refine e_if2 rfl rfl ?_ ?_
    · refine e_iload rfl rfl ?_
      refine e_istore (L' := [some (.ref v0), some (.int v1), some (.int v2), some (.int v3)]) rfl (dx_sto (Nat.le_of_ble_eq_true rfl) (Or.inr ⟨_, rfl, rfl⟩) rfl) ?_
      refine e_iinc (M := fun x3 => [some (.ref v0), some (.int v1), some (.int v2), some (.int x3)]) rfl rfl (fun _ => dx_sto (Nat.le_of_ble_eq_true rfl) (Or.inr ⟨_, rfl, rfl⟩) rfl) fun x3 => ?_
      refine e_goto rfl ?_
      exact e_wk mP_X2_find (ll_1 (ll_1 (ll_1 (ll_1 ll_n))))
    · refine e_iload rfl rfl ?_
      refine e_goto rfl ?_
      refine e_istore (L' := [some (.ref v0), some (.int v1), some (.int v3), some (.int v3)]) rfl (dx_sto (Nat.le_of_ble_eq_true rfl) (Or.inr ⟨_, rfl, rfl⟩) rfl) ?_
      refine e_iinc (M := fun x4 => [some (.ref v0), some (.int v1), some (.int v3), some (.int x4)]) rfl rfl (fun _ => dx_sto (Nat.le_of_ble_eq_true rfl) (Or.inr ⟨_, rfl, rfl⟩) rfl) fun x4 => ?_
      refine e_goto rfl ?_
      exact e_wk mP_X2_find (ll_1 (ll_1 (ll_1 (ll_1 ll_n))))
theorem m_X2_find {d : Nat} {v0 : Nat} {v1 : Int32} {h : ax_H}  : dx_le (B_X2_find_4 (ax_c d) v0 v1 (-1) 5 h) (ax_c (d + 1) 308 [.ref v0, .int v1] h) := by
  refine e_entry (L' := [some (.ref v0), some (.int v1), none, none]) rfl (ag_A rfl (ag_I ag_n)) (Nat.le_of_ble_eq_true rfl) rfl ?_
  refine e_push rfl ?_
  refine e_istore (L' := [some (.ref v0), some (.int v1), some (.int (-1)), none]) rfl (dx_sto (Nat.le_of_ble_eq_true rfl) (Or.inr ⟨_, rfl, rfl⟩) rfl) ?_
  refine e_push rfl ?_
  refine e_istore (L' := [some (.ref v0), some (.int v1), some (.int (-1)), some (.int 5)]) rfl (dx_sto (Nat.le_of_ble_eq_true rfl) (Or.inr ⟨_, rfl, rfl⟩) rfl) ?_
  exact e_wk mP_X2_find (ll_1 (ll_1 (ll_1 (ll_1 ll_n))))
theorem m_X2_isOn {d : Nat} {v0 : Nat} {h : ax_H}  : dx_le ((dx_gA [(29, 0)] (.ref v0) h).bind fun r1 => (dx_lI 0 r1 0 h).bind fun x2 => if x2 = 0 then some (.inl (some (.int 0)), h) else some (.inl (some (.int 1)), h)) (ax_c (d + 1) 309 [.ref v0] h) := by
  refine e_entry (L' := [some (.ref v0)]) rfl (ag_A rfl ag_n) (Nat.le_of_ble_eq_true rfl) rfl ?_
  refine e_aload rfl rfl rfl ?_
  refine e_getA rfl fun r1 hr1 => ?_
  refine e_push rfl ?_
  refine e_iald rfl fun x2 => ?_
  refine e_if1 rfl rfl ?_ ?_
  · refine e_push rfl ?_
    exact e_zret0 rfl
  · refine e_push rfl ?_
    refine e_goto rfl ?_
    exact e_zret1 rfl
theorem m_X2_start {d : Nat} {v0 : Nat} {v1 : Value} {h : ax_H} (hv1 : ax_rv v1 = true) : dx_le ((dx_vn [(29, 311)] (.ref v0) h).bind fun k => dx_cI ((ax_c d) k [.ref v0] h) (fun x2 h1 => (dx_gA [(29, 0)] (.ref v0) h1).bind fun r3 => (dx_gA [(29, 6)] (.ref v0) h1).bind fun r4 => (dx_gA [(29, 6)] (.ref v0) h1).bind fun r5 => (dx_len r5 h1).bind fun x6 => (dx_acp r3 365 r4 0 x6 h1).bind fun h7 => (dx_vn [(29, 313)] (.ref v0) h7).bind fun k => dx_cV ((ax_c d) k [.ref v0, v1] h7) (fun h8 => some (.inl (some (.int x2)), h8)) dx_x0) dx_x0) (ax_c (d + 1) 310 [.ref v0, v1] h) := by
  refine e_entry (L' := [some (.ref v0), some (v1), none]) rfl (ag_A rfl (ag_A hv1 ag_n)) (Nat.le_of_ble_eq_true rfl) rfl ?_
  refine e_aload rfl rfl rfl ?_
  refine e_ivI rfl rfl rfl (Nat.le_of_ble_eq_true rfl) (fun _ _ => e_x0) fun x2 h1 => ?_
  refine e_istore (L' := [some (.ref v0), some (v1), some (.int x2)]) rfl (dx_sto (Nat.le_of_ble_eq_true rfl) (Or.inr ⟨_, rfl, dx_nl hv1⟩) rfl) ?_
  refine e_aload rfl rfl rfl ?_
  refine e_getA rfl fun r3 hr3 => ?_
  refine e_push rfl ?_
  refine e_aload rfl rfl rfl ?_
  refine e_getA rfl fun r4 hr4 => ?_
  refine e_push rfl ?_
  refine e_aload rfl rfl rfl ?_
  refine e_getA rfl fun r5 hr5 => ?_
  refine e_alen rfl fun x6 => ?_
  refine e_acp rfl (Nat.le_of_ble_eq_true rfl) fun h7 => ?_
  refine e_aload rfl rfl rfl ?_
  refine e_aload rfl rfl hv1 ?_
  refine e_ivV rfl rfl rfl (Nat.le_of_ble_eq_true rfl) (fun _ _ => e_x0) fun h8 => ?_
  refine e_iload rfl rfl ?_
  exact e_iret rfl
noncomputable def B_X2_mend_40 (K : ax_K) (v0 : Nat) (v1 : Int32) (v2 : Int32) (v3 : Int32) (h : ax_H) : Option ax_R := ax_run K P_X2_mend 40 [some (.ref v0), some (.int v1), some (.int v2), some (.int v3)] [] h
noncomputable def B_X2_mend_97 (K : ax_K) (v0 : Nat) (v2 : Int32) (v3 : Int32) (h : ax_H) : Option ax_R := ax_run K P_X2_mend 97 [some (.ref v0), none, some (.int v2), some (.int v3)] [] h
theorem b_X2_mend_40 {K : ax_K} {v0 : Nat} {v1 : Int32} {v2 : Int32} {v3 : Int32} {h : ax_H}  : dx_le (if v1 ≤ v3 then dx_lt (v2 + v1) fun x1 => B_X2_mend_97 K v0 x1 0 h else (dx_gA [(29, 0)] (.ref v0) h).bind fun r2 => (dx_gA [(29, 0)] (.ref v0) h).bind fun r3 => (dx_gA [(29, 0)] (.ref v0) h).bind fun r4 => (dx_lI 0 r4 (366 + v3) h).bind fun x5 => (dx_acp r2 (365 + (8 * (1 + v3))) r3 (365 + (8 * x5)) 8 h).bind fun h6 => dx_lt (v3 + 1) fun x7 => B_X2_mend_40 K v0 v1 v2 x7 h6) (B_X2_mend_40 K v0 v1 v2 v3 h) := by
  show dx_le _ (ax_run K P_X2_mend 40 [some (.ref v0), some (.int v1), some (.int v2), some (.int v3)] [] h)
  refine e_iload rfl rfl ?_
  refine e_iload rfl rfl ?_
  refine e_if2 rfl rfl ?_ ?_
  · refine e_iload rfl rfl ?_
    refine e_iload rfl rfl ?_
    refine e_i2 rfl ?_
    refine e_istoreL (M := fun x1 => [some (.ref v0), some (.int v1), some (.int x1), some (.int v3)]) rfl (fun _ => dx_sto (Nat.le_of_ble_eq_true rfl) (Or.inr ⟨_, rfl, rfl⟩) rfl) fun x1 => ?_
    refine e_push rfl ?_
    refine e_istore (L' := [some (.ref v0), some (.int v1), some (.int x1), some (.int 0)]) rfl (dx_sto (Nat.le_of_ble_eq_true rfl) (Or.inr ⟨_, rfl, rfl⟩) rfl) ?_
    exact e_wk mP_X2_mend (ll_1 (ll_0 (ll_1 (ll_1 ll_n))))
  · refine e_aload rfl rfl rfl ?_
    refine e_getA rfl fun r2 hr2 => ?_
    refine e_push rfl ?_
    refine e_push rfl ?_
    refine e_push rfl ?_
    refine e_iload rfl rfl ?_
    refine e_i2 rfl ?_
    refine e_i2 rfl ?_
    refine e_i2 rfl ?_
    refine e_aload rfl rfl rfl ?_
    refine e_getA rfl fun r3 hr3 => ?_
    refine e_push rfl ?_
    refine e_push rfl ?_
    refine e_aload rfl rfl rfl ?_
    refine e_getA rfl fun r4 hr4 => ?_
    refine e_push rfl ?_
    refine e_iload rfl rfl ?_
    refine e_i2 rfl ?_
    refine e_iald rfl fun x5 => ?_
    refine e_i2 rfl ?_
    refine e_i2 rfl ?_
    refine e_push rfl ?_
    refine e_acp rfl (Nat.le_of_ble_eq_true rfl) fun h6 => ?_
    refine e_iinc (M := fun x7 => [some (.ref v0), some (.int v1), some (.int v2), some (.int x7)]) rfl rfl (fun _ => dx_sto (Nat.le_of_ble_eq_true rfl) (Or.inr ⟨_, rfl, rfl⟩) rfl) fun x7 => ?_
    refine e_goto rfl ?_
    exact e_wk mP_X2_mend (ll_1 (ll_1 (ll_1 (ll_1 ll_n))))
theorem b_X2_mend_97 {K : ax_K} {v0 : Nat} {v2 : Int32} {v3 : Int32} {h : ax_H}  : dx_le (if (8 : Int32) ≤ v3 then (dx_gA [(29, 0)] (.ref v0) h).bind fun r1 => (dx_lI 0 r1 364 h).bind fun x2 => (dx_sI 0 r1 364 (x2 + v2) h).bind fun h3 => some (.inl (some (.int v2)), h3) else (dx_gA [(29, 0)] (.ref v0) h).bind fun r4 => (dx_sI 0 r4 (365 + v3) 0 h).bind fun h5 => dx_lt (v3 + 1) fun x6 => B_X2_mend_97 K v0 v2 x6 h5) (B_X2_mend_97 K v0 v2 v3 h) := by
  show dx_le _ (ax_run K P_X2_mend 97 [some (.ref v0), none, some (.int v2), some (.int v3)] [] h)
  refine e_iload rfl rfl ?_
  refine e_push rfl ?_
  refine e_if2 rfl rfl ?_ ?_
  · refine e_aload rfl rfl rfl ?_
    refine e_getA rfl fun r1 hr1 => ?_
    refine e_push rfl ?_
    refine e_dup2 rfl rfl (dx_c1 hr1) ?_
    refine e_iald rfl fun x2 => ?_
    refine e_iload rfl rfl ?_
    refine e_i2 rfl ?_
    refine e_iastI rfl fun h3 => ?_
    refine e_iload rfl rfl ?_
    exact e_iret rfl
  · refine e_aload rfl rfl rfl ?_
    refine e_getA rfl fun r4 hr4 => ?_
    refine e_push rfl ?_
    refine e_iload rfl rfl ?_
    refine e_i2 rfl ?_
    refine e_push rfl ?_
    refine e_iastI rfl fun h5 => ?_
    refine e_iinc (M := fun x6 => [some (.ref v0), none, some (.int v2), some (.int x6)]) rfl rfl (fun _ => dx_sto (Nat.le_of_ble_eq_true rfl) (Or.inr ⟨_, rfl, rfl⟩) rfl) fun x6 => ?_
    refine e_goto rfl ?_
    exact e_wk mP_X2_mend (ll_1 (ll_0 (ll_1 (ll_1 ll_n))))
theorem m_X2_mend {d : Nat} {v0 : Nat} {h : ax_H}  : dx_le ((dx_gA [(29, 0)] (.ref v0) h).bind fun r1 => (dx_lI 0 r1 365 h).bind fun x2 => if ¬ x2 = 0 then if (3 : Int32) < x2 then B_X2_mend_97 (ax_c d) v0 1 0 h else (dx_vn [(29, 312)] (.ref v0) h).bind fun k => dx_cI ((ax_c d) k [.ref v0, .int x2] h) (fun x4 h3 => (dx_gA [(29, 0)] (.ref v0) h3).bind fun r5 => (dx_lI 0 r5 369 h3).bind fun x6 => if ¬ x4 = x6 then B_X2_mend_97 (ax_c d) v0 1 0 h3 else B_X2_mend_40 (ax_c d) v0 x2 1 0 h3) dx_x0 else some (.inl (some (.int 0)), h)) (ax_c (d + 1) 311 [.ref v0] h) := by
  refine e_entry (L' := [some (.ref v0), none, none, none]) rfl (ag_A rfl ag_n) (Nat.le_of_ble_eq_true rfl) rfl ?_
  refine e_aload rfl rfl rfl ?_
  refine e_getA rfl fun r1 hr1 => ?_
  refine e_push rfl ?_
  refine e_iald rfl fun x2 => ?_
  refine e_istore (L' := [some (.ref v0), some (.int x2), none, none]) rfl (dx_sto (Nat.le_of_ble_eq_true rfl) (Or.inr ⟨_, rfl, rfl⟩) rfl) ?_
  refine e_iload rfl rfl ?_
  refine e_if1 rfl rfl ?_ ?_
  · refine e_push rfl ?_
    refine e_istore (L' := [some (.ref v0), some (.int x2), some (.int 1), none]) rfl (dx_sto (Nat.le_of_ble_eq_true rfl) (Or.inr ⟨_, rfl, rfl⟩) rfl) ?_
    refine e_iload rfl rfl ?_
    refine e_push rfl ?_
    refine e_if2 rfl rfl ?_ ?_
    · refine e_push rfl ?_
      refine e_istore (L' := [some (.ref v0), some (.int x2), some (.int 1), some (.int 0)]) rfl (dx_sto (Nat.le_of_ble_eq_true rfl) (Or.inr ⟨_, rfl, rfl⟩) rfl) ?_
      exact e_wk mP_X2_mend (ll_1 (ll_0 (ll_1 (ll_1 ll_n))))
    · refine e_aload rfl rfl rfl ?_
      refine e_iload rfl rfl ?_
      refine e_ivI rfl rfl rfl (Nat.le_of_ble_eq_true rfl) (fun _ _ => e_x0) fun x4 h3 => ?_
      refine e_aload rfl rfl rfl ?_
      refine e_getA rfl fun r5 hr5 => ?_
      refine e_push rfl ?_
      refine e_iald rfl fun x6 => ?_
      refine e_if2 rfl rfl ?_ ?_
      · refine e_push rfl ?_
        refine e_istore (L' := [some (.ref v0), some (.int x2), some (.int 1), some (.int 0)]) rfl (dx_sto (Nat.le_of_ble_eq_true rfl) (Or.inr ⟨_, rfl, rfl⟩) rfl) ?_
        exact e_wk mP_X2_mend (ll_1 (ll_0 (ll_1 (ll_1 ll_n))))
      · refine e_push rfl ?_
        refine e_istore (L' := [some (.ref v0), some (.int x2), some (.int 1), some (.int 0)]) rfl (dx_sto (Nat.le_of_ble_eq_true rfl) (Or.inr ⟨_, rfl, rfl⟩) rfl) ?_
        exact e_wk mP_X2_mend (ll_1 (ll_1 (ll_1 (ll_1 ll_n))))
  · refine e_push rfl ?_
    exact e_iret rfl
noncomputable def B_X2_logged_4 (K : ax_K) (v0 : Nat) (v1 : Int32) (v2 : Int32) (v3 : Int32) (h : ax_H) : Option ax_R := ax_run K P_X2_logged 4 [some (.ref v0), some (.int v1), some (.int v2), some (.int v3)] [] h
noncomputable def B_X2_logged_31 (K : ax_K) (v0 : Nat) (v1 : Int32) (v2 : Int32) (v3 : Int32) (h : ax_H) : Option ax_R := ax_run K P_X2_logged 31 [some (.ref v0), some (.int v1), some (.int v2), some (.int v3)] [] h
theorem b_X2_logged_4 {K : ax_K} {v0 : Nat} {v1 : Int32} {v2 : Int32} {v3 : Int32} {h : ax_H}  : dx_le (if (4 : Int32) ≤ v3 then B_X2_logged_31 K v0 v1 v2 8 h else (dx_gA [(29, 0)] (.ref v0) h).bind fun r1 => (dx_lI 0 r1 (365 + v3) h).bind fun x2 => dx_lt (v2 + x2) fun x3 => dx_lt (v3 + 1) fun x4 => B_X2_logged_4 K v0 v1 x3 x4 h) (B_X2_logged_4 K v0 v1 v2 v3 h) := by
  show dx_le _ (ax_run K P_X2_logged 4 [some (.ref v0), some (.int v1), some (.int v2), some (.int v3)] [] h)
  refine e_iload rfl rfl ?_
  refine e_push rfl ?_
  refine e_if2 rfl rfl ?_ ?_
  · refine e_push rfl ?_
    refine e_istore (L' := [some (.ref v0), some (.int v1), some (.int v2), some (.int 8)]) rfl (dx_sto (Nat.le_of_ble_eq_true rfl) (Or.inr ⟨_, rfl, rfl⟩) rfl) ?_
    exact e_wk mP_X2_logged (ll_1 (ll_1 (ll_1 (ll_1 ll_n))))
  · refine e_iload rfl rfl ?_
    refine e_aload rfl rfl rfl ?_
    refine e_getA rfl fun r1 hr1 => ?_
    refine e_push rfl ?_
    refine e_iload rfl rfl ?_
    refine e_i2 rfl ?_
    refine e_iald rfl fun x2 => ?_
    refine e_i2 rfl ?_
    refine e_istoreL (M := fun x3 => [some (.ref v0), some (.int v1), some (.int x3), some (.int v3)]) rfl (fun _ => dx_sto (Nat.le_of_ble_eq_true rfl) (Or.inr ⟨_, rfl, rfl⟩) rfl) fun x3 => ?_
    refine e_iinc (M := fun x4 => [some (.ref v0), some (.int v1), some (.int x3), some (.int x4)]) rfl rfl (fun _ => dx_sto (Nat.le_of_ble_eq_true rfl) (Or.inr ⟨_, rfl, rfl⟩) rfl) fun x4 => ?_
    refine e_goto rfl ?_
    exact e_wk mP_X2_logged (ll_1 (ll_1 (ll_1 (ll_1 ll_n))))
theorem b_X2_logged_31 {K : ax_K} {v0 : Nat} {v1 : Int32} {v2 : Int32} {v3 : Int32} {h : ax_H}  : dx_le (if (8 + (8 * v1)) ≤ v3 then dx_cI (K 214 [.long (Int32.toInt64 v2)] h) (fun x2 h1 => some (.inl (some (.int x2)), h1)) dx_x0 else (dx_gA [(29, 0)] (.ref v0) h).bind fun r3 => (dx_lI 0 r3 (365 + v3) h).bind fun x4 => dx_lt (v2 + x4) fun x5 => dx_lt (v3 + 1) fun x6 => B_X2_logged_31 K v0 v1 x5 x6 h) (B_X2_logged_31 K v0 v1 v2 v3 h) := by
  show dx_le _ (ax_run K P_X2_logged 31 [some (.ref v0), some (.int v1), some (.int v2), some (.int v3)] [] h)
  refine e_iload rfl rfl ?_
  refine e_push rfl ?_
  refine e_push rfl ?_
  refine e_iload rfl rfl ?_
  refine e_i2 rfl ?_
  refine e_i2 rfl ?_
  refine e_if2 rfl rfl ?_ ?_
  · refine e_iload rfl rfl ?_
    refine e_i2l rfl ?_
    refine e_isI rfl (Nat.le_of_ble_eq_true rfl) rfl rfl (Nat.le_of_ble_eq_true rfl) (fun _ _ => e_x0) fun x2 h1 => ?_
    exact e_iret rfl
  · refine e_iload rfl rfl ?_
    refine e_aload rfl rfl rfl ?_
    refine e_getA rfl fun r3 hr3 => ?_
    refine e_push rfl ?_
    refine e_iload rfl rfl ?_
    refine e_i2 rfl ?_
    refine e_iald rfl fun x4 => ?_
    refine e_i2 rfl ?_
    refine e_istoreL (M := fun x5 => [some (.ref v0), some (.int v1), some (.int x5), some (.int v3)]) rfl (fun _ => dx_sto (Nat.le_of_ble_eq_true rfl) (Or.inr ⟨_, rfl, rfl⟩) rfl) fun x5 => ?_
    refine e_iinc (M := fun x6 => [some (.ref v0), some (.int v1), some (.int x5), some (.int x6)]) rfl rfl (fun _ => dx_sto (Nat.le_of_ble_eq_true rfl) (Or.inr ⟨_, rfl, rfl⟩) rfl) fun x6 => ?_
    refine e_goto rfl ?_
    exact e_wk mP_X2_logged (ll_1 (ll_1 (ll_1 (ll_1 ll_n))))
theorem m_X2_logged {d : Nat} {v0 : Nat} {v1 : Int32} {h : ax_H}  : dx_le (B_X2_logged_4 (ax_c d) v0 v1 0 0 h) (ax_c (d + 1) 312 [.ref v0, .int v1] h) := by
  refine e_entry (L' := [some (.ref v0), some (.int v1), none, none]) rfl (ag_A rfl (ag_I ag_n)) (Nat.le_of_ble_eq_true rfl) rfl ?_
  refine e_push rfl ?_
  refine e_istore (L' := [some (.ref v0), some (.int v1), some (.int 0), none]) rfl (dx_sto (Nat.le_of_ble_eq_true rfl) (Or.inr ⟨_, rfl, rfl⟩) rfl) ?_
  refine e_push rfl ?_
  refine e_istore (L' := [some (.ref v0), some (.int v1), some (.int 0), some (.int 0)]) rfl (dx_sto (Nat.le_of_ble_eq_true rfl) (Or.inr ⟨_, rfl, rfl⟩) rfl) ?_
  exact e_wk mP_X2_logged (ll_1 (ll_1 (ll_1 (ll_1 ll_n))))
theorem m_X2_begin {d : Nat} {v0 : Nat} {v1 : Value} {h : ax_H} (hv1 : ax_rv v1 = true) : dx_le ((dx_pF [(29, 5)] (.array (.int)) (.ref v0) v1 h).bind fun h1 => (dx_gA [(29, 0)] (.ref v0) h1).bind fun r2 => (dx_acp v1 0 r2 108 256 h1).bind fun h3 => (dx_gA [(29, 0)] (.ref v0) h3).bind fun r4 => (dx_sI 0 r4 0 1 h3).bind fun h5 => (dx_gA [(29, 0)] (.ref v0) h5).bind fun r6 => (dx_sI 0 r6 3 8 h5).bind fun h7 => (dx_gA [(29, 0)] (.ref v0) h7).bind fun r8 => (dx_sI 0 r8 4 256 h7).bind fun h9 => some (.inl none, h9)) (ax_c (d + 1) 313 [.ref v0, v1] h) := by
  refine e_entry (L' := [some (.ref v0), some (v1)]) rfl (ag_A rfl (ag_A hv1 ag_n)) (Nat.le_of_ble_eq_true rfl) rfl ?_
  refine e_aload rfl rfl rfl ?_
  refine e_aload rfl rfl hv1 ?_
  refine e_putf rfl fun h1 => ?_
  refine e_aload rfl rfl hv1 ?_
  refine e_push rfl ?_
  refine e_aload rfl rfl rfl ?_
  refine e_getA rfl fun r2 hr2 => ?_
  refine e_push rfl ?_
  refine e_push rfl ?_
  refine e_acp rfl (Nat.le_of_ble_eq_true rfl) fun h3 => ?_
  refine e_aload rfl rfl rfl ?_
  refine e_getA rfl fun r4 hr4 => ?_
  refine e_push rfl ?_
  refine e_push rfl ?_
  refine e_iastI rfl fun h5 => ?_
  refine e_aload rfl rfl rfl ?_
  refine e_getA rfl fun r6 hr6 => ?_
  refine e_push rfl ?_
  refine e_push rfl ?_
  refine e_iastI rfl fun h7 => ?_
  refine e_aload rfl rfl rfl ?_
  refine e_getA rfl fun r8 hr8 => ?_
  refine e_push rfl ?_
  refine e_push rfl ?_
  refine e_iastI rfl fun h9 => ?_
  exact e_ret rfl
noncomputable def B_X2_crash_9 (K : ax_K) (v0 : Nat) (v1 : Int32) (v2 : Int32) (h : ax_H) : Option ax_R := ax_run K P_X2_crash 9 [some (.ref v0), some (.int v1), some (.int v2)] [] h
theorem b_X2_crash_9 {K : ax_K} {v0 : Nat} {v1 : Int32} {v2 : Int32} {h : ax_H}  : dx_le (if (364 : Int32) ≤ v2 then (dx_gA [(29, 1)] (.ref v0) h).bind fun r1 => (dx_vn [(15, 126)] r1 h).bind fun k => dx_cV (K k [r1] h) (fun h2 => (dx_gA [(29, 2)] (.ref v0) h2).bind fun r3 => (dx_vn [(16, 147)] r3 h2).bind fun k => dx_cV (K k [r3] h2) (fun h4 => some (.inl (some (.int v1)), h4)) dx_x0) dx_x0 else (dx_gA [(29, 0)] (.ref v0) h).bind fun r5 => (dx_sI 0 r5 v2 0 h).bind fun h6 => dx_lt (v2 + 1) fun x7 => B_X2_crash_9 K v0 v1 x7 h6) (B_X2_crash_9 K v0 v1 v2 h) := by
  show dx_le _ (ax_run K P_X2_crash 9 [some (.ref v0), some (.int v1), some (.int v2)] [] h)
  refine e_iload rfl rfl ?_
  refine e_push rfl ?_
  refine e_if2 rfl rfl ?_ ?_
  · refine e_aload rfl rfl rfl ?_
    refine e_getA rfl fun r1 hr1 => ?_
    refine e_ivV rfl rfl rfl (Nat.le_of_ble_eq_true rfl) (fun _ _ => e_x0) fun h2 => ?_
    refine e_aload rfl rfl rfl ?_
    refine e_getA rfl fun r3 hr3 => ?_
    refine e_ivV rfl rfl rfl (Nat.le_of_ble_eq_true rfl) (fun _ _ => e_x0) fun h4 => ?_
    refine e_iload rfl rfl ?_
    exact e_iret rfl
  · refine e_aload rfl rfl rfl ?_
    refine e_getA rfl fun r5 hr5 => ?_
    refine e_iload rfl rfl ?_
    refine e_push rfl ?_
    refine e_iastI rfl fun h6 => ?_
    refine e_iinc (M := fun x7 => [some (.ref v0), some (.int v1), some (.int x7)]) rfl rfl (fun _ => dx_sto (Nat.le_of_ble_eq_true rfl) (Or.inr ⟨_, rfl, rfl⟩) rfl) fun x7 => ?_
    refine e_goto rfl ?_
    exact e_wk mP_X2_crash (ll_1 (ll_1 (ll_1 ll_n)))
theorem m_X2_crash {d : Nat} {v0 : Nat} {h : ax_H}  : dx_le ((dx_gA [(29, 0)] (.ref v0) h).bind fun r1 => (dx_lI 0 r1 2 h).bind fun x2 => B_X2_crash_9 (ax_c d) v0 x2 0 h) (ax_c (d + 1) 314 [.ref v0] h) := by
  refine e_entry (L' := [some (.ref v0), none, none]) rfl (ag_A rfl ag_n) (Nat.le_of_ble_eq_true rfl) rfl ?_
  refine e_aload rfl rfl rfl ?_
  refine e_getA rfl fun r1 hr1 => ?_
  refine e_push rfl ?_
  refine e_iald rfl fun x2 => ?_
  refine e_istore (L' := [some (.ref v0), some (.int x2), none]) rfl (dx_sto (Nat.le_of_ble_eq_true rfl) (Or.inr ⟨_, rfl, rfl⟩) rfl) ?_
  refine e_push rfl ?_
  refine e_istore (L' := [some (.ref v0), some (.int x2), some (.int 0)]) rfl (dx_sto (Nat.le_of_ble_eq_true rfl) (Or.inr ⟨_, rfl, rfl⟩) rfl) ?_
  exact e_wk mP_X2_crash (ll_1 (ll_1 (ll_1 ll_n)))
theorem m_X2_goesOn {d : Nat} {v0 : Nat} {h : ax_H}  : dx_le ((dx_gA [(29, 0)] (.ref v0) h).bind fun r1 => (dx_lI 0 r1 0 h).bind fun x2 => if ¬ x2 = 1 then some (.inl (some (.int 0)), h) else (dx_gA [(29, 0)] (.ref v0) h).bind fun r3 => (dx_lI 0 r3 2 h).bind fun x4 => if (1000 : Int32) ≤ x4 then some (.inl (some (.int 0)), h) else some (.inl (some (.int 1)), h)) (ax_c (d + 1) 315 [.ref v0] h) := by
  refine e_entry (L' := [some (.ref v0)]) rfl (ag_A rfl ag_n) (Nat.le_of_ble_eq_true rfl) rfl ?_
  refine e_aload rfl rfl rfl ?_
  refine e_getA rfl fun r1 hr1 => ?_
  refine e_push rfl ?_
  refine e_iald rfl fun x2 => ?_
  refine e_push rfl ?_
  refine e_if2 rfl rfl ?_ ?_
  · refine e_push rfl ?_
    exact e_zret0 rfl
  · refine e_aload rfl rfl rfl ?_
    refine e_getA rfl fun r3 hr3 => ?_
    refine e_push rfl ?_
    refine e_iald rfl fun x4 => ?_
    refine e_push rfl ?_
    refine e_if2 rfl rfl ?_ ?_
    · refine e_push rfl ?_
      exact e_zret0 rfl
    · refine e_push rfl ?_
      refine e_goto rfl ?_
      exact e_zret1 rfl
noncomputable def B_X2_make_50 (K : ax_K) (v0 : Nat) (h : ax_H) : Option ax_R := ax_run K P_X2_make 50 [some (.ref v0), none] [] h
noncomputable def B_X2_make_57 (K : ax_K) (s0 : Nat) (v0 : Nat) (h : ax_H) : Option ax_R := ax_run K P_X2_make 57 [some (.ref v0), none] [.ref s0] h
noncomputable def B_X2_make_71 (K : ax_K) (s0 : Nat) (s1 : Int32) (v0 : Nat) (h : ax_H) : Option ax_R := ax_run K P_X2_make 71 [some (.ref v0), none] [.int s1, .ref s0] h
noncomputable def B_X2_make_77 (K : ax_K) (s0 : Nat) (v0 : Nat) (h : ax_H) : Option ax_R := ax_run K P_X2_make 77 [some (.ref v0), none] [.ref s0] h
noncomputable def B_X2_make_91 (K : ax_K) (s0 : Nat) (s1 : Int32) (v0 : Nat) (h : ax_H) : Option ax_R := ax_run K P_X2_make 91 [some (.ref v0), none] [.int s1, .ref s0] h
theorem b_X2_make_50 {K : ax_K} {v0 : Nat} {h : ax_H}  : dx_le ((dx_vn [(29, 317)] (.ref v0) h).bind fun k => dx_cV (K k [.ref v0] h) (fun h1 => (dx_vn [(29, 347)] (.ref v0) h1).bind fun k => dx_cV (K k [.ref v0] h1) (fun h2 => (dx_pF [(29, 4)] (.object "KernelGym$Step") (.ref v0) .null h2).bind fun h3 => some (.inl none, h3)) dx_x0) (fun i hx => dx_xp (fun k : Nat => if k ∈ [32, 35] then some (some 77) else if k ∈ [33, 34] then some (some 57) else if k ∈ [18, 0, 6, 7, 28, 44, 45, 46] then some none else none) i hx (fun pc => if pc = 57 then B_X2_make_57 K i v0 hx else (fun pc => if pc = 77 then B_X2_make_77 K i v0 hx else none) pc))) (B_X2_make_50 K v0 h) := by
  show dx_le _ (ax_run K P_X2_make 50 [some (.ref v0), none] [] h)
  refine e_aload rfl rfl rfl ?_
  refine e_ivV rfl rfl rfl (Nat.le_of_ble_eq_true rfl) (fun i _ => e_xp (e_hc (e_wk mP_X2_make (ll_1 (ll_0 ll_n))) (e_hc (e_wk mP_X2_make (ll_1 (ll_0 ll_n))) (e_hn i)))) fun h1 => ?_
  refine e_goto rfl ?_
  refine e_aload rfl rfl rfl ?_
  refine e_ivV rfl rfl rfl (Nat.le_of_ble_eq_true rfl) (fun _ _ => e_x0) fun h2 => ?_
  refine e_aload rfl rfl rfl ?_
  refine e_push rfl ?_
  refine e_putf rfl fun h3 => ?_
  exact e_ret rfl
theorem b_X2_make_57 {K : ax_K} {s0 : Nat} {v0 : Nat} {h : ax_H}  : dx_le (dx_in [33] [28, 32, 34, 35] (.ref s0) h fun x1 => if x1 = 0 then B_X2_make_71 K v0 2 v0 h else B_X2_make_71 K v0 1 v0 h) (B_X2_make_57 K s0 v0 h) := by
  show dx_le _ (ax_run K P_X2_make 57 [some (.ref v0), none] [.ref s0] h)
  refine e_astore (L' := [some (.ref v0), some (.ref s0)]) rfl rfl (dx_sto (Nat.le_of_ble_eq_true rfl) (Or.inr ⟨_, rfl, rfl⟩) rfl) ?_
  refine e_aload rfl rfl rfl ?_
  refine e_aload rfl rfl rfl ?_
  refine e_inst rfl fun x1 => ?_
  refine e_if1 rfl rfl ?_ ?_
  · refine e_push rfl ?_
    exact e_wk mP_X2_make (ll_1 (ll_0 ll_n))
  · refine e_push rfl ?_
    refine e_goto rfl ?_
    exact e_wk mP_X2_make (ll_1 (ll_0 ll_n))
theorem b_X2_make_71 {K : ax_K} {s0 : Nat} {s1 : Int32} {v0 : Nat} {h : ax_H}  : dx_le ((dx_vn [(29, 346)] (.ref s0) h).bind fun k => dx_cV (K k [.ref s0, .int s1] h) (fun h1 => (dx_vn [(29, 347)] (.ref v0) h1).bind fun k => dx_cV (K k [.ref v0] h1) (fun h2 => (dx_pF [(29, 4)] (.object "KernelGym$Step") (.ref v0) .null h2).bind fun h3 => some (.inl none, h3)) dx_x0) dx_x0) (B_X2_make_71 K s0 s1 v0 h) := by
  show dx_le _ (ax_run K P_X2_make 71 [some (.ref v0), none] [.int s1, .ref s0] h)
  refine e_ivV rfl rfl rfl (Nat.le_of_ble_eq_true rfl) (fun _ _ => e_x0) fun h1 => ?_
  refine e_goto rfl ?_
  refine e_aload rfl rfl rfl ?_
  refine e_ivV rfl rfl rfl (Nat.le_of_ble_eq_true rfl) (fun _ _ => e_x0) fun h2 => ?_
  refine e_aload rfl rfl rfl ?_
  refine e_push rfl ?_
  refine e_putf rfl fun h3 => ?_
  exact e_ret rfl
theorem b_X2_make_77 {K : ax_K} {s0 : Nat} {v0 : Nat} {h : ax_H}  : dx_le (dx_in [32] [28, 33, 34, 35] (.ref s0) h fun x1 => if x1 = 0 then B_X2_make_91 K v0 4 v0 h else B_X2_make_91 K v0 3 v0 h) (B_X2_make_77 K s0 v0 h) := by
  show dx_le _ (ax_run K P_X2_make 77 [some (.ref v0), none] [.ref s0] h)
  refine e_astore (L' := [some (.ref v0), some (.ref s0)]) rfl rfl (dx_sto (Nat.le_of_ble_eq_true rfl) (Or.inr ⟨_, rfl, rfl⟩) rfl) ?_
  refine e_aload rfl rfl rfl ?_
  refine e_aload rfl rfl rfl ?_
  refine e_inst rfl fun x1 => ?_
  refine e_if1 rfl rfl ?_ ?_
  · refine e_push rfl ?_
    exact e_wk mP_X2_make (ll_1 (ll_0 ll_n))
  · refine e_push rfl ?_
    refine e_goto rfl ?_
    exact e_wk mP_X2_make (ll_1 (ll_0 ll_n))
theorem b_X2_make_91 {K : ax_K} {s0 : Nat} {s1 : Int32} {v0 : Nat} {h : ax_H}  : dx_le ((dx_vn [(29, 346)] (.ref s0) h).bind fun k => dx_cV (K k [.ref s0, .int s1] h) (fun h1 => (dx_vn [(29, 347)] (.ref v0) h1).bind fun k => dx_cV (K k [.ref v0] h1) (fun h2 => (dx_pF [(29, 4)] (.object "KernelGym$Step") (.ref v0) .null h2).bind fun h3 => some (.inl none, h3)) dx_x0) dx_x0) (B_X2_make_91 K s0 s1 v0 h) := by
  show dx_le _ (ax_run K P_X2_make 91 [some (.ref v0), none] [.int s1, .ref s0] h)
  refine e_ivV rfl rfl rfl (Nat.le_of_ble_eq_true rfl) (fun _ _ => e_x0) fun h1 => ?_
  refine e_aload rfl rfl rfl ?_
  refine e_ivV rfl rfl rfl (Nat.le_of_ble_eq_true rfl) (fun _ _ => e_x0) fun h2 => ?_
  refine e_aload rfl rfl rfl ?_
  refine e_push rfl ?_
  refine e_putf rfl fun h3 => ?_
  exact e_ret rfl
theorem m_X2_make {d : Nat} {v0 : Nat} {h : ax_H}  : dx_le ((dx_gI [(29, 3)] (.ref v0) h).bind fun x1 => if x1 = 0 then B_X2_make_50 (ax_c d) v0 h else dx_nw h (.inr (31, [.null, .int 0])) 2 fun a3 h2 => dx_cV ((ax_c d) 358 [.ref a3] h2) (fun h4 => (dx_pF [(29, 4)] (.object "KernelGym$Step") (.ref v0) (.ref a3) h4).bind fun h5 => (dx_gA [(29, 2)] (.ref v0) h5).bind fun r6 => (dx_gA [(29, 4)] (.ref v0) h5).bind fun r7 => (dx_vn [(16, 149)] r6 h5).bind fun k => dx_cV ((ax_c d) k [r6, r7] h5) (fun h8 => (dx_gA [(29, 2)] (.ref v0) h8).bind fun r9 => (dx_vn [(16, 143)] r9 h8).bind fun k => dx_cI ((ax_c d) k [r9] h8) (fun x11 h10 => if x11 ≤ 200 then B_X2_make_50 (ax_c d) v0 h10 else (dx_gA [(29, 2)] (.ref v0) h10).bind fun r12 => (dx_vn [(16, 153)] r12 h10).bind fun k => dx_cR ((ax_c d) k [r12] h10) (fun r14 h13 => B_X2_make_50 (ax_c d) v0 h13) dx_x0) dx_x0) dx_x0) dx_x0) (ax_c (d + 1) 316 [.ref v0] h) := by
  refine e_entry (L' := [some (.ref v0), none]) rfl (ag_A rfl ag_n) (Nat.le_of_ble_eq_true rfl) rfl ?_
  refine e_aload rfl rfl rfl ?_
  refine e_getI rfl fun x1 => ?_
  refine e_if1 rfl rfl ?_ ?_
  · exact e_wk mP_X2_make (ll_1 (ll_0 ll_n))
  · refine e_aload rfl rfl rfl ?_
    refine e_new rfl fun a3 h2 => ?_
    refine e_dup rfl rfl ?_
    refine e_isprV rfl rfl rfl (Nat.le_of_ble_eq_true rfl) (fun _ _ => e_x0) fun h4 => ?_
    refine e_putf rfl fun h5 => ?_
    refine e_aload rfl rfl rfl ?_
    refine e_getA rfl fun r6 hr6 => ?_
    refine e_aload rfl rfl rfl ?_
    refine e_getA rfl fun r7 hr7 => ?_
    refine e_ivV rfl rfl rfl (Nat.le_of_ble_eq_true rfl) (fun _ _ => e_x0) fun h8 => ?_
    refine e_aload rfl rfl rfl ?_
    refine e_getA rfl fun r9 hr9 => ?_
    refine e_ivI rfl rfl rfl (Nat.le_of_ble_eq_true rfl) (fun _ _ => e_x0) fun x11 h10 => ?_
    refine e_push rfl ?_
    refine e_if2 rfl rfl ?_ ?_
    · exact e_wk mP_X2_make (ll_1 (ll_0 ll_n))
    · refine e_aload rfl rfl rfl ?_
      refine e_getA rfl fun r12 hr12 => ?_
      refine e_ivR rfl rfl rfl (Nat.le_of_ble_eq_true rfl) (fun _ _ => e_x0) fun r14 h13 hr14 => ?_
      refine e_pop rfl (dx_c1 hr14) ?_
      exact e_wk mP_X2_make (ll_1 (ll_0 ll_n))
theorem m_X2_act {d : Nat} {v0 : Nat} {h : ax_H}  : dx_le ((dx_gA [(29, 0)] (.ref v0) h).bind fun r1 => (dx_lI 0 r1 18 h).bind fun x2 => if x2 ≤ 0 then (dx_gA [(29, 0)] (.ref v0) h).bind fun r3 => (dx_lI 0 r3 7 h).bind fun x4 => if ¬ x4 = 1 then (dx_vn [(29, 326)] (.ref v0) h).bind fun k => dx_cV ((ax_c d) k [.ref v0] h) (fun h5 => some (.inl none, h5)) dx_x0 else (dx_vn [(29, 322)] (.ref v0) h).bind fun k => dx_cI ((ax_c d) k [.ref v0] h) (fun x7 h6 => if x7 = 0 then (dx_vn [(29, 326)] (.ref v0) h6).bind fun k => dx_cV ((ax_c d) k [.ref v0] h6) (fun h8 => some (.inl none, h8)) dx_x0 else (dx_vn [(29, 323)] (.ref v0) h6).bind fun k => dx_cV ((ax_c d) k [.ref v0] h6) (fun h9 => some (.inl none, h9)) dx_x0) dx_x0 else (dx_vn [(29, 318)] (.ref v0) h).bind fun k => dx_cV ((ax_c d) k [.ref v0] h) (fun h10 => some (.inl none, h10)) dx_x0) (ax_c (d + 1) 317 [.ref v0] h) := by
  refine e_entry (L' := [some (.ref v0)]) rfl (ag_A rfl ag_n) (Nat.le_of_ble_eq_true rfl) rfl ?_
  refine e_aload rfl rfl rfl ?_
  refine e_getA rfl fun r1 hr1 => ?_
  refine e_push rfl ?_
  refine e_iald rfl fun x2 => ?_
  refine e_if1 rfl rfl ?_ ?_
  · refine e_aload rfl rfl rfl ?_
    refine e_getA rfl fun r3 hr3 => ?_
    refine e_push rfl ?_
    refine e_iald rfl fun x4 => ?_
    refine e_push rfl ?_
    refine e_if2 rfl rfl ?_ ?_
    · refine e_aload rfl rfl rfl ?_
      refine e_ivV rfl rfl rfl (Nat.le_of_ble_eq_true rfl) (fun _ _ => e_x0) fun h5 => ?_
      exact e_ret rfl
    · refine e_aload rfl rfl rfl ?_
      refine e_ivI rfl rfl rfl (Nat.le_of_ble_eq_true rfl) (fun _ _ => e_x0) fun x7 h6 => ?_
      refine e_if1 rfl rfl ?_ ?_
      · refine e_aload rfl rfl rfl ?_
        refine e_ivV rfl rfl rfl (Nat.le_of_ble_eq_true rfl) (fun _ _ => e_x0) fun h8 => ?_
        exact e_ret rfl
      · refine e_aload rfl rfl rfl ?_
        refine e_ivV rfl rfl rfl (Nat.le_of_ble_eq_true rfl) (fun _ _ => e_x0) fun h9 => ?_
        refine e_goto rfl ?_
        exact e_ret rfl
  · refine e_aload rfl rfl rfl ?_
    refine e_ivV rfl rfl rfl (Nat.le_of_ble_eq_true rfl) (fun _ _ => e_x0) fun h10 => ?_
    refine e_goto rfl ?_
    exact e_ret rfl
noncomputable def B_X2_write_81 (K : ax_K) (v0 : Nat) (v1 : Int32) (v2 : Int32) (h : ax_H) : Option ax_R := ax_run K P_X2_write 81 [some (.ref v0), some (.int v1), some (.int v2)] [] h
noncomputable def B_X2_write_95 (K : ax_K) (v0 : Nat) (v1 : Int32) (v2 : Int32) (h : ax_H) : Option ax_R := ax_run K P_X2_write 95 [some (.ref v0), some (.int v1), some (.int v2)] [] h
theorem b_X2_write_81 {K : ax_K} {v0 : Nat} {v1 : Int32} {v2 : Int32} {h : ax_H}  : dx_le (if ¬ v2 = v1 then (dx_vn [(29, 321)] (.ref v0) h).bind fun k => dx_cV (K k [.ref v0, .int 0] h) (fun h1 => B_X2_write_95 K v0 v1 v2 h1) dx_x0 else (dx_vn [(29, 321)] (.ref v0) h).bind fun k => dx_cV (K k [.ref v0, .int v1] h) (fun h2 => B_X2_write_95 K v0 v1 v2 h2) dx_x0) (B_X2_write_81 K v0 v1 v2 h) := by
  show dx_le _ (ax_run K P_X2_write 81 [some (.ref v0), some (.int v1), some (.int v2)] [] h)
  refine e_aload rfl rfl rfl ?_
  refine e_iload rfl rfl ?_
  refine e_iload rfl rfl ?_
  refine e_if2 rfl rfl ?_ ?_
  · refine e_push rfl ?_
    refine e_ivV rfl rfl rfl (Nat.le_of_ble_eq_true rfl) (fun _ _ => e_x0) fun h1 => ?_
    exact e_wk mP_X2_write (ll_1 (ll_1 (ll_1 ll_n)))
  · refine e_iload rfl rfl ?_
    refine e_goto rfl ?_
    refine e_ivV rfl rfl rfl (Nat.le_of_ble_eq_true rfl) (fun _ _ => e_x0) fun h2 => ?_
    exact e_wk mP_X2_write (ll_1 (ll_1 (ll_1 ll_n)))
theorem b_X2_write_95 {K : ax_K} {v0 : Nat} {v1 : Int32} {v2 : Int32} {h : ax_H}  : dx_le ((dx_gA [(29, 0)] (.ref v0) h).bind fun r1 => (dx_lI 0 r1 364 h).bind fun x2 => (dx_vn [(29, 320)] (.ref v0) h).bind fun k => dx_cV (K k [.ref v0, .int 364, .int (x2 + 1)] h) (fun h3 => (dx_vn [(29, 320)] (.ref v0) h3).bind fun k => dx_cV (K k [.ref v0, .int 19, .int (v2 + 1)] h3) (fun h4 => if ¬ v2 = ((2 * v1) + 1) then some (.inl none, h4) else (dx_vn [(29, 320)] (.ref v0) h4).bind fun k => dx_cV (K k [.ref v0, .int 18, .int 0] h4) (fun h5 => (dx_vn [(29, 320)] (.ref v0) h5).bind fun k => dx_cV (K k [.ref v0, .int 15, .int 0] h5) (fun h6 => (dx_gA [(29, 0)] (.ref v0) h6).bind fun r7 => (dx_lI 0 r7 3 h6).bind fun x8 => (dx_vn [(29, 320)] (.ref v0) h6).bind fun k => dx_cV (K k [.ref v0, .int 3, .int (x8 + 2)] h6) (fun h9 => some (.inl none, h9)) dx_x0) dx_x0) dx_x0) dx_x0) dx_x0) (B_X2_write_95 K v0 v1 v2 h) := by
  show dx_le _ (ax_run K P_X2_write 95 [some (.ref v0), some (.int v1), some (.int v2)] [] h)
  refine e_aload rfl rfl rfl ?_
  refine e_push rfl ?_
  refine e_aload rfl rfl rfl ?_
  refine e_getA rfl fun r1 hr1 => ?_
  refine e_push rfl ?_
  refine e_iald rfl fun x2 => ?_
  refine e_push rfl ?_
  refine e_i2 rfl ?_
  refine e_ivV rfl rfl rfl (Nat.le_of_ble_eq_true rfl) (fun _ _ => e_x0) fun h3 => ?_
  refine e_aload rfl rfl rfl ?_
  refine e_push rfl ?_
  refine e_iload rfl rfl ?_
  refine e_push rfl ?_
  refine e_i2 rfl ?_
  refine e_ivV rfl rfl rfl (Nat.le_of_ble_eq_true rfl) (fun _ _ => e_x0) fun h4 => ?_
  refine e_iload rfl rfl ?_
  refine e_push rfl ?_
  refine e_iload rfl rfl ?_
  refine e_i2 rfl ?_
  refine e_push rfl ?_
  refine e_i2 rfl ?_
  refine e_if2 rfl rfl ?_ ?_
  · exact e_ret rfl
  · refine e_aload rfl rfl rfl ?_
    refine e_push rfl ?_
    refine e_push rfl ?_
    refine e_ivV rfl rfl rfl (Nat.le_of_ble_eq_true rfl) (fun _ _ => e_x0) fun h5 => ?_
    refine e_aload rfl rfl rfl ?_
    refine e_push rfl ?_
    refine e_push rfl ?_
    refine e_ivV rfl rfl rfl (Nat.le_of_ble_eq_true rfl) (fun _ _ => e_x0) fun h6 => ?_
    refine e_aload rfl rfl rfl ?_
    refine e_push rfl ?_
    refine e_aload rfl rfl rfl ?_
    refine e_getA rfl fun r7 hr7 => ?_
    refine e_push rfl ?_
    refine e_iald rfl fun x8 => ?_
    refine e_push rfl ?_
    refine e_i2 rfl ?_
    refine e_ivV rfl rfl rfl (Nat.le_of_ble_eq_true rfl) (fun _ _ => e_x0) fun h9 => ?_
    exact e_ret rfl
theorem m_X2_write {d : Nat} {v0 : Nat} {h : ax_H}  : dx_le ((dx_gA [(29, 0)] (.ref v0) h).bind fun r1 => (dx_lI 0 r1 18 h).bind fun x2 => (dx_gA [(29, 0)] (.ref v0) h).bind fun r3 => (dx_lI 0 r3 19 h).bind fun x4 => if x2 ≤ x4 then if x4 ≤ x2 then B_X2_write_81 (ax_c d) v0 x2 x4 h else if (2 * x2) < x4 then B_X2_write_81 (ax_c d) v0 x2 x4 h else (dx_gA [(29, 0)] (.ref v0) h).bind fun r5 => (dx_lI 0 r5 (((20 + x4) - x2) - 1) h).bind fun x6 => (dx_vn [(29, 319)] (.ref v0) h).bind fun k => dx_cV ((ax_c d) k [.ref v0, .int x6, .int (24 + (8 * ((x4 - x2) - 1)))] h) (fun h7 => B_X2_write_95 (ax_c d) v0 x2 x4 h7) dx_x0 else (dx_vn [(29, 319)] (.ref v0) h).bind fun k => dx_cV ((ax_c d) k [.ref v0, .int (1 + x4), .int (24 + (8 * x4))] h) (fun h8 => B_X2_write_95 (ax_c d) v0 x2 x4 h8) dx_x0) (ax_c (d + 1) 318 [.ref v0] h) := by
  refine e_entry (L' := [some (.ref v0), none, none]) rfl (ag_A rfl ag_n) (Nat.le_of_ble_eq_true rfl) rfl ?_
  refine e_aload rfl rfl rfl ?_
  refine e_getA rfl fun r1 hr1 => ?_
  refine e_push rfl ?_
  refine e_iald rfl fun x2 => ?_
  refine e_istore (L' := [some (.ref v0), some (.int x2), none]) rfl (dx_sto (Nat.le_of_ble_eq_true rfl) (Or.inr ⟨_, rfl, rfl⟩) rfl) ?_
  refine e_aload rfl rfl rfl ?_
  refine e_getA rfl fun r3 hr3 => ?_
  refine e_push rfl ?_
  refine e_iald rfl fun x4 => ?_
  refine e_istore (L' := [some (.ref v0), some (.int x2), some (.int x4)]) rfl (dx_sto (Nat.le_of_ble_eq_true rfl) (Or.inr ⟨_, rfl, rfl⟩) rfl) ?_
  refine e_iload rfl rfl ?_
  refine e_iload rfl rfl ?_
  refine e_if2 rfl rfl ?_ ?_
  · refine e_iload rfl rfl ?_
    refine e_iload rfl rfl ?_
    refine e_if2 rfl rfl ?_ ?_
    · exact e_wk mP_X2_write (ll_1 (ll_1 (ll_1 ll_n)))
    · refine e_iload rfl rfl ?_
      refine e_push rfl ?_
      refine e_iload rfl rfl ?_
      refine e_i2 rfl ?_
      refine e_if2 rfl rfl ?_ ?_
      · exact e_wk mP_X2_write (ll_1 (ll_1 (ll_1 ll_n)))
      · refine e_aload rfl rfl rfl ?_
        refine e_aload rfl rfl rfl ?_
        refine e_getA rfl fun r5 hr5 => ?_
        refine e_push rfl ?_
        refine e_iload rfl rfl ?_
        refine e_i2 rfl ?_
        refine e_iload rfl rfl ?_
        refine e_i2 rfl ?_
        refine e_push rfl ?_
        refine e_i2 rfl ?_
        refine e_iald rfl fun x6 => ?_
        refine e_push rfl ?_
        refine e_push rfl ?_
        refine e_iload rfl rfl ?_
        refine e_iload rfl rfl ?_
        refine e_i2 rfl ?_
        refine e_push rfl ?_
        refine e_i2 rfl ?_
        refine e_i2 rfl ?_
        refine e_i2 rfl ?_
        refine e_ivV rfl rfl rfl (Nat.le_of_ble_eq_true rfl) (fun _ _ => e_x0) fun h7 => ?_
        refine e_goto rfl ?_
        exact e_wk mP_X2_write (ll_1 (ll_1 (ll_1 ll_n)))
  · refine e_aload rfl rfl rfl ?_
    refine e_push rfl ?_
    refine e_iload rfl rfl ?_
    refine e_i2 rfl ?_
    refine e_push rfl ?_
    refine e_push rfl ?_
    refine e_iload rfl rfl ?_
    refine e_i2 rfl ?_
    refine e_i2 rfl ?_
    refine e_ivV rfl rfl rfl (Nat.le_of_ble_eq_true rfl) (fun _ _ => e_x0) fun h8 => ?_
    refine e_goto rfl ?_
    exact e_wk mP_X2_write (ll_1 (ll_1 (ll_1 ll_n)))
noncomputable def B_X2_writeBlock_2 (K : ax_K) (v0 : Nat) (v1 : Int32) (v2 : Int32) (v3 : Int32) (h : ax_H) : Option ax_R := ax_run K P_X2_writeBlock 2 [some (.ref v0), some (.int v1), some (.int v2), some (.int v3)] [] h
theorem b_X2_writeBlock_2 {K : ax_K} {v0 : Nat} {v1 : Int32} {v2 : Int32} {v3 : Int32} {h : ax_H}  : dx_le (if (8 : Int32) ≤ v3 then some (.inl none, h) else (dx_gA [(29, 0)] (.ref v0) h).bind fun r1 => (dx_lI 0 r1 (v2 + v3) h).bind fun x2 => (dx_vn [(29, 320)] (.ref v0) h).bind fun k => dx_cV (K k [.ref v0, .int ((365 + (8 * v1)) + v3), .int x2] h) (fun h3 => dx_lt (v3 + 1) fun x4 => B_X2_writeBlock_2 K v0 v1 v2 x4 h3) dx_x0) (B_X2_writeBlock_2 K v0 v1 v2 v3 h) := by
  show dx_le _ (ax_run K P_X2_writeBlock 2 [some (.ref v0), some (.int v1), some (.int v2), some (.int v3)] [] h)
  refine e_iload rfl rfl ?_
  refine e_push rfl ?_
  refine e_if2 rfl rfl ?_ ?_
  · exact e_ret rfl
  · refine e_aload rfl rfl rfl ?_
    refine e_push rfl ?_
    refine e_push rfl ?_
    refine e_iload rfl rfl ?_
    refine e_i2 rfl ?_
    refine e_i2 rfl ?_
    refine e_iload rfl rfl ?_
    refine e_i2 rfl ?_
    refine e_aload rfl rfl rfl ?_
    refine e_getA rfl fun r1 hr1 => ?_
    refine e_iload rfl rfl ?_
    refine e_iload rfl rfl ?_
    refine e_i2 rfl ?_
    refine e_iald rfl fun x2 => ?_
    refine e_ivV rfl rfl rfl (Nat.le_of_ble_eq_true rfl) (fun _ _ => e_x0) fun h3 => ?_
    refine e_iinc (M := fun x4 => [some (.ref v0), some (.int v1), some (.int v2), some (.int x4)]) rfl rfl (fun _ => dx_sto (Nat.le_of_ble_eq_true rfl) (Or.inr ⟨_, rfl, rfl⟩) rfl) fun x4 => ?_
    refine e_goto rfl ?_
    exact e_wk mP_X2_writeBlock (ll_1 (ll_1 (ll_1 (ll_1 ll_n))))
theorem m_X2_writeBlock {d : Nat} {v0 : Nat} {v1 : Int32} {v2 : Int32} {h : ax_H}  : dx_le (B_X2_writeBlock_2 (ax_c d) v0 v1 v2 0 h) (ax_c (d + 1) 319 [.ref v0, .int v1, .int v2] h) := by
  refine e_entry (L' := [some (.ref v0), some (.int v1), some (.int v2), none]) rfl (ag_A rfl (ag_I (ag_I ag_n))) (Nat.le_of_ble_eq_true rfl) rfl ?_
  refine e_push rfl ?_
  refine e_istore (L' := [some (.ref v0), some (.int v1), some (.int v2), some (.int 0)]) rfl (dx_sto (Nat.le_of_ble_eq_true rfl) (Or.inr ⟨_, rfl, rfl⟩) rfl) ?_
  exact e_wk mP_X2_writeBlock (ll_1 (ll_1 (ll_1 (ll_1 ll_n))))
theorem m_X2_set {d : Nat} {v0 : Nat} {v1 : Int32} {v2 : Int32} {h : ax_H}  : dx_le ((dx_gA [(29, 4)] (.ref v0) h).bind fun r1 => dx_nul r1 ((dx_gA [(29, 0)] (.ref v0) h).bind fun r2 => (dx_sI 0 r2 v1 v2 h).bind fun h3 => some (.inl none, h3)) ((dx_gA [(29, 4)] (.ref v0) h).bind fun r4 => (dx_gA [(29, 0)] (.ref v0) h).bind fun r5 => (dx_lI 0 r5 v1 h).bind fun x6 => (dx_vn [(31, 359)] r4 h).bind fun k => dx_cV ((ax_c d) k [r4, .int v1, .int x6] h) (fun h7 => (dx_gA [(29, 0)] (.ref v0) h7).bind fun r8 => (dx_sI 0 r8 v1 v2 h7).bind fun h9 => some (.inl none, h9)) dx_x0)) (ax_c (d + 1) 320 [.ref v0, .int v1, .int v2] h) := by
  refine e_entry (L' := [some (.ref v0), some (.int v1), some (.int v2)]) rfl (ag_A rfl (ag_I (ag_I ag_n))) (Nat.le_of_ble_eq_true rfl) rfl ?_
  refine e_aload rfl rfl rfl ?_
  refine e_getA rfl fun r1 hr1 => ?_
  refine e_null rfl ?_ ?_
  · refine e_aload rfl rfl rfl ?_
    refine e_getA rfl fun r2 hr2 => ?_
    refine e_iload rfl rfl ?_
    refine e_iload rfl rfl ?_
    refine e_iastI rfl fun h3 => ?_
    exact e_ret rfl
  · refine e_aload rfl rfl rfl ?_
    refine e_getA rfl fun r4 hr4 => ?_
    refine e_iload rfl rfl ?_
    refine e_aload rfl rfl rfl ?_
    refine e_getA rfl fun r5 hr5 => ?_
    refine e_iload rfl rfl ?_
    refine e_iald rfl fun x6 => ?_
    refine e_ivV rfl rfl rfl (Nat.le_of_ble_eq_true rfl) (fun _ _ => e_x0) fun h7 => ?_
    refine e_aload rfl rfl rfl ?_
    refine e_getA rfl fun r8 hr8 => ?_
    refine e_iload rfl rfl ?_
    refine e_iload rfl rfl ?_
    refine e_iastI rfl fun h9 => ?_
    exact e_ret rfl
noncomputable def B_X2_writeHead_4 (K : ax_K) (v0 : Nat) (v1 : Int32) (v2 : Int32) (v3 : Int32) (h : ax_H) : Option ax_R := ax_run K P_X2_writeHead 4 [some (.ref v0), some (.int v1), some (.int v2), some (.int v3), none] [] h
noncomputable def B_X2_writeHead_42 (K : ax_K) (s0 : Int32) (v0 : Nat) (v1 : Int32) (v2 : Int32) (v3 : Int32) (h : ax_H) : Option ax_R := ax_run K P_X2_writeHead 42 [some (.ref v0), some (.int v1), some (.int v2), some (.int v3), none] [.int s0] h
noncomputable def B_X2_writeHead_68 (K : ax_K) (v0 : Nat) (v1 : Int32) (v2 : Int32) (v3 : Int32) (h : ax_H) : Option ax_R := ax_run K P_X2_writeHead 68 [some (.ref v0), some (.int v1), some (.int v2), some (.int v3), none] [] h
theorem b_X2_writeHead_4 {K : ax_K} {v0 : Nat} {v1 : Int32} {v2 : Int32} {v3 : Int32} {h : ax_H}  : dx_le (if (8 : Int32) ≤ v3 then B_X2_writeHead_68 K v0 v1 v2 0 h else if v1 = 0 then B_X2_writeHead_42 K 0 v0 v1 v2 v3 h else if v3 ≤ 3 then if ¬ v3 = 0 then (dx_gA [(29, 0)] (.ref v0) h).bind fun r1 => (dx_lI 0 r1 ((20 + v3) - 1) h).bind fun x2 => B_X2_writeHead_42 K x2 v0 v1 v2 v3 h else B_X2_writeHead_42 K v1 v0 v1 v2 v3 h else B_X2_writeHead_42 K 0 v0 v1 v2 v3 h) (B_X2_writeHead_4 K v0 v1 v2 v3 h) := by
  show dx_le _ (ax_run K P_X2_writeHead 4 [some (.ref v0), some (.int v1), some (.int v2), some (.int v3), none] [] h)
  refine e_iload rfl rfl ?_
  refine e_push rfl ?_
  refine e_if2 rfl rfl ?_ ?_
  · refine e_push rfl ?_
    refine e_istore (L' := [some (.ref v0), some (.int v1), some (.int v2), some (.int 0), none]) rfl (dx_sto (Nat.le_of_ble_eq_true rfl) (Or.inr ⟨_, rfl, rfl⟩) rfl) ?_
    exact e_wk mP_X2_writeHead (ll_1 (ll_1 (ll_1 (ll_1 (ll_0 ll_n)))))
  · refine e_iload rfl rfl ?_
    refine e_if1 rfl rfl ?_ ?_
    · refine e_push rfl ?_
      refine e_goto rfl ?_
      exact e_wk mP_X2_writeHead (ll_1 (ll_1 (ll_1 (ll_1 (ll_0 ll_n)))))
    · refine e_iload rfl rfl ?_
      refine e_push rfl ?_
      refine e_if2 rfl rfl ?_ ?_
      · refine e_iload rfl rfl ?_
        refine e_if1 rfl rfl ?_ ?_
        · refine e_aload rfl rfl rfl ?_
          refine e_getA rfl fun r1 hr1 => ?_
          refine e_push rfl ?_
          refine e_iload rfl rfl ?_
          refine e_i2 rfl ?_
          refine e_push rfl ?_
          refine e_i2 rfl ?_
          refine e_iald rfl fun x2 => ?_
          exact e_wk mP_X2_writeHead (ll_1 (ll_1 (ll_1 (ll_1 (ll_0 ll_n)))))
        · refine e_iload rfl rfl ?_
          refine e_goto rfl ?_
          exact e_wk mP_X2_writeHead (ll_1 (ll_1 (ll_1 (ll_1 (ll_0 ll_n)))))
      · refine e_push rfl ?_
        refine e_goto rfl ?_
        exact e_wk mP_X2_writeHead (ll_1 (ll_1 (ll_1 (ll_1 (ll_0 ll_n)))))
theorem b_X2_writeHead_42 {K : ax_K} {s0 : Int32} {v0 : Nat} {v1 : Int32} {v2 : Int32} {v3 : Int32} {h : ax_H}  : dx_le ((dx_vn [(29, 320)] (.ref v0) h).bind fun k => dx_cV (K k [.ref v0, .int (365 + v3), .int s0] h) (fun h1 => dx_lt (v2 + s0) fun x2 => dx_lt (v3 + 1) fun x3 => B_X2_writeHead_4 K v0 v1 x2 x3 h1) dx_x0) (B_X2_writeHead_42 K s0 v0 v1 v2 v3 h) := by
  show dx_le _ (ax_run K P_X2_writeHead 42 [some (.ref v0), some (.int v1), some (.int v2), some (.int v3), none] [.int s0] h)
  refine e_istore (L' := [some (.ref v0), some (.int v1), some (.int v2), some (.int v3), some (.int s0)]) rfl (dx_sto (Nat.le_of_ble_eq_true rfl) (Or.inr ⟨_, rfl, rfl⟩) rfl) ?_
  refine e_aload rfl rfl rfl ?_
  refine e_push rfl ?_
  refine e_iload rfl rfl ?_
  refine e_i2 rfl ?_
  refine e_iload rfl rfl ?_
  refine e_ivV rfl rfl rfl (Nat.le_of_ble_eq_true rfl) (fun _ _ => e_x0) fun h1 => ?_
  refine e_iload rfl rfl ?_
  refine e_iload rfl rfl ?_
  refine e_i2 rfl ?_
  refine e_istoreL (M := fun x2 => [some (.ref v0), some (.int v1), some (.int x2), some (.int v3), some (.int s0)]) rfl (fun _ => dx_sto (Nat.le_of_ble_eq_true rfl) (Or.inr ⟨_, rfl, rfl⟩) rfl) fun x2 => ?_
  refine e_iinc (M := fun x3 => [some (.ref v0), some (.int v1), some (.int x2), some (.int x3), some (.int s0)]) rfl rfl (fun _ => dx_sto (Nat.le_of_ble_eq_true rfl) (Or.inr ⟨_, rfl, rfl⟩) rfl) fun x3 => ?_
  refine e_goto rfl ?_
  exact e_wk mP_X2_writeHead (ll_1 (ll_1 (ll_1 (ll_1 (ll_0 ll_n)))))
theorem b_X2_writeHead_68 {K : ax_K} {v0 : Nat} {v1 : Int32} {v2 : Int32} {v3 : Int32} {h : ax_H}  : dx_le (if (8 * v1) ≤ v3 then dx_cI (K 214 [.long (Int32.toInt64 v2)] h) (fun x2 h1 => (dx_vn [(29, 320)] (.ref v0) h1).bind fun k => dx_cV (K k [.ref v0, .int 369, .int x2] h1) (fun h3 => some (.inl none, h3)) dx_x0) dx_x0 else (dx_gA [(29, 0)] (.ref v0) h).bind fun r4 => (dx_lI 0 r4 (24 + v3) h).bind fun x5 => dx_lt (v2 + x5) fun x6 => dx_lt (v3 + 1) fun x7 => B_X2_writeHead_68 K v0 v1 x6 x7 h) (B_X2_writeHead_68 K v0 v1 v2 v3 h) := by
  show dx_le _ (ax_run K P_X2_writeHead 68 [some (.ref v0), some (.int v1), some (.int v2), some (.int v3), none] [] h)
  refine e_iload rfl rfl ?_
  refine e_push rfl ?_
  refine e_iload rfl rfl ?_
  refine e_i2 rfl ?_
  refine e_if2 rfl rfl ?_ ?_
  · refine e_aload rfl rfl rfl ?_
    refine e_push rfl ?_
    refine e_iload rfl rfl ?_
    refine e_i2l rfl ?_
    refine e_isI rfl (Nat.le_of_ble_eq_true rfl) rfl rfl (Nat.le_of_ble_eq_true rfl) (fun _ _ => e_x0) fun x2 h1 => ?_
    refine e_ivV rfl rfl rfl (Nat.le_of_ble_eq_true rfl) (fun _ _ => e_x0) fun h3 => ?_
    exact e_ret rfl
  · refine e_iload rfl rfl ?_
    refine e_aload rfl rfl rfl ?_
    refine e_getA rfl fun r4 hr4 => ?_
    refine e_push rfl ?_
    refine e_iload rfl rfl ?_
    refine e_i2 rfl ?_
    refine e_iald rfl fun x5 => ?_
    refine e_i2 rfl ?_
    refine e_istoreL (M := fun x6 => [some (.ref v0), some (.int v1), some (.int x6), some (.int v3), none]) rfl (fun _ => dx_sto (Nat.le_of_ble_eq_true rfl) (Or.inr ⟨_, rfl, rfl⟩) rfl) fun x6 => ?_
    refine e_iinc (M := fun x7 => [some (.ref v0), some (.int v1), some (.int x6), some (.int x7), none]) rfl rfl (fun _ => dx_sto (Nat.le_of_ble_eq_true rfl) (Or.inr ⟨_, rfl, rfl⟩) rfl) fun x7 => ?_
    refine e_goto rfl ?_
    exact e_wk mP_X2_writeHead (ll_1 (ll_1 (ll_1 (ll_1 (ll_0 ll_n)))))
theorem m_X2_writeHead {d : Nat} {v0 : Nat} {v1 : Int32} {h : ax_H}  : dx_le (B_X2_writeHead_4 (ax_c d) v0 v1 0 0 h) (ax_c (d + 1) 321 [.ref v0, .int v1] h) := by
  refine e_entry (L' := [some (.ref v0), some (.int v1), none, none, none]) rfl (ag_A rfl (ag_I ag_n)) (Nat.le_of_ble_eq_true rfl) rfl ?_
  refine e_push rfl ?_
  refine e_istore (L' := [some (.ref v0), some (.int v1), some (.int 0), none, none]) rfl (dx_sto (Nat.le_of_ble_eq_true rfl) (Or.inr ⟨_, rfl, rfl⟩) rfl) ?_
  refine e_push rfl ?_
  refine e_istore (L' := [some (.ref v0), some (.int v1), some (.int 0), some (.int 0), none]) rfl (dx_sto (Nat.le_of_ble_eq_true rfl) (Or.inr ⟨_, rfl, rfl⟩) rfl) ?_
  exact e_wk mP_X2_writeHead (ll_1 (ll_1 (ll_1 (ll_1 (ll_0 ll_n)))))
theorem m_X2_isWaiting {d : Nat} {v0 : Nat} {h : ax_H}  : dx_le ((dx_gA [(29, 0)] (.ref v0) h).bind fun r1 => (dx_lI 0 r1 8 h).bind fun x2 => (dx_gA [(29, 0)] (.ref v0) h).bind fun r3 => (dx_lI 0 r3 9 h).bind fun x4 => if (x2 + x4) ≤ 0 then some (.inl (some (.int 0)), h) else some (.inl (some (.int 1)), h)) (ax_c (d + 1) 322 [.ref v0] h) := by
  refine e_entry (L' := [some (.ref v0)]) rfl (ag_A rfl ag_n) (Nat.le_of_ble_eq_true rfl) rfl ?_
  refine e_aload rfl rfl rfl ?_
  refine e_getA rfl fun r1 hr1 => ?_
  refine e_push rfl ?_
  refine e_iald rfl fun x2 => ?_
  refine e_aload rfl rfl rfl ?_
  refine e_getA rfl fun r3 hr3 => ?_
  refine e_push rfl ?_
  refine e_iald rfl fun x4 => ?_
  refine e_i2 rfl ?_
  refine e_if1 rfl rfl ?_ ?_
  · refine e_push rfl ?_
    exact e_zret0 rfl
  · refine e_push rfl ?_
    refine e_goto rfl ?_
    exact e_zret1 rfl
noncomputable def B_X2_interrupt_21 (K : ax_K) (s0 : Int32) (v0 : Nat) (h : ax_H) : Option ax_R := ax_run K P_X2_interrupt 21 [some (.ref v0), none] [.int s0] h
theorem b_X2_interrupt_21 {K : ax_K} {s0 : Int32} {v0 : Nat} {h : ax_H}  : dx_le ((dx_vn [(29, 320)] (.ref v0) h).bind fun k => dx_cV (K k [.ref v0, .int (8 + s0), .int 0] h) (fun h1 => (dx_gA [(29, 0)] (.ref v0) h1).bind fun r2 => (dx_lI 0 r2 3 h1).bind fun x3 => (dx_vn [(29, 325)] (.ref v0) h1).bind fun k => dx_cV (K k [.ref v0, .int x3] h1) (fun h4 => (dx_gA [(29, 0)] (.ref v0) h4).bind fun r5 => (dx_lI 0 r5 5 h4).bind fun x6 => (dx_gA [(29, 0)] (.ref v0) h4).bind fun r7 => (dx_lI 0 r7 6 h4).bind fun x8 => (dx_vn [(29, 325)] (.ref v0) h4).bind fun k => dx_cV (K k [.ref v0, .int (x6 + (2 * x8))] h4) (fun h9 => (dx_vn [(29, 320)] (.ref v0) h9).bind fun k => dx_cV (K k [.ref v0, .int 7, .int 0] h9) (fun h10 => (dx_gA [(29, 0)] (.ref v0) h10).bind fun r11 => (dx_lI 0 r11 (108 + s0) h10).bind fun x12 => (dx_vn [(29, 320)] (.ref v0) h10).bind fun k => dx_cV (K k [.ref v0, .int 3, .int x12] h10) (fun h13 => some (.inl none, h13)) dx_x0) dx_x0) dx_x0) dx_x0) dx_x0) (B_X2_interrupt_21 K s0 v0 h) := by
  show dx_le _ (ax_run K P_X2_interrupt 21 [some (.ref v0), none] [.int s0] h)
  refine e_istore (L' := [some (.ref v0), some (.int s0)]) rfl (dx_sto (Nat.le_of_ble_eq_true rfl) (Or.inr ⟨_, rfl, rfl⟩) rfl) ?_
  refine e_aload rfl rfl rfl ?_
  refine e_push rfl ?_
  refine e_iload rfl rfl ?_
  refine e_i2 rfl ?_
  refine e_push rfl ?_
  refine e_ivV rfl rfl rfl (Nat.le_of_ble_eq_true rfl) (fun _ _ => e_x0) fun h1 => ?_
  refine e_aload rfl rfl rfl ?_
  refine e_aload rfl rfl rfl ?_
  refine e_getA rfl fun r2 hr2 => ?_
  refine e_push rfl ?_
  refine e_iald rfl fun x3 => ?_
  refine e_ivV rfl rfl rfl (Nat.le_of_ble_eq_true rfl) (fun _ _ => e_x0) fun h4 => ?_
  refine e_aload rfl rfl rfl ?_
  refine e_aload rfl rfl rfl ?_
  refine e_getA rfl fun r5 hr5 => ?_
  refine e_push rfl ?_
  refine e_iald rfl fun x6 => ?_
  refine e_push rfl ?_
  refine e_aload rfl rfl rfl ?_
  refine e_getA rfl fun r7 hr7 => ?_
  refine e_push rfl ?_
  refine e_iald rfl fun x8 => ?_
  refine e_i2 rfl ?_
  refine e_i2 rfl ?_
  refine e_ivV rfl rfl rfl (Nat.le_of_ble_eq_true rfl) (fun _ _ => e_x0) fun h9 => ?_
  refine e_aload rfl rfl rfl ?_
  refine e_push rfl ?_
  refine e_push rfl ?_
  refine e_ivV rfl rfl rfl (Nat.le_of_ble_eq_true rfl) (fun _ _ => e_x0) fun h10 => ?_
  refine e_aload rfl rfl rfl ?_
  refine e_push rfl ?_
  refine e_aload rfl rfl rfl ?_
  refine e_getA rfl fun r11 hr11 => ?_
  refine e_push rfl ?_
  refine e_iload rfl rfl ?_
  refine e_i2 rfl ?_
  refine e_iald rfl fun x12 => ?_
  refine e_ivV rfl rfl rfl (Nat.le_of_ble_eq_true rfl) (fun _ _ => e_x0) fun h13 => ?_
  exact e_ret rfl
theorem m_X2_interrupt {d : Nat} {v0 : Nat} {h : ax_H}  : dx_le ((dx_vn [(29, 324)] (.ref v0) h).bind fun k => dx_cV ((ax_c d) k [.ref v0, .int 2] h) (fun h1 => (dx_gA [(29, 0)] (.ref v0) h1).bind fun r2 => (dx_lI 0 r2 8 h1).bind fun x3 => if ¬ x3 = 1 then B_X2_interrupt_21 (ax_c d) 1 v0 h1 else B_X2_interrupt_21 (ax_c d) 0 v0 h1) dx_x0) (ax_c (d + 1) 323 [.ref v0] h) := by
  refine e_entry (L' := [some (.ref v0), none]) rfl (ag_A rfl ag_n) (Nat.le_of_ble_eq_true rfl) rfl ?_
  refine e_aload rfl rfl rfl ?_
  refine e_push rfl ?_
  refine e_ivV rfl rfl rfl (Nat.le_of_ble_eq_true rfl) (fun _ _ => e_x0) fun h1 => ?_
  refine e_aload rfl rfl rfl ?_
  refine e_getA rfl fun r2 hr2 => ?_
  refine e_push rfl ?_
  refine e_iald rfl fun x3 => ?_
  refine e_push rfl ?_
  refine e_if2 rfl rfl ?_ ?_
  · refine e_push rfl ?_
    exact e_wk mP_X2_interrupt (ll_1 (ll_0 ll_n))
  · refine e_push rfl ?_
    refine e_goto rfl ?_
    exact e_wk mP_X2_interrupt (ll_1 (ll_0 ll_n))
theorem m_X2_room {d : Nat} {v0 : Nat} {v1 : Int32} {h : ax_H}  : dx_le ((dx_gA [(29, 0)] (.ref v0) h).bind fun r1 => (dx_lI 0 r1 4 h).bind fun x2 => if v1 ≤ x2 then some (.inl none, h) else dx_nw h (.inr (32, [.null])) 6 fun a4 h3 => (dx_gA [(29, 0)] (.ref v0) h3).bind fun r5 => (dx_lI 0 r5 4 h3).bind fun x6 => dx_cV ((ax_c d) 361 [.ref a4, .int x6] h3) (fun h7 => dx_ath hd_0 (.ref a4) h7 (fun _ _ => none)) dx_x0) (ax_c (d + 1) 324 [.ref v0, .int v1] h) := by
  refine e_entry (L' := [some (.ref v0), some (.int v1)]) rfl (ag_A rfl (ag_I ag_n)) (Nat.le_of_ble_eq_true rfl) rfl ?_
  refine e_aload rfl rfl rfl ?_
  refine e_getA rfl fun r1 hr1 => ?_
  refine e_push rfl ?_
  refine e_iald rfl fun x2 => ?_
  refine e_iload rfl rfl ?_
  refine e_if2 rfl rfl ?_ ?_
  · exact e_ret rfl
  · refine e_new rfl fun a4 h3 => ?_
    refine e_dup rfl rfl ?_
    refine e_aload rfl rfl rfl ?_
    refine e_getA rfl fun r5 hr5 => ?_
    refine e_push rfl ?_
    refine e_iald rfl fun x6 => ?_
    refine e_isprV rfl rfl rfl (Nat.le_of_ble_eq_true rfl) (fun _ _ => e_x0) fun h7 => ?_
    exact e_athrow rfl e_hn
theorem m_X2_push {d : Nat} {v0 : Nat} {v1 : Int32} {h : ax_H}  : dx_le ((dx_gA [(29, 0)] (.ref v0) h).bind fun r1 => (dx_lI 0 r1 4 h).bind fun x2 => (dx_vn [(29, 320)] (.ref v0) h).bind fun k => dx_cV ((ax_c d) k [.ref v0, .int 4, .int (x2 - 1)] h) (fun h3 => (dx_gA [(29, 0)] (.ref v0) h3).bind fun r4 => (dx_lI 0 r4 4 h3).bind fun x5 => (dx_vn [(29, 320)] (.ref v0) h3).bind fun k => dx_cV ((ax_c d) k [.ref v0, .int (108 + x5), .int v1] h3) (fun h6 => some (.inl none, h6)) dx_x0) dx_x0) (ax_c (d + 1) 325 [.ref v0, .int v1] h) := by
  refine e_entry (L' := [some (.ref v0), some (.int v1)]) rfl (ag_A rfl (ag_I ag_n)) (Nat.le_of_ble_eq_true rfl) rfl ?_
  refine e_aload rfl rfl rfl ?_
  refine e_push rfl ?_
  refine e_aload rfl rfl rfl ?_
  refine e_getA rfl fun r1 hr1 => ?_
  refine e_push rfl ?_
  refine e_iald rfl fun x2 => ?_
  refine e_push rfl ?_
  refine e_i2 rfl ?_
  refine e_ivV rfl rfl rfl (Nat.le_of_ble_eq_true rfl) (fun _ _ => e_x0) fun h3 => ?_
  refine e_aload rfl rfl rfl ?_
  refine e_push rfl ?_
  refine e_aload rfl rfl rfl ?_
  refine e_getA rfl fun r4 hr4 => ?_
  refine e_push rfl ?_
  refine e_iald rfl fun x5 => ?_
  refine e_i2 rfl ?_
  refine e_iload rfl rfl ?_
  refine e_ivV rfl rfl rfl (Nat.le_of_ble_eq_true rfl) (fun _ _ => e_x0) fun h6 => ?_
  exact e_ret rfl
noncomputable def B_X2_instruct_92 (K : ax_K) (s0 : Int32) (v0 : Nat) (v3 : Int32) (v4 : Int32) (h : ax_H) : Option ax_R := ax_run K P_X2_instruct 92 [some (.ref v0), none, none, some (.int v3), some (.int v4), none, none, none] [.int s0] h
noncomputable def B_X2_instruct_127 (K : ax_K) (v0 : Nat) (v3 : Int32) (v4 : Int32) (v6 : Int32) (v7 : Int32) (h : ax_H) : Option ax_R := ax_run K P_X2_instruct 127 [some (.ref v0), none, none, some (.int v3), some (.int v4), none, some (.int v6), some (.int v7)] [] h
theorem b_X2_instruct_92 {K : ax_K} {s0 : Int32} {v0 : Nat} {v3 : Int32} {v4 : Int32} {h : ax_H}  : dx_le ((dx_gA [(29, 0)] (.ref v0) h).bind fun r1 => (dx_lI 0 r1 3 h).bind fun x2 => dx_lt (x2 + 2) fun x3 => if v3 < 4 then B_X2_instruct_127 K v0 v3 v4 s0 x3 h else if (11 : Int32) < v3 then B_X2_instruct_127 K v0 v3 v4 s0 x3 h else (dx_vn [(29, 328)] (.ref v0) h).bind fun k => dx_cV (K k [.ref v0, .int v3, .int v4, .int s0] h) (fun h4 => (dx_vn [(29, 320)] (.ref v0) h4).bind fun k => dx_cV (K k [.ref v0, .int 3, .int x3] h4) (fun h5 => some (.inl none, h5)) dx_x0) dx_x0) (B_X2_instruct_92 K s0 v0 v3 v4 h) := by
  show dx_le _ (ax_run K P_X2_instruct 92 [some (.ref v0), none, none, some (.int v3), some (.int v4), none, none, none] [.int s0] h)
  refine e_istore (L' := [some (.ref v0), none, none, some (.int v3), some (.int v4), none, some (.int s0), none]) rfl (dx_sto (Nat.le_of_ble_eq_true rfl) (Or.inr ⟨_, rfl, rfl⟩) rfl) ?_
  refine e_aload rfl rfl rfl ?_
  refine e_getA rfl fun r1 hr1 => ?_
  refine e_push rfl ?_
  refine e_iald rfl fun x2 => ?_
  refine e_push rfl ?_
  refine e_i2 rfl ?_
  refine e_istoreL (M := fun x3 => [some (.ref v0), none, none, some (.int v3), some (.int v4), none, some (.int s0), some (.int x3)]) rfl (fun _ => dx_sto (Nat.le_of_ble_eq_true rfl) (Or.inr ⟨_, rfl, rfl⟩) rfl) fun x3 => ?_
  refine e_iload rfl rfl ?_
  refine e_push rfl ?_
  refine e_if2 rfl rfl ?_ ?_
  · exact e_wk mP_X2_instruct (ll_1 (ll_0 (ll_0 (ll_1 (ll_1 (ll_0 (ll_1 (ll_1 ll_n))))))))
  · refine e_iload rfl rfl ?_
    refine e_push rfl ?_
    refine e_if2 rfl rfl ?_ ?_
    · exact e_wk mP_X2_instruct (ll_1 (ll_0 (ll_0 (ll_1 (ll_1 (ll_0 (ll_1 (ll_1 ll_n))))))))
    · refine e_aload rfl rfl rfl ?_
      refine e_iload rfl rfl ?_
      refine e_iload rfl rfl ?_
      refine e_iload rfl rfl ?_
      refine e_ivV rfl rfl rfl (Nat.le_of_ble_eq_true rfl) (fun _ _ => e_x0) fun h4 => ?_
      refine e_goto rfl ?_
      refine e_aload rfl rfl rfl ?_
      refine e_push rfl ?_
      refine e_iload rfl rfl ?_
      refine e_ivV rfl rfl rfl (Nat.le_of_ble_eq_true rfl) (fun _ _ => e_x0) fun h5 => ?_
      exact e_ret rfl
theorem b_X2_instruct_127 {K : ax_K} {v0 : Nat} {v3 : Int32} {v4 : Int32} {v6 : Int32} {v7 : Int32} {h : ax_H}  : dx_le (if (18 : Int32) < v3 then (dx_vn [(29, 332)] (.ref v0) h).bind fun k => dx_cI (K k [.ref v0, .int v3, .int v4, .int v6, .int v7] h) (fun x2 h1 => (dx_vn [(29, 320)] (.ref v0) h1).bind fun k => dx_cV (K k [.ref v0, .int 3, .int x2] h1) (fun h3 => some (.inl none, h3)) dx_x0) dx_x0 else (dx_vn [(29, 329)] (.ref v0) h).bind fun k => dx_cI (K k [.ref v0, .int v3, .int v4, .int v6, .int v7] h) (fun x5 h4 => (dx_vn [(29, 320)] (.ref v0) h4).bind fun k => dx_cV (K k [.ref v0, .int 3, .int x5] h4) (fun h6 => some (.inl none, h6)) dx_x0) dx_x0) (B_X2_instruct_127 K v0 v3 v4 v6 v7 h) := by
  show dx_le _ (ax_run K P_X2_instruct 127 [some (.ref v0), none, none, some (.int v3), some (.int v4), none, some (.int v6), some (.int v7)] [] h)
  refine e_iload rfl rfl ?_
  refine e_push rfl ?_
  refine e_if2 rfl rfl ?_ ?_
  · refine e_aload rfl rfl rfl ?_
    refine e_iload rfl rfl ?_
    refine e_iload rfl rfl ?_
    refine e_iload rfl rfl ?_
    refine e_iload rfl rfl ?_
    refine e_ivI rfl rfl rfl (Nat.le_of_ble_eq_true rfl) (fun _ _ => e_x0) fun x2 h1 => ?_
    refine e_istore (L' := [some (.ref v0), none, none, some (.int v3), some (.int v4), none, some (.int v6), some (.int x2)]) rfl (dx_sto (Nat.le_of_ble_eq_true rfl) (Or.inr ⟨_, rfl, rfl⟩) rfl) ?_
    refine e_aload rfl rfl rfl ?_
    refine e_push rfl ?_
    refine e_iload rfl rfl ?_
    refine e_ivV rfl rfl rfl (Nat.le_of_ble_eq_true rfl) (fun _ _ => e_x0) fun h3 => ?_
    exact e_ret rfl
  · refine e_aload rfl rfl rfl ?_
    refine e_iload rfl rfl ?_
    refine e_iload rfl rfl ?_
    refine e_iload rfl rfl ?_
    refine e_iload rfl rfl ?_
    refine e_ivI rfl rfl rfl (Nat.le_of_ble_eq_true rfl) (fun _ _ => e_x0) fun x5 h4 => ?_
    refine e_istore (L' := [some (.ref v0), none, none, some (.int v3), some (.int v4), none, some (.int v6), some (.int x5)]) rfl (dx_sto (Nat.le_of_ble_eq_true rfl) (Or.inr ⟨_, rfl, rfl⟩) rfl) ?_
    refine e_goto rfl ?_
    refine e_aload rfl rfl rfl ?_
    refine e_push rfl ?_
    refine e_iload rfl rfl ?_
    refine e_ivV rfl rfl rfl (Nat.le_of_ble_eq_true rfl) (fun _ _ => e_x0) fun h6 => ?_
    exact e_ret rfl
theorem m_X2_instruct {d : Nat} {v0 : Nat} {h : ax_H}  : dx_le ((dx_gA [(29, 0)] (.ref v0) h).bind fun r1 => (dx_lI 0 r1 3 h).bind fun x2 => dx_cI ((ax_c d) 327 [.int (x2 + 1)] h) (fun x4 h3 => (dx_gA [(29, 0)] (.ref v0) h3).bind fun r5 => (dx_lI 0 r5 (x4 - 1) h3).bind fun x6 => dx_lt (dx_shr x6 4) fun x7 => if x7 ≤ 26 then dx_lt (12 + ((dx_shr x6 2) &&& 3)) fun x8 => dx_lt (12 + (x6 &&& 3)) fun x9 => if ¬ x8 = x9 then (dx_gA [(29, 0)] (.ref v0) h3).bind fun r10 => (dx_lI 0 r10 x9 h3).bind fun x11 => (dx_gA [(29, 0)] (.ref v0) h3).bind fun r12 => (dx_lI 0 r12 x4 h3).bind fun x13 => dx_cI ((ax_c d) 214 [.long (Int32.toInt64 (x11 + x13))] h3) (fun x15 h14 => B_X2_instruct_92 (ax_c d) x15 v0 x7 x8 h14) dx_x0 else (dx_gA [(29, 0)] (.ref v0) h3).bind fun r16 => (dx_lI 0 r16 x4 h3).bind fun x17 => B_X2_instruct_92 (ax_c d) x17 v0 x7 x8 h3 else dx_nw h3 (.inr (34, [.null])) 6 fun a19 h18 => dx_cV ((ax_c d) 363 [.ref a19, .int x7] h18) (fun h20 => dx_ath hd_0 (.ref a19) h20 (fun _ _ => none)) dx_x0) dx_x0) (ax_c (d + 1) 326 [.ref v0] h) := by
  refine e_entry (L' := [some (.ref v0), none, none, none, none, none, none, none]) rfl (ag_A rfl ag_n) (Nat.le_of_ble_eq_true rfl) rfl ?_
  refine e_aload rfl rfl rfl ?_
  refine e_getA rfl fun r1 hr1 => ?_
  refine e_push rfl ?_
  refine e_iald rfl fun x2 => ?_
  refine e_push rfl ?_
  refine e_i2 rfl ?_
  refine e_isI rfl (Nat.le_of_ble_eq_true rfl) rfl rfl (Nat.le_of_ble_eq_true rfl) (fun _ _ => e_x0) fun x4 h3 => ?_
  refine e_istore (L' := [some (.ref v0), some (.int x4), none, none, none, none, none, none]) rfl (dx_sto (Nat.le_of_ble_eq_true rfl) (Or.inr ⟨_, rfl, rfl⟩) rfl) ?_
  refine e_aload rfl rfl rfl ?_
  refine e_getA rfl fun r5 hr5 => ?_
  refine e_iload rfl rfl ?_
  refine e_push rfl ?_
  refine e_i2 rfl ?_
  refine e_iald rfl fun x6 => ?_
  refine e_istore (L' := [some (.ref v0), some (.int x4), some (.int x6), none, none, none, none, none]) rfl (dx_sto (Nat.le_of_ble_eq_true rfl) (Or.inr ⟨_, rfl, rfl⟩) rfl) ?_
  refine e_iload rfl rfl ?_
  refine e_push rfl ?_
  refine e_shr rfl ?_
  refine e_istoreL (M := fun x7 => [some (.ref v0), some (.int x4), some (.int x6), some (.int x7), none, none, none, none]) rfl (fun _ => dx_sto (Nat.le_of_ble_eq_true rfl) (Or.inr ⟨_, rfl, rfl⟩) rfl) fun x7 => ?_
  refine e_iload rfl rfl ?_
  refine e_push rfl ?_
  refine e_if2 rfl rfl ?_ ?_
  · refine e_push rfl ?_
    refine e_iload rfl rfl ?_
    refine e_push rfl ?_
    refine e_shr rfl ?_
    refine e_push rfl ?_
    refine e_i2 rfl ?_
    refine e_i2 rfl ?_
    refine e_istoreL (M := fun x8 => [some (.ref v0), some (.int x4), some (.int x6), some (.int x7), some (.int x8), none, none, none]) rfl (fun _ => dx_sto (Nat.le_of_ble_eq_true rfl) (Or.inr ⟨_, rfl, rfl⟩) rfl) fun x8 => ?_
    refine e_push rfl ?_
    refine e_iload rfl rfl ?_
    refine e_push rfl ?_
    refine e_i2 rfl ?_
    refine e_i2 rfl ?_
    refine e_istoreL (M := fun x9 => [some (.ref v0), some (.int x4), some (.int x6), some (.int x7), some (.int x8), some (.int x9), none, none]) rfl (fun _ => dx_sto (Nat.le_of_ble_eq_true rfl) (Or.inr ⟨_, rfl, rfl⟩) rfl) fun x9 => ?_
    refine e_iload rfl rfl ?_
    refine e_iload rfl rfl ?_
    refine e_if2 rfl rfl ?_ ?_
    · refine e_aload rfl rfl rfl ?_
      refine e_getA rfl fun r10 hr10 => ?_
      refine e_iload rfl rfl ?_
      refine e_iald rfl fun x11 => ?_
      refine e_aload rfl rfl rfl ?_
      refine e_getA rfl fun r12 hr12 => ?_
      refine e_iload rfl rfl ?_
      refine e_iald rfl fun x13 => ?_
      refine e_i2 rfl ?_
      refine e_i2l rfl ?_
      refine e_isI rfl (Nat.le_of_ble_eq_true rfl) rfl rfl (Nat.le_of_ble_eq_true rfl) (fun _ _ => e_x0) fun x15 h14 => ?_
      exact e_wk mP_X2_instruct (ll_1 (ll_0 (ll_0 (ll_1 (ll_1 (ll_0 (ll_0 (ll_0 ll_n))))))))
    · refine e_aload rfl rfl rfl ?_
      refine e_getA rfl fun r16 hr16 => ?_
      refine e_iload rfl rfl ?_
      refine e_iald rfl fun x17 => ?_
      refine e_goto rfl ?_
      exact e_wk mP_X2_instruct (ll_1 (ll_0 (ll_0 (ll_1 (ll_1 (ll_0 (ll_0 (ll_0 ll_n))))))))
  · refine e_new rfl fun a19 h18 => ?_
    refine e_dup rfl rfl ?_
    refine e_iload rfl rfl ?_
    refine e_isprV rfl rfl rfl (Nat.le_of_ble_eq_true rfl) (fun _ _ => e_x0) fun h20 => ?_
    exact e_athrow rfl e_hn
theorem m_X2_address {d : Nat} {v0 : Int32} {h : ax_H}  : dx_le (if v0 < 256 then some (.inl (some (.int (108 + v0))), h) else dx_nw h (.inr (33, [.null])) 6 fun a2 h1 => dx_cV ((ax_c d) 362 [.ref a2, .int v0] h1) (fun h3 => dx_ath hd_0 (.ref a2) h3 (fun _ _ => none)) dx_x0) (ax_c (d + 1) 327 [.int v0] h) := by
  refine e_entry (L' := [some (.int v0)]) rfl (ag_I ag_n) (Nat.le_of_ble_eq_true rfl) rfl ?_
  refine e_iload rfl rfl ?_
  refine e_push rfl ?_
  refine e_if2 rfl rfl ?_ ?_
  · refine e_push rfl ?_
    refine e_iload rfl rfl ?_
    refine e_i2 rfl ?_
    exact e_iret rfl
  · refine e_new rfl fun a2 h1 => ?_
    refine e_dup rfl rfl ?_
    refine e_iload rfl rfl ?_
    refine e_isprV rfl rfl rfl (Nat.le_of_ble_eq_true rfl) (fun _ _ => e_x0) fun h3 => ?_
    exact e_athrow rfl e_hn
noncomputable def B_X2_reckon_56 (K : ax_K) (v0 : Nat) (v1 : Int32) (v2 : Int32) (v3 : Int32) (v4 : Int64) (h : ax_H) : Option ax_R := ax_run K P_X2_reckon 56 [some (.ref v0), some (.int v1), some (.int v2), some (.int v3), some (.long v4), none, none] [] h
noncomputable def B_X2_reckon_82 (K : ax_K) (v0 : Nat) (v1 : Int32) (v2 : Int32) (v3 : Int32) (v4 : Int64) (h : ax_H) : Option ax_R := ax_run K P_X2_reckon 82 [some (.ref v0), some (.int v1), some (.int v2), some (.int v3), some (.long v4), none, none] [] h
noncomputable def B_X2_reckon_128 (K : ax_K) (v0 : Nat) (v1 : Int32) (v2 : Int32) (v3 : Int32) (v4 : Int64) (v6 : Int32) (h : ax_H) : Option ax_R := ax_run K P_X2_reckon 128 [some (.ref v0), some (.int v1), some (.int v2), some (.int v3), some (.long v4), none, some (.int v6)] [] h
noncomputable def B_X2_reckon_140 (K : ax_K) (v0 : Nat) (v1 : Int32) (v2 : Int32) (v3 : Int32) (v4 : Int64) (v6 : Int32) (h : ax_H) : Option ax_R := ax_run K P_X2_reckon 140 [some (.ref v0), some (.int v1), some (.int v2), some (.int v3), some (.long v4), none, some (.int v6)] [] h
noncomputable def B_X2_reckon_152 (K : ax_K) (v0 : Nat) (v1 : Int32) (v2 : Int32) (v3 : Int32) (v4 : Int64) (h : ax_H) : Option ax_R := ax_run K P_X2_reckon 152 [some (.ref v0), some (.int v1), some (.int v2), some (.int v3), some (.long v4), none, none] [] h
noncomputable def B_X2_reckon_173 (K : ax_K) (v0 : Nat) (v1 : Int32) (v2 : Int32) (v4 : Int64) (v6 : Int32) (h : ax_H) : Option ax_R := ax_run K P_X2_reckon 173 [some (.ref v0), some (.int v1), some (.int v2), none, some (.long v4), none, some (.int v6)] [] h
noncomputable def B_X2_reckon_186 (K : ax_K) (s0 : Nat) (s1 : Int32) (s2 : Int32) (v0 : Nat) (v1 : Int32) (v2 : Int32) (v4 : Int64) (h : ax_H) : Option ax_R := ax_run K P_X2_reckon 186 [some (.ref v0), some (.int v1), some (.int v2), none, some (.long v4), none, none] [.int s2, .int s1, .ref s0] h
noncomputable def B_X2_reckon_204 (K : ax_K) (s0 : Nat) (s1 : Int32) (s2 : Int32) (v0 : Nat) (v1 : Int32) (v2 : Int32) (v4 : Int64) (h : ax_H) : Option ax_R := ax_run K P_X2_reckon 204 [some (.ref v0), some (.int v1), some (.int v2), none, some (.long v4), none, none] [.int s2, .int s1, .ref s0] h
theorem b_X2_reckon_56 {K : ax_K} {v0 : Nat} {v1 : Int32} {v2 : Int32} {v3 : Int32} {v4 : Int64} {h : ax_H}  : dx_le (dx_lt (v4 + (Int32.toInt64 v3)) fun j1 => if (lg_cmp j1 65535) ≤ 0 then B_X2_reckon_173 K v0 v1 v2 j1 0 h else B_X2_reckon_173 K v0 v1 v2 j1 1 h) (B_X2_reckon_56 K v0 v1 v2 v3 v4 h) := by
  show dx_le _ (ax_run K P_X2_reckon 56 [some (.ref v0), some (.int v1), some (.int v2), some (.int v3), some (.long v4), none, none] [] h)
  refine e_lload rfl rfl ?_
  refine e_iload rfl rfl ?_
  refine e_i2l rfl ?_
  refine e_l2 rfl ?_
  refine e_lstoreL (M := fun j1 => [some (.ref v0), some (.int v1), some (.int v2), some (.int v3), some (.long j1), none, none]) rfl (fun _ => dx_sto2 (Nat.le_of_ble_eq_true rfl) (Or.inr ⟨_, rfl, rfl⟩) rfl) fun j1 => ?_
  refine e_lload rfl rfl ?_
  refine e_push rfl ?_
  refine e_lcmp rfl ?_
  refine e_if1 rfl rfl ?_ ?_
  · refine e_push rfl ?_
    refine e_istore (L' := [some (.ref v0), some (.int v1), some (.int v2), some (.int v3), some (.long j1), none, some (.int 0)]) rfl (dx_sto (Nat.le_of_ble_eq_true rfl) (Or.inr ⟨_, rfl, rfl⟩) rfl) ?_
    refine e_goto rfl ?_
    exact e_wk mP_X2_reckon (ll_1 (ll_1 (ll_1 (ll_0 (ll_1 (ll_0 (ll_1 ll_n)))))))
  · refine e_push rfl ?_
    refine e_goto rfl ?_
    refine e_istore (L' := [some (.ref v0), some (.int v1), some (.int v2), some (.int v3), some (.long j1), none, some (.int 1)]) rfl (dx_sto (Nat.le_of_ble_eq_true rfl) (Or.inr ⟨_, rfl, rfl⟩) rfl) ?_
    refine e_goto rfl ?_
    exact e_wk mP_X2_reckon (ll_1 (ll_1 (ll_1 (ll_0 (ll_1 (ll_0 (ll_1 ll_n)))))))
theorem b_X2_reckon_82 {K : ax_K} {v0 : Nat} {v1 : Int32} {v2 : Int32} {v3 : Int32} {v4 : Int64} {h : ax_H}  : dx_le (dx_lt (v4 * (Int32.toInt64 v3)) fun j1 => if (lg_cmp j1 65535) ≤ 0 then B_X2_reckon_173 K v0 v1 v2 j1 0 h else B_X2_reckon_173 K v0 v1 v2 j1 1 h) (B_X2_reckon_82 K v0 v1 v2 v3 v4 h) := by
  show dx_le _ (ax_run K P_X2_reckon 82 [some (.ref v0), some (.int v1), some (.int v2), some (.int v3), some (.long v4), none, none] [] h)
  refine e_lload rfl rfl ?_
  refine e_iload rfl rfl ?_
  refine e_i2l rfl ?_
  refine e_l2 rfl ?_
  refine e_lstoreL (M := fun j1 => [some (.ref v0), some (.int v1), some (.int v2), some (.int v3), some (.long j1), none, none]) rfl (fun _ => dx_sto2 (Nat.le_of_ble_eq_true rfl) (Or.inr ⟨_, rfl, rfl⟩) rfl) fun j1 => ?_
  refine e_lload rfl rfl ?_
  refine e_push rfl ?_
  refine e_lcmp rfl ?_
  refine e_if1 rfl rfl ?_ ?_
  · refine e_push rfl ?_
    refine e_istore (L' := [some (.ref v0), some (.int v1), some (.int v2), some (.int v3), some (.long j1), none, some (.int 0)]) rfl (dx_sto (Nat.le_of_ble_eq_true rfl) (Or.inr ⟨_, rfl, rfl⟩) rfl) ?_
    refine e_goto rfl ?_
    exact e_wk mP_X2_reckon (ll_1 (ll_1 (ll_1 (ll_0 (ll_1 (ll_0 (ll_1 ll_n)))))))
  · refine e_push rfl ?_
    refine e_goto rfl ?_
    refine e_istore (L' := [some (.ref v0), some (.int v1), some (.int v2), some (.int v3), some (.long j1), none, some (.int 1)]) rfl (dx_sto (Nat.le_of_ble_eq_true rfl) (Or.inr ⟨_, rfl, rfl⟩) rfl) ?_
    refine e_goto rfl ?_
    exact e_wk mP_X2_reckon (ll_1 (ll_1 (ll_1 (ll_0 (ll_1 (ll_0 (ll_1 ll_n)))))))
theorem b_X2_reckon_128 {K : ax_K} {v0 : Nat} {v1 : Int32} {v2 : Int32} {v3 : Int32} {v4 : Int64} {v6 : Int32} {h : ax_H}  : dx_le (dx_lt (dx_lshl v4 (dx_rem v3 16)) fun j1 => B_X2_reckon_173 K v0 v1 v2 j1 v6 h) (B_X2_reckon_128 K v0 v1 v2 v3 v4 v6 h) := by
  show dx_le _ (ax_run K P_X2_reckon 128 [some (.ref v0), some (.int v1), some (.int v2), some (.int v3), some (.long v4), none, some (.int v6)] [] h)
  refine e_lload rfl rfl ?_
  refine e_iload rfl rfl ?_
  refine e_push rfl ?_
  refine e_rem rfl (by decide) ?_
  refine e_lshl rfl ?_
  refine e_lstoreL (M := fun j1 => [some (.ref v0), some (.int v1), some (.int v2), some (.int v3), some (.long j1), none, some (.int v6)]) rfl (fun _ => dx_sto2 (Nat.le_of_ble_eq_true rfl) (Or.inr ⟨_, rfl, rfl⟩) rfl) fun j1 => ?_
  refine e_goto rfl ?_
  exact e_wk mP_X2_reckon (ll_1 (ll_1 (ll_1 (ll_0 (ll_1 (ll_0 (ll_1 ll_n)))))))
theorem b_X2_reckon_140 {K : ax_K} {v0 : Nat} {v1 : Int32} {v2 : Int32} {v3 : Int32} {v4 : Int64} {v6 : Int32} {h : ax_H}  : dx_le (dx_lt (dx_lshr v4 (dx_rem v3 16)) fun j1 => B_X2_reckon_173 K v0 v1 v2 j1 v6 h) (B_X2_reckon_140 K v0 v1 v2 v3 v4 v6 h) := by
  show dx_le _ (ax_run K P_X2_reckon 140 [some (.ref v0), some (.int v1), some (.int v2), some (.int v3), some (.long v4), none, some (.int v6)] [] h)
  refine e_lload rfl rfl ?_
  refine e_iload rfl rfl ?_
  refine e_push rfl ?_
  refine e_rem rfl (by decide) ?_
  refine e_lshr rfl ?_
  refine e_lstoreL (M := fun j1 => [some (.ref v0), some (.int v1), some (.int v2), some (.int v3), some (.long j1), none, some (.int v6)]) rfl (fun _ => dx_sto2 (Nat.le_of_ble_eq_true rfl) (Or.inr ⟨_, rfl, rfl⟩) rfl) fun j1 => ?_
  refine e_goto rfl ?_
  exact e_wk mP_X2_reckon (ll_1 (ll_1 (ll_1 (ll_0 (ll_1 (ll_0 (ll_1 ll_n)))))))
theorem b_X2_reckon_152 {K : ax_K} {v0 : Nat} {v1 : Int32} {v2 : Int32} {v3 : Int32} {v4 : Int64} {h : ax_H}  : dx_le (dx_lt (v4 - (Int32.toInt64 v3)) fun j1 => if (0 : Int32) ≤ (lg_cmp j1 0) then B_X2_reckon_173 K v0 v1 v2 j1 0 h else B_X2_reckon_173 K v0 v1 v2 j1 1 h) (B_X2_reckon_152 K v0 v1 v2 v3 v4 h) := by
  show dx_le _ (ax_run K P_X2_reckon 152 [some (.ref v0), some (.int v1), some (.int v2), some (.int v3), some (.long v4), none, none] [] h)
  refine e_lload rfl rfl ?_
  refine e_iload rfl rfl ?_
  refine e_i2l rfl ?_
  refine e_l2 rfl ?_
  refine e_lstoreL (M := fun j1 => [some (.ref v0), some (.int v1), some (.int v2), some (.int v3), some (.long j1), none, none]) rfl (fun _ => dx_sto2 (Nat.le_of_ble_eq_true rfl) (Or.inr ⟨_, rfl, rfl⟩) rfl) fun j1 => ?_
  refine e_lload rfl rfl ?_
  refine e_push rfl ?_
  refine e_lcmp rfl ?_
  refine e_if1 rfl rfl ?_ ?_
  · refine e_push rfl ?_
    refine e_istore (L' := [some (.ref v0), some (.int v1), some (.int v2), some (.int v3), some (.long j1), none, some (.int 0)]) rfl (dx_sto (Nat.le_of_ble_eq_true rfl) (Or.inr ⟨_, rfl, rfl⟩) rfl) ?_
    exact e_wk mP_X2_reckon (ll_1 (ll_1 (ll_1 (ll_0 (ll_1 (ll_0 (ll_1 ll_n)))))))
  · refine e_push rfl ?_
    refine e_goto rfl ?_
    refine e_istore (L' := [some (.ref v0), some (.int v1), some (.int v2), some (.int v3), some (.long j1), none, some (.int 1)]) rfl (dx_sto (Nat.le_of_ble_eq_true rfl) (Or.inr ⟨_, rfl, rfl⟩) rfl) ?_
    exact e_wk mP_X2_reckon (ll_1 (ll_1 (ll_1 (ll_0 (ll_1 (ll_0 (ll_1 ll_n)))))))
theorem b_X2_reckon_173 {K : ax_K} {v0 : Nat} {v1 : Int32} {v2 : Int32} {v4 : Int64} {v6 : Int32} {h : ax_H}  : dx_le (if v6 = 0 then B_X2_reckon_186 K v0 6 0 v0 v1 v2 v4 h else B_X2_reckon_186 K v0 6 1 v0 v1 v2 v4 h) (B_X2_reckon_173 K v0 v1 v2 v4 v6 h) := by
  show dx_le _ (ax_run K P_X2_reckon 173 [some (.ref v0), some (.int v1), some (.int v2), none, some (.long v4), none, some (.int v6)] [] h)
  refine e_aload rfl rfl rfl ?_
  refine e_push rfl ?_
  refine e_iload rfl rfl ?_
  refine e_if1 rfl rfl ?_ ?_
  · refine e_push rfl ?_
    exact e_wk mP_X2_reckon (ll_1 (ll_1 (ll_1 (ll_0 (ll_1 (ll_0 (ll_0 ll_n)))))))
  · refine e_push rfl ?_
    refine e_goto rfl ?_
    exact e_wk mP_X2_reckon (ll_1 (ll_1 (ll_1 (ll_0 (ll_1 (ll_0 (ll_0 ll_n)))))))
theorem b_X2_reckon_186 {K : ax_K} {s0 : Nat} {s1 : Int32} {s2 : Int32} {v0 : Nat} {v1 : Int32} {v2 : Int32} {v4 : Int64} {h : ax_H}  : dx_le ((dx_vn [(29, 320)] (.ref s0) h).bind fun k => dx_cV (K k [.ref s0, .int s1, .int s2] h) (fun h1 => dx_cI (K 214 [.long v4] h1) (fun x3 h2 => if ¬ x3 = 0 then B_X2_reckon_204 K v0 5 0 v0 v1 v2 v4 h2 else B_X2_reckon_204 K v0 5 1 v0 v1 v2 v4 h2) dx_x0) dx_x0) (B_X2_reckon_186 K s0 s1 s2 v0 v1 v2 v4 h) := by
  show dx_le _ (ax_run K P_X2_reckon 186 [some (.ref v0), some (.int v1), some (.int v2), none, some (.long v4), none, none] [.int s2, .int s1, .ref s0] h)
  refine e_ivV rfl rfl rfl (Nat.le_of_ble_eq_true rfl) (fun _ _ => e_x0) fun h1 => ?_
  refine e_aload rfl rfl rfl ?_
  refine e_push rfl ?_
  refine e_lload rfl rfl ?_
  refine e_isI rfl (Nat.le_of_ble_eq_true rfl) rfl rfl (Nat.le_of_ble_eq_true rfl) (fun _ _ => e_x0) fun x3 h2 => ?_
  refine e_if1 rfl rfl ?_ ?_
  · refine e_push rfl ?_
    exact e_wk mP_X2_reckon (ll_1 (ll_1 (ll_1 (ll_0 (ll_1 (ll_0 (ll_0 ll_n)))))))
  · refine e_push rfl ?_
    refine e_goto rfl ?_
    exact e_wk mP_X2_reckon (ll_1 (ll_1 (ll_1 (ll_0 (ll_1 (ll_0 (ll_0 ll_n)))))))
theorem b_X2_reckon_204 {K : ax_K} {s0 : Nat} {s1 : Int32} {s2 : Int32} {v0 : Nat} {v1 : Int32} {v2 : Int32} {v4 : Int64} {h : ax_H}  : dx_le ((dx_vn [(29, 320)] (.ref s0) h).bind fun k => dx_cV (K k [.ref s0, .int s1, .int s2] h) (fun h1 => if v1 = 11 then some (.inl none, h1) else dx_cI (K 214 [.long v4] h1) (fun x3 h2 => (dx_vn [(29, 320)] (.ref v0) h2).bind fun k => dx_cV (K k [.ref v0, .int v2, .int x3] h2) (fun h4 => some (.inl none, h4)) dx_x0) dx_x0) dx_x0) (B_X2_reckon_204 K s0 s1 s2 v0 v1 v2 v4 h) := by
  show dx_le _ (ax_run K P_X2_reckon 204 [some (.ref v0), some (.int v1), some (.int v2), none, some (.long v4), none, none] [.int s2, .int s1, .ref s0] h)
  refine e_ivV rfl rfl rfl (Nat.le_of_ble_eq_true rfl) (fun _ _ => e_x0) fun h1 => ?_
  refine e_iload rfl rfl ?_
  refine e_push rfl ?_
  refine e_if2 rfl rfl ?_ ?_
  · exact e_ret rfl
  · refine e_aload rfl rfl rfl ?_
    refine e_iload rfl rfl ?_
    refine e_lload rfl rfl ?_
    refine e_isI rfl (Nat.le_of_ble_eq_true rfl) rfl rfl (Nat.le_of_ble_eq_true rfl) (fun _ _ => e_x0) fun x3 h2 => ?_
    refine e_ivV rfl rfl rfl (Nat.le_of_ble_eq_true rfl) (fun _ _ => e_x0) fun h4 => ?_
    exact e_ret rfl
theorem m_X2_reckon {d : Nat} {v0 : Nat} {v1 : Int32} {v2 : Int32} {v3 : Int32} {h : ax_H}  : dx_le ((dx_gA [(29, 0)] (.ref v0) h).bind fun r1 => (dx_lI 0 r1 v2 h).bind fun x2 => dx_lt (Int32.toInt64 x2) fun j3 => dx_tw (4) (10) v1 [B_X2_reckon_56 (ax_c d) v0 v1 v2 v3 j3 h, B_X2_reckon_152 (ax_c d) v0 v1 v2 v3 j3 h, B_X2_reckon_82 (ax_c d) v0 v1 v2 v3 j3 h, dx_lt (j3 &&& (Int32.toInt64 v3)) fun j4 => B_X2_reckon_173 (ax_c d) v0 v1 v2 j4 0 h, dx_lt (j3 ^^^ (Int32.toInt64 v3)) fun j5 => B_X2_reckon_173 (ax_c d) v0 v1 v2 j5 0 h, B_X2_reckon_128 (ax_c d) v0 v1 v2 v3 j3 0 h, B_X2_reckon_140 (ax_c d) v0 v1 v2 v3 j3 0 h] (B_X2_reckon_152 (ax_c d) v0 v1 v2 v3 j3 h)) (ax_c (d + 1) 328 [.ref v0, .int v1, .int v2, .int v3] h) := by
  refine e_entry (L' := [some (.ref v0), some (.int v1), some (.int v2), some (.int v3), none, none, none]) rfl (ag_A rfl (ag_I (ag_I (ag_I ag_n)))) (Nat.le_of_ble_eq_true rfl) rfl ?_
  refine e_aload rfl rfl rfl ?_
  refine e_getA rfl fun r1 hr1 => ?_
  refine e_iload rfl rfl ?_
  refine e_iald rfl fun x2 => ?_
  refine e_i2l rfl ?_
  refine e_lstoreL (M := fun j3 => [some (.ref v0), some (.int v1), some (.int v2), some (.int v3), some (.long j3), none, none]) rfl (fun _ => dx_sto2 (Nat.le_of_ble_eq_true rfl) (Or.inr ⟨_, rfl, rfl⟩) rfl) fun j3 => ?_
  refine e_push rfl ?_
  refine e_istore (L' := [some (.ref v0), some (.int v1), some (.int v2), some (.int v3), some (.long j3), none, some (.int 0)]) rfl (dx_sto (Nat.le_of_ble_eq_true rfl) (Or.inr ⟨_, rfl, rfl⟩) rfl) ?_
  refine e_iload rfl rfl ?_
  refine e_tsw rfl ?_ (fa_c ?_ (fa_c ?_ (fa_c ?_ (fa_c ?_ (fa_c ?_ (fa_c ?_ (fa_c ?_ fa_n)))))))
  · exact e_wk mP_X2_reckon (ll_1 (ll_1 (ll_1 (ll_1 (ll_1 (ll_0 (ll_0 ll_n)))))))
  · exact e_wk mP_X2_reckon (ll_1 (ll_1 (ll_1 (ll_1 (ll_1 (ll_0 (ll_0 ll_n)))))))
  · exact e_wk mP_X2_reckon (ll_1 (ll_1 (ll_1 (ll_1 (ll_1 (ll_0 (ll_0 ll_n)))))))
  · exact e_wk mP_X2_reckon (ll_1 (ll_1 (ll_1 (ll_1 (ll_1 (ll_0 (ll_0 ll_n)))))))
  · refine e_lload rfl rfl ?_
    refine e_iload rfl rfl ?_
    refine e_i2l rfl ?_
    refine e_l2 rfl ?_
    refine e_lstoreL (M := fun j4 => [some (.ref v0), some (.int v1), some (.int v2), some (.int v3), some (.long j4), none, some (.int 0)]) rfl (fun _ => dx_sto2 (Nat.le_of_ble_eq_true rfl) (Or.inr ⟨_, rfl, rfl⟩) rfl) fun j4 => ?_
    refine e_goto rfl ?_
    exact e_wk mP_X2_reckon (ll_1 (ll_1 (ll_1 (ll_0 (ll_1 (ll_0 (ll_1 ll_n)))))))
  · refine e_lload rfl rfl ?_
    refine e_iload rfl rfl ?_
    refine e_i2l rfl ?_
    refine e_l2 rfl ?_
    refine e_lstoreL (M := fun j5 => [some (.ref v0), some (.int v1), some (.int v2), some (.int v3), some (.long j5), none, some (.int 0)]) rfl (fun _ => dx_sto2 (Nat.le_of_ble_eq_true rfl) (Or.inr ⟨_, rfl, rfl⟩) rfl) fun j5 => ?_
    refine e_goto rfl ?_
    exact e_wk mP_X2_reckon (ll_1 (ll_1 (ll_1 (ll_0 (ll_1 (ll_0 (ll_1 ll_n)))))))
  · exact e_wk mP_X2_reckon (ll_1 (ll_1 (ll_1 (ll_1 (ll_1 (ll_0 (ll_1 ll_n)))))))
  · exact e_wk mP_X2_reckon (ll_1 (ll_1 (ll_1 (ll_1 (ll_1 (ll_0 (ll_1 ll_n)))))))
noncomputable def B_X2_move_88 (K : ax_K) (v0 : Nat) (v4 : Int32) (h : ax_H) : Option ax_R := ax_run K P_X2_move 88 [some (.ref v0), none, none, none, some (.int v4)] [] h
noncomputable def B_X2_move_108 (K : ax_K) (v0 : Nat) (v2 : Int32) (v3 : Int32) (v4 : Int32) (h : ax_H) : Option ax_R := ax_run K P_X2_move 108 [some (.ref v0), none, some (.int v2), some (.int v3), some (.int v4)] [] h
noncomputable def B_X2_move_125 (K : ax_K) (v0 : Nat) (v2 : Int32) (v3 : Int32) (v4 : Int32) (h : ax_H) : Option ax_R := ax_run K P_X2_move 125 [some (.ref v0), none, some (.int v2), some (.int v3), some (.int v4)] [] h
noncomputable def B_X2_move_144 (K : ax_K) (v0 : Nat) (v3 : Int32) (v4 : Int32) (h : ax_H) : Option ax_R := ax_run K P_X2_move 144 [some (.ref v0), none, none, some (.int v3), some (.int v4)] [] h
noncomputable def B_X2_move_161 (K : ax_K) (v0 : Nat) (v3 : Int32) (v4 : Int32) (h : ax_H) : Option ax_R := ax_run K P_X2_move 161 [some (.ref v0), none, none, some (.int v3), some (.int v4)] [] h
noncomputable def B_X2_move_179 (K : ax_K) (v0 : Nat) (v3 : Int32) (v4 : Int32) (h : ax_H) : Option ax_R := ax_run K P_X2_move 179 [some (.ref v0), none, none, some (.int v3), some (.int v4)] [] h
noncomputable def B_X2_move_202 (K : ax_K) (v0 : Nat) (v3 : Int32) (v4 : Int32) (h : ax_H) : Option ax_R := ax_run K P_X2_move 202 [some (.ref v0), none, none, some (.int v3), some (.int v4)] [] h
noncomputable def B_X2_move_215 (K : ax_K) (v0 : Nat) (v2 : Int32) (v4 : Int32) (h : ax_H) : Option ax_R := ax_run K P_X2_move 215 [some (.ref v0), none, some (.int v2), none, some (.int v4)] [] h
theorem b_X2_move_88 {K : ax_K} {v0 : Nat} {v4 : Int32} {h : ax_H}  : dx_le ((dx_vn [(29, 320)] (.ref v0) h).bind fun k => dx_cV (K k [.ref v0, .int 0, .int 2] h) (fun h1 => some (.inl (some (.int (v4 - 2))), h1)) dx_x0) (B_X2_move_88 K v0 v4 h) := by
  show dx_le _ (ax_run K P_X2_move 88 [some (.ref v0), none, none, none, some (.int v4)] [] h)
  refine e_aload rfl rfl rfl ?_
  refine e_push rfl ?_
  refine e_push rfl ?_
  refine e_ivV rfl rfl rfl (Nat.le_of_ble_eq_true rfl) (fun _ _ => e_x0) fun h1 => ?_
  refine e_iload rfl rfl ?_
  refine e_push rfl ?_
  refine e_i2 rfl ?_
  exact e_iret rfl
theorem b_X2_move_108 {K : ax_K} {v0 : Nat} {v2 : Int32} {v3 : Int32} {v4 : Int32} {h : ax_H}  : dx_le ((dx_gA [(29, 0)] (.ref v0) h).bind fun r1 => dx_cI (K 327 [.int v3] h) (fun x3 h2 => (dx_lI 0 r1 x3 h2).bind fun x4 => (dx_vn [(29, 320)] (.ref v0) h2).bind fun k => dx_cV (K k [.ref v0, .int v2, .int x4] h2) (fun h5 => some (.inl (some (.int v4)), h5)) dx_x0) dx_x0) (B_X2_move_108 K v0 v2 v3 v4 h) := by
  show dx_le _ (ax_run K P_X2_move 108 [some (.ref v0), none, some (.int v2), some (.int v3), some (.int v4)] [] h)
  refine e_aload rfl rfl rfl ?_
  refine e_iload rfl rfl ?_
  refine e_aload rfl rfl rfl ?_
  refine e_getA rfl fun r1 hr1 => ?_
  refine e_iload rfl rfl ?_
  refine e_isI rfl (Nat.le_of_ble_eq_true rfl) rfl rfl (Nat.le_of_ble_eq_true rfl) (fun _ _ => e_x0) fun x3 h2 => ?_
  refine e_iald rfl fun x4 => ?_
  refine e_ivV rfl rfl rfl (Nat.le_of_ble_eq_true rfl) (fun _ _ => e_x0) fun h5 => ?_
  refine e_iload rfl rfl ?_
  exact e_iret rfl
theorem b_X2_move_125 {K : ax_K} {v0 : Nat} {v2 : Int32} {v3 : Int32} {v4 : Int32} {h : ax_H}  : dx_le (dx_cI (K 327 [.int v3] h) (fun x2 h1 => (dx_gA [(29, 0)] (.ref v0) h1).bind fun r3 => (dx_lI 0 r3 v2 h1).bind fun x4 => (dx_vn [(29, 320)] (.ref v0) h1).bind fun k => dx_cV (K k [.ref v0, .int x2, .int x4] h1) (fun h5 => some (.inl (some (.int v4)), h5)) dx_x0) dx_x0) (B_X2_move_125 K v0 v2 v3 v4 h) := by
  show dx_le _ (ax_run K P_X2_move 125 [some (.ref v0), none, some (.int v2), some (.int v3), some (.int v4)] [] h)
  refine e_aload rfl rfl rfl ?_
  refine e_iload rfl rfl ?_
  refine e_isI rfl (Nat.le_of_ble_eq_true rfl) rfl rfl (Nat.le_of_ble_eq_true rfl) (fun _ _ => e_x0) fun x2 h1 => ?_
  refine e_aload rfl rfl rfl ?_
  refine e_getA rfl fun r3 hr3 => ?_
  refine e_iload rfl rfl ?_
  refine e_iald rfl fun x4 => ?_
  refine e_ivV rfl rfl rfl (Nat.le_of_ble_eq_true rfl) (fun _ _ => e_x0) fun h5 => ?_
  refine e_iload rfl rfl ?_
  exact e_iret rfl
theorem b_X2_move_144 {K : ax_K} {v0 : Nat} {v3 : Int32} {v4 : Int32} {h : ax_H}  : dx_le ((dx_gA [(29, 0)] (.ref v0) h).bind fun r1 => (dx_lI 0 r1 5 h).bind fun x2 => if ¬ x2 = 1 then some (.inl (some (.int v4)), h) else some (.inl (some (.int v3)), h)) (B_X2_move_144 K v0 v3 v4 h) := by
  show dx_le _ (ax_run K P_X2_move 144 [some (.ref v0), none, none, some (.int v3), some (.int v4)] [] h)
  refine e_aload rfl rfl rfl ?_
  refine e_getA rfl fun r1 hr1 => ?_
  refine e_push rfl ?_
  refine e_iald rfl fun x2 => ?_
  refine e_push rfl ?_
  refine e_if2 rfl rfl ?_ ?_
  · refine e_iload rfl rfl ?_
    exact e_iret rfl
  · refine e_iload rfl rfl ?_
    refine e_goto rfl ?_
    exact e_iret rfl
theorem b_X2_move_161 {K : ax_K} {v0 : Nat} {v3 : Int32} {v4 : Int32} {h : ax_H}  : dx_le ((dx_gA [(29, 0)] (.ref v0) h).bind fun r1 => (dx_lI 0 r1 6 h).bind fun x2 => if ¬ x2 = 1 then some (.inl (some (.int v4)), h) else some (.inl (some (.int v3)), h)) (B_X2_move_161 K v0 v3 v4 h) := by
  show dx_le _ (ax_run K P_X2_move 161 [some (.ref v0), none, none, some (.int v3), some (.int v4)] [] h)
  refine e_aload rfl rfl rfl ?_
  refine e_getA rfl fun r1 hr1 => ?_
  refine e_push rfl ?_
  refine e_iald rfl fun x2 => ?_
  refine e_push rfl ?_
  refine e_if2 rfl rfl ?_ ?_
  · refine e_iload rfl rfl ?_
    exact e_iret rfl
  · refine e_iload rfl rfl ?_
    refine e_goto rfl ?_
    exact e_iret rfl
theorem b_X2_move_179 {K : ax_K} {v0 : Nat} {v3 : Int32} {v4 : Int32} {h : ax_H}  : dx_le ((dx_vn [(29, 324)] (.ref v0) h).bind fun k => dx_cV (K k [.ref v0, .int 1] h) (fun h1 => (dx_vn [(29, 325)] (.ref v0) h1).bind fun k => dx_cV (K k [.ref v0, .int v4] h1) (fun h2 => some (.inl (some (.int v3)), h2)) dx_x0) dx_x0) (B_X2_move_179 K v0 v3 v4 h) := by
  show dx_le _ (ax_run K P_X2_move 179 [some (.ref v0), none, none, some (.int v3), some (.int v4)] [] h)
  refine e_aload rfl rfl rfl ?_
  refine e_push rfl ?_
  refine e_ivV rfl rfl rfl (Nat.le_of_ble_eq_true rfl) (fun _ _ => e_x0) fun h1 => ?_
  refine e_aload rfl rfl rfl ?_
  refine e_iload rfl rfl ?_
  refine e_ivV rfl rfl rfl (Nat.le_of_ble_eq_true rfl) (fun _ _ => e_x0) fun h2 => ?_
  refine e_iload rfl rfl ?_
  exact e_iret rfl
theorem b_X2_move_202 {K : ax_K} {v0 : Nat} {v3 : Int32} {v4 : Int32} {h : ax_H}  : dx_le ((dx_vn [(29, 324)] (.ref v0) h).bind fun k => dx_cV (K k [.ref v0, .int 1] h) (fun h1 => (dx_vn [(29, 325)] (.ref v0) h1).bind fun k => dx_cV (K k [.ref v0, .int v3] h1) (fun h2 => some (.inl (some (.int v4)), h2)) dx_x0) dx_x0) (B_X2_move_202 K v0 v3 v4 h) := by
  show dx_le _ (ax_run K P_X2_move 202 [some (.ref v0), none, none, some (.int v3), some (.int v4)] [] h)
  refine e_aload rfl rfl rfl ?_
  refine e_push rfl ?_
  refine e_ivV rfl rfl rfl (Nat.le_of_ble_eq_true rfl) (fun _ _ => e_x0) fun h1 => ?_
  refine e_aload rfl rfl rfl ?_
  refine e_iload rfl rfl ?_
  refine e_ivV rfl rfl rfl (Nat.le_of_ble_eq_true rfl) (fun _ _ => e_x0) fun h2 => ?_
  refine e_iload rfl rfl ?_
  exact e_iret rfl
theorem b_X2_move_215 {K : ax_K} {v0 : Nat} {v2 : Int32} {v4 : Int32} {h : ax_H}  : dx_le ((dx_vn [(29, 330)] (.ref v0) h).bind fun k => dx_cV (K k [.ref v0, .int 1] h) (fun h1 => (dx_vn [(29, 331)] (.ref v0) h1).bind fun k => dx_cI (K k [.ref v0] h1) (fun x3 h2 => (dx_vn [(29, 320)] (.ref v0) h2).bind fun k => dx_cV (K k [.ref v0, .int v2, .int x3] h2) (fun h4 => some (.inl (some (.int v4)), h4)) dx_x0) dx_x0) dx_x0) (B_X2_move_215 K v0 v2 v4 h) := by
  show dx_le _ (ax_run K P_X2_move 215 [some (.ref v0), none, some (.int v2), none, some (.int v4)] [] h)
  refine e_aload rfl rfl rfl ?_
  refine e_push rfl ?_
  refine e_ivV rfl rfl rfl (Nat.le_of_ble_eq_true rfl) (fun _ _ => e_x0) fun h1 => ?_
  refine e_aload rfl rfl rfl ?_
  refine e_iload rfl rfl ?_
  refine e_aload rfl rfl rfl ?_
  refine e_ivI rfl rfl rfl (Nat.le_of_ble_eq_true rfl) (fun _ _ => e_x0) fun x3 h2 => ?_
  refine e_ivV rfl rfl rfl (Nat.le_of_ble_eq_true rfl) (fun _ _ => e_x0) fun h4 => ?_
  refine e_iload rfl rfl ?_
  exact e_iret rfl
theorem m_X2_move {d : Nat} {v0 : Nat} {v1 : Int32} {v2 : Int32} {v3 : Int32} {v4 : Int32} {h : ax_H}  : dx_le (dx_tw (0) (17) v1 [B_X2_move_88 (ax_c d) v0 v4 h, (dx_vn [(29, 320)] (.ref v0) h).bind fun k => dx_cV ((ax_c d) k [.ref v0, .int v2, .int v3] h) (fun h1 => some (.inl (some (.int v4)), h1)) dx_x0, B_X2_move_108 (ax_c d) v0 v2 v3 v4 h, B_X2_move_125 (ax_c d) v0 v2 v3 v4 h, B_X2_move_215 (ax_c d) v0 v2 v4 h, B_X2_move_215 (ax_c d) v0 v2 v4 h, B_X2_move_215 (ax_c d) v0 v2 v4 h, B_X2_move_215 (ax_c d) v0 v2 v4 h, B_X2_move_215 (ax_c d) v0 v2 v4 h, B_X2_move_215 (ax_c d) v0 v2 v4 h, B_X2_move_215 (ax_c d) v0 v2 v4 h, B_X2_move_215 (ax_c d) v0 v2 v4 h, some (.inl (some (.int v3)), h), B_X2_move_144 (ax_c d) v0 v3 v4 h, B_X2_move_161 (ax_c d) v0 v3 v4 h, B_X2_move_179 (ax_c d) v0 v3 v4 h, (dx_vn [(29, 330)] (.ref v0) h).bind fun k => dx_cV ((ax_c d) k [.ref v0, .int 1] h) (fun h2 => (dx_vn [(29, 331)] (.ref v0) h2).bind fun k => dx_cI ((ax_c d) k [.ref v0] h2) (fun x4 h3 => some (.inl (some (.int x4)), h3)) dx_x0) dx_x0, B_X2_move_202 (ax_c d) v0 v3 v4 h] (B_X2_move_215 (ax_c d) v0 v2 v4 h)) (ax_c (d + 1) 329 [.ref v0, .int v1, .int v2, .int v3, .int v4] h) := by
  refine e_entry (L' := [some (.ref v0), some (.int v1), some (.int v2), some (.int v3), some (.int v4)]) rfl (ag_A rfl (ag_I (ag_I (ag_I (ag_I ag_n))))) (Nat.le_of_ble_eq_true rfl) rfl ?_
  refine e_iload rfl rfl ?_
  refine e_tsw rfl ?_ (fa_c ?_ (fa_c ?_ (fa_c ?_ (fa_c ?_ (fa_c ?_ (fa_c ?_ (fa_c ?_ (fa_c ?_ (fa_c ?_ (fa_c ?_ (fa_c ?_ (fa_c ?_ (fa_c ?_ (fa_c ?_ (fa_c ?_ (fa_c ?_ (fa_c ?_ (fa_c ?_ fa_n))))))))))))))))))
  · exact e_wk mP_X2_move (ll_1 (ll_0 (ll_1 (ll_0 (ll_1 ll_n)))))
  · exact e_wk mP_X2_move (ll_1 (ll_0 (ll_0 (ll_0 (ll_1 ll_n)))))
  · refine e_aload rfl rfl rfl ?_
    refine e_iload rfl rfl ?_
    refine e_iload rfl rfl ?_
    refine e_ivV rfl rfl rfl (Nat.le_of_ble_eq_true rfl) (fun _ _ => e_x0) fun h1 => ?_
    refine e_iload rfl rfl ?_
    exact e_iret rfl
  · exact e_wk mP_X2_move (ll_1 (ll_0 (ll_1 (ll_1 (ll_1 ll_n)))))
  · exact e_wk mP_X2_move (ll_1 (ll_0 (ll_1 (ll_1 (ll_1 ll_n)))))
  · exact e_wk mP_X2_move (ll_1 (ll_0 (ll_1 (ll_0 (ll_1 ll_n)))))
  · exact e_wk mP_X2_move (ll_1 (ll_0 (ll_1 (ll_0 (ll_1 ll_n)))))
  · exact e_wk mP_X2_move (ll_1 (ll_0 (ll_1 (ll_0 (ll_1 ll_n)))))
  · exact e_wk mP_X2_move (ll_1 (ll_0 (ll_1 (ll_0 (ll_1 ll_n)))))
  · exact e_wk mP_X2_move (ll_1 (ll_0 (ll_1 (ll_0 (ll_1 ll_n)))))
  · exact e_wk mP_X2_move (ll_1 (ll_0 (ll_1 (ll_0 (ll_1 ll_n)))))
  · exact e_wk mP_X2_move (ll_1 (ll_0 (ll_1 (ll_0 (ll_1 ll_n)))))
  · exact e_wk mP_X2_move (ll_1 (ll_0 (ll_1 (ll_0 (ll_1 ll_n)))))
  · refine e_iload rfl rfl ?_
    exact e_iret rfl
  · exact e_wk mP_X2_move (ll_1 (ll_0 (ll_0 (ll_1 (ll_1 ll_n)))))
  · exact e_wk mP_X2_move (ll_1 (ll_0 (ll_0 (ll_1 (ll_1 ll_n)))))
  · exact e_wk mP_X2_move (ll_1 (ll_0 (ll_0 (ll_1 (ll_1 ll_n)))))
  · refine e_aload rfl rfl rfl ?_
    refine e_push rfl ?_
    refine e_ivV rfl rfl rfl (Nat.le_of_ble_eq_true rfl) (fun _ _ => e_x0) fun h2 => ?_
    refine e_aload rfl rfl rfl ?_
    refine e_ivI rfl rfl rfl (Nat.le_of_ble_eq_true rfl) (fun _ _ => e_x0) fun x4 h3 => ?_
    exact e_iret rfl
  · exact e_wk mP_X2_move (ll_1 (ll_0 (ll_0 (ll_1 (ll_1 ll_n)))))
theorem m_X2_held {d : Nat} {v0 : Nat} {v1 : Int32} {h : ax_H}  : dx_le ((dx_gA [(29, 0)] (.ref v0) h).bind fun r1 => (dx_lI 0 r1 4 h).bind fun x2 => if (x2 + v1) ≤ 256 then some (.inl none, h) else dx_nw h (.inr (32, [.null])) 6 fun a4 h3 => (dx_gA [(29, 0)] (.ref v0) h3).bind fun r5 => (dx_lI 0 r5 4 h3).bind fun x6 => dx_cV ((ax_c d) 361 [.ref a4, .int x6] h3) (fun h7 => dx_ath hd_0 (.ref a4) h7 (fun _ _ => none)) dx_x0) (ax_c (d + 1) 330 [.ref v0, .int v1] h) := by
  refine e_entry (L' := [some (.ref v0), some (.int v1)]) rfl (ag_A rfl (ag_I ag_n)) (Nat.le_of_ble_eq_true rfl) rfl ?_
  refine e_aload rfl rfl rfl ?_
  refine e_getA rfl fun r1 hr1 => ?_
  refine e_push rfl ?_
  refine e_iald rfl fun x2 => ?_
  refine e_iload rfl rfl ?_
  refine e_i2 rfl ?_
  refine e_push rfl ?_
  refine e_if2 rfl rfl ?_ ?_
  · exact e_ret rfl
  · refine e_new rfl fun a4 h3 => ?_
    refine e_dup rfl rfl ?_
    refine e_aload rfl rfl rfl ?_
    refine e_getA rfl fun r5 hr5 => ?_
    refine e_push rfl ?_
    refine e_iald rfl fun x6 => ?_
    refine e_isprV rfl rfl rfl (Nat.le_of_ble_eq_true rfl) (fun _ _ => e_x0) fun h7 => ?_
    exact e_athrow rfl e_hn
theorem m_X2_pull {d : Nat} {v0 : Nat} {h : ax_H}  : dx_le ((dx_gA [(29, 0)] (.ref v0) h).bind fun r1 => (dx_gA [(29, 0)] (.ref v0) h).bind fun r2 => (dx_lI 0 r2 4 h).bind fun x3 => (dx_lI 0 r1 (108 + x3) h).bind fun x4 => (dx_gA [(29, 0)] (.ref v0) h).bind fun r5 => (dx_lI 0 r5 4 h).bind fun x6 => (dx_vn [(29, 320)] (.ref v0) h).bind fun k => dx_cV ((ax_c d) k [.ref v0, .int 4, .int (x6 + 1)] h) (fun h7 => some (.inl (some (.int x4)), h7)) dx_x0) (ax_c (d + 1) 331 [.ref v0] h) := by
  refine e_entry (L' := [some (.ref v0), none]) rfl (ag_A rfl ag_n) (Nat.le_of_ble_eq_true rfl) rfl ?_
  refine e_aload rfl rfl rfl ?_
  refine e_getA rfl fun r1 hr1 => ?_
  refine e_push rfl ?_
  refine e_aload rfl rfl rfl ?_
  refine e_getA rfl fun r2 hr2 => ?_
  refine e_push rfl ?_
  refine e_iald rfl fun x3 => ?_
  refine e_i2 rfl ?_
  refine e_iald rfl fun x4 => ?_
  refine e_istore (L' := [some (.ref v0), some (.int x4)]) rfl (dx_sto (Nat.le_of_ble_eq_true rfl) (Or.inr ⟨_, rfl, rfl⟩) rfl) ?_
  refine e_aload rfl rfl rfl ?_
  refine e_push rfl ?_
  refine e_aload rfl rfl rfl ?_
  refine e_getA rfl fun r5 hr5 => ?_
  refine e_push rfl ?_
  refine e_iald rfl fun x6 => ?_
  refine e_push rfl ?_
  refine e_i2 rfl ?_
  refine e_ivV rfl rfl rfl (Nat.le_of_ble_eq_true rfl) (fun _ _ => e_x0) fun h7 => ?_
  refine e_iload rfl rfl ?_
  exact e_iret rfl
