/-! printed by gen/emit82.py -/
set_option maxRecDepth 100000
theorem m_J0_init {d : Nat} {v0 : Nat} {h : ax_H}  : dx_le (dx_nn (.ref v0) (some (.inl none, h))) (ax_c (d + 1) 0 [.ref v0] h) := by
  refine e_entry (L' := [some (.ref v0)]) rfl (ag_A rfl ag_n) (Nat.le_of_ble_eq_true rfl) rfl ?_
  refine e_aload rfl rfl rfl ?_
  refine e_oin rfl (Nat.le_of_ble_eq_true rfl) ?_
  exact e_ret rfl
theorem m_J1_init {d : Nat} {v0 : Nat} {h : ax_H}  : dx_le (dx_cV ((ax_c d) 0 [.ref v0] h) (fun h1 => (dx_pF [(4, 0), (15, 0)] (.int) (.ref v0) (.int 0) h1).bind fun h2 => some (.inl none, h2)) dx_x0) (ax_c (d + 1) 1 [.ref v0] h) := by
  refine e_entry (L' := [some (.ref v0)]) rfl (ag_A rfl ag_n) (Nat.le_of_ble_eq_true rfl) rfl ?_
  refine e_aload rfl rfl rfl ?_
  refine e_isprV rfl rfl rfl (Nat.le_of_ble_eq_true rfl) (fun _ _ => e_x0) fun h1 => ?_
  refine e_aload rfl rfl rfl ?_
  refine e_push rfl ?_
  refine e_putf rfl fun h2 => ?_
  exact e_ret rfl
theorem m_J10_init {d : Nat} {v0 : Nat} {v1 : Value} {h : ax_H} (hv1 : ax_rv v1 = true) : dx_le (dx_cV ((ax_c d) 172 [.ref v0, v1] h) (fun h1 => some (.inl none, h1)) dx_x0) (ax_c (d + 1) 3 [.ref v0, v1] h) := by
  refine e_entry (L' := [some (.ref v0), some (v1)]) rfl (ag_A rfl (ag_A hv1 ag_n)) (Nat.le_of_ble_eq_true rfl) rfl ?_
  refine e_aload rfl rfl rfl ?_
  refine e_aload rfl rfl hv1 ?_
  refine e_isprV rfl rfl rfl (Nat.le_of_ble_eq_true rfl) (fun _ _ => e_x0) fun h1 => ?_
  exact e_ret rfl
theorem m_J10_init_2 {d : Nat} {v0 : Nat} {v1 : Value} {v2 : Value} {h : ax_H} (hv1 : ax_rv v1 = true) (hv2 : ax_rv v2 = true) : dx_le (dx_cV ((ax_c d) 175 [.ref v0, v1, v2] h) (fun h1 => some (.inl none, h1)) dx_x0) (ax_c (d + 1) 4 [.ref v0, v1, v2] h) := by
  refine e_entry (L' := [some (.ref v0), some (v1), some (v2)]) rfl (ag_A rfl (ag_A hv1 (ag_A hv2 ag_n))) (Nat.le_of_ble_eq_true rfl) rfl ?_
  refine e_aload rfl rfl rfl ?_
  refine e_aload rfl rfl hv1 ?_
  refine e_aload rfl rfl hv2 ?_
  refine e_isprV rfl rfl rfl (Nat.le_of_ble_eq_true rfl) (fun _ _ => e_x0) fun h1 => ?_
  exact e_ret rfl
theorem m_J11_newLength {d : Nat} {v0 : Int32} {v1 : Int32} {v2 : Int32} {h : ax_H}  : dx_le (dx_lt (v0 + (dx_max v1 v2)) fun x1 => if x1 ≤ 0 then none else if (2147483639 : Int32) < x1 then none else some (.inl (some (.int x1)), h)) (ax_c (d + 1) 5 [.int v0, .int v1, .int v2] h) := by
  refine e_entry (L' := [some (.int v0), some (.int v1), some (.int v2), none]) rfl (ag_I (ag_I (ag_I ag_n))) (Nat.le_of_ble_eq_true rfl) rfl ?_
  refine e_iload rfl rfl ?_
  refine e_iload rfl rfl ?_
  refine e_iload rfl rfl ?_
  refine e_max rfl (Nat.le_of_ble_eq_true rfl) ?_
  refine e_i2 rfl ?_
  refine e_istoreL (M := fun x1 => [some (.int v0), some (.int v1), some (.int v2), some (.int x1)]) rfl (fun _ => dx_sto (Nat.le_of_ble_eq_true rfl) (Or.inr ⟨_, rfl, rfl⟩) rfl) fun x1 => ?_
  refine e_push rfl ?_
  refine e_iload rfl rfl ?_
  refine e_if2 rfl rfl ?_ ?_
  · refine e_iload rfl rfl ?_
    refine e_iload rfl rfl ?_
    exact dx_none _
  · refine e_iload rfl rfl ?_
    refine e_push rfl ?_
    refine e_if2 rfl rfl ?_ ?_
    · refine e_iload rfl rfl ?_
      refine e_iload rfl rfl ?_
      exact dx_none _
    · refine e_iload rfl rfl ?_
      exact e_iret rfl
theorem m_J13_copyOf {d : Nat} {v0 : Value} {v1 : Int32} {h : ax_H} (hv0 : ax_rv v0 = true) : dx_le ((dx_len v0 h).bind fun x1 => if ¬ v1 = x1 then dx_na 3 0 v1 h fun a3 h2 => (dx_len v0 h2).bind fun x4 => (dx_acp v0 0 (.ref a3) 0 (dx_min x4 v1) h2).bind fun h5 => some (.inl (some (.ref a3)), h5) else dx_cln 3 v0 h fun a7 h6 => dx_cA 3 (.ref a7) h6 (some (.inl (some (.ref a7)), h6))) (ax_c (d + 1) 9 [v0, .int v1] h) := by
  refine e_entry (L' := [some (v0), some (.int v1), none]) rfl (ag_A hv0 (ag_I ag_n)) (Nat.le_of_ble_eq_true rfl) rfl ?_
  refine e_iload rfl rfl ?_
  refine e_aload rfl rfl hv0 ?_
  refine e_alen rfl fun x1 => ?_
  refine e_if2 rfl rfl ?_ ?_
  · refine e_iload rfl rfl ?_
    refine e_newa rfl fun a3 h2 => ?_
    refine e_astore (L' := [some (v0), some (.int v1), some (.ref a3)]) rfl rfl (dx_sto (Nat.le_of_ble_eq_true rfl) (Or.inr ⟨_, rfl, rfl⟩) rfl) ?_
    refine e_aload rfl rfl hv0 ?_
    refine e_push rfl ?_
    refine e_aload rfl rfl rfl ?_
    refine e_push rfl ?_
    refine e_aload rfl rfl hv0 ?_
    refine e_alen rfl fun x4 => ?_
    refine e_iload rfl rfl ?_
    refine e_min rfl (Nat.le_of_ble_eq_true rfl) ?_
    refine e_acp rfl (Nat.le_of_ble_eq_true rfl) fun h5 => ?_
    refine e_aload rfl rfl rfl ?_
    exact e_aret rfl rfl
  · refine e_aload rfl rfl hv0 ?_
    refine e_cln rfl (Nat.le_of_ble_eq_true rfl) fun a7 h6 => ?_
    refine e_castA rfl ?_
    exact e_aret rfl rfl
theorem m_J13_copyOfRange {d : Nat} {v0 : Value} {v1 : Int32} {v2 : Int32} {h : ax_H} (hv0 : ax_rv v0 = true) : dx_le (if ¬ v1 = 0 then dx_cR ((ax_c d) 11 [v0, .int v1, .int v2] h) (fun r2 h1 => some (.inl (some (r2)), h1)) dx_x0 else (dx_len v0 h).bind fun x3 => if v2 = x3 then dx_cln 3 v0 h fun a5 h4 => dx_cA 3 (.ref a5) h4 (some (.inl (some (.ref a5)), h4)) else dx_cR ((ax_c d) 11 [v0, .int v1, .int v2] h) (fun r7 h6 => some (.inl (some (r7)), h6)) dx_x0) (ax_c (d + 1) 10 [v0, .int v1, .int v2] h) := by
  refine e_entry (L' := [some (v0), some (.int v1), some (.int v2)]) rfl (ag_A hv0 (ag_I (ag_I ag_n))) (Nat.le_of_ble_eq_true rfl) rfl ?_
  refine e_iload rfl rfl ?_
  refine e_if1 rfl rfl ?_ ?_
  · refine e_aload rfl rfl hv0 ?_
    refine e_iload rfl rfl ?_
    refine e_iload rfl rfl ?_
    refine e_isR rfl (Nat.le_of_ble_eq_true rfl) rfl rfl (Nat.le_of_ble_eq_true rfl) (fun _ _ => e_x0) fun r2 h1 hr2 => ?_
    exact e_aret rfl hr2
  · refine e_iload rfl rfl ?_
    refine e_aload rfl rfl hv0 ?_
    refine e_alen rfl fun x3 => ?_
    refine e_if2 rfl rfl ?_ ?_
    · refine e_aload rfl rfl hv0 ?_
      refine e_cln rfl (Nat.le_of_ble_eq_true rfl) fun a5 h4 => ?_
      refine e_castA rfl ?_
      exact e_aret rfl rfl
    · refine e_aload rfl rfl hv0 ?_
      refine e_iload rfl rfl ?_
      refine e_iload rfl rfl ?_
      refine e_isR rfl (Nat.le_of_ble_eq_true rfl) rfl rfl (Nat.le_of_ble_eq_true rfl) (fun _ _ => e_x0) fun r7 h6 hr7 => ?_
      exact e_aret rfl hr7
theorem m_J13_copyOfRangeByte {d : Nat} {v0 : Value} {v1 : Int32} {v2 : Int32} {h : ax_H} (hv0 : ax_rv v0 = true) : dx_le (dx_cV ((ax_c d) 12 [.int v1, .int v2] h) (fun h1 => dx_lt (v2 - v1) fun x2 => dx_na 3 0 x2 h1 fun a4 h3 => (dx_len v0 h3).bind fun x5 => (dx_acp v0 v1 (.ref a4) 0 (dx_min (x5 - v1) x2) h3).bind fun h6 => some (.inl (some (.ref a4)), h6)) dx_x0) (ax_c (d + 1) 11 [v0, .int v1, .int v2] h) := by
  refine e_entry (L' := [some (v0), some (.int v1), some (.int v2), none, none]) rfl (ag_A hv0 (ag_I (ag_I ag_n))) (Nat.le_of_ble_eq_true rfl) rfl ?_
  refine e_iload rfl rfl ?_
  refine e_iload rfl rfl ?_
  refine e_isV rfl (Nat.le_of_ble_eq_true rfl) rfl rfl (Nat.le_of_ble_eq_true rfl) (fun _ _ => e_x0) fun h1 => ?_
  refine e_iload rfl rfl ?_
  refine e_iload rfl rfl ?_
  refine e_i2 rfl ?_
  refine e_istoreL (M := fun x2 => [some (v0), some (.int v1), some (.int v2), some (.int x2), none]) rfl (fun _ => dx_sto (Nat.le_of_ble_eq_true rfl) (Or.inr ⟨_, rfl, rfl⟩) rfl) fun x2 => ?_
  refine e_iload rfl rfl ?_
  refine e_newa rfl fun a4 h3 => ?_
  refine e_astore (L' := [some (v0), some (.int v1), some (.int v2), some (.int x2), some (.ref a4)]) rfl rfl (dx_sto (Nat.le_of_ble_eq_true rfl) (Or.inr ⟨_, rfl, rfl⟩) rfl) ?_
  refine e_aload rfl rfl hv0 ?_
  refine e_iload rfl rfl ?_
  refine e_aload rfl rfl rfl ?_
  refine e_push rfl ?_
  refine e_aload rfl rfl hv0 ?_
  refine e_alen rfl fun x5 => ?_
  refine e_iload rfl rfl ?_
  refine e_i2 rfl ?_
  refine e_iload rfl rfl ?_
  refine e_min rfl (Nat.le_of_ble_eq_true rfl) ?_
  refine e_acp rfl (Nat.le_of_ble_eq_true rfl) fun h6 => ?_
  refine e_aload rfl rfl rfl ?_
  exact e_aret rfl rfl
theorem m_J13_checkLength {d : Nat} {v0 : Int32} {v1 : Int32} {h : ax_H}  : dx_le (if v0 ≤ v1 then some (.inl none, h) else dx_nw h (.inr (18, [])) 6 fun a2 h1 => dx_nw h1 (.inr (2, [.null, .int 0, .int 0, .int 0])) 4 fun a4 h3 => dx_cV ((ax_c d) 29 [.ref a4] h3) (fun h5 => (dx_vn [(2, 31)] (.ref a4) h5).bind fun k => dx_cR ((ax_c d) k [.ref a4, .int v0] h5) (fun r7 h6 => none) dx_x0) dx_x0) (ax_c (d + 1) 12 [.int v0, .int v1] h) := by
  refine e_entry (L' := [some (.int v0), some (.int v1)]) rfl (ag_I (ag_I ag_n)) (Nat.le_of_ble_eq_true rfl) rfl ?_
  refine e_iload rfl rfl ?_
  refine e_iload rfl rfl ?_
  refine e_if2 rfl rfl ?_ ?_
  · exact e_ret rfl
  · refine e_new rfl fun a2 h1 => ?_
    refine e_dup rfl rfl ?_
    refine e_new rfl fun a4 h3 => ?_
    refine e_dup rfl rfl ?_
    refine e_isprV rfl rfl rfl (Nat.le_of_ble_eq_true rfl) (fun _ _ => e_x0) fun h5 => ?_
    refine e_iload rfl rfl ?_
    refine e_ivR rfl rfl rfl (Nat.le_of_ble_eq_true rfl) (fun _ _ => e_x0) fun r7 h6 hr7 => ?_
    exact dx_none _
theorem m_J13_copyOf_2 {d : Nat} {v0 : Value} {v1 : Int32} {h : ax_H} (hv0 : ax_rv v0 = true) : dx_le (dx_gcl v0 h (dx_cR ((ax_c d) 14 [v0, .int v1, .ref 6] h) (fun r2 h1 => some (.inl (some (r2)), h1)) dx_x0)) (ax_c (d + 1) 13 [v0, .int v1] h) := by
  refine e_entry (L' := [some (v0), some (.int v1)]) rfl (ag_A hv0 (ag_I ag_n)) (Nat.le_of_ble_eq_true rfl) rfl ?_
  refine e_aload rfl rfl hv0 ?_
  refine e_iload rfl rfl ?_
  refine e_aload rfl rfl hv0 ?_
  refine e_gcl rfl (Nat.le_of_ble_eq_true rfl) ?_
  refine e_isR rfl (Nat.le_of_ble_eq_true rfl) rfl rfl (Nat.le_of_ble_eq_true rfl) (fun _ _ => e_x0) fun r2 h1 hr2 => ?_
  exact e_aret rfl hr2
theorem m_J13_copyOf_3 {d : Nat} {v0 : Value} {v1 : Int32} {v2 : Value} {h : ax_H} (hv0 : ax_rv v0 = true) (hv2 : ax_rv v2 = true) : dx_le (dx_eq v2 (.ref 6) (dx_na 4 2 v1 h fun a2 h1 => (dx_len v0 h1).bind fun x3 => (dx_acp v0 0 (.ref a2) 0 (dx_min x3 v1) h1).bind fun h4 => some (.inl (some (.ref a2)), h4)) (none)) (ax_c (d + 1) 14 [v0, .int v1, v2] h) := by
  refine e_entry (L' := [some (v0), some (.int v1), some (v2), none]) rfl (ag_A hv0 (ag_I (ag_A hv2 ag_n))) (Nat.le_of_ble_eq_true rfl) rfl ?_
  refine e_aload rfl rfl hv2 ?_
  refine e_push rfl ?_
  refine e_acmp rfl ?_ ?_
  · refine e_iload rfl rfl ?_
    refine e_newa rfl fun a2 h1 => ?_
    refine e_goto rfl ?_
    refine e_astore (L' := [some (v0), some (.int v1), some (v2), some (.ref a2)]) rfl rfl (dx_sto (Nat.le_of_ble_eq_true rfl) (Or.inr ⟨_, rfl, dx_nl hv2⟩) rfl) ?_
    refine e_aload rfl rfl hv0 ?_
    refine e_push rfl ?_
    refine e_aload rfl rfl rfl ?_
    refine e_push rfl ?_
    refine e_aload rfl rfl hv0 ?_
    refine e_alen rfl fun x3 => ?_
    refine e_iload rfl rfl ?_
    refine e_min rfl (Nat.le_of_ble_eq_true rfl) ?_
    refine e_acp rfl (Nat.le_of_ble_eq_true rfl) fun h4 => ?_
    refine e_aload rfl rfl rfl ?_
    exact e_aret rfl rfl
  · refine e_aload rfl rfl hv2 ?_
    exact dx_none _
theorem m_J13_copyOf_4 {d : Nat} {v0 : Value} {v1 : Int32} {h : ax_H} (hv0 : ax_rv v0 = true) : dx_le ((dx_len v0 h).bind fun x1 => if ¬ v1 = x1 then dx_na 1 1 v1 h fun a3 h2 => (dx_len v0 h2).bind fun x4 => (dx_acp v0 0 (.ref a3) 0 (dx_min x4 v1) h2).bind fun h5 => some (.inl (some (.ref a3)), h5) else dx_cln 1 v0 h fun a7 h6 => dx_cA 1 (.ref a7) h6 (some (.inl (some (.ref a7)), h6))) (ax_c (d + 1) 15 [v0, .int v1] h) := by
  refine e_entry (L' := [some (v0), some (.int v1), none]) rfl (ag_A hv0 (ag_I ag_n)) (Nat.le_of_ble_eq_true rfl) rfl ?_
  refine e_iload rfl rfl ?_
  refine e_aload rfl rfl hv0 ?_
  refine e_alen rfl fun x1 => ?_
  refine e_if2 rfl rfl ?_ ?_
  · refine e_iload rfl rfl ?_
    refine e_newa rfl fun a3 h2 => ?_
    refine e_astore (L' := [some (v0), some (.int v1), some (.ref a3)]) rfl rfl (dx_sto (Nat.le_of_ble_eq_true rfl) (Or.inr ⟨_, rfl, rfl⟩) rfl) ?_
    refine e_aload rfl rfl hv0 ?_
    refine e_push rfl ?_
    refine e_aload rfl rfl rfl ?_
    refine e_push rfl ?_
    refine e_aload rfl rfl hv0 ?_
    refine e_alen rfl fun x4 => ?_
    refine e_iload rfl rfl ?_
    refine e_min rfl (Nat.le_of_ble_eq_true rfl) ?_
    refine e_acp rfl (Nat.le_of_ble_eq_true rfl) fun h5 => ?_
    refine e_aload rfl rfl rfl ?_
    exact e_aret rfl rfl
  · refine e_aload rfl rfl hv0 ?_
    refine e_cln rfl (Nat.le_of_ble_eq_true rfl) fun a7 h6 => ?_
    refine e_castA rfl ?_
    exact e_aret rfl rfl
theorem m_J14_init {d : Nat} {v0 : Nat} {v1 : Value} {v2 : Value} {v3 : Value} {h : ax_H} (hv1 : ax_rv v1 = true) (hv2 : ax_rv v2 = true) (hv3 : ax_rv v3 = true) : dx_le (dx_nn (.ref v0) ((dx_pF [(1, 0)] (.object "java/lang/Object") (.ref v0) v2 h).bind fun h1 => (dx_pF [(1, 1)] (.object "java/util/LinkedList$Node") (.ref v0) v3 h1).bind fun h2 => (dx_pF [(1, 2)] (.object "java/util/LinkedList$Node") (.ref v0) v1 h2).bind fun h3 => some (.inl none, h3))) (ax_c (d + 1) 16 [.ref v0, v1, v2, v3] h) := by
  refine e_entry (L' := [some (.ref v0), some (v1), some (v2), some (v3)]) rfl (ag_A rfl (ag_A hv1 (ag_A hv2 (ag_A hv3 ag_n)))) (Nat.le_of_ble_eq_true rfl) rfl ?_
  refine e_aload rfl rfl rfl ?_
  refine e_oin rfl (Nat.le_of_ble_eq_true rfl) ?_
  refine e_aload rfl rfl rfl ?_
  refine e_aload rfl rfl hv2 ?_
  refine e_putf rfl fun h1 => ?_
  refine e_aload rfl rfl rfl ?_
  refine e_aload rfl rfl hv3 ?_
  refine e_putf rfl fun h2 => ?_
  refine e_aload rfl rfl rfl ?_
  refine e_aload rfl rfl hv1 ?_
  refine e_putf rfl fun h3 => ?_
  exact e_ret rfl
theorem m_J15_init {d : Nat} {v0 : Nat} {v1 : Int32} {h : ax_H}  : dx_le (dx_nn (.ref v0) (if (1 : Int32) = 0 then none else dx_na 3 0 v1 h fun a2 h1 => (dx_pF [(2, 0)] (.array (.byte)) (.ref v0) (.ref a2) h1).bind fun h3 => (dx_pF [(2, 1)] (.byte) (.ref v0) (.int 0) h3).bind fun h4 => some (.inl none, h4))) (ax_c (d + 1) 17 [.ref v0, .int v1] h) := by
  refine e_entry (L' := [some (.ref v0), some (.int v1)]) rfl (ag_A rfl (ag_I ag_n)) (Nat.le_of_ble_eq_true rfl) rfl ?_
  refine e_aload rfl rfl rfl ?_
  refine e_oin rfl (Nat.le_of_ble_eq_true rfl) ?_
  refine e_push rfl ?_
  refine e_if1 rfl rfl ?_ ?_
  · refine e_aload rfl rfl rfl ?_
    refine e_iload rfl rfl ?_
    exact dx_none _
  · refine e_aload rfl rfl rfl ?_
    refine e_iload rfl rfl ?_
    refine e_newa rfl fun a2 h1 => ?_
    refine e_putf rfl fun h3 => ?_
    refine e_aload rfl rfl rfl ?_
    refine e_push rfl ?_
    refine e_putf rfl fun h4 => ?_
    refine e_goto rfl ?_
    exact e_ret rfl
theorem m_J15_append {d : Nat} {v0 : Nat} {v1 : Value} {h : ax_H} (hv1 : ax_rv v1 = true) : dx_le (dx_nul v1 (none) ((dx_vn [(3, 35)] v1 h).bind fun k => dx_cI ((ax_c d) k [v1] h) (fun x2 h1 => (dx_gI [(2, 3)] (.ref v0) h1).bind fun x3 => (dx_vn [(2, 20)] (.ref v0) h1).bind fun k => dx_cV ((ax_c d) k [.ref v0, .int (x3 + x2)] h1) (fun h4 => (dx_gI [(2, 3)] (.ref v0) h4).bind fun x5 => (dx_vn [(2, 23)] (.ref v0) h4).bind fun k => dx_cV ((ax_c d) k [.ref v0, .int x5, v1] h4) (fun h6 => (dx_gI [(2, 3)] (.ref v0) h6).bind fun x7 => (dx_pF [(2, 3)] (.int) (.ref v0) (.int (x7 + x2)) h6).bind fun h8 => some (.inl (some (.ref v0)), h8)) dx_x0) dx_x0) dx_x0)) (ax_c (d + 1) 18 [.ref v0, v1] h) := by
  refine e_entry (L' := [some (.ref v0), some (v1), none]) rfl (ag_A rfl (ag_A hv1 ag_n)) (Nat.le_of_ble_eq_true rfl) rfl ?_
  refine e_aload rfl rfl hv1 ?_
  refine e_null rfl ?_ ?_
  · refine e_aload rfl rfl rfl ?_
    exact dx_none _
  · refine e_aload rfl rfl hv1 ?_
    refine e_ivI rfl rfl rfl (Nat.le_of_ble_eq_true rfl) (fun _ _ => e_x0) fun x2 h1 => ?_
    refine e_istore (L' := [some (.ref v0), some (v1), some (.int x2)]) rfl (dx_sto (Nat.le_of_ble_eq_true rfl) (Or.inr ⟨_, rfl, dx_nl hv1⟩) rfl) ?_
    refine e_aload rfl rfl rfl ?_
    refine e_aload rfl rfl rfl ?_
    refine e_getI rfl fun x3 => ?_
    refine e_iload rfl rfl ?_
    refine e_i2 rfl ?_
    refine e_ivV rfl rfl rfl (Nat.le_of_ble_eq_true rfl) (fun _ _ => e_x0) fun h4 => ?_
    refine e_aload rfl rfl rfl ?_
    refine e_aload rfl rfl rfl ?_
    refine e_getI rfl fun x5 => ?_
    refine e_aload rfl rfl hv1 ?_
    refine e_ivV rfl rfl rfl (Nat.le_of_ble_eq_true rfl) (fun _ _ => e_x0) fun h6 => ?_
    refine e_aload rfl rfl rfl ?_
    refine e_dup rfl rfl ?_
    refine e_getI rfl fun x7 => ?_
    refine e_iload rfl rfl ?_
    refine e_i2 rfl ?_
    refine e_putf rfl fun h8 => ?_
    refine e_aload rfl rfl rfl ?_
    exact e_aret rfl rfl
theorem m_J15_ensureCapacityInternal {d : Nat} {v0 : Nat} {v1 : Int32} {h : ax_H}  : dx_le ((dx_gA [(2, 0)] (.ref v0) h).bind fun r1 => (dx_len r1 h).bind fun x2 => (dx_gI [(2, 1)] (.ref v0) h).bind fun x3 => dx_lt (dx_shr x2 x3) fun x4 => if (v1 - x4) ≤ 0 then some (.inl none, h) else (dx_gA [(2, 0)] (.ref v0) h).bind fun r5 => (dx_vn [(2, 21)] (.ref v0) h).bind fun k => dx_cI ((ax_c d) k [.ref v0, .int v1] h) (fun x7 h6 => (dx_gI [(2, 1)] (.ref v0) h6).bind fun x8 => dx_cR ((ax_c d) 9 [r5, .int (dx_shl x7 x8)] h6) (fun r10 h9 => (dx_pF [(2, 0)] (.array (.byte)) (.ref v0) r10 h9).bind fun h11 => some (.inl none, h11)) dx_x0) dx_x0) (ax_c (d + 1) 20 [.ref v0, .int v1] h) := by
  refine e_entry (L' := [some (.ref v0), some (.int v1), none]) rfl (ag_A rfl (ag_I ag_n)) (Nat.le_of_ble_eq_true rfl) rfl ?_
  refine e_aload rfl rfl rfl ?_
  refine e_getA rfl fun r1 hr1 => ?_
  refine e_alen rfl fun x2 => ?_
  refine e_aload rfl rfl rfl ?_
  refine e_getI rfl fun x3 => ?_
  refine e_shr rfl ?_
  refine e_istoreL (M := fun x4 => [some (.ref v0), some (.int v1), some (.int x4)]) rfl (fun _ => dx_sto (Nat.le_of_ble_eq_true rfl) (Or.inr ⟨_, rfl, rfl⟩) rfl) fun x4 => ?_
  refine e_iload rfl rfl ?_
  refine e_iload rfl rfl ?_
  refine e_i2 rfl ?_
  refine e_if1 rfl rfl ?_ ?_
  · exact e_ret rfl
  · refine e_aload rfl rfl rfl ?_
    refine e_aload rfl rfl rfl ?_
    refine e_getA rfl fun r5 hr5 => ?_
    refine e_aload rfl rfl rfl ?_
    refine e_iload rfl rfl ?_
    refine e_ivI rfl rfl rfl (Nat.le_of_ble_eq_true rfl) (fun _ _ => e_x0) fun x7 h6 => ?_
    refine e_aload rfl rfl rfl ?_
    refine e_getI rfl fun x8 => ?_
    refine e_shl rfl ?_
    refine e_isR rfl (Nat.le_of_ble_eq_true rfl) rfl rfl (Nat.le_of_ble_eq_true rfl) (fun _ _ => e_x0) fun r10 h9 hr10 => ?_
    refine e_putf rfl fun h11 => ?_
    exact e_ret rfl
theorem m_J15_newCapacity {d : Nat} {v0 : Nat} {v1 : Int32} {h : ax_H}  : dx_le ((dx_gA [(2, 0)] (.ref v0) h).bind fun r1 => (dx_len r1 h).bind fun x2 => (dx_gI [(2, 1)] (.ref v0) h).bind fun x3 => dx_lt (dx_shl v1 x3) fun x4 => dx_lt (x4 - x2) fun x5 => (dx_gI [(2, 1)] (.ref v0) h).bind fun x6 => dx_cI ((ax_c d) 5 [.int x2, .int x5, .int (x2 + (dx_shl 2 x6))] h) (fun x8 h7 => if ¬ x8 = 2147483647 then (dx_gI [(2, 1)] (.ref v0) h7).bind fun x9 => some (.inl (some (.int (dx_shr x8 x9))), h7) else none) dx_x0) (ax_c (d + 1) 21 [.ref v0, .int v1] h) := by
  refine e_entry (L' := [some (.ref v0), some (.int v1), none, none, none, none]) rfl (ag_A rfl (ag_I ag_n)) (Nat.le_of_ble_eq_true rfl) rfl ?_
  refine e_aload rfl rfl rfl ?_
  refine e_getA rfl fun r1 hr1 => ?_
  refine e_alen rfl fun x2 => ?_
  refine e_istore (L' := [some (.ref v0), some (.int v1), some (.int x2), none, none, none]) rfl (dx_sto (Nat.le_of_ble_eq_true rfl) (Or.inr ⟨_, rfl, rfl⟩) rfl) ?_
  refine e_iload rfl rfl ?_
  refine e_aload rfl rfl rfl ?_
  refine e_getI rfl fun x3 => ?_
  refine e_shl rfl ?_
  refine e_istoreL (M := fun x4 => [some (.ref v0), some (.int v1), some (.int x2), some (.int x4), none, none]) rfl (fun _ => dx_sto (Nat.le_of_ble_eq_true rfl) (Or.inr ⟨_, rfl, rfl⟩) rfl) fun x4 => ?_
  refine e_iload rfl rfl ?_
  refine e_iload rfl rfl ?_
  refine e_i2 rfl ?_
  refine e_istoreL (M := fun x5 => [some (.ref v0), some (.int v1), some (.int x2), some (.int x4), some (.int x5), none]) rfl (fun _ => dx_sto (Nat.le_of_ble_eq_true rfl) (Or.inr ⟨_, rfl, rfl⟩) rfl) fun x5 => ?_
  refine e_iload rfl rfl ?_
  refine e_iload rfl rfl ?_
  refine e_iload rfl rfl ?_
  refine e_push rfl ?_
  refine e_aload rfl rfl rfl ?_
  refine e_getI rfl fun x6 => ?_
  refine e_shl rfl ?_
  refine e_i2 rfl ?_
  refine e_isI rfl (Nat.le_of_ble_eq_true rfl) rfl rfl (Nat.le_of_ble_eq_true rfl) (fun _ _ => e_x0) fun x8 h7 => ?_
  refine e_istore (L' := [some (.ref v0), some (.int v1), some (.int x2), some (.int x4), some (.int x5), some (.int x8)]) rfl (dx_sto (Nat.le_of_ble_eq_true rfl) (Or.inr ⟨_, rfl, rfl⟩) rfl) ?_
  refine e_iload rfl rfl ?_
  refine e_push rfl ?_
  refine e_if2 rfl rfl ?_ ?_
  · refine e_iload rfl rfl ?_
    refine e_aload rfl rfl rfl ?_
    refine e_getI rfl fun x9 => ?_
    refine e_shr rfl ?_
    exact e_iret rfl
  · exact dx_none _
theorem m_J15_isLatin1 {d : Nat} {v0 : Nat} {h : ax_H}  : dx_le (if (1 : Int32) = 0 then some (.inl (some (.int 0)), h) else (dx_gI [(2, 1)] (.ref v0) h).bind fun x1 => if ¬ x1 = 0 then some (.inl (some (.int 0)), h) else some (.inl (some (.int 1)), h)) (ax_c (d + 1) 22 [.ref v0] h) := by
  refine e_entry (L' := [some (.ref v0)]) rfl (ag_A rfl ag_n) (Nat.le_of_ble_eq_true rfl) rfl ?_
  refine e_push rfl ?_
  refine e_if1 rfl rfl ?_ ?_
  · refine e_push rfl ?_
    exact e_zret0 rfl
  · refine e_aload rfl rfl rfl ?_
    refine e_getI rfl fun x1 => ?_
    refine e_if1 rfl rfl ?_ ?_
    · refine e_push rfl ?_
      exact e_zret0 rfl
    · refine e_push rfl ?_
      refine e_goto rfl ?_
      exact e_zret1 rfl
theorem m_J15_putStringAt {d : Nat} {v0 : Nat} {v1 : Int32} {v2 : Value} {h : ax_H} (hv2 : ax_rv v2 = true) : dx_le ((dx_vn [(2, 24)] (.ref v0) h).bind fun k => dx_cV ((ax_c d) k [.ref v0, v2] h) (fun h1 => (dx_gA [(2, 0)] (.ref v0) h1).bind fun r2 => (dx_gI [(2, 1)] (.ref v0) h1).bind fun x3 => (dx_vn [(3, 38)] v2 h1).bind fun k => dx_cV ((ax_c d) k [v2, r2, .int v1, .int x3] h1) (fun h4 => some (.inl none, h4)) dx_x0) dx_x0) (ax_c (d + 1) 23 [.ref v0, .int v1, v2] h) := by
  refine e_entry (L' := [some (.ref v0), some (.int v1), some (v2)]) rfl (ag_A rfl (ag_I (ag_A hv2 ag_n))) (Nat.le_of_ble_eq_true rfl) rfl ?_
  refine e_aload rfl rfl rfl ?_
  refine e_aload rfl rfl hv2 ?_
  refine e_ivV rfl rfl rfl (Nat.le_of_ble_eq_true rfl) (fun _ _ => e_x0) fun h1 => ?_
  refine e_aload rfl rfl hv2 ?_
  refine e_aload rfl rfl rfl ?_
  refine e_getA rfl fun r2 hr2 => ?_
  refine e_iload rfl rfl ?_
  refine e_aload rfl rfl rfl ?_
  refine e_getI rfl fun x3 => ?_
  refine e_ivV rfl rfl rfl (Nat.le_of_ble_eq_true rfl) (fun _ _ => e_x0) fun h4 => ?_
  exact e_ret rfl
theorem m_J15_inflateIfNeededFor {d : Nat} {v0 : Nat} {v1 : Value} {h : ax_H} (hv1 : ax_rv v1 = true) : dx_le (if (1 : Int32) = 0 then some (.inl none, h) else (dx_gI [(2, 1)] (.ref v0) h).bind fun x1 => (dx_vn [(3, 36)] v1 h).bind fun k => dx_cI ((ax_c d) k [v1] h) (fun x3 h2 => if x1 = x3 then some (.inl none, h2) else none) dx_x0) (ax_c (d + 1) 24 [.ref v0, v1] h) := by
  refine e_entry (L' := [some (.ref v0), some (v1)]) rfl (ag_A rfl (ag_A hv1 ag_n)) (Nat.le_of_ble_eq_true rfl) rfl ?_
  refine e_push rfl ?_
  refine e_if1 rfl rfl ?_ ?_
  · exact e_ret rfl
  · refine e_aload rfl rfl rfl ?_
    refine e_getI rfl fun x1 => ?_
    refine e_aload rfl rfl hv1 ?_
    refine e_ivI rfl rfl rfl (Nat.le_of_ble_eq_true rfl) (fun _ _ => e_x0) fun x3 h2 => ?_
    refine e_if2 rfl rfl ?_ ?_
    · exact e_ret rfl
    · refine e_aload rfl rfl rfl ?_
      exact dx_none _
theorem m_J15_append_2 {d : Nat} {v0 : Nat} {v1 : Int32} {h : ax_H}  : dx_le ((dx_gI [(2, 3)] (.ref v0) h).bind fun x1 => dx_cI ((ax_c d) 74 [.int v1] h) (fun x3 h2 => dx_lt (x1 + x3) fun x4 => (dx_vn [(2, 20)] (.ref v0) h2).bind fun k => dx_cV ((ax_c d) k [.ref v0, .int x4] h2) (fun h5 => (dx_vn [(2, 22)] (.ref v0) h5).bind fun k => dx_cI ((ax_c d) k [.ref v0] h5) (fun x7 h6 => if x7 = 0 then (dx_gA [(2, 0)] (.ref v0) h6).bind fun r8 => none else (dx_gA [(2, 0)] (.ref v0) h6).bind fun r9 => dx_cI ((ax_c d) 75 [.int v1, .int x4, r9] h6) (fun x11 h10 => (dx_pF [(2, 3)] (.int) (.ref v0) (.int x4) h10).bind fun h12 => some (.inl (some (.ref v0)), h12)) dx_x0) dx_x0) dx_x0) dx_x0) (ax_c (d + 1) 26 [.ref v0, .int v1] h) := by
  refine e_entry (L' := [some (.ref v0), some (.int v1), none, none]) rfl (ag_A rfl (ag_I ag_n)) (Nat.le_of_ble_eq_true rfl) rfl ?_
  refine e_aload rfl rfl rfl ?_
  refine e_getI rfl fun x1 => ?_
  refine e_istore (L' := [some (.ref v0), some (.int v1), some (.int x1), none]) rfl (dx_sto (Nat.le_of_ble_eq_true rfl) (Or.inr ⟨_, rfl, rfl⟩) rfl) ?_
  refine e_iload rfl rfl ?_
  refine e_iload rfl rfl ?_
  refine e_isI rfl (Nat.le_of_ble_eq_true rfl) rfl rfl (Nat.le_of_ble_eq_true rfl) (fun _ _ => e_x0) fun x3 h2 => ?_
  refine e_i2 rfl ?_
  refine e_istoreL (M := fun x4 => [some (.ref v0), some (.int v1), some (.int x1), some (.int x4)]) rfl (fun _ => dx_sto (Nat.le_of_ble_eq_true rfl) (Or.inr ⟨_, rfl, rfl⟩) rfl) fun x4 => ?_
  refine e_aload rfl rfl rfl ?_
  refine e_iload rfl rfl ?_
  refine e_ivV rfl rfl rfl (Nat.le_of_ble_eq_true rfl) (fun _ _ => e_x0) fun h5 => ?_
  refine e_aload rfl rfl rfl ?_
  refine e_ivI rfl rfl rfl (Nat.le_of_ble_eq_true rfl) (fun _ _ => e_x0) fun x7 h6 => ?_
  refine e_if1 rfl rfl ?_ ?_
  · refine e_iload rfl rfl ?_
    refine e_iload rfl rfl ?_
    refine e_iload rfl rfl ?_
    refine e_aload rfl rfl rfl ?_
    refine e_getA rfl fun r8 hr8 => ?_
    exact dx_none _
  · refine e_iload rfl rfl ?_
    refine e_iload rfl rfl ?_
    refine e_aload rfl rfl rfl ?_
    refine e_getA rfl fun r9 hr9 => ?_
    refine e_isI rfl (Nat.le_of_ble_eq_true rfl) rfl rfl (Nat.le_of_ble_eq_true rfl) (fun _ _ => e_x0) fun x11 h10 => ?_
    refine e_pop rfl rfl ?_
    refine e_goto rfl ?_
    refine e_aload rfl rfl rfl ?_
    refine e_iload rfl rfl ?_
    refine e_putf rfl fun h12 => ?_
    refine e_aload rfl rfl rfl ?_
    exact e_aret rfl rfl
theorem m_J15_getValue {d : Nat} {v0 : Nat} {h : ax_H}  : dx_le ((dx_gA [(2, 0)] (.ref v0) h).bind fun r1 => some (.inl (some (r1)), h)) (ax_c (d + 1) 27 [.ref v0] h) := by
  refine e_entry (L' := [some (.ref v0)]) rfl (ag_A rfl ag_n) (Nat.le_of_ble_eq_true rfl) rfl ?_
  refine e_aload rfl rfl rfl ?_
  refine e_getA rfl fun r1 hr1 => ?_
  exact e_aret rfl hr1
theorem m_J15_length {d : Nat} {v0 : Nat} {h : ax_H}  : dx_le ((dx_gI [(2, 3)] (.ref v0) h).bind fun x1 => some (.inl (some (.int x1)), h)) (ax_c (d + 1) 28 [.ref v0] h) := by
  refine e_entry (L' := [some (.ref v0)]) rfl (ag_A rfl ag_n) (Nat.le_of_ble_eq_true rfl) rfl ?_
  refine e_aload rfl rfl rfl ?_
  refine e_getI rfl fun x1 => ?_
  exact e_iret rfl
theorem m_J16_init {d : Nat} {v0 : Nat} {h : ax_H}  : dx_le (dx_cV ((ax_c d) 17 [.ref v0, .int 16] h) (fun h1 => some (.inl none, h1)) dx_x0) (ax_c (d + 1) 29 [.ref v0] h) := by
  refine e_entry (L' := [some (.ref v0)]) rfl (ag_A rfl ag_n) (Nat.le_of_ble_eq_true rfl) rfl ?_
  refine e_aload rfl rfl rfl ?_
  refine e_push rfl ?_
  refine e_isprV rfl rfl rfl (Nat.le_of_ble_eq_true rfl) (fun _ _ => e_x0) fun h1 => ?_
  exact e_ret rfl
theorem m_J16_append {d : Nat} {v0 : Nat} {v1 : Value} {h : ax_H} (hv1 : ax_rv v1 = true) : dx_le ((dx_vn [(2, 18)] (.ref v0) h).bind fun k => dx_cR ((ax_c d) k [.ref v0, v1] h) (fun r2 h1 => some (.inl (some (.ref v0)), h1)) dx_x0) (ax_c (d + 1) 30 [.ref v0, v1] h) := by
  refine e_entry (L' := [some (.ref v0), some (v1)]) rfl (ag_A rfl (ag_A hv1 ag_n)) (Nat.le_of_ble_eq_true rfl) rfl ?_
  refine e_aload rfl rfl rfl ?_
  refine e_aload rfl rfl hv1 ?_
  refine e_ivR rfl rfl rfl (Nat.le_of_ble_eq_true rfl) (fun _ _ => e_x0) fun r2 h1 hr2 => ?_
  refine e_pop rfl (dx_c1 hr2) ?_
  refine e_aload rfl rfl rfl ?_
  exact e_aret rfl rfl
theorem m_J16_append_2 {d : Nat} {v0 : Nat} {v1 : Int32} {h : ax_H}  : dx_le ((dx_vn [(2, 26)] (.ref v0) h).bind fun k => dx_cR ((ax_c d) k [.ref v0, .int v1] h) (fun r2 h1 => some (.inl (some (.ref v0)), h1)) dx_x0) (ax_c (d + 1) 31 [.ref v0, .int v1] h) := by
  refine e_entry (L' := [some (.ref v0), some (.int v1)]) rfl (ag_A rfl (ag_I ag_n)) (Nat.le_of_ble_eq_true rfl) rfl ?_
  refine e_aload rfl rfl rfl ?_
  refine e_iload rfl rfl ?_
  refine e_ivR rfl rfl rfl (Nat.le_of_ble_eq_true rfl) (fun _ _ => e_x0) fun r2 h1 hr2 => ?_
  refine e_pop rfl (dx_c1 hr2) ?_
  refine e_aload rfl rfl rfl ?_
  exact e_aret rfl rfl
theorem m_J16_toString {d : Nat} {v0 : Nat} {h : ax_H}  : dx_le (dx_nw h (.inr (3, [.null, .int 0])) 4 fun a2 h1 => dx_cV ((ax_c d) 39 [.ref a2, .ref v0] h1) (fun h3 => some (.inl (some (.ref a2)), h3)) dx_x0) (ax_c (d + 1) 32 [.ref v0] h) := by
  refine e_entry (L' := [some (.ref v0)]) rfl (ag_A rfl ag_n) (Nat.le_of_ble_eq_true rfl) rfl ?_
  refine e_new rfl fun a2 h1 => ?_
  refine e_dup rfl rfl ?_
  refine e_aload rfl rfl rfl ?_
  refine e_isprV rfl rfl rfl (Nat.le_of_ble_eq_true rfl) (fun _ _ => e_x0) fun h3 => ?_
  exact e_aret rfl rfl
theorem m_J16_length {d : Nat} {v0 : Nat} {h : ax_H}  : dx_le ((dx_vn [(2, 28)] (.ref v0) h).bind fun k => dx_cI ((ax_c d) k [.ref v0] h) (fun x2 h1 => some (.inl (some (.int x2)), h1)) dx_x0) (ax_c (d + 1) 33 [.ref v0] h) := by
  refine e_entry (L' := [some (.ref v0)]) rfl (ag_A rfl ag_n) (Nat.le_of_ble_eq_true rfl) rfl ?_
  refine e_aload rfl rfl rfl ?_
  refine e_ivI rfl rfl rfl (Nat.le_of_ble_eq_true rfl) (fun _ _ => e_x0) fun x2 h1 => ?_
  exact e_iret rfl
theorem m_J17_length {d : Nat} {v0 : Nat} {h : ax_H}  : dx_le ((dx_gA [(3, 0)] (.ref v0) h).bind fun r1 => (dx_len r1 h).bind fun x2 => (dx_vn [(3, 36)] (.ref v0) h).bind fun k => dx_cI ((ax_c d) k [.ref v0] h) (fun x4 h3 => some (.inl (some (.int (dx_shr x2 x4))), h3)) dx_x0) (ax_c (d + 1) 35 [.ref v0] h) := by
  refine e_entry (L' := [some (.ref v0)]) rfl (ag_A rfl ag_n) (Nat.le_of_ble_eq_true rfl) rfl ?_
  refine e_aload rfl rfl rfl ?_
  refine e_getA rfl fun r1 hr1 => ?_
  refine e_alen rfl fun x2 => ?_
  refine e_aload rfl rfl rfl ?_
  refine e_ivI rfl rfl rfl (Nat.le_of_ble_eq_true rfl) (fun _ _ => e_x0) fun x4 h3 => ?_
  refine e_shr rfl ?_
  exact e_iret rfl
theorem m_J17_coder {d : Nat} {v0 : Nat} {h : ax_H}  : dx_le (if (1 : Int32) = 0 then if ax_ft .byte (.int 1) = true then some (.inl (some (.int 1)), h) else none else (dx_gI [(3, 1)] (.ref v0) h).bind fun x1 => if ax_ft .byte (.int x1) = true then some (.inl (some (.int x1)), h) else none) (ax_c (d + 1) 36 [.ref v0] h) := by
  refine e_entry (L' := [some (.ref v0)]) rfl (ag_A rfl ag_n) (Nat.le_of_ble_eq_true rfl) rfl ?_
  refine e_push rfl ?_
  refine e_if1 rfl rfl ?_ ?_
  · refine e_push rfl ?_
    exact e_bret rfl
  · refine e_aload rfl rfl rfl ?_
    refine e_getI rfl fun x1 => ?_
    refine e_goto rfl ?_
    exact e_bret rfl
theorem m_J17_getBytes {d : Nat} {v0 : Nat} {v1 : Value} {v2 : Int32} {v3 : Int32} {h : ax_H} (hv1 : ax_rv v1 = true) : dx_le ((dx_vn [(3, 36)] (.ref v0) h).bind fun k => dx_cI ((ax_c d) k [.ref v0] h) (fun x2 h1 => if ¬ x2 = v3 then (dx_gA [(3, 0)] (.ref v0) h1).bind fun r3 => (dx_gA [(3, 0)] (.ref v0) h1).bind fun r4 => (dx_len r4 h1).bind fun x5 => dx_cV ((ax_c d) 72 [r3, .int 0, v1, .int v2, .int x5] h1) (fun h6 => some (.inl none, h6)) dx_x0 else (dx_gA [(3, 0)] (.ref v0) h1).bind fun r7 => (dx_gA [(3, 0)] (.ref v0) h1).bind fun r8 => (dx_len r8 h1).bind fun x9 => (dx_acp r7 0 v1 (dx_shl v2 v3) x9 h1).bind fun h10 => some (.inl none, h10)) dx_x0) (ax_c (d + 1) 38 [.ref v0, v1, .int v2, .int v3] h) := by
  refine e_entry (L' := [some (.ref v0), some (v1), some (.int v2), some (.int v3)]) rfl (ag_A rfl (ag_A hv1 (ag_I (ag_I ag_n)))) (Nat.le_of_ble_eq_true rfl) rfl ?_
  refine e_aload rfl rfl rfl ?_
  refine e_ivI rfl rfl rfl (Nat.le_of_ble_eq_true rfl) (fun _ _ => e_x0) fun x2 h1 => ?_
  refine e_iload rfl rfl ?_
  refine e_if2 rfl rfl ?_ ?_
  · refine e_aload rfl rfl rfl ?_
    refine e_getA rfl fun r3 hr3 => ?_
    refine e_push rfl ?_
    refine e_aload rfl rfl hv1 ?_
    refine e_iload rfl rfl ?_
    refine e_aload rfl rfl rfl ?_
    refine e_getA rfl fun r4 hr4 => ?_
    refine e_alen rfl fun x5 => ?_
    refine e_isV rfl (Nat.le_of_ble_eq_true rfl) rfl rfl (Nat.le_of_ble_eq_true rfl) (fun _ _ => e_x0) fun h6 => ?_
    exact e_ret rfl
  · refine e_aload rfl rfl rfl ?_
    refine e_getA rfl fun r7 hr7 => ?_
    refine e_push rfl ?_
    refine e_aload rfl rfl hv1 ?_
    refine e_iload rfl rfl ?_
    refine e_iload rfl rfl ?_
    refine e_shl rfl ?_
    refine e_aload rfl rfl rfl ?_
    refine e_getA rfl fun r8 hr8 => ?_
    refine e_alen rfl fun x9 => ?_
    refine e_acp rfl (Nat.le_of_ble_eq_true rfl) fun h10 => ?_
    refine e_goto rfl ?_
    exact e_ret rfl
theorem m_J17_init {d : Nat} {v0 : Nat} {v1 : Value} {h : ax_H} (hv1 : ax_rv v1 = true) : dx_le (dx_cV ((ax_c d) 40 [.ref v0, v1, .null] h) (fun h1 => some (.inl none, h1)) dx_x0) (ax_c (d + 1) 39 [.ref v0, v1] h) := by
  refine e_entry (L' := [some (.ref v0), some (v1)]) rfl (ag_A rfl (ag_A hv1 ag_n)) (Nat.le_of_ble_eq_true rfl) rfl ?_
  refine e_aload rfl rfl rfl ?_
  refine e_aload rfl rfl hv1 ?_
  refine e_push rfl ?_
  refine e_isprV rfl rfl rfl (Nat.le_of_ble_eq_true rfl) (fun _ _ => e_x0) fun h1 => ?_
  exact e_ret rfl
noncomputable def B_J17_init_2_79 (K : ax_K) (v0 : Nat) (v3 : Value) (v4 : Int32) (h : ax_H) : Option ax_R := ax_run K P_J17_init_2 79 [some (.ref v0), none, none, some (v3), some (.int v4)] [] h
theorem b_J17_init_2_79 {K : ax_K} {v0 : Nat} {v3 : Value} {v4 : Int32} {h : ax_H} (hv3 : ax_rv v3 = true) : dx_le ((dx_pF [(3, 1)] (.byte) (.ref v0) (.int 1) h).bind fun h1 => dx_cR (K 10 [v3, .int 0, .int (dx_shl v4 1)] h1) (fun r3 h2 => (dx_pF [(3, 0)] (.array (.byte)) (.ref v0) r3 h2).bind fun h4 => some (.inl none, h4)) dx_x0) (B_J17_init_2_79 K v0 v3 v4 h) := by
  show dx_le _ (ax_run K P_J17_init_2 79 [some (.ref v0), none, none, some (v3), some (.int v4)] [] h)
  refine e_aload rfl rfl rfl ?_
  refine e_push rfl ?_
  refine e_putf rfl fun h1 => ?_
  refine e_aload rfl rfl rfl ?_
  refine e_aload rfl rfl hv3 ?_
  refine e_push rfl ?_
  refine e_iload rfl rfl ?_
  refine e_push rfl ?_
  refine e_shl rfl ?_
  refine e_isR rfl (Nat.le_of_ble_eq_true rfl) rfl rfl (Nat.le_of_ble_eq_true rfl) (fun _ _ => e_x0) fun r3 h2 hr3 => ?_
  refine e_putf rfl fun h4 => ?_
  exact e_ret rfl
theorem m_J17_init_2 {d : Nat} {v0 : Nat} {v1 : Value} {v2 : Value} {h : ax_H} (hv1 : ax_rv v1 = true) (hv2 : ax_rv v2 = true) : dx_le (dx_nn (.ref v0) ((dx_vn [(2, 27)] v1 h).bind fun k => dx_cR ((ax_c d) k [v1] h) (fun r2 h1 => (dx_vn [(2, 33)] v1 h1).bind fun k => dx_cI ((ax_c d) k [v1] h1) (fun x4 h3 => (dx_vn [(2, 22)] v1 h3).bind fun k => dx_cI ((ax_c d) k [v1] h3) (fun x6 h5 => if x6 = 0 then if (1 : Int32) = 0 then B_J17_init_2_79 (ax_c d) v0 r2 x4 h5 else (dx_gI [(2, 2)] v1 h5).bind fun x7 => if x7 = 0 then B_J17_init_2_79 (ax_c d) v0 r2 x4 h5 else none else (dx_pF [(3, 1)] (.byte) (.ref v0) (.int 0) h5).bind fun h8 => dx_cR ((ax_c d) 10 [r2, .int 0, .int x4] h8) (fun r10 h9 => (dx_pF [(3, 0)] (.array (.byte)) (.ref v0) r10 h9).bind fun h11 => some (.inl none, h11)) dx_x0) dx_x0) dx_x0) dx_x0)) (ax_c (d + 1) 40 [.ref v0, v1, v2] h) := by
  refine e_entry (L' := [some (.ref v0), some (v1), some (v2), none, none]) rfl (ag_A rfl (ag_A hv1 (ag_A hv2 ag_n))) (Nat.le_of_ble_eq_true rfl) rfl ?_
  refine e_aload rfl rfl rfl ?_
  refine e_oin rfl (Nat.le_of_ble_eq_true rfl) ?_
  refine e_aload rfl rfl hv1 ?_
  refine e_ivR rfl rfl rfl (Nat.le_of_ble_eq_true rfl) (fun _ _ => e_x0) fun r2 h1 hr2 => ?_
  refine e_astore (L' := [some (.ref v0), some (v1), some (v2), some (r2), none]) rfl hr2 (dx_sto (Nat.le_of_ble_eq_true rfl) (Or.inr ⟨_, rfl, dx_nl hv2⟩) rfl) ?_
  refine e_aload rfl rfl hv1 ?_
  refine e_ivI rfl rfl rfl (Nat.le_of_ble_eq_true rfl) (fun _ _ => e_x0) fun x4 h3 => ?_
  refine e_istore (L' := [some (.ref v0), some (v1), some (v2), some (r2), some (.int x4)]) rfl (dx_sto (Nat.le_of_ble_eq_true rfl) (Or.inr ⟨_, rfl, dx_nl hr2⟩) rfl) ?_
  refine e_aload rfl rfl hv1 ?_
  refine e_ivI rfl rfl rfl (Nat.le_of_ble_eq_true rfl) (fun _ _ => e_x0) fun x6 h5 => ?_
  refine e_if1 rfl rfl ?_ ?_
  · refine e_push rfl ?_
    refine e_if1 rfl rfl ?_ ?_
    · exact e_wk mP_J17_init_2 (ll_1 (ll_0 (ll_0 (ll_1 (ll_1 ll_n)))))
    · refine e_aload rfl rfl hv1 ?_
      refine e_getI rfl fun x7 => ?_
      refine e_if1 rfl rfl ?_ ?_
      · exact e_wk mP_J17_init_2 (ll_1 (ll_0 (ll_0 (ll_1 (ll_1 ll_n)))))
      · refine e_aload rfl rfl rfl ?_
        refine e_aload rfl rfl hr2 ?_
        refine e_push rfl ?_
        refine e_iload rfl rfl ?_
        exact dx_none _
  · refine e_aload rfl rfl rfl ?_
    refine e_push rfl ?_
    refine e_putf rfl fun h8 => ?_
    refine e_aload rfl rfl rfl ?_
    refine e_aload rfl rfl hr2 ?_
    refine e_push rfl ?_
    refine e_iload rfl rfl ?_
    refine e_isR rfl (Nat.le_of_ble_eq_true rfl) rfl rfl (Nat.le_of_ble_eq_true rfl) (fun _ _ => e_x0) fun r10 h9 hr10 => ?_
    refine e_putf rfl fun h11 => ?_
    refine e_goto rfl ?_
    exact e_ret rfl
theorem m_J19_checkIndex {d : Nat} {v0 : Int32} {v1 : Int32} {v2 : Value} {h : ax_H} (hv2 : ax_rv v2 = true) : dx_le (if v0 < 0 then none else if v0 < v1 then some (.inl (some (.int v0)), h) else none) (ax_c (d + 1) 57 [.int v0, .int v1, v2] h) := by
  refine e_entry (L' := [some (.int v0), some (.int v1), some (v2)]) rfl (ag_I (ag_I (ag_A hv2 ag_n))) (Nat.le_of_ble_eq_true rfl) rfl ?_
  refine e_iload rfl rfl ?_
  refine e_if1 rfl rfl ?_ ?_
  · refine e_aload rfl rfl hv2 ?_
    refine e_iload rfl rfl ?_
    refine e_iload rfl rfl ?_
    exact dx_none _
  · refine e_iload rfl rfl ?_
    refine e_iload rfl rfl ?_
    refine e_if2 rfl rfl ?_ ?_
    · refine e_iload rfl rfl ?_
      exact e_iret rfl
    · refine e_aload rfl rfl hv2 ?_
      refine e_iload rfl rfl ?_
      refine e_iload rfl rfl ?_
      exact dx_none _
theorem m_J2_init {d : Nat} {v0 : Nat} {h : ax_H}  : dx_le (dx_cV ((ax_c d) 1 [.ref v0] h) (fun h1 => (dx_pF [(4, 1)] (.array (.object "java/lang/Object")) (.ref v0) (.ref 1) h1).bind fun h2 => some (.inl none, h2)) dx_x0) (ax_c (d + 1) 58 [.ref v0] h) := by
  refine e_entry (L' := [some (.ref v0)]) rfl (ag_A rfl ag_n) (Nat.le_of_ble_eq_true rfl) rfl ?_
  refine e_aload rfl rfl rfl ?_
  refine e_isprV rfl rfl rfl (Nat.le_of_ble_eq_true rfl) (fun _ _ => e_x0) fun h1 => ?_
  refine e_aload rfl rfl rfl ?_
  refine e_push rfl ?_
  refine e_putf rfl fun h2 => ?_
  exact e_ret rfl
theorem m_J2_size {d : Nat} {v0 : Nat} {h : ax_H}  : dx_le ((dx_gI [(4, 2)] (.ref v0) h).bind fun x1 => some (.inl (some (.int x1)), h)) (ax_c (d + 1) 59 [.ref v0] h) := by
  refine e_entry (L' := [some (.ref v0)]) rfl (ag_A rfl ag_n) (Nat.le_of_ble_eq_true rfl) rfl ?_
  refine e_aload rfl rfl rfl ?_
  refine e_getI rfl fun x1 => ?_
  exact e_iret rfl
noncomputable def B_J2_clear_27 (K : ax_K) (v1 : Value) (v2 : Int32) (v3 : Int32) (h : ax_H) : Option ax_R := ax_run K P_J2_clear 27 [none, some (v1), some (.int v2), some (.int v3)] [] h
theorem b_J2_clear_27 {K : ax_K} {v1 : Value} {v2 : Int32} {v3 : Int32} {h : ax_H} (hv1 : ax_rv v1 = true) : dx_le (if v2 ≤ v3 then some (.inl none, h) else (dx_sA 4 ax_objs v1 v3 .null h).bind fun h1 => dx_lt (v3 + 1) fun x2 => B_J2_clear_27 K v1 v2 x2 h1) (B_J2_clear_27 K v1 v2 v3 h) := by
  show dx_le _ (ax_run K P_J2_clear 27 [none, some (v1), some (.int v2), some (.int v3)] [] h)
  refine e_iload rfl rfl ?_
  refine e_iload rfl rfl ?_
  refine e_if2 rfl rfl ?_ ?_
  · exact e_ret rfl
  · refine e_aload rfl rfl hv1 ?_
    refine e_iload rfl rfl ?_
    refine e_push rfl ?_
    refine e_aast rfl fun h1 => ?_
    refine e_iinc (M := fun x2 => [none, some (v1), some (.int v2), some (.int x2)]) rfl rfl (fun _ => dx_sto (Nat.le_of_ble_eq_true rfl) (Or.inr ⟨_, rfl, rfl⟩) rfl) fun x2 => ?_
    refine e_goto rfl ?_
    exact e_wk mP_J2_clear (ll_0 (ll_1 (ll_1 (ll_1 ll_n))))
theorem m_J2_clear {d : Nat} {v0 : Nat} {h : ax_H}  : dx_le ((dx_gI [(4, 0), (15, 0)] (.ref v0) h).bind fun x1 => (dx_pF [(4, 0), (15, 0)] (.int) (.ref v0) (.int (x1 + 1)) h).bind fun h2 => (dx_gA [(4, 1)] (.ref v0) h2).bind fun r3 => (dx_gI [(4, 2)] (.ref v0) h2).bind fun x4 => (dx_pF [(4, 2)] (.int) (.ref v0) (.int 0) h2).bind fun h5 => B_J2_clear_27 (ax_c d) r3 x4 0 h5) (ax_c (d + 1) 60 [.ref v0] h) := by
  refine e_entry (L' := [some (.ref v0), none, none, none]) rfl (ag_A rfl ag_n) (Nat.le_of_ble_eq_true rfl) rfl ?_
  refine e_aload rfl rfl rfl ?_
  refine e_dup rfl rfl ?_
  refine e_getI rfl fun x1 => ?_
  refine e_push rfl ?_
  refine e_i2 rfl ?_
  refine e_putf rfl fun h2 => ?_
  refine e_aload rfl rfl rfl ?_
  refine e_getA rfl fun r3 hr3 => ?_
  refine e_astore (L' := [some (.ref v0), some (r3), none, none]) rfl hr3 (dx_sto (Nat.le_of_ble_eq_true rfl) (Or.inr ⟨_, rfl, rfl⟩) rfl) ?_
  refine e_aload rfl rfl rfl ?_
  refine e_getI rfl fun x4 => ?_
  refine e_istore (L' := [some (.ref v0), some (r3), some (.int x4), none]) rfl (dx_sto (Nat.le_of_ble_eq_true rfl) (Or.inr ⟨_, rfl, dx_nl hr3⟩) rfl) ?_
  refine e_aload rfl rfl rfl ?_
  refine e_push rfl ?_
  refine e_dupx1 rfl rfl rfl ?_
  refine e_putf rfl fun h5 => ?_
  refine e_istore (L' := [some (.ref v0), some (r3), some (.int x4), some (.int 0)]) rfl (dx_sto (Nat.le_of_ble_eq_true rfl) (Or.inr ⟨_, rfl, rfl⟩) rfl) ?_
  exact e_wk mP_J2_clear (ll_0 (ll_1 (ll_1 (ll_1 ll_n))))
theorem m_J2_get {d : Nat} {v0 : Nat} {v1 : Int32} {h : ax_H}  : dx_le ((dx_gI [(4, 2)] (.ref v0) h).bind fun x1 => dx_cI ((ax_c d) 79 [.int v1, .int x1] h) (fun x3 h2 => (dx_vn [(4, 62)] (.ref v0) h2).bind fun k => dx_cR ((ax_c d) k [.ref v0, .int v1] h2) (fun r5 h4 => some (.inl (some (r5)), h4)) dx_x0) dx_x0) (ax_c (d + 1) 61 [.ref v0, .int v1] h) := by
  refine e_entry (L' := [some (.ref v0), some (.int v1)]) rfl (ag_A rfl (ag_I ag_n)) (Nat.le_of_ble_eq_true rfl) rfl ?_
  refine e_iload rfl rfl ?_
  refine e_aload rfl rfl rfl ?_
  refine e_getI rfl fun x1 => ?_
  refine e_isI rfl (Nat.le_of_ble_eq_true rfl) rfl rfl (Nat.le_of_ble_eq_true rfl) (fun _ _ => e_x0) fun x3 h2 => ?_
  refine e_pop rfl rfl ?_
  refine e_aload rfl rfl rfl ?_
  refine e_iload rfl rfl ?_
  refine e_ivR rfl rfl rfl (Nat.le_of_ble_eq_true rfl) (fun _ _ => e_x0) fun r5 h4 hr5 => ?_
  exact e_aret rfl hr5
theorem m_J2_elementData {d : Nat} {v0 : Nat} {v1 : Int32} {h : ax_H}  : dx_le ((dx_gA [(4, 1)] (.ref v0) h).bind fun r1 => (dx_lA 4 r1 v1 h).bind fun r2 => some (.inl (some (r2)), h)) (ax_c (d + 1) 62 [.ref v0, .int v1] h) := by
  refine e_entry (L' := [some (.ref v0), some (.int v1)]) rfl (ag_A rfl (ag_I ag_n)) (Nat.le_of_ble_eq_true rfl) rfl ?_
  refine e_aload rfl rfl rfl ?_
  refine e_getA rfl fun r1 hr1 => ?_
  refine e_iload rfl rfl ?_
  refine e_aald rfl fun r2 hr2 => ?_
  exact e_aret rfl hr2
theorem m_J2_add {d : Nat} {v0 : Nat} {v1 : Value} {h : ax_H} (hv1 : ax_rv v1 = true) : dx_le ((dx_gI [(4, 0), (15, 0)] (.ref v0) h).bind fun x1 => (dx_pF [(4, 0), (15, 0)] (.int) (.ref v0) (.int (x1 + 1)) h).bind fun h2 => (dx_gA [(4, 1)] (.ref v0) h2).bind fun r3 => (dx_gI [(4, 2)] (.ref v0) h2).bind fun x4 => (dx_vn [(4, 64)] (.ref v0) h2).bind fun k => dx_cV ((ax_c d) k [.ref v0, v1, r3, .int x4] h2) (fun h5 => some (.inl (some (.int 1)), h5)) dx_x0) (ax_c (d + 1) 63 [.ref v0, v1] h) := by
  refine e_entry (L' := [some (.ref v0), some (v1)]) rfl (ag_A rfl (ag_A hv1 ag_n)) (Nat.le_of_ble_eq_true rfl) rfl ?_
  refine e_aload rfl rfl rfl ?_
  refine e_dup rfl rfl ?_
  refine e_getI rfl fun x1 => ?_
  refine e_push rfl ?_
  refine e_i2 rfl ?_
  refine e_putf rfl fun h2 => ?_
  refine e_aload rfl rfl rfl ?_
  refine e_aload rfl rfl hv1 ?_
  refine e_aload rfl rfl rfl ?_
  refine e_getA rfl fun r3 hr3 => ?_
  refine e_aload rfl rfl rfl ?_
  refine e_getI rfl fun x4 => ?_
  refine e_ivV rfl rfl rfl (Nat.le_of_ble_eq_true rfl) (fun _ _ => e_x0) fun h5 => ?_
  refine e_push rfl ?_
  exact e_zret1 rfl
noncomputable def B_J2_add_2_11 (K : ax_K) (v0 : Nat) (v1 : Value) (v2 : Value) (v3 : Int32) (h : ax_H) : Option ax_R := ax_run K P_J2_add_2 11 [some (.ref v0), some (v1), some (v2), some (.int v3)] [] h
theorem b_J2_add_2_11 {K : ax_K} {v0 : Nat} {v1 : Value} {v2 : Value} {v3 : Int32} {h : ax_H} (hv1 : ax_rv v1 = true) (hv2 : ax_rv v2 = true) : dx_le ((dx_sA 4 ax_objs v2 v3 v1 h).bind fun h1 => (dx_pF [(4, 2)] (.int) (.ref v0) (.int (v3 + 1)) h1).bind fun h2 => some (.inl none, h2)) (B_J2_add_2_11 K v0 v1 v2 v3 h) := by
  show dx_le _ (ax_run K P_J2_add_2 11 [some (.ref v0), some (v1), some (v2), some (.int v3)] [] h)
  refine e_aload rfl rfl hv2 ?_
  refine e_iload rfl rfl ?_
  refine e_aload rfl rfl hv1 ?_
  refine e_aast rfl fun h1 => ?_
  refine e_aload rfl rfl rfl ?_
  refine e_iload rfl rfl ?_
  refine e_push rfl ?_
  refine e_i2 rfl ?_
  refine e_putf rfl fun h2 => ?_
  exact e_ret rfl
theorem m_J2_add_2 {d : Nat} {v0 : Nat} {v1 : Value} {v2 : Value} {v3 : Int32} {h : ax_H} (hv1 : ax_rv v1 = true) (hv2 : ax_rv v2 = true) : dx_le ((dx_len v2 h).bind fun x1 => if ¬ v3 = x1 then B_J2_add_2_11 (ax_c d) v0 v1 v2 v3 h else (dx_vn [(4, 65)] (.ref v0) h).bind fun k => dx_cR ((ax_c d) k [.ref v0] h) (fun r3 h2 => B_J2_add_2_11 (ax_c d) v0 v1 r3 v3 h2) dx_x0) (ax_c (d + 1) 64 [.ref v0, v1, v2, .int v3] h) := by
  refine e_entry (L' := [some (.ref v0), some (v1), some (v2), some (.int v3)]) rfl (ag_A rfl (ag_A hv1 (ag_A hv2 (ag_I ag_n)))) (Nat.le_of_ble_eq_true rfl) rfl ?_
  refine e_iload rfl rfl ?_
  refine e_aload rfl rfl hv2 ?_
  refine e_alen rfl fun x1 => ?_
  refine e_if2 rfl rfl ?_ ?_
  · exact e_wk mP_J2_add_2 (ll_1 (ll_1 (ll_1 (ll_1 ll_n))))
  · refine e_aload rfl rfl rfl ?_
    refine e_ivR rfl rfl rfl (Nat.le_of_ble_eq_true rfl) (fun _ _ => e_x0) fun r3 h2 hr3 => ?_
    refine e_astore (L' := [some (.ref v0), some (v1), some (r3), some (.int v3)]) rfl hr3 (dx_sto (Nat.le_of_ble_eq_true rfl) (Or.inr ⟨_, rfl, dx_nl hv1⟩) rfl) ?_
    exact e_wk mP_J2_add_2 (ll_1 (ll_1 (ll_1 (ll_1 ll_n))))
theorem m_J2_grow {d : Nat} {v0 : Nat} {h : ax_H}  : dx_le ((dx_gI [(4, 2)] (.ref v0) h).bind fun x1 => (dx_vn [(4, 66)] (.ref v0) h).bind fun k => dx_cR ((ax_c d) k [.ref v0, .int (x1 + 1)] h) (fun r3 h2 => some (.inl (some (r3)), h2)) dx_x0) (ax_c (d + 1) 65 [.ref v0] h) := by
  refine e_entry (L' := [some (.ref v0)]) rfl (ag_A rfl ag_n) (Nat.le_of_ble_eq_true rfl) rfl ?_
  refine e_aload rfl rfl rfl ?_
  refine e_aload rfl rfl rfl ?_
  refine e_getI rfl fun x1 => ?_
  refine e_push rfl ?_
  refine e_i2 rfl ?_
  refine e_ivR rfl rfl rfl (Nat.le_of_ble_eq_true rfl) (fun _ _ => e_x0) fun r3 h2 hr3 => ?_
  exact e_aret rfl hr3
noncomputable def B_J2_grow_2_20 (K : ax_K) (v0 : Nat) (v1 : Int32) (v2 : Int32) (h : ax_H) : Option ax_R := ax_run K P_J2_grow_2 20 [some (.ref v0), some (.int v1), some (.int v2), none] [] h
theorem b_J2_grow_2_20 {K : ax_K} {v0 : Nat} {v1 : Int32} {v2 : Int32} {h : ax_H}  : dx_le (dx_cI (K 5 [.int v2, .int (v1 - v2), .int (dx_shr v2 1)] h) (fun x2 h1 => (dx_gA [(4, 1)] (.ref v0) h1).bind fun r3 => dx_cR (K 13 [r3, .int x2] h1) (fun r5 h4 => (dx_pF [(4, 1)] (.array (.object "java/lang/Object")) (.ref v0) r5 h4).bind fun h6 => some (.inl (some (r5)), h6)) dx_x0) dx_x0) (B_J2_grow_2_20 K v0 v1 v2 h) := by
  show dx_le _ (ax_run K P_J2_grow_2 20 [some (.ref v0), some (.int v1), some (.int v2), none] [] h)
  refine e_iload rfl rfl ?_
  refine e_iload rfl rfl ?_
  refine e_iload rfl rfl ?_
  refine e_i2 rfl ?_
  refine e_iload rfl rfl ?_
  refine e_push rfl ?_
  refine e_shr rfl ?_
  refine e_isI rfl (Nat.le_of_ble_eq_true rfl) rfl rfl (Nat.le_of_ble_eq_true rfl) (fun _ _ => e_x0) fun x2 h1 => ?_
  refine e_istore (L' := [some (.ref v0), some (.int v1), some (.int v2), some (.int x2)]) rfl (dx_sto (Nat.le_of_ble_eq_true rfl) (Or.inr ⟨_, rfl, rfl⟩) rfl) ?_
  refine e_aload rfl rfl rfl ?_
  refine e_aload rfl rfl rfl ?_
  refine e_getA rfl fun r3 hr3 => ?_
  refine e_iload rfl rfl ?_
  refine e_isR rfl (Nat.le_of_ble_eq_true rfl) rfl rfl (Nat.le_of_ble_eq_true rfl) (fun _ _ => e_x0) fun r5 h4 hr5 => ?_
  refine e_dupx1 rfl (dx_c1 hr5) rfl ?_
  refine e_putf rfl fun h6 => ?_
  exact e_aret rfl hr5
theorem m_J2_grow_2 {d : Nat} {v0 : Nat} {v1 : Int32} {h : ax_H}  : dx_le ((dx_gA [(4, 1)] (.ref v0) h).bind fun r1 => (dx_len r1 h).bind fun x2 => if (0 : Int32) < x2 then B_J2_grow_2_20 (ax_c d) v0 v1 x2 h else (dx_gA [(4, 1)] (.ref v0) h).bind fun r3 => dx_eq r3 (.ref 1) (dx_na 4 2 (dx_max 10 v1) h fun a5 h4 => (dx_pF [(4, 1)] (.array (.object "java/lang/Object")) (.ref v0) (.ref a5) h4).bind fun h6 => some (.inl (some (.ref a5)), h6)) (B_J2_grow_2_20 (ax_c d) v0 v1 x2 h)) (ax_c (d + 1) 66 [.ref v0, .int v1] h) := by
  refine e_entry (L' := [some (.ref v0), some (.int v1), none, none]) rfl (ag_A rfl (ag_I ag_n)) (Nat.le_of_ble_eq_true rfl) rfl ?_
  refine e_aload rfl rfl rfl ?_
  refine e_getA rfl fun r1 hr1 => ?_
  refine e_alen rfl fun x2 => ?_
  refine e_istore (L' := [some (.ref v0), some (.int v1), some (.int x2), none]) rfl (dx_sto (Nat.le_of_ble_eq_true rfl) (Or.inr ⟨_, rfl, rfl⟩) rfl) ?_
  refine e_iload rfl rfl ?_
  refine e_if1 rfl rfl ?_ ?_
  · exact e_wk mP_J2_grow_2 (ll_1 (ll_1 (ll_1 (ll_0 ll_n))))
  · refine e_aload rfl rfl rfl ?_
    refine e_getA rfl fun r3 hr3 => ?_
    refine e_push rfl ?_
    refine e_acmp rfl ?_ ?_
    · refine e_aload rfl rfl rfl ?_
      refine e_push rfl ?_
      refine e_iload rfl rfl ?_
      refine e_max rfl (Nat.le_of_ble_eq_true rfl) ?_
      refine e_newa rfl fun a5 h4 => ?_
      refine e_dupx1 rfl rfl rfl ?_
      refine e_putf rfl fun h6 => ?_
      exact e_aret rfl rfl
    · exact e_wk mP_J2_grow_2 (ll_1 (ll_1 (ll_1 (ll_0 ll_n))))
theorem m_J2_iterator {d : Nat} {v0 : Nat} {h : ax_H}  : dx_le (dx_nw h (.inr (13, [.int 0, .int 0, .int 0, .null])) 4 fun a2 h1 => dx_cV ((ax_c d) 109 [.ref a2, .ref v0] h1) (fun h3 => some (.inl (some (.ref a2)), h3)) dx_x0) (ax_c (d + 1) 67 [.ref v0] h) := by
  refine e_entry (L' := [some (.ref v0)]) rfl (ag_A rfl ag_n) (Nat.le_of_ble_eq_true rfl) rfl ?_
  refine e_new rfl fun a2 h1 => ?_
  refine e_dup rfl rfl ?_
  refine e_aload rfl rfl rfl ?_
  refine e_isprV rfl rfl rfl (Nat.le_of_ble_eq_true rfl) (fun _ _ => e_x0) fun h3 => ?_
  exact e_aret rfl rfl
theorem m_J20_inflate {d : Nat} {v0 : Value} {v1 : Int32} {v2 : Value} {v3 : Int32} {v4 : Int32} {h : ax_H} (hv0 : ax_rv v0 = true) (hv2 : ax_rv v2 = true) : dx_le (none) (ax_c (d + 1) 72 [v0, .int v1, v2, .int v3, .int v4] h) := by
  refine e_entry (L' := [some (v0), some (.int v1), some (v2), some (.int v3), some (.int v4)]) rfl (ag_A hv0 (ag_I (ag_A hv2 (ag_I (ag_I ag_n))))) (Nat.le_of_ble_eq_true rfl) rfl ?_
  refine e_aload rfl rfl hv0 ?_
  refine e_iload rfl rfl ?_
  refine e_aload rfl rfl hv2 ?_
  refine e_iload rfl rfl ?_
  refine e_iload rfl rfl ?_
  exact dx_none _
theorem m_J21_init {d : Nat} {v0 : Nat} {h : ax_H}  : dx_le (dx_nn (.ref v0) (some (.inl none, h))) (ax_c (d + 1) 73 [.ref v0] h) := by
  refine e_entry (L' := [some (.ref v0)]) rfl (ag_A rfl ag_n) (Nat.le_of_ble_eq_true rfl) rfl ?_
  refine e_aload rfl rfl rfl ?_
  refine e_oin rfl (Nat.le_of_ble_eq_true rfl) ?_
  exact e_ret rfl
noncomputable def B_J22_stringSize_16 (K : ax_K) (v0 : Int32) (v1 : Int32) (v2 : Int32) (v3 : Int32) (h : ax_H) : Option ax_R := ax_run K P_J22_stringSize 16 [some (.int v0), some (.int v1), some (.int v2), some (.int v3)] [] h
theorem b_J22_stringSize_16 {K : ax_K} {v0 : Int32} {v1 : Int32} {v2 : Int32} {v3 : Int32} {h : ax_H}  : dx_le (if (10 : Int32) ≤ v3 then some (.inl (some (.int (10 + v1))), h) else if v0 ≤ v2 then dx_lt (10 * v2) fun x1 => dx_lt (v3 + 1) fun x2 => B_J22_stringSize_16 K v0 v1 x1 x2 h else some (.inl (some (.int (v3 + v1))), h)) (B_J22_stringSize_16 K v0 v1 v2 v3 h) := by
  show dx_le _ (ax_run K P_J22_stringSize 16 [some (.int v0), some (.int v1), some (.int v2), some (.int v3)] [] h)
  refine e_iload rfl rfl ?_
  refine e_push rfl ?_
  refine e_if2 rfl rfl ?_ ?_
  · refine e_push rfl ?_
    refine e_iload rfl rfl ?_
    refine e_i2 rfl ?_
    exact e_iret rfl
  · refine e_iload rfl rfl ?_
    refine e_iload rfl rfl ?_
    refine e_if2 rfl rfl ?_ ?_
    · refine e_push rfl ?_
      refine e_iload rfl rfl ?_
      refine e_i2 rfl ?_
      refine e_istoreL (M := fun x1 => [some (.int v0), some (.int v1), some (.int x1), some (.int v3)]) rfl (fun _ => dx_sto (Nat.le_of_ble_eq_true rfl) (Or.inr ⟨_, rfl, rfl⟩) rfl) fun x1 => ?_
      refine e_iinc (M := fun x2 => [some (.int v0), some (.int v1), some (.int x1), some (.int x2)]) rfl rfl (fun _ => dx_sto (Nat.le_of_ble_eq_true rfl) (Or.inr ⟨_, rfl, rfl⟩) rfl) fun x2 => ?_
      refine e_goto rfl ?_
      exact e_wk mP_J22_stringSize (ll_1 (ll_1 (ll_1 (ll_1 ll_n))))
    · refine e_iload rfl rfl ?_
      refine e_iload rfl rfl ?_
      refine e_i2 rfl ?_
      exact e_iret rfl
theorem m_J22_stringSize {d : Nat} {v0 : Int32} {h : ax_H}  : dx_le (if v0 < 0 then B_J22_stringSize_16 (ax_c d) v0 1 (-10) 1 h else dx_lt (-v0) fun x1 => B_J22_stringSize_16 (ax_c d) x1 0 (-10) 1 h) (ax_c (d + 1) 74 [.int v0] h) := by
  refine e_entry (L' := [some (.int v0), none, none, none]) rfl (ag_I ag_n) (Nat.le_of_ble_eq_true rfl) rfl ?_
  refine e_push rfl ?_
  refine e_istore (L' := [some (.int v0), some (.int 1), none, none]) rfl (dx_sto (Nat.le_of_ble_eq_true rfl) (Or.inr ⟨_, rfl, rfl⟩) rfl) ?_
  refine e_iload rfl rfl ?_
  refine e_if1 rfl rfl ?_ ?_
  · refine e_push rfl ?_
    refine e_istore (L' := [some (.int v0), some (.int 1), some (.int (-10)), none]) rfl (dx_sto (Nat.le_of_ble_eq_true rfl) (Or.inr ⟨_, rfl, rfl⟩) rfl) ?_
    refine e_push rfl ?_
    refine e_istore (L' := [some (.int v0), some (.int 1), some (.int (-10)), some (.int 1)]) rfl (dx_sto (Nat.le_of_ble_eq_true rfl) (Or.inr ⟨_, rfl, rfl⟩) rfl) ?_
    exact e_wk mP_J22_stringSize (ll_1 (ll_1 (ll_1 (ll_1 ll_n))))
  · refine e_push rfl ?_
    refine e_istore (L' := [some (.int v0), some (.int 0), none, none]) rfl (dx_sto (Nat.le_of_ble_eq_true rfl) (Or.inr ⟨_, rfl, rfl⟩) rfl) ?_
    refine e_iload rfl rfl ?_
    refine e_i1 rfl ?_
    refine e_istoreL (M := fun x1 => [some (.int x1), some (.int 0), none, none]) rfl (fun _ => dx_sto (Nat.le_of_ble_eq_true rfl) (Or.inl rfl) rfl) fun x1 => ?_
    refine e_push rfl ?_
    refine e_istore (L' := [some (.int x1), some (.int 0), some (.int (-10)), none]) rfl (dx_sto (Nat.le_of_ble_eq_true rfl) (Or.inr ⟨_, rfl, rfl⟩) rfl) ?_
    refine e_push rfl ?_
    refine e_istore (L' := [some (.int x1), some (.int 0), some (.int (-10)), some (.int 1)]) rfl (dx_sto (Nat.le_of_ble_eq_true rfl) (Or.inr ⟨_, rfl, rfl⟩) rfl) ?_
    exact e_wk mP_J22_stringSize (ll_1 (ll_1 (ll_1 (ll_1 ll_n))))
noncomputable def B_J22_getChars_22 (K : ax_K) (v0 : Int32) (v2 : Value) (v5 : Int32) (v6 : Int32) (h : ax_H) : Option ax_R := ax_run K P_J22_getChars 22 [some (.int v0), none, some (v2), none, none, some (.int v5), some (.int v6)] [] h
noncomputable def B_J22_getChars_104 (K : ax_K) (v2 : Value) (v5 : Int32) (v6 : Int32) (h : ax_H) : Option ax_R := ax_run K P_J22_getChars 104 [none, none, some (v2), none, none, some (.int v5), some (.int v6)] [] h
theorem b_J22_getChars_22 {K : ax_K} {v0 : Int32} {v2 : Value} {v5 : Int32} {v6 : Int32} {h : ax_H} (hv2 : ax_rv v2 = true) : dx_le (if (-100) < v0 then dx_lt (v5 + (-1)) fun x1 => (dx_lI 3 (.ref 5) (-v0) h).bind fun x2 => (dx_sI 3 v2 x1 (vp_nar .byte x2) h).bind fun h3 => if (-9) ≤ v0 then B_J22_getChars_104 K v2 x1 v6 h3 else dx_lt (x1 + (-1)) fun x4 => (dx_lI 3 (.ref 4) (-v0) h3).bind fun x5 => (dx_sI 3 v2 x4 (vp_nar .byte x5) h3).bind fun h6 => B_J22_getChars_104 K v2 x4 v6 h6 else dx_lt (v0 / 100) fun x7 => dx_lt ((x7 * 100) - v0) fun x8 => dx_lt (v5 + (-1)) fun x9 => (dx_lI 3 (.ref 5) x8 h).bind fun x10 => (dx_sI 3 v2 x9 (vp_nar .byte x10) h).bind fun h11 => dx_lt (x9 + (-1)) fun x12 => (dx_lI 3 (.ref 4) x8 h11).bind fun x13 => (dx_sI 3 v2 x12 (vp_nar .byte x13) h11).bind fun h14 => B_J22_getChars_22 K x7 v2 x12 v6 h14) (B_J22_getChars_22 K v0 v2 v5 v6 h) := by
  show dx_le _ (ax_run K P_J22_getChars 22 [some (.int v0), none, some (v2), none, none, some (.int v5), some (.int v6)] [] h)
  refine e_iload rfl rfl ?_
  refine e_push rfl ?_
  refine e_if2 rfl rfl ?_ ?_
  · refine e_aload rfl rfl hv2 ?_
    refine e_iinc (M := fun x1 => [some (.int v0), none, some (v2), none, none, some (.int x1), some (.int v6)]) rfl rfl (fun _ => dx_sto (Nat.le_of_ble_eq_true rfl) (Or.inr ⟨_, rfl, rfl⟩) rfl) fun x1 => ?_
    refine e_iload rfl rfl ?_
    refine e_push rfl ?_
    refine e_iload rfl rfl ?_
    refine e_i1 rfl ?_
    refine e_iald rfl fun x2 => ?_
    refine e_iast (w := fun x => vp_nar .byte x) rfl fun h3 => ?_
    refine e_iload rfl rfl ?_
    refine e_push rfl ?_
    refine e_if2 rfl rfl ?_ ?_
    · exact e_wk mP_J22_getChars (ll_0 (ll_0 (ll_1 (ll_0 (ll_0 (ll_1 (ll_1 ll_n)))))))
    · refine e_aload rfl rfl hv2 ?_
      refine e_iinc (M := fun x4 => [some (.int v0), none, some (v2), none, none, some (.int x4), some (.int v6)]) rfl rfl (fun _ => dx_sto (Nat.le_of_ble_eq_true rfl) (Or.inr ⟨_, rfl, rfl⟩) rfl) fun x4 => ?_
      refine e_iload rfl rfl ?_
      refine e_push rfl ?_
      refine e_iload rfl rfl ?_
      refine e_i1 rfl ?_
      refine e_iald rfl fun x5 => ?_
      refine e_iast (w := fun x => vp_nar .byte x) rfl fun h6 => ?_
      exact e_wk mP_J22_getChars (ll_0 (ll_0 (ll_1 (ll_0 (ll_0 (ll_1 (ll_1 ll_n)))))))
  · refine e_iload rfl rfl ?_
    refine e_push rfl ?_
    refine e_idn rfl (by decide) ?_
    refine e_istoreL (M := fun x7 => [some (.int v0), none, some (v2), some (.int x7), none, some (.int v5), some (.int v6)]) rfl (fun _ => dx_sto (Nat.le_of_ble_eq_true rfl) (Or.inr ⟨_, rfl, dx_nl hv2⟩) rfl) fun x7 => ?_
    refine e_iload rfl rfl ?_
    refine e_push rfl ?_
    refine e_i2 rfl ?_
    refine e_iload rfl rfl ?_
    refine e_i2 rfl ?_
    refine e_istoreL (M := fun x8 => [some (.int v0), none, some (v2), some (.int x7), some (.int x8), some (.int v5), some (.int v6)]) rfl (fun _ => dx_sto (Nat.le_of_ble_eq_true rfl) (Or.inr ⟨_, rfl, rfl⟩) rfl) fun x8 => ?_
    refine e_iload rfl rfl ?_
    refine e_istore (L' := [some (.int x7), none, some (v2), some (.int x7), some (.int x8), some (.int v5), some (.int v6)]) rfl (dx_sto (Nat.le_of_ble_eq_true rfl) (Or.inl rfl) rfl) ?_
    refine e_aload rfl rfl hv2 ?_
    refine e_iinc (M := fun x9 => [some (.int x7), none, some (v2), some (.int x7), some (.int x8), some (.int x9), some (.int v6)]) rfl rfl (fun _ => dx_sto (Nat.le_of_ble_eq_true rfl) (Or.inr ⟨_, rfl, rfl⟩) rfl) fun x9 => ?_
    refine e_iload rfl rfl ?_
    refine e_push rfl ?_
    refine e_iload rfl rfl ?_
    refine e_iald rfl fun x10 => ?_
    refine e_iast (w := fun x => vp_nar .byte x) rfl fun h11 => ?_
    refine e_aload rfl rfl hv2 ?_
    refine e_iinc (M := fun x12 => [some (.int x7), none, some (v2), some (.int x7), some (.int x8), some (.int x12), some (.int v6)]) rfl rfl (fun _ => dx_sto (Nat.le_of_ble_eq_true rfl) (Or.inr ⟨_, rfl, rfl⟩) rfl) fun x12 => ?_
    refine e_iload rfl rfl ?_
    refine e_push rfl ?_
    refine e_iload rfl rfl ?_
    refine e_iald rfl fun x13 => ?_
    refine e_iast (w := fun x => vp_nar .byte x) rfl fun h14 => ?_
    refine e_goto rfl ?_
    exact e_wk mP_J22_getChars (ll_1 (ll_0 (ll_1 (ll_0 (ll_0 (ll_1 (ll_1 ll_n)))))))
theorem b_J22_getChars_104 {K : ax_K} {v2 : Value} {v5 : Int32} {v6 : Int32} {h : ax_H} (hv2 : ax_rv v2 = true) : dx_le (if v6 = 0 then some (.inl (some (.int v5)), h) else dx_lt (v5 + (-1)) fun x1 => (dx_sI 3 v2 x1 (vp_nar .byte 45) h).bind fun h2 => some (.inl (some (.int x1)), h2)) (B_J22_getChars_104 K v2 v5 v6 h) := by
  show dx_le _ (ax_run K P_J22_getChars 104 [none, none, some (v2), none, none, some (.int v5), some (.int v6)] [] h)
  refine e_iload rfl rfl ?_
  refine e_if1 rfl rfl ?_ ?_
  · refine e_iload rfl rfl ?_
    exact e_iret rfl
  · refine e_aload rfl rfl hv2 ?_
    refine e_iinc (M := fun x1 => [none, none, some (v2), none, none, some (.int x1), some (.int v6)]) rfl rfl (fun _ => dx_sto (Nat.le_of_ble_eq_true rfl) (Or.inr ⟨_, rfl, rfl⟩) rfl) fun x1 => ?_
    refine e_iload rfl rfl ?_
    refine e_push rfl ?_
    refine e_iast (w := fun x => vp_nar .byte x) rfl fun h2 => ?_
    refine e_iload rfl rfl ?_
    exact e_iret rfl
theorem m_J22_getChars {d : Nat} {v0 : Int32} {v1 : Int32} {v2 : Value} {h : ax_H} (hv2 : ax_rv v2 = true) : dx_le (if (0 : Int32) ≤ v0 then if ¬ (0 : Int32) = 0 then B_J22_getChars_22 (ax_c d) v0 v2 v1 0 h else dx_lt (-v0) fun x1 => B_J22_getChars_22 (ax_c d) x1 v2 v1 0 h else if ¬ (1 : Int32) = 0 then B_J22_getChars_22 (ax_c d) v0 v2 v1 1 h else dx_lt (-v0) fun x2 => B_J22_getChars_22 (ax_c d) x2 v2 v1 1 h) (ax_c (d + 1) 75 [.int v0, .int v1, v2] h) := by
  refine e_entry (L' := [some (.int v0), some (.int v1), some (v2), none, none, none, none]) rfl (ag_I (ag_I (ag_A hv2 ag_n))) (Nat.le_of_ble_eq_true rfl) rfl ?_
  refine e_iload rfl rfl ?_
  refine e_istore (L' := [some (.int v0), some (.int v1), some (v2), none, none, some (.int v1), none]) rfl (dx_sto (Nat.le_of_ble_eq_true rfl) (Or.inr ⟨_, rfl, rfl⟩) rfl) ?_
  refine e_iload rfl rfl ?_
  refine e_if1 rfl rfl ?_ ?_
  · refine e_push rfl ?_
    refine e_istore (L' := [some (.int v0), some (.int v1), some (v2), none, none, some (.int v1), some (.int 0)]) rfl (dx_sto (Nat.le_of_ble_eq_true rfl) (Or.inr ⟨_, rfl, rfl⟩) rfl) ?_
    refine e_iload rfl rfl ?_
    refine e_if1 rfl rfl ?_ ?_
    · exact e_wk mP_J22_getChars (ll_1 (ll_0 (ll_1 (ll_0 (ll_0 (ll_1 (ll_1 ll_n)))))))
    · refine e_iload rfl rfl ?_
      refine e_i1 rfl ?_
      refine e_istoreL (M := fun x1 => [some (.int x1), some (.int v1), some (v2), none, none, some (.int v1), some (.int 0)]) rfl (fun _ => dx_sto (Nat.le_of_ble_eq_true rfl) (Or.inl rfl) rfl) fun x1 => ?_
      exact e_wk mP_J22_getChars (ll_1 (ll_0 (ll_1 (ll_0 (ll_0 (ll_1 (ll_1 ll_n)))))))
  · refine e_push rfl ?_
    refine e_goto rfl ?_
    refine e_istore (L' := [some (.int v0), some (.int v1), some (v2), none, none, some (.int v1), some (.int 1)]) rfl (dx_sto (Nat.le_of_ble_eq_true rfl) (Or.inr ⟨_, rfl, rfl⟩) rfl) ?_
    refine e_iload rfl rfl ?_
    refine e_if1 rfl rfl ?_ ?_
    · exact e_wk mP_J22_getChars (ll_1 (ll_0 (ll_1 (ll_0 (ll_0 (ll_1 (ll_1 ll_n)))))))
    · refine e_iload rfl rfl ?_
      refine e_i1 rfl ?_
      refine e_istoreL (M := fun x2 => [some (.int x2), some (.int v1), some (v2), none, none, some (.int v1), some (.int 1)]) rfl (fun _ => dx_sto (Nat.le_of_ble_eq_true rfl) (Or.inl rfl) rfl) fun x2 => ?_
      exact e_wk mP_J22_getChars (ll_1 (ll_0 (ll_1 (ll_0 (ll_0 (ll_1 (ll_1 ll_n)))))))
theorem m_J22_valueOf {d : Nat} {v0 : Int32} {h : ax_H}  : dx_le (if v0 < (-128) then dx_nw h (.inr (5, [.int 0])) 1 fun a2 h1 => dx_cV ((ax_c d) 77 [.ref a2, .int v0] h1) (fun h3 => some (.inl (some (.ref a2)), h3)) dx_x0 else if (127 : Int32) < v0 then dx_nw h (.inr (5, [.int 0])) 1 fun a5 h4 => dx_cV ((ax_c d) 77 [.ref a5, .int v0] h4) (fun h6 => some (.inl (some (.ref a5)), h6)) dx_x0 else (dx_lA 6 (.ref 3) (v0 + 128) h).bind fun r7 => some (.inl (some (r7)), h)) (ax_c (d + 1) 76 [.int v0] h) := by
  refine e_entry (L' := [some (.int v0)]) rfl (ag_I ag_n) (Nat.le_of_ble_eq_true rfl) rfl ?_
  refine e_iload rfl rfl ?_
  refine e_push rfl ?_
  refine e_if2 rfl rfl ?_ ?_
  · refine e_new rfl fun a2 h1 => ?_
    refine e_dup rfl rfl ?_
    refine e_iload rfl rfl ?_
    refine e_isprV rfl rfl rfl (Nat.le_of_ble_eq_true rfl) (fun _ _ => e_x0) fun h3 => ?_
    exact e_aret rfl rfl
  · refine e_iload rfl rfl ?_
    refine e_push rfl ?_
    refine e_if2 rfl rfl ?_ ?_
    · refine e_new rfl fun a5 h4 => ?_
      refine e_dup rfl rfl ?_
      refine e_iload rfl rfl ?_
      refine e_isprV rfl rfl rfl (Nat.le_of_ble_eq_true rfl) (fun _ _ => e_x0) fun h6 => ?_
      exact e_aret rfl rfl
    · refine e_push rfl ?_
      refine e_iload rfl rfl ?_
      refine e_push rfl ?_
      refine e_i2 rfl ?_
      refine e_aald rfl fun r7 hr7 => ?_
      exact e_aret rfl hr7
theorem m_J22_init {d : Nat} {v0 : Nat} {v1 : Int32} {h : ax_H}  : dx_le (dx_cV ((ax_c d) 73 [.ref v0] h) (fun h1 => (dx_pF [(5, 0)] (.int) (.ref v0) (.int v1) h1).bind fun h2 => some (.inl none, h2)) dx_x0) (ax_c (d + 1) 77 [.ref v0, .int v1] h) := by
  refine e_entry (L' := [some (.ref v0), some (.int v1)]) rfl (ag_A rfl (ag_I ag_n)) (Nat.le_of_ble_eq_true rfl) rfl ?_
  refine e_aload rfl rfl rfl ?_
  refine e_isprV rfl rfl rfl (Nat.le_of_ble_eq_true rfl) (fun _ _ => e_x0) fun h1 => ?_
  refine e_aload rfl rfl rfl ?_
  refine e_iload rfl rfl ?_
  refine e_putf rfl fun h2 => ?_
  exact e_ret rfl
theorem m_J22_intValue {d : Nat} {v0 : Nat} {h : ax_H}  : dx_le ((dx_gI [(5, 0)] (.ref v0) h).bind fun x1 => some (.inl (some (.int x1)), h)) (ax_c (d + 1) 78 [.ref v0] h) := by
  refine e_entry (L' := [some (.ref v0)]) rfl (ag_A rfl ag_n) (Nat.le_of_ble_eq_true rfl) rfl ?_
  refine e_aload rfl rfl rfl ?_
  refine e_getI rfl fun x1 => ?_
  exact e_iret rfl
theorem m_J23_checkIndex {d : Nat} {v0 : Int32} {v1 : Int32} {h : ax_H}  : dx_le (dx_cI ((ax_c d) 57 [.int v0, .int v1, .null] h) (fun x2 h1 => some (.inl (some (.int x2)), h1)) dx_x0) (ax_c (d + 1) 79 [.int v0, .int v1] h) := by
  refine e_entry (L' := [some (.int v0), some (.int v1)]) rfl (ag_I (ag_I ag_n)) (Nat.le_of_ble_eq_true rfl) rfl ?_
  refine e_iload rfl rfl ?_
  refine e_iload rfl rfl ?_
  refine e_push rfl ?_
  refine e_isI rfl (Nat.le_of_ble_eq_true rfl) rfl rfl (Nat.le_of_ble_eq_true rfl) (fun _ _ => e_x0) fun x2 h1 => ?_
  exact e_iret rfl
theorem m_J24_init {d : Nat} {v0 : Nat} {v1 : Value} {h : ax_H} (hv1 : ax_rv v1 = true) : dx_le (dx_cV ((ax_c d) 172 [.ref v0, v1] h) (fun h1 => some (.inl none, h1)) dx_x0) (ax_c (d + 1) 80 [.ref v0, v1] h) := by
  refine e_entry (L' := [some (.ref v0), some (v1)]) rfl (ag_A rfl (ag_A hv1 ag_n)) (Nat.le_of_ble_eq_true rfl) rfl ?_
  refine e_aload rfl rfl rfl ?_
  refine e_aload rfl rfl hv1 ?_
  refine e_isprV rfl rfl rfl (Nat.le_of_ble_eq_true rfl) (fun _ _ => e_x0) fun h1 => ?_
  exact e_ret rfl
theorem m_J25_init_2 {d : Nat} {v0 : Nat} {h : ax_H}  : dx_le (dx_cV ((ax_c d) 174 [.ref v0] h) (fun h1 => some (.inl none, h1)) dx_x0) (ax_c (d + 1) 82 [.ref v0] h) := by
  refine e_entry (L' := [some (.ref v0)]) rfl (ag_A rfl ag_n) (Nat.le_of_ble_eq_true rfl) rfl ?_
  refine e_aload rfl rfl rfl ?_
  refine e_isprV rfl rfl rfl (Nat.le_of_ble_eq_true rfl) (fun _ _ => e_x0) fun h1 => ?_
  exact e_ret rfl
theorem m_J25_init_3 {d : Nat} {v0 : Nat} {v1 : Value} {h : ax_H} (hv1 : ax_rv v1 = true) : dx_le (dx_cV ((ax_c d) 172 [.ref v0, v1] h) (fun h1 => some (.inl none, h1)) dx_x0) (ax_c (d + 1) 83 [.ref v0, v1] h) := by
  refine e_entry (L' := [some (.ref v0), some (v1)]) rfl (ag_A rfl (ag_A hv1 ag_n)) (Nat.le_of_ble_eq_true rfl) rfl ?_
  refine e_aload rfl rfl rfl ?_
  refine e_aload rfl rfl hv1 ?_
  refine e_isprV rfl rfl rfl (Nat.le_of_ble_eq_true rfl) (fun _ _ => e_x0) fun h1 => ?_
  exact e_ret rfl
theorem m_J26_init {d : Nat} {v0 : Nat} {v1 : Value} {v2 : Int32} {h : ax_H} (hv1 : ax_rv v1 = true) : dx_le ((dx_pF [(8, 4)] (.object "java/util/LinkedList") (.ref v0) v1 h).bind fun h1 => dx_nn (.ref v0) ((dx_gA [(8, 4)] (.ref v0) h1).bind fun r2 => (dx_gI [(4, 0), (15, 0)] r2 h1).bind fun x3 => (dx_pF [(8, 3)] (.int) (.ref v0) (.int x3) h1).bind fun h4 => (dx_gI [(15, 1)] v1 h4).bind fun x5 => if ¬ v2 = x5 then (dx_vn [(15, 131)] v1 h4).bind fun k => dx_cR ((ax_c d) k [v1, .int v2] h4) (fun r7 h6 => (dx_pF [(8, 1)] (.object "java/util/LinkedList$Node") (.ref v0) r7 h6).bind fun h8 => (dx_pF [(8, 2)] (.int) (.ref v0) (.int v2) h8).bind fun h9 => some (.inl none, h9)) dx_x0 else (dx_pF [(8, 1)] (.object "java/util/LinkedList$Node") (.ref v0) .null h4).bind fun h10 => (dx_pF [(8, 2)] (.int) (.ref v0) (.int v2) h10).bind fun h11 => some (.inl none, h11))) (ax_c (d + 1) 84 [.ref v0, v1, .int v2] h) := by
  refine e_entry (L' := [some (.ref v0), some (v1), some (.int v2)]) rfl (ag_A rfl (ag_A hv1 (ag_I ag_n))) (Nat.le_of_ble_eq_true rfl) rfl ?_
  refine e_aload rfl rfl rfl ?_
  refine e_aload rfl rfl hv1 ?_
  refine e_putf rfl fun h1 => ?_
  refine e_aload rfl rfl rfl ?_
  refine e_oin rfl (Nat.le_of_ble_eq_true rfl) ?_
  refine e_aload rfl rfl rfl ?_
  refine e_aload rfl rfl rfl ?_
  refine e_getA rfl fun r2 hr2 => ?_
  refine e_getI rfl fun x3 => ?_
  refine e_putf rfl fun h4 => ?_
  refine e_aload rfl rfl rfl ?_
  refine e_iload rfl rfl ?_
  refine e_aload rfl rfl hv1 ?_
  refine e_getI rfl fun x5 => ?_
  refine e_if2 rfl rfl ?_ ?_
  · refine e_aload rfl rfl hv1 ?_
    refine e_iload rfl rfl ?_
    refine e_ivR rfl rfl rfl (Nat.le_of_ble_eq_true rfl) (fun _ _ => e_x0) fun r7 h6 hr7 => ?_
    refine e_putf rfl fun h8 => ?_
    refine e_aload rfl rfl rfl ?_
    refine e_iload rfl rfl ?_
    refine e_putf rfl fun h9 => ?_
    exact e_ret rfl
  · refine e_push rfl ?_
    refine e_goto rfl ?_
    refine e_putf rfl fun h10 => ?_
    refine e_aload rfl rfl rfl ?_
    refine e_iload rfl rfl ?_
    refine e_putf rfl fun h11 => ?_
    exact e_ret rfl
theorem m_J26_hasNext {d : Nat} {v0 : Nat} {h : ax_H}  : dx_le ((dx_gI [(8, 2)] (.ref v0) h).bind fun x1 => (dx_gA [(8, 4)] (.ref v0) h).bind fun r2 => (dx_gI [(15, 1)] r2 h).bind fun x3 => if x3 ≤ x1 then some (.inl (some (.int 0)), h) else some (.inl (some (.int 1)), h)) (ax_c (d + 1) 85 [.ref v0] h) := by
  refine e_entry (L' := [some (.ref v0)]) rfl (ag_A rfl ag_n) (Nat.le_of_ble_eq_true rfl) rfl ?_
  refine e_aload rfl rfl rfl ?_
  refine e_getI rfl fun x1 => ?_
  refine e_aload rfl rfl rfl ?_
  refine e_getA rfl fun r2 hr2 => ?_
  refine e_getI rfl fun x3 => ?_
  refine e_if2 rfl rfl ?_ ?_
  · refine e_push rfl ?_
    exact e_zret0 rfl
  · refine e_push rfl ?_
    refine e_goto rfl ?_
    exact e_zret1 rfl
theorem m_J26_next {d : Nat} {v0 : Nat} {h : ax_H}  : dx_le ((dx_vn [(8, 87)] (.ref v0) h).bind fun k => dx_cV ((ax_c d) k [.ref v0] h) (fun h1 => (dx_vn [(8, 85)] (.ref v0) h1).bind fun k => dx_cI ((ax_c d) k [.ref v0] h1) (fun x3 h2 => if ¬ x3 = 0 then (dx_gA [(8, 1)] (.ref v0) h2).bind fun r4 => (dx_pF [(8, 0)] (.object "java/util/LinkedList$Node") (.ref v0) r4 h2).bind fun h5 => (dx_gA [(8, 1)] (.ref v0) h5).bind fun r6 => (dx_gA [(1, 1)] r6 h5).bind fun r7 => (dx_pF [(8, 1)] (.object "java/util/LinkedList$Node") (.ref v0) r7 h5).bind fun h8 => (dx_gI [(8, 2)] (.ref v0) h8).bind fun x9 => (dx_pF [(8, 2)] (.int) (.ref v0) (.int (x9 + 1)) h8).bind fun h10 => (dx_gA [(8, 0)] (.ref v0) h10).bind fun r11 => (dx_gA [(1, 0)] r11 h10).bind fun r12 => some (.inl (some (r12)), h10) else dx_nw h2 (.inr (45, [.null])) 6 fun a14 h13 => dx_cV ((ax_c d) 82 [.ref a14] h13) (fun h15 => dx_ath hd_0 (.ref a14) h15 (fun _ _ => none)) dx_x0) dx_x0) dx_x0) (ax_c (d + 1) 86 [.ref v0] h) := by
  refine e_entry (L' := [some (.ref v0)]) rfl (ag_A rfl ag_n) (Nat.le_of_ble_eq_true rfl) rfl ?_
  refine e_aload rfl rfl rfl ?_
  refine e_ivV rfl rfl rfl (Nat.le_of_ble_eq_true rfl) (fun _ _ => e_x0) fun h1 => ?_
  refine e_aload rfl rfl rfl ?_
  refine e_ivI rfl rfl rfl (Nat.le_of_ble_eq_true rfl) (fun _ _ => e_x0) fun x3 h2 => ?_
  refine e_if1 rfl rfl ?_ ?_
  · refine e_aload rfl rfl rfl ?_
    refine e_aload rfl rfl rfl ?_
    refine e_getA rfl fun r4 hr4 => ?_
    refine e_putf rfl fun h5 => ?_
    refine e_aload rfl rfl rfl ?_
    refine e_aload rfl rfl rfl ?_
    refine e_getA rfl fun r6 hr6 => ?_
    refine e_getA rfl fun r7 hr7 => ?_
    refine e_putf rfl fun h8 => ?_
    refine e_aload rfl rfl rfl ?_
    refine e_dup rfl rfl ?_
    refine e_getI rfl fun x9 => ?_
    refine e_push rfl ?_
    refine e_i2 rfl ?_
    refine e_putf rfl fun h10 => ?_
    refine e_aload rfl rfl rfl ?_
    refine e_getA rfl fun r11 hr11 => ?_
    refine e_getA rfl fun r12 hr12 => ?_
    exact e_aret rfl hr12
  · refine e_new rfl fun a14 h13 => ?_
    refine e_dup rfl rfl ?_
    refine e_isprV rfl rfl rfl (Nat.le_of_ble_eq_true rfl) (fun _ _ => e_x0) fun h15 => ?_
    exact e_athrow rfl e_hn
theorem m_J26_checkForComodification {d : Nat} {v0 : Nat} {h : ax_H}  : dx_le ((dx_gA [(8, 4)] (.ref v0) h).bind fun r1 => (dx_gI [(4, 0), (15, 0)] r1 h).bind fun x2 => (dx_gI [(8, 3)] (.ref v0) h).bind fun x3 => if x2 = x3 then some (.inl none, h) else none) (ax_c (d + 1) 87 [.ref v0] h) := by
  refine e_entry (L' := [some (.ref v0)]) rfl (ag_A rfl ag_n) (Nat.le_of_ble_eq_true rfl) rfl ?_
  refine e_aload rfl rfl rfl ?_
  refine e_getA rfl fun r1 hr1 => ?_
  refine e_getI rfl fun x2 => ?_
  refine e_aload rfl rfl rfl ?_
  refine e_getI rfl fun x3 => ?_
  refine e_if2 rfl rfl ?_ ?_
  · exact e_ret rfl
  · exact dx_none _
theorem m_J26_hasPrevious {d : Nat} {v0 : Nat} {h : ax_H}  : dx_le ((dx_gI [(8, 2)] (.ref v0) h).bind fun x1 => if x1 ≤ 0 then some (.inl (some (.int 0)), h) else some (.inl (some (.int 1)), h)) (ax_c (d + 1) 88 [.ref v0] h) := by
  refine e_entry (L' := [some (.ref v0)]) rfl (ag_A rfl ag_n) (Nat.le_of_ble_eq_true rfl) rfl ?_
  refine e_aload rfl rfl rfl ?_
  refine e_getI rfl fun x1 => ?_
  refine e_if1 rfl rfl ?_ ?_
  · refine e_push rfl ?_
    exact e_zret0 rfl
  · refine e_push rfl ?_
    refine e_goto rfl ?_
    exact e_zret1 rfl
noncomputable def B_J26_previous_45 (K : ax_K) (s0 : Nat) (s1 : Nat) (s2 : Value) (v0 : Nat) (h : ax_H) : Option ax_R := ax_run K P_J26_previous 45 [some (.ref v0)] [s2, .ref s1, .ref s0] h
theorem b_J26_previous_45 {K : ax_K} {s0 : Nat} {s1 : Nat} {s2 : Value} {v0 : Nat} {h : ax_H} (hs2 : ax_rv s2 = true) : dx_le ((dx_pF [(8, 1)] (.object "java/util/LinkedList$Node") (.ref s1) s2 h).bind fun h1 => (dx_pF [(8, 0)] (.object "java/util/LinkedList$Node") (.ref s0) s2 h1).bind fun h2 => (dx_gI [(8, 2)] (.ref v0) h2).bind fun x3 => (dx_pF [(8, 2)] (.int) (.ref v0) (.int (x3 - 1)) h2).bind fun h4 => (dx_gA [(8, 0)] (.ref v0) h4).bind fun r5 => (dx_gA [(1, 0)] r5 h4).bind fun r6 => some (.inl (some (r6)), h4)) (B_J26_previous_45 K s0 s1 s2 v0 h) := by
  show dx_le _ (ax_run K P_J26_previous 45 [some (.ref v0)] [s2, .ref s1, .ref s0] h)
  refine e_dupx1 rfl (dx_c1 hs2) rfl ?_
  refine e_putf rfl fun h1 => ?_
  refine e_putf rfl fun h2 => ?_
  refine e_aload rfl rfl rfl ?_
  refine e_dup rfl rfl ?_
  refine e_getI rfl fun x3 => ?_
  refine e_push rfl ?_
  refine e_i2 rfl ?_
  refine e_putf rfl fun h4 => ?_
  refine e_aload rfl rfl rfl ?_
  refine e_getA rfl fun r5 hr5 => ?_
  refine e_getA rfl fun r6 hr6 => ?_
  exact e_aret rfl hr6
theorem m_J26_previous {d : Nat} {v0 : Nat} {h : ax_H}  : dx_le ((dx_vn [(8, 87)] (.ref v0) h).bind fun k => dx_cV ((ax_c d) k [.ref v0] h) (fun h1 => (dx_vn [(8, 88)] (.ref v0) h1).bind fun k => dx_cI ((ax_c d) k [.ref v0] h1) (fun x3 h2 => if ¬ x3 = 0 then (dx_gA [(8, 1)] (.ref v0) h2).bind fun r4 => dx_nul r4 ((dx_gA [(8, 4)] (.ref v0) h2).bind fun r5 => (dx_gA [(15, 3)] r5 h2).bind fun r6 => B_J26_previous_45 (ax_c d) v0 v0 r6 v0 h2) ((dx_gA [(8, 1)] (.ref v0) h2).bind fun r7 => (dx_gA [(1, 2)] r7 h2).bind fun r8 => B_J26_previous_45 (ax_c d) v0 v0 r8 v0 h2) else dx_nw h2 (.inr (45, [.null])) 6 fun a10 h9 => dx_cV ((ax_c d) 82 [.ref a10] h9) (fun h11 => dx_ath hd_0 (.ref a10) h11 (fun _ _ => none)) dx_x0) dx_x0) dx_x0) (ax_c (d + 1) 89 [.ref v0] h) := by
  refine e_entry (L' := [some (.ref v0)]) rfl (ag_A rfl ag_n) (Nat.le_of_ble_eq_true rfl) rfl ?_
  refine e_aload rfl rfl rfl ?_
  refine e_ivV rfl rfl rfl (Nat.le_of_ble_eq_true rfl) (fun _ _ => e_x0) fun h1 => ?_
  refine e_aload rfl rfl rfl ?_
  refine e_ivI rfl rfl rfl (Nat.le_of_ble_eq_true rfl) (fun _ _ => e_x0) fun x3 h2 => ?_
  refine e_if1 rfl rfl ?_ ?_
  · refine e_aload rfl rfl rfl ?_
    refine e_aload rfl rfl rfl ?_
    refine e_aload rfl rfl rfl ?_
    refine e_getA rfl fun r4 hr4 => ?_
    refine e_null rfl ?_ ?_
    · refine e_aload rfl rfl rfl ?_
      refine e_getA rfl fun r5 hr5 => ?_
      refine e_getA rfl fun r6 hr6 => ?_
      refine e_goto rfl ?_
      exact e_wk mP_J26_previous (ll_1 ll_n)
    · refine e_aload rfl rfl rfl ?_
      refine e_getA rfl fun r7 hr7 => ?_
      refine e_getA rfl fun r8 hr8 => ?_
      exact e_wk mP_J26_previous (ll_1 ll_n)
  · refine e_new rfl fun a10 h9 => ?_
    refine e_dup rfl rfl ?_
    refine e_isprV rfl rfl rfl (Nat.le_of_ble_eq_true rfl) (fun _ _ => e_x0) fun h11 => ?_
    exact e_athrow rfl e_hn
noncomputable def B_J26_add_39 (K : ax_K) (v0 : Nat) (h : ax_H) : Option ax_R := ax_run K P_J26_add 39 [some (.ref v0), none] [] h
theorem b_J26_add_39 {K : ax_K} {v0 : Nat} {h : ax_H}  : dx_le ((dx_gI [(8, 2)] (.ref v0) h).bind fun x1 => (dx_pF [(8, 2)] (.int) (.ref v0) (.int (x1 + 1)) h).bind fun h2 => (dx_gI [(8, 3)] (.ref v0) h2).bind fun x3 => (dx_pF [(8, 3)] (.int) (.ref v0) (.int (x3 + 1)) h2).bind fun h4 => some (.inl none, h4)) (B_J26_add_39 K v0 h) := by
  show dx_le _ (ax_run K P_J26_add 39 [some (.ref v0), none] [] h)
  refine e_aload rfl rfl rfl ?_
  refine e_dup rfl rfl ?_
  refine e_getI rfl fun x1 => ?_
  refine e_push rfl ?_
  refine e_i2 rfl ?_
  refine e_putf rfl fun h2 => ?_
  refine e_aload rfl rfl rfl ?_
  refine e_dup rfl rfl ?_
  refine e_getI rfl fun x3 => ?_
  refine e_push rfl ?_
  refine e_i2 rfl ?_
  refine e_putf rfl fun h4 => ?_
  exact e_ret rfl
theorem m_J26_add {d : Nat} {v0 : Nat} {v1 : Value} {h : ax_H} (hv1 : ax_rv v1 = true) : dx_le ((dx_vn [(8, 87)] (.ref v0) h).bind fun k => dx_cV ((ax_c d) k [.ref v0] h) (fun h1 => (dx_pF [(8, 0)] (.object "java/util/LinkedList$Node") (.ref v0) .null h1).bind fun h2 => (dx_gA [(8, 1)] (.ref v0) h2).bind fun r3 => dx_nul r3 ((dx_gA [(8, 4)] (.ref v0) h2).bind fun r4 => (dx_vn [(15, 133)] r4 h2).bind fun k => dx_cV ((ax_c d) k [r4, v1] h2) (fun h5 => B_J26_add_39 (ax_c d) v0 h5) dx_x0) ((dx_gA [(8, 4)] (.ref v0) h2).bind fun r6 => (dx_gA [(8, 1)] (.ref v0) h2).bind fun r7 => (dx_vn [(15, 138)] r6 h2).bind fun k => dx_cV ((ax_c d) k [r6, v1, r7] h2) (fun h8 => B_J26_add_39 (ax_c d) v0 h8) dx_x0)) dx_x0) (ax_c (d + 1) 90 [.ref v0, v1] h) := by
  refine e_entry (L' := [some (.ref v0), some (v1)]) rfl (ag_A rfl (ag_A hv1 ag_n)) (Nat.le_of_ble_eq_true rfl) rfl ?_
  refine e_aload rfl rfl rfl ?_
  refine e_ivV rfl rfl rfl (Nat.le_of_ble_eq_true rfl) (fun _ _ => e_x0) fun h1 => ?_
  refine e_aload rfl rfl rfl ?_
  refine e_push rfl ?_
  refine e_putf rfl fun h2 => ?_
  refine e_aload rfl rfl rfl ?_
  refine e_getA rfl fun r3 hr3 => ?_
  refine e_null rfl ?_ ?_
  · refine e_aload rfl rfl rfl ?_
    refine e_getA rfl fun r4 hr4 => ?_
    refine e_aload rfl rfl hv1 ?_
    refine e_ivV rfl rfl rfl (Nat.le_of_ble_eq_true rfl) (fun _ _ => e_x0) fun h5 => ?_
    refine e_goto rfl ?_
    exact e_wk mP_J26_add (ll_1 (ll_0 ll_n))
  · refine e_aload rfl rfl rfl ?_
    refine e_getA rfl fun r6 hr6 => ?_
    refine e_aload rfl rfl hv1 ?_
    refine e_aload rfl rfl rfl ?_
    refine e_getA rfl fun r7 hr7 => ?_
    refine e_ivV rfl rfl rfl (Nat.le_of_ble_eq_true rfl) (fun _ _ => e_x0) fun h8 => ?_
    exact e_wk mP_J26_add (ll_1 (ll_0 ll_n))
theorem m_J28_hasNext {d : Nat} {v0 : Nat} {h : ax_H}  : dx_le ((dx_gI [(10, 1)] (.ref v0) h).bind fun x1 => if x1 ≤ 0 then some (.inl (some (.int 0)), h) else some (.inl (some (.int 1)), h)) (ax_c (d + 1) 92 [.ref v0] h) := by
  refine e_entry (L' := [some (.ref v0)]) rfl (ag_A rfl ag_n) (Nat.le_of_ble_eq_true rfl) rfl ?_
  refine e_aload rfl rfl rfl ?_
  refine e_getI rfl fun x1 => ?_
  refine e_if1 rfl rfl ?_ ?_
  · refine e_push rfl ?_
    exact e_zret0 rfl
  · refine e_push rfl ?_
    refine e_goto rfl ?_
    exact e_zret1 rfl
theorem m_J28_init {d : Nat} {v0 : Nat} {v1 : Value} {h : ax_H} (hv1 : ax_rv v1 = true) : dx_le ((dx_pF [(10, 3)] (.object "java/util/ArrayDeque") (.ref v0) v1 h).bind fun h1 => dx_nn (.ref v0) ((dx_gA [(10, 3)] (.ref v0) h1).bind fun r2 => (dx_vn [(16, 143)] r2 h1).bind fun k => dx_cI ((ax_c d) k [r2] h1) (fun x4 h3 => (dx_pF [(10, 1)] (.int) (.ref v0) (.int x4) h3).bind fun h5 => (dx_pF [(10, 2)] (.int) (.ref v0) (.int (-1)) h5).bind fun h6 => (dx_gI [(16, 1)] v1 h6).bind fun x7 => (dx_pF [(10, 0)] (.int) (.ref v0) (.int x7) h6).bind fun h8 => some (.inl none, h8)) dx_x0)) (ax_c (d + 1) 93 [.ref v0, v1] h) := by
  refine e_entry (L' := [some (.ref v0), some (v1)]) rfl (ag_A rfl (ag_A hv1 ag_n)) (Nat.le_of_ble_eq_true rfl) rfl ?_
  refine e_aload rfl rfl rfl ?_
  refine e_aload rfl rfl hv1 ?_
  refine e_putf rfl fun h1 => ?_
  refine e_aload rfl rfl rfl ?_
  refine e_oin rfl (Nat.le_of_ble_eq_true rfl) ?_
  refine e_aload rfl rfl rfl ?_
  refine e_aload rfl rfl rfl ?_
  refine e_getA rfl fun r2 hr2 => ?_
  refine e_ivI rfl rfl rfl (Nat.le_of_ble_eq_true rfl) (fun _ _ => e_x0) fun x4 h3 => ?_
  refine e_putf rfl fun h5 => ?_
  refine e_aload rfl rfl rfl ?_
  refine e_push rfl ?_
  refine e_putf rfl fun h6 => ?_
  refine e_aload rfl rfl rfl ?_
  refine e_aload rfl rfl hv1 ?_
  refine e_getI rfl fun x7 => ?_
  refine e_putf rfl fun h8 => ?_
  exact e_ret rfl
theorem m_J29_next {d : Nat} {v0 : Nat} {h : ax_H}  : dx_le ((dx_gI [(10, 1)] (.ref v0) h).bind fun x1 => if (0 : Int32) < x1 then (dx_gA [(10, 4)] (.ref v0) h).bind fun r2 => (dx_gA [(16, 0)] r2 h).bind fun r3 => (dx_gI [(10, 0)] (.ref v0) h).bind fun x4 => dx_cR ((ax_c d) 145 [r3, .int x4] h) (fun r6 h5 => (dx_gI [(10, 0)] (.ref v0) h5).bind fun x7 => (dx_pF [(10, 2)] (.int) (.ref v0) (.int x7) h5).bind fun h8 => (dx_len r3 h8).bind fun x9 => dx_cI ((ax_c d) 146 [.int x7, .int x9] h8) (fun x11 h10 => (dx_pF [(10, 0)] (.int) (.ref v0) (.int x11) h10).bind fun h12 => (dx_gI [(10, 1)] (.ref v0) h12).bind fun x13 => (dx_pF [(10, 1)] (.int) (.ref v0) (.int (x13 - 1)) h12).bind fun h14 => some (.inl (some (r6)), h14)) dx_x0) dx_x0 else dx_nw h (.inr (45, [.null])) 6 fun a16 h15 => dx_cV ((ax_c d) 82 [.ref a16] h15) (fun h17 => dx_ath hd_0 (.ref a16) h17 (fun _ _ => none)) dx_x0) (ax_c (d + 1) 94 [.ref v0] h) := by
  refine e_entry (L' := [some (.ref v0), none, none]) rfl (ag_A rfl ag_n) (Nat.le_of_ble_eq_true rfl) rfl ?_
  refine e_aload rfl rfl rfl ?_
  refine e_getI rfl fun x1 => ?_
  refine e_if1 rfl rfl ?_ ?_
  · refine e_aload rfl rfl rfl ?_
    refine e_getA rfl fun r2 hr2 => ?_
    refine e_getA rfl fun r3 hr3 => ?_
    refine e_astore (L' := [some (.ref v0), some (r3), none]) rfl hr3 (dx_sto (Nat.le_of_ble_eq_true rfl) (Or.inr ⟨_, rfl, rfl⟩) rfl) ?_
    refine e_aload rfl rfl hr3 ?_
    refine e_aload rfl rfl rfl ?_
    refine e_getI rfl fun x4 => ?_
    refine e_isR rfl (Nat.le_of_ble_eq_true rfl) rfl rfl (Nat.le_of_ble_eq_true rfl) (fun _ _ => e_x0) fun r6 h5 hr6 => ?_
    refine e_astore (L' := [some (.ref v0), some (r3), some (r6)]) rfl hr6 (dx_sto (Nat.le_of_ble_eq_true rfl) (Or.inr ⟨_, rfl, dx_nl hr3⟩) rfl) ?_
    refine e_aload rfl rfl rfl ?_
    refine e_aload rfl rfl rfl ?_
    refine e_aload rfl rfl rfl ?_
    refine e_getI rfl fun x7 => ?_
    refine e_dupx1 rfl rfl rfl ?_
    refine e_putf rfl fun h8 => ?_
    refine e_aload rfl rfl hr3 ?_
    refine e_alen rfl fun x9 => ?_
    refine e_isI rfl (Nat.le_of_ble_eq_true rfl) rfl rfl (Nat.le_of_ble_eq_true rfl) (fun _ _ => e_x0) fun x11 h10 => ?_
    refine e_putf rfl fun h12 => ?_
    refine e_aload rfl rfl rfl ?_
    refine e_dup rfl rfl ?_
    refine e_getI rfl fun x13 => ?_
    refine e_push rfl ?_
    refine e_i2 rfl ?_
    refine e_putf rfl fun h14 => ?_
    refine e_aload rfl rfl hr6 ?_
    exact e_aret rfl hr6
  · refine e_new rfl fun a16 h15 => ?_
    refine e_dup rfl rfl ?_
    refine e_isprV rfl rfl rfl (Nat.le_of_ble_eq_true rfl) (fun _ _ => e_x0) fun h17 => ?_
    exact e_athrow rfl e_hn
theorem m_J29_init {d : Nat} {v0 : Nat} {v1 : Value} {h : ax_H} (hv1 : ax_rv v1 = true) : dx_le ((dx_pF [(10, 4)] (.object "java/util/ArrayDeque") (.ref v0) v1 h).bind fun h1 => dx_cV ((ax_c d) 93 [.ref v0, v1] h1) (fun h2 => (dx_gI [(16, 2)] v1 h2).bind fun x3 => (dx_gA [(16, 0)] v1 h2).bind fun r4 => (dx_len r4 h2).bind fun x5 => dx_cI ((ax_c d) 146 [.int x3, .int x5] h2) (fun x7 h6 => (dx_pF [(10, 0)] (.int) (.ref v0) (.int x7) h6).bind fun h8 => some (.inl none, h8)) dx_x0) dx_x0) (ax_c (d + 1) 95 [.ref v0, v1] h) := by
  refine e_entry (L' := [some (.ref v0), some (v1)]) rfl (ag_A rfl (ag_A hv1 ag_n)) (Nat.le_of_ble_eq_true rfl) rfl ?_
  refine e_aload rfl rfl rfl ?_
  refine e_aload rfl rfl hv1 ?_
  refine e_putf rfl fun h1 => ?_
  refine e_aload rfl rfl rfl ?_
  refine e_aload rfl rfl hv1 ?_
  refine e_isprV rfl rfl rfl (Nat.le_of_ble_eq_true rfl) (fun _ _ => e_x0) fun h2 => ?_
  refine e_aload rfl rfl rfl ?_
  refine e_aload rfl rfl hv1 ?_
  refine e_getI rfl fun x3 => ?_
  refine e_aload rfl rfl hv1 ?_
  refine e_getA rfl fun r4 hr4 => ?_
  refine e_alen rfl fun x5 => ?_
  refine e_isI rfl (Nat.le_of_ble_eq_true rfl) rfl rfl (Nat.le_of_ble_eq_true rfl) (fun _ _ => e_x0) fun x7 h6 => ?_
  refine e_putf rfl fun h8 => ?_
  exact e_ret rfl
theorem m_J3_init {d : Nat} {v0 : Nat} {h : ax_H}  : dx_le (dx_cV ((ax_c d) 1 [.ref v0] h) (fun h1 => some (.inl none, h1)) dx_x0) (ax_c (d + 1) 96 [.ref v0] h) := by
  refine e_entry (L' := [some (.ref v0)]) rfl (ag_A rfl ag_n) (Nat.le_of_ble_eq_true rfl) rfl ?_
  refine e_aload rfl rfl rfl ?_
  refine e_isprV rfl rfl rfl (Nat.le_of_ble_eq_true rfl) (fun _ _ => e_x0) fun h1 => ?_
  exact e_ret rfl
theorem m_J31_init {d : Nat} {v0 : Nat} {v1 : Int32} {h : ax_H}  : dx_le (dx_nn (.ref v0) ((dx_pF [(12, 1)] (.int) (.ref v0) (.int 0) h).bind fun h1 => (dx_pF [(12, 2)] (.boolean) (.ref v0) (.int 0) h1).bind fun h2 => if (0 : Int32) ≤ v1 then (dx_vn [(12, 100)] (.ref v0) h2).bind fun k => dx_cV ((ax_c d) k [.ref v0, .int v1] h2) (fun h3 => (dx_pF [(12, 2)] (.boolean) (.ref v0) (.int 1) h3).bind fun h4 => some (.inl none, h4)) dx_x0 else none)) (ax_c (d + 1) 99 [.ref v0, .int v1] h) := by
  refine e_entry (L' := [some (.ref v0), some (.int v1)]) rfl (ag_A rfl (ag_I ag_n)) (Nat.le_of_ble_eq_true rfl) rfl ?_
  refine e_aload rfl rfl rfl ?_
  refine e_oin rfl (Nat.le_of_ble_eq_true rfl) ?_
  refine e_aload rfl rfl rfl ?_
  refine e_push rfl ?_
  refine e_putf rfl fun h1 => ?_
  refine e_aload rfl rfl rfl ?_
  refine e_push rfl ?_
  refine e_putf rfl fun h2 => ?_
  refine e_iload rfl rfl ?_
  refine e_if1 rfl rfl ?_ ?_
  · refine e_aload rfl rfl rfl ?_
    refine e_iload rfl rfl ?_
    refine e_ivV rfl rfl rfl (Nat.le_of_ble_eq_true rfl) (fun _ _ => e_x0) fun h3 => ?_
    refine e_aload rfl rfl rfl ?_
    refine e_push rfl ?_
    refine e_putf rfl fun h4 => ?_
    exact e_ret rfl
  · exact dx_none _
theorem m_J31_initWords {d : Nat} {v0 : Nat} {v1 : Int32} {h : ax_H}  : dx_le (dx_cI ((ax_c d) 101 [.int (v1 - 1)] h) (fun x2 h1 => dx_na 1 1 (x2 + 1) h1 fun a4 h3 => (dx_pF [(12, 0)] (.array (.long)) (.ref v0) (.ref a4) h3).bind fun h5 => some (.inl none, h5)) dx_x0) (ax_c (d + 1) 100 [.ref v0, .int v1] h) := by
  refine e_entry (L' := [some (.ref v0), some (.int v1)]) rfl (ag_A rfl (ag_I ag_n)) (Nat.le_of_ble_eq_true rfl) rfl ?_
  refine e_aload rfl rfl rfl ?_
  refine e_iload rfl rfl ?_
  refine e_push rfl ?_
  refine e_i2 rfl ?_
  refine e_isI rfl (Nat.le_of_ble_eq_true rfl) rfl rfl (Nat.le_of_ble_eq_true rfl) (fun _ _ => e_x0) fun x2 h1 => ?_
  refine e_push rfl ?_
  refine e_i2 rfl ?_
  refine e_newa rfl fun a4 h3 => ?_
  refine e_putf rfl fun h5 => ?_
  exact e_ret rfl
theorem m_J31_wordIndex {d : Nat} {v0 : Int32} {h : ax_H}  : dx_le (some (.inl (some (.int (dx_shr v0 6))), h)) (ax_c (d + 1) 101 [.int v0] h) := by
  refine e_entry (L' := [some (.int v0)]) rfl (ag_I ag_n) (Nat.le_of_ble_eq_true rfl) rfl ?_
  refine e_iload rfl rfl ?_
  refine e_push rfl ?_
  refine e_shr rfl ?_
  exact e_iret rfl
noncomputable def B_J31_set_84 (K : ax_K) (v0 : Nat) (v4 : Int32) (v7 : Int64) (v9 : Int32) (h : ax_H) : Option ax_R := ax_run K P_J31_set 84 [some (.ref v0), none, none, none, some (.int v4), none, none, some (.long v7), none, some (.int v9)] [] h
theorem b_J31_set_84 {K : ax_K} {v0 : Nat} {v4 : Int32} {v7 : Int64} {v9 : Int32} {h : ax_H}  : dx_le (if v4 ≤ v9 then (dx_gA [(12, 0)] (.ref v0) h).bind fun r1 => (dx_lJ 1 r1 v4 h).bind fun j2 => (dx_sJ 1 r1 v4 (j2 ||| v7) h).bind fun h3 => (dx_vn [(12, 106)] (.ref v0) h3).bind fun k => dx_cV (K k [.ref v0] h3) (fun h4 => some (.inl none, h4)) dx_x0 else (dx_gA [(12, 0)] (.ref v0) h).bind fun r5 => (dx_sJ 1 r5 v9 (-1) h).bind fun h6 => dx_lt (v9 + 1) fun x7 => B_J31_set_84 K v0 v4 v7 x7 h6) (B_J31_set_84 K v0 v4 v7 v9 h) := by
  show dx_le _ (ax_run K P_J31_set 84 [some (.ref v0), none, none, none, some (.int v4), none, none, some (.long v7), none, some (.int v9)] [] h)
  refine e_iload rfl rfl ?_
  refine e_iload rfl rfl ?_
  refine e_if2 rfl rfl ?_ ?_
  · refine e_aload rfl rfl rfl ?_
    refine e_getA rfl fun r1 hr1 => ?_
    refine e_iload rfl rfl ?_
    refine e_dup2 rfl rfl (dx_c1 hr1) ?_
    refine e_lald rfl fun j2 => ?_
    refine e_lload rfl rfl ?_
    refine e_l2 rfl ?_
    refine e_last rfl fun h3 => ?_
    refine e_aload rfl rfl rfl ?_
    refine e_ivV rfl rfl rfl (Nat.le_of_ble_eq_true rfl) (fun _ _ => e_x0) fun h4 => ?_
    exact e_ret rfl
  · refine e_aload rfl rfl rfl ?_
    refine e_getA rfl fun r5 hr5 => ?_
    refine e_iload rfl rfl ?_
    refine e_push rfl ?_
    refine e_last rfl fun h6 => ?_
    refine e_iinc (M := fun x7 => [some (.ref v0), none, none, none, some (.int v4), none, none, some (.long v7), none, some (.int x7)]) rfl rfl (fun _ => dx_sto (Nat.le_of_ble_eq_true rfl) (Or.inr ⟨_, rfl, rfl⟩) rfl) fun x7 => ?_
    refine e_goto rfl ?_
    exact e_wk mP_J31_set (ll_1 (ll_0 (ll_0 (ll_0 (ll_1 (ll_0 (ll_0 (ll_1 (ll_0 (ll_1 ll_n))))))))))
theorem m_J31_set {d : Nat} {v0 : Nat} {v1 : Int32} {v2 : Int32} {h : ax_H}  : dx_le (dx_cV ((ax_c d) 103 [.int v1, .int v2] h) (fun h1 => if ¬ v1 = v2 then dx_cI ((ax_c d) 101 [.int v1] h1) (fun x3 h2 => dx_cI ((ax_c d) 101 [.int (v2 - 1)] h2) (fun x5 h4 => (dx_vn [(12, 104)] (.ref v0) h4).bind fun k => dx_cV ((ax_c d) k [.ref v0, .int x5] h4) (fun h6 => dx_lt (dx_lshl (-1) v1) fun j7 => dx_lt (dx_lushr (-1) (-v2)) fun j8 => if ¬ x3 = x5 then (dx_gA [(12, 0)] (.ref v0) h6).bind fun r9 => (dx_lJ 1 r9 x3 h6).bind fun j10 => (dx_sJ 1 r9 x3 (j10 ||| j7) h6).bind fun h11 => dx_lt (x3 + 1) fun x12 => B_J31_set_84 (ax_c d) v0 x5 j8 x12 h11 else (dx_gA [(12, 0)] (.ref v0) h6).bind fun r13 => (dx_lJ 1 r13 x3 h6).bind fun j14 => (dx_sJ 1 r13 x3 (j14 ||| (j7 &&& j8)) h6).bind fun h15 => (dx_vn [(12, 106)] (.ref v0) h15).bind fun k => dx_cV ((ax_c d) k [.ref v0] h15) (fun h16 => some (.inl none, h16)) dx_x0) dx_x0) dx_x0) dx_x0 else some (.inl none, h1)) dx_x0) (ax_c (d + 1) 102 [.ref v0, .int v1, .int v2] h) := by
  refine e_entry (L' := [some (.ref v0), some (.int v1), some (.int v2), none, none, none, none, none, none, none]) rfl (ag_A rfl (ag_I (ag_I ag_n))) (Nat.le_of_ble_eq_true rfl) rfl ?_
  refine e_iload rfl rfl ?_
  refine e_iload rfl rfl ?_
  refine e_isV rfl (Nat.le_of_ble_eq_true rfl) rfl rfl (Nat.le_of_ble_eq_true rfl) (fun _ _ => e_x0) fun h1 => ?_
  refine e_iload rfl rfl ?_
  refine e_iload rfl rfl ?_
  refine e_if2 rfl rfl ?_ ?_
  · refine e_iload rfl rfl ?_
    refine e_isI rfl (Nat.le_of_ble_eq_true rfl) rfl rfl (Nat.le_of_ble_eq_true rfl) (fun _ _ => e_x0) fun x3 h2 => ?_
    refine e_istore (L' := [some (.ref v0), some (.int v1), some (.int v2), some (.int x3), none, none, none, none, none, none]) rfl (dx_sto (Nat.le_of_ble_eq_true rfl) (Or.inr ⟨_, rfl, rfl⟩) rfl) ?_
    refine e_iload rfl rfl ?_
    refine e_push rfl ?_
    refine e_i2 rfl ?_
    refine e_isI rfl (Nat.le_of_ble_eq_true rfl) rfl rfl (Nat.le_of_ble_eq_true rfl) (fun _ _ => e_x0) fun x5 h4 => ?_
    refine e_istore (L' := [some (.ref v0), some (.int v1), some (.int v2), some (.int x3), some (.int x5), none, none, none, none, none]) rfl (dx_sto (Nat.le_of_ble_eq_true rfl) (Or.inr ⟨_, rfl, rfl⟩) rfl) ?_
    refine e_aload rfl rfl rfl ?_
    refine e_iload rfl rfl ?_
    refine e_ivV rfl rfl rfl (Nat.le_of_ble_eq_true rfl) (fun _ _ => e_x0) fun h6 => ?_
    refine e_push rfl ?_
    refine e_iload rfl rfl ?_
    refine e_lshl rfl ?_
    refine e_lstoreL (M := fun j7 => [some (.ref v0), some (.int v1), some (.int v2), some (.int x3), some (.int x5), some (.long j7), none, none, none, none]) rfl (fun _ => dx_sto2 (Nat.le_of_ble_eq_true rfl) (Or.inr ⟨_, rfl, rfl⟩) rfl) fun j7 => ?_
    refine e_push rfl ?_
    refine e_iload rfl rfl ?_
    refine e_i1 rfl ?_
    refine e_lushr rfl ?_
    refine e_lstoreL (M := fun j8 => [some (.ref v0), some (.int v1), some (.int v2), some (.int x3), some (.int x5), some (.long j7), none, some (.long j8), none, none]) rfl (fun _ => dx_sto2 (Nat.le_of_ble_eq_true rfl) (Or.inr ⟨_, rfl, rfl⟩) rfl) fun j8 => ?_
    refine e_iload rfl rfl ?_
    refine e_iload rfl rfl ?_
    refine e_if2 rfl rfl ?_ ?_
    · refine e_aload rfl rfl rfl ?_
      refine e_getA rfl fun r9 hr9 => ?_
      refine e_iload rfl rfl ?_
      refine e_dup2 rfl rfl (dx_c1 hr9) ?_
      refine e_lald rfl fun j10 => ?_
      refine e_lload rfl rfl ?_
      refine e_l2 rfl ?_
      refine e_last rfl fun h11 => ?_
      refine e_iload rfl rfl ?_
      refine e_push rfl ?_
      refine e_i2 rfl ?_
      refine e_istoreL (M := fun x12 => [some (.ref v0), some (.int v1), some (.int v2), some (.int x3), some (.int x5), some (.long j7), none, some (.long j8), none, some (.int x12)]) rfl (fun _ => dx_sto (Nat.le_of_ble_eq_true rfl) (Or.inr ⟨_, rfl, rfl⟩) rfl) fun x12 => ?_
      exact e_wk mP_J31_set (ll_1 (ll_0 (ll_0 (ll_0 (ll_1 (ll_0 (ll_0 (ll_1 (ll_0 (ll_1 ll_n))))))))))
    · refine e_aload rfl rfl rfl ?_
      refine e_getA rfl fun r13 hr13 => ?_
      refine e_iload rfl rfl ?_
      refine e_dup2 rfl rfl (dx_c1 hr13) ?_
      refine e_lald rfl fun j14 => ?_
      refine e_lload rfl rfl ?_
      refine e_lload rfl rfl ?_
      refine e_l2 rfl ?_
      refine e_l2 rfl ?_
      refine e_last rfl fun h15 => ?_
      refine e_goto rfl ?_
      refine e_aload rfl rfl rfl ?_
      refine e_ivV rfl rfl rfl (Nat.le_of_ble_eq_true rfl) (fun _ _ => e_x0) fun h16 => ?_
      exact e_ret rfl
  · exact e_ret rfl
theorem m_J31_checkRange {d : Nat} {v0 : Int32} {v1 : Int32} {h : ax_H}  : dx_le (if (0 : Int32) ≤ v0 then if (0 : Int32) ≤ v1 then if v0 ≤ v1 then some (.inl none, h) else dx_nw h (.inr (46, [.null])) 6 fun a2 h1 => dx_nw h1 (.inr (2, [.null, .int 0, .int 0, .int 0])) 4 fun a4 h3 => dx_cV ((ax_c d) 29 [.ref a4] h3) (fun h5 => none) dx_x0 else dx_nw h (.inr (46, [.null])) 6 fun a7 h6 => dx_nw h6 (.inr (2, [.null, .int 0, .int 0, .int 0])) 4 fun a9 h8 => dx_cV ((ax_c d) 29 [.ref a9] h8) (fun h10 => none) dx_x0 else dx_nw h (.inr (46, [.null])) 6 fun a12 h11 => dx_nw h11 (.inr (2, [.null, .int 0, .int 0, .int 0])) 4 fun a14 h13 => dx_cV ((ax_c d) 29 [.ref a14] h13) (fun h15 => none) dx_x0) (ax_c (d + 1) 103 [.int v0, .int v1] h) := by
  refine e_entry (L' := [some (.int v0), some (.int v1)]) rfl (ag_I (ag_I ag_n)) (Nat.le_of_ble_eq_true rfl) rfl ?_
  refine e_iload rfl rfl ?_
  refine e_if1 rfl rfl ?_ ?_
  · refine e_iload rfl rfl ?_
    refine e_if1 rfl rfl ?_ ?_
    · refine e_iload rfl rfl ?_
      refine e_iload rfl rfl ?_
      refine e_if2 rfl rfl ?_ ?_
      · exact e_ret rfl
      · refine e_new rfl fun a2 h1 => ?_
        refine e_dup rfl rfl ?_
        refine e_new rfl fun a4 h3 => ?_
        refine e_dup rfl rfl ?_
        refine e_isprV rfl rfl rfl (Nat.le_of_ble_eq_true rfl) (fun _ _ => e_x0) fun h5 => ?_
        exact dx_none _
    · refine e_new rfl fun a7 h6 => ?_
      refine e_dup rfl rfl ?_
      refine e_new rfl fun a9 h8 => ?_
      refine e_dup rfl rfl ?_
      refine e_isprV rfl rfl rfl (Nat.le_of_ble_eq_true rfl) (fun _ _ => e_x0) fun h10 => ?_
      exact dx_none _
  · refine e_new rfl fun a12 h11 => ?_
    refine e_dup rfl rfl ?_
    refine e_new rfl fun a14 h13 => ?_
    refine e_dup rfl rfl ?_
    refine e_isprV rfl rfl rfl (Nat.le_of_ble_eq_true rfl) (fun _ _ => e_x0) fun h15 => ?_
    exact dx_none _
theorem m_J31_expandTo {d : Nat} {v0 : Nat} {v1 : Int32} {h : ax_H}  : dx_le (dx_lt (v1 + 1) fun x1 => (dx_gI [(12, 1)] (.ref v0) h).bind fun x2 => if x1 ≤ x2 then some (.inl none, h) else (dx_vn [(12, 105)] (.ref v0) h).bind fun k => dx_cV ((ax_c d) k [.ref v0, .int x1] h) (fun h3 => (dx_pF [(12, 1)] (.int) (.ref v0) (.int x1) h3).bind fun h4 => some (.inl none, h4)) dx_x0) (ax_c (d + 1) 104 [.ref v0, .int v1] h) := by
  refine e_entry (L' := [some (.ref v0), some (.int v1), none]) rfl (ag_A rfl (ag_I ag_n)) (Nat.le_of_ble_eq_true rfl) rfl ?_
  refine e_iload rfl rfl ?_
  refine e_push rfl ?_
  refine e_i2 rfl ?_
  refine e_istoreL (M := fun x1 => [some (.ref v0), some (.int v1), some (.int x1)]) rfl (fun _ => dx_sto (Nat.le_of_ble_eq_true rfl) (Or.inr ⟨_, rfl, rfl⟩) rfl) fun x1 => ?_
  refine e_aload rfl rfl rfl ?_
  refine e_getI rfl fun x2 => ?_
  refine e_iload rfl rfl ?_
  refine e_if2 rfl rfl ?_ ?_
  · exact e_ret rfl
  · refine e_aload rfl rfl rfl ?_
    refine e_iload rfl rfl ?_
    refine e_ivV rfl rfl rfl (Nat.le_of_ble_eq_true rfl) (fun _ _ => e_x0) fun h3 => ?_
    refine e_aload rfl rfl rfl ?_
    refine e_iload rfl rfl ?_
    refine e_putf rfl fun h4 => ?_
    exact e_ret rfl
theorem m_J31_ensureCapacity {d : Nat} {v0 : Nat} {v1 : Int32} {h : ax_H}  : dx_le ((dx_gA [(12, 0)] (.ref v0) h).bind fun r1 => (dx_len r1 h).bind fun x2 => if v1 ≤ x2 then some (.inl none, h) else (dx_gA [(12, 0)] (.ref v0) h).bind fun r3 => (dx_len r3 h).bind fun x4 => dx_lt (dx_max (2 * x4) v1) fun x5 => (dx_gA [(12, 0)] (.ref v0) h).bind fun r6 => dx_cR ((ax_c d) 15 [r6, .int x5] h) (fun r8 h7 => (dx_pF [(12, 0)] (.array (.long)) (.ref v0) r8 h7).bind fun h9 => (dx_pF [(12, 2)] (.boolean) (.ref v0) (.int 0) h9).bind fun h10 => some (.inl none, h10)) dx_x0) (ax_c (d + 1) 105 [.ref v0, .int v1] h) := by
  refine e_entry (L' := [some (.ref v0), some (.int v1), none]) rfl (ag_A rfl (ag_I ag_n)) (Nat.le_of_ble_eq_true rfl) rfl ?_
  refine e_aload rfl rfl rfl ?_
  refine e_getA rfl fun r1 hr1 => ?_
  refine e_alen rfl fun x2 => ?_
  refine e_iload rfl rfl ?_
  refine e_if2 rfl rfl ?_ ?_
  · exact e_ret rfl
  · refine e_push rfl ?_
    refine e_aload rfl rfl rfl ?_
    refine e_getA rfl fun r3 hr3 => ?_
    refine e_alen rfl fun x4 => ?_
    refine e_i2 rfl ?_
    refine e_iload rfl rfl ?_
    refine e_max rfl (Nat.le_of_ble_eq_true rfl) ?_
    refine e_istoreL (M := fun x5 => [some (.ref v0), some (.int v1), some (.int x5)]) rfl (fun _ => dx_sto (Nat.le_of_ble_eq_true rfl) (Or.inr ⟨_, rfl, rfl⟩) rfl) fun x5 => ?_
    refine e_aload rfl rfl rfl ?_
    refine e_aload rfl rfl rfl ?_
    refine e_getA rfl fun r6 hr6 => ?_
    refine e_iload rfl rfl ?_
    refine e_isR rfl (Nat.le_of_ble_eq_true rfl) rfl rfl (Nat.le_of_ble_eq_true rfl) (fun _ _ => e_x0) fun r8 h7 hr8 => ?_
    refine e_putf rfl fun h9 => ?_
    refine e_aload rfl rfl rfl ?_
    refine e_push rfl ?_
    refine e_putf rfl fun h10 => ?_
    exact e_ret rfl
noncomputable def B_J31_checkInvariants_37 (K : ax_K) (v0 : Nat) (h : ax_H) : Option ax_R := ax_run K P_J31_checkInvariants 37 [some (.ref v0)] [] h
noncomputable def B_J31_checkInvariants_70 (K : ax_K) (v0 : Nat) (h : ax_H) : Option ax_R := ax_run K P_J31_checkInvariants 70 [some (.ref v0)] [] h
theorem b_J31_checkInvariants_37 {K : ax_K} {v0 : Nat} {h : ax_H}  : dx_le (if ¬ (1 : Int32) = 0 then B_J31_checkInvariants_70 K v0 h else (dx_gI [(12, 1)] (.ref v0) h).bind fun x1 => if x1 < 0 then none else (dx_gI [(12, 1)] (.ref v0) h).bind fun x2 => (dx_gA [(12, 0)] (.ref v0) h).bind fun r3 => (dx_len r3 h).bind fun x4 => if x2 ≤ x4 then B_J31_checkInvariants_70 K v0 h else none) (B_J31_checkInvariants_37 K v0 h) := by
  show dx_le _ (ax_run K P_J31_checkInvariants 37 [some (.ref v0)] [] h)
  refine e_push rfl ?_
  refine e_if1 rfl rfl ?_ ?_
  · exact e_wk mP_J31_checkInvariants (ll_1 ll_n)
  · refine e_aload rfl rfl rfl ?_
    refine e_getI rfl fun x1 => ?_
    refine e_if1 rfl rfl ?_ ?_
    · exact dx_none _
    · refine e_aload rfl rfl rfl ?_
      refine e_getI rfl fun x2 => ?_
      refine e_aload rfl rfl rfl ?_
      refine e_getA rfl fun r3 hr3 => ?_
      refine e_alen rfl fun x4 => ?_
      refine e_if2 rfl rfl ?_ ?_
      · exact e_wk mP_J31_checkInvariants (ll_1 ll_n)
      · exact dx_none _
theorem b_J31_checkInvariants_70 {K : ax_K} {v0 : Nat} {h : ax_H}  : dx_le (if ¬ (1 : Int32) = 0 then some (.inl none, h) else (dx_gI [(12, 1)] (.ref v0) h).bind fun x1 => (dx_gA [(12, 0)] (.ref v0) h).bind fun r2 => (dx_len r2 h).bind fun x3 => if x1 = x3 then some (.inl none, h) else (dx_gA [(12, 0)] (.ref v0) h).bind fun r4 => (dx_gI [(12, 1)] (.ref v0) h).bind fun x5 => (dx_lJ 1 r4 x5 h).bind fun j6 => if (lg_cmp j6 0) = 0 then some (.inl none, h) else none) (B_J31_checkInvariants_70 K v0 h) := by
  show dx_le _ (ax_run K P_J31_checkInvariants 70 [some (.ref v0)] [] h)
  refine e_push rfl ?_
  refine e_if1 rfl rfl ?_ ?_
  · exact e_ret rfl
  · refine e_aload rfl rfl rfl ?_
    refine e_getI rfl fun x1 => ?_
    refine e_aload rfl rfl rfl ?_
    refine e_getA rfl fun r2 hr2 => ?_
    refine e_alen rfl fun x3 => ?_
    refine e_if2 rfl rfl ?_ ?_
    · exact e_ret rfl
    · refine e_aload rfl rfl rfl ?_
      refine e_getA rfl fun r4 hr4 => ?_
      refine e_aload rfl rfl rfl ?_
      refine e_getI rfl fun x5 => ?_
      refine e_lald rfl fun j6 => ?_
      refine e_push rfl ?_
      refine e_lcmp rfl ?_
      refine e_if1 rfl rfl ?_ ?_
      · exact e_ret rfl
      · exact dx_none _
theorem m_J31_checkInvariants {d : Nat} {v0 : Nat} {h : ax_H}  : dx_le (if ¬ (1 : Int32) = 0 then B_J31_checkInvariants_37 (ax_c d) v0 h else (dx_gI [(12, 1)] (.ref v0) h).bind fun x1 => if x1 = 0 then B_J31_checkInvariants_37 (ax_c d) v0 h else (dx_gA [(12, 0)] (.ref v0) h).bind fun r2 => (dx_gI [(12, 1)] (.ref v0) h).bind fun x3 => (dx_lJ 1 r2 (x3 - 1) h).bind fun j4 => if ¬ (lg_cmp j4 0) = 0 then B_J31_checkInvariants_37 (ax_c d) v0 h else none) (ax_c (d + 1) 106 [.ref v0] h) := by
  refine e_entry (L' := [some (.ref v0)]) rfl (ag_A rfl ag_n) (Nat.le_of_ble_eq_true rfl) rfl ?_
  refine e_push rfl ?_
  refine e_if1 rfl rfl ?_ ?_
  · exact e_wk mP_J31_checkInvariants (ll_1 ll_n)
  · refine e_aload rfl rfl rfl ?_
    refine e_getI rfl fun x1 => ?_
    refine e_if1 rfl rfl ?_ ?_
    · exact e_wk mP_J31_checkInvariants (ll_1 ll_n)
    · refine e_aload rfl rfl rfl ?_
      refine e_getA rfl fun r2 hr2 => ?_
      refine e_aload rfl rfl rfl ?_
      refine e_getI rfl fun x3 => ?_
      refine e_push rfl ?_
      refine e_i2 rfl ?_
      refine e_lald rfl fun j4 => ?_
      refine e_push rfl ?_
      refine e_lcmp rfl ?_
      refine e_if1 rfl rfl ?_ ?_
      · exact e_wk mP_J31_checkInvariants (ll_1 ll_n)
      · exact dx_none _
theorem m_J31_get {d : Nat} {v0 : Nat} {v1 : Int32} {h : ax_H}  : dx_le (if (0 : Int32) ≤ v1 then (dx_vn [(12, 106)] (.ref v0) h).bind fun k => dx_cV ((ax_c d) k [.ref v0] h) (fun h1 => dx_cI ((ax_c d) 101 [.int v1] h1) (fun x3 h2 => (dx_gI [(12, 1)] (.ref v0) h2).bind fun x4 => if x4 ≤ x3 then some (.inl (some (.int 0)), h2) else (dx_gA [(12, 0)] (.ref v0) h2).bind fun r5 => (dx_lJ 1 r5 x3 h2).bind fun j6 => if (lg_cmp (j6 &&& (dx_lshl 1 v1)) 0) = 0 then some (.inl (some (.int 0)), h2) else some (.inl (some (.int 1)), h2)) dx_x0) dx_x0 else dx_nw h (.inr (46, [.null])) 6 fun a8 h7 => dx_nw h7 (.inr (2, [.null, .int 0, .int 0, .int 0])) 4 fun a10 h9 => dx_cV ((ax_c d) 29 [.ref a10] h9) (fun h11 => none) dx_x0) (ax_c (d + 1) 107 [.ref v0, .int v1] h) := by
  refine e_entry (L' := [some (.ref v0), some (.int v1), none]) rfl (ag_A rfl (ag_I ag_n)) (Nat.le_of_ble_eq_true rfl) rfl ?_
  refine e_iload rfl rfl ?_
  refine e_if1 rfl rfl ?_ ?_
  · refine e_aload rfl rfl rfl ?_
    refine e_ivV rfl rfl rfl (Nat.le_of_ble_eq_true rfl) (fun _ _ => e_x0) fun h1 => ?_
    refine e_iload rfl rfl ?_
    refine e_isI rfl (Nat.le_of_ble_eq_true rfl) rfl rfl (Nat.le_of_ble_eq_true rfl) (fun _ _ => e_x0) fun x3 h2 => ?_
    refine e_istore (L' := [some (.ref v0), some (.int v1), some (.int x3)]) rfl (dx_sto (Nat.le_of_ble_eq_true rfl) (Or.inr ⟨_, rfl, rfl⟩) rfl) ?_
    refine e_iload rfl rfl ?_
    refine e_aload rfl rfl rfl ?_
    refine e_getI rfl fun x4 => ?_
    refine e_if2 rfl rfl ?_ ?_
    · refine e_push rfl ?_
      exact e_zret0 rfl
    · refine e_aload rfl rfl rfl ?_
      refine e_getA rfl fun r5 hr5 => ?_
      refine e_iload rfl rfl ?_
      refine e_lald rfl fun j6 => ?_
      refine e_push rfl ?_
      refine e_iload rfl rfl ?_
      refine e_lshl rfl ?_
      refine e_l2 rfl ?_
      refine e_push rfl ?_
      refine e_lcmp rfl ?_
      refine e_if1 rfl rfl ?_ ?_
      · refine e_push rfl ?_
        exact e_zret0 rfl
      · refine e_push rfl ?_
        refine e_goto rfl ?_
        exact e_zret1 rfl
  · refine e_new rfl fun a8 h7 => ?_
    refine e_dup rfl rfl ?_
    refine e_new rfl fun a10 h9 => ?_
    refine e_dup rfl rfl ?_
    refine e_isprV rfl rfl rfl (Nat.le_of_ble_eq_true rfl) (fun _ _ => e_x0) fun h11 => ?_
    exact dx_none _
theorem m_J31_set_2 {d : Nat} {v0 : Nat} {v1 : Int32} {h : ax_H}  : dx_le (if (0 : Int32) ≤ v1 then dx_cI ((ax_c d) 101 [.int v1] h) (fun x2 h1 => (dx_vn [(12, 104)] (.ref v0) h1).bind fun k => dx_cV ((ax_c d) k [.ref v0, .int x2] h1) (fun h3 => (dx_gA [(12, 0)] (.ref v0) h3).bind fun r4 => (dx_lJ 1 r4 x2 h3).bind fun j5 => (dx_sJ 1 r4 x2 (j5 ||| (dx_lshl 1 v1)) h3).bind fun h6 => (dx_vn [(12, 106)] (.ref v0) h6).bind fun k => dx_cV ((ax_c d) k [.ref v0] h6) (fun h7 => some (.inl none, h7)) dx_x0) dx_x0) dx_x0 else dx_nw h (.inr (46, [.null])) 6 fun a9 h8 => dx_nw h8 (.inr (2, [.null, .int 0, .int 0, .int 0])) 4 fun a11 h10 => dx_cV ((ax_c d) 29 [.ref a11] h10) (fun h12 => none) dx_x0) (ax_c (d + 1) 108 [.ref v0, .int v1] h) := by
  refine e_entry (L' := [some (.ref v0), some (.int v1), none]) rfl (ag_A rfl (ag_I ag_n)) (Nat.le_of_ble_eq_true rfl) rfl ?_
  refine e_iload rfl rfl ?_
  refine e_if1 rfl rfl ?_ ?_
  · refine e_iload rfl rfl ?_
    refine e_isI rfl (Nat.le_of_ble_eq_true rfl) rfl rfl (Nat.le_of_ble_eq_true rfl) (fun _ _ => e_x0) fun x2 h1 => ?_
    refine e_istore (L' := [some (.ref v0), some (.int v1), some (.int x2)]) rfl (dx_sto (Nat.le_of_ble_eq_true rfl) (Or.inr ⟨_, rfl, rfl⟩) rfl) ?_
    refine e_aload rfl rfl rfl ?_
    refine e_iload rfl rfl ?_
    refine e_ivV rfl rfl rfl (Nat.le_of_ble_eq_true rfl) (fun _ _ => e_x0) fun h3 => ?_
    refine e_aload rfl rfl rfl ?_
    refine e_getA rfl fun r4 hr4 => ?_
    refine e_iload rfl rfl ?_
    refine e_dup2 rfl rfl (dx_c1 hr4) ?_
    refine e_lald rfl fun j5 => ?_
    refine e_push rfl ?_
    refine e_iload rfl rfl ?_
    refine e_lshl rfl ?_
    refine e_l2 rfl ?_
    refine e_last rfl fun h6 => ?_
    refine e_aload rfl rfl rfl ?_
    refine e_ivV rfl rfl rfl (Nat.le_of_ble_eq_true rfl) (fun _ _ => e_x0) fun h7 => ?_
    exact e_ret rfl
  · refine e_new rfl fun a9 h8 => ?_
    refine e_dup rfl rfl ?_
    refine e_new rfl fun a11 h10 => ?_
    refine e_dup rfl rfl ?_
    refine e_isprV rfl rfl rfl (Nat.le_of_ble_eq_true rfl) (fun _ _ => e_x0) fun h12 => ?_
    exact dx_none _
theorem m_J32_init {d : Nat} {v0 : Nat} {v1 : Value} {h : ax_H} (hv1 : ax_rv v1 = true) : dx_le ((dx_pF [(13, 3), (14, 3)] (.object "java/util/ArrayList") (.ref v0) v1 h).bind fun h1 => dx_nn (.ref v0) ((dx_pF [(13, 1), (14, 1)] (.int) (.ref v0) (.int (-1)) h1).bind fun h2 => (dx_gA [(13, 3), (14, 3)] (.ref v0) h2).bind fun r3 => (dx_gI [(4, 0), (15, 0)] r3 h2).bind fun x4 => (dx_pF [(13, 2), (14, 2)] (.int) (.ref v0) (.int x4) h2).bind fun h5 => some (.inl none, h5))) (ax_c (d + 1) 109 [.ref v0, v1] h) := by
  refine e_entry (L' := [some (.ref v0), some (v1)]) rfl (ag_A rfl (ag_A hv1 ag_n)) (Nat.le_of_ble_eq_true rfl) rfl ?_
  refine e_aload rfl rfl rfl ?_
  refine e_aload rfl rfl hv1 ?_
  refine e_putf rfl fun h1 => ?_
  refine e_aload rfl rfl rfl ?_
  refine e_oin rfl (Nat.le_of_ble_eq_true rfl) ?_
  refine e_aload rfl rfl rfl ?_
  refine e_push rfl ?_
  refine e_putf rfl fun h2 => ?_
  refine e_aload rfl rfl rfl ?_
  refine e_aload rfl rfl rfl ?_
  refine e_getA rfl fun r3 hr3 => ?_
  refine e_getI rfl fun x4 => ?_
  refine e_putf rfl fun h5 => ?_
  exact e_ret rfl
theorem m_J32_hasNext {d : Nat} {v0 : Nat} {h : ax_H}  : dx_le ((dx_gI [(13, 0), (14, 0)] (.ref v0) h).bind fun x1 => (dx_gA [(13, 3), (14, 3)] (.ref v0) h).bind fun r2 => (dx_gI [(4, 2)] r2 h).bind fun x3 => if x1 = x3 then some (.inl (some (.int 0)), h) else some (.inl (some (.int 1)), h)) (ax_c (d + 1) 110 [.ref v0] h) := by
  refine e_entry (L' := [some (.ref v0)]) rfl (ag_A rfl ag_n) (Nat.le_of_ble_eq_true rfl) rfl ?_
  refine e_aload rfl rfl rfl ?_
  refine e_getI rfl fun x1 => ?_
  refine e_aload rfl rfl rfl ?_
  refine e_getA rfl fun r2 hr2 => ?_
  refine e_getI rfl fun x3 => ?_
  refine e_if2 rfl rfl ?_ ?_
  · refine e_push rfl ?_
    exact e_zret0 rfl
  · refine e_push rfl ?_
    refine e_goto rfl ?_
    exact e_zret1 rfl
theorem m_J32_next {d : Nat} {v0 : Nat} {h : ax_H}  : dx_le ((dx_vn [(13, 112)] (.ref v0) h).bind fun k => dx_cV ((ax_c d) k [.ref v0] h) (fun h1 => (dx_gI [(13, 0), (14, 0)] (.ref v0) h1).bind fun x2 => (dx_gA [(13, 3), (14, 3)] (.ref v0) h1).bind fun r3 => (dx_gI [(4, 2)] r3 h1).bind fun x4 => if x2 < x4 then (dx_gA [(13, 3), (14, 3)] (.ref v0) h1).bind fun r5 => (dx_gA [(4, 1)] r5 h1).bind fun r6 => (dx_len r6 h1).bind fun x7 => if x2 < x7 then (dx_pF [(13, 0), (14, 0)] (.int) (.ref v0) (.int (x2 + 1)) h1).bind fun h8 => (dx_pF [(13, 1), (14, 1)] (.int) (.ref v0) (.int x2) h8).bind fun h9 => (dx_lA 4 r6 x2 h9).bind fun r10 => some (.inl (some (r10)), h9) else none else dx_nw h1 (.inr (45, [.null])) 6 fun a12 h11 => dx_cV ((ax_c d) 82 [.ref a12] h11) (fun h13 => dx_ath hd_0 (.ref a12) h13 (fun _ _ => none)) dx_x0) dx_x0) (ax_c (d + 1) 111 [.ref v0] h) := by
  refine e_entry (L' := [some (.ref v0), none, none]) rfl (ag_A rfl ag_n) (Nat.le_of_ble_eq_true rfl) rfl ?_
  refine e_aload rfl rfl rfl ?_
  refine e_ivV rfl rfl rfl (Nat.le_of_ble_eq_true rfl) (fun _ _ => e_x0) fun h1 => ?_
  refine e_aload rfl rfl rfl ?_
  refine e_getI rfl fun x2 => ?_
  refine e_istore (L' := [some (.ref v0), some (.int x2), none]) rfl (dx_sto (Nat.le_of_ble_eq_true rfl) (Or.inr ⟨_, rfl, rfl⟩) rfl) ?_
  refine e_iload rfl rfl ?_
  refine e_aload rfl rfl rfl ?_
  refine e_getA rfl fun r3 hr3 => ?_
  refine e_getI rfl fun x4 => ?_
  refine e_if2 rfl rfl ?_ ?_
  · refine e_aload rfl rfl rfl ?_
    refine e_getA rfl fun r5 hr5 => ?_
    refine e_getA rfl fun r6 hr6 => ?_
    refine e_astore (L' := [some (.ref v0), some (.int x2), some (r6)]) rfl hr6 (dx_sto (Nat.le_of_ble_eq_true rfl) (Or.inr ⟨_, rfl, rfl⟩) rfl) ?_
    refine e_iload rfl rfl ?_
    refine e_aload rfl rfl hr6 ?_
    refine e_alen rfl fun x7 => ?_
    refine e_if2 rfl rfl ?_ ?_
    · refine e_aload rfl rfl rfl ?_
      refine e_iload rfl rfl ?_
      refine e_push rfl ?_
      refine e_i2 rfl ?_
      refine e_putf rfl fun h8 => ?_
      refine e_aload rfl rfl hr6 ?_
      refine e_aload rfl rfl rfl ?_
      refine e_iload rfl rfl ?_
      refine e_dupx1 rfl rfl rfl ?_
      refine e_putf rfl fun h9 => ?_
      refine e_aald rfl fun r10 hr10 => ?_
      exact e_aret rfl hr10
    · exact dx_none _
  · refine e_new rfl fun a12 h11 => ?_
    refine e_dup rfl rfl ?_
    refine e_isprV rfl rfl rfl (Nat.le_of_ble_eq_true rfl) (fun _ _ => e_x0) fun h13 => ?_
    exact e_athrow rfl e_hn
theorem m_J32_checkForComodification {d : Nat} {v0 : Nat} {h : ax_H}  : dx_le ((dx_gA [(13, 3), (14, 3)] (.ref v0) h).bind fun r1 => (dx_gI [(4, 0), (15, 0)] r1 h).bind fun x2 => (dx_gI [(13, 2), (14, 2)] (.ref v0) h).bind fun x3 => if x2 = x3 then some (.inl none, h) else none) (ax_c (d + 1) 112 [.ref v0] h) := by
  refine e_entry (L' := [some (.ref v0)]) rfl (ag_A rfl ag_n) (Nat.le_of_ble_eq_true rfl) rfl ?_
  refine e_aload rfl rfl rfl ?_
  refine e_getA rfl fun r1 hr1 => ?_
  refine e_getI rfl fun x2 => ?_
  refine e_aload rfl rfl rfl ?_
  refine e_getI rfl fun x3 => ?_
  refine e_if2 rfl rfl ?_ ?_
  · exact e_ret rfl
  · exact dx_none _
theorem m_J4_init {d : Nat} {v0 : Nat} {h : ax_H}  : dx_le (dx_cV ((ax_c d) 96 [.ref v0] h) (fun h1 => (dx_pF [(15, 1)] (.int) (.ref v0) (.int 0) h1).bind fun h2 => some (.inl none, h2)) dx_x0) (ax_c (d + 1) 124 [.ref v0] h) := by
  refine e_entry (L' := [some (.ref v0)]) rfl (ag_A rfl ag_n) (Nat.le_of_ble_eq_true rfl) rfl ?_
  refine e_aload rfl rfl rfl ?_
  refine e_isprV rfl rfl rfl (Nat.le_of_ble_eq_true rfl) (fun _ _ => e_x0) fun h1 => ?_
  refine e_aload rfl rfl rfl ?_
  refine e_push rfl ?_
  refine e_putf rfl fun h2 => ?_
  exact e_ret rfl
theorem m_J4_size {d : Nat} {v0 : Nat} {h : ax_H}  : dx_le ((dx_gI [(15, 1)] (.ref v0) h).bind fun x1 => some (.inl (some (.int x1)), h)) (ax_c (d + 1) 125 [.ref v0] h) := by
  refine e_entry (L' := [some (.ref v0)]) rfl (ag_A rfl ag_n) (Nat.le_of_ble_eq_true rfl) rfl ?_
  refine e_aload rfl rfl rfl ?_
  refine e_getI rfl fun x1 => ?_
  exact e_iret rfl
noncomputable def B_J4_clear_5 (K : ax_K) (v0 : Nat) (v1 : Value) (h : ax_H) : Option ax_R := ax_run K P_J4_clear 5 [some (.ref v0), some (v1), none] [] h
theorem b_J4_clear_5 {K : ax_K} {v0 : Nat} {v1 : Value} {h : ax_H} (hv1 : ax_rv v1 = true) : dx_le (dx_nul v1 ((dx_pF [(15, 3)] (.object "java/util/LinkedList$Node") (.ref v0) .null h).bind fun h1 => (dx_pF [(15, 2)] (.object "java/util/LinkedList$Node") (.ref v0) .null h1).bind fun h2 => (dx_pF [(15, 1)] (.int) (.ref v0) (.int 0) h2).bind fun h3 => (dx_gI [(4, 0), (15, 0)] (.ref v0) h3).bind fun x4 => (dx_pF [(4, 0), (15, 0)] (.int) (.ref v0) (.int (x4 + 1)) h3).bind fun h5 => some (.inl none, h5)) ((dx_gA [(1, 1)] v1 h).bind fun r6 => (dx_pF [(1, 0)] (.object "java/lang/Object") v1 .null h).bind fun h7 => (dx_pF [(1, 1)] (.object "java/util/LinkedList$Node") v1 .null h7).bind fun h8 => (dx_pF [(1, 2)] (.object "java/util/LinkedList$Node") v1 .null h8).bind fun h9 => B_J4_clear_5 K v0 r6 h9)) (B_J4_clear_5 K v0 v1 h) := by
  show dx_le _ (ax_run K P_J4_clear 5 [some (.ref v0), some (v1), none] [] h)
  refine e_aload rfl rfl hv1 ?_
  refine e_null rfl ?_ ?_
  · refine e_aload rfl rfl rfl ?_
    refine e_aload rfl rfl rfl ?_
    refine e_push rfl ?_
    refine e_dupx1 rfl rfl rfl ?_
    refine e_putf rfl fun h1 => ?_
    refine e_putf rfl fun h2 => ?_
    refine e_aload rfl rfl rfl ?_
    refine e_push rfl ?_
    refine e_putf rfl fun h3 => ?_
    refine e_aload rfl rfl rfl ?_
    refine e_dup rfl rfl ?_
    refine e_getI rfl fun x4 => ?_
    refine e_push rfl ?_
    refine e_i2 rfl ?_
    refine e_putf rfl fun h5 => ?_
    exact e_ret rfl
  · refine e_aload rfl rfl hv1 ?_
    refine e_getA rfl fun r6 hr6 => ?_
    refine e_astore (L' := [some (.ref v0), some (v1), some (r6)]) rfl hr6 (dx_sto (Nat.le_of_ble_eq_true rfl) (Or.inr ⟨_, rfl, dx_nl hv1⟩) rfl) ?_
    refine e_aload rfl rfl hv1 ?_
    refine e_push rfl ?_
    refine e_putf rfl fun h7 => ?_
    refine e_aload rfl rfl hv1 ?_
    refine e_push rfl ?_
    refine e_putf rfl fun h8 => ?_
    refine e_aload rfl rfl hv1 ?_
    refine e_push rfl ?_
    refine e_putf rfl fun h9 => ?_
    refine e_aload rfl rfl hr6 ?_
    refine e_astore (L' := [some (.ref v0), some (r6), some (r6)]) rfl hr6 (dx_sto (Nat.le_of_ble_eq_true rfl) (Or.inr ⟨_, rfl, rfl⟩) rfl) ?_
    refine e_goto rfl ?_
    exact e_wk mP_J4_clear (ll_1 (ll_1 (ll_0 ll_n)))
theorem m_J4_clear {d : Nat} {v0 : Nat} {h : ax_H}  : dx_le ((dx_gA [(15, 2)] (.ref v0) h).bind fun r1 => B_J4_clear_5 (ax_c d) v0 r1 h) (ax_c (d + 1) 126 [.ref v0] h) := by
  refine e_entry (L' := [some (.ref v0), none, none]) rfl (ag_A rfl ag_n) (Nat.le_of_ble_eq_true rfl) rfl ?_
  refine e_aload rfl rfl rfl ?_
  refine e_getA rfl fun r1 hr1 => ?_
  refine e_astore (L' := [some (.ref v0), some (r1), none]) rfl hr1 (dx_sto (Nat.le_of_ble_eq_true rfl) (Or.inr ⟨_, rfl, rfl⟩) rfl) ?_
  exact e_wk mP_J4_clear (ll_1 (ll_1 (ll_0 ll_n)))
theorem m_J4_get {d : Nat} {v0 : Nat} {v1 : Int32} {h : ax_H}  : dx_le ((dx_vn [(15, 128)] (.ref v0) h).bind fun k => dx_cV ((ax_c d) k [.ref v0, .int v1] h) (fun h1 => (dx_vn [(15, 131)] (.ref v0) h1).bind fun k => dx_cR ((ax_c d) k [.ref v0, .int v1] h1) (fun r3 h2 => (dx_gA [(1, 0)] r3 h2).bind fun r4 => some (.inl (some (r4)), h2)) dx_x0) dx_x0) (ax_c (d + 1) 127 [.ref v0, .int v1] h) := by
  refine e_entry (L' := [some (.ref v0), some (.int v1)]) rfl (ag_A rfl (ag_I ag_n)) (Nat.le_of_ble_eq_true rfl) rfl ?_
  refine e_aload rfl rfl rfl ?_
  refine e_iload rfl rfl ?_
  refine e_ivV rfl rfl rfl (Nat.le_of_ble_eq_true rfl) (fun _ _ => e_x0) fun h1 => ?_
  refine e_aload rfl rfl rfl ?_
  refine e_iload rfl rfl ?_
  refine e_ivR rfl rfl rfl (Nat.le_of_ble_eq_true rfl) (fun _ _ => e_x0) fun r3 h2 hr3 => ?_
  refine e_getA rfl fun r4 hr4 => ?_
  exact e_aret rfl hr4
theorem m_J4_checkElementIndex {d : Nat} {v0 : Nat} {v1 : Int32} {h : ax_H}  : dx_le ((dx_vn [(15, 129)] (.ref v0) h).bind fun k => dx_cI ((ax_c d) k [.ref v0, .int v1] h) (fun x2 h1 => if ¬ x2 = 0 then some (.inl none, h1) else dx_nw h1 (.inr (46, [.null])) 6 fun a4 h3 => none) dx_x0) (ax_c (d + 1) 128 [.ref v0, .int v1] h) := by
  refine e_entry (L' := [some (.ref v0), some (.int v1)]) rfl (ag_A rfl (ag_I ag_n)) (Nat.le_of_ble_eq_true rfl) rfl ?_
  refine e_aload rfl rfl rfl ?_
  refine e_iload rfl rfl ?_
  refine e_ivI rfl rfl rfl (Nat.le_of_ble_eq_true rfl) (fun _ _ => e_x0) fun x2 h1 => ?_
  refine e_if1 rfl rfl ?_ ?_
  · exact e_ret rfl
  · refine e_new rfl fun a4 h3 => ?_
    refine e_dup rfl rfl ?_
    refine e_aload rfl rfl rfl ?_
    refine e_iload rfl rfl ?_
    exact dx_none _
theorem m_J4_isElementIndex {d : Nat} {v0 : Nat} {v1 : Int32} {h : ax_H}  : dx_le (if v1 < 0 then some (.inl (some (.int 0)), h) else (dx_gI [(15, 1)] (.ref v0) h).bind fun x1 => if x1 ≤ v1 then some (.inl (some (.int 0)), h) else some (.inl (some (.int 1)), h)) (ax_c (d + 1) 129 [.ref v0, .int v1] h) := by
  refine e_entry (L' := [some (.ref v0), some (.int v1)]) rfl (ag_A rfl (ag_I ag_n)) (Nat.le_of_ble_eq_true rfl) rfl ?_
  refine e_iload rfl rfl ?_
  refine e_if1 rfl rfl ?_ ?_
  · refine e_push rfl ?_
    exact e_zret0 rfl
  · refine e_iload rfl rfl ?_
    refine e_aload rfl rfl rfl ?_
    refine e_getI rfl fun x1 => ?_
    refine e_if2 rfl rfl ?_ ?_
    · refine e_push rfl ?_
      exact e_zret0 rfl
    · refine e_push rfl ?_
      refine e_goto rfl ?_
      exact e_zret1 rfl
noncomputable def B_J4_node_17 (K : ax_K) (v1 : Int32) (v2 : Value) (v3 : Int32) (h : ax_H) : Option ax_R := ax_run K P_J4_node 17 [none, some (.int v1), some (v2), some (.int v3)] [] h
noncomputable def B_J4_node_47 (K : ax_K) (v1 : Int32) (v2 : Value) (v3 : Int32) (h : ax_H) : Option ax_R := ax_run K P_J4_node 47 [none, some (.int v1), some (v2), some (.int v3)] [] h
theorem b_J4_node_17 {K : ax_K} {v1 : Int32} {v2 : Value} {v3 : Int32} {h : ax_H} (hv2 : ax_rv v2 = true) : dx_le (if v1 ≤ v3 then some (.inl (some (v2)), h) else (dx_gA [(1, 1)] v2 h).bind fun r1 => dx_lt (v3 + 1) fun x2 => B_J4_node_17 K v1 r1 x2 h) (B_J4_node_17 K v1 v2 v3 h) := by
  show dx_le _ (ax_run K P_J4_node 17 [none, some (.int v1), some (v2), some (.int v3)] [] h)
  refine e_iload rfl rfl ?_
  refine e_iload rfl rfl ?_
  refine e_if2 rfl rfl ?_ ?_
  · refine e_aload rfl rfl hv2 ?_
    exact e_aret rfl hv2
  · refine e_aload rfl rfl hv2 ?_
    refine e_getA rfl fun r1 hr1 => ?_
    refine e_astore (L' := [none, some (.int v1), some (r1), some (.int v3)]) rfl hr1 (dx_sto (Nat.le_of_ble_eq_true rfl) (Or.inr ⟨_, rfl, rfl⟩) rfl) ?_
    refine e_iinc (M := fun x2 => [none, some (.int v1), some (r1), some (.int x2)]) rfl rfl (fun _ => dx_sto (Nat.le_of_ble_eq_true rfl) (Or.inr ⟨_, rfl, dx_nl hr1⟩) rfl) fun x2 => ?_
    refine e_goto rfl ?_
    exact e_wk mP_J4_node (ll_0 (ll_1 (ll_1 (ll_1 ll_n))))
theorem b_J4_node_47 {K : ax_K} {v1 : Int32} {v2 : Value} {v3 : Int32} {h : ax_H} (hv2 : ax_rv v2 = true) : dx_le (if v3 ≤ v1 then some (.inl (some (v2)), h) else (dx_gA [(1, 2)] v2 h).bind fun r1 => dx_lt (v3 + (-1)) fun x2 => B_J4_node_47 K v1 r1 x2 h) (B_J4_node_47 K v1 v2 v3 h) := by
  show dx_le _ (ax_run K P_J4_node 47 [none, some (.int v1), some (v2), some (.int v3)] [] h)
  refine e_iload rfl rfl ?_
  refine e_iload rfl rfl ?_
  refine e_if2 rfl rfl ?_ ?_
  · refine e_aload rfl rfl hv2 ?_
    exact e_aret rfl hv2
  · refine e_aload rfl rfl hv2 ?_
    refine e_getA rfl fun r1 hr1 => ?_
    refine e_astore (L' := [none, some (.int v1), some (r1), some (.int v3)]) rfl hr1 (dx_sto (Nat.le_of_ble_eq_true rfl) (Or.inr ⟨_, rfl, rfl⟩) rfl) ?_
    refine e_iinc (M := fun x2 => [none, some (.int v1), some (r1), some (.int x2)]) rfl rfl (fun _ => dx_sto (Nat.le_of_ble_eq_true rfl) (Or.inr ⟨_, rfl, dx_nl hr1⟩) rfl) fun x2 => ?_
    refine e_goto rfl ?_
    exact e_wk mP_J4_node (ll_0 (ll_1 (ll_1 (ll_1 ll_n))))
theorem m_J4_node {d : Nat} {v0 : Nat} {v1 : Int32} {h : ax_H}  : dx_le ((dx_gI [(15, 1)] (.ref v0) h).bind fun x1 => if (dx_shr x1 1) ≤ v1 then (dx_gA [(15, 3)] (.ref v0) h).bind fun r2 => (dx_gI [(15, 1)] (.ref v0) h).bind fun x3 => dx_lt (x3 - 1) fun x4 => B_J4_node_47 (ax_c d) v1 r2 x4 h else (dx_gA [(15, 2)] (.ref v0) h).bind fun r5 => B_J4_node_17 (ax_c d) v1 r5 0 h) (ax_c (d + 1) 131 [.ref v0, .int v1] h) := by
  refine e_entry (L' := [some (.ref v0), some (.int v1), none, none]) rfl (ag_A rfl (ag_I ag_n)) (Nat.le_of_ble_eq_true rfl) rfl ?_
  refine e_iload rfl rfl ?_
  refine e_aload rfl rfl rfl ?_
  refine e_getI rfl fun x1 => ?_
  refine e_push rfl ?_
  refine e_shr rfl ?_
  refine e_if2 rfl rfl ?_ ?_
  · refine e_aload rfl rfl rfl ?_
    refine e_getA rfl fun r2 hr2 => ?_
    refine e_astore (L' := [some (.ref v0), some (.int v1), some (r2), none]) rfl hr2 (dx_sto (Nat.le_of_ble_eq_true rfl) (Or.inr ⟨_, rfl, rfl⟩) rfl) ?_
    refine e_aload rfl rfl rfl ?_
    refine e_getI rfl fun x3 => ?_
    refine e_push rfl ?_
    refine e_i2 rfl ?_
    refine e_istoreL (M := fun x4 => [some (.ref v0), some (.int v1), some (r2), some (.int x4)]) rfl (fun _ => dx_sto (Nat.le_of_ble_eq_true rfl) (Or.inr ⟨_, rfl, dx_nl hr2⟩) rfl) fun x4 => ?_
    exact e_wk mP_J4_node (ll_0 (ll_1 (ll_1 (ll_1 ll_n))))
  · refine e_aload rfl rfl rfl ?_
    refine e_getA rfl fun r5 hr5 => ?_
    refine e_astore (L' := [some (.ref v0), some (.int v1), some (r5), none]) rfl hr5 (dx_sto (Nat.le_of_ble_eq_true rfl) (Or.inr ⟨_, rfl, rfl⟩) rfl) ?_
    refine e_push rfl ?_
    refine e_istore (L' := [some (.ref v0), some (.int v1), some (r5), some (.int 0)]) rfl (dx_sto (Nat.le_of_ble_eq_true rfl) (Or.inr ⟨_, rfl, dx_nl hr5⟩) rfl) ?_
    exact e_wk mP_J4_node (ll_0 (ll_1 (ll_1 (ll_1 ll_n))))
noncomputable def B_J4_linkLast_38 (K : ax_K) (v0 : Nat) (h : ax_H) : Option ax_R := ax_run K P_J4_linkLast 38 [some (.ref v0), none, none, none] [] h
theorem b_J4_linkLast_38 {K : ax_K} {v0 : Nat} {h : ax_H}  : dx_le ((dx_gI [(15, 1)] (.ref v0) h).bind fun x1 => (dx_pF [(15, 1)] (.int) (.ref v0) (.int (x1 + 1)) h).bind fun h2 => (dx_gI [(4, 0), (15, 0)] (.ref v0) h2).bind fun x3 => (dx_pF [(4, 0), (15, 0)] (.int) (.ref v0) (.int (x3 + 1)) h2).bind fun h4 => some (.inl none, h4)) (B_J4_linkLast_38 K v0 h) := by
  show dx_le _ (ax_run K P_J4_linkLast 38 [some (.ref v0), none, none, none] [] h)
  refine e_aload rfl rfl rfl ?_
  refine e_dup rfl rfl ?_
  refine e_getI rfl fun x1 => ?_
  refine e_push rfl ?_
  refine e_i2 rfl ?_
  refine e_putf rfl fun h2 => ?_
  refine e_aload rfl rfl rfl ?_
  refine e_dup rfl rfl ?_
  refine e_getI rfl fun x3 => ?_
  refine e_push rfl ?_
  refine e_i2 rfl ?_
  refine e_putf rfl fun h4 => ?_
  exact e_ret rfl
theorem m_J4_linkLast {d : Nat} {v0 : Nat} {v1 : Value} {h : ax_H} (hv1 : ax_rv v1 = true) : dx_le ((dx_gA [(15, 3)] (.ref v0) h).bind fun r1 => dx_nw h (.inr (1, [.null, .null, .null])) 3 fun a3 h2 => dx_cV ((ax_c d) 16 [.ref a3, r1, v1, .null] h2) (fun h4 => (dx_pF [(15, 3)] (.object "java/util/LinkedList$Node") (.ref v0) (.ref a3) h4).bind fun h5 => dx_nul r1 ((dx_pF [(15, 2)] (.object "java/util/LinkedList$Node") (.ref v0) (.ref a3) h5).bind fun h6 => B_J4_linkLast_38 (ax_c d) v0 h6) ((dx_pF [(1, 1)] (.object "java/util/LinkedList$Node") r1 (.ref a3) h5).bind fun h7 => B_J4_linkLast_38 (ax_c d) v0 h7)) dx_x0) (ax_c (d + 1) 133 [.ref v0, v1] h) := by
  refine e_entry (L' := [some (.ref v0), some (v1), none, none]) rfl (ag_A rfl (ag_A hv1 ag_n)) (Nat.le_of_ble_eq_true rfl) rfl ?_
  refine e_aload rfl rfl rfl ?_
  refine e_getA rfl fun r1 hr1 => ?_
  refine e_astore (L' := [some (.ref v0), some (v1), some (r1), none]) rfl hr1 (dx_sto (Nat.le_of_ble_eq_true rfl) (Or.inr ⟨_, rfl, dx_nl hv1⟩) rfl) ?_
  refine e_new rfl fun a3 h2 => ?_
  refine e_dup rfl rfl ?_
  refine e_aload rfl rfl hr1 ?_
  refine e_aload rfl rfl hv1 ?_
  refine e_push rfl ?_
  refine e_isprV rfl rfl rfl (Nat.le_of_ble_eq_true rfl) (fun _ _ => e_x0) fun h4 => ?_
  refine e_astore (L' := [some (.ref v0), some (v1), some (r1), some (.ref a3)]) rfl rfl (dx_sto (Nat.le_of_ble_eq_true rfl) (Or.inr ⟨_, rfl, dx_nl hr1⟩) rfl) ?_
  refine e_aload rfl rfl rfl ?_
  refine e_aload rfl rfl rfl ?_
  refine e_putf rfl fun h5 => ?_
  refine e_aload rfl rfl hr1 ?_
  refine e_null rfl ?_ ?_
  · refine e_aload rfl rfl rfl ?_
    refine e_aload rfl rfl rfl ?_
    refine e_putf rfl fun h6 => ?_
    refine e_goto rfl ?_
    exact e_wk mP_J4_linkLast (ll_1 (ll_0 (ll_0 (ll_0 ll_n))))
  · refine e_aload rfl rfl hr1 ?_
    refine e_aload rfl rfl rfl ?_
    refine e_putf rfl fun h7 => ?_
    exact e_wk mP_J4_linkLast (ll_1 (ll_0 (ll_0 (ll_0 ll_n))))
theorem m_J4_listIterator {d : Nat} {v0 : Nat} {v1 : Int32} {h : ax_H}  : dx_le ((dx_vn [(15, 135)] (.ref v0) h).bind fun k => dx_cV ((ax_c d) k [.ref v0, .int v1] h) (fun h1 => dx_nw h1 (.inr (8, [.null, .null, .int 0, .int 0, .null])) 5 fun a3 h2 => dx_cV ((ax_c d) 84 [.ref a3, .ref v0, .int v1] h2) (fun h4 => some (.inl (some (.ref a3)), h4)) dx_x0) dx_x0) (ax_c (d + 1) 134 [.ref v0, .int v1] h) := by
  refine e_entry (L' := [some (.ref v0), some (.int v1)]) rfl (ag_A rfl (ag_I ag_n)) (Nat.le_of_ble_eq_true rfl) rfl ?_
  refine e_aload rfl rfl rfl ?_
  refine e_iload rfl rfl ?_
  refine e_ivV rfl rfl rfl (Nat.le_of_ble_eq_true rfl) (fun _ _ => e_x0) fun h1 => ?_
  refine e_new rfl fun a3 h2 => ?_
  refine e_dup rfl rfl ?_
  refine e_aload rfl rfl rfl ?_
  refine e_iload rfl rfl ?_
  refine e_isprV rfl rfl rfl (Nat.le_of_ble_eq_true rfl) (fun _ _ => e_x0) fun h4 => ?_
  exact e_aret rfl rfl
theorem m_J4_checkPositionIndex {d : Nat} {v0 : Nat} {v1 : Int32} {h : ax_H}  : dx_le ((dx_vn [(15, 136)] (.ref v0) h).bind fun k => dx_cI ((ax_c d) k [.ref v0, .int v1] h) (fun x2 h1 => if ¬ x2 = 0 then some (.inl none, h1) else dx_nw h1 (.inr (46, [.null])) 6 fun a4 h3 => none) dx_x0) (ax_c (d + 1) 135 [.ref v0, .int v1] h) := by
  refine e_entry (L' := [some (.ref v0), some (.int v1)]) rfl (ag_A rfl (ag_I ag_n)) (Nat.le_of_ble_eq_true rfl) rfl ?_
  refine e_aload rfl rfl rfl ?_
  refine e_iload rfl rfl ?_
  refine e_ivI rfl rfl rfl (Nat.le_of_ble_eq_true rfl) (fun _ _ => e_x0) fun x2 h1 => ?_
  refine e_if1 rfl rfl ?_ ?_
  · exact e_ret rfl
  · refine e_new rfl fun a4 h3 => ?_
    refine e_dup rfl rfl ?_
    refine e_aload rfl rfl rfl ?_
    refine e_iload rfl rfl ?_
    exact dx_none _
theorem m_J4_isPositionIndex {d : Nat} {v0 : Nat} {v1 : Int32} {h : ax_H}  : dx_le (if v1 < 0 then some (.inl (some (.int 0)), h) else (dx_gI [(15, 1)] (.ref v0) h).bind fun x1 => if x1 < v1 then some (.inl (some (.int 0)), h) else some (.inl (some (.int 1)), h)) (ax_c (d + 1) 136 [.ref v0, .int v1] h) := by
  refine e_entry (L' := [some (.ref v0), some (.int v1)]) rfl (ag_A rfl (ag_I ag_n)) (Nat.le_of_ble_eq_true rfl) rfl ?_
  refine e_iload rfl rfl ?_
  refine e_if1 rfl rfl ?_ ?_
  · refine e_push rfl ?_
    exact e_zret0 rfl
  · refine e_iload rfl rfl ?_
    refine e_aload rfl rfl rfl ?_
    refine e_getI rfl fun x1 => ?_
    refine e_if2 rfl rfl ?_ ?_
    · refine e_push rfl ?_
      exact e_zret0 rfl
    · refine e_push rfl ?_
      refine e_goto rfl ?_
      exact e_zret1 rfl
noncomputable def B_J4_linkBefore_42 (K : ax_K) (v0 : Nat) (h : ax_H) : Option ax_R := ax_run K P_J4_linkBefore 42 [some (.ref v0), none, none, none, none] [] h
theorem b_J4_linkBefore_42 {K : ax_K} {v0 : Nat} {h : ax_H}  : dx_le ((dx_gI [(15, 1)] (.ref v0) h).bind fun x1 => (dx_pF [(15, 1)] (.int) (.ref v0) (.int (x1 + 1)) h).bind fun h2 => (dx_gI [(4, 0), (15, 0)] (.ref v0) h2).bind fun x3 => (dx_pF [(4, 0), (15, 0)] (.int) (.ref v0) (.int (x3 + 1)) h2).bind fun h4 => some (.inl none, h4)) (B_J4_linkBefore_42 K v0 h) := by
  show dx_le _ (ax_run K P_J4_linkBefore 42 [some (.ref v0), none, none, none, none] [] h)
  refine e_aload rfl rfl rfl ?_
  refine e_dup rfl rfl ?_
  refine e_getI rfl fun x1 => ?_
  refine e_push rfl ?_
  refine e_i2 rfl ?_
  refine e_putf rfl fun h2 => ?_
  refine e_aload rfl rfl rfl ?_
  refine e_dup rfl rfl ?_
  refine e_getI rfl fun x3 => ?_
  refine e_push rfl ?_
  refine e_i2 rfl ?_
  refine e_putf rfl fun h4 => ?_
  exact e_ret rfl
theorem m_J4_linkBefore {d : Nat} {v0 : Nat} {v1 : Value} {v2 : Value} {h : ax_H} (hv1 : ax_rv v1 = true) (hv2 : ax_rv v2 = true) : dx_le ((dx_gA [(1, 2)] v2 h).bind fun r1 => dx_nw h (.inr (1, [.null, .null, .null])) 3 fun a3 h2 => dx_cV ((ax_c d) 16 [.ref a3, r1, v1, v2] h2) (fun h4 => (dx_pF [(1, 2)] (.object "java/util/LinkedList$Node") v2 (.ref a3) h4).bind fun h5 => dx_nul r1 ((dx_pF [(15, 2)] (.object "java/util/LinkedList$Node") (.ref v0) (.ref a3) h5).bind fun h6 => B_J4_linkBefore_42 (ax_c d) v0 h6) ((dx_pF [(1, 1)] (.object "java/util/LinkedList$Node") r1 (.ref a3) h5).bind fun h7 => B_J4_linkBefore_42 (ax_c d) v0 h7)) dx_x0) (ax_c (d + 1) 138 [.ref v0, v1, v2] h) := by
  refine e_entry (L' := [some (.ref v0), some (v1), some (v2), none, none]) rfl (ag_A rfl (ag_A hv1 (ag_A hv2 ag_n))) (Nat.le_of_ble_eq_true rfl) rfl ?_
  refine e_aload rfl rfl hv2 ?_
  refine e_getA rfl fun r1 hr1 => ?_
  refine e_astore (L' := [some (.ref v0), some (v1), some (v2), some (r1), none]) rfl hr1 (dx_sto (Nat.le_of_ble_eq_true rfl) (Or.inr ⟨_, rfl, dx_nl hv2⟩) rfl) ?_
  refine e_new rfl fun a3 h2 => ?_
  refine e_dup rfl rfl ?_
  refine e_aload rfl rfl hr1 ?_
  refine e_aload rfl rfl hv1 ?_
  refine e_aload rfl rfl hv2 ?_
  refine e_isprV rfl rfl rfl (Nat.le_of_ble_eq_true rfl) (fun _ _ => e_x0) fun h4 => ?_
  refine e_astore (L' := [some (.ref v0), some (v1), some (v2), some (r1), some (.ref a3)]) rfl rfl (dx_sto (Nat.le_of_ble_eq_true rfl) (Or.inr ⟨_, rfl, dx_nl hr1⟩) rfl) ?_
  refine e_aload rfl rfl hv2 ?_
  refine e_aload rfl rfl rfl ?_
  refine e_putf rfl fun h5 => ?_
  refine e_aload rfl rfl hr1 ?_
  refine e_null rfl ?_ ?_
  · refine e_aload rfl rfl rfl ?_
    refine e_aload rfl rfl rfl ?_
    refine e_putf rfl fun h6 => ?_
    refine e_goto rfl ?_
    exact e_wk mP_J4_linkBefore (ll_1 (ll_0 (ll_0 (ll_0 (ll_0 ll_n)))))
  · refine e_aload rfl rfl hr1 ?_
    refine e_aload rfl rfl rfl ?_
    refine e_putf rfl fun h7 => ?_
    exact e_wk mP_J4_linkBefore (ll_1 (ll_0 (ll_0 (ll_0 (ll_0 ll_n)))))
theorem m_J4_addLast {d : Nat} {v0 : Nat} {v1 : Value} {h : ax_H} (hv1 : ax_rv v1 = true) : dx_le ((dx_vn [(15, 133)] (.ref v0) h).bind fun k => dx_cV ((ax_c d) k [.ref v0, v1] h) (fun h1 => some (.inl none, h1)) dx_x0) (ax_c (d + 1) 139 [.ref v0, v1] h) := by
  refine e_entry (L' := [some (.ref v0), some (v1)]) rfl (ag_A rfl (ag_A hv1 ag_n)) (Nat.le_of_ble_eq_true rfl) rfl ?_
  refine e_aload rfl rfl rfl ?_
  refine e_aload rfl rfl hv1 ?_
  refine e_ivV rfl rfl rfl (Nat.le_of_ble_eq_true rfl) (fun _ _ => e_x0) fun h1 => ?_
  exact e_ret rfl
theorem m_J4_removeFirst {d : Nat} {v0 : Nat} {h : ax_H}  : dx_le ((dx_gA [(15, 2)] (.ref v0) h).bind fun r1 => dx_nul r1 (dx_nw h (.inr (45, [.null])) 6 fun a3 h2 => dx_cV ((ax_c d) 82 [.ref a3] h2) (fun h4 => dx_ath hd_0 (.ref a3) h4 (fun _ _ => none)) dx_x0) ((dx_vn [(15, 141)] (.ref v0) h).bind fun k => dx_cR ((ax_c d) k [.ref v0, r1] h) (fun r6 h5 => some (.inl (some (r6)), h5)) dx_x0)) (ax_c (d + 1) 140 [.ref v0] h) := by
  refine e_entry (L' := [some (.ref v0), none]) rfl (ag_A rfl ag_n) (Nat.le_of_ble_eq_true rfl) rfl ?_
  refine e_aload rfl rfl rfl ?_
  refine e_getA rfl fun r1 hr1 => ?_
  refine e_astore (L' := [some (.ref v0), some (r1)]) rfl hr1 (dx_sto (Nat.le_of_ble_eq_true rfl) (Or.inr ⟨_, rfl, rfl⟩) rfl) ?_
  refine e_aload rfl rfl hr1 ?_
  refine e_null rfl ?_ ?_
  · refine e_new rfl fun a3 h2 => ?_
    refine e_dup rfl rfl ?_
    refine e_isprV rfl rfl rfl (Nat.le_of_ble_eq_true rfl) (fun _ _ => e_x0) fun h4 => ?_
    exact e_athrow rfl e_hn
  · refine e_aload rfl rfl rfl ?_
    refine e_aload rfl rfl hr1 ?_
    refine e_ivR rfl rfl rfl (Nat.le_of_ble_eq_true rfl) (fun _ _ => e_x0) fun r6 h5 hr6 => ?_
    exact e_aret rfl hr6
noncomputable def B_J4_unlinkFirst_42 (K : ax_K) (v0 : Nat) (v2 : Value) (h : ax_H) : Option ax_R := ax_run K P_J4_unlinkFirst 42 [some (.ref v0), none, some (v2), none] [] h
theorem b_J4_unlinkFirst_42 {K : ax_K} {v0 : Nat} {v2 : Value} {h : ax_H} (hv2 : ax_rv v2 = true) : dx_le ((dx_gI [(15, 1)] (.ref v0) h).bind fun x1 => (dx_pF [(15, 1)] (.int) (.ref v0) (.int (x1 - 1)) h).bind fun h2 => (dx_gI [(4, 0), (15, 0)] (.ref v0) h2).bind fun x3 => (dx_pF [(4, 0), (15, 0)] (.int) (.ref v0) (.int (x3 + 1)) h2).bind fun h4 => some (.inl (some (v2)), h4)) (B_J4_unlinkFirst_42 K v0 v2 h) := by
  show dx_le _ (ax_run K P_J4_unlinkFirst 42 [some (.ref v0), none, some (v2), none] [] h)
  refine e_aload rfl rfl rfl ?_
  refine e_dup rfl rfl ?_
  refine e_getI rfl fun x1 => ?_
  refine e_push rfl ?_
  refine e_i2 rfl ?_
  refine e_putf rfl fun h2 => ?_
  refine e_aload rfl rfl rfl ?_
  refine e_dup rfl rfl ?_
  refine e_getI rfl fun x3 => ?_
  refine e_push rfl ?_
  refine e_i2 rfl ?_
  refine e_putf rfl fun h4 => ?_
  refine e_aload rfl rfl hv2 ?_
  exact e_aret rfl hv2
theorem m_J4_unlinkFirst {d : Nat} {v0 : Nat} {v1 : Value} {h : ax_H} (hv1 : ax_rv v1 = true) : dx_le ((dx_gA [(1, 0)] v1 h).bind fun r1 => (dx_gA [(1, 1)] v1 h).bind fun r2 => (dx_pF [(1, 0)] (.object "java/lang/Object") v1 .null h).bind fun h3 => (dx_pF [(1, 1)] (.object "java/util/LinkedList$Node") v1 .null h3).bind fun h4 => (dx_pF [(15, 2)] (.object "java/util/LinkedList$Node") (.ref v0) r2 h4).bind fun h5 => dx_nul r2 ((dx_pF [(15, 3)] (.object "java/util/LinkedList$Node") (.ref v0) .null h5).bind fun h6 => B_J4_unlinkFirst_42 (ax_c d) v0 r1 h6) ((dx_pF [(1, 2)] (.object "java/util/LinkedList$Node") r2 .null h5).bind fun h7 => B_J4_unlinkFirst_42 (ax_c d) v0 r1 h7)) (ax_c (d + 1) 141 [.ref v0, v1] h) := by
  refine e_entry (L' := [some (.ref v0), some (v1), none, none]) rfl (ag_A rfl (ag_A hv1 ag_n)) (Nat.le_of_ble_eq_true rfl) rfl ?_
  refine e_aload rfl rfl hv1 ?_
  refine e_getA rfl fun r1 hr1 => ?_
  refine e_astore (L' := [some (.ref v0), some (v1), some (r1), none]) rfl hr1 (dx_sto (Nat.le_of_ble_eq_true rfl) (Or.inr ⟨_, rfl, dx_nl hv1⟩) rfl) ?_
  refine e_aload rfl rfl hv1 ?_
  refine e_getA rfl fun r2 hr2 => ?_
  refine e_astore (L' := [some (.ref v0), some (v1), some (r1), some (r2)]) rfl hr2 (dx_sto (Nat.le_of_ble_eq_true rfl) (Or.inr ⟨_, rfl, dx_nl hr1⟩) rfl) ?_
  refine e_aload rfl rfl hv1 ?_
  refine e_push rfl ?_
  refine e_putf rfl fun h3 => ?_
  refine e_aload rfl rfl hv1 ?_
  refine e_push rfl ?_
  refine e_putf rfl fun h4 => ?_
  refine e_aload rfl rfl rfl ?_
  refine e_aload rfl rfl hr2 ?_
  refine e_putf rfl fun h5 => ?_
  refine e_aload rfl rfl hr2 ?_
  refine e_null rfl ?_ ?_
  · refine e_aload rfl rfl rfl ?_
    refine e_push rfl ?_
    refine e_putf rfl fun h6 => ?_
    refine e_goto rfl ?_
    exact e_wk mP_J4_unlinkFirst (ll_1 (ll_0 (ll_1 (ll_0 ll_n))))
  · refine e_aload rfl rfl hr2 ?_
    refine e_push rfl ?_
    refine e_putf rfl fun h7 => ?_
    exact e_wk mP_J4_unlinkFirst (ll_1 (ll_0 (ll_1 (ll_0 ll_n))))
theorem m_J5_init {d : Nat} {v0 : Nat} {h : ax_H}  : dx_le (dx_cV ((ax_c d) 0 [.ref v0] h) (fun h1 => dx_na 4 2 17 h1 fun a3 h2 => (dx_pF [(16, 0)] (.array (.object "java/lang/Object")) (.ref v0) (.ref a3) h2).bind fun h4 => some (.inl none, h4)) dx_x0) (ax_c (d + 1) 142 [.ref v0] h) := by
  refine e_entry (L' := [some (.ref v0)]) rfl (ag_A rfl ag_n) (Nat.le_of_ble_eq_true rfl) rfl ?_
  refine e_aload rfl rfl rfl ?_
  refine e_isprV rfl rfl rfl (Nat.le_of_ble_eq_true rfl) (fun _ _ => e_x0) fun h1 => ?_
  refine e_aload rfl rfl rfl ?_
  refine e_push rfl ?_
  refine e_newa rfl fun a3 h2 => ?_
  refine e_putf rfl fun h4 => ?_
  exact e_ret rfl
theorem m_J5_size {d : Nat} {v0 : Nat} {h : ax_H}  : dx_le ((dx_gI [(16, 2)] (.ref v0) h).bind fun x1 => (dx_gI [(16, 1)] (.ref v0) h).bind fun x2 => (dx_gA [(16, 0)] (.ref v0) h).bind fun r3 => (dx_len r3 h).bind fun x4 => dx_cI ((ax_c d) 144 [.int x1, .int x2, .int x4] h) (fun x6 h5 => some (.inl (some (.int x6)), h5)) dx_x0) (ax_c (d + 1) 143 [.ref v0] h) := by
  refine e_entry (L' := [some (.ref v0)]) rfl (ag_A rfl ag_n) (Nat.le_of_ble_eq_true rfl) rfl ?_
  refine e_aload rfl rfl rfl ?_
  refine e_getI rfl fun x1 => ?_
  refine e_aload rfl rfl rfl ?_
  refine e_getI rfl fun x2 => ?_
  refine e_aload rfl rfl rfl ?_
  refine e_getA rfl fun r3 hr3 => ?_
  refine e_alen rfl fun x4 => ?_
  refine e_isI rfl (Nat.le_of_ble_eq_true rfl) rfl rfl (Nat.le_of_ble_eq_true rfl) (fun _ _ => e_x0) fun x6 h5 => ?_
  exact e_iret rfl
theorem m_J5_sub {d : Nat} {v0 : Int32} {v1 : Int32} {v2 : Int32} {h : ax_H}  : dx_le (dx_lt (v0 - v1) fun x1 => if (0 : Int32) ≤ (v0 - v1) then some (.inl (some (.int x1)), h) else dx_lt (x1 + v2) fun x2 => some (.inl (some (.int x2)), h)) (ax_c (d + 1) 144 [.int v0, .int v1, .int v2] h) := by
  refine e_entry (L' := [some (.int v0), some (.int v1), some (.int v2)]) rfl (ag_I (ag_I (ag_I ag_n))) (Nat.le_of_ble_eq_true rfl) rfl ?_
  refine e_iload rfl rfl ?_
  refine e_iload rfl rfl ?_
  refine e_i2 rfl ?_
  refine e_dup rfl rfl ?_
  refine e_istoreL (M := fun x1 => [some (.int x1), some (.int v1), some (.int v2)]) rfl (fun _ => dx_sto (Nat.le_of_ble_eq_true rfl) (Or.inl rfl) rfl) fun x1 => ?_
  refine e_if1 rfl rfl ?_ ?_
  · refine e_iload rfl rfl ?_
    exact e_iret rfl
  · refine e_iload rfl rfl ?_
    refine e_iload rfl rfl ?_
    refine e_i2 rfl ?_
    refine e_istoreL (M := fun x2 => [some (.int x2), some (.int v1), some (.int v2)]) rfl (fun _ => dx_sto (Nat.le_of_ble_eq_true rfl) (Or.inl rfl) rfl) fun x2 => ?_
    refine e_iload rfl rfl ?_
    exact e_iret rfl
theorem m_J5_nonNullElementAt {d : Nat} {v0 : Value} {v1 : Int32} {h : ax_H} (hv0 : ax_rv v0 = true) : dx_le ((dx_lA 4 v0 v1 h).bind fun r1 => dx_nul r1 (none) (some (.inl (some (r1)), h))) (ax_c (d + 1) 145 [v0, .int v1] h) := by
  refine e_entry (L' := [some (v0), some (.int v1), none]) rfl (ag_A hv0 (ag_I ag_n)) (Nat.le_of_ble_eq_true rfl) rfl ?_
  refine e_aload rfl rfl hv0 ?_
  refine e_iload rfl rfl ?_
  refine e_aald rfl fun r1 hr1 => ?_
  refine e_astore (L' := [some (v0), some (.int v1), some (r1)]) rfl hr1 (dx_sto (Nat.le_of_ble_eq_true rfl) (Or.inr ⟨_, rfl, rfl⟩) rfl) ?_
  refine e_aload rfl rfl hr1 ?_
  refine e_null rfl ?_ ?_
  · exact dx_none _
  · refine e_aload rfl rfl hr1 ?_
    exact e_aret rfl hr1
theorem m_J5_dec {d : Nat} {v0 : Int32} {v1 : Int32} {h : ax_H}  : dx_le (dx_lt (v0 + (-1)) fun x1 => if (0 : Int32) ≤ x1 then some (.inl (some (.int x1)), h) else dx_lt (v1 - 1) fun x2 => some (.inl (some (.int x2)), h)) (ax_c (d + 1) 146 [.int v0, .int v1] h) := by
  refine e_entry (L' := [some (.int v0), some (.int v1)]) rfl (ag_I (ag_I ag_n)) (Nat.le_of_ble_eq_true rfl) rfl ?_
  refine e_iinc (M := fun x1 => [some (.int x1), some (.int v1)]) rfl rfl (fun _ => dx_sto (Nat.le_of_ble_eq_true rfl) (Or.inl rfl) rfl) fun x1 => ?_
  refine e_iload rfl rfl ?_
  refine e_if1 rfl rfl ?_ ?_
  · refine e_iload rfl rfl ?_
    exact e_iret rfl
  · refine e_iload rfl rfl ?_
    refine e_push rfl ?_
    refine e_i2 rfl ?_
    refine e_istoreL (M := fun x2 => [some (.int x2), some (.int v1)]) rfl (fun _ => dx_sto (Nat.le_of_ble_eq_true rfl) (Or.inl rfl) rfl) fun x2 => ?_
    refine e_iload rfl rfl ?_
    exact e_iret rfl
theorem m_J5_clear {d : Nat} {v0 : Nat} {h : ax_H}  : dx_le ((dx_gA [(16, 0)] (.ref v0) h).bind fun r1 => (dx_gI [(16, 1)] (.ref v0) h).bind fun x2 => (dx_gI [(16, 2)] (.ref v0) h).bind fun x3 => dx_cV ((ax_c d) 148 [r1, .int x2, .int x3] h) (fun h4 => (dx_pF [(16, 2)] (.int) (.ref v0) (.int 0) h4).bind fun h5 => (dx_pF [(16, 1)] (.int) (.ref v0) (.int 0) h5).bind fun h6 => some (.inl none, h6)) dx_x0) (ax_c (d + 1) 147 [.ref v0] h) := by
  refine e_entry (L' := [some (.ref v0)]) rfl (ag_A rfl ag_n) (Nat.le_of_ble_eq_true rfl) rfl ?_
  refine e_aload rfl rfl rfl ?_
  refine e_getA rfl fun r1 hr1 => ?_
  refine e_aload rfl rfl rfl ?_
  refine e_getI rfl fun x2 => ?_
  refine e_aload rfl rfl rfl ?_
  refine e_getI rfl fun x3 => ?_
  refine e_isV rfl (Nat.le_of_ble_eq_true rfl) rfl rfl (Nat.le_of_ble_eq_true rfl) (fun _ _ => e_x0) fun h4 => ?_
  refine e_aload rfl rfl rfl ?_
  refine e_aload rfl rfl rfl ?_
  refine e_push rfl ?_
  refine e_dupx1 rfl rfl rfl ?_
  refine e_putf rfl fun h5 => ?_
  refine e_putf rfl fun h6 => ?_
  exact e_ret rfl
noncomputable def B_J5_circularClear_12 (K : ax_K) (v0 : Value) (v1 : Int32) (v2 : Int32) (v3 : Int32) (h : ax_H) : Option ax_R := ax_run K P_J5_circularClear 12 [some (v0), some (.int v1), some (.int v2), some (.int v3)] [] h
theorem b_J5_circularClear_12 {K : ax_K} {v0 : Value} {v1 : Int32} {v2 : Int32} {v3 : Int32} {h : ax_H} (hv0 : ax_rv v0 = true) : dx_le (if v3 ≤ v1 then if ¬ v3 = v2 then B_J5_circularClear_12 K v0 0 v2 v2 h else some (.inl none, h) else (dx_sA 4 ax_objs v0 v1 .null h).bind fun h1 => dx_lt (v1 + 1) fun x2 => B_J5_circularClear_12 K v0 x2 v2 v3 h1) (B_J5_circularClear_12 K v0 v1 v2 v3 h) := by
  show dx_le _ (ax_run K P_J5_circularClear 12 [some (v0), some (.int v1), some (.int v2), some (.int v3)] [] h)
  refine e_iload rfl rfl ?_
  refine e_iload rfl rfl ?_
  refine e_if2 rfl rfl ?_ ?_
  · refine e_iload rfl rfl ?_
    refine e_iload rfl rfl ?_
    refine e_if2 rfl rfl ?_ ?_
    · refine e_push rfl ?_
      refine e_istore (L' := [some (v0), some (.int 0), some (.int v2), some (.int v3)]) rfl (dx_sto (Nat.le_of_ble_eq_true rfl) (Or.inr ⟨_, rfl, dx_nl hv0⟩) rfl) ?_
      refine e_iload rfl rfl ?_
      refine e_istore (L' := [some (v0), some (.int 0), some (.int v2), some (.int v2)]) rfl (dx_sto (Nat.le_of_ble_eq_true rfl) (Or.inr ⟨_, rfl, rfl⟩) rfl) ?_
      refine e_goto rfl ?_
      exact e_wk mP_J5_circularClear (ll_1 (ll_1 (ll_1 (ll_1 ll_n))))
    · refine e_goto rfl ?_
      exact e_ret rfl
  · refine e_aload rfl rfl hv0 ?_
    refine e_iload rfl rfl ?_
    refine e_push rfl ?_
    refine e_aast rfl fun h1 => ?_
    refine e_iinc (M := fun x2 => [some (v0), some (.int x2), some (.int v2), some (.int v3)]) rfl rfl (fun _ => dx_sto (Nat.le_of_ble_eq_true rfl) (Or.inr ⟨_, rfl, dx_nl hv0⟩) rfl) fun x2 => ?_
    refine e_goto rfl ?_
    exact e_wk mP_J5_circularClear (ll_1 (ll_1 (ll_1 (ll_1 ll_n))))
theorem m_J5_circularClear {d : Nat} {v0 : Value} {v1 : Int32} {v2 : Int32} {h : ax_H} (hv0 : ax_rv v0 = true) : dx_le (if v2 < v1 then (dx_len v0 h).bind fun x1 => B_J5_circularClear_12 (ax_c d) v0 v1 v2 x1 h else B_J5_circularClear_12 (ax_c d) v0 v1 v2 v2 h) (ax_c (d + 1) 148 [v0, .int v1, .int v2] h) := by
  refine e_entry (L' := [some (v0), some (.int v1), some (.int v2), none]) rfl (ag_A hv0 (ag_I (ag_I ag_n))) (Nat.le_of_ble_eq_true rfl) rfl ?_
  refine e_iload rfl rfl ?_
  refine e_iload rfl rfl ?_
  refine e_if2 rfl rfl ?_ ?_
  · refine e_aload rfl rfl hv0 ?_
    refine e_alen rfl fun x1 => ?_
    refine e_istore (L' := [some (v0), some (.int v1), some (.int v2), some (.int x1)]) rfl (dx_sto (Nat.le_of_ble_eq_true rfl) (Or.inr ⟨_, rfl, rfl⟩) rfl) ?_
    exact e_wk mP_J5_circularClear (ll_1 (ll_1 (ll_1 (ll_1 ll_n))))
  · refine e_iload rfl rfl ?_
    refine e_goto rfl ?_
    refine e_istore (L' := [some (v0), some (.int v1), some (.int v2), some (.int v2)]) rfl (dx_sto (Nat.le_of_ble_eq_true rfl) (Or.inr ⟨_, rfl, rfl⟩) rfl) ?_
    exact e_wk mP_J5_circularClear (ll_1 (ll_1 (ll_1 (ll_1 ll_n))))
theorem m_J5_addLast {d : Nat} {v0 : Nat} {v1 : Value} {h : ax_H} (hv1 : ax_rv v1 = true) : dx_le (dx_nul v1 (none) ((dx_gA [(16, 0)] (.ref v0) h).bind fun r1 => (dx_gI [(16, 2)] (.ref v0) h).bind fun x2 => (dx_sA 4 ax_objs r1 x2 v1 h).bind fun h3 => (dx_gI [(16, 1)] (.ref v0) h3).bind fun x4 => (dx_gI [(16, 2)] (.ref v0) h3).bind fun x5 => (dx_len r1 h3).bind fun x6 => dx_cI ((ax_c d) 150 [.int x5, .int x6] h3) (fun x8 h7 => (dx_pF [(16, 2)] (.int) (.ref v0) (.int x8) h7).bind fun h9 => if ¬ x4 = x8 then some (.inl none, h9) else (dx_vn [(16, 151)] (.ref v0) h9).bind fun k => dx_cV ((ax_c d) k [.ref v0, .int 1] h9) (fun h10 => some (.inl none, h10)) dx_x0) dx_x0)) (ax_c (d + 1) 149 [.ref v0, v1] h) := by
  refine e_entry (L' := [some (.ref v0), some (v1), none]) rfl (ag_A rfl (ag_A hv1 ag_n)) (Nat.le_of_ble_eq_true rfl) rfl ?_
  refine e_aload rfl rfl hv1 ?_
  refine e_null rfl ?_ ?_
  · exact dx_none _
  · refine e_aload rfl rfl rfl ?_
    refine e_getA rfl fun r1 hr1 => ?_
    refine e_astore (L' := [some (.ref v0), some (v1), some (r1)]) rfl hr1 (dx_sto (Nat.le_of_ble_eq_true rfl) (Or.inr ⟨_, rfl, dx_nl hv1⟩) rfl) ?_
    refine e_aload rfl rfl hr1 ?_
    refine e_aload rfl rfl rfl ?_
    refine e_getI rfl fun x2 => ?_
    refine e_aload rfl rfl hv1 ?_
    refine e_aast rfl fun h3 => ?_
    refine e_aload rfl rfl rfl ?_
    refine e_getI rfl fun x4 => ?_
    refine e_aload rfl rfl rfl ?_
    refine e_aload rfl rfl rfl ?_
    refine e_getI rfl fun x5 => ?_
    refine e_aload rfl rfl hr1 ?_
    refine e_alen rfl fun x6 => ?_
    refine e_isI rfl (Nat.le_of_ble_eq_true rfl) rfl rfl (Nat.le_of_ble_eq_true rfl) (fun _ _ => e_x0) fun x8 h7 => ?_
    refine e_dupx1 rfl rfl rfl ?_
    refine e_putf rfl fun h9 => ?_
    refine e_if2 rfl rfl ?_ ?_
    · exact e_ret rfl
    · refine e_aload rfl rfl rfl ?_
      refine e_push rfl ?_
      refine e_ivV rfl rfl rfl (Nat.le_of_ble_eq_true rfl) (fun _ _ => e_x0) fun h10 => ?_
      exact e_ret rfl
theorem m_J5_inc {d : Nat} {v0 : Int32} {v1 : Int32} {h : ax_H}  : dx_le (dx_lt (v0 + 1) fun x1 => if x1 < v1 then some (.inl (some (.int x1)), h) else some (.inl (some (.int 0)), h)) (ax_c (d + 1) 150 [.int v0, .int v1] h) := by
  refine e_entry (L' := [some (.int v0), some (.int v1)]) rfl (ag_I (ag_I ag_n)) (Nat.le_of_ble_eq_true rfl) rfl ?_
  refine e_iinc (M := fun x1 => [some (.int x1), some (.int v1)]) rfl rfl (fun _ => dx_sto (Nat.le_of_ble_eq_true rfl) (Or.inl rfl) rfl) fun x1 => ?_
  refine e_iload rfl rfl ?_
  refine e_iload rfl rfl ?_
  refine e_if2 rfl rfl ?_ ?_
  · refine e_iload rfl rfl ?_
    exact e_iret rfl
  · refine e_push rfl ?_
    refine e_istore (L' := [some (.int 0), some (.int v1)]) rfl (dx_sto (Nat.le_of_ble_eq_true rfl) (Or.inl rfl) rfl) ?_
    refine e_iload rfl rfl ?_
    exact e_iret rfl
noncomputable def B_J5_grow_21 (K : ax_K) (s0 : Int32) (v0 : Nat) (v1 : Int32) (v2 : Int32) (h : ax_H) : Option ax_R := ax_run K P_J5_grow 21 [some (.ref v0), some (.int v1), some (.int v2), none, none, none, none, none, none] [.int s0] h
noncomputable def B_J5_grow_49 (K : ax_K) (v0 : Nat) (v2 : Int32) (v3 : Int32) (h : ax_H) : Option ax_R := ax_run K P_J5_grow 49 [some (.ref v0), none, some (.int v2), some (.int v3), none, none, none, none, none] [] h
noncomputable def B_J5_grow_96 (K : ax_K) (v0 : Nat) (v2 : Int32) (v3 : Int32) (v5 : Value) (h : ax_H) : Option ax_R := ax_run K P_J5_grow 96 [some (.ref v0), none, some (.int v2), some (.int v3), none, some (v5), none, none, none] [] h
noncomputable def B_J5_grow_145 (K : ax_K) (v5 : Value) (v7 : Int32) (v8 : Int32) (h : ax_H) : Option ax_R := ax_run K P_J5_grow 145 [none, none, none, none, none, some (v5), none, some (.int v7), some (.int v8)] [] h
theorem b_J5_grow_21 {K : ax_K} {s0 : Int32} {v0 : Nat} {v1 : Int32} {v2 : Int32} {h : ax_H}  : dx_le (if s0 < v1 then (dx_vn [(16, 152)] (.ref v0) h).bind fun k => dx_cI (K k [.ref v0, .int v1, .int s0] h) (fun x2 h1 => B_J5_grow_49 K v0 v2 x2 h1) dx_x0 else dx_lt (v2 + s0) fun x3 => if ((v2 + s0) - 2147483639) ≤ 0 then B_J5_grow_49 K v0 v2 x3 h else (dx_vn [(16, 152)] (.ref v0) h).bind fun k => dx_cI (K k [.ref v0, .int v1, .int s0] h) (fun x5 h4 => B_J5_grow_49 K v0 v2 x5 h4) dx_x0) (B_J5_grow_21 K s0 v0 v1 v2 h) := by
  show dx_le _ (ax_run K P_J5_grow 21 [some (.ref v0), some (.int v1), some (.int v2), none, none, none, none, none, none] [.int s0] h)
  refine e_istore (L' := [some (.ref v0), some (.int v1), some (.int v2), none, some (.int s0), none, none, none, none]) rfl (dx_sto (Nat.le_of_ble_eq_true rfl) (Or.inr ⟨_, rfl, rfl⟩) rfl) ?_
  refine e_iload rfl rfl ?_
  refine e_iload rfl rfl ?_
  refine e_if2 rfl rfl ?_ ?_
  · refine e_aload rfl rfl rfl ?_
    refine e_iload rfl rfl ?_
    refine e_iload rfl rfl ?_
    refine e_ivI rfl rfl rfl (Nat.le_of_ble_eq_true rfl) (fun _ _ => e_x0) fun x2 h1 => ?_
    refine e_istore (L' := [some (.ref v0), some (.int v1), some (.int v2), some (.int x2), some (.int s0), none, none, none, none]) rfl (dx_sto (Nat.le_of_ble_eq_true rfl) (Or.inr ⟨_, rfl, rfl⟩) rfl) ?_
    exact e_wk mP_J5_grow (ll_1 (ll_0 (ll_1 (ll_1 (ll_0 (ll_0 (ll_0 (ll_0 (ll_0 ll_n)))))))))
  · refine e_iload rfl rfl ?_
    refine e_iload rfl rfl ?_
    refine e_i2 rfl ?_
    refine e_dup rfl rfl ?_
    refine e_istoreL (M := fun x3 => [some (.ref v0), some (.int v1), some (.int v2), some (.int x3), some (.int s0), none, none, none, none]) rfl (fun _ => dx_sto (Nat.le_of_ble_eq_true rfl) (Or.inr ⟨_, rfl, rfl⟩) rfl) fun x3 => ?_
    refine e_push rfl ?_
    refine e_i2 rfl ?_
    refine e_if1 rfl rfl ?_ ?_
    · exact e_wk mP_J5_grow (ll_1 (ll_0 (ll_1 (ll_1 (ll_0 (ll_0 (ll_0 (ll_0 (ll_0 ll_n)))))))))
    · refine e_aload rfl rfl rfl ?_
      refine e_iload rfl rfl ?_
      refine e_iload rfl rfl ?_
      refine e_ivI rfl rfl rfl (Nat.le_of_ble_eq_true rfl) (fun _ _ => e_x0) fun x5 h4 => ?_
      refine e_istore (L' := [some (.ref v0), some (.int v1), some (.int v2), some (.int x5), some (.int s0), none, none, none, none]) rfl (dx_sto (Nat.le_of_ble_eq_true rfl) (Or.inr ⟨_, rfl, rfl⟩) rfl) ?_
      exact e_wk mP_J5_grow (ll_1 (ll_0 (ll_1 (ll_1 (ll_0 (ll_0 (ll_0 (ll_0 (ll_0 ll_n)))))))))
theorem b_J5_grow_49 {K : ax_K} {v0 : Nat} {v2 : Int32} {v3 : Int32} {h : ax_H}  : dx_le ((dx_gA [(16, 0)] (.ref v0) h).bind fun r1 => dx_cR (K 13 [r1, .int v3] h) (fun r3 h2 => (dx_pF [(16, 0)] (.array (.object "java/lang/Object")) (.ref v0) r3 h2).bind fun h4 => (dx_gI [(16, 2)] (.ref v0) h4).bind fun x5 => (dx_gI [(16, 1)] (.ref v0) h4).bind fun x6 => if x5 < x6 then B_J5_grow_96 K v0 v2 v3 r3 h4 else (dx_gI [(16, 2)] (.ref v0) h4).bind fun x7 => (dx_gI [(16, 1)] (.ref v0) h4).bind fun x8 => if ¬ x7 = x8 then some (.inl none, h4) else (dx_gI [(16, 1)] (.ref v0) h4).bind fun x9 => (dx_lA 4 r3 x9 h4).bind fun r10 => dx_nul r10 (some (.inl none, h4)) (B_J5_grow_96 K v0 v2 v3 r3 h4)) dx_x0) (B_J5_grow_49 K v0 v2 v3 h) := by
  show dx_le _ (ax_run K P_J5_grow 49 [some (.ref v0), none, some (.int v2), some (.int v3), none, none, none, none, none] [] h)
  refine e_aload rfl rfl rfl ?_
  refine e_aload rfl rfl rfl ?_
  refine e_getA rfl fun r1 hr1 => ?_
  refine e_iload rfl rfl ?_
  refine e_isR rfl (Nat.le_of_ble_eq_true rfl) rfl rfl (Nat.le_of_ble_eq_true rfl) (fun _ _ => e_x0) fun r3 h2 hr3 => ?_
  refine e_dupx1 rfl (dx_c1 hr3) rfl ?_
  refine e_putf rfl fun h4 => ?_
  refine e_astore (L' := [some (.ref v0), none, some (.int v2), some (.int v3), none, some (r3), none, none, none]) rfl hr3 (dx_sto (Nat.le_of_ble_eq_true rfl) (Or.inr ⟨_, rfl, rfl⟩) rfl) ?_
  refine e_aload rfl rfl rfl ?_
  refine e_getI rfl fun x5 => ?_
  refine e_aload rfl rfl rfl ?_
  refine e_getI rfl fun x6 => ?_
  refine e_if2 rfl rfl ?_ ?_
  · exact e_wk mP_J5_grow (ll_1 (ll_0 (ll_1 (ll_1 (ll_0 (ll_1 (ll_0 (ll_0 (ll_0 ll_n)))))))))
  · refine e_aload rfl rfl rfl ?_
    refine e_getI rfl fun x7 => ?_
    refine e_aload rfl rfl rfl ?_
    refine e_getI rfl fun x8 => ?_
    refine e_if2 rfl rfl ?_ ?_
    · exact e_ret rfl
    · refine e_aload rfl rfl hr3 ?_
      refine e_aload rfl rfl rfl ?_
      refine e_getI rfl fun x9 => ?_
      refine e_aald rfl fun r10 hr10 => ?_
      refine e_null rfl ?_ ?_
      · exact e_ret rfl
      · exact e_wk mP_J5_grow (ll_1 (ll_0 (ll_1 (ll_1 (ll_0 (ll_1 (ll_0 (ll_0 (ll_0 ll_n)))))))))
theorem b_J5_grow_96 {K : ax_K} {v0 : Nat} {v2 : Int32} {v3 : Int32} {v5 : Value} {h : ax_H} (hv5 : ax_rv v5 = true) : dx_le (dx_lt (v3 - v2) fun x1 => (dx_gI [(16, 1)] (.ref v0) h).bind fun x2 => (dx_gI [(16, 1)] (.ref v0) h).bind fun x3 => (dx_gI [(16, 1)] (.ref v0) h).bind fun x4 => (dx_acp v5 x2 v5 (x3 + x1) (v2 - x4) h).bind fun h5 => (dx_gI [(16, 1)] (.ref v0) h5).bind fun x6 => (dx_gI [(16, 1)] (.ref v0) h5).bind fun x7 => (dx_pF [(16, 1)] (.int) (.ref v0) (.int (x7 + x1)) h5).bind fun h8 => dx_lt (x7 + x1) fun x9 => B_J5_grow_145 K v5 x6 x9 h8) (B_J5_grow_96 K v0 v2 v3 v5 h) := by
  show dx_le _ (ax_run K P_J5_grow 96 [some (.ref v0), none, some (.int v2), some (.int v3), none, some (v5), none, none, none] [] h)
  refine e_iload rfl rfl ?_
  refine e_iload rfl rfl ?_
  refine e_i2 rfl ?_
  refine e_istoreL (M := fun x1 => [some (.ref v0), none, some (.int v2), some (.int v3), none, some (v5), some (.int x1), none, none]) rfl (fun _ => dx_sto (Nat.le_of_ble_eq_true rfl) (Or.inr ⟨_, rfl, dx_nl hv5⟩) rfl) fun x1 => ?_
  refine e_aload rfl rfl hv5 ?_
  refine e_aload rfl rfl rfl ?_
  refine e_getI rfl fun x2 => ?_
  refine e_aload rfl rfl hv5 ?_
  refine e_aload rfl rfl rfl ?_
  refine e_getI rfl fun x3 => ?_
  refine e_iload rfl rfl ?_
  refine e_i2 rfl ?_
  refine e_iload rfl rfl ?_
  refine e_aload rfl rfl rfl ?_
  refine e_getI rfl fun x4 => ?_
  refine e_i2 rfl ?_
  refine e_acp rfl (Nat.le_of_ble_eq_true rfl) fun h5 => ?_
  refine e_aload rfl rfl rfl ?_
  refine e_getI rfl fun x6 => ?_
  refine e_istore (L' := [some (.ref v0), none, some (.int v2), some (.int v3), none, some (v5), some (.int x1), some (.int x6), none]) rfl (dx_sto (Nat.le_of_ble_eq_true rfl) (Or.inr ⟨_, rfl, rfl⟩) rfl) ?_
  refine e_aload rfl rfl rfl ?_
  refine e_dup rfl rfl ?_
  refine e_getI rfl fun x7 => ?_
  refine e_iload rfl rfl ?_
  refine e_i2 rfl ?_
  refine e_dupx1 rfl rfl rfl ?_
  refine e_putf rfl fun h8 => ?_
  refine e_istoreL (M := fun x9 => [some (.ref v0), none, some (.int v2), some (.int v3), none, some (v5), some (.int x1), some (.int x6), some (.int x9)]) rfl (fun _ => dx_sto (Nat.le_of_ble_eq_true rfl) (Or.inr ⟨_, rfl, rfl⟩) rfl) fun x9 => ?_
  exact e_wk mP_J5_grow (ll_0 (ll_0 (ll_0 (ll_0 (ll_0 (ll_1 (ll_0 (ll_1 (ll_1 ll_n)))))))))
theorem b_J5_grow_145 {K : ax_K} {v5 : Value} {v7 : Int32} {v8 : Int32} {h : ax_H} (hv5 : ax_rv v5 = true) : dx_le (if v8 ≤ v7 then some (.inl none, h) else (dx_sA 4 ax_objs v5 v7 .null h).bind fun h1 => dx_lt (v7 + 1) fun x2 => B_J5_grow_145 K v5 x2 v8 h1) (B_J5_grow_145 K v5 v7 v8 h) := by
  show dx_le _ (ax_run K P_J5_grow 145 [none, none, none, none, none, some (v5), none, some (.int v7), some (.int v8)] [] h)
  refine e_iload rfl rfl ?_
  refine e_iload rfl rfl ?_
  refine e_if2 rfl rfl ?_ ?_
  · exact e_ret rfl
  · refine e_aload rfl rfl hv5 ?_
    refine e_iload rfl rfl ?_
    refine e_push rfl ?_
    refine e_aast rfl fun h1 => ?_
    refine e_iinc (M := fun x2 => [none, none, none, none, none, some (v5), none, some (.int x2), some (.int v8)]) rfl rfl (fun _ => dx_sto (Nat.le_of_ble_eq_true rfl) (Or.inr ⟨_, rfl, rfl⟩) rfl) fun x2 => ?_
    refine e_goto rfl ?_
    exact e_wk mP_J5_grow (ll_0 (ll_0 (ll_0 (ll_0 (ll_0 (ll_1 (ll_0 (ll_1 (ll_1 ll_n)))))))))
theorem m_J5_grow {d : Nat} {v0 : Nat} {v1 : Int32} {h : ax_H}  : dx_le ((dx_gA [(16, 0)] (.ref v0) h).bind fun r1 => (dx_len r1 h).bind fun x2 => if (64 : Int32) ≤ x2 then B_J5_grow_21 (ax_c d) (dx_shr x2 1) v0 v1 x2 h else B_J5_grow_21 (ax_c d) (x2 + 2) v0 v1 x2 h) (ax_c (d + 1) 151 [.ref v0, .int v1] h) := by
  refine e_entry (L' := [some (.ref v0), some (.int v1), none, none, none, none, none, none, none]) rfl (ag_A rfl (ag_I ag_n)) (Nat.le_of_ble_eq_true rfl) rfl ?_
  refine e_aload rfl rfl rfl ?_
  refine e_getA rfl fun r1 hr1 => ?_
  refine e_alen rfl fun x2 => ?_
  refine e_istore (L' := [some (.ref v0), some (.int v1), some (.int x2), none, none, none, none, none, none]) rfl (dx_sto (Nat.le_of_ble_eq_true rfl) (Or.inr ⟨_, rfl, rfl⟩) rfl) ?_
  refine e_iload rfl rfl ?_
  refine e_push rfl ?_
  refine e_if2 rfl rfl ?_ ?_
  · refine e_iload rfl rfl ?_
    refine e_push rfl ?_
    refine e_shr rfl ?_
    exact e_wk mP_J5_grow (ll_1 (ll_1 (ll_1 (ll_0 (ll_0 (ll_0 (ll_0 (ll_0 (ll_0 ll_n)))))))))
  · refine e_iload rfl rfl ?_
    refine e_push rfl ?_
    refine e_i2 rfl ?_
    refine e_goto rfl ?_
    exact e_wk mP_J5_grow (ll_1 (ll_1 (ll_1 (ll_0 (ll_0 (ll_0 (ll_0 (ll_0 (ll_0 ll_n)))))))))
theorem m_J5_newCapacity {d : Nat} {v0 : Nat} {v1 : Int32} {v2 : Int32} {h : ax_H}  : dx_le ((dx_gA [(16, 0)] (.ref v0) h).bind fun r1 => (dx_len r1 h).bind fun x2 => dx_lt (x2 + v1) fun x3 => if ((x2 + v1) - 2147483639) ≤ 0 then if v1 ≤ v2 then if (0 : Int32) ≤ ((x2 + v2) - 2147483639) then some (.inl (some (.int 2147483639)), h) else some (.inl (some (.int (x2 + v2))), h) else some (.inl (some (.int x3)), h) else if (0 : Int32) ≤ x3 then some (.inl (some (.int 2147483647)), h) else dx_nw h (.inr (0, [])) 6 fun a5 h4 => dx_ath hd_0 (.ref a5) h4 (fun _ _ => none)) (ax_c (d + 1) 152 [.ref v0, .int v1, .int v2] h) := by
  refine e_entry (L' := [some (.ref v0), some (.int v1), some (.int v2), none, none]) rfl (ag_A rfl (ag_I (ag_I ag_n))) (Nat.le_of_ble_eq_true rfl) rfl ?_
  refine e_aload rfl rfl rfl ?_
  refine e_getA rfl fun r1 hr1 => ?_
  refine e_alen rfl fun x2 => ?_
  refine e_istore (L' := [some (.ref v0), some (.int v1), some (.int v2), some (.int x2), none]) rfl (dx_sto (Nat.le_of_ble_eq_true rfl) (Or.inr ⟨_, rfl, rfl⟩) rfl) ?_
  refine e_iload rfl rfl ?_
  refine e_iload rfl rfl ?_
  refine e_i2 rfl ?_
  refine e_dup rfl rfl ?_
  refine e_istoreL (M := fun x3 => [some (.ref v0), some (.int v1), some (.int v2), some (.int x2), some (.int x3)]) rfl (fun _ => dx_sto (Nat.le_of_ble_eq_true rfl) (Or.inr ⟨_, rfl, rfl⟩) rfl) fun x3 => ?_
  refine e_push rfl ?_
  refine e_i2 rfl ?_
  refine e_if1 rfl rfl ?_ ?_
  · refine e_iload rfl rfl ?_
    refine e_iload rfl rfl ?_
    refine e_if2 rfl rfl ?_ ?_
    · refine e_iload rfl rfl ?_
      refine e_iload rfl rfl ?_
      refine e_i2 rfl ?_
      refine e_push rfl ?_
      refine e_i2 rfl ?_
      refine e_if1 rfl rfl ?_ ?_
      · refine e_push rfl ?_
        exact e_iret rfl
      · refine e_iload rfl rfl ?_
        refine e_iload rfl rfl ?_
        refine e_i2 rfl ?_
        refine e_goto rfl ?_
        exact e_iret rfl
    · refine e_iload rfl rfl ?_
      exact e_iret rfl
  · refine e_iload rfl rfl ?_
    refine e_if1 rfl rfl ?_ ?_
    · refine e_push rfl ?_
      exact e_iret rfl
    · refine e_mk rfl (Nat.le_of_ble_eq_true rfl) fun a5 h4 => ?_
      exact e_athrow rfl e_hn
theorem m_J5_removeFirst {d : Nat} {v0 : Nat} {h : ax_H}  : dx_le ((dx_vn [(16, 154)] (.ref v0) h).bind fun k => dx_cR ((ax_c d) k [.ref v0] h) (fun r2 h1 => dx_nul r2 (dx_nw h1 (.inr (45, [.null])) 6 fun a4 h3 => dx_cV ((ax_c d) 82 [.ref a4] h3) (fun h5 => dx_ath hd_0 (.ref a4) h5 (fun _ _ => none)) dx_x0) (some (.inl (some (r2)), h1))) dx_x0) (ax_c (d + 1) 153 [.ref v0] h) := by
  refine e_entry (L' := [some (.ref v0), none]) rfl (ag_A rfl ag_n) (Nat.le_of_ble_eq_true rfl) rfl ?_
  refine e_aload rfl rfl rfl ?_
  refine e_ivR rfl rfl rfl (Nat.le_of_ble_eq_true rfl) (fun _ _ => e_x0) fun r2 h1 hr2 => ?_
  refine e_astore (L' := [some (.ref v0), some (r2)]) rfl hr2 (dx_sto (Nat.le_of_ble_eq_true rfl) (Or.inr ⟨_, rfl, rfl⟩) rfl) ?_
  refine e_aload rfl rfl hr2 ?_
  refine e_null rfl ?_ ?_
  · refine e_new rfl fun a4 h3 => ?_
    refine e_dup rfl rfl ?_
    refine e_isprV rfl rfl rfl (Nat.le_of_ble_eq_true rfl) (fun _ _ => e_x0) fun h5 => ?_
    exact e_athrow rfl e_hn
  · refine e_aload rfl rfl hr2 ?_
    exact e_aret rfl hr2
theorem m_J5_pollFirst {d : Nat} {v0 : Nat} {h : ax_H}  : dx_le ((dx_gA [(16, 0)] (.ref v0) h).bind fun r1 => (dx_gI [(16, 1)] (.ref v0) h).bind fun x2 => dx_cR ((ax_c d) 155 [r1, .int x2] h) (fun r4 h3 => dx_nul r4 (some (.inl (some (r4)), h3)) ((dx_sA 4 ax_objs r1 x2 .null h3).bind fun h5 => (dx_len r1 h5).bind fun x6 => dx_cI ((ax_c d) 150 [.int x2, .int x6] h5) (fun x8 h7 => (dx_pF [(16, 1)] (.int) (.ref v0) (.int x8) h7).bind fun h9 => some (.inl (some (r4)), h9)) dx_x0)) dx_x0) (ax_c (d + 1) 154 [.ref v0] h) := by
  refine e_entry (L' := [some (.ref v0), none, none, none]) rfl (ag_A rfl ag_n) (Nat.le_of_ble_eq_true rfl) rfl ?_
  refine e_aload rfl rfl rfl ?_
  refine e_getA rfl fun r1 hr1 => ?_
  refine e_dup rfl (dx_c1 hr1) ?_
  refine e_astore (L' := [some (.ref v0), some (r1), none, none]) rfl hr1 (dx_sto (Nat.le_of_ble_eq_true rfl) (Or.inr ⟨_, rfl, rfl⟩) rfl) ?_
  refine e_aload rfl rfl rfl ?_
  refine e_getI rfl fun x2 => ?_
  refine e_dup rfl rfl ?_
  refine e_istore (L' := [some (.ref v0), some (r1), some (.int x2), none]) rfl (dx_sto (Nat.le_of_ble_eq_true rfl) (Or.inr ⟨_, rfl, dx_nl hr1⟩) rfl) ?_
  refine e_isR rfl (Nat.le_of_ble_eq_true rfl) rfl rfl (Nat.le_of_ble_eq_true rfl) (fun _ _ => e_x0) fun r4 h3 hr4 => ?_
  refine e_astore (L' := [some (.ref v0), some (r1), some (.int x2), some (r4)]) rfl hr4 (dx_sto (Nat.le_of_ble_eq_true rfl) (Or.inr ⟨_, rfl, rfl⟩) rfl) ?_
  refine e_aload rfl rfl hr4 ?_
  refine e_null rfl ?_ ?_
  · refine e_aload rfl rfl hr4 ?_
    exact e_aret rfl hr4
  · refine e_aload rfl rfl hr1 ?_
    refine e_iload rfl rfl ?_
    refine e_push rfl ?_
    refine e_aast rfl fun h5 => ?_
    refine e_aload rfl rfl rfl ?_
    refine e_iload rfl rfl ?_
    refine e_aload rfl rfl hr1 ?_
    refine e_alen rfl fun x6 => ?_
    refine e_isI rfl (Nat.le_of_ble_eq_true rfl) rfl rfl (Nat.le_of_ble_eq_true rfl) (fun _ _ => e_x0) fun x8 h7 => ?_
    refine e_putf rfl fun h9 => ?_
    refine e_aload rfl rfl hr4 ?_
    exact e_aret rfl hr4
theorem m_J5_elementAt {d : Nat} {v0 : Value} {v1 : Int32} {h : ax_H} (hv0 : ax_rv v0 = true) : dx_le ((dx_lA 4 v0 v1 h).bind fun r1 => some (.inl (some (r1)), h)) (ax_c (d + 1) 155 [v0, .int v1] h) := by
  refine e_entry (L' := [some (v0), some (.int v1)]) rfl (ag_A hv0 (ag_I ag_n)) (Nat.le_of_ble_eq_true rfl) rfl ?_
  refine e_aload rfl rfl hv0 ?_
  refine e_iload rfl rfl ?_
  refine e_aald rfl fun r1 hr1 => ?_
  exact e_aret rfl hr1
theorem m_J5_isEmpty {d : Nat} {v0 : Nat} {h : ax_H}  : dx_le ((dx_gI [(16, 1)] (.ref v0) h).bind fun x1 => (dx_gI [(16, 2)] (.ref v0) h).bind fun x2 => if ¬ x1 = x2 then some (.inl (some (.int 0)), h) else some (.inl (some (.int 1)), h)) (ax_c (d + 1) 156 [.ref v0] h) := by
  refine e_entry (L' := [some (.ref v0)]) rfl (ag_A rfl ag_n) (Nat.le_of_ble_eq_true rfl) rfl ?_
  refine e_aload rfl rfl rfl ?_
  refine e_getI rfl fun x1 => ?_
  refine e_aload rfl rfl rfl ?_
  refine e_getI rfl fun x2 => ?_
  refine e_if2 rfl rfl ?_ ?_
  · refine e_push rfl ?_
    exact e_zret0 rfl
  · refine e_push rfl ?_
    refine e_goto rfl ?_
    exact e_zret1 rfl
theorem m_J5_removeLast {d : Nat} {v0 : Nat} {h : ax_H}  : dx_le ((dx_vn [(16, 158)] (.ref v0) h).bind fun k => dx_cR ((ax_c d) k [.ref v0] h) (fun r2 h1 => dx_nul r2 (dx_nw h1 (.inr (45, [.null])) 6 fun a4 h3 => dx_cV ((ax_c d) 82 [.ref a4] h3) (fun h5 => dx_ath hd_0 (.ref a4) h5 (fun _ _ => none)) dx_x0) (some (.inl (some (r2)), h1))) dx_x0) (ax_c (d + 1) 157 [.ref v0] h) := by
  refine e_entry (L' := [some (.ref v0), none]) rfl (ag_A rfl ag_n) (Nat.le_of_ble_eq_true rfl) rfl ?_
  refine e_aload rfl rfl rfl ?_
  refine e_ivR rfl rfl rfl (Nat.le_of_ble_eq_true rfl) (fun _ _ => e_x0) fun r2 h1 hr2 => ?_
  refine e_astore (L' := [some (.ref v0), some (r2)]) rfl hr2 (dx_sto (Nat.le_of_ble_eq_true rfl) (Or.inr ⟨_, rfl, rfl⟩) rfl) ?_
  refine e_aload rfl rfl hr2 ?_
  refine e_null rfl ?_ ?_
  · refine e_new rfl fun a4 h3 => ?_
    refine e_dup rfl rfl ?_
    refine e_isprV rfl rfl rfl (Nat.le_of_ble_eq_true rfl) (fun _ _ => e_x0) fun h5 => ?_
    exact e_athrow rfl e_hn
  · refine e_aload rfl rfl hr2 ?_
    exact e_aret rfl hr2
theorem m_J5_pollLast {d : Nat} {v0 : Nat} {h : ax_H}  : dx_le ((dx_gA [(16, 0)] (.ref v0) h).bind fun r1 => (dx_gI [(16, 2)] (.ref v0) h).bind fun x2 => (dx_len r1 h).bind fun x3 => dx_cI ((ax_c d) 146 [.int x2, .int x3] h) (fun x5 h4 => dx_cR ((ax_c d) 155 [r1, .int x5] h4) (fun r7 h6 => dx_nul r7 (some (.inl (some (r7)), h6)) ((dx_pF [(16, 2)] (.int) (.ref v0) (.int x5) h6).bind fun h8 => (dx_sA 4 ax_objs r1 x5 .null h8).bind fun h9 => some (.inl (some (r7)), h9))) dx_x0) dx_x0) (ax_c (d + 1) 158 [.ref v0] h) := by
  refine e_entry (L' := [some (.ref v0), none, none, none]) rfl (ag_A rfl ag_n) (Nat.le_of_ble_eq_true rfl) rfl ?_
  refine e_aload rfl rfl rfl ?_
  refine e_getA rfl fun r1 hr1 => ?_
  refine e_dup rfl (dx_c1 hr1) ?_
  refine e_astore (L' := [some (.ref v0), some (r1), none, none]) rfl hr1 (dx_sto (Nat.le_of_ble_eq_true rfl) (Or.inr ⟨_, rfl, rfl⟩) rfl) ?_
  refine e_aload rfl rfl rfl ?_
  refine e_getI rfl fun x2 => ?_
  refine e_aload rfl rfl hr1 ?_
  refine e_alen rfl fun x3 => ?_
  refine e_isI rfl (Nat.le_of_ble_eq_true rfl) rfl rfl (Nat.le_of_ble_eq_true rfl) (fun _ _ => e_x0) fun x5 h4 => ?_
  refine e_dup rfl rfl ?_
  refine e_istore (L' := [some (.ref v0), some (r1), some (.int x5), none]) rfl (dx_sto (Nat.le_of_ble_eq_true rfl) (Or.inr ⟨_, rfl, dx_nl hr1⟩) rfl) ?_
  refine e_isR rfl (Nat.le_of_ble_eq_true rfl) rfl rfl (Nat.le_of_ble_eq_true rfl) (fun _ _ => e_x0) fun r7 h6 hr7 => ?_
  refine e_astore (L' := [some (.ref v0), some (r1), some (.int x5), some (r7)]) rfl hr7 (dx_sto (Nat.le_of_ble_eq_true rfl) (Or.inr ⟨_, rfl, rfl⟩) rfl) ?_
  refine e_aload rfl rfl hr7 ?_
  refine e_null rfl ?_ ?_
  · refine e_aload rfl rfl hr7 ?_
    exact e_aret rfl hr7
  · refine e_aload rfl rfl hr1 ?_
    refine e_aload rfl rfl rfl ?_
    refine e_iload rfl rfl ?_
    refine e_dupx1 rfl rfl rfl ?_
    refine e_putf rfl fun h8 => ?_
    refine e_push rfl ?_
    refine e_aast rfl fun h9 => ?_
    refine e_aload rfl rfl hr7 ?_
    exact e_aret rfl hr7
theorem m_J5_peekLast {d : Nat} {v0 : Nat} {h : ax_H}  : dx_le ((dx_gA [(16, 0)] (.ref v0) h).bind fun r1 => (dx_gI [(16, 2)] (.ref v0) h).bind fun x2 => (dx_len r1 h).bind fun x3 => dx_cI ((ax_c d) 146 [.int x2, .int x3] h) (fun x5 h4 => dx_cR ((ax_c d) 155 [r1, .int x5] h4) (fun r7 h6 => some (.inl (some (r7)), h6)) dx_x0) dx_x0) (ax_c (d + 1) 159 [.ref v0] h) := by
  refine e_entry (L' := [some (.ref v0), none]) rfl (ag_A rfl ag_n) (Nat.le_of_ble_eq_true rfl) rfl ?_
  refine e_aload rfl rfl rfl ?_
  refine e_getA rfl fun r1 hr1 => ?_
  refine e_dup rfl (dx_c1 hr1) ?_
  refine e_astore (L' := [some (.ref v0), some (r1)]) rfl hr1 (dx_sto (Nat.le_of_ble_eq_true rfl) (Or.inr ⟨_, rfl, rfl⟩) rfl) ?_
  refine e_aload rfl rfl rfl ?_
  refine e_getI rfl fun x2 => ?_
  refine e_aload rfl rfl hr1 ?_
  refine e_alen rfl fun x3 => ?_
  refine e_isI rfl (Nat.le_of_ble_eq_true rfl) rfl rfl (Nat.le_of_ble_eq_true rfl) (fun _ _ => e_x0) fun x5 h4 => ?_
  refine e_isR rfl (Nat.le_of_ble_eq_true rfl) rfl rfl (Nat.le_of_ble_eq_true rfl) (fun _ _ => e_x0) fun r7 h6 hr7 => ?_
  exact e_aret rfl hr7
theorem m_J5_descendingIterator {d : Nat} {v0 : Nat} {h : ax_H}  : dx_le (dx_nw h (.inr (10, [.int 0, .int 0, .int 0, .null, .null])) 5 fun a2 h1 => dx_cV ((ax_c d) 95 [.ref a2, .ref v0] h1) (fun h3 => some (.inl (some (.ref a2)), h3)) dx_x0) (ax_c (d + 1) 160 [.ref v0] h) := by
  refine e_entry (L' := [some (.ref v0)]) rfl (ag_A rfl ag_n) (Nat.le_of_ble_eq_true rfl) rfl ?_
  refine e_new rfl fun a2 h1 => ?_
  refine e_dup rfl rfl ?_
  refine e_aload rfl rfl rfl ?_
  refine e_isprV rfl rfl rfl (Nat.le_of_ble_eq_true rfl) (fun _ _ => e_x0) fun h3 => ?_
  exact e_aret rfl rfl
theorem m_J6_init_2 {d v0 : Nat} {v1 : Value} {h : ax_H} (hv1 : ax_rv v1 = true) : dx_le (dx_th [(28, 2), (32, 0), (33, 0), (34, 0), (35, 0), (44, 0), (45, 0), (46, 0)] (.ref v0) h) (ax_c (d + 1) 162 [.ref v0, v1] h) := e_entry (L' := [some (.ref v0), some v1]) rfl (ag_A rfl (ag_A hv1 ag_n)) (Nat.le_of_ble_eq_true rfl) rfl (e_thr1 rfl hv1)
theorem m_J6_init_4 {d v0 : Nat} {v1 v2 : Value} {h : ax_H} (hv1 : ax_rv v1 = true) (hv2 : ax_rv v2 = true) : dx_le (dx_th [(28, 2), (32, 0), (33, 0), (34, 0), (35, 0), (44, 0), (45, 0), (46, 0)] (.ref v0) h) (ax_c (d + 1) 167 [.ref v0, v1, v2] h) := e_entry (L' := [some (.ref v0), some v1, some v2]) rfl (ag_A rfl (ag_A hv1 (ag_A hv2 ag_n))) (Nat.le_of_ble_eq_true rfl) rfl (e_thr2 rfl hv1 hv2)
theorem m_J7_init {d : Nat} {v0 : Nat} {v1 : Value} {h : ax_H} (hv1 : ax_rv v1 = true) : dx_le (dx_cV ((ax_c d) 162 [.ref v0, v1] h) (fun h1 => some (.inl none, h1)) dx_x0) (ax_c (d + 1) 168 [.ref v0, v1] h) := by
  refine e_entry (L' := [some (.ref v0), some (v1)]) rfl (ag_A rfl (ag_A hv1 ag_n)) (Nat.le_of_ble_eq_true rfl) rfl ?_
  refine e_aload rfl rfl rfl ?_
  refine e_aload rfl rfl hv1 ?_
  refine e_isprV rfl rfl rfl (Nat.le_of_ble_eq_true rfl) (fun _ _ => e_x0) fun h1 => ?_
  exact e_ret rfl
theorem m_J7_init_3 {d : Nat} {v0 : Nat} {h : ax_H}  : dx_le (none) (ax_c (d + 1) 170 [.ref v0] h) := by
  refine e_entry (L' := [some (.ref v0)]) rfl (ag_A rfl ag_n) (Nat.le_of_ble_eq_true rfl) rfl ?_
  refine e_aload rfl rfl rfl ?_
  exact dx_none _
theorem m_J7_init_4 {d : Nat} {v0 : Nat} {v1 : Value} {v2 : Value} {h : ax_H} (hv1 : ax_rv v1 = true) (hv2 : ax_rv v2 = true) : dx_le (dx_cV ((ax_c d) 167 [.ref v0, v1, v2] h) (fun h1 => some (.inl none, h1)) dx_x0) (ax_c (d + 1) 171 [.ref v0, v1, v2] h) := by
  refine e_entry (L' := [some (.ref v0), some (v1), some (v2)]) rfl (ag_A rfl (ag_A hv1 (ag_A hv2 ag_n))) (Nat.le_of_ble_eq_true rfl) rfl ?_
  refine e_aload rfl rfl rfl ?_
  refine e_aload rfl rfl hv1 ?_
  refine e_aload rfl rfl hv2 ?_
  refine e_isprV rfl rfl rfl (Nat.le_of_ble_eq_true rfl) (fun _ _ => e_x0) fun h1 => ?_
  exact e_ret rfl
theorem m_J8_init {d : Nat} {v0 : Nat} {v1 : Value} {h : ax_H} (hv1 : ax_rv v1 = true) : dx_le (dx_cV ((ax_c d) 168 [.ref v0, v1] h) (fun h1 => some (.inl none, h1)) dx_x0) (ax_c (d + 1) 172 [.ref v0, v1] h) := by
  refine e_entry (L' := [some (.ref v0), some (v1)]) rfl (ag_A rfl (ag_A hv1 ag_n)) (Nat.le_of_ble_eq_true rfl) rfl ?_
  refine e_aload rfl rfl rfl ?_
  refine e_aload rfl rfl hv1 ?_
  refine e_isprV rfl rfl rfl (Nat.le_of_ble_eq_true rfl) (fun _ _ => e_x0) fun h1 => ?_
  exact e_ret rfl
theorem m_J8_init_3 {d : Nat} {v0 : Nat} {h : ax_H}  : dx_le (dx_cV ((ax_c d) 170 [.ref v0] h) (fun h1 => some (.inl none, h1)) dx_x0) (ax_c (d + 1) 174 [.ref v0] h) := by
  refine e_entry (L' := [some (.ref v0)]) rfl (ag_A rfl ag_n) (Nat.le_of_ble_eq_true rfl) rfl ?_
  refine e_aload rfl rfl rfl ?_
  refine e_isprV rfl rfl rfl (Nat.le_of_ble_eq_true rfl) (fun _ _ => e_x0) fun h1 => ?_
  exact e_ret rfl
theorem m_J8_init_4 {d : Nat} {v0 : Nat} {v1 : Value} {v2 : Value} {h : ax_H} (hv1 : ax_rv v1 = true) (hv2 : ax_rv v2 = true) : dx_le (dx_cV ((ax_c d) 171 [.ref v0, v1, v2] h) (fun h1 => some (.inl none, h1)) dx_x0) (ax_c (d + 1) 175 [.ref v0, v1, v2] h) := by
  refine e_entry (L' := [some (.ref v0), some (v1), some (v2)]) rfl (ag_A rfl (ag_A hv1 (ag_A hv2 ag_n))) (Nat.le_of_ble_eq_true rfl) rfl ?_
  refine e_aload rfl rfl rfl ?_
  refine e_aload rfl rfl hv1 ?_
  refine e_aload rfl rfl hv2 ?_
  refine e_isprV rfl rfl rfl (Nat.le_of_ble_eq_true rfl) (fun _ _ => e_x0) fun h1 => ?_
  exact e_ret rfl
theorem m_J9_init {d : Nat} {v0 : Nat} {v1 : Value} {h : ax_H} (hv1 : ax_rv v1 = true) : dx_le (dx_cV ((ax_c d) 172 [.ref v0, v1] h) (fun h1 => some (.inl none, h1)) dx_x0) (ax_c (d + 1) 176 [.ref v0, v1] h) := by
  refine e_entry (L' := [some (.ref v0), some (v1)]) rfl (ag_A rfl (ag_A hv1 ag_n)) (Nat.le_of_ble_eq_true rfl) rfl ?_
  refine e_aload rfl rfl rfl ?_
  refine e_aload rfl rfl hv1 ?_
  refine e_isprV rfl rfl rfl (Nat.le_of_ble_eq_true rfl) (fun _ _ => e_x0) fun h1 => ?_
  exact e_ret rfl
