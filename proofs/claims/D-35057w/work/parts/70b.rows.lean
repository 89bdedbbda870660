set_option maxRecDepth 100000
section ROW
variable {G : ax_G} {l : Launch}
theorem r_J5_size_0 (E : ax_EN G l) : ax_Snd G l ax_Ym M_J5_size 0 (S_aload 0 1) := k_aload_n dJ5_size_0 rfl
theorem r_J5_size_1 (E : ax_EN G l) : ax_Snd G l ax_Ym M_J5_size 1 (S_getf [(16, 2)] 4) := k_getf (en_F E) (ax_fes_cons (fe_70 E) ax_fes_nil) q269 dJ5_size_1
theorem r_J5_size_4 (E : ax_EN G l) : ax_Snd G l ax_Ym M_J5_size 4 (S_aload 0 5) := k_aload_n dJ5_size_4 rfl
theorem r_J5_size_5 (E : ax_EN G l) : ax_Snd G l ax_Ym M_J5_size 5 (S_getf [(16, 1)] 8) := k_getf (en_F E) (ax_fes_cons (fe_61 E) ax_fes_nil) q267 dJ5_size_5
theorem r_J5_size_8 (E : ax_EN G l) : ax_Snd G l ax_Ym M_J5_size 8 (S_aload 0 9) := k_aload_n dJ5_size_8 rfl
theorem r_J5_size_9 (E : ax_EN G l) : ax_Snd G l ax_Ym M_J5_size 9 (S_getf [(16, 0)] 12) := k_getf (en_F E) (ax_fes_cons (fe_66 E) ax_fes_nil) q264 dJ5_size_9
theorem r_J5_size_12 (E : ax_EN G l) : ax_Snd G l ax_Ym M_J5_size 12 (S_alen 13) := k_alen (en_F E) dJ5_size_12
theorem r_J5_size_13 (E : ax_EN G l) : ax_Snd G l ax_Ym M_J5_size 13 (S_is 144 3 16 hd_0) := k_is (en_F E) (ax_ok0 E rfl) ((ev_s y_J5_sub q1212 q1213 q125 q1214 nm_J5_sub (Nat.le_of_ble_eq_true rfl) dJ5_size_13) : ax_EvS G l ax_Ym M_J5_size 13 144 3 3)
theorem r_J5_size_16 (E : ax_EN G l) : ax_Snd G l ax_Ym M_J5_size 16 (S_iret) := k_iret dJ5_size_16 rfl
theorem mt_J5_size (E : ax_EN G l) : ax_mt G l ax_Ym (1, P_J5_size) (ax_Ym 143) := ⟨M_J5_size, yJ5_size, ⟨rfl, by decide +kernel, rfl, (fun h => by cases h), Or.inl ⟨rfl, rfl⟩⟩, fun pc => (ax_sn_node (ax_sn_node (ax_sn_node (ax_sn_node (ax_sn_leaf (r_J5_size_16 E)) (ax_sn_leaf (r_J5_size_13 E))) (ax_sn_leaf (r_J5_size_12 E))) (ax_sn_node (ax_sn_leaf (r_J5_size_9 E)) (ax_sn_leaf (r_J5_size_8 E)))) (ax_sn_node (ax_sn_node (ax_sn_leaf (r_J5_size_5 E)) (ax_sn_leaf (r_J5_size_4 E))) (ax_sn_node (ax_sn_leaf (r_J5_size_1 E)) (ax_sn_leaf (r_J5_size_0 E)))))⟩
theorem r_J5_sub_0 (E : ax_EN G l) : ax_Snd G l ax_Ym M_J5_sub 0 (S_iload 0 1) := k_iload_n dJ5_sub_0 rfl
theorem r_J5_sub_1 (E : ax_EN G l) : ax_Snd G l ax_Ym M_J5_sub 1 (S_iload 1 2) := k_iload_n dJ5_sub_1 rfl
theorem r_J5_sub_2 (E : ax_EN G l) : ax_Snd G l ax_Ym M_J5_sub 2 (S_i2 (fun x y => x - y) 3) := k_isub dJ5_sub_2
theorem r_J5_sub_3 (E : ax_EN G l) : ax_Snd G l ax_Ym M_J5_sub 3 (S_dup 4) := k_dup dJ5_sub_3
theorem r_J5_sub_4 (E : ax_EN G l) : ax_Snd G l ax_Ym M_J5_sub 4 (S_istore 0 5) := k_istore_n dJ5_sub_4 rfl (Nat.le_of_ble_eq_true rfl)
theorem r_J5_sub_5 (E : ax_EN G l) : ax_Snd G l ax_Ym M_J5_sub 5 (S_if1 (fun x => decide (0 ≤ x)) 12 8) := k_if_ge dJ5_sub_5 rfl
theorem r_J5_sub_8 (E : ax_EN G l) : ax_Snd G l ax_Ym M_J5_sub 8 (S_iload 0 9) := k_iload_n dJ5_sub_8 rfl
theorem r_J5_sub_9 (E : ax_EN G l) : ax_Snd G l ax_Ym M_J5_sub 9 (S_iload 2 10) := k_iload_n dJ5_sub_9 rfl
theorem r_J5_sub_10 (E : ax_EN G l) : ax_Snd G l ax_Ym M_J5_sub 10 (S_i2 (fun x y => x + y) 11) := k_iadd dJ5_sub_10
theorem r_J5_sub_11 (E : ax_EN G l) : ax_Snd G l ax_Ym M_J5_sub 11 (S_istore 0 12) := k_istore_n dJ5_sub_11 rfl (Nat.le_of_ble_eq_true rfl)
theorem r_J5_sub_12 (E : ax_EN G l) : ax_Snd G l ax_Ym M_J5_sub 12 (S_iload 0 13) := k_iload_n dJ5_sub_12 rfl
theorem r_J5_sub_13 (E : ax_EN G l) : ax_Snd G l ax_Ym M_J5_sub 13 (S_iret) := k_iret dJ5_sub_13 rfl
theorem mt_J5_sub (E : ax_EN G l) : ax_mt G l ax_Ym (3, P_J5_sub) (ax_Ym 144) := ⟨M_J5_sub, yJ5_sub, ⟨rfl, by decide +kernel, rfl, (fun h => by cases h), Or.inl ⟨rfl, rfl⟩⟩, fun pc => (ax_sn_node (ax_sn_node (ax_sn_node (ax_sn_node (ax_sn_leaf (r_J5_sub_13 E)) (ax_sn_leaf (r_J5_sub_12 E))) (ax_sn_leaf (r_J5_sub_11 E))) (ax_sn_node (ax_sn_node (ax_sn_leaf (r_J5_sub_10 E)) (ax_sn_leaf (r_J5_sub_9 E))) (ax_sn_leaf (r_J5_sub_8 E)))) (ax_sn_node (ax_sn_node (ax_sn_node (ax_sn_leaf (r_J5_sub_5 E)) (ax_sn_leaf (r_J5_sub_4 E))) (ax_sn_leaf (r_J5_sub_3 E))) (ax_sn_node (ax_sn_node (ax_sn_leaf (r_J5_sub_2 E)) (ax_sn_leaf (r_J5_sub_1 E))) (ax_sn_leaf (r_J5_sub_0 E)))))⟩
theorem r_J5_nonNullElementAt_0 (E : ax_EN G l) : ax_Snd G l ax_Ym M_J5_nonNullElementAt 0 (S_aload 0 1) := k_aload_n dJ5_nonNullElementAt_0 rfl
theorem r_J5_nonNullElementAt_1 (E : ax_EN G l) : ax_Snd G l ax_Ym M_J5_nonNullElementAt 1 (S_iload 1 2) := k_iload_n dJ5_nonNullElementAt_1 rfl
theorem r_J5_nonNullElementAt_2 (E : ax_EN G l) : ax_Snd G l ax_Ym M_J5_nonNullElementAt 2 (S_aald 4 3) := k_aald (en_F E) rfl dJ5_nonNullElementAt_2
theorem r_J5_nonNullElementAt_3 (E : ax_EN G l) : ax_Snd G l ax_Ym M_J5_nonNullElementAt 3 (S_astore 2 4) := k_astore_n dJ5_nonNullElementAt_3 rfl (Nat.le_of_ble_eq_true rfl)
theorem r_J5_nonNullElementAt_4 (E : ax_EN G l) : ax_Snd G l ax_Ym M_J5_nonNullElementAt 4 (S_aload 2 5) := k_aload_n dJ5_nonNullElementAt_4 rfl
theorem r_J5_nonNullElementAt_5 (E : ax_EN G l) : ax_Snd G l ax_Ym M_J5_nonNullElementAt 5 (S_null 8 16) := k_ifnonnull dJ5_nonNullElementAt_5 rfl
theorem r_J5_nonNullElementAt_11 (E : ax_EN G l) : ax_Snd G l ax_Ym M_J5_nonNullElementAt 11 (S_dup 12) := k_dup dJ5_nonNullElementAt_11
theorem r_J5_nonNullElementAt_15 (E : ax_EN G l) : ax_Snd G l ax_Ym M_J5_nonNullElementAt 15 (S_athrow hd_0) := k_athrow (en_F E) (ax_ok0 E rfl) dJ5_nonNullElementAt_15
theorem r_J5_nonNullElementAt_16 (E : ax_EN G l) : ax_Snd G l ax_Ym M_J5_nonNullElementAt 16 (S_aload 2 17) := k_aload_n dJ5_nonNullElementAt_16 rfl
theorem r_J5_nonNullElementAt_17 (E : ax_EN G l) : ax_Snd G l ax_Ym M_J5_nonNullElementAt 17 (S_aret) := k_aret dJ5_nonNullElementAt_17 rfl (Or.inl ⟨_, rfl⟩)
theorem mt_J5_nonNullElementAt (E : ax_EN G l) : ax_mt G l ax_Ym (3, P_J5_nonNullElementAt) (ax_Ym 145) := ⟨M_J5_nonNullElementAt, yJ5_nonNullElementAt, ⟨rfl, by decide +kernel, rfl, (fun h => by cases h), Or.inl ⟨rfl, rfl⟩⟩, fun pc => (ax_sn_node (ax_sn_node (ax_sn_node (ax_sn_node (ax_sn_leaf (r_J5_nonNullElementAt_17 E)) (ax_sn_leaf (r_J5_nonNullElementAt_16 E))) (ax_sn_leaf (r_J5_nonNullElementAt_15 E))) (ax_sn_node (ax_sn_leaf (r_J5_nonNullElementAt_11 E)) (ax_sn_leaf (r_J5_nonNullElementAt_5 E)))) (ax_sn_node (ax_sn_node (ax_sn_node (ax_sn_leaf (r_J5_nonNullElementAt_4 E)) (ax_sn_leaf (r_J5_nonNullElementAt_3 E))) (ax_sn_leaf (r_J5_nonNullElementAt_2 E))) (ax_sn_node (ax_sn_leaf (r_J5_nonNullElementAt_1 E)) (ax_sn_leaf (r_J5_nonNullElementAt_0 E)))))⟩
theorem r_J5_dec_0 (E : ax_EN G l) : ax_Snd G l ax_Ym M_J5_dec 0 (S_iinc 0 (-1) 3) := k_iinc dJ5_dec_0 rfl (Nat.le_of_ble_eq_true rfl)
theorem r_J5_dec_3 (E : ax_EN G l) : ax_Snd G l ax_Ym M_J5_dec 3 (S_iload 0 4) := k_iload_n dJ5_dec_3 rfl
theorem r_J5_dec_4 (E : ax_EN G l) : ax_Snd G l ax_Ym M_J5_dec 4 (S_if1 (fun x => decide (0 ≤ x)) 11 7) := k_if_ge dJ5_dec_4 rfl
theorem r_J5_dec_7 (E : ax_EN G l) : ax_Snd G l ax_Ym M_J5_dec 7 (S_iload 1 8) := k_iload_n dJ5_dec_7 rfl
theorem r_J5_dec_8 (E : ax_EN G l) : ax_Snd G l ax_Ym M_J5_dec 8 (S_push (.int (1)) 9) := k_iconst dJ5_dec_8 rfl
theorem r_J5_dec_9 (E : ax_EN G l) : ax_Snd G l ax_Ym M_J5_dec 9 (S_i2 (fun x y => x - y) 10) := k_isub dJ5_dec_9
theorem r_J5_dec_10 (E : ax_EN G l) : ax_Snd G l ax_Ym M_J5_dec 10 (S_istore 0 11) := k_istore_n dJ5_dec_10 rfl (Nat.le_of_ble_eq_true rfl)
theorem r_J5_dec_11 (E : ax_EN G l) : ax_Snd G l ax_Ym M_J5_dec 11 (S_iload 0 12) := k_iload_n dJ5_dec_11 rfl
theorem r_J5_dec_12 (E : ax_EN G l) : ax_Snd G l ax_Ym M_J5_dec 12 (S_iret) := k_iret dJ5_dec_12 rfl
theorem mt_J5_dec (E : ax_EN G l) : ax_mt G l ax_Ym (2, P_J5_dec) (ax_Ym 146) := ⟨M_J5_dec, yJ5_dec, ⟨rfl, by decide +kernel, rfl, (fun h => by cases h), Or.inl ⟨rfl, rfl⟩⟩, fun pc => (ax_sn_node (ax_sn_node (ax_sn_node (ax_sn_node (ax_sn_leaf (r_J5_dec_12 E)) (ax_sn_leaf (r_J5_dec_11 E))) (ax_sn_leaf (r_J5_dec_10 E))) (ax_sn_node (ax_sn_leaf (r_J5_dec_9 E)) (ax_sn_leaf (r_J5_dec_8 E)))) (ax_sn_node (ax_sn_node (ax_sn_leaf (r_J5_dec_7 E)) (ax_sn_leaf (r_J5_dec_4 E))) (ax_sn_node (ax_sn_leaf (r_J5_dec_3 E)) (ax_sn_leaf (r_J5_dec_0 E)))))⟩
theorem r_J5_clear_0 (E : ax_EN G l) : ax_Snd G l ax_Ym M_J5_clear 0 (S_aload 0 1) := k_aload_n dJ5_clear_0 rfl
theorem r_J5_clear_1 (E : ax_EN G l) : ax_Snd G l ax_Ym M_J5_clear 1 (S_getf [(16, 0)] 4) := k_getf (en_F E) (ax_fes_cons (fe_66 E) ax_fes_nil) q264 dJ5_clear_1
theorem r_J5_clear_4 (E : ax_EN G l) : ax_Snd G l ax_Ym M_J5_clear 4 (S_aload 0 5) := k_aload_n dJ5_clear_4 rfl
theorem r_J5_clear_5 (E : ax_EN G l) : ax_Snd G l ax_Ym M_J5_clear 5 (S_getf [(16, 1)] 8) := k_getf (en_F E) (ax_fes_cons (fe_61 E) ax_fes_nil) q267 dJ5_clear_5
theorem r_J5_clear_8 (E : ax_EN G l) : ax_Snd G l ax_Ym M_J5_clear 8 (S_aload 0 9) := k_aload_n dJ5_clear_8 rfl
theorem r_J5_clear_9 (E : ax_EN G l) : ax_Snd G l ax_Ym M_J5_clear 9 (S_getf [(16, 2)] 12) := k_getf (en_F E) (ax_fes_cons (fe_70 E) ax_fes_nil) q269 dJ5_clear_9
theorem r_J5_clear_12 (E : ax_EN G l) : ax_Snd G l ax_Ym M_J5_clear 12 (S_is 148 3 15 hd_0) := k_is (en_F E) (ax_ok0 E rfl) ((ev_s y_J5_circularClear q2001 q2002 q125 q2003 nm_J5_circularClear (Nat.le_of_ble_eq_true rfl) dJ5_clear_12) : ax_EvS G l ax_Ym M_J5_clear 12 148 3 3)
theorem r_J5_clear_15 (E : ax_EN G l) : ax_Snd G l ax_Ym M_J5_clear 15 (S_aload 0 16) := k_aload_n dJ5_clear_15 rfl
theorem r_J5_clear_16 (E : ax_EN G l) : ax_Snd G l ax_Ym M_J5_clear 16 (S_aload 0 17) := k_aload_n dJ5_clear_16 rfl
theorem r_J5_clear_17 (E : ax_EN G l) : ax_Snd G l ax_Ym M_J5_clear 17 (S_push (.int (0)) 18) := k_iconst dJ5_clear_17 rfl
theorem r_J5_clear_18 (E : ax_EN G l) : ax_Snd G l ax_Ym M_J5_clear 18 (S_dupx1 19) := k_dup_x1 dJ5_clear_18
theorem r_J5_clear_19 (E : ax_EN G l) : ax_Snd G l ax_Ym M_J5_clear 19 (S_putf [(16, 2)] (.int) 22) := k_putf (en_F E) (en_P E) (ax_fes_cons (fe_70 E) ax_fes_nil) (ax_fps_cons (fp_101 E) ax_fps_nil) q269 dJ5_clear_19
theorem r_J5_clear_22 (E : ax_EN G l) : ax_Snd G l ax_Ym M_J5_clear 22 (S_putf [(16, 1)] (.int) 25) := k_putf (en_F E) (en_P E) (ax_fes_cons (fe_61 E) ax_fes_nil) (ax_fps_cons (fp_102 E) ax_fps_nil) q267 dJ5_clear_22
theorem r_J5_clear_25 (E : ax_EN G l) : ax_Snd G l ax_Ym M_J5_clear 25 (S_ret) := k_ret dJ5_clear_25 rfl
theorem mt_J5_clear (E : ax_EN G l) : ax_mt G l ax_Ym (1, P_J5_clear) (ax_Ym 147) := ⟨M_J5_clear, yJ5_clear, ⟨rfl, by decide +kernel, rfl, (fun h => by cases h), Or.inl ⟨rfl, rfl⟩⟩, fun pc => (ax_sn_node (ax_sn_node (ax_sn_node (ax_sn_node (ax_sn_leaf (r_J5_clear_25 E)) (ax_sn_leaf (r_J5_clear_22 E))) (ax_sn_node (ax_sn_leaf (r_J5_clear_19 E)) (ax_sn_leaf (r_J5_clear_18 E)))) (ax_sn_node (ax_sn_node (ax_sn_leaf (r_J5_clear_17 E)) (ax_sn_leaf (r_J5_clear_16 E))) (ax_sn_leaf (r_J5_clear_15 E)))) (ax_sn_node (ax_sn_node (ax_sn_node (ax_sn_leaf (r_J5_clear_12 E)) (ax_sn_leaf (r_J5_clear_9 E))) (ax_sn_node (ax_sn_leaf (r_J5_clear_8 E)) (ax_sn_leaf (r_J5_clear_5 E)))) (ax_sn_node (ax_sn_node (ax_sn_leaf (r_J5_clear_4 E)) (ax_sn_leaf (r_J5_clear_1 E))) (ax_sn_leaf (r_J5_clear_0 E)))))⟩
theorem r_J5_circularClear_0 (E : ax_EN G l) : ax_Snd G l ax_Ym M_J5_circularClear 0 (S_iload 1 1) := k_iload_n dJ5_circularClear_0 rfl
theorem r_J5_circularClear_1 (E : ax_EN G l) : ax_Snd G l ax_Ym M_J5_circularClear 1 (S_iload 2 2) := k_iload_n dJ5_circularClear_1 rfl
theorem r_J5_circularClear_2 (E : ax_EN G l) : ax_Snd G l ax_Ym M_J5_circularClear 2 (S_if2 (fun x y => decide (y < x)) 9 5) := k_icmp_gt dJ5_circularClear_2 rfl
theorem r_J5_circularClear_5 (E : ax_EN G l) : ax_Snd G l ax_Ym M_J5_circularClear 5 (S_iload 2 6) := k_iload_n dJ5_circularClear_5 rfl
theorem r_J5_circularClear_6 (E : ax_EN G l) : ax_Snd G l ax_Ym M_J5_circularClear 6 (S_goto 11) := k_goto dJ5_circularClear_6 rfl
theorem r_J5_circularClear_9 (E : ax_EN G l) : ax_Snd G l ax_Ym M_J5_circularClear 9 (S_aload 0 10) := k_aload_n dJ5_circularClear_9 rfl
theorem r_J5_circularClear_10 (E : ax_EN G l) : ax_Snd G l ax_Ym M_J5_circularClear 10 (S_alen 11) := k_alen (en_F E) dJ5_circularClear_10
theorem r_J5_circularClear_11 (E : ax_EN G l) : ax_Snd G l ax_Ym M_J5_circularClear 11 (S_istore 3 12) := k_istore_n dJ5_circularClear_11 rfl (Nat.le_of_ble_eq_true rfl)
theorem r_J5_circularClear_12 (E : ax_EN G l) : ax_Snd G l ax_Ym M_J5_circularClear 12 (S_iload 1 13) := k_iload_n dJ5_circularClear_12 rfl
theorem r_J5_circularClear_13 (E : ax_EN G l) : ax_Snd G l ax_Ym M_J5_circularClear 13 (S_iload 3 14) := k_iload_n dJ5_circularClear_13 rfl
theorem r_J5_circularClear_14 (E : ax_EN G l) : ax_Snd G l ax_Ym M_J5_circularClear 14 (S_if2 (fun x y => decide (y ≤ x)) 27 17) := k_icmp_ge dJ5_circularClear_14 rfl
theorem r_J5_circularClear_17 (E : ax_EN G l) : ax_Snd G l ax_Ym M_J5_circularClear 17 (S_aload 0 18) := k_aload_n dJ5_circularClear_17 rfl
theorem r_J5_circularClear_18 (E : ax_EN G l) : ax_Snd G l ax_Ym M_J5_circularClear 18 (S_iload 1 19) := k_iload_n dJ5_circularClear_18 rfl
theorem r_J5_circularClear_19 (E : ax_EN G l) : ax_Snd G l ax_Ym M_J5_circularClear 19 (S_push .null 20) := k_null dJ5_circularClear_19
theorem r_J5_circularClear_20 (E : ax_EN G l) : ax_Snd G l ax_Ym M_J5_circularClear 20 (S_aast 4 ax_objs 21) := k_aast (en_F E) (en_B E) (ax_objs_ok E) (fun _ h => h) dJ5_circularClear_20
theorem r_J5_circularClear_21 (E : ax_EN G l) : ax_Snd G l ax_Ym M_J5_circularClear 21 (S_iinc 1 (1) 24) := k_iinc dJ5_circularClear_21 rfl (Nat.le_of_ble_eq_true rfl)
theorem r_J5_circularClear_24 (E : ax_EN G l) : ax_Snd G l ax_Ym M_J5_circularClear 24 (S_goto 12) := k_goto dJ5_circularClear_24 rfl
theorem r_J5_circularClear_27 (E : ax_EN G l) : ax_Snd G l ax_Ym M_J5_circularClear 27 (S_iload 3 28) := k_iload_n dJ5_circularClear_27 rfl
theorem r_J5_circularClear_28 (E : ax_EN G l) : ax_Snd G l ax_Ym M_J5_circularClear 28 (S_iload 2 29) := k_iload_n dJ5_circularClear_28 rfl
theorem r_J5_circularClear_29 (E : ax_EN G l) : ax_Snd G l ax_Ym M_J5_circularClear 29 (S_if2 (fun x y => decide (¬ x = y)) 35 32) := k_icmp_ne dJ5_circularClear_29 rfl
theorem r_J5_circularClear_32 (E : ax_EN G l) : ax_Snd G l ax_Ym M_J5_circularClear 32 (S_goto 42) := k_goto dJ5_circularClear_32 rfl
theorem r_J5_circularClear_35 (E : ax_EN G l) : ax_Snd G l ax_Ym M_J5_circularClear 35 (S_push (.int (0)) 36) := k_iconst dJ5_circularClear_35 rfl
theorem r_J5_circularClear_36 (E : ax_EN G l) : ax_Snd G l ax_Ym M_J5_circularClear 36 (S_istore 1 37) := k_istore_n dJ5_circularClear_36 rfl (Nat.le_of_ble_eq_true rfl)
theorem r_J5_circularClear_37 (E : ax_EN G l) : ax_Snd G l ax_Ym M_J5_circularClear 37 (S_iload 2 38) := k_iload_n dJ5_circularClear_37 rfl
theorem r_J5_circularClear_38 (E : ax_EN G l) : ax_Snd G l ax_Ym M_J5_circularClear 38 (S_istore 3 39) := k_istore_n dJ5_circularClear_38 rfl (Nat.le_of_ble_eq_true rfl)
theorem r_J5_circularClear_39 (E : ax_EN G l) : ax_Snd G l ax_Ym M_J5_circularClear 39 (S_goto 12) := k_goto dJ5_circularClear_39 rfl
theorem r_J5_circularClear_42 (E : ax_EN G l) : ax_Snd G l ax_Ym M_J5_circularClear 42 (S_ret) := k_ret dJ5_circularClear_42 rfl
theorem mt_J5_circularClear (E : ax_EN G l) : ax_mt G l ax_Ym (4, P_J5_circularClear) (ax_Ym 148) := ⟨M_J5_circularClear, yJ5_circularClear, ⟨rfl, by decide +kernel, rfl, (fun h => by cases h), Or.inl ⟨rfl, rfl⟩⟩, fun pc => (ax_sn_node (ax_sn_node (ax_sn_node (ax_sn_node (ax_sn_node (ax_sn_leaf (r_J5_circularClear_42 E)) (ax_sn_leaf (r_J5_circularClear_39 E))) (ax_sn_node (ax_sn_leaf (r_J5_circularClear_38 E)) (ax_sn_leaf (r_J5_circularClear_37 E)))) (ax_sn_node (ax_sn_node (ax_sn_leaf (r_J5_circularClear_36 E)) (ax_sn_leaf (r_J5_circularClear_35 E))) (ax_sn_leaf (r_J5_circularClear_32 E)))) (ax_sn_node (ax_sn_node (ax_sn_node (ax_sn_leaf (r_J5_circularClear_29 E)) (ax_sn_leaf (r_J5_circularClear_28 E))) (ax_sn_node (ax_sn_leaf (r_J5_circularClear_27 E)) (ax_sn_leaf (r_J5_circularClear_24 E)))) (ax_sn_node (ax_sn_node (ax_sn_leaf (r_J5_circularClear_21 E)) (ax_sn_leaf (r_J5_circularClear_20 E))) (ax_sn_leaf (r_J5_circularClear_19 E))))) (ax_sn_node (ax_sn_node (ax_sn_node (ax_sn_node (ax_sn_leaf (r_J5_circularClear_18 E)) (ax_sn_leaf (r_J5_circularClear_17 E))) (ax_sn_node (ax_sn_leaf (r_J5_circularClear_14 E)) (ax_sn_leaf (r_J5_circularClear_13 E)))) (ax_sn_node (ax_sn_node (ax_sn_leaf (r_J5_circularClear_12 E)) (ax_sn_leaf (r_J5_circularClear_11 E))) (ax_sn_leaf (r_J5_circularClear_10 E)))) (ax_sn_node (ax_sn_node (ax_sn_node (ax_sn_leaf (r_J5_circularClear_9 E)) (ax_sn_leaf (r_J5_circularClear_6 E))) (ax_sn_leaf (r_J5_circularClear_5 E))) (ax_sn_node (ax_sn_node (ax_sn_leaf (r_J5_circularClear_2 E)) (ax_sn_leaf (r_J5_circularClear_1 E))) (ax_sn_leaf (r_J5_circularClear_0 E))))))⟩
theorem r_J5_addLast_0 (E : ax_EN G l) : ax_Snd G l ax_Ym M_J5_addLast 0 (S_aload 1 1) := k_aload_n dJ5_addLast_0 rfl
theorem r_J5_addLast_1 (E : ax_EN G l) : ax_Snd G l ax_Ym M_J5_addLast 1 (S_null 4 12) := k_ifnonnull dJ5_addLast_1 rfl
theorem r_J5_addLast_7 (E : ax_EN G l) : ax_Snd G l ax_Ym M_J5_addLast 7 (S_dup 8) := k_dup dJ5_addLast_7
theorem r_J5_addLast_11 (E : ax_EN G l) : ax_Snd G l ax_Ym M_J5_addLast 11 (S_athrow hd_0) := k_athrow (en_F E) (ax_ok0 E rfl) dJ5_addLast_11
theorem r_J5_addLast_12 (E : ax_EN G l) : ax_Snd G l ax_Ym M_J5_addLast 12 (S_aload 0 13) := k_aload_n dJ5_addLast_12 rfl
theorem r_J5_addLast_13 (E : ax_EN G l) : ax_Snd G l ax_Ym M_J5_addLast 13 (S_getf [(16, 0)] 16) := k_getf (en_F E) (ax_fes_cons (fe_66 E) ax_fes_nil) q264 dJ5_addLast_13
theorem r_J5_addLast_16 (E : ax_EN G l) : ax_Snd G l ax_Ym M_J5_addLast 16 (S_astore 2 17) := k_astore_n dJ5_addLast_16 rfl (Nat.le_of_ble_eq_true rfl)
theorem r_J5_addLast_17 (E : ax_EN G l) : ax_Snd G l ax_Ym M_J5_addLast 17 (S_aload 2 18) := k_aload_n dJ5_addLast_17 rfl
theorem r_J5_addLast_18 (E : ax_EN G l) : ax_Snd G l ax_Ym M_J5_addLast 18 (S_aload 0 19) := k_aload_n dJ5_addLast_18 rfl
theorem r_J5_addLast_19 (E : ax_EN G l) : ax_Snd G l ax_Ym M_J5_addLast 19 (S_getf [(16, 2)] 22) := k_getf (en_F E) (ax_fes_cons (fe_70 E) ax_fes_nil) q269 dJ5_addLast_19
theorem r_J5_addLast_22 (E : ax_EN G l) : ax_Snd G l ax_Ym M_J5_addLast 22 (S_aload 1 23) := k_aload_n dJ5_addLast_22 rfl
theorem r_J5_addLast_23 (E : ax_EN G l) : ax_Snd G l ax_Ym M_J5_addLast 23 (S_aast 4 ax_objs 24) := k_aast (en_F E) (en_B E) (ax_objs_ok E) (fun _ h => h) dJ5_addLast_23
theorem r_J5_addLast_24 (E : ax_EN G l) : ax_Snd G l ax_Ym M_J5_addLast 24 (S_aload 0 25) := k_aload_n dJ5_addLast_24 rfl
theorem r_J5_addLast_25 (E : ax_EN G l) : ax_Snd G l ax_Ym M_J5_addLast 25 (S_getf [(16, 1)] 28) := k_getf (en_F E) (ax_fes_cons (fe_61 E) ax_fes_nil) q267 dJ5_addLast_25
theorem r_J5_addLast_28 (E : ax_EN G l) : ax_Snd G l ax_Ym M_J5_addLast 28 (S_aload 0 29) := k_aload_n dJ5_addLast_28 rfl
theorem r_J5_addLast_29 (E : ax_EN G l) : ax_Snd G l ax_Ym M_J5_addLast 29 (S_aload 0 30) := k_aload_n dJ5_addLast_29 rfl
theorem r_J5_addLast_30 (E : ax_EN G l) : ax_Snd G l ax_Ym M_J5_addLast 30 (S_getf [(16, 2)] 33) := k_getf (en_F E) (ax_fes_cons (fe_70 E) ax_fes_nil) q269 dJ5_addLast_30
theorem r_J5_addLast_33 (E : ax_EN G l) : ax_Snd G l ax_Ym M_J5_addLast 33 (S_aload 2 34) := k_aload_n dJ5_addLast_33 rfl
theorem r_J5_addLast_34 (E : ax_EN G l) : ax_Snd G l ax_Ym M_J5_addLast 34 (S_alen 35) := k_alen (en_F E) dJ5_addLast_34
theorem r_J5_addLast_35 (E : ax_EN G l) : ax_Snd G l ax_Ym M_J5_addLast 35 (S_is 150 2 38 hd_0) := k_is (en_F E) (ax_ok0 E rfl) ((ev_s y_J5_inc q2051 q2052 q125 q2053 nm_J5_inc (Nat.le_of_ble_eq_true rfl) dJ5_addLast_35) : ax_EvS G l ax_Ym M_J5_addLast 35 150 2 3)
theorem r_J5_addLast_38 (E : ax_EN G l) : ax_Snd G l ax_Ym M_J5_addLast 38 (S_dupx1 39) := k_dup_x1 dJ5_addLast_38
theorem r_J5_addLast_39 (E : ax_EN G l) : ax_Snd G l ax_Ym M_J5_addLast 39 (S_putf [(16, 2)] (.int) 42) := k_putf (en_F E) (en_P E) (ax_fes_cons (fe_70 E) ax_fes_nil) (ax_fps_cons (fp_101 E) ax_fps_nil) q269 dJ5_addLast_39
theorem r_J5_addLast_42 (E : ax_EN G l) : ax_Snd G l ax_Ym M_J5_addLast 42 (S_if2 (fun x y => decide (¬ x = y)) 50 45) := k_icmp_ne dJ5_addLast_42 rfl
theorem r_J5_addLast_45 (E : ax_EN G l) : ax_Snd G l ax_Ym M_J5_addLast 45 (S_aload 0 46) := k_aload_n dJ5_addLast_45 rfl
theorem r_J5_addLast_46 (E : ax_EN G l) : ax_Snd G l ax_Ym M_J5_addLast 46 (S_push (.int (1)) 47) := k_iconst dJ5_addLast_46 rfl
theorem r_J5_addLast_47 (E : ax_EN G l) : ax_Snd G l ax_Ym M_J5_addLast 47 (S_iv [(16, 151)] 1 50 hd_0) := k_iv (en_F E) (ax_ok0 E rfl) (ax_Evs_cons ((ev_v (en_c E (k := 16) rfl) rfl y_J5_grow q2054 q2056 qs25 q125 q2057 nm_J5_grow (Nat.le_of_ble_eq_true rfl) dJ5_addLast_47) : ax_EvV G l ax_Ym M_J5_addLast 47 1 3 16 151) ax_Evs_nil)
theorem r_J5_addLast_50 (E : ax_EN G l) : ax_Snd G l ax_Ym M_J5_addLast 50 (S_ret) := k_ret dJ5_addLast_50 rfl
theorem mt_J5_addLast (E : ax_EN G l) : ax_mt G l ax_Ym (3, P_J5_addLast) (ax_Ym 149) := ⟨M_J5_addLast, yJ5_addLast, ⟨rfl, by decide +kernel, rfl, (fun h => by cases h), Or.inl ⟨rfl, rfl⟩⟩, fun pc => (ax_sn_node (ax_sn_node (ax_sn_node (ax_sn_node (ax_sn_node (ax_sn_leaf (r_J5_addLast_50 E)) (ax_sn_leaf (r_J5_addLast_47 E))) (ax_sn_node (ax_sn_leaf (r_J5_addLast_46 E)) (ax_sn_leaf (r_J5_addLast_45 E)))) (ax_sn_node (ax_sn_node (ax_sn_leaf (r_J5_addLast_42 E)) (ax_sn_leaf (r_J5_addLast_39 E))) (ax_sn_leaf (r_J5_addLast_38 E)))) (ax_sn_node (ax_sn_node (ax_sn_node (ax_sn_leaf (r_J5_addLast_35 E)) (ax_sn_leaf (r_J5_addLast_34 E))) (ax_sn_node (ax_sn_leaf (r_J5_addLast_33 E)) (ax_sn_leaf (r_J5_addLast_30 E)))) (ax_sn_node (ax_sn_node (ax_sn_leaf (r_J5_addLast_29 E)) (ax_sn_leaf (r_J5_addLast_28 E))) (ax_sn_leaf (r_J5_addLast_25 E))))) (ax_sn_node (ax_sn_node (ax_sn_node (ax_sn_node (ax_sn_leaf (r_J5_addLast_24 E)) (ax_sn_leaf (r_J5_addLast_23 E))) (ax_sn_node (ax_sn_leaf (r_J5_addLast_22 E)) (ax_sn_leaf (r_J5_addLast_19 E)))) (ax_sn_node (ax_sn_node (ax_sn_leaf (r_J5_addLast_18 E)) (ax_sn_leaf (r_J5_addLast_17 E))) (ax_sn_leaf (r_J5_addLast_16 E)))) (ax_sn_node (ax_sn_node (ax_sn_node (ax_sn_leaf (r_J5_addLast_13 E)) (ax_sn_leaf (r_J5_addLast_12 E))) (ax_sn_leaf (r_J5_addLast_11 E))) (ax_sn_node (ax_sn_node (ax_sn_leaf (r_J5_addLast_7 E)) (ax_sn_leaf (r_J5_addLast_1 E))) (ax_sn_leaf (r_J5_addLast_0 E))))))⟩
theorem r_J5_inc_0 (E : ax_EN G l) : ax_Snd G l ax_Ym M_J5_inc 0 (S_iinc 0 (1) 3) := k_iinc dJ5_inc_0 rfl (Nat.le_of_ble_eq_true rfl)
theorem r_J5_inc_3 (E : ax_EN G l) : ax_Snd G l ax_Ym M_J5_inc 3 (S_iload 0 4) := k_iload_n dJ5_inc_3 rfl
theorem r_J5_inc_4 (E : ax_EN G l) : ax_Snd G l ax_Ym M_J5_inc 4 (S_iload 1 5) := k_iload_n dJ5_inc_4 rfl
theorem r_J5_inc_5 (E : ax_EN G l) : ax_Snd G l ax_Ym M_J5_inc 5 (S_if2 (fun x y => decide (x < y)) 10 8) := k_icmp_lt dJ5_inc_5 rfl
theorem r_J5_inc_8 (E : ax_EN G l) : ax_Snd G l ax_Ym M_J5_inc 8 (S_push (.int (0)) 9) := k_iconst dJ5_inc_8 rfl
theorem r_J5_inc_9 (E : ax_EN G l) : ax_Snd G l ax_Ym M_J5_inc 9 (S_istore 0 10) := k_istore_n dJ5_inc_9 rfl (Nat.le_of_ble_eq_true rfl)
theorem r_J5_inc_10 (E : ax_EN G l) : ax_Snd G l ax_Ym M_J5_inc 10 (S_iload 0 11) := k_iload_n dJ5_inc_10 rfl
theorem r_J5_inc_11 (E : ax_EN G l) : ax_Snd G l ax_Ym M_J5_inc 11 (S_iret) := k_iret dJ5_inc_11 rfl
theorem mt_J5_inc (E : ax_EN G l) : ax_mt G l ax_Ym (2, P_J5_inc) (ax_Ym 150) := ⟨M_J5_inc, yJ5_inc, ⟨rfl, by decide +kernel, rfl, (fun h => by cases h), Or.inl ⟨rfl, rfl⟩⟩, fun pc => (ax_sn_node (ax_sn_node (ax_sn_node (ax_sn_leaf (r_J5_inc_11 E)) (ax_sn_leaf (r_J5_inc_10 E))) (ax_sn_node (ax_sn_leaf (r_J5_inc_9 E)) (ax_sn_leaf (r_J5_inc_8 E)))) (ax_sn_node (ax_sn_node (ax_sn_leaf (r_J5_inc_5 E)) (ax_sn_leaf (r_J5_inc_4 E))) (ax_sn_node (ax_sn_leaf (r_J5_inc_3 E)) (ax_sn_leaf (r_J5_inc_0 E)))))⟩
theorem r_J5_grow_0 (E : ax_EN G l) : ax_Snd G l ax_Ym M_J5_grow 0 (S_aload 0 1) := k_aload_n dJ5_grow_0 rfl
theorem r_J5_grow_1 (E : ax_EN G l) : ax_Snd G l ax_Ym M_J5_grow 1 (S_getf [(16, 0)] 4) := k_getf (en_F E) (ax_fes_cons (fe_66 E) ax_fes_nil) q264 dJ5_grow_1
theorem r_J5_grow_4 (E : ax_EN G l) : ax_Snd G l ax_Ym M_J5_grow 4 (S_alen 5) := k_alen (en_F E) dJ5_grow_4
theorem r_J5_grow_5 (E : ax_EN G l) : ax_Snd G l ax_Ym M_J5_grow 5 (S_istore 2 6) := k_istore_n dJ5_grow_5 rfl (Nat.le_of_ble_eq_true rfl)
theorem r_J5_grow_6 (E : ax_EN G l) : ax_Snd G l ax_Ym M_J5_grow 6 (S_iload 2 7) := k_iload_n dJ5_grow_6 rfl
theorem r_J5_grow_7 (E : ax_EN G l) : ax_Snd G l ax_Ym M_J5_grow 7 (S_push (.int (64)) 9) := k_bipush dJ5_grow_7 rfl
theorem r_J5_grow_9 (E : ax_EN G l) : ax_Snd G l ax_Ym M_J5_grow 9 (S_if2 (fun x y => decide (y ≤ x)) 18 12) := k_icmp_ge dJ5_grow_9 rfl
theorem r_J5_grow_12 (E : ax_EN G l) : ax_Snd G l ax_Ym M_J5_grow 12 (S_iload 2 13) := k_iload_n dJ5_grow_12 rfl
theorem r_J5_grow_13 (E : ax_EN G l) : ax_Snd G l ax_Ym M_J5_grow 13 (S_push (.int (2)) 14) := k_iconst dJ5_grow_13 rfl
theorem r_J5_grow_14 (E : ax_EN G l) : ax_Snd G l ax_Ym M_J5_grow 14 (S_i2 (fun x y => x + y) 15) := k_iadd dJ5_grow_14
theorem r_J5_grow_15 (E : ax_EN G l) : ax_Snd G l ax_Ym M_J5_grow 15 (S_goto 21) := k_goto dJ5_grow_15 rfl
theorem r_J5_grow_18 (E : ax_EN G l) : ax_Snd G l ax_Ym M_J5_grow 18 (S_iload 2 19) := k_iload_n dJ5_grow_18 rfl
theorem r_J5_grow_19 (E : ax_EN G l) : ax_Snd G l ax_Ym M_J5_grow 19 (S_push (.int (1)) 20) := k_iconst dJ5_grow_19 rfl
theorem r_J5_grow_20 (E : ax_EN G l) : ax_Snd G l ax_Ym M_J5_grow 20 (S_i2 (fun x y => x >>> (y &&& 31)) 21) := k_ishr dJ5_grow_20
theorem r_J5_grow_21 (E : ax_EN G l) : ax_Snd G l ax_Ym M_J5_grow 21 (S_istore 4 23) := k_istore dJ5_grow_21 (Nat.le_of_ble_eq_true rfl)
theorem r_J5_grow_23 (E : ax_EN G l) : ax_Snd G l ax_Ym M_J5_grow 23 (S_iload 4 25) := k_iload dJ5_grow_23
theorem r_J5_grow_25 (E : ax_EN G l) : ax_Snd G l ax_Ym M_J5_grow 25 (S_iload 1 26) := k_iload_n dJ5_grow_25 rfl
theorem r_J5_grow_26 (E : ax_EN G l) : ax_Snd G l ax_Ym M_J5_grow 26 (S_if2 (fun x y => decide (x < y)) 41 29) := k_icmp_lt dJ5_grow_26 rfl
theorem r_J5_grow_29 (E : ax_EN G l) : ax_Snd G l ax_Ym M_J5_grow 29 (S_iload 2 30) := k_iload_n dJ5_grow_29 rfl
theorem r_J5_grow_30 (E : ax_EN G l) : ax_Snd G l ax_Ym M_J5_grow 30 (S_iload 4 32) := k_iload dJ5_grow_30
theorem r_J5_grow_32 (E : ax_EN G l) : ax_Snd G l ax_Ym M_J5_grow 32 (S_i2 (fun x y => x + y) 33) := k_iadd dJ5_grow_32
theorem r_J5_grow_33 (E : ax_EN G l) : ax_Snd G l ax_Ym M_J5_grow 33 (S_dup 34) := k_dup dJ5_grow_33
theorem r_J5_grow_34 (E : ax_EN G l) : ax_Snd G l ax_Ym M_J5_grow 34 (S_istore 3 35) := k_istore_n dJ5_grow_34 rfl (Nat.le_of_ble_eq_true rfl)
theorem r_J5_grow_35 (E : ax_EN G l) : ax_Snd G l ax_Ym M_J5_grow 35 (S_push (.int (2147483639)) 37) := k_ldc q2058 dJ5_grow_35
theorem r_J5_grow_37 (E : ax_EN G l) : ax_Snd G l ax_Ym M_J5_grow 37 (S_i2 (fun x y => x - y) 38) := k_isub dJ5_grow_37
theorem r_J5_grow_38 (E : ax_EN G l) : ax_Snd G l ax_Ym M_J5_grow 38 (S_if1 (fun x => decide (x ≤ 0)) 49 41) := k_if_le dJ5_grow_38 rfl
theorem r_J5_grow_41 (E : ax_EN G l) : ax_Snd G l ax_Ym M_J5_grow 41 (S_aload 0 42) := k_aload_n dJ5_grow_41 rfl
theorem r_J5_grow_42 (E : ax_EN G l) : ax_Snd G l ax_Ym M_J5_grow 42 (S_iload 1 43) := k_iload_n dJ5_grow_42 rfl
theorem r_J5_grow_43 (E : ax_EN G l) : ax_Snd G l ax_Ym M_J5_grow 43 (S_iload 4 45) := k_iload dJ5_grow_43
theorem r_J5_grow_45 (E : ax_EN G l) : ax_Snd G l ax_Ym M_J5_grow 45 (S_iv [(16, 152)] 2 48 hd_0) := k_iv (en_F E) (ax_ok0 E rfl) (ax_Evs_cons ((ev_v (en_c E (k := 16) rfl) rfl y_J5_newCapacity q2059 q2061 qs26 q125 q2062 nm_J5_newCapacity (Nat.le_of_ble_eq_true rfl) dJ5_grow_45) : ax_EvV G l ax_Ym M_J5_grow 45 2 3 16 152) ax_Evs_nil)
theorem r_J5_grow_48 (E : ax_EN G l) : ax_Snd G l ax_Ym M_J5_grow 48 (S_istore 3 49) := k_istore_n dJ5_grow_48 rfl (Nat.le_of_ble_eq_true rfl)
theorem r_J5_grow_49 (E : ax_EN G l) : ax_Snd G l ax_Ym M_J5_grow 49 (S_aload 0 50) := k_aload_n dJ5_grow_49 rfl
theorem r_J5_grow_50 (E : ax_EN G l) : ax_Snd G l ax_Ym M_J5_grow 50 (S_aload 0 51) := k_aload_n dJ5_grow_50 rfl
theorem r_J5_grow_51 (E : ax_EN G l) : ax_Snd G l ax_Ym M_J5_grow 51 (S_getf [(16, 0)] 54) := k_getf (en_F E) (ax_fes_cons (fe_66 E) ax_fes_nil) q264 dJ5_grow_51
theorem r_J5_grow_54 (E : ax_EN G l) : ax_Snd G l ax_Ym M_J5_grow 54 (S_iload 3 55) := k_iload_n dJ5_grow_54 rfl
theorem r_J5_grow_55 (E : ax_EN G l) : ax_Snd G l ax_Ym M_J5_grow 55 (S_is 13 2 58 hd_0) := k_is (en_F E) (ax_ok0 E rfl) ((ev_s y_J13_copyOf_2 q2067 q1041 q136 q1042 nm_J13_copyOf_2 (Nat.le_of_ble_eq_true rfl) dJ5_grow_55) : ax_EvS G l ax_Ym M_J5_grow 55 13 2 3)
theorem r_J5_grow_58 (E : ax_EN G l) : ax_Snd G l ax_Ym M_J5_grow 58 (S_dupx1 59) := k_dup_x1 dJ5_grow_58
theorem r_J5_grow_59 (E : ax_EN G l) : ax_Snd G l ax_Ym M_J5_grow 59 (S_putf [(16, 0)] (.array (.object "java/lang/Object")) 62) := k_putf (en_F E) (en_P E) (ax_fes_cons (fe_66 E) ax_fes_nil) (ax_fps_cons (fp_100 E) ax_fps_nil) q264 dJ5_grow_59
theorem r_J5_grow_62 (E : ax_EN G l) : ax_Snd G l ax_Ym M_J5_grow 62 (S_astore 5 64) := k_astore dJ5_grow_62 (Nat.le_of_ble_eq_true rfl)
theorem r_J5_grow_64 (E : ax_EN G l) : ax_Snd G l ax_Ym M_J5_grow 64 (S_aload 0 65) := k_aload_n dJ5_grow_64 rfl
theorem r_J5_grow_65 (E : ax_EN G l) : ax_Snd G l ax_Ym M_J5_grow 65 (S_getf [(16, 2)] 68) := k_getf (en_F E) (ax_fes_cons (fe_70 E) ax_fes_nil) q269 dJ5_grow_65
theorem r_J5_grow_68 (E : ax_EN G l) : ax_Snd G l ax_Ym M_J5_grow 68 (S_aload 0 69) := k_aload_n dJ5_grow_68 rfl
theorem r_J5_grow_69 (E : ax_EN G l) : ax_Snd G l ax_Ym M_J5_grow 69 (S_getf [(16, 1)] 72) := k_getf (en_F E) (ax_fes_cons (fe_61 E) ax_fes_nil) q267 dJ5_grow_69
theorem r_J5_grow_72 (E : ax_EN G l) : ax_Snd G l ax_Ym M_J5_grow 72 (S_if2 (fun x y => decide (x < y)) 96 75) := k_icmp_lt dJ5_grow_72 rfl
theorem r_J5_grow_75 (E : ax_EN G l) : ax_Snd G l ax_Ym M_J5_grow 75 (S_aload 0 76) := k_aload_n dJ5_grow_75 rfl
theorem r_J5_grow_76 (E : ax_EN G l) : ax_Snd G l ax_Ym M_J5_grow 76 (S_getf [(16, 2)] 79) := k_getf (en_F E) (ax_fes_cons (fe_70 E) ax_fes_nil) q269 dJ5_grow_76
theorem r_J5_grow_79 (E : ax_EN G l) : ax_Snd G l ax_Ym M_J5_grow 79 (S_aload 0 80) := k_aload_n dJ5_grow_79 rfl
theorem r_J5_grow_80 (E : ax_EN G l) : ax_Snd G l ax_Ym M_J5_grow 80 (S_getf [(16, 1)] 83) := k_getf (en_F E) (ax_fes_cons (fe_61 E) ax_fes_nil) q267 dJ5_grow_80
theorem r_J5_grow_83 (E : ax_EN G l) : ax_Snd G l ax_Ym M_J5_grow 83 (S_if2 (fun x y => decide (¬ x = y)) 164 86) := k_icmp_ne dJ5_grow_83 rfl
theorem r_J5_grow_86 (E : ax_EN G l) : ax_Snd G l ax_Ym M_J5_grow 86 (S_aload 5 88) := k_aload dJ5_grow_86
theorem r_J5_grow_88 (E : ax_EN G l) : ax_Snd G l ax_Ym M_J5_grow 88 (S_aload 0 89) := k_aload_n dJ5_grow_88 rfl
theorem r_J5_grow_89 (E : ax_EN G l) : ax_Snd G l ax_Ym M_J5_grow 89 (S_getf [(16, 1)] 92) := k_getf (en_F E) (ax_fes_cons (fe_61 E) ax_fes_nil) q267 dJ5_grow_89
theorem r_J5_grow_92 (E : ax_EN G l) : ax_Snd G l ax_Ym M_J5_grow 92 (S_aald 4 93) := k_aald (en_F E) rfl dJ5_grow_92
theorem r_J5_grow_93 (E : ax_EN G l) : ax_Snd G l ax_Ym M_J5_grow 93 (S_null 164 96) := k_ifnull dJ5_grow_93 rfl
theorem r_J5_grow_96 (E : ax_EN G l) : ax_Snd G l ax_Ym M_J5_grow 96 (S_iload 3 97) := k_iload_n dJ5_grow_96 rfl
theorem r_J5_grow_97 (E : ax_EN G l) : ax_Snd G l ax_Ym M_J5_grow 97 (S_iload 2 98) := k_iload_n dJ5_grow_97 rfl
theorem r_J5_grow_98 (E : ax_EN G l) : ax_Snd G l ax_Ym M_J5_grow 98 (S_i2 (fun x y => x - y) 99) := k_isub dJ5_grow_98
theorem r_J5_grow_99 (E : ax_EN G l) : ax_Snd G l ax_Ym M_J5_grow 99 (S_istore 6 101) := k_istore dJ5_grow_99 (Nat.le_of_ble_eq_true rfl)
theorem r_J5_grow_101 (E : ax_EN G l) : ax_Snd G l ax_Ym M_J5_grow 101 (S_aload 5 103) := k_aload dJ5_grow_101
theorem r_J5_grow_103 (E : ax_EN G l) : ax_Snd G l ax_Ym M_J5_grow 103 (S_aload 0 104) := k_aload_n dJ5_grow_103 rfl
theorem r_J5_grow_104 (E : ax_EN G l) : ax_Snd G l ax_Ym M_J5_grow 104 (S_getf [(16, 1)] 107) := k_getf (en_F E) (ax_fes_cons (fe_61 E) ax_fes_nil) q267 dJ5_grow_104
theorem r_J5_grow_107 (E : ax_EN G l) : ax_Snd G l ax_Ym M_J5_grow 107 (S_aload 5 109) := k_aload dJ5_grow_107
theorem r_J5_grow_109 (E : ax_EN G l) : ax_Snd G l ax_Ym M_J5_grow 109 (S_aload 0 110) := k_aload_n dJ5_grow_109 rfl
theorem r_J5_grow_110 (E : ax_EN G l) : ax_Snd G l ax_Ym M_J5_grow 110 (S_getf [(16, 1)] 113) := k_getf (en_F E) (ax_fes_cons (fe_61 E) ax_fes_nil) q267 dJ5_grow_110
theorem r_J5_grow_113 (E : ax_EN G l) : ax_Snd G l ax_Ym M_J5_grow 113 (S_iload 6 115) := k_iload dJ5_grow_113
theorem r_J5_grow_115 (E : ax_EN G l) : ax_Snd G l ax_Ym M_J5_grow 115 (S_i2 (fun x y => x + y) 116) := k_iadd dJ5_grow_115
theorem r_J5_grow_116 (E : ax_EN G l) : ax_Snd G l ax_Ym M_J5_grow 116 (S_iload 2 117) := k_iload_n dJ5_grow_116 rfl
theorem r_J5_grow_117 (E : ax_EN G l) : ax_Snd G l ax_Ym M_J5_grow 117 (S_aload 0 118) := k_aload_n dJ5_grow_117 rfl
theorem r_J5_grow_118 (E : ax_EN G l) : ax_Snd G l ax_Ym M_J5_grow 118 (S_getf [(16, 1)] 121) := k_getf (en_F E) (ax_fes_cons (fe_61 E) ax_fes_nil) q267 dJ5_grow_118
theorem r_J5_grow_121 (E : ax_EN G l) : ax_Snd G l ax_Ym M_J5_grow 121 (S_i2 (fun x y => x - y) 122) := k_isub dJ5_grow_121
theorem r_J5_grow_122 (E : ax_EN G l) : ax_Snd G l ax_Ym M_J5_grow 122 (S_acp 125) := k_acp (en_F E) (en_B E) ⟨q2068, q603, q602, q137⟩ (ax_objs_c E) dJ5_grow_122
theorem r_J5_grow_125 (E : ax_EN G l) : ax_Snd G l ax_Ym M_J5_grow 125 (S_aload 0 126) := k_aload_n dJ5_grow_125 rfl
theorem r_J5_grow_126 (E : ax_EN G l) : ax_Snd G l ax_Ym M_J5_grow 126 (S_getf [(16, 1)] 129) := k_getf (en_F E) (ax_fes_cons (fe_61 E) ax_fes_nil) q267 dJ5_grow_126
theorem r_J5_grow_129 (E : ax_EN G l) : ax_Snd G l ax_Ym M_J5_grow 129 (S_istore 7 131) := k_istore dJ5_grow_129 (Nat.le_of_ble_eq_true rfl)
theorem r_J5_grow_131 (E : ax_EN G l) : ax_Snd G l ax_Ym M_J5_grow 131 (S_aload 0 132) := k_aload_n dJ5_grow_131 rfl
theorem r_J5_grow_132 (E : ax_EN G l) : ax_Snd G l ax_Ym M_J5_grow 132 (S_dup 133) := k_dup dJ5_grow_132
theorem r_J5_grow_133 (E : ax_EN G l) : ax_Snd G l ax_Ym M_J5_grow 133 (S_getf [(16, 1)] 136) := k_getf (en_F E) (ax_fes_cons (fe_61 E) ax_fes_nil) q267 dJ5_grow_133
theorem r_J5_grow_136 (E : ax_EN G l) : ax_Snd G l ax_Ym M_J5_grow 136 (S_iload 6 138) := k_iload dJ5_grow_136
theorem r_J5_grow_138 (E : ax_EN G l) : ax_Snd G l ax_Ym M_J5_grow 138 (S_i2 (fun x y => x + y) 139) := k_iadd dJ5_grow_138
theorem r_J5_grow_139 (E : ax_EN G l) : ax_Snd G l ax_Ym M_J5_grow 139 (S_dupx1 140) := k_dup_x1 dJ5_grow_139
theorem r_J5_grow_140 (E : ax_EN G l) : ax_Snd G l ax_Ym M_J5_grow 140 (S_putf [(16, 1)] (.int) 143) := k_putf (en_F E) (en_P E) (ax_fes_cons (fe_61 E) ax_fes_nil) (ax_fps_cons (fp_102 E) ax_fps_nil) q267 dJ5_grow_140
theorem r_J5_grow_143 (E : ax_EN G l) : ax_Snd G l ax_Ym M_J5_grow 143 (S_istore 8 145) := k_istore dJ5_grow_143 (Nat.le_of_ble_eq_true rfl)
theorem r_J5_grow_145 (E : ax_EN G l) : ax_Snd G l ax_Ym M_J5_grow 145 (S_iload 7 147) := k_iload dJ5_grow_145
theorem r_J5_grow_147 (E : ax_EN G l) : ax_Snd G l ax_Ym M_J5_grow 147 (S_iload 8 149) := k_iload dJ5_grow_147
theorem r_J5_grow_149 (E : ax_EN G l) : ax_Snd G l ax_Ym M_J5_grow 149 (S_if2 (fun x y => decide (y ≤ x)) 164 152) := k_icmp_ge dJ5_grow_149 rfl
theorem r_J5_grow_152 (E : ax_EN G l) : ax_Snd G l ax_Ym M_J5_grow 152 (S_aload 5 154) := k_aload dJ5_grow_152
theorem r_J5_grow_154 (E : ax_EN G l) : ax_Snd G l ax_Ym M_J5_grow 154 (S_iload 7 156) := k_iload dJ5_grow_154
theorem r_J5_grow_156 (E : ax_EN G l) : ax_Snd G l ax_Ym M_J5_grow 156 (S_push .null 157) := k_null dJ5_grow_156
theorem r_J5_grow_157 (E : ax_EN G l) : ax_Snd G l ax_Ym M_J5_grow 157 (S_aast 4 ax_objs 158) := k_aast (en_F E) (en_B E) (ax_objs_ok E) (fun _ h => h) dJ5_grow_157
theorem r_J5_grow_158 (E : ax_EN G l) : ax_Snd G l ax_Ym M_J5_grow 158 (S_iinc 7 (1) 161) := k_iinc dJ5_grow_158 rfl (Nat.le_of_ble_eq_true rfl)
theorem r_J5_grow_161 (E : ax_EN G l) : ax_Snd G l ax_Ym M_J5_grow 161 (S_goto 145) := k_goto dJ5_grow_161 rfl
theorem r_J5_grow_164 (E : ax_EN G l) : ax_Snd G l ax_Ym M_J5_grow 164 (S_ret) := k_ret dJ5_grow_164 rfl
theorem mt_J5_grow (E : ax_EN G l) : ax_mt G l ax_Ym (9, P_J5_grow) (ax_Ym 151) := ⟨M_J5_grow, yJ5_grow, ⟨rfl, by decide +kernel, rfl, (fun h => by cases h), Or.inl ⟨rfl, rfl⟩⟩, fun pc => (ax_sn_node (ax_sn_node (ax_sn_node (ax_sn_node (ax_sn_node (ax_sn_node (ax_sn_node (ax_sn_leaf (r_J5_grow_164 E)) (ax_sn_leaf (r_J5_grow_161 E))) (ax_sn_leaf (r_J5_grow_158 E))) (ax_sn_node (ax_sn_node (ax_sn_leaf (r_J5_grow_157 E)) (ax_sn_leaf (r_J5_grow_156 E))) (ax_sn_leaf (r_J5_grow_154 E)))) (ax_sn_node (ax_sn_node (ax_sn_node (ax_sn_leaf (r_J5_grow_152 E)) (ax_sn_leaf (r_J5_grow_149 E))) (ax_sn_leaf (r_J5_grow_147 E))) (ax_sn_node (ax_sn_node (ax_sn_leaf (r_J5_grow_145 E)) (ax_sn_leaf (r_J5_grow_143 E))) (ax_sn_leaf (r_J5_grow_140 E))))) (ax_sn_node (ax_sn_node (ax_sn_node (ax_sn_node (ax_sn_leaf (r_J5_grow_139 E)) (ax_sn_leaf (r_J5_grow_138 E))) (ax_sn_leaf (r_J5_grow_136 E))) (ax_sn_node (ax_sn_node (ax_sn_leaf (r_J5_grow_133 E)) (ax_sn_leaf (r_J5_grow_132 E))) (ax_sn_leaf (r_J5_grow_131 E)))) (ax_sn_node (ax_sn_node (ax_sn_node (ax_sn_leaf (r_J5_grow_129 E)) (ax_sn_leaf (r_J5_grow_126 E))) (ax_sn_leaf (r_J5_grow_125 E))) (ax_sn_node (ax_sn_leaf (r_J5_grow_122 E)) (ax_sn_leaf (r_J5_grow_121 E)))))) (ax_sn_node (ax_sn_node (ax_sn_node (ax_sn_node (ax_sn_node (ax_sn_leaf (r_J5_grow_118 E)) (ax_sn_leaf (r_J5_grow_117 E))) (ax_sn_leaf (r_J5_grow_116 E))) (ax_sn_node (ax_sn_node (ax_sn_leaf (r_J5_grow_115 E)) (ax_sn_leaf (r_J5_grow_113 E))) (ax_sn_leaf (r_J5_grow_110 E)))) (ax_sn_node (ax_sn_node (ax_sn_node (ax_sn_leaf (r_J5_grow_109 E)) (ax_sn_leaf (r_J5_grow_107 E))) (ax_sn_leaf (r_J5_grow_104 E))) (ax_sn_node (ax_sn_node (ax_sn_leaf (r_J5_grow_103 E)) (ax_sn_leaf (r_J5_grow_101 E))) (ax_sn_leaf (r_J5_grow_99 E))))) (ax_sn_node (ax_sn_node (ax_sn_node (ax_sn_node (ax_sn_leaf (r_J5_grow_98 E)) (ax_sn_leaf (r_J5_grow_97 E))) (ax_sn_leaf (r_J5_grow_96 E))) (ax_sn_node (ax_sn_node (ax_sn_leaf (r_J5_grow_93 E)) (ax_sn_leaf (r_J5_grow_92 E))) (ax_sn_leaf (r_J5_grow_89 E)))) (ax_sn_node (ax_sn_node (ax_sn_node (ax_sn_leaf (r_J5_grow_88 E)) (ax_sn_leaf (r_J5_grow_86 E))) (ax_sn_leaf (r_J5_grow_83 E))) (ax_sn_node (ax_sn_leaf (r_J5_grow_80 E)) (ax_sn_leaf (r_J5_grow_79 E))))))) (ax_sn_node (ax_sn_node (ax_sn_node (ax_sn_node (ax_sn_node (ax_sn_node (ax_sn_leaf (r_J5_grow_76 E)) (ax_sn_leaf (r_J5_grow_75 E))) (ax_sn_leaf (r_J5_grow_72 E))) (ax_sn_node (ax_sn_node (ax_sn_leaf (r_J5_grow_69 E)) (ax_sn_leaf (r_J5_grow_68 E))) (ax_sn_leaf (r_J5_grow_65 E)))) (ax_sn_node (ax_sn_node (ax_sn_node (ax_sn_leaf (r_J5_grow_64 E)) (ax_sn_leaf (r_J5_grow_62 E))) (ax_sn_leaf (r_J5_grow_59 E))) (ax_sn_node (ax_sn_node (ax_sn_leaf (r_J5_grow_58 E)) (ax_sn_leaf (r_J5_grow_55 E))) (ax_sn_leaf (r_J5_grow_54 E))))) (ax_sn_node (ax_sn_node (ax_sn_node (ax_sn_node (ax_sn_leaf (r_J5_grow_51 E)) (ax_sn_leaf (r_J5_grow_50 E))) (ax_sn_leaf (r_J5_grow_49 E))) (ax_sn_node (ax_sn_node (ax_sn_leaf (r_J5_grow_48 E)) (ax_sn_leaf (r_J5_grow_45 E))) (ax_sn_leaf (r_J5_grow_43 E)))) (ax_sn_node (ax_sn_node (ax_sn_node (ax_sn_leaf (r_J5_grow_42 E)) (ax_sn_leaf (r_J5_grow_41 E))) (ax_sn_leaf (r_J5_grow_38 E))) (ax_sn_node (ax_sn_leaf (r_J5_grow_37 E)) (ax_sn_leaf (r_J5_grow_35 E)))))) (ax_sn_node (ax_sn_node (ax_sn_node (ax_sn_node (ax_sn_node (ax_sn_leaf (r_J5_grow_34 E)) (ax_sn_leaf (r_J5_grow_33 E))) (ax_sn_leaf (r_J5_grow_32 E))) (ax_sn_node (ax_sn_node (ax_sn_leaf (r_J5_grow_30 E)) (ax_sn_leaf (r_J5_grow_29 E))) (ax_sn_leaf (r_J5_grow_26 E)))) (ax_sn_node (ax_sn_node (ax_sn_node (ax_sn_leaf (r_J5_grow_25 E)) (ax_sn_leaf (r_J5_grow_23 E))) (ax_sn_leaf (r_J5_grow_21 E))) (ax_sn_node (ax_sn_node (ax_sn_leaf (r_J5_grow_20 E)) (ax_sn_leaf (r_J5_grow_19 E))) (ax_sn_leaf (r_J5_grow_18 E))))) (ax_sn_node (ax_sn_node (ax_sn_node (ax_sn_node (ax_sn_leaf (r_J5_grow_15 E)) (ax_sn_leaf (r_J5_grow_14 E))) (ax_sn_leaf (r_J5_grow_13 E))) (ax_sn_node (ax_sn_node (ax_sn_leaf (r_J5_grow_12 E)) (ax_sn_leaf (r_J5_grow_9 E))) (ax_sn_leaf (r_J5_grow_7 E)))) (ax_sn_node (ax_sn_node (ax_sn_node (ax_sn_leaf (r_J5_grow_6 E)) (ax_sn_leaf (r_J5_grow_5 E))) (ax_sn_leaf (r_J5_grow_4 E))) (ax_sn_node (ax_sn_leaf (r_J5_grow_1 E)) (ax_sn_leaf (r_J5_grow_0 E))))))))⟩
theorem r_J5_newCapacity_0 (E : ax_EN G l) : ax_Snd G l ax_Ym M_J5_newCapacity 0 (S_aload 0 1) := k_aload_n dJ5_newCapacity_0 rfl
theorem r_J5_newCapacity_1 (E : ax_EN G l) : ax_Snd G l ax_Ym M_J5_newCapacity 1 (S_getf [(16, 0)] 4) := k_getf (en_F E) (ax_fes_cons (fe_66 E) ax_fes_nil) q264 dJ5_newCapacity_1
theorem r_J5_newCapacity_4 (E : ax_EN G l) : ax_Snd G l ax_Ym M_J5_newCapacity 4 (S_alen 5) := k_alen (en_F E) dJ5_newCapacity_4
theorem r_J5_newCapacity_5 (E : ax_EN G l) : ax_Snd G l ax_Ym M_J5_newCapacity 5 (S_istore 3 6) := k_istore_n dJ5_newCapacity_5 rfl (Nat.le_of_ble_eq_true rfl)
theorem r_J5_newCapacity_6 (E : ax_EN G l) : ax_Snd G l ax_Ym M_J5_newCapacity 6 (S_iload 3 7) := k_iload_n dJ5_newCapacity_6 rfl
theorem r_J5_newCapacity_7 (E : ax_EN G l) : ax_Snd G l ax_Ym M_J5_newCapacity 7 (S_iload 1 8) := k_iload_n dJ5_newCapacity_7 rfl
theorem r_J5_newCapacity_8 (E : ax_EN G l) : ax_Snd G l ax_Ym M_J5_newCapacity 8 (S_i2 (fun x y => x + y) 9) := k_iadd dJ5_newCapacity_8
theorem r_J5_newCapacity_9 (E : ax_EN G l) : ax_Snd G l ax_Ym M_J5_newCapacity 9 (S_dup 10) := k_dup dJ5_newCapacity_9
theorem r_J5_newCapacity_10 (E : ax_EN G l) : ax_Snd G l ax_Ym M_J5_newCapacity 10 (S_istore 4 12) := k_istore dJ5_newCapacity_10 (Nat.le_of_ble_eq_true rfl)
theorem r_J5_newCapacity_12 (E : ax_EN G l) : ax_Snd G l ax_Ym M_J5_newCapacity 12 (S_push (.int (2147483639)) 14) := k_ldc q2058 dJ5_newCapacity_12
theorem r_J5_newCapacity_14 (E : ax_EN G l) : ax_Snd G l ax_Ym M_J5_newCapacity 14 (S_i2 (fun x y => x - y) 15) := k_isub dJ5_newCapacity_14
theorem r_J5_newCapacity_15 (E : ax_EN G l) : ax_Snd G l ax_Ym M_J5_newCapacity 15 (S_if1 (fun x => decide (x ≤ 0)) 36 18) := k_if_le dJ5_newCapacity_15 rfl
theorem r_J5_newCapacity_18 (E : ax_EN G l) : ax_Snd G l ax_Ym M_J5_newCapacity 18 (S_iload 4 20) := k_iload dJ5_newCapacity_18
theorem r_J5_newCapacity_20 (E : ax_EN G l) : ax_Snd G l ax_Ym M_J5_newCapacity 20 (S_if1 (fun x => decide (0 ≤ x)) 33 23) := k_if_ge dJ5_newCapacity_20 rfl
theorem r_J5_newCapacity_23 (E : ax_EN G l) : ax_Snd G l ax_Ym M_J5_newCapacity 23 (S_mk 0 6 32) := k_mk (en_F E) (en_B E) (en_U E) (en_T E) (en_c E (k := 0) rfl) (by decide) (by decide +kernel) (by decide +kernel) q2063 q133 (en_x E 0 rfl) hat_103 (by decide) dJ5_newCapacity_23 dJ5_newCapacity_26 dJ5_newCapacity_27 dJ5_newCapacity_29
theorem r_J5_newCapacity_26 (E : ax_EN G l) : ax_Snd G l ax_Ym M_J5_newCapacity 26 (S_dup 27) := k_dup dJ5_newCapacity_26
theorem r_J5_newCapacity_29 (E : ax_EN G l) : ax_Snd G l ax_Ym M_J5_newCapacity 29 (S_isp 3 1 32 hd_0) := k_isp (en_F E) (ax_ok0 E rfl) ((ev_i y_J10_init q2065 q1728 q133 q1729 nm_J10_init rfl (Nat.le_of_ble_eq_true rfl) dJ5_newCapacity_29) : ax_EvI G l ax_Ym M_J5_newCapacity 29 3 1 3)
theorem r_J5_newCapacity_32 (E : ax_EN G l) : ax_Snd G l ax_Ym M_J5_newCapacity 32 (S_athrow hd_0) := k_athrow (en_F E) (ax_ok0 E rfl) dJ5_newCapacity_32
theorem r_J5_newCapacity_33 (E : ax_EN G l) : ax_Snd G l ax_Ym M_J5_newCapacity 33 (S_push (.int (2147483647)) 35) := k_ldc q2066 dJ5_newCapacity_33
theorem r_J5_newCapacity_35 (E : ax_EN G l) : ax_Snd G l ax_Ym M_J5_newCapacity 35 (S_iret) := k_iret dJ5_newCapacity_35 rfl
theorem r_J5_newCapacity_36 (E : ax_EN G l) : ax_Snd G l ax_Ym M_J5_newCapacity 36 (S_iload 1 37) := k_iload_n dJ5_newCapacity_36 rfl
theorem r_J5_newCapacity_37 (E : ax_EN G l) : ax_Snd G l ax_Ym M_J5_newCapacity 37 (S_iload 2 38) := k_iload_n dJ5_newCapacity_37 rfl
theorem r_J5_newCapacity_38 (E : ax_EN G l) : ax_Snd G l ax_Ym M_J5_newCapacity 38 (S_if2 (fun x y => decide (x ≤ y)) 44 41) := k_icmp_le dJ5_newCapacity_38 rfl
theorem r_J5_newCapacity_41 (E : ax_EN G l) : ax_Snd G l ax_Ym M_J5_newCapacity 41 (S_iload 4 43) := k_iload dJ5_newCapacity_41
theorem r_J5_newCapacity_43 (E : ax_EN G l) : ax_Snd G l ax_Ym M_J5_newCapacity 43 (S_iret) := k_iret dJ5_newCapacity_43 rfl
theorem r_J5_newCapacity_44 (E : ax_EN G l) : ax_Snd G l ax_Ym M_J5_newCapacity 44 (S_iload 3 45) := k_iload_n dJ5_newCapacity_44 rfl
theorem r_J5_newCapacity_45 (E : ax_EN G l) : ax_Snd G l ax_Ym M_J5_newCapacity 45 (S_iload 2 46) := k_iload_n dJ5_newCapacity_45 rfl
theorem r_J5_newCapacity_46 (E : ax_EN G l) : ax_Snd G l ax_Ym M_J5_newCapacity 46 (S_i2 (fun x y => x + y) 47) := k_iadd dJ5_newCapacity_46
theorem r_J5_newCapacity_47 (E : ax_EN G l) : ax_Snd G l ax_Ym M_J5_newCapacity 47 (S_push (.int (2147483639)) 49) := k_ldc q2058 dJ5_newCapacity_47
theorem r_J5_newCapacity_49 (E : ax_EN G l) : ax_Snd G l ax_Ym M_J5_newCapacity 49 (S_i2 (fun x y => x - y) 50) := k_isub dJ5_newCapacity_49
theorem r_J5_newCapacity_50 (E : ax_EN G l) : ax_Snd G l ax_Ym M_J5_newCapacity 50 (S_if1 (fun x => decide (0 ≤ x)) 59 53) := k_if_ge dJ5_newCapacity_50 rfl
theorem r_J5_newCapacity_53 (E : ax_EN G l) : ax_Snd G l ax_Ym M_J5_newCapacity 53 (S_iload 3 54) := k_iload_n dJ5_newCapacity_53 rfl
theorem r_J5_newCapacity_54 (E : ax_EN G l) : ax_Snd G l ax_Ym M_J5_newCapacity 54 (S_iload 2 55) := k_iload_n dJ5_newCapacity_54 rfl
theorem r_J5_newCapacity_55 (E : ax_EN G l) : ax_Snd G l ax_Ym M_J5_newCapacity 55 (S_i2 (fun x y => x + y) 56) := k_iadd dJ5_newCapacity_55
theorem r_J5_newCapacity_56 (E : ax_EN G l) : ax_Snd G l ax_Ym M_J5_newCapacity 56 (S_goto 61) := k_goto dJ5_newCapacity_56 rfl
theorem r_J5_newCapacity_59 (E : ax_EN G l) : ax_Snd G l ax_Ym M_J5_newCapacity 59 (S_push (.int (2147483639)) 61) := k_ldc q2058 dJ5_newCapacity_59
theorem r_J5_newCapacity_61 (E : ax_EN G l) : ax_Snd G l ax_Ym M_J5_newCapacity 61 (S_iret) := k_iret dJ5_newCapacity_61 rfl
theorem mt_J5_newCapacity (E : ax_EN G l) : ax_mt G l ax_Ym (5, P_J5_newCapacity) (ax_Ym 152) := ⟨M_J5_newCapacity, yJ5_newCapacity, ⟨rfl, by decide +kernel, rfl, (fun h => by cases h), Or.inl ⟨rfl, rfl⟩⟩, fun pc => (ax_sn_node (ax_sn_node (ax_sn_node (ax_sn_node (ax_sn_node (ax_sn_node (ax_sn_leaf (r_J5_newCapacity_61 E)) (ax_sn_leaf (r_J5_newCapacity_59 E))) (ax_sn_leaf (r_J5_newCapacity_56 E))) (ax_sn_node (ax_sn_leaf (r_J5_newCapacity_55 E)) (ax_sn_leaf (r_J5_newCapacity_54 E)))) (ax_sn_node (ax_sn_node (ax_sn_node (ax_sn_leaf (r_J5_newCapacity_53 E)) (ax_sn_leaf (r_J5_newCapacity_50 E))) (ax_sn_leaf (r_J5_newCapacity_49 E))) (ax_sn_node (ax_sn_leaf (r_J5_newCapacity_47 E)) (ax_sn_leaf (r_J5_newCapacity_46 E))))) (ax_sn_node (ax_sn_node (ax_sn_node (ax_sn_node (ax_sn_leaf (r_J5_newCapacity_45 E)) (ax_sn_leaf (r_J5_newCapacity_44 E))) (ax_sn_leaf (r_J5_newCapacity_43 E))) (ax_sn_node (ax_sn_leaf (r_J5_newCapacity_41 E)) (ax_sn_leaf (r_J5_newCapacity_38 E)))) (ax_sn_node (ax_sn_node (ax_sn_leaf (r_J5_newCapacity_37 E)) (ax_sn_leaf (r_J5_newCapacity_36 E))) (ax_sn_node (ax_sn_leaf (r_J5_newCapacity_35 E)) (ax_sn_leaf (r_J5_newCapacity_33 E)))))) (ax_sn_node (ax_sn_node (ax_sn_node (ax_sn_node (ax_sn_node (ax_sn_leaf (r_J5_newCapacity_32 E)) (ax_sn_leaf (r_J5_newCapacity_29 E))) (ax_sn_leaf (r_J5_newCapacity_26 E))) (ax_sn_node (ax_sn_leaf (r_J5_newCapacity_23 E)) (ax_sn_leaf (r_J5_newCapacity_20 E)))) (ax_sn_node (ax_sn_node (ax_sn_leaf (r_J5_newCapacity_18 E)) (ax_sn_leaf (r_J5_newCapacity_15 E))) (ax_sn_node (ax_sn_leaf (r_J5_newCapacity_14 E)) (ax_sn_leaf (r_J5_newCapacity_12 E))))) (ax_sn_node (ax_sn_node (ax_sn_node (ax_sn_node (ax_sn_leaf (r_J5_newCapacity_10 E)) (ax_sn_leaf (r_J5_newCapacity_9 E))) (ax_sn_leaf (r_J5_newCapacity_8 E))) (ax_sn_node (ax_sn_leaf (r_J5_newCapacity_7 E)) (ax_sn_leaf (r_J5_newCapacity_6 E)))) (ax_sn_node (ax_sn_node (ax_sn_leaf (r_J5_newCapacity_5 E)) (ax_sn_leaf (r_J5_newCapacity_4 E))) (ax_sn_node (ax_sn_leaf (r_J5_newCapacity_1 E)) (ax_sn_leaf (r_J5_newCapacity_0 E)))))))⟩
theorem r_J5_removeFirst_0 (E : ax_EN G l) : ax_Snd G l ax_Ym M_J5_removeFirst 0 (S_aload 0 1) := k_aload_n dJ5_removeFirst_0 rfl
theorem r_J5_removeFirst_1 (E : ax_EN G l) : ax_Snd G l ax_Ym M_J5_removeFirst 1 (S_iv [(16, 154)] 0 4 hd_0) := k_iv (en_F E) (ax_ok0 E rfl) (ax_Evs_cons ((ev_v (en_c E (k := 16) rfl) rfl y_J5_pollFirst q2074 q2075 q2076 q125 q2077 nm_J5_pollFirst (Nat.le_of_ble_eq_true rfl) dJ5_removeFirst_1) : ax_EvV G l ax_Ym M_J5_removeFirst 1 0 3 16 154) ax_Evs_nil)
theorem r_J5_removeFirst_4 (E : ax_EN G l) : ax_Snd G l ax_Ym M_J5_removeFirst 4 (S_astore 1 5) := k_astore_n dJ5_removeFirst_4 rfl (Nat.le_of_ble_eq_true rfl)
theorem r_J5_removeFirst_5 (E : ax_EN G l) : ax_Snd G l ax_Ym M_J5_removeFirst 5 (S_aload 1 6) := k_aload_n dJ5_removeFirst_5 rfl
theorem r_J5_removeFirst_6 (E : ax_EN G l) : ax_Snd G l ax_Ym M_J5_removeFirst 6 (S_null 9 17) := k_ifnonnull dJ5_removeFirst_6 rfl
theorem r_J5_removeFirst_9 (E : ax_EN G l) : ax_Snd G l ax_Ym M_J5_removeFirst 9 (S_new 45 [.null] 6 12) := k_new (en_F E) (mk_45 E) q2081 dJ5_removeFirst_9
theorem r_J5_removeFirst_12 (E : ax_EN G l) : ax_Snd G l ax_Ym M_J5_removeFirst 12 (S_dup 13) := k_dup dJ5_removeFirst_12
theorem r_J5_removeFirst_13 (E : ax_EN G l) : ax_Snd G l ax_Ym M_J5_removeFirst 13 (S_isp 82 0 16 hd_0) := k_isp (en_F E) (ax_ok0 E rfl) ((ev_i y_J25_init_2 q2082 q1631 q165 q1632 nm_J25_init_2 rfl (Nat.le_of_ble_eq_true rfl) dJ5_removeFirst_13) : ax_EvI G l ax_Ym M_J5_removeFirst 13 82 0 3)
theorem r_J5_removeFirst_16 (E : ax_EN G l) : ax_Snd G l ax_Ym M_J5_removeFirst 16 (S_athrow hd_0) := k_athrow (en_F E) (ax_ok0 E rfl) dJ5_removeFirst_16
theorem r_J5_removeFirst_17 (E : ax_EN G l) : ax_Snd G l ax_Ym M_J5_removeFirst 17 (S_aload 1 18) := k_aload_n dJ5_removeFirst_17 rfl
theorem r_J5_removeFirst_18 (E : ax_EN G l) : ax_Snd G l ax_Ym M_J5_removeFirst 18 (S_aret) := k_aret dJ5_removeFirst_18 rfl (Or.inl ⟨_, rfl⟩)
theorem mt_J5_removeFirst (E : ax_EN G l) : ax_mt G l ax_Ym (2, P_J5_removeFirst) (ax_Ym 153) := ⟨M_J5_removeFirst, yJ5_removeFirst, ⟨rfl, by decide +kernel, rfl, (fun h => by cases h), Or.inl ⟨rfl, rfl⟩⟩, fun pc => (ax_sn_node (ax_sn_node (ax_sn_node (ax_sn_node (ax_sn_leaf (r_J5_removeFirst_18 E)) (ax_sn_leaf (r_J5_removeFirst_17 E))) (ax_sn_leaf (r_J5_removeFirst_16 E))) (ax_sn_node (ax_sn_node (ax_sn_leaf (r_J5_removeFirst_13 E)) (ax_sn_leaf (r_J5_removeFirst_12 E))) (ax_sn_leaf (r_J5_removeFirst_9 E)))) (ax_sn_node (ax_sn_node (ax_sn_node (ax_sn_leaf (r_J5_removeFirst_6 E)) (ax_sn_leaf (r_J5_removeFirst_5 E))) (ax_sn_leaf (r_J5_removeFirst_4 E))) (ax_sn_node (ax_sn_leaf (r_J5_removeFirst_1 E)) (ax_sn_leaf (r_J5_removeFirst_0 E)))))⟩
theorem r_J5_pollFirst_0 (E : ax_EN G l) : ax_Snd G l ax_Ym M_J5_pollFirst 0 (S_aload 0 1) := k_aload_n dJ5_pollFirst_0 rfl
theorem r_J5_pollFirst_1 (E : ax_EN G l) : ax_Snd G l ax_Ym M_J5_pollFirst 1 (S_getf [(16, 0)] 4) := k_getf (en_F E) (ax_fes_cons (fe_66 E) ax_fes_nil) q264 dJ5_pollFirst_1
theorem r_J5_pollFirst_4 (E : ax_EN G l) : ax_Snd G l ax_Ym M_J5_pollFirst 4 (S_dup 5) := k_dup dJ5_pollFirst_4
theorem r_J5_pollFirst_5 (E : ax_EN G l) : ax_Snd G l ax_Ym M_J5_pollFirst 5 (S_astore 1 6) := k_astore_n dJ5_pollFirst_5 rfl (Nat.le_of_ble_eq_true rfl)
theorem r_J5_pollFirst_6 (E : ax_EN G l) : ax_Snd G l ax_Ym M_J5_pollFirst 6 (S_aload 0 7) := k_aload_n dJ5_pollFirst_6 rfl
theorem r_J5_pollFirst_7 (E : ax_EN G l) : ax_Snd G l ax_Ym M_J5_pollFirst 7 (S_getf [(16, 1)] 10) := k_getf (en_F E) (ax_fes_cons (fe_61 E) ax_fes_nil) q267 dJ5_pollFirst_7
theorem r_J5_pollFirst_10 (E : ax_EN G l) : ax_Snd G l ax_Ym M_J5_pollFirst 10 (S_dup 11) := k_dup dJ5_pollFirst_10
theorem r_J5_pollFirst_11 (E : ax_EN G l) : ax_Snd G l ax_Ym M_J5_pollFirst 11 (S_istore 2 12) := k_istore_n dJ5_pollFirst_11 rfl (Nat.le_of_ble_eq_true rfl)
theorem r_J5_pollFirst_12 (E : ax_EN G l) : ax_Snd G l ax_Ym M_J5_pollFirst 12 (S_is 155 2 15 hd_0) := k_is (en_F E) (ax_ok0 E rfl) ((ev_s y_J5_elementAt q2078 q2079 q125 q2080 nm_J5_elementAt (Nat.le_of_ble_eq_true rfl) dJ5_pollFirst_12) : ax_EvS G l ax_Ym M_J5_pollFirst 12 155 2 3)
theorem r_J5_pollFirst_15 (E : ax_EN G l) : ax_Snd G l ax_Ym M_J5_pollFirst 15 (S_astore 3 16) := k_astore_n dJ5_pollFirst_15 rfl (Nat.le_of_ble_eq_true rfl)
theorem r_J5_pollFirst_16 (E : ax_EN G l) : ax_Snd G l ax_Ym M_J5_pollFirst 16 (S_aload 3 17) := k_aload_n dJ5_pollFirst_16 rfl
theorem r_J5_pollFirst_17 (E : ax_EN G l) : ax_Snd G l ax_Ym M_J5_pollFirst 17 (S_null 34 20) := k_ifnull dJ5_pollFirst_17 rfl
theorem r_J5_pollFirst_20 (E : ax_EN G l) : ax_Snd G l ax_Ym M_J5_pollFirst 20 (S_aload 1 21) := k_aload_n dJ5_pollFirst_20 rfl
theorem r_J5_pollFirst_21 (E : ax_EN G l) : ax_Snd G l ax_Ym M_J5_pollFirst 21 (S_iload 2 22) := k_iload_n dJ5_pollFirst_21 rfl
theorem r_J5_pollFirst_22 (E : ax_EN G l) : ax_Snd G l ax_Ym M_J5_pollFirst 22 (S_push .null 23) := k_null dJ5_pollFirst_22
theorem r_J5_pollFirst_23 (E : ax_EN G l) : ax_Snd G l ax_Ym M_J5_pollFirst 23 (S_aast 4 ax_objs 24) := k_aast (en_F E) (en_B E) (ax_objs_ok E) (fun _ h => h) dJ5_pollFirst_23
theorem r_J5_pollFirst_24 (E : ax_EN G l) : ax_Snd G l ax_Ym M_J5_pollFirst 24 (S_aload 0 25) := k_aload_n dJ5_pollFirst_24 rfl
theorem r_J5_pollFirst_25 (E : ax_EN G l) : ax_Snd G l ax_Ym M_J5_pollFirst 25 (S_iload 2 26) := k_iload_n dJ5_pollFirst_25 rfl
theorem r_J5_pollFirst_26 (E : ax_EN G l) : ax_Snd G l ax_Ym M_J5_pollFirst 26 (S_aload 1 27) := k_aload_n dJ5_pollFirst_26 rfl
theorem r_J5_pollFirst_27 (E : ax_EN G l) : ax_Snd G l ax_Ym M_J5_pollFirst 27 (S_alen 28) := k_alen (en_F E) dJ5_pollFirst_27
theorem r_J5_pollFirst_28 (E : ax_EN G l) : ax_Snd G l ax_Ym M_J5_pollFirst 28 (S_is 150 2 31 hd_0) := k_is (en_F E) (ax_ok0 E rfl) ((ev_s y_J5_inc q2051 q2052 q125 q2053 nm_J5_inc (Nat.le_of_ble_eq_true rfl) dJ5_pollFirst_28) : ax_EvS G l ax_Ym M_J5_pollFirst 28 150 2 3)
theorem r_J5_pollFirst_31 (E : ax_EN G l) : ax_Snd G l ax_Ym M_J5_pollFirst 31 (S_putf [(16, 1)] (.int) 34) := k_putf (en_F E) (en_P E) (ax_fes_cons (fe_61 E) ax_fes_nil) (ax_fps_cons (fp_102 E) ax_fps_nil) q267 dJ5_pollFirst_31
theorem r_J5_pollFirst_34 (E : ax_EN G l) : ax_Snd G l ax_Ym M_J5_pollFirst 34 (S_aload 3 35) := k_aload_n dJ5_pollFirst_34 rfl
theorem r_J5_pollFirst_35 (E : ax_EN G l) : ax_Snd G l ax_Ym M_J5_pollFirst 35 (S_aret) := k_aret dJ5_pollFirst_35 rfl (Or.inl ⟨_, rfl⟩)
theorem mt_J5_pollFirst (E : ax_EN G l) : ax_mt G l ax_Ym (4, P_J5_pollFirst) (ax_Ym 154) := ⟨M_J5_pollFirst, yJ5_pollFirst, ⟨rfl, by decide +kernel, rfl, (fun h => by cases h), Or.inl ⟨rfl, rfl⟩⟩, fun pc => (ax_sn_node (ax_sn_node (ax_sn_node (ax_sn_node (ax_sn_node (ax_sn_leaf (r_J5_pollFirst_35 E)) (ax_sn_leaf (r_J5_pollFirst_34 E))) (ax_sn_leaf (r_J5_pollFirst_31 E))) (ax_sn_node (ax_sn_node (ax_sn_leaf (r_J5_pollFirst_28 E)) (ax_sn_leaf (r_J5_pollFirst_27 E))) (ax_sn_leaf (r_J5_pollFirst_26 E)))) (ax_sn_node (ax_sn_node (ax_sn_node (ax_sn_leaf (r_J5_pollFirst_25 E)) (ax_sn_leaf (r_J5_pollFirst_24 E))) (ax_sn_leaf (r_J5_pollFirst_23 E))) (ax_sn_node (ax_sn_node (ax_sn_leaf (r_J5_pollFirst_22 E)) (ax_sn_leaf (r_J5_pollFirst_21 E))) (ax_sn_leaf (r_J5_pollFirst_20 E))))) (ax_sn_node (ax_sn_node (ax_sn_node (ax_sn_node (ax_sn_leaf (r_J5_pollFirst_17 E)) (ax_sn_leaf (r_J5_pollFirst_16 E))) (ax_sn_leaf (r_J5_pollFirst_15 E))) (ax_sn_node (ax_sn_node (ax_sn_leaf (r_J5_pollFirst_12 E)) (ax_sn_leaf (r_J5_pollFirst_11 E))) (ax_sn_leaf (r_J5_pollFirst_10 E)))) (ax_sn_node (ax_sn_node (ax_sn_node (ax_sn_leaf (r_J5_pollFirst_7 E)) (ax_sn_leaf (r_J5_pollFirst_6 E))) (ax_sn_leaf (r_J5_pollFirst_5 E))) (ax_sn_node (ax_sn_node (ax_sn_leaf (r_J5_pollFirst_4 E)) (ax_sn_leaf (r_J5_pollFirst_1 E))) (ax_sn_leaf (r_J5_pollFirst_0 E))))))⟩
theorem r_J5_elementAt_0 (E : ax_EN G l) : ax_Snd G l ax_Ym M_J5_elementAt 0 (S_aload 0 1) := k_aload_n dJ5_elementAt_0 rfl
theorem r_J5_elementAt_1 (E : ax_EN G l) : ax_Snd G l ax_Ym M_J5_elementAt 1 (S_iload 1 2) := k_iload_n dJ5_elementAt_1 rfl
theorem r_J5_elementAt_2 (E : ax_EN G l) : ax_Snd G l ax_Ym M_J5_elementAt 2 (S_aald 4 3) := k_aald (en_F E) rfl dJ5_elementAt_2
theorem r_J5_elementAt_3 (E : ax_EN G l) : ax_Snd G l ax_Ym M_J5_elementAt 3 (S_aret) := k_aret dJ5_elementAt_3 rfl (Or.inl ⟨_, rfl⟩)
theorem mt_J5_elementAt (E : ax_EN G l) : ax_mt G l ax_Ym (2, P_J5_elementAt) (ax_Ym 155) := ⟨M_J5_elementAt, yJ5_elementAt, ⟨rfl, by decide +kernel, rfl, (fun h => by cases h), Or.inl ⟨rfl, rfl⟩⟩, fun pc => (ax_sn_node (ax_sn_node (ax_sn_leaf (r_J5_elementAt_3 E)) (ax_sn_leaf (r_J5_elementAt_2 E))) (ax_sn_node (ax_sn_leaf (r_J5_elementAt_1 E)) (ax_sn_leaf (r_J5_elementAt_0 E))))⟩
theorem r_J5_isEmpty_0 (E : ax_EN G l) : ax_Snd G l ax_Ym M_J5_isEmpty 0 (S_aload 0 1) := k_aload_n dJ5_isEmpty_0 rfl
theorem r_J5_isEmpty_1 (E : ax_EN G l) : ax_Snd G l ax_Ym M_J5_isEmpty 1 (S_getf [(16, 1)] 4) := k_getf (en_F E) (ax_fes_cons (fe_61 E) ax_fes_nil) q267 dJ5_isEmpty_1
theorem r_J5_isEmpty_4 (E : ax_EN G l) : ax_Snd G l ax_Ym M_J5_isEmpty 4 (S_aload 0 5) := k_aload_n dJ5_isEmpty_4 rfl
theorem r_J5_isEmpty_5 (E : ax_EN G l) : ax_Snd G l ax_Ym M_J5_isEmpty 5 (S_getf [(16, 2)] 8) := k_getf (en_F E) (ax_fes_cons (fe_70 E) ax_fes_nil) q269 dJ5_isEmpty_5
theorem r_J5_isEmpty_8 (E : ax_EN G l) : ax_Snd G l ax_Ym M_J5_isEmpty 8 (S_if2 (fun x y => decide (¬ x = y)) 15 11) := k_icmp_ne dJ5_isEmpty_8 rfl
theorem r_J5_isEmpty_11 (E : ax_EN G l) : ax_Snd G l ax_Ym M_J5_isEmpty 11 (S_push (.int (1)) 12) := k_iconst dJ5_isEmpty_11 rfl
theorem r_J5_isEmpty_12 (E : ax_EN G l) : ax_Snd G l ax_Ym M_J5_isEmpty 12 (S_goto 16) := k_goto dJ5_isEmpty_12 rfl
theorem r_J5_isEmpty_15 (E : ax_EN G l) : ax_Snd G l ax_Ym M_J5_isEmpty 15 (S_push (.int (0)) 16) := k_iconst dJ5_isEmpty_15 rfl
theorem r_J5_isEmpty_16 (E : ax_EN G l) : ax_Snd G l ax_Ym M_J5_isEmpty 16 (S_zret) := k_zret dJ5_isEmpty_16 rfl
theorem mt_J5_isEmpty (E : ax_EN G l) : ax_mt G l ax_Ym (1, P_J5_isEmpty) (ax_Ym 156) := ⟨M_J5_isEmpty, yJ5_isEmpty, ⟨rfl, by decide +kernel, rfl, (fun h => by cases h), Or.inl ⟨rfl, rfl⟩⟩, fun pc => (ax_sn_node (ax_sn_node (ax_sn_node (ax_sn_node (ax_sn_leaf (r_J5_isEmpty_16 E)) (ax_sn_leaf (r_J5_isEmpty_15 E))) (ax_sn_leaf (r_J5_isEmpty_12 E))) (ax_sn_node (ax_sn_leaf (r_J5_isEmpty_11 E)) (ax_sn_leaf (r_J5_isEmpty_8 E)))) (ax_sn_node (ax_sn_node (ax_sn_leaf (r_J5_isEmpty_5 E)) (ax_sn_leaf (r_J5_isEmpty_4 E))) (ax_sn_node (ax_sn_leaf (r_J5_isEmpty_1 E)) (ax_sn_leaf (r_J5_isEmpty_0 E)))))⟩
theorem r_J5_removeLast_0 (E : ax_EN G l) : ax_Snd G l ax_Ym M_J5_removeLast 0 (S_aload 0 1) := k_aload_n dJ5_removeLast_0 rfl
theorem r_J5_removeLast_1 (E : ax_EN G l) : ax_Snd G l ax_Ym M_J5_removeLast 1 (S_iv [(16, 158)] 0 4 hd_0) := k_iv (en_F E) (ax_ok0 E rfl) (ax_Evs_cons ((ev_v (en_c E (k := 16) rfl) rfl y_J5_pollLast q2317 q2318 q2319 q125 q2320 nm_J5_pollLast (Nat.le_of_ble_eq_true rfl) dJ5_removeLast_1) : ax_EvV G l ax_Ym M_J5_removeLast 1 0 3 16 158) ax_Evs_nil)
theorem r_J5_removeLast_4 (E : ax_EN G l) : ax_Snd G l ax_Ym M_J5_removeLast 4 (S_astore 1 5) := k_astore_n dJ5_removeLast_4 rfl (Nat.le_of_ble_eq_true rfl)
theorem r_J5_removeLast_5 (E : ax_EN G l) : ax_Snd G l ax_Ym M_J5_removeLast 5 (S_aload 1 6) := k_aload_n dJ5_removeLast_5 rfl
theorem r_J5_removeLast_6 (E : ax_EN G l) : ax_Snd G l ax_Ym M_J5_removeLast 6 (S_null 9 17) := k_ifnonnull dJ5_removeLast_6 rfl
theorem r_J5_removeLast_9 (E : ax_EN G l) : ax_Snd G l ax_Ym M_J5_removeLast 9 (S_new 45 [.null] 6 12) := k_new (en_F E) (mk_45 E) q2081 dJ5_removeLast_9
theorem r_J5_removeLast_12 (E : ax_EN G l) : ax_Snd G l ax_Ym M_J5_removeLast 12 (S_dup 13) := k_dup dJ5_removeLast_12
theorem r_J5_removeLast_13 (E : ax_EN G l) : ax_Snd G l ax_Ym M_J5_removeLast 13 (S_isp 82 0 16 hd_0) := k_isp (en_F E) (ax_ok0 E rfl) ((ev_i y_J25_init_2 q2082 q1631 q165 q1632 nm_J25_init_2 rfl (Nat.le_of_ble_eq_true rfl) dJ5_removeLast_13) : ax_EvI G l ax_Ym M_J5_removeLast 13 82 0 3)
theorem r_J5_removeLast_16 (E : ax_EN G l) : ax_Snd G l ax_Ym M_J5_removeLast 16 (S_athrow hd_0) := k_athrow (en_F E) (ax_ok0 E rfl) dJ5_removeLast_16
theorem r_J5_removeLast_17 (E : ax_EN G l) : ax_Snd G l ax_Ym M_J5_removeLast 17 (S_aload 1 18) := k_aload_n dJ5_removeLast_17 rfl
theorem r_J5_removeLast_18 (E : ax_EN G l) : ax_Snd G l ax_Ym M_J5_removeLast 18 (S_aret) := k_aret dJ5_removeLast_18 rfl (Or.inl ⟨_, rfl⟩)
theorem mt_J5_removeLast (E : ax_EN G l) : ax_mt G l ax_Ym (2, P_J5_removeLast) (ax_Ym 157) := ⟨M_J5_removeLast, yJ5_removeLast, ⟨rfl, by decide +kernel, rfl, (fun h => by cases h), Or.inl ⟨rfl, rfl⟩⟩, fun pc => (ax_sn_node (ax_sn_node (ax_sn_node (ax_sn_node (ax_sn_leaf (r_J5_removeLast_18 E)) (ax_sn_leaf (r_J5_removeLast_17 E))) (ax_sn_leaf (r_J5_removeLast_16 E))) (ax_sn_node (ax_sn_node (ax_sn_leaf (r_J5_removeLast_13 E)) (ax_sn_leaf (r_J5_removeLast_12 E))) (ax_sn_leaf (r_J5_removeLast_9 E)))) (ax_sn_node (ax_sn_node (ax_sn_node (ax_sn_leaf (r_J5_removeLast_6 E)) (ax_sn_leaf (r_J5_removeLast_5 E))) (ax_sn_leaf (r_J5_removeLast_4 E))) (ax_sn_node (ax_sn_leaf (r_J5_removeLast_1 E)) (ax_sn_leaf (r_J5_removeLast_0 E)))))⟩
theorem r_J5_pollLast_0 (E : ax_EN G l) : ax_Snd G l ax_Ym M_J5_pollLast 0 (S_aload 0 1) := k_aload_n dJ5_pollLast_0 rfl
theorem r_J5_pollLast_1 (E : ax_EN G l) : ax_Snd G l ax_Ym M_J5_pollLast 1 (S_getf [(16, 0)] 4) := k_getf (en_F E) (ax_fes_cons (fe_66 E) ax_fes_nil) q264 dJ5_pollLast_1
theorem r_J5_pollLast_4 (E : ax_EN G l) : ax_Snd G l ax_Ym M_J5_pollLast 4 (S_dup 5) := k_dup dJ5_pollLast_4
theorem r_J5_pollLast_5 (E : ax_EN G l) : ax_Snd G l ax_Ym M_J5_pollLast 5 (S_astore 1 6) := k_astore_n dJ5_pollLast_5 rfl (Nat.le_of_ble_eq_true rfl)
theorem r_J5_pollLast_6 (E : ax_EN G l) : ax_Snd G l ax_Ym M_J5_pollLast 6 (S_aload 0 7) := k_aload_n dJ5_pollLast_6 rfl
theorem r_J5_pollLast_7 (E : ax_EN G l) : ax_Snd G l ax_Ym M_J5_pollLast 7 (S_getf [(16, 2)] 10) := k_getf (en_F E) (ax_fes_cons (fe_70 E) ax_fes_nil) q269 dJ5_pollLast_7
theorem r_J5_pollLast_10 (E : ax_EN G l) : ax_Snd G l ax_Ym M_J5_pollLast 10 (S_aload 1 11) := k_aload_n dJ5_pollLast_10 rfl
theorem r_J5_pollLast_11 (E : ax_EN G l) : ax_Snd G l ax_Ym M_J5_pollLast 11 (S_alen 12) := k_alen (en_F E) dJ5_pollLast_11
theorem r_J5_pollLast_12 (E : ax_EN G l) : ax_Snd G l ax_Ym M_J5_pollLast 12 (S_is 146 2 15 hd_0) := k_is (en_F E) (ax_ok0 E rfl) ((ev_s y_J5_dec q2321 q1644 q125 q1645 nm_J5_dec (Nat.le_of_ble_eq_true rfl) dJ5_pollLast_12) : ax_EvS G l ax_Ym M_J5_pollLast 12 146 2 3)
theorem r_J5_pollLast_15 (E : ax_EN G l) : ax_Snd G l ax_Ym M_J5_pollLast 15 (S_dup 16) := k_dup dJ5_pollLast_15
theorem r_J5_pollLast_16 (E : ax_EN G l) : ax_Snd G l ax_Ym M_J5_pollLast 16 (S_istore 2 17) := k_istore_n dJ5_pollLast_16 rfl (Nat.le_of_ble_eq_true rfl)
theorem r_J5_pollLast_17 (E : ax_EN G l) : ax_Snd G l ax_Ym M_J5_pollLast 17 (S_is 155 2 20 hd_0) := k_is (en_F E) (ax_ok0 E rfl) ((ev_s y_J5_elementAt q2078 q2079 q125 q2080 nm_J5_elementAt (Nat.le_of_ble_eq_true rfl) dJ5_pollLast_17) : ax_EvS G l ax_Ym M_J5_pollLast 17 155 2 3)
theorem r_J5_pollLast_20 (E : ax_EN G l) : ax_Snd G l ax_Ym M_J5_pollLast 20 (S_astore 3 21) := k_astore_n dJ5_pollLast_20 rfl (Nat.le_of_ble_eq_true rfl)
theorem r_J5_pollLast_21 (E : ax_EN G l) : ax_Snd G l ax_Ym M_J5_pollLast 21 (S_aload 3 22) := k_aload_n dJ5_pollLast_21 rfl
theorem r_J5_pollLast_22 (E : ax_EN G l) : ax_Snd G l ax_Ym M_J5_pollLast 22 (S_null 34 25) := k_ifnull dJ5_pollLast_22 rfl
theorem r_J5_pollLast_25 (E : ax_EN G l) : ax_Snd G l ax_Ym M_J5_pollLast 25 (S_aload 1 26) := k_aload_n dJ5_pollLast_25 rfl
theorem r_J5_pollLast_26 (E : ax_EN G l) : ax_Snd G l ax_Ym M_J5_pollLast 26 (S_aload 0 27) := k_aload_n dJ5_pollLast_26 rfl
theorem r_J5_pollLast_27 (E : ax_EN G l) : ax_Snd G l ax_Ym M_J5_pollLast 27 (S_iload 2 28) := k_iload_n dJ5_pollLast_27 rfl
theorem r_J5_pollLast_28 (E : ax_EN G l) : ax_Snd G l ax_Ym M_J5_pollLast 28 (S_dupx1 29) := k_dup_x1 dJ5_pollLast_28
theorem r_J5_pollLast_29 (E : ax_EN G l) : ax_Snd G l ax_Ym M_J5_pollLast 29 (S_putf [(16, 2)] (.int) 32) := k_putf (en_F E) (en_P E) (ax_fes_cons (fe_70 E) ax_fes_nil) (ax_fps_cons (fp_101 E) ax_fps_nil) q269 dJ5_pollLast_29
theorem r_J5_pollLast_32 (E : ax_EN G l) : ax_Snd G l ax_Ym M_J5_pollLast 32 (S_push .null 33) := k_null dJ5_pollLast_32
theorem r_J5_pollLast_33 (E : ax_EN G l) : ax_Snd G l ax_Ym M_J5_pollLast 33 (S_aast 4 ax_objs 34) := k_aast (en_F E) (en_B E) (ax_objs_ok E) (fun _ h => h) dJ5_pollLast_33
theorem r_J5_pollLast_34 (E : ax_EN G l) : ax_Snd G l ax_Ym M_J5_pollLast 34 (S_aload 3 35) := k_aload_n dJ5_pollLast_34 rfl
theorem r_J5_pollLast_35 (E : ax_EN G l) : ax_Snd G l ax_Ym M_J5_pollLast 35 (S_aret) := k_aret dJ5_pollLast_35 rfl (Or.inl ⟨_, rfl⟩)
theorem mt_J5_pollLast (E : ax_EN G l) : ax_mt G l ax_Ym (4, P_J5_pollLast) (ax_Ym 158) := ⟨M_J5_pollLast, yJ5_pollLast, ⟨rfl, by decide +kernel, rfl, (fun h => by cases h), Or.inl ⟨rfl, rfl⟩⟩, fun pc => (ax_sn_node (ax_sn_node (ax_sn_node (ax_sn_node (ax_sn_node (ax_sn_leaf (r_J5_pollLast_35 E)) (ax_sn_leaf (r_J5_pollLast_34 E))) (ax_sn_leaf (r_J5_pollLast_33 E))) (ax_sn_node (ax_sn_node (ax_sn_leaf (r_J5_pollLast_32 E)) (ax_sn_leaf (r_J5_pollLast_29 E))) (ax_sn_leaf (r_J5_pollLast_28 E)))) (ax_sn_node (ax_sn_node (ax_sn_node (ax_sn_leaf (r_J5_pollLast_27 E)) (ax_sn_leaf (r_J5_pollLast_26 E))) (ax_sn_leaf (r_J5_pollLast_25 E))) (ax_sn_node (ax_sn_node (ax_sn_leaf (r_J5_pollLast_22 E)) (ax_sn_leaf (r_J5_pollLast_21 E))) (ax_sn_leaf (r_J5_pollLast_20 E))))) (ax_sn_node (ax_sn_node (ax_sn_node (ax_sn_node (ax_sn_leaf (r_J5_pollLast_17 E)) (ax_sn_leaf (r_J5_pollLast_16 E))) (ax_sn_leaf (r_J5_pollLast_15 E))) (ax_sn_node (ax_sn_node (ax_sn_leaf (r_J5_pollLast_12 E)) (ax_sn_leaf (r_J5_pollLast_11 E))) (ax_sn_leaf (r_J5_pollLast_10 E)))) (ax_sn_node (ax_sn_node (ax_sn_node (ax_sn_leaf (r_J5_pollLast_7 E)) (ax_sn_leaf (r_J5_pollLast_6 E))) (ax_sn_leaf (r_J5_pollLast_5 E))) (ax_sn_node (ax_sn_node (ax_sn_leaf (r_J5_pollLast_4 E)) (ax_sn_leaf (r_J5_pollLast_1 E))) (ax_sn_leaf (r_J5_pollLast_0 E))))))⟩
theorem r_J5_peekLast_0 (E : ax_EN G l) : ax_Snd G l ax_Ym M_J5_peekLast 0 (S_aload 0 1) := k_aload_n dJ5_peekLast_0 rfl
theorem r_J5_peekLast_1 (E : ax_EN G l) : ax_Snd G l ax_Ym M_J5_peekLast 1 (S_getf [(16, 0)] 4) := k_getf (en_F E) (ax_fes_cons (fe_66 E) ax_fes_nil) q264 dJ5_peekLast_1
theorem r_J5_peekLast_4 (E : ax_EN G l) : ax_Snd G l ax_Ym M_J5_peekLast 4 (S_dup 5) := k_dup dJ5_peekLast_4
theorem r_J5_peekLast_5 (E : ax_EN G l) : ax_Snd G l ax_Ym M_J5_peekLast 5 (S_astore 1 6) := k_astore_n dJ5_peekLast_5 rfl (Nat.le_of_ble_eq_true rfl)
theorem r_J5_peekLast_6 (E : ax_EN G l) : ax_Snd G l ax_Ym M_J5_peekLast 6 (S_aload 0 7) := k_aload_n dJ5_peekLast_6 rfl
theorem r_J5_peekLast_7 (E : ax_EN G l) : ax_Snd G l ax_Ym M_J5_peekLast 7 (S_getf [(16, 2)] 10) := k_getf (en_F E) (ax_fes_cons (fe_70 E) ax_fes_nil) q269 dJ5_peekLast_7
theorem r_J5_peekLast_10 (E : ax_EN G l) : ax_Snd G l ax_Ym M_J5_peekLast 10 (S_aload 1 11) := k_aload_n dJ5_peekLast_10 rfl
theorem r_J5_peekLast_11 (E : ax_EN G l) : ax_Snd G l ax_Ym M_J5_peekLast 11 (S_alen 12) := k_alen (en_F E) dJ5_peekLast_11
theorem r_J5_peekLast_12 (E : ax_EN G l) : ax_Snd G l ax_Ym M_J5_peekLast 12 (S_is 146 2 15 hd_0) := k_is (en_F E) (ax_ok0 E rfl) ((ev_s y_J5_dec q2321 q1644 q125 q1645 nm_J5_dec (Nat.le_of_ble_eq_true rfl) dJ5_peekLast_12) : ax_EvS G l ax_Ym M_J5_peekLast 12 146 2 3)
theorem r_J5_peekLast_15 (E : ax_EN G l) : ax_Snd G l ax_Ym M_J5_peekLast 15 (S_is 155 2 18 hd_0) := k_is (en_F E) (ax_ok0 E rfl) ((ev_s y_J5_elementAt q2078 q2079 q125 q2080 nm_J5_elementAt (Nat.le_of_ble_eq_true rfl) dJ5_peekLast_15) : ax_EvS G l ax_Ym M_J5_peekLast 15 155 2 3)
theorem r_J5_peekLast_18 (E : ax_EN G l) : ax_Snd G l ax_Ym M_J5_peekLast 18 (S_aret) := k_aret dJ5_peekLast_18 rfl (Or.inl ⟨_, rfl⟩)
theorem mt_J5_peekLast (E : ax_EN G l) : ax_mt G l ax_Ym (2, P_J5_peekLast) (ax_Ym 159) := ⟨M_J5_peekLast, yJ5_peekLast, ⟨rfl, by decide +kernel, rfl, (fun h => by cases h), Or.inl ⟨rfl, rfl⟩⟩, fun pc => (ax_sn_node (ax_sn_node (ax_sn_node (ax_sn_node (ax_sn_leaf (r_J5_peekLast_18 E)) (ax_sn_leaf (r_J5_peekLast_15 E))) (ax_sn_leaf (r_J5_peekLast_12 E))) (ax_sn_node (ax_sn_node (ax_sn_leaf (r_J5_peekLast_11 E)) (ax_sn_leaf (r_J5_peekLast_10 E))) (ax_sn_leaf (r_J5_peekLast_7 E)))) (ax_sn_node (ax_sn_node (ax_sn_node (ax_sn_leaf (r_J5_peekLast_6 E)) (ax_sn_leaf (r_J5_peekLast_5 E))) (ax_sn_leaf (r_J5_peekLast_4 E))) (ax_sn_node (ax_sn_leaf (r_J5_peekLast_1 E)) (ax_sn_leaf (r_J5_peekLast_0 E)))))⟩
theorem r_J5_descendingIterator_0 (E : ax_EN G l) : ax_Snd G l ax_Ym M_J5_descendingIterator 0 (S_new 10 [.int 0, .int 0, .int 0, .null, .null] 5 3) := k_new (en_F E) (mk_10 E) q2496 dJ5_descendingIterator_0
theorem r_J5_descendingIterator_3 (E : ax_EN G l) : ax_Snd G l ax_Ym M_J5_descendingIterator 3 (S_dup 4) := k_dup dJ5_descendingIterator_3
theorem r_J5_descendingIterator_4 (E : ax_EN G l) : ax_Snd G l ax_Ym M_J5_descendingIterator 4 (S_aload 0 5) := k_aload_n dJ5_descendingIterator_4 rfl
theorem r_J5_descendingIterator_5 (E : ax_EN G l) : ax_Snd G l ax_Ym M_J5_descendingIterator 5 (S_isp 95 1 8 hd_0) := k_isp (en_F E) (ax_ok0 E rfl) ((ev_i y_J29_init q2498 q2499 q174 q2500 nm_J29_init rfl (Nat.le_of_ble_eq_true rfl) dJ5_descendingIterator_5) : ax_EvI G l ax_Ym M_J5_descendingIterator 5 95 1 3)
theorem r_J5_descendingIterator_8 (E : ax_EN G l) : ax_Snd G l ax_Ym M_J5_descendingIterator 8 (S_aret) := k_aret dJ5_descendingIterator_8 rfl (Or.inl ⟨_, rfl⟩)
theorem mt_J5_descendingIterator (E : ax_EN G l) : ax_mt G l ax_Ym (1, P_J5_descendingIterator) (ax_Ym 160) := ⟨M_J5_descendingIterator, yJ5_descendingIterator, ⟨rfl, by decide +kernel, rfl, (fun h => by cases h), Or.inl ⟨rfl, rfl⟩⟩, fun pc => (ax_sn_node (ax_sn_node (ax_sn_node (ax_sn_leaf (r_J5_descendingIterator_8 E)) (ax_sn_leaf (r_J5_descendingIterator_5 E))) (ax_sn_leaf (r_J5_descendingIterator_4 E))) (ax_sn_node (ax_sn_leaf (r_J5_descendingIterator_3 E)) (ax_sn_leaf (r_J5_descendingIterator_0 E))))⟩
theorem r_J6_init_2_0 (E : ax_EN G l) : ax_Snd G l ax_Ym M_J6_init_2 0 (S_thr1 [(28, 2), (32, 0), (33, 0), (34, 0), (35, 0), (44, 0), (45, 0), (46, 0)]) := k_thr1 (en_F E) (en_B E) (en_U E) (en_T E) rfl rfl ⟨dJ6_init_2_0, dJ6_init_2_1, dJ6_init_2_4, dJ6_init_2_5, dJ6_init_2_6, dJ6_init_2_9, dJ6_init_2_10, dJ6_init_2_13, dJ6_init_2_16, dJ6_init_2_17, dJ6_init_2_20, dJ6_init_2_23, dJ6_init_2_24, dJ6_init_2_27⟩ (tks E) dJ6_init_2_28 dJ6_init_2_29 dJ6_init_2_30 dJ6_init_2_33
theorem mt_J6_init_2 (E : ax_EN G l) : ax_mt G l ax_Ym (2, P_J6_init_2) (ax_Ym 162) := ⟨M_J6_init_2, yJ6_init_2, ⟨rfl, by decide +kernel, rfl, (fun _ => rfl), Or.inl ⟨rfl, rfl⟩⟩, fun pc => (ax_sn_leaf (r_J6_init_2_0 E))⟩
theorem r_J6_init_4_0 (E : ax_EN G l) : ax_Snd G l ax_Ym M_J6_init_4 0 (S_thr2 [(28, 2), (32, 0), (33, 0), (34, 0), (35, 0), (44, 0), (45, 0), (46, 0)]) := k_thr2 (en_F E) (en_B E) (en_U E) (en_T E) rfl rfl ⟨dJ6_init_4_0, dJ6_init_4_1, dJ6_init_4_4, dJ6_init_4_5, dJ6_init_4_6, dJ6_init_4_9, dJ6_init_4_10, dJ6_init_4_13, dJ6_init_4_16, dJ6_init_4_17, dJ6_init_4_20, dJ6_init_4_23, dJ6_init_4_24, dJ6_init_4_27⟩ (tks E) dJ6_init_4_28 dJ6_init_4_29 dJ6_init_4_30 dJ6_init_4_33 dJ6_init_4_34 dJ6_init_4_35 dJ6_init_4_38
theorem mt_J6_init_4 (E : ax_EN G l) : ax_mt G l ax_Ym (3, P_J6_init_4) (ax_Ym 167) := ⟨M_J6_init_4, yJ6_init_4, ⟨rfl, by decide +kernel, rfl, (fun _ => rfl), Or.inl ⟨rfl, rfl⟩⟩, fun pc => (ax_sn_leaf (r_J6_init_4_0 E))⟩
theorem r_J7_init_0 (E : ax_EN G l) : ax_Snd G l ax_Ym M_J7_init 0 (S_aload 0 1) := k_aload_n dJ7_init_0 rfl
theorem r_J7_init_1 (E : ax_EN G l) : ax_Snd G l ax_Ym M_J7_init 1 (S_aload 1 2) := k_aload_n dJ7_init_1 rfl
theorem r_J7_init_2 (E : ax_EN G l) : ax_Snd G l ax_Ym M_J7_init 2 (S_isp 162 1 5 hd_0) := k_isp (en_F E) (ax_ok0 E rfl) ((ev_i y_J6_init_2 q766 q767 q127 q768 nm_J6_init_2 rfl (Nat.le_of_ble_eq_true rfl) dJ7_init_2) : ax_EvI G l ax_Ym M_J7_init 2 162 1 3)
theorem r_J7_init_5 (E : ax_EN G l) : ax_Snd G l ax_Ym M_J7_init 5 (S_ret) := k_ret dJ7_init_5 rfl
theorem mt_J7_init (E : ax_EN G l) : ax_mt G l ax_Ym (2, P_J7_init) (ax_Ym 168) := ⟨M_J7_init, yJ7_init, ⟨rfl, by decide +kernel, rfl, (fun _ => rfl), Or.inl ⟨rfl, rfl⟩⟩, fun pc => (ax_sn_node (ax_sn_node (ax_sn_leaf (r_J7_init_5 E)) (ax_sn_leaf (r_J7_init_2 E))) (ax_sn_node (ax_sn_leaf (r_J7_init_1 E)) (ax_sn_leaf (r_J7_init_0 E))))⟩
theorem r_J7_init_3_0 (E : ax_EN G l) : ax_Snd G l ax_Ym M_J7_init_3 0 (S_aload 0 1) := k_aload_n dJ7_init_3_0 rfl
theorem r_J7_init_3_4 (E : ax_EN G l) : ax_Snd G l ax_Ym M_J7_init_3 4 (S_ret) := k_ret dJ7_init_3_4 rfl
theorem mt_J7_init_3 (E : ax_EN G l) : ax_mt G l ax_Ym (1, P_J7_init_3) (ax_Ym 170) := ⟨M_J7_init_3, yJ7_init_3, ⟨rfl, by decide +kernel, rfl, (fun _ => rfl), Or.inl ⟨rfl, rfl⟩⟩, fun pc => (ax_sn_node (ax_sn_leaf (r_J7_init_3_4 E)) (ax_sn_leaf (r_J7_init_3_0 E)))⟩
theorem r_J7_init_4_0 (E : ax_EN G l) : ax_Snd G l ax_Ym M_J7_init_4 0 (S_aload 0 1) := k_aload_n dJ7_init_4_0 rfl
theorem r_J7_init_4_1 (E : ax_EN G l) : ax_Snd G l ax_Ym M_J7_init_4 1 (S_aload 1 2) := k_aload_n dJ7_init_4_1 rfl
theorem r_J7_init_4_2 (E : ax_EN G l) : ax_Snd G l ax_Ym M_J7_init_4 2 (S_aload 2 3) := k_aload_n dJ7_init_4_2 rfl
theorem r_J7_init_4_3 (E : ax_EN G l) : ax_Snd G l ax_Ym M_J7_init_4 3 (S_isp 167 2 6 hd_0) := k_isp (en_F E) (ax_ok0 E rfl) ((ev_i y_J6_init_4 q1946 q1947 q127 q1948 nm_J6_init_4 rfl (Nat.le_of_ble_eq_true rfl) dJ7_init_4_3) : ax_EvI G l ax_Ym M_J7_init_4 3 167 2 3)
theorem r_J7_init_4_6 (E : ax_EN G l) : ax_Snd G l ax_Ym M_J7_init_4 6 (S_ret) := k_ret dJ7_init_4_6 rfl
theorem mt_J7_init_4 (E : ax_EN G l) : ax_mt G l ax_Ym (3, P_J7_init_4) (ax_Ym 171) := ⟨M_J7_init_4, yJ7_init_4, ⟨rfl, by decide +kernel, rfl, (fun _ => rfl), Or.inl ⟨rfl, rfl⟩⟩, fun pc => (ax_sn_node (ax_sn_node (ax_sn_node (ax_sn_leaf (r_J7_init_4_6 E)) (ax_sn_leaf (r_J7_init_4_3 E))) (ax_sn_leaf (r_J7_init_4_2 E))) (ax_sn_node (ax_sn_leaf (r_J7_init_4_1 E)) (ax_sn_leaf (r_J7_init_4_0 E))))⟩
theorem r_J8_init_0 (E : ax_EN G l) : ax_Snd G l ax_Ym M_J8_init 0 (S_aload 0 1) := k_aload_n dJ8_init_0 rfl
theorem r_J8_init_1 (E : ax_EN G l) : ax_Snd G l ax_Ym M_J8_init 1 (S_aload 1 2) := k_aload_n dJ8_init_1 rfl
theorem r_J8_init_2 (E : ax_EN G l) : ax_Snd G l ax_Ym M_J8_init 2 (S_isp 168 1 5 hd_0) := k_isp (en_F E) (ax_ok0 E rfl) ((ev_i y_J7_init q763 q764 q128 q765 nm_J7_init rfl (Nat.le_of_ble_eq_true rfl) dJ8_init_2) : ax_EvI G l ax_Ym M_J8_init 2 168 1 3)
theorem r_J8_init_5 (E : ax_EN G l) : ax_Snd G l ax_Ym M_J8_init 5 (S_ret) := k_ret dJ8_init_5 rfl
theorem mt_J8_init (E : ax_EN G l) : ax_mt G l ax_Ym (2, P_J8_init) (ax_Ym 172) := ⟨M_J8_init, yJ8_init, ⟨rfl, by decide +kernel, rfl, (fun _ => rfl), Or.inl ⟨rfl, rfl⟩⟩, fun pc => (ax_sn_node (ax_sn_node (ax_sn_leaf (r_J8_init_5 E)) (ax_sn_leaf (r_J8_init_2 E))) (ax_sn_node (ax_sn_leaf (r_J8_init_1 E)) (ax_sn_leaf (r_J8_init_0 E))))⟩
theorem r_J8_init_3_0 (E : ax_EN G l) : ax_Snd G l ax_Ym M_J8_init_3 0 (S_aload 0 1) := k_aload_n dJ8_init_3_0 rfl
theorem r_J8_init_3_1 (E : ax_EN G l) : ax_Snd G l ax_Ym M_J8_init_3 1 (S_isp 170 0 4 hd_0) := k_isp (en_F E) (ax_ok0 E rfl) ((ev_i y_J7_init_3 q1636 q1637 q128 q1638 nm_J7_init_3 rfl (Nat.le_of_ble_eq_true rfl) dJ8_init_3_1) : ax_EvI G l ax_Ym M_J8_init_3 1 170 0 3)
theorem r_J8_init_3_4 (E : ax_EN G l) : ax_Snd G l ax_Ym M_J8_init_3 4 (S_ret) := k_ret dJ8_init_3_4 rfl
theorem mt_J8_init_3 (E : ax_EN G l) : ax_mt G l ax_Ym (1, P_J8_init_3) (ax_Ym 174) := ⟨M_J8_init_3, yJ8_init_3, ⟨rfl, by decide +kernel, rfl, (fun _ => rfl), Or.inl ⟨rfl, rfl⟩⟩, fun pc => (ax_sn_node (ax_sn_node (ax_sn_leaf (r_J8_init_3_4 E)) (ax_sn_leaf (r_J8_init_3_1 E))) (ax_sn_leaf (r_J8_init_3_0 E)))⟩
theorem r_J8_init_4_0 (E : ax_EN G l) : ax_Snd G l ax_Ym M_J8_init_4 0 (S_aload 0 1) := k_aload_n dJ8_init_4_0 rfl
theorem r_J8_init_4_1 (E : ax_EN G l) : ax_Snd G l ax_Ym M_J8_init_4 1 (S_aload 1 2) := k_aload_n dJ8_init_4_1 rfl
theorem r_J8_init_4_2 (E : ax_EN G l) : ax_Snd G l ax_Ym M_J8_init_4 2 (S_aload 2 3) := k_aload_n dJ8_init_4_2 rfl
theorem r_J8_init_4_3 (E : ax_EN G l) : ax_Snd G l ax_Ym M_J8_init_4 3 (S_isp 171 2 6 hd_0) := k_isp (en_F E) (ax_ok0 E rfl) ((ev_i y_J7_init_4 q1943 q1944 q128 q1945 nm_J7_init_4 rfl (Nat.le_of_ble_eq_true rfl) dJ8_init_4_3) : ax_EvI G l ax_Ym M_J8_init_4 3 171 2 3)
theorem r_J8_init_4_6 (E : ax_EN G l) : ax_Snd G l ax_Ym M_J8_init_4 6 (S_ret) := k_ret dJ8_init_4_6 rfl
theorem mt_J8_init_4 (E : ax_EN G l) : ax_mt G l ax_Ym (3, P_J8_init_4) (ax_Ym 175) := ⟨M_J8_init_4, yJ8_init_4, ⟨rfl, by decide +kernel, rfl, (fun _ => rfl), Or.inl ⟨rfl, rfl⟩⟩, fun pc => (ax_sn_node (ax_sn_node (ax_sn_node (ax_sn_leaf (r_J8_init_4_6 E)) (ax_sn_leaf (r_J8_init_4_3 E))) (ax_sn_leaf (r_J8_init_4_2 E))) (ax_sn_node (ax_sn_leaf (r_J8_init_4_1 E)) (ax_sn_leaf (r_J8_init_4_0 E))))⟩
theorem r_J9_init_0 (E : ax_EN G l) : ax_Snd G l ax_Ym M_J9_init 0 (S_aload 0 1) := k_aload_n dJ9_init_0 rfl
theorem r_J9_init_1 (E : ax_EN G l) : ax_Snd G l ax_Ym M_J9_init 1 (S_aload 1 2) := k_aload_n dJ9_init_1 rfl
theorem r_J9_init_2 (E : ax_EN G l) : ax_Snd G l ax_Ym M_J9_init 2 (S_isp 172 1 5 hd_0) := k_isp (en_F E) (ax_ok0 E rfl) ((ev_i y_J8_init q760 q761 q129 q762 nm_J8_init rfl (Nat.le_of_ble_eq_true rfl) dJ9_init_2) : ax_EvI G l ax_Ym M_J9_init 2 172 1 3)
theorem r_J9_init_5 (E : ax_EN G l) : ax_Snd G l ax_Ym M_J9_init 5 (S_ret) := k_ret dJ9_init_5 rfl
theorem mt_J9_init (E : ax_EN G l) : ax_mt G l ax_Ym (2, P_J9_init) (ax_Ym 176) := ⟨M_J9_init, yJ9_init, ⟨rfl, by decide +kernel, rfl, (fun _ => rfl), Or.inl ⟨rfl, rfl⟩⟩, fun pc => (ax_sn_node (ax_sn_node (ax_sn_leaf (r_J9_init_5 E)) (ax_sn_leaf (r_J9_init_2 E))) (ax_sn_node (ax_sn_leaf (r_J9_init_1 E)) (ax_sn_leaf (r_J9_init_0 E))))⟩
theorem r_L_law_0 (E : ax_EN G l) : ax_Snd G l ax_Ym M_L_law 0 (S_new 19 [.null, .null, .null, .null, .null, .null] 6 3) := k_new (en_F E) (mk_19 E) q183 dL_law_0
theorem r_L_law_3 (E : ax_EN G l) : ax_Snd G l ax_Ym M_L_law 3 (S_dup 4) := k_dup dL_law_3
theorem r_L_law_4 (E : ax_EN G l) : ax_Snd G l ax_Ym M_L_law 4 (S_isp 209 0 7 hd_0) := k_isp (en_F E) (ax_ok0 E rfl) ((ev_i y_X1_init q185 q186 q118 q187 nm_X1_init rfl (Nat.le_of_ble_eq_true rfl) dL_law_4) : ax_EvI G l ax_Ym M_L_law 4 209 0 3)
theorem r_L_law_7 (E : ax_EN G l) : ax_Snd G l ax_Ym M_L_law 7 (S_astore 1 8) := k_astore_n dL_law_7 rfl (Nat.le_of_ble_eq_true rfl)
theorem r_L_law_8 (E : ax_EN G l) : ax_Snd G l ax_Ym M_L_law 8 (S_new 38 [.int 0, .int 0, .null, .null, .null, .null, .null, .null, .null, .null, .null, .null, .null, .null, .int 0, .int 0, .int 0, .int 0, .int 0, .int 0, .null, .null, .int 0, .int 0, .int 0, .null, .null, .int 0, .int 0, .int 0, .int 0, .int 0, .int 0, .int 0, .int 0, .int 0, .null, .int 0, .int 0, .int 0, .int 0, .null, .null, .int 0, .null, .null, .int 0, .int 0, .null, .null, .null, .null, .int 0, .null, .null, .int 0, .null, .null, .int 0, .int 0, .int 0, .null, .null, .null, .null, .null, .null, .null, .null, .null, .null, .null, .null, .null] 74 11) := k_new (en_F E) (mk_38 E) q2743 dL_law_8
theorem r_L_law_11 (E : ax_EN G l) : ax_Snd G l ax_Ym M_L_law 11 (S_dup 12) := k_dup dL_law_11
theorem r_L_law_12 (E : ax_EN G l) : ax_Snd G l ax_Ym M_L_law 12 (S_isp 370 0 15 hd_0) := k_isp (en_F E) (ax_ok0 E rfl) ((ev_i y_X3_init q2745 q2746 q126 q2747 nm_X3_init rfl (Nat.le_of_ble_eq_true rfl) dL_law_12) : ax_EvI G l ax_Ym M_L_law 12 370 0 3)
theorem r_L_law_15 (E : ax_EN G l) : ax_Snd G l ax_Ym M_L_law 15 (S_astore 2 16) := k_astore_n dL_law_15 rfl (Nat.le_of_ble_eq_true rfl)
theorem r_L_law_16 (E : ax_EN G l) : ax_Snd G l ax_Ym M_L_law 16 (S_push (.int (1)) 17) := k_iconst dL_law_16 rfl
theorem r_L_law_17 (E : ax_EN G l) : ax_Snd G l ax_Ym M_L_law 17 (S_newa 1 1 19) := k_newa (atype := .long) (en_F E) (by decide) rfl (fun _ => rfl) (Or.inl q1312) (by decide) (fun h => by cases h) dL_law_17
theorem r_L_law_19 (E : ax_EN G l) : ax_Snd G l ax_Ym M_L_law 19 (S_astore 3 20) := k_astore_n dL_law_19 rfl (Nat.le_of_ble_eq_true rfl)
theorem r_L_law_20 (E : ax_EN G l) : ax_Snd G l ax_Ym M_L_law 20 (S_push (.int (0)) 21) := k_iconst dL_law_20 rfl
theorem r_L_law_21 (E : ax_EN G l) : ax_Snd G l ax_Ym M_L_law 21 (S_istore 4 23) := k_istore dL_law_21 (Nat.le_of_ble_eq_true rfl)
theorem r_L_law_23 (E : ax_EN G l) : ax_Snd G l ax_Ym M_L_law 23 (S_iload 4 25) := k_iload dL_law_23
theorem r_L_law_25 (E : ax_EN G l) : ax_Snd G l ax_Ym M_L_law 25 (S_aload 0 26) := k_aload_n dL_law_25 rfl
theorem r_L_law_26 (E : ax_EN G l) : ax_Snd G l ax_Ym M_L_law 26 (S_alen 27) := k_alen (en_F E) dL_law_26
theorem r_L_law_27 (E : ax_EN G l) : ax_Snd G l ax_Ym M_L_law 27 (S_push (.int (6)) 29) := k_bipush dL_law_27 rfl
theorem r_L_law_29 (E : ax_EN G l) : ax_Snd G l ax_Ym M_L_law 29 (S_i2 (fun x y => x - y) 30) := k_isub dL_law_29
theorem r_L_law_30 (E : ax_EN G l) : ax_Snd G l ax_Ym M_L_law 30 (S_if2 (fun x y => decide (y < x)) 2377 33) := k_icmp_gt dL_law_30 rfl
theorem r_L_law_33 (E : ax_EN G l) : ax_Snd G l ax_Ym M_L_law 33 (S_aload 0 34) := k_aload_n dL_law_33 rfl
theorem r_L_law_34 (E : ax_EN G l) : ax_Snd G l ax_Ym M_L_law 34 (S_iload 4 36) := k_iload dL_law_34
theorem r_L_law_36 (E : ax_EN G l) : ax_Snd G l ax_Ym M_L_law 36 (S_iald 0 37) := k_iald (en_F E) dL_law_36
theorem r_L_law_37 (E : ax_EN G l) : ax_Snd G l ax_Ym M_L_law 37 (S_push (.int (63)) 39) := k_bipush dL_law_37 rfl
theorem r_L_law_39 (E : ax_EN G l) : ax_Snd G l ax_Ym M_L_law 39 (S_i2 (fun x y => x &&& y) 40) := k_iand dL_law_39
theorem r_L_law_40 (E : ax_EN G l) : ax_Snd G l ax_Ym M_L_law 40 (S_tsw (0) (49) [256, 269, 282, 338, 394, 498, 566, 622, 702, 758, 802, 906, 919, 963, 1019, 1063, 1107, 1151, 1207, 1275, 1331, 1387, 1400, 1413, 1426, 1439, 1452, 1465, 1478, 1491, 1547, 1603, 1659, 1672, 1728, 1741, 1797, 1810, 1878, 1891, 1947, 2015, 2028, 2041, 2097, 2153, 2245, 2258, 2302, 2358] 2371) := k_tsw dL_law_40 rfl rfl
theorem r_L_law_256 (E : ax_EN G l) : ax_Snd G l ax_Ym M_L_law 256 (S_aload 1 257) := k_aload_n dL_law_256 rfl
theorem r_L_law_257 (E : ax_EN G l) : ax_Snd G l ax_Ym M_L_law 257 (S_iv [(19, 210)] 0 260 hd_0) := k_iv (en_F E) (ax_ok0 E rfl) (ax_Evs_cons ((ev_v (en_c E (k := 19) rfl) rfl y_X1_clear q341 q342 q343 q118 q344 nm_X1_clear (Nat.le_of_ble_eq_true rfl) dL_law_257) : ax_EvV G l ax_Ym M_L_law 257 0 3 19 210) ax_Evs_nil)
theorem r_L_law_260 (E : ax_EN G l) : ax_Snd G l ax_Ym M_L_law 260 (S_aload 2 261) := k_aload_n dL_law_260 rfl
theorem r_L_law_261 (E : ax_EN G l) : ax_Snd G l ax_Ym M_L_law 261 (S_iv [(38, 373)] 0 264 hd_0) := k_iv (en_F E) (ax_ok0 E rfl) (ax_Evs_cons ((ev_v (en_c E (k := 38) rfl) rfl y_X3_clear q2980 q2981 q2982 q126 q2983 nm_X3_clear (Nat.le_of_ble_eq_true rfl) dL_law_261) : ax_EvV G l ax_Ym M_L_law 261 0 3 38 373) ax_Evs_nil)
theorem r_L_law_264 (E : ax_EN G l) : ax_Snd G l ax_Ym M_L_law 264 (S_if2 (fun x y => decide (x = y)) 2371 267) := k_icmp_eq dL_law_264 rfl
theorem r_L_law_267 (E : ax_EN G l) : ax_Snd G l ax_Ym M_L_law 267 (S_push (.int (0)) 268) := k_iconst dL_law_267 rfl
theorem r_L_law_268 (E : ax_EN G l) : ax_Snd G l ax_Ym M_L_law 268 (S_zret) := k_zret dL_law_268 rfl
theorem r_L_law_269 (E : ax_EN G l) : ax_Snd G l ax_Ym M_L_law 269 (S_aload 1 270) := k_aload_n dL_law_269 rfl
theorem r_L_law_270 (E : ax_EN G l) : ax_Snd G l ax_Ym M_L_law 270 (S_iv [(19, 211)] 0 273 hd_0) := k_iv (en_F E) (ax_ok0 E rfl) (ax_Evs_cons ((ev_v (en_c E (k := 19) rfl) rfl y_X1_lines q375 q376 q377 q118 q378 nm_X1_lines (Nat.le_of_ble_eq_true rfl) dL_law_270) : ax_EvV G l ax_Ym M_L_law 270 0 3 19 211) ax_Evs_nil)
theorem r_L_law_273 (E : ax_EN G l) : ax_Snd G l ax_Ym M_L_law 273 (S_aload 2 274) := k_aload_n dL_law_273 rfl
theorem r_L_law_274 (E : ax_EN G l) : ax_Snd G l ax_Ym M_L_law 274 (S_iv [(38, 374)] 0 277 hd_0) := k_iv (en_F E) (ax_ok0 E rfl) (ax_Evs_cons ((ev_v (en_c E (k := 38) rfl) rfl y_X3_lines q2984 q2985 q2986 q126 q2987 nm_X3_lines (Nat.le_of_ble_eq_true rfl) dL_law_274) : ax_EvV G l ax_Ym M_L_law 274 0 3 38 374) ax_Evs_nil)
theorem r_L_law_277 (E : ax_EN G l) : ax_Snd G l ax_Ym M_L_law 277 (S_if2 (fun x y => decide (x = y)) 2371 280) := k_icmp_eq dL_law_277 rfl
theorem r_L_law_280 (E : ax_EN G l) : ax_Snd G l ax_Ym M_L_law 280 (S_push (.int (0)) 281) := k_iconst dL_law_280 rfl
theorem r_L_law_281 (E : ax_EN G l) : ax_Snd G l ax_Ym M_L_law 281 (S_zret) := k_zret dL_law_281 rfl
theorem r_L_law_282 (E : ax_EN G l) : ax_Snd G l ax_Ym M_L_law 282 (S_aload 1 283) := k_aload_n dL_law_282 rfl
theorem r_L_law_283 (E : ax_EN G l) : ax_Snd G l ax_Ym M_L_law 283 (S_aload 0 284) := k_aload_n dL_law_283 rfl
theorem r_L_law_284 (E : ax_EN G l) : ax_Snd G l ax_Ym M_L_law 284 (S_iload 4 286) := k_iload dL_law_284
theorem r_L_law_286 (E : ax_EN G l) : ax_Snd G l ax_Ym M_L_law 286 (S_push (.int (1)) 287) := k_iconst dL_law_286 rfl
theorem r_L_law_287 (E : ax_EN G l) : ax_Snd G l ax_Ym M_L_law 287 (S_i2 (fun x y => x + y) 288) := k_iadd dL_law_287
theorem r_L_law_288 (E : ax_EN G l) : ax_Snd G l ax_Ym M_L_law 288 (S_iald 0 289) := k_iald (en_F E) dL_law_288
theorem r_L_law_289 (E : ax_EN G l) : ax_Snd G l ax_Ym M_L_law 289 (S_aload 3 290) := k_aload_n dL_law_289 rfl
theorem r_L_law_290 (E : ax_EN G l) : ax_Snd G l ax_Ym M_L_law 290 (S_is 178 3 293 hd_0) := k_is (en_F E) (ax_ok0 E rfl) ((ev_sW y_X0_section q1679 q1680 q117 q1681 nm_X0_section (Nat.le_of_ble_eq_true rfl) dL_law_290) : ax_EvS G l ax_Ym M_L_law 290 178 3 3)
theorem r_L_law_293 (E : ax_EN G l) : ax_Snd G l ax_Ym M_L_law 293 (S_istore 5 295) := k_istore dL_law_293 (Nat.le_of_ble_eq_true rfl)
theorem r_L_law_295 (E : ax_EN G l) : ax_Snd G l ax_Ym M_L_law 295 (S_aload 2 296) := k_aload_n dL_law_295 rfl
theorem r_L_law_296 (E : ax_EN G l) : ax_Snd G l ax_Ym M_L_law 296 (S_aload 0 297) := k_aload_n dL_law_296 rfl
theorem r_L_law_297 (E : ax_EN G l) : ax_Snd G l ax_Ym M_L_law 297 (S_iload 4 299) := k_iload dL_law_297
theorem r_L_law_299 (E : ax_EN G l) : ax_Snd G l ax_Ym M_L_law 299 (S_push (.int (1)) 300) := k_iconst dL_law_299 rfl
theorem r_L_law_300 (E : ax_EN G l) : ax_Snd G l ax_Ym M_L_law 300 (S_i2 (fun x y => x + y) 301) := k_iadd dL_law_300
theorem r_L_law_301 (E : ax_EN G l) : ax_Snd G l ax_Ym M_L_law 301 (S_iald 0 302) := k_iald (en_F E) dL_law_301
theorem r_L_law_302 (E : ax_EN G l) : ax_Snd G l ax_Ym M_L_law 302 (S_iv [(38, 375)] 1 305 hd_0) := k_iv (en_F E) (ax_ok0 E rfl) (ax_Evs_cons ((ev_v (en_c E (k := 38) rfl) rfl y_X3_section q2988 q2989 q2990 q126 q2991 nm_X3_section (Nat.le_of_ble_eq_true rfl) dL_law_302) : ax_EvV G l ax_Ym M_L_law 302 1 3 38 375) ax_Evs_nil)
theorem r_L_law_305 (E : ax_EN G l) : ax_Snd G l ax_Ym M_L_law 305 (S_istore 6 307) := k_istore dL_law_305 (Nat.le_of_ble_eq_true rfl)
theorem r_L_law_307 (E : ax_EN G l) : ax_Snd G l ax_Ym M_L_law 307 (S_aload 2 308) := k_aload_n dL_law_307 rfl
theorem r_L_law_308 (E : ax_EN G l) : ax_Snd G l ax_Ym M_L_law 308 (S_iv [(38, 372)] 0 311 hd_0) := k_iv (en_F E) (ax_ok0 E rfl) (ax_Evs_cons ((ev_v (en_c E (k := 38) rfl) rfl y_X3_thrown q2976 q2977 q2978 q126 q2979 nm_X3_thrown (Nat.le_of_ble_eq_true rfl) dL_law_308) : ax_EvV G l ax_Ym M_L_law 308 0 3 38 372) ax_Evs_nil)
theorem r_L_law_311 (E : ax_EN G l) : ax_Snd G l ax_Ym M_L_law 311 (S_iload 5 313) := k_iload dL_law_311
theorem r_L_law_313 (E : ax_EN G l) : ax_Snd G l ax_Ym M_L_law 313 (S_if2 (fun x y => decide (x = y)) 318 316) := k_icmp_eq dL_law_313 rfl
theorem r_L_law_316 (E : ax_EN G l) : ax_Snd G l ax_Ym M_L_law 316 (S_push (.int (0)) 317) := k_iconst dL_law_316 rfl
theorem r_L_law_317 (E : ax_EN G l) : ax_Snd G l ax_Ym M_L_law 317 (S_zret) := k_zret dL_law_317 rfl
theorem r_L_law_318 (E : ax_EN G l) : ax_Snd G l ax_Ym M_L_law 318 (S_iload 5 320) := k_iload dL_law_318
theorem r_L_law_320 (E : ax_EN G l) : ax_Snd G l ax_Ym M_L_law 320 (S_if1 (fun x => decide (¬ x = 0)) 335 323) := k_if_ne dL_law_320 rfl
theorem r_L_law_323 (E : ax_EN G l) : ax_Snd G l ax_Ym M_L_law 323 (S_aload 3 324) := k_aload_n dL_law_323 rfl
theorem r_L_law_324 (E : ax_EN G l) : ax_Snd G l ax_Ym M_L_law 324 (S_push (.int (0)) 325) := k_iconst dL_law_324 rfl
theorem r_L_law_325 (E : ax_EN G l) : ax_Snd G l ax_Ym M_L_law 325 (S_lald 1 326) := k_lald (en_F E) dL_law_325
theorem r_L_law_326 (E : ax_EN G l) : ax_Snd G l ax_Ym M_L_law 326 (S_iload 6 328) := k_iload dL_law_326
theorem r_L_law_328 (E : ax_EN G l) : ax_Snd G l ax_Ym M_L_law 328 (S_i2l 329) := k_i2l dL_law_328
theorem r_L_law_329 (E : ax_EN G l) : ax_Snd G l ax_Ym M_L_law 329 (S_lcmp 330) := k_lcmp dL_law_329
theorem r_L_law_330 (E : ax_EN G l) : ax_Snd G l ax_Ym M_L_law 330 (S_if1 (fun x => decide (x = 0)) 335 333) := k_if_eq dL_law_330 rfl
theorem r_L_law_333 (E : ax_EN G l) : ax_Snd G l ax_Ym M_L_law 333 (S_push (.int (0)) 334) := k_iconst dL_law_333 rfl
theorem r_L_law_334 (E : ax_EN G l) : ax_Snd G l ax_Ym M_L_law 334 (S_zret) := k_zret dL_law_334 rfl
theorem r_L_law_335 (E : ax_EN G l) : ax_Snd G l ax_Ym M_L_law 335 (S_goto 2371) := k_goto dL_law_335 rfl
theorem r_L_law_338 (E : ax_EN G l) : ax_Snd G l ax_Ym M_L_law 338 (S_aload 1 339) := k_aload_n dL_law_338 rfl
theorem r_L_law_339 (E : ax_EN G l) : ax_Snd G l ax_Ym M_L_law 339 (S_aload 0 340) := k_aload_n dL_law_339 rfl
theorem r_L_law_340 (E : ax_EN G l) : ax_Snd G l ax_Ym M_L_law 340 (S_iload 4 342) := k_iload dL_law_340
theorem r_L_law_342 (E : ax_EN G l) : ax_Snd G l ax_Ym M_L_law 342 (S_push (.int (1)) 343) := k_iconst dL_law_342 rfl
theorem r_L_law_343 (E : ax_EN G l) : ax_Snd G l ax_Ym M_L_law 343 (S_i2 (fun x y => x + y) 344) := k_iadd dL_law_343
theorem r_L_law_344 (E : ax_EN G l) : ax_Snd G l ax_Ym M_L_law 344 (S_iald 0 345) := k_iald (en_F E) dL_law_344
theorem r_L_law_345 (E : ax_EN G l) : ax_Snd G l ax_Ym M_L_law 345 (S_aload 3 346) := k_aload_n dL_law_345 rfl
theorem r_L_law_346 (E : ax_EN G l) : ax_Snd G l ax_Ym M_L_law 346 (S_is 179 3 349 hd_0) := k_is (en_F E) (ax_ok0 E rfl) ((ev_sW y_X0_label q1735 q1736 q117 q1737 nm_X0_label (Nat.le_of_ble_eq_true rfl) dL_law_346) : ax_EvS G l ax_Ym M_L_law 346 179 3 3)
theorem r_L_law_349 (E : ax_EN G l) : ax_Snd G l ax_Ym M_L_law 349 (S_istore 5 351) := k_istore dL_law_349 (Nat.le_of_ble_eq_true rfl)
theorem r_L_law_351 (E : ax_EN G l) : ax_Snd G l ax_Ym M_L_law 351 (S_aload 2 352) := k_aload_n dL_law_351 rfl
theorem r_L_law_352 (E : ax_EN G l) : ax_Snd G l ax_Ym M_L_law 352 (S_aload 0 353) := k_aload_n dL_law_352 rfl
theorem r_L_law_353 (E : ax_EN G l) : ax_Snd G l ax_Ym M_L_law 353 (S_iload 4 355) := k_iload dL_law_353
theorem r_L_law_355 (E : ax_EN G l) : ax_Snd G l ax_Ym M_L_law 355 (S_push (.int (1)) 356) := k_iconst dL_law_355 rfl
theorem r_L_law_356 (E : ax_EN G l) : ax_Snd G l ax_Ym M_L_law 356 (S_i2 (fun x y => x + y) 357) := k_iadd dL_law_356
theorem r_L_law_357 (E : ax_EN G l) : ax_Snd G l ax_Ym M_L_law 357 (S_iald 0 358) := k_iald (en_F E) dL_law_357
theorem r_L_law_358 (E : ax_EN G l) : ax_Snd G l ax_Ym M_L_law 358 (S_iv [(38, 379)] 1 361 hd_0) := k_iv (en_F E) (ax_ok0 E rfl) (ax_Evs_cons ((ev_v (en_c E (k := 38) rfl) rfl y_X3_label q3003 q3004 q3005 q126 q3006 nm_X3_label (Nat.le_of_ble_eq_true rfl) dL_law_358) : ax_EvV G l ax_Ym M_L_law 358 1 3 38 379) ax_Evs_nil)
theorem r_L_law_361 (E : ax_EN G l) : ax_Snd G l ax_Ym M_L_law 361 (S_istore 6 363) := k_istore dL_law_361 (Nat.le_of_ble_eq_true rfl)
theorem r_L_law_363 (E : ax_EN G l) : ax_Snd G l ax_Ym M_L_law 363 (S_aload 2 364) := k_aload_n dL_law_363 rfl
theorem r_L_law_364 (E : ax_EN G l) : ax_Snd G l ax_Ym M_L_law 364 (S_iv [(38, 372)] 0 367 hd_0) := k_iv (en_F E) (ax_ok0 E rfl) (ax_Evs_cons ((ev_v (en_c E (k := 38) rfl) rfl y_X3_thrown q2976 q2977 q2978 q126 q2979 nm_X3_thrown (Nat.le_of_ble_eq_true rfl) dL_law_364) : ax_EvV G l ax_Ym M_L_law 364 0 3 38 372) ax_Evs_nil)
theorem r_L_law_367 (E : ax_EN G l) : ax_Snd G l ax_Ym M_L_law 367 (S_iload 5 369) := k_iload dL_law_367
theorem r_L_law_369 (E : ax_EN G l) : ax_Snd G l ax_Ym M_L_law 369 (S_if2 (fun x y => decide (x = y)) 374 372) := k_icmp_eq dL_law_369 rfl
theorem r_L_law_372 (E : ax_EN G l) : ax_Snd G l ax_Ym M_L_law 372 (S_push (.int (0)) 373) := k_iconst dL_law_372 rfl
theorem r_L_law_373 (E : ax_EN G l) : ax_Snd G l ax_Ym M_L_law 373 (S_zret) := k_zret dL_law_373 rfl
theorem r_L_law_374 (E : ax_EN G l) : ax_Snd G l ax_Ym M_L_law 374 (S_iload 5 376) := k_iload dL_law_374
theorem r_L_law_376 (E : ax_EN G l) : ax_Snd G l ax_Ym M_L_law 376 (S_if1 (fun x => decide (¬ x = 0)) 391 379) := k_if_ne dL_law_376 rfl
theorem r_L_law_379 (E : ax_EN G l) : ax_Snd G l ax_Ym M_L_law 379 (S_aload 3 380) := k_aload_n dL_law_379 rfl
theorem r_L_law_380 (E : ax_EN G l) : ax_Snd G l ax_Ym M_L_law 380 (S_push (.int (0)) 381) := k_iconst dL_law_380 rfl
theorem r_L_law_381 (E : ax_EN G l) : ax_Snd G l ax_Ym M_L_law 381 (S_lald 1 382) := k_lald (en_F E) dL_law_381
theorem r_L_law_382 (E : ax_EN G l) : ax_Snd G l ax_Ym M_L_law 382 (S_iload 6 384) := k_iload dL_law_382
theorem r_L_law_384 (E : ax_EN G l) : ax_Snd G l ax_Ym M_L_law 384 (S_i2l 385) := k_i2l dL_law_384
theorem r_L_law_385 (E : ax_EN G l) : ax_Snd G l ax_Ym M_L_law 385 (S_lcmp 386) := k_lcmp dL_law_385
theorem r_L_law_386 (E : ax_EN G l) : ax_Snd G l ax_Ym M_L_law 386 (S_if1 (fun x => decide (x = 0)) 391 389) := k_if_eq dL_law_386 rfl
theorem r_L_law_389 (E : ax_EN G l) : ax_Snd G l ax_Ym M_L_law 389 (S_push (.int (0)) 390) := k_iconst dL_law_389 rfl
theorem r_L_law_390 (E : ax_EN G l) : ax_Snd G l ax_Ym M_L_law 390 (S_zret) := k_zret dL_law_390 rfl
theorem r_L_law_391 (E : ax_EN G l) : ax_Snd G l ax_Ym M_L_law 391 (S_goto 2371) := k_goto dL_law_391 rfl
theorem r_L_law_394 (E : ax_EN G l) : ax_Snd G l ax_Ym M_L_law 394 (S_aload 1 395) := k_aload_n dL_law_394 rfl
theorem r_L_law_395 (E : ax_EN G l) : ax_Snd G l ax_Ym M_L_law 395 (S_aload 0 396) := k_aload_n dL_law_395 rfl
theorem r_L_law_396 (E : ax_EN G l) : ax_Snd G l ax_Ym M_L_law 396 (S_iload 4 398) := k_iload dL_law_396
theorem r_L_law_398 (E : ax_EN G l) : ax_Snd G l ax_Ym M_L_law 398 (S_push (.int (1)) 399) := k_iconst dL_law_398 rfl
theorem r_L_law_399 (E : ax_EN G l) : ax_Snd G l ax_Ym M_L_law 399 (S_i2 (fun x y => x + y) 400) := k_iadd dL_law_399
theorem r_L_law_400 (E : ax_EN G l) : ax_Snd G l ax_Ym M_L_law 400 (S_iald 0 401) := k_iald (en_F E) dL_law_400
theorem r_L_law_401 (E : ax_EN G l) : ax_Snd G l ax_Ym M_L_law 401 (S_aload 0 402) := k_aload_n dL_law_401 rfl
theorem r_L_law_402 (E : ax_EN G l) : ax_Snd G l ax_Ym M_L_law 402 (S_iload 4 404) := k_iload dL_law_402
theorem r_L_law_404 (E : ax_EN G l) : ax_Snd G l ax_Ym M_L_law 404 (S_push (.int (2)) 405) := k_iconst dL_law_404 rfl
theorem r_L_law_405 (E : ax_EN G l) : ax_Snd G l ax_Ym M_L_law 405 (S_i2 (fun x y => x + y) 406) := k_iadd dL_law_405
theorem r_L_law_406 (E : ax_EN G l) : ax_Snd G l ax_Ym M_L_law 406 (S_iald 0 407) := k_iald (en_F E) dL_law_406
theorem r_L_law_407 (E : ax_EN G l) : ax_Snd G l ax_Ym M_L_law 407 (S_aload 0 408) := k_aload_n dL_law_407 rfl
theorem r_L_law_408 (E : ax_EN G l) : ax_Snd G l ax_Ym M_L_law 408 (S_iload 4 410) := k_iload dL_law_408
theorem r_L_law_410 (E : ax_EN G l) : ax_Snd G l ax_Ym M_L_law 410 (S_push (.int (3)) 411) := k_iconst dL_law_410 rfl
theorem r_L_law_411 (E : ax_EN G l) : ax_Snd G l ax_Ym M_L_law 411 (S_i2 (fun x y => x + y) 412) := k_iadd dL_law_411
theorem r_L_law_412 (E : ax_EN G l) : ax_Snd G l ax_Ym M_L_law 412 (S_iald 0 413) := k_iald (en_F E) dL_law_412
theorem r_L_law_413 (E : ax_EN G l) : ax_Snd G l ax_Ym M_L_law 413 (S_aload 0 414) := k_aload_n dL_law_413 rfl
theorem r_L_law_414 (E : ax_EN G l) : ax_Snd G l ax_Ym M_L_law 414 (S_iload 4 416) := k_iload dL_law_414
theorem r_L_law_416 (E : ax_EN G l) : ax_Snd G l ax_Ym M_L_law 416 (S_push (.int (4)) 417) := k_iconst dL_law_416 rfl
theorem r_L_law_417 (E : ax_EN G l) : ax_Snd G l ax_Ym M_L_law 417 (S_i2 (fun x y => x + y) 418) := k_iadd dL_law_417
theorem r_L_law_418 (E : ax_EN G l) : ax_Snd G l ax_Ym M_L_law 418 (S_iald 0 419) := k_iald (en_F E) dL_law_418
theorem r_L_law_419 (E : ax_EN G l) : ax_Snd G l ax_Ym M_L_law 419 (S_aload 0 420) := k_aload_n dL_law_419 rfl
theorem r_L_law_420 (E : ax_EN G l) : ax_Snd G l ax_Ym M_L_law 420 (S_iload 4 422) := k_iload dL_law_420
theorem r_L_law_422 (E : ax_EN G l) : ax_Snd G l ax_Ym M_L_law 422 (S_push (.int (5)) 423) := k_iconst dL_law_422 rfl
theorem r_L_law_423 (E : ax_EN G l) : ax_Snd G l ax_Ym M_L_law 423 (S_i2 (fun x y => x + y) 424) := k_iadd dL_law_423
theorem r_L_law_424 (E : ax_EN G l) : ax_Snd G l ax_Ym M_L_law 424 (S_iald 0 425) := k_iald (en_F E) dL_law_424
theorem r_L_law_425 (E : ax_EN G l) : ax_Snd G l ax_Ym M_L_law 425 (S_aload 3 426) := k_aload_n dL_law_425 rfl
theorem r_L_law_426 (E : ax_EN G l) : ax_Snd G l ax_Ym M_L_law 426 (S_is 180 7 429 hd_0) := k_is (en_F E) (ax_ok0 E rfl) ((ev_sW y_X0_code q1755 q1756 q117 q1757 nm_X0_code (Nat.le_of_ble_eq_true rfl) dL_law_426) : ax_EvS G l ax_Ym M_L_law 426 180 7 3)
theorem r_L_law_429 (E : ax_EN G l) : ax_Snd G l ax_Ym M_L_law 429 (S_istore 5 431) := k_istore dL_law_429 (Nat.le_of_ble_eq_true rfl)
theorem r_L_law_431 (E : ax_EN G l) : ax_Snd G l ax_Ym M_L_law 431 (S_aload 2 432) := k_aload_n dL_law_431 rfl
theorem r_L_law_432 (E : ax_EN G l) : ax_Snd G l ax_Ym M_L_law 432 (S_aload 0 433) := k_aload_n dL_law_432 rfl
theorem r_L_law_433 (E : ax_EN G l) : ax_Snd G l ax_Ym M_L_law 433 (S_iload 4 435) := k_iload dL_law_433
theorem r_L_law_435 (E : ax_EN G l) : ax_Snd G l ax_Ym M_L_law 435 (S_push (.int (1)) 436) := k_iconst dL_law_435 rfl
theorem r_L_law_436 (E : ax_EN G l) : ax_Snd G l ax_Ym M_L_law 436 (S_i2 (fun x y => x + y) 437) := k_iadd dL_law_436
theorem r_L_law_437 (E : ax_EN G l) : ax_Snd G l ax_Ym M_L_law 437 (S_iald 0 438) := k_iald (en_F E) dL_law_437
theorem r_L_law_438 (E : ax_EN G l) : ax_Snd G l ax_Ym M_L_law 438 (S_aload 0 439) := k_aload_n dL_law_438 rfl
theorem r_L_law_439 (E : ax_EN G l) : ax_Snd G l ax_Ym M_L_law 439 (S_iload 4 441) := k_iload dL_law_439
theorem r_L_law_441 (E : ax_EN G l) : ax_Snd G l ax_Ym M_L_law 441 (S_push (.int (2)) 442) := k_iconst dL_law_441 rfl
theorem r_L_law_442 (E : ax_EN G l) : ax_Snd G l ax_Ym M_L_law 442 (S_i2 (fun x y => x + y) 443) := k_iadd dL_law_442
theorem r_L_law_443 (E : ax_EN G l) : ax_Snd G l ax_Ym M_L_law 443 (S_iald 0 444) := k_iald (en_F E) dL_law_443
theorem r_L_law_444 (E : ax_EN G l) : ax_Snd G l ax_Ym M_L_law 444 (S_aload 0 445) := k_aload_n dL_law_444 rfl
theorem r_L_law_445 (E : ax_EN G l) : ax_Snd G l ax_Ym M_L_law 445 (S_iload 4 447) := k_iload dL_law_445
theorem r_L_law_447 (E : ax_EN G l) : ax_Snd G l ax_Ym M_L_law 447 (S_push (.int (3)) 448) := k_iconst dL_law_447 rfl
theorem r_L_law_448 (E : ax_EN G l) : ax_Snd G l ax_Ym M_L_law 448 (S_i2 (fun x y => x + y) 449) := k_iadd dL_law_448
theorem r_L_law_449 (E : ax_EN G l) : ax_Snd G l ax_Ym M_L_law 449 (S_iald 0 450) := k_iald (en_F E) dL_law_449
theorem r_L_law_450 (E : ax_EN G l) : ax_Snd G l ax_Ym M_L_law 450 (S_aload 0 451) := k_aload_n dL_law_450 rfl
theorem r_L_law_451 (E : ax_EN G l) : ax_Snd G l ax_Ym M_L_law 451 (S_iload 4 453) := k_iload dL_law_451
theorem r_L_law_453 (E : ax_EN G l) : ax_Snd G l ax_Ym M_L_law 453 (S_push (.int (4)) 454) := k_iconst dL_law_453 rfl
theorem r_L_law_454 (E : ax_EN G l) : ax_Snd G l ax_Ym M_L_law 454 (S_i2 (fun x y => x + y) 455) := k_iadd dL_law_454
theorem r_L_law_455 (E : ax_EN G l) : ax_Snd G l ax_Ym M_L_law 455 (S_iald 0 456) := k_iald (en_F E) dL_law_455
theorem r_L_law_456 (E : ax_EN G l) : ax_Snd G l ax_Ym M_L_law 456 (S_aload 0 457) := k_aload_n dL_law_456 rfl
theorem r_L_law_457 (E : ax_EN G l) : ax_Snd G l ax_Ym M_L_law 457 (S_iload 4 459) := k_iload dL_law_457
theorem r_L_law_459 (E : ax_EN G l) : ax_Snd G l ax_Ym M_L_law 459 (S_push (.int (5)) 460) := k_iconst dL_law_459 rfl
theorem r_L_law_460 (E : ax_EN G l) : ax_Snd G l ax_Ym M_L_law 460 (S_i2 (fun x y => x + y) 461) := k_iadd dL_law_460
theorem r_L_law_461 (E : ax_EN G l) : ax_Snd G l ax_Ym M_L_law 461 (S_iald 0 462) := k_iald (en_F E) dL_law_461
theorem r_L_law_462 (E : ax_EN G l) : ax_Snd G l ax_Ym M_L_law 462 (S_iv [(38, 380)] 5 465 hd_0) := k_iv (en_F E) (ax_ok0 E rfl) (ax_Evs_cons ((ev_v (en_c E (k := 38) rfl) rfl y_X3_code q3007 q3008 q3009 q126 q3010 nm_X3_code (Nat.le_of_ble_eq_true rfl) dL_law_462) : ax_EvV G l ax_Ym M_L_law 462 5 3 38 380) ax_Evs_nil)
theorem r_L_law_465 (E : ax_EN G l) : ax_Snd G l ax_Ym M_L_law 465 (S_istore 6 467) := k_istore dL_law_465 (Nat.le_of_ble_eq_true rfl)
theorem r_L_law_467 (E : ax_EN G l) : ax_Snd G l ax_Ym M_L_law 467 (S_aload 2 468) := k_aload_n dL_law_467 rfl
theorem r_L_law_468 (E : ax_EN G l) : ax_Snd G l ax_Ym M_L_law 468 (S_iv [(38, 372)] 0 471 hd_0) := k_iv (en_F E) (ax_ok0 E rfl) (ax_Evs_cons ((ev_v (en_c E (k := 38) rfl) rfl y_X3_thrown q2976 q2977 q2978 q126 q2979 nm_X3_thrown (Nat.le_of_ble_eq_true rfl) dL_law_468) : ax_EvV G l ax_Ym M_L_law 468 0 3 38 372) ax_Evs_nil)
theorem r_L_law_471 (E : ax_EN G l) : ax_Snd G l ax_Ym M_L_law 471 (S_iload 5 473) := k_iload dL_law_471
theorem r_L_law_473 (E : ax_EN G l) : ax_Snd G l ax_Ym M_L_law 473 (S_if2 (fun x y => decide (x = y)) 478 476) := k_icmp_eq dL_law_473 rfl
theorem r_L_law_476 (E : ax_EN G l) : ax_Snd G l ax_Ym M_L_law 476 (S_push (.int (0)) 477) := k_iconst dL_law_476 rfl
theorem r_L_law_477 (E : ax_EN G l) : ax_Snd G l ax_Ym M_L_law 477 (S_zret) := k_zret dL_law_477 rfl
theorem r_L_law_478 (E : ax_EN G l) : ax_Snd G l ax_Ym M_L_law 478 (S_iload 5 480) := k_iload dL_law_478
theorem r_L_law_480 (E : ax_EN G l) : ax_Snd G l ax_Ym M_L_law 480 (S_if1 (fun x => decide (¬ x = 0)) 495 483) := k_if_ne dL_law_480 rfl
theorem r_L_law_483 (E : ax_EN G l) : ax_Snd G l ax_Ym M_L_law 483 (S_aload 3 484) := k_aload_n dL_law_483 rfl
theorem r_L_law_484 (E : ax_EN G l) : ax_Snd G l ax_Ym M_L_law 484 (S_push (.int (0)) 485) := k_iconst dL_law_484 rfl
theorem r_L_law_485 (E : ax_EN G l) : ax_Snd G l ax_Ym M_L_law 485 (S_lald 1 486) := k_lald (en_F E) dL_law_485
theorem r_L_law_486 (E : ax_EN G l) : ax_Snd G l ax_Ym M_L_law 486 (S_iload 6 488) := k_iload dL_law_486
theorem r_L_law_488 (E : ax_EN G l) : ax_Snd G l ax_Ym M_L_law 488 (S_i2l 489) := k_i2l dL_law_488
theorem r_L_law_489 (E : ax_EN G l) : ax_Snd G l ax_Ym M_L_law 489 (S_lcmp 490) := k_lcmp dL_law_489
theorem r_L_law_490 (E : ax_EN G l) : ax_Snd G l ax_Ym M_L_law 490 (S_if1 (fun x => decide (x = 0)) 495 493) := k_if_eq dL_law_490 rfl
theorem r_L_law_493 (E : ax_EN G l) : ax_Snd G l ax_Ym M_L_law 493 (S_push (.int (0)) 494) := k_iconst dL_law_493 rfl
theorem r_L_law_494 (E : ax_EN G l) : ax_Snd G l ax_Ym M_L_law 494 (S_zret) := k_zret dL_law_494 rfl
theorem r_L_law_495 (E : ax_EN G l) : ax_Snd G l ax_Ym M_L_law 495 (S_goto 2371) := k_goto dL_law_495 rfl
theorem r_L_law_498 (E : ax_EN G l) : ax_Snd G l ax_Ym M_L_law 498 (S_aload 1 499) := k_aload_n dL_law_498 rfl
theorem r_L_law_499 (E : ax_EN G l) : ax_Snd G l ax_Ym M_L_law 499 (S_aload 0 500) := k_aload_n dL_law_499 rfl
theorem r_L_law_500 (E : ax_EN G l) : ax_Snd G l ax_Ym M_L_law 500 (S_iload 4 502) := k_iload dL_law_500
theorem r_L_law_502 (E : ax_EN G l) : ax_Snd G l ax_Ym M_L_law 502 (S_push (.int (1)) 503) := k_iconst dL_law_502 rfl
theorem r_L_law_503 (E : ax_EN G l) : ax_Snd G l ax_Ym M_L_law 503 (S_i2 (fun x y => x + y) 504) := k_iadd dL_law_503
theorem r_L_law_504 (E : ax_EN G l) : ax_Snd G l ax_Ym M_L_law 504 (S_iald 0 505) := k_iald (en_F E) dL_law_504
theorem r_L_law_505 (E : ax_EN G l) : ax_Snd G l ax_Ym M_L_law 505 (S_aload 0 506) := k_aload_n dL_law_505 rfl
theorem r_L_law_506 (E : ax_EN G l) : ax_Snd G l ax_Ym M_L_law 506 (S_iload 4 508) := k_iload dL_law_506
theorem r_L_law_508 (E : ax_EN G l) : ax_Snd G l ax_Ym M_L_law 508 (S_push (.int (2)) 509) := k_iconst dL_law_508 rfl
theorem r_L_law_509 (E : ax_EN G l) : ax_Snd G l ax_Ym M_L_law 509 (S_i2 (fun x y => x + y) 510) := k_iadd dL_law_509
theorem r_L_law_510 (E : ax_EN G l) : ax_Snd G l ax_Ym M_L_law 510 (S_iald 0 511) := k_iald (en_F E) dL_law_510
theorem r_L_law_511 (E : ax_EN G l) : ax_Snd G l ax_Ym M_L_law 511 (S_aload 3 512) := k_aload_n dL_law_511 rfl
theorem r_L_law_512 (E : ax_EN G l) : ax_Snd G l ax_Ym M_L_law 512 (S_is 181 4 515 hd_0) := k_is (en_F E) (ax_ok0 E rfl) ((ev_sW y_X0_word q1803 q1804 q117 q1805 nm_X0_word (Nat.le_of_ble_eq_true rfl) dL_law_512) : ax_EvS G l ax_Ym M_L_law 512 181 4 3)
theorem r_L_law_515 (E : ax_EN G l) : ax_Snd G l ax_Ym M_L_law 515 (S_istore 5 517) := k_istore dL_law_515 (Nat.le_of_ble_eq_true rfl)
theorem r_L_law_517 (E : ax_EN G l) : ax_Snd G l ax_Ym M_L_law 517 (S_aload 2 518) := k_aload_n dL_law_517 rfl
theorem r_L_law_518 (E : ax_EN G l) : ax_Snd G l ax_Ym M_L_law 518 (S_aload 0 519) := k_aload_n dL_law_518 rfl
theorem r_L_law_519 (E : ax_EN G l) : ax_Snd G l ax_Ym M_L_law 519 (S_iload 4 521) := k_iload dL_law_519
theorem r_L_law_521 (E : ax_EN G l) : ax_Snd G l ax_Ym M_L_law 521 (S_push (.int (1)) 522) := k_iconst dL_law_521 rfl
theorem r_L_law_522 (E : ax_EN G l) : ax_Snd G l ax_Ym M_L_law 522 (S_i2 (fun x y => x + y) 523) := k_iadd dL_law_522
theorem r_L_law_523 (E : ax_EN G l) : ax_Snd G l ax_Ym M_L_law 523 (S_iald 0 524) := k_iald (en_F E) dL_law_523
theorem r_L_law_524 (E : ax_EN G l) : ax_Snd G l ax_Ym M_L_law 524 (S_aload 0 525) := k_aload_n dL_law_524 rfl
theorem r_L_law_525 (E : ax_EN G l) : ax_Snd G l ax_Ym M_L_law 525 (S_iload 4 527) := k_iload dL_law_525
theorem r_L_law_527 (E : ax_EN G l) : ax_Snd G l ax_Ym M_L_law 527 (S_push (.int (2)) 528) := k_iconst dL_law_527 rfl
theorem r_L_law_528 (E : ax_EN G l) : ax_Snd G l ax_Ym M_L_law 528 (S_i2 (fun x y => x + y) 529) := k_iadd dL_law_528
theorem r_L_law_529 (E : ax_EN G l) : ax_Snd G l ax_Ym M_L_law 529 (S_iald 0 530) := k_iald (en_F E) dL_law_529
theorem r_L_law_530 (E : ax_EN G l) : ax_Snd G l ax_Ym M_L_law 530 (S_iv [(38, 382)] 2 533 hd_0) := k_iv (en_F E) (ax_ok0 E rfl) (ax_Evs_cons ((ev_v (en_c E (k := 38) rfl) rfl y_X3_word q3015 q3016 q3017 q126 q3018 nm_X3_word (Nat.le_of_ble_eq_true rfl) dL_law_530) : ax_EvV G l ax_Ym M_L_law 530 2 3 38 382) ax_Evs_nil)
theorem r_L_law_533 (E : ax_EN G l) : ax_Snd G l ax_Ym M_L_law 533 (S_istore 6 535) := k_istore dL_law_533 (Nat.le_of_ble_eq_true rfl)
theorem r_L_law_535 (E : ax_EN G l) : ax_Snd G l ax_Ym M_L_law 535 (S_aload 2 536) := k_aload_n dL_law_535 rfl
theorem r_L_law_536 (E : ax_EN G l) : ax_Snd G l ax_Ym M_L_law 536 (S_iv [(38, 372)] 0 539 hd_0) := k_iv (en_F E) (ax_ok0 E rfl) (ax_Evs_cons ((ev_v (en_c E (k := 38) rfl) rfl y_X3_thrown q2976 q2977 q2978 q126 q2979 nm_X3_thrown (Nat.le_of_ble_eq_true rfl) dL_law_536) : ax_EvV G l ax_Ym M_L_law 536 0 3 38 372) ax_Evs_nil)
theorem r_L_law_539 (E : ax_EN G l) : ax_Snd G l ax_Ym M_L_law 539 (S_iload 5 541) := k_iload dL_law_539
theorem r_L_law_541 (E : ax_EN G l) : ax_Snd G l ax_Ym M_L_law 541 (S_if2 (fun x y => decide (x = y)) 546 544) := k_icmp_eq dL_law_541 rfl
theorem r_L_law_544 (E : ax_EN G l) : ax_Snd G l ax_Ym M_L_law 544 (S_push (.int (0)) 545) := k_iconst dL_law_544 rfl
theorem r_L_law_545 (E : ax_EN G l) : ax_Snd G l ax_Ym M_L_law 545 (S_zret) := k_zret dL_law_545 rfl
theorem r_L_law_546 (E : ax_EN G l) : ax_Snd G l ax_Ym M_L_law 546 (S_iload 5 548) := k_iload dL_law_546
theorem r_L_law_548 (E : ax_EN G l) : ax_Snd G l ax_Ym M_L_law 548 (S_if1 (fun x => decide (¬ x = 0)) 563 551) := k_if_ne dL_law_548 rfl
theorem r_L_law_551 (E : ax_EN G l) : ax_Snd G l ax_Ym M_L_law 551 (S_aload 3 552) := k_aload_n dL_law_551 rfl
theorem r_L_law_552 (E : ax_EN G l) : ax_Snd G l ax_Ym M_L_law 552 (S_push (.int (0)) 553) := k_iconst dL_law_552 rfl
theorem r_L_law_553 (E : ax_EN G l) : ax_Snd G l ax_Ym M_L_law 553 (S_lald 1 554) := k_lald (en_F E) dL_law_553
theorem r_L_law_554 (E : ax_EN G l) : ax_Snd G l ax_Ym M_L_law 554 (S_iload 6 556) := k_iload dL_law_554
theorem r_L_law_556 (E : ax_EN G l) : ax_Snd G l ax_Ym M_L_law 556 (S_i2l 557) := k_i2l dL_law_556
theorem r_L_law_557 (E : ax_EN G l) : ax_Snd G l ax_Ym M_L_law 557 (S_lcmp 558) := k_lcmp dL_law_557
theorem r_L_law_558 (E : ax_EN G l) : ax_Snd G l ax_Ym M_L_law 558 (S_if1 (fun x => decide (x = 0)) 563 561) := k_if_eq dL_law_558 rfl
theorem r_L_law_561 (E : ax_EN G l) : ax_Snd G l ax_Ym M_L_law 561 (S_push (.int (0)) 562) := k_iconst dL_law_561 rfl
theorem r_L_law_562 (E : ax_EN G l) : ax_Snd G l ax_Ym M_L_law 562 (S_zret) := k_zret dL_law_562 rfl
theorem r_L_law_563 (E : ax_EN G l) : ax_Snd G l ax_Ym M_L_law 563 (S_goto 2371) := k_goto dL_law_563 rfl
theorem r_L_law_566 (E : ax_EN G l) : ax_Snd G l ax_Ym M_L_law 566 (S_aload 1 567) := k_aload_n dL_law_566 rfl
theorem r_L_law_567 (E : ax_EN G l) : ax_Snd G l ax_Ym M_L_law 567 (S_aload 0 568) := k_aload_n dL_law_567 rfl
theorem r_L_law_568 (E : ax_EN G l) : ax_Snd G l ax_Ym M_L_law 568 (S_iload 4 570) := k_iload dL_law_568
theorem r_L_law_570 (E : ax_EN G l) : ax_Snd G l ax_Ym M_L_law 570 (S_push (.int (1)) 571) := k_iconst dL_law_570 rfl
theorem r_L_law_571 (E : ax_EN G l) : ax_Snd G l ax_Ym M_L_law 571 (S_i2 (fun x y => x + y) 572) := k_iadd dL_law_571
theorem r_L_law_572 (E : ax_EN G l) : ax_Snd G l ax_Ym M_L_law 572 (S_iald 0 573) := k_iald (en_F E) dL_law_572
theorem r_L_law_573 (E : ax_EN G l) : ax_Snd G l ax_Ym M_L_law 573 (S_aload 3 574) := k_aload_n dL_law_573 rfl
theorem r_L_law_574 (E : ax_EN G l) : ax_Snd G l ax_Ym M_L_law 574 (S_is 182 3 577 hd_0) := k_is (en_F E) (ax_ok0 E rfl) ((ev_sW y_X0_space q1823 q1824 q117 q1825 nm_X0_space (Nat.le_of_ble_eq_true rfl) dL_law_574) : ax_EvS G l ax_Ym M_L_law 574 182 3 3)
theorem r_L_law_577 (E : ax_EN G l) : ax_Snd G l ax_Ym M_L_law 577 (S_istore 5 579) := k_istore dL_law_577 (Nat.le_of_ble_eq_true rfl)
theorem r_L_law_579 (E : ax_EN G l) : ax_Snd G l ax_Ym M_L_law 579 (S_aload 2 580) := k_aload_n dL_law_579 rfl
theorem r_L_law_580 (E : ax_EN G l) : ax_Snd G l ax_Ym M_L_law 580 (S_aload 0 581) := k_aload_n dL_law_580 rfl
theorem r_L_law_581 (E : ax_EN G l) : ax_Snd G l ax_Ym M_L_law 581 (S_iload 4 583) := k_iload dL_law_581
theorem r_L_law_583 (E : ax_EN G l) : ax_Snd G l ax_Ym M_L_law 583 (S_push (.int (1)) 584) := k_iconst dL_law_583 rfl
theorem r_L_law_584 (E : ax_EN G l) : ax_Snd G l ax_Ym M_L_law 584 (S_i2 (fun x y => x + y) 585) := k_iadd dL_law_584
theorem r_L_law_585 (E : ax_EN G l) : ax_Snd G l ax_Ym M_L_law 585 (S_iald 0 586) := k_iald (en_F E) dL_law_585
theorem r_L_law_586 (E : ax_EN G l) : ax_Snd G l ax_Ym M_L_law 586 (S_iv [(38, 383)] 1 589 hd_0) := k_iv (en_F E) (ax_ok0 E rfl) (ax_Evs_cons ((ev_v (en_c E (k := 38) rfl) rfl y_X3_space q3019 q3020 q3021 q126 q3022 nm_X3_space (Nat.le_of_ble_eq_true rfl) dL_law_586) : ax_EvV G l ax_Ym M_L_law 586 1 3 38 383) ax_Evs_nil)
theorem r_L_law_589 (E : ax_EN G l) : ax_Snd G l ax_Ym M_L_law 589 (S_istore 6 591) := k_istore dL_law_589 (Nat.le_of_ble_eq_true rfl)
theorem r_L_law_591 (E : ax_EN G l) : ax_Snd G l ax_Ym M_L_law 591 (S_aload 2 592) := k_aload_n dL_law_591 rfl
theorem r_L_law_592 (E : ax_EN G l) : ax_Snd G l ax_Ym M_L_law 592 (S_iv [(38, 372)] 0 595 hd_0) := k_iv (en_F E) (ax_ok0 E rfl) (ax_Evs_cons ((ev_v (en_c E (k := 38) rfl) rfl y_X3_thrown q2976 q2977 q2978 q126 q2979 nm_X3_thrown (Nat.le_of_ble_eq_true rfl) dL_law_592) : ax_EvV G l ax_Ym M_L_law 592 0 3 38 372) ax_Evs_nil)
theorem r_L_law_595 (E : ax_EN G l) : ax_Snd G l ax_Ym M_L_law 595 (S_iload 5 597) := k_iload dL_law_595
theorem r_L_law_597 (E : ax_EN G l) : ax_Snd G l ax_Ym M_L_law 597 (S_if2 (fun x y => decide (x = y)) 602 600) := k_icmp_eq dL_law_597 rfl
theorem r_L_law_600 (E : ax_EN G l) : ax_Snd G l ax_Ym M_L_law 600 (S_push (.int (0)) 601) := k_iconst dL_law_600 rfl
theorem r_L_law_601 (E : ax_EN G l) : ax_Snd G l ax_Ym M_L_law 601 (S_zret) := k_zret dL_law_601 rfl
theorem r_L_law_602 (E : ax_EN G l) : ax_Snd G l ax_Ym M_L_law 602 (S_iload 5 604) := k_iload dL_law_602
theorem r_L_law_604 (E : ax_EN G l) : ax_Snd G l ax_Ym M_L_law 604 (S_if1 (fun x => decide (¬ x = 0)) 619 607) := k_if_ne dL_law_604 rfl
theorem r_L_law_607 (E : ax_EN G l) : ax_Snd G l ax_Ym M_L_law 607 (S_aload 3 608) := k_aload_n dL_law_607 rfl
theorem r_L_law_608 (E : ax_EN G l) : ax_Snd G l ax_Ym M_L_law 608 (S_push (.int (0)) 609) := k_iconst dL_law_608 rfl
theorem r_L_law_609 (E : ax_EN G l) : ax_Snd G l ax_Ym M_L_law 609 (S_lald 1 610) := k_lald (en_F E) dL_law_609
theorem r_L_law_610 (E : ax_EN G l) : ax_Snd G l ax_Ym M_L_law 610 (S_iload 6 612) := k_iload dL_law_610
theorem r_L_law_612 (E : ax_EN G l) : ax_Snd G l ax_Ym M_L_law 612 (S_i2l 613) := k_i2l dL_law_612
theorem r_L_law_613 (E : ax_EN G l) : ax_Snd G l ax_Ym M_L_law 613 (S_lcmp 614) := k_lcmp dL_law_613
theorem r_L_law_614 (E : ax_EN G l) : ax_Snd G l ax_Ym M_L_law 614 (S_if1 (fun x => decide (x = 0)) 619 617) := k_if_eq dL_law_614 rfl
theorem r_L_law_617 (E : ax_EN G l) : ax_Snd G l ax_Ym M_L_law 617 (S_push (.int (0)) 618) := k_iconst dL_law_617 rfl
theorem r_L_law_618 (E : ax_EN G l) : ax_Snd G l ax_Ym M_L_law 618 (S_zret) := k_zret dL_law_618 rfl
theorem r_L_law_619 (E : ax_EN G l) : ax_Snd G l ax_Ym M_L_law 619 (S_goto 2371) := k_goto dL_law_619 rfl
theorem r_L_law_622 (E : ax_EN G l) : ax_Snd G l ax_Ym M_L_law 622 (S_aload 1 623) := k_aload_n dL_law_622 rfl
theorem r_L_law_623 (E : ax_EN G l) : ax_Snd G l ax_Ym M_L_law 623 (S_aload 0 624) := k_aload_n dL_law_623 rfl
theorem r_L_law_624 (E : ax_EN G l) : ax_Snd G l ax_Ym M_L_law 624 (S_iload 4 626) := k_iload dL_law_624
theorem r_L_law_626 (E : ax_EN G l) : ax_Snd G l ax_Ym M_L_law 626 (S_push (.int (1)) 627) := k_iconst dL_law_626 rfl
theorem r_L_law_627 (E : ax_EN G l) : ax_Snd G l ax_Ym M_L_law 627 (S_i2 (fun x y => x + y) 628) := k_iadd dL_law_627
theorem r_L_law_628 (E : ax_EN G l) : ax_Snd G l ax_Ym M_L_law 628 (S_iald 0 629) := k_iald (en_F E) dL_law_628
theorem r_L_law_629 (E : ax_EN G l) : ax_Snd G l ax_Ym M_L_law 629 (S_aload 0 630) := k_aload_n dL_law_629 rfl
theorem r_L_law_630 (E : ax_EN G l) : ax_Snd G l ax_Ym M_L_law 630 (S_iload 4 632) := k_iload dL_law_630
theorem r_L_law_632 (E : ax_EN G l) : ax_Snd G l ax_Ym M_L_law 632 (S_push (.int (2)) 633) := k_iconst dL_law_632 rfl
theorem r_L_law_633 (E : ax_EN G l) : ax_Snd G l ax_Ym M_L_law 633 (S_i2 (fun x y => x + y) 634) := k_iadd dL_law_633
theorem r_L_law_634 (E : ax_EN G l) : ax_Snd G l ax_Ym M_L_law 634 (S_iald 0 635) := k_iald (en_F E) dL_law_634
theorem r_L_law_635 (E : ax_EN G l) : ax_Snd G l ax_Ym M_L_law 635 (S_aload 0 636) := k_aload_n dL_law_635 rfl
theorem r_L_law_636 (E : ax_EN G l) : ax_Snd G l ax_Ym M_L_law 636 (S_iload 4 638) := k_iload dL_law_636
theorem r_L_law_638 (E : ax_EN G l) : ax_Snd G l ax_Ym M_L_law 638 (S_push (.int (3)) 639) := k_iconst dL_law_638 rfl
theorem r_L_law_639 (E : ax_EN G l) : ax_Snd G l ax_Ym M_L_law 639 (S_i2 (fun x y => x + y) 640) := k_iadd dL_law_639
theorem r_L_law_640 (E : ax_EN G l) : ax_Snd G l ax_Ym M_L_law 640 (S_iald 0 641) := k_iald (en_F E) dL_law_640
theorem r_L_law_641 (E : ax_EN G l) : ax_Snd G l ax_Ym M_L_law 641 (S_aload 3 642) := k_aload_n dL_law_641 rfl
theorem r_L_law_642 (E : ax_EN G l) : ax_Snd G l ax_Ym M_L_law 642 (S_is 183 5 645 hd_0) := k_is (en_F E) (ax_ok0 E rfl) ((ev_sW y_X0_vector q1843 q1844 q117 q1845 nm_X0_vector (Nat.le_of_ble_eq_true rfl) dL_law_642) : ax_EvS G l ax_Ym M_L_law 642 183 5 3)
theorem r_L_law_645 (E : ax_EN G l) : ax_Snd G l ax_Ym M_L_law 645 (S_istore 5 647) := k_istore dL_law_645 (Nat.le_of_ble_eq_true rfl)
theorem r_L_law_647 (E : ax_EN G l) : ax_Snd G l ax_Ym M_L_law 647 (S_aload 2 648) := k_aload_n dL_law_647 rfl
theorem r_L_law_648 (E : ax_EN G l) : ax_Snd G l ax_Ym M_L_law 648 (S_aload 0 649) := k_aload_n dL_law_648 rfl
theorem r_L_law_649 (E : ax_EN G l) : ax_Snd G l ax_Ym M_L_law 649 (S_iload 4 651) := k_iload dL_law_649
theorem r_L_law_651 (E : ax_EN G l) : ax_Snd G l ax_Ym M_L_law 651 (S_push (.int (1)) 652) := k_iconst dL_law_651 rfl
theorem r_L_law_652 (E : ax_EN G l) : ax_Snd G l ax_Ym M_L_law 652 (S_i2 (fun x y => x + y) 653) := k_iadd dL_law_652
theorem r_L_law_653 (E : ax_EN G l) : ax_Snd G l ax_Ym M_L_law 653 (S_iald 0 654) := k_iald (en_F E) dL_law_653
theorem r_L_law_654 (E : ax_EN G l) : ax_Snd G l ax_Ym M_L_law 654 (S_aload 0 655) := k_aload_n dL_law_654 rfl
theorem r_L_law_655 (E : ax_EN G l) : ax_Snd G l ax_Ym M_L_law 655 (S_iload 4 657) := k_iload dL_law_655
theorem r_L_law_657 (E : ax_EN G l) : ax_Snd G l ax_Ym M_L_law 657 (S_push (.int (2)) 658) := k_iconst dL_law_657 rfl
theorem r_L_law_658 (E : ax_EN G l) : ax_Snd G l ax_Ym M_L_law 658 (S_i2 (fun x y => x + y) 659) := k_iadd dL_law_658
theorem r_L_law_659 (E : ax_EN G l) : ax_Snd G l ax_Ym M_L_law 659 (S_iald 0 660) := k_iald (en_F E) dL_law_659
theorem r_L_law_660 (E : ax_EN G l) : ax_Snd G l ax_Ym M_L_law 660 (S_aload 0 661) := k_aload_n dL_law_660 rfl
theorem r_L_law_661 (E : ax_EN G l) : ax_Snd G l ax_Ym M_L_law 661 (S_iload 4 663) := k_iload dL_law_661
theorem r_L_law_663 (E : ax_EN G l) : ax_Snd G l ax_Ym M_L_law 663 (S_push (.int (3)) 664) := k_iconst dL_law_663 rfl
theorem r_L_law_664 (E : ax_EN G l) : ax_Snd G l ax_Ym M_L_law 664 (S_i2 (fun x y => x + y) 665) := k_iadd dL_law_664
theorem r_L_law_665 (E : ax_EN G l) : ax_Snd G l ax_Ym M_L_law 665 (S_iald 0 666) := k_iald (en_F E) dL_law_665
theorem r_L_law_666 (E : ax_EN G l) : ax_Snd G l ax_Ym M_L_law 666 (S_iv [(38, 384)] 3 669 hd_0) := k_iv (en_F E) (ax_ok0 E rfl) (ax_Evs_cons ((ev_v (en_c E (k := 38) rfl) rfl y_X3_vector q3023 q3024 q3025 q126 q3026 nm_X3_vector (Nat.le_of_ble_eq_true rfl) dL_law_666) : ax_EvV G l ax_Ym M_L_law 666 3 3 38 384) ax_Evs_nil)
theorem r_L_law_669 (E : ax_EN G l) : ax_Snd G l ax_Ym M_L_law 669 (S_istore 6 671) := k_istore dL_law_669 (Nat.le_of_ble_eq_true rfl)
theorem r_L_law_671 (E : ax_EN G l) : ax_Snd G l ax_Ym M_L_law 671 (S_aload 2 672) := k_aload_n dL_law_671 rfl
theorem r_L_law_672 (E : ax_EN G l) : ax_Snd G l ax_Ym M_L_law 672 (S_iv [(38, 372)] 0 675 hd_0) := k_iv (en_F E) (ax_ok0 E rfl) (ax_Evs_cons ((ev_v (en_c E (k := 38) rfl) rfl y_X3_thrown q2976 q2977 q2978 q126 q2979 nm_X3_thrown (Nat.le_of_ble_eq_true rfl) dL_law_672) : ax_EvV G l ax_Ym M_L_law 672 0 3 38 372) ax_Evs_nil)
theorem r_L_law_675 (E : ax_EN G l) : ax_Snd G l ax_Ym M_L_law 675 (S_iload 5 677) := k_iload dL_law_675
theorem r_L_law_677 (E : ax_EN G l) : ax_Snd G l ax_Ym M_L_law 677 (S_if2 (fun x y => decide (x = y)) 682 680) := k_icmp_eq dL_law_677 rfl
theorem r_L_law_680 (E : ax_EN G l) : ax_Snd G l ax_Ym M_L_law 680 (S_push (.int (0)) 681) := k_iconst dL_law_680 rfl
theorem r_L_law_681 (E : ax_EN G l) : ax_Snd G l ax_Ym M_L_law 681 (S_zret) := k_zret dL_law_681 rfl
theorem r_L_law_682 (E : ax_EN G l) : ax_Snd G l ax_Ym M_L_law 682 (S_iload 5 684) := k_iload dL_law_682
theorem r_L_law_684 (E : ax_EN G l) : ax_Snd G l ax_Ym M_L_law 684 (S_if1 (fun x => decide (¬ x = 0)) 699 687) := k_if_ne dL_law_684 rfl
theorem r_L_law_687 (E : ax_EN G l) : ax_Snd G l ax_Ym M_L_law 687 (S_aload 3 688) := k_aload_n dL_law_687 rfl
theorem r_L_law_688 (E : ax_EN G l) : ax_Snd G l ax_Ym M_L_law 688 (S_push (.int (0)) 689) := k_iconst dL_law_688 rfl
theorem r_L_law_689 (E : ax_EN G l) : ax_Snd G l ax_Ym M_L_law 689 (S_lald 1 690) := k_lald (en_F E) dL_law_689
theorem r_L_law_690 (E : ax_EN G l) : ax_Snd G l ax_Ym M_L_law 690 (S_iload 6 692) := k_iload dL_law_690
theorem r_L_law_692 (E : ax_EN G l) : ax_Snd G l ax_Ym M_L_law 692 (S_i2l 693) := k_i2l dL_law_692
theorem r_L_law_693 (E : ax_EN G l) : ax_Snd G l ax_Ym M_L_law 693 (S_lcmp 694) := k_lcmp dL_law_693
theorem r_L_law_694 (E : ax_EN G l) : ax_Snd G l ax_Ym M_L_law 694 (S_if1 (fun x => decide (x = 0)) 699 697) := k_if_eq dL_law_694 rfl
theorem r_L_law_697 (E : ax_EN G l) : ax_Snd G l ax_Ym M_L_law 697 (S_push (.int (0)) 698) := k_iconst dL_law_697 rfl
theorem r_L_law_698 (E : ax_EN G l) : ax_Snd G l ax_Ym M_L_law 698 (S_zret) := k_zret dL_law_698 rfl
theorem r_L_law_699 (E : ax_EN G l) : ax_Snd G l ax_Ym M_L_law 699 (S_goto 2371) := k_goto dL_law_699 rfl
theorem r_L_law_702 (E : ax_EN G l) : ax_Snd G l ax_Ym M_L_law 702 (S_aload 1 703) := k_aload_n dL_law_702 rfl
theorem r_L_law_703 (E : ax_EN G l) : ax_Snd G l ax_Ym M_L_law 703 (S_aload 0 704) := k_aload_n dL_law_703 rfl
theorem r_L_law_704 (E : ax_EN G l) : ax_Snd G l ax_Ym M_L_law 704 (S_iload 4 706) := k_iload dL_law_704
theorem r_L_law_706 (E : ax_EN G l) : ax_Snd G l ax_Ym M_L_law 706 (S_push (.int (1)) 707) := k_iconst dL_law_706 rfl
theorem r_L_law_707 (E : ax_EN G l) : ax_Snd G l ax_Ym M_L_law 707 (S_i2 (fun x y => x + y) 708) := k_iadd dL_law_707
theorem r_L_law_708 (E : ax_EN G l) : ax_Snd G l ax_Ym M_L_law 708 (S_iald 0 709) := k_iald (en_F E) dL_law_708
theorem r_L_law_709 (E : ax_EN G l) : ax_Snd G l ax_Ym M_L_law 709 (S_aload 3 710) := k_aload_n dL_law_709 rfl
theorem r_L_law_710 (E : ax_EN G l) : ax_Snd G l ax_Ym M_L_law 710 (S_is 184 3 713 hd_0) := k_is (en_F E) (ax_ok0 E rfl) ((ev_sW y_X0_macro q1866 q1867 q117 q1868 nm_X0_macro (Nat.le_of_ble_eq_true rfl) dL_law_710) : ax_EvS G l ax_Ym M_L_law 710 184 3 3)
theorem r_L_law_713 (E : ax_EN G l) : ax_Snd G l ax_Ym M_L_law 713 (S_istore 5 715) := k_istore dL_law_713 (Nat.le_of_ble_eq_true rfl)
theorem r_L_law_715 (E : ax_EN G l) : ax_Snd G l ax_Ym M_L_law 715 (S_aload 2 716) := k_aload_n dL_law_715 rfl
theorem r_L_law_716 (E : ax_EN G l) : ax_Snd G l ax_Ym M_L_law 716 (S_aload 0 717) := k_aload_n dL_law_716 rfl
theorem r_L_law_717 (E : ax_EN G l) : ax_Snd G l ax_Ym M_L_law 717 (S_iload 4 719) := k_iload dL_law_717
theorem r_L_law_719 (E : ax_EN G l) : ax_Snd G l ax_Ym M_L_law 719 (S_push (.int (1)) 720) := k_iconst dL_law_719 rfl
theorem r_L_law_720 (E : ax_EN G l) : ax_Snd G l ax_Ym M_L_law 720 (S_i2 (fun x y => x + y) 721) := k_iadd dL_law_720
theorem r_L_law_721 (E : ax_EN G l) : ax_Snd G l ax_Ym M_L_law 721 (S_iald 0 722) := k_iald (en_F E) dL_law_721
theorem r_L_law_722 (E : ax_EN G l) : ax_Snd G l ax_Ym M_L_law 722 (S_iv [(38, 385)] 1 725 hd_0) := k_iv (en_F E) (ax_ok0 E rfl) (ax_Evs_cons ((ev_v (en_c E (k := 38) rfl) rfl y_X3_macro q3027 q3028 q3029 q126 q3030 nm_X3_macro (Nat.le_of_ble_eq_true rfl) dL_law_722) : ax_EvV G l ax_Ym M_L_law 722 1 3 38 385) ax_Evs_nil)
theorem r_L_law_725 (E : ax_EN G l) : ax_Snd G l ax_Ym M_L_law 725 (S_istore 6 727) := k_istore dL_law_725 (Nat.le_of_ble_eq_true rfl)
theorem r_L_law_727 (E : ax_EN G l) : ax_Snd G l ax_Ym M_L_law 727 (S_aload 2 728) := k_aload_n dL_law_727 rfl
theorem r_L_law_728 (E : ax_EN G l) : ax_Snd G l ax_Ym M_L_law 728 (S_iv [(38, 372)] 0 731 hd_0) := k_iv (en_F E) (ax_ok0 E rfl) (ax_Evs_cons ((ev_v (en_c E (k := 38) rfl) rfl y_X3_thrown q2976 q2977 q2978 q126 q2979 nm_X3_thrown (Nat.le_of_ble_eq_true rfl) dL_law_728) : ax_EvV G l ax_Ym M_L_law 728 0 3 38 372) ax_Evs_nil)
theorem r_L_law_731 (E : ax_EN G l) : ax_Snd G l ax_Ym M_L_law 731 (S_iload 5 733) := k_iload dL_law_731
theorem r_L_law_733 (E : ax_EN G l) : ax_Snd G l ax_Ym M_L_law 733 (S_if2 (fun x y => decide (x = y)) 738 736) := k_icmp_eq dL_law_733 rfl
theorem r_L_law_736 (E : ax_EN G l) : ax_Snd G l ax_Ym M_L_law 736 (S_push (.int (0)) 737) := k_iconst dL_law_736 rfl
theorem r_L_law_737 (E : ax_EN G l) : ax_Snd G l ax_Ym M_L_law 737 (S_zret) := k_zret dL_law_737 rfl
theorem r_L_law_738 (E : ax_EN G l) : ax_Snd G l ax_Ym M_L_law 738 (S_iload 5 740) := k_iload dL_law_738
theorem r_L_law_740 (E : ax_EN G l) : ax_Snd G l ax_Ym M_L_law 740 (S_if1 (fun x => decide (¬ x = 0)) 755 743) := k_if_ne dL_law_740 rfl
theorem r_L_law_743 (E : ax_EN G l) : ax_Snd G l ax_Ym M_L_law 743 (S_aload 3 744) := k_aload_n dL_law_743 rfl
theorem r_L_law_744 (E : ax_EN G l) : ax_Snd G l ax_Ym M_L_law 744 (S_push (.int (0)) 745) := k_iconst dL_law_744 rfl
theorem r_L_law_745 (E : ax_EN G l) : ax_Snd G l ax_Ym M_L_law 745 (S_lald 1 746) := k_lald (en_F E) dL_law_745
theorem r_L_law_746 (E : ax_EN G l) : ax_Snd G l ax_Ym M_L_law 746 (S_iload 6 748) := k_iload dL_law_746
theorem r_L_law_748 (E : ax_EN G l) : ax_Snd G l ax_Ym M_L_law 748 (S_i2l 749) := k_i2l dL_law_748
theorem r_L_law_749 (E : ax_EN G l) : ax_Snd G l ax_Ym M_L_law 749 (S_lcmp 750) := k_lcmp dL_law_749
theorem r_L_law_750 (E : ax_EN G l) : ax_Snd G l ax_Ym M_L_law 750 (S_if1 (fun x => decide (x = 0)) 755 753) := k_if_eq dL_law_750 rfl
theorem r_L_law_753 (E : ax_EN G l) : ax_Snd G l ax_Ym M_L_law 753 (S_push (.int (0)) 754) := k_iconst dL_law_753 rfl
theorem r_L_law_754 (E : ax_EN G l) : ax_Snd G l ax_Ym M_L_law 754 (S_zret) := k_zret dL_law_754 rfl
theorem r_L_law_755 (E : ax_EN G l) : ax_Snd G l ax_Ym M_L_law 755 (S_goto 2371) := k_goto dL_law_755 rfl
theorem r_L_law_758 (E : ax_EN G l) : ax_Snd G l ax_Ym M_L_law 758 (S_aload 1 759) := k_aload_n dL_law_758 rfl
theorem r_L_law_759 (E : ax_EN G l) : ax_Snd G l ax_Ym M_L_law 759 (S_aload 3 760) := k_aload_n dL_law_759 rfl
theorem r_L_law_760 (E : ax_EN G l) : ax_Snd G l ax_Ym M_L_law 760 (S_is 185 2 763 hd_0) := k_is (en_F E) (ax_ok0 E rfl) ((ev_sW y_X0_endMacro q1886 q1887 q117 q1888 nm_X0_endMacro (Nat.le_of_ble_eq_true rfl) dL_law_760) : ax_EvS G l ax_Ym M_L_law 760 185 2 3)
theorem r_L_law_763 (E : ax_EN G l) : ax_Snd G l ax_Ym M_L_law 763 (S_istore 5 765) := k_istore dL_law_763 (Nat.le_of_ble_eq_true rfl)
theorem r_L_law_765 (E : ax_EN G l) : ax_Snd G l ax_Ym M_L_law 765 (S_aload 2 766) := k_aload_n dL_law_765 rfl
theorem r_L_law_766 (E : ax_EN G l) : ax_Snd G l ax_Ym M_L_law 766 (S_iv [(38, 386)] 0 769 hd_0) := k_iv (en_F E) (ax_ok0 E rfl) (ax_Evs_cons ((ev_v (en_c E (k := 38) rfl) rfl y_X3_endMacro q3031 q3032 q3033 q126 q3034 nm_X3_endMacro (Nat.le_of_ble_eq_true rfl) dL_law_766) : ax_EvV G l ax_Ym M_L_law 766 0 3 38 386) ax_Evs_nil)
theorem r_L_law_769 (E : ax_EN G l) : ax_Snd G l ax_Ym M_L_law 769 (S_istore 6 771) := k_istore dL_law_769 (Nat.le_of_ble_eq_true rfl)
theorem r_L_law_771 (E : ax_EN G l) : ax_Snd G l ax_Ym M_L_law 771 (S_aload 2 772) := k_aload_n dL_law_771 rfl
theorem r_L_law_772 (E : ax_EN G l) : ax_Snd G l ax_Ym M_L_law 772 (S_iv [(38, 372)] 0 775 hd_0) := k_iv (en_F E) (ax_ok0 E rfl) (ax_Evs_cons ((ev_v (en_c E (k := 38) rfl) rfl y_X3_thrown q2976 q2977 q2978 q126 q2979 nm_X3_thrown (Nat.le_of_ble_eq_true rfl) dL_law_772) : ax_EvV G l ax_Ym M_L_law 772 0 3 38 372) ax_Evs_nil)
theorem r_L_law_775 (E : ax_EN G l) : ax_Snd G l ax_Ym M_L_law 775 (S_iload 5 777) := k_iload dL_law_775
theorem r_L_law_777 (E : ax_EN G l) : ax_Snd G l ax_Ym M_L_law 777 (S_if2 (fun x y => decide (x = y)) 782 780) := k_icmp_eq dL_law_777 rfl
theorem r_L_law_780 (E : ax_EN G l) : ax_Snd G l ax_Ym M_L_law 780 (S_push (.int (0)) 781) := k_iconst dL_law_780 rfl
theorem r_L_law_781 (E : ax_EN G l) : ax_Snd G l ax_Ym M_L_law 781 (S_zret) := k_zret dL_law_781 rfl
theorem r_L_law_782 (E : ax_EN G l) : ax_Snd G l ax_Ym M_L_law 782 (S_iload 5 784) := k_iload dL_law_782
theorem r_L_law_784 (E : ax_EN G l) : ax_Snd G l ax_Ym M_L_law 784 (S_if1 (fun x => decide (¬ x = 0)) 799 787) := k_if_ne dL_law_784 rfl
theorem r_L_law_787 (E : ax_EN G l) : ax_Snd G l ax_Ym M_L_law 787 (S_aload 3 788) := k_aload_n dL_law_787 rfl
theorem r_L_law_788 (E : ax_EN G l) : ax_Snd G l ax_Ym M_L_law 788 (S_push (.int (0)) 789) := k_iconst dL_law_788 rfl
theorem r_L_law_789 (E : ax_EN G l) : ax_Snd G l ax_Ym M_L_law 789 (S_lald 1 790) := k_lald (en_F E) dL_law_789
theorem r_L_law_790 (E : ax_EN G l) : ax_Snd G l ax_Ym M_L_law 790 (S_iload 6 792) := k_iload dL_law_790
theorem r_L_law_792 (E : ax_EN G l) : ax_Snd G l ax_Ym M_L_law 792 (S_i2l 793) := k_i2l dL_law_792
theorem r_L_law_793 (E : ax_EN G l) : ax_Snd G l ax_Ym M_L_law 793 (S_lcmp 794) := k_lcmp dL_law_793
theorem r_L_law_794 (E : ax_EN G l) : ax_Snd G l ax_Ym M_L_law 794 (S_if1 (fun x => decide (x = 0)) 799 797) := k_if_eq dL_law_794 rfl
theorem r_L_law_797 (E : ax_EN G l) : ax_Snd G l ax_Ym M_L_law 797 (S_push (.int (0)) 798) := k_iconst dL_law_797 rfl
theorem r_L_law_798 (E : ax_EN G l) : ax_Snd G l ax_Ym M_L_law 798 (S_zret) := k_zret dL_law_798 rfl
theorem r_L_law_799 (E : ax_EN G l) : ax_Snd G l ax_Ym M_L_law 799 (S_goto 2371) := k_goto dL_law_799 rfl
theorem r_L_law_802 (E : ax_EN G l) : ax_Snd G l ax_Ym M_L_law 802 (S_aload 1 803) := k_aload_n dL_law_802 rfl
theorem r_L_law_803 (E : ax_EN G l) : ax_Snd G l ax_Ym M_L_law 803 (S_aload 0 804) := k_aload_n dL_law_803 rfl
theorem r_L_law_804 (E : ax_EN G l) : ax_Snd G l ax_Ym M_L_law 804 (S_iload 4 806) := k_iload dL_law_804
theorem r_L_law_806 (E : ax_EN G l) : ax_Snd G l ax_Ym M_L_law 806 (S_push (.int (1)) 807) := k_iconst dL_law_806 rfl
theorem r_L_law_807 (E : ax_EN G l) : ax_Snd G l ax_Ym M_L_law 807 (S_i2 (fun x y => x + y) 808) := k_iadd dL_law_807
theorem r_L_law_808 (E : ax_EN G l) : ax_Snd G l ax_Ym M_L_law 808 (S_iald 0 809) := k_iald (en_F E) dL_law_808
theorem r_L_law_809 (E : ax_EN G l) : ax_Snd G l ax_Ym M_L_law 809 (S_aload 0 810) := k_aload_n dL_law_809 rfl
theorem r_L_law_810 (E : ax_EN G l) : ax_Snd G l ax_Ym M_L_law 810 (S_iload 4 812) := k_iload dL_law_810
theorem r_L_law_812 (E : ax_EN G l) : ax_Snd G l ax_Ym M_L_law 812 (S_push (.int (2)) 813) := k_iconst dL_law_812 rfl
theorem r_L_law_813 (E : ax_EN G l) : ax_Snd G l ax_Ym M_L_law 813 (S_i2 (fun x y => x + y) 814) := k_iadd dL_law_813
theorem r_L_law_814 (E : ax_EN G l) : ax_Snd G l ax_Ym M_L_law 814 (S_iald 0 815) := k_iald (en_F E) dL_law_814
theorem r_L_law_815 (E : ax_EN G l) : ax_Snd G l ax_Ym M_L_law 815 (S_aload 0 816) := k_aload_n dL_law_815 rfl
theorem r_L_law_816 (E : ax_EN G l) : ax_Snd G l ax_Ym M_L_law 816 (S_iload 4 818) := k_iload dL_law_816
theorem r_L_law_818 (E : ax_EN G l) : ax_Snd G l ax_Ym M_L_law 818 (S_push (.int (3)) 819) := k_iconst dL_law_818 rfl
theorem r_L_law_819 (E : ax_EN G l) : ax_Snd G l ax_Ym M_L_law 819 (S_i2 (fun x y => x + y) 820) := k_iadd dL_law_819
theorem r_L_law_820 (E : ax_EN G l) : ax_Snd G l ax_Ym M_L_law 820 (S_iald 0 821) := k_iald (en_F E) dL_law_820
theorem r_L_law_821 (E : ax_EN G l) : ax_Snd G l ax_Ym M_L_law 821 (S_aload 0 822) := k_aload_n dL_law_821 rfl
theorem r_L_law_822 (E : ax_EN G l) : ax_Snd G l ax_Ym M_L_law 822 (S_iload 4 824) := k_iload dL_law_822
theorem r_L_law_824 (E : ax_EN G l) : ax_Snd G l ax_Ym M_L_law 824 (S_push (.int (4)) 825) := k_iconst dL_law_824 rfl
theorem r_L_law_825 (E : ax_EN G l) : ax_Snd G l ax_Ym M_L_law 825 (S_i2 (fun x y => x + y) 826) := k_iadd dL_law_825
theorem r_L_law_826 (E : ax_EN G l) : ax_Snd G l ax_Ym M_L_law 826 (S_iald 0 827) := k_iald (en_F E) dL_law_826
theorem r_L_law_827 (E : ax_EN G l) : ax_Snd G l ax_Ym M_L_law 827 (S_aload 0 828) := k_aload_n dL_law_827 rfl
theorem r_L_law_828 (E : ax_EN G l) : ax_Snd G l ax_Ym M_L_law 828 (S_iload 4 830) := k_iload dL_law_828
theorem r_L_law_830 (E : ax_EN G l) : ax_Snd G l ax_Ym M_L_law 830 (S_push (.int (5)) 831) := k_iconst dL_law_830 rfl
theorem r_L_law_831 (E : ax_EN G l) : ax_Snd G l ax_Ym M_L_law 831 (S_i2 (fun x y => x + y) 832) := k_iadd dL_law_831
theorem r_L_law_832 (E : ax_EN G l) : ax_Snd G l ax_Ym M_L_law 832 (S_iald 0 833) := k_iald (en_F E) dL_law_832
theorem r_L_law_833 (E : ax_EN G l) : ax_Snd G l ax_Ym M_L_law 833 (S_aload 3 834) := k_aload_n dL_law_833 rfl
theorem r_L_law_834 (E : ax_EN G l) : ax_Snd G l ax_Ym M_L_law 834 (S_is 186 7 837 hd_0) := k_is (en_F E) (ax_ok0 E rfl) ((ev_sW y_X0_use q1903 q1904 q117 q1905 nm_X0_use (Nat.le_of_ble_eq_true rfl) dL_law_834) : ax_EvS G l ax_Ym M_L_law 834 186 7 3)
theorem r_L_law_837 (E : ax_EN G l) : ax_Snd G l ax_Ym M_L_law 837 (S_istore 5 839) := k_istore dL_law_837 (Nat.le_of_ble_eq_true rfl)
theorem r_L_law_839 (E : ax_EN G l) : ax_Snd G l ax_Ym M_L_law 839 (S_aload 2 840) := k_aload_n dL_law_839 rfl
theorem r_L_law_840 (E : ax_EN G l) : ax_Snd G l ax_Ym M_L_law 840 (S_aload 0 841) := k_aload_n dL_law_840 rfl
theorem r_L_law_841 (E : ax_EN G l) : ax_Snd G l ax_Ym M_L_law 841 (S_iload 4 843) := k_iload dL_law_841
theorem r_L_law_843 (E : ax_EN G l) : ax_Snd G l ax_Ym M_L_law 843 (S_push (.int (1)) 844) := k_iconst dL_law_843 rfl
theorem r_L_law_844 (E : ax_EN G l) : ax_Snd G l ax_Ym M_L_law 844 (S_i2 (fun x y => x + y) 845) := k_iadd dL_law_844
theorem r_L_law_845 (E : ax_EN G l) : ax_Snd G l ax_Ym M_L_law 845 (S_iald 0 846) := k_iald (en_F E) dL_law_845
theorem r_L_law_846 (E : ax_EN G l) : ax_Snd G l ax_Ym M_L_law 846 (S_aload 0 847) := k_aload_n dL_law_846 rfl
theorem r_L_law_847 (E : ax_EN G l) : ax_Snd G l ax_Ym M_L_law 847 (S_iload 4 849) := k_iload dL_law_847
theorem r_L_law_849 (E : ax_EN G l) : ax_Snd G l ax_Ym M_L_law 849 (S_push (.int (2)) 850) := k_iconst dL_law_849 rfl
theorem r_L_law_850 (E : ax_EN G l) : ax_Snd G l ax_Ym M_L_law 850 (S_i2 (fun x y => x + y) 851) := k_iadd dL_law_850
theorem r_L_law_851 (E : ax_EN G l) : ax_Snd G l ax_Ym M_L_law 851 (S_iald 0 852) := k_iald (en_F E) dL_law_851
theorem r_L_law_852 (E : ax_EN G l) : ax_Snd G l ax_Ym M_L_law 852 (S_aload 0 853) := k_aload_n dL_law_852 rfl
theorem r_L_law_853 (E : ax_EN G l) : ax_Snd G l ax_Ym M_L_law 853 (S_iload 4 855) := k_iload dL_law_853
theorem r_L_law_855 (E : ax_EN G l) : ax_Snd G l ax_Ym M_L_law 855 (S_push (.int (3)) 856) := k_iconst dL_law_855 rfl
theorem r_L_law_856 (E : ax_EN G l) : ax_Snd G l ax_Ym M_L_law 856 (S_i2 (fun x y => x + y) 857) := k_iadd dL_law_856
theorem r_L_law_857 (E : ax_EN G l) : ax_Snd G l ax_Ym M_L_law 857 (S_iald 0 858) := k_iald (en_F E) dL_law_857
theorem r_L_law_858 (E : ax_EN G l) : ax_Snd G l ax_Ym M_L_law 858 (S_aload 0 859) := k_aload_n dL_law_858 rfl
theorem r_L_law_859 (E : ax_EN G l) : ax_Snd G l ax_Ym M_L_law 859 (S_iload 4 861) := k_iload dL_law_859
theorem r_L_law_861 (E : ax_EN G l) : ax_Snd G l ax_Ym M_L_law 861 (S_push (.int (4)) 862) := k_iconst dL_law_861 rfl
theorem r_L_law_862 (E : ax_EN G l) : ax_Snd G l ax_Ym M_L_law 862 (S_i2 (fun x y => x + y) 863) := k_iadd dL_law_862
theorem r_L_law_863 (E : ax_EN G l) : ax_Snd G l ax_Ym M_L_law 863 (S_iald 0 864) := k_iald (en_F E) dL_law_863
theorem r_L_law_864 (E : ax_EN G l) : ax_Snd G l ax_Ym M_L_law 864 (S_aload 0 865) := k_aload_n dL_law_864 rfl
theorem r_L_law_865 (E : ax_EN G l) : ax_Snd G l ax_Ym M_L_law 865 (S_iload 4 867) := k_iload dL_law_865
theorem r_L_law_867 (E : ax_EN G l) : ax_Snd G l ax_Ym M_L_law 867 (S_push (.int (5)) 868) := k_iconst dL_law_867 rfl
theorem r_L_law_868 (E : ax_EN G l) : ax_Snd G l ax_Ym M_L_law 868 (S_i2 (fun x y => x + y) 869) := k_iadd dL_law_868
theorem r_L_law_869 (E : ax_EN G l) : ax_Snd G l ax_Ym M_L_law 869 (S_iald 0 870) := k_iald (en_F E) dL_law_869
theorem r_L_law_870 (E : ax_EN G l) : ax_Snd G l ax_Ym M_L_law 870 (S_iv [(38, 387)] 5 873 hd_0) := k_iv (en_F E) (ax_ok0 E rfl) (ax_Evs_cons ((ev_v (en_c E (k := 38) rfl) rfl y_X3_use q3035 q3036 q3037 q126 q3038 nm_X3_use (Nat.le_of_ble_eq_true rfl) dL_law_870) : ax_EvV G l ax_Ym M_L_law 870 5 3 38 387) ax_Evs_nil)
theorem r_L_law_873 (E : ax_EN G l) : ax_Snd G l ax_Ym M_L_law 873 (S_istore 6 875) := k_istore dL_law_873 (Nat.le_of_ble_eq_true rfl)
theorem r_L_law_875 (E : ax_EN G l) : ax_Snd G l ax_Ym M_L_law 875 (S_aload 2 876) := k_aload_n dL_law_875 rfl
theorem r_L_law_876 (E : ax_EN G l) : ax_Snd G l ax_Ym M_L_law 876 (S_iv [(38, 372)] 0 879 hd_0) := k_iv (en_F E) (ax_ok0 E rfl) (ax_Evs_cons ((ev_v (en_c E (k := 38) rfl) rfl y_X3_thrown q2976 q2977 q2978 q126 q2979 nm_X3_thrown (Nat.le_of_ble_eq_true rfl) dL_law_876) : ax_EvV G l ax_Ym M_L_law 876 0 3 38 372) ax_Evs_nil)
theorem r_L_law_879 (E : ax_EN G l) : ax_Snd G l ax_Ym M_L_law 879 (S_iload 5 881) := k_iload dL_law_879
theorem r_L_law_881 (E : ax_EN G l) : ax_Snd G l ax_Ym M_L_law 881 (S_if2 (fun x y => decide (x = y)) 886 884) := k_icmp_eq dL_law_881 rfl
theorem r_L_law_884 (E : ax_EN G l) : ax_Snd G l ax_Ym M_L_law 884 (S_push (.int (0)) 885) := k_iconst dL_law_884 rfl
theorem r_L_law_885 (E : ax_EN G l) : ax_Snd G l ax_Ym M_L_law 885 (S_zret) := k_zret dL_law_885 rfl
theorem r_L_law_886 (E : ax_EN G l) : ax_Snd G l ax_Ym M_L_law 886 (S_iload 5 888) := k_iload dL_law_886
theorem r_L_law_888 (E : ax_EN G l) : ax_Snd G l ax_Ym M_L_law 888 (S_if1 (fun x => decide (¬ x = 0)) 903 891) := k_if_ne dL_law_888 rfl
theorem r_L_law_891 (E : ax_EN G l) : ax_Snd G l ax_Ym M_L_law 891 (S_aload 3 892) := k_aload_n dL_law_891 rfl
theorem r_L_law_892 (E : ax_EN G l) : ax_Snd G l ax_Ym M_L_law 892 (S_push (.int (0)) 893) := k_iconst dL_law_892 rfl
theorem r_L_law_893 (E : ax_EN G l) : ax_Snd G l ax_Ym M_L_law 893 (S_lald 1 894) := k_lald (en_F E) dL_law_893
theorem r_L_law_894 (E : ax_EN G l) : ax_Snd G l ax_Ym M_L_law 894 (S_iload 6 896) := k_iload dL_law_894
theorem r_L_law_896 (E : ax_EN G l) : ax_Snd G l ax_Ym M_L_law 896 (S_i2l 897) := k_i2l dL_law_896
theorem r_L_law_897 (E : ax_EN G l) : ax_Snd G l ax_Ym M_L_law 897 (S_lcmp 898) := k_lcmp dL_law_897
theorem r_L_law_898 (E : ax_EN G l) : ax_Snd G l ax_Ym M_L_law 898 (S_if1 (fun x => decide (x = 0)) 903 901) := k_if_eq dL_law_898 rfl
theorem r_L_law_901 (E : ax_EN G l) : ax_Snd G l ax_Ym M_L_law 901 (S_push (.int (0)) 902) := k_iconst dL_law_901 rfl
theorem r_L_law_902 (E : ax_EN G l) : ax_Snd G l ax_Ym M_L_law 902 (S_zret) := k_zret dL_law_902 rfl
theorem r_L_law_903 (E : ax_EN G l) : ax_Snd G l ax_Ym M_L_law 903 (S_goto 2371) := k_goto dL_law_903 rfl
theorem r_L_law_906 (E : ax_EN G l) : ax_Snd G l ax_Ym M_L_law 906 (S_aload 1 907) := k_aload_n dL_law_906 rfl
theorem r_L_law_907 (E : ax_EN G l) : ax_Snd G l ax_Ym M_L_law 907 (S_iv [(19, 212)] 0 910 hd_0) := k_iv (en_F E) (ax_ok0 E rfl) (ax_Evs_cons ((ev_vW (en_c E (k := 19) rfl) rfl y_X1_error q379 q380 q381 q118 q382 nm_X1_error (Nat.le_of_ble_eq_true rfl) dL_law_907) : ax_EvV G l ax_Ym M_L_law 907 0 3 19 212) ax_Evs_nil)
theorem r_L_law_910 (E : ax_EN G l) : ax_Snd G l ax_Ym M_L_law 910 (S_aload 2 911) := k_aload_n dL_law_910 rfl
theorem r_L_law_911 (E : ax_EN G l) : ax_Snd G l ax_Ym M_L_law 911 (S_iv [(38, 388)] 0 914 hd_0) := k_iv (en_F E) (ax_ok0 E rfl) (ax_Evs_cons ((ev_v (en_c E (k := 38) rfl) rfl y_X3_error q3039 q3040 q3041 q126 q3042 nm_X3_error (Nat.le_of_ble_eq_true rfl) dL_law_911) : ax_EvV G l ax_Ym M_L_law 911 0 3 38 388) ax_Evs_nil)
theorem r_L_law_914 (E : ax_EN G l) : ax_Snd G l ax_Ym M_L_law 914 (S_if2 (fun x y => decide (x = y)) 2371 917) := k_icmp_eq dL_law_914 rfl
theorem r_L_law_917 (E : ax_EN G l) : ax_Snd G l ax_Ym M_L_law 917 (S_push (.int (0)) 918) := k_iconst dL_law_917 rfl
theorem r_L_law_918 (E : ax_EN G l) : ax_Snd G l ax_Ym M_L_law 918 (S_zret) := k_zret dL_law_918 rfl
theorem r_L_law_919 (E : ax_EN G l) : ax_Snd G l ax_Ym M_L_law 919 (S_aload 1 920) := k_aload_n dL_law_919 rfl
theorem r_L_law_920 (E : ax_EN G l) : ax_Snd G l ax_Ym M_L_law 920 (S_aload 3 921) := k_aload_n dL_law_920 rfl
theorem r_L_law_921 (E : ax_EN G l) : ax_Snd G l ax_Ym M_L_law 921 (S_is 187 2 924 hd_0) := k_is (en_F E) (ax_ok0 E rfl) ((ev_sW y_X0_assemble q1929 q1930 q117 q1931 nm_X0_assemble (Nat.le_of_ble_eq_true rfl) dL_law_921) : ax_EvS G l ax_Ym M_L_law 921 187 2 3)
theorem r_L_law_924 (E : ax_EN G l) : ax_Snd G l ax_Ym M_L_law 924 (S_istore 5 926) := k_istore dL_law_924 (Nat.le_of_ble_eq_true rfl)
theorem r_L_law_926 (E : ax_EN G l) : ax_Snd G l ax_Ym M_L_law 926 (S_aload 2 927) := k_aload_n dL_law_926 rfl
theorem r_L_law_927 (E : ax_EN G l) : ax_Snd G l ax_Ym M_L_law 927 (S_iv [(38, 402)] 0 930 hd_0) := k_iv (en_F E) (ax_ok0 E rfl) (ax_Evs_cons ((ev_v (en_c E (k := 38) rfl) rfl y_X3_assemble q3096 q3097 q3098 q126 q3099 nm_X3_assemble (Nat.le_of_ble_eq_true rfl) dL_law_927) : ax_EvV G l ax_Ym M_L_law 927 0 3 38 402) ax_Evs_nil)
theorem r_L_law_930 (E : ax_EN G l) : ax_Snd G l ax_Ym M_L_law 930 (S_istore 6 932) := k_istore dL_law_930 (Nat.le_of_ble_eq_true rfl)
theorem r_L_law_932 (E : ax_EN G l) : ax_Snd G l ax_Ym M_L_law 932 (S_aload 2 933) := k_aload_n dL_law_932 rfl
theorem r_L_law_933 (E : ax_EN G l) : ax_Snd G l ax_Ym M_L_law 933 (S_iv [(38, 372)] 0 936 hd_0) := k_iv (en_F E) (ax_ok0 E rfl) (ax_Evs_cons ((ev_v (en_c E (k := 38) rfl) rfl y_X3_thrown q2976 q2977 q2978 q126 q2979 nm_X3_thrown (Nat.le_of_ble_eq_true rfl) dL_law_933) : ax_EvV G l ax_Ym M_L_law 933 0 3 38 372) ax_Evs_nil)
theorem r_L_law_936 (E : ax_EN G l) : ax_Snd G l ax_Ym M_L_law 936 (S_iload 5 938) := k_iload dL_law_936
theorem r_L_law_938 (E : ax_EN G l) : ax_Snd G l ax_Ym M_L_law 938 (S_if2 (fun x y => decide (x = y)) 943 941) := k_icmp_eq dL_law_938 rfl
theorem r_L_law_941 (E : ax_EN G l) : ax_Snd G l ax_Ym M_L_law 941 (S_push (.int (0)) 942) := k_iconst dL_law_941 rfl
theorem r_L_law_942 (E : ax_EN G l) : ax_Snd G l ax_Ym M_L_law 942 (S_zret) := k_zret dL_law_942 rfl
theorem r_L_law_943 (E : ax_EN G l) : ax_Snd G l ax_Ym M_L_law 943 (S_iload 5 945) := k_iload dL_law_943
theorem r_L_law_945 (E : ax_EN G l) : ax_Snd G l ax_Ym M_L_law 945 (S_if1 (fun x => decide (¬ x = 0)) 960 948) := k_if_ne dL_law_945 rfl
theorem r_L_law_948 (E : ax_EN G l) : ax_Snd G l ax_Ym M_L_law 948 (S_aload 3 949) := k_aload_n dL_law_948 rfl
theorem r_L_law_949 (E : ax_EN G l) : ax_Snd G l ax_Ym M_L_law 949 (S_push (.int (0)) 950) := k_iconst dL_law_949 rfl
theorem r_L_law_950 (E : ax_EN G l) : ax_Snd G l ax_Ym M_L_law 950 (S_lald 1 951) := k_lald (en_F E) dL_law_950
theorem r_L_law_951 (E : ax_EN G l) : ax_Snd G l ax_Ym M_L_law 951 (S_iload 6 953) := k_iload dL_law_951
theorem r_L_law_953 (E : ax_EN G l) : ax_Snd G l ax_Ym M_L_law 953 (S_i2l 954) := k_i2l dL_law_953
theorem r_L_law_954 (E : ax_EN G l) : ax_Snd G l ax_Ym M_L_law 954 (S_lcmp 955) := k_lcmp dL_law_954
theorem r_L_law_955 (E : ax_EN G l) : ax_Snd G l ax_Ym M_L_law 955 (S_if1 (fun x => decide (x = 0)) 960 958) := k_if_eq dL_law_955 rfl
theorem r_L_law_958 (E : ax_EN G l) : ax_Snd G l ax_Ym M_L_law 958 (S_push (.int (0)) 959) := k_iconst dL_law_958 rfl
theorem r_L_law_959 (E : ax_EN G l) : ax_Snd G l ax_Ym M_L_law 959 (S_zret) := k_zret dL_law_959 rfl
theorem r_L_law_960 (E : ax_EN G l) : ax_Snd G l ax_Ym M_L_law 960 (S_goto 2371) := k_goto dL_law_960 rfl
theorem r_L_law_963 (E : ax_EN G l) : ax_Snd G l ax_Ym M_L_law 963 (S_aload 1 964) := k_aload_n dL_law_963 rfl
theorem r_L_law_964 (E : ax_EN G l) : ax_Snd G l ax_Ym M_L_law 964 (S_aload 0 965) := k_aload_n dL_law_964 rfl
theorem r_L_law_965 (E : ax_EN G l) : ax_Snd G l ax_Ym M_L_law 965 (S_iload 4 967) := k_iload dL_law_965
theorem r_L_law_967 (E : ax_EN G l) : ax_Snd G l ax_Ym M_L_law 967 (S_push (.int (1)) 968) := k_iconst dL_law_967 rfl
theorem r_L_law_968 (E : ax_EN G l) : ax_Snd G l ax_Ym M_L_law 968 (S_i2 (fun x y => x + y) 969) := k_iadd dL_law_968
theorem r_L_law_969 (E : ax_EN G l) : ax_Snd G l ax_Ym M_L_law 969 (S_iald 0 970) := k_iald (en_F E) dL_law_969
theorem r_L_law_970 (E : ax_EN G l) : ax_Snd G l ax_Ym M_L_law 970 (S_aload 3 971) := k_aload_n dL_law_970 rfl
theorem r_L_law_971 (E : ax_EN G l) : ax_Snd G l ax_Ym M_L_law 971 (S_is 188 3 974 hd_0) := k_is (en_F E) (ax_ok0 E rfl) ((ev_sW y_X0_image q1949 q1950 q117 q1951 nm_X0_image (Nat.le_of_ble_eq_true rfl) dL_law_971) : ax_EvS G l ax_Ym M_L_law 971 188 3 3)
theorem r_L_law_974 (E : ax_EN G l) : ax_Snd G l ax_Ym M_L_law 974 (S_istore 5 976) := k_istore dL_law_974 (Nat.le_of_ble_eq_true rfl)
theorem r_L_law_976 (E : ax_EN G l) : ax_Snd G l ax_Ym M_L_law 976 (S_aload 2 977) := k_aload_n dL_law_976 rfl
theorem r_L_law_977 (E : ax_EN G l) : ax_Snd G l ax_Ym M_L_law 977 (S_aload 0 978) := k_aload_n dL_law_977 rfl
theorem r_L_law_978 (E : ax_EN G l) : ax_Snd G l ax_Ym M_L_law 978 (S_iload 4 980) := k_iload dL_law_978
theorem r_L_law_980 (E : ax_EN G l) : ax_Snd G l ax_Ym M_L_law 980 (S_push (.int (1)) 981) := k_iconst dL_law_980 rfl
theorem r_L_law_981 (E : ax_EN G l) : ax_Snd G l ax_Ym M_L_law 981 (S_i2 (fun x y => x + y) 982) := k_iadd dL_law_981
theorem r_L_law_982 (E : ax_EN G l) : ax_Snd G l ax_Ym M_L_law 982 (S_iald 0 983) := k_iald (en_F E) dL_law_982
theorem r_L_law_983 (E : ax_EN G l) : ax_Snd G l ax_Ym M_L_law 983 (S_iv [(38, 403)] 1 986 hd_0) := k_iv (en_F E) (ax_ok0 E rfl) (ax_Evs_cons ((ev_v (en_c E (k := 38) rfl) rfl y_X3_image q3100 q3101 q3102 q126 q3103 nm_X3_image (Nat.le_of_ble_eq_true rfl) dL_law_983) : ax_EvV G l ax_Ym M_L_law 983 1 3 38 403) ax_Evs_nil)
theorem r_L_law_986 (E : ax_EN G l) : ax_Snd G l ax_Ym M_L_law 986 (S_istore 6 988) := k_istore dL_law_986 (Nat.le_of_ble_eq_true rfl)
theorem r_L_law_988 (E : ax_EN G l) : ax_Snd G l ax_Ym M_L_law 988 (S_aload 2 989) := k_aload_n dL_law_988 rfl
theorem r_L_law_989 (E : ax_EN G l) : ax_Snd G l ax_Ym M_L_law 989 (S_iv [(38, 372)] 0 992 hd_0) := k_iv (en_F E) (ax_ok0 E rfl) (ax_Evs_cons ((ev_v (en_c E (k := 38) rfl) rfl y_X3_thrown q2976 q2977 q2978 q126 q2979 nm_X3_thrown (Nat.le_of_ble_eq_true rfl) dL_law_989) : ax_EvV G l ax_Ym M_L_law 989 0 3 38 372) ax_Evs_nil)
theorem r_L_law_992 (E : ax_EN G l) : ax_Snd G l ax_Ym M_L_law 992 (S_iload 5 994) := k_iload dL_law_992
theorem r_L_law_994 (E : ax_EN G l) : ax_Snd G l ax_Ym M_L_law 994 (S_if2 (fun x y => decide (x = y)) 999 997) := k_icmp_eq dL_law_994 rfl
theorem r_L_law_997 (E : ax_EN G l) : ax_Snd G l ax_Ym M_L_law 997 (S_push (.int (0)) 998) := k_iconst dL_law_997 rfl
theorem r_L_law_998 (E : ax_EN G l) : ax_Snd G l ax_Ym M_L_law 998 (S_zret) := k_zret dL_law_998 rfl
theorem r_L_law_999 (E : ax_EN G l) : ax_Snd G l ax_Ym M_L_law 999 (S_iload 5 1001) := k_iload dL_law_999
theorem r_L_law_1001 (E : ax_EN G l) : ax_Snd G l ax_Ym M_L_law 1001 (S_if1 (fun x => decide (¬ x = 0)) 1016 1004) := k_if_ne dL_law_1001 rfl
theorem r_L_law_1004 (E : ax_EN G l) : ax_Snd G l ax_Ym M_L_law 1004 (S_aload 3 1005) := k_aload_n dL_law_1004 rfl
theorem r_L_law_1005 (E : ax_EN G l) : ax_Snd G l ax_Ym M_L_law 1005 (S_push (.int (0)) 1006) := k_iconst dL_law_1005 rfl
theorem r_L_law_1006 (E : ax_EN G l) : ax_Snd G l ax_Ym M_L_law 1006 (S_lald 1 1007) := k_lald (en_F E) dL_law_1006
theorem r_L_law_1007 (E : ax_EN G l) : ax_Snd G l ax_Ym M_L_law 1007 (S_iload 6 1009) := k_iload dL_law_1007
theorem r_L_law_1009 (E : ax_EN G l) : ax_Snd G l ax_Ym M_L_law 1009 (S_i2l 1010) := k_i2l dL_law_1009
theorem r_L_law_1010 (E : ax_EN G l) : ax_Snd G l ax_Ym M_L_law 1010 (S_lcmp 1011) := k_lcmp dL_law_1010
theorem r_L_law_1011 (E : ax_EN G l) : ax_Snd G l ax_Ym M_L_law 1011 (S_if1 (fun x => decide (x = 0)) 1016 1014) := k_if_eq dL_law_1011 rfl
theorem r_L_law_1014 (E : ax_EN G l) : ax_Snd G l ax_Ym M_L_law 1014 (S_push (.int (0)) 1015) := k_iconst dL_law_1014 rfl
theorem r_L_law_1015 (E : ax_EN G l) : ax_Snd G l ax_Ym M_L_law 1015 (S_zret) := k_zret dL_law_1015 rfl
theorem r_L_law_1016 (E : ax_EN G l) : ax_Snd G l ax_Ym M_L_law 1016 (S_goto 2371) := k_goto dL_law_1016 rfl
theorem r_L_law_1019 (E : ax_EN G l) : ax_Snd G l ax_Ym M_L_law 1019 (S_aload 1 1020) := k_aload_n dL_law_1019 rfl
theorem r_L_law_1020 (E : ax_EN G l) : ax_Snd G l ax_Ym M_L_law 1020 (S_aload 3 1021) := k_aload_n dL_law_1020 rfl
theorem r_L_law_1021 (E : ax_EN G l) : ax_Snd G l ax_Ym M_L_law 1021 (S_is 189 2 1024 hd_0) := k_is (en_F E) (ax_ok0 E rfl) ((ev_sW y_X0_start q1956 q1957 q117 q1958 nm_X0_start (Nat.le_of_ble_eq_true rfl) dL_law_1021) : ax_EvS G l ax_Ym M_L_law 1021 189 2 3)
theorem r_L_law_1024 (E : ax_EN G l) : ax_Snd G l ax_Ym M_L_law 1024 (S_istore 5 1026) := k_istore dL_law_1024 (Nat.le_of_ble_eq_true rfl)
theorem r_L_law_1026 (E : ax_EN G l) : ax_Snd G l ax_Ym M_L_law 1026 (S_aload 2 1027) := k_aload_n dL_law_1026 rfl
theorem r_L_law_1027 (E : ax_EN G l) : ax_Snd G l ax_Ym M_L_law 1027 (S_iv [(38, 404)] 0 1030 hd_0) := k_iv (en_F E) (ax_ok0 E rfl) (ax_Evs_cons ((ev_v (en_c E (k := 38) rfl) rfl y_X3_start q3104 q3105 q3106 q126 q3107 nm_X3_start (Nat.le_of_ble_eq_true rfl) dL_law_1027) : ax_EvV G l ax_Ym M_L_law 1027 0 3 38 404) ax_Evs_nil)
theorem r_L_law_1030 (E : ax_EN G l) : ax_Snd G l ax_Ym M_L_law 1030 (S_istore 6 1032) := k_istore dL_law_1030 (Nat.le_of_ble_eq_true rfl)
theorem r_L_law_1032 (E : ax_EN G l) : ax_Snd G l ax_Ym M_L_law 1032 (S_aload 2 1033) := k_aload_n dL_law_1032 rfl
theorem r_L_law_1033 (E : ax_EN G l) : ax_Snd G l ax_Ym M_L_law 1033 (S_iv [(38, 372)] 0 1036 hd_0) := k_iv (en_F E) (ax_ok0 E rfl) (ax_Evs_cons ((ev_v (en_c E (k := 38) rfl) rfl y_X3_thrown q2976 q2977 q2978 q126 q2979 nm_X3_thrown (Nat.le_of_ble_eq_true rfl) dL_law_1033) : ax_EvV G l ax_Ym M_L_law 1033 0 3 38 372) ax_Evs_nil)
theorem r_L_law_1036 (E : ax_EN G l) : ax_Snd G l ax_Ym M_L_law 1036 (S_iload 5 1038) := k_iload dL_law_1036
theorem r_L_law_1038 (E : ax_EN G l) : ax_Snd G l ax_Ym M_L_law 1038 (S_if2 (fun x y => decide (x = y)) 1043 1041) := k_icmp_eq dL_law_1038 rfl
theorem r_L_law_1041 (E : ax_EN G l) : ax_Snd G l ax_Ym M_L_law 1041 (S_push (.int (0)) 1042) := k_iconst dL_law_1041 rfl
theorem r_L_law_1042 (E : ax_EN G l) : ax_Snd G l ax_Ym M_L_law 1042 (S_zret) := k_zret dL_law_1042 rfl
theorem r_L_law_1043 (E : ax_EN G l) : ax_Snd G l ax_Ym M_L_law 1043 (S_iload 5 1045) := k_iload dL_law_1043
theorem r_L_law_1045 (E : ax_EN G l) : ax_Snd G l ax_Ym M_L_law 1045 (S_if1 (fun x => decide (¬ x = 0)) 1060 1048) := k_if_ne dL_law_1045 rfl
theorem r_L_law_1048 (E : ax_EN G l) : ax_Snd G l ax_Ym M_L_law 1048 (S_aload 3 1049) := k_aload_n dL_law_1048 rfl
theorem r_L_law_1049 (E : ax_EN G l) : ax_Snd G l ax_Ym M_L_law 1049 (S_push (.int (0)) 1050) := k_iconst dL_law_1049 rfl
theorem r_L_law_1050 (E : ax_EN G l) : ax_Snd G l ax_Ym M_L_law 1050 (S_lald 1 1051) := k_lald (en_F E) dL_law_1050
theorem r_L_law_1051 (E : ax_EN G l) : ax_Snd G l ax_Ym M_L_law 1051 (S_iload 6 1053) := k_iload dL_law_1051
theorem r_L_law_1053 (E : ax_EN G l) : ax_Snd G l ax_Ym M_L_law 1053 (S_i2l 1054) := k_i2l dL_law_1053
theorem r_L_law_1054 (E : ax_EN G l) : ax_Snd G l ax_Ym M_L_law 1054 (S_lcmp 1055) := k_lcmp dL_law_1054
theorem r_L_law_1055 (E : ax_EN G l) : ax_Snd G l ax_Ym M_L_law 1055 (S_if1 (fun x => decide (x = 0)) 1060 1058) := k_if_eq dL_law_1055 rfl
theorem r_L_law_1058 (E : ax_EN G l) : ax_Snd G l ax_Ym M_L_law 1058 (S_push (.int (0)) 1059) := k_iconst dL_law_1058 rfl
theorem r_L_law_1059 (E : ax_EN G l) : ax_Snd G l ax_Ym M_L_law 1059 (S_zret) := k_zret dL_law_1059 rfl
theorem r_L_law_1060 (E : ax_EN G l) : ax_Snd G l ax_Ym M_L_law 1060 (S_goto 2371) := k_goto dL_law_1060 rfl
theorem r_L_law_1063 (E : ax_EN G l) : ax_Snd G l ax_Ym M_L_law 1063 (S_aload 1 1064) := k_aload_n dL_law_1063 rfl
theorem r_L_law_1064 (E : ax_EN G l) : ax_Snd G l ax_Ym M_L_law 1064 (S_aload 3 1065) := k_aload_n dL_law_1064 rfl
theorem r_L_law_1065 (E : ax_EN G l) : ax_Snd G l ax_Ym M_L_law 1065 (S_is 190 2 1068 hd_0) := k_is (en_F E) (ax_ok0 E rfl) ((ev_sW y_X0_crash q1985 q1986 q117 q1987 nm_X0_crash (Nat.le_of_ble_eq_true rfl) dL_law_1065) : ax_EvS G l ax_Ym M_L_law 1065 190 2 3)
theorem r_L_law_1068 (E : ax_EN G l) : ax_Snd G l ax_Ym M_L_law 1068 (S_istore 5 1070) := k_istore dL_law_1068 (Nat.le_of_ble_eq_true rfl)
theorem r_L_law_1070 (E : ax_EN G l) : ax_Snd G l ax_Ym M_L_law 1070 (S_aload 2 1071) := k_aload_n dL_law_1070 rfl
theorem r_L_law_1071 (E : ax_EN G l) : ax_Snd G l ax_Ym M_L_law 1071 (S_iv [(38, 412)] 0 1074 hd_0) := k_iv (en_F E) (ax_ok0 E rfl) (ax_Evs_cons ((ev_v (en_c E (k := 38) rfl) rfl y_X3_crash q3135 q3136 q3137 q126 q3138 nm_X3_crash (Nat.le_of_ble_eq_true rfl) dL_law_1071) : ax_EvV G l ax_Ym M_L_law 1071 0 3 38 412) ax_Evs_nil)
theorem r_L_law_1074 (E : ax_EN G l) : ax_Snd G l ax_Ym M_L_law 1074 (S_istore 6 1076) := k_istore dL_law_1074 (Nat.le_of_ble_eq_true rfl)
theorem r_L_law_1076 (E : ax_EN G l) : ax_Snd G l ax_Ym M_L_law 1076 (S_aload 2 1077) := k_aload_n dL_law_1076 rfl
theorem r_L_law_1077 (E : ax_EN G l) : ax_Snd G l ax_Ym M_L_law 1077 (S_iv [(38, 372)] 0 1080 hd_0) := k_iv (en_F E) (ax_ok0 E rfl) (ax_Evs_cons ((ev_v (en_c E (k := 38) rfl) rfl y_X3_thrown q2976 q2977 q2978 q126 q2979 nm_X3_thrown (Nat.le_of_ble_eq_true rfl) dL_law_1077) : ax_EvV G l ax_Ym M_L_law 1077 0 3 38 372) ax_Evs_nil)
theorem r_L_law_1080 (E : ax_EN G l) : ax_Snd G l ax_Ym M_L_law 1080 (S_iload 5 1082) := k_iload dL_law_1080
theorem r_L_law_1082 (E : ax_EN G l) : ax_Snd G l ax_Ym M_L_law 1082 (S_if2 (fun x y => decide (x = y)) 1087 1085) := k_icmp_eq dL_law_1082 rfl
theorem r_L_law_1085 (E : ax_EN G l) : ax_Snd G l ax_Ym M_L_law 1085 (S_push (.int (0)) 1086) := k_iconst dL_law_1085 rfl
theorem r_L_law_1086 (E : ax_EN G l) : ax_Snd G l ax_Ym M_L_law 1086 (S_zret) := k_zret dL_law_1086 rfl
theorem r_L_law_1087 (E : ax_EN G l) : ax_Snd G l ax_Ym M_L_law 1087 (S_iload 5 1089) := k_iload dL_law_1087
theorem r_L_law_1089 (E : ax_EN G l) : ax_Snd G l ax_Ym M_L_law 1089 (S_if1 (fun x => decide (¬ x = 0)) 1104 1092) := k_if_ne dL_law_1089 rfl
theorem r_L_law_1092 (E : ax_EN G l) : ax_Snd G l ax_Ym M_L_law 1092 (S_aload 3 1093) := k_aload_n dL_law_1092 rfl
theorem r_L_law_1093 (E : ax_EN G l) : ax_Snd G l ax_Ym M_L_law 1093 (S_push (.int (0)) 1094) := k_iconst dL_law_1093 rfl
theorem r_L_law_1094 (E : ax_EN G l) : ax_Snd G l ax_Ym M_L_law 1094 (S_lald 1 1095) := k_lald (en_F E) dL_law_1094
theorem r_L_law_1095 (E : ax_EN G l) : ax_Snd G l ax_Ym M_L_law 1095 (S_iload 6 1097) := k_iload dL_law_1095
theorem r_L_law_1097 (E : ax_EN G l) : ax_Snd G l ax_Ym M_L_law 1097 (S_i2l 1098) := k_i2l dL_law_1097
theorem r_L_law_1098 (E : ax_EN G l) : ax_Snd G l ax_Ym M_L_law 1098 (S_lcmp 1099) := k_lcmp dL_law_1098
theorem r_L_law_1099 (E : ax_EN G l) : ax_Snd G l ax_Ym M_L_law 1099 (S_if1 (fun x => decide (x = 0)) 1104 1102) := k_if_eq dL_law_1099 rfl
theorem r_L_law_1102 (E : ax_EN G l) : ax_Snd G l ax_Ym M_L_law 1102 (S_push (.int (0)) 1103) := k_iconst dL_law_1102 rfl
theorem r_L_law_1103 (E : ax_EN G l) : ax_Snd G l ax_Ym M_L_law 1103 (S_zret) := k_zret dL_law_1103 rfl
theorem r_L_law_1104 (E : ax_EN G l) : ax_Snd G l ax_Ym M_L_law 1104 (S_goto 2371) := k_goto dL_law_1104 rfl
theorem r_L_law_1107 (E : ax_EN G l) : ax_Snd G l ax_Ym M_L_law 1107 (S_aload 1 1108) := k_aload_n dL_law_1107 rfl
theorem r_L_law_1108 (E : ax_EN G l) : ax_Snd G l ax_Ym M_L_law 1108 (S_aload 3 1109) := k_aload_n dL_law_1108 rfl
theorem r_L_law_1109 (E : ax_EN G l) : ax_Snd G l ax_Ym M_L_law 1109 (S_is 191 2 1112 hd_0) := k_is (en_F E) (ax_ok0 E rfl) ((ev_sW y_X0_format q2004 q2005 q117 q2006 nm_X0_format (Nat.le_of_ble_eq_true rfl) dL_law_1109) : ax_EvS G l ax_Ym M_L_law 1109 191 2 3)
theorem r_L_law_1112 (E : ax_EN G l) : ax_Snd G l ax_Ym M_L_law 1112 (S_istore 5 1114) := k_istore dL_law_1112 (Nat.le_of_ble_eq_true rfl)
theorem r_L_law_1114 (E : ax_EN G l) : ax_Snd G l ax_Ym M_L_law 1114 (S_aload 2 1115) := k_aload_n dL_law_1114 rfl
theorem r_L_law_1115 (E : ax_EN G l) : ax_Snd G l ax_Ym M_L_law 1115 (S_iv [(38, 413)] 0 1118 hd_0) := k_iv (en_F E) (ax_ok0 E rfl) (ax_Evs_cons ((ev_v (en_c E (k := 38) rfl) rfl y_X3_format q3139 q3140 q3141 q126 q3142 nm_X3_format (Nat.le_of_ble_eq_true rfl) dL_law_1115) : ax_EvV G l ax_Ym M_L_law 1115 0 3 38 413) ax_Evs_nil)
theorem r_L_law_1118 (E : ax_EN G l) : ax_Snd G l ax_Ym M_L_law 1118 (S_istore 6 1120) := k_istore dL_law_1118 (Nat.le_of_ble_eq_true rfl)
theorem r_L_law_1120 (E : ax_EN G l) : ax_Snd G l ax_Ym M_L_law 1120 (S_aload 2 1121) := k_aload_n dL_law_1120 rfl
theorem r_L_law_1121 (E : ax_EN G l) : ax_Snd G l ax_Ym M_L_law 1121 (S_iv [(38, 372)] 0 1124 hd_0) := k_iv (en_F E) (ax_ok0 E rfl) (ax_Evs_cons ((ev_v (en_c E (k := 38) rfl) rfl y_X3_thrown q2976 q2977 q2978 q126 q2979 nm_X3_thrown (Nat.le_of_ble_eq_true rfl) dL_law_1121) : ax_EvV G l ax_Ym M_L_law 1121 0 3 38 372) ax_Evs_nil)
theorem r_L_law_1124 (E : ax_EN G l) : ax_Snd G l ax_Ym M_L_law 1124 (S_iload 5 1126) := k_iload dL_law_1124
theorem r_L_law_1126 (E : ax_EN G l) : ax_Snd G l ax_Ym M_L_law 1126 (S_if2 (fun x y => decide (x = y)) 1131 1129) := k_icmp_eq dL_law_1126 rfl
theorem r_L_law_1129 (E : ax_EN G l) : ax_Snd G l ax_Ym M_L_law 1129 (S_push (.int (0)) 1130) := k_iconst dL_law_1129 rfl
theorem r_L_law_1130 (E : ax_EN G l) : ax_Snd G l ax_Ym M_L_law 1130 (S_zret) := k_zret dL_law_1130 rfl
theorem r_L_law_1131 (E : ax_EN G l) : ax_Snd G l ax_Ym M_L_law 1131 (S_iload 5 1133) := k_iload dL_law_1131
theorem r_L_law_1133 (E : ax_EN G l) : ax_Snd G l ax_Ym M_L_law 1133 (S_if1 (fun x => decide (¬ x = 0)) 1148 1136) := k_if_ne dL_law_1133 rfl
theorem r_L_law_1136 (E : ax_EN G l) : ax_Snd G l ax_Ym M_L_law 1136 (S_aload 3 1137) := k_aload_n dL_law_1136 rfl
theorem r_L_law_1137 (E : ax_EN G l) : ax_Snd G l ax_Ym M_L_law 1137 (S_push (.int (0)) 1138) := k_iconst dL_law_1137 rfl
theorem r_L_law_1138 (E : ax_EN G l) : ax_Snd G l ax_Ym M_L_law 1138 (S_lald 1 1139) := k_lald (en_F E) dL_law_1138
theorem r_L_law_1139 (E : ax_EN G l) : ax_Snd G l ax_Ym M_L_law 1139 (S_iload 6 1141) := k_iload dL_law_1139
theorem r_L_law_1141 (E : ax_EN G l) : ax_Snd G l ax_Ym M_L_law 1141 (S_i2l 1142) := k_i2l dL_law_1141
theorem r_L_law_1142 (E : ax_EN G l) : ax_Snd G l ax_Ym M_L_law 1142 (S_lcmp 1143) := k_lcmp dL_law_1142
theorem r_L_law_1143 (E : ax_EN G l) : ax_Snd G l ax_Ym M_L_law 1143 (S_if1 (fun x => decide (x = 0)) 1148 1146) := k_if_eq dL_law_1143 rfl
theorem r_L_law_1146 (E : ax_EN G l) : ax_Snd G l ax_Ym M_L_law 1146 (S_push (.int (0)) 1147) := k_iconst dL_law_1146 rfl
theorem r_L_law_1147 (E : ax_EN G l) : ax_Snd G l ax_Ym M_L_law 1147 (S_zret) := k_zret dL_law_1147 rfl
theorem r_L_law_1148 (E : ax_EN G l) : ax_Snd G l ax_Ym M_L_law 1148 (S_goto 2371) := k_goto dL_law_1148 rfl
theorem r_L_law_1151 (E : ax_EN G l) : ax_Snd G l ax_Ym M_L_law 1151 (S_aload 1 1152) := k_aload_n dL_law_1151 rfl
theorem r_L_law_1152 (E : ax_EN G l) : ax_Snd G l ax_Ym M_L_law 1152 (S_aload 0 1153) := k_aload_n dL_law_1152 rfl
theorem r_L_law_1153 (E : ax_EN G l) : ax_Snd G l ax_Ym M_L_law 1153 (S_iload 4 1155) := k_iload dL_law_1153
theorem r_L_law_1155 (E : ax_EN G l) : ax_Snd G l ax_Ym M_L_law 1155 (S_push (.int (1)) 1156) := k_iconst dL_law_1155 rfl
theorem r_L_law_1156 (E : ax_EN G l) : ax_Snd G l ax_Ym M_L_law 1156 (S_i2 (fun x y => x + y) 1157) := k_iadd dL_law_1156
theorem r_L_law_1157 (E : ax_EN G l) : ax_Snd G l ax_Ym M_L_law 1157 (S_iald 0 1158) := k_iald (en_F E) dL_law_1157
theorem r_L_law_1158 (E : ax_EN G l) : ax_Snd G l ax_Ym M_L_law 1158 (S_aload 3 1159) := k_aload_n dL_law_1158 rfl
theorem r_L_law_1159 (E : ax_EN G l) : ax_Snd G l ax_Ym M_L_law 1159 (S_is 192 3 1162 hd_0) := k_is (en_F E) (ax_ok0 E rfl) ((ev_sW y_X0_step q2013 q2014 q117 q2015 nm_X0_step (Nat.le_of_ble_eq_true rfl) dL_law_1159) : ax_EvS G l ax_Ym M_L_law 1159 192 3 3)
theorem r_L_law_1162 (E : ax_EN G l) : ax_Snd G l ax_Ym M_L_law 1162 (S_istore 5 1164) := k_istore dL_law_1162 (Nat.le_of_ble_eq_true rfl)
theorem r_L_law_1164 (E : ax_EN G l) : ax_Snd G l ax_Ym M_L_law 1164 (S_aload 2 1165) := k_aload_n dL_law_1164 rfl
theorem r_L_law_1165 (E : ax_EN G l) : ax_Snd G l ax_Ym M_L_law 1165 (S_aload 0 1166) := k_aload_n dL_law_1165 rfl
theorem r_L_law_1166 (E : ax_EN G l) : ax_Snd G l ax_Ym M_L_law 1166 (S_iload 4 1168) := k_iload dL_law_1166
theorem r_L_law_1168 (E : ax_EN G l) : ax_Snd G l ax_Ym M_L_law 1168 (S_push (.int (1)) 1169) := k_iconst dL_law_1168 rfl
theorem r_L_law_1169 (E : ax_EN G l) : ax_Snd G l ax_Ym M_L_law 1169 (S_i2 (fun x y => x + y) 1170) := k_iadd dL_law_1169
theorem r_L_law_1170 (E : ax_EN G l) : ax_Snd G l ax_Ym M_L_law 1170 (S_iald 0 1171) := k_iald (en_F E) dL_law_1170
theorem r_L_law_1171 (E : ax_EN G l) : ax_Snd G l ax_Ym M_L_law 1171 (S_iv [(38, 416)] 1 1174 hd_0) := k_iv (en_F E) (ax_ok0 E rfl) (ax_Evs_cons ((ev_v (en_c E (k := 38) rfl) rfl y_X3_step q3150 q3151 q3152 q126 q3153 nm_X3_step (Nat.le_of_ble_eq_true rfl) dL_law_1171) : ax_EvV G l ax_Ym M_L_law 1171 1 3 38 416) ax_Evs_nil)
theorem r_L_law_1174 (E : ax_EN G l) : ax_Snd G l ax_Ym M_L_law 1174 (S_istore 6 1176) := k_istore dL_law_1174 (Nat.le_of_ble_eq_true rfl)
theorem r_L_law_1176 (E : ax_EN G l) : ax_Snd G l ax_Ym M_L_law 1176 (S_aload 2 1177) := k_aload_n dL_law_1176 rfl
theorem r_L_law_1177 (E : ax_EN G l) : ax_Snd G l ax_Ym M_L_law 1177 (S_iv [(38, 372)] 0 1180 hd_0) := k_iv (en_F E) (ax_ok0 E rfl) (ax_Evs_cons ((ev_v (en_c E (k := 38) rfl) rfl y_X3_thrown q2976 q2977 q2978 q126 q2979 nm_X3_thrown (Nat.le_of_ble_eq_true rfl) dL_law_1177) : ax_EvV G l ax_Ym M_L_law 1177 0 3 38 372) ax_Evs_nil)
theorem r_L_law_1180 (E : ax_EN G l) : ax_Snd G l ax_Ym M_L_law 1180 (S_iload 5 1182) := k_iload dL_law_1180
theorem r_L_law_1182 (E : ax_EN G l) : ax_Snd G l ax_Ym M_L_law 1182 (S_if2 (fun x y => decide (x = y)) 1187 1185) := k_icmp_eq dL_law_1182 rfl
theorem r_L_law_1185 (E : ax_EN G l) : ax_Snd G l ax_Ym M_L_law 1185 (S_push (.int (0)) 1186) := k_iconst dL_law_1185 rfl
theorem r_L_law_1186 (E : ax_EN G l) : ax_Snd G l ax_Ym M_L_law 1186 (S_zret) := k_zret dL_law_1186 rfl
theorem r_L_law_1187 (E : ax_EN G l) : ax_Snd G l ax_Ym M_L_law 1187 (S_iload 5 1189) := k_iload dL_law_1187
theorem r_L_law_1189 (E : ax_EN G l) : ax_Snd G l ax_Ym M_L_law 1189 (S_if1 (fun x => decide (¬ x = 0)) 1204 1192) := k_if_ne dL_law_1189 rfl
theorem r_L_law_1192 (E : ax_EN G l) : ax_Snd G l ax_Ym M_L_law 1192 (S_aload 3 1193) := k_aload_n dL_law_1192 rfl
theorem r_L_law_1193 (E : ax_EN G l) : ax_Snd G l ax_Ym M_L_law 1193 (S_push (.int (0)) 1194) := k_iconst dL_law_1193 rfl
theorem r_L_law_1194 (E : ax_EN G l) : ax_Snd G l ax_Ym M_L_law 1194 (S_lald 1 1195) := k_lald (en_F E) dL_law_1194
theorem r_L_law_1195 (E : ax_EN G l) : ax_Snd G l ax_Ym M_L_law 1195 (S_iload 6 1197) := k_iload dL_law_1195
theorem r_L_law_1197 (E : ax_EN G l) : ax_Snd G l ax_Ym M_L_law 1197 (S_i2l 1198) := k_i2l dL_law_1197
theorem r_L_law_1198 (E : ax_EN G l) : ax_Snd G l ax_Ym M_L_law 1198 (S_lcmp 1199) := k_lcmp dL_law_1198
theorem r_L_law_1199 (E : ax_EN G l) : ax_Snd G l ax_Ym M_L_law 1199 (S_if1 (fun x => decide (x = 0)) 1204 1202) := k_if_eq dL_law_1199 rfl
theorem r_L_law_1202 (E : ax_EN G l) : ax_Snd G l ax_Ym M_L_law 1202 (S_push (.int (0)) 1203) := k_iconst dL_law_1202 rfl
theorem r_L_law_1203 (E : ax_EN G l) : ax_Snd G l ax_Ym M_L_law 1203 (S_zret) := k_zret dL_law_1203 rfl
theorem r_L_law_1204 (E : ax_EN G l) : ax_Snd G l ax_Ym M_L_law 1204 (S_goto 2371) := k_goto dL_law_1204 rfl
theorem r_L_law_1207 (E : ax_EN G l) : ax_Snd G l ax_Ym M_L_law 1207 (S_aload 1 1208) := k_aload_n dL_law_1207 rfl
theorem r_L_law_1208 (E : ax_EN G l) : ax_Snd G l ax_Ym M_L_law 1208 (S_aload 0 1209) := k_aload_n dL_law_1208 rfl
theorem r_L_law_1209 (E : ax_EN G l) : ax_Snd G l ax_Ym M_L_law 1209 (S_iload 4 1211) := k_iload dL_law_1209
theorem r_L_law_1211 (E : ax_EN G l) : ax_Snd G l ax_Ym M_L_law 1211 (S_push (.int (1)) 1212) := k_iconst dL_law_1211 rfl
theorem r_L_law_1212 (E : ax_EN G l) : ax_Snd G l ax_Ym M_L_law 1212 (S_i2 (fun x y => x + y) 1213) := k_iadd dL_law_1212
theorem r_L_law_1213 (E : ax_EN G l) : ax_Snd G l ax_Ym M_L_law 1213 (S_iald 0 1214) := k_iald (en_F E) dL_law_1213
theorem r_L_law_1214 (E : ax_EN G l) : ax_Snd G l ax_Ym M_L_law 1214 (S_aload 0 1215) := k_aload_n dL_law_1214 rfl
theorem r_L_law_1215 (E : ax_EN G l) : ax_Snd G l ax_Ym M_L_law 1215 (S_iload 4 1217) := k_iload dL_law_1215
theorem r_L_law_1217 (E : ax_EN G l) : ax_Snd G l ax_Ym M_L_law 1217 (S_push (.int (2)) 1218) := k_iconst dL_law_1217 rfl
theorem r_L_law_1218 (E : ax_EN G l) : ax_Snd G l ax_Ym M_L_law 1218 (S_i2 (fun x y => x + y) 1219) := k_iadd dL_law_1218
theorem r_L_law_1219 (E : ax_EN G l) : ax_Snd G l ax_Ym M_L_law 1219 (S_iald 0 1220) := k_iald (en_F E) dL_law_1219
theorem r_L_law_1220 (E : ax_EN G l) : ax_Snd G l ax_Ym M_L_law 1220 (S_aload 3 1221) := k_aload_n dL_law_1220 rfl
theorem r_L_law_1221 (E : ax_EN G l) : ax_Snd G l ax_Ym M_L_law 1221 (S_is 193 4 1224 hd_0) := k_is (en_F E) (ax_ok0 E rfl) ((ev_sW y_X0_runTo q2291 q2292 q117 q2293 nm_X0_runTo (Nat.le_of_ble_eq_true rfl) dL_law_1221) : ax_EvS G l ax_Ym M_L_law 1221 193 4 3)
theorem r_L_law_1224 (E : ax_EN G l) : ax_Snd G l ax_Ym M_L_law 1224 (S_istore 5 1226) := k_istore dL_law_1224 (Nat.le_of_ble_eq_true rfl)
theorem r_L_law_1226 (E : ax_EN G l) : ax_Snd G l ax_Ym M_L_law 1226 (S_aload 2 1227) := k_aload_n dL_law_1226 rfl
theorem r_L_law_1227 (E : ax_EN G l) : ax_Snd G l ax_Ym M_L_law 1227 (S_aload 0 1228) := k_aload_n dL_law_1227 rfl
theorem r_L_law_1228 (E : ax_EN G l) : ax_Snd G l ax_Ym M_L_law 1228 (S_iload 4 1230) := k_iload dL_law_1228
theorem r_L_law_1230 (E : ax_EN G l) : ax_Snd G l ax_Ym M_L_law 1230 (S_push (.int (1)) 1231) := k_iconst dL_law_1230 rfl
theorem r_L_law_1231 (E : ax_EN G l) : ax_Snd G l ax_Ym M_L_law 1231 (S_i2 (fun x y => x + y) 1232) := k_iadd dL_law_1231
theorem r_L_law_1232 (E : ax_EN G l) : ax_Snd G l ax_Ym M_L_law 1232 (S_iald 0 1233) := k_iald (en_F E) dL_law_1232
theorem r_L_law_1233 (E : ax_EN G l) : ax_Snd G l ax_Ym M_L_law 1233 (S_aload 0 1234) := k_aload_n dL_law_1233 rfl
theorem r_L_law_1234 (E : ax_EN G l) : ax_Snd G l ax_Ym M_L_law 1234 (S_iload 4 1236) := k_iload dL_law_1234
theorem r_L_law_1236 (E : ax_EN G l) : ax_Snd G l ax_Ym M_L_law 1236 (S_push (.int (2)) 1237) := k_iconst dL_law_1236 rfl
theorem r_L_law_1237 (E : ax_EN G l) : ax_Snd G l ax_Ym M_L_law 1237 (S_i2 (fun x y => x + y) 1238) := k_iadd dL_law_1237
theorem r_L_law_1238 (E : ax_EN G l) : ax_Snd G l ax_Ym M_L_law 1238 (S_iald 0 1239) := k_iald (en_F E) dL_law_1238
theorem r_L_law_1239 (E : ax_EN G l) : ax_Snd G l ax_Ym M_L_law 1239 (S_iv [(38, 450)] 2 1242 hd_0) := k_iv (en_F E) (ax_ok0 E rfl) (ax_Evs_cons ((ev_v (en_c E (k := 38) rfl) rfl y_X3_runTo q3281 q3282 q3283 q126 q3284 nm_X3_runTo (Nat.le_of_ble_eq_true rfl) dL_law_1239) : ax_EvV G l ax_Ym M_L_law 1239 2 3 38 450) ax_Evs_nil)
theorem r_L_law_1242 (E : ax_EN G l) : ax_Snd G l ax_Ym M_L_law 1242 (S_istore 6 1244) := k_istore dL_law_1242 (Nat.le_of_ble_eq_true rfl)
theorem r_L_law_1244 (E : ax_EN G l) : ax_Snd G l ax_Ym M_L_law 1244 (S_aload 2 1245) := k_aload_n dL_law_1244 rfl
theorem r_L_law_1245 (E : ax_EN G l) : ax_Snd G l ax_Ym M_L_law 1245 (S_iv [(38, 372)] 0 1248 hd_0) := k_iv (en_F E) (ax_ok0 E rfl) (ax_Evs_cons ((ev_v (en_c E (k := 38) rfl) rfl y_X3_thrown q2976 q2977 q2978 q126 q2979 nm_X3_thrown (Nat.le_of_ble_eq_true rfl) dL_law_1245) : ax_EvV G l ax_Ym M_L_law 1245 0 3 38 372) ax_Evs_nil)
theorem r_L_law_1248 (E : ax_EN G l) : ax_Snd G l ax_Ym M_L_law 1248 (S_iload 5 1250) := k_iload dL_law_1248
theorem r_L_law_1250 (E : ax_EN G l) : ax_Snd G l ax_Ym M_L_law 1250 (S_if2 (fun x y => decide (x = y)) 1255 1253) := k_icmp_eq dL_law_1250 rfl
theorem r_L_law_1253 (E : ax_EN G l) : ax_Snd G l ax_Ym M_L_law 1253 (S_push (.int (0)) 1254) := k_iconst dL_law_1253 rfl
theorem r_L_law_1254 (E : ax_EN G l) : ax_Snd G l ax_Ym M_L_law 1254 (S_zret) := k_zret dL_law_1254 rfl
theorem r_L_law_1255 (E : ax_EN G l) : ax_Snd G l ax_Ym M_L_law 1255 (S_iload 5 1257) := k_iload dL_law_1255
theorem r_L_law_1257 (E : ax_EN G l) : ax_Snd G l ax_Ym M_L_law 1257 (S_if1 (fun x => decide (¬ x = 0)) 1272 1260) := k_if_ne dL_law_1257 rfl
theorem r_L_law_1260 (E : ax_EN G l) : ax_Snd G l ax_Ym M_L_law 1260 (S_aload 3 1261) := k_aload_n dL_law_1260 rfl
theorem r_L_law_1261 (E : ax_EN G l) : ax_Snd G l ax_Ym M_L_law 1261 (S_push (.int (0)) 1262) := k_iconst dL_law_1261 rfl
theorem r_L_law_1262 (E : ax_EN G l) : ax_Snd G l ax_Ym M_L_law 1262 (S_lald 1 1263) := k_lald (en_F E) dL_law_1262
theorem r_L_law_1263 (E : ax_EN G l) : ax_Snd G l ax_Ym M_L_law 1263 (S_iload 6 1265) := k_iload dL_law_1263
theorem r_L_law_1265 (E : ax_EN G l) : ax_Snd G l ax_Ym M_L_law 1265 (S_i2l 1266) := k_i2l dL_law_1265
theorem r_L_law_1266 (E : ax_EN G l) : ax_Snd G l ax_Ym M_L_law 1266 (S_lcmp 1267) := k_lcmp dL_law_1266
theorem r_L_law_1267 (E : ax_EN G l) : ax_Snd G l ax_Ym M_L_law 1267 (S_if1 (fun x => decide (x = 0)) 1272 1270) := k_if_eq dL_law_1267 rfl
theorem r_L_law_1270 (E : ax_EN G l) : ax_Snd G l ax_Ym M_L_law 1270 (S_push (.int (0)) 1271) := k_iconst dL_law_1270 rfl
theorem r_L_law_1271 (E : ax_EN G l) : ax_Snd G l ax_Ym M_L_law 1271 (S_zret) := k_zret dL_law_1271 rfl
theorem r_L_law_1272 (E : ax_EN G l) : ax_Snd G l ax_Ym M_L_law 1272 (S_goto 2371) := k_goto dL_law_1272 rfl
theorem r_L_law_1275 (E : ax_EN G l) : ax_Snd G l ax_Ym M_L_law 1275 (S_aload 1 1276) := k_aload_n dL_law_1275 rfl
theorem r_L_law_1276 (E : ax_EN G l) : ax_Snd G l ax_Ym M_L_law 1276 (S_aload 0 1277) := k_aload_n dL_law_1276 rfl
theorem r_L_law_1277 (E : ax_EN G l) : ax_Snd G l ax_Ym M_L_law 1277 (S_iload 4 1279) := k_iload dL_law_1277
theorem r_L_law_1279 (E : ax_EN G l) : ax_Snd G l ax_Ym M_L_law 1279 (S_push (.int (1)) 1280) := k_iconst dL_law_1279 rfl
theorem r_L_law_1280 (E : ax_EN G l) : ax_Snd G l ax_Ym M_L_law 1280 (S_i2 (fun x y => x + y) 1281) := k_iadd dL_law_1280
theorem r_L_law_1281 (E : ax_EN G l) : ax_Snd G l ax_Ym M_L_law 1281 (S_iald 0 1282) := k_iald (en_F E) dL_law_1281
theorem r_L_law_1282 (E : ax_EN G l) : ax_Snd G l ax_Ym M_L_law 1282 (S_aload 3 1283) := k_aload_n dL_law_1282 rfl
theorem r_L_law_1283 (E : ax_EN G l) : ax_Snd G l ax_Ym M_L_law 1283 (S_is 194 3 1286 hd_0) := k_is (en_F E) (ax_ok0 E rfl) ((ev_sW y_X0_back q2298 q2299 q117 q2300 nm_X0_back (Nat.le_of_ble_eq_true rfl) dL_law_1283) : ax_EvS G l ax_Ym M_L_law 1283 194 3 3)
theorem r_L_law_1286 (E : ax_EN G l) : ax_Snd G l ax_Ym M_L_law 1286 (S_istore 5 1288) := k_istore dL_law_1286 (Nat.le_of_ble_eq_true rfl)
theorem r_L_law_1288 (E : ax_EN G l) : ax_Snd G l ax_Ym M_L_law 1288 (S_aload 2 1289) := k_aload_n dL_law_1288 rfl
theorem r_L_law_1289 (E : ax_EN G l) : ax_Snd G l ax_Ym M_L_law 1289 (S_aload 0 1290) := k_aload_n dL_law_1289 rfl
theorem r_L_law_1290 (E : ax_EN G l) : ax_Snd G l ax_Ym M_L_law 1290 (S_iload 4 1292) := k_iload dL_law_1290
theorem r_L_law_1292 (E : ax_EN G l) : ax_Snd G l ax_Ym M_L_law 1292 (S_push (.int (1)) 1293) := k_iconst dL_law_1292 rfl
theorem r_L_law_1293 (E : ax_EN G l) : ax_Snd G l ax_Ym M_L_law 1293 (S_i2 (fun x y => x + y) 1294) := k_iadd dL_law_1293
theorem r_L_law_1294 (E : ax_EN G l) : ax_Snd G l ax_Ym M_L_law 1294 (S_iald 0 1295) := k_iald (en_F E) dL_law_1294
theorem r_L_law_1295 (E : ax_EN G l) : ax_Snd G l ax_Ym M_L_law 1295 (S_iv [(38, 451)] 1 1298 hd_0) := k_iv (en_F E) (ax_ok0 E rfl) (ax_Evs_cons ((ev_v (en_c E (k := 38) rfl) rfl y_X3_back q3285 q3286 q3287 q126 q3288 nm_X3_back (Nat.le_of_ble_eq_true rfl) dL_law_1295) : ax_EvV G l ax_Ym M_L_law 1295 1 3 38 451) ax_Evs_nil)
theorem r_L_law_1298 (E : ax_EN G l) : ax_Snd G l ax_Ym M_L_law 1298 (S_istore 6 1300) := k_istore dL_law_1298 (Nat.le_of_ble_eq_true rfl)
theorem r_L_law_1300 (E : ax_EN G l) : ax_Snd G l ax_Ym M_L_law 1300 (S_aload 2 1301) := k_aload_n dL_law_1300 rfl
theorem r_L_law_1301 (E : ax_EN G l) : ax_Snd G l ax_Ym M_L_law 1301 (S_iv [(38, 372)] 0 1304 hd_0) := k_iv (en_F E) (ax_ok0 E rfl) (ax_Evs_cons ((ev_v (en_c E (k := 38) rfl) rfl y_X3_thrown q2976 q2977 q2978 q126 q2979 nm_X3_thrown (Nat.le_of_ble_eq_true rfl) dL_law_1301) : ax_EvV G l ax_Ym M_L_law 1301 0 3 38 372) ax_Evs_nil)
theorem r_L_law_1304 (E : ax_EN G l) : ax_Snd G l ax_Ym M_L_law 1304 (S_iload 5 1306) := k_iload dL_law_1304
theorem r_L_law_1306 (E : ax_EN G l) : ax_Snd G l ax_Ym M_L_law 1306 (S_if2 (fun x y => decide (x = y)) 1311 1309) := k_icmp_eq dL_law_1306 rfl
theorem r_L_law_1309 (E : ax_EN G l) : ax_Snd G l ax_Ym M_L_law 1309 (S_push (.int (0)) 1310) := k_iconst dL_law_1309 rfl
theorem r_L_law_1310 (E : ax_EN G l) : ax_Snd G l ax_Ym M_L_law 1310 (S_zret) := k_zret dL_law_1310 rfl
theorem r_L_law_1311 (E : ax_EN G l) : ax_Snd G l ax_Ym M_L_law 1311 (S_iload 5 1313) := k_iload dL_law_1311
theorem r_L_law_1313 (E : ax_EN G l) : ax_Snd G l ax_Ym M_L_law 1313 (S_if1 (fun x => decide (¬ x = 0)) 1328 1316) := k_if_ne dL_law_1313 rfl
theorem r_L_law_1316 (E : ax_EN G l) : ax_Snd G l ax_Ym M_L_law 1316 (S_aload 3 1317) := k_aload_n dL_law_1316 rfl
theorem r_L_law_1317 (E : ax_EN G l) : ax_Snd G l ax_Ym M_L_law 1317 (S_push (.int (0)) 1318) := k_iconst dL_law_1317 rfl
theorem r_L_law_1318 (E : ax_EN G l) : ax_Snd G l ax_Ym M_L_law 1318 (S_lald 1 1319) := k_lald (en_F E) dL_law_1318
theorem r_L_law_1319 (E : ax_EN G l) : ax_Snd G l ax_Ym M_L_law 1319 (S_iload 6 1321) := k_iload dL_law_1319
theorem r_L_law_1321 (E : ax_EN G l) : ax_Snd G l ax_Ym M_L_law 1321 (S_i2l 1322) := k_i2l dL_law_1321
theorem r_L_law_1322 (E : ax_EN G l) : ax_Snd G l ax_Ym M_L_law 1322 (S_lcmp 1323) := k_lcmp dL_law_1322
theorem r_L_law_1323 (E : ax_EN G l) : ax_Snd G l ax_Ym M_L_law 1323 (S_if1 (fun x => decide (x = 0)) 1328 1326) := k_if_eq dL_law_1323 rfl
theorem r_L_law_1326 (E : ax_EN G l) : ax_Snd G l ax_Ym M_L_law 1326 (S_push (.int (0)) 1327) := k_iconst dL_law_1326 rfl
theorem r_L_law_1327 (E : ax_EN G l) : ax_Snd G l ax_Ym M_L_law 1327 (S_zret) := k_zret dL_law_1327 rfl
theorem r_L_law_1328 (E : ax_EN G l) : ax_Snd G l ax_Ym M_L_law 1328 (S_goto 2371) := k_goto dL_law_1328 rfl
theorem r_L_law_1331 (E : ax_EN G l) : ax_Snd G l ax_Ym M_L_law 1331 (S_aload 1 1332) := k_aload_n dL_law_1331 rfl
theorem r_L_law_1332 (E : ax_EN G l) : ax_Snd G l ax_Ym M_L_law 1332 (S_aload 0 1333) := k_aload_n dL_law_1332 rfl
theorem r_L_law_1333 (E : ax_EN G l) : ax_Snd G l ax_Ym M_L_law 1333 (S_iload 4 1335) := k_iload dL_law_1333
theorem r_L_law_1335 (E : ax_EN G l) : ax_Snd G l ax_Ym M_L_law 1335 (S_push (.int (1)) 1336) := k_iconst dL_law_1335 rfl
theorem r_L_law_1336 (E : ax_EN G l) : ax_Snd G l ax_Ym M_L_law 1336 (S_i2 (fun x y => x + y) 1337) := k_iadd dL_law_1336
theorem r_L_law_1337 (E : ax_EN G l) : ax_Snd G l ax_Ym M_L_law 1337 (S_iald 0 1338) := k_iald (en_F E) dL_law_1337
theorem r_L_law_1338 (E : ax_EN G l) : ax_Snd G l ax_Ym M_L_law 1338 (S_aload 3 1339) := k_aload_n dL_law_1338 rfl
theorem r_L_law_1339 (E : ax_EN G l) : ax_Snd G l ax_Ym M_L_law 1339 (S_is 195 3 1342 hd_0) := k_is (en_F E) (ax_ok0 E rfl) ((ev_sW y_X0_press q2322 q2323 q117 q2324 nm_X0_press (Nat.le_of_ble_eq_true rfl) dL_law_1339) : ax_EvS G l ax_Ym M_L_law 1339 195 3 3)
theorem r_L_law_1342 (E : ax_EN G l) : ax_Snd G l ax_Ym M_L_law 1342 (S_istore 5 1344) := k_istore dL_law_1342 (Nat.le_of_ble_eq_true rfl)
theorem r_L_law_1344 (E : ax_EN G l) : ax_Snd G l ax_Ym M_L_law 1344 (S_aload 2 1345) := k_aload_n dL_law_1344 rfl
theorem r_L_law_1345 (E : ax_EN G l) : ax_Snd G l ax_Ym M_L_law 1345 (S_aload 0 1346) := k_aload_n dL_law_1345 rfl
theorem r_L_law_1346 (E : ax_EN G l) : ax_Snd G l ax_Ym M_L_law 1346 (S_iload 4 1348) := k_iload dL_law_1346
theorem r_L_law_1348 (E : ax_EN G l) : ax_Snd G l ax_Ym M_L_law 1348 (S_push (.int (1)) 1349) := k_iconst dL_law_1348 rfl
theorem r_L_law_1349 (E : ax_EN G l) : ax_Snd G l ax_Ym M_L_law 1349 (S_i2 (fun x y => x + y) 1350) := k_iadd dL_law_1349
theorem r_L_law_1350 (E : ax_EN G l) : ax_Snd G l ax_Ym M_L_law 1350 (S_iald 0 1351) := k_iald (en_F E) dL_law_1350
theorem r_L_law_1351 (E : ax_EN G l) : ax_Snd G l ax_Ym M_L_law 1351 (S_iv [(38, 453)] 1 1354 hd_0) := k_iv (en_F E) (ax_ok0 E rfl) (ax_Evs_cons ((ev_v (en_c E (k := 38) rfl) rfl y_X3_press q3293 q3294 q3295 q126 q3296 nm_X3_press (Nat.le_of_ble_eq_true rfl) dL_law_1351) : ax_EvV G l ax_Ym M_L_law 1351 1 3 38 453) ax_Evs_nil)
theorem r_L_law_1354 (E : ax_EN G l) : ax_Snd G l ax_Ym M_L_law 1354 (S_istore 6 1356) := k_istore dL_law_1354 (Nat.le_of_ble_eq_true rfl)
theorem r_L_law_1356 (E : ax_EN G l) : ax_Snd G l ax_Ym M_L_law 1356 (S_aload 2 1357) := k_aload_n dL_law_1356 rfl
theorem r_L_law_1357 (E : ax_EN G l) : ax_Snd G l ax_Ym M_L_law 1357 (S_iv [(38, 372)] 0 1360 hd_0) := k_iv (en_F E) (ax_ok0 E rfl) (ax_Evs_cons ((ev_v (en_c E (k := 38) rfl) rfl y_X3_thrown q2976 q2977 q2978 q126 q2979 nm_X3_thrown (Nat.le_of_ble_eq_true rfl) dL_law_1357) : ax_EvV G l ax_Ym M_L_law 1357 0 3 38 372) ax_Evs_nil)
theorem r_L_law_1360 (E : ax_EN G l) : ax_Snd G l ax_Ym M_L_law 1360 (S_iload 5 1362) := k_iload dL_law_1360
theorem r_L_law_1362 (E : ax_EN G l) : ax_Snd G l ax_Ym M_L_law 1362 (S_if2 (fun x y => decide (x = y)) 1367 1365) := k_icmp_eq dL_law_1362 rfl
theorem r_L_law_1365 (E : ax_EN G l) : ax_Snd G l ax_Ym M_L_law 1365 (S_push (.int (0)) 1366) := k_iconst dL_law_1365 rfl
theorem r_L_law_1366 (E : ax_EN G l) : ax_Snd G l ax_Ym M_L_law 1366 (S_zret) := k_zret dL_law_1366 rfl
theorem r_L_law_1367 (E : ax_EN G l) : ax_Snd G l ax_Ym M_L_law 1367 (S_iload 5 1369) := k_iload dL_law_1367
theorem r_L_law_1369 (E : ax_EN G l) : ax_Snd G l ax_Ym M_L_law 1369 (S_if1 (fun x => decide (¬ x = 0)) 1384 1372) := k_if_ne dL_law_1369 rfl
theorem r_L_law_1372 (E : ax_EN G l) : ax_Snd G l ax_Ym M_L_law 1372 (S_aload 3 1373) := k_aload_n dL_law_1372 rfl
theorem r_L_law_1373 (E : ax_EN G l) : ax_Snd G l ax_Ym M_L_law 1373 (S_push (.int (0)) 1374) := k_iconst dL_law_1373 rfl
theorem r_L_law_1374 (E : ax_EN G l) : ax_Snd G l ax_Ym M_L_law 1374 (S_lald 1 1375) := k_lald (en_F E) dL_law_1374
theorem r_L_law_1375 (E : ax_EN G l) : ax_Snd G l ax_Ym M_L_law 1375 (S_iload 6 1377) := k_iload dL_law_1375
theorem r_L_law_1377 (E : ax_EN G l) : ax_Snd G l ax_Ym M_L_law 1377 (S_i2l 1378) := k_i2l dL_law_1377
theorem r_L_law_1378 (E : ax_EN G l) : ax_Snd G l ax_Ym M_L_law 1378 (S_lcmp 1379) := k_lcmp dL_law_1378
theorem r_L_law_1379 (E : ax_EN G l) : ax_Snd G l ax_Ym M_L_law 1379 (S_if1 (fun x => decide (x = 0)) 1384 1382) := k_if_eq dL_law_1379 rfl
theorem r_L_law_1382 (E : ax_EN G l) : ax_Snd G l ax_Ym M_L_law 1382 (S_push (.int (0)) 1383) := k_iconst dL_law_1382 rfl
theorem r_L_law_1383 (E : ax_EN G l) : ax_Snd G l ax_Ym M_L_law 1383 (S_zret) := k_zret dL_law_1383 rfl
theorem r_L_law_1384 (E : ax_EN G l) : ax_Snd G l ax_Ym M_L_law 1384 (S_goto 2371) := k_goto dL_law_1384 rfl
theorem r_L_law_1387 (E : ax_EN G l) : ax_Snd G l ax_Ym M_L_law 1387 (S_aload 1 1388) := k_aload_n dL_law_1387 rfl
theorem r_L_law_1388 (E : ax_EN G l) : ax_Snd G l ax_Ym M_L_law 1388 (S_iv [(19, 215)] 0 1391 hd_0) := k_iv (en_F E) (ax_ok0 E rfl) (ax_Evs_cons ((ev_v (en_c E (k := 19) rfl) rfl y_X1_state q1192 q1193 q1194 q118 q1195 nm_X1_state (Nat.le_of_ble_eq_true rfl) dL_law_1388) : ax_EvV G l ax_Ym M_L_law 1388 0 3 19 215) ax_Evs_nil)
theorem r_L_law_1391 (E : ax_EN G l) : ax_Snd G l ax_Ym M_L_law 1391 (S_aload 2 1392) := k_aload_n dL_law_1391 rfl
theorem r_L_law_1392 (E : ax_EN G l) : ax_Snd G l ax_Ym M_L_law 1392 (S_iv [(38, 454)] 0 1395 hd_0) := k_iv (en_F E) (ax_ok0 E rfl) (ax_Evs_cons ((ev_v (en_c E (k := 38) rfl) rfl y_X3_state q3297 q3298 q3299 q126 q3300 nm_X3_state (Nat.le_of_ble_eq_true rfl) dL_law_1392) : ax_EvV G l ax_Ym M_L_law 1392 0 3 38 454) ax_Evs_nil)
theorem r_L_law_1395 (E : ax_EN G l) : ax_Snd G l ax_Ym M_L_law 1395 (S_if2 (fun x y => decide (x = y)) 2371 1398) := k_icmp_eq dL_law_1395 rfl
theorem r_L_law_1398 (E : ax_EN G l) : ax_Snd G l ax_Ym M_L_law 1398 (S_push (.int (0)) 1399) := k_iconst dL_law_1398 rfl
theorem r_L_law_1399 (E : ax_EN G l) : ax_Snd G l ax_Ym M_L_law 1399 (S_zret) := k_zret dL_law_1399 rfl
theorem r_L_law_1400 (E : ax_EN G l) : ax_Snd G l ax_Ym M_L_law 1400 (S_aload 1 1401) := k_aload_n dL_law_1400 rfl
theorem r_L_law_1401 (E : ax_EN G l) : ax_Snd G l ax_Ym M_L_law 1401 (S_iv [(19, 216)] 0 1404 hd_0) := k_iv (en_F E) (ax_ok0 E rfl) (ax_Evs_cons ((ev_v (en_c E (k := 19) rfl) rfl y_X1_fault q1196 q1197 q1198 q118 q1199 nm_X1_fault (Nat.le_of_ble_eq_true rfl) dL_law_1401) : ax_EvV G l ax_Ym M_L_law 1401 0 3 19 216) ax_Evs_nil)
theorem r_L_law_1404 (E : ax_EN G l) : ax_Snd G l ax_Ym M_L_law 1404 (S_aload 2 1405) := k_aload_n dL_law_1404 rfl
theorem r_L_law_1405 (E : ax_EN G l) : ax_Snd G l ax_Ym M_L_law 1405 (S_iv [(38, 455)] 0 1408 hd_0) := k_iv (en_F E) (ax_ok0 E rfl) (ax_Evs_cons ((ev_v (en_c E (k := 38) rfl) rfl y_X3_fault q3301 q3302 q3303 q126 q3304 nm_X3_fault (Nat.le_of_ble_eq_true rfl) dL_law_1405) : ax_EvV G l ax_Ym M_L_law 1405 0 3 38 455) ax_Evs_nil)
theorem r_L_law_1408 (E : ax_EN G l) : ax_Snd G l ax_Ym M_L_law 1408 (S_if2 (fun x y => decide (x = y)) 2371 1411) := k_icmp_eq dL_law_1408 rfl
theorem r_L_law_1411 (E : ax_EN G l) : ax_Snd G l ax_Ym M_L_law 1411 (S_push (.int (0)) 1412) := k_iconst dL_law_1411 rfl
theorem r_L_law_1412 (E : ax_EN G l) : ax_Snd G l ax_Ym M_L_law 1412 (S_zret) := k_zret dL_law_1412 rfl
theorem r_L_law_1413 (E : ax_EN G l) : ax_Snd G l ax_Ym M_L_law 1413 (S_aload 1 1414) := k_aload_n dL_law_1413 rfl
theorem r_L_law_1414 (E : ax_EN G l) : ax_Snd G l ax_Ym M_L_law 1414 (S_iv [(19, 217)] 0 1417 hd_0) := k_iv (en_F E) (ax_ok0 E rfl) (ax_Evs_cons ((ev_v (en_c E (k := 19) rfl) rfl y_X1_steps q1200 q1201 q1202 q118 q1203 nm_X1_steps (Nat.le_of_ble_eq_true rfl) dL_law_1414) : ax_EvV G l ax_Ym M_L_law 1414 0 3 19 217) ax_Evs_nil)
theorem r_L_law_1417 (E : ax_EN G l) : ax_Snd G l ax_Ym M_L_law 1417 (S_aload 2 1418) := k_aload_n dL_law_1417 rfl
theorem r_L_law_1418 (E : ax_EN G l) : ax_Snd G l ax_Ym M_L_law 1418 (S_iv [(38, 456)] 0 1421 hd_0) := k_iv (en_F E) (ax_ok0 E rfl) (ax_Evs_cons ((ev_v (en_c E (k := 38) rfl) rfl y_X3_steps q3305 q3306 q3307 q126 q3308 nm_X3_steps (Nat.le_of_ble_eq_true rfl) dL_law_1418) : ax_EvV G l ax_Ym M_L_law 1418 0 3 38 456) ax_Evs_nil)
theorem r_L_law_1421 (E : ax_EN G l) : ax_Snd G l ax_Ym M_L_law 1421 (S_if2 (fun x y => decide (x = y)) 2371 1424) := k_icmp_eq dL_law_1421 rfl
theorem r_L_law_1424 (E : ax_EN G l) : ax_Snd G l ax_Ym M_L_law 1424 (S_push (.int (0)) 1425) := k_iconst dL_law_1424 rfl
theorem r_L_law_1425 (E : ax_EN G l) : ax_Snd G l ax_Ym M_L_law 1425 (S_zret) := k_zret dL_law_1425 rfl
theorem r_L_law_1426 (E : ax_EN G l) : ax_Snd G l ax_Ym M_L_law 1426 (S_aload 1 1427) := k_aload_n dL_law_1426 rfl
theorem r_L_law_1427 (E : ax_EN G l) : ax_Snd G l ax_Ym M_L_law 1427 (S_iv [(19, 218)] 0 1430 hd_0) := k_iv (en_F E) (ax_ok0 E rfl) (ax_Evs_cons ((ev_v (en_c E (k := 19) rfl) rfl y_X1_kept q1204 q1205 q1206 q118 q1207 nm_X1_kept (Nat.le_of_ble_eq_true rfl) dL_law_1427) : ax_EvV G l ax_Ym M_L_law 1427 0 3 19 218) ax_Evs_nil)
theorem r_L_law_1430 (E : ax_EN G l) : ax_Snd G l ax_Ym M_L_law 1430 (S_aload 2 1431) := k_aload_n dL_law_1430 rfl
theorem r_L_law_1431 (E : ax_EN G l) : ax_Snd G l ax_Ym M_L_law 1431 (S_iv [(38, 457)] 0 1434 hd_0) := k_iv (en_F E) (ax_ok0 E rfl) (ax_Evs_cons ((ev_v (en_c E (k := 38) rfl) rfl y_X3_kept q3309 q3310 q3311 q126 q3312 nm_X3_kept (Nat.le_of_ble_eq_true rfl) dL_law_1431) : ax_EvV G l ax_Ym M_L_law 1431 0 3 38 457) ax_Evs_nil)
theorem r_L_law_1434 (E : ax_EN G l) : ax_Snd G l ax_Ym M_L_law 1434 (S_if2 (fun x y => decide (x = y)) 2371 1437) := k_icmp_eq dL_law_1434 rfl
theorem r_L_law_1437 (E : ax_EN G l) : ax_Snd G l ax_Ym M_L_law 1437 (S_push (.int (0)) 1438) := k_iconst dL_law_1437 rfl
theorem r_L_law_1438 (E : ax_EN G l) : ax_Snd G l ax_Ym M_L_law 1438 (S_zret) := k_zret dL_law_1438 rfl
theorem r_L_law_1439 (E : ax_EN G l) : ax_Snd G l ax_Ym M_L_law 1439 (S_aload 1 1440) := k_aload_n dL_law_1439 rfl
theorem r_L_law_1440 (E : ax_EN G l) : ax_Snd G l ax_Ym M_L_law 1440 (S_iv [(19, 219)] 0 1443 hd_0) := k_iv (en_F E) (ax_ok0 E rfl) (ax_Evs_cons ((ev_v (en_c E (k := 19) rfl) rfl y_X1_counter q1215 q1216 q1217 q118 q1218 nm_X1_counter (Nat.le_of_ble_eq_true rfl) dL_law_1440) : ax_EvV G l ax_Ym M_L_law 1440 0 3 19 219) ax_Evs_nil)
theorem r_L_law_1443 (E : ax_EN G l) : ax_Snd G l ax_Ym M_L_law 1443 (S_aload 2 1444) := k_aload_n dL_law_1443 rfl
theorem r_L_law_1444 (E : ax_EN G l) : ax_Snd G l ax_Ym M_L_law 1444 (S_iv [(38, 458)] 0 1447 hd_0) := k_iv (en_F E) (ax_ok0 E rfl) (ax_Evs_cons ((ev_v (en_c E (k := 38) rfl) rfl y_X3_counter q3313 q3314 q3315 q126 q3316 nm_X3_counter (Nat.le_of_ble_eq_true rfl) dL_law_1444) : ax_EvV G l ax_Ym M_L_law 1444 0 3 38 458) ax_Evs_nil)
theorem r_L_law_1447 (E : ax_EN G l) : ax_Snd G l ax_Ym M_L_law 1447 (S_if2 (fun x y => decide (x = y)) 2371 1450) := k_icmp_eq dL_law_1447 rfl
theorem r_L_law_1450 (E : ax_EN G l) : ax_Snd G l ax_Ym M_L_law 1450 (S_push (.int (0)) 1451) := k_iconst dL_law_1450 rfl
theorem r_L_law_1451 (E : ax_EN G l) : ax_Snd G l ax_Ym M_L_law 1451 (S_zret) := k_zret dL_law_1451 rfl
theorem r_L_law_1452 (E : ax_EN G l) : ax_Snd G l ax_Ym M_L_law 1452 (S_aload 1 1453) := k_aload_n dL_law_1452 rfl
theorem r_L_law_1453 (E : ax_EN G l) : ax_Snd G l ax_Ym M_L_law 1453 (S_iv [(19, 220)] 0 1456 hd_0) := k_iv (en_F E) (ax_ok0 E rfl) (ax_Evs_cons ((ev_v (en_c E (k := 19) rfl) rfl y_X1_stack q1219 q1220 q1221 q118 q1222 nm_X1_stack (Nat.le_of_ble_eq_true rfl) dL_law_1453) : ax_EvV G l ax_Ym M_L_law 1453 0 3 19 220) ax_Evs_nil)
theorem r_L_law_1456 (E : ax_EN G l) : ax_Snd G l ax_Ym M_L_law 1456 (S_aload 2 1457) := k_aload_n dL_law_1456 rfl
theorem r_L_law_1457 (E : ax_EN G l) : ax_Snd G l ax_Ym M_L_law 1457 (S_iv [(38, 459)] 0 1460 hd_0) := k_iv (en_F E) (ax_ok0 E rfl) (ax_Evs_cons ((ev_v (en_c E (k := 38) rfl) rfl y_X3_stack q3317 q3318 q3319 q126 q3320 nm_X3_stack (Nat.le_of_ble_eq_true rfl) dL_law_1457) : ax_EvV G l ax_Ym M_L_law 1457 0 3 38 459) ax_Evs_nil)
theorem r_L_law_1460 (E : ax_EN G l) : ax_Snd G l ax_Ym M_L_law 1460 (S_if2 (fun x y => decide (x = y)) 2371 1463) := k_icmp_eq dL_law_1460 rfl
theorem r_L_law_1463 (E : ax_EN G l) : ax_Snd G l ax_Ym M_L_law 1463 (S_push (.int (0)) 1464) := k_iconst dL_law_1463 rfl
theorem r_L_law_1464 (E : ax_EN G l) : ax_Snd G l ax_Ym M_L_law 1464 (S_zret) := k_zret dL_law_1464 rfl
theorem r_L_law_1465 (E : ax_EN G l) : ax_Snd G l ax_Ym M_L_law 1465 (S_aload 1 1466) := k_aload_n dL_law_1465 rfl
theorem r_L_law_1466 (E : ax_EN G l) : ax_Snd G l ax_Ym M_L_law 1466 (S_iv [(19, 221)] 0 1469 hd_0) := k_iv (en_F E) (ax_ok0 E rfl) (ax_Evs_cons ((ev_v (en_c E (k := 19) rfl) rfl y_X1_flags q1223 q1224 q1225 q118 q1226 nm_X1_flags (Nat.le_of_ble_eq_true rfl) dL_law_1466) : ax_EvV G l ax_Ym M_L_law 1466 0 3 19 221) ax_Evs_nil)
theorem r_L_law_1469 (E : ax_EN G l) : ax_Snd G l ax_Ym M_L_law 1469 (S_aload 2 1470) := k_aload_n dL_law_1469 rfl
theorem r_L_law_1470 (E : ax_EN G l) : ax_Snd G l ax_Ym M_L_law 1470 (S_iv [(38, 460)] 0 1473 hd_0) := k_iv (en_F E) (ax_ok0 E rfl) (ax_Evs_cons ((ev_v (en_c E (k := 38) rfl) rfl y_X3_flags q3321 q3322 q3323 q126 q3324 nm_X3_flags (Nat.le_of_ble_eq_true rfl) dL_law_1470) : ax_EvV G l ax_Ym M_L_law 1470 0 3 38 460) ax_Evs_nil)
theorem r_L_law_1473 (E : ax_EN G l) : ax_Snd G l ax_Ym M_L_law 1473 (S_if2 (fun x y => decide (x = y)) 2371 1476) := k_icmp_eq dL_law_1473 rfl
theorem r_L_law_1476 (E : ax_EN G l) : ax_Snd G l ax_Ym M_L_law 1476 (S_push (.int (0)) 1477) := k_iconst dL_law_1476 rfl
theorem r_L_law_1477 (E : ax_EN G l) : ax_Snd G l ax_Ym M_L_law 1477 (S_zret) := k_zret dL_law_1477 rfl
theorem r_L_law_1478 (E : ax_EN G l) : ax_Snd G l ax_Ym M_L_law 1478 (S_aload 1 1479) := k_aload_n dL_law_1478 rfl
theorem r_L_law_1479 (E : ax_EN G l) : ax_Snd G l ax_Ym M_L_law 1479 (S_iv [(19, 222)] 0 1482 hd_0) := k_iv (en_F E) (ax_ok0 E rfl) (ax_Evs_cons ((ev_v (en_c E (k := 19) rfl) rfl y_X1_writesLeft q1231 q1232 q1233 q118 q1234 nm_X1_writesLeft (Nat.le_of_ble_eq_true rfl) dL_law_1479) : ax_EvV G l ax_Ym M_L_law 1479 0 3 19 222) ax_Evs_nil)
theorem r_L_law_1482 (E : ax_EN G l) : ax_Snd G l ax_Ym M_L_law 1482 (S_aload 2 1483) := k_aload_n dL_law_1482 rfl
theorem r_L_law_1483 (E : ax_EN G l) : ax_Snd G l ax_Ym M_L_law 1483 (S_iv [(38, 462)] 0 1486 hd_0) := k_iv (en_F E) (ax_ok0 E rfl) (ax_Evs_cons ((ev_v (en_c E (k := 38) rfl) rfl y_X3_writesLeft q3329 q3330 q3331 q126 q3332 nm_X3_writesLeft (Nat.le_of_ble_eq_true rfl) dL_law_1483) : ax_EvV G l ax_Ym M_L_law 1483 0 3 38 462) ax_Evs_nil)
theorem r_L_law_1486 (E : ax_EN G l) : ax_Snd G l ax_Ym M_L_law 1486 (S_if2 (fun x y => decide (x = y)) 2371 1489) := k_icmp_eq dL_law_1486 rfl
theorem r_L_law_1489 (E : ax_EN G l) : ax_Snd G l ax_Ym M_L_law 1489 (S_push (.int (0)) 1490) := k_iconst dL_law_1489 rfl
theorem r_L_law_1490 (E : ax_EN G l) : ax_Snd G l ax_Ym M_L_law 1490 (S_zret) := k_zret dL_law_1490 rfl
theorem r_L_law_1491 (E : ax_EN G l) : ax_Snd G l ax_Ym M_L_law 1491 (S_aload 1 1492) := k_aload_n dL_law_1491 rfl
theorem r_L_law_1492 (E : ax_EN G l) : ax_Snd G l ax_Ym M_L_law 1492 (S_aload 0 1493) := k_aload_n dL_law_1492 rfl
theorem r_L_law_1493 (E : ax_EN G l) : ax_Snd G l ax_Ym M_L_law 1493 (S_iload 4 1495) := k_iload dL_law_1493
theorem r_L_law_1495 (E : ax_EN G l) : ax_Snd G l ax_Ym M_L_law 1495 (S_push (.int (1)) 1496) := k_iconst dL_law_1495 rfl
theorem r_L_law_1496 (E : ax_EN G l) : ax_Snd G l ax_Ym M_L_law 1496 (S_i2 (fun x y => x + y) 1497) := k_iadd dL_law_1496
theorem r_L_law_1497 (E : ax_EN G l) : ax_Snd G l ax_Ym M_L_law 1497 (S_iald 0 1498) := k_iald (en_F E) dL_law_1497
theorem r_L_law_1498 (E : ax_EN G l) : ax_Snd G l ax_Ym M_L_law 1498 (S_aload 3 1499) := k_aload_n dL_law_1498 rfl
theorem r_L_law_1499 (E : ax_EN G l) : ax_Snd G l ax_Ym M_L_law 1499 (S_is 196 3 1502 hd_0) := k_is (en_F E) (ax_ok0 E rfl) ((ev_sW y_X0_register q2467 q2468 q117 q2469 nm_X0_register (Nat.le_of_ble_eq_true rfl) dL_law_1499) : ax_EvS G l ax_Ym M_L_law 1499 196 3 3)
theorem r_L_law_1502 (E : ax_EN G l) : ax_Snd G l ax_Ym M_L_law 1502 (S_istore 5 1504) := k_istore dL_law_1502 (Nat.le_of_ble_eq_true rfl)
theorem r_L_law_1504 (E : ax_EN G l) : ax_Snd G l ax_Ym M_L_law 1504 (S_aload 2 1505) := k_aload_n dL_law_1504 rfl
theorem r_L_law_1505 (E : ax_EN G l) : ax_Snd G l ax_Ym M_L_law 1505 (S_aload 0 1506) := k_aload_n dL_law_1505 rfl
theorem r_L_law_1506 (E : ax_EN G l) : ax_Snd G l ax_Ym M_L_law 1506 (S_iload 4 1508) := k_iload dL_law_1506
theorem r_L_law_1508 (E : ax_EN G l) : ax_Snd G l ax_Ym M_L_law 1508 (S_push (.int (1)) 1509) := k_iconst dL_law_1508 rfl
theorem r_L_law_1509 (E : ax_EN G l) : ax_Snd G l ax_Ym M_L_law 1509 (S_i2 (fun x y => x + y) 1510) := k_iadd dL_law_1509
theorem r_L_law_1510 (E : ax_EN G l) : ax_Snd G l ax_Ym M_L_law 1510 (S_iald 0 1511) := k_iald (en_F E) dL_law_1510
theorem r_L_law_1511 (E : ax_EN G l) : ax_Snd G l ax_Ym M_L_law 1511 (S_iv [(38, 463)] 1 1514 hd_0) := k_iv (en_F E) (ax_ok0 E rfl) (ax_Evs_cons ((ev_v (en_c E (k := 38) rfl) rfl y_X3_register q3333 q3334 q3335 q126 q3336 nm_X3_register (Nat.le_of_ble_eq_true rfl) dL_law_1511) : ax_EvV G l ax_Ym M_L_law 1511 1 3 38 463) ax_Evs_nil)
theorem r_L_law_1514 (E : ax_EN G l) : ax_Snd G l ax_Ym M_L_law 1514 (S_istore 6 1516) := k_istore dL_law_1514 (Nat.le_of_ble_eq_true rfl)
theorem r_L_law_1516 (E : ax_EN G l) : ax_Snd G l ax_Ym M_L_law 1516 (S_aload 2 1517) := k_aload_n dL_law_1516 rfl
theorem r_L_law_1517 (E : ax_EN G l) : ax_Snd G l ax_Ym M_L_law 1517 (S_iv [(38, 372)] 0 1520 hd_0) := k_iv (en_F E) (ax_ok0 E rfl) (ax_Evs_cons ((ev_v (en_c E (k := 38) rfl) rfl y_X3_thrown q2976 q2977 q2978 q126 q2979 nm_X3_thrown (Nat.le_of_ble_eq_true rfl) dL_law_1517) : ax_EvV G l ax_Ym M_L_law 1517 0 3 38 372) ax_Evs_nil)
theorem r_L_law_1520 (E : ax_EN G l) : ax_Snd G l ax_Ym M_L_law 1520 (S_iload 5 1522) := k_iload dL_law_1520
theorem r_L_law_1522 (E : ax_EN G l) : ax_Snd G l ax_Ym M_L_law 1522 (S_if2 (fun x y => decide (x = y)) 1527 1525) := k_icmp_eq dL_law_1522 rfl
theorem r_L_law_1525 (E : ax_EN G l) : ax_Snd G l ax_Ym M_L_law 1525 (S_push (.int (0)) 1526) := k_iconst dL_law_1525 rfl
theorem r_L_law_1526 (E : ax_EN G l) : ax_Snd G l ax_Ym M_L_law 1526 (S_zret) := k_zret dL_law_1526 rfl
theorem r_L_law_1527 (E : ax_EN G l) : ax_Snd G l ax_Ym M_L_law 1527 (S_iload 5 1529) := k_iload dL_law_1527
theorem r_L_law_1529 (E : ax_EN G l) : ax_Snd G l ax_Ym M_L_law 1529 (S_if1 (fun x => decide (¬ x = 0)) 1544 1532) := k_if_ne dL_law_1529 rfl
theorem r_L_law_1532 (E : ax_EN G l) : ax_Snd G l ax_Ym M_L_law 1532 (S_aload 3 1533) := k_aload_n dL_law_1532 rfl
theorem r_L_law_1533 (E : ax_EN G l) : ax_Snd G l ax_Ym M_L_law 1533 (S_push (.int (0)) 1534) := k_iconst dL_law_1533 rfl
theorem r_L_law_1534 (E : ax_EN G l) : ax_Snd G l ax_Ym M_L_law 1534 (S_lald 1 1535) := k_lald (en_F E) dL_law_1534
theorem r_L_law_1535 (E : ax_EN G l) : ax_Snd G l ax_Ym M_L_law 1535 (S_iload 6 1537) := k_iload dL_law_1535
theorem r_L_law_1537 (E : ax_EN G l) : ax_Snd G l ax_Ym M_L_law 1537 (S_i2l 1538) := k_i2l dL_law_1537
theorem r_L_law_1538 (E : ax_EN G l) : ax_Snd G l ax_Ym M_L_law 1538 (S_lcmp 1539) := k_lcmp dL_law_1538
theorem r_L_law_1539 (E : ax_EN G l) : ax_Snd G l ax_Ym M_L_law 1539 (S_if1 (fun x => decide (x = 0)) 1544 1542) := k_if_eq dL_law_1539 rfl
theorem r_L_law_1542 (E : ax_EN G l) : ax_Snd G l ax_Ym M_L_law 1542 (S_push (.int (0)) 1543) := k_iconst dL_law_1542 rfl
theorem r_L_law_1543 (E : ax_EN G l) : ax_Snd G l ax_Ym M_L_law 1543 (S_zret) := k_zret dL_law_1543 rfl
theorem r_L_law_1544 (E : ax_EN G l) : ax_Snd G l ax_Ym M_L_law 1544 (S_goto 2371) := k_goto dL_law_1544 rfl
theorem r_L_law_1547 (E : ax_EN G l) : ax_Snd G l ax_Ym M_L_law 1547 (S_aload 1 1548) := k_aload_n dL_law_1547 rfl
theorem r_L_law_1548 (E : ax_EN G l) : ax_Snd G l ax_Ym M_L_law 1548 (S_aload 0 1549) := k_aload_n dL_law_1548 rfl
theorem r_L_law_1549 (E : ax_EN G l) : ax_Snd G l ax_Ym M_L_law 1549 (S_iload 4 1551) := k_iload dL_law_1549
theorem r_L_law_1551 (E : ax_EN G l) : ax_Snd G l ax_Ym M_L_law 1551 (S_push (.int (1)) 1552) := k_iconst dL_law_1551 rfl
theorem r_L_law_1552 (E : ax_EN G l) : ax_Snd G l ax_Ym M_L_law 1552 (S_i2 (fun x y => x + y) 1553) := k_iadd dL_law_1552
theorem r_L_law_1553 (E : ax_EN G l) : ax_Snd G l ax_Ym M_L_law 1553 (S_iald 0 1554) := k_iald (en_F E) dL_law_1553
theorem r_L_law_1554 (E : ax_EN G l) : ax_Snd G l ax_Ym M_L_law 1554 (S_aload 3 1555) := k_aload_n dL_law_1554 rfl
theorem r_L_law_1555 (E : ax_EN G l) : ax_Snd G l ax_Ym M_L_law 1555 (S_is 197 3 1558 hd_0) := k_is (en_F E) (ax_ok0 E rfl) ((ev_sW y_X0_memory q2474 q2475 q117 q2476 nm_X0_memory (Nat.le_of_ble_eq_true rfl) dL_law_1555) : ax_EvS G l ax_Ym M_L_law 1555 197 3 3)
theorem r_L_law_1558 (E : ax_EN G l) : ax_Snd G l ax_Ym M_L_law 1558 (S_istore 5 1560) := k_istore dL_law_1558 (Nat.le_of_ble_eq_true rfl)
theorem r_L_law_1560 (E : ax_EN G l) : ax_Snd G l ax_Ym M_L_law 1560 (S_aload 2 1561) := k_aload_n dL_law_1560 rfl
theorem r_L_law_1561 (E : ax_EN G l) : ax_Snd G l ax_Ym M_L_law 1561 (S_aload 0 1562) := k_aload_n dL_law_1561 rfl
theorem r_L_law_1562 (E : ax_EN G l) : ax_Snd G l ax_Ym M_L_law 1562 (S_iload 4 1564) := k_iload dL_law_1562
theorem r_L_law_1564 (E : ax_EN G l) : ax_Snd G l ax_Ym M_L_law 1564 (S_push (.int (1)) 1565) := k_iconst dL_law_1564 rfl
theorem r_L_law_1565 (E : ax_EN G l) : ax_Snd G l ax_Ym M_L_law 1565 (S_i2 (fun x y => x + y) 1566) := k_iadd dL_law_1565
theorem r_L_law_1566 (E : ax_EN G l) : ax_Snd G l ax_Ym M_L_law 1566 (S_iald 0 1567) := k_iald (en_F E) dL_law_1566
theorem r_L_law_1567 (E : ax_EN G l) : ax_Snd G l ax_Ym M_L_law 1567 (S_iv [(38, 464)] 1 1570 hd_0) := k_iv (en_F E) (ax_ok0 E rfl) (ax_Evs_cons ((ev_v (en_c E (k := 38) rfl) rfl y_X3_memory q3337 q3338 q3339 q126 q3340 nm_X3_memory (Nat.le_of_ble_eq_true rfl) dL_law_1567) : ax_EvV G l ax_Ym M_L_law 1567 1 3 38 464) ax_Evs_nil)
theorem r_L_law_1570 (E : ax_EN G l) : ax_Snd G l ax_Ym M_L_law 1570 (S_istore 6 1572) := k_istore dL_law_1570 (Nat.le_of_ble_eq_true rfl)
theorem r_L_law_1572 (E : ax_EN G l) : ax_Snd G l ax_Ym M_L_law 1572 (S_aload 2 1573) := k_aload_n dL_law_1572 rfl
theorem r_L_law_1573 (E : ax_EN G l) : ax_Snd G l ax_Ym M_L_law 1573 (S_iv [(38, 372)] 0 1576 hd_0) := k_iv (en_F E) (ax_ok0 E rfl) (ax_Evs_cons ((ev_v (en_c E (k := 38) rfl) rfl y_X3_thrown q2976 q2977 q2978 q126 q2979 nm_X3_thrown (Nat.le_of_ble_eq_true rfl) dL_law_1573) : ax_EvV G l ax_Ym M_L_law 1573 0 3 38 372) ax_Evs_nil)
theorem r_L_law_1576 (E : ax_EN G l) : ax_Snd G l ax_Ym M_L_law 1576 (S_iload 5 1578) := k_iload dL_law_1576
theorem r_L_law_1578 (E : ax_EN G l) : ax_Snd G l ax_Ym M_L_law 1578 (S_if2 (fun x y => decide (x = y)) 1583 1581) := k_icmp_eq dL_law_1578 rfl
theorem r_L_law_1581 (E : ax_EN G l) : ax_Snd G l ax_Ym M_L_law 1581 (S_push (.int (0)) 1582) := k_iconst dL_law_1581 rfl
theorem r_L_law_1582 (E : ax_EN G l) : ax_Snd G l ax_Ym M_L_law 1582 (S_zret) := k_zret dL_law_1582 rfl
theorem r_L_law_1583 (E : ax_EN G l) : ax_Snd G l ax_Ym M_L_law 1583 (S_iload 5 1585) := k_iload dL_law_1583
theorem r_L_law_1585 (E : ax_EN G l) : ax_Snd G l ax_Ym M_L_law 1585 (S_if1 (fun x => decide (¬ x = 0)) 1600 1588) := k_if_ne dL_law_1585 rfl
theorem r_L_law_1588 (E : ax_EN G l) : ax_Snd G l ax_Ym M_L_law 1588 (S_aload 3 1589) := k_aload_n dL_law_1588 rfl
theorem r_L_law_1589 (E : ax_EN G l) : ax_Snd G l ax_Ym M_L_law 1589 (S_push (.int (0)) 1590) := k_iconst dL_law_1589 rfl
theorem r_L_law_1590 (E : ax_EN G l) : ax_Snd G l ax_Ym M_L_law 1590 (S_lald 1 1591) := k_lald (en_F E) dL_law_1590
theorem r_L_law_1591 (E : ax_EN G l) : ax_Snd G l ax_Ym M_L_law 1591 (S_iload 6 1593) := k_iload dL_law_1591
theorem r_L_law_1593 (E : ax_EN G l) : ax_Snd G l ax_Ym M_L_law 1593 (S_i2l 1594) := k_i2l dL_law_1593
theorem r_L_law_1594 (E : ax_EN G l) : ax_Snd G l ax_Ym M_L_law 1594 (S_lcmp 1595) := k_lcmp dL_law_1594
theorem r_L_law_1595 (E : ax_EN G l) : ax_Snd G l ax_Ym M_L_law 1595 (S_if1 (fun x => decide (x = 0)) 1600 1598) := k_if_eq dL_law_1595 rfl
theorem r_L_law_1598 (E : ax_EN G l) : ax_Snd G l ax_Ym M_L_law 1598 (S_push (.int (0)) 1599) := k_iconst dL_law_1598 rfl
theorem r_L_law_1599 (E : ax_EN G l) : ax_Snd G l ax_Ym M_L_law 1599 (S_zret) := k_zret dL_law_1599 rfl
theorem r_L_law_1600 (E : ax_EN G l) : ax_Snd G l ax_Ym M_L_law 1600 (S_goto 2371) := k_goto dL_law_1600 rfl
theorem r_L_law_1603 (E : ax_EN G l) : ax_Snd G l ax_Ym M_L_law 1603 (S_aload 1 1604) := k_aload_n dL_law_1603 rfl
theorem r_L_law_1604 (E : ax_EN G l) : ax_Snd G l ax_Ym M_L_law 1604 (S_aload 0 1605) := k_aload_n dL_law_1604 rfl
theorem r_L_law_1605 (E : ax_EN G l) : ax_Snd G l ax_Ym M_L_law 1605 (S_iload 4 1607) := k_iload dL_law_1605
theorem r_L_law_1607 (E : ax_EN G l) : ax_Snd G l ax_Ym M_L_law 1607 (S_push (.int (1)) 1608) := k_iconst dL_law_1607 rfl
theorem r_L_law_1608 (E : ax_EN G l) : ax_Snd G l ax_Ym M_L_law 1608 (S_i2 (fun x y => x + y) 1609) := k_iadd dL_law_1608
theorem r_L_law_1609 (E : ax_EN G l) : ax_Snd G l ax_Ym M_L_law 1609 (S_iald 0 1610) := k_iald (en_F E) dL_law_1609
theorem r_L_law_1610 (E : ax_EN G l) : ax_Snd G l ax_Ym M_L_law 1610 (S_aload 3 1611) := k_aload_n dL_law_1610 rfl
theorem r_L_law_1611 (E : ax_EN G l) : ax_Snd G l ax_Ym M_L_law 1611 (S_is 198 3 1614 hd_0) := k_is (en_F E) (ax_ok0 E rfl) ((ev_sW y_X0_changedAt q2481 q2482 q117 q2483 nm_X0_changedAt (Nat.le_of_ble_eq_true rfl) dL_law_1611) : ax_EvS G l ax_Ym M_L_law 1611 198 3 3)
theorem r_L_law_1614 (E : ax_EN G l) : ax_Snd G l ax_Ym M_L_law 1614 (S_istore 5 1616) := k_istore dL_law_1614 (Nat.le_of_ble_eq_true rfl)
theorem r_L_law_1616 (E : ax_EN G l) : ax_Snd G l ax_Ym M_L_law 1616 (S_aload 2 1617) := k_aload_n dL_law_1616 rfl
theorem r_L_law_1617 (E : ax_EN G l) : ax_Snd G l ax_Ym M_L_law 1617 (S_aload 0 1618) := k_aload_n dL_law_1617 rfl
theorem r_L_law_1618 (E : ax_EN G l) : ax_Snd G l ax_Ym M_L_law 1618 (S_iload 4 1620) := k_iload dL_law_1618
theorem r_L_law_1620 (E : ax_EN G l) : ax_Snd G l ax_Ym M_L_law 1620 (S_push (.int (1)) 1621) := k_iconst dL_law_1620 rfl
theorem r_L_law_1621 (E : ax_EN G l) : ax_Snd G l ax_Ym M_L_law 1621 (S_i2 (fun x y => x + y) 1622) := k_iadd dL_law_1621
theorem r_L_law_1622 (E : ax_EN G l) : ax_Snd G l ax_Ym M_L_law 1622 (S_iald 0 1623) := k_iald (en_F E) dL_law_1622
theorem r_L_law_1623 (E : ax_EN G l) : ax_Snd G l ax_Ym M_L_law 1623 (S_iv [(38, 466)] 1 1626 hd_0) := k_iv (en_F E) (ax_ok0 E rfl) (ax_Evs_cons ((ev_v (en_c E (k := 38) rfl) rfl y_X3_changedAt q3344 q3345 q3346 q126 q3347 nm_X3_changedAt (Nat.le_of_ble_eq_true rfl) dL_law_1623) : ax_EvV G l ax_Ym M_L_law 1623 1 3 38 466) ax_Evs_nil)
theorem r_L_law_1626 (E : ax_EN G l) : ax_Snd G l ax_Ym M_L_law 1626 (S_istore 6 1628) := k_istore dL_law_1626 (Nat.le_of_ble_eq_true rfl)
theorem r_L_law_1628 (E : ax_EN G l) : ax_Snd G l ax_Ym M_L_law 1628 (S_aload 2 1629) := k_aload_n dL_law_1628 rfl
theorem r_L_law_1629 (E : ax_EN G l) : ax_Snd G l ax_Ym M_L_law 1629 (S_iv [(38, 372)] 0 1632 hd_0) := k_iv (en_F E) (ax_ok0 E rfl) (ax_Evs_cons ((ev_v (en_c E (k := 38) rfl) rfl y_X3_thrown q2976 q2977 q2978 q126 q2979 nm_X3_thrown (Nat.le_of_ble_eq_true rfl) dL_law_1629) : ax_EvV G l ax_Ym M_L_law 1629 0 3 38 372) ax_Evs_nil)
theorem r_L_law_1632 (E : ax_EN G l) : ax_Snd G l ax_Ym M_L_law 1632 (S_iload 5 1634) := k_iload dL_law_1632
theorem r_L_law_1634 (E : ax_EN G l) : ax_Snd G l ax_Ym M_L_law 1634 (S_if2 (fun x y => decide (x = y)) 1639 1637) := k_icmp_eq dL_law_1634 rfl
theorem r_L_law_1637 (E : ax_EN G l) : ax_Snd G l ax_Ym M_L_law 1637 (S_push (.int (0)) 1638) := k_iconst dL_law_1637 rfl
theorem r_L_law_1638 (E : ax_EN G l) : ax_Snd G l ax_Ym M_L_law 1638 (S_zret) := k_zret dL_law_1638 rfl
theorem r_L_law_1639 (E : ax_EN G l) : ax_Snd G l ax_Ym M_L_law 1639 (S_iload 5 1641) := k_iload dL_law_1639
theorem r_L_law_1641 (E : ax_EN G l) : ax_Snd G l ax_Ym M_L_law 1641 (S_if1 (fun x => decide (¬ x = 0)) 1656 1644) := k_if_ne dL_law_1641 rfl
theorem r_L_law_1644 (E : ax_EN G l) : ax_Snd G l ax_Ym M_L_law 1644 (S_aload 3 1645) := k_aload_n dL_law_1644 rfl
theorem r_L_law_1645 (E : ax_EN G l) : ax_Snd G l ax_Ym M_L_law 1645 (S_push (.int (0)) 1646) := k_iconst dL_law_1645 rfl
theorem r_L_law_1646 (E : ax_EN G l) : ax_Snd G l ax_Ym M_L_law 1646 (S_lald 1 1647) := k_lald (en_F E) dL_law_1646
theorem r_L_law_1647 (E : ax_EN G l) : ax_Snd G l ax_Ym M_L_law 1647 (S_iload 6 1649) := k_iload dL_law_1647
theorem r_L_law_1649 (E : ax_EN G l) : ax_Snd G l ax_Ym M_L_law 1649 (S_i2l 1650) := k_i2l dL_law_1649
theorem r_L_law_1650 (E : ax_EN G l) : ax_Snd G l ax_Ym M_L_law 1650 (S_lcmp 1651) := k_lcmp dL_law_1650
theorem r_L_law_1651 (E : ax_EN G l) : ax_Snd G l ax_Ym M_L_law 1651 (S_if1 (fun x => decide (x = 0)) 1656 1654) := k_if_eq dL_law_1651 rfl
theorem r_L_law_1654 (E : ax_EN G l) : ax_Snd G l ax_Ym M_L_law 1654 (S_push (.int (0)) 1655) := k_iconst dL_law_1654 rfl
theorem r_L_law_1655 (E : ax_EN G l) : ax_Snd G l ax_Ym M_L_law 1655 (S_zret) := k_zret dL_law_1655 rfl
theorem r_L_law_1656 (E : ax_EN G l) : ax_Snd G l ax_Ym M_L_law 1656 (S_goto 2371) := k_goto dL_law_1656 rfl
theorem r_L_law_1659 (E : ax_EN G l) : ax_Snd G l ax_Ym M_L_law 1659 (S_aload 1 1660) := k_aload_n dL_law_1659 rfl
theorem r_L_law_1660 (E : ax_EN G l) : ax_Snd G l ax_Ym M_L_law 1660 (S_iv [(19, 223)] 0 1663 hd_0) := k_iv (en_F E) (ax_ok0 E rfl) (ax_Evs_cons ((ev_v (en_c E (k := 19) rfl) rfl y_X1_tape q1239 q1240 q1241 q118 q1242 nm_X1_tape (Nat.le_of_ble_eq_true rfl) dL_law_1660) : ax_EvV G l ax_Ym M_L_law 1660 0 3 19 223) ax_Evs_nil)
theorem r_L_law_1663 (E : ax_EN G l) : ax_Snd G l ax_Ym M_L_law 1663 (S_aload 2 1664) := k_aload_n dL_law_1663 rfl
theorem r_L_law_1664 (E : ax_EN G l) : ax_Snd G l ax_Ym M_L_law 1664 (S_iv [(38, 467)] 0 1667 hd_0) := k_iv (en_F E) (ax_ok0 E rfl) (ax_Evs_cons ((ev_v (en_c E (k := 38) rfl) rfl y_X3_tape q3348 q3349 q3350 q126 q3351 nm_X3_tape (Nat.le_of_ble_eq_true rfl) dL_law_1664) : ax_EvV G l ax_Ym M_L_law 1664 0 3 38 467) ax_Evs_nil)
theorem r_L_law_1667 (E : ax_EN G l) : ax_Snd G l ax_Ym M_L_law 1667 (S_if2 (fun x y => decide (x = y)) 2371 1670) := k_icmp_eq dL_law_1667 rfl
theorem r_L_law_1670 (E : ax_EN G l) : ax_Snd G l ax_Ym M_L_law 1670 (S_push (.int (0)) 1671) := k_iconst dL_law_1670 rfl
theorem r_L_law_1671 (E : ax_EN G l) : ax_Snd G l ax_Ym M_L_law 1671 (S_zret) := k_zret dL_law_1671 rfl
theorem r_L_law_1672 (E : ax_EN G l) : ax_Snd G l ax_Ym M_L_law 1672 (S_aload 1 1673) := k_aload_n dL_law_1672 rfl
theorem r_L_law_1673 (E : ax_EN G l) : ax_Snd G l ax_Ym M_L_law 1673 (S_aload 0 1674) := k_aload_n dL_law_1673 rfl
theorem r_L_law_1674 (E : ax_EN G l) : ax_Snd G l ax_Ym M_L_law 1674 (S_iload 4 1676) := k_iload dL_law_1674
theorem r_L_law_1676 (E : ax_EN G l) : ax_Snd G l ax_Ym M_L_law 1676 (S_push (.int (1)) 1677) := k_iconst dL_law_1676 rfl
theorem r_L_law_1677 (E : ax_EN G l) : ax_Snd G l ax_Ym M_L_law 1677 (S_i2 (fun x y => x + y) 1678) := k_iadd dL_law_1677
theorem r_L_law_1678 (E : ax_EN G l) : ax_Snd G l ax_Ym M_L_law 1678 (S_iald 0 1679) := k_iald (en_F E) dL_law_1678
theorem r_L_law_1679 (E : ax_EN G l) : ax_Snd G l ax_Ym M_L_law 1679 (S_aload 3 1680) := k_aload_n dL_law_1679 rfl
theorem r_L_law_1680 (E : ax_EN G l) : ax_Snd G l ax_Ym M_L_law 1680 (S_is 199 3 1683 hd_0) := k_is (en_F E) (ax_ok0 E rfl) ((ev_sW y_X0_tapeAt q2536 q2537 q117 q2538 nm_X0_tapeAt (Nat.le_of_ble_eq_true rfl) dL_law_1680) : ax_EvS G l ax_Ym M_L_law 1680 199 3 3)
theorem r_L_law_1683 (E : ax_EN G l) : ax_Snd G l ax_Ym M_L_law 1683 (S_istore 5 1685) := k_istore dL_law_1683 (Nat.le_of_ble_eq_true rfl)
theorem r_L_law_1685 (E : ax_EN G l) : ax_Snd G l ax_Ym M_L_law 1685 (S_aload 2 1686) := k_aload_n dL_law_1685 rfl
theorem r_L_law_1686 (E : ax_EN G l) : ax_Snd G l ax_Ym M_L_law 1686 (S_aload 0 1687) := k_aload_n dL_law_1686 rfl
theorem r_L_law_1687 (E : ax_EN G l) : ax_Snd G l ax_Ym M_L_law 1687 (S_iload 4 1689) := k_iload dL_law_1687
theorem r_L_law_1689 (E : ax_EN G l) : ax_Snd G l ax_Ym M_L_law 1689 (S_push (.int (1)) 1690) := k_iconst dL_law_1689 rfl
theorem r_L_law_1690 (E : ax_EN G l) : ax_Snd G l ax_Ym M_L_law 1690 (S_i2 (fun x y => x + y) 1691) := k_iadd dL_law_1690
theorem r_L_law_1691 (E : ax_EN G l) : ax_Snd G l ax_Ym M_L_law 1691 (S_iald 0 1692) := k_iald (en_F E) dL_law_1691
theorem r_L_law_1692 (E : ax_EN G l) : ax_Snd G l ax_Ym M_L_law 1692 (S_iv [(38, 468)] 1 1695 hd_0) := k_iv (en_F E) (ax_ok0 E rfl) (ax_Evs_cons ((ev_v (en_c E (k := 38) rfl) rfl y_X3_tapeAt q3352 q3353 q3354 q126 q3355 nm_X3_tapeAt (Nat.le_of_ble_eq_true rfl) dL_law_1692) : ax_EvV G l ax_Ym M_L_law 1692 1 3 38 468) ax_Evs_nil)
theorem r_L_law_1695 (E : ax_EN G l) : ax_Snd G l ax_Ym M_L_law 1695 (S_istore 6 1697) := k_istore dL_law_1695 (Nat.le_of_ble_eq_true rfl)
theorem r_L_law_1697 (E : ax_EN G l) : ax_Snd G l ax_Ym M_L_law 1697 (S_aload 2 1698) := k_aload_n dL_law_1697 rfl
theorem r_L_law_1698 (E : ax_EN G l) : ax_Snd G l ax_Ym M_L_law 1698 (S_iv [(38, 372)] 0 1701 hd_0) := k_iv (en_F E) (ax_ok0 E rfl) (ax_Evs_cons ((ev_v (en_c E (k := 38) rfl) rfl y_X3_thrown q2976 q2977 q2978 q126 q2979 nm_X3_thrown (Nat.le_of_ble_eq_true rfl) dL_law_1698) : ax_EvV G l ax_Ym M_L_law 1698 0 3 38 372) ax_Evs_nil)
theorem r_L_law_1701 (E : ax_EN G l) : ax_Snd G l ax_Ym M_L_law 1701 (S_iload 5 1703) := k_iload dL_law_1701
theorem r_L_law_1703 (E : ax_EN G l) : ax_Snd G l ax_Ym M_L_law 1703 (S_if2 (fun x y => decide (x = y)) 1708 1706) := k_icmp_eq dL_law_1703 rfl
theorem r_L_law_1706 (E : ax_EN G l) : ax_Snd G l ax_Ym M_L_law 1706 (S_push (.int (0)) 1707) := k_iconst dL_law_1706 rfl
theorem r_L_law_1707 (E : ax_EN G l) : ax_Snd G l ax_Ym M_L_law 1707 (S_zret) := k_zret dL_law_1707 rfl
theorem r_L_law_1708 (E : ax_EN G l) : ax_Snd G l ax_Ym M_L_law 1708 (S_iload 5 1710) := k_iload dL_law_1708
theorem r_L_law_1710 (E : ax_EN G l) : ax_Snd G l ax_Ym M_L_law 1710 (S_if1 (fun x => decide (¬ x = 0)) 1725 1713) := k_if_ne dL_law_1710 rfl
theorem r_L_law_1713 (E : ax_EN G l) : ax_Snd G l ax_Ym M_L_law 1713 (S_aload 3 1714) := k_aload_n dL_law_1713 rfl
theorem r_L_law_1714 (E : ax_EN G l) : ax_Snd G l ax_Ym M_L_law 1714 (S_push (.int (0)) 1715) := k_iconst dL_law_1714 rfl
theorem r_L_law_1715 (E : ax_EN G l) : ax_Snd G l ax_Ym M_L_law 1715 (S_lald 1 1716) := k_lald (en_F E) dL_law_1715
theorem r_L_law_1716 (E : ax_EN G l) : ax_Snd G l ax_Ym M_L_law 1716 (S_iload 6 1718) := k_iload dL_law_1716
theorem r_L_law_1718 (E : ax_EN G l) : ax_Snd G l ax_Ym M_L_law 1718 (S_i2l 1719) := k_i2l dL_law_1718
theorem r_L_law_1719 (E : ax_EN G l) : ax_Snd G l ax_Ym M_L_law 1719 (S_lcmp 1720) := k_lcmp dL_law_1719
theorem r_L_law_1720 (E : ax_EN G l) : ax_Snd G l ax_Ym M_L_law 1720 (S_if1 (fun x => decide (x = 0)) 1725 1723) := k_if_eq dL_law_1720 rfl
theorem r_L_law_1723 (E : ax_EN G l) : ax_Snd G l ax_Ym M_L_law 1723 (S_push (.int (0)) 1724) := k_iconst dL_law_1723 rfl
theorem r_L_law_1724 (E : ax_EN G l) : ax_Snd G l ax_Ym M_L_law 1724 (S_zret) := k_zret dL_law_1724 rfl
theorem r_L_law_1725 (E : ax_EN G l) : ax_Snd G l ax_Ym M_L_law 1725 (S_goto 2371) := k_goto dL_law_1725 rfl
theorem r_L_law_1728 (E : ax_EN G l) : ax_Snd G l ax_Ym M_L_law 1728 (S_aload 1 1729) := k_aload_n dL_law_1728 rfl
theorem r_L_law_1729 (E : ax_EN G l) : ax_Snd G l ax_Ym M_L_law 1729 (S_iv [(19, 224)] 0 1732 hd_0) := k_iv (en_F E) (ax_ok0 E rfl) (ax_Evs_cons ((ev_v (en_c E (k := 19) rfl) rfl y_X1_sum q1243 q1244 q1245 q118 q1246 nm_X1_sum (Nat.le_of_ble_eq_true rfl) dL_law_1729) : ax_EvV G l ax_Ym M_L_law 1729 0 3 19 224) ax_Evs_nil)
theorem r_L_law_1732 (E : ax_EN G l) : ax_Snd G l ax_Ym M_L_law 1732 (S_aload 2 1733) := k_aload_n dL_law_1732 rfl
theorem r_L_law_1733 (E : ax_EN G l) : ax_Snd G l ax_Ym M_L_law 1733 (S_iv [(38, 469)] 0 1736 hd_0) := k_iv (en_F E) (ax_ok0 E rfl) (ax_Evs_cons ((ev_v (en_c E (k := 38) rfl) rfl y_X3_sum q3356 q3357 q3358 q126 q3359 nm_X3_sum (Nat.le_of_ble_eq_true rfl) dL_law_1733) : ax_EvV G l ax_Ym M_L_law 1733 0 3 38 469) ax_Evs_nil)
theorem r_L_law_1736 (E : ax_EN G l) : ax_Snd G l ax_Ym M_L_law 1736 (S_if2 (fun x y => decide (x = y)) 2371 1739) := k_icmp_eq dL_law_1736 rfl
theorem r_L_law_1739 (E : ax_EN G l) : ax_Snd G l ax_Ym M_L_law 1739 (S_push (.int (0)) 1740) := k_iconst dL_law_1739 rfl
theorem r_L_law_1740 (E : ax_EN G l) : ax_Snd G l ax_Ym M_L_law 1740 (S_zret) := k_zret dL_law_1740 rfl
theorem r_L_law_1741 (E : ax_EN G l) : ax_Snd G l ax_Ym M_L_law 1741 (S_aload 1 1742) := k_aload_n dL_law_1741 rfl
theorem r_L_law_1742 (E : ax_EN G l) : ax_Snd G l ax_Ym M_L_law 1742 (S_aload 0 1743) := k_aload_n dL_law_1742 rfl
theorem r_L_law_1743 (E : ax_EN G l) : ax_Snd G l ax_Ym M_L_law 1743 (S_iload 4 1745) := k_iload dL_law_1743
theorem r_L_law_1745 (E : ax_EN G l) : ax_Snd G l ax_Ym M_L_law 1745 (S_push (.int (1)) 1746) := k_iconst dL_law_1745 rfl
theorem r_L_law_1746 (E : ax_EN G l) : ax_Snd G l ax_Ym M_L_law 1746 (S_i2 (fun x y => x + y) 1747) := k_iadd dL_law_1746
theorem r_L_law_1747 (E : ax_EN G l) : ax_Snd G l ax_Ym M_L_law 1747 (S_iald 0 1748) := k_iald (en_F E) dL_law_1747
theorem r_L_law_1748 (E : ax_EN G l) : ax_Snd G l ax_Ym M_L_law 1748 (S_aload 3 1749) := k_aload_n dL_law_1748 rfl
theorem r_L_law_1749 (E : ax_EN G l) : ax_Snd G l ax_Ym M_L_law 1749 (S_is 200 3 1752 hd_0) := k_is (en_F E) (ax_ok0 E rfl) ((ev_sW y_X0_sumAnew q2562 q2563 q117 q2564 nm_X0_sumAnew (Nat.le_of_ble_eq_true rfl) dL_law_1749) : ax_EvS G l ax_Ym M_L_law 1749 200 3 3)
theorem r_L_law_1752 (E : ax_EN G l) : ax_Snd G l ax_Ym M_L_law 1752 (S_istore 5 1754) := k_istore dL_law_1752 (Nat.le_of_ble_eq_true rfl)
theorem r_L_law_1754 (E : ax_EN G l) : ax_Snd G l ax_Ym M_L_law 1754 (S_aload 2 1755) := k_aload_n dL_law_1754 rfl
theorem r_L_law_1755 (E : ax_EN G l) : ax_Snd G l ax_Ym M_L_law 1755 (S_aload 0 1756) := k_aload_n dL_law_1755 rfl
theorem r_L_law_1756 (E : ax_EN G l) : ax_Snd G l ax_Ym M_L_law 1756 (S_iload 4 1758) := k_iload dL_law_1756
theorem r_L_law_1758 (E : ax_EN G l) : ax_Snd G l ax_Ym M_L_law 1758 (S_push (.int (1)) 1759) := k_iconst dL_law_1758 rfl
theorem r_L_law_1759 (E : ax_EN G l) : ax_Snd G l ax_Ym M_L_law 1759 (S_i2 (fun x y => x + y) 1760) := k_iadd dL_law_1759
theorem r_L_law_1760 (E : ax_EN G l) : ax_Snd G l ax_Ym M_L_law 1760 (S_iald 0 1761) := k_iald (en_F E) dL_law_1760
theorem r_L_law_1761 (E : ax_EN G l) : ax_Snd G l ax_Ym M_L_law 1761 (S_iv [(38, 472)] 1 1764 hd_0) := k_iv (en_F E) (ax_ok0 E rfl) (ax_Evs_cons ((ev_v (en_c E (k := 38) rfl) rfl y_X3_sumAnew q3369 q3370 q3371 q126 q3372 nm_X3_sumAnew (Nat.le_of_ble_eq_true rfl) dL_law_1761) : ax_EvV G l ax_Ym M_L_law 1761 1 3 38 472) ax_Evs_nil)
theorem r_L_law_1764 (E : ax_EN G l) : ax_Snd G l ax_Ym M_L_law 1764 (S_istore 6 1766) := k_istore dL_law_1764 (Nat.le_of_ble_eq_true rfl)
theorem r_L_law_1766 (E : ax_EN G l) : ax_Snd G l ax_Ym M_L_law 1766 (S_aload 2 1767) := k_aload_n dL_law_1766 rfl
theorem r_L_law_1767 (E : ax_EN G l) : ax_Snd G l ax_Ym M_L_law 1767 (S_iv [(38, 372)] 0 1770 hd_0) := k_iv (en_F E) (ax_ok0 E rfl) (ax_Evs_cons ((ev_v (en_c E (k := 38) rfl) rfl y_X3_thrown q2976 q2977 q2978 q126 q2979 nm_X3_thrown (Nat.le_of_ble_eq_true rfl) dL_law_1767) : ax_EvV G l ax_Ym M_L_law 1767 0 3 38 372) ax_Evs_nil)
theorem r_L_law_1770 (E : ax_EN G l) : ax_Snd G l ax_Ym M_L_law 1770 (S_iload 5 1772) := k_iload dL_law_1770
theorem r_L_law_1772 (E : ax_EN G l) : ax_Snd G l ax_Ym M_L_law 1772 (S_if2 (fun x y => decide (x = y)) 1777 1775) := k_icmp_eq dL_law_1772 rfl
theorem r_L_law_1775 (E : ax_EN G l) : ax_Snd G l ax_Ym M_L_law 1775 (S_push (.int (0)) 1776) := k_iconst dL_law_1775 rfl
theorem r_L_law_1776 (E : ax_EN G l) : ax_Snd G l ax_Ym M_L_law 1776 (S_zret) := k_zret dL_law_1776 rfl
theorem r_L_law_1777 (E : ax_EN G l) : ax_Snd G l ax_Ym M_L_law 1777 (S_iload 5 1779) := k_iload dL_law_1777
theorem r_L_law_1779 (E : ax_EN G l) : ax_Snd G l ax_Ym M_L_law 1779 (S_if1 (fun x => decide (¬ x = 0)) 1794 1782) := k_if_ne dL_law_1779 rfl
theorem r_L_law_1782 (E : ax_EN G l) : ax_Snd G l ax_Ym M_L_law 1782 (S_aload 3 1783) := k_aload_n dL_law_1782 rfl
theorem r_L_law_1783 (E : ax_EN G l) : ax_Snd G l ax_Ym M_L_law 1783 (S_push (.int (0)) 1784) := k_iconst dL_law_1783 rfl
theorem r_L_law_1784 (E : ax_EN G l) : ax_Snd G l ax_Ym M_L_law 1784 (S_lald 1 1785) := k_lald (en_F E) dL_law_1784
theorem r_L_law_1785 (E : ax_EN G l) : ax_Snd G l ax_Ym M_L_law 1785 (S_iload 6 1787) := k_iload dL_law_1785
theorem r_L_law_1787 (E : ax_EN G l) : ax_Snd G l ax_Ym M_L_law 1787 (S_i2l 1788) := k_i2l dL_law_1787
theorem r_L_law_1788 (E : ax_EN G l) : ax_Snd G l ax_Ym M_L_law 1788 (S_lcmp 1789) := k_lcmp dL_law_1788
theorem r_L_law_1789 (E : ax_EN G l) : ax_Snd G l ax_Ym M_L_law 1789 (S_if1 (fun x => decide (x = 0)) 1794 1792) := k_if_eq dL_law_1789 rfl
theorem r_L_law_1792 (E : ax_EN G l) : ax_Snd G l ax_Ym M_L_law 1792 (S_push (.int (0)) 1793) := k_iconst dL_law_1792 rfl
theorem r_L_law_1793 (E : ax_EN G l) : ax_Snd G l ax_Ym M_L_law 1793 (S_zret) := k_zret dL_law_1793 rfl
theorem r_L_law_1794 (E : ax_EN G l) : ax_Snd G l ax_Ym M_L_law 1794 (S_goto 2371) := k_goto dL_law_1794 rfl
theorem r_L_law_1797 (E : ax_EN G l) : ax_Snd G l ax_Ym M_L_law 1797 (S_aload 1 1798) := k_aload_n dL_law_1797 rfl
theorem r_L_law_1798 (E : ax_EN G l) : ax_Snd G l ax_Ym M_L_law 1798 (S_iv [(19, 225)] 0 1801 hd_0) := k_iv (en_F E) (ax_ok0 E rfl) (ax_Evs_cons ((ev_v (en_c E (k := 19) rfl) rfl y_X1_written q1261 q1262 q1263 q118 q1264 nm_X1_written (Nat.le_of_ble_eq_true rfl) dL_law_1798) : ax_EvV G l ax_Ym M_L_law 1798 0 3 19 225) ax_Evs_nil)
theorem r_L_law_1801 (E : ax_EN G l) : ax_Snd G l ax_Ym M_L_law 1801 (S_aload 2 1802) := k_aload_n dL_law_1801 rfl
theorem r_L_law_1802 (E : ax_EN G l) : ax_Snd G l ax_Ym M_L_law 1802 (S_iv [(38, 473)] 0 1805 hd_0) := k_iv (en_F E) (ax_ok0 E rfl) (ax_Evs_cons ((ev_v (en_c E (k := 38) rfl) rfl y_X3_written q3373 q3374 q3375 q126 q3376 nm_X3_written (Nat.le_of_ble_eq_true rfl) dL_law_1802) : ax_EvV G l ax_Ym M_L_law 1802 0 3 38 473) ax_Evs_nil)
theorem r_L_law_1805 (E : ax_EN G l) : ax_Snd G l ax_Ym M_L_law 1805 (S_if2 (fun x y => decide (x = y)) 2371 1808) := k_icmp_eq dL_law_1805 rfl
theorem r_L_law_1808 (E : ax_EN G l) : ax_Snd G l ax_Ym M_L_law 1808 (S_push (.int (0)) 1809) := k_iconst dL_law_1808 rfl
theorem r_L_law_1809 (E : ax_EN G l) : ax_Snd G l ax_Ym M_L_law 1809 (S_zret) := k_zret dL_law_1809 rfl
theorem r_L_law_1810 (E : ax_EN G l) : ax_Snd G l ax_Ym M_L_law 1810 (S_aload 1 1811) := k_aload_n dL_law_1810 rfl
theorem r_L_law_1811 (E : ax_EN G l) : ax_Snd G l ax_Ym M_L_law 1811 (S_aload 0 1812) := k_aload_n dL_law_1811 rfl
theorem r_L_law_1812 (E : ax_EN G l) : ax_Snd G l ax_Ym M_L_law 1812 (S_iload 4 1814) := k_iload dL_law_1812
theorem r_L_law_1814 (E : ax_EN G l) : ax_Snd G l ax_Ym M_L_law 1814 (S_push (.int (1)) 1815) := k_iconst dL_law_1814 rfl
theorem r_L_law_1815 (E : ax_EN G l) : ax_Snd G l ax_Ym M_L_law 1815 (S_i2 (fun x y => x + y) 1816) := k_iadd dL_law_1815
theorem r_L_law_1816 (E : ax_EN G l) : ax_Snd G l ax_Ym M_L_law 1816 (S_iald 0 1817) := k_iald (en_F E) dL_law_1816
theorem r_L_law_1817 (E : ax_EN G l) : ax_Snd G l ax_Ym M_L_law 1817 (S_aload 0 1818) := k_aload_n dL_law_1817 rfl
theorem r_L_law_1818 (E : ax_EN G l) : ax_Snd G l ax_Ym M_L_law 1818 (S_iload 4 1820) := k_iload dL_law_1818
theorem r_L_law_1820 (E : ax_EN G l) : ax_Snd G l ax_Ym M_L_law 1820 (S_push (.int (2)) 1821) := k_iconst dL_law_1820 rfl
theorem r_L_law_1821 (E : ax_EN G l) : ax_Snd G l ax_Ym M_L_law 1821 (S_i2 (fun x y => x + y) 1822) := k_iadd dL_law_1821
theorem r_L_law_1822 (E : ax_EN G l) : ax_Snd G l ax_Ym M_L_law 1822 (S_iald 0 1823) := k_iald (en_F E) dL_law_1822
theorem r_L_law_1823 (E : ax_EN G l) : ax_Snd G l ax_Ym M_L_law 1823 (S_aload 3 1824) := k_aload_n dL_law_1823 rfl
theorem r_L_law_1824 (E : ax_EN G l) : ax_Snd G l ax_Ym M_L_law 1824 (S_is 201 4 1827 hd_0) := k_is (en_F E) (ax_ok0 E rfl) ((ev_sW y_X0_disk q2581 q2582 q117 q2583 nm_X0_disk (Nat.le_of_ble_eq_true rfl) dL_law_1824) : ax_EvS G l ax_Ym M_L_law 1824 201 4 3)
theorem r_L_law_1827 (E : ax_EN G l) : ax_Snd G l ax_Ym M_L_law 1827 (S_istore 5 1829) := k_istore dL_law_1827 (Nat.le_of_ble_eq_true rfl)
theorem r_L_law_1829 (E : ax_EN G l) : ax_Snd G l ax_Ym M_L_law 1829 (S_aload 2 1830) := k_aload_n dL_law_1829 rfl
theorem r_L_law_1830 (E : ax_EN G l) : ax_Snd G l ax_Ym M_L_law 1830 (S_aload 0 1831) := k_aload_n dL_law_1830 rfl
theorem r_L_law_1831 (E : ax_EN G l) : ax_Snd G l ax_Ym M_L_law 1831 (S_iload 4 1833) := k_iload dL_law_1831
theorem r_L_law_1833 (E : ax_EN G l) : ax_Snd G l ax_Ym M_L_law 1833 (S_push (.int (1)) 1834) := k_iconst dL_law_1833 rfl
theorem r_L_law_1834 (E : ax_EN G l) : ax_Snd G l ax_Ym M_L_law 1834 (S_i2 (fun x y => x + y) 1835) := k_iadd dL_law_1834
theorem r_L_law_1835 (E : ax_EN G l) : ax_Snd G l ax_Ym M_L_law 1835 (S_iald 0 1836) := k_iald (en_F E) dL_law_1835
theorem r_L_law_1836 (E : ax_EN G l) : ax_Snd G l ax_Ym M_L_law 1836 (S_aload 0 1837) := k_aload_n dL_law_1836 rfl
theorem r_L_law_1837 (E : ax_EN G l) : ax_Snd G l ax_Ym M_L_law 1837 (S_iload 4 1839) := k_iload dL_law_1837
theorem r_L_law_1839 (E : ax_EN G l) : ax_Snd G l ax_Ym M_L_law 1839 (S_push (.int (2)) 1840) := k_iconst dL_law_1839 rfl
theorem r_L_law_1840 (E : ax_EN G l) : ax_Snd G l ax_Ym M_L_law 1840 (S_i2 (fun x y => x + y) 1841) := k_iadd dL_law_1840
theorem r_L_law_1841 (E : ax_EN G l) : ax_Snd G l ax_Ym M_L_law 1841 (S_iald 0 1842) := k_iald (en_F E) dL_law_1841
theorem r_L_law_1842 (E : ax_EN G l) : ax_Snd G l ax_Ym M_L_law 1842 (S_iv [(38, 474)] 2 1845 hd_0) := k_iv (en_F E) (ax_ok0 E rfl) (ax_Evs_cons ((ev_v (en_c E (k := 38) rfl) rfl y_X3_disk q3377 q3378 q3379 q126 q3380 nm_X3_disk (Nat.le_of_ble_eq_true rfl) dL_law_1842) : ax_EvV G l ax_Ym M_L_law 1842 2 3 38 474) ax_Evs_nil)
theorem r_L_law_1845 (E : ax_EN G l) : ax_Snd G l ax_Ym M_L_law 1845 (S_istore 6 1847) := k_istore dL_law_1845 (Nat.le_of_ble_eq_true rfl)
theorem r_L_law_1847 (E : ax_EN G l) : ax_Snd G l ax_Ym M_L_law 1847 (S_aload 2 1848) := k_aload_n dL_law_1847 rfl
theorem r_L_law_1848 (E : ax_EN G l) : ax_Snd G l ax_Ym M_L_law 1848 (S_iv [(38, 372)] 0 1851 hd_0) := k_iv (en_F E) (ax_ok0 E rfl) (ax_Evs_cons ((ev_v (en_c E (k := 38) rfl) rfl y_X3_thrown q2976 q2977 q2978 q126 q2979 nm_X3_thrown (Nat.le_of_ble_eq_true rfl) dL_law_1848) : ax_EvV G l ax_Ym M_L_law 1848 0 3 38 372) ax_Evs_nil)
theorem r_L_law_1851 (E : ax_EN G l) : ax_Snd G l ax_Ym M_L_law 1851 (S_iload 5 1853) := k_iload dL_law_1851
theorem r_L_law_1853 (E : ax_EN G l) : ax_Snd G l ax_Ym M_L_law 1853 (S_if2 (fun x y => decide (x = y)) 1858 1856) := k_icmp_eq dL_law_1853 rfl
theorem r_L_law_1856 (E : ax_EN G l) : ax_Snd G l ax_Ym M_L_law 1856 (S_push (.int (0)) 1857) := k_iconst dL_law_1856 rfl
theorem r_L_law_1857 (E : ax_EN G l) : ax_Snd G l ax_Ym M_L_law 1857 (S_zret) := k_zret dL_law_1857 rfl
theorem r_L_law_1858 (E : ax_EN G l) : ax_Snd G l ax_Ym M_L_law 1858 (S_iload 5 1860) := k_iload dL_law_1858
theorem r_L_law_1860 (E : ax_EN G l) : ax_Snd G l ax_Ym M_L_law 1860 (S_if1 (fun x => decide (¬ x = 0)) 1875 1863) := k_if_ne dL_law_1860 rfl
theorem r_L_law_1863 (E : ax_EN G l) : ax_Snd G l ax_Ym M_L_law 1863 (S_aload 3 1864) := k_aload_n dL_law_1863 rfl
theorem r_L_law_1864 (E : ax_EN G l) : ax_Snd G l ax_Ym M_L_law 1864 (S_push (.int (0)) 1865) := k_iconst dL_law_1864 rfl
theorem r_L_law_1865 (E : ax_EN G l) : ax_Snd G l ax_Ym M_L_law 1865 (S_lald 1 1866) := k_lald (en_F E) dL_law_1865
theorem r_L_law_1866 (E : ax_EN G l) : ax_Snd G l ax_Ym M_L_law 1866 (S_iload 6 1868) := k_iload dL_law_1866
theorem r_L_law_1868 (E : ax_EN G l) : ax_Snd G l ax_Ym M_L_law 1868 (S_i2l 1869) := k_i2l dL_law_1868
theorem r_L_law_1869 (E : ax_EN G l) : ax_Snd G l ax_Ym M_L_law 1869 (S_lcmp 1870) := k_lcmp dL_law_1869
theorem r_L_law_1870 (E : ax_EN G l) : ax_Snd G l ax_Ym M_L_law 1870 (S_if1 (fun x => decide (x = 0)) 1875 1873) := k_if_eq dL_law_1870 rfl
theorem r_L_law_1873 (E : ax_EN G l) : ax_Snd G l ax_Ym M_L_law 1873 (S_push (.int (0)) 1874) := k_iconst dL_law_1873 rfl
theorem r_L_law_1874 (E : ax_EN G l) : ax_Snd G l ax_Ym M_L_law 1874 (S_zret) := k_zret dL_law_1874 rfl
theorem r_L_law_1875 (E : ax_EN G l) : ax_Snd G l ax_Ym M_L_law 1875 (S_goto 2371) := k_goto dL_law_1875 rfl
theorem r_L_law_1878 (E : ax_EN G l) : ax_Snd G l ax_Ym M_L_law 1878 (S_aload 1 1879) := k_aload_n dL_law_1878 rfl
theorem r_L_law_1879 (E : ax_EN G l) : ax_Snd G l ax_Ym M_L_law 1879 (S_iv [(19, 226)] 0 1882 hd_0) := k_iv (en_F E) (ax_ok0 E rfl) (ax_Evs_cons ((ev_v (en_c E (k := 19) rfl) rfl y_X1_files q1265 q1266 q1267 q118 q1268 nm_X1_files (Nat.le_of_ble_eq_true rfl) dL_law_1879) : ax_EvV G l ax_Ym M_L_law 1879 0 3 19 226) ax_Evs_nil)
theorem r_L_law_1882 (E : ax_EN G l) : ax_Snd G l ax_Ym M_L_law 1882 (S_aload 2 1883) := k_aload_n dL_law_1882 rfl
theorem r_L_law_1883 (E : ax_EN G l) : ax_Snd G l ax_Ym M_L_law 1883 (S_iv [(38, 475)] 0 1886 hd_0) := k_iv (en_F E) (ax_ok0 E rfl) (ax_Evs_cons ((ev_v (en_c E (k := 38) rfl) rfl y_X3_files q3381 q3382 q3383 q126 q3384 nm_X3_files (Nat.le_of_ble_eq_true rfl) dL_law_1883) : ax_EvV G l ax_Ym M_L_law 1883 0 3 38 475) ax_Evs_nil)
theorem r_L_law_1886 (E : ax_EN G l) : ax_Snd G l ax_Ym M_L_law 1886 (S_if2 (fun x y => decide (x = y)) 2371 1889) := k_icmp_eq dL_law_1886 rfl
theorem r_L_law_1889 (E : ax_EN G l) : ax_Snd G l ax_Ym M_L_law 1889 (S_push (.int (0)) 1890) := k_iconst dL_law_1889 rfl
theorem r_L_law_1890 (E : ax_EN G l) : ax_Snd G l ax_Ym M_L_law 1890 (S_zret) := k_zret dL_law_1890 rfl
theorem r_L_law_1891 (E : ax_EN G l) : ax_Snd G l ax_Ym M_L_law 1891 (S_aload 1 1892) := k_aload_n dL_law_1891 rfl
theorem r_L_law_1892 (E : ax_EN G l) : ax_Snd G l ax_Ym M_L_law 1892 (S_aload 0 1893) := k_aload_n dL_law_1892 rfl
theorem r_L_law_1893 (E : ax_EN G l) : ax_Snd G l ax_Ym M_L_law 1893 (S_iload 4 1895) := k_iload dL_law_1893
theorem r_L_law_1895 (E : ax_EN G l) : ax_Snd G l ax_Ym M_L_law 1895 (S_push (.int (1)) 1896) := k_iconst dL_law_1895 rfl
theorem r_L_law_1896 (E : ax_EN G l) : ax_Snd G l ax_Ym M_L_law 1896 (S_i2 (fun x y => x + y) 1897) := k_iadd dL_law_1896
theorem r_L_law_1897 (E : ax_EN G l) : ax_Snd G l ax_Ym M_L_law 1897 (S_iald 0 1898) := k_iald (en_F E) dL_law_1897
theorem r_L_law_1898 (E : ax_EN G l) : ax_Snd G l ax_Ym M_L_law 1898 (S_aload 3 1899) := k_aload_n dL_law_1898 rfl
theorem r_L_law_1899 (E : ax_EN G l) : ax_Snd G l ax_Ym M_L_law 1899 (S_is 202 3 1902 hd_0) := k_is (en_F E) (ax_ok0 E rfl) ((ev_sW y_X0_size q2588 q2589 q117 q2590 nm_X0_size (Nat.le_of_ble_eq_true rfl) dL_law_1899) : ax_EvS G l ax_Ym M_L_law 1899 202 3 3)
theorem r_L_law_1902 (E : ax_EN G l) : ax_Snd G l ax_Ym M_L_law 1902 (S_istore 5 1904) := k_istore dL_law_1902 (Nat.le_of_ble_eq_true rfl)
theorem r_L_law_1904 (E : ax_EN G l) : ax_Snd G l ax_Ym M_L_law 1904 (S_aload 2 1905) := k_aload_n dL_law_1904 rfl
theorem r_L_law_1905 (E : ax_EN G l) : ax_Snd G l ax_Ym M_L_law 1905 (S_aload 0 1906) := k_aload_n dL_law_1905 rfl
theorem r_L_law_1906 (E : ax_EN G l) : ax_Snd G l ax_Ym M_L_law 1906 (S_iload 4 1908) := k_iload dL_law_1906
theorem r_L_law_1908 (E : ax_EN G l) : ax_Snd G l ax_Ym M_L_law 1908 (S_push (.int (1)) 1909) := k_iconst dL_law_1908 rfl
theorem r_L_law_1909 (E : ax_EN G l) : ax_Snd G l ax_Ym M_L_law 1909 (S_i2 (fun x y => x + y) 1910) := k_iadd dL_law_1909
theorem r_L_law_1910 (E : ax_EN G l) : ax_Snd G l ax_Ym M_L_law 1910 (S_iald 0 1911) := k_iald (en_F E) dL_law_1910
theorem r_L_law_1911 (E : ax_EN G l) : ax_Snd G l ax_Ym M_L_law 1911 (S_iv [(38, 476)] 1 1914 hd_0) := k_iv (en_F E) (ax_ok0 E rfl) (ax_Evs_cons ((ev_v (en_c E (k := 38) rfl) rfl y_X3_size q3385 q3386 q3387 q126 q3388 nm_X3_size (Nat.le_of_ble_eq_true rfl) dL_law_1911) : ax_EvV G l ax_Ym M_L_law 1911 1 3 38 476) ax_Evs_nil)
theorem r_L_law_1914 (E : ax_EN G l) : ax_Snd G l ax_Ym M_L_law 1914 (S_istore 6 1916) := k_istore dL_law_1914 (Nat.le_of_ble_eq_true rfl)
theorem r_L_law_1916 (E : ax_EN G l) : ax_Snd G l ax_Ym M_L_law 1916 (S_aload 2 1917) := k_aload_n dL_law_1916 rfl
theorem r_L_law_1917 (E : ax_EN G l) : ax_Snd G l ax_Ym M_L_law 1917 (S_iv [(38, 372)] 0 1920 hd_0) := k_iv (en_F E) (ax_ok0 E rfl) (ax_Evs_cons ((ev_v (en_c E (k := 38) rfl) rfl y_X3_thrown q2976 q2977 q2978 q126 q2979 nm_X3_thrown (Nat.le_of_ble_eq_true rfl) dL_law_1917) : ax_EvV G l ax_Ym M_L_law 1917 0 3 38 372) ax_Evs_nil)
theorem r_L_law_1920 (E : ax_EN G l) : ax_Snd G l ax_Ym M_L_law 1920 (S_iload 5 1922) := k_iload dL_law_1920
theorem r_L_law_1922 (E : ax_EN G l) : ax_Snd G l ax_Ym M_L_law 1922 (S_if2 (fun x y => decide (x = y)) 1927 1925) := k_icmp_eq dL_law_1922 rfl
theorem r_L_law_1925 (E : ax_EN G l) : ax_Snd G l ax_Ym M_L_law 1925 (S_push (.int (0)) 1926) := k_iconst dL_law_1925 rfl
theorem r_L_law_1926 (E : ax_EN G l) : ax_Snd G l ax_Ym M_L_law 1926 (S_zret) := k_zret dL_law_1926 rfl
theorem r_L_law_1927 (E : ax_EN G l) : ax_Snd G l ax_Ym M_L_law 1927 (S_iload 5 1929) := k_iload dL_law_1927
theorem r_L_law_1929 (E : ax_EN G l) : ax_Snd G l ax_Ym M_L_law 1929 (S_if1 (fun x => decide (¬ x = 0)) 1944 1932) := k_if_ne dL_law_1929 rfl
theorem r_L_law_1932 (E : ax_EN G l) : ax_Snd G l ax_Ym M_L_law 1932 (S_aload 3 1933) := k_aload_n dL_law_1932 rfl
theorem r_L_law_1933 (E : ax_EN G l) : ax_Snd G l ax_Ym M_L_law 1933 (S_push (.int (0)) 1934) := k_iconst dL_law_1933 rfl
theorem r_L_law_1934 (E : ax_EN G l) : ax_Snd G l ax_Ym M_L_law 1934 (S_lald 1 1935) := k_lald (en_F E) dL_law_1934
theorem r_L_law_1935 (E : ax_EN G l) : ax_Snd G l ax_Ym M_L_law 1935 (S_iload 6 1937) := k_iload dL_law_1935
theorem r_L_law_1937 (E : ax_EN G l) : ax_Snd G l ax_Ym M_L_law 1937 (S_i2l 1938) := k_i2l dL_law_1937
theorem r_L_law_1938 (E : ax_EN G l) : ax_Snd G l ax_Ym M_L_law 1938 (S_lcmp 1939) := k_lcmp dL_law_1938
theorem r_L_law_1939 (E : ax_EN G l) : ax_Snd G l ax_Ym M_L_law 1939 (S_if1 (fun x => decide (x = 0)) 1944 1942) := k_if_eq dL_law_1939 rfl
theorem r_L_law_1942 (E : ax_EN G l) : ax_Snd G l ax_Ym M_L_law 1942 (S_push (.int (0)) 1943) := k_iconst dL_law_1942 rfl
theorem r_L_law_1943 (E : ax_EN G l) : ax_Snd G l ax_Ym M_L_law 1943 (S_zret) := k_zret dL_law_1943 rfl
theorem r_L_law_1944 (E : ax_EN G l) : ax_Snd G l ax_Ym M_L_law 1944 (S_goto 2371) := k_goto dL_law_1944 rfl
theorem r_L_law_1947 (E : ax_EN G l) : ax_Snd G l ax_Ym M_L_law 1947 (S_aload 1 1948) := k_aload_n dL_law_1947 rfl
theorem r_L_law_1948 (E : ax_EN G l) : ax_Snd G l ax_Ym M_L_law 1948 (S_aload 0 1949) := k_aload_n dL_law_1948 rfl
theorem r_L_law_1949 (E : ax_EN G l) : ax_Snd G l ax_Ym M_L_law 1949 (S_iload 4 1951) := k_iload dL_law_1949
theorem r_L_law_1951 (E : ax_EN G l) : ax_Snd G l ax_Ym M_L_law 1951 (S_push (.int (1)) 1952) := k_iconst dL_law_1951 rfl
theorem r_L_law_1952 (E : ax_EN G l) : ax_Snd G l ax_Ym M_L_law 1952 (S_i2 (fun x y => x + y) 1953) := k_iadd dL_law_1952
theorem r_L_law_1953 (E : ax_EN G l) : ax_Snd G l ax_Ym M_L_law 1953 (S_iald 0 1954) := k_iald (en_F E) dL_law_1953
theorem r_L_law_1954 (E : ax_EN G l) : ax_Snd G l ax_Ym M_L_law 1954 (S_aload 0 1955) := k_aload_n dL_law_1954 rfl
theorem r_L_law_1955 (E : ax_EN G l) : ax_Snd G l ax_Ym M_L_law 1955 (S_iload 4 1957) := k_iload dL_law_1955
theorem r_L_law_1957 (E : ax_EN G l) : ax_Snd G l ax_Ym M_L_law 1957 (S_push (.int (2)) 1958) := k_iconst dL_law_1957 rfl
theorem r_L_law_1958 (E : ax_EN G l) : ax_Snd G l ax_Ym M_L_law 1958 (S_i2 (fun x y => x + y) 1959) := k_iadd dL_law_1958
theorem r_L_law_1959 (E : ax_EN G l) : ax_Snd G l ax_Ym M_L_law 1959 (S_iald 0 1960) := k_iald (en_F E) dL_law_1959
theorem r_L_law_1960 (E : ax_EN G l) : ax_Snd G l ax_Ym M_L_law 1960 (S_aload 3 1961) := k_aload_n dL_law_1960 rfl
theorem r_L_law_1961 (E : ax_EN G l) : ax_Snd G l ax_Ym M_L_law 1961 (S_is 203 4 1964 hd_0) := k_is (en_F E) (ax_ok0 E rfl) ((ev_sW y_X0_wordOf q2607 q2608 q117 q2609 nm_X0_wordOf (Nat.le_of_ble_eq_true rfl) dL_law_1961) : ax_EvS G l ax_Ym M_L_law 1961 203 4 3)
theorem r_L_law_1964 (E : ax_EN G l) : ax_Snd G l ax_Ym M_L_law 1964 (S_istore 5 1966) := k_istore dL_law_1964 (Nat.le_of_ble_eq_true rfl)
theorem r_L_law_1966 (E : ax_EN G l) : ax_Snd G l ax_Ym M_L_law 1966 (S_aload 2 1967) := k_aload_n dL_law_1966 rfl
theorem r_L_law_1967 (E : ax_EN G l) : ax_Snd G l ax_Ym M_L_law 1967 (S_aload 0 1968) := k_aload_n dL_law_1967 rfl
theorem r_L_law_1968 (E : ax_EN G l) : ax_Snd G l ax_Ym M_L_law 1968 (S_iload 4 1970) := k_iload dL_law_1968
theorem r_L_law_1970 (E : ax_EN G l) : ax_Snd G l ax_Ym M_L_law 1970 (S_push (.int (1)) 1971) := k_iconst dL_law_1970 rfl
theorem r_L_law_1971 (E : ax_EN G l) : ax_Snd G l ax_Ym M_L_law 1971 (S_i2 (fun x y => x + y) 1972) := k_iadd dL_law_1971
theorem r_L_law_1972 (E : ax_EN G l) : ax_Snd G l ax_Ym M_L_law 1972 (S_iald 0 1973) := k_iald (en_F E) dL_law_1972
theorem r_L_law_1973 (E : ax_EN G l) : ax_Snd G l ax_Ym M_L_law 1973 (S_aload 0 1974) := k_aload_n dL_law_1973 rfl
theorem r_L_law_1974 (E : ax_EN G l) : ax_Snd G l ax_Ym M_L_law 1974 (S_iload 4 1976) := k_iload dL_law_1974
theorem r_L_law_1976 (E : ax_EN G l) : ax_Snd G l ax_Ym M_L_law 1976 (S_push (.int (2)) 1977) := k_iconst dL_law_1976 rfl
theorem r_L_law_1977 (E : ax_EN G l) : ax_Snd G l ax_Ym M_L_law 1977 (S_i2 (fun x y => x + y) 1978) := k_iadd dL_law_1977
theorem r_L_law_1978 (E : ax_EN G l) : ax_Snd G l ax_Ym M_L_law 1978 (S_iald 0 1979) := k_iald (en_F E) dL_law_1978
theorem r_L_law_1979 (E : ax_EN G l) : ax_Snd G l ax_Ym M_L_law 1979 (S_iv [(38, 478)] 2 1982 hd_0) := k_iv (en_F E) (ax_ok0 E rfl) (ax_Evs_cons ((ev_v (en_c E (k := 38) rfl) rfl y_X3_wordOf q3393 q3394 q3395 q126 q3396 nm_X3_wordOf (Nat.le_of_ble_eq_true rfl) dL_law_1979) : ax_EvV G l ax_Ym M_L_law 1979 2 3 38 478) ax_Evs_nil)
theorem r_L_law_1982 (E : ax_EN G l) : ax_Snd G l ax_Ym M_L_law 1982 (S_istore 6 1984) := k_istore dL_law_1982 (Nat.le_of_ble_eq_true rfl)
theorem r_L_law_1984 (E : ax_EN G l) : ax_Snd G l ax_Ym M_L_law 1984 (S_aload 2 1985) := k_aload_n dL_law_1984 rfl
theorem r_L_law_1985 (E : ax_EN G l) : ax_Snd G l ax_Ym M_L_law 1985 (S_iv [(38, 372)] 0 1988 hd_0) := k_iv (en_F E) (ax_ok0 E rfl) (ax_Evs_cons ((ev_v (en_c E (k := 38) rfl) rfl y_X3_thrown q2976 q2977 q2978 q126 q2979 nm_X3_thrown (Nat.le_of_ble_eq_true rfl) dL_law_1985) : ax_EvV G l ax_Ym M_L_law 1985 0 3 38 372) ax_Evs_nil)
theorem r_L_law_1988 (E : ax_EN G l) : ax_Snd G l ax_Ym M_L_law 1988 (S_iload 5 1990) := k_iload dL_law_1988
theorem r_L_law_1990 (E : ax_EN G l) : ax_Snd G l ax_Ym M_L_law 1990 (S_if2 (fun x y => decide (x = y)) 1995 1993) := k_icmp_eq dL_law_1990 rfl
theorem r_L_law_1993 (E : ax_EN G l) : ax_Snd G l ax_Ym M_L_law 1993 (S_push (.int (0)) 1994) := k_iconst dL_law_1993 rfl
theorem r_L_law_1994 (E : ax_EN G l) : ax_Snd G l ax_Ym M_L_law 1994 (S_zret) := k_zret dL_law_1994 rfl
theorem r_L_law_1995 (E : ax_EN G l) : ax_Snd G l ax_Ym M_L_law 1995 (S_iload 5 1997) := k_iload dL_law_1995
theorem r_L_law_1997 (E : ax_EN G l) : ax_Snd G l ax_Ym M_L_law 1997 (S_if1 (fun x => decide (¬ x = 0)) 2012 2000) := k_if_ne dL_law_1997 rfl
theorem r_L_law_2000 (E : ax_EN G l) : ax_Snd G l ax_Ym M_L_law 2000 (S_aload 3 2001) := k_aload_n dL_law_2000 rfl
theorem r_L_law_2001 (E : ax_EN G l) : ax_Snd G l ax_Ym M_L_law 2001 (S_push (.int (0)) 2002) := k_iconst dL_law_2001 rfl
theorem r_L_law_2002 (E : ax_EN G l) : ax_Snd G l ax_Ym M_L_law 2002 (S_lald 1 2003) := k_lald (en_F E) dL_law_2002
theorem r_L_law_2003 (E : ax_EN G l) : ax_Snd G l ax_Ym M_L_law 2003 (S_iload 6 2005) := k_iload dL_law_2003
theorem r_L_law_2005 (E : ax_EN G l) : ax_Snd G l ax_Ym M_L_law 2005 (S_i2l 2006) := k_i2l dL_law_2005
theorem r_L_law_2006 (E : ax_EN G l) : ax_Snd G l ax_Ym M_L_law 2006 (S_lcmp 2007) := k_lcmp dL_law_2006
theorem r_L_law_2007 (E : ax_EN G l) : ax_Snd G l ax_Ym M_L_law 2007 (S_if1 (fun x => decide (x = 0)) 2012 2010) := k_if_eq dL_law_2007 rfl
theorem r_L_law_2010 (E : ax_EN G l) : ax_Snd G l ax_Ym M_L_law 2010 (S_push (.int (0)) 2011) := k_iconst dL_law_2010 rfl
theorem r_L_law_2011 (E : ax_EN G l) : ax_Snd G l ax_Ym M_L_law 2011 (S_zret) := k_zret dL_law_2011 rfl
theorem r_L_law_2012 (E : ax_EN G l) : ax_Snd G l ax_Ym M_L_law 2012 (S_goto 2371) := k_goto dL_law_2012 rfl
theorem r_L_law_2015 (E : ax_EN G l) : ax_Snd G l ax_Ym M_L_law 2015 (S_aload 1 2016) := k_aload_n dL_law_2015 rfl
theorem r_L_law_2016 (E : ax_EN G l) : ax_Snd G l ax_Ym M_L_law 2016 (S_iv [(19, 227)] 0 2019 hd_0) := k_iv (en_F E) (ax_ok0 E rfl) (ax_Evs_cons ((ev_v (en_c E (k := 19) rfl) rfl y_X1_freeBlocks q1273 q1274 q1275 q118 q1276 nm_X1_freeBlocks (Nat.le_of_ble_eq_true rfl) dL_law_2016) : ax_EvV G l ax_Ym M_L_law 2016 0 3 19 227) ax_Evs_nil)
theorem r_L_law_2019 (E : ax_EN G l) : ax_Snd G l ax_Ym M_L_law 2019 (S_aload 2 2020) := k_aload_n dL_law_2019 rfl
theorem r_L_law_2020 (E : ax_EN G l) : ax_Snd G l ax_Ym M_L_law 2020 (S_iv [(38, 479)] 0 2023 hd_0) := k_iv (en_F E) (ax_ok0 E rfl) (ax_Evs_cons ((ev_v (en_c E (k := 38) rfl) rfl y_X3_freeBlocks q3397 q3398 q3399 q126 q3400 nm_X3_freeBlocks (Nat.le_of_ble_eq_true rfl) dL_law_2020) : ax_EvV G l ax_Ym M_L_law 2020 0 3 38 479) ax_Evs_nil)
theorem r_L_law_2023 (E : ax_EN G l) : ax_Snd G l ax_Ym M_L_law 2023 (S_if2 (fun x y => decide (x = y)) 2371 2026) := k_icmp_eq dL_law_2023 rfl
theorem r_L_law_2026 (E : ax_EN G l) : ax_Snd G l ax_Ym M_L_law 2026 (S_push (.int (0)) 2027) := k_iconst dL_law_2026 rfl
theorem r_L_law_2027 (E : ax_EN G l) : ax_Snd G l ax_Ym M_L_law 2027 (S_zret) := k_zret dL_law_2027 rfl
theorem r_L_law_2028 (E : ax_EN G l) : ax_Snd G l ax_Ym M_L_law 2028 (S_aload 1 2029) := k_aload_n dL_law_2028 rfl
theorem r_L_law_2029 (E : ax_EN G l) : ax_Snd G l ax_Ym M_L_law 2029 (S_iv [(19, 228)] 0 2032 hd_0) := k_iv (en_F E) (ax_ok0 E rfl) (ax_Evs_cons ((ev_v (en_c E (k := 19) rfl) rfl y_X1_isWhole q1281 q1282 q1283 q118 q1284 nm_X1_isWhole (Nat.le_of_ble_eq_true rfl) dL_law_2029) : ax_EvV G l ax_Ym M_L_law 2029 0 3 19 228) ax_Evs_nil)
theorem r_L_law_2032 (E : ax_EN G l) : ax_Snd G l ax_Ym M_L_law 2032 (S_aload 2 2033) := k_aload_n dL_law_2032 rfl
theorem r_L_law_2033 (E : ax_EN G l) : ax_Snd G l ax_Ym M_L_law 2033 (S_iv [(38, 480)] 0 2036 hd_0) := k_iv (en_F E) (ax_ok0 E rfl) (ax_Evs_cons ((ev_v (en_c E (k := 38) rfl) rfl y_X3_isWhole q3401 q3402 q3403 q126 q3404 nm_X3_isWhole (Nat.le_of_ble_eq_true rfl) dL_law_2033) : ax_EvV G l ax_Ym M_L_law 2033 0 3 38 480) ax_Evs_nil)
theorem r_L_law_2036 (E : ax_EN G l) : ax_Snd G l ax_Ym M_L_law 2036 (S_if2 (fun x y => decide (x = y)) 2371 2039) := k_icmp_eq dL_law_2036 rfl
theorem r_L_law_2039 (E : ax_EN G l) : ax_Snd G l ax_Ym M_L_law 2039 (S_push (.int (0)) 2040) := k_iconst dL_law_2039 rfl
theorem r_L_law_2040 (E : ax_EN G l) : ax_Snd G l ax_Ym M_L_law 2040 (S_zret) := k_zret dL_law_2040 rfl
theorem r_L_law_2041 (E : ax_EN G l) : ax_Snd G l ax_Ym M_L_law 2041 (S_aload 1 2042) := k_aload_n dL_law_2041 rfl
theorem r_L_law_2042 (E : ax_EN G l) : ax_Snd G l ax_Ym M_L_law 2042 (S_aload 0 2043) := k_aload_n dL_law_2042 rfl
theorem r_L_law_2043 (E : ax_EN G l) : ax_Snd G l ax_Ym M_L_law 2043 (S_iload 4 2045) := k_iload dL_law_2043
theorem r_L_law_2045 (E : ax_EN G l) : ax_Snd G l ax_Ym M_L_law 2045 (S_push (.int (1)) 2046) := k_iconst dL_law_2045 rfl
theorem r_L_law_2046 (E : ax_EN G l) : ax_Snd G l ax_Ym M_L_law 2046 (S_i2 (fun x y => x + y) 2047) := k_iadd dL_law_2046
theorem r_L_law_2047 (E : ax_EN G l) : ax_Snd G l ax_Ym M_L_law 2047 (S_iald 0 2048) := k_iald (en_F E) dL_law_2047
theorem r_L_law_2048 (E : ax_EN G l) : ax_Snd G l ax_Ym M_L_law 2048 (S_aload 3 2049) := k_aload_n dL_law_2048 rfl
theorem r_L_law_2049 (E : ax_EN G l) : ax_Snd G l ax_Ym M_L_law 2049 (S_is 204 3 2052 hd_0) := k_is (en_F E) (ax_ok0 E rfl) ((ev_sW y_X0_testKey q2616 q2617 q117 q2618 nm_X0_testKey (Nat.le_of_ble_eq_true rfl) dL_law_2049) : ax_EvS G l ax_Ym M_L_law 2049 204 3 3)
theorem r_L_law_2052 (E : ax_EN G l) : ax_Snd G l ax_Ym M_L_law 2052 (S_istore 5 2054) := k_istore dL_law_2052 (Nat.le_of_ble_eq_true rfl)
theorem r_L_law_2054 (E : ax_EN G l) : ax_Snd G l ax_Ym M_L_law 2054 (S_aload 2 2055) := k_aload_n dL_law_2054 rfl
theorem r_L_law_2055 (E : ax_EN G l) : ax_Snd G l ax_Ym M_L_law 2055 (S_aload 0 2056) := k_aload_n dL_law_2055 rfl
theorem r_L_law_2056 (E : ax_EN G l) : ax_Snd G l ax_Ym M_L_law 2056 (S_iload 4 2058) := k_iload dL_law_2056
theorem r_L_law_2058 (E : ax_EN G l) : ax_Snd G l ax_Ym M_L_law 2058 (S_push (.int (1)) 2059) := k_iconst dL_law_2058 rfl
theorem r_L_law_2059 (E : ax_EN G l) : ax_Snd G l ax_Ym M_L_law 2059 (S_i2 (fun x y => x + y) 2060) := k_iadd dL_law_2059
theorem r_L_law_2060 (E : ax_EN G l) : ax_Snd G l ax_Ym M_L_law 2060 (S_iald 0 2061) := k_iald (en_F E) dL_law_2060
theorem r_L_law_2061 (E : ax_EN G l) : ax_Snd G l ax_Ym M_L_law 2061 (S_iv [(38, 483)] 1 2064 hd_0) := k_iv (en_F E) (ax_ok0 E rfl) (ax_Evs_cons ((ev_v (en_c E (k := 38) rfl) rfl y_X3_testKey q3413 q3414 q3415 q126 q3416 nm_X3_testKey (Nat.le_of_ble_eq_true rfl) dL_law_2061) : ax_EvV G l ax_Ym M_L_law 2061 1 3 38 483) ax_Evs_nil)
theorem r_L_law_2064 (E : ax_EN G l) : ax_Snd G l ax_Ym M_L_law 2064 (S_istore 6 2066) := k_istore dL_law_2064 (Nat.le_of_ble_eq_true rfl)
theorem r_L_law_2066 (E : ax_EN G l) : ax_Snd G l ax_Ym M_L_law 2066 (S_aload 2 2067) := k_aload_n dL_law_2066 rfl
theorem r_L_law_2067 (E : ax_EN G l) : ax_Snd G l ax_Ym M_L_law 2067 (S_iv [(38, 372)] 0 2070 hd_0) := k_iv (en_F E) (ax_ok0 E rfl) (ax_Evs_cons ((ev_v (en_c E (k := 38) rfl) rfl y_X3_thrown q2976 q2977 q2978 q126 q2979 nm_X3_thrown (Nat.le_of_ble_eq_true rfl) dL_law_2067) : ax_EvV G l ax_Ym M_L_law 2067 0 3 38 372) ax_Evs_nil)
theorem r_L_law_2070 (E : ax_EN G l) : ax_Snd G l ax_Ym M_L_law 2070 (S_iload 5 2072) := k_iload dL_law_2070
theorem r_L_law_2072 (E : ax_EN G l) : ax_Snd G l ax_Ym M_L_law 2072 (S_if2 (fun x y => decide (x = y)) 2077 2075) := k_icmp_eq dL_law_2072 rfl
theorem r_L_law_2075 (E : ax_EN G l) : ax_Snd G l ax_Ym M_L_law 2075 (S_push (.int (0)) 2076) := k_iconst dL_law_2075 rfl
theorem r_L_law_2076 (E : ax_EN G l) : ax_Snd G l ax_Ym M_L_law 2076 (S_zret) := k_zret dL_law_2076 rfl
theorem r_L_law_2077 (E : ax_EN G l) : ax_Snd G l ax_Ym M_L_law 2077 (S_iload 5 2079) := k_iload dL_law_2077
theorem r_L_law_2079 (E : ax_EN G l) : ax_Snd G l ax_Ym M_L_law 2079 (S_if1 (fun x => decide (¬ x = 0)) 2094 2082) := k_if_ne dL_law_2079 rfl
theorem r_L_law_2082 (E : ax_EN G l) : ax_Snd G l ax_Ym M_L_law 2082 (S_aload 3 2083) := k_aload_n dL_law_2082 rfl
theorem r_L_law_2083 (E : ax_EN G l) : ax_Snd G l ax_Ym M_L_law 2083 (S_push (.int (0)) 2084) := k_iconst dL_law_2083 rfl
theorem r_L_law_2084 (E : ax_EN G l) : ax_Snd G l ax_Ym M_L_law 2084 (S_lald 1 2085) := k_lald (en_F E) dL_law_2084
theorem r_L_law_2085 (E : ax_EN G l) : ax_Snd G l ax_Ym M_L_law 2085 (S_iload 6 2087) := k_iload dL_law_2085
theorem r_L_law_2087 (E : ax_EN G l) : ax_Snd G l ax_Ym M_L_law 2087 (S_i2l 2088) := k_i2l dL_law_2087
theorem r_L_law_2088 (E : ax_EN G l) : ax_Snd G l ax_Ym M_L_law 2088 (S_lcmp 2089) := k_lcmp dL_law_2088
theorem r_L_law_2089 (E : ax_EN G l) : ax_Snd G l ax_Ym M_L_law 2089 (S_if1 (fun x => decide (x = 0)) 2094 2092) := k_if_eq dL_law_2089 rfl
theorem r_L_law_2092 (E : ax_EN G l) : ax_Snd G l ax_Ym M_L_law 2092 (S_push (.int (0)) 2093) := k_iconst dL_law_2092 rfl
theorem r_L_law_2093 (E : ax_EN G l) : ax_Snd G l ax_Ym M_L_law 2093 (S_zret) := k_zret dL_law_2093 rfl
theorem r_L_law_2094 (E : ax_EN G l) : ax_Snd G l ax_Ym M_L_law 2094 (S_goto 2371) := k_goto dL_law_2094 rfl
theorem r_L_law_2097 (E : ax_EN G l) : ax_Snd G l ax_Ym M_L_law 2097 (S_aload 1 2098) := k_aload_n dL_law_2097 rfl
theorem r_L_law_2098 (E : ax_EN G l) : ax_Snd G l ax_Ym M_L_law 2098 (S_aload 0 2099) := k_aload_n dL_law_2098 rfl
theorem r_L_law_2099 (E : ax_EN G l) : ax_Snd G l ax_Ym M_L_law 2099 (S_iload 4 2101) := k_iload dL_law_2099
theorem r_L_law_2101 (E : ax_EN G l) : ax_Snd G l ax_Ym M_L_law 2101 (S_push (.int (1)) 2102) := k_iconst dL_law_2101 rfl
theorem r_L_law_2102 (E : ax_EN G l) : ax_Snd G l ax_Ym M_L_law 2102 (S_i2 (fun x y => x + y) 2103) := k_iadd dL_law_2102
theorem r_L_law_2103 (E : ax_EN G l) : ax_Snd G l ax_Ym M_L_law 2103 (S_iald 0 2104) := k_iald (en_F E) dL_law_2103
theorem r_L_law_2104 (E : ax_EN G l) : ax_Snd G l ax_Ym M_L_law 2104 (S_aload 3 2105) := k_aload_n dL_law_2104 rfl
theorem r_L_law_2105 (E : ax_EN G l) : ax_Snd G l ax_Ym M_L_law 2105 (S_is 205 3 2108 hd_0) := k_is (en_F E) (ax_ok0 E rfl) ((ev_sW y_X0_testWord q2647 q2648 q117 q2649 nm_X0_testWord (Nat.le_of_ble_eq_true rfl) dL_law_2105) : ax_EvS G l ax_Ym M_L_law 2105 205 3 3)
theorem r_L_law_2108 (E : ax_EN G l) : ax_Snd G l ax_Ym M_L_law 2108 (S_istore 5 2110) := k_istore dL_law_2108 (Nat.le_of_ble_eq_true rfl)
theorem r_L_law_2110 (E : ax_EN G l) : ax_Snd G l ax_Ym M_L_law 2110 (S_aload 2 2111) := k_aload_n dL_law_2110 rfl
theorem r_L_law_2111 (E : ax_EN G l) : ax_Snd G l ax_Ym M_L_law 2111 (S_aload 0 2112) := k_aload_n dL_law_2111 rfl
theorem r_L_law_2112 (E : ax_EN G l) : ax_Snd G l ax_Ym M_L_law 2112 (S_iload 4 2114) := k_iload dL_law_2112
theorem r_L_law_2114 (E : ax_EN G l) : ax_Snd G l ax_Ym M_L_law 2114 (S_push (.int (1)) 2115) := k_iconst dL_law_2114 rfl
theorem r_L_law_2115 (E : ax_EN G l) : ax_Snd G l ax_Ym M_L_law 2115 (S_i2 (fun x y => x + y) 2116) := k_iadd dL_law_2115
theorem r_L_law_2116 (E : ax_EN G l) : ax_Snd G l ax_Ym M_L_law 2116 (S_iald 0 2117) := k_iald (en_F E) dL_law_2116
theorem r_L_law_2117 (E : ax_EN G l) : ax_Snd G l ax_Ym M_L_law 2117 (S_iv [(38, 484)] 1 2120 hd_0) := k_iv (en_F E) (ax_ok0 E rfl) (ax_Evs_cons ((ev_v (en_c E (k := 38) rfl) rfl y_X3_testWord q3417 q3418 q3419 q126 q3420 nm_X3_testWord (Nat.le_of_ble_eq_true rfl) dL_law_2117) : ax_EvV G l ax_Ym M_L_law 2117 1 3 38 484) ax_Evs_nil)
theorem r_L_law_2120 (E : ax_EN G l) : ax_Snd G l ax_Ym M_L_law 2120 (S_istore 6 2122) := k_istore dL_law_2120 (Nat.le_of_ble_eq_true rfl)
theorem r_L_law_2122 (E : ax_EN G l) : ax_Snd G l ax_Ym M_L_law 2122 (S_aload 2 2123) := k_aload_n dL_law_2122 rfl
theorem r_L_law_2123 (E : ax_EN G l) : ax_Snd G l ax_Ym M_L_law 2123 (S_iv [(38, 372)] 0 2126 hd_0) := k_iv (en_F E) (ax_ok0 E rfl) (ax_Evs_cons ((ev_v (en_c E (k := 38) rfl) rfl y_X3_thrown q2976 q2977 q2978 q126 q2979 nm_X3_thrown (Nat.le_of_ble_eq_true rfl) dL_law_2123) : ax_EvV G l ax_Ym M_L_law 2123 0 3 38 372) ax_Evs_nil)
theorem r_L_law_2126 (E : ax_EN G l) : ax_Snd G l ax_Ym M_L_law 2126 (S_iload 5 2128) := k_iload dL_law_2126
theorem r_L_law_2128 (E : ax_EN G l) : ax_Snd G l ax_Ym M_L_law 2128 (S_if2 (fun x y => decide (x = y)) 2133 2131) := k_icmp_eq dL_law_2128 rfl
theorem r_L_law_2131 (E : ax_EN G l) : ax_Snd G l ax_Ym M_L_law 2131 (S_push (.int (0)) 2132) := k_iconst dL_law_2131 rfl
theorem r_L_law_2132 (E : ax_EN G l) : ax_Snd G l ax_Ym M_L_law 2132 (S_zret) := k_zret dL_law_2132 rfl
theorem r_L_law_2133 (E : ax_EN G l) : ax_Snd G l ax_Ym M_L_law 2133 (S_iload 5 2135) := k_iload dL_law_2133
theorem r_L_law_2135 (E : ax_EN G l) : ax_Snd G l ax_Ym M_L_law 2135 (S_if1 (fun x => decide (¬ x = 0)) 2150 2138) := k_if_ne dL_law_2135 rfl
theorem r_L_law_2138 (E : ax_EN G l) : ax_Snd G l ax_Ym M_L_law 2138 (S_aload 3 2139) := k_aload_n dL_law_2138 rfl
theorem r_L_law_2139 (E : ax_EN G l) : ax_Snd G l ax_Ym M_L_law 2139 (S_push (.int (0)) 2140) := k_iconst dL_law_2139 rfl
theorem r_L_law_2140 (E : ax_EN G l) : ax_Snd G l ax_Ym M_L_law 2140 (S_lald 1 2141) := k_lald (en_F E) dL_law_2140
theorem r_L_law_2141 (E : ax_EN G l) : ax_Snd G l ax_Ym M_L_law 2141 (S_iload 6 2143) := k_iload dL_law_2141
theorem r_L_law_2143 (E : ax_EN G l) : ax_Snd G l ax_Ym M_L_law 2143 (S_i2l 2144) := k_i2l dL_law_2143
theorem r_L_law_2144 (E : ax_EN G l) : ax_Snd G l ax_Ym M_L_law 2144 (S_lcmp 2145) := k_lcmp dL_law_2144
theorem r_L_law_2145 (E : ax_EN G l) : ax_Snd G l ax_Ym M_L_law 2145 (S_if1 (fun x => decide (x = 0)) 2150 2148) := k_if_eq dL_law_2145 rfl
theorem r_L_law_2148 (E : ax_EN G l) : ax_Snd G l ax_Ym M_L_law 2148 (S_push (.int (0)) 2149) := k_iconst dL_law_2148 rfl
theorem r_L_law_2149 (E : ax_EN G l) : ax_Snd G l ax_Ym M_L_law 2149 (S_zret) := k_zret dL_law_2149 rfl
theorem r_L_law_2150 (E : ax_EN G l) : ax_Snd G l ax_Ym M_L_law 2150 (S_goto 2371) := k_goto dL_law_2150 rfl
theorem r_L_law_2153 (E : ax_EN G l) : ax_Snd G l ax_Ym M_L_law 2153 (S_aload 1 2154) := k_aload_n dL_law_2153 rfl
theorem r_L_law_2154 (E : ax_EN G l) : ax_Snd G l ax_Ym M_L_law 2154 (S_aload 0 2155) := k_aload_n dL_law_2154 rfl
theorem r_L_law_2155 (E : ax_EN G l) : ax_Snd G l ax_Ym M_L_law 2155 (S_iload 4 2157) := k_iload dL_law_2155
theorem r_L_law_2157 (E : ax_EN G l) : ax_Snd G l ax_Ym M_L_law 2157 (S_push (.int (1)) 2158) := k_iconst dL_law_2157 rfl
theorem r_L_law_2158 (E : ax_EN G l) : ax_Snd G l ax_Ym M_L_law 2158 (S_i2 (fun x y => x + y) 2159) := k_iadd dL_law_2158
theorem r_L_law_2159 (E : ax_EN G l) : ax_Snd G l ax_Ym M_L_law 2159 (S_iald 0 2160) := k_iald (en_F E) dL_law_2159
theorem r_L_law_2160 (E : ax_EN G l) : ax_Snd G l ax_Ym M_L_law 2160 (S_aload 0 2161) := k_aload_n dL_law_2160 rfl
theorem r_L_law_2161 (E : ax_EN G l) : ax_Snd G l ax_Ym M_L_law 2161 (S_iload 4 2163) := k_iload dL_law_2161
theorem r_L_law_2163 (E : ax_EN G l) : ax_Snd G l ax_Ym M_L_law 2163 (S_push (.int (2)) 2164) := k_iconst dL_law_2163 rfl
theorem r_L_law_2164 (E : ax_EN G l) : ax_Snd G l ax_Ym M_L_law 2164 (S_i2 (fun x y => x + y) 2165) := k_iadd dL_law_2164
theorem r_L_law_2165 (E : ax_EN G l) : ax_Snd G l ax_Ym M_L_law 2165 (S_iald 0 2166) := k_iald (en_F E) dL_law_2165
theorem r_L_law_2166 (E : ax_EN G l) : ax_Snd G l ax_Ym M_L_law 2166 (S_aload 0 2167) := k_aload_n dL_law_2166 rfl
theorem r_L_law_2167 (E : ax_EN G l) : ax_Snd G l ax_Ym M_L_law 2167 (S_iload 4 2169) := k_iload dL_law_2167
theorem r_L_law_2169 (E : ax_EN G l) : ax_Snd G l ax_Ym M_L_law 2169 (S_push (.int (3)) 2170) := k_iconst dL_law_2169 rfl
theorem r_L_law_2170 (E : ax_EN G l) : ax_Snd G l ax_Ym M_L_law 2170 (S_i2 (fun x y => x + y) 2171) := k_iadd dL_law_2170
theorem r_L_law_2171 (E : ax_EN G l) : ax_Snd G l ax_Ym M_L_law 2171 (S_iald 0 2172) := k_iald (en_F E) dL_law_2171
theorem r_L_law_2172 (E : ax_EN G l) : ax_Snd G l ax_Ym M_L_law 2172 (S_aload 0 2173) := k_aload_n dL_law_2172 rfl
theorem r_L_law_2173 (E : ax_EN G l) : ax_Snd G l ax_Ym M_L_law 2173 (S_iload 4 2175) := k_iload dL_law_2173
theorem r_L_law_2175 (E : ax_EN G l) : ax_Snd G l ax_Ym M_L_law 2175 (S_push (.int (4)) 2176) := k_iconst dL_law_2175 rfl
theorem r_L_law_2176 (E : ax_EN G l) : ax_Snd G l ax_Ym M_L_law 2176 (S_i2 (fun x y => x + y) 2177) := k_iadd dL_law_2176
theorem r_L_law_2177 (E : ax_EN G l) : ax_Snd G l ax_Ym M_L_law 2177 (S_iald 0 2178) := k_iald (en_F E) dL_law_2177
theorem r_L_law_2178 (E : ax_EN G l) : ax_Snd G l ax_Ym M_L_law 2178 (S_aload 3 2179) := k_aload_n dL_law_2178 rfl
theorem r_L_law_2179 (E : ax_EN G l) : ax_Snd G l ax_Ym M_L_law 2179 (S_is 206 6 2182 hd_0) := k_is (en_F E) (ax_ok0 E rfl) ((ev_sW y_X0_addTest q2654 q2655 q117 q2656 nm_X0_addTest (Nat.le_of_ble_eq_true rfl) dL_law_2179) : ax_EvS G l ax_Ym M_L_law 2179 206 6 3)
theorem r_L_law_2182 (E : ax_EN G l) : ax_Snd G l ax_Ym M_L_law 2182 (S_istore 5 2184) := k_istore dL_law_2182 (Nat.le_of_ble_eq_true rfl)
theorem r_L_law_2184 (E : ax_EN G l) : ax_Snd G l ax_Ym M_L_law 2184 (S_aload 2 2185) := k_aload_n dL_law_2184 rfl
theorem r_L_law_2185 (E : ax_EN G l) : ax_Snd G l ax_Ym M_L_law 2185 (S_aload 0 2186) := k_aload_n dL_law_2185 rfl
theorem r_L_law_2186 (E : ax_EN G l) : ax_Snd G l ax_Ym M_L_law 2186 (S_iload 4 2188) := k_iload dL_law_2186
theorem r_L_law_2188 (E : ax_EN G l) : ax_Snd G l ax_Ym M_L_law 2188 (S_push (.int (1)) 2189) := k_iconst dL_law_2188 rfl
theorem r_L_law_2189 (E : ax_EN G l) : ax_Snd G l ax_Ym M_L_law 2189 (S_i2 (fun x y => x + y) 2190) := k_iadd dL_law_2189
theorem r_L_law_2190 (E : ax_EN G l) : ax_Snd G l ax_Ym M_L_law 2190 (S_iald 0 2191) := k_iald (en_F E) dL_law_2190
theorem r_L_law_2191 (E : ax_EN G l) : ax_Snd G l ax_Ym M_L_law 2191 (S_aload 0 2192) := k_aload_n dL_law_2191 rfl
theorem r_L_law_2192 (E : ax_EN G l) : ax_Snd G l ax_Ym M_L_law 2192 (S_iload 4 2194) := k_iload dL_law_2192
theorem r_L_law_2194 (E : ax_EN G l) : ax_Snd G l ax_Ym M_L_law 2194 (S_push (.int (2)) 2195) := k_iconst dL_law_2194 rfl
theorem r_L_law_2195 (E : ax_EN G l) : ax_Snd G l ax_Ym M_L_law 2195 (S_i2 (fun x y => x + y) 2196) := k_iadd dL_law_2195
theorem r_L_law_2196 (E : ax_EN G l) : ax_Snd G l ax_Ym M_L_law 2196 (S_iald 0 2197) := k_iald (en_F E) dL_law_2196
theorem r_L_law_2197 (E : ax_EN G l) : ax_Snd G l ax_Ym M_L_law 2197 (S_aload 0 2198) := k_aload_n dL_law_2197 rfl
theorem r_L_law_2198 (E : ax_EN G l) : ax_Snd G l ax_Ym M_L_law 2198 (S_iload 4 2200) := k_iload dL_law_2198
theorem r_L_law_2200 (E : ax_EN G l) : ax_Snd G l ax_Ym M_L_law 2200 (S_push (.int (3)) 2201) := k_iconst dL_law_2200 rfl
theorem r_L_law_2201 (E : ax_EN G l) : ax_Snd G l ax_Ym M_L_law 2201 (S_i2 (fun x y => x + y) 2202) := k_iadd dL_law_2201
theorem r_L_law_2202 (E : ax_EN G l) : ax_Snd G l ax_Ym M_L_law 2202 (S_iald 0 2203) := k_iald (en_F E) dL_law_2202
theorem r_L_law_2203 (E : ax_EN G l) : ax_Snd G l ax_Ym M_L_law 2203 (S_aload 0 2204) := k_aload_n dL_law_2203 rfl
theorem r_L_law_2204 (E : ax_EN G l) : ax_Snd G l ax_Ym M_L_law 2204 (S_iload 4 2206) := k_iload dL_law_2204
theorem r_L_law_2206 (E : ax_EN G l) : ax_Snd G l ax_Ym M_L_law 2206 (S_push (.int (4)) 2207) := k_iconst dL_law_2206 rfl
theorem r_L_law_2207 (E : ax_EN G l) : ax_Snd G l ax_Ym M_L_law 2207 (S_i2 (fun x y => x + y) 2208) := k_iadd dL_law_2207
theorem r_L_law_2208 (E : ax_EN G l) : ax_Snd G l ax_Ym M_L_law 2208 (S_iald 0 2209) := k_iald (en_F E) dL_law_2208
theorem r_L_law_2209 (E : ax_EN G l) : ax_Snd G l ax_Ym M_L_law 2209 (S_iv [(38, 485)] 4 2212 hd_0) := k_iv (en_F E) (ax_ok0 E rfl) (ax_Evs_cons ((ev_v (en_c E (k := 38) rfl) rfl y_X3_addTest q3421 q3422 q3423 q126 q3424 nm_X3_addTest (Nat.le_of_ble_eq_true rfl) dL_law_2209) : ax_EvV G l ax_Ym M_L_law 2209 4 3 38 485) ax_Evs_nil)
theorem r_L_law_2212 (E : ax_EN G l) : ax_Snd G l ax_Ym M_L_law 2212 (S_istore 6 2214) := k_istore dL_law_2212 (Nat.le_of_ble_eq_true rfl)
theorem r_L_law_2214 (E : ax_EN G l) : ax_Snd G l ax_Ym M_L_law 2214 (S_aload 2 2215) := k_aload_n dL_law_2214 rfl
theorem r_L_law_2215 (E : ax_EN G l) : ax_Snd G l ax_Ym M_L_law 2215 (S_iv [(38, 372)] 0 2218 hd_0) := k_iv (en_F E) (ax_ok0 E rfl) (ax_Evs_cons ((ev_v (en_c E (k := 38) rfl) rfl y_X3_thrown q2976 q2977 q2978 q126 q2979 nm_X3_thrown (Nat.le_of_ble_eq_true rfl) dL_law_2215) : ax_EvV G l ax_Ym M_L_law 2215 0 3 38 372) ax_Evs_nil)
theorem r_L_law_2218 (E : ax_EN G l) : ax_Snd G l ax_Ym M_L_law 2218 (S_iload 5 2220) := k_iload dL_law_2218
theorem r_L_law_2220 (E : ax_EN G l) : ax_Snd G l ax_Ym M_L_law 2220 (S_if2 (fun x y => decide (x = y)) 2225 2223) := k_icmp_eq dL_law_2220 rfl
theorem r_L_law_2223 (E : ax_EN G l) : ax_Snd G l ax_Ym M_L_law 2223 (S_push (.int (0)) 2224) := k_iconst dL_law_2223 rfl
theorem r_L_law_2224 (E : ax_EN G l) : ax_Snd G l ax_Ym M_L_law 2224 (S_zret) := k_zret dL_law_2224 rfl
theorem r_L_law_2225 (E : ax_EN G l) : ax_Snd G l ax_Ym M_L_law 2225 (S_iload 5 2227) := k_iload dL_law_2225
theorem r_L_law_2227 (E : ax_EN G l) : ax_Snd G l ax_Ym M_L_law 2227 (S_if1 (fun x => decide (¬ x = 0)) 2242 2230) := k_if_ne dL_law_2227 rfl
theorem r_L_law_2230 (E : ax_EN G l) : ax_Snd G l ax_Ym M_L_law 2230 (S_aload 3 2231) := k_aload_n dL_law_2230 rfl
theorem r_L_law_2231 (E : ax_EN G l) : ax_Snd G l ax_Ym M_L_law 2231 (S_push (.int (0)) 2232) := k_iconst dL_law_2231 rfl
theorem r_L_law_2232 (E : ax_EN G l) : ax_Snd G l ax_Ym M_L_law 2232 (S_lald 1 2233) := k_lald (en_F E) dL_law_2232
theorem r_L_law_2233 (E : ax_EN G l) : ax_Snd G l ax_Ym M_L_law 2233 (S_iload 6 2235) := k_iload dL_law_2233
theorem r_L_law_2235 (E : ax_EN G l) : ax_Snd G l ax_Ym M_L_law 2235 (S_i2l 2236) := k_i2l dL_law_2235
theorem r_L_law_2236 (E : ax_EN G l) : ax_Snd G l ax_Ym M_L_law 2236 (S_lcmp 2237) := k_lcmp dL_law_2236
theorem r_L_law_2237 (E : ax_EN G l) : ax_Snd G l ax_Ym M_L_law 2237 (S_if1 (fun x => decide (x = 0)) 2242 2240) := k_if_eq dL_law_2237 rfl
theorem r_L_law_2240 (E : ax_EN G l) : ax_Snd G l ax_Ym M_L_law 2240 (S_push (.int (0)) 2241) := k_iconst dL_law_2240 rfl
theorem r_L_law_2241 (E : ax_EN G l) : ax_Snd G l ax_Ym M_L_law 2241 (S_zret) := k_zret dL_law_2241 rfl
theorem r_L_law_2242 (E : ax_EN G l) : ax_Snd G l ax_Ym M_L_law 2242 (S_goto 2371) := k_goto dL_law_2242 rfl
theorem r_L_law_2245 (E : ax_EN G l) : ax_Snd G l ax_Ym M_L_law 2245 (S_aload 1 2246) := k_aload_n dL_law_2245 rfl
theorem r_L_law_2246 (E : ax_EN G l) : ax_Snd G l ax_Ym M_L_law 2246 (S_iv [(19, 229)] 0 2249 hd_0) := k_iv (en_F E) (ax_ok0 E rfl) (ax_Evs_cons ((ev_v (en_c E (k := 19) rfl) rfl y_X1_tests q1370 q1371 q1372 q118 q1373 nm_X1_tests (Nat.le_of_ble_eq_true rfl) dL_law_2246) : ax_EvV G l ax_Ym M_L_law 2246 0 3 19 229) ax_Evs_nil)
theorem r_L_law_2249 (E : ax_EN G l) : ax_Snd G l ax_Ym M_L_law 2249 (S_aload 2 2250) := k_aload_n dL_law_2249 rfl
theorem r_L_law_2250 (E : ax_EN G l) : ax_Snd G l ax_Ym M_L_law 2250 (S_iv [(38, 486)] 0 2253 hd_0) := k_iv (en_F E) (ax_ok0 E rfl) (ax_Evs_cons ((ev_v (en_c E (k := 38) rfl) rfl y_X3_tests q3425 q3426 q3427 q126 q3428 nm_X3_tests (Nat.le_of_ble_eq_true rfl) dL_law_2250) : ax_EvV G l ax_Ym M_L_law 2250 0 3 38 486) ax_Evs_nil)
theorem r_L_law_2253 (E : ax_EN G l) : ax_Snd G l ax_Ym M_L_law 2253 (S_if2 (fun x y => decide (x = y)) 2371 2256) := k_icmp_eq dL_law_2253 rfl
theorem r_L_law_2256 (E : ax_EN G l) : ax_Snd G l ax_Ym M_L_law 2256 (S_push (.int (0)) 2257) := k_iconst dL_law_2256 rfl
theorem r_L_law_2257 (E : ax_EN G l) : ax_Snd G l ax_Ym M_L_law 2257 (S_zret) := k_zret dL_law_2257 rfl
theorem r_L_law_2258 (E : ax_EN G l) : ax_Snd G l ax_Ym M_L_law 2258 (S_aload 1 2259) := k_aload_n dL_law_2258 rfl
theorem r_L_law_2259 (E : ax_EN G l) : ax_Snd G l ax_Ym M_L_law 2259 (S_aload 3 2260) := k_aload_n dL_law_2259 rfl
theorem r_L_law_2260 (E : ax_EN G l) : ax_Snd G l ax_Ym M_L_law 2260 (S_is 207 2 2263 hd_0) := k_is (en_F E) (ax_ok0 E rfl) ((ev_sW y_X0_submit q2710 q2711 q117 q2712 nm_X0_submit (Nat.le_of_ble_eq_true rfl) dL_law_2260) : ax_EvS G l ax_Ym M_L_law 2260 207 2 3)
theorem r_L_law_2263 (E : ax_EN G l) : ax_Snd G l ax_Ym M_L_law 2263 (S_istore 5 2265) := k_istore dL_law_2263 (Nat.le_of_ble_eq_true rfl)
theorem r_L_law_2265 (E : ax_EN G l) : ax_Snd G l ax_Ym M_L_law 2265 (S_aload 2 2266) := k_aload_n dL_law_2265 rfl
theorem r_L_law_2266 (E : ax_EN G l) : ax_Snd G l ax_Ym M_L_law 2266 (S_iv [(38, 487)] 0 2269 hd_0) := k_iv (en_F E) (ax_ok0 E rfl) (ax_Evs_cons ((ev_v (en_c E (k := 38) rfl) rfl y_X3_submit q3429 q3430 q3431 q126 q3432 nm_X3_submit (Nat.le_of_ble_eq_true rfl) dL_law_2266) : ax_EvV G l ax_Ym M_L_law 2266 0 3 38 487) ax_Evs_nil)
theorem r_L_law_2269 (E : ax_EN G l) : ax_Snd G l ax_Ym M_L_law 2269 (S_istore 6 2271) := k_istore dL_law_2269 (Nat.le_of_ble_eq_true rfl)
theorem r_L_law_2271 (E : ax_EN G l) : ax_Snd G l ax_Ym M_L_law 2271 (S_aload 2 2272) := k_aload_n dL_law_2271 rfl
theorem r_L_law_2272 (E : ax_EN G l) : ax_Snd G l ax_Ym M_L_law 2272 (S_iv [(38, 372)] 0 2275 hd_0) := k_iv (en_F E) (ax_ok0 E rfl) (ax_Evs_cons ((ev_v (en_c E (k := 38) rfl) rfl y_X3_thrown q2976 q2977 q2978 q126 q2979 nm_X3_thrown (Nat.le_of_ble_eq_true rfl) dL_law_2272) : ax_EvV G l ax_Ym M_L_law 2272 0 3 38 372) ax_Evs_nil)
theorem r_L_law_2275 (E : ax_EN G l) : ax_Snd G l ax_Ym M_L_law 2275 (S_iload 5 2277) := k_iload dL_law_2275
theorem r_L_law_2277 (E : ax_EN G l) : ax_Snd G l ax_Ym M_L_law 2277 (S_if2 (fun x y => decide (x = y)) 2282 2280) := k_icmp_eq dL_law_2277 rfl
theorem r_L_law_2280 (E : ax_EN G l) : ax_Snd G l ax_Ym M_L_law 2280 (S_push (.int (0)) 2281) := k_iconst dL_law_2280 rfl
theorem r_L_law_2281 (E : ax_EN G l) : ax_Snd G l ax_Ym M_L_law 2281 (S_zret) := k_zret dL_law_2281 rfl
theorem r_L_law_2282 (E : ax_EN G l) : ax_Snd G l ax_Ym M_L_law 2282 (S_iload 5 2284) := k_iload dL_law_2282
theorem r_L_law_2284 (E : ax_EN G l) : ax_Snd G l ax_Ym M_L_law 2284 (S_if1 (fun x => decide (¬ x = 0)) 2299 2287) := k_if_ne dL_law_2284 rfl
theorem r_L_law_2287 (E : ax_EN G l) : ax_Snd G l ax_Ym M_L_law 2287 (S_aload 3 2288) := k_aload_n dL_law_2287 rfl
theorem r_L_law_2288 (E : ax_EN G l) : ax_Snd G l ax_Ym M_L_law 2288 (S_push (.int (0)) 2289) := k_iconst dL_law_2288 rfl
theorem r_L_law_2289 (E : ax_EN G l) : ax_Snd G l ax_Ym M_L_law 2289 (S_lald 1 2290) := k_lald (en_F E) dL_law_2289
theorem r_L_law_2290 (E : ax_EN G l) : ax_Snd G l ax_Ym M_L_law 2290 (S_iload 6 2292) := k_iload dL_law_2290
theorem r_L_law_2292 (E : ax_EN G l) : ax_Snd G l ax_Ym M_L_law 2292 (S_i2l 2293) := k_i2l dL_law_2292
theorem r_L_law_2293 (E : ax_EN G l) : ax_Snd G l ax_Ym M_L_law 2293 (S_lcmp 2294) := k_lcmp dL_law_2293
theorem r_L_law_2294 (E : ax_EN G l) : ax_Snd G l ax_Ym M_L_law 2294 (S_if1 (fun x => decide (x = 0)) 2299 2297) := k_if_eq dL_law_2294 rfl
theorem r_L_law_2297 (E : ax_EN G l) : ax_Snd G l ax_Ym M_L_law 2297 (S_push (.int (0)) 2298) := k_iconst dL_law_2297 rfl
theorem r_L_law_2298 (E : ax_EN G l) : ax_Snd G l ax_Ym M_L_law 2298 (S_zret) := k_zret dL_law_2298 rfl
theorem r_L_law_2299 (E : ax_EN G l) : ax_Snd G l ax_Ym M_L_law 2299 (S_goto 2371) := k_goto dL_law_2299 rfl
theorem r_L_law_2302 (E : ax_EN G l) : ax_Snd G l ax_Ym M_L_law 2302 (S_aload 1 2303) := k_aload_n dL_law_2302 rfl
theorem r_L_law_2303 (E : ax_EN G l) : ax_Snd G l ax_Ym M_L_law 2303 (S_aload 0 2304) := k_aload_n dL_law_2303 rfl
theorem r_L_law_2304 (E : ax_EN G l) : ax_Snd G l ax_Ym M_L_law 2304 (S_iload 4 2306) := k_iload dL_law_2304
theorem r_L_law_2306 (E : ax_EN G l) : ax_Snd G l ax_Ym M_L_law 2306 (S_push (.int (1)) 2307) := k_iconst dL_law_2306 rfl
theorem r_L_law_2307 (E : ax_EN G l) : ax_Snd G l ax_Ym M_L_law 2307 (S_i2 (fun x y => x + y) 2308) := k_iadd dL_law_2307
theorem r_L_law_2308 (E : ax_EN G l) : ax_Snd G l ax_Ym M_L_law 2308 (S_iald 0 2309) := k_iald (en_F E) dL_law_2308
theorem r_L_law_2309 (E : ax_EN G l) : ax_Snd G l ax_Ym M_L_law 2309 (S_aload 3 2310) := k_aload_n dL_law_2309 rfl
theorem r_L_law_2310 (E : ax_EN G l) : ax_Snd G l ax_Ym M_L_law 2310 (S_is 208 3 2313 hd_0) := k_is (en_F E) (ax_ok0 E rfl) ((ev_sW y_X0_result q2733 q2734 q117 q2735 nm_X0_result (Nat.le_of_ble_eq_true rfl) dL_law_2310) : ax_EvS G l ax_Ym M_L_law 2310 208 3 3)
theorem r_L_law_2313 (E : ax_EN G l) : ax_Snd G l ax_Ym M_L_law 2313 (S_istore 5 2315) := k_istore dL_law_2313 (Nat.le_of_ble_eq_true rfl)
theorem r_L_law_2315 (E : ax_EN G l) : ax_Snd G l ax_Ym M_L_law 2315 (S_aload 2 2316) := k_aload_n dL_law_2315 rfl
theorem r_L_law_2316 (E : ax_EN G l) : ax_Snd G l ax_Ym M_L_law 2316 (S_aload 0 2317) := k_aload_n dL_law_2316 rfl
theorem r_L_law_2317 (E : ax_EN G l) : ax_Snd G l ax_Ym M_L_law 2317 (S_iload 4 2319) := k_iload dL_law_2317
theorem r_L_law_2319 (E : ax_EN G l) : ax_Snd G l ax_Ym M_L_law 2319 (S_push (.int (1)) 2320) := k_iconst dL_law_2319 rfl
theorem r_L_law_2320 (E : ax_EN G l) : ax_Snd G l ax_Ym M_L_law 2320 (S_i2 (fun x y => x + y) 2321) := k_iadd dL_law_2320
theorem r_L_law_2321 (E : ax_EN G l) : ax_Snd G l ax_Ym M_L_law 2321 (S_iald 0 2322) := k_iald (en_F E) dL_law_2321
theorem r_L_law_2322 (E : ax_EN G l) : ax_Snd G l ax_Ym M_L_law 2322 (S_iv [(38, 490)] 1 2325 hd_0) := k_iv (en_F E) (ax_ok0 E rfl) (ax_Evs_cons ((ev_v (en_c E (k := 38) rfl) rfl y_X3_result q3441 q3442 q3443 q126 q3444 nm_X3_result (Nat.le_of_ble_eq_true rfl) dL_law_2322) : ax_EvV G l ax_Ym M_L_law 2322 1 3 38 490) ax_Evs_nil)
theorem r_L_law_2325 (E : ax_EN G l) : ax_Snd G l ax_Ym M_L_law 2325 (S_istore 6 2327) := k_istore dL_law_2325 (Nat.le_of_ble_eq_true rfl)
theorem r_L_law_2327 (E : ax_EN G l) : ax_Snd G l ax_Ym M_L_law 2327 (S_aload 2 2328) := k_aload_n dL_law_2327 rfl
theorem r_L_law_2328 (E : ax_EN G l) : ax_Snd G l ax_Ym M_L_law 2328 (S_iv [(38, 372)] 0 2331 hd_0) := k_iv (en_F E) (ax_ok0 E rfl) (ax_Evs_cons ((ev_v (en_c E (k := 38) rfl) rfl y_X3_thrown q2976 q2977 q2978 q126 q2979 nm_X3_thrown (Nat.le_of_ble_eq_true rfl) dL_law_2328) : ax_EvV G l ax_Ym M_L_law 2328 0 3 38 372) ax_Evs_nil)
theorem r_L_law_2331 (E : ax_EN G l) : ax_Snd G l ax_Ym M_L_law 2331 (S_iload 5 2333) := k_iload dL_law_2331
theorem r_L_law_2333 (E : ax_EN G l) : ax_Snd G l ax_Ym M_L_law 2333 (S_if2 (fun x y => decide (x = y)) 2338 2336) := k_icmp_eq dL_law_2333 rfl
theorem r_L_law_2336 (E : ax_EN G l) : ax_Snd G l ax_Ym M_L_law 2336 (S_push (.int (0)) 2337) := k_iconst dL_law_2336 rfl
theorem r_L_law_2337 (E : ax_EN G l) : ax_Snd G l ax_Ym M_L_law 2337 (S_zret) := k_zret dL_law_2337 rfl
theorem r_L_law_2338 (E : ax_EN G l) : ax_Snd G l ax_Ym M_L_law 2338 (S_iload 5 2340) := k_iload dL_law_2338
theorem r_L_law_2340 (E : ax_EN G l) : ax_Snd G l ax_Ym M_L_law 2340 (S_if1 (fun x => decide (¬ x = 0)) 2355 2343) := k_if_ne dL_law_2340 rfl
theorem r_L_law_2343 (E : ax_EN G l) : ax_Snd G l ax_Ym M_L_law 2343 (S_aload 3 2344) := k_aload_n dL_law_2343 rfl
theorem r_L_law_2344 (E : ax_EN G l) : ax_Snd G l ax_Ym M_L_law 2344 (S_push (.int (0)) 2345) := k_iconst dL_law_2344 rfl
theorem r_L_law_2345 (E : ax_EN G l) : ax_Snd G l ax_Ym M_L_law 2345 (S_lald 1 2346) := k_lald (en_F E) dL_law_2345
theorem r_L_law_2346 (E : ax_EN G l) : ax_Snd G l ax_Ym M_L_law 2346 (S_iload 6 2348) := k_iload dL_law_2346
theorem r_L_law_2348 (E : ax_EN G l) : ax_Snd G l ax_Ym M_L_law 2348 (S_i2l 2349) := k_i2l dL_law_2348
theorem r_L_law_2349 (E : ax_EN G l) : ax_Snd G l ax_Ym M_L_law 2349 (S_lcmp 2350) := k_lcmp dL_law_2349
theorem r_L_law_2350 (E : ax_EN G l) : ax_Snd G l ax_Ym M_L_law 2350 (S_if1 (fun x => decide (x = 0)) 2355 2353) := k_if_eq dL_law_2350 rfl
theorem r_L_law_2353 (E : ax_EN G l) : ax_Snd G l ax_Ym M_L_law 2353 (S_push (.int (0)) 2354) := k_iconst dL_law_2353 rfl
theorem r_L_law_2354 (E : ax_EN G l) : ax_Snd G l ax_Ym M_L_law 2354 (S_zret) := k_zret dL_law_2354 rfl
theorem r_L_law_2355 (E : ax_EN G l) : ax_Snd G l ax_Ym M_L_law 2355 (S_goto 2371) := k_goto dL_law_2355 rfl
theorem r_L_law_2358 (E : ax_EN G l) : ax_Snd G l ax_Ym M_L_law 2358 (S_aload 1 2359) := k_aload_n dL_law_2358 rfl
theorem r_L_law_2359 (E : ax_EN G l) : ax_Snd G l ax_Ym M_L_law 2359 (S_iv [(19, 230)] 0 2362 hd_0) := k_iv (en_F E) (ax_ok0 E rfl) (ax_Evs_cons ((ev_v (en_c E (k := 19) rfl) rfl y_X1_mark q1374 q1375 q1376 q118 q1377 nm_X1_mark (Nat.le_of_ble_eq_true rfl) dL_law_2359) : ax_EvV G l ax_Ym M_L_law 2359 0 3 19 230) ax_Evs_nil)
theorem r_L_law_2362 (E : ax_EN G l) : ax_Snd G l ax_Ym M_L_law 2362 (S_aload 2 2363) := k_aload_n dL_law_2362 rfl
theorem r_L_law_2363 (E : ax_EN G l) : ax_Snd G l ax_Ym M_L_law 2363 (S_iv [(38, 491)] 0 2366 hd_0) := k_iv (en_F E) (ax_ok0 E rfl) (ax_Evs_cons ((ev_v (en_c E (k := 38) rfl) rfl y_X3_mark q3445 q3446 q3447 q126 q3448 nm_X3_mark (Nat.le_of_ble_eq_true rfl) dL_law_2363) : ax_EvV G l ax_Ym M_L_law 2363 0 3 38 491) ax_Evs_nil)
theorem r_L_law_2366 (E : ax_EN G l) : ax_Snd G l ax_Ym M_L_law 2366 (S_if2 (fun x y => decide (x = y)) 2371 2369) := k_icmp_eq dL_law_2366 rfl
theorem r_L_law_2369 (E : ax_EN G l) : ax_Snd G l ax_Ym M_L_law 2369 (S_push (.int (0)) 2370) := k_iconst dL_law_2369 rfl
theorem r_L_law_2370 (E : ax_EN G l) : ax_Snd G l ax_Ym M_L_law 2370 (S_zret) := k_zret dL_law_2370 rfl
theorem r_L_law_2371 (E : ax_EN G l) : ax_Snd G l ax_Ym M_L_law 2371 (S_iinc 4 (6) 2374) := k_iinc dL_law_2371 rfl (Nat.le_of_ble_eq_true rfl)
theorem r_L_law_2374 (E : ax_EN G l) : ax_Snd G l ax_Ym M_L_law 2374 (S_goto 23) := k_goto dL_law_2374 rfl
theorem r_L_law_2377 (E : ax_EN G l) : ax_Snd G l ax_Ym M_L_law 2377 (S_push (.int (1)) 2378) := k_iconst dL_law_2377 rfl
theorem r_L_law_2378 (E : ax_EN G l) : ax_Snd G l ax_Ym M_L_law 2378 (S_zret) := k_zret dL_law_2378 rfl
theorem sn_L_law (E : ax_EN G l) : ∀ pc, ax_Snd G l ax_Ym M_L_law pc (P_L_law pc) := fun pc => (ax_sn_node (ax_sn_node (ax_sn_node (ax_sn_node (ax_sn_node (ax_sn_node (ax_sn_node (ax_sn_node (ax_sn_node (ax_sn_node (ax_sn_node (ax_sn_leaf (r_L_law_2378 E)) (ax_sn_leaf (r_L_law_2377 E))) (ax_sn_leaf (r_L_law_2374 E))) (ax_sn_node (ax_sn_node (ax_sn_leaf (r_L_law_2371 E)) (ax_sn_leaf (r_L_law_2370 E))) (ax_sn_leaf (r_L_law_2369 E)))) (ax_sn_node (ax_sn_node (ax_sn_node (ax_sn_leaf (r_L_law_2366 E)) (ax_sn_leaf (r_L_law_2363 E))) (ax_sn_leaf (r_L_law_2362 E))) (ax_sn_node (ax_sn_leaf (r_L_law_2359 E)) (ax_sn_leaf (r_L_law_2358 E))))) (ax_sn_node (ax_sn_node (ax_sn_node (ax_sn_node (ax_sn_leaf (r_L_law_2355 E)) (ax_sn_leaf (r_L_law_2354 E))) (ax_sn_leaf (r_L_law_2353 E))) (ax_sn_node (ax_sn_node (ax_sn_leaf (r_L_law_2350 E)) (ax_sn_leaf (r_L_law_2349 E))) (ax_sn_leaf (r_L_law_2348 E)))) (ax_sn_node (ax_sn_node (ax_sn_node (ax_sn_leaf (r_L_law_2346 E)) (ax_sn_leaf (r_L_law_2345 E))) (ax_sn_leaf (r_L_law_2344 E))) (ax_sn_node (ax_sn_leaf (r_L_law_2343 E)) (ax_sn_leaf (r_L_law_2340 E)))))) (ax_sn_node (ax_sn_node (ax_sn_node (ax_sn_node (ax_sn_node (ax_sn_leaf (r_L_law_2338 E)) (ax_sn_leaf (r_L_law_2337 E))) (ax_sn_leaf (r_L_law_2336 E))) (ax_sn_node (ax_sn_node (ax_sn_leaf (r_L_law_2333 E)) (ax_sn_leaf (r_L_law_2331 E))) (ax_sn_leaf (r_L_law_2328 E)))) (ax_sn_node (ax_sn_node (ax_sn_node (ax_sn_leaf (r_L_law_2327 E)) (ax_sn_leaf (r_L_law_2325 E))) (ax_sn_leaf (r_L_law_2322 E))) (ax_sn_node (ax_sn_leaf (r_L_law_2321 E)) (ax_sn_leaf (r_L_law_2320 E))))) (ax_sn_node (ax_sn_node (ax_sn_node (ax_sn_node (ax_sn_leaf (r_L_law_2319 E)) (ax_sn_leaf (r_L_law_2317 E))) (ax_sn_leaf (r_L_law_2316 E))) (ax_sn_node (ax_sn_leaf (r_L_law_2315 E)) (ax_sn_leaf (r_L_law_2313 E)))) (ax_sn_node (ax_sn_node (ax_sn_node (ax_sn_leaf (r_L_law_2310 E)) (ax_sn_leaf (r_L_law_2309 E))) (ax_sn_leaf (r_L_law_2308 E))) (ax_sn_node (ax_sn_leaf (r_L_law_2307 E)) (ax_sn_leaf (r_L_law_2306 E))))))) (ax_sn_node (ax_sn_node (ax_sn_node (ax_sn_node (ax_sn_node (ax_sn_node (ax_sn_leaf (r_L_law_2304 E)) (ax_sn_leaf (r_L_law_2303 E))) (ax_sn_leaf (r_L_law_2302 E))) (ax_sn_node (ax_sn_node (ax_sn_leaf (r_L_law_2299 E)) (ax_sn_leaf (r_L_law_2298 E))) (ax_sn_leaf (r_L_law_2297 E)))) (ax_sn_node (ax_sn_node (ax_sn_node (ax_sn_leaf (r_L_law_2294 E)) (ax_sn_leaf (r_L_law_2293 E))) (ax_sn_leaf (r_L_law_2292 E))) (ax_sn_node (ax_sn_leaf (r_L_law_2290 E)) (ax_sn_leaf (r_L_law_2289 E))))) (ax_sn_node (ax_sn_node (ax_sn_node (ax_sn_node (ax_sn_leaf (r_L_law_2288 E)) (ax_sn_leaf (r_L_law_2287 E))) (ax_sn_leaf (r_L_law_2284 E))) (ax_sn_node (ax_sn_leaf (r_L_law_2282 E)) (ax_sn_leaf (r_L_law_2281 E)))) (ax_sn_node (ax_sn_node (ax_sn_node (ax_sn_leaf (r_L_law_2280 E)) (ax_sn_leaf (r_L_law_2277 E))) (ax_sn_leaf (r_L_law_2275 E))) (ax_sn_node (ax_sn_leaf (r_L_law_2272 E)) (ax_sn_leaf (r_L_law_2271 E)))))) (ax_sn_node (ax_sn_node (ax_sn_node (ax_sn_node (ax_sn_node (ax_sn_leaf (r_L_law_2269 E)) (ax_sn_leaf (r_L_law_2266 E))) (ax_sn_leaf (r_L_law_2265 E))) (ax_sn_node (ax_sn_node (ax_sn_leaf (r_L_law_2263 E)) (ax_sn_leaf (r_L_law_2260 E))) (ax_sn_leaf (r_L_law_2259 E)))) (ax_sn_node (ax_sn_node (ax_sn_node (ax_sn_leaf (r_L_law_2258 E)) (ax_sn_leaf (r_L_law_2257 E))) (ax_sn_leaf (r_L_law_2256 E))) (ax_sn_node (ax_sn_leaf (r_L_law_2253 E)) (ax_sn_leaf (r_L_law_2250 E))))) (ax_sn_node (ax_sn_node (ax_sn_node (ax_sn_node (ax_sn_leaf (r_L_law_2249 E)) (ax_sn_leaf (r_L_law_2246 E))) (ax_sn_leaf (r_L_law_2245 E))) (ax_sn_node (ax_sn_leaf (r_L_law_2242 E)) (ax_sn_leaf (r_L_law_2241 E)))) (ax_sn_node (ax_sn_node (ax_sn_node (ax_sn_leaf (r_L_law_2240 E)) (ax_sn_leaf (r_L_law_2237 E))) (ax_sn_leaf (r_L_law_2236 E))) (ax_sn_node (ax_sn_leaf (r_L_law_2235 E)) (ax_sn_leaf (r_L_law_2233 E)))))))) (ax_sn_node (ax_sn_node (ax_sn_node (ax_sn_node (ax_sn_node (ax_sn_node (ax_sn_node (ax_sn_leaf (r_L_law_2232 E)) (ax_sn_leaf (r_L_law_2231 E))) (ax_sn_leaf (r_L_law_2230 E))) (ax_sn_node (ax_sn_node (ax_sn_leaf (r_L_law_2227 E)) (ax_sn_leaf (r_L_law_2225 E))) (ax_sn_leaf (r_L_law_2224 E)))) (ax_sn_node (ax_sn_node (ax_sn_node (ax_sn_leaf (r_L_law_2223 E)) (ax_sn_leaf (r_L_law_2220 E))) (ax_sn_leaf (r_L_law_2218 E))) (ax_sn_node (ax_sn_leaf (r_L_law_2215 E)) (ax_sn_leaf (r_L_law_2214 E))))) (ax_sn_node (ax_sn_node (ax_sn_node (ax_sn_node (ax_sn_leaf (r_L_law_2212 E)) (ax_sn_leaf (r_L_law_2209 E))) (ax_sn_leaf (r_L_law_2208 E))) (ax_sn_node (ax_sn_node (ax_sn_leaf (r_L_law_2207 E)) (ax_sn_leaf (r_L_law_2206 E))) (ax_sn_leaf (r_L_law_2204 E)))) (ax_sn_node (ax_sn_node (ax_sn_node (ax_sn_leaf (r_L_law_2203 E)) (ax_sn_leaf (r_L_law_2202 E))) (ax_sn_leaf (r_L_law_2201 E))) (ax_sn_node (ax_sn_leaf (r_L_law_2200 E)) (ax_sn_leaf (r_L_law_2198 E)))))) (ax_sn_node (ax_sn_node (ax_sn_node (ax_sn_node (ax_sn_node (ax_sn_leaf (r_L_law_2197 E)) (ax_sn_leaf (r_L_law_2196 E))) (ax_sn_leaf (r_L_law_2195 E))) (ax_sn_node (ax_sn_node (ax_sn_leaf (r_L_law_2194 E)) (ax_sn_leaf (r_L_law_2192 E))) (ax_sn_leaf (r_L_law_2191 E)))) (ax_sn_node (ax_sn_node (ax_sn_node (ax_sn_leaf (r_L_law_2190 E)) (ax_sn_leaf (r_L_law_2189 E))) (ax_sn_leaf (r_L_law_2188 E))) (ax_sn_node (ax_sn_leaf (r_L_law_2186 E)) (ax_sn_leaf (r_L_law_2185 E))))) (ax_sn_node (ax_sn_node (ax_sn_node (ax_sn_node (ax_sn_leaf (r_L_law_2184 E)) (ax_sn_leaf (r_L_law_2182 E))) (ax_sn_leaf (r_L_law_2179 E))) (ax_sn_node (ax_sn_leaf (r_L_law_2178 E)) (ax_sn_leaf (r_L_law_2177 E)))) (ax_sn_node (ax_sn_node (ax_sn_node (ax_sn_leaf (r_L_law_2176 E)) (ax_sn_leaf (r_L_law_2175 E))) (ax_sn_leaf (r_L_law_2173 E))) (ax_sn_node (ax_sn_leaf (r_L_law_2172 E)) (ax_sn_leaf (r_L_law_2171 E))))))) (ax_sn_node (ax_sn_node (ax_sn_node (ax_sn_node (ax_sn_node (ax_sn_node (ax_sn_leaf (r_L_law_2170 E)) (ax_sn_leaf (r_L_law_2169 E))) (ax_sn_leaf (r_L_law_2167 E))) (ax_sn_node (ax_sn_node (ax_sn_leaf (r_L_law_2166 E)) (ax_sn_leaf (r_L_law_2165 E))) (ax_sn_leaf (r_L_law_2164 E)))) (ax_sn_node (ax_sn_node (ax_sn_node (ax_sn_leaf (r_L_law_2163 E)) (ax_sn_leaf (r_L_law_2161 E))) (ax_sn_leaf (r_L_law_2160 E))) (ax_sn_node (ax_sn_leaf (r_L_law_2159 E)) (ax_sn_leaf (r_L_law_2158 E))))) (ax_sn_node (ax_sn_node (ax_sn_node (ax_sn_node (ax_sn_leaf (r_L_law_2157 E)) (ax_sn_leaf (r_L_law_2155 E))) (ax_sn_leaf (r_L_law_2154 E))) (ax_sn_node (ax_sn_leaf (r_L_law_2153 E)) (ax_sn_leaf (r_L_law_2150 E)))) (ax_sn_node (ax_sn_node (ax_sn_node (ax_sn_leaf (r_L_law_2149 E)) (ax_sn_leaf (r_L_law_2148 E))) (ax_sn_leaf (r_L_law_2145 E))) (ax_sn_node (ax_sn_leaf (r_L_law_2144 E)) (ax_sn_leaf (r_L_law_2143 E)))))) (ax_sn_node (ax_sn_node (ax_sn_node (ax_sn_node (ax_sn_node (ax_sn_leaf (r_L_law_2141 E)) (ax_sn_leaf (r_L_law_2140 E))) (ax_sn_leaf (r_L_law_2139 E))) (ax_sn_node (ax_sn_node (ax_sn_leaf (r_L_law_2138 E)) (ax_sn_leaf (r_L_law_2135 E))) (ax_sn_leaf (r_L_law_2133 E)))) (ax_sn_node (ax_sn_node (ax_sn_node (ax_sn_leaf (r_L_law_2132 E)) (ax_sn_leaf (r_L_law_2131 E))) (ax_sn_leaf (r_L_law_2128 E))) (ax_sn_node (ax_sn_leaf (r_L_law_2126 E)) (ax_sn_leaf (r_L_law_2123 E))))) (ax_sn_node (ax_sn_node (ax_sn_node (ax_sn_node (ax_sn_leaf (r_L_law_2122 E)) (ax_sn_leaf (r_L_law_2120 E))) (ax_sn_leaf (r_L_law_2117 E))) (ax_sn_node (ax_sn_leaf (r_L_law_2116 E)) (ax_sn_leaf (r_L_law_2115 E)))) (ax_sn_node (ax_sn_node (ax_sn_node (ax_sn_leaf (r_L_law_2114 E)) (ax_sn_leaf (r_L_law_2112 E))) (ax_sn_leaf (r_L_law_2111 E))) (ax_sn_node (ax_sn_leaf (r_L_law_2110 E)) (ax_sn_leaf (r_L_law_2108 E))))))))) (ax_sn_node (ax_sn_node (ax_sn_node (ax_sn_node (ax_sn_node (ax_sn_node (ax_sn_node (ax_sn_node (ax_sn_leaf (r_L_law_2105 E)) (ax_sn_leaf (r_L_law_2104 E))) (ax_sn_leaf (r_L_law_2103 E))) (ax_sn_node (ax_sn_node (ax_sn_leaf (r_L_law_2102 E)) (ax_sn_leaf (r_L_law_2101 E))) (ax_sn_leaf (r_L_law_2099 E)))) (ax_sn_node (ax_sn_node (ax_sn_node (ax_sn_leaf (r_L_law_2098 E)) (ax_sn_leaf (r_L_law_2097 E))) (ax_sn_leaf (r_L_law_2094 E))) (ax_sn_node (ax_sn_leaf (r_L_law_2093 E)) (ax_sn_leaf (r_L_law_2092 E))))) (ax_sn_node (ax_sn_node (ax_sn_node (ax_sn_node (ax_sn_leaf (r_L_law_2089 E)) (ax_sn_leaf (r_L_law_2088 E))) (ax_sn_leaf (r_L_law_2087 E))) (ax_sn_node (ax_sn_node (ax_sn_leaf (r_L_law_2085 E)) (ax_sn_leaf (r_L_law_2084 E))) (ax_sn_leaf (r_L_law_2083 E)))) (ax_sn_node (ax_sn_node (ax_sn_node (ax_sn_leaf (r_L_law_2082 E)) (ax_sn_leaf (r_L_law_2079 E))) (ax_sn_leaf (r_L_law_2077 E))) (ax_sn_node (ax_sn_leaf (r_L_law_2076 E)) (ax_sn_leaf (r_L_law_2075 E)))))) (ax_sn_node (ax_sn_node (ax_sn_node (ax_sn_node (ax_sn_node (ax_sn_leaf (r_L_law_2072 E)) (ax_sn_leaf (r_L_law_2070 E))) (ax_sn_leaf (r_L_law_2067 E))) (ax_sn_node (ax_sn_node (ax_sn_leaf (r_L_law_2066 E)) (ax_sn_leaf (r_L_law_2064 E))) (ax_sn_leaf (r_L_law_2061 E)))) (ax_sn_node (ax_sn_node (ax_sn_node (ax_sn_leaf (r_L_law_2060 E)) (ax_sn_leaf (r_L_law_2059 E))) (ax_sn_leaf (r_L_law_2058 E))) (ax_sn_node (ax_sn_leaf (r_L_law_2056 E)) (ax_sn_leaf (r_L_law_2055 E))))) (ax_sn_node (ax_sn_node (ax_sn_node (ax_sn_node (ax_sn_leaf (r_L_law_2054 E)) (ax_sn_leaf (r_L_law_2052 E))) (ax_sn_leaf (r_L_law_2049 E))) (ax_sn_node (ax_sn_leaf (r_L_law_2048 E)) (ax_sn_leaf (r_L_law_2047 E)))) (ax_sn_node (ax_sn_node (ax_sn_node (ax_sn_leaf (r_L_law_2046 E)) (ax_sn_leaf (r_L_law_2045 E))) (ax_sn_leaf (r_L_law_2043 E))) (ax_sn_node (ax_sn_leaf (r_L_law_2042 E)) (ax_sn_leaf (r_L_law_2041 E))))))) (ax_sn_node (ax_sn_node (ax_sn_node (ax_sn_node (ax_sn_node (ax_sn_node (ax_sn_leaf (r_L_law_2040 E)) (ax_sn_leaf (r_L_law_2039 E))) (ax_sn_leaf (r_L_law_2036 E))) (ax_sn_node (ax_sn_node (ax_sn_leaf (r_L_law_2033 E)) (ax_sn_leaf (r_L_law_2032 E))) (ax_sn_leaf (r_L_law_2029 E)))) (ax_sn_node (ax_sn_node (ax_sn_node (ax_sn_leaf (r_L_law_2028 E)) (ax_sn_leaf (r_L_law_2027 E))) (ax_sn_leaf (r_L_law_2026 E))) (ax_sn_node (ax_sn_leaf (r_L_law_2023 E)) (ax_sn_leaf (r_L_law_2020 E))))) (ax_sn_node (ax_sn_node (ax_sn_node (ax_sn_node (ax_sn_leaf (r_L_law_2019 E)) (ax_sn_leaf (r_L_law_2016 E))) (ax_sn_leaf (r_L_law_2015 E))) (ax_sn_node (ax_sn_leaf (r_L_law_2012 E)) (ax_sn_leaf (r_L_law_2011 E)))) (ax_sn_node (ax_sn_node (ax_sn_node (ax_sn_leaf (r_L_law_2010 E)) (ax_sn_leaf (r_L_law_2007 E))) (ax_sn_leaf (r_L_law_2006 E))) (ax_sn_node (ax_sn_leaf (r_L_law_2005 E)) (ax_sn_leaf (r_L_law_2003 E)))))) (ax_sn_node (ax_sn_node (ax_sn_node (ax_sn_node (ax_sn_node (ax_sn_leaf (r_L_law_2002 E)) (ax_sn_leaf (r_L_law_2001 E))) (ax_sn_leaf (r_L_law_2000 E))) (ax_sn_node (ax_sn_node (ax_sn_leaf (r_L_law_1997 E)) (ax_sn_leaf (r_L_law_1995 E))) (ax_sn_leaf (r_L_law_1994 E)))) (ax_sn_node (ax_sn_node (ax_sn_node (ax_sn_leaf (r_L_law_1993 E)) (ax_sn_leaf (r_L_law_1990 E))) (ax_sn_leaf (r_L_law_1988 E))) (ax_sn_node (ax_sn_leaf (r_L_law_1985 E)) (ax_sn_leaf (r_L_law_1984 E))))) (ax_sn_node (ax_sn_node (ax_sn_node (ax_sn_node (ax_sn_leaf (r_L_law_1982 E)) (ax_sn_leaf (r_L_law_1979 E))) (ax_sn_leaf (r_L_law_1978 E))) (ax_sn_node (ax_sn_leaf (r_L_law_1977 E)) (ax_sn_leaf (r_L_law_1976 E)))) (ax_sn_node (ax_sn_node (ax_sn_node (ax_sn_leaf (r_L_law_1974 E)) (ax_sn_leaf (r_L_law_1973 E))) (ax_sn_leaf (r_L_law_1972 E))) (ax_sn_node (ax_sn_leaf (r_L_law_1971 E)) (ax_sn_leaf (r_L_law_1970 E)))))))) (ax_sn_node (ax_sn_node (ax_sn_node (ax_sn_node (ax_sn_node (ax_sn_node (ax_sn_node (ax_sn_leaf (r_L_law_1968 E)) (ax_sn_leaf (r_L_law_1967 E))) (ax_sn_leaf (r_L_law_1966 E))) (ax_sn_node (ax_sn_node (ax_sn_leaf (r_L_law_1964 E)) (ax_sn_leaf (r_L_law_1961 E))) (ax_sn_leaf (r_L_law_1960 E)))) (ax_sn_node (ax_sn_node (ax_sn_node (ax_sn_leaf (r_L_law_1959 E)) (ax_sn_leaf (r_L_law_1958 E))) (ax_sn_leaf (r_L_law_1957 E))) (ax_sn_node (ax_sn_leaf (r_L_law_1955 E)) (ax_sn_leaf (r_L_law_1954 E))))) (ax_sn_node (ax_sn_node (ax_sn_node (ax_sn_node (ax_sn_leaf (r_L_law_1953 E)) (ax_sn_leaf (r_L_law_1952 E))) (ax_sn_leaf (r_L_law_1951 E))) (ax_sn_node (ax_sn_node (ax_sn_leaf (r_L_law_1949 E)) (ax_sn_leaf (r_L_law_1948 E))) (ax_sn_leaf (r_L_law_1947 E)))) (ax_sn_node (ax_sn_node (ax_sn_node (ax_sn_leaf (r_L_law_1944 E)) (ax_sn_leaf (r_L_law_1943 E))) (ax_sn_leaf (r_L_law_1942 E))) (ax_sn_node (ax_sn_leaf (r_L_law_1939 E)) (ax_sn_leaf (r_L_law_1938 E)))))) (ax_sn_node (ax_sn_node (ax_sn_node (ax_sn_node (ax_sn_node (ax_sn_leaf (r_L_law_1937 E)) (ax_sn_leaf (r_L_law_1935 E))) (ax_sn_leaf (r_L_law_1934 E))) (ax_sn_node (ax_sn_node (ax_sn_leaf (r_L_law_1933 E)) (ax_sn_leaf (r_L_law_1932 E))) (ax_sn_leaf (r_L_law_1929 E)))) (ax_sn_node (ax_sn_node (ax_sn_node (ax_sn_leaf (r_L_law_1927 E)) (ax_sn_leaf (r_L_law_1926 E))) (ax_sn_leaf (r_L_law_1925 E))) (ax_sn_node (ax_sn_leaf (r_L_law_1922 E)) (ax_sn_leaf (r_L_law_1920 E))))) (ax_sn_node (ax_sn_node (ax_sn_node (ax_sn_node (ax_sn_leaf (r_L_law_1917 E)) (ax_sn_leaf (r_L_law_1916 E))) (ax_sn_leaf (r_L_law_1914 E))) (ax_sn_node (ax_sn_leaf (r_L_law_1911 E)) (ax_sn_leaf (r_L_law_1910 E)))) (ax_sn_node (ax_sn_node (ax_sn_node (ax_sn_leaf (r_L_law_1909 E)) (ax_sn_leaf (r_L_law_1908 E))) (ax_sn_leaf (r_L_law_1906 E))) (ax_sn_node (ax_sn_leaf (r_L_law_1905 E)) (ax_sn_leaf (r_L_law_1904 E))))))) (ax_sn_node (ax_sn_node (ax_sn_node (ax_sn_node (ax_sn_node (ax_sn_node (ax_sn_leaf (r_L_law_1902 E)) (ax_sn_leaf (r_L_law_1899 E))) (ax_sn_leaf (r_L_law_1898 E))) (ax_sn_node (ax_sn_node (ax_sn_leaf (r_L_law_1897 E)) (ax_sn_leaf (r_L_law_1896 E))) (ax_sn_leaf (r_L_law_1895 E)))) (ax_sn_node (ax_sn_node (ax_sn_node (ax_sn_leaf (r_L_law_1893 E)) (ax_sn_leaf (r_L_law_1892 E))) (ax_sn_leaf (r_L_law_1891 E))) (ax_sn_node (ax_sn_leaf (r_L_law_1890 E)) (ax_sn_leaf (r_L_law_1889 E))))) (ax_sn_node (ax_sn_node (ax_sn_node (ax_sn_node (ax_sn_leaf (r_L_law_1886 E)) (ax_sn_leaf (r_L_law_1883 E))) (ax_sn_leaf (r_L_law_1882 E))) (ax_sn_node (ax_sn_leaf (r_L_law_1879 E)) (ax_sn_leaf (r_L_law_1878 E)))) (ax_sn_node (ax_sn_node (ax_sn_node (ax_sn_leaf (r_L_law_1875 E)) (ax_sn_leaf (r_L_law_1874 E))) (ax_sn_leaf (r_L_law_1873 E))) (ax_sn_node (ax_sn_leaf (r_L_law_1870 E)) (ax_sn_leaf (r_L_law_1869 E)))))) (ax_sn_node (ax_sn_node (ax_sn_node (ax_sn_node (ax_sn_node (ax_sn_leaf (r_L_law_1868 E)) (ax_sn_leaf (r_L_law_1866 E))) (ax_sn_leaf (r_L_law_1865 E))) (ax_sn_node (ax_sn_node (ax_sn_leaf (r_L_law_1864 E)) (ax_sn_leaf (r_L_law_1863 E))) (ax_sn_leaf (r_L_law_1860 E)))) (ax_sn_node (ax_sn_node (ax_sn_node (ax_sn_leaf (r_L_law_1858 E)) (ax_sn_leaf (r_L_law_1857 E))) (ax_sn_leaf (r_L_law_1856 E))) (ax_sn_node (ax_sn_leaf (r_L_law_1853 E)) (ax_sn_leaf (r_L_law_1851 E))))) (ax_sn_node (ax_sn_node (ax_sn_node (ax_sn_node (ax_sn_leaf (r_L_law_1848 E)) (ax_sn_leaf (r_L_law_1847 E))) (ax_sn_leaf (r_L_law_1845 E))) (ax_sn_node (ax_sn_leaf (r_L_law_1842 E)) (ax_sn_leaf (r_L_law_1841 E)))) (ax_sn_node (ax_sn_node (ax_sn_node (ax_sn_leaf (r_L_law_1840 E)) (ax_sn_leaf (r_L_law_1839 E))) (ax_sn_leaf (r_L_law_1837 E))) (ax_sn_node (ax_sn_leaf (r_L_law_1836 E)) (ax_sn_leaf (r_L_law_1835 E)))))))))) (ax_sn_node (ax_sn_node (ax_sn_node (ax_sn_node (ax_sn_node (ax_sn_node (ax_sn_node (ax_sn_node (ax_sn_node (ax_sn_leaf (r_L_law_1834 E)) (ax_sn_leaf (r_L_law_1833 E))) (ax_sn_leaf (r_L_law_1831 E))) (ax_sn_node (ax_sn_node (ax_sn_leaf (r_L_law_1830 E)) (ax_sn_leaf (r_L_law_1829 E))) (ax_sn_leaf (r_L_law_1827 E)))) (ax_sn_node (ax_sn_node (ax_sn_node (ax_sn_leaf (r_L_law_1824 E)) (ax_sn_leaf (r_L_law_1823 E))) (ax_sn_leaf (r_L_law_1822 E))) (ax_sn_node (ax_sn_leaf (r_L_law_1821 E)) (ax_sn_leaf (r_L_law_1820 E))))) (ax_sn_node (ax_sn_node (ax_sn_node (ax_sn_node (ax_sn_leaf (r_L_law_1818 E)) (ax_sn_leaf (r_L_law_1817 E))) (ax_sn_leaf (r_L_law_1816 E))) (ax_sn_node (ax_sn_node (ax_sn_leaf (r_L_law_1815 E)) (ax_sn_leaf (r_L_law_1814 E))) (ax_sn_leaf (r_L_law_1812 E)))) (ax_sn_node (ax_sn_node (ax_sn_node (ax_sn_leaf (r_L_law_1811 E)) (ax_sn_leaf (r_L_law_1810 E))) (ax_sn_leaf (r_L_law_1809 E))) (ax_sn_node (ax_sn_leaf (r_L_law_1808 E)) (ax_sn_leaf (r_L_law_1805 E)))))) (ax_sn_node (ax_sn_node (ax_sn_node (ax_sn_node (ax_sn_node (ax_sn_leaf (r_L_law_1802 E)) (ax_sn_leaf (r_L_law_1801 E))) (ax_sn_leaf (r_L_law_1798 E))) (ax_sn_node (ax_sn_node (ax_sn_leaf (r_L_law_1797 E)) (ax_sn_leaf (r_L_law_1794 E))) (ax_sn_leaf (r_L_law_1793 E)))) (ax_sn_node (ax_sn_node (ax_sn_node (ax_sn_leaf (r_L_law_1792 E)) (ax_sn_leaf (r_L_law_1789 E))) (ax_sn_leaf (r_L_law_1788 E))) (ax_sn_node (ax_sn_leaf (r_L_law_1787 E)) (ax_sn_leaf (r_L_law_1785 E))))) (ax_sn_node (ax_sn_node (ax_sn_node (ax_sn_node (ax_sn_leaf (r_L_law_1784 E)) (ax_sn_leaf (r_L_law_1783 E))) (ax_sn_leaf (r_L_law_1782 E))) (ax_sn_node (ax_sn_leaf (r_L_law_1779 E)) (ax_sn_leaf (r_L_law_1777 E)))) (ax_sn_node (ax_sn_node (ax_sn_node (ax_sn_leaf (r_L_law_1776 E)) (ax_sn_leaf (r_L_law_1775 E))) (ax_sn_leaf (r_L_law_1772 E))) (ax_sn_node (ax_sn_leaf (r_L_law_1770 E)) (ax_sn_leaf (r_L_law_1767 E))))))) (ax_sn_node (ax_sn_node (ax_sn_node (ax_sn_node (ax_sn_node (ax_sn_node (ax_sn_leaf (r_L_law_1766 E)) (ax_sn_leaf (r_L_law_1764 E))) (ax_sn_leaf (r_L_law_1761 E))) (ax_sn_node (ax_sn_node (ax_sn_leaf (r_L_law_1760 E)) (ax_sn_leaf (r_L_law_1759 E))) (ax_sn_leaf (r_L_law_1758 E)))) (ax_sn_node (ax_sn_node (ax_sn_node (ax_sn_leaf (r_L_law_1756 E)) (ax_sn_leaf (r_L_law_1755 E))) (ax_sn_leaf (r_L_law_1754 E))) (ax_sn_node (ax_sn_leaf (r_L_law_1752 E)) (ax_sn_leaf (r_L_law_1749 E))))) (ax_sn_node (ax_sn_node (ax_sn_node (ax_sn_node (ax_sn_leaf (r_L_law_1748 E)) (ax_sn_leaf (r_L_law_1747 E))) (ax_sn_leaf (r_L_law_1746 E))) (ax_sn_node (ax_sn_leaf (r_L_law_1745 E)) (ax_sn_leaf (r_L_law_1743 E)))) (ax_sn_node (ax_sn_node (ax_sn_node (ax_sn_leaf (r_L_law_1742 E)) (ax_sn_leaf (r_L_law_1741 E))) (ax_sn_leaf (r_L_law_1740 E))) (ax_sn_node (ax_sn_leaf (r_L_law_1739 E)) (ax_sn_leaf (r_L_law_1736 E)))))) (ax_sn_node (ax_sn_node (ax_sn_node (ax_sn_node (ax_sn_node (ax_sn_leaf (r_L_law_1733 E)) (ax_sn_leaf (r_L_law_1732 E))) (ax_sn_leaf (r_L_law_1729 E))) (ax_sn_node (ax_sn_node (ax_sn_leaf (r_L_law_1728 E)) (ax_sn_leaf (r_L_law_1725 E))) (ax_sn_leaf (r_L_law_1724 E)))) (ax_sn_node (ax_sn_node (ax_sn_node (ax_sn_leaf (r_L_law_1723 E)) (ax_sn_leaf (r_L_law_1720 E))) (ax_sn_leaf (r_L_law_1719 E))) (ax_sn_node (ax_sn_leaf (r_L_law_1718 E)) (ax_sn_leaf (r_L_law_1716 E))))) (ax_sn_node (ax_sn_node (ax_sn_node (ax_sn_node (ax_sn_leaf (r_L_law_1715 E)) (ax_sn_leaf (r_L_law_1714 E))) (ax_sn_leaf (r_L_law_1713 E))) (ax_sn_node (ax_sn_leaf (r_L_law_1710 E)) (ax_sn_leaf (r_L_law_1708 E)))) (ax_sn_node (ax_sn_node (ax_sn_node (ax_sn_leaf (r_L_law_1707 E)) (ax_sn_leaf (r_L_law_1706 E))) (ax_sn_leaf (r_L_law_1703 E))) (ax_sn_node (ax_sn_leaf (r_L_law_1701 E)) (ax_sn_leaf (r_L_law_1698 E)))))))) (ax_sn_node (ax_sn_node (ax_sn_node (ax_sn_node (ax_sn_node (ax_sn_node (ax_sn_node (ax_sn_leaf (r_L_law_1697 E)) (ax_sn_leaf (r_L_law_1695 E))) (ax_sn_leaf (r_L_law_1692 E))) (ax_sn_node (ax_sn_node (ax_sn_leaf (r_L_law_1691 E)) (ax_sn_leaf (r_L_law_1690 E))) (ax_sn_leaf (r_L_law_1689 E)))) (ax_sn_node (ax_sn_node (ax_sn_node (ax_sn_leaf (r_L_law_1687 E)) (ax_sn_leaf (r_L_law_1686 E))) (ax_sn_leaf (r_L_law_1685 E))) (ax_sn_node (ax_sn_leaf (r_L_law_1683 E)) (ax_sn_leaf (r_L_law_1680 E))))) (ax_sn_node (ax_sn_node (ax_sn_node (ax_sn_node (ax_sn_leaf (r_L_law_1679 E)) (ax_sn_leaf (r_L_law_1678 E))) (ax_sn_leaf (r_L_law_1677 E))) (ax_sn_node (ax_sn_node (ax_sn_leaf (r_L_law_1676 E)) (ax_sn_leaf (r_L_law_1674 E))) (ax_sn_leaf (r_L_law_1673 E)))) (ax_sn_node (ax_sn_node (ax_sn_node (ax_sn_leaf (r_L_law_1672 E)) (ax_sn_leaf (r_L_law_1671 E))) (ax_sn_leaf (r_L_law_1670 E))) (ax_sn_node (ax_sn_leaf (r_L_law_1667 E)) (ax_sn_leaf (r_L_law_1664 E)))))) (ax_sn_node (ax_sn_node (ax_sn_node (ax_sn_node (ax_sn_node (ax_sn_leaf (r_L_law_1663 E)) (ax_sn_leaf (r_L_law_1660 E))) (ax_sn_leaf (r_L_law_1659 E))) (ax_sn_node (ax_sn_node (ax_sn_leaf (r_L_law_1656 E)) (ax_sn_leaf (r_L_law_1655 E))) (ax_sn_leaf (r_L_law_1654 E)))) (ax_sn_node (ax_sn_node (ax_sn_node (ax_sn_leaf (r_L_law_1651 E)) (ax_sn_leaf (r_L_law_1650 E))) (ax_sn_leaf (r_L_law_1649 E))) (ax_sn_node (ax_sn_leaf (r_L_law_1647 E)) (ax_sn_leaf (r_L_law_1646 E))))) (ax_sn_node (ax_sn_node (ax_sn_node (ax_sn_node (ax_sn_leaf (r_L_law_1645 E)) (ax_sn_leaf (r_L_law_1644 E))) (ax_sn_leaf (r_L_law_1641 E))) (ax_sn_node (ax_sn_leaf (r_L_law_1639 E)) (ax_sn_leaf (r_L_law_1638 E)))) (ax_sn_node (ax_sn_node (ax_sn_node (ax_sn_leaf (r_L_law_1637 E)) (ax_sn_leaf (r_L_law_1634 E))) (ax_sn_leaf (r_L_law_1632 E))) (ax_sn_node (ax_sn_leaf (r_L_law_1629 E)) (ax_sn_leaf (r_L_law_1628 E))))))) (ax_sn_node (ax_sn_node (ax_sn_node (ax_sn_node (ax_sn_node (ax_sn_node (ax_sn_leaf (r_L_law_1626 E)) (ax_sn_leaf (r_L_law_1623 E))) (ax_sn_leaf (r_L_law_1622 E))) (ax_sn_node (ax_sn_node (ax_sn_leaf (r_L_law_1621 E)) (ax_sn_leaf (r_L_law_1620 E))) (ax_sn_leaf (r_L_law_1618 E)))) (ax_sn_node (ax_sn_node (ax_sn_node (ax_sn_leaf (r_L_law_1617 E)) (ax_sn_leaf (r_L_law_1616 E))) (ax_sn_leaf (r_L_law_1614 E))) (ax_sn_node (ax_sn_leaf (r_L_law_1611 E)) (ax_sn_leaf (r_L_law_1610 E))))) (ax_sn_node (ax_sn_node (ax_sn_node (ax_sn_node (ax_sn_leaf (r_L_law_1609 E)) (ax_sn_leaf (r_L_law_1608 E))) (ax_sn_leaf (r_L_law_1607 E))) (ax_sn_node (ax_sn_leaf (r_L_law_1605 E)) (ax_sn_leaf (r_L_law_1604 E)))) (ax_sn_node (ax_sn_node (ax_sn_node (ax_sn_leaf (r_L_law_1603 E)) (ax_sn_leaf (r_L_law_1600 E))) (ax_sn_leaf (r_L_law_1599 E))) (ax_sn_node (ax_sn_leaf (r_L_law_1598 E)) (ax_sn_leaf (r_L_law_1595 E)))))) (ax_sn_node (ax_sn_node (ax_sn_node (ax_sn_node (ax_sn_node (ax_sn_leaf (r_L_law_1594 E)) (ax_sn_leaf (r_L_law_1593 E))) (ax_sn_leaf (r_L_law_1591 E))) (ax_sn_node (ax_sn_node (ax_sn_leaf (r_L_law_1590 E)) (ax_sn_leaf (r_L_law_1589 E))) (ax_sn_leaf (r_L_law_1588 E)))) (ax_sn_node (ax_sn_node (ax_sn_node (ax_sn_leaf (r_L_law_1585 E)) (ax_sn_leaf (r_L_law_1583 E))) (ax_sn_leaf (r_L_law_1582 E))) (ax_sn_node (ax_sn_leaf (r_L_law_1581 E)) (ax_sn_leaf (r_L_law_1578 E))))) (ax_sn_node (ax_sn_node (ax_sn_node (ax_sn_node (ax_sn_leaf (r_L_law_1576 E)) (ax_sn_leaf (r_L_law_1573 E))) (ax_sn_leaf (r_L_law_1572 E))) (ax_sn_node (ax_sn_leaf (r_L_law_1570 E)) (ax_sn_leaf (r_L_law_1567 E)))) (ax_sn_node (ax_sn_node (ax_sn_node (ax_sn_leaf (r_L_law_1566 E)) (ax_sn_leaf (r_L_law_1565 E))) (ax_sn_leaf (r_L_law_1564 E))) (ax_sn_node (ax_sn_leaf (r_L_law_1562 E)) (ax_sn_leaf (r_L_law_1561 E))))))))) (ax_sn_node (ax_sn_node (ax_sn_node (ax_sn_node (ax_sn_node (ax_sn_node (ax_sn_node (ax_sn_node (ax_sn_leaf (r_L_law_1560 E)) (ax_sn_leaf (r_L_law_1558 E))) (ax_sn_leaf (r_L_law_1555 E))) (ax_sn_node (ax_sn_node (ax_sn_leaf (r_L_law_1554 E)) (ax_sn_leaf (r_L_law_1553 E))) (ax_sn_leaf (r_L_law_1552 E)))) (ax_sn_node (ax_sn_node (ax_sn_node (ax_sn_leaf (r_L_law_1551 E)) (ax_sn_leaf (r_L_law_1549 E))) (ax_sn_leaf (r_L_law_1548 E))) (ax_sn_node (ax_sn_leaf (r_L_law_1547 E)) (ax_sn_leaf (r_L_law_1544 E))))) (ax_sn_node (ax_sn_node (ax_sn_node (ax_sn_node (ax_sn_leaf (r_L_law_1543 E)) (ax_sn_leaf (r_L_law_1542 E))) (ax_sn_leaf (r_L_law_1539 E))) (ax_sn_node (ax_sn_node (ax_sn_leaf (r_L_law_1538 E)) (ax_sn_leaf (r_L_law_1537 E))) (ax_sn_leaf (r_L_law_1535 E)))) (ax_sn_node (ax_sn_node (ax_sn_node (ax_sn_leaf (r_L_law_1534 E)) (ax_sn_leaf (r_L_law_1533 E))) (ax_sn_leaf (r_L_law_1532 E))) (ax_sn_node (ax_sn_leaf (r_L_law_1529 E)) (ax_sn_leaf (r_L_law_1527 E)))))) (ax_sn_node (ax_sn_node (ax_sn_node (ax_sn_node (ax_sn_node (ax_sn_leaf (r_L_law_1526 E)) (ax_sn_leaf (r_L_law_1525 E))) (ax_sn_leaf (r_L_law_1522 E))) (ax_sn_node (ax_sn_node (ax_sn_leaf (r_L_law_1520 E)) (ax_sn_leaf (r_L_law_1517 E))) (ax_sn_leaf (r_L_law_1516 E)))) (ax_sn_node (ax_sn_node (ax_sn_node (ax_sn_leaf (r_L_law_1514 E)) (ax_sn_leaf (r_L_law_1511 E))) (ax_sn_leaf (r_L_law_1510 E))) (ax_sn_node (ax_sn_leaf (r_L_law_1509 E)) (ax_sn_leaf (r_L_law_1508 E))))) (ax_sn_node (ax_sn_node (ax_sn_node (ax_sn_node (ax_sn_leaf (r_L_law_1506 E)) (ax_sn_leaf (r_L_law_1505 E))) (ax_sn_leaf (r_L_law_1504 E))) (ax_sn_node (ax_sn_leaf (r_L_law_1502 E)) (ax_sn_leaf (r_L_law_1499 E)))) (ax_sn_node (ax_sn_node (ax_sn_node (ax_sn_leaf (r_L_law_1498 E)) (ax_sn_leaf (r_L_law_1497 E))) (ax_sn_leaf (r_L_law_1496 E))) (ax_sn_node (ax_sn_leaf (r_L_law_1495 E)) (ax_sn_leaf (r_L_law_1493 E))))))) (ax_sn_node (ax_sn_node (ax_sn_node (ax_sn_node (ax_sn_node (ax_sn_node (ax_sn_leaf (r_L_law_1492 E)) (ax_sn_leaf (r_L_law_1491 E))) (ax_sn_leaf (r_L_law_1490 E))) (ax_sn_node (ax_sn_node (ax_sn_leaf (r_L_law_1489 E)) (ax_sn_leaf (r_L_law_1486 E))) (ax_sn_leaf (r_L_law_1483 E)))) (ax_sn_node (ax_sn_node (ax_sn_node (ax_sn_leaf (r_L_law_1482 E)) (ax_sn_leaf (r_L_law_1479 E))) (ax_sn_leaf (r_L_law_1478 E))) (ax_sn_node (ax_sn_leaf (r_L_law_1477 E)) (ax_sn_leaf (r_L_law_1476 E))))) (ax_sn_node (ax_sn_node (ax_sn_node (ax_sn_node (ax_sn_leaf (r_L_law_1473 E)) (ax_sn_leaf (r_L_law_1470 E))) (ax_sn_leaf (r_L_law_1469 E))) (ax_sn_node (ax_sn_leaf (r_L_law_1466 E)) (ax_sn_leaf (r_L_law_1465 E)))) (ax_sn_node (ax_sn_node (ax_sn_node (ax_sn_leaf (r_L_law_1464 E)) (ax_sn_leaf (r_L_law_1463 E))) (ax_sn_leaf (r_L_law_1460 E))) (ax_sn_node (ax_sn_leaf (r_L_law_1457 E)) (ax_sn_leaf (r_L_law_1456 E)))))) (ax_sn_node (ax_sn_node (ax_sn_node (ax_sn_node (ax_sn_node (ax_sn_leaf (r_L_law_1453 E)) (ax_sn_leaf (r_L_law_1452 E))) (ax_sn_leaf (r_L_law_1451 E))) (ax_sn_node (ax_sn_node (ax_sn_leaf (r_L_law_1450 E)) (ax_sn_leaf (r_L_law_1447 E))) (ax_sn_leaf (r_L_law_1444 E)))) (ax_sn_node (ax_sn_node (ax_sn_node (ax_sn_leaf (r_L_law_1443 E)) (ax_sn_leaf (r_L_law_1440 E))) (ax_sn_leaf (r_L_law_1439 E))) (ax_sn_node (ax_sn_leaf (r_L_law_1438 E)) (ax_sn_leaf (r_L_law_1437 E))))) (ax_sn_node (ax_sn_node (ax_sn_node (ax_sn_node (ax_sn_leaf (r_L_law_1434 E)) (ax_sn_leaf (r_L_law_1431 E))) (ax_sn_leaf (r_L_law_1430 E))) (ax_sn_node (ax_sn_leaf (r_L_law_1427 E)) (ax_sn_leaf (r_L_law_1426 E)))) (ax_sn_node (ax_sn_node (ax_sn_node (ax_sn_leaf (r_L_law_1425 E)) (ax_sn_leaf (r_L_law_1424 E))) (ax_sn_leaf (r_L_law_1421 E))) (ax_sn_node (ax_sn_leaf (r_L_law_1418 E)) (ax_sn_leaf (r_L_law_1417 E)))))))) (ax_sn_node (ax_sn_node (ax_sn_node (ax_sn_node (ax_sn_node (ax_sn_node (ax_sn_node (ax_sn_leaf (r_L_law_1414 E)) (ax_sn_leaf (r_L_law_1413 E))) (ax_sn_leaf (r_L_law_1412 E))) (ax_sn_node (ax_sn_node (ax_sn_leaf (r_L_law_1411 E)) (ax_sn_leaf (r_L_law_1408 E))) (ax_sn_leaf (r_L_law_1405 E)))) (ax_sn_node (ax_sn_node (ax_sn_node (ax_sn_leaf (r_L_law_1404 E)) (ax_sn_leaf (r_L_law_1401 E))) (ax_sn_leaf (r_L_law_1400 E))) (ax_sn_node (ax_sn_leaf (r_L_law_1399 E)) (ax_sn_leaf (r_L_law_1398 E))))) (ax_sn_node (ax_sn_node (ax_sn_node (ax_sn_node (ax_sn_leaf (r_L_law_1395 E)) (ax_sn_leaf (r_L_law_1392 E))) (ax_sn_leaf (r_L_law_1391 E))) (ax_sn_node (ax_sn_leaf (r_L_law_1388 E)) (ax_sn_leaf (r_L_law_1387 E)))) (ax_sn_node (ax_sn_node (ax_sn_node (ax_sn_leaf (r_L_law_1384 E)) (ax_sn_leaf (r_L_law_1383 E))) (ax_sn_leaf (r_L_law_1382 E))) (ax_sn_node (ax_sn_leaf (r_L_law_1379 E)) (ax_sn_leaf (r_L_law_1378 E)))))) (ax_sn_node (ax_sn_node (ax_sn_node (ax_sn_node (ax_sn_node (ax_sn_leaf (r_L_law_1377 E)) (ax_sn_leaf (r_L_law_1375 E))) (ax_sn_leaf (r_L_law_1374 E))) (ax_sn_node (ax_sn_node (ax_sn_leaf (r_L_law_1373 E)) (ax_sn_leaf (r_L_law_1372 E))) (ax_sn_leaf (r_L_law_1369 E)))) (ax_sn_node (ax_sn_node (ax_sn_node (ax_sn_leaf (r_L_law_1367 E)) (ax_sn_leaf (r_L_law_1366 E))) (ax_sn_leaf (r_L_law_1365 E))) (ax_sn_node (ax_sn_leaf (r_L_law_1362 E)) (ax_sn_leaf (r_L_law_1360 E))))) (ax_sn_node (ax_sn_node (ax_sn_node (ax_sn_node (ax_sn_leaf (r_L_law_1357 E)) (ax_sn_leaf (r_L_law_1356 E))) (ax_sn_leaf (r_L_law_1354 E))) (ax_sn_node (ax_sn_leaf (r_L_law_1351 E)) (ax_sn_leaf (r_L_law_1350 E)))) (ax_sn_node (ax_sn_node (ax_sn_node (ax_sn_leaf (r_L_law_1349 E)) (ax_sn_leaf (r_L_law_1348 E))) (ax_sn_leaf (r_L_law_1346 E))) (ax_sn_node (ax_sn_leaf (r_L_law_1345 E)) (ax_sn_leaf (r_L_law_1344 E))))))) (ax_sn_node (ax_sn_node (ax_sn_node (ax_sn_node (ax_sn_node (ax_sn_node (ax_sn_leaf (r_L_law_1342 E)) (ax_sn_leaf (r_L_law_1339 E))) (ax_sn_leaf (r_L_law_1338 E))) (ax_sn_node (ax_sn_node (ax_sn_leaf (r_L_law_1337 E)) (ax_sn_leaf (r_L_law_1336 E))) (ax_sn_leaf (r_L_law_1335 E)))) (ax_sn_node (ax_sn_node (ax_sn_node (ax_sn_leaf (r_L_law_1333 E)) (ax_sn_leaf (r_L_law_1332 E))) (ax_sn_leaf (r_L_law_1331 E))) (ax_sn_node (ax_sn_leaf (r_L_law_1328 E)) (ax_sn_leaf (r_L_law_1327 E))))) (ax_sn_node (ax_sn_node (ax_sn_node (ax_sn_node (ax_sn_leaf (r_L_law_1326 E)) (ax_sn_leaf (r_L_law_1323 E))) (ax_sn_leaf (r_L_law_1322 E))) (ax_sn_node (ax_sn_leaf (r_L_law_1321 E)) (ax_sn_leaf (r_L_law_1319 E)))) (ax_sn_node (ax_sn_node (ax_sn_node (ax_sn_leaf (r_L_law_1318 E)) (ax_sn_leaf (r_L_law_1317 E))) (ax_sn_leaf (r_L_law_1316 E))) (ax_sn_node (ax_sn_leaf (r_L_law_1313 E)) (ax_sn_leaf (r_L_law_1311 E)))))) (ax_sn_node (ax_sn_node (ax_sn_node (ax_sn_node (ax_sn_node (ax_sn_leaf (r_L_law_1310 E)) (ax_sn_leaf (r_L_law_1309 E))) (ax_sn_leaf (r_L_law_1306 E))) (ax_sn_node (ax_sn_node (ax_sn_leaf (r_L_law_1304 E)) (ax_sn_leaf (r_L_law_1301 E))) (ax_sn_leaf (r_L_law_1300 E)))) (ax_sn_node (ax_sn_node (ax_sn_node (ax_sn_leaf (r_L_law_1298 E)) (ax_sn_leaf (r_L_law_1295 E))) (ax_sn_leaf (r_L_law_1294 E))) (ax_sn_node (ax_sn_leaf (r_L_law_1293 E)) (ax_sn_leaf (r_L_law_1292 E))))) (ax_sn_node (ax_sn_node (ax_sn_node (ax_sn_node (ax_sn_leaf (r_L_law_1290 E)) (ax_sn_leaf (r_L_law_1289 E))) (ax_sn_leaf (r_L_law_1288 E))) (ax_sn_node (ax_sn_leaf (r_L_law_1286 E)) (ax_sn_leaf (r_L_law_1283 E)))) (ax_sn_node (ax_sn_node (ax_sn_node (ax_sn_leaf (r_L_law_1282 E)) (ax_sn_leaf (r_L_law_1281 E))) (ax_sn_leaf (r_L_law_1280 E))) (ax_sn_node (ax_sn_leaf (r_L_law_1279 E)) (ax_sn_leaf (r_L_law_1277 E))))))))))) (ax_sn_node (ax_sn_node (ax_sn_node (ax_sn_node (ax_sn_node (ax_sn_node (ax_sn_node (ax_sn_node (ax_sn_node (ax_sn_node (ax_sn_leaf (r_L_law_1276 E)) (ax_sn_leaf (r_L_law_1275 E))) (ax_sn_leaf (r_L_law_1272 E))) (ax_sn_node (ax_sn_node (ax_sn_leaf (r_L_law_1271 E)) (ax_sn_leaf (r_L_law_1270 E))) (ax_sn_leaf (r_L_law_1267 E)))) (ax_sn_node (ax_sn_node (ax_sn_node (ax_sn_leaf (r_L_law_1266 E)) (ax_sn_leaf (r_L_law_1265 E))) (ax_sn_leaf (r_L_law_1263 E))) (ax_sn_node (ax_sn_leaf (r_L_law_1262 E)) (ax_sn_leaf (r_L_law_1261 E))))) (ax_sn_node (ax_sn_node (ax_sn_node (ax_sn_node (ax_sn_leaf (r_L_law_1260 E)) (ax_sn_leaf (r_L_law_1257 E))) (ax_sn_leaf (r_L_law_1255 E))) (ax_sn_node (ax_sn_node (ax_sn_leaf (r_L_law_1254 E)) (ax_sn_leaf (r_L_law_1253 E))) (ax_sn_leaf (r_L_law_1250 E)))) (ax_sn_node (ax_sn_node (ax_sn_node (ax_sn_leaf (r_L_law_1248 E)) (ax_sn_leaf (r_L_law_1245 E))) (ax_sn_leaf (r_L_law_1244 E))) (ax_sn_node (ax_sn_leaf (r_L_law_1242 E)) (ax_sn_leaf (r_L_law_1239 E)))))) (ax_sn_node (ax_sn_node (ax_sn_node (ax_sn_node (ax_sn_node (ax_sn_leaf (r_L_law_1238 E)) (ax_sn_leaf (r_L_law_1237 E))) (ax_sn_leaf (r_L_law_1236 E))) (ax_sn_node (ax_sn_node (ax_sn_leaf (r_L_law_1234 E)) (ax_sn_leaf (r_L_law_1233 E))) (ax_sn_leaf (r_L_law_1232 E)))) (ax_sn_node (ax_sn_node (ax_sn_node (ax_sn_leaf (r_L_law_1231 E)) (ax_sn_leaf (r_L_law_1230 E))) (ax_sn_leaf (r_L_law_1228 E))) (ax_sn_node (ax_sn_leaf (r_L_law_1227 E)) (ax_sn_leaf (r_L_law_1226 E))))) (ax_sn_node (ax_sn_node (ax_sn_node (ax_sn_node (ax_sn_leaf (r_L_law_1224 E)) (ax_sn_leaf (r_L_law_1221 E))) (ax_sn_leaf (r_L_law_1220 E))) (ax_sn_node (ax_sn_leaf (r_L_law_1219 E)) (ax_sn_leaf (r_L_law_1218 E)))) (ax_sn_node (ax_sn_node (ax_sn_node (ax_sn_leaf (r_L_law_1217 E)) (ax_sn_leaf (r_L_law_1215 E))) (ax_sn_leaf (r_L_law_1214 E))) (ax_sn_node (ax_sn_leaf (r_L_law_1213 E)) (ax_sn_leaf (r_L_law_1212 E))))))) (ax_sn_node (ax_sn_node (ax_sn_node (ax_sn_node (ax_sn_node (ax_sn_node (ax_sn_leaf (r_L_law_1211 E)) (ax_sn_leaf (r_L_law_1209 E))) (ax_sn_leaf (r_L_law_1208 E))) (ax_sn_node (ax_sn_node (ax_sn_leaf (r_L_law_1207 E)) (ax_sn_leaf (r_L_law_1204 E))) (ax_sn_leaf (r_L_law_1203 E)))) (ax_sn_node (ax_sn_node (ax_sn_node (ax_sn_leaf (r_L_law_1202 E)) (ax_sn_leaf (r_L_law_1199 E))) (ax_sn_leaf (r_L_law_1198 E))) (ax_sn_node (ax_sn_leaf (r_L_law_1197 E)) (ax_sn_leaf (r_L_law_1195 E))))) (ax_sn_node (ax_sn_node (ax_sn_node (ax_sn_node (ax_sn_leaf (r_L_law_1194 E)) (ax_sn_leaf (r_L_law_1193 E))) (ax_sn_leaf (r_L_law_1192 E))) (ax_sn_node (ax_sn_leaf (r_L_law_1189 E)) (ax_sn_leaf (r_L_law_1187 E)))) (ax_sn_node (ax_sn_node (ax_sn_node (ax_sn_leaf (r_L_law_1186 E)) (ax_sn_leaf (r_L_law_1185 E))) (ax_sn_leaf (r_L_law_1182 E))) (ax_sn_node (ax_sn_leaf (r_L_law_1180 E)) (ax_sn_leaf (r_L_law_1177 E)))))) (ax_sn_node (ax_sn_node (ax_sn_node (ax_sn_node (ax_sn_node (ax_sn_leaf (r_L_law_1176 E)) (ax_sn_leaf (r_L_law_1174 E))) (ax_sn_leaf (r_L_law_1171 E))) (ax_sn_node (ax_sn_node (ax_sn_leaf (r_L_law_1170 E)) (ax_sn_leaf (r_L_law_1169 E))) (ax_sn_leaf (r_L_law_1168 E)))) (ax_sn_node (ax_sn_node (ax_sn_node (ax_sn_leaf (r_L_law_1166 E)) (ax_sn_leaf (r_L_law_1165 E))) (ax_sn_leaf (r_L_law_1164 E))) (ax_sn_node (ax_sn_leaf (r_L_law_1162 E)) (ax_sn_leaf (r_L_law_1159 E))))) (ax_sn_node (ax_sn_node (ax_sn_node (ax_sn_node (ax_sn_leaf (r_L_law_1158 E)) (ax_sn_leaf (r_L_law_1157 E))) (ax_sn_leaf (r_L_law_1156 E))) (ax_sn_node (ax_sn_leaf (r_L_law_1155 E)) (ax_sn_leaf (r_L_law_1153 E)))) (ax_sn_node (ax_sn_node (ax_sn_node (ax_sn_leaf (r_L_law_1152 E)) (ax_sn_leaf (r_L_law_1151 E))) (ax_sn_leaf (r_L_law_1148 E))) (ax_sn_node (ax_sn_leaf (r_L_law_1147 E)) (ax_sn_leaf (r_L_law_1146 E)))))))) (ax_sn_node (ax_sn_node (ax_sn_node (ax_sn_node (ax_sn_node (ax_sn_node (ax_sn_node (ax_sn_leaf (r_L_law_1143 E)) (ax_sn_leaf (r_L_law_1142 E))) (ax_sn_leaf (r_L_law_1141 E))) (ax_sn_node (ax_sn_node (ax_sn_leaf (r_L_law_1139 E)) (ax_sn_leaf (r_L_law_1138 E))) (ax_sn_leaf (r_L_law_1137 E)))) (ax_sn_node (ax_sn_node (ax_sn_node (ax_sn_leaf (r_L_law_1136 E)) (ax_sn_leaf (r_L_law_1133 E))) (ax_sn_leaf (r_L_law_1131 E))) (ax_sn_node (ax_sn_leaf (r_L_law_1130 E)) (ax_sn_leaf (r_L_law_1129 E))))) (ax_sn_node (ax_sn_node (ax_sn_node (ax_sn_node (ax_sn_leaf (r_L_law_1126 E)) (ax_sn_leaf (r_L_law_1124 E))) (ax_sn_leaf (r_L_law_1121 E))) (ax_sn_node (ax_sn_node (ax_sn_leaf (r_L_law_1120 E)) (ax_sn_leaf (r_L_law_1118 E))) (ax_sn_leaf (r_L_law_1115 E)))) (ax_sn_node (ax_sn_node (ax_sn_node (ax_sn_leaf (r_L_law_1114 E)) (ax_sn_leaf (r_L_law_1112 E))) (ax_sn_leaf (r_L_law_1109 E))) (ax_sn_node (ax_sn_leaf (r_L_law_1108 E)) (ax_sn_leaf (r_L_law_1107 E)))))) (ax_sn_node (ax_sn_node (ax_sn_node (ax_sn_node (ax_sn_node (ax_sn_leaf (r_L_law_1104 E)) (ax_sn_leaf (r_L_law_1103 E))) (ax_sn_leaf (r_L_law_1102 E))) (ax_sn_node (ax_sn_node (ax_sn_leaf (r_L_law_1099 E)) (ax_sn_leaf (r_L_law_1098 E))) (ax_sn_leaf (r_L_law_1097 E)))) (ax_sn_node (ax_sn_node (ax_sn_node (ax_sn_leaf (r_L_law_1095 E)) (ax_sn_leaf (r_L_law_1094 E))) (ax_sn_leaf (r_L_law_1093 E))) (ax_sn_node (ax_sn_leaf (r_L_law_1092 E)) (ax_sn_leaf (r_L_law_1089 E))))) (ax_sn_node (ax_sn_node (ax_sn_node (ax_sn_node (ax_sn_leaf (r_L_law_1087 E)) (ax_sn_leaf (r_L_law_1086 E))) (ax_sn_leaf (r_L_law_1085 E))) (ax_sn_node (ax_sn_leaf (r_L_law_1082 E)) (ax_sn_leaf (r_L_law_1080 E)))) (ax_sn_node (ax_sn_node (ax_sn_node (ax_sn_leaf (r_L_law_1077 E)) (ax_sn_leaf (r_L_law_1076 E))) (ax_sn_leaf (r_L_law_1074 E))) (ax_sn_node (ax_sn_leaf (r_L_law_1071 E)) (ax_sn_leaf (r_L_law_1070 E))))))) (ax_sn_node (ax_sn_node (ax_sn_node (ax_sn_node (ax_sn_node (ax_sn_node (ax_sn_leaf (r_L_law_1068 E)) (ax_sn_leaf (r_L_law_1065 E))) (ax_sn_leaf (r_L_law_1064 E))) (ax_sn_node (ax_sn_node (ax_sn_leaf (r_L_law_1063 E)) (ax_sn_leaf (r_L_law_1060 E))) (ax_sn_leaf (r_L_law_1059 E)))) (ax_sn_node (ax_sn_node (ax_sn_node (ax_sn_leaf (r_L_law_1058 E)) (ax_sn_leaf (r_L_law_1055 E))) (ax_sn_leaf (r_L_law_1054 E))) (ax_sn_node (ax_sn_leaf (r_L_law_1053 E)) (ax_sn_leaf (r_L_law_1051 E))))) (ax_sn_node (ax_sn_node (ax_sn_node (ax_sn_node (ax_sn_leaf (r_L_law_1050 E)) (ax_sn_leaf (r_L_law_1049 E))) (ax_sn_leaf (r_L_law_1048 E))) (ax_sn_node (ax_sn_leaf (r_L_law_1045 E)) (ax_sn_leaf (r_L_law_1043 E)))) (ax_sn_node (ax_sn_node (ax_sn_node (ax_sn_leaf (r_L_law_1042 E)) (ax_sn_leaf (r_L_law_1041 E))) (ax_sn_leaf (r_L_law_1038 E))) (ax_sn_node (ax_sn_leaf (r_L_law_1036 E)) (ax_sn_leaf (r_L_law_1033 E)))))) (ax_sn_node (ax_sn_node (ax_sn_node (ax_sn_node (ax_sn_node (ax_sn_leaf (r_L_law_1032 E)) (ax_sn_leaf (r_L_law_1030 E))) (ax_sn_leaf (r_L_law_1027 E))) (ax_sn_node (ax_sn_node (ax_sn_leaf (r_L_law_1026 E)) (ax_sn_leaf (r_L_law_1024 E))) (ax_sn_leaf (r_L_law_1021 E)))) (ax_sn_node (ax_sn_node (ax_sn_node (ax_sn_leaf (r_L_law_1020 E)) (ax_sn_leaf (r_L_law_1019 E))) (ax_sn_leaf (r_L_law_1016 E))) (ax_sn_node (ax_sn_leaf (r_L_law_1015 E)) (ax_sn_leaf (r_L_law_1014 E))))) (ax_sn_node (ax_sn_node (ax_sn_node (ax_sn_node (ax_sn_leaf (r_L_law_1011 E)) (ax_sn_leaf (r_L_law_1010 E))) (ax_sn_leaf (r_L_law_1009 E))) (ax_sn_node (ax_sn_leaf (r_L_law_1007 E)) (ax_sn_leaf (r_L_law_1006 E)))) (ax_sn_node (ax_sn_node (ax_sn_node (ax_sn_leaf (r_L_law_1005 E)) (ax_sn_leaf (r_L_law_1004 E))) (ax_sn_leaf (r_L_law_1001 E))) (ax_sn_node (ax_sn_leaf (r_L_law_999 E)) (ax_sn_leaf (r_L_law_998 E))))))))) (ax_sn_node (ax_sn_node (ax_sn_node (ax_sn_node (ax_sn_node (ax_sn_node (ax_sn_node (ax_sn_node (ax_sn_leaf (r_L_law_997 E)) (ax_sn_leaf (r_L_law_994 E))) (ax_sn_leaf (r_L_law_992 E))) (ax_sn_node (ax_sn_node (ax_sn_leaf (r_L_law_989 E)) (ax_sn_leaf (r_L_law_988 E))) (ax_sn_leaf (r_L_law_986 E)))) (ax_sn_node (ax_sn_node (ax_sn_node (ax_sn_leaf (r_L_law_983 E)) (ax_sn_leaf (r_L_law_982 E))) (ax_sn_leaf (r_L_law_981 E))) (ax_sn_node (ax_sn_leaf (r_L_law_980 E)) (ax_sn_leaf (r_L_law_978 E))))) (ax_sn_node (ax_sn_node (ax_sn_node (ax_sn_node (ax_sn_leaf (r_L_law_977 E)) (ax_sn_leaf (r_L_law_976 E))) (ax_sn_leaf (r_L_law_974 E))) (ax_sn_node (ax_sn_node (ax_sn_leaf (r_L_law_971 E)) (ax_sn_leaf (r_L_law_970 E))) (ax_sn_leaf (r_L_law_969 E)))) (ax_sn_node (ax_sn_node (ax_sn_node (ax_sn_leaf (r_L_law_968 E)) (ax_sn_leaf (r_L_law_967 E))) (ax_sn_leaf (r_L_law_965 E))) (ax_sn_node (ax_sn_leaf (r_L_law_964 E)) (ax_sn_leaf (r_L_law_963 E)))))) (ax_sn_node (ax_sn_node (ax_sn_node (ax_sn_node (ax_sn_node (ax_sn_leaf (r_L_law_960 E)) (ax_sn_leaf (r_L_law_959 E))) (ax_sn_leaf (r_L_law_958 E))) (ax_sn_node (ax_sn_node (ax_sn_leaf (r_L_law_955 E)) (ax_sn_leaf (r_L_law_954 E))) (ax_sn_leaf (r_L_law_953 E)))) (ax_sn_node (ax_sn_node (ax_sn_node (ax_sn_leaf (r_L_law_951 E)) (ax_sn_leaf (r_L_law_950 E))) (ax_sn_leaf (r_L_law_949 E))) (ax_sn_node (ax_sn_leaf (r_L_law_948 E)) (ax_sn_leaf (r_L_law_945 E))))) (ax_sn_node (ax_sn_node (ax_sn_node (ax_sn_node (ax_sn_leaf (r_L_law_943 E)) (ax_sn_leaf (r_L_law_942 E))) (ax_sn_leaf (r_L_law_941 E))) (ax_sn_node (ax_sn_leaf (r_L_law_938 E)) (ax_sn_leaf (r_L_law_936 E)))) (ax_sn_node (ax_sn_node (ax_sn_node (ax_sn_leaf (r_L_law_933 E)) (ax_sn_leaf (r_L_law_932 E))) (ax_sn_leaf (r_L_law_930 E))) (ax_sn_node (ax_sn_leaf (r_L_law_927 E)) (ax_sn_leaf (r_L_law_926 E))))))) (ax_sn_node (ax_sn_node (ax_sn_node (ax_sn_node (ax_sn_node (ax_sn_node (ax_sn_leaf (r_L_law_924 E)) (ax_sn_leaf (r_L_law_921 E))) (ax_sn_leaf (r_L_law_920 E))) (ax_sn_node (ax_sn_node (ax_sn_leaf (r_L_law_919 E)) (ax_sn_leaf (r_L_law_918 E))) (ax_sn_leaf (r_L_law_917 E)))) (ax_sn_node (ax_sn_node (ax_sn_node (ax_sn_leaf (r_L_law_914 E)) (ax_sn_leaf (r_L_law_911 E))) (ax_sn_leaf (r_L_law_910 E))) (ax_sn_node (ax_sn_leaf (r_L_law_907 E)) (ax_sn_leaf (r_L_law_906 E))))) (ax_sn_node (ax_sn_node (ax_sn_node (ax_sn_node (ax_sn_leaf (r_L_law_903 E)) (ax_sn_leaf (r_L_law_902 E))) (ax_sn_leaf (r_L_law_901 E))) (ax_sn_node (ax_sn_leaf (r_L_law_898 E)) (ax_sn_leaf (r_L_law_897 E)))) (ax_sn_node (ax_sn_node (ax_sn_node (ax_sn_leaf (r_L_law_896 E)) (ax_sn_leaf (r_L_law_894 E))) (ax_sn_leaf (r_L_law_893 E))) (ax_sn_node (ax_sn_leaf (r_L_law_892 E)) (ax_sn_leaf (r_L_law_891 E)))))) (ax_sn_node (ax_sn_node (ax_sn_node (ax_sn_node (ax_sn_node (ax_sn_leaf (r_L_law_888 E)) (ax_sn_leaf (r_L_law_886 E))) (ax_sn_leaf (r_L_law_885 E))) (ax_sn_node (ax_sn_node (ax_sn_leaf (r_L_law_884 E)) (ax_sn_leaf (r_L_law_881 E))) (ax_sn_leaf (r_L_law_879 E)))) (ax_sn_node (ax_sn_node (ax_sn_node (ax_sn_leaf (r_L_law_876 E)) (ax_sn_leaf (r_L_law_875 E))) (ax_sn_leaf (r_L_law_873 E))) (ax_sn_node (ax_sn_leaf (r_L_law_870 E)) (ax_sn_leaf (r_L_law_869 E))))) (ax_sn_node (ax_sn_node (ax_sn_node (ax_sn_node (ax_sn_leaf (r_L_law_868 E)) (ax_sn_leaf (r_L_law_867 E))) (ax_sn_leaf (r_L_law_865 E))) (ax_sn_node (ax_sn_leaf (r_L_law_864 E)) (ax_sn_leaf (r_L_law_863 E)))) (ax_sn_node (ax_sn_node (ax_sn_node (ax_sn_leaf (r_L_law_862 E)) (ax_sn_leaf (r_L_law_861 E))) (ax_sn_leaf (r_L_law_859 E))) (ax_sn_node (ax_sn_leaf (r_L_law_858 E)) (ax_sn_leaf (r_L_law_857 E)))))))) (ax_sn_node (ax_sn_node (ax_sn_node (ax_sn_node (ax_sn_node (ax_sn_node (ax_sn_node (ax_sn_leaf (r_L_law_856 E)) (ax_sn_leaf (r_L_law_855 E))) (ax_sn_leaf (r_L_law_853 E))) (ax_sn_node (ax_sn_node (ax_sn_leaf (r_L_law_852 E)) (ax_sn_leaf (r_L_law_851 E))) (ax_sn_leaf (r_L_law_850 E)))) (ax_sn_node (ax_sn_node (ax_sn_node (ax_sn_leaf (r_L_law_849 E)) (ax_sn_leaf (r_L_law_847 E))) (ax_sn_leaf (r_L_law_846 E))) (ax_sn_node (ax_sn_leaf (r_L_law_845 E)) (ax_sn_leaf (r_L_law_844 E))))) (ax_sn_node (ax_sn_node (ax_sn_node (ax_sn_node (ax_sn_leaf (r_L_law_843 E)) (ax_sn_leaf (r_L_law_841 E))) (ax_sn_leaf (r_L_law_840 E))) (ax_sn_node (ax_sn_leaf (r_L_law_839 E)) (ax_sn_leaf (r_L_law_837 E)))) (ax_sn_node (ax_sn_node (ax_sn_node (ax_sn_leaf (r_L_law_834 E)) (ax_sn_leaf (r_L_law_833 E))) (ax_sn_leaf (r_L_law_832 E))) (ax_sn_node (ax_sn_leaf (r_L_law_831 E)) (ax_sn_leaf (r_L_law_830 E)))))) (ax_sn_node (ax_sn_node (ax_sn_node (ax_sn_node (ax_sn_node (ax_sn_leaf (r_L_law_828 E)) (ax_sn_leaf (r_L_law_827 E))) (ax_sn_leaf (r_L_law_826 E))) (ax_sn_node (ax_sn_node (ax_sn_leaf (r_L_law_825 E)) (ax_sn_leaf (r_L_law_824 E))) (ax_sn_leaf (r_L_law_822 E)))) (ax_sn_node (ax_sn_node (ax_sn_node (ax_sn_leaf (r_L_law_821 E)) (ax_sn_leaf (r_L_law_820 E))) (ax_sn_leaf (r_L_law_819 E))) (ax_sn_node (ax_sn_leaf (r_L_law_818 E)) (ax_sn_leaf (r_L_law_816 E))))) (ax_sn_node (ax_sn_node (ax_sn_node (ax_sn_node (ax_sn_leaf (r_L_law_815 E)) (ax_sn_leaf (r_L_law_814 E))) (ax_sn_leaf (r_L_law_813 E))) (ax_sn_node (ax_sn_leaf (r_L_law_812 E)) (ax_sn_leaf (r_L_law_810 E)))) (ax_sn_node (ax_sn_node (ax_sn_node (ax_sn_leaf (r_L_law_809 E)) (ax_sn_leaf (r_L_law_808 E))) (ax_sn_leaf (r_L_law_807 E))) (ax_sn_node (ax_sn_leaf (r_L_law_806 E)) (ax_sn_leaf (r_L_law_804 E))))))) (ax_sn_node (ax_sn_node (ax_sn_node (ax_sn_node (ax_sn_node (ax_sn_node (ax_sn_leaf (r_L_law_803 E)) (ax_sn_leaf (r_L_law_802 E))) (ax_sn_leaf (r_L_law_799 E))) (ax_sn_node (ax_sn_node (ax_sn_leaf (r_L_law_798 E)) (ax_sn_leaf (r_L_law_797 E))) (ax_sn_leaf (r_L_law_794 E)))) (ax_sn_node (ax_sn_node (ax_sn_node (ax_sn_leaf (r_L_law_793 E)) (ax_sn_leaf (r_L_law_792 E))) (ax_sn_leaf (r_L_law_790 E))) (ax_sn_node (ax_sn_leaf (r_L_law_789 E)) (ax_sn_leaf (r_L_law_788 E))))) (ax_sn_node (ax_sn_node (ax_sn_node (ax_sn_node (ax_sn_leaf (r_L_law_787 E)) (ax_sn_leaf (r_L_law_784 E))) (ax_sn_leaf (r_L_law_782 E))) (ax_sn_node (ax_sn_leaf (r_L_law_781 E)) (ax_sn_leaf (r_L_law_780 E)))) (ax_sn_node (ax_sn_node (ax_sn_node (ax_sn_leaf (r_L_law_777 E)) (ax_sn_leaf (r_L_law_775 E))) (ax_sn_leaf (r_L_law_772 E))) (ax_sn_node (ax_sn_leaf (r_L_law_771 E)) (ax_sn_leaf (r_L_law_769 E)))))) (ax_sn_node (ax_sn_node (ax_sn_node (ax_sn_node (ax_sn_node (ax_sn_leaf (r_L_law_766 E)) (ax_sn_leaf (r_L_law_765 E))) (ax_sn_leaf (r_L_law_763 E))) (ax_sn_node (ax_sn_node (ax_sn_leaf (r_L_law_760 E)) (ax_sn_leaf (r_L_law_759 E))) (ax_sn_leaf (r_L_law_758 E)))) (ax_sn_node (ax_sn_node (ax_sn_node (ax_sn_leaf (r_L_law_755 E)) (ax_sn_leaf (r_L_law_754 E))) (ax_sn_leaf (r_L_law_753 E))) (ax_sn_node (ax_sn_leaf (r_L_law_750 E)) (ax_sn_leaf (r_L_law_749 E))))) (ax_sn_node (ax_sn_node (ax_sn_node (ax_sn_node (ax_sn_leaf (r_L_law_748 E)) (ax_sn_leaf (r_L_law_746 E))) (ax_sn_leaf (r_L_law_745 E))) (ax_sn_node (ax_sn_leaf (r_L_law_744 E)) (ax_sn_leaf (r_L_law_743 E)))) (ax_sn_node (ax_sn_node (ax_sn_node (ax_sn_leaf (r_L_law_740 E)) (ax_sn_leaf (r_L_law_738 E))) (ax_sn_leaf (r_L_law_737 E))) (ax_sn_node (ax_sn_leaf (r_L_law_736 E)) (ax_sn_leaf (r_L_law_733 E)))))))))) (ax_sn_node (ax_sn_node (ax_sn_node (ax_sn_node (ax_sn_node (ax_sn_node (ax_sn_node (ax_sn_node (ax_sn_node (ax_sn_leaf (r_L_law_731 E)) (ax_sn_leaf (r_L_law_728 E))) (ax_sn_leaf (r_L_law_727 E))) (ax_sn_node (ax_sn_node (ax_sn_leaf (r_L_law_725 E)) (ax_sn_leaf (r_L_law_722 E))) (ax_sn_leaf (r_L_law_721 E)))) (ax_sn_node (ax_sn_node (ax_sn_node (ax_sn_leaf (r_L_law_720 E)) (ax_sn_leaf (r_L_law_719 E))) (ax_sn_leaf (r_L_law_717 E))) (ax_sn_node (ax_sn_leaf (r_L_law_716 E)) (ax_sn_leaf (r_L_law_715 E))))) (ax_sn_node (ax_sn_node (ax_sn_node (ax_sn_node (ax_sn_leaf (r_L_law_713 E)) (ax_sn_leaf (r_L_law_710 E))) (ax_sn_leaf (r_L_law_709 E))) (ax_sn_node (ax_sn_node (ax_sn_leaf (r_L_law_708 E)) (ax_sn_leaf (r_L_law_707 E))) (ax_sn_leaf (r_L_law_706 E)))) (ax_sn_node (ax_sn_node (ax_sn_node (ax_sn_leaf (r_L_law_704 E)) (ax_sn_leaf (r_L_law_703 E))) (ax_sn_leaf (r_L_law_702 E))) (ax_sn_node (ax_sn_leaf (r_L_law_699 E)) (ax_sn_leaf (r_L_law_698 E)))))) (ax_sn_node (ax_sn_node (ax_sn_node (ax_sn_node (ax_sn_node (ax_sn_leaf (r_L_law_697 E)) (ax_sn_leaf (r_L_law_694 E))) (ax_sn_leaf (r_L_law_693 E))) (ax_sn_node (ax_sn_node (ax_sn_leaf (r_L_law_692 E)) (ax_sn_leaf (r_L_law_690 E))) (ax_sn_leaf (r_L_law_689 E)))) (ax_sn_node (ax_sn_node (ax_sn_node (ax_sn_leaf (r_L_law_688 E)) (ax_sn_leaf (r_L_law_687 E))) (ax_sn_leaf (r_L_law_684 E))) (ax_sn_node (ax_sn_leaf (r_L_law_682 E)) (ax_sn_leaf (r_L_law_681 E))))) (ax_sn_node (ax_sn_node (ax_sn_node (ax_sn_node (ax_sn_leaf (r_L_law_680 E)) (ax_sn_leaf (r_L_law_677 E))) (ax_sn_leaf (r_L_law_675 E))) (ax_sn_node (ax_sn_leaf (r_L_law_672 E)) (ax_sn_leaf (r_L_law_671 E)))) (ax_sn_node (ax_sn_node (ax_sn_node (ax_sn_leaf (r_L_law_669 E)) (ax_sn_leaf (r_L_law_666 E))) (ax_sn_leaf (r_L_law_665 E))) (ax_sn_node (ax_sn_leaf (r_L_law_664 E)) (ax_sn_leaf (r_L_law_663 E))))))) (ax_sn_node (ax_sn_node (ax_sn_node (ax_sn_node (ax_sn_node (ax_sn_node (ax_sn_leaf (r_L_law_661 E)) (ax_sn_leaf (r_L_law_660 E))) (ax_sn_leaf (r_L_law_659 E))) (ax_sn_node (ax_sn_node (ax_sn_leaf (r_L_law_658 E)) (ax_sn_leaf (r_L_law_657 E))) (ax_sn_leaf (r_L_law_655 E)))) (ax_sn_node (ax_sn_node (ax_sn_node (ax_sn_leaf (r_L_law_654 E)) (ax_sn_leaf (r_L_law_653 E))) (ax_sn_leaf (r_L_law_652 E))) (ax_sn_node (ax_sn_leaf (r_L_law_651 E)) (ax_sn_leaf (r_L_law_649 E))))) (ax_sn_node (ax_sn_node (ax_sn_node (ax_sn_node (ax_sn_leaf (r_L_law_648 E)) (ax_sn_leaf (r_L_law_647 E))) (ax_sn_leaf (r_L_law_645 E))) (ax_sn_node (ax_sn_leaf (r_L_law_642 E)) (ax_sn_leaf (r_L_law_641 E)))) (ax_sn_node (ax_sn_node (ax_sn_node (ax_sn_leaf (r_L_law_640 E)) (ax_sn_leaf (r_L_law_639 E))) (ax_sn_leaf (r_L_law_638 E))) (ax_sn_node (ax_sn_leaf (r_L_law_636 E)) (ax_sn_leaf (r_L_law_635 E)))))) (ax_sn_node (ax_sn_node (ax_sn_node (ax_sn_node (ax_sn_node (ax_sn_leaf (r_L_law_634 E)) (ax_sn_leaf (r_L_law_633 E))) (ax_sn_leaf (r_L_law_632 E))) (ax_sn_node (ax_sn_node (ax_sn_leaf (r_L_law_630 E)) (ax_sn_leaf (r_L_law_629 E))) (ax_sn_leaf (r_L_law_628 E)))) (ax_sn_node (ax_sn_node (ax_sn_node (ax_sn_leaf (r_L_law_627 E)) (ax_sn_leaf (r_L_law_626 E))) (ax_sn_leaf (r_L_law_624 E))) (ax_sn_node (ax_sn_leaf (r_L_law_623 E)) (ax_sn_leaf (r_L_law_622 E))))) (ax_sn_node (ax_sn_node (ax_sn_node (ax_sn_node (ax_sn_leaf (r_L_law_619 E)) (ax_sn_leaf (r_L_law_618 E))) (ax_sn_leaf (r_L_law_617 E))) (ax_sn_node (ax_sn_leaf (r_L_law_614 E)) (ax_sn_leaf (r_L_law_613 E)))) (ax_sn_node (ax_sn_node (ax_sn_node (ax_sn_leaf (r_L_law_612 E)) (ax_sn_leaf (r_L_law_610 E))) (ax_sn_leaf (r_L_law_609 E))) (ax_sn_node (ax_sn_leaf (r_L_law_608 E)) (ax_sn_leaf (r_L_law_607 E)))))))) (ax_sn_node (ax_sn_node (ax_sn_node (ax_sn_node (ax_sn_node (ax_sn_node (ax_sn_node (ax_sn_leaf (r_L_law_604 E)) (ax_sn_leaf (r_L_law_602 E))) (ax_sn_leaf (r_L_law_601 E))) (ax_sn_node (ax_sn_node (ax_sn_leaf (r_L_law_600 E)) (ax_sn_leaf (r_L_law_597 E))) (ax_sn_leaf (r_L_law_595 E)))) (ax_sn_node (ax_sn_node (ax_sn_node (ax_sn_leaf (r_L_law_592 E)) (ax_sn_leaf (r_L_law_591 E))) (ax_sn_leaf (r_L_law_589 E))) (ax_sn_node (ax_sn_leaf (r_L_law_586 E)) (ax_sn_leaf (r_L_law_585 E))))) (ax_sn_node (ax_sn_node (ax_sn_node (ax_sn_node (ax_sn_leaf (r_L_law_584 E)) (ax_sn_leaf (r_L_law_583 E))) (ax_sn_leaf (r_L_law_581 E))) (ax_sn_node (ax_sn_node (ax_sn_leaf (r_L_law_580 E)) (ax_sn_leaf (r_L_law_579 E))) (ax_sn_leaf (r_L_law_577 E)))) (ax_sn_node (ax_sn_node (ax_sn_node (ax_sn_leaf (r_L_law_574 E)) (ax_sn_leaf (r_L_law_573 E))) (ax_sn_leaf (r_L_law_572 E))) (ax_sn_node (ax_sn_leaf (r_L_law_571 E)) (ax_sn_leaf (r_L_law_570 E)))))) (ax_sn_node (ax_sn_node (ax_sn_node (ax_sn_node (ax_sn_node (ax_sn_leaf (r_L_law_568 E)) (ax_sn_leaf (r_L_law_567 E))) (ax_sn_leaf (r_L_law_566 E))) (ax_sn_node (ax_sn_node (ax_sn_leaf (r_L_law_563 E)) (ax_sn_leaf (r_L_law_562 E))) (ax_sn_leaf (r_L_law_561 E)))) (ax_sn_node (ax_sn_node (ax_sn_node (ax_sn_leaf (r_L_law_558 E)) (ax_sn_leaf (r_L_law_557 E))) (ax_sn_leaf (r_L_law_556 E))) (ax_sn_node (ax_sn_leaf (r_L_law_554 E)) (ax_sn_leaf (r_L_law_553 E))))) (ax_sn_node (ax_sn_node (ax_sn_node (ax_sn_node (ax_sn_leaf (r_L_law_552 E)) (ax_sn_leaf (r_L_law_551 E))) (ax_sn_leaf (r_L_law_548 E))) (ax_sn_node (ax_sn_leaf (r_L_law_546 E)) (ax_sn_leaf (r_L_law_545 E)))) (ax_sn_node (ax_sn_node (ax_sn_node (ax_sn_leaf (r_L_law_544 E)) (ax_sn_leaf (r_L_law_541 E))) (ax_sn_leaf (r_L_law_539 E))) (ax_sn_node (ax_sn_leaf (r_L_law_536 E)) (ax_sn_leaf (r_L_law_535 E))))))) (ax_sn_node (ax_sn_node (ax_sn_node (ax_sn_node (ax_sn_node (ax_sn_node (ax_sn_leaf (r_L_law_533 E)) (ax_sn_leaf (r_L_law_530 E))) (ax_sn_leaf (r_L_law_529 E))) (ax_sn_node (ax_sn_node (ax_sn_leaf (r_L_law_528 E)) (ax_sn_leaf (r_L_law_527 E))) (ax_sn_leaf (r_L_law_525 E)))) (ax_sn_node (ax_sn_node (ax_sn_node (ax_sn_leaf (r_L_law_524 E)) (ax_sn_leaf (r_L_law_523 E))) (ax_sn_leaf (r_L_law_522 E))) (ax_sn_node (ax_sn_leaf (r_L_law_521 E)) (ax_sn_leaf (r_L_law_519 E))))) (ax_sn_node (ax_sn_node (ax_sn_node (ax_sn_node (ax_sn_leaf (r_L_law_518 E)) (ax_sn_leaf (r_L_law_517 E))) (ax_sn_leaf (r_L_law_515 E))) (ax_sn_node (ax_sn_leaf (r_L_law_512 E)) (ax_sn_leaf (r_L_law_511 E)))) (ax_sn_node (ax_sn_node (ax_sn_node (ax_sn_leaf (r_L_law_510 E)) (ax_sn_leaf (r_L_law_509 E))) (ax_sn_leaf (r_L_law_508 E))) (ax_sn_node (ax_sn_leaf (r_L_law_506 E)) (ax_sn_leaf (r_L_law_505 E)))))) (ax_sn_node (ax_sn_node (ax_sn_node (ax_sn_node (ax_sn_node (ax_sn_leaf (r_L_law_504 E)) (ax_sn_leaf (r_L_law_503 E))) (ax_sn_leaf (r_L_law_502 E))) (ax_sn_node (ax_sn_node (ax_sn_leaf (r_L_law_500 E)) (ax_sn_leaf (r_L_law_499 E))) (ax_sn_leaf (r_L_law_498 E)))) (ax_sn_node (ax_sn_node (ax_sn_node (ax_sn_leaf (r_L_law_495 E)) (ax_sn_leaf (r_L_law_494 E))) (ax_sn_leaf (r_L_law_493 E))) (ax_sn_node (ax_sn_leaf (r_L_law_490 E)) (ax_sn_leaf (r_L_law_489 E))))) (ax_sn_node (ax_sn_node (ax_sn_node (ax_sn_node (ax_sn_leaf (r_L_law_488 E)) (ax_sn_leaf (r_L_law_486 E))) (ax_sn_leaf (r_L_law_485 E))) (ax_sn_node (ax_sn_leaf (r_L_law_484 E)) (ax_sn_leaf (r_L_law_483 E)))) (ax_sn_node (ax_sn_node (ax_sn_node (ax_sn_leaf (r_L_law_480 E)) (ax_sn_leaf (r_L_law_478 E))) (ax_sn_leaf (r_L_law_477 E))) (ax_sn_node (ax_sn_leaf (r_L_law_476 E)) (ax_sn_leaf (r_L_law_473 E))))))))) (ax_sn_node (ax_sn_node (ax_sn_node (ax_sn_node (ax_sn_node (ax_sn_node (ax_sn_node (ax_sn_node (ax_sn_leaf (r_L_law_471 E)) (ax_sn_leaf (r_L_law_468 E))) (ax_sn_leaf (r_L_law_467 E))) (ax_sn_node (ax_sn_node (ax_sn_leaf (r_L_law_465 E)) (ax_sn_leaf (r_L_law_462 E))) (ax_sn_leaf (r_L_law_461 E)))) (ax_sn_node (ax_sn_node (ax_sn_node (ax_sn_leaf (r_L_law_460 E)) (ax_sn_leaf (r_L_law_459 E))) (ax_sn_leaf (r_L_law_457 E))) (ax_sn_node (ax_sn_leaf (r_L_law_456 E)) (ax_sn_leaf (r_L_law_455 E))))) (ax_sn_node (ax_sn_node (ax_sn_node (ax_sn_node (ax_sn_leaf (r_L_law_454 E)) (ax_sn_leaf (r_L_law_453 E))) (ax_sn_leaf (r_L_law_451 E))) (ax_sn_node (ax_sn_node (ax_sn_leaf (r_L_law_450 E)) (ax_sn_leaf (r_L_law_449 E))) (ax_sn_leaf (r_L_law_448 E)))) (ax_sn_node (ax_sn_node (ax_sn_node (ax_sn_leaf (r_L_law_447 E)) (ax_sn_leaf (r_L_law_445 E))) (ax_sn_leaf (r_L_law_444 E))) (ax_sn_node (ax_sn_leaf (r_L_law_443 E)) (ax_sn_leaf (r_L_law_442 E)))))) (ax_sn_node (ax_sn_node (ax_sn_node (ax_sn_node (ax_sn_node (ax_sn_leaf (r_L_law_441 E)) (ax_sn_leaf (r_L_law_439 E))) (ax_sn_leaf (r_L_law_438 E))) (ax_sn_node (ax_sn_node (ax_sn_leaf (r_L_law_437 E)) (ax_sn_leaf (r_L_law_436 E))) (ax_sn_leaf (r_L_law_435 E)))) (ax_sn_node (ax_sn_node (ax_sn_node (ax_sn_leaf (r_L_law_433 E)) (ax_sn_leaf (r_L_law_432 E))) (ax_sn_leaf (r_L_law_431 E))) (ax_sn_node (ax_sn_leaf (r_L_law_429 E)) (ax_sn_leaf (r_L_law_426 E))))) (ax_sn_node (ax_sn_node (ax_sn_node (ax_sn_node (ax_sn_leaf (r_L_law_425 E)) (ax_sn_leaf (r_L_law_424 E))) (ax_sn_leaf (r_L_law_423 E))) (ax_sn_node (ax_sn_leaf (r_L_law_422 E)) (ax_sn_leaf (r_L_law_420 E)))) (ax_sn_node (ax_sn_node (ax_sn_node (ax_sn_leaf (r_L_law_419 E)) (ax_sn_leaf (r_L_law_418 E))) (ax_sn_leaf (r_L_law_417 E))) (ax_sn_node (ax_sn_leaf (r_L_law_416 E)) (ax_sn_leaf (r_L_law_414 E))))))) (ax_sn_node (ax_sn_node (ax_sn_node (ax_sn_node (ax_sn_node (ax_sn_node (ax_sn_leaf (r_L_law_413 E)) (ax_sn_leaf (r_L_law_412 E))) (ax_sn_leaf (r_L_law_411 E))) (ax_sn_node (ax_sn_node (ax_sn_leaf (r_L_law_410 E)) (ax_sn_leaf (r_L_law_408 E))) (ax_sn_leaf (r_L_law_407 E)))) (ax_sn_node (ax_sn_node (ax_sn_node (ax_sn_leaf (r_L_law_406 E)) (ax_sn_leaf (r_L_law_405 E))) (ax_sn_leaf (r_L_law_404 E))) (ax_sn_node (ax_sn_leaf (r_L_law_402 E)) (ax_sn_leaf (r_L_law_401 E))))) (ax_sn_node (ax_sn_node (ax_sn_node (ax_sn_node (ax_sn_leaf (r_L_law_400 E)) (ax_sn_leaf (r_L_law_399 E))) (ax_sn_leaf (r_L_law_398 E))) (ax_sn_node (ax_sn_leaf (r_L_law_396 E)) (ax_sn_leaf (r_L_law_395 E)))) (ax_sn_node (ax_sn_node (ax_sn_node (ax_sn_leaf (r_L_law_394 E)) (ax_sn_leaf (r_L_law_391 E))) (ax_sn_leaf (r_L_law_390 E))) (ax_sn_node (ax_sn_leaf (r_L_law_389 E)) (ax_sn_leaf (r_L_law_386 E)))))) (ax_sn_node (ax_sn_node (ax_sn_node (ax_sn_node (ax_sn_node (ax_sn_leaf (r_L_law_385 E)) (ax_sn_leaf (r_L_law_384 E))) (ax_sn_leaf (r_L_law_382 E))) (ax_sn_node (ax_sn_node (ax_sn_leaf (r_L_law_381 E)) (ax_sn_leaf (r_L_law_380 E))) (ax_sn_leaf (r_L_law_379 E)))) (ax_sn_node (ax_sn_node (ax_sn_node (ax_sn_leaf (r_L_law_376 E)) (ax_sn_leaf (r_L_law_374 E))) (ax_sn_leaf (r_L_law_373 E))) (ax_sn_node (ax_sn_leaf (r_L_law_372 E)) (ax_sn_leaf (r_L_law_369 E))))) (ax_sn_node (ax_sn_node (ax_sn_node (ax_sn_node (ax_sn_leaf (r_L_law_367 E)) (ax_sn_leaf (r_L_law_364 E))) (ax_sn_leaf (r_L_law_363 E))) (ax_sn_node (ax_sn_leaf (r_L_law_361 E)) (ax_sn_leaf (r_L_law_358 E)))) (ax_sn_node (ax_sn_node (ax_sn_node (ax_sn_leaf (r_L_law_357 E)) (ax_sn_leaf (r_L_law_356 E))) (ax_sn_leaf (r_L_law_355 E))) (ax_sn_node (ax_sn_leaf (r_L_law_353 E)) (ax_sn_leaf (r_L_law_352 E)))))))) (ax_sn_node (ax_sn_node (ax_sn_node (ax_sn_node (ax_sn_node (ax_sn_node (ax_sn_node (ax_sn_leaf (r_L_law_351 E)) (ax_sn_leaf (r_L_law_349 E))) (ax_sn_leaf (r_L_law_346 E))) (ax_sn_node (ax_sn_node (ax_sn_leaf (r_L_law_345 E)) (ax_sn_leaf (r_L_law_344 E))) (ax_sn_leaf (r_L_law_343 E)))) (ax_sn_node (ax_sn_node (ax_sn_node (ax_sn_leaf (r_L_law_342 E)) (ax_sn_leaf (r_L_law_340 E))) (ax_sn_leaf (r_L_law_339 E))) (ax_sn_node (ax_sn_leaf (r_L_law_338 E)) (ax_sn_leaf (r_L_law_335 E))))) (ax_sn_node (ax_sn_node (ax_sn_node (ax_sn_node (ax_sn_leaf (r_L_law_334 E)) (ax_sn_leaf (r_L_law_333 E))) (ax_sn_leaf (r_L_law_330 E))) (ax_sn_node (ax_sn_leaf (r_L_law_329 E)) (ax_sn_leaf (r_L_law_328 E)))) (ax_sn_node (ax_sn_node (ax_sn_node (ax_sn_leaf (r_L_law_326 E)) (ax_sn_leaf (r_L_law_325 E))) (ax_sn_leaf (r_L_law_324 E))) (ax_sn_node (ax_sn_leaf (r_L_law_323 E)) (ax_sn_leaf (r_L_law_320 E)))))) (ax_sn_node (ax_sn_node (ax_sn_node (ax_sn_node (ax_sn_node (ax_sn_leaf (r_L_law_318 E)) (ax_sn_leaf (r_L_law_317 E))) (ax_sn_leaf (r_L_law_316 E))) (ax_sn_node (ax_sn_node (ax_sn_leaf (r_L_law_313 E)) (ax_sn_leaf (r_L_law_311 E))) (ax_sn_leaf (r_L_law_308 E)))) (ax_sn_node (ax_sn_node (ax_sn_node (ax_sn_leaf (r_L_law_307 E)) (ax_sn_leaf (r_L_law_305 E))) (ax_sn_leaf (r_L_law_302 E))) (ax_sn_node (ax_sn_leaf (r_L_law_301 E)) (ax_sn_leaf (r_L_law_300 E))))) (ax_sn_node (ax_sn_node (ax_sn_node (ax_sn_node (ax_sn_leaf (r_L_law_299 E)) (ax_sn_leaf (r_L_law_297 E))) (ax_sn_leaf (r_L_law_296 E))) (ax_sn_node (ax_sn_leaf (r_L_law_295 E)) (ax_sn_leaf (r_L_law_293 E)))) (ax_sn_node (ax_sn_node (ax_sn_node (ax_sn_leaf (r_L_law_290 E)) (ax_sn_leaf (r_L_law_289 E))) (ax_sn_leaf (r_L_law_288 E))) (ax_sn_node (ax_sn_leaf (r_L_law_287 E)) (ax_sn_leaf (r_L_law_286 E))))))) (ax_sn_node (ax_sn_node (ax_sn_node (ax_sn_node (ax_sn_node (ax_sn_node (ax_sn_leaf (r_L_law_284 E)) (ax_sn_leaf (r_L_law_283 E))) (ax_sn_leaf (r_L_law_282 E))) (ax_sn_node (ax_sn_node (ax_sn_leaf (r_L_law_281 E)) (ax_sn_leaf (r_L_law_280 E))) (ax_sn_leaf (r_L_law_277 E)))) (ax_sn_node (ax_sn_node (ax_sn_node (ax_sn_leaf (r_L_law_274 E)) (ax_sn_leaf (r_L_law_273 E))) (ax_sn_leaf (r_L_law_270 E))) (ax_sn_node (ax_sn_leaf (r_L_law_269 E)) (ax_sn_leaf (r_L_law_268 E))))) (ax_sn_node (ax_sn_node (ax_sn_node (ax_sn_node (ax_sn_leaf (r_L_law_267 E)) (ax_sn_leaf (r_L_law_264 E))) (ax_sn_leaf (r_L_law_261 E))) (ax_sn_node (ax_sn_leaf (r_L_law_260 E)) (ax_sn_leaf (r_L_law_257 E)))) (ax_sn_node (ax_sn_node (ax_sn_node (ax_sn_leaf (r_L_law_256 E)) (ax_sn_leaf (r_L_law_40 E))) (ax_sn_leaf (r_L_law_39 E))) (ax_sn_node (ax_sn_leaf (r_L_law_37 E)) (ax_sn_leaf (r_L_law_36 E)))))) (ax_sn_node (ax_sn_node (ax_sn_node (ax_sn_node (ax_sn_node (ax_sn_leaf (r_L_law_34 E)) (ax_sn_leaf (r_L_law_33 E))) (ax_sn_leaf (r_L_law_30 E))) (ax_sn_node (ax_sn_node (ax_sn_leaf (r_L_law_29 E)) (ax_sn_leaf (r_L_law_27 E))) (ax_sn_leaf (r_L_law_26 E)))) (ax_sn_node (ax_sn_node (ax_sn_node (ax_sn_leaf (r_L_law_25 E)) (ax_sn_leaf (r_L_law_23 E))) (ax_sn_leaf (r_L_law_21 E))) (ax_sn_node (ax_sn_leaf (r_L_law_20 E)) (ax_sn_leaf (r_L_law_19 E))))) (ax_sn_node (ax_sn_node (ax_sn_node (ax_sn_node (ax_sn_leaf (r_L_law_17 E)) (ax_sn_leaf (r_L_law_16 E))) (ax_sn_leaf (r_L_law_15 E))) (ax_sn_node (ax_sn_leaf (r_L_law_12 E)) (ax_sn_leaf (r_L_law_11 E)))) (ax_sn_node (ax_sn_node (ax_sn_node (ax_sn_leaf (r_L_law_8 E)) (ax_sn_leaf (r_L_law_7 E))) (ax_sn_leaf (r_L_law_4 E))) (ax_sn_node (ax_sn_leaf (r_L_law_3 E)) (ax_sn_leaf (r_L_law_0 E))))))))))))
theorem r_X0_section_0 (E : ax_EN G l) : ax_Snd G l ax_Ym M_X0_section 0 (S_aload 2 1) := k_aload_n dX0_section_0 rfl
theorem r_X0_section_1 (E : ax_EN G l) : ax_Snd G l ax_Ym M_X0_section 1 (S_push (.int (0)) 2) := k_iconst dX0_section_1 rfl
theorem r_X0_section_2 (E : ax_EN G l) : ax_Snd G l ax_Ym M_X0_section 2 (S_aload 0 3) := k_aload_n dX0_section_2 rfl
theorem r_X0_section_3 (E : ax_EN G l) : ax_Snd G l ax_Ym M_X0_section 3 (S_iload 1 4) := k_iload_n dX0_section_3 rfl
theorem r_X0_section_4 (E : ax_EN G l) : ax_Snd G l ax_Ym M_X0_section 4 (S_iv [(19, 231)] 1 7 (fun k => if k ∈ [0, 44] then some (some 15) else if k ∈ [18] then some (some 12) else if k ∈ [6, 7, 28, 32, 33, 34, 35, 45, 46] then some none else none)) := k_iv (en_F E) (hok_107 E) (ax_Evs_cons ((ev_v (en_c E (k := 19) rfl) rfl y_X1_section q1684 q1685 q1686 q118 q1687 nm_X1_section (Nat.le_of_ble_eq_true rfl) dX0_section_4) : ax_EvV G l ax_Ym M_X0_section 4 1 3 19 231) ax_Evs_nil)
theorem r_X0_section_7 (E : ax_EN G l) : ax_Snd G l ax_Ym M_X0_section 7 (S_i2l 8) := k_i2l dX0_section_7
theorem r_X0_section_8 (E : ax_EN G l) : ax_Snd G l ax_Ym M_X0_section 8 (S_last 1 9) := k_last (en_F E) dX0_section_8
theorem r_X0_section_9 (E : ax_EN G l) : ax_Snd G l ax_Ym M_X0_section 9 (S_goto 18) := k_goto dX0_section_9 rfl
theorem r_X0_section_12 (E : ax_EN G l) : ax_Snd G l ax_Ym M_X0_section 12 (S_astore 3 13) := k_astore_n dX0_section_12 rfl (Nat.le_of_ble_eq_true rfl)
theorem r_X0_section_13 (E : ax_EN G l) : ax_Snd G l ax_Ym M_X0_section 13 (S_push (.int (1)) 14) := k_iconst dX0_section_13 rfl
theorem r_X0_section_14 (E : ax_EN G l) : ax_Snd G l ax_Ym M_X0_section 14 (S_iret) := k_iret dX0_section_14 rfl
theorem r_X0_section_15 (E : ax_EN G l) : ax_Snd G l ax_Ym M_X0_section 15 (S_astore 3 16) := k_astore_n dX0_section_15 rfl (Nat.le_of_ble_eq_true rfl)
theorem r_X0_section_16 (E : ax_EN G l) : ax_Snd G l ax_Ym M_X0_section 16 (S_push (.int (2)) 17) := k_iconst dX0_section_16 rfl
theorem r_X0_section_17 (E : ax_EN G l) : ax_Snd G l ax_Ym M_X0_section 17 (S_iret) := k_iret dX0_section_17 rfl
theorem r_X0_section_18 (E : ax_EN G l) : ax_Snd G l ax_Ym M_X0_section 18 (S_push (.int (0)) 19) := k_iconst dX0_section_18 rfl
theorem r_X0_section_19 (E : ax_EN G l) : ax_Snd G l ax_Ym M_X0_section 19 (S_iret) := k_iret dX0_section_19 rfl
theorem mt_X0_section (E : ax_EN G l) : ax_mt G l ax_Ym (4, P_X0_section) (ax_Ym 178) := ⟨M_X0_section, yX0_section, ⟨rfl, by decide +kernel, rfl, (fun h => by cases h), Or.inr rfl⟩, fun pc => (ax_sn_node (ax_sn_node (ax_sn_node (ax_sn_node (ax_sn_leaf (r_X0_section_19 E)) (ax_sn_leaf (r_X0_section_18 E))) (ax_sn_node (ax_sn_leaf (r_X0_section_17 E)) (ax_sn_leaf (r_X0_section_16 E)))) (ax_sn_node (ax_sn_node (ax_sn_leaf (r_X0_section_15 E)) (ax_sn_leaf (r_X0_section_14 E))) (ax_sn_node (ax_sn_leaf (r_X0_section_13 E)) (ax_sn_leaf (r_X0_section_12 E))))) (ax_sn_node (ax_sn_node (ax_sn_node (ax_sn_leaf (r_X0_section_9 E)) (ax_sn_leaf (r_X0_section_8 E))) (ax_sn_node (ax_sn_leaf (r_X0_section_7 E)) (ax_sn_leaf (r_X0_section_4 E)))) (ax_sn_node (ax_sn_node (ax_sn_leaf (r_X0_section_3 E)) (ax_sn_leaf (r_X0_section_2 E))) (ax_sn_node (ax_sn_leaf (r_X0_section_1 E)) (ax_sn_leaf (r_X0_section_0 E))))))⟩
theorem r_X0_label_0 (E : ax_EN G l) : ax_Snd G l ax_Ym M_X0_label 0 (S_aload 2 1) := k_aload_n dX0_label_0 rfl
theorem r_X0_label_1 (E : ax_EN G l) : ax_Snd G l ax_Ym M_X0_label 1 (S_push (.int (0)) 2) := k_iconst dX0_label_1 rfl
theorem r_X0_label_2 (E : ax_EN G l) : ax_Snd G l ax_Ym M_X0_label 2 (S_aload 0 3) := k_aload_n dX0_label_2 rfl
theorem r_X0_label_3 (E : ax_EN G l) : ax_Snd G l ax_Ym M_X0_label 3 (S_iload 1 4) := k_iload_n dX0_label_3 rfl
theorem r_X0_label_4 (E : ax_EN G l) : ax_Snd G l ax_Ym M_X0_label 4 (S_iv [(19, 235)] 1 7 (fun k => if k ∈ [0, 44] then some (some 15) else if k ∈ [18] then some (some 12) else if k ∈ [6, 7, 28, 32, 33, 34, 35, 45, 46] then some none else none)) := k_iv (en_F E) (hok_108 E) (ax_Evs_cons ((ev_v (en_c E (k := 19) rfl) rfl y_X1_label q1738 q1739 q1740 q118 q1741 nm_X1_label (Nat.le_of_ble_eq_true rfl) dX0_label_4) : ax_EvV G l ax_Ym M_X0_label 4 1 3 19 235) ax_Evs_nil)
theorem r_X0_label_7 (E : ax_EN G l) : ax_Snd G l ax_Ym M_X0_label 7 (S_i2l 8) := k_i2l dX0_label_7
theorem r_X0_label_8 (E : ax_EN G l) : ax_Snd G l ax_Ym M_X0_label 8 (S_last 1 9) := k_last (en_F E) dX0_label_8
theorem r_X0_label_9 (E : ax_EN G l) : ax_Snd G l ax_Ym M_X0_label 9 (S_goto 18) := k_goto dX0_label_9 rfl
theorem r_X0_label_12 (E : ax_EN G l) : ax_Snd G l ax_Ym M_X0_label 12 (S_astore 3 13) := k_astore_n dX0_label_12 rfl (Nat.le_of_ble_eq_true rfl)
theorem r_X0_label_13 (E : ax_EN G l) : ax_Snd G l ax_Ym M_X0_label 13 (S_push (.int (1)) 14) := k_iconst dX0_label_13 rfl
theorem r_X0_label_14 (E : ax_EN G l) : ax_Snd G l ax_Ym M_X0_label 14 (S_iret) := k_iret dX0_label_14 rfl
theorem r_X0_label_15 (E : ax_EN G l) : ax_Snd G l ax_Ym M_X0_label 15 (S_astore 3 16) := k_astore_n dX0_label_15 rfl (Nat.le_of_ble_eq_true rfl)
theorem r_X0_label_16 (E : ax_EN G l) : ax_Snd G l ax_Ym M_X0_label 16 (S_push (.int (2)) 17) := k_iconst dX0_label_16 rfl
theorem r_X0_label_17 (E : ax_EN G l) : ax_Snd G l ax_Ym M_X0_label 17 (S_iret) := k_iret dX0_label_17 rfl
theorem r_X0_label_18 (E : ax_EN G l) : ax_Snd G l ax_Ym M_X0_label 18 (S_push (.int (0)) 19) := k_iconst dX0_label_18 rfl
theorem r_X0_label_19 (E : ax_EN G l) : ax_Snd G l ax_Ym M_X0_label 19 (S_iret) := k_iret dX0_label_19 rfl
theorem mt_X0_label (E : ax_EN G l) : ax_mt G l ax_Ym (4, P_X0_label) (ax_Ym 179) := ⟨M_X0_label, yX0_label, ⟨rfl, by decide +kernel, rfl, (fun h => by cases h), Or.inr rfl⟩, fun pc => (ax_sn_node (ax_sn_node (ax_sn_node (ax_sn_node (ax_sn_leaf (r_X0_label_19 E)) (ax_sn_leaf (r_X0_label_18 E))) (ax_sn_node (ax_sn_leaf (r_X0_label_17 E)) (ax_sn_leaf (r_X0_label_16 E)))) (ax_sn_node (ax_sn_node (ax_sn_leaf (r_X0_label_15 E)) (ax_sn_leaf (r_X0_label_14 E))) (ax_sn_node (ax_sn_leaf (r_X0_label_13 E)) (ax_sn_leaf (r_X0_label_12 E))))) (ax_sn_node (ax_sn_node (ax_sn_node (ax_sn_leaf (r_X0_label_9 E)) (ax_sn_leaf (r_X0_label_8 E))) (ax_sn_node (ax_sn_leaf (r_X0_label_7 E)) (ax_sn_leaf (r_X0_label_4 E)))) (ax_sn_node (ax_sn_node (ax_sn_leaf (r_X0_label_3 E)) (ax_sn_leaf (r_X0_label_2 E))) (ax_sn_node (ax_sn_leaf (r_X0_label_1 E)) (ax_sn_leaf (r_X0_label_0 E))))))⟩
theorem r_X0_code_0 (E : ax_EN G l) : ax_Snd G l ax_Ym M_X0_code 0 (S_aload 6 2) := k_aload dX0_code_0
theorem r_X0_code_2 (E : ax_EN G l) : ax_Snd G l ax_Ym M_X0_code 2 (S_push (.int (0)) 3) := k_iconst dX0_code_2 rfl
theorem r_X0_code_3 (E : ax_EN G l) : ax_Snd G l ax_Ym M_X0_code 3 (S_aload 0 4) := k_aload_n dX0_code_3 rfl
theorem r_X0_code_4 (E : ax_EN G l) : ax_Snd G l ax_Ym M_X0_code 4 (S_iload 1 5) := k_iload_n dX0_code_4 rfl
theorem r_X0_code_5 (E : ax_EN G l) : ax_Snd G l ax_Ym M_X0_code 5 (S_iload 2 6) := k_iload_n dX0_code_5 rfl
theorem r_X0_code_6 (E : ax_EN G l) : ax_Snd G l ax_Ym M_X0_code 6 (S_iload 3 7) := k_iload_n dX0_code_6 rfl
theorem r_X0_code_7 (E : ax_EN G l) : ax_Snd G l ax_Ym M_X0_code 7 (S_iload 4 9) := k_iload dX0_code_7
theorem r_X0_code_9 (E : ax_EN G l) : ax_Snd G l ax_Ym M_X0_code 9 (S_iload 5 11) := k_iload dX0_code_9
theorem r_X0_code_11 (E : ax_EN G l) : ax_Snd G l ax_Ym M_X0_code 11 (S_iv [(19, 236)] 5 14 (fun k => if k ∈ [0, 44] then some (some 23) else if k ∈ [18] then some (some 19) else if k ∈ [6, 7, 28, 32, 33, 34, 35, 45, 46] then some none else none)) := k_iv (en_F E) (hok_109 E) (ax_Evs_cons ((ev_v (en_c E (k := 19) rfl) rfl y_X1_code q1758 q1759 q1760 q118 q1761 nm_X1_code (Nat.le_of_ble_eq_true rfl) dX0_code_11) : ax_EvV G l ax_Ym M_X0_code 11 5 3 19 236) ax_Evs_nil)
theorem r_X0_code_14 (E : ax_EN G l) : ax_Snd G l ax_Ym M_X0_code 14 (S_i2l 15) := k_i2l dX0_code_14
theorem r_X0_code_15 (E : ax_EN G l) : ax_Snd G l ax_Ym M_X0_code 15 (S_last 1 16) := k_last (en_F E) dX0_code_15
theorem r_X0_code_16 (E : ax_EN G l) : ax_Snd G l ax_Ym M_X0_code 16 (S_goto 27) := k_goto dX0_code_16 rfl
theorem r_X0_code_19 (E : ax_EN G l) : ax_Snd G l ax_Ym M_X0_code 19 (S_astore 7 21) := k_astore dX0_code_19 (Nat.le_of_ble_eq_true rfl)
theorem r_X0_code_21 (E : ax_EN G l) : ax_Snd G l ax_Ym M_X0_code 21 (S_push (.int (1)) 22) := k_iconst dX0_code_21 rfl
theorem r_X0_code_22 (E : ax_EN G l) : ax_Snd G l ax_Ym M_X0_code 22 (S_iret) := k_iret dX0_code_22 rfl
theorem r_X0_code_23 (E : ax_EN G l) : ax_Snd G l ax_Ym M_X0_code 23 (S_astore 7 25) := k_astore dX0_code_23 (Nat.le_of_ble_eq_true rfl)
theorem r_X0_code_25 (E : ax_EN G l) : ax_Snd G l ax_Ym M_X0_code 25 (S_push (.int (2)) 26) := k_iconst dX0_code_25 rfl
theorem r_X0_code_26 (E : ax_EN G l) : ax_Snd G l ax_Ym M_X0_code 26 (S_iret) := k_iret dX0_code_26 rfl
theorem r_X0_code_27 (E : ax_EN G l) : ax_Snd G l ax_Ym M_X0_code 27 (S_push (.int (0)) 28) := k_iconst dX0_code_27 rfl
theorem r_X0_code_28 (E : ax_EN G l) : ax_Snd G l ax_Ym M_X0_code 28 (S_iret) := k_iret dX0_code_28 rfl
theorem mt_X0_code (E : ax_EN G l) : ax_mt G l ax_Ym (8, P_X0_code) (ax_Ym 180) := ⟨M_X0_code, yX0_code, ⟨rfl, by decide +kernel, rfl, (fun h => by cases h), Or.inr rfl⟩, fun pc => (ax_sn_node (ax_sn_node (ax_sn_node (ax_sn_node (ax_sn_node (ax_sn_leaf (r_X0_code_28 E)) (ax_sn_leaf (r_X0_code_27 E))) (ax_sn_leaf (r_X0_code_26 E))) (ax_sn_node (ax_sn_leaf (r_X0_code_25 E)) (ax_sn_leaf (r_X0_code_23 E)))) (ax_sn_node (ax_sn_node (ax_sn_node (ax_sn_leaf (r_X0_code_22 E)) (ax_sn_leaf (r_X0_code_21 E))) (ax_sn_leaf (r_X0_code_19 E))) (ax_sn_node (ax_sn_leaf (r_X0_code_16 E)) (ax_sn_leaf (r_X0_code_15 E))))) (ax_sn_node (ax_sn_node (ax_sn_node (ax_sn_node (ax_sn_leaf (r_X0_code_14 E)) (ax_sn_leaf (r_X0_code_11 E))) (ax_sn_leaf (r_X0_code_9 E))) (ax_sn_node (ax_sn_leaf (r_X0_code_7 E)) (ax_sn_leaf (r_X0_code_6 E)))) (ax_sn_node (ax_sn_node (ax_sn_node (ax_sn_leaf (r_X0_code_5 E)) (ax_sn_leaf (r_X0_code_4 E))) (ax_sn_leaf (r_X0_code_3 E))) (ax_sn_node (ax_sn_leaf (r_X0_code_2 E)) (ax_sn_leaf (r_X0_code_0 E))))))⟩
theorem r_X0_word_0 (E : ax_EN G l) : ax_Snd G l ax_Ym M_X0_word 0 (S_aload 3 1) := k_aload_n dX0_word_0 rfl
theorem r_X0_word_1 (E : ax_EN G l) : ax_Snd G l ax_Ym M_X0_word 1 (S_push (.int (0)) 2) := k_iconst dX0_word_1 rfl
theorem r_X0_word_2 (E : ax_EN G l) : ax_Snd G l ax_Ym M_X0_word 2 (S_aload 0 3) := k_aload_n dX0_word_2 rfl
theorem r_X0_word_3 (E : ax_EN G l) : ax_Snd G l ax_Ym M_X0_word 3 (S_iload 1 4) := k_iload_n dX0_word_3 rfl
theorem r_X0_word_4 (E : ax_EN G l) : ax_Snd G l ax_Ym M_X0_word 4 (S_iload 2 5) := k_iload_n dX0_word_4 rfl
theorem r_X0_word_5 (E : ax_EN G l) : ax_Snd G l ax_Ym M_X0_word 5 (S_iv [(19, 238)] 2 8 (fun k => if k ∈ [0, 44] then some (some 17) else if k ∈ [18] then some (some 13) else if k ∈ [6, 7, 28, 32, 33, 34, 35, 45, 46] then some none else none)) := k_iv (en_F E) (hok_110 E) (ax_Evs_cons ((ev_v (en_c E (k := 19) rfl) rfl y_X1_word q1806 q1807 q1808 q118 q1809 nm_X1_word (Nat.le_of_ble_eq_true rfl) dX0_word_5) : ax_EvV G l ax_Ym M_X0_word 5 2 3 19 238) ax_Evs_nil)
theorem r_X0_word_8 (E : ax_EN G l) : ax_Snd G l ax_Ym M_X0_word 8 (S_i2l 9) := k_i2l dX0_word_8
theorem r_X0_word_9 (E : ax_EN G l) : ax_Snd G l ax_Ym M_X0_word 9 (S_last 1 10) := k_last (en_F E) dX0_word_9
theorem r_X0_word_10 (E : ax_EN G l) : ax_Snd G l ax_Ym M_X0_word 10 (S_goto 21) := k_goto dX0_word_10 rfl
theorem r_X0_word_13 (E : ax_EN G l) : ax_Snd G l ax_Ym M_X0_word 13 (S_astore 4 15) := k_astore dX0_word_13 (Nat.le_of_ble_eq_true rfl)
theorem r_X0_word_15 (E : ax_EN G l) : ax_Snd G l ax_Ym M_X0_word 15 (S_push (.int (1)) 16) := k_iconst dX0_word_15 rfl
theorem r_X0_word_16 (E : ax_EN G l) : ax_Snd G l ax_Ym M_X0_word 16 (S_iret) := k_iret dX0_word_16 rfl
theorem r_X0_word_17 (E : ax_EN G l) : ax_Snd G l ax_Ym M_X0_word 17 (S_astore 4 19) := k_astore dX0_word_17 (Nat.le_of_ble_eq_true rfl)
theorem r_X0_word_19 (E : ax_EN G l) : ax_Snd G l ax_Ym M_X0_word 19 (S_push (.int (2)) 20) := k_iconst dX0_word_19 rfl
theorem r_X0_word_20 (E : ax_EN G l) : ax_Snd G l ax_Ym M_X0_word 20 (S_iret) := k_iret dX0_word_20 rfl
theorem r_X0_word_21 (E : ax_EN G l) : ax_Snd G l ax_Ym M_X0_word 21 (S_push (.int (0)) 22) := k_iconst dX0_word_21 rfl
theorem r_X0_word_22 (E : ax_EN G l) : ax_Snd G l ax_Ym M_X0_word 22 (S_iret) := k_iret dX0_word_22 rfl
theorem mt_X0_word (E : ax_EN G l) : ax_mt G l ax_Ym (5, P_X0_word) (ax_Ym 181) := ⟨M_X0_word, yX0_word, ⟨rfl, by decide +kernel, rfl, (fun h => by cases h), Or.inr rfl⟩, fun pc => (ax_sn_node (ax_sn_node (ax_sn_node (ax_sn_node (ax_sn_node (ax_sn_leaf (r_X0_word_22 E)) (ax_sn_leaf (r_X0_word_21 E))) (ax_sn_leaf (r_X0_word_20 E))) (ax_sn_node (ax_sn_leaf (r_X0_word_19 E)) (ax_sn_leaf (r_X0_word_17 E)))) (ax_sn_node (ax_sn_node (ax_sn_leaf (r_X0_word_16 E)) (ax_sn_leaf (r_X0_word_15 E))) (ax_sn_node (ax_sn_leaf (r_X0_word_13 E)) (ax_sn_leaf (r_X0_word_10 E))))) (ax_sn_node (ax_sn_node (ax_sn_node (ax_sn_leaf (r_X0_word_9 E)) (ax_sn_leaf (r_X0_word_8 E))) (ax_sn_node (ax_sn_leaf (r_X0_word_5 E)) (ax_sn_leaf (r_X0_word_4 E)))) (ax_sn_node (ax_sn_node (ax_sn_leaf (r_X0_word_3 E)) (ax_sn_leaf (r_X0_word_2 E))) (ax_sn_node (ax_sn_leaf (r_X0_word_1 E)) (ax_sn_leaf (r_X0_word_0 E))))))⟩
theorem r_X0_space_0 (E : ax_EN G l) : ax_Snd G l ax_Ym M_X0_space 0 (S_aload 2 1) := k_aload_n dX0_space_0 rfl
theorem r_X0_space_1 (E : ax_EN G l) : ax_Snd G l ax_Ym M_X0_space 1 (S_push (.int (0)) 2) := k_iconst dX0_space_1 rfl
theorem r_X0_space_2 (E : ax_EN G l) : ax_Snd G l ax_Ym M_X0_space 2 (S_aload 0 3) := k_aload_n dX0_space_2 rfl
theorem r_X0_space_3 (E : ax_EN G l) : ax_Snd G l ax_Ym M_X0_space 3 (S_iload 1 4) := k_iload_n dX0_space_3 rfl
theorem r_X0_space_4 (E : ax_EN G l) : ax_Snd G l ax_Ym M_X0_space 4 (S_iv [(19, 239)] 1 7 (fun k => if k ∈ [0, 44] then some (some 15) else if k ∈ [18] then some (some 12) else if k ∈ [6, 7, 28, 32, 33, 34, 35, 45, 46] then some none else none)) := k_iv (en_F E) (hok_111 E) (ax_Evs_cons ((ev_v (en_c E (k := 19) rfl) rfl y_X1_space q1826 q1827 q1828 q118 q1829 nm_X1_space (Nat.le_of_ble_eq_true rfl) dX0_space_4) : ax_EvV G l ax_Ym M_X0_space 4 1 3 19 239) ax_Evs_nil)
theorem r_X0_space_7 (E : ax_EN G l) : ax_Snd G l ax_Ym M_X0_space 7 (S_i2l 8) := k_i2l dX0_space_7
theorem r_X0_space_8 (E : ax_EN G l) : ax_Snd G l ax_Ym M_X0_space 8 (S_last 1 9) := k_last (en_F E) dX0_space_8
theorem r_X0_space_9 (E : ax_EN G l) : ax_Snd G l ax_Ym M_X0_space 9 (S_goto 18) := k_goto dX0_space_9 rfl
theorem r_X0_space_12 (E : ax_EN G l) : ax_Snd G l ax_Ym M_X0_space 12 (S_astore 3 13) := k_astore_n dX0_space_12 rfl (Nat.le_of_ble_eq_true rfl)
theorem r_X0_space_13 (E : ax_EN G l) : ax_Snd G l ax_Ym M_X0_space 13 (S_push (.int (1)) 14) := k_iconst dX0_space_13 rfl
theorem r_X0_space_14 (E : ax_EN G l) : ax_Snd G l ax_Ym M_X0_space 14 (S_iret) := k_iret dX0_space_14 rfl
theorem r_X0_space_15 (E : ax_EN G l) : ax_Snd G l ax_Ym M_X0_space 15 (S_astore 3 16) := k_astore_n dX0_space_15 rfl (Nat.le_of_ble_eq_true rfl)
theorem r_X0_space_16 (E : ax_EN G l) : ax_Snd G l ax_Ym M_X0_space 16 (S_push (.int (2)) 17) := k_iconst dX0_space_16 rfl
theorem r_X0_space_17 (E : ax_EN G l) : ax_Snd G l ax_Ym M_X0_space 17 (S_iret) := k_iret dX0_space_17 rfl
theorem r_X0_space_18 (E : ax_EN G l) : ax_Snd G l ax_Ym M_X0_space 18 (S_push (.int (0)) 19) := k_iconst dX0_space_18 rfl
theorem r_X0_space_19 (E : ax_EN G l) : ax_Snd G l ax_Ym M_X0_space 19 (S_iret) := k_iret dX0_space_19 rfl
theorem mt_X0_space (E : ax_EN G l) : ax_mt G l ax_Ym (4, P_X0_space) (ax_Ym 182) := ⟨M_X0_space, yX0_space, ⟨rfl, by decide +kernel, rfl, (fun h => by cases h), Or.inr rfl⟩, fun pc => (ax_sn_node (ax_sn_node (ax_sn_node (ax_sn_node (ax_sn_leaf (r_X0_space_19 E)) (ax_sn_leaf (r_X0_space_18 E))) (ax_sn_node (ax_sn_leaf (r_X0_space_17 E)) (ax_sn_leaf (r_X0_space_16 E)))) (ax_sn_node (ax_sn_node (ax_sn_leaf (r_X0_space_15 E)) (ax_sn_leaf (r_X0_space_14 E))) (ax_sn_node (ax_sn_leaf (r_X0_space_13 E)) (ax_sn_leaf (r_X0_space_12 E))))) (ax_sn_node (ax_sn_node (ax_sn_node (ax_sn_leaf (r_X0_space_9 E)) (ax_sn_leaf (r_X0_space_8 E))) (ax_sn_node (ax_sn_leaf (r_X0_space_7 E)) (ax_sn_leaf (r_X0_space_4 E)))) (ax_sn_node (ax_sn_node (ax_sn_leaf (r_X0_space_3 E)) (ax_sn_leaf (r_X0_space_2 E))) (ax_sn_node (ax_sn_leaf (r_X0_space_1 E)) (ax_sn_leaf (r_X0_space_0 E))))))⟩
theorem r_X0_vector_0 (E : ax_EN G l) : ax_Snd G l ax_Ym M_X0_vector 0 (S_aload 4 2) := k_aload dX0_vector_0
theorem r_X0_vector_2 (E : ax_EN G l) : ax_Snd G l ax_Ym M_X0_vector 2 (S_push (.int (0)) 3) := k_iconst dX0_vector_2 rfl
theorem r_X0_vector_3 (E : ax_EN G l) : ax_Snd G l ax_Ym M_X0_vector 3 (S_aload 0 4) := k_aload_n dX0_vector_3 rfl
theorem r_X0_vector_4 (E : ax_EN G l) : ax_Snd G l ax_Ym M_X0_vector 4 (S_iload 1 5) := k_iload_n dX0_vector_4 rfl
theorem r_X0_vector_5 (E : ax_EN G l) : ax_Snd G l ax_Ym M_X0_vector 5 (S_iload 2 6) := k_iload_n dX0_vector_5 rfl
theorem r_X0_vector_6 (E : ax_EN G l) : ax_Snd G l ax_Ym M_X0_vector 6 (S_iload 3 7) := k_iload_n dX0_vector_6 rfl
theorem r_X0_vector_7 (E : ax_EN G l) : ax_Snd G l ax_Ym M_X0_vector 7 (S_iv [(19, 240)] 3 10 (fun k => if k ∈ [0, 44] then some (some 19) else if k ∈ [18] then some (some 15) else if k ∈ [6, 7, 28, 32, 33, 34, 35, 45, 46] then some none else none)) := k_iv (en_F E) (hok_112 E) (ax_Evs_cons ((ev_v (en_c E (k := 19) rfl) rfl y_X1_vector q1846 q1847 q1848 q118 q1849 nm_X1_vector (Nat.le_of_ble_eq_true rfl) dX0_vector_7) : ax_EvV G l ax_Ym M_X0_vector 7 3 3 19 240) ax_Evs_nil)
theorem r_X0_vector_10 (E : ax_EN G l) : ax_Snd G l ax_Ym M_X0_vector 10 (S_i2l 11) := k_i2l dX0_vector_10
theorem r_X0_vector_11 (E : ax_EN G l) : ax_Snd G l ax_Ym M_X0_vector 11 (S_last 1 12) := k_last (en_F E) dX0_vector_11
theorem r_X0_vector_12 (E : ax_EN G l) : ax_Snd G l ax_Ym M_X0_vector 12 (S_goto 23) := k_goto dX0_vector_12 rfl
theorem r_X0_vector_15 (E : ax_EN G l) : ax_Snd G l ax_Ym M_X0_vector 15 (S_astore 5 17) := k_astore dX0_vector_15 (Nat.le_of_ble_eq_true rfl)
theorem r_X0_vector_17 (E : ax_EN G l) : ax_Snd G l ax_Ym M_X0_vector 17 (S_push (.int (1)) 18) := k_iconst dX0_vector_17 rfl
theorem r_X0_vector_18 (E : ax_EN G l) : ax_Snd G l ax_Ym M_X0_vector 18 (S_iret) := k_iret dX0_vector_18 rfl
theorem r_X0_vector_19 (E : ax_EN G l) : ax_Snd G l ax_Ym M_X0_vector 19 (S_astore 5 21) := k_astore dX0_vector_19 (Nat.le_of_ble_eq_true rfl)
theorem r_X0_vector_21 (E : ax_EN G l) : ax_Snd G l ax_Ym M_X0_vector 21 (S_push (.int (2)) 22) := k_iconst dX0_vector_21 rfl
theorem r_X0_vector_22 (E : ax_EN G l) : ax_Snd G l ax_Ym M_X0_vector 22 (S_iret) := k_iret dX0_vector_22 rfl
theorem r_X0_vector_23 (E : ax_EN G l) : ax_Snd G l ax_Ym M_X0_vector 23 (S_push (.int (0)) 24) := k_iconst dX0_vector_23 rfl
theorem r_X0_vector_24 (E : ax_EN G l) : ax_Snd G l ax_Ym M_X0_vector 24 (S_iret) := k_iret dX0_vector_24 rfl
theorem mt_X0_vector (E : ax_EN G l) : ax_mt G l ax_Ym (6, P_X0_vector) (ax_Ym 183) := ⟨M_X0_vector, yX0_vector, ⟨rfl, by decide +kernel, rfl, (fun h => by cases h), Or.inr rfl⟩, fun pc => (ax_sn_node (ax_sn_node (ax_sn_node (ax_sn_node (ax_sn_node (ax_sn_leaf (r_X0_vector_24 E)) (ax_sn_leaf (r_X0_vector_23 E))) (ax_sn_leaf (r_X0_vector_22 E))) (ax_sn_node (ax_sn_leaf (r_X0_vector_21 E)) (ax_sn_leaf (r_X0_vector_19 E)))) (ax_sn_node (ax_sn_node (ax_sn_leaf (r_X0_vector_18 E)) (ax_sn_leaf (r_X0_vector_17 E))) (ax_sn_node (ax_sn_leaf (r_X0_vector_15 E)) (ax_sn_leaf (r_X0_vector_12 E))))) (ax_sn_node (ax_sn_node (ax_sn_node (ax_sn_node (ax_sn_leaf (r_X0_vector_11 E)) (ax_sn_leaf (r_X0_vector_10 E))) (ax_sn_leaf (r_X0_vector_7 E))) (ax_sn_node (ax_sn_leaf (r_X0_vector_6 E)) (ax_sn_leaf (r_X0_vector_5 E)))) (ax_sn_node (ax_sn_node (ax_sn_leaf (r_X0_vector_4 E)) (ax_sn_leaf (r_X0_vector_3 E))) (ax_sn_node (ax_sn_leaf (r_X0_vector_2 E)) (ax_sn_leaf (r_X0_vector_0 E))))))⟩
theorem r_X0_macro_0 (E : ax_EN G l) : ax_Snd G l ax_Ym M_X0_macro 0 (S_aload 2 1) := k_aload_n dX0_macro_0 rfl
theorem r_X0_macro_1 (E : ax_EN G l) : ax_Snd G l ax_Ym M_X0_macro 1 (S_push (.int (0)) 2) := k_iconst dX0_macro_1 rfl
theorem r_X0_macro_2 (E : ax_EN G l) : ax_Snd G l ax_Ym M_X0_macro 2 (S_aload 0 3) := k_aload_n dX0_macro_2 rfl
theorem r_X0_macro_3 (E : ax_EN G l) : ax_Snd G l ax_Ym M_X0_macro 3 (S_iload 1 4) := k_iload_n dX0_macro_3 rfl
theorem r_X0_macro_4 (E : ax_EN G l) : ax_Snd G l ax_Ym M_X0_macro 4 (S_iv [(19, 241)] 1 7 (fun k => if k ∈ [0, 44] then some (some 15) else if k ∈ [18] then some (some 12) else if k ∈ [6, 7, 28, 32, 33, 34, 35, 45, 46] then some none else none)) := k_iv (en_F E) (hok_113 E) (ax_Evs_cons ((ev_v (en_c E (k := 19) rfl) rfl y_X1_macro q1869 q1870 q1871 q118 q1872 nm_X1_macro (Nat.le_of_ble_eq_true rfl) dX0_macro_4) : ax_EvV G l ax_Ym M_X0_macro 4 1 3 19 241) ax_Evs_nil)
theorem r_X0_macro_7 (E : ax_EN G l) : ax_Snd G l ax_Ym M_X0_macro 7 (S_i2l 8) := k_i2l dX0_macro_7
theorem r_X0_macro_8 (E : ax_EN G l) : ax_Snd G l ax_Ym M_X0_macro 8 (S_last 1 9) := k_last (en_F E) dX0_macro_8
theorem r_X0_macro_9 (E : ax_EN G l) : ax_Snd G l ax_Ym M_X0_macro 9 (S_goto 18) := k_goto dX0_macro_9 rfl
theorem r_X0_macro_12 (E : ax_EN G l) : ax_Snd G l ax_Ym M_X0_macro 12 (S_astore 3 13) := k_astore_n dX0_macro_12 rfl (Nat.le_of_ble_eq_true rfl)
theorem r_X0_macro_13 (E : ax_EN G l) : ax_Snd G l ax_Ym M_X0_macro 13 (S_push (.int (1)) 14) := k_iconst dX0_macro_13 rfl
theorem r_X0_macro_14 (E : ax_EN G l) : ax_Snd G l ax_Ym M_X0_macro 14 (S_iret) := k_iret dX0_macro_14 rfl
theorem r_X0_macro_15 (E : ax_EN G l) : ax_Snd G l ax_Ym M_X0_macro 15 (S_astore 3 16) := k_astore_n dX0_macro_15 rfl (Nat.le_of_ble_eq_true rfl)
theorem r_X0_macro_16 (E : ax_EN G l) : ax_Snd G l ax_Ym M_X0_macro 16 (S_push (.int (2)) 17) := k_iconst dX0_macro_16 rfl
theorem r_X0_macro_17 (E : ax_EN G l) : ax_Snd G l ax_Ym M_X0_macro 17 (S_iret) := k_iret dX0_macro_17 rfl
theorem r_X0_macro_18 (E : ax_EN G l) : ax_Snd G l ax_Ym M_X0_macro 18 (S_push (.int (0)) 19) := k_iconst dX0_macro_18 rfl
theorem r_X0_macro_19 (E : ax_EN G l) : ax_Snd G l ax_Ym M_X0_macro 19 (S_iret) := k_iret dX0_macro_19 rfl
theorem mt_X0_macro (E : ax_EN G l) : ax_mt G l ax_Ym (4, P_X0_macro) (ax_Ym 184) := ⟨M_X0_macro, yX0_macro, ⟨rfl, by decide +kernel, rfl, (fun h => by cases h), Or.inr rfl⟩, fun pc => (ax_sn_node (ax_sn_node (ax_sn_node (ax_sn_node (ax_sn_leaf (r_X0_macro_19 E)) (ax_sn_leaf (r_X0_macro_18 E))) (ax_sn_node (ax_sn_leaf (r_X0_macro_17 E)) (ax_sn_leaf (r_X0_macro_16 E)))) (ax_sn_node (ax_sn_node (ax_sn_leaf (r_X0_macro_15 E)) (ax_sn_leaf (r_X0_macro_14 E))) (ax_sn_node (ax_sn_leaf (r_X0_macro_13 E)) (ax_sn_leaf (r_X0_macro_12 E))))) (ax_sn_node (ax_sn_node (ax_sn_node (ax_sn_leaf (r_X0_macro_9 E)) (ax_sn_leaf (r_X0_macro_8 E))) (ax_sn_node (ax_sn_leaf (r_X0_macro_7 E)) (ax_sn_leaf (r_X0_macro_4 E)))) (ax_sn_node (ax_sn_node (ax_sn_leaf (r_X0_macro_3 E)) (ax_sn_leaf (r_X0_macro_2 E))) (ax_sn_node (ax_sn_leaf (r_X0_macro_1 E)) (ax_sn_leaf (r_X0_macro_0 E))))))⟩
theorem r_X0_endMacro_0 (E : ax_EN G l) : ax_Snd G l ax_Ym M_X0_endMacro 0 (S_aload 1 1) := k_aload_n dX0_endMacro_0 rfl
theorem r_X0_endMacro_1 (E : ax_EN G l) : ax_Snd G l ax_Ym M_X0_endMacro 1 (S_push (.int (0)) 2) := k_iconst dX0_endMacro_1 rfl
theorem r_X0_endMacro_2 (E : ax_EN G l) : ax_Snd G l ax_Ym M_X0_endMacro 2 (S_aload 0 3) := k_aload_n dX0_endMacro_2 rfl
theorem r_X0_endMacro_3 (E : ax_EN G l) : ax_Snd G l ax_Ym M_X0_endMacro 3 (S_iv [(19, 242)] 0 6 (fun k => if k ∈ [0, 44] then some (some 11) else if k ∈ [18, 6, 7, 28, 32, 33, 34, 35, 45, 46] then some none else none)) := k_iv (en_F E) (hok_114 E) (ax_Evs_cons ((ev_v (en_c E (k := 19) rfl) rfl y_X1_endMacro q1889 q1890 q1891 q118 q1892 nm_X1_endMacro (Nat.le_of_ble_eq_true rfl) dX0_endMacro_3) : ax_EvV G l ax_Ym M_X0_endMacro 3 0 3 19 242) ax_Evs_nil)
theorem r_X0_endMacro_6 (E : ax_EN G l) : ax_Snd G l ax_Ym M_X0_endMacro 6 (S_i2l 7) := k_i2l dX0_endMacro_6
theorem r_X0_endMacro_7 (E : ax_EN G l) : ax_Snd G l ax_Ym M_X0_endMacro 7 (S_last 1 8) := k_last (en_F E) dX0_endMacro_7
theorem r_X0_endMacro_8 (E : ax_EN G l) : ax_Snd G l ax_Ym M_X0_endMacro 8 (S_goto 14) := k_goto dX0_endMacro_8 rfl
theorem r_X0_endMacro_11 (E : ax_EN G l) : ax_Snd G l ax_Ym M_X0_endMacro 11 (S_astore 2 12) := k_astore_n dX0_endMacro_11 rfl (Nat.le_of_ble_eq_true rfl)
theorem r_X0_endMacro_12 (E : ax_EN G l) : ax_Snd G l ax_Ym M_X0_endMacro 12 (S_push (.int (1)) 13) := k_iconst dX0_endMacro_12 rfl
theorem r_X0_endMacro_13 (E : ax_EN G l) : ax_Snd G l ax_Ym M_X0_endMacro 13 (S_iret) := k_iret dX0_endMacro_13 rfl
theorem r_X0_endMacro_14 (E : ax_EN G l) : ax_Snd G l ax_Ym M_X0_endMacro 14 (S_push (.int (0)) 15) := k_iconst dX0_endMacro_14 rfl
theorem r_X0_endMacro_15 (E : ax_EN G l) : ax_Snd G l ax_Ym M_X0_endMacro 15 (S_iret) := k_iret dX0_endMacro_15 rfl
theorem mt_X0_endMacro (E : ax_EN G l) : ax_mt G l ax_Ym (3, P_X0_endMacro) (ax_Ym 185) := ⟨M_X0_endMacro, yX0_endMacro, ⟨rfl, by decide +kernel, rfl, (fun h => by cases h), Or.inr rfl⟩, fun pc => (ax_sn_node (ax_sn_node (ax_sn_node (ax_sn_node (ax_sn_leaf (r_X0_endMacro_15 E)) (ax_sn_leaf (r_X0_endMacro_14 E))) (ax_sn_leaf (r_X0_endMacro_13 E))) (ax_sn_node (ax_sn_node (ax_sn_leaf (r_X0_endMacro_12 E)) (ax_sn_leaf (r_X0_endMacro_11 E))) (ax_sn_leaf (r_X0_endMacro_8 E)))) (ax_sn_node (ax_sn_node (ax_sn_node (ax_sn_leaf (r_X0_endMacro_7 E)) (ax_sn_leaf (r_X0_endMacro_6 E))) (ax_sn_leaf (r_X0_endMacro_3 E))) (ax_sn_node (ax_sn_node (ax_sn_leaf (r_X0_endMacro_2 E)) (ax_sn_leaf (r_X0_endMacro_1 E))) (ax_sn_leaf (r_X0_endMacro_0 E)))))⟩
theorem r_X0_use_0 (E : ax_EN G l) : ax_Snd G l ax_Ym M_X0_use 0 (S_aload 6 2) := k_aload dX0_use_0
theorem r_X0_use_2 (E : ax_EN G l) : ax_Snd G l ax_Ym M_X0_use 2 (S_push (.int (0)) 3) := k_iconst dX0_use_2 rfl
theorem r_X0_use_3 (E : ax_EN G l) : ax_Snd G l ax_Ym M_X0_use 3 (S_aload 0 4) := k_aload_n dX0_use_3 rfl
theorem r_X0_use_4 (E : ax_EN G l) : ax_Snd G l ax_Ym M_X0_use 4 (S_iload 1 5) := k_iload_n dX0_use_4 rfl
theorem r_X0_use_5 (E : ax_EN G l) : ax_Snd G l ax_Ym M_X0_use 5 (S_iload 2 6) := k_iload_n dX0_use_5 rfl
theorem r_X0_use_6 (E : ax_EN G l) : ax_Snd G l ax_Ym M_X0_use 6 (S_iload 3 7) := k_iload_n dX0_use_6 rfl
theorem r_X0_use_7 (E : ax_EN G l) : ax_Snd G l ax_Ym M_X0_use 7 (S_iload 4 9) := k_iload dX0_use_7
theorem r_X0_use_9 (E : ax_EN G l) : ax_Snd G l ax_Ym M_X0_use 9 (S_iload 5 11) := k_iload dX0_use_9
theorem r_X0_use_11 (E : ax_EN G l) : ax_Snd G l ax_Ym M_X0_use 11 (S_iv [(19, 243)] 5 14 (fun k => if k ∈ [0, 44] then some (some 23) else if k ∈ [18] then some (some 19) else if k ∈ [6, 7, 28, 32, 33, 34, 35, 45, 46] then some none else none)) := k_iv (en_F E) (hok_115 E) (ax_Evs_cons ((ev_v (en_c E (k := 19) rfl) rfl y_X1_use q1906 q1907 q1908 q118 q1909 nm_X1_use (Nat.le_of_ble_eq_true rfl) dX0_use_11) : ax_EvV G l ax_Ym M_X0_use 11 5 3 19 243) ax_Evs_nil)
theorem r_X0_use_14 (E : ax_EN G l) : ax_Snd G l ax_Ym M_X0_use 14 (S_i2l 15) := k_i2l dX0_use_14
theorem r_X0_use_15 (E : ax_EN G l) : ax_Snd G l ax_Ym M_X0_use 15 (S_last 1 16) := k_last (en_F E) dX0_use_15
theorem r_X0_use_16 (E : ax_EN G l) : ax_Snd G l ax_Ym M_X0_use 16 (S_goto 27) := k_goto dX0_use_16 rfl
theorem r_X0_use_19 (E : ax_EN G l) : ax_Snd G l ax_Ym M_X0_use 19 (S_astore 7 21) := k_astore dX0_use_19 (Nat.le_of_ble_eq_true rfl)
theorem r_X0_use_21 (E : ax_EN G l) : ax_Snd G l ax_Ym M_X0_use 21 (S_push (.int (1)) 22) := k_iconst dX0_use_21 rfl
theorem r_X0_use_22 (E : ax_EN G l) : ax_Snd G l ax_Ym M_X0_use 22 (S_iret) := k_iret dX0_use_22 rfl
theorem r_X0_use_23 (E : ax_EN G l) : ax_Snd G l ax_Ym M_X0_use 23 (S_astore 7 25) := k_astore dX0_use_23 (Nat.le_of_ble_eq_true rfl)
theorem r_X0_use_25 (E : ax_EN G l) : ax_Snd G l ax_Ym M_X0_use 25 (S_push (.int (2)) 26) := k_iconst dX0_use_25 rfl
theorem r_X0_use_26 (E : ax_EN G l) : ax_Snd G l ax_Ym M_X0_use 26 (S_iret) := k_iret dX0_use_26 rfl
theorem r_X0_use_27 (E : ax_EN G l) : ax_Snd G l ax_Ym M_X0_use 27 (S_push (.int (0)) 28) := k_iconst dX0_use_27 rfl
theorem r_X0_use_28 (E : ax_EN G l) : ax_Snd G l ax_Ym M_X0_use 28 (S_iret) := k_iret dX0_use_28 rfl
theorem mt_X0_use (E : ax_EN G l) : ax_mt G l ax_Ym (8, P_X0_use) (ax_Ym 186) := ⟨M_X0_use, yX0_use, ⟨rfl, by decide +kernel, rfl, (fun h => by cases h), Or.inr rfl⟩, fun pc => (ax_sn_node (ax_sn_node (ax_sn_node (ax_sn_node (ax_sn_node (ax_sn_leaf (r_X0_use_28 E)) (ax_sn_leaf (r_X0_use_27 E))) (ax_sn_leaf (r_X0_use_26 E))) (ax_sn_node (ax_sn_leaf (r_X0_use_25 E)) (ax_sn_leaf (r_X0_use_23 E)))) (ax_sn_node (ax_sn_node (ax_sn_node (ax_sn_leaf (r_X0_use_22 E)) (ax_sn_leaf (r_X0_use_21 E))) (ax_sn_leaf (r_X0_use_19 E))) (ax_sn_node (ax_sn_leaf (r_X0_use_16 E)) (ax_sn_leaf (r_X0_use_15 E))))) (ax_sn_node (ax_sn_node (ax_sn_node (ax_sn_node (ax_sn_leaf (r_X0_use_14 E)) (ax_sn_leaf (r_X0_use_11 E))) (ax_sn_leaf (r_X0_use_9 E))) (ax_sn_node (ax_sn_leaf (r_X0_use_7 E)) (ax_sn_leaf (r_X0_use_6 E)))) (ax_sn_node (ax_sn_node (ax_sn_node (ax_sn_leaf (r_X0_use_5 E)) (ax_sn_leaf (r_X0_use_4 E))) (ax_sn_leaf (r_X0_use_3 E))) (ax_sn_node (ax_sn_leaf (r_X0_use_2 E)) (ax_sn_leaf (r_X0_use_0 E))))))⟩
end ROW
