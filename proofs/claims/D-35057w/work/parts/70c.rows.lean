set_option maxRecDepth 100000
section ROW
variable {G : ax_G} {l : Launch}
theorem r_X0_assemble_0 (E : ax_EN G l) : ax_Snd G l ax_Ym M_X0_assemble 0 (S_aload 1 1) := k_aload_n dX0_assemble_0 rfl
theorem r_X0_assemble_1 (E : ax_EN G l) : ax_Snd G l ax_Ym M_X0_assemble 1 (S_push (.int (0)) 2) := k_iconst dX0_assemble_1 rfl
theorem r_X0_assemble_2 (E : ax_EN G l) : ax_Snd G l ax_Ym M_X0_assemble 2 (S_aload 0 3) := k_aload_n dX0_assemble_2 rfl
theorem r_X0_assemble_3 (E : ax_EN G l) : ax_Snd G l ax_Ym M_X0_assemble 3 (S_iv [(19, 244)] 0 6 (fun k => if k ∈ [0, 44] then some (some 11) else if k ∈ [18, 6, 7, 28, 32, 33, 34, 35, 45, 46] then some none else none)) := k_iv (en_F E) (hok_116 E) (ax_Evs_cons ((ev_vW (en_c E (k := 19) rfl) rfl y_X1_assemble q1932 q1933 q1934 q118 q1935 nm_X1_assemble (Nat.le_of_ble_eq_true rfl) dX0_assemble_3) : ax_EvV G l ax_Ym M_X0_assemble 3 0 3 19 244) ax_Evs_nil)
theorem r_X0_assemble_6 (E : ax_EN G l) : ax_Snd G l ax_Ym M_X0_assemble 6 (S_i2l 7) := k_i2l dX0_assemble_6
theorem r_X0_assemble_7 (E : ax_EN G l) : ax_Snd G l ax_Ym M_X0_assemble 7 (S_last 1 8) := k_last (en_F E) dX0_assemble_7
theorem r_X0_assemble_8 (E : ax_EN G l) : ax_Snd G l ax_Ym M_X0_assemble 8 (S_goto 14) := k_goto dX0_assemble_8 rfl
theorem r_X0_assemble_11 (E : ax_EN G l) : ax_Snd G l ax_Ym M_X0_assemble 11 (S_astore 2 12) := k_astore_n dX0_assemble_11 rfl (Nat.le_of_ble_eq_true rfl)
theorem r_X0_assemble_12 (E : ax_EN G l) : ax_Snd G l ax_Ym M_X0_assemble 12 (S_push (.int (1)) 13) := k_iconst dX0_assemble_12 rfl
theorem r_X0_assemble_13 (E : ax_EN G l) : ax_Snd G l ax_Ym M_X0_assemble 13 (S_iret) := k_iret dX0_assemble_13 rfl
theorem r_X0_assemble_14 (E : ax_EN G l) : ax_Snd G l ax_Ym M_X0_assemble 14 (S_push (.int (0)) 15) := k_iconst dX0_assemble_14 rfl
theorem r_X0_assemble_15 (E : ax_EN G l) : ax_Snd G l ax_Ym M_X0_assemble 15 (S_iret) := k_iret dX0_assemble_15 rfl
theorem mt_X0_assemble (E : ax_EN G l) : ax_mt G l ax_Ym (3, P_X0_assemble) (ax_Ym 187) := ⟨M_X0_assemble, yX0_assemble, ⟨rfl, by decide +kernel, rfl, (fun h => by cases h), Or.inr rfl⟩, fun pc => (ax_sn_node (ax_sn_node (ax_sn_node (ax_sn_node (ax_sn_leaf (r_X0_assemble_15 E)) (ax_sn_leaf (r_X0_assemble_14 E))) (ax_sn_leaf (r_X0_assemble_13 E))) (ax_sn_node (ax_sn_node (ax_sn_leaf (r_X0_assemble_12 E)) (ax_sn_leaf (r_X0_assemble_11 E))) (ax_sn_leaf (r_X0_assemble_8 E)))) (ax_sn_node (ax_sn_node (ax_sn_node (ax_sn_leaf (r_X0_assemble_7 E)) (ax_sn_leaf (r_X0_assemble_6 E))) (ax_sn_leaf (r_X0_assemble_3 E))) (ax_sn_node (ax_sn_node (ax_sn_leaf (r_X0_assemble_2 E)) (ax_sn_leaf (r_X0_assemble_1 E))) (ax_sn_leaf (r_X0_assemble_0 E)))))⟩
theorem r_X0_image_0 (E : ax_EN G l) : ax_Snd G l ax_Ym M_X0_image 0 (S_aload 2 1) := k_aload_n dX0_image_0 rfl
theorem r_X0_image_1 (E : ax_EN G l) : ax_Snd G l ax_Ym M_X0_image 1 (S_push (.int (0)) 2) := k_iconst dX0_image_1 rfl
theorem r_X0_image_2 (E : ax_EN G l) : ax_Snd G l ax_Ym M_X0_image 2 (S_aload 0 3) := k_aload_n dX0_image_2 rfl
theorem r_X0_image_3 (E : ax_EN G l) : ax_Snd G l ax_Ym M_X0_image 3 (S_iload 1 4) := k_iload_n dX0_image_3 rfl
theorem r_X0_image_4 (E : ax_EN G l) : ax_Snd G l ax_Ym M_X0_image 4 (S_iv [(19, 245)] 1 7 (fun k => if k ∈ [0, 44] then some (some 15) else if k ∈ [18] then some (some 12) else if k ∈ [6, 7, 28, 32, 33, 34, 35, 45, 46] then some none else none)) := k_iv (en_F E) (hok_117 E) (ax_Evs_cons ((ev_v (en_c E (k := 19) rfl) rfl y_X1_image q1952 q1953 q1954 q118 q1955 nm_X1_image (Nat.le_of_ble_eq_true rfl) dX0_image_4) : ax_EvV G l ax_Ym M_X0_image 4 1 3 19 245) ax_Evs_nil)
theorem r_X0_image_7 (E : ax_EN G l) : ax_Snd G l ax_Ym M_X0_image 7 (S_i2l 8) := k_i2l dX0_image_7
theorem r_X0_image_8 (E : ax_EN G l) : ax_Snd G l ax_Ym M_X0_image 8 (S_last 1 9) := k_last (en_F E) dX0_image_8
theorem r_X0_image_9 (E : ax_EN G l) : ax_Snd G l ax_Ym M_X0_image 9 (S_goto 18) := k_goto dX0_image_9 rfl
theorem r_X0_image_12 (E : ax_EN G l) : ax_Snd G l ax_Ym M_X0_image 12 (S_astore 3 13) := k_astore_n dX0_image_12 rfl (Nat.le_of_ble_eq_true rfl)
theorem r_X0_image_13 (E : ax_EN G l) : ax_Snd G l ax_Ym M_X0_image 13 (S_push (.int (1)) 14) := k_iconst dX0_image_13 rfl
theorem r_X0_image_14 (E : ax_EN G l) : ax_Snd G l ax_Ym M_X0_image 14 (S_iret) := k_iret dX0_image_14 rfl
theorem r_X0_image_15 (E : ax_EN G l) : ax_Snd G l ax_Ym M_X0_image 15 (S_astore 3 16) := k_astore_n dX0_image_15 rfl (Nat.le_of_ble_eq_true rfl)
theorem r_X0_image_16 (E : ax_EN G l) : ax_Snd G l ax_Ym M_X0_image 16 (S_push (.int (2)) 17) := k_iconst dX0_image_16 rfl
theorem r_X0_image_17 (E : ax_EN G l) : ax_Snd G l ax_Ym M_X0_image 17 (S_iret) := k_iret dX0_image_17 rfl
theorem r_X0_image_18 (E : ax_EN G l) : ax_Snd G l ax_Ym M_X0_image 18 (S_push (.int (0)) 19) := k_iconst dX0_image_18 rfl
theorem r_X0_image_19 (E : ax_EN G l) : ax_Snd G l ax_Ym M_X0_image 19 (S_iret) := k_iret dX0_image_19 rfl
theorem mt_X0_image (E : ax_EN G l) : ax_mt G l ax_Ym (4, P_X0_image) (ax_Ym 188) := ⟨M_X0_image, yX0_image, ⟨rfl, by decide +kernel, rfl, (fun h => by cases h), Or.inr rfl⟩, fun pc => (ax_sn_node (ax_sn_node (ax_sn_node (ax_sn_node (ax_sn_leaf (r_X0_image_19 E)) (ax_sn_leaf (r_X0_image_18 E))) (ax_sn_node (ax_sn_leaf (r_X0_image_17 E)) (ax_sn_leaf (r_X0_image_16 E)))) (ax_sn_node (ax_sn_node (ax_sn_leaf (r_X0_image_15 E)) (ax_sn_leaf (r_X0_image_14 E))) (ax_sn_node (ax_sn_leaf (r_X0_image_13 E)) (ax_sn_leaf (r_X0_image_12 E))))) (ax_sn_node (ax_sn_node (ax_sn_node (ax_sn_leaf (r_X0_image_9 E)) (ax_sn_leaf (r_X0_image_8 E))) (ax_sn_node (ax_sn_leaf (r_X0_image_7 E)) (ax_sn_leaf (r_X0_image_4 E)))) (ax_sn_node (ax_sn_node (ax_sn_leaf (r_X0_image_3 E)) (ax_sn_leaf (r_X0_image_2 E))) (ax_sn_node (ax_sn_leaf (r_X0_image_1 E)) (ax_sn_leaf (r_X0_image_0 E))))))⟩
theorem r_X0_start_0 (E : ax_EN G l) : ax_Snd G l ax_Ym M_X0_start 0 (S_aload 1 1) := k_aload_n dX0_start_0 rfl
theorem r_X0_start_1 (E : ax_EN G l) : ax_Snd G l ax_Ym M_X0_start 1 (S_push (.int (0)) 2) := k_iconst dX0_start_1 rfl
theorem r_X0_start_2 (E : ax_EN G l) : ax_Snd G l ax_Ym M_X0_start 2 (S_aload 0 3) := k_aload_n dX0_start_2 rfl
theorem r_X0_start_3 (E : ax_EN G l) : ax_Snd G l ax_Ym M_X0_start 3 (S_iv [(19, 246)] 0 6 (fun k => if k ∈ [0, 44] then some (some 11) else if k ∈ [18, 6, 7, 28, 32, 33, 34, 35, 45, 46] then some none else none)) := k_iv (en_F E) (hok_118 E) (ax_Evs_cons ((ev_v (en_c E (k := 19) rfl) rfl y_X1_start q1959 q1960 q1961 q118 q1962 nm_X1_start (Nat.le_of_ble_eq_true rfl) dX0_start_3) : ax_EvV G l ax_Ym M_X0_start 3 0 3 19 246) ax_Evs_nil)
theorem r_X0_start_6 (E : ax_EN G l) : ax_Snd G l ax_Ym M_X0_start 6 (S_i2l 7) := k_i2l dX0_start_6
theorem r_X0_start_7 (E : ax_EN G l) : ax_Snd G l ax_Ym M_X0_start 7 (S_last 1 8) := k_last (en_F E) dX0_start_7
theorem r_X0_start_8 (E : ax_EN G l) : ax_Snd G l ax_Ym M_X0_start 8 (S_goto 14) := k_goto dX0_start_8 rfl
theorem r_X0_start_11 (E : ax_EN G l) : ax_Snd G l ax_Ym M_X0_start 11 (S_astore 2 12) := k_astore_n dX0_start_11 rfl (Nat.le_of_ble_eq_true rfl)
theorem r_X0_start_12 (E : ax_EN G l) : ax_Snd G l ax_Ym M_X0_start 12 (S_push (.int (1)) 13) := k_iconst dX0_start_12 rfl
theorem r_X0_start_13 (E : ax_EN G l) : ax_Snd G l ax_Ym M_X0_start 13 (S_iret) := k_iret dX0_start_13 rfl
theorem r_X0_start_14 (E : ax_EN G l) : ax_Snd G l ax_Ym M_X0_start 14 (S_push (.int (0)) 15) := k_iconst dX0_start_14 rfl
theorem r_X0_start_15 (E : ax_EN G l) : ax_Snd G l ax_Ym M_X0_start 15 (S_iret) := k_iret dX0_start_15 rfl
theorem mt_X0_start (E : ax_EN G l) : ax_mt G l ax_Ym (3, P_X0_start) (ax_Ym 189) := ⟨M_X0_start, yX0_start, ⟨rfl, by decide +kernel, rfl, (fun h => by cases h), Or.inr rfl⟩, fun pc => (ax_sn_node (ax_sn_node (ax_sn_node (ax_sn_node (ax_sn_leaf (r_X0_start_15 E)) (ax_sn_leaf (r_X0_start_14 E))) (ax_sn_leaf (r_X0_start_13 E))) (ax_sn_node (ax_sn_node (ax_sn_leaf (r_X0_start_12 E)) (ax_sn_leaf (r_X0_start_11 E))) (ax_sn_leaf (r_X0_start_8 E)))) (ax_sn_node (ax_sn_node (ax_sn_node (ax_sn_leaf (r_X0_start_7 E)) (ax_sn_leaf (r_X0_start_6 E))) (ax_sn_leaf (r_X0_start_3 E))) (ax_sn_node (ax_sn_node (ax_sn_leaf (r_X0_start_2 E)) (ax_sn_leaf (r_X0_start_1 E))) (ax_sn_leaf (r_X0_start_0 E)))))⟩
theorem r_X0_crash_0 (E : ax_EN G l) : ax_Snd G l ax_Ym M_X0_crash 0 (S_aload 1 1) := k_aload_n dX0_crash_0 rfl
theorem r_X0_crash_1 (E : ax_EN G l) : ax_Snd G l ax_Ym M_X0_crash 1 (S_push (.int (0)) 2) := k_iconst dX0_crash_1 rfl
theorem r_X0_crash_2 (E : ax_EN G l) : ax_Snd G l ax_Ym M_X0_crash 2 (S_aload 0 3) := k_aload_n dX0_crash_2 rfl
theorem r_X0_crash_3 (E : ax_EN G l) : ax_Snd G l ax_Ym M_X0_crash 3 (S_iv [(19, 247)] 0 6 (fun k => if k ∈ [0, 44] then some (some 11) else if k ∈ [18, 6, 7, 28, 32, 33, 34, 35, 45, 46] then some none else none)) := k_iv (en_F E) (hok_119 E) (ax_Evs_cons ((ev_v (en_c E (k := 19) rfl) rfl y_X1_crash q1988 q1989 q1990 q118 q1991 nm_X1_crash (Nat.le_of_ble_eq_true rfl) dX0_crash_3) : ax_EvV G l ax_Ym M_X0_crash 3 0 3 19 247) ax_Evs_nil)
theorem r_X0_crash_6 (E : ax_EN G l) : ax_Snd G l ax_Ym M_X0_crash 6 (S_i2l 7) := k_i2l dX0_crash_6
theorem r_X0_crash_7 (E : ax_EN G l) : ax_Snd G l ax_Ym M_X0_crash 7 (S_last 1 8) := k_last (en_F E) dX0_crash_7
theorem r_X0_crash_8 (E : ax_EN G l) : ax_Snd G l ax_Ym M_X0_crash 8 (S_goto 14) := k_goto dX0_crash_8 rfl
theorem r_X0_crash_11 (E : ax_EN G l) : ax_Snd G l ax_Ym M_X0_crash 11 (S_astore 2 12) := k_astore_n dX0_crash_11 rfl (Nat.le_of_ble_eq_true rfl)
theorem r_X0_crash_12 (E : ax_EN G l) : ax_Snd G l ax_Ym M_X0_crash 12 (S_push (.int (1)) 13) := k_iconst dX0_crash_12 rfl
theorem r_X0_crash_13 (E : ax_EN G l) : ax_Snd G l ax_Ym M_X0_crash 13 (S_iret) := k_iret dX0_crash_13 rfl
theorem r_X0_crash_14 (E : ax_EN G l) : ax_Snd G l ax_Ym M_X0_crash 14 (S_push (.int (0)) 15) := k_iconst dX0_crash_14 rfl
theorem r_X0_crash_15 (E : ax_EN G l) : ax_Snd G l ax_Ym M_X0_crash 15 (S_iret) := k_iret dX0_crash_15 rfl
theorem mt_X0_crash (E : ax_EN G l) : ax_mt G l ax_Ym (3, P_X0_crash) (ax_Ym 190) := ⟨M_X0_crash, yX0_crash, ⟨rfl, by decide +kernel, rfl, (fun h => by cases h), Or.inr rfl⟩, fun pc => (ax_sn_node (ax_sn_node (ax_sn_node (ax_sn_node (ax_sn_leaf (r_X0_crash_15 E)) (ax_sn_leaf (r_X0_crash_14 E))) (ax_sn_leaf (r_X0_crash_13 E))) (ax_sn_node (ax_sn_node (ax_sn_leaf (r_X0_crash_12 E)) (ax_sn_leaf (r_X0_crash_11 E))) (ax_sn_leaf (r_X0_crash_8 E)))) (ax_sn_node (ax_sn_node (ax_sn_node (ax_sn_leaf (r_X0_crash_7 E)) (ax_sn_leaf (r_X0_crash_6 E))) (ax_sn_leaf (r_X0_crash_3 E))) (ax_sn_node (ax_sn_node (ax_sn_leaf (r_X0_crash_2 E)) (ax_sn_leaf (r_X0_crash_1 E))) (ax_sn_leaf (r_X0_crash_0 E)))))⟩
theorem r_X0_format_0 (E : ax_EN G l) : ax_Snd G l ax_Ym M_X0_format 0 (S_aload 1 1) := k_aload_n dX0_format_0 rfl
theorem r_X0_format_1 (E : ax_EN G l) : ax_Snd G l ax_Ym M_X0_format 1 (S_push (.int (0)) 2) := k_iconst dX0_format_1 rfl
theorem r_X0_format_2 (E : ax_EN G l) : ax_Snd G l ax_Ym M_X0_format 2 (S_aload 0 3) := k_aload_n dX0_format_2 rfl
theorem r_X0_format_3 (E : ax_EN G l) : ax_Snd G l ax_Ym M_X0_format 3 (S_iv [(19, 248)] 0 6 (fun k => if k ∈ [0, 44] then some (some 11) else if k ∈ [18, 6, 7, 28, 32, 33, 34, 35, 45, 46] then some none else none)) := k_iv (en_F E) (hok_120 E) (ax_Evs_cons ((ev_v (en_c E (k := 19) rfl) rfl y_X1_format q2007 q2008 q2009 q118 q2010 nm_X1_format (Nat.le_of_ble_eq_true rfl) dX0_format_3) : ax_EvV G l ax_Ym M_X0_format 3 0 3 19 248) ax_Evs_nil)
theorem r_X0_format_6 (E : ax_EN G l) : ax_Snd G l ax_Ym M_X0_format 6 (S_i2l 7) := k_i2l dX0_format_6
theorem r_X0_format_7 (E : ax_EN G l) : ax_Snd G l ax_Ym M_X0_format 7 (S_last 1 8) := k_last (en_F E) dX0_format_7
theorem r_X0_format_8 (E : ax_EN G l) : ax_Snd G l ax_Ym M_X0_format 8 (S_goto 14) := k_goto dX0_format_8 rfl
theorem r_X0_format_11 (E : ax_EN G l) : ax_Snd G l ax_Ym M_X0_format 11 (S_astore 2 12) := k_astore_n dX0_format_11 rfl (Nat.le_of_ble_eq_true rfl)
theorem r_X0_format_12 (E : ax_EN G l) : ax_Snd G l ax_Ym M_X0_format 12 (S_push (.int (1)) 13) := k_iconst dX0_format_12 rfl
theorem r_X0_format_13 (E : ax_EN G l) : ax_Snd G l ax_Ym M_X0_format 13 (S_iret) := k_iret dX0_format_13 rfl
theorem r_X0_format_14 (E : ax_EN G l) : ax_Snd G l ax_Ym M_X0_format 14 (S_push (.int (0)) 15) := k_iconst dX0_format_14 rfl
theorem r_X0_format_15 (E : ax_EN G l) : ax_Snd G l ax_Ym M_X0_format 15 (S_iret) := k_iret dX0_format_15 rfl
theorem mt_X0_format (E : ax_EN G l) : ax_mt G l ax_Ym (3, P_X0_format) (ax_Ym 191) := ⟨M_X0_format, yX0_format, ⟨rfl, by decide +kernel, rfl, (fun h => by cases h), Or.inr rfl⟩, fun pc => (ax_sn_node (ax_sn_node (ax_sn_node (ax_sn_node (ax_sn_leaf (r_X0_format_15 E)) (ax_sn_leaf (r_X0_format_14 E))) (ax_sn_leaf (r_X0_format_13 E))) (ax_sn_node (ax_sn_node (ax_sn_leaf (r_X0_format_12 E)) (ax_sn_leaf (r_X0_format_11 E))) (ax_sn_leaf (r_X0_format_8 E)))) (ax_sn_node (ax_sn_node (ax_sn_node (ax_sn_leaf (r_X0_format_7 E)) (ax_sn_leaf (r_X0_format_6 E))) (ax_sn_leaf (r_X0_format_3 E))) (ax_sn_node (ax_sn_node (ax_sn_leaf (r_X0_format_2 E)) (ax_sn_leaf (r_X0_format_1 E))) (ax_sn_leaf (r_X0_format_0 E)))))⟩
theorem r_X0_step_0 (E : ax_EN G l) : ax_Snd G l ax_Ym M_X0_step 0 (S_aload 2 1) := k_aload_n dX0_step_0 rfl
theorem r_X0_step_1 (E : ax_EN G l) : ax_Snd G l ax_Ym M_X0_step 1 (S_push (.int (0)) 2) := k_iconst dX0_step_1 rfl
theorem r_X0_step_2 (E : ax_EN G l) : ax_Snd G l ax_Ym M_X0_step 2 (S_aload 0 3) := k_aload_n dX0_step_2 rfl
theorem r_X0_step_3 (E : ax_EN G l) : ax_Snd G l ax_Ym M_X0_step 3 (S_iload 1 4) := k_iload_n dX0_step_3 rfl
theorem r_X0_step_4 (E : ax_EN G l) : ax_Snd G l ax_Ym M_X0_step 4 (S_iv [(19, 249)] 1 7 (fun k => if k ∈ [0, 44] then some (some 15) else if k ∈ [18] then some (some 12) else if k ∈ [6, 7, 28, 32, 33, 34, 35, 45, 46] then some none else none)) := k_iv (en_F E) (hok_121 E) (ax_Evs_cons ((ev_v (en_c E (k := 19) rfl) rfl y_X1_step q2016 q2017 q2018 q118 q2019 nm_X1_step (Nat.le_of_ble_eq_true rfl) dX0_step_4) : ax_EvV G l ax_Ym M_X0_step 4 1 3 19 249) ax_Evs_nil)
theorem r_X0_step_7 (E : ax_EN G l) : ax_Snd G l ax_Ym M_X0_step 7 (S_i2l 8) := k_i2l dX0_step_7
theorem r_X0_step_8 (E : ax_EN G l) : ax_Snd G l ax_Ym M_X0_step 8 (S_last 1 9) := k_last (en_F E) dX0_step_8
theorem r_X0_step_9 (E : ax_EN G l) : ax_Snd G l ax_Ym M_X0_step 9 (S_goto 18) := k_goto dX0_step_9 rfl
theorem r_X0_step_12 (E : ax_EN G l) : ax_Snd G l ax_Ym M_X0_step 12 (S_astore 3 13) := k_astore_n dX0_step_12 rfl (Nat.le_of_ble_eq_true rfl)
theorem r_X0_step_13 (E : ax_EN G l) : ax_Snd G l ax_Ym M_X0_step 13 (S_push (.int (1)) 14) := k_iconst dX0_step_13 rfl
theorem r_X0_step_14 (E : ax_EN G l) : ax_Snd G l ax_Ym M_X0_step 14 (S_iret) := k_iret dX0_step_14 rfl
theorem r_X0_step_15 (E : ax_EN G l) : ax_Snd G l ax_Ym M_X0_step 15 (S_astore 3 16) := k_astore_n dX0_step_15 rfl (Nat.le_of_ble_eq_true rfl)
theorem r_X0_step_16 (E : ax_EN G l) : ax_Snd G l ax_Ym M_X0_step 16 (S_push (.int (2)) 17) := k_iconst dX0_step_16 rfl
theorem r_X0_step_17 (E : ax_EN G l) : ax_Snd G l ax_Ym M_X0_step 17 (S_iret) := k_iret dX0_step_17 rfl
theorem r_X0_step_18 (E : ax_EN G l) : ax_Snd G l ax_Ym M_X0_step 18 (S_push (.int (0)) 19) := k_iconst dX0_step_18 rfl
theorem r_X0_step_19 (E : ax_EN G l) : ax_Snd G l ax_Ym M_X0_step 19 (S_iret) := k_iret dX0_step_19 rfl
theorem mt_X0_step (E : ax_EN G l) : ax_mt G l ax_Ym (4, P_X0_step) (ax_Ym 192) := ⟨M_X0_step, yX0_step, ⟨rfl, by decide +kernel, rfl, (fun h => by cases h), Or.inr rfl⟩, fun pc => (ax_sn_node (ax_sn_node (ax_sn_node (ax_sn_node (ax_sn_leaf (r_X0_step_19 E)) (ax_sn_leaf (r_X0_step_18 E))) (ax_sn_node (ax_sn_leaf (r_X0_step_17 E)) (ax_sn_leaf (r_X0_step_16 E)))) (ax_sn_node (ax_sn_node (ax_sn_leaf (r_X0_step_15 E)) (ax_sn_leaf (r_X0_step_14 E))) (ax_sn_node (ax_sn_leaf (r_X0_step_13 E)) (ax_sn_leaf (r_X0_step_12 E))))) (ax_sn_node (ax_sn_node (ax_sn_node (ax_sn_leaf (r_X0_step_9 E)) (ax_sn_leaf (r_X0_step_8 E))) (ax_sn_node (ax_sn_leaf (r_X0_step_7 E)) (ax_sn_leaf (r_X0_step_4 E)))) (ax_sn_node (ax_sn_node (ax_sn_leaf (r_X0_step_3 E)) (ax_sn_leaf (r_X0_step_2 E))) (ax_sn_node (ax_sn_leaf (r_X0_step_1 E)) (ax_sn_leaf (r_X0_step_0 E))))))⟩
theorem r_X0_runTo_0 (E : ax_EN G l) : ax_Snd G l ax_Ym M_X0_runTo 0 (S_aload 3 1) := k_aload_n dX0_runTo_0 rfl
theorem r_X0_runTo_1 (E : ax_EN G l) : ax_Snd G l ax_Ym M_X0_runTo 1 (S_push (.int (0)) 2) := k_iconst dX0_runTo_1 rfl
theorem r_X0_runTo_2 (E : ax_EN G l) : ax_Snd G l ax_Ym M_X0_runTo 2 (S_aload 0 3) := k_aload_n dX0_runTo_2 rfl
theorem r_X0_runTo_3 (E : ax_EN G l) : ax_Snd G l ax_Ym M_X0_runTo 3 (S_iload 1 4) := k_iload_n dX0_runTo_3 rfl
theorem r_X0_runTo_4 (E : ax_EN G l) : ax_Snd G l ax_Ym M_X0_runTo 4 (S_iload 2 5) := k_iload_n dX0_runTo_4 rfl
theorem r_X0_runTo_5 (E : ax_EN G l) : ax_Snd G l ax_Ym M_X0_runTo 5 (S_iv [(19, 250)] 2 8 (fun k => if k ∈ [0, 44] then some (some 17) else if k ∈ [18] then some (some 13) else if k ∈ [6, 7, 28, 32, 33, 34, 35, 45, 46] then some none else none)) := k_iv (en_F E) (hok_122 E) (ax_Evs_cons ((ev_v (en_c E (k := 19) rfl) rfl y_X1_runTo q2294 q2295 q2296 q118 q2297 nm_X1_runTo (Nat.le_of_ble_eq_true rfl) dX0_runTo_5) : ax_EvV G l ax_Ym M_X0_runTo 5 2 3 19 250) ax_Evs_nil)
theorem r_X0_runTo_8 (E : ax_EN G l) : ax_Snd G l ax_Ym M_X0_runTo 8 (S_i2l 9) := k_i2l dX0_runTo_8
theorem r_X0_runTo_9 (E : ax_EN G l) : ax_Snd G l ax_Ym M_X0_runTo 9 (S_last 1 10) := k_last (en_F E) dX0_runTo_9
theorem r_X0_runTo_10 (E : ax_EN G l) : ax_Snd G l ax_Ym M_X0_runTo 10 (S_goto 21) := k_goto dX0_runTo_10 rfl
theorem r_X0_runTo_13 (E : ax_EN G l) : ax_Snd G l ax_Ym M_X0_runTo 13 (S_astore 4 15) := k_astore dX0_runTo_13 (Nat.le_of_ble_eq_true rfl)
theorem r_X0_runTo_15 (E : ax_EN G l) : ax_Snd G l ax_Ym M_X0_runTo 15 (S_push (.int (1)) 16) := k_iconst dX0_runTo_15 rfl
theorem r_X0_runTo_16 (E : ax_EN G l) : ax_Snd G l ax_Ym M_X0_runTo 16 (S_iret) := k_iret dX0_runTo_16 rfl
theorem r_X0_runTo_17 (E : ax_EN G l) : ax_Snd G l ax_Ym M_X0_runTo 17 (S_astore 4 19) := k_astore dX0_runTo_17 (Nat.le_of_ble_eq_true rfl)
theorem r_X0_runTo_19 (E : ax_EN G l) : ax_Snd G l ax_Ym M_X0_runTo 19 (S_push (.int (2)) 20) := k_iconst dX0_runTo_19 rfl
theorem r_X0_runTo_20 (E : ax_EN G l) : ax_Snd G l ax_Ym M_X0_runTo 20 (S_iret) := k_iret dX0_runTo_20 rfl
theorem r_X0_runTo_21 (E : ax_EN G l) : ax_Snd G l ax_Ym M_X0_runTo 21 (S_push (.int (0)) 22) := k_iconst dX0_runTo_21 rfl
theorem r_X0_runTo_22 (E : ax_EN G l) : ax_Snd G l ax_Ym M_X0_runTo 22 (S_iret) := k_iret dX0_runTo_22 rfl
theorem mt_X0_runTo (E : ax_EN G l) : ax_mt G l ax_Ym (5, P_X0_runTo) (ax_Ym 193) := ⟨M_X0_runTo, yX0_runTo, ⟨rfl, by decide +kernel, rfl, (fun h => by cases h), Or.inr rfl⟩, fun pc => (ax_sn_node (ax_sn_node (ax_sn_node (ax_sn_node (ax_sn_node (ax_sn_leaf (r_X0_runTo_22 E)) (ax_sn_leaf (r_X0_runTo_21 E))) (ax_sn_leaf (r_X0_runTo_20 E))) (ax_sn_node (ax_sn_leaf (r_X0_runTo_19 E)) (ax_sn_leaf (r_X0_runTo_17 E)))) (ax_sn_node (ax_sn_node (ax_sn_leaf (r_X0_runTo_16 E)) (ax_sn_leaf (r_X0_runTo_15 E))) (ax_sn_node (ax_sn_leaf (r_X0_runTo_13 E)) (ax_sn_leaf (r_X0_runTo_10 E))))) (ax_sn_node (ax_sn_node (ax_sn_node (ax_sn_leaf (r_X0_runTo_9 E)) (ax_sn_leaf (r_X0_runTo_8 E))) (ax_sn_node (ax_sn_leaf (r_X0_runTo_5 E)) (ax_sn_leaf (r_X0_runTo_4 E)))) (ax_sn_node (ax_sn_node (ax_sn_leaf (r_X0_runTo_3 E)) (ax_sn_leaf (r_X0_runTo_2 E))) (ax_sn_node (ax_sn_leaf (r_X0_runTo_1 E)) (ax_sn_leaf (r_X0_runTo_0 E))))))⟩
theorem r_X0_back_0 (E : ax_EN G l) : ax_Snd G l ax_Ym M_X0_back 0 (S_aload 2 1) := k_aload_n dX0_back_0 rfl
theorem r_X0_back_1 (E : ax_EN G l) : ax_Snd G l ax_Ym M_X0_back 1 (S_push (.int (0)) 2) := k_iconst dX0_back_1 rfl
theorem r_X0_back_2 (E : ax_EN G l) : ax_Snd G l ax_Ym M_X0_back 2 (S_aload 0 3) := k_aload_n dX0_back_2 rfl
theorem r_X0_back_3 (E : ax_EN G l) : ax_Snd G l ax_Ym M_X0_back 3 (S_iload 1 4) := k_iload_n dX0_back_3 rfl
theorem r_X0_back_4 (E : ax_EN G l) : ax_Snd G l ax_Ym M_X0_back 4 (S_iv [(19, 251)] 1 7 (fun k => if k ∈ [0, 44] then some (some 15) else if k ∈ [18] then some (some 12) else if k ∈ [6, 7, 28, 32, 33, 34, 35, 45, 46] then some none else none)) := k_iv (en_F E) (hok_123 E) (ax_Evs_cons ((ev_v (en_c E (k := 19) rfl) rfl y_X1_back q2301 q2302 q2303 q118 q2304 nm_X1_back (Nat.le_of_ble_eq_true rfl) dX0_back_4) : ax_EvV G l ax_Ym M_X0_back 4 1 3 19 251) ax_Evs_nil)
theorem r_X0_back_7 (E : ax_EN G l) : ax_Snd G l ax_Ym M_X0_back 7 (S_i2l 8) := k_i2l dX0_back_7
theorem r_X0_back_8 (E : ax_EN G l) : ax_Snd G l ax_Ym M_X0_back 8 (S_last 1 9) := k_last (en_F E) dX0_back_8
theorem r_X0_back_9 (E : ax_EN G l) : ax_Snd G l ax_Ym M_X0_back 9 (S_goto 18) := k_goto dX0_back_9 rfl
theorem r_X0_back_12 (E : ax_EN G l) : ax_Snd G l ax_Ym M_X0_back 12 (S_astore 3 13) := k_astore_n dX0_back_12 rfl (Nat.le_of_ble_eq_true rfl)
theorem r_X0_back_13 (E : ax_EN G l) : ax_Snd G l ax_Ym M_X0_back 13 (S_push (.int (1)) 14) := k_iconst dX0_back_13 rfl
theorem r_X0_back_14 (E : ax_EN G l) : ax_Snd G l ax_Ym M_X0_back 14 (S_iret) := k_iret dX0_back_14 rfl
theorem r_X0_back_15 (E : ax_EN G l) : ax_Snd G l ax_Ym M_X0_back 15 (S_astore 3 16) := k_astore_n dX0_back_15 rfl (Nat.le_of_ble_eq_true rfl)
theorem r_X0_back_16 (E : ax_EN G l) : ax_Snd G l ax_Ym M_X0_back 16 (S_push (.int (2)) 17) := k_iconst dX0_back_16 rfl
theorem r_X0_back_17 (E : ax_EN G l) : ax_Snd G l ax_Ym M_X0_back 17 (S_iret) := k_iret dX0_back_17 rfl
theorem r_X0_back_18 (E : ax_EN G l) : ax_Snd G l ax_Ym M_X0_back 18 (S_push (.int (0)) 19) := k_iconst dX0_back_18 rfl
theorem r_X0_back_19 (E : ax_EN G l) : ax_Snd G l ax_Ym M_X0_back 19 (S_iret) := k_iret dX0_back_19 rfl
theorem mt_X0_back (E : ax_EN G l) : ax_mt G l ax_Ym (4, P_X0_back) (ax_Ym 194) := ⟨M_X0_back, yX0_back, ⟨rfl, by decide +kernel, rfl, (fun h => by cases h), Or.inr rfl⟩, fun pc => (ax_sn_node (ax_sn_node (ax_sn_node (ax_sn_node (ax_sn_leaf (r_X0_back_19 E)) (ax_sn_leaf (r_X0_back_18 E))) (ax_sn_node (ax_sn_leaf (r_X0_back_17 E)) (ax_sn_leaf (r_X0_back_16 E)))) (ax_sn_node (ax_sn_node (ax_sn_leaf (r_X0_back_15 E)) (ax_sn_leaf (r_X0_back_14 E))) (ax_sn_node (ax_sn_leaf (r_X0_back_13 E)) (ax_sn_leaf (r_X0_back_12 E))))) (ax_sn_node (ax_sn_node (ax_sn_node (ax_sn_leaf (r_X0_back_9 E)) (ax_sn_leaf (r_X0_back_8 E))) (ax_sn_node (ax_sn_leaf (r_X0_back_7 E)) (ax_sn_leaf (r_X0_back_4 E)))) (ax_sn_node (ax_sn_node (ax_sn_leaf (r_X0_back_3 E)) (ax_sn_leaf (r_X0_back_2 E))) (ax_sn_node (ax_sn_leaf (r_X0_back_1 E)) (ax_sn_leaf (r_X0_back_0 E))))))⟩
theorem r_X0_press_0 (E : ax_EN G l) : ax_Snd G l ax_Ym M_X0_press 0 (S_aload 2 1) := k_aload_n dX0_press_0 rfl
theorem r_X0_press_1 (E : ax_EN G l) : ax_Snd G l ax_Ym M_X0_press 1 (S_push (.int (0)) 2) := k_iconst dX0_press_1 rfl
theorem r_X0_press_2 (E : ax_EN G l) : ax_Snd G l ax_Ym M_X0_press 2 (S_aload 0 3) := k_aload_n dX0_press_2 rfl
theorem r_X0_press_3 (E : ax_EN G l) : ax_Snd G l ax_Ym M_X0_press 3 (S_iload 1 4) := k_iload_n dX0_press_3 rfl
theorem r_X0_press_4 (E : ax_EN G l) : ax_Snd G l ax_Ym M_X0_press 4 (S_iv [(19, 252)] 1 7 (fun k => if k ∈ [0, 44] then some (some 15) else if k ∈ [18] then some (some 12) else if k ∈ [6, 7, 28, 32, 33, 34, 35, 45, 46] then some none else none)) := k_iv (en_F E) (hok_124 E) (ax_Evs_cons ((ev_v (en_c E (k := 19) rfl) rfl y_X1_press q2325 q2326 q2327 q118 q2328 nm_X1_press (Nat.le_of_ble_eq_true rfl) dX0_press_4) : ax_EvV G l ax_Ym M_X0_press 4 1 3 19 252) ax_Evs_nil)
theorem r_X0_press_7 (E : ax_EN G l) : ax_Snd G l ax_Ym M_X0_press 7 (S_i2l 8) := k_i2l dX0_press_7
theorem r_X0_press_8 (E : ax_EN G l) : ax_Snd G l ax_Ym M_X0_press 8 (S_last 1 9) := k_last (en_F E) dX0_press_8
theorem r_X0_press_9 (E : ax_EN G l) : ax_Snd G l ax_Ym M_X0_press 9 (S_goto 18) := k_goto dX0_press_9 rfl
theorem r_X0_press_12 (E : ax_EN G l) : ax_Snd G l ax_Ym M_X0_press 12 (S_astore 3 13) := k_astore_n dX0_press_12 rfl (Nat.le_of_ble_eq_true rfl)
theorem r_X0_press_13 (E : ax_EN G l) : ax_Snd G l ax_Ym M_X0_press 13 (S_push (.int (1)) 14) := k_iconst dX0_press_13 rfl
theorem r_X0_press_14 (E : ax_EN G l) : ax_Snd G l ax_Ym M_X0_press 14 (S_iret) := k_iret dX0_press_14 rfl
theorem r_X0_press_15 (E : ax_EN G l) : ax_Snd G l ax_Ym M_X0_press 15 (S_astore 3 16) := k_astore_n dX0_press_15 rfl (Nat.le_of_ble_eq_true rfl)
theorem r_X0_press_16 (E : ax_EN G l) : ax_Snd G l ax_Ym M_X0_press 16 (S_push (.int (2)) 17) := k_iconst dX0_press_16 rfl
theorem r_X0_press_17 (E : ax_EN G l) : ax_Snd G l ax_Ym M_X0_press 17 (S_iret) := k_iret dX0_press_17 rfl
theorem r_X0_press_18 (E : ax_EN G l) : ax_Snd G l ax_Ym M_X0_press 18 (S_push (.int (0)) 19) := k_iconst dX0_press_18 rfl
theorem r_X0_press_19 (E : ax_EN G l) : ax_Snd G l ax_Ym M_X0_press 19 (S_iret) := k_iret dX0_press_19 rfl
theorem mt_X0_press (E : ax_EN G l) : ax_mt G l ax_Ym (4, P_X0_press) (ax_Ym 195) := ⟨M_X0_press, yX0_press, ⟨rfl, by decide +kernel, rfl, (fun h => by cases h), Or.inr rfl⟩, fun pc => (ax_sn_node (ax_sn_node (ax_sn_node (ax_sn_node (ax_sn_leaf (r_X0_press_19 E)) (ax_sn_leaf (r_X0_press_18 E))) (ax_sn_node (ax_sn_leaf (r_X0_press_17 E)) (ax_sn_leaf (r_X0_press_16 E)))) (ax_sn_node (ax_sn_node (ax_sn_leaf (r_X0_press_15 E)) (ax_sn_leaf (r_X0_press_14 E))) (ax_sn_node (ax_sn_leaf (r_X0_press_13 E)) (ax_sn_leaf (r_X0_press_12 E))))) (ax_sn_node (ax_sn_node (ax_sn_node (ax_sn_leaf (r_X0_press_9 E)) (ax_sn_leaf (r_X0_press_8 E))) (ax_sn_node (ax_sn_leaf (r_X0_press_7 E)) (ax_sn_leaf (r_X0_press_4 E)))) (ax_sn_node (ax_sn_node (ax_sn_leaf (r_X0_press_3 E)) (ax_sn_leaf (r_X0_press_2 E))) (ax_sn_node (ax_sn_leaf (r_X0_press_1 E)) (ax_sn_leaf (r_X0_press_0 E))))))⟩
theorem r_X0_register_0 (E : ax_EN G l) : ax_Snd G l ax_Ym M_X0_register 0 (S_aload 2 1) := k_aload_n dX0_register_0 rfl
theorem r_X0_register_1 (E : ax_EN G l) : ax_Snd G l ax_Ym M_X0_register 1 (S_push (.int (0)) 2) := k_iconst dX0_register_1 rfl
theorem r_X0_register_2 (E : ax_EN G l) : ax_Snd G l ax_Ym M_X0_register 2 (S_aload 0 3) := k_aload_n dX0_register_2 rfl
theorem r_X0_register_3 (E : ax_EN G l) : ax_Snd G l ax_Ym M_X0_register 3 (S_iload 1 4) := k_iload_n dX0_register_3 rfl
theorem r_X0_register_4 (E : ax_EN G l) : ax_Snd G l ax_Ym M_X0_register 4 (S_iv [(19, 253)] 1 7 (fun k => if k ∈ [18] then some (some 12) else if k ∈ [0, 6, 7, 28, 32, 33, 34, 35, 44, 45, 46] then some none else none)) := k_iv (en_F E) (hok_125 E) (ax_Evs_cons ((ev_v (en_c E (k := 19) rfl) rfl y_X1_register q2470 q2471 q2472 q118 q2473 nm_X1_register (Nat.le_of_ble_eq_true rfl) dX0_register_4) : ax_EvV G l ax_Ym M_X0_register 4 1 3 19 253) ax_Evs_nil)
theorem r_X0_register_7 (E : ax_EN G l) : ax_Snd G l ax_Ym M_X0_register 7 (S_i2l 8) := k_i2l dX0_register_7
theorem r_X0_register_8 (E : ax_EN G l) : ax_Snd G l ax_Ym M_X0_register 8 (S_last 1 9) := k_last (en_F E) dX0_register_8
theorem r_X0_register_9 (E : ax_EN G l) : ax_Snd G l ax_Ym M_X0_register 9 (S_goto 15) := k_goto dX0_register_9 rfl
theorem r_X0_register_12 (E : ax_EN G l) : ax_Snd G l ax_Ym M_X0_register 12 (S_astore 3 13) := k_astore_n dX0_register_12 rfl (Nat.le_of_ble_eq_true rfl)
theorem r_X0_register_13 (E : ax_EN G l) : ax_Snd G l ax_Ym M_X0_register 13 (S_push (.int (1)) 14) := k_iconst dX0_register_13 rfl
theorem r_X0_register_14 (E : ax_EN G l) : ax_Snd G l ax_Ym M_X0_register 14 (S_iret) := k_iret dX0_register_14 rfl
theorem r_X0_register_15 (E : ax_EN G l) : ax_Snd G l ax_Ym M_X0_register 15 (S_push (.int (0)) 16) := k_iconst dX0_register_15 rfl
theorem r_X0_register_16 (E : ax_EN G l) : ax_Snd G l ax_Ym M_X0_register 16 (S_iret) := k_iret dX0_register_16 rfl
theorem mt_X0_register (E : ax_EN G l) : ax_mt G l ax_Ym (4, P_X0_register) (ax_Ym 196) := ⟨M_X0_register, yX0_register, ⟨rfl, by decide +kernel, rfl, (fun h => by cases h), Or.inr rfl⟩, fun pc => (ax_sn_node (ax_sn_node (ax_sn_node (ax_sn_node (ax_sn_leaf (r_X0_register_16 E)) (ax_sn_leaf (r_X0_register_15 E))) (ax_sn_node (ax_sn_leaf (r_X0_register_14 E)) (ax_sn_leaf (r_X0_register_13 E)))) (ax_sn_node (ax_sn_node (ax_sn_leaf (r_X0_register_12 E)) (ax_sn_leaf (r_X0_register_9 E))) (ax_sn_leaf (r_X0_register_8 E)))) (ax_sn_node (ax_sn_node (ax_sn_node (ax_sn_leaf (r_X0_register_7 E)) (ax_sn_leaf (r_X0_register_4 E))) (ax_sn_leaf (r_X0_register_3 E))) (ax_sn_node (ax_sn_node (ax_sn_leaf (r_X0_register_2 E)) (ax_sn_leaf (r_X0_register_1 E))) (ax_sn_leaf (r_X0_register_0 E)))))⟩
theorem r_X0_memory_0 (E : ax_EN G l) : ax_Snd G l ax_Ym M_X0_memory 0 (S_aload 2 1) := k_aload_n dX0_memory_0 rfl
theorem r_X0_memory_1 (E : ax_EN G l) : ax_Snd G l ax_Ym M_X0_memory 1 (S_push (.int (0)) 2) := k_iconst dX0_memory_1 rfl
theorem r_X0_memory_2 (E : ax_EN G l) : ax_Snd G l ax_Ym M_X0_memory 2 (S_aload 0 3) := k_aload_n dX0_memory_2 rfl
theorem r_X0_memory_3 (E : ax_EN G l) : ax_Snd G l ax_Ym M_X0_memory 3 (S_iload 1 4) := k_iload_n dX0_memory_3 rfl
theorem r_X0_memory_4 (E : ax_EN G l) : ax_Snd G l ax_Ym M_X0_memory 4 (S_iv [(19, 254)] 1 7 (fun k => if k ∈ [18] then some (some 12) else if k ∈ [0, 6, 7, 28, 32, 33, 34, 35, 44, 45, 46] then some none else none)) := k_iv (en_F E) (hok_126 E) (ax_Evs_cons ((ev_v (en_c E (k := 19) rfl) rfl y_X1_memory q2477 q2478 q2479 q118 q2480 nm_X1_memory (Nat.le_of_ble_eq_true rfl) dX0_memory_4) : ax_EvV G l ax_Ym M_X0_memory 4 1 3 19 254) ax_Evs_nil)
theorem r_X0_memory_7 (E : ax_EN G l) : ax_Snd G l ax_Ym M_X0_memory 7 (S_i2l 8) := k_i2l dX0_memory_7
theorem r_X0_memory_8 (E : ax_EN G l) : ax_Snd G l ax_Ym M_X0_memory 8 (S_last 1 9) := k_last (en_F E) dX0_memory_8
theorem r_X0_memory_9 (E : ax_EN G l) : ax_Snd G l ax_Ym M_X0_memory 9 (S_goto 15) := k_goto dX0_memory_9 rfl
theorem r_X0_memory_12 (E : ax_EN G l) : ax_Snd G l ax_Ym M_X0_memory 12 (S_astore 3 13) := k_astore_n dX0_memory_12 rfl (Nat.le_of_ble_eq_true rfl)
theorem r_X0_memory_13 (E : ax_EN G l) : ax_Snd G l ax_Ym M_X0_memory 13 (S_push (.int (1)) 14) := k_iconst dX0_memory_13 rfl
theorem r_X0_memory_14 (E : ax_EN G l) : ax_Snd G l ax_Ym M_X0_memory 14 (S_iret) := k_iret dX0_memory_14 rfl
theorem r_X0_memory_15 (E : ax_EN G l) : ax_Snd G l ax_Ym M_X0_memory 15 (S_push (.int (0)) 16) := k_iconst dX0_memory_15 rfl
theorem r_X0_memory_16 (E : ax_EN G l) : ax_Snd G l ax_Ym M_X0_memory 16 (S_iret) := k_iret dX0_memory_16 rfl
theorem mt_X0_memory (E : ax_EN G l) : ax_mt G l ax_Ym (4, P_X0_memory) (ax_Ym 197) := ⟨M_X0_memory, yX0_memory, ⟨rfl, by decide +kernel, rfl, (fun h => by cases h), Or.inr rfl⟩, fun pc => (ax_sn_node (ax_sn_node (ax_sn_node (ax_sn_node (ax_sn_leaf (r_X0_memory_16 E)) (ax_sn_leaf (r_X0_memory_15 E))) (ax_sn_node (ax_sn_leaf (r_X0_memory_14 E)) (ax_sn_leaf (r_X0_memory_13 E)))) (ax_sn_node (ax_sn_node (ax_sn_leaf (r_X0_memory_12 E)) (ax_sn_leaf (r_X0_memory_9 E))) (ax_sn_leaf (r_X0_memory_8 E)))) (ax_sn_node (ax_sn_node (ax_sn_node (ax_sn_leaf (r_X0_memory_7 E)) (ax_sn_leaf (r_X0_memory_4 E))) (ax_sn_leaf (r_X0_memory_3 E))) (ax_sn_node (ax_sn_node (ax_sn_leaf (r_X0_memory_2 E)) (ax_sn_leaf (r_X0_memory_1 E))) (ax_sn_leaf (r_X0_memory_0 E)))))⟩
theorem r_X0_changedAt_0 (E : ax_EN G l) : ax_Snd G l ax_Ym M_X0_changedAt 0 (S_aload 2 1) := k_aload_n dX0_changedAt_0 rfl
theorem r_X0_changedAt_1 (E : ax_EN G l) : ax_Snd G l ax_Ym M_X0_changedAt 1 (S_push (.int (0)) 2) := k_iconst dX0_changedAt_1 rfl
theorem r_X0_changedAt_2 (E : ax_EN G l) : ax_Snd G l ax_Ym M_X0_changedAt 2 (S_aload 0 3) := k_aload_n dX0_changedAt_2 rfl
theorem r_X0_changedAt_3 (E : ax_EN G l) : ax_Snd G l ax_Ym M_X0_changedAt 3 (S_iload 1 4) := k_iload_n dX0_changedAt_3 rfl
theorem r_X0_changedAt_4 (E : ax_EN G l) : ax_Snd G l ax_Ym M_X0_changedAt 4 (S_iv [(19, 255)] 1 7 (fun k => if k ∈ [18] then some (some 12) else if k ∈ [0, 6, 7, 28, 32, 33, 34, 35, 44, 45, 46] then some none else none)) := k_iv (en_F E) (hok_127 E) (ax_Evs_cons ((ev_v (en_c E (k := 19) rfl) rfl y_X1_changedAt q2484 q2485 q2486 q118 q2487 nm_X1_changedAt (Nat.le_of_ble_eq_true rfl) dX0_changedAt_4) : ax_EvV G l ax_Ym M_X0_changedAt 4 1 3 19 255) ax_Evs_nil)
theorem r_X0_changedAt_7 (E : ax_EN G l) : ax_Snd G l ax_Ym M_X0_changedAt 7 (S_i2l 8) := k_i2l dX0_changedAt_7
theorem r_X0_changedAt_8 (E : ax_EN G l) : ax_Snd G l ax_Ym M_X0_changedAt 8 (S_last 1 9) := k_last (en_F E) dX0_changedAt_8
theorem r_X0_changedAt_9 (E : ax_EN G l) : ax_Snd G l ax_Ym M_X0_changedAt 9 (S_goto 15) := k_goto dX0_changedAt_9 rfl
theorem r_X0_changedAt_12 (E : ax_EN G l) : ax_Snd G l ax_Ym M_X0_changedAt 12 (S_astore 3 13) := k_astore_n dX0_changedAt_12 rfl (Nat.le_of_ble_eq_true rfl)
theorem r_X0_changedAt_13 (E : ax_EN G l) : ax_Snd G l ax_Ym M_X0_changedAt 13 (S_push (.int (1)) 14) := k_iconst dX0_changedAt_13 rfl
theorem r_X0_changedAt_14 (E : ax_EN G l) : ax_Snd G l ax_Ym M_X0_changedAt 14 (S_iret) := k_iret dX0_changedAt_14 rfl
theorem r_X0_changedAt_15 (E : ax_EN G l) : ax_Snd G l ax_Ym M_X0_changedAt 15 (S_push (.int (0)) 16) := k_iconst dX0_changedAt_15 rfl
theorem r_X0_changedAt_16 (E : ax_EN G l) : ax_Snd G l ax_Ym M_X0_changedAt 16 (S_iret) := k_iret dX0_changedAt_16 rfl
theorem mt_X0_changedAt (E : ax_EN G l) : ax_mt G l ax_Ym (4, P_X0_changedAt) (ax_Ym 198) := ⟨M_X0_changedAt, yX0_changedAt, ⟨rfl, by decide +kernel, rfl, (fun h => by cases h), Or.inr rfl⟩, fun pc => (ax_sn_node (ax_sn_node (ax_sn_node (ax_sn_node (ax_sn_leaf (r_X0_changedAt_16 E)) (ax_sn_leaf (r_X0_changedAt_15 E))) (ax_sn_node (ax_sn_leaf (r_X0_changedAt_14 E)) (ax_sn_leaf (r_X0_changedAt_13 E)))) (ax_sn_node (ax_sn_node (ax_sn_leaf (r_X0_changedAt_12 E)) (ax_sn_leaf (r_X0_changedAt_9 E))) (ax_sn_leaf (r_X0_changedAt_8 E)))) (ax_sn_node (ax_sn_node (ax_sn_node (ax_sn_leaf (r_X0_changedAt_7 E)) (ax_sn_leaf (r_X0_changedAt_4 E))) (ax_sn_leaf (r_X0_changedAt_3 E))) (ax_sn_node (ax_sn_node (ax_sn_leaf (r_X0_changedAt_2 E)) (ax_sn_leaf (r_X0_changedAt_1 E))) (ax_sn_leaf (r_X0_changedAt_0 E)))))⟩
theorem r_X0_tapeAt_0 (E : ax_EN G l) : ax_Snd G l ax_Ym M_X0_tapeAt 0 (S_aload 2 1) := k_aload_n dX0_tapeAt_0 rfl
theorem r_X0_tapeAt_1 (E : ax_EN G l) : ax_Snd G l ax_Ym M_X0_tapeAt 1 (S_push (.int (0)) 2) := k_iconst dX0_tapeAt_1 rfl
theorem r_X0_tapeAt_2 (E : ax_EN G l) : ax_Snd G l ax_Ym M_X0_tapeAt 2 (S_aload 0 3) := k_aload_n dX0_tapeAt_2 rfl
theorem r_X0_tapeAt_3 (E : ax_EN G l) : ax_Snd G l ax_Ym M_X0_tapeAt 3 (S_iload 1 4) := k_iload_n dX0_tapeAt_3 rfl
theorem r_X0_tapeAt_4 (E : ax_EN G l) : ax_Snd G l ax_Ym M_X0_tapeAt 4 (S_iv [(19, 256)] 1 7 (fun k => if k ∈ [6, 46] then some (some 12) else if k ∈ [18, 0, 7, 28, 32, 33, 34, 35, 44, 45] then some none else none)) := k_iv (en_F E) (hok_128 E) (ax_Evs_cons ((ev_v (en_c E (k := 19) rfl) rfl y_X1_tapeAt q2555 q2556 q2557 q118 q2558 nm_X1_tapeAt (Nat.le_of_ble_eq_true rfl) dX0_tapeAt_4) : ax_EvV G l ax_Ym M_X0_tapeAt 4 1 3 19 256) ax_Evs_nil)
theorem r_X0_tapeAt_7 (E : ax_EN G l) : ax_Snd G l ax_Ym M_X0_tapeAt 7 (S_i2l 8) := k_i2l dX0_tapeAt_7
theorem r_X0_tapeAt_8 (E : ax_EN G l) : ax_Snd G l ax_Ym M_X0_tapeAt 8 (S_last 1 9) := k_last (en_F E) dX0_tapeAt_8
theorem r_X0_tapeAt_9 (E : ax_EN G l) : ax_Snd G l ax_Ym M_X0_tapeAt 9 (S_goto 15) := k_goto dX0_tapeAt_9 rfl
theorem r_X0_tapeAt_12 (E : ax_EN G l) : ax_Snd G l ax_Ym M_X0_tapeAt 12 (S_astore 3 13) := k_astore_n dX0_tapeAt_12 rfl (Nat.le_of_ble_eq_true rfl)
theorem r_X0_tapeAt_13 (E : ax_EN G l) : ax_Snd G l ax_Ym M_X0_tapeAt 13 (S_push (.int (1)) 14) := k_iconst dX0_tapeAt_13 rfl
theorem r_X0_tapeAt_14 (E : ax_EN G l) : ax_Snd G l ax_Ym M_X0_tapeAt 14 (S_iret) := k_iret dX0_tapeAt_14 rfl
theorem r_X0_tapeAt_15 (E : ax_EN G l) : ax_Snd G l ax_Ym M_X0_tapeAt 15 (S_push (.int (0)) 16) := k_iconst dX0_tapeAt_15 rfl
theorem r_X0_tapeAt_16 (E : ax_EN G l) : ax_Snd G l ax_Ym M_X0_tapeAt 16 (S_iret) := k_iret dX0_tapeAt_16 rfl
theorem mt_X0_tapeAt (E : ax_EN G l) : ax_mt G l ax_Ym (4, P_X0_tapeAt) (ax_Ym 199) := ⟨M_X0_tapeAt, yX0_tapeAt, ⟨rfl, by decide +kernel, rfl, (fun h => by cases h), Or.inr rfl⟩, fun pc => (ax_sn_node (ax_sn_node (ax_sn_node (ax_sn_node (ax_sn_leaf (r_X0_tapeAt_16 E)) (ax_sn_leaf (r_X0_tapeAt_15 E))) (ax_sn_node (ax_sn_leaf (r_X0_tapeAt_14 E)) (ax_sn_leaf (r_X0_tapeAt_13 E)))) (ax_sn_node (ax_sn_node (ax_sn_leaf (r_X0_tapeAt_12 E)) (ax_sn_leaf (r_X0_tapeAt_9 E))) (ax_sn_leaf (r_X0_tapeAt_8 E)))) (ax_sn_node (ax_sn_node (ax_sn_node (ax_sn_leaf (r_X0_tapeAt_7 E)) (ax_sn_leaf (r_X0_tapeAt_4 E))) (ax_sn_leaf (r_X0_tapeAt_3 E))) (ax_sn_node (ax_sn_node (ax_sn_leaf (r_X0_tapeAt_2 E)) (ax_sn_leaf (r_X0_tapeAt_1 E))) (ax_sn_leaf (r_X0_tapeAt_0 E)))))⟩
theorem r_X0_sumAnew_0 (E : ax_EN G l) : ax_Snd G l ax_Ym M_X0_sumAnew 0 (S_aload 2 1) := k_aload_n dX0_sumAnew_0 rfl
theorem r_X0_sumAnew_1 (E : ax_EN G l) : ax_Snd G l ax_Ym M_X0_sumAnew 1 (S_push (.int (0)) 2) := k_iconst dX0_sumAnew_1 rfl
theorem r_X0_sumAnew_2 (E : ax_EN G l) : ax_Snd G l ax_Ym M_X0_sumAnew 2 (S_aload 0 3) := k_aload_n dX0_sumAnew_2 rfl
theorem r_X0_sumAnew_3 (E : ax_EN G l) : ax_Snd G l ax_Ym M_X0_sumAnew 3 (S_iload 1 4) := k_iload_n dX0_sumAnew_3 rfl
theorem r_X0_sumAnew_4 (E : ax_EN G l) : ax_Snd G l ax_Ym M_X0_sumAnew 4 (S_iv [(19, 257)] 1 7 (fun k => if k ∈ [18] then some (some 15) else if k ∈ [0, 44] then some (some 12) else if k ∈ [6, 7, 28, 32, 33, 34, 35, 45, 46] then some none else none)) := k_iv (en_F E) (hok_129 E) (ax_Evs_cons ((ev_v (en_c E (k := 19) rfl) rfl y_X1_sumAnew q2565 q2566 q2567 q118 q2568 nm_X1_sumAnew (Nat.le_of_ble_eq_true rfl) dX0_sumAnew_4) : ax_EvV G l ax_Ym M_X0_sumAnew 4 1 3 19 257) ax_Evs_nil)
theorem r_X0_sumAnew_7 (E : ax_EN G l) : ax_Snd G l ax_Ym M_X0_sumAnew 7 (S_i2l 8) := k_i2l dX0_sumAnew_7
theorem r_X0_sumAnew_8 (E : ax_EN G l) : ax_Snd G l ax_Ym M_X0_sumAnew 8 (S_last 1 9) := k_last (en_F E) dX0_sumAnew_8
theorem r_X0_sumAnew_9 (E : ax_EN G l) : ax_Snd G l ax_Ym M_X0_sumAnew 9 (S_goto 18) := k_goto dX0_sumAnew_9 rfl
theorem r_X0_sumAnew_12 (E : ax_EN G l) : ax_Snd G l ax_Ym M_X0_sumAnew 12 (S_astore 3 13) := k_astore_n dX0_sumAnew_12 rfl (Nat.le_of_ble_eq_true rfl)
theorem r_X0_sumAnew_13 (E : ax_EN G l) : ax_Snd G l ax_Ym M_X0_sumAnew 13 (S_push (.int (1)) 14) := k_iconst dX0_sumAnew_13 rfl
theorem r_X0_sumAnew_14 (E : ax_EN G l) : ax_Snd G l ax_Ym M_X0_sumAnew 14 (S_iret) := k_iret dX0_sumAnew_14 rfl
theorem r_X0_sumAnew_15 (E : ax_EN G l) : ax_Snd G l ax_Ym M_X0_sumAnew 15 (S_astore 3 16) := k_astore_n dX0_sumAnew_15 rfl (Nat.le_of_ble_eq_true rfl)
theorem r_X0_sumAnew_16 (E : ax_EN G l) : ax_Snd G l ax_Ym M_X0_sumAnew 16 (S_push (.int (2)) 17) := k_iconst dX0_sumAnew_16 rfl
theorem r_X0_sumAnew_17 (E : ax_EN G l) : ax_Snd G l ax_Ym M_X0_sumAnew 17 (S_iret) := k_iret dX0_sumAnew_17 rfl
theorem r_X0_sumAnew_18 (E : ax_EN G l) : ax_Snd G l ax_Ym M_X0_sumAnew 18 (S_push (.int (0)) 19) := k_iconst dX0_sumAnew_18 rfl
theorem r_X0_sumAnew_19 (E : ax_EN G l) : ax_Snd G l ax_Ym M_X0_sumAnew 19 (S_iret) := k_iret dX0_sumAnew_19 rfl
theorem mt_X0_sumAnew (E : ax_EN G l) : ax_mt G l ax_Ym (4, P_X0_sumAnew) (ax_Ym 200) := ⟨M_X0_sumAnew, yX0_sumAnew, ⟨rfl, by decide +kernel, rfl, (fun h => by cases h), Or.inr rfl⟩, fun pc => (ax_sn_node (ax_sn_node (ax_sn_node (ax_sn_node (ax_sn_leaf (r_X0_sumAnew_19 E)) (ax_sn_leaf (r_X0_sumAnew_18 E))) (ax_sn_node (ax_sn_leaf (r_X0_sumAnew_17 E)) (ax_sn_leaf (r_X0_sumAnew_16 E)))) (ax_sn_node (ax_sn_node (ax_sn_leaf (r_X0_sumAnew_15 E)) (ax_sn_leaf (r_X0_sumAnew_14 E))) (ax_sn_node (ax_sn_leaf (r_X0_sumAnew_13 E)) (ax_sn_leaf (r_X0_sumAnew_12 E))))) (ax_sn_node (ax_sn_node (ax_sn_node (ax_sn_leaf (r_X0_sumAnew_9 E)) (ax_sn_leaf (r_X0_sumAnew_8 E))) (ax_sn_node (ax_sn_leaf (r_X0_sumAnew_7 E)) (ax_sn_leaf (r_X0_sumAnew_4 E)))) (ax_sn_node (ax_sn_node (ax_sn_leaf (r_X0_sumAnew_3 E)) (ax_sn_leaf (r_X0_sumAnew_2 E))) (ax_sn_node (ax_sn_leaf (r_X0_sumAnew_1 E)) (ax_sn_leaf (r_X0_sumAnew_0 E))))))⟩
theorem r_X0_disk_0 (E : ax_EN G l) : ax_Snd G l ax_Ym M_X0_disk 0 (S_aload 3 1) := k_aload_n dX0_disk_0 rfl
theorem r_X0_disk_1 (E : ax_EN G l) : ax_Snd G l ax_Ym M_X0_disk 1 (S_push (.int (0)) 2) := k_iconst dX0_disk_1 rfl
theorem r_X0_disk_2 (E : ax_EN G l) : ax_Snd G l ax_Ym M_X0_disk 2 (S_aload 0 3) := k_aload_n dX0_disk_2 rfl
theorem r_X0_disk_3 (E : ax_EN G l) : ax_Snd G l ax_Ym M_X0_disk 3 (S_iload 1 4) := k_iload_n dX0_disk_3 rfl
theorem r_X0_disk_4 (E : ax_EN G l) : ax_Snd G l ax_Ym M_X0_disk 4 (S_iload 2 5) := k_iload_n dX0_disk_4 rfl
theorem r_X0_disk_5 (E : ax_EN G l) : ax_Snd G l ax_Ym M_X0_disk 5 (S_iv [(19, 258)] 2 8 (fun k => if k ∈ [18] then some (some 13) else if k ∈ [0, 6, 7, 28, 32, 33, 34, 35, 44, 45, 46] then some none else none)) := k_iv (en_F E) (hok_130 E) (ax_Evs_cons ((ev_v (en_c E (k := 19) rfl) rfl y_X1_disk q2584 q2585 q2586 q118 q2587 nm_X1_disk (Nat.le_of_ble_eq_true rfl) dX0_disk_5) : ax_EvV G l ax_Ym M_X0_disk 5 2 3 19 258) ax_Evs_nil)
theorem r_X0_disk_8 (E : ax_EN G l) : ax_Snd G l ax_Ym M_X0_disk 8 (S_i2l 9) := k_i2l dX0_disk_8
theorem r_X0_disk_9 (E : ax_EN G l) : ax_Snd G l ax_Ym M_X0_disk 9 (S_last 1 10) := k_last (en_F E) dX0_disk_9
theorem r_X0_disk_10 (E : ax_EN G l) : ax_Snd G l ax_Ym M_X0_disk 10 (S_goto 17) := k_goto dX0_disk_10 rfl
theorem r_X0_disk_13 (E : ax_EN G l) : ax_Snd G l ax_Ym M_X0_disk 13 (S_astore 4 15) := k_astore dX0_disk_13 (Nat.le_of_ble_eq_true rfl)
theorem r_X0_disk_15 (E : ax_EN G l) : ax_Snd G l ax_Ym M_X0_disk 15 (S_push (.int (1)) 16) := k_iconst dX0_disk_15 rfl
theorem r_X0_disk_16 (E : ax_EN G l) : ax_Snd G l ax_Ym M_X0_disk 16 (S_iret) := k_iret dX0_disk_16 rfl
theorem r_X0_disk_17 (E : ax_EN G l) : ax_Snd G l ax_Ym M_X0_disk 17 (S_push (.int (0)) 18) := k_iconst dX0_disk_17 rfl
theorem r_X0_disk_18 (E : ax_EN G l) : ax_Snd G l ax_Ym M_X0_disk 18 (S_iret) := k_iret dX0_disk_18 rfl
theorem mt_X0_disk (E : ax_EN G l) : ax_mt G l ax_Ym (5, P_X0_disk) (ax_Ym 201) := ⟨M_X0_disk, yX0_disk, ⟨rfl, by decide +kernel, rfl, (fun h => by cases h), Or.inr rfl⟩, fun pc => (ax_sn_node (ax_sn_node (ax_sn_node (ax_sn_node (ax_sn_leaf (r_X0_disk_18 E)) (ax_sn_leaf (r_X0_disk_17 E))) (ax_sn_node (ax_sn_leaf (r_X0_disk_16 E)) (ax_sn_leaf (r_X0_disk_15 E)))) (ax_sn_node (ax_sn_node (ax_sn_leaf (r_X0_disk_13 E)) (ax_sn_leaf (r_X0_disk_10 E))) (ax_sn_leaf (r_X0_disk_9 E)))) (ax_sn_node (ax_sn_node (ax_sn_node (ax_sn_leaf (r_X0_disk_8 E)) (ax_sn_leaf (r_X0_disk_5 E))) (ax_sn_node (ax_sn_leaf (r_X0_disk_4 E)) (ax_sn_leaf (r_X0_disk_3 E)))) (ax_sn_node (ax_sn_node (ax_sn_leaf (r_X0_disk_2 E)) (ax_sn_leaf (r_X0_disk_1 E))) (ax_sn_leaf (r_X0_disk_0 E)))))⟩
theorem r_X0_size_0 (E : ax_EN G l) : ax_Snd G l ax_Ym M_X0_size 0 (S_aload 2 1) := k_aload_n dX0_size_0 rfl
theorem r_X0_size_1 (E : ax_EN G l) : ax_Snd G l ax_Ym M_X0_size 1 (S_push (.int (0)) 2) := k_iconst dX0_size_1 rfl
theorem r_X0_size_2 (E : ax_EN G l) : ax_Snd G l ax_Ym M_X0_size 2 (S_aload 0 3) := k_aload_n dX0_size_2 rfl
theorem r_X0_size_3 (E : ax_EN G l) : ax_Snd G l ax_Ym M_X0_size 3 (S_iload 1 4) := k_iload_n dX0_size_3 rfl
theorem r_X0_size_4 (E : ax_EN G l) : ax_Snd G l ax_Ym M_X0_size 4 (S_iv [(19, 259)] 1 7 (fun k => if k ∈ [7, 45] then some (some 15) else if k ∈ [18] then some (some 12) else if k ∈ [0, 6, 28, 32, 33, 34, 35, 44, 46] then some none else none)) := k_iv (en_F E) (hok_131 E) (ax_Evs_cons ((ev_v (en_c E (k := 19) rfl) rfl y_X1_size q2592 q2593 q2594 q118 q2595 nm_X1_size (Nat.le_of_ble_eq_true rfl) dX0_size_4) : ax_EvV G l ax_Ym M_X0_size 4 1 3 19 259) ax_Evs_nil)
theorem r_X0_size_7 (E : ax_EN G l) : ax_Snd G l ax_Ym M_X0_size 7 (S_i2l 8) := k_i2l dX0_size_7
theorem r_X0_size_8 (E : ax_EN G l) : ax_Snd G l ax_Ym M_X0_size 8 (S_last 1 9) := k_last (en_F E) dX0_size_8
theorem r_X0_size_9 (E : ax_EN G l) : ax_Snd G l ax_Ym M_X0_size 9 (S_goto 18) := k_goto dX0_size_9 rfl
theorem r_X0_size_12 (E : ax_EN G l) : ax_Snd G l ax_Ym M_X0_size 12 (S_astore 3 13) := k_astore_n dX0_size_12 rfl (Nat.le_of_ble_eq_true rfl)
theorem r_X0_size_13 (E : ax_EN G l) : ax_Snd G l ax_Ym M_X0_size 13 (S_push (.int (1)) 14) := k_iconst dX0_size_13 rfl
theorem r_X0_size_14 (E : ax_EN G l) : ax_Snd G l ax_Ym M_X0_size 14 (S_iret) := k_iret dX0_size_14 rfl
theorem r_X0_size_15 (E : ax_EN G l) : ax_Snd G l ax_Ym M_X0_size 15 (S_astore 3 16) := k_astore_n dX0_size_15 rfl (Nat.le_of_ble_eq_true rfl)
theorem r_X0_size_16 (E : ax_EN G l) : ax_Snd G l ax_Ym M_X0_size 16 (S_push (.int (2)) 17) := k_iconst dX0_size_16 rfl
theorem r_X0_size_17 (E : ax_EN G l) : ax_Snd G l ax_Ym M_X0_size 17 (S_iret) := k_iret dX0_size_17 rfl
theorem r_X0_size_18 (E : ax_EN G l) : ax_Snd G l ax_Ym M_X0_size 18 (S_push (.int (0)) 19) := k_iconst dX0_size_18 rfl
theorem r_X0_size_19 (E : ax_EN G l) : ax_Snd G l ax_Ym M_X0_size 19 (S_iret) := k_iret dX0_size_19 rfl
theorem mt_X0_size (E : ax_EN G l) : ax_mt G l ax_Ym (4, P_X0_size) (ax_Ym 202) := ⟨M_X0_size, yX0_size, ⟨rfl, by decide +kernel, rfl, (fun h => by cases h), Or.inr rfl⟩, fun pc => (ax_sn_node (ax_sn_node (ax_sn_node (ax_sn_node (ax_sn_leaf (r_X0_size_19 E)) (ax_sn_leaf (r_X0_size_18 E))) (ax_sn_node (ax_sn_leaf (r_X0_size_17 E)) (ax_sn_leaf (r_X0_size_16 E)))) (ax_sn_node (ax_sn_node (ax_sn_leaf (r_X0_size_15 E)) (ax_sn_leaf (r_X0_size_14 E))) (ax_sn_node (ax_sn_leaf (r_X0_size_13 E)) (ax_sn_leaf (r_X0_size_12 E))))) (ax_sn_node (ax_sn_node (ax_sn_node (ax_sn_leaf (r_X0_size_9 E)) (ax_sn_leaf (r_X0_size_8 E))) (ax_sn_node (ax_sn_leaf (r_X0_size_7 E)) (ax_sn_leaf (r_X0_size_4 E)))) (ax_sn_node (ax_sn_node (ax_sn_leaf (r_X0_size_3 E)) (ax_sn_leaf (r_X0_size_2 E))) (ax_sn_node (ax_sn_leaf (r_X0_size_1 E)) (ax_sn_leaf (r_X0_size_0 E))))))⟩
theorem r_X0_wordOf_0 (E : ax_EN G l) : ax_Snd G l ax_Ym M_X0_wordOf 0 (S_aload 3 1) := k_aload_n dX0_wordOf_0 rfl
theorem r_X0_wordOf_1 (E : ax_EN G l) : ax_Snd G l ax_Ym M_X0_wordOf 1 (S_push (.int (0)) 2) := k_iconst dX0_wordOf_1 rfl
theorem r_X0_wordOf_2 (E : ax_EN G l) : ax_Snd G l ax_Ym M_X0_wordOf 2 (S_aload 0 3) := k_aload_n dX0_wordOf_2 rfl
theorem r_X0_wordOf_3 (E : ax_EN G l) : ax_Snd G l ax_Ym M_X0_wordOf 3 (S_iload 1 4) := k_iload_n dX0_wordOf_3 rfl
theorem r_X0_wordOf_4 (E : ax_EN G l) : ax_Snd G l ax_Ym M_X0_wordOf 4 (S_iload 2 5) := k_iload_n dX0_wordOf_4 rfl
theorem r_X0_wordOf_5 (E : ax_EN G l) : ax_Snd G l ax_Ym M_X0_wordOf 5 (S_iv [(19, 261)] 2 8 (fun k => if k ∈ [6, 46] then some (some 21) else if k ∈ [7, 45] then some (some 17) else if k ∈ [18] then some (some 13) else if k ∈ [0, 28, 32, 33, 34, 35, 44] then some none else none)) := k_iv (en_F E) (hok_132 E) (ax_Evs_cons ((ev_v (en_c E (k := 19) rfl) rfl y_X1_wordOf q2610 q2611 q2612 q118 q2613 nm_X1_wordOf (Nat.le_of_ble_eq_true rfl) dX0_wordOf_5) : ax_EvV G l ax_Ym M_X0_wordOf 5 2 3 19 261) ax_Evs_nil)
theorem r_X0_wordOf_8 (E : ax_EN G l) : ax_Snd G l ax_Ym M_X0_wordOf 8 (S_i2l 9) := k_i2l dX0_wordOf_8
theorem r_X0_wordOf_9 (E : ax_EN G l) : ax_Snd G l ax_Ym M_X0_wordOf 9 (S_last 1 10) := k_last (en_F E) dX0_wordOf_9
theorem r_X0_wordOf_10 (E : ax_EN G l) : ax_Snd G l ax_Ym M_X0_wordOf 10 (S_goto 25) := k_goto dX0_wordOf_10 rfl
theorem r_X0_wordOf_13 (E : ax_EN G l) : ax_Snd G l ax_Ym M_X0_wordOf 13 (S_astore 4 15) := k_astore dX0_wordOf_13 (Nat.le_of_ble_eq_true rfl)
theorem r_X0_wordOf_15 (E : ax_EN G l) : ax_Snd G l ax_Ym M_X0_wordOf 15 (S_push (.int (1)) 16) := k_iconst dX0_wordOf_15 rfl
theorem r_X0_wordOf_16 (E : ax_EN G l) : ax_Snd G l ax_Ym M_X0_wordOf 16 (S_iret) := k_iret dX0_wordOf_16 rfl
theorem r_X0_wordOf_17 (E : ax_EN G l) : ax_Snd G l ax_Ym M_X0_wordOf 17 (S_astore 4 19) := k_astore dX0_wordOf_17 (Nat.le_of_ble_eq_true rfl)
theorem r_X0_wordOf_19 (E : ax_EN G l) : ax_Snd G l ax_Ym M_X0_wordOf 19 (S_push (.int (2)) 20) := k_iconst dX0_wordOf_19 rfl
theorem r_X0_wordOf_20 (E : ax_EN G l) : ax_Snd G l ax_Ym M_X0_wordOf 20 (S_iret) := k_iret dX0_wordOf_20 rfl
theorem r_X0_wordOf_21 (E : ax_EN G l) : ax_Snd G l ax_Ym M_X0_wordOf 21 (S_astore 4 23) := k_astore dX0_wordOf_21 (Nat.le_of_ble_eq_true rfl)
theorem r_X0_wordOf_23 (E : ax_EN G l) : ax_Snd G l ax_Ym M_X0_wordOf 23 (S_push (.int (3)) 24) := k_iconst dX0_wordOf_23 rfl
theorem r_X0_wordOf_24 (E : ax_EN G l) : ax_Snd G l ax_Ym M_X0_wordOf 24 (S_iret) := k_iret dX0_wordOf_24 rfl
theorem r_X0_wordOf_25 (E : ax_EN G l) : ax_Snd G l ax_Ym M_X0_wordOf 25 (S_push (.int (0)) 26) := k_iconst dX0_wordOf_25 rfl
theorem r_X0_wordOf_26 (E : ax_EN G l) : ax_Snd G l ax_Ym M_X0_wordOf 26 (S_iret) := k_iret dX0_wordOf_26 rfl
theorem mt_X0_wordOf (E : ax_EN G l) : ax_mt G l ax_Ym (5, P_X0_wordOf) (ax_Ym 203) := ⟨M_X0_wordOf, yX0_wordOf, ⟨rfl, by decide +kernel, rfl, (fun h => by cases h), Or.inr rfl⟩, fun pc => (ax_sn_node (ax_sn_node (ax_sn_node (ax_sn_node (ax_sn_node (ax_sn_leaf (r_X0_wordOf_26 E)) (ax_sn_leaf (r_X0_wordOf_25 E))) (ax_sn_leaf (r_X0_wordOf_24 E))) (ax_sn_node (ax_sn_leaf (r_X0_wordOf_23 E)) (ax_sn_leaf (r_X0_wordOf_21 E)))) (ax_sn_node (ax_sn_node (ax_sn_node (ax_sn_leaf (r_X0_wordOf_20 E)) (ax_sn_leaf (r_X0_wordOf_19 E))) (ax_sn_leaf (r_X0_wordOf_17 E))) (ax_sn_node (ax_sn_leaf (r_X0_wordOf_16 E)) (ax_sn_leaf (r_X0_wordOf_15 E))))) (ax_sn_node (ax_sn_node (ax_sn_node (ax_sn_node (ax_sn_leaf (r_X0_wordOf_13 E)) (ax_sn_leaf (r_X0_wordOf_10 E))) (ax_sn_leaf (r_X0_wordOf_9 E))) (ax_sn_node (ax_sn_leaf (r_X0_wordOf_8 E)) (ax_sn_leaf (r_X0_wordOf_5 E)))) (ax_sn_node (ax_sn_node (ax_sn_node (ax_sn_leaf (r_X0_wordOf_4 E)) (ax_sn_leaf (r_X0_wordOf_3 E))) (ax_sn_leaf (r_X0_wordOf_2 E))) (ax_sn_node (ax_sn_leaf (r_X0_wordOf_1 E)) (ax_sn_leaf (r_X0_wordOf_0 E))))))⟩
theorem r_X0_testKey_0 (E : ax_EN G l) : ax_Snd G l ax_Ym M_X0_testKey 0 (S_aload 2 1) := k_aload_n dX0_testKey_0 rfl
theorem r_X0_testKey_1 (E : ax_EN G l) : ax_Snd G l ax_Ym M_X0_testKey 1 (S_push (.int (0)) 2) := k_iconst dX0_testKey_1 rfl
theorem r_X0_testKey_2 (E : ax_EN G l) : ax_Snd G l ax_Ym M_X0_testKey 2 (S_aload 0 3) := k_aload_n dX0_testKey_2 rfl
theorem r_X0_testKey_3 (E : ax_EN G l) : ax_Snd G l ax_Ym M_X0_testKey 3 (S_iload 1 4) := k_iload_n dX0_testKey_3 rfl
theorem r_X0_testKey_4 (E : ax_EN G l) : ax_Snd G l ax_Ym M_X0_testKey 4 (S_iv [(19, 262)] 1 7 (fun k => if k ∈ [0, 44] then some (some 15) else if k ∈ [18] then some (some 12) else if k ∈ [6, 7, 28, 32, 33, 34, 35, 45, 46] then some none else none)) := k_iv (en_F E) (hok_133 E) (ax_Evs_cons ((ev_v (en_c E (k := 19) rfl) rfl y_X1_testKey q2619 q2620 q2621 q118 q2622 nm_X1_testKey (Nat.le_of_ble_eq_true rfl) dX0_testKey_4) : ax_EvV G l ax_Ym M_X0_testKey 4 1 3 19 262) ax_Evs_nil)
theorem r_X0_testKey_7 (E : ax_EN G l) : ax_Snd G l ax_Ym M_X0_testKey 7 (S_i2l 8) := k_i2l dX0_testKey_7
theorem r_X0_testKey_8 (E : ax_EN G l) : ax_Snd G l ax_Ym M_X0_testKey 8 (S_last 1 9) := k_last (en_F E) dX0_testKey_8
theorem r_X0_testKey_9 (E : ax_EN G l) : ax_Snd G l ax_Ym M_X0_testKey 9 (S_goto 18) := k_goto dX0_testKey_9 rfl
theorem r_X0_testKey_12 (E : ax_EN G l) : ax_Snd G l ax_Ym M_X0_testKey 12 (S_astore 3 13) := k_astore_n dX0_testKey_12 rfl (Nat.le_of_ble_eq_true rfl)
theorem r_X0_testKey_13 (E : ax_EN G l) : ax_Snd G l ax_Ym M_X0_testKey 13 (S_push (.int (1)) 14) := k_iconst dX0_testKey_13 rfl
theorem r_X0_testKey_14 (E : ax_EN G l) : ax_Snd G l ax_Ym M_X0_testKey 14 (S_iret) := k_iret dX0_testKey_14 rfl
theorem r_X0_testKey_15 (E : ax_EN G l) : ax_Snd G l ax_Ym M_X0_testKey 15 (S_astore 3 16) := k_astore_n dX0_testKey_15 rfl (Nat.le_of_ble_eq_true rfl)
theorem r_X0_testKey_16 (E : ax_EN G l) : ax_Snd G l ax_Ym M_X0_testKey 16 (S_push (.int (2)) 17) := k_iconst dX0_testKey_16 rfl
theorem r_X0_testKey_17 (E : ax_EN G l) : ax_Snd G l ax_Ym M_X0_testKey 17 (S_iret) := k_iret dX0_testKey_17 rfl
theorem r_X0_testKey_18 (E : ax_EN G l) : ax_Snd G l ax_Ym M_X0_testKey 18 (S_push (.int (0)) 19) := k_iconst dX0_testKey_18 rfl
theorem r_X0_testKey_19 (E : ax_EN G l) : ax_Snd G l ax_Ym M_X0_testKey 19 (S_iret) := k_iret dX0_testKey_19 rfl
theorem mt_X0_testKey (E : ax_EN G l) : ax_mt G l ax_Ym (4, P_X0_testKey) (ax_Ym 204) := ⟨M_X0_testKey, yX0_testKey, ⟨rfl, by decide +kernel, rfl, (fun h => by cases h), Or.inr rfl⟩, fun pc => (ax_sn_node (ax_sn_node (ax_sn_node (ax_sn_node (ax_sn_leaf (r_X0_testKey_19 E)) (ax_sn_leaf (r_X0_testKey_18 E))) (ax_sn_node (ax_sn_leaf (r_X0_testKey_17 E)) (ax_sn_leaf (r_X0_testKey_16 E)))) (ax_sn_node (ax_sn_node (ax_sn_leaf (r_X0_testKey_15 E)) (ax_sn_leaf (r_X0_testKey_14 E))) (ax_sn_node (ax_sn_leaf (r_X0_testKey_13 E)) (ax_sn_leaf (r_X0_testKey_12 E))))) (ax_sn_node (ax_sn_node (ax_sn_node (ax_sn_leaf (r_X0_testKey_9 E)) (ax_sn_leaf (r_X0_testKey_8 E))) (ax_sn_node (ax_sn_leaf (r_X0_testKey_7 E)) (ax_sn_leaf (r_X0_testKey_4 E)))) (ax_sn_node (ax_sn_node (ax_sn_leaf (r_X0_testKey_3 E)) (ax_sn_leaf (r_X0_testKey_2 E))) (ax_sn_node (ax_sn_leaf (r_X0_testKey_1 E)) (ax_sn_leaf (r_X0_testKey_0 E))))))⟩
theorem r_X0_testWord_0 (E : ax_EN G l) : ax_Snd G l ax_Ym M_X0_testWord 0 (S_aload 2 1) := k_aload_n dX0_testWord_0 rfl
theorem r_X0_testWord_1 (E : ax_EN G l) : ax_Snd G l ax_Ym M_X0_testWord 1 (S_push (.int (0)) 2) := k_iconst dX0_testWord_1 rfl
theorem r_X0_testWord_2 (E : ax_EN G l) : ax_Snd G l ax_Ym M_X0_testWord 2 (S_aload 0 3) := k_aload_n dX0_testWord_2 rfl
theorem r_X0_testWord_3 (E : ax_EN G l) : ax_Snd G l ax_Ym M_X0_testWord 3 (S_iload 1 4) := k_iload_n dX0_testWord_3 rfl
theorem r_X0_testWord_4 (E : ax_EN G l) : ax_Snd G l ax_Ym M_X0_testWord 4 (S_iv [(19, 264)] 1 7 (fun k => if k ∈ [0, 44] then some (some 15) else if k ∈ [18] then some (some 12) else if k ∈ [6, 7, 28, 32, 33, 34, 35, 45, 46] then some none else none)) := k_iv (en_F E) (hok_134 E) (ax_Evs_cons ((ev_v (en_c E (k := 19) rfl) rfl y_X1_testWord q2650 q2651 q2652 q118 q2653 nm_X1_testWord (Nat.le_of_ble_eq_true rfl) dX0_testWord_4) : ax_EvV G l ax_Ym M_X0_testWord 4 1 3 19 264) ax_Evs_nil)
theorem r_X0_testWord_7 (E : ax_EN G l) : ax_Snd G l ax_Ym M_X0_testWord 7 (S_i2l 8) := k_i2l dX0_testWord_7
theorem r_X0_testWord_8 (E : ax_EN G l) : ax_Snd G l ax_Ym M_X0_testWord 8 (S_last 1 9) := k_last (en_F E) dX0_testWord_8
theorem r_X0_testWord_9 (E : ax_EN G l) : ax_Snd G l ax_Ym M_X0_testWord 9 (S_goto 18) := k_goto dX0_testWord_9 rfl
theorem r_X0_testWord_12 (E : ax_EN G l) : ax_Snd G l ax_Ym M_X0_testWord 12 (S_astore 3 13) := k_astore_n dX0_testWord_12 rfl (Nat.le_of_ble_eq_true rfl)
theorem r_X0_testWord_13 (E : ax_EN G l) : ax_Snd G l ax_Ym M_X0_testWord 13 (S_push (.int (1)) 14) := k_iconst dX0_testWord_13 rfl
theorem r_X0_testWord_14 (E : ax_EN G l) : ax_Snd G l ax_Ym M_X0_testWord 14 (S_iret) := k_iret dX0_testWord_14 rfl
theorem r_X0_testWord_15 (E : ax_EN G l) : ax_Snd G l ax_Ym M_X0_testWord 15 (S_astore 3 16) := k_astore_n dX0_testWord_15 rfl (Nat.le_of_ble_eq_true rfl)
theorem r_X0_testWord_16 (E : ax_EN G l) : ax_Snd G l ax_Ym M_X0_testWord 16 (S_push (.int (2)) 17) := k_iconst dX0_testWord_16 rfl
theorem r_X0_testWord_17 (E : ax_EN G l) : ax_Snd G l ax_Ym M_X0_testWord 17 (S_iret) := k_iret dX0_testWord_17 rfl
theorem r_X0_testWord_18 (E : ax_EN G l) : ax_Snd G l ax_Ym M_X0_testWord 18 (S_push (.int (0)) 19) := k_iconst dX0_testWord_18 rfl
theorem r_X0_testWord_19 (E : ax_EN G l) : ax_Snd G l ax_Ym M_X0_testWord 19 (S_iret) := k_iret dX0_testWord_19 rfl
theorem mt_X0_testWord (E : ax_EN G l) : ax_mt G l ax_Ym (4, P_X0_testWord) (ax_Ym 205) := ⟨M_X0_testWord, yX0_testWord, ⟨rfl, by decide +kernel, rfl, (fun h => by cases h), Or.inr rfl⟩, fun pc => (ax_sn_node (ax_sn_node (ax_sn_node (ax_sn_node (ax_sn_leaf (r_X0_testWord_19 E)) (ax_sn_leaf (r_X0_testWord_18 E))) (ax_sn_node (ax_sn_leaf (r_X0_testWord_17 E)) (ax_sn_leaf (r_X0_testWord_16 E)))) (ax_sn_node (ax_sn_node (ax_sn_leaf (r_X0_testWord_15 E)) (ax_sn_leaf (r_X0_testWord_14 E))) (ax_sn_node (ax_sn_leaf (r_X0_testWord_13 E)) (ax_sn_leaf (r_X0_testWord_12 E))))) (ax_sn_node (ax_sn_node (ax_sn_node (ax_sn_leaf (r_X0_testWord_9 E)) (ax_sn_leaf (r_X0_testWord_8 E))) (ax_sn_node (ax_sn_leaf (r_X0_testWord_7 E)) (ax_sn_leaf (r_X0_testWord_4 E)))) (ax_sn_node (ax_sn_node (ax_sn_leaf (r_X0_testWord_3 E)) (ax_sn_leaf (r_X0_testWord_2 E))) (ax_sn_node (ax_sn_leaf (r_X0_testWord_1 E)) (ax_sn_leaf (r_X0_testWord_0 E))))))⟩
theorem r_X0_addTest_0 (E : ax_EN G l) : ax_Snd G l ax_Ym M_X0_addTest 0 (S_aload 5 2) := k_aload dX0_addTest_0
theorem r_X0_addTest_2 (E : ax_EN G l) : ax_Snd G l ax_Ym M_X0_addTest 2 (S_push (.int (0)) 3) := k_iconst dX0_addTest_2 rfl
theorem r_X0_addTest_3 (E : ax_EN G l) : ax_Snd G l ax_Ym M_X0_addTest 3 (S_aload 0 4) := k_aload_n dX0_addTest_3 rfl
theorem r_X0_addTest_4 (E : ax_EN G l) : ax_Snd G l ax_Ym M_X0_addTest 4 (S_iload 1 5) := k_iload_n dX0_addTest_4 rfl
theorem r_X0_addTest_5 (E : ax_EN G l) : ax_Snd G l ax_Ym M_X0_addTest 5 (S_iload 2 6) := k_iload_n dX0_addTest_5 rfl
theorem r_X0_addTest_6 (E : ax_EN G l) : ax_Snd G l ax_Ym M_X0_addTest 6 (S_iload 3 7) := k_iload_n dX0_addTest_6 rfl
theorem r_X0_addTest_7 (E : ax_EN G l) : ax_Snd G l ax_Ym M_X0_addTest 7 (S_iload 4 9) := k_iload dX0_addTest_7
theorem r_X0_addTest_9 (E : ax_EN G l) : ax_Snd G l ax_Ym M_X0_addTest 9 (S_iv [(19, 265)] 4 12 (fun k => if k ∈ [0, 44] then some (some 21) else if k ∈ [18] then some (some 17) else if k ∈ [6, 7, 28, 32, 33, 34, 35, 45, 46] then some none else none)) := k_iv (en_F E) (hok_135 E) (ax_Evs_cons ((ev_v (en_c E (k := 19) rfl) rfl y_X1_addTest q2657 q2658 q2659 q118 q2660 nm_X1_addTest (Nat.le_of_ble_eq_true rfl) dX0_addTest_9) : ax_EvV G l ax_Ym M_X0_addTest 9 4 3 19 265) ax_Evs_nil)
theorem r_X0_addTest_12 (E : ax_EN G l) : ax_Snd G l ax_Ym M_X0_addTest 12 (S_i2l 13) := k_i2l dX0_addTest_12
theorem r_X0_addTest_13 (E : ax_EN G l) : ax_Snd G l ax_Ym M_X0_addTest 13 (S_last 1 14) := k_last (en_F E) dX0_addTest_13
theorem r_X0_addTest_14 (E : ax_EN G l) : ax_Snd G l ax_Ym M_X0_addTest 14 (S_goto 25) := k_goto dX0_addTest_14 rfl
theorem r_X0_addTest_17 (E : ax_EN G l) : ax_Snd G l ax_Ym M_X0_addTest 17 (S_astore 6 19) := k_astore dX0_addTest_17 (Nat.le_of_ble_eq_true rfl)
theorem r_X0_addTest_19 (E : ax_EN G l) : ax_Snd G l ax_Ym M_X0_addTest 19 (S_push (.int (1)) 20) := k_iconst dX0_addTest_19 rfl
theorem r_X0_addTest_20 (E : ax_EN G l) : ax_Snd G l ax_Ym M_X0_addTest 20 (S_iret) := k_iret dX0_addTest_20 rfl
theorem r_X0_addTest_21 (E : ax_EN G l) : ax_Snd G l ax_Ym M_X0_addTest 21 (S_astore 6 23) := k_astore dX0_addTest_21 (Nat.le_of_ble_eq_true rfl)
theorem r_X0_addTest_23 (E : ax_EN G l) : ax_Snd G l ax_Ym M_X0_addTest 23 (S_push (.int (2)) 24) := k_iconst dX0_addTest_23 rfl
theorem r_X0_addTest_24 (E : ax_EN G l) : ax_Snd G l ax_Ym M_X0_addTest 24 (S_iret) := k_iret dX0_addTest_24 rfl
theorem r_X0_addTest_25 (E : ax_EN G l) : ax_Snd G l ax_Ym M_X0_addTest 25 (S_push (.int (0)) 26) := k_iconst dX0_addTest_25 rfl
theorem r_X0_addTest_26 (E : ax_EN G l) : ax_Snd G l ax_Ym M_X0_addTest 26 (S_iret) := k_iret dX0_addTest_26 rfl
theorem mt_X0_addTest (E : ax_EN G l) : ax_mt G l ax_Ym (7, P_X0_addTest) (ax_Ym 206) := ⟨M_X0_addTest, yX0_addTest, ⟨rfl, by decide +kernel, rfl, (fun h => by cases h), Or.inr rfl⟩, fun pc => (ax_sn_node (ax_sn_node (ax_sn_node (ax_sn_node (ax_sn_node (ax_sn_leaf (r_X0_addTest_26 E)) (ax_sn_leaf (r_X0_addTest_25 E))) (ax_sn_leaf (r_X0_addTest_24 E))) (ax_sn_node (ax_sn_leaf (r_X0_addTest_23 E)) (ax_sn_leaf (r_X0_addTest_21 E)))) (ax_sn_node (ax_sn_node (ax_sn_node (ax_sn_leaf (r_X0_addTest_20 E)) (ax_sn_leaf (r_X0_addTest_19 E))) (ax_sn_leaf (r_X0_addTest_17 E))) (ax_sn_node (ax_sn_leaf (r_X0_addTest_14 E)) (ax_sn_leaf (r_X0_addTest_13 E))))) (ax_sn_node (ax_sn_node (ax_sn_node (ax_sn_node (ax_sn_leaf (r_X0_addTest_12 E)) (ax_sn_leaf (r_X0_addTest_9 E))) (ax_sn_leaf (r_X0_addTest_7 E))) (ax_sn_node (ax_sn_leaf (r_X0_addTest_6 E)) (ax_sn_leaf (r_X0_addTest_5 E)))) (ax_sn_node (ax_sn_node (ax_sn_leaf (r_X0_addTest_4 E)) (ax_sn_leaf (r_X0_addTest_3 E))) (ax_sn_node (ax_sn_leaf (r_X0_addTest_2 E)) (ax_sn_leaf (r_X0_addTest_0 E))))))⟩
theorem r_X0_submit_0 (E : ax_EN G l) : ax_Snd G l ax_Ym M_X0_submit 0 (S_aload 1 1) := k_aload_n dX0_submit_0 rfl
theorem r_X0_submit_1 (E : ax_EN G l) : ax_Snd G l ax_Ym M_X0_submit 1 (S_push (.int (0)) 2) := k_iconst dX0_submit_1 rfl
theorem r_X0_submit_2 (E : ax_EN G l) : ax_Snd G l ax_Ym M_X0_submit 2 (S_aload 0 3) := k_aload_n dX0_submit_2 rfl
theorem r_X0_submit_3 (E : ax_EN G l) : ax_Snd G l ax_Ym M_X0_submit 3 (S_iv [(19, 267)] 0 6 (fun k => if k ∈ [0, 44] then some (some 11) else if k ∈ [18, 6, 7, 28, 32, 33, 34, 35, 45, 46] then some none else none)) := k_iv (en_F E) (hok_136 E) (ax_Evs_cons ((ev_v (en_c E (k := 19) rfl) rfl y_X1_submit q2713 q2714 q2715 q118 q2716 nm_X1_submit (Nat.le_of_ble_eq_true rfl) dX0_submit_3) : ax_EvV G l ax_Ym M_X0_submit 3 0 3 19 267) ax_Evs_nil)
theorem r_X0_submit_6 (E : ax_EN G l) : ax_Snd G l ax_Ym M_X0_submit 6 (S_i2l 7) := k_i2l dX0_submit_6
theorem r_X0_submit_7 (E : ax_EN G l) : ax_Snd G l ax_Ym M_X0_submit 7 (S_last 1 8) := k_last (en_F E) dX0_submit_7
theorem r_X0_submit_8 (E : ax_EN G l) : ax_Snd G l ax_Ym M_X0_submit 8 (S_goto 14) := k_goto dX0_submit_8 rfl
theorem r_X0_submit_11 (E : ax_EN G l) : ax_Snd G l ax_Ym M_X0_submit 11 (S_astore 2 12) := k_astore_n dX0_submit_11 rfl (Nat.le_of_ble_eq_true rfl)
theorem r_X0_submit_12 (E : ax_EN G l) : ax_Snd G l ax_Ym M_X0_submit 12 (S_push (.int (1)) 13) := k_iconst dX0_submit_12 rfl
theorem r_X0_submit_13 (E : ax_EN G l) : ax_Snd G l ax_Ym M_X0_submit 13 (S_iret) := k_iret dX0_submit_13 rfl
theorem r_X0_submit_14 (E : ax_EN G l) : ax_Snd G l ax_Ym M_X0_submit 14 (S_push (.int (0)) 15) := k_iconst dX0_submit_14 rfl
theorem r_X0_submit_15 (E : ax_EN G l) : ax_Snd G l ax_Ym M_X0_submit 15 (S_iret) := k_iret dX0_submit_15 rfl
theorem mt_X0_submit (E : ax_EN G l) : ax_mt G l ax_Ym (3, P_X0_submit) (ax_Ym 207) := ⟨M_X0_submit, yX0_submit, ⟨rfl, by decide +kernel, rfl, (fun h => by cases h), Or.inr rfl⟩, fun pc => (ax_sn_node (ax_sn_node (ax_sn_node (ax_sn_node (ax_sn_leaf (r_X0_submit_15 E)) (ax_sn_leaf (r_X0_submit_14 E))) (ax_sn_leaf (r_X0_submit_13 E))) (ax_sn_node (ax_sn_node (ax_sn_leaf (r_X0_submit_12 E)) (ax_sn_leaf (r_X0_submit_11 E))) (ax_sn_leaf (r_X0_submit_8 E)))) (ax_sn_node (ax_sn_node (ax_sn_node (ax_sn_leaf (r_X0_submit_7 E)) (ax_sn_leaf (r_X0_submit_6 E))) (ax_sn_leaf (r_X0_submit_3 E))) (ax_sn_node (ax_sn_node (ax_sn_leaf (r_X0_submit_2 E)) (ax_sn_leaf (r_X0_submit_1 E))) (ax_sn_leaf (r_X0_submit_0 E)))))⟩
theorem r_X0_result_0 (E : ax_EN G l) : ax_Snd G l ax_Ym M_X0_result 0 (S_aload 2 1) := k_aload_n dX0_result_0 rfl
theorem r_X0_result_1 (E : ax_EN G l) : ax_Snd G l ax_Ym M_X0_result 1 (S_push (.int (0)) 2) := k_iconst dX0_result_1 rfl
theorem r_X0_result_2 (E : ax_EN G l) : ax_Snd G l ax_Ym M_X0_result 2 (S_aload 0 3) := k_aload_n dX0_result_2 rfl
theorem r_X0_result_3 (E : ax_EN G l) : ax_Snd G l ax_Ym M_X0_result 3 (S_iload 1 4) := k_iload_n dX0_result_3 rfl
theorem r_X0_result_4 (E : ax_EN G l) : ax_Snd G l ax_Ym M_X0_result 4 (S_iv [(19, 268)] 1 7 (fun k => if k ∈ [6, 46] then some (some 12) else if k ∈ [18, 0, 7, 28, 32, 33, 34, 35, 44, 45] then some none else none)) := k_iv (en_F E) (hok_137 E) (ax_Evs_cons ((ev_v (en_c E (k := 19) rfl) rfl y_X1_result q2736 q2737 q2738 q118 q2739 nm_X1_result (Nat.le_of_ble_eq_true rfl) dX0_result_4) : ax_EvV G l ax_Ym M_X0_result 4 1 3 19 268) ax_Evs_nil)
theorem r_X0_result_7 (E : ax_EN G l) : ax_Snd G l ax_Ym M_X0_result 7 (S_i2l 8) := k_i2l dX0_result_7
theorem r_X0_result_8 (E : ax_EN G l) : ax_Snd G l ax_Ym M_X0_result 8 (S_last 1 9) := k_last (en_F E) dX0_result_8
theorem r_X0_result_9 (E : ax_EN G l) : ax_Snd G l ax_Ym M_X0_result 9 (S_goto 15) := k_goto dX0_result_9 rfl
theorem r_X0_result_12 (E : ax_EN G l) : ax_Snd G l ax_Ym M_X0_result 12 (S_astore 3 13) := k_astore_n dX0_result_12 rfl (Nat.le_of_ble_eq_true rfl)
theorem r_X0_result_13 (E : ax_EN G l) : ax_Snd G l ax_Ym M_X0_result 13 (S_push (.int (1)) 14) := k_iconst dX0_result_13 rfl
theorem r_X0_result_14 (E : ax_EN G l) : ax_Snd G l ax_Ym M_X0_result 14 (S_iret) := k_iret dX0_result_14 rfl
theorem r_X0_result_15 (E : ax_EN G l) : ax_Snd G l ax_Ym M_X0_result 15 (S_push (.int (0)) 16) := k_iconst dX0_result_15 rfl
theorem r_X0_result_16 (E : ax_EN G l) : ax_Snd G l ax_Ym M_X0_result 16 (S_iret) := k_iret dX0_result_16 rfl
theorem mt_X0_result (E : ax_EN G l) : ax_mt G l ax_Ym (4, P_X0_result) (ax_Ym 208) := ⟨M_X0_result, yX0_result, ⟨rfl, by decide +kernel, rfl, (fun h => by cases h), Or.inr rfl⟩, fun pc => (ax_sn_node (ax_sn_node (ax_sn_node (ax_sn_node (ax_sn_leaf (r_X0_result_16 E)) (ax_sn_leaf (r_X0_result_15 E))) (ax_sn_node (ax_sn_leaf (r_X0_result_14 E)) (ax_sn_leaf (r_X0_result_13 E)))) (ax_sn_node (ax_sn_node (ax_sn_leaf (r_X0_result_12 E)) (ax_sn_leaf (r_X0_result_9 E))) (ax_sn_leaf (r_X0_result_8 E)))) (ax_sn_node (ax_sn_node (ax_sn_node (ax_sn_leaf (r_X0_result_7 E)) (ax_sn_leaf (r_X0_result_4 E))) (ax_sn_leaf (r_X0_result_3 E))) (ax_sn_node (ax_sn_node (ax_sn_leaf (r_X0_result_2 E)) (ax_sn_leaf (r_X0_result_1 E))) (ax_sn_leaf (r_X0_result_0 E)))))⟩
theorem r_X1_init_0 (E : ax_EN G l) : ax_Snd G l ax_Ym M_X1_init 0 (S_aload 0 1) := k_aload_n dX1_init_0 rfl
theorem r_X1_init_1 (E : ax_EN G l) : ax_Snd G l ax_Ym M_X1_init 1 (S_oin 4) := k_oin q188 q189 w_oin dX1_init_1
theorem r_X1_init_4 (E : ax_EN G l) : ax_Snd G l ax_Ym M_X1_init 4 (S_aload 0 5) := k_aload_n dX1_init_4 rfl
theorem r_X1_init_5 (E : ax_EN G l) : ax_Snd G l ax_Ym M_X1_init 5 (S_new 4 [.int 0, .null, .int 0] 3 8) := k_new (en_F E) (mk_4 E) q191 dX1_init_5
theorem r_X1_init_8 (E : ax_EN G l) : ax_Snd G l ax_Ym M_X1_init 8 (S_dup 9) := k_dup dX1_init_8
theorem r_X1_init_9 (E : ax_EN G l) : ax_Snd G l ax_Ym M_X1_init 9 (S_isp 58 0 12 hd_0) := k_isp (en_F E) (ax_ok0 E rfl) ((ev_i y_J2_init q193 q194 q121 q195 nm_J2_init rfl (Nat.le_of_ble_eq_true rfl) dX1_init_9) : ax_EvI G l ax_Ym M_X1_init 9 58 0 3)
theorem r_X1_init_12 (E : ax_EN G l) : ax_Snd G l ax_Ym M_X1_init 12 (S_putf [(19, 0)] (.object "java/util/List") 15) := k_putfF (en_F E) (en_P E) (ax_fes_cons (fe_139 E) ax_fes_nil) (ax_fps_cons (fp_140 E) ax_fps_nil) rfl q321 dX1_init_12
theorem r_X1_init_15 (E : ax_EN G l) : ax_Snd G l ax_Ym M_X1_init 15 (S_aload 0 16) := k_aload_n dX1_init_15 rfl
theorem r_X1_init_16 (E : ax_EN G l) : ax_Snd G l ax_Ym M_X1_init 16 (S_new 29 [.null, .null, .null, .int 0, .null, .null, .null, .null, .null, .int 0] 10 19) := k_new (en_F E) (mk_29 E) q227 dX1_init_16
theorem r_X1_init_19 (E : ax_EN G l) : ax_Snd G l ax_Ym M_X1_init 19 (S_dup 20) := k_dup dX1_init_19
theorem r_X1_init_20 (E : ax_EN G l) : ax_Snd G l ax_Ym M_X1_init 20 (S_push (.int (1)) 21) := k_iconst dX1_init_20 rfl
theorem r_X1_init_21 (E : ax_EN G l) : ax_Snd G l ax_Ym M_X1_init 21 (S_isp 298 1 24 hd_0) := k_isp (en_F E) (ax_ok0 E rfl) ((ev_i y_X2_init q229 q230 q122 q231 nm_X2_init rfl (Nat.le_of_ble_eq_true rfl) dX1_init_21) : ax_EvI G l ax_Ym M_X1_init 21 298 1 3)
theorem r_X1_init_24 (E : ax_EN G l) : ax_Snd G l ax_Ym M_X1_init 24 (S_putf [(19, 1)] (.object "KernelGym$Machine") 27) := k_putfF (en_F E) (en_P E) (ax_fes_cons (fe_142 E) ax_fes_nil) (ax_fps_cons (fp_143 E) ax_fps_nil) rfl q323 dX1_init_24
theorem r_X1_init_27 (E : ax_EN G l) : ax_Snd G l ax_Ym M_X1_init 27 (S_aload 0 28) := k_aload_n dX1_init_27 rfl
theorem r_X1_init_28 (E : ax_EN G l) : ax_Snd G l ax_Ym M_X1_init 28 (S_new 4 [.int 0, .null, .int 0] 3 31) := k_new (en_F E) (mk_4 E) q191 dX1_init_28
theorem r_X1_init_31 (E : ax_EN G l) : ax_Snd G l ax_Ym M_X1_init 31 (S_dup 32) := k_dup dX1_init_31
theorem r_X1_init_32 (E : ax_EN G l) : ax_Snd G l ax_Ym M_X1_init 32 (S_isp 58 0 35 hd_0) := k_isp (en_F E) (ax_ok0 E rfl) ((ev_i y_J2_init q193 q194 q121 q195 nm_J2_init rfl (Nat.le_of_ble_eq_true rfl) dX1_init_32) : ax_EvI G l ax_Ym M_X1_init 32 58 0 3)
theorem r_X1_init_35 (E : ax_EN G l) : ax_Snd G l ax_Ym M_X1_init 35 (S_putf [(19, 2)] (.object "java/util/List") 38) := k_putfF (en_F E) (en_P E) (ax_fes_cons (fe_144 E) ax_fes_nil) (ax_fps_cons (fp_145 E) ax_fps_nil) rfl q324 dX1_init_35
theorem r_X1_init_38 (E : ax_EN G l) : ax_Snd G l ax_Ym M_X1_init 38 (S_aload 0 39) := k_aload_n dX1_init_38 rfl
theorem r_X1_init_39 (E : ax_EN G l) : ax_Snd G l ax_Ym M_X1_init 39 (S_new 15 [.int 0, .int 0, .null, .null] 4 42) := k_new (en_F E) (mk_15 E) q318 dX1_init_39
theorem r_X1_init_42 (E : ax_EN G l) : ax_Snd G l ax_Ym M_X1_init 42 (S_dup 43) := k_dup dX1_init_42
theorem r_X1_init_43 (E : ax_EN G l) : ax_Snd G l ax_Ym M_X1_init 43 (S_isp 124 0 46 hd_0) := k_isp (en_F E) (ax_ok0 E rfl) ((ev_i y_J4_init q319 q236 q124 q237 nm_J4_init rfl (Nat.le_of_ble_eq_true rfl) dX1_init_43) : ax_EvI G l ax_Ym M_X1_init 43 124 0 3)
theorem r_X1_init_46 (E : ax_EN G l) : ax_Snd G l ax_Ym M_X1_init 46 (S_putf [(19, 3)] (.object "java/util/LinkedList") 49) := k_putfF (en_F E) (en_P E) (ax_fes_cons (fe_147 E) ax_fes_nil) (ax_fps_cons (fp_148 E) ax_fps_nil) rfl q325 dX1_init_46
theorem r_X1_init_49 (E : ax_EN G l) : ax_Snd G l ax_Ym M_X1_init 49 (S_aload 0 50) := k_aload_n dX1_init_49 rfl
theorem r_X1_init_50 (E : ax_EN G l) : ax_Snd G l ax_Ym M_X1_init 50 (S_new 15 [.int 0, .int 0, .null, .null] 4 53) := k_new (en_F E) (mk_15 E) q318 dX1_init_50
theorem r_X1_init_53 (E : ax_EN G l) : ax_Snd G l ax_Ym M_X1_init 53 (S_dup 54) := k_dup dX1_init_53
theorem r_X1_init_54 (E : ax_EN G l) : ax_Snd G l ax_Ym M_X1_init 54 (S_isp 124 0 57 hd_0) := k_isp (en_F E) (ax_ok0 E rfl) ((ev_i y_J4_init q319 q236 q124 q237 nm_J4_init rfl (Nat.le_of_ble_eq_true rfl) dX1_init_54) : ax_EvI G l ax_Ym M_X1_init 54 124 0 3)
theorem r_X1_init_57 (E : ax_EN G l) : ax_Snd G l ax_Ym M_X1_init 57 (S_putf [(19, 4)] (.object "java/util/LinkedList") 60) := k_putfF (en_F E) (en_P E) (ax_fes_cons (fe_149 E) ax_fes_nil) (ax_fps_cons (fp_150 E) ax_fps_nil) rfl q326 dX1_init_57
theorem r_X1_init_60 (E : ax_EN G l) : ax_Snd G l ax_Ym M_X1_init 60 (S_ret) := k_ret dX1_init_60 rfl
theorem mt_X1_init (E : ax_EN G l) : ax_mt G l ax_Ym (1, P_X1_init) (ax_Ym 209) := ⟨M_X1_init, yX1_init, ⟨rfl, by decide +kernel, rfl, (fun _ => rfl), Or.inl ⟨rfl, rfl⟩⟩, fun pc => (ax_sn_node (ax_sn_node (ax_sn_node (ax_sn_node (ax_sn_node (ax_sn_leaf (r_X1_init_60 E)) (ax_sn_leaf (r_X1_init_57 E))) (ax_sn_node (ax_sn_leaf (r_X1_init_54 E)) (ax_sn_leaf (r_X1_init_53 E)))) (ax_sn_node (ax_sn_node (ax_sn_leaf (r_X1_init_50 E)) (ax_sn_leaf (r_X1_init_49 E))) (ax_sn_node (ax_sn_leaf (r_X1_init_46 E)) (ax_sn_leaf (r_X1_init_43 E))))) (ax_sn_node (ax_sn_node (ax_sn_node (ax_sn_leaf (r_X1_init_42 E)) (ax_sn_leaf (r_X1_init_39 E))) (ax_sn_node (ax_sn_leaf (r_X1_init_38 E)) (ax_sn_leaf (r_X1_init_35 E)))) (ax_sn_node (ax_sn_node (ax_sn_leaf (r_X1_init_32 E)) (ax_sn_leaf (r_X1_init_31 E))) (ax_sn_leaf (r_X1_init_28 E))))) (ax_sn_node (ax_sn_node (ax_sn_node (ax_sn_node (ax_sn_leaf (r_X1_init_27 E)) (ax_sn_leaf (r_X1_init_24 E))) (ax_sn_node (ax_sn_leaf (r_X1_init_21 E)) (ax_sn_leaf (r_X1_init_20 E)))) (ax_sn_node (ax_sn_node (ax_sn_leaf (r_X1_init_19 E)) (ax_sn_leaf (r_X1_init_16 E))) (ax_sn_leaf (r_X1_init_15 E)))) (ax_sn_node (ax_sn_node (ax_sn_node (ax_sn_leaf (r_X1_init_12 E)) (ax_sn_leaf (r_X1_init_9 E))) (ax_sn_node (ax_sn_leaf (r_X1_init_8 E)) (ax_sn_leaf (r_X1_init_5 E)))) (ax_sn_node (ax_sn_node (ax_sn_leaf (r_X1_init_4 E)) (ax_sn_leaf (r_X1_init_1 E))) (ax_sn_leaf (r_X1_init_0 E))))))⟩
theorem r_X1_clear_0 (E : ax_EN G l) : ax_Snd G l ax_Ym M_X1_clear 0 (S_aload 0 1) := k_aload_n dX1_clear_0 rfl
theorem r_X1_clear_1 (E : ax_EN G l) : ax_Snd G l ax_Ym M_X1_clear 1 (S_getf [(19, 0)] 4) := k_getf (en_F E) (ax_fes_cons (fe_139 E) ax_fes_nil) q321 dX1_clear_1
theorem r_X1_clear_4 (E : ax_EN G l) : ax_Snd G l ax_Ym M_X1_clear 4 (S_iv [(4, 59)] 0 9 hd_0) := k_iv (en_F E) (ax_ok0 E rfl) (ax_Evs_cons ((ev_f (en_F E) (en_B E) (en_c E (k := 4) rfl) y_J2_size q346 q352 q350 q121 q354 q348 q347 q353 q351 q349 xn_151 (Nat.le_of_ble_eq_true rfl) dX1_clear_4) : ax_EvV G l ax_Ym M_X1_clear 4 0 5 4 59) ax_Evs_nil)
theorem r_X1_clear_9 (E : ax_EN G l) : ax_Snd G l ax_Ym M_X1_clear 9 (S_istore 1 10) := k_istore_n dX1_clear_9 rfl (Nat.le_of_ble_eq_true rfl)
theorem r_X1_clear_10 (E : ax_EN G l) : ax_Snd G l ax_Ym M_X1_clear 10 (S_aload 0 11) := k_aload_n dX1_clear_10 rfl
theorem r_X1_clear_11 (E : ax_EN G l) : ax_Snd G l ax_Ym M_X1_clear 11 (S_getf [(19, 0)] 14) := k_getf (en_F E) (ax_fes_cons (fe_139 E) ax_fes_nil) q321 dX1_clear_11
theorem r_X1_clear_14 (E : ax_EN G l) : ax_Snd G l ax_Ym M_X1_clear 14 (S_iv [(4, 60)] 0 19 hd_0) := k_iv (en_F E) (ax_ok0 E rfl) (ax_Evs_cons ((ev_f (en_F E) (en_B E) (en_c E (k := 4) rfl) y_J2_clear q362 q367 q365 q121 q369 q364 q363 q368 q366 q349 xn_152 (Nat.le_of_ble_eq_true rfl) dX1_clear_14) : ax_EvV G l ax_Ym M_X1_clear 14 0 5 4 60) ax_Evs_nil)
theorem r_X1_clear_19 (E : ax_EN G l) : ax_Snd G l ax_Ym M_X1_clear 19 (S_iload 1 20) := k_iload_n dX1_clear_19 rfl
theorem r_X1_clear_20 (E : ax_EN G l) : ax_Snd G l ax_Ym M_X1_clear 20 (S_iret) := k_iret dX1_clear_20 rfl
theorem mt_X1_clear (E : ax_EN G l) : ax_mt G l ax_Ym (2, P_X1_clear) (ax_Ym 210) := ⟨M_X1_clear, yX1_clear, ⟨rfl, by decide +kernel, rfl, (fun h => by cases h), Or.inl ⟨rfl, rfl⟩⟩, fun pc => (ax_sn_node (ax_sn_node (ax_sn_node (ax_sn_node (ax_sn_leaf (r_X1_clear_20 E)) (ax_sn_leaf (r_X1_clear_19 E))) (ax_sn_leaf (r_X1_clear_14 E))) (ax_sn_node (ax_sn_leaf (r_X1_clear_11 E)) (ax_sn_leaf (r_X1_clear_10 E)))) (ax_sn_node (ax_sn_node (ax_sn_leaf (r_X1_clear_9 E)) (ax_sn_leaf (r_X1_clear_4 E))) (ax_sn_node (ax_sn_leaf (r_X1_clear_1 E)) (ax_sn_leaf (r_X1_clear_0 E)))))⟩
theorem r_X1_lines_0 (E : ax_EN G l) : ax_Snd G l ax_Ym M_X1_lines 0 (S_aload 0 1) := k_aload_n dX1_lines_0 rfl
theorem r_X1_lines_1 (E : ax_EN G l) : ax_Snd G l ax_Ym M_X1_lines 1 (S_getf [(19, 0)] 4) := k_getf (en_F E) (ax_fes_cons (fe_139 E) ax_fes_nil) q321 dX1_lines_1
theorem r_X1_lines_4 (E : ax_EN G l) : ax_Snd G l ax_Ym M_X1_lines 4 (S_iv [(4, 59)] 0 9 hd_0) := k_iv (en_F E) (ax_ok0 E rfl) (ax_Evs_cons ((ev_f (en_F E) (en_B E) (en_c E (k := 4) rfl) y_J2_size q346 q352 q350 q121 q354 q348 q347 q353 q351 q349 xn_151 (Nat.le_of_ble_eq_true rfl) dX1_lines_4) : ax_EvV G l ax_Ym M_X1_lines 4 0 5 4 59) ax_Evs_nil)
theorem r_X1_lines_9 (E : ax_EN G l) : ax_Snd G l ax_Ym M_X1_lines 9 (S_iret) := k_iret dX1_lines_9 rfl
theorem mt_X1_lines (E : ax_EN G l) : ax_mt G l ax_Ym (1, P_X1_lines) (ax_Ym 211) := ⟨M_X1_lines, yX1_lines, ⟨rfl, by decide +kernel, rfl, (fun h => by cases h), Or.inl ⟨rfl, rfl⟩⟩, fun pc => (ax_sn_node (ax_sn_node (ax_sn_leaf (r_X1_lines_9 E)) (ax_sn_leaf (r_X1_lines_4 E))) (ax_sn_node (ax_sn_leaf (r_X1_lines_1 E)) (ax_sn_leaf (r_X1_lines_0 E))))⟩
theorem r_X1_error_0 (E : ax_EN G l) : ax_Snd G l ax_Ym M_X1_error 0 (S_new 25 [.null, .null, .null, .null, .int 0, .int 0, .null] 7 3) := k_new (en_F E) (mk_25 E) q384 dX1_error_0
theorem r_X1_error_3 (E : ax_EN G l) : ax_Snd G l ax_Ym M_X1_error 3 (S_dup 4) := k_dup dX1_error_3
theorem r_X1_error_4 (E : ax_EN G l) : ax_Snd G l ax_Ym M_X1_error 4 (S_aload 0 5) := k_aload_n dX1_error_4 rfl
theorem r_X1_error_5 (E : ax_EN G l) : ax_Snd G l ax_Ym M_X1_error 5 (S_isp 281 1 8 (fun k => if k ∈ [28] then some (some 20) else if k ∈ [18, 0, 6, 7, 32, 33, 34, 35, 44, 45, 46] then some none else none)) := k_isp (en_F E) (hok_154 E) ((ev_i y_X15_init q386 q387 q148 q388 nm_X15_init rfl (Nat.le_of_ble_eq_true rfl) dX1_error_5) : ax_EvI G l ax_Ym M_X1_error 5 281 1 3)
theorem r_X1_error_8 (E : ax_EN G l) : ax_Snd G l ax_Ym M_X1_error 8 (S_getf [(25, 5)] 11) := k_getfN (en_F E) (en_B E) (ax_fes_cons (fe_155 E) ax_fes_nil) q1169 dX1_error_8
theorem r_X1_error_11 (E : ax_EN G l) : ax_Snd G l ax_Ym M_X1_error 11 (S_if1 (fun x => decide (0 ≤ x)) 18 14) := k_if_ge dX1_error_11 rfl
theorem r_X1_error_14 (E : ax_EN G l) : ax_Snd G l ax_Ym M_X1_error 14 (S_push (.int (-1)) 15) := k_iconst dX1_error_14 rfl
theorem r_X1_error_15 (E : ax_EN G l) : ax_Snd G l ax_Ym M_X1_error 15 (S_goto 19) := k_goto dX1_error_15 rfl
theorem r_X1_error_18 (E : ax_EN G l) : ax_Snd G l ax_Ym M_X1_error 18 (S_push (.int (0)) 19) := k_iconst dX1_error_18 rfl
theorem r_X1_error_19 (E : ax_EN G l) : ax_Snd G l ax_Ym M_X1_error 19 (S_iret) := k_iret dX1_error_19 rfl
theorem r_X1_error_20 (E : ax_EN G l) : ax_Snd G l ax_Ym M_X1_error 20 (S_astore 1 21) := k_astore_n dX1_error_20 rfl (Nat.le_of_ble_eq_true rfl)
theorem r_X1_error_21 (E : ax_EN G l) : ax_Snd G l ax_Ym M_X1_error 21 (S_aload 1 22) := k_aload_n dX1_error_21 rfl
theorem r_X1_error_22 (E : ax_EN G l) : ax_Snd G l ax_Ym M_X1_error 22 (S_iv [(28, 297)] 0 25 hd_0) := k_iv (en_F E) (hok_156 E) (ax_Evs_cons ((ev_v (en_c E (k := 28) rfl) rfl y_X19_told q1188 q1189 q1190 q152 q1191 nm_X19_told (Nat.le_of_ble_eq_true rfl) dX1_error_22) : ax_EvV G l ax_Ym M_X1_error 22 0 3 28 297) ax_Evs_nil)
theorem r_X1_error_25 (E : ax_EN G l) : ax_Snd G l ax_Ym M_X1_error 25 (S_iret) := k_iret dX1_error_25 rfl
theorem mt_X1_error (E : ax_EN G l) : ax_mt G l ax_Ym (2, P_X1_error) (ax_Ym 212) := ⟨M_X1_error, yX1_error, ⟨rfl, by decide +kernel, rfl, (fun h => by cases h), Or.inr rfl⟩, fun pc => (ax_sn_node (ax_sn_node (ax_sn_node (ax_sn_node (ax_sn_leaf (r_X1_error_25 E)) (ax_sn_leaf (r_X1_error_22 E))) (ax_sn_node (ax_sn_leaf (r_X1_error_21 E)) (ax_sn_leaf (r_X1_error_20 E)))) (ax_sn_node (ax_sn_node (ax_sn_leaf (r_X1_error_19 E)) (ax_sn_leaf (r_X1_error_18 E))) (ax_sn_leaf (r_X1_error_15 E)))) (ax_sn_node (ax_sn_node (ax_sn_node (ax_sn_leaf (r_X1_error_14 E)) (ax_sn_leaf (r_X1_error_11 E))) (ax_sn_node (ax_sn_leaf (r_X1_error_8 E)) (ax_sn_leaf (r_X1_error_5 E)))) (ax_sn_node (ax_sn_node (ax_sn_leaf (r_X1_error_4 E)) (ax_sn_leaf (r_X1_error_3 E))) (ax_sn_leaf (r_X1_error_0 E)))))⟩
theorem r_X1_check_0 (E : ax_EN G l) : ax_Snd G l ax_Ym M_X1_check 0 (S_iload 0 1) := k_iload_n dX1_check_0 rfl
theorem r_X1_check_1 (E : ax_EN G l) : ax_Snd G l ax_Ym M_X1_check 1 (S_if1 (fun x => decide (¬ x = 0)) 14 4) := k_if_ne dX1_check_1 rfl
theorem r_X1_check_4 (E : ax_EN G l) : ax_Snd G l ax_Ym M_X1_check 4 (S_new 28 [.int 0, .int 0, .null] 8 7) := k_new (en_F E) (mk_28 E) q383 dX1_check_4
theorem r_X1_check_7 (E : ax_EN G l) : ax_Snd G l ax_Ym M_X1_check 7 (S_dup 8) := k_dup dX1_check_7
theorem r_X1_check_8 (E : ax_EN G l) : ax_Snd G l ax_Ym M_X1_check 8 (S_iload 1 9) := k_iload_n dX1_check_8 rfl
theorem r_X1_check_9 (E : ax_EN G l) : ax_Snd G l ax_Ym M_X1_check 9 (S_iload 2 10) := k_iload_n dX1_check_9 rfl
theorem r_X1_check_10 (E : ax_EN G l) : ax_Snd G l ax_Ym M_X1_check 10 (S_isp 296 2 13 hd_0) := k_isp (en_F E) (ax_ok0 E rfl) ((ev_i y_X19_init q522 q523 q152 q524 nm_X19_init rfl (Nat.le_of_ble_eq_true rfl) dX1_check_10) : ax_EvI G l ax_Ym M_X1_check 10 296 2 3)
theorem r_X1_check_13 (E : ax_EN G l) : ax_Snd G l ax_Ym M_X1_check 13 (S_athrow hd_0) := k_athrow (en_F E) (ax_ok0 E rfl) dX1_check_13
theorem r_X1_check_14 (E : ax_EN G l) : ax_Snd G l ax_Ym M_X1_check 14 (S_ret) := k_ret dX1_check_14 rfl
theorem mt_X1_check (E : ax_EN G l) : ax_mt G l ax_Ym (3, P_X1_check) (ax_Ym 213) := ⟨M_X1_check, yX1_check, ⟨rfl, by decide +kernel, rfl, (fun h => by cases h), Or.inl ⟨rfl, rfl⟩⟩, fun pc => (ax_sn_node (ax_sn_node (ax_sn_node (ax_sn_node (ax_sn_leaf (r_X1_check_14 E)) (ax_sn_leaf (r_X1_check_13 E))) (ax_sn_leaf (r_X1_check_10 E))) (ax_sn_node (ax_sn_leaf (r_X1_check_9 E)) (ax_sn_leaf (r_X1_check_8 E)))) (ax_sn_node (ax_sn_node (ax_sn_leaf (r_X1_check_7 E)) (ax_sn_leaf (r_X1_check_4 E))) (ax_sn_node (ax_sn_leaf (r_X1_check_1 E)) (ax_sn_leaf (r_X1_check_0 E)))))⟩
theorem r_X1_cut_0 (E : ax_EN G l) : ax_Snd G l ax_Ym M_X1_cut 0 (S_lload 0 1) := k_lload_n dX1_cut_0 rfl
theorem r_X1_cut_1 (E : ax_EN G l) : ax_Snd G l ax_Ym M_X1_cut 1 (S_l2i 2) := k_l2i dX1_cut_1
theorem r_X1_cut_2 (E : ax_EN G l) : ax_Snd G l ax_Ym M_X1_cut 2 (S_i1 (fun x => (x.toUInt32 % 65536).toInt32) 3) := k_i2c dX1_cut_2
theorem r_X1_cut_3 (E : ax_EN G l) : ax_Snd G l ax_Ym M_X1_cut 3 (S_iret) := k_iret dX1_cut_3 rfl
theorem mt_X1_cut (E : ax_EN G l) : ax_mt G l ax_Ym (2, P_X1_cut) (ax_Ym 214) := ⟨M_X1_cut, yX1_cut, ⟨rfl, by decide +kernel, rfl, (fun h => by cases h), Or.inl ⟨rfl, rfl⟩⟩, fun pc => (ax_sn_node (ax_sn_node (ax_sn_leaf (r_X1_cut_3 E)) (ax_sn_leaf (r_X1_cut_2 E))) (ax_sn_node (ax_sn_leaf (r_X1_cut_1 E)) (ax_sn_leaf (r_X1_cut_0 E))))⟩
theorem r_X1_state_0 (E : ax_EN G l) : ax_Snd G l ax_Ym M_X1_state 0 (S_aload 0 1) := k_aload_n dX1_state_0 rfl
theorem r_X1_state_1 (E : ax_EN G l) : ax_Snd G l ax_Ym M_X1_state 1 (S_getf [(19, 1)] 4) := k_getf (en_F E) (ax_fes_cons (fe_142 E) ax_fes_nil) q323 dX1_state_1
theorem r_X1_state_4 (E : ax_EN G l) : ax_Snd G l ax_Ym M_X1_state 4 (S_getf [(29, 0)] 7) := k_getfN (en_F E) (en_B E) (ax_fes_cons (fe_158 E) ax_fes_nil) q285 dX1_state_4
theorem r_X1_state_7 (E : ax_EN G l) : ax_Snd G l ax_Ym M_X1_state 7 (S_push (.int (0)) 8) := k_iconst dX1_state_7 rfl
theorem r_X1_state_8 (E : ax_EN G l) : ax_Snd G l ax_Ym M_X1_state 8 (S_iald 0 9) := k_iald (en_F E) dX1_state_8
theorem r_X1_state_9 (E : ax_EN G l) : ax_Snd G l ax_Ym M_X1_state 9 (S_iret) := k_iret dX1_state_9 rfl
theorem mt_X1_state (E : ax_EN G l) : ax_mt G l ax_Ym (1, P_X1_state) (ax_Ym 215) := ⟨M_X1_state, yX1_state, ⟨rfl, by decide +kernel, rfl, (fun h => by cases h), Or.inl ⟨rfl, rfl⟩⟩, fun pc => (ax_sn_node (ax_sn_node (ax_sn_node (ax_sn_leaf (r_X1_state_9 E)) (ax_sn_leaf (r_X1_state_8 E))) (ax_sn_leaf (r_X1_state_7 E))) (ax_sn_node (ax_sn_node (ax_sn_leaf (r_X1_state_4 E)) (ax_sn_leaf (r_X1_state_1 E))) (ax_sn_leaf (r_X1_state_0 E))))⟩
theorem r_X1_fault_0 (E : ax_EN G l) : ax_Snd G l ax_Ym M_X1_fault 0 (S_aload 0 1) := k_aload_n dX1_fault_0 rfl
theorem r_X1_fault_1 (E : ax_EN G l) : ax_Snd G l ax_Ym M_X1_fault 1 (S_getf [(19, 1)] 4) := k_getf (en_F E) (ax_fes_cons (fe_142 E) ax_fes_nil) q323 dX1_fault_1
theorem r_X1_fault_4 (E : ax_EN G l) : ax_Snd G l ax_Ym M_X1_fault 4 (S_getf [(29, 0)] 7) := k_getfN (en_F E) (en_B E) (ax_fes_cons (fe_158 E) ax_fes_nil) q285 dX1_fault_4
theorem r_X1_fault_7 (E : ax_EN G l) : ax_Snd G l ax_Ym M_X1_fault 7 (S_push (.int (1)) 8) := k_iconst dX1_fault_7 rfl
theorem r_X1_fault_8 (E : ax_EN G l) : ax_Snd G l ax_Ym M_X1_fault 8 (S_iald 0 9) := k_iald (en_F E) dX1_fault_8
theorem r_X1_fault_9 (E : ax_EN G l) : ax_Snd G l ax_Ym M_X1_fault 9 (S_iret) := k_iret dX1_fault_9 rfl
theorem mt_X1_fault (E : ax_EN G l) : ax_mt G l ax_Ym (1, P_X1_fault) (ax_Ym 216) := ⟨M_X1_fault, yX1_fault, ⟨rfl, by decide +kernel, rfl, (fun h => by cases h), Or.inl ⟨rfl, rfl⟩⟩, fun pc => (ax_sn_node (ax_sn_node (ax_sn_node (ax_sn_leaf (r_X1_fault_9 E)) (ax_sn_leaf (r_X1_fault_8 E))) (ax_sn_leaf (r_X1_fault_7 E))) (ax_sn_node (ax_sn_node (ax_sn_leaf (r_X1_fault_4 E)) (ax_sn_leaf (r_X1_fault_1 E))) (ax_sn_leaf (r_X1_fault_0 E))))⟩
theorem r_X1_steps_0 (E : ax_EN G l) : ax_Snd G l ax_Ym M_X1_steps 0 (S_aload 0 1) := k_aload_n dX1_steps_0 rfl
theorem r_X1_steps_1 (E : ax_EN G l) : ax_Snd G l ax_Ym M_X1_steps 1 (S_getf [(19, 1)] 4) := k_getf (en_F E) (ax_fes_cons (fe_142 E) ax_fes_nil) q323 dX1_steps_1
theorem r_X1_steps_4 (E : ax_EN G l) : ax_Snd G l ax_Ym M_X1_steps 4 (S_getf [(29, 0)] 7) := k_getfN (en_F E) (en_B E) (ax_fes_cons (fe_158 E) ax_fes_nil) q285 dX1_steps_4
theorem r_X1_steps_7 (E : ax_EN G l) : ax_Snd G l ax_Ym M_X1_steps 7 (S_push (.int (2)) 8) := k_iconst dX1_steps_7 rfl
theorem r_X1_steps_8 (E : ax_EN G l) : ax_Snd G l ax_Ym M_X1_steps 8 (S_iald 0 9) := k_iald (en_F E) dX1_steps_8
theorem r_X1_steps_9 (E : ax_EN G l) : ax_Snd G l ax_Ym M_X1_steps 9 (S_iret) := k_iret dX1_steps_9 rfl
theorem mt_X1_steps (E : ax_EN G l) : ax_mt G l ax_Ym (1, P_X1_steps) (ax_Ym 217) := ⟨M_X1_steps, yX1_steps, ⟨rfl, by decide +kernel, rfl, (fun h => by cases h), Or.inl ⟨rfl, rfl⟩⟩, fun pc => (ax_sn_node (ax_sn_node (ax_sn_node (ax_sn_leaf (r_X1_steps_9 E)) (ax_sn_leaf (r_X1_steps_8 E))) (ax_sn_leaf (r_X1_steps_7 E))) (ax_sn_node (ax_sn_node (ax_sn_leaf (r_X1_steps_4 E)) (ax_sn_leaf (r_X1_steps_1 E))) (ax_sn_leaf (r_X1_steps_0 E))))⟩
theorem r_X1_kept_0 (E : ax_EN G l) : ax_Snd G l ax_Ym M_X1_kept 0 (S_aload 0 1) := k_aload_n dX1_kept_0 rfl
theorem r_X1_kept_1 (E : ax_EN G l) : ax_Snd G l ax_Ym M_X1_kept 1 (S_getf [(19, 1)] 4) := k_getf (en_F E) (ax_fes_cons (fe_142 E) ax_fes_nil) q323 dX1_kept_1
theorem r_X1_kept_4 (E : ax_EN G l) : ax_Snd G l ax_Ym M_X1_kept 4 (S_getf [(29, 2)] 7) := k_getfN (en_F E) (en_B E) (ax_fes_cons (fe_159 E) ax_fes_nil) q289 dX1_kept_4
theorem r_X1_kept_7 (E : ax_EN G l) : ax_Snd G l ax_Ym M_X1_kept 7 (S_iv [(16, 143)] 0 10 hd_0) := k_iv (en_F E) (ax_ok0 E rfl) (ax_Evs_cons ((ev_v (en_c E (k := 16) rfl) rfl y_J5_size q1208 q1209 q1210 q125 q1211 nm_J5_size (Nat.le_of_ble_eq_true rfl) dX1_kept_7) : ax_EvV G l ax_Ym M_X1_kept 7 0 3 16 143) ax_Evs_nil)
theorem r_X1_kept_10 (E : ax_EN G l) : ax_Snd G l ax_Ym M_X1_kept 10 (S_iret) := k_iret dX1_kept_10 rfl
theorem mt_X1_kept (E : ax_EN G l) : ax_mt G l ax_Ym (1, P_X1_kept) (ax_Ym 218) := ⟨M_X1_kept, yX1_kept, ⟨rfl, by decide +kernel, rfl, (fun h => by cases h), Or.inl ⟨rfl, rfl⟩⟩, fun pc => (ax_sn_node (ax_sn_node (ax_sn_node (ax_sn_leaf (r_X1_kept_10 E)) (ax_sn_leaf (r_X1_kept_7 E))) (ax_sn_leaf (r_X1_kept_4 E))) (ax_sn_node (ax_sn_leaf (r_X1_kept_1 E)) (ax_sn_leaf (r_X1_kept_0 E))))⟩
theorem r_X1_counter_0 (E : ax_EN G l) : ax_Snd G l ax_Ym M_X1_counter 0 (S_aload 0 1) := k_aload_n dX1_counter_0 rfl
theorem r_X1_counter_1 (E : ax_EN G l) : ax_Snd G l ax_Ym M_X1_counter 1 (S_getf [(19, 1)] 4) := k_getf (en_F E) (ax_fes_cons (fe_142 E) ax_fes_nil) q323 dX1_counter_1
theorem r_X1_counter_4 (E : ax_EN G l) : ax_Snd G l ax_Ym M_X1_counter 4 (S_getf [(29, 0)] 7) := k_getfN (en_F E) (en_B E) (ax_fes_cons (fe_158 E) ax_fes_nil) q285 dX1_counter_4
theorem r_X1_counter_7 (E : ax_EN G l) : ax_Snd G l ax_Ym M_X1_counter 7 (S_push (.int (3)) 8) := k_iconst dX1_counter_7 rfl
theorem r_X1_counter_8 (E : ax_EN G l) : ax_Snd G l ax_Ym M_X1_counter 8 (S_iald 0 9) := k_iald (en_F E) dX1_counter_8
theorem r_X1_counter_9 (E : ax_EN G l) : ax_Snd G l ax_Ym M_X1_counter 9 (S_iret) := k_iret dX1_counter_9 rfl
theorem mt_X1_counter (E : ax_EN G l) : ax_mt G l ax_Ym (1, P_X1_counter) (ax_Ym 219) := ⟨M_X1_counter, yX1_counter, ⟨rfl, by decide +kernel, rfl, (fun h => by cases h), Or.inl ⟨rfl, rfl⟩⟩, fun pc => (ax_sn_node (ax_sn_node (ax_sn_node (ax_sn_leaf (r_X1_counter_9 E)) (ax_sn_leaf (r_X1_counter_8 E))) (ax_sn_leaf (r_X1_counter_7 E))) (ax_sn_node (ax_sn_node (ax_sn_leaf (r_X1_counter_4 E)) (ax_sn_leaf (r_X1_counter_1 E))) (ax_sn_leaf (r_X1_counter_0 E))))⟩
theorem r_X1_stack_0 (E : ax_EN G l) : ax_Snd G l ax_Ym M_X1_stack 0 (S_aload 0 1) := k_aload_n dX1_stack_0 rfl
theorem r_X1_stack_1 (E : ax_EN G l) : ax_Snd G l ax_Ym M_X1_stack 1 (S_getf [(19, 1)] 4) := k_getf (en_F E) (ax_fes_cons (fe_142 E) ax_fes_nil) q323 dX1_stack_1
theorem r_X1_stack_4 (E : ax_EN G l) : ax_Snd G l ax_Ym M_X1_stack 4 (S_getf [(29, 0)] 7) := k_getfN (en_F E) (en_B E) (ax_fes_cons (fe_158 E) ax_fes_nil) q285 dX1_stack_4
theorem r_X1_stack_7 (E : ax_EN G l) : ax_Snd G l ax_Ym M_X1_stack 7 (S_push (.int (4)) 8) := k_iconst dX1_stack_7 rfl
theorem r_X1_stack_8 (E : ax_EN G l) : ax_Snd G l ax_Ym M_X1_stack 8 (S_iald 0 9) := k_iald (en_F E) dX1_stack_8
theorem r_X1_stack_9 (E : ax_EN G l) : ax_Snd G l ax_Ym M_X1_stack 9 (S_iret) := k_iret dX1_stack_9 rfl
theorem mt_X1_stack (E : ax_EN G l) : ax_mt G l ax_Ym (1, P_X1_stack) (ax_Ym 220) := ⟨M_X1_stack, yX1_stack, ⟨rfl, by decide +kernel, rfl, (fun h => by cases h), Or.inl ⟨rfl, rfl⟩⟩, fun pc => (ax_sn_node (ax_sn_node (ax_sn_node (ax_sn_leaf (r_X1_stack_9 E)) (ax_sn_leaf (r_X1_stack_8 E))) (ax_sn_leaf (r_X1_stack_7 E))) (ax_sn_node (ax_sn_node (ax_sn_leaf (r_X1_stack_4 E)) (ax_sn_leaf (r_X1_stack_1 E))) (ax_sn_leaf (r_X1_stack_0 E))))⟩
theorem r_X1_flags_0 (E : ax_EN G l) : ax_Snd G l ax_Ym M_X1_flags 0 (S_aload 0 1) := k_aload_n dX1_flags_0 rfl
theorem r_X1_flags_1 (E : ax_EN G l) : ax_Snd G l ax_Ym M_X1_flags 1 (S_getf [(19, 1)] 4) := k_getf (en_F E) (ax_fes_cons (fe_142 E) ax_fes_nil) q323 dX1_flags_1
theorem r_X1_flags_4 (E : ax_EN G l) : ax_Snd G l ax_Ym M_X1_flags 4 (S_iv [(29, 300)] 0 7 hd_0) := k_iv (en_F E) (ax_ok0 E rfl) (ax_Evs_cons ((ev_v (en_c E (k := 29) rfl) rfl y_X2_flags q1227 q1228 q1229 q122 q1230 nm_X2_flags (Nat.le_of_ble_eq_true rfl) dX1_flags_4) : ax_EvV G l ax_Ym M_X1_flags 4 0 3 29 300) ax_Evs_nil)
theorem r_X1_flags_7 (E : ax_EN G l) : ax_Snd G l ax_Ym M_X1_flags 7 (S_iret) := k_iret dX1_flags_7 rfl
theorem mt_X1_flags (E : ax_EN G l) : ax_mt G l ax_Ym (1, P_X1_flags) (ax_Ym 221) := ⟨M_X1_flags, yX1_flags, ⟨rfl, by decide +kernel, rfl, (fun h => by cases h), Or.inl ⟨rfl, rfl⟩⟩, fun pc => (ax_sn_node (ax_sn_node (ax_sn_leaf (r_X1_flags_7 E)) (ax_sn_leaf (r_X1_flags_4 E))) (ax_sn_node (ax_sn_leaf (r_X1_flags_1 E)) (ax_sn_leaf (r_X1_flags_0 E))))⟩
theorem r_X1_writesLeft_0 (E : ax_EN G l) : ax_Snd G l ax_Ym M_X1_writesLeft 0 (S_aload 0 1) := k_aload_n dX1_writesLeft_0 rfl
theorem r_X1_writesLeft_1 (E : ax_EN G l) : ax_Snd G l ax_Ym M_X1_writesLeft 1 (S_getf [(19, 1)] 4) := k_getf (en_F E) (ax_fes_cons (fe_142 E) ax_fes_nil) q323 dX1_writesLeft_1
theorem r_X1_writesLeft_4 (E : ax_EN G l) : ax_Snd G l ax_Ym M_X1_writesLeft 4 (S_iv [(29, 301)] 0 7 hd_0) := k_iv (en_F E) (ax_ok0 E rfl) (ax_Evs_cons ((ev_v (en_c E (k := 29) rfl) rfl y_X2_writesLeft q1235 q1236 q1237 q122 q1238 nm_X2_writesLeft (Nat.le_of_ble_eq_true rfl) dX1_writesLeft_4) : ax_EvV G l ax_Ym M_X1_writesLeft 4 0 3 29 301) ax_Evs_nil)
theorem r_X1_writesLeft_7 (E : ax_EN G l) : ax_Snd G l ax_Ym M_X1_writesLeft 7 (S_iret) := k_iret dX1_writesLeft_7 rfl
theorem mt_X1_writesLeft (E : ax_EN G l) : ax_mt G l ax_Ym (1, P_X1_writesLeft) (ax_Ym 222) := ⟨M_X1_writesLeft, yX1_writesLeft, ⟨rfl, by decide +kernel, rfl, (fun h => by cases h), Or.inl ⟨rfl, rfl⟩⟩, fun pc => (ax_sn_node (ax_sn_node (ax_sn_leaf (r_X1_writesLeft_7 E)) (ax_sn_leaf (r_X1_writesLeft_4 E))) (ax_sn_node (ax_sn_leaf (r_X1_writesLeft_1 E)) (ax_sn_leaf (r_X1_writesLeft_0 E))))⟩
theorem r_X1_tape_0 (E : ax_EN G l) : ax_Snd G l ax_Ym M_X1_tape 0 (S_aload 0 1) := k_aload_n dX1_tape_0 rfl
theorem r_X1_tape_1 (E : ax_EN G l) : ax_Snd G l ax_Ym M_X1_tape 1 (S_getf [(19, 1)] 4) := k_getf (en_F E) (ax_fes_cons (fe_142 E) ax_fes_nil) q323 dX1_tape_1
theorem r_X1_tape_4 (E : ax_EN G l) : ax_Snd G l ax_Ym M_X1_tape 4 (S_getf [(29, 0)] 7) := k_getfN (en_F E) (en_B E) (ax_fes_cons (fe_158 E) ax_fes_nil) q285 dX1_tape_4
theorem r_X1_tape_7 (E : ax_EN G l) : ax_Snd G l ax_Ym M_X1_tape 7 (S_push (.int (17)) 9) := k_bipush dX1_tape_7 rfl
theorem r_X1_tape_9 (E : ax_EN G l) : ax_Snd G l ax_Ym M_X1_tape 9 (S_iald 0 10) := k_iald (en_F E) dX1_tape_9
theorem r_X1_tape_10 (E : ax_EN G l) : ax_Snd G l ax_Ym M_X1_tape 10 (S_iret) := k_iret dX1_tape_10 rfl
theorem mt_X1_tape (E : ax_EN G l) : ax_mt G l ax_Ym (1, P_X1_tape) (ax_Ym 223) := ⟨M_X1_tape, yX1_tape, ⟨rfl, by decide +kernel, rfl, (fun h => by cases h), Or.inl ⟨rfl, rfl⟩⟩, fun pc => (ax_sn_node (ax_sn_node (ax_sn_node (ax_sn_leaf (r_X1_tape_10 E)) (ax_sn_leaf (r_X1_tape_9 E))) (ax_sn_leaf (r_X1_tape_7 E))) (ax_sn_node (ax_sn_node (ax_sn_leaf (r_X1_tape_4 E)) (ax_sn_leaf (r_X1_tape_1 E))) (ax_sn_leaf (r_X1_tape_0 E))))⟩
theorem r_X1_sum_0 (E : ax_EN G l) : ax_Snd G l ax_Ym M_X1_sum 0 (S_aload 0 1) := k_aload_n dX1_sum_0 rfl
theorem r_X1_sum_1 (E : ax_EN G l) : ax_Snd G l ax_Ym M_X1_sum 1 (S_getf [(19, 1)] 4) := k_getf (en_F E) (ax_fes_cons (fe_142 E) ax_fes_nil) q323 dX1_sum_1
theorem r_X1_sum_4 (E : ax_EN G l) : ax_Snd G l ax_Ym M_X1_sum 4 (S_iv [(29, 302)] 0 7 hd_0) := k_iv (en_F E) (ax_ok0 E rfl) (ax_Evs_cons ((ev_v (en_c E (k := 29) rfl) rfl y_X2_sum q1247 q1248 q1249 q122 q1250 nm_X2_sum (Nat.le_of_ble_eq_true rfl) dX1_sum_4) : ax_EvV G l ax_Ym M_X1_sum 4 0 3 29 302) ax_Evs_nil)
theorem r_X1_sum_7 (E : ax_EN G l) : ax_Snd G l ax_Ym M_X1_sum 7 (S_iret) := k_iret dX1_sum_7 rfl
theorem mt_X1_sum (E : ax_EN G l) : ax_mt G l ax_Ym (1, P_X1_sum) (ax_Ym 224) := ⟨M_X1_sum, yX1_sum, ⟨rfl, by decide +kernel, rfl, (fun h => by cases h), Or.inl ⟨rfl, rfl⟩⟩, fun pc => (ax_sn_node (ax_sn_node (ax_sn_leaf (r_X1_sum_7 E)) (ax_sn_leaf (r_X1_sum_4 E))) (ax_sn_node (ax_sn_leaf (r_X1_sum_1 E)) (ax_sn_leaf (r_X1_sum_0 E))))⟩
theorem r_X1_written_0 (E : ax_EN G l) : ax_Snd G l ax_Ym M_X1_written 0 (S_aload 0 1) := k_aload_n dX1_written_0 rfl
theorem r_X1_written_1 (E : ax_EN G l) : ax_Snd G l ax_Ym M_X1_written 1 (S_getf [(19, 1)] 4) := k_getf (en_F E) (ax_fes_cons (fe_142 E) ax_fes_nil) q323 dX1_written_1
theorem r_X1_written_4 (E : ax_EN G l) : ax_Snd G l ax_Ym M_X1_written 4 (S_getf [(29, 0)] 7) := k_getfN (en_F E) (en_B E) (ax_fes_cons (fe_158 E) ax_fes_nil) q285 dX1_written_4
theorem r_X1_written_7 (E : ax_EN G l) : ax_Snd G l ax_Ym M_X1_written 7 (S_push (.int (364)) 10) := k_sipush dX1_written_7 rfl
theorem r_X1_written_10 (E : ax_EN G l) : ax_Snd G l ax_Ym M_X1_written 10 (S_iald 0 11) := k_iald (en_F E) dX1_written_10
theorem r_X1_written_11 (E : ax_EN G l) : ax_Snd G l ax_Ym M_X1_written 11 (S_iret) := k_iret dX1_written_11 rfl
theorem mt_X1_written (E : ax_EN G l) : ax_mt G l ax_Ym (1, P_X1_written) (ax_Ym 225) := ⟨M_X1_written, yX1_written, ⟨rfl, by decide +kernel, rfl, (fun h => by cases h), Or.inl ⟨rfl, rfl⟩⟩, fun pc => (ax_sn_node (ax_sn_node (ax_sn_node (ax_sn_leaf (r_X1_written_11 E)) (ax_sn_leaf (r_X1_written_10 E))) (ax_sn_leaf (r_X1_written_7 E))) (ax_sn_node (ax_sn_node (ax_sn_leaf (r_X1_written_4 E)) (ax_sn_leaf (r_X1_written_1 E))) (ax_sn_leaf (r_X1_written_0 E))))⟩
theorem r_X1_files_0 (E : ax_EN G l) : ax_Snd G l ax_Ym M_X1_files 0 (S_push (.int (0)) 1) := k_iconst dX1_files_0 rfl
theorem r_X1_files_1 (E : ax_EN G l) : ax_Snd G l ax_Ym M_X1_files 1 (S_istore 1 2) := k_istore_n dX1_files_1 rfl (Nat.le_of_ble_eq_true rfl)
theorem r_X1_files_2 (E : ax_EN G l) : ax_Snd G l ax_Ym M_X1_files 2 (S_push (.int (0)) 3) := k_iconst dX1_files_2 rfl
theorem r_X1_files_3 (E : ax_EN G l) : ax_Snd G l ax_Ym M_X1_files 3 (S_istore 2 4) := k_istore_n dX1_files_3 rfl (Nat.le_of_ble_eq_true rfl)
theorem r_X1_files_4 (E : ax_EN G l) : ax_Snd G l ax_Ym M_X1_files 4 (S_iload 2 5) := k_iload_n dX1_files_4 rfl
theorem r_X1_files_5 (E : ax_EN G l) : ax_Snd G l ax_Ym M_X1_files 5 (S_push (.int (6)) 7) := k_bipush dX1_files_5 rfl
theorem r_X1_files_7 (E : ax_EN G l) : ax_Snd G l ax_Ym M_X1_files 7 (S_if2 (fun x y => decide (y ≤ x)) 36 10) := k_icmp_ge dX1_files_7 rfl
theorem r_X1_files_10 (E : ax_EN G l) : ax_Snd G l ax_Ym M_X1_files 10 (S_iload 1 11) := k_iload_n dX1_files_10 rfl
theorem r_X1_files_11 (E : ax_EN G l) : ax_Snd G l ax_Ym M_X1_files 11 (S_aload 0 12) := k_aload_n dX1_files_11 rfl
theorem r_X1_files_12 (E : ax_EN G l) : ax_Snd G l ax_Ym M_X1_files 12 (S_getf [(19, 1)] 15) := k_getf (en_F E) (ax_fes_cons (fe_142 E) ax_fes_nil) q323 dX1_files_12
theorem r_X1_files_15 (E : ax_EN G l) : ax_Snd G l ax_Ym M_X1_files 15 (S_iload 2 16) := k_iload_n dX1_files_15 rfl
theorem r_X1_files_16 (E : ax_EN G l) : ax_Snd G l ax_Ym M_X1_files 16 (S_push (.int (0)) 17) := k_iconst dX1_files_16 rfl
theorem r_X1_files_17 (E : ax_EN G l) : ax_Snd G l ax_Ym M_X1_files 17 (S_iv [(29, 305)] 2 20 hd_0) := k_iv (en_F E) (ax_ok0 E rfl) (ax_Evs_cons ((ev_vN (en_B E) (en_c E (k := 29) rfl) y_X2_entry q1269 q1271 qs11 q122 q1272 nm_X2_entry (Nat.le_of_ble_eq_true rfl) dX1_files_17) : ax_EvV G l ax_Ym M_X1_files 17 2 3 29 305) ax_Evs_nil)
theorem r_X1_files_20 (E : ax_EN G l) : ax_Snd G l ax_Ym M_X1_files 20 (S_if1 (fun x => decide (¬ x = 0)) 27 23) := k_if_ne dX1_files_20 rfl
theorem r_X1_files_23 (E : ax_EN G l) : ax_Snd G l ax_Ym M_X1_files 23 (S_push (.int (0)) 24) := k_iconst dX1_files_23 rfl
theorem r_X1_files_24 (E : ax_EN G l) : ax_Snd G l ax_Ym M_X1_files 24 (S_goto 28) := k_goto dX1_files_24 rfl
theorem r_X1_files_27 (E : ax_EN G l) : ax_Snd G l ax_Ym M_X1_files 27 (S_push (.int (1)) 28) := k_iconst dX1_files_27 rfl
theorem r_X1_files_28 (E : ax_EN G l) : ax_Snd G l ax_Ym M_X1_files 28 (S_i2 (fun x y => x + y) 29) := k_iadd dX1_files_28
theorem r_X1_files_29 (E : ax_EN G l) : ax_Snd G l ax_Ym M_X1_files 29 (S_istore 1 30) := k_istore_n dX1_files_29 rfl (Nat.le_of_ble_eq_true rfl)
theorem r_X1_files_30 (E : ax_EN G l) : ax_Snd G l ax_Ym M_X1_files 30 (S_iinc 2 (1) 33) := k_iinc dX1_files_30 rfl (Nat.le_of_ble_eq_true rfl)
theorem r_X1_files_33 (E : ax_EN G l) : ax_Snd G l ax_Ym M_X1_files 33 (S_goto 4) := k_goto dX1_files_33 rfl
theorem r_X1_files_36 (E : ax_EN G l) : ax_Snd G l ax_Ym M_X1_files 36 (S_iload 1 37) := k_iload_n dX1_files_36 rfl
theorem r_X1_files_37 (E : ax_EN G l) : ax_Snd G l ax_Ym M_X1_files 37 (S_iret) := k_iret dX1_files_37 rfl
theorem mt_X1_files (E : ax_EN G l) : ax_mt G l ax_Ym (3, P_X1_files) (ax_Ym 226) := ⟨M_X1_files, yX1_files, ⟨rfl, by decide +kernel, rfl, (fun h => by cases h), Or.inl ⟨rfl, rfl⟩⟩, fun pc => (ax_sn_node (ax_sn_node (ax_sn_node (ax_sn_node (ax_sn_node (ax_sn_leaf (r_X1_files_37 E)) (ax_sn_leaf (r_X1_files_36 E))) (ax_sn_leaf (r_X1_files_33 E))) (ax_sn_node (ax_sn_node (ax_sn_leaf (r_X1_files_30 E)) (ax_sn_leaf (r_X1_files_29 E))) (ax_sn_leaf (r_X1_files_28 E)))) (ax_sn_node (ax_sn_node (ax_sn_node (ax_sn_leaf (r_X1_files_27 E)) (ax_sn_leaf (r_X1_files_24 E))) (ax_sn_leaf (r_X1_files_23 E))) (ax_sn_node (ax_sn_node (ax_sn_leaf (r_X1_files_20 E)) (ax_sn_leaf (r_X1_files_17 E))) (ax_sn_leaf (r_X1_files_16 E))))) (ax_sn_node (ax_sn_node (ax_sn_node (ax_sn_node (ax_sn_leaf (r_X1_files_15 E)) (ax_sn_leaf (r_X1_files_12 E))) (ax_sn_leaf (r_X1_files_11 E))) (ax_sn_node (ax_sn_node (ax_sn_leaf (r_X1_files_10 E)) (ax_sn_leaf (r_X1_files_7 E))) (ax_sn_leaf (r_X1_files_5 E)))) (ax_sn_node (ax_sn_node (ax_sn_node (ax_sn_leaf (r_X1_files_4 E)) (ax_sn_leaf (r_X1_files_3 E))) (ax_sn_leaf (r_X1_files_2 E))) (ax_sn_node (ax_sn_leaf (r_X1_files_1 E)) (ax_sn_leaf (r_X1_files_0 E))))))⟩
theorem r_X1_freeBlocks_0 (E : ax_EN G l) : ax_Snd G l ax_Ym M_X1_freeBlocks 0 (S_push (.int (0)) 1) := k_iconst dX1_freeBlocks_0 rfl
theorem r_X1_freeBlocks_1 (E : ax_EN G l) : ax_Snd G l ax_Ym M_X1_freeBlocks 1 (S_istore 1 2) := k_istore_n dX1_freeBlocks_1 rfl (Nat.le_of_ble_eq_true rfl)
theorem r_X1_freeBlocks_2 (E : ax_EN G l) : ax_Snd G l ax_Ym M_X1_freeBlocks 2 (S_push (.int (8)) 4) := k_bipush dX1_freeBlocks_2 rfl
theorem r_X1_freeBlocks_4 (E : ax_EN G l) : ax_Snd G l ax_Ym M_X1_freeBlocks 4 (S_istore 2 5) := k_istore_n dX1_freeBlocks_4 rfl (Nat.le_of_ble_eq_true rfl)
theorem r_X1_freeBlocks_5 (E : ax_EN G l) : ax_Snd G l ax_Ym M_X1_freeBlocks 5 (S_iload 2 6) := k_iload_n dX1_freeBlocks_5 rfl
theorem r_X1_freeBlocks_6 (E : ax_EN G l) : ax_Snd G l ax_Ym M_X1_freeBlocks 6 (S_push (.int (32)) 8) := k_bipush dX1_freeBlocks_6 rfl
theorem r_X1_freeBlocks_8 (E : ax_EN G l) : ax_Snd G l ax_Ym M_X1_freeBlocks 8 (S_if2 (fun x y => decide (y ≤ x)) 36 11) := k_icmp_ge dX1_freeBlocks_8 rfl
theorem r_X1_freeBlocks_11 (E : ax_EN G l) : ax_Snd G l ax_Ym M_X1_freeBlocks 11 (S_iload 1 12) := k_iload_n dX1_freeBlocks_11 rfl
theorem r_X1_freeBlocks_12 (E : ax_EN G l) : ax_Snd G l ax_Ym M_X1_freeBlocks 12 (S_aload 0 13) := k_aload_n dX1_freeBlocks_12 rfl
theorem r_X1_freeBlocks_13 (E : ax_EN G l) : ax_Snd G l ax_Ym M_X1_freeBlocks 13 (S_getf [(19, 1)] 16) := k_getf (en_F E) (ax_fes_cons (fe_142 E) ax_fes_nil) q323 dX1_freeBlocks_13
theorem r_X1_freeBlocks_16 (E : ax_EN G l) : ax_Snd G l ax_Ym M_X1_freeBlocks 16 (S_iload 2 17) := k_iload_n dX1_freeBlocks_16 rfl
theorem r_X1_freeBlocks_17 (E : ax_EN G l) : ax_Snd G l ax_Ym M_X1_freeBlocks 17 (S_iv [(29, 306)] 1 20 hd_0) := k_iv (en_F E) (ax_ok0 E rfl) (ax_Evs_cons ((ev_vN (en_B E) (en_c E (k := 29) rfl) y_X2_isUsed q1277 q1279 qs12 q122 q1280 nm_X2_isUsed (Nat.le_of_ble_eq_true rfl) dX1_freeBlocks_17) : ax_EvV G l ax_Ym M_X1_freeBlocks 17 1 3 29 306) ax_Evs_nil)
theorem r_X1_freeBlocks_20 (E : ax_EN G l) : ax_Snd G l ax_Ym M_X1_freeBlocks 20 (S_if1 (fun x => decide (x = 0)) 27 23) := k_if_eq dX1_freeBlocks_20 rfl
theorem r_X1_freeBlocks_23 (E : ax_EN G l) : ax_Snd G l ax_Ym M_X1_freeBlocks 23 (S_push (.int (0)) 24) := k_iconst dX1_freeBlocks_23 rfl
theorem r_X1_freeBlocks_24 (E : ax_EN G l) : ax_Snd G l ax_Ym M_X1_freeBlocks 24 (S_goto 28) := k_goto dX1_freeBlocks_24 rfl
theorem r_X1_freeBlocks_27 (E : ax_EN G l) : ax_Snd G l ax_Ym M_X1_freeBlocks 27 (S_push (.int (1)) 28) := k_iconst dX1_freeBlocks_27 rfl
theorem r_X1_freeBlocks_28 (E : ax_EN G l) : ax_Snd G l ax_Ym M_X1_freeBlocks 28 (S_i2 (fun x y => x + y) 29) := k_iadd dX1_freeBlocks_28
theorem r_X1_freeBlocks_29 (E : ax_EN G l) : ax_Snd G l ax_Ym M_X1_freeBlocks 29 (S_istore 1 30) := k_istore_n dX1_freeBlocks_29 rfl (Nat.le_of_ble_eq_true rfl)
theorem r_X1_freeBlocks_30 (E : ax_EN G l) : ax_Snd G l ax_Ym M_X1_freeBlocks 30 (S_iinc 2 (1) 33) := k_iinc dX1_freeBlocks_30 rfl (Nat.le_of_ble_eq_true rfl)
theorem r_X1_freeBlocks_33 (E : ax_EN G l) : ax_Snd G l ax_Ym M_X1_freeBlocks 33 (S_goto 5) := k_goto dX1_freeBlocks_33 rfl
theorem r_X1_freeBlocks_36 (E : ax_EN G l) : ax_Snd G l ax_Ym M_X1_freeBlocks 36 (S_iload 1 37) := k_iload_n dX1_freeBlocks_36 rfl
theorem r_X1_freeBlocks_37 (E : ax_EN G l) : ax_Snd G l ax_Ym M_X1_freeBlocks 37 (S_iret) := k_iret dX1_freeBlocks_37 rfl
theorem mt_X1_freeBlocks (E : ax_EN G l) : ax_mt G l ax_Ym (3, P_X1_freeBlocks) (ax_Ym 227) := ⟨M_X1_freeBlocks, yX1_freeBlocks, ⟨rfl, by decide +kernel, rfl, (fun h => by cases h), Or.inl ⟨rfl, rfl⟩⟩, fun pc => (ax_sn_node (ax_sn_node (ax_sn_node (ax_sn_node (ax_sn_node (ax_sn_leaf (r_X1_freeBlocks_37 E)) (ax_sn_leaf (r_X1_freeBlocks_36 E))) (ax_sn_leaf (r_X1_freeBlocks_33 E))) (ax_sn_node (ax_sn_node (ax_sn_leaf (r_X1_freeBlocks_30 E)) (ax_sn_leaf (r_X1_freeBlocks_29 E))) (ax_sn_leaf (r_X1_freeBlocks_28 E)))) (ax_sn_node (ax_sn_node (ax_sn_node (ax_sn_leaf (r_X1_freeBlocks_27 E)) (ax_sn_leaf (r_X1_freeBlocks_24 E))) (ax_sn_leaf (r_X1_freeBlocks_23 E))) (ax_sn_node (ax_sn_leaf (r_X1_freeBlocks_20 E)) (ax_sn_leaf (r_X1_freeBlocks_17 E))))) (ax_sn_node (ax_sn_node (ax_sn_node (ax_sn_node (ax_sn_leaf (r_X1_freeBlocks_16 E)) (ax_sn_leaf (r_X1_freeBlocks_13 E))) (ax_sn_leaf (r_X1_freeBlocks_12 E))) (ax_sn_node (ax_sn_node (ax_sn_leaf (r_X1_freeBlocks_11 E)) (ax_sn_leaf (r_X1_freeBlocks_8 E))) (ax_sn_leaf (r_X1_freeBlocks_6 E)))) (ax_sn_node (ax_sn_node (ax_sn_node (ax_sn_leaf (r_X1_freeBlocks_5 E)) (ax_sn_leaf (r_X1_freeBlocks_4 E))) (ax_sn_leaf (r_X1_freeBlocks_2 E))) (ax_sn_node (ax_sn_leaf (r_X1_freeBlocks_1 E)) (ax_sn_leaf (r_X1_freeBlocks_0 E))))))⟩
theorem r_X1_isWhole_0 (E : ax_EN G l) : ax_Snd G l ax_Ym M_X1_isWhole 0 (S_aload 0 1) := k_aload_n dX1_isWhole_0 rfl
theorem r_X1_isWhole_1 (E : ax_EN G l) : ax_Snd G l ax_Ym M_X1_isWhole 1 (S_getf [(19, 1)] 4) := k_getf (en_F E) (ax_fes_cons (fe_142 E) ax_fes_nil) q323 dX1_isWhole_1
theorem r_X1_isWhole_4 (E : ax_EN G l) : ax_Snd G l ax_Ym M_X1_isWhole 4 (S_iv [(29, 307)] 0 7 hd_0) := k_iv (en_F E) (ax_ok0 E rfl) (ax_Evs_cons ((ev_v (en_c E (k := 29) rfl) rfl y_X2_isWhole q1285 q1286 q1287 q122 q1288 nm_X2_isWhole (Nat.le_of_ble_eq_true rfl) dX1_isWhole_4) : ax_EvV G l ax_Ym M_X1_isWhole 4 0 3 29 307) ax_Evs_nil)
theorem r_X1_isWhole_7 (E : ax_EN G l) : ax_Snd G l ax_Ym M_X1_isWhole 7 (S_zret) := k_zret dX1_isWhole_7 rfl
theorem mt_X1_isWhole (E : ax_EN G l) : ax_mt G l ax_Ym (1, P_X1_isWhole) (ax_Ym 228) := ⟨M_X1_isWhole, yX1_isWhole, ⟨rfl, by decide +kernel, rfl, (fun h => by cases h), Or.inl ⟨rfl, rfl⟩⟩, fun pc => (ax_sn_node (ax_sn_node (ax_sn_leaf (r_X1_isWhole_7 E)) (ax_sn_leaf (r_X1_isWhole_4 E))) (ax_sn_node (ax_sn_leaf (r_X1_isWhole_1 E)) (ax_sn_leaf (r_X1_isWhole_0 E))))⟩
theorem r_X1_tests_0 (E : ax_EN G l) : ax_Snd G l ax_Ym M_X1_tests 0 (S_aload 0 1) := k_aload_n dX1_tests_0 rfl
theorem r_X1_tests_1 (E : ax_EN G l) : ax_Snd G l ax_Ym M_X1_tests 1 (S_getf [(19, 2)] 4) := k_getf (en_F E) (ax_fes_cons (fe_144 E) ax_fes_nil) q324 dX1_tests_1
theorem r_X1_tests_4 (E : ax_EN G l) : ax_Snd G l ax_Ym M_X1_tests 4 (S_iv [(4, 59)] 0 9 hd_0) := k_iv (en_F E) (ax_ok0 E rfl) (ax_Evs_cons ((ev_f (en_F E) (en_B E) (en_c E (k := 4) rfl) y_J2_size q346 q352 q350 q121 q354 q348 q347 q353 q351 q349 xn_151 (Nat.le_of_ble_eq_true rfl) dX1_tests_4) : ax_EvV G l ax_Ym M_X1_tests 4 0 5 4 59) ax_Evs_nil)
theorem r_X1_tests_9 (E : ax_EN G l) : ax_Snd G l ax_Ym M_X1_tests 9 (S_iret) := k_iret dX1_tests_9 rfl
theorem mt_X1_tests (E : ax_EN G l) : ax_mt G l ax_Ym (1, P_X1_tests) (ax_Ym 229) := ⟨M_X1_tests, yX1_tests, ⟨rfl, by decide +kernel, rfl, (fun h => by cases h), Or.inl ⟨rfl, rfl⟩⟩, fun pc => (ax_sn_node (ax_sn_node (ax_sn_leaf (r_X1_tests_9 E)) (ax_sn_leaf (r_X1_tests_4 E))) (ax_sn_node (ax_sn_leaf (r_X1_tests_1 E)) (ax_sn_leaf (r_X1_tests_0 E))))⟩
theorem r_X1_mark_0 (E : ax_EN G l) : ax_Snd G l ax_Ym M_X1_mark 0 (S_push (.int (0)) 1) := k_iconst dX1_mark_0 rfl
theorem r_X1_mark_1 (E : ax_EN G l) : ax_Snd G l ax_Ym M_X1_mark 1 (S_istore 1 2) := k_istore_n dX1_mark_1 rfl (Nat.le_of_ble_eq_true rfl)
theorem r_X1_mark_2 (E : ax_EN G l) : ax_Snd G l ax_Ym M_X1_mark 2 (S_aload 0 3) := k_aload_n dX1_mark_2 rfl
theorem r_X1_mark_3 (E : ax_EN G l) : ax_Snd G l ax_Ym M_X1_mark 3 (S_getf [(19, 2)] 6) := k_getf (en_F E) (ax_fes_cons (fe_144 E) ax_fes_nil) q324 dX1_mark_3
theorem r_X1_mark_6 (E : ax_EN G l) : ax_Snd G l ax_Ym M_X1_mark 6 (S_iv [(4, 67)] 0 11 hd_0) := k_iv (en_F E) (ax_ok0 E rfl) (ax_Evs_cons ((ev_f (en_F E) (en_B E) (en_c E (k := 4) rfl) y_J2_iterator q1379 q1384 q1382 q121 q1386 q1381 q1380 q1385 q1383 q349 xn_160 (Nat.le_of_ble_eq_true rfl) dX1_mark_6) : ax_EvV G l ax_Ym M_X1_mark 6 0 5 4 67) ax_Evs_nil)
theorem r_X1_mark_11 (E : ax_EN G l) : ax_Snd G l ax_Ym M_X1_mark 11 (S_astore 2 12) := k_astore_n dX1_mark_11 rfl (Nat.le_of_ble_eq_true rfl)
theorem r_X1_mark_12 (E : ax_EN G l) : ax_Snd G l ax_Ym M_X1_mark 12 (S_aload 2 13) := k_aload_n dX1_mark_12 rfl
theorem r_X1_mark_13 (E : ax_EN G l) : ax_Snd G l ax_Ym M_X1_mark 13 (S_iv [(10, 92), (13, 110)] 0 18 hd_0) := k_iv (en_F E) (ax_ok0 E rfl) (ax_Evs_cons ((ev_f (en_F E) (en_B E) (en_c E (k := 10) rfl) y_J28_hasNext q1496 q1513 q1511 q173 q1515 q1498 q1497 q1514 q1512 q1510 xn_161 (Nat.le_of_ble_eq_true rfl) dX1_mark_13) : ax_EvV G l ax_Ym M_X1_mark 13 0 5 10 92) (ax_Evs_cons ((ev_f (en_F E) (en_B E) (en_c E (k := 13) rfl) y_J32_hasNext q1496 q1519 q1517 q179 q1521 q1498 q1497 q1520 q1518 q1516 xn_161 (Nat.le_of_ble_eq_true rfl) dX1_mark_13) : ax_EvV G l ax_Ym M_X1_mark 13 0 5 13 110) ax_Evs_nil))
theorem r_X1_mark_18 (E : ax_EN G l) : ax_Snd G l ax_Ym M_X1_mark 18 (S_if1 (fun x => decide (x = 0)) 41 21) := k_if_eq dX1_mark_18 rfl
theorem r_X1_mark_21 (E : ax_EN G l) : ax_Snd G l ax_Ym M_X1_mark 21 (S_aload 2 22) := k_aload_n dX1_mark_21 rfl
theorem r_X1_mark_22 (E : ax_EN G l) : ax_Snd G l ax_Ym M_X1_mark 22 (S_iv [(10, 94), (13, 111)] 0 27 hd_0) := k_iv (en_F E) (ax_ok0 E rfl) (ax_Evs_cons ((ev_f (en_F E) (en_B E) (en_c E (k := 10) rfl) y_J29_next q1532 q1626 q1624 q174 q1628 q1534 q1533 q1627 q1625 q1510 xn_162 (Nat.le_of_ble_eq_true rfl) dX1_mark_22) : ax_EvV G l ax_Ym M_X1_mark 22 0 5 10 94) (ax_Evs_cons ((ev_f (en_F E) (en_B E) (en_c E (k := 13) rfl) y_J32_next q1532 q1648 q1646 q179 q1650 q1534 q1533 q1649 q1647 q1516 xn_162 (Nat.le_of_ble_eq_true rfl) dX1_mark_22) : ax_EvV G l ax_Ym M_X1_mark 22 0 5 13 111) ax_Evs_nil))
theorem r_X1_mark_27 (E : ax_EN G l) : ax_Snd G l ax_Ym M_X1_mark 27 (S_cast [37] 30) := k_cast (en_F E) (en_B E) (cs_163 E) q1673 dX1_mark_27
theorem r_X1_mark_30 (E : ax_EN G l) : ax_Snd G l ax_Ym M_X1_mark 30 (S_astore 3 31) := k_astore_n dX1_mark_30 rfl (Nat.le_of_ble_eq_true rfl)
theorem r_X1_mark_31 (E : ax_EN G l) : ax_Snd G l ax_Ym M_X1_mark 31 (S_iload 1 32) := k_iload_n dX1_mark_31 rfl
theorem r_X1_mark_32 (E : ax_EN G l) : ax_Snd G l ax_Ym M_X1_mark 32 (S_aload 3 33) := k_aload_n dX1_mark_32 rfl
theorem r_X1_mark_33 (E : ax_EN G l) : ax_Snd G l ax_Ym M_X1_mark 33 (S_iv [(37, 366)] 0 36 hd_0) := k_iv (en_F E) (ax_ok0 E rfl) (ax_Evs_cons ((ev_v (en_c E (k := 37) rfl) rfl y_X27_worth q1674 q1675 q1676 q178 q1677 nm_X27_worth (Nat.le_of_ble_eq_true rfl) dX1_mark_33) : ax_EvV G l ax_Ym M_X1_mark 33 0 3 37 366) ax_Evs_nil)
theorem r_X1_mark_36 (E : ax_EN G l) : ax_Snd G l ax_Ym M_X1_mark 36 (S_i2 (fun x y => x + y) 37) := k_iadd dX1_mark_36
theorem r_X1_mark_37 (E : ax_EN G l) : ax_Snd G l ax_Ym M_X1_mark 37 (S_istore 1 38) := k_istore_n dX1_mark_37 rfl (Nat.le_of_ble_eq_true rfl)
theorem r_X1_mark_38 (E : ax_EN G l) : ax_Snd G l ax_Ym M_X1_mark 38 (S_goto 12) := k_goto dX1_mark_38 rfl
theorem r_X1_mark_41 (E : ax_EN G l) : ax_Snd G l ax_Ym M_X1_mark 41 (S_push (.int (0)) 42) := k_iconst dX1_mark_41 rfl
theorem r_X1_mark_42 (E : ax_EN G l) : ax_Snd G l ax_Ym M_X1_mark 42 (S_iload 1 43) := k_iload_n dX1_mark_42 rfl
theorem r_X1_mark_43 (E : ax_EN G l) : ax_Snd G l ax_Ym M_X1_mark 43 (S_max 46) := k_max q1678 q581 q135 w_max dX1_mark_43
theorem r_X1_mark_46 (E : ax_EN G l) : ax_Snd G l ax_Ym M_X1_mark 46 (S_iret) := k_iret dX1_mark_46 rfl
theorem mt_X1_mark (E : ax_EN G l) : ax_mt G l ax_Ym (4, P_X1_mark) (ax_Ym 230) := ⟨M_X1_mark, yX1_mark, ⟨rfl, by decide +kernel, rfl, (fun h => by cases h), Or.inl ⟨rfl, rfl⟩⟩, fun pc => (ax_sn_node (ax_sn_node (ax_sn_node (ax_sn_node (ax_sn_node (ax_sn_leaf (r_X1_mark_46 E)) (ax_sn_leaf (r_X1_mark_43 E))) (ax_sn_leaf (r_X1_mark_42 E))) (ax_sn_node (ax_sn_node (ax_sn_leaf (r_X1_mark_41 E)) (ax_sn_leaf (r_X1_mark_38 E))) (ax_sn_leaf (r_X1_mark_37 E)))) (ax_sn_node (ax_sn_node (ax_sn_node (ax_sn_leaf (r_X1_mark_36 E)) (ax_sn_leaf (r_X1_mark_33 E))) (ax_sn_leaf (r_X1_mark_32 E))) (ax_sn_node (ax_sn_node (ax_sn_leaf (r_X1_mark_31 E)) (ax_sn_leaf (r_X1_mark_30 E))) (ax_sn_leaf (r_X1_mark_27 E))))) (ax_sn_node (ax_sn_node (ax_sn_node (ax_sn_node (ax_sn_leaf (r_X1_mark_22 E)) (ax_sn_leaf (r_X1_mark_21 E))) (ax_sn_leaf (r_X1_mark_18 E))) (ax_sn_node (ax_sn_node (ax_sn_leaf (r_X1_mark_13 E)) (ax_sn_leaf (r_X1_mark_12 E))) (ax_sn_leaf (r_X1_mark_11 E)))) (ax_sn_node (ax_sn_node (ax_sn_node (ax_sn_leaf (r_X1_mark_6 E)) (ax_sn_leaf (r_X1_mark_3 E))) (ax_sn_leaf (r_X1_mark_2 E))) (ax_sn_node (ax_sn_leaf (r_X1_mark_1 E)) (ax_sn_leaf (r_X1_mark_0 E))))))⟩
theorem r_X1_section_0 (E : ax_EN G l) : ax_Snd G l ax_Ym M_X1_section 0 (S_iload 1 1) := k_iload_n dX1_section_0 rfl
theorem r_X1_section_1 (E : ax_EN G l) : ax_Snd G l ax_Ym M_X1_section 1 (S_push (.int (0)) 2) := k_iconst dX1_section_1 rfl
theorem r_X1_section_2 (E : ax_EN G l) : ax_Snd G l ax_Ym M_X1_section 2 (S_push (.int (1)) 3) := k_iconst dX1_section_2 rfl
theorem r_X1_section_3 (E : ax_EN G l) : ax_Snd G l ax_Ym M_X1_section 3 (S_is 232 3 6 hd_0) := k_is (en_F E) (ax_ok0 E rfl) ((ev_s y_X1_in q1688 q1689 q118 q1690 nm_X1_in (Nat.le_of_ble_eq_true rfl) dX1_section_3) : ax_EvS G l ax_Ym M_X1_section 3 232 3 3)
theorem r_X1_section_6 (E : ax_EN G l) : ax_Snd G l ax_Ym M_X1_section 6 (S_pop 7) := k_pop dX1_section_6
theorem r_X1_section_7 (E : ax_EN G l) : ax_Snd G l ax_Ym M_X1_section 7 (S_aload 0 8) := k_aload_n dX1_section_7 rfl
theorem r_X1_section_8 (E : ax_EN G l) : ax_Snd G l ax_Ym M_X1_section 8 (S_new 39 [.int 0, .null] 2 11) := k_new (en_F E) (mk_39 E) q1694 dX1_section_8
theorem r_X1_section_11 (E : ax_EN G l) : ax_Snd G l ax_Ym M_X1_section 11 (S_dup 12) := k_dup dX1_section_11
theorem r_X1_section_12 (E : ax_EN G l) : ax_Snd G l ax_Ym M_X1_section 12 (S_aload 0 13) := k_aload_n dX1_section_12 rfl
theorem r_X1_section_13 (E : ax_EN G l) : ax_Snd G l ax_Ym M_X1_section 13 (S_iload 1 14) := k_iload_n dX1_section_13 rfl
theorem r_X1_section_14 (E : ax_EN G l) : ax_Snd G l ax_Ym M_X1_section 14 (S_isp 496 2 17 hd_0) := k_isp (en_F E) (ax_ok0 E rfl) ((ev_i y_X5_init q1696 q1697 q132 q1698 nm_X5_init rfl (Nat.le_of_ble_eq_true rfl) dX1_section_14) : ax_EvI G l ax_Ym M_X1_section 14 496 2 3)
theorem r_X1_section_17 (E : ax_EN G l) : ax_Snd G l ax_Ym M_X1_section 17 (S_iv [(19, 233)] 1 20 hd_0) := k_iv (en_F E) (ax_ok0 E rfl) (ax_Evs_cons ((ev_v (en_c E (k := 19) rfl) rfl y_X1_add q1710 q1712 qs21 q118 q1713 nm_X1_add (Nat.le_of_ble_eq_true rfl) dX1_section_17) : ax_EvV G l ax_Ym M_X1_section 17 1 3 19 233) ax_Evs_nil)
theorem r_X1_section_20 (E : ax_EN G l) : ax_Snd G l ax_Ym M_X1_section 20 (S_iret) := k_iret dX1_section_20 rfl
theorem mt_X1_section (E : ax_EN G l) : ax_mt G l ax_Ym (2, P_X1_section) (ax_Ym 231) := ⟨M_X1_section, yX1_section, ⟨rfl, by decide +kernel, rfl, (fun h => by cases h), Or.inl ⟨rfl, rfl⟩⟩, fun pc => (ax_sn_node (ax_sn_node (ax_sn_node (ax_sn_node (ax_sn_leaf (r_X1_section_20 E)) (ax_sn_leaf (r_X1_section_17 E))) (ax_sn_node (ax_sn_leaf (r_X1_section_14 E)) (ax_sn_leaf (r_X1_section_13 E)))) (ax_sn_node (ax_sn_node (ax_sn_leaf (r_X1_section_12 E)) (ax_sn_leaf (r_X1_section_11 E))) (ax_sn_leaf (r_X1_section_8 E)))) (ax_sn_node (ax_sn_node (ax_sn_node (ax_sn_leaf (r_X1_section_7 E)) (ax_sn_leaf (r_X1_section_6 E))) (ax_sn_leaf (r_X1_section_3 E))) (ax_sn_node (ax_sn_node (ax_sn_leaf (r_X1_section_2 E)) (ax_sn_leaf (r_X1_section_1 E))) (ax_sn_leaf (r_X1_section_0 E)))))⟩
theorem r_X1_in_0 (E : ax_EN G l) : ax_Snd G l ax_Ym M_X1_in 0 (S_iload 0 1) := k_iload_n dX1_in_0 rfl
theorem r_X1_in_1 (E : ax_EN G l) : ax_Snd G l ax_Ym M_X1_in 1 (S_iload 1 2) := k_iload_n dX1_in_1 rfl
theorem r_X1_in_2 (E : ax_EN G l) : ax_Snd G l ax_Ym M_X1_in 2 (S_if2 (fun x y => decide (x < y)) 10 5) := k_icmp_lt dX1_in_2 rfl
theorem r_X1_in_5 (E : ax_EN G l) : ax_Snd G l ax_Ym M_X1_in 5 (S_iload 0 6) := k_iload_n dX1_in_5 rfl
theorem r_X1_in_6 (E : ax_EN G l) : ax_Snd G l ax_Ym M_X1_in 6 (S_iload 2 7) := k_iload_n dX1_in_6 rfl
theorem r_X1_in_7 (E : ax_EN G l) : ax_Snd G l ax_Ym M_X1_in 7 (S_if2 (fun x y => decide (x ≤ y)) 20 10) := k_icmp_le dX1_in_7 rfl
theorem r_X1_in_10 (E : ax_EN G l) : ax_Snd G l ax_Ym M_X1_in 10 (S_mk 18 6 19) := k_mk (en_F E) (en_B E) (en_U E) (en_T E) (en_c E (k := 18) rfl) (by decide) (by decide +kernel) (by decide +kernel) q1691 q130 (en_x E 1 rfl) hat_165 (by decide) dX1_in_10 dX1_in_13 dX1_in_14 dX1_in_16
theorem r_X1_in_13 (E : ax_EN G l) : ax_Snd G l ax_Ym M_X1_in 13 (S_dup 14) := k_dup dX1_in_13
theorem r_X1_in_16 (E : ax_EN G l) : ax_Snd G l ax_Ym M_X1_in 16 (S_isp 176 1 19 hd_0) := k_isp (en_F E) (ax_ok0 E rfl) ((ev_i y_J9_init q1693 q758 q130 q759 nm_J9_init rfl (Nat.le_of_ble_eq_true rfl) dX1_in_16) : ax_EvI G l ax_Ym M_X1_in 16 176 1 3)
theorem r_X1_in_19 (E : ax_EN G l) : ax_Snd G l ax_Ym M_X1_in 19 (S_athrow hd_0) := k_athrow (en_F E) (ax_ok0 E rfl) dX1_in_19
theorem r_X1_in_20 (E : ax_EN G l) : ax_Snd G l ax_Ym M_X1_in 20 (S_iload 0 21) := k_iload_n dX1_in_20 rfl
theorem r_X1_in_21 (E : ax_EN G l) : ax_Snd G l ax_Ym M_X1_in 21 (S_iret) := k_iret dX1_in_21 rfl
theorem mt_X1_in (E : ax_EN G l) : ax_mt G l ax_Ym (3, P_X1_in) (ax_Ym 232) := ⟨M_X1_in, yX1_in, ⟨rfl, by decide +kernel, rfl, (fun h => by cases h), Or.inl ⟨rfl, rfl⟩⟩, fun pc => (ax_sn_node (ax_sn_node (ax_sn_node (ax_sn_node (ax_sn_leaf (r_X1_in_21 E)) (ax_sn_leaf (r_X1_in_20 E))) (ax_sn_leaf (r_X1_in_19 E))) (ax_sn_node (ax_sn_node (ax_sn_leaf (r_X1_in_16 E)) (ax_sn_leaf (r_X1_in_13 E))) (ax_sn_leaf (r_X1_in_10 E)))) (ax_sn_node (ax_sn_node (ax_sn_node (ax_sn_leaf (r_X1_in_7 E)) (ax_sn_leaf (r_X1_in_6 E))) (ax_sn_leaf (r_X1_in_5 E))) (ax_sn_node (ax_sn_node (ax_sn_leaf (r_X1_in_2 E)) (ax_sn_leaf (r_X1_in_1 E))) (ax_sn_leaf (r_X1_in_0 E)))))⟩
theorem r_X1_add_0 (E : ax_EN G l) : ax_Snd G l ax_Ym M_X1_add 0 (S_aload 0 1) := k_aload_n dX1_add_0 rfl
theorem r_X1_add_1 (E : ax_EN G l) : ax_Snd G l ax_Ym M_X1_add 1 (S_getf [(19, 0)] 4) := k_getf (en_F E) (ax_fes_cons (fe_139 E) ax_fes_nil) q321 dX1_add_1
theorem r_X1_add_4 (E : ax_EN G l) : ax_Snd G l ax_Ym M_X1_add 4 (S_iv [(4, 59)] 0 9 hd_0) := k_iv (en_F E) (ax_ok0 E rfl) (ax_Evs_cons ((ev_f (en_F E) (en_B E) (en_c E (k := 4) rfl) y_J2_size q346 q352 q350 q121 q354 q348 q347 q353 q351 q349 xn_151 (Nat.le_of_ble_eq_true rfl) dX1_add_4) : ax_EvV G l ax_Ym M_X1_add 4 0 5 4 59) ax_Evs_nil)
theorem r_X1_add_9 (E : ax_EN G l) : ax_Snd G l ax_Ym M_X1_add 9 (S_push (.int (100)) 11) := k_bipush dX1_add_9 rfl
theorem r_X1_add_11 (E : ax_EN G l) : ax_Snd G l ax_Ym M_X1_add 11 (S_if2 (fun x y => decide (y ≤ x)) 18 14) := k_icmp_ge dX1_add_11 rfl
theorem r_X1_add_14 (E : ax_EN G l) : ax_Snd G l ax_Ym M_X1_add 14 (S_push (.int (1)) 15) := k_iconst dX1_add_14 rfl
theorem r_X1_add_15 (E : ax_EN G l) : ax_Snd G l ax_Ym M_X1_add 15 (S_goto 19) := k_goto dX1_add_15 rfl
theorem r_X1_add_18 (E : ax_EN G l) : ax_Snd G l ax_Ym M_X1_add 18 (S_push (.int (0)) 19) := k_iconst dX1_add_18 rfl
theorem r_X1_add_19 (E : ax_EN G l) : ax_Snd G l ax_Ym M_X1_add 19 (S_is 234 1 22 hd_0) := k_is (en_F E) (ax_ok0 E rfl) ((ev_s y_X1_must q1714 q1715 q118 q1716 nm_X1_must (Nat.le_of_ble_eq_true rfl) dX1_add_19) : ax_EvS G l ax_Ym M_X1_add 19 234 1 3)
theorem r_X1_add_22 (E : ax_EN G l) : ax_Snd G l ax_Ym M_X1_add 22 (S_aload 0 23) := k_aload_n dX1_add_22 rfl
theorem r_X1_add_23 (E : ax_EN G l) : ax_Snd G l ax_Ym M_X1_add 23 (S_getf [(19, 0)] 26) := k_getf (en_F E) (ax_fes_cons (fe_139 E) ax_fes_nil) q321 dX1_add_23
theorem r_X1_add_26 (E : ax_EN G l) : ax_Snd G l ax_Ym M_X1_add 26 (S_aload 1 27) := k_aload_n dX1_add_26 rfl
theorem r_X1_add_27 (E : ax_EN G l) : ax_Snd G l ax_Ym M_X1_add 27 (S_iv [(4, 63)] 1 32 hd_0) := k_iv (en_F E) (ax_ok0 E rfl) (ax_Evs_cons ((ev_f (en_F E) (en_B E) (en_c E (k := 4) rfl) y_J2_add q1734 q1024 q1022 q121 q1026 q1021 q1020 q1025 q1023 q349 xn_166 (Nat.le_of_ble_eq_true rfl) dX1_add_27) : ax_EvV G l ax_Ym M_X1_add 27 1 5 4 63) ax_Evs_nil)
theorem r_X1_add_32 (E : ax_EN G l) : ax_Snd G l ax_Ym M_X1_add 32 (S_pop 33) := k_pop dX1_add_32
theorem r_X1_add_33 (E : ax_EN G l) : ax_Snd G l ax_Ym M_X1_add 33 (S_aload 0 34) := k_aload_n dX1_add_33 rfl
theorem r_X1_add_34 (E : ax_EN G l) : ax_Snd G l ax_Ym M_X1_add 34 (S_getf [(19, 0)] 37) := k_getf (en_F E) (ax_fes_cons (fe_139 E) ax_fes_nil) q321 dX1_add_34
theorem r_X1_add_37 (E : ax_EN G l) : ax_Snd G l ax_Ym M_X1_add 37 (S_iv [(4, 59)] 0 42 hd_0) := k_iv (en_F E) (ax_ok0 E rfl) (ax_Evs_cons ((ev_f (en_F E) (en_B E) (en_c E (k := 4) rfl) y_J2_size q346 q352 q350 q121 q354 q348 q347 q353 q351 q349 xn_151 (Nat.le_of_ble_eq_true rfl) dX1_add_37) : ax_EvV G l ax_Ym M_X1_add 37 0 5 4 59) ax_Evs_nil)
theorem r_X1_add_42 (E : ax_EN G l) : ax_Snd G l ax_Ym M_X1_add 42 (S_iret) := k_iret dX1_add_42 rfl
theorem mt_X1_add (E : ax_EN G l) : ax_mt G l ax_Ym (2, P_X1_add) (ax_Ym 233) := ⟨M_X1_add, yX1_add, ⟨rfl, by decide +kernel, rfl, (fun h => by cases h), Or.inl ⟨rfl, rfl⟩⟩, fun pc => (ax_sn_node (ax_sn_node (ax_sn_node (ax_sn_node (ax_sn_node (ax_sn_leaf (r_X1_add_42 E)) (ax_sn_leaf (r_X1_add_37 E))) (ax_sn_leaf (r_X1_add_34 E))) (ax_sn_node (ax_sn_leaf (r_X1_add_33 E)) (ax_sn_leaf (r_X1_add_32 E)))) (ax_sn_node (ax_sn_node (ax_sn_leaf (r_X1_add_27 E)) (ax_sn_leaf (r_X1_add_26 E))) (ax_sn_node (ax_sn_leaf (r_X1_add_23 E)) (ax_sn_leaf (r_X1_add_22 E))))) (ax_sn_node (ax_sn_node (ax_sn_node (ax_sn_node (ax_sn_leaf (r_X1_add_19 E)) (ax_sn_leaf (r_X1_add_18 E))) (ax_sn_leaf (r_X1_add_15 E))) (ax_sn_node (ax_sn_leaf (r_X1_add_14 E)) (ax_sn_leaf (r_X1_add_11 E)))) (ax_sn_node (ax_sn_node (ax_sn_leaf (r_X1_add_9 E)) (ax_sn_leaf (r_X1_add_4 E))) (ax_sn_node (ax_sn_leaf (r_X1_add_1 E)) (ax_sn_leaf (r_X1_add_0 E))))))⟩
theorem r_X1_must_0 (E : ax_EN G l) : ax_Snd G l ax_Ym M_X1_must 0 (S_iload 0 1) := k_iload_n dX1_must_0 rfl
theorem r_X1_must_1 (E : ax_EN G l) : ax_Snd G l ax_Ym M_X1_must 1 (S_if1 (fun x => decide (¬ x = 0)) 14 4) := k_if_ne dX1_must_1 rfl
theorem r_X1_must_4 (E : ax_EN G l) : ax_Snd G l ax_Ym M_X1_must 4 (S_mk 0 6 13) := k_mk (en_F E) (en_B E) (en_U E) (en_T E) (en_c E (k := 0) rfl) (by decide) (by decide +kernel) (by decide +kernel) q1717 q133 (en_x E 2 rfl) hat_167 (by decide) dX1_must_4 dX1_must_7 dX1_must_8 dX1_must_10
theorem r_X1_must_7 (E : ax_EN G l) : ax_Snd G l ax_Ym M_X1_must 7 (S_dup 8) := k_dup dX1_must_7
theorem r_X1_must_10 (E : ax_EN G l) : ax_Snd G l ax_Ym M_X1_must 10 (S_isp 3 1 13 hd_0) := k_isp (en_F E) (ax_ok0 E rfl) ((ev_i y_J10_init q1727 q1728 q133 q1729 nm_J10_init rfl (Nat.le_of_ble_eq_true rfl) dX1_must_10) : ax_EvI G l ax_Ym M_X1_must 10 3 1 3)
theorem r_X1_must_13 (E : ax_EN G l) : ax_Snd G l ax_Ym M_X1_must 13 (S_athrow hd_0) := k_athrow (en_F E) (ax_ok0 E rfl) dX1_must_13
theorem r_X1_must_14 (E : ax_EN G l) : ax_Snd G l ax_Ym M_X1_must 14 (S_ret) := k_ret dX1_must_14 rfl
theorem mt_X1_must (E : ax_EN G l) : ax_mt G l ax_Ym (1, P_X1_must) (ax_Ym 234) := ⟨M_X1_must, yX1_must, ⟨rfl, by decide +kernel, rfl, (fun h => by cases h), Or.inl ⟨rfl, rfl⟩⟩, fun pc => (ax_sn_node (ax_sn_node (ax_sn_node (ax_sn_leaf (r_X1_must_14 E)) (ax_sn_leaf (r_X1_must_13 E))) (ax_sn_node (ax_sn_leaf (r_X1_must_10 E)) (ax_sn_leaf (r_X1_must_7 E)))) (ax_sn_node (ax_sn_node (ax_sn_leaf (r_X1_must_4 E)) (ax_sn_leaf (r_X1_must_1 E))) (ax_sn_leaf (r_X1_must_0 E))))⟩
theorem r_X1_label_0 (E : ax_EN G l) : ax_Snd G l ax_Ym M_X1_label 0 (S_iload 1 1) := k_iload_n dX1_label_0 rfl
theorem r_X1_label_1 (E : ax_EN G l) : ax_Snd G l ax_Ym M_X1_label 1 (S_push (.int (0)) 2) := k_iconst dX1_label_1 rfl
theorem r_X1_label_2 (E : ax_EN G l) : ax_Snd G l ax_Ym M_X1_label 2 (S_push (.int (19)) 4) := k_bipush dX1_label_2 rfl
theorem r_X1_label_4 (E : ax_EN G l) : ax_Snd G l ax_Ym M_X1_label 4 (S_is 232 3 7 hd_0) := k_is (en_F E) (ax_ok0 E rfl) ((ev_s y_X1_in q1688 q1689 q118 q1690 nm_X1_in (Nat.le_of_ble_eq_true rfl) dX1_label_4) : ax_EvS G l ax_Ym M_X1_label 4 232 3 3)
theorem r_X1_label_7 (E : ax_EN G l) : ax_Snd G l ax_Ym M_X1_label 7 (S_pop 8) := k_pop dX1_label_7
theorem r_X1_label_8 (E : ax_EN G l) : ax_Snd G l ax_Ym M_X1_label 8 (S_aload 0 9) := k_aload_n dX1_label_8 rfl
theorem r_X1_label_9 (E : ax_EN G l) : ax_Snd G l ax_Ym M_X1_label 9 (S_new 40 [.int 0, .null] 2 12) := k_new (en_F E) (mk_40 E) q1742 dX1_label_9
theorem r_X1_label_12 (E : ax_EN G l) : ax_Snd G l ax_Ym M_X1_label 12 (S_dup 13) := k_dup dX1_label_12
theorem r_X1_label_13 (E : ax_EN G l) : ax_Snd G l ax_Ym M_X1_label 13 (S_aload 0 14) := k_aload_n dX1_label_13 rfl
theorem r_X1_label_14 (E : ax_EN G l) : ax_Snd G l ax_Ym M_X1_label 14 (S_iload 1 15) := k_iload_n dX1_label_14 rfl
theorem r_X1_label_15 (E : ax_EN G l) : ax_Snd G l ax_Ym M_X1_label 15 (S_isp 498 2 18 hd_0) := k_isp (en_F E) (ax_ok0 E rfl) ((ev_i y_X6_init q1744 q1745 q139 q1746 nm_X6_init rfl (Nat.le_of_ble_eq_true rfl) dX1_label_15) : ax_EvI G l ax_Ym M_X1_label 15 498 2 3)
theorem r_X1_label_18 (E : ax_EN G l) : ax_Snd G l ax_Ym M_X1_label 18 (S_iv [(19, 233)] 1 21 hd_0) := k_iv (en_F E) (ax_ok0 E rfl) (ax_Evs_cons ((ev_v (en_c E (k := 19) rfl) rfl y_X1_add q1710 q1712 qs21 q118 q1713 nm_X1_add (Nat.le_of_ble_eq_true rfl) dX1_label_18) : ax_EvV G l ax_Ym M_X1_label 18 1 3 19 233) ax_Evs_nil)
theorem r_X1_label_21 (E : ax_EN G l) : ax_Snd G l ax_Ym M_X1_label 21 (S_iret) := k_iret dX1_label_21 rfl
theorem mt_X1_label (E : ax_EN G l) : ax_mt G l ax_Ym (2, P_X1_label) (ax_Ym 235) := ⟨M_X1_label, yX1_label, ⟨rfl, by decide +kernel, rfl, (fun h => by cases h), Or.inl ⟨rfl, rfl⟩⟩, fun pc => (ax_sn_node (ax_sn_node (ax_sn_node (ax_sn_node (ax_sn_leaf (r_X1_label_21 E)) (ax_sn_leaf (r_X1_label_18 E))) (ax_sn_node (ax_sn_leaf (r_X1_label_15 E)) (ax_sn_leaf (r_X1_label_14 E)))) (ax_sn_node (ax_sn_node (ax_sn_leaf (r_X1_label_13 E)) (ax_sn_leaf (r_X1_label_12 E))) (ax_sn_leaf (r_X1_label_9 E)))) (ax_sn_node (ax_sn_node (ax_sn_node (ax_sn_leaf (r_X1_label_8 E)) (ax_sn_leaf (r_X1_label_7 E))) (ax_sn_leaf (r_X1_label_4 E))) (ax_sn_node (ax_sn_node (ax_sn_leaf (r_X1_label_2 E)) (ax_sn_leaf (r_X1_label_1 E))) (ax_sn_leaf (r_X1_label_0 E)))))⟩
theorem r_X1_code_0 (E : ax_EN G l) : ax_Snd G l ax_Ym M_X1_code 0 (S_iload 1 1) := k_iload_n dX1_code_0 rfl
theorem r_X1_code_1 (E : ax_EN G l) : ax_Snd G l ax_Ym M_X1_code 1 (S_push (.int (0)) 2) := k_iconst dX1_code_1 rfl
theorem r_X1_code_2 (E : ax_EN G l) : ax_Snd G l ax_Ym M_X1_code 2 (S_push (.int (26)) 4) := k_bipush dX1_code_2 rfl
theorem r_X1_code_4 (E : ax_EN G l) : ax_Snd G l ax_Ym M_X1_code 4 (S_is 232 3 7 hd_0) := k_is (en_F E) (ax_ok0 E rfl) ((ev_s y_X1_in q1688 q1689 q118 q1690 nm_X1_in (Nat.le_of_ble_eq_true rfl) dX1_code_4) : ax_EvS G l ax_Ym M_X1_code 4 232 3 3)
theorem r_X1_code_7 (E : ax_EN G l) : ax_Snd G l ax_Ym M_X1_code 7 (S_pop 8) := k_pop dX1_code_7
theorem r_X1_code_8 (E : ax_EN G l) : ax_Snd G l ax_Ym M_X1_code 8 (S_iload 2 9) := k_iload_n dX1_code_8 rfl
theorem r_X1_code_9 (E : ax_EN G l) : ax_Snd G l ax_Ym M_X1_code 9 (S_push (.int (0)) 10) := k_iconst dX1_code_9 rfl
theorem r_X1_code_10 (E : ax_EN G l) : ax_Snd G l ax_Ym M_X1_code 10 (S_push (.int (3)) 11) := k_iconst dX1_code_10 rfl
theorem r_X1_code_11 (E : ax_EN G l) : ax_Snd G l ax_Ym M_X1_code 11 (S_is 232 3 14 hd_0) := k_is (en_F E) (ax_ok0 E rfl) ((ev_s y_X1_in q1688 q1689 q118 q1690 nm_X1_in (Nat.le_of_ble_eq_true rfl) dX1_code_11) : ax_EvS G l ax_Ym M_X1_code 11 232 3 3)
theorem r_X1_code_14 (E : ax_EN G l) : ax_Snd G l ax_Ym M_X1_code 14 (S_pop 15) := k_pop dX1_code_14
theorem r_X1_code_15 (E : ax_EN G l) : ax_Snd G l ax_Ym M_X1_code 15 (S_iload 3 16) := k_iload_n dX1_code_15 rfl
theorem r_X1_code_16 (E : ax_EN G l) : ax_Snd G l ax_Ym M_X1_code 16 (S_push (.int (0)) 17) := k_iconst dX1_code_16 rfl
theorem r_X1_code_17 (E : ax_EN G l) : ax_Snd G l ax_Ym M_X1_code 17 (S_push (.int (3)) 18) := k_iconst dX1_code_17 rfl
theorem r_X1_code_18 (E : ax_EN G l) : ax_Snd G l ax_Ym M_X1_code 18 (S_is 232 3 21 hd_0) := k_is (en_F E) (ax_ok0 E rfl) ((ev_s y_X1_in q1688 q1689 q118 q1690 nm_X1_in (Nat.le_of_ble_eq_true rfl) dX1_code_18) : ax_EvS G l ax_Ym M_X1_code 18 232 3 3)
theorem r_X1_code_21 (E : ax_EN G l) : ax_Snd G l ax_Ym M_X1_code 21 (S_pop 22) := k_pop dX1_code_21
theorem r_X1_code_22 (E : ax_EN G l) : ax_Snd G l ax_Ym M_X1_code 22 (S_iload 4 24) := k_iload dX1_code_22
theorem r_X1_code_24 (E : ax_EN G l) : ax_Snd G l ax_Ym M_X1_code 24 (S_iload 5 26) := k_iload dX1_code_24
theorem r_X1_code_26 (E : ax_EN G l) : ax_Snd G l ax_Ym M_X1_code 26 (S_is 237 2 29 hd_0) := k_is (en_F E) (ax_ok0 E rfl) ((ev_s y_X1_operand q1762 q1763 q118 q1764 nm_X1_operand (Nat.le_of_ble_eq_true rfl) dX1_code_26) : ax_EvS G l ax_Ym M_X1_code 26 237 2 3)
theorem r_X1_code_29 (E : ax_EN G l) : ax_Snd G l ax_Ym M_X1_code 29 (S_astore 6 31) := k_astore dX1_code_29 (Nat.le_of_ble_eq_true rfl)
theorem r_X1_code_31 (E : ax_EN G l) : ax_Snd G l ax_Ym M_X1_code 31 (S_aload 0 32) := k_aload_n dX1_code_31 rfl
theorem r_X1_code_32 (E : ax_EN G l) : ax_Snd G l ax_Ym M_X1_code 32 (S_new 42 [.int 0, .int 0, .int 0, .null, .null] 5 35) := k_new (en_F E) (mk_42 E) q1781 dX1_code_32
theorem r_X1_code_35 (E : ax_EN G l) : ax_Snd G l ax_Ym M_X1_code 35 (S_dup 36) := k_dup dX1_code_35
theorem r_X1_code_36 (E : ax_EN G l) : ax_Snd G l ax_Ym M_X1_code 36 (S_aload 0 37) := k_aload_n dX1_code_36 rfl
theorem r_X1_code_37 (E : ax_EN G l) : ax_Snd G l ax_Ym M_X1_code 37 (S_iload 1 38) := k_iload_n dX1_code_37 rfl
theorem r_X1_code_38 (E : ax_EN G l) : ax_Snd G l ax_Ym M_X1_code 38 (S_iload 2 39) := k_iload_n dX1_code_38 rfl
theorem r_X1_code_39 (E : ax_EN G l) : ax_Snd G l ax_Ym M_X1_code 39 (S_iload 3 40) := k_iload_n dX1_code_39 rfl
theorem r_X1_code_40 (E : ax_EN G l) : ax_Snd G l ax_Ym M_X1_code 40 (S_aload 6 42) := k_aload dX1_code_40
theorem r_X1_code_42 (E : ax_EN G l) : ax_Snd G l ax_Ym M_X1_code 42 (S_isp 501 5 45 hd_0) := k_isp (en_F E) (ax_ok0 E rfl) ((ev_i y_X8_init q1783 q1784 q141 q1785 nm_X8_init rfl (Nat.le_of_ble_eq_true rfl) dX1_code_42) : ax_EvI G l ax_Ym M_X1_code 42 501 5 3)
theorem r_X1_code_45 (E : ax_EN G l) : ax_Snd G l ax_Ym M_X1_code 45 (S_iv [(19, 233)] 1 48 hd_0) := k_iv (en_F E) (ax_ok0 E rfl) (ax_Evs_cons ((ev_v (en_c E (k := 19) rfl) rfl y_X1_add q1710 q1712 qs21 q118 q1713 nm_X1_add (Nat.le_of_ble_eq_true rfl) dX1_code_45) : ax_EvV G l ax_Ym M_X1_code 45 1 3 19 233) ax_Evs_nil)
theorem r_X1_code_48 (E : ax_EN G l) : ax_Snd G l ax_Ym M_X1_code 48 (S_iret) := k_iret dX1_code_48 rfl
theorem mt_X1_code (E : ax_EN G l) : ax_mt G l ax_Ym (7, P_X1_code) (ax_Ym 236) := ⟨M_X1_code, yX1_code, ⟨rfl, by decide +kernel, rfl, (fun h => by cases h), Or.inl ⟨rfl, rfl⟩⟩, fun pc => (ax_sn_node (ax_sn_node (ax_sn_node (ax_sn_node (ax_sn_node (ax_sn_leaf (r_X1_code_48 E)) (ax_sn_leaf (r_X1_code_45 E))) (ax_sn_node (ax_sn_leaf (r_X1_code_42 E)) (ax_sn_leaf (r_X1_code_40 E)))) (ax_sn_node (ax_sn_node (ax_sn_leaf (r_X1_code_39 E)) (ax_sn_leaf (r_X1_code_38 E))) (ax_sn_node (ax_sn_leaf (r_X1_code_37 E)) (ax_sn_leaf (r_X1_code_36 E))))) (ax_sn_node (ax_sn_node (ax_sn_node (ax_sn_leaf (r_X1_code_35 E)) (ax_sn_leaf (r_X1_code_32 E))) (ax_sn_node (ax_sn_leaf (r_X1_code_31 E)) (ax_sn_leaf (r_X1_code_29 E)))) (ax_sn_node (ax_sn_node (ax_sn_leaf (r_X1_code_26 E)) (ax_sn_leaf (r_X1_code_24 E))) (ax_sn_leaf (r_X1_code_22 E))))) (ax_sn_node (ax_sn_node (ax_sn_node (ax_sn_node (ax_sn_leaf (r_X1_code_21 E)) (ax_sn_leaf (r_X1_code_18 E))) (ax_sn_node (ax_sn_leaf (r_X1_code_17 E)) (ax_sn_leaf (r_X1_code_16 E)))) (ax_sn_node (ax_sn_node (ax_sn_leaf (r_X1_code_15 E)) (ax_sn_leaf (r_X1_code_14 E))) (ax_sn_node (ax_sn_leaf (r_X1_code_11 E)) (ax_sn_leaf (r_X1_code_10 E))))) (ax_sn_node (ax_sn_node (ax_sn_node (ax_sn_leaf (r_X1_code_9 E)) (ax_sn_leaf (r_X1_code_8 E))) (ax_sn_node (ax_sn_leaf (r_X1_code_7 E)) (ax_sn_leaf (r_X1_code_4 E)))) (ax_sn_node (ax_sn_node (ax_sn_leaf (r_X1_code_2 E)) (ax_sn_leaf (r_X1_code_1 E))) (ax_sn_leaf (r_X1_code_0 E))))))⟩
theorem r_X1_operand_0 (E : ax_EN G l) : ax_Snd G l ax_Ym M_X1_operand 0 (S_iload 0 1) := k_iload_n dX1_operand_0 rfl
theorem r_X1_operand_1 (E : ax_EN G l) : ax_Snd G l ax_Ym M_X1_operand 1 (S_push (.int (0)) 2) := k_iconst dX1_operand_1 rfl
theorem r_X1_operand_2 (E : ax_EN G l) : ax_Snd G l ax_Ym M_X1_operand 2 (S_push (.int (3)) 3) := k_iconst dX1_operand_2 rfl
theorem r_X1_operand_3 (E : ax_EN G l) : ax_Snd G l ax_Ym M_X1_operand 3 (S_is 232 3 6 hd_0) := k_is (en_F E) (ax_ok0 E rfl) ((ev_s y_X1_in q1688 q1689 q118 q1690 nm_X1_in (Nat.le_of_ble_eq_true rfl) dX1_operand_3) : ax_EvS G l ax_Ym M_X1_operand 3 232 3 3)
theorem r_X1_operand_6 (E : ax_EN G l) : ax_Snd G l ax_Ym M_X1_operand 6 (S_pop 7) := k_pop dX1_operand_6
theorem r_X1_operand_7 (E : ax_EN G l) : ax_Snd G l ax_Ym M_X1_operand 7 (S_new 41 [.int 0, .int 0] 2 10) := k_new (en_F E) (mk_41 E) q1765 dX1_operand_7
theorem r_X1_operand_10 (E : ax_EN G l) : ax_Snd G l ax_Ym M_X1_operand 10 (S_dup 11) := k_dup dX1_operand_10
theorem r_X1_operand_11 (E : ax_EN G l) : ax_Snd G l ax_Ym M_X1_operand 11 (S_iload 0 12) := k_iload_n dX1_operand_11 rfl
theorem r_X1_operand_12 (E : ax_EN G l) : ax_Snd G l ax_Ym M_X1_operand 12 (S_iload 1 13) := k_iload_n dX1_operand_12 rfl
theorem r_X1_operand_13 (E : ax_EN G l) : ax_Snd G l ax_Ym M_X1_operand 13 (S_push (.int (0)) 14) := k_iconst dX1_operand_13 rfl
theorem r_X1_operand_14 (E : ax_EN G l) : ax_Snd G l ax_Ym M_X1_operand 14 (S_iload 0 15) := k_iload_n dX1_operand_14 rfl
theorem r_X1_operand_15 (E : ax_EN G l) : ax_Snd G l ax_Ym M_X1_operand 15 (S_push (.int (1)) 16) := k_iconst dX1_operand_15 rfl
theorem r_X1_operand_16 (E : ax_EN G l) : ax_Snd G l ax_Ym M_X1_operand 16 (S_if2 (fun x y => decide (¬ x = y)) 24 19) := k_icmp_ne dX1_operand_16 rfl
theorem r_X1_operand_19 (E : ax_EN G l) : ax_Snd G l ax_Ym M_X1_operand 19 (S_push (.int (19)) 21) := k_bipush dX1_operand_19 rfl
theorem r_X1_operand_21 (E : ax_EN G l) : ax_Snd G l ax_Ym M_X1_operand 21 (S_goto 26) := k_goto dX1_operand_21 rfl
theorem r_X1_operand_24 (E : ax_EN G l) : ax_Snd G l ax_Ym M_X1_operand 24 (S_push (.int (65535)) 26) := k_ldc q1767 dX1_operand_24
theorem r_X1_operand_26 (E : ax_EN G l) : ax_Snd G l ax_Ym M_X1_operand 26 (S_is 232 3 29 hd_0) := k_is (en_F E) (ax_ok0 E rfl) ((ev_s y_X1_in q1688 q1689 q118 q1690 nm_X1_in (Nat.le_of_ble_eq_true rfl) dX1_operand_26) : ax_EvS G l ax_Ym M_X1_operand 26 232 3 3)
theorem r_X1_operand_29 (E : ax_EN G l) : ax_Snd G l ax_Ym M_X1_operand 29 (S_isp 499 2 32 hd_0) := k_isp (en_F E) (ax_ok0 E rfl) ((ev_i y_X7_init q1768 q1769 q140 q1770 nm_X7_init rfl (Nat.le_of_ble_eq_true rfl) dX1_operand_29) : ax_EvI G l ax_Ym M_X1_operand 29 499 2 3)
theorem r_X1_operand_32 (E : ax_EN G l) : ax_Snd G l ax_Ym M_X1_operand 32 (S_aret) := k_aret dX1_operand_32 rfl (Or.inl ⟨_, rfl⟩)
theorem mt_X1_operand (E : ax_EN G l) : ax_mt G l ax_Ym (2, P_X1_operand) (ax_Ym 237) := ⟨M_X1_operand, yX1_operand, ⟨rfl, by decide +kernel, rfl, (fun h => by cases h), Or.inl ⟨rfl, rfl⟩⟩, fun pc => (ax_sn_node (ax_sn_node (ax_sn_node (ax_sn_node (ax_sn_node (ax_sn_leaf (r_X1_operand_32 E)) (ax_sn_leaf (r_X1_operand_29 E))) (ax_sn_leaf (r_X1_operand_26 E))) (ax_sn_node (ax_sn_leaf (r_X1_operand_24 E)) (ax_sn_leaf (r_X1_operand_21 E)))) (ax_sn_node (ax_sn_node (ax_sn_node (ax_sn_leaf (r_X1_operand_19 E)) (ax_sn_leaf (r_X1_operand_16 E))) (ax_sn_leaf (r_X1_operand_15 E))) (ax_sn_node (ax_sn_leaf (r_X1_operand_14 E)) (ax_sn_leaf (r_X1_operand_13 E))))) (ax_sn_node (ax_sn_node (ax_sn_node (ax_sn_node (ax_sn_leaf (r_X1_operand_12 E)) (ax_sn_leaf (r_X1_operand_11 E))) (ax_sn_leaf (r_X1_operand_10 E))) (ax_sn_node (ax_sn_leaf (r_X1_operand_7 E)) (ax_sn_leaf (r_X1_operand_6 E)))) (ax_sn_node (ax_sn_node (ax_sn_leaf (r_X1_operand_3 E)) (ax_sn_leaf (r_X1_operand_2 E))) (ax_sn_node (ax_sn_leaf (r_X1_operand_1 E)) (ax_sn_leaf (r_X1_operand_0 E))))))⟩
theorem r_X1_word_0 (E : ax_EN G l) : ax_Snd G l ax_Ym M_X1_word 0 (S_iload 1 1) := k_iload_n dX1_word_0 rfl
theorem r_X1_word_1 (E : ax_EN G l) : ax_Snd G l ax_Ym M_X1_word 1 (S_iload 2 2) := k_iload_n dX1_word_1 rfl
theorem r_X1_word_2 (E : ax_EN G l) : ax_Snd G l ax_Ym M_X1_word 2 (S_is 237 2 5 hd_0) := k_is (en_F E) (ax_ok0 E rfl) ((ev_s y_X1_operand q1762 q1763 q118 q1764 nm_X1_operand (Nat.le_of_ble_eq_true rfl) dX1_word_2) : ax_EvS G l ax_Ym M_X1_word 2 237 2 3)
theorem r_X1_word_5 (E : ax_EN G l) : ax_Snd G l ax_Ym M_X1_word 5 (S_astore 3 6) := k_astore_n dX1_word_5 rfl (Nat.le_of_ble_eq_true rfl)
theorem r_X1_word_6 (E : ax_EN G l) : ax_Snd G l ax_Ym M_X1_word 6 (S_aload 0 7) := k_aload_n dX1_word_6 rfl
theorem r_X1_word_7 (E : ax_EN G l) : ax_Snd G l ax_Ym M_X1_word 7 (S_new 43 [.null, .null] 2 10) := k_new (en_F E) (mk_43 E) q1810 dX1_word_7
theorem r_X1_word_10 (E : ax_EN G l) : ax_Snd G l ax_Ym M_X1_word 10 (S_dup 11) := k_dup dX1_word_10
theorem r_X1_word_11 (E : ax_EN G l) : ax_Snd G l ax_Ym M_X1_word 11 (S_aload 0 12) := k_aload_n dX1_word_11 rfl
theorem r_X1_word_12 (E : ax_EN G l) : ax_Snd G l ax_Ym M_X1_word 12 (S_aload 3 13) := k_aload_n dX1_word_12 rfl
theorem r_X1_word_13 (E : ax_EN G l) : ax_Snd G l ax_Ym M_X1_word 13 (S_isp 503 2 16 hd_0) := k_isp (en_F E) (ax_ok0 E rfl) ((ev_i y_X9_init q1812 q1813 q142 q1814 nm_X9_init rfl (Nat.le_of_ble_eq_true rfl) dX1_word_13) : ax_EvI G l ax_Ym M_X1_word 13 503 2 3)
theorem r_X1_word_16 (E : ax_EN G l) : ax_Snd G l ax_Ym M_X1_word 16 (S_iv [(19, 233)] 1 19 hd_0) := k_iv (en_F E) (ax_ok0 E rfl) (ax_Evs_cons ((ev_v (en_c E (k := 19) rfl) rfl y_X1_add q1710 q1712 qs21 q118 q1713 nm_X1_add (Nat.le_of_ble_eq_true rfl) dX1_word_16) : ax_EvV G l ax_Ym M_X1_word 16 1 3 19 233) ax_Evs_nil)
theorem r_X1_word_19 (E : ax_EN G l) : ax_Snd G l ax_Ym M_X1_word 19 (S_iret) := k_iret dX1_word_19 rfl
theorem mt_X1_word (E : ax_EN G l) : ax_mt G l ax_Ym (4, P_X1_word) (ax_Ym 238) := ⟨M_X1_word, yX1_word, ⟨rfl, by decide +kernel, rfl, (fun h => by cases h), Or.inl ⟨rfl, rfl⟩⟩, fun pc => (ax_sn_node (ax_sn_node (ax_sn_node (ax_sn_node (ax_sn_leaf (r_X1_word_19 E)) (ax_sn_leaf (r_X1_word_16 E))) (ax_sn_leaf (r_X1_word_13 E))) (ax_sn_node (ax_sn_node (ax_sn_leaf (r_X1_word_12 E)) (ax_sn_leaf (r_X1_word_11 E))) (ax_sn_leaf (r_X1_word_10 E)))) (ax_sn_node (ax_sn_node (ax_sn_node (ax_sn_leaf (r_X1_word_7 E)) (ax_sn_leaf (r_X1_word_6 E))) (ax_sn_leaf (r_X1_word_5 E))) (ax_sn_node (ax_sn_node (ax_sn_leaf (r_X1_word_2 E)) (ax_sn_leaf (r_X1_word_1 E))) (ax_sn_leaf (r_X1_word_0 E)))))⟩
theorem r_X1_space_0 (E : ax_EN G l) : ax_Snd G l ax_Ym M_X1_space 0 (S_iload 1 1) := k_iload_n dX1_space_0 rfl
theorem r_X1_space_1 (E : ax_EN G l) : ax_Snd G l ax_Ym M_X1_space 1 (S_push (.int (1)) 2) := k_iconst dX1_space_1 rfl
theorem r_X1_space_2 (E : ax_EN G l) : ax_Snd G l ax_Ym M_X1_space 2 (S_push (.int (32)) 4) := k_bipush dX1_space_2 rfl
theorem r_X1_space_4 (E : ax_EN G l) : ax_Snd G l ax_Ym M_X1_space 4 (S_is 232 3 7 hd_0) := k_is (en_F E) (ax_ok0 E rfl) ((ev_s y_X1_in q1688 q1689 q118 q1690 nm_X1_in (Nat.le_of_ble_eq_true rfl) dX1_space_4) : ax_EvS G l ax_Ym M_X1_space 4 232 3 3)
theorem r_X1_space_7 (E : ax_EN G l) : ax_Snd G l ax_Ym M_X1_space 7 (S_pop 8) := k_pop dX1_space_7
theorem r_X1_space_8 (E : ax_EN G l) : ax_Snd G l ax_Ym M_X1_space 8 (S_aload 0 9) := k_aload_n dX1_space_8 rfl
theorem r_X1_space_9 (E : ax_EN G l) : ax_Snd G l ax_Ym M_X1_space 9 (S_new 20 [.int 0, .null] 2 12) := k_new (en_F E) (mk_20 E) q1830 dX1_space_9
theorem r_X1_space_12 (E : ax_EN G l) : ax_Snd G l ax_Ym M_X1_space 12 (S_dup 13) := k_dup dX1_space_12
theorem r_X1_space_13 (E : ax_EN G l) : ax_Snd G l ax_Ym M_X1_space 13 (S_aload 0 14) := k_aload_n dX1_space_13 rfl
theorem r_X1_space_14 (E : ax_EN G l) : ax_Snd G l ax_Ym M_X1_space 14 (S_iload 1 15) := k_iload_n dX1_space_14 rfl
theorem r_X1_space_15 (E : ax_EN G l) : ax_Snd G l ax_Ym M_X1_space 15 (S_isp 270 2 18 hd_0) := k_isp (en_F E) (ax_ok0 E rfl) ((ev_i y_X10_init q1832 q1833 q143 q1834 nm_X10_init rfl (Nat.le_of_ble_eq_true rfl) dX1_space_15) : ax_EvI G l ax_Ym M_X1_space 15 270 2 3)
theorem r_X1_space_18 (E : ax_EN G l) : ax_Snd G l ax_Ym M_X1_space 18 (S_iv [(19, 233)] 1 21 hd_0) := k_iv (en_F E) (ax_ok0 E rfl) (ax_Evs_cons ((ev_v (en_c E (k := 19) rfl) rfl y_X1_add q1710 q1712 qs21 q118 q1713 nm_X1_add (Nat.le_of_ble_eq_true rfl) dX1_space_18) : ax_EvV G l ax_Ym M_X1_space 18 1 3 19 233) ax_Evs_nil)
theorem r_X1_space_21 (E : ax_EN G l) : ax_Snd G l ax_Ym M_X1_space 21 (S_iret) := k_iret dX1_space_21 rfl
theorem mt_X1_space (E : ax_EN G l) : ax_mt G l ax_Ym (2, P_X1_space) (ax_Ym 239) := ⟨M_X1_space, yX1_space, ⟨rfl, by decide +kernel, rfl, (fun h => by cases h), Or.inl ⟨rfl, rfl⟩⟩, fun pc => (ax_sn_node (ax_sn_node (ax_sn_node (ax_sn_node (ax_sn_leaf (r_X1_space_21 E)) (ax_sn_leaf (r_X1_space_18 E))) (ax_sn_node (ax_sn_leaf (r_X1_space_15 E)) (ax_sn_leaf (r_X1_space_14 E)))) (ax_sn_node (ax_sn_node (ax_sn_leaf (r_X1_space_13 E)) (ax_sn_leaf (r_X1_space_12 E))) (ax_sn_leaf (r_X1_space_9 E)))) (ax_sn_node (ax_sn_node (ax_sn_node (ax_sn_leaf (r_X1_space_8 E)) (ax_sn_leaf (r_X1_space_7 E))) (ax_sn_leaf (r_X1_space_4 E))) (ax_sn_node (ax_sn_node (ax_sn_leaf (r_X1_space_2 E)) (ax_sn_leaf (r_X1_space_1 E))) (ax_sn_leaf (r_X1_space_0 E)))))⟩
theorem r_X1_vector_0 (E : ax_EN G l) : ax_Snd G l ax_Ym M_X1_vector 0 (S_iload 1 1) := k_iload_n dX1_vector_0 rfl
theorem r_X1_vector_1 (E : ax_EN G l) : ax_Snd G l ax_Ym M_X1_vector 1 (S_push (.int (0)) 2) := k_iconst dX1_vector_1 rfl
theorem r_X1_vector_2 (E : ax_EN G l) : ax_Snd G l ax_Ym M_X1_vector 2 (S_push (.int (1)) 3) := k_iconst dX1_vector_2 rfl
theorem r_X1_vector_3 (E : ax_EN G l) : ax_Snd G l ax_Ym M_X1_vector 3 (S_is 232 3 6 hd_0) := k_is (en_F E) (ax_ok0 E rfl) ((ev_s y_X1_in q1688 q1689 q118 q1690 nm_X1_in (Nat.le_of_ble_eq_true rfl) dX1_vector_3) : ax_EvS G l ax_Ym M_X1_vector 3 232 3 3)
theorem r_X1_vector_6 (E : ax_EN G l) : ax_Snd G l ax_Ym M_X1_vector 6 (S_pop 7) := k_pop dX1_vector_6
theorem r_X1_vector_7 (E : ax_EN G l) : ax_Snd G l ax_Ym M_X1_vector 7 (S_iload 2 8) := k_iload_n dX1_vector_7 rfl
theorem r_X1_vector_8 (E : ax_EN G l) : ax_Snd G l ax_Ym M_X1_vector 8 (S_iload 3 9) := k_iload_n dX1_vector_8 rfl
theorem r_X1_vector_9 (E : ax_EN G l) : ax_Snd G l ax_Ym M_X1_vector 9 (S_is 237 2 12 hd_0) := k_is (en_F E) (ax_ok0 E rfl) ((ev_s y_X1_operand q1762 q1763 q118 q1764 nm_X1_operand (Nat.le_of_ble_eq_true rfl) dX1_vector_9) : ax_EvS G l ax_Ym M_X1_vector 9 237 2 3)
theorem r_X1_vector_12 (E : ax_EN G l) : ax_Snd G l ax_Ym M_X1_vector 12 (S_astore 4 14) := k_astore dX1_vector_12 (Nat.le_of_ble_eq_true rfl)
theorem r_X1_vector_14 (E : ax_EN G l) : ax_Snd G l ax_Ym M_X1_vector 14 (S_aload 0 15) := k_aload_n dX1_vector_14 rfl
theorem r_X1_vector_15 (E : ax_EN G l) : ax_Snd G l ax_Ym M_X1_vector 15 (S_new 21 [.int 0, .null, .null] 3 18) := k_new (en_F E) (mk_21 E) q1850 dX1_vector_15
theorem r_X1_vector_18 (E : ax_EN G l) : ax_Snd G l ax_Ym M_X1_vector 18 (S_dup 19) := k_dup dX1_vector_18
theorem r_X1_vector_19 (E : ax_EN G l) : ax_Snd G l ax_Ym M_X1_vector 19 (S_aload 0 20) := k_aload_n dX1_vector_19 rfl
theorem r_X1_vector_20 (E : ax_EN G l) : ax_Snd G l ax_Ym M_X1_vector 20 (S_iload 1 21) := k_iload_n dX1_vector_20 rfl
theorem r_X1_vector_21 (E : ax_EN G l) : ax_Snd G l ax_Ym M_X1_vector 21 (S_aload 4 23) := k_aload dX1_vector_21
theorem r_X1_vector_23 (E : ax_EN G l) : ax_Snd G l ax_Ym M_X1_vector 23 (S_isp 272 3 26 hd_0) := k_isp (en_F E) (ax_ok0 E rfl) ((ev_i y_X11_init q1852 q1853 q144 q1854 nm_X11_init rfl (Nat.le_of_ble_eq_true rfl) dX1_vector_23) : ax_EvI G l ax_Ym M_X1_vector 23 272 3 3)
theorem r_X1_vector_26 (E : ax_EN G l) : ax_Snd G l ax_Ym M_X1_vector 26 (S_iv [(19, 233)] 1 29 hd_0) := k_iv (en_F E) (ax_ok0 E rfl) (ax_Evs_cons ((ev_v (en_c E (k := 19) rfl) rfl y_X1_add q1710 q1712 qs21 q118 q1713 nm_X1_add (Nat.le_of_ble_eq_true rfl) dX1_vector_26) : ax_EvV G l ax_Ym M_X1_vector 26 1 3 19 233) ax_Evs_nil)
theorem r_X1_vector_29 (E : ax_EN G l) : ax_Snd G l ax_Ym M_X1_vector 29 (S_iret) := k_iret dX1_vector_29 rfl
theorem mt_X1_vector (E : ax_EN G l) : ax_mt G l ax_Ym (5, P_X1_vector) (ax_Ym 240) := ⟨M_X1_vector, yX1_vector, ⟨rfl, by decide +kernel, rfl, (fun h => by cases h), Or.inl ⟨rfl, rfl⟩⟩, fun pc => (ax_sn_node (ax_sn_node (ax_sn_node (ax_sn_node (ax_sn_node (ax_sn_leaf (r_X1_vector_29 E)) (ax_sn_leaf (r_X1_vector_26 E))) (ax_sn_leaf (r_X1_vector_23 E))) (ax_sn_node (ax_sn_leaf (r_X1_vector_21 E)) (ax_sn_leaf (r_X1_vector_20 E)))) (ax_sn_node (ax_sn_node (ax_sn_leaf (r_X1_vector_19 E)) (ax_sn_leaf (r_X1_vector_18 E))) (ax_sn_node (ax_sn_leaf (r_X1_vector_15 E)) (ax_sn_leaf (r_X1_vector_14 E))))) (ax_sn_node (ax_sn_node (ax_sn_node (ax_sn_node (ax_sn_leaf (r_X1_vector_12 E)) (ax_sn_leaf (r_X1_vector_9 E))) (ax_sn_leaf (r_X1_vector_8 E))) (ax_sn_node (ax_sn_leaf (r_X1_vector_7 E)) (ax_sn_leaf (r_X1_vector_6 E)))) (ax_sn_node (ax_sn_node (ax_sn_leaf (r_X1_vector_3 E)) (ax_sn_leaf (r_X1_vector_2 E))) (ax_sn_node (ax_sn_leaf (r_X1_vector_1 E)) (ax_sn_leaf (r_X1_vector_0 E))))))⟩
theorem r_X1_macro_0 (E : ax_EN G l) : ax_Snd G l ax_Ym M_X1_macro 0 (S_iload 1 1) := k_iload_n dX1_macro_0 rfl
theorem r_X1_macro_1 (E : ax_EN G l) : ax_Snd G l ax_Ym M_X1_macro 1 (S_push (.int (0)) 2) := k_iconst dX1_macro_1 rfl
theorem r_X1_macro_2 (E : ax_EN G l) : ax_Snd G l ax_Ym M_X1_macro 2 (S_push (.int (4)) 3) := k_iconst dX1_macro_2 rfl
theorem r_X1_macro_3 (E : ax_EN G l) : ax_Snd G l ax_Ym M_X1_macro 3 (S_is 232 3 6 hd_0) := k_is (en_F E) (ax_ok0 E rfl) ((ev_s y_X1_in q1688 q1689 q118 q1690 nm_X1_in (Nat.le_of_ble_eq_true rfl) dX1_macro_3) : ax_EvS G l ax_Ym M_X1_macro 3 232 3 3)
theorem r_X1_macro_6 (E : ax_EN G l) : ax_Snd G l ax_Ym M_X1_macro 6 (S_pop 7) := k_pop dX1_macro_6
theorem r_X1_macro_7 (E : ax_EN G l) : ax_Snd G l ax_Ym M_X1_macro 7 (S_aload 0 8) := k_aload_n dX1_macro_7 rfl
theorem r_X1_macro_8 (E : ax_EN G l) : ax_Snd G l ax_Ym M_X1_macro 8 (S_new 22 [.int 0, .null] 2 11) := k_new (en_F E) (mk_22 E) q1873 dX1_macro_8
theorem r_X1_macro_11 (E : ax_EN G l) : ax_Snd G l ax_Ym M_X1_macro 11 (S_dup 12) := k_dup dX1_macro_11
theorem r_X1_macro_12 (E : ax_EN G l) : ax_Snd G l ax_Ym M_X1_macro 12 (S_aload 0 13) := k_aload_n dX1_macro_12 rfl
theorem r_X1_macro_13 (E : ax_EN G l) : ax_Snd G l ax_Ym M_X1_macro 13 (S_iload 1 14) := k_iload_n dX1_macro_13 rfl
theorem r_X1_macro_14 (E : ax_EN G l) : ax_Snd G l ax_Ym M_X1_macro 14 (S_isp 275 2 17 hd_0) := k_isp (en_F E) (ax_ok0 E rfl) ((ev_i y_X12_init q1875 q1876 q145 q1877 nm_X12_init rfl (Nat.le_of_ble_eq_true rfl) dX1_macro_14) : ax_EvI G l ax_Ym M_X1_macro 14 275 2 3)
theorem r_X1_macro_17 (E : ax_EN G l) : ax_Snd G l ax_Ym M_X1_macro 17 (S_iv [(19, 233)] 1 20 hd_0) := k_iv (en_F E) (ax_ok0 E rfl) (ax_Evs_cons ((ev_v (en_c E (k := 19) rfl) rfl y_X1_add q1710 q1712 qs21 q118 q1713 nm_X1_add (Nat.le_of_ble_eq_true rfl) dX1_macro_17) : ax_EvV G l ax_Ym M_X1_macro 17 1 3 19 233) ax_Evs_nil)
theorem r_X1_macro_20 (E : ax_EN G l) : ax_Snd G l ax_Ym M_X1_macro 20 (S_iret) := k_iret dX1_macro_20 rfl
theorem mt_X1_macro (E : ax_EN G l) : ax_mt G l ax_Ym (2, P_X1_macro) (ax_Ym 241) := ⟨M_X1_macro, yX1_macro, ⟨rfl, by decide +kernel, rfl, (fun h => by cases h), Or.inl ⟨rfl, rfl⟩⟩, fun pc => (ax_sn_node (ax_sn_node (ax_sn_node (ax_sn_node (ax_sn_leaf (r_X1_macro_20 E)) (ax_sn_leaf (r_X1_macro_17 E))) (ax_sn_node (ax_sn_leaf (r_X1_macro_14 E)) (ax_sn_leaf (r_X1_macro_13 E)))) (ax_sn_node (ax_sn_node (ax_sn_leaf (r_X1_macro_12 E)) (ax_sn_leaf (r_X1_macro_11 E))) (ax_sn_leaf (r_X1_macro_8 E)))) (ax_sn_node (ax_sn_node (ax_sn_node (ax_sn_leaf (r_X1_macro_7 E)) (ax_sn_leaf (r_X1_macro_6 E))) (ax_sn_leaf (r_X1_macro_3 E))) (ax_sn_node (ax_sn_node (ax_sn_leaf (r_X1_macro_2 E)) (ax_sn_leaf (r_X1_macro_1 E))) (ax_sn_leaf (r_X1_macro_0 E)))))⟩
theorem r_X1_endMacro_0 (E : ax_EN G l) : ax_Snd G l ax_Ym M_X1_endMacro 0 (S_aload 0 1) := k_aload_n dX1_endMacro_0 rfl
theorem r_X1_endMacro_1 (E : ax_EN G l) : ax_Snd G l ax_Ym M_X1_endMacro 1 (S_new 23 [.null] 1 4) := k_new (en_F E) (mk_23 E) q1893 dX1_endMacro_1
theorem r_X1_endMacro_4 (E : ax_EN G l) : ax_Snd G l ax_Ym M_X1_endMacro 4 (S_dup 5) := k_dup dX1_endMacro_4
theorem r_X1_endMacro_5 (E : ax_EN G l) : ax_Snd G l ax_Ym M_X1_endMacro 5 (S_aload 0 6) := k_aload_n dX1_endMacro_5 rfl
theorem r_X1_endMacro_6 (E : ax_EN G l) : ax_Snd G l ax_Ym M_X1_endMacro 6 (S_isp 278 1 9 hd_0) := k_isp (en_F E) (ax_ok0 E rfl) ((ev_i y_X13_init q1895 q1896 q146 q1897 nm_X13_init rfl (Nat.le_of_ble_eq_true rfl) dX1_endMacro_6) : ax_EvI G l ax_Ym M_X1_endMacro 6 278 1 3)
theorem r_X1_endMacro_9 (E : ax_EN G l) : ax_Snd G l ax_Ym M_X1_endMacro 9 (S_iv [(19, 233)] 1 12 hd_0) := k_iv (en_F E) (ax_ok0 E rfl) (ax_Evs_cons ((ev_v (en_c E (k := 19) rfl) rfl y_X1_add q1710 q1712 qs21 q118 q1713 nm_X1_add (Nat.le_of_ble_eq_true rfl) dX1_endMacro_9) : ax_EvV G l ax_Ym M_X1_endMacro 9 1 3 19 233) ax_Evs_nil)
theorem r_X1_endMacro_12 (E : ax_EN G l) : ax_Snd G l ax_Ym M_X1_endMacro 12 (S_iret) := k_iret dX1_endMacro_12 rfl
theorem mt_X1_endMacro (E : ax_EN G l) : ax_mt G l ax_Ym (1, P_X1_endMacro) (ax_Ym 242) := ⟨M_X1_endMacro, yX1_endMacro, ⟨rfl, by decide +kernel, rfl, (fun h => by cases h), Or.inl ⟨rfl, rfl⟩⟩, fun pc => (ax_sn_node (ax_sn_node (ax_sn_node (ax_sn_leaf (r_X1_endMacro_12 E)) (ax_sn_leaf (r_X1_endMacro_9 E))) (ax_sn_node (ax_sn_leaf (r_X1_endMacro_6 E)) (ax_sn_leaf (r_X1_endMacro_5 E)))) (ax_sn_node (ax_sn_node (ax_sn_leaf (r_X1_endMacro_4 E)) (ax_sn_leaf (r_X1_endMacro_1 E))) (ax_sn_leaf (r_X1_endMacro_0 E))))⟩
theorem r_X1_use_0 (E : ax_EN G l) : ax_Snd G l ax_Ym M_X1_use 0 (S_iload 1 1) := k_iload_n dX1_use_0 rfl
theorem r_X1_use_1 (E : ax_EN G l) : ax_Snd G l ax_Ym M_X1_use 1 (S_push (.int (0)) 2) := k_iconst dX1_use_1 rfl
theorem r_X1_use_2 (E : ax_EN G l) : ax_Snd G l ax_Ym M_X1_use 2 (S_push (.int (4)) 3) := k_iconst dX1_use_2 rfl
theorem r_X1_use_3 (E : ax_EN G l) : ax_Snd G l ax_Ym M_X1_use 3 (S_is 232 3 6 hd_0) := k_is (en_F E) (ax_ok0 E rfl) ((ev_s y_X1_in q1688 q1689 q118 q1690 nm_X1_in (Nat.le_of_ble_eq_true rfl) dX1_use_3) : ax_EvS G l ax_Ym M_X1_use 3 232 3 3)
theorem r_X1_use_6 (E : ax_EN G l) : ax_Snd G l ax_Ym M_X1_use 6 (S_pop 7) := k_pop dX1_use_6
theorem r_X1_use_7 (E : ax_EN G l) : ax_Snd G l ax_Ym M_X1_use 7 (S_iload 2 8) := k_iload_n dX1_use_7 rfl
theorem r_X1_use_8 (E : ax_EN G l) : ax_Snd G l ax_Ym M_X1_use 8 (S_iload 3 9) := k_iload_n dX1_use_8 rfl
theorem r_X1_use_9 (E : ax_EN G l) : ax_Snd G l ax_Ym M_X1_use 9 (S_is 237 2 12 hd_0) := k_is (en_F E) (ax_ok0 E rfl) ((ev_s y_X1_operand q1762 q1763 q118 q1764 nm_X1_operand (Nat.le_of_ble_eq_true rfl) dX1_use_9) : ax_EvS G l ax_Ym M_X1_use 9 237 2 3)
theorem r_X1_use_12 (E : ax_EN G l) : ax_Snd G l ax_Ym M_X1_use 12 (S_astore 6 14) := k_astore dX1_use_12 (Nat.le_of_ble_eq_true rfl)
theorem r_X1_use_14 (E : ax_EN G l) : ax_Snd G l ax_Ym M_X1_use 14 (S_iload 4 16) := k_iload dX1_use_14
theorem r_X1_use_16 (E : ax_EN G l) : ax_Snd G l ax_Ym M_X1_use 16 (S_iload 5 18) := k_iload dX1_use_16
theorem r_X1_use_18 (E : ax_EN G l) : ax_Snd G l ax_Ym M_X1_use 18 (S_is 237 2 21 hd_0) := k_is (en_F E) (ax_ok0 E rfl) ((ev_s y_X1_operand q1762 q1763 q118 q1764 nm_X1_operand (Nat.le_of_ble_eq_true rfl) dX1_use_18) : ax_EvS G l ax_Ym M_X1_use 18 237 2 3)
theorem r_X1_use_21 (E : ax_EN G l) : ax_Snd G l ax_Ym M_X1_use 21 (S_astore 7 23) := k_astore dX1_use_21 (Nat.le_of_ble_eq_true rfl)
theorem r_X1_use_23 (E : ax_EN G l) : ax_Snd G l ax_Ym M_X1_use 23 (S_aload 0 24) := k_aload_n dX1_use_23 rfl
theorem r_X1_use_24 (E : ax_EN G l) : ax_Snd G l ax_Ym M_X1_use 24 (S_new 24 [.int 0, .null, .null, .null] 4 27) := k_new (en_F E) (mk_24 E) q1910 dX1_use_24
theorem r_X1_use_27 (E : ax_EN G l) : ax_Snd G l ax_Ym M_X1_use 27 (S_dup 28) := k_dup dX1_use_27
theorem r_X1_use_28 (E : ax_EN G l) : ax_Snd G l ax_Ym M_X1_use 28 (S_aload 0 29) := k_aload_n dX1_use_28 rfl
theorem r_X1_use_29 (E : ax_EN G l) : ax_Snd G l ax_Ym M_X1_use 29 (S_iload 1 30) := k_iload_n dX1_use_29 rfl
theorem r_X1_use_30 (E : ax_EN G l) : ax_Snd G l ax_Ym M_X1_use 30 (S_aload 6 32) := k_aload dX1_use_30
theorem r_X1_use_32 (E : ax_EN G l) : ax_Snd G l ax_Ym M_X1_use 32 (S_aload 7 34) := k_aload dX1_use_32
theorem r_X1_use_34 (E : ax_EN G l) : ax_Snd G l ax_Ym M_X1_use 34 (S_isp 280 4 37 hd_0) := k_isp (en_F E) (ax_ok0 E rfl) ((ev_i y_X14_init q1912 q1913 q147 q1914 nm_X14_init rfl (Nat.le_of_ble_eq_true rfl) dX1_use_34) : ax_EvI G l ax_Ym M_X1_use 34 280 4 3)
theorem r_X1_use_37 (E : ax_EN G l) : ax_Snd G l ax_Ym M_X1_use 37 (S_iv [(19, 233)] 1 40 hd_0) := k_iv (en_F E) (ax_ok0 E rfl) (ax_Evs_cons ((ev_v (en_c E (k := 19) rfl) rfl y_X1_add q1710 q1712 qs21 q118 q1713 nm_X1_add (Nat.le_of_ble_eq_true rfl) dX1_use_37) : ax_EvV G l ax_Ym M_X1_use 37 1 3 19 233) ax_Evs_nil)
theorem r_X1_use_40 (E : ax_EN G l) : ax_Snd G l ax_Ym M_X1_use 40 (S_iret) := k_iret dX1_use_40 rfl
theorem mt_X1_use (E : ax_EN G l) : ax_mt G l ax_Ym (8, P_X1_use) (ax_Ym 243) := ⟨M_X1_use, yX1_use, ⟨rfl, by decide +kernel, rfl, (fun h => by cases h), Or.inl ⟨rfl, rfl⟩⟩, fun pc => (ax_sn_node (ax_sn_node (ax_sn_node (ax_sn_node (ax_sn_node (ax_sn_leaf (r_X1_use_40 E)) (ax_sn_leaf (r_X1_use_37 E))) (ax_sn_leaf (r_X1_use_34 E))) (ax_sn_node (ax_sn_node (ax_sn_leaf (r_X1_use_32 E)) (ax_sn_leaf (r_X1_use_30 E))) (ax_sn_leaf (r_X1_use_29 E)))) (ax_sn_node (ax_sn_node (ax_sn_node (ax_sn_leaf (r_X1_use_28 E)) (ax_sn_leaf (r_X1_use_27 E))) (ax_sn_leaf (r_X1_use_24 E))) (ax_sn_node (ax_sn_node (ax_sn_leaf (r_X1_use_23 E)) (ax_sn_leaf (r_X1_use_21 E))) (ax_sn_leaf (r_X1_use_18 E))))) (ax_sn_node (ax_sn_node (ax_sn_node (ax_sn_node (ax_sn_leaf (r_X1_use_16 E)) (ax_sn_leaf (r_X1_use_14 E))) (ax_sn_leaf (r_X1_use_12 E))) (ax_sn_node (ax_sn_node (ax_sn_leaf (r_X1_use_9 E)) (ax_sn_leaf (r_X1_use_8 E))) (ax_sn_leaf (r_X1_use_7 E)))) (ax_sn_node (ax_sn_node (ax_sn_node (ax_sn_leaf (r_X1_use_6 E)) (ax_sn_leaf (r_X1_use_3 E))) (ax_sn_leaf (r_X1_use_2 E))) (ax_sn_node (ax_sn_leaf (r_X1_use_1 E)) (ax_sn_leaf (r_X1_use_0 E))))))⟩
theorem hox_X1_assemble_33 (E : ax_EN G l) : ax_hok G M_X1_assemble 33 hd_0 := by
  have hB := en_B E
  have h18 : ax_ho G M_X1_assemble 33 18 none := ⟨_, en_c E (k := 18) rfl, fun s args hs hw => (List.forall_mem_cons.mpr ⟨(Or.inl rfl), (List.forall_mem_nil _)⟩)⟩
  have h0 : ax_ho G M_X1_assemble 33 0 none := ⟨_, en_c E (k := 0) rfl, fun s args hs hw => (List.forall_mem_cons.mpr ⟨(Or.inl rfl), (List.forall_mem_nil _)⟩)⟩
  have h6 : ax_ho G M_X1_assemble 33 6 none := ⟨_, en_c E (k := 6) rfl, fun s args hs hw => (List.forall_mem_cons.mpr ⟨(Or.inl rfl), (List.forall_mem_nil _)⟩)⟩
  have h7 : ax_ho G M_X1_assemble 33 7 none := ⟨_, en_c E (k := 7) rfl, fun s args hs hw => (List.forall_mem_cons.mpr ⟨(Or.inl rfl), (List.forall_mem_nil _)⟩)⟩
  have h28 : ax_ho G M_X1_assemble 33 28 none := ⟨_, en_c E (k := 28) rfl, fun s args hs hw => (List.forall_mem_cons.mpr ⟨(Or.inl rfl), (List.forall_mem_nil _)⟩)⟩
  have h32 : ax_ho G M_X1_assemble 33 32 none := ⟨_, en_c E (k := 32) rfl, fun s args hs hw => (List.forall_mem_cons.mpr ⟨(Or.inl rfl), (List.forall_mem_nil _)⟩)⟩
  have h33 : ax_ho G M_X1_assemble 33 33 none := ⟨_, en_c E (k := 33) rfl, fun s args hs hw => (List.forall_mem_cons.mpr ⟨(Or.inl rfl), (List.forall_mem_nil _)⟩)⟩
  have h34 : ax_ho G M_X1_assemble 33 34 none := ⟨_, en_c E (k := 34) rfl, fun s args hs hw => (List.forall_mem_cons.mpr ⟨(Or.inl rfl), (List.forall_mem_nil _)⟩)⟩
  have h35 : ax_ho G M_X1_assemble 33 35 none := ⟨_, en_c E (k := 35) rfl, fun s args hs hw => (List.forall_mem_cons.mpr ⟨(Or.inl rfl), (List.forall_mem_nil _)⟩)⟩
  have h44 : ax_ho G M_X1_assemble 33 44 none := ⟨_, en_c E (k := 44) rfl, fun s args hs hw => (List.forall_mem_cons.mpr ⟨(Or.inl rfl), (List.forall_mem_nil _)⟩)⟩
  have h45 : ax_ho G M_X1_assemble 33 45 none := ⟨_, en_c E (k := 45) rfl, fun s args hs hw => (List.forall_mem_cons.mpr ⟨(Or.inl rfl), (List.forall_mem_nil _)⟩)⟩
  have h46 : ax_ho G M_X1_assemble 33 46 none := ⟨_, en_c E (k := 46) rfl, fun s args hs hw => (List.forall_mem_cons.mpr ⟨(Or.inl rfl), (List.forall_mem_nil _)⟩)⟩
  intro k o h
  unfold hd_0 at h
  split at h
  · rename_i hk
    cases h
    simp only [List.mem_cons, List.not_mem_nil, or_false] at hk
    rcases hk with rfl | rfl | rfl | rfl | rfl | rfl | rfl | rfl | rfl | rfl | rfl | rfl
    · exact h18
    · exact h0
    · exact h6
    · exact h7
    · exact h28
    · exact h32
    · exact h33
    · exact h34
    · exact h35
    · exact h44
    · exact h45
    · exact h46
  · cases h
theorem r_X1_assemble_0 (E : ax_EN G l) : ax_Snd G l ax_Ym M_X1_assemble 0 (S_new 25 [.null, .null, .null, .null, .int 0, .int 0, .null] 7 3) := k_new (en_F E) (mk_25 E) q384 dX1_assemble_0
theorem r_X1_assemble_3 (E : ax_EN G l) : ax_Snd G l ax_Ym M_X1_assemble 3 (S_dup 4) := k_dup dX1_assemble_3
theorem r_X1_assemble_4 (E : ax_EN G l) : ax_Snd G l ax_Ym M_X1_assemble 4 (S_aload 0 5) := k_aload_n dX1_assemble_4 rfl
theorem r_X1_assemble_5 (E : ax_EN G l) : ax_Snd G l ax_Ym M_X1_assemble 5 (S_isp 281 1 8 (fun k => if k ∈ [28] then some (some 22) else if k ∈ [18, 0, 6, 7, 32, 33, 34, 35, 44, 45, 46] then some none else none)) := k_isp (en_F E) (hok_177 E) ((ev_i y_X15_init q386 q387 q148 q388 nm_X15_init rfl (Nat.le_of_ble_eq_true rfl) dX1_assemble_5) : ax_EvI G l ax_Ym M_X1_assemble 5 281 1 3)
theorem r_X1_assemble_8 (E : ax_EN G l) : ax_Snd G l ax_Ym M_X1_assemble 8 (S_astore 1 9) := k_astore_n dX1_assemble_8 rfl (Nat.le_of_ble_eq_true rfl)
theorem r_X1_assemble_9 (E : ax_EN G l) : ax_Snd G l ax_Ym M_X1_assemble 9 (S_aload 0 10) := k_aload_n dX1_assemble_9 rfl
theorem r_X1_assemble_10 (E : ax_EN G l) : ax_Snd G l ax_Ym M_X1_assemble 10 (S_aload 1 11) := k_aload_n dX1_assemble_10 rfl
theorem r_X1_assemble_11 (E : ax_EN G l) : ax_Snd G l ax_Ym M_X1_assemble 11 (S_getf [(25, 3)] 14) := k_getfN (en_F E) (en_B E) (ax_fes_cons (fe_178 E) ax_fes_nil) q1165 dX1_assemble_11
theorem r_X1_assemble_14 (E : ax_EN G l) : ax_Snd G l ax_Ym M_X1_assemble 14 (S_putf [(19, 5)] (.array (.int)) 17) := k_putf (en_F E) (en_P E) (ax_fes_cons (fe_179 E) ax_fes_nil) (ax_fps_cons (fp_180 E) ax_fps_nil) q327 dX1_assemble_14
theorem r_X1_assemble_17 (E : ax_EN G l) : ax_Snd G l ax_Ym M_X1_assemble 17 (S_aload 1 18) := k_aload_n dX1_assemble_17 rfl
theorem r_X1_assemble_18 (E : ax_EN G l) : ax_Snd G l ax_Ym M_X1_assemble 18 (S_getf [(25, 5)] 21) := k_getfN (en_F E) (en_B E) (ax_fes_cons (fe_155 E) ax_fes_nil) q1169 dX1_assemble_18
theorem r_X1_assemble_21 (E : ax_EN G l) : ax_Snd G l ax_Ym M_X1_assemble 21 (S_iret) := k_iret dX1_assemble_21 rfl
theorem r_X1_assemble_22 (E : ax_EN G l) : ax_Snd G l ax_Ym M_X1_assemble 22 (S_astore 1 23) := k_astore_n dX1_assemble_22 rfl (Nat.le_of_ble_eq_true rfl)
theorem r_X1_assemble_23 (E : ax_EN G l) : ax_Snd G l ax_Ym M_X1_assemble 23 (S_new 44 [.null] 6 26) := k_new (en_F E) (mk_44 E) q1717 dX1_assemble_23
theorem r_X1_assemble_26 (E : ax_EN G l) : ax_Snd G l ax_Ym M_X1_assemble 26 (S_dup 27) := k_dup dX1_assemble_26
theorem r_X1_assemble_27 (E : ax_EN G l) : ax_Snd G l ax_Ym M_X1_assemble 27 (S_push (.ref 292) 29) := k_ldcS (en_x E 3 rfl) dX1_assemble_27
theorem r_X1_assemble_29 (E : ax_EN G l) : ax_Snd G l ax_Ym M_X1_assemble 29 (S_aload 1 30) := k_aload_n dX1_assemble_29 rfl
theorem r_X1_assemble_30 (E : ax_EN G l) : ax_Snd G l ax_Ym M_X1_assemble 30 (S_isp 4 2 33 hd_0) := k_isp (en_F E) (hok_182 E) ((ev_i y_J10_init_2 q1937 q1938 q133 q1939 nm_J10_init_2 rfl (Nat.le_of_ble_eq_true rfl) dX1_assemble_30) : ax_EvI G l ax_Ym M_X1_assemble 30 4 2 3)
theorem r_X1_assemble_33 (E : ax_EN G l) : ax_Snd G l ax_Ym M_X1_assemble 33 (S_athrow hd_0) := k_athrow (en_F E) (hox_X1_assemble_33 E) dX1_assemble_33
theorem mt_X1_assemble (E : ax_EN G l) : ax_mt G l ax_Ym (2, P_X1_assemble) (ax_Ym 244) := ⟨M_X1_assemble, yX1_assemble, ⟨rfl, by decide +kernel, rfl, (fun h => by cases h), Or.inr rfl⟩, fun pc => (ax_sn_node (ax_sn_node (ax_sn_node (ax_sn_node (ax_sn_node (ax_sn_leaf (r_X1_assemble_33 E)) (ax_sn_leaf (r_X1_assemble_30 E))) (ax_sn_leaf (r_X1_assemble_29 E))) (ax_sn_node (ax_sn_leaf (r_X1_assemble_27 E)) (ax_sn_leaf (r_X1_assemble_26 E)))) (ax_sn_node (ax_sn_node (ax_sn_node (ax_sn_leaf (r_X1_assemble_23 E)) (ax_sn_leaf (r_X1_assemble_22 E))) (ax_sn_leaf (r_X1_assemble_21 E))) (ax_sn_node (ax_sn_leaf (r_X1_assemble_18 E)) (ax_sn_leaf (r_X1_assemble_17 E))))) (ax_sn_node (ax_sn_node (ax_sn_node (ax_sn_node (ax_sn_leaf (r_X1_assemble_14 E)) (ax_sn_leaf (r_X1_assemble_11 E))) (ax_sn_leaf (r_X1_assemble_10 E))) (ax_sn_node (ax_sn_leaf (r_X1_assemble_9 E)) (ax_sn_leaf (r_X1_assemble_8 E)))) (ax_sn_node (ax_sn_node (ax_sn_leaf (r_X1_assemble_5 E)) (ax_sn_leaf (r_X1_assemble_4 E))) (ax_sn_node (ax_sn_leaf (r_X1_assemble_3 E)) (ax_sn_leaf (r_X1_assemble_0 E))))))⟩
theorem r_X1_image_0 (E : ax_EN G l) : ax_Snd G l ax_Ym M_X1_image 0 (S_iload 1 1) := k_iload_n dX1_image_0 rfl
theorem r_X1_image_1 (E : ax_EN G l) : ax_Snd G l ax_Ym M_X1_image 1 (S_push (.int (0)) 2) := k_iconst dX1_image_1 rfl
theorem r_X1_image_2 (E : ax_EN G l) : ax_Snd G l ax_Ym M_X1_image 2 (S_push (.int (255)) 5) := k_sipush dX1_image_2 rfl
theorem r_X1_image_5 (E : ax_EN G l) : ax_Snd G l ax_Ym M_X1_image 5 (S_is 232 3 8 hd_0) := k_is (en_F E) (ax_ok0 E rfl) ((ev_s y_X1_in q1688 q1689 q118 q1690 nm_X1_in (Nat.le_of_ble_eq_true rfl) dX1_image_5) : ax_EvS G l ax_Ym M_X1_image 5 232 3 3)
theorem r_X1_image_8 (E : ax_EN G l) : ax_Snd G l ax_Ym M_X1_image 8 (S_pop 9) := k_pop dX1_image_8
theorem r_X1_image_9 (E : ax_EN G l) : ax_Snd G l ax_Ym M_X1_image 9 (S_aload 0 10) := k_aload_n dX1_image_9 rfl
theorem r_X1_image_10 (E : ax_EN G l) : ax_Snd G l ax_Ym M_X1_image 10 (S_getf [(19, 5)] 13) := k_getf (en_F E) (ax_fes_cons (fe_179 E) ax_fes_nil) q327 dX1_image_10
theorem r_X1_image_13 (E : ax_EN G l) : ax_Snd G l ax_Ym M_X1_image 13 (S_null 20 16) := k_ifnull dX1_image_13 rfl
theorem r_X1_image_16 (E : ax_EN G l) : ax_Snd G l ax_Ym M_X1_image 16 (S_push (.int (1)) 17) := k_iconst dX1_image_16 rfl
theorem r_X1_image_17 (E : ax_EN G l) : ax_Snd G l ax_Ym M_X1_image 17 (S_goto 21) := k_goto dX1_image_17 rfl
theorem r_X1_image_20 (E : ax_EN G l) : ax_Snd G l ax_Ym M_X1_image 20 (S_push (.int (0)) 21) := k_iconst dX1_image_20 rfl
theorem r_X1_image_21 (E : ax_EN G l) : ax_Snd G l ax_Ym M_X1_image 21 (S_is 234 1 24 hd_0) := k_is (en_F E) (ax_ok0 E rfl) ((ev_s y_X1_must q1714 q1715 q118 q1716 nm_X1_must (Nat.le_of_ble_eq_true rfl) dX1_image_21) : ax_EvS G l ax_Ym M_X1_image 21 234 1 3)
theorem r_X1_image_24 (E : ax_EN G l) : ax_Snd G l ax_Ym M_X1_image 24 (S_aload 0 25) := k_aload_n dX1_image_24 rfl
theorem r_X1_image_25 (E : ax_EN G l) : ax_Snd G l ax_Ym M_X1_image 25 (S_getf [(19, 5)] 28) := k_getf (en_F E) (ax_fes_cons (fe_179 E) ax_fes_nil) q327 dX1_image_25
theorem r_X1_image_28 (E : ax_EN G l) : ax_Snd G l ax_Ym M_X1_image 28 (S_iload 1 29) := k_iload_n dX1_image_28 rfl
theorem r_X1_image_29 (E : ax_EN G l) : ax_Snd G l ax_Ym M_X1_image 29 (S_iald 0 30) := k_iald (en_F E) dX1_image_29
theorem r_X1_image_30 (E : ax_EN G l) : ax_Snd G l ax_Ym M_X1_image 30 (S_iret) := k_iret dX1_image_30 rfl
theorem mt_X1_image (E : ax_EN G l) : ax_mt G l ax_Ym (2, P_X1_image) (ax_Ym 245) := ⟨M_X1_image, yX1_image, ⟨rfl, by decide +kernel, rfl, (fun h => by cases h), Or.inl ⟨rfl, rfl⟩⟩, fun pc => (ax_sn_node (ax_sn_node (ax_sn_node (ax_sn_node (ax_sn_node (ax_sn_leaf (r_X1_image_30 E)) (ax_sn_leaf (r_X1_image_29 E))) (ax_sn_leaf (r_X1_image_28 E))) (ax_sn_node (ax_sn_leaf (r_X1_image_25 E)) (ax_sn_leaf (r_X1_image_24 E)))) (ax_sn_node (ax_sn_node (ax_sn_leaf (r_X1_image_21 E)) (ax_sn_leaf (r_X1_image_20 E))) (ax_sn_node (ax_sn_leaf (r_X1_image_17 E)) (ax_sn_leaf (r_X1_image_16 E))))) (ax_sn_node (ax_sn_node (ax_sn_node (ax_sn_leaf (r_X1_image_13 E)) (ax_sn_leaf (r_X1_image_10 E))) (ax_sn_node (ax_sn_leaf (r_X1_image_9 E)) (ax_sn_leaf (r_X1_image_8 E)))) (ax_sn_node (ax_sn_node (ax_sn_leaf (r_X1_image_5 E)) (ax_sn_leaf (r_X1_image_2 E))) (ax_sn_node (ax_sn_leaf (r_X1_image_1 E)) (ax_sn_leaf (r_X1_image_0 E))))))⟩
theorem r_X1_start_0 (E : ax_EN G l) : ax_Snd G l ax_Ym M_X1_start 0 (S_aload 0 1) := k_aload_n dX1_start_0 rfl
theorem r_X1_start_1 (E : ax_EN G l) : ax_Snd G l ax_Ym M_X1_start 1 (S_getf [(19, 1)] 4) := k_getf (en_F E) (ax_fes_cons (fe_142 E) ax_fes_nil) q323 dX1_start_1
theorem r_X1_start_4 (E : ax_EN G l) : ax_Snd G l ax_Ym M_X1_start 4 (S_iv [(29, 309)] 0 7 hd_0) := k_iv (en_F E) (ax_ok0 E rfl) (ax_Evs_cons ((ev_v (en_c E (k := 29) rfl) rfl y_X2_isOn q1963 q1964 q1965 q122 q1966 nm_X2_isOn (Nat.le_of_ble_eq_true rfl) dX1_start_4) : ax_EvV G l ax_Ym M_X1_start 4 0 3 29 309) ax_Evs_nil)
theorem r_X1_start_7 (E : ax_EN G l) : ax_Snd G l ax_Ym M_X1_start 7 (S_if1 (fun x => decide (¬ x = 0)) 21 10) := k_if_ne dX1_start_7 rfl
theorem r_X1_start_10 (E : ax_EN G l) : ax_Snd G l ax_Ym M_X1_start 10 (S_aload 0 11) := k_aload_n dX1_start_10 rfl
theorem r_X1_start_11 (E : ax_EN G l) : ax_Snd G l ax_Ym M_X1_start 11 (S_getf [(19, 5)] 14) := k_getf (en_F E) (ax_fes_cons (fe_179 E) ax_fes_nil) q327 dX1_start_11
theorem r_X1_start_14 (E : ax_EN G l) : ax_Snd G l ax_Ym M_X1_start 14 (S_null 21 17) := k_ifnull dX1_start_14 rfl
theorem r_X1_start_17 (E : ax_EN G l) : ax_Snd G l ax_Ym M_X1_start 17 (S_push (.int (1)) 18) := k_iconst dX1_start_17 rfl
theorem r_X1_start_18 (E : ax_EN G l) : ax_Snd G l ax_Ym M_X1_start 18 (S_goto 22) := k_goto dX1_start_18 rfl
theorem r_X1_start_21 (E : ax_EN G l) : ax_Snd G l ax_Ym M_X1_start 21 (S_push (.int (0)) 22) := k_iconst dX1_start_21 rfl
theorem r_X1_start_22 (E : ax_EN G l) : ax_Snd G l ax_Ym M_X1_start 22 (S_is 234 1 25 hd_0) := k_is (en_F E) (ax_ok0 E rfl) ((ev_s y_X1_must q1714 q1715 q118 q1716 nm_X1_must (Nat.le_of_ble_eq_true rfl) dX1_start_22) : ax_EvS G l ax_Ym M_X1_start 22 234 1 3)
theorem r_X1_start_25 (E : ax_EN G l) : ax_Snd G l ax_Ym M_X1_start 25 (S_aload 0 26) := k_aload_n dX1_start_25 rfl
theorem r_X1_start_26 (E : ax_EN G l) : ax_Snd G l ax_Ym M_X1_start 26 (S_getf [(19, 1)] 29) := k_getf (en_F E) (ax_fes_cons (fe_142 E) ax_fes_nil) q323 dX1_start_26
theorem r_X1_start_29 (E : ax_EN G l) : ax_Snd G l ax_Ym M_X1_start 29 (S_aload 0 30) := k_aload_n dX1_start_29 rfl
theorem r_X1_start_30 (E : ax_EN G l) : ax_Snd G l ax_Ym M_X1_start 30 (S_getf [(19, 5)] 33) := k_getf (en_F E) (ax_fes_cons (fe_179 E) ax_fes_nil) q327 dX1_start_30
theorem r_X1_start_33 (E : ax_EN G l) : ax_Snd G l ax_Ym M_X1_start 33 (S_iv [(29, 310)] 1 36 hd_0) := k_iv (en_F E) (ax_ok0 E rfl) (ax_Evs_cons ((ev_v (en_c E (k := 29) rfl) rfl y_X2_start q1967 q1968 q1969 q122 q1970 nm_X2_start (Nat.le_of_ble_eq_true rfl) dX1_start_33) : ax_EvV G l ax_Ym M_X1_start 33 1 3 29 310) ax_Evs_nil)
theorem r_X1_start_36 (E : ax_EN G l) : ax_Snd G l ax_Ym M_X1_start 36 (S_iret) := k_iret dX1_start_36 rfl
theorem mt_X1_start (E : ax_EN G l) : ax_mt G l ax_Ym (1, P_X1_start) (ax_Ym 246) := ⟨M_X1_start, yX1_start, ⟨rfl, by decide +kernel, rfl, (fun h => by cases h), Or.inl ⟨rfl, rfl⟩⟩, fun pc => (ax_sn_node (ax_sn_node (ax_sn_node (ax_sn_node (ax_sn_node (ax_sn_leaf (r_X1_start_36 E)) (ax_sn_leaf (r_X1_start_33 E))) (ax_sn_leaf (r_X1_start_30 E))) (ax_sn_node (ax_sn_leaf (r_X1_start_29 E)) (ax_sn_leaf (r_X1_start_26 E)))) (ax_sn_node (ax_sn_node (ax_sn_leaf (r_X1_start_25 E)) (ax_sn_leaf (r_X1_start_22 E))) (ax_sn_node (ax_sn_leaf (r_X1_start_21 E)) (ax_sn_leaf (r_X1_start_18 E))))) (ax_sn_node (ax_sn_node (ax_sn_node (ax_sn_leaf (r_X1_start_17 E)) (ax_sn_leaf (r_X1_start_14 E))) (ax_sn_node (ax_sn_leaf (r_X1_start_11 E)) (ax_sn_leaf (r_X1_start_10 E)))) (ax_sn_node (ax_sn_node (ax_sn_leaf (r_X1_start_7 E)) (ax_sn_leaf (r_X1_start_4 E))) (ax_sn_node (ax_sn_leaf (r_X1_start_1 E)) (ax_sn_leaf (r_X1_start_0 E))))))⟩
theorem r_X1_crash_0 (E : ax_EN G l) : ax_Snd G l ax_Ym M_X1_crash 0 (S_aload 0 1) := k_aload_n dX1_crash_0 rfl
theorem r_X1_crash_1 (E : ax_EN G l) : ax_Snd G l ax_Ym M_X1_crash 1 (S_getf [(19, 1)] 4) := k_getf (en_F E) (ax_fes_cons (fe_142 E) ax_fes_nil) q323 dX1_crash_1
theorem r_X1_crash_4 (E : ax_EN G l) : ax_Snd G l ax_Ym M_X1_crash 4 (S_iv [(29, 309)] 0 7 hd_0) := k_iv (en_F E) (ax_ok0 E rfl) (ax_Evs_cons ((ev_v (en_c E (k := 29) rfl) rfl y_X2_isOn q1963 q1964 q1965 q122 q1966 nm_X2_isOn (Nat.le_of_ble_eq_true rfl) dX1_crash_4) : ax_EvV G l ax_Ym M_X1_crash 4 0 3 29 309) ax_Evs_nil)
theorem r_X1_crash_7 (E : ax_EN G l) : ax_Snd G l ax_Ym M_X1_crash 7 (S_is 234 1 10 hd_0) := k_is (en_F E) (ax_ok0 E rfl) ((ev_s y_X1_must q1714 q1715 q118 q1716 nm_X1_must (Nat.le_of_ble_eq_true rfl) dX1_crash_7) : ax_EvS G l ax_Ym M_X1_crash 7 234 1 3)
theorem r_X1_crash_10 (E : ax_EN G l) : ax_Snd G l ax_Ym M_X1_crash 10 (S_aload 0 11) := k_aload_n dX1_crash_10 rfl
theorem r_X1_crash_11 (E : ax_EN G l) : ax_Snd G l ax_Ym M_X1_crash 11 (S_getf [(19, 1)] 14) := k_getf (en_F E) (ax_fes_cons (fe_142 E) ax_fes_nil) q323 dX1_crash_11
theorem r_X1_crash_14 (E : ax_EN G l) : ax_Snd G l ax_Ym M_X1_crash 14 (S_iv [(29, 314)] 0 17 hd_0) := k_iv (en_F E) (ax_ok0 E rfl) (ax_Evs_cons ((ev_v (en_c E (k := 29) rfl) rfl y_X2_crash q1992 q1993 q1994 q122 q1995 nm_X2_crash (Nat.le_of_ble_eq_true rfl) dX1_crash_14) : ax_EvV G l ax_Ym M_X1_crash 14 0 3 29 314) ax_Evs_nil)
theorem r_X1_crash_17 (E : ax_EN G l) : ax_Snd G l ax_Ym M_X1_crash 17 (S_iret) := k_iret dX1_crash_17 rfl
theorem mt_X1_crash (E : ax_EN G l) : ax_mt G l ax_Ym (1, P_X1_crash) (ax_Ym 247) := ⟨M_X1_crash, yX1_crash, ⟨rfl, by decide +kernel, rfl, (fun h => by cases h), Or.inl ⟨rfl, rfl⟩⟩, fun pc => (ax_sn_node (ax_sn_node (ax_sn_node (ax_sn_leaf (r_X1_crash_17 E)) (ax_sn_leaf (r_X1_crash_14 E))) (ax_sn_node (ax_sn_leaf (r_X1_crash_11 E)) (ax_sn_leaf (r_X1_crash_10 E)))) (ax_sn_node (ax_sn_node (ax_sn_leaf (r_X1_crash_7 E)) (ax_sn_leaf (r_X1_crash_4 E))) (ax_sn_node (ax_sn_leaf (r_X1_crash_1 E)) (ax_sn_leaf (r_X1_crash_0 E)))))⟩
theorem r_X1_format_0 (E : ax_EN G l) : ax_Snd G l ax_Ym M_X1_format 0 (S_aload 0 1) := k_aload_n dX1_format_0 rfl
theorem r_X1_format_1 (E : ax_EN G l) : ax_Snd G l ax_Ym M_X1_format 1 (S_getf [(19, 1)] 4) := k_getf (en_F E) (ax_fes_cons (fe_142 E) ax_fes_nil) q323 dX1_format_1
theorem r_X1_format_4 (E : ax_EN G l) : ax_Snd G l ax_Ym M_X1_format 4 (S_iv [(29, 309)] 0 7 hd_0) := k_iv (en_F E) (ax_ok0 E rfl) (ax_Evs_cons ((ev_v (en_c E (k := 29) rfl) rfl y_X2_isOn q1963 q1964 q1965 q122 q1966 nm_X2_isOn (Nat.le_of_ble_eq_true rfl) dX1_format_4) : ax_EvV G l ax_Ym M_X1_format 4 0 3 29 309) ax_Evs_nil)
theorem r_X1_format_7 (E : ax_EN G l) : ax_Snd G l ax_Ym M_X1_format 7 (S_if1 (fun x => decide (¬ x = 0)) 14 10) := k_if_ne dX1_format_7 rfl
theorem r_X1_format_10 (E : ax_EN G l) : ax_Snd G l ax_Ym M_X1_format 10 (S_push (.int (1)) 11) := k_iconst dX1_format_10 rfl
theorem r_X1_format_11 (E : ax_EN G l) : ax_Snd G l ax_Ym M_X1_format 11 (S_goto 15) := k_goto dX1_format_11 rfl
theorem r_X1_format_14 (E : ax_EN G l) : ax_Snd G l ax_Ym M_X1_format 14 (S_push (.int (0)) 15) := k_iconst dX1_format_14 rfl
theorem r_X1_format_15 (E : ax_EN G l) : ax_Snd G l ax_Ym M_X1_format 15 (S_is 234 1 18 hd_0) := k_is (en_F E) (ax_ok0 E rfl) ((ev_s y_X1_must q1714 q1715 q118 q1716 nm_X1_must (Nat.le_of_ble_eq_true rfl) dX1_format_15) : ax_EvS G l ax_Ym M_X1_format 15 234 1 3)
theorem r_X1_format_18 (E : ax_EN G l) : ax_Snd G l ax_Ym M_X1_format 18 (S_aload 0 19) := k_aload_n dX1_format_18 rfl
theorem r_X1_format_19 (E : ax_EN G l) : ax_Snd G l ax_Ym M_X1_format 19 (S_iv [(19, 226)] 0 22 hd_0) := k_iv (en_F E) (ax_ok0 E rfl) (ax_Evs_cons ((ev_v (en_c E (k := 19) rfl) rfl y_X1_files q2011 q1266 q1267 q118 q1268 nm_X1_files (Nat.le_of_ble_eq_true rfl) dX1_format_19) : ax_EvV G l ax_Ym M_X1_format 19 0 3 19 226) ax_Evs_nil)
theorem r_X1_format_22 (E : ax_EN G l) : ax_Snd G l ax_Ym M_X1_format 22 (S_istore 1 23) := k_istore_n dX1_format_22 rfl (Nat.le_of_ble_eq_true rfl)
theorem r_X1_format_23 (E : ax_EN G l) : ax_Snd G l ax_Ym M_X1_format 23 (S_aload 0 24) := k_aload_n dX1_format_23 rfl
theorem r_X1_format_24 (E : ax_EN G l) : ax_Snd G l ax_Ym M_X1_format 24 (S_getf [(19, 1)] 27) := k_getf (en_F E) (ax_fes_cons (fe_142 E) ax_fes_nil) q323 dX1_format_24
theorem r_X1_format_27 (E : ax_EN G l) : ax_Snd G l ax_Ym M_X1_format 27 (S_iv [(29, 299)] 0 30 hd_0) := k_iv (en_F E) (ax_ok0 E rfl) (ax_Evs_cons ((ev_v (en_c E (k := 29) rfl) rfl y_X2_format q2012 q280 q281 q122 q282 nm_X2_format (Nat.le_of_ble_eq_true rfl) dX1_format_27) : ax_EvV G l ax_Ym M_X1_format 27 0 3 29 299) ax_Evs_nil)
theorem r_X1_format_30 (E : ax_EN G l) : ax_Snd G l ax_Ym M_X1_format 30 (S_iload 1 31) := k_iload_n dX1_format_30 rfl
theorem r_X1_format_31 (E : ax_EN G l) : ax_Snd G l ax_Ym M_X1_format 31 (S_iret) := k_iret dX1_format_31 rfl
theorem mt_X1_format (E : ax_EN G l) : ax_mt G l ax_Ym (2, P_X1_format) (ax_Ym 248) := ⟨M_X1_format, yX1_format, ⟨rfl, by decide +kernel, rfl, (fun h => by cases h), Or.inl ⟨rfl, rfl⟩⟩, fun pc => (ax_sn_node (ax_sn_node (ax_sn_node (ax_sn_node (ax_sn_leaf (r_X1_format_31 E)) (ax_sn_leaf (r_X1_format_30 E))) (ax_sn_node (ax_sn_leaf (r_X1_format_27 E)) (ax_sn_leaf (r_X1_format_24 E)))) (ax_sn_node (ax_sn_node (ax_sn_leaf (r_X1_format_23 E)) (ax_sn_leaf (r_X1_format_22 E))) (ax_sn_node (ax_sn_leaf (r_X1_format_19 E)) (ax_sn_leaf (r_X1_format_18 E))))) (ax_sn_node (ax_sn_node (ax_sn_node (ax_sn_leaf (r_X1_format_15 E)) (ax_sn_leaf (r_X1_format_14 E))) (ax_sn_node (ax_sn_leaf (r_X1_format_11 E)) (ax_sn_leaf (r_X1_format_10 E)))) (ax_sn_node (ax_sn_node (ax_sn_leaf (r_X1_format_7 E)) (ax_sn_leaf (r_X1_format_4 E))) (ax_sn_node (ax_sn_leaf (r_X1_format_1 E)) (ax_sn_leaf (r_X1_format_0 E))))))⟩
theorem r_X1_step_0 (E : ax_EN G l) : ax_Snd G l ax_Ym M_X1_step 0 (S_iload 1 1) := k_iload_n dX1_step_0 rfl
theorem r_X1_step_1 (E : ax_EN G l) : ax_Snd G l ax_Ym M_X1_step 1 (S_push (.int (1)) 2) := k_iconst dX1_step_1 rfl
theorem r_X1_step_2 (E : ax_EN G l) : ax_Snd G l ax_Ym M_X1_step 2 (S_push (.int (100)) 4) := k_bipush dX1_step_2 rfl
theorem r_X1_step_4 (E : ax_EN G l) : ax_Snd G l ax_Ym M_X1_step 4 (S_is 232 3 7 hd_0) := k_is (en_F E) (ax_ok0 E rfl) ((ev_s y_X1_in q1688 q1689 q118 q1690 nm_X1_in (Nat.le_of_ble_eq_true rfl) dX1_step_4) : ax_EvS G l ax_Ym M_X1_step 4 232 3 3)
theorem r_X1_step_7 (E : ax_EN G l) : ax_Snd G l ax_Ym M_X1_step 7 (S_pop 8) := k_pop dX1_step_7
theorem r_X1_step_8 (E : ax_EN G l) : ax_Snd G l ax_Ym M_X1_step 8 (S_aload 0 9) := k_aload_n dX1_step_8 rfl
theorem r_X1_step_9 (E : ax_EN G l) : ax_Snd G l ax_Ym M_X1_step 9 (S_getf [(19, 1)] 12) := k_getf (en_F E) (ax_fes_cons (fe_142 E) ax_fes_nil) q323 dX1_step_9
theorem r_X1_step_12 (E : ax_EN G l) : ax_Snd G l ax_Ym M_X1_step 12 (S_iv [(29, 309)] 0 15 hd_0) := k_iv (en_F E) (ax_ok0 E rfl) (ax_Evs_cons ((ev_v (en_c E (k := 29) rfl) rfl y_X2_isOn q1963 q1964 q1965 q122 q1966 nm_X2_isOn (Nat.le_of_ble_eq_true rfl) dX1_step_12) : ax_EvV G l ax_Ym M_X1_step 12 0 3 29 309) ax_Evs_nil)
theorem r_X1_step_15 (E : ax_EN G l) : ax_Snd G l ax_Ym M_X1_step 15 (S_is 234 1 18 hd_0) := k_is (en_F E) (ax_ok0 E rfl) ((ev_s y_X1_must q1714 q1715 q118 q1716 nm_X1_must (Nat.le_of_ble_eq_true rfl) dX1_step_15) : ax_EvS G l ax_Ym M_X1_step 15 234 1 3)
theorem r_X1_step_18 (E : ax_EN G l) : ax_Snd G l ax_Ym M_X1_step 18 (S_push (.int (0)) 19) := k_iconst dX1_step_18 rfl
theorem r_X1_step_19 (E : ax_EN G l) : ax_Snd G l ax_Ym M_X1_step 19 (S_istore 2 20) := k_istore_n dX1_step_19 rfl (Nat.le_of_ble_eq_true rfl)
theorem r_X1_step_20 (E : ax_EN G l) : ax_Snd G l ax_Ym M_X1_step 20 (S_iload 2 21) := k_iload_n dX1_step_20 rfl
theorem r_X1_step_21 (E : ax_EN G l) : ax_Snd G l ax_Ym M_X1_step 21 (S_iload 1 22) := k_iload_n dX1_step_21 rfl
theorem r_X1_step_22 (E : ax_EN G l) : ax_Snd G l ax_Ym M_X1_step 22 (S_if2 (fun x y => decide (y ≤ x)) 48 25) := k_icmp_ge dX1_step_22 rfl
theorem r_X1_step_25 (E : ax_EN G l) : ax_Snd G l ax_Ym M_X1_step 25 (S_aload 0 26) := k_aload_n dX1_step_25 rfl
theorem r_X1_step_26 (E : ax_EN G l) : ax_Snd G l ax_Ym M_X1_step 26 (S_getf [(19, 1)] 29) := k_getf (en_F E) (ax_fes_cons (fe_142 E) ax_fes_nil) q323 dX1_step_26
theorem r_X1_step_29 (E : ax_EN G l) : ax_Snd G l ax_Ym M_X1_step 29 (S_iv [(29, 315)] 0 32 hd_0) := k_iv (en_F E) (ax_ok0 E rfl) (ax_Evs_cons ((ev_v (en_c E (k := 29) rfl) rfl y_X2_goesOn q2020 q2021 q2022 q122 q2023 nm_X2_goesOn (Nat.le_of_ble_eq_true rfl) dX1_step_29) : ax_EvV G l ax_Ym M_X1_step 29 0 3 29 315) ax_Evs_nil)
theorem r_X1_step_32 (E : ax_EN G l) : ax_Snd G l ax_Ym M_X1_step 32 (S_if1 (fun x => decide (x = 0)) 48 35) := k_if_eq dX1_step_32 rfl
theorem r_X1_step_35 (E : ax_EN G l) : ax_Snd G l ax_Ym M_X1_step 35 (S_aload 0 36) := k_aload_n dX1_step_35 rfl
theorem r_X1_step_36 (E : ax_EN G l) : ax_Snd G l ax_Ym M_X1_step 36 (S_getf [(19, 1)] 39) := k_getf (en_F E) (ax_fes_cons (fe_142 E) ax_fes_nil) q323 dX1_step_36
theorem r_X1_step_39 (E : ax_EN G l) : ax_Snd G l ax_Ym M_X1_step 39 (S_iv [(29, 316)] 0 42 hd_0) := k_iv (en_F E) (ax_ok0 E rfl) (ax_Evs_cons ((ev_vW (en_c E (k := 29) rfl) rfl y_X2_make q2024 q2025 q2026 q122 q2027 nm_X2_make (Nat.le_of_ble_eq_true rfl) dX1_step_39) : ax_EvV G l ax_Ym M_X1_step 39 0 3 29 316) ax_Evs_nil)
theorem r_X1_step_42 (E : ax_EN G l) : ax_Snd G l ax_Ym M_X1_step 42 (S_iinc 2 (1) 45) := k_iinc dX1_step_42 rfl (Nat.le_of_ble_eq_true rfl)
theorem r_X1_step_45 (E : ax_EN G l) : ax_Snd G l ax_Ym M_X1_step 45 (S_goto 20) := k_goto dX1_step_45 rfl
theorem r_X1_step_48 (E : ax_EN G l) : ax_Snd G l ax_Ym M_X1_step 48 (S_iload 2 49) := k_iload_n dX1_step_48 rfl
theorem r_X1_step_49 (E : ax_EN G l) : ax_Snd G l ax_Ym M_X1_step 49 (S_iret) := k_iret dX1_step_49 rfl
theorem mt_X1_step (E : ax_EN G l) : ax_mt G l ax_Ym (3, P_X1_step) (ax_Ym 249) := ⟨M_X1_step, yX1_step, ⟨rfl, by decide +kernel, rfl, (fun h => by cases h), Or.inl ⟨rfl, rfl⟩⟩, fun pc => (ax_sn_node (ax_sn_node (ax_sn_node (ax_sn_node (ax_sn_node (ax_sn_leaf (r_X1_step_49 E)) (ax_sn_leaf (r_X1_step_48 E))) (ax_sn_node (ax_sn_leaf (r_X1_step_45 E)) (ax_sn_leaf (r_X1_step_42 E)))) (ax_sn_node (ax_sn_node (ax_sn_leaf (r_X1_step_39 E)) (ax_sn_leaf (r_X1_step_36 E))) (ax_sn_leaf (r_X1_step_35 E)))) (ax_sn_node (ax_sn_node (ax_sn_node (ax_sn_leaf (r_X1_step_32 E)) (ax_sn_leaf (r_X1_step_29 E))) (ax_sn_leaf (r_X1_step_26 E))) (ax_sn_node (ax_sn_node (ax_sn_leaf (r_X1_step_25 E)) (ax_sn_leaf (r_X1_step_22 E))) (ax_sn_leaf (r_X1_step_21 E))))) (ax_sn_node (ax_sn_node (ax_sn_node (ax_sn_node (ax_sn_leaf (r_X1_step_20 E)) (ax_sn_leaf (r_X1_step_19 E))) (ax_sn_leaf (r_X1_step_18 E))) (ax_sn_node (ax_sn_node (ax_sn_leaf (r_X1_step_15 E)) (ax_sn_leaf (r_X1_step_12 E))) (ax_sn_leaf (r_X1_step_9 E)))) (ax_sn_node (ax_sn_node (ax_sn_node (ax_sn_leaf (r_X1_step_8 E)) (ax_sn_leaf (r_X1_step_7 E))) (ax_sn_leaf (r_X1_step_4 E))) (ax_sn_node (ax_sn_node (ax_sn_leaf (r_X1_step_2 E)) (ax_sn_leaf (r_X1_step_1 E))) (ax_sn_leaf (r_X1_step_0 E))))))⟩
theorem r_X1_runTo_0 (E : ax_EN G l) : ax_Snd G l ax_Ym M_X1_runTo 0 (S_iload 1 1) := k_iload_n dX1_runTo_0 rfl
theorem r_X1_runTo_1 (E : ax_EN G l) : ax_Snd G l ax_Ym M_X1_runTo 1 (S_push (.int (0)) 2) := k_iconst dX1_runTo_1 rfl
theorem r_X1_runTo_2 (E : ax_EN G l) : ax_Snd G l ax_Ym M_X1_runTo 2 (S_push (.int (255)) 5) := k_sipush dX1_runTo_2 rfl
theorem r_X1_runTo_5 (E : ax_EN G l) : ax_Snd G l ax_Ym M_X1_runTo 5 (S_is 232 3 8 hd_0) := k_is (en_F E) (ax_ok0 E rfl) ((ev_s y_X1_in q1688 q1689 q118 q1690 nm_X1_in (Nat.le_of_ble_eq_true rfl) dX1_runTo_5) : ax_EvS G l ax_Ym M_X1_runTo 5 232 3 3)
theorem r_X1_runTo_8 (E : ax_EN G l) : ax_Snd G l ax_Ym M_X1_runTo 8 (S_pop 9) := k_pop dX1_runTo_8
theorem r_X1_runTo_9 (E : ax_EN G l) : ax_Snd G l ax_Ym M_X1_runTo 9 (S_iload 2 10) := k_iload_n dX1_runTo_9 rfl
theorem r_X1_runTo_10 (E : ax_EN G l) : ax_Snd G l ax_Ym M_X1_runTo 10 (S_push (.int (1)) 11) := k_iconst dX1_runTo_10 rfl
theorem r_X1_runTo_11 (E : ax_EN G l) : ax_Snd G l ax_Ym M_X1_runTo 11 (S_push (.int (100)) 13) := k_bipush dX1_runTo_11 rfl
theorem r_X1_runTo_13 (E : ax_EN G l) : ax_Snd G l ax_Ym M_X1_runTo 13 (S_is 232 3 16 hd_0) := k_is (en_F E) (ax_ok0 E rfl) ((ev_s y_X1_in q1688 q1689 q118 q1690 nm_X1_in (Nat.le_of_ble_eq_true rfl) dX1_runTo_13) : ax_EvS G l ax_Ym M_X1_runTo 13 232 3 3)
theorem r_X1_runTo_16 (E : ax_EN G l) : ax_Snd G l ax_Ym M_X1_runTo 16 (S_pop 17) := k_pop dX1_runTo_16
theorem r_X1_runTo_17 (E : ax_EN G l) : ax_Snd G l ax_Ym M_X1_runTo 17 (S_aload 0 18) := k_aload_n dX1_runTo_17 rfl
theorem r_X1_runTo_18 (E : ax_EN G l) : ax_Snd G l ax_Ym M_X1_runTo 18 (S_getf [(19, 1)] 21) := k_getf (en_F E) (ax_fes_cons (fe_142 E) ax_fes_nil) q323 dX1_runTo_18
theorem r_X1_runTo_21 (E : ax_EN G l) : ax_Snd G l ax_Ym M_X1_runTo 21 (S_iv [(29, 309)] 0 24 hd_0) := k_iv (en_F E) (ax_ok0 E rfl) (ax_Evs_cons ((ev_v (en_c E (k := 29) rfl) rfl y_X2_isOn q1963 q1964 q1965 q122 q1966 nm_X2_isOn (Nat.le_of_ble_eq_true rfl) dX1_runTo_21) : ax_EvV G l ax_Ym M_X1_runTo 21 0 3 29 309) ax_Evs_nil)
theorem r_X1_runTo_24 (E : ax_EN G l) : ax_Snd G l ax_Ym M_X1_runTo 24 (S_is 234 1 27 hd_0) := k_is (en_F E) (ax_ok0 E rfl) ((ev_s y_X1_must q1714 q1715 q118 q1716 nm_X1_must (Nat.le_of_ble_eq_true rfl) dX1_runTo_24) : ax_EvS G l ax_Ym M_X1_runTo 24 234 1 3)
theorem r_X1_runTo_27 (E : ax_EN G l) : ax_Snd G l ax_Ym M_X1_runTo 27 (S_push (.int (0)) 28) := k_iconst dX1_runTo_27 rfl
theorem r_X1_runTo_28 (E : ax_EN G l) : ax_Snd G l ax_Ym M_X1_runTo 28 (S_istore 3 29) := k_istore_n dX1_runTo_28 rfl (Nat.le_of_ble_eq_true rfl)
theorem r_X1_runTo_29 (E : ax_EN G l) : ax_Snd G l ax_Ym M_X1_runTo 29 (S_push (.int (0)) 30) := k_iconst dX1_runTo_29 rfl
theorem r_X1_runTo_30 (E : ax_EN G l) : ax_Snd G l ax_Ym M_X1_runTo 30 (S_istore 4 32) := k_istore dX1_runTo_30 (Nat.le_of_ble_eq_true rfl)
theorem r_X1_runTo_32 (E : ax_EN G l) : ax_Snd G l ax_Ym M_X1_runTo 32 (S_iload 4 34) := k_iload dX1_runTo_32
theorem r_X1_runTo_34 (E : ax_EN G l) : ax_Snd G l ax_Ym M_X1_runTo 34 (S_if1 (fun x => decide (¬ x = 0)) 98 37) := k_if_ne dX1_runTo_34 rfl
theorem r_X1_runTo_37 (E : ax_EN G l) : ax_Snd G l ax_Ym M_X1_runTo 37 (S_iload 3 38) := k_iload_n dX1_runTo_37 rfl
theorem r_X1_runTo_38 (E : ax_EN G l) : ax_Snd G l ax_Ym M_X1_runTo 38 (S_iload 2 39) := k_iload_n dX1_runTo_38 rfl
theorem r_X1_runTo_39 (E : ax_EN G l) : ax_Snd G l ax_Ym M_X1_runTo 39 (S_if2 (fun x y => decide (y ≤ x)) 98 42) := k_icmp_ge dX1_runTo_39 rfl
theorem r_X1_runTo_42 (E : ax_EN G l) : ax_Snd G l ax_Ym M_X1_runTo 42 (S_aload 0 43) := k_aload_n dX1_runTo_42 rfl
theorem r_X1_runTo_43 (E : ax_EN G l) : ax_Snd G l ax_Ym M_X1_runTo 43 (S_getf [(19, 1)] 46) := k_getf (en_F E) (ax_fes_cons (fe_142 E) ax_fes_nil) q323 dX1_runTo_43
theorem r_X1_runTo_46 (E : ax_EN G l) : ax_Snd G l ax_Ym M_X1_runTo 46 (S_iv [(29, 315)] 0 49 hd_0) := k_iv (en_F E) (ax_ok0 E rfl) (ax_Evs_cons ((ev_v (en_c E (k := 29) rfl) rfl y_X2_goesOn q2020 q2021 q2022 q122 q2023 nm_X2_goesOn (Nat.le_of_ble_eq_true rfl) dX1_runTo_46) : ax_EvV G l ax_Ym M_X1_runTo 46 0 3 29 315) ax_Evs_nil)
theorem r_X1_runTo_49 (E : ax_EN G l) : ax_Snd G l ax_Ym M_X1_runTo 49 (S_if1 (fun x => decide (x = 0)) 98 52) := k_if_eq dX1_runTo_49 rfl
theorem r_X1_runTo_52 (E : ax_EN G l) : ax_Snd G l ax_Ym M_X1_runTo 52 (S_aload 0 53) := k_aload_n dX1_runTo_52 rfl
theorem r_X1_runTo_53 (E : ax_EN G l) : ax_Snd G l ax_Ym M_X1_runTo 53 (S_getf [(19, 1)] 56) := k_getf (en_F E) (ax_fes_cons (fe_142 E) ax_fes_nil) q323 dX1_runTo_53
theorem r_X1_runTo_56 (E : ax_EN G l) : ax_Snd G l ax_Ym M_X1_runTo 56 (S_iv [(29, 316)] 0 59 hd_0) := k_iv (en_F E) (ax_ok0 E rfl) (ax_Evs_cons ((ev_vW (en_c E (k := 29) rfl) rfl y_X2_make q2024 q2025 q2026 q122 q2027 nm_X2_make (Nat.le_of_ble_eq_true rfl) dX1_runTo_56) : ax_EvV G l ax_Ym M_X1_runTo 56 0 3 29 316) ax_Evs_nil)
theorem r_X1_runTo_59 (E : ax_EN G l) : ax_Snd G l ax_Ym M_X1_runTo 59 (S_iinc 3 (1) 62) := k_iinc dX1_runTo_59 rfl (Nat.le_of_ble_eq_true rfl)
theorem r_X1_runTo_62 (E : ax_EN G l) : ax_Snd G l ax_Ym M_X1_runTo 62 (S_aload 0 63) := k_aload_n dX1_runTo_62 rfl
theorem r_X1_runTo_63 (E : ax_EN G l) : ax_Snd G l ax_Ym M_X1_runTo 63 (S_getf [(19, 1)] 66) := k_getf (en_F E) (ax_fes_cons (fe_142 E) ax_fes_nil) q323 dX1_runTo_63
theorem r_X1_runTo_66 (E : ax_EN G l) : ax_Snd G l ax_Ym M_X1_runTo 66 (S_getf [(29, 0)] 69) := k_getfN (en_F E) (en_B E) (ax_fes_cons (fe_158 E) ax_fes_nil) q285 dX1_runTo_66
theorem r_X1_runTo_69 (E : ax_EN G l) : ax_Snd G l ax_Ym M_X1_runTo 69 (S_push (.int (3)) 70) := k_iconst dX1_runTo_69 rfl
theorem r_X1_runTo_70 (E : ax_EN G l) : ax_Snd G l ax_Ym M_X1_runTo 70 (S_iald 0 71) := k_iald (en_F E) dX1_runTo_70
theorem r_X1_runTo_71 (E : ax_EN G l) : ax_Snd G l ax_Ym M_X1_runTo 71 (S_iload 1 72) := k_iload_n dX1_runTo_71 rfl
theorem r_X1_runTo_72 (E : ax_EN G l) : ax_Snd G l ax_Ym M_X1_runTo 72 (S_if2 (fun x y => decide (¬ x = y)) 92 75) := k_icmp_ne dX1_runTo_72 rfl
theorem r_X1_runTo_75 (E : ax_EN G l) : ax_Snd G l ax_Ym M_X1_runTo 75 (S_aload 0 76) := k_aload_n dX1_runTo_75 rfl
theorem r_X1_runTo_76 (E : ax_EN G l) : ax_Snd G l ax_Ym M_X1_runTo 76 (S_getf [(19, 1)] 79) := k_getf (en_F E) (ax_fes_cons (fe_142 E) ax_fes_nil) q323 dX1_runTo_76
theorem r_X1_runTo_79 (E : ax_EN G l) : ax_Snd G l ax_Ym M_X1_runTo 79 (S_getf [(29, 0)] 82) := k_getfN (en_F E) (en_B E) (ax_fes_cons (fe_158 E) ax_fes_nil) q285 dX1_runTo_79
theorem r_X1_runTo_82 (E : ax_EN G l) : ax_Snd G l ax_Ym M_X1_runTo 82 (S_push (.int (18)) 84) := k_bipush dX1_runTo_82 rfl
theorem r_X1_runTo_84 (E : ax_EN G l) : ax_Snd G l ax_Ym M_X1_runTo 84 (S_iald 0 85) := k_iald (en_F E) dX1_runTo_84
theorem r_X1_runTo_85 (E : ax_EN G l) : ax_Snd G l ax_Ym M_X1_runTo 85 (S_if1 (fun x => decide (¬ x = 0)) 92 88) := k_if_ne dX1_runTo_85 rfl
theorem r_X1_runTo_88 (E : ax_EN G l) : ax_Snd G l ax_Ym M_X1_runTo 88 (S_push (.int (1)) 89) := k_iconst dX1_runTo_88 rfl
theorem r_X1_runTo_89 (E : ax_EN G l) : ax_Snd G l ax_Ym M_X1_runTo 89 (S_goto 93) := k_goto dX1_runTo_89 rfl
theorem r_X1_runTo_92 (E : ax_EN G l) : ax_Snd G l ax_Ym M_X1_runTo 92 (S_push (.int (0)) 93) := k_iconst dX1_runTo_92 rfl
theorem r_X1_runTo_93 (E : ax_EN G l) : ax_Snd G l ax_Ym M_X1_runTo 93 (S_istore 4 95) := k_istore dX1_runTo_93 (Nat.le_of_ble_eq_true rfl)
theorem r_X1_runTo_95 (E : ax_EN G l) : ax_Snd G l ax_Ym M_X1_runTo 95 (S_goto 32) := k_goto dX1_runTo_95 rfl
theorem r_X1_runTo_98 (E : ax_EN G l) : ax_Snd G l ax_Ym M_X1_runTo 98 (S_iload 3 99) := k_iload_n dX1_runTo_98 rfl
theorem r_X1_runTo_99 (E : ax_EN G l) : ax_Snd G l ax_Ym M_X1_runTo 99 (S_iret) := k_iret dX1_runTo_99 rfl
theorem mt_X1_runTo (E : ax_EN G l) : ax_mt G l ax_Ym (5, P_X1_runTo) (ax_Ym 250) := ⟨M_X1_runTo, yX1_runTo, ⟨rfl, by decide +kernel, rfl, (fun h => by cases h), Or.inl ⟨rfl, rfl⟩⟩, fun pc => (ax_sn_node (ax_sn_node (ax_sn_node (ax_sn_node (ax_sn_node (ax_sn_node (ax_sn_leaf (r_X1_runTo_99 E)) (ax_sn_leaf (r_X1_runTo_98 E))) (ax_sn_node (ax_sn_leaf (r_X1_runTo_95 E)) (ax_sn_leaf (r_X1_runTo_93 E)))) (ax_sn_node (ax_sn_node (ax_sn_leaf (r_X1_runTo_92 E)) (ax_sn_leaf (r_X1_runTo_89 E))) (ax_sn_leaf (r_X1_runTo_88 E)))) (ax_sn_node (ax_sn_node (ax_sn_node (ax_sn_leaf (r_X1_runTo_85 E)) (ax_sn_leaf (r_X1_runTo_84 E))) (ax_sn_leaf (r_X1_runTo_82 E))) (ax_sn_node (ax_sn_node (ax_sn_leaf (r_X1_runTo_79 E)) (ax_sn_leaf (r_X1_runTo_76 E))) (ax_sn_leaf (r_X1_runTo_75 E))))) (ax_sn_node (ax_sn_node (ax_sn_node (ax_sn_node (ax_sn_leaf (r_X1_runTo_72 E)) (ax_sn_leaf (r_X1_runTo_71 E))) (ax_sn_node (ax_sn_leaf (r_X1_runTo_70 E)) (ax_sn_leaf (r_X1_runTo_69 E)))) (ax_sn_node (ax_sn_node (ax_sn_leaf (r_X1_runTo_66 E)) (ax_sn_leaf (r_X1_runTo_63 E))) (ax_sn_leaf (r_X1_runTo_62 E)))) (ax_sn_node (ax_sn_node (ax_sn_node (ax_sn_leaf (r_X1_runTo_59 E)) (ax_sn_leaf (r_X1_runTo_56 E))) (ax_sn_leaf (r_X1_runTo_53 E))) (ax_sn_node (ax_sn_node (ax_sn_leaf (r_X1_runTo_52 E)) (ax_sn_leaf (r_X1_runTo_49 E))) (ax_sn_leaf (r_X1_runTo_46 E)))))) (ax_sn_node (ax_sn_node (ax_sn_node (ax_sn_node (ax_sn_node (ax_sn_leaf (r_X1_runTo_43 E)) (ax_sn_leaf (r_X1_runTo_42 E))) (ax_sn_node (ax_sn_leaf (r_X1_runTo_39 E)) (ax_sn_leaf (r_X1_runTo_38 E)))) (ax_sn_node (ax_sn_node (ax_sn_leaf (r_X1_runTo_37 E)) (ax_sn_leaf (r_X1_runTo_34 E))) (ax_sn_leaf (r_X1_runTo_32 E)))) (ax_sn_node (ax_sn_node (ax_sn_node (ax_sn_leaf (r_X1_runTo_30 E)) (ax_sn_leaf (r_X1_runTo_29 E))) (ax_sn_leaf (r_X1_runTo_28 E))) (ax_sn_node (ax_sn_node (ax_sn_leaf (r_X1_runTo_27 E)) (ax_sn_leaf (r_X1_runTo_24 E))) (ax_sn_leaf (r_X1_runTo_21 E))))) (ax_sn_node (ax_sn_node (ax_sn_node (ax_sn_node (ax_sn_leaf (r_X1_runTo_18 E)) (ax_sn_leaf (r_X1_runTo_17 E))) (ax_sn_leaf (r_X1_runTo_16 E))) (ax_sn_node (ax_sn_node (ax_sn_leaf (r_X1_runTo_13 E)) (ax_sn_leaf (r_X1_runTo_11 E))) (ax_sn_leaf (r_X1_runTo_10 E)))) (ax_sn_node (ax_sn_node (ax_sn_node (ax_sn_leaf (r_X1_runTo_9 E)) (ax_sn_leaf (r_X1_runTo_8 E))) (ax_sn_leaf (r_X1_runTo_5 E))) (ax_sn_node (ax_sn_node (ax_sn_leaf (r_X1_runTo_2 E)) (ax_sn_leaf (r_X1_runTo_1 E))) (ax_sn_leaf (r_X1_runTo_0 E)))))))⟩
theorem r_X1_back_0 (E : ax_EN G l) : ax_Snd G l ax_Ym M_X1_back 0 (S_iload 1 1) := k_iload_n dX1_back_0 rfl
theorem r_X1_back_1 (E : ax_EN G l) : ax_Snd G l ax_Ym M_X1_back 1 (S_push (.int (1)) 2) := k_iconst dX1_back_1 rfl
theorem r_X1_back_2 (E : ax_EN G l) : ax_Snd G l ax_Ym M_X1_back 2 (S_push (.int (200)) 5) := k_sipush dX1_back_2 rfl
theorem r_X1_back_5 (E : ax_EN G l) : ax_Snd G l ax_Ym M_X1_back 5 (S_is 232 3 8 hd_0) := k_is (en_F E) (ax_ok0 E rfl) ((ev_s y_X1_in q1688 q1689 q118 q1690 nm_X1_in (Nat.le_of_ble_eq_true rfl) dX1_back_5) : ax_EvS G l ax_Ym M_X1_back 5 232 3 3)
theorem r_X1_back_8 (E : ax_EN G l) : ax_Snd G l ax_Ym M_X1_back 8 (S_pop 9) := k_pop dX1_back_8
theorem r_X1_back_9 (E : ax_EN G l) : ax_Snd G l ax_Ym M_X1_back 9 (S_aload 0 10) := k_aload_n dX1_back_9 rfl
theorem r_X1_back_10 (E : ax_EN G l) : ax_Snd G l ax_Ym M_X1_back 10 (S_getf [(19, 1)] 13) := k_getf (en_F E) (ax_fes_cons (fe_142 E) ax_fes_nil) q323 dX1_back_10
theorem r_X1_back_13 (E : ax_EN G l) : ax_Snd G l ax_Ym M_X1_back 13 (S_iv [(29, 309)] 0 16 hd_0) := k_iv (en_F E) (ax_ok0 E rfl) (ax_Evs_cons ((ev_v (en_c E (k := 29) rfl) rfl y_X2_isOn q1963 q1964 q1965 q122 q1966 nm_X2_isOn (Nat.le_of_ble_eq_true rfl) dX1_back_13) : ax_EvV G l ax_Ym M_X1_back 13 0 3 29 309) ax_Evs_nil)
theorem r_X1_back_16 (E : ax_EN G l) : ax_Snd G l ax_Ym M_X1_back 16 (S_is 234 1 19 hd_0) := k_is (en_F E) (ax_ok0 E rfl) ((ev_s y_X1_must q1714 q1715 q118 q1716 nm_X1_must (Nat.le_of_ble_eq_true rfl) dX1_back_16) : ax_EvS G l ax_Ym M_X1_back 16 234 1 3)
theorem r_X1_back_19 (E : ax_EN G l) : ax_Snd G l ax_Ym M_X1_back 19 (S_aload 0 20) := k_aload_n dX1_back_19 rfl
theorem r_X1_back_20 (E : ax_EN G l) : ax_Snd G l ax_Ym M_X1_back 20 (S_getf [(19, 1)] 23) := k_getf (en_F E) (ax_fes_cons (fe_142 E) ax_fes_nil) q323 dX1_back_20
theorem r_X1_back_23 (E : ax_EN G l) : ax_Snd G l ax_Ym M_X1_back 23 (S_iload 1 24) := k_iload_n dX1_back_23 rfl
theorem r_X1_back_24 (E : ax_EN G l) : ax_Snd G l ax_Ym M_X1_back 24 (S_iv [(29, 348)] 1 27 hd_0) := k_iv (en_F E) (ax_ok0 E rfl) (ax_Evs_cons ((ev_v (en_c E (k := 29) rfl) rfl y_X2_back q2305 q2306 q2307 q122 q2308 nm_X2_back (Nat.le_of_ble_eq_true rfl) dX1_back_24) : ax_EvV G l ax_Ym M_X1_back 24 1 3 29 348) ax_Evs_nil)
theorem r_X1_back_27 (E : ax_EN G l) : ax_Snd G l ax_Ym M_X1_back 27 (S_iret) := k_iret dX1_back_27 rfl
theorem mt_X1_back (E : ax_EN G l) : ax_mt G l ax_Ym (2, P_X1_back) (ax_Ym 251) := ⟨M_X1_back, yX1_back, ⟨rfl, by decide +kernel, rfl, (fun h => by cases h), Or.inl ⟨rfl, rfl⟩⟩, fun pc => (ax_sn_node (ax_sn_node (ax_sn_node (ax_sn_node (ax_sn_leaf (r_X1_back_27 E)) (ax_sn_leaf (r_X1_back_24 E))) (ax_sn_node (ax_sn_leaf (r_X1_back_23 E)) (ax_sn_leaf (r_X1_back_20 E)))) (ax_sn_node (ax_sn_node (ax_sn_leaf (r_X1_back_19 E)) (ax_sn_leaf (r_X1_back_16 E))) (ax_sn_leaf (r_X1_back_13 E)))) (ax_sn_node (ax_sn_node (ax_sn_node (ax_sn_leaf (r_X1_back_10 E)) (ax_sn_leaf (r_X1_back_9 E))) (ax_sn_node (ax_sn_leaf (r_X1_back_8 E)) (ax_sn_leaf (r_X1_back_5 E)))) (ax_sn_node (ax_sn_node (ax_sn_leaf (r_X1_back_2 E)) (ax_sn_leaf (r_X1_back_1 E))) (ax_sn_leaf (r_X1_back_0 E)))))⟩
theorem r_X1_press_0 (E : ax_EN G l) : ax_Snd G l ax_Ym M_X1_press 0 (S_iload 1 1) := k_iload_n dX1_press_0 rfl
theorem r_X1_press_1 (E : ax_EN G l) : ax_Snd G l ax_Ym M_X1_press 1 (S_push (.int (0)) 2) := k_iconst dX1_press_1 rfl
theorem r_X1_press_2 (E : ax_EN G l) : ax_Snd G l ax_Ym M_X1_press 2 (S_push (.int (65535)) 4) := k_ldc q1767 dX1_press_2
theorem r_X1_press_4 (E : ax_EN G l) : ax_Snd G l ax_Ym M_X1_press 4 (S_is 232 3 7 hd_0) := k_is (en_F E) (ax_ok0 E rfl) ((ev_s y_X1_in q1688 q1689 q118 q1690 nm_X1_in (Nat.le_of_ble_eq_true rfl) dX1_press_4) : ax_EvS G l ax_Ym M_X1_press 4 232 3 3)
theorem r_X1_press_7 (E : ax_EN G l) : ax_Snd G l ax_Ym M_X1_press 7 (S_pop 8) := k_pop dX1_press_7
theorem r_X1_press_8 (E : ax_EN G l) : ax_Snd G l ax_Ym M_X1_press 8 (S_aload 0 9) := k_aload_n dX1_press_8 rfl
theorem r_X1_press_9 (E : ax_EN G l) : ax_Snd G l ax_Ym M_X1_press 9 (S_getf [(19, 1)] 12) := k_getf (en_F E) (ax_fes_cons (fe_142 E) ax_fes_nil) q323 dX1_press_9
theorem r_X1_press_12 (E : ax_EN G l) : ax_Snd G l ax_Ym M_X1_press 12 (S_getf [(29, 0)] 15) := k_getfN (en_F E) (en_B E) (ax_fes_cons (fe_158 E) ax_fes_nil) q285 dX1_press_12
theorem r_X1_press_15 (E : ax_EN G l) : ax_Snd G l ax_Ym M_X1_press 15 (S_push (.int (0)) 16) := k_iconst dX1_press_15 rfl
theorem r_X1_press_16 (E : ax_EN G l) : ax_Snd G l ax_Ym M_X1_press 16 (S_iald 0 17) := k_iald (en_F E) dX1_press_16
theorem r_X1_press_17 (E : ax_EN G l) : ax_Snd G l ax_Ym M_X1_press 17 (S_push (.int (1)) 18) := k_iconst dX1_press_17 rfl
theorem r_X1_press_18 (E : ax_EN G l) : ax_Snd G l ax_Ym M_X1_press 18 (S_if2 (fun x y => decide (¬ x = y)) 40 21) := k_icmp_ne dX1_press_18 rfl
theorem r_X1_press_21 (E : ax_EN G l) : ax_Snd G l ax_Ym M_X1_press 21 (S_aload 0 22) := k_aload_n dX1_press_21 rfl
theorem r_X1_press_22 (E : ax_EN G l) : ax_Snd G l ax_Ym M_X1_press 22 (S_getf [(19, 1)] 25) := k_getf (en_F E) (ax_fes_cons (fe_142 E) ax_fes_nil) q323 dX1_press_22
theorem r_X1_press_25 (E : ax_EN G l) : ax_Snd G l ax_Ym M_X1_press 25 (S_getf [(29, 1)] 28) := k_getfN (en_F E) (en_B E) (ax_fes_cons (fe_183 E) ax_fes_nil) q287 dX1_press_25
theorem r_X1_press_28 (E : ax_EN G l) : ax_Snd G l ax_Ym M_X1_press 28 (S_iv [(15, 125)] 0 31 hd_0) := k_iv (en_F E) (ax_ok0 E rfl) (ax_Evs_cons ((ev_v (en_c E (k := 15) rfl) rfl y_J4_size q2329 q358 q3460 q124 q360 nm_J4_size (Nat.le_of_ble_eq_true rfl) dX1_press_28) : ax_EvV G l ax_Ym M_X1_press 28 0 3 15 125) ax_Evs_nil)
theorem r_X1_press_31 (E : ax_EN G l) : ax_Snd G l ax_Ym M_X1_press 31 (S_push (.int (20)) 33) := k_bipush dX1_press_31 rfl
theorem r_X1_press_33 (E : ax_EN G l) : ax_Snd G l ax_Ym M_X1_press 33 (S_if2 (fun x y => decide (y ≤ x)) 40 36) := k_icmp_ge dX1_press_33 rfl
theorem r_X1_press_36 (E : ax_EN G l) : ax_Snd G l ax_Ym M_X1_press 36 (S_push (.int (1)) 37) := k_iconst dX1_press_36 rfl
theorem r_X1_press_37 (E : ax_EN G l) : ax_Snd G l ax_Ym M_X1_press 37 (S_goto 41) := k_goto dX1_press_37 rfl
theorem r_X1_press_40 (E : ax_EN G l) : ax_Snd G l ax_Ym M_X1_press 40 (S_push (.int (0)) 41) := k_iconst dX1_press_40 rfl
theorem r_X1_press_41 (E : ax_EN G l) : ax_Snd G l ax_Ym M_X1_press 41 (S_is 234 1 44 hd_0) := k_is (en_F E) (ax_ok0 E rfl) ((ev_s y_X1_must q1714 q1715 q118 q1716 nm_X1_must (Nat.le_of_ble_eq_true rfl) dX1_press_41) : ax_EvS G l ax_Ym M_X1_press 41 234 1 3)
theorem r_X1_press_44 (E : ax_EN G l) : ax_Snd G l ax_Ym M_X1_press 44 (S_aload 0 45) := k_aload_n dX1_press_44 rfl
theorem r_X1_press_45 (E : ax_EN G l) : ax_Snd G l ax_Ym M_X1_press 45 (S_getf [(19, 1)] 48) := k_getf (en_F E) (ax_fes_cons (fe_142 E) ax_fes_nil) q323 dX1_press_45
theorem r_X1_press_48 (E : ax_EN G l) : ax_Snd G l ax_Ym M_X1_press 48 (S_iload 1 49) := k_iload_n dX1_press_48 rfl
theorem r_X1_press_49 (E : ax_EN G l) : ax_Snd G l ax_Ym M_X1_press 49 (S_iv [(29, 349)] 1 52 hd_0) := k_iv (en_F E) (ax_ok0 E rfl) (ax_Evs_cons ((ev_v (en_c E (k := 29) rfl) rfl y_X2_press q2330 q2331 q2332 q122 q2333 nm_X2_press (Nat.le_of_ble_eq_true rfl) dX1_press_49) : ax_EvV G l ax_Ym M_X1_press 49 1 3 29 349) ax_Evs_nil)
theorem r_X1_press_52 (E : ax_EN G l) : ax_Snd G l ax_Ym M_X1_press 52 (S_aload 0 53) := k_aload_n dX1_press_52 rfl
theorem r_X1_press_53 (E : ax_EN G l) : ax_Snd G l ax_Ym M_X1_press 53 (S_getf [(19, 1)] 56) := k_getf (en_F E) (ax_fes_cons (fe_142 E) ax_fes_nil) q323 dX1_press_53
theorem r_X1_press_56 (E : ax_EN G l) : ax_Snd G l ax_Ym M_X1_press 56 (S_getf [(29, 1)] 59) := k_getfN (en_F E) (en_B E) (ax_fes_cons (fe_183 E) ax_fes_nil) q287 dX1_press_56
theorem r_X1_press_59 (E : ax_EN G l) : ax_Snd G l ax_Ym M_X1_press 59 (S_iv [(15, 125)] 0 62 hd_0) := k_iv (en_F E) (ax_ok0 E rfl) (ax_Evs_cons ((ev_v (en_c E (k := 15) rfl) rfl y_J4_size q2329 q358 q3460 q124 q360 nm_J4_size (Nat.le_of_ble_eq_true rfl) dX1_press_59) : ax_EvV G l ax_Ym M_X1_press 59 0 3 15 125) ax_Evs_nil)
theorem r_X1_press_62 (E : ax_EN G l) : ax_Snd G l ax_Ym M_X1_press 62 (S_iret) := k_iret dX1_press_62 rfl
theorem mt_X1_press (E : ax_EN G l) : ax_mt G l ax_Ym (2, P_X1_press) (ax_Ym 252) := ⟨M_X1_press, yX1_press, ⟨rfl, by decide +kernel, rfl, (fun h => by cases h), Or.inl ⟨rfl, rfl⟩⟩, fun pc => (ax_sn_node (ax_sn_node (ax_sn_node (ax_sn_node (ax_sn_node (ax_sn_leaf (r_X1_press_62 E)) (ax_sn_leaf (r_X1_press_59 E))) (ax_sn_node (ax_sn_leaf (r_X1_press_56 E)) (ax_sn_leaf (r_X1_press_53 E)))) (ax_sn_node (ax_sn_node (ax_sn_leaf (r_X1_press_52 E)) (ax_sn_leaf (r_X1_press_49 E))) (ax_sn_node (ax_sn_leaf (r_X1_press_48 E)) (ax_sn_leaf (r_X1_press_45 E))))) (ax_sn_node (ax_sn_node (ax_sn_node (ax_sn_leaf (r_X1_press_44 E)) (ax_sn_leaf (r_X1_press_41 E))) (ax_sn_node (ax_sn_leaf (r_X1_press_40 E)) (ax_sn_leaf (r_X1_press_37 E)))) (ax_sn_node (ax_sn_node (ax_sn_leaf (r_X1_press_36 E)) (ax_sn_leaf (r_X1_press_33 E))) (ax_sn_node (ax_sn_leaf (r_X1_press_31 E)) (ax_sn_leaf (r_X1_press_28 E)))))) (ax_sn_node (ax_sn_node (ax_sn_node (ax_sn_node (ax_sn_leaf (r_X1_press_25 E)) (ax_sn_leaf (r_X1_press_22 E))) (ax_sn_node (ax_sn_leaf (r_X1_press_21 E)) (ax_sn_leaf (r_X1_press_18 E)))) (ax_sn_node (ax_sn_node (ax_sn_leaf (r_X1_press_17 E)) (ax_sn_leaf (r_X1_press_16 E))) (ax_sn_node (ax_sn_leaf (r_X1_press_15 E)) (ax_sn_leaf (r_X1_press_12 E))))) (ax_sn_node (ax_sn_node (ax_sn_node (ax_sn_leaf (r_X1_press_9 E)) (ax_sn_leaf (r_X1_press_8 E))) (ax_sn_node (ax_sn_leaf (r_X1_press_7 E)) (ax_sn_leaf (r_X1_press_4 E)))) (ax_sn_node (ax_sn_node (ax_sn_leaf (r_X1_press_2 E)) (ax_sn_leaf (r_X1_press_1 E))) (ax_sn_leaf (r_X1_press_0 E))))))⟩
theorem r_X1_register_0 (E : ax_EN G l) : ax_Snd G l ax_Ym M_X1_register 0 (S_aload 0 1) := k_aload_n dX1_register_0 rfl
theorem r_X1_register_1 (E : ax_EN G l) : ax_Snd G l ax_Ym M_X1_register 1 (S_getf [(19, 1)] 4) := k_getf (en_F E) (ax_fes_cons (fe_142 E) ax_fes_nil) q323 dX1_register_1
theorem r_X1_register_4 (E : ax_EN G l) : ax_Snd G l ax_Ym M_X1_register 4 (S_getf [(29, 0)] 7) := k_getfN (en_F E) (en_B E) (ax_fes_cons (fe_158 E) ax_fes_nil) q285 dX1_register_4
theorem r_X1_register_7 (E : ax_EN G l) : ax_Snd G l ax_Ym M_X1_register 7 (S_push (.int (12)) 9) := k_bipush dX1_register_7 rfl
theorem r_X1_register_9 (E : ax_EN G l) : ax_Snd G l ax_Ym M_X1_register 9 (S_iload 1 10) := k_iload_n dX1_register_9 rfl
theorem r_X1_register_10 (E : ax_EN G l) : ax_Snd G l ax_Ym M_X1_register 10 (S_push (.int (0)) 11) := k_iconst dX1_register_10 rfl
theorem r_X1_register_11 (E : ax_EN G l) : ax_Snd G l ax_Ym M_X1_register 11 (S_push (.int (3)) 12) := k_iconst dX1_register_11 rfl
theorem r_X1_register_12 (E : ax_EN G l) : ax_Snd G l ax_Ym M_X1_register 12 (S_is 232 3 15 hd_0) := k_is (en_F E) (ax_ok0 E rfl) ((ev_s y_X1_in q1688 q1689 q118 q1690 nm_X1_in (Nat.le_of_ble_eq_true rfl) dX1_register_12) : ax_EvS G l ax_Ym M_X1_register 12 232 3 3)
theorem r_X1_register_15 (E : ax_EN G l) : ax_Snd G l ax_Ym M_X1_register 15 (S_i2 (fun x y => x + y) 16) := k_iadd dX1_register_15
theorem r_X1_register_16 (E : ax_EN G l) : ax_Snd G l ax_Ym M_X1_register 16 (S_iald 0 17) := k_iald (en_F E) dX1_register_16
theorem r_X1_register_17 (E : ax_EN G l) : ax_Snd G l ax_Ym M_X1_register 17 (S_iret) := k_iret dX1_register_17 rfl
theorem mt_X1_register (E : ax_EN G l) : ax_mt G l ax_Ym (2, P_X1_register) (ax_Ym 253) := ⟨M_X1_register, yX1_register, ⟨rfl, by decide +kernel, rfl, (fun h => by cases h), Or.inl ⟨rfl, rfl⟩⟩, fun pc => (ax_sn_node (ax_sn_node (ax_sn_node (ax_sn_node (ax_sn_leaf (r_X1_register_17 E)) (ax_sn_leaf (r_X1_register_16 E))) (ax_sn_leaf (r_X1_register_15 E))) (ax_sn_node (ax_sn_node (ax_sn_leaf (r_X1_register_12 E)) (ax_sn_leaf (r_X1_register_11 E))) (ax_sn_leaf (r_X1_register_10 E)))) (ax_sn_node (ax_sn_node (ax_sn_node (ax_sn_leaf (r_X1_register_9 E)) (ax_sn_leaf (r_X1_register_7 E))) (ax_sn_leaf (r_X1_register_4 E))) (ax_sn_node (ax_sn_leaf (r_X1_register_1 E)) (ax_sn_leaf (r_X1_register_0 E)))))⟩
theorem r_X1_memory_0 (E : ax_EN G l) : ax_Snd G l ax_Ym M_X1_memory 0 (S_aload 0 1) := k_aload_n dX1_memory_0 rfl
theorem r_X1_memory_1 (E : ax_EN G l) : ax_Snd G l ax_Ym M_X1_memory 1 (S_getf [(19, 1)] 4) := k_getf (en_F E) (ax_fes_cons (fe_142 E) ax_fes_nil) q323 dX1_memory_1
theorem r_X1_memory_4 (E : ax_EN G l) : ax_Snd G l ax_Ym M_X1_memory 4 (S_getf [(29, 0)] 7) := k_getfN (en_F E) (en_B E) (ax_fes_cons (fe_158 E) ax_fes_nil) q285 dX1_memory_4
theorem r_X1_memory_7 (E : ax_EN G l) : ax_Snd G l ax_Ym M_X1_memory 7 (S_push (.int (108)) 9) := k_bipush dX1_memory_7 rfl
theorem r_X1_memory_9 (E : ax_EN G l) : ax_Snd G l ax_Ym M_X1_memory 9 (S_iload 1 10) := k_iload_n dX1_memory_9 rfl
theorem r_X1_memory_10 (E : ax_EN G l) : ax_Snd G l ax_Ym M_X1_memory 10 (S_push (.int (0)) 11) := k_iconst dX1_memory_10 rfl
theorem r_X1_memory_11 (E : ax_EN G l) : ax_Snd G l ax_Ym M_X1_memory 11 (S_push (.int (255)) 14) := k_sipush dX1_memory_11 rfl
theorem r_X1_memory_14 (E : ax_EN G l) : ax_Snd G l ax_Ym M_X1_memory 14 (S_is 232 3 17 hd_0) := k_is (en_F E) (ax_ok0 E rfl) ((ev_s y_X1_in q1688 q1689 q118 q1690 nm_X1_in (Nat.le_of_ble_eq_true rfl) dX1_memory_14) : ax_EvS G l ax_Ym M_X1_memory 14 232 3 3)
theorem r_X1_memory_17 (E : ax_EN G l) : ax_Snd G l ax_Ym M_X1_memory 17 (S_i2 (fun x y => x + y) 18) := k_iadd dX1_memory_17
theorem r_X1_memory_18 (E : ax_EN G l) : ax_Snd G l ax_Ym M_X1_memory 18 (S_iald 0 19) := k_iald (en_F E) dX1_memory_18
theorem r_X1_memory_19 (E : ax_EN G l) : ax_Snd G l ax_Ym M_X1_memory 19 (S_iret) := k_iret dX1_memory_19 rfl
theorem mt_X1_memory (E : ax_EN G l) : ax_mt G l ax_Ym (2, P_X1_memory) (ax_Ym 254) := ⟨M_X1_memory, yX1_memory, ⟨rfl, by decide +kernel, rfl, (fun h => by cases h), Or.inl ⟨rfl, rfl⟩⟩, fun pc => (ax_sn_node (ax_sn_node (ax_sn_node (ax_sn_node (ax_sn_leaf (r_X1_memory_19 E)) (ax_sn_leaf (r_X1_memory_18 E))) (ax_sn_leaf (r_X1_memory_17 E))) (ax_sn_node (ax_sn_node (ax_sn_leaf (r_X1_memory_14 E)) (ax_sn_leaf (r_X1_memory_11 E))) (ax_sn_leaf (r_X1_memory_10 E)))) (ax_sn_node (ax_sn_node (ax_sn_node (ax_sn_leaf (r_X1_memory_9 E)) (ax_sn_leaf (r_X1_memory_7 E))) (ax_sn_leaf (r_X1_memory_4 E))) (ax_sn_node (ax_sn_leaf (r_X1_memory_1 E)) (ax_sn_leaf (r_X1_memory_0 E)))))⟩
theorem r_X1_changedAt_0 (E : ax_EN G l) : ax_Snd G l ax_Ym M_X1_changedAt 0 (S_aload 0 1) := k_aload_n dX1_changedAt_0 rfl
theorem r_X1_changedAt_1 (E : ax_EN G l) : ax_Snd G l ax_Ym M_X1_changedAt 1 (S_getf [(19, 1)] 4) := k_getf (en_F E) (ax_fes_cons (fe_142 E) ax_fes_nil) q323 dX1_changedAt_1
theorem r_X1_changedAt_4 (E : ax_EN G l) : ax_Snd G l ax_Ym M_X1_changedAt 4 (S_iload 1 5) := k_iload_n dX1_changedAt_4 rfl
theorem r_X1_changedAt_5 (E : ax_EN G l) : ax_Snd G l ax_Ym M_X1_changedAt 5 (S_push (.int (0)) 6) := k_iconst dX1_changedAt_5 rfl
theorem r_X1_changedAt_6 (E : ax_EN G l) : ax_Snd G l ax_Ym M_X1_changedAt 6 (S_push (.int (255)) 9) := k_sipush dX1_changedAt_6 rfl
theorem r_X1_changedAt_9 (E : ax_EN G l) : ax_Snd G l ax_Ym M_X1_changedAt 9 (S_is 232 3 12 hd_0) := k_is (en_F E) (ax_ok0 E rfl) ((ev_s y_X1_in q1688 q1689 q118 q1690 nm_X1_in (Nat.le_of_ble_eq_true rfl) dX1_changedAt_9) : ax_EvS G l ax_Ym M_X1_changedAt 9 232 3 3)
theorem r_X1_changedAt_12 (E : ax_EN G l) : ax_Snd G l ax_Ym M_X1_changedAt 12 (S_iv [(29, 350)] 1 15 hd_0) := k_iv (en_F E) (ax_ok0 E rfl) (ax_Evs_cons ((ev_v (en_c E (k := 29) rfl) rfl y_X2_changedAt q2488 q2489 q2490 q122 q2491 nm_X2_changedAt (Nat.le_of_ble_eq_true rfl) dX1_changedAt_12) : ax_EvV G l ax_Ym M_X1_changedAt 12 1 3 29 350) ax_Evs_nil)
theorem r_X1_changedAt_15 (E : ax_EN G l) : ax_Snd G l ax_Ym M_X1_changedAt 15 (S_iret) := k_iret dX1_changedAt_15 rfl
theorem mt_X1_changedAt (E : ax_EN G l) : ax_mt G l ax_Ym (2, P_X1_changedAt) (ax_Ym 255) := ⟨M_X1_changedAt, yX1_changedAt, ⟨rfl, by decide +kernel, rfl, (fun h => by cases h), Or.inl ⟨rfl, rfl⟩⟩, fun pc => (ax_sn_node (ax_sn_node (ax_sn_node (ax_sn_leaf (r_X1_changedAt_15 E)) (ax_sn_leaf (r_X1_changedAt_12 E))) (ax_sn_node (ax_sn_leaf (r_X1_changedAt_9 E)) (ax_sn_leaf (r_X1_changedAt_6 E)))) (ax_sn_node (ax_sn_node (ax_sn_leaf (r_X1_changedAt_5 E)) (ax_sn_leaf (r_X1_changedAt_4 E))) (ax_sn_node (ax_sn_leaf (r_X1_changedAt_1 E)) (ax_sn_leaf (r_X1_changedAt_0 E)))))⟩
theorem r_X1_tapeAt_0 (E : ax_EN G l) : ax_Snd G l ax_Ym M_X1_tapeAt 0 (S_iload 1 1) := k_iload_n dX1_tapeAt_0 rfl
theorem r_X1_tapeAt_1 (E : ax_EN G l) : ax_Snd G l ax_Ym M_X1_tapeAt 1 (S_if1 (fun x => decide (x < 0)) 18 4) := k_if_lt dX1_tapeAt_1 rfl
theorem r_X1_tapeAt_4 (E : ax_EN G l) : ax_Snd G l ax_Ym M_X1_tapeAt 4 (S_iload 1 5) := k_iload_n dX1_tapeAt_4 rfl
theorem r_X1_tapeAt_5 (E : ax_EN G l) : ax_Snd G l ax_Ym M_X1_tapeAt 5 (S_aload 0 6) := k_aload_n dX1_tapeAt_5 rfl
theorem r_X1_tapeAt_6 (E : ax_EN G l) : ax_Snd G l ax_Ym M_X1_tapeAt 6 (S_getf [(19, 1)] 9) := k_getf (en_F E) (ax_fes_cons (fe_142 E) ax_fes_nil) q323 dX1_tapeAt_6
theorem r_X1_tapeAt_9 (E : ax_EN G l) : ax_Snd G l ax_Ym M_X1_tapeAt 9 (S_getf [(29, 0)] 12) := k_getfN (en_F E) (en_B E) (ax_fes_cons (fe_158 E) ax_fes_nil) q285 dX1_tapeAt_9
theorem r_X1_tapeAt_12 (E : ax_EN G l) : ax_Snd G l ax_Ym M_X1_tapeAt 12 (S_push (.int (17)) 14) := k_bipush dX1_tapeAt_12 rfl
theorem r_X1_tapeAt_14 (E : ax_EN G l) : ax_Snd G l ax_Ym M_X1_tapeAt 14 (S_iald 0 15) := k_iald (en_F E) dX1_tapeAt_14
theorem r_X1_tapeAt_15 (E : ax_EN G l) : ax_Snd G l ax_Ym M_X1_tapeAt 15 (S_if2 (fun x y => decide (x < y)) 28 18) := k_icmp_lt dX1_tapeAt_15 rfl
theorem r_X1_tapeAt_18 (E : ax_EN G l) : ax_Snd G l ax_Ym M_X1_tapeAt 18 (S_mk 6 6 27) := k_mk (en_F E) (en_B E) (en_U E) (en_T E) (en_c E (k := 6) rfl) (by decide) (by decide +kernel) (by decide +kernel) q2559 q162 (en_x E 4 rfl) hat_184 (by decide) dX1_tapeAt_18 dX1_tapeAt_21 dX1_tapeAt_22 dX1_tapeAt_24
theorem r_X1_tapeAt_21 (E : ax_EN G l) : ax_Snd G l ax_Ym M_X1_tapeAt 21 (S_dup 22) := k_dup dX1_tapeAt_21
theorem r_X1_tapeAt_24 (E : ax_EN G l) : ax_Snd G l ax_Ym M_X1_tapeAt 24 (S_isp 80 1 27 hd_0) := k_isp (en_F E) (ax_ok0 E rfl) ((ev_i y_J24_init q2561 q868 q162 q869 nm_J24_init rfl (Nat.le_of_ble_eq_true rfl) dX1_tapeAt_24) : ax_EvI G l ax_Ym M_X1_tapeAt 24 80 1 3)
theorem r_X1_tapeAt_27 (E : ax_EN G l) : ax_Snd G l ax_Ym M_X1_tapeAt 27 (S_athrow hd_0) := k_athrow (en_F E) (ax_ok0 E rfl) dX1_tapeAt_27
theorem r_X1_tapeAt_28 (E : ax_EN G l) : ax_Snd G l ax_Ym M_X1_tapeAt 28 (S_aload 0 29) := k_aload_n dX1_tapeAt_28 rfl
theorem r_X1_tapeAt_29 (E : ax_EN G l) : ax_Snd G l ax_Ym M_X1_tapeAt 29 (S_getf [(19, 1)] 32) := k_getf (en_F E) (ax_fes_cons (fe_142 E) ax_fes_nil) q323 dX1_tapeAt_29
theorem r_X1_tapeAt_32 (E : ax_EN G l) : ax_Snd G l ax_Ym M_X1_tapeAt 32 (S_getf [(29, 0)] 35) := k_getfN (en_F E) (en_B E) (ax_fes_cons (fe_158 E) ax_fes_nil) q285 dX1_tapeAt_32
theorem r_X1_tapeAt_35 (E : ax_EN G l) : ax_Snd G l ax_Ym M_X1_tapeAt 35 (S_push (.int (48)) 37) := k_bipush dX1_tapeAt_35 rfl
theorem r_X1_tapeAt_37 (E : ax_EN G l) : ax_Snd G l ax_Ym M_X1_tapeAt 37 (S_iload 1 38) := k_iload_n dX1_tapeAt_37 rfl
theorem r_X1_tapeAt_38 (E : ax_EN G l) : ax_Snd G l ax_Ym M_X1_tapeAt 38 (S_i2 (fun x y => x + y) 39) := k_iadd dX1_tapeAt_38
theorem r_X1_tapeAt_39 (E : ax_EN G l) : ax_Snd G l ax_Ym M_X1_tapeAt 39 (S_iald 0 40) := k_iald (en_F E) dX1_tapeAt_39
theorem r_X1_tapeAt_40 (E : ax_EN G l) : ax_Snd G l ax_Ym M_X1_tapeAt 40 (S_iret) := k_iret dX1_tapeAt_40 rfl
theorem mt_X1_tapeAt (E : ax_EN G l) : ax_mt G l ax_Ym (2, P_X1_tapeAt) (ax_Ym 256) := ⟨M_X1_tapeAt, yX1_tapeAt, ⟨rfl, by decide +kernel, rfl, (fun h => by cases h), Or.inl ⟨rfl, rfl⟩⟩, fun pc => (ax_sn_node (ax_sn_node (ax_sn_node (ax_sn_node (ax_sn_node (ax_sn_leaf (r_X1_tapeAt_40 E)) (ax_sn_leaf (r_X1_tapeAt_39 E))) (ax_sn_leaf (r_X1_tapeAt_38 E))) (ax_sn_node (ax_sn_node (ax_sn_leaf (r_X1_tapeAt_37 E)) (ax_sn_leaf (r_X1_tapeAt_35 E))) (ax_sn_leaf (r_X1_tapeAt_32 E)))) (ax_sn_node (ax_sn_node (ax_sn_node (ax_sn_leaf (r_X1_tapeAt_29 E)) (ax_sn_leaf (r_X1_tapeAt_28 E))) (ax_sn_leaf (r_X1_tapeAt_27 E))) (ax_sn_node (ax_sn_leaf (r_X1_tapeAt_24 E)) (ax_sn_leaf (r_X1_tapeAt_21 E))))) (ax_sn_node (ax_sn_node (ax_sn_node (ax_sn_node (ax_sn_leaf (r_X1_tapeAt_18 E)) (ax_sn_leaf (r_X1_tapeAt_15 E))) (ax_sn_leaf (r_X1_tapeAt_14 E))) (ax_sn_node (ax_sn_leaf (r_X1_tapeAt_12 E)) (ax_sn_leaf (r_X1_tapeAt_9 E)))) (ax_sn_node (ax_sn_node (ax_sn_node (ax_sn_leaf (r_X1_tapeAt_6 E)) (ax_sn_leaf (r_X1_tapeAt_5 E))) (ax_sn_leaf (r_X1_tapeAt_4 E))) (ax_sn_node (ax_sn_leaf (r_X1_tapeAt_1 E)) (ax_sn_leaf (r_X1_tapeAt_0 E))))))⟩
theorem r_X1_sumAnew_0 (E : ax_EN G l) : ax_Snd G l ax_Ym M_X1_sumAnew 0 (S_aload 0 1) := k_aload_n dX1_sumAnew_0 rfl
theorem r_X1_sumAnew_1 (E : ax_EN G l) : ax_Snd G l ax_Ym M_X1_sumAnew 1 (S_getf [(19, 1)] 4) := k_getf (en_F E) (ax_fes_cons (fe_142 E) ax_fes_nil) q323 dX1_sumAnew_1
theorem r_X1_sumAnew_4 (E : ax_EN G l) : ax_Snd G l ax_Ym M_X1_sumAnew 4 (S_iv [(29, 309)] 0 7 hd_0) := k_iv (en_F E) (ax_ok0 E rfl) (ax_Evs_cons ((ev_v (en_c E (k := 29) rfl) rfl y_X2_isOn q1963 q1964 q1965 q122 q1966 nm_X2_isOn (Nat.le_of_ble_eq_true rfl) dX1_sumAnew_4) : ax_EvV G l ax_Ym M_X1_sumAnew 4 0 3 29 309) ax_Evs_nil)
theorem r_X1_sumAnew_7 (E : ax_EN G l) : ax_Snd G l ax_Ym M_X1_sumAnew 7 (S_is 234 1 10 hd_0) := k_is (en_F E) (ax_ok0 E rfl) ((ev_s y_X1_must q1714 q1715 q118 q1716 nm_X1_must (Nat.le_of_ble_eq_true rfl) dX1_sumAnew_7) : ax_EvS G l ax_Ym M_X1_sumAnew 7 234 1 3)
theorem r_X1_sumAnew_10 (E : ax_EN G l) : ax_Snd G l ax_Ym M_X1_sumAnew 10 (S_aload 0 11) := k_aload_n dX1_sumAnew_10 rfl
theorem r_X1_sumAnew_11 (E : ax_EN G l) : ax_Snd G l ax_Ym M_X1_sumAnew 11 (S_getf [(19, 1)] 14) := k_getf (en_F E) (ax_fes_cons (fe_142 E) ax_fes_nil) q323 dX1_sumAnew_11
theorem r_X1_sumAnew_14 (E : ax_EN G l) : ax_Snd G l ax_Ym M_X1_sumAnew 14 (S_iload 1 15) := k_iload_n dX1_sumAnew_14 rfl
theorem r_X1_sumAnew_15 (E : ax_EN G l) : ax_Snd G l ax_Ym M_X1_sumAnew 15 (S_push (.int (0)) 16) := k_iconst dX1_sumAnew_15 rfl
theorem r_X1_sumAnew_16 (E : ax_EN G l) : ax_Snd G l ax_Ym M_X1_sumAnew 16 (S_aload 0 17) := k_aload_n dX1_sumAnew_16 rfl
theorem r_X1_sumAnew_17 (E : ax_EN G l) : ax_Snd G l ax_Ym M_X1_sumAnew 17 (S_getf [(19, 1)] 20) := k_getf (en_F E) (ax_fes_cons (fe_142 E) ax_fes_nil) q323 dX1_sumAnew_17
theorem r_X1_sumAnew_20 (E : ax_EN G l) : ax_Snd G l ax_Ym M_X1_sumAnew 20 (S_getf [(29, 0)] 23) := k_getfN (en_F E) (en_B E) (ax_fes_cons (fe_158 E) ax_fes_nil) q285 dX1_sumAnew_20
theorem r_X1_sumAnew_23 (E : ax_EN G l) : ax_Snd G l ax_Ym M_X1_sumAnew 23 (S_push (.int (2)) 24) := k_iconst dX1_sumAnew_23 rfl
theorem r_X1_sumAnew_24 (E : ax_EN G l) : ax_Snd G l ax_Ym M_X1_sumAnew 24 (S_iald 0 25) := k_iald (en_F E) dX1_sumAnew_24
theorem r_X1_sumAnew_25 (E : ax_EN G l) : ax_Snd G l ax_Ym M_X1_sumAnew 25 (S_is 232 3 28 hd_0) := k_is (en_F E) (ax_ok0 E rfl) ((ev_s y_X1_in q1688 q1689 q118 q1690 nm_X1_in (Nat.le_of_ble_eq_true rfl) dX1_sumAnew_25) : ax_EvS G l ax_Ym M_X1_sumAnew 25 232 3 3)
theorem r_X1_sumAnew_28 (E : ax_EN G l) : ax_Snd G l ax_Ym M_X1_sumAnew 28 (S_iv [(29, 351)] 1 31 hd_0) := k_iv (en_F E) (ax_ok0 E rfl) (ax_Evs_cons ((ev_v (en_c E (k := 29) rfl) rfl y_X2_sumAnew q2569 q2570 q2571 q122 q2572 nm_X2_sumAnew (Nat.le_of_ble_eq_true rfl) dX1_sumAnew_28) : ax_EvV G l ax_Ym M_X1_sumAnew 28 1 3 29 351) ax_Evs_nil)
theorem r_X1_sumAnew_31 (E : ax_EN G l) : ax_Snd G l ax_Ym M_X1_sumAnew 31 (S_iret) := k_iret dX1_sumAnew_31 rfl
theorem mt_X1_sumAnew (E : ax_EN G l) : ax_mt G l ax_Ym (2, P_X1_sumAnew) (ax_Ym 257) := ⟨M_X1_sumAnew, yX1_sumAnew, ⟨rfl, by decide +kernel, rfl, (fun h => by cases h), Or.inl ⟨rfl, rfl⟩⟩, fun pc => (ax_sn_node (ax_sn_node (ax_sn_node (ax_sn_node (ax_sn_leaf (r_X1_sumAnew_31 E)) (ax_sn_leaf (r_X1_sumAnew_28 E))) (ax_sn_node (ax_sn_leaf (r_X1_sumAnew_25 E)) (ax_sn_leaf (r_X1_sumAnew_24 E)))) (ax_sn_node (ax_sn_node (ax_sn_leaf (r_X1_sumAnew_23 E)) (ax_sn_leaf (r_X1_sumAnew_20 E))) (ax_sn_node (ax_sn_leaf (r_X1_sumAnew_17 E)) (ax_sn_leaf (r_X1_sumAnew_16 E))))) (ax_sn_node (ax_sn_node (ax_sn_node (ax_sn_leaf (r_X1_sumAnew_15 E)) (ax_sn_leaf (r_X1_sumAnew_14 E))) (ax_sn_node (ax_sn_leaf (r_X1_sumAnew_11 E)) (ax_sn_leaf (r_X1_sumAnew_10 E)))) (ax_sn_node (ax_sn_node (ax_sn_leaf (r_X1_sumAnew_7 E)) (ax_sn_leaf (r_X1_sumAnew_4 E))) (ax_sn_node (ax_sn_leaf (r_X1_sumAnew_1 E)) (ax_sn_leaf (r_X1_sumAnew_0 E))))))⟩
theorem r_X1_disk_0 (E : ax_EN G l) : ax_Snd G l ax_Ym M_X1_disk 0 (S_iload 1 1) := k_iload_n dX1_disk_0 rfl
theorem r_X1_disk_1 (E : ax_EN G l) : ax_Snd G l ax_Ym M_X1_disk 1 (S_push (.int (0)) 2) := k_iconst dX1_disk_1 rfl
theorem r_X1_disk_2 (E : ax_EN G l) : ax_Snd G l ax_Ym M_X1_disk 2 (S_push (.int (31)) 4) := k_bipush dX1_disk_2 rfl
theorem r_X1_disk_4 (E : ax_EN G l) : ax_Snd G l ax_Ym M_X1_disk 4 (S_is 232 3 7 hd_0) := k_is (en_F E) (ax_ok0 E rfl) ((ev_s y_X1_in q1688 q1689 q118 q1690 nm_X1_in (Nat.le_of_ble_eq_true rfl) dX1_disk_4) : ax_EvS G l ax_Ym M_X1_disk 4 232 3 3)
theorem r_X1_disk_7 (E : ax_EN G l) : ax_Snd G l ax_Ym M_X1_disk 7 (S_pop 8) := k_pop dX1_disk_7
theorem r_X1_disk_8 (E : ax_EN G l) : ax_Snd G l ax_Ym M_X1_disk 8 (S_aload 0 9) := k_aload_n dX1_disk_8 rfl
theorem r_X1_disk_9 (E : ax_EN G l) : ax_Snd G l ax_Ym M_X1_disk 9 (S_getf [(19, 1)] 12) := k_getf (en_F E) (ax_fes_cons (fe_142 E) ax_fes_nil) q323 dX1_disk_9
theorem r_X1_disk_12 (E : ax_EN G l) : ax_Snd G l ax_Ym M_X1_disk 12 (S_getf [(29, 0)] 15) := k_getfN (en_F E) (en_B E) (ax_fes_cons (fe_158 E) ax_fes_nil) q285 dX1_disk_12
theorem r_X1_disk_15 (E : ax_EN G l) : ax_Snd G l ax_Ym M_X1_disk 15 (S_push (.int (365)) 18) := k_sipush dX1_disk_15 rfl
theorem r_X1_disk_18 (E : ax_EN G l) : ax_Snd G l ax_Ym M_X1_disk 18 (S_push (.int (8)) 20) := k_bipush dX1_disk_18 rfl
theorem r_X1_disk_20 (E : ax_EN G l) : ax_Snd G l ax_Ym M_X1_disk 20 (S_iload 1 21) := k_iload_n dX1_disk_20 rfl
theorem r_X1_disk_21 (E : ax_EN G l) : ax_Snd G l ax_Ym M_X1_disk 21 (S_i2 (fun x y => x * y) 22) := k_imul dX1_disk_21
theorem r_X1_disk_22 (E : ax_EN G l) : ax_Snd G l ax_Ym M_X1_disk 22 (S_i2 (fun x y => x + y) 23) := k_iadd dX1_disk_22
theorem r_X1_disk_23 (E : ax_EN G l) : ax_Snd G l ax_Ym M_X1_disk 23 (S_iload 2 24) := k_iload_n dX1_disk_23 rfl
theorem r_X1_disk_24 (E : ax_EN G l) : ax_Snd G l ax_Ym M_X1_disk 24 (S_push (.int (0)) 25) := k_iconst dX1_disk_24 rfl
theorem r_X1_disk_25 (E : ax_EN G l) : ax_Snd G l ax_Ym M_X1_disk 25 (S_push (.int (7)) 27) := k_bipush dX1_disk_25 rfl
theorem r_X1_disk_27 (E : ax_EN G l) : ax_Snd G l ax_Ym M_X1_disk 27 (S_is 232 3 30 hd_0) := k_is (en_F E) (ax_ok0 E rfl) ((ev_s y_X1_in q1688 q1689 q118 q1690 nm_X1_in (Nat.le_of_ble_eq_true rfl) dX1_disk_27) : ax_EvS G l ax_Ym M_X1_disk 27 232 3 3)
theorem r_X1_disk_30 (E : ax_EN G l) : ax_Snd G l ax_Ym M_X1_disk 30 (S_i2 (fun x y => x + y) 31) := k_iadd dX1_disk_30
theorem r_X1_disk_31 (E : ax_EN G l) : ax_Snd G l ax_Ym M_X1_disk 31 (S_iald 0 32) := k_iald (en_F E) dX1_disk_31
theorem r_X1_disk_32 (E : ax_EN G l) : ax_Snd G l ax_Ym M_X1_disk 32 (S_iret) := k_iret dX1_disk_32 rfl
theorem mt_X1_disk (E : ax_EN G l) : ax_mt G l ax_Ym (3, P_X1_disk) (ax_Ym 258) := ⟨M_X1_disk, yX1_disk, ⟨rfl, by decide +kernel, rfl, (fun h => by cases h), Or.inl ⟨rfl, rfl⟩⟩, fun pc => (ax_sn_node (ax_sn_node (ax_sn_node (ax_sn_node (ax_sn_node (ax_sn_leaf (r_X1_disk_32 E)) (ax_sn_leaf (r_X1_disk_31 E))) (ax_sn_leaf (r_X1_disk_30 E))) (ax_sn_node (ax_sn_leaf (r_X1_disk_27 E)) (ax_sn_leaf (r_X1_disk_25 E)))) (ax_sn_node (ax_sn_node (ax_sn_node (ax_sn_leaf (r_X1_disk_24 E)) (ax_sn_leaf (r_X1_disk_23 E))) (ax_sn_leaf (r_X1_disk_22 E))) (ax_sn_node (ax_sn_leaf (r_X1_disk_21 E)) (ax_sn_leaf (r_X1_disk_20 E))))) (ax_sn_node (ax_sn_node (ax_sn_node (ax_sn_node (ax_sn_leaf (r_X1_disk_18 E)) (ax_sn_leaf (r_X1_disk_15 E))) (ax_sn_leaf (r_X1_disk_12 E))) (ax_sn_node (ax_sn_leaf (r_X1_disk_9 E)) (ax_sn_leaf (r_X1_disk_8 E)))) (ax_sn_node (ax_sn_node (ax_sn_node (ax_sn_leaf (r_X1_disk_7 E)) (ax_sn_leaf (r_X1_disk_4 E))) (ax_sn_leaf (r_X1_disk_2 E))) (ax_sn_node (ax_sn_leaf (r_X1_disk_1 E)) (ax_sn_leaf (r_X1_disk_0 E))))))⟩
theorem r_X1_size_0 (E : ax_EN G l) : ax_Snd G l ax_Ym M_X1_size 0 (S_aload 0 1) := k_aload_n dX1_size_0 rfl
theorem r_X1_size_1 (E : ax_EN G l) : ax_Snd G l ax_Ym M_X1_size 1 (S_getf [(19, 1)] 4) := k_getf (en_F E) (ax_fes_cons (fe_142 E) ax_fes_nil) q323 dX1_size_1
theorem r_X1_size_4 (E : ax_EN G l) : ax_Snd G l ax_Ym M_X1_size 4 (S_aload 0 5) := k_aload_n dX1_size_4 rfl
theorem r_X1_size_5 (E : ax_EN G l) : ax_Snd G l ax_Ym M_X1_size 5 (S_iload 1 6) := k_iload_n dX1_size_5 rfl
theorem r_X1_size_6 (E : ax_EN G l) : ax_Snd G l ax_Ym M_X1_size 6 (S_iv [(19, 260)] 1 9 hd_0) := k_iv (en_F E) (ax_ok0 E rfl) (ax_Evs_cons ((ev_v (en_c E (k := 19) rfl) rfl y_X1_file q2596 q2598 qs56 q118 q2599 nm_X1_file (Nat.le_of_ble_eq_true rfl) dX1_size_6) : ax_EvV G l ax_Ym M_X1_size 6 1 3 19 260) ax_Evs_nil)
theorem r_X1_size_9 (E : ax_EN G l) : ax_Snd G l ax_Ym M_X1_size 9 (S_push (.int (1)) 10) := k_iconst dX1_size_9 rfl
theorem r_X1_size_10 (E : ax_EN G l) : ax_Snd G l ax_Ym M_X1_size 10 (S_iv [(29, 305)] 2 13 hd_0) := k_iv (en_F E) (ax_ok0 E rfl) (ax_Evs_cons ((ev_vN (en_B E) (en_c E (k := 29) rfl) y_X2_entry q1269 q1271 qs11 q122 q1272 nm_X2_entry (Nat.le_of_ble_eq_true rfl) dX1_size_10) : ax_EvV G l ax_Ym M_X1_size 10 2 3 29 305) ax_Evs_nil)
theorem r_X1_size_13 (E : ax_EN G l) : ax_Snd G l ax_Ym M_X1_size 13 (S_iret) := k_iret dX1_size_13 rfl
theorem mt_X1_size (E : ax_EN G l) : ax_mt G l ax_Ym (2, P_X1_size) (ax_Ym 259) := ⟨M_X1_size, yX1_size, ⟨rfl, by decide +kernel, rfl, (fun h => by cases h), Or.inl ⟨rfl, rfl⟩⟩, fun pc => (ax_sn_node (ax_sn_node (ax_sn_node (ax_sn_leaf (r_X1_size_13 E)) (ax_sn_leaf (r_X1_size_10 E))) (ax_sn_node (ax_sn_leaf (r_X1_size_9 E)) (ax_sn_leaf (r_X1_size_6 E)))) (ax_sn_node (ax_sn_node (ax_sn_leaf (r_X1_size_5 E)) (ax_sn_leaf (r_X1_size_4 E))) (ax_sn_node (ax_sn_leaf (r_X1_size_1 E)) (ax_sn_leaf (r_X1_size_0 E)))))⟩
theorem r_X1_file_0 (E : ax_EN G l) : ax_Snd G l ax_Ym M_X1_file 0 (S_aload 0 1) := k_aload_n dX1_file_0 rfl
theorem r_X1_file_1 (E : ax_EN G l) : ax_Snd G l ax_Ym M_X1_file 1 (S_getf [(19, 1)] 4) := k_getf (en_F E) (ax_fes_cons (fe_142 E) ax_fes_nil) q323 dX1_file_1
theorem r_X1_file_4 (E : ax_EN G l) : ax_Snd G l ax_Ym M_X1_file 4 (S_iload 1 5) := k_iload_n dX1_file_4 rfl
theorem r_X1_file_5 (E : ax_EN G l) : ax_Snd G l ax_Ym M_X1_file 5 (S_push (.int (1)) 6) := k_iconst dX1_file_5 rfl
theorem r_X1_file_6 (E : ax_EN G l) : ax_Snd G l ax_Ym M_X1_file 6 (S_push (.int (65535)) 8) := k_ldc q1767 dX1_file_6
theorem r_X1_file_8 (E : ax_EN G l) : ax_Snd G l ax_Ym M_X1_file 8 (S_is 232 3 11 hd_0) := k_is (en_F E) (ax_ok0 E rfl) ((ev_s y_X1_in q1688 q1689 q118 q1690 nm_X1_in (Nat.le_of_ble_eq_true rfl) dX1_file_8) : ax_EvS G l ax_Ym M_X1_file 8 232 3 3)
theorem r_X1_file_11 (E : ax_EN G l) : ax_Snd G l ax_Ym M_X1_file 11 (S_iv [(29, 308)] 1 14 hd_0) := k_iv (en_F E) (ax_ok0 E rfl) (ax_Evs_cons ((ev_v (en_c E (k := 29) rfl) rfl y_X2_find q2600 q1357 q1358 q122 q1359 nm_X2_find (Nat.le_of_ble_eq_true rfl) dX1_file_11) : ax_EvV G l ax_Ym M_X1_file 11 1 3 29 308) ax_Evs_nil)
theorem r_X1_file_14 (E : ax_EN G l) : ax_Snd G l ax_Ym M_X1_file 14 (S_istore 2 15) := k_istore_n dX1_file_14 rfl (Nat.le_of_ble_eq_true rfl)
theorem r_X1_file_15 (E : ax_EN G l) : ax_Snd G l ax_Ym M_X1_file 15 (S_iload 2 16) := k_iload_n dX1_file_15 rfl
theorem r_X1_file_16 (E : ax_EN G l) : ax_Snd G l ax_Ym M_X1_file 16 (S_push (.int (-1)) 17) := k_iconst dX1_file_16 rfl
theorem r_X1_file_17 (E : ax_EN G l) : ax_Snd G l ax_Ym M_X1_file 17 (S_if2 (fun x y => decide (¬ x = y)) 30 20) := k_icmp_ne dX1_file_17 rfl
theorem r_X1_file_20 (E : ax_EN G l) : ax_Snd G l ax_Ym M_X1_file 20 (S_new 45 [.null] 6 23) := k_new (en_F E) (mk_45 E) q2601 dX1_file_20
theorem r_X1_file_23 (E : ax_EN G l) : ax_Snd G l ax_Ym M_X1_file 23 (S_dup 24) := k_dup dX1_file_23
theorem r_X1_file_24 (E : ax_EN G l) : ax_Snd G l ax_Ym M_X1_file 24 (S_push (.ref 390) 26) := k_ldcS (en_x E 5 rfl) dX1_file_24
theorem r_X1_file_26 (E : ax_EN G l) : ax_Snd G l ax_Ym M_X1_file 26 (S_isp 83 1 29 hd_0) := k_isp (en_F E) (ax_ok0 E rfl) ((ev_i y_J25_init_3 q2603 q2604 q165 q2605 nm_J25_init_3 rfl (Nat.le_of_ble_eq_true rfl) dX1_file_26) : ax_EvI G l ax_Ym M_X1_file 26 83 1 3)
theorem r_X1_file_29 (E : ax_EN G l) : ax_Snd G l ax_Ym M_X1_file 29 (S_athrow hd_0) := k_athrow (en_F E) (ax_ok0 E rfl) dX1_file_29
theorem r_X1_file_30 (E : ax_EN G l) : ax_Snd G l ax_Ym M_X1_file 30 (S_iload 2 31) := k_iload_n dX1_file_30 rfl
theorem r_X1_file_31 (E : ax_EN G l) : ax_Snd G l ax_Ym M_X1_file 31 (S_iret) := k_iret dX1_file_31 rfl
theorem mt_X1_file (E : ax_EN G l) : ax_mt G l ax_Ym (3, P_X1_file) (ax_Ym 260) := ⟨M_X1_file, yX1_file, ⟨rfl, by decide +kernel, rfl, (fun h => by cases h), Or.inl ⟨rfl, rfl⟩⟩, fun pc => (ax_sn_node (ax_sn_node (ax_sn_node (ax_sn_node (ax_sn_node (ax_sn_leaf (r_X1_file_31 E)) (ax_sn_leaf (r_X1_file_30 E))) (ax_sn_leaf (r_X1_file_29 E))) (ax_sn_node (ax_sn_leaf (r_X1_file_26 E)) (ax_sn_leaf (r_X1_file_24 E)))) (ax_sn_node (ax_sn_node (ax_sn_leaf (r_X1_file_23 E)) (ax_sn_leaf (r_X1_file_20 E))) (ax_sn_node (ax_sn_leaf (r_X1_file_17 E)) (ax_sn_leaf (r_X1_file_16 E))))) (ax_sn_node (ax_sn_node (ax_sn_node (ax_sn_node (ax_sn_leaf (r_X1_file_15 E)) (ax_sn_leaf (r_X1_file_14 E))) (ax_sn_leaf (r_X1_file_11 E))) (ax_sn_node (ax_sn_leaf (r_X1_file_8 E)) (ax_sn_leaf (r_X1_file_6 E)))) (ax_sn_node (ax_sn_node (ax_sn_leaf (r_X1_file_5 E)) (ax_sn_leaf (r_X1_file_4 E))) (ax_sn_node (ax_sn_leaf (r_X1_file_1 E)) (ax_sn_leaf (r_X1_file_0 E))))))⟩
theorem r_X1_wordOf_0 (E : ax_EN G l) : ax_Snd G l ax_Ym M_X1_wordOf 0 (S_aload 0 1) := k_aload_n dX1_wordOf_0 rfl
theorem r_X1_wordOf_1 (E : ax_EN G l) : ax_Snd G l ax_Ym M_X1_wordOf 1 (S_iload 1 2) := k_iload_n dX1_wordOf_1 rfl
theorem r_X1_wordOf_2 (E : ax_EN G l) : ax_Snd G l ax_Ym M_X1_wordOf 2 (S_iv [(19, 260)] 1 5 hd_0) := k_iv (en_F E) (ax_ok0 E rfl) (ax_Evs_cons ((ev_v (en_c E (k := 19) rfl) rfl y_X1_file q2596 q2598 qs56 q118 q2599 nm_X1_file (Nat.le_of_ble_eq_true rfl) dX1_wordOf_2) : ax_EvV G l ax_Ym M_X1_wordOf 2 1 3 19 260) ax_Evs_nil)
theorem r_X1_wordOf_5 (E : ax_EN G l) : ax_Snd G l ax_Ym M_X1_wordOf 5 (S_istore 3 6) := k_istore_n dX1_wordOf_5 rfl (Nat.le_of_ble_eq_true rfl)
theorem r_X1_wordOf_6 (E : ax_EN G l) : ax_Snd G l ax_Ym M_X1_wordOf 6 (S_iload 2 7) := k_iload_n dX1_wordOf_6 rfl
theorem r_X1_wordOf_7 (E : ax_EN G l) : ax_Snd G l ax_Ym M_X1_wordOf 7 (S_if1 (fun x => decide (x < 0)) 23 10) := k_if_lt dX1_wordOf_7 rfl
theorem r_X1_wordOf_10 (E : ax_EN G l) : ax_Snd G l ax_Ym M_X1_wordOf 10 (S_iload 2 11) := k_iload_n dX1_wordOf_10 rfl
theorem r_X1_wordOf_11 (E : ax_EN G l) : ax_Snd G l ax_Ym M_X1_wordOf 11 (S_aload 0 12) := k_aload_n dX1_wordOf_11 rfl
theorem r_X1_wordOf_12 (E : ax_EN G l) : ax_Snd G l ax_Ym M_X1_wordOf 12 (S_getf [(19, 1)] 15) := k_getf (en_F E) (ax_fes_cons (fe_142 E) ax_fes_nil) q323 dX1_wordOf_12
theorem r_X1_wordOf_15 (E : ax_EN G l) : ax_Snd G l ax_Ym M_X1_wordOf 15 (S_iload 3 16) := k_iload_n dX1_wordOf_15 rfl
theorem r_X1_wordOf_16 (E : ax_EN G l) : ax_Snd G l ax_Ym M_X1_wordOf 16 (S_push (.int (1)) 17) := k_iconst dX1_wordOf_16 rfl
theorem r_X1_wordOf_17 (E : ax_EN G l) : ax_Snd G l ax_Ym M_X1_wordOf 17 (S_iv [(29, 305)] 2 20 hd_0) := k_iv (en_F E) (ax_ok0 E rfl) (ax_Evs_cons ((ev_vN (en_B E) (en_c E (k := 29) rfl) y_X2_entry q1269 q1271 qs11 q122 q1272 nm_X2_entry (Nat.le_of_ble_eq_true rfl) dX1_wordOf_17) : ax_EvV G l ax_Ym M_X1_wordOf 17 2 3 29 305) ax_Evs_nil)
theorem r_X1_wordOf_20 (E : ax_EN G l) : ax_Snd G l ax_Ym M_X1_wordOf 20 (S_if2 (fun x y => decide (x < y)) 33 23) := k_icmp_lt dX1_wordOf_20 rfl
theorem r_X1_wordOf_23 (E : ax_EN G l) : ax_Snd G l ax_Ym M_X1_wordOf 23 (S_mk 6 6 32) := k_mk (en_F E) (en_B E) (en_U E) (en_T E) (en_c E (k := 6) rfl) (by decide) (by decide +kernel) (by decide +kernel) q2559 q162 (en_x E 6 rfl) hat_184 (by decide) dX1_wordOf_23 dX1_wordOf_26 dX1_wordOf_27 dX1_wordOf_29
theorem r_X1_wordOf_26 (E : ax_EN G l) : ax_Snd G l ax_Ym M_X1_wordOf 26 (S_dup 27) := k_dup dX1_wordOf_26
theorem r_X1_wordOf_29 (E : ax_EN G l) : ax_Snd G l ax_Ym M_X1_wordOf 29 (S_isp 80 1 32 hd_0) := k_isp (en_F E) (ax_ok0 E rfl) ((ev_i y_J24_init q2561 q868 q162 q869 nm_J24_init rfl (Nat.le_of_ble_eq_true rfl) dX1_wordOf_29) : ax_EvI G l ax_Ym M_X1_wordOf 29 80 1 3)
theorem r_X1_wordOf_32 (E : ax_EN G l) : ax_Snd G l ax_Ym M_X1_wordOf 32 (S_athrow hd_0) := k_athrow (en_F E) (ax_ok0 E rfl) dX1_wordOf_32
theorem r_X1_wordOf_33 (E : ax_EN G l) : ax_Snd G l ax_Ym M_X1_wordOf 33 (S_aload 0 34) := k_aload_n dX1_wordOf_33 rfl
theorem r_X1_wordOf_34 (E : ax_EN G l) : ax_Snd G l ax_Ym M_X1_wordOf 34 (S_getf [(19, 1)] 37) := k_getf (en_F E) (ax_fes_cons (fe_142 E) ax_fes_nil) q323 dX1_wordOf_34
theorem r_X1_wordOf_37 (E : ax_EN G l) : ax_Snd G l ax_Ym M_X1_wordOf 37 (S_iload 3 38) := k_iload_n dX1_wordOf_37 rfl
theorem r_X1_wordOf_38 (E : ax_EN G l) : ax_Snd G l ax_Ym M_X1_wordOf 38 (S_iload 2 39) := k_iload_n dX1_wordOf_38 rfl
theorem r_X1_wordOf_39 (E : ax_EN G l) : ax_Snd G l ax_Ym M_X1_wordOf 39 (S_iv [(29, 343)] 2 42 hd_0) := k_iv (en_F E) (ax_ok0 E rfl) (ax_Evs_cons ((ev_v (en_c E (k := 29) rfl) rfl y_X2_wordOf q2615 q2272 q2273 q122 q2274 nm_X2_wordOf (Nat.le_of_ble_eq_true rfl) dX1_wordOf_39) : ax_EvV G l ax_Ym M_X1_wordOf 39 2 3 29 343) ax_Evs_nil)
theorem r_X1_wordOf_42 (E : ax_EN G l) : ax_Snd G l ax_Ym M_X1_wordOf 42 (S_iret) := k_iret dX1_wordOf_42 rfl
theorem mt_X1_wordOf (E : ax_EN G l) : ax_mt G l ax_Ym (4, P_X1_wordOf) (ax_Ym 261) := ⟨M_X1_wordOf, yX1_wordOf, ⟨rfl, by decide +kernel, rfl, (fun h => by cases h), Or.inl ⟨rfl, rfl⟩⟩, fun pc => (ax_sn_node (ax_sn_node (ax_sn_node (ax_sn_node (ax_sn_node (ax_sn_leaf (r_X1_wordOf_42 E)) (ax_sn_leaf (r_X1_wordOf_39 E))) (ax_sn_leaf (r_X1_wordOf_38 E))) (ax_sn_node (ax_sn_node (ax_sn_leaf (r_X1_wordOf_37 E)) (ax_sn_leaf (r_X1_wordOf_34 E))) (ax_sn_leaf (r_X1_wordOf_33 E)))) (ax_sn_node (ax_sn_node (ax_sn_node (ax_sn_leaf (r_X1_wordOf_32 E)) (ax_sn_leaf (r_X1_wordOf_29 E))) (ax_sn_leaf (r_X1_wordOf_26 E))) (ax_sn_node (ax_sn_node (ax_sn_leaf (r_X1_wordOf_23 E)) (ax_sn_leaf (r_X1_wordOf_20 E))) (ax_sn_leaf (r_X1_wordOf_17 E))))) (ax_sn_node (ax_sn_node (ax_sn_node (ax_sn_node (ax_sn_leaf (r_X1_wordOf_16 E)) (ax_sn_leaf (r_X1_wordOf_15 E))) (ax_sn_leaf (r_X1_wordOf_12 E))) (ax_sn_node (ax_sn_node (ax_sn_leaf (r_X1_wordOf_11 E)) (ax_sn_leaf (r_X1_wordOf_10 E))) (ax_sn_leaf (r_X1_wordOf_7 E)))) (ax_sn_node (ax_sn_node (ax_sn_node (ax_sn_leaf (r_X1_wordOf_6 E)) (ax_sn_leaf (r_X1_wordOf_5 E))) (ax_sn_leaf (r_X1_wordOf_2 E))) (ax_sn_node (ax_sn_leaf (r_X1_wordOf_1 E)) (ax_sn_leaf (r_X1_wordOf_0 E))))))⟩
theorem r_X1_testKey_0 (E : ax_EN G l) : ax_Snd G l ax_Ym M_X1_testKey 0 (S_aload 0 1) := k_aload_n dX1_testKey_0 rfl
theorem r_X1_testKey_1 (E : ax_EN G l) : ax_Snd G l ax_Ym M_X1_testKey 1 (S_getf [(19, 3)] 4) := k_getf (en_F E) (ax_fes_cons (fe_147 E) ax_fes_nil) q325 dX1_testKey_1
theorem r_X1_testKey_4 (E : ax_EN G l) : ax_Snd G l ax_Ym M_X1_testKey 4 (S_iload 1 5) := k_iload_n dX1_testKey_4 rfl
theorem r_X1_testKey_5 (E : ax_EN G l) : ax_Snd G l ax_Ym M_X1_testKey 5 (S_is 263 2 8 hd_0) := k_is (en_F E) (ax_ok0 E rfl) ((ev_s y_X1_draft q2623 q2624 q118 q2625 nm_X1_draft (Nat.le_of_ble_eq_true rfl) dX1_testKey_5) : ax_EvS G l ax_Ym M_X1_testKey 5 263 2 3)
theorem r_X1_testKey_8 (E : ax_EN G l) : ax_Snd G l ax_Ym M_X1_testKey 8 (S_iret) := k_iret dX1_testKey_8 rfl
theorem mt_X1_testKey (E : ax_EN G l) : ax_mt G l ax_Ym (2, P_X1_testKey) (ax_Ym 262) := ⟨M_X1_testKey, yX1_testKey, ⟨rfl, by decide +kernel, rfl, (fun h => by cases h), Or.inl ⟨rfl, rfl⟩⟩, fun pc => (ax_sn_node (ax_sn_node (ax_sn_node (ax_sn_leaf (r_X1_testKey_8 E)) (ax_sn_leaf (r_X1_testKey_5 E))) (ax_sn_leaf (r_X1_testKey_4 E))) (ax_sn_node (ax_sn_leaf (r_X1_testKey_1 E)) (ax_sn_leaf (r_X1_testKey_0 E))))⟩
theorem r_X1_draft_0 (E : ax_EN G l) : ax_Snd G l ax_Ym M_X1_draft 0 (S_iload 1 1) := k_iload_n dX1_draft_0 rfl
theorem r_X1_draft_1 (E : ax_EN G l) : ax_Snd G l ax_Ym M_X1_draft 1 (S_push (.int (0)) 2) := k_iconst dX1_draft_1 rfl
theorem r_X1_draft_2 (E : ax_EN G l) : ax_Snd G l ax_Ym M_X1_draft 2 (S_push (.int (65535)) 4) := k_ldc q1767 dX1_draft_2
theorem r_X1_draft_4 (E : ax_EN G l) : ax_Snd G l ax_Ym M_X1_draft 4 (S_is 232 3 7 hd_0) := k_is (en_F E) (ax_ok0 E rfl) ((ev_s y_X1_in q1688 q1689 q118 q1690 nm_X1_in (Nat.le_of_ble_eq_true rfl) dX1_draft_4) : ax_EvS G l ax_Ym M_X1_draft 4 232 3 3)
theorem r_X1_draft_7 (E : ax_EN G l) : ax_Snd G l ax_Ym M_X1_draft 7 (S_pop 8) := k_pop dX1_draft_7
theorem r_X1_draft_8 (E : ax_EN G l) : ax_Snd G l ax_Ym M_X1_draft 8 (S_aload 0 9) := k_aload_n dX1_draft_8 rfl
theorem r_X1_draft_9 (E : ax_EN G l) : ax_Snd G l ax_Ym M_X1_draft 9 (S_iv [(15, 125)] 0 12 hd_0) := k_iv (en_F E) (ax_ok0 E rfl) (ax_Evs_cons ((ev_v (en_c E (k := 15) rfl) rfl y_J4_size q2329 q358 q3460 q124 q360 nm_J4_size (Nat.le_of_ble_eq_true rfl) dX1_draft_9) : ax_EvV G l ax_Ym M_X1_draft 9 0 3 15 125) ax_Evs_nil)
theorem r_X1_draft_12 (E : ax_EN G l) : ax_Snd G l ax_Ym M_X1_draft 12 (S_push (.int (6)) 14) := k_bipush dX1_draft_12 rfl
theorem r_X1_draft_14 (E : ax_EN G l) : ax_Snd G l ax_Ym M_X1_draft 14 (S_if2 (fun x y => decide (y ≤ x)) 21 17) := k_icmp_ge dX1_draft_14 rfl
theorem r_X1_draft_17 (E : ax_EN G l) : ax_Snd G l ax_Ym M_X1_draft 17 (S_push (.int (1)) 18) := k_iconst dX1_draft_17 rfl
theorem r_X1_draft_18 (E : ax_EN G l) : ax_Snd G l ax_Ym M_X1_draft 18 (S_goto 22) := k_goto dX1_draft_18 rfl
theorem r_X1_draft_21 (E : ax_EN G l) : ax_Snd G l ax_Ym M_X1_draft 21 (S_push (.int (0)) 22) := k_iconst dX1_draft_21 rfl
theorem r_X1_draft_22 (E : ax_EN G l) : ax_Snd G l ax_Ym M_X1_draft 22 (S_is 234 1 25 hd_0) := k_is (en_F E) (ax_ok0 E rfl) ((ev_s y_X1_must q1714 q1715 q118 q1716 nm_X1_must (Nat.le_of_ble_eq_true rfl) dX1_draft_22) : ax_EvS G l ax_Ym M_X1_draft 22 234 1 3)
theorem r_X1_draft_25 (E : ax_EN G l) : ax_Snd G l ax_Ym M_X1_draft 25 (S_aload 0 26) := k_aload_n dX1_draft_25 rfl
theorem r_X1_draft_26 (E : ax_EN G l) : ax_Snd G l ax_Ym M_X1_draft 26 (S_iload 1 27) := k_iload_n dX1_draft_26 rfl
theorem r_X1_draft_27 (E : ax_EN G l) : ax_Snd G l ax_Ym M_X1_draft 27 (S_is 76 1 30 hd_0) := k_is (en_F E) (ax_ok0 E rfl) ((ev_s y_J22_valueOf q2626 q2627 q160 q2628 nm_J22_valueOf (Nat.le_of_ble_eq_true rfl) dX1_draft_27) : ax_EvS G l ax_Ym M_X1_draft 27 76 1 3)
theorem r_X1_draft_30 (E : ax_EN G l) : ax_Snd G l ax_Ym M_X1_draft 30 (S_iv [(15, 139)] 1 33 hd_0) := k_iv (en_F E) (ax_ok0 E rfl) (ax_Evs_cons ((ev_v (en_c E (k := 15) rfl) rfl y_J4_addLast q2646 q2576 q2577 q124 q2578 nm_J4_addLast (Nat.le_of_ble_eq_true rfl) dX1_draft_30) : ax_EvV G l ax_Ym M_X1_draft 30 1 3 15 139) ax_Evs_nil)
theorem r_X1_draft_33 (E : ax_EN G l) : ax_Snd G l ax_Ym M_X1_draft 33 (S_aload 0 34) := k_aload_n dX1_draft_33 rfl
theorem r_X1_draft_34 (E : ax_EN G l) : ax_Snd G l ax_Ym M_X1_draft 34 (S_iv [(15, 125)] 0 37 hd_0) := k_iv (en_F E) (ax_ok0 E rfl) (ax_Evs_cons ((ev_v (en_c E (k := 15) rfl) rfl y_J4_size q2329 q358 q3460 q124 q360 nm_J4_size (Nat.le_of_ble_eq_true rfl) dX1_draft_34) : ax_EvV G l ax_Ym M_X1_draft 34 0 3 15 125) ax_Evs_nil)
theorem r_X1_draft_37 (E : ax_EN G l) : ax_Snd G l ax_Ym M_X1_draft 37 (S_iret) := k_iret dX1_draft_37 rfl
theorem mt_X1_draft (E : ax_EN G l) : ax_mt G l ax_Ym (2, P_X1_draft) (ax_Ym 263) := ⟨M_X1_draft, yX1_draft, ⟨rfl, by decide +kernel, rfl, (fun h => by cases h), Or.inl ⟨rfl, rfl⟩⟩, fun pc => (ax_sn_node (ax_sn_node (ax_sn_node (ax_sn_node (ax_sn_node (ax_sn_leaf (r_X1_draft_37 E)) (ax_sn_leaf (r_X1_draft_34 E))) (ax_sn_leaf (r_X1_draft_33 E))) (ax_sn_node (ax_sn_leaf (r_X1_draft_30 E)) (ax_sn_leaf (r_X1_draft_27 E)))) (ax_sn_node (ax_sn_node (ax_sn_node (ax_sn_leaf (r_X1_draft_26 E)) (ax_sn_leaf (r_X1_draft_25 E))) (ax_sn_leaf (r_X1_draft_22 E))) (ax_sn_node (ax_sn_leaf (r_X1_draft_21 E)) (ax_sn_leaf (r_X1_draft_18 E))))) (ax_sn_node (ax_sn_node (ax_sn_node (ax_sn_node (ax_sn_leaf (r_X1_draft_17 E)) (ax_sn_leaf (r_X1_draft_14 E))) (ax_sn_leaf (r_X1_draft_12 E))) (ax_sn_node (ax_sn_leaf (r_X1_draft_9 E)) (ax_sn_leaf (r_X1_draft_8 E)))) (ax_sn_node (ax_sn_node (ax_sn_node (ax_sn_leaf (r_X1_draft_7 E)) (ax_sn_leaf (r_X1_draft_4 E))) (ax_sn_leaf (r_X1_draft_2 E))) (ax_sn_node (ax_sn_leaf (r_X1_draft_1 E)) (ax_sn_leaf (r_X1_draft_0 E))))))⟩
theorem r_X1_testWord_0 (E : ax_EN G l) : ax_Snd G l ax_Ym M_X1_testWord 0 (S_aload 0 1) := k_aload_n dX1_testWord_0 rfl
theorem r_X1_testWord_1 (E : ax_EN G l) : ax_Snd G l ax_Ym M_X1_testWord 1 (S_getf [(19, 4)] 4) := k_getf (en_F E) (ax_fes_cons (fe_149 E) ax_fes_nil) q326 dX1_testWord_1
theorem r_X1_testWord_4 (E : ax_EN G l) : ax_Snd G l ax_Ym M_X1_testWord 4 (S_iload 1 5) := k_iload_n dX1_testWord_4 rfl
theorem r_X1_testWord_5 (E : ax_EN G l) : ax_Snd G l ax_Ym M_X1_testWord 5 (S_is 263 2 8 hd_0) := k_is (en_F E) (ax_ok0 E rfl) ((ev_s y_X1_draft q2623 q2624 q118 q2625 nm_X1_draft (Nat.le_of_ble_eq_true rfl) dX1_testWord_5) : ax_EvS G l ax_Ym M_X1_testWord 5 263 2 3)
theorem r_X1_testWord_8 (E : ax_EN G l) : ax_Snd G l ax_Ym M_X1_testWord 8 (S_iret) := k_iret dX1_testWord_8 rfl
theorem mt_X1_testWord (E : ax_EN G l) : ax_mt G l ax_Ym (2, P_X1_testWord) (ax_Ym 264) := ⟨M_X1_testWord, yX1_testWord, ⟨rfl, by decide +kernel, rfl, (fun h => by cases h), Or.inl ⟨rfl, rfl⟩⟩, fun pc => (ax_sn_node (ax_sn_node (ax_sn_node (ax_sn_leaf (r_X1_testWord_8 E)) (ax_sn_leaf (r_X1_testWord_5 E))) (ax_sn_leaf (r_X1_testWord_4 E))) (ax_sn_node (ax_sn_leaf (r_X1_testWord_1 E)) (ax_sn_leaf (r_X1_testWord_0 E))))⟩
theorem r_X1_addTest_0 (E : ax_EN G l) : ax_Snd G l ax_Ym M_X1_addTest 0 (S_iload 1 1) := k_iload_n dX1_addTest_0 rfl
theorem r_X1_addTest_1 (E : ax_EN G l) : ax_Snd G l ax_Ym M_X1_addTest 1 (S_push (.int (1)) 2) := k_iconst dX1_addTest_1 rfl
theorem r_X1_addTest_2 (E : ax_EN G l) : ax_Snd G l ax_Ym M_X1_addTest 2 (S_push (.int (500)) 5) := k_sipush dX1_addTest_2 rfl
theorem r_X1_addTest_5 (E : ax_EN G l) : ax_Snd G l ax_Ym M_X1_addTest 5 (S_is 232 3 8 hd_0) := k_is (en_F E) (ax_ok0 E rfl) ((ev_s y_X1_in q1688 q1689 q118 q1690 nm_X1_in (Nat.le_of_ble_eq_true rfl) dX1_addTest_5) : ax_EvS G l ax_Ym M_X1_addTest 5 232 3 3)
theorem r_X1_addTest_8 (E : ax_EN G l) : ax_Snd G l ax_Ym M_X1_addTest 8 (S_pop 9) := k_pop dX1_addTest_8
theorem r_X1_addTest_9 (E : ax_EN G l) : ax_Snd G l ax_Ym M_X1_addTest 9 (S_iload 2 10) := k_iload_n dX1_addTest_9 rfl
theorem r_X1_addTest_10 (E : ax_EN G l) : ax_Snd G l ax_Ym M_X1_addTest 10 (S_push (.int (0)) 11) := k_iconst dX1_addTest_10 rfl
theorem r_X1_addTest_11 (E : ax_EN G l) : ax_Snd G l ax_Ym M_X1_addTest 11 (S_push (.int (100)) 13) := k_bipush dX1_addTest_11 rfl
theorem r_X1_addTest_13 (E : ax_EN G l) : ax_Snd G l ax_Ym M_X1_addTest 13 (S_is 232 3 16 hd_0) := k_is (en_F E) (ax_ok0 E rfl) ((ev_s y_X1_in q1688 q1689 q118 q1690 nm_X1_in (Nat.le_of_ble_eq_true rfl) dX1_addTest_13) : ax_EvS G l ax_Ym M_X1_addTest 13 232 3 3)
theorem r_X1_addTest_16 (E : ax_EN G l) : ax_Snd G l ax_Ym M_X1_addTest 16 (S_pop 17) := k_pop dX1_addTest_16
theorem r_X1_addTest_17 (E : ax_EN G l) : ax_Snd G l ax_Ym M_X1_addTest 17 (S_iload 3 18) := k_iload_n dX1_addTest_17 rfl
theorem r_X1_addTest_18 (E : ax_EN G l) : ax_Snd G l ax_Ym M_X1_addTest 18 (S_push (.int (1)) 19) := k_iconst dX1_addTest_18 rfl
theorem r_X1_addTest_19 (E : ax_EN G l) : ax_Snd G l ax_Ym M_X1_addTest 19 (S_push (.int (20)) 21) := k_bipush dX1_addTest_19 rfl
theorem r_X1_addTest_21 (E : ax_EN G l) : ax_Snd G l ax_Ym M_X1_addTest 21 (S_is 232 3 24 hd_0) := k_is (en_F E) (ax_ok0 E rfl) ((ev_s y_X1_in q1688 q1689 q118 q1690 nm_X1_in (Nat.le_of_ble_eq_true rfl) dX1_addTest_21) : ax_EvS G l ax_Ym M_X1_addTest 21 232 3 3)
theorem r_X1_addTest_24 (E : ax_EN G l) : ax_Snd G l ax_Ym M_X1_addTest 24 (S_pop 25) := k_pop dX1_addTest_24
theorem r_X1_addTest_25 (E : ax_EN G l) : ax_Snd G l ax_Ym M_X1_addTest 25 (S_iload 4 27) := k_iload dX1_addTest_25
theorem r_X1_addTest_27 (E : ax_EN G l) : ax_Snd G l ax_Ym M_X1_addTest 27 (S_push (.int (0)) 28) := k_iconst dX1_addTest_27 rfl
theorem r_X1_addTest_28 (E : ax_EN G l) : ax_Snd G l ax_Ym M_X1_addTest 28 (S_push (.int (500)) 31) := k_sipush dX1_addTest_28 rfl
theorem r_X1_addTest_31 (E : ax_EN G l) : ax_Snd G l ax_Ym M_X1_addTest 31 (S_is 232 3 34 hd_0) := k_is (en_F E) (ax_ok0 E rfl) ((ev_s y_X1_in q1688 q1689 q118 q1690 nm_X1_in (Nat.le_of_ble_eq_true rfl) dX1_addTest_31) : ax_EvS G l ax_Ym M_X1_addTest 31 232 3 3)
theorem r_X1_addTest_34 (E : ax_EN G l) : ax_Snd G l ax_Ym M_X1_addTest 34 (S_pop 35) := k_pop dX1_addTest_34
theorem r_X1_addTest_35 (E : ax_EN G l) : ax_Snd G l ax_Ym M_X1_addTest 35 (S_aload 0 36) := k_aload_n dX1_addTest_35 rfl
theorem r_X1_addTest_36 (E : ax_EN G l) : ax_Snd G l ax_Ym M_X1_addTest 36 (S_getf [(19, 2)] 39) := k_getf (en_F E) (ax_fes_cons (fe_144 E) ax_fes_nil) q324 dX1_addTest_36
theorem r_X1_addTest_39 (E : ax_EN G l) : ax_Snd G l ax_Ym M_X1_addTest 39 (S_iv [(4, 59)] 0 44 hd_0) := k_iv (en_F E) (ax_ok0 E rfl) (ax_Evs_cons ((ev_f (en_F E) (en_B E) (en_c E (k := 4) rfl) y_J2_size q346 q352 q350 q121 q354 q348 q347 q353 q351 q349 xn_151 (Nat.le_of_ble_eq_true rfl) dX1_addTest_39) : ax_EvV G l ax_Ym M_X1_addTest 39 0 5 4 59) ax_Evs_nil)
theorem r_X1_addTest_44 (E : ax_EN G l) : ax_Snd G l ax_Ym M_X1_addTest 44 (S_push (.int (5)) 45) := k_iconst dX1_addTest_44 rfl
theorem r_X1_addTest_45 (E : ax_EN G l) : ax_Snd G l ax_Ym M_X1_addTest 45 (S_if2 (fun x y => decide (y ≤ x)) 52 48) := k_icmp_ge dX1_addTest_45 rfl
theorem r_X1_addTest_48 (E : ax_EN G l) : ax_Snd G l ax_Ym M_X1_addTest 48 (S_push (.int (1)) 49) := k_iconst dX1_addTest_48 rfl
theorem r_X1_addTest_49 (E : ax_EN G l) : ax_Snd G l ax_Ym M_X1_addTest 49 (S_goto 53) := k_goto dX1_addTest_49 rfl
theorem r_X1_addTest_52 (E : ax_EN G l) : ax_Snd G l ax_Ym M_X1_addTest 52 (S_push (.int (0)) 53) := k_iconst dX1_addTest_52 rfl
theorem r_X1_addTest_53 (E : ax_EN G l) : ax_Snd G l ax_Ym M_X1_addTest 53 (S_is 234 1 56 hd_0) := k_is (en_F E) (ax_ok0 E rfl) ((ev_s y_X1_must q1714 q1715 q118 q1716 nm_X1_must (Nat.le_of_ble_eq_true rfl) dX1_addTest_53) : ax_EvS G l ax_Ym M_X1_addTest 53 234 1 3)
theorem r_X1_addTest_56 (E : ax_EN G l) : ax_Snd G l ax_Ym M_X1_addTest 56 (S_aload 0 57) := k_aload_n dX1_addTest_56 rfl
theorem r_X1_addTest_57 (E : ax_EN G l) : ax_Snd G l ax_Ym M_X1_addTest 57 (S_getf [(19, 2)] 60) := k_getf (en_F E) (ax_fes_cons (fe_144 E) ax_fes_nil) q324 dX1_addTest_57
theorem r_X1_addTest_60 (E : ax_EN G l) : ax_Snd G l ax_Ym M_X1_addTest 60 (S_new 37 [.null, .null, .int 0, .int 0, .int 0, .int 0, .int 0, .int 0] 8 63) := k_new (en_F E) (mk_37 E) q1673 dX1_addTest_60
theorem r_X1_addTest_63 (E : ax_EN G l) : ax_Snd G l ax_Ym M_X1_addTest 63 (S_dup 64) := k_dup dX1_addTest_63
theorem r_X1_addTest_64 (E : ax_EN G l) : ax_Snd G l ax_Ym M_X1_addTest 64 (S_aload 0 65) := k_aload_n dX1_addTest_64 rfl
theorem r_X1_addTest_65 (E : ax_EN G l) : ax_Snd G l ax_Ym M_X1_addTest 65 (S_getf [(19, 3)] 68) := k_getf (en_F E) (ax_fes_cons (fe_147 E) ax_fes_nil) q325 dX1_addTest_65
theorem r_X1_addTest_68 (E : ax_EN G l) : ax_Snd G l ax_Ym M_X1_addTest 68 (S_is 266 1 71 hd_0) := k_is (en_F E) (ax_ok0 E rfl) ((ev_s y_X1_taken q2662 q2663 q118 q2664 nm_X1_taken (Nat.le_of_ble_eq_true rfl) dX1_addTest_68) : ax_EvS G l ax_Ym M_X1_addTest 68 266 1 3)
theorem r_X1_addTest_71 (E : ax_EN G l) : ax_Snd G l ax_Ym M_X1_addTest 71 (S_aload 0 72) := k_aload_n dX1_addTest_71 rfl
theorem r_X1_addTest_72 (E : ax_EN G l) : ax_Snd G l ax_Ym M_X1_addTest 72 (S_getf [(19, 4)] 75) := k_getf (en_F E) (ax_fes_cons (fe_149 E) ax_fes_nil) q326 dX1_addTest_72
theorem r_X1_addTest_75 (E : ax_EN G l) : ax_Snd G l ax_Ym M_X1_addTest 75 (S_is 266 1 78 hd_0) := k_is (en_F E) (ax_ok0 E rfl) ((ev_s y_X1_taken q2662 q2663 q118 q2664 nm_X1_taken (Nat.le_of_ble_eq_true rfl) dX1_addTest_75) : ax_EvS G l ax_Ym M_X1_addTest 75 266 1 3)
theorem r_X1_addTest_78 (E : ax_EN G l) : ax_Snd G l ax_Ym M_X1_addTest 78 (S_iload 1 79) := k_iload_n dX1_addTest_78 rfl
theorem r_X1_addTest_79 (E : ax_EN G l) : ax_Snd G l ax_Ym M_X1_addTest 79 (S_iload 2 80) := k_iload_n dX1_addTest_79 rfl
theorem r_X1_addTest_80 (E : ax_EN G l) : ax_Snd G l ax_Ym M_X1_addTest 80 (S_iload 3 81) := k_iload_n dX1_addTest_80 rfl
theorem r_X1_addTest_81 (E : ax_EN G l) : ax_Snd G l ax_Ym M_X1_addTest 81 (S_iload 4 83) := k_iload dX1_addTest_81
theorem r_X1_addTest_83 (E : ax_EN G l) : ax_Snd G l ax_Ym M_X1_addTest 83 (S_isp 367 6 86 hd_0) := k_isp (en_F E) (ax_ok0 E rfl) ((ev_i y_X27_init q2680 q2681 q178 q2682 nm_X27_init rfl (Nat.le_of_ble_eq_true rfl) dX1_addTest_83) : ax_EvI G l ax_Ym M_X1_addTest 83 367 6 3)
theorem r_X1_addTest_86 (E : ax_EN G l) : ax_Snd G l ax_Ym M_X1_addTest 86 (S_iv [(4, 63)] 1 91 hd_0) := k_iv (en_F E) (ax_ok0 E rfl) (ax_Evs_cons ((ev_f (en_F E) (en_B E) (en_c E (k := 4) rfl) y_J2_add q1734 q1024 q1022 q121 q1026 q1021 q1020 q1025 q1023 q349 xn_166 (Nat.le_of_ble_eq_true rfl) dX1_addTest_86) : ax_EvV G l ax_Ym M_X1_addTest 86 1 5 4 63) ax_Evs_nil)
theorem r_X1_addTest_91 (E : ax_EN G l) : ax_Snd G l ax_Ym M_X1_addTest 91 (S_pop 92) := k_pop dX1_addTest_91
theorem r_X1_addTest_92 (E : ax_EN G l) : ax_Snd G l ax_Ym M_X1_addTest 92 (S_aload 0 93) := k_aload_n dX1_addTest_92 rfl
theorem r_X1_addTest_93 (E : ax_EN G l) : ax_Snd G l ax_Ym M_X1_addTest 93 (S_getf [(19, 2)] 96) := k_getf (en_F E) (ax_fes_cons (fe_144 E) ax_fes_nil) q324 dX1_addTest_93
theorem r_X1_addTest_96 (E : ax_EN G l) : ax_Snd G l ax_Ym M_X1_addTest 96 (S_iv [(4, 59)] 0 101 hd_0) := k_iv (en_F E) (ax_ok0 E rfl) (ax_Evs_cons ((ev_f (en_F E) (en_B E) (en_c E (k := 4) rfl) y_J2_size q346 q352 q350 q121 q354 q348 q347 q353 q351 q349 xn_151 (Nat.le_of_ble_eq_true rfl) dX1_addTest_96) : ax_EvV G l ax_Ym M_X1_addTest 96 0 5 4 59) ax_Evs_nil)
theorem r_X1_addTest_101 (E : ax_EN G l) : ax_Snd G l ax_Ym M_X1_addTest 101 (S_push (.int (1)) 102) := k_iconst dX1_addTest_101 rfl
theorem r_X1_addTest_102 (E : ax_EN G l) : ax_Snd G l ax_Ym M_X1_addTest 102 (S_i2 (fun x y => x - y) 103) := k_isub dX1_addTest_102
theorem r_X1_addTest_103 (E : ax_EN G l) : ax_Snd G l ax_Ym M_X1_addTest 103 (S_iret) := k_iret dX1_addTest_103 rfl
theorem mt_X1_addTest (E : ax_EN G l) : ax_mt G l ax_Ym (5, P_X1_addTest) (ax_Ym 265) := ⟨M_X1_addTest, yX1_addTest, ⟨rfl, by decide +kernel, rfl, (fun h => by cases h), Or.inl ⟨rfl, rfl⟩⟩, fun pc => (ax_sn_node (ax_sn_node (ax_sn_node (ax_sn_node (ax_sn_node (ax_sn_node (ax_sn_leaf (r_X1_addTest_103 E)) (ax_sn_leaf (r_X1_addTest_102 E))) (ax_sn_node (ax_sn_leaf (r_X1_addTest_101 E)) (ax_sn_leaf (r_X1_addTest_96 E)))) (ax_sn_node (ax_sn_node (ax_sn_leaf (r_X1_addTest_93 E)) (ax_sn_leaf (r_X1_addTest_92 E))) (ax_sn_leaf (r_X1_addTest_91 E)))) (ax_sn_node (ax_sn_node (ax_sn_node (ax_sn_leaf (r_X1_addTest_86 E)) (ax_sn_leaf (r_X1_addTest_83 E))) (ax_sn_leaf (r_X1_addTest_81 E))) (ax_sn_node (ax_sn_node (ax_sn_leaf (r_X1_addTest_80 E)) (ax_sn_leaf (r_X1_addTest_79 E))) (ax_sn_leaf (r_X1_addTest_78 E))))) (ax_sn_node (ax_sn_node (ax_sn_node (ax_sn_node (ax_sn_leaf (r_X1_addTest_75 E)) (ax_sn_leaf (r_X1_addTest_72 E))) (ax_sn_node (ax_sn_leaf (r_X1_addTest_71 E)) (ax_sn_leaf (r_X1_addTest_68 E)))) (ax_sn_node (ax_sn_node (ax_sn_leaf (r_X1_addTest_65 E)) (ax_sn_leaf (r_X1_addTest_64 E))) (ax_sn_leaf (r_X1_addTest_63 E)))) (ax_sn_node (ax_sn_node (ax_sn_node (ax_sn_leaf (r_X1_addTest_60 E)) (ax_sn_leaf (r_X1_addTest_57 E))) (ax_sn_leaf (r_X1_addTest_56 E))) (ax_sn_node (ax_sn_node (ax_sn_leaf (r_X1_addTest_53 E)) (ax_sn_leaf (r_X1_addTest_52 E))) (ax_sn_leaf (r_X1_addTest_49 E)))))) (ax_sn_node (ax_sn_node (ax_sn_node (ax_sn_node (ax_sn_node (ax_sn_leaf (r_X1_addTest_48 E)) (ax_sn_leaf (r_X1_addTest_45 E))) (ax_sn_node (ax_sn_leaf (r_X1_addTest_44 E)) (ax_sn_leaf (r_X1_addTest_39 E)))) (ax_sn_node (ax_sn_node (ax_sn_leaf (r_X1_addTest_36 E)) (ax_sn_leaf (r_X1_addTest_35 E))) (ax_sn_leaf (r_X1_addTest_34 E)))) (ax_sn_node (ax_sn_node (ax_sn_node (ax_sn_leaf (r_X1_addTest_31 E)) (ax_sn_leaf (r_X1_addTest_28 E))) (ax_sn_leaf (r_X1_addTest_27 E))) (ax_sn_node (ax_sn_node (ax_sn_leaf (r_X1_addTest_25 E)) (ax_sn_leaf (r_X1_addTest_24 E))) (ax_sn_leaf (r_X1_addTest_21 E))))) (ax_sn_node (ax_sn_node (ax_sn_node (ax_sn_node (ax_sn_leaf (r_X1_addTest_19 E)) (ax_sn_leaf (r_X1_addTest_18 E))) (ax_sn_node (ax_sn_leaf (r_X1_addTest_17 E)) (ax_sn_leaf (r_X1_addTest_16 E)))) (ax_sn_node (ax_sn_node (ax_sn_leaf (r_X1_addTest_13 E)) (ax_sn_leaf (r_X1_addTest_11 E))) (ax_sn_leaf (r_X1_addTest_10 E)))) (ax_sn_node (ax_sn_node (ax_sn_node (ax_sn_leaf (r_X1_addTest_9 E)) (ax_sn_leaf (r_X1_addTest_8 E))) (ax_sn_leaf (r_X1_addTest_5 E))) (ax_sn_node (ax_sn_node (ax_sn_leaf (r_X1_addTest_2 E)) (ax_sn_leaf (r_X1_addTest_1 E))) (ax_sn_leaf (r_X1_addTest_0 E)))))))⟩
theorem r_X1_taken_0 (E : ax_EN G l) : ax_Snd G l ax_Ym M_X1_taken 0 (S_aload 0 1) := k_aload_n dX1_taken_0 rfl
theorem r_X1_taken_1 (E : ax_EN G l) : ax_Snd G l ax_Ym M_X1_taken 1 (S_iv [(15, 125)] 0 4 hd_0) := k_iv (en_F E) (ax_ok0 E rfl) (ax_Evs_cons ((ev_v (en_c E (k := 15) rfl) rfl y_J4_size q2329 q358 q3460 q124 q360 nm_J4_size (Nat.le_of_ble_eq_true rfl) dX1_taken_1) : ax_EvV G l ax_Ym M_X1_taken 1 0 3 15 125) ax_Evs_nil)
theorem r_X1_taken_4 (E : ax_EN G l) : ax_Snd G l ax_Ym M_X1_taken 4 (S_newa 0 0 6) := k_newa (atype := .int) (en_F E) (by decide) rfl (fun _ => rfl) (Or.inl q255) (by decide) (fun _ => rfl) dX1_taken_4
theorem r_X1_taken_6 (E : ax_EN G l) : ax_Snd G l ax_Ym M_X1_taken 6 (S_astore 1 7) := k_astore_n dX1_taken_6 rfl (Nat.le_of_ble_eq_true rfl)
theorem r_X1_taken_7 (E : ax_EN G l) : ax_Snd G l ax_Ym M_X1_taken 7 (S_push (.int (0)) 8) := k_iconst dX1_taken_7 rfl
theorem r_X1_taken_8 (E : ax_EN G l) : ax_Snd G l ax_Ym M_X1_taken 8 (S_istore 2 9) := k_istore_n dX1_taken_8 rfl (Nat.le_of_ble_eq_true rfl)
theorem r_X1_taken_9 (E : ax_EN G l) : ax_Snd G l ax_Ym M_X1_taken 9 (S_iload 2 10) := k_iload_n dX1_taken_9 rfl
theorem r_X1_taken_10 (E : ax_EN G l) : ax_Snd G l ax_Ym M_X1_taken 10 (S_aload 1 11) := k_aload_n dX1_taken_10 rfl
theorem r_X1_taken_11 (E : ax_EN G l) : ax_Snd G l ax_Ym M_X1_taken 11 (S_alen 12) := k_alen (en_F E) dX1_taken_11
theorem r_X1_taken_12 (E : ax_EN G l) : ax_Snd G l ax_Ym M_X1_taken 12 (S_if2 (fun x y => decide (y ≤ x)) 34 15) := k_icmp_ge dX1_taken_12 rfl
theorem r_X1_taken_15 (E : ax_EN G l) : ax_Snd G l ax_Ym M_X1_taken 15 (S_aload 1 16) := k_aload_n dX1_taken_15 rfl
theorem r_X1_taken_16 (E : ax_EN G l) : ax_Snd G l ax_Ym M_X1_taken 16 (S_iload 2 17) := k_iload_n dX1_taken_16 rfl
theorem r_X1_taken_17 (E : ax_EN G l) : ax_Snd G l ax_Ym M_X1_taken 17 (S_aload 0 18) := k_aload_n dX1_taken_17 rfl
theorem r_X1_taken_18 (E : ax_EN G l) : ax_Snd G l ax_Ym M_X1_taken 18 (S_iv [(15, 140)] 0 21 hd_0) := k_iv (en_F E) (ax_ok0 E rfl) (ax_Evs_cons ((ev_v (en_c E (k := 15) rfl) rfl y_J4_removeFirst q2665 q2666 q2667 q124 q2668 nm_J4_removeFirst (Nat.le_of_ble_eq_true rfl) dX1_taken_18) : ax_EvV G l ax_Ym M_X1_taken 18 0 3 15 140) ax_Evs_nil)
theorem r_X1_taken_21 (E : ax_EN G l) : ax_Snd G l ax_Ym M_X1_taken 21 (S_cast [5] 24) := k_cast (en_F E) (en_B E) (cs_186 E) q2675 dX1_taken_21
theorem r_X1_taken_24 (E : ax_EN G l) : ax_Snd G l ax_Ym M_X1_taken 24 (S_iv [(5, 78)] 0 27 hd_0) := k_iv (en_F E) (ax_ok0 E rfl) (ax_Evs_cons ((ev_v (en_c E (k := 5) rfl) rfl y_J22_intValue q2676 q2677 q2678 q160 q2679 nm_J22_intValue (Nat.le_of_ble_eq_true rfl) dX1_taken_24) : ax_EvV G l ax_Ym M_X1_taken 24 0 3 5 78) ax_Evs_nil)
theorem r_X1_taken_27 (E : ax_EN G l) : ax_Snd G l ax_Ym M_X1_taken 27 (S_iast 0 (fun x => x) 28) := k_iast (en_F E) dX1_taken_27
theorem r_X1_taken_28 (E : ax_EN G l) : ax_Snd G l ax_Ym M_X1_taken 28 (S_iinc 2 (1) 31) := k_iinc dX1_taken_28 rfl (Nat.le_of_ble_eq_true rfl)
theorem r_X1_taken_31 (E : ax_EN G l) : ax_Snd G l ax_Ym M_X1_taken 31 (S_goto 9) := k_goto dX1_taken_31 rfl
theorem r_X1_taken_34 (E : ax_EN G l) : ax_Snd G l ax_Ym M_X1_taken 34 (S_aload 1 35) := k_aload_n dX1_taken_34 rfl
theorem r_X1_taken_35 (E : ax_EN G l) : ax_Snd G l ax_Ym M_X1_taken 35 (S_aret) := k_aret dX1_taken_35 rfl (Or.inr ⟨_, rfl⟩)
theorem mt_X1_taken (E : ax_EN G l) : ax_mt G l ax_Ym (3, P_X1_taken) (ax_Ym 266) := ⟨M_X1_taken, yX1_taken, ⟨rfl, by decide +kernel, rfl, (fun h => by cases h), Or.inl ⟨rfl, rfl⟩⟩, fun pc => (ax_sn_node (ax_sn_node (ax_sn_node (ax_sn_node (ax_sn_node (ax_sn_leaf (r_X1_taken_35 E)) (ax_sn_leaf (r_X1_taken_34 E))) (ax_sn_leaf (r_X1_taken_31 E))) (ax_sn_node (ax_sn_node (ax_sn_leaf (r_X1_taken_28 E)) (ax_sn_leaf (r_X1_taken_27 E))) (ax_sn_leaf (r_X1_taken_24 E)))) (ax_sn_node (ax_sn_node (ax_sn_node (ax_sn_leaf (r_X1_taken_21 E)) (ax_sn_leaf (r_X1_taken_18 E))) (ax_sn_leaf (r_X1_taken_17 E))) (ax_sn_node (ax_sn_leaf (r_X1_taken_16 E)) (ax_sn_leaf (r_X1_taken_15 E))))) (ax_sn_node (ax_sn_node (ax_sn_node (ax_sn_node (ax_sn_leaf (r_X1_taken_12 E)) (ax_sn_leaf (r_X1_taken_11 E))) (ax_sn_leaf (r_X1_taken_10 E))) (ax_sn_node (ax_sn_leaf (r_X1_taken_9 E)) (ax_sn_leaf (r_X1_taken_8 E)))) (ax_sn_node (ax_sn_node (ax_sn_node (ax_sn_leaf (r_X1_taken_7 E)) (ax_sn_leaf (r_X1_taken_6 E))) (ax_sn_leaf (r_X1_taken_4 E))) (ax_sn_node (ax_sn_leaf (r_X1_taken_1 E)) (ax_sn_leaf (r_X1_taken_0 E))))))⟩
theorem r_X1_submit_0 (E : ax_EN G l) : ax_Snd G l ax_Ym M_X1_submit 0 (S_aload 0 1) := k_aload_n dX1_submit_0 rfl
theorem r_X1_submit_1 (E : ax_EN G l) : ax_Snd G l ax_Ym M_X1_submit 1 (S_getf [(19, 5)] 4) := k_getf (en_F E) (ax_fes_cons (fe_179 E) ax_fes_nil) q327 dX1_submit_1
theorem r_X1_submit_4 (E : ax_EN G l) : ax_Snd G l ax_Ym M_X1_submit 4 (S_null 11 7) := k_ifnull dX1_submit_4 rfl
theorem r_X1_submit_7 (E : ax_EN G l) : ax_Snd G l ax_Ym M_X1_submit 7 (S_push (.int (1)) 8) := k_iconst dX1_submit_7 rfl
theorem r_X1_submit_8 (E : ax_EN G l) : ax_Snd G l ax_Ym M_X1_submit 8 (S_goto 12) := k_goto dX1_submit_8 rfl
theorem r_X1_submit_11 (E : ax_EN G l) : ax_Snd G l ax_Ym M_X1_submit 11 (S_push (.int (0)) 12) := k_iconst dX1_submit_11 rfl
theorem r_X1_submit_12 (E : ax_EN G l) : ax_Snd G l ax_Ym M_X1_submit 12 (S_is 234 1 15 hd_0) := k_is (en_F E) (ax_ok0 E rfl) ((ev_s y_X1_must q1714 q1715 q118 q1716 nm_X1_must (Nat.le_of_ble_eq_true rfl) dX1_submit_12) : ax_EvS G l ax_Ym M_X1_submit 12 234 1 3)
theorem r_X1_submit_15 (E : ax_EN G l) : ax_Snd G l ax_Ym M_X1_submit 15 (S_push (.int (0)) 16) := k_iconst dX1_submit_15 rfl
theorem r_X1_submit_16 (E : ax_EN G l) : ax_Snd G l ax_Ym M_X1_submit 16 (S_istore 1 17) := k_istore_n dX1_submit_16 rfl (Nat.le_of_ble_eq_true rfl)
theorem r_X1_submit_17 (E : ax_EN G l) : ax_Snd G l ax_Ym M_X1_submit 17 (S_aload 0 18) := k_aload_n dX1_submit_17 rfl
theorem r_X1_submit_18 (E : ax_EN G l) : ax_Snd G l ax_Ym M_X1_submit 18 (S_getf [(19, 2)] 21) := k_getf (en_F E) (ax_fes_cons (fe_144 E) ax_fes_nil) q324 dX1_submit_18
theorem r_X1_submit_21 (E : ax_EN G l) : ax_Snd G l ax_Ym M_X1_submit 21 (S_iv [(4, 67)] 0 26 hd_0) := k_iv (en_F E) (ax_ok0 E rfl) (ax_Evs_cons ((ev_f (en_F E) (en_B E) (en_c E (k := 4) rfl) y_J2_iterator q1379 q1384 q1382 q121 q1386 q1381 q1380 q1385 q1383 q349 xn_160 (Nat.le_of_ble_eq_true rfl) dX1_submit_21) : ax_EvV G l ax_Ym M_X1_submit 21 0 5 4 67) ax_Evs_nil)
theorem r_X1_submit_26 (E : ax_EN G l) : ax_Snd G l ax_Ym M_X1_submit 26 (S_astore 2 27) := k_astore_n dX1_submit_26 rfl (Nat.le_of_ble_eq_true rfl)
theorem r_X1_submit_27 (E : ax_EN G l) : ax_Snd G l ax_Ym M_X1_submit 27 (S_aload 2 28) := k_aload_n dX1_submit_27 rfl
theorem r_X1_submit_28 (E : ax_EN G l) : ax_Snd G l ax_Ym M_X1_submit 28 (S_iv [(10, 92), (13, 110)] 0 33 hd_0) := k_iv (en_F E) (ax_ok0 E rfl) (ax_Evs_cons ((ev_f (en_F E) (en_B E) (en_c E (k := 10) rfl) y_J28_hasNext q1496 q1513 q1511 q173 q1515 q1498 q1497 q1514 q1512 q1510 xn_161 (Nat.le_of_ble_eq_true rfl) dX1_submit_28) : ax_EvV G l ax_Ym M_X1_submit 28 0 5 10 92) (ax_Evs_cons ((ev_f (en_F E) (en_B E) (en_c E (k := 13) rfl) y_J32_hasNext q1496 q1519 q1517 q179 q1521 q1498 q1497 q1520 q1518 q1516 xn_161 (Nat.le_of_ble_eq_true rfl) dX1_submit_28) : ax_EvV G l ax_Ym M_X1_submit 28 0 5 13 110) ax_Evs_nil))
theorem r_X1_submit_33 (E : ax_EN G l) : ax_Snd G l ax_Ym M_X1_submit 33 (S_if1 (fun x => decide (x = 0)) 72 36) := k_if_eq dX1_submit_33 rfl
theorem r_X1_submit_36 (E : ax_EN G l) : ax_Snd G l ax_Ym M_X1_submit 36 (S_aload 2 37) := k_aload_n dX1_submit_36 rfl
theorem r_X1_submit_37 (E : ax_EN G l) : ax_Snd G l ax_Ym M_X1_submit 37 (S_iv [(10, 94), (13, 111)] 0 42 hd_0) := k_iv (en_F E) (ax_ok0 E rfl) (ax_Evs_cons ((ev_f (en_F E) (en_B E) (en_c E (k := 10) rfl) y_J29_next q1532 q1626 q1624 q174 q1628 q1534 q1533 q1627 q1625 q1510 xn_162 (Nat.le_of_ble_eq_true rfl) dX1_submit_37) : ax_EvV G l ax_Ym M_X1_submit 37 0 5 10 94) (ax_Evs_cons ((ev_f (en_F E) (en_B E) (en_c E (k := 13) rfl) y_J32_next q1532 q1648 q1646 q179 q1650 q1534 q1533 q1649 q1647 q1516 xn_162 (Nat.le_of_ble_eq_true rfl) dX1_submit_37) : ax_EvV G l ax_Ym M_X1_submit 37 0 5 13 111) ax_Evs_nil))
theorem r_X1_submit_42 (E : ax_EN G l) : ax_Snd G l ax_Ym M_X1_submit 42 (S_cast [37] 45) := k_cast (en_F E) (en_B E) (cs_163 E) q1673 dX1_submit_42
theorem r_X1_submit_45 (E : ax_EN G l) : ax_Snd G l ax_Ym M_X1_submit 45 (S_astore 3 46) := k_astore_n dX1_submit_45 rfl (Nat.le_of_ble_eq_true rfl)
theorem r_X1_submit_46 (E : ax_EN G l) : ax_Snd G l ax_Ym M_X1_submit 46 (S_aload 3 47) := k_aload_n dX1_submit_46 rfl
theorem r_X1_submit_47 (E : ax_EN G l) : ax_Snd G l ax_Ym M_X1_submit 47 (S_aload 0 48) := k_aload_n dX1_submit_47 rfl
theorem r_X1_submit_48 (E : ax_EN G l) : ax_Snd G l ax_Ym M_X1_submit 48 (S_getf [(19, 5)] 51) := k_getf (en_F E) (ax_fes_cons (fe_179 E) ax_fes_nil) q327 dX1_submit_48
theorem r_X1_submit_51 (E : ax_EN G l) : ax_Snd G l ax_Ym M_X1_submit 51 (S_iv [(37, 368)] 1 54 hd_0) := k_iv (en_F E) (ax_ok0 E rfl) (ax_Evs_cons ((ev_v (en_c E (k := 37) rfl) rfl y_X27_make q2717 q2718 q2719 q178 q2720 nm_X27_make (Nat.le_of_ble_eq_true rfl) dX1_submit_51) : ax_EvV G l ax_Ym M_X1_submit 51 1 3 37 368) ax_Evs_nil)
theorem r_X1_submit_54 (E : ax_EN G l) : ax_Snd G l ax_Ym M_X1_submit 54 (S_iload 1 55) := k_iload_n dX1_submit_54 rfl
theorem r_X1_submit_55 (E : ax_EN G l) : ax_Snd G l ax_Ym M_X1_submit 55 (S_aload 3 56) := k_aload_n dX1_submit_55 rfl
theorem r_X1_submit_56 (E : ax_EN G l) : ax_Snd G l ax_Ym M_X1_submit 56 (S_getf [(37, 6)] 59) := k_getfN (en_F E) (en_B E) (ax_fes_cons (fe_187 E) ax_fes_nil) q2691 dX1_submit_56
theorem r_X1_submit_59 (E : ax_EN G l) : ax_Snd G l ax_Ym M_X1_submit 59 (S_if1 (fun x => decide (¬ x = 0)) 66 62) := k_if_ne dX1_submit_59 rfl
theorem r_X1_submit_62 (E : ax_EN G l) : ax_Snd G l ax_Ym M_X1_submit 62 (S_push (.int (1)) 63) := k_iconst dX1_submit_62 rfl
theorem r_X1_submit_63 (E : ax_EN G l) : ax_Snd G l ax_Ym M_X1_submit 63 (S_goto 67) := k_goto dX1_submit_63 rfl
theorem r_X1_submit_66 (E : ax_EN G l) : ax_Snd G l ax_Ym M_X1_submit 66 (S_push (.int (0)) 67) := k_iconst dX1_submit_66 rfl
theorem r_X1_submit_67 (E : ax_EN G l) : ax_Snd G l ax_Ym M_X1_submit 67 (S_i2 (fun x y => x + y) 68) := k_iadd dX1_submit_67
theorem r_X1_submit_68 (E : ax_EN G l) : ax_Snd G l ax_Ym M_X1_submit 68 (S_istore 1 69) := k_istore_n dX1_submit_68 rfl (Nat.le_of_ble_eq_true rfl)
theorem r_X1_submit_69 (E : ax_EN G l) : ax_Snd G l ax_Ym M_X1_submit 69 (S_goto 27) := k_goto dX1_submit_69 rfl
theorem r_X1_submit_72 (E : ax_EN G l) : ax_Snd G l ax_Ym M_X1_submit 72 (S_iload 1 73) := k_iload_n dX1_submit_72 rfl
theorem r_X1_submit_73 (E : ax_EN G l) : ax_Snd G l ax_Ym M_X1_submit 73 (S_iret) := k_iret dX1_submit_73 rfl
theorem mt_X1_submit (E : ax_EN G l) : ax_mt G l ax_Ym (4, P_X1_submit) (ax_Ym 267) := ⟨M_X1_submit, yX1_submit, ⟨rfl, by decide +kernel, rfl, (fun h => by cases h), Or.inl ⟨rfl, rfl⟩⟩, fun pc => (ax_sn_node (ax_sn_node (ax_sn_node (ax_sn_node (ax_sn_node (ax_sn_node (ax_sn_leaf (r_X1_submit_73 E)) (ax_sn_leaf (r_X1_submit_72 E))) (ax_sn_leaf (r_X1_submit_69 E))) (ax_sn_node (ax_sn_leaf (r_X1_submit_68 E)) (ax_sn_leaf (r_X1_submit_67 E)))) (ax_sn_node (ax_sn_node (ax_sn_leaf (r_X1_submit_66 E)) (ax_sn_leaf (r_X1_submit_63 E))) (ax_sn_node (ax_sn_leaf (r_X1_submit_62 E)) (ax_sn_leaf (r_X1_submit_59 E))))) (ax_sn_node (ax_sn_node (ax_sn_node (ax_sn_node (ax_sn_leaf (r_X1_submit_56 E)) (ax_sn_leaf (r_X1_submit_55 E))) (ax_sn_leaf (r_X1_submit_54 E))) (ax_sn_node (ax_sn_leaf (r_X1_submit_51 E)) (ax_sn_leaf (r_X1_submit_48 E)))) (ax_sn_node (ax_sn_node (ax_sn_leaf (r_X1_submit_47 E)) (ax_sn_leaf (r_X1_submit_46 E))) (ax_sn_node (ax_sn_leaf (r_X1_submit_45 E)) (ax_sn_leaf (r_X1_submit_42 E)))))) (ax_sn_node (ax_sn_node (ax_sn_node (ax_sn_node (ax_sn_node (ax_sn_leaf (r_X1_submit_37 E)) (ax_sn_leaf (r_X1_submit_36 E))) (ax_sn_leaf (r_X1_submit_33 E))) (ax_sn_node (ax_sn_leaf (r_X1_submit_28 E)) (ax_sn_leaf (r_X1_submit_27 E)))) (ax_sn_node (ax_sn_node (ax_sn_leaf (r_X1_submit_26 E)) (ax_sn_leaf (r_X1_submit_21 E))) (ax_sn_node (ax_sn_leaf (r_X1_submit_18 E)) (ax_sn_leaf (r_X1_submit_17 E))))) (ax_sn_node (ax_sn_node (ax_sn_node (ax_sn_node (ax_sn_leaf (r_X1_submit_16 E)) (ax_sn_leaf (r_X1_submit_15 E))) (ax_sn_leaf (r_X1_submit_12 E))) (ax_sn_node (ax_sn_leaf (r_X1_submit_11 E)) (ax_sn_leaf (r_X1_submit_8 E)))) (ax_sn_node (ax_sn_node (ax_sn_leaf (r_X1_submit_7 E)) (ax_sn_leaf (r_X1_submit_4 E))) (ax_sn_node (ax_sn_leaf (r_X1_submit_1 E)) (ax_sn_leaf (r_X1_submit_0 E)))))))⟩
theorem r_X1_result_0 (E : ax_EN G l) : ax_Snd G l ax_Ym M_X1_result 0 (S_iload 1 1) := k_iload_n dX1_result_0 rfl
theorem r_X1_result_1 (E : ax_EN G l) : ax_Snd G l ax_Ym M_X1_result 1 (S_if1 (fun x => decide (x < 0)) 17 4) := k_if_lt dX1_result_1 rfl
theorem r_X1_result_4 (E : ax_EN G l) : ax_Snd G l ax_Ym M_X1_result 4 (S_iload 1 5) := k_iload_n dX1_result_4 rfl
theorem r_X1_result_5 (E : ax_EN G l) : ax_Snd G l ax_Ym M_X1_result 5 (S_aload 0 6) := k_aload_n dX1_result_5 rfl
theorem r_X1_result_6 (E : ax_EN G l) : ax_Snd G l ax_Ym M_X1_result 6 (S_getf [(19, 2)] 9) := k_getf (en_F E) (ax_fes_cons (fe_144 E) ax_fes_nil) q324 dX1_result_6
theorem r_X1_result_9 (E : ax_EN G l) : ax_Snd G l ax_Ym M_X1_result 9 (S_iv [(4, 59)] 0 14 hd_0) := k_iv (en_F E) (ax_ok0 E rfl) (ax_Evs_cons ((ev_f (en_F E) (en_B E) (en_c E (k := 4) rfl) y_J2_size q346 q352 q350 q121 q354 q348 q347 q353 q351 q349 xn_151 (Nat.le_of_ble_eq_true rfl) dX1_result_9) : ax_EvV G l ax_Ym M_X1_result 9 0 5 4 59) ax_Evs_nil)
theorem r_X1_result_14 (E : ax_EN G l) : ax_Snd G l ax_Ym M_X1_result 14 (S_if2 (fun x y => decide (x < y)) 28 17) := k_icmp_lt dX1_result_14 rfl
theorem r_X1_result_17 (E : ax_EN G l) : ax_Snd G l ax_Ym M_X1_result 17 (S_new 46 [.null] 6 20) := k_new (en_F E) (mk_46 E) q2559 dX1_result_17
theorem r_X1_result_20 (E : ax_EN G l) : ax_Snd G l ax_Ym M_X1_result 20 (S_dup 21) := k_dup dX1_result_20
theorem r_X1_result_21 (E : ax_EN G l) : ax_Snd G l ax_Ym M_X1_result 21 (S_push (.ref 391) 24) := k_ldcwS (en_x E 7 rfl) dX1_result_21
theorem r_X1_result_24 (E : ax_EN G l) : ax_Snd G l ax_Ym M_X1_result 24 (S_isp 80 1 27 hd_0) := k_isp (en_F E) (ax_ok0 E rfl) ((ev_i y_J24_init q2561 q868 q162 q869 nm_J24_init rfl (Nat.le_of_ble_eq_true rfl) dX1_result_24) : ax_EvI G l ax_Ym M_X1_result 24 80 1 3)
theorem r_X1_result_27 (E : ax_EN G l) : ax_Snd G l ax_Ym M_X1_result 27 (S_athrow hd_0) := k_athrow (en_F E) (ax_ok0 E rfl) dX1_result_27
theorem r_X1_result_28 (E : ax_EN G l) : ax_Snd G l ax_Ym M_X1_result 28 (S_aload 0 29) := k_aload_n dX1_result_28 rfl
theorem r_X1_result_29 (E : ax_EN G l) : ax_Snd G l ax_Ym M_X1_result 29 (S_getf [(19, 2)] 32) := k_getf (en_F E) (ax_fes_cons (fe_144 E) ax_fes_nil) q324 dX1_result_29
theorem r_X1_result_32 (E : ax_EN G l) : ax_Snd G l ax_Ym M_X1_result 32 (S_iload 1 33) := k_iload_n dX1_result_32 rfl
theorem r_X1_result_33 (E : ax_EN G l) : ax_Snd G l ax_Ym M_X1_result 33 (S_iv [(4, 61)] 1 38 hd_0) := k_iv (en_F E) (ax_ok0 E rfl) (ax_Evs_cons ((ev_f (en_F E) (en_B E) (en_c E (k := 4) rfl) y_J2_get q2742 q821 q819 q121 q823 q818 q817 q822 q820 q349 xn_188 (Nat.le_of_ble_eq_true rfl) dX1_result_33) : ax_EvV G l ax_Ym M_X1_result 33 1 5 4 61) ax_Evs_nil)
theorem r_X1_result_38 (E : ax_EN G l) : ax_Snd G l ax_Ym M_X1_result 38 (S_cast [37] 41) := k_cast (en_F E) (en_B E) (cs_163 E) q1673 dX1_result_38
theorem r_X1_result_41 (E : ax_EN G l) : ax_Snd G l ax_Ym M_X1_result 41 (S_getf [(37, 6)] 44) := k_getfN (en_F E) (en_B E) (ax_fes_cons (fe_187 E) ax_fes_nil) q2691 dX1_result_41
theorem r_X1_result_44 (E : ax_EN G l) : ax_Snd G l ax_Ym M_X1_result 44 (S_iret) := k_iret dX1_result_44 rfl
theorem mt_X1_result (E : ax_EN G l) : ax_mt G l ax_Ym (2, P_X1_result) (ax_Ym 268) := ⟨M_X1_result, yX1_result, ⟨rfl, by decide +kernel, rfl, (fun h => by cases h), Or.inl ⟨rfl, rfl⟩⟩, fun pc => (ax_sn_node (ax_sn_node (ax_sn_node (ax_sn_node (ax_sn_node (ax_sn_leaf (r_X1_result_44 E)) (ax_sn_leaf (r_X1_result_41 E))) (ax_sn_leaf (r_X1_result_38 E))) (ax_sn_node (ax_sn_leaf (r_X1_result_33 E)) (ax_sn_leaf (r_X1_result_32 E)))) (ax_sn_node (ax_sn_node (ax_sn_node (ax_sn_leaf (r_X1_result_29 E)) (ax_sn_leaf (r_X1_result_28 E))) (ax_sn_leaf (r_X1_result_27 E))) (ax_sn_node (ax_sn_leaf (r_X1_result_24 E)) (ax_sn_leaf (r_X1_result_21 E))))) (ax_sn_node (ax_sn_node (ax_sn_node (ax_sn_node (ax_sn_leaf (r_X1_result_20 E)) (ax_sn_leaf (r_X1_result_17 E))) (ax_sn_leaf (r_X1_result_14 E))) (ax_sn_node (ax_sn_leaf (r_X1_result_9 E)) (ax_sn_leaf (r_X1_result_6 E)))) (ax_sn_node (ax_sn_node (ax_sn_leaf (r_X1_result_5 E)) (ax_sn_leaf (r_X1_result_4 E))) (ax_sn_node (ax_sn_leaf (r_X1_result_1 E)) (ax_sn_leaf (r_X1_result_0 E))))))⟩
theorem r_X10_go_0 (E : ax_EN G l) : ax_Snd G l ax_Ym M_X10_go 0 (S_push (.int (0)) 1) := k_iconst dX10_go_0 rfl
theorem r_X10_go_1 (E : ax_EN G l) : ax_Snd G l ax_Ym M_X10_go 1 (S_istore 4 3) := k_istore dX10_go_1 (Nat.le_of_ble_eq_true rfl)
theorem r_X10_go_3 (E : ax_EN G l) : ax_Snd G l ax_Ym M_X10_go 3 (S_iload 4 5) := k_iload dX10_go_3
theorem r_X10_go_5 (E : ax_EN G l) : ax_Snd G l ax_Ym M_X10_go 5 (S_aload 0 6) := k_aload_n dX10_go_5 rfl
theorem r_X10_go_6 (E : ax_EN G l) : ax_Snd G l ax_Ym M_X10_go 6 (S_getf [(20, 0)] 9) := k_getf (en_F E) (ax_fes_cons (fe_189 E) ax_fes_nil) q1836 dX10_go_6
theorem r_X10_go_9 (E : ax_EN G l) : ax_Snd G l ax_Ym M_X10_go 9 (S_if2 (fun x y => decide (y ≤ x)) 24 12) := k_icmp_ge dX10_go_9 rfl
theorem r_X10_go_12 (E : ax_EN G l) : ax_Snd G l ax_Ym M_X10_go 12 (S_aload 1 13) := k_aload_n dX10_go_12 rfl
theorem r_X10_go_13 (E : ax_EN G l) : ax_Snd G l ax_Ym M_X10_go 13 (S_push (.int (0)) 14) := k_iconst dX10_go_13 rfl
theorem r_X10_go_14 (E : ax_EN G l) : ax_Snd G l ax_Ym M_X10_go 14 (S_iload 3 15) := k_iload_n dX10_go_14 rfl
theorem r_X10_go_15 (E : ax_EN G l) : ax_Snd G l ax_Ym M_X10_go 15 (S_iv [(27, 292), (30, 353)] 2 18 hd_0) := k_iv (en_F E) (ax_ok0 E rfl) (ax_Evs_cons ((ev_vB (en_B E) (en_c E (k := 27) rfl) y_X18_take q940 q906 q905 q908 q907 q151 q909 xo_190 (Nat.le_of_ble_eq_true rfl) dX10_go_15) : ax_EvV G l ax_Ym M_X10_go 15 2 3 27 292) (ax_Evs_cons ((ev_vB (en_B E) (en_c E (k := 30) rfl) y_X20_take q940 q906 q905 q911 q910 q163 q912 xo_190 (Nat.le_of_ble_eq_true rfl) dX10_go_15) : ax_EvV G l ax_Ym M_X10_go 15 2 3 30 353) ax_Evs_nil))
theorem r_X10_go_18 (E : ax_EN G l) : ax_Snd G l ax_Ym M_X10_go 18 (S_iinc 4 (1) 21) := k_iinc dX10_go_18 rfl (Nat.le_of_ble_eq_true rfl)
theorem r_X10_go_21 (E : ax_EN G l) : ax_Snd G l ax_Ym M_X10_go 21 (S_goto 3) := k_goto dX10_go_21 rfl
theorem r_X10_go_24 (E : ax_EN G l) : ax_Snd G l ax_Ym M_X10_go 24 (S_iload 3 25) := k_iload_n dX10_go_24 rfl
theorem r_X10_go_25 (E : ax_EN G l) : ax_Snd G l ax_Ym M_X10_go 25 (S_push (.int (1)) 26) := k_iconst dX10_go_25 rfl
theorem r_X10_go_26 (E : ax_EN G l) : ax_Snd G l ax_Ym M_X10_go 26 (S_i2 (fun x y => x + y) 27) := k_iadd dX10_go_26
theorem r_X10_go_27 (E : ax_EN G l) : ax_Snd G l ax_Ym M_X10_go 27 (S_iret) := k_iret dX10_go_27 rfl
theorem mt_X10_go (E : ax_EN G l) : ax_mt G l ax_Ym (5, P_X10_go) (ax_Ym 269) := ⟨M_X10_go, yX10_go, ⟨rfl, by decide +kernel, rfl, (fun h => by cases h), Or.inl ⟨rfl, rfl⟩⟩, fun pc => (ax_sn_node (ax_sn_node (ax_sn_node (ax_sn_node (ax_sn_leaf (r_X10_go_27 E)) (ax_sn_leaf (r_X10_go_26 E))) (ax_sn_node (ax_sn_leaf (r_X10_go_25 E)) (ax_sn_leaf (r_X10_go_24 E)))) (ax_sn_node (ax_sn_node (ax_sn_leaf (r_X10_go_21 E)) (ax_sn_leaf (r_X10_go_18 E))) (ax_sn_node (ax_sn_leaf (r_X10_go_15 E)) (ax_sn_leaf (r_X10_go_14 E))))) (ax_sn_node (ax_sn_node (ax_sn_node (ax_sn_leaf (r_X10_go_13 E)) (ax_sn_leaf (r_X10_go_12 E))) (ax_sn_node (ax_sn_leaf (r_X10_go_9 E)) (ax_sn_leaf (r_X10_go_6 E)))) (ax_sn_node (ax_sn_node (ax_sn_leaf (r_X10_go_5 E)) (ax_sn_leaf (r_X10_go_3 E))) (ax_sn_node (ax_sn_leaf (r_X10_go_1 E)) (ax_sn_leaf (r_X10_go_0 E))))))⟩
theorem r_X10_init_0 (E : ax_EN G l) : ax_Snd G l ax_Ym M_X10_init 0 (S_aload 0 1) := k_aload_n dX10_init_0 rfl
theorem r_X10_init_1 (E : ax_EN G l) : ax_Snd G l ax_Ym M_X10_init 1 (S_aload 1 2) := k_aload_n dX10_init_1 rfl
theorem r_X10_init_2 (E : ax_EN G l) : ax_Snd G l ax_Ym M_X10_init 2 (S_putf [(20, 1)] (.object "KernelGym") 5) := k_putfF (en_F E) (en_P E) (ax_fes_cons (fe_191 E) ax_fes_nil) (ax_fps_cons (fp_192 E) ax_fps_nil) rfl q1837 dX10_init_2
theorem r_X10_init_5 (E : ax_EN G l) : ax_Snd G l ax_Ym M_X10_init 5 (S_aload 0 6) := k_aload_n dX10_init_5 rfl
theorem r_X10_init_6 (E : ax_EN G l) : ax_Snd G l ax_Ym M_X10_init 6 (S_iload 2 7) := k_iload_n dX10_init_6 rfl
theorem r_X10_init_7 (E : ax_EN G l) : ax_Snd G l ax_Ym M_X10_init 7 (S_putf [(20, 0)] (.int) 10) := k_putfF (en_F E) (en_P E) (ax_fes_cons (fe_189 E) ax_fes_nil) (ax_fps_cons (fp_193 E) ax_fps_nil) rfl q1836 dX10_init_7
theorem r_X10_init_10 (E : ax_EN G l) : ax_Snd G l ax_Ym M_X10_init 10 (S_aload 0 11) := k_aload_n dX10_init_10 rfl
theorem r_X10_init_11 (E : ax_EN G l) : ax_Snd G l ax_Ym M_X10_init 11 (S_isp 494 0 14 hd_0) := k_isp (en_F E) (ax_ok0 E rfl) ((ev_iN (en_B E) y_X4_init q1835 q1700 q131 q1701 nm_X4_init rfl (Nat.le_of_ble_eq_true rfl) dX10_init_11) : ax_EvI G l ax_Ym M_X10_init 11 494 0 3)
theorem r_X10_init_14 (E : ax_EN G l) : ax_Snd G l ax_Ym M_X10_init 14 (S_ret) := k_ret dX10_init_14 rfl
theorem mt_X10_init (E : ax_EN G l) : ax_mt G l ax_Ym (3, P_X10_init) (ax_Ym 270) := ⟨M_X10_init, yX10_init, ⟨rfl, by decide +kernel, rfl, (fun _ => rfl), Or.inl ⟨rfl, rfl⟩⟩, fun pc => (ax_sn_node (ax_sn_node (ax_sn_node (ax_sn_node (ax_sn_leaf (r_X10_init_14 E)) (ax_sn_leaf (r_X10_init_11 E))) (ax_sn_leaf (r_X10_init_10 E))) (ax_sn_node (ax_sn_leaf (r_X10_init_7 E)) (ax_sn_leaf (r_X10_init_6 E)))) (ax_sn_node (ax_sn_node (ax_sn_leaf (r_X10_init_5 E)) (ax_sn_leaf (r_X10_init_2 E))) (ax_sn_node (ax_sn_leaf (r_X10_init_1 E)) (ax_sn_leaf (r_X10_init_0 E)))))⟩
theorem r_X11_go_0 (E : ax_EN G l) : ax_Snd G l ax_Ym M_X11_go 0 (S_aload 1 1) := k_aload_n dX11_go_0 rfl
theorem r_X11_go_1 (E : ax_EN G l) : ax_Snd G l ax_Ym M_X11_go 1 (S_aload 0 2) := k_aload_n dX11_go_1 rfl
theorem r_X11_go_2 (E : ax_EN G l) : ax_Snd G l ax_Ym M_X11_go 2 (S_getf [(21, 0)] 5) := k_getf (en_F E) (ax_fes_cons (fe_194 E) ax_fes_nil) q1856 dX11_go_2
theorem r_X11_go_5 (E : ax_EN G l) : ax_Snd G l ax_Ym M_X11_go 5 (S_aload 1 6) := k_aload_n dX11_go_5 rfl
theorem r_X11_go_6 (E : ax_EN G l) : ax_Snd G l ax_Ym M_X11_go 6 (S_aload 0 7) := k_aload_n dX11_go_6 rfl
theorem r_X11_go_7 (E : ax_EN G l) : ax_Snd G l ax_Ym M_X11_go 7 (S_getf [(21, 1)] 10) := k_getf (en_F E) (ax_fes_cons (fe_195 E) ax_fes_nil) q1857 dX11_go_7
theorem r_X11_go_10 (E : ax_EN G l) : ax_Snd G l ax_Ym M_X11_go 10 (S_aload 2 11) := k_aload_n dX11_go_10 rfl
theorem r_X11_go_11 (E : ax_EN G l) : ax_Snd G l ax_Ym M_X11_go 11 (S_iload 3 12) := k_iload_n dX11_go_11 rfl
theorem r_X11_go_12 (E : ax_EN G l) : ax_Snd G l ax_Ym M_X11_go 12 (S_iv [(27, 293), (30, 354)] 3 15 hd_0) := k_iv (en_F E) (ax_ok0 E rfl) (ax_Evs_cons ((ev_vB (en_B E) (en_c E (k := 27) rfl) y_X18_value q944 q915 q914 q917 q916 q151 q918 xo_196 (Nat.le_of_ble_eq_true rfl) dX11_go_12) : ax_EvV G l ax_Ym M_X11_go 12 3 3 27 293) (ax_Evs_cons ((ev_vB (en_B E) (en_c E (k := 30) rfl) y_X20_value q944 q915 q914 q920 q919 q163 q921 xo_196 (Nat.le_of_ble_eq_true rfl) dX11_go_12) : ax_EvV G l ax_Ym M_X11_go 12 3 3 30 354) ax_Evs_nil))
theorem r_X11_go_15 (E : ax_EN G l) : ax_Snd G l ax_Ym M_X11_go 15 (S_iv [(27, 294), (30, 355)] 2 18 hd_0) := k_iv (en_F E) (ax_ok0 E rfl) (ax_Evs_cons ((ev_vB (en_B E) (en_c E (k := 27) rfl) y_X18_point q945 q947 q946 q949 q948 q151 q950 xo_197 (Nat.le_of_ble_eq_true rfl) dX11_go_15) : ax_EvV G l ax_Ym M_X11_go 15 2 3 27 294) (ax_Evs_cons ((ev_vB (en_B E) (en_c E (k := 30) rfl) y_X20_point q945 q947 q946 q952 q951 q163 q953 xo_197 (Nat.le_of_ble_eq_true rfl) dX11_go_15) : ax_EvV G l ax_Ym M_X11_go 15 2 3 30 355) ax_Evs_nil))
theorem r_X11_go_18 (E : ax_EN G l) : ax_Snd G l ax_Ym M_X11_go 18 (S_iload 3 19) := k_iload_n dX11_go_18 rfl
theorem r_X11_go_19 (E : ax_EN G l) : ax_Snd G l ax_Ym M_X11_go 19 (S_push (.int (1)) 20) := k_iconst dX11_go_19 rfl
theorem r_X11_go_20 (E : ax_EN G l) : ax_Snd G l ax_Ym M_X11_go 20 (S_i2 (fun x y => x + y) 21) := k_iadd dX11_go_20
theorem r_X11_go_21 (E : ax_EN G l) : ax_Snd G l ax_Ym M_X11_go 21 (S_iret) := k_iret dX11_go_21 rfl
theorem mt_X11_go (E : ax_EN G l) : ax_mt G l ax_Ym (4, P_X11_go) (ax_Ym 271) := ⟨M_X11_go, yX11_go, ⟨rfl, by decide +kernel, rfl, (fun h => by cases h), Or.inl ⟨rfl, rfl⟩⟩, fun pc => (ax_sn_node (ax_sn_node (ax_sn_node (ax_sn_node (ax_sn_leaf (r_X11_go_21 E)) (ax_sn_leaf (r_X11_go_20 E))) (ax_sn_node (ax_sn_leaf (r_X11_go_19 E)) (ax_sn_leaf (r_X11_go_18 E)))) (ax_sn_node (ax_sn_node (ax_sn_leaf (r_X11_go_15 E)) (ax_sn_leaf (r_X11_go_12 E))) (ax_sn_leaf (r_X11_go_11 E)))) (ax_sn_node (ax_sn_node (ax_sn_node (ax_sn_leaf (r_X11_go_10 E)) (ax_sn_leaf (r_X11_go_7 E))) (ax_sn_node (ax_sn_leaf (r_X11_go_6 E)) (ax_sn_leaf (r_X11_go_5 E)))) (ax_sn_node (ax_sn_node (ax_sn_leaf (r_X11_go_2 E)) (ax_sn_leaf (r_X11_go_1 E))) (ax_sn_leaf (r_X11_go_0 E)))))⟩
theorem r_X11_init_0 (E : ax_EN G l) : ax_Snd G l ax_Ym M_X11_init 0 (S_aload 0 1) := k_aload_n dX11_init_0 rfl
theorem r_X11_init_1 (E : ax_EN G l) : ax_Snd G l ax_Ym M_X11_init 1 (S_aload 1 2) := k_aload_n dX11_init_1 rfl
theorem r_X11_init_2 (E : ax_EN G l) : ax_Snd G l ax_Ym M_X11_init 2 (S_putf [(21, 2)] (.object "KernelGym") 5) := k_putfF (en_F E) (en_P E) (ax_fes_cons (fe_198 E) ax_fes_nil) (ax_fps_cons (fp_199 E) ax_fps_nil) rfl q1858 dX11_init_2
theorem r_X11_init_5 (E : ax_EN G l) : ax_Snd G l ax_Ym M_X11_init 5 (S_aload 0 6) := k_aload_n dX11_init_5 rfl
theorem r_X11_init_6 (E : ax_EN G l) : ax_Snd G l ax_Ym M_X11_init 6 (S_iload 2 7) := k_iload_n dX11_init_6 rfl
theorem r_X11_init_7 (E : ax_EN G l) : ax_Snd G l ax_Ym M_X11_init 7 (S_putf [(21, 0)] (.int) 10) := k_putfF (en_F E) (en_P E) (ax_fes_cons (fe_194 E) ax_fes_nil) (ax_fps_cons (fp_200 E) ax_fps_nil) rfl q1856 dX11_init_7
theorem r_X11_init_10 (E : ax_EN G l) : ax_Snd G l ax_Ym M_X11_init 10 (S_aload 0 11) := k_aload_n dX11_init_10 rfl
theorem r_X11_init_11 (E : ax_EN G l) : ax_Snd G l ax_Ym M_X11_init 11 (S_aload 3 12) := k_aload_n dX11_init_11 rfl
theorem r_X11_init_12 (E : ax_EN G l) : ax_Snd G l ax_Ym M_X11_init 12 (S_putf [(21, 1)] (.object "KernelGym$Operand") 15) := k_putfF (en_F E) (en_P E) (ax_fes_cons (fe_195 E) ax_fes_nil) (ax_fps_cons (fp_201 E) ax_fps_nil) rfl q1857 dX11_init_12
theorem r_X11_init_15 (E : ax_EN G l) : ax_Snd G l ax_Ym M_X11_init 15 (S_aload 0 16) := k_aload_n dX11_init_15 rfl
theorem r_X11_init_16 (E : ax_EN G l) : ax_Snd G l ax_Ym M_X11_init 16 (S_isp 494 0 19 hd_0) := k_isp (en_F E) (ax_ok0 E rfl) ((ev_iN (en_B E) y_X4_init q1855 q1700 q131 q1701 nm_X4_init rfl (Nat.le_of_ble_eq_true rfl) dX11_init_16) : ax_EvI G l ax_Ym M_X11_init 16 494 0 3)
theorem r_X11_init_19 (E : ax_EN G l) : ax_Snd G l ax_Ym M_X11_init 19 (S_ret) := k_ret dX11_init_19 rfl
theorem mt_X11_init (E : ax_EN G l) : ax_mt G l ax_Ym (4, P_X11_init) (ax_Ym 272) := ⟨M_X11_init, yX11_init, ⟨rfl, by decide +kernel, rfl, (fun _ => rfl), Or.inl ⟨rfl, rfl⟩⟩, fun pc => (ax_sn_node (ax_sn_node (ax_sn_node (ax_sn_node (ax_sn_leaf (r_X11_init_19 E)) (ax_sn_leaf (r_X11_init_16 E))) (ax_sn_leaf (r_X11_init_15 E))) (ax_sn_node (ax_sn_node (ax_sn_leaf (r_X11_init_12 E)) (ax_sn_leaf (r_X11_init_11 E))) (ax_sn_leaf (r_X11_init_10 E)))) (ax_sn_node (ax_sn_node (ax_sn_node (ax_sn_leaf (r_X11_init_7 E)) (ax_sn_leaf (r_X11_init_6 E))) (ax_sn_leaf (r_X11_init_5 E))) (ax_sn_node (ax_sn_node (ax_sn_leaf (r_X11_init_2 E)) (ax_sn_leaf (r_X11_init_1 E))) (ax_sn_leaf (r_X11_init_0 E)))))⟩
theorem r_X12_go_0 (E : ax_EN G l) : ax_Snd G l ax_Ym M_X12_go 0 (S_aload 1 1) := k_aload_n dX12_go_0 rfl
theorem r_X12_go_1 (E : ax_EN G l) : ax_Snd G l ax_Ym M_X12_go 1 (S_aload 0 2) := k_aload_n dX12_go_1 rfl
theorem r_X12_go_2 (E : ax_EN G l) : ax_Snd G l ax_Ym M_X12_go 2 (S_getf [(22, 0)] 5) := k_getf (en_F E) (ax_fes_cons (fe_202 E) ax_fes_nil) q1879 dX12_go_2
theorem r_X12_go_5 (E : ax_EN G l) : ax_Snd G l ax_Ym M_X12_go 5 (S_iload 3 6) := k_iload_n dX12_go_5 rfl
theorem r_X12_go_6 (E : ax_EN G l) : ax_Snd G l ax_Ym M_X12_go 6 (S_iv [(27, 288), (30, 288)] 2 9 hd_0) := k_iv (en_F E) (ax_ok0 E rfl) (ax_Evs_cons ((ev_vU (en_c E (k := 27) rfl) y_X17_define rfl q957 q959 q958 q960 q150 q962 xo_203 (Nat.le_of_ble_eq_true rfl) dX12_go_6) : ax_EvV G l ax_Ym M_X12_go 6 2 3 27 288) (ax_Evs_cons ((ev_vU (en_c E (k := 30) rfl) y_X17_define rfl q957 q959 q958 q961 q150 q962 xo_203 (Nat.le_of_ble_eq_true rfl) dX12_go_6) : ax_EvV G l ax_Ym M_X12_go 6 2 3 30 288) ax_Evs_nil))
theorem r_X12_go_9 (E : ax_EN G l) : ax_Snd G l ax_Ym M_X12_go 9 (S_iret) := k_iret dX12_go_9 rfl
theorem mt_X12_go (E : ax_EN G l) : ax_mt G l ax_Ym (4, P_X12_go) (ax_Ym 273) := ⟨M_X12_go, yX12_go, ⟨rfl, by decide +kernel, rfl, (fun h => by cases h), Or.inl ⟨rfl, rfl⟩⟩, fun pc => (ax_sn_node (ax_sn_node (ax_sn_node (ax_sn_leaf (r_X12_go_9 E)) (ax_sn_leaf (r_X12_go_6 E))) (ax_sn_leaf (r_X12_go_5 E))) (ax_sn_node (ax_sn_node (ax_sn_leaf (r_X12_go_2 E)) (ax_sn_leaf (r_X12_go_1 E))) (ax_sn_leaf (r_X12_go_0 E))))⟩
theorem r_X12_beginsMacro_0 (E : ax_EN G l) : ax_Snd G l ax_Ym M_X12_beginsMacro 0 (S_push (.int (1)) 1) := k_iconst dX12_beginsMacro_0 rfl
theorem r_X12_beginsMacro_1 (E : ax_EN G l) : ax_Snd G l ax_Ym M_X12_beginsMacro 1 (S_zret) := k_zret dX12_beginsMacro_1 rfl
theorem mt_X12_beginsMacro (E : ax_EN G l) : ax_mt G l ax_Ym (1, P_X12_beginsMacro) (ax_Ym 274) := ⟨M_X12_beginsMacro, yX12_beginsMacro, ⟨rfl, by decide +kernel, rfl, (fun h => by cases h), Or.inl ⟨rfl, rfl⟩⟩, fun pc => (ax_sn_node (ax_sn_leaf (r_X12_beginsMacro_1 E)) (ax_sn_leaf (r_X12_beginsMacro_0 E)))⟩
theorem r_X12_init_0 (E : ax_EN G l) : ax_Snd G l ax_Ym M_X12_init 0 (S_aload 0 1) := k_aload_n dX12_init_0 rfl
theorem r_X12_init_1 (E : ax_EN G l) : ax_Snd G l ax_Ym M_X12_init 1 (S_aload 1 2) := k_aload_n dX12_init_1 rfl
theorem r_X12_init_2 (E : ax_EN G l) : ax_Snd G l ax_Ym M_X12_init 2 (S_putf [(22, 1)] (.object "KernelGym") 5) := k_putfF (en_F E) (en_P E) (ax_fes_cons (fe_204 E) ax_fes_nil) (ax_fps_cons (fp_205 E) ax_fps_nil) rfl q1880 dX12_init_2
theorem r_X12_init_5 (E : ax_EN G l) : ax_Snd G l ax_Ym M_X12_init 5 (S_aload 0 6) := k_aload_n dX12_init_5 rfl
theorem r_X12_init_6 (E : ax_EN G l) : ax_Snd G l ax_Ym M_X12_init 6 (S_iload 2 7) := k_iload_n dX12_init_6 rfl
theorem r_X12_init_7 (E : ax_EN G l) : ax_Snd G l ax_Ym M_X12_init 7 (S_putf [(22, 0)] (.int) 10) := k_putfF (en_F E) (en_P E) (ax_fes_cons (fe_202 E) ax_fes_nil) (ax_fps_cons (fp_206 E) ax_fps_nil) rfl q1879 dX12_init_7
theorem r_X12_init_10 (E : ax_EN G l) : ax_Snd G l ax_Ym M_X12_init 10 (S_aload 0 11) := k_aload_n dX12_init_10 rfl
theorem r_X12_init_11 (E : ax_EN G l) : ax_Snd G l ax_Ym M_X12_init 11 (S_isp 494 0 14 hd_0) := k_isp (en_F E) (ax_ok0 E rfl) ((ev_iN (en_B E) y_X4_init q1878 q1700 q131 q1701 nm_X4_init rfl (Nat.le_of_ble_eq_true rfl) dX12_init_11) : ax_EvI G l ax_Ym M_X12_init 11 494 0 3)
theorem r_X12_init_14 (E : ax_EN G l) : ax_Snd G l ax_Ym M_X12_init 14 (S_ret) := k_ret dX12_init_14 rfl
theorem mt_X12_init (E : ax_EN G l) : ax_mt G l ax_Ym (3, P_X12_init) (ax_Ym 275) := ⟨M_X12_init, yX12_init, ⟨rfl, by decide +kernel, rfl, (fun _ => rfl), Or.inl ⟨rfl, rfl⟩⟩, fun pc => (ax_sn_node (ax_sn_node (ax_sn_node (ax_sn_node (ax_sn_leaf (r_X12_init_14 E)) (ax_sn_leaf (r_X12_init_11 E))) (ax_sn_leaf (r_X12_init_10 E))) (ax_sn_node (ax_sn_leaf (r_X12_init_7 E)) (ax_sn_leaf (r_X12_init_6 E)))) (ax_sn_node (ax_sn_node (ax_sn_leaf (r_X12_init_5 E)) (ax_sn_leaf (r_X12_init_2 E))) (ax_sn_node (ax_sn_leaf (r_X12_init_1 E)) (ax_sn_leaf (r_X12_init_0 E)))))⟩
theorem r_X13_endsMacro_0 (E : ax_EN G l) : ax_Snd G l ax_Ym M_X13_endsMacro 0 (S_push (.int (1)) 1) := k_iconst dX13_endsMacro_0 rfl
theorem r_X13_endsMacro_1 (E : ax_EN G l) : ax_Snd G l ax_Ym M_X13_endsMacro 1 (S_zret) := k_zret dX13_endsMacro_1 rfl
theorem mt_X13_endsMacro (E : ax_EN G l) : ax_mt G l ax_Ym (1, P_X13_endsMacro) (ax_Ym 276) := ⟨M_X13_endsMacro, yX13_endsMacro, ⟨rfl, by decide +kernel, rfl, (fun h => by cases h), Or.inl ⟨rfl, rfl⟩⟩, fun pc => (ax_sn_node (ax_sn_leaf (r_X13_endsMacro_1 E)) (ax_sn_leaf (r_X13_endsMacro_0 E)))⟩
theorem r_X13_go_0 (E : ax_EN G l) : ax_Snd G l ax_Ym M_X13_go 0 (S_new 28 [.int 0, .int 0, .null] 8 3) := k_new (en_F E) (mk_28 E) q998 dX13_go_0
theorem r_X13_go_3 (E : ax_EN G l) : ax_Snd G l ax_Ym M_X13_go 3 (S_dup 4) := k_dup dX13_go_3
theorem r_X13_go_4 (E : ax_EN G l) : ax_Snd G l ax_Ym M_X13_go 4 (S_push (.int (4)) 5) := k_iconst dX13_go_4 rfl
theorem r_X13_go_5 (E : ax_EN G l) : ax_Snd G l ax_Ym M_X13_go 5 (S_iload 3 6) := k_iload_n dX13_go_5 rfl
theorem r_X13_go_6 (E : ax_EN G l) : ax_Snd G l ax_Ym M_X13_go 6 (S_isp 296 2 9 hd_0) := k_isp (en_F E) (ax_ok0 E rfl) ((ev_i y_X19_init q999 q523 q152 q524 nm_X19_init rfl (Nat.le_of_ble_eq_true rfl) dX13_go_6) : ax_EvI G l ax_Ym M_X13_go 6 296 2 3)
theorem r_X13_go_9 (E : ax_EN G l) : ax_Snd G l ax_Ym M_X13_go 9 (S_athrow hd_0) := k_athrow (en_F E) (ax_ok0 E rfl) dX13_go_9
theorem mt_X13_go (E : ax_EN G l) : ax_mt G l ax_Ym (4, P_X13_go) (ax_Ym 277) := ⟨M_X13_go, yX13_go, ⟨rfl, by decide +kernel, rfl, (fun h => by cases h), Or.inl ⟨rfl, rfl⟩⟩, fun pc => (ax_sn_node (ax_sn_node (ax_sn_node (ax_sn_leaf (r_X13_go_9 E)) (ax_sn_leaf (r_X13_go_6 E))) (ax_sn_leaf (r_X13_go_5 E))) (ax_sn_node (ax_sn_node (ax_sn_leaf (r_X13_go_4 E)) (ax_sn_leaf (r_X13_go_3 E))) (ax_sn_leaf (r_X13_go_0 E))))⟩
theorem r_X13_init_0 (E : ax_EN G l) : ax_Snd G l ax_Ym M_X13_init 0 (S_aload 0 1) := k_aload_n dX13_init_0 rfl
theorem r_X13_init_1 (E : ax_EN G l) : ax_Snd G l ax_Ym M_X13_init 1 (S_aload 1 2) := k_aload_n dX13_init_1 rfl
theorem r_X13_init_2 (E : ax_EN G l) : ax_Snd G l ax_Ym M_X13_init 2 (S_putf [(23, 0)] (.object "KernelGym") 5) := k_putfF (en_F E) (en_P E) (ax_fes_cons (fe_207 E) ax_fes_nil) (ax_fps_cons (fp_208 E) ax_fps_nil) rfl q1899 dX13_init_2
theorem r_X13_init_5 (E : ax_EN G l) : ax_Snd G l ax_Ym M_X13_init 5 (S_aload 0 6) := k_aload_n dX13_init_5 rfl
theorem r_X13_init_6 (E : ax_EN G l) : ax_Snd G l ax_Ym M_X13_init 6 (S_isp 494 0 9 hd_0) := k_isp (en_F E) (ax_ok0 E rfl) ((ev_iN (en_B E) y_X4_init q1898 q1700 q131 q1701 nm_X4_init rfl (Nat.le_of_ble_eq_true rfl) dX13_init_6) : ax_EvI G l ax_Ym M_X13_init 6 494 0 3)
theorem r_X13_init_9 (E : ax_EN G l) : ax_Snd G l ax_Ym M_X13_init 9 (S_ret) := k_ret dX13_init_9 rfl
theorem mt_X13_init (E : ax_EN G l) : ax_mt G l ax_Ym (2, P_X13_init) (ax_Ym 278) := ⟨M_X13_init, yX13_init, ⟨rfl, by decide +kernel, rfl, (fun _ => rfl), Or.inl ⟨rfl, rfl⟩⟩, fun pc => (ax_sn_node (ax_sn_node (ax_sn_node (ax_sn_leaf (r_X13_init_9 E)) (ax_sn_leaf (r_X13_init_6 E))) (ax_sn_leaf (r_X13_init_5 E))) (ax_sn_node (ax_sn_node (ax_sn_leaf (r_X13_init_2 E)) (ax_sn_leaf (r_X13_init_1 E))) (ax_sn_leaf (r_X13_init_0 E))))⟩
theorem r_X14_go_0 (E : ax_EN G l) : ax_Snd G l ax_Ym M_X14_go 0 (S_aload 1 1) := k_aload_n dX14_go_0 rfl
theorem r_X14_go_1 (E : ax_EN G l) : ax_Snd G l ax_Ym M_X14_go 1 (S_aload 0 2) := k_aload_n dX14_go_1 rfl
theorem r_X14_go_2 (E : ax_EN G l) : ax_Snd G l ax_Ym M_X14_go 2 (S_getf [(24, 0)] 5) := k_getf (en_F E) (ax_fes_cons (fe_209 E) ax_fes_nil) q1916 dX14_go_2
theorem r_X14_go_5 (E : ax_EN G l) : ax_Snd G l ax_Ym M_X14_go 5 (S_aload 0 6) := k_aload_n dX14_go_5 rfl
theorem r_X14_go_6 (E : ax_EN G l) : ax_Snd G l ax_Ym M_X14_go 6 (S_getf [(24, 1)] 9) := k_getf (en_F E) (ax_fes_cons (fe_210 E) ax_fes_nil) q1917 dX14_go_6
theorem r_X14_go_9 (E : ax_EN G l) : ax_Snd G l ax_Ym M_X14_go 9 (S_aload 0 10) := k_aload_n dX14_go_9 rfl
theorem r_X14_go_10 (E : ax_EN G l) : ax_Snd G l ax_Ym M_X14_go 10 (S_getf [(24, 2)] 13) := k_getf (en_F E) (ax_fes_cons (fe_211 E) ax_fes_nil) q1918 dX14_go_10
theorem r_X14_go_13 (E : ax_EN G l) : ax_Snd G l ax_Ym M_X14_go 13 (S_aload 2 14) := k_aload_n dX14_go_13 rfl
theorem r_X14_go_14 (E : ax_EN G l) : ax_Snd G l ax_Ym M_X14_go 14 (S_iload 3 15) := k_iload_n dX14_go_14 rfl
theorem r_X14_go_15 (E : ax_EN G l) : ax_Snd G l ax_Ym M_X14_go 15 (S_iv [(27, 289), (30, 289)] 5 18 hd_0) := k_iv (en_F E) (ax_ok0 E rfl) (ax_Evs_cons ((ev_vU (en_c E (k := 27) rfl) y_X17_expand rfl q1003 q1005 q1004 q1006 q150 q1008 xo_212 (Nat.le_of_ble_eq_true rfl) dX14_go_15) : ax_EvV G l ax_Ym M_X14_go 15 5 3 27 289) (ax_Evs_cons ((ev_vU (en_c E (k := 30) rfl) y_X17_expand rfl q1003 q1005 q1004 q1007 q150 q1008 xo_212 (Nat.le_of_ble_eq_true rfl) dX14_go_15) : ax_EvV G l ax_Ym M_X14_go 15 5 3 30 289) ax_Evs_nil))
theorem r_X14_go_18 (E : ax_EN G l) : ax_Snd G l ax_Ym M_X14_go 18 (S_iload 3 19) := k_iload_n dX14_go_18 rfl
theorem r_X14_go_19 (E : ax_EN G l) : ax_Snd G l ax_Ym M_X14_go 19 (S_push (.int (1)) 20) := k_iconst dX14_go_19 rfl
theorem r_X14_go_20 (E : ax_EN G l) : ax_Snd G l ax_Ym M_X14_go 20 (S_i2 (fun x y => x + y) 21) := k_iadd dX14_go_20
theorem r_X14_go_21 (E : ax_EN G l) : ax_Snd G l ax_Ym M_X14_go 21 (S_iret) := k_iret dX14_go_21 rfl
theorem mt_X14_go (E : ax_EN G l) : ax_mt G l ax_Ym (4, P_X14_go) (ax_Ym 279) := ⟨M_X14_go, yX14_go, ⟨rfl, by decide +kernel, rfl, (fun h => by cases h), Or.inl ⟨rfl, rfl⟩⟩, fun pc => (ax_sn_node (ax_sn_node (ax_sn_node (ax_sn_node (ax_sn_leaf (r_X14_go_21 E)) (ax_sn_leaf (r_X14_go_20 E))) (ax_sn_node (ax_sn_leaf (r_X14_go_19 E)) (ax_sn_leaf (r_X14_go_18 E)))) (ax_sn_node (ax_sn_node (ax_sn_leaf (r_X14_go_15 E)) (ax_sn_leaf (r_X14_go_14 E))) (ax_sn_leaf (r_X14_go_13 E)))) (ax_sn_node (ax_sn_node (ax_sn_node (ax_sn_leaf (r_X14_go_10 E)) (ax_sn_leaf (r_X14_go_9 E))) (ax_sn_node (ax_sn_leaf (r_X14_go_6 E)) (ax_sn_leaf (r_X14_go_5 E)))) (ax_sn_node (ax_sn_node (ax_sn_leaf (r_X14_go_2 E)) (ax_sn_leaf (r_X14_go_1 E))) (ax_sn_leaf (r_X14_go_0 E)))))⟩
theorem r_X14_init_0 (E : ax_EN G l) : ax_Snd G l ax_Ym M_X14_init 0 (S_aload 0 1) := k_aload_n dX14_init_0 rfl
theorem r_X14_init_1 (E : ax_EN G l) : ax_Snd G l ax_Ym M_X14_init 1 (S_aload 1 2) := k_aload_n dX14_init_1 rfl
theorem r_X14_init_2 (E : ax_EN G l) : ax_Snd G l ax_Ym M_X14_init 2 (S_putf [(24, 3)] (.object "KernelGym") 5) := k_putfF (en_F E) (en_P E) (ax_fes_cons (fe_213 E) ax_fes_nil) (ax_fps_cons (fp_214 E) ax_fps_nil) rfl q1919 dX14_init_2
theorem r_X14_init_5 (E : ax_EN G l) : ax_Snd G l ax_Ym M_X14_init 5 (S_aload 0 6) := k_aload_n dX14_init_5 rfl
theorem r_X14_init_6 (E : ax_EN G l) : ax_Snd G l ax_Ym M_X14_init 6 (S_iload 2 7) := k_iload_n dX14_init_6 rfl
theorem r_X14_init_7 (E : ax_EN G l) : ax_Snd G l ax_Ym M_X14_init 7 (S_putf [(24, 0)] (.int) 10) := k_putfF (en_F E) (en_P E) (ax_fes_cons (fe_209 E) ax_fes_nil) (ax_fps_cons (fp_215 E) ax_fps_nil) rfl q1916 dX14_init_7
theorem r_X14_init_10 (E : ax_EN G l) : ax_Snd G l ax_Ym M_X14_init 10 (S_aload 0 11) := k_aload_n dX14_init_10 rfl
theorem r_X14_init_11 (E : ax_EN G l) : ax_Snd G l ax_Ym M_X14_init 11 (S_aload 3 12) := k_aload_n dX14_init_11 rfl
theorem r_X14_init_12 (E : ax_EN G l) : ax_Snd G l ax_Ym M_X14_init 12 (S_putf [(24, 1)] (.object "KernelGym$Operand") 15) := k_putfF (en_F E) (en_P E) (ax_fes_cons (fe_210 E) ax_fes_nil) (ax_fps_cons (fp_216 E) ax_fps_nil) rfl q1917 dX14_init_12
theorem r_X14_init_15 (E : ax_EN G l) : ax_Snd G l ax_Ym M_X14_init 15 (S_aload 0 16) := k_aload_n dX14_init_15 rfl
theorem r_X14_init_16 (E : ax_EN G l) : ax_Snd G l ax_Ym M_X14_init 16 (S_aload 4 18) := k_aload dX14_init_16
theorem r_X14_init_18 (E : ax_EN G l) : ax_Snd G l ax_Ym M_X14_init 18 (S_putf [(24, 2)] (.object "KernelGym$Operand") 21) := k_putfF (en_F E) (en_P E) (ax_fes_cons (fe_211 E) ax_fes_nil) (ax_fps_cons (fp_217 E) ax_fps_nil) rfl q1918 dX14_init_18
theorem r_X14_init_21 (E : ax_EN G l) : ax_Snd G l ax_Ym M_X14_init 21 (S_aload 0 22) := k_aload_n dX14_init_21 rfl
theorem r_X14_init_22 (E : ax_EN G l) : ax_Snd G l ax_Ym M_X14_init 22 (S_isp 494 0 25 hd_0) := k_isp (en_F E) (ax_ok0 E rfl) ((ev_iN (en_B E) y_X4_init q1915 q1700 q131 q1701 nm_X4_init rfl (Nat.le_of_ble_eq_true rfl) dX14_init_22) : ax_EvI G l ax_Ym M_X14_init 22 494 0 3)
theorem r_X14_init_25 (E : ax_EN G l) : ax_Snd G l ax_Ym M_X14_init 25 (S_ret) := k_ret dX14_init_25 rfl
theorem mt_X14_init (E : ax_EN G l) : ax_mt G l ax_Ym (5, P_X14_init) (ax_Ym 280) := ⟨M_X14_init, yX14_init, ⟨rfl, by decide +kernel, rfl, (fun _ => rfl), Or.inl ⟨rfl, rfl⟩⟩, fun pc => (ax_sn_node (ax_sn_node (ax_sn_node (ax_sn_node (ax_sn_leaf (r_X14_init_25 E)) (ax_sn_leaf (r_X14_init_22 E))) (ax_sn_node (ax_sn_leaf (r_X14_init_21 E)) (ax_sn_leaf (r_X14_init_18 E)))) (ax_sn_node (ax_sn_node (ax_sn_leaf (r_X14_init_16 E)) (ax_sn_leaf (r_X14_init_15 E))) (ax_sn_node (ax_sn_leaf (r_X14_init_12 E)) (ax_sn_leaf (r_X14_init_11 E))))) (ax_sn_node (ax_sn_node (ax_sn_node (ax_sn_leaf (r_X14_init_10 E)) (ax_sn_leaf (r_X14_init_7 E))) (ax_sn_node (ax_sn_leaf (r_X14_init_6 E)) (ax_sn_leaf (r_X14_init_5 E)))) (ax_sn_node (ax_sn_node (ax_sn_leaf (r_X14_init_2 E)) (ax_sn_leaf (r_X14_init_1 E))) (ax_sn_leaf (r_X14_init_0 E)))))⟩
theorem r_X15_init_0 (E : ax_EN G l) : ax_Snd G l ax_Ym M_X15_init 0 (S_aload 0 1) := k_aload_n dX15_init_0 rfl
theorem r_X15_init_1 (E : ax_EN G l) : ax_Snd G l ax_Ym M_X15_init 1 (S_aload 1 2) := k_aload_n dX15_init_1 rfl
theorem r_X15_init_2 (E : ax_EN G l) : ax_Snd G l ax_Ym M_X15_init 2 (S_putf [(25, 6)] (.object "KernelGym") 5) := k_putfF (en_F E) (en_P E) (ax_fes_cons (fe_218 E) ax_fes_nil) (ax_fps_cons (fp_219 E) ax_fps_nil) rfl q1170 dX15_init_2
theorem r_X15_init_5 (E : ax_EN G l) : ax_Snd G l ax_Ym M_X15_init 5 (S_aload 0 6) := k_aload_n dX15_init_5 rfl
theorem r_X15_init_6 (E : ax_EN G l) : ax_Snd G l ax_Ym M_X15_init 6 (S_oin 9) := k_oin q389 q189 w_oin dX15_init_6
theorem r_X15_init_9 (E : ax_EN G l) : ax_Snd G l ax_Ym M_X15_init 9 (S_aload 0 10) := k_aload_n dX15_init_9 rfl
theorem r_X15_init_10 (E : ax_EN G l) : ax_Snd G l ax_Ym M_X15_init 10 (S_push (.int (16)) 12) := k_bipush dX15_init_10 rfl
theorem r_X15_init_12 (E : ax_EN G l) : ax_Snd G l ax_Ym M_X15_init 12 (S_newa 0 0 14) := k_newa (atype := .int) (en_F E) (by decide) rfl (fun _ => rfl) (Or.inl q255) (by decide) (fun _ => rfl) dX15_init_12
theorem r_X15_init_14 (E : ax_EN G l) : ax_Snd G l ax_Ym M_X15_init 14 (S_putf [(25, 0)] (.array (.int)) 17) := k_putfF (en_F E) (en_P E) (ax_fes_cons (fe_220 E) ax_fes_nil) (ax_fps_cons (fp_221 E) ax_fps_nil) rfl q1158 dX15_init_14
theorem r_X15_init_17 (E : ax_EN G l) : ax_Snd G l ax_Ym M_X15_init 17 (S_aload 0 18) := k_aload_n dX15_init_17 rfl
theorem r_X15_init_18 (E : ax_EN G l) : ax_Snd G l ax_Ym M_X15_init 18 (S_new 26 [.int 0, .null, .int 0, .int 0] 4 21) := k_new (en_F E) (mk_26 E) q390 dX15_init_18
theorem r_X15_init_21 (E : ax_EN G l) : ax_Snd G l ax_Ym M_X15_init 21 (S_dup 22) := k_dup dX15_init_21
theorem r_X15_init_22 (E : ax_EN G l) : ax_Snd G l ax_Ym M_X15_init 22 (S_push (.int (-1)) 23) := k_iconst dX15_init_22 rfl
theorem r_X15_init_23 (E : ax_EN G l) : ax_Snd G l ax_Ym M_X15_init 23 (S_isp 285 1 26 hd_0) := k_isp (en_F E) (ax_ok0 E rfl) ((ev_i y_X16_init q392 q393 q149 q394 nm_X16_init rfl (Nat.le_of_ble_eq_true rfl) dX15_init_23) : ax_EvI G l ax_Ym M_X15_init 23 285 1 3)
theorem r_X15_init_26 (E : ax_EN G l) : ax_Snd G l ax_Ym M_X15_init 26 (S_putf [(25, 1)] (.object "KernelGym$Use") 29) := k_putfF (en_F E) (en_P E) (ax_fes_cons (fe_223 E) ax_fes_nil) (ax_fps_cons (fp_224 E) ax_fps_nil) rfl q1159 dX15_init_26
theorem r_X15_init_29 (E : ax_EN G l) : ax_Snd G l ax_Ym M_X15_init 29 (S_aload 0 30) := k_aload_n dX15_init_29 rfl
theorem r_X15_init_30 (E : ax_EN G l) : ax_Snd G l ax_Ym M_X15_init 30 (S_new 4 [.int 0, .null, .int 0] 3 33) := k_new (en_F E) (mk_4 E) q413 dX15_init_30
theorem r_X15_init_33 (E : ax_EN G l) : ax_Snd G l ax_Ym M_X15_init 33 (S_dup 34) := k_dup dX15_init_33
theorem r_X15_init_34 (E : ax_EN G l) : ax_Snd G l ax_Ym M_X15_init 34 (S_isp 58 0 37 hd_0) := k_isp (en_F E) (ax_ok0 E rfl) ((ev_i y_J2_init q414 q194 q121 q195 nm_J2_init rfl (Nat.le_of_ble_eq_true rfl) dX15_init_34) : ax_EvI G l ax_Ym M_X15_init 34 58 0 3)
theorem r_X15_init_37 (E : ax_EN G l) : ax_Snd G l ax_Ym M_X15_init 37 (S_putf [(25, 2)] (.object "java/util/List") 40) := k_putfF (en_F E) (en_P E) (ax_fes_cons (fe_225 E) ax_fes_nil) (ax_fps_cons (fp_226 E) ax_fps_nil) rfl q1160 dX15_init_37
theorem r_X15_init_40 (E : ax_EN G l) : ax_Snd G l ax_Ym M_X15_init 40 (S_aload 0 41) := k_aload_n dX15_init_40 rfl
theorem r_X15_init_41 (E : ax_EN G l) : ax_Snd G l ax_Ym M_X15_init 41 (S_push (.int (256)) 44) := k_sipush dX15_init_41 rfl
theorem r_X15_init_44 (E : ax_EN G l) : ax_Snd G l ax_Ym M_X15_init 44 (S_newa 0 0 46) := k_newa (atype := .int) (en_F E) (by decide) rfl (fun _ => rfl) (Or.inl q255) (by decide) (fun _ => rfl) dX15_init_44
theorem r_X15_init_46 (E : ax_EN G l) : ax_Snd G l ax_Ym M_X15_init 46 (S_putf [(25, 3)] (.array (.int)) 49) := k_putfF (en_F E) (en_P E) (ax_fes_cons (fe_178 E) ax_fes_nil) (ax_fps_cons (fp_227 E) ax_fps_nil) rfl q1163 dX15_init_46
theorem r_X15_init_49 (E : ax_EN G l) : ax_Snd G l ax_Ym M_X15_init 49 (S_push (.int (0)) 50) := k_iconst dX15_init_49 rfl
theorem r_X15_init_50 (E : ax_EN G l) : ax_Snd G l ax_Ym M_X15_init 50 (S_istore 2 51) := k_istore_n dX15_init_50 rfl (Nat.le_of_ble_eq_true rfl)
theorem r_X15_init_51 (E : ax_EN G l) : ax_Snd G l ax_Ym M_X15_init 51 (S_iload 2 52) := k_iload_n dX15_init_51 rfl
theorem r_X15_init_52 (E : ax_EN G l) : ax_Snd G l ax_Ym M_X15_init 52 (S_push (.int (16)) 54) := k_bipush dX15_init_52 rfl
theorem r_X15_init_54 (E : ax_EN G l) : ax_Snd G l ax_Ym M_X15_init 54 (S_if2 (fun x y => decide (y ≤ x)) 70 57) := k_icmp_ge dX15_init_54 rfl
theorem r_X15_init_57 (E : ax_EN G l) : ax_Snd G l ax_Ym M_X15_init 57 (S_aload 0 58) := k_aload_n dX15_init_57 rfl
theorem r_X15_init_58 (E : ax_EN G l) : ax_Snd G l ax_Ym M_X15_init 58 (S_getf [(25, 0)] 61) := k_getf (en_F E) (ax_fes_cons (fe_220 E) ax_fes_nil) q1158 dX15_init_58
theorem r_X15_init_61 (E : ax_EN G l) : ax_Snd G l ax_Ym M_X15_init 61 (S_iload 2 62) := k_iload_n dX15_init_61 rfl
theorem r_X15_init_62 (E : ax_EN G l) : ax_Snd G l ax_Ym M_X15_init 62 (S_push (.int (-1)) 63) := k_iconst dX15_init_62 rfl
theorem r_X15_init_63 (E : ax_EN G l) : ax_Snd G l ax_Ym M_X15_init 63 (S_iast 0 (fun x => x) 64) := k_iast (en_F E) dX15_init_63
theorem r_X15_init_64 (E : ax_EN G l) : ax_Snd G l ax_Ym M_X15_init 64 (S_iinc 2 (1) 67) := k_iinc dX15_init_64 rfl (Nat.le_of_ble_eq_true rfl)
theorem r_X15_init_67 (E : ax_EN G l) : ax_Snd G l ax_Ym M_X15_init 67 (S_goto 51) := k_goto dX15_init_67 rfl
theorem r_X15_init_70 (E : ax_EN G l) : ax_Snd G l ax_Ym M_X15_init 70 (S_new 27 [.null, .int 0, .null, .null, .null, .int 0, .int 0, .null, .null, .null] 10 73) := k_new (en_F E) (mk_27 E) q415 dX15_init_70
theorem r_X15_init_73 (E : ax_EN G l) : ax_Snd G l ax_Ym M_X15_init 73 (S_dup 74) := k_dup dX15_init_73
theorem r_X15_init_74 (E : ax_EN G l) : ax_Snd G l ax_Ym M_X15_init 74 (S_aload 0 75) := k_aload_n dX15_init_74 rfl
theorem r_X15_init_75 (E : ax_EN G l) : ax_Snd G l ax_Ym M_X15_init 75 (S_aload 1 76) := k_aload_n dX15_init_75 rfl
theorem r_X15_init_76 (E : ax_EN G l) : ax_Snd G l ax_Ym M_X15_init 76 (S_isp 290 2 79 hd_0) := k_isp (en_F E) (ax_ok0 E rfl) ((ev_i y_X18_init q417 q418 q151 q419 nm_X18_init rfl (Nat.le_of_ble_eq_true rfl) dX15_init_76) : ax_EvI G l ax_Ym M_X15_init 76 290 2 3)
theorem r_X15_init_79 (E : ax_EN G l) : ax_Snd G l ax_Ym M_X15_init 79 (S_astore 2 80) := k_astore_n dX15_init_79 rfl (Nat.le_of_ble_eq_true rfl)
theorem r_X15_init_80 (E : ax_EN G l) : ax_Snd G l ax_Ym M_X15_init 80 (S_aload 2 81) := k_aload_n dX15_init_80 rfl
theorem r_X15_init_81 (E : ax_EN G l) : ax_Snd G l ax_Ym M_X15_init 81 (S_push (.int (0)) 82) := k_iconst dX15_init_81 rfl
theorem r_X15_init_82 (E : ax_EN G l) : ax_Snd G l ax_Ym M_X15_init 82 (S_aload 1 83) := k_aload_n dX15_init_82 rfl
theorem r_X15_init_83 (E : ax_EN G l) : ax_Snd G l ax_Ym M_X15_init 83 (S_getf [(19, 0)] 86) := k_getfN (en_F E) (en_B E) (ax_fes_cons (fe_139 E) ax_fes_nil) q320 dX15_init_83
theorem r_X15_init_86 (E : ax_EN G l) : ax_Snd G l ax_Ym M_X15_init 86 (S_iv [(4, 59)] 0 91 hd_0) := k_iv (en_F E) (ax_ok0 E rfl) (ax_Evs_cons ((ev_f (en_F E) (en_B E) (en_c E (k := 4) rfl) y_J2_size q466 q352 q350 q121 q354 q348 q347 q353 q351 q349 xn_151 (Nat.le_of_ble_eq_true rfl) dX15_init_86) : ax_EvV G l ax_Ym M_X15_init 86 0 5 4 59) ax_Evs_nil)
theorem r_X15_init_91 (E : ax_EN G l) : ax_Snd G l ax_Ym M_X15_init 91 (S_aload 0 92) := k_aload_n dX15_init_91 rfl
theorem r_X15_init_92 (E : ax_EN G l) : ax_Snd G l ax_Ym M_X15_init 92 (S_getf [(25, 1)] 95) := k_getf (en_F E) (ax_fes_cons (fe_223 E) ax_fes_nil) q1159 dX15_init_92
theorem r_X15_init_95 (E : ax_EN G l) : ax_Snd G l ax_Ym M_X15_init 95 (S_iv [(27, 287), (30, 287)] 3 98 hd_0) := k_iv (en_F E) (ax_ok0 E rfl) (ax_Evs_cons ((ev_vU (en_c E (k := 27) rfl) y_X17_go rfl q467 q469 q468 q470 q150 q472 xo_229 (Nat.le_of_ble_eq_true rfl) dX15_init_95) : ax_EvV G l ax_Ym M_X15_init 95 3 3 27 287) (ax_Evs_cons ((ev_vU (en_c E (k := 30) rfl) y_X17_go rfl q467 q469 q468 q471 q150 q472 xo_229 (Nat.le_of_ble_eq_true rfl) dX15_init_95) : ax_EvV G l ax_Ym M_X15_init 95 3 3 30 287) ax_Evs_nil))
theorem r_X15_init_98 (E : ax_EN G l) : ax_Snd G l ax_Ym M_X15_init 98 (S_aload 0 99) := k_aload_n dX15_init_98 rfl
theorem r_X15_init_99 (E : ax_EN G l) : ax_Snd G l ax_Ym M_X15_init 99 (S_push (.int (8)) 101) := k_bipush dX15_init_99 rfl
theorem r_X15_init_101 (E : ax_EN G l) : ax_Snd G l ax_Ym M_X15_init 101 (S_aload 2 102) := k_aload_n dX15_init_101 rfl
theorem r_X15_init_102 (E : ax_EN G l) : ax_Snd G l ax_Ym M_X15_init 102 (S_getf [(27, 0), (30, 0)] 105) := k_getf (en_F E) (ax_fes_cons (fe_231 E) (ax_fes_cons (fe_230 E) ax_fes_nil)) q427 dX15_init_102
theorem r_X15_init_105 (E : ax_EN G l) : ax_Snd G l ax_Ym M_X15_init 105 (S_push (.int (0)) 106) := k_iconst dX15_init_105 rfl
theorem r_X15_init_106 (E : ax_EN G l) : ax_Snd G l ax_Ym M_X15_init 106 (S_iald 0 107) := k_iald (en_F E) dX15_init_106
theorem r_X15_init_107 (E : ax_EN G l) : ax_Snd G l ax_Ym M_X15_init 107 (S_i2 (fun x y => x + y) 108) := k_iadd dX15_init_107
theorem r_X15_init_108 (E : ax_EN G l) : ax_Snd G l ax_Ym M_X15_init 108 (S_putf [(25, 4)] (.int) 111) := k_putfF (en_F E) (en_P E) (ax_fes_cons (fe_232 E) ax_fes_nil) (ax_fps_cons (fp_233 E) ax_fps_nil) rfl q1166 dX15_init_108
theorem r_X15_init_111 (E : ax_EN G l) : ax_Snd G l ax_Ym M_X15_init 111 (S_aload 0 112) := k_aload_n dX15_init_111 rfl
theorem r_X15_init_112 (E : ax_EN G l) : ax_Snd G l ax_Ym M_X15_init 112 (S_aload 2 113) := k_aload_n dX15_init_112 rfl
theorem r_X15_init_113 (E : ax_EN G l) : ax_Snd G l ax_Ym M_X15_init 113 (S_getf [(27, 0), (30, 0)] 116) := k_getf (en_F E) (ax_fes_cons (fe_231 E) (ax_fes_cons (fe_230 E) ax_fes_nil)) q427 dX15_init_113
theorem r_X15_init_116 (E : ax_EN G l) : ax_Snd G l ax_Ym M_X15_init 116 (S_push (.int (0)) 117) := k_iconst dX15_init_116 rfl
theorem r_X15_init_117 (E : ax_EN G l) : ax_Snd G l ax_Ym M_X15_init 117 (S_iald 0 118) := k_iald (en_F E) dX15_init_117
theorem r_X15_init_118 (E : ax_EN G l) : ax_Snd G l ax_Ym M_X15_init 118 (S_aload 2 119) := k_aload_n dX15_init_118 rfl
theorem r_X15_init_119 (E : ax_EN G l) : ax_Snd G l ax_Ym M_X15_init 119 (S_getf [(27, 0), (30, 0)] 122) := k_getf (en_F E) (ax_fes_cons (fe_231 E) (ax_fes_cons (fe_230 E) ax_fes_nil)) q427 dX15_init_119
theorem r_X15_init_122 (E : ax_EN G l) : ax_Snd G l ax_Ym M_X15_init 122 (S_push (.int (1)) 123) := k_iconst dX15_init_122 rfl
theorem r_X15_init_123 (E : ax_EN G l) : ax_Snd G l ax_Ym M_X15_init 123 (S_iald 0 124) := k_iald (en_F E) dX15_init_123
theorem r_X15_init_124 (E : ax_EN G l) : ax_Snd G l ax_Ym M_X15_init 124 (S_i2 (fun x y => x + y) 125) := k_iadd dX15_init_124
theorem r_X15_init_125 (E : ax_EN G l) : ax_Snd G l ax_Ym M_X15_init 125 (S_putf [(25, 5)] (.int) 128) := k_putfF (en_F E) (en_P E) (ax_fes_cons (fe_155 E) ax_fes_nil) (ax_fps_cons (fp_234 E) ax_fps_nil) rfl q1168 dX15_init_125
theorem r_X15_init_128 (E : ax_EN G l) : ax_Snd G l ax_Ym M_X15_init 128 (S_aload 0 129) := k_aload_n dX15_init_128 rfl
theorem r_X15_init_129 (E : ax_EN G l) : ax_Snd G l ax_Ym M_X15_init 129 (S_iv [(25, 284)] 0 132 hd_0) := k_iv (en_F E) (ax_ok0 E rfl) (ax_Evs_cons ((ev_v (en_c E (k := 25) rfl) rfl y_X15_makeWords q1136 q1138 qs9 q148 q1139 nm_X15_makeWords (Nat.le_of_ble_eq_true rfl) dX15_init_129) : ax_EvV G l ax_Ym M_X15_init 129 0 3 25 284) ax_Evs_nil)
theorem r_X15_init_132 (E : ax_EN G l) : ax_Snd G l ax_Ym M_X15_init 132 (S_ret) := k_ret dX15_init_132 rfl
theorem mt_X15_init (E : ax_EN G l) : ax_mt G l ax_Ym (3, P_X15_init) (ax_Ym 281) := ⟨M_X15_init, yX15_init, ⟨rfl, by decide +kernel, rfl, (fun _ => rfl), Or.inl ⟨rfl, rfl⟩⟩, fun pc => (ax_sn_node (ax_sn_node (ax_sn_node (ax_sn_node (ax_sn_node (ax_sn_node (ax_sn_node (ax_sn_leaf (r_X15_init_132 E)) (ax_sn_leaf (r_X15_init_129 E))) (ax_sn_leaf (r_X15_init_128 E))) (ax_sn_node (ax_sn_leaf (r_X15_init_125 E)) (ax_sn_leaf (r_X15_init_124 E)))) (ax_sn_node (ax_sn_node (ax_sn_leaf (r_X15_init_123 E)) (ax_sn_leaf (r_X15_init_122 E))) (ax_sn_node (ax_sn_leaf (r_X15_init_119 E)) (ax_sn_leaf (r_X15_init_118 E))))) (ax_sn_node (ax_sn_node (ax_sn_node (ax_sn_node (ax_sn_leaf (r_X15_init_117 E)) (ax_sn_leaf (r_X15_init_116 E))) (ax_sn_leaf (r_X15_init_113 E))) (ax_sn_node (ax_sn_leaf (r_X15_init_112 E)) (ax_sn_leaf (r_X15_init_111 E)))) (ax_sn_node (ax_sn_node (ax_sn_leaf (r_X15_init_108 E)) (ax_sn_leaf (r_X15_init_107 E))) (ax_sn_node (ax_sn_leaf (r_X15_init_106 E)) (ax_sn_leaf (r_X15_init_105 E)))))) (ax_sn_node (ax_sn_node (ax_sn_node (ax_sn_node (ax_sn_node (ax_sn_leaf (r_X15_init_102 E)) (ax_sn_leaf (r_X15_init_101 E))) (ax_sn_leaf (r_X15_init_99 E))) (ax_sn_node (ax_sn_leaf (r_X15_init_98 E)) (ax_sn_leaf (r_X15_init_95 E)))) (ax_sn_node (ax_sn_node (ax_sn_leaf (r_X15_init_92 E)) (ax_sn_leaf (r_X15_init_91 E))) (ax_sn_node (ax_sn_leaf (r_X15_init_86 E)) (ax_sn_leaf (r_X15_init_83 E))))) (ax_sn_node (ax_sn_node (ax_sn_node (ax_sn_node (ax_sn_leaf (r_X15_init_82 E)) (ax_sn_leaf (r_X15_init_81 E))) (ax_sn_leaf (r_X15_init_80 E))) (ax_sn_node (ax_sn_leaf (r_X15_init_79 E)) (ax_sn_leaf (r_X15_init_76 E)))) (ax_sn_node (ax_sn_node (ax_sn_leaf (r_X15_init_75 E)) (ax_sn_leaf (r_X15_init_74 E))) (ax_sn_node (ax_sn_leaf (r_X15_init_73 E)) (ax_sn_leaf (r_X15_init_70 E))))))) (ax_sn_node (ax_sn_node (ax_sn_node (ax_sn_node (ax_sn_node (ax_sn_node (ax_sn_leaf (r_X15_init_67 E)) (ax_sn_leaf (r_X15_init_64 E))) (ax_sn_leaf (r_X15_init_63 E))) (ax_sn_node (ax_sn_leaf (r_X15_init_62 E)) (ax_sn_leaf (r_X15_init_61 E)))) (ax_sn_node (ax_sn_node (ax_sn_leaf (r_X15_init_58 E)) (ax_sn_leaf (r_X15_init_57 E))) (ax_sn_node (ax_sn_leaf (r_X15_init_54 E)) (ax_sn_leaf (r_X15_init_52 E))))) (ax_sn_node (ax_sn_node (ax_sn_node (ax_sn_node (ax_sn_leaf (r_X15_init_51 E)) (ax_sn_leaf (r_X15_init_50 E))) (ax_sn_leaf (r_X15_init_49 E))) (ax_sn_node (ax_sn_leaf (r_X15_init_46 E)) (ax_sn_leaf (r_X15_init_44 E)))) (ax_sn_node (ax_sn_node (ax_sn_leaf (r_X15_init_41 E)) (ax_sn_leaf (r_X15_init_40 E))) (ax_sn_node (ax_sn_leaf (r_X15_init_37 E)) (ax_sn_leaf (r_X15_init_34 E)))))) (ax_sn_node (ax_sn_node (ax_sn_node (ax_sn_node (ax_sn_node (ax_sn_leaf (r_X15_init_33 E)) (ax_sn_leaf (r_X15_init_30 E))) (ax_sn_leaf (r_X15_init_29 E))) (ax_sn_node (ax_sn_leaf (r_X15_init_26 E)) (ax_sn_leaf (r_X15_init_23 E)))) (ax_sn_node (ax_sn_node (ax_sn_leaf (r_X15_init_22 E)) (ax_sn_leaf (r_X15_init_21 E))) (ax_sn_node (ax_sn_leaf (r_X15_init_18 E)) (ax_sn_leaf (r_X15_init_17 E))))) (ax_sn_node (ax_sn_node (ax_sn_node (ax_sn_node (ax_sn_leaf (r_X15_init_14 E)) (ax_sn_leaf (r_X15_init_12 E))) (ax_sn_leaf (r_X15_init_10 E))) (ax_sn_node (ax_sn_leaf (r_X15_init_9 E)) (ax_sn_leaf (r_X15_init_6 E)))) (ax_sn_node (ax_sn_node (ax_sn_leaf (r_X15_init_5 E)) (ax_sn_leaf (r_X15_init_2 E))) (ax_sn_node (ax_sn_leaf (r_X15_init_1 E)) (ax_sn_leaf (r_X15_init_0 E))))))))⟩
theorem r_X15_rowOf_0 (E : ax_EN G l) : ax_Snd G l ax_Ym M_X15_rowOf 0 (S_iload 1 1) := k_iload_n dX15_rowOf_0 rfl
theorem r_X15_rowOf_1 (E : ax_EN G l) : ax_Snd G l ax_Ym M_X15_rowOf 1 (S_push (.int (16)) 3) := k_bipush dX15_rowOf_1 rfl
theorem r_X15_rowOf_3 (E : ax_EN G l) : ax_Snd G l ax_Ym M_X15_rowOf 3 (S_if2 (fun x y => decide (y ≤ x)) 13 6) := k_icmp_ge dX15_rowOf_3 rfl
theorem r_X15_rowOf_6 (E : ax_EN G l) : ax_Snd G l ax_Ym M_X15_rowOf 6 (S_aload 0 7) := k_aload_n dX15_rowOf_6 rfl
theorem r_X15_rowOf_7 (E : ax_EN G l) : ax_Snd G l ax_Ym M_X15_rowOf 7 (S_getf [(25, 0)] 10) := k_getf (en_F E) (ax_fes_cons (fe_220 E) ax_fes_nil) q1158 dX15_rowOf_7
theorem r_X15_rowOf_10 (E : ax_EN G l) : ax_Snd G l ax_Ym M_X15_rowOf 10 (S_goto 17) := k_goto dX15_rowOf_10 rfl
theorem r_X15_rowOf_13 (E : ax_EN G l) : ax_Snd G l ax_Ym M_X15_rowOf 13 (S_aload 2 14) := k_aload_n dX15_rowOf_13 rfl
theorem r_X15_rowOf_14 (E : ax_EN G l) : ax_Snd G l ax_Ym M_X15_rowOf 14 (S_getf [(26, 1)] 17) := k_getfN (en_F E) (en_B E) (ax_fes_cons (fe_235 E) ax_fes_nil) q399 dX15_rowOf_14
theorem r_X15_rowOf_17 (E : ax_EN G l) : ax_Snd G l ax_Ym M_X15_rowOf 17 (S_aret) := k_aret dX15_rowOf_17 rfl (Or.inr ⟨_, rfl⟩)
theorem mt_X15_rowOf (E : ax_EN G l) : ax_mt G l ax_Ym (3, P_X15_rowOf) (ax_Ym 282) := ⟨M_X15_rowOf, yX15_rowOf, ⟨rfl, by decide +kernel, rfl, (fun h => by cases h), Or.inl ⟨rfl, rfl⟩⟩, fun pc => (ax_sn_node (ax_sn_node (ax_sn_node (ax_sn_node (ax_sn_leaf (r_X15_rowOf_17 E)) (ax_sn_leaf (r_X15_rowOf_14 E))) (ax_sn_leaf (r_X15_rowOf_13 E))) (ax_sn_node (ax_sn_leaf (r_X15_rowOf_10 E)) (ax_sn_leaf (r_X15_rowOf_7 E)))) (ax_sn_node (ax_sn_node (ax_sn_leaf (r_X15_rowOf_6 E)) (ax_sn_leaf (r_X15_rowOf_3 E))) (ax_sn_node (ax_sn_leaf (r_X15_rowOf_1 E)) (ax_sn_leaf (r_X15_rowOf_0 E)))))⟩
theorem r_X15_address_0 (E : ax_EN G l) : ax_Snd G l ax_Ym M_X15_address 0 (S_aload 0 1) := k_aload_n dX15_address_0 rfl
theorem r_X15_address_1 (E : ax_EN G l) : ax_Snd G l ax_Ym M_X15_address 1 (S_iload 1 2) := k_iload_n dX15_address_1 rfl
theorem r_X15_address_2 (E : ax_EN G l) : ax_Snd G l ax_Ym M_X15_address 2 (S_aload 2 3) := k_aload_n dX15_address_2 rfl
theorem r_X15_address_3 (E : ax_EN G l) : ax_Snd G l ax_Ym M_X15_address 3 (S_iv [(25, 282)] 2 6 hd_0) := k_iv (en_F E) (ax_ok0 E rfl) (ax_Evs_cons ((ev_v (en_c E (k := 25) rfl) rfl y_X15_rowOf q926 q895 qs4 q148 q896 nm_X15_rowOf (Nat.le_of_ble_eq_true rfl) dX15_address_3) : ax_EvV G l ax_Ym M_X15_address 3 2 3 25 282) ax_Evs_nil)
theorem r_X15_address_6 (E : ax_EN G l) : ax_Snd G l ax_Ym M_X15_address 6 (S_iload 1 7) := k_iload_n dX15_address_6 rfl
theorem r_X15_address_7 (E : ax_EN G l) : ax_Snd G l ax_Ym M_X15_address 7 (S_push (.int (16)) 9) := k_bipush dX15_address_7 rfl
theorem r_X15_address_9 (E : ax_EN G l) : ax_Snd G l ax_Ym M_X15_address 9 (S_id (fun x y => x - x / y * y) 10) := k_irem dX15_address_9
theorem r_X15_address_10 (E : ax_EN G l) : ax_Snd G l ax_Ym M_X15_address 10 (S_iald 0 11) := k_iald (en_F E) dX15_address_10
theorem r_X15_address_11 (E : ax_EN G l) : ax_Snd G l ax_Ym M_X15_address 11 (S_istore 4 13) := k_istore dX15_address_11 (Nat.le_of_ble_eq_true rfl)
theorem r_X15_address_13 (E : ax_EN G l) : ax_Snd G l ax_Ym M_X15_address 13 (S_iload 4 15) := k_iload dX15_address_13
theorem r_X15_address_15 (E : ax_EN G l) : ax_Snd G l ax_Ym M_X15_address 15 (S_push (.int (-1)) 16) := k_iconst dX15_address_15 rfl
theorem r_X15_address_16 (E : ax_EN G l) : ax_Snd G l ax_Ym M_X15_address 16 (S_if2 (fun x y => decide (x = y)) 23 19) := k_icmp_eq dX15_address_16 rfl
theorem r_X15_address_19 (E : ax_EN G l) : ax_Snd G l ax_Ym M_X15_address 19 (S_push (.int (1)) 20) := k_iconst dX15_address_19 rfl
theorem r_X15_address_20 (E : ax_EN G l) : ax_Snd G l ax_Ym M_X15_address 20 (S_goto 24) := k_goto dX15_address_20 rfl
theorem r_X15_address_23 (E : ax_EN G l) : ax_Snd G l ax_Ym M_X15_address 23 (S_push (.int (0)) 24) := k_iconst dX15_address_23 rfl
theorem r_X15_address_24 (E : ax_EN G l) : ax_Snd G l ax_Ym M_X15_address 24 (S_push (.int (6)) 26) := k_bipush dX15_address_24 rfl
theorem r_X15_address_26 (E : ax_EN G l) : ax_Snd G l ax_Ym M_X15_address 26 (S_iload 3 27) := k_iload_n dX15_address_26 rfl
theorem r_X15_address_27 (E : ax_EN G l) : ax_Snd G l ax_Ym M_X15_address 27 (S_is 213 3 30 hd_0) := k_is (en_F E) (ax_ok0 E rfl) ((ev_sN (en_B E) y_X1_check q927 q474 q118 q475 nm_X1_check (Nat.le_of_ble_eq_true rfl) dX15_address_27) : ax_EvS G l ax_Ym M_X15_address 27 213 3 3)
theorem r_X15_address_30 (E : ax_EN G l) : ax_Snd G l ax_Ym M_X15_address 30 (S_iload 4 32) := k_iload dX15_address_30
theorem r_X15_address_32 (E : ax_EN G l) : ax_Snd G l ax_Ym M_X15_address 32 (S_push (.int (1000)) 35) := k_sipush dX15_address_32 rfl
theorem r_X15_address_35 (E : ax_EN G l) : ax_Snd G l ax_Ym M_X15_address 35 (S_if2 (fun x y => decide (y ≤ x)) 43 38) := k_icmp_ge dX15_address_35 rfl
theorem r_X15_address_38 (E : ax_EN G l) : ax_Snd G l ax_Ym M_X15_address 38 (S_push (.int (8)) 40) := k_bipush dX15_address_38 rfl
theorem r_X15_address_40 (E : ax_EN G l) : ax_Snd G l ax_Ym M_X15_address 40 (S_goto 47) := k_goto dX15_address_40 rfl
theorem r_X15_address_43 (E : ax_EN G l) : ax_Snd G l ax_Ym M_X15_address 43 (S_aload 0 44) := k_aload_n dX15_address_43 rfl
theorem r_X15_address_44 (E : ax_EN G l) : ax_Snd G l ax_Ym M_X15_address 44 (S_getf [(25, 4)] 47) := k_getf (en_F E) (ax_fes_cons (fe_232 E) ax_fes_nil) q1166 dX15_address_44
theorem r_X15_address_47 (E : ax_EN G l) : ax_Snd G l ax_Ym M_X15_address 47 (S_iload 4 49) := k_iload dX15_address_47
theorem r_X15_address_49 (E : ax_EN G l) : ax_Snd G l ax_Ym M_X15_address 49 (S_push (.int (1000)) 52) := k_sipush dX15_address_49 rfl
theorem r_X15_address_52 (E : ax_EN G l) : ax_Snd G l ax_Ym M_X15_address 52 (S_id (fun x y => x - x / y * y) 53) := k_irem dX15_address_52
theorem r_X15_address_53 (E : ax_EN G l) : ax_Snd G l ax_Ym M_X15_address 53 (S_i2 (fun x y => x + y) 54) := k_iadd dX15_address_53
theorem r_X15_address_54 (E : ax_EN G l) : ax_Snd G l ax_Ym M_X15_address 54 (S_iret) := k_iret dX15_address_54 rfl
theorem mt_X15_address (E : ax_EN G l) : ax_mt G l ax_Ym (5, P_X15_address) (ax_Ym 283) := ⟨M_X15_address, yX15_address, ⟨rfl, by decide +kernel, rfl, (fun h => by cases h), Or.inl ⟨rfl, rfl⟩⟩, fun pc => (ax_sn_node (ax_sn_node (ax_sn_node (ax_sn_node (ax_sn_node (ax_sn_leaf (r_X15_address_54 E)) (ax_sn_leaf (r_X15_address_53 E))) (ax_sn_node (ax_sn_leaf (r_X15_address_52 E)) (ax_sn_leaf (r_X15_address_49 E)))) (ax_sn_node (ax_sn_node (ax_sn_leaf (r_X15_address_47 E)) (ax_sn_leaf (r_X15_address_44 E))) (ax_sn_node (ax_sn_leaf (r_X15_address_43 E)) (ax_sn_leaf (r_X15_address_40 E))))) (ax_sn_node (ax_sn_node (ax_sn_node (ax_sn_leaf (r_X15_address_38 E)) (ax_sn_leaf (r_X15_address_35 E))) (ax_sn_node (ax_sn_leaf (r_X15_address_32 E)) (ax_sn_leaf (r_X15_address_30 E)))) (ax_sn_node (ax_sn_node (ax_sn_leaf (r_X15_address_27 E)) (ax_sn_leaf (r_X15_address_26 E))) (ax_sn_leaf (r_X15_address_24 E))))) (ax_sn_node (ax_sn_node (ax_sn_node (ax_sn_node (ax_sn_leaf (r_X15_address_23 E)) (ax_sn_leaf (r_X15_address_20 E))) (ax_sn_node (ax_sn_leaf (r_X15_address_19 E)) (ax_sn_leaf (r_X15_address_16 E)))) (ax_sn_node (ax_sn_node (ax_sn_leaf (r_X15_address_15 E)) (ax_sn_leaf (r_X15_address_13 E))) (ax_sn_node (ax_sn_leaf (r_X15_address_11 E)) (ax_sn_leaf (r_X15_address_10 E))))) (ax_sn_node (ax_sn_node (ax_sn_node (ax_sn_leaf (r_X15_address_9 E)) (ax_sn_leaf (r_X15_address_7 E))) (ax_sn_node (ax_sn_leaf (r_X15_address_6 E)) (ax_sn_leaf (r_X15_address_3 E)))) (ax_sn_node (ax_sn_node (ax_sn_leaf (r_X15_address_2 E)) (ax_sn_leaf (r_X15_address_1 E))) (ax_sn_leaf (r_X15_address_0 E))))))⟩
theorem r_X15_makeWords_0 (E : ax_EN G l) : ax_Snd G l ax_Ym M_X15_makeWords 0 (S_new 30 [.null, .int 0, .null, .null, .null, .int 0, .int 0, .null, .null] 9 3) := k_new (en_F E) (mk_30 E) q1140 dX15_makeWords_0
theorem r_X15_makeWords_3 (E : ax_EN G l) : ax_Snd G l ax_Ym M_X15_makeWords 3 (S_dup 4) := k_dup dX15_makeWords_3
theorem r_X15_makeWords_4 (E : ax_EN G l) : ax_Snd G l ax_Ym M_X15_makeWords 4 (S_aload 0 5) := k_aload_n dX15_makeWords_4 rfl
theorem r_X15_makeWords_5 (E : ax_EN G l) : ax_Snd G l ax_Ym M_X15_makeWords 5 (S_isp 357 1 8 hd_0) := k_isp (en_F E) (ax_ok0 E rfl) ((ev_i y_X20_init q1142 q1143 q163 q1144 nm_X20_init rfl (Nat.le_of_ble_eq_true rfl) dX15_makeWords_5) : ax_EvI G l ax_Ym M_X15_makeWords 5 357 1 3)
theorem r_X15_makeWords_8 (E : ax_EN G l) : ax_Snd G l ax_Ym M_X15_makeWords 8 (S_astore 1 9) := k_astore_n dX15_makeWords_8 rfl (Nat.le_of_ble_eq_true rfl)
theorem r_X15_makeWords_9 (E : ax_EN G l) : ax_Snd G l ax_Ym M_X15_makeWords 9 (S_aload 1 10) := k_aload_n dX15_makeWords_9 rfl
theorem r_X15_makeWords_10 (E : ax_EN G l) : ax_Snd G l ax_Ym M_X15_makeWords 10 (S_push (.int (0)) 11) := k_iconst dX15_makeWords_10 rfl
theorem r_X15_makeWords_11 (E : ax_EN G l) : ax_Snd G l ax_Ym M_X15_makeWords 11 (S_aload 0 12) := k_aload_n dX15_makeWords_11 rfl
theorem r_X15_makeWords_12 (E : ax_EN G l) : ax_Snd G l ax_Ym M_X15_makeWords 12 (S_getf [(25, 6)] 15) := k_getf (en_F E) (ax_fes_cons (fe_218 E) ax_fes_nil) q1170 dX15_makeWords_12
theorem r_X15_makeWords_15 (E : ax_EN G l) : ax_Snd G l ax_Ym M_X15_makeWords 15 (S_getf [(19, 0)] 18) := k_getfN (en_F E) (en_B E) (ax_fes_cons (fe_139 E) ax_fes_nil) q320 dX15_makeWords_15
theorem r_X15_makeWords_18 (E : ax_EN G l) : ax_Snd G l ax_Ym M_X15_makeWords 18 (S_iv [(4, 59)] 0 23 hd_0) := k_iv (en_F E) (ax_ok0 E rfl) (ax_Evs_cons ((ev_f (en_F E) (en_B E) (en_c E (k := 4) rfl) y_J2_size q466 q352 q350 q121 q354 q348 q347 q353 q351 q349 xn_151 (Nat.le_of_ble_eq_true rfl) dX15_makeWords_18) : ax_EvV G l ax_Ym M_X15_makeWords 18 0 5 4 59) ax_Evs_nil)
theorem r_X15_makeWords_23 (E : ax_EN G l) : ax_Snd G l ax_Ym M_X15_makeWords 23 (S_aload 0 24) := k_aload_n dX15_makeWords_23 rfl
theorem r_X15_makeWords_24 (E : ax_EN G l) : ax_Snd G l ax_Ym M_X15_makeWords 24 (S_getf [(25, 1)] 27) := k_getf (en_F E) (ax_fes_cons (fe_223 E) ax_fes_nil) q1159 dX15_makeWords_24
theorem r_X15_makeWords_27 (E : ax_EN G l) : ax_Snd G l ax_Ym M_X15_makeWords 27 (S_iv [(27, 287), (30, 287)] 3 30 hd_0) := k_iv (en_F E) (ax_ok0 E rfl) (ax_Evs_cons ((ev_vU (en_c E (k := 27) rfl) y_X17_go rfl q467 q469 q468 q470 q150 q472 xo_229 (Nat.le_of_ble_eq_true rfl) dX15_makeWords_27) : ax_EvV G l ax_Ym M_X15_makeWords 27 3 3 27 287) (ax_Evs_cons ((ev_vU (en_c E (k := 30) rfl) y_X17_go rfl q467 q469 q468 q471 q150 q472 xo_229 (Nat.le_of_ble_eq_true rfl) dX15_makeWords_27) : ax_EvV G l ax_Ym M_X15_makeWords 27 3 3 30 287) ax_Evs_nil))
theorem r_X15_makeWords_30 (E : ax_EN G l) : ax_Snd G l ax_Ym M_X15_makeWords 30 (S_ret) := k_ret dX15_makeWords_30 rfl
theorem mt_X15_makeWords (E : ax_EN G l) : ax_mt G l ax_Ym (2, P_X15_makeWords) (ax_Ym 284) := ⟨M_X15_makeWords, yX15_makeWords, ⟨rfl, by decide +kernel, rfl, (fun h => by cases h), Or.inl ⟨rfl, rfl⟩⟩, fun pc => (ax_sn_node (ax_sn_node (ax_sn_node (ax_sn_node (ax_sn_leaf (r_X15_makeWords_30 E)) (ax_sn_leaf (r_X15_makeWords_27 E))) (ax_sn_node (ax_sn_leaf (r_X15_makeWords_24 E)) (ax_sn_leaf (r_X15_makeWords_23 E)))) (ax_sn_node (ax_sn_node (ax_sn_leaf (r_X15_makeWords_18 E)) (ax_sn_leaf (r_X15_makeWords_15 E))) (ax_sn_node (ax_sn_leaf (r_X15_makeWords_12 E)) (ax_sn_leaf (r_X15_makeWords_11 E))))) (ax_sn_node (ax_sn_node (ax_sn_node (ax_sn_leaf (r_X15_makeWords_10 E)) (ax_sn_leaf (r_X15_makeWords_9 E))) (ax_sn_node (ax_sn_leaf (r_X15_makeWords_8 E)) (ax_sn_leaf (r_X15_makeWords_5 E)))) (ax_sn_node (ax_sn_node (ax_sn_leaf (r_X15_makeWords_4 E)) (ax_sn_leaf (r_X15_makeWords_3 E))) (ax_sn_leaf (r_X15_makeWords_0 E)))))⟩
theorem r_X16_init_0 (E : ax_EN G l) : ax_Snd G l ax_Ym M_X16_init 0 (S_aload 0 1) := k_aload_n dX16_init_0 rfl
theorem r_X16_init_1 (E : ax_EN G l) : ax_Snd G l ax_Ym M_X16_init 1 (S_oin 4) := k_oin q395 q189 w_oin dX16_init_1
theorem r_X16_init_4 (E : ax_EN G l) : ax_Snd G l ax_Ym M_X16_init 4 (S_aload 0 5) := k_aload_n dX16_init_4 rfl
theorem r_X16_init_5 (E : ax_EN G l) : ax_Snd G l ax_Ym M_X16_init 5 (S_push (.int (4)) 6) := k_iconst dX16_init_5 rfl
theorem r_X16_init_6 (E : ax_EN G l) : ax_Snd G l ax_Ym M_X16_init 6 (S_newa 0 0 8) := k_newa (atype := .int) (en_F E) (by decide) rfl (fun _ => rfl) (Or.inl q255) (by decide) (fun _ => rfl) dX16_init_6
theorem r_X16_init_8 (E : ax_EN G l) : ax_Snd G l ax_Ym M_X16_init 8 (S_putf [(26, 1)] (.array (.int)) 11) := k_putfF (en_F E) (en_P E) (ax_fes_cons (fe_235 E) ax_fes_nil) (ax_fps_cons (fp_237 E) ax_fps_nil) rfl q398 dX16_init_8
theorem r_X16_init_11 (E : ax_EN G l) : ax_Snd G l ax_Ym M_X16_init 11 (S_aload 0 12) := k_aload_n dX16_init_11 rfl
theorem r_X16_init_12 (E : ax_EN G l) : ax_Snd G l ax_Ym M_X16_init 12 (S_iload 1 13) := k_iload_n dX16_init_12 rfl
theorem r_X16_init_13 (E : ax_EN G l) : ax_Snd G l ax_Ym M_X16_init 13 (S_putf [(26, 0)] (.int) 16) := k_putfF (en_F E) (en_P E) (ax_fes_cons (fe_238 E) ax_fes_nil) (ax_fps_cons (fp_239 E) ax_fps_nil) rfl q396 dX16_init_13
theorem r_X16_init_16 (E : ax_EN G l) : ax_Snd G l ax_Ym M_X16_init 16 (S_push (.int (0)) 17) := k_iconst dX16_init_16 rfl
theorem r_X16_init_17 (E : ax_EN G l) : ax_Snd G l ax_Ym M_X16_init 17 (S_istore 2 18) := k_istore_n dX16_init_17 rfl (Nat.le_of_ble_eq_true rfl)
theorem r_X16_init_18 (E : ax_EN G l) : ax_Snd G l ax_Ym M_X16_init 18 (S_iload 2 19) := k_iload_n dX16_init_18 rfl
theorem r_X16_init_19 (E : ax_EN G l) : ax_Snd G l ax_Ym M_X16_init 19 (S_aload 0 20) := k_aload_n dX16_init_19 rfl
theorem r_X16_init_20 (E : ax_EN G l) : ax_Snd G l ax_Ym M_X16_init 20 (S_getf [(26, 1)] 23) := k_getf (en_F E) (ax_fes_cons (fe_235 E) ax_fes_nil) q398 dX16_init_20
theorem r_X16_init_23 (E : ax_EN G l) : ax_Snd G l ax_Ym M_X16_init 23 (S_alen 24) := k_alen (en_F E) dX16_init_23
theorem r_X16_init_24 (E : ax_EN G l) : ax_Snd G l ax_Ym M_X16_init 24 (S_if2 (fun x y => decide (y ≤ x)) 40 27) := k_icmp_ge dX16_init_24 rfl
theorem r_X16_init_27 (E : ax_EN G l) : ax_Snd G l ax_Ym M_X16_init 27 (S_aload 0 28) := k_aload_n dX16_init_27 rfl
theorem r_X16_init_28 (E : ax_EN G l) : ax_Snd G l ax_Ym M_X16_init 28 (S_getf [(26, 1)] 31) := k_getf (en_F E) (ax_fes_cons (fe_235 E) ax_fes_nil) q398 dX16_init_28
theorem r_X16_init_31 (E : ax_EN G l) : ax_Snd G l ax_Ym M_X16_init 31 (S_iload 2 32) := k_iload_n dX16_init_31 rfl
theorem r_X16_init_32 (E : ax_EN G l) : ax_Snd G l ax_Ym M_X16_init 32 (S_push (.int (-1)) 33) := k_iconst dX16_init_32 rfl
theorem r_X16_init_33 (E : ax_EN G l) : ax_Snd G l ax_Ym M_X16_init 33 (S_iast 0 (fun x => x) 34) := k_iast (en_F E) dX16_init_33
theorem r_X16_init_34 (E : ax_EN G l) : ax_Snd G l ax_Ym M_X16_init 34 (S_iinc 2 (1) 37) := k_iinc dX16_init_34 rfl (Nat.le_of_ble_eq_true rfl)
theorem r_X16_init_37 (E : ax_EN G l) : ax_Snd G l ax_Ym M_X16_init 37 (S_goto 18) := k_goto dX16_init_37 rfl
theorem r_X16_init_40 (E : ax_EN G l) : ax_Snd G l ax_Ym M_X16_init 40 (S_ret) := k_ret dX16_init_40 rfl
theorem mt_X16_init (E : ax_EN G l) : ax_mt G l ax_Ym (3, P_X16_init) (ax_Ym 285) := ⟨M_X16_init, yX16_init, ⟨rfl, by decide +kernel, rfl, (fun _ => rfl), Or.inl ⟨rfl, rfl⟩⟩, fun pc => (ax_sn_node (ax_sn_node (ax_sn_node (ax_sn_node (ax_sn_node (ax_sn_leaf (r_X16_init_40 E)) (ax_sn_leaf (r_X16_init_37 E))) (ax_sn_leaf (r_X16_init_34 E))) (ax_sn_node (ax_sn_node (ax_sn_leaf (r_X16_init_33 E)) (ax_sn_leaf (r_X16_init_32 E))) (ax_sn_leaf (r_X16_init_31 E)))) (ax_sn_node (ax_sn_node (ax_sn_node (ax_sn_leaf (r_X16_init_28 E)) (ax_sn_leaf (r_X16_init_27 E))) (ax_sn_leaf (r_X16_init_24 E))) (ax_sn_node (ax_sn_node (ax_sn_leaf (r_X16_init_23 E)) (ax_sn_leaf (r_X16_init_20 E))) (ax_sn_leaf (r_X16_init_19 E))))) (ax_sn_node (ax_sn_node (ax_sn_node (ax_sn_node (ax_sn_leaf (r_X16_init_18 E)) (ax_sn_leaf (r_X16_init_17 E))) (ax_sn_leaf (r_X16_init_16 E))) (ax_sn_node (ax_sn_node (ax_sn_leaf (r_X16_init_13 E)) (ax_sn_leaf (r_X16_init_12 E))) (ax_sn_leaf (r_X16_init_11 E)))) (ax_sn_node (ax_sn_node (ax_sn_node (ax_sn_leaf (r_X16_init_8 E)) (ax_sn_leaf (r_X16_init_6 E))) (ax_sn_leaf (r_X16_init_5 E))) (ax_sn_node (ax_sn_node (ax_sn_leaf (r_X16_init_4 E)) (ax_sn_leaf (r_X16_init_1 E))) (ax_sn_leaf (r_X16_init_0 E))))))⟩
theorem r_X17_init_0 (E : ax_EN G l) : ax_Snd G l ax_Ym M_X17_init 0 (S_aload 0 1) := k_aload_n dX17_init_0 rfl
theorem r_X17_init_1 (E : ax_EN G l) : ax_Snd G l ax_Ym M_X17_init 1 (S_aload 1 2) := k_aload_n dX17_init_1 rfl
theorem r_X17_init_2 (E : ax_EN G l) : ax_Snd G l ax_Ym M_X17_init 2 (S_putf [(27, 7), (30, 7)] (.object "KernelGym") 5) := k_putfF (en_F E) (en_P E) (ax_fes_cons (fe_241 E) (ax_fes_cons (fe_240 E) ax_fes_nil)) (ax_fps_cons (fp_243 E) (ax_fps_cons (fp_242 E) ax_fps_nil)) rfl q442 dX17_init_2
theorem r_X17_init_5 (E : ax_EN G l) : ax_Snd G l ax_Ym M_X17_init 5 (S_aload 0 6) := k_aload_n dX17_init_5 rfl
theorem r_X17_init_6 (E : ax_EN G l) : ax_Snd G l ax_Ym M_X17_init 6 (S_oin 9) := k_oin q423 q189 w_oin dX17_init_6
theorem r_X17_init_9 (E : ax_EN G l) : ax_Snd G l ax_Ym M_X17_init 9 (S_aload 0 10) := k_aload_n dX17_init_9 rfl
theorem r_X17_init_10 (E : ax_EN G l) : ax_Snd G l ax_Ym M_X17_init 10 (S_push (.int (2)) 11) := k_iconst dX17_init_10 rfl
theorem r_X17_init_11 (E : ax_EN G l) : ax_Snd G l ax_Ym M_X17_init 11 (S_newa 0 0 13) := k_newa (atype := .int) (en_F E) (by decide) rfl (fun _ => rfl) (Or.inl q255) (by decide) (fun _ => rfl) dX17_init_11
theorem r_X17_init_13 (E : ax_EN G l) : ax_Snd G l ax_Ym M_X17_init 13 (S_putf [(27, 0), (30, 0)] (.array (.int)) 16) := k_putfF (en_F E) (en_P E) (ax_fes_cons (fe_231 E) (ax_fes_cons (fe_230 E) ax_fes_nil)) (ax_fps_cons (fp_245 E) (ax_fps_cons (fp_244 E) ax_fps_nil)) rfl q426 dX17_init_13
theorem r_X17_init_16 (E : ax_EN G l) : ax_Snd G l ax_Ym M_X17_init 16 (S_aload 0 17) := k_aload_n dX17_init_16 rfl
theorem r_X17_init_17 (E : ax_EN G l) : ax_Snd G l ax_Ym M_X17_init 17 (S_push (.int (5)) 18) := k_iconst dX17_init_17 rfl
theorem r_X17_init_18 (E : ax_EN G l) : ax_Snd G l ax_Ym M_X17_init 18 (S_newa 0 0 20) := k_newa (atype := .int) (en_F E) (by decide) rfl (fun _ => rfl) (Or.inl q255) (by decide) (fun _ => rfl) dX17_init_18
theorem r_X17_init_20 (E : ax_EN G l) : ax_Snd G l ax_Ym M_X17_init 20 (S_putf [(27, 2), (30, 2)] (.array (.int)) 23) := k_putfF (en_F E) (en_P E) (ax_fes_cons (fe_247 E) (ax_fes_cons (fe_246 E) ax_fes_nil)) (ax_fps_cons (fp_249 E) (ax_fps_cons (fp_248 E) ax_fps_nil)) rfl q437 dX17_init_20
theorem r_X17_init_23 (E : ax_EN G l) : ax_Snd G l ax_Ym M_X17_init 23 (S_aload 0 24) := k_aload_n dX17_init_23 rfl
theorem r_X17_init_24 (E : ax_EN G l) : ax_Snd G l ax_Ym M_X17_init 24 (S_push (.int (5)) 25) := k_iconst dX17_init_24 rfl
theorem r_X17_init_25 (E : ax_EN G l) : ax_Snd G l ax_Ym M_X17_init 25 (S_newa 0 0 27) := k_newa (atype := .int) (en_F E) (by decide) rfl (fun _ => rfl) (Or.inl q255) (by decide) (fun _ => rfl) dX17_init_25
theorem r_X17_init_27 (E : ax_EN G l) : ax_Snd G l ax_Ym M_X17_init 27 (S_putf [(27, 3), (30, 3)] (.array (.int)) 30) := k_putfF (en_F E) (en_P E) (ax_fes_cons (fe_251 E) (ax_fes_cons (fe_250 E) ax_fes_nil)) (ax_fps_cons (fp_253 E) (ax_fps_cons (fp_252 E) ax_fps_nil)) rfl q438 dX17_init_27
theorem r_X17_init_30 (E : ax_EN G l) : ax_Snd G l ax_Ym M_X17_init 30 (S_aload 0 31) := k_aload_n dX17_init_30 rfl
theorem r_X17_init_31 (E : ax_EN G l) : ax_Snd G l ax_Ym M_X17_init 31 (S_push (.int (5)) 32) := k_iconst dX17_init_31 rfl
theorem r_X17_init_32 (E : ax_EN G l) : ax_Snd G l ax_Ym M_X17_init 32 (S_newa 2 0 34) := k_newa (atype := .boolean) (en_F E) (by decide) rfl (fun _ => rfl) (Or.inl q464) (by decide) (fun _ => rfl) dX17_init_32
theorem r_X17_init_34 (E : ax_EN G l) : ax_Snd G l ax_Ym M_X17_init 34 (S_putf [(27, 4), (30, 4)] (.array (.boolean)) 37) := k_putfF (en_F E) (en_P E) (ax_fes_cons (fe_255 E) (ax_fes_cons (fe_254 E) ax_fes_nil)) (ax_fps_cons (fp_257 E) (ax_fps_cons (fp_256 E) ax_fps_nil)) rfl q439 dX17_init_34
theorem r_X17_init_37 (E : ax_EN G l) : ax_Snd G l ax_Ym M_X17_init 37 (S_push (.int (0)) 38) := k_iconst dX17_init_37 rfl
theorem r_X17_init_38 (E : ax_EN G l) : ax_Snd G l ax_Ym M_X17_init 38 (S_istore 2 39) := k_istore_n dX17_init_38 rfl (Nat.le_of_ble_eq_true rfl)
theorem r_X17_init_39 (E : ax_EN G l) : ax_Snd G l ax_Ym M_X17_init 39 (S_iload 2 40) := k_iload_n dX17_init_39 rfl
theorem r_X17_init_40 (E : ax_EN G l) : ax_Snd G l ax_Ym M_X17_init 40 (S_push (.int (5)) 41) := k_iconst dX17_init_40 rfl
theorem r_X17_init_41 (E : ax_EN G l) : ax_Snd G l ax_Ym M_X17_init 41 (S_if2 (fun x y => decide (y ≤ x)) 57 44) := k_icmp_ge dX17_init_41 rfl
theorem r_X17_init_44 (E : ax_EN G l) : ax_Snd G l ax_Ym M_X17_init 44 (S_aload 0 45) := k_aload_n dX17_init_44 rfl
theorem r_X17_init_45 (E : ax_EN G l) : ax_Snd G l ax_Ym M_X17_init 45 (S_getf [(27, 2), (30, 2)] 48) := k_getf (en_F E) (ax_fes_cons (fe_247 E) (ax_fes_cons (fe_246 E) ax_fes_nil)) q437 dX17_init_45
theorem r_X17_init_48 (E : ax_EN G l) : ax_Snd G l ax_Ym M_X17_init 48 (S_iload 2 49) := k_iload_n dX17_init_48 rfl
theorem r_X17_init_49 (E : ax_EN G l) : ax_Snd G l ax_Ym M_X17_init 49 (S_push (.int (-1)) 50) := k_iconst dX17_init_49 rfl
theorem r_X17_init_50 (E : ax_EN G l) : ax_Snd G l ax_Ym M_X17_init 50 (S_iast 0 (fun x => x) 51) := k_iast (en_F E) dX17_init_50
theorem r_X17_init_51 (E : ax_EN G l) : ax_Snd G l ax_Ym M_X17_init 51 (S_iinc 2 (1) 54) := k_iinc dX17_init_51 rfl (Nat.le_of_ble_eq_true rfl)
theorem r_X17_init_54 (E : ax_EN G l) : ax_Snd G l ax_Ym M_X17_init 54 (S_goto 39) := k_goto dX17_init_54 rfl
theorem r_X17_init_57 (E : ax_EN G l) : ax_Snd G l ax_Ym M_X17_init 57 (S_ret) := k_ret dX17_init_57 rfl
theorem mt_X17_init (E : ax_EN G l) : ax_mt G l ax_Ym (3, P_X17_init) (ax_Ym 286) := ⟨M_X17_init, yX17_init, ⟨rfl, by decide +kernel, rfl, (fun _ => rfl), Or.inl ⟨rfl, rfl⟩⟩, fun pc => (ax_sn_node (ax_sn_node (ax_sn_node (ax_sn_node (ax_sn_node (ax_sn_node (ax_sn_leaf (r_X17_init_57 E)) (ax_sn_leaf (r_X17_init_54 E))) (ax_sn_leaf (r_X17_init_51 E))) (ax_sn_node (ax_sn_leaf (r_X17_init_50 E)) (ax_sn_leaf (r_X17_init_49 E)))) (ax_sn_node (ax_sn_node (ax_sn_leaf (r_X17_init_48 E)) (ax_sn_leaf (r_X17_init_45 E))) (ax_sn_node (ax_sn_leaf (r_X17_init_44 E)) (ax_sn_leaf (r_X17_init_41 E))))) (ax_sn_node (ax_sn_node (ax_sn_node (ax_sn_leaf (r_X17_init_40 E)) (ax_sn_leaf (r_X17_init_39 E))) (ax_sn_node (ax_sn_leaf (r_X17_init_38 E)) (ax_sn_leaf (r_X17_init_37 E)))) (ax_sn_node (ax_sn_node (ax_sn_leaf (r_X17_init_34 E)) (ax_sn_leaf (r_X17_init_32 E))) (ax_sn_node (ax_sn_leaf (r_X17_init_31 E)) (ax_sn_leaf (r_X17_init_30 E)))))) (ax_sn_node (ax_sn_node (ax_sn_node (ax_sn_node (ax_sn_node (ax_sn_leaf (r_X17_init_27 E)) (ax_sn_leaf (r_X17_init_25 E))) (ax_sn_leaf (r_X17_init_24 E))) (ax_sn_node (ax_sn_leaf (r_X17_init_23 E)) (ax_sn_leaf (r_X17_init_20 E)))) (ax_sn_node (ax_sn_node (ax_sn_leaf (r_X17_init_18 E)) (ax_sn_leaf (r_X17_init_17 E))) (ax_sn_node (ax_sn_leaf (r_X17_init_16 E)) (ax_sn_leaf (r_X17_init_13 E))))) (ax_sn_node (ax_sn_node (ax_sn_node (ax_sn_leaf (r_X17_init_11 E)) (ax_sn_leaf (r_X17_init_10 E))) (ax_sn_node (ax_sn_leaf (r_X17_init_9 E)) (ax_sn_leaf (r_X17_init_6 E)))) (ax_sn_node (ax_sn_node (ax_sn_leaf (r_X17_init_5 E)) (ax_sn_leaf (r_X17_init_2 E))) (ax_sn_node (ax_sn_leaf (r_X17_init_1 E)) (ax_sn_leaf (r_X17_init_0 E)))))))⟩
theorem r_X17_go_0 (E : ax_EN G l) : ax_Snd G l ax_Ym M_X17_go 0 (S_iload 1 1) := k_iload_n dX17_go_0 rfl
theorem r_X17_go_1 (E : ax_EN G l) : ax_Snd G l ax_Ym M_X17_go 1 (S_istore 4 3) := k_istore dX17_go_1 (Nat.le_of_ble_eq_true rfl)
theorem r_X17_go_3 (E : ax_EN G l) : ax_Snd G l ax_Ym M_X17_go 3 (S_iload 4 5) := k_iload dX17_go_3
theorem r_X17_go_5 (E : ax_EN G l) : ax_Snd G l ax_Ym M_X17_go 5 (S_iload 2 6) := k_iload_n dX17_go_5 rfl
theorem r_X17_go_6 (E : ax_EN G l) : ax_Snd G l ax_Ym M_X17_go 6 (S_if2 (fun x y => decide (y ≤ x)) 69 9) := k_icmp_ge dX17_go_6 rfl
theorem r_X17_go_9 (E : ax_EN G l) : ax_Snd G l ax_Ym M_X17_go 9 (S_aload 0 10) := k_aload_n dX17_go_9 rfl
theorem r_X17_go_10 (E : ax_EN G l) : ax_Snd G l ax_Ym M_X17_go 10 (S_dup 11) := k_dup dX17_go_10
theorem r_X17_go_11 (E : ax_EN G l) : ax_Snd G l ax_Ym M_X17_go 11 (S_getf [(27, 5), (30, 5)] 14) := k_getf (en_F E) (ax_fes_cons (fe_259 E) (ax_fes_cons (fe_258 E) ax_fes_nil)) q440 dX17_go_11
theorem r_X17_go_14 (E : ax_EN G l) : ax_Snd G l ax_Ym M_X17_go 14 (S_push (.int (1)) 15) := k_iconst dX17_go_14 rfl
theorem r_X17_go_15 (E : ax_EN G l) : ax_Snd G l ax_Ym M_X17_go 15 (S_i2 (fun x y => x + y) 16) := k_iadd dX17_go_15
theorem r_X17_go_16 (E : ax_EN G l) : ax_Snd G l ax_Ym M_X17_go 16 (S_putf [(27, 5), (30, 5)] (.int) 19) := k_putf (en_F E) (en_P E) (ax_fes_cons (fe_259 E) (ax_fes_cons (fe_258 E) ax_fes_nil)) (ax_fps_cons (fp_261 E) (ax_fps_cons (fp_260 E) ax_fps_nil)) q440 dX17_go_16
theorem r_X17_go_19 (E : ax_EN G l) : ax_Snd G l ax_Ym M_X17_go 19 (S_aload 0 20) := k_aload_n dX17_go_19 rfl
theorem r_X17_go_20 (E : ax_EN G l) : ax_Snd G l ax_Ym M_X17_go 20 (S_getf [(27, 5), (30, 5)] 23) := k_getf (en_F E) (ax_fes_cons (fe_259 E) (ax_fes_cons (fe_258 E) ax_fes_nil)) q440 dX17_go_20
theorem r_X17_go_23 (E : ax_EN G l) : ax_Snd G l ax_Ym M_X17_go 23 (S_push (.int (300)) 26) := k_sipush dX17_go_23 rfl
theorem r_X17_go_26 (E : ax_EN G l) : ax_Snd G l ax_Ym M_X17_go 26 (S_if2 (fun x y => decide (y < x)) 33 29) := k_icmp_gt dX17_go_26 rfl
theorem r_X17_go_29 (E : ax_EN G l) : ax_Snd G l ax_Ym M_X17_go 29 (S_push (.int (1)) 30) := k_iconst dX17_go_29 rfl
theorem r_X17_go_30 (E : ax_EN G l) : ax_Snd G l ax_Ym M_X17_go 30 (S_goto 34) := k_goto dX17_go_30 rfl
theorem r_X17_go_33 (E : ax_EN G l) : ax_Snd G l ax_Ym M_X17_go 33 (S_push (.int (0)) 34) := k_iconst dX17_go_33 rfl
theorem r_X17_go_34 (E : ax_EN G l) : ax_Snd G l ax_Ym M_X17_go 34 (S_push (.int (1)) 35) := k_iconst dX17_go_34 rfl
theorem r_X17_go_35 (E : ax_EN G l) : ax_Snd G l ax_Ym M_X17_go 35 (S_iload 4 37) := k_iload dX17_go_35
theorem r_X17_go_37 (E : ax_EN G l) : ax_Snd G l ax_Ym M_X17_go 37 (S_is 213 3 40 hd_0) := k_is (en_F E) (ax_ok0 E rfl) ((ev_sN (en_B E) y_X1_check q473 q474 q118 q475 nm_X1_check (Nat.le_of_ble_eq_true rfl) dX17_go_37) : ax_EvS G l ax_Ym M_X17_go 37 213 3 3)
theorem r_X17_go_40 (E : ax_EN G l) : ax_Snd G l ax_Ym M_X17_go 40 (S_aload 0 41) := k_aload_n dX17_go_40 rfl
theorem r_X17_go_41 (E : ax_EN G l) : ax_Snd G l ax_Ym M_X17_go 41 (S_getf [(27, 7), (30, 7)] 44) := k_getf (en_F E) (ax_fes_cons (fe_241 E) (ax_fes_cons (fe_240 E) ax_fes_nil)) q442 dX17_go_41
theorem r_X17_go_44 (E : ax_EN G l) : ax_Snd G l ax_Ym M_X17_go 44 (S_getf [(19, 0)] 47) := k_getfN (en_F E) (en_B E) (ax_fes_cons (fe_139 E) ax_fes_nil) q322 dX17_go_44
theorem r_X17_go_47 (E : ax_EN G l) : ax_Snd G l ax_Ym M_X17_go 47 (S_iload 4 49) := k_iload dX17_go_47
theorem r_X17_go_49 (E : ax_EN G l) : ax_Snd G l ax_Ym M_X17_go 49 (S_iv [(4, 61)] 1 54 hd_0) := k_iv (en_F E) (ax_ok0 E rfl) (ax_Evs_cons ((ev_f (en_F E) (en_B E) (en_c E (k := 4) rfl) y_J2_get q816 q821 q819 q121 q823 q818 q817 q822 q820 q349 xn_188 (Nat.le_of_ble_eq_true rfl) dX17_go_49) : ax_EvV G l ax_Ym M_X17_go 49 1 5 4 61) ax_Evs_nil)
theorem r_X17_go_54 (E : ax_EN G l) : ax_Snd G l ax_Ym M_X17_go 54 (S_cast [20, 21, 22, 23, 24, 39, 40, 42, 43] 57) := k_cast (en_F E) (en_B E) (cs_262 E) q877 dX17_go_54
theorem r_X17_go_57 (E : ax_EN G l) : ax_Snd G l ax_Ym M_X17_go 57 (S_aload 0 58) := k_aload_n dX17_go_57 rfl
theorem r_X17_go_58 (E : ax_EN G l) : ax_Snd G l ax_Ym M_X17_go 58 (S_aload 3 59) := k_aload_n dX17_go_58 rfl
theorem r_X17_go_59 (E : ax_EN G l) : ax_Snd G l ax_Ym M_X17_go 59 (S_iload 4 61) := k_iload dX17_go_59
theorem r_X17_go_61 (E : ax_EN G l) : ax_Snd G l ax_Ym M_X17_go 61 (S_iv [(20, 269), (21, 271), (22, 273), (23, 277), (24, 279), (39, 495), (40, 497), (42, 500), (43, 502)] 3 64 hd_0) := k_iv (en_F E) (ax_ok0 E rfl) (ax_Evs_cons ((ev_vB (en_B E) (en_c E (k := 20) rfl) y_X10_go q878 q880 q879 q938 q937 q143 q939 xo_263 (Nat.le_of_ble_eq_true rfl) dX17_go_61) : ax_EvV G l ax_Ym M_X17_go 61 3 3 20 269) (ax_Evs_cons ((ev_vB (en_B E) (en_c E (k := 21) rfl) y_X11_go q878 q880 q879 q942 q941 q144 q943 xo_263 (Nat.le_of_ble_eq_true rfl) dX17_go_61) : ax_EvV G l ax_Ym M_X17_go 61 3 3 21 271) (ax_Evs_cons ((ev_vB (en_B E) (en_c E (k := 22) rfl) y_X12_go q878 q880 q879 q955 q954 q145 q956 xo_263 (Nat.le_of_ble_eq_true rfl) dX17_go_61) : ax_EvV G l ax_Ym M_X17_go 61 3 3 22 273) (ax_Evs_cons ((ev_vB (en_B E) (en_c E (k := 23) rfl) y_X13_go q878 q880 q879 q996 q995 q146 q997 xo_263 (Nat.le_of_ble_eq_true rfl) dX17_go_61) : ax_EvV G l ax_Ym M_X17_go 61 3 3 23 277) (ax_Evs_cons ((ev_vB (en_B E) (en_c E (k := 24) rfl) y_X14_go q878 q880 q879 q1001 q1000 q147 q1002 xo_263 (Nat.le_of_ble_eq_true rfl) dX17_go_61) : ax_EvV G l ax_Ym M_X17_go 61 3 3 24 279) (ax_Evs_cons ((ev_vB (en_B E) (en_c E (k := 39) rfl) y_X5_go q878 q880 q879 q882 q881 q132 q883 xo_263 (Nat.le_of_ble_eq_true rfl) dX17_go_61) : ax_EvV G l ax_Ym M_X17_go 61 3 3 39 495) (ax_Evs_cons ((ev_vB (en_B E) (en_c E (k := 40) rfl) y_X6_go q878 q880 q879 q885 q884 q139 q886 xo_263 (Nat.le_of_ble_eq_true rfl) dX17_go_61) : ax_EvV G l ax_Ym M_X17_go 61 3 3 40 497) (ax_Evs_cons ((ev_vB (en_B E) (en_c E (k := 42) rfl) y_X8_go q878 q880 q879 q902 q901 q141 q903 xo_263 (Nat.le_of_ble_eq_true rfl) dX17_go_61) : ax_EvV G l ax_Ym M_X17_go 61 3 3 42 500) (ax_Evs_cons ((ev_vB (en_B E) (en_c E (k := 43) rfl) y_X9_go q878 q880 q879 q933 q932 q142 q934 xo_263 (Nat.le_of_ble_eq_true rfl) dX17_go_61) : ax_EvV G l ax_Ym M_X17_go 61 3 3 43 502) ax_Evs_nil)))))))))
theorem r_X17_go_64 (E : ax_EN G l) : ax_Snd G l ax_Ym M_X17_go 64 (S_istore 4 66) := k_istore dX17_go_64 (Nat.le_of_ble_eq_true rfl)
theorem r_X17_go_66 (E : ax_EN G l) : ax_Snd G l ax_Ym M_X17_go 66 (S_goto 3) := k_goto dX17_go_66 rfl
theorem r_X17_go_69 (E : ax_EN G l) : ax_Snd G l ax_Ym M_X17_go 69 (S_ret) := k_ret dX17_go_69 rfl
theorem mt_X17_go (E : ax_EN G l) : ax_mt G l ax_Ym (5, P_X17_go) (ax_Ym 287) := ⟨M_X17_go, yX17_go, ⟨rfl, by decide +kernel, rfl, (fun h => by cases h), Or.inl ⟨rfl, rfl⟩⟩, fun pc => (ax_sn_node (ax_sn_node (ax_sn_node (ax_sn_node (ax_sn_node (ax_sn_node (ax_sn_leaf (r_X17_go_69 E)) (ax_sn_leaf (r_X17_go_66 E))) (ax_sn_leaf (r_X17_go_64 E))) (ax_sn_node (ax_sn_leaf (r_X17_go_61 E)) (ax_sn_leaf (r_X17_go_59 E)))) (ax_sn_node (ax_sn_node (ax_sn_leaf (r_X17_go_58 E)) (ax_sn_leaf (r_X17_go_57 E))) (ax_sn_node (ax_sn_leaf (r_X17_go_54 E)) (ax_sn_leaf (r_X17_go_49 E))))) (ax_sn_node (ax_sn_node (ax_sn_node (ax_sn_leaf (r_X17_go_47 E)) (ax_sn_leaf (r_X17_go_44 E))) (ax_sn_node (ax_sn_leaf (r_X17_go_41 E)) (ax_sn_leaf (r_X17_go_40 E)))) (ax_sn_node (ax_sn_node (ax_sn_leaf (r_X17_go_37 E)) (ax_sn_leaf (r_X17_go_35 E))) (ax_sn_node (ax_sn_leaf (r_X17_go_34 E)) (ax_sn_leaf (r_X17_go_33 E)))))) (ax_sn_node (ax_sn_node (ax_sn_node (ax_sn_node (ax_sn_node (ax_sn_leaf (r_X17_go_30 E)) (ax_sn_leaf (r_X17_go_29 E))) (ax_sn_leaf (r_X17_go_26 E))) (ax_sn_node (ax_sn_leaf (r_X17_go_23 E)) (ax_sn_leaf (r_X17_go_20 E)))) (ax_sn_node (ax_sn_node (ax_sn_leaf (r_X17_go_19 E)) (ax_sn_leaf (r_X17_go_16 E))) (ax_sn_node (ax_sn_leaf (r_X17_go_15 E)) (ax_sn_leaf (r_X17_go_14 E))))) (ax_sn_node (ax_sn_node (ax_sn_node (ax_sn_leaf (r_X17_go_11 E)) (ax_sn_leaf (r_X17_go_10 E))) (ax_sn_node (ax_sn_leaf (r_X17_go_9 E)) (ax_sn_leaf (r_X17_go_6 E)))) (ax_sn_node (ax_sn_node (ax_sn_leaf (r_X17_go_5 E)) (ax_sn_leaf (r_X17_go_3 E))) (ax_sn_node (ax_sn_leaf (r_X17_go_1 E)) (ax_sn_leaf (r_X17_go_0 E)))))))⟩
theorem r_X17_define_0 (E : ax_EN G l) : ax_Snd G l ax_Ym M_X17_define 0 (S_aload 0 1) := k_aload_n dX17_define_0 rfl
theorem r_X17_define_1 (E : ax_EN G l) : ax_Snd G l ax_Ym M_X17_define 1 (S_getf [(27, 2), (30, 2)] 4) := k_getf (en_F E) (ax_fes_cons (fe_247 E) (ax_fes_cons (fe_246 E) ax_fes_nil)) q437 dX17_define_1
theorem r_X17_define_4 (E : ax_EN G l) : ax_Snd G l ax_Ym M_X17_define 4 (S_iload 1 5) := k_iload_n dX17_define_4 rfl
theorem r_X17_define_5 (E : ax_EN G l) : ax_Snd G l ax_Ym M_X17_define 5 (S_iald 0 6) := k_iald (en_F E) dX17_define_5
theorem r_X17_define_6 (E : ax_EN G l) : ax_Snd G l ax_Ym M_X17_define 6 (S_push (.int (-1)) 7) := k_iconst dX17_define_6 rfl
theorem r_X17_define_7 (E : ax_EN G l) : ax_Snd G l ax_Ym M_X17_define 7 (S_if2 (fun x y => decide (¬ x = y)) 14 10) := k_icmp_ne dX17_define_7 rfl
theorem r_X17_define_10 (E : ax_EN G l) : ax_Snd G l ax_Ym M_X17_define 10 (S_push (.int (1)) 11) := k_iconst dX17_define_10 rfl
theorem r_X17_define_11 (E : ax_EN G l) : ax_Snd G l ax_Ym M_X17_define 11 (S_goto 15) := k_goto dX17_define_11 rfl
theorem r_X17_define_14 (E : ax_EN G l) : ax_Snd G l ax_Ym M_X17_define 14 (S_push (.int (0)) 15) := k_iconst dX17_define_14 rfl
theorem r_X17_define_15 (E : ax_EN G l) : ax_Snd G l ax_Ym M_X17_define 15 (S_push (.int (3)) 16) := k_iconst dX17_define_15 rfl
theorem r_X17_define_16 (E : ax_EN G l) : ax_Snd G l ax_Ym M_X17_define 16 (S_iload 2 17) := k_iload_n dX17_define_16 rfl
theorem r_X17_define_17 (E : ax_EN G l) : ax_Snd G l ax_Ym M_X17_define 17 (S_is 213 3 20 hd_0) := k_is (en_F E) (ax_ok0 E rfl) ((ev_sN (en_B E) y_X1_check q473 q474 q118 q475 nm_X1_check (Nat.le_of_ble_eq_true rfl) dX17_define_17) : ax_EvS G l ax_Ym M_X17_define 17 213 3 3)
theorem r_X17_define_20 (E : ax_EN G l) : ax_Snd G l ax_Ym M_X17_define 20 (S_iload 2 21) := k_iload_n dX17_define_20 rfl
theorem r_X17_define_21 (E : ax_EN G l) : ax_Snd G l ax_Ym M_X17_define 21 (S_push (.int (1)) 22) := k_iconst dX17_define_21 rfl
theorem r_X17_define_22 (E : ax_EN G l) : ax_Snd G l ax_Ym M_X17_define 22 (S_i2 (fun x y => x + y) 23) := k_iadd dX17_define_22
theorem r_X17_define_23 (E : ax_EN G l) : ax_Snd G l ax_Ym M_X17_define 23 (S_istore 3 24) := k_istore_n dX17_define_23 rfl (Nat.le_of_ble_eq_true rfl)
theorem r_X17_define_24 (E : ax_EN G l) : ax_Snd G l ax_Ym M_X17_define 24 (S_iload 3 25) := k_iload_n dX17_define_24 rfl
theorem r_X17_define_25 (E : ax_EN G l) : ax_Snd G l ax_Ym M_X17_define 25 (S_aload 0 26) := k_aload_n dX17_define_25 rfl
theorem r_X17_define_26 (E : ax_EN G l) : ax_Snd G l ax_Ym M_X17_define 26 (S_getf [(27, 7), (30, 7)] 29) := k_getf (en_F E) (ax_fes_cons (fe_241 E) (ax_fes_cons (fe_240 E) ax_fes_nil)) q442 dX17_define_26
theorem r_X17_define_29 (E : ax_EN G l) : ax_Snd G l ax_Ym M_X17_define 29 (S_getf [(19, 0)] 32) := k_getfN (en_F E) (en_B E) (ax_fes_cons (fe_139 E) ax_fes_nil) q322 dX17_define_29
theorem r_X17_define_32 (E : ax_EN G l) : ax_Snd G l ax_Ym M_X17_define 32 (S_iv [(4, 59)] 0 37 hd_0) := k_iv (en_F E) (ax_ok0 E rfl) (ax_Evs_cons ((ev_f (en_F E) (en_B E) (en_c E (k := 4) rfl) y_J2_size q964 q352 q350 q121 q354 q348 q347 q353 q351 q349 xn_151 (Nat.le_of_ble_eq_true rfl) dX17_define_32) : ax_EvV G l ax_Ym M_X17_define 32 0 5 4 59) ax_Evs_nil)
theorem r_X17_define_37 (E : ax_EN G l) : ax_Snd G l ax_Ym M_X17_define 37 (S_if2 (fun x y => decide (y ≤ x)) 100 40) := k_icmp_ge dX17_define_37 rfl
theorem r_X17_define_40 (E : ax_EN G l) : ax_Snd G l ax_Ym M_X17_define 40 (S_aload 0 41) := k_aload_n dX17_define_40 rfl
theorem r_X17_define_41 (E : ax_EN G l) : ax_Snd G l ax_Ym M_X17_define 41 (S_getf [(27, 7), (30, 7)] 44) := k_getf (en_F E) (ax_fes_cons (fe_241 E) (ax_fes_cons (fe_240 E) ax_fes_nil)) q442 dX17_define_41
theorem r_X17_define_44 (E : ax_EN G l) : ax_Snd G l ax_Ym M_X17_define 44 (S_getf [(19, 0)] 47) := k_getfN (en_F E) (en_B E) (ax_fes_cons (fe_139 E) ax_fes_nil) q322 dX17_define_44
theorem r_X17_define_47 (E : ax_EN G l) : ax_Snd G l ax_Ym M_X17_define 47 (S_iload 3 48) := k_iload_n dX17_define_47 rfl
theorem r_X17_define_48 (E : ax_EN G l) : ax_Snd G l ax_Ym M_X17_define 48 (S_iv [(4, 61)] 1 53 hd_0) := k_iv (en_F E) (ax_ok0 E rfl) (ax_Evs_cons ((ev_f (en_F E) (en_B E) (en_c E (k := 4) rfl) y_J2_get q816 q821 q819 q121 q823 q818 q817 q822 q820 q349 xn_188 (Nat.le_of_ble_eq_true rfl) dX17_define_48) : ax_EvV G l ax_Ym M_X17_define 48 1 5 4 61) ax_Evs_nil)
theorem r_X17_define_53 (E : ax_EN G l) : ax_Snd G l ax_Ym M_X17_define 53 (S_cast [20, 21, 22, 23, 24, 39, 40, 42, 43] 56) := k_cast (en_F E) (en_B E) (cs_262 E) q877 dX17_define_53
theorem r_X17_define_56 (E : ax_EN G l) : ax_Snd G l ax_Ym M_X17_define 56 (S_iv [(20, 492), (21, 492), (22, 492), (23, 276), (24, 492), (39, 492), (40, 492), (42, 492), (43, 492)] 0 59 hd_0) := k_iv (en_F E) (ax_ok0 E rfl) (ax_Evs_cons ((ev_vU (en_c E (k := 20) rfl) y_X4_endsMacro rfl q965 q967 q966 q972 q131 q979 xo_264 (Nat.le_of_ble_eq_true rfl) dX17_define_56) : ax_EvV G l ax_Ym M_X17_define 56 0 3 20 492) (ax_Evs_cons ((ev_vU (en_c E (k := 21) rfl) y_X4_endsMacro rfl q965 q967 q966 q973 q131 q979 xo_264 (Nat.le_of_ble_eq_true rfl) dX17_define_56) : ax_EvV G l ax_Ym M_X17_define 56 0 3 21 492) (ax_Evs_cons ((ev_vU (en_c E (k := 22) rfl) y_X4_endsMacro rfl q965 q967 q966 q974 q131 q979 xo_264 (Nat.le_of_ble_eq_true rfl) dX17_define_56) : ax_EvV G l ax_Ym M_X17_define 56 0 3 22 492) (ax_Evs_cons ((ev_vO (en_c E (k := 23) rfl) y_X13_endsMacro q965 q967 q966 q979 q976 q975 q146 q977 xo_264 (Nat.le_of_ble_eq_true rfl) dX17_define_56) : ax_EvV G l ax_Ym M_X17_define 56 0 3 23 276) (ax_Evs_cons ((ev_vU (en_c E (k := 24) rfl) y_X4_endsMacro rfl q965 q967 q966 q978 q131 q979 xo_264 (Nat.le_of_ble_eq_true rfl) dX17_define_56) : ax_EvV G l ax_Ym M_X17_define 56 0 3 24 492) (ax_Evs_cons ((ev_vU (en_c E (k := 39) rfl) y_X4_endsMacro rfl q965 q967 q966 q968 q131 q979 xo_264 (Nat.le_of_ble_eq_true rfl) dX17_define_56) : ax_EvV G l ax_Ym M_X17_define 56 0 3 39 492) (ax_Evs_cons ((ev_vU (en_c E (k := 40) rfl) y_X4_endsMacro rfl q965 q967 q966 q969 q131 q979 xo_264 (Nat.le_of_ble_eq_true rfl) dX17_define_56) : ax_EvV G l ax_Ym M_X17_define 56 0 3 40 492) (ax_Evs_cons ((ev_vU (en_c E (k := 42) rfl) y_X4_endsMacro rfl q965 q967 q966 q970 q131 q979 xo_264 (Nat.le_of_ble_eq_true rfl) dX17_define_56) : ax_EvV G l ax_Ym M_X17_define 56 0 3 42 492) (ax_Evs_cons ((ev_vU (en_c E (k := 43) rfl) y_X4_endsMacro rfl q965 q967 q966 q971 q131 q979 xo_264 (Nat.le_of_ble_eq_true rfl) dX17_define_56) : ax_EvV G l ax_Ym M_X17_define 56 0 3 43 492) ax_Evs_nil)))))))))
theorem r_X17_define_59 (E : ax_EN G l) : ax_Snd G l ax_Ym M_X17_define 59 (S_if1 (fun x => decide (¬ x = 0)) 100 62) := k_if_ne dX17_define_59 rfl
theorem r_X17_define_62 (E : ax_EN G l) : ax_Snd G l ax_Ym M_X17_define 62 (S_aload 0 63) := k_aload_n dX17_define_62 rfl
theorem r_X17_define_63 (E : ax_EN G l) : ax_Snd G l ax_Ym M_X17_define 63 (S_getf [(27, 7), (30, 7)] 66) := k_getf (en_F E) (ax_fes_cons (fe_241 E) (ax_fes_cons (fe_240 E) ax_fes_nil)) q442 dX17_define_63
theorem r_X17_define_66 (E : ax_EN G l) : ax_Snd G l ax_Ym M_X17_define 66 (S_getf [(19, 0)] 69) := k_getfN (en_F E) (en_B E) (ax_fes_cons (fe_139 E) ax_fes_nil) q322 dX17_define_66
theorem r_X17_define_69 (E : ax_EN G l) : ax_Snd G l ax_Ym M_X17_define 69 (S_iload 3 70) := k_iload_n dX17_define_69 rfl
theorem r_X17_define_70 (E : ax_EN G l) : ax_Snd G l ax_Ym M_X17_define 70 (S_iv [(4, 61)] 1 75 hd_0) := k_iv (en_F E) (ax_ok0 E rfl) (ax_Evs_cons ((ev_f (en_F E) (en_B E) (en_c E (k := 4) rfl) y_J2_get q816 q821 q819 q121 q823 q818 q817 q822 q820 q349 xn_188 (Nat.le_of_ble_eq_true rfl) dX17_define_70) : ax_EvV G l ax_Ym M_X17_define 70 1 5 4 61) ax_Evs_nil)
theorem r_X17_define_75 (E : ax_EN G l) : ax_Snd G l ax_Ym M_X17_define 75 (S_cast [20, 21, 22, 23, 24, 39, 40, 42, 43] 78) := k_cast (en_F E) (en_B E) (cs_262 E) q877 dX17_define_75
theorem r_X17_define_78 (E : ax_EN G l) : ax_Snd G l ax_Ym M_X17_define 78 (S_iv [(20, 493), (21, 493), (22, 274), (23, 493), (24, 493), (39, 493), (40, 493), (42, 493), (43, 493)] 0 81 hd_0) := k_iv (en_F E) (ax_ok0 E rfl) (ax_Evs_cons ((ev_vU (en_c E (k := 20) rfl) y_X4_beginsMacro rfl q980 q982 q981 q987 q131 q994 xo_265 (Nat.le_of_ble_eq_true rfl) dX17_define_78) : ax_EvV G l ax_Ym M_X17_define 78 0 3 20 493) (ax_Evs_cons ((ev_vU (en_c E (k := 21) rfl) y_X4_beginsMacro rfl q980 q982 q981 q988 q131 q994 xo_265 (Nat.le_of_ble_eq_true rfl) dX17_define_78) : ax_EvV G l ax_Ym M_X17_define 78 0 3 21 493) (ax_Evs_cons ((ev_vO (en_c E (k := 22) rfl) y_X12_beginsMacro q980 q982 q981 q994 q990 q989 q145 q991 xo_265 (Nat.le_of_ble_eq_true rfl) dX17_define_78) : ax_EvV G l ax_Ym M_X17_define 78 0 3 22 274) (ax_Evs_cons ((ev_vU (en_c E (k := 23) rfl) y_X4_beginsMacro rfl q980 q982 q981 q992 q131 q994 xo_265 (Nat.le_of_ble_eq_true rfl) dX17_define_78) : ax_EvV G l ax_Ym M_X17_define 78 0 3 23 493) (ax_Evs_cons ((ev_vU (en_c E (k := 24) rfl) y_X4_beginsMacro rfl q980 q982 q981 q993 q131 q994 xo_265 (Nat.le_of_ble_eq_true rfl) dX17_define_78) : ax_EvV G l ax_Ym M_X17_define 78 0 3 24 493) (ax_Evs_cons ((ev_vU (en_c E (k := 39) rfl) y_X4_beginsMacro rfl q980 q982 q981 q983 q131 q994 xo_265 (Nat.le_of_ble_eq_true rfl) dX17_define_78) : ax_EvV G l ax_Ym M_X17_define 78 0 3 39 493) (ax_Evs_cons ((ev_vU (en_c E (k := 40) rfl) y_X4_beginsMacro rfl q980 q982 q981 q984 q131 q994 xo_265 (Nat.le_of_ble_eq_true rfl) dX17_define_78) : ax_EvV G l ax_Ym M_X17_define 78 0 3 40 493) (ax_Evs_cons ((ev_vU (en_c E (k := 42) rfl) y_X4_beginsMacro rfl q980 q982 q981 q985 q131 q994 xo_265 (Nat.le_of_ble_eq_true rfl) dX17_define_78) : ax_EvV G l ax_Ym M_X17_define 78 0 3 42 493) (ax_Evs_cons ((ev_vU (en_c E (k := 43) rfl) y_X4_beginsMacro rfl q980 q982 q981 q986 q131 q994 xo_265 (Nat.le_of_ble_eq_true rfl) dX17_define_78) : ax_EvV G l ax_Ym M_X17_define 78 0 3 43 493) ax_Evs_nil)))))))))
theorem r_X17_define_81 (E : ax_EN G l) : ax_Snd G l ax_Ym M_X17_define 81 (S_if1 (fun x => decide (¬ x = 0)) 88 84) := k_if_ne dX17_define_81 rfl
theorem r_X17_define_84 (E : ax_EN G l) : ax_Snd G l ax_Ym M_X17_define 84 (S_push (.int (1)) 85) := k_iconst dX17_define_84 rfl
theorem r_X17_define_85 (E : ax_EN G l) : ax_Snd G l ax_Ym M_X17_define 85 (S_goto 89) := k_goto dX17_define_85 rfl
theorem r_X17_define_88 (E : ax_EN G l) : ax_Snd G l ax_Ym M_X17_define 88 (S_push (.int (0)) 89) := k_iconst dX17_define_88 rfl
theorem r_X17_define_89 (E : ax_EN G l) : ax_Snd G l ax_Ym M_X17_define 89 (S_push (.int (4)) 90) := k_iconst dX17_define_89 rfl
theorem r_X17_define_90 (E : ax_EN G l) : ax_Snd G l ax_Ym M_X17_define 90 (S_iload 3 91) := k_iload_n dX17_define_90 rfl
theorem r_X17_define_91 (E : ax_EN G l) : ax_Snd G l ax_Ym M_X17_define 91 (S_is 213 3 94 hd_0) := k_is (en_F E) (ax_ok0 E rfl) ((ev_sN (en_B E) y_X1_check q473 q474 q118 q475 nm_X1_check (Nat.le_of_ble_eq_true rfl) dX17_define_91) : ax_EvS G l ax_Ym M_X17_define 91 213 3 3)
theorem r_X17_define_94 (E : ax_EN G l) : ax_Snd G l ax_Ym M_X17_define 94 (S_iinc 3 (1) 97) := k_iinc dX17_define_94 rfl (Nat.le_of_ble_eq_true rfl)
theorem r_X17_define_97 (E : ax_EN G l) : ax_Snd G l ax_Ym M_X17_define 97 (S_goto 24) := k_goto dX17_define_97 rfl
theorem r_X17_define_100 (E : ax_EN G l) : ax_Snd G l ax_Ym M_X17_define 100 (S_iload 3 101) := k_iload_n dX17_define_100 rfl
theorem r_X17_define_101 (E : ax_EN G l) : ax_Snd G l ax_Ym M_X17_define 101 (S_aload 0 102) := k_aload_n dX17_define_101 rfl
theorem r_X17_define_102 (E : ax_EN G l) : ax_Snd G l ax_Ym M_X17_define 102 (S_getf [(27, 7), (30, 7)] 105) := k_getf (en_F E) (ax_fes_cons (fe_241 E) (ax_fes_cons (fe_240 E) ax_fes_nil)) q442 dX17_define_102
theorem r_X17_define_105 (E : ax_EN G l) : ax_Snd G l ax_Ym M_X17_define 105 (S_getf [(19, 0)] 108) := k_getfN (en_F E) (en_B E) (ax_fes_cons (fe_139 E) ax_fes_nil) q322 dX17_define_105
theorem r_X17_define_108 (E : ax_EN G l) : ax_Snd G l ax_Ym M_X17_define 108 (S_iv [(4, 59)] 0 113 hd_0) := k_iv (en_F E) (ax_ok0 E rfl) (ax_Evs_cons ((ev_f (en_F E) (en_B E) (en_c E (k := 4) rfl) y_J2_size q964 q352 q350 q121 q354 q348 q347 q353 q351 q349 xn_151 (Nat.le_of_ble_eq_true rfl) dX17_define_108) : ax_EvV G l ax_Ym M_X17_define 108 0 5 4 59) ax_Evs_nil)
theorem r_X17_define_113 (E : ax_EN G l) : ax_Snd G l ax_Ym M_X17_define 113 (S_if2 (fun x y => decide (y ≤ x)) 120 116) := k_icmp_ge dX17_define_113 rfl
theorem r_X17_define_116 (E : ax_EN G l) : ax_Snd G l ax_Ym M_X17_define 116 (S_push (.int (1)) 117) := k_iconst dX17_define_116 rfl
theorem r_X17_define_117 (E : ax_EN G l) : ax_Snd G l ax_Ym M_X17_define 117 (S_goto 121) := k_goto dX17_define_117 rfl
theorem r_X17_define_120 (E : ax_EN G l) : ax_Snd G l ax_Ym M_X17_define 120 (S_push (.int (0)) 121) := k_iconst dX17_define_120 rfl
theorem r_X17_define_121 (E : ax_EN G l) : ax_Snd G l ax_Ym M_X17_define 121 (S_push (.int (4)) 122) := k_iconst dX17_define_121 rfl
theorem r_X17_define_122 (E : ax_EN G l) : ax_Snd G l ax_Ym M_X17_define 122 (S_iload 2 123) := k_iload_n dX17_define_122 rfl
theorem r_X17_define_123 (E : ax_EN G l) : ax_Snd G l ax_Ym M_X17_define 123 (S_is 213 3 126 hd_0) := k_is (en_F E) (ax_ok0 E rfl) ((ev_sN (en_B E) y_X1_check q473 q474 q118 q475 nm_X1_check (Nat.le_of_ble_eq_true rfl) dX17_define_123) : ax_EvS G l ax_Ym M_X17_define 123 213 3 3)
theorem r_X17_define_126 (E : ax_EN G l) : ax_Snd G l ax_Ym M_X17_define 126 (S_aload 0 127) := k_aload_n dX17_define_126 rfl
theorem r_X17_define_127 (E : ax_EN G l) : ax_Snd G l ax_Ym M_X17_define 127 (S_getf [(27, 2), (30, 2)] 130) := k_getf (en_F E) (ax_fes_cons (fe_247 E) (ax_fes_cons (fe_246 E) ax_fes_nil)) q437 dX17_define_127
theorem r_X17_define_130 (E : ax_EN G l) : ax_Snd G l ax_Ym M_X17_define 130 (S_iload 1 131) := k_iload_n dX17_define_130 rfl
theorem r_X17_define_131 (E : ax_EN G l) : ax_Snd G l ax_Ym M_X17_define 131 (S_iload 2 132) := k_iload_n dX17_define_131 rfl
theorem r_X17_define_132 (E : ax_EN G l) : ax_Snd G l ax_Ym M_X17_define 132 (S_push (.int (1)) 133) := k_iconst dX17_define_132 rfl
theorem r_X17_define_133 (E : ax_EN G l) : ax_Snd G l ax_Ym M_X17_define 133 (S_i2 (fun x y => x + y) 134) := k_iadd dX17_define_133
theorem r_X17_define_134 (E : ax_EN G l) : ax_Snd G l ax_Ym M_X17_define 134 (S_iast 0 (fun x => x) 135) := k_iast (en_F E) dX17_define_134
theorem r_X17_define_135 (E : ax_EN G l) : ax_Snd G l ax_Ym M_X17_define 135 (S_aload 0 136) := k_aload_n dX17_define_135 rfl
theorem r_X17_define_136 (E : ax_EN G l) : ax_Snd G l ax_Ym M_X17_define 136 (S_getf [(27, 3), (30, 3)] 139) := k_getf (en_F E) (ax_fes_cons (fe_251 E) (ax_fes_cons (fe_250 E) ax_fes_nil)) q438 dX17_define_136
theorem r_X17_define_139 (E : ax_EN G l) : ax_Snd G l ax_Ym M_X17_define 139 (S_iload 1 140) := k_iload_n dX17_define_139 rfl
theorem r_X17_define_140 (E : ax_EN G l) : ax_Snd G l ax_Ym M_X17_define 140 (S_iload 3 141) := k_iload_n dX17_define_140 rfl
theorem r_X17_define_141 (E : ax_EN G l) : ax_Snd G l ax_Ym M_X17_define 141 (S_iast 0 (fun x => x) 142) := k_iast (en_F E) dX17_define_141
theorem r_X17_define_142 (E : ax_EN G l) : ax_Snd G l ax_Ym M_X17_define 142 (S_iload 3 143) := k_iload_n dX17_define_142 rfl
theorem r_X17_define_143 (E : ax_EN G l) : ax_Snd G l ax_Ym M_X17_define 143 (S_push (.int (1)) 144) := k_iconst dX17_define_143 rfl
theorem r_X17_define_144 (E : ax_EN G l) : ax_Snd G l ax_Ym M_X17_define 144 (S_i2 (fun x y => x + y) 145) := k_iadd dX17_define_144
theorem r_X17_define_145 (E : ax_EN G l) : ax_Snd G l ax_Ym M_X17_define 145 (S_iret) := k_iret dX17_define_145 rfl
theorem mt_X17_define (E : ax_EN G l) : ax_mt G l ax_Ym (4, P_X17_define) (ax_Ym 288) := ⟨M_X17_define, yX17_define, ⟨rfl, by decide +kernel, rfl, (fun h => by cases h), Or.inl ⟨rfl, rfl⟩⟩, fun pc => (ax_sn_node (ax_sn_node (ax_sn_node (ax_sn_node (ax_sn_node (ax_sn_node (ax_sn_node (ax_sn_leaf (r_X17_define_145 E)) (ax_sn_leaf (r_X17_define_144 E))) (ax_sn_leaf (r_X17_define_143 E))) (ax_sn_node (ax_sn_leaf (r_X17_define_142 E)) (ax_sn_leaf (r_X17_define_141 E)))) (ax_sn_node (ax_sn_node (ax_sn_node (ax_sn_leaf (r_X17_define_140 E)) (ax_sn_leaf (r_X17_define_139 E))) (ax_sn_leaf (r_X17_define_136 E))) (ax_sn_node (ax_sn_leaf (r_X17_define_135 E)) (ax_sn_leaf (r_X17_define_134 E))))) (ax_sn_node (ax_sn_node (ax_sn_node (ax_sn_node (ax_sn_leaf (r_X17_define_133 E)) (ax_sn_leaf (r_X17_define_132 E))) (ax_sn_leaf (r_X17_define_131 E))) (ax_sn_node (ax_sn_leaf (r_X17_define_130 E)) (ax_sn_leaf (r_X17_define_127 E)))) (ax_sn_node (ax_sn_node (ax_sn_leaf (r_X17_define_126 E)) (ax_sn_leaf (r_X17_define_123 E))) (ax_sn_node (ax_sn_leaf (r_X17_define_122 E)) (ax_sn_leaf (r_X17_define_121 E)))))) (ax_sn_node (ax_sn_node (ax_sn_node (ax_sn_node (ax_sn_node (ax_sn_leaf (r_X17_define_120 E)) (ax_sn_leaf (r_X17_define_117 E))) (ax_sn_leaf (r_X17_define_116 E))) (ax_sn_node (ax_sn_leaf (r_X17_define_113 E)) (ax_sn_leaf (r_X17_define_108 E)))) (ax_sn_node (ax_sn_node (ax_sn_leaf (r_X17_define_105 E)) (ax_sn_leaf (r_X17_define_102 E))) (ax_sn_node (ax_sn_leaf (r_X17_define_101 E)) (ax_sn_leaf (r_X17_define_100 E))))) (ax_sn_node (ax_sn_node (ax_sn_node (ax_sn_node (ax_sn_leaf (r_X17_define_97 E)) (ax_sn_leaf (r_X17_define_94 E))) (ax_sn_leaf (r_X17_define_91 E))) (ax_sn_node (ax_sn_leaf (r_X17_define_90 E)) (ax_sn_leaf (r_X17_define_89 E)))) (ax_sn_node (ax_sn_node (ax_sn_leaf (r_X17_define_88 E)) (ax_sn_leaf (r_X17_define_85 E))) (ax_sn_node (ax_sn_leaf (r_X17_define_84 E)) (ax_sn_leaf (r_X17_define_81 E))))))) (ax_sn_node (ax_sn_node (ax_sn_node (ax_sn_node (ax_sn_node (ax_sn_node (ax_sn_leaf (r_X17_define_78 E)) (ax_sn_leaf (r_X17_define_75 E))) (ax_sn_leaf (r_X17_define_70 E))) (ax_sn_node (ax_sn_leaf (r_X17_define_69 E)) (ax_sn_leaf (r_X17_define_66 E)))) (ax_sn_node (ax_sn_node (ax_sn_node (ax_sn_leaf (r_X17_define_63 E)) (ax_sn_leaf (r_X17_define_62 E))) (ax_sn_leaf (r_X17_define_59 E))) (ax_sn_node (ax_sn_leaf (r_X17_define_56 E)) (ax_sn_leaf (r_X17_define_53 E))))) (ax_sn_node (ax_sn_node (ax_sn_node (ax_sn_node (ax_sn_leaf (r_X17_define_48 E)) (ax_sn_leaf (r_X17_define_47 E))) (ax_sn_leaf (r_X17_define_44 E))) (ax_sn_node (ax_sn_leaf (r_X17_define_41 E)) (ax_sn_leaf (r_X17_define_40 E)))) (ax_sn_node (ax_sn_node (ax_sn_leaf (r_X17_define_37 E)) (ax_sn_leaf (r_X17_define_32 E))) (ax_sn_node (ax_sn_leaf (r_X17_define_29 E)) (ax_sn_leaf (r_X17_define_26 E)))))) (ax_sn_node (ax_sn_node (ax_sn_node (ax_sn_node (ax_sn_node (ax_sn_leaf (r_X17_define_25 E)) (ax_sn_leaf (r_X17_define_24 E))) (ax_sn_leaf (r_X17_define_23 E))) (ax_sn_node (ax_sn_leaf (r_X17_define_22 E)) (ax_sn_leaf (r_X17_define_21 E)))) (ax_sn_node (ax_sn_node (ax_sn_leaf (r_X17_define_20 E)) (ax_sn_leaf (r_X17_define_17 E))) (ax_sn_node (ax_sn_leaf (r_X17_define_16 E)) (ax_sn_leaf (r_X17_define_15 E))))) (ax_sn_node (ax_sn_node (ax_sn_node (ax_sn_node (ax_sn_leaf (r_X17_define_14 E)) (ax_sn_leaf (r_X17_define_11 E))) (ax_sn_leaf (r_X17_define_10 E))) (ax_sn_node (ax_sn_leaf (r_X17_define_7 E)) (ax_sn_leaf (r_X17_define_6 E)))) (ax_sn_node (ax_sn_node (ax_sn_leaf (r_X17_define_5 E)) (ax_sn_leaf (r_X17_define_4 E))) (ax_sn_node (ax_sn_leaf (r_X17_define_1 E)) (ax_sn_leaf (r_X17_define_0 E))))))))⟩
end ROW
