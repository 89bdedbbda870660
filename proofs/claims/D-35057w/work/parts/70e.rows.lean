set_option maxRecDepth 100000
section ROW
variable {G : ax_G} {l : Launch}
theorem r_X2_told_0 (E : ax_EN G l) : ax_Snd G l ax_Ym M_X2_told 0 (S_push (.int (0)) 1) := k_iconst dX2_told_0 rfl
theorem r_X2_told_1 (E : ax_EN G l) : ax_Snd G l ax_Ym M_X2_told 1 (S_istore 3 2) := k_istore_n dX2_told_1 rfl (Nat.le_of_ble_eq_true rfl)
theorem r_X2_told_2 (E : ax_EN G l) : ax_Snd G l ax_Ym M_X2_told 2 (S_push (.int (0)) 3) := k_iconst dX2_told_2 rfl
theorem r_X2_told_3 (E : ax_EN G l) : ax_Snd G l ax_Ym M_X2_told 3 (S_istore 4 5) := k_istore dX2_told_3 (Nat.le_of_ble_eq_true rfl)
theorem r_X2_told_5 (E : ax_EN G l) : ax_Snd G l ax_Ym M_X2_told 5 (S_iload 4 7) := k_iload dX2_told_5
theorem r_X2_told_7 (E : ax_EN G l) : ax_Snd G l ax_Ym M_X2_told 7 (S_aload 0 8) := k_aload_n dX2_told_7 rfl
theorem r_X2_told_8 (E : ax_EN G l) : ax_Snd G l ax_Ym M_X2_told 8 (S_getf [(29, 1)] 11) := k_getf (en_F E) (ax_fes_cons (fe_183 E) ax_fes_nil) q286 dX2_told_8
theorem r_X2_told_11 (E : ax_EN G l) : ax_Snd G l ax_Ym M_X2_told 11 (S_iv [(15, 125)] 0 14 hd_0) := k_iv (en_F E) (ax_ok0 E rfl) (ax_Evs_cons ((ev_v (en_c E (k := 15) rfl) rfl y_J4_size q2220 q358 q3460 q124 q360 nm_J4_size (Nat.le_of_ble_eq_true rfl) dX2_told_11) : ax_EvV G l ax_Ym M_X2_told 11 0 3 15 125) ax_Evs_nil)
theorem r_X2_told_14 (E : ax_EN G l) : ax_Snd G l ax_Ym M_X2_told 14 (S_if2 (fun x y => decide (y ≤ x)) 60 17) := k_icmp_ge dX2_told_14 rfl
theorem r_X2_told_17 (E : ax_EN G l) : ax_Snd G l ax_Ym M_X2_told 17 (S_aload 0 18) := k_aload_n dX2_told_17 rfl
theorem r_X2_told_18 (E : ax_EN G l) : ax_Snd G l ax_Ym M_X2_told 18 (S_getf [(29, 1)] 21) := k_getf (en_F E) (ax_fes_cons (fe_183 E) ax_fes_nil) q286 dX2_told_18
theorem r_X2_told_21 (E : ax_EN G l) : ax_Snd G l ax_Ym M_X2_told 21 (S_iload 4 23) := k_iload dX2_told_21
theorem r_X2_told_23 (E : ax_EN G l) : ax_Snd G l ax_Ym M_X2_told 23 (S_iv [(15, 127)] 1 26 hd_0) := k_iv (en_F E) (ax_ok0 E rfl) (ax_Evs_cons ((ev_v (en_c E (k := 15) rfl) rfl y_J4_get q2221 q836 q3461 q124 q838 nm_J4_get (Nat.le_of_ble_eq_true rfl) dX2_told_23) : ax_EvV G l ax_Ym M_X2_told 23 1 3 15 127) ax_Evs_nil)
theorem r_X2_told_26 (E : ax_EN G l) : ax_Snd G l ax_Ym M_X2_told 26 (S_cast [36] 29) := k_cast (en_F E) (en_B E) (cs_315 E) q2222 dX2_told_26
theorem r_X2_told_29 (E : ax_EN G l) : ax_Snd G l ax_Ym M_X2_told 29 (S_getf [(36, 0)] 32) := k_getfN (en_F E) (en_B E) (ax_fes_cons (fe_317 E) ax_fes_nil) q2403 dX2_told_29
theorem r_X2_told_32 (E : ax_EN G l) : ax_Snd G l ax_Ym M_X2_told 32 (S_istore 5 34) := k_istore dX2_told_32 (Nat.le_of_ble_eq_true rfl)
theorem r_X2_told_34 (E : ax_EN G l) : ax_Snd G l ax_Ym M_X2_told 34 (S_iload 3 35) := k_iload_n dX2_told_34 rfl
theorem r_X2_told_35 (E : ax_EN G l) : ax_Snd G l ax_Ym M_X2_told 35 (S_iload 5 37) := k_iload dX2_told_35
theorem r_X2_told_37 (E : ax_EN G l) : ax_Snd G l ax_Ym M_X2_told 37 (S_iload 1 38) := k_iload_n dX2_told_37 rfl
theorem r_X2_told_38 (E : ax_EN G l) : ax_Snd G l ax_Ym M_X2_told 38 (S_if2 (fun x y => decide (x < y)) 51 41) := k_icmp_lt dX2_told_38 rfl
theorem r_X2_told_41 (E : ax_EN G l) : ax_Snd G l ax_Ym M_X2_told 41 (S_iload 5 43) := k_iload dX2_told_41
theorem r_X2_told_43 (E : ax_EN G l) : ax_Snd G l ax_Ym M_X2_told 43 (S_iload 2 44) := k_iload_n dX2_told_43 rfl
theorem r_X2_told_44 (E : ax_EN G l) : ax_Snd G l ax_Ym M_X2_told 44 (S_if2 (fun x y => decide (y < x)) 51 47) := k_icmp_gt dX2_told_44 rfl
theorem r_X2_told_47 (E : ax_EN G l) : ax_Snd G l ax_Ym M_X2_told 47 (S_push (.int (1)) 48) := k_iconst dX2_told_47 rfl
theorem r_X2_told_48 (E : ax_EN G l) : ax_Snd G l ax_Ym M_X2_told 48 (S_goto 52) := k_goto dX2_told_48 rfl
theorem r_X2_told_51 (E : ax_EN G l) : ax_Snd G l ax_Ym M_X2_told 51 (S_push (.int (0)) 52) := k_iconst dX2_told_51 rfl
theorem r_X2_told_52 (E : ax_EN G l) : ax_Snd G l ax_Ym M_X2_told 52 (S_i2 (fun x y => x + y) 53) := k_iadd dX2_told_52
theorem r_X2_told_53 (E : ax_EN G l) : ax_Snd G l ax_Ym M_X2_told 53 (S_istore 3 54) := k_istore_n dX2_told_53 rfl (Nat.le_of_ble_eq_true rfl)
theorem r_X2_told_54 (E : ax_EN G l) : ax_Snd G l ax_Ym M_X2_told 54 (S_iinc 4 (1) 57) := k_iinc dX2_told_54 rfl (Nat.le_of_ble_eq_true rfl)
theorem r_X2_told_57 (E : ax_EN G l) : ax_Snd G l ax_Ym M_X2_told 57 (S_goto 5) := k_goto dX2_told_57 rfl
theorem r_X2_told_60 (E : ax_EN G l) : ax_Snd G l ax_Ym M_X2_told 60 (S_iload 3 61) := k_iload_n dX2_told_60 rfl
theorem r_X2_told_61 (E : ax_EN G l) : ax_Snd G l ax_Ym M_X2_told 61 (S_iret) := k_iret dX2_told_61 rfl
theorem mt_X2_told (E : ax_EN G l) : ax_mt G l ax_Ym (6, P_X2_told) (ax_Ym 334) := ⟨M_X2_told, yX2_told, ⟨rfl, by decide +kernel, rfl, (fun h => by cases h), Or.inl ⟨rfl, rfl⟩⟩, fun pc => (ax_sn_node (ax_sn_node (ax_sn_node (ax_sn_node (ax_sn_node (ax_sn_leaf (r_X2_told_61 E)) (ax_sn_leaf (r_X2_told_60 E))) (ax_sn_node (ax_sn_leaf (r_X2_told_57 E)) (ax_sn_leaf (r_X2_told_54 E)))) (ax_sn_node (ax_sn_node (ax_sn_leaf (r_X2_told_53 E)) (ax_sn_leaf (r_X2_told_52 E))) (ax_sn_node (ax_sn_leaf (r_X2_told_51 E)) (ax_sn_leaf (r_X2_told_48 E))))) (ax_sn_node (ax_sn_node (ax_sn_node (ax_sn_leaf (r_X2_told_47 E)) (ax_sn_leaf (r_X2_told_44 E))) (ax_sn_node (ax_sn_leaf (r_X2_told_43 E)) (ax_sn_leaf (r_X2_told_41 E)))) (ax_sn_node (ax_sn_node (ax_sn_leaf (r_X2_told_38 E)) (ax_sn_leaf (r_X2_told_37 E))) (ax_sn_node (ax_sn_leaf (r_X2_told_35 E)) (ax_sn_leaf (r_X2_told_34 E)))))) (ax_sn_node (ax_sn_node (ax_sn_node (ax_sn_node (ax_sn_leaf (r_X2_told_32 E)) (ax_sn_leaf (r_X2_told_29 E))) (ax_sn_node (ax_sn_leaf (r_X2_told_26 E)) (ax_sn_leaf (r_X2_told_23 E)))) (ax_sn_node (ax_sn_node (ax_sn_leaf (r_X2_told_21 E)) (ax_sn_leaf (r_X2_told_18 E))) (ax_sn_node (ax_sn_leaf (r_X2_told_17 E)) (ax_sn_leaf (r_X2_told_14 E))))) (ax_sn_node (ax_sn_node (ax_sn_node (ax_sn_leaf (r_X2_told_11 E)) (ax_sn_leaf (r_X2_told_8 E))) (ax_sn_node (ax_sn_leaf (r_X2_told_7 E)) (ax_sn_leaf (r_X2_told_5 E)))) (ax_sn_node (ax_sn_node (ax_sn_leaf (r_X2_told_3 E)) (ax_sn_leaf (r_X2_told_2 E))) (ax_sn_node (ax_sn_leaf (r_X2_told_1 E)) (ax_sn_leaf (r_X2_told_0 E)))))))⟩
theorem r_X2_call_0 (E : ax_EN G l) : ax_Snd G l ax_Ym M_X2_call 0 (S_aload 0 1) := k_aload_n dX2_call_0 rfl
theorem r_X2_call_1 (E : ax_EN G l) : ax_Snd G l ax_Ym M_X2_call 1 (S_push (.int (0)) 2) := k_iconst dX2_call_1 rfl
theorem r_X2_call_2 (E : ax_EN G l) : ax_Snd G l ax_Ym M_X2_call 2 (S_putf [(29, 9)] (.int) 5) := k_putf (en_F E) (en_P E) (ax_fes_cons (fe_318 E) ax_fes_nil) (ax_fps_cons (fp_319 E) ax_fps_nil) q296 dX2_call_2
theorem r_X2_call_5 (E : ax_EN G l) : ax_Snd G l ax_Ym M_X2_call 5 (S_aload 0 6) := k_aload_n dX2_call_5 rfl
theorem r_X2_call_6 (E : ax_EN G l) : ax_Snd G l ax_Ym M_X2_call 6 (S_iload 1 7) := k_iload_n dX2_call_6 rfl
theorem r_X2_call_7 (E : ax_EN G l) : ax_Snd G l ax_Ym M_X2_call 7 (S_iv [(29, 336)] 1 10 hd_0) := k_iv (en_F E) (ax_ok0 E rfl) (ax_Evs_cons ((ev_v (en_c E (k := 29) rfl) rfl y_X2_plan q2243 q2245 qs45 q122 q2246 nm_X2_plan (Nat.le_of_ble_eq_true rfl) dX2_call_7) : ax_EvV G l ax_Ym M_X2_call 7 1 3 29 336) ax_Evs_nil)
theorem r_X2_call_10 (E : ax_EN G l) : ax_Snd G l ax_Ym M_X2_call 10 (S_istore 2 11) := k_istore_n dX2_call_10 rfl (Nat.le_of_ble_eq_true rfl)
theorem r_X2_call_11 (E : ax_EN G l) : ax_Snd G l ax_Ym M_X2_call 11 (S_aload 0 12) := k_aload_n dX2_call_11 rfl
theorem r_X2_call_12 (E : ax_EN G l) : ax_Snd G l ax_Ym M_X2_call 12 (S_getf [(29, 9)] 15) := k_getf (en_F E) (ax_fes_cons (fe_318 E) ax_fes_nil) q296 dX2_call_12
theorem r_X2_call_15 (E : ax_EN G l) : ax_Snd G l ax_Ym M_X2_call 15 (S_if1 (fun x => decide (¬ x = 0)) 27 18) := k_if_ne dX2_call_15 rfl
theorem r_X2_call_18 (E : ax_EN G l) : ax_Snd G l ax_Ym M_X2_call 18 (S_aload 0 19) := k_aload_n dX2_call_18 rfl
theorem r_X2_call_19 (E : ax_EN G l) : ax_Snd G l ax_Ym M_X2_call 19 (S_push (.int (15)) 21) := k_bipush dX2_call_19 rfl
theorem r_X2_call_21 (E : ax_EN G l) : ax_Snd G l ax_Ym M_X2_call 21 (S_iload 2 22) := k_iload_n dX2_call_21 rfl
theorem r_X2_call_22 (E : ax_EN G l) : ax_Snd G l ax_Ym M_X2_call 22 (S_iv [(29, 320)] 2 25 hd_0) := k_iv (en_F E) (ax_ok0 E rfl) (ax_Evs_cons ((ev_v (en_c E (k := 29) rfl) rfl y_X2_set q2095 q2097 qs30 q122 q2098 nm_X2_set (Nat.le_of_ble_eq_true rfl) dX2_call_22) : ax_EvV G l ax_Ym M_X2_call 22 2 3 29 320) ax_Evs_nil)
theorem r_X2_call_25 (E : ax_EN G l) : ax_Snd G l ax_Ym M_X2_call 25 (S_push (.int (1)) 26) := k_iconst dX2_call_25 rfl
theorem r_X2_call_26 (E : ax_EN G l) : ax_Snd G l ax_Ym M_X2_call 26 (S_zret) := k_zret dX2_call_26 rfl
theorem r_X2_call_27 (E : ax_EN G l) : ax_Snd G l ax_Ym M_X2_call 27 (S_aload 0 28) := k_aload_n dX2_call_27 rfl
theorem r_X2_call_28 (E : ax_EN G l) : ax_Snd G l ax_Ym M_X2_call 28 (S_push (.int (18)) 30) := k_bipush dX2_call_28 rfl
theorem r_X2_call_30 (E : ax_EN G l) : ax_Snd G l ax_Ym M_X2_call 30 (S_aload 0 31) := k_aload_n dX2_call_30 rfl
theorem r_X2_call_31 (E : ax_EN G l) : ax_Snd G l ax_Ym M_X2_call 31 (S_getf [(29, 9)] 34) := k_getf (en_F E) (ax_fes_cons (fe_318 E) ax_fes_nil) q296 dX2_call_31
theorem r_X2_call_34 (E : ax_EN G l) : ax_Snd G l ax_Ym M_X2_call 34 (S_iv [(29, 320)] 2 37 hd_0) := k_iv (en_F E) (ax_ok0 E rfl) (ax_Evs_cons ((ev_v (en_c E (k := 29) rfl) rfl y_X2_set q2095 q2097 qs30 q122 q2098 nm_X2_set (Nat.le_of_ble_eq_true rfl) dX2_call_34) : ax_EvV G l ax_Ym M_X2_call 34 2 3 29 320) ax_Evs_nil)
theorem r_X2_call_37 (E : ax_EN G l) : ax_Snd G l ax_Ym M_X2_call 37 (S_aload 0 38) := k_aload_n dX2_call_37 rfl
theorem r_X2_call_38 (E : ax_EN G l) : ax_Snd G l ax_Ym M_X2_call 38 (S_push (.int (19)) 40) := k_bipush dX2_call_38 rfl
theorem r_X2_call_40 (E : ax_EN G l) : ax_Snd G l ax_Ym M_X2_call 40 (S_push (.int (0)) 41) := k_iconst dX2_call_40 rfl
theorem r_X2_call_41 (E : ax_EN G l) : ax_Snd G l ax_Ym M_X2_call 41 (S_iv [(29, 320)] 2 44 hd_0) := k_iv (en_F E) (ax_ok0 E rfl) (ax_Evs_cons ((ev_v (en_c E (k := 29) rfl) rfl y_X2_set q2095 q2097 qs30 q122 q2098 nm_X2_set (Nat.le_of_ble_eq_true rfl) dX2_call_41) : ax_EvV G l ax_Ym M_X2_call 41 2 3 29 320) ax_Evs_nil)
theorem r_X2_call_44 (E : ax_EN G l) : ax_Snd G l ax_Ym M_X2_call 44 (S_push (.int (0)) 45) := k_iconst dX2_call_44 rfl
theorem r_X2_call_45 (E : ax_EN G l) : ax_Snd G l ax_Ym M_X2_call 45 (S_istore 3 46) := k_istore_n dX2_call_45 rfl (Nat.le_of_ble_eq_true rfl)
theorem r_X2_call_46 (E : ax_EN G l) : ax_Snd G l ax_Ym M_X2_call 46 (S_iload 3 47) := k_iload_n dX2_call_46 rfl
theorem r_X2_call_47 (E : ax_EN G l) : ax_Snd G l ax_Ym M_X2_call 47 (S_push (.int (3)) 48) := k_iconst dX2_call_47 rfl
theorem r_X2_call_48 (E : ax_EN G l) : ax_Snd G l ax_Ym M_X2_call 48 (S_if2 (fun x y => decide (y ≤ x)) 130 51) := k_icmp_ge dX2_call_48 rfl
theorem r_X2_call_51 (E : ax_EN G l) : ax_Snd G l ax_Ym M_X2_call 51 (S_aload 0 52) := k_aload_n dX2_call_51 rfl
theorem r_X2_call_52 (E : ax_EN G l) : ax_Snd G l ax_Ym M_X2_call 52 (S_push (.int (20)) 54) := k_bipush dX2_call_52 rfl
theorem r_X2_call_54 (E : ax_EN G l) : ax_Snd G l ax_Ym M_X2_call 54 (S_iload 3 55) := k_iload_n dX2_call_54 rfl
theorem r_X2_call_55 (E : ax_EN G l) : ax_Snd G l ax_Ym M_X2_call 55 (S_i2 (fun x y => x + y) 56) := k_iadd dX2_call_55
theorem r_X2_call_56 (E : ax_EN G l) : ax_Snd G l ax_Ym M_X2_call 56 (S_iload 3 57) := k_iload_n dX2_call_56 rfl
theorem r_X2_call_57 (E : ax_EN G l) : ax_Snd G l ax_Ym M_X2_call 57 (S_aload 0 58) := k_aload_n dX2_call_57 rfl
theorem r_X2_call_58 (E : ax_EN G l) : ax_Snd G l ax_Ym M_X2_call 58 (S_getf [(29, 9)] 61) := k_getf (en_F E) (ax_fes_cons (fe_318 E) ax_fes_nil) q296 dX2_call_58
theorem r_X2_call_61 (E : ax_EN G l) : ax_Snd G l ax_Ym M_X2_call 61 (S_if2 (fun x y => decide (y ≤ x)) 73 64) := k_icmp_ge dX2_call_61 rfl
theorem r_X2_call_64 (E : ax_EN G l) : ax_Snd G l ax_Ym M_X2_call 64 (S_aload 0 65) := k_aload_n dX2_call_64 rfl
theorem r_X2_call_65 (E : ax_EN G l) : ax_Snd G l ax_Ym M_X2_call 65 (S_getf [(29, 7)] 68) := k_getf (en_F E) (ax_fes_cons (fe_295 E) ax_fes_nil) q294 dX2_call_65
theorem r_X2_call_68 (E : ax_EN G l) : ax_Snd G l ax_Ym M_X2_call 68 (S_iload 3 69) := k_iload_n dX2_call_68 rfl
theorem r_X2_call_69 (E : ax_EN G l) : ax_Snd G l ax_Ym M_X2_call 69 (S_iald 0 70) := k_iald (en_F E) dX2_call_69
theorem r_X2_call_70 (E : ax_EN G l) : ax_Snd G l ax_Ym M_X2_call 70 (S_goto 74) := k_goto dX2_call_70 rfl
theorem r_X2_call_73 (E : ax_EN G l) : ax_Snd G l ax_Ym M_X2_call 73 (S_push (.int (0)) 74) := k_iconst dX2_call_73 rfl
theorem r_X2_call_74 (E : ax_EN G l) : ax_Snd G l ax_Ym M_X2_call 74 (S_iv [(29, 320)] 2 77 hd_0) := k_iv (en_F E) (ax_ok0 E rfl) (ax_Evs_cons ((ev_v (en_c E (k := 29) rfl) rfl y_X2_set q2095 q2097 qs30 q122 q2098 nm_X2_set (Nat.le_of_ble_eq_true rfl) dX2_call_74) : ax_EvV G l ax_Ym M_X2_call 74 2 3 29 320) ax_Evs_nil)
theorem r_X2_call_77 (E : ax_EN G l) : ax_Snd G l ax_Ym M_X2_call 77 (S_push (.int (0)) 78) := k_iconst dX2_call_77 rfl
theorem r_X2_call_78 (E : ax_EN G l) : ax_Snd G l ax_Ym M_X2_call 78 (S_istore 4 80) := k_istore dX2_call_78 (Nat.le_of_ble_eq_true rfl)
theorem r_X2_call_80 (E : ax_EN G l) : ax_Snd G l ax_Ym M_X2_call 80 (S_iload 3 81) := k_iload_n dX2_call_80 rfl
theorem r_X2_call_81 (E : ax_EN G l) : ax_Snd G l ax_Ym M_X2_call 81 (S_aload 0 82) := k_aload_n dX2_call_81 rfl
theorem r_X2_call_82 (E : ax_EN G l) : ax_Snd G l ax_Ym M_X2_call 82 (S_getf [(29, 9)] 85) := k_getf (en_F E) (ax_fes_cons (fe_318 E) ax_fes_nil) q296 dX2_call_82
theorem r_X2_call_85 (E : ax_EN G l) : ax_Snd G l ax_Ym M_X2_call 85 (S_if2 (fun x y => decide (y ≤ x)) 124 88) := k_icmp_ge dX2_call_85 rfl
theorem r_X2_call_88 (E : ax_EN G l) : ax_Snd G l ax_Ym M_X2_call 88 (S_iload 4 90) := k_iload dX2_call_88
theorem r_X2_call_90 (E : ax_EN G l) : ax_Snd G l ax_Ym M_X2_call 90 (S_push (.int (8)) 92) := k_bipush dX2_call_90 rfl
theorem r_X2_call_92 (E : ax_EN G l) : ax_Snd G l ax_Ym M_X2_call 92 (S_if2 (fun x y => decide (y ≤ x)) 124 95) := k_icmp_ge dX2_call_92 rfl
theorem r_X2_call_95 (E : ax_EN G l) : ax_Snd G l ax_Ym M_X2_call 95 (S_aload 0 96) := k_aload_n dX2_call_95 rfl
theorem r_X2_call_96 (E : ax_EN G l) : ax_Snd G l ax_Ym M_X2_call 96 (S_push (.int (24)) 98) := k_bipush dX2_call_96 rfl
theorem r_X2_call_98 (E : ax_EN G l) : ax_Snd G l ax_Ym M_X2_call 98 (S_push (.int (8)) 100) := k_bipush dX2_call_98 rfl
theorem r_X2_call_100 (E : ax_EN G l) : ax_Snd G l ax_Ym M_X2_call 100 (S_iload 3 101) := k_iload_n dX2_call_100 rfl
theorem r_X2_call_101 (E : ax_EN G l) : ax_Snd G l ax_Ym M_X2_call 101 (S_i2 (fun x y => x * y) 102) := k_imul dX2_call_101
theorem r_X2_call_102 (E : ax_EN G l) : ax_Snd G l ax_Ym M_X2_call 102 (S_i2 (fun x y => x + y) 103) := k_iadd dX2_call_102
theorem r_X2_call_103 (E : ax_EN G l) : ax_Snd G l ax_Ym M_X2_call 103 (S_iload 4 105) := k_iload dX2_call_103
theorem r_X2_call_105 (E : ax_EN G l) : ax_Snd G l ax_Ym M_X2_call 105 (S_i2 (fun x y => x + y) 106) := k_iadd dX2_call_105
theorem r_X2_call_106 (E : ax_EN G l) : ax_Snd G l ax_Ym M_X2_call 106 (S_aload 0 107) := k_aload_n dX2_call_106 rfl
theorem r_X2_call_107 (E : ax_EN G l) : ax_Snd G l ax_Ym M_X2_call 107 (S_getf [(29, 8)] 110) := k_getf (en_F E) (ax_fes_cons (fe_297 E) ax_fes_nil) q295 dX2_call_107
theorem r_X2_call_110 (E : ax_EN G l) : ax_Snd G l ax_Ym M_X2_call 110 (S_iload 3 111) := k_iload_n dX2_call_110 rfl
theorem r_X2_call_111 (E : ax_EN G l) : ax_Snd G l ax_Ym M_X2_call 111 (S_aald 5 112) := k_aald (en_F E) rfl dX2_call_111
theorem r_X2_call_112 (E : ax_EN G l) : ax_Snd G l ax_Ym M_X2_call 112 (S_iload 4 114) := k_iload dX2_call_112
theorem r_X2_call_114 (E : ax_EN G l) : ax_Snd G l ax_Ym M_X2_call 114 (S_iald 0 115) := k_iald (en_F E) dX2_call_114
theorem r_X2_call_115 (E : ax_EN G l) : ax_Snd G l ax_Ym M_X2_call 115 (S_iv [(29, 320)] 2 118 hd_0) := k_iv (en_F E) (ax_ok0 E rfl) (ax_Evs_cons ((ev_v (en_c E (k := 29) rfl) rfl y_X2_set q2095 q2097 qs30 q122 q2098 nm_X2_set (Nat.le_of_ble_eq_true rfl) dX2_call_115) : ax_EvV G l ax_Ym M_X2_call 115 2 3 29 320) ax_Evs_nil)
theorem r_X2_call_118 (E : ax_EN G l) : ax_Snd G l ax_Ym M_X2_call 118 (S_iinc 4 (1) 121) := k_iinc dX2_call_118 rfl (Nat.le_of_ble_eq_true rfl)
theorem r_X2_call_121 (E : ax_EN G l) : ax_Snd G l ax_Ym M_X2_call 121 (S_goto 80) := k_goto dX2_call_121 rfl
theorem r_X2_call_124 (E : ax_EN G l) : ax_Snd G l ax_Ym M_X2_call 124 (S_iinc 3 (1) 127) := k_iinc dX2_call_124 rfl (Nat.le_of_ble_eq_true rfl)
theorem r_X2_call_127 (E : ax_EN G l) : ax_Snd G l ax_Ym M_X2_call 127 (S_goto 46) := k_goto dX2_call_127 rfl
theorem r_X2_call_130 (E : ax_EN G l) : ax_Snd G l ax_Ym M_X2_call 130 (S_push (.int (0)) 131) := k_iconst dX2_call_130 rfl
theorem r_X2_call_131 (E : ax_EN G l) : ax_Snd G l ax_Ym M_X2_call 131 (S_zret) := k_zret dX2_call_131 rfl
theorem mt_X2_call (E : ax_EN G l) : ax_mt G l ax_Ym (5, P_X2_call) (ax_Ym 335) := ⟨M_X2_call, yX2_call, ⟨rfl, by decide +kernel, rfl, (fun h => by cases h), Or.inl ⟨rfl, rfl⟩⟩, fun pc => (ax_sn_node (ax_sn_node (ax_sn_node (ax_sn_node (ax_sn_node (ax_sn_node (ax_sn_node (ax_sn_leaf (r_X2_call_131 E)) (ax_sn_leaf (r_X2_call_130 E))) (ax_sn_leaf (r_X2_call_127 E))) (ax_sn_node (ax_sn_leaf (r_X2_call_124 E)) (ax_sn_leaf (r_X2_call_121 E)))) (ax_sn_node (ax_sn_node (ax_sn_node (ax_sn_leaf (r_X2_call_118 E)) (ax_sn_leaf (r_X2_call_115 E))) (ax_sn_leaf (r_X2_call_114 E))) (ax_sn_node (ax_sn_leaf (r_X2_call_112 E)) (ax_sn_leaf (r_X2_call_111 E))))) (ax_sn_node (ax_sn_node (ax_sn_node (ax_sn_node (ax_sn_leaf (r_X2_call_110 E)) (ax_sn_leaf (r_X2_call_107 E))) (ax_sn_leaf (r_X2_call_106 E))) (ax_sn_node (ax_sn_leaf (r_X2_call_105 E)) (ax_sn_leaf (r_X2_call_103 E)))) (ax_sn_node (ax_sn_node (ax_sn_leaf (r_X2_call_102 E)) (ax_sn_leaf (r_X2_call_101 E))) (ax_sn_node (ax_sn_leaf (r_X2_call_100 E)) (ax_sn_leaf (r_X2_call_98 E)))))) (ax_sn_node (ax_sn_node (ax_sn_node (ax_sn_node (ax_sn_node (ax_sn_leaf (r_X2_call_96 E)) (ax_sn_leaf (r_X2_call_95 E))) (ax_sn_leaf (r_X2_call_92 E))) (ax_sn_node (ax_sn_leaf (r_X2_call_90 E)) (ax_sn_leaf (r_X2_call_88 E)))) (ax_sn_node (ax_sn_node (ax_sn_node (ax_sn_leaf (r_X2_call_85 E)) (ax_sn_leaf (r_X2_call_82 E))) (ax_sn_leaf (r_X2_call_81 E))) (ax_sn_node (ax_sn_leaf (r_X2_call_80 E)) (ax_sn_leaf (r_X2_call_78 E))))) (ax_sn_node (ax_sn_node (ax_sn_node (ax_sn_node (ax_sn_leaf (r_X2_call_77 E)) (ax_sn_leaf (r_X2_call_74 E))) (ax_sn_leaf (r_X2_call_73 E))) (ax_sn_node (ax_sn_leaf (r_X2_call_70 E)) (ax_sn_leaf (r_X2_call_69 E)))) (ax_sn_node (ax_sn_node (ax_sn_leaf (r_X2_call_68 E)) (ax_sn_leaf (r_X2_call_65 E))) (ax_sn_node (ax_sn_leaf (r_X2_call_64 E)) (ax_sn_leaf (r_X2_call_61 E))))))) (ax_sn_node (ax_sn_node (ax_sn_node (ax_sn_node (ax_sn_node (ax_sn_node (ax_sn_leaf (r_X2_call_58 E)) (ax_sn_leaf (r_X2_call_57 E))) (ax_sn_leaf (r_X2_call_56 E))) (ax_sn_node (ax_sn_leaf (r_X2_call_55 E)) (ax_sn_leaf (r_X2_call_54 E)))) (ax_sn_node (ax_sn_node (ax_sn_node (ax_sn_leaf (r_X2_call_52 E)) (ax_sn_leaf (r_X2_call_51 E))) (ax_sn_leaf (r_X2_call_48 E))) (ax_sn_node (ax_sn_leaf (r_X2_call_47 E)) (ax_sn_leaf (r_X2_call_46 E))))) (ax_sn_node (ax_sn_node (ax_sn_node (ax_sn_node (ax_sn_leaf (r_X2_call_45 E)) (ax_sn_leaf (r_X2_call_44 E))) (ax_sn_leaf (r_X2_call_41 E))) (ax_sn_node (ax_sn_leaf (r_X2_call_40 E)) (ax_sn_leaf (r_X2_call_38 E)))) (ax_sn_node (ax_sn_node (ax_sn_leaf (r_X2_call_37 E)) (ax_sn_leaf (r_X2_call_34 E))) (ax_sn_node (ax_sn_leaf (r_X2_call_31 E)) (ax_sn_leaf (r_X2_call_30 E)))))) (ax_sn_node (ax_sn_node (ax_sn_node (ax_sn_node (ax_sn_node (ax_sn_leaf (r_X2_call_28 E)) (ax_sn_leaf (r_X2_call_27 E))) (ax_sn_leaf (r_X2_call_26 E))) (ax_sn_node (ax_sn_leaf (r_X2_call_25 E)) (ax_sn_leaf (r_X2_call_22 E)))) (ax_sn_node (ax_sn_node (ax_sn_leaf (r_X2_call_21 E)) (ax_sn_leaf (r_X2_call_19 E))) (ax_sn_node (ax_sn_leaf (r_X2_call_18 E)) (ax_sn_leaf (r_X2_call_15 E))))) (ax_sn_node (ax_sn_node (ax_sn_node (ax_sn_node (ax_sn_leaf (r_X2_call_12 E)) (ax_sn_leaf (r_X2_call_11 E))) (ax_sn_leaf (r_X2_call_10 E))) (ax_sn_node (ax_sn_leaf (r_X2_call_7 E)) (ax_sn_leaf (r_X2_call_6 E)))) (ax_sn_node (ax_sn_node (ax_sn_leaf (r_X2_call_5 E)) (ax_sn_leaf (r_X2_call_2 E))) (ax_sn_node (ax_sn_leaf (r_X2_call_1 E)) (ax_sn_leaf (r_X2_call_0 E))))))))⟩
theorem r_X2_plan_0 (E : ax_EN G l) : ax_Snd G l ax_Ym M_X2_plan 0 (S_aload 0 1) := k_aload_n dX2_plan_0 rfl
theorem r_X2_plan_1 (E : ax_EN G l) : ax_Snd G l ax_Ym M_X2_plan 1 (S_getf [(29, 0)] 4) := k_getf (en_F E) (ax_fes_cons (fe_158 E) ax_fes_nil) q283 dX2_plan_1
theorem r_X2_plan_4 (E : ax_EN G l) : ax_Snd G l ax_Ym M_X2_plan 4 (S_push (.int (12)) 6) := k_bipush dX2_plan_4 rfl
theorem r_X2_plan_6 (E : ax_EN G l) : ax_Snd G l ax_Ym M_X2_plan 6 (S_iald 0 7) := k_iald (en_F E) dX2_plan_6
theorem r_X2_plan_7 (E : ax_EN G l) : ax_Snd G l ax_Ym M_X2_plan 7 (S_istore 2 8) := k_istore_n dX2_plan_7 rfl (Nat.le_of_ble_eq_true rfl)
theorem r_X2_plan_8 (E : ax_EN G l) : ax_Snd G l ax_Ym M_X2_plan 8 (S_aload 0 9) := k_aload_n dX2_plan_8 rfl
theorem r_X2_plan_9 (E : ax_EN G l) : ax_Snd G l ax_Ym M_X2_plan 9 (S_getf [(29, 0)] 12) := k_getf (en_F E) (ax_fes_cons (fe_158 E) ax_fes_nil) q283 dX2_plan_9
theorem r_X2_plan_12 (E : ax_EN G l) : ax_Snd G l ax_Ym M_X2_plan 12 (S_push (.int (13)) 14) := k_bipush dX2_plan_12 rfl
theorem r_X2_plan_14 (E : ax_EN G l) : ax_Snd G l ax_Ym M_X2_plan 14 (S_iald 0 15) := k_iald (en_F E) dX2_plan_14
theorem r_X2_plan_15 (E : ax_EN G l) : ax_Snd G l ax_Ym M_X2_plan 15 (S_istore 3 16) := k_istore_n dX2_plan_15 rfl (Nat.le_of_ble_eq_true rfl)
theorem r_X2_plan_16 (E : ax_EN G l) : ax_Snd G l ax_Ym M_X2_plan 16 (S_aload 0 17) := k_aload_n dX2_plan_16 rfl
theorem r_X2_plan_17 (E : ax_EN G l) : ax_Snd G l ax_Ym M_X2_plan 17 (S_iload 2 18) := k_iload_n dX2_plan_17 rfl
theorem r_X2_plan_18 (E : ax_EN G l) : ax_Snd G l ax_Ym M_X2_plan 18 (S_iv [(29, 337)] 1 21 hd_0) := k_iv (en_F E) (ax_ok0 E rfl) (ax_Evs_cons ((ev_v (en_c E (k := 29) rfl) rfl y_X2_named q2247 q2249 qs46 q122 q2250 nm_X2_named (Nat.le_of_ble_eq_true rfl) dX2_plan_18) : ax_EvV G l ax_Ym M_X2_plan 18 1 3 29 337) ax_Evs_nil)
theorem r_X2_plan_21 (E : ax_EN G l) : ax_Snd G l ax_Ym M_X2_plan 21 (S_istore 4 23) := k_istore dX2_plan_21 (Nat.le_of_ble_eq_true rfl)
theorem r_X2_plan_23 (E : ax_EN G l) : ax_Snd G l ax_Ym M_X2_plan 23 (S_iload 1 24) := k_iload_n dX2_plan_23 rfl
theorem r_X2_plan_24 (E : ax_EN G l) : ax_Snd G l ax_Ym M_X2_plan 24 (S_push (.int (6)) 26) := k_bipush dX2_plan_24 rfl
theorem r_X2_plan_26 (E : ax_EN G l) : ax_Snd G l ax_Ym M_X2_plan 26 (S_if2 (fun x y => decide (x ≤ y)) 32 29) := k_icmp_le dX2_plan_26 rfl
theorem r_X2_plan_29 (E : ax_EN G l) : ax_Snd G l ax_Ym M_X2_plan 29 (S_push (.int (9)) 31) := k_bipush dX2_plan_29 rfl
theorem r_X2_plan_31 (E : ax_EN G l) : ax_Snd G l ax_Ym M_X2_plan 31 (S_iret) := k_iret dX2_plan_31 rfl
theorem r_X2_plan_32 (E : ax_EN G l) : ax_Snd G l ax_Ym M_X2_plan 32 (S_iload 1 33) := k_iload_n dX2_plan_32 rfl
theorem r_X2_plan_33 (E : ax_EN G l) : ax_Snd G l ax_Ym M_X2_plan 33 (S_if1 (fun x => decide (¬ x = 0)) 81 36) := k_if_ne dX2_plan_33 rfl
theorem r_X2_plan_36 (E : ax_EN G l) : ax_Snd G l ax_Ym M_X2_plan 36 (S_aload 0 37) := k_aload_n dX2_plan_36 rfl
theorem r_X2_plan_37 (E : ax_EN G l) : ax_Snd G l ax_Ym M_X2_plan 37 (S_push (.int (0)) 38) := k_iconst dX2_plan_37 rfl
theorem r_X2_plan_38 (E : ax_EN G l) : ax_Snd G l ax_Ym M_X2_plan 38 (S_iv [(29, 308)] 1 41 hd_0) := k_iv (en_F E) (ax_ok0 E rfl) (ax_Evs_cons ((ev_v (en_c E (k := 29) rfl) rfl y_X2_find q1356 q1357 q1358 q122 q1359 nm_X2_find (Nat.le_of_ble_eq_true rfl) dX2_plan_38) : ax_EvV G l ax_Ym M_X2_plan 38 1 3 29 308) ax_Evs_nil)
theorem r_X2_plan_41 (E : ax_EN G l) : ax_Snd G l ax_Ym M_X2_plan 41 (S_istore 5 43) := k_istore dX2_plan_41 (Nat.le_of_ble_eq_true rfl)
theorem r_X2_plan_43 (E : ax_EN G l) : ax_Snd G l ax_Ym M_X2_plan 43 (S_iload 2 44) := k_iload_n dX2_plan_43 rfl
theorem r_X2_plan_44 (E : ax_EN G l) : ax_Snd G l ax_Ym M_X2_plan 44 (S_if1 (fun x => decide (x = 0)) 53 47) := k_if_eq dX2_plan_44 rfl
theorem r_X2_plan_47 (E : ax_EN G l) : ax_Snd G l ax_Ym M_X2_plan 47 (S_iload 4 49) := k_iload dX2_plan_47
theorem r_X2_plan_49 (E : ax_EN G l) : ax_Snd G l ax_Ym M_X2_plan 49 (S_push (.int (-1)) 50) := k_iconst dX2_plan_49 rfl
theorem r_X2_plan_50 (E : ax_EN G l) : ax_Snd G l ax_Ym M_X2_plan 50 (S_if2 (fun x y => decide (x = y)) 55 53) := k_icmp_eq dX2_plan_50 rfl
theorem r_X2_plan_53 (E : ax_EN G l) : ax_Snd G l ax_Ym M_X2_plan 53 (S_push (.int (1)) 54) := k_iconst dX2_plan_53 rfl
theorem r_X2_plan_54 (E : ax_EN G l) : ax_Snd G l ax_Ym M_X2_plan 54 (S_iret) := k_iret dX2_plan_54 rfl
theorem r_X2_plan_55 (E : ax_EN G l) : ax_Snd G l ax_Ym M_X2_plan 55 (S_iload 5 57) := k_iload dX2_plan_55
theorem r_X2_plan_57 (E : ax_EN G l) : ax_Snd G l ax_Ym M_X2_plan 57 (S_push (.int (-1)) 58) := k_iconst dX2_plan_57 rfl
theorem r_X2_plan_58 (E : ax_EN G l) : ax_Snd G l ax_Ym M_X2_plan 58 (S_if2 (fun x y => decide (x = y)) 69 61) := k_icmp_eq dX2_plan_58 rfl
theorem r_X2_plan_61 (E : ax_EN G l) : ax_Snd G l ax_Ym M_X2_plan 61 (S_aload 0 62) := k_aload_n dX2_plan_61 rfl
theorem r_X2_plan_62 (E : ax_EN G l) : ax_Snd G l ax_Ym M_X2_plan 62 (S_iload 5 64) := k_iload dX2_plan_62
theorem r_X2_plan_64 (E : ax_EN G l) : ax_Snd G l ax_Ym M_X2_plan 64 (S_push (.int (0)) 65) := k_iconst dX2_plan_64 rfl
theorem r_X2_plan_65 (E : ax_EN G l) : ax_Snd G l ax_Ym M_X2_plan 65 (S_iload 2 66) := k_iload_n dX2_plan_65 rfl
theorem r_X2_plan_66 (E : ax_EN G l) : ax_Snd G l ax_Ym M_X2_plan 66 (S_iv [(29, 338)] 3 69 hd_0) := k_iv (en_F E) (ax_ok0 E rfl) (ax_Evs_cons ((ev_v (en_c E (k := 29) rfl) rfl y_X2_setEntry q2251 q2253 qs47 q122 q2254 nm_X2_setEntry (Nat.le_of_ble_eq_true rfl) dX2_plan_66) : ax_EvV G l ax_Ym M_X2_plan 66 3 3 29 338) ax_Evs_nil)
theorem r_X2_plan_69 (E : ax_EN G l) : ax_Snd G l ax_Ym M_X2_plan 69 (S_iload 5 71) := k_iload dX2_plan_69
theorem r_X2_plan_71 (E : ax_EN G l) : ax_Snd G l ax_Ym M_X2_plan 71 (S_push (.int (-1)) 72) := k_iconst dX2_plan_71 rfl
theorem r_X2_plan_72 (E : ax_EN G l) : ax_Snd G l ax_Ym M_X2_plan 72 (S_if2 (fun x y => decide (¬ x = y)) 79 75) := k_icmp_ne dX2_plan_72 rfl
theorem r_X2_plan_75 (E : ax_EN G l) : ax_Snd G l ax_Ym M_X2_plan 75 (S_push (.int (2)) 76) := k_iconst dX2_plan_75 rfl
theorem r_X2_plan_76 (E : ax_EN G l) : ax_Snd G l ax_Ym M_X2_plan 76 (S_goto 80) := k_goto dX2_plan_76 rfl
theorem r_X2_plan_79 (E : ax_EN G l) : ax_Snd G l ax_Ym M_X2_plan 79 (S_push (.int (0)) 80) := k_iconst dX2_plan_79 rfl
theorem r_X2_plan_80 (E : ax_EN G l) : ax_Snd G l ax_Ym M_X2_plan 80 (S_iret) := k_iret dX2_plan_80 rfl
theorem r_X2_plan_81 (E : ax_EN G l) : ax_Snd G l ax_Ym M_X2_plan 81 (S_iload 4 83) := k_iload dX2_plan_81
theorem r_X2_plan_83 (E : ax_EN G l) : ax_Snd G l ax_Ym M_X2_plan 83 (S_push (.int (-1)) 84) := k_iconst dX2_plan_83 rfl
theorem r_X2_plan_84 (E : ax_EN G l) : ax_Snd G l ax_Ym M_X2_plan 84 (S_if2 (fun x y => decide (¬ x = y)) 89 87) := k_icmp_ne dX2_plan_84 rfl
theorem r_X2_plan_87 (E : ax_EN G l) : ax_Snd G l ax_Ym M_X2_plan 87 (S_push (.int (1)) 88) := k_iconst dX2_plan_87 rfl
theorem r_X2_plan_88 (E : ax_EN G l) : ax_Snd G l ax_Ym M_X2_plan 88 (S_iret) := k_iret dX2_plan_88 rfl
theorem r_X2_plan_89 (E : ax_EN G l) : ax_Snd G l ax_Ym M_X2_plan 89 (S_iload 1 90) := k_iload_n dX2_plan_89 rfl
theorem r_X2_plan_90 (E : ax_EN G l) : ax_Snd G l ax_Ym M_X2_plan 90 (S_tsw (1) (5) [124, 132, 188, 229, 244] 252) := k_tsw dX2_plan_90 rfl rfl
theorem r_X2_plan_124 (E : ax_EN G l) : ax_Snd G l ax_Ym M_X2_plan 124 (S_aload 0 125) := k_aload_n dX2_plan_124 rfl
theorem r_X2_plan_125 (E : ax_EN G l) : ax_Snd G l ax_Ym M_X2_plan 125 (S_iload 4 127) := k_iload dX2_plan_125
theorem r_X2_plan_127 (E : ax_EN G l) : ax_Snd G l ax_Ym M_X2_plan 127 (S_iload 3 128) := k_iload_n dX2_plan_127 rfl
theorem r_X2_plan_128 (E : ax_EN G l) : ax_Snd G l ax_Ym M_X2_plan 128 (S_iv [(29, 340)] 2 131 hd_0) := k_iv (en_F E) (ax_ok0 E rfl) (ax_Evs_cons ((ev_v (en_c E (k := 29) rfl) rfl y_X2_append q2259 q2261 qs49 q122 q2262 nm_X2_append (Nat.le_of_ble_eq_true rfl) dX2_plan_128) : ax_EvV G l ax_Ym M_X2_plan 128 2 3 29 340) ax_Evs_nil)
theorem r_X2_plan_131 (E : ax_EN G l) : ax_Snd G l ax_Ym M_X2_plan 131 (S_iret) := k_iret dX2_plan_131 rfl
theorem r_X2_plan_132 (E : ax_EN G l) : ax_Snd G l ax_Ym M_X2_plan 132 (S_iload 3 133) := k_iload_n dX2_plan_132 rfl
theorem r_X2_plan_133 (E : ax_EN G l) : ax_Snd G l ax_Ym M_X2_plan 133 (S_aload 0 134) := k_aload_n dX2_plan_133 rfl
theorem r_X2_plan_134 (E : ax_EN G l) : ax_Snd G l ax_Ym M_X2_plan 134 (S_iload 4 136) := k_iload dX2_plan_134
theorem r_X2_plan_136 (E : ax_EN G l) : ax_Snd G l ax_Ym M_X2_plan 136 (S_push (.int (1)) 137) := k_iconst dX2_plan_136 rfl
theorem r_X2_plan_137 (E : ax_EN G l) : ax_Snd G l ax_Ym M_X2_plan 137 (S_iv [(29, 305)] 2 140 hd_0) := k_iv (en_F E) (ax_ok0 E rfl) (ax_Evs_cons ((ev_v (en_c E (k := 29) rfl) rfl y_X2_entry q1355 q1271 qs11 q122 q1272 nm_X2_entry (Nat.le_of_ble_eq_true rfl) dX2_plan_137) : ax_EvV G l ax_Ym M_X2_plan 137 2 3 29 305) ax_Evs_nil)
theorem r_X2_plan_140 (E : ax_EN G l) : ax_Snd G l ax_Ym M_X2_plan 140 (S_if2 (fun x y => decide (y ≤ x)) 171 143) := k_icmp_ge dX2_plan_140 rfl
theorem r_X2_plan_143 (E : ax_EN G l) : ax_Snd G l ax_Ym M_X2_plan 143 (S_aload 0 144) := k_aload_n dX2_plan_143 rfl
theorem r_X2_plan_144 (E : ax_EN G l) : ax_Snd G l ax_Ym M_X2_plan 144 (S_aload 0 145) := k_aload_n dX2_plan_144 rfl
theorem r_X2_plan_145 (E : ax_EN G l) : ax_Snd G l ax_Ym M_X2_plan 145 (S_iload 4 147) := k_iload dX2_plan_145
theorem r_X2_plan_147 (E : ax_EN G l) : ax_Snd G l ax_Ym M_X2_plan 147 (S_push (.int (2)) 148) := k_iconst dX2_plan_147 rfl
theorem r_X2_plan_148 (E : ax_EN G l) : ax_Snd G l ax_Ym M_X2_plan 148 (S_iload 3 149) := k_iload_n dX2_plan_148 rfl
theorem r_X2_plan_149 (E : ax_EN G l) : ax_Snd G l ax_Ym M_X2_plan 149 (S_push (.int (8)) 151) := k_bipush dX2_plan_149 rfl
theorem r_X2_plan_151 (E : ax_EN G l) : ax_Snd G l ax_Ym M_X2_plan 151 (S_id (fun x y => x / y) 152) := k_idiv dX2_plan_151
theorem r_X2_plan_152 (E : ax_EN G l) : ax_Snd G l ax_Ym M_X2_plan 152 (S_i2 (fun x y => x + y) 153) := k_iadd dX2_plan_152
theorem r_X2_plan_153 (E : ax_EN G l) : ax_Snd G l ax_Ym M_X2_plan 153 (S_iv [(29, 305)] 2 156 hd_0) := k_iv (en_F E) (ax_ok0 E rfl) (ax_Evs_cons ((ev_v (en_c E (k := 29) rfl) rfl y_X2_entry q1355 q1271 qs11 q122 q1272 nm_X2_entry (Nat.le_of_ble_eq_true rfl) dX2_plan_153) : ax_EvV G l ax_Ym M_X2_plan 153 2 3 29 305) ax_Evs_nil)
theorem r_X2_plan_156 (E : ax_EN G l) : ax_Snd G l ax_Ym M_X2_plan 156 (S_iv [(29, 339)] 1 159 hd_0) := k_iv (en_F E) (ax_ok0 E rfl) (ax_Evs_cons ((ev_v (en_c E (k := 29) rfl) rfl y_X2_draft q2255 q2257 qs48 q122 q2258 nm_X2_draft (Nat.le_of_ble_eq_true rfl) dX2_plan_156) : ax_EvV G l ax_Ym M_X2_plan 156 1 3 29 339) ax_Evs_nil)
theorem r_X2_plan_159 (E : ax_EN G l) : ax_Snd G l ax_Ym M_X2_plan 159 (S_iload 3 160) := k_iload_n dX2_plan_159 rfl
theorem r_X2_plan_160 (E : ax_EN G l) : ax_Snd G l ax_Ym M_X2_plan 160 (S_push (.int (8)) 162) := k_bipush dX2_plan_160 rfl
theorem r_X2_plan_162 (E : ax_EN G l) : ax_Snd G l ax_Ym M_X2_plan 162 (S_id (fun x y => x - x / y * y) 163) := k_irem dX2_plan_162
theorem r_X2_plan_163 (E : ax_EN G l) : ax_Snd G l ax_Ym M_X2_plan 163 (S_aload 0 164) := k_aload_n dX2_plan_163 rfl
theorem r_X2_plan_164 (E : ax_EN G l) : ax_Snd G l ax_Ym M_X2_plan 164 (S_getf [(29, 0)] 167) := k_getf (en_F E) (ax_fes_cons (fe_158 E) ax_fes_nil) q283 dX2_plan_164
theorem r_X2_plan_167 (E : ax_EN G l) : ax_Snd G l ax_Ym M_X2_plan 167 (S_push (.int (14)) 169) := k_bipush dX2_plan_167 rfl
theorem r_X2_plan_169 (E : ax_EN G l) : ax_Snd G l ax_Ym M_X2_plan 169 (S_iald 0 170) := k_iald (en_F E) dX2_plan_169
theorem r_X2_plan_170 (E : ax_EN G l) : ax_Snd G l ax_Ym M_X2_plan 170 (S_iast 0 (fun x => x) 171) := k_iast (en_F E) dX2_plan_170
theorem r_X2_plan_171 (E : ax_EN G l) : ax_Snd G l ax_Ym M_X2_plan 171 (S_iload 3 172) := k_iload_n dX2_plan_171 rfl
theorem r_X2_plan_172 (E : ax_EN G l) : ax_Snd G l ax_Ym M_X2_plan 172 (S_aload 0 173) := k_aload_n dX2_plan_172 rfl
theorem r_X2_plan_173 (E : ax_EN G l) : ax_Snd G l ax_Ym M_X2_plan 173 (S_iload 4 175) := k_iload dX2_plan_173
theorem r_X2_plan_175 (E : ax_EN G l) : ax_Snd G l ax_Ym M_X2_plan 175 (S_push (.int (1)) 176) := k_iconst dX2_plan_175 rfl
theorem r_X2_plan_176 (E : ax_EN G l) : ax_Snd G l ax_Ym M_X2_plan 176 (S_iv [(29, 305)] 2 179 hd_0) := k_iv (en_F E) (ax_ok0 E rfl) (ax_Evs_cons ((ev_v (en_c E (k := 29) rfl) rfl y_X2_entry q1355 q1271 qs11 q122 q1272 nm_X2_entry (Nat.le_of_ble_eq_true rfl) dX2_plan_176) : ax_EvV G l ax_Ym M_X2_plan 176 2 3 29 305) ax_Evs_nil)
theorem r_X2_plan_179 (E : ax_EN G l) : ax_Snd G l ax_Ym M_X2_plan 179 (S_if2 (fun x y => decide (y ≤ x)) 186 182) := k_icmp_ge dX2_plan_179 rfl
theorem r_X2_plan_182 (E : ax_EN G l) : ax_Snd G l ax_Ym M_X2_plan 182 (S_push (.int (0)) 183) := k_iconst dX2_plan_182 rfl
theorem r_X2_plan_183 (E : ax_EN G l) : ax_Snd G l ax_Ym M_X2_plan 183 (S_goto 187) := k_goto dX2_plan_183 rfl
theorem r_X2_plan_186 (E : ax_EN G l) : ax_Snd G l ax_Ym M_X2_plan 186 (S_push (.int (2)) 187) := k_iconst dX2_plan_186 rfl
theorem r_X2_plan_187 (E : ax_EN G l) : ax_Snd G l ax_Ym M_X2_plan 187 (S_iret) := k_iret dX2_plan_187 rfl
theorem r_X2_plan_188 (E : ax_EN G l) : ax_Snd G l ax_Ym M_X2_plan 188 (S_iload 3 189) := k_iload_n dX2_plan_188 rfl
theorem r_X2_plan_189 (E : ax_EN G l) : ax_Snd G l ax_Ym M_X2_plan 189 (S_aload 0 190) := k_aload_n dX2_plan_189 rfl
theorem r_X2_plan_190 (E : ax_EN G l) : ax_Snd G l ax_Ym M_X2_plan 190 (S_iload 4 192) := k_iload dX2_plan_190
theorem r_X2_plan_192 (E : ax_EN G l) : ax_Snd G l ax_Ym M_X2_plan 192 (S_push (.int (1)) 193) := k_iconst dX2_plan_192 rfl
theorem r_X2_plan_193 (E : ax_EN G l) : ax_Snd G l ax_Ym M_X2_plan 193 (S_iv [(29, 305)] 2 196 hd_0) := k_iv (en_F E) (ax_ok0 E rfl) (ax_Evs_cons ((ev_v (en_c E (k := 29) rfl) rfl y_X2_entry q1355 q1271 qs11 q122 q1272 nm_X2_entry (Nat.le_of_ble_eq_true rfl) dX2_plan_193) : ax_EvV G l ax_Ym M_X2_plan 193 2 3 29 305) ax_Evs_nil)
theorem r_X2_plan_196 (E : ax_EN G l) : ax_Snd G l ax_Ym M_X2_plan 196 (S_if2 (fun x y => decide (y ≤ x)) 212 199) := k_icmp_ge dX2_plan_196 rfl
theorem r_X2_plan_199 (E : ax_EN G l) : ax_Snd G l ax_Ym M_X2_plan 199 (S_aload 0 200) := k_aload_n dX2_plan_199 rfl
theorem r_X2_plan_200 (E : ax_EN G l) : ax_Snd G l ax_Ym M_X2_plan 200 (S_push (.int (14)) 202) := k_bipush dX2_plan_200 rfl
theorem r_X2_plan_202 (E : ax_EN G l) : ax_Snd G l ax_Ym M_X2_plan 202 (S_aload 0 203) := k_aload_n dX2_plan_202 rfl
theorem r_X2_plan_203 (E : ax_EN G l) : ax_Snd G l ax_Ym M_X2_plan 203 (S_iload 4 205) := k_iload dX2_plan_203
theorem r_X2_plan_205 (E : ax_EN G l) : ax_Snd G l ax_Ym M_X2_plan 205 (S_iload 3 206) := k_iload_n dX2_plan_205 rfl
theorem r_X2_plan_206 (E : ax_EN G l) : ax_Snd G l ax_Ym M_X2_plan 206 (S_iv [(29, 343)] 2 209 hd_0) := k_iv (en_F E) (ax_ok0 E rfl) (ax_Evs_cons ((ev_v (en_c E (k := 29) rfl) rfl y_X2_wordOf q2271 q2272 q2273 q122 q2274 nm_X2_wordOf (Nat.le_of_ble_eq_true rfl) dX2_plan_206) : ax_EvV G l ax_Ym M_X2_plan 206 2 3 29 343) ax_Evs_nil)
theorem r_X2_plan_209 (E : ax_EN G l) : ax_Snd G l ax_Ym M_X2_plan 209 (S_iv [(29, 320)] 2 212 hd_0) := k_iv (en_F E) (ax_ok0 E rfl) (ax_Evs_cons ((ev_v (en_c E (k := 29) rfl) rfl y_X2_set q2095 q2097 qs30 q122 q2098 nm_X2_set (Nat.le_of_ble_eq_true rfl) dX2_plan_209) : ax_EvV G l ax_Ym M_X2_plan 209 2 3 29 320) ax_Evs_nil)
theorem r_X2_plan_212 (E : ax_EN G l) : ax_Snd G l ax_Ym M_X2_plan 212 (S_iload 3 213) := k_iload_n dX2_plan_212 rfl
theorem r_X2_plan_213 (E : ax_EN G l) : ax_Snd G l ax_Ym M_X2_plan 213 (S_aload 0 214) := k_aload_n dX2_plan_213 rfl
theorem r_X2_plan_214 (E : ax_EN G l) : ax_Snd G l ax_Ym M_X2_plan 214 (S_iload 4 216) := k_iload dX2_plan_214
theorem r_X2_plan_216 (E : ax_EN G l) : ax_Snd G l ax_Ym M_X2_plan 216 (S_push (.int (1)) 217) := k_iconst dX2_plan_216 rfl
theorem r_X2_plan_217 (E : ax_EN G l) : ax_Snd G l ax_Ym M_X2_plan 217 (S_iv [(29, 305)] 2 220 hd_0) := k_iv (en_F E) (ax_ok0 E rfl) (ax_Evs_cons ((ev_v (en_c E (k := 29) rfl) rfl y_X2_entry q1355 q1271 qs11 q122 q1272 nm_X2_entry (Nat.le_of_ble_eq_true rfl) dX2_plan_217) : ax_EvV G l ax_Ym M_X2_plan 217 2 3 29 305) ax_Evs_nil)
theorem r_X2_plan_220 (E : ax_EN G l) : ax_Snd G l ax_Ym M_X2_plan 220 (S_if2 (fun x y => decide (y ≤ x)) 227 223) := k_icmp_ge dX2_plan_220 rfl
theorem r_X2_plan_223 (E : ax_EN G l) : ax_Snd G l ax_Ym M_X2_plan 223 (S_push (.int (0)) 224) := k_iconst dX2_plan_223 rfl
theorem r_X2_plan_224 (E : ax_EN G l) : ax_Snd G l ax_Ym M_X2_plan 224 (S_goto 228) := k_goto dX2_plan_224 rfl
theorem r_X2_plan_227 (E : ax_EN G l) : ax_Snd G l ax_Ym M_X2_plan 227 (S_push (.int (2)) 228) := k_iconst dX2_plan_227 rfl
theorem r_X2_plan_228 (E : ax_EN G l) : ax_Snd G l ax_Ym M_X2_plan 228 (S_iret) := k_iret dX2_plan_228 rfl
theorem r_X2_plan_229 (E : ax_EN G l) : ax_Snd G l ax_Ym M_X2_plan 229 (S_aload 0 230) := k_aload_n dX2_plan_229 rfl
theorem r_X2_plan_230 (E : ax_EN G l) : ax_Snd G l ax_Ym M_X2_plan 230 (S_push (.int (13)) 232) := k_bipush dX2_plan_230 rfl
theorem r_X2_plan_232 (E : ax_EN G l) : ax_Snd G l ax_Ym M_X2_plan 232 (S_aload 0 233) := k_aload_n dX2_plan_232 rfl
theorem r_X2_plan_233 (E : ax_EN G l) : ax_Snd G l ax_Ym M_X2_plan 233 (S_iload 4 235) := k_iload dX2_plan_233
theorem r_X2_plan_235 (E : ax_EN G l) : ax_Snd G l ax_Ym M_X2_plan 235 (S_push (.int (1)) 236) := k_iconst dX2_plan_235 rfl
theorem r_X2_plan_236 (E : ax_EN G l) : ax_Snd G l ax_Ym M_X2_plan 236 (S_iv [(29, 305)] 2 239 hd_0) := k_iv (en_F E) (ax_ok0 E rfl) (ax_Evs_cons ((ev_v (en_c E (k := 29) rfl) rfl y_X2_entry q1355 q1271 qs11 q122 q1272 nm_X2_entry (Nat.le_of_ble_eq_true rfl) dX2_plan_236) : ax_EvV G l ax_Ym M_X2_plan 236 2 3 29 305) ax_Evs_nil)
theorem r_X2_plan_239 (E : ax_EN G l) : ax_Snd G l ax_Ym M_X2_plan 239 (S_iv [(29, 320)] 2 242 hd_0) := k_iv (en_F E) (ax_ok0 E rfl) (ax_Evs_cons ((ev_v (en_c E (k := 29) rfl) rfl y_X2_set q2095 q2097 qs30 q122 q2098 nm_X2_set (Nat.le_of_ble_eq_true rfl) dX2_plan_239) : ax_EvV G l ax_Ym M_X2_plan 239 2 3 29 320) ax_Evs_nil)
theorem r_X2_plan_242 (E : ax_EN G l) : ax_Snd G l ax_Ym M_X2_plan 242 (S_push (.int (0)) 243) := k_iconst dX2_plan_242 rfl
theorem r_X2_plan_243 (E : ax_EN G l) : ax_Snd G l ax_Ym M_X2_plan 243 (S_iret) := k_iret dX2_plan_243 rfl
theorem r_X2_plan_244 (E : ax_EN G l) : ax_Snd G l ax_Ym M_X2_plan 244 (S_aload 0 245) := k_aload_n dX2_plan_244 rfl
theorem r_X2_plan_245 (E : ax_EN G l) : ax_Snd G l ax_Ym M_X2_plan 245 (S_iload 4 247) := k_iload dX2_plan_245
theorem r_X2_plan_247 (E : ax_EN G l) : ax_Snd G l ax_Ym M_X2_plan 247 (S_iv [(29, 344)] 1 250 hd_0) := k_iv (en_F E) (ax_ok0 E rfl) (ax_Evs_cons ((ev_v (en_c E (k := 29) rfl) rfl y_X2_remove q2275 q2277 qs52 q122 q2278 nm_X2_remove (Nat.le_of_ble_eq_true rfl) dX2_plan_247) : ax_EvV G l ax_Ym M_X2_plan 247 1 3 29 344) ax_Evs_nil)
theorem r_X2_plan_250 (E : ax_EN G l) : ax_Snd G l ax_Ym M_X2_plan 250 (S_push (.int (0)) 251) := k_iconst dX2_plan_250 rfl
theorem r_X2_plan_251 (E : ax_EN G l) : ax_Snd G l ax_Ym M_X2_plan 251 (S_iret) := k_iret dX2_plan_251 rfl
theorem r_X2_plan_252 (E : ax_EN G l) : ax_Snd G l ax_Ym M_X2_plan 252 (S_aload 0 253) := k_aload_n dX2_plan_252 rfl
theorem r_X2_plan_253 (E : ax_EN G l) : ax_Snd G l ax_Ym M_X2_plan 253 (S_iload 4 255) := k_iload dX2_plan_253
theorem r_X2_plan_255 (E : ax_EN G l) : ax_Snd G l ax_Ym M_X2_plan 255 (S_iload 2 256) := k_iload_n dX2_plan_255 rfl
theorem r_X2_plan_256 (E : ax_EN G l) : ax_Snd G l ax_Ym M_X2_plan 256 (S_iload 3 257) := k_iload_n dX2_plan_256 rfl
theorem r_X2_plan_257 (E : ax_EN G l) : ax_Snd G l ax_Ym M_X2_plan 257 (S_iv [(29, 345)] 3 260 hd_0) := k_iv (en_F E) (ax_ok0 E rfl) (ax_Evs_cons ((ev_v (en_c E (k := 29) rfl) rfl y_X2_rename q2279 q2281 qs53 q122 q2282 nm_X2_rename (Nat.le_of_ble_eq_true rfl) dX2_plan_257) : ax_EvV G l ax_Ym M_X2_plan 257 3 3 29 345) ax_Evs_nil)
theorem r_X2_plan_260 (E : ax_EN G l) : ax_Snd G l ax_Ym M_X2_plan 260 (S_iret) := k_iret dX2_plan_260 rfl
theorem mt_X2_plan (E : ax_EN G l) : ax_mt G l ax_Ym (6, P_X2_plan) (ax_Ym 336) := ⟨M_X2_plan, yX2_plan, ⟨rfl, by decide +kernel, rfl, (fun h => by cases h), Or.inl ⟨rfl, rfl⟩⟩, fun pc => (ax_sn_node (ax_sn_node (ax_sn_node (ax_sn_node (ax_sn_node (ax_sn_node (ax_sn_node (ax_sn_node (ax_sn_leaf (r_X2_plan_260 E)) (ax_sn_leaf (r_X2_plan_257 E))) (ax_sn_leaf (r_X2_plan_256 E))) (ax_sn_node (ax_sn_leaf (r_X2_plan_255 E)) (ax_sn_leaf (r_X2_plan_253 E)))) (ax_sn_node (ax_sn_node (ax_sn_leaf (r_X2_plan_252 E)) (ax_sn_leaf (r_X2_plan_251 E))) (ax_sn_node (ax_sn_leaf (r_X2_plan_250 E)) (ax_sn_leaf (r_X2_plan_247 E))))) (ax_sn_node (ax_sn_node (ax_sn_node (ax_sn_leaf (r_X2_plan_245 E)) (ax_sn_leaf (r_X2_plan_244 E))) (ax_sn_node (ax_sn_leaf (r_X2_plan_243 E)) (ax_sn_leaf (r_X2_plan_242 E)))) (ax_sn_node (ax_sn_node (ax_sn_leaf (r_X2_plan_239 E)) (ax_sn_leaf (r_X2_plan_236 E))) (ax_sn_node (ax_sn_leaf (r_X2_plan_235 E)) (ax_sn_leaf (r_X2_plan_233 E)))))) (ax_sn_node (ax_sn_node (ax_sn_node (ax_sn_node (ax_sn_node (ax_sn_leaf (r_X2_plan_232 E)) (ax_sn_leaf (r_X2_plan_230 E))) (ax_sn_leaf (r_X2_plan_229 E))) (ax_sn_node (ax_sn_leaf (r_X2_plan_228 E)) (ax_sn_leaf (r_X2_plan_227 E)))) (ax_sn_node (ax_sn_node (ax_sn_leaf (r_X2_plan_224 E)) (ax_sn_leaf (r_X2_plan_223 E))) (ax_sn_node (ax_sn_leaf (r_X2_plan_220 E)) (ax_sn_leaf (r_X2_plan_217 E))))) (ax_sn_node (ax_sn_node (ax_sn_node (ax_sn_leaf (r_X2_plan_216 E)) (ax_sn_leaf (r_X2_plan_214 E))) (ax_sn_node (ax_sn_leaf (r_X2_plan_213 E)) (ax_sn_leaf (r_X2_plan_212 E)))) (ax_sn_node (ax_sn_node (ax_sn_leaf (r_X2_plan_209 E)) (ax_sn_leaf (r_X2_plan_206 E))) (ax_sn_node (ax_sn_leaf (r_X2_plan_205 E)) (ax_sn_leaf (r_X2_plan_203 E))))))) (ax_sn_node (ax_sn_node (ax_sn_node (ax_sn_node (ax_sn_node (ax_sn_node (ax_sn_leaf (r_X2_plan_202 E)) (ax_sn_leaf (r_X2_plan_200 E))) (ax_sn_leaf (r_X2_plan_199 E))) (ax_sn_node (ax_sn_leaf (r_X2_plan_196 E)) (ax_sn_leaf (r_X2_plan_193 E)))) (ax_sn_node (ax_sn_node (ax_sn_leaf (r_X2_plan_192 E)) (ax_sn_leaf (r_X2_plan_190 E))) (ax_sn_node (ax_sn_leaf (r_X2_plan_189 E)) (ax_sn_leaf (r_X2_plan_188 E))))) (ax_sn_node (ax_sn_node (ax_sn_node (ax_sn_leaf (r_X2_plan_187 E)) (ax_sn_leaf (r_X2_plan_186 E))) (ax_sn_node (ax_sn_leaf (r_X2_plan_183 E)) (ax_sn_leaf (r_X2_plan_182 E)))) (ax_sn_node (ax_sn_node (ax_sn_leaf (r_X2_plan_179 E)) (ax_sn_leaf (r_X2_plan_176 E))) (ax_sn_node (ax_sn_leaf (r_X2_plan_175 E)) (ax_sn_leaf (r_X2_plan_173 E)))))) (ax_sn_node (ax_sn_node (ax_sn_node (ax_sn_node (ax_sn_node (ax_sn_leaf (r_X2_plan_172 E)) (ax_sn_leaf (r_X2_plan_171 E))) (ax_sn_leaf (r_X2_plan_170 E))) (ax_sn_node (ax_sn_leaf (r_X2_plan_169 E)) (ax_sn_leaf (r_X2_plan_167 E)))) (ax_sn_node (ax_sn_node (ax_sn_leaf (r_X2_plan_164 E)) (ax_sn_leaf (r_X2_plan_163 E))) (ax_sn_node (ax_sn_leaf (r_X2_plan_162 E)) (ax_sn_leaf (r_X2_plan_160 E))))) (ax_sn_node (ax_sn_node (ax_sn_node (ax_sn_leaf (r_X2_plan_159 E)) (ax_sn_leaf (r_X2_plan_156 E))) (ax_sn_node (ax_sn_leaf (r_X2_plan_153 E)) (ax_sn_leaf (r_X2_plan_152 E)))) (ax_sn_node (ax_sn_node (ax_sn_leaf (r_X2_plan_151 E)) (ax_sn_leaf (r_X2_plan_149 E))) (ax_sn_node (ax_sn_leaf (r_X2_plan_148 E)) (ax_sn_leaf (r_X2_plan_147 E)))))))) (ax_sn_node (ax_sn_node (ax_sn_node (ax_sn_node (ax_sn_node (ax_sn_node (ax_sn_node (ax_sn_leaf (r_X2_plan_145 E)) (ax_sn_leaf (r_X2_plan_144 E))) (ax_sn_leaf (r_X2_plan_143 E))) (ax_sn_node (ax_sn_leaf (r_X2_plan_140 E)) (ax_sn_leaf (r_X2_plan_137 E)))) (ax_sn_node (ax_sn_node (ax_sn_leaf (r_X2_plan_136 E)) (ax_sn_leaf (r_X2_plan_134 E))) (ax_sn_node (ax_sn_leaf (r_X2_plan_133 E)) (ax_sn_leaf (r_X2_plan_132 E))))) (ax_sn_node (ax_sn_node (ax_sn_node (ax_sn_leaf (r_X2_plan_131 E)) (ax_sn_leaf (r_X2_plan_128 E))) (ax_sn_node (ax_sn_leaf (r_X2_plan_127 E)) (ax_sn_leaf (r_X2_plan_125 E)))) (ax_sn_node (ax_sn_node (ax_sn_leaf (r_X2_plan_124 E)) (ax_sn_leaf (r_X2_plan_90 E))) (ax_sn_node (ax_sn_leaf (r_X2_plan_89 E)) (ax_sn_leaf (r_X2_plan_88 E)))))) (ax_sn_node (ax_sn_node (ax_sn_node (ax_sn_node (ax_sn_node (ax_sn_leaf (r_X2_plan_87 E)) (ax_sn_leaf (r_X2_plan_84 E))) (ax_sn_leaf (r_X2_plan_83 E))) (ax_sn_node (ax_sn_leaf (r_X2_plan_81 E)) (ax_sn_leaf (r_X2_plan_80 E)))) (ax_sn_node (ax_sn_node (ax_sn_leaf (r_X2_plan_79 E)) (ax_sn_leaf (r_X2_plan_76 E))) (ax_sn_node (ax_sn_leaf (r_X2_plan_75 E)) (ax_sn_leaf (r_X2_plan_72 E))))) (ax_sn_node (ax_sn_node (ax_sn_node (ax_sn_leaf (r_X2_plan_71 E)) (ax_sn_leaf (r_X2_plan_69 E))) (ax_sn_node (ax_sn_leaf (r_X2_plan_66 E)) (ax_sn_leaf (r_X2_plan_65 E)))) (ax_sn_node (ax_sn_node (ax_sn_leaf (r_X2_plan_64 E)) (ax_sn_leaf (r_X2_plan_62 E))) (ax_sn_node (ax_sn_leaf (r_X2_plan_61 E)) (ax_sn_leaf (r_X2_plan_58 E))))))) (ax_sn_node (ax_sn_node (ax_sn_node (ax_sn_node (ax_sn_node (ax_sn_node (ax_sn_leaf (r_X2_plan_57 E)) (ax_sn_leaf (r_X2_plan_55 E))) (ax_sn_leaf (r_X2_plan_54 E))) (ax_sn_node (ax_sn_leaf (r_X2_plan_53 E)) (ax_sn_leaf (r_X2_plan_50 E)))) (ax_sn_node (ax_sn_node (ax_sn_leaf (r_X2_plan_49 E)) (ax_sn_leaf (r_X2_plan_47 E))) (ax_sn_node (ax_sn_leaf (r_X2_plan_44 E)) (ax_sn_leaf (r_X2_plan_43 E))))) (ax_sn_node (ax_sn_node (ax_sn_node (ax_sn_leaf (r_X2_plan_41 E)) (ax_sn_leaf (r_X2_plan_38 E))) (ax_sn_node (ax_sn_leaf (r_X2_plan_37 E)) (ax_sn_leaf (r_X2_plan_36 E)))) (ax_sn_node (ax_sn_node (ax_sn_leaf (r_X2_plan_33 E)) (ax_sn_leaf (r_X2_plan_32 E))) (ax_sn_node (ax_sn_leaf (r_X2_plan_31 E)) (ax_sn_leaf (r_X2_plan_29 E)))))) (ax_sn_node (ax_sn_node (ax_sn_node (ax_sn_node (ax_sn_node (ax_sn_leaf (r_X2_plan_26 E)) (ax_sn_leaf (r_X2_plan_24 E))) (ax_sn_leaf (r_X2_plan_23 E))) (ax_sn_node (ax_sn_leaf (r_X2_plan_21 E)) (ax_sn_leaf (r_X2_plan_18 E)))) (ax_sn_node (ax_sn_node (ax_sn_leaf (r_X2_plan_17 E)) (ax_sn_leaf (r_X2_plan_16 E))) (ax_sn_node (ax_sn_leaf (r_X2_plan_15 E)) (ax_sn_leaf (r_X2_plan_14 E))))) (ax_sn_node (ax_sn_node (ax_sn_node (ax_sn_leaf (r_X2_plan_12 E)) (ax_sn_leaf (r_X2_plan_9 E))) (ax_sn_node (ax_sn_leaf (r_X2_plan_8 E)) (ax_sn_leaf (r_X2_plan_7 E)))) (ax_sn_node (ax_sn_node (ax_sn_leaf (r_X2_plan_6 E)) (ax_sn_leaf (r_X2_plan_4 E))) (ax_sn_node (ax_sn_leaf (r_X2_plan_1 E)) (ax_sn_leaf (r_X2_plan_0 E)))))))))⟩
theorem r_X2_named_0 (E : ax_EN G l) : ax_Snd G l ax_Ym M_X2_named 0 (S_iload 1 1) := k_iload_n dX2_named_0 rfl
theorem r_X2_named_1 (E : ax_EN G l) : ax_Snd G l ax_Ym M_X2_named 1 (S_if1 (fun x => decide (¬ x = 0)) 8 4) := k_if_ne dX2_named_1 rfl
theorem r_X2_named_4 (E : ax_EN G l) : ax_Snd G l ax_Ym M_X2_named 4 (S_push (.int (-1)) 5) := k_iconst dX2_named_4 rfl
theorem r_X2_named_5 (E : ax_EN G l) : ax_Snd G l ax_Ym M_X2_named 5 (S_goto 13) := k_goto dX2_named_5 rfl
theorem r_X2_named_8 (E : ax_EN G l) : ax_Snd G l ax_Ym M_X2_named 8 (S_aload 0 9) := k_aload_n dX2_named_8 rfl
theorem r_X2_named_9 (E : ax_EN G l) : ax_Snd G l ax_Ym M_X2_named 9 (S_iload 1 10) := k_iload_n dX2_named_9 rfl
theorem r_X2_named_10 (E : ax_EN G l) : ax_Snd G l ax_Ym M_X2_named 10 (S_iv [(29, 308)] 1 13 hd_0) := k_iv (en_F E) (ax_ok0 E rfl) (ax_Evs_cons ((ev_v (en_c E (k := 29) rfl) rfl y_X2_find q1356 q1357 q1358 q122 q1359 nm_X2_find (Nat.le_of_ble_eq_true rfl) dX2_named_10) : ax_EvV G l ax_Ym M_X2_named 10 1 3 29 308) ax_Evs_nil)
theorem r_X2_named_13 (E : ax_EN G l) : ax_Snd G l ax_Ym M_X2_named 13 (S_iret) := k_iret dX2_named_13 rfl
theorem mt_X2_named (E : ax_EN G l) : ax_mt G l ax_Ym (2, P_X2_named) (ax_Ym 337) := ⟨M_X2_named, yX2_named, ⟨rfl, by decide +kernel, rfl, (fun h => by cases h), Or.inl ⟨rfl, rfl⟩⟩, fun pc => (ax_sn_node (ax_sn_node (ax_sn_node (ax_sn_leaf (r_X2_named_13 E)) (ax_sn_leaf (r_X2_named_10 E))) (ax_sn_node (ax_sn_leaf (r_X2_named_9 E)) (ax_sn_leaf (r_X2_named_8 E)))) (ax_sn_node (ax_sn_node (ax_sn_leaf (r_X2_named_5 E)) (ax_sn_leaf (r_X2_named_4 E))) (ax_sn_node (ax_sn_leaf (r_X2_named_1 E)) (ax_sn_leaf (r_X2_named_0 E)))))⟩
theorem r_X2_setEntry_0 (E : ax_EN G l) : ax_Snd G l ax_Ym M_X2_setEntry 0 (S_aload 0 1) := k_aload_n dX2_setEntry_0 rfl
theorem r_X2_setEntry_1 (E : ax_EN G l) : ax_Snd G l ax_Ym M_X2_setEntry 1 (S_push (.int (5)) 2) := k_iconst dX2_setEntry_1 rfl
theorem r_X2_setEntry_2 (E : ax_EN G l) : ax_Snd G l ax_Ym M_X2_setEntry 2 (S_iload 1 3) := k_iload_n dX2_setEntry_2 rfl
theorem r_X2_setEntry_3 (E : ax_EN G l) : ax_Snd G l ax_Ym M_X2_setEntry 3 (S_push (.int (2)) 4) := k_iconst dX2_setEntry_3 rfl
theorem r_X2_setEntry_4 (E : ax_EN G l) : ax_Snd G l ax_Ym M_X2_setEntry 4 (S_id (fun x y => x / y) 5) := k_idiv dX2_setEntry_4
theorem r_X2_setEntry_5 (E : ax_EN G l) : ax_Snd G l ax_Ym M_X2_setEntry 5 (S_i2 (fun x y => x + y) 6) := k_iadd dX2_setEntry_5
theorem r_X2_setEntry_6 (E : ax_EN G l) : ax_Snd G l ax_Ym M_X2_setEntry 6 (S_iv [(29, 339)] 1 9 hd_0) := k_iv (en_F E) (ax_ok0 E rfl) (ax_Evs_cons ((ev_v (en_c E (k := 29) rfl) rfl y_X2_draft q2255 q2257 qs48 q122 q2258 nm_X2_draft (Nat.le_of_ble_eq_true rfl) dX2_setEntry_6) : ax_EvV G l ax_Ym M_X2_setEntry 6 1 3 29 339) ax_Evs_nil)
theorem r_X2_setEntry_9 (E : ax_EN G l) : ax_Snd G l ax_Ym M_X2_setEntry 9 (S_push (.int (4)) 10) := k_iconst dX2_setEntry_9 rfl
theorem r_X2_setEntry_10 (E : ax_EN G l) : ax_Snd G l ax_Ym M_X2_setEntry 10 (S_iload 1 11) := k_iload_n dX2_setEntry_10 rfl
theorem r_X2_setEntry_11 (E : ax_EN G l) : ax_Snd G l ax_Ym M_X2_setEntry 11 (S_push (.int (2)) 12) := k_iconst dX2_setEntry_11 rfl
theorem r_X2_setEntry_12 (E : ax_EN G l) : ax_Snd G l ax_Ym M_X2_setEntry 12 (S_id (fun x y => x - x / y * y) 13) := k_irem dX2_setEntry_12
theorem r_X2_setEntry_13 (E : ax_EN G l) : ax_Snd G l ax_Ym M_X2_setEntry 13 (S_i2 (fun x y => x * y) 14) := k_imul dX2_setEntry_13
theorem r_X2_setEntry_14 (E : ax_EN G l) : ax_Snd G l ax_Ym M_X2_setEntry 14 (S_iload 2 15) := k_iload_n dX2_setEntry_14 rfl
theorem r_X2_setEntry_15 (E : ax_EN G l) : ax_Snd G l ax_Ym M_X2_setEntry 15 (S_i2 (fun x y => x + y) 16) := k_iadd dX2_setEntry_15
theorem r_X2_setEntry_16 (E : ax_EN G l) : ax_Snd G l ax_Ym M_X2_setEntry 16 (S_iload 3 17) := k_iload_n dX2_setEntry_16 rfl
theorem r_X2_setEntry_17 (E : ax_EN G l) : ax_Snd G l ax_Ym M_X2_setEntry 17 (S_iast 0 (fun x => x) 18) := k_iast (en_F E) dX2_setEntry_17
theorem r_X2_setEntry_18 (E : ax_EN G l) : ax_Snd G l ax_Ym M_X2_setEntry 18 (S_ret) := k_ret dX2_setEntry_18 rfl
theorem mt_X2_setEntry (E : ax_EN G l) : ax_mt G l ax_Ym (4, P_X2_setEntry) (ax_Ym 338) := ⟨M_X2_setEntry, yX2_setEntry, ⟨rfl, by decide +kernel, rfl, (fun h => by cases h), Or.inl ⟨rfl, rfl⟩⟩, fun pc => (ax_sn_node (ax_sn_node (ax_sn_node (ax_sn_node (ax_sn_node (ax_sn_leaf (r_X2_setEntry_18 E)) (ax_sn_leaf (r_X2_setEntry_17 E))) (ax_sn_leaf (r_X2_setEntry_16 E))) (ax_sn_node (ax_sn_leaf (r_X2_setEntry_15 E)) (ax_sn_leaf (r_X2_setEntry_14 E)))) (ax_sn_node (ax_sn_node (ax_sn_leaf (r_X2_setEntry_13 E)) (ax_sn_leaf (r_X2_setEntry_12 E))) (ax_sn_node (ax_sn_leaf (r_X2_setEntry_11 E)) (ax_sn_leaf (r_X2_setEntry_10 E))))) (ax_sn_node (ax_sn_node (ax_sn_node (ax_sn_leaf (r_X2_setEntry_9 E)) (ax_sn_leaf (r_X2_setEntry_6 E))) (ax_sn_node (ax_sn_leaf (r_X2_setEntry_5 E)) (ax_sn_leaf (r_X2_setEntry_4 E)))) (ax_sn_node (ax_sn_node (ax_sn_leaf (r_X2_setEntry_3 E)) (ax_sn_leaf (r_X2_setEntry_2 E))) (ax_sn_node (ax_sn_leaf (r_X2_setEntry_1 E)) (ax_sn_leaf (r_X2_setEntry_0 E))))))⟩
theorem r_X2_draft_0 (E : ax_EN G l) : ax_Snd G l ax_Ym M_X2_draft 0 (S_push (.int (0)) 1) := k_iconst dX2_draft_0 rfl
theorem r_X2_draft_1 (E : ax_EN G l) : ax_Snd G l ax_Ym M_X2_draft 1 (S_istore 2 2) := k_istore_n dX2_draft_1 rfl (Nat.le_of_ble_eq_true rfl)
theorem r_X2_draft_2 (E : ax_EN G l) : ax_Snd G l ax_Ym M_X2_draft 2 (S_iload 2 3) := k_iload_n dX2_draft_2 rfl
theorem r_X2_draft_3 (E : ax_EN G l) : ax_Snd G l ax_Ym M_X2_draft 3 (S_aload 0 4) := k_aload_n dX2_draft_3 rfl
theorem r_X2_draft_4 (E : ax_EN G l) : ax_Snd G l ax_Ym M_X2_draft 4 (S_getf [(29, 9)] 7) := k_getf (en_F E) (ax_fes_cons (fe_318 E) ax_fes_nil) q296 dX2_draft_4
theorem r_X2_draft_7 (E : ax_EN G l) : ax_Snd G l ax_Ym M_X2_draft 7 (S_if2 (fun x y => decide (y ≤ x)) 26 10) := k_icmp_ge dX2_draft_7 rfl
theorem r_X2_draft_10 (E : ax_EN G l) : ax_Snd G l ax_Ym M_X2_draft 10 (S_aload 0 11) := k_aload_n dX2_draft_10 rfl
theorem r_X2_draft_11 (E : ax_EN G l) : ax_Snd G l ax_Ym M_X2_draft 11 (S_getf [(29, 7)] 14) := k_getf (en_F E) (ax_fes_cons (fe_295 E) ax_fes_nil) q294 dX2_draft_11
theorem r_X2_draft_14 (E : ax_EN G l) : ax_Snd G l ax_Ym M_X2_draft 14 (S_iload 2 15) := k_iload_n dX2_draft_14 rfl
theorem r_X2_draft_15 (E : ax_EN G l) : ax_Snd G l ax_Ym M_X2_draft 15 (S_iald 0 16) := k_iald (en_F E) dX2_draft_15
theorem r_X2_draft_16 (E : ax_EN G l) : ax_Snd G l ax_Ym M_X2_draft 16 (S_iload 1 17) := k_iload_n dX2_draft_16 rfl
theorem r_X2_draft_17 (E : ax_EN G l) : ax_Snd G l ax_Ym M_X2_draft 17 (S_if2 (fun x y => decide (y ≤ x)) 26 20) := k_icmp_ge dX2_draft_17 rfl
theorem r_X2_draft_20 (E : ax_EN G l) : ax_Snd G l ax_Ym M_X2_draft 20 (S_iinc 2 (1) 23) := k_iinc dX2_draft_20 rfl (Nat.le_of_ble_eq_true rfl)
theorem r_X2_draft_23 (E : ax_EN G l) : ax_Snd G l ax_Ym M_X2_draft 23 (S_goto 2) := k_goto dX2_draft_23 rfl
theorem r_X2_draft_26 (E : ax_EN G l) : ax_Snd G l ax_Ym M_X2_draft 26 (S_iload 2 27) := k_iload_n dX2_draft_26 rfl
theorem r_X2_draft_27 (E : ax_EN G l) : ax_Snd G l ax_Ym M_X2_draft 27 (S_aload 0 28) := k_aload_n dX2_draft_27 rfl
theorem r_X2_draft_28 (E : ax_EN G l) : ax_Snd G l ax_Ym M_X2_draft 28 (S_getf [(29, 9)] 31) := k_getf (en_F E) (ax_fes_cons (fe_318 E) ax_fes_nil) q296 dX2_draft_28
theorem r_X2_draft_31 (E : ax_EN G l) : ax_Snd G l ax_Ym M_X2_draft 31 (S_if2 (fun x y => decide (x = y)) 44 34) := k_icmp_eq dX2_draft_31 rfl
theorem r_X2_draft_34 (E : ax_EN G l) : ax_Snd G l ax_Ym M_X2_draft 34 (S_aload 0 35) := k_aload_n dX2_draft_34 rfl
theorem r_X2_draft_35 (E : ax_EN G l) : ax_Snd G l ax_Ym M_X2_draft 35 (S_getf [(29, 7)] 38) := k_getf (en_F E) (ax_fes_cons (fe_295 E) ax_fes_nil) q294 dX2_draft_35
theorem r_X2_draft_38 (E : ax_EN G l) : ax_Snd G l ax_Ym M_X2_draft 38 (S_iload 2 39) := k_iload_n dX2_draft_38 rfl
theorem r_X2_draft_39 (E : ax_EN G l) : ax_Snd G l ax_Ym M_X2_draft 39 (S_iald 0 40) := k_iald (en_F E) dX2_draft_39
theorem r_X2_draft_40 (E : ax_EN G l) : ax_Snd G l ax_Ym M_X2_draft 40 (S_iload 1 41) := k_iload_n dX2_draft_40 rfl
theorem r_X2_draft_41 (E : ax_EN G l) : ax_Snd G l ax_Ym M_X2_draft 41 (S_if2 (fun x y => decide (x = y)) 147 44) := k_icmp_eq dX2_draft_41 rfl
theorem r_X2_draft_44 (E : ax_EN G l) : ax_Snd G l ax_Ym M_X2_draft 44 (S_aload 0 45) := k_aload_n dX2_draft_44 rfl
theorem r_X2_draft_45 (E : ax_EN G l) : ax_Snd G l ax_Ym M_X2_draft 45 (S_getf [(29, 8)] 48) := k_getf (en_F E) (ax_fes_cons (fe_297 E) ax_fes_nil) q295 dX2_draft_45
theorem r_X2_draft_48 (E : ax_EN G l) : ax_Snd G l ax_Ym M_X2_draft 48 (S_aload 0 49) := k_aload_n dX2_draft_48 rfl
theorem r_X2_draft_49 (E : ax_EN G l) : ax_Snd G l ax_Ym M_X2_draft 49 (S_getf [(29, 9)] 52) := k_getf (en_F E) (ax_fes_cons (fe_318 E) ax_fes_nil) q296 dX2_draft_49
theorem r_X2_draft_52 (E : ax_EN G l) : ax_Snd G l ax_Ym M_X2_draft 52 (S_aald 5 53) := k_aald (en_F E) rfl dX2_draft_52
theorem r_X2_draft_53 (E : ax_EN G l) : ax_Snd G l ax_Ym M_X2_draft 53 (S_astore 3 54) := k_astore_n dX2_draft_53 rfl (Nat.le_of_ble_eq_true rfl)
theorem r_X2_draft_54 (E : ax_EN G l) : ax_Snd G l ax_Ym M_X2_draft 54 (S_aload 0 55) := k_aload_n dX2_draft_54 rfl
theorem r_X2_draft_55 (E : ax_EN G l) : ax_Snd G l ax_Ym M_X2_draft 55 (S_getf [(29, 9)] 58) := k_getf (en_F E) (ax_fes_cons (fe_318 E) ax_fes_nil) q296 dX2_draft_55
theorem r_X2_draft_58 (E : ax_EN G l) : ax_Snd G l ax_Ym M_X2_draft 58 (S_istore 4 60) := k_istore dX2_draft_58 (Nat.le_of_ble_eq_true rfl)
theorem r_X2_draft_60 (E : ax_EN G l) : ax_Snd G l ax_Ym M_X2_draft 60 (S_iload 4 62) := k_iload dX2_draft_60
theorem r_X2_draft_62 (E : ax_EN G l) : ax_Snd G l ax_Ym M_X2_draft 62 (S_iload 2 63) := k_iload_n dX2_draft_62 rfl
theorem r_X2_draft_63 (E : ax_EN G l) : ax_Snd G l ax_Ym M_X2_draft 63 (S_if2 (fun x y => decide (x ≤ y)) 104 66) := k_icmp_le dX2_draft_63 rfl
theorem r_X2_draft_66 (E : ax_EN G l) : ax_Snd G l ax_Ym M_X2_draft 66 (S_aload 0 67) := k_aload_n dX2_draft_66 rfl
theorem r_X2_draft_67 (E : ax_EN G l) : ax_Snd G l ax_Ym M_X2_draft 67 (S_getf [(29, 7)] 70) := k_getf (en_F E) (ax_fes_cons (fe_295 E) ax_fes_nil) q294 dX2_draft_67
theorem r_X2_draft_70 (E : ax_EN G l) : ax_Snd G l ax_Ym M_X2_draft 70 (S_iload 4 72) := k_iload dX2_draft_70
theorem r_X2_draft_72 (E : ax_EN G l) : ax_Snd G l ax_Ym M_X2_draft 72 (S_aload 0 73) := k_aload_n dX2_draft_72 rfl
theorem r_X2_draft_73 (E : ax_EN G l) : ax_Snd G l ax_Ym M_X2_draft 73 (S_getf [(29, 7)] 76) := k_getf (en_F E) (ax_fes_cons (fe_295 E) ax_fes_nil) q294 dX2_draft_73
theorem r_X2_draft_76 (E : ax_EN G l) : ax_Snd G l ax_Ym M_X2_draft 76 (S_iload 4 78) := k_iload dX2_draft_76
theorem r_X2_draft_78 (E : ax_EN G l) : ax_Snd G l ax_Ym M_X2_draft 78 (S_push (.int (1)) 79) := k_iconst dX2_draft_78 rfl
theorem r_X2_draft_79 (E : ax_EN G l) : ax_Snd G l ax_Ym M_X2_draft 79 (S_i2 (fun x y => x - y) 80) := k_isub dX2_draft_79
theorem r_X2_draft_80 (E : ax_EN G l) : ax_Snd G l ax_Ym M_X2_draft 80 (S_iald 0 81) := k_iald (en_F E) dX2_draft_80
theorem r_X2_draft_81 (E : ax_EN G l) : ax_Snd G l ax_Ym M_X2_draft 81 (S_iast 0 (fun x => x) 82) := k_iast (en_F E) dX2_draft_81
theorem r_X2_draft_82 (E : ax_EN G l) : ax_Snd G l ax_Ym M_X2_draft 82 (S_aload 0 83) := k_aload_n dX2_draft_82 rfl
theorem r_X2_draft_83 (E : ax_EN G l) : ax_Snd G l ax_Ym M_X2_draft 83 (S_getf [(29, 8)] 86) := k_getf (en_F E) (ax_fes_cons (fe_297 E) ax_fes_nil) q295 dX2_draft_83
theorem r_X2_draft_86 (E : ax_EN G l) : ax_Snd G l ax_Ym M_X2_draft 86 (S_iload 4 88) := k_iload dX2_draft_86
theorem r_X2_draft_88 (E : ax_EN G l) : ax_Snd G l ax_Ym M_X2_draft 88 (S_aload 0 89) := k_aload_n dX2_draft_88 rfl
theorem r_X2_draft_89 (E : ax_EN G l) : ax_Snd G l ax_Ym M_X2_draft 89 (S_getf [(29, 8)] 92) := k_getf (en_F E) (ax_fes_cons (fe_297 E) ax_fes_nil) q295 dX2_draft_89
theorem r_X2_draft_92 (E : ax_EN G l) : ax_Snd G l ax_Ym M_X2_draft 92 (S_iload 4 94) := k_iload dX2_draft_92
theorem r_X2_draft_94 (E : ax_EN G l) : ax_Snd G l ax_Ym M_X2_draft 94 (S_push (.int (1)) 95) := k_iconst dX2_draft_94 rfl
theorem r_X2_draft_95 (E : ax_EN G l) : ax_Snd G l ax_Ym M_X2_draft 95 (S_i2 (fun x y => x - y) 96) := k_isub dX2_draft_95
theorem r_X2_draft_96 (E : ax_EN G l) : ax_Snd G l ax_Ym M_X2_draft 96 (S_aald 5 97) := k_aald (en_F E) rfl dX2_draft_96
theorem r_X2_draft_97 (E : ax_EN G l) : ax_Snd G l ax_Ym M_X2_draft 97 (S_aastA 98) := k_aastA (en_F E) (en_B E) q278 dX2_draft_97
theorem r_X2_draft_98 (E : ax_EN G l) : ax_Snd G l ax_Ym M_X2_draft 98 (S_iinc 4 (-1) 101) := k_iinc dX2_draft_98 rfl (Nat.le_of_ble_eq_true rfl)
theorem r_X2_draft_101 (E : ax_EN G l) : ax_Snd G l ax_Ym M_X2_draft 101 (S_goto 60) := k_goto dX2_draft_101 rfl
theorem r_X2_draft_104 (E : ax_EN G l) : ax_Snd G l ax_Ym M_X2_draft 104 (S_aload 0 105) := k_aload_n dX2_draft_104 rfl
theorem r_X2_draft_105 (E : ax_EN G l) : ax_Snd G l ax_Ym M_X2_draft 105 (S_getf [(29, 7)] 108) := k_getf (en_F E) (ax_fes_cons (fe_295 E) ax_fes_nil) q294 dX2_draft_105
theorem r_X2_draft_108 (E : ax_EN G l) : ax_Snd G l ax_Ym M_X2_draft 108 (S_iload 2 109) := k_iload_n dX2_draft_108 rfl
theorem r_X2_draft_109 (E : ax_EN G l) : ax_Snd G l ax_Ym M_X2_draft 109 (S_iload 1 110) := k_iload_n dX2_draft_109 rfl
theorem r_X2_draft_110 (E : ax_EN G l) : ax_Snd G l ax_Ym M_X2_draft 110 (S_iast 0 (fun x => x) 111) := k_iast (en_F E) dX2_draft_110
theorem r_X2_draft_111 (E : ax_EN G l) : ax_Snd G l ax_Ym M_X2_draft 111 (S_aload 0 112) := k_aload_n dX2_draft_111 rfl
theorem r_X2_draft_112 (E : ax_EN G l) : ax_Snd G l ax_Ym M_X2_draft 112 (S_getf [(29, 8)] 115) := k_getf (en_F E) (ax_fes_cons (fe_297 E) ax_fes_nil) q295 dX2_draft_112
theorem r_X2_draft_115 (E : ax_EN G l) : ax_Snd G l ax_Ym M_X2_draft 115 (S_iload 2 116) := k_iload_n dX2_draft_115 rfl
theorem r_X2_draft_116 (E : ax_EN G l) : ax_Snd G l ax_Ym M_X2_draft 116 (S_aload 3 117) := k_aload_n dX2_draft_116 rfl
theorem r_X2_draft_117 (E : ax_EN G l) : ax_Snd G l ax_Ym M_X2_draft 117 (S_aastA 118) := k_aastA (en_F E) (en_B E) q278 dX2_draft_117
theorem r_X2_draft_118 (E : ax_EN G l) : ax_Snd G l ax_Ym M_X2_draft 118 (S_aload 0 119) := k_aload_n dX2_draft_118 rfl
theorem r_X2_draft_119 (E : ax_EN G l) : ax_Snd G l ax_Ym M_X2_draft 119 (S_getf [(29, 0)] 122) := k_getf (en_F E) (ax_fes_cons (fe_158 E) ax_fes_nil) q283 dX2_draft_119
theorem r_X2_draft_122 (E : ax_EN G l) : ax_Snd G l ax_Ym M_X2_draft 122 (S_push (.int (365)) 125) := k_sipush dX2_draft_122 rfl
theorem r_X2_draft_125 (E : ax_EN G l) : ax_Snd G l ax_Ym M_X2_draft 125 (S_push (.int (8)) 127) := k_bipush dX2_draft_125 rfl
theorem r_X2_draft_127 (E : ax_EN G l) : ax_Snd G l ax_Ym M_X2_draft 127 (S_iload 1 128) := k_iload_n dX2_draft_127 rfl
theorem r_X2_draft_128 (E : ax_EN G l) : ax_Snd G l ax_Ym M_X2_draft 128 (S_i2 (fun x y => x * y) 129) := k_imul dX2_draft_128
theorem r_X2_draft_129 (E : ax_EN G l) : ax_Snd G l ax_Ym M_X2_draft 129 (S_i2 (fun x y => x + y) 130) := k_iadd dX2_draft_129
theorem r_X2_draft_130 (E : ax_EN G l) : ax_Snd G l ax_Ym M_X2_draft 130 (S_aload 3 131) := k_aload_n dX2_draft_130 rfl
theorem r_X2_draft_131 (E : ax_EN G l) : ax_Snd G l ax_Ym M_X2_draft 131 (S_push (.int (0)) 132) := k_iconst dX2_draft_131 rfl
theorem r_X2_draft_132 (E : ax_EN G l) : ax_Snd G l ax_Ym M_X2_draft 132 (S_push (.int (8)) 134) := k_bipush dX2_draft_132 rfl
theorem r_X2_draft_134 (E : ax_EN G l) : ax_Snd G l ax_Ym M_X2_draft 134 (S_acp 137) := k_acp (en_F E) (en_B E) ⟨q1980, q603, q602, q137⟩ (ax_objs_c E) dX2_draft_134
theorem r_X2_draft_137 (E : ax_EN G l) : ax_Snd G l ax_Ym M_X2_draft 137 (S_aload 0 138) := k_aload_n dX2_draft_137 rfl
theorem r_X2_draft_138 (E : ax_EN G l) : ax_Snd G l ax_Ym M_X2_draft 138 (S_dup 139) := k_dup dX2_draft_138
theorem r_X2_draft_139 (E : ax_EN G l) : ax_Snd G l ax_Ym M_X2_draft 139 (S_getf [(29, 9)] 142) := k_getf (en_F E) (ax_fes_cons (fe_318 E) ax_fes_nil) q296 dX2_draft_139
theorem r_X2_draft_142 (E : ax_EN G l) : ax_Snd G l ax_Ym M_X2_draft 142 (S_push (.int (1)) 143) := k_iconst dX2_draft_142 rfl
theorem r_X2_draft_143 (E : ax_EN G l) : ax_Snd G l ax_Ym M_X2_draft 143 (S_i2 (fun x y => x + y) 144) := k_iadd dX2_draft_143
theorem r_X2_draft_144 (E : ax_EN G l) : ax_Snd G l ax_Ym M_X2_draft 144 (S_putf [(29, 9)] (.int) 147) := k_putf (en_F E) (en_P E) (ax_fes_cons (fe_318 E) ax_fes_nil) (ax_fps_cons (fp_319 E) ax_fps_nil) q296 dX2_draft_144
theorem r_X2_draft_147 (E : ax_EN G l) : ax_Snd G l ax_Ym M_X2_draft 147 (S_aload 0 148) := k_aload_n dX2_draft_147 rfl
theorem r_X2_draft_148 (E : ax_EN G l) : ax_Snd G l ax_Ym M_X2_draft 148 (S_getf [(29, 8)] 151) := k_getf (en_F E) (ax_fes_cons (fe_297 E) ax_fes_nil) q295 dX2_draft_148
theorem r_X2_draft_151 (E : ax_EN G l) : ax_Snd G l ax_Ym M_X2_draft 151 (S_iload 2 152) := k_iload_n dX2_draft_151 rfl
theorem r_X2_draft_152 (E : ax_EN G l) : ax_Snd G l ax_Ym M_X2_draft 152 (S_aald 5 153) := k_aald (en_F E) rfl dX2_draft_152
theorem r_X2_draft_153 (E : ax_EN G l) : ax_Snd G l ax_Ym M_X2_draft 153 (S_aret) := k_aret dX2_draft_153 rfl (Or.inr ⟨_, rfl⟩)
theorem mt_X2_draft (E : ax_EN G l) : ax_mt G l ax_Ym (5, P_X2_draft) (ax_Ym 339) := ⟨M_X2_draft, yX2_draft, ⟨rfl, by decide +kernel, rfl, (fun h => by cases h), Or.inl ⟨rfl, rfl⟩⟩, fun pc => (ax_sn_node (ax_sn_node (ax_sn_node (ax_sn_node (ax_sn_node (ax_sn_node (ax_sn_node (ax_sn_leaf (r_X2_draft_153 E)) (ax_sn_leaf (r_X2_draft_152 E))) (ax_sn_leaf (r_X2_draft_151 E))) (ax_sn_node (ax_sn_node (ax_sn_leaf (r_X2_draft_148 E)) (ax_sn_leaf (r_X2_draft_147 E))) (ax_sn_leaf (r_X2_draft_144 E)))) (ax_sn_node (ax_sn_node (ax_sn_node (ax_sn_leaf (r_X2_draft_143 E)) (ax_sn_leaf (r_X2_draft_142 E))) (ax_sn_leaf (r_X2_draft_139 E))) (ax_sn_node (ax_sn_node (ax_sn_leaf (r_X2_draft_138 E)) (ax_sn_leaf (r_X2_draft_137 E))) (ax_sn_leaf (r_X2_draft_134 E))))) (ax_sn_node (ax_sn_node (ax_sn_node (ax_sn_node (ax_sn_leaf (r_X2_draft_132 E)) (ax_sn_leaf (r_X2_draft_131 E))) (ax_sn_leaf (r_X2_draft_130 E))) (ax_sn_node (ax_sn_node (ax_sn_leaf (r_X2_draft_129 E)) (ax_sn_leaf (r_X2_draft_128 E))) (ax_sn_leaf (r_X2_draft_127 E)))) (ax_sn_node (ax_sn_node (ax_sn_node (ax_sn_leaf (r_X2_draft_125 E)) (ax_sn_leaf (r_X2_draft_122 E))) (ax_sn_leaf (r_X2_draft_119 E))) (ax_sn_node (ax_sn_leaf (r_X2_draft_118 E)) (ax_sn_leaf (r_X2_draft_117 E)))))) (ax_sn_node (ax_sn_node (ax_sn_node (ax_sn_node (ax_sn_node (ax_sn_leaf (r_X2_draft_116 E)) (ax_sn_leaf (r_X2_draft_115 E))) (ax_sn_leaf (r_X2_draft_112 E))) (ax_sn_node (ax_sn_node (ax_sn_leaf (r_X2_draft_111 E)) (ax_sn_leaf (r_X2_draft_110 E))) (ax_sn_leaf (r_X2_draft_109 E)))) (ax_sn_node (ax_sn_node (ax_sn_node (ax_sn_leaf (r_X2_draft_108 E)) (ax_sn_leaf (r_X2_draft_105 E))) (ax_sn_leaf (r_X2_draft_104 E))) (ax_sn_node (ax_sn_leaf (r_X2_draft_101 E)) (ax_sn_leaf (r_X2_draft_98 E))))) (ax_sn_node (ax_sn_node (ax_sn_node (ax_sn_node (ax_sn_leaf (r_X2_draft_97 E)) (ax_sn_leaf (r_X2_draft_96 E))) (ax_sn_leaf (r_X2_draft_95 E))) (ax_sn_node (ax_sn_node (ax_sn_leaf (r_X2_draft_94 E)) (ax_sn_leaf (r_X2_draft_92 E))) (ax_sn_leaf (r_X2_draft_89 E)))) (ax_sn_node (ax_sn_node (ax_sn_node (ax_sn_leaf (r_X2_draft_88 E)) (ax_sn_leaf (r_X2_draft_86 E))) (ax_sn_leaf (r_X2_draft_83 E))) (ax_sn_node (ax_sn_leaf (r_X2_draft_82 E)) (ax_sn_leaf (r_X2_draft_81 E))))))) (ax_sn_node (ax_sn_node (ax_sn_node (ax_sn_node (ax_sn_node (ax_sn_node (ax_sn_leaf (r_X2_draft_80 E)) (ax_sn_leaf (r_X2_draft_79 E))) (ax_sn_leaf (r_X2_draft_78 E))) (ax_sn_node (ax_sn_node (ax_sn_leaf (r_X2_draft_76 E)) (ax_sn_leaf (r_X2_draft_73 E))) (ax_sn_leaf (r_X2_draft_72 E)))) (ax_sn_node (ax_sn_node (ax_sn_node (ax_sn_leaf (r_X2_draft_70 E)) (ax_sn_leaf (r_X2_draft_67 E))) (ax_sn_leaf (r_X2_draft_66 E))) (ax_sn_node (ax_sn_node (ax_sn_leaf (r_X2_draft_63 E)) (ax_sn_leaf (r_X2_draft_62 E))) (ax_sn_leaf (r_X2_draft_60 E))))) (ax_sn_node (ax_sn_node (ax_sn_node (ax_sn_node (ax_sn_leaf (r_X2_draft_58 E)) (ax_sn_leaf (r_X2_draft_55 E))) (ax_sn_leaf (r_X2_draft_54 E))) (ax_sn_node (ax_sn_node (ax_sn_leaf (r_X2_draft_53 E)) (ax_sn_leaf (r_X2_draft_52 E))) (ax_sn_leaf (r_X2_draft_49 E)))) (ax_sn_node (ax_sn_node (ax_sn_node (ax_sn_leaf (r_X2_draft_48 E)) (ax_sn_leaf (r_X2_draft_45 E))) (ax_sn_leaf (r_X2_draft_44 E))) (ax_sn_node (ax_sn_leaf (r_X2_draft_41 E)) (ax_sn_leaf (r_X2_draft_40 E)))))) (ax_sn_node (ax_sn_node (ax_sn_node (ax_sn_node (ax_sn_node (ax_sn_leaf (r_X2_draft_39 E)) (ax_sn_leaf (r_X2_draft_38 E))) (ax_sn_leaf (r_X2_draft_35 E))) (ax_sn_node (ax_sn_node (ax_sn_leaf (r_X2_draft_34 E)) (ax_sn_leaf (r_X2_draft_31 E))) (ax_sn_leaf (r_X2_draft_28 E)))) (ax_sn_node (ax_sn_node (ax_sn_node (ax_sn_leaf (r_X2_draft_27 E)) (ax_sn_leaf (r_X2_draft_26 E))) (ax_sn_leaf (r_X2_draft_23 E))) (ax_sn_node (ax_sn_leaf (r_X2_draft_20 E)) (ax_sn_leaf (r_X2_draft_17 E))))) (ax_sn_node (ax_sn_node (ax_sn_node (ax_sn_node (ax_sn_leaf (r_X2_draft_16 E)) (ax_sn_leaf (r_X2_draft_15 E))) (ax_sn_leaf (r_X2_draft_14 E))) (ax_sn_node (ax_sn_node (ax_sn_leaf (r_X2_draft_11 E)) (ax_sn_leaf (r_X2_draft_10 E))) (ax_sn_leaf (r_X2_draft_7 E)))) (ax_sn_node (ax_sn_node (ax_sn_node (ax_sn_leaf (r_X2_draft_4 E)) (ax_sn_leaf (r_X2_draft_3 E))) (ax_sn_leaf (r_X2_draft_2 E))) (ax_sn_node (ax_sn_leaf (r_X2_draft_1 E)) (ax_sn_leaf (r_X2_draft_0 E))))))))⟩
theorem r_X2_append_0 (E : ax_EN G l) : ax_Snd G l ax_Ym M_X2_append 0 (S_aload 0 1) := k_aload_n dX2_append_0 rfl
theorem r_X2_append_1 (E : ax_EN G l) : ax_Snd G l ax_Ym M_X2_append 1 (S_iload 1 2) := k_iload_n dX2_append_1 rfl
theorem r_X2_append_2 (E : ax_EN G l) : ax_Snd G l ax_Ym M_X2_append 2 (S_push (.int (1)) 3) := k_iconst dX2_append_2 rfl
theorem r_X2_append_3 (E : ax_EN G l) : ax_Snd G l ax_Ym M_X2_append 3 (S_iv [(29, 305)] 2 6 hd_0) := k_iv (en_F E) (ax_ok0 E rfl) (ax_Evs_cons ((ev_v (en_c E (k := 29) rfl) rfl y_X2_entry q1355 q1271 qs11 q122 q1272 nm_X2_entry (Nat.le_of_ble_eq_true rfl) dX2_append_3) : ax_EvV G l ax_Ym M_X2_append 3 2 3 29 305) ax_Evs_nil)
theorem r_X2_append_6 (E : ax_EN G l) : ax_Snd G l ax_Ym M_X2_append 6 (S_istore 3 7) := k_istore_n dX2_append_6 rfl (Nat.le_of_ble_eq_true rfl)
theorem r_X2_append_7 (E : ax_EN G l) : ax_Snd G l ax_Ym M_X2_append 7 (S_push (.int (2)) 8) := k_iconst dX2_append_7 rfl
theorem r_X2_append_8 (E : ax_EN G l) : ax_Snd G l ax_Ym M_X2_append 8 (S_iload 3 9) := k_iload_n dX2_append_8 rfl
theorem r_X2_append_9 (E : ax_EN G l) : ax_Snd G l ax_Ym M_X2_append 9 (S_push (.int (8)) 11) := k_bipush dX2_append_9 rfl
theorem r_X2_append_11 (E : ax_EN G l) : ax_Snd G l ax_Ym M_X2_append 11 (S_id (fun x y => x / y) 12) := k_idiv dX2_append_11
theorem r_X2_append_12 (E : ax_EN G l) : ax_Snd G l ax_Ym M_X2_append 12 (S_i2 (fun x y => x + y) 13) := k_iadd dX2_append_12
theorem r_X2_append_13 (E : ax_EN G l) : ax_Snd G l ax_Ym M_X2_append 13 (S_istore 4 15) := k_istore dX2_append_13 (Nat.le_of_ble_eq_true rfl)
theorem r_X2_append_15 (E : ax_EN G l) : ax_Snd G l ax_Ym M_X2_append 15 (S_iload 3 16) := k_iload_n dX2_append_15 rfl
theorem r_X2_append_16 (E : ax_EN G l) : ax_Snd G l ax_Ym M_X2_append 16 (S_push (.int (8)) 18) := k_bipush dX2_append_16 rfl
theorem r_X2_append_18 (E : ax_EN G l) : ax_Snd G l ax_Ym M_X2_append 18 (S_id (fun x y => x - x / y * y) 19) := k_irem dX2_append_18
theorem r_X2_append_19 (E : ax_EN G l) : ax_Snd G l ax_Ym M_X2_append 19 (S_if1 (fun x => decide (¬ x = 0)) 26 22) := k_if_ne dX2_append_19 rfl
theorem r_X2_append_22 (E : ax_EN G l) : ax_Snd G l ax_Ym M_X2_append 22 (S_push (.int (1)) 23) := k_iconst dX2_append_22 rfl
theorem r_X2_append_23 (E : ax_EN G l) : ax_Snd G l ax_Ym M_X2_append 23 (S_goto 27) := k_goto dX2_append_23 rfl
theorem r_X2_append_26 (E : ax_EN G l) : ax_Snd G l ax_Ym M_X2_append 26 (S_push (.int (0)) 27) := k_iconst dX2_append_26 rfl
theorem r_X2_append_27 (E : ax_EN G l) : ax_Snd G l ax_Ym M_X2_append 27 (S_istore 5 29) := k_istore dX2_append_27 (Nat.le_of_ble_eq_true rfl)
theorem r_X2_append_29 (E : ax_EN G l) : ax_Snd G l ax_Ym M_X2_append 29 (S_iload 3 30) := k_iload_n dX2_append_29 rfl
theorem r_X2_append_30 (E : ax_EN G l) : ax_Snd G l ax_Ym M_X2_append 30 (S_push (.int (16)) 32) := k_bipush dX2_append_30 rfl
theorem r_X2_append_32 (E : ax_EN G l) : ax_Snd G l ax_Ym M_X2_append 32 (S_if2 (fun x y => decide (¬ x = y)) 37 35) := k_icmp_ne dX2_append_32 rfl
theorem r_X2_append_35 (E : ax_EN G l) : ax_Snd G l ax_Ym M_X2_append 35 (S_push (.int (2)) 36) := k_iconst dX2_append_35 rfl
theorem r_X2_append_36 (E : ax_EN G l) : ax_Snd G l ax_Ym M_X2_append 36 (S_iret) := k_iret dX2_append_36 rfl
theorem r_X2_append_37 (E : ax_EN G l) : ax_Snd G l ax_Ym M_X2_append 37 (S_iload 5 39) := k_iload dX2_append_37
theorem r_X2_append_39 (E : ax_EN G l) : ax_Snd G l ax_Ym M_X2_append 39 (S_if1 (fun x => decide (x = 0)) 49 42) := k_if_eq dX2_append_39 rfl
theorem r_X2_append_42 (E : ax_EN G l) : ax_Snd G l ax_Ym M_X2_append 42 (S_aload 0 43) := k_aload_n dX2_append_42 rfl
theorem r_X2_append_43 (E : ax_EN G l) : ax_Snd G l ax_Ym M_X2_append 43 (S_iv [(29, 341)] 0 46 hd_0) := k_iv (en_F E) (ax_ok0 E rfl) (ax_Evs_cons ((ev_v (en_c E (k := 29) rfl) rfl y_X2_firstFree q2263 q2265 qs50 q122 q2266 nm_X2_firstFree (Nat.le_of_ble_eq_true rfl) dX2_append_43) : ax_EvV G l ax_Ym M_X2_append 43 0 3 29 341) ax_Evs_nil)
theorem r_X2_append_46 (E : ax_EN G l) : ax_Snd G l ax_Ym M_X2_append 46 (S_goto 56) := k_goto dX2_append_46 rfl
theorem r_X2_append_49 (E : ax_EN G l) : ax_Snd G l ax_Ym M_X2_append 49 (S_aload 0 50) := k_aload_n dX2_append_49 rfl
theorem r_X2_append_50 (E : ax_EN G l) : ax_Snd G l ax_Ym M_X2_append 50 (S_iload 1 51) := k_iload_n dX2_append_50 rfl
theorem r_X2_append_51 (E : ax_EN G l) : ax_Snd G l ax_Ym M_X2_append 51 (S_iload 4 53) := k_iload dX2_append_51
theorem r_X2_append_53 (E : ax_EN G l) : ax_Snd G l ax_Ym M_X2_append 53 (S_iv [(29, 305)] 2 56 hd_0) := k_iv (en_F E) (ax_ok0 E rfl) (ax_Evs_cons ((ev_v (en_c E (k := 29) rfl) rfl y_X2_entry q1355 q1271 qs11 q122 q1272 nm_X2_entry (Nat.le_of_ble_eq_true rfl) dX2_append_53) : ax_EvV G l ax_Ym M_X2_append 53 2 3 29 305) ax_Evs_nil)
theorem r_X2_append_56 (E : ax_EN G l) : ax_Snd G l ax_Ym M_X2_append 56 (S_istore 6 58) := k_istore dX2_append_56 (Nat.le_of_ble_eq_true rfl)
theorem r_X2_append_58 (E : ax_EN G l) : ax_Snd G l ax_Ym M_X2_append 58 (S_iload 6 60) := k_iload dX2_append_58
theorem r_X2_append_60 (E : ax_EN G l) : ax_Snd G l ax_Ym M_X2_append 60 (S_push (.int (-1)) 61) := k_iconst dX2_append_60 rfl
theorem r_X2_append_61 (E : ax_EN G l) : ax_Snd G l ax_Ym M_X2_append 61 (S_if2 (fun x y => decide (¬ x = y)) 66 64) := k_icmp_ne dX2_append_61 rfl
theorem r_X2_append_64 (E : ax_EN G l) : ax_Snd G l ax_Ym M_X2_append 64 (S_push (.int (3)) 65) := k_iconst dX2_append_64 rfl
theorem r_X2_append_65 (E : ax_EN G l) : ax_Snd G l ax_Ym M_X2_append 65 (S_iret) := k_iret dX2_append_65 rfl
theorem r_X2_append_66 (E : ax_EN G l) : ax_Snd G l ax_Ym M_X2_append 66 (S_aload 0 67) := k_aload_n dX2_append_66 rfl
theorem r_X2_append_67 (E : ax_EN G l) : ax_Snd G l ax_Ym M_X2_append 67 (S_iload 6 69) := k_iload dX2_append_67
theorem r_X2_append_69 (E : ax_EN G l) : ax_Snd G l ax_Ym M_X2_append 69 (S_iv [(29, 339)] 1 72 hd_0) := k_iv (en_F E) (ax_ok0 E rfl) (ax_Evs_cons ((ev_v (en_c E (k := 29) rfl) rfl y_X2_draft q2255 q2257 qs48 q122 q2258 nm_X2_draft (Nat.le_of_ble_eq_true rfl) dX2_append_69) : ax_EvV G l ax_Ym M_X2_append 69 1 3 29 339) ax_Evs_nil)
theorem r_X2_append_72 (E : ax_EN G l) : ax_Snd G l ax_Ym M_X2_append 72 (S_astore 7 74) := k_astore dX2_append_72 (Nat.le_of_ble_eq_true rfl)
theorem r_X2_append_74 (E : ax_EN G l) : ax_Snd G l ax_Ym M_X2_append 74 (S_push (.int (0)) 75) := k_iconst dX2_append_74 rfl
theorem r_X2_append_75 (E : ax_EN G l) : ax_Snd G l ax_Ym M_X2_append 75 (S_istore 8 77) := k_istore dX2_append_75 (Nat.le_of_ble_eq_true rfl)
theorem r_X2_append_77 (E : ax_EN G l) : ax_Snd G l ax_Ym M_X2_append 77 (S_iload 5 79) := k_iload dX2_append_77
theorem r_X2_append_79 (E : ax_EN G l) : ax_Snd G l ax_Ym M_X2_append 79 (S_if1 (fun x => decide (x = 0)) 101 82) := k_if_eq dX2_append_79 rfl
theorem r_X2_append_82 (E : ax_EN G l) : ax_Snd G l ax_Ym M_X2_append 82 (S_iload 8 84) := k_iload dX2_append_82
theorem r_X2_append_84 (E : ax_EN G l) : ax_Snd G l ax_Ym M_X2_append 84 (S_push (.int (8)) 86) := k_bipush dX2_append_84 rfl
theorem r_X2_append_86 (E : ax_EN G l) : ax_Snd G l ax_Ym M_X2_append 86 (S_if2 (fun x y => decide (y ≤ x)) 101 89) := k_icmp_ge dX2_append_86 rfl
theorem r_X2_append_89 (E : ax_EN G l) : ax_Snd G l ax_Ym M_X2_append 89 (S_aload 7 91) := k_aload dX2_append_89
theorem r_X2_append_91 (E : ax_EN G l) : ax_Snd G l ax_Ym M_X2_append 91 (S_iload 8 93) := k_iload dX2_append_91
theorem r_X2_append_93 (E : ax_EN G l) : ax_Snd G l ax_Ym M_X2_append 93 (S_push (.int (0)) 94) := k_iconst dX2_append_93 rfl
theorem r_X2_append_94 (E : ax_EN G l) : ax_Snd G l ax_Ym M_X2_append 94 (S_iast 0 (fun x => x) 95) := k_iast (en_F E) dX2_append_94
theorem r_X2_append_95 (E : ax_EN G l) : ax_Snd G l ax_Ym M_X2_append 95 (S_iinc 8 (1) 98) := k_iinc dX2_append_95 rfl (Nat.le_of_ble_eq_true rfl)
theorem r_X2_append_98 (E : ax_EN G l) : ax_Snd G l ax_Ym M_X2_append 98 (S_goto 77) := k_goto dX2_append_98 rfl
theorem r_X2_append_101 (E : ax_EN G l) : ax_Snd G l ax_Ym M_X2_append 101 (S_aload 7 103) := k_aload dX2_append_101
theorem r_X2_append_103 (E : ax_EN G l) : ax_Snd G l ax_Ym M_X2_append 103 (S_iload 3 104) := k_iload_n dX2_append_103 rfl
theorem r_X2_append_104 (E : ax_EN G l) : ax_Snd G l ax_Ym M_X2_append 104 (S_push (.int (8)) 106) := k_bipush dX2_append_104 rfl
theorem r_X2_append_106 (E : ax_EN G l) : ax_Snd G l ax_Ym M_X2_append 106 (S_id (fun x y => x - x / y * y) 107) := k_irem dX2_append_106
theorem r_X2_append_107 (E : ax_EN G l) : ax_Snd G l ax_Ym M_X2_append 107 (S_iload 2 108) := k_iload_n dX2_append_107 rfl
theorem r_X2_append_108 (E : ax_EN G l) : ax_Snd G l ax_Ym M_X2_append 108 (S_iast 0 (fun x => x) 109) := k_iast (en_F E) dX2_append_108
theorem r_X2_append_109 (E : ax_EN G l) : ax_Snd G l ax_Ym M_X2_append 109 (S_iload 5 111) := k_iload dX2_append_109
theorem r_X2_append_111 (E : ax_EN G l) : ax_Snd G l ax_Ym M_X2_append 111 (S_if1 (fun x => decide (x = 0)) 130 114) := k_if_eq dX2_append_111 rfl
theorem r_X2_append_114 (E : ax_EN G l) : ax_Snd G l ax_Ym M_X2_append 114 (S_aload 0 115) := k_aload_n dX2_append_114 rfl
theorem r_X2_append_115 (E : ax_EN G l) : ax_Snd G l ax_Ym M_X2_append 115 (S_iload 6 117) := k_iload dX2_append_115
theorem r_X2_append_117 (E : ax_EN G l) : ax_Snd G l ax_Ym M_X2_append 117 (S_push (.int (1)) 118) := k_iconst dX2_append_117 rfl
theorem r_X2_append_118 (E : ax_EN G l) : ax_Snd G l ax_Ym M_X2_append 118 (S_iv [(29, 342)] 2 121 hd_0) := k_iv (en_F E) (ax_ok0 E rfl) (ax_Evs_cons ((ev_v (en_c E (k := 29) rfl) rfl y_X2_mark q2267 q2269 qs51 q122 q2270 nm_X2_mark (Nat.le_of_ble_eq_true rfl) dX2_append_118) : ax_EvV G l ax_Ym M_X2_append 118 2 3 29 342) ax_Evs_nil)
theorem r_X2_append_121 (E : ax_EN G l) : ax_Snd G l ax_Ym M_X2_append 121 (S_aload 0 122) := k_aload_n dX2_append_121 rfl
theorem r_X2_append_122 (E : ax_EN G l) : ax_Snd G l ax_Ym M_X2_append 122 (S_iload 1 123) := k_iload_n dX2_append_122 rfl
theorem r_X2_append_123 (E : ax_EN G l) : ax_Snd G l ax_Ym M_X2_append 123 (S_iload 4 125) := k_iload dX2_append_123
theorem r_X2_append_125 (E : ax_EN G l) : ax_Snd G l ax_Ym M_X2_append 125 (S_iload 6 127) := k_iload dX2_append_125
theorem r_X2_append_127 (E : ax_EN G l) : ax_Snd G l ax_Ym M_X2_append 127 (S_iv [(29, 338)] 3 130 hd_0) := k_iv (en_F E) (ax_ok0 E rfl) (ax_Evs_cons ((ev_v (en_c E (k := 29) rfl) rfl y_X2_setEntry q2251 q2253 qs47 q122 q2254 nm_X2_setEntry (Nat.le_of_ble_eq_true rfl) dX2_append_127) : ax_EvV G l ax_Ym M_X2_append 127 3 3 29 338) ax_Evs_nil)
theorem r_X2_append_130 (E : ax_EN G l) : ax_Snd G l ax_Ym M_X2_append 130 (S_aload 0 131) := k_aload_n dX2_append_130 rfl
theorem r_X2_append_131 (E : ax_EN G l) : ax_Snd G l ax_Ym M_X2_append 131 (S_iload 1 132) := k_iload_n dX2_append_131 rfl
theorem r_X2_append_132 (E : ax_EN G l) : ax_Snd G l ax_Ym M_X2_append 132 (S_push (.int (1)) 133) := k_iconst dX2_append_132 rfl
theorem r_X2_append_133 (E : ax_EN G l) : ax_Snd G l ax_Ym M_X2_append 133 (S_iload 3 134) := k_iload_n dX2_append_133 rfl
theorem r_X2_append_134 (E : ax_EN G l) : ax_Snd G l ax_Ym M_X2_append 134 (S_push (.int (1)) 135) := k_iconst dX2_append_134 rfl
theorem r_X2_append_135 (E : ax_EN G l) : ax_Snd G l ax_Ym M_X2_append 135 (S_i2 (fun x y => x + y) 136) := k_iadd dX2_append_135
theorem r_X2_append_136 (E : ax_EN G l) : ax_Snd G l ax_Ym M_X2_append 136 (S_iv [(29, 338)] 3 139 hd_0) := k_iv (en_F E) (ax_ok0 E rfl) (ax_Evs_cons ((ev_v (en_c E (k := 29) rfl) rfl y_X2_setEntry q2251 q2253 qs47 q122 q2254 nm_X2_setEntry (Nat.le_of_ble_eq_true rfl) dX2_append_136) : ax_EvV G l ax_Ym M_X2_append 136 3 3 29 338) ax_Evs_nil)
theorem r_X2_append_139 (E : ax_EN G l) : ax_Snd G l ax_Ym M_X2_append 139 (S_push (.int (0)) 140) := k_iconst dX2_append_139 rfl
theorem r_X2_append_140 (E : ax_EN G l) : ax_Snd G l ax_Ym M_X2_append 140 (S_iret) := k_iret dX2_append_140 rfl
theorem mt_X2_append (E : ax_EN G l) : ax_mt G l ax_Ym (9, P_X2_append) (ax_Ym 340) := ⟨M_X2_append, yX2_append, ⟨rfl, by decide +kernel, rfl, (fun h => by cases h), Or.inl ⟨rfl, rfl⟩⟩, fun pc => (ax_sn_node (ax_sn_node (ax_sn_node (ax_sn_node (ax_sn_node (ax_sn_node (ax_sn_node (ax_sn_leaf (r_X2_append_140 E)) (ax_sn_leaf (r_X2_append_139 E))) (ax_sn_leaf (r_X2_append_136 E))) (ax_sn_node (ax_sn_node (ax_sn_leaf (r_X2_append_135 E)) (ax_sn_leaf (r_X2_append_134 E))) (ax_sn_leaf (r_X2_append_133 E)))) (ax_sn_node (ax_sn_node (ax_sn_node (ax_sn_leaf (r_X2_append_132 E)) (ax_sn_leaf (r_X2_append_131 E))) (ax_sn_leaf (r_X2_append_130 E))) (ax_sn_node (ax_sn_leaf (r_X2_append_127 E)) (ax_sn_leaf (r_X2_append_125 E))))) (ax_sn_node (ax_sn_node (ax_sn_node (ax_sn_node (ax_sn_leaf (r_X2_append_123 E)) (ax_sn_leaf (r_X2_append_122 E))) (ax_sn_leaf (r_X2_append_121 E))) (ax_sn_node (ax_sn_leaf (r_X2_append_118 E)) (ax_sn_leaf (r_X2_append_117 E)))) (ax_sn_node (ax_sn_node (ax_sn_node (ax_sn_leaf (r_X2_append_115 E)) (ax_sn_leaf (r_X2_append_114 E))) (ax_sn_leaf (r_X2_append_111 E))) (ax_sn_node (ax_sn_leaf (r_X2_append_109 E)) (ax_sn_leaf (r_X2_append_108 E)))))) (ax_sn_node (ax_sn_node (ax_sn_node (ax_sn_node (ax_sn_node (ax_sn_leaf (r_X2_append_107 E)) (ax_sn_leaf (r_X2_append_106 E))) (ax_sn_leaf (r_X2_append_104 E))) (ax_sn_node (ax_sn_leaf (r_X2_append_103 E)) (ax_sn_leaf (r_X2_append_101 E)))) (ax_sn_node (ax_sn_node (ax_sn_node (ax_sn_leaf (r_X2_append_98 E)) (ax_sn_leaf (r_X2_append_95 E))) (ax_sn_leaf (r_X2_append_94 E))) (ax_sn_node (ax_sn_leaf (r_X2_append_93 E)) (ax_sn_leaf (r_X2_append_91 E))))) (ax_sn_node (ax_sn_node (ax_sn_node (ax_sn_node (ax_sn_leaf (r_X2_append_89 E)) (ax_sn_leaf (r_X2_append_86 E))) (ax_sn_leaf (r_X2_append_84 E))) (ax_sn_node (ax_sn_leaf (r_X2_append_82 E)) (ax_sn_leaf (r_X2_append_79 E)))) (ax_sn_node (ax_sn_node (ax_sn_node (ax_sn_leaf (r_X2_append_77 E)) (ax_sn_leaf (r_X2_append_75 E))) (ax_sn_leaf (r_X2_append_74 E))) (ax_sn_node (ax_sn_leaf (r_X2_append_72 E)) (ax_sn_leaf (r_X2_append_69 E))))))) (ax_sn_node (ax_sn_node (ax_sn_node (ax_sn_node (ax_sn_node (ax_sn_node (ax_sn_leaf (r_X2_append_67 E)) (ax_sn_leaf (r_X2_append_66 E))) (ax_sn_leaf (r_X2_append_65 E))) (ax_sn_node (ax_sn_node (ax_sn_leaf (r_X2_append_64 E)) (ax_sn_leaf (r_X2_append_61 E))) (ax_sn_leaf (r_X2_append_60 E)))) (ax_sn_node (ax_sn_node (ax_sn_node (ax_sn_leaf (r_X2_append_58 E)) (ax_sn_leaf (r_X2_append_56 E))) (ax_sn_leaf (r_X2_append_53 E))) (ax_sn_node (ax_sn_leaf (r_X2_append_51 E)) (ax_sn_leaf (r_X2_append_50 E))))) (ax_sn_node (ax_sn_node (ax_sn_node (ax_sn_node (ax_sn_leaf (r_X2_append_49 E)) (ax_sn_leaf (r_X2_append_46 E))) (ax_sn_leaf (r_X2_append_43 E))) (ax_sn_node (ax_sn_leaf (r_X2_append_42 E)) (ax_sn_leaf (r_X2_append_39 E)))) (ax_sn_node (ax_sn_node (ax_sn_node (ax_sn_leaf (r_X2_append_37 E)) (ax_sn_leaf (r_X2_append_36 E))) (ax_sn_leaf (r_X2_append_35 E))) (ax_sn_node (ax_sn_leaf (r_X2_append_32 E)) (ax_sn_leaf (r_X2_append_30 E)))))) (ax_sn_node (ax_sn_node (ax_sn_node (ax_sn_node (ax_sn_node (ax_sn_leaf (r_X2_append_29 E)) (ax_sn_leaf (r_X2_append_27 E))) (ax_sn_leaf (r_X2_append_26 E))) (ax_sn_node (ax_sn_leaf (r_X2_append_23 E)) (ax_sn_leaf (r_X2_append_22 E)))) (ax_sn_node (ax_sn_node (ax_sn_node (ax_sn_leaf (r_X2_append_19 E)) (ax_sn_leaf (r_X2_append_18 E))) (ax_sn_leaf (r_X2_append_16 E))) (ax_sn_node (ax_sn_leaf (r_X2_append_15 E)) (ax_sn_leaf (r_X2_append_13 E))))) (ax_sn_node (ax_sn_node (ax_sn_node (ax_sn_node (ax_sn_leaf (r_X2_append_12 E)) (ax_sn_leaf (r_X2_append_11 E))) (ax_sn_leaf (r_X2_append_9 E))) (ax_sn_node (ax_sn_leaf (r_X2_append_8 E)) (ax_sn_leaf (r_X2_append_7 E)))) (ax_sn_node (ax_sn_node (ax_sn_node (ax_sn_leaf (r_X2_append_6 E)) (ax_sn_leaf (r_X2_append_3 E))) (ax_sn_leaf (r_X2_append_2 E))) (ax_sn_node (ax_sn_leaf (r_X2_append_1 E)) (ax_sn_leaf (r_X2_append_0 E))))))))⟩
theorem r_X2_firstFree_0 (E : ax_EN G l) : ax_Snd G l ax_Ym M_X2_firstFree 0 (S_push (.int (-1)) 1) := k_iconst dX2_firstFree_0 rfl
theorem r_X2_firstFree_1 (E : ax_EN G l) : ax_Snd G l ax_Ym M_X2_firstFree 1 (S_istore 1 2) := k_istore_n dX2_firstFree_1 rfl (Nat.le_of_ble_eq_true rfl)
theorem r_X2_firstFree_2 (E : ax_EN G l) : ax_Snd G l ax_Ym M_X2_firstFree 2 (S_push (.int (31)) 4) := k_bipush dX2_firstFree_2 rfl
theorem r_X2_firstFree_4 (E : ax_EN G l) : ax_Snd G l ax_Ym M_X2_firstFree 4 (S_istore 2 5) := k_istore_n dX2_firstFree_4 rfl (Nat.le_of_ble_eq_true rfl)
theorem r_X2_firstFree_5 (E : ax_EN G l) : ax_Snd G l ax_Ym M_X2_firstFree 5 (S_iload 2 6) := k_iload_n dX2_firstFree_5 rfl
theorem r_X2_firstFree_6 (E : ax_EN G l) : ax_Snd G l ax_Ym M_X2_firstFree 6 (S_push (.int (8)) 8) := k_bipush dX2_firstFree_6 rfl
theorem r_X2_firstFree_8 (E : ax_EN G l) : ax_Snd G l ax_Ym M_X2_firstFree 8 (S_if2 (fun x y => decide (x < y)) 31 11) := k_icmp_lt dX2_firstFree_8 rfl
theorem r_X2_firstFree_11 (E : ax_EN G l) : ax_Snd G l ax_Ym M_X2_firstFree 11 (S_aload 0 12) := k_aload_n dX2_firstFree_11 rfl
theorem r_X2_firstFree_12 (E : ax_EN G l) : ax_Snd G l ax_Ym M_X2_firstFree 12 (S_iload 2 13) := k_iload_n dX2_firstFree_12 rfl
theorem r_X2_firstFree_13 (E : ax_EN G l) : ax_Snd G l ax_Ym M_X2_firstFree 13 (S_iv [(29, 306)] 1 16 hd_0) := k_iv (en_F E) (ax_ok0 E rfl) (ax_Evs_cons ((ev_v (en_c E (k := 29) rfl) rfl y_X2_isUsed q1369 q1279 qs12 q122 q1280 nm_X2_isUsed (Nat.le_of_ble_eq_true rfl) dX2_firstFree_13) : ax_EvV G l ax_Ym M_X2_firstFree 13 1 3 29 306) ax_Evs_nil)
theorem r_X2_firstFree_16 (E : ax_EN G l) : ax_Snd G l ax_Ym M_X2_firstFree 16 (S_if1 (fun x => decide (x = 0)) 23 19) := k_if_eq dX2_firstFree_16 rfl
theorem r_X2_firstFree_19 (E : ax_EN G l) : ax_Snd G l ax_Ym M_X2_firstFree 19 (S_iload 1 20) := k_iload_n dX2_firstFree_19 rfl
theorem r_X2_firstFree_20 (E : ax_EN G l) : ax_Snd G l ax_Ym M_X2_firstFree 20 (S_goto 24) := k_goto dX2_firstFree_20 rfl
theorem r_X2_firstFree_23 (E : ax_EN G l) : ax_Snd G l ax_Ym M_X2_firstFree 23 (S_iload 2 24) := k_iload_n dX2_firstFree_23 rfl
theorem r_X2_firstFree_24 (E : ax_EN G l) : ax_Snd G l ax_Ym M_X2_firstFree 24 (S_istore 1 25) := k_istore_n dX2_firstFree_24 rfl (Nat.le_of_ble_eq_true rfl)
theorem r_X2_firstFree_25 (E : ax_EN G l) : ax_Snd G l ax_Ym M_X2_firstFree 25 (S_iinc 2 (-1) 28) := k_iinc dX2_firstFree_25 rfl (Nat.le_of_ble_eq_true rfl)
theorem r_X2_firstFree_28 (E : ax_EN G l) : ax_Snd G l ax_Ym M_X2_firstFree 28 (S_goto 5) := k_goto dX2_firstFree_28 rfl
theorem r_X2_firstFree_31 (E : ax_EN G l) : ax_Snd G l ax_Ym M_X2_firstFree 31 (S_iload 1 32) := k_iload_n dX2_firstFree_31 rfl
theorem r_X2_firstFree_32 (E : ax_EN G l) : ax_Snd G l ax_Ym M_X2_firstFree 32 (S_iret) := k_iret dX2_firstFree_32 rfl
theorem mt_X2_firstFree (E : ax_EN G l) : ax_mt G l ax_Ym (3, P_X2_firstFree) (ax_Ym 341) := ⟨M_X2_firstFree, yX2_firstFree, ⟨rfl, by decide +kernel, rfl, (fun h => by cases h), Or.inl ⟨rfl, rfl⟩⟩, fun pc => (ax_sn_node (ax_sn_node (ax_sn_node (ax_sn_node (ax_sn_node (ax_sn_leaf (r_X2_firstFree_32 E)) (ax_sn_leaf (r_X2_firstFree_31 E))) (ax_sn_leaf (r_X2_firstFree_28 E))) (ax_sn_node (ax_sn_leaf (r_X2_firstFree_25 E)) (ax_sn_leaf (r_X2_firstFree_24 E)))) (ax_sn_node (ax_sn_node (ax_sn_node (ax_sn_leaf (r_X2_firstFree_23 E)) (ax_sn_leaf (r_X2_firstFree_20 E))) (ax_sn_leaf (r_X2_firstFree_19 E))) (ax_sn_node (ax_sn_leaf (r_X2_firstFree_16 E)) (ax_sn_leaf (r_X2_firstFree_13 E))))) (ax_sn_node (ax_sn_node (ax_sn_node (ax_sn_node (ax_sn_leaf (r_X2_firstFree_12 E)) (ax_sn_leaf (r_X2_firstFree_11 E))) (ax_sn_leaf (r_X2_firstFree_8 E))) (ax_sn_node (ax_sn_leaf (r_X2_firstFree_6 E)) (ax_sn_leaf (r_X2_firstFree_5 E)))) (ax_sn_node (ax_sn_node (ax_sn_leaf (r_X2_firstFree_4 E)) (ax_sn_leaf (r_X2_firstFree_2 E))) (ax_sn_node (ax_sn_leaf (r_X2_firstFree_1 E)) (ax_sn_leaf (r_X2_firstFree_0 E))))))⟩
theorem r_X2_mark_0 (E : ax_EN G l) : ax_Snd G l ax_Ym M_X2_mark 0 (S_aload 0 1) := k_aload_n dX2_mark_0 rfl
theorem r_X2_mark_1 (E : ax_EN G l) : ax_Snd G l ax_Ym M_X2_mark 1 (S_push (.int (4)) 2) := k_iconst dX2_mark_1 rfl
theorem r_X2_mark_2 (E : ax_EN G l) : ax_Snd G l ax_Ym M_X2_mark 2 (S_iv [(29, 339)] 1 5 hd_0) := k_iv (en_F E) (ax_ok0 E rfl) (ax_Evs_cons ((ev_v (en_c E (k := 29) rfl) rfl y_X2_draft q2255 q2257 qs48 q122 q2258 nm_X2_draft (Nat.le_of_ble_eq_true rfl) dX2_mark_2) : ax_EvV G l ax_Ym M_X2_mark 2 1 3 29 339) ax_Evs_nil)
theorem r_X2_mark_5 (E : ax_EN G l) : ax_Snd G l ax_Ym M_X2_mark 5 (S_astore 3 6) := k_astore_n dX2_mark_5 rfl (Nat.le_of_ble_eq_true rfl)
theorem r_X2_mark_6 (E : ax_EN G l) : ax_Snd G l ax_Ym M_X2_mark 6 (S_push (.int (1)) 7) := k_iconst dX2_mark_6 rfl
theorem r_X2_mark_7 (E : ax_EN G l) : ax_Snd G l ax_Ym M_X2_mark 7 (S_iload 1 8) := k_iload_n dX2_mark_7 rfl
theorem r_X2_mark_8 (E : ax_EN G l) : ax_Snd G l ax_Ym M_X2_mark 8 (S_push (.int (16)) 10) := k_bipush dX2_mark_8 rfl
theorem r_X2_mark_10 (E : ax_EN G l) : ax_Snd G l ax_Ym M_X2_mark 10 (S_id (fun x y => x - x / y * y) 11) := k_irem dX2_mark_10
theorem r_X2_mark_11 (E : ax_EN G l) : ax_Snd G l ax_Ym M_X2_mark 11 (S_i2 (fun x y => x <<< (y &&& 31)) 12) := k_ishl dX2_mark_11
theorem r_X2_mark_12 (E : ax_EN G l) : ax_Snd G l ax_Ym M_X2_mark 12 (S_istore 4 14) := k_istore dX2_mark_12 (Nat.le_of_ble_eq_true rfl)
theorem r_X2_mark_14 (E : ax_EN G l) : ax_Snd G l ax_Ym M_X2_mark 14 (S_aload 3 15) := k_aload_n dX2_mark_14 rfl
theorem r_X2_mark_15 (E : ax_EN G l) : ax_Snd G l ax_Ym M_X2_mark 15 (S_iload 1 16) := k_iload_n dX2_mark_15 rfl
theorem r_X2_mark_16 (E : ax_EN G l) : ax_Snd G l ax_Ym M_X2_mark 16 (S_push (.int (16)) 18) := k_bipush dX2_mark_16 rfl
theorem r_X2_mark_18 (E : ax_EN G l) : ax_Snd G l ax_Ym M_X2_mark 18 (S_id (fun x y => x / y) 19) := k_idiv dX2_mark_18
theorem r_X2_mark_19 (E : ax_EN G l) : ax_Snd G l ax_Ym M_X2_mark 19 (S_iload 2 20) := k_iload_n dX2_mark_19 rfl
theorem r_X2_mark_20 (E : ax_EN G l) : ax_Snd G l ax_Ym M_X2_mark 20 (S_if1 (fun x => decide (x = 0)) 35 23) := k_if_eq dX2_mark_20 rfl
theorem r_X2_mark_23 (E : ax_EN G l) : ax_Snd G l ax_Ym M_X2_mark 23 (S_aload 3 24) := k_aload_n dX2_mark_23 rfl
theorem r_X2_mark_24 (E : ax_EN G l) : ax_Snd G l ax_Ym M_X2_mark 24 (S_iload 1 25) := k_iload_n dX2_mark_24 rfl
theorem r_X2_mark_25 (E : ax_EN G l) : ax_Snd G l ax_Ym M_X2_mark 25 (S_push (.int (16)) 27) := k_bipush dX2_mark_25 rfl
theorem r_X2_mark_27 (E : ax_EN G l) : ax_Snd G l ax_Ym M_X2_mark 27 (S_id (fun x y => x / y) 28) := k_idiv dX2_mark_27
theorem r_X2_mark_28 (E : ax_EN G l) : ax_Snd G l ax_Ym M_X2_mark 28 (S_iald 0 29) := k_iald (en_F E) dX2_mark_28
theorem r_X2_mark_29 (E : ax_EN G l) : ax_Snd G l ax_Ym M_X2_mark 29 (S_iload 4 31) := k_iload dX2_mark_29
theorem r_X2_mark_31 (E : ax_EN G l) : ax_Snd G l ax_Ym M_X2_mark 31 (S_i2 (fun x y => x ||| y) 32) := k_ior dX2_mark_31
theorem r_X2_mark_32 (E : ax_EN G l) : ax_Snd G l ax_Ym M_X2_mark 32 (S_goto 46) := k_goto dX2_mark_32 rfl
theorem r_X2_mark_35 (E : ax_EN G l) : ax_Snd G l ax_Ym M_X2_mark 35 (S_aload 3 36) := k_aload_n dX2_mark_35 rfl
theorem r_X2_mark_36 (E : ax_EN G l) : ax_Snd G l ax_Ym M_X2_mark 36 (S_iload 1 37) := k_iload_n dX2_mark_36 rfl
theorem r_X2_mark_37 (E : ax_EN G l) : ax_Snd G l ax_Ym M_X2_mark 37 (S_push (.int (16)) 39) := k_bipush dX2_mark_37 rfl
theorem r_X2_mark_39 (E : ax_EN G l) : ax_Snd G l ax_Ym M_X2_mark 39 (S_id (fun x y => x / y) 40) := k_idiv dX2_mark_39
theorem r_X2_mark_40 (E : ax_EN G l) : ax_Snd G l ax_Ym M_X2_mark 40 (S_iald 0 41) := k_iald (en_F E) dX2_mark_40
theorem r_X2_mark_41 (E : ax_EN G l) : ax_Snd G l ax_Ym M_X2_mark 41 (S_iload 4 43) := k_iload dX2_mark_41
theorem r_X2_mark_43 (E : ax_EN G l) : ax_Snd G l ax_Ym M_X2_mark 43 (S_push (.int (-1)) 44) := k_iconst dX2_mark_43 rfl
theorem r_X2_mark_44 (E : ax_EN G l) : ax_Snd G l ax_Ym M_X2_mark 44 (S_i2 (fun x y => x ^^^ y) 45) := k_ixor dX2_mark_44
theorem r_X2_mark_45 (E : ax_EN G l) : ax_Snd G l ax_Ym M_X2_mark 45 (S_i2 (fun x y => x &&& y) 46) := k_iand dX2_mark_45
theorem r_X2_mark_46 (E : ax_EN G l) : ax_Snd G l ax_Ym M_X2_mark 46 (S_iast 0 (fun x => x) 47) := k_iast (en_F E) dX2_mark_46
theorem r_X2_mark_47 (E : ax_EN G l) : ax_Snd G l ax_Ym M_X2_mark 47 (S_ret) := k_ret dX2_mark_47 rfl
theorem mt_X2_mark (E : ax_EN G l) : ax_mt G l ax_Ym (5, P_X2_mark) (ax_Ym 342) := ⟨M_X2_mark, yX2_mark, ⟨rfl, by decide +kernel, rfl, (fun h => by cases h), Or.inl ⟨rfl, rfl⟩⟩, fun pc => (ax_sn_node (ax_sn_node (ax_sn_node (ax_sn_node (ax_sn_node (ax_sn_node (ax_sn_leaf (r_X2_mark_47 E)) (ax_sn_leaf (r_X2_mark_46 E))) (ax_sn_leaf (r_X2_mark_45 E))) (ax_sn_node (ax_sn_leaf (r_X2_mark_44 E)) (ax_sn_leaf (r_X2_mark_43 E)))) (ax_sn_node (ax_sn_node (ax_sn_leaf (r_X2_mark_41 E)) (ax_sn_leaf (r_X2_mark_40 E))) (ax_sn_node (ax_sn_leaf (r_X2_mark_39 E)) (ax_sn_leaf (r_X2_mark_37 E))))) (ax_sn_node (ax_sn_node (ax_sn_node (ax_sn_node (ax_sn_leaf (r_X2_mark_36 E)) (ax_sn_leaf (r_X2_mark_35 E))) (ax_sn_leaf (r_X2_mark_32 E))) (ax_sn_node (ax_sn_leaf (r_X2_mark_31 E)) (ax_sn_leaf (r_X2_mark_29 E)))) (ax_sn_node (ax_sn_node (ax_sn_leaf (r_X2_mark_28 E)) (ax_sn_leaf (r_X2_mark_27 E))) (ax_sn_node (ax_sn_leaf (r_X2_mark_25 E)) (ax_sn_leaf (r_X2_mark_24 E)))))) (ax_sn_node (ax_sn_node (ax_sn_node (ax_sn_node (ax_sn_node (ax_sn_leaf (r_X2_mark_23 E)) (ax_sn_leaf (r_X2_mark_20 E))) (ax_sn_leaf (r_X2_mark_19 E))) (ax_sn_node (ax_sn_leaf (r_X2_mark_18 E)) (ax_sn_leaf (r_X2_mark_16 E)))) (ax_sn_node (ax_sn_node (ax_sn_leaf (r_X2_mark_15 E)) (ax_sn_leaf (r_X2_mark_14 E))) (ax_sn_node (ax_sn_leaf (r_X2_mark_12 E)) (ax_sn_leaf (r_X2_mark_11 E))))) (ax_sn_node (ax_sn_node (ax_sn_node (ax_sn_leaf (r_X2_mark_10 E)) (ax_sn_leaf (r_X2_mark_8 E))) (ax_sn_node (ax_sn_leaf (r_X2_mark_7 E)) (ax_sn_leaf (r_X2_mark_6 E)))) (ax_sn_node (ax_sn_node (ax_sn_leaf (r_X2_mark_5 E)) (ax_sn_leaf (r_X2_mark_2 E))) (ax_sn_node (ax_sn_leaf (r_X2_mark_1 E)) (ax_sn_leaf (r_X2_mark_0 E)))))))⟩
theorem r_X2_wordOf_0 (E : ax_EN G l) : ax_Snd G l ax_Ym M_X2_wordOf 0 (S_aload 0 1) := k_aload_n dX2_wordOf_0 rfl
theorem r_X2_wordOf_1 (E : ax_EN G l) : ax_Snd G l ax_Ym M_X2_wordOf 1 (S_getf [(29, 0)] 4) := k_getf (en_F E) (ax_fes_cons (fe_158 E) ax_fes_nil) q283 dX2_wordOf_1
theorem r_X2_wordOf_4 (E : ax_EN G l) : ax_Snd G l ax_Ym M_X2_wordOf 4 (S_push (.int (365)) 7) := k_sipush dX2_wordOf_4 rfl
theorem r_X2_wordOf_7 (E : ax_EN G l) : ax_Snd G l ax_Ym M_X2_wordOf 7 (S_push (.int (8)) 9) := k_bipush dX2_wordOf_7 rfl
theorem r_X2_wordOf_9 (E : ax_EN G l) : ax_Snd G l ax_Ym M_X2_wordOf 9 (S_aload 0 10) := k_aload_n dX2_wordOf_9 rfl
theorem r_X2_wordOf_10 (E : ax_EN G l) : ax_Snd G l ax_Ym M_X2_wordOf 10 (S_iload 1 11) := k_iload_n dX2_wordOf_10 rfl
theorem r_X2_wordOf_11 (E : ax_EN G l) : ax_Snd G l ax_Ym M_X2_wordOf 11 (S_push (.int (2)) 12) := k_iconst dX2_wordOf_11 rfl
theorem r_X2_wordOf_12 (E : ax_EN G l) : ax_Snd G l ax_Ym M_X2_wordOf 12 (S_iload 2 13) := k_iload_n dX2_wordOf_12 rfl
theorem r_X2_wordOf_13 (E : ax_EN G l) : ax_Snd G l ax_Ym M_X2_wordOf 13 (S_push (.int (8)) 15) := k_bipush dX2_wordOf_13 rfl
theorem r_X2_wordOf_15 (E : ax_EN G l) : ax_Snd G l ax_Ym M_X2_wordOf 15 (S_id (fun x y => x / y) 16) := k_idiv dX2_wordOf_15
theorem r_X2_wordOf_16 (E : ax_EN G l) : ax_Snd G l ax_Ym M_X2_wordOf 16 (S_i2 (fun x y => x + y) 17) := k_iadd dX2_wordOf_16
theorem r_X2_wordOf_17 (E : ax_EN G l) : ax_Snd G l ax_Ym M_X2_wordOf 17 (S_iv [(29, 305)] 2 20 hd_0) := k_iv (en_F E) (ax_ok0 E rfl) (ax_Evs_cons ((ev_v (en_c E (k := 29) rfl) rfl y_X2_entry q1355 q1271 qs11 q122 q1272 nm_X2_entry (Nat.le_of_ble_eq_true rfl) dX2_wordOf_17) : ax_EvV G l ax_Ym M_X2_wordOf 17 2 3 29 305) ax_Evs_nil)
theorem r_X2_wordOf_20 (E : ax_EN G l) : ax_Snd G l ax_Ym M_X2_wordOf 20 (S_i2 (fun x y => x * y) 21) := k_imul dX2_wordOf_20
theorem r_X2_wordOf_21 (E : ax_EN G l) : ax_Snd G l ax_Ym M_X2_wordOf 21 (S_i2 (fun x y => x + y) 22) := k_iadd dX2_wordOf_21
theorem r_X2_wordOf_22 (E : ax_EN G l) : ax_Snd G l ax_Ym M_X2_wordOf 22 (S_iload 2 23) := k_iload_n dX2_wordOf_22 rfl
theorem r_X2_wordOf_23 (E : ax_EN G l) : ax_Snd G l ax_Ym M_X2_wordOf 23 (S_push (.int (8)) 25) := k_bipush dX2_wordOf_23 rfl
theorem r_X2_wordOf_25 (E : ax_EN G l) : ax_Snd G l ax_Ym M_X2_wordOf 25 (S_id (fun x y => x - x / y * y) 26) := k_irem dX2_wordOf_25
theorem r_X2_wordOf_26 (E : ax_EN G l) : ax_Snd G l ax_Ym M_X2_wordOf 26 (S_i2 (fun x y => x + y) 27) := k_iadd dX2_wordOf_26
theorem r_X2_wordOf_27 (E : ax_EN G l) : ax_Snd G l ax_Ym M_X2_wordOf 27 (S_iald 0 28) := k_iald (en_F E) dX2_wordOf_27
theorem r_X2_wordOf_28 (E : ax_EN G l) : ax_Snd G l ax_Ym M_X2_wordOf 28 (S_iret) := k_iret dX2_wordOf_28 rfl
theorem mt_X2_wordOf (E : ax_EN G l) : ax_mt G l ax_Ym (3, P_X2_wordOf) (ax_Ym 343) := ⟨M_X2_wordOf, yX2_wordOf, ⟨rfl, by decide +kernel, rfl, (fun h => by cases h), Or.inl ⟨rfl, rfl⟩⟩, fun pc => (ax_sn_node (ax_sn_node (ax_sn_node (ax_sn_node (ax_sn_node (ax_sn_leaf (r_X2_wordOf_28 E)) (ax_sn_leaf (r_X2_wordOf_27 E))) (ax_sn_leaf (r_X2_wordOf_26 E))) (ax_sn_node (ax_sn_leaf (r_X2_wordOf_25 E)) (ax_sn_leaf (r_X2_wordOf_23 E)))) (ax_sn_node (ax_sn_node (ax_sn_node (ax_sn_leaf (r_X2_wordOf_22 E)) (ax_sn_leaf (r_X2_wordOf_21 E))) (ax_sn_leaf (r_X2_wordOf_20 E))) (ax_sn_node (ax_sn_leaf (r_X2_wordOf_17 E)) (ax_sn_leaf (r_X2_wordOf_16 E))))) (ax_sn_node (ax_sn_node (ax_sn_node (ax_sn_node (ax_sn_leaf (r_X2_wordOf_15 E)) (ax_sn_leaf (r_X2_wordOf_13 E))) (ax_sn_leaf (r_X2_wordOf_12 E))) (ax_sn_node (ax_sn_leaf (r_X2_wordOf_11 E)) (ax_sn_leaf (r_X2_wordOf_10 E)))) (ax_sn_node (ax_sn_node (ax_sn_node (ax_sn_leaf (r_X2_wordOf_9 E)) (ax_sn_leaf (r_X2_wordOf_7 E))) (ax_sn_leaf (r_X2_wordOf_4 E))) (ax_sn_node (ax_sn_leaf (r_X2_wordOf_1 E)) (ax_sn_leaf (r_X2_wordOf_0 E))))))⟩
theorem r_X2_remove_0 (E : ax_EN G l) : ax_Snd G l ax_Ym M_X2_remove 0 (S_push (.int (0)) 1) := k_iconst dX2_remove_0 rfl
theorem r_X2_remove_1 (E : ax_EN G l) : ax_Snd G l ax_Ym M_X2_remove 1 (S_istore 2 2) := k_istore_n dX2_remove_1 rfl (Nat.le_of_ble_eq_true rfl)
theorem r_X2_remove_2 (E : ax_EN G l) : ax_Snd G l ax_Ym M_X2_remove 2 (S_iload 2 3) := k_iload_n dX2_remove_2 rfl
theorem r_X2_remove_3 (E : ax_EN G l) : ax_Snd G l ax_Ym M_X2_remove 3 (S_push (.int (4)) 4) := k_iconst dX2_remove_3 rfl
theorem r_X2_remove_4 (E : ax_EN G l) : ax_Snd G l ax_Ym M_X2_remove 4 (S_if2 (fun x y => decide (y ≤ x)) 45 7) := k_icmp_ge dX2_remove_4 rfl
theorem r_X2_remove_7 (E : ax_EN G l) : ax_Snd G l ax_Ym M_X2_remove 7 (S_iload 2 8) := k_iload_n dX2_remove_7 rfl
theorem r_X2_remove_8 (E : ax_EN G l) : ax_Snd G l ax_Ym M_X2_remove 8 (S_push (.int (2)) 9) := k_iconst dX2_remove_8 rfl
theorem r_X2_remove_9 (E : ax_EN G l) : ax_Snd G l ax_Ym M_X2_remove 9 (S_if2 (fun x y => decide (x < y)) 32 12) := k_icmp_lt dX2_remove_9 rfl
theorem r_X2_remove_12 (E : ax_EN G l) : ax_Snd G l ax_Ym M_X2_remove 12 (S_aload 0 13) := k_aload_n dX2_remove_12 rfl
theorem r_X2_remove_13 (E : ax_EN G l) : ax_Snd G l ax_Ym M_X2_remove 13 (S_iload 1 14) := k_iload_n dX2_remove_13 rfl
theorem r_X2_remove_14 (E : ax_EN G l) : ax_Snd G l ax_Ym M_X2_remove 14 (S_iload 2 15) := k_iload_n dX2_remove_14 rfl
theorem r_X2_remove_15 (E : ax_EN G l) : ax_Snd G l ax_Ym M_X2_remove 15 (S_iv [(29, 305)] 2 18 hd_0) := k_iv (en_F E) (ax_ok0 E rfl) (ax_Evs_cons ((ev_v (en_c E (k := 29) rfl) rfl y_X2_entry q1355 q1271 qs11 q122 q1272 nm_X2_entry (Nat.le_of_ble_eq_true rfl) dX2_remove_15) : ax_EvV G l ax_Ym M_X2_remove 15 2 3 29 305) ax_Evs_nil)
theorem r_X2_remove_18 (E : ax_EN G l) : ax_Snd G l ax_Ym M_X2_remove 18 (S_if1 (fun x => decide (x = 0)) 32 21) := k_if_eq dX2_remove_18 rfl
theorem r_X2_remove_21 (E : ax_EN G l) : ax_Snd G l ax_Ym M_X2_remove 21 (S_aload 0 22) := k_aload_n dX2_remove_21 rfl
theorem r_X2_remove_22 (E : ax_EN G l) : ax_Snd G l ax_Ym M_X2_remove 22 (S_aload 0 23) := k_aload_n dX2_remove_22 rfl
theorem r_X2_remove_23 (E : ax_EN G l) : ax_Snd G l ax_Ym M_X2_remove 23 (S_iload 1 24) := k_iload_n dX2_remove_23 rfl
theorem r_X2_remove_24 (E : ax_EN G l) : ax_Snd G l ax_Ym M_X2_remove 24 (S_iload 2 25) := k_iload_n dX2_remove_24 rfl
theorem r_X2_remove_25 (E : ax_EN G l) : ax_Snd G l ax_Ym M_X2_remove 25 (S_iv [(29, 305)] 2 28 hd_0) := k_iv (en_F E) (ax_ok0 E rfl) (ax_Evs_cons ((ev_v (en_c E (k := 29) rfl) rfl y_X2_entry q1355 q1271 qs11 q122 q1272 nm_X2_entry (Nat.le_of_ble_eq_true rfl) dX2_remove_25) : ax_EvV G l ax_Ym M_X2_remove 25 2 3 29 305) ax_Evs_nil)
theorem r_X2_remove_28 (E : ax_EN G l) : ax_Snd G l ax_Ym M_X2_remove 28 (S_push (.int (0)) 29) := k_iconst dX2_remove_28 rfl
theorem r_X2_remove_29 (E : ax_EN G l) : ax_Snd G l ax_Ym M_X2_remove 29 (S_iv [(29, 342)] 2 32 hd_0) := k_iv (en_F E) (ax_ok0 E rfl) (ax_Evs_cons ((ev_v (en_c E (k := 29) rfl) rfl y_X2_mark q2267 q2269 qs51 q122 q2270 nm_X2_mark (Nat.le_of_ble_eq_true rfl) dX2_remove_29) : ax_EvV G l ax_Ym M_X2_remove 29 2 3 29 342) ax_Evs_nil)
theorem r_X2_remove_32 (E : ax_EN G l) : ax_Snd G l ax_Ym M_X2_remove 32 (S_aload 0 33) := k_aload_n dX2_remove_32 rfl
theorem r_X2_remove_33 (E : ax_EN G l) : ax_Snd G l ax_Ym M_X2_remove 33 (S_iload 1 34) := k_iload_n dX2_remove_33 rfl
theorem r_X2_remove_34 (E : ax_EN G l) : ax_Snd G l ax_Ym M_X2_remove 34 (S_iload 2 35) := k_iload_n dX2_remove_34 rfl
theorem r_X2_remove_35 (E : ax_EN G l) : ax_Snd G l ax_Ym M_X2_remove 35 (S_push (.int (0)) 36) := k_iconst dX2_remove_35 rfl
theorem r_X2_remove_36 (E : ax_EN G l) : ax_Snd G l ax_Ym M_X2_remove 36 (S_iv [(29, 338)] 3 39 hd_0) := k_iv (en_F E) (ax_ok0 E rfl) (ax_Evs_cons ((ev_v (en_c E (k := 29) rfl) rfl y_X2_setEntry q2251 q2253 qs47 q122 q2254 nm_X2_setEntry (Nat.le_of_ble_eq_true rfl) dX2_remove_36) : ax_EvV G l ax_Ym M_X2_remove 36 3 3 29 338) ax_Evs_nil)
theorem r_X2_remove_39 (E : ax_EN G l) : ax_Snd G l ax_Ym M_X2_remove 39 (S_iinc 2 (1) 42) := k_iinc dX2_remove_39 rfl (Nat.le_of_ble_eq_true rfl)
theorem r_X2_remove_42 (E : ax_EN G l) : ax_Snd G l ax_Ym M_X2_remove 42 (S_goto 2) := k_goto dX2_remove_42 rfl
theorem r_X2_remove_45 (E : ax_EN G l) : ax_Snd G l ax_Ym M_X2_remove 45 (S_ret) := k_ret dX2_remove_45 rfl
theorem mt_X2_remove (E : ax_EN G l) : ax_mt G l ax_Ym (3, P_X2_remove) (ax_Ym 344) := ⟨M_X2_remove, yX2_remove, ⟨rfl, by decide +kernel, rfl, (fun h => by cases h), Or.inl ⟨rfl, rfl⟩⟩, fun pc => (ax_sn_node (ax_sn_node (ax_sn_node (ax_sn_node (ax_sn_node (ax_sn_leaf (r_X2_remove_45 E)) (ax_sn_leaf (r_X2_remove_42 E))) (ax_sn_node (ax_sn_leaf (r_X2_remove_39 E)) (ax_sn_leaf (r_X2_remove_36 E)))) (ax_sn_node (ax_sn_node (ax_sn_leaf (r_X2_remove_35 E)) (ax_sn_leaf (r_X2_remove_34 E))) (ax_sn_leaf (r_X2_remove_33 E)))) (ax_sn_node (ax_sn_node (ax_sn_node (ax_sn_leaf (r_X2_remove_32 E)) (ax_sn_leaf (r_X2_remove_29 E))) (ax_sn_node (ax_sn_leaf (r_X2_remove_28 E)) (ax_sn_leaf (r_X2_remove_25 E)))) (ax_sn_node (ax_sn_node (ax_sn_leaf (r_X2_remove_24 E)) (ax_sn_leaf (r_X2_remove_23 E))) (ax_sn_leaf (r_X2_remove_22 E))))) (ax_sn_node (ax_sn_node (ax_sn_node (ax_sn_node (ax_sn_leaf (r_X2_remove_21 E)) (ax_sn_leaf (r_X2_remove_18 E))) (ax_sn_node (ax_sn_leaf (r_X2_remove_15 E)) (ax_sn_leaf (r_X2_remove_14 E)))) (ax_sn_node (ax_sn_node (ax_sn_leaf (r_X2_remove_13 E)) (ax_sn_leaf (r_X2_remove_12 E))) (ax_sn_leaf (r_X2_remove_9 E)))) (ax_sn_node (ax_sn_node (ax_sn_node (ax_sn_leaf (r_X2_remove_8 E)) (ax_sn_leaf (r_X2_remove_7 E))) (ax_sn_node (ax_sn_leaf (r_X2_remove_4 E)) (ax_sn_leaf (r_X2_remove_3 E)))) (ax_sn_node (ax_sn_node (ax_sn_leaf (r_X2_remove_2 E)) (ax_sn_leaf (r_X2_remove_1 E))) (ax_sn_leaf (r_X2_remove_0 E))))))⟩
theorem r_X2_rename_0 (E : ax_EN G l) : ax_Snd G l ax_Ym M_X2_rename 0 (S_iload 3 1) := k_iload_n dX2_rename_0 rfl
theorem r_X2_rename_1 (E : ax_EN G l) : ax_Snd G l ax_Ym M_X2_rename 1 (S_if1 (fun x => decide (¬ x = 0)) 6 4) := k_if_ne dX2_rename_1 rfl
theorem r_X2_rename_4 (E : ax_EN G l) : ax_Snd G l ax_Ym M_X2_rename 4 (S_push (.int (1)) 5) := k_iconst dX2_rename_4 rfl
theorem r_X2_rename_5 (E : ax_EN G l) : ax_Snd G l ax_Ym M_X2_rename 5 (S_iret) := k_iret dX2_rename_5 rfl
theorem r_X2_rename_6 (E : ax_EN G l) : ax_Snd G l ax_Ym M_X2_rename 6 (S_aload 0 7) := k_aload_n dX2_rename_6 rfl
theorem r_X2_rename_7 (E : ax_EN G l) : ax_Snd G l ax_Ym M_X2_rename 7 (S_iload 3 8) := k_iload_n dX2_rename_7 rfl
theorem r_X2_rename_8 (E : ax_EN G l) : ax_Snd G l ax_Ym M_X2_rename 8 (S_iv [(29, 337)] 1 11 hd_0) := k_iv (en_F E) (ax_ok0 E rfl) (ax_Evs_cons ((ev_v (en_c E (k := 29) rfl) rfl y_X2_named q2247 q2249 qs46 q122 q2250 nm_X2_named (Nat.le_of_ble_eq_true rfl) dX2_rename_8) : ax_EvV G l ax_Ym M_X2_rename 8 1 3 29 337) ax_Evs_nil)
theorem r_X2_rename_11 (E : ax_EN G l) : ax_Snd G l ax_Ym M_X2_rename 11 (S_istore 4 13) := k_istore dX2_rename_11 (Nat.le_of_ble_eq_true rfl)
theorem r_X2_rename_13 (E : ax_EN G l) : ax_Snd G l ax_Ym M_X2_rename 13 (S_iload 3 14) := k_iload_n dX2_rename_13 rfl
theorem r_X2_rename_14 (E : ax_EN G l) : ax_Snd G l ax_Ym M_X2_rename 14 (S_iload 2 15) := k_iload_n dX2_rename_14 rfl
theorem r_X2_rename_15 (E : ax_EN G l) : ax_Snd G l ax_Ym M_X2_rename 15 (S_if2 (fun x y => decide (x = y)) 37 18) := k_icmp_eq dX2_rename_15 rfl
theorem r_X2_rename_18 (E : ax_EN G l) : ax_Snd G l ax_Ym M_X2_rename 18 (S_iload 4 20) := k_iload dX2_rename_18
theorem r_X2_rename_20 (E : ax_EN G l) : ax_Snd G l ax_Ym M_X2_rename 20 (S_push (.int (-1)) 21) := k_iconst dX2_rename_20 rfl
theorem r_X2_rename_21 (E : ax_EN G l) : ax_Snd G l ax_Ym M_X2_rename 21 (S_if2 (fun x y => decide (x = y)) 30 24) := k_icmp_eq dX2_rename_21 rfl
theorem r_X2_rename_24 (E : ax_EN G l) : ax_Snd G l ax_Ym M_X2_rename 24 (S_aload 0 25) := k_aload_n dX2_rename_24 rfl
theorem r_X2_rename_25 (E : ax_EN G l) : ax_Snd G l ax_Ym M_X2_rename 25 (S_iload 4 27) := k_iload dX2_rename_25
theorem r_X2_rename_27 (E : ax_EN G l) : ax_Snd G l ax_Ym M_X2_rename 27 (S_iv [(29, 344)] 1 30 hd_0) := k_iv (en_F E) (ax_ok0 E rfl) (ax_Evs_cons ((ev_v (en_c E (k := 29) rfl) rfl y_X2_remove q2275 q2277 qs52 q122 q2278 nm_X2_remove (Nat.le_of_ble_eq_true rfl) dX2_rename_27) : ax_EvV G l ax_Ym M_X2_rename 27 1 3 29 344) ax_Evs_nil)
theorem r_X2_rename_30 (E : ax_EN G l) : ax_Snd G l ax_Ym M_X2_rename 30 (S_aload 0 31) := k_aload_n dX2_rename_30 rfl
theorem r_X2_rename_31 (E : ax_EN G l) : ax_Snd G l ax_Ym M_X2_rename 31 (S_iload 1 32) := k_iload_n dX2_rename_31 rfl
theorem r_X2_rename_32 (E : ax_EN G l) : ax_Snd G l ax_Ym M_X2_rename 32 (S_push (.int (0)) 33) := k_iconst dX2_rename_32 rfl
theorem r_X2_rename_33 (E : ax_EN G l) : ax_Snd G l ax_Ym M_X2_rename 33 (S_iload 3 34) := k_iload_n dX2_rename_33 rfl
theorem r_X2_rename_34 (E : ax_EN G l) : ax_Snd G l ax_Ym M_X2_rename 34 (S_iv [(29, 338)] 3 37 hd_0) := k_iv (en_F E) (ax_ok0 E rfl) (ax_Evs_cons ((ev_v (en_c E (k := 29) rfl) rfl y_X2_setEntry q2251 q2253 qs47 q122 q2254 nm_X2_setEntry (Nat.le_of_ble_eq_true rfl) dX2_rename_34) : ax_EvV G l ax_Ym M_X2_rename 34 3 3 29 338) ax_Evs_nil)
theorem r_X2_rename_37 (E : ax_EN G l) : ax_Snd G l ax_Ym M_X2_rename 37 (S_push (.int (0)) 38) := k_iconst dX2_rename_37 rfl
theorem r_X2_rename_38 (E : ax_EN G l) : ax_Snd G l ax_Ym M_X2_rename 38 (S_iret) := k_iret dX2_rename_38 rfl
theorem mt_X2_rename (E : ax_EN G l) : ax_mt G l ax_Ym (5, P_X2_rename) (ax_Ym 345) := ⟨M_X2_rename, yX2_rename, ⟨rfl, by decide +kernel, rfl, (fun h => by cases h), Or.inl ⟨rfl, rfl⟩⟩, fun pc => (ax_sn_node (ax_sn_node (ax_sn_node (ax_sn_node (ax_sn_node (ax_sn_leaf (r_X2_rename_38 E)) (ax_sn_leaf (r_X2_rename_37 E))) (ax_sn_leaf (r_X2_rename_34 E))) (ax_sn_node (ax_sn_node (ax_sn_leaf (r_X2_rename_33 E)) (ax_sn_leaf (r_X2_rename_32 E))) (ax_sn_leaf (r_X2_rename_31 E)))) (ax_sn_node (ax_sn_node (ax_sn_node (ax_sn_leaf (r_X2_rename_30 E)) (ax_sn_leaf (r_X2_rename_27 E))) (ax_sn_leaf (r_X2_rename_25 E))) (ax_sn_node (ax_sn_node (ax_sn_leaf (r_X2_rename_24 E)) (ax_sn_leaf (r_X2_rename_21 E))) (ax_sn_leaf (r_X2_rename_20 E))))) (ax_sn_node (ax_sn_node (ax_sn_node (ax_sn_node (ax_sn_leaf (r_X2_rename_18 E)) (ax_sn_leaf (r_X2_rename_15 E))) (ax_sn_leaf (r_X2_rename_14 E))) (ax_sn_node (ax_sn_node (ax_sn_leaf (r_X2_rename_13 E)) (ax_sn_leaf (r_X2_rename_11 E))) (ax_sn_leaf (r_X2_rename_8 E)))) (ax_sn_node (ax_sn_node (ax_sn_node (ax_sn_leaf (r_X2_rename_7 E)) (ax_sn_leaf (r_X2_rename_6 E))) (ax_sn_leaf (r_X2_rename_5 E))) (ax_sn_node (ax_sn_node (ax_sn_leaf (r_X2_rename_4 E)) (ax_sn_leaf (r_X2_rename_1 E))) (ax_sn_leaf (r_X2_rename_0 E))))))⟩
theorem r_X2_stop_0 (E : ax_EN G l) : ax_Snd G l ax_Ym M_X2_stop 0 (S_aload 0 1) := k_aload_n dX2_stop_0 rfl
theorem r_X2_stop_1 (E : ax_EN G l) : ax_Snd G l ax_Ym M_X2_stop 1 (S_push (.int (0)) 2) := k_iconst dX2_stop_1 rfl
theorem r_X2_stop_2 (E : ax_EN G l) : ax_Snd G l ax_Ym M_X2_stop 2 (S_push (.int (3)) 3) := k_iconst dX2_stop_2 rfl
theorem r_X2_stop_3 (E : ax_EN G l) : ax_Snd G l ax_Ym M_X2_stop 3 (S_iv [(29, 320)] 2 6 hd_0) := k_iv (en_F E) (ax_ok0 E rfl) (ax_Evs_cons ((ev_v (en_c E (k := 29) rfl) rfl y_X2_set q2095 q2097 qs30 q122 q2098 nm_X2_set (Nat.le_of_ble_eq_true rfl) dX2_stop_3) : ax_EvV G l ax_Ym M_X2_stop 3 2 3 29 320) ax_Evs_nil)
theorem r_X2_stop_6 (E : ax_EN G l) : ax_Snd G l ax_Ym M_X2_stop 6 (S_aload 0 7) := k_aload_n dX2_stop_6 rfl
theorem r_X2_stop_7 (E : ax_EN G l) : ax_Snd G l ax_Ym M_X2_stop 7 (S_push (.int (1)) 8) := k_iconst dX2_stop_7 rfl
theorem r_X2_stop_8 (E : ax_EN G l) : ax_Snd G l ax_Ym M_X2_stop 8 (S_iload 1 9) := k_iload_n dX2_stop_8 rfl
theorem r_X2_stop_9 (E : ax_EN G l) : ax_Snd G l ax_Ym M_X2_stop 9 (S_iv [(29, 320)] 2 12 hd_0) := k_iv (en_F E) (ax_ok0 E rfl) (ax_Evs_cons ((ev_v (en_c E (k := 29) rfl) rfl y_X2_set q2095 q2097 qs30 q122 q2098 nm_X2_set (Nat.le_of_ble_eq_true rfl) dX2_stop_9) : ax_EvV G l ax_Ym M_X2_stop 9 2 3 29 320) ax_Evs_nil)
theorem r_X2_stop_12 (E : ax_EN G l) : ax_Snd G l ax_Ym M_X2_stop 12 (S_ret) := k_ret dX2_stop_12 rfl
theorem mt_X2_stop (E : ax_EN G l) : ax_mt G l ax_Ym (2, P_X2_stop) (ax_Ym 346) := ⟨M_X2_stop, yX2_stop, ⟨rfl, by decide +kernel, rfl, (fun h => by cases h), Or.inl ⟨rfl, rfl⟩⟩, fun pc => (ax_sn_node (ax_sn_node (ax_sn_node (ax_sn_node (ax_sn_leaf (r_X2_stop_12 E)) (ax_sn_leaf (r_X2_stop_9 E))) (ax_sn_leaf (r_X2_stop_8 E))) (ax_sn_node (ax_sn_leaf (r_X2_stop_7 E)) (ax_sn_leaf (r_X2_stop_6 E)))) (ax_sn_node (ax_sn_node (ax_sn_leaf (r_X2_stop_3 E)) (ax_sn_leaf (r_X2_stop_2 E))) (ax_sn_node (ax_sn_leaf (r_X2_stop_1 E)) (ax_sn_leaf (r_X2_stop_0 E)))))⟩
theorem r_X2_pass_0 (E : ax_EN G l) : ax_Snd G l ax_Ym M_X2_pass 0 (S_aload 0 1) := k_aload_n dX2_pass_0 rfl
theorem r_X2_pass_1 (E : ax_EN G l) : ax_Snd G l ax_Ym M_X2_pass 1 (S_push (.int (2)) 2) := k_iconst dX2_pass_1 rfl
theorem r_X2_pass_2 (E : ax_EN G l) : ax_Snd G l ax_Ym M_X2_pass 2 (S_aload 0 3) := k_aload_n dX2_pass_2 rfl
theorem r_X2_pass_3 (E : ax_EN G l) : ax_Snd G l ax_Ym M_X2_pass 3 (S_getf [(29, 0)] 6) := k_getf (en_F E) (ax_fes_cons (fe_158 E) ax_fes_nil) q283 dX2_pass_3
theorem r_X2_pass_6 (E : ax_EN G l) : ax_Snd G l ax_Ym M_X2_pass 6 (S_push (.int (2)) 7) := k_iconst dX2_pass_6 rfl
theorem r_X2_pass_7 (E : ax_EN G l) : ax_Snd G l ax_Ym M_X2_pass 7 (S_iald 0 8) := k_iald (en_F E) dX2_pass_7
theorem r_X2_pass_8 (E : ax_EN G l) : ax_Snd G l ax_Ym M_X2_pass 8 (S_push (.int (1)) 9) := k_iconst dX2_pass_8 rfl
theorem r_X2_pass_9 (E : ax_EN G l) : ax_Snd G l ax_Ym M_X2_pass 9 (S_i2 (fun x y => x + y) 10) := k_iadd dX2_pass_9
theorem r_X2_pass_10 (E : ax_EN G l) : ax_Snd G l ax_Ym M_X2_pass 10 (S_iv [(29, 320)] 2 13 hd_0) := k_iv (en_F E) (ax_ok0 E rfl) (ax_Evs_cons ((ev_v (en_c E (k := 29) rfl) rfl y_X2_set q2095 q2097 qs30 q122 q2098 nm_X2_set (Nat.le_of_ble_eq_true rfl) dX2_pass_10) : ax_EvV G l ax_Ym M_X2_pass 10 2 3 29 320) ax_Evs_nil)
theorem r_X2_pass_13 (E : ax_EN G l) : ax_Snd G l ax_Ym M_X2_pass 13 (S_aload 0 14) := k_aload_n dX2_pass_13 rfl
theorem r_X2_pass_14 (E : ax_EN G l) : ax_Snd G l ax_Ym M_X2_pass 14 (S_getf [(29, 0)] 17) := k_getf (en_F E) (ax_fes_cons (fe_158 E) ax_fes_nil) q283 dX2_pass_14
theorem r_X2_pass_17 (E : ax_EN G l) : ax_Snd G l ax_Ym M_X2_pass 17 (S_push (.int (10)) 19) := k_bipush dX2_pass_17 rfl
theorem r_X2_pass_19 (E : ax_EN G l) : ax_Snd G l ax_Ym M_X2_pass 19 (S_iald 0 20) := k_iald (en_F E) dX2_pass_19
theorem r_X2_pass_20 (E : ax_EN G l) : ax_Snd G l ax_Ym M_X2_pass 20 (S_if1 (fun x => decide (x ≤ 0)) 92 23) := k_if_le dX2_pass_20 rfl
theorem r_X2_pass_23 (E : ax_EN G l) : ax_Snd G l ax_Ym M_X2_pass 23 (S_aload 0 24) := k_aload_n dX2_pass_23 rfl
theorem r_X2_pass_24 (E : ax_EN G l) : ax_Snd G l ax_Ym M_X2_pass 24 (S_getf [(29, 0)] 27) := k_getf (en_F E) (ax_fes_cons (fe_158 E) ax_fes_nil) q283 dX2_pass_24
theorem r_X2_pass_27 (E : ax_EN G l) : ax_Snd G l ax_Ym M_X2_pass 27 (S_push (.int (11)) 29) := k_bipush dX2_pass_27 rfl
theorem r_X2_pass_29 (E : ax_EN G l) : ax_Snd G l ax_Ym M_X2_pass 29 (S_iald 0 30) := k_iald (en_F E) dX2_pass_29
theorem r_X2_pass_30 (E : ax_EN G l) : ax_Snd G l ax_Ym M_X2_pass 30 (S_push (.int (1)) 31) := k_iconst dX2_pass_30 rfl
theorem r_X2_pass_31 (E : ax_EN G l) : ax_Snd G l ax_Ym M_X2_pass 31 (S_i2 (fun x y => x + y) 32) := k_iadd dX2_pass_31
theorem r_X2_pass_32 (E : ax_EN G l) : ax_Snd G l ax_Ym M_X2_pass 32 (S_aload 0 33) := k_aload_n dX2_pass_32 rfl
theorem r_X2_pass_33 (E : ax_EN G l) : ax_Snd G l ax_Ym M_X2_pass 33 (S_getf [(29, 0)] 36) := k_getf (en_F E) (ax_fes_cons (fe_158 E) ax_fes_nil) q283 dX2_pass_33
theorem r_X2_pass_36 (E : ax_EN G l) : ax_Snd G l ax_Ym M_X2_pass 36 (S_push (.int (10)) 38) := k_bipush dX2_pass_36 rfl
theorem r_X2_pass_38 (E : ax_EN G l) : ax_Snd G l ax_Ym M_X2_pass 38 (S_iald 0 39) := k_iald (en_F E) dX2_pass_38
theorem r_X2_pass_39 (E : ax_EN G l) : ax_Snd G l ax_Ym M_X2_pass 39 (S_if2 (fun x y => decide (¬ x = y)) 46 42) := k_icmp_ne dX2_pass_39 rfl
theorem r_X2_pass_42 (E : ax_EN G l) : ax_Snd G l ax_Ym M_X2_pass 42 (S_push (.int (1)) 43) := k_iconst dX2_pass_42 rfl
theorem r_X2_pass_43 (E : ax_EN G l) : ax_Snd G l ax_Ym M_X2_pass 43 (S_goto 47) := k_goto dX2_pass_43 rfl
theorem r_X2_pass_46 (E : ax_EN G l) : ax_Snd G l ax_Ym M_X2_pass 46 (S_push (.int (0)) 47) := k_iconst dX2_pass_46 rfl
theorem r_X2_pass_47 (E : ax_EN G l) : ax_Snd G l ax_Ym M_X2_pass 47 (S_istore 1 48) := k_istore_n dX2_pass_47 rfl (Nat.le_of_ble_eq_true rfl)
theorem r_X2_pass_48 (E : ax_EN G l) : ax_Snd G l ax_Ym M_X2_pass 48 (S_aload 0 49) := k_aload_n dX2_pass_48 rfl
theorem r_X2_pass_49 (E : ax_EN G l) : ax_Snd G l ax_Ym M_X2_pass 49 (S_push (.int (11)) 51) := k_bipush dX2_pass_49 rfl
theorem r_X2_pass_51 (E : ax_EN G l) : ax_Snd G l ax_Ym M_X2_pass 51 (S_iload 1 52) := k_iload_n dX2_pass_51 rfl
theorem r_X2_pass_52 (E : ax_EN G l) : ax_Snd G l ax_Ym M_X2_pass 52 (S_if1 (fun x => decide (x = 0)) 59 55) := k_if_eq dX2_pass_52 rfl
theorem r_X2_pass_55 (E : ax_EN G l) : ax_Snd G l ax_Ym M_X2_pass 55 (S_push (.int (0)) 56) := k_iconst dX2_pass_55 rfl
theorem r_X2_pass_56 (E : ax_EN G l) : ax_Snd G l ax_Ym M_X2_pass 56 (S_goto 68) := k_goto dX2_pass_56 rfl
theorem r_X2_pass_59 (E : ax_EN G l) : ax_Snd G l ax_Ym M_X2_pass 59 (S_aload 0 60) := k_aload_n dX2_pass_59 rfl
theorem r_X2_pass_60 (E : ax_EN G l) : ax_Snd G l ax_Ym M_X2_pass 60 (S_getf [(29, 0)] 63) := k_getf (en_F E) (ax_fes_cons (fe_158 E) ax_fes_nil) q283 dX2_pass_60
theorem r_X2_pass_63 (E : ax_EN G l) : ax_Snd G l ax_Ym M_X2_pass 63 (S_push (.int (11)) 65) := k_bipush dX2_pass_63 rfl
theorem r_X2_pass_65 (E : ax_EN G l) : ax_Snd G l ax_Ym M_X2_pass 65 (S_iald 0 66) := k_iald (en_F E) dX2_pass_65
theorem r_X2_pass_66 (E : ax_EN G l) : ax_Snd G l ax_Ym M_X2_pass 66 (S_push (.int (1)) 67) := k_iconst dX2_pass_66 rfl
theorem r_X2_pass_67 (E : ax_EN G l) : ax_Snd G l ax_Ym M_X2_pass 67 (S_i2 (fun x y => x + y) 68) := k_iadd dX2_pass_67
theorem r_X2_pass_68 (E : ax_EN G l) : ax_Snd G l ax_Ym M_X2_pass 68 (S_iv [(29, 320)] 2 71 hd_0) := k_iv (en_F E) (ax_ok0 E rfl) (ax_Evs_cons ((ev_v (en_c E (k := 29) rfl) rfl y_X2_set q2095 q2097 qs30 q122 q2098 nm_X2_set (Nat.le_of_ble_eq_true rfl) dX2_pass_68) : ax_EvV G l ax_Ym M_X2_pass 68 2 3 29 320) ax_Evs_nil)
theorem r_X2_pass_71 (E : ax_EN G l) : ax_Snd G l ax_Ym M_X2_pass 71 (S_aload 0 72) := k_aload_n dX2_pass_71 rfl
theorem r_X2_pass_72 (E : ax_EN G l) : ax_Snd G l ax_Ym M_X2_pass 72 (S_push (.int (8)) 74) := k_bipush dX2_pass_72 rfl
theorem r_X2_pass_74 (E : ax_EN G l) : ax_Snd G l ax_Ym M_X2_pass 74 (S_iload 1 75) := k_iload_n dX2_pass_74 rfl
theorem r_X2_pass_75 (E : ax_EN G l) : ax_Snd G l ax_Ym M_X2_pass 75 (S_if1 (fun x => decide (x = 0)) 82 78) := k_if_eq dX2_pass_75 rfl
theorem r_X2_pass_78 (E : ax_EN G l) : ax_Snd G l ax_Ym M_X2_pass 78 (S_push (.int (1)) 79) := k_iconst dX2_pass_78 rfl
theorem r_X2_pass_79 (E : ax_EN G l) : ax_Snd G l ax_Ym M_X2_pass 79 (S_goto 89) := k_goto dX2_pass_79 rfl
theorem r_X2_pass_82 (E : ax_EN G l) : ax_Snd G l ax_Ym M_X2_pass 82 (S_aload 0 83) := k_aload_n dX2_pass_82 rfl
theorem r_X2_pass_83 (E : ax_EN G l) : ax_Snd G l ax_Ym M_X2_pass 83 (S_getf [(29, 0)] 86) := k_getf (en_F E) (ax_fes_cons (fe_158 E) ax_fes_nil) q283 dX2_pass_83
theorem r_X2_pass_86 (E : ax_EN G l) : ax_Snd G l ax_Ym M_X2_pass 86 (S_push (.int (8)) 88) := k_bipush dX2_pass_86 rfl
theorem r_X2_pass_88 (E : ax_EN G l) : ax_Snd G l ax_Ym M_X2_pass 88 (S_iald 0 89) := k_iald (en_F E) dX2_pass_88
theorem r_X2_pass_89 (E : ax_EN G l) : ax_Snd G l ax_Ym M_X2_pass 89 (S_iv [(29, 320)] 2 92 hd_0) := k_iv (en_F E) (ax_ok0 E rfl) (ax_Evs_cons ((ev_v (en_c E (k := 29) rfl) rfl y_X2_set q2095 q2097 qs30 q122 q2098 nm_X2_set (Nat.le_of_ble_eq_true rfl) dX2_pass_89) : ax_EvV G l ax_Ym M_X2_pass 89 2 3 29 320) ax_Evs_nil)
theorem r_X2_pass_92 (E : ax_EN G l) : ax_Snd G l ax_Ym M_X2_pass 92 (S_aload 0 93) := k_aload_n dX2_pass_92 rfl
theorem r_X2_pass_93 (E : ax_EN G l) : ax_Snd G l ax_Ym M_X2_pass 93 (S_aload 0 94) := k_aload_n dX2_pass_93 rfl
theorem r_X2_pass_94 (E : ax_EN G l) : ax_Snd G l ax_Ym M_X2_pass 94 (S_getf [(29, 0)] 97) := k_getf (en_F E) (ax_fes_cons (fe_158 E) ax_fes_nil) q283 dX2_pass_94
theorem r_X2_pass_97 (E : ax_EN G l) : ax_Snd G l ax_Ym M_X2_pass 97 (S_push (.int (2)) 98) := k_iconst dX2_pass_97 rfl
theorem r_X2_pass_98 (E : ax_EN G l) : ax_Snd G l ax_Ym M_X2_pass 98 (S_iald 0 99) := k_iald (en_F E) dX2_pass_98
theorem r_X2_pass_99 (E : ax_EN G l) : ax_Snd G l ax_Ym M_X2_pass 99 (S_aload 0 100) := k_aload_n dX2_pass_99 rfl
theorem r_X2_pass_100 (E : ax_EN G l) : ax_Snd G l ax_Ym M_X2_pass 100 (S_getf [(29, 0)] 103) := k_getf (en_F E) (ax_fes_cons (fe_158 E) ax_fes_nil) q283 dX2_pass_100
theorem r_X2_pass_103 (E : ax_EN G l) : ax_Snd G l ax_Ym M_X2_pass 103 (S_push (.int (2)) 104) := k_iconst dX2_pass_103 rfl
theorem r_X2_pass_104 (E : ax_EN G l) : ax_Snd G l ax_Ym M_X2_pass 104 (S_iald 0 105) := k_iald (en_F E) dX2_pass_104
theorem r_X2_pass_105 (E : ax_EN G l) : ax_Snd G l ax_Ym M_X2_pass 105 (S_iv [(29, 334)] 2 108 hd_0) := k_iv (en_F E) (ax_ok0 E rfl) (ax_Evs_cons ((ev_v (en_c E (k := 29) rfl) rfl y_X2_told q2216 q2218 qs43 q122 q2219 nm_X2_told (Nat.le_of_ble_eq_true rfl) dX2_pass_105) : ax_EvV G l ax_Ym M_X2_pass 105 2 3 29 334) ax_Evs_nil)
theorem r_X2_pass_108 (E : ax_EN G l) : ax_Snd G l ax_Ym M_X2_pass 108 (S_if1 (fun x => decide (x ≤ 0)) 118 111) := k_if_le dX2_pass_108 rfl
theorem r_X2_pass_111 (E : ax_EN G l) : ax_Snd G l ax_Ym M_X2_pass 111 (S_aload 0 112) := k_aload_n dX2_pass_111 rfl
theorem r_X2_pass_112 (E : ax_EN G l) : ax_Snd G l ax_Ym M_X2_pass 112 (S_push (.int (9)) 114) := k_bipush dX2_pass_112 rfl
theorem r_X2_pass_114 (E : ax_EN G l) : ax_Snd G l ax_Ym M_X2_pass 114 (S_push (.int (1)) 115) := k_iconst dX2_pass_114 rfl
theorem r_X2_pass_115 (E : ax_EN G l) : ax_Snd G l ax_Ym M_X2_pass 115 (S_iv [(29, 320)] 2 118 hd_0) := k_iv (en_F E) (ax_ok0 E rfl) (ax_Evs_cons ((ev_v (en_c E (k := 29) rfl) rfl y_X2_set q2095 q2097 qs30 q122 q2098 nm_X2_set (Nat.le_of_ble_eq_true rfl) dX2_pass_115) : ax_EvV G l ax_Ym M_X2_pass 115 2 3 29 320) ax_Evs_nil)
theorem r_X2_pass_118 (E : ax_EN G l) : ax_Snd G l ax_Ym M_X2_pass 118 (S_ret) := k_ret dX2_pass_118 rfl
theorem mt_X2_pass (E : ax_EN G l) : ax_mt G l ax_Ym (2, P_X2_pass) (ax_Ym 347) := ⟨M_X2_pass, yX2_pass, ⟨rfl, by decide +kernel, rfl, (fun h => by cases h), Or.inl ⟨rfl, rfl⟩⟩, fun pc => (ax_sn_node (ax_sn_node (ax_sn_node (ax_sn_node (ax_sn_node (ax_sn_node (ax_sn_node (ax_sn_leaf (r_X2_pass_118 E)) (ax_sn_leaf (r_X2_pass_115 E))) (ax_sn_leaf (r_X2_pass_114 E))) (ax_sn_node (ax_sn_leaf (r_X2_pass_112 E)) (ax_sn_leaf (r_X2_pass_111 E)))) (ax_sn_node (ax_sn_node (ax_sn_leaf (r_X2_pass_108 E)) (ax_sn_leaf (r_X2_pass_105 E))) (ax_sn_node (ax_sn_leaf (r_X2_pass_104 E)) (ax_sn_leaf (r_X2_pass_103 E))))) (ax_sn_node (ax_sn_node (ax_sn_node (ax_sn_node (ax_sn_leaf (r_X2_pass_100 E)) (ax_sn_leaf (r_X2_pass_99 E))) (ax_sn_leaf (r_X2_pass_98 E))) (ax_sn_node (ax_sn_leaf (r_X2_pass_97 E)) (ax_sn_leaf (r_X2_pass_94 E)))) (ax_sn_node (ax_sn_node (ax_sn_leaf (r_X2_pass_93 E)) (ax_sn_leaf (r_X2_pass_92 E))) (ax_sn_node (ax_sn_leaf (r_X2_pass_89 E)) (ax_sn_leaf (r_X2_pass_88 E)))))) (ax_sn_node (ax_sn_node (ax_sn_node (ax_sn_node (ax_sn_node (ax_sn_leaf (r_X2_pass_86 E)) (ax_sn_leaf (r_X2_pass_83 E))) (ax_sn_leaf (r_X2_pass_82 E))) (ax_sn_node (ax_sn_leaf (r_X2_pass_79 E)) (ax_sn_leaf (r_X2_pass_78 E)))) (ax_sn_node (ax_sn_node (ax_sn_leaf (r_X2_pass_75 E)) (ax_sn_leaf (r_X2_pass_74 E))) (ax_sn_node (ax_sn_leaf (r_X2_pass_72 E)) (ax_sn_leaf (r_X2_pass_71 E))))) (ax_sn_node (ax_sn_node (ax_sn_node (ax_sn_leaf (r_X2_pass_68 E)) (ax_sn_leaf (r_X2_pass_67 E))) (ax_sn_node (ax_sn_leaf (r_X2_pass_66 E)) (ax_sn_leaf (r_X2_pass_65 E)))) (ax_sn_node (ax_sn_node (ax_sn_leaf (r_X2_pass_63 E)) (ax_sn_leaf (r_X2_pass_60 E))) (ax_sn_node (ax_sn_leaf (r_X2_pass_59 E)) (ax_sn_leaf (r_X2_pass_56 E))))))) (ax_sn_node (ax_sn_node (ax_sn_node (ax_sn_node (ax_sn_node (ax_sn_node (ax_sn_leaf (r_X2_pass_55 E)) (ax_sn_leaf (r_X2_pass_52 E))) (ax_sn_leaf (r_X2_pass_51 E))) (ax_sn_node (ax_sn_leaf (r_X2_pass_49 E)) (ax_sn_leaf (r_X2_pass_48 E)))) (ax_sn_node (ax_sn_node (ax_sn_leaf (r_X2_pass_47 E)) (ax_sn_leaf (r_X2_pass_46 E))) (ax_sn_node (ax_sn_leaf (r_X2_pass_43 E)) (ax_sn_leaf (r_X2_pass_42 E))))) (ax_sn_node (ax_sn_node (ax_sn_node (ax_sn_leaf (r_X2_pass_39 E)) (ax_sn_leaf (r_X2_pass_38 E))) (ax_sn_node (ax_sn_leaf (r_X2_pass_36 E)) (ax_sn_leaf (r_X2_pass_33 E)))) (ax_sn_node (ax_sn_node (ax_sn_leaf (r_X2_pass_32 E)) (ax_sn_leaf (r_X2_pass_31 E))) (ax_sn_node (ax_sn_leaf (r_X2_pass_30 E)) (ax_sn_leaf (r_X2_pass_29 E)))))) (ax_sn_node (ax_sn_node (ax_sn_node (ax_sn_node (ax_sn_node (ax_sn_leaf (r_X2_pass_27 E)) (ax_sn_leaf (r_X2_pass_24 E))) (ax_sn_leaf (r_X2_pass_23 E))) (ax_sn_node (ax_sn_leaf (r_X2_pass_20 E)) (ax_sn_leaf (r_X2_pass_19 E)))) (ax_sn_node (ax_sn_node (ax_sn_leaf (r_X2_pass_17 E)) (ax_sn_leaf (r_X2_pass_14 E))) (ax_sn_node (ax_sn_leaf (r_X2_pass_13 E)) (ax_sn_leaf (r_X2_pass_10 E))))) (ax_sn_node (ax_sn_node (ax_sn_node (ax_sn_leaf (r_X2_pass_9 E)) (ax_sn_leaf (r_X2_pass_8 E))) (ax_sn_node (ax_sn_leaf (r_X2_pass_7 E)) (ax_sn_leaf (r_X2_pass_6 E)))) (ax_sn_node (ax_sn_node (ax_sn_leaf (r_X2_pass_3 E)) (ax_sn_leaf (r_X2_pass_2 E))) (ax_sn_node (ax_sn_leaf (r_X2_pass_1 E)) (ax_sn_leaf (r_X2_pass_0 E))))))))⟩
theorem r_X2_back_0 (E : ax_EN G l) : ax_Snd G l ax_Ym M_X2_back 0 (S_push (.int (0)) 1) := k_iconst dX2_back_0 rfl
theorem r_X2_back_1 (E : ax_EN G l) : ax_Snd G l ax_Ym M_X2_back 1 (S_istore 2 2) := k_istore_n dX2_back_1 rfl (Nat.le_of_ble_eq_true rfl)
theorem r_X2_back_2 (E : ax_EN G l) : ax_Snd G l ax_Ym M_X2_back 2 (S_iload 2 3) := k_iload_n dX2_back_2 rfl
theorem r_X2_back_3 (E : ax_EN G l) : ax_Snd G l ax_Ym M_X2_back 3 (S_iload 1 4) := k_iload_n dX2_back_3 rfl
theorem r_X2_back_4 (E : ax_EN G l) : ax_Snd G l ax_Ym M_X2_back 4 (S_if2 (fun x y => decide (y ≤ x)) 74 7) := k_icmp_ge dX2_back_4 rfl
theorem r_X2_back_7 (E : ax_EN G l) : ax_Snd G l ax_Ym M_X2_back 7 (S_aload 0 8) := k_aload_n dX2_back_7 rfl
theorem r_X2_back_8 (E : ax_EN G l) : ax_Snd G l ax_Ym M_X2_back 8 (S_getf [(29, 2)] 11) := k_getf (en_F E) (ax_fes_cons (fe_159 E) ax_fes_nil) q288 dX2_back_8
theorem r_X2_back_11 (E : ax_EN G l) : ax_Snd G l ax_Ym M_X2_back 11 (S_iv [(16, 156)] 0 14 hd_0) := k_iv (en_F E) (ax_ok0 E rfl) (ax_Evs_cons ((ev_v (en_c E (k := 16) rfl) rfl y_J5_isEmpty q2309 q2310 q2311 q125 q2312 nm_J5_isEmpty (Nat.le_of_ble_eq_true rfl) dX2_back_11) : ax_EvV G l ax_Ym M_X2_back 11 0 3 16 156) ax_Evs_nil)
theorem r_X2_back_14 (E : ax_EN G l) : ax_Snd G l ax_Ym M_X2_back 14 (S_if1 (fun x => decide (¬ x = 0)) 74 17) := k_if_ne dX2_back_14 rfl
theorem r_X2_back_17 (E : ax_EN G l) : ax_Snd G l ax_Ym M_X2_back 17 (S_aload 0 18) := k_aload_n dX2_back_17 rfl
theorem r_X2_back_18 (E : ax_EN G l) : ax_Snd G l ax_Ym M_X2_back 18 (S_getf [(29, 2)] 21) := k_getf (en_F E) (ax_fes_cons (fe_159 E) ax_fes_nil) q288 dX2_back_18
theorem r_X2_back_21 (E : ax_EN G l) : ax_Snd G l ax_Ym M_X2_back 21 (S_iv [(16, 157)] 0 24 hd_0) := k_iv (en_F E) (ax_ok0 E rfl) (ax_Evs_cons ((ev_v (en_c E (k := 16) rfl) rfl y_J5_removeLast q2313 q2314 q2315 q125 q2316 nm_J5_removeLast (Nat.le_of_ble_eq_true rfl) dX2_back_21) : ax_EvV G l ax_Ym M_X2_back 21 0 3 16 157) ax_Evs_nil)
theorem r_X2_back_24 (E : ax_EN G l) : ax_Snd G l ax_Ym M_X2_back 24 (S_cast [31] 27) := k_cast (en_F E) (en_B E) (cs_320 E) q2032 dX2_back_24
theorem r_X2_back_27 (E : ax_EN G l) : ax_Snd G l ax_Ym M_X2_back 27 (S_astore 3 28) := k_astore_n dX2_back_27 rfl (Nat.le_of_ble_eq_true rfl)
theorem r_X2_back_28 (E : ax_EN G l) : ax_Snd G l ax_Ym M_X2_back 28 (S_aload 3 29) := k_aload_n dX2_back_28 rfl
theorem r_X2_back_29 (E : ax_EN G l) : ax_Snd G l ax_Ym M_X2_back 29 (S_getf [(31, 1)] 32) := k_getfN (en_F E) (en_B E) (ax_fes_cons (fe_321 E) ax_fes_nil) q2041 dX2_back_29
theorem r_X2_back_32 (E : ax_EN G l) : ax_Snd G l ax_Ym M_X2_back 32 (S_push (.int (2)) 33) := k_iconst dX2_back_32 rfl
theorem r_X2_back_33 (E : ax_EN G l) : ax_Snd G l ax_Ym M_X2_back 33 (S_i2 (fun x y => x - y) 34) := k_isub dX2_back_33
theorem r_X2_back_34 (E : ax_EN G l) : ax_Snd G l ax_Ym M_X2_back 34 (S_istore 4 36) := k_istore dX2_back_34 (Nat.le_of_ble_eq_true rfl)
theorem r_X2_back_36 (E : ax_EN G l) : ax_Snd G l ax_Ym M_X2_back 36 (S_iload 4 38) := k_iload dX2_back_36
theorem r_X2_back_38 (E : ax_EN G l) : ax_Snd G l ax_Ym M_X2_back 38 (S_if1 (fun x => decide (x < 0)) 68 41) := k_if_lt dX2_back_38 rfl
theorem r_X2_back_41 (E : ax_EN G l) : ax_Snd G l ax_Ym M_X2_back 41 (S_aload 0 42) := k_aload_n dX2_back_41 rfl
theorem r_X2_back_42 (E : ax_EN G l) : ax_Snd G l ax_Ym M_X2_back 42 (S_getf [(29, 0)] 45) := k_getf (en_F E) (ax_fes_cons (fe_158 E) ax_fes_nil) q283 dX2_back_42
theorem r_X2_back_45 (E : ax_EN G l) : ax_Snd G l ax_Ym M_X2_back 45 (S_aload 3 46) := k_aload_n dX2_back_45 rfl
theorem r_X2_back_46 (E : ax_EN G l) : ax_Snd G l ax_Ym M_X2_back 46 (S_getf [(31, 0)] 49) := k_getfN (en_F E) (en_B E) (ax_fes_cons (fe_322 E) ax_fes_nil) q2039 dX2_back_46
theorem r_X2_back_49 (E : ax_EN G l) : ax_Snd G l ax_Ym M_X2_back 49 (S_iload 4 51) := k_iload dX2_back_49
theorem r_X2_back_51 (E : ax_EN G l) : ax_Snd G l ax_Ym M_X2_back 51 (S_iald 0 52) := k_iald (en_F E) dX2_back_51
theorem r_X2_back_52 (E : ax_EN G l) : ax_Snd G l ax_Ym M_X2_back 52 (S_aload 3 53) := k_aload_n dX2_back_52 rfl
theorem r_X2_back_53 (E : ax_EN G l) : ax_Snd G l ax_Ym M_X2_back 53 (S_getf [(31, 0)] 56) := k_getfN (en_F E) (en_B E) (ax_fes_cons (fe_322 E) ax_fes_nil) q2039 dX2_back_53
theorem r_X2_back_56 (E : ax_EN G l) : ax_Snd G l ax_Ym M_X2_back 56 (S_iload 4 58) := k_iload dX2_back_56
theorem r_X2_back_58 (E : ax_EN G l) : ax_Snd G l ax_Ym M_X2_back 58 (S_push (.int (1)) 59) := k_iconst dX2_back_58 rfl
theorem r_X2_back_59 (E : ax_EN G l) : ax_Snd G l ax_Ym M_X2_back 59 (S_i2 (fun x y => x + y) 60) := k_iadd dX2_back_59
theorem r_X2_back_60 (E : ax_EN G l) : ax_Snd G l ax_Ym M_X2_back 60 (S_iald 0 61) := k_iald (en_F E) dX2_back_60
theorem r_X2_back_61 (E : ax_EN G l) : ax_Snd G l ax_Ym M_X2_back 61 (S_iast 0 (fun x => x) 62) := k_iast (en_F E) dX2_back_61
theorem r_X2_back_62 (E : ax_EN G l) : ax_Snd G l ax_Ym M_X2_back 62 (S_iinc 4 (-2) 65) := k_iinc dX2_back_62 rfl (Nat.le_of_ble_eq_true rfl)
theorem r_X2_back_65 (E : ax_EN G l) : ax_Snd G l ax_Ym M_X2_back 65 (S_goto 36) := k_goto dX2_back_65 rfl
theorem r_X2_back_68 (E : ax_EN G l) : ax_Snd G l ax_Ym M_X2_back 68 (S_iinc 2 (1) 71) := k_iinc dX2_back_68 rfl (Nat.le_of_ble_eq_true rfl)
theorem r_X2_back_71 (E : ax_EN G l) : ax_Snd G l ax_Ym M_X2_back 71 (S_goto 2) := k_goto dX2_back_71 rfl
theorem r_X2_back_74 (E : ax_EN G l) : ax_Snd G l ax_Ym M_X2_back 74 (S_iload 2 75) := k_iload_n dX2_back_74 rfl
theorem r_X2_back_75 (E : ax_EN G l) : ax_Snd G l ax_Ym M_X2_back 75 (S_iret) := k_iret dX2_back_75 rfl
theorem mt_X2_back (E : ax_EN G l) : ax_mt G l ax_Ym (5, P_X2_back) (ax_Ym 348) := ⟨M_X2_back, yX2_back, ⟨rfl, by decide +kernel, rfl, (fun h => by cases h), Or.inl ⟨rfl, rfl⟩⟩, fun pc => (ax_sn_node (ax_sn_node (ax_sn_node (ax_sn_node (ax_sn_node (ax_sn_node (ax_sn_leaf (r_X2_back_75 E)) (ax_sn_leaf (r_X2_back_74 E))) (ax_sn_leaf (r_X2_back_71 E))) (ax_sn_node (ax_sn_leaf (r_X2_back_68 E)) (ax_sn_leaf (r_X2_back_65 E)))) (ax_sn_node (ax_sn_node (ax_sn_node (ax_sn_leaf (r_X2_back_62 E)) (ax_sn_leaf (r_X2_back_61 E))) (ax_sn_leaf (r_X2_back_60 E))) (ax_sn_node (ax_sn_leaf (r_X2_back_59 E)) (ax_sn_leaf (r_X2_back_58 E))))) (ax_sn_node (ax_sn_node (ax_sn_node (ax_sn_node (ax_sn_leaf (r_X2_back_56 E)) (ax_sn_leaf (r_X2_back_53 E))) (ax_sn_leaf (r_X2_back_52 E))) (ax_sn_node (ax_sn_leaf (r_X2_back_51 E)) (ax_sn_leaf (r_X2_back_49 E)))) (ax_sn_node (ax_sn_node (ax_sn_node (ax_sn_leaf (r_X2_back_46 E)) (ax_sn_leaf (r_X2_back_45 E))) (ax_sn_leaf (r_X2_back_42 E))) (ax_sn_node (ax_sn_leaf (r_X2_back_41 E)) (ax_sn_leaf (r_X2_back_38 E)))))) (ax_sn_node (ax_sn_node (ax_sn_node (ax_sn_node (ax_sn_node (ax_sn_leaf (r_X2_back_36 E)) (ax_sn_leaf (r_X2_back_34 E))) (ax_sn_leaf (r_X2_back_33 E))) (ax_sn_node (ax_sn_leaf (r_X2_back_32 E)) (ax_sn_leaf (r_X2_back_29 E)))) (ax_sn_node (ax_sn_node (ax_sn_node (ax_sn_leaf (r_X2_back_28 E)) (ax_sn_leaf (r_X2_back_27 E))) (ax_sn_leaf (r_X2_back_24 E))) (ax_sn_node (ax_sn_leaf (r_X2_back_21 E)) (ax_sn_leaf (r_X2_back_18 E))))) (ax_sn_node (ax_sn_node (ax_sn_node (ax_sn_node (ax_sn_leaf (r_X2_back_17 E)) (ax_sn_leaf (r_X2_back_14 E))) (ax_sn_leaf (r_X2_back_11 E))) (ax_sn_node (ax_sn_leaf (r_X2_back_8 E)) (ax_sn_leaf (r_X2_back_7 E)))) (ax_sn_node (ax_sn_node (ax_sn_node (ax_sn_leaf (r_X2_back_4 E)) (ax_sn_leaf (r_X2_back_3 E))) (ax_sn_leaf (r_X2_back_2 E))) (ax_sn_node (ax_sn_leaf (r_X2_back_1 E)) (ax_sn_leaf (r_X2_back_0 E)))))))⟩
theorem r_X2_press_0 (E : ax_EN G l) : ax_Snd G l ax_Ym M_X2_press 0 (S_aload 0 1) := k_aload_n dX2_press_0 rfl
theorem r_X2_press_1 (E : ax_EN G l) : ax_Snd G l ax_Ym M_X2_press 1 (S_getf [(29, 1)] 4) := k_getf (en_F E) (ax_fes_cons (fe_183 E) ax_fes_nil) q286 dX2_press_1
theorem r_X2_press_4 (E : ax_EN G l) : ax_Snd G l ax_Ym M_X2_press 4 (S_aload 0 5) := k_aload_n dX2_press_4 rfl
theorem r_X2_press_5 (E : ax_EN G l) : ax_Snd G l ax_Ym M_X2_press 5 (S_getf [(29, 1)] 8) := k_getf (en_F E) (ax_fes_cons (fe_183 E) ax_fes_nil) q286 dX2_press_5
theorem r_X2_press_8 (E : ax_EN G l) : ax_Snd G l ax_Ym M_X2_press 8 (S_iv [(15, 125)] 0 11 hd_0) := k_iv (en_F E) (ax_ok0 E rfl) (ax_Evs_cons ((ev_v (en_c E (k := 15) rfl) rfl y_J4_size q2220 q358 q3460 q124 q360 nm_J4_size (Nat.le_of_ble_eq_true rfl) dX2_press_8) : ax_EvV G l ax_Ym M_X2_press 8 0 3 15 125) ax_Evs_nil)
theorem r_X2_press_11 (E : ax_EN G l) : ax_Snd G l ax_Ym M_X2_press 11 (S_iv [(15, 134)] 1 14 hd_0) := k_iv (en_F E) (ax_ok0 E rfl) (ax_Evs_cons ((ev_v (en_c E (k := 15) rfl) rfl y_J4_listIterator q2334 q1461 q3462 q124 q1462 nm_J4_listIterator (Nat.le_of_ble_eq_true rfl) dX2_press_11) : ax_EvV G l ax_Ym M_X2_press 11 1 3 15 134) ax_Evs_nil)
theorem r_X2_press_14 (E : ax_EN G l) : ax_Snd G l ax_Ym M_X2_press 14 (S_astore 2 15) := k_astore_n dX2_press_14 rfl (Nat.le_of_ble_eq_true rfl)
theorem r_X2_press_15 (E : ax_EN G l) : ax_Snd G l ax_Ym M_X2_press 15 (S_push (.int (0)) 16) := k_iconst dX2_press_15 rfl
theorem r_X2_press_16 (E : ax_EN G l) : ax_Snd G l ax_Ym M_X2_press 16 (S_istore 3 17) := k_istore_n dX2_press_16 rfl (Nat.le_of_ble_eq_true rfl)
theorem r_X2_press_17 (E : ax_EN G l) : ax_Snd G l ax_Ym M_X2_press 17 (S_iload 3 18) := k_iload_n dX2_press_17 rfl
theorem r_X2_press_18 (E : ax_EN G l) : ax_Snd G l ax_Ym M_X2_press 18 (S_if1 (fun x => decide (¬ x = 0)) 60 21) := k_if_ne dX2_press_18 rfl
theorem r_X2_press_21 (E : ax_EN G l) : ax_Snd G l ax_Ym M_X2_press 21 (S_aload 2 22) := k_aload_n dX2_press_21 rfl
theorem r_X2_press_22 (E : ax_EN G l) : ax_Snd G l ax_Ym M_X2_press 22 (S_iv [(8, 88)] 0 27 hd_0) := k_iv (en_F E) (ax_ok0 E rfl) (ax_Evs_cons ((ev_f (en_F E) (en_B E) (en_c E (k := 8) rfl) y_J26_hasPrevious q2336 q2354 q2352 q170 q2356 q2338 q2337 q2355 q2353 q2351 xn_323 (Nat.le_of_ble_eq_true rfl) dX2_press_22) : ax_EvV G l ax_Ym M_X2_press 22 0 5 8 88) ax_Evs_nil)
theorem r_X2_press_27 (E : ax_EN G l) : ax_Snd G l ax_Ym M_X2_press 27 (S_if1 (fun x => decide (x = 0)) 60 30) := k_if_eq dX2_press_27 rfl
theorem r_X2_press_30 (E : ax_EN G l) : ax_Snd G l ax_Ym M_X2_press 30 (S_aload 2 31) := k_aload_n dX2_press_30 rfl
theorem r_X2_press_31 (E : ax_EN G l) : ax_Snd G l ax_Ym M_X2_press 31 (S_iv [(8, 89)] 0 36 hd_0) := k_iv (en_F E) (ax_ok0 E rfl) (ax_Evs_cons ((ev_f (en_F E) (en_B E) (en_c E (k := 8) rfl) y_J26_previous q2358 q2386 q2384 q170 q2388 q2360 q2359 q2387 q2385 q2351 xn_324 (Nat.le_of_ble_eq_true rfl) dX2_press_31) : ax_EvV G l ax_Ym M_X2_press 31 0 5 8 89) ax_Evs_nil)
theorem r_X2_press_36 (E : ax_EN G l) : ax_Snd G l ax_Ym M_X2_press 36 (S_cast [36] 39) := k_cast (en_F E) (en_B E) (cs_315 E) q2222 dX2_press_36
theorem r_X2_press_39 (E : ax_EN G l) : ax_Snd G l ax_Ym M_X2_press 39 (S_getf [(36, 0)] 42) := k_getfN (en_F E) (en_B E) (ax_fes_cons (fe_317 E) ax_fes_nil) q2403 dX2_press_39
theorem r_X2_press_42 (E : ax_EN G l) : ax_Snd G l ax_Ym M_X2_press 42 (S_aload 0 43) := k_aload_n dX2_press_42 rfl
theorem r_X2_press_43 (E : ax_EN G l) : ax_Snd G l ax_Ym M_X2_press 43 (S_getf [(29, 0)] 46) := k_getf (en_F E) (ax_fes_cons (fe_158 E) ax_fes_nil) q283 dX2_press_43
theorem r_X2_press_46 (E : ax_EN G l) : ax_Snd G l ax_Ym M_X2_press 46 (S_push (.int (2)) 47) := k_iconst dX2_press_46 rfl
theorem r_X2_press_47 (E : ax_EN G l) : ax_Snd G l ax_Ym M_X2_press 47 (S_iald 0 48) := k_iald (en_F E) dX2_press_47
theorem r_X2_press_48 (E : ax_EN G l) : ax_Snd G l ax_Ym M_X2_press 48 (S_if2 (fun x y => decide (y < x)) 55 51) := k_icmp_gt dX2_press_48 rfl
theorem r_X2_press_51 (E : ax_EN G l) : ax_Snd G l ax_Ym M_X2_press 51 (S_push (.int (1)) 52) := k_iconst dX2_press_51 rfl
theorem r_X2_press_52 (E : ax_EN G l) : ax_Snd G l ax_Ym M_X2_press 52 (S_goto 56) := k_goto dX2_press_52 rfl
theorem r_X2_press_55 (E : ax_EN G l) : ax_Snd G l ax_Ym M_X2_press 55 (S_push (.int (0)) 56) := k_iconst dX2_press_55 rfl
theorem r_X2_press_56 (E : ax_EN G l) : ax_Snd G l ax_Ym M_X2_press 56 (S_istore 3 57) := k_istore_n dX2_press_56 rfl (Nat.le_of_ble_eq_true rfl)
theorem r_X2_press_57 (E : ax_EN G l) : ax_Snd G l ax_Ym M_X2_press 57 (S_goto 17) := k_goto dX2_press_57 rfl
theorem r_X2_press_60 (E : ax_EN G l) : ax_Snd G l ax_Ym M_X2_press 60 (S_iload 3 61) := k_iload_n dX2_press_60 rfl
theorem r_X2_press_61 (E : ax_EN G l) : ax_Snd G l ax_Ym M_X2_press 61 (S_if1 (fun x => decide (x = 0)) 71 64) := k_if_eq dX2_press_61 rfl
theorem r_X2_press_64 (E : ax_EN G l) : ax_Snd G l ax_Ym M_X2_press 64 (S_aload 2 65) := k_aload_n dX2_press_64 rfl
theorem r_X2_press_65 (E : ax_EN G l) : ax_Snd G l ax_Ym M_X2_press 65 (S_iv [(8, 86)] 0 70 hd_0) := k_iv (en_F E) (ax_ok0 E rfl) (ax_Evs_cons ((ev_f (en_F E) (en_B E) (en_c E (k := 8) rfl) y_J26_next q2391 q1663 q2396 q170 q1665 q2393 q2392 q1664 q1662 q2351 xn_325 (Nat.le_of_ble_eq_true rfl) dX2_press_65) : ax_EvV G l ax_Ym M_X2_press 65 0 5 8 86) ax_Evs_nil)
theorem r_X2_press_70 (E : ax_EN G l) : ax_Snd G l ax_Ym M_X2_press 70 (S_pop 71) := k_pop dX2_press_70
theorem r_X2_press_71 (E : ax_EN G l) : ax_Snd G l ax_Ym M_X2_press 71 (S_aload 2 72) := k_aload_n dX2_press_71 rfl
theorem r_X2_press_72 (E : ax_EN G l) : ax_Snd G l ax_Ym M_X2_press 72 (S_new 36 [.int 0, .int 0] 2 75) := k_new (en_F E) (mk_36 E) q2222 dX2_press_72
theorem r_X2_press_75 (E : ax_EN G l) : ax_Snd G l ax_Ym M_X2_press 75 (S_dup 76) := k_dup dX2_press_75
theorem r_X2_press_76 (E : ax_EN G l) : ax_Snd G l ax_Ym M_X2_press 76 (S_aload 0 77) := k_aload_n dX2_press_76 rfl
theorem r_X2_press_77 (E : ax_EN G l) : ax_Snd G l ax_Ym M_X2_press 77 (S_getf [(29, 0)] 80) := k_getf (en_F E) (ax_fes_cons (fe_158 E) ax_fes_nil) q283 dX2_press_77
theorem r_X2_press_80 (E : ax_EN G l) : ax_Snd G l ax_Ym M_X2_press 80 (S_push (.int (2)) 81) := k_iconst dX2_press_80 rfl
theorem r_X2_press_81 (E : ax_EN G l) : ax_Snd G l ax_Ym M_X2_press 81 (S_iald 0 82) := k_iald (en_F E) dX2_press_81
theorem r_X2_press_82 (E : ax_EN G l) : ax_Snd G l ax_Ym M_X2_press 82 (S_iload 1 83) := k_iload_n dX2_press_82 rfl
theorem r_X2_press_83 (E : ax_EN G l) : ax_Snd G l ax_Ym M_X2_press 83 (S_isp 365 2 86 hd_0) := k_isp (en_F E) (ax_ok0 E rfl) ((ev_i y_X26_init q2398 q2399 q171 q2400 nm_X26_init rfl (Nat.le_of_ble_eq_true rfl) dX2_press_83) : ax_EvI G l ax_Ym M_X2_press 83 365 2 3)
theorem r_X2_press_86 (E : ax_EN G l) : ax_Snd G l ax_Ym M_X2_press 86 (S_iv [(8, 90)] 1 91 hd_0) := k_iv (en_F E) (ax_ok0 E rfl) (ax_Evs_cons ((ev_f (en_F E) (en_B E) (en_c E (k := 8) rfl) y_J26_add q2412 q2458 q2456 q170 q2460 q2414 q2413 q2459 q2457 q2351 xn_327 (Nat.le_of_ble_eq_true rfl) dX2_press_86) : ax_EvV G l ax_Ym M_X2_press 86 1 5 8 90) ax_Evs_nil)
theorem r_X2_press_91 (E : ax_EN G l) : ax_Snd G l ax_Ym M_X2_press 91 (S_aload 0 92) := k_aload_n dX2_press_91 rfl
theorem r_X2_press_92 (E : ax_EN G l) : ax_Snd G l ax_Ym M_X2_press 92 (S_getf [(29, 2)] 95) := k_getf (en_F E) (ax_fes_cons (fe_159 E) ax_fes_nil) q288 dX2_press_92
theorem r_X2_press_95 (E : ax_EN G l) : ax_Snd G l ax_Ym M_X2_press 95 (S_iv [(16, 159)] 0 98 hd_0) := k_iv (en_F E) (ax_ok0 E rfl) (ax_Evs_cons ((ev_v (en_c E (k := 16) rfl) rfl y_J5_peekLast q2463 q2464 q2465 q125 q2466 nm_J5_peekLast (Nat.le_of_ble_eq_true rfl) dX2_press_95) : ax_EvV G l ax_Ym M_X2_press 95 0 3 16 159) ax_Evs_nil)
theorem r_X2_press_98 (E : ax_EN G l) : ax_Snd G l ax_Ym M_X2_press 98 (S_cast [31] 101) := k_cast (en_F E) (en_B E) (cs_320 E) q2032 dX2_press_98
theorem r_X2_press_101 (E : ax_EN G l) : ax_Snd G l ax_Ym M_X2_press 101 (S_astore 4 103) := k_astore dX2_press_101 (Nat.le_of_ble_eq_true rfl)
theorem r_X2_press_103 (E : ax_EN G l) : ax_Snd G l ax_Ym M_X2_press 103 (S_aload 4 105) := k_aload dX2_press_103
theorem r_X2_press_105 (E : ax_EN G l) : ax_Snd G l ax_Ym M_X2_press 105 (S_null 122 108) := k_ifnull dX2_press_105 rfl
theorem r_X2_press_108 (E : ax_EN G l) : ax_Snd G l ax_Ym M_X2_press 108 (S_aload 4 110) := k_aload dX2_press_108
theorem r_X2_press_110 (E : ax_EN G l) : ax_Snd G l ax_Ym M_X2_press 110 (S_push (.int (9)) 112) := k_bipush dX2_press_110 rfl
theorem r_X2_press_112 (E : ax_EN G l) : ax_Snd G l ax_Ym M_X2_press 112 (S_aload 0 113) := k_aload_n dX2_press_112 rfl
theorem r_X2_press_113 (E : ax_EN G l) : ax_Snd G l ax_Ym M_X2_press 113 (S_getf [(29, 0)] 116) := k_getf (en_F E) (ax_fes_cons (fe_158 E) ax_fes_nil) q283 dX2_press_113
theorem r_X2_press_116 (E : ax_EN G l) : ax_Snd G l ax_Ym M_X2_press 116 (S_push (.int (9)) 118) := k_bipush dX2_press_116 rfl
theorem r_X2_press_118 (E : ax_EN G l) : ax_Snd G l ax_Ym M_X2_press 118 (S_iald 0 119) := k_iald (en_F E) dX2_press_118
theorem r_X2_press_119 (E : ax_EN G l) : ax_Snd G l ax_Ym M_X2_press 119 (S_iv [(31, 359)] 2 122 hd_0) := k_iv (en_F E) (ax_ok0 E rfl) (ax_Evs_cons ((ev_v (en_c E (k := 31) rfl) rfl y_X21_note q2099 q2100 q2101 q164 q2102 nm_X21_note (Nat.le_of_ble_eq_true rfl) dX2_press_119) : ax_EvV G l ax_Ym M_X2_press 119 2 3 31 359) ax_Evs_nil)
theorem r_X2_press_122 (E : ax_EN G l) : ax_Snd G l ax_Ym M_X2_press 122 (S_aload 0 123) := k_aload_n dX2_press_122 rfl
theorem r_X2_press_123 (E : ax_EN G l) : ax_Snd G l ax_Ym M_X2_press 123 (S_getf [(29, 0)] 126) := k_getf (en_F E) (ax_fes_cons (fe_158 E) ax_fes_nil) q283 dX2_press_123
theorem r_X2_press_126 (E : ax_EN G l) : ax_Snd G l ax_Ym M_X2_press 126 (S_push (.int (9)) 128) := k_bipush dX2_press_126 rfl
theorem r_X2_press_128 (E : ax_EN G l) : ax_Snd G l ax_Ym M_X2_press 128 (S_push (.int (1)) 129) := k_iconst dX2_press_128 rfl
theorem r_X2_press_129 (E : ax_EN G l) : ax_Snd G l ax_Ym M_X2_press 129 (S_iast 0 (fun x => x) 130) := k_iast (en_F E) dX2_press_129
theorem r_X2_press_130 (E : ax_EN G l) : ax_Snd G l ax_Ym M_X2_press 130 (S_ret) := k_ret dX2_press_130 rfl
theorem mt_X2_press (E : ax_EN G l) : ax_mt G l ax_Ym (5, P_X2_press) (ax_Ym 349) := ⟨M_X2_press, yX2_press, ⟨rfl, by decide +kernel, rfl, (fun h => by cases h), Or.inl ⟨rfl, rfl⟩⟩, fun pc => (ax_sn_node (ax_sn_node (ax_sn_node (ax_sn_node (ax_sn_node (ax_sn_node (ax_sn_leaf (r_X2_press_130 E)) (ax_sn_leaf (r_X2_press_129 E))) (ax_sn_node (ax_sn_leaf (r_X2_press_128 E)) (ax_sn_leaf (r_X2_press_126 E)))) (ax_sn_node (ax_sn_node (ax_sn_leaf (r_X2_press_123 E)) (ax_sn_leaf (r_X2_press_122 E))) (ax_sn_node (ax_sn_leaf (r_X2_press_119 E)) (ax_sn_leaf (r_X2_press_118 E))))) (ax_sn_node (ax_sn_node (ax_sn_node (ax_sn_leaf (r_X2_press_116 E)) (ax_sn_leaf (r_X2_press_113 E))) (ax_sn_node (ax_sn_leaf (r_X2_press_112 E)) (ax_sn_leaf (r_X2_press_110 E)))) (ax_sn_node (ax_sn_node (ax_sn_leaf (r_X2_press_108 E)) (ax_sn_leaf (r_X2_press_105 E))) (ax_sn_node (ax_sn_leaf (r_X2_press_103 E)) (ax_sn_leaf (r_X2_press_101 E)))))) (ax_sn_node (ax_sn_node (ax_sn_node (ax_sn_node (ax_sn_leaf (r_X2_press_98 E)) (ax_sn_leaf (r_X2_press_95 E))) (ax_sn_node (ax_sn_leaf (r_X2_press_92 E)) (ax_sn_leaf (r_X2_press_91 E)))) (ax_sn_node (ax_sn_node (ax_sn_leaf (r_X2_press_86 E)) (ax_sn_leaf (r_X2_press_83 E))) (ax_sn_node (ax_sn_leaf (r_X2_press_82 E)) (ax_sn_leaf (r_X2_press_81 E))))) (ax_sn_node (ax_sn_node (ax_sn_node (ax_sn_leaf (r_X2_press_80 E)) (ax_sn_leaf (r_X2_press_77 E))) (ax_sn_node (ax_sn_leaf (r_X2_press_76 E)) (ax_sn_leaf (r_X2_press_75 E)))) (ax_sn_node (ax_sn_node (ax_sn_leaf (r_X2_press_72 E)) (ax_sn_leaf (r_X2_press_71 E))) (ax_sn_node (ax_sn_leaf (r_X2_press_70 E)) (ax_sn_leaf (r_X2_press_65 E))))))) (ax_sn_node (ax_sn_node (ax_sn_node (ax_sn_node (ax_sn_node (ax_sn_leaf (r_X2_press_64 E)) (ax_sn_leaf (r_X2_press_61 E))) (ax_sn_node (ax_sn_leaf (r_X2_press_60 E)) (ax_sn_leaf (r_X2_press_57 E)))) (ax_sn_node (ax_sn_node (ax_sn_leaf (r_X2_press_56 E)) (ax_sn_leaf (r_X2_press_55 E))) (ax_sn_node (ax_sn_leaf (r_X2_press_52 E)) (ax_sn_leaf (r_X2_press_51 E))))) (ax_sn_node (ax_sn_node (ax_sn_node (ax_sn_leaf (r_X2_press_48 E)) (ax_sn_leaf (r_X2_press_47 E))) (ax_sn_node (ax_sn_leaf (r_X2_press_46 E)) (ax_sn_leaf (r_X2_press_43 E)))) (ax_sn_node (ax_sn_node (ax_sn_leaf (r_X2_press_42 E)) (ax_sn_leaf (r_X2_press_39 E))) (ax_sn_node (ax_sn_leaf (r_X2_press_36 E)) (ax_sn_leaf (r_X2_press_31 E)))))) (ax_sn_node (ax_sn_node (ax_sn_node (ax_sn_node (ax_sn_leaf (r_X2_press_30 E)) (ax_sn_leaf (r_X2_press_27 E))) (ax_sn_node (ax_sn_leaf (r_X2_press_22 E)) (ax_sn_leaf (r_X2_press_21 E)))) (ax_sn_node (ax_sn_node (ax_sn_leaf (r_X2_press_18 E)) (ax_sn_leaf (r_X2_press_17 E))) (ax_sn_node (ax_sn_leaf (r_X2_press_16 E)) (ax_sn_leaf (r_X2_press_15 E))))) (ax_sn_node (ax_sn_node (ax_sn_node (ax_sn_leaf (r_X2_press_14 E)) (ax_sn_leaf (r_X2_press_11 E))) (ax_sn_node (ax_sn_leaf (r_X2_press_8 E)) (ax_sn_leaf (r_X2_press_5 E)))) (ax_sn_node (ax_sn_node (ax_sn_leaf (r_X2_press_4 E)) (ax_sn_leaf (r_X2_press_1 E))) (ax_sn_leaf (r_X2_press_0 E)))))))⟩
theorem r_X2_changedAt_0 (E : ax_EN G l) : ax_Snd G l ax_Ym M_X2_changedAt 0 (S_aload 0 1) := k_aload_n dX2_changedAt_0 rfl
theorem r_X2_changedAt_1 (E : ax_EN G l) : ax_Snd G l ax_Ym M_X2_changedAt 1 (S_getf [(29, 0)] 4) := k_getf (en_F E) (ax_fes_cons (fe_158 E) ax_fes_nil) q283 dX2_changedAt_1
theorem r_X2_changedAt_4 (E : ax_EN G l) : ax_Snd G l ax_Ym M_X2_changedAt 4 (S_push (.int (2)) 5) := k_iconst dX2_changedAt_4 rfl
theorem r_X2_changedAt_5 (E : ax_EN G l) : ax_Snd G l ax_Ym M_X2_changedAt 5 (S_iald 0 6) := k_iald (en_F E) dX2_changedAt_5
theorem r_X2_changedAt_6 (E : ax_EN G l) : ax_Snd G l ax_Ym M_X2_changedAt 6 (S_istore 2 7) := k_istore_n dX2_changedAt_6 rfl (Nat.le_of_ble_eq_true rfl)
theorem r_X2_changedAt_7 (E : ax_EN G l) : ax_Snd G l ax_Ym M_X2_changedAt 7 (S_aload 0 8) := k_aload_n dX2_changedAt_7 rfl
theorem r_X2_changedAt_8 (E : ax_EN G l) : ax_Snd G l ax_Ym M_X2_changedAt 8 (S_getf [(29, 2)] 11) := k_getf (en_F E) (ax_fes_cons (fe_159 E) ax_fes_nil) q288 dX2_changedAt_8
theorem r_X2_changedAt_11 (E : ax_EN G l) : ax_Snd G l ax_Ym M_X2_changedAt 11 (S_iv [(16, 160)] 0 14 hd_0) := k_iv (en_F E) (ax_ok0 E rfl) (ax_Evs_cons ((ev_v (en_c E (k := 16) rfl) rfl y_J5_descendingIterator q2492 q2493 q2494 q125 q2495 nm_J5_descendingIterator (Nat.le_of_ble_eq_true rfl) dX2_changedAt_11) : ax_EvV G l ax_Ym M_X2_changedAt 11 0 3 16 160) ax_Evs_nil)
theorem r_X2_changedAt_14 (E : ax_EN G l) : ax_Snd G l ax_Ym M_X2_changedAt 14 (S_astore 3 15) := k_astore_n dX2_changedAt_14 rfl (Nat.le_of_ble_eq_true rfl)
theorem r_X2_changedAt_15 (E : ax_EN G l) : ax_Snd G l ax_Ym M_X2_changedAt 15 (S_aload 3 16) := k_aload_n dX2_changedAt_15 rfl
theorem r_X2_changedAt_16 (E : ax_EN G l) : ax_Snd G l ax_Ym M_X2_changedAt 16 (S_iv [(10, 92), (13, 110)] 0 21 hd_0) := k_iv (en_F E) (ax_ok0 E rfl) (ax_Evs_cons ((ev_f (en_F E) (en_B E) (en_c E (k := 10) rfl) y_J28_hasNext q2529 q1513 q1511 q173 q1515 q1498 q1497 q1514 q1512 q1510 xn_161 (Nat.le_of_ble_eq_true rfl) dX2_changedAt_16) : ax_EvV G l ax_Ym M_X2_changedAt 16 0 5 10 92) (ax_Evs_cons ((ev_f (en_F E) (en_B E) (en_c E (k := 13) rfl) y_J32_hasNext q2529 q1519 q1517 q179 q1521 q1498 q1497 q1520 q1518 q1516 xn_161 (Nat.le_of_ble_eq_true rfl) dX2_changedAt_16) : ax_EvV G l ax_Ym M_X2_changedAt 16 0 5 13 110) ax_Evs_nil))
theorem r_X2_changedAt_21 (E : ax_EN G l) : ax_Snd G l ax_Ym M_X2_changedAt 21 (S_if1 (fun x => decide (x = 0)) 48 24) := k_if_eq dX2_changedAt_21 rfl
theorem r_X2_changedAt_24 (E : ax_EN G l) : ax_Snd G l ax_Ym M_X2_changedAt 24 (S_iinc 2 (-1) 27) := k_iinc dX2_changedAt_24 rfl (Nat.le_of_ble_eq_true rfl)
theorem r_X2_changedAt_27 (E : ax_EN G l) : ax_Snd G l ax_Ym M_X2_changedAt 27 (S_aload 3 28) := k_aload_n dX2_changedAt_27 rfl
theorem r_X2_changedAt_28 (E : ax_EN G l) : ax_Snd G l ax_Ym M_X2_changedAt 28 (S_iv [(10, 94), (13, 111)] 0 33 hd_0) := k_iv (en_F E) (ax_ok0 E rfl) (ax_Evs_cons ((ev_f (en_F E) (en_B E) (en_c E (k := 10) rfl) y_J29_next q2531 q1626 q1624 q174 q1628 q1534 q1533 q1627 q1625 q1510 xn_162 (Nat.le_of_ble_eq_true rfl) dX2_changedAt_28) : ax_EvV G l ax_Ym M_X2_changedAt 28 0 5 10 94) (ax_Evs_cons ((ev_f (en_F E) (en_B E) (en_c E (k := 13) rfl) y_J32_next q2531 q1648 q1646 q179 q1650 q1534 q1533 q1649 q1647 q1516 xn_162 (Nat.le_of_ble_eq_true rfl) dX2_changedAt_28) : ax_EvV G l ax_Ym M_X2_changedAt 28 0 5 13 111) ax_Evs_nil))
theorem r_X2_changedAt_33 (E : ax_EN G l) : ax_Snd G l ax_Ym M_X2_changedAt 33 (S_cast [31] 36) := k_cast (en_F E) (en_B E) (cs_320 E) q2032 dX2_changedAt_33
theorem r_X2_changedAt_36 (E : ax_EN G l) : ax_Snd G l ax_Ym M_X2_changedAt 36 (S_push (.int (108)) 38) := k_bipush dX2_changedAt_36 rfl
theorem r_X2_changedAt_38 (E : ax_EN G l) : ax_Snd G l ax_Ym M_X2_changedAt 38 (S_iload 1 39) := k_iload_n dX2_changedAt_38 rfl
theorem r_X2_changedAt_39 (E : ax_EN G l) : ax_Snd G l ax_Ym M_X2_changedAt 39 (S_i2 (fun x y => x + y) 40) := k_iadd dX2_changedAt_39
theorem r_X2_changedAt_40 (E : ax_EN G l) : ax_Snd G l ax_Ym M_X2_changedAt 40 (S_iv [(31, 360)] 1 43 hd_0) := k_iv (en_F E) (ax_ok0 E rfl) (ax_Evs_cons ((ev_v (en_c E (k := 31) rfl) rfl y_X21_has q2532 q2533 q2534 q164 q2535 nm_X21_has (Nat.le_of_ble_eq_true rfl) dX2_changedAt_40) : ax_EvV G l ax_Ym M_X2_changedAt 40 1 3 31 360) ax_Evs_nil)
theorem r_X2_changedAt_43 (E : ax_EN G l) : ax_Snd G l ax_Ym M_X2_changedAt 43 (S_if1 (fun x => decide (x = 0)) 15 46) := k_if_eq dX2_changedAt_43 rfl
theorem r_X2_changedAt_46 (E : ax_EN G l) : ax_Snd G l ax_Ym M_X2_changedAt 46 (S_iload 2 47) := k_iload_n dX2_changedAt_46 rfl
theorem r_X2_changedAt_47 (E : ax_EN G l) : ax_Snd G l ax_Ym M_X2_changedAt 47 (S_iret) := k_iret dX2_changedAt_47 rfl
theorem r_X2_changedAt_48 (E : ax_EN G l) : ax_Snd G l ax_Ym M_X2_changedAt 48 (S_push (.int (-1)) 49) := k_iconst dX2_changedAt_48 rfl
theorem r_X2_changedAt_49 (E : ax_EN G l) : ax_Snd G l ax_Ym M_X2_changedAt 49 (S_iret) := k_iret dX2_changedAt_49 rfl
theorem mt_X2_changedAt (E : ax_EN G l) : ax_mt G l ax_Ym (4, P_X2_changedAt) (ax_Ym 350) := ⟨M_X2_changedAt, yX2_changedAt, ⟨rfl, by decide +kernel, rfl, (fun h => by cases h), Or.inl ⟨rfl, rfl⟩⟩, fun pc => (ax_sn_node (ax_sn_node (ax_sn_node (ax_sn_node (ax_sn_node (ax_sn_leaf (r_X2_changedAt_49 E)) (ax_sn_leaf (r_X2_changedAt_48 E))) (ax_sn_node (ax_sn_leaf (r_X2_changedAt_47 E)) (ax_sn_leaf (r_X2_changedAt_46 E)))) (ax_sn_node (ax_sn_node (ax_sn_leaf (r_X2_changedAt_43 E)) (ax_sn_leaf (r_X2_changedAt_40 E))) (ax_sn_leaf (r_X2_changedAt_39 E)))) (ax_sn_node (ax_sn_node (ax_sn_node (ax_sn_leaf (r_X2_changedAt_38 E)) (ax_sn_leaf (r_X2_changedAt_36 E))) (ax_sn_leaf (r_X2_changedAt_33 E))) (ax_sn_node (ax_sn_node (ax_sn_leaf (r_X2_changedAt_28 E)) (ax_sn_leaf (r_X2_changedAt_27 E))) (ax_sn_leaf (r_X2_changedAt_24 E))))) (ax_sn_node (ax_sn_node (ax_sn_node (ax_sn_node (ax_sn_leaf (r_X2_changedAt_21 E)) (ax_sn_leaf (r_X2_changedAt_16 E))) (ax_sn_leaf (r_X2_changedAt_15 E))) (ax_sn_node (ax_sn_node (ax_sn_leaf (r_X2_changedAt_14 E)) (ax_sn_leaf (r_X2_changedAt_11 E))) (ax_sn_leaf (r_X2_changedAt_8 E)))) (ax_sn_node (ax_sn_node (ax_sn_node (ax_sn_leaf (r_X2_changedAt_7 E)) (ax_sn_leaf (r_X2_changedAt_6 E))) (ax_sn_leaf (r_X2_changedAt_5 E))) (ax_sn_node (ax_sn_node (ax_sn_leaf (r_X2_changedAt_4 E)) (ax_sn_leaf (r_X2_changedAt_1 E))) (ax_sn_leaf (r_X2_changedAt_0 E))))))⟩
theorem r_X2_sumAnew_0 (E : ax_EN G l) : ax_Snd G l ax_Ym M_X2_sumAnew 0 (S_new 29 [.null, .null, .null, .int 0, .null, .null, .null, .null, .null, .int 0] 10 3) := k_new (en_F E) (mk_29 E) q2573 dX2_sumAnew_0
theorem r_X2_sumAnew_3 (E : ax_EN G l) : ax_Snd G l ax_Ym M_X2_sumAnew 3 (S_dup 4) := k_dup dX2_sumAnew_3
theorem r_X2_sumAnew_4 (E : ax_EN G l) : ax_Snd G l ax_Ym M_X2_sumAnew 4 (S_push (.int (0)) 5) := k_iconst dX2_sumAnew_4 rfl
theorem r_X2_sumAnew_5 (E : ax_EN G l) : ax_Snd G l ax_Ym M_X2_sumAnew 5 (S_isp 298 1 8 hd_0) := k_isp (en_F E) (ax_ok0 E rfl) ((ev_i y_X2_init q2574 q230 q122 q231 nm_X2_init rfl (Nat.le_of_ble_eq_true rfl) dX2_sumAnew_5) : ax_EvI G l ax_Ym M_X2_sumAnew 5 298 1 3)
theorem r_X2_sumAnew_8 (E : ax_EN G l) : ax_Snd G l ax_Ym M_X2_sumAnew 8 (S_astore 2 9) := k_astore_n dX2_sumAnew_8 rfl (Nat.le_of_ble_eq_true rfl)
theorem r_X2_sumAnew_9 (E : ax_EN G l) : ax_Snd G l ax_Ym M_X2_sumAnew 9 (S_aload 0 10) := k_aload_n dX2_sumAnew_9 rfl
theorem r_X2_sumAnew_10 (E : ax_EN G l) : ax_Snd G l ax_Ym M_X2_sumAnew 10 (S_getf [(29, 6)] 13) := k_getf (en_F E) (ax_fes_cons (fe_293 E) ax_fes_nil) q293 dX2_sumAnew_10
theorem r_X2_sumAnew_13 (E : ax_EN G l) : ax_Snd G l ax_Ym M_X2_sumAnew 13 (S_push (.int (0)) 14) := k_iconst dX2_sumAnew_13 rfl
theorem r_X2_sumAnew_14 (E : ax_EN G l) : ax_Snd G l ax_Ym M_X2_sumAnew 14 (S_aload 2 15) := k_aload_n dX2_sumAnew_14 rfl
theorem r_X2_sumAnew_15 (E : ax_EN G l) : ax_Snd G l ax_Ym M_X2_sumAnew 15 (S_getf [(29, 0)] 18) := k_getf (en_F E) (ax_fes_cons (fe_158 E) ax_fes_nil) q283 dX2_sumAnew_15
theorem r_X2_sumAnew_18 (E : ax_EN G l) : ax_Snd G l ax_Ym M_X2_sumAnew 18 (S_push (.int (365)) 21) := k_sipush dX2_sumAnew_18 rfl
theorem r_X2_sumAnew_21 (E : ax_EN G l) : ax_Snd G l ax_Ym M_X2_sumAnew 21 (S_aload 0 22) := k_aload_n dX2_sumAnew_21 rfl
theorem r_X2_sumAnew_22 (E : ax_EN G l) : ax_Snd G l ax_Ym M_X2_sumAnew 22 (S_getf [(29, 6)] 25) := k_getf (en_F E) (ax_fes_cons (fe_293 E) ax_fes_nil) q293 dX2_sumAnew_22
theorem r_X2_sumAnew_25 (E : ax_EN G l) : ax_Snd G l ax_Ym M_X2_sumAnew 25 (S_alen 26) := k_alen (en_F E) dX2_sumAnew_25
theorem r_X2_sumAnew_26 (E : ax_EN G l) : ax_Snd G l ax_Ym M_X2_sumAnew 26 (S_acp 29) := k_acp (en_F E) (en_B E) ⟨q1980, q603, q602, q137⟩ (ax_objs_c E) dX2_sumAnew_26
theorem r_X2_sumAnew_29 (E : ax_EN G l) : ax_Snd G l ax_Ym M_X2_sumAnew 29 (S_aload 2 30) := k_aload_n dX2_sumAnew_29 rfl
theorem r_X2_sumAnew_30 (E : ax_EN G l) : ax_Snd G l ax_Ym M_X2_sumAnew 30 (S_aload 0 31) := k_aload_n dX2_sumAnew_30 rfl
theorem r_X2_sumAnew_31 (E : ax_EN G l) : ax_Snd G l ax_Ym M_X2_sumAnew 31 (S_getf [(29, 5)] 34) := k_getf (en_F E) (ax_fes_cons (fe_291 E) ax_fes_nil) q292 dX2_sumAnew_31
theorem r_X2_sumAnew_34 (E : ax_EN G l) : ax_Snd G l ax_Ym M_X2_sumAnew 34 (S_iv [(29, 313)] 1 37 hd_0) := k_iv (en_F E) (ax_ok0 E rfl) (ax_Evs_cons ((ev_v (en_c E (k := 29) rfl) rfl y_X2_begin q1981 q1983 qs24 q122 q1984 nm_X2_begin (Nat.le_of_ble_eq_true rfl) dX2_sumAnew_34) : ax_EvV G l ax_Ym M_X2_sumAnew 34 1 3 29 313) ax_Evs_nil)
theorem r_X2_sumAnew_37 (E : ax_EN G l) : ax_Snd G l ax_Ym M_X2_sumAnew 37 (S_push (.int (0)) 38) := k_iconst dX2_sumAnew_37 rfl
theorem r_X2_sumAnew_38 (E : ax_EN G l) : ax_Snd G l ax_Ym M_X2_sumAnew 38 (S_istore 3 39) := k_istore_n dX2_sumAnew_38 rfl (Nat.le_of_ble_eq_true rfl)
theorem r_X2_sumAnew_39 (E : ax_EN G l) : ax_Snd G l ax_Ym M_X2_sumAnew 39 (S_iload 3 40) := k_iload_n dX2_sumAnew_39 rfl
theorem r_X2_sumAnew_40 (E : ax_EN G l) : ax_Snd G l ax_Ym M_X2_sumAnew 40 (S_aload 0 41) := k_aload_n dX2_sumAnew_40 rfl
theorem r_X2_sumAnew_41 (E : ax_EN G l) : ax_Snd G l ax_Ym M_X2_sumAnew 41 (S_getf [(29, 1)] 44) := k_getf (en_F E) (ax_fes_cons (fe_183 E) ax_fes_nil) q286 dX2_sumAnew_41
theorem r_X2_sumAnew_44 (E : ax_EN G l) : ax_Snd G l ax_Ym M_X2_sumAnew 44 (S_iv [(15, 125)] 0 47 hd_0) := k_iv (en_F E) (ax_ok0 E rfl) (ax_Evs_cons ((ev_v (en_c E (k := 15) rfl) rfl y_J4_size q2220 q358 q3460 q124 q360 nm_J4_size (Nat.le_of_ble_eq_true rfl) dX2_sumAnew_44) : ax_EvV G l ax_Ym M_X2_sumAnew 44 0 3 15 125) ax_Evs_nil)
theorem r_X2_sumAnew_47 (E : ax_EN G l) : ax_Snd G l ax_Ym M_X2_sumAnew 47 (S_if2 (fun x y => decide (y ≤ x)) 74 50) := k_icmp_ge dX2_sumAnew_47 rfl
theorem r_X2_sumAnew_50 (E : ax_EN G l) : ax_Snd G l ax_Ym M_X2_sumAnew 50 (S_aload 2 51) := k_aload_n dX2_sumAnew_50 rfl
theorem r_X2_sumAnew_51 (E : ax_EN G l) : ax_Snd G l ax_Ym M_X2_sumAnew 51 (S_getf [(29, 1)] 54) := k_getf (en_F E) (ax_fes_cons (fe_183 E) ax_fes_nil) q286 dX2_sumAnew_51
theorem r_X2_sumAnew_54 (E : ax_EN G l) : ax_Snd G l ax_Ym M_X2_sumAnew 54 (S_aload 0 55) := k_aload_n dX2_sumAnew_54 rfl
theorem r_X2_sumAnew_55 (E : ax_EN G l) : ax_Snd G l ax_Ym M_X2_sumAnew 55 (S_getf [(29, 1)] 58) := k_getf (en_F E) (ax_fes_cons (fe_183 E) ax_fes_nil) q286 dX2_sumAnew_55
theorem r_X2_sumAnew_58 (E : ax_EN G l) : ax_Snd G l ax_Ym M_X2_sumAnew 58 (S_iload 3 59) := k_iload_n dX2_sumAnew_58 rfl
theorem r_X2_sumAnew_59 (E : ax_EN G l) : ax_Snd G l ax_Ym M_X2_sumAnew 59 (S_iv [(15, 127)] 1 62 hd_0) := k_iv (en_F E) (ax_ok0 E rfl) (ax_Evs_cons ((ev_v (en_c E (k := 15) rfl) rfl y_J4_get q2221 q836 q3461 q124 q838 nm_J4_get (Nat.le_of_ble_eq_true rfl) dX2_sumAnew_59) : ax_EvV G l ax_Ym M_X2_sumAnew 59 1 3 15 127) ax_Evs_nil)
theorem r_X2_sumAnew_62 (E : ax_EN G l) : ax_Snd G l ax_Ym M_X2_sumAnew 62 (S_cast [36] 65) := k_cast (en_F E) (en_B E) (cs_315 E) q2222 dX2_sumAnew_62
theorem r_X2_sumAnew_65 (E : ax_EN G l) : ax_Snd G l ax_Ym M_X2_sumAnew 65 (S_iv [(15, 139)] 1 68 hd_0) := k_iv (en_F E) (ax_ok0 E rfl) (ax_Evs_cons ((ev_v (en_c E (k := 15) rfl) rfl y_J4_addLast q2575 q2576 q2577 q124 q2578 nm_J4_addLast (Nat.le_of_ble_eq_true rfl) dX2_sumAnew_65) : ax_EvV G l ax_Ym M_X2_sumAnew 65 1 3 15 139) ax_Evs_nil)
theorem r_X2_sumAnew_68 (E : ax_EN G l) : ax_Snd G l ax_Ym M_X2_sumAnew 68 (S_iinc 3 (1) 71) := k_iinc dX2_sumAnew_68 rfl (Nat.le_of_ble_eq_true rfl)
theorem r_X2_sumAnew_71 (E : ax_EN G l) : ax_Snd G l ax_Ym M_X2_sumAnew 71 (S_goto 39) := k_goto dX2_sumAnew_71 rfl
theorem r_X2_sumAnew_74 (E : ax_EN G l) : ax_Snd G l ax_Ym M_X2_sumAnew 74 (S_aload 2 75) := k_aload_n dX2_sumAnew_74 rfl
theorem r_X2_sumAnew_75 (E : ax_EN G l) : ax_Snd G l ax_Ym M_X2_sumAnew 75 (S_getf [(29, 0)] 78) := k_getf (en_F E) (ax_fes_cons (fe_158 E) ax_fes_nil) q283 dX2_sumAnew_75
theorem r_X2_sumAnew_78 (E : ax_EN G l) : ax_Snd G l ax_Ym M_X2_sumAnew 78 (S_push (.int (9)) 80) := k_bipush dX2_sumAnew_78 rfl
theorem r_X2_sumAnew_80 (E : ax_EN G l) : ax_Snd G l ax_Ym M_X2_sumAnew 80 (S_aload 0 81) := k_aload_n dX2_sumAnew_80 rfl
theorem r_X2_sumAnew_81 (E : ax_EN G l) : ax_Snd G l ax_Ym M_X2_sumAnew 81 (S_push (.int (0)) 82) := k_iconst dX2_sumAnew_81 rfl
theorem r_X2_sumAnew_82 (E : ax_EN G l) : ax_Snd G l ax_Ym M_X2_sumAnew 82 (S_push (.int (0)) 83) := k_iconst dX2_sumAnew_82 rfl
theorem r_X2_sumAnew_83 (E : ax_EN G l) : ax_Snd G l ax_Ym M_X2_sumAnew 83 (S_iv [(29, 334)] 2 86 hd_0) := k_iv (en_F E) (ax_ok0 E rfl) (ax_Evs_cons ((ev_v (en_c E (k := 29) rfl) rfl y_X2_told q2216 q2218 qs43 q122 q2219 nm_X2_told (Nat.le_of_ble_eq_true rfl) dX2_sumAnew_83) : ax_EvV G l ax_Ym M_X2_sumAnew 83 2 3 29 334) ax_Evs_nil)
theorem r_X2_sumAnew_86 (E : ax_EN G l) : ax_Snd G l ax_Ym M_X2_sumAnew 86 (S_if1 (fun x => decide (x ≤ 0)) 93 89) := k_if_le dX2_sumAnew_86 rfl
theorem r_X2_sumAnew_89 (E : ax_EN G l) : ax_Snd G l ax_Ym M_X2_sumAnew 89 (S_push (.int (1)) 90) := k_iconst dX2_sumAnew_89 rfl
theorem r_X2_sumAnew_90 (E : ax_EN G l) : ax_Snd G l ax_Ym M_X2_sumAnew 90 (S_goto 94) := k_goto dX2_sumAnew_90 rfl
theorem r_X2_sumAnew_93 (E : ax_EN G l) : ax_Snd G l ax_Ym M_X2_sumAnew 93 (S_push (.int (0)) 94) := k_iconst dX2_sumAnew_93 rfl
theorem r_X2_sumAnew_94 (E : ax_EN G l) : ax_Snd G l ax_Ym M_X2_sumAnew 94 (S_iast 0 (fun x => x) 95) := k_iast (en_F E) dX2_sumAnew_94
theorem r_X2_sumAnew_95 (E : ax_EN G l) : ax_Snd G l ax_Ym M_X2_sumAnew 95 (S_aload 2 96) := k_aload_n dX2_sumAnew_95 rfl
theorem r_X2_sumAnew_96 (E : ax_EN G l) : ax_Snd G l ax_Ym M_X2_sumAnew 96 (S_getf [(29, 0)] 99) := k_getf (en_F E) (ax_fes_cons (fe_158 E) ax_fes_nil) q283 dX2_sumAnew_96
theorem r_X2_sumAnew_99 (E : ax_EN G l) : ax_Snd G l ax_Ym M_X2_sumAnew 99 (S_push (.int (2)) 100) := k_iconst dX2_sumAnew_99 rfl
theorem r_X2_sumAnew_100 (E : ax_EN G l) : ax_Snd G l ax_Ym M_X2_sumAnew 100 (S_iald 0 101) := k_iald (en_F E) dX2_sumAnew_100
theorem r_X2_sumAnew_101 (E : ax_EN G l) : ax_Snd G l ax_Ym M_X2_sumAnew 101 (S_iload 1 102) := k_iload_n dX2_sumAnew_101 rfl
theorem r_X2_sumAnew_102 (E : ax_EN G l) : ax_Snd G l ax_Ym M_X2_sumAnew 102 (S_if2 (fun x y => decide (y ≤ x)) 112 105) := k_icmp_ge dX2_sumAnew_102 rfl
theorem r_X2_sumAnew_105 (E : ax_EN G l) : ax_Snd G l ax_Ym M_X2_sumAnew 105 (S_aload 2 106) := k_aload_n dX2_sumAnew_105 rfl
theorem r_X2_sumAnew_106 (E : ax_EN G l) : ax_Snd G l ax_Ym M_X2_sumAnew 106 (S_iv [(29, 316)] 0 109 hd_0) := k_iv (en_F E) (ax_ok0 E rfl) (ax_Evs_cons ((ev_vW (en_c E (k := 29) rfl) rfl y_X2_make q2579 q2025 q2026 q122 q2027 nm_X2_make (Nat.le_of_ble_eq_true rfl) dX2_sumAnew_106) : ax_EvV G l ax_Ym M_X2_sumAnew 106 0 3 29 316) ax_Evs_nil)
theorem r_X2_sumAnew_109 (E : ax_EN G l) : ax_Snd G l ax_Ym M_X2_sumAnew 109 (S_goto 95) := k_goto dX2_sumAnew_109 rfl
theorem r_X2_sumAnew_112 (E : ax_EN G l) : ax_Snd G l ax_Ym M_X2_sumAnew 112 (S_aload 2 113) := k_aload_n dX2_sumAnew_112 rfl
theorem r_X2_sumAnew_113 (E : ax_EN G l) : ax_Snd G l ax_Ym M_X2_sumAnew 113 (S_iv [(29, 302)] 0 116 hd_0) := k_iv (en_F E) (ax_ok0 E rfl) (ax_Evs_cons ((ev_v (en_c E (k := 29) rfl) rfl y_X2_sum q2580 q1248 q1249 q122 q1250 nm_X2_sum (Nat.le_of_ble_eq_true rfl) dX2_sumAnew_113) : ax_EvV G l ax_Ym M_X2_sumAnew 113 0 3 29 302) ax_Evs_nil)
theorem r_X2_sumAnew_116 (E : ax_EN G l) : ax_Snd G l ax_Ym M_X2_sumAnew 116 (S_iret) := k_iret dX2_sumAnew_116 rfl
theorem mt_X2_sumAnew (E : ax_EN G l) : ax_mt G l ax_Ym (4, P_X2_sumAnew) (ax_Ym 351) := ⟨M_X2_sumAnew, yX2_sumAnew, ⟨rfl, by decide +kernel, rfl, (fun h => by cases h), Or.inl ⟨rfl, rfl⟩⟩, fun pc => (ax_sn_node (ax_sn_node (ax_sn_node (ax_sn_node (ax_sn_node (ax_sn_node (ax_sn_leaf (r_X2_sumAnew_116 E)) (ax_sn_leaf (r_X2_sumAnew_113 E))) (ax_sn_node (ax_sn_leaf (r_X2_sumAnew_112 E)) (ax_sn_leaf (r_X2_sumAnew_109 E)))) (ax_sn_node (ax_sn_node (ax_sn_leaf (r_X2_sumAnew_106 E)) (ax_sn_leaf (r_X2_sumAnew_105 E))) (ax_sn_node (ax_sn_leaf (r_X2_sumAnew_102 E)) (ax_sn_leaf (r_X2_sumAnew_101 E))))) (ax_sn_node (ax_sn_node (ax_sn_node (ax_sn_leaf (r_X2_sumAnew_100 E)) (ax_sn_leaf (r_X2_sumAnew_99 E))) (ax_sn_node (ax_sn_leaf (r_X2_sumAnew_96 E)) (ax_sn_leaf (r_X2_sumAnew_95 E)))) (ax_sn_node (ax_sn_node (ax_sn_leaf (r_X2_sumAnew_94 E)) (ax_sn_leaf (r_X2_sumAnew_93 E))) (ax_sn_leaf (r_X2_sumAnew_90 E))))) (ax_sn_node (ax_sn_node (ax_sn_node (ax_sn_node (ax_sn_leaf (r_X2_sumAnew_89 E)) (ax_sn_leaf (r_X2_sumAnew_86 E))) (ax_sn_node (ax_sn_leaf (r_X2_sumAnew_83 E)) (ax_sn_leaf (r_X2_sumAnew_82 E)))) (ax_sn_node (ax_sn_node (ax_sn_leaf (r_X2_sumAnew_81 E)) (ax_sn_leaf (r_X2_sumAnew_80 E))) (ax_sn_node (ax_sn_leaf (r_X2_sumAnew_78 E)) (ax_sn_leaf (r_X2_sumAnew_75 E))))) (ax_sn_node (ax_sn_node (ax_sn_node (ax_sn_leaf (r_X2_sumAnew_74 E)) (ax_sn_leaf (r_X2_sumAnew_71 E))) (ax_sn_node (ax_sn_leaf (r_X2_sumAnew_68 E)) (ax_sn_leaf (r_X2_sumAnew_65 E)))) (ax_sn_node (ax_sn_node (ax_sn_leaf (r_X2_sumAnew_62 E)) (ax_sn_leaf (r_X2_sumAnew_59 E))) (ax_sn_leaf (r_X2_sumAnew_58 E)))))) (ax_sn_node (ax_sn_node (ax_sn_node (ax_sn_node (ax_sn_node (ax_sn_leaf (r_X2_sumAnew_55 E)) (ax_sn_leaf (r_X2_sumAnew_54 E))) (ax_sn_node (ax_sn_leaf (r_X2_sumAnew_51 E)) (ax_sn_leaf (r_X2_sumAnew_50 E)))) (ax_sn_node (ax_sn_node (ax_sn_leaf (r_X2_sumAnew_47 E)) (ax_sn_leaf (r_X2_sumAnew_44 E))) (ax_sn_node (ax_sn_leaf (r_X2_sumAnew_41 E)) (ax_sn_leaf (r_X2_sumAnew_40 E))))) (ax_sn_node (ax_sn_node (ax_sn_node (ax_sn_leaf (r_X2_sumAnew_39 E)) (ax_sn_leaf (r_X2_sumAnew_38 E))) (ax_sn_node (ax_sn_leaf (r_X2_sumAnew_37 E)) (ax_sn_leaf (r_X2_sumAnew_34 E)))) (ax_sn_node (ax_sn_node (ax_sn_leaf (r_X2_sumAnew_31 E)) (ax_sn_leaf (r_X2_sumAnew_30 E))) (ax_sn_leaf (r_X2_sumAnew_29 E))))) (ax_sn_node (ax_sn_node (ax_sn_node (ax_sn_node (ax_sn_leaf (r_X2_sumAnew_26 E)) (ax_sn_leaf (r_X2_sumAnew_25 E))) (ax_sn_node (ax_sn_leaf (r_X2_sumAnew_22 E)) (ax_sn_leaf (r_X2_sumAnew_21 E)))) (ax_sn_node (ax_sn_node (ax_sn_leaf (r_X2_sumAnew_18 E)) (ax_sn_leaf (r_X2_sumAnew_15 E))) (ax_sn_node (ax_sn_leaf (r_X2_sumAnew_14 E)) (ax_sn_leaf (r_X2_sumAnew_13 E))))) (ax_sn_node (ax_sn_node (ax_sn_node (ax_sn_leaf (r_X2_sumAnew_10 E)) (ax_sn_leaf (r_X2_sumAnew_9 E))) (ax_sn_node (ax_sn_leaf (r_X2_sumAnew_8 E)) (ax_sn_leaf (r_X2_sumAnew_5 E)))) (ax_sn_node (ax_sn_node (ax_sn_leaf (r_X2_sumAnew_4 E)) (ax_sn_leaf (r_X2_sumAnew_3 E))) (ax_sn_leaf (r_X2_sumAnew_0 E)))))))⟩
theorem r_X20_set_0 (E : ax_EN G l) : ax_Snd G l ax_Ym M_X20_set 0 (S_ret) := k_ret dX20_set_0 rfl
theorem mt_X20_set (E : ax_EN G l) : ax_mt G l ax_Ym (4, P_X20_set) (ax_Ym 352) := ⟨M_X20_set, yX20_set, ⟨rfl, by decide +kernel, rfl, (fun h => by cases h), Or.inl ⟨rfl, rfl⟩⟩, fun pc => (ax_sn_leaf (r_X20_set_0 E))⟩
theorem r_X20_take_0 (E : ax_EN G l) : ax_Snd G l ax_Ym M_X20_take 0 (S_aload 0 1) := k_aload_n dX20_take_0 rfl
theorem r_X20_take_1 (E : ax_EN G l) : ax_Snd G l ax_Ym M_X20_take 1 (S_getf [(30, 8)] 4) := k_getf (en_F E) (ax_fes_cons (fe_328 E) ax_fes_nil) q1146 dX20_take_1
theorem r_X20_take_4 (E : ax_EN G l) : ax_Snd G l ax_Ym M_X20_take 4 (S_getf [(25, 3)] 7) := k_getfN (en_F E) (en_B E) (ax_fes_cons (fe_178 E) ax_fes_nil) q1164 dX20_take_4
theorem r_X20_take_7 (E : ax_EN G l) : ax_Snd G l ax_Ym M_X20_take 7 (S_aload 0 8) := k_aload_n dX20_take_7 rfl
theorem r_X20_take_8 (E : ax_EN G l) : ax_Snd G l ax_Ym M_X20_take 8 (S_getf [(27, 1), (30, 1)] 11) := k_getf (en_F E) (ax_fes_cons (fe_330 E) (ax_fes_cons (fe_329 E) ax_fes_nil)) q435 dX20_take_8
theorem r_X20_take_11 (E : ax_EN G l) : ax_Snd G l ax_Ym M_X20_take 11 (S_if1 (fun x => decide (¬ x = 0)) 19 14) := k_if_ne dX20_take_11 rfl
theorem r_X20_take_14 (E : ax_EN G l) : ax_Snd G l ax_Ym M_X20_take 14 (S_push (.int (8)) 16) := k_bipush dX20_take_14 rfl
theorem r_X20_take_16 (E : ax_EN G l) : ax_Snd G l ax_Ym M_X20_take 16 (S_goto 26) := k_goto dX20_take_16 rfl
theorem r_X20_take_19 (E : ax_EN G l) : ax_Snd G l ax_Ym M_X20_take 19 (S_aload 0 20) := k_aload_n dX20_take_19 rfl
theorem r_X20_take_20 (E : ax_EN G l) : ax_Snd G l ax_Ym M_X20_take 20 (S_getf [(30, 8)] 23) := k_getf (en_F E) (ax_fes_cons (fe_328 E) ax_fes_nil) q1146 dX20_take_20
theorem r_X20_take_23 (E : ax_EN G l) : ax_Snd G l ax_Ym M_X20_take 23 (S_getf [(25, 4)] 26) := k_getfN (en_F E) (en_B E) (ax_fes_cons (fe_232 E) ax_fes_nil) q1167 dX20_take_23
theorem r_X20_take_26 (E : ax_EN G l) : ax_Snd G l ax_Ym M_X20_take 26 (S_aload 0 27) := k_aload_n dX20_take_26 rfl
theorem r_X20_take_27 (E : ax_EN G l) : ax_Snd G l ax_Ym M_X20_take 27 (S_getf [(27, 0), (30, 0)] 30) := k_getf (en_F E) (ax_fes_cons (fe_332 E) (ax_fes_cons (fe_331 E) ax_fes_nil)) q430 dX20_take_27
theorem r_X20_take_30 (E : ax_EN G l) : ax_Snd G l ax_Ym M_X20_take 30 (S_aload 0 31) := k_aload_n dX20_take_30 rfl
theorem r_X20_take_31 (E : ax_EN G l) : ax_Snd G l ax_Ym M_X20_take 31 (S_getf [(27, 1), (30, 1)] 34) := k_getf (en_F E) (ax_fes_cons (fe_330 E) (ax_fes_cons (fe_329 E) ax_fes_nil)) q435 dX20_take_31
theorem r_X20_take_34 (E : ax_EN G l) : ax_Snd G l ax_Ym M_X20_take 34 (S_iald 0 35) := k_iald (en_F E) dX20_take_34
theorem r_X20_take_35 (E : ax_EN G l) : ax_Snd G l ax_Ym M_X20_take 35 (S_i2 (fun x y => x + y) 36) := k_iadd dX20_take_35
theorem r_X20_take_36 (E : ax_EN G l) : ax_Snd G l ax_Ym M_X20_take 36 (S_iload 1 37) := k_iload_n dX20_take_36 rfl
theorem r_X20_take_37 (E : ax_EN G l) : ax_Snd G l ax_Ym M_X20_take 37 (S_iast 0 (fun x => x) 38) := k_iast (en_F E) dX20_take_37
theorem r_X20_take_38 (E : ax_EN G l) : ax_Snd G l ax_Ym M_X20_take 38 (S_aload 0 39) := k_aload_n dX20_take_38 rfl
theorem r_X20_take_39 (E : ax_EN G l) : ax_Snd G l ax_Ym M_X20_take 39 (S_getf [(27, 0), (30, 0)] 42) := k_getf (en_F E) (ax_fes_cons (fe_332 E) (ax_fes_cons (fe_331 E) ax_fes_nil)) q430 dX20_take_39
theorem r_X20_take_42 (E : ax_EN G l) : ax_Snd G l ax_Ym M_X20_take 42 (S_aload 0 43) := k_aload_n dX20_take_42 rfl
theorem r_X20_take_43 (E : ax_EN G l) : ax_Snd G l ax_Ym M_X20_take 43 (S_getf [(27, 1), (30, 1)] 46) := k_getf (en_F E) (ax_fes_cons (fe_330 E) (ax_fes_cons (fe_329 E) ax_fes_nil)) q435 dX20_take_43
theorem r_X20_take_46 (E : ax_EN G l) : ax_Snd G l ax_Ym M_X20_take 46 (S_dup2 47) := k_dup2 dX20_take_46
theorem r_X20_take_47 (E : ax_EN G l) : ax_Snd G l ax_Ym M_X20_take 47 (S_iald 0 48) := k_iald (en_F E) dX20_take_47
theorem r_X20_take_48 (E : ax_EN G l) : ax_Snd G l ax_Ym M_X20_take 48 (S_push (.int (1)) 49) := k_iconst dX20_take_48 rfl
theorem r_X20_take_49 (E : ax_EN G l) : ax_Snd G l ax_Ym M_X20_take 49 (S_i2 (fun x y => x + y) 50) := k_iadd dX20_take_49
theorem r_X20_take_50 (E : ax_EN G l) : ax_Snd G l ax_Ym M_X20_take 50 (S_iast 0 (fun x => x) 51) := k_iast (en_F E) dX20_take_50
theorem r_X20_take_51 (E : ax_EN G l) : ax_Snd G l ax_Ym M_X20_take 51 (S_ret) := k_ret dX20_take_51 rfl
theorem mt_X20_take (E : ax_EN G l) : ax_mt G l ax_Ym (3, P_X20_take) (ax_Ym 353) := ⟨M_X20_take, yX20_take, ⟨rfl, by decide +kernel, rfl, (fun h => by cases h), Or.inl ⟨rfl, rfl⟩⟩, fun pc => (ax_sn_node (ax_sn_node (ax_sn_node (ax_sn_node (ax_sn_node (ax_sn_leaf (r_X20_take_51 E)) (ax_sn_leaf (r_X20_take_50 E))) (ax_sn_node (ax_sn_leaf (r_X20_take_49 E)) (ax_sn_leaf (r_X20_take_48 E)))) (ax_sn_node (ax_sn_node (ax_sn_leaf (r_X20_take_47 E)) (ax_sn_leaf (r_X20_take_46 E))) (ax_sn_node (ax_sn_leaf (r_X20_take_43 E)) (ax_sn_leaf (r_X20_take_42 E))))) (ax_sn_node (ax_sn_node (ax_sn_node (ax_sn_leaf (r_X20_take_39 E)) (ax_sn_leaf (r_X20_take_38 E))) (ax_sn_node (ax_sn_leaf (r_X20_take_37 E)) (ax_sn_leaf (r_X20_take_36 E)))) (ax_sn_node (ax_sn_node (ax_sn_leaf (r_X20_take_35 E)) (ax_sn_leaf (r_X20_take_34 E))) (ax_sn_leaf (r_X20_take_31 E))))) (ax_sn_node (ax_sn_node (ax_sn_node (ax_sn_node (ax_sn_leaf (r_X20_take_30 E)) (ax_sn_leaf (r_X20_take_27 E))) (ax_sn_node (ax_sn_leaf (r_X20_take_26 E)) (ax_sn_leaf (r_X20_take_23 E)))) (ax_sn_node (ax_sn_node (ax_sn_leaf (r_X20_take_20 E)) (ax_sn_leaf (r_X20_take_19 E))) (ax_sn_leaf (r_X20_take_16 E)))) (ax_sn_node (ax_sn_node (ax_sn_node (ax_sn_leaf (r_X20_take_14 E)) (ax_sn_leaf (r_X20_take_11 E))) (ax_sn_node (ax_sn_leaf (r_X20_take_8 E)) (ax_sn_leaf (r_X20_take_7 E)))) (ax_sn_node (ax_sn_node (ax_sn_leaf (r_X20_take_4 E)) (ax_sn_leaf (r_X20_take_1 E))) (ax_sn_leaf (r_X20_take_0 E))))))⟩
theorem r_X20_value_0 (E : ax_EN G l) : ax_Snd G l ax_Ym M_X20_value 0 (S_aload 1 1) := k_aload_n dX20_value_0 rfl
theorem r_X20_value_1 (E : ax_EN G l) : ax_Snd G l ax_Ym M_X20_value 1 (S_getf [(41, 0)] 4) := k_getfN (en_F E) (en_B E) (ax_fes_cons (fe_333 E) ax_fes_nil) q1773 dX20_value_1
theorem r_X20_value_4 (E : ax_EN G l) : ax_Snd G l ax_Ym M_X20_value 4 (S_if1 (fun x => decide (¬ x = 0)) 12 7) := k_if_ne dX20_value_4 rfl
theorem r_X20_value_7 (E : ax_EN G l) : ax_Snd G l ax_Ym M_X20_value 7 (S_aload 1 8) := k_aload_n dX20_value_7 rfl
theorem r_X20_value_8 (E : ax_EN G l) : ax_Snd G l ax_Ym M_X20_value 8 (S_getf [(41, 1)] 11) := k_getfN (en_F E) (en_B E) (ax_fes_cons (fe_334 E) ax_fes_nil) q1775 dX20_value_8
theorem r_X20_value_11 (E : ax_EN G l) : ax_Snd G l ax_Ym M_X20_value 11 (S_iret) := k_iret dX20_value_11 rfl
theorem r_X20_value_12 (E : ax_EN G l) : ax_Snd G l ax_Ym M_X20_value 12 (S_aload 1 13) := k_aload_n dX20_value_12 rfl
theorem r_X20_value_13 (E : ax_EN G l) : ax_Snd G l ax_Ym M_X20_value 13 (S_getf [(41, 0)] 16) := k_getfN (en_F E) (en_B E) (ax_fes_cons (fe_333 E) ax_fes_nil) q1773 dX20_value_13
theorem r_X20_value_16 (E : ax_EN G l) : ax_Snd G l ax_Ym M_X20_value 16 (S_push (.int (1)) 17) := k_iconst dX20_value_16 rfl
theorem r_X20_value_17 (E : ax_EN G l) : ax_Snd G l ax_Ym M_X20_value 17 (S_if2 (fun x y => decide (¬ x = y)) 34 20) := k_icmp_ne dX20_value_17 rfl
theorem r_X20_value_20 (E : ax_EN G l) : ax_Snd G l ax_Ym M_X20_value 20 (S_aload 0 21) := k_aload_n dX20_value_20 rfl
theorem r_X20_value_21 (E : ax_EN G l) : ax_Snd G l ax_Ym M_X20_value 21 (S_getf [(30, 8)] 24) := k_getf (en_F E) (ax_fes_cons (fe_328 E) ax_fes_nil) q1146 dX20_value_21
theorem r_X20_value_24 (E : ax_EN G l) : ax_Snd G l ax_Ym M_X20_value 24 (S_aload 1 25) := k_aload_n dX20_value_24 rfl
theorem r_X20_value_25 (E : ax_EN G l) : ax_Snd G l ax_Ym M_X20_value 25 (S_getf [(41, 1)] 28) := k_getfN (en_F E) (en_B E) (ax_fes_cons (fe_334 E) ax_fes_nil) q1775 dX20_value_25
theorem r_X20_value_28 (E : ax_EN G l) : ax_Snd G l ax_Ym M_X20_value 28 (S_aload 2 29) := k_aload_n dX20_value_28 rfl
theorem r_X20_value_29 (E : ax_EN G l) : ax_Snd G l ax_Ym M_X20_value 29 (S_iload 3 30) := k_iload_n dX20_value_29 rfl
theorem r_X20_value_30 (E : ax_EN G l) : ax_Snd G l ax_Ym M_X20_value 30 (S_iv [(25, 283)] 3 33 hd_0) := k_iv (en_F E) (ax_ok0 E rfl) (ax_Evs_cons ((ev_vN (en_B E) (en_c E (k := 25) rfl) y_X15_address q922 q924 qs5 q148 q925 nm_X15_address (Nat.le_of_ble_eq_true rfl) dX20_value_30) : ax_EvV G l ax_Ym M_X20_value 30 3 3 25 283) ax_Evs_nil)
theorem r_X20_value_33 (E : ax_EN G l) : ax_Snd G l ax_Ym M_X20_value 33 (S_iret) := k_iret dX20_value_33 rfl
theorem r_X20_value_34 (E : ax_EN G l) : ax_Snd G l ax_Ym M_X20_value 34 (S_aload 2 35) := k_aload_n dX20_value_34 rfl
theorem r_X20_value_35 (E : ax_EN G l) : ax_Snd G l ax_Ym M_X20_value 35 (S_getf [(26, 0)] 38) := k_getfN (en_F E) (en_B E) (ax_fes_cons (fe_238 E) ax_fes_nil) q397 dX20_value_35
theorem r_X20_value_38 (E : ax_EN G l) : ax_Snd G l ax_Ym M_X20_value 38 (S_push (.int (-1)) 39) := k_iconst dX20_value_38 rfl
theorem r_X20_value_39 (E : ax_EN G l) : ax_Snd G l ax_Ym M_X20_value 39 (S_if2 (fun x y => decide (x = y)) 46 42) := k_icmp_eq dX20_value_39 rfl
theorem r_X20_value_42 (E : ax_EN G l) : ax_Snd G l ax_Ym M_X20_value 42 (S_push (.int (1)) 43) := k_iconst dX20_value_42 rfl
theorem r_X20_value_43 (E : ax_EN G l) : ax_Snd G l ax_Ym M_X20_value 43 (S_goto 47) := k_goto dX20_value_43 rfl
theorem r_X20_value_46 (E : ax_EN G l) : ax_Snd G l ax_Ym M_X20_value 46 (S_push (.int (0)) 47) := k_iconst dX20_value_46 rfl
theorem r_X20_value_47 (E : ax_EN G l) : ax_Snd G l ax_Ym M_X20_value 47 (S_push (.int (7)) 49) := k_bipush dX20_value_47 rfl
theorem r_X20_value_49 (E : ax_EN G l) : ax_Snd G l ax_Ym M_X20_value 49 (S_iload 3 50) := k_iload_n dX20_value_49 rfl
theorem r_X20_value_50 (E : ax_EN G l) : ax_Snd G l ax_Ym M_X20_value 50 (S_is 213 3 53 hd_0) := k_is (en_F E) (ax_ok0 E rfl) ((ev_sN (en_B E) y_X1_check q928 q474 q118 q475 nm_X1_check (Nat.le_of_ble_eq_true rfl) dX20_value_50) : ax_EvS G l ax_Ym M_X20_value 50 213 3 3)
theorem r_X20_value_53 (E : ax_EN G l) : ax_Snd G l ax_Ym M_X20_value 53 (S_aload 1 54) := k_aload_n dX20_value_53 rfl
theorem r_X20_value_54 (E : ax_EN G l) : ax_Snd G l ax_Ym M_X20_value 54 (S_getf [(41, 0)] 57) := k_getfN (en_F E) (en_B E) (ax_fes_cons (fe_333 E) ax_fes_nil) q1773 dX20_value_54
theorem r_X20_value_57 (E : ax_EN G l) : ax_Snd G l ax_Ym M_X20_value 57 (S_push (.int (2)) 58) := k_iconst dX20_value_57 rfl
theorem r_X20_value_58 (E : ax_EN G l) : ax_Snd G l ax_Ym M_X20_value 58 (S_if2 (fun x y => decide (¬ x = y)) 68 61) := k_icmp_ne dX20_value_58 rfl
theorem r_X20_value_61 (E : ax_EN G l) : ax_Snd G l ax_Ym M_X20_value 61 (S_aload 2 62) := k_aload_n dX20_value_61 rfl
theorem r_X20_value_62 (E : ax_EN G l) : ax_Snd G l ax_Ym M_X20_value 62 (S_getf [(26, 2)] 65) := k_getfN (en_F E) (en_B E) (ax_fes_cons (fe_271 E) ax_fes_nil) q400 dX20_value_62
theorem r_X20_value_65 (E : ax_EN G l) : ax_Snd G l ax_Ym M_X20_value 65 (S_goto 72) := k_goto dX20_value_65 rfl
theorem r_X20_value_68 (E : ax_EN G l) : ax_Snd G l ax_Ym M_X20_value 68 (S_aload 2 69) := k_aload_n dX20_value_68 rfl
theorem r_X20_value_69 (E : ax_EN G l) : ax_Snd G l ax_Ym M_X20_value 69 (S_getf [(26, 3)] 72) := k_getfN (en_F E) (en_B E) (ax_fes_cons (fe_273 E) ax_fes_nil) q402 dX20_value_69
theorem r_X20_value_72 (E : ax_EN G l) : ax_Snd G l ax_Ym M_X20_value 72 (S_aload 1 73) := k_aload_n dX20_value_72 rfl
theorem r_X20_value_73 (E : ax_EN G l) : ax_Snd G l ax_Ym M_X20_value 73 (S_getf [(41, 1)] 76) := k_getfN (en_F E) (en_B E) (ax_fes_cons (fe_334 E) ax_fes_nil) q1775 dX20_value_73
theorem r_X20_value_76 (E : ax_EN G l) : ax_Snd G l ax_Ym M_X20_value 76 (S_i2 (fun x y => x + y) 77) := k_iadd dX20_value_76
theorem r_X20_value_77 (E : ax_EN G l) : ax_Snd G l ax_Ym M_X20_value 77 (S_i2l 78) := k_i2l dX20_value_77
theorem r_X20_value_78 (E : ax_EN G l) : ax_Snd G l ax_Ym M_X20_value 78 (S_is 214 1 81 hd_0) := k_is (en_F E) (ax_ok0 E rfl) ((ev_sN (en_B E) y_X1_cut q929 q930 q118 q931 nm_X1_cut (Nat.le_of_ble_eq_true rfl) dX20_value_78) : ax_EvS G l ax_Ym M_X20_value 78 214 1 3)
theorem r_X20_value_81 (E : ax_EN G l) : ax_Snd G l ax_Ym M_X20_value 81 (S_iret) := k_iret dX20_value_81 rfl
theorem mt_X20_value (E : ax_EN G l) : ax_mt G l ax_Ym (4, P_X20_value) (ax_Ym 354) := ⟨M_X20_value, yX20_value, ⟨rfl, by decide +kernel, rfl, (fun h => by cases h), Or.inl ⟨rfl, rfl⟩⟩, fun pc => (ax_sn_node (ax_sn_node (ax_sn_node (ax_sn_node (ax_sn_node (ax_sn_node (ax_sn_leaf (r_X20_value_81 E)) (ax_sn_leaf (r_X20_value_78 E))) (ax_sn_leaf (r_X20_value_77 E))) (ax_sn_node (ax_sn_node (ax_sn_leaf (r_X20_value_76 E)) (ax_sn_leaf (r_X20_value_73 E))) (ax_sn_leaf (r_X20_value_72 E)))) (ax_sn_node (ax_sn_node (ax_sn_node (ax_sn_leaf (r_X20_value_69 E)) (ax_sn_leaf (r_X20_value_68 E))) (ax_sn_leaf (r_X20_value_65 E))) (ax_sn_node (ax_sn_leaf (r_X20_value_62 E)) (ax_sn_leaf (r_X20_value_61 E))))) (ax_sn_node (ax_sn_node (ax_sn_node (ax_sn_node (ax_sn_leaf (r_X20_value_58 E)) (ax_sn_leaf (r_X20_value_57 E))) (ax_sn_leaf (r_X20_value_54 E))) (ax_sn_node (ax_sn_node (ax_sn_leaf (r_X20_value_53 E)) (ax_sn_leaf (r_X20_value_50 E))) (ax_sn_leaf (r_X20_value_49 E)))) (ax_sn_node (ax_sn_node (ax_sn_node (ax_sn_leaf (r_X20_value_47 E)) (ax_sn_leaf (r_X20_value_46 E))) (ax_sn_leaf (r_X20_value_43 E))) (ax_sn_node (ax_sn_leaf (r_X20_value_42 E)) (ax_sn_leaf (r_X20_value_39 E)))))) (ax_sn_node (ax_sn_node (ax_sn_node (ax_sn_node (ax_sn_node (ax_sn_leaf (r_X20_value_38 E)) (ax_sn_leaf (r_X20_value_35 E))) (ax_sn_leaf (r_X20_value_34 E))) (ax_sn_node (ax_sn_node (ax_sn_leaf (r_X20_value_33 E)) (ax_sn_leaf (r_X20_value_30 E))) (ax_sn_leaf (r_X20_value_29 E)))) (ax_sn_node (ax_sn_node (ax_sn_node (ax_sn_leaf (r_X20_value_28 E)) (ax_sn_leaf (r_X20_value_25 E))) (ax_sn_leaf (r_X20_value_24 E))) (ax_sn_node (ax_sn_leaf (r_X20_value_21 E)) (ax_sn_leaf (r_X20_value_20 E))))) (ax_sn_node (ax_sn_node (ax_sn_node (ax_sn_node (ax_sn_leaf (r_X20_value_17 E)) (ax_sn_leaf (r_X20_value_16 E))) (ax_sn_leaf (r_X20_value_13 E))) (ax_sn_node (ax_sn_leaf (r_X20_value_12 E)) (ax_sn_leaf (r_X20_value_11 E)))) (ax_sn_node (ax_sn_node (ax_sn_node (ax_sn_leaf (r_X20_value_8 E)) (ax_sn_leaf (r_X20_value_7 E))) (ax_sn_leaf (r_X20_value_4 E))) (ax_sn_node (ax_sn_leaf (r_X20_value_1 E)) (ax_sn_leaf (r_X20_value_0 E)))))))⟩
theorem r_X20_point_0 (E : ax_EN G l) : ax_Snd G l ax_Ym M_X20_point 0 (S_aload 0 1) := k_aload_n dX20_point_0 rfl
theorem r_X20_point_1 (E : ax_EN G l) : ax_Snd G l ax_Ym M_X20_point 1 (S_getf [(30, 8)] 4) := k_getf (en_F E) (ax_fes_cons (fe_328 E) ax_fes_nil) q1146 dX20_point_1
theorem r_X20_point_4 (E : ax_EN G l) : ax_Snd G l ax_Ym M_X20_point 4 (S_getf [(25, 3)] 7) := k_getfN (en_F E) (en_B E) (ax_fes_cons (fe_178 E) ax_fes_nil) q1164 dX20_point_4
theorem r_X20_point_7 (E : ax_EN G l) : ax_Snd G l ax_Ym M_X20_point 7 (S_iload 1 8) := k_iload_n dX20_point_7 rfl
theorem r_X20_point_8 (E : ax_EN G l) : ax_Snd G l ax_Ym M_X20_point 8 (S_iload 2 9) := k_iload_n dX20_point_8 rfl
theorem r_X20_point_9 (E : ax_EN G l) : ax_Snd G l ax_Ym M_X20_point 9 (S_iast 0 (fun x => x) 10) := k_iast (en_F E) dX20_point_9
theorem r_X20_point_10 (E : ax_EN G l) : ax_Snd G l ax_Ym M_X20_point 10 (S_ret) := k_ret dX20_point_10 rfl
theorem mt_X20_point (E : ax_EN G l) : ax_mt G l ax_Ym (3, P_X20_point) (ax_Ym 355) := ⟨M_X20_point, yX20_point, ⟨rfl, by decide +kernel, rfl, (fun h => by cases h), Or.inl ⟨rfl, rfl⟩⟩, fun pc => (ax_sn_node (ax_sn_node (ax_sn_node (ax_sn_leaf (r_X20_point_10 E)) (ax_sn_leaf (r_X20_point_9 E))) (ax_sn_node (ax_sn_leaf (r_X20_point_8 E)) (ax_sn_leaf (r_X20_point_7 E)))) (ax_sn_node (ax_sn_node (ax_sn_leaf (r_X20_point_4 E)) (ax_sn_leaf (r_X20_point_1 E))) (ax_sn_leaf (r_X20_point_0 E))))⟩
theorem r_X20_begin_0 (E : ax_EN G l) : ax_Snd G l ax_Ym M_X20_begin 0 (S_aload 0 1) := k_aload_n dX20_begin_0 rfl
theorem r_X20_begin_1 (E : ax_EN G l) : ax_Snd G l ax_Ym M_X20_begin 1 (S_getf [(30, 8)] 4) := k_getf (en_F E) (ax_fes_cons (fe_328 E) ax_fes_nil) q1146 dX20_begin_1
theorem r_X20_begin_4 (E : ax_EN G l) : ax_Snd G l ax_Ym M_X20_begin 4 (S_getf [(25, 2)] 7) := k_getfN (en_F E) (en_B E) (ax_fes_cons (fe_225 E) ax_fes_nil) q1161 dX20_begin_4
theorem r_X20_begin_7 (E : ax_EN G l) : ax_Snd G l ax_Ym M_X20_begin 7 (S_iload 1 8) := k_iload_n dX20_begin_7 rfl
theorem r_X20_begin_8 (E : ax_EN G l) : ax_Snd G l ax_Ym M_X20_begin 8 (S_iv [(4, 61)] 1 13 hd_0) := k_iv (en_F E) (ax_ok0 E rfl) (ax_Evs_cons ((ev_f (en_F E) (en_B E) (en_c E (k := 4) rfl) y_J2_get q1133 q821 q819 q121 q823 q818 q817 q822 q820 q349 xn_188 (Nat.le_of_ble_eq_true rfl) dX20_begin_8) : ax_EvV G l ax_Ym M_X20_begin 8 1 5 4 61) ax_Evs_nil)
theorem r_X20_begin_13 (E : ax_EN G l) : ax_Snd G l ax_Ym M_X20_begin 13 (S_cast [26] 16) := k_cast (en_F E) (en_B E) (cs_335 E) q1134 dX20_begin_13
theorem r_X20_begin_16 (E : ax_EN G l) : ax_Snd G l ax_Ym M_X20_begin 16 (S_aret) := k_aret dX20_begin_16 rfl (Or.inl ⟨_, rfl⟩)
theorem mt_X20_begin (E : ax_EN G l) : ax_mt G l ax_Ym (3, P_X20_begin) (ax_Ym 356) := ⟨M_X20_begin, yX20_begin, ⟨rfl, by decide +kernel, rfl, (fun h => by cases h), Or.inl ⟨rfl, rfl⟩⟩, fun pc => (ax_sn_node (ax_sn_node (ax_sn_node (ax_sn_leaf (r_X20_begin_16 E)) (ax_sn_leaf (r_X20_begin_13 E))) (ax_sn_node (ax_sn_leaf (r_X20_begin_8 E)) (ax_sn_leaf (r_X20_begin_7 E)))) (ax_sn_node (ax_sn_node (ax_sn_leaf (r_X20_begin_4 E)) (ax_sn_leaf (r_X20_begin_1 E))) (ax_sn_leaf (r_X20_begin_0 E))))⟩
theorem r_X20_init_0 (E : ax_EN G l) : ax_Snd G l ax_Ym M_X20_init 0 (S_aload 0 1) := k_aload_n dX20_init_0 rfl
theorem r_X20_init_1 (E : ax_EN G l) : ax_Snd G l ax_Ym M_X20_init 1 (S_aload 1 2) := k_aload_n dX20_init_1 rfl
theorem r_X20_init_2 (E : ax_EN G l) : ax_Snd G l ax_Ym M_X20_init 2 (S_putf [(30, 8)] (.object "KernelGym$Assembly") 5) := k_putfF (en_F E) (en_P E) (ax_fes_cons (fe_328 E) ax_fes_nil) (ax_fps_cons (fp_336 E) ax_fps_nil) rfl q1146 dX20_init_2
theorem r_X20_init_5 (E : ax_EN G l) : ax_Snd G l ax_Ym M_X20_init 5 (S_aload 0 6) := k_aload_n dX20_init_5 rfl
theorem r_X20_init_6 (E : ax_EN G l) : ax_Snd G l ax_Ym M_X20_init 6 (S_aload 1 7) := k_aload_n dX20_init_6 rfl
theorem r_X20_init_7 (E : ax_EN G l) : ax_Snd G l ax_Ym M_X20_init 7 (S_getf [(25, 6)] 10) := k_getf (en_F E) (ax_fes_cons (fe_218 E) ax_fes_nil) q1171 dX20_init_7
theorem r_X20_init_10 (E : ax_EN G l) : ax_Snd G l ax_Ym M_X20_init 10 (S_isp 286 1 13 hd_0) := k_isp (en_F E) (ax_ok0 E rfl) ((ev_i y_X17_init q1145 q421 q150 q422 nm_X17_init rfl (Nat.le_of_ble_eq_true rfl) dX20_init_10) : ax_EvI G l ax_Ym M_X20_init 10 286 1 3)
theorem r_X20_init_13 (E : ax_EN G l) : ax_Snd G l ax_Ym M_X20_init 13 (S_ret) := k_ret dX20_init_13 rfl
theorem mt_X20_init (E : ax_EN G l) : ax_mt G l ax_Ym (2, P_X20_init) (ax_Ym 357) := ⟨M_X20_init, yX20_init, ⟨rfl, by decide +kernel, rfl, (fun _ => rfl), Or.inl ⟨rfl, rfl⟩⟩, fun pc => (ax_sn_node (ax_sn_node (ax_sn_node (ax_sn_leaf (r_X20_init_13 E)) (ax_sn_leaf (r_X20_init_10 E))) (ax_sn_node (ax_sn_leaf (r_X20_init_7 E)) (ax_sn_leaf (r_X20_init_6 E)))) (ax_sn_node (ax_sn_node (ax_sn_leaf (r_X20_init_5 E)) (ax_sn_leaf (r_X20_init_2 E))) (ax_sn_node (ax_sn_leaf (r_X20_init_1 E)) (ax_sn_leaf (r_X20_init_0 E)))))⟩
theorem r_X21_init_0 (E : ax_EN G l) : ax_Snd G l ax_Ym M_X21_init 0 (S_aload 0 1) := k_aload_n dX21_init_0 rfl
theorem r_X21_init_1 (E : ax_EN G l) : ax_Snd G l ax_Ym M_X21_init 1 (S_oin 4) := k_oin q2037 q189 w_oin dX21_init_1
theorem r_X21_init_4 (E : ax_EN G l) : ax_Snd G l ax_Ym M_X21_init 4 (S_aload 0 5) := k_aload_n dX21_init_4 rfl
theorem r_X21_init_5 (E : ax_EN G l) : ax_Snd G l ax_Ym M_X21_init 5 (S_push (.int (16)) 7) := k_bipush dX21_init_5 rfl
theorem r_X21_init_7 (E : ax_EN G l) : ax_Snd G l ax_Ym M_X21_init 7 (S_newa 0 0 9) := k_newa (atype := .int) (en_F E) (by decide) rfl (fun _ => rfl) (Or.inl q255) (by decide) (fun _ => rfl) dX21_init_7
theorem r_X21_init_9 (E : ax_EN G l) : ax_Snd G l ax_Ym M_X21_init 9 (S_putf [(31, 0)] (.array (.int)) 12) := k_putf (en_F E) (en_P E) (ax_fes_cons (fe_322 E) ax_fes_nil) (ax_fps_cons (fp_337 E) ax_fps_nil) q2038 dX21_init_9
theorem r_X21_init_12 (E : ax_EN G l) : ax_Snd G l ax_Ym M_X21_init 12 (S_ret) := k_ret dX21_init_12 rfl
theorem mt_X21_init (E : ax_EN G l) : ax_mt G l ax_Ym (1, P_X21_init) (ax_Ym 358) := ⟨M_X21_init, yX21_init, ⟨rfl, by decide +kernel, rfl, (fun _ => rfl), Or.inl ⟨rfl, rfl⟩⟩, fun pc => (ax_sn_node (ax_sn_node (ax_sn_node (ax_sn_leaf (r_X21_init_12 E)) (ax_sn_leaf (r_X21_init_9 E))) (ax_sn_node (ax_sn_leaf (r_X21_init_7 E)) (ax_sn_leaf (r_X21_init_5 E)))) (ax_sn_node (ax_sn_node (ax_sn_leaf (r_X21_init_4 E)) (ax_sn_leaf (r_X21_init_1 E))) (ax_sn_leaf (r_X21_init_0 E))))⟩
theorem r_X21_note_0 (E : ax_EN G l) : ax_Snd G l ax_Ym M_X21_note 0 (S_aload 0 1) := k_aload_n dX21_note_0 rfl
theorem r_X21_note_1 (E : ax_EN G l) : ax_Snd G l ax_Ym M_X21_note 1 (S_getf [(31, 1)] 4) := k_getf (en_F E) (ax_fes_cons (fe_321 E) ax_fes_nil) q2040 dX21_note_1
theorem r_X21_note_4 (E : ax_EN G l) : ax_Snd G l ax_Ym M_X21_note 4 (S_aload 0 5) := k_aload_n dX21_note_4 rfl
theorem r_X21_note_5 (E : ax_EN G l) : ax_Snd G l ax_Ym M_X21_note 5 (S_getf [(31, 0)] 8) := k_getf (en_F E) (ax_fes_cons (fe_322 E) ax_fes_nil) q2038 dX21_note_5
theorem r_X21_note_8 (E : ax_EN G l) : ax_Snd G l ax_Ym M_X21_note 8 (S_alen 9) := k_alen (en_F E) dX21_note_8
theorem r_X21_note_9 (E : ax_EN G l) : ax_Snd G l ax_Ym M_X21_note 9 (S_if2 (fun x y => decide (¬ x = y)) 40 12) := k_icmp_ne dX21_note_9 rfl
theorem r_X21_note_12 (E : ax_EN G l) : ax_Snd G l ax_Ym M_X21_note 12 (S_push (.int (2)) 13) := k_iconst dX21_note_12 rfl
theorem r_X21_note_13 (E : ax_EN G l) : ax_Snd G l ax_Ym M_X21_note 13 (S_aload 0 14) := k_aload_n dX21_note_13 rfl
theorem r_X21_note_14 (E : ax_EN G l) : ax_Snd G l ax_Ym M_X21_note 14 (S_getf [(31, 1)] 17) := k_getf (en_F E) (ax_fes_cons (fe_321 E) ax_fes_nil) q2040 dX21_note_14
theorem r_X21_note_17 (E : ax_EN G l) : ax_Snd G l ax_Ym M_X21_note 17 (S_i2 (fun x y => x * y) 18) := k_imul dX21_note_17
theorem r_X21_note_18 (E : ax_EN G l) : ax_Snd G l ax_Ym M_X21_note 18 (S_newa 0 0 20) := k_newa (atype := .int) (en_F E) (by decide) rfl (fun _ => rfl) (Or.inl q255) (by decide) (fun _ => rfl) dX21_note_18
theorem r_X21_note_20 (E : ax_EN G l) : ax_Snd G l ax_Ym M_X21_note 20 (S_astore 3 21) := k_astore_n dX21_note_20 rfl (Nat.le_of_ble_eq_true rfl)
theorem r_X21_note_21 (E : ax_EN G l) : ax_Snd G l ax_Ym M_X21_note 21 (S_aload 0 22) := k_aload_n dX21_note_21 rfl
theorem r_X21_note_22 (E : ax_EN G l) : ax_Snd G l ax_Ym M_X21_note 22 (S_getf [(31, 0)] 25) := k_getf (en_F E) (ax_fes_cons (fe_322 E) ax_fes_nil) q2038 dX21_note_22
theorem r_X21_note_25 (E : ax_EN G l) : ax_Snd G l ax_Ym M_X21_note 25 (S_push (.int (0)) 26) := k_iconst dX21_note_25 rfl
theorem r_X21_note_26 (E : ax_EN G l) : ax_Snd G l ax_Ym M_X21_note 26 (S_aload 3 27) := k_aload_n dX21_note_26 rfl
theorem r_X21_note_27 (E : ax_EN G l) : ax_Snd G l ax_Ym M_X21_note 27 (S_push (.int (0)) 28) := k_iconst dX21_note_27 rfl
theorem r_X21_note_28 (E : ax_EN G l) : ax_Snd G l ax_Ym M_X21_note 28 (S_aload 0 29) := k_aload_n dX21_note_28 rfl
theorem r_X21_note_29 (E : ax_EN G l) : ax_Snd G l ax_Ym M_X21_note 29 (S_getf [(31, 1)] 32) := k_getf (en_F E) (ax_fes_cons (fe_321 E) ax_fes_nil) q2040 dX21_note_29
theorem r_X21_note_32 (E : ax_EN G l) : ax_Snd G l ax_Ym M_X21_note 32 (S_acp 35) := k_acp (en_F E) (en_B E) ⟨q2103, q603, q602, q137⟩ (ax_objs_c E) dX21_note_32
theorem r_X21_note_35 (E : ax_EN G l) : ax_Snd G l ax_Ym M_X21_note 35 (S_aload 0 36) := k_aload_n dX21_note_35 rfl
theorem r_X21_note_36 (E : ax_EN G l) : ax_Snd G l ax_Ym M_X21_note 36 (S_aload 3 37) := k_aload_n dX21_note_36 rfl
theorem r_X21_note_37 (E : ax_EN G l) : ax_Snd G l ax_Ym M_X21_note 37 (S_putf [(31, 0)] (.array (.int)) 40) := k_putf (en_F E) (en_P E) (ax_fes_cons (fe_322 E) ax_fes_nil) (ax_fps_cons (fp_337 E) ax_fps_nil) q2038 dX21_note_37
theorem r_X21_note_40 (E : ax_EN G l) : ax_Snd G l ax_Ym M_X21_note 40 (S_aload 0 41) := k_aload_n dX21_note_40 rfl
theorem r_X21_note_41 (E : ax_EN G l) : ax_Snd G l ax_Ym M_X21_note 41 (S_getf [(31, 0)] 44) := k_getf (en_F E) (ax_fes_cons (fe_322 E) ax_fes_nil) q2038 dX21_note_41
theorem r_X21_note_44 (E : ax_EN G l) : ax_Snd G l ax_Ym M_X21_note 44 (S_aload 0 45) := k_aload_n dX21_note_44 rfl
theorem r_X21_note_45 (E : ax_EN G l) : ax_Snd G l ax_Ym M_X21_note 45 (S_getf [(31, 1)] 48) := k_getf (en_F E) (ax_fes_cons (fe_321 E) ax_fes_nil) q2040 dX21_note_45
theorem r_X21_note_48 (E : ax_EN G l) : ax_Snd G l ax_Ym M_X21_note 48 (S_iload 1 49) := k_iload_n dX21_note_48 rfl
theorem r_X21_note_49 (E : ax_EN G l) : ax_Snd G l ax_Ym M_X21_note 49 (S_iast 0 (fun x => x) 50) := k_iast (en_F E) dX21_note_49
theorem r_X21_note_50 (E : ax_EN G l) : ax_Snd G l ax_Ym M_X21_note 50 (S_aload 0 51) := k_aload_n dX21_note_50 rfl
theorem r_X21_note_51 (E : ax_EN G l) : ax_Snd G l ax_Ym M_X21_note 51 (S_getf [(31, 0)] 54) := k_getf (en_F E) (ax_fes_cons (fe_322 E) ax_fes_nil) q2038 dX21_note_51
theorem r_X21_note_54 (E : ax_EN G l) : ax_Snd G l ax_Ym M_X21_note 54 (S_aload 0 55) := k_aload_n dX21_note_54 rfl
theorem r_X21_note_55 (E : ax_EN G l) : ax_Snd G l ax_Ym M_X21_note 55 (S_getf [(31, 1)] 58) := k_getf (en_F E) (ax_fes_cons (fe_321 E) ax_fes_nil) q2040 dX21_note_55
theorem r_X21_note_58 (E : ax_EN G l) : ax_Snd G l ax_Ym M_X21_note 58 (S_push (.int (1)) 59) := k_iconst dX21_note_58 rfl
theorem r_X21_note_59 (E : ax_EN G l) : ax_Snd G l ax_Ym M_X21_note 59 (S_i2 (fun x y => x + y) 60) := k_iadd dX21_note_59
theorem r_X21_note_60 (E : ax_EN G l) : ax_Snd G l ax_Ym M_X21_note 60 (S_iload 2 61) := k_iload_n dX21_note_60 rfl
theorem r_X21_note_61 (E : ax_EN G l) : ax_Snd G l ax_Ym M_X21_note 61 (S_iast 0 (fun x => x) 62) := k_iast (en_F E) dX21_note_61
theorem r_X21_note_62 (E : ax_EN G l) : ax_Snd G l ax_Ym M_X21_note 62 (S_aload 0 63) := k_aload_n dX21_note_62 rfl
theorem r_X21_note_63 (E : ax_EN G l) : ax_Snd G l ax_Ym M_X21_note 63 (S_dup 64) := k_dup dX21_note_63
theorem r_X21_note_64 (E : ax_EN G l) : ax_Snd G l ax_Ym M_X21_note 64 (S_getf [(31, 1)] 67) := k_getf (en_F E) (ax_fes_cons (fe_321 E) ax_fes_nil) q2040 dX21_note_64
theorem r_X21_note_67 (E : ax_EN G l) : ax_Snd G l ax_Ym M_X21_note 67 (S_push (.int (2)) 68) := k_iconst dX21_note_67 rfl
theorem r_X21_note_68 (E : ax_EN G l) : ax_Snd G l ax_Ym M_X21_note 68 (S_i2 (fun x y => x + y) 69) := k_iadd dX21_note_68
theorem r_X21_note_69 (E : ax_EN G l) : ax_Snd G l ax_Ym M_X21_note 69 (S_putf [(31, 1)] (.int) 72) := k_putf (en_F E) (en_P E) (ax_fes_cons (fe_321 E) ax_fes_nil) (ax_fps_cons (fp_338 E) ax_fps_nil) q2040 dX21_note_69
theorem r_X21_note_72 (E : ax_EN G l) : ax_Snd G l ax_Ym M_X21_note 72 (S_ret) := k_ret dX21_note_72 rfl
theorem mt_X21_note (E : ax_EN G l) : ax_mt G l ax_Ym (4, P_X21_note) (ax_Ym 359) := ⟨M_X21_note, yX21_note, ⟨rfl, by decide +kernel, rfl, (fun h => by cases h), Or.inl ⟨rfl, rfl⟩⟩, fun pc => (ax_sn_node (ax_sn_node (ax_sn_node (ax_sn_node (ax_sn_node (ax_sn_node (ax_sn_leaf (r_X21_note_72 E)) (ax_sn_leaf (r_X21_note_69 E))) (ax_sn_leaf (r_X21_note_68 E))) (ax_sn_node (ax_sn_node (ax_sn_leaf (r_X21_note_67 E)) (ax_sn_leaf (r_X21_note_64 E))) (ax_sn_leaf (r_X21_note_63 E)))) (ax_sn_node (ax_sn_node (ax_sn_node (ax_sn_leaf (r_X21_note_62 E)) (ax_sn_leaf (r_X21_note_61 E))) (ax_sn_leaf (r_X21_note_60 E))) (ax_sn_node (ax_sn_leaf (r_X21_note_59 E)) (ax_sn_leaf (r_X21_note_58 E))))) (ax_sn_node (ax_sn_node (ax_sn_node (ax_sn_node (ax_sn_leaf (r_X21_note_55 E)) (ax_sn_leaf (r_X21_note_54 E))) (ax_sn_leaf (r_X21_note_51 E))) (ax_sn_node (ax_sn_node (ax_sn_leaf (r_X21_note_50 E)) (ax_sn_leaf (r_X21_note_49 E))) (ax_sn_leaf (r_X21_note_48 E)))) (ax_sn_node (ax_sn_node (ax_sn_node (ax_sn_leaf (r_X21_note_45 E)) (ax_sn_leaf (r_X21_note_44 E))) (ax_sn_leaf (r_X21_note_41 E))) (ax_sn_node (ax_sn_leaf (r_X21_note_40 E)) (ax_sn_leaf (r_X21_note_37 E)))))) (ax_sn_node (ax_sn_node (ax_sn_node (ax_sn_node (ax_sn_node (ax_sn_leaf (r_X21_note_36 E)) (ax_sn_leaf (r_X21_note_35 E))) (ax_sn_leaf (r_X21_note_32 E))) (ax_sn_node (ax_sn_node (ax_sn_leaf (r_X21_note_29 E)) (ax_sn_leaf (r_X21_note_28 E))) (ax_sn_leaf (r_X21_note_27 E)))) (ax_sn_node (ax_sn_node (ax_sn_node (ax_sn_leaf (r_X21_note_26 E)) (ax_sn_leaf (r_X21_note_25 E))) (ax_sn_leaf (r_X21_note_22 E))) (ax_sn_node (ax_sn_leaf (r_X21_note_21 E)) (ax_sn_leaf (r_X21_note_20 E))))) (ax_sn_node (ax_sn_node (ax_sn_node (ax_sn_node (ax_sn_leaf (r_X21_note_18 E)) (ax_sn_leaf (r_X21_note_17 E))) (ax_sn_leaf (r_X21_note_14 E))) (ax_sn_node (ax_sn_node (ax_sn_leaf (r_X21_note_13 E)) (ax_sn_leaf (r_X21_note_12 E))) (ax_sn_leaf (r_X21_note_9 E)))) (ax_sn_node (ax_sn_node (ax_sn_node (ax_sn_leaf (r_X21_note_8 E)) (ax_sn_leaf (r_X21_note_5 E))) (ax_sn_leaf (r_X21_note_4 E))) (ax_sn_node (ax_sn_leaf (r_X21_note_1 E)) (ax_sn_leaf (r_X21_note_0 E)))))))⟩
theorem r_X21_has_0 (E : ax_EN G l) : ax_Snd G l ax_Ym M_X21_has 0 (S_push (.int (0)) 1) := k_iconst dX21_has_0 rfl
theorem r_X21_has_1 (E : ax_EN G l) : ax_Snd G l ax_Ym M_X21_has 1 (S_istore 2 2) := k_istore_n dX21_has_1 rfl (Nat.le_of_ble_eq_true rfl)
theorem r_X21_has_2 (E : ax_EN G l) : ax_Snd G l ax_Ym M_X21_has 2 (S_push (.int (0)) 3) := k_iconst dX21_has_2 rfl
theorem r_X21_has_3 (E : ax_EN G l) : ax_Snd G l ax_Ym M_X21_has 3 (S_istore 3 4) := k_istore_n dX21_has_3 rfl (Nat.le_of_ble_eq_true rfl)
theorem r_X21_has_4 (E : ax_EN G l) : ax_Snd G l ax_Ym M_X21_has 4 (S_iload 3 5) := k_iload_n dX21_has_4 rfl
theorem r_X21_has_5 (E : ax_EN G l) : ax_Snd G l ax_Ym M_X21_has 5 (S_aload 0 6) := k_aload_n dX21_has_5 rfl
theorem r_X21_has_6 (E : ax_EN G l) : ax_Snd G l ax_Ym M_X21_has 6 (S_getf [(31, 1)] 9) := k_getf (en_F E) (ax_fes_cons (fe_321 E) ax_fes_nil) q2040 dX21_has_6
theorem r_X21_has_9 (E : ax_EN G l) : ax_Snd G l ax_Ym M_X21_has 9 (S_if2 (fun x y => decide (y ≤ x)) 36 12) := k_icmp_ge dX21_has_9 rfl
theorem r_X21_has_12 (E : ax_EN G l) : ax_Snd G l ax_Ym M_X21_has 12 (S_iload 2 13) := k_iload_n dX21_has_12 rfl
theorem r_X21_has_13 (E : ax_EN G l) : ax_Snd G l ax_Ym M_X21_has 13 (S_aload 0 14) := k_aload_n dX21_has_13 rfl
theorem r_X21_has_14 (E : ax_EN G l) : ax_Snd G l ax_Ym M_X21_has 14 (S_getf [(31, 0)] 17) := k_getf (en_F E) (ax_fes_cons (fe_322 E) ax_fes_nil) q2038 dX21_has_14
theorem r_X21_has_17 (E : ax_EN G l) : ax_Snd G l ax_Ym M_X21_has 17 (S_iload 3 18) := k_iload_n dX21_has_17 rfl
theorem r_X21_has_18 (E : ax_EN G l) : ax_Snd G l ax_Ym M_X21_has 18 (S_iald 0 19) := k_iald (en_F E) dX21_has_18
theorem r_X21_has_19 (E : ax_EN G l) : ax_Snd G l ax_Ym M_X21_has 19 (S_iload 1 20) := k_iload_n dX21_has_19 rfl
theorem r_X21_has_20 (E : ax_EN G l) : ax_Snd G l ax_Ym M_X21_has 20 (S_if2 (fun x y => decide (¬ x = y)) 27 23) := k_icmp_ne dX21_has_20 rfl
theorem r_X21_has_23 (E : ax_EN G l) : ax_Snd G l ax_Ym M_X21_has 23 (S_push (.int (1)) 24) := k_iconst dX21_has_23 rfl
theorem r_X21_has_24 (E : ax_EN G l) : ax_Snd G l ax_Ym M_X21_has 24 (S_goto 28) := k_goto dX21_has_24 rfl
theorem r_X21_has_27 (E : ax_EN G l) : ax_Snd G l ax_Ym M_X21_has 27 (S_push (.int (0)) 28) := k_iconst dX21_has_27 rfl
theorem r_X21_has_28 (E : ax_EN G l) : ax_Snd G l ax_Ym M_X21_has 28 (S_i2 (fun x y => x ||| y) 29) := k_ior dX21_has_28
theorem r_X21_has_29 (E : ax_EN G l) : ax_Snd G l ax_Ym M_X21_has 29 (S_istore 2 30) := k_istore_n dX21_has_29 rfl (Nat.le_of_ble_eq_true rfl)
theorem r_X21_has_30 (E : ax_EN G l) : ax_Snd G l ax_Ym M_X21_has 30 (S_iinc 3 (2) 33) := k_iinc dX21_has_30 rfl (Nat.le_of_ble_eq_true rfl)
theorem r_X21_has_33 (E : ax_EN G l) : ax_Snd G l ax_Ym M_X21_has 33 (S_goto 4) := k_goto dX21_has_33 rfl
theorem r_X21_has_36 (E : ax_EN G l) : ax_Snd G l ax_Ym M_X21_has 36 (S_iload 2 37) := k_iload_n dX21_has_36 rfl
theorem r_X21_has_37 (E : ax_EN G l) : ax_Snd G l ax_Ym M_X21_has 37 (S_zret) := k_zret dX21_has_37 rfl
theorem mt_X21_has (E : ax_EN G l) : ax_mt G l ax_Ym (4, P_X21_has) (ax_Ym 360) := ⟨M_X21_has, yX21_has, ⟨rfl, by decide +kernel, rfl, (fun h => by cases h), Or.inl ⟨rfl, rfl⟩⟩, fun pc => (ax_sn_node (ax_sn_node (ax_sn_node (ax_sn_node (ax_sn_node (ax_sn_leaf (r_X21_has_37 E)) (ax_sn_leaf (r_X21_has_36 E))) (ax_sn_leaf (r_X21_has_33 E))) (ax_sn_node (ax_sn_node (ax_sn_leaf (r_X21_has_30 E)) (ax_sn_leaf (r_X21_has_29 E))) (ax_sn_leaf (r_X21_has_28 E)))) (ax_sn_node (ax_sn_node (ax_sn_node (ax_sn_leaf (r_X21_has_27 E)) (ax_sn_leaf (r_X21_has_24 E))) (ax_sn_leaf (r_X21_has_23 E))) (ax_sn_node (ax_sn_node (ax_sn_leaf (r_X21_has_20 E)) (ax_sn_leaf (r_X21_has_19 E))) (ax_sn_leaf (r_X21_has_18 E))))) (ax_sn_node (ax_sn_node (ax_sn_node (ax_sn_node (ax_sn_leaf (r_X21_has_17 E)) (ax_sn_leaf (r_X21_has_14 E))) (ax_sn_leaf (r_X21_has_13 E))) (ax_sn_node (ax_sn_node (ax_sn_leaf (r_X21_has_12 E)) (ax_sn_leaf (r_X21_has_9 E))) (ax_sn_leaf (r_X21_has_6 E)))) (ax_sn_node (ax_sn_node (ax_sn_node (ax_sn_leaf (r_X21_has_5 E)) (ax_sn_leaf (r_X21_has_4 E))) (ax_sn_leaf (r_X21_has_3 E))) (ax_sn_node (ax_sn_node (ax_sn_leaf (r_X21_has_2 E)) (ax_sn_leaf (r_X21_has_1 E))) (ax_sn_leaf (r_X21_has_0 E))))))⟩
theorem r_X22_init_0 (E : ax_EN G l) : ax_Snd G l ax_Ym M_X22_init 0 (S_aload 0 1) := k_aload_n dX22_init_0 rfl
theorem r_X22_init_1 (E : ax_EN G l) : ax_Snd G l ax_Ym M_X22_init 1 (S_new 2 [.null, .int 0, .int 0, .int 0] 4 4) := k_new (en_F E) (mk_2 E) q2131 dX22_init_1
theorem r_X22_init_4 (E : ax_EN G l) : ax_Snd G l ax_Ym M_X22_init 4 (S_dup 5) := k_dup dX22_init_4
theorem r_X22_init_5 (E : ax_EN G l) : ax_Snd G l ax_Ym M_X22_init 5 (S_isp 29 0 8 hd_0) := k_isp (en_F E) (ax_ok0 E rfl) ((ev_i y_J16_init q2132 q528 q154 q529 nm_J16_init rfl (Nat.le_of_ble_eq_true rfl) dX22_init_5) : ax_EvI G l ax_Ym M_X22_init 5 29 0 3)
theorem r_X22_init_8 (E : ax_EN G l) : ax_Snd G l ax_Ym M_X22_init 8 (S_push (.ref 288) 10) := k_ldcS (en_x E 10 rfl) dX22_init_8
theorem r_X22_init_10 (E : ax_EN G l) : ax_Snd G l ax_Ym M_X22_init 10 (S_iv [(2, 30)] 1 13 hd_0) := k_iv (en_F E) (ax_ok0 E rfl) (ax_Evs_cons ((ev_v (en_c E (k := 2) rfl) rfl y_J16_append q2134 q559 q560 q154 q561 nm_J16_append (Nat.le_of_ble_eq_true rfl) dX22_init_10) : ax_EvV G l ax_Ym M_X22_init 10 1 3 2 30) ax_Evs_nil)
theorem r_X22_init_13 (E : ax_EN G l) : ax_Snd G l ax_Ym M_X22_init 13 (S_iload 1 14) := k_iload_n dX22_init_13 rfl
theorem r_X22_init_14 (E : ax_EN G l) : ax_Snd G l ax_Ym M_X22_init 14 (S_iv [(2, 31)] 1 17 hd_0) := k_iv (en_F E) (ax_ok0 E rfl) (ax_Evs_cons ((ev_v (en_c E (k := 2) rfl) rfl y_J16_append_2 q2135 q679 q680 q154 q681 nm_J16_append_2 (Nat.le_of_ble_eq_true rfl) dX22_init_14) : ax_EvV G l ax_Ym M_X22_init 14 1 3 2 31) ax_Evs_nil)
theorem r_X22_init_17 (E : ax_EN G l) : ax_Snd G l ax_Ym M_X22_init 17 (S_iv [(2, 32)] 0 20 hd_0) := k_iv (en_F E) (ax_ok0 E rfl) (ax_Evs_cons ((ev_v (en_c E (k := 2) rfl) rfl y_J16_toString q2136 q705 q706 q154 q707 nm_J16_toString (Nat.le_of_ble_eq_true rfl) dX22_init_17) : ax_EvV G l ax_Ym M_X22_init 17 0 3 2 32) ax_Evs_nil)
theorem r_X22_init_20 (E : ax_EN G l) : ax_Snd G l ax_Ym M_X22_init 20 (S_isp 168 1 23 hd_0) := k_isp (en_F E) (ax_ok0 E rfl) ((ev_i y_J7_init q2137 q764 q128 q765 nm_J7_init rfl (Nat.le_of_ble_eq_true rfl) dX22_init_20) : ax_EvI G l ax_Ym M_X22_init 20 168 1 3)
theorem r_X22_init_23 (E : ax_EN G l) : ax_Snd G l ax_Ym M_X22_init 23 (S_ret) := k_ret dX22_init_23 rfl
theorem mt_X22_init (E : ax_EN G l) : ax_mt G l ax_Ym (2, P_X22_init) (ax_Ym 361) := ⟨M_X22_init, yX22_init, ⟨rfl, by decide +kernel, rfl, (fun _ => rfl), Or.inl ⟨rfl, rfl⟩⟩, fun pc => (ax_sn_node (ax_sn_node (ax_sn_node (ax_sn_node (ax_sn_leaf (r_X22_init_23 E)) (ax_sn_leaf (r_X22_init_20 E))) (ax_sn_leaf (r_X22_init_17 E))) (ax_sn_node (ax_sn_node (ax_sn_leaf (r_X22_init_14 E)) (ax_sn_leaf (r_X22_init_13 E))) (ax_sn_leaf (r_X22_init_10 E)))) (ax_sn_node (ax_sn_node (ax_sn_node (ax_sn_leaf (r_X22_init_8 E)) (ax_sn_leaf (r_X22_init_5 E))) (ax_sn_leaf (r_X22_init_4 E))) (ax_sn_node (ax_sn_leaf (r_X22_init_1 E)) (ax_sn_leaf (r_X22_init_0 E)))))⟩
theorem r_X23_init_0 (E : ax_EN G l) : ax_Snd G l ax_Ym M_X23_init 0 (S_aload 0 1) := k_aload_n dX23_init_0 rfl
theorem r_X23_init_1 (E : ax_EN G l) : ax_Snd G l ax_Ym M_X23_init 1 (S_new 2 [.null, .int 0, .int 0, .int 0] 4 4) := k_new (en_F E) (mk_2 E) q2162 dX23_init_1
theorem r_X23_init_4 (E : ax_EN G l) : ax_Snd G l ax_Ym M_X23_init 4 (S_dup 5) := k_dup dX23_init_4
theorem r_X23_init_5 (E : ax_EN G l) : ax_Snd G l ax_Ym M_X23_init 5 (S_isp 29 0 8 hd_0) := k_isp (en_F E) (ax_ok0 E rfl) ((ev_i y_J16_init q2163 q528 q154 q529 nm_J16_init rfl (Nat.le_of_ble_eq_true rfl) dX23_init_5) : ax_EvI G l ax_Ym M_X23_init 5 29 0 3)
theorem r_X23_init_8 (E : ax_EN G l) : ax_Snd G l ax_Ym M_X23_init 8 (S_push (.ref 284) 10) := k_ldcS (en_x E 11 rfl) dX23_init_8
theorem r_X23_init_10 (E : ax_EN G l) : ax_Snd G l ax_Ym M_X23_init 10 (S_iv [(2, 30)] 1 13 hd_0) := k_iv (en_F E) (ax_ok0 E rfl) (ax_Evs_cons ((ev_v (en_c E (k := 2) rfl) rfl y_J16_append q2165 q559 q560 q154 q561 nm_J16_append (Nat.le_of_ble_eq_true rfl) dX23_init_10) : ax_EvV G l ax_Ym M_X23_init 10 1 3 2 30) ax_Evs_nil)
theorem r_X23_init_13 (E : ax_EN G l) : ax_Snd G l ax_Ym M_X23_init 13 (S_iload 1 14) := k_iload_n dX23_init_13 rfl
theorem r_X23_init_14 (E : ax_EN G l) : ax_Snd G l ax_Ym M_X23_init 14 (S_iv [(2, 31)] 1 17 hd_0) := k_iv (en_F E) (ax_ok0 E rfl) (ax_Evs_cons ((ev_v (en_c E (k := 2) rfl) rfl y_J16_append_2 q2166 q679 q680 q154 q681 nm_J16_append_2 (Nat.le_of_ble_eq_true rfl) dX23_init_14) : ax_EvV G l ax_Ym M_X23_init 14 1 3 2 31) ax_Evs_nil)
theorem r_X23_init_17 (E : ax_EN G l) : ax_Snd G l ax_Ym M_X23_init 17 (S_iv [(2, 32)] 0 20 hd_0) := k_iv (en_F E) (ax_ok0 E rfl) (ax_Evs_cons ((ev_v (en_c E (k := 2) rfl) rfl y_J16_toString q2167 q705 q706 q154 q707 nm_J16_toString (Nat.le_of_ble_eq_true rfl) dX23_init_17) : ax_EvV G l ax_Ym M_X23_init 17 0 3 2 32) ax_Evs_nil)
theorem r_X23_init_20 (E : ax_EN G l) : ax_Snd G l ax_Ym M_X23_init 20 (S_isp 168 1 23 hd_0) := k_isp (en_F E) (ax_ok0 E rfl) ((ev_i y_J7_init q2168 q764 q128 q765 nm_J7_init rfl (Nat.le_of_ble_eq_true rfl) dX23_init_20) : ax_EvI G l ax_Ym M_X23_init 20 168 1 3)
theorem r_X23_init_23 (E : ax_EN G l) : ax_Snd G l ax_Ym M_X23_init 23 (S_ret) := k_ret dX23_init_23 rfl
theorem mt_X23_init (E : ax_EN G l) : ax_mt G l ax_Ym (2, P_X23_init) (ax_Ym 362) := ⟨M_X23_init, yX23_init, ⟨rfl, by decide +kernel, rfl, (fun _ => rfl), Or.inl ⟨rfl, rfl⟩⟩, fun pc => (ax_sn_node (ax_sn_node (ax_sn_node (ax_sn_node (ax_sn_leaf (r_X23_init_23 E)) (ax_sn_leaf (r_X23_init_20 E))) (ax_sn_leaf (r_X23_init_17 E))) (ax_sn_node (ax_sn_node (ax_sn_leaf (r_X23_init_14 E)) (ax_sn_leaf (r_X23_init_13 E))) (ax_sn_leaf (r_X23_init_10 E)))) (ax_sn_node (ax_sn_node (ax_sn_node (ax_sn_leaf (r_X23_init_8 E)) (ax_sn_leaf (r_X23_init_5 E))) (ax_sn_leaf (r_X23_init_4 E))) (ax_sn_node (ax_sn_leaf (r_X23_init_1 E)) (ax_sn_leaf (r_X23_init_0 E)))))⟩
theorem r_X24_init_0 (E : ax_EN G l) : ax_Snd G l ax_Ym M_X24_init 0 (S_aload 0 1) := k_aload_n dX24_init_0 rfl
theorem r_X24_init_1 (E : ax_EN G l) : ax_Snd G l ax_Ym M_X24_init 1 (S_new 2 [.null, .int 0, .int 0, .int 0] 4 4) := k_new (en_F E) (mk_2 E) q2182 dX24_init_1
theorem r_X24_init_4 (E : ax_EN G l) : ax_Snd G l ax_Ym M_X24_init 4 (S_dup 5) := k_dup dX24_init_4
theorem r_X24_init_5 (E : ax_EN G l) : ax_Snd G l ax_Ym M_X24_init 5 (S_isp 29 0 8 hd_0) := k_isp (en_F E) (ax_ok0 E rfl) ((ev_i y_J16_init q2183 q528 q154 q529 nm_J16_init rfl (Nat.le_of_ble_eq_true rfl) dX24_init_5) : ax_EvI G l ax_Ym M_X24_init 5 29 0 3)
theorem r_X24_init_8 (E : ax_EN G l) : ax_Snd G l ax_Ym M_X24_init 8 (S_push (.ref 286) 10) := k_ldcS (en_x E 12 rfl) dX24_init_8
theorem r_X24_init_10 (E : ax_EN G l) : ax_Snd G l ax_Ym M_X24_init 10 (S_iv [(2, 30)] 1 13 hd_0) := k_iv (en_F E) (ax_ok0 E rfl) (ax_Evs_cons ((ev_v (en_c E (k := 2) rfl) rfl y_J16_append q2185 q559 q560 q154 q561 nm_J16_append (Nat.le_of_ble_eq_true rfl) dX24_init_10) : ax_EvV G l ax_Ym M_X24_init 10 1 3 2 30) ax_Evs_nil)
theorem r_X24_init_13 (E : ax_EN G l) : ax_Snd G l ax_Ym M_X24_init 13 (S_iload 1 14) := k_iload_n dX24_init_13 rfl
theorem r_X24_init_14 (E : ax_EN G l) : ax_Snd G l ax_Ym M_X24_init 14 (S_iv [(2, 31)] 1 17 hd_0) := k_iv (en_F E) (ax_ok0 E rfl) (ax_Evs_cons ((ev_v (en_c E (k := 2) rfl) rfl y_J16_append_2 q2186 q679 q680 q154 q681 nm_J16_append_2 (Nat.le_of_ble_eq_true rfl) dX24_init_14) : ax_EvV G l ax_Ym M_X24_init 14 1 3 2 31) ax_Evs_nil)
theorem r_X24_init_17 (E : ax_EN G l) : ax_Snd G l ax_Ym M_X24_init 17 (S_iv [(2, 32)] 0 20 hd_0) := k_iv (en_F E) (ax_ok0 E rfl) (ax_Evs_cons ((ev_v (en_c E (k := 2) rfl) rfl y_J16_toString q2187 q705 q706 q154 q707 nm_J16_toString (Nat.le_of_ble_eq_true rfl) dX24_init_17) : ax_EvV G l ax_Ym M_X24_init 17 0 3 2 32) ax_Evs_nil)
theorem r_X24_init_20 (E : ax_EN G l) : ax_Snd G l ax_Ym M_X24_init 20 (S_isp 168 1 23 hd_0) := k_isp (en_F E) (ax_ok0 E rfl) ((ev_i y_J7_init q2188 q764 q128 q765 nm_J7_init rfl (Nat.le_of_ble_eq_true rfl) dX24_init_20) : ax_EvI G l ax_Ym M_X24_init 20 168 1 3)
theorem r_X24_init_23 (E : ax_EN G l) : ax_Snd G l ax_Ym M_X24_init 23 (S_ret) := k_ret dX24_init_23 rfl
theorem mt_X24_init (E : ax_EN G l) : ax_mt G l ax_Ym (2, P_X24_init) (ax_Ym 363) := ⟨M_X24_init, yX24_init, ⟨rfl, by decide +kernel, rfl, (fun _ => rfl), Or.inl ⟨rfl, rfl⟩⟩, fun pc => (ax_sn_node (ax_sn_node (ax_sn_node (ax_sn_node (ax_sn_leaf (r_X24_init_23 E)) (ax_sn_leaf (r_X24_init_20 E))) (ax_sn_leaf (r_X24_init_17 E))) (ax_sn_node (ax_sn_node (ax_sn_leaf (r_X24_init_14 E)) (ax_sn_leaf (r_X24_init_13 E))) (ax_sn_leaf (r_X24_init_10 E)))) (ax_sn_node (ax_sn_node (ax_sn_node (ax_sn_leaf (r_X24_init_8 E)) (ax_sn_leaf (r_X24_init_5 E))) (ax_sn_leaf (r_X24_init_4 E))) (ax_sn_node (ax_sn_leaf (r_X24_init_1 E)) (ax_sn_leaf (r_X24_init_0 E)))))⟩
theorem r_X25_init_0 (E : ax_EN G l) : ax_Snd G l ax_Ym M_X25_init 0 (S_aload 0 1) := k_aload_n dX25_init_0 rfl
theorem r_X25_init_1 (E : ax_EN G l) : ax_Snd G l ax_Ym M_X25_init 1 (S_push (.ref 290) 3) := k_ldcS (en_x E 13 rfl) dX25_init_1
theorem r_X25_init_3 (E : ax_EN G l) : ax_Snd G l ax_Ym M_X25_init 3 (S_isp 168 1 6 hd_0) := k_isp (en_F E) (ax_ok0 E rfl) ((ev_i y_J7_init q2236 q764 q128 q765 nm_J7_init rfl (Nat.le_of_ble_eq_true rfl) dX25_init_3) : ax_EvI G l ax_Ym M_X25_init 3 168 1 3)
theorem r_X25_init_6 (E : ax_EN G l) : ax_Snd G l ax_Ym M_X25_init 6 (S_ret) := k_ret dX25_init_6 rfl
theorem mt_X25_init (E : ax_EN G l) : ax_mt G l ax_Ym (1, P_X25_init) (ax_Ym 364) := ⟨M_X25_init, yX25_init, ⟨rfl, by decide +kernel, rfl, (fun _ => rfl), Or.inl ⟨rfl, rfl⟩⟩, fun pc => (ax_sn_node (ax_sn_node (ax_sn_leaf (r_X25_init_6 E)) (ax_sn_leaf (r_X25_init_3 E))) (ax_sn_node (ax_sn_leaf (r_X25_init_1 E)) (ax_sn_leaf (r_X25_init_0 E))))⟩
theorem r_X26_init_0 (E : ax_EN G l) : ax_Snd G l ax_Ym M_X26_init 0 (S_aload 0 1) := k_aload_n dX26_init_0 rfl
theorem r_X26_init_1 (E : ax_EN G l) : ax_Snd G l ax_Ym M_X26_init 1 (S_oin 4) := k_oin q2401 q189 w_oin dX26_init_1
theorem r_X26_init_4 (E : ax_EN G l) : ax_Snd G l ax_Ym M_X26_init 4 (S_aload 0 5) := k_aload_n dX26_init_4 rfl
theorem r_X26_init_5 (E : ax_EN G l) : ax_Snd G l ax_Ym M_X26_init 5 (S_iload 1 6) := k_iload_n dX26_init_5 rfl
theorem r_X26_init_6 (E : ax_EN G l) : ax_Snd G l ax_Ym M_X26_init 6 (S_putf [(36, 0)] (.int) 9) := k_putfF (en_F E) (en_P E) (ax_fes_cons (fe_317 E) ax_fes_nil) (ax_fps_cons (fp_339 E) ax_fps_nil) rfl q2402 dX26_init_6
theorem r_X26_init_9 (E : ax_EN G l) : ax_Snd G l ax_Ym M_X26_init 9 (S_aload 0 10) := k_aload_n dX26_init_9 rfl
theorem r_X26_init_10 (E : ax_EN G l) : ax_Snd G l ax_Ym M_X26_init 10 (S_iload 2 11) := k_iload_n dX26_init_10 rfl
theorem r_X26_init_11 (E : ax_EN G l) : ax_Snd G l ax_Ym M_X26_init 11 (S_putf [(36, 1)] (.int) 14) := k_putfF (en_F E) (en_P E) (ax_fes_cons (fe_316 E) ax_fes_nil) (ax_fps_cons (fp_340 E) ax_fps_nil) rfl q2404 dX26_init_11
theorem r_X26_init_14 (E : ax_EN G l) : ax_Snd G l ax_Ym M_X26_init 14 (S_ret) := k_ret dX26_init_14 rfl
theorem mt_X26_init (E : ax_EN G l) : ax_mt G l ax_Ym (3, P_X26_init) (ax_Ym 365) := ⟨M_X26_init, yX26_init, ⟨rfl, by decide +kernel, rfl, (fun _ => rfl), Or.inl ⟨rfl, rfl⟩⟩, fun pc => (ax_sn_node (ax_sn_node (ax_sn_node (ax_sn_node (ax_sn_leaf (r_X26_init_14 E)) (ax_sn_leaf (r_X26_init_11 E))) (ax_sn_leaf (r_X26_init_10 E))) (ax_sn_node (ax_sn_leaf (r_X26_init_9 E)) (ax_sn_leaf (r_X26_init_6 E)))) (ax_sn_node (ax_sn_node (ax_sn_leaf (r_X26_init_5 E)) (ax_sn_leaf (r_X26_init_4 E))) (ax_sn_node (ax_sn_leaf (r_X26_init_1 E)) (ax_sn_leaf (r_X26_init_0 E)))))⟩
theorem r_X27_worth_0 (E : ax_EN G l) : ax_Snd G l ax_Ym M_X27_worth 0 (S_aload 0 1) := k_aload_n dX27_worth_0 rfl
theorem r_X27_worth_1 (E : ax_EN G l) : ax_Snd G l ax_Ym M_X27_worth 1 (S_getf [(37, 6)] 4) := k_getf (en_F E) (ax_fes_cons (fe_187 E) ax_fes_nil) q2690 dX27_worth_1
theorem r_X27_worth_4 (E : ax_EN G l) : ax_Snd G l ax_Ym M_X27_worth 4 (S_if1 (fun x => decide (¬ x = 0)) 12 7) := k_if_ne dX27_worth_4 rfl
theorem r_X27_worth_7 (E : ax_EN G l) : ax_Snd G l ax_Ym M_X27_worth 7 (S_aload 0 8) := k_aload_n dX27_worth_7 rfl
theorem r_X27_worth_8 (E : ax_EN G l) : ax_Snd G l ax_Ym M_X27_worth 8 (S_getf [(37, 4)] 11) := k_getf (en_F E) (ax_fes_cons (fe_341 E) ax_fes_nil) q2688 dX27_worth_8
theorem r_X27_worth_11 (E : ax_EN G l) : ax_Snd G l ax_Ym M_X27_worth 11 (S_iret) := k_iret dX27_worth_11 rfl
theorem r_X27_worth_12 (E : ax_EN G l) : ax_Snd G l ax_Ym M_X27_worth 12 (S_aload 0 13) := k_aload_n dX27_worth_12 rfl
theorem r_X27_worth_13 (E : ax_EN G l) : ax_Snd G l ax_Ym M_X27_worth 13 (S_getf [(37, 6)] 16) := k_getf (en_F E) (ax_fes_cons (fe_187 E) ax_fes_nil) q2690 dX27_worth_13
theorem r_X27_worth_16 (E : ax_EN G l) : ax_Snd G l ax_Ym M_X27_worth 16 (S_push (.int (-1)) 17) := k_iconst dX27_worth_16 rfl
theorem r_X27_worth_17 (E : ax_EN G l) : ax_Snd G l ax_Ym M_X27_worth 17 (S_if2 (fun x y => decide (x = y)) 39 20) := k_icmp_eq dX27_worth_17 rfl
theorem r_X27_worth_20 (E : ax_EN G l) : ax_Snd G l ax_Ym M_X27_worth 20 (S_aload 0 21) := k_aload_n dX27_worth_20 rfl
theorem r_X27_worth_21 (E : ax_EN G l) : ax_Snd G l ax_Ym M_X27_worth 21 (S_getf [(37, 7)] 24) := k_getf (en_F E) (ax_fes_cons (fe_342 E) ax_fes_nil) q2692 dX27_worth_21
theorem r_X27_worth_24 (E : ax_EN G l) : ax_Snd G l ax_Ym M_X27_worth 24 (S_if1 (fun x => decide (x = 0)) 39 27) := k_if_eq dX27_worth_24 rfl
theorem r_X27_worth_27 (E : ax_EN G l) : ax_Snd G l ax_Ym M_X27_worth 27 (S_aload 0 28) := k_aload_n dX27_worth_27 rfl
theorem r_X27_worth_28 (E : ax_EN G l) : ax_Snd G l ax_Ym M_X27_worth 28 (S_getf [(37, 4)] 31) := k_getf (en_F E) (ax_fes_cons (fe_341 E) ax_fes_nil) q2688 dX27_worth_28
theorem r_X27_worth_31 (E : ax_EN G l) : ax_Snd G l ax_Ym M_X27_worth 31 (S_push (.int (1)) 32) := k_iconst dX27_worth_31 rfl
theorem r_X27_worth_32 (E : ax_EN G l) : ax_Snd G l ax_Ym M_X27_worth 32 (S_i2 (fun x y => x + y) 33) := k_iadd dX27_worth_32
theorem r_X27_worth_33 (E : ax_EN G l) : ax_Snd G l ax_Ym M_X27_worth 33 (S_i1 (fun x => -x) 34) := k_ineg dX27_worth_33
theorem r_X27_worth_34 (E : ax_EN G l) : ax_Snd G l ax_Ym M_X27_worth 34 (S_push (.int (2)) 35) := k_iconst dX27_worth_34 rfl
theorem r_X27_worth_35 (E : ax_EN G l) : ax_Snd G l ax_Ym M_X27_worth 35 (S_id (fun x y => x / y) 36) := k_idiv dX27_worth_35
theorem r_X27_worth_36 (E : ax_EN G l) : ax_Snd G l ax_Ym M_X27_worth 36 (S_goto 40) := k_goto dX27_worth_36 rfl
theorem r_X27_worth_39 (E : ax_EN G l) : ax_Snd G l ax_Ym M_X27_worth 39 (S_push (.int (0)) 40) := k_iconst dX27_worth_39 rfl
theorem r_X27_worth_40 (E : ax_EN G l) : ax_Snd G l ax_Ym M_X27_worth 40 (S_iret) := k_iret dX27_worth_40 rfl
theorem mt_X27_worth (E : ax_EN G l) : ax_mt G l ax_Ym (1, P_X27_worth) (ax_Ym 366) := ⟨M_X27_worth, yX27_worth, ⟨rfl, by decide +kernel, rfl, (fun h => by cases h), Or.inl ⟨rfl, rfl⟩⟩, fun pc => (ax_sn_node (ax_sn_node (ax_sn_node (ax_sn_node (ax_sn_node (ax_sn_leaf (r_X27_worth_40 E)) (ax_sn_leaf (r_X27_worth_39 E))) (ax_sn_leaf (r_X27_worth_36 E))) (ax_sn_node (ax_sn_node (ax_sn_leaf (r_X27_worth_35 E)) (ax_sn_leaf (r_X27_worth_34 E))) (ax_sn_leaf (r_X27_worth_33 E)))) (ax_sn_node (ax_sn_node (ax_sn_node (ax_sn_leaf (r_X27_worth_32 E)) (ax_sn_leaf (r_X27_worth_31 E))) (ax_sn_leaf (r_X27_worth_28 E))) (ax_sn_node (ax_sn_node (ax_sn_leaf (r_X27_worth_27 E)) (ax_sn_leaf (r_X27_worth_24 E))) (ax_sn_leaf (r_X27_worth_21 E))))) (ax_sn_node (ax_sn_node (ax_sn_node (ax_sn_node (ax_sn_leaf (r_X27_worth_20 E)) (ax_sn_leaf (r_X27_worth_17 E))) (ax_sn_leaf (r_X27_worth_16 E))) (ax_sn_node (ax_sn_node (ax_sn_leaf (r_X27_worth_13 E)) (ax_sn_leaf (r_X27_worth_12 E))) (ax_sn_leaf (r_X27_worth_11 E)))) (ax_sn_node (ax_sn_node (ax_sn_node (ax_sn_leaf (r_X27_worth_8 E)) (ax_sn_leaf (r_X27_worth_7 E))) (ax_sn_leaf (r_X27_worth_4 E))) (ax_sn_node (ax_sn_leaf (r_X27_worth_1 E)) (ax_sn_leaf (r_X27_worth_0 E))))))⟩
theorem r_X27_init_0 (E : ax_EN G l) : ax_Snd G l ax_Ym M_X27_init 0 (S_aload 0 1) := k_aload_n dX27_init_0 rfl
theorem r_X27_init_1 (E : ax_EN G l) : ax_Snd G l ax_Ym M_X27_init 1 (S_oin 4) := k_oin q2683 q189 w_oin dX27_init_1
theorem r_X27_init_4 (E : ax_EN G l) : ax_Snd G l ax_Ym M_X27_init 4 (S_aload 0 5) := k_aload_n dX27_init_4 rfl
theorem r_X27_init_5 (E : ax_EN G l) : ax_Snd G l ax_Ym M_X27_init 5 (S_push (.int (-1)) 6) := k_iconst dX27_init_5 rfl
theorem r_X27_init_6 (E : ax_EN G l) : ax_Snd G l ax_Ym M_X27_init 6 (S_putf [(37, 6)] (.int) 9) := k_putf (en_F E) (en_P E) (ax_fes_cons (fe_187 E) ax_fes_nil) (ax_fps_cons (fp_343 E) ax_fps_nil) q2690 dX27_init_6
theorem r_X27_init_9 (E : ax_EN G l) : ax_Snd G l ax_Ym M_X27_init 9 (S_aload 0 10) := k_aload_n dX27_init_9 rfl
theorem r_X27_init_10 (E : ax_EN G l) : ax_Snd G l ax_Ym M_X27_init 10 (S_aload 1 11) := k_aload_n dX27_init_10 rfl
theorem r_X27_init_11 (E : ax_EN G l) : ax_Snd G l ax_Ym M_X27_init 11 (S_putf [(37, 0)] (.array (.int)) 14) := k_putfF (en_F E) (en_P E) (ax_fes_cons (fe_344 E) ax_fes_nil) (ax_fps_cons (fp_345 E) ax_fps_nil) rfl q2684 dX27_init_11
theorem r_X27_init_14 (E : ax_EN G l) : ax_Snd G l ax_Ym M_X27_init 14 (S_aload 0 15) := k_aload_n dX27_init_14 rfl
theorem r_X27_init_15 (E : ax_EN G l) : ax_Snd G l ax_Ym M_X27_init 15 (S_aload 2 16) := k_aload_n dX27_init_15 rfl
theorem r_X27_init_16 (E : ax_EN G l) : ax_Snd G l ax_Ym M_X27_init 16 (S_putf [(37, 1)] (.array (.int)) 19) := k_putfF (en_F E) (en_P E) (ax_fes_cons (fe_346 E) ax_fes_nil) (ax_fps_cons (fp_347 E) ax_fps_nil) rfl q2685 dX27_init_16
theorem r_X27_init_19 (E : ax_EN G l) : ax_Snd G l ax_Ym M_X27_init 19 (S_aload 0 20) := k_aload_n dX27_init_19 rfl
theorem r_X27_init_20 (E : ax_EN G l) : ax_Snd G l ax_Ym M_X27_init 20 (S_iload 3 21) := k_iload_n dX27_init_20 rfl
theorem r_X27_init_21 (E : ax_EN G l) : ax_Snd G l ax_Ym M_X27_init 21 (S_putf [(37, 2)] (.int) 24) := k_putfF (en_F E) (en_P E) (ax_fes_cons (fe_348 E) ax_fes_nil) (ax_fps_cons (fp_349 E) ax_fps_nil) rfl q2686 dX27_init_21
theorem r_X27_init_24 (E : ax_EN G l) : ax_Snd G l ax_Ym M_X27_init 24 (S_aload 0 25) := k_aload_n dX27_init_24 rfl
theorem r_X27_init_25 (E : ax_EN G l) : ax_Snd G l ax_Ym M_X27_init 25 (S_iload 4 27) := k_iload dX27_init_25
theorem r_X27_init_27 (E : ax_EN G l) : ax_Snd G l ax_Ym M_X27_init 27 (S_putf [(37, 3)] (.int) 30) := k_putfF (en_F E) (en_P E) (ax_fes_cons (fe_350 E) ax_fes_nil) (ax_fps_cons (fp_351 E) ax_fps_nil) rfl q2687 dX27_init_27
theorem r_X27_init_30 (E : ax_EN G l) : ax_Snd G l ax_Ym M_X27_init 30 (S_aload 0 31) := k_aload_n dX27_init_30 rfl
theorem r_X27_init_31 (E : ax_EN G l) : ax_Snd G l ax_Ym M_X27_init 31 (S_iload 5 33) := k_iload dX27_init_31
theorem r_X27_init_33 (E : ax_EN G l) : ax_Snd G l ax_Ym M_X27_init 33 (S_putf [(37, 4)] (.int) 36) := k_putfF (en_F E) (en_P E) (ax_fes_cons (fe_341 E) ax_fes_nil) (ax_fps_cons (fp_352 E) ax_fps_nil) rfl q2688 dX27_init_33
theorem r_X27_init_36 (E : ax_EN G l) : ax_Snd G l ax_Ym M_X27_init 36 (S_aload 0 37) := k_aload_n dX27_init_36 rfl
theorem r_X27_init_37 (E : ax_EN G l) : ax_Snd G l ax_Ym M_X27_init 37 (S_iload 6 39) := k_iload dX27_init_37
theorem r_X27_init_39 (E : ax_EN G l) : ax_Snd G l ax_Ym M_X27_init 39 (S_putf [(37, 5)] (.int) 42) := k_putfF (en_F E) (en_P E) (ax_fes_cons (fe_353 E) ax_fes_nil) (ax_fps_cons (fp_354 E) ax_fps_nil) rfl q2689 dX27_init_39
theorem r_X27_init_42 (E : ax_EN G l) : ax_Snd G l ax_Ym M_X27_init 42 (S_ret) := k_ret dX27_init_42 rfl
theorem mt_X27_init (E : ax_EN G l) : ax_mt G l ax_Ym (7, P_X27_init) (ax_Ym 367) := ⟨M_X27_init, yX27_init, ⟨rfl, by decide +kernel, rfl, (fun _ => rfl), Or.inl ⟨rfl, rfl⟩⟩, fun pc => (ax_sn_node (ax_sn_node (ax_sn_node (ax_sn_node (ax_sn_node (ax_sn_leaf (r_X27_init_42 E)) (ax_sn_leaf (r_X27_init_39 E))) (ax_sn_leaf (r_X27_init_37 E))) (ax_sn_node (ax_sn_node (ax_sn_leaf (r_X27_init_36 E)) (ax_sn_leaf (r_X27_init_33 E))) (ax_sn_leaf (r_X27_init_31 E)))) (ax_sn_node (ax_sn_node (ax_sn_node (ax_sn_leaf (r_X27_init_30 E)) (ax_sn_leaf (r_X27_init_27 E))) (ax_sn_leaf (r_X27_init_25 E))) (ax_sn_node (ax_sn_node (ax_sn_leaf (r_X27_init_24 E)) (ax_sn_leaf (r_X27_init_21 E))) (ax_sn_leaf (r_X27_init_20 E))))) (ax_sn_node (ax_sn_node (ax_sn_node (ax_sn_node (ax_sn_leaf (r_X27_init_19 E)) (ax_sn_leaf (r_X27_init_16 E))) (ax_sn_leaf (r_X27_init_15 E))) (ax_sn_node (ax_sn_node (ax_sn_leaf (r_X27_init_14 E)) (ax_sn_leaf (r_X27_init_11 E))) (ax_sn_leaf (r_X27_init_10 E)))) (ax_sn_node (ax_sn_node (ax_sn_node (ax_sn_leaf (r_X27_init_9 E)) (ax_sn_leaf (r_X27_init_6 E))) (ax_sn_leaf (r_X27_init_5 E))) (ax_sn_node (ax_sn_node (ax_sn_leaf (r_X27_init_4 E)) (ax_sn_leaf (r_X27_init_1 E))) (ax_sn_leaf (r_X27_init_0 E))))))⟩
theorem r_X27_make_0 (E : ax_EN G l) : ax_Snd G l ax_Ym M_X27_make 0 (S_new 29 [.null, .null, .null, .int 0, .null, .null, .null, .null, .null, .int 0] 10 3) := k_new (en_F E) (mk_29 E) q2721 dX27_make_0
theorem r_X27_make_3 (E : ax_EN G l) : ax_Snd G l ax_Ym M_X27_make 3 (S_dup 4) := k_dup dX27_make_3
theorem r_X27_make_4 (E : ax_EN G l) : ax_Snd G l ax_Ym M_X27_make 4 (S_push (.int (0)) 5) := k_iconst dX27_make_4 rfl
theorem r_X27_make_5 (E : ax_EN G l) : ax_Snd G l ax_Ym M_X27_make 5 (S_isp 298 1 8 hd_0) := k_isp (en_F E) (ax_ok0 E rfl) ((ev_i y_X2_init q2722 q230 q122 q231 nm_X2_init rfl (Nat.le_of_ble_eq_true rfl) dX27_make_5) : ax_EvI G l ax_Ym M_X27_make 5 298 1 3)
theorem r_X27_make_8 (E : ax_EN G l) : ax_Snd G l ax_Ym M_X27_make 8 (S_astore 2 9) := k_astore_n dX27_make_8 rfl (Nat.le_of_ble_eq_true rfl)
theorem r_X27_make_9 (E : ax_EN G l) : ax_Snd G l ax_Ym M_X27_make 9 (S_aload 2 10) := k_aload_n dX27_make_9 rfl
theorem r_X27_make_10 (E : ax_EN G l) : ax_Snd G l ax_Ym M_X27_make 10 (S_aload 1 11) := k_aload_n dX27_make_10 rfl
theorem r_X27_make_11 (E : ax_EN G l) : ax_Snd G l ax_Ym M_X27_make 11 (S_iv [(29, 310)] 1 14 hd_0) := k_iv (en_F E) (ax_ok0 E rfl) (ax_Evs_cons ((ev_v (en_c E (k := 29) rfl) rfl y_X2_start q2723 q1968 q1969 q122 q1970 nm_X2_start (Nat.le_of_ble_eq_true rfl) dX27_make_11) : ax_EvV G l ax_Ym M_X27_make 11 1 3 29 310) ax_Evs_nil)
theorem r_X27_make_14 (E : ax_EN G l) : ax_Snd G l ax_Ym M_X27_make 14 (S_pop 15) := k_pop dX27_make_14
theorem r_X27_make_15 (E : ax_EN G l) : ax_Snd G l ax_Ym M_X27_make 15 (S_aload 0 16) := k_aload_n dX27_make_15 rfl
theorem r_X27_make_16 (E : ax_EN G l) : ax_Snd G l ax_Ym M_X27_make 16 (S_getf [(37, 0)] 19) := k_getf (en_F E) (ax_fes_cons (fe_344 E) ax_fes_nil) q2684 dX27_make_16
theorem r_X27_make_19 (E : ax_EN G l) : ax_Snd G l ax_Ym M_X27_make 19 (S_astore 3 20) := k_astore_n dX27_make_19 rfl (Nat.le_of_ble_eq_true rfl)
theorem r_X27_make_20 (E : ax_EN G l) : ax_Snd G l ax_Ym M_X27_make 20 (S_aload 3 21) := k_aload_n dX27_make_20 rfl
theorem r_X27_make_21 (E : ax_EN G l) : ax_Snd G l ax_Ym M_X27_make 21 (S_alen 22) := k_alen (en_F E) dX27_make_21
theorem r_X27_make_22 (E : ax_EN G l) : ax_Snd G l ax_Ym M_X27_make 22 (S_istore 4 24) := k_istore dX27_make_22 (Nat.le_of_ble_eq_true rfl)
theorem r_X27_make_24 (E : ax_EN G l) : ax_Snd G l ax_Ym M_X27_make 24 (S_push (.int (0)) 25) := k_iconst dX27_make_24 rfl
theorem r_X27_make_25 (E : ax_EN G l) : ax_Snd G l ax_Ym M_X27_make 25 (S_istore 5 27) := k_istore dX27_make_25 (Nat.le_of_ble_eq_true rfl)
theorem r_X27_make_27 (E : ax_EN G l) : ax_Snd G l ax_Ym M_X27_make 27 (S_iload 5 29) := k_iload dX27_make_27
theorem r_X27_make_29 (E : ax_EN G l) : ax_Snd G l ax_Ym M_X27_make 29 (S_iload 4 31) := k_iload dX27_make_29
theorem r_X27_make_31 (E : ax_EN G l) : ax_Snd G l ax_Ym M_X27_make 31 (S_if2 (fun x y => decide (y ≤ x)) 52 34) := k_icmp_ge dX27_make_31 rfl
theorem r_X27_make_34 (E : ax_EN G l) : ax_Snd G l ax_Ym M_X27_make 34 (S_aload 3 35) := k_aload_n dX27_make_34 rfl
theorem r_X27_make_35 (E : ax_EN G l) : ax_Snd G l ax_Ym M_X27_make 35 (S_iload 5 37) := k_iload dX27_make_35
theorem r_X27_make_37 (E : ax_EN G l) : ax_Snd G l ax_Ym M_X27_make 37 (S_iald 0 38) := k_iald (en_F E) dX27_make_37
theorem r_X27_make_38 (E : ax_EN G l) : ax_Snd G l ax_Ym M_X27_make 38 (S_istore 6 40) := k_istore dX27_make_38 (Nat.le_of_ble_eq_true rfl)
theorem r_X27_make_40 (E : ax_EN G l) : ax_Snd G l ax_Ym M_X27_make 40 (S_aload 2 41) := k_aload_n dX27_make_40 rfl
theorem r_X27_make_41 (E : ax_EN G l) : ax_Snd G l ax_Ym M_X27_make 41 (S_iload 6 43) := k_iload dX27_make_41
theorem r_X27_make_43 (E : ax_EN G l) : ax_Snd G l ax_Ym M_X27_make 43 (S_iv [(29, 349)] 1 46 hd_0) := k_iv (en_F E) (ax_ok0 E rfl) (ax_Evs_cons ((ev_v (en_c E (k := 29) rfl) rfl y_X2_press q2724 q2331 q2332 q122 q2333 nm_X2_press (Nat.le_of_ble_eq_true rfl) dX27_make_43) : ax_EvV G l ax_Ym M_X27_make 43 1 3 29 349) ax_Evs_nil)
theorem r_X27_make_46 (E : ax_EN G l) : ax_Snd G l ax_Ym M_X27_make 46 (S_iinc 5 (1) 49) := k_iinc dX27_make_46 rfl (Nat.le_of_ble_eq_true rfl)
theorem r_X27_make_49 (E : ax_EN G l) : ax_Snd G l ax_Ym M_X27_make 49 (S_goto 27) := k_goto dX27_make_49 rfl
theorem r_X27_make_52 (E : ax_EN G l) : ax_Snd G l ax_Ym M_X27_make 52 (S_push (.int (0)) 53) := k_iconst dX27_make_52 rfl
theorem r_X27_make_53 (E : ax_EN G l) : ax_Snd G l ax_Ym M_X27_make 53 (S_istore 3 54) := k_istore_n dX27_make_53 rfl (Nat.le_of_ble_eq_true rfl)
theorem r_X27_make_54 (E : ax_EN G l) : ax_Snd G l ax_Ym M_X27_make 54 (S_aload 2 55) := k_aload_n dX27_make_54 rfl
theorem r_X27_make_55 (E : ax_EN G l) : ax_Snd G l ax_Ym M_X27_make 55 (S_iv [(29, 315)] 0 58 hd_0) := k_iv (en_F E) (ax_ok0 E rfl) (ax_Evs_cons ((ev_v (en_c E (k := 29) rfl) rfl y_X2_goesOn q2725 q2021 q2022 q122 q2023 nm_X2_goesOn (Nat.le_of_ble_eq_true rfl) dX27_make_55) : ax_EvV G l ax_Ym M_X27_make 55 0 3 29 315) ax_Evs_nil)
theorem r_X27_make_58 (E : ax_EN G l) : ax_Snd G l ax_Ym M_X27_make 58 (S_if1 (fun x => decide (x = 0)) 108 61) := k_if_eq dX27_make_58 rfl
theorem r_X27_make_61 (E : ax_EN G l) : ax_Snd G l ax_Ym M_X27_make 61 (S_iload 3 62) := k_iload_n dX27_make_61 rfl
theorem r_X27_make_62 (E : ax_EN G l) : ax_Snd G l ax_Ym M_X27_make 62 (S_aload 0 63) := k_aload_n dX27_make_62 rfl
theorem r_X27_make_63 (E : ax_EN G l) : ax_Snd G l ax_Ym M_X27_make 63 (S_getf [(37, 2)] 66) := k_getf (en_F E) (ax_fes_cons (fe_348 E) ax_fes_nil) q2686 dX27_make_63
theorem r_X27_make_66 (E : ax_EN G l) : ax_Snd G l ax_Ym M_X27_make 66 (S_if2 (fun x y => decide (y ≤ x)) 108 69) := k_icmp_ge dX27_make_66 rfl
theorem r_X27_make_69 (E : ax_EN G l) : ax_Snd G l ax_Ym M_X27_make 69 (S_aload 2 70) := k_aload_n dX27_make_69 rfl
theorem r_X27_make_70 (E : ax_EN G l) : ax_Snd G l ax_Ym M_X27_make 70 (S_iv [(29, 316)] 0 73 hd_0) := k_iv (en_F E) (ax_ok0 E rfl) (ax_Evs_cons ((ev_vW (en_c E (k := 29) rfl) rfl y_X2_make q2726 q2025 q2026 q122 q2027 nm_X2_make (Nat.le_of_ble_eq_true rfl) dX27_make_70) : ax_EvV G l ax_Ym M_X27_make 70 0 3 29 316) ax_Evs_nil)
theorem r_X27_make_73 (E : ax_EN G l) : ax_Snd G l ax_Ym M_X27_make 73 (S_iinc 3 (1) 76) := k_iinc dX27_make_73 rfl (Nat.le_of_ble_eq_true rfl)
theorem r_X27_make_76 (E : ax_EN G l) : ax_Snd G l ax_Ym M_X27_make 76 (S_iload 3 77) := k_iload_n dX27_make_76 rfl
theorem r_X27_make_77 (E : ax_EN G l) : ax_Snd G l ax_Ym M_X27_make 77 (S_aload 0 78) := k_aload_n dX27_make_77 rfl
theorem r_X27_make_78 (E : ax_EN G l) : ax_Snd G l ax_Ym M_X27_make 78 (S_getf [(37, 5)] 81) := k_getf (en_F E) (ax_fes_cons (fe_353 E) ax_fes_nil) q2689 dX27_make_78
theorem r_X27_make_81 (E : ax_EN G l) : ax_Snd G l ax_Ym M_X27_make 81 (S_if2 (fun x y => decide (¬ x = y)) 54 84) := k_icmp_ne dX27_make_81 rfl
theorem r_X27_make_84 (E : ax_EN G l) : ax_Snd G l ax_Ym M_X27_make 84 (S_aload 2 85) := k_aload_n dX27_make_84 rfl
theorem r_X27_make_85 (E : ax_EN G l) : ax_Snd G l ax_Ym M_X27_make 85 (S_getf [(29, 0)] 88) := k_getfN (en_F E) (en_B E) (ax_fes_cons (fe_158 E) ax_fes_nil) q284 dX27_make_85
theorem r_X27_make_88 (E : ax_EN G l) : ax_Snd G l ax_Ym M_X27_make 88 (S_push (.int (0)) 89) := k_iconst dX27_make_88 rfl
theorem r_X27_make_89 (E : ax_EN G l) : ax_Snd G l ax_Ym M_X27_make 89 (S_iald 0 90) := k_iald (en_F E) dX27_make_89
theorem r_X27_make_90 (E : ax_EN G l) : ax_Snd G l ax_Ym M_X27_make 90 (S_push (.int (1)) 91) := k_iconst dX27_make_90 rfl
theorem r_X27_make_91 (E : ax_EN G l) : ax_Snd G l ax_Ym M_X27_make 91 (S_if2 (fun x y => decide (¬ x = y)) 54 94) := k_icmp_ne dX27_make_91 rfl
theorem r_X27_make_94 (E : ax_EN G l) : ax_Snd G l ax_Ym M_X27_make 94 (S_aload 2 95) := k_aload_n dX27_make_94 rfl
theorem r_X27_make_95 (E : ax_EN G l) : ax_Snd G l ax_Ym M_X27_make 95 (S_iv [(29, 314)] 0 98 hd_0) := k_iv (en_F E) (ax_ok0 E rfl) (ax_Evs_cons ((ev_v (en_c E (k := 29) rfl) rfl y_X2_crash q2727 q1993 q1994 q122 q1995 nm_X2_crash (Nat.le_of_ble_eq_true rfl) dX27_make_95) : ax_EvV G l ax_Ym M_X27_make 95 0 3 29 314) ax_Evs_nil)
theorem r_X27_make_98 (E : ax_EN G l) : ax_Snd G l ax_Ym M_X27_make 98 (S_pop 99) := k_pop dX27_make_98
theorem r_X27_make_99 (E : ax_EN G l) : ax_Snd G l ax_Ym M_X27_make 99 (S_aload 2 100) := k_aload_n dX27_make_99 rfl
theorem r_X27_make_100 (E : ax_EN G l) : ax_Snd G l ax_Ym M_X27_make 100 (S_aload 1 101) := k_aload_n dX27_make_100 rfl
theorem r_X27_make_101 (E : ax_EN G l) : ax_Snd G l ax_Ym M_X27_make 101 (S_iv [(29, 310)] 1 104 hd_0) := k_iv (en_F E) (ax_ok0 E rfl) (ax_Evs_cons ((ev_v (en_c E (k := 29) rfl) rfl y_X2_start q2723 q1968 q1969 q122 q1970 nm_X2_start (Nat.le_of_ble_eq_true rfl) dX27_make_101) : ax_EvV G l ax_Ym M_X27_make 101 1 3 29 310) ax_Evs_nil)
theorem r_X27_make_104 (E : ax_EN G l) : ax_Snd G l ax_Ym M_X27_make 104 (S_pop 105) := k_pop dX27_make_104
theorem r_X27_make_105 (E : ax_EN G l) : ax_Snd G l ax_Ym M_X27_make 105 (S_goto 54) := k_goto dX27_make_105 rfl
theorem r_X27_make_108 (E : ax_EN G l) : ax_Snd G l ax_Ym M_X27_make 108 (S_aload 0 109) := k_aload_n dX27_make_108 rfl
theorem r_X27_make_109 (E : ax_EN G l) : ax_Snd G l ax_Ym M_X27_make 109 (S_dup 110) := k_dup dX27_make_109
theorem r_X27_make_110 (E : ax_EN G l) : ax_Snd G l ax_Ym M_X27_make 110 (S_getf [(37, 7)] 113) := k_getf (en_F E) (ax_fes_cons (fe_342 E) ax_fes_nil) q2692 dX27_make_110
theorem r_X27_make_113 (E : ax_EN G l) : ax_Snd G l ax_Ym M_X27_make 113 (S_aload 0 114) := k_aload_n dX27_make_113 rfl
theorem r_X27_make_114 (E : ax_EN G l) : ax_Snd G l ax_Ym M_X27_make 114 (S_getf [(37, 6)] 117) := k_getf (en_F E) (ax_fes_cons (fe_187 E) ax_fes_nil) q2690 dX27_make_114
theorem r_X27_make_117 (E : ax_EN G l) : ax_Snd G l ax_Ym M_X27_make 117 (S_if1 (fun x => decide (¬ x = 0)) 124 120) := k_if_ne dX27_make_117 rfl
theorem r_X27_make_120 (E : ax_EN G l) : ax_Snd G l ax_Ym M_X27_make 120 (S_push (.int (1)) 121) := k_iconst dX27_make_120 rfl
theorem r_X27_make_121 (E : ax_EN G l) : ax_Snd G l ax_Ym M_X27_make 121 (S_goto 125) := k_goto dX27_make_121 rfl
theorem r_X27_make_124 (E : ax_EN G l) : ax_Snd G l ax_Ym M_X27_make 124 (S_push (.int (0)) 125) := k_iconst dX27_make_124 rfl
theorem r_X27_make_125 (E : ax_EN G l) : ax_Snd G l ax_Ym M_X27_make 125 (S_i2 (fun x y => x ||| y) 126) := k_ior dX27_make_125
theorem r_X27_make_126 (E : ax_EN G l) : ax_Snd G l ax_Ym M_X27_make 126 (S_putf [(37, 7)] (.boolean) 129) := k_putf (en_F E) (en_P E) (ax_fes_cons (fe_342 E) ax_fes_nil) (ax_fps_cons (fp_355 E) ax_fps_nil) q2692 dX27_make_126
theorem r_X27_make_129 (E : ax_EN G l) : ax_Snd G l ax_Ym M_X27_make 129 (S_aload 0 130) := k_aload_n dX27_make_129 rfl
theorem r_X27_make_130 (E : ax_EN G l) : ax_Snd G l ax_Ym M_X27_make 130 (S_aload 0 131) := k_aload_n dX27_make_130 rfl
theorem r_X27_make_131 (E : ax_EN G l) : ax_Snd G l ax_Ym M_X27_make 131 (S_aload 2 132) := k_aload_n dX27_make_131 rfl
theorem r_X27_make_132 (E : ax_EN G l) : ax_Snd G l ax_Ym M_X27_make 132 (S_iv [(37, 369)] 1 135 hd_0) := k_iv (en_F E) (ax_ok0 E rfl) (ax_Evs_cons ((ev_v (en_c E (k := 37) rfl) rfl y_X27_resultOf q2728 q2730 qs58 q178 q2731 nm_X27_resultOf (Nat.le_of_ble_eq_true rfl) dX27_make_132) : ax_EvV G l ax_Ym M_X27_make 132 1 3 37 369) ax_Evs_nil)
theorem r_X27_make_135 (E : ax_EN G l) : ax_Snd G l ax_Ym M_X27_make 135 (S_putf [(37, 6)] (.int) 138) := k_putf (en_F E) (en_P E) (ax_fes_cons (fe_187 E) ax_fes_nil) (ax_fps_cons (fp_343 E) ax_fps_nil) q2690 dX27_make_135
theorem r_X27_make_138 (E : ax_EN G l) : ax_Snd G l ax_Ym M_X27_make 138 (S_ret) := k_ret dX27_make_138 rfl
theorem mt_X27_make (E : ax_EN G l) : ax_mt G l ax_Ym (7, P_X27_make) (ax_Ym 368) := ⟨M_X27_make, yX27_make, ⟨rfl, by decide +kernel, rfl, (fun h => by cases h), Or.inl ⟨rfl, rfl⟩⟩, fun pc => (ax_sn_node (ax_sn_node (ax_sn_node (ax_sn_node (ax_sn_node (ax_sn_node (ax_sn_node (ax_sn_leaf (r_X27_make_138 E)) (ax_sn_leaf (r_X27_make_135 E))) (ax_sn_leaf (r_X27_make_132 E))) (ax_sn_node (ax_sn_leaf (r_X27_make_131 E)) (ax_sn_leaf (r_X27_make_130 E)))) (ax_sn_node (ax_sn_node (ax_sn_node (ax_sn_leaf (r_X27_make_129 E)) (ax_sn_leaf (r_X27_make_126 E))) (ax_sn_leaf (r_X27_make_125 E))) (ax_sn_node (ax_sn_leaf (r_X27_make_124 E)) (ax_sn_leaf (r_X27_make_121 E))))) (ax_sn_node (ax_sn_node (ax_sn_node (ax_sn_node (ax_sn_leaf (r_X27_make_120 E)) (ax_sn_leaf (r_X27_make_117 E))) (ax_sn_leaf (r_X27_make_114 E))) (ax_sn_node (ax_sn_leaf (r_X27_make_113 E)) (ax_sn_leaf (r_X27_make_110 E)))) (ax_sn_node (ax_sn_node (ax_sn_leaf (r_X27_make_109 E)) (ax_sn_leaf (r_X27_make_108 E))) (ax_sn_node (ax_sn_leaf (r_X27_make_105 E)) (ax_sn_leaf (r_X27_make_104 E)))))) (ax_sn_node (ax_sn_node (ax_sn_node (ax_sn_node (ax_sn_node (ax_sn_leaf (r_X27_make_101 E)) (ax_sn_leaf (r_X27_make_100 E))) (ax_sn_leaf (r_X27_make_99 E))) (ax_sn_node (ax_sn_leaf (r_X27_make_98 E)) (ax_sn_leaf (r_X27_make_95 E)))) (ax_sn_node (ax_sn_node (ax_sn_node (ax_sn_leaf (r_X27_make_94 E)) (ax_sn_leaf (r_X27_make_91 E))) (ax_sn_leaf (r_X27_make_90 E))) (ax_sn_node (ax_sn_leaf (r_X27_make_89 E)) (ax_sn_leaf (r_X27_make_88 E))))) (ax_sn_node (ax_sn_node (ax_sn_node (ax_sn_node (ax_sn_leaf (r_X27_make_85 E)) (ax_sn_leaf (r_X27_make_84 E))) (ax_sn_leaf (r_X27_make_81 E))) (ax_sn_node (ax_sn_leaf (r_X27_make_78 E)) (ax_sn_leaf (r_X27_make_77 E)))) (ax_sn_node (ax_sn_node (ax_sn_leaf (r_X27_make_76 E)) (ax_sn_leaf (r_X27_make_73 E))) (ax_sn_node (ax_sn_leaf (r_X27_make_70 E)) (ax_sn_leaf (r_X27_make_69 E))))))) (ax_sn_node (ax_sn_node (ax_sn_node (ax_sn_node (ax_sn_node (ax_sn_node (ax_sn_leaf (r_X27_make_66 E)) (ax_sn_leaf (r_X27_make_63 E))) (ax_sn_leaf (r_X27_make_62 E))) (ax_sn_node (ax_sn_leaf (r_X27_make_61 E)) (ax_sn_leaf (r_X27_make_58 E)))) (ax_sn_node (ax_sn_node (ax_sn_node (ax_sn_leaf (r_X27_make_55 E)) (ax_sn_leaf (r_X27_make_54 E))) (ax_sn_leaf (r_X27_make_53 E))) (ax_sn_node (ax_sn_leaf (r_X27_make_52 E)) (ax_sn_leaf (r_X27_make_49 E))))) (ax_sn_node (ax_sn_node (ax_sn_node (ax_sn_node (ax_sn_leaf (r_X27_make_46 E)) (ax_sn_leaf (r_X27_make_43 E))) (ax_sn_leaf (r_X27_make_41 E))) (ax_sn_node (ax_sn_leaf (r_X27_make_40 E)) (ax_sn_leaf (r_X27_make_38 E)))) (ax_sn_node (ax_sn_node (ax_sn_leaf (r_X27_make_37 E)) (ax_sn_leaf (r_X27_make_35 E))) (ax_sn_node (ax_sn_leaf (r_X27_make_34 E)) (ax_sn_leaf (r_X27_make_31 E)))))) (ax_sn_node (ax_sn_node (ax_sn_node (ax_sn_node (ax_sn_node (ax_sn_leaf (r_X27_make_29 E)) (ax_sn_leaf (r_X27_make_27 E))) (ax_sn_leaf (r_X27_make_25 E))) (ax_sn_node (ax_sn_leaf (r_X27_make_24 E)) (ax_sn_leaf (r_X27_make_22 E)))) (ax_sn_node (ax_sn_node (ax_sn_node (ax_sn_leaf (r_X27_make_21 E)) (ax_sn_leaf (r_X27_make_20 E))) (ax_sn_leaf (r_X27_make_19 E))) (ax_sn_node (ax_sn_leaf (r_X27_make_16 E)) (ax_sn_leaf (r_X27_make_15 E))))) (ax_sn_node (ax_sn_node (ax_sn_node (ax_sn_node (ax_sn_leaf (r_X27_make_14 E)) (ax_sn_leaf (r_X27_make_11 E))) (ax_sn_leaf (r_X27_make_10 E))) (ax_sn_node (ax_sn_leaf (r_X27_make_9 E)) (ax_sn_leaf (r_X27_make_8 E)))) (ax_sn_node (ax_sn_node (ax_sn_leaf (r_X27_make_5 E)) (ax_sn_leaf (r_X27_make_4 E))) (ax_sn_node (ax_sn_leaf (r_X27_make_3 E)) (ax_sn_leaf (r_X27_make_0 E))))))))⟩
theorem r_X27_resultOf_0 (E : ax_EN G l) : ax_Snd G l ax_Ym M_X27_resultOf 0 (S_aload 1 1) := k_aload_n dX27_resultOf_0 rfl
theorem r_X27_resultOf_1 (E : ax_EN G l) : ax_Snd G l ax_Ym M_X27_resultOf 1 (S_getf [(29, 0)] 4) := k_getfN (en_F E) (en_B E) (ax_fes_cons (fe_158 E) ax_fes_nil) q284 dX27_resultOf_1
theorem r_X27_resultOf_4 (E : ax_EN G l) : ax_Snd G l ax_Ym M_X27_resultOf 4 (S_push (.int (0)) 5) := k_iconst dX27_resultOf_4 rfl
theorem r_X27_resultOf_5 (E : ax_EN G l) : ax_Snd G l ax_Ym M_X27_resultOf 5 (S_iald 0 6) := k_iald (en_F E) dX27_resultOf_5
theorem r_X27_resultOf_6 (E : ax_EN G l) : ax_Snd G l ax_Ym M_X27_resultOf 6 (S_push (.int (2)) 7) := k_iconst dX27_resultOf_6 rfl
theorem r_X27_resultOf_7 (E : ax_EN G l) : ax_Snd G l ax_Ym M_X27_resultOf 7 (S_if2 (fun x y => decide (x = y)) 26 10) := k_icmp_eq dX27_resultOf_7 rfl
theorem r_X27_resultOf_10 (E : ax_EN G l) : ax_Snd G l ax_Ym M_X27_resultOf 10 (S_aload 1 11) := k_aload_n dX27_resultOf_10 rfl
theorem r_X27_resultOf_11 (E : ax_EN G l) : ax_Snd G l ax_Ym M_X27_resultOf 11 (S_getf [(29, 0)] 14) := k_getfN (en_F E) (en_B E) (ax_fes_cons (fe_158 E) ax_fes_nil) q284 dX27_resultOf_11
theorem r_X27_resultOf_14 (E : ax_EN G l) : ax_Snd G l ax_Ym M_X27_resultOf 14 (S_push (.int (0)) 15) := k_iconst dX27_resultOf_14 rfl
theorem r_X27_resultOf_15 (E : ax_EN G l) : ax_Snd G l ax_Ym M_X27_resultOf 15 (S_iald 0 16) := k_iald (en_F E) dX27_resultOf_15
theorem r_X27_resultOf_16 (E : ax_EN G l) : ax_Snd G l ax_Ym M_X27_resultOf 16 (S_push (.int (3)) 17) := k_iconst dX27_resultOf_16 rfl
theorem r_X27_resultOf_17 (E : ax_EN G l) : ax_Snd G l ax_Ym M_X27_resultOf 17 (S_if2 (fun x y => decide (¬ x = y)) 24 20) := k_icmp_ne dX27_resultOf_17 rfl
theorem r_X27_resultOf_20 (E : ax_EN G l) : ax_Snd G l ax_Ym M_X27_resultOf 20 (S_push (.int (1)) 21) := k_iconst dX27_resultOf_20 rfl
theorem r_X27_resultOf_21 (E : ax_EN G l) : ax_Snd G l ax_Ym M_X27_resultOf 21 (S_goto 25) := k_goto dX27_resultOf_21 rfl
theorem r_X27_resultOf_24 (E : ax_EN G l) : ax_Snd G l ax_Ym M_X27_resultOf 24 (S_push (.int (2)) 25) := k_iconst dX27_resultOf_24 rfl
theorem r_X27_resultOf_25 (E : ax_EN G l) : ax_Snd G l ax_Ym M_X27_resultOf 25 (S_iret) := k_iret dX27_resultOf_25 rfl
theorem r_X27_resultOf_26 (E : ax_EN G l) : ax_Snd G l ax_Ym M_X27_resultOf 26 (S_aload 1 27) := k_aload_n dX27_resultOf_26 rfl
theorem r_X27_resultOf_27 (E : ax_EN G l) : ax_Snd G l ax_Ym M_X27_resultOf 27 (S_getf [(29, 0)] 30) := k_getfN (en_F E) (en_B E) (ax_fes_cons (fe_158 E) ax_fes_nil) q284 dX27_resultOf_27
theorem r_X27_resultOf_30 (E : ax_EN G l) : ax_Snd G l ax_Ym M_X27_resultOf 30 (S_push (.int (17)) 32) := k_bipush dX27_resultOf_30 rfl
theorem r_X27_resultOf_32 (E : ax_EN G l) : ax_Snd G l ax_Ym M_X27_resultOf 32 (S_iald 0 33) := k_iald (en_F E) dX27_resultOf_32
theorem r_X27_resultOf_33 (E : ax_EN G l) : ax_Snd G l ax_Ym M_X27_resultOf 33 (S_aload 0 34) := k_aload_n dX27_resultOf_33 rfl
theorem r_X27_resultOf_34 (E : ax_EN G l) : ax_Snd G l ax_Ym M_X27_resultOf 34 (S_getf [(37, 1)] 37) := k_getf (en_F E) (ax_fes_cons (fe_346 E) ax_fes_nil) q2685 dX27_resultOf_34
theorem r_X27_resultOf_37 (E : ax_EN G l) : ax_Snd G l ax_Ym M_X27_resultOf 37 (S_alen 38) := k_alen (en_F E) dX27_resultOf_37
theorem r_X27_resultOf_38 (E : ax_EN G l) : ax_Snd G l ax_Ym M_X27_resultOf 38 (S_if2 (fun x y => decide (¬ x = y)) 45 41) := k_icmp_ne dX27_resultOf_38 rfl
theorem r_X27_resultOf_41 (E : ax_EN G l) : ax_Snd G l ax_Ym M_X27_resultOf 41 (S_push (.int (1)) 42) := k_iconst dX27_resultOf_41 rfl
theorem r_X27_resultOf_42 (E : ax_EN G l) : ax_Snd G l ax_Ym M_X27_resultOf 42 (S_goto 46) := k_goto dX27_resultOf_42 rfl
theorem r_X27_resultOf_45 (E : ax_EN G l) : ax_Snd G l ax_Ym M_X27_resultOf 45 (S_push (.int (0)) 46) := k_iconst dX27_resultOf_45 rfl
theorem r_X27_resultOf_46 (E : ax_EN G l) : ax_Snd G l ax_Ym M_X27_resultOf 46 (S_istore 2 47) := k_istore_n dX27_resultOf_46 rfl (Nat.le_of_ble_eq_true rfl)
theorem r_X27_resultOf_47 (E : ax_EN G l) : ax_Snd G l ax_Ym M_X27_resultOf 47 (S_push (.int (0)) 48) := k_iconst dX27_resultOf_47 rfl
theorem r_X27_resultOf_48 (E : ax_EN G l) : ax_Snd G l ax_Ym M_X27_resultOf 48 (S_istore 3 49) := k_istore_n dX27_resultOf_48 rfl (Nat.le_of_ble_eq_true rfl)
theorem r_X27_resultOf_49 (E : ax_EN G l) : ax_Snd G l ax_Ym M_X27_resultOf 49 (S_iload 2 50) := k_iload_n dX27_resultOf_49 rfl
theorem r_X27_resultOf_50 (E : ax_EN G l) : ax_Snd G l ax_Ym M_X27_resultOf 50 (S_if1 (fun x => decide (x = 0)) 92 53) := k_if_eq dX27_resultOf_50 rfl
theorem r_X27_resultOf_53 (E : ax_EN G l) : ax_Snd G l ax_Ym M_X27_resultOf 53 (S_iload 3 54) := k_iload_n dX27_resultOf_53 rfl
theorem r_X27_resultOf_54 (E : ax_EN G l) : ax_Snd G l ax_Ym M_X27_resultOf 54 (S_aload 0 55) := k_aload_n dX27_resultOf_54 rfl
theorem r_X27_resultOf_55 (E : ax_EN G l) : ax_Snd G l ax_Ym M_X27_resultOf 55 (S_getf [(37, 1)] 58) := k_getf (en_F E) (ax_fes_cons (fe_346 E) ax_fes_nil) q2685 dX27_resultOf_55
theorem r_X27_resultOf_58 (E : ax_EN G l) : ax_Snd G l ax_Ym M_X27_resultOf 58 (S_alen 59) := k_alen (en_F E) dX27_resultOf_58
theorem r_X27_resultOf_59 (E : ax_EN G l) : ax_Snd G l ax_Ym M_X27_resultOf 59 (S_if2 (fun x y => decide (y ≤ x)) 92 62) := k_icmp_ge dX27_resultOf_59 rfl
theorem r_X27_resultOf_62 (E : ax_EN G l) : ax_Snd G l ax_Ym M_X27_resultOf 62 (S_aload 1 63) := k_aload_n dX27_resultOf_62 rfl
theorem r_X27_resultOf_63 (E : ax_EN G l) : ax_Snd G l ax_Ym M_X27_resultOf 63 (S_getf [(29, 0)] 66) := k_getfN (en_F E) (en_B E) (ax_fes_cons (fe_158 E) ax_fes_nil) q284 dX27_resultOf_63
theorem r_X27_resultOf_66 (E : ax_EN G l) : ax_Snd G l ax_Ym M_X27_resultOf 66 (S_push (.int (48)) 68) := k_bipush dX27_resultOf_66 rfl
theorem r_X27_resultOf_68 (E : ax_EN G l) : ax_Snd G l ax_Ym M_X27_resultOf 68 (S_iload 3 69) := k_iload_n dX27_resultOf_68 rfl
theorem r_X27_resultOf_69 (E : ax_EN G l) : ax_Snd G l ax_Ym M_X27_resultOf 69 (S_i2 (fun x y => x + y) 70) := k_iadd dX27_resultOf_69
theorem r_X27_resultOf_70 (E : ax_EN G l) : ax_Snd G l ax_Ym M_X27_resultOf 70 (S_iald 0 71) := k_iald (en_F E) dX27_resultOf_70
theorem r_X27_resultOf_71 (E : ax_EN G l) : ax_Snd G l ax_Ym M_X27_resultOf 71 (S_aload 0 72) := k_aload_n dX27_resultOf_71 rfl
theorem r_X27_resultOf_72 (E : ax_EN G l) : ax_Snd G l ax_Ym M_X27_resultOf 72 (S_getf [(37, 1)] 75) := k_getf (en_F E) (ax_fes_cons (fe_346 E) ax_fes_nil) q2685 dX27_resultOf_72
theorem r_X27_resultOf_75 (E : ax_EN G l) : ax_Snd G l ax_Ym M_X27_resultOf 75 (S_iload 3 76) := k_iload_n dX27_resultOf_75 rfl
theorem r_X27_resultOf_76 (E : ax_EN G l) : ax_Snd G l ax_Ym M_X27_resultOf 76 (S_iald 0 77) := k_iald (en_F E) dX27_resultOf_76
theorem r_X27_resultOf_77 (E : ax_EN G l) : ax_Snd G l ax_Ym M_X27_resultOf 77 (S_if2 (fun x y => decide (¬ x = y)) 84 80) := k_icmp_ne dX27_resultOf_77 rfl
theorem r_X27_resultOf_80 (E : ax_EN G l) : ax_Snd G l ax_Ym M_X27_resultOf 80 (S_push (.int (1)) 81) := k_iconst dX27_resultOf_80 rfl
theorem r_X27_resultOf_81 (E : ax_EN G l) : ax_Snd G l ax_Ym M_X27_resultOf 81 (S_goto 85) := k_goto dX27_resultOf_81 rfl
theorem r_X27_resultOf_84 (E : ax_EN G l) : ax_Snd G l ax_Ym M_X27_resultOf 84 (S_push (.int (0)) 85) := k_iconst dX27_resultOf_84 rfl
theorem r_X27_resultOf_85 (E : ax_EN G l) : ax_Snd G l ax_Ym M_X27_resultOf 85 (S_istore 2 86) := k_istore_n dX27_resultOf_85 rfl (Nat.le_of_ble_eq_true rfl)
theorem r_X27_resultOf_86 (E : ax_EN G l) : ax_Snd G l ax_Ym M_X27_resultOf 86 (S_iinc 3 (1) 89) := k_iinc dX27_resultOf_86 rfl (Nat.le_of_ble_eq_true rfl)
theorem r_X27_resultOf_89 (E : ax_EN G l) : ax_Snd G l ax_Ym M_X27_resultOf 89 (S_goto 49) := k_goto dX27_resultOf_89 rfl
theorem r_X27_resultOf_92 (E : ax_EN G l) : ax_Snd G l ax_Ym M_X27_resultOf 92 (S_aload 1 93) := k_aload_n dX27_resultOf_92 rfl
theorem r_X27_resultOf_93 (E : ax_EN G l) : ax_Snd G l ax_Ym M_X27_resultOf 93 (S_getf [(29, 0)] 96) := k_getfN (en_F E) (en_B E) (ax_fes_cons (fe_158 E) ax_fes_nil) q284 dX27_resultOf_93
theorem r_X27_resultOf_96 (E : ax_EN G l) : ax_Snd G l ax_Ym M_X27_resultOf 96 (S_push (.int (364)) 99) := k_sipush dX27_resultOf_96 rfl
theorem r_X27_resultOf_99 (E : ax_EN G l) : ax_Snd G l ax_Ym M_X27_resultOf 99 (S_iald 0 100) := k_iald (en_F E) dX27_resultOf_99
theorem r_X27_resultOf_100 (E : ax_EN G l) : ax_Snd G l ax_Ym M_X27_resultOf 100 (S_aload 0 101) := k_aload_n dX27_resultOf_100 rfl
theorem r_X27_resultOf_101 (E : ax_EN G l) : ax_Snd G l ax_Ym M_X27_resultOf 101 (S_getf [(37, 3)] 104) := k_getf (en_F E) (ax_fes_cons (fe_350 E) ax_fes_nil) q2687 dX27_resultOf_101
theorem r_X27_resultOf_104 (E : ax_EN G l) : ax_Snd G l ax_Ym M_X27_resultOf 104 (S_if2 (fun x y => decide (x ≤ y)) 111 107) := k_icmp_le dX27_resultOf_104 rfl
theorem r_X27_resultOf_107 (E : ax_EN G l) : ax_Snd G l ax_Ym M_X27_resultOf 107 (S_push (.int (3)) 108) := k_iconst dX27_resultOf_107 rfl
theorem r_X27_resultOf_108 (E : ax_EN G l) : ax_Snd G l ax_Ym M_X27_resultOf 108 (S_goto 131) := k_goto dX27_resultOf_108 rfl
theorem r_X27_resultOf_111 (E : ax_EN G l) : ax_Snd G l ax_Ym M_X27_resultOf 111 (S_iload 2 112) := k_iload_n dX27_resultOf_111 rfl
theorem r_X27_resultOf_112 (E : ax_EN G l) : ax_Snd G l ax_Ym M_X27_resultOf 112 (S_if1 (fun x => decide (¬ x = 0)) 119 115) := k_if_ne dX27_resultOf_112 rfl
theorem r_X27_resultOf_115 (E : ax_EN G l) : ax_Snd G l ax_Ym M_X27_resultOf 115 (S_push (.int (4)) 116) := k_iconst dX27_resultOf_115 rfl
theorem r_X27_resultOf_116 (E : ax_EN G l) : ax_Snd G l ax_Ym M_X27_resultOf 116 (S_goto 131) := k_goto dX27_resultOf_116 rfl
theorem r_X27_resultOf_119 (E : ax_EN G l) : ax_Snd G l ax_Ym M_X27_resultOf 119 (S_aload 1 120) := k_aload_n dX27_resultOf_119 rfl
theorem r_X27_resultOf_120 (E : ax_EN G l) : ax_Snd G l ax_Ym M_X27_resultOf 120 (S_iv [(29, 307)] 0 123 hd_0) := k_iv (en_F E) (ax_ok0 E rfl) (ax_Evs_cons ((ev_v (en_c E (k := 29) rfl) rfl y_X2_isWhole q2732 q1286 q1287 q122 q1288 nm_X2_isWhole (Nat.le_of_ble_eq_true rfl) dX27_resultOf_120) : ax_EvV G l ax_Ym M_X27_resultOf 120 0 3 29 307) ax_Evs_nil)
theorem r_X27_resultOf_123 (E : ax_EN G l) : ax_Snd G l ax_Ym M_X27_resultOf 123 (S_if1 (fun x => decide (x = 0)) 130 126) := k_if_eq dX27_resultOf_123 rfl
theorem r_X27_resultOf_126 (E : ax_EN G l) : ax_Snd G l ax_Ym M_X27_resultOf 126 (S_push (.int (0)) 127) := k_iconst dX27_resultOf_126 rfl
theorem r_X27_resultOf_127 (E : ax_EN G l) : ax_Snd G l ax_Ym M_X27_resultOf 127 (S_goto 131) := k_goto dX27_resultOf_127 rfl
theorem r_X27_resultOf_130 (E : ax_EN G l) : ax_Snd G l ax_Ym M_X27_resultOf 130 (S_push (.int (5)) 131) := k_iconst dX27_resultOf_130 rfl
theorem r_X27_resultOf_131 (E : ax_EN G l) : ax_Snd G l ax_Ym M_X27_resultOf 131 (S_iret) := k_iret dX27_resultOf_131 rfl
theorem mt_X27_resultOf (E : ax_EN G l) : ax_mt G l ax_Ym (4, P_X27_resultOf) (ax_Ym 369) := ⟨M_X27_resultOf, yX27_resultOf, ⟨rfl, by decide +kernel, rfl, (fun h => by cases h), Or.inl ⟨rfl, rfl⟩⟩, fun pc => (ax_sn_node (ax_sn_node (ax_sn_node (ax_sn_node (ax_sn_node (ax_sn_node (ax_sn_node (ax_sn_leaf (r_X27_resultOf_131 E)) (ax_sn_leaf (r_X27_resultOf_130 E))) (ax_sn_leaf (r_X27_resultOf_127 E))) (ax_sn_node (ax_sn_leaf (r_X27_resultOf_126 E)) (ax_sn_leaf (r_X27_resultOf_123 E)))) (ax_sn_node (ax_sn_node (ax_sn_node (ax_sn_leaf (r_X27_resultOf_120 E)) (ax_sn_leaf (r_X27_resultOf_119 E))) (ax_sn_leaf (r_X27_resultOf_116 E))) (ax_sn_node (ax_sn_leaf (r_X27_resultOf_115 E)) (ax_sn_leaf (r_X27_resultOf_112 E))))) (ax_sn_node (ax_sn_node (ax_sn_node (ax_sn_node (ax_sn_leaf (r_X27_resultOf_111 E)) (ax_sn_leaf (r_X27_resultOf_108 E))) (ax_sn_leaf (r_X27_resultOf_107 E))) (ax_sn_node (ax_sn_leaf (r_X27_resultOf_104 E)) (ax_sn_leaf (r_X27_resultOf_101 E)))) (ax_sn_node (ax_sn_node (ax_sn_leaf (r_X27_resultOf_100 E)) (ax_sn_leaf (r_X27_resultOf_99 E))) (ax_sn_node (ax_sn_leaf (r_X27_resultOf_96 E)) (ax_sn_leaf (r_X27_resultOf_93 E)))))) (ax_sn_node (ax_sn_node (ax_sn_node (ax_sn_node (ax_sn_node (ax_sn_leaf (r_X27_resultOf_92 E)) (ax_sn_leaf (r_X27_resultOf_89 E))) (ax_sn_leaf (r_X27_resultOf_86 E))) (ax_sn_node (ax_sn_leaf (r_X27_resultOf_85 E)) (ax_sn_leaf (r_X27_resultOf_84 E)))) (ax_sn_node (ax_sn_node (ax_sn_leaf (r_X27_resultOf_81 E)) (ax_sn_leaf (r_X27_resultOf_80 E))) (ax_sn_node (ax_sn_leaf (r_X27_resultOf_77 E)) (ax_sn_leaf (r_X27_resultOf_76 E))))) (ax_sn_node (ax_sn_node (ax_sn_node (ax_sn_node (ax_sn_leaf (r_X27_resultOf_75 E)) (ax_sn_leaf (r_X27_resultOf_72 E))) (ax_sn_leaf (r_X27_resultOf_71 E))) (ax_sn_node (ax_sn_leaf (r_X27_resultOf_70 E)) (ax_sn_leaf (r_X27_resultOf_69 E)))) (ax_sn_node (ax_sn_node (ax_sn_leaf (r_X27_resultOf_68 E)) (ax_sn_leaf (r_X27_resultOf_66 E))) (ax_sn_node (ax_sn_leaf (r_X27_resultOf_63 E)) (ax_sn_leaf (r_X27_resultOf_62 E))))))) (ax_sn_node (ax_sn_node (ax_sn_node (ax_sn_node (ax_sn_node (ax_sn_node (ax_sn_leaf (r_X27_resultOf_59 E)) (ax_sn_leaf (r_X27_resultOf_58 E))) (ax_sn_leaf (r_X27_resultOf_55 E))) (ax_sn_node (ax_sn_leaf (r_X27_resultOf_54 E)) (ax_sn_leaf (r_X27_resultOf_53 E)))) (ax_sn_node (ax_sn_node (ax_sn_node (ax_sn_leaf (r_X27_resultOf_50 E)) (ax_sn_leaf (r_X27_resultOf_49 E))) (ax_sn_leaf (r_X27_resultOf_48 E))) (ax_sn_node (ax_sn_leaf (r_X27_resultOf_47 E)) (ax_sn_leaf (r_X27_resultOf_46 E))))) (ax_sn_node (ax_sn_node (ax_sn_node (ax_sn_node (ax_sn_leaf (r_X27_resultOf_45 E)) (ax_sn_leaf (r_X27_resultOf_42 E))) (ax_sn_leaf (r_X27_resultOf_41 E))) (ax_sn_node (ax_sn_leaf (r_X27_resultOf_38 E)) (ax_sn_leaf (r_X27_resultOf_37 E)))) (ax_sn_node (ax_sn_node (ax_sn_leaf (r_X27_resultOf_34 E)) (ax_sn_leaf (r_X27_resultOf_33 E))) (ax_sn_node (ax_sn_leaf (r_X27_resultOf_32 E)) (ax_sn_leaf (r_X27_resultOf_30 E)))))) (ax_sn_node (ax_sn_node (ax_sn_node (ax_sn_node (ax_sn_node (ax_sn_leaf (r_X27_resultOf_27 E)) (ax_sn_leaf (r_X27_resultOf_26 E))) (ax_sn_leaf (r_X27_resultOf_25 E))) (ax_sn_node (ax_sn_leaf (r_X27_resultOf_24 E)) (ax_sn_leaf (r_X27_resultOf_21 E)))) (ax_sn_node (ax_sn_node (ax_sn_leaf (r_X27_resultOf_20 E)) (ax_sn_leaf (r_X27_resultOf_17 E))) (ax_sn_node (ax_sn_leaf (r_X27_resultOf_16 E)) (ax_sn_leaf (r_X27_resultOf_15 E))))) (ax_sn_node (ax_sn_node (ax_sn_node (ax_sn_node (ax_sn_leaf (r_X27_resultOf_14 E)) (ax_sn_leaf (r_X27_resultOf_11 E))) (ax_sn_leaf (r_X27_resultOf_10 E))) (ax_sn_node (ax_sn_leaf (r_X27_resultOf_7 E)) (ax_sn_leaf (r_X27_resultOf_6 E)))) (ax_sn_node (ax_sn_node (ax_sn_leaf (r_X27_resultOf_5 E)) (ax_sn_leaf (r_X27_resultOf_4 E))) (ax_sn_node (ax_sn_leaf (r_X27_resultOf_1 E)) (ax_sn_leaf (r_X27_resultOf_0 E))))))))⟩
theorem r_X3_init_0 (E : ax_EN G l) : ax_Snd G l ax_Ym M_X3_init 0 (S_aload 0 1) := k_aload_n dX3_init_0 rfl
theorem r_X3_init_1 (E : ax_EN G l) : ax_Snd G l ax_Ym M_X3_init 1 (S_oin 4) := k_oin q2748 q189 w_oin dX3_init_1
theorem r_X3_init_4 (E : ax_EN G l) : ax_Snd G l ax_Ym M_X3_init 4 (S_aload 0 5) := k_aload_n dX3_init_4 rfl
theorem r_X3_init_5 (E : ax_EN G l) : ax_Snd G l ax_Ym M_X3_init 5 (S_push (.int (100)) 7) := k_bipush dX3_init_5 rfl
theorem r_X3_init_7 (E : ax_EN G l) : ax_Snd G l ax_Ym M_X3_init 7 (S_newa 0 0 9) := k_newa (atype := .int) (en_F E) (by decide) rfl (fun _ => rfl) (Or.inl q255) (by decide) (fun _ => rfl) dX3_init_7
theorem r_X3_init_9 (E : ax_EN G l) : ax_Snd G l ax_Ym M_X3_init 9 (S_putf [(38, 2)] (.array (.int)) 12) := k_putfF (en_F E) (en_P E) (ax_fes_cons (fe_356 E) ax_fes_nil) (ax_fps_cons (fp_357 E) ax_fps_nil) rfl q2755 dX3_init_9
theorem r_X3_init_12 (E : ax_EN G l) : ax_Snd G l ax_Ym M_X3_init 12 (S_aload 0 13) := k_aload_n dX3_init_12 rfl
theorem r_X3_init_13 (E : ax_EN G l) : ax_Snd G l ax_Ym M_X3_init 13 (S_push (.int (500)) 16) := k_sipush dX3_init_13 rfl
theorem r_X3_init_16 (E : ax_EN G l) : ax_Snd G l ax_Ym M_X3_init 16 (S_newa 0 0 18) := k_newa (atype := .int) (en_F E) (by decide) rfl (fun _ => rfl) (Or.inl q255) (by decide) (fun _ => rfl) dX3_init_16
theorem r_X3_init_18 (E : ax_EN G l) : ax_Snd G l ax_Ym M_X3_init 18 (S_putf [(38, 3)] (.array (.int)) 21) := k_putfF (en_F E) (en_P E) (ax_fes_cons (fe_358 E) ax_fes_nil) (ax_fps_cons (fp_359 E) ax_fps_nil) rfl q2756 dX3_init_18
theorem r_X3_init_21 (E : ax_EN G l) : ax_Snd G l ax_Ym M_X3_init 21 (S_aload 0 22) := k_aload_n dX3_init_21 rfl
theorem r_X3_init_22 (E : ax_EN G l) : ax_Snd G l ax_Ym M_X3_init 22 (S_push (.int (1220)) 25) := k_sipush dX3_init_22 rfl
theorem r_X3_init_25 (E : ax_EN G l) : ax_Snd G l ax_Ym M_X3_init 25 (S_newa 0 0 27) := k_newa (atype := .int) (en_F E) (by decide) rfl (fun _ => rfl) (Or.inl q255) (by decide) (fun _ => rfl) dX3_init_25
theorem r_X3_init_27 (E : ax_EN G l) : ax_Snd G l ax_Ym M_X3_init 27 (S_putf [(38, 4)] (.array (.int)) 30) := k_putfF (en_F E) (en_P E) (ax_fes_cons (fe_360 E) ax_fes_nil) (ax_fps_cons (fp_361 E) ax_fps_nil) rfl q2757 dX3_init_27
theorem r_X3_init_30 (E : ax_EN G l) : ax_Snd G l ax_Ym M_X3_init 30 (S_aload 0 31) := k_aload_n dX3_init_30 rfl
theorem r_X3_init_31 (E : ax_EN G l) : ax_Snd G l ax_Ym M_X3_init 31 (S_push (.int (2)) 32) := k_iconst dX3_init_31 rfl
theorem r_X3_init_32 (E : ax_EN G l) : ax_Snd G l ax_Ym M_X3_init 32 (S_newa 0 0 34) := k_newa (atype := .int) (en_F E) (by decide) rfl (fun _ => rfl) (Or.inl q255) (by decide) (fun _ => rfl) dX3_init_32
theorem r_X3_init_34 (E : ax_EN G l) : ax_Snd G l ax_Ym M_X3_init 34 (S_putf [(38, 5)] (.array (.int)) 37) := k_putfF (en_F E) (en_P E) (ax_fes_cons (fe_362 E) ax_fes_nil) (ax_fps_cons (fp_363 E) ax_fps_nil) rfl q2758 dX3_init_34
theorem r_X3_init_37 (E : ax_EN G l) : ax_Snd G l ax_Ym M_X3_init 37 (S_aload 0 38) := k_aload_n dX3_init_37 rfl
theorem r_X3_init_38 (E : ax_EN G l) : ax_Snd G l ax_Ym M_X3_init 38 (S_push (.int (5)) 39) := k_iconst dX3_init_38 rfl
theorem r_X3_init_39 (E : ax_EN G l) : ax_Snd G l ax_Ym M_X3_init 39 (S_newa 0 0 41) := k_newa (atype := .int) (en_F E) (by decide) rfl (fun _ => rfl) (Or.inl q255) (by decide) (fun _ => rfl) dX3_init_39
theorem r_X3_init_41 (E : ax_EN G l) : ax_Snd G l ax_Ym M_X3_init 41 (S_putf [(38, 6)] (.array (.int)) 44) := k_putfF (en_F E) (en_P E) (ax_fes_cons (fe_364 E) ax_fes_nil) (ax_fps_cons (fp_365 E) ax_fps_nil) rfl q2759 dX3_init_41
theorem r_X3_init_44 (E : ax_EN G l) : ax_Snd G l ax_Ym M_X3_init 44 (S_aload 0 45) := k_aload_n dX3_init_44 rfl
theorem r_X3_init_45 (E : ax_EN G l) : ax_Snd G l ax_Ym M_X3_init 45 (S_push (.int (5)) 46) := k_iconst dX3_init_45 rfl
theorem r_X3_init_46 (E : ax_EN G l) : ax_Snd G l ax_Ym M_X3_init 46 (S_newa 0 0 48) := k_newa (atype := .int) (en_F E) (by decide) rfl (fun _ => rfl) (Or.inl q255) (by decide) (fun _ => rfl) dX3_init_46
theorem r_X3_init_48 (E : ax_EN G l) : ax_Snd G l ax_Ym M_X3_init 48 (S_putf [(38, 7)] (.array (.int)) 51) := k_putfF (en_F E) (en_P E) (ax_fes_cons (fe_366 E) ax_fes_nil) (ax_fps_cons (fp_367 E) ax_fps_nil) rfl q2760 dX3_init_48
theorem r_X3_init_51 (E : ax_EN G l) : ax_Snd G l ax_Ym M_X3_init 51 (S_aload 0 52) := k_aload_n dX3_init_51 rfl
theorem r_X3_init_52 (E : ax_EN G l) : ax_Snd G l ax_Ym M_X3_init 52 (S_push (.int (6)) 54) := k_bipush dX3_init_52 rfl
theorem r_X3_init_54 (E : ax_EN G l) : ax_Snd G l ax_Ym M_X3_init 54 (S_newa 0 0 56) := k_newa (atype := .int) (en_F E) (by decide) rfl (fun _ => rfl) (Or.inl q255) (by decide) (fun _ => rfl) dX3_init_54
theorem r_X3_init_56 (E : ax_EN G l) : ax_Snd G l ax_Ym M_X3_init 56 (S_putf [(38, 8)] (.array (.int)) 59) := k_putfF (en_F E) (en_P E) (ax_fes_cons (fe_368 E) ax_fes_nil) (ax_fps_cons (fp_369 E) ax_fps_nil) rfl q2761 dX3_init_56
theorem r_X3_init_59 (E : ax_EN G l) : ax_Snd G l ax_Ym M_X3_init 59 (S_aload 0 60) := k_aload_n dX3_init_59 rfl
theorem r_X3_init_60 (E : ax_EN G l) : ax_Snd G l ax_Ym M_X3_init 60 (S_push (.int (6)) 62) := k_bipush dX3_init_60 rfl
theorem r_X3_init_62 (E : ax_EN G l) : ax_Snd G l ax_Ym M_X3_init 62 (S_newa 0 0 64) := k_newa (atype := .int) (en_F E) (by decide) rfl (fun _ => rfl) (Or.inl q255) (by decide) (fun _ => rfl) dX3_init_62
theorem r_X3_init_64 (E : ax_EN G l) : ax_Snd G l ax_Ym M_X3_init 64 (S_putf [(38, 9)] (.array (.int)) 67) := k_putfF (en_F E) (en_P E) (ax_fes_cons (fe_370 E) ax_fes_nil) (ax_fps_cons (fp_371 E) ax_fps_nil) rfl q2762 dX3_init_64
theorem r_X3_init_67 (E : ax_EN G l) : ax_Snd G l ax_Ym M_X3_init 67 (S_aload 0 68) := k_aload_n dX3_init_67 rfl
theorem r_X3_init_68 (E : ax_EN G l) : ax_Snd G l ax_Ym M_X3_init 68 (S_push (.int (6)) 70) := k_bipush dX3_init_68 rfl
theorem r_X3_init_70 (E : ax_EN G l) : ax_Snd G l ax_Ym M_X3_init 70 (S_newa 0 0 72) := k_newa (atype := .int) (en_F E) (by decide) rfl (fun _ => rfl) (Or.inl q255) (by decide) (fun _ => rfl) dX3_init_70
theorem r_X3_init_72 (E : ax_EN G l) : ax_Snd G l ax_Ym M_X3_init 72 (S_putf [(38, 10)] (.array (.int)) 75) := k_putfF (en_F E) (en_P E) (ax_fes_cons (fe_372 E) ax_fes_nil) (ax_fps_cons (fp_373 E) ax_fps_nil) rfl q2763 dX3_init_72
theorem r_X3_init_75 (E : ax_EN G l) : ax_Snd G l ax_Ym M_X3_init 75 (S_aload 0 76) := k_aload_n dX3_init_75 rfl
theorem r_X3_init_76 (E : ax_EN G l) : ax_Snd G l ax_Ym M_X3_init 76 (S_push (.int (6)) 78) := k_bipush dX3_init_76 rfl
theorem r_X3_init_78 (E : ax_EN G l) : ax_Snd G l ax_Ym M_X3_init 78 (S_newa 0 0 80) := k_newa (atype := .int) (en_F E) (by decide) rfl (fun _ => rfl) (Or.inl q255) (by decide) (fun _ => rfl) dX3_init_78
theorem r_X3_init_80 (E : ax_EN G l) : ax_Snd G l ax_Ym M_X3_init 80 (S_putf [(38, 11)] (.array (.int)) 83) := k_putfF (en_F E) (en_P E) (ax_fes_cons (fe_374 E) ax_fes_nil) (ax_fps_cons (fp_375 E) ax_fps_nil) rfl q2764 dX3_init_80
theorem r_X3_init_83 (E : ax_EN G l) : ax_Snd G l ax_Ym M_X3_init 83 (S_aload 0 84) := k_aload_n dX3_init_83 rfl
theorem r_X3_init_84 (E : ax_EN G l) : ax_Snd G l ax_Ym M_X3_init 84 (S_push (.int (6)) 86) := k_bipush dX3_init_84 rfl
theorem r_X3_init_86 (E : ax_EN G l) : ax_Snd G l ax_Ym M_X3_init 86 (S_newa 0 0 88) := k_newa (atype := .int) (en_F E) (by decide) rfl (fun _ => rfl) (Or.inl q255) (by decide) (fun _ => rfl) dX3_init_86
theorem r_X3_init_88 (E : ax_EN G l) : ax_Snd G l ax_Ym M_X3_init 88 (S_putf [(38, 12)] (.array (.int)) 91) := k_putfF (en_F E) (en_P E) (ax_fes_cons (fe_376 E) ax_fes_nil) (ax_fps_cons (fp_377 E) ax_fps_nil) rfl q2765 dX3_init_88
theorem r_X3_init_91 (E : ax_EN G l) : ax_Snd G l ax_Ym M_X3_init 91 (S_aload 0 92) := k_aload_n dX3_init_91 rfl
theorem r_X3_init_92 (E : ax_EN G l) : ax_Snd G l ax_Ym M_X3_init 92 (S_push (.int (6)) 94) := k_bipush dX3_init_92 rfl
theorem r_X3_init_94 (E : ax_EN G l) : ax_Snd G l ax_Ym M_X3_init 94 (S_newa 0 0 96) := k_newa (atype := .int) (en_F E) (by decide) rfl (fun _ => rfl) (Or.inl q255) (by decide) (fun _ => rfl) dX3_init_94
theorem r_X3_init_96 (E : ax_EN G l) : ax_Snd G l ax_Ym M_X3_init 96 (S_putf [(38, 13)] (.array (.int)) 99) := k_putfF (en_F E) (en_P E) (ax_fes_cons (fe_378 E) ax_fes_nil) (ax_fps_cons (fp_379 E) ax_fps_nil) rfl q2766 dX3_init_96
theorem r_X3_init_99 (E : ax_EN G l) : ax_Snd G l ax_Ym M_X3_init 99 (S_aload 0 100) := k_aload_n dX3_init_99 rfl
theorem r_X3_init_100 (E : ax_EN G l) : ax_Snd G l ax_Ym M_X3_init 100 (S_push (.int (256)) 103) := k_sipush dX3_init_100 rfl
theorem r_X3_init_103 (E : ax_EN G l) : ax_Snd G l ax_Ym M_X3_init 103 (S_newa 0 0 105) := k_newa (atype := .int) (en_F E) (by decide) rfl (fun _ => rfl) (Or.inl q255) (by decide) (fun _ => rfl) dX3_init_103
theorem r_X3_init_105 (E : ax_EN G l) : ax_Snd G l ax_Ym M_X3_init 105 (S_putf [(38, 20)] (.array (.int)) 108) := k_putfF (en_F E) (en_P E) (ax_fes_cons (fe_380 E) ax_fes_nil) (ax_fps_cons (fp_381 E) ax_fps_nil) rfl q2773 dX3_init_105
theorem r_X3_init_108 (E : ax_EN G l) : ax_Snd G l ax_Ym M_X3_init 108 (S_aload 0 109) := k_aload_n dX3_init_108 rfl
theorem r_X3_init_109 (E : ax_EN G l) : ax_Snd G l ax_Ym M_X3_init 109 (S_push (.int (256)) 112) := k_sipush dX3_init_109 rfl
theorem r_X3_init_112 (E : ax_EN G l) : ax_Snd G l ax_Ym M_X3_init 112 (S_newa 0 0 114) := k_newa (atype := .int) (en_F E) (by decide) rfl (fun _ => rfl) (Or.inl q255) (by decide) (fun _ => rfl) dX3_init_112
theorem r_X3_init_114 (E : ax_EN G l) : ax_Snd G l ax_Ym M_X3_init 114 (S_putf [(38, 21)] (.array (.int)) 117) := k_putfF (en_F E) (en_P E) (ax_fes_cons (fe_382 E) ax_fes_nil) (ax_fps_cons (fp_383 E) ax_fps_nil) rfl q2774 dX3_init_114
theorem r_X3_init_117 (E : ax_EN G l) : ax_Snd G l ax_Ym M_X3_init 117 (S_aload 0 118) := k_aload_n dX3_init_117 rfl
theorem r_X3_init_118 (E : ax_EN G l) : ax_Snd G l ax_Ym M_X3_init 118 (S_push (.int (256)) 121) := k_sipush dX3_init_118 rfl
theorem r_X3_init_121 (E : ax_EN G l) : ax_Snd G l ax_Ym M_X3_init 121 (S_newa 0 0 123) := k_newa (atype := .int) (en_F E) (by decide) rfl (fun _ => rfl) (Or.inl q255) (by decide) (fun _ => rfl) dX3_init_121
theorem r_X3_init_123 (E : ax_EN G l) : ax_Snd G l ax_Ym M_X3_init 123 (S_putf [(38, 25)] (.array (.int)) 126) := k_putfF (en_F E) (en_P E) (ax_fes_cons (fe_384 E) ax_fes_nil) (ax_fps_cons (fp_385 E) ax_fps_nil) rfl q2778 dX3_init_123
theorem r_X3_init_126 (E : ax_EN G l) : ax_Snd G l ax_Ym M_X3_init 126 (S_aload 0 127) := k_aload_n dX3_init_126 rfl
theorem r_X3_init_127 (E : ax_EN G l) : ax_Snd G l ax_Ym M_X3_init 127 (S_push (.int (4)) 128) := k_iconst dX3_init_127 rfl
theorem r_X3_init_128 (E : ax_EN G l) : ax_Snd G l ax_Ym M_X3_init 128 (S_newa 0 0 130) := k_newa (atype := .int) (en_F E) (by decide) rfl (fun _ => rfl) (Or.inl q255) (by decide) (fun _ => rfl) dX3_init_128
theorem r_X3_init_130 (E : ax_EN G l) : ax_Snd G l ax_Ym M_X3_init 130 (S_putf [(38, 26)] (.array (.int)) 133) := k_putfF (en_F E) (en_P E) (ax_fes_cons (fe_386 E) ax_fes_nil) (ax_fps_cons (fp_387 E) ax_fps_nil) rfl q2779 dX3_init_130
theorem r_X3_init_133 (E : ax_EN G l) : ax_Snd G l ax_Ym M_X3_init 133 (S_aload 0 134) := k_aload_n dX3_init_133 rfl
theorem r_X3_init_134 (E : ax_EN G l) : ax_Snd G l ax_Ym M_X3_init 134 (S_push (.int (60)) 136) := k_bipush dX3_init_134 rfl
theorem r_X3_init_136 (E : ax_EN G l) : ax_Snd G l ax_Ym M_X3_init 136 (S_newa 0 0 138) := k_newa (atype := .int) (en_F E) (by decide) rfl (fun _ => rfl) (Or.inl q255) (by decide) (fun _ => rfl) dX3_init_136
theorem r_X3_init_138 (E : ax_EN G l) : ax_Snd G l ax_Ym M_X3_init 138 (S_putf [(38, 36)] (.array (.int)) 141) := k_putfF (en_F E) (en_P E) (ax_fes_cons (fe_388 E) ax_fes_nil) (ax_fps_cons (fp_389 E) ax_fps_nil) rfl q2789 dX3_init_138
theorem r_X3_init_141 (E : ax_EN G l) : ax_Snd G l ax_Ym M_X3_init 141 (S_aload 0 142) := k_aload_n dX3_init_141 rfl
theorem r_X3_init_142 (E : ax_EN G l) : ax_Snd G l ax_Ym M_X3_init 142 (S_push (.int (20)) 144) := k_bipush dX3_init_142 rfl
theorem r_X3_init_144 (E : ax_EN G l) : ax_Snd G l ax_Ym M_X3_init 144 (S_newa 0 0 146) := k_newa (atype := .int) (en_F E) (by decide) rfl (fun _ => rfl) (Or.inl q255) (by decide) (fun _ => rfl) dX3_init_144
theorem r_X3_init_146 (E : ax_EN G l) : ax_Snd G l ax_Ym M_X3_init 146 (S_putf [(38, 41)] (.array (.int)) 149) := k_putfF (en_F E) (en_P E) (ax_fes_cons (fe_390 E) ax_fes_nil) (ax_fps_cons (fp_391 E) ax_fps_nil) rfl q2794 dX3_init_146
theorem r_X3_init_149 (E : ax_EN G l) : ax_Snd G l ax_Ym M_X3_init 149 (S_aload 0 150) := k_aload_n dX3_init_149 rfl
theorem r_X3_init_150 (E : ax_EN G l) : ax_Snd G l ax_Ym M_X3_init 150 (S_push (.int (20)) 152) := k_bipush dX3_init_150 rfl
theorem r_X3_init_152 (E : ax_EN G l) : ax_Snd G l ax_Ym M_X3_init 152 (S_newa 0 0 154) := k_newa (atype := .int) (en_F E) (by decide) rfl (fun _ => rfl) (Or.inl q255) (by decide) (fun _ => rfl) dX3_init_152
theorem r_X3_init_154 (E : ax_EN G l) : ax_Snd G l ax_Ym M_X3_init 154 (S_putf [(38, 42)] (.array (.int)) 157) := k_putfF (en_F E) (en_P E) (ax_fes_cons (fe_392 E) ax_fes_nil) (ax_fps_cons (fp_393 E) ax_fps_nil) rfl q2795 dX3_init_154
theorem r_X3_init_157 (E : ax_EN G l) : ax_Snd G l ax_Ym M_X3_init 157 (S_aload 0 158) := k_aload_n dX3_init_157 rfl
theorem r_X3_init_158 (E : ax_EN G l) : ax_Snd G l ax_Ym M_X3_init 158 (S_push (.int (1000)) 161) := k_sipush dX3_init_158 rfl
theorem r_X3_init_161 (E : ax_EN G l) : ax_Snd G l ax_Ym M_X3_init 161 (S_newa 0 0 163) := k_newa (atype := .int) (en_F E) (by decide) rfl (fun _ => rfl) (Or.inl q255) (by decide) (fun _ => rfl) dX3_init_161
theorem r_X3_init_163 (E : ax_EN G l) : ax_Snd G l ax_Ym M_X3_init 163 (S_putf [(38, 44)] (.array (.int)) 166) := k_putfF (en_F E) (en_P E) (ax_fes_cons (fe_394 E) ax_fes_nil) (ax_fps_cons (fp_395 E) ax_fps_nil) rfl q2797 dX3_init_163
theorem r_X3_init_166 (E : ax_EN G l) : ax_Snd G l ax_Ym M_X3_init 166 (S_aload 0 167) := k_aload_n dX3_init_166 rfl
theorem r_X3_init_167 (E : ax_EN G l) : ax_Snd G l ax_Ym M_X3_init 167 (S_push (.int (1000)) 170) := k_sipush dX3_init_167 rfl
theorem r_X3_init_170 (E : ax_EN G l) : ax_Snd G l ax_Ym M_X3_init 170 (S_newa 0 0 172) := k_newa (atype := .int) (en_F E) (by decide) rfl (fun _ => rfl) (Or.inl q255) (by decide) (fun _ => rfl) dX3_init_170
theorem r_X3_init_172 (E : ax_EN G l) : ax_Snd G l ax_Ym M_X3_init 172 (S_putf [(38, 45)] (.array (.int)) 175) := k_putfF (en_F E) (en_P E) (ax_fes_cons (fe_396 E) ax_fes_nil) (ax_fps_cons (fp_397 E) ax_fps_nil) rfl q2798 dX3_init_172
theorem r_X3_init_175 (E : ax_EN G l) : ax_Snd G l ax_Ym M_X3_init 175 (S_aload 0 176) := k_aload_n dX3_init_175 rfl
theorem r_X3_init_176 (E : ax_EN G l) : ax_Snd G l ax_Ym M_X3_init 176 (S_push (.int (3)) 177) := k_iconst dX3_init_176 rfl
theorem r_X3_init_177 (E : ax_EN G l) : ax_Snd G l ax_Ym M_X3_init 177 (S_newa 0 0 179) := k_newa (atype := .int) (en_F E) (by decide) rfl (fun _ => rfl) (Or.inl q255) (by decide) (fun _ => rfl) dX3_init_177
theorem r_X3_init_179 (E : ax_EN G l) : ax_Snd G l ax_Ym M_X3_init 179 (S_putf [(38, 48)] (.array (.int)) 182) := k_putfF (en_F E) (en_P E) (ax_fes_cons (fe_398 E) ax_fes_nil) (ax_fps_cons (fp_399 E) ax_fps_nil) rfl q2801 dX3_init_179
theorem r_X3_init_182 (E : ax_EN G l) : ax_Snd G l ax_Ym M_X3_init 182 (S_aload 0 183) := k_aload_n dX3_init_182 rfl
theorem r_X3_init_183 (E : ax_EN G l) : ax_Snd G l ax_Ym M_X3_init 183 (S_push (.int (24)) 185) := k_bipush dX3_init_183 rfl
theorem r_X3_init_185 (E : ax_EN G l) : ax_Snd G l ax_Ym M_X3_init 185 (S_newa 0 0 187) := k_newa (atype := .int) (en_F E) (by decide) rfl (fun _ => rfl) (Or.inl q255) (by decide) (fun _ => rfl) dX3_init_185
theorem r_X3_init_187 (E : ax_EN G l) : ax_Snd G l ax_Ym M_X3_init 187 (S_putf [(38, 49)] (.array (.int)) 190) := k_putfF (en_F E) (en_P E) (ax_fes_cons (fe_400 E) ax_fes_nil) (ax_fps_cons (fp_401 E) ax_fps_nil) rfl q2802 dX3_init_187
theorem r_X3_init_190 (E : ax_EN G l) : ax_Snd G l ax_Ym M_X3_init 190 (S_aload 0 191) := k_aload_n dX3_init_190 rfl
theorem r_X3_init_191 (E : ax_EN G l) : ax_Snd G l ax_Ym M_X3_init 191 (S_push (.int (256)) 194) := k_sipush dX3_init_191 rfl
theorem r_X3_init_194 (E : ax_EN G l) : ax_Snd G l ax_Ym M_X3_init 194 (S_newa 0 0 196) := k_newa (atype := .int) (en_F E) (by decide) rfl (fun _ => rfl) (Or.inl q255) (by decide) (fun _ => rfl) dX3_init_194
theorem r_X3_init_196 (E : ax_EN G l) : ax_Snd G l ax_Ym M_X3_init 196 (S_putf [(38, 50)] (.array (.int)) 199) := k_putfF (en_F E) (en_P E) (ax_fes_cons (fe_402 E) ax_fes_nil) (ax_fps_cons (fp_403 E) ax_fps_nil) rfl q2803 dX3_init_196
theorem r_X3_init_199 (E : ax_EN G l) : ax_Snd G l ax_Ym M_X3_init 199 (S_aload 0 200) := k_aload_n dX3_init_199 rfl
theorem r_X3_init_200 (E : ax_EN G l) : ax_Snd G l ax_Ym M_X3_init 200 (S_push (.int (256)) 203) := k_sipush dX3_init_200 rfl
theorem r_X3_init_203 (E : ax_EN G l) : ax_Snd G l ax_Ym M_X3_init 203 (S_newa 0 0 205) := k_newa (atype := .int) (en_F E) (by decide) rfl (fun _ => rfl) (Or.inl q255) (by decide) (fun _ => rfl) dX3_init_203
theorem r_X3_init_205 (E : ax_EN G l) : ax_Snd G l ax_Ym M_X3_init 205 (S_putf [(38, 51)] (.array (.int)) 208) := k_putfF (en_F E) (en_P E) (ax_fes_cons (fe_404 E) ax_fes_nil) (ax_fps_cons (fp_405 E) ax_fps_nil) rfl q2804 dX3_init_205
theorem r_X3_init_208 (E : ax_EN G l) : ax_Snd G l ax_Ym M_X3_init 208 (S_aload 0 209) := k_aload_n dX3_init_208 rfl
theorem r_X3_init_209 (E : ax_EN G l) : ax_Snd G l ax_Ym M_X3_init 209 (S_push (.int (256)) 212) := k_sipush dX3_init_209 rfl
theorem r_X3_init_212 (E : ax_EN G l) : ax_Snd G l ax_Ym M_X3_init 212 (S_newa 0 0 214) := k_newa (atype := .int) (en_F E) (by decide) rfl (fun _ => rfl) (Or.inl q255) (by decide) (fun _ => rfl) dX3_init_212
theorem r_X3_init_214 (E : ax_EN G l) : ax_Snd G l ax_Ym M_X3_init 214 (S_putf [(38, 53)] (.array (.int)) 217) := k_putfF (en_F E) (en_P E) (ax_fes_cons (fe_406 E) ax_fes_nil) (ax_fps_cons (fp_407 E) ax_fps_nil) rfl q2806 dX3_init_214
theorem r_X3_init_217 (E : ax_EN G l) : ax_Snd G l ax_Ym M_X3_init 217 (S_aload 0 218) := k_aload_n dX3_init_217 rfl
theorem r_X3_init_218 (E : ax_EN G l) : ax_Snd G l ax_Ym M_X3_init 218 (S_push (.int (256)) 221) := k_sipush dX3_init_218 rfl
theorem r_X3_init_221 (E : ax_EN G l) : ax_Snd G l ax_Ym M_X3_init 221 (S_newa 0 0 223) := k_newa (atype := .int) (en_F E) (by decide) rfl (fun _ => rfl) (Or.inl q255) (by decide) (fun _ => rfl) dX3_init_221
theorem r_X3_init_223 (E : ax_EN G l) : ax_Snd G l ax_Ym M_X3_init 223 (S_putf [(38, 54)] (.array (.int)) 226) := k_putfF (en_F E) (en_P E) (ax_fes_cons (fe_408 E) ax_fes_nil) (ax_fps_cons (fp_409 E) ax_fps_nil) rfl q2807 dX3_init_223
theorem r_X3_init_226 (E : ax_EN G l) : ax_Snd G l ax_Ym M_X3_init 226 (S_aload 0 227) := k_aload_n dX3_init_226 rfl
theorem r_X3_init_227 (E : ax_EN G l) : ax_Snd G l ax_Ym M_X3_init 227 (S_push (.int (6)) 229) := k_bipush dX3_init_227 rfl
theorem r_X3_init_229 (E : ax_EN G l) : ax_Snd G l ax_Ym M_X3_init 229 (S_newa 0 0 231) := k_newa (atype := .int) (en_F E) (by decide) rfl (fun _ => rfl) (Or.inl q255) (by decide) (fun _ => rfl) dX3_init_229
theorem r_X3_init_231 (E : ax_EN G l) : ax_Snd G l ax_Ym M_X3_init 231 (S_putf [(38, 56)] (.array (.int)) 234) := k_putfF (en_F E) (en_P E) (ax_fes_cons (fe_410 E) ax_fes_nil) (ax_fps_cons (fp_411 E) ax_fps_nil) rfl q2809 dX3_init_231
theorem r_X3_init_234 (E : ax_EN G l) : ax_Snd G l ax_Ym M_X3_init 234 (S_aload 0 235) := k_aload_n dX3_init_234 rfl
theorem r_X3_init_235 (E : ax_EN G l) : ax_Snd G l ax_Ym M_X3_init 235 (S_push (.int (6)) 237) := k_bipush dX3_init_235 rfl
theorem r_X3_init_237 (E : ax_EN G l) : ax_Snd G l ax_Ym M_X3_init 237 (S_newa 0 0 239) := k_newa (atype := .int) (en_F E) (by decide) rfl (fun _ => rfl) (Or.inl q255) (by decide) (fun _ => rfl) dX3_init_237
theorem r_X3_init_239 (E : ax_EN G l) : ax_Snd G l ax_Ym M_X3_init 239 (S_putf [(38, 57)] (.array (.int)) 242) := k_putfF (en_F E) (en_P E) (ax_fes_cons (fe_412 E) ax_fes_nil) (ax_fps_cons (fp_413 E) ax_fps_nil) rfl q2810 dX3_init_239
theorem r_X3_init_242 (E : ax_EN G l) : ax_Snd G l ax_Ym M_X3_init 242 (S_aload 0 243) := k_aload_n dX3_init_242 rfl
theorem r_X3_init_243 (E : ax_EN G l) : ax_Snd G l ax_Ym M_X3_init 243 (S_push (.int (30)) 245) := k_bipush dX3_init_243 rfl
theorem r_X3_init_245 (E : ax_EN G l) : ax_Snd G l ax_Ym M_X3_init 245 (S_newa 0 0 247) := k_newa (atype := .int) (en_F E) (by decide) rfl (fun _ => rfl) (Or.inl q255) (by decide) (fun _ => rfl) dX3_init_245
theorem r_X3_init_247 (E : ax_EN G l) : ax_Snd G l ax_Ym M_X3_init 247 (S_putf [(38, 61)] (.array (.int)) 250) := k_putfF (en_F E) (en_P E) (ax_fes_cons (fe_414 E) ax_fes_nil) (ax_fps_cons (fp_415 E) ax_fps_nil) rfl q2814 dX3_init_247
theorem r_X3_init_250 (E : ax_EN G l) : ax_Snd G l ax_Ym M_X3_init 250 (S_aload 0 251) := k_aload_n dX3_init_250 rfl
theorem r_X3_init_251 (E : ax_EN G l) : ax_Snd G l ax_Ym M_X3_init 251 (S_push (.int (5)) 252) := k_iconst dX3_init_251 rfl
theorem r_X3_init_252 (E : ax_EN G l) : ax_Snd G l ax_Ym M_X3_init 252 (S_newa 0 0 254) := k_newa (atype := .int) (en_F E) (by decide) rfl (fun _ => rfl) (Or.inl q255) (by decide) (fun _ => rfl) dX3_init_252
theorem r_X3_init_254 (E : ax_EN G l) : ax_Snd G l ax_Ym M_X3_init 254 (S_putf [(38, 62)] (.array (.int)) 257) := k_putfF (en_F E) (en_P E) (ax_fes_cons (fe_416 E) ax_fes_nil) (ax_fps_cons (fp_417 E) ax_fps_nil) rfl q2815 dX3_init_254
theorem r_X3_init_257 (E : ax_EN G l) : ax_Snd G l ax_Ym M_X3_init 257 (S_aload 0 258) := k_aload_n dX3_init_257 rfl
theorem r_X3_init_258 (E : ax_EN G l) : ax_Snd G l ax_Ym M_X3_init 258 (S_push (.int (30)) 260) := k_bipush dX3_init_258 rfl
theorem r_X3_init_260 (E : ax_EN G l) : ax_Snd G l ax_Ym M_X3_init 260 (S_newa 0 0 262) := k_newa (atype := .int) (en_F E) (by decide) rfl (fun _ => rfl) (Or.inl q255) (by decide) (fun _ => rfl) dX3_init_260
theorem r_X3_init_262 (E : ax_EN G l) : ax_Snd G l ax_Ym M_X3_init 262 (S_putf [(38, 63)] (.array (.int)) 265) := k_putfF (en_F E) (en_P E) (ax_fes_cons (fe_418 E) ax_fes_nil) (ax_fps_cons (fp_419 E) ax_fps_nil) rfl q2816 dX3_init_262
theorem r_X3_init_265 (E : ax_EN G l) : ax_Snd G l ax_Ym M_X3_init 265 (S_aload 0 266) := k_aload_n dX3_init_265 rfl
theorem r_X3_init_266 (E : ax_EN G l) : ax_Snd G l ax_Ym M_X3_init 266 (S_push (.int (5)) 267) := k_iconst dX3_init_266 rfl
theorem r_X3_init_267 (E : ax_EN G l) : ax_Snd G l ax_Ym M_X3_init 267 (S_newa 0 0 269) := k_newa (atype := .int) (en_F E) (by decide) rfl (fun _ => rfl) (Or.inl q255) (by decide) (fun _ => rfl) dX3_init_267
theorem r_X3_init_269 (E : ax_EN G l) : ax_Snd G l ax_Ym M_X3_init 269 (S_putf [(38, 64)] (.array (.int)) 272) := k_putfF (en_F E) (en_P E) (ax_fes_cons (fe_420 E) ax_fes_nil) (ax_fps_cons (fp_421 E) ax_fps_nil) rfl q2817 dX3_init_269
theorem r_X3_init_272 (E : ax_EN G l) : ax_Snd G l ax_Ym M_X3_init 272 (S_aload 0 273) := k_aload_n dX3_init_272 rfl
theorem r_X3_init_273 (E : ax_EN G l) : ax_Snd G l ax_Ym M_X3_init 273 (S_push (.int (5)) 274) := k_iconst dX3_init_273 rfl
theorem r_X3_init_274 (E : ax_EN G l) : ax_Snd G l ax_Ym M_X3_init 274 (S_newa 0 0 276) := k_newa (atype := .int) (en_F E) (by decide) rfl (fun _ => rfl) (Or.inl q255) (by decide) (fun _ => rfl) dX3_init_274
theorem r_X3_init_276 (E : ax_EN G l) : ax_Snd G l ax_Ym M_X3_init 276 (S_putf [(38, 65)] (.array (.int)) 279) := k_putfF (en_F E) (en_P E) (ax_fes_cons (fe_422 E) ax_fes_nil) (ax_fps_cons (fp_423 E) ax_fps_nil) rfl q2818 dX3_init_276
theorem r_X3_init_279 (E : ax_EN G l) : ax_Snd G l ax_Ym M_X3_init 279 (S_aload 0 280) := k_aload_n dX3_init_279 rfl
theorem r_X3_init_280 (E : ax_EN G l) : ax_Snd G l ax_Ym M_X3_init 280 (S_push (.int (5)) 281) := k_iconst dX3_init_280 rfl
theorem r_X3_init_281 (E : ax_EN G l) : ax_Snd G l ax_Ym M_X3_init 281 (S_newa 0 0 283) := k_newa (atype := .int) (en_F E) (by decide) rfl (fun _ => rfl) (Or.inl q255) (by decide) (fun _ => rfl) dX3_init_281
theorem r_X3_init_283 (E : ax_EN G l) : ax_Snd G l ax_Ym M_X3_init 283 (S_putf [(38, 66)] (.array (.int)) 286) := k_putfF (en_F E) (en_P E) (ax_fes_cons (fe_424 E) ax_fes_nil) (ax_fps_cons (fp_425 E) ax_fps_nil) rfl q2819 dX3_init_283
theorem r_X3_init_286 (E : ax_EN G l) : ax_Snd G l ax_Ym M_X3_init 286 (S_aload 0 287) := k_aload_n dX3_init_286 rfl
theorem r_X3_init_287 (E : ax_EN G l) : ax_Snd G l ax_Ym M_X3_init 287 (S_push (.int (5)) 288) := k_iconst dX3_init_287 rfl
theorem r_X3_init_288 (E : ax_EN G l) : ax_Snd G l ax_Ym M_X3_init 288 (S_newa 0 0 290) := k_newa (atype := .int) (en_F E) (by decide) rfl (fun _ => rfl) (Or.inl q255) (by decide) (fun _ => rfl) dX3_init_288
theorem r_X3_init_290 (E : ax_EN G l) : ax_Snd G l ax_Ym M_X3_init 290 (S_putf [(38, 67)] (.array (.int)) 293) := k_putfF (en_F E) (en_P E) (ax_fes_cons (fe_426 E) ax_fes_nil) (ax_fps_cons (fp_427 E) ax_fps_nil) rfl q2820 dX3_init_290
theorem r_X3_init_293 (E : ax_EN G l) : ax_Snd G l ax_Ym M_X3_init 293 (S_aload 0 294) := k_aload_n dX3_init_293 rfl
theorem r_X3_init_294 (E : ax_EN G l) : ax_Snd G l ax_Ym M_X3_init 294 (S_push (.int (5)) 295) := k_iconst dX3_init_294 rfl
theorem r_X3_init_295 (E : ax_EN G l) : ax_Snd G l ax_Ym M_X3_init 295 (S_newa 0 0 297) := k_newa (atype := .int) (en_F E) (by decide) rfl (fun _ => rfl) (Or.inl q255) (by decide) (fun _ => rfl) dX3_init_295
theorem r_X3_init_297 (E : ax_EN G l) : ax_Snd G l ax_Ym M_X3_init 297 (S_putf [(38, 68)] (.array (.int)) 300) := k_putfF (en_F E) (en_P E) (ax_fes_cons (fe_428 E) ax_fes_nil) (ax_fps_cons (fp_429 E) ax_fps_nil) rfl q2821 dX3_init_297
theorem r_X3_init_300 (E : ax_EN G l) : ax_Snd G l ax_Ym M_X3_init 300 (S_aload 0 301) := k_aload_n dX3_init_300 rfl
theorem r_X3_init_301 (E : ax_EN G l) : ax_Snd G l ax_Ym M_X3_init 301 (S_push (.int (5)) 302) := k_iconst dX3_init_301 rfl
theorem r_X3_init_302 (E : ax_EN G l) : ax_Snd G l ax_Ym M_X3_init 302 (S_newa 0 0 304) := k_newa (atype := .int) (en_F E) (by decide) rfl (fun _ => rfl) (Or.inl q255) (by decide) (fun _ => rfl) dX3_init_302
theorem r_X3_init_304 (E : ax_EN G l) : ax_Snd G l ax_Ym M_X3_init 304 (S_putf [(38, 69)] (.array (.int)) 307) := k_putfF (en_F E) (en_P E) (ax_fes_cons (fe_430 E) ax_fes_nil) (ax_fps_cons (fp_431 E) ax_fps_nil) rfl q2822 dX3_init_304
theorem r_X3_init_307 (E : ax_EN G l) : ax_Snd G l ax_Ym M_X3_init 307 (S_aload 0 308) := k_aload_n dX3_init_307 rfl
theorem r_X3_init_308 (E : ax_EN G l) : ax_Snd G l ax_Ym M_X3_init 308 (S_push (.int (5)) 309) := k_iconst dX3_init_308 rfl
theorem r_X3_init_309 (E : ax_EN G l) : ax_Snd G l ax_Ym M_X3_init 309 (S_newa 2 0 311) := k_newa (atype := .boolean) (en_F E) (by decide) rfl (fun _ => rfl) (Or.inl q464) (by decide) (fun _ => rfl) dX3_init_309
theorem r_X3_init_311 (E : ax_EN G l) : ax_Snd G l ax_Ym M_X3_init 311 (S_putf [(38, 70)] (.array (.boolean)) 314) := k_putfF (en_F E) (en_P E) (ax_fes_cons (fe_432 E) ax_fes_nil) (ax_fps_cons (fp_433 E) ax_fps_nil) rfl q2823 dX3_init_311
theorem r_X3_init_314 (E : ax_EN G l) : ax_Snd G l ax_Ym M_X3_init 314 (S_aload 0 315) := k_aload_n dX3_init_314 rfl
theorem r_X3_init_315 (E : ax_EN G l) : ax_Snd G l ax_Ym M_X3_init 315 (S_push (.int (256)) 318) := k_sipush dX3_init_315 rfl
theorem r_X3_init_318 (E : ax_EN G l) : ax_Snd G l ax_Ym M_X3_init 318 (S_newa 0 0 320) := k_newa (atype := .int) (en_F E) (by decide) rfl (fun _ => rfl) (Or.inl q255) (by decide) (fun _ => rfl) dX3_init_318
theorem r_X3_init_320 (E : ax_EN G l) : ax_Snd G l ax_Ym M_X3_init 320 (S_putf [(38, 71)] (.array (.int)) 323) := k_putfF (en_F E) (en_P E) (ax_fes_cons (fe_434 E) ax_fes_nil) (ax_fps_cons (fp_435 E) ax_fps_nil) rfl q2824 dX3_init_320
theorem r_X3_init_323 (E : ax_EN G l) : ax_Snd G l ax_Ym M_X3_init 323 (S_aload 0 324) := k_aload_n dX3_init_323 rfl
theorem r_X3_init_324 (E : ax_EN G l) : ax_Snd G l ax_Ym M_X3_init 324 (S_push (.int (20)) 326) := k_bipush dX3_init_324 rfl
theorem r_X3_init_326 (E : ax_EN G l) : ax_Snd G l ax_Ym M_X3_init 326 (S_newa 0 0 328) := k_newa (atype := .int) (en_F E) (by decide) rfl (fun _ => rfl) (Or.inl q255) (by decide) (fun _ => rfl) dX3_init_326
theorem r_X3_init_328 (E : ax_EN G l) : ax_Snd G l ax_Ym M_X3_init 328 (S_putf [(38, 72)] (.array (.int)) 331) := k_putfF (en_F E) (en_P E) (ax_fes_cons (fe_436 E) ax_fes_nil) (ax_fps_cons (fp_437 E) ax_fps_nil) rfl q2825 dX3_init_328
theorem r_X3_init_331 (E : ax_EN G l) : ax_Snd G l ax_Ym M_X3_init 331 (S_aload 0 332) := k_aload_n dX3_init_331 rfl
theorem r_X3_init_332 (E : ax_EN G l) : ax_Snd G l ax_Ym M_X3_init 332 (S_push (.int (20)) 334) := k_bipush dX3_init_332 rfl
theorem r_X3_init_334 (E : ax_EN G l) : ax_Snd G l ax_Ym M_X3_init 334 (S_newa 0 0 336) := k_newa (atype := .int) (en_F E) (by decide) rfl (fun _ => rfl) (Or.inl q255) (by decide) (fun _ => rfl) dX3_init_334
theorem r_X3_init_336 (E : ax_EN G l) : ax_Snd G l ax_Ym M_X3_init 336 (S_putf [(38, 73)] (.array (.int)) 339) := k_putfF (en_F E) (en_P E) (ax_fes_cons (fe_438 E) ax_fes_nil) (ax_fps_cons (fp_439 E) ax_fps_nil) rfl q2826 dX3_init_336
theorem r_X3_init_339 (E : ax_EN G l) : ax_Snd G l ax_Ym M_X3_init 339 (S_aload 0 340) := k_aload_n dX3_init_339 rfl
theorem r_X3_init_340 (E : ax_EN G l) : ax_Snd G l ax_Ym M_X3_init 340 (S_iv [(38, 371)] 0 343 hd_0) := k_iv (en_F E) (ax_ok0 E rfl) (ax_Evs_cons ((ev_v (en_c E (k := 38) rfl) rfl y_X3_formats q2749 q2751 qs59 q126 q2752 nm_X3_formats (Nat.le_of_ble_eq_true rfl) dX3_init_340) : ax_EvV G l ax_Ym M_X3_init 340 0 3 38 371) ax_Evs_nil)
theorem r_X3_init_343 (E : ax_EN G l) : ax_Snd G l ax_Ym M_X3_init 343 (S_ret) := k_ret dX3_init_343 rfl
theorem mt_X3_init (E : ax_EN G l) : ax_mt G l ax_Ym (1, P_X3_init) (ax_Ym 370) := ⟨M_X3_init, yX3_init, ⟨rfl, by decide +kernel, rfl, (fun _ => rfl), Or.inl ⟨rfl, rfl⟩⟩, fun pc => (ax_sn_node (ax_sn_node (ax_sn_node (ax_sn_node (ax_sn_node (ax_sn_node (ax_sn_node (ax_sn_node (ax_sn_leaf (r_X3_init_343 E)) (ax_sn_leaf (r_X3_init_340 E))) (ax_sn_leaf (r_X3_init_339 E))) (ax_sn_node (ax_sn_node (ax_sn_leaf (r_X3_init_336 E)) (ax_sn_leaf (r_X3_init_334 E))) (ax_sn_leaf (r_X3_init_332 E)))) (ax_sn_node (ax_sn_node (ax_sn_node (ax_sn_leaf (r_X3_init_331 E)) (ax_sn_leaf (r_X3_init_328 E))) (ax_sn_leaf (r_X3_init_326 E))) (ax_sn_node (ax_sn_leaf (r_X3_init_324 E)) (ax_sn_leaf (r_X3_init_323 E))))) (ax_sn_node (ax_sn_node (ax_sn_node (ax_sn_node (ax_sn_leaf (r_X3_init_320 E)) (ax_sn_leaf (r_X3_init_318 E))) (ax_sn_leaf (r_X3_init_315 E))) (ax_sn_node (ax_sn_node (ax_sn_leaf (r_X3_init_314 E)) (ax_sn_leaf (r_X3_init_311 E))) (ax_sn_leaf (r_X3_init_309 E)))) (ax_sn_node (ax_sn_node (ax_sn_node (ax_sn_leaf (r_X3_init_308 E)) (ax_sn_leaf (r_X3_init_307 E))) (ax_sn_leaf (r_X3_init_304 E))) (ax_sn_node (ax_sn_leaf (r_X3_init_302 E)) (ax_sn_leaf (r_X3_init_301 E)))))) (ax_sn_node (ax_sn_node (ax_sn_node (ax_sn_node (ax_sn_node (ax_sn_leaf (r_X3_init_300 E)) (ax_sn_leaf (r_X3_init_297 E))) (ax_sn_leaf (r_X3_init_295 E))) (ax_sn_node (ax_sn_node (ax_sn_leaf (r_X3_init_294 E)) (ax_sn_leaf (r_X3_init_293 E))) (ax_sn_leaf (r_X3_init_290 E)))) (ax_sn_node (ax_sn_node (ax_sn_node (ax_sn_leaf (r_X3_init_288 E)) (ax_sn_leaf (r_X3_init_287 E))) (ax_sn_leaf (r_X3_init_286 E))) (ax_sn_node (ax_sn_leaf (r_X3_init_283 E)) (ax_sn_leaf (r_X3_init_281 E))))) (ax_sn_node (ax_sn_node (ax_sn_node (ax_sn_node (ax_sn_leaf (r_X3_init_280 E)) (ax_sn_leaf (r_X3_init_279 E))) (ax_sn_leaf (r_X3_init_276 E))) (ax_sn_node (ax_sn_node (ax_sn_leaf (r_X3_init_274 E)) (ax_sn_leaf (r_X3_init_273 E))) (ax_sn_leaf (r_X3_init_272 E)))) (ax_sn_node (ax_sn_node (ax_sn_node (ax_sn_leaf (r_X3_init_269 E)) (ax_sn_leaf (r_X3_init_267 E))) (ax_sn_leaf (r_X3_init_266 E))) (ax_sn_node (ax_sn_leaf (r_X3_init_265 E)) (ax_sn_leaf (r_X3_init_262 E))))))) (ax_sn_node (ax_sn_node (ax_sn_node (ax_sn_node (ax_sn_node (ax_sn_node (ax_sn_leaf (r_X3_init_260 E)) (ax_sn_leaf (r_X3_init_258 E))) (ax_sn_leaf (r_X3_init_257 E))) (ax_sn_node (ax_sn_node (ax_sn_leaf (r_X3_init_254 E)) (ax_sn_leaf (r_X3_init_252 E))) (ax_sn_leaf (r_X3_init_251 E)))) (ax_sn_node (ax_sn_node (ax_sn_node (ax_sn_leaf (r_X3_init_250 E)) (ax_sn_leaf (r_X3_init_247 E))) (ax_sn_leaf (r_X3_init_245 E))) (ax_sn_node (ax_sn_leaf (r_X3_init_243 E)) (ax_sn_leaf (r_X3_init_242 E))))) (ax_sn_node (ax_sn_node (ax_sn_node (ax_sn_node (ax_sn_leaf (r_X3_init_239 E)) (ax_sn_leaf (r_X3_init_237 E))) (ax_sn_leaf (r_X3_init_235 E))) (ax_sn_node (ax_sn_node (ax_sn_leaf (r_X3_init_234 E)) (ax_sn_leaf (r_X3_init_231 E))) (ax_sn_leaf (r_X3_init_229 E)))) (ax_sn_node (ax_sn_node (ax_sn_node (ax_sn_leaf (r_X3_init_227 E)) (ax_sn_leaf (r_X3_init_226 E))) (ax_sn_leaf (r_X3_init_223 E))) (ax_sn_node (ax_sn_leaf (r_X3_init_221 E)) (ax_sn_leaf (r_X3_init_218 E)))))) (ax_sn_node (ax_sn_node (ax_sn_node (ax_sn_node (ax_sn_node (ax_sn_leaf (r_X3_init_217 E)) (ax_sn_leaf (r_X3_init_214 E))) (ax_sn_leaf (r_X3_init_212 E))) (ax_sn_node (ax_sn_node (ax_sn_leaf (r_X3_init_209 E)) (ax_sn_leaf (r_X3_init_208 E))) (ax_sn_leaf (r_X3_init_205 E)))) (ax_sn_node (ax_sn_node (ax_sn_node (ax_sn_leaf (r_X3_init_203 E)) (ax_sn_leaf (r_X3_init_200 E))) (ax_sn_leaf (r_X3_init_199 E))) (ax_sn_node (ax_sn_leaf (r_X3_init_196 E)) (ax_sn_leaf (r_X3_init_194 E))))) (ax_sn_node (ax_sn_node (ax_sn_node (ax_sn_node (ax_sn_leaf (r_X3_init_191 E)) (ax_sn_leaf (r_X3_init_190 E))) (ax_sn_leaf (r_X3_init_187 E))) (ax_sn_node (ax_sn_leaf (r_X3_init_185 E)) (ax_sn_leaf (r_X3_init_183 E)))) (ax_sn_node (ax_sn_node (ax_sn_node (ax_sn_leaf (r_X3_init_182 E)) (ax_sn_leaf (r_X3_init_179 E))) (ax_sn_leaf (r_X3_init_177 E))) (ax_sn_node (ax_sn_leaf (r_X3_init_176 E)) (ax_sn_leaf (r_X3_init_175 E)))))))) (ax_sn_node (ax_sn_node (ax_sn_node (ax_sn_node (ax_sn_node (ax_sn_node (ax_sn_node (ax_sn_leaf (r_X3_init_172 E)) (ax_sn_leaf (r_X3_init_170 E))) (ax_sn_leaf (r_X3_init_167 E))) (ax_sn_node (ax_sn_node (ax_sn_leaf (r_X3_init_166 E)) (ax_sn_leaf (r_X3_init_163 E))) (ax_sn_leaf (r_X3_init_161 E)))) (ax_sn_node (ax_sn_node (ax_sn_node (ax_sn_leaf (r_X3_init_158 E)) (ax_sn_leaf (r_X3_init_157 E))) (ax_sn_leaf (r_X3_init_154 E))) (ax_sn_node (ax_sn_leaf (r_X3_init_152 E)) (ax_sn_leaf (r_X3_init_150 E))))) (ax_sn_node (ax_sn_node (ax_sn_node (ax_sn_node (ax_sn_leaf (r_X3_init_149 E)) (ax_sn_leaf (r_X3_init_146 E))) (ax_sn_leaf (r_X3_init_144 E))) (ax_sn_node (ax_sn_node (ax_sn_leaf (r_X3_init_142 E)) (ax_sn_leaf (r_X3_init_141 E))) (ax_sn_leaf (r_X3_init_138 E)))) (ax_sn_node (ax_sn_node (ax_sn_node (ax_sn_leaf (r_X3_init_136 E)) (ax_sn_leaf (r_X3_init_134 E))) (ax_sn_leaf (r_X3_init_133 E))) (ax_sn_node (ax_sn_leaf (r_X3_init_130 E)) (ax_sn_leaf (r_X3_init_128 E)))))) (ax_sn_node (ax_sn_node (ax_sn_node (ax_sn_node (ax_sn_node (ax_sn_leaf (r_X3_init_127 E)) (ax_sn_leaf (r_X3_init_126 E))) (ax_sn_leaf (r_X3_init_123 E))) (ax_sn_node (ax_sn_node (ax_sn_leaf (r_X3_init_121 E)) (ax_sn_leaf (r_X3_init_118 E))) (ax_sn_leaf (r_X3_init_117 E)))) (ax_sn_node (ax_sn_node (ax_sn_node (ax_sn_leaf (r_X3_init_114 E)) (ax_sn_leaf (r_X3_init_112 E))) (ax_sn_leaf (r_X3_init_109 E))) (ax_sn_node (ax_sn_leaf (r_X3_init_108 E)) (ax_sn_leaf (r_X3_init_105 E))))) (ax_sn_node (ax_sn_node (ax_sn_node (ax_sn_node (ax_sn_leaf (r_X3_init_103 E)) (ax_sn_leaf (r_X3_init_100 E))) (ax_sn_leaf (r_X3_init_99 E))) (ax_sn_node (ax_sn_leaf (r_X3_init_96 E)) (ax_sn_leaf (r_X3_init_94 E)))) (ax_sn_node (ax_sn_node (ax_sn_node (ax_sn_leaf (r_X3_init_92 E)) (ax_sn_leaf (r_X3_init_91 E))) (ax_sn_leaf (r_X3_init_88 E))) (ax_sn_node (ax_sn_leaf (r_X3_init_86 E)) (ax_sn_leaf (r_X3_init_84 E))))))) (ax_sn_node (ax_sn_node (ax_sn_node (ax_sn_node (ax_sn_node (ax_sn_node (ax_sn_leaf (r_X3_init_83 E)) (ax_sn_leaf (r_X3_init_80 E))) (ax_sn_leaf (r_X3_init_78 E))) (ax_sn_node (ax_sn_node (ax_sn_leaf (r_X3_init_76 E)) (ax_sn_leaf (r_X3_init_75 E))) (ax_sn_leaf (r_X3_init_72 E)))) (ax_sn_node (ax_sn_node (ax_sn_node (ax_sn_leaf (r_X3_init_70 E)) (ax_sn_leaf (r_X3_init_68 E))) (ax_sn_leaf (r_X3_init_67 E))) (ax_sn_node (ax_sn_leaf (r_X3_init_64 E)) (ax_sn_leaf (r_X3_init_62 E))))) (ax_sn_node (ax_sn_node (ax_sn_node (ax_sn_node (ax_sn_leaf (r_X3_init_60 E)) (ax_sn_leaf (r_X3_init_59 E))) (ax_sn_leaf (r_X3_init_56 E))) (ax_sn_node (ax_sn_node (ax_sn_leaf (r_X3_init_54 E)) (ax_sn_leaf (r_X3_init_52 E))) (ax_sn_leaf (r_X3_init_51 E)))) (ax_sn_node (ax_sn_node (ax_sn_node (ax_sn_leaf (r_X3_init_48 E)) (ax_sn_leaf (r_X3_init_46 E))) (ax_sn_leaf (r_X3_init_45 E))) (ax_sn_node (ax_sn_leaf (r_X3_init_44 E)) (ax_sn_leaf (r_X3_init_41 E)))))) (ax_sn_node (ax_sn_node (ax_sn_node (ax_sn_node (ax_sn_node (ax_sn_leaf (r_X3_init_39 E)) (ax_sn_leaf (r_X3_init_38 E))) (ax_sn_leaf (r_X3_init_37 E))) (ax_sn_node (ax_sn_node (ax_sn_leaf (r_X3_init_34 E)) (ax_sn_leaf (r_X3_init_32 E))) (ax_sn_leaf (r_X3_init_31 E)))) (ax_sn_node (ax_sn_node (ax_sn_node (ax_sn_leaf (r_X3_init_30 E)) (ax_sn_leaf (r_X3_init_27 E))) (ax_sn_leaf (r_X3_init_25 E))) (ax_sn_node (ax_sn_leaf (r_X3_init_22 E)) (ax_sn_leaf (r_X3_init_21 E))))) (ax_sn_node (ax_sn_node (ax_sn_node (ax_sn_node (ax_sn_leaf (r_X3_init_18 E)) (ax_sn_leaf (r_X3_init_16 E))) (ax_sn_leaf (r_X3_init_13 E))) (ax_sn_node (ax_sn_leaf (r_X3_init_12 E)) (ax_sn_leaf (r_X3_init_9 E)))) (ax_sn_node (ax_sn_node (ax_sn_node (ax_sn_leaf (r_X3_init_7 E)) (ax_sn_leaf (r_X3_init_5 E))) (ax_sn_leaf (r_X3_init_4 E))) (ax_sn_node (ax_sn_leaf (r_X3_init_1 E)) (ax_sn_leaf (r_X3_init_0 E)))))))))⟩
theorem r_X3_formats_0 (E : ax_EN G l) : ax_Snd G l ax_Ym M_X3_formats 0 (S_push (.int (0)) 1) := k_iconst dX3_formats_0 rfl
theorem r_X3_formats_1 (E : ax_EN G l) : ax_Snd G l ax_Ym M_X3_formats 1 (S_istore 1 2) := k_istore_n dX3_formats_1 rfl (Nat.le_of_ble_eq_true rfl)
theorem r_X3_formats_2 (E : ax_EN G l) : ax_Snd G l ax_Ym M_X3_formats 2 (S_iload 1 3) := k_iload_n dX3_formats_2 rfl
theorem r_X3_formats_3 (E : ax_EN G l) : ax_Snd G l ax_Ym M_X3_formats 3 (S_push (.int (256)) 6) := k_sipush dX3_formats_3 rfl
theorem r_X3_formats_6 (E : ax_EN G l) : ax_Snd G l ax_Ym M_X3_formats 6 (S_if2 (fun x y => decide (y ≤ x)) 22 9) := k_icmp_ge dX3_formats_6 rfl
theorem r_X3_formats_9 (E : ax_EN G l) : ax_Snd G l ax_Ym M_X3_formats 9 (S_aload 0 10) := k_aload_n dX3_formats_9 rfl
theorem r_X3_formats_10 (E : ax_EN G l) : ax_Snd G l ax_Ym M_X3_formats 10 (S_getf [(38, 50)] 13) := k_getf (en_F E) (ax_fes_cons (fe_402 E) ax_fes_nil) q2803 dX3_formats_10
theorem r_X3_formats_13 (E : ax_EN G l) : ax_Snd G l ax_Ym M_X3_formats 13 (S_iload 1 14) := k_iload_n dX3_formats_13 rfl
theorem r_X3_formats_14 (E : ax_EN G l) : ax_Snd G l ax_Ym M_X3_formats 14 (S_push (.int (0)) 15) := k_iconst dX3_formats_14 rfl
theorem r_X3_formats_15 (E : ax_EN G l) : ax_Snd G l ax_Ym M_X3_formats 15 (S_iast 0 (fun x => x) 16) := k_iast (en_F E) dX3_formats_15
theorem r_X3_formats_16 (E : ax_EN G l) : ax_Snd G l ax_Ym M_X3_formats 16 (S_iinc 1 (1) 19) := k_iinc dX3_formats_16 rfl (Nat.le_of_ble_eq_true rfl)
theorem r_X3_formats_19 (E : ax_EN G l) : ax_Snd G l ax_Ym M_X3_formats 19 (S_goto 2) := k_goto dX3_formats_19 rfl
theorem r_X3_formats_22 (E : ax_EN G l) : ax_Snd G l ax_Ym M_X3_formats 22 (S_aload 0 23) := k_aload_n dX3_formats_22 rfl
theorem r_X3_formats_23 (E : ax_EN G l) : ax_Snd G l ax_Ym M_X3_formats 23 (S_getf [(38, 50)] 26) := k_getf (en_F E) (ax_fes_cons (fe_402 E) ax_fes_nil) q2803 dX3_formats_23
theorem r_X3_formats_26 (E : ax_EN G l) : ax_Snd G l ax_Ym M_X3_formats 26 (S_push (.int (32)) 28) := k_bipush dX3_formats_26 rfl
theorem r_X3_formats_28 (E : ax_EN G l) : ax_Snd G l ax_Ym M_X3_formats 28 (S_push (.int (255)) 31) := k_sipush dX3_formats_28 rfl
theorem r_X3_formats_31 (E : ax_EN G l) : ax_Snd G l ax_Ym M_X3_formats 31 (S_iast 0 (fun x => x) 32) := k_iast (en_F E) dX3_formats_31
theorem r_X3_formats_32 (E : ax_EN G l) : ax_Snd G l ax_Ym M_X3_formats 32 (S_aload 0 33) := k_aload_n dX3_formats_32 rfl
theorem r_X3_formats_33 (E : ax_EN G l) : ax_Snd G l ax_Ym M_X3_formats 33 (S_push (.int (0)) 34) := k_iconst dX3_formats_33 rfl
theorem r_X3_formats_34 (E : ax_EN G l) : ax_Snd G l ax_Ym M_X3_formats 34 (S_putf [(38, 52)] (.int) 37) := k_putf (en_F E) (en_P E) (ax_fes_cons (fe_440 E) ax_fes_nil) (ax_fps_cons (fp_441 E) ax_fps_nil) q2805 dX3_formats_34
theorem r_X3_formats_37 (E : ax_EN G l) : ax_Snd G l ax_Ym M_X3_formats 37 (S_ret) := k_ret dX3_formats_37 rfl
theorem mt_X3_formats (E : ax_EN G l) : ax_mt G l ax_Ym (2, P_X3_formats) (ax_Ym 371) := ⟨M_X3_formats, yX3_formats, ⟨rfl, by decide +kernel, rfl, (fun h => by cases h), Or.inl ⟨rfl, rfl⟩⟩, fun pc => (ax_sn_node (ax_sn_node (ax_sn_node (ax_sn_node (ax_sn_node (ax_sn_leaf (r_X3_formats_37 E)) (ax_sn_leaf (r_X3_formats_34 E))) (ax_sn_leaf (r_X3_formats_33 E))) (ax_sn_node (ax_sn_node (ax_sn_leaf (r_X3_formats_32 E)) (ax_sn_leaf (r_X3_formats_31 E))) (ax_sn_leaf (r_X3_formats_28 E)))) (ax_sn_node (ax_sn_node (ax_sn_node (ax_sn_leaf (r_X3_formats_26 E)) (ax_sn_leaf (r_X3_formats_23 E))) (ax_sn_leaf (r_X3_formats_22 E))) (ax_sn_node (ax_sn_leaf (r_X3_formats_19 E)) (ax_sn_leaf (r_X3_formats_16 E))))) (ax_sn_node (ax_sn_node (ax_sn_node (ax_sn_node (ax_sn_leaf (r_X3_formats_15 E)) (ax_sn_leaf (r_X3_formats_14 E))) (ax_sn_leaf (r_X3_formats_13 E))) (ax_sn_node (ax_sn_leaf (r_X3_formats_10 E)) (ax_sn_leaf (r_X3_formats_9 E)))) (ax_sn_node (ax_sn_node (ax_sn_node (ax_sn_leaf (r_X3_formats_6 E)) (ax_sn_leaf (r_X3_formats_3 E))) (ax_sn_leaf (r_X3_formats_2 E))) (ax_sn_node (ax_sn_leaf (r_X3_formats_1 E)) (ax_sn_leaf (r_X3_formats_0 E))))))⟩
theorem r_X3_thrown_0 (E : ax_EN G l) : ax_Snd G l ax_Ym M_X3_thrown 0 (S_aload 0 1) := k_aload_n dX3_thrown_0 rfl
theorem r_X3_thrown_1 (E : ax_EN G l) : ax_Snd G l ax_Ym M_X3_thrown 1 (S_getf [(38, 0)] 4) := k_getf (en_F E) (ax_fes_cons (fe_442 E) ax_fes_nil) q2753 dX3_thrown_1
theorem r_X3_thrown_4 (E : ax_EN G l) : ax_Snd G l ax_Ym M_X3_thrown 4 (S_iret) := k_iret dX3_thrown_4 rfl
theorem mt_X3_thrown (E : ax_EN G l) : ax_mt G l ax_Ym (1, P_X3_thrown) (ax_Ym 372) := ⟨M_X3_thrown, yX3_thrown, ⟨rfl, by decide +kernel, rfl, (fun h => by cases h), Or.inl ⟨rfl, rfl⟩⟩, fun pc => (ax_sn_node (ax_sn_node (ax_sn_leaf (r_X3_thrown_4 E)) (ax_sn_leaf (r_X3_thrown_1 E))) (ax_sn_leaf (r_X3_thrown_0 E)))⟩
theorem r_X3_clear_0 (E : ax_EN G l) : ax_Snd G l ax_Ym M_X3_clear 0 (S_aload 0 1) := k_aload_n dX3_clear_0 rfl
theorem r_X3_clear_1 (E : ax_EN G l) : ax_Snd G l ax_Ym M_X3_clear 1 (S_push (.int (0)) 2) := k_iconst dX3_clear_1 rfl
theorem r_X3_clear_2 (E : ax_EN G l) : ax_Snd G l ax_Ym M_X3_clear 2 (S_putf [(38, 0)] (.int) 5) := k_putf (en_F E) (en_P E) (ax_fes_cons (fe_442 E) ax_fes_nil) (ax_fps_cons (fp_443 E) ax_fps_nil) q2753 dX3_clear_2
theorem r_X3_clear_5 (E : ax_EN G l) : ax_Snd G l ax_Ym M_X3_clear 5 (S_aload 0 6) := k_aload_n dX3_clear_5 rfl
theorem r_X3_clear_6 (E : ax_EN G l) : ax_Snd G l ax_Ym M_X3_clear 6 (S_getf [(38, 1)] 9) := k_getf (en_F E) (ax_fes_cons (fe_444 E) ax_fes_nil) q2754 dX3_clear_6
theorem r_X3_clear_9 (E : ax_EN G l) : ax_Snd G l ax_Ym M_X3_clear 9 (S_istore 1 10) := k_istore_n dX3_clear_9 rfl (Nat.le_of_ble_eq_true rfl)
theorem r_X3_clear_10 (E : ax_EN G l) : ax_Snd G l ax_Ym M_X3_clear 10 (S_aload 0 11) := k_aload_n dX3_clear_10 rfl
theorem r_X3_clear_11 (E : ax_EN G l) : ax_Snd G l ax_Ym M_X3_clear 11 (S_push (.int (0)) 12) := k_iconst dX3_clear_11 rfl
theorem r_X3_clear_12 (E : ax_EN G l) : ax_Snd G l ax_Ym M_X3_clear 12 (S_putf [(38, 1)] (.int) 15) := k_putf (en_F E) (en_P E) (ax_fes_cons (fe_444 E) ax_fes_nil) (ax_fps_cons (fp_445 E) ax_fps_nil) q2754 dX3_clear_12
theorem r_X3_clear_15 (E : ax_EN G l) : ax_Snd G l ax_Ym M_X3_clear 15 (S_iload 1 16) := k_iload_n dX3_clear_15 rfl
theorem r_X3_clear_16 (E : ax_EN G l) : ax_Snd G l ax_Ym M_X3_clear 16 (S_iret) := k_iret dX3_clear_16 rfl
theorem mt_X3_clear (E : ax_EN G l) : ax_mt G l ax_Ym (2, P_X3_clear) (ax_Ym 373) := ⟨M_X3_clear, yX3_clear, ⟨rfl, by decide +kernel, rfl, (fun h => by cases h), Or.inl ⟨rfl, rfl⟩⟩, fun pc => (ax_sn_node (ax_sn_node (ax_sn_node (ax_sn_node (ax_sn_leaf (r_X3_clear_16 E)) (ax_sn_leaf (r_X3_clear_15 E))) (ax_sn_leaf (r_X3_clear_12 E))) (ax_sn_node (ax_sn_node (ax_sn_leaf (r_X3_clear_11 E)) (ax_sn_leaf (r_X3_clear_10 E))) (ax_sn_leaf (r_X3_clear_9 E)))) (ax_sn_node (ax_sn_node (ax_sn_node (ax_sn_leaf (r_X3_clear_6 E)) (ax_sn_leaf (r_X3_clear_5 E))) (ax_sn_leaf (r_X3_clear_2 E))) (ax_sn_node (ax_sn_leaf (r_X3_clear_1 E)) (ax_sn_leaf (r_X3_clear_0 E)))))⟩
theorem r_X3_lines_0 (E : ax_EN G l) : ax_Snd G l ax_Ym M_X3_lines 0 (S_aload 0 1) := k_aload_n dX3_lines_0 rfl
theorem r_X3_lines_1 (E : ax_EN G l) : ax_Snd G l ax_Ym M_X3_lines 1 (S_push (.int (0)) 2) := k_iconst dX3_lines_1 rfl
theorem r_X3_lines_2 (E : ax_EN G l) : ax_Snd G l ax_Ym M_X3_lines 2 (S_putf [(38, 0)] (.int) 5) := k_putf (en_F E) (en_P E) (ax_fes_cons (fe_442 E) ax_fes_nil) (ax_fps_cons (fp_443 E) ax_fps_nil) q2753 dX3_lines_2
theorem r_X3_lines_5 (E : ax_EN G l) : ax_Snd G l ax_Ym M_X3_lines 5 (S_aload 0 6) := k_aload_n dX3_lines_5 rfl
theorem r_X3_lines_6 (E : ax_EN G l) : ax_Snd G l ax_Ym M_X3_lines 6 (S_getf [(38, 1)] 9) := k_getf (en_F E) (ax_fes_cons (fe_444 E) ax_fes_nil) q2754 dX3_lines_6
theorem r_X3_lines_9 (E : ax_EN G l) : ax_Snd G l ax_Ym M_X3_lines 9 (S_iret) := k_iret dX3_lines_9 rfl
theorem mt_X3_lines (E : ax_EN G l) : ax_mt G l ax_Ym (1, P_X3_lines) (ax_Ym 374) := ⟨M_X3_lines, yX3_lines, ⟨rfl, by decide +kernel, rfl, (fun h => by cases h), Or.inl ⟨rfl, rfl⟩⟩, fun pc => (ax_sn_node (ax_sn_node (ax_sn_node (ax_sn_leaf (r_X3_lines_9 E)) (ax_sn_leaf (r_X3_lines_6 E))) (ax_sn_leaf (r_X3_lines_5 E))) (ax_sn_node (ax_sn_node (ax_sn_leaf (r_X3_lines_2 E)) (ax_sn_leaf (r_X3_lines_1 E))) (ax_sn_leaf (r_X3_lines_0 E))))⟩
theorem r_X3_section_0 (E : ax_EN G l) : ax_Snd G l ax_Ym M_X3_section 0 (S_aload 0 1) := k_aload_n dX3_section_0 rfl
theorem r_X3_section_1 (E : ax_EN G l) : ax_Snd G l ax_Ym M_X3_section 1 (S_iload 1 2) := k_iload_n dX3_section_1 rfl
theorem r_X3_section_2 (E : ax_EN G l) : ax_Snd G l ax_Ym M_X3_section 2 (S_push (.int (0)) 3) := k_iconst dX3_section_2 rfl
theorem r_X3_section_3 (E : ax_EN G l) : ax_Snd G l ax_Ym M_X3_section 3 (S_push (.int (1)) 4) := k_iconst dX3_section_3 rfl
theorem r_X3_section_4 (E : ax_EN G l) : ax_Snd G l ax_Ym M_X3_section 4 (S_is 376 3 7 hd_0) := k_is (en_F E) (ax_ok0 E rfl) ((ev_s y_X3_in q2992 q2993 q126 q2994 nm_X3_in (Nat.le_of_ble_eq_true rfl) dX3_section_4) : ax_EvS G l ax_Ym M_X3_section 4 376 3 3)
theorem r_X3_section_7 (E : ax_EN G l) : ax_Snd G l ax_Ym M_X3_section 7 (S_push (.int (0)) 8) := k_iconst dX3_section_7 rfl
theorem r_X3_section_8 (E : ax_EN G l) : ax_Snd G l ax_Ym M_X3_section 8 (S_iload 1 9) := k_iload_n dX3_section_8 rfl
theorem r_X3_section_9 (E : ax_EN G l) : ax_Snd G l ax_Ym M_X3_section 9 (S_push (.int (0)) 10) := k_iconst dX3_section_9 rfl
theorem r_X3_section_10 (E : ax_EN G l) : ax_Snd G l ax_Ym M_X3_section 10 (S_push (.int (0)) 11) := k_iconst dX3_section_10 rfl
theorem r_X3_section_11 (E : ax_EN G l) : ax_Snd G l ax_Ym M_X3_section 11 (S_push (.int (0)) 12) := k_iconst dX3_section_11 rfl
theorem r_X3_section_12 (E : ax_EN G l) : ax_Snd G l ax_Ym M_X3_section 12 (S_push (.int (0)) 13) := k_iconst dX3_section_12 rfl
theorem r_X3_section_13 (E : ax_EN G l) : ax_Snd G l ax_Ym M_X3_section 13 (S_iv [(38, 377)] 7 16 hd_0) := k_iv (en_F E) (ax_ok0 E rfl) (ax_Evs_cons ((ev_v (en_c E (k := 38) rfl) rfl y_X3_adds q2995 q2997 qs60 q126 q2998 nm_X3_adds (Nat.le_of_ble_eq_true rfl) dX3_section_13) : ax_EvV G l ax_Ym M_X3_section 13 7 3 38 377) ax_Evs_nil)
theorem r_X3_section_16 (E : ax_EN G l) : ax_Snd G l ax_Ym M_X3_section 16 (S_iret) := k_iret dX3_section_16 rfl
theorem mt_X3_section (E : ax_EN G l) : ax_mt G l ax_Ym (2, P_X3_section) (ax_Ym 375) := ⟨M_X3_section, yX3_section, ⟨rfl, by decide +kernel, rfl, (fun h => by cases h), Or.inl ⟨rfl, rfl⟩⟩, fun pc => (ax_sn_node (ax_sn_node (ax_sn_node (ax_sn_node (ax_sn_leaf (r_X3_section_16 E)) (ax_sn_leaf (r_X3_section_13 E))) (ax_sn_node (ax_sn_leaf (r_X3_section_12 E)) (ax_sn_leaf (r_X3_section_11 E)))) (ax_sn_node (ax_sn_node (ax_sn_leaf (r_X3_section_10 E)) (ax_sn_leaf (r_X3_section_9 E))) (ax_sn_leaf (r_X3_section_8 E)))) (ax_sn_node (ax_sn_node (ax_sn_node (ax_sn_leaf (r_X3_section_7 E)) (ax_sn_leaf (r_X3_section_4 E))) (ax_sn_leaf (r_X3_section_3 E))) (ax_sn_node (ax_sn_node (ax_sn_leaf (r_X3_section_2 E)) (ax_sn_leaf (r_X3_section_1 E))) (ax_sn_leaf (r_X3_section_0 E)))))⟩
theorem r_X3_in_0 (E : ax_EN G l) : ax_Snd G l ax_Ym M_X3_in 0 (S_iload 0 1) := k_iload_n dX3_in_0 rfl
theorem r_X3_in_1 (E : ax_EN G l) : ax_Snd G l ax_Ym M_X3_in 1 (S_iload 1 2) := k_iload_n dX3_in_1 rfl
theorem r_X3_in_2 (E : ax_EN G l) : ax_Snd G l ax_Ym M_X3_in 2 (S_if2 (fun x y => decide (x < y)) 14 5) := k_icmp_lt dX3_in_2 rfl
theorem r_X3_in_5 (E : ax_EN G l) : ax_Snd G l ax_Ym M_X3_in 5 (S_iload 0 6) := k_iload_n dX3_in_5 rfl
theorem r_X3_in_6 (E : ax_EN G l) : ax_Snd G l ax_Ym M_X3_in 6 (S_iload 2 7) := k_iload_n dX3_in_6 rfl
theorem r_X3_in_7 (E : ax_EN G l) : ax_Snd G l ax_Ym M_X3_in 7 (S_if2 (fun x y => decide (y < x)) 14 10) := k_icmp_gt dX3_in_7 rfl
theorem r_X3_in_10 (E : ax_EN G l) : ax_Snd G l ax_Ym M_X3_in 10 (S_push (.int (1)) 11) := k_iconst dX3_in_10 rfl
theorem r_X3_in_11 (E : ax_EN G l) : ax_Snd G l ax_Ym M_X3_in 11 (S_goto 15) := k_goto dX3_in_11 rfl
theorem r_X3_in_14 (E : ax_EN G l) : ax_Snd G l ax_Ym M_X3_in 14 (S_push (.int (0)) 15) := k_iconst dX3_in_14 rfl
theorem r_X3_in_15 (E : ax_EN G l) : ax_Snd G l ax_Ym M_X3_in 15 (S_zret) := k_zret dX3_in_15 rfl
theorem mt_X3_in (E : ax_EN G l) : ax_mt G l ax_Ym (3, P_X3_in) (ax_Ym 376) := ⟨M_X3_in, yX3_in, ⟨rfl, by decide +kernel, rfl, (fun h => by cases h), Or.inl ⟨rfl, rfl⟩⟩, fun pc => (ax_sn_node (ax_sn_node (ax_sn_node (ax_sn_node (ax_sn_leaf (r_X3_in_15 E)) (ax_sn_leaf (r_X3_in_14 E))) (ax_sn_leaf (r_X3_in_11 E))) (ax_sn_node (ax_sn_leaf (r_X3_in_10 E)) (ax_sn_leaf (r_X3_in_7 E)))) (ax_sn_node (ax_sn_node (ax_sn_node (ax_sn_leaf (r_X3_in_6 E)) (ax_sn_leaf (r_X3_in_5 E))) (ax_sn_leaf (r_X3_in_2 E))) (ax_sn_node (ax_sn_leaf (r_X3_in_1 E)) (ax_sn_leaf (r_X3_in_0 E)))))⟩
theorem r_X3_adds_0 (E : ax_EN G l) : ax_Snd G l ax_Ym M_X3_adds 0 (S_aload 0 1) := k_aload_n dX3_adds_0 rfl
theorem r_X3_adds_1 (E : ax_EN G l) : ax_Snd G l ax_Ym M_X3_adds 1 (S_iload 1 2) := k_iload_n dX3_adds_1 rfl
theorem r_X3_adds_2 (E : ax_EN G l) : ax_Snd G l ax_Ym M_X3_adds 2 (S_if1 (fun x => decide (¬ x = 0)) 9 5) := k_if_ne dX3_adds_2 rfl
theorem r_X3_adds_5 (E : ax_EN G l) : ax_Snd G l ax_Ym M_X3_adds 5 (S_push (.int (1)) 6) := k_iconst dX3_adds_5 rfl
theorem r_X3_adds_6 (E : ax_EN G l) : ax_Snd G l ax_Ym M_X3_adds 6 (S_goto 23) := k_goto dX3_adds_6 rfl
theorem r_X3_adds_9 (E : ax_EN G l) : ax_Snd G l ax_Ym M_X3_adds 9 (S_aload 0 10) := k_aload_n dX3_adds_9 rfl
theorem r_X3_adds_10 (E : ax_EN G l) : ax_Snd G l ax_Ym M_X3_adds 10 (S_getf [(38, 1)] 13) := k_getf (en_F E) (ax_fes_cons (fe_444 E) ax_fes_nil) q2754 dX3_adds_10
theorem r_X3_adds_13 (E : ax_EN G l) : ax_Snd G l ax_Ym M_X3_adds 13 (S_push (.int (100)) 15) := k_bipush dX3_adds_13 rfl
theorem r_X3_adds_15 (E : ax_EN G l) : ax_Snd G l ax_Ym M_X3_adds 15 (S_if2 (fun x y => decide (¬ x = y)) 22 18) := k_icmp_ne dX3_adds_15 rfl
theorem r_X3_adds_18 (E : ax_EN G l) : ax_Snd G l ax_Ym M_X3_adds 18 (S_push (.int (2)) 19) := k_iconst dX3_adds_18 rfl
theorem r_X3_adds_19 (E : ax_EN G l) : ax_Snd G l ax_Ym M_X3_adds 19 (S_goto 23) := k_goto dX3_adds_19 rfl
theorem r_X3_adds_22 (E : ax_EN G l) : ax_Snd G l ax_Ym M_X3_adds 22 (S_push (.int (0)) 23) := k_iconst dX3_adds_22 rfl
theorem r_X3_adds_23 (E : ax_EN G l) : ax_Snd G l ax_Ym M_X3_adds 23 (S_iv [(38, 378)] 1 26 hd_0) := k_iv (en_F E) (ax_ok0 E rfl) (ax_Evs_cons ((ev_v (en_c E (k := 38) rfl) rfl y_X3_holds q2999 q3001 qs61 q126 q3002 nm_X3_holds (Nat.le_of_ble_eq_true rfl) dX3_adds_23) : ax_EvV G l ax_Ym M_X3_adds 23 1 3 38 378) ax_Evs_nil)
theorem r_X3_adds_26 (E : ax_EN G l) : ax_Snd G l ax_Ym M_X3_adds 26 (S_if1 (fun x => decide (¬ x = 0)) 31 29) := k_if_ne dX3_adds_26 rfl
theorem r_X3_adds_29 (E : ax_EN G l) : ax_Snd G l ax_Ym M_X3_adds 29 (S_push (.int (0)) 30) := k_iconst dX3_adds_29 rfl
theorem r_X3_adds_30 (E : ax_EN G l) : ax_Snd G l ax_Ym M_X3_adds 30 (S_iret) := k_iret dX3_adds_30 rfl
theorem r_X3_adds_31 (E : ax_EN G l) : ax_Snd G l ax_Ym M_X3_adds 31 (S_aload 0 32) := k_aload_n dX3_adds_31 rfl
theorem r_X3_adds_32 (E : ax_EN G l) : ax_Snd G l ax_Ym M_X3_adds 32 (S_getf [(38, 2)] 35) := k_getf (en_F E) (ax_fes_cons (fe_356 E) ax_fes_nil) q2755 dX3_adds_32
theorem r_X3_adds_35 (E : ax_EN G l) : ax_Snd G l ax_Ym M_X3_adds 35 (S_aload 0 36) := k_aload_n dX3_adds_35 rfl
theorem r_X3_adds_36 (E : ax_EN G l) : ax_Snd G l ax_Ym M_X3_adds 36 (S_getf [(38, 1)] 39) := k_getf (en_F E) (ax_fes_cons (fe_444 E) ax_fes_nil) q2754 dX3_adds_36
theorem r_X3_adds_39 (E : ax_EN G l) : ax_Snd G l ax_Ym M_X3_adds 39 (S_iload 2 40) := k_iload_n dX3_adds_39 rfl
theorem r_X3_adds_40 (E : ax_EN G l) : ax_Snd G l ax_Ym M_X3_adds 40 (S_iast 0 (fun x => x) 41) := k_iast (en_F E) dX3_adds_40
theorem r_X3_adds_41 (E : ax_EN G l) : ax_Snd G l ax_Ym M_X3_adds 41 (S_aload 0 42) := k_aload_n dX3_adds_41 rfl
theorem r_X3_adds_42 (E : ax_EN G l) : ax_Snd G l ax_Ym M_X3_adds 42 (S_getf [(38, 3)] 45) := k_getf (en_F E) (ax_fes_cons (fe_358 E) ax_fes_nil) q2756 dX3_adds_42
theorem r_X3_adds_45 (E : ax_EN G l) : ax_Snd G l ax_Ym M_X3_adds 45 (S_push (.int (5)) 46) := k_iconst dX3_adds_45 rfl
theorem r_X3_adds_46 (E : ax_EN G l) : ax_Snd G l ax_Ym M_X3_adds 46 (S_aload 0 47) := k_aload_n dX3_adds_46 rfl
theorem r_X3_adds_47 (E : ax_EN G l) : ax_Snd G l ax_Ym M_X3_adds 47 (S_getf [(38, 1)] 50) := k_getf (en_F E) (ax_fes_cons (fe_444 E) ax_fes_nil) q2754 dX3_adds_47
theorem r_X3_adds_50 (E : ax_EN G l) : ax_Snd G l ax_Ym M_X3_adds 50 (S_i2 (fun x y => x * y) 51) := k_imul dX3_adds_50
theorem r_X3_adds_51 (E : ax_EN G l) : ax_Snd G l ax_Ym M_X3_adds 51 (S_iload 3 52) := k_iload_n dX3_adds_51 rfl
theorem r_X3_adds_52 (E : ax_EN G l) : ax_Snd G l ax_Ym M_X3_adds 52 (S_iast 0 (fun x => x) 53) := k_iast (en_F E) dX3_adds_52
theorem r_X3_adds_53 (E : ax_EN G l) : ax_Snd G l ax_Ym M_X3_adds 53 (S_aload 0 54) := k_aload_n dX3_adds_53 rfl
theorem r_X3_adds_54 (E : ax_EN G l) : ax_Snd G l ax_Ym M_X3_adds 54 (S_getf [(38, 3)] 57) := k_getf (en_F E) (ax_fes_cons (fe_358 E) ax_fes_nil) q2756 dX3_adds_54
theorem r_X3_adds_57 (E : ax_EN G l) : ax_Snd G l ax_Ym M_X3_adds 57 (S_push (.int (5)) 58) := k_iconst dX3_adds_57 rfl
theorem r_X3_adds_58 (E : ax_EN G l) : ax_Snd G l ax_Ym M_X3_adds 58 (S_aload 0 59) := k_aload_n dX3_adds_58 rfl
theorem r_X3_adds_59 (E : ax_EN G l) : ax_Snd G l ax_Ym M_X3_adds 59 (S_getf [(38, 1)] 62) := k_getf (en_F E) (ax_fes_cons (fe_444 E) ax_fes_nil) q2754 dX3_adds_59
theorem r_X3_adds_62 (E : ax_EN G l) : ax_Snd G l ax_Ym M_X3_adds 62 (S_i2 (fun x y => x * y) 63) := k_imul dX3_adds_62
theorem r_X3_adds_63 (E : ax_EN G l) : ax_Snd G l ax_Ym M_X3_adds 63 (S_push (.int (1)) 64) := k_iconst dX3_adds_63 rfl
theorem r_X3_adds_64 (E : ax_EN G l) : ax_Snd G l ax_Ym M_X3_adds 64 (S_i2 (fun x y => x + y) 65) := k_iadd dX3_adds_64
theorem r_X3_adds_65 (E : ax_EN G l) : ax_Snd G l ax_Ym M_X3_adds 65 (S_iload 4 67) := k_iload dX3_adds_65
theorem r_X3_adds_67 (E : ax_EN G l) : ax_Snd G l ax_Ym M_X3_adds 67 (S_iast 0 (fun x => x) 68) := k_iast (en_F E) dX3_adds_67
theorem r_X3_adds_68 (E : ax_EN G l) : ax_Snd G l ax_Ym M_X3_adds 68 (S_aload 0 69) := k_aload_n dX3_adds_68 rfl
theorem r_X3_adds_69 (E : ax_EN G l) : ax_Snd G l ax_Ym M_X3_adds 69 (S_getf [(38, 3)] 72) := k_getf (en_F E) (ax_fes_cons (fe_358 E) ax_fes_nil) q2756 dX3_adds_69
theorem r_X3_adds_72 (E : ax_EN G l) : ax_Snd G l ax_Ym M_X3_adds 72 (S_push (.int (5)) 73) := k_iconst dX3_adds_72 rfl
theorem r_X3_adds_73 (E : ax_EN G l) : ax_Snd G l ax_Ym M_X3_adds 73 (S_aload 0 74) := k_aload_n dX3_adds_73 rfl
theorem r_X3_adds_74 (E : ax_EN G l) : ax_Snd G l ax_Ym M_X3_adds 74 (S_getf [(38, 1)] 77) := k_getf (en_F E) (ax_fes_cons (fe_444 E) ax_fes_nil) q2754 dX3_adds_74
theorem r_X3_adds_77 (E : ax_EN G l) : ax_Snd G l ax_Ym M_X3_adds 77 (S_i2 (fun x y => x * y) 78) := k_imul dX3_adds_77
theorem r_X3_adds_78 (E : ax_EN G l) : ax_Snd G l ax_Ym M_X3_adds 78 (S_push (.int (2)) 79) := k_iconst dX3_adds_78 rfl
theorem r_X3_adds_79 (E : ax_EN G l) : ax_Snd G l ax_Ym M_X3_adds 79 (S_i2 (fun x y => x + y) 80) := k_iadd dX3_adds_79
theorem r_X3_adds_80 (E : ax_EN G l) : ax_Snd G l ax_Ym M_X3_adds 80 (S_iload 5 82) := k_iload dX3_adds_80
theorem r_X3_adds_82 (E : ax_EN G l) : ax_Snd G l ax_Ym M_X3_adds 82 (S_iast 0 (fun x => x) 83) := k_iast (en_F E) dX3_adds_82
theorem r_X3_adds_83 (E : ax_EN G l) : ax_Snd G l ax_Ym M_X3_adds 83 (S_aload 0 84) := k_aload_n dX3_adds_83 rfl
theorem r_X3_adds_84 (E : ax_EN G l) : ax_Snd G l ax_Ym M_X3_adds 84 (S_getf [(38, 3)] 87) := k_getf (en_F E) (ax_fes_cons (fe_358 E) ax_fes_nil) q2756 dX3_adds_84
theorem r_X3_adds_87 (E : ax_EN G l) : ax_Snd G l ax_Ym M_X3_adds 87 (S_push (.int (5)) 88) := k_iconst dX3_adds_87 rfl
theorem r_X3_adds_88 (E : ax_EN G l) : ax_Snd G l ax_Ym M_X3_adds 88 (S_aload 0 89) := k_aload_n dX3_adds_88 rfl
theorem r_X3_adds_89 (E : ax_EN G l) : ax_Snd G l ax_Ym M_X3_adds 89 (S_getf [(38, 1)] 92) := k_getf (en_F E) (ax_fes_cons (fe_444 E) ax_fes_nil) q2754 dX3_adds_89
theorem r_X3_adds_92 (E : ax_EN G l) : ax_Snd G l ax_Ym M_X3_adds 92 (S_i2 (fun x y => x * y) 93) := k_imul dX3_adds_92
theorem r_X3_adds_93 (E : ax_EN G l) : ax_Snd G l ax_Ym M_X3_adds 93 (S_push (.int (3)) 94) := k_iconst dX3_adds_93 rfl
theorem r_X3_adds_94 (E : ax_EN G l) : ax_Snd G l ax_Ym M_X3_adds 94 (S_i2 (fun x y => x + y) 95) := k_iadd dX3_adds_94
theorem r_X3_adds_95 (E : ax_EN G l) : ax_Snd G l ax_Ym M_X3_adds 95 (S_iload 6 97) := k_iload dX3_adds_95
theorem r_X3_adds_97 (E : ax_EN G l) : ax_Snd G l ax_Ym M_X3_adds 97 (S_iast 0 (fun x => x) 98) := k_iast (en_F E) dX3_adds_97
theorem r_X3_adds_98 (E : ax_EN G l) : ax_Snd G l ax_Ym M_X3_adds 98 (S_aload 0 99) := k_aload_n dX3_adds_98 rfl
theorem r_X3_adds_99 (E : ax_EN G l) : ax_Snd G l ax_Ym M_X3_adds 99 (S_getf [(38, 3)] 102) := k_getf (en_F E) (ax_fes_cons (fe_358 E) ax_fes_nil) q2756 dX3_adds_99
theorem r_X3_adds_102 (E : ax_EN G l) : ax_Snd G l ax_Ym M_X3_adds 102 (S_push (.int (5)) 103) := k_iconst dX3_adds_102 rfl
theorem r_X3_adds_103 (E : ax_EN G l) : ax_Snd G l ax_Ym M_X3_adds 103 (S_aload 0 104) := k_aload_n dX3_adds_103 rfl
theorem r_X3_adds_104 (E : ax_EN G l) : ax_Snd G l ax_Ym M_X3_adds 104 (S_getf [(38, 1)] 107) := k_getf (en_F E) (ax_fes_cons (fe_444 E) ax_fes_nil) q2754 dX3_adds_104
theorem r_X3_adds_107 (E : ax_EN G l) : ax_Snd G l ax_Ym M_X3_adds 107 (S_i2 (fun x y => x * y) 108) := k_imul dX3_adds_107
theorem r_X3_adds_108 (E : ax_EN G l) : ax_Snd G l ax_Ym M_X3_adds 108 (S_push (.int (4)) 109) := k_iconst dX3_adds_108 rfl
theorem r_X3_adds_109 (E : ax_EN G l) : ax_Snd G l ax_Ym M_X3_adds 109 (S_i2 (fun x y => x + y) 110) := k_iadd dX3_adds_109
theorem r_X3_adds_110 (E : ax_EN G l) : ax_Snd G l ax_Ym M_X3_adds 110 (S_iload 7 112) := k_iload dX3_adds_110
theorem r_X3_adds_112 (E : ax_EN G l) : ax_Snd G l ax_Ym M_X3_adds 112 (S_iast 0 (fun x => x) 113) := k_iast (en_F E) dX3_adds_112
theorem r_X3_adds_113 (E : ax_EN G l) : ax_Snd G l ax_Ym M_X3_adds 113 (S_aload 0 114) := k_aload_n dX3_adds_113 rfl
theorem r_X3_adds_114 (E : ax_EN G l) : ax_Snd G l ax_Ym M_X3_adds 114 (S_dup 115) := k_dup dX3_adds_114
theorem r_X3_adds_115 (E : ax_EN G l) : ax_Snd G l ax_Ym M_X3_adds 115 (S_getf [(38, 1)] 118) := k_getf (en_F E) (ax_fes_cons (fe_444 E) ax_fes_nil) q2754 dX3_adds_115
theorem r_X3_adds_118 (E : ax_EN G l) : ax_Snd G l ax_Ym M_X3_adds 118 (S_push (.int (1)) 119) := k_iconst dX3_adds_118 rfl
theorem r_X3_adds_119 (E : ax_EN G l) : ax_Snd G l ax_Ym M_X3_adds 119 (S_i2 (fun x y => x + y) 120) := k_iadd dX3_adds_119
theorem r_X3_adds_120 (E : ax_EN G l) : ax_Snd G l ax_Ym M_X3_adds 120 (S_putf [(38, 1)] (.int) 123) := k_putf (en_F E) (en_P E) (ax_fes_cons (fe_444 E) ax_fes_nil) (ax_fps_cons (fp_445 E) ax_fps_nil) q2754 dX3_adds_120
theorem r_X3_adds_123 (E : ax_EN G l) : ax_Snd G l ax_Ym M_X3_adds 123 (S_aload 0 124) := k_aload_n dX3_adds_123 rfl
theorem r_X3_adds_124 (E : ax_EN G l) : ax_Snd G l ax_Ym M_X3_adds 124 (S_getf [(38, 1)] 127) := k_getf (en_F E) (ax_fes_cons (fe_444 E) ax_fes_nil) q2754 dX3_adds_124
theorem r_X3_adds_127 (E : ax_EN G l) : ax_Snd G l ax_Ym M_X3_adds 127 (S_iret) := k_iret dX3_adds_127 rfl
theorem mt_X3_adds (E : ax_EN G l) : ax_mt G l ax_Ym (8, P_X3_adds) (ax_Ym 377) := ⟨M_X3_adds, yX3_adds, ⟨rfl, by decide +kernel, rfl, (fun h => by cases h), Or.inl ⟨rfl, rfl⟩⟩, fun pc => (ax_sn_node (ax_sn_node (ax_sn_node (ax_sn_node (ax_sn_node (ax_sn_node (ax_sn_node (ax_sn_leaf (r_X3_adds_127 E)) (ax_sn_leaf (r_X3_adds_124 E))) (ax_sn_leaf (r_X3_adds_123 E))) (ax_sn_node (ax_sn_leaf (r_X3_adds_120 E)) (ax_sn_leaf (r_X3_adds_119 E)))) (ax_sn_node (ax_sn_node (ax_sn_node (ax_sn_leaf (r_X3_adds_118 E)) (ax_sn_leaf (r_X3_adds_115 E))) (ax_sn_leaf (r_X3_adds_114 E))) (ax_sn_node (ax_sn_leaf (r_X3_adds_113 E)) (ax_sn_leaf (r_X3_adds_112 E))))) (ax_sn_node (ax_sn_node (ax_sn_node (ax_sn_node (ax_sn_leaf (r_X3_adds_110 E)) (ax_sn_leaf (r_X3_adds_109 E))) (ax_sn_leaf (r_X3_adds_108 E))) (ax_sn_node (ax_sn_leaf (r_X3_adds_107 E)) (ax_sn_leaf (r_X3_adds_104 E)))) (ax_sn_node (ax_sn_node (ax_sn_node (ax_sn_leaf (r_X3_adds_103 E)) (ax_sn_leaf (r_X3_adds_102 E))) (ax_sn_leaf (r_X3_adds_99 E))) (ax_sn_node (ax_sn_leaf (r_X3_adds_98 E)) (ax_sn_leaf (r_X3_adds_97 E)))))) (ax_sn_node (ax_sn_node (ax_sn_node (ax_sn_node (ax_sn_node (ax_sn_leaf (r_X3_adds_95 E)) (ax_sn_leaf (r_X3_adds_94 E))) (ax_sn_leaf (r_X3_adds_93 E))) (ax_sn_node (ax_sn_leaf (r_X3_adds_92 E)) (ax_sn_leaf (r_X3_adds_89 E)))) (ax_sn_node (ax_sn_node (ax_sn_node (ax_sn_leaf (r_X3_adds_88 E)) (ax_sn_leaf (r_X3_adds_87 E))) (ax_sn_leaf (r_X3_adds_84 E))) (ax_sn_node (ax_sn_leaf (r_X3_adds_83 E)) (ax_sn_leaf (r_X3_adds_82 E))))) (ax_sn_node (ax_sn_node (ax_sn_node (ax_sn_node (ax_sn_leaf (r_X3_adds_80 E)) (ax_sn_leaf (r_X3_adds_79 E))) (ax_sn_leaf (r_X3_adds_78 E))) (ax_sn_node (ax_sn_leaf (r_X3_adds_77 E)) (ax_sn_leaf (r_X3_adds_74 E)))) (ax_sn_node (ax_sn_node (ax_sn_node (ax_sn_leaf (r_X3_adds_73 E)) (ax_sn_leaf (r_X3_adds_72 E))) (ax_sn_leaf (r_X3_adds_69 E))) (ax_sn_node (ax_sn_leaf (r_X3_adds_68 E)) (ax_sn_leaf (r_X3_adds_67 E))))))) (ax_sn_node (ax_sn_node (ax_sn_node (ax_sn_node (ax_sn_node (ax_sn_node (ax_sn_leaf (r_X3_adds_65 E)) (ax_sn_leaf (r_X3_adds_64 E))) (ax_sn_leaf (r_X3_adds_63 E))) (ax_sn_node (ax_sn_leaf (r_X3_adds_62 E)) (ax_sn_leaf (r_X3_adds_59 E)))) (ax_sn_node (ax_sn_node (ax_sn_node (ax_sn_leaf (r_X3_adds_58 E)) (ax_sn_leaf (r_X3_adds_57 E))) (ax_sn_leaf (r_X3_adds_54 E))) (ax_sn_node (ax_sn_leaf (r_X3_adds_53 E)) (ax_sn_leaf (r_X3_adds_52 E))))) (ax_sn_node (ax_sn_node (ax_sn_node (ax_sn_node (ax_sn_leaf (r_X3_adds_51 E)) (ax_sn_leaf (r_X3_adds_50 E))) (ax_sn_leaf (r_X3_adds_47 E))) (ax_sn_node (ax_sn_leaf (r_X3_adds_46 E)) (ax_sn_leaf (r_X3_adds_45 E)))) (ax_sn_node (ax_sn_node (ax_sn_node (ax_sn_leaf (r_X3_adds_42 E)) (ax_sn_leaf (r_X3_adds_41 E))) (ax_sn_leaf (r_X3_adds_40 E))) (ax_sn_node (ax_sn_leaf (r_X3_adds_39 E)) (ax_sn_leaf (r_X3_adds_36 E)))))) (ax_sn_node (ax_sn_node (ax_sn_node (ax_sn_node (ax_sn_node (ax_sn_leaf (r_X3_adds_35 E)) (ax_sn_leaf (r_X3_adds_32 E))) (ax_sn_leaf (r_X3_adds_31 E))) (ax_sn_node (ax_sn_leaf (r_X3_adds_30 E)) (ax_sn_leaf (r_X3_adds_29 E)))) (ax_sn_node (ax_sn_node (ax_sn_node (ax_sn_leaf (r_X3_adds_26 E)) (ax_sn_leaf (r_X3_adds_23 E))) (ax_sn_leaf (r_X3_adds_22 E))) (ax_sn_node (ax_sn_leaf (r_X3_adds_19 E)) (ax_sn_leaf (r_X3_adds_18 E))))) (ax_sn_node (ax_sn_node (ax_sn_node (ax_sn_node (ax_sn_leaf (r_X3_adds_15 E)) (ax_sn_leaf (r_X3_adds_13 E))) (ax_sn_leaf (r_X3_adds_10 E))) (ax_sn_node (ax_sn_leaf (r_X3_adds_9 E)) (ax_sn_leaf (r_X3_adds_6 E)))) (ax_sn_node (ax_sn_node (ax_sn_leaf (r_X3_adds_5 E)) (ax_sn_leaf (r_X3_adds_2 E))) (ax_sn_node (ax_sn_leaf (r_X3_adds_1 E)) (ax_sn_leaf (r_X3_adds_0 E))))))))⟩
theorem r_X3_holds_0 (E : ax_EN G l) : ax_Snd G l ax_Ym M_X3_holds 0 (S_aload 0 1) := k_aload_n dX3_holds_0 rfl
theorem r_X3_holds_1 (E : ax_EN G l) : ax_Snd G l ax_Ym M_X3_holds 1 (S_iload 1 2) := k_iload_n dX3_holds_1 rfl
theorem r_X3_holds_2 (E : ax_EN G l) : ax_Snd G l ax_Ym M_X3_holds 2 (S_putf [(38, 0)] (.int) 5) := k_putf (en_F E) (en_P E) (ax_fes_cons (fe_442 E) ax_fes_nil) (ax_fps_cons (fp_443 E) ax_fps_nil) q2753 dX3_holds_2
theorem r_X3_holds_5 (E : ax_EN G l) : ax_Snd G l ax_Ym M_X3_holds 5 (S_iload 1 6) := k_iload_n dX3_holds_5 rfl
theorem r_X3_holds_6 (E : ax_EN G l) : ax_Snd G l ax_Ym M_X3_holds 6 (S_if1 (fun x => decide (¬ x = 0)) 13 9) := k_if_ne dX3_holds_6 rfl
theorem r_X3_holds_9 (E : ax_EN G l) : ax_Snd G l ax_Ym M_X3_holds 9 (S_push (.int (1)) 10) := k_iconst dX3_holds_9 rfl
theorem r_X3_holds_10 (E : ax_EN G l) : ax_Snd G l ax_Ym M_X3_holds 10 (S_goto 14) := k_goto dX3_holds_10 rfl
theorem r_X3_holds_13 (E : ax_EN G l) : ax_Snd G l ax_Ym M_X3_holds 13 (S_push (.int (0)) 14) := k_iconst dX3_holds_13 rfl
theorem r_X3_holds_14 (E : ax_EN G l) : ax_Snd G l ax_Ym M_X3_holds 14 (S_zret) := k_zret dX3_holds_14 rfl
theorem mt_X3_holds (E : ax_EN G l) : ax_mt G l ax_Ym (2, P_X3_holds) (ax_Ym 378) := ⟨M_X3_holds, yX3_holds, ⟨rfl, by decide +kernel, rfl, (fun h => by cases h), Or.inl ⟨rfl, rfl⟩⟩, fun pc => (ax_sn_node (ax_sn_node (ax_sn_node (ax_sn_node (ax_sn_leaf (r_X3_holds_14 E)) (ax_sn_leaf (r_X3_holds_13 E))) (ax_sn_leaf (r_X3_holds_10 E))) (ax_sn_node (ax_sn_leaf (r_X3_holds_9 E)) (ax_sn_leaf (r_X3_holds_6 E)))) (ax_sn_node (ax_sn_node (ax_sn_leaf (r_X3_holds_5 E)) (ax_sn_leaf (r_X3_holds_2 E))) (ax_sn_node (ax_sn_leaf (r_X3_holds_1 E)) (ax_sn_leaf (r_X3_holds_0 E)))))⟩
theorem r_X3_label_0 (E : ax_EN G l) : ax_Snd G l ax_Ym M_X3_label 0 (S_aload 0 1) := k_aload_n dX3_label_0 rfl
theorem r_X3_label_1 (E : ax_EN G l) : ax_Snd G l ax_Ym M_X3_label 1 (S_iload 1 2) := k_iload_n dX3_label_1 rfl
theorem r_X3_label_2 (E : ax_EN G l) : ax_Snd G l ax_Ym M_X3_label 2 (S_push (.int (0)) 3) := k_iconst dX3_label_2 rfl
theorem r_X3_label_3 (E : ax_EN G l) : ax_Snd G l ax_Ym M_X3_label 3 (S_push (.int (19)) 5) := k_bipush dX3_label_3 rfl
theorem r_X3_label_5 (E : ax_EN G l) : ax_Snd G l ax_Ym M_X3_label 5 (S_is 376 3 8 hd_0) := k_is (en_F E) (ax_ok0 E rfl) ((ev_s y_X3_in q2992 q2993 q126 q2994 nm_X3_in (Nat.le_of_ble_eq_true rfl) dX3_label_5) : ax_EvS G l ax_Ym M_X3_label 5 376 3 3)
theorem r_X3_label_8 (E : ax_EN G l) : ax_Snd G l ax_Ym M_X3_label 8 (S_push (.int (1)) 9) := k_iconst dX3_label_8 rfl
theorem r_X3_label_9 (E : ax_EN G l) : ax_Snd G l ax_Ym M_X3_label 9 (S_iload 1 10) := k_iload_n dX3_label_9 rfl
theorem r_X3_label_10 (E : ax_EN G l) : ax_Snd G l ax_Ym M_X3_label 10 (S_push (.int (0)) 11) := k_iconst dX3_label_10 rfl
theorem r_X3_label_11 (E : ax_EN G l) : ax_Snd G l ax_Ym M_X3_label 11 (S_push (.int (0)) 12) := k_iconst dX3_label_11 rfl
theorem r_X3_label_12 (E : ax_EN G l) : ax_Snd G l ax_Ym M_X3_label 12 (S_push (.int (0)) 13) := k_iconst dX3_label_12 rfl
theorem r_X3_label_13 (E : ax_EN G l) : ax_Snd G l ax_Ym M_X3_label 13 (S_push (.int (0)) 14) := k_iconst dX3_label_13 rfl
theorem r_X3_label_14 (E : ax_EN G l) : ax_Snd G l ax_Ym M_X3_label 14 (S_iv [(38, 377)] 7 17 hd_0) := k_iv (en_F E) (ax_ok0 E rfl) (ax_Evs_cons ((ev_v (en_c E (k := 38) rfl) rfl y_X3_adds q2995 q2997 qs60 q126 q2998 nm_X3_adds (Nat.le_of_ble_eq_true rfl) dX3_label_14) : ax_EvV G l ax_Ym M_X3_label 14 7 3 38 377) ax_Evs_nil)
theorem r_X3_label_17 (E : ax_EN G l) : ax_Snd G l ax_Ym M_X3_label 17 (S_iret) := k_iret dX3_label_17 rfl
theorem mt_X3_label (E : ax_EN G l) : ax_mt G l ax_Ym (2, P_X3_label) (ax_Ym 379) := ⟨M_X3_label, yX3_label, ⟨rfl, by decide +kernel, rfl, (fun h => by cases h), Or.inl ⟨rfl, rfl⟩⟩, fun pc => (ax_sn_node (ax_sn_node (ax_sn_node (ax_sn_node (ax_sn_leaf (r_X3_label_17 E)) (ax_sn_leaf (r_X3_label_14 E))) (ax_sn_node (ax_sn_leaf (r_X3_label_13 E)) (ax_sn_leaf (r_X3_label_12 E)))) (ax_sn_node (ax_sn_node (ax_sn_leaf (r_X3_label_11 E)) (ax_sn_leaf (r_X3_label_10 E))) (ax_sn_leaf (r_X3_label_9 E)))) (ax_sn_node (ax_sn_node (ax_sn_node (ax_sn_leaf (r_X3_label_8 E)) (ax_sn_leaf (r_X3_label_5 E))) (ax_sn_leaf (r_X3_label_3 E))) (ax_sn_node (ax_sn_node (ax_sn_leaf (r_X3_label_2 E)) (ax_sn_leaf (r_X3_label_1 E))) (ax_sn_leaf (r_X3_label_0 E)))))⟩
theorem r_X3_code_0 (E : ax_EN G l) : ax_Snd G l ax_Ym M_X3_code 0 (S_iload 1 1) := k_iload_n dX3_code_0 rfl
theorem r_X3_code_1 (E : ax_EN G l) : ax_Snd G l ax_Ym M_X3_code 1 (S_push (.int (0)) 2) := k_iconst dX3_code_1 rfl
theorem r_X3_code_2 (E : ax_EN G l) : ax_Snd G l ax_Ym M_X3_code 2 (S_push (.int (26)) 4) := k_bipush dX3_code_2 rfl
theorem r_X3_code_4 (E : ax_EN G l) : ax_Snd G l ax_Ym M_X3_code 4 (S_is 376 3 7 hd_0) := k_is (en_F E) (ax_ok0 E rfl) ((ev_s y_X3_in q2992 q2993 q126 q2994 nm_X3_in (Nat.le_of_ble_eq_true rfl) dX3_code_4) : ax_EvS G l ax_Ym M_X3_code 4 376 3 3)
theorem r_X3_code_7 (E : ax_EN G l) : ax_Snd G l ax_Ym M_X3_code 7 (S_if1 (fun x => decide (x = 0)) 42 10) := k_if_eq dX3_code_7 rfl
theorem r_X3_code_10 (E : ax_EN G l) : ax_Snd G l ax_Ym M_X3_code 10 (S_iload 2 11) := k_iload_n dX3_code_10 rfl
theorem r_X3_code_11 (E : ax_EN G l) : ax_Snd G l ax_Ym M_X3_code 11 (S_push (.int (0)) 12) := k_iconst dX3_code_11 rfl
theorem r_X3_code_12 (E : ax_EN G l) : ax_Snd G l ax_Ym M_X3_code 12 (S_push (.int (3)) 13) := k_iconst dX3_code_12 rfl
theorem r_X3_code_13 (E : ax_EN G l) : ax_Snd G l ax_Ym M_X3_code 13 (S_is 376 3 16 hd_0) := k_is (en_F E) (ax_ok0 E rfl) ((ev_s y_X3_in q2992 q2993 q126 q2994 nm_X3_in (Nat.le_of_ble_eq_true rfl) dX3_code_13) : ax_EvS G l ax_Ym M_X3_code 13 376 3 3)
theorem r_X3_code_16 (E : ax_EN G l) : ax_Snd G l ax_Ym M_X3_code 16 (S_if1 (fun x => decide (x = 0)) 42 19) := k_if_eq dX3_code_16 rfl
theorem r_X3_code_19 (E : ax_EN G l) : ax_Snd G l ax_Ym M_X3_code 19 (S_iload 3 20) := k_iload_n dX3_code_19 rfl
theorem r_X3_code_20 (E : ax_EN G l) : ax_Snd G l ax_Ym M_X3_code 20 (S_push (.int (0)) 21) := k_iconst dX3_code_20 rfl
theorem r_X3_code_21 (E : ax_EN G l) : ax_Snd G l ax_Ym M_X3_code 21 (S_push (.int (3)) 22) := k_iconst dX3_code_21 rfl
theorem r_X3_code_22 (E : ax_EN G l) : ax_Snd G l ax_Ym M_X3_code 22 (S_is 376 3 25 hd_0) := k_is (en_F E) (ax_ok0 E rfl) ((ev_s y_X3_in q2992 q2993 q126 q2994 nm_X3_in (Nat.le_of_ble_eq_true rfl) dX3_code_22) : ax_EvS G l ax_Ym M_X3_code 22 376 3 3)
theorem r_X3_code_25 (E : ax_EN G l) : ax_Snd G l ax_Ym M_X3_code 25 (S_if1 (fun x => decide (x = 0)) 42 28) := k_if_eq dX3_code_25 rfl
theorem r_X3_code_28 (E : ax_EN G l) : ax_Snd G l ax_Ym M_X3_code 28 (S_iload 4 30) := k_iload dX3_code_28
theorem r_X3_code_30 (E : ax_EN G l) : ax_Snd G l ax_Ym M_X3_code 30 (S_iload 5 32) := k_iload dX3_code_30
theorem r_X3_code_32 (E : ax_EN G l) : ax_Snd G l ax_Ym M_X3_code 32 (S_is 381 2 35 hd_0) := k_is (en_F E) (ax_ok0 E rfl) ((ev_s y_X3_isOperand q3011 q3012 q126 q3013 nm_X3_isOperand (Nat.le_of_ble_eq_true rfl) dX3_code_32) : ax_EvS G l ax_Ym M_X3_code 32 381 2 3)
theorem r_X3_code_35 (E : ax_EN G l) : ax_Snd G l ax_Ym M_X3_code 35 (S_if1 (fun x => decide (x = 0)) 42 38) := k_if_eq dX3_code_35 rfl
theorem r_X3_code_38 (E : ax_EN G l) : ax_Snd G l ax_Ym M_X3_code 38 (S_push (.int (1)) 39) := k_iconst dX3_code_38 rfl
theorem r_X3_code_39 (E : ax_EN G l) : ax_Snd G l ax_Ym M_X3_code 39 (S_goto 43) := k_goto dX3_code_39 rfl
theorem r_X3_code_42 (E : ax_EN G l) : ax_Snd G l ax_Ym M_X3_code 42 (S_push (.int (0)) 43) := k_iconst dX3_code_42 rfl
theorem r_X3_code_43 (E : ax_EN G l) : ax_Snd G l ax_Ym M_X3_code 43 (S_istore 6 45) := k_istore dX3_code_43 (Nat.le_of_ble_eq_true rfl)
theorem r_X3_code_45 (E : ax_EN G l) : ax_Snd G l ax_Ym M_X3_code 45 (S_aload 0 46) := k_aload_n dX3_code_45 rfl
theorem r_X3_code_46 (E : ax_EN G l) : ax_Snd G l ax_Ym M_X3_code 46 (S_iload 6 48) := k_iload dX3_code_46
theorem r_X3_code_48 (E : ax_EN G l) : ax_Snd G l ax_Ym M_X3_code 48 (S_push (.int (2)) 49) := k_iconst dX3_code_48 rfl
theorem r_X3_code_49 (E : ax_EN G l) : ax_Snd G l ax_Ym M_X3_code 49 (S_iload 4 51) := k_iload dX3_code_49
theorem r_X3_code_51 (E : ax_EN G l) : ax_Snd G l ax_Ym M_X3_code 51 (S_iload 5 53) := k_iload dX3_code_51
theorem r_X3_code_53 (E : ax_EN G l) : ax_Snd G l ax_Ym M_X3_code 53 (S_push (.int (16)) 55) := k_bipush dX3_code_53 rfl
theorem r_X3_code_55 (E : ax_EN G l) : ax_Snd G l ax_Ym M_X3_code 55 (S_iload 1 56) := k_iload_n dX3_code_55 rfl
theorem r_X3_code_56 (E : ax_EN G l) : ax_Snd G l ax_Ym M_X3_code 56 (S_i2 (fun x y => x * y) 57) := k_imul dX3_code_56
theorem r_X3_code_57 (E : ax_EN G l) : ax_Snd G l ax_Ym M_X3_code 57 (S_push (.int (4)) 58) := k_iconst dX3_code_57 rfl
theorem r_X3_code_58 (E : ax_EN G l) : ax_Snd G l ax_Ym M_X3_code 58 (S_iload 2 59) := k_iload_n dX3_code_58 rfl
theorem r_X3_code_59 (E : ax_EN G l) : ax_Snd G l ax_Ym M_X3_code 59 (S_i2 (fun x y => x * y) 60) := k_imul dX3_code_59
theorem r_X3_code_60 (E : ax_EN G l) : ax_Snd G l ax_Ym M_X3_code 60 (S_i2 (fun x y => x + y) 61) := k_iadd dX3_code_60
theorem r_X3_code_61 (E : ax_EN G l) : ax_Snd G l ax_Ym M_X3_code 61 (S_iload 3 62) := k_iload_n dX3_code_61 rfl
theorem r_X3_code_62 (E : ax_EN G l) : ax_Snd G l ax_Ym M_X3_code 62 (S_i2 (fun x y => x + y) 63) := k_iadd dX3_code_62
theorem r_X3_code_63 (E : ax_EN G l) : ax_Snd G l ax_Ym M_X3_code 63 (S_push (.int (0)) 64) := k_iconst dX3_code_63 rfl
theorem r_X3_code_64 (E : ax_EN G l) : ax_Snd G l ax_Ym M_X3_code 64 (S_push (.int (0)) 65) := k_iconst dX3_code_64 rfl
theorem r_X3_code_65 (E : ax_EN G l) : ax_Snd G l ax_Ym M_X3_code 65 (S_iv [(38, 377)] 7 68 hd_0) := k_iv (en_F E) (ax_ok0 E rfl) (ax_Evs_cons ((ev_v (en_c E (k := 38) rfl) rfl y_X3_adds q2995 q2997 qs60 q126 q2998 nm_X3_adds (Nat.le_of_ble_eq_true rfl) dX3_code_65) : ax_EvV G l ax_Ym M_X3_code 65 7 3 38 377) ax_Evs_nil)
theorem r_X3_code_68 (E : ax_EN G l) : ax_Snd G l ax_Ym M_X3_code 68 (S_iret) := k_iret dX3_code_68 rfl
theorem mt_X3_code (E : ax_EN G l) : ax_mt G l ax_Ym (7, P_X3_code) (ax_Ym 380) := ⟨M_X3_code, yX3_code, ⟨rfl, by decide +kernel, rfl, (fun h => by cases h), Or.inl ⟨rfl, rfl⟩⟩, fun pc => (ax_sn_node (ax_sn_node (ax_sn_node (ax_sn_node (ax_sn_node (ax_sn_node (ax_sn_leaf (r_X3_code_68 E)) (ax_sn_leaf (r_X3_code_65 E))) (ax_sn_leaf (r_X3_code_64 E))) (ax_sn_node (ax_sn_node (ax_sn_leaf (r_X3_code_63 E)) (ax_sn_leaf (r_X3_code_62 E))) (ax_sn_leaf (r_X3_code_61 E)))) (ax_sn_node (ax_sn_node (ax_sn_node (ax_sn_leaf (r_X3_code_60 E)) (ax_sn_leaf (r_X3_code_59 E))) (ax_sn_leaf (r_X3_code_58 E))) (ax_sn_node (ax_sn_leaf (r_X3_code_57 E)) (ax_sn_leaf (r_X3_code_56 E))))) (ax_sn_node (ax_sn_node (ax_sn_node (ax_sn_node (ax_sn_leaf (r_X3_code_55 E)) (ax_sn_leaf (r_X3_code_53 E))) (ax_sn_leaf (r_X3_code_51 E))) (ax_sn_node (ax_sn_leaf (r_X3_code_49 E)) (ax_sn_leaf (r_X3_code_48 E)))) (ax_sn_node (ax_sn_node (ax_sn_node (ax_sn_leaf (r_X3_code_46 E)) (ax_sn_leaf (r_X3_code_45 E))) (ax_sn_leaf (r_X3_code_43 E))) (ax_sn_node (ax_sn_leaf (r_X3_code_42 E)) (ax_sn_leaf (r_X3_code_39 E)))))) (ax_sn_node (ax_sn_node (ax_sn_node (ax_sn_node (ax_sn_node (ax_sn_leaf (r_X3_code_38 E)) (ax_sn_leaf (r_X3_code_35 E))) (ax_sn_leaf (r_X3_code_32 E))) (ax_sn_node (ax_sn_leaf (r_X3_code_30 E)) (ax_sn_leaf (r_X3_code_28 E)))) (ax_sn_node (ax_sn_node (ax_sn_node (ax_sn_leaf (r_X3_code_25 E)) (ax_sn_leaf (r_X3_code_22 E))) (ax_sn_leaf (r_X3_code_21 E))) (ax_sn_node (ax_sn_leaf (r_X3_code_20 E)) (ax_sn_leaf (r_X3_code_19 E))))) (ax_sn_node (ax_sn_node (ax_sn_node (ax_sn_node (ax_sn_leaf (r_X3_code_16 E)) (ax_sn_leaf (r_X3_code_13 E))) (ax_sn_leaf (r_X3_code_12 E))) (ax_sn_node (ax_sn_leaf (r_X3_code_11 E)) (ax_sn_leaf (r_X3_code_10 E)))) (ax_sn_node (ax_sn_node (ax_sn_node (ax_sn_leaf (r_X3_code_7 E)) (ax_sn_leaf (r_X3_code_4 E))) (ax_sn_leaf (r_X3_code_2 E))) (ax_sn_node (ax_sn_leaf (r_X3_code_1 E)) (ax_sn_leaf (r_X3_code_0 E)))))))⟩
theorem r_X3_isOperand_0 (E : ax_EN G l) : ax_Snd G l ax_Ym M_X3_isOperand 0 (S_iload 0 1) := k_iload_n dX3_isOperand_0 rfl
theorem r_X3_isOperand_1 (E : ax_EN G l) : ax_Snd G l ax_Ym M_X3_isOperand 1 (S_push (.int (0)) 2) := k_iconst dX3_isOperand_1 rfl
theorem r_X3_isOperand_2 (E : ax_EN G l) : ax_Snd G l ax_Ym M_X3_isOperand 2 (S_push (.int (3)) 3) := k_iconst dX3_isOperand_2 rfl
theorem r_X3_isOperand_3 (E : ax_EN G l) : ax_Snd G l ax_Ym M_X3_isOperand 3 (S_is 376 3 6 hd_0) := k_is (en_F E) (ax_ok0 E rfl) ((ev_s y_X3_in q2992 q2993 q126 q2994 nm_X3_in (Nat.le_of_ble_eq_true rfl) dX3_isOperand_3) : ax_EvS G l ax_Ym M_X3_isOperand 3 376 3 3)
theorem r_X3_isOperand_6 (E : ax_EN G l) : ax_Snd G l ax_Ym M_X3_isOperand 6 (S_if1 (fun x => decide (x = 0)) 33 9) := k_if_eq dX3_isOperand_6 rfl
theorem r_X3_isOperand_9 (E : ax_EN G l) : ax_Snd G l ax_Ym M_X3_isOperand 9 (S_iload 1 10) := k_iload_n dX3_isOperand_9 rfl
theorem r_X3_isOperand_10 (E : ax_EN G l) : ax_Snd G l ax_Ym M_X3_isOperand 10 (S_push (.int (0)) 11) := k_iconst dX3_isOperand_10 rfl
theorem r_X3_isOperand_11 (E : ax_EN G l) : ax_Snd G l ax_Ym M_X3_isOperand 11 (S_iload 0 12) := k_iload_n dX3_isOperand_11 rfl
theorem r_X3_isOperand_12 (E : ax_EN G l) : ax_Snd G l ax_Ym M_X3_isOperand 12 (S_push (.int (1)) 13) := k_iconst dX3_isOperand_12 rfl
theorem r_X3_isOperand_13 (E : ax_EN G l) : ax_Snd G l ax_Ym M_X3_isOperand 13 (S_if2 (fun x y => decide (¬ x = y)) 21 16) := k_icmp_ne dX3_isOperand_13 rfl
theorem r_X3_isOperand_16 (E : ax_EN G l) : ax_Snd G l ax_Ym M_X3_isOperand 16 (S_push (.int (19)) 18) := k_bipush dX3_isOperand_16 rfl
theorem r_X3_isOperand_18 (E : ax_EN G l) : ax_Snd G l ax_Ym M_X3_isOperand 18 (S_goto 23) := k_goto dX3_isOperand_18 rfl
theorem r_X3_isOperand_21 (E : ax_EN G l) : ax_Snd G l ax_Ym M_X3_isOperand 21 (S_push (.int (65535)) 23) := k_ldc q3014 dX3_isOperand_21
theorem r_X3_isOperand_23 (E : ax_EN G l) : ax_Snd G l ax_Ym M_X3_isOperand 23 (S_is 376 3 26 hd_0) := k_is (en_F E) (ax_ok0 E rfl) ((ev_s y_X3_in q2992 q2993 q126 q2994 nm_X3_in (Nat.le_of_ble_eq_true rfl) dX3_isOperand_23) : ax_EvS G l ax_Ym M_X3_isOperand 23 376 3 3)
theorem r_X3_isOperand_26 (E : ax_EN G l) : ax_Snd G l ax_Ym M_X3_isOperand 26 (S_if1 (fun x => decide (x = 0)) 33 29) := k_if_eq dX3_isOperand_26 rfl
theorem r_X3_isOperand_29 (E : ax_EN G l) : ax_Snd G l ax_Ym M_X3_isOperand 29 (S_push (.int (1)) 30) := k_iconst dX3_isOperand_29 rfl
theorem r_X3_isOperand_30 (E : ax_EN G l) : ax_Snd G l ax_Ym M_X3_isOperand 30 (S_goto 34) := k_goto dX3_isOperand_30 rfl
theorem r_X3_isOperand_33 (E : ax_EN G l) : ax_Snd G l ax_Ym M_X3_isOperand 33 (S_push (.int (0)) 34) := k_iconst dX3_isOperand_33 rfl
theorem r_X3_isOperand_34 (E : ax_EN G l) : ax_Snd G l ax_Ym M_X3_isOperand 34 (S_zret) := k_zret dX3_isOperand_34 rfl
theorem mt_X3_isOperand (E : ax_EN G l) : ax_mt G l ax_Ym (2, P_X3_isOperand) (ax_Ym 381) := ⟨M_X3_isOperand, yX3_isOperand, ⟨rfl, by decide +kernel, rfl, (fun h => by cases h), Or.inl ⟨rfl, rfl⟩⟩, fun pc => (ax_sn_node (ax_sn_node (ax_sn_node (ax_sn_node (ax_sn_node (ax_sn_leaf (r_X3_isOperand_34 E)) (ax_sn_leaf (r_X3_isOperand_33 E))) (ax_sn_leaf (r_X3_isOperand_30 E))) (ax_sn_node (ax_sn_leaf (r_X3_isOperand_29 E)) (ax_sn_leaf (r_X3_isOperand_26 E)))) (ax_sn_node (ax_sn_node (ax_sn_node (ax_sn_leaf (r_X3_isOperand_23 E)) (ax_sn_leaf (r_X3_isOperand_21 E))) (ax_sn_leaf (r_X3_isOperand_18 E))) (ax_sn_node (ax_sn_leaf (r_X3_isOperand_16 E)) (ax_sn_leaf (r_X3_isOperand_13 E))))) (ax_sn_node (ax_sn_node (ax_sn_node (ax_sn_node (ax_sn_leaf (r_X3_isOperand_12 E)) (ax_sn_leaf (r_X3_isOperand_11 E))) (ax_sn_leaf (r_X3_isOperand_10 E))) (ax_sn_node (ax_sn_leaf (r_X3_isOperand_9 E)) (ax_sn_leaf (r_X3_isOperand_6 E)))) (ax_sn_node (ax_sn_node (ax_sn_leaf (r_X3_isOperand_3 E)) (ax_sn_leaf (r_X3_isOperand_2 E))) (ax_sn_node (ax_sn_leaf (r_X3_isOperand_1 E)) (ax_sn_leaf (r_X3_isOperand_0 E))))))⟩
theorem r_X3_word_0 (E : ax_EN G l) : ax_Snd G l ax_Ym M_X3_word 0 (S_aload 0 1) := k_aload_n dX3_word_0 rfl
theorem r_X3_word_1 (E : ax_EN G l) : ax_Snd G l ax_Ym M_X3_word 1 (S_iload 1 2) := k_iload_n dX3_word_1 rfl
theorem r_X3_word_2 (E : ax_EN G l) : ax_Snd G l ax_Ym M_X3_word 2 (S_iload 2 3) := k_iload_n dX3_word_2 rfl
theorem r_X3_word_3 (E : ax_EN G l) : ax_Snd G l ax_Ym M_X3_word 3 (S_is 381 2 6 hd_0) := k_is (en_F E) (ax_ok0 E rfl) ((ev_s y_X3_isOperand q3011 q3012 q126 q3013 nm_X3_isOperand (Nat.le_of_ble_eq_true rfl) dX3_word_3) : ax_EvS G l ax_Ym M_X3_word 3 381 2 3)
theorem r_X3_word_6 (E : ax_EN G l) : ax_Snd G l ax_Ym M_X3_word 6 (S_push (.int (3)) 7) := k_iconst dX3_word_6 rfl
theorem r_X3_word_7 (E : ax_EN G l) : ax_Snd G l ax_Ym M_X3_word 7 (S_iload 1 8) := k_iload_n dX3_word_7 rfl
theorem r_X3_word_8 (E : ax_EN G l) : ax_Snd G l ax_Ym M_X3_word 8 (S_iload 2 9) := k_iload_n dX3_word_8 rfl
theorem r_X3_word_9 (E : ax_EN G l) : ax_Snd G l ax_Ym M_X3_word 9 (S_push (.int (0)) 10) := k_iconst dX3_word_9 rfl
theorem r_X3_word_10 (E : ax_EN G l) : ax_Snd G l ax_Ym M_X3_word 10 (S_push (.int (0)) 11) := k_iconst dX3_word_10 rfl
theorem r_X3_word_11 (E : ax_EN G l) : ax_Snd G l ax_Ym M_X3_word 11 (S_push (.int (0)) 12) := k_iconst dX3_word_11 rfl
theorem r_X3_word_12 (E : ax_EN G l) : ax_Snd G l ax_Ym M_X3_word 12 (S_iv [(38, 377)] 7 15 hd_0) := k_iv (en_F E) (ax_ok0 E rfl) (ax_Evs_cons ((ev_v (en_c E (k := 38) rfl) rfl y_X3_adds q2995 q2997 qs60 q126 q2998 nm_X3_adds (Nat.le_of_ble_eq_true rfl) dX3_word_12) : ax_EvV G l ax_Ym M_X3_word 12 7 3 38 377) ax_Evs_nil)
theorem r_X3_word_15 (E : ax_EN G l) : ax_Snd G l ax_Ym M_X3_word 15 (S_iret) := k_iret dX3_word_15 rfl
theorem mt_X3_word (E : ax_EN G l) : ax_mt G l ax_Ym (3, P_X3_word) (ax_Ym 382) := ⟨M_X3_word, yX3_word, ⟨rfl, by decide +kernel, rfl, (fun h => by cases h), Or.inl ⟨rfl, rfl⟩⟩, fun pc => (ax_sn_node (ax_sn_node (ax_sn_node (ax_sn_node (ax_sn_leaf (r_X3_word_15 E)) (ax_sn_leaf (r_X3_word_12 E))) (ax_sn_leaf (r_X3_word_11 E))) (ax_sn_node (ax_sn_node (ax_sn_leaf (r_X3_word_10 E)) (ax_sn_leaf (r_X3_word_9 E))) (ax_sn_leaf (r_X3_word_8 E)))) (ax_sn_node (ax_sn_node (ax_sn_node (ax_sn_leaf (r_X3_word_7 E)) (ax_sn_leaf (r_X3_word_6 E))) (ax_sn_leaf (r_X3_word_3 E))) (ax_sn_node (ax_sn_node (ax_sn_leaf (r_X3_word_2 E)) (ax_sn_leaf (r_X3_word_1 E))) (ax_sn_leaf (r_X3_word_0 E)))))⟩
theorem r_X3_space_0 (E : ax_EN G l) : ax_Snd G l ax_Ym M_X3_space 0 (S_aload 0 1) := k_aload_n dX3_space_0 rfl
theorem r_X3_space_1 (E : ax_EN G l) : ax_Snd G l ax_Ym M_X3_space 1 (S_iload 1 2) := k_iload_n dX3_space_1 rfl
theorem r_X3_space_2 (E : ax_EN G l) : ax_Snd G l ax_Ym M_X3_space 2 (S_push (.int (1)) 3) := k_iconst dX3_space_2 rfl
theorem r_X3_space_3 (E : ax_EN G l) : ax_Snd G l ax_Ym M_X3_space 3 (S_push (.int (32)) 5) := k_bipush dX3_space_3 rfl
theorem r_X3_space_5 (E : ax_EN G l) : ax_Snd G l ax_Ym M_X3_space 5 (S_is 376 3 8 hd_0) := k_is (en_F E) (ax_ok0 E rfl) ((ev_s y_X3_in q2992 q2993 q126 q2994 nm_X3_in (Nat.le_of_ble_eq_true rfl) dX3_space_5) : ax_EvS G l ax_Ym M_X3_space 5 376 3 3)
theorem r_X3_space_8 (E : ax_EN G l) : ax_Snd G l ax_Ym M_X3_space 8 (S_push (.int (4)) 9) := k_iconst dX3_space_8 rfl
theorem r_X3_space_9 (E : ax_EN G l) : ax_Snd G l ax_Ym M_X3_space 9 (S_iload 1 10) := k_iload_n dX3_space_9 rfl
theorem r_X3_space_10 (E : ax_EN G l) : ax_Snd G l ax_Ym M_X3_space 10 (S_push (.int (0)) 11) := k_iconst dX3_space_10 rfl
theorem r_X3_space_11 (E : ax_EN G l) : ax_Snd G l ax_Ym M_X3_space 11 (S_push (.int (0)) 12) := k_iconst dX3_space_11 rfl
theorem r_X3_space_12 (E : ax_EN G l) : ax_Snd G l ax_Ym M_X3_space 12 (S_push (.int (0)) 13) := k_iconst dX3_space_12 rfl
theorem r_X3_space_13 (E : ax_EN G l) : ax_Snd G l ax_Ym M_X3_space 13 (S_push (.int (0)) 14) := k_iconst dX3_space_13 rfl
theorem r_X3_space_14 (E : ax_EN G l) : ax_Snd G l ax_Ym M_X3_space 14 (S_iv [(38, 377)] 7 17 hd_0) := k_iv (en_F E) (ax_ok0 E rfl) (ax_Evs_cons ((ev_v (en_c E (k := 38) rfl) rfl y_X3_adds q2995 q2997 qs60 q126 q2998 nm_X3_adds (Nat.le_of_ble_eq_true rfl) dX3_space_14) : ax_EvV G l ax_Ym M_X3_space 14 7 3 38 377) ax_Evs_nil)
theorem r_X3_space_17 (E : ax_EN G l) : ax_Snd G l ax_Ym M_X3_space 17 (S_iret) := k_iret dX3_space_17 rfl
theorem mt_X3_space (E : ax_EN G l) : ax_mt G l ax_Ym (2, P_X3_space) (ax_Ym 383) := ⟨M_X3_space, yX3_space, ⟨rfl, by decide +kernel, rfl, (fun h => by cases h), Or.inl ⟨rfl, rfl⟩⟩, fun pc => (ax_sn_node (ax_sn_node (ax_sn_node (ax_sn_node (ax_sn_leaf (r_X3_space_17 E)) (ax_sn_leaf (r_X3_space_14 E))) (ax_sn_node (ax_sn_leaf (r_X3_space_13 E)) (ax_sn_leaf (r_X3_space_12 E)))) (ax_sn_node (ax_sn_node (ax_sn_leaf (r_X3_space_11 E)) (ax_sn_leaf (r_X3_space_10 E))) (ax_sn_leaf (r_X3_space_9 E)))) (ax_sn_node (ax_sn_node (ax_sn_node (ax_sn_leaf (r_X3_space_8 E)) (ax_sn_leaf (r_X3_space_5 E))) (ax_sn_leaf (r_X3_space_3 E))) (ax_sn_node (ax_sn_node (ax_sn_leaf (r_X3_space_2 E)) (ax_sn_leaf (r_X3_space_1 E))) (ax_sn_leaf (r_X3_space_0 E)))))⟩
theorem r_X3_vector_0 (E : ax_EN G l) : ax_Snd G l ax_Ym M_X3_vector 0 (S_aload 0 1) := k_aload_n dX3_vector_0 rfl
theorem r_X3_vector_1 (E : ax_EN G l) : ax_Snd G l ax_Ym M_X3_vector 1 (S_iload 1 2) := k_iload_n dX3_vector_1 rfl
theorem r_X3_vector_2 (E : ax_EN G l) : ax_Snd G l ax_Ym M_X3_vector 2 (S_push (.int (0)) 3) := k_iconst dX3_vector_2 rfl
theorem r_X3_vector_3 (E : ax_EN G l) : ax_Snd G l ax_Ym M_X3_vector 3 (S_push (.int (1)) 4) := k_iconst dX3_vector_3 rfl
theorem r_X3_vector_4 (E : ax_EN G l) : ax_Snd G l ax_Ym M_X3_vector 4 (S_is 376 3 7 hd_0) := k_is (en_F E) (ax_ok0 E rfl) ((ev_s y_X3_in q2992 q2993 q126 q2994 nm_X3_in (Nat.le_of_ble_eq_true rfl) dX3_vector_4) : ax_EvS G l ax_Ym M_X3_vector 4 376 3 3)
theorem r_X3_vector_7 (E : ax_EN G l) : ax_Snd G l ax_Ym M_X3_vector 7 (S_if1 (fun x => decide (x = 0)) 22 10) := k_if_eq dX3_vector_7 rfl
theorem r_X3_vector_10 (E : ax_EN G l) : ax_Snd G l ax_Ym M_X3_vector 10 (S_iload 2 11) := k_iload_n dX3_vector_10 rfl
theorem r_X3_vector_11 (E : ax_EN G l) : ax_Snd G l ax_Ym M_X3_vector 11 (S_iload 3 12) := k_iload_n dX3_vector_11 rfl
theorem r_X3_vector_12 (E : ax_EN G l) : ax_Snd G l ax_Ym M_X3_vector 12 (S_is 381 2 15 hd_0) := k_is (en_F E) (ax_ok0 E rfl) ((ev_s y_X3_isOperand q3011 q3012 q126 q3013 nm_X3_isOperand (Nat.le_of_ble_eq_true rfl) dX3_vector_12) : ax_EvS G l ax_Ym M_X3_vector 12 381 2 3)
theorem r_X3_vector_15 (E : ax_EN G l) : ax_Snd G l ax_Ym M_X3_vector 15 (S_if1 (fun x => decide (x = 0)) 22 18) := k_if_eq dX3_vector_15 rfl
theorem r_X3_vector_18 (E : ax_EN G l) : ax_Snd G l ax_Ym M_X3_vector 18 (S_push (.int (1)) 19) := k_iconst dX3_vector_18 rfl
theorem r_X3_vector_19 (E : ax_EN G l) : ax_Snd G l ax_Ym M_X3_vector 19 (S_goto 23) := k_goto dX3_vector_19 rfl
theorem r_X3_vector_22 (E : ax_EN G l) : ax_Snd G l ax_Ym M_X3_vector 22 (S_push (.int (0)) 23) := k_iconst dX3_vector_22 rfl
theorem r_X3_vector_23 (E : ax_EN G l) : ax_Snd G l ax_Ym M_X3_vector 23 (S_push (.int (5)) 24) := k_iconst dX3_vector_23 rfl
theorem r_X3_vector_24 (E : ax_EN G l) : ax_Snd G l ax_Ym M_X3_vector 24 (S_iload 2 25) := k_iload_n dX3_vector_24 rfl
theorem r_X3_vector_25 (E : ax_EN G l) : ax_Snd G l ax_Ym M_X3_vector 25 (S_iload 3 26) := k_iload_n dX3_vector_25 rfl
theorem r_X3_vector_26 (E : ax_EN G l) : ax_Snd G l ax_Ym M_X3_vector 26 (S_iload 1 27) := k_iload_n dX3_vector_26 rfl
theorem r_X3_vector_27 (E : ax_EN G l) : ax_Snd G l ax_Ym M_X3_vector 27 (S_push (.int (0)) 28) := k_iconst dX3_vector_27 rfl
theorem r_X3_vector_28 (E : ax_EN G l) : ax_Snd G l ax_Ym M_X3_vector 28 (S_push (.int (0)) 29) := k_iconst dX3_vector_28 rfl
theorem r_X3_vector_29 (E : ax_EN G l) : ax_Snd G l ax_Ym M_X3_vector 29 (S_iv [(38, 377)] 7 32 hd_0) := k_iv (en_F E) (ax_ok0 E rfl) (ax_Evs_cons ((ev_v (en_c E (k := 38) rfl) rfl y_X3_adds q2995 q2997 qs60 q126 q2998 nm_X3_adds (Nat.le_of_ble_eq_true rfl) dX3_vector_29) : ax_EvV G l ax_Ym M_X3_vector 29 7 3 38 377) ax_Evs_nil)
theorem r_X3_vector_32 (E : ax_EN G l) : ax_Snd G l ax_Ym M_X3_vector 32 (S_iret) := k_iret dX3_vector_32 rfl
theorem mt_X3_vector (E : ax_EN G l) : ax_mt G l ax_Ym (4, P_X3_vector) (ax_Ym 384) := ⟨M_X3_vector, yX3_vector, ⟨rfl, by decide +kernel, rfl, (fun h => by cases h), Or.inl ⟨rfl, rfl⟩⟩, fun pc => (ax_sn_node (ax_sn_node (ax_sn_node (ax_sn_node (ax_sn_node (ax_sn_leaf (r_X3_vector_32 E)) (ax_sn_leaf (r_X3_vector_29 E))) (ax_sn_leaf (r_X3_vector_28 E))) (ax_sn_node (ax_sn_node (ax_sn_leaf (r_X3_vector_27 E)) (ax_sn_leaf (r_X3_vector_26 E))) (ax_sn_leaf (r_X3_vector_25 E)))) (ax_sn_node (ax_sn_node (ax_sn_node (ax_sn_leaf (r_X3_vector_24 E)) (ax_sn_leaf (r_X3_vector_23 E))) (ax_sn_leaf (r_X3_vector_22 E))) (ax_sn_node (ax_sn_leaf (r_X3_vector_19 E)) (ax_sn_leaf (r_X3_vector_18 E))))) (ax_sn_node (ax_sn_node (ax_sn_node (ax_sn_node (ax_sn_leaf (r_X3_vector_15 E)) (ax_sn_leaf (r_X3_vector_12 E))) (ax_sn_leaf (r_X3_vector_11 E))) (ax_sn_node (ax_sn_leaf (r_X3_vector_10 E)) (ax_sn_leaf (r_X3_vector_7 E)))) (ax_sn_node (ax_sn_node (ax_sn_node (ax_sn_leaf (r_X3_vector_4 E)) (ax_sn_leaf (r_X3_vector_3 E))) (ax_sn_leaf (r_X3_vector_2 E))) (ax_sn_node (ax_sn_leaf (r_X3_vector_1 E)) (ax_sn_leaf (r_X3_vector_0 E))))))⟩
theorem r_X3_macro_0 (E : ax_EN G l) : ax_Snd G l ax_Ym M_X3_macro 0 (S_aload 0 1) := k_aload_n dX3_macro_0 rfl
theorem r_X3_macro_1 (E : ax_EN G l) : ax_Snd G l ax_Ym M_X3_macro 1 (S_iload 1 2) := k_iload_n dX3_macro_1 rfl
theorem r_X3_macro_2 (E : ax_EN G l) : ax_Snd G l ax_Ym M_X3_macro 2 (S_push (.int (0)) 3) := k_iconst dX3_macro_2 rfl
theorem r_X3_macro_3 (E : ax_EN G l) : ax_Snd G l ax_Ym M_X3_macro 3 (S_push (.int (4)) 4) := k_iconst dX3_macro_3 rfl
theorem r_X3_macro_4 (E : ax_EN G l) : ax_Snd G l ax_Ym M_X3_macro 4 (S_is 376 3 7 hd_0) := k_is (en_F E) (ax_ok0 E rfl) ((ev_s y_X3_in q2992 q2993 q126 q2994 nm_X3_in (Nat.le_of_ble_eq_true rfl) dX3_macro_4) : ax_EvS G l ax_Ym M_X3_macro 4 376 3 3)
theorem r_X3_macro_7 (E : ax_EN G l) : ax_Snd G l ax_Ym M_X3_macro 7 (S_push (.int (6)) 9) := k_bipush dX3_macro_7 rfl
theorem r_X3_macro_9 (E : ax_EN G l) : ax_Snd G l ax_Ym M_X3_macro 9 (S_iload 1 10) := k_iload_n dX3_macro_9 rfl
theorem r_X3_macro_10 (E : ax_EN G l) : ax_Snd G l ax_Ym M_X3_macro 10 (S_push (.int (0)) 11) := k_iconst dX3_macro_10 rfl
theorem r_X3_macro_11 (E : ax_EN G l) : ax_Snd G l ax_Ym M_X3_macro 11 (S_push (.int (0)) 12) := k_iconst dX3_macro_11 rfl
theorem r_X3_macro_12 (E : ax_EN G l) : ax_Snd G l ax_Ym M_X3_macro 12 (S_push (.int (0)) 13) := k_iconst dX3_macro_12 rfl
theorem r_X3_macro_13 (E : ax_EN G l) : ax_Snd G l ax_Ym M_X3_macro 13 (S_push (.int (0)) 14) := k_iconst dX3_macro_13 rfl
theorem r_X3_macro_14 (E : ax_EN G l) : ax_Snd G l ax_Ym M_X3_macro 14 (S_iv [(38, 377)] 7 17 hd_0) := k_iv (en_F E) (ax_ok0 E rfl) (ax_Evs_cons ((ev_v (en_c E (k := 38) rfl) rfl y_X3_adds q2995 q2997 qs60 q126 q2998 nm_X3_adds (Nat.le_of_ble_eq_true rfl) dX3_macro_14) : ax_EvV G l ax_Ym M_X3_macro 14 7 3 38 377) ax_Evs_nil)
theorem r_X3_macro_17 (E : ax_EN G l) : ax_Snd G l ax_Ym M_X3_macro 17 (S_iret) := k_iret dX3_macro_17 rfl
theorem mt_X3_macro (E : ax_EN G l) : ax_mt G l ax_Ym (2, P_X3_macro) (ax_Ym 385) := ⟨M_X3_macro, yX3_macro, ⟨rfl, by decide +kernel, rfl, (fun h => by cases h), Or.inl ⟨rfl, rfl⟩⟩, fun pc => (ax_sn_node (ax_sn_node (ax_sn_node (ax_sn_node (ax_sn_leaf (r_X3_macro_17 E)) (ax_sn_leaf (r_X3_macro_14 E))) (ax_sn_node (ax_sn_leaf (r_X3_macro_13 E)) (ax_sn_leaf (r_X3_macro_12 E)))) (ax_sn_node (ax_sn_node (ax_sn_leaf (r_X3_macro_11 E)) (ax_sn_leaf (r_X3_macro_10 E))) (ax_sn_leaf (r_X3_macro_9 E)))) (ax_sn_node (ax_sn_node (ax_sn_node (ax_sn_leaf (r_X3_macro_7 E)) (ax_sn_leaf (r_X3_macro_4 E))) (ax_sn_leaf (r_X3_macro_3 E))) (ax_sn_node (ax_sn_node (ax_sn_leaf (r_X3_macro_2 E)) (ax_sn_leaf (r_X3_macro_1 E))) (ax_sn_leaf (r_X3_macro_0 E)))))⟩
theorem r_X3_endMacro_0 (E : ax_EN G l) : ax_Snd G l ax_Ym M_X3_endMacro 0 (S_aload 0 1) := k_aload_n dX3_endMacro_0 rfl
theorem r_X3_endMacro_1 (E : ax_EN G l) : ax_Snd G l ax_Ym M_X3_endMacro 1 (S_aload 0 2) := k_aload_n dX3_endMacro_1 rfl
theorem r_X3_endMacro_2 (E : ax_EN G l) : ax_Snd G l ax_Ym M_X3_endMacro 2 (S_getf [(38, 1)] 5) := k_getf (en_F E) (ax_fes_cons (fe_444 E) ax_fes_nil) q2754 dX3_endMacro_2
theorem r_X3_endMacro_5 (E : ax_EN G l) : ax_Snd G l ax_Ym M_X3_endMacro 5 (S_push (.int (100)) 7) := k_bipush dX3_endMacro_5 rfl
theorem r_X3_endMacro_7 (E : ax_EN G l) : ax_Snd G l ax_Ym M_X3_endMacro 7 (S_if2 (fun x y => decide (¬ x = y)) 14 10) := k_icmp_ne dX3_endMacro_7 rfl
theorem r_X3_endMacro_10 (E : ax_EN G l) : ax_Snd G l ax_Ym M_X3_endMacro 10 (S_push (.int (1)) 11) := k_iconst dX3_endMacro_10 rfl
theorem r_X3_endMacro_11 (E : ax_EN G l) : ax_Snd G l ax_Ym M_X3_endMacro 11 (S_goto 15) := k_goto dX3_endMacro_11 rfl
theorem r_X3_endMacro_14 (E : ax_EN G l) : ax_Snd G l ax_Ym M_X3_endMacro 14 (S_push (.int (0)) 15) := k_iconst dX3_endMacro_14 rfl
theorem r_X3_endMacro_15 (E : ax_EN G l) : ax_Snd G l ax_Ym M_X3_endMacro 15 (S_iv [(38, 378)] 1 18 hd_0) := k_iv (en_F E) (ax_ok0 E rfl) (ax_Evs_cons ((ev_v (en_c E (k := 38) rfl) rfl y_X3_holds q2999 q3001 qs61 q126 q3002 nm_X3_holds (Nat.le_of_ble_eq_true rfl) dX3_endMacro_15) : ax_EvV G l ax_Ym M_X3_endMacro 15 1 3 38 378) ax_Evs_nil)
theorem r_X3_endMacro_18 (E : ax_EN G l) : ax_Snd G l ax_Ym M_X3_endMacro 18 (S_if1 (fun x => decide (¬ x = 0)) 23 21) := k_if_ne dX3_endMacro_18 rfl
theorem r_X3_endMacro_21 (E : ax_EN G l) : ax_Snd G l ax_Ym M_X3_endMacro 21 (S_push (.int (0)) 22) := k_iconst dX3_endMacro_21 rfl
theorem r_X3_endMacro_22 (E : ax_EN G l) : ax_Snd G l ax_Ym M_X3_endMacro 22 (S_iret) := k_iret dX3_endMacro_22 rfl
theorem r_X3_endMacro_23 (E : ax_EN G l) : ax_Snd G l ax_Ym M_X3_endMacro 23 (S_aload 0 24) := k_aload_n dX3_endMacro_23 rfl
theorem r_X3_endMacro_24 (E : ax_EN G l) : ax_Snd G l ax_Ym M_X3_endMacro 24 (S_push (.int (1)) 25) := k_iconst dX3_endMacro_24 rfl
theorem r_X3_endMacro_25 (E : ax_EN G l) : ax_Snd G l ax_Ym M_X3_endMacro 25 (S_push (.int (7)) 27) := k_bipush dX3_endMacro_25 rfl
theorem r_X3_endMacro_27 (E : ax_EN G l) : ax_Snd G l ax_Ym M_X3_endMacro 27 (S_push (.int (0)) 28) := k_iconst dX3_endMacro_27 rfl
theorem r_X3_endMacro_28 (E : ax_EN G l) : ax_Snd G l ax_Ym M_X3_endMacro 28 (S_push (.int (0)) 29) := k_iconst dX3_endMacro_28 rfl
theorem r_X3_endMacro_29 (E : ax_EN G l) : ax_Snd G l ax_Ym M_X3_endMacro 29 (S_push (.int (0)) 30) := k_iconst dX3_endMacro_29 rfl
theorem r_X3_endMacro_30 (E : ax_EN G l) : ax_Snd G l ax_Ym M_X3_endMacro 30 (S_push (.int (0)) 31) := k_iconst dX3_endMacro_30 rfl
theorem r_X3_endMacro_31 (E : ax_EN G l) : ax_Snd G l ax_Ym M_X3_endMacro 31 (S_push (.int (0)) 32) := k_iconst dX3_endMacro_31 rfl
theorem r_X3_endMacro_32 (E : ax_EN G l) : ax_Snd G l ax_Ym M_X3_endMacro 32 (S_iv [(38, 377)] 7 35 hd_0) := k_iv (en_F E) (ax_ok0 E rfl) (ax_Evs_cons ((ev_v (en_c E (k := 38) rfl) rfl y_X3_adds q2995 q2997 qs60 q126 q2998 nm_X3_adds (Nat.le_of_ble_eq_true rfl) dX3_endMacro_32) : ax_EvV G l ax_Ym M_X3_endMacro 32 7 3 38 377) ax_Evs_nil)
theorem r_X3_endMacro_35 (E : ax_EN G l) : ax_Snd G l ax_Ym M_X3_endMacro 35 (S_iret) := k_iret dX3_endMacro_35 rfl
theorem mt_X3_endMacro (E : ax_EN G l) : ax_mt G l ax_Ym (1, P_X3_endMacro) (ax_Ym 386) := ⟨M_X3_endMacro, yX3_endMacro, ⟨rfl, by decide +kernel, rfl, (fun h => by cases h), Or.inl ⟨rfl, rfl⟩⟩, fun pc => (ax_sn_node (ax_sn_node (ax_sn_node (ax_sn_node (ax_sn_node (ax_sn_leaf (r_X3_endMacro_35 E)) (ax_sn_leaf (r_X3_endMacro_32 E))) (ax_sn_leaf (r_X3_endMacro_31 E))) (ax_sn_node (ax_sn_node (ax_sn_leaf (r_X3_endMacro_30 E)) (ax_sn_leaf (r_X3_endMacro_29 E))) (ax_sn_leaf (r_X3_endMacro_28 E)))) (ax_sn_node (ax_sn_node (ax_sn_node (ax_sn_leaf (r_X3_endMacro_27 E)) (ax_sn_leaf (r_X3_endMacro_25 E))) (ax_sn_leaf (r_X3_endMacro_24 E))) (ax_sn_node (ax_sn_leaf (r_X3_endMacro_23 E)) (ax_sn_leaf (r_X3_endMacro_22 E))))) (ax_sn_node (ax_sn_node (ax_sn_node (ax_sn_node (ax_sn_leaf (r_X3_endMacro_21 E)) (ax_sn_leaf (r_X3_endMacro_18 E))) (ax_sn_leaf (r_X3_endMacro_15 E))) (ax_sn_node (ax_sn_node (ax_sn_leaf (r_X3_endMacro_14 E)) (ax_sn_leaf (r_X3_endMacro_11 E))) (ax_sn_leaf (r_X3_endMacro_10 E)))) (ax_sn_node (ax_sn_node (ax_sn_node (ax_sn_leaf (r_X3_endMacro_7 E)) (ax_sn_leaf (r_X3_endMacro_5 E))) (ax_sn_leaf (r_X3_endMacro_2 E))) (ax_sn_node (ax_sn_leaf (r_X3_endMacro_1 E)) (ax_sn_leaf (r_X3_endMacro_0 E))))))⟩
theorem r_X3_use_0 (E : ax_EN G l) : ax_Snd G l ax_Ym M_X3_use 0 (S_iload 1 1) := k_iload_n dX3_use_0 rfl
theorem r_X3_use_1 (E : ax_EN G l) : ax_Snd G l ax_Ym M_X3_use 1 (S_push (.int (0)) 2) := k_iconst dX3_use_1 rfl
theorem r_X3_use_2 (E : ax_EN G l) : ax_Snd G l ax_Ym M_X3_use 2 (S_push (.int (4)) 3) := k_iconst dX3_use_2 rfl
theorem r_X3_use_3 (E : ax_EN G l) : ax_Snd G l ax_Ym M_X3_use 3 (S_is 376 3 6 hd_0) := k_is (en_F E) (ax_ok0 E rfl) ((ev_s y_X3_in q2992 q2993 q126 q2994 nm_X3_in (Nat.le_of_ble_eq_true rfl) dX3_use_3) : ax_EvS G l ax_Ym M_X3_use 3 376 3 3)
theorem r_X3_use_6 (E : ax_EN G l) : ax_Snd G l ax_Ym M_X3_use 6 (S_if1 (fun x => decide (x = 0)) 31 9) := k_if_eq dX3_use_6 rfl
theorem r_X3_use_9 (E : ax_EN G l) : ax_Snd G l ax_Ym M_X3_use 9 (S_iload 2 10) := k_iload_n dX3_use_9 rfl
theorem r_X3_use_10 (E : ax_EN G l) : ax_Snd G l ax_Ym M_X3_use 10 (S_iload 3 11) := k_iload_n dX3_use_10 rfl
theorem r_X3_use_11 (E : ax_EN G l) : ax_Snd G l ax_Ym M_X3_use 11 (S_is 381 2 14 hd_0) := k_is (en_F E) (ax_ok0 E rfl) ((ev_s y_X3_isOperand q3011 q3012 q126 q3013 nm_X3_isOperand (Nat.le_of_ble_eq_true rfl) dX3_use_11) : ax_EvS G l ax_Ym M_X3_use 11 381 2 3)
theorem r_X3_use_14 (E : ax_EN G l) : ax_Snd G l ax_Ym M_X3_use 14 (S_if1 (fun x => decide (x = 0)) 31 17) := k_if_eq dX3_use_14 rfl
theorem r_X3_use_17 (E : ax_EN G l) : ax_Snd G l ax_Ym M_X3_use 17 (S_iload 4 19) := k_iload dX3_use_17
theorem r_X3_use_19 (E : ax_EN G l) : ax_Snd G l ax_Ym M_X3_use 19 (S_iload 5 21) := k_iload dX3_use_19
theorem r_X3_use_21 (E : ax_EN G l) : ax_Snd G l ax_Ym M_X3_use 21 (S_is 381 2 24 hd_0) := k_is (en_F E) (ax_ok0 E rfl) ((ev_s y_X3_isOperand q3011 q3012 q126 q3013 nm_X3_isOperand (Nat.le_of_ble_eq_true rfl) dX3_use_21) : ax_EvS G l ax_Ym M_X3_use 21 381 2 3)
theorem r_X3_use_24 (E : ax_EN G l) : ax_Snd G l ax_Ym M_X3_use 24 (S_if1 (fun x => decide (x = 0)) 31 27) := k_if_eq dX3_use_24 rfl
theorem r_X3_use_27 (E : ax_EN G l) : ax_Snd G l ax_Ym M_X3_use 27 (S_push (.int (1)) 28) := k_iconst dX3_use_27 rfl
theorem r_X3_use_28 (E : ax_EN G l) : ax_Snd G l ax_Ym M_X3_use 28 (S_goto 32) := k_goto dX3_use_28 rfl
theorem r_X3_use_31 (E : ax_EN G l) : ax_Snd G l ax_Ym M_X3_use 31 (S_push (.int (0)) 32) := k_iconst dX3_use_31 rfl
theorem r_X3_use_32 (E : ax_EN G l) : ax_Snd G l ax_Ym M_X3_use 32 (S_istore 6 34) := k_istore dX3_use_32 (Nat.le_of_ble_eq_true rfl)
theorem r_X3_use_34 (E : ax_EN G l) : ax_Snd G l ax_Ym M_X3_use 34 (S_aload 0 35) := k_aload_n dX3_use_34 rfl
theorem r_X3_use_35 (E : ax_EN G l) : ax_Snd G l ax_Ym M_X3_use 35 (S_iload 6 37) := k_iload dX3_use_35
theorem r_X3_use_37 (E : ax_EN G l) : ax_Snd G l ax_Ym M_X3_use 37 (S_push (.int (8)) 39) := k_bipush dX3_use_37 rfl
theorem r_X3_use_39 (E : ax_EN G l) : ax_Snd G l ax_Ym M_X3_use 39 (S_iload 2 40) := k_iload_n dX3_use_39 rfl
theorem r_X3_use_40 (E : ax_EN G l) : ax_Snd G l ax_Ym M_X3_use 40 (S_iload 3 41) := k_iload_n dX3_use_40 rfl
theorem r_X3_use_41 (E : ax_EN G l) : ax_Snd G l ax_Ym M_X3_use 41 (S_iload 4 43) := k_iload dX3_use_41
theorem r_X3_use_43 (E : ax_EN G l) : ax_Snd G l ax_Ym M_X3_use 43 (S_iload 5 45) := k_iload dX3_use_43
theorem r_X3_use_45 (E : ax_EN G l) : ax_Snd G l ax_Ym M_X3_use 45 (S_iload 1 46) := k_iload_n dX3_use_45 rfl
theorem r_X3_use_46 (E : ax_EN G l) : ax_Snd G l ax_Ym M_X3_use 46 (S_iv [(38, 377)] 7 49 hd_0) := k_iv (en_F E) (ax_ok0 E rfl) (ax_Evs_cons ((ev_v (en_c E (k := 38) rfl) rfl y_X3_adds q2995 q2997 qs60 q126 q2998 nm_X3_adds (Nat.le_of_ble_eq_true rfl) dX3_use_46) : ax_EvV G l ax_Ym M_X3_use 46 7 3 38 377) ax_Evs_nil)
theorem r_X3_use_49 (E : ax_EN G l) : ax_Snd G l ax_Ym M_X3_use 49 (S_iret) := k_iret dX3_use_49 rfl
theorem mt_X3_use (E : ax_EN G l) : ax_mt G l ax_Ym (7, P_X3_use) (ax_Ym 387) := ⟨M_X3_use, yX3_use, ⟨rfl, by decide +kernel, rfl, (fun h => by cases h), Or.inl ⟨rfl, rfl⟩⟩, fun pc => (ax_sn_node (ax_sn_node (ax_sn_node (ax_sn_node (ax_sn_node (ax_sn_leaf (r_X3_use_49 E)) (ax_sn_leaf (r_X3_use_46 E))) (ax_sn_node (ax_sn_leaf (r_X3_use_45 E)) (ax_sn_leaf (r_X3_use_43 E)))) (ax_sn_node (ax_sn_node (ax_sn_leaf (r_X3_use_41 E)) (ax_sn_leaf (r_X3_use_40 E))) (ax_sn_leaf (r_X3_use_39 E)))) (ax_sn_node (ax_sn_node (ax_sn_node (ax_sn_leaf (r_X3_use_37 E)) (ax_sn_leaf (r_X3_use_35 E))) (ax_sn_node (ax_sn_leaf (r_X3_use_34 E)) (ax_sn_leaf (r_X3_use_32 E)))) (ax_sn_node (ax_sn_node (ax_sn_leaf (r_X3_use_31 E)) (ax_sn_leaf (r_X3_use_28 E))) (ax_sn_leaf (r_X3_use_27 E))))) (ax_sn_node (ax_sn_node (ax_sn_node (ax_sn_node (ax_sn_leaf (r_X3_use_24 E)) (ax_sn_leaf (r_X3_use_21 E))) (ax_sn_node (ax_sn_leaf (r_X3_use_19 E)) (ax_sn_leaf (r_X3_use_17 E)))) (ax_sn_node (ax_sn_node (ax_sn_leaf (r_X3_use_14 E)) (ax_sn_leaf (r_X3_use_11 E))) (ax_sn_leaf (r_X3_use_10 E)))) (ax_sn_node (ax_sn_node (ax_sn_node (ax_sn_leaf (r_X3_use_9 E)) (ax_sn_leaf (r_X3_use_6 E))) (ax_sn_leaf (r_X3_use_3 E))) (ax_sn_node (ax_sn_node (ax_sn_leaf (r_X3_use_2 E)) (ax_sn_leaf (r_X3_use_1 E))) (ax_sn_leaf (r_X3_use_0 E))))))⟩
theorem r_X3_error_0 (E : ax_EN G l) : ax_Snd G l ax_Ym M_X3_error 0 (S_aload 0 1) := k_aload_n dX3_error_0 rfl
theorem r_X3_error_1 (E : ax_EN G l) : ax_Snd G l ax_Ym M_X3_error 1 (S_push (.int (0)) 2) := k_iconst dX3_error_1 rfl
theorem r_X3_error_2 (E : ax_EN G l) : ax_Snd G l ax_Ym M_X3_error 2 (S_putf [(38, 0)] (.int) 5) := k_putf (en_F E) (en_P E) (ax_fes_cons (fe_442 E) ax_fes_nil) (ax_fps_cons (fp_443 E) ax_fps_nil) q2753 dX3_error_2
theorem r_X3_error_5 (E : ax_EN G l) : ax_Snd G l ax_Ym M_X3_error 5 (S_aload 0 6) := k_aload_n dX3_error_5 rfl
theorem r_X3_error_6 (E : ax_EN G l) : ax_Snd G l ax_Ym M_X3_error 6 (S_iv [(38, 389)] 0 9 hd_0) := k_iv (en_F E) (ax_ok0 E rfl) (ax_Evs_cons ((ev_v (en_c E (k := 38) rfl) rfl y_X3_errorOfSource q3043 q3045 qs62 q126 q3046 nm_X3_errorOfSource (Nat.le_of_ble_eq_true rfl) dX3_error_6) : ax_EvV G l ax_Ym M_X3_error 6 0 3 38 389) ax_Evs_nil)
theorem r_X3_error_9 (E : ax_EN G l) : ax_Snd G l ax_Ym M_X3_error 9 (S_iret) := k_iret dX3_error_9 rfl
theorem mt_X3_error (E : ax_EN G l) : ax_mt G l ax_Ym (1, P_X3_error) (ax_Ym 388) := ⟨M_X3_error, yX3_error, ⟨rfl, by decide +kernel, rfl, (fun h => by cases h), Or.inl ⟨rfl, rfl⟩⟩, fun pc => (ax_sn_node (ax_sn_node (ax_sn_node (ax_sn_leaf (r_X3_error_9 E)) (ax_sn_leaf (r_X3_error_6 E))) (ax_sn_leaf (r_X3_error_5 E))) (ax_sn_node (ax_sn_node (ax_sn_leaf (r_X3_error_2 E)) (ax_sn_leaf (r_X3_error_1 E))) (ax_sn_leaf (r_X3_error_0 E))))⟩
end ROW
