set_option maxRecDepth 100000
section ROW
variable {G : ax_G} {l : Launch}
theorem r_X3_errorOfSource_0 (E : ax_EN G l) : ax_Snd G l ax_Ym M_X3_errorOfSource 0 (S_push (.int (0)) 1) := k_iconst dX3_errorOfSource_0 rfl
theorem r_X3_errorOfSource_1 (E : ax_EN G l) : ax_Snd G l ax_Ym M_X3_errorOfSource 1 (S_istore 1 2) := k_istore_n dX3_errorOfSource_1 rfl (Nat.le_of_ble_eq_true rfl)
theorem r_X3_errorOfSource_2 (E : ax_EN G l) : ax_Snd G l ax_Ym M_X3_errorOfSource 2 (S_iload 1 3) := k_iload_n dX3_errorOfSource_2 rfl
theorem r_X3_errorOfSource_3 (E : ax_EN G l) : ax_Snd G l ax_Ym M_X3_errorOfSource 3 (S_push (.int (1220)) 6) := k_sipush dX3_errorOfSource_3 rfl
theorem r_X3_errorOfSource_6 (E : ax_EN G l) : ax_Snd G l ax_Ym M_X3_errorOfSource 6 (S_if2 (fun x y => decide (y ≤ x)) 22 9) := k_icmp_ge dX3_errorOfSource_6 rfl
theorem r_X3_errorOfSource_9 (E : ax_EN G l) : ax_Snd G l ax_Ym M_X3_errorOfSource 9 (S_aload 0 10) := k_aload_n dX3_errorOfSource_9 rfl
theorem r_X3_errorOfSource_10 (E : ax_EN G l) : ax_Snd G l ax_Ym M_X3_errorOfSource 10 (S_getf [(38, 4)] 13) := k_getf (en_F E) (ax_fes_cons (fe_360 E) ax_fes_nil) q2757 dX3_errorOfSource_10
theorem r_X3_errorOfSource_13 (E : ax_EN G l) : ax_Snd G l ax_Ym M_X3_errorOfSource 13 (S_iload 1 14) := k_iload_n dX3_errorOfSource_13 rfl
theorem r_X3_errorOfSource_14 (E : ax_EN G l) : ax_Snd G l ax_Ym M_X3_errorOfSource 14 (S_push (.int (-1)) 15) := k_iconst dX3_errorOfSource_14 rfl
theorem r_X3_errorOfSource_15 (E : ax_EN G l) : ax_Snd G l ax_Ym M_X3_errorOfSource 15 (S_iast 0 (fun x => x) 16) := k_iast (en_F E) dX3_errorOfSource_15
theorem r_X3_errorOfSource_16 (E : ax_EN G l) : ax_Snd G l ax_Ym M_X3_errorOfSource 16 (S_iinc 1 (1) 19) := k_iinc dX3_errorOfSource_16 rfl (Nat.le_of_ble_eq_true rfl)
theorem r_X3_errorOfSource_19 (E : ax_EN G l) : ax_Snd G l ax_Ym M_X3_errorOfSource 19 (S_goto 2) := k_goto dX3_errorOfSource_19 rfl
theorem r_X3_errorOfSource_22 (E : ax_EN G l) : ax_Snd G l ax_Ym M_X3_errorOfSource 22 (S_push (.int (0)) 23) := k_iconst dX3_errorOfSource_22 rfl
theorem r_X3_errorOfSource_23 (E : ax_EN G l) : ax_Snd G l ax_Ym M_X3_errorOfSource 23 (S_istore 1 24) := k_istore_n dX3_errorOfSource_23 rfl (Nat.le_of_ble_eq_true rfl)
theorem r_X3_errorOfSource_24 (E : ax_EN G l) : ax_Snd G l ax_Ym M_X3_errorOfSource 24 (S_iload 1 25) := k_iload_n dX3_errorOfSource_24 rfl
theorem r_X3_errorOfSource_25 (E : ax_EN G l) : ax_Snd G l ax_Ym M_X3_errorOfSource 25 (S_push (.int (256)) 28) := k_sipush dX3_errorOfSource_25 rfl
theorem r_X3_errorOfSource_28 (E : ax_EN G l) : ax_Snd G l ax_Ym M_X3_errorOfSource 28 (S_if2 (fun x y => decide (y ≤ x)) 44 31) := k_icmp_ge dX3_errorOfSource_28 rfl
theorem r_X3_errorOfSource_31 (E : ax_EN G l) : ax_Snd G l ax_Ym M_X3_errorOfSource 31 (S_aload 0 32) := k_aload_n dX3_errorOfSource_31 rfl
theorem r_X3_errorOfSource_32 (E : ax_EN G l) : ax_Snd G l ax_Ym M_X3_errorOfSource 32 (S_getf [(38, 20)] 35) := k_getf (en_F E) (ax_fes_cons (fe_380 E) ax_fes_nil) q2773 dX3_errorOfSource_32
theorem r_X3_errorOfSource_35 (E : ax_EN G l) : ax_Snd G l ax_Ym M_X3_errorOfSource 35 (S_iload 1 36) := k_iload_n dX3_errorOfSource_35 rfl
theorem r_X3_errorOfSource_36 (E : ax_EN G l) : ax_Snd G l ax_Ym M_X3_errorOfSource 36 (S_push (.int (0)) 37) := k_iconst dX3_errorOfSource_36 rfl
theorem r_X3_errorOfSource_37 (E : ax_EN G l) : ax_Snd G l ax_Ym M_X3_errorOfSource 37 (S_iast 0 (fun x => x) 38) := k_iast (en_F E) dX3_errorOfSource_37
theorem r_X3_errorOfSource_38 (E : ax_EN G l) : ax_Snd G l ax_Ym M_X3_errorOfSource 38 (S_iinc 1 (1) 41) := k_iinc dX3_errorOfSource_38 rfl (Nat.le_of_ble_eq_true rfl)
theorem r_X3_errorOfSource_41 (E : ax_EN G l) : ax_Snd G l ax_Ym M_X3_errorOfSource 41 (S_goto 24) := k_goto dX3_errorOfSource_41 rfl
theorem r_X3_errorOfSource_44 (E : ax_EN G l) : ax_Snd G l ax_Ym M_X3_errorOfSource 44 (S_aload 0 45) := k_aload_n dX3_errorOfSource_44 rfl
theorem r_X3_errorOfSource_45 (E : ax_EN G l) : ax_Snd G l ax_Ym M_X3_errorOfSource 45 (S_push (.int (0)) 46) := k_iconst dX3_errorOfSource_45 rfl
theorem r_X3_errorOfSource_46 (E : ax_EN G l) : ax_Snd G l ax_Ym M_X3_errorOfSource 46 (S_iv [(38, 390)] 1 49 hd_0) := k_iv (en_F E) (ax_ok0 E rfl) (ax_Evs_cons ((ev_v (en_c E (k := 38) rfl) rfl y_X3_goesThrough q3047 q3049 qs63 q126 q3050 nm_X3_goesThrough (Nat.le_of_ble_eq_true rfl) dX3_errorOfSource_46) : ax_EvV G l ax_Ym M_X3_errorOfSource 46 1 3 38 390) ax_Evs_nil)
theorem r_X3_errorOfSource_49 (E : ax_EN G l) : ax_Snd G l ax_Ym M_X3_errorOfSource 49 (S_istore 1 50) := k_istore_n dX3_errorOfSource_49 rfl (Nat.le_of_ble_eq_true rfl)
theorem r_X3_errorOfSource_50 (E : ax_EN G l) : ax_Snd G l ax_Ym M_X3_errorOfSource 50 (S_iload 1 51) := k_iload_n dX3_errorOfSource_50 rfl
theorem r_X3_errorOfSource_51 (E : ax_EN G l) : ax_Snd G l ax_Ym M_X3_errorOfSource 51 (S_if1 (fun x => decide (¬ x = 0)) 62 54) := k_if_ne dX3_errorOfSource_51 rfl
theorem r_X3_errorOfSource_54 (E : ax_EN G l) : ax_Snd G l ax_Ym M_X3_errorOfSource 54 (S_aload 0 55) := k_aload_n dX3_errorOfSource_54 rfl
theorem r_X3_errorOfSource_55 (E : ax_EN G l) : ax_Snd G l ax_Ym M_X3_errorOfSource 55 (S_push (.int (1)) 56) := k_iconst dX3_errorOfSource_55 rfl
theorem r_X3_errorOfSource_56 (E : ax_EN G l) : ax_Snd G l ax_Ym M_X3_errorOfSource 56 (S_iv [(38, 390)] 1 59 hd_0) := k_iv (en_F E) (ax_ok0 E rfl) (ax_Evs_cons ((ev_v (en_c E (k := 38) rfl) rfl y_X3_goesThrough q3047 q3049 qs63 q126 q3050 nm_X3_goesThrough (Nat.le_of_ble_eq_true rfl) dX3_errorOfSource_56) : ax_EvV G l ax_Ym M_X3_errorOfSource 56 1 3 38 390) ax_Evs_nil)
theorem r_X3_errorOfSource_59 (E : ax_EN G l) : ax_Snd G l ax_Ym M_X3_errorOfSource 59 (S_goto 63) := k_goto dX3_errorOfSource_59 rfl
theorem r_X3_errorOfSource_62 (E : ax_EN G l) : ax_Snd G l ax_Ym M_X3_errorOfSource 62 (S_iload 1 63) := k_iload_n dX3_errorOfSource_62 rfl
theorem r_X3_errorOfSource_63 (E : ax_EN G l) : ax_Snd G l ax_Ym M_X3_errorOfSource 63 (S_iret) := k_iret dX3_errorOfSource_63 rfl
theorem mt_X3_errorOfSource (E : ax_EN G l) : ax_mt G l ax_Ym (2, P_X3_errorOfSource) (ax_Ym 389) := ⟨M_X3_errorOfSource, yX3_errorOfSource, ⟨rfl, by decide +kernel, rfl, (fun h => by cases h), Or.inl ⟨rfl, rfl⟩⟩, fun pc => (ax_sn_node (ax_sn_node (ax_sn_node (ax_sn_node (ax_sn_node (ax_sn_node (ax_sn_leaf (r_X3_errorOfSource_63 E)) (ax_sn_leaf (r_X3_errorOfSource_62 E))) (ax_sn_leaf (r_X3_errorOfSource_59 E))) (ax_sn_node (ax_sn_leaf (r_X3_errorOfSource_56 E)) (ax_sn_leaf (r_X3_errorOfSource_55 E)))) (ax_sn_node (ax_sn_node (ax_sn_leaf (r_X3_errorOfSource_54 E)) (ax_sn_leaf (r_X3_errorOfSource_51 E))) (ax_sn_node (ax_sn_leaf (r_X3_errorOfSource_50 E)) (ax_sn_leaf (r_X3_errorOfSource_49 E))))) (ax_sn_node (ax_sn_node (ax_sn_node (ax_sn_node (ax_sn_leaf (r_X3_errorOfSource_46 E)) (ax_sn_leaf (r_X3_errorOfSource_45 E))) (ax_sn_leaf (r_X3_errorOfSource_44 E))) (ax_sn_node (ax_sn_leaf (r_X3_errorOfSource_41 E)) (ax_sn_leaf (r_X3_errorOfSource_38 E)))) (ax_sn_node (ax_sn_node (ax_sn_leaf (r_X3_errorOfSource_37 E)) (ax_sn_leaf (r_X3_errorOfSource_36 E))) (ax_sn_node (ax_sn_leaf (r_X3_errorOfSource_35 E)) (ax_sn_leaf (r_X3_errorOfSource_32 E)))))) (ax_sn_node (ax_sn_node (ax_sn_node (ax_sn_node (ax_sn_node (ax_sn_leaf (r_X3_errorOfSource_31 E)) (ax_sn_leaf (r_X3_errorOfSource_28 E))) (ax_sn_leaf (r_X3_errorOfSource_25 E))) (ax_sn_node (ax_sn_leaf (r_X3_errorOfSource_24 E)) (ax_sn_leaf (r_X3_errorOfSource_23 E)))) (ax_sn_node (ax_sn_node (ax_sn_leaf (r_X3_errorOfSource_22 E)) (ax_sn_leaf (r_X3_errorOfSource_19 E))) (ax_sn_node (ax_sn_leaf (r_X3_errorOfSource_16 E)) (ax_sn_leaf (r_X3_errorOfSource_15 E))))) (ax_sn_node (ax_sn_node (ax_sn_node (ax_sn_node (ax_sn_leaf (r_X3_errorOfSource_14 E)) (ax_sn_leaf (r_X3_errorOfSource_13 E))) (ax_sn_leaf (r_X3_errorOfSource_10 E))) (ax_sn_node (ax_sn_leaf (r_X3_errorOfSource_9 E)) (ax_sn_leaf (r_X3_errorOfSource_6 E)))) (ax_sn_node (ax_sn_node (ax_sn_leaf (r_X3_errorOfSource_3 E)) (ax_sn_leaf (r_X3_errorOfSource_2 E))) (ax_sn_node (ax_sn_leaf (r_X3_errorOfSource_1 E)) (ax_sn_leaf (r_X3_errorOfSource_0 E)))))))⟩
theorem r_X3_goesThrough_0 (E : ax_EN G l) : ax_Snd G l ax_Ym M_X3_goesThrough 0 (S_aload 0 1) := k_aload_n dX3_goesThrough_0 rfl
theorem r_X3_goesThrough_1 (E : ax_EN G l) : ax_Snd G l ax_Ym M_X3_goesThrough 1 (S_push (.int (8)) 3) := k_bipush dX3_goesThrough_1 rfl
theorem r_X3_goesThrough_3 (E : ax_EN G l) : ax_Snd G l ax_Ym M_X3_goesThrough 3 (S_aload 0 4) := k_aload_n dX3_goesThrough_3 rfl
theorem r_X3_goesThrough_4 (E : ax_EN G l) : ax_Snd G l ax_Ym M_X3_goesThrough 4 (S_getf [(38, 5)] 7) := k_getf (en_F E) (ax_fes_cons (fe_362 E) ax_fes_nil) q2758 dX3_goesThrough_4
theorem r_X3_goesThrough_7 (E : ax_EN G l) : ax_Snd G l ax_Ym M_X3_goesThrough 7 (S_push (.int (0)) 8) := k_iconst dX3_goesThrough_7 rfl
theorem r_X3_goesThrough_8 (E : ax_EN G l) : ax_Snd G l ax_Ym M_X3_goesThrough 8 (S_iald 0 9) := k_iald (en_F E) dX3_goesThrough_8
theorem r_X3_goesThrough_9 (E : ax_EN G l) : ax_Snd G l ax_Ym M_X3_goesThrough 9 (S_i2 (fun x y => x + y) 10) := k_iadd dX3_goesThrough_9
theorem r_X3_goesThrough_10 (E : ax_EN G l) : ax_Snd G l ax_Ym M_X3_goesThrough 10 (S_putf [(38, 18)] (.int) 13) := k_putf (en_F E) (en_P E) (ax_fes_cons (fe_446 E) ax_fes_nil) (ax_fps_cons (fp_447 E) ax_fps_nil) q2771 dX3_goesThrough_10
theorem r_X3_goesThrough_13 (E : ax_EN G l) : ax_Snd G l ax_Ym M_X3_goesThrough 13 (S_aload 0 14) := k_aload_n dX3_goesThrough_13 rfl
theorem r_X3_goesThrough_14 (E : ax_EN G l) : ax_Snd G l ax_Ym M_X3_goesThrough 14 (S_getf [(38, 5)] 17) := k_getf (en_F E) (ax_fes_cons (fe_362 E) ax_fes_nil) q2758 dX3_goesThrough_14
theorem r_X3_goesThrough_17 (E : ax_EN G l) : ax_Snd G l ax_Ym M_X3_goesThrough 17 (S_push (.int (0)) 18) := k_iconst dX3_goesThrough_17 rfl
theorem r_X3_goesThrough_18 (E : ax_EN G l) : ax_Snd G l ax_Ym M_X3_goesThrough 18 (S_push (.int (0)) 19) := k_iconst dX3_goesThrough_18 rfl
theorem r_X3_goesThrough_19 (E : ax_EN G l) : ax_Snd G l ax_Ym M_X3_goesThrough 19 (S_iast 0 (fun x => x) 20) := k_iast (en_F E) dX3_goesThrough_19
theorem r_X3_goesThrough_20 (E : ax_EN G l) : ax_Snd G l ax_Ym M_X3_goesThrough 20 (S_aload 0 21) := k_aload_n dX3_goesThrough_20 rfl
theorem r_X3_goesThrough_21 (E : ax_EN G l) : ax_Snd G l ax_Ym M_X3_goesThrough 21 (S_getf [(38, 5)] 24) := k_getf (en_F E) (ax_fes_cons (fe_362 E) ax_fes_nil) q2758 dX3_goesThrough_21
theorem r_X3_goesThrough_24 (E : ax_EN G l) : ax_Snd G l ax_Ym M_X3_goesThrough 24 (S_push (.int (1)) 25) := k_iconst dX3_goesThrough_24 rfl
theorem r_X3_goesThrough_25 (E : ax_EN G l) : ax_Snd G l ax_Ym M_X3_goesThrough 25 (S_push (.int (0)) 26) := k_iconst dX3_goesThrough_25 rfl
theorem r_X3_goesThrough_26 (E : ax_EN G l) : ax_Snd G l ax_Ym M_X3_goesThrough 26 (S_iast 0 (fun x => x) 27) := k_iast (en_F E) dX3_goesThrough_26
theorem r_X3_goesThrough_27 (E : ax_EN G l) : ax_Snd G l ax_Ym M_X3_goesThrough 27 (S_aload 0 28) := k_aload_n dX3_goesThrough_27 rfl
theorem r_X3_goesThrough_28 (E : ax_EN G l) : ax_Snd G l ax_Ym M_X3_goesThrough 28 (S_push (.int (0)) 29) := k_iconst dX3_goesThrough_28 rfl
theorem r_X3_goesThrough_29 (E : ax_EN G l) : ax_Snd G l ax_Ym M_X3_goesThrough 29 (S_putf [(38, 15)] (.int) 32) := k_putf (en_F E) (en_P E) (ax_fes_cons (fe_448 E) ax_fes_nil) (ax_fps_cons (fp_449 E) ax_fps_nil) q2768 dX3_goesThrough_29
theorem r_X3_goesThrough_32 (E : ax_EN G l) : ax_Snd G l ax_Ym M_X3_goesThrough 32 (S_aload 0 33) := k_aload_n dX3_goesThrough_32 rfl
theorem r_X3_goesThrough_33 (E : ax_EN G l) : ax_Snd G l ax_Ym M_X3_goesThrough 33 (S_push (.int (0)) 34) := k_iconst dX3_goesThrough_33 rfl
theorem r_X3_goesThrough_34 (E : ax_EN G l) : ax_Snd G l ax_Ym M_X3_goesThrough 34 (S_putf [(38, 16)] (.int) 37) := k_putf (en_F E) (en_P E) (ax_fes_cons (fe_450 E) ax_fes_nil) (ax_fps_cons (fp_451 E) ax_fps_nil) q2769 dX3_goesThrough_34
theorem r_X3_goesThrough_37 (E : ax_EN G l) : ax_Snd G l ax_Ym M_X3_goesThrough 37 (S_aload 0 38) := k_aload_n dX3_goesThrough_37 rfl
theorem r_X3_goesThrough_38 (E : ax_EN G l) : ax_Snd G l ax_Ym M_X3_goesThrough 38 (S_push (.int (0)) 39) := k_iconst dX3_goesThrough_38 rfl
theorem r_X3_goesThrough_39 (E : ax_EN G l) : ax_Snd G l ax_Ym M_X3_goesThrough 39 (S_putf [(38, 17)] (.int) 42) := k_putf (en_F E) (en_P E) (ax_fes_cons (fe_452 E) ax_fes_nil) (ax_fps_cons (fp_453 E) ax_fps_nil) q2770 dX3_goesThrough_39
theorem r_X3_goesThrough_42 (E : ax_EN G l) : ax_Snd G l ax_Ym M_X3_goesThrough 42 (S_aload 0 43) := k_aload_n dX3_goesThrough_42 rfl
theorem r_X3_goesThrough_43 (E : ax_EN G l) : ax_Snd G l ax_Ym M_X3_goesThrough 43 (S_push (.int (0)) 44) := k_iconst dX3_goesThrough_43 rfl
theorem r_X3_goesThrough_44 (E : ax_EN G l) : ax_Snd G l ax_Ym M_X3_goesThrough 44 (S_putf [(38, 14)] (.int) 47) := k_putf (en_F E) (en_P E) (ax_fes_cons (fe_454 E) ax_fes_nil) (ax_fps_cons (fp_455 E) ax_fps_nil) q2767 dX3_goesThrough_44
theorem r_X3_goesThrough_47 (E : ax_EN G l) : ax_Snd G l ax_Ym M_X3_goesThrough 47 (S_aload 0 48) := k_aload_n dX3_goesThrough_47 rfl
theorem r_X3_goesThrough_48 (E : ax_EN G l) : ax_Snd G l ax_Ym M_X3_goesThrough 48 (S_getf [(38, 8)] 51) := k_getf (en_F E) (ax_fes_cons (fe_368 E) ax_fes_nil) q2761 dX3_goesThrough_48
theorem r_X3_goesThrough_51 (E : ax_EN G l) : ax_Snd G l ax_Ym M_X3_goesThrough 51 (S_push (.int (0)) 52) := k_iconst dX3_goesThrough_51 rfl
theorem r_X3_goesThrough_52 (E : ax_EN G l) : ax_Snd G l ax_Ym M_X3_goesThrough 52 (S_push (.int (0)) 53) := k_iconst dX3_goesThrough_52 rfl
theorem r_X3_goesThrough_53 (E : ax_EN G l) : ax_Snd G l ax_Ym M_X3_goesThrough 53 (S_iast 0 (fun x => x) 54) := k_iast (en_F E) dX3_goesThrough_53
theorem r_X3_goesThrough_54 (E : ax_EN G l) : ax_Snd G l ax_Ym M_X3_goesThrough 54 (S_aload 0 55) := k_aload_n dX3_goesThrough_54 rfl
theorem r_X3_goesThrough_55 (E : ax_EN G l) : ax_Snd G l ax_Ym M_X3_goesThrough 55 (S_getf [(38, 9)] 58) := k_getf (en_F E) (ax_fes_cons (fe_370 E) ax_fes_nil) q2762 dX3_goesThrough_55
theorem r_X3_goesThrough_58 (E : ax_EN G l) : ax_Snd G l ax_Ym M_X3_goesThrough 58 (S_push (.int (0)) 59) := k_iconst dX3_goesThrough_58 rfl
theorem r_X3_goesThrough_59 (E : ax_EN G l) : ax_Snd G l ax_Ym M_X3_goesThrough 59 (S_aload 0 60) := k_aload_n dX3_goesThrough_59 rfl
theorem r_X3_goesThrough_60 (E : ax_EN G l) : ax_Snd G l ax_Ym M_X3_goesThrough 60 (S_getf [(38, 1)] 63) := k_getf (en_F E) (ax_fes_cons (fe_444 E) ax_fes_nil) q2754 dX3_goesThrough_60
theorem r_X3_goesThrough_63 (E : ax_EN G l) : ax_Snd G l ax_Ym M_X3_goesThrough 63 (S_iast 0 (fun x => x) 64) := k_iast (en_F E) dX3_goesThrough_63
theorem r_X3_goesThrough_64 (E : ax_EN G l) : ax_Snd G l ax_Ym M_X3_goesThrough 64 (S_push (.int (0)) 65) := k_iconst dX3_goesThrough_64 rfl
theorem r_X3_goesThrough_65 (E : ax_EN G l) : ax_Snd G l ax_Ym M_X3_goesThrough 65 (S_istore 2 66) := k_istore_n dX3_goesThrough_65 rfl (Nat.le_of_ble_eq_true rfl)
theorem r_X3_goesThrough_66 (E : ax_EN G l) : ax_Snd G l ax_Ym M_X3_goesThrough 66 (S_iload 2 67) := k_iload_n dX3_goesThrough_66 rfl
theorem r_X3_goesThrough_67 (E : ax_EN G l) : ax_Snd G l ax_Ym M_X3_goesThrough 67 (S_push (.int (5)) 68) := k_iconst dX3_goesThrough_67 rfl
theorem r_X3_goesThrough_68 (E : ax_EN G l) : ax_Snd G l ax_Ym M_X3_goesThrough 68 (S_if2 (fun x y => decide (y ≤ x)) 84 71) := k_icmp_ge dX3_goesThrough_68 rfl
theorem r_X3_goesThrough_71 (E : ax_EN G l) : ax_Snd G l ax_Ym M_X3_goesThrough 71 (S_aload 0 72) := k_aload_n dX3_goesThrough_71 rfl
theorem r_X3_goesThrough_72 (E : ax_EN G l) : ax_Snd G l ax_Ym M_X3_goesThrough 72 (S_getf [(38, 6)] 75) := k_getf (en_F E) (ax_fes_cons (fe_364 E) ax_fes_nil) q2759 dX3_goesThrough_72
theorem r_X3_goesThrough_75 (E : ax_EN G l) : ax_Snd G l ax_Ym M_X3_goesThrough 75 (S_iload 2 76) := k_iload_n dX3_goesThrough_75 rfl
theorem r_X3_goesThrough_76 (E : ax_EN G l) : ax_Snd G l ax_Ym M_X3_goesThrough 76 (S_push (.int (-1)) 77) := k_iconst dX3_goesThrough_76 rfl
theorem r_X3_goesThrough_77 (E : ax_EN G l) : ax_Snd G l ax_Ym M_X3_goesThrough 77 (S_iast 0 (fun x => x) 78) := k_iast (en_F E) dX3_goesThrough_77
theorem r_X3_goesThrough_78 (E : ax_EN G l) : ax_Snd G l ax_Ym M_X3_goesThrough 78 (S_iinc 2 (1) 81) := k_iinc dX3_goesThrough_78 rfl (Nat.le_of_ble_eq_true rfl)
theorem r_X3_goesThrough_81 (E : ax_EN G l) : ax_Snd G l ax_Ym M_X3_goesThrough 81 (S_goto 66) := k_goto dX3_goesThrough_81 rfl
theorem r_X3_goesThrough_84 (E : ax_EN G l) : ax_Snd G l ax_Ym M_X3_goesThrough 84 (S_aload 0 85) := k_aload_n dX3_goesThrough_84 rfl
theorem r_X3_goesThrough_85 (E : ax_EN G l) : ax_Snd G l ax_Ym M_X3_goesThrough 85 (S_getf [(38, 14)] 88) := k_getf (en_F E) (ax_fes_cons (fe_454 E) ax_fes_nil) q2767 dX3_goesThrough_85
theorem r_X3_goesThrough_88 (E : ax_EN G l) : ax_Snd G l ax_Ym M_X3_goesThrough 88 (S_if1 (fun x => decide (x < 0)) 164 91) := k_if_lt dX3_goesThrough_88 rfl
theorem r_X3_goesThrough_91 (E : ax_EN G l) : ax_Snd G l ax_Ym M_X3_goesThrough 91 (S_aload 0 92) := k_aload_n dX3_goesThrough_91 rfl
theorem r_X3_goesThrough_92 (E : ax_EN G l) : ax_Snd G l ax_Ym M_X3_goesThrough 92 (S_getf [(38, 8)] 95) := k_getf (en_F E) (ax_fes_cons (fe_368 E) ax_fes_nil) q2761 dX3_goesThrough_92
theorem r_X3_goesThrough_95 (E : ax_EN G l) : ax_Snd G l ax_Ym M_X3_goesThrough 95 (S_aload 0 96) := k_aload_n dX3_goesThrough_95 rfl
theorem r_X3_goesThrough_96 (E : ax_EN G l) : ax_Snd G l ax_Ym M_X3_goesThrough 96 (S_getf [(38, 14)] 99) := k_getf (en_F E) (ax_fes_cons (fe_454 E) ax_fes_nil) q2767 dX3_goesThrough_96
theorem r_X3_goesThrough_99 (E : ax_EN G l) : ax_Snd G l ax_Ym M_X3_goesThrough 99 (S_iald 0 100) := k_iald (en_F E) dX3_goesThrough_99
theorem r_X3_goesThrough_100 (E : ax_EN G l) : ax_Snd G l ax_Ym M_X3_goesThrough 100 (S_aload 0 101) := k_aload_n dX3_goesThrough_100 rfl
theorem r_X3_goesThrough_101 (E : ax_EN G l) : ax_Snd G l ax_Ym M_X3_goesThrough 101 (S_getf [(38, 9)] 104) := k_getf (en_F E) (ax_fes_cons (fe_370 E) ax_fes_nil) q2762 dX3_goesThrough_101
theorem r_X3_goesThrough_104 (E : ax_EN G l) : ax_Snd G l ax_Ym M_X3_goesThrough 104 (S_aload 0 105) := k_aload_n dX3_goesThrough_104 rfl
theorem r_X3_goesThrough_105 (E : ax_EN G l) : ax_Snd G l ax_Ym M_X3_goesThrough 105 (S_getf [(38, 14)] 108) := k_getf (en_F E) (ax_fes_cons (fe_454 E) ax_fes_nil) q2767 dX3_goesThrough_105
theorem r_X3_goesThrough_108 (E : ax_EN G l) : ax_Snd G l ax_Ym M_X3_goesThrough 108 (S_iald 0 109) := k_iald (en_F E) dX3_goesThrough_108
theorem r_X3_goesThrough_109 (E : ax_EN G l) : ax_Snd G l ax_Ym M_X3_goesThrough 109 (S_if2 (fun x y => decide (¬ x = y)) 125 112) := k_icmp_ne dX3_goesThrough_109 rfl
theorem r_X3_goesThrough_112 (E : ax_EN G l) : ax_Snd G l ax_Ym M_X3_goesThrough 112 (S_aload 0 113) := k_aload_n dX3_goesThrough_112 rfl
theorem r_X3_goesThrough_113 (E : ax_EN G l) : ax_Snd G l ax_Ym M_X3_goesThrough 113 (S_dup 114) := k_dup dX3_goesThrough_113
theorem r_X3_goesThrough_114 (E : ax_EN G l) : ax_Snd G l ax_Ym M_X3_goesThrough 114 (S_getf [(38, 14)] 117) := k_getf (en_F E) (ax_fes_cons (fe_454 E) ax_fes_nil) q2767 dX3_goesThrough_114
theorem r_X3_goesThrough_117 (E : ax_EN G l) : ax_Snd G l ax_Ym M_X3_goesThrough 117 (S_push (.int (1)) 118) := k_iconst dX3_goesThrough_117 rfl
theorem r_X3_goesThrough_118 (E : ax_EN G l) : ax_Snd G l ax_Ym M_X3_goesThrough 118 (S_i2 (fun x y => x - y) 119) := k_isub dX3_goesThrough_118
theorem r_X3_goesThrough_119 (E : ax_EN G l) : ax_Snd G l ax_Ym M_X3_goesThrough 119 (S_putf [(38, 14)] (.int) 122) := k_putf (en_F E) (en_P E) (ax_fes_cons (fe_454 E) ax_fes_nil) (ax_fps_cons (fp_455 E) ax_fps_nil) q2767 dX3_goesThrough_119
theorem r_X3_goesThrough_122 (E : ax_EN G l) : ax_Snd G l ax_Ym M_X3_goesThrough 122 (S_goto 84) := k_goto dX3_goesThrough_122 rfl
theorem r_X3_goesThrough_125 (E : ax_EN G l) : ax_Snd G l ax_Ym M_X3_goesThrough 125 (S_aload 0 126) := k_aload_n dX3_goesThrough_125 rfl
theorem r_X3_goesThrough_126 (E : ax_EN G l) : ax_Snd G l ax_Ym M_X3_goesThrough 126 (S_getf [(38, 8)] 129) := k_getf (en_F E) (ax_fes_cons (fe_368 E) ax_fes_nil) q2761 dX3_goesThrough_126
theorem r_X3_goesThrough_129 (E : ax_EN G l) : ax_Snd G l ax_Ym M_X3_goesThrough 129 (S_aload 0 130) := k_aload_n dX3_goesThrough_129 rfl
theorem r_X3_goesThrough_130 (E : ax_EN G l) : ax_Snd G l ax_Ym M_X3_goesThrough 130 (S_getf [(38, 14)] 133) := k_getf (en_F E) (ax_fes_cons (fe_454 E) ax_fes_nil) q2767 dX3_goesThrough_130
theorem r_X3_goesThrough_133 (E : ax_EN G l) : ax_Snd G l ax_Ym M_X3_goesThrough 133 (S_iald 0 134) := k_iald (en_F E) dX3_goesThrough_133
theorem r_X3_goesThrough_134 (E : ax_EN G l) : ax_Snd G l ax_Ym M_X3_goesThrough 134 (S_istore 2 135) := k_istore_n dX3_goesThrough_134 rfl (Nat.le_of_ble_eq_true rfl)
theorem r_X3_goesThrough_135 (E : ax_EN G l) : ax_Snd G l ax_Ym M_X3_goesThrough 135 (S_aload 0 136) := k_aload_n dX3_goesThrough_135 rfl
theorem r_X3_goesThrough_136 (E : ax_EN G l) : ax_Snd G l ax_Ym M_X3_goesThrough 136 (S_getf [(38, 8)] 139) := k_getf (en_F E) (ax_fes_cons (fe_368 E) ax_fes_nil) q2761 dX3_goesThrough_136
theorem r_X3_goesThrough_139 (E : ax_EN G l) : ax_Snd G l ax_Ym M_X3_goesThrough 139 (S_aload 0 140) := k_aload_n dX3_goesThrough_139 rfl
theorem r_X3_goesThrough_140 (E : ax_EN G l) : ax_Snd G l ax_Ym M_X3_goesThrough 140 (S_getf [(38, 14)] 143) := k_getf (en_F E) (ax_fes_cons (fe_454 E) ax_fes_nil) q2767 dX3_goesThrough_140
theorem r_X3_goesThrough_143 (E : ax_EN G l) : ax_Snd G l ax_Ym M_X3_goesThrough 143 (S_dup2 144) := k_dup2 dX3_goesThrough_143
theorem r_X3_goesThrough_144 (E : ax_EN G l) : ax_Snd G l ax_Ym M_X3_goesThrough 144 (S_iald 0 145) := k_iald (en_F E) dX3_goesThrough_144
theorem r_X3_goesThrough_145 (E : ax_EN G l) : ax_Snd G l ax_Ym M_X3_goesThrough 145 (S_push (.int (1)) 146) := k_iconst dX3_goesThrough_145 rfl
theorem r_X3_goesThrough_146 (E : ax_EN G l) : ax_Snd G l ax_Ym M_X3_goesThrough 146 (S_i2 (fun x y => x + y) 147) := k_iadd dX3_goesThrough_146
theorem r_X3_goesThrough_147 (E : ax_EN G l) : ax_Snd G l ax_Ym M_X3_goesThrough 147 (S_iast 0 (fun x => x) 148) := k_iast (en_F E) dX3_goesThrough_147
theorem r_X3_goesThrough_148 (E : ax_EN G l) : ax_Snd G l ax_Ym M_X3_goesThrough 148 (S_aload 0 149) := k_aload_n dX3_goesThrough_148 rfl
theorem r_X3_goesThrough_149 (E : ax_EN G l) : ax_Snd G l ax_Ym M_X3_goesThrough 149 (S_iload 2 150) := k_iload_n dX3_goesThrough_149 rfl
theorem r_X3_goesThrough_150 (E : ax_EN G l) : ax_Snd G l ax_Ym M_X3_goesThrough 150 (S_iload 1 151) := k_iload_n dX3_goesThrough_150 rfl
theorem r_X3_goesThrough_151 (E : ax_EN G l) : ax_Snd G l ax_Ym M_X3_goesThrough 151 (S_iv [(38, 391)] 2 154 hd_0) := k_iv (en_F E) (ax_ok0 E rfl) (ax_Evs_cons ((ev_v (en_c E (k := 38) rfl) rfl y_X3_goes q3051 q3053 qs64 q126 q3054 nm_X3_goes (Nat.le_of_ble_eq_true rfl) dX3_goesThrough_151) : ax_EvV G l ax_Ym M_X3_goesThrough 151 2 3 38 391) ax_Evs_nil)
theorem r_X3_goesThrough_154 (E : ax_EN G l) : ax_Snd G l ax_Ym M_X3_goesThrough 154 (S_istore 3 155) := k_istore_n dX3_goesThrough_154 rfl (Nat.le_of_ble_eq_true rfl)
theorem r_X3_goesThrough_155 (E : ax_EN G l) : ax_Snd G l ax_Ym M_X3_goesThrough 155 (S_iload 3 156) := k_iload_n dX3_goesThrough_155 rfl
theorem r_X3_goesThrough_156 (E : ax_EN G l) : ax_Snd G l ax_Ym M_X3_goesThrough 156 (S_if1 (fun x => decide (x = 0)) 161 159) := k_if_eq dX3_goesThrough_156 rfl
theorem r_X3_goesThrough_159 (E : ax_EN G l) : ax_Snd G l ax_Ym M_X3_goesThrough 159 (S_iload 3 160) := k_iload_n dX3_goesThrough_159 rfl
theorem r_X3_goesThrough_160 (E : ax_EN G l) : ax_Snd G l ax_Ym M_X3_goesThrough 160 (S_iret) := k_iret dX3_goesThrough_160 rfl
theorem r_X3_goesThrough_161 (E : ax_EN G l) : ax_Snd G l ax_Ym M_X3_goesThrough 161 (S_goto 84) := k_goto dX3_goesThrough_161 rfl
theorem r_X3_goesThrough_164 (E : ax_EN G l) : ax_Snd G l ax_Ym M_X3_goesThrough 164 (S_push (.int (0)) 165) := k_iconst dX3_goesThrough_164 rfl
theorem r_X3_goesThrough_165 (E : ax_EN G l) : ax_Snd G l ax_Ym M_X3_goesThrough 165 (S_iret) := k_iret dX3_goesThrough_165 rfl
theorem mt_X3_goesThrough (E : ax_EN G l) : ax_mt G l ax_Ym (4, P_X3_goesThrough) (ax_Ym 390) := ⟨M_X3_goesThrough, yX3_goesThrough, ⟨rfl, by decide +kernel, rfl, (fun h => by cases h), Or.inl ⟨rfl, rfl⟩⟩, fun pc => (ax_sn_node (ax_sn_node (ax_sn_node (ax_sn_node (ax_sn_node (ax_sn_node (ax_sn_node (ax_sn_leaf (r_X3_goesThrough_165 E)) (ax_sn_leaf (r_X3_goesThrough_164 E))) (ax_sn_node (ax_sn_leaf (r_X3_goesThrough_161 E)) (ax_sn_leaf (r_X3_goesThrough_160 E)))) (ax_sn_node (ax_sn_node (ax_sn_leaf (r_X3_goesThrough_159 E)) (ax_sn_leaf (r_X3_goesThrough_156 E))) (ax_sn_leaf (r_X3_goesThrough_155 E)))) (ax_sn_node (ax_sn_node (ax_sn_node (ax_sn_leaf (r_X3_goesThrough_154 E)) (ax_sn_leaf (r_X3_goesThrough_151 E))) (ax_sn_leaf (r_X3_goesThrough_150 E))) (ax_sn_node (ax_sn_node (ax_sn_leaf (r_X3_goesThrough_149 E)) (ax_sn_leaf (r_X3_goesThrough_148 E))) (ax_sn_leaf (r_X3_goesThrough_147 E))))) (ax_sn_node (ax_sn_node (ax_sn_node (ax_sn_node (ax_sn_leaf (r_X3_goesThrough_146 E)) (ax_sn_leaf (r_X3_goesThrough_145 E))) (ax_sn_node (ax_sn_leaf (r_X3_goesThrough_144 E)) (ax_sn_leaf (r_X3_goesThrough_143 E)))) (ax_sn_node (ax_sn_node (ax_sn_leaf (r_X3_goesThrough_140 E)) (ax_sn_leaf (r_X3_goesThrough_139 E))) (ax_sn_leaf (r_X3_goesThrough_136 E)))) (ax_sn_node (ax_sn_node (ax_sn_node (ax_sn_leaf (r_X3_goesThrough_135 E)) (ax_sn_leaf (r_X3_goesThrough_134 E))) (ax_sn_leaf (r_X3_goesThrough_133 E))) (ax_sn_node (ax_sn_node (ax_sn_leaf (r_X3_goesThrough_130 E)) (ax_sn_leaf (r_X3_goesThrough_129 E))) (ax_sn_leaf (r_X3_goesThrough_126 E)))))) (ax_sn_node (ax_sn_node (ax_sn_node (ax_sn_node (ax_sn_node (ax_sn_leaf (r_X3_goesThrough_125 E)) (ax_sn_leaf (r_X3_goesThrough_122 E))) (ax_sn_node (ax_sn_leaf (r_X3_goesThrough_119 E)) (ax_sn_leaf (r_X3_goesThrough_118 E)))) (ax_sn_node (ax_sn_node (ax_sn_leaf (r_X3_goesThrough_117 E)) (ax_sn_leaf (r_X3_goesThrough_114 E))) (ax_sn_leaf (r_X3_goesThrough_113 E)))) (ax_sn_node (ax_sn_node (ax_sn_node (ax_sn_leaf (r_X3_goesThrough_112 E)) (ax_sn_leaf (r_X3_goesThrough_109 E))) (ax_sn_leaf (r_X3_goesThrough_108 E))) (ax_sn_node (ax_sn_node (ax_sn_leaf (r_X3_goesThrough_105 E)) (ax_sn_leaf (r_X3_goesThrough_104 E))) (ax_sn_leaf (r_X3_goesThrough_101 E))))) (ax_sn_node (ax_sn_node (ax_sn_node (ax_sn_node (ax_sn_leaf (r_X3_goesThrough_100 E)) (ax_sn_leaf (r_X3_goesThrough_99 E))) (ax_sn_leaf (r_X3_goesThrough_96 E))) (ax_sn_node (ax_sn_node (ax_sn_leaf (r_X3_goesThrough_95 E)) (ax_sn_leaf (r_X3_goesThrough_92 E))) (ax_sn_leaf (r_X3_goesThrough_91 E)))) (ax_sn_node (ax_sn_node (ax_sn_node (ax_sn_leaf (r_X3_goesThrough_88 E)) (ax_sn_leaf (r_X3_goesThrough_85 E))) (ax_sn_leaf (r_X3_goesThrough_84 E))) (ax_sn_node (ax_sn_node (ax_sn_leaf (r_X3_goesThrough_81 E)) (ax_sn_leaf (r_X3_goesThrough_78 E))) (ax_sn_leaf (r_X3_goesThrough_77 E))))))) (ax_sn_node (ax_sn_node (ax_sn_node (ax_sn_node (ax_sn_node (ax_sn_node (ax_sn_leaf (r_X3_goesThrough_76 E)) (ax_sn_leaf (r_X3_goesThrough_75 E))) (ax_sn_node (ax_sn_leaf (r_X3_goesThrough_72 E)) (ax_sn_leaf (r_X3_goesThrough_71 E)))) (ax_sn_node (ax_sn_node (ax_sn_leaf (r_X3_goesThrough_68 E)) (ax_sn_leaf (r_X3_goesThrough_67 E))) (ax_sn_leaf (r_X3_goesThrough_66 E)))) (ax_sn_node (ax_sn_node (ax_sn_node (ax_sn_leaf (r_X3_goesThrough_65 E)) (ax_sn_leaf (r_X3_goesThrough_64 E))) (ax_sn_leaf (r_X3_goesThrough_63 E))) (ax_sn_node (ax_sn_node (ax_sn_leaf (r_X3_goesThrough_60 E)) (ax_sn_leaf (r_X3_goesThrough_59 E))) (ax_sn_leaf (r_X3_goesThrough_58 E))))) (ax_sn_node (ax_sn_node (ax_sn_node (ax_sn_node (ax_sn_leaf (r_X3_goesThrough_55 E)) (ax_sn_leaf (r_X3_goesThrough_54 E))) (ax_sn_leaf (r_X3_goesThrough_53 E))) (ax_sn_node (ax_sn_node (ax_sn_leaf (r_X3_goesThrough_52 E)) (ax_sn_leaf (r_X3_goesThrough_51 E))) (ax_sn_leaf (r_X3_goesThrough_48 E)))) (ax_sn_node (ax_sn_node (ax_sn_node (ax_sn_leaf (r_X3_goesThrough_47 E)) (ax_sn_leaf (r_X3_goesThrough_44 E))) (ax_sn_leaf (r_X3_goesThrough_43 E))) (ax_sn_node (ax_sn_node (ax_sn_leaf (r_X3_goesThrough_42 E)) (ax_sn_leaf (r_X3_goesThrough_39 E))) (ax_sn_leaf (r_X3_goesThrough_38 E)))))) (ax_sn_node (ax_sn_node (ax_sn_node (ax_sn_node (ax_sn_node (ax_sn_leaf (r_X3_goesThrough_37 E)) (ax_sn_leaf (r_X3_goesThrough_34 E))) (ax_sn_node (ax_sn_leaf (r_X3_goesThrough_33 E)) (ax_sn_leaf (r_X3_goesThrough_32 E)))) (ax_sn_node (ax_sn_node (ax_sn_leaf (r_X3_goesThrough_29 E)) (ax_sn_leaf (r_X3_goesThrough_28 E))) (ax_sn_leaf (r_X3_goesThrough_27 E)))) (ax_sn_node (ax_sn_node (ax_sn_node (ax_sn_leaf (r_X3_goesThrough_26 E)) (ax_sn_leaf (r_X3_goesThrough_25 E))) (ax_sn_leaf (r_X3_goesThrough_24 E))) (ax_sn_node (ax_sn_node (ax_sn_leaf (r_X3_goesThrough_21 E)) (ax_sn_leaf (r_X3_goesThrough_20 E))) (ax_sn_leaf (r_X3_goesThrough_19 E))))) (ax_sn_node (ax_sn_node (ax_sn_node (ax_sn_node (ax_sn_leaf (r_X3_goesThrough_18 E)) (ax_sn_leaf (r_X3_goesThrough_17 E))) (ax_sn_leaf (r_X3_goesThrough_14 E))) (ax_sn_node (ax_sn_node (ax_sn_leaf (r_X3_goesThrough_13 E)) (ax_sn_leaf (r_X3_goesThrough_10 E))) (ax_sn_leaf (r_X3_goesThrough_9 E)))) (ax_sn_node (ax_sn_node (ax_sn_node (ax_sn_leaf (r_X3_goesThrough_8 E)) (ax_sn_leaf (r_X3_goesThrough_7 E))) (ax_sn_leaf (r_X3_goesThrough_4 E))) (ax_sn_node (ax_sn_node (ax_sn_leaf (r_X3_goesThrough_3 E)) (ax_sn_leaf (r_X3_goesThrough_1 E))) (ax_sn_leaf (r_X3_goesThrough_0 E))))))))⟩
theorem r_X3_goes_0 (E : ax_EN G l) : ax_Snd G l ax_Ym M_X3_goes 0 (S_aload 0 1) := k_aload_n dX3_goes_0 rfl
theorem r_X3_goes_1 (E : ax_EN G l) : ax_Snd G l ax_Ym M_X3_goes 1 (S_dup 2) := k_dup dX3_goes_1
theorem r_X3_goes_2 (E : ax_EN G l) : ax_Snd G l ax_Ym M_X3_goes 2 (S_getf [(38, 16)] 5) := k_getf (en_F E) (ax_fes_cons (fe_450 E) ax_fes_nil) q2769 dX3_goes_2
theorem r_X3_goes_5 (E : ax_EN G l) : ax_Snd G l ax_Ym M_X3_goes 5 (S_push (.int (1)) 6) := k_iconst dX3_goes_5 rfl
theorem r_X3_goes_6 (E : ax_EN G l) : ax_Snd G l ax_Ym M_X3_goes 6 (S_i2 (fun x y => x + y) 7) := k_iadd dX3_goes_6
theorem r_X3_goes_7 (E : ax_EN G l) : ax_Snd G l ax_Ym M_X3_goes 7 (S_putf [(38, 16)] (.int) 10) := k_putf (en_F E) (en_P E) (ax_fes_cons (fe_450 E) ax_fes_nil) (ax_fps_cons (fp_451 E) ax_fps_nil) q2769 dX3_goes_7
theorem r_X3_goes_10 (E : ax_EN G l) : ax_Snd G l ax_Ym M_X3_goes 10 (S_aload 0 11) := k_aload_n dX3_goes_10 rfl
theorem r_X3_goes_11 (E : ax_EN G l) : ax_Snd G l ax_Ym M_X3_goes 11 (S_iload 1 12) := k_iload_n dX3_goes_11 rfl
theorem r_X3_goes_12 (E : ax_EN G l) : ax_Snd G l ax_Ym M_X3_goes 12 (S_iv [(38, 392)] 1 15 hd_0) := k_iv (en_F E) (ax_ok0 E rfl) (ax_Evs_cons ((ev_v (en_c E (k := 38) rfl) rfl y_X3_wordsOf q3055 q3057 qs65 q126 q3058 nm_X3_wordsOf (Nat.le_of_ble_eq_true rfl) dX3_goes_12) : ax_EvV G l ax_Ym M_X3_goes 12 1 3 38 392) ax_Evs_nil)
theorem r_X3_goes_15 (E : ax_EN G l) : ax_Snd G l ax_Ym M_X3_goes 15 (S_istore 3 16) := k_istore_n dX3_goes_15 rfl (Nat.le_of_ble_eq_true rfl)
theorem r_X3_goes_16 (E : ax_EN G l) : ax_Snd G l ax_Ym M_X3_goes 16 (S_aload 0 17) := k_aload_n dX3_goes_16 rfl
theorem r_X3_goes_17 (E : ax_EN G l) : ax_Snd G l ax_Ym M_X3_goes 17 (S_getf [(38, 2)] 20) := k_getf (en_F E) (ax_fes_cons (fe_356 E) ax_fes_nil) q2755 dX3_goes_17
theorem r_X3_goes_20 (E : ax_EN G l) : ax_Snd G l ax_Ym M_X3_goes 20 (S_iload 1 21) := k_iload_n dX3_goes_20 rfl
theorem r_X3_goes_21 (E : ax_EN G l) : ax_Snd G l ax_Ym M_X3_goes 21 (S_iald 0 22) := k_iald (en_F E) dX3_goes_21
theorem r_X3_goes_22 (E : ax_EN G l) : ax_Snd G l ax_Ym M_X3_goes 22 (S_istore 4 24) := k_istore dX3_goes_22 (Nat.le_of_ble_eq_true rfl)
theorem r_X3_goes_24 (E : ax_EN G l) : ax_Snd G l ax_Ym M_X3_goes 24 (S_iload 2 25) := k_iload_n dX3_goes_24 rfl
theorem r_X3_goes_25 (E : ax_EN G l) : ax_Snd G l ax_Ym M_X3_goes 25 (S_if1 (fun x => decide (¬ x = 0)) 68 28) := k_if_ne dX3_goes_25 rfl
theorem r_X3_goes_28 (E : ax_EN G l) : ax_Snd G l ax_Ym M_X3_goes 28 (S_aload 0 29) := k_aload_n dX3_goes_28 rfl
theorem r_X3_goes_29 (E : ax_EN G l) : ax_Snd G l ax_Ym M_X3_goes 29 (S_getf [(38, 16)] 32) := k_getf (en_F E) (ax_fes_cons (fe_450 E) ax_fes_nil) q2769 dX3_goes_29
theorem r_X3_goes_32 (E : ax_EN G l) : ax_Snd G l ax_Ym M_X3_goes 32 (S_push (.int (300)) 35) := k_sipush dX3_goes_32 rfl
theorem r_X3_goes_35 (E : ax_EN G l) : ax_Snd G l ax_Ym M_X3_goes 35 (S_if2 (fun x y => decide (y < x)) 63 38) := k_icmp_gt dX3_goes_35 rfl
theorem r_X3_goes_38 (E : ax_EN G l) : ax_Snd G l ax_Ym M_X3_goes 38 (S_iload 3 39) := k_iload_n dX3_goes_38 rfl
theorem r_X3_goes_39 (E : ax_EN G l) : ax_Snd G l ax_Ym M_X3_goes 39 (S_if1 (fun x => decide (x ≤ 0)) 68 42) := k_if_le dX3_goes_39 rfl
theorem r_X3_goes_42 (E : ax_EN G l) : ax_Snd G l ax_Ym M_X3_goes 42 (S_aload 0 43) := k_aload_n dX3_goes_42 rfl
theorem r_X3_goes_43 (E : ax_EN G l) : ax_Snd G l ax_Ym M_X3_goes 43 (S_getf [(38, 5)] 46) := k_getf (en_F E) (ax_fes_cons (fe_362 E) ax_fes_nil) q2758 dX3_goes_43
theorem r_X3_goes_46 (E : ax_EN G l) : ax_Snd G l ax_Ym M_X3_goes 46 (S_push (.int (0)) 47) := k_iconst dX3_goes_46 rfl
theorem r_X3_goes_47 (E : ax_EN G l) : ax_Snd G l ax_Ym M_X3_goes 47 (S_iald 0 48) := k_iald (en_F E) dX3_goes_47
theorem r_X3_goes_48 (E : ax_EN G l) : ax_Snd G l ax_Ym M_X3_goes 48 (S_aload 0 49) := k_aload_n dX3_goes_48 rfl
theorem r_X3_goes_49 (E : ax_EN G l) : ax_Snd G l ax_Ym M_X3_goes 49 (S_getf [(38, 5)] 52) := k_getf (en_F E) (ax_fes_cons (fe_362 E) ax_fes_nil) q2758 dX3_goes_49
theorem r_X3_goes_52 (E : ax_EN G l) : ax_Snd G l ax_Ym M_X3_goes 52 (S_push (.int (1)) 53) := k_iconst dX3_goes_52 rfl
theorem r_X3_goes_53 (E : ax_EN G l) : ax_Snd G l ax_Ym M_X3_goes 53 (S_iald 0 54) := k_iald (en_F E) dX3_goes_53
theorem r_X3_goes_54 (E : ax_EN G l) : ax_Snd G l ax_Ym M_X3_goes 54 (S_i2 (fun x y => x + y) 55) := k_iadd dX3_goes_54
theorem r_X3_goes_55 (E : ax_EN G l) : ax_Snd G l ax_Ym M_X3_goes 55 (S_iload 3 56) := k_iload_n dX3_goes_55 rfl
theorem r_X3_goes_56 (E : ax_EN G l) : ax_Snd G l ax_Ym M_X3_goes 56 (S_i2 (fun x y => x + y) 57) := k_iadd dX3_goes_56
theorem r_X3_goes_57 (E : ax_EN G l) : ax_Snd G l ax_Ym M_X3_goes 57 (S_push (.int (248)) 60) := k_sipush dX3_goes_57 rfl
theorem r_X3_goes_60 (E : ax_EN G l) : ax_Snd G l ax_Ym M_X3_goes 60 (S_if2 (fun x y => decide (x ≤ y)) 68 63) := k_icmp_le dX3_goes_60 rfl
theorem r_X3_goes_63 (E : ax_EN G l) : ax_Snd G l ax_Ym M_X3_goes 63 (S_push (.int (100)) 65) := k_bipush dX3_goes_63 rfl
theorem r_X3_goes_65 (E : ax_EN G l) : ax_Snd G l ax_Ym M_X3_goes 65 (S_iload 1 66) := k_iload_n dX3_goes_65 rfl
theorem r_X3_goes_66 (E : ax_EN G l) : ax_Snd G l ax_Ym M_X3_goes 66 (S_i2 (fun x y => x + y) 67) := k_iadd dX3_goes_66
theorem r_X3_goes_67 (E : ax_EN G l) : ax_Snd G l ax_Ym M_X3_goes 67 (S_iret) := k_iret dX3_goes_67 rfl
theorem r_X3_goes_68 (E : ax_EN G l) : ax_Snd G l ax_Ym M_X3_goes 68 (S_iload 4 70) := k_iload dX3_goes_68
theorem r_X3_goes_70 (E : ax_EN G l) : ax_Snd G l ax_Ym M_X3_goes 70 (S_if1 (fun x => decide (¬ x = 0)) 87 73) := k_if_ne dX3_goes_70 rfl
theorem r_X3_goes_73 (E : ax_EN G l) : ax_Snd G l ax_Ym M_X3_goes 73 (S_aload 0 74) := k_aload_n dX3_goes_73 rfl
theorem r_X3_goes_74 (E : ax_EN G l) : ax_Snd G l ax_Ym M_X3_goes 74 (S_aload 0 75) := k_aload_n dX3_goes_74 rfl
theorem r_X3_goes_75 (E : ax_EN G l) : ax_Snd G l ax_Ym M_X3_goes 75 (S_getf [(38, 3)] 78) := k_getf (en_F E) (ax_fes_cons (fe_358 E) ax_fes_nil) q2756 dX3_goes_75
theorem r_X3_goes_78 (E : ax_EN G l) : ax_Snd G l ax_Ym M_X3_goes 78 (S_push (.int (5)) 79) := k_iconst dX3_goes_78 rfl
theorem r_X3_goes_79 (E : ax_EN G l) : ax_Snd G l ax_Ym M_X3_goes 79 (S_iload 1 80) := k_iload_n dX3_goes_79 rfl
theorem r_X3_goes_80 (E : ax_EN G l) : ax_Snd G l ax_Ym M_X3_goes 80 (S_i2 (fun x y => x * y) 81) := k_imul dX3_goes_80
theorem r_X3_goes_81 (E : ax_EN G l) : ax_Snd G l ax_Ym M_X3_goes 81 (S_iald 0 82) := k_iald (en_F E) dX3_goes_81
theorem r_X3_goes_82 (E : ax_EN G l) : ax_Snd G l ax_Ym M_X3_goes 82 (S_putf [(38, 15)] (.int) 85) := k_putf (en_F E) (en_P E) (ax_fes_cons (fe_448 E) ax_fes_nil) (ax_fps_cons (fp_449 E) ax_fps_nil) q2768 dX3_goes_82
theorem r_X3_goes_85 (E : ax_EN G l) : ax_Snd G l ax_Ym M_X3_goes 85 (S_push (.int (0)) 86) := k_iconst dX3_goes_85 rfl
theorem r_X3_goes_86 (E : ax_EN G l) : ax_Snd G l ax_Ym M_X3_goes 86 (S_iret) := k_iret dX3_goes_86 rfl
theorem r_X3_goes_87 (E : ax_EN G l) : ax_Snd G l ax_Ym M_X3_goes 87 (S_iload 4 89) := k_iload dX3_goes_87
theorem r_X3_goes_89 (E : ax_EN G l) : ax_Snd G l ax_Ym M_X3_goes 89 (S_push (.int (6)) 91) := k_bipush dX3_goes_89 rfl
theorem r_X3_goes_91 (E : ax_EN G l) : ax_Snd G l ax_Ym M_X3_goes 91 (S_if2 (fun x y => decide (¬ x = y)) 100 94) := k_icmp_ne dX3_goes_91 rfl
theorem r_X3_goes_94 (E : ax_EN G l) : ax_Snd G l ax_Ym M_X3_goes 94 (S_aload 0 95) := k_aload_n dX3_goes_94 rfl
theorem r_X3_goes_95 (E : ax_EN G l) : ax_Snd G l ax_Ym M_X3_goes 95 (S_iload 1 96) := k_iload_n dX3_goes_95 rfl
theorem r_X3_goes_96 (E : ax_EN G l) : ax_Snd G l ax_Ym M_X3_goes 96 (S_iv [(38, 393)] 1 99 hd_0) := k_iv (en_F E) (ax_ok0 E rfl) (ax_Evs_cons ((ev_v (en_c E (k := 38) rfl) rfl y_X3_begins q3059 q3061 qs66 q126 q3062 nm_X3_begins (Nat.le_of_ble_eq_true rfl) dX3_goes_96) : ax_EvV G l ax_Ym M_X3_goes 96 1 3 38 393) ax_Evs_nil)
theorem r_X3_goes_99 (E : ax_EN G l) : ax_Snd G l ax_Ym M_X3_goes 99 (S_iret) := k_iret dX3_goes_99 rfl
theorem r_X3_goes_100 (E : ax_EN G l) : ax_Snd G l ax_Ym M_X3_goes 100 (S_iload 4 102) := k_iload dX3_goes_100
theorem r_X3_goes_102 (E : ax_EN G l) : ax_Snd G l ax_Ym M_X3_goes 102 (S_push (.int (7)) 104) := k_bipush dX3_goes_102 rfl
theorem r_X3_goes_104 (E : ax_EN G l) : ax_Snd G l ax_Ym M_X3_goes 104 (S_if2 (fun x y => decide (¬ x = y)) 113 107) := k_icmp_ne dX3_goes_104 rfl
theorem r_X3_goes_107 (E : ax_EN G l) : ax_Snd G l ax_Ym M_X3_goes 107 (S_push (.int (400)) 110) := k_sipush dX3_goes_107 rfl
theorem r_X3_goes_110 (E : ax_EN G l) : ax_Snd G l ax_Ym M_X3_goes 110 (S_iload 1 111) := k_iload_n dX3_goes_110 rfl
theorem r_X3_goes_111 (E : ax_EN G l) : ax_Snd G l ax_Ym M_X3_goes 111 (S_i2 (fun x y => x + y) 112) := k_iadd dX3_goes_111
theorem r_X3_goes_112 (E : ax_EN G l) : ax_Snd G l ax_Ym M_X3_goes 112 (S_iret) := k_iret dX3_goes_112 rfl
theorem r_X3_goes_113 (E : ax_EN G l) : ax_Snd G l ax_Ym M_X3_goes 113 (S_iload 4 115) := k_iload dX3_goes_113
theorem r_X3_goes_115 (E : ax_EN G l) : ax_Snd G l ax_Ym M_X3_goes 115 (S_push (.int (8)) 117) := k_bipush dX3_goes_115 rfl
theorem r_X3_goes_117 (E : ax_EN G l) : ax_Snd G l ax_Ym M_X3_goes 117 (S_if2 (fun x y => decide (¬ x = y)) 127 120) := k_icmp_ne dX3_goes_117 rfl
theorem r_X3_goes_120 (E : ax_EN G l) : ax_Snd G l ax_Ym M_X3_goes 120 (S_aload 0 121) := k_aload_n dX3_goes_120 rfl
theorem r_X3_goes_121 (E : ax_EN G l) : ax_Snd G l ax_Ym M_X3_goes 121 (S_iload 1 122) := k_iload_n dX3_goes_121 rfl
theorem r_X3_goes_122 (E : ax_EN G l) : ax_Snd G l ax_Ym M_X3_goes 122 (S_iload 2 123) := k_iload_n dX3_goes_122 rfl
theorem r_X3_goes_123 (E : ax_EN G l) : ax_Snd G l ax_Ym M_X3_goes 123 (S_iv [(38, 395)] 2 126 hd_0) := k_iv (en_F E) (ax_ok0 E rfl) (ax_Evs_cons ((ev_v (en_c E (k := 38) rfl) rfl y_X3_usesMacro q3067 q3069 qs68 q126 q3070 nm_X3_usesMacro (Nat.le_of_ble_eq_true rfl) dX3_goes_123) : ax_EvV G l ax_Ym M_X3_goes 123 2 3 38 395) ax_Evs_nil)
theorem r_X3_goes_126 (E : ax_EN G l) : ax_Snd G l ax_Ym M_X3_goes 126 (S_iret) := k_iret dX3_goes_126 rfl
theorem r_X3_goes_127 (E : ax_EN G l) : ax_Snd G l ax_Ym M_X3_goes 127 (S_iload 2 128) := k_iload_n dX3_goes_127 rfl
theorem r_X3_goes_128 (E : ax_EN G l) : ax_Snd G l ax_Ym M_X3_goes 128 (S_if1 (fun x => decide (x = 0)) 137 131) := k_if_eq dX3_goes_128 rfl
theorem r_X3_goes_131 (E : ax_EN G l) : ax_Snd G l ax_Ym M_X3_goes 131 (S_aload 0 132) := k_aload_n dX3_goes_131 rfl
theorem r_X3_goes_132 (E : ax_EN G l) : ax_Snd G l ax_Ym M_X3_goes 132 (S_iload 1 133) := k_iload_n dX3_goes_132 rfl
theorem r_X3_goes_133 (E : ax_EN G l) : ax_Snd G l ax_Ym M_X3_goes 133 (S_iv [(38, 399)] 1 136 hd_0) := k_iv (en_F E) (ax_ok0 E rfl) (ax_Evs_cons ((ev_v (en_c E (k := 38) rfl) rfl y_X3_builds q3084 q3086 qs72 q126 q3087 nm_X3_builds (Nat.le_of_ble_eq_true rfl) dX3_goes_133) : ax_EvV G l ax_Ym M_X3_goes 133 1 3 38 399) ax_Evs_nil)
theorem r_X3_goes_136 (E : ax_EN G l) : ax_Snd G l ax_Ym M_X3_goes 136 (S_iret) := k_iret dX3_goes_136 rfl
theorem r_X3_goes_137 (E : ax_EN G l) : ax_Snd G l ax_Ym M_X3_goes 137 (S_aload 0 138) := k_aload_n dX3_goes_137 rfl
theorem r_X3_goes_138 (E : ax_EN G l) : ax_Snd G l ax_Ym M_X3_goes 138 (S_getf [(38, 5)] 141) := k_getf (en_F E) (ax_fes_cons (fe_362 E) ax_fes_nil) q2758 dX3_goes_138
theorem r_X3_goes_141 (E : ax_EN G l) : ax_Snd G l ax_Ym M_X3_goes 141 (S_aload 0 142) := k_aload_n dX3_goes_141 rfl
theorem r_X3_goes_142 (E : ax_EN G l) : ax_Snd G l ax_Ym M_X3_goes 142 (S_getf [(38, 15)] 145) := k_getf (en_F E) (ax_fes_cons (fe_448 E) ax_fes_nil) q2768 dX3_goes_142
theorem r_X3_goes_145 (E : ax_EN G l) : ax_Snd G l ax_Ym M_X3_goes 145 (S_dup2 146) := k_dup2 dX3_goes_145
theorem r_X3_goes_146 (E : ax_EN G l) : ax_Snd G l ax_Ym M_X3_goes 146 (S_iald 0 147) := k_iald (en_F E) dX3_goes_146
theorem r_X3_goes_147 (E : ax_EN G l) : ax_Snd G l ax_Ym M_X3_goes 147 (S_iload 3 148) := k_iload_n dX3_goes_147 rfl
theorem r_X3_goes_148 (E : ax_EN G l) : ax_Snd G l ax_Ym M_X3_goes 148 (S_i2 (fun x y => x + y) 149) := k_iadd dX3_goes_148
theorem r_X3_goes_149 (E : ax_EN G l) : ax_Snd G l ax_Ym M_X3_goes 149 (S_iast 0 (fun x => x) 150) := k_iast (en_F E) dX3_goes_149
theorem r_X3_goes_150 (E : ax_EN G l) : ax_Snd G l ax_Ym M_X3_goes 150 (S_iload 4 152) := k_iload dX3_goes_150
theorem r_X3_goes_152 (E : ax_EN G l) : ax_Snd G l ax_Ym M_X3_goes 152 (S_push (.int (1)) 153) := k_iconst dX3_goes_152 rfl
theorem r_X3_goes_153 (E : ax_EN G l) : ax_Snd G l ax_Ym M_X3_goes 153 (S_if2 (fun x y => decide (¬ x = y)) 164 156) := k_icmp_ne dX3_goes_153 rfl
theorem r_X3_goes_156 (E : ax_EN G l) : ax_Snd G l ax_Ym M_X3_goes 156 (S_aload 0 157) := k_aload_n dX3_goes_156 rfl
theorem r_X3_goes_157 (E : ax_EN G l) : ax_Snd G l ax_Ym M_X3_goes 157 (S_iload 1 158) := k_iload_n dX3_goes_157 rfl
theorem r_X3_goes_158 (E : ax_EN G l) : ax_Snd G l ax_Ym M_X3_goes 158 (S_iv [(38, 401)] 1 161 hd_0) := k_iv (en_F E) (ax_ok0 E rfl) (ax_Evs_cons ((ev_v (en_c E (k := 38) rfl) rfl y_X3_setsLabel q3092 q3094 qs74 q126 q3095 nm_X3_setsLabel (Nat.le_of_ble_eq_true rfl) dX3_goes_158) : ax_EvV G l ax_Ym M_X3_goes 158 1 3 38 401) ax_Evs_nil)
theorem r_X3_goes_161 (E : ax_EN G l) : ax_Snd G l ax_Ym M_X3_goes 161 (S_goto 165) := k_goto dX3_goes_161 rfl
theorem r_X3_goes_164 (E : ax_EN G l) : ax_Snd G l ax_Ym M_X3_goes 164 (S_push (.int (0)) 165) := k_iconst dX3_goes_164 rfl
theorem r_X3_goes_165 (E : ax_EN G l) : ax_Snd G l ax_Ym M_X3_goes 165 (S_iret) := k_iret dX3_goes_165 rfl
theorem mt_X3_goes (E : ax_EN G l) : ax_mt G l ax_Ym (5, P_X3_goes) (ax_Ym 391) := ⟨M_X3_goes, yX3_goes, ⟨rfl, by decide +kernel, rfl, (fun h => by cases h), Or.inl ⟨rfl, rfl⟩⟩, fun pc => (ax_sn_node (ax_sn_node (ax_sn_node (ax_sn_node (ax_sn_node (ax_sn_node (ax_sn_node (ax_sn_leaf (r_X3_goes_165 E)) (ax_sn_leaf (r_X3_goes_164 E))) (ax_sn_node (ax_sn_leaf (r_X3_goes_161 E)) (ax_sn_leaf (r_X3_goes_158 E)))) (ax_sn_node (ax_sn_node (ax_sn_leaf (r_X3_goes_157 E)) (ax_sn_leaf (r_X3_goes_156 E))) (ax_sn_leaf (r_X3_goes_153 E)))) (ax_sn_node (ax_sn_node (ax_sn_node (ax_sn_leaf (r_X3_goes_152 E)) (ax_sn_leaf (r_X3_goes_150 E))) (ax_sn_leaf (r_X3_goes_149 E))) (ax_sn_node (ax_sn_node (ax_sn_leaf (r_X3_goes_148 E)) (ax_sn_leaf (r_X3_goes_147 E))) (ax_sn_leaf (r_X3_goes_146 E))))) (ax_sn_node (ax_sn_node (ax_sn_node (ax_sn_node (ax_sn_leaf (r_X3_goes_145 E)) (ax_sn_leaf (r_X3_goes_142 E))) (ax_sn_leaf (r_X3_goes_141 E))) (ax_sn_node (ax_sn_node (ax_sn_leaf (r_X3_goes_138 E)) (ax_sn_leaf (r_X3_goes_137 E))) (ax_sn_leaf (r_X3_goes_136 E)))) (ax_sn_node (ax_sn_node (ax_sn_node (ax_sn_leaf (r_X3_goes_133 E)) (ax_sn_leaf (r_X3_goes_132 E))) (ax_sn_leaf (r_X3_goes_131 E))) (ax_sn_node (ax_sn_node (ax_sn_leaf (r_X3_goes_128 E)) (ax_sn_leaf (r_X3_goes_127 E))) (ax_sn_leaf (r_X3_goes_126 E)))))) (ax_sn_node (ax_sn_node (ax_sn_node (ax_sn_node (ax_sn_node (ax_sn_leaf (r_X3_goes_123 E)) (ax_sn_leaf (r_X3_goes_122 E))) (ax_sn_leaf (r_X3_goes_121 E))) (ax_sn_node (ax_sn_node (ax_sn_leaf (r_X3_goes_120 E)) (ax_sn_leaf (r_X3_goes_117 E))) (ax_sn_leaf (r_X3_goes_115 E)))) (ax_sn_node (ax_sn_node (ax_sn_node (ax_sn_leaf (r_X3_goes_113 E)) (ax_sn_leaf (r_X3_goes_112 E))) (ax_sn_leaf (r_X3_goes_111 E))) (ax_sn_node (ax_sn_node (ax_sn_leaf (r_X3_goes_110 E)) (ax_sn_leaf (r_X3_goes_107 E))) (ax_sn_leaf (r_X3_goes_104 E))))) (ax_sn_node (ax_sn_node (ax_sn_node (ax_sn_node (ax_sn_leaf (r_X3_goes_102 E)) (ax_sn_leaf (r_X3_goes_100 E))) (ax_sn_leaf (r_X3_goes_99 E))) (ax_sn_node (ax_sn_node (ax_sn_leaf (r_X3_goes_96 E)) (ax_sn_leaf (r_X3_goes_95 E))) (ax_sn_leaf (r_X3_goes_94 E)))) (ax_sn_node (ax_sn_node (ax_sn_node (ax_sn_leaf (r_X3_goes_91 E)) (ax_sn_leaf (r_X3_goes_89 E))) (ax_sn_leaf (r_X3_goes_87 E))) (ax_sn_node (ax_sn_node (ax_sn_leaf (r_X3_goes_86 E)) (ax_sn_leaf (r_X3_goes_85 E))) (ax_sn_leaf (r_X3_goes_82 E))))))) (ax_sn_node (ax_sn_node (ax_sn_node (ax_sn_node (ax_sn_node (ax_sn_node (ax_sn_leaf (r_X3_goes_81 E)) (ax_sn_leaf (r_X3_goes_80 E))) (ax_sn_node (ax_sn_leaf (r_X3_goes_79 E)) (ax_sn_leaf (r_X3_goes_78 E)))) (ax_sn_node (ax_sn_node (ax_sn_leaf (r_X3_goes_75 E)) (ax_sn_leaf (r_X3_goes_74 E))) (ax_sn_leaf (r_X3_goes_73 E)))) (ax_sn_node (ax_sn_node (ax_sn_node (ax_sn_leaf (r_X3_goes_70 E)) (ax_sn_leaf (r_X3_goes_68 E))) (ax_sn_leaf (r_X3_goes_67 E))) (ax_sn_node (ax_sn_node (ax_sn_leaf (r_X3_goes_66 E)) (ax_sn_leaf (r_X3_goes_65 E))) (ax_sn_leaf (r_X3_goes_63 E))))) (ax_sn_node (ax_sn_node (ax_sn_node (ax_sn_node (ax_sn_leaf (r_X3_goes_60 E)) (ax_sn_leaf (r_X3_goes_57 E))) (ax_sn_leaf (r_X3_goes_56 E))) (ax_sn_node (ax_sn_node (ax_sn_leaf (r_X3_goes_55 E)) (ax_sn_leaf (r_X3_goes_54 E))) (ax_sn_leaf (r_X3_goes_53 E)))) (ax_sn_node (ax_sn_node (ax_sn_node (ax_sn_leaf (r_X3_goes_52 E)) (ax_sn_leaf (r_X3_goes_49 E))) (ax_sn_leaf (r_X3_goes_48 E))) (ax_sn_node (ax_sn_node (ax_sn_leaf (r_X3_goes_47 E)) (ax_sn_leaf (r_X3_goes_46 E))) (ax_sn_leaf (r_X3_goes_43 E)))))) (ax_sn_node (ax_sn_node (ax_sn_node (ax_sn_node (ax_sn_node (ax_sn_leaf (r_X3_goes_42 E)) (ax_sn_leaf (r_X3_goes_39 E))) (ax_sn_leaf (r_X3_goes_38 E))) (ax_sn_node (ax_sn_node (ax_sn_leaf (r_X3_goes_35 E)) (ax_sn_leaf (r_X3_goes_32 E))) (ax_sn_leaf (r_X3_goes_29 E)))) (ax_sn_node (ax_sn_node (ax_sn_node (ax_sn_leaf (r_X3_goes_28 E)) (ax_sn_leaf (r_X3_goes_25 E))) (ax_sn_leaf (r_X3_goes_24 E))) (ax_sn_node (ax_sn_node (ax_sn_leaf (r_X3_goes_22 E)) (ax_sn_leaf (r_X3_goes_21 E))) (ax_sn_leaf (r_X3_goes_20 E))))) (ax_sn_node (ax_sn_node (ax_sn_node (ax_sn_node (ax_sn_leaf (r_X3_goes_17 E)) (ax_sn_leaf (r_X3_goes_16 E))) (ax_sn_leaf (r_X3_goes_15 E))) (ax_sn_node (ax_sn_node (ax_sn_leaf (r_X3_goes_12 E)) (ax_sn_leaf (r_X3_goes_11 E))) (ax_sn_leaf (r_X3_goes_10 E)))) (ax_sn_node (ax_sn_node (ax_sn_node (ax_sn_leaf (r_X3_goes_7 E)) (ax_sn_leaf (r_X3_goes_6 E))) (ax_sn_leaf (r_X3_goes_5 E))) (ax_sn_node (ax_sn_node (ax_sn_leaf (r_X3_goes_2 E)) (ax_sn_leaf (r_X3_goes_1 E))) (ax_sn_leaf (r_X3_goes_0 E))))))))⟩
theorem r_X3_wordsOf_0 (E : ax_EN G l) : ax_Snd G l ax_Ym M_X3_wordsOf 0 (S_aload 0 1) := k_aload_n dX3_wordsOf_0 rfl
theorem r_X3_wordsOf_1 (E : ax_EN G l) : ax_Snd G l ax_Ym M_X3_wordsOf 1 (S_getf [(38, 2)] 4) := k_getf (en_F E) (ax_fes_cons (fe_356 E) ax_fes_nil) q2755 dX3_wordsOf_1
theorem r_X3_wordsOf_4 (E : ax_EN G l) : ax_Snd G l ax_Ym M_X3_wordsOf 4 (S_iload 1 5) := k_iload_n dX3_wordsOf_4 rfl
theorem r_X3_wordsOf_5 (E : ax_EN G l) : ax_Snd G l ax_Ym M_X3_wordsOf 5 (S_iald 0 6) := k_iald (en_F E) dX3_wordsOf_5
theorem r_X3_wordsOf_6 (E : ax_EN G l) : ax_Snd G l ax_Ym M_X3_wordsOf 6 (S_istore 2 7) := k_istore_n dX3_wordsOf_6 rfl (Nat.le_of_ble_eq_true rfl)
theorem r_X3_wordsOf_7 (E : ax_EN G l) : ax_Snd G l ax_Ym M_X3_wordsOf 7 (S_iload 2 8) := k_iload_n dX3_wordsOf_7 rfl
theorem r_X3_wordsOf_8 (E : ax_EN G l) : ax_Snd G l ax_Ym M_X3_wordsOf 8 (S_push (.int (2)) 9) := k_iconst dX3_wordsOf_8 rfl
theorem r_X3_wordsOf_9 (E : ax_EN G l) : ax_Snd G l ax_Ym M_X3_wordsOf 9 (S_if2 (fun x y => decide (¬ x = y)) 16 12) := k_icmp_ne dX3_wordsOf_9 rfl
theorem r_X3_wordsOf_12 (E : ax_EN G l) : ax_Snd G l ax_Ym M_X3_wordsOf 12 (S_push (.int (2)) 13) := k_iconst dX3_wordsOf_12 rfl
theorem r_X3_wordsOf_13 (E : ax_EN G l) : ax_Snd G l ax_Ym M_X3_wordsOf 13 (S_goto 42) := k_goto dX3_wordsOf_13 rfl
theorem r_X3_wordsOf_16 (E : ax_EN G l) : ax_Snd G l ax_Ym M_X3_wordsOf 16 (S_iload 2 17) := k_iload_n dX3_wordsOf_16 rfl
theorem r_X3_wordsOf_17 (E : ax_EN G l) : ax_Snd G l ax_Ym M_X3_wordsOf 17 (S_push (.int (3)) 18) := k_iconst dX3_wordsOf_17 rfl
theorem r_X3_wordsOf_18 (E : ax_EN G l) : ax_Snd G l ax_Ym M_X3_wordsOf 18 (S_if2 (fun x y => decide (¬ x = y)) 25 21) := k_icmp_ne dX3_wordsOf_18 rfl
theorem r_X3_wordsOf_21 (E : ax_EN G l) : ax_Snd G l ax_Ym M_X3_wordsOf 21 (S_push (.int (1)) 22) := k_iconst dX3_wordsOf_21 rfl
theorem r_X3_wordsOf_22 (E : ax_EN G l) : ax_Snd G l ax_Ym M_X3_wordsOf 22 (S_goto 42) := k_goto dX3_wordsOf_22 rfl
theorem r_X3_wordsOf_25 (E : ax_EN G l) : ax_Snd G l ax_Ym M_X3_wordsOf 25 (S_iload 2 26) := k_iload_n dX3_wordsOf_25 rfl
theorem r_X3_wordsOf_26 (E : ax_EN G l) : ax_Snd G l ax_Ym M_X3_wordsOf 26 (S_push (.int (4)) 27) := k_iconst dX3_wordsOf_26 rfl
theorem r_X3_wordsOf_27 (E : ax_EN G l) : ax_Snd G l ax_Ym M_X3_wordsOf 27 (S_if2 (fun x y => decide (¬ x = y)) 41 30) := k_icmp_ne dX3_wordsOf_27 rfl
theorem r_X3_wordsOf_30 (E : ax_EN G l) : ax_Snd G l ax_Ym M_X3_wordsOf 30 (S_aload 0 31) := k_aload_n dX3_wordsOf_30 rfl
theorem r_X3_wordsOf_31 (E : ax_EN G l) : ax_Snd G l ax_Ym M_X3_wordsOf 31 (S_getf [(38, 3)] 34) := k_getf (en_F E) (ax_fes_cons (fe_358 E) ax_fes_nil) q2756 dX3_wordsOf_31
theorem r_X3_wordsOf_34 (E : ax_EN G l) : ax_Snd G l ax_Ym M_X3_wordsOf 34 (S_push (.int (5)) 35) := k_iconst dX3_wordsOf_34 rfl
theorem r_X3_wordsOf_35 (E : ax_EN G l) : ax_Snd G l ax_Ym M_X3_wordsOf 35 (S_iload 1 36) := k_iload_n dX3_wordsOf_35 rfl
theorem r_X3_wordsOf_36 (E : ax_EN G l) : ax_Snd G l ax_Ym M_X3_wordsOf 36 (S_i2 (fun x y => x * y) 37) := k_imul dX3_wordsOf_36
theorem r_X3_wordsOf_37 (E : ax_EN G l) : ax_Snd G l ax_Ym M_X3_wordsOf 37 (S_iald 0 38) := k_iald (en_F E) dX3_wordsOf_37
theorem r_X3_wordsOf_38 (E : ax_EN G l) : ax_Snd G l ax_Ym M_X3_wordsOf 38 (S_goto 42) := k_goto dX3_wordsOf_38 rfl
theorem r_X3_wordsOf_41 (E : ax_EN G l) : ax_Snd G l ax_Ym M_X3_wordsOf 41 (S_push (.int (0)) 42) := k_iconst dX3_wordsOf_41 rfl
theorem r_X3_wordsOf_42 (E : ax_EN G l) : ax_Snd G l ax_Ym M_X3_wordsOf 42 (S_iret) := k_iret dX3_wordsOf_42 rfl
theorem mt_X3_wordsOf (E : ax_EN G l) : ax_mt G l ax_Ym (3, P_X3_wordsOf) (ax_Ym 392) := ⟨M_X3_wordsOf, yX3_wordsOf, ⟨rfl, by decide +kernel, rfl, (fun h => by cases h), Or.inl ⟨rfl, rfl⟩⟩, fun pc => (ax_sn_node (ax_sn_node (ax_sn_node (ax_sn_node (ax_sn_node (ax_sn_leaf (r_X3_wordsOf_42 E)) (ax_sn_leaf (r_X3_wordsOf_41 E))) (ax_sn_node (ax_sn_leaf (r_X3_wordsOf_38 E)) (ax_sn_leaf (r_X3_wordsOf_37 E)))) (ax_sn_node (ax_sn_node (ax_sn_leaf (r_X3_wordsOf_36 E)) (ax_sn_leaf (r_X3_wordsOf_35 E))) (ax_sn_leaf (r_X3_wordsOf_34 E)))) (ax_sn_node (ax_sn_node (ax_sn_node (ax_sn_leaf (r_X3_wordsOf_31 E)) (ax_sn_leaf (r_X3_wordsOf_30 E))) (ax_sn_node (ax_sn_leaf (r_X3_wordsOf_27 E)) (ax_sn_leaf (r_X3_wordsOf_26 E)))) (ax_sn_node (ax_sn_node (ax_sn_leaf (r_X3_wordsOf_25 E)) (ax_sn_leaf (r_X3_wordsOf_22 E))) (ax_sn_leaf (r_X3_wordsOf_21 E))))) (ax_sn_node (ax_sn_node (ax_sn_node (ax_sn_node (ax_sn_leaf (r_X3_wordsOf_18 E)) (ax_sn_leaf (r_X3_wordsOf_17 E))) (ax_sn_node (ax_sn_leaf (r_X3_wordsOf_16 E)) (ax_sn_leaf (r_X3_wordsOf_13 E)))) (ax_sn_node (ax_sn_node (ax_sn_leaf (r_X3_wordsOf_12 E)) (ax_sn_leaf (r_X3_wordsOf_9 E))) (ax_sn_leaf (r_X3_wordsOf_8 E)))) (ax_sn_node (ax_sn_node (ax_sn_node (ax_sn_leaf (r_X3_wordsOf_7 E)) (ax_sn_leaf (r_X3_wordsOf_6 E))) (ax_sn_leaf (r_X3_wordsOf_5 E))) (ax_sn_node (ax_sn_node (ax_sn_leaf (r_X3_wordsOf_4 E)) (ax_sn_leaf (r_X3_wordsOf_1 E))) (ax_sn_leaf (r_X3_wordsOf_0 E))))))⟩
theorem r_X3_begins_0 (E : ax_EN G l) : ax_Snd G l ax_Ym M_X3_begins 0 (S_aload 0 1) := k_aload_n dX3_begins_0 rfl
theorem r_X3_begins_1 (E : ax_EN G l) : ax_Snd G l ax_Ym M_X3_begins 1 (S_getf [(38, 3)] 4) := k_getf (en_F E) (ax_fes_cons (fe_358 E) ax_fes_nil) q2756 dX3_begins_1
theorem r_X3_begins_4 (E : ax_EN G l) : ax_Snd G l ax_Ym M_X3_begins 4 (S_push (.int (5)) 5) := k_iconst dX3_begins_4 rfl
theorem r_X3_begins_5 (E : ax_EN G l) : ax_Snd G l ax_Ym M_X3_begins 5 (S_iload 1 6) := k_iload_n dX3_begins_5 rfl
theorem r_X3_begins_6 (E : ax_EN G l) : ax_Snd G l ax_Ym M_X3_begins 6 (S_i2 (fun x y => x * y) 7) := k_imul dX3_begins_6
theorem r_X3_begins_7 (E : ax_EN G l) : ax_Snd G l ax_Ym M_X3_begins 7 (S_iald 0 8) := k_iald (en_F E) dX3_begins_7
theorem r_X3_begins_8 (E : ax_EN G l) : ax_Snd G l ax_Ym M_X3_begins 8 (S_istore 2 9) := k_istore_n dX3_begins_8 rfl (Nat.le_of_ble_eq_true rfl)
theorem r_X3_begins_9 (E : ax_EN G l) : ax_Snd G l ax_Ym M_X3_begins 9 (S_aload 0 10) := k_aload_n dX3_begins_9 rfl
theorem r_X3_begins_10 (E : ax_EN G l) : ax_Snd G l ax_Ym M_X3_begins 10 (S_getf [(38, 6)] 13) := k_getf (en_F E) (ax_fes_cons (fe_364 E) ax_fes_nil) q2759 dX3_begins_10
theorem r_X3_begins_13 (E : ax_EN G l) : ax_Snd G l ax_Ym M_X3_begins 13 (S_iload 2 14) := k_iload_n dX3_begins_13 rfl
theorem r_X3_begins_14 (E : ax_EN G l) : ax_Snd G l ax_Ym M_X3_begins 14 (S_iald 0 15) := k_iald (en_F E) dX3_begins_14
theorem r_X3_begins_15 (E : ax_EN G l) : ax_Snd G l ax_Ym M_X3_begins 15 (S_push (.int (-1)) 16) := k_iconst dX3_begins_15 rfl
theorem r_X3_begins_16 (E : ax_EN G l) : ax_Snd G l ax_Ym M_X3_begins 16 (S_if2 (fun x y => decide (x = y)) 25 19) := k_icmp_eq dX3_begins_16 rfl
theorem r_X3_begins_19 (E : ax_EN G l) : ax_Snd G l ax_Ym M_X3_begins 19 (S_push (.int (300)) 22) := k_sipush dX3_begins_19 rfl
theorem r_X3_begins_22 (E : ax_EN G l) : ax_Snd G l ax_Ym M_X3_begins 22 (S_iload 1 23) := k_iload_n dX3_begins_22 rfl
theorem r_X3_begins_23 (E : ax_EN G l) : ax_Snd G l ax_Ym M_X3_begins 23 (S_i2 (fun x y => x + y) 24) := k_iadd dX3_begins_23
theorem r_X3_begins_24 (E : ax_EN G l) : ax_Snd G l ax_Ym M_X3_begins 24 (S_iret) := k_iret dX3_begins_24 rfl
theorem r_X3_begins_25 (E : ax_EN G l) : ax_Snd G l ax_Ym M_X3_begins 25 (S_aload 0 26) := k_aload_n dX3_begins_25 rfl
theorem r_X3_begins_26 (E : ax_EN G l) : ax_Snd G l ax_Ym M_X3_begins 26 (S_iload 1 27) := k_iload_n dX3_begins_26 rfl
theorem r_X3_begins_27 (E : ax_EN G l) : ax_Snd G l ax_Ym M_X3_begins 27 (S_iv [(38, 394)] 1 30 hd_0) := k_iv (en_F E) (ax_ok0 E rfl) (ax_Evs_cons ((ev_v (en_c E (k := 38) rfl) rfl y_X3_nextOf q3063 q3065 qs67 q126 q3066 nm_X3_nextOf (Nat.le_of_ble_eq_true rfl) dX3_begins_27) : ax_EvV G l ax_Ym M_X3_begins 27 1 3 38 394) ax_Evs_nil)
theorem r_X3_begins_30 (E : ax_EN G l) : ax_Snd G l ax_Ym M_X3_begins 30 (S_istore 3 31) := k_istore_n dX3_begins_30 rfl (Nat.le_of_ble_eq_true rfl)
theorem r_X3_begins_31 (E : ax_EN G l) : ax_Snd G l ax_Ym M_X3_begins 31 (S_iload 3 32) := k_iload_n dX3_begins_31 rfl
theorem r_X3_begins_32 (E : ax_EN G l) : ax_Snd G l ax_Ym M_X3_begins 32 (S_push (.int (-1)) 33) := k_iconst dX3_begins_32 rfl
theorem r_X3_begins_33 (E : ax_EN G l) : ax_Snd G l ax_Ym M_X3_begins 33 (S_if2 (fun x y => decide (x = y)) 47 36) := k_icmp_eq dX3_begins_33 rfl
theorem r_X3_begins_36 (E : ax_EN G l) : ax_Snd G l ax_Ym M_X3_begins 36 (S_aload 0 37) := k_aload_n dX3_begins_36 rfl
theorem r_X3_begins_37 (E : ax_EN G l) : ax_Snd G l ax_Ym M_X3_begins 37 (S_getf [(38, 2)] 40) := k_getf (en_F E) (ax_fes_cons (fe_356 E) ax_fes_nil) q2755 dX3_begins_37
theorem r_X3_begins_40 (E : ax_EN G l) : ax_Snd G l ax_Ym M_X3_begins 40 (S_iload 3 41) := k_iload_n dX3_begins_40 rfl
theorem r_X3_begins_41 (E : ax_EN G l) : ax_Snd G l ax_Ym M_X3_begins 41 (S_iald 0 42) := k_iald (en_F E) dX3_begins_41
theorem r_X3_begins_42 (E : ax_EN G l) : ax_Snd G l ax_Ym M_X3_begins 42 (S_push (.int (6)) 44) := k_bipush dX3_begins_42 rfl
theorem r_X3_begins_44 (E : ax_EN G l) : ax_Snd G l ax_Ym M_X3_begins 44 (S_if2 (fun x y => decide (¬ x = y)) 62 47) := k_icmp_ne dX3_begins_44 rfl
theorem r_X3_begins_47 (E : ax_EN G l) : ax_Snd G l ax_Ym M_X3_begins 47 (S_push (.int (400)) 50) := k_sipush dX3_begins_47 rfl
theorem r_X3_begins_50 (E : ax_EN G l) : ax_Snd G l ax_Ym M_X3_begins 50 (S_iload 3 51) := k_iload_n dX3_begins_50 rfl
theorem r_X3_begins_51 (E : ax_EN G l) : ax_Snd G l ax_Ym M_X3_begins 51 (S_push (.int (-1)) 52) := k_iconst dX3_begins_51 rfl
theorem r_X3_begins_52 (E : ax_EN G l) : ax_Snd G l ax_Ym M_X3_begins 52 (S_if2 (fun x y => decide (¬ x = y)) 59 55) := k_icmp_ne dX3_begins_52 rfl
theorem r_X3_begins_55 (E : ax_EN G l) : ax_Snd G l ax_Ym M_X3_begins 55 (S_iload 1 56) := k_iload_n dX3_begins_55 rfl
theorem r_X3_begins_56 (E : ax_EN G l) : ax_Snd G l ax_Ym M_X3_begins 56 (S_goto 60) := k_goto dX3_begins_56 rfl
theorem r_X3_begins_59 (E : ax_EN G l) : ax_Snd G l ax_Ym M_X3_begins 59 (S_iload 3 60) := k_iload_n dX3_begins_59 rfl
theorem r_X3_begins_60 (E : ax_EN G l) : ax_Snd G l ax_Ym M_X3_begins 60 (S_i2 (fun x y => x + y) 61) := k_iadd dX3_begins_60
theorem r_X3_begins_61 (E : ax_EN G l) : ax_Snd G l ax_Ym M_X3_begins 61 (S_iret) := k_iret dX3_begins_61 rfl
theorem r_X3_begins_62 (E : ax_EN G l) : ax_Snd G l ax_Ym M_X3_begins 62 (S_aload 0 63) := k_aload_n dX3_begins_62 rfl
theorem r_X3_begins_63 (E : ax_EN G l) : ax_Snd G l ax_Ym M_X3_begins 63 (S_getf [(38, 6)] 66) := k_getf (en_F E) (ax_fes_cons (fe_364 E) ax_fes_nil) q2759 dX3_begins_63
theorem r_X3_begins_66 (E : ax_EN G l) : ax_Snd G l ax_Ym M_X3_begins 66 (S_iload 2 67) := k_iload_n dX3_begins_66 rfl
theorem r_X3_begins_67 (E : ax_EN G l) : ax_Snd G l ax_Ym M_X3_begins 67 (S_iload 1 68) := k_iload_n dX3_begins_67 rfl
theorem r_X3_begins_68 (E : ax_EN G l) : ax_Snd G l ax_Ym M_X3_begins 68 (S_push (.int (1)) 69) := k_iconst dX3_begins_68 rfl
theorem r_X3_begins_69 (E : ax_EN G l) : ax_Snd G l ax_Ym M_X3_begins 69 (S_i2 (fun x y => x + y) 70) := k_iadd dX3_begins_69
theorem r_X3_begins_70 (E : ax_EN G l) : ax_Snd G l ax_Ym M_X3_begins 70 (S_iast 0 (fun x => x) 71) := k_iast (en_F E) dX3_begins_70
theorem r_X3_begins_71 (E : ax_EN G l) : ax_Snd G l ax_Ym M_X3_begins 71 (S_aload 0 72) := k_aload_n dX3_begins_71 rfl
theorem r_X3_begins_72 (E : ax_EN G l) : ax_Snd G l ax_Ym M_X3_begins 72 (S_getf [(38, 7)] 75) := k_getf (en_F E) (ax_fes_cons (fe_366 E) ax_fes_nil) q2760 dX3_begins_72
theorem r_X3_begins_75 (E : ax_EN G l) : ax_Snd G l ax_Ym M_X3_begins 75 (S_iload 2 76) := k_iload_n dX3_begins_75 rfl
theorem r_X3_begins_76 (E : ax_EN G l) : ax_Snd G l ax_Ym M_X3_begins 76 (S_iload 3 77) := k_iload_n dX3_begins_76 rfl
theorem r_X3_begins_77 (E : ax_EN G l) : ax_Snd G l ax_Ym M_X3_begins 77 (S_iast 0 (fun x => x) 78) := k_iast (en_F E) dX3_begins_77
theorem r_X3_begins_78 (E : ax_EN G l) : ax_Snd G l ax_Ym M_X3_begins 78 (S_aload 0 79) := k_aload_n dX3_begins_78 rfl
theorem r_X3_begins_79 (E : ax_EN G l) : ax_Snd G l ax_Ym M_X3_begins 79 (S_getf [(38, 8)] 82) := k_getf (en_F E) (ax_fes_cons (fe_368 E) ax_fes_nil) q2761 dX3_begins_79
theorem r_X3_begins_82 (E : ax_EN G l) : ax_Snd G l ax_Ym M_X3_begins 82 (S_aload 0 83) := k_aload_n dX3_begins_82 rfl
theorem r_X3_begins_83 (E : ax_EN G l) : ax_Snd G l ax_Ym M_X3_begins 83 (S_getf [(38, 14)] 86) := k_getf (en_F E) (ax_fes_cons (fe_454 E) ax_fes_nil) q2767 dX3_begins_83
theorem r_X3_begins_86 (E : ax_EN G l) : ax_Snd G l ax_Ym M_X3_begins 86 (S_iload 3 87) := k_iload_n dX3_begins_86 rfl
theorem r_X3_begins_87 (E : ax_EN G l) : ax_Snd G l ax_Ym M_X3_begins 87 (S_push (.int (1)) 88) := k_iconst dX3_begins_87 rfl
theorem r_X3_begins_88 (E : ax_EN G l) : ax_Snd G l ax_Ym M_X3_begins 88 (S_i2 (fun x y => x + y) 89) := k_iadd dX3_begins_88
theorem r_X3_begins_89 (E : ax_EN G l) : ax_Snd G l ax_Ym M_X3_begins 89 (S_iast 0 (fun x => x) 90) := k_iast (en_F E) dX3_begins_89
theorem r_X3_begins_90 (E : ax_EN G l) : ax_Snd G l ax_Ym M_X3_begins 90 (S_push (.int (0)) 91) := k_iconst dX3_begins_90 rfl
theorem r_X3_begins_91 (E : ax_EN G l) : ax_Snd G l ax_Ym M_X3_begins 91 (S_iret) := k_iret dX3_begins_91 rfl
theorem mt_X3_begins (E : ax_EN G l) : ax_mt G l ax_Ym (4, P_X3_begins) (ax_Ym 393) := ⟨M_X3_begins, yX3_begins, ⟨rfl, by decide +kernel, rfl, (fun h => by cases h), Or.inl ⟨rfl, rfl⟩⟩, fun pc => (ax_sn_node (ax_sn_node (ax_sn_node (ax_sn_node (ax_sn_node (ax_sn_node (ax_sn_leaf (r_X3_begins_91 E)) (ax_sn_leaf (r_X3_begins_90 E))) (ax_sn_node (ax_sn_leaf (r_X3_begins_89 E)) (ax_sn_leaf (r_X3_begins_88 E)))) (ax_sn_node (ax_sn_node (ax_sn_leaf (r_X3_begins_87 E)) (ax_sn_leaf (r_X3_begins_86 E))) (ax_sn_node (ax_sn_leaf (r_X3_begins_83 E)) (ax_sn_leaf (r_X3_begins_82 E))))) (ax_sn_node (ax_sn_node (ax_sn_node (ax_sn_leaf (r_X3_begins_79 E)) (ax_sn_leaf (r_X3_begins_78 E))) (ax_sn_node (ax_sn_leaf (r_X3_begins_77 E)) (ax_sn_leaf (r_X3_begins_76 E)))) (ax_sn_node (ax_sn_node (ax_sn_leaf (r_X3_begins_75 E)) (ax_sn_leaf (r_X3_begins_72 E))) (ax_sn_node (ax_sn_leaf (r_X3_begins_71 E)) (ax_sn_leaf (r_X3_begins_70 E)))))) (ax_sn_node (ax_sn_node (ax_sn_node (ax_sn_node (ax_sn_leaf (r_X3_begins_69 E)) (ax_sn_leaf (r_X3_begins_68 E))) (ax_sn_node (ax_sn_leaf (r_X3_begins_67 E)) (ax_sn_leaf (r_X3_begins_66 E)))) (ax_sn_node (ax_sn_node (ax_sn_leaf (r_X3_begins_63 E)) (ax_sn_leaf (r_X3_begins_62 E))) (ax_sn_node (ax_sn_leaf (r_X3_begins_61 E)) (ax_sn_leaf (r_X3_begins_60 E))))) (ax_sn_node (ax_sn_node (ax_sn_node (ax_sn_leaf (r_X3_begins_59 E)) (ax_sn_leaf (r_X3_begins_56 E))) (ax_sn_node (ax_sn_leaf (r_X3_begins_55 E)) (ax_sn_leaf (r_X3_begins_52 E)))) (ax_sn_node (ax_sn_node (ax_sn_leaf (r_X3_begins_51 E)) (ax_sn_leaf (r_X3_begins_50 E))) (ax_sn_leaf (r_X3_begins_47 E)))))) (ax_sn_node (ax_sn_node (ax_sn_node (ax_sn_node (ax_sn_node (ax_sn_leaf (r_X3_begins_44 E)) (ax_sn_leaf (r_X3_begins_42 E))) (ax_sn_node (ax_sn_leaf (r_X3_begins_41 E)) (ax_sn_leaf (r_X3_begins_40 E)))) (ax_sn_node (ax_sn_node (ax_sn_leaf (r_X3_begins_37 E)) (ax_sn_leaf (r_X3_begins_36 E))) (ax_sn_node (ax_sn_leaf (r_X3_begins_33 E)) (ax_sn_leaf (r_X3_begins_32 E))))) (ax_sn_node (ax_sn_node (ax_sn_node (ax_sn_leaf (r_X3_begins_31 E)) (ax_sn_leaf (r_X3_begins_30 E))) (ax_sn_node (ax_sn_leaf (r_X3_begins_27 E)) (ax_sn_leaf (r_X3_begins_26 E)))) (ax_sn_node (ax_sn_node (ax_sn_leaf (r_X3_begins_25 E)) (ax_sn_leaf (r_X3_begins_24 E))) (ax_sn_leaf (r_X3_begins_23 E))))) (ax_sn_node (ax_sn_node (ax_sn_node (ax_sn_node (ax_sn_leaf (r_X3_begins_22 E)) (ax_sn_leaf (r_X3_begins_19 E))) (ax_sn_node (ax_sn_leaf (r_X3_begins_16 E)) (ax_sn_leaf (r_X3_begins_15 E)))) (ax_sn_node (ax_sn_node (ax_sn_leaf (r_X3_begins_14 E)) (ax_sn_leaf (r_X3_begins_13 E))) (ax_sn_node (ax_sn_leaf (r_X3_begins_10 E)) (ax_sn_leaf (r_X3_begins_9 E))))) (ax_sn_node (ax_sn_node (ax_sn_node (ax_sn_leaf (r_X3_begins_8 E)) (ax_sn_leaf (r_X3_begins_7 E))) (ax_sn_node (ax_sn_leaf (r_X3_begins_6 E)) (ax_sn_leaf (r_X3_begins_5 E)))) (ax_sn_node (ax_sn_node (ax_sn_leaf (r_X3_begins_4 E)) (ax_sn_leaf (r_X3_begins_1 E))) (ax_sn_leaf (r_X3_begins_0 E)))))))⟩
theorem r_X3_nextOf_0 (E : ax_EN G l) : ax_Snd G l ax_Ym M_X3_nextOf 0 (S_iload 1 1) := k_iload_n dX3_nextOf_0 rfl
theorem r_X3_nextOf_1 (E : ax_EN G l) : ax_Snd G l ax_Ym M_X3_nextOf 1 (S_push (.int (1)) 2) := k_iconst dX3_nextOf_1 rfl
theorem r_X3_nextOf_2 (E : ax_EN G l) : ax_Snd G l ax_Ym M_X3_nextOf 2 (S_i2 (fun x y => x + y) 3) := k_iadd dX3_nextOf_2
theorem r_X3_nextOf_3 (E : ax_EN G l) : ax_Snd G l ax_Ym M_X3_nextOf 3 (S_istore 2 4) := k_istore_n dX3_nextOf_3 rfl (Nat.le_of_ble_eq_true rfl)
theorem r_X3_nextOf_4 (E : ax_EN G l) : ax_Snd G l ax_Ym M_X3_nextOf 4 (S_iload 2 5) := k_iload_n dX3_nextOf_4 rfl
theorem r_X3_nextOf_5 (E : ax_EN G l) : ax_Snd G l ax_Ym M_X3_nextOf 5 (S_aload 0 6) := k_aload_n dX3_nextOf_5 rfl
theorem r_X3_nextOf_6 (E : ax_EN G l) : ax_Snd G l ax_Ym M_X3_nextOf 6 (S_getf [(38, 1)] 9) := k_getf (en_F E) (ax_fes_cons (fe_444 E) ax_fes_nil) q2754 dX3_nextOf_6
theorem r_X3_nextOf_9 (E : ax_EN G l) : ax_Snd G l ax_Ym M_X3_nextOf 9 (S_if2 (fun x y => decide (y ≤ x)) 42 12) := k_icmp_ge dX3_nextOf_9 rfl
theorem r_X3_nextOf_12 (E : ax_EN G l) : ax_Snd G l ax_Ym M_X3_nextOf 12 (S_aload 0 13) := k_aload_n dX3_nextOf_12 rfl
theorem r_X3_nextOf_13 (E : ax_EN G l) : ax_Snd G l ax_Ym M_X3_nextOf 13 (S_getf [(38, 2)] 16) := k_getf (en_F E) (ax_fes_cons (fe_356 E) ax_fes_nil) q2755 dX3_nextOf_13
theorem r_X3_nextOf_16 (E : ax_EN G l) : ax_Snd G l ax_Ym M_X3_nextOf 16 (S_iload 2 17) := k_iload_n dX3_nextOf_16 rfl
theorem r_X3_nextOf_17 (E : ax_EN G l) : ax_Snd G l ax_Ym M_X3_nextOf 17 (S_iald 0 18) := k_iald (en_F E) dX3_nextOf_17
theorem r_X3_nextOf_18 (E : ax_EN G l) : ax_Snd G l ax_Ym M_X3_nextOf 18 (S_push (.int (7)) 20) := k_bipush dX3_nextOf_18 rfl
theorem r_X3_nextOf_20 (E : ax_EN G l) : ax_Snd G l ax_Ym M_X3_nextOf 20 (S_if2 (fun x y => decide (x = y)) 34 23) := k_icmp_eq dX3_nextOf_20 rfl
theorem r_X3_nextOf_23 (E : ax_EN G l) : ax_Snd G l ax_Ym M_X3_nextOf 23 (S_aload 0 24) := k_aload_n dX3_nextOf_23 rfl
theorem r_X3_nextOf_24 (E : ax_EN G l) : ax_Snd G l ax_Ym M_X3_nextOf 24 (S_getf [(38, 2)] 27) := k_getf (en_F E) (ax_fes_cons (fe_356 E) ax_fes_nil) q2755 dX3_nextOf_24
theorem r_X3_nextOf_27 (E : ax_EN G l) : ax_Snd G l ax_Ym M_X3_nextOf 27 (S_iload 2 28) := k_iload_n dX3_nextOf_27 rfl
theorem r_X3_nextOf_28 (E : ax_EN G l) : ax_Snd G l ax_Ym M_X3_nextOf 28 (S_iald 0 29) := k_iald (en_F E) dX3_nextOf_28
theorem r_X3_nextOf_29 (E : ax_EN G l) : ax_Snd G l ax_Ym M_X3_nextOf 29 (S_push (.int (6)) 31) := k_bipush dX3_nextOf_29 rfl
theorem r_X3_nextOf_31 (E : ax_EN G l) : ax_Snd G l ax_Ym M_X3_nextOf 31 (S_if2 (fun x y => decide (¬ x = y)) 36 34) := k_icmp_ne dX3_nextOf_31 rfl
theorem r_X3_nextOf_34 (E : ax_EN G l) : ax_Snd G l ax_Ym M_X3_nextOf 34 (S_iload 2 35) := k_iload_n dX3_nextOf_34 rfl
theorem r_X3_nextOf_35 (E : ax_EN G l) : ax_Snd G l ax_Ym M_X3_nextOf 35 (S_iret) := k_iret dX3_nextOf_35 rfl
theorem r_X3_nextOf_36 (E : ax_EN G l) : ax_Snd G l ax_Ym M_X3_nextOf 36 (S_iinc 2 (1) 39) := k_iinc dX3_nextOf_36 rfl (Nat.le_of_ble_eq_true rfl)
theorem r_X3_nextOf_39 (E : ax_EN G l) : ax_Snd G l ax_Ym M_X3_nextOf 39 (S_goto 4) := k_goto dX3_nextOf_39 rfl
theorem r_X3_nextOf_42 (E : ax_EN G l) : ax_Snd G l ax_Ym M_X3_nextOf 42 (S_push (.int (-1)) 43) := k_iconst dX3_nextOf_42 rfl
theorem r_X3_nextOf_43 (E : ax_EN G l) : ax_Snd G l ax_Ym M_X3_nextOf 43 (S_iret) := k_iret dX3_nextOf_43 rfl
theorem mt_X3_nextOf (E : ax_EN G l) : ax_mt G l ax_Ym (3, P_X3_nextOf) (ax_Ym 394) := ⟨M_X3_nextOf, yX3_nextOf, ⟨rfl, by decide +kernel, rfl, (fun h => by cases h), Or.inl ⟨rfl, rfl⟩⟩, fun pc => (ax_sn_node (ax_sn_node (ax_sn_node (ax_sn_node (ax_sn_node (ax_sn_leaf (r_X3_nextOf_43 E)) (ax_sn_leaf (r_X3_nextOf_42 E))) (ax_sn_node (ax_sn_leaf (r_X3_nextOf_39 E)) (ax_sn_leaf (r_X3_nextOf_36 E)))) (ax_sn_node (ax_sn_node (ax_sn_leaf (r_X3_nextOf_35 E)) (ax_sn_leaf (r_X3_nextOf_34 E))) (ax_sn_leaf (r_X3_nextOf_31 E)))) (ax_sn_node (ax_sn_node (ax_sn_node (ax_sn_leaf (r_X3_nextOf_29 E)) (ax_sn_leaf (r_X3_nextOf_28 E))) (ax_sn_leaf (r_X3_nextOf_27 E))) (ax_sn_node (ax_sn_node (ax_sn_leaf (r_X3_nextOf_24 E)) (ax_sn_leaf (r_X3_nextOf_23 E))) (ax_sn_leaf (r_X3_nextOf_20 E))))) (ax_sn_node (ax_sn_node (ax_sn_node (ax_sn_node (ax_sn_leaf (r_X3_nextOf_18 E)) (ax_sn_leaf (r_X3_nextOf_17 E))) (ax_sn_node (ax_sn_leaf (r_X3_nextOf_16 E)) (ax_sn_leaf (r_X3_nextOf_13 E)))) (ax_sn_node (ax_sn_node (ax_sn_leaf (r_X3_nextOf_12 E)) (ax_sn_leaf (r_X3_nextOf_9 E))) (ax_sn_leaf (r_X3_nextOf_6 E)))) (ax_sn_node (ax_sn_node (ax_sn_node (ax_sn_leaf (r_X3_nextOf_5 E)) (ax_sn_leaf (r_X3_nextOf_4 E))) (ax_sn_leaf (r_X3_nextOf_3 E))) (ax_sn_node (ax_sn_node (ax_sn_leaf (r_X3_nextOf_2 E)) (ax_sn_leaf (r_X3_nextOf_1 E))) (ax_sn_leaf (r_X3_nextOf_0 E))))))⟩
theorem r_X3_usesMacro_0 (E : ax_EN G l) : ax_Snd G l ax_Ym M_X3_usesMacro 0 (S_push (.int (5)) 1) := k_iconst dX3_usesMacro_0 rfl
theorem r_X3_usesMacro_1 (E : ax_EN G l) : ax_Snd G l ax_Ym M_X3_usesMacro 1 (S_iload 1 2) := k_iload_n dX3_usesMacro_1 rfl
theorem r_X3_usesMacro_2 (E : ax_EN G l) : ax_Snd G l ax_Ym M_X3_usesMacro 2 (S_i2 (fun x y => x * y) 3) := k_imul dX3_usesMacro_2
theorem r_X3_usesMacro_3 (E : ax_EN G l) : ax_Snd G l ax_Ym M_X3_usesMacro 3 (S_istore 3 4) := k_istore_n dX3_usesMacro_3 rfl (Nat.le_of_ble_eq_true rfl)
theorem r_X3_usesMacro_4 (E : ax_EN G l) : ax_Snd G l ax_Ym M_X3_usesMacro 4 (S_aload 0 5) := k_aload_n dX3_usesMacro_4 rfl
theorem r_X3_usesMacro_5 (E : ax_EN G l) : ax_Snd G l ax_Ym M_X3_usesMacro 5 (S_getf [(38, 3)] 8) := k_getf (en_F E) (ax_fes_cons (fe_358 E) ax_fes_nil) q2756 dX3_usesMacro_5
theorem r_X3_usesMacro_8 (E : ax_EN G l) : ax_Snd G l ax_Ym M_X3_usesMacro 8 (S_iload 3 9) := k_iload_n dX3_usesMacro_8 rfl
theorem r_X3_usesMacro_9 (E : ax_EN G l) : ax_Snd G l ax_Ym M_X3_usesMacro 9 (S_push (.int (4)) 10) := k_iconst dX3_usesMacro_9 rfl
theorem r_X3_usesMacro_10 (E : ax_EN G l) : ax_Snd G l ax_Ym M_X3_usesMacro 10 (S_i2 (fun x y => x + y) 11) := k_iadd dX3_usesMacro_10
theorem r_X3_usesMacro_11 (E : ax_EN G l) : ax_Snd G l ax_Ym M_X3_usesMacro 11 (S_iald 0 12) := k_iald (en_F E) dX3_usesMacro_11
theorem r_X3_usesMacro_12 (E : ax_EN G l) : ax_Snd G l ax_Ym M_X3_usesMacro 12 (S_istore 4 14) := k_istore dX3_usesMacro_12 (Nat.le_of_ble_eq_true rfl)
theorem r_X3_usesMacro_14 (E : ax_EN G l) : ax_Snd G l ax_Ym M_X3_usesMacro 14 (S_iload 2 15) := k_iload_n dX3_usesMacro_14 rfl
theorem r_X3_usesMacro_15 (E : ax_EN G l) : ax_Snd G l ax_Ym M_X3_usesMacro 15 (S_if1 (fun x => decide (¬ x = 0)) 44 18) := k_if_ne dX3_usesMacro_15 rfl
theorem r_X3_usesMacro_18 (E : ax_EN G l) : ax_Snd G l ax_Ym M_X3_usesMacro 18 (S_aload 0 19) := k_aload_n dX3_usesMacro_18 rfl
theorem r_X3_usesMacro_19 (E : ax_EN G l) : ax_Snd G l ax_Ym M_X3_usesMacro 19 (S_getf [(38, 6)] 22) := k_getf (en_F E) (ax_fes_cons (fe_364 E) ax_fes_nil) q2759 dX3_usesMacro_19
theorem r_X3_usesMacro_22 (E : ax_EN G l) : ax_Snd G l ax_Ym M_X3_usesMacro 22 (S_iload 4 24) := k_iload dX3_usesMacro_22
theorem r_X3_usesMacro_24 (E : ax_EN G l) : ax_Snd G l ax_Ym M_X3_usesMacro 24 (S_iald 0 25) := k_iald (en_F E) dX3_usesMacro_24
theorem r_X3_usesMacro_25 (E : ax_EN G l) : ax_Snd G l ax_Ym M_X3_usesMacro 25 (S_push (.int (-1)) 26) := k_iconst dX3_usesMacro_25 rfl
theorem r_X3_usesMacro_26 (E : ax_EN G l) : ax_Snd G l ax_Ym M_X3_usesMacro 26 (S_if2 (fun x y => decide (x = y)) 38 29) := k_icmp_eq dX3_usesMacro_26 rfl
theorem r_X3_usesMacro_29 (E : ax_EN G l) : ax_Snd G l ax_Ym M_X3_usesMacro 29 (S_aload 0 30) := k_aload_n dX3_usesMacro_29 rfl
theorem r_X3_usesMacro_30 (E : ax_EN G l) : ax_Snd G l ax_Ym M_X3_usesMacro 30 (S_iload 4 32) := k_iload dX3_usesMacro_30
theorem r_X3_usesMacro_32 (E : ax_EN G l) : ax_Snd G l ax_Ym M_X3_usesMacro 32 (S_iv [(38, 396)] 1 35 hd_0) := k_iv (en_F E) (ax_ok0 E rfl) (ax_Evs_cons ((ev_v (en_c E (k := 38) rfl) rfl y_X3_isGoneThrough q3071 q3073 qs69 q126 q3074 nm_X3_isGoneThrough (Nat.le_of_ble_eq_true rfl) dX3_usesMacro_32) : ax_EvV G l ax_Ym M_X3_usesMacro 32 1 3 38 396) ax_Evs_nil)
theorem r_X3_usesMacro_35 (E : ax_EN G l) : ax_Snd G l ax_Ym M_X3_usesMacro 35 (S_if1 (fun x => decide (x = 0)) 44 38) := k_if_eq dX3_usesMacro_35 rfl
theorem r_X3_usesMacro_38 (E : ax_EN G l) : ax_Snd G l ax_Ym M_X3_usesMacro 38 (S_push (.int (500)) 41) := k_sipush dX3_usesMacro_38 rfl
theorem r_X3_usesMacro_41 (E : ax_EN G l) : ax_Snd G l ax_Ym M_X3_usesMacro 41 (S_iload 1 42) := k_iload_n dX3_usesMacro_41 rfl
theorem r_X3_usesMacro_42 (E : ax_EN G l) : ax_Snd G l ax_Ym M_X3_usesMacro 42 (S_i2 (fun x y => x + y) 43) := k_iadd dX3_usesMacro_42
theorem r_X3_usesMacro_43 (E : ax_EN G l) : ax_Snd G l ax_Ym M_X3_usesMacro 43 (S_iret) := k_iret dX3_usesMacro_43 rfl
theorem r_X3_usesMacro_44 (E : ax_EN G l) : ax_Snd G l ax_Ym M_X3_usesMacro 44 (S_iload 2 45) := k_iload_n dX3_usesMacro_44 rfl
theorem r_X3_usesMacro_45 (E : ax_EN G l) : ax_Snd G l ax_Ym M_X3_usesMacro 45 (S_if1 (fun x => decide (x = 0)) 69 48) := k_if_eq dX3_usesMacro_45 rfl
theorem r_X3_usesMacro_48 (E : ax_EN G l) : ax_Snd G l ax_Ym M_X3_usesMacro 48 (S_aload 0 49) := k_aload_n dX3_usesMacro_48 rfl
theorem r_X3_usesMacro_49 (E : ax_EN G l) : ax_Snd G l ax_Ym M_X3_usesMacro 49 (S_aload 0 50) := k_aload_n dX3_usesMacro_49 rfl
theorem r_X3_usesMacro_50 (E : ax_EN G l) : ax_Snd G l ax_Ym M_X3_usesMacro 50 (S_getf [(38, 3)] 53) := k_getf (en_F E) (ax_fes_cons (fe_358 E) ax_fes_nil) q2756 dX3_usesMacro_50
theorem r_X3_usesMacro_53 (E : ax_EN G l) : ax_Snd G l ax_Ym M_X3_usesMacro 53 (S_iload 3 54) := k_iload_n dX3_usesMacro_53 rfl
theorem r_X3_usesMacro_54 (E : ax_EN G l) : ax_Snd G l ax_Ym M_X3_usesMacro 54 (S_iald 0 55) := k_iald (en_F E) dX3_usesMacro_54
theorem r_X3_usesMacro_55 (E : ax_EN G l) : ax_Snd G l ax_Ym M_X3_usesMacro 55 (S_aload 0 56) := k_aload_n dX3_usesMacro_55 rfl
theorem r_X3_usesMacro_56 (E : ax_EN G l) : ax_Snd G l ax_Ym M_X3_usesMacro 56 (S_getf [(38, 3)] 59) := k_getf (en_F E) (ax_fes_cons (fe_358 E) ax_fes_nil) q2756 dX3_usesMacro_56
theorem r_X3_usesMacro_59 (E : ax_EN G l) : ax_Snd G l ax_Ym M_X3_usesMacro 59 (S_iload 3 60) := k_iload_n dX3_usesMacro_59 rfl
theorem r_X3_usesMacro_60 (E : ax_EN G l) : ax_Snd G l ax_Ym M_X3_usesMacro 60 (S_push (.int (1)) 61) := k_iconst dX3_usesMacro_60 rfl
theorem r_X3_usesMacro_61 (E : ax_EN G l) : ax_Snd G l ax_Ym M_X3_usesMacro 61 (S_i2 (fun x y => x + y) 62) := k_iadd dX3_usesMacro_61
theorem r_X3_usesMacro_62 (E : ax_EN G l) : ax_Snd G l ax_Ym M_X3_usesMacro 62 (S_iald 0 63) := k_iald (en_F E) dX3_usesMacro_62
theorem r_X3_usesMacro_63 (E : ax_EN G l) : ax_Snd G l ax_Ym M_X3_usesMacro 63 (S_iv [(38, 397)] 2 66 hd_0) := k_iv (en_F E) (ax_ok0 E rfl) (ax_Evs_cons ((ev_v (en_c E (k := 38) rfl) rfl y_X3_value q3075 q3077 qs70 q126 q3078 nm_X3_value (Nat.le_of_ble_eq_true rfl) dX3_usesMacro_63) : ax_EvV G l ax_Ym M_X3_usesMacro 63 2 3 38 397) ax_Evs_nil)
theorem r_X3_usesMacro_66 (E : ax_EN G l) : ax_Snd G l ax_Ym M_X3_usesMacro 66 (S_goto 70) := k_goto dX3_usesMacro_66 rfl
theorem r_X3_usesMacro_69 (E : ax_EN G l) : ax_Snd G l ax_Ym M_X3_usesMacro 69 (S_push (.int (0)) 70) := k_iconst dX3_usesMacro_69 rfl
theorem r_X3_usesMacro_70 (E : ax_EN G l) : ax_Snd G l ax_Ym M_X3_usesMacro 70 (S_istore 5 72) := k_istore dX3_usesMacro_70 (Nat.le_of_ble_eq_true rfl)
theorem r_X3_usesMacro_72 (E : ax_EN G l) : ax_Snd G l ax_Ym M_X3_usesMacro 72 (S_iload 2 73) := k_iload_n dX3_usesMacro_72 rfl
theorem r_X3_usesMacro_73 (E : ax_EN G l) : ax_Snd G l ax_Ym M_X3_usesMacro 73 (S_if1 (fun x => decide (x = 0)) 83 76) := k_if_eq dX3_usesMacro_73 rfl
theorem r_X3_usesMacro_76 (E : ax_EN G l) : ax_Snd G l ax_Ym M_X3_usesMacro 76 (S_aload 0 77) := k_aload_n dX3_usesMacro_76 rfl
theorem r_X3_usesMacro_77 (E : ax_EN G l) : ax_Snd G l ax_Ym M_X3_usesMacro 77 (S_getf [(38, 19)] 80) := k_getf (en_F E) (ax_fes_cons (fe_456 E) ax_fes_nil) q2772 dX3_usesMacro_77
theorem r_X3_usesMacro_80 (E : ax_EN G l) : ax_Snd G l ax_Ym M_X3_usesMacro 80 (S_goto 84) := k_goto dX3_usesMacro_80 rfl
theorem r_X3_usesMacro_83 (E : ax_EN G l) : ax_Snd G l ax_Ym M_X3_usesMacro 83 (S_push (.int (0)) 84) := k_iconst dX3_usesMacro_83 rfl
theorem r_X3_usesMacro_84 (E : ax_EN G l) : ax_Snd G l ax_Ym M_X3_usesMacro 84 (S_istore 6 86) := k_istore dX3_usesMacro_84 (Nat.le_of_ble_eq_true rfl)
theorem r_X3_usesMacro_86 (E : ax_EN G l) : ax_Snd G l ax_Ym M_X3_usesMacro 86 (S_iload 2 87) := k_iload_n dX3_usesMacro_86 rfl
theorem r_X3_usesMacro_87 (E : ax_EN G l) : ax_Snd G l ax_Ym M_X3_usesMacro 87 (S_if1 (fun x => decide (x = 0)) 113 90) := k_if_eq dX3_usesMacro_87 rfl
theorem r_X3_usesMacro_90 (E : ax_EN G l) : ax_Snd G l ax_Ym M_X3_usesMacro 90 (S_aload 0 91) := k_aload_n dX3_usesMacro_90 rfl
theorem r_X3_usesMacro_91 (E : ax_EN G l) : ax_Snd G l ax_Ym M_X3_usesMacro 91 (S_aload 0 92) := k_aload_n dX3_usesMacro_91 rfl
theorem r_X3_usesMacro_92 (E : ax_EN G l) : ax_Snd G l ax_Ym M_X3_usesMacro 92 (S_getf [(38, 3)] 95) := k_getf (en_F E) (ax_fes_cons (fe_358 E) ax_fes_nil) q2756 dX3_usesMacro_92
theorem r_X3_usesMacro_95 (E : ax_EN G l) : ax_Snd G l ax_Ym M_X3_usesMacro 95 (S_iload 3 96) := k_iload_n dX3_usesMacro_95 rfl
theorem r_X3_usesMacro_96 (E : ax_EN G l) : ax_Snd G l ax_Ym M_X3_usesMacro 96 (S_push (.int (2)) 97) := k_iconst dX3_usesMacro_96 rfl
theorem r_X3_usesMacro_97 (E : ax_EN G l) : ax_Snd G l ax_Ym M_X3_usesMacro 97 (S_i2 (fun x y => x + y) 98) := k_iadd dX3_usesMacro_97
theorem r_X3_usesMacro_98 (E : ax_EN G l) : ax_Snd G l ax_Ym M_X3_usesMacro 98 (S_iald 0 99) := k_iald (en_F E) dX3_usesMacro_98
theorem r_X3_usesMacro_99 (E : ax_EN G l) : ax_Snd G l ax_Ym M_X3_usesMacro 99 (S_aload 0 100) := k_aload_n dX3_usesMacro_99 rfl
theorem r_X3_usesMacro_100 (E : ax_EN G l) : ax_Snd G l ax_Ym M_X3_usesMacro 100 (S_getf [(38, 3)] 103) := k_getf (en_F E) (ax_fes_cons (fe_358 E) ax_fes_nil) q2756 dX3_usesMacro_100
theorem r_X3_usesMacro_103 (E : ax_EN G l) : ax_Snd G l ax_Ym M_X3_usesMacro 103 (S_iload 3 104) := k_iload_n dX3_usesMacro_103 rfl
theorem r_X3_usesMacro_104 (E : ax_EN G l) : ax_Snd G l ax_Ym M_X3_usesMacro 104 (S_push (.int (3)) 105) := k_iconst dX3_usesMacro_104 rfl
theorem r_X3_usesMacro_105 (E : ax_EN G l) : ax_Snd G l ax_Ym M_X3_usesMacro 105 (S_i2 (fun x y => x + y) 106) := k_iadd dX3_usesMacro_105
theorem r_X3_usesMacro_106 (E : ax_EN G l) : ax_Snd G l ax_Ym M_X3_usesMacro 106 (S_iald 0 107) := k_iald (en_F E) dX3_usesMacro_106
theorem r_X3_usesMacro_107 (E : ax_EN G l) : ax_Snd G l ax_Ym M_X3_usesMacro 107 (S_iv [(38, 397)] 2 110 hd_0) := k_iv (en_F E) (ax_ok0 E rfl) (ax_Evs_cons ((ev_v (en_c E (k := 38) rfl) rfl y_X3_value q3075 q3077 qs70 q126 q3078 nm_X3_value (Nat.le_of_ble_eq_true rfl) dX3_usesMacro_107) : ax_EvV G l ax_Ym M_X3_usesMacro 107 2 3 38 397) ax_Evs_nil)
theorem r_X3_usesMacro_110 (E : ax_EN G l) : ax_Snd G l ax_Ym M_X3_usesMacro 110 (S_goto 114) := k_goto dX3_usesMacro_110 rfl
theorem r_X3_usesMacro_113 (E : ax_EN G l) : ax_Snd G l ax_Ym M_X3_usesMacro 113 (S_push (.int (0)) 114) := k_iconst dX3_usesMacro_113 rfl
theorem r_X3_usesMacro_114 (E : ax_EN G l) : ax_Snd G l ax_Ym M_X3_usesMacro 114 (S_istore 7 116) := k_istore dX3_usesMacro_114 (Nat.le_of_ble_eq_true rfl)
theorem r_X3_usesMacro_116 (E : ax_EN G l) : ax_Snd G l ax_Ym M_X3_usesMacro 116 (S_iload 2 117) := k_iload_n dX3_usesMacro_116 rfl
theorem r_X3_usesMacro_117 (E : ax_EN G l) : ax_Snd G l ax_Ym M_X3_usesMacro 117 (S_if1 (fun x => decide (x = 0)) 132 120) := k_if_eq dX3_usesMacro_117 rfl
theorem r_X3_usesMacro_120 (E : ax_EN G l) : ax_Snd G l ax_Ym M_X3_usesMacro 120 (S_iload 6 122) := k_iload dX3_usesMacro_120
theorem r_X3_usesMacro_122 (E : ax_EN G l) : ax_Snd G l ax_Ym M_X3_usesMacro 122 (S_if1 (fun x => decide (¬ x = 0)) 132 125) := k_if_ne dX3_usesMacro_122 rfl
theorem r_X3_usesMacro_125 (E : ax_EN G l) : ax_Snd G l ax_Ym M_X3_usesMacro 125 (S_aload 0 126) := k_aload_n dX3_usesMacro_125 rfl
theorem r_X3_usesMacro_126 (E : ax_EN G l) : ax_Snd G l ax_Ym M_X3_usesMacro 126 (S_getf [(38, 19)] 129) := k_getf (en_F E) (ax_fes_cons (fe_456 E) ax_fes_nil) q2772 dX3_usesMacro_126
theorem r_X3_usesMacro_129 (E : ax_EN G l) : ax_Snd G l ax_Ym M_X3_usesMacro 129 (S_goto 134) := k_goto dX3_usesMacro_129 rfl
theorem r_X3_usesMacro_132 (E : ax_EN G l) : ax_Snd G l ax_Ym M_X3_usesMacro 132 (S_iload 6 134) := k_iload dX3_usesMacro_132
theorem r_X3_usesMacro_134 (E : ax_EN G l) : ax_Snd G l ax_Ym M_X3_usesMacro 134 (S_istore 6 136) := k_istore dX3_usesMacro_134 (Nat.le_of_ble_eq_true rfl)
theorem r_X3_usesMacro_136 (E : ax_EN G l) : ax_Snd G l ax_Ym M_X3_usesMacro 136 (S_aload 0 137) := k_aload_n dX3_usesMacro_136 rfl
theorem r_X3_usesMacro_137 (E : ax_EN G l) : ax_Snd G l ax_Ym M_X3_usesMacro 137 (S_dup 138) := k_dup dX3_usesMacro_137
theorem r_X3_usesMacro_138 (E : ax_EN G l) : ax_Snd G l ax_Ym M_X3_usesMacro 138 (S_getf [(38, 14)] 141) := k_getf (en_F E) (ax_fes_cons (fe_454 E) ax_fes_nil) q2767 dX3_usesMacro_138
theorem r_X3_usesMacro_141 (E : ax_EN G l) : ax_Snd G l ax_Ym M_X3_usesMacro 141 (S_push (.int (1)) 142) := k_iconst dX3_usesMacro_141 rfl
theorem r_X3_usesMacro_142 (E : ax_EN G l) : ax_Snd G l ax_Ym M_X3_usesMacro 142 (S_i2 (fun x y => x + y) 143) := k_iadd dX3_usesMacro_142
theorem r_X3_usesMacro_143 (E : ax_EN G l) : ax_Snd G l ax_Ym M_X3_usesMacro 143 (S_putf [(38, 14)] (.int) 146) := k_putf (en_F E) (en_P E) (ax_fes_cons (fe_454 E) ax_fes_nil) (ax_fps_cons (fp_455 E) ax_fps_nil) q2767 dX3_usesMacro_143
theorem r_X3_usesMacro_146 (E : ax_EN G l) : ax_Snd G l ax_Ym M_X3_usesMacro 146 (S_aload 0 147) := k_aload_n dX3_usesMacro_146 rfl
theorem r_X3_usesMacro_147 (E : ax_EN G l) : ax_Snd G l ax_Ym M_X3_usesMacro 147 (S_getf [(38, 8)] 150) := k_getf (en_F E) (ax_fes_cons (fe_368 E) ax_fes_nil) q2761 dX3_usesMacro_147
theorem r_X3_usesMacro_150 (E : ax_EN G l) : ax_Snd G l ax_Ym M_X3_usesMacro 150 (S_aload 0 151) := k_aload_n dX3_usesMacro_150 rfl
theorem r_X3_usesMacro_151 (E : ax_EN G l) : ax_Snd G l ax_Ym M_X3_usesMacro 151 (S_getf [(38, 14)] 154) := k_getf (en_F E) (ax_fes_cons (fe_454 E) ax_fes_nil) q2767 dX3_usesMacro_151
theorem r_X3_usesMacro_154 (E : ax_EN G l) : ax_Snd G l ax_Ym M_X3_usesMacro 154 (S_aload 0 155) := k_aload_n dX3_usesMacro_154 rfl
theorem r_X3_usesMacro_155 (E : ax_EN G l) : ax_Snd G l ax_Ym M_X3_usesMacro 155 (S_getf [(38, 6)] 158) := k_getf (en_F E) (ax_fes_cons (fe_364 E) ax_fes_nil) q2759 dX3_usesMacro_155
theorem r_X3_usesMacro_158 (E : ax_EN G l) : ax_Snd G l ax_Ym M_X3_usesMacro 158 (S_iload 4 160) := k_iload dX3_usesMacro_158
theorem r_X3_usesMacro_160 (E : ax_EN G l) : ax_Snd G l ax_Ym M_X3_usesMacro 160 (S_iald 0 161) := k_iald (en_F E) dX3_usesMacro_160
theorem r_X3_usesMacro_161 (E : ax_EN G l) : ax_Snd G l ax_Ym M_X3_usesMacro 161 (S_iast 0 (fun x => x) 162) := k_iast (en_F E) dX3_usesMacro_161
theorem r_X3_usesMacro_162 (E : ax_EN G l) : ax_Snd G l ax_Ym M_X3_usesMacro 162 (S_aload 0 163) := k_aload_n dX3_usesMacro_162 rfl
theorem r_X3_usesMacro_163 (E : ax_EN G l) : ax_Snd G l ax_Ym M_X3_usesMacro 163 (S_getf [(38, 9)] 166) := k_getf (en_F E) (ax_fes_cons (fe_370 E) ax_fes_nil) q2762 dX3_usesMacro_163
theorem r_X3_usesMacro_166 (E : ax_EN G l) : ax_Snd G l ax_Ym M_X3_usesMacro 166 (S_aload 0 167) := k_aload_n dX3_usesMacro_166 rfl
theorem r_X3_usesMacro_167 (E : ax_EN G l) : ax_Snd G l ax_Ym M_X3_usesMacro 167 (S_getf [(38, 14)] 170) := k_getf (en_F E) (ax_fes_cons (fe_454 E) ax_fes_nil) q2767 dX3_usesMacro_167
theorem r_X3_usesMacro_170 (E : ax_EN G l) : ax_Snd G l ax_Ym M_X3_usesMacro 170 (S_aload 0 171) := k_aload_n dX3_usesMacro_170 rfl
theorem r_X3_usesMacro_171 (E : ax_EN G l) : ax_Snd G l ax_Ym M_X3_usesMacro 171 (S_getf [(38, 7)] 174) := k_getf (en_F E) (ax_fes_cons (fe_366 E) ax_fes_nil) q2760 dX3_usesMacro_171
theorem r_X3_usesMacro_174 (E : ax_EN G l) : ax_Snd G l ax_Ym M_X3_usesMacro 174 (S_iload 4 176) := k_iload dX3_usesMacro_174
theorem r_X3_usesMacro_176 (E : ax_EN G l) : ax_Snd G l ax_Ym M_X3_usesMacro 176 (S_iald 0 177) := k_iald (en_F E) dX3_usesMacro_176
theorem r_X3_usesMacro_177 (E : ax_EN G l) : ax_Snd G l ax_Ym M_X3_usesMacro 177 (S_iast 0 (fun x => x) 178) := k_iast (en_F E) dX3_usesMacro_177
theorem r_X3_usesMacro_178 (E : ax_EN G l) : ax_Snd G l ax_Ym M_X3_usesMacro 178 (S_aload 0 179) := k_aload_n dX3_usesMacro_178 rfl
theorem r_X3_usesMacro_179 (E : ax_EN G l) : ax_Snd G l ax_Ym M_X3_usesMacro 179 (S_getf [(38, 10)] 182) := k_getf (en_F E) (ax_fes_cons (fe_372 E) ax_fes_nil) q2763 dX3_usesMacro_179
theorem r_X3_usesMacro_182 (E : ax_EN G l) : ax_Snd G l ax_Ym M_X3_usesMacro 182 (S_aload 0 183) := k_aload_n dX3_usesMacro_182 rfl
theorem r_X3_usesMacro_183 (E : ax_EN G l) : ax_Snd G l ax_Ym M_X3_usesMacro 183 (S_getf [(38, 14)] 186) := k_getf (en_F E) (ax_fes_cons (fe_454 E) ax_fes_nil) q2767 dX3_usesMacro_183
theorem r_X3_usesMacro_186 (E : ax_EN G l) : ax_Snd G l ax_Ym M_X3_usesMacro 186 (S_aload 0 187) := k_aload_n dX3_usesMacro_186 rfl
theorem r_X3_usesMacro_187 (E : ax_EN G l) : ax_Snd G l ax_Ym M_X3_usesMacro 187 (S_getf [(38, 17)] 190) := k_getf (en_F E) (ax_fes_cons (fe_452 E) ax_fes_nil) q2770 dX3_usesMacro_187
theorem r_X3_usesMacro_190 (E : ax_EN G l) : ax_Snd G l ax_Ym M_X3_usesMacro 190 (S_iast 0 (fun x => x) 191) := k_iast (en_F E) dX3_usesMacro_190
theorem r_X3_usesMacro_191 (E : ax_EN G l) : ax_Snd G l ax_Ym M_X3_usesMacro 191 (S_aload 0 192) := k_aload_n dX3_usesMacro_191 rfl
theorem r_X3_usesMacro_192 (E : ax_EN G l) : ax_Snd G l ax_Ym M_X3_usesMacro 192 (S_getf [(38, 11)] 195) := k_getf (en_F E) (ax_fes_cons (fe_374 E) ax_fes_nil) q2764 dX3_usesMacro_192
theorem r_X3_usesMacro_195 (E : ax_EN G l) : ax_Snd G l ax_Ym M_X3_usesMacro 195 (S_aload 0 196) := k_aload_n dX3_usesMacro_195 rfl
theorem r_X3_usesMacro_196 (E : ax_EN G l) : ax_Snd G l ax_Ym M_X3_usesMacro 196 (S_getf [(38, 14)] 199) := k_getf (en_F E) (ax_fes_cons (fe_454 E) ax_fes_nil) q2767 dX3_usesMacro_196
theorem r_X3_usesMacro_199 (E : ax_EN G l) : ax_Snd G l ax_Ym M_X3_usesMacro 199 (S_iload 4 201) := k_iload dX3_usesMacro_199
theorem r_X3_usesMacro_201 (E : ax_EN G l) : ax_Snd G l ax_Ym M_X3_usesMacro 201 (S_iast 0 (fun x => x) 202) := k_iast (en_F E) dX3_usesMacro_201
theorem r_X3_usesMacro_202 (E : ax_EN G l) : ax_Snd G l ax_Ym M_X3_usesMacro 202 (S_aload 0 203) := k_aload_n dX3_usesMacro_202 rfl
theorem r_X3_usesMacro_203 (E : ax_EN G l) : ax_Snd G l ax_Ym M_X3_usesMacro 203 (S_getf [(38, 12)] 206) := k_getf (en_F E) (ax_fes_cons (fe_376 E) ax_fes_nil) q2765 dX3_usesMacro_203
theorem r_X3_usesMacro_206 (E : ax_EN G l) : ax_Snd G l ax_Ym M_X3_usesMacro 206 (S_aload 0 207) := k_aload_n dX3_usesMacro_206 rfl
theorem r_X3_usesMacro_207 (E : ax_EN G l) : ax_Snd G l ax_Ym M_X3_usesMacro 207 (S_getf [(38, 14)] 210) := k_getf (en_F E) (ax_fes_cons (fe_454 E) ax_fes_nil) q2767 dX3_usesMacro_207
theorem r_X3_usesMacro_210 (E : ax_EN G l) : ax_Snd G l ax_Ym M_X3_usesMacro 210 (S_iload 5 212) := k_iload dX3_usesMacro_210
theorem r_X3_usesMacro_212 (E : ax_EN G l) : ax_Snd G l ax_Ym M_X3_usesMacro 212 (S_iast 0 (fun x => x) 213) := k_iast (en_F E) dX3_usesMacro_212
theorem r_X3_usesMacro_213 (E : ax_EN G l) : ax_Snd G l ax_Ym M_X3_usesMacro 213 (S_aload 0 214) := k_aload_n dX3_usesMacro_213 rfl
theorem r_X3_usesMacro_214 (E : ax_EN G l) : ax_Snd G l ax_Ym M_X3_usesMacro 214 (S_getf [(38, 13)] 217) := k_getf (en_F E) (ax_fes_cons (fe_378 E) ax_fes_nil) q2766 dX3_usesMacro_214
theorem r_X3_usesMacro_217 (E : ax_EN G l) : ax_Snd G l ax_Ym M_X3_usesMacro 217 (S_aload 0 218) := k_aload_n dX3_usesMacro_217 rfl
theorem r_X3_usesMacro_218 (E : ax_EN G l) : ax_Snd G l ax_Ym M_X3_usesMacro 218 (S_getf [(38, 14)] 221) := k_getf (en_F E) (ax_fes_cons (fe_454 E) ax_fes_nil) q2767 dX3_usesMacro_218
theorem r_X3_usesMacro_221 (E : ax_EN G l) : ax_Snd G l ax_Ym M_X3_usesMacro 221 (S_iload 7 223) := k_iload dX3_usesMacro_221
theorem r_X3_usesMacro_223 (E : ax_EN G l) : ax_Snd G l ax_Ym M_X3_usesMacro 223 (S_iast 0 (fun x => x) 224) := k_iast (en_F E) dX3_usesMacro_223
theorem r_X3_usesMacro_224 (E : ax_EN G l) : ax_Snd G l ax_Ym M_X3_usesMacro 224 (S_aload 0 225) := k_aload_n dX3_usesMacro_224 rfl
theorem r_X3_usesMacro_225 (E : ax_EN G l) : ax_Snd G l ax_Ym M_X3_usesMacro 225 (S_dup 226) := k_dup dX3_usesMacro_225
theorem r_X3_usesMacro_226 (E : ax_EN G l) : ax_Snd G l ax_Ym M_X3_usesMacro 226 (S_getf [(38, 17)] 229) := k_getf (en_F E) (ax_fes_cons (fe_452 E) ax_fes_nil) q2770 dX3_usesMacro_226
theorem r_X3_usesMacro_229 (E : ax_EN G l) : ax_Snd G l ax_Ym M_X3_usesMacro 229 (S_push (.int (1)) 230) := k_iconst dX3_usesMacro_229 rfl
theorem r_X3_usesMacro_230 (E : ax_EN G l) : ax_Snd G l ax_Ym M_X3_usesMacro 230 (S_i2 (fun x y => x + y) 231) := k_iadd dX3_usesMacro_230
theorem r_X3_usesMacro_231 (E : ax_EN G l) : ax_Snd G l ax_Ym M_X3_usesMacro 231 (S_putf [(38, 17)] (.int) 234) := k_putf (en_F E) (en_P E) (ax_fes_cons (fe_452 E) ax_fes_nil) (ax_fps_cons (fp_453 E) ax_fps_nil) q2770 dX3_usesMacro_231
theorem r_X3_usesMacro_234 (E : ax_EN G l) : ax_Snd G l ax_Ym M_X3_usesMacro 234 (S_iload 6 236) := k_iload dX3_usesMacro_234
theorem r_X3_usesMacro_236 (E : ax_EN G l) : ax_Snd G l ax_Ym M_X3_usesMacro 236 (S_if1 (fun x => decide (¬ x = 0)) 243 239) := k_if_ne dX3_usesMacro_236 rfl
theorem r_X3_usesMacro_239 (E : ax_EN G l) : ax_Snd G l ax_Ym M_X3_usesMacro 239 (S_push (.int (0)) 240) := k_iconst dX3_usesMacro_239 rfl
theorem r_X3_usesMacro_240 (E : ax_EN G l) : ax_Snd G l ax_Ym M_X3_usesMacro 240 (S_goto 250) := k_goto dX3_usesMacro_240 rfl
theorem r_X3_usesMacro_243 (E : ax_EN G l) : ax_Snd G l ax_Ym M_X3_usesMacro 243 (S_push (.int (100)) 245) := k_bipush dX3_usesMacro_243 rfl
theorem r_X3_usesMacro_245 (E : ax_EN G l) : ax_Snd G l ax_Ym M_X3_usesMacro 245 (S_iload 6 247) := k_iload dX3_usesMacro_245
theorem r_X3_usesMacro_247 (E : ax_EN G l) : ax_Snd G l ax_Ym M_X3_usesMacro 247 (S_i2 (fun x y => x * y) 248) := k_imul dX3_usesMacro_247
theorem r_X3_usesMacro_248 (E : ax_EN G l) : ax_Snd G l ax_Ym M_X3_usesMacro 248 (S_iload 1 249) := k_iload_n dX3_usesMacro_248 rfl
theorem r_X3_usesMacro_249 (E : ax_EN G l) : ax_Snd G l ax_Ym M_X3_usesMacro 249 (S_i2 (fun x y => x + y) 250) := k_iadd dX3_usesMacro_249
theorem r_X3_usesMacro_250 (E : ax_EN G l) : ax_Snd G l ax_Ym M_X3_usesMacro 250 (S_iret) := k_iret dX3_usesMacro_250 rfl
theorem mt_X3_usesMacro (E : ax_EN G l) : ax_mt G l ax_Ym (8, P_X3_usesMacro) (ax_Ym 395) := ⟨M_X3_usesMacro, yX3_usesMacro, ⟨rfl, by decide +kernel, rfl, (fun h => by cases h), Or.inl ⟨rfl, rfl⟩⟩, fun pc => (ax_sn_node (ax_sn_node (ax_sn_node (ax_sn_node (ax_sn_node (ax_sn_node (ax_sn_node (ax_sn_node (ax_sn_leaf (r_X3_usesMacro_250 E)) (ax_sn_leaf (r_X3_usesMacro_249 E))) (ax_sn_leaf (r_X3_usesMacro_248 E))) (ax_sn_node (ax_sn_leaf (r_X3_usesMacro_247 E)) (ax_sn_leaf (r_X3_usesMacro_245 E)))) (ax_sn_node (ax_sn_node (ax_sn_leaf (r_X3_usesMacro_243 E)) (ax_sn_leaf (r_X3_usesMacro_240 E))) (ax_sn_node (ax_sn_leaf (r_X3_usesMacro_239 E)) (ax_sn_leaf (r_X3_usesMacro_236 E))))) (ax_sn_node (ax_sn_node (ax_sn_node (ax_sn_node (ax_sn_leaf (r_X3_usesMacro_234 E)) (ax_sn_leaf (r_X3_usesMacro_231 E))) (ax_sn_leaf (r_X3_usesMacro_230 E))) (ax_sn_node (ax_sn_leaf (r_X3_usesMacro_229 E)) (ax_sn_leaf (r_X3_usesMacro_226 E)))) (ax_sn_node (ax_sn_node (ax_sn_leaf (r_X3_usesMacro_225 E)) (ax_sn_leaf (r_X3_usesMacro_224 E))) (ax_sn_node (ax_sn_leaf (r_X3_usesMacro_223 E)) (ax_sn_leaf (r_X3_usesMacro_221 E)))))) (ax_sn_node (ax_sn_node (ax_sn_node (ax_sn_node (ax_sn_node (ax_sn_leaf (r_X3_usesMacro_218 E)) (ax_sn_leaf (r_X3_usesMacro_217 E))) (ax_sn_leaf (r_X3_usesMacro_214 E))) (ax_sn_node (ax_sn_leaf (r_X3_usesMacro_213 E)) (ax_sn_leaf (r_X3_usesMacro_212 E)))) (ax_sn_node (ax_sn_node (ax_sn_leaf (r_X3_usesMacro_210 E)) (ax_sn_leaf (r_X3_usesMacro_207 E))) (ax_sn_node (ax_sn_leaf (r_X3_usesMacro_206 E)) (ax_sn_leaf (r_X3_usesMacro_203 E))))) (ax_sn_node (ax_sn_node (ax_sn_node (ax_sn_node (ax_sn_leaf (r_X3_usesMacro_202 E)) (ax_sn_leaf (r_X3_usesMacro_201 E))) (ax_sn_leaf (r_X3_usesMacro_199 E))) (ax_sn_node (ax_sn_leaf (r_X3_usesMacro_196 E)) (ax_sn_leaf (r_X3_usesMacro_195 E)))) (ax_sn_node (ax_sn_node (ax_sn_leaf (r_X3_usesMacro_192 E)) (ax_sn_leaf (r_X3_usesMacro_191 E))) (ax_sn_node (ax_sn_leaf (r_X3_usesMacro_190 E)) (ax_sn_leaf (r_X3_usesMacro_187 E))))))) (ax_sn_node (ax_sn_node (ax_sn_node (ax_sn_node (ax_sn_node (ax_sn_node (ax_sn_leaf (r_X3_usesMacro_186 E)) (ax_sn_leaf (r_X3_usesMacro_183 E))) (ax_sn_leaf (r_X3_usesMacro_182 E))) (ax_sn_node (ax_sn_leaf (r_X3_usesMacro_179 E)) (ax_sn_leaf (r_X3_usesMacro_178 E)))) (ax_sn_node (ax_sn_node (ax_sn_leaf (r_X3_usesMacro_177 E)) (ax_sn_leaf (r_X3_usesMacro_176 E))) (ax_sn_node (ax_sn_leaf (r_X3_usesMacro_174 E)) (ax_sn_leaf (r_X3_usesMacro_171 E))))) (ax_sn_node (ax_sn_node (ax_sn_node (ax_sn_node (ax_sn_leaf (r_X3_usesMacro_170 E)) (ax_sn_leaf (r_X3_usesMacro_167 E))) (ax_sn_leaf (r_X3_usesMacro_166 E))) (ax_sn_node (ax_sn_leaf (r_X3_usesMacro_163 E)) (ax_sn_leaf (r_X3_usesMacro_162 E)))) (ax_sn_node (ax_sn_node (ax_sn_leaf (r_X3_usesMacro_161 E)) (ax_sn_leaf (r_X3_usesMacro_160 E))) (ax_sn_node (ax_sn_leaf (r_X3_usesMacro_158 E)) (ax_sn_leaf (r_X3_usesMacro_155 E)))))) (ax_sn_node (ax_sn_node (ax_sn_node (ax_sn_node (ax_sn_node (ax_sn_leaf (r_X3_usesMacro_154 E)) (ax_sn_leaf (r_X3_usesMacro_151 E))) (ax_sn_leaf (r_X3_usesMacro_150 E))) (ax_sn_node (ax_sn_leaf (r_X3_usesMacro_147 E)) (ax_sn_leaf (r_X3_usesMacro_146 E)))) (ax_sn_node (ax_sn_node (ax_sn_leaf (r_X3_usesMacro_143 E)) (ax_sn_leaf (r_X3_usesMacro_142 E))) (ax_sn_node (ax_sn_leaf (r_X3_usesMacro_141 E)) (ax_sn_leaf (r_X3_usesMacro_138 E))))) (ax_sn_node (ax_sn_node (ax_sn_node (ax_sn_node (ax_sn_leaf (r_X3_usesMacro_137 E)) (ax_sn_leaf (r_X3_usesMacro_136 E))) (ax_sn_leaf (r_X3_usesMacro_134 E))) (ax_sn_node (ax_sn_leaf (r_X3_usesMacro_132 E)) (ax_sn_leaf (r_X3_usesMacro_129 E)))) (ax_sn_node (ax_sn_node (ax_sn_leaf (r_X3_usesMacro_126 E)) (ax_sn_leaf (r_X3_usesMacro_125 E))) (ax_sn_node (ax_sn_leaf (r_X3_usesMacro_122 E)) (ax_sn_leaf (r_X3_usesMacro_120 E)))))))) (ax_sn_node (ax_sn_node (ax_sn_node (ax_sn_node (ax_sn_node (ax_sn_node (ax_sn_node (ax_sn_leaf (r_X3_usesMacro_117 E)) (ax_sn_leaf (r_X3_usesMacro_116 E))) (ax_sn_leaf (r_X3_usesMacro_114 E))) (ax_sn_node (ax_sn_leaf (r_X3_usesMacro_113 E)) (ax_sn_leaf (r_X3_usesMacro_110 E)))) (ax_sn_node (ax_sn_node (ax_sn_leaf (r_X3_usesMacro_107 E)) (ax_sn_leaf (r_X3_usesMacro_106 E))) (ax_sn_node (ax_sn_leaf (r_X3_usesMacro_105 E)) (ax_sn_leaf (r_X3_usesMacro_104 E))))) (ax_sn_node (ax_sn_node (ax_sn_node (ax_sn_node (ax_sn_leaf (r_X3_usesMacro_103 E)) (ax_sn_leaf (r_X3_usesMacro_100 E))) (ax_sn_leaf (r_X3_usesMacro_99 E))) (ax_sn_node (ax_sn_leaf (r_X3_usesMacro_98 E)) (ax_sn_leaf (r_X3_usesMacro_97 E)))) (ax_sn_node (ax_sn_node (ax_sn_leaf (r_X3_usesMacro_96 E)) (ax_sn_leaf (r_X3_usesMacro_95 E))) (ax_sn_node (ax_sn_leaf (r_X3_usesMacro_92 E)) (ax_sn_leaf (r_X3_usesMacro_91 E)))))) (ax_sn_node (ax_sn_node (ax_sn_node (ax_sn_node (ax_sn_node (ax_sn_leaf (r_X3_usesMacro_90 E)) (ax_sn_leaf (r_X3_usesMacro_87 E))) (ax_sn_leaf (r_X3_usesMacro_86 E))) (ax_sn_node (ax_sn_leaf (r_X3_usesMacro_84 E)) (ax_sn_leaf (r_X3_usesMacro_83 E)))) (ax_sn_node (ax_sn_node (ax_sn_leaf (r_X3_usesMacro_80 E)) (ax_sn_leaf (r_X3_usesMacro_77 E))) (ax_sn_node (ax_sn_leaf (r_X3_usesMacro_76 E)) (ax_sn_leaf (r_X3_usesMacro_73 E))))) (ax_sn_node (ax_sn_node (ax_sn_node (ax_sn_node (ax_sn_leaf (r_X3_usesMacro_72 E)) (ax_sn_leaf (r_X3_usesMacro_70 E))) (ax_sn_leaf (r_X3_usesMacro_69 E))) (ax_sn_node (ax_sn_leaf (r_X3_usesMacro_66 E)) (ax_sn_leaf (r_X3_usesMacro_63 E)))) (ax_sn_node (ax_sn_node (ax_sn_leaf (r_X3_usesMacro_62 E)) (ax_sn_leaf (r_X3_usesMacro_61 E))) (ax_sn_node (ax_sn_leaf (r_X3_usesMacro_60 E)) (ax_sn_leaf (r_X3_usesMacro_59 E))))))) (ax_sn_node (ax_sn_node (ax_sn_node (ax_sn_node (ax_sn_node (ax_sn_node (ax_sn_leaf (r_X3_usesMacro_56 E)) (ax_sn_leaf (r_X3_usesMacro_55 E))) (ax_sn_leaf (r_X3_usesMacro_54 E))) (ax_sn_node (ax_sn_leaf (r_X3_usesMacro_53 E)) (ax_sn_leaf (r_X3_usesMacro_50 E)))) (ax_sn_node (ax_sn_node (ax_sn_leaf (r_X3_usesMacro_49 E)) (ax_sn_leaf (r_X3_usesMacro_48 E))) (ax_sn_node (ax_sn_leaf (r_X3_usesMacro_45 E)) (ax_sn_leaf (r_X3_usesMacro_44 E))))) (ax_sn_node (ax_sn_node (ax_sn_node (ax_sn_node (ax_sn_leaf (r_X3_usesMacro_43 E)) (ax_sn_leaf (r_X3_usesMacro_42 E))) (ax_sn_leaf (r_X3_usesMacro_41 E))) (ax_sn_node (ax_sn_leaf (r_X3_usesMacro_38 E)) (ax_sn_leaf (r_X3_usesMacro_35 E)))) (ax_sn_node (ax_sn_node (ax_sn_leaf (r_X3_usesMacro_32 E)) (ax_sn_leaf (r_X3_usesMacro_30 E))) (ax_sn_node (ax_sn_leaf (r_X3_usesMacro_29 E)) (ax_sn_leaf (r_X3_usesMacro_26 E)))))) (ax_sn_node (ax_sn_node (ax_sn_node (ax_sn_node (ax_sn_node (ax_sn_leaf (r_X3_usesMacro_25 E)) (ax_sn_leaf (r_X3_usesMacro_24 E))) (ax_sn_leaf (r_X3_usesMacro_22 E))) (ax_sn_node (ax_sn_leaf (r_X3_usesMacro_19 E)) (ax_sn_leaf (r_X3_usesMacro_18 E)))) (ax_sn_node (ax_sn_node (ax_sn_leaf (r_X3_usesMacro_15 E)) (ax_sn_leaf (r_X3_usesMacro_14 E))) (ax_sn_node (ax_sn_leaf (r_X3_usesMacro_12 E)) (ax_sn_leaf (r_X3_usesMacro_11 E))))) (ax_sn_node (ax_sn_node (ax_sn_node (ax_sn_node (ax_sn_leaf (r_X3_usesMacro_10 E)) (ax_sn_leaf (r_X3_usesMacro_9 E))) (ax_sn_leaf (r_X3_usesMacro_8 E))) (ax_sn_node (ax_sn_leaf (r_X3_usesMacro_5 E)) (ax_sn_leaf (r_X3_usesMacro_4 E)))) (ax_sn_node (ax_sn_node (ax_sn_leaf (r_X3_usesMacro_3 E)) (ax_sn_leaf (r_X3_usesMacro_2 E))) (ax_sn_node (ax_sn_leaf (r_X3_usesMacro_1 E)) (ax_sn_leaf (r_X3_usesMacro_0 E)))))))))⟩
theorem r_X3_isGoneThrough_0 (E : ax_EN G l) : ax_Snd G l ax_Ym M_X3_isGoneThrough 0 (S_push (.int (1)) 1) := k_iconst dX3_isGoneThrough_0 rfl
theorem r_X3_isGoneThrough_1 (E : ax_EN G l) : ax_Snd G l ax_Ym M_X3_isGoneThrough 1 (S_istore 2 2) := k_istore_n dX3_isGoneThrough_1 rfl (Nat.le_of_ble_eq_true rfl)
theorem r_X3_isGoneThrough_2 (E : ax_EN G l) : ax_Snd G l ax_Ym M_X3_isGoneThrough 2 (S_iload 2 3) := k_iload_n dX3_isGoneThrough_2 rfl
theorem r_X3_isGoneThrough_3 (E : ax_EN G l) : ax_Snd G l ax_Ym M_X3_isGoneThrough 3 (S_aload 0 4) := k_aload_n dX3_isGoneThrough_3 rfl
theorem r_X3_isGoneThrough_4 (E : ax_EN G l) : ax_Snd G l ax_Ym M_X3_isGoneThrough 4 (S_getf [(38, 14)] 7) := k_getf (en_F E) (ax_fes_cons (fe_454 E) ax_fes_nil) q2767 dX3_isGoneThrough_4
theorem r_X3_isGoneThrough_7 (E : ax_EN G l) : ax_Snd G l ax_Ym M_X3_isGoneThrough 7 (S_if2 (fun x y => decide (y < x)) 28 10) := k_icmp_gt dX3_isGoneThrough_7 rfl
theorem r_X3_isGoneThrough_10 (E : ax_EN G l) : ax_Snd G l ax_Ym M_X3_isGoneThrough 10 (S_aload 0 11) := k_aload_n dX3_isGoneThrough_10 rfl
theorem r_X3_isGoneThrough_11 (E : ax_EN G l) : ax_Snd G l ax_Ym M_X3_isGoneThrough 11 (S_getf [(38, 11)] 14) := k_getf (en_F E) (ax_fes_cons (fe_374 E) ax_fes_nil) q2764 dX3_isGoneThrough_11
theorem r_X3_isGoneThrough_14 (E : ax_EN G l) : ax_Snd G l ax_Ym M_X3_isGoneThrough 14 (S_iload 2 15) := k_iload_n dX3_isGoneThrough_14 rfl
theorem r_X3_isGoneThrough_15 (E : ax_EN G l) : ax_Snd G l ax_Ym M_X3_isGoneThrough 15 (S_iald 0 16) := k_iald (en_F E) dX3_isGoneThrough_15
theorem r_X3_isGoneThrough_16 (E : ax_EN G l) : ax_Snd G l ax_Ym M_X3_isGoneThrough 16 (S_iload 1 17) := k_iload_n dX3_isGoneThrough_16 rfl
theorem r_X3_isGoneThrough_17 (E : ax_EN G l) : ax_Snd G l ax_Ym M_X3_isGoneThrough 17 (S_if2 (fun x y => decide (¬ x = y)) 22 20) := k_icmp_ne dX3_isGoneThrough_17 rfl
theorem r_X3_isGoneThrough_20 (E : ax_EN G l) : ax_Snd G l ax_Ym M_X3_isGoneThrough 20 (S_push (.int (1)) 21) := k_iconst dX3_isGoneThrough_20 rfl
theorem r_X3_isGoneThrough_21 (E : ax_EN G l) : ax_Snd G l ax_Ym M_X3_isGoneThrough 21 (S_zret) := k_zret dX3_isGoneThrough_21 rfl
theorem r_X3_isGoneThrough_22 (E : ax_EN G l) : ax_Snd G l ax_Ym M_X3_isGoneThrough 22 (S_iinc 2 (1) 25) := k_iinc dX3_isGoneThrough_22 rfl (Nat.le_of_ble_eq_true rfl)
theorem r_X3_isGoneThrough_25 (E : ax_EN G l) : ax_Snd G l ax_Ym M_X3_isGoneThrough 25 (S_goto 2) := k_goto dX3_isGoneThrough_25 rfl
theorem r_X3_isGoneThrough_28 (E : ax_EN G l) : ax_Snd G l ax_Ym M_X3_isGoneThrough 28 (S_push (.int (0)) 29) := k_iconst dX3_isGoneThrough_28 rfl
theorem r_X3_isGoneThrough_29 (E : ax_EN G l) : ax_Snd G l ax_Ym M_X3_isGoneThrough 29 (S_zret) := k_zret dX3_isGoneThrough_29 rfl
theorem mt_X3_isGoneThrough (E : ax_EN G l) : ax_mt G l ax_Ym (3, P_X3_isGoneThrough) (ax_Ym 396) := ⟨M_X3_isGoneThrough, yX3_isGoneThrough, ⟨rfl, by decide +kernel, rfl, (fun h => by cases h), Or.inl ⟨rfl, rfl⟩⟩, fun pc => (ax_sn_node (ax_sn_node (ax_sn_node (ax_sn_node (ax_sn_node (ax_sn_leaf (r_X3_isGoneThrough_29 E)) (ax_sn_leaf (r_X3_isGoneThrough_28 E))) (ax_sn_leaf (r_X3_isGoneThrough_25 E))) (ax_sn_node (ax_sn_leaf (r_X3_isGoneThrough_22 E)) (ax_sn_leaf (r_X3_isGoneThrough_21 E)))) (ax_sn_node (ax_sn_node (ax_sn_leaf (r_X3_isGoneThrough_20 E)) (ax_sn_leaf (r_X3_isGoneThrough_17 E))) (ax_sn_node (ax_sn_leaf (r_X3_isGoneThrough_16 E)) (ax_sn_leaf (r_X3_isGoneThrough_15 E))))) (ax_sn_node (ax_sn_node (ax_sn_node (ax_sn_node (ax_sn_leaf (r_X3_isGoneThrough_14 E)) (ax_sn_leaf (r_X3_isGoneThrough_11 E))) (ax_sn_leaf (r_X3_isGoneThrough_10 E))) (ax_sn_node (ax_sn_leaf (r_X3_isGoneThrough_7 E)) (ax_sn_leaf (r_X3_isGoneThrough_4 E)))) (ax_sn_node (ax_sn_node (ax_sn_leaf (r_X3_isGoneThrough_3 E)) (ax_sn_leaf (r_X3_isGoneThrough_2 E))) (ax_sn_node (ax_sn_leaf (r_X3_isGoneThrough_1 E)) (ax_sn_leaf (r_X3_isGoneThrough_0 E))))))⟩
theorem r_X3_value_0 (E : ax_EN G l) : ax_Snd G l ax_Ym M_X3_value 0 (S_aload 0 1) := k_aload_n dX3_value_0 rfl
theorem r_X3_value_1 (E : ax_EN G l) : ax_Snd G l ax_Ym M_X3_value 1 (S_push (.int (0)) 2) := k_iconst dX3_value_1 rfl
theorem r_X3_value_2 (E : ax_EN G l) : ax_Snd G l ax_Ym M_X3_value 2 (S_putf [(38, 19)] (.int) 5) := k_putf (en_F E) (en_P E) (ax_fes_cons (fe_456 E) ax_fes_nil) (ax_fps_cons (fp_457 E) ax_fps_nil) q2772 dX3_value_2
theorem r_X3_value_5 (E : ax_EN G l) : ax_Snd G l ax_Ym M_X3_value 5 (S_iload 1 6) := k_iload_n dX3_value_5 rfl
theorem r_X3_value_6 (E : ax_EN G l) : ax_Snd G l ax_Ym M_X3_value 6 (S_push (.int (1)) 7) := k_iconst dX3_value_6 rfl
theorem r_X3_value_7 (E : ax_EN G l) : ax_Snd G l ax_Ym M_X3_value 7 (S_if2 (fun x y => decide (¬ x = y)) 68 10) := k_icmp_ne dX3_value_7 rfl
theorem r_X3_value_10 (E : ax_EN G l) : ax_Snd G l ax_Ym M_X3_value 10 (S_aload 0 11) := k_aload_n dX3_value_10 rfl
theorem r_X3_value_11 (E : ax_EN G l) : ax_Snd G l ax_Ym M_X3_value 11 (S_getf [(38, 4)] 14) := k_getf (en_F E) (ax_fes_cons (fe_360 E) ax_fes_nil) q2757 dX3_value_11
theorem r_X3_value_14 (E : ax_EN G l) : ax_Snd G l ax_Ym M_X3_value 14 (S_aload 0 15) := k_aload_n dX3_value_14 rfl
theorem r_X3_value_15 (E : ax_EN G l) : ax_Snd G l ax_Ym M_X3_value 15 (S_iload 2 16) := k_iload_n dX3_value_15 rfl
theorem r_X3_value_16 (E : ax_EN G l) : ax_Snd G l ax_Ym M_X3_value 16 (S_iv [(38, 398)] 1 19 hd_0) := k_iv (en_F E) (ax_ok0 E rfl) (ax_Evs_cons ((ev_v (en_c E (k := 38) rfl) rfl y_X3_placeOf q3079 q3081 qs71 q126 q3082 nm_X3_placeOf (Nat.le_of_ble_eq_true rfl) dX3_value_16) : ax_EvV G l ax_Ym M_X3_value 16 1 3 38 398) ax_Evs_nil)
theorem r_X3_value_19 (E : ax_EN G l) : ax_Snd G l ax_Ym M_X3_value 19 (S_iald 0 20) := k_iald (en_F E) dX3_value_19
theorem r_X3_value_20 (E : ax_EN G l) : ax_Snd G l ax_Ym M_X3_value 20 (S_istore 3 21) := k_istore_n dX3_value_20 rfl (Nat.le_of_ble_eq_true rfl)
theorem r_X3_value_21 (E : ax_EN G l) : ax_Snd G l ax_Ym M_X3_value 21 (S_aload 0 22) := k_aload_n dX3_value_21 rfl
theorem r_X3_value_22 (E : ax_EN G l) : ax_Snd G l ax_Ym M_X3_value 22 (S_iload 3 23) := k_iload_n dX3_value_22 rfl
theorem r_X3_value_23 (E : ax_EN G l) : ax_Snd G l ax_Ym M_X3_value 23 (S_push (.int (-1)) 24) := k_iconst dX3_value_23 rfl
theorem r_X3_value_24 (E : ax_EN G l) : ax_Snd G l ax_Ym M_X3_value 24 (S_if2 (fun x y => decide (¬ x = y)) 32 27) := k_icmp_ne dX3_value_24 rfl
theorem r_X3_value_27 (E : ax_EN G l) : ax_Snd G l ax_Ym M_X3_value 27 (S_push (.int (6)) 29) := k_bipush dX3_value_27 rfl
theorem r_X3_value_29 (E : ax_EN G l) : ax_Snd G l ax_Ym M_X3_value 29 (S_goto 33) := k_goto dX3_value_29 rfl
theorem r_X3_value_32 (E : ax_EN G l) : ax_Snd G l ax_Ym M_X3_value 32 (S_push (.int (0)) 33) := k_iconst dX3_value_32 rfl
theorem r_X3_value_33 (E : ax_EN G l) : ax_Snd G l ax_Ym M_X3_value 33 (S_putf [(38, 19)] (.int) 36) := k_putf (en_F E) (en_P E) (ax_fes_cons (fe_456 E) ax_fes_nil) (ax_fps_cons (fp_457 E) ax_fps_nil) q2772 dX3_value_33
theorem r_X3_value_36 (E : ax_EN G l) : ax_Snd G l ax_Ym M_X3_value 36 (S_iload 3 37) := k_iload_n dX3_value_36 rfl
theorem r_X3_value_37 (E : ax_EN G l) : ax_Snd G l ax_Ym M_X3_value 37 (S_push (.int (-1)) 38) := k_iconst dX3_value_37 rfl
theorem r_X3_value_38 (E : ax_EN G l) : ax_Snd G l ax_Ym M_X3_value 38 (S_if2 (fun x y => decide (¬ x = y)) 45 41) := k_icmp_ne dX3_value_38 rfl
theorem r_X3_value_41 (E : ax_EN G l) : ax_Snd G l ax_Ym M_X3_value 41 (S_push (.int (0)) 42) := k_iconst dX3_value_41 rfl
theorem r_X3_value_42 (E : ax_EN G l) : ax_Snd G l ax_Ym M_X3_value 42 (S_goto 67) := k_goto dX3_value_42 rfl
theorem r_X3_value_45 (E : ax_EN G l) : ax_Snd G l ax_Ym M_X3_value 45 (S_iload 3 46) := k_iload_n dX3_value_45 rfl
theorem r_X3_value_46 (E : ax_EN G l) : ax_Snd G l ax_Ym M_X3_value 46 (S_push (.int (1000)) 49) := k_sipush dX3_value_46 rfl
theorem r_X3_value_49 (E : ax_EN G l) : ax_Snd G l ax_Ym M_X3_value 49 (S_id (fun x y => x - x / y * y) 50) := k_irem dX3_value_49
theorem r_X3_value_50 (E : ax_EN G l) : ax_Snd G l ax_Ym M_X3_value 50 (S_iload 3 51) := k_iload_n dX3_value_50 rfl
theorem r_X3_value_51 (E : ax_EN G l) : ax_Snd G l ax_Ym M_X3_value 51 (S_push (.int (1000)) 54) := k_sipush dX3_value_51 rfl
theorem r_X3_value_54 (E : ax_EN G l) : ax_Snd G l ax_Ym M_X3_value 54 (S_if2 (fun x y => decide (y ≤ x)) 62 57) := k_icmp_ge dX3_value_54 rfl
theorem r_X3_value_57 (E : ax_EN G l) : ax_Snd G l ax_Ym M_X3_value 57 (S_push (.int (8)) 59) := k_bipush dX3_value_57 rfl
theorem r_X3_value_59 (E : ax_EN G l) : ax_Snd G l ax_Ym M_X3_value 59 (S_goto 66) := k_goto dX3_value_59 rfl
theorem r_X3_value_62 (E : ax_EN G l) : ax_Snd G l ax_Ym M_X3_value 62 (S_aload 0 63) := k_aload_n dX3_value_62 rfl
theorem r_X3_value_63 (E : ax_EN G l) : ax_Snd G l ax_Ym M_X3_value 63 (S_getf [(38, 18)] 66) := k_getf (en_F E) (ax_fes_cons (fe_446 E) ax_fes_nil) q2771 dX3_value_63
theorem r_X3_value_66 (E : ax_EN G l) : ax_Snd G l ax_Ym M_X3_value 66 (S_i2 (fun x y => x + y) 67) := k_iadd dX3_value_66
theorem r_X3_value_67 (E : ax_EN G l) : ax_Snd G l ax_Ym M_X3_value 67 (S_iret) := k_iret dX3_value_67 rfl
theorem r_X3_value_68 (E : ax_EN G l) : ax_Snd G l ax_Ym M_X3_value 68 (S_iload 1 69) := k_iload_n dX3_value_68 rfl
theorem r_X3_value_69 (E : ax_EN G l) : ax_Snd G l ax_Ym M_X3_value 69 (S_push (.int (2)) 70) := k_iconst dX3_value_69 rfl
theorem r_X3_value_70 (E : ax_EN G l) : ax_Snd G l ax_Ym M_X3_value 70 (S_if2 (fun x y => decide (y ≤ x)) 75 73) := k_icmp_ge dX3_value_70 rfl
theorem r_X3_value_73 (E : ax_EN G l) : ax_Snd G l ax_Ym M_X3_value 73 (S_iload 2 74) := k_iload_n dX3_value_73 rfl
theorem r_X3_value_74 (E : ax_EN G l) : ax_Snd G l ax_Ym M_X3_value 74 (S_iret) := k_iret dX3_value_74 rfl
theorem r_X3_value_75 (E : ax_EN G l) : ax_Snd G l ax_Ym M_X3_value 75 (S_aload 0 76) := k_aload_n dX3_value_75 rfl
theorem r_X3_value_76 (E : ax_EN G l) : ax_Snd G l ax_Ym M_X3_value 76 (S_aload 0 77) := k_aload_n dX3_value_76 rfl
theorem r_X3_value_77 (E : ax_EN G l) : ax_Snd G l ax_Ym M_X3_value 77 (S_getf [(38, 14)] 80) := k_getf (en_F E) (ax_fes_cons (fe_454 E) ax_fes_nil) q2767 dX3_value_77
theorem r_X3_value_80 (E : ax_EN G l) : ax_Snd G l ax_Ym M_X3_value 80 (S_if1 (fun x => decide (¬ x = 0)) 88 83) := k_if_ne dX3_value_80 rfl
theorem r_X3_value_83 (E : ax_EN G l) : ax_Snd G l ax_Ym M_X3_value 83 (S_push (.int (7)) 85) := k_bipush dX3_value_83 rfl
theorem r_X3_value_85 (E : ax_EN G l) : ax_Snd G l ax_Ym M_X3_value 85 (S_goto 89) := k_goto dX3_value_85 rfl
theorem r_X3_value_88 (E : ax_EN G l) : ax_Snd G l ax_Ym M_X3_value 88 (S_push (.int (0)) 89) := k_iconst dX3_value_88 rfl
theorem r_X3_value_89 (E : ax_EN G l) : ax_Snd G l ax_Ym M_X3_value 89 (S_putf [(38, 19)] (.int) 92) := k_putf (en_F E) (en_P E) (ax_fes_cons (fe_456 E) ax_fes_nil) (ax_fps_cons (fp_457 E) ax_fps_nil) q2772 dX3_value_89
theorem r_X3_value_92 (E : ax_EN G l) : ax_Snd G l ax_Ym M_X3_value 92 (S_aload 0 93) := k_aload_n dX3_value_92 rfl
theorem r_X3_value_93 (E : ax_EN G l) : ax_Snd G l ax_Ym M_X3_value 93 (S_getf [(38, 14)] 96) := k_getf (en_F E) (ax_fes_cons (fe_454 E) ax_fes_nil) q2767 dX3_value_93
theorem r_X3_value_96 (E : ax_EN G l) : ax_Snd G l ax_Ym M_X3_value 96 (S_if1 (fun x => decide (¬ x = 0)) 103 99) := k_if_ne dX3_value_96 rfl
theorem r_X3_value_99 (E : ax_EN G l) : ax_Snd G l ax_Ym M_X3_value 99 (S_push (.int (0)) 100) := k_iconst dX3_value_99 rfl
theorem r_X3_value_100 (E : ax_EN G l) : ax_Snd G l ax_Ym M_X3_value 100 (S_goto 134) := k_goto dX3_value_100 rfl
theorem r_X3_value_103 (E : ax_EN G l) : ax_Snd G l ax_Ym M_X3_value 103 (S_iload 1 104) := k_iload_n dX3_value_103 rfl
theorem r_X3_value_104 (E : ax_EN G l) : ax_Snd G l ax_Ym M_X3_value 104 (S_push (.int (2)) 105) := k_iconst dX3_value_104 rfl
theorem r_X3_value_105 (E : ax_EN G l) : ax_Snd G l ax_Ym M_X3_value 105 (S_if2 (fun x y => decide (¬ x = y)) 120 108) := k_icmp_ne dX3_value_105 rfl
theorem r_X3_value_108 (E : ax_EN G l) : ax_Snd G l ax_Ym M_X3_value 108 (S_aload 0 109) := k_aload_n dX3_value_108 rfl
theorem r_X3_value_109 (E : ax_EN G l) : ax_Snd G l ax_Ym M_X3_value 109 (S_getf [(38, 12)] 112) := k_getf (en_F E) (ax_fes_cons (fe_376 E) ax_fes_nil) q2765 dX3_value_109
theorem r_X3_value_112 (E : ax_EN G l) : ax_Snd G l ax_Ym M_X3_value 112 (S_aload 0 113) := k_aload_n dX3_value_112 rfl
theorem r_X3_value_113 (E : ax_EN G l) : ax_Snd G l ax_Ym M_X3_value 113 (S_getf [(38, 14)] 116) := k_getf (en_F E) (ax_fes_cons (fe_454 E) ax_fes_nil) q2767 dX3_value_113
theorem r_X3_value_116 (E : ax_EN G l) : ax_Snd G l ax_Ym M_X3_value 116 (S_iald 0 117) := k_iald (en_F E) dX3_value_116
theorem r_X3_value_117 (E : ax_EN G l) : ax_Snd G l ax_Ym M_X3_value 117 (S_goto 129) := k_goto dX3_value_117 rfl
theorem r_X3_value_120 (E : ax_EN G l) : ax_Snd G l ax_Ym M_X3_value 120 (S_aload 0 121) := k_aload_n dX3_value_120 rfl
theorem r_X3_value_121 (E : ax_EN G l) : ax_Snd G l ax_Ym M_X3_value 121 (S_getf [(38, 13)] 124) := k_getf (en_F E) (ax_fes_cons (fe_378 E) ax_fes_nil) q2766 dX3_value_121
theorem r_X3_value_124 (E : ax_EN G l) : ax_Snd G l ax_Ym M_X3_value 124 (S_aload 0 125) := k_aload_n dX3_value_124 rfl
theorem r_X3_value_125 (E : ax_EN G l) : ax_Snd G l ax_Ym M_X3_value 125 (S_getf [(38, 14)] 128) := k_getf (en_F E) (ax_fes_cons (fe_454 E) ax_fes_nil) q2767 dX3_value_125
theorem r_X3_value_128 (E : ax_EN G l) : ax_Snd G l ax_Ym M_X3_value 128 (S_iald 0 129) := k_iald (en_F E) dX3_value_128
theorem r_X3_value_129 (E : ax_EN G l) : ax_Snd G l ax_Ym M_X3_value 129 (S_iload 2 130) := k_iload_n dX3_value_129 rfl
theorem r_X3_value_130 (E : ax_EN G l) : ax_Snd G l ax_Ym M_X3_value 130 (S_i2 (fun x y => x + y) 131) := k_iadd dX3_value_130
theorem r_X3_value_131 (E : ax_EN G l) : ax_Snd G l ax_Ym M_X3_value 131 (S_push (.int (65536)) 133) := k_ldc q3083 dX3_value_131
theorem r_X3_value_133 (E : ax_EN G l) : ax_Snd G l ax_Ym M_X3_value 133 (S_id (fun x y => x - x / y * y) 134) := k_irem dX3_value_133
theorem r_X3_value_134 (E : ax_EN G l) : ax_Snd G l ax_Ym M_X3_value 134 (S_iret) := k_iret dX3_value_134 rfl
theorem mt_X3_value (E : ax_EN G l) : ax_mt G l ax_Ym (4, P_X3_value) (ax_Ym 397) := ⟨M_X3_value, yX3_value, ⟨rfl, by decide +kernel, rfl, (fun h => by cases h), Or.inl ⟨rfl, rfl⟩⟩, fun pc => (ax_sn_node (ax_sn_node (ax_sn_node (ax_sn_node (ax_sn_node (ax_sn_node (ax_sn_node (ax_sn_leaf (r_X3_value_134 E)) (ax_sn_leaf (r_X3_value_133 E))) (ax_sn_leaf (r_X3_value_131 E))) (ax_sn_node (ax_sn_leaf (r_X3_value_130 E)) (ax_sn_leaf (r_X3_value_129 E)))) (ax_sn_node (ax_sn_node (ax_sn_node (ax_sn_leaf (r_X3_value_128 E)) (ax_sn_leaf (r_X3_value_125 E))) (ax_sn_leaf (r_X3_value_124 E))) (ax_sn_node (ax_sn_leaf (r_X3_value_121 E)) (ax_sn_leaf (r_X3_value_120 E))))) (ax_sn_node (ax_sn_node (ax_sn_node (ax_sn_node (ax_sn_leaf (r_X3_value_117 E)) (ax_sn_leaf (r_X3_value_116 E))) (ax_sn_leaf (r_X3_value_113 E))) (ax_sn_node (ax_sn_leaf (r_X3_value_112 E)) (ax_sn_leaf (r_X3_value_109 E)))) (ax_sn_node (ax_sn_node (ax_sn_leaf (r_X3_value_108 E)) (ax_sn_leaf (r_X3_value_105 E))) (ax_sn_node (ax_sn_leaf (r_X3_value_104 E)) (ax_sn_leaf (r_X3_value_103 E)))))) (ax_sn_node (ax_sn_node (ax_sn_node (ax_sn_node (ax_sn_node (ax_sn_leaf (r_X3_value_100 E)) (ax_sn_leaf (r_X3_value_99 E))) (ax_sn_leaf (r_X3_value_96 E))) (ax_sn_node (ax_sn_leaf (r_X3_value_93 E)) (ax_sn_leaf (r_X3_value_92 E)))) (ax_sn_node (ax_sn_node (ax_sn_node (ax_sn_leaf (r_X3_value_89 E)) (ax_sn_leaf (r_X3_value_88 E))) (ax_sn_leaf (r_X3_value_85 E))) (ax_sn_node (ax_sn_leaf (r_X3_value_83 E)) (ax_sn_leaf (r_X3_value_80 E))))) (ax_sn_node (ax_sn_node (ax_sn_node (ax_sn_node (ax_sn_leaf (r_X3_value_77 E)) (ax_sn_leaf (r_X3_value_76 E))) (ax_sn_leaf (r_X3_value_75 E))) (ax_sn_node (ax_sn_leaf (r_X3_value_74 E)) (ax_sn_leaf (r_X3_value_73 E)))) (ax_sn_node (ax_sn_node (ax_sn_leaf (r_X3_value_70 E)) (ax_sn_leaf (r_X3_value_69 E))) (ax_sn_node (ax_sn_leaf (r_X3_value_68 E)) (ax_sn_leaf (r_X3_value_67 E))))))) (ax_sn_node (ax_sn_node (ax_sn_node (ax_sn_node (ax_sn_node (ax_sn_node (ax_sn_leaf (r_X3_value_66 E)) (ax_sn_leaf (r_X3_value_63 E))) (ax_sn_leaf (r_X3_value_62 E))) (ax_sn_node (ax_sn_leaf (r_X3_value_59 E)) (ax_sn_leaf (r_X3_value_57 E)))) (ax_sn_node (ax_sn_node (ax_sn_node (ax_sn_leaf (r_X3_value_54 E)) (ax_sn_leaf (r_X3_value_51 E))) (ax_sn_leaf (r_X3_value_50 E))) (ax_sn_node (ax_sn_leaf (r_X3_value_49 E)) (ax_sn_leaf (r_X3_value_46 E))))) (ax_sn_node (ax_sn_node (ax_sn_node (ax_sn_node (ax_sn_leaf (r_X3_value_45 E)) (ax_sn_leaf (r_X3_value_42 E))) (ax_sn_leaf (r_X3_value_41 E))) (ax_sn_node (ax_sn_leaf (r_X3_value_38 E)) (ax_sn_leaf (r_X3_value_37 E)))) (ax_sn_node (ax_sn_node (ax_sn_leaf (r_X3_value_36 E)) (ax_sn_leaf (r_X3_value_33 E))) (ax_sn_node (ax_sn_leaf (r_X3_value_32 E)) (ax_sn_leaf (r_X3_value_29 E)))))) (ax_sn_node (ax_sn_node (ax_sn_node (ax_sn_node (ax_sn_node (ax_sn_leaf (r_X3_value_27 E)) (ax_sn_leaf (r_X3_value_24 E))) (ax_sn_leaf (r_X3_value_23 E))) (ax_sn_node (ax_sn_leaf (r_X3_value_22 E)) (ax_sn_leaf (r_X3_value_21 E)))) (ax_sn_node (ax_sn_node (ax_sn_leaf (r_X3_value_20 E)) (ax_sn_leaf (r_X3_value_19 E))) (ax_sn_node (ax_sn_leaf (r_X3_value_16 E)) (ax_sn_leaf (r_X3_value_15 E))))) (ax_sn_node (ax_sn_node (ax_sn_node (ax_sn_node (ax_sn_leaf (r_X3_value_14 E)) (ax_sn_leaf (r_X3_value_11 E))) (ax_sn_leaf (r_X3_value_10 E))) (ax_sn_node (ax_sn_leaf (r_X3_value_7 E)) (ax_sn_leaf (r_X3_value_6 E)))) (ax_sn_node (ax_sn_node (ax_sn_leaf (r_X3_value_5 E)) (ax_sn_leaf (r_X3_value_2 E))) (ax_sn_node (ax_sn_leaf (r_X3_value_1 E)) (ax_sn_leaf (r_X3_value_0 E))))))))⟩
theorem r_X3_placeOf_0 (E : ax_EN G l) : ax_Snd G l ax_Ym M_X3_placeOf 0 (S_iload 1 1) := k_iload_n dX3_placeOf_0 rfl
theorem r_X3_placeOf_1 (E : ax_EN G l) : ax_Snd G l ax_Ym M_X3_placeOf 1 (S_push (.int (16)) 3) := k_bipush dX3_placeOf_1 rfl
theorem r_X3_placeOf_3 (E : ax_EN G l) : ax_Snd G l ax_Ym M_X3_placeOf 3 (S_if2 (fun x y => decide (x < y)) 13 6) := k_icmp_lt dX3_placeOf_3 rfl
theorem r_X3_placeOf_6 (E : ax_EN G l) : ax_Snd G l ax_Ym M_X3_placeOf 6 (S_aload 0 7) := k_aload_n dX3_placeOf_6 rfl
theorem r_X3_placeOf_7 (E : ax_EN G l) : ax_Snd G l ax_Ym M_X3_placeOf 7 (S_getf [(38, 14)] 10) := k_getf (en_F E) (ax_fes_cons (fe_454 E) ax_fes_nil) q2767 dX3_placeOf_7
theorem r_X3_placeOf_10 (E : ax_EN G l) : ax_Snd G l ax_Ym M_X3_placeOf 10 (S_if1 (fun x => decide (¬ x = 0)) 17 13) := k_if_ne dX3_placeOf_10 rfl
theorem r_X3_placeOf_13 (E : ax_EN G l) : ax_Snd G l ax_Ym M_X3_placeOf 13 (S_iload 1 14) := k_iload_n dX3_placeOf_13 rfl
theorem r_X3_placeOf_14 (E : ax_EN G l) : ax_Snd G l ax_Ym M_X3_placeOf 14 (S_goto 36) := k_goto dX3_placeOf_14 rfl
theorem r_X3_placeOf_17 (E : ax_EN G l) : ax_Snd G l ax_Ym M_X3_placeOf 17 (S_push (.int (20)) 19) := k_bipush dX3_placeOf_17 rfl
theorem r_X3_placeOf_19 (E : ax_EN G l) : ax_Snd G l ax_Ym M_X3_placeOf 19 (S_push (.int (4)) 20) := k_iconst dX3_placeOf_19 rfl
theorem r_X3_placeOf_20 (E : ax_EN G l) : ax_Snd G l ax_Ym M_X3_placeOf 20 (S_aload 0 21) := k_aload_n dX3_placeOf_20 rfl
theorem r_X3_placeOf_21 (E : ax_EN G l) : ax_Snd G l ax_Ym M_X3_placeOf 21 (S_getf [(38, 10)] 24) := k_getf (en_F E) (ax_fes_cons (fe_372 E) ax_fes_nil) q2763 dX3_placeOf_21
theorem r_X3_placeOf_24 (E : ax_EN G l) : ax_Snd G l ax_Ym M_X3_placeOf 24 (S_aload 0 25) := k_aload_n dX3_placeOf_24 rfl
theorem r_X3_placeOf_25 (E : ax_EN G l) : ax_Snd G l ax_Ym M_X3_placeOf 25 (S_getf [(38, 14)] 28) := k_getf (en_F E) (ax_fes_cons (fe_454 E) ax_fes_nil) q2767 dX3_placeOf_25
theorem r_X3_placeOf_28 (E : ax_EN G l) : ax_Snd G l ax_Ym M_X3_placeOf 28 (S_iald 0 29) := k_iald (en_F E) dX3_placeOf_28
theorem r_X3_placeOf_29 (E : ax_EN G l) : ax_Snd G l ax_Ym M_X3_placeOf 29 (S_i2 (fun x y => x * y) 30) := k_imul dX3_placeOf_29
theorem r_X3_placeOf_30 (E : ax_EN G l) : ax_Snd G l ax_Ym M_X3_placeOf 30 (S_i2 (fun x y => x + y) 31) := k_iadd dX3_placeOf_30
theorem r_X3_placeOf_31 (E : ax_EN G l) : ax_Snd G l ax_Ym M_X3_placeOf 31 (S_iload 1 32) := k_iload_n dX3_placeOf_31 rfl
theorem r_X3_placeOf_32 (E : ax_EN G l) : ax_Snd G l ax_Ym M_X3_placeOf 32 (S_i2 (fun x y => x + y) 33) := k_iadd dX3_placeOf_32
theorem r_X3_placeOf_33 (E : ax_EN G l) : ax_Snd G l ax_Ym M_X3_placeOf 33 (S_push (.int (16)) 35) := k_bipush dX3_placeOf_33 rfl
theorem r_X3_placeOf_35 (E : ax_EN G l) : ax_Snd G l ax_Ym M_X3_placeOf 35 (S_i2 (fun x y => x - y) 36) := k_isub dX3_placeOf_35
theorem r_X3_placeOf_36 (E : ax_EN G l) : ax_Snd G l ax_Ym M_X3_placeOf 36 (S_iret) := k_iret dX3_placeOf_36 rfl
theorem mt_X3_placeOf (E : ax_EN G l) : ax_mt G l ax_Ym (2, P_X3_placeOf) (ax_Ym 398) := ⟨M_X3_placeOf, yX3_placeOf, ⟨rfl, by decide +kernel, rfl, (fun h => by cases h), Or.inl ⟨rfl, rfl⟩⟩, fun pc => (ax_sn_node (ax_sn_node (ax_sn_node (ax_sn_node (ax_sn_node (ax_sn_leaf (r_X3_placeOf_36 E)) (ax_sn_leaf (r_X3_placeOf_35 E))) (ax_sn_leaf (r_X3_placeOf_33 E))) (ax_sn_node (ax_sn_node (ax_sn_leaf (r_X3_placeOf_32 E)) (ax_sn_leaf (r_X3_placeOf_31 E))) (ax_sn_leaf (r_X3_placeOf_30 E)))) (ax_sn_node (ax_sn_node (ax_sn_node (ax_sn_leaf (r_X3_placeOf_29 E)) (ax_sn_leaf (r_X3_placeOf_28 E))) (ax_sn_leaf (r_X3_placeOf_25 E))) (ax_sn_node (ax_sn_leaf (r_X3_placeOf_24 E)) (ax_sn_leaf (r_X3_placeOf_21 E))))) (ax_sn_node (ax_sn_node (ax_sn_node (ax_sn_node (ax_sn_leaf (r_X3_placeOf_20 E)) (ax_sn_leaf (r_X3_placeOf_19 E))) (ax_sn_leaf (r_X3_placeOf_17 E))) (ax_sn_node (ax_sn_node (ax_sn_leaf (r_X3_placeOf_14 E)) (ax_sn_leaf (r_X3_placeOf_13 E))) (ax_sn_leaf (r_X3_placeOf_10 E)))) (ax_sn_node (ax_sn_node (ax_sn_node (ax_sn_leaf (r_X3_placeOf_7 E)) (ax_sn_leaf (r_X3_placeOf_6 E))) (ax_sn_leaf (r_X3_placeOf_3 E))) (ax_sn_node (ax_sn_leaf (r_X3_placeOf_1 E)) (ax_sn_leaf (r_X3_placeOf_0 E))))))⟩
theorem r_X3_builds_0 (E : ax_EN G l) : ax_Snd G l ax_Ym M_X3_builds 0 (S_push (.int (5)) 1) := k_iconst dX3_builds_0 rfl
theorem r_X3_builds_1 (E : ax_EN G l) : ax_Snd G l ax_Ym M_X3_builds 1 (S_iload 1 2) := k_iload_n dX3_builds_1 rfl
theorem r_X3_builds_2 (E : ax_EN G l) : ax_Snd G l ax_Ym M_X3_builds 2 (S_i2 (fun x y => x * y) 3) := k_imul dX3_builds_2
theorem r_X3_builds_3 (E : ax_EN G l) : ax_Snd G l ax_Ym M_X3_builds 3 (S_istore 2 4) := k_istore_n dX3_builds_3 rfl (Nat.le_of_ble_eq_true rfl)
theorem r_X3_builds_4 (E : ax_EN G l) : ax_Snd G l ax_Ym M_X3_builds 4 (S_aload 0 5) := k_aload_n dX3_builds_4 rfl
theorem r_X3_builds_5 (E : ax_EN G l) : ax_Snd G l ax_Ym M_X3_builds 5 (S_getf [(38, 2)] 8) := k_getf (en_F E) (ax_fes_cons (fe_356 E) ax_fes_nil) q2755 dX3_builds_5
theorem r_X3_builds_8 (E : ax_EN G l) : ax_Snd G l ax_Ym M_X3_builds 8 (S_iload 1 9) := k_iload_n dX3_builds_8 rfl
theorem r_X3_builds_9 (E : ax_EN G l) : ax_Snd G l ax_Ym M_X3_builds 9 (S_iald 0 10) := k_iald (en_F E) dX3_builds_9
theorem r_X3_builds_10 (E : ax_EN G l) : ax_Snd G l ax_Ym M_X3_builds 10 (S_istore 3 11) := k_istore_n dX3_builds_10 rfl (Nat.le_of_ble_eq_true rfl)
theorem r_X3_builds_11 (E : ax_EN G l) : ax_Snd G l ax_Ym M_X3_builds 11 (S_iload 3 12) := k_iload_n dX3_builds_11 rfl
theorem r_X3_builds_12 (E : ax_EN G l) : ax_Snd G l ax_Ym M_X3_builds 12 (S_push (.int (4)) 13) := k_iconst dX3_builds_12 rfl
theorem r_X3_builds_13 (E : ax_EN G l) : ax_Snd G l ax_Ym M_X3_builds 13 (S_if2 (fun x y => decide (¬ x = y)) 36 16) := k_icmp_ne dX3_builds_13 rfl
theorem r_X3_builds_16 (E : ax_EN G l) : ax_Snd G l ax_Ym M_X3_builds 16 (S_aload 0 17) := k_aload_n dX3_builds_16 rfl
theorem r_X3_builds_17 (E : ax_EN G l) : ax_Snd G l ax_Ym M_X3_builds 17 (S_getf [(38, 5)] 20) := k_getf (en_F E) (ax_fes_cons (fe_362 E) ax_fes_nil) q2758 dX3_builds_17
theorem r_X3_builds_20 (E : ax_EN G l) : ax_Snd G l ax_Ym M_X3_builds 20 (S_aload 0 21) := k_aload_n dX3_builds_20 rfl
theorem r_X3_builds_21 (E : ax_EN G l) : ax_Snd G l ax_Ym M_X3_builds 21 (S_getf [(38, 15)] 24) := k_getf (en_F E) (ax_fes_cons (fe_448 E) ax_fes_nil) q2768 dX3_builds_21
theorem r_X3_builds_24 (E : ax_EN G l) : ax_Snd G l ax_Ym M_X3_builds 24 (S_dup2 25) := k_dup2 dX3_builds_24
theorem r_X3_builds_25 (E : ax_EN G l) : ax_Snd G l ax_Ym M_X3_builds 25 (S_iald 0 26) := k_iald (en_F E) dX3_builds_25
theorem r_X3_builds_26 (E : ax_EN G l) : ax_Snd G l ax_Ym M_X3_builds 26 (S_aload 0 27) := k_aload_n dX3_builds_26 rfl
theorem r_X3_builds_27 (E : ax_EN G l) : ax_Snd G l ax_Ym M_X3_builds 27 (S_getf [(38, 3)] 30) := k_getf (en_F E) (ax_fes_cons (fe_358 E) ax_fes_nil) q2756 dX3_builds_27
theorem r_X3_builds_30 (E : ax_EN G l) : ax_Snd G l ax_Ym M_X3_builds 30 (S_iload 2 31) := k_iload_n dX3_builds_30 rfl
theorem r_X3_builds_31 (E : ax_EN G l) : ax_Snd G l ax_Ym M_X3_builds 31 (S_iald 0 32) := k_iald (en_F E) dX3_builds_31
theorem r_X3_builds_32 (E : ax_EN G l) : ax_Snd G l ax_Ym M_X3_builds 32 (S_i2 (fun x y => x + y) 33) := k_iadd dX3_builds_32
theorem r_X3_builds_33 (E : ax_EN G l) : ax_Snd G l ax_Ym M_X3_builds 33 (S_iast 0 (fun x => x) 34) := k_iast (en_F E) dX3_builds_33
theorem r_X3_builds_34 (E : ax_EN G l) : ax_Snd G l ax_Ym M_X3_builds 34 (S_push (.int (0)) 35) := k_iconst dX3_builds_34 rfl
theorem r_X3_builds_35 (E : ax_EN G l) : ax_Snd G l ax_Ym M_X3_builds 35 (S_iret) := k_iret dX3_builds_35 rfl
theorem r_X3_builds_36 (E : ax_EN G l) : ax_Snd G l ax_Ym M_X3_builds 36 (S_iload 3 37) := k_iload_n dX3_builds_36 rfl
theorem r_X3_builds_37 (E : ax_EN G l) : ax_Snd G l ax_Ym M_X3_builds 37 (S_push (.int (2)) 38) := k_iconst dX3_builds_37 rfl
theorem r_X3_builds_38 (E : ax_EN G l) : ax_Snd G l ax_Ym M_X3_builds 38 (S_if2 (fun x y => decide (x = y)) 53 41) := k_icmp_eq dX3_builds_38 rfl
theorem r_X3_builds_41 (E : ax_EN G l) : ax_Snd G l ax_Ym M_X3_builds 41 (S_iload 3 42) := k_iload_n dX3_builds_41 rfl
theorem r_X3_builds_42 (E : ax_EN G l) : ax_Snd G l ax_Ym M_X3_builds 42 (S_push (.int (3)) 43) := k_iconst dX3_builds_42 rfl
theorem r_X3_builds_43 (E : ax_EN G l) : ax_Snd G l ax_Ym M_X3_builds 43 (S_if2 (fun x y => decide (x = y)) 53 46) := k_icmp_eq dX3_builds_43 rfl
theorem r_X3_builds_46 (E : ax_EN G l) : ax_Snd G l ax_Ym M_X3_builds 46 (S_iload 3 47) := k_iload_n dX3_builds_46 rfl
theorem r_X3_builds_47 (E : ax_EN G l) : ax_Snd G l ax_Ym M_X3_builds 47 (S_push (.int (5)) 48) := k_iconst dX3_builds_47 rfl
theorem r_X3_builds_48 (E : ax_EN G l) : ax_Snd G l ax_Ym M_X3_builds 48 (S_if2 (fun x y => decide (x = y)) 53 51) := k_icmp_eq dX3_builds_48 rfl
theorem r_X3_builds_51 (E : ax_EN G l) : ax_Snd G l ax_Ym M_X3_builds 51 (S_push (.int (0)) 52) := k_iconst dX3_builds_51 rfl
theorem r_X3_builds_52 (E : ax_EN G l) : ax_Snd G l ax_Ym M_X3_builds 52 (S_iret) := k_iret dX3_builds_52 rfl
theorem r_X3_builds_53 (E : ax_EN G l) : ax_Snd G l ax_Ym M_X3_builds 53 (S_aload 0 54) := k_aload_n dX3_builds_53 rfl
theorem r_X3_builds_54 (E : ax_EN G l) : ax_Snd G l ax_Ym M_X3_builds 54 (S_aload 0 55) := k_aload_n dX3_builds_54 rfl
theorem r_X3_builds_55 (E : ax_EN G l) : ax_Snd G l ax_Ym M_X3_builds 55 (S_getf [(38, 3)] 58) := k_getf (en_F E) (ax_fes_cons (fe_358 E) ax_fes_nil) q2756 dX3_builds_55
theorem r_X3_builds_58 (E : ax_EN G l) : ax_Snd G l ax_Ym M_X3_builds 58 (S_iload 2 59) := k_iload_n dX3_builds_58 rfl
theorem r_X3_builds_59 (E : ax_EN G l) : ax_Snd G l ax_Ym M_X3_builds 59 (S_iald 0 60) := k_iald (en_F E) dX3_builds_59
theorem r_X3_builds_60 (E : ax_EN G l) : ax_Snd G l ax_Ym M_X3_builds 60 (S_aload 0 61) := k_aload_n dX3_builds_60 rfl
theorem r_X3_builds_61 (E : ax_EN G l) : ax_Snd G l ax_Ym M_X3_builds 61 (S_getf [(38, 3)] 64) := k_getf (en_F E) (ax_fes_cons (fe_358 E) ax_fes_nil) q2756 dX3_builds_61
theorem r_X3_builds_64 (E : ax_EN G l) : ax_Snd G l ax_Ym M_X3_builds 64 (S_iload 2 65) := k_iload_n dX3_builds_64 rfl
theorem r_X3_builds_65 (E : ax_EN G l) : ax_Snd G l ax_Ym M_X3_builds 65 (S_push (.int (1)) 66) := k_iconst dX3_builds_65 rfl
theorem r_X3_builds_66 (E : ax_EN G l) : ax_Snd G l ax_Ym M_X3_builds 66 (S_i2 (fun x y => x + y) 67) := k_iadd dX3_builds_66
theorem r_X3_builds_67 (E : ax_EN G l) : ax_Snd G l ax_Ym M_X3_builds 67 (S_iald 0 68) := k_iald (en_F E) dX3_builds_67
theorem r_X3_builds_68 (E : ax_EN G l) : ax_Snd G l ax_Ym M_X3_builds 68 (S_iv [(38, 397)] 2 71 hd_0) := k_iv (en_F E) (ax_ok0 E rfl) (ax_Evs_cons ((ev_v (en_c E (k := 38) rfl) rfl y_X3_value q3075 q3077 qs70 q126 q3078 nm_X3_value (Nat.le_of_ble_eq_true rfl) dX3_builds_68) : ax_EvV G l ax_Ym M_X3_builds 68 2 3 38 397) ax_Evs_nil)
theorem r_X3_builds_71 (E : ax_EN G l) : ax_Snd G l ax_Ym M_X3_builds 71 (S_istore 4 73) := k_istore dX3_builds_71 (Nat.le_of_ble_eq_true rfl)
theorem r_X3_builds_73 (E : ax_EN G l) : ax_Snd G l ax_Ym M_X3_builds 73 (S_aload 0 74) := k_aload_n dX3_builds_73 rfl
theorem r_X3_builds_74 (E : ax_EN G l) : ax_Snd G l ax_Ym M_X3_builds 74 (S_getf [(38, 19)] 77) := k_getf (en_F E) (ax_fes_cons (fe_456 E) ax_fes_nil) q2772 dX3_builds_74
theorem r_X3_builds_77 (E : ax_EN G l) : ax_Snd G l ax_Ym M_X3_builds 77 (S_if1 (fun x => decide (x = 0)) 90 80) := k_if_eq dX3_builds_77 rfl
theorem r_X3_builds_80 (E : ax_EN G l) : ax_Snd G l ax_Ym M_X3_builds 80 (S_push (.int (100)) 82) := k_bipush dX3_builds_80 rfl
theorem r_X3_builds_82 (E : ax_EN G l) : ax_Snd G l ax_Ym M_X3_builds 82 (S_aload 0 83) := k_aload_n dX3_builds_82 rfl
theorem r_X3_builds_83 (E : ax_EN G l) : ax_Snd G l ax_Ym M_X3_builds 83 (S_getf [(38, 19)] 86) := k_getf (en_F E) (ax_fes_cons (fe_456 E) ax_fes_nil) q2772 dX3_builds_83
theorem r_X3_builds_86 (E : ax_EN G l) : ax_Snd G l ax_Ym M_X3_builds 86 (S_i2 (fun x y => x * y) 87) := k_imul dX3_builds_86
theorem r_X3_builds_87 (E : ax_EN G l) : ax_Snd G l ax_Ym M_X3_builds 87 (S_iload 1 88) := k_iload_n dX3_builds_87 rfl
theorem r_X3_builds_88 (E : ax_EN G l) : ax_Snd G l ax_Ym M_X3_builds 88 (S_i2 (fun x y => x + y) 89) := k_iadd dX3_builds_88
theorem r_X3_builds_89 (E : ax_EN G l) : ax_Snd G l ax_Ym M_X3_builds 89 (S_iret) := k_iret dX3_builds_89 rfl
theorem r_X3_builds_90 (E : ax_EN G l) : ax_Snd G l ax_Ym M_X3_builds 90 (S_iload 3 91) := k_iload_n dX3_builds_90 rfl
theorem r_X3_builds_91 (E : ax_EN G l) : ax_Snd G l ax_Ym M_X3_builds 91 (S_push (.int (5)) 92) := k_iconst dX3_builds_91 rfl
theorem r_X3_builds_92 (E : ax_EN G l) : ax_Snd G l ax_Ym M_X3_builds 92 (S_if2 (fun x y => decide (¬ x = y)) 112 95) := k_icmp_ne dX3_builds_92 rfl
theorem r_X3_builds_95 (E : ax_EN G l) : ax_Snd G l ax_Ym M_X3_builds 95 (S_aload 0 96) := k_aload_n dX3_builds_95 rfl
theorem r_X3_builds_96 (E : ax_EN G l) : ax_Snd G l ax_Ym M_X3_builds 96 (S_getf [(38, 20)] 99) := k_getf (en_F E) (ax_fes_cons (fe_380 E) ax_fes_nil) q2773 dX3_builds_96
theorem r_X3_builds_99 (E : ax_EN G l) : ax_Snd G l ax_Ym M_X3_builds 99 (S_aload 0 100) := k_aload_n dX3_builds_99 rfl
theorem r_X3_builds_100 (E : ax_EN G l) : ax_Snd G l ax_Ym M_X3_builds 100 (S_getf [(38, 3)] 103) := k_getf (en_F E) (ax_fes_cons (fe_358 E) ax_fes_nil) q2756 dX3_builds_100
theorem r_X3_builds_103 (E : ax_EN G l) : ax_Snd G l ax_Ym M_X3_builds 103 (S_iload 2 104) := k_iload_n dX3_builds_103 rfl
theorem r_X3_builds_104 (E : ax_EN G l) : ax_Snd G l ax_Ym M_X3_builds 104 (S_push (.int (2)) 105) := k_iconst dX3_builds_104 rfl
theorem r_X3_builds_105 (E : ax_EN G l) : ax_Snd G l ax_Ym M_X3_builds 105 (S_i2 (fun x y => x + y) 106) := k_iadd dX3_builds_105
theorem r_X3_builds_106 (E : ax_EN G l) : ax_Snd G l ax_Ym M_X3_builds 106 (S_iald 0 107) := k_iald (en_F E) dX3_builds_106
theorem r_X3_builds_107 (E : ax_EN G l) : ax_Snd G l ax_Ym M_X3_builds 107 (S_iload 4 109) := k_iload dX3_builds_107
theorem r_X3_builds_109 (E : ax_EN G l) : ax_Snd G l ax_Ym M_X3_builds 109 (S_iast 0 (fun x => x) 110) := k_iast (en_F E) dX3_builds_109
theorem r_X3_builds_110 (E : ax_EN G l) : ax_Snd G l ax_Ym M_X3_builds 110 (S_push (.int (0)) 111) := k_iconst dX3_builds_110 rfl
theorem r_X3_builds_111 (E : ax_EN G l) : ax_Snd G l ax_Ym M_X3_builds 111 (S_iret) := k_iret dX3_builds_111 rfl
theorem r_X3_builds_112 (E : ax_EN G l) : ax_Snd G l ax_Ym M_X3_builds 112 (S_iload 3 113) := k_iload_n dX3_builds_112 rfl
theorem r_X3_builds_113 (E : ax_EN G l) : ax_Snd G l ax_Ym M_X3_builds 113 (S_push (.int (2)) 114) := k_iconst dX3_builds_113 rfl
theorem r_X3_builds_114 (E : ax_EN G l) : ax_Snd G l ax_Ym M_X3_builds 114 (S_if2 (fun x y => decide (¬ x = y)) 129 117) := k_icmp_ne dX3_builds_114 rfl
theorem r_X3_builds_117 (E : ax_EN G l) : ax_Snd G l ax_Ym M_X3_builds 117 (S_aload 0 118) := k_aload_n dX3_builds_117 rfl
theorem r_X3_builds_118 (E : ax_EN G l) : ax_Snd G l ax_Ym M_X3_builds 118 (S_aload 0 119) := k_aload_n dX3_builds_118 rfl
theorem r_X3_builds_119 (E : ax_EN G l) : ax_Snd G l ax_Ym M_X3_builds 119 (S_getf [(38, 3)] 122) := k_getf (en_F E) (ax_fes_cons (fe_358 E) ax_fes_nil) q2756 dX3_builds_119
theorem r_X3_builds_122 (E : ax_EN G l) : ax_Snd G l ax_Ym M_X3_builds 122 (S_iload 2 123) := k_iload_n dX3_builds_122 rfl
theorem r_X3_builds_123 (E : ax_EN G l) : ax_Snd G l ax_Ym M_X3_builds 123 (S_push (.int (2)) 124) := k_iconst dX3_builds_123 rfl
theorem r_X3_builds_124 (E : ax_EN G l) : ax_Snd G l ax_Ym M_X3_builds 124 (S_i2 (fun x y => x + y) 125) := k_iadd dX3_builds_124
theorem r_X3_builds_125 (E : ax_EN G l) : ax_Snd G l ax_Ym M_X3_builds 125 (S_iald 0 126) := k_iald (en_F E) dX3_builds_125
theorem r_X3_builds_126 (E : ax_EN G l) : ax_Snd G l ax_Ym M_X3_builds 126 (S_iv [(38, 400)] 1 129 hd_0) := k_iv (en_F E) (ax_ok0 E rfl) (ax_Evs_cons ((ev_v (en_c E (k := 38) rfl) rfl y_X3_puts q3088 q3090 qs73 q126 q3091 nm_X3_puts (Nat.le_of_ble_eq_true rfl) dX3_builds_126) : ax_EvV G l ax_Ym M_X3_builds 126 1 3 38 400) ax_Evs_nil)
theorem r_X3_builds_129 (E : ax_EN G l) : ax_Snd G l ax_Ym M_X3_builds 129 (S_aload 0 130) := k_aload_n dX3_builds_129 rfl
theorem r_X3_builds_130 (E : ax_EN G l) : ax_Snd G l ax_Ym M_X3_builds 130 (S_iload 4 132) := k_iload dX3_builds_130
theorem r_X3_builds_132 (E : ax_EN G l) : ax_Snd G l ax_Ym M_X3_builds 132 (S_iv [(38, 400)] 1 135 hd_0) := k_iv (en_F E) (ax_ok0 E rfl) (ax_Evs_cons ((ev_v (en_c E (k := 38) rfl) rfl y_X3_puts q3088 q3090 qs73 q126 q3091 nm_X3_puts (Nat.le_of_ble_eq_true rfl) dX3_builds_132) : ax_EvV G l ax_Ym M_X3_builds 132 1 3 38 400) ax_Evs_nil)
theorem r_X3_builds_135 (E : ax_EN G l) : ax_Snd G l ax_Ym M_X3_builds 135 (S_push (.int (0)) 136) := k_iconst dX3_builds_135 rfl
theorem r_X3_builds_136 (E : ax_EN G l) : ax_Snd G l ax_Ym M_X3_builds 136 (S_iret) := k_iret dX3_builds_136 rfl
theorem mt_X3_builds (E : ax_EN G l) : ax_mt G l ax_Ym (5, P_X3_builds) (ax_Ym 399) := ⟨M_X3_builds, yX3_builds, ⟨rfl, by decide +kernel, rfl, (fun h => by cases h), Or.inl ⟨rfl, rfl⟩⟩, fun pc => (ax_sn_node (ax_sn_node (ax_sn_node (ax_sn_node (ax_sn_node (ax_sn_node (ax_sn_node (ax_sn_leaf (r_X3_builds_136 E)) (ax_sn_leaf (r_X3_builds_135 E))) (ax_sn_leaf (r_X3_builds_132 E))) (ax_sn_node (ax_sn_node (ax_sn_leaf (r_X3_builds_130 E)) (ax_sn_leaf (r_X3_builds_129 E))) (ax_sn_leaf (r_X3_builds_126 E)))) (ax_sn_node (ax_sn_node (ax_sn_node (ax_sn_leaf (r_X3_builds_125 E)) (ax_sn_leaf (r_X3_builds_124 E))) (ax_sn_leaf (r_X3_builds_123 E))) (ax_sn_node (ax_sn_node (ax_sn_leaf (r_X3_builds_122 E)) (ax_sn_leaf (r_X3_builds_119 E))) (ax_sn_leaf (r_X3_builds_118 E))))) (ax_sn_node (ax_sn_node (ax_sn_node (ax_sn_node (ax_sn_leaf (r_X3_builds_117 E)) (ax_sn_leaf (r_X3_builds_114 E))) (ax_sn_leaf (r_X3_builds_113 E))) (ax_sn_node (ax_sn_node (ax_sn_leaf (r_X3_builds_112 E)) (ax_sn_leaf (r_X3_builds_111 E))) (ax_sn_leaf (r_X3_builds_110 E)))) (ax_sn_node (ax_sn_node (ax_sn_node (ax_sn_leaf (r_X3_builds_109 E)) (ax_sn_leaf (r_X3_builds_107 E))) (ax_sn_leaf (r_X3_builds_106 E))) (ax_sn_node (ax_sn_leaf (r_X3_builds_105 E)) (ax_sn_leaf (r_X3_builds_104 E)))))) (ax_sn_node (ax_sn_node (ax_sn_node (ax_sn_node (ax_sn_node (ax_sn_leaf (r_X3_builds_103 E)) (ax_sn_leaf (r_X3_builds_100 E))) (ax_sn_leaf (r_X3_builds_99 E))) (ax_sn_node (ax_sn_node (ax_sn_leaf (r_X3_builds_96 E)) (ax_sn_leaf (r_X3_builds_95 E))) (ax_sn_leaf (r_X3_builds_92 E)))) (ax_sn_node (ax_sn_node (ax_sn_node (ax_sn_leaf (r_X3_builds_91 E)) (ax_sn_leaf (r_X3_builds_90 E))) (ax_sn_leaf (r_X3_builds_89 E))) (ax_sn_node (ax_sn_node (ax_sn_leaf (r_X3_builds_88 E)) (ax_sn_leaf (r_X3_builds_87 E))) (ax_sn_leaf (r_X3_builds_86 E))))) (ax_sn_node (ax_sn_node (ax_sn_node (ax_sn_node (ax_sn_leaf (r_X3_builds_83 E)) (ax_sn_leaf (r_X3_builds_82 E))) (ax_sn_leaf (r_X3_builds_80 E))) (ax_sn_node (ax_sn_node (ax_sn_leaf (r_X3_builds_77 E)) (ax_sn_leaf (r_X3_builds_74 E))) (ax_sn_leaf (r_X3_builds_73 E)))) (ax_sn_node (ax_sn_node (ax_sn_node (ax_sn_leaf (r_X3_builds_71 E)) (ax_sn_leaf (r_X3_builds_68 E))) (ax_sn_leaf (r_X3_builds_67 E))) (ax_sn_node (ax_sn_leaf (r_X3_builds_66 E)) (ax_sn_leaf (r_X3_builds_65 E))))))) (ax_sn_node (ax_sn_node (ax_sn_node (ax_sn_node (ax_sn_node (ax_sn_node (ax_sn_leaf (r_X3_builds_64 E)) (ax_sn_leaf (r_X3_builds_61 E))) (ax_sn_leaf (r_X3_builds_60 E))) (ax_sn_node (ax_sn_node (ax_sn_leaf (r_X3_builds_59 E)) (ax_sn_leaf (r_X3_builds_58 E))) (ax_sn_leaf (r_X3_builds_55 E)))) (ax_sn_node (ax_sn_node (ax_sn_node (ax_sn_leaf (r_X3_builds_54 E)) (ax_sn_leaf (r_X3_builds_53 E))) (ax_sn_leaf (r_X3_builds_52 E))) (ax_sn_node (ax_sn_node (ax_sn_leaf (r_X3_builds_51 E)) (ax_sn_leaf (r_X3_builds_48 E))) (ax_sn_leaf (r_X3_builds_47 E))))) (ax_sn_node (ax_sn_node (ax_sn_node (ax_sn_node (ax_sn_leaf (r_X3_builds_46 E)) (ax_sn_leaf (r_X3_builds_43 E))) (ax_sn_leaf (r_X3_builds_42 E))) (ax_sn_node (ax_sn_node (ax_sn_leaf (r_X3_builds_41 E)) (ax_sn_leaf (r_X3_builds_38 E))) (ax_sn_leaf (r_X3_builds_37 E)))) (ax_sn_node (ax_sn_node (ax_sn_node (ax_sn_leaf (r_X3_builds_36 E)) (ax_sn_leaf (r_X3_builds_35 E))) (ax_sn_leaf (r_X3_builds_34 E))) (ax_sn_node (ax_sn_leaf (r_X3_builds_33 E)) (ax_sn_leaf (r_X3_builds_32 E)))))) (ax_sn_node (ax_sn_node (ax_sn_node (ax_sn_node (ax_sn_node (ax_sn_leaf (r_X3_builds_31 E)) (ax_sn_leaf (r_X3_builds_30 E))) (ax_sn_leaf (r_X3_builds_27 E))) (ax_sn_node (ax_sn_node (ax_sn_leaf (r_X3_builds_26 E)) (ax_sn_leaf (r_X3_builds_25 E))) (ax_sn_leaf (r_X3_builds_24 E)))) (ax_sn_node (ax_sn_node (ax_sn_node (ax_sn_leaf (r_X3_builds_21 E)) (ax_sn_leaf (r_X3_builds_20 E))) (ax_sn_leaf (r_X3_builds_17 E))) (ax_sn_node (ax_sn_leaf (r_X3_builds_16 E)) (ax_sn_leaf (r_X3_builds_13 E))))) (ax_sn_node (ax_sn_node (ax_sn_node (ax_sn_node (ax_sn_leaf (r_X3_builds_12 E)) (ax_sn_leaf (r_X3_builds_11 E))) (ax_sn_leaf (r_X3_builds_10 E))) (ax_sn_node (ax_sn_node (ax_sn_leaf (r_X3_builds_9 E)) (ax_sn_leaf (r_X3_builds_8 E))) (ax_sn_leaf (r_X3_builds_5 E)))) (ax_sn_node (ax_sn_node (ax_sn_node (ax_sn_leaf (r_X3_builds_4 E)) (ax_sn_leaf (r_X3_builds_3 E))) (ax_sn_leaf (r_X3_builds_2 E))) (ax_sn_node (ax_sn_leaf (r_X3_builds_1 E)) (ax_sn_leaf (r_X3_builds_0 E))))))))⟩
theorem r_X3_puts_0 (E : ax_EN G l) : ax_Snd G l ax_Ym M_X3_puts 0 (S_aload 0 1) := k_aload_n dX3_puts_0 rfl
theorem r_X3_puts_1 (E : ax_EN G l) : ax_Snd G l ax_Ym M_X3_puts 1 (S_getf [(38, 20)] 4) := k_getf (en_F E) (ax_fes_cons (fe_380 E) ax_fes_nil) q2773 dX3_puts_1
theorem r_X3_puts_4 (E : ax_EN G l) : ax_Snd G l ax_Ym M_X3_puts 4 (S_aload 0 5) := k_aload_n dX3_puts_4 rfl
theorem r_X3_puts_5 (E : ax_EN G l) : ax_Snd G l ax_Ym M_X3_puts 5 (S_getf [(38, 15)] 8) := k_getf (en_F E) (ax_fes_cons (fe_448 E) ax_fes_nil) q2768 dX3_puts_5
theorem r_X3_puts_8 (E : ax_EN G l) : ax_Snd G l ax_Ym M_X3_puts 8 (S_if1 (fun x => decide (¬ x = 0)) 16 11) := k_if_ne dX3_puts_8 rfl
theorem r_X3_puts_11 (E : ax_EN G l) : ax_Snd G l ax_Ym M_X3_puts 11 (S_push (.int (8)) 13) := k_bipush dX3_puts_11 rfl
theorem r_X3_puts_13 (E : ax_EN G l) : ax_Snd G l ax_Ym M_X3_puts 13 (S_goto 20) := k_goto dX3_puts_13 rfl
theorem r_X3_puts_16 (E : ax_EN G l) : ax_Snd G l ax_Ym M_X3_puts 16 (S_aload 0 17) := k_aload_n dX3_puts_16 rfl
theorem r_X3_puts_17 (E : ax_EN G l) : ax_Snd G l ax_Ym M_X3_puts 17 (S_getf [(38, 18)] 20) := k_getf (en_F E) (ax_fes_cons (fe_446 E) ax_fes_nil) q2771 dX3_puts_17
theorem r_X3_puts_20 (E : ax_EN G l) : ax_Snd G l ax_Ym M_X3_puts 20 (S_aload 0 21) := k_aload_n dX3_puts_20 rfl
theorem r_X3_puts_21 (E : ax_EN G l) : ax_Snd G l ax_Ym M_X3_puts 21 (S_getf [(38, 5)] 24) := k_getf (en_F E) (ax_fes_cons (fe_362 E) ax_fes_nil) q2758 dX3_puts_21
theorem r_X3_puts_24 (E : ax_EN G l) : ax_Snd G l ax_Ym M_X3_puts 24 (S_aload 0 25) := k_aload_n dX3_puts_24 rfl
theorem r_X3_puts_25 (E : ax_EN G l) : ax_Snd G l ax_Ym M_X3_puts 25 (S_getf [(38, 15)] 28) := k_getf (en_F E) (ax_fes_cons (fe_448 E) ax_fes_nil) q2768 dX3_puts_25
theorem r_X3_puts_28 (E : ax_EN G l) : ax_Snd G l ax_Ym M_X3_puts 28 (S_iald 0 29) := k_iald (en_F E) dX3_puts_28
theorem r_X3_puts_29 (E : ax_EN G l) : ax_Snd G l ax_Ym M_X3_puts 29 (S_i2 (fun x y => x + y) 30) := k_iadd dX3_puts_29
theorem r_X3_puts_30 (E : ax_EN G l) : ax_Snd G l ax_Ym M_X3_puts 30 (S_iload 1 31) := k_iload_n dX3_puts_30 rfl
theorem r_X3_puts_31 (E : ax_EN G l) : ax_Snd G l ax_Ym M_X3_puts 31 (S_iast 0 (fun x => x) 32) := k_iast (en_F E) dX3_puts_31
theorem r_X3_puts_32 (E : ax_EN G l) : ax_Snd G l ax_Ym M_X3_puts 32 (S_aload 0 33) := k_aload_n dX3_puts_32 rfl
theorem r_X3_puts_33 (E : ax_EN G l) : ax_Snd G l ax_Ym M_X3_puts 33 (S_getf [(38, 5)] 36) := k_getf (en_F E) (ax_fes_cons (fe_362 E) ax_fes_nil) q2758 dX3_puts_33
theorem r_X3_puts_36 (E : ax_EN G l) : ax_Snd G l ax_Ym M_X3_puts 36 (S_aload 0 37) := k_aload_n dX3_puts_36 rfl
theorem r_X3_puts_37 (E : ax_EN G l) : ax_Snd G l ax_Ym M_X3_puts 37 (S_getf [(38, 15)] 40) := k_getf (en_F E) (ax_fes_cons (fe_448 E) ax_fes_nil) q2768 dX3_puts_37
theorem r_X3_puts_40 (E : ax_EN G l) : ax_Snd G l ax_Ym M_X3_puts 40 (S_dup2 41) := k_dup2 dX3_puts_40
theorem r_X3_puts_41 (E : ax_EN G l) : ax_Snd G l ax_Ym M_X3_puts 41 (S_iald 0 42) := k_iald (en_F E) dX3_puts_41
theorem r_X3_puts_42 (E : ax_EN G l) : ax_Snd G l ax_Ym M_X3_puts 42 (S_push (.int (1)) 43) := k_iconst dX3_puts_42 rfl
theorem r_X3_puts_43 (E : ax_EN G l) : ax_Snd G l ax_Ym M_X3_puts 43 (S_i2 (fun x y => x + y) 44) := k_iadd dX3_puts_43
theorem r_X3_puts_44 (E : ax_EN G l) : ax_Snd G l ax_Ym M_X3_puts 44 (S_iast 0 (fun x => x) 45) := k_iast (en_F E) dX3_puts_44
theorem r_X3_puts_45 (E : ax_EN G l) : ax_Snd G l ax_Ym M_X3_puts 45 (S_ret) := k_ret dX3_puts_45 rfl
theorem mt_X3_puts (E : ax_EN G l) : ax_mt G l ax_Ym (2, P_X3_puts) (ax_Ym 400) := ⟨M_X3_puts, yX3_puts, ⟨rfl, by decide +kernel, rfl, (fun h => by cases h), Or.inl ⟨rfl, rfl⟩⟩, fun pc => (ax_sn_node (ax_sn_node (ax_sn_node (ax_sn_node (ax_sn_node (ax_sn_leaf (r_X3_puts_45 E)) (ax_sn_leaf (r_X3_puts_44 E))) (ax_sn_node (ax_sn_leaf (r_X3_puts_43 E)) (ax_sn_leaf (r_X3_puts_42 E)))) (ax_sn_node (ax_sn_node (ax_sn_leaf (r_X3_puts_41 E)) (ax_sn_leaf (r_X3_puts_40 E))) (ax_sn_leaf (r_X3_puts_37 E)))) (ax_sn_node (ax_sn_node (ax_sn_node (ax_sn_leaf (r_X3_puts_36 E)) (ax_sn_leaf (r_X3_puts_33 E))) (ax_sn_node (ax_sn_leaf (r_X3_puts_32 E)) (ax_sn_leaf (r_X3_puts_31 E)))) (ax_sn_node (ax_sn_node (ax_sn_leaf (r_X3_puts_30 E)) (ax_sn_leaf (r_X3_puts_29 E))) (ax_sn_leaf (r_X3_puts_28 E))))) (ax_sn_node (ax_sn_node (ax_sn_node (ax_sn_node (ax_sn_leaf (r_X3_puts_25 E)) (ax_sn_leaf (r_X3_puts_24 E))) (ax_sn_node (ax_sn_leaf (r_X3_puts_21 E)) (ax_sn_leaf (r_X3_puts_20 E)))) (ax_sn_node (ax_sn_node (ax_sn_leaf (r_X3_puts_17 E)) (ax_sn_leaf (r_X3_puts_16 E))) (ax_sn_leaf (r_X3_puts_13 E)))) (ax_sn_node (ax_sn_node (ax_sn_node (ax_sn_leaf (r_X3_puts_11 E)) (ax_sn_leaf (r_X3_puts_8 E))) (ax_sn_leaf (r_X3_puts_5 E))) (ax_sn_node (ax_sn_node (ax_sn_leaf (r_X3_puts_4 E)) (ax_sn_leaf (r_X3_puts_1 E))) (ax_sn_leaf (r_X3_puts_0 E))))))⟩
theorem r_X3_setsLabel_0 (E : ax_EN G l) : ax_Snd G l ax_Ym M_X3_setsLabel 0 (S_aload 0 1) := k_aload_n dX3_setsLabel_0 rfl
theorem r_X3_setsLabel_1 (E : ax_EN G l) : ax_Snd G l ax_Ym M_X3_setsLabel 1 (S_aload 0 2) := k_aload_n dX3_setsLabel_1 rfl
theorem r_X3_setsLabel_2 (E : ax_EN G l) : ax_Snd G l ax_Ym M_X3_setsLabel 2 (S_getf [(38, 3)] 5) := k_getf (en_F E) (ax_fes_cons (fe_358 E) ax_fes_nil) q2756 dX3_setsLabel_2
theorem r_X3_setsLabel_5 (E : ax_EN G l) : ax_Snd G l ax_Ym M_X3_setsLabel 5 (S_push (.int (5)) 6) := k_iconst dX3_setsLabel_5 rfl
theorem r_X3_setsLabel_6 (E : ax_EN G l) : ax_Snd G l ax_Ym M_X3_setsLabel 6 (S_iload 1 7) := k_iload_n dX3_setsLabel_6 rfl
theorem r_X3_setsLabel_7 (E : ax_EN G l) : ax_Snd G l ax_Ym M_X3_setsLabel 7 (S_i2 (fun x y => x * y) 8) := k_imul dX3_setsLabel_7
theorem r_X3_setsLabel_8 (E : ax_EN G l) : ax_Snd G l ax_Ym M_X3_setsLabel 8 (S_iald 0 9) := k_iald (en_F E) dX3_setsLabel_8
theorem r_X3_setsLabel_9 (E : ax_EN G l) : ax_Snd G l ax_Ym M_X3_setsLabel 9 (S_iv [(38, 398)] 1 12 hd_0) := k_iv (en_F E) (ax_ok0 E rfl) (ax_Evs_cons ((ev_v (en_c E (k := 38) rfl) rfl y_X3_placeOf q3079 q3081 qs71 q126 q3082 nm_X3_placeOf (Nat.le_of_ble_eq_true rfl) dX3_setsLabel_9) : ax_EvV G l ax_Ym M_X3_setsLabel 9 1 3 38 398) ax_Evs_nil)
theorem r_X3_setsLabel_12 (E : ax_EN G l) : ax_Snd G l ax_Ym M_X3_setsLabel 12 (S_istore 2 13) := k_istore_n dX3_setsLabel_12 rfl (Nat.le_of_ble_eq_true rfl)
theorem r_X3_setsLabel_13 (E : ax_EN G l) : ax_Snd G l ax_Ym M_X3_setsLabel 13 (S_aload 0 14) := k_aload_n dX3_setsLabel_13 rfl
theorem r_X3_setsLabel_14 (E : ax_EN G l) : ax_Snd G l ax_Ym M_X3_setsLabel 14 (S_getf [(38, 4)] 17) := k_getf (en_F E) (ax_fes_cons (fe_360 E) ax_fes_nil) q2757 dX3_setsLabel_14
theorem r_X3_setsLabel_17 (E : ax_EN G l) : ax_Snd G l ax_Ym M_X3_setsLabel 17 (S_iload 2 18) := k_iload_n dX3_setsLabel_17 rfl
theorem r_X3_setsLabel_18 (E : ax_EN G l) : ax_Snd G l ax_Ym M_X3_setsLabel 18 (S_iald 0 19) := k_iald (en_F E) dX3_setsLabel_18
theorem r_X3_setsLabel_19 (E : ax_EN G l) : ax_Snd G l ax_Ym M_X3_setsLabel 19 (S_push (.int (-1)) 20) := k_iconst dX3_setsLabel_19 rfl
theorem r_X3_setsLabel_20 (E : ax_EN G l) : ax_Snd G l ax_Ym M_X3_setsLabel 20 (S_if2 (fun x y => decide (x = y)) 29 23) := k_icmp_eq dX3_setsLabel_20 rfl
theorem r_X3_setsLabel_23 (E : ax_EN G l) : ax_Snd G l ax_Ym M_X3_setsLabel 23 (S_push (.int (200)) 26) := k_sipush dX3_setsLabel_23 rfl
theorem r_X3_setsLabel_26 (E : ax_EN G l) : ax_Snd G l ax_Ym M_X3_setsLabel 26 (S_iload 1 27) := k_iload_n dX3_setsLabel_26 rfl
theorem r_X3_setsLabel_27 (E : ax_EN G l) : ax_Snd G l ax_Ym M_X3_setsLabel 27 (S_i2 (fun x y => x + y) 28) := k_iadd dX3_setsLabel_27
theorem r_X3_setsLabel_28 (E : ax_EN G l) : ax_Snd G l ax_Ym M_X3_setsLabel 28 (S_iret) := k_iret dX3_setsLabel_28 rfl
theorem r_X3_setsLabel_29 (E : ax_EN G l) : ax_Snd G l ax_Ym M_X3_setsLabel 29 (S_aload 0 30) := k_aload_n dX3_setsLabel_29 rfl
theorem r_X3_setsLabel_30 (E : ax_EN G l) : ax_Snd G l ax_Ym M_X3_setsLabel 30 (S_getf [(38, 4)] 33) := k_getf (en_F E) (ax_fes_cons (fe_360 E) ax_fes_nil) q2757 dX3_setsLabel_30
theorem r_X3_setsLabel_33 (E : ax_EN G l) : ax_Snd G l ax_Ym M_X3_setsLabel 33 (S_iload 2 34) := k_iload_n dX3_setsLabel_33 rfl
theorem r_X3_setsLabel_34 (E : ax_EN G l) : ax_Snd G l ax_Ym M_X3_setsLabel 34 (S_push (.int (1000)) 37) := k_sipush dX3_setsLabel_34 rfl
theorem r_X3_setsLabel_37 (E : ax_EN G l) : ax_Snd G l ax_Ym M_X3_setsLabel 37 (S_aload 0 38) := k_aload_n dX3_setsLabel_37 rfl
theorem r_X3_setsLabel_38 (E : ax_EN G l) : ax_Snd G l ax_Ym M_X3_setsLabel 38 (S_getf [(38, 15)] 41) := k_getf (en_F E) (ax_fes_cons (fe_448 E) ax_fes_nil) q2768 dX3_setsLabel_38
theorem r_X3_setsLabel_41 (E : ax_EN G l) : ax_Snd G l ax_Ym M_X3_setsLabel 41 (S_i2 (fun x y => x * y) 42) := k_imul dX3_setsLabel_41
theorem r_X3_setsLabel_42 (E : ax_EN G l) : ax_Snd G l ax_Ym M_X3_setsLabel 42 (S_aload 0 43) := k_aload_n dX3_setsLabel_42 rfl
theorem r_X3_setsLabel_43 (E : ax_EN G l) : ax_Snd G l ax_Ym M_X3_setsLabel 43 (S_getf [(38, 5)] 46) := k_getf (en_F E) (ax_fes_cons (fe_362 E) ax_fes_nil) q2758 dX3_setsLabel_43
theorem r_X3_setsLabel_46 (E : ax_EN G l) : ax_Snd G l ax_Ym M_X3_setsLabel 46 (S_aload 0 47) := k_aload_n dX3_setsLabel_46 rfl
theorem r_X3_setsLabel_47 (E : ax_EN G l) : ax_Snd G l ax_Ym M_X3_setsLabel 47 (S_getf [(38, 15)] 50) := k_getf (en_F E) (ax_fes_cons (fe_448 E) ax_fes_nil) q2768 dX3_setsLabel_47
theorem r_X3_setsLabel_50 (E : ax_EN G l) : ax_Snd G l ax_Ym M_X3_setsLabel 50 (S_iald 0 51) := k_iald (en_F E) dX3_setsLabel_50
theorem r_X3_setsLabel_51 (E : ax_EN G l) : ax_Snd G l ax_Ym M_X3_setsLabel 51 (S_i2 (fun x y => x + y) 52) := k_iadd dX3_setsLabel_51
theorem r_X3_setsLabel_52 (E : ax_EN G l) : ax_Snd G l ax_Ym M_X3_setsLabel 52 (S_iast 0 (fun x => x) 53) := k_iast (en_F E) dX3_setsLabel_52
theorem r_X3_setsLabel_53 (E : ax_EN G l) : ax_Snd G l ax_Ym M_X3_setsLabel 53 (S_push (.int (0)) 54) := k_iconst dX3_setsLabel_53 rfl
theorem r_X3_setsLabel_54 (E : ax_EN G l) : ax_Snd G l ax_Ym M_X3_setsLabel 54 (S_iret) := k_iret dX3_setsLabel_54 rfl
theorem mt_X3_setsLabel (E : ax_EN G l) : ax_mt G l ax_Ym (3, P_X3_setsLabel) (ax_Ym 401) := ⟨M_X3_setsLabel, yX3_setsLabel, ⟨rfl, by decide +kernel, rfl, (fun h => by cases h), Or.inl ⟨rfl, rfl⟩⟩, fun pc => (ax_sn_node (ax_sn_node (ax_sn_node (ax_sn_node (ax_sn_node (ax_sn_node (ax_sn_leaf (r_X3_setsLabel_54 E)) (ax_sn_leaf (r_X3_setsLabel_53 E))) (ax_sn_leaf (r_X3_setsLabel_52 E))) (ax_sn_node (ax_sn_leaf (r_X3_setsLabel_51 E)) (ax_sn_leaf (r_X3_setsLabel_50 E)))) (ax_sn_node (ax_sn_node (ax_sn_leaf (r_X3_setsLabel_47 E)) (ax_sn_leaf (r_X3_setsLabel_46 E))) (ax_sn_node (ax_sn_leaf (r_X3_setsLabel_43 E)) (ax_sn_leaf (r_X3_setsLabel_42 E))))) (ax_sn_node (ax_sn_node (ax_sn_node (ax_sn_node (ax_sn_leaf (r_X3_setsLabel_41 E)) (ax_sn_leaf (r_X3_setsLabel_38 E))) (ax_sn_leaf (r_X3_setsLabel_37 E))) (ax_sn_node (ax_sn_leaf (r_X3_setsLabel_34 E)) (ax_sn_leaf (r_X3_setsLabel_33 E)))) (ax_sn_node (ax_sn_node (ax_sn_leaf (r_X3_setsLabel_30 E)) (ax_sn_leaf (r_X3_setsLabel_29 E))) (ax_sn_node (ax_sn_leaf (r_X3_setsLabel_28 E)) (ax_sn_leaf (r_X3_setsLabel_27 E)))))) (ax_sn_node (ax_sn_node (ax_sn_node (ax_sn_node (ax_sn_node (ax_sn_leaf (r_X3_setsLabel_26 E)) (ax_sn_leaf (r_X3_setsLabel_23 E))) (ax_sn_leaf (r_X3_setsLabel_20 E))) (ax_sn_node (ax_sn_leaf (r_X3_setsLabel_19 E)) (ax_sn_leaf (r_X3_setsLabel_18 E)))) (ax_sn_node (ax_sn_node (ax_sn_leaf (r_X3_setsLabel_17 E)) (ax_sn_leaf (r_X3_setsLabel_14 E))) (ax_sn_node (ax_sn_leaf (r_X3_setsLabel_13 E)) (ax_sn_leaf (r_X3_setsLabel_12 E))))) (ax_sn_node (ax_sn_node (ax_sn_node (ax_sn_leaf (r_X3_setsLabel_9 E)) (ax_sn_leaf (r_X3_setsLabel_8 E))) (ax_sn_node (ax_sn_leaf (r_X3_setsLabel_7 E)) (ax_sn_leaf (r_X3_setsLabel_6 E)))) (ax_sn_node (ax_sn_node (ax_sn_leaf (r_X3_setsLabel_5 E)) (ax_sn_leaf (r_X3_setsLabel_2 E))) (ax_sn_node (ax_sn_leaf (r_X3_setsLabel_1 E)) (ax_sn_leaf (r_X3_setsLabel_0 E)))))))⟩
theorem r_X3_assemble_0 (E : ax_EN G l) : ax_Snd G l ax_Ym M_X3_assemble 0 (S_aload 0 1) := k_aload_n dX3_assemble_0 rfl
theorem r_X3_assemble_1 (E : ax_EN G l) : ax_Snd G l ax_Ym M_X3_assemble 1 (S_aload 0 2) := k_aload_n dX3_assemble_1 rfl
theorem r_X3_assemble_2 (E : ax_EN G l) : ax_Snd G l ax_Ym M_X3_assemble 2 (S_iv [(38, 389)] 0 5 hd_0) := k_iv (en_F E) (ax_ok0 E rfl) (ax_Evs_cons ((ev_v (en_c E (k := 38) rfl) rfl y_X3_errorOfSource q3043 q3045 qs62 q126 q3046 nm_X3_errorOfSource (Nat.le_of_ble_eq_true rfl) dX3_assemble_2) : ax_EvV G l ax_Ym M_X3_assemble 2 0 3 38 389) ax_Evs_nil)
theorem r_X3_assemble_5 (E : ax_EN G l) : ax_Snd G l ax_Ym M_X3_assemble 5 (S_if1 (fun x => decide (¬ x = 0)) 12 8) := k_if_ne dX3_assemble_5 rfl
theorem r_X3_assemble_8 (E : ax_EN G l) : ax_Snd G l ax_Ym M_X3_assemble 8 (S_push (.int (0)) 9) := k_iconst dX3_assemble_8 rfl
theorem r_X3_assemble_9 (E : ax_EN G l) : ax_Snd G l ax_Ym M_X3_assemble 9 (S_goto 13) := k_goto dX3_assemble_9 rfl
theorem r_X3_assemble_12 (E : ax_EN G l) : ax_Snd G l ax_Ym M_X3_assemble 12 (S_push (.int (1)) 13) := k_iconst dX3_assemble_12 rfl
theorem r_X3_assemble_13 (E : ax_EN G l) : ax_Snd G l ax_Ym M_X3_assemble 13 (S_iv [(38, 378)] 1 16 hd_0) := k_iv (en_F E) (ax_ok0 E rfl) (ax_Evs_cons ((ev_v (en_c E (k := 38) rfl) rfl y_X3_holds q2999 q3001 qs61 q126 q3002 nm_X3_holds (Nat.le_of_ble_eq_true rfl) dX3_assemble_13) : ax_EvV G l ax_Ym M_X3_assemble 13 1 3 38 378) ax_Evs_nil)
theorem r_X3_assemble_16 (E : ax_EN G l) : ax_Snd G l ax_Ym M_X3_assemble 16 (S_if1 (fun x => decide (¬ x = 0)) 21 19) := k_if_ne dX3_assemble_16 rfl
theorem r_X3_assemble_19 (E : ax_EN G l) : ax_Snd G l ax_Ym M_X3_assemble 19 (S_push (.int (0)) 20) := k_iconst dX3_assemble_19 rfl
theorem r_X3_assemble_20 (E : ax_EN G l) : ax_Snd G l ax_Ym M_X3_assemble 20 (S_iret) := k_iret dX3_assemble_20 rfl
theorem r_X3_assemble_21 (E : ax_EN G l) : ax_Snd G l ax_Ym M_X3_assemble 21 (S_push (.int (0)) 22) := k_iconst dX3_assemble_21 rfl
theorem r_X3_assemble_22 (E : ax_EN G l) : ax_Snd G l ax_Ym M_X3_assemble 22 (S_istore 1 23) := k_istore_n dX3_assemble_22 rfl (Nat.le_of_ble_eq_true rfl)
theorem r_X3_assemble_23 (E : ax_EN G l) : ax_Snd G l ax_Ym M_X3_assemble 23 (S_iload 1 24) := k_iload_n dX3_assemble_23 rfl
theorem r_X3_assemble_24 (E : ax_EN G l) : ax_Snd G l ax_Ym M_X3_assemble 24 (S_push (.int (256)) 27) := k_sipush dX3_assemble_24 rfl
theorem r_X3_assemble_27 (E : ax_EN G l) : ax_Snd G l ax_Ym M_X3_assemble 27 (S_if2 (fun x y => decide (y ≤ x)) 48 30) := k_icmp_ge dX3_assemble_27 rfl
theorem r_X3_assemble_30 (E : ax_EN G l) : ax_Snd G l ax_Ym M_X3_assemble 30 (S_aload 0 31) := k_aload_n dX3_assemble_30 rfl
theorem r_X3_assemble_31 (E : ax_EN G l) : ax_Snd G l ax_Ym M_X3_assemble 31 (S_getf [(38, 21)] 34) := k_getf (en_F E) (ax_fes_cons (fe_382 E) ax_fes_nil) q2774 dX3_assemble_31
theorem r_X3_assemble_34 (E : ax_EN G l) : ax_Snd G l ax_Ym M_X3_assemble 34 (S_iload 1 35) := k_iload_n dX3_assemble_34 rfl
theorem r_X3_assemble_35 (E : ax_EN G l) : ax_Snd G l ax_Ym M_X3_assemble 35 (S_aload 0 36) := k_aload_n dX3_assemble_35 rfl
theorem r_X3_assemble_36 (E : ax_EN G l) : ax_Snd G l ax_Ym M_X3_assemble 36 (S_getf [(38, 20)] 39) := k_getf (en_F E) (ax_fes_cons (fe_380 E) ax_fes_nil) q2773 dX3_assemble_36
theorem r_X3_assemble_39 (E : ax_EN G l) : ax_Snd G l ax_Ym M_X3_assemble 39 (S_iload 1 40) := k_iload_n dX3_assemble_39 rfl
theorem r_X3_assemble_40 (E : ax_EN G l) : ax_Snd G l ax_Ym M_X3_assemble 40 (S_iald 0 41) := k_iald (en_F E) dX3_assemble_40
theorem r_X3_assemble_41 (E : ax_EN G l) : ax_Snd G l ax_Ym M_X3_assemble 41 (S_iast 0 (fun x => x) 42) := k_iast (en_F E) dX3_assemble_41
theorem r_X3_assemble_42 (E : ax_EN G l) : ax_Snd G l ax_Ym M_X3_assemble 42 (S_iinc 1 (1) 45) := k_iinc dX3_assemble_42 rfl (Nat.le_of_ble_eq_true rfl)
theorem r_X3_assemble_45 (E : ax_EN G l) : ax_Snd G l ax_Ym M_X3_assemble 45 (S_goto 23) := k_goto dX3_assemble_45 rfl
theorem r_X3_assemble_48 (E : ax_EN G l) : ax_Snd G l ax_Ym M_X3_assemble 48 (S_aload 0 49) := k_aload_n dX3_assemble_48 rfl
theorem r_X3_assemble_49 (E : ax_EN G l) : ax_Snd G l ax_Ym M_X3_assemble 49 (S_push (.int (1)) 50) := k_iconst dX3_assemble_49 rfl
theorem r_X3_assemble_50 (E : ax_EN G l) : ax_Snd G l ax_Ym M_X3_assemble 50 (S_putf [(38, 22)] (.boolean) 53) := k_putf (en_F E) (en_P E) (ax_fes_cons (fe_458 E) ax_fes_nil) (ax_fps_cons (fp_459 E) ax_fps_nil) q2775 dX3_assemble_50
theorem r_X3_assemble_53 (E : ax_EN G l) : ax_Snd G l ax_Ym M_X3_assemble 53 (S_aload 0 54) := k_aload_n dX3_assemble_53 rfl
theorem r_X3_assemble_54 (E : ax_EN G l) : ax_Snd G l ax_Ym M_X3_assemble 54 (S_getf [(38, 5)] 57) := k_getf (en_F E) (ax_fes_cons (fe_362 E) ax_fes_nil) q2758 dX3_assemble_54
theorem r_X3_assemble_57 (E : ax_EN G l) : ax_Snd G l ax_Ym M_X3_assemble 57 (S_push (.int (0)) 58) := k_iconst dX3_assemble_57 rfl
theorem r_X3_assemble_58 (E : ax_EN G l) : ax_Snd G l ax_Ym M_X3_assemble 58 (S_iald 0 59) := k_iald (en_F E) dX3_assemble_58
theorem r_X3_assemble_59 (E : ax_EN G l) : ax_Snd G l ax_Ym M_X3_assemble 59 (S_aload 0 60) := k_aload_n dX3_assemble_59 rfl
theorem r_X3_assemble_60 (E : ax_EN G l) : ax_Snd G l ax_Ym M_X3_assemble 60 (S_getf [(38, 5)] 63) := k_getf (en_F E) (ax_fes_cons (fe_362 E) ax_fes_nil) q2758 dX3_assemble_60
theorem r_X3_assemble_63 (E : ax_EN G l) : ax_Snd G l ax_Ym M_X3_assemble 63 (S_push (.int (1)) 64) := k_iconst dX3_assemble_63 rfl
theorem r_X3_assemble_64 (E : ax_EN G l) : ax_Snd G l ax_Ym M_X3_assemble 64 (S_iald 0 65) := k_iald (en_F E) dX3_assemble_64
theorem r_X3_assemble_65 (E : ax_EN G l) : ax_Snd G l ax_Ym M_X3_assemble 65 (S_i2 (fun x y => x + y) 66) := k_iadd dX3_assemble_65
theorem r_X3_assemble_66 (E : ax_EN G l) : ax_Snd G l ax_Ym M_X3_assemble 66 (S_iret) := k_iret dX3_assemble_66 rfl
theorem mt_X3_assemble (E : ax_EN G l) : ax_mt G l ax_Ym (2, P_X3_assemble) (ax_Ym 402) := ⟨M_X3_assemble, yX3_assemble, ⟨rfl, by decide +kernel, rfl, (fun h => by cases h), Or.inl ⟨rfl, rfl⟩⟩, fun pc => (ax_sn_node (ax_sn_node (ax_sn_node (ax_sn_node (ax_sn_node (ax_sn_node (ax_sn_leaf (r_X3_assemble_66 E)) (ax_sn_leaf (r_X3_assemble_65 E))) (ax_sn_leaf (r_X3_assemble_64 E))) (ax_sn_node (ax_sn_leaf (r_X3_assemble_63 E)) (ax_sn_leaf (r_X3_assemble_60 E)))) (ax_sn_node (ax_sn_node (ax_sn_node (ax_sn_leaf (r_X3_assemble_59 E)) (ax_sn_leaf (r_X3_assemble_58 E))) (ax_sn_leaf (r_X3_assemble_57 E))) (ax_sn_node (ax_sn_leaf (r_X3_assemble_54 E)) (ax_sn_leaf (r_X3_assemble_53 E))))) (ax_sn_node (ax_sn_node (ax_sn_node (ax_sn_node (ax_sn_leaf (r_X3_assemble_50 E)) (ax_sn_leaf (r_X3_assemble_49 E))) (ax_sn_leaf (r_X3_assemble_48 E))) (ax_sn_node (ax_sn_leaf (r_X3_assemble_45 E)) (ax_sn_leaf (r_X3_assemble_42 E)))) (ax_sn_node (ax_sn_node (ax_sn_node (ax_sn_leaf (r_X3_assemble_41 E)) (ax_sn_leaf (r_X3_assemble_40 E))) (ax_sn_leaf (r_X3_assemble_39 E))) (ax_sn_node (ax_sn_leaf (r_X3_assemble_36 E)) (ax_sn_leaf (r_X3_assemble_35 E)))))) (ax_sn_node (ax_sn_node (ax_sn_node (ax_sn_node (ax_sn_node (ax_sn_leaf (r_X3_assemble_34 E)) (ax_sn_leaf (r_X3_assemble_31 E))) (ax_sn_leaf (r_X3_assemble_30 E))) (ax_sn_node (ax_sn_leaf (r_X3_assemble_27 E)) (ax_sn_leaf (r_X3_assemble_24 E)))) (ax_sn_node (ax_sn_node (ax_sn_node (ax_sn_leaf (r_X3_assemble_23 E)) (ax_sn_leaf (r_X3_assemble_22 E))) (ax_sn_leaf (r_X3_assemble_21 E))) (ax_sn_node (ax_sn_leaf (r_X3_assemble_20 E)) (ax_sn_leaf (r_X3_assemble_19 E))))) (ax_sn_node (ax_sn_node (ax_sn_node (ax_sn_node (ax_sn_leaf (r_X3_assemble_16 E)) (ax_sn_leaf (r_X3_assemble_13 E))) (ax_sn_leaf (r_X3_assemble_12 E))) (ax_sn_node (ax_sn_leaf (r_X3_assemble_9 E)) (ax_sn_leaf (r_X3_assemble_8 E)))) (ax_sn_node (ax_sn_node (ax_sn_leaf (r_X3_assemble_5 E)) (ax_sn_leaf (r_X3_assemble_2 E))) (ax_sn_node (ax_sn_leaf (r_X3_assemble_1 E)) (ax_sn_leaf (r_X3_assemble_0 E)))))))⟩
theorem r_X3_image_0 (E : ax_EN G l) : ax_Snd G l ax_Ym M_X3_image 0 (S_aload 0 1) := k_aload_n dX3_image_0 rfl
theorem r_X3_image_1 (E : ax_EN G l) : ax_Snd G l ax_Ym M_X3_image 1 (S_iload 1 2) := k_iload_n dX3_image_1 rfl
theorem r_X3_image_2 (E : ax_EN G l) : ax_Snd G l ax_Ym M_X3_image 2 (S_push (.int (0)) 3) := k_iconst dX3_image_2 rfl
theorem r_X3_image_3 (E : ax_EN G l) : ax_Snd G l ax_Ym M_X3_image 3 (S_push (.int (255)) 6) := k_sipush dX3_image_3 rfl
theorem r_X3_image_6 (E : ax_EN G l) : ax_Snd G l ax_Ym M_X3_image 6 (S_is 376 3 9 hd_0) := k_is (en_F E) (ax_ok0 E rfl) ((ev_s y_X3_in q2992 q2993 q126 q2994 nm_X3_in (Nat.le_of_ble_eq_true rfl) dX3_image_6) : ax_EvS G l ax_Ym M_X3_image 6 376 3 3)
theorem r_X3_image_9 (E : ax_EN G l) : ax_Snd G l ax_Ym M_X3_image 9 (S_if1 (fun x => decide (¬ x = 0)) 16 12) := k_if_ne dX3_image_9 rfl
theorem r_X3_image_12 (E : ax_EN G l) : ax_Snd G l ax_Ym M_X3_image 12 (S_push (.int (1)) 13) := k_iconst dX3_image_12 rfl
theorem r_X3_image_13 (E : ax_EN G l) : ax_Snd G l ax_Ym M_X3_image 13 (S_goto 28) := k_goto dX3_image_13 rfl
theorem r_X3_image_16 (E : ax_EN G l) : ax_Snd G l ax_Ym M_X3_image 16 (S_aload 0 17) := k_aload_n dX3_image_16 rfl
theorem r_X3_image_17 (E : ax_EN G l) : ax_Snd G l ax_Ym M_X3_image 17 (S_getf [(38, 22)] 20) := k_getf (en_F E) (ax_fes_cons (fe_458 E) ax_fes_nil) q2775 dX3_image_17
theorem r_X3_image_20 (E : ax_EN G l) : ax_Snd G l ax_Ym M_X3_image 20 (S_if1 (fun x => decide (x = 0)) 27 23) := k_if_eq dX3_image_20 rfl
theorem r_X3_image_23 (E : ax_EN G l) : ax_Snd G l ax_Ym M_X3_image 23 (S_push (.int (0)) 24) := k_iconst dX3_image_23 rfl
theorem r_X3_image_24 (E : ax_EN G l) : ax_Snd G l ax_Ym M_X3_image 24 (S_goto 28) := k_goto dX3_image_24 rfl
theorem r_X3_image_27 (E : ax_EN G l) : ax_Snd G l ax_Ym M_X3_image 27 (S_push (.int (2)) 28) := k_iconst dX3_image_27 rfl
theorem r_X3_image_28 (E : ax_EN G l) : ax_Snd G l ax_Ym M_X3_image 28 (S_iv [(38, 378)] 1 31 hd_0) := k_iv (en_F E) (ax_ok0 E rfl) (ax_Evs_cons ((ev_v (en_c E (k := 38) rfl) rfl y_X3_holds q2999 q3001 qs61 q126 q3002 nm_X3_holds (Nat.le_of_ble_eq_true rfl) dX3_image_28) : ax_EvV G l ax_Ym M_X3_image 28 1 3 38 378) ax_Evs_nil)
theorem r_X3_image_31 (E : ax_EN G l) : ax_Snd G l ax_Ym M_X3_image 31 (S_if1 (fun x => decide (x = 0)) 43 34) := k_if_eq dX3_image_31 rfl
theorem r_X3_image_34 (E : ax_EN G l) : ax_Snd G l ax_Ym M_X3_image 34 (S_aload 0 35) := k_aload_n dX3_image_34 rfl
theorem r_X3_image_35 (E : ax_EN G l) : ax_Snd G l ax_Ym M_X3_image 35 (S_getf [(38, 21)] 38) := k_getf (en_F E) (ax_fes_cons (fe_382 E) ax_fes_nil) q2774 dX3_image_35
theorem r_X3_image_38 (E : ax_EN G l) : ax_Snd G l ax_Ym M_X3_image 38 (S_iload 1 39) := k_iload_n dX3_image_38 rfl
theorem r_X3_image_39 (E : ax_EN G l) : ax_Snd G l ax_Ym M_X3_image 39 (S_iald 0 40) := k_iald (en_F E) dX3_image_39
theorem r_X3_image_40 (E : ax_EN G l) : ax_Snd G l ax_Ym M_X3_image 40 (S_goto 44) := k_goto dX3_image_40 rfl
theorem r_X3_image_43 (E : ax_EN G l) : ax_Snd G l ax_Ym M_X3_image 43 (S_push (.int (0)) 44) := k_iconst dX3_image_43 rfl
theorem r_X3_image_44 (E : ax_EN G l) : ax_Snd G l ax_Ym M_X3_image 44 (S_iret) := k_iret dX3_image_44 rfl
theorem mt_X3_image (E : ax_EN G l) : ax_mt G l ax_Ym (2, P_X3_image) (ax_Ym 403) := ⟨M_X3_image, yX3_image, ⟨rfl, by decide +kernel, rfl, (fun h => by cases h), Or.inl ⟨rfl, rfl⟩⟩, fun pc => (ax_sn_node (ax_sn_node (ax_sn_node (ax_sn_node (ax_sn_node (ax_sn_leaf (r_X3_image_44 E)) (ax_sn_leaf (r_X3_image_43 E))) (ax_sn_leaf (r_X3_image_40 E))) (ax_sn_node (ax_sn_node (ax_sn_leaf (r_X3_image_39 E)) (ax_sn_leaf (r_X3_image_38 E))) (ax_sn_leaf (r_X3_image_35 E)))) (ax_sn_node (ax_sn_node (ax_sn_node (ax_sn_leaf (r_X3_image_34 E)) (ax_sn_leaf (r_X3_image_31 E))) (ax_sn_leaf (r_X3_image_28 E))) (ax_sn_node (ax_sn_node (ax_sn_leaf (r_X3_image_27 E)) (ax_sn_leaf (r_X3_image_24 E))) (ax_sn_leaf (r_X3_image_23 E))))) (ax_sn_node (ax_sn_node (ax_sn_node (ax_sn_node (ax_sn_leaf (r_X3_image_20 E)) (ax_sn_leaf (r_X3_image_17 E))) (ax_sn_leaf (r_X3_image_16 E))) (ax_sn_node (ax_sn_node (ax_sn_leaf (r_X3_image_13 E)) (ax_sn_leaf (r_X3_image_12 E))) (ax_sn_leaf (r_X3_image_9 E)))) (ax_sn_node (ax_sn_node (ax_sn_node (ax_sn_leaf (r_X3_image_6 E)) (ax_sn_leaf (r_X3_image_3 E))) (ax_sn_leaf (r_X3_image_2 E))) (ax_sn_node (ax_sn_leaf (r_X3_image_1 E)) (ax_sn_leaf (r_X3_image_0 E))))))⟩
theorem r_X3_start_0 (E : ax_EN G l) : ax_Snd G l ax_Ym M_X3_start 0 (S_aload 0 1) := k_aload_n dX3_start_0 rfl
theorem r_X3_start_1 (E : ax_EN G l) : ax_Snd G l ax_Ym M_X3_start 1 (S_aload 0 2) := k_aload_n dX3_start_1 rfl
theorem r_X3_start_2 (E : ax_EN G l) : ax_Snd G l ax_Ym M_X3_start 2 (S_iv [(38, 405)] 0 5 hd_0) := k_iv (en_F E) (ax_ok0 E rfl) (ax_Evs_cons ((ev_v (en_c E (k := 38) rfl) rfl y_X3_isMachine q3108 q3110 qs75 q126 q3111 nm_X3_isMachine (Nat.le_of_ble_eq_true rfl) dX3_start_2) : ax_EvV G l ax_Ym M_X3_start 2 0 3 38 405) ax_Evs_nil)
theorem r_X3_start_5 (E : ax_EN G l) : ax_Snd G l ax_Ym M_X3_start 5 (S_if1 (fun x => decide (¬ x = 0)) 15 8) := k_if_ne dX3_start_5 rfl
theorem r_X3_start_8 (E : ax_EN G l) : ax_Snd G l ax_Ym M_X3_start 8 (S_aload 0 9) := k_aload_n dX3_start_8 rfl
theorem r_X3_start_9 (E : ax_EN G l) : ax_Snd G l ax_Ym M_X3_start 9 (S_getf [(38, 22)] 12) := k_getf (en_F E) (ax_fes_cons (fe_458 E) ax_fes_nil) q2775 dX3_start_9
theorem r_X3_start_12 (E : ax_EN G l) : ax_Snd G l ax_Ym M_X3_start 12 (S_if1 (fun x => decide (¬ x = 0)) 19 15) := k_if_ne dX3_start_12 rfl
theorem r_X3_start_15 (E : ax_EN G l) : ax_Snd G l ax_Ym M_X3_start 15 (S_push (.int (1)) 16) := k_iconst dX3_start_15 rfl
theorem r_X3_start_16 (E : ax_EN G l) : ax_Snd G l ax_Ym M_X3_start 16 (S_goto 20) := k_goto dX3_start_16 rfl
theorem r_X3_start_19 (E : ax_EN G l) : ax_Snd G l ax_Ym M_X3_start 19 (S_push (.int (0)) 20) := k_iconst dX3_start_19 rfl
theorem r_X3_start_20 (E : ax_EN G l) : ax_Snd G l ax_Ym M_X3_start 20 (S_iv [(38, 378)] 1 23 hd_0) := k_iv (en_F E) (ax_ok0 E rfl) (ax_Evs_cons ((ev_v (en_c E (k := 38) rfl) rfl y_X3_holds q2999 q3001 qs61 q126 q3002 nm_X3_holds (Nat.le_of_ble_eq_true rfl) dX3_start_20) : ax_EvV G l ax_Ym M_X3_start 20 1 3 38 378) ax_Evs_nil)
theorem r_X3_start_23 (E : ax_EN G l) : ax_Snd G l ax_Ym M_X3_start 23 (S_if1 (fun x => decide (¬ x = 0)) 28 26) := k_if_ne dX3_start_23 rfl
theorem r_X3_start_26 (E : ax_EN G l) : ax_Snd G l ax_Ym M_X3_start 26 (S_push (.int (0)) 27) := k_iconst dX3_start_26 rfl
theorem r_X3_start_27 (E : ax_EN G l) : ax_Snd G l ax_Ym M_X3_start 27 (S_iret) := k_iret dX3_start_27 rfl
theorem r_X3_start_28 (E : ax_EN G l) : ax_Snd G l ax_Ym M_X3_start 28 (S_aload 0 29) := k_aload_n dX3_start_28 rfl
theorem r_X3_start_29 (E : ax_EN G l) : ax_Snd G l ax_Ym M_X3_start 29 (S_iv [(38, 406)] 0 32 hd_0) := k_iv (en_F E) (ax_ok0 E rfl) (ax_Evs_cons ((ev_v (en_c E (k := 38) rfl) rfl y_X3_mends q3112 q3114 qs76 q126 q3115 nm_X3_mends (Nat.le_of_ble_eq_true rfl) dX3_start_29) : ax_EvV G l ax_Ym M_X3_start 29 0 3 38 406) ax_Evs_nil)
theorem r_X3_start_32 (E : ax_EN G l) : ax_Snd G l ax_Ym M_X3_start 32 (S_istore 1 33) := k_istore_n dX3_start_32 rfl (Nat.le_of_ble_eq_true rfl)
theorem r_X3_start_33 (E : ax_EN G l) : ax_Snd G l ax_Ym M_X3_start 33 (S_aload 0 34) := k_aload_n dX3_start_33 rfl
theorem r_X3_start_34 (E : ax_EN G l) : ax_Snd G l ax_Ym M_X3_start 34 (S_getf [(38, 50)] 37) := k_getf (en_F E) (ax_fes_cons (fe_402 E) ax_fes_nil) q2803 dX3_start_34
theorem r_X3_start_37 (E : ax_EN G l) : ax_Snd G l ax_Ym M_X3_start 37 (S_aload 0 38) := k_aload_n dX3_start_37 rfl
theorem r_X3_start_38 (E : ax_EN G l) : ax_Snd G l ax_Ym M_X3_start 38 (S_getf [(38, 54)] 41) := k_getf (en_F E) (ax_fes_cons (fe_408 E) ax_fes_nil) q2807 dX3_start_38
theorem r_X3_start_41 (E : ax_EN G l) : ax_Snd G l ax_Ym M_X3_start 41 (S_is 409 2 44 hd_0) := k_is (en_F E) (ax_ok0 E rfl) ((ev_s y_X3_copies q3124 q3125 q126 q3126 nm_X3_copies (Nat.le_of_ble_eq_true rfl) dX3_start_41) : ax_EvS G l ax_Ym M_X3_start 41 409 2 3)
theorem r_X3_start_44 (E : ax_EN G l) : ax_Snd G l ax_Ym M_X3_start 44 (S_aload 0 45) := k_aload_n dX3_start_44 rfl
theorem r_X3_start_45 (E : ax_EN G l) : ax_Snd G l ax_Ym M_X3_start 45 (S_getf [(38, 21)] 48) := k_getf (en_F E) (ax_fes_cons (fe_382 E) ax_fes_nil) q2774 dX3_start_45
theorem r_X3_start_48 (E : ax_EN G l) : ax_Snd G l ax_Ym M_X3_start 48 (S_aload 0 49) := k_aload_n dX3_start_48 rfl
theorem r_X3_start_49 (E : ax_EN G l) : ax_Snd G l ax_Ym M_X3_start 49 (S_getf [(38, 53)] 52) := k_getf (en_F E) (ax_fes_cons (fe_406 E) ax_fes_nil) q2806 dX3_start_49
theorem r_X3_start_52 (E : ax_EN G l) : ax_Snd G l ax_Ym M_X3_start 52 (S_is 409 2 55 hd_0) := k_is (en_F E) (ax_ok0 E rfl) ((ev_s y_X3_copies q3124 q3125 q126 q3126 nm_X3_copies (Nat.le_of_ble_eq_true rfl) dX3_start_52) : ax_EvS G l ax_Ym M_X3_start 52 409 2 3)
theorem r_X3_start_55 (E : ax_EN G l) : ax_Snd G l ax_Ym M_X3_start 55 (S_aload 0 56) := k_aload_n dX3_start_55 rfl
theorem r_X3_start_56 (E : ax_EN G l) : ax_Snd G l ax_Ym M_X3_start 56 (S_aload 0 57) := k_aload_n dX3_start_56 rfl
theorem r_X3_start_57 (E : ax_EN G l) : ax_Snd G l ax_Ym M_X3_start 57 (S_getf [(38, 52)] 60) := k_getf (en_F E) (ax_fes_cons (fe_440 E) ax_fes_nil) q2805 dX3_start_57
theorem r_X3_start_60 (E : ax_EN G l) : ax_Snd G l ax_Ym M_X3_start 60 (S_putf [(38, 55)] (.int) 63) := k_putf (en_F E) (en_P E) (ax_fes_cons (fe_460 E) ax_fes_nil) (ax_fps_cons (fp_461 E) ax_fps_nil) q2808 dX3_start_60
theorem r_X3_start_63 (E : ax_EN G l) : ax_Snd G l ax_Ym M_X3_start 63 (S_aload 0 64) := k_aload_n dX3_start_63 rfl
theorem r_X3_start_64 (E : ax_EN G l) : ax_Snd G l ax_Ym M_X3_start 64 (S_push (.int (0)) 65) := k_iconst dX3_start_64 rfl
theorem r_X3_start_65 (E : ax_EN G l) : ax_Snd G l ax_Ym M_X3_start 65 (S_putf [(38, 43)] (.int) 68) := k_putf (en_F E) (en_P E) (ax_fes_cons (fe_462 E) ax_fes_nil) (ax_fps_cons (fp_463 E) ax_fps_nil) q2796 dX3_start_65
theorem r_X3_start_68 (E : ax_EN G l) : ax_Snd G l ax_Ym M_X3_start 68 (S_aload 0 69) := k_aload_n dX3_start_68 rfl
theorem r_X3_start_69 (E : ax_EN G l) : ax_Snd G l ax_Ym M_X3_start 69 (S_push (.int (0)) 70) := k_iconst dX3_start_69 rfl
theorem r_X3_start_70 (E : ax_EN G l) : ax_Snd G l ax_Ym M_X3_start 70 (S_putf [(38, 40)] (.int) 73) := k_putf (en_F E) (en_P E) (ax_fes_cons (fe_464 E) ax_fes_nil) (ax_fps_cons (fp_465 E) ax_fps_nil) q2793 dX3_start_70
theorem r_X3_start_73 (E : ax_EN G l) : ax_Snd G l ax_Ym M_X3_start 73 (S_aload 0 74) := k_aload_n dX3_start_73 rfl
theorem r_X3_start_74 (E : ax_EN G l) : ax_Snd G l ax_Ym M_X3_start 74 (S_aload 0 75) := k_aload_n dX3_start_74 rfl
theorem r_X3_start_75 (E : ax_EN G l) : ax_Snd G l ax_Ym M_X3_start 75 (S_getf [(38, 53)] 78) := k_getf (en_F E) (ax_fes_cons (fe_406 E) ax_fes_nil) q2806 dX3_start_75
theorem r_X3_start_78 (E : ax_EN G l) : ax_Snd G l ax_Ym M_X3_start 78 (S_iv [(38, 410)] 1 81 hd_0) := k_iv (en_F E) (ax_ok0 E rfl) (ax_Evs_cons ((ev_v (en_c E (k := 38) rfl) rfl y_X3_wakes q3127 q3129 qs79 q126 q3130 nm_X3_wakes (Nat.le_of_ble_eq_true rfl) dX3_start_78) : ax_EvV G l ax_Ym M_X3_start 78 1 3 38 410) ax_Evs_nil)
theorem r_X3_start_81 (E : ax_EN G l) : ax_Snd G l ax_Ym M_X3_start 81 (S_iload 1 82) := k_iload_n dX3_start_81 rfl
theorem r_X3_start_82 (E : ax_EN G l) : ax_Snd G l ax_Ym M_X3_start 82 (S_iret) := k_iret dX3_start_82 rfl
theorem mt_X3_start (E : ax_EN G l) : ax_mt G l ax_Ym (2, P_X3_start) (ax_Ym 404) := ⟨M_X3_start, yX3_start, ⟨rfl, by decide +kernel, rfl, (fun h => by cases h), Or.inl ⟨rfl, rfl⟩⟩, fun pc => (ax_sn_node (ax_sn_node (ax_sn_node (ax_sn_node (ax_sn_node (ax_sn_node (ax_sn_leaf (r_X3_start_82 E)) (ax_sn_leaf (r_X3_start_81 E))) (ax_sn_leaf (r_X3_start_78 E))) (ax_sn_node (ax_sn_node (ax_sn_leaf (r_X3_start_75 E)) (ax_sn_leaf (r_X3_start_74 E))) (ax_sn_leaf (r_X3_start_73 E)))) (ax_sn_node (ax_sn_node (ax_sn_node (ax_sn_leaf (r_X3_start_70 E)) (ax_sn_leaf (r_X3_start_69 E))) (ax_sn_leaf (r_X3_start_68 E))) (ax_sn_node (ax_sn_leaf (r_X3_start_65 E)) (ax_sn_leaf (r_X3_start_64 E))))) (ax_sn_node (ax_sn_node (ax_sn_node (ax_sn_node (ax_sn_leaf (r_X3_start_63 E)) (ax_sn_leaf (r_X3_start_60 E))) (ax_sn_leaf (r_X3_start_57 E))) (ax_sn_node (ax_sn_node (ax_sn_leaf (r_X3_start_56 E)) (ax_sn_leaf (r_X3_start_55 E))) (ax_sn_leaf (r_X3_start_52 E)))) (ax_sn_node (ax_sn_node (ax_sn_node (ax_sn_leaf (r_X3_start_49 E)) (ax_sn_leaf (r_X3_start_48 E))) (ax_sn_leaf (r_X3_start_45 E))) (ax_sn_node (ax_sn_leaf (r_X3_start_44 E)) (ax_sn_leaf (r_X3_start_41 E)))))) (ax_sn_node (ax_sn_node (ax_sn_node (ax_sn_node (ax_sn_node (ax_sn_leaf (r_X3_start_38 E)) (ax_sn_leaf (r_X3_start_37 E))) (ax_sn_leaf (r_X3_start_34 E))) (ax_sn_node (ax_sn_node (ax_sn_leaf (r_X3_start_33 E)) (ax_sn_leaf (r_X3_start_32 E))) (ax_sn_leaf (r_X3_start_29 E)))) (ax_sn_node (ax_sn_node (ax_sn_node (ax_sn_leaf (r_X3_start_28 E)) (ax_sn_leaf (r_X3_start_27 E))) (ax_sn_leaf (r_X3_start_26 E))) (ax_sn_node (ax_sn_leaf (r_X3_start_23 E)) (ax_sn_leaf (r_X3_start_20 E))))) (ax_sn_node (ax_sn_node (ax_sn_node (ax_sn_node (ax_sn_leaf (r_X3_start_19 E)) (ax_sn_leaf (r_X3_start_16 E))) (ax_sn_leaf (r_X3_start_15 E))) (ax_sn_node (ax_sn_leaf (r_X3_start_12 E)) (ax_sn_leaf (r_X3_start_9 E)))) (ax_sn_node (ax_sn_node (ax_sn_node (ax_sn_leaf (r_X3_start_8 E)) (ax_sn_leaf (r_X3_start_5 E))) (ax_sn_leaf (r_X3_start_2 E))) (ax_sn_node (ax_sn_leaf (r_X3_start_1 E)) (ax_sn_leaf (r_X3_start_0 E)))))))⟩
theorem r_X3_isMachine_0 (E : ax_EN G l) : ax_Snd G l ax_Ym M_X3_isMachine 0 (S_aload 0 1) := k_aload_n dX3_isMachine_0 rfl
theorem r_X3_isMachine_1 (E : ax_EN G l) : ax_Snd G l ax_Ym M_X3_isMachine 1 (S_getf [(38, 23)] 4) := k_getf (en_F E) (ax_fes_cons (fe_466 E) ax_fes_nil) q2776 dX3_isMachine_1
theorem r_X3_isMachine_4 (E : ax_EN G l) : ax_Snd G l ax_Ym M_X3_isMachine 4 (S_if1 (fun x => decide (x = 0)) 11 7) := k_if_eq dX3_isMachine_4 rfl
theorem r_X3_isMachine_7 (E : ax_EN G l) : ax_Snd G l ax_Ym M_X3_isMachine 7 (S_push (.int (1)) 8) := k_iconst dX3_isMachine_7 rfl
theorem r_X3_isMachine_8 (E : ax_EN G l) : ax_Snd G l ax_Ym M_X3_isMachine 8 (S_goto 12) := k_goto dX3_isMachine_8 rfl
theorem r_X3_isMachine_11 (E : ax_EN G l) : ax_Snd G l ax_Ym M_X3_isMachine 11 (S_push (.int (0)) 12) := k_iconst dX3_isMachine_11 rfl
theorem r_X3_isMachine_12 (E : ax_EN G l) : ax_Snd G l ax_Ym M_X3_isMachine 12 (S_zret) := k_zret dX3_isMachine_12 rfl
theorem mt_X3_isMachine (E : ax_EN G l) : ax_mt G l ax_Ym (1, P_X3_isMachine) (ax_Ym 405) := ⟨M_X3_isMachine, yX3_isMachine, ⟨rfl, by decide +kernel, rfl, (fun h => by cases h), Or.inl ⟨rfl, rfl⟩⟩, fun pc => (ax_sn_node (ax_sn_node (ax_sn_node (ax_sn_leaf (r_X3_isMachine_12 E)) (ax_sn_leaf (r_X3_isMachine_11 E))) (ax_sn_node (ax_sn_leaf (r_X3_isMachine_8 E)) (ax_sn_leaf (r_X3_isMachine_7 E)))) (ax_sn_node (ax_sn_node (ax_sn_leaf (r_X3_isMachine_4 E)) (ax_sn_leaf (r_X3_isMachine_1 E))) (ax_sn_leaf (r_X3_isMachine_0 E))))⟩
theorem r_X3_mends_0 (E : ax_EN G l) : ax_Snd G l ax_Ym M_X3_mends 0 (S_aload 0 1) := k_aload_n dX3_mends_0 rfl
theorem r_X3_mends_1 (E : ax_EN G l) : ax_Snd G l ax_Ym M_X3_mends 1 (S_getf [(38, 50)] 4) := k_getf (en_F E) (ax_fes_cons (fe_402 E) ax_fes_nil) q2803 dX3_mends_1
theorem r_X3_mends_4 (E : ax_EN G l) : ax_Snd G l ax_Ym M_X3_mends 4 (S_push (.int (0)) 5) := k_iconst dX3_mends_4 rfl
theorem r_X3_mends_5 (E : ax_EN G l) : ax_Snd G l ax_Ym M_X3_mends 5 (S_iald 0 6) := k_iald (en_F E) dX3_mends_5
theorem r_X3_mends_6 (E : ax_EN G l) : ax_Snd G l ax_Ym M_X3_mends 6 (S_if1 (fun x => decide (¬ x = 0)) 11 9) := k_if_ne dX3_mends_6 rfl
theorem r_X3_mends_9 (E : ax_EN G l) : ax_Snd G l ax_Ym M_X3_mends 9 (S_push (.int (0)) 10) := k_iconst dX3_mends_9 rfl
theorem r_X3_mends_10 (E : ax_EN G l) : ax_Snd G l ax_Ym M_X3_mends 10 (S_iret) := k_iret dX3_mends_10 rfl
theorem r_X3_mends_11 (E : ax_EN G l) : ax_Snd G l ax_Ym M_X3_mends 11 (S_push (.int (1)) 12) := k_iconst dX3_mends_11 rfl
theorem r_X3_mends_12 (E : ax_EN G l) : ax_Snd G l ax_Ym M_X3_mends 12 (S_istore 1 13) := k_istore_n dX3_mends_12 rfl (Nat.le_of_ble_eq_true rfl)
theorem r_X3_mends_13 (E : ax_EN G l) : ax_Snd G l ax_Ym M_X3_mends 13 (S_aload 0 14) := k_aload_n dX3_mends_13 rfl
theorem r_X3_mends_14 (E : ax_EN G l) : ax_Snd G l ax_Ym M_X3_mends 14 (S_getf [(38, 50)] 17) := k_getf (en_F E) (ax_fes_cons (fe_402 E) ax_fes_nil) q2803 dX3_mends_14
theorem r_X3_mends_17 (E : ax_EN G l) : ax_Snd G l ax_Ym M_X3_mends 17 (S_push (.int (0)) 18) := k_iconst dX3_mends_17 rfl
theorem r_X3_mends_18 (E : ax_EN G l) : ax_Snd G l ax_Ym M_X3_mends 18 (S_iald 0 19) := k_iald (en_F E) dX3_mends_18
theorem r_X3_mends_19 (E : ax_EN G l) : ax_Snd G l ax_Ym M_X3_mends 19 (S_push (.int (3)) 20) := k_iconst dX3_mends_19 rfl
theorem r_X3_mends_20 (E : ax_EN G l) : ax_Snd G l ax_Ym M_X3_mends 20 (S_if2 (fun x y => decide (y < x)) 99 23) := k_icmp_gt dX3_mends_20 rfl
theorem r_X3_mends_23 (E : ax_EN G l) : ax_Snd G l ax_Ym M_X3_mends 23 (S_aload 0 24) := k_aload_n dX3_mends_23 rfl
theorem r_X3_mends_24 (E : ax_EN G l) : ax_Snd G l ax_Ym M_X3_mends 24 (S_iv [(38, 407)] 0 27 hd_0) := k_iv (en_F E) (ax_ok0 E rfl) (ax_Evs_cons ((ev_v (en_c E (k := 38) rfl) rfl y_X3_checkOfLog q3116 q3118 qs77 q126 q3119 nm_X3_checkOfLog (Nat.le_of_ble_eq_true rfl) dX3_mends_24) : ax_EvV G l ax_Ym M_X3_mends 24 0 3 38 407) ax_Evs_nil)
theorem r_X3_mends_27 (E : ax_EN G l) : ax_Snd G l ax_Ym M_X3_mends 27 (S_aload 0 28) := k_aload_n dX3_mends_27 rfl
theorem r_X3_mends_28 (E : ax_EN G l) : ax_Snd G l ax_Ym M_X3_mends 28 (S_getf [(38, 50)] 31) := k_getf (en_F E) (ax_fes_cons (fe_402 E) ax_fes_nil) q2803 dX3_mends_28
theorem r_X3_mends_31 (E : ax_EN G l) : ax_Snd G l ax_Ym M_X3_mends 31 (S_push (.int (4)) 32) := k_iconst dX3_mends_31 rfl
theorem r_X3_mends_32 (E : ax_EN G l) : ax_Snd G l ax_Ym M_X3_mends 32 (S_iald 0 33) := k_iald (en_F E) dX3_mends_32
theorem r_X3_mends_33 (E : ax_EN G l) : ax_Snd G l ax_Ym M_X3_mends 33 (S_if2 (fun x y => decide (¬ x = y)) 99 36) := k_icmp_ne dX3_mends_33 rfl
theorem r_X3_mends_36 (E : ax_EN G l) : ax_Snd G l ax_Ym M_X3_mends 36 (S_iload 1 37) := k_iload_n dX3_mends_36 rfl
theorem r_X3_mends_37 (E : ax_EN G l) : ax_Snd G l ax_Ym M_X3_mends 37 (S_aload 0 38) := k_aload_n dX3_mends_37 rfl
theorem r_X3_mends_38 (E : ax_EN G l) : ax_Snd G l ax_Ym M_X3_mends 38 (S_getf [(38, 50)] 41) := k_getf (en_F E) (ax_fes_cons (fe_402 E) ax_fes_nil) q2803 dX3_mends_38
theorem r_X3_mends_41 (E : ax_EN G l) : ax_Snd G l ax_Ym M_X3_mends 41 (S_push (.int (0)) 42) := k_iconst dX3_mends_41 rfl
theorem r_X3_mends_42 (E : ax_EN G l) : ax_Snd G l ax_Ym M_X3_mends 42 (S_iald 0 43) := k_iald (en_F E) dX3_mends_42
theorem r_X3_mends_43 (E : ax_EN G l) : ax_Snd G l ax_Ym M_X3_mends 43 (S_i2 (fun x y => x + y) 44) := k_iadd dX3_mends_43
theorem r_X3_mends_44 (E : ax_EN G l) : ax_Snd G l ax_Ym M_X3_mends 44 (S_istore 1 45) := k_istore_n dX3_mends_44 rfl (Nat.le_of_ble_eq_true rfl)
theorem r_X3_mends_45 (E : ax_EN G l) : ax_Snd G l ax_Ym M_X3_mends 45 (S_push (.int (0)) 46) := k_iconst dX3_mends_45 rfl
theorem r_X3_mends_46 (E : ax_EN G l) : ax_Snd G l ax_Ym M_X3_mends 46 (S_istore 2 47) := k_istore_n dX3_mends_46 rfl (Nat.le_of_ble_eq_true rfl)
theorem r_X3_mends_47 (E : ax_EN G l) : ax_Snd G l ax_Ym M_X3_mends 47 (S_iload 2 48) := k_iload_n dX3_mends_47 rfl
theorem r_X3_mends_48 (E : ax_EN G l) : ax_Snd G l ax_Ym M_X3_mends 48 (S_push (.int (8)) 50) := k_bipush dX3_mends_48 rfl
theorem r_X3_mends_50 (E : ax_EN G l) : ax_Snd G l ax_Ym M_X3_mends 50 (S_aload 0 51) := k_aload_n dX3_mends_50 rfl
theorem r_X3_mends_51 (E : ax_EN G l) : ax_Snd G l ax_Ym M_X3_mends 51 (S_getf [(38, 50)] 54) := k_getf (en_F E) (ax_fes_cons (fe_402 E) ax_fes_nil) q2803 dX3_mends_51
theorem r_X3_mends_54 (E : ax_EN G l) : ax_Snd G l ax_Ym M_X3_mends 54 (S_push (.int (0)) 55) := k_iconst dX3_mends_54 rfl
theorem r_X3_mends_55 (E : ax_EN G l) : ax_Snd G l ax_Ym M_X3_mends 55 (S_iald 0 56) := k_iald (en_F E) dX3_mends_55
theorem r_X3_mends_56 (E : ax_EN G l) : ax_Snd G l ax_Ym M_X3_mends 56 (S_i2 (fun x y => x * y) 57) := k_imul dX3_mends_56
theorem r_X3_mends_57 (E : ax_EN G l) : ax_Snd G l ax_Ym M_X3_mends 57 (S_if2 (fun x y => decide (y ≤ x)) 99 60) := k_icmp_ge dX3_mends_57 rfl
theorem r_X3_mends_60 (E : ax_EN G l) : ax_Snd G l ax_Ym M_X3_mends 60 (S_aload 0 61) := k_aload_n dX3_mends_60 rfl
theorem r_X3_mends_61 (E : ax_EN G l) : ax_Snd G l ax_Ym M_X3_mends 61 (S_getf [(38, 50)] 64) := k_getf (en_F E) (ax_fes_cons (fe_402 E) ax_fes_nil) q2803 dX3_mends_61
theorem r_X3_mends_64 (E : ax_EN G l) : ax_Snd G l ax_Ym M_X3_mends 64 (S_push (.int (8)) 66) := k_bipush dX3_mends_64 rfl
theorem r_X3_mends_66 (E : ax_EN G l) : ax_Snd G l ax_Ym M_X3_mends 66 (S_aload 0 67) := k_aload_n dX3_mends_66 rfl
theorem r_X3_mends_67 (E : ax_EN G l) : ax_Snd G l ax_Ym M_X3_mends 67 (S_getf [(38, 50)] 70) := k_getf (en_F E) (ax_fes_cons (fe_402 E) ax_fes_nil) q2803 dX3_mends_67
theorem r_X3_mends_70 (E : ax_EN G l) : ax_Snd G l ax_Ym M_X3_mends 70 (S_push (.int (1)) 71) := k_iconst dX3_mends_70 rfl
theorem r_X3_mends_71 (E : ax_EN G l) : ax_Snd G l ax_Ym M_X3_mends 71 (S_iload 2 72) := k_iload_n dX3_mends_71 rfl
theorem r_X3_mends_72 (E : ax_EN G l) : ax_Snd G l ax_Ym M_X3_mends 72 (S_push (.int (8)) 74) := k_bipush dX3_mends_72 rfl
theorem r_X3_mends_74 (E : ax_EN G l) : ax_Snd G l ax_Ym M_X3_mends 74 (S_id (fun x y => x / y) 75) := k_idiv dX3_mends_74
theorem r_X3_mends_75 (E : ax_EN G l) : ax_Snd G l ax_Ym M_X3_mends 75 (S_i2 (fun x y => x + y) 76) := k_iadd dX3_mends_75
theorem r_X3_mends_76 (E : ax_EN G l) : ax_Snd G l ax_Ym M_X3_mends 76 (S_iald 0 77) := k_iald (en_F E) dX3_mends_76
theorem r_X3_mends_77 (E : ax_EN G l) : ax_Snd G l ax_Ym M_X3_mends 77 (S_i2 (fun x y => x * y) 78) := k_imul dX3_mends_77
theorem r_X3_mends_78 (E : ax_EN G l) : ax_Snd G l ax_Ym M_X3_mends 78 (S_iload 2 79) := k_iload_n dX3_mends_78 rfl
theorem r_X3_mends_79 (E : ax_EN G l) : ax_Snd G l ax_Ym M_X3_mends 79 (S_push (.int (8)) 81) := k_bipush dX3_mends_79 rfl
theorem r_X3_mends_81 (E : ax_EN G l) : ax_Snd G l ax_Ym M_X3_mends 81 (S_id (fun x y => x - x / y * y) 82) := k_irem dX3_mends_81
theorem r_X3_mends_82 (E : ax_EN G l) : ax_Snd G l ax_Ym M_X3_mends 82 (S_i2 (fun x y => x + y) 83) := k_iadd dX3_mends_82
theorem r_X3_mends_83 (E : ax_EN G l) : ax_Snd G l ax_Ym M_X3_mends 83 (S_aload 0 84) := k_aload_n dX3_mends_83 rfl
theorem r_X3_mends_84 (E : ax_EN G l) : ax_Snd G l ax_Ym M_X3_mends 84 (S_getf [(38, 50)] 87) := k_getf (en_F E) (ax_fes_cons (fe_402 E) ax_fes_nil) q2803 dX3_mends_84
theorem r_X3_mends_87 (E : ax_EN G l) : ax_Snd G l ax_Ym M_X3_mends 87 (S_push (.int (8)) 89) := k_bipush dX3_mends_87 rfl
theorem r_X3_mends_89 (E : ax_EN G l) : ax_Snd G l ax_Ym M_X3_mends 89 (S_iload 2 90) := k_iload_n dX3_mends_89 rfl
theorem r_X3_mends_90 (E : ax_EN G l) : ax_Snd G l ax_Ym M_X3_mends 90 (S_i2 (fun x y => x + y) 91) := k_iadd dX3_mends_90
theorem r_X3_mends_91 (E : ax_EN G l) : ax_Snd G l ax_Ym M_X3_mends 91 (S_iald 0 92) := k_iald (en_F E) dX3_mends_91
theorem r_X3_mends_92 (E : ax_EN G l) : ax_Snd G l ax_Ym M_X3_mends 92 (S_iast 0 (fun x => x) 93) := k_iast (en_F E) dX3_mends_92
theorem r_X3_mends_93 (E : ax_EN G l) : ax_Snd G l ax_Ym M_X3_mends 93 (S_iinc 2 (1) 96) := k_iinc dX3_mends_93 rfl (Nat.le_of_ble_eq_true rfl)
theorem r_X3_mends_96 (E : ax_EN G l) : ax_Snd G l ax_Ym M_X3_mends 96 (S_goto 47) := k_goto dX3_mends_96 rfl
theorem r_X3_mends_99 (E : ax_EN G l) : ax_Snd G l ax_Ym M_X3_mends 99 (S_aload 0 100) := k_aload_n dX3_mends_99 rfl
theorem r_X3_mends_100 (E : ax_EN G l) : ax_Snd G l ax_Ym M_X3_mends 100 (S_push (.int (0)) 101) := k_iconst dX3_mends_100 rfl
theorem r_X3_mends_101 (E : ax_EN G l) : ax_Snd G l ax_Ym M_X3_mends 101 (S_iv [(38, 408)] 1 104 hd_0) := k_iv (en_F E) (ax_ok0 E rfl) (ax_Evs_cons ((ev_v (en_c E (k := 38) rfl) rfl y_X3_writesHead q3120 q3122 qs78 q126 q3123 nm_X3_writesHead (Nat.le_of_ble_eq_true rfl) dX3_mends_101) : ax_EvV G l ax_Ym M_X3_mends 101 1 3 38 408) ax_Evs_nil)
theorem r_X3_mends_104 (E : ax_EN G l) : ax_Snd G l ax_Ym M_X3_mends 104 (S_aload 0 105) := k_aload_n dX3_mends_104 rfl
theorem r_X3_mends_105 (E : ax_EN G l) : ax_Snd G l ax_Ym M_X3_mends 105 (S_dup 106) := k_dup dX3_mends_105
theorem r_X3_mends_106 (E : ax_EN G l) : ax_Snd G l ax_Ym M_X3_mends 106 (S_getf [(38, 52)] 109) := k_getf (en_F E) (ax_fes_cons (fe_440 E) ax_fes_nil) q2805 dX3_mends_106
theorem r_X3_mends_109 (E : ax_EN G l) : ax_Snd G l ax_Ym M_X3_mends 109 (S_iload 1 110) := k_iload_n dX3_mends_109 rfl
theorem r_X3_mends_110 (E : ax_EN G l) : ax_Snd G l ax_Ym M_X3_mends 110 (S_i2 (fun x y => x + y) 111) := k_iadd dX3_mends_110
theorem r_X3_mends_111 (E : ax_EN G l) : ax_Snd G l ax_Ym M_X3_mends 111 (S_putf [(38, 52)] (.int) 114) := k_putf (en_F E) (en_P E) (ax_fes_cons (fe_440 E) ax_fes_nil) (ax_fps_cons (fp_441 E) ax_fps_nil) q2805 dX3_mends_111
theorem r_X3_mends_114 (E : ax_EN G l) : ax_Snd G l ax_Ym M_X3_mends 114 (S_iload 1 115) := k_iload_n dX3_mends_114 rfl
theorem r_X3_mends_115 (E : ax_EN G l) : ax_Snd G l ax_Ym M_X3_mends 115 (S_iret) := k_iret dX3_mends_115 rfl
theorem mt_X3_mends (E : ax_EN G l) : ax_mt G l ax_Ym (3, P_X3_mends) (ax_Ym 406) := ⟨M_X3_mends, yX3_mends, ⟨rfl, by decide +kernel, rfl, (fun h => by cases h), Or.inl ⟨rfl, rfl⟩⟩, fun pc => (ax_sn_node (ax_sn_node (ax_sn_node (ax_sn_node (ax_sn_node (ax_sn_node (ax_sn_node (ax_sn_leaf (r_X3_mends_115 E)) (ax_sn_leaf (r_X3_mends_114 E))) (ax_sn_leaf (r_X3_mends_111 E))) (ax_sn_node (ax_sn_leaf (r_X3_mends_110 E)) (ax_sn_leaf (r_X3_mends_109 E)))) (ax_sn_node (ax_sn_node (ax_sn_node (ax_sn_leaf (r_X3_mends_106 E)) (ax_sn_leaf (r_X3_mends_105 E))) (ax_sn_leaf (r_X3_mends_104 E))) (ax_sn_node (ax_sn_leaf (r_X3_mends_101 E)) (ax_sn_leaf (r_X3_mends_100 E))))) (ax_sn_node (ax_sn_node (ax_sn_node (ax_sn_node (ax_sn_leaf (r_X3_mends_99 E)) (ax_sn_leaf (r_X3_mends_96 E))) (ax_sn_leaf (r_X3_mends_93 E))) (ax_sn_node (ax_sn_leaf (r_X3_mends_92 E)) (ax_sn_leaf (r_X3_mends_91 E)))) (ax_sn_node (ax_sn_node (ax_sn_leaf (r_X3_mends_90 E)) (ax_sn_leaf (r_X3_mends_89 E))) (ax_sn_node (ax_sn_leaf (r_X3_mends_87 E)) (ax_sn_leaf (r_X3_mends_84 E)))))) (ax_sn_node (ax_sn_node (ax_sn_node (ax_sn_node (ax_sn_node (ax_sn_leaf (r_X3_mends_83 E)) (ax_sn_leaf (r_X3_mends_82 E))) (ax_sn_leaf (r_X3_mends_81 E))) (ax_sn_node (ax_sn_leaf (r_X3_mends_79 E)) (ax_sn_leaf (r_X3_mends_78 E)))) (ax_sn_node (ax_sn_node (ax_sn_node (ax_sn_leaf (r_X3_mends_77 E)) (ax_sn_leaf (r_X3_mends_76 E))) (ax_sn_leaf (r_X3_mends_75 E))) (ax_sn_node (ax_sn_leaf (r_X3_mends_74 E)) (ax_sn_leaf (r_X3_mends_72 E))))) (ax_sn_node (ax_sn_node (ax_sn_node (ax_sn_node (ax_sn_leaf (r_X3_mends_71 E)) (ax_sn_leaf (r_X3_mends_70 E))) (ax_sn_leaf (r_X3_mends_67 E))) (ax_sn_node (ax_sn_leaf (r_X3_mends_66 E)) (ax_sn_leaf (r_X3_mends_64 E)))) (ax_sn_node (ax_sn_node (ax_sn_leaf (r_X3_mends_61 E)) (ax_sn_leaf (r_X3_mends_60 E))) (ax_sn_node (ax_sn_leaf (r_X3_mends_57 E)) (ax_sn_leaf (r_X3_mends_56 E))))))) (ax_sn_node (ax_sn_node (ax_sn_node (ax_sn_node (ax_sn_node (ax_sn_node (ax_sn_leaf (r_X3_mends_55 E)) (ax_sn_leaf (r_X3_mends_54 E))) (ax_sn_leaf (r_X3_mends_51 E))) (ax_sn_node (ax_sn_leaf (r_X3_mends_50 E)) (ax_sn_leaf (r_X3_mends_48 E)))) (ax_sn_node (ax_sn_node (ax_sn_node (ax_sn_leaf (r_X3_mends_47 E)) (ax_sn_leaf (r_X3_mends_46 E))) (ax_sn_leaf (r_X3_mends_45 E))) (ax_sn_node (ax_sn_leaf (r_X3_mends_44 E)) (ax_sn_leaf (r_X3_mends_43 E))))) (ax_sn_node (ax_sn_node (ax_sn_node (ax_sn_node (ax_sn_leaf (r_X3_mends_42 E)) (ax_sn_leaf (r_X3_mends_41 E))) (ax_sn_leaf (r_X3_mends_38 E))) (ax_sn_node (ax_sn_leaf (r_X3_mends_37 E)) (ax_sn_leaf (r_X3_mends_36 E)))) (ax_sn_node (ax_sn_node (ax_sn_leaf (r_X3_mends_33 E)) (ax_sn_leaf (r_X3_mends_32 E))) (ax_sn_node (ax_sn_leaf (r_X3_mends_31 E)) (ax_sn_leaf (r_X3_mends_28 E)))))) (ax_sn_node (ax_sn_node (ax_sn_node (ax_sn_node (ax_sn_node (ax_sn_leaf (r_X3_mends_27 E)) (ax_sn_leaf (r_X3_mends_24 E))) (ax_sn_leaf (r_X3_mends_23 E))) (ax_sn_node (ax_sn_leaf (r_X3_mends_20 E)) (ax_sn_leaf (r_X3_mends_19 E)))) (ax_sn_node (ax_sn_node (ax_sn_leaf (r_X3_mends_18 E)) (ax_sn_leaf (r_X3_mends_17 E))) (ax_sn_node (ax_sn_leaf (r_X3_mends_14 E)) (ax_sn_leaf (r_X3_mends_13 E))))) (ax_sn_node (ax_sn_node (ax_sn_node (ax_sn_node (ax_sn_leaf (r_X3_mends_12 E)) (ax_sn_leaf (r_X3_mends_11 E))) (ax_sn_leaf (r_X3_mends_10 E))) (ax_sn_node (ax_sn_leaf (r_X3_mends_9 E)) (ax_sn_leaf (r_X3_mends_6 E)))) (ax_sn_node (ax_sn_node (ax_sn_leaf (r_X3_mends_5 E)) (ax_sn_leaf (r_X3_mends_4 E))) (ax_sn_node (ax_sn_leaf (r_X3_mends_1 E)) (ax_sn_leaf (r_X3_mends_0 E))))))))⟩
theorem r_X3_checkOfLog_0 (E : ax_EN G l) : ax_Snd G l ax_Ym M_X3_checkOfLog 0 (S_aload 0 1) := k_aload_n dX3_checkOfLog_0 rfl
theorem r_X3_checkOfLog_1 (E : ax_EN G l) : ax_Snd G l ax_Ym M_X3_checkOfLog 1 (S_getf [(38, 50)] 4) := k_getf (en_F E) (ax_fes_cons (fe_402 E) ax_fes_nil) q2803 dX3_checkOfLog_1
theorem r_X3_checkOfLog_4 (E : ax_EN G l) : ax_Snd G l ax_Ym M_X3_checkOfLog 4 (S_push (.int (0)) 5) := k_iconst dX3_checkOfLog_4 rfl
theorem r_X3_checkOfLog_5 (E : ax_EN G l) : ax_Snd G l ax_Ym M_X3_checkOfLog 5 (S_iald 0 6) := k_iald (en_F E) dX3_checkOfLog_5
theorem r_X3_checkOfLog_6 (E : ax_EN G l) : ax_Snd G l ax_Ym M_X3_checkOfLog 6 (S_aload 0 7) := k_aload_n dX3_checkOfLog_6 rfl
theorem r_X3_checkOfLog_7 (E : ax_EN G l) : ax_Snd G l ax_Ym M_X3_checkOfLog 7 (S_getf [(38, 50)] 10) := k_getf (en_F E) (ax_fes_cons (fe_402 E) ax_fes_nil) q2803 dX3_checkOfLog_7
theorem r_X3_checkOfLog_10 (E : ax_EN G l) : ax_Snd G l ax_Ym M_X3_checkOfLog 10 (S_push (.int (1)) 11) := k_iconst dX3_checkOfLog_10 rfl
theorem r_X3_checkOfLog_11 (E : ax_EN G l) : ax_Snd G l ax_Ym M_X3_checkOfLog 11 (S_iald 0 12) := k_iald (en_F E) dX3_checkOfLog_11
theorem r_X3_checkOfLog_12 (E : ax_EN G l) : ax_Snd G l ax_Ym M_X3_checkOfLog 12 (S_i2 (fun x y => x + y) 13) := k_iadd dX3_checkOfLog_12
theorem r_X3_checkOfLog_13 (E : ax_EN G l) : ax_Snd G l ax_Ym M_X3_checkOfLog 13 (S_aload 0 14) := k_aload_n dX3_checkOfLog_13 rfl
theorem r_X3_checkOfLog_14 (E : ax_EN G l) : ax_Snd G l ax_Ym M_X3_checkOfLog 14 (S_getf [(38, 50)] 17) := k_getf (en_F E) (ax_fes_cons (fe_402 E) ax_fes_nil) q2803 dX3_checkOfLog_14
theorem r_X3_checkOfLog_17 (E : ax_EN G l) : ax_Snd G l ax_Ym M_X3_checkOfLog 17 (S_push (.int (2)) 18) := k_iconst dX3_checkOfLog_17 rfl
theorem r_X3_checkOfLog_18 (E : ax_EN G l) : ax_Snd G l ax_Ym M_X3_checkOfLog 18 (S_iald 0 19) := k_iald (en_F E) dX3_checkOfLog_18
theorem r_X3_checkOfLog_19 (E : ax_EN G l) : ax_Snd G l ax_Ym M_X3_checkOfLog 19 (S_i2 (fun x y => x + y) 20) := k_iadd dX3_checkOfLog_19
theorem r_X3_checkOfLog_20 (E : ax_EN G l) : ax_Snd G l ax_Ym M_X3_checkOfLog 20 (S_aload 0 21) := k_aload_n dX3_checkOfLog_20 rfl
theorem r_X3_checkOfLog_21 (E : ax_EN G l) : ax_Snd G l ax_Ym M_X3_checkOfLog 21 (S_getf [(38, 50)] 24) := k_getf (en_F E) (ax_fes_cons (fe_402 E) ax_fes_nil) q2803 dX3_checkOfLog_21
theorem r_X3_checkOfLog_24 (E : ax_EN G l) : ax_Snd G l ax_Ym M_X3_checkOfLog 24 (S_push (.int (3)) 25) := k_iconst dX3_checkOfLog_24 rfl
theorem r_X3_checkOfLog_25 (E : ax_EN G l) : ax_Snd G l ax_Ym M_X3_checkOfLog 25 (S_iald 0 26) := k_iald (en_F E) dX3_checkOfLog_25
theorem r_X3_checkOfLog_26 (E : ax_EN G l) : ax_Snd G l ax_Ym M_X3_checkOfLog 26 (S_i2 (fun x y => x + y) 27) := k_iadd dX3_checkOfLog_26
theorem r_X3_checkOfLog_27 (E : ax_EN G l) : ax_Snd G l ax_Ym M_X3_checkOfLog 27 (S_istore 1 28) := k_istore_n dX3_checkOfLog_27 rfl (Nat.le_of_ble_eq_true rfl)
theorem r_X3_checkOfLog_28 (E : ax_EN G l) : ax_Snd G l ax_Ym M_X3_checkOfLog 28 (S_push (.int (0)) 29) := k_iconst dX3_checkOfLog_28 rfl
theorem r_X3_checkOfLog_29 (E : ax_EN G l) : ax_Snd G l ax_Ym M_X3_checkOfLog 29 (S_istore 2 30) := k_istore_n dX3_checkOfLog_29 rfl (Nat.le_of_ble_eq_true rfl)
theorem r_X3_checkOfLog_30 (E : ax_EN G l) : ax_Snd G l ax_Ym M_X3_checkOfLog 30 (S_iload 2 31) := k_iload_n dX3_checkOfLog_30 rfl
theorem r_X3_checkOfLog_31 (E : ax_EN G l) : ax_Snd G l ax_Ym M_X3_checkOfLog 31 (S_push (.int (8)) 33) := k_bipush dX3_checkOfLog_31 rfl
theorem r_X3_checkOfLog_33 (E : ax_EN G l) : ax_Snd G l ax_Ym M_X3_checkOfLog 33 (S_aload 0 34) := k_aload_n dX3_checkOfLog_33 rfl
theorem r_X3_checkOfLog_34 (E : ax_EN G l) : ax_Snd G l ax_Ym M_X3_checkOfLog 34 (S_getf [(38, 50)] 37) := k_getf (en_F E) (ax_fes_cons (fe_402 E) ax_fes_nil) q2803 dX3_checkOfLog_34
theorem r_X3_checkOfLog_37 (E : ax_EN G l) : ax_Snd G l ax_Ym M_X3_checkOfLog 37 (S_push (.int (0)) 38) := k_iconst dX3_checkOfLog_37 rfl
theorem r_X3_checkOfLog_38 (E : ax_EN G l) : ax_Snd G l ax_Ym M_X3_checkOfLog 38 (S_iald 0 39) := k_iald (en_F E) dX3_checkOfLog_38
theorem r_X3_checkOfLog_39 (E : ax_EN G l) : ax_Snd G l ax_Ym M_X3_checkOfLog 39 (S_i2 (fun x y => x * y) 40) := k_imul dX3_checkOfLog_39
theorem r_X3_checkOfLog_40 (E : ax_EN G l) : ax_Snd G l ax_Ym M_X3_checkOfLog 40 (S_if2 (fun x y => decide (y ≤ x)) 61 43) := k_icmp_ge dX3_checkOfLog_40 rfl
theorem r_X3_checkOfLog_43 (E : ax_EN G l) : ax_Snd G l ax_Ym M_X3_checkOfLog 43 (S_iload 1 44) := k_iload_n dX3_checkOfLog_43 rfl
theorem r_X3_checkOfLog_44 (E : ax_EN G l) : ax_Snd G l ax_Ym M_X3_checkOfLog 44 (S_aload 0 45) := k_aload_n dX3_checkOfLog_44 rfl
theorem r_X3_checkOfLog_45 (E : ax_EN G l) : ax_Snd G l ax_Ym M_X3_checkOfLog 45 (S_getf [(38, 50)] 48) := k_getf (en_F E) (ax_fes_cons (fe_402 E) ax_fes_nil) q2803 dX3_checkOfLog_45
theorem r_X3_checkOfLog_48 (E : ax_EN G l) : ax_Snd G l ax_Ym M_X3_checkOfLog 48 (S_push (.int (8)) 50) := k_bipush dX3_checkOfLog_48 rfl
theorem r_X3_checkOfLog_50 (E : ax_EN G l) : ax_Snd G l ax_Ym M_X3_checkOfLog 50 (S_iload 2 51) := k_iload_n dX3_checkOfLog_50 rfl
theorem r_X3_checkOfLog_51 (E : ax_EN G l) : ax_Snd G l ax_Ym M_X3_checkOfLog 51 (S_i2 (fun x y => x + y) 52) := k_iadd dX3_checkOfLog_51
theorem r_X3_checkOfLog_52 (E : ax_EN G l) : ax_Snd G l ax_Ym M_X3_checkOfLog 52 (S_iald 0 53) := k_iald (en_F E) dX3_checkOfLog_52
theorem r_X3_checkOfLog_53 (E : ax_EN G l) : ax_Snd G l ax_Ym M_X3_checkOfLog 53 (S_i2 (fun x y => x + y) 54) := k_iadd dX3_checkOfLog_53
theorem r_X3_checkOfLog_54 (E : ax_EN G l) : ax_Snd G l ax_Ym M_X3_checkOfLog 54 (S_istore 1 55) := k_istore_n dX3_checkOfLog_54 rfl (Nat.le_of_ble_eq_true rfl)
theorem r_X3_checkOfLog_55 (E : ax_EN G l) : ax_Snd G l ax_Ym M_X3_checkOfLog 55 (S_iinc 2 (1) 58) := k_iinc dX3_checkOfLog_55 rfl (Nat.le_of_ble_eq_true rfl)
theorem r_X3_checkOfLog_58 (E : ax_EN G l) : ax_Snd G l ax_Ym M_X3_checkOfLog 58 (S_goto 30) := k_goto dX3_checkOfLog_58 rfl
theorem r_X3_checkOfLog_61 (E : ax_EN G l) : ax_Snd G l ax_Ym M_X3_checkOfLog 61 (S_iload 1 62) := k_iload_n dX3_checkOfLog_61 rfl
theorem r_X3_checkOfLog_62 (E : ax_EN G l) : ax_Snd G l ax_Ym M_X3_checkOfLog 62 (S_push (.int (65536)) 64) := k_ldc q3083 dX3_checkOfLog_62
theorem r_X3_checkOfLog_64 (E : ax_EN G l) : ax_Snd G l ax_Ym M_X3_checkOfLog 64 (S_id (fun x y => x - x / y * y) 65) := k_irem dX3_checkOfLog_64
theorem r_X3_checkOfLog_65 (E : ax_EN G l) : ax_Snd G l ax_Ym M_X3_checkOfLog 65 (S_iret) := k_iret dX3_checkOfLog_65 rfl
theorem mt_X3_checkOfLog (E : ax_EN G l) : ax_mt G l ax_Ym (3, P_X3_checkOfLog) (ax_Ym 407) := ⟨M_X3_checkOfLog, yX3_checkOfLog, ⟨rfl, by decide +kernel, rfl, (fun h => by cases h), Or.inl ⟨rfl, rfl⟩⟩, fun pc => (ax_sn_node (ax_sn_node (ax_sn_node (ax_sn_node (ax_sn_node (ax_sn_node (ax_sn_leaf (r_X3_checkOfLog_65 E)) (ax_sn_leaf (r_X3_checkOfLog_64 E))) (ax_sn_leaf (r_X3_checkOfLog_62 E))) (ax_sn_node (ax_sn_node (ax_sn_leaf (r_X3_checkOfLog_61 E)) (ax_sn_leaf (r_X3_checkOfLog_58 E))) (ax_sn_leaf (r_X3_checkOfLog_55 E)))) (ax_sn_node (ax_sn_node (ax_sn_node (ax_sn_leaf (r_X3_checkOfLog_54 E)) (ax_sn_leaf (r_X3_checkOfLog_53 E))) (ax_sn_leaf (r_X3_checkOfLog_52 E))) (ax_sn_node (ax_sn_node (ax_sn_leaf (r_X3_checkOfLog_51 E)) (ax_sn_leaf (r_X3_checkOfLog_50 E))) (ax_sn_leaf (r_X3_checkOfLog_48 E))))) (ax_sn_node (ax_sn_node (ax_sn_node (ax_sn_node (ax_sn_leaf (r_X3_checkOfLog_45 E)) (ax_sn_leaf (r_X3_checkOfLog_44 E))) (ax_sn_leaf (r_X3_checkOfLog_43 E))) (ax_sn_node (ax_sn_node (ax_sn_leaf (r_X3_checkOfLog_40 E)) (ax_sn_leaf (r_X3_checkOfLog_39 E))) (ax_sn_leaf (r_X3_checkOfLog_38 E)))) (ax_sn_node (ax_sn_node (ax_sn_node (ax_sn_leaf (r_X3_checkOfLog_37 E)) (ax_sn_leaf (r_X3_checkOfLog_34 E))) (ax_sn_leaf (r_X3_checkOfLog_33 E))) (ax_sn_node (ax_sn_leaf (r_X3_checkOfLog_31 E)) (ax_sn_leaf (r_X3_checkOfLog_30 E)))))) (ax_sn_node (ax_sn_node (ax_sn_node (ax_sn_node (ax_sn_node (ax_sn_leaf (r_X3_checkOfLog_29 E)) (ax_sn_leaf (r_X3_checkOfLog_28 E))) (ax_sn_leaf (r_X3_checkOfLog_27 E))) (ax_sn_node (ax_sn_node (ax_sn_leaf (r_X3_checkOfLog_26 E)) (ax_sn_leaf (r_X3_checkOfLog_25 E))) (ax_sn_leaf (r_X3_checkOfLog_24 E)))) (ax_sn_node (ax_sn_node (ax_sn_node (ax_sn_leaf (r_X3_checkOfLog_21 E)) (ax_sn_leaf (r_X3_checkOfLog_20 E))) (ax_sn_leaf (r_X3_checkOfLog_19 E))) (ax_sn_node (ax_sn_leaf (r_X3_checkOfLog_18 E)) (ax_sn_leaf (r_X3_checkOfLog_17 E))))) (ax_sn_node (ax_sn_node (ax_sn_node (ax_sn_node (ax_sn_leaf (r_X3_checkOfLog_14 E)) (ax_sn_leaf (r_X3_checkOfLog_13 E))) (ax_sn_leaf (r_X3_checkOfLog_12 E))) (ax_sn_node (ax_sn_node (ax_sn_leaf (r_X3_checkOfLog_11 E)) (ax_sn_leaf (r_X3_checkOfLog_10 E))) (ax_sn_leaf (r_X3_checkOfLog_7 E)))) (ax_sn_node (ax_sn_node (ax_sn_node (ax_sn_leaf (r_X3_checkOfLog_6 E)) (ax_sn_leaf (r_X3_checkOfLog_5 E))) (ax_sn_leaf (r_X3_checkOfLog_4 E))) (ax_sn_node (ax_sn_leaf (r_X3_checkOfLog_1 E)) (ax_sn_leaf (r_X3_checkOfLog_0 E)))))))⟩
theorem r_X3_writesHead_0 (E : ax_EN G l) : ax_Snd G l ax_Ym M_X3_writesHead 0 (S_push (.int (0)) 1) := k_iconst dX3_writesHead_0 rfl
theorem r_X3_writesHead_1 (E : ax_EN G l) : ax_Snd G l ax_Ym M_X3_writesHead 1 (S_istore 2 2) := k_istore_n dX3_writesHead_1 rfl (Nat.le_of_ble_eq_true rfl)
theorem r_X3_writesHead_2 (E : ax_EN G l) : ax_Snd G l ax_Ym M_X3_writesHead 2 (S_iload 2 3) := k_iload_n dX3_writesHead_2 rfl
theorem r_X3_writesHead_3 (E : ax_EN G l) : ax_Snd G l ax_Ym M_X3_writesHead 3 (S_push (.int (8)) 5) := k_bipush dX3_writesHead_3 rfl
theorem r_X3_writesHead_5 (E : ax_EN G l) : ax_Snd G l ax_Ym M_X3_writesHead 5 (S_if2 (fun x y => decide (y ≤ x)) 21 8) := k_icmp_ge dX3_writesHead_5 rfl
theorem r_X3_writesHead_8 (E : ax_EN G l) : ax_Snd G l ax_Ym M_X3_writesHead 8 (S_aload 0 9) := k_aload_n dX3_writesHead_8 rfl
theorem r_X3_writesHead_9 (E : ax_EN G l) : ax_Snd G l ax_Ym M_X3_writesHead 9 (S_getf [(38, 50)] 12) := k_getf (en_F E) (ax_fes_cons (fe_402 E) ax_fes_nil) q2803 dX3_writesHead_9
theorem r_X3_writesHead_12 (E : ax_EN G l) : ax_Snd G l ax_Ym M_X3_writesHead 12 (S_iload 2 13) := k_iload_n dX3_writesHead_12 rfl
theorem r_X3_writesHead_13 (E : ax_EN G l) : ax_Snd G l ax_Ym M_X3_writesHead 13 (S_push (.int (0)) 14) := k_iconst dX3_writesHead_13 rfl
theorem r_X3_writesHead_14 (E : ax_EN G l) : ax_Snd G l ax_Ym M_X3_writesHead 14 (S_iast 0 (fun x => x) 15) := k_iast (en_F E) dX3_writesHead_14
theorem r_X3_writesHead_15 (E : ax_EN G l) : ax_Snd G l ax_Ym M_X3_writesHead 15 (S_iinc 2 (1) 18) := k_iinc dX3_writesHead_15 rfl (Nat.le_of_ble_eq_true rfl)
theorem r_X3_writesHead_18 (E : ax_EN G l) : ax_Snd G l ax_Ym M_X3_writesHead 18 (S_goto 2) := k_goto dX3_writesHead_18 rfl
theorem r_X3_writesHead_21 (E : ax_EN G l) : ax_Snd G l ax_Ym M_X3_writesHead 21 (S_iload 1 22) := k_iload_n dX3_writesHead_21 rfl
theorem r_X3_writesHead_22 (E : ax_EN G l) : ax_Snd G l ax_Ym M_X3_writesHead 22 (S_if1 (fun x => decide (¬ x = 0)) 26 25) := k_if_ne dX3_writesHead_22 rfl
theorem r_X3_writesHead_25 (E : ax_EN G l) : ax_Snd G l ax_Ym M_X3_writesHead 25 (S_ret) := k_ret dX3_writesHead_25 rfl
theorem r_X3_writesHead_26 (E : ax_EN G l) : ax_Snd G l ax_Ym M_X3_writesHead 26 (S_aload 0 27) := k_aload_n dX3_writesHead_26 rfl
theorem r_X3_writesHead_27 (E : ax_EN G l) : ax_Snd G l ax_Ym M_X3_writesHead 27 (S_getf [(38, 47)] 30) := k_getf (en_F E) (ax_fes_cons (fe_467 E) ax_fes_nil) q2800 dX3_writesHead_27
theorem r_X3_writesHead_30 (E : ax_EN G l) : ax_Snd G l ax_Ym M_X3_writesHead 30 (S_istore 2 31) := k_istore_n dX3_writesHead_30 rfl (Nat.le_of_ble_eq_true rfl)
theorem r_X3_writesHead_31 (E : ax_EN G l) : ax_Snd G l ax_Ym M_X3_writesHead 31 (S_aload 0 32) := k_aload_n dX3_writesHead_31 rfl
theorem r_X3_writesHead_32 (E : ax_EN G l) : ax_Snd G l ax_Ym M_X3_writesHead 32 (S_getf [(38, 50)] 35) := k_getf (en_F E) (ax_fes_cons (fe_402 E) ax_fes_nil) q2803 dX3_writesHead_32
theorem r_X3_writesHead_35 (E : ax_EN G l) : ax_Snd G l ax_Ym M_X3_writesHead 35 (S_push (.int (0)) 36) := k_iconst dX3_writesHead_35 rfl
theorem r_X3_writesHead_36 (E : ax_EN G l) : ax_Snd G l ax_Ym M_X3_writesHead 36 (S_aload 0 37) := k_aload_n dX3_writesHead_36 rfl
theorem r_X3_writesHead_37 (E : ax_EN G l) : ax_Snd G l ax_Ym M_X3_writesHead 37 (S_getf [(38, 47)] 40) := k_getf (en_F E) (ax_fes_cons (fe_467 E) ax_fes_nil) q2800 dX3_writesHead_37
theorem r_X3_writesHead_40 (E : ax_EN G l) : ax_Snd G l ax_Ym M_X3_writesHead 40 (S_iast 0 (fun x => x) 41) := k_iast (en_F E) dX3_writesHead_40
theorem r_X3_writesHead_41 (E : ax_EN G l) : ax_Snd G l ax_Ym M_X3_writesHead 41 (S_push (.int (0)) 42) := k_iconst dX3_writesHead_41 rfl
theorem r_X3_writesHead_42 (E : ax_EN G l) : ax_Snd G l ax_Ym M_X3_writesHead 42 (S_istore 3 43) := k_istore_n dX3_writesHead_42 rfl (Nat.le_of_ble_eq_true rfl)
theorem r_X3_writesHead_43 (E : ax_EN G l) : ax_Snd G l ax_Ym M_X3_writesHead 43 (S_iload 3 44) := k_iload_n dX3_writesHead_43 rfl
theorem r_X3_writesHead_44 (E : ax_EN G l) : ax_Snd G l ax_Ym M_X3_writesHead 44 (S_aload 0 45) := k_aload_n dX3_writesHead_44 rfl
theorem r_X3_writesHead_45 (E : ax_EN G l) : ax_Snd G l ax_Ym M_X3_writesHead 45 (S_getf [(38, 47)] 48) := k_getf (en_F E) (ax_fes_cons (fe_467 E) ax_fes_nil) q2800 dX3_writesHead_45
theorem r_X3_writesHead_48 (E : ax_EN G l) : ax_Snd G l ax_Ym M_X3_writesHead 48 (S_if2 (fun x y => decide (y ≤ x)) 80 51) := k_icmp_ge dX3_writesHead_48 rfl
theorem r_X3_writesHead_51 (E : ax_EN G l) : ax_Snd G l ax_Ym M_X3_writesHead 51 (S_aload 0 52) := k_aload_n dX3_writesHead_51 rfl
theorem r_X3_writesHead_52 (E : ax_EN G l) : ax_Snd G l ax_Ym M_X3_writesHead 52 (S_getf [(38, 50)] 55) := k_getf (en_F E) (ax_fes_cons (fe_402 E) ax_fes_nil) q2803 dX3_writesHead_52
theorem r_X3_writesHead_55 (E : ax_EN G l) : ax_Snd G l ax_Ym M_X3_writesHead 55 (S_push (.int (1)) 56) := k_iconst dX3_writesHead_55 rfl
theorem r_X3_writesHead_56 (E : ax_EN G l) : ax_Snd G l ax_Ym M_X3_writesHead 56 (S_iload 3 57) := k_iload_n dX3_writesHead_56 rfl
theorem r_X3_writesHead_57 (E : ax_EN G l) : ax_Snd G l ax_Ym M_X3_writesHead 57 (S_i2 (fun x y => x + y) 58) := k_iadd dX3_writesHead_57
theorem r_X3_writesHead_58 (E : ax_EN G l) : ax_Snd G l ax_Ym M_X3_writesHead 58 (S_aload 0 59) := k_aload_n dX3_writesHead_58 rfl
theorem r_X3_writesHead_59 (E : ax_EN G l) : ax_Snd G l ax_Ym M_X3_writesHead 59 (S_getf [(38, 48)] 62) := k_getf (en_F E) (ax_fes_cons (fe_398 E) ax_fes_nil) q2801 dX3_writesHead_59
theorem r_X3_writesHead_62 (E : ax_EN G l) : ax_Snd G l ax_Ym M_X3_writesHead 62 (S_iload 3 63) := k_iload_n dX3_writesHead_62 rfl
theorem r_X3_writesHead_63 (E : ax_EN G l) : ax_Snd G l ax_Ym M_X3_writesHead 63 (S_iald 0 64) := k_iald (en_F E) dX3_writesHead_63
theorem r_X3_writesHead_64 (E : ax_EN G l) : ax_Snd G l ax_Ym M_X3_writesHead 64 (S_iast 0 (fun x => x) 65) := k_iast (en_F E) dX3_writesHead_64
theorem r_X3_writesHead_65 (E : ax_EN G l) : ax_Snd G l ax_Ym M_X3_writesHead 65 (S_iload 2 66) := k_iload_n dX3_writesHead_65 rfl
theorem r_X3_writesHead_66 (E : ax_EN G l) : ax_Snd G l ax_Ym M_X3_writesHead 66 (S_aload 0 67) := k_aload_n dX3_writesHead_66 rfl
theorem r_X3_writesHead_67 (E : ax_EN G l) : ax_Snd G l ax_Ym M_X3_writesHead 67 (S_getf [(38, 48)] 70) := k_getf (en_F E) (ax_fes_cons (fe_398 E) ax_fes_nil) q2801 dX3_writesHead_67
theorem r_X3_writesHead_70 (E : ax_EN G l) : ax_Snd G l ax_Ym M_X3_writesHead 70 (S_iload 3 71) := k_iload_n dX3_writesHead_70 rfl
theorem r_X3_writesHead_71 (E : ax_EN G l) : ax_Snd G l ax_Ym M_X3_writesHead 71 (S_iald 0 72) := k_iald (en_F E) dX3_writesHead_71
theorem r_X3_writesHead_72 (E : ax_EN G l) : ax_Snd G l ax_Ym M_X3_writesHead 72 (S_i2 (fun x y => x + y) 73) := k_iadd dX3_writesHead_72
theorem r_X3_writesHead_73 (E : ax_EN G l) : ax_Snd G l ax_Ym M_X3_writesHead 73 (S_istore 2 74) := k_istore_n dX3_writesHead_73 rfl (Nat.le_of_ble_eq_true rfl)
theorem r_X3_writesHead_74 (E : ax_EN G l) : ax_Snd G l ax_Ym M_X3_writesHead 74 (S_iinc 3 (1) 77) := k_iinc dX3_writesHead_74 rfl (Nat.le_of_ble_eq_true rfl)
theorem r_X3_writesHead_77 (E : ax_EN G l) : ax_Snd G l ax_Ym M_X3_writesHead 77 (S_goto 43) := k_goto dX3_writesHead_77 rfl
theorem r_X3_writesHead_80 (E : ax_EN G l) : ax_Snd G l ax_Ym M_X3_writesHead 80 (S_push (.int (0)) 81) := k_iconst dX3_writesHead_80 rfl
theorem r_X3_writesHead_81 (E : ax_EN G l) : ax_Snd G l ax_Ym M_X3_writesHead 81 (S_istore 3 82) := k_istore_n dX3_writesHead_81 rfl (Nat.le_of_ble_eq_true rfl)
theorem r_X3_writesHead_82 (E : ax_EN G l) : ax_Snd G l ax_Ym M_X3_writesHead 82 (S_iload 3 83) := k_iload_n dX3_writesHead_82 rfl
theorem r_X3_writesHead_83 (E : ax_EN G l) : ax_Snd G l ax_Ym M_X3_writesHead 83 (S_push (.int (8)) 85) := k_bipush dX3_writesHead_83 rfl
theorem r_X3_writesHead_85 (E : ax_EN G l) : ax_Snd G l ax_Ym M_X3_writesHead 85 (S_aload 0 86) := k_aload_n dX3_writesHead_85 rfl
theorem r_X3_writesHead_86 (E : ax_EN G l) : ax_Snd G l ax_Ym M_X3_writesHead 86 (S_getf [(38, 47)] 89) := k_getf (en_F E) (ax_fes_cons (fe_467 E) ax_fes_nil) q2800 dX3_writesHead_86
theorem r_X3_writesHead_89 (E : ax_EN G l) : ax_Snd G l ax_Ym M_X3_writesHead 89 (S_i2 (fun x y => x * y) 90) := k_imul dX3_writesHead_89
theorem r_X3_writesHead_90 (E : ax_EN G l) : ax_Snd G l ax_Ym M_X3_writesHead 90 (S_if2 (fun x y => decide (y ≤ x)) 108 93) := k_icmp_ge dX3_writesHead_90 rfl
theorem r_X3_writesHead_93 (E : ax_EN G l) : ax_Snd G l ax_Ym M_X3_writesHead 93 (S_iload 2 94) := k_iload_n dX3_writesHead_93 rfl
theorem r_X3_writesHead_94 (E : ax_EN G l) : ax_Snd G l ax_Ym M_X3_writesHead 94 (S_aload 0 95) := k_aload_n dX3_writesHead_94 rfl
theorem r_X3_writesHead_95 (E : ax_EN G l) : ax_Snd G l ax_Ym M_X3_writesHead 95 (S_getf [(38, 49)] 98) := k_getf (en_F E) (ax_fes_cons (fe_400 E) ax_fes_nil) q2802 dX3_writesHead_95
theorem r_X3_writesHead_98 (E : ax_EN G l) : ax_Snd G l ax_Ym M_X3_writesHead 98 (S_iload 3 99) := k_iload_n dX3_writesHead_98 rfl
theorem r_X3_writesHead_99 (E : ax_EN G l) : ax_Snd G l ax_Ym M_X3_writesHead 99 (S_iald 0 100) := k_iald (en_F E) dX3_writesHead_99
theorem r_X3_writesHead_100 (E : ax_EN G l) : ax_Snd G l ax_Ym M_X3_writesHead 100 (S_i2 (fun x y => x + y) 101) := k_iadd dX3_writesHead_100
theorem r_X3_writesHead_101 (E : ax_EN G l) : ax_Snd G l ax_Ym M_X3_writesHead 101 (S_istore 2 102) := k_istore_n dX3_writesHead_101 rfl (Nat.le_of_ble_eq_true rfl)
theorem r_X3_writesHead_102 (E : ax_EN G l) : ax_Snd G l ax_Ym M_X3_writesHead 102 (S_iinc 3 (1) 105) := k_iinc dX3_writesHead_102 rfl (Nat.le_of_ble_eq_true rfl)
theorem r_X3_writesHead_105 (E : ax_EN G l) : ax_Snd G l ax_Ym M_X3_writesHead 105 (S_goto 82) := k_goto dX3_writesHead_105 rfl
theorem r_X3_writesHead_108 (E : ax_EN G l) : ax_Snd G l ax_Ym M_X3_writesHead 108 (S_aload 0 109) := k_aload_n dX3_writesHead_108 rfl
theorem r_X3_writesHead_109 (E : ax_EN G l) : ax_Snd G l ax_Ym M_X3_writesHead 109 (S_getf [(38, 50)] 112) := k_getf (en_F E) (ax_fes_cons (fe_402 E) ax_fes_nil) q2803 dX3_writesHead_109
theorem r_X3_writesHead_112 (E : ax_EN G l) : ax_Snd G l ax_Ym M_X3_writesHead 112 (S_push (.int (4)) 113) := k_iconst dX3_writesHead_112 rfl
theorem r_X3_writesHead_113 (E : ax_EN G l) : ax_Snd G l ax_Ym M_X3_writesHead 113 (S_iload 2 114) := k_iload_n dX3_writesHead_113 rfl
theorem r_X3_writesHead_114 (E : ax_EN G l) : ax_Snd G l ax_Ym M_X3_writesHead 114 (S_push (.int (65536)) 116) := k_ldc q3083 dX3_writesHead_114
theorem r_X3_writesHead_116 (E : ax_EN G l) : ax_Snd G l ax_Ym M_X3_writesHead 116 (S_id (fun x y => x - x / y * y) 117) := k_irem dX3_writesHead_116
theorem r_X3_writesHead_117 (E : ax_EN G l) : ax_Snd G l ax_Ym M_X3_writesHead 117 (S_iast 0 (fun x => x) 118) := k_iast (en_F E) dX3_writesHead_117
theorem r_X3_writesHead_118 (E : ax_EN G l) : ax_Snd G l ax_Ym M_X3_writesHead 118 (S_ret) := k_ret dX3_writesHead_118 rfl
theorem mt_X3_writesHead (E : ax_EN G l) : ax_mt G l ax_Ym (4, P_X3_writesHead) (ax_Ym 408) := ⟨M_X3_writesHead, yX3_writesHead, ⟨rfl, by decide +kernel, rfl, (fun h => by cases h), Or.inl ⟨rfl, rfl⟩⟩, fun pc => (ax_sn_node (ax_sn_node (ax_sn_node (ax_sn_node (ax_sn_node (ax_sn_node (ax_sn_node (ax_sn_leaf (r_X3_writesHead_118 E)) (ax_sn_leaf (r_X3_writesHead_117 E))) (ax_sn_leaf (r_X3_writesHead_116 E))) (ax_sn_node (ax_sn_leaf (r_X3_writesHead_114 E)) (ax_sn_leaf (r_X3_writesHead_113 E)))) (ax_sn_node (ax_sn_node (ax_sn_node (ax_sn_leaf (r_X3_writesHead_112 E)) (ax_sn_leaf (r_X3_writesHead_109 E))) (ax_sn_leaf (r_X3_writesHead_108 E))) (ax_sn_node (ax_sn_leaf (r_X3_writesHead_105 E)) (ax_sn_leaf (r_X3_writesHead_102 E))))) (ax_sn_node (ax_sn_node (ax_sn_node (ax_sn_node (ax_sn_leaf (r_X3_writesHead_101 E)) (ax_sn_leaf (r_X3_writesHead_100 E))) (ax_sn_leaf (r_X3_writesHead_99 E))) (ax_sn_node (ax_sn_leaf (r_X3_writesHead_98 E)) (ax_sn_leaf (r_X3_writesHead_95 E)))) (ax_sn_node (ax_sn_node (ax_sn_leaf (r_X3_writesHead_94 E)) (ax_sn_leaf (r_X3_writesHead_93 E))) (ax_sn_node (ax_sn_leaf (r_X3_writesHead_90 E)) (ax_sn_leaf (r_X3_writesHead_89 E)))))) (ax_sn_node (ax_sn_node (ax_sn_node (ax_sn_node (ax_sn_node (ax_sn_leaf (r_X3_writesHead_86 E)) (ax_sn_leaf (r_X3_writesHead_85 E))) (ax_sn_leaf (r_X3_writesHead_83 E))) (ax_sn_node (ax_sn_leaf (r_X3_writesHead_82 E)) (ax_sn_leaf (r_X3_writesHead_81 E)))) (ax_sn_node (ax_sn_node (ax_sn_leaf (r_X3_writesHead_80 E)) (ax_sn_leaf (r_X3_writesHead_77 E))) (ax_sn_node (ax_sn_leaf (r_X3_writesHead_74 E)) (ax_sn_leaf (r_X3_writesHead_73 E))))) (ax_sn_node (ax_sn_node (ax_sn_node (ax_sn_node (ax_sn_leaf (r_X3_writesHead_72 E)) (ax_sn_leaf (r_X3_writesHead_71 E))) (ax_sn_leaf (r_X3_writesHead_70 E))) (ax_sn_node (ax_sn_leaf (r_X3_writesHead_67 E)) (ax_sn_leaf (r_X3_writesHead_66 E)))) (ax_sn_node (ax_sn_node (ax_sn_leaf (r_X3_writesHead_65 E)) (ax_sn_leaf (r_X3_writesHead_64 E))) (ax_sn_node (ax_sn_leaf (r_X3_writesHead_63 E)) (ax_sn_leaf (r_X3_writesHead_62 E))))))) (ax_sn_node (ax_sn_node (ax_sn_node (ax_sn_node (ax_sn_node (ax_sn_node (ax_sn_leaf (r_X3_writesHead_59 E)) (ax_sn_leaf (r_X3_writesHead_58 E))) (ax_sn_leaf (r_X3_writesHead_57 E))) (ax_sn_node (ax_sn_leaf (r_X3_writesHead_56 E)) (ax_sn_leaf (r_X3_writesHead_55 E)))) (ax_sn_node (ax_sn_node (ax_sn_node (ax_sn_leaf (r_X3_writesHead_52 E)) (ax_sn_leaf (r_X3_writesHead_51 E))) (ax_sn_leaf (r_X3_writesHead_48 E))) (ax_sn_node (ax_sn_leaf (r_X3_writesHead_45 E)) (ax_sn_leaf (r_X3_writesHead_44 E))))) (ax_sn_node (ax_sn_node (ax_sn_node (ax_sn_node (ax_sn_leaf (r_X3_writesHead_43 E)) (ax_sn_leaf (r_X3_writesHead_42 E))) (ax_sn_leaf (r_X3_writesHead_41 E))) (ax_sn_node (ax_sn_leaf (r_X3_writesHead_40 E)) (ax_sn_leaf (r_X3_writesHead_37 E)))) (ax_sn_node (ax_sn_node (ax_sn_leaf (r_X3_writesHead_36 E)) (ax_sn_leaf (r_X3_writesHead_35 E))) (ax_sn_node (ax_sn_leaf (r_X3_writesHead_32 E)) (ax_sn_leaf (r_X3_writesHead_31 E)))))) (ax_sn_node (ax_sn_node (ax_sn_node (ax_sn_node (ax_sn_node (ax_sn_leaf (r_X3_writesHead_30 E)) (ax_sn_leaf (r_X3_writesHead_27 E))) (ax_sn_leaf (r_X3_writesHead_26 E))) (ax_sn_node (ax_sn_leaf (r_X3_writesHead_25 E)) (ax_sn_leaf (r_X3_writesHead_22 E)))) (ax_sn_node (ax_sn_node (ax_sn_leaf (r_X3_writesHead_21 E)) (ax_sn_leaf (r_X3_writesHead_18 E))) (ax_sn_node (ax_sn_leaf (r_X3_writesHead_15 E)) (ax_sn_leaf (r_X3_writesHead_14 E))))) (ax_sn_node (ax_sn_node (ax_sn_node (ax_sn_node (ax_sn_leaf (r_X3_writesHead_13 E)) (ax_sn_leaf (r_X3_writesHead_12 E))) (ax_sn_leaf (r_X3_writesHead_9 E))) (ax_sn_node (ax_sn_leaf (r_X3_writesHead_8 E)) (ax_sn_leaf (r_X3_writesHead_5 E)))) (ax_sn_node (ax_sn_node (ax_sn_leaf (r_X3_writesHead_3 E)) (ax_sn_leaf (r_X3_writesHead_2 E))) (ax_sn_node (ax_sn_leaf (r_X3_writesHead_1 E)) (ax_sn_leaf (r_X3_writesHead_0 E))))))))⟩
theorem r_X3_copies_0 (E : ax_EN G l) : ax_Snd G l ax_Ym M_X3_copies 0 (S_push (.int (0)) 1) := k_iconst dX3_copies_0 rfl
theorem r_X3_copies_1 (E : ax_EN G l) : ax_Snd G l ax_Ym M_X3_copies 1 (S_istore 2 2) := k_istore_n dX3_copies_1 rfl (Nat.le_of_ble_eq_true rfl)
theorem r_X3_copies_2 (E : ax_EN G l) : ax_Snd G l ax_Ym M_X3_copies 2 (S_iload 2 3) := k_iload_n dX3_copies_2 rfl
theorem r_X3_copies_3 (E : ax_EN G l) : ax_Snd G l ax_Ym M_X3_copies 3 (S_push (.int (256)) 6) := k_sipush dX3_copies_3 rfl
theorem r_X3_copies_6 (E : ax_EN G l) : ax_Snd G l ax_Ym M_X3_copies 6 (S_if2 (fun x y => decide (y ≤ x)) 21 9) := k_icmp_ge dX3_copies_6 rfl
theorem r_X3_copies_9 (E : ax_EN G l) : ax_Snd G l ax_Ym M_X3_copies 9 (S_aload 1 10) := k_aload_n dX3_copies_9 rfl
theorem r_X3_copies_10 (E : ax_EN G l) : ax_Snd G l ax_Ym M_X3_copies 10 (S_iload 2 11) := k_iload_n dX3_copies_10 rfl
theorem r_X3_copies_11 (E : ax_EN G l) : ax_Snd G l ax_Ym M_X3_copies 11 (S_aload 0 12) := k_aload_n dX3_copies_11 rfl
theorem r_X3_copies_12 (E : ax_EN G l) : ax_Snd G l ax_Ym M_X3_copies 12 (S_iload 2 13) := k_iload_n dX3_copies_12 rfl
theorem r_X3_copies_13 (E : ax_EN G l) : ax_Snd G l ax_Ym M_X3_copies 13 (S_iald 0 14) := k_iald (en_F E) dX3_copies_13
theorem r_X3_copies_14 (E : ax_EN G l) : ax_Snd G l ax_Ym M_X3_copies 14 (S_iast 0 (fun x => x) 15) := k_iast (en_F E) dX3_copies_14
theorem r_X3_copies_15 (E : ax_EN G l) : ax_Snd G l ax_Ym M_X3_copies 15 (S_iinc 2 (1) 18) := k_iinc dX3_copies_15 rfl (Nat.le_of_ble_eq_true rfl)
theorem r_X3_copies_18 (E : ax_EN G l) : ax_Snd G l ax_Ym M_X3_copies 18 (S_goto 2) := k_goto dX3_copies_18 rfl
theorem r_X3_copies_21 (E : ax_EN G l) : ax_Snd G l ax_Ym M_X3_copies 21 (S_ret) := k_ret dX3_copies_21 rfl
theorem mt_X3_copies (E : ax_EN G l) : ax_mt G l ax_Ym (3, P_X3_copies) (ax_Ym 409) := ⟨M_X3_copies, yX3_copies, ⟨rfl, by decide +kernel, rfl, (fun h => by cases h), Or.inl ⟨rfl, rfl⟩⟩, fun pc => (ax_sn_node (ax_sn_node (ax_sn_node (ax_sn_node (ax_sn_leaf (r_X3_copies_21 E)) (ax_sn_leaf (r_X3_copies_18 E))) (ax_sn_node (ax_sn_leaf (r_X3_copies_15 E)) (ax_sn_leaf (r_X3_copies_14 E)))) (ax_sn_node (ax_sn_node (ax_sn_leaf (r_X3_copies_13 E)) (ax_sn_leaf (r_X3_copies_12 E))) (ax_sn_leaf (r_X3_copies_11 E)))) (ax_sn_node (ax_sn_node (ax_sn_node (ax_sn_leaf (r_X3_copies_10 E)) (ax_sn_leaf (r_X3_copies_9 E))) (ax_sn_node (ax_sn_leaf (r_X3_copies_6 E)) (ax_sn_leaf (r_X3_copies_3 E)))) (ax_sn_node (ax_sn_node (ax_sn_leaf (r_X3_copies_2 E)) (ax_sn_leaf (r_X3_copies_1 E))) (ax_sn_leaf (r_X3_copies_0 E)))))⟩
theorem r_X3_wakes_0 (E : ax_EN G l) : ax_Snd G l ax_Ym M_X3_wakes 0 (S_aload 0 1) := k_aload_n dX3_wakes_0 rfl
theorem r_X3_wakes_1 (E : ax_EN G l) : ax_Snd G l ax_Ym M_X3_wakes 1 (S_iv [(38, 411)] 0 4 hd_0) := k_iv (en_F E) (ax_ok0 E rfl) (ax_Evs_cons ((ev_v (en_c E (k := 38) rfl) rfl y_X3_sleeps q3131 q3133 qs80 q126 q3134 nm_X3_sleeps (Nat.le_of_ble_eq_true rfl) dX3_wakes_1) : ax_EvV G l ax_Ym M_X3_wakes 1 0 3 38 411) ax_Evs_nil)
theorem r_X3_wakes_4 (E : ax_EN G l) : ax_Snd G l ax_Ym M_X3_wakes 4 (S_push (.int (0)) 5) := k_iconst dX3_wakes_4 rfl
theorem r_X3_wakes_5 (E : ax_EN G l) : ax_Snd G l ax_Ym M_X3_wakes 5 (S_istore 2 6) := k_istore_n dX3_wakes_5 rfl (Nat.le_of_ble_eq_true rfl)
theorem r_X3_wakes_6 (E : ax_EN G l) : ax_Snd G l ax_Ym M_X3_wakes 6 (S_iload 2 7) := k_iload_n dX3_wakes_6 rfl
theorem r_X3_wakes_7 (E : ax_EN G l) : ax_Snd G l ax_Ym M_X3_wakes 7 (S_push (.int (256)) 10) := k_sipush dX3_wakes_7 rfl
theorem r_X3_wakes_10 (E : ax_EN G l) : ax_Snd G l ax_Ym M_X3_wakes 10 (S_if2 (fun x y => decide (y ≤ x)) 28 13) := k_icmp_ge dX3_wakes_10 rfl
theorem r_X3_wakes_13 (E : ax_EN G l) : ax_Snd G l ax_Ym M_X3_wakes 13 (S_aload 0 14) := k_aload_n dX3_wakes_13 rfl
theorem r_X3_wakes_14 (E : ax_EN G l) : ax_Snd G l ax_Ym M_X3_wakes 14 (S_getf [(38, 25)] 17) := k_getf (en_F E) (ax_fes_cons (fe_384 E) ax_fes_nil) q2778 dX3_wakes_14
theorem r_X3_wakes_17 (E : ax_EN G l) : ax_Snd G l ax_Ym M_X3_wakes 17 (S_iload 2 18) := k_iload_n dX3_wakes_17 rfl
theorem r_X3_wakes_18 (E : ax_EN G l) : ax_Snd G l ax_Ym M_X3_wakes 18 (S_aload 1 19) := k_aload_n dX3_wakes_18 rfl
theorem r_X3_wakes_19 (E : ax_EN G l) : ax_Snd G l ax_Ym M_X3_wakes 19 (S_iload 2 20) := k_iload_n dX3_wakes_19 rfl
theorem r_X3_wakes_20 (E : ax_EN G l) : ax_Snd G l ax_Ym M_X3_wakes 20 (S_iald 0 21) := k_iald (en_F E) dX3_wakes_20
theorem r_X3_wakes_21 (E : ax_EN G l) : ax_Snd G l ax_Ym M_X3_wakes 21 (S_iast 0 (fun x => x) 22) := k_iast (en_F E) dX3_wakes_21
theorem r_X3_wakes_22 (E : ax_EN G l) : ax_Snd G l ax_Ym M_X3_wakes 22 (S_iinc 2 (1) 25) := k_iinc dX3_wakes_22 rfl (Nat.le_of_ble_eq_true rfl)
theorem r_X3_wakes_25 (E : ax_EN G l) : ax_Snd G l ax_Ym M_X3_wakes 25 (S_goto 6) := k_goto dX3_wakes_25 rfl
theorem r_X3_wakes_28 (E : ax_EN G l) : ax_Snd G l ax_Ym M_X3_wakes 28 (S_aload 0 29) := k_aload_n dX3_wakes_28 rfl
theorem r_X3_wakes_29 (E : ax_EN G l) : ax_Snd G l ax_Ym M_X3_wakes 29 (S_push (.int (1)) 30) := k_iconst dX3_wakes_29 rfl
theorem r_X3_wakes_30 (E : ax_EN G l) : ax_Snd G l ax_Ym M_X3_wakes 30 (S_putf [(38, 23)] (.int) 33) := k_putf (en_F E) (en_P E) (ax_fes_cons (fe_466 E) ax_fes_nil) (ax_fps_cons (fp_468 E) ax_fps_nil) q2776 dX3_wakes_30
theorem r_X3_wakes_33 (E : ax_EN G l) : ax_Snd G l ax_Ym M_X3_wakes 33 (S_aload 0 34) := k_aload_n dX3_wakes_33 rfl
theorem r_X3_wakes_34 (E : ax_EN G l) : ax_Snd G l ax_Ym M_X3_wakes 34 (S_push (.int (8)) 36) := k_bipush dX3_wakes_34 rfl
theorem r_X3_wakes_36 (E : ax_EN G l) : ax_Snd G l ax_Ym M_X3_wakes 36 (S_putf [(38, 27)] (.int) 39) := k_putf (en_F E) (en_P E) (ax_fes_cons (fe_469 E) ax_fes_nil) (ax_fps_cons (fp_470 E) ax_fps_nil) q2780 dX3_wakes_36
theorem r_X3_wakes_39 (E : ax_EN G l) : ax_Snd G l ax_Ym M_X3_wakes 39 (S_aload 0 40) := k_aload_n dX3_wakes_39 rfl
theorem r_X3_wakes_40 (E : ax_EN G l) : ax_Snd G l ax_Ym M_X3_wakes 40 (S_push (.int (256)) 43) := k_sipush dX3_wakes_40 rfl
theorem r_X3_wakes_43 (E : ax_EN G l) : ax_Snd G l ax_Ym M_X3_wakes 43 (S_putf [(38, 28)] (.int) 46) := k_putf (en_F E) (en_P E) (ax_fes_cons (fe_471 E) ax_fes_nil) (ax_fps_cons (fp_472 E) ax_fps_nil) q2781 dX3_wakes_43
theorem r_X3_wakes_46 (E : ax_EN G l) : ax_Snd G l ax_Ym M_X3_wakes 46 (S_ret) := k_ret dX3_wakes_46 rfl
theorem mt_X3_wakes (E : ax_EN G l) : ax_mt G l ax_Ym (3, P_X3_wakes) (ax_Ym 410) := ⟨M_X3_wakes, yX3_wakes, ⟨rfl, by decide +kernel, rfl, (fun h => by cases h), Or.inl ⟨rfl, rfl⟩⟩, fun pc => (ax_sn_node (ax_sn_node (ax_sn_node (ax_sn_node (ax_sn_node (ax_sn_leaf (r_X3_wakes_46 E)) (ax_sn_leaf (r_X3_wakes_43 E))) (ax_sn_node (ax_sn_leaf (r_X3_wakes_40 E)) (ax_sn_leaf (r_X3_wakes_39 E)))) (ax_sn_node (ax_sn_node (ax_sn_leaf (r_X3_wakes_36 E)) (ax_sn_leaf (r_X3_wakes_34 E))) (ax_sn_leaf (r_X3_wakes_33 E)))) (ax_sn_node (ax_sn_node (ax_sn_node (ax_sn_leaf (r_X3_wakes_30 E)) (ax_sn_leaf (r_X3_wakes_29 E))) (ax_sn_leaf (r_X3_wakes_28 E))) (ax_sn_node (ax_sn_node (ax_sn_leaf (r_X3_wakes_25 E)) (ax_sn_leaf (r_X3_wakes_22 E))) (ax_sn_leaf (r_X3_wakes_21 E))))) (ax_sn_node (ax_sn_node (ax_sn_node (ax_sn_node (ax_sn_leaf (r_X3_wakes_20 E)) (ax_sn_leaf (r_X3_wakes_19 E))) (ax_sn_node (ax_sn_leaf (r_X3_wakes_18 E)) (ax_sn_leaf (r_X3_wakes_17 E)))) (ax_sn_node (ax_sn_node (ax_sn_leaf (r_X3_wakes_14 E)) (ax_sn_leaf (r_X3_wakes_13 E))) (ax_sn_leaf (r_X3_wakes_10 E)))) (ax_sn_node (ax_sn_node (ax_sn_node (ax_sn_leaf (r_X3_wakes_7 E)) (ax_sn_leaf (r_X3_wakes_6 E))) (ax_sn_leaf (r_X3_wakes_5 E))) (ax_sn_node (ax_sn_node (ax_sn_leaf (r_X3_wakes_4 E)) (ax_sn_leaf (r_X3_wakes_1 E))) (ax_sn_leaf (r_X3_wakes_0 E))))))⟩
theorem r_X3_sleeps_0 (E : ax_EN G l) : ax_Snd G l ax_Ym M_X3_sleeps 0 (S_aload 0 1) := k_aload_n dX3_sleeps_0 rfl
theorem r_X3_sleeps_1 (E : ax_EN G l) : ax_Snd G l ax_Ym M_X3_sleeps 1 (S_push (.int (0)) 2) := k_iconst dX3_sleeps_1 rfl
theorem r_X3_sleeps_2 (E : ax_EN G l) : ax_Snd G l ax_Ym M_X3_sleeps 2 (S_putf [(38, 23)] (.int) 5) := k_putf (en_F E) (en_P E) (ax_fes_cons (fe_466 E) ax_fes_nil) (ax_fps_cons (fp_468 E) ax_fps_nil) q2776 dX3_sleeps_2
theorem r_X3_sleeps_5 (E : ax_EN G l) : ax_Snd G l ax_Ym M_X3_sleeps 5 (S_aload 0 6) := k_aload_n dX3_sleeps_5 rfl
theorem r_X3_sleeps_6 (E : ax_EN G l) : ax_Snd G l ax_Ym M_X3_sleeps 6 (S_push (.int (0)) 7) := k_iconst dX3_sleeps_6 rfl
theorem r_X3_sleeps_7 (E : ax_EN G l) : ax_Snd G l ax_Ym M_X3_sleeps 7 (S_putf [(38, 24)] (.int) 10) := k_putf (en_F E) (en_P E) (ax_fes_cons (fe_473 E) ax_fes_nil) (ax_fps_cons (fp_474 E) ax_fps_nil) q2777 dX3_sleeps_7
theorem r_X3_sleeps_10 (E : ax_EN G l) : ax_Snd G l ax_Ym M_X3_sleeps 10 (S_push (.int (0)) 11) := k_iconst dX3_sleeps_10 rfl
theorem r_X3_sleeps_11 (E : ax_EN G l) : ax_Snd G l ax_Ym M_X3_sleeps 11 (S_istore 1 12) := k_istore_n dX3_sleeps_11 rfl (Nat.le_of_ble_eq_true rfl)
theorem r_X3_sleeps_12 (E : ax_EN G l) : ax_Snd G l ax_Ym M_X3_sleeps 12 (S_iload 1 13) := k_iload_n dX3_sleeps_12 rfl
theorem r_X3_sleeps_13 (E : ax_EN G l) : ax_Snd G l ax_Ym M_X3_sleeps 13 (S_push (.int (256)) 16) := k_sipush dX3_sleeps_13 rfl
theorem r_X3_sleeps_16 (E : ax_EN G l) : ax_Snd G l ax_Ym M_X3_sleeps 16 (S_if2 (fun x y => decide (y ≤ x)) 32 19) := k_icmp_ge dX3_sleeps_16 rfl
theorem r_X3_sleeps_19 (E : ax_EN G l) : ax_Snd G l ax_Ym M_X3_sleeps 19 (S_aload 0 20) := k_aload_n dX3_sleeps_19 rfl
theorem r_X3_sleeps_20 (E : ax_EN G l) : ax_Snd G l ax_Ym M_X3_sleeps 20 (S_getf [(38, 25)] 23) := k_getf (en_F E) (ax_fes_cons (fe_384 E) ax_fes_nil) q2778 dX3_sleeps_20
theorem r_X3_sleeps_23 (E : ax_EN G l) : ax_Snd G l ax_Ym M_X3_sleeps 23 (S_iload 1 24) := k_iload_n dX3_sleeps_23 rfl
theorem r_X3_sleeps_24 (E : ax_EN G l) : ax_Snd G l ax_Ym M_X3_sleeps 24 (S_push (.int (0)) 25) := k_iconst dX3_sleeps_24 rfl
theorem r_X3_sleeps_25 (E : ax_EN G l) : ax_Snd G l ax_Ym M_X3_sleeps 25 (S_iast 0 (fun x => x) 26) := k_iast (en_F E) dX3_sleeps_25
theorem r_X3_sleeps_26 (E : ax_EN G l) : ax_Snd G l ax_Ym M_X3_sleeps 26 (S_iinc 1 (1) 29) := k_iinc dX3_sleeps_26 rfl (Nat.le_of_ble_eq_true rfl)
theorem r_X3_sleeps_29 (E : ax_EN G l) : ax_Snd G l ax_Ym M_X3_sleeps 29 (S_goto 12) := k_goto dX3_sleeps_29 rfl
theorem r_X3_sleeps_32 (E : ax_EN G l) : ax_Snd G l ax_Ym M_X3_sleeps 32 (S_push (.int (0)) 33) := k_iconst dX3_sleeps_32 rfl
theorem r_X3_sleeps_33 (E : ax_EN G l) : ax_Snd G l ax_Ym M_X3_sleeps 33 (S_istore 1 34) := k_istore_n dX3_sleeps_33 rfl (Nat.le_of_ble_eq_true rfl)
theorem r_X3_sleeps_34 (E : ax_EN G l) : ax_Snd G l ax_Ym M_X3_sleeps 34 (S_iload 1 35) := k_iload_n dX3_sleeps_34 rfl
theorem r_X3_sleeps_35 (E : ax_EN G l) : ax_Snd G l ax_Ym M_X3_sleeps 35 (S_push (.int (4)) 36) := k_iconst dX3_sleeps_35 rfl
theorem r_X3_sleeps_36 (E : ax_EN G l) : ax_Snd G l ax_Ym M_X3_sleeps 36 (S_if2 (fun x y => decide (y ≤ x)) 52 39) := k_icmp_ge dX3_sleeps_36 rfl
theorem r_X3_sleeps_39 (E : ax_EN G l) : ax_Snd G l ax_Ym M_X3_sleeps 39 (S_aload 0 40) := k_aload_n dX3_sleeps_39 rfl
theorem r_X3_sleeps_40 (E : ax_EN G l) : ax_Snd G l ax_Ym M_X3_sleeps 40 (S_getf [(38, 26)] 43) := k_getf (en_F E) (ax_fes_cons (fe_386 E) ax_fes_nil) q2779 dX3_sleeps_40
theorem r_X3_sleeps_43 (E : ax_EN G l) : ax_Snd G l ax_Ym M_X3_sleeps 43 (S_iload 1 44) := k_iload_n dX3_sleeps_43 rfl
theorem r_X3_sleeps_44 (E : ax_EN G l) : ax_Snd G l ax_Ym M_X3_sleeps 44 (S_push (.int (0)) 45) := k_iconst dX3_sleeps_44 rfl
theorem r_X3_sleeps_45 (E : ax_EN G l) : ax_Snd G l ax_Ym M_X3_sleeps 45 (S_iast 0 (fun x => x) 46) := k_iast (en_F E) dX3_sleeps_45
theorem r_X3_sleeps_46 (E : ax_EN G l) : ax_Snd G l ax_Ym M_X3_sleeps 46 (S_iinc 1 (1) 49) := k_iinc dX3_sleeps_46 rfl (Nat.le_of_ble_eq_true rfl)
theorem r_X3_sleeps_49 (E : ax_EN G l) : ax_Snd G l ax_Ym M_X3_sleeps 49 (S_goto 34) := k_goto dX3_sleeps_49 rfl
theorem r_X3_sleeps_52 (E : ax_EN G l) : ax_Snd G l ax_Ym M_X3_sleeps 52 (S_aload 0 53) := k_aload_n dX3_sleeps_52 rfl
theorem r_X3_sleeps_53 (E : ax_EN G l) : ax_Snd G l ax_Ym M_X3_sleeps 53 (S_push (.int (0)) 54) := k_iconst dX3_sleeps_53 rfl
theorem r_X3_sleeps_54 (E : ax_EN G l) : ax_Snd G l ax_Ym M_X3_sleeps 54 (S_putf [(38, 27)] (.int) 57) := k_putf (en_F E) (en_P E) (ax_fes_cons (fe_469 E) ax_fes_nil) (ax_fps_cons (fp_470 E) ax_fps_nil) q2780 dX3_sleeps_54
theorem r_X3_sleeps_57 (E : ax_EN G l) : ax_Snd G l ax_Ym M_X3_sleeps 57 (S_aload 0 58) := k_aload_n dX3_sleeps_57 rfl
theorem r_X3_sleeps_58 (E : ax_EN G l) : ax_Snd G l ax_Ym M_X3_sleeps 58 (S_push (.int (0)) 59) := k_iconst dX3_sleeps_58 rfl
theorem r_X3_sleeps_59 (E : ax_EN G l) : ax_Snd G l ax_Ym M_X3_sleeps 59 (S_putf [(38, 28)] (.int) 62) := k_putf (en_F E) (en_P E) (ax_fes_cons (fe_471 E) ax_fes_nil) (ax_fps_cons (fp_472 E) ax_fps_nil) q2781 dX3_sleeps_59
theorem r_X3_sleeps_62 (E : ax_EN G l) : ax_Snd G l ax_Ym M_X3_sleeps 62 (S_aload 0 63) := k_aload_n dX3_sleeps_62 rfl
theorem r_X3_sleeps_63 (E : ax_EN G l) : ax_Snd G l ax_Ym M_X3_sleeps 63 (S_push (.int (0)) 64) := k_iconst dX3_sleeps_63 rfl
theorem r_X3_sleeps_64 (E : ax_EN G l) : ax_Snd G l ax_Ym M_X3_sleeps 64 (S_putf [(38, 29)] (.boolean) 67) := k_putf (en_F E) (en_P E) (ax_fes_cons (fe_475 E) ax_fes_nil) (ax_fps_cons (fp_476 E) ax_fps_nil) q2782 dX3_sleeps_64
theorem r_X3_sleeps_67 (E : ax_EN G l) : ax_Snd G l ax_Ym M_X3_sleeps 67 (S_aload 0 68) := k_aload_n dX3_sleeps_67 rfl
theorem r_X3_sleeps_68 (E : ax_EN G l) : ax_Snd G l ax_Ym M_X3_sleeps 68 (S_push (.int (0)) 69) := k_iconst dX3_sleeps_68 rfl
theorem r_X3_sleeps_69 (E : ax_EN G l) : ax_Snd G l ax_Ym M_X3_sleeps 69 (S_putf [(38, 30)] (.boolean) 72) := k_putf (en_F E) (en_P E) (ax_fes_cons (fe_477 E) ax_fes_nil) (ax_fps_cons (fp_478 E) ax_fps_nil) q2783 dX3_sleeps_69
theorem r_X3_sleeps_72 (E : ax_EN G l) : ax_Snd G l ax_Ym M_X3_sleeps 72 (S_aload 0 73) := k_aload_n dX3_sleeps_72 rfl
theorem r_X3_sleeps_73 (E : ax_EN G l) : ax_Snd G l ax_Ym M_X3_sleeps 73 (S_push (.int (0)) 74) := k_iconst dX3_sleeps_73 rfl
theorem r_X3_sleeps_74 (E : ax_EN G l) : ax_Snd G l ax_Ym M_X3_sleeps 74 (S_putf [(38, 31)] (.boolean) 77) := k_putf (en_F E) (en_P E) (ax_fes_cons (fe_479 E) ax_fes_nil) (ax_fps_cons (fp_480 E) ax_fps_nil) q2784 dX3_sleeps_74
theorem r_X3_sleeps_77 (E : ax_EN G l) : ax_Snd G l ax_Ym M_X3_sleeps 77 (S_aload 0 78) := k_aload_n dX3_sleeps_77 rfl
theorem r_X3_sleeps_78 (E : ax_EN G l) : ax_Snd G l ax_Ym M_X3_sleeps 78 (S_push (.int (0)) 79) := k_iconst dX3_sleeps_78 rfl
theorem r_X3_sleeps_79 (E : ax_EN G l) : ax_Snd G l ax_Ym M_X3_sleeps 79 (S_putf [(38, 32)] (.boolean) 82) := k_putf (en_F E) (en_P E) (ax_fes_cons (fe_481 E) ax_fes_nil) (ax_fps_cons (fp_482 E) ax_fps_nil) q2785 dX3_sleeps_79
theorem r_X3_sleeps_82 (E : ax_EN G l) : ax_Snd G l ax_Ym M_X3_sleeps 82 (S_aload 0 83) := k_aload_n dX3_sleeps_82 rfl
theorem r_X3_sleeps_83 (E : ax_EN G l) : ax_Snd G l ax_Ym M_X3_sleeps 83 (S_push (.int (0)) 84) := k_iconst dX3_sleeps_83 rfl
theorem r_X3_sleeps_84 (E : ax_EN G l) : ax_Snd G l ax_Ym M_X3_sleeps 84 (S_putf [(38, 33)] (.boolean) 87) := k_putf (en_F E) (en_P E) (ax_fes_cons (fe_483 E) ax_fes_nil) (ax_fps_cons (fp_484 E) ax_fps_nil) q2786 dX3_sleeps_84
theorem r_X3_sleeps_87 (E : ax_EN G l) : ax_Snd G l ax_Ym M_X3_sleeps 87 (S_aload 0 88) := k_aload_n dX3_sleeps_87 rfl
theorem r_X3_sleeps_88 (E : ax_EN G l) : ax_Snd G l ax_Ym M_X3_sleeps 88 (S_push (.int (0)) 89) := k_iconst dX3_sleeps_88 rfl
theorem r_X3_sleeps_89 (E : ax_EN G l) : ax_Snd G l ax_Ym M_X3_sleeps 89 (S_putf [(38, 34)] (.int) 92) := k_putf (en_F E) (en_P E) (ax_fes_cons (fe_485 E) ax_fes_nil) (ax_fps_cons (fp_486 E) ax_fps_nil) q2787 dX3_sleeps_89
theorem r_X3_sleeps_92 (E : ax_EN G l) : ax_Snd G l ax_Ym M_X3_sleeps 92 (S_aload 0 93) := k_aload_n dX3_sleeps_92 rfl
theorem r_X3_sleeps_93 (E : ax_EN G l) : ax_Snd G l ax_Ym M_X3_sleeps 93 (S_push (.int (0)) 94) := k_iconst dX3_sleeps_93 rfl
theorem r_X3_sleeps_94 (E : ax_EN G l) : ax_Snd G l ax_Ym M_X3_sleeps 94 (S_putf [(38, 35)] (.int) 97) := k_putf (en_F E) (en_P E) (ax_fes_cons (fe_487 E) ax_fes_nil) (ax_fps_cons (fp_488 E) ax_fps_nil) q2788 dX3_sleeps_94
theorem r_X3_sleeps_97 (E : ax_EN G l) : ax_Snd G l ax_Ym M_X3_sleeps 97 (S_aload 0 98) := k_aload_n dX3_sleeps_97 rfl
theorem r_X3_sleeps_98 (E : ax_EN G l) : ax_Snd G l ax_Ym M_X3_sleeps 98 (S_push (.int (0)) 99) := k_iconst dX3_sleeps_98 rfl
theorem r_X3_sleeps_99 (E : ax_EN G l) : ax_Snd G l ax_Ym M_X3_sleeps 99 (S_putf [(38, 37)] (.int) 102) := k_putf (en_F E) (en_P E) (ax_fes_cons (fe_489 E) ax_fes_nil) (ax_fps_cons (fp_490 E) ax_fps_nil) q2790 dX3_sleeps_99
theorem r_X3_sleeps_102 (E : ax_EN G l) : ax_Snd G l ax_Ym M_X3_sleeps 102 (S_aload 0 103) := k_aload_n dX3_sleeps_102 rfl
theorem r_X3_sleeps_103 (E : ax_EN G l) : ax_Snd G l ax_Ym M_X3_sleeps 103 (S_push (.int (0)) 104) := k_iconst dX3_sleeps_103 rfl
theorem r_X3_sleeps_104 (E : ax_EN G l) : ax_Snd G l ax_Ym M_X3_sleeps 104 (S_putf [(38, 38)] (.int) 107) := k_putf (en_F E) (en_P E) (ax_fes_cons (fe_491 E) ax_fes_nil) (ax_fps_cons (fp_492 E) ax_fps_nil) q2791 dX3_sleeps_104
theorem r_X3_sleeps_107 (E : ax_EN G l) : ax_Snd G l ax_Ym M_X3_sleeps 107 (S_aload 0 108) := k_aload_n dX3_sleeps_107 rfl
theorem r_X3_sleeps_108 (E : ax_EN G l) : ax_Snd G l ax_Ym M_X3_sleeps 108 (S_push (.int (0)) 109) := k_iconst dX3_sleeps_108 rfl
theorem r_X3_sleeps_109 (E : ax_EN G l) : ax_Snd G l ax_Ym M_X3_sleeps 109 (S_putf [(38, 39)] (.int) 112) := k_putf (en_F E) (en_P E) (ax_fes_cons (fe_493 E) ax_fes_nil) (ax_fps_cons (fp_494 E) ax_fps_nil) q2792 dX3_sleeps_109
theorem r_X3_sleeps_112 (E : ax_EN G l) : ax_Snd G l ax_Ym M_X3_sleeps 112 (S_aload 0 113) := k_aload_n dX3_sleeps_112 rfl
theorem r_X3_sleeps_113 (E : ax_EN G l) : ax_Snd G l ax_Ym M_X3_sleeps 113 (S_push (.int (0)) 114) := k_iconst dX3_sleeps_113 rfl
theorem r_X3_sleeps_114 (E : ax_EN G l) : ax_Snd G l ax_Ym M_X3_sleeps 114 (S_putf [(38, 46)] (.int) 117) := k_putf (en_F E) (en_P E) (ax_fes_cons (fe_495 E) ax_fes_nil) (ax_fps_cons (fp_496 E) ax_fps_nil) q2799 dX3_sleeps_114
theorem r_X3_sleeps_117 (E : ax_EN G l) : ax_Snd G l ax_Ym M_X3_sleeps 117 (S_ret) := k_ret dX3_sleeps_117 rfl
theorem mt_X3_sleeps (E : ax_EN G l) : ax_mt G l ax_Ym (2, P_X3_sleeps) (ax_Ym 411) := ⟨M_X3_sleeps, yX3_sleeps, ⟨rfl, by decide +kernel, rfl, (fun h => by cases h), Or.inl ⟨rfl, rfl⟩⟩, fun pc => (ax_sn_node (ax_sn_node (ax_sn_node (ax_sn_node (ax_sn_node (ax_sn_node (ax_sn_node (ax_sn_leaf (r_X3_sleeps_117 E)) (ax_sn_leaf (r_X3_sleeps_114 E))) (ax_sn_leaf (r_X3_sleeps_113 E))) (ax_sn_node (ax_sn_leaf (r_X3_sleeps_112 E)) (ax_sn_leaf (r_X3_sleeps_109 E)))) (ax_sn_node (ax_sn_node (ax_sn_leaf (r_X3_sleeps_108 E)) (ax_sn_leaf (r_X3_sleeps_107 E))) (ax_sn_node (ax_sn_leaf (r_X3_sleeps_104 E)) (ax_sn_leaf (r_X3_sleeps_103 E))))) (ax_sn_node (ax_sn_node (ax_sn_node (ax_sn_node (ax_sn_leaf (r_X3_sleeps_102 E)) (ax_sn_leaf (r_X3_sleeps_99 E))) (ax_sn_leaf (r_X3_sleeps_98 E))) (ax_sn_node (ax_sn_leaf (r_X3_sleeps_97 E)) (ax_sn_leaf (r_X3_sleeps_94 E)))) (ax_sn_node (ax_sn_node (ax_sn_leaf (r_X3_sleeps_93 E)) (ax_sn_leaf (r_X3_sleeps_92 E))) (ax_sn_node (ax_sn_leaf (r_X3_sleeps_89 E)) (ax_sn_leaf (r_X3_sleeps_88 E)))))) (ax_sn_node (ax_sn_node (ax_sn_node (ax_sn_node (ax_sn_node (ax_sn_leaf (r_X3_sleeps_87 E)) (ax_sn_leaf (r_X3_sleeps_84 E))) (ax_sn_leaf (r_X3_sleeps_83 E))) (ax_sn_node (ax_sn_leaf (r_X3_sleeps_82 E)) (ax_sn_leaf (r_X3_sleeps_79 E)))) (ax_sn_node (ax_sn_node (ax_sn_leaf (r_X3_sleeps_78 E)) (ax_sn_leaf (r_X3_sleeps_77 E))) (ax_sn_node (ax_sn_leaf (r_X3_sleeps_74 E)) (ax_sn_leaf (r_X3_sleeps_73 E))))) (ax_sn_node (ax_sn_node (ax_sn_node (ax_sn_leaf (r_X3_sleeps_72 E)) (ax_sn_leaf (r_X3_sleeps_69 E))) (ax_sn_node (ax_sn_leaf (r_X3_sleeps_68 E)) (ax_sn_leaf (r_X3_sleeps_67 E)))) (ax_sn_node (ax_sn_node (ax_sn_leaf (r_X3_sleeps_64 E)) (ax_sn_leaf (r_X3_sleeps_63 E))) (ax_sn_node (ax_sn_leaf (r_X3_sleeps_62 E)) (ax_sn_leaf (r_X3_sleeps_59 E))))))) (ax_sn_node (ax_sn_node (ax_sn_node (ax_sn_node (ax_sn_node (ax_sn_node (ax_sn_leaf (r_X3_sleeps_58 E)) (ax_sn_leaf (r_X3_sleeps_57 E))) (ax_sn_leaf (r_X3_sleeps_54 E))) (ax_sn_node (ax_sn_leaf (r_X3_sleeps_53 E)) (ax_sn_leaf (r_X3_sleeps_52 E)))) (ax_sn_node (ax_sn_node (ax_sn_leaf (r_X3_sleeps_49 E)) (ax_sn_leaf (r_X3_sleeps_46 E))) (ax_sn_node (ax_sn_leaf (r_X3_sleeps_45 E)) (ax_sn_leaf (r_X3_sleeps_44 E))))) (ax_sn_node (ax_sn_node (ax_sn_node (ax_sn_node (ax_sn_leaf (r_X3_sleeps_43 E)) (ax_sn_leaf (r_X3_sleeps_40 E))) (ax_sn_leaf (r_X3_sleeps_39 E))) (ax_sn_node (ax_sn_leaf (r_X3_sleeps_36 E)) (ax_sn_leaf (r_X3_sleeps_35 E)))) (ax_sn_node (ax_sn_node (ax_sn_leaf (r_X3_sleeps_34 E)) (ax_sn_leaf (r_X3_sleeps_33 E))) (ax_sn_node (ax_sn_leaf (r_X3_sleeps_32 E)) (ax_sn_leaf (r_X3_sleeps_29 E)))))) (ax_sn_node (ax_sn_node (ax_sn_node (ax_sn_node (ax_sn_node (ax_sn_leaf (r_X3_sleeps_26 E)) (ax_sn_leaf (r_X3_sleeps_25 E))) (ax_sn_leaf (r_X3_sleeps_24 E))) (ax_sn_node (ax_sn_leaf (r_X3_sleeps_23 E)) (ax_sn_leaf (r_X3_sleeps_20 E)))) (ax_sn_node (ax_sn_node (ax_sn_leaf (r_X3_sleeps_19 E)) (ax_sn_leaf (r_X3_sleeps_16 E))) (ax_sn_node (ax_sn_leaf (r_X3_sleeps_13 E)) (ax_sn_leaf (r_X3_sleeps_12 E))))) (ax_sn_node (ax_sn_node (ax_sn_node (ax_sn_leaf (r_X3_sleeps_11 E)) (ax_sn_leaf (r_X3_sleeps_10 E))) (ax_sn_node (ax_sn_leaf (r_X3_sleeps_7 E)) (ax_sn_leaf (r_X3_sleeps_6 E)))) (ax_sn_node (ax_sn_node (ax_sn_leaf (r_X3_sleeps_5 E)) (ax_sn_leaf (r_X3_sleeps_2 E))) (ax_sn_node (ax_sn_leaf (r_X3_sleeps_1 E)) (ax_sn_leaf (r_X3_sleeps_0 E))))))))⟩
theorem r_X3_crash_0 (E : ax_EN G l) : ax_Snd G l ax_Ym M_X3_crash 0 (S_aload 0 1) := k_aload_n dX3_crash_0 rfl
theorem r_X3_crash_1 (E : ax_EN G l) : ax_Snd G l ax_Ym M_X3_crash 1 (S_aload 0 2) := k_aload_n dX3_crash_1 rfl
theorem r_X3_crash_2 (E : ax_EN G l) : ax_Snd G l ax_Ym M_X3_crash 2 (S_iv [(38, 405)] 0 5 hd_0) := k_iv (en_F E) (ax_ok0 E rfl) (ax_Evs_cons ((ev_v (en_c E (k := 38) rfl) rfl y_X3_isMachine q3108 q3110 qs75 q126 q3111 nm_X3_isMachine (Nat.le_of_ble_eq_true rfl) dX3_crash_2) : ax_EvV G l ax_Ym M_X3_crash 2 0 3 38 405) ax_Evs_nil)
theorem r_X3_crash_5 (E : ax_EN G l) : ax_Snd G l ax_Ym M_X3_crash 5 (S_if1 (fun x => decide (x = 0)) 12 8) := k_if_eq dX3_crash_5 rfl
theorem r_X3_crash_8 (E : ax_EN G l) : ax_Snd G l ax_Ym M_X3_crash 8 (S_push (.int (0)) 9) := k_iconst dX3_crash_8 rfl
theorem r_X3_crash_9 (E : ax_EN G l) : ax_Snd G l ax_Ym M_X3_crash 9 (S_goto 13) := k_goto dX3_crash_9 rfl
theorem r_X3_crash_12 (E : ax_EN G l) : ax_Snd G l ax_Ym M_X3_crash 12 (S_push (.int (1)) 13) := k_iconst dX3_crash_12 rfl
theorem r_X3_crash_13 (E : ax_EN G l) : ax_Snd G l ax_Ym M_X3_crash 13 (S_iv [(38, 378)] 1 16 hd_0) := k_iv (en_F E) (ax_ok0 E rfl) (ax_Evs_cons ((ev_v (en_c E (k := 38) rfl) rfl y_X3_holds q2999 q3001 qs61 q126 q3002 nm_X3_holds (Nat.le_of_ble_eq_true rfl) dX3_crash_13) : ax_EvV G l ax_Ym M_X3_crash 13 1 3 38 378) ax_Evs_nil)
theorem r_X3_crash_16 (E : ax_EN G l) : ax_Snd G l ax_Ym M_X3_crash 16 (S_if1 (fun x => decide (¬ x = 0)) 21 19) := k_if_ne dX3_crash_16 rfl
theorem r_X3_crash_19 (E : ax_EN G l) : ax_Snd G l ax_Ym M_X3_crash 19 (S_push (.int (0)) 20) := k_iconst dX3_crash_19 rfl
theorem r_X3_crash_20 (E : ax_EN G l) : ax_Snd G l ax_Ym M_X3_crash 20 (S_iret) := k_iret dX3_crash_20 rfl
theorem r_X3_crash_21 (E : ax_EN G l) : ax_Snd G l ax_Ym M_X3_crash 21 (S_aload 0 22) := k_aload_n dX3_crash_21 rfl
theorem r_X3_crash_22 (E : ax_EN G l) : ax_Snd G l ax_Ym M_X3_crash 22 (S_getf [(38, 38)] 25) := k_getf (en_F E) (ax_fes_cons (fe_491 E) ax_fes_nil) q2791 dX3_crash_22
theorem r_X3_crash_25 (E : ax_EN G l) : ax_Snd G l ax_Ym M_X3_crash 25 (S_istore 1 26) := k_istore_n dX3_crash_25 rfl (Nat.le_of_ble_eq_true rfl)
theorem r_X3_crash_26 (E : ax_EN G l) : ax_Snd G l ax_Ym M_X3_crash 26 (S_aload 0 27) := k_aload_n dX3_crash_26 rfl
theorem r_X3_crash_27 (E : ax_EN G l) : ax_Snd G l ax_Ym M_X3_crash 27 (S_push (.int (0)) 28) := k_iconst dX3_crash_27 rfl
theorem r_X3_crash_28 (E : ax_EN G l) : ax_Snd G l ax_Ym M_X3_crash 28 (S_putf [(38, 40)] (.int) 31) := k_putf (en_F E) (en_P E) (ax_fes_cons (fe_464 E) ax_fes_nil) (ax_fps_cons (fp_465 E) ax_fps_nil) q2793 dX3_crash_28
theorem r_X3_crash_31 (E : ax_EN G l) : ax_Snd G l ax_Ym M_X3_crash 31 (S_aload 0 32) := k_aload_n dX3_crash_31 rfl
theorem r_X3_crash_32 (E : ax_EN G l) : ax_Snd G l ax_Ym M_X3_crash 32 (S_iv [(38, 411)] 0 35 hd_0) := k_iv (en_F E) (ax_ok0 E rfl) (ax_Evs_cons ((ev_v (en_c E (k := 38) rfl) rfl y_X3_sleeps q3131 q3133 qs80 q126 q3134 nm_X3_sleeps (Nat.le_of_ble_eq_true rfl) dX3_crash_32) : ax_EvV G l ax_Ym M_X3_crash 32 0 3 38 411) ax_Evs_nil)
theorem r_X3_crash_35 (E : ax_EN G l) : ax_Snd G l ax_Ym M_X3_crash 35 (S_iload 1 36) := k_iload_n dX3_crash_35 rfl
theorem r_X3_crash_36 (E : ax_EN G l) : ax_Snd G l ax_Ym M_X3_crash 36 (S_iret) := k_iret dX3_crash_36 rfl
theorem mt_X3_crash (E : ax_EN G l) : ax_mt G l ax_Ym (2, P_X3_crash) (ax_Ym 412) := ⟨M_X3_crash, yX3_crash, ⟨rfl, by decide +kernel, rfl, (fun h => by cases h), Or.inl ⟨rfl, rfl⟩⟩, fun pc => (ax_sn_node (ax_sn_node (ax_sn_node (ax_sn_node (ax_sn_node (ax_sn_leaf (r_X3_crash_36 E)) (ax_sn_leaf (r_X3_crash_35 E))) (ax_sn_leaf (r_X3_crash_32 E))) (ax_sn_node (ax_sn_node (ax_sn_leaf (r_X3_crash_31 E)) (ax_sn_leaf (r_X3_crash_28 E))) (ax_sn_leaf (r_X3_crash_27 E)))) (ax_sn_node (ax_sn_node (ax_sn_node (ax_sn_leaf (r_X3_crash_26 E)) (ax_sn_leaf (r_X3_crash_25 E))) (ax_sn_leaf (r_X3_crash_22 E))) (ax_sn_node (ax_sn_leaf (r_X3_crash_21 E)) (ax_sn_leaf (r_X3_crash_20 E))))) (ax_sn_node (ax_sn_node (ax_sn_node (ax_sn_node (ax_sn_leaf (r_X3_crash_19 E)) (ax_sn_leaf (r_X3_crash_16 E))) (ax_sn_leaf (r_X3_crash_13 E))) (ax_sn_node (ax_sn_leaf (r_X3_crash_12 E)) (ax_sn_leaf (r_X3_crash_9 E)))) (ax_sn_node (ax_sn_node (ax_sn_node (ax_sn_leaf (r_X3_crash_8 E)) (ax_sn_leaf (r_X3_crash_5 E))) (ax_sn_leaf (r_X3_crash_2 E))) (ax_sn_node (ax_sn_leaf (r_X3_crash_1 E)) (ax_sn_leaf (r_X3_crash_0 E))))))⟩
theorem r_X3_format_0 (E : ax_EN G l) : ax_Snd G l ax_Ym M_X3_format 0 (S_aload 0 1) := k_aload_n dX3_format_0 rfl
theorem r_X3_format_1 (E : ax_EN G l) : ax_Snd G l ax_Ym M_X3_format 1 (S_aload 0 2) := k_aload_n dX3_format_1 rfl
theorem r_X3_format_2 (E : ax_EN G l) : ax_Snd G l ax_Ym M_X3_format 2 (S_iv [(38, 405)] 0 5 hd_0) := k_iv (en_F E) (ax_ok0 E rfl) (ax_Evs_cons ((ev_v (en_c E (k := 38) rfl) rfl y_X3_isMachine q3108 q3110 qs75 q126 q3111 nm_X3_isMachine (Nat.le_of_ble_eq_true rfl) dX3_format_2) : ax_EvV G l ax_Ym M_X3_format 2 0 3 38 405) ax_Evs_nil)
theorem r_X3_format_5 (E : ax_EN G l) : ax_Snd G l ax_Ym M_X3_format 5 (S_if1 (fun x => decide (x = 0)) 12 8) := k_if_eq dX3_format_5 rfl
theorem r_X3_format_8 (E : ax_EN G l) : ax_Snd G l ax_Ym M_X3_format 8 (S_push (.int (1)) 9) := k_iconst dX3_format_8 rfl
theorem r_X3_format_9 (E : ax_EN G l) : ax_Snd G l ax_Ym M_X3_format 9 (S_goto 13) := k_goto dX3_format_9 rfl
theorem r_X3_format_12 (E : ax_EN G l) : ax_Snd G l ax_Ym M_X3_format 12 (S_push (.int (0)) 13) := k_iconst dX3_format_12 rfl
theorem r_X3_format_13 (E : ax_EN G l) : ax_Snd G l ax_Ym M_X3_format 13 (S_iv [(38, 378)] 1 16 hd_0) := k_iv (en_F E) (ax_ok0 E rfl) (ax_Evs_cons ((ev_v (en_c E (k := 38) rfl) rfl y_X3_holds q2999 q3001 qs61 q126 q3002 nm_X3_holds (Nat.le_of_ble_eq_true rfl) dX3_format_13) : ax_EvV G l ax_Ym M_X3_format 13 1 3 38 378) ax_Evs_nil)
theorem r_X3_format_16 (E : ax_EN G l) : ax_Snd G l ax_Ym M_X3_format 16 (S_if1 (fun x => decide (¬ x = 0)) 21 19) := k_if_ne dX3_format_16 rfl
theorem r_X3_format_19 (E : ax_EN G l) : ax_Snd G l ax_Ym M_X3_format 19 (S_push (.int (0)) 20) := k_iconst dX3_format_19 rfl
theorem r_X3_format_20 (E : ax_EN G l) : ax_Snd G l ax_Ym M_X3_format 20 (S_iret) := k_iret dX3_format_20 rfl
theorem r_X3_format_21 (E : ax_EN G l) : ax_Snd G l ax_Ym M_X3_format 21 (S_aload 0 22) := k_aload_n dX3_format_21 rfl
theorem r_X3_format_22 (E : ax_EN G l) : ax_Snd G l ax_Ym M_X3_format 22 (S_iv [(38, 414)] 0 25 hd_0) := k_iv (en_F E) (ax_ok0 E rfl) (ax_Evs_cons ((ev_v (en_c E (k := 38) rfl) rfl y_X3_filesOf q3143 q3145 qs81 q126 q3146 nm_X3_filesOf (Nat.le_of_ble_eq_true rfl) dX3_format_22) : ax_EvV G l ax_Ym M_X3_format 22 0 3 38 414) ax_Evs_nil)
theorem r_X3_format_25 (E : ax_EN G l) : ax_Snd G l ax_Ym M_X3_format 25 (S_istore 1 26) := k_istore_n dX3_format_25 rfl (Nat.le_of_ble_eq_true rfl)
theorem r_X3_format_26 (E : ax_EN G l) : ax_Snd G l ax_Ym M_X3_format 26 (S_aload 0 27) := k_aload_n dX3_format_26 rfl
theorem r_X3_format_27 (E : ax_EN G l) : ax_Snd G l ax_Ym M_X3_format 27 (S_iv [(38, 371)] 0 30 hd_0) := k_iv (en_F E) (ax_ok0 E rfl) (ax_Evs_cons ((ev_v (en_c E (k := 38) rfl) rfl y_X3_formats q2749 q2751 qs59 q126 q2752 nm_X3_formats (Nat.le_of_ble_eq_true rfl) dX3_format_27) : ax_EvV G l ax_Ym M_X3_format 27 0 3 38 371) ax_Evs_nil)
theorem r_X3_format_30 (E : ax_EN G l) : ax_Snd G l ax_Ym M_X3_format 30 (S_iload 1 31) := k_iload_n dX3_format_30 rfl
theorem r_X3_format_31 (E : ax_EN G l) : ax_Snd G l ax_Ym M_X3_format 31 (S_iret) := k_iret dX3_format_31 rfl
theorem mt_X3_format (E : ax_EN G l) : ax_mt G l ax_Ym (2, P_X3_format) (ax_Ym 413) := ⟨M_X3_format, yX3_format, ⟨rfl, by decide +kernel, rfl, (fun h => by cases h), Or.inl ⟨rfl, rfl⟩⟩, fun pc => (ax_sn_node (ax_sn_node (ax_sn_node (ax_sn_node (ax_sn_node (ax_sn_leaf (r_X3_format_31 E)) (ax_sn_leaf (r_X3_format_30 E))) (ax_sn_leaf (r_X3_format_27 E))) (ax_sn_node (ax_sn_leaf (r_X3_format_26 E)) (ax_sn_leaf (r_X3_format_25 E)))) (ax_sn_node (ax_sn_node (ax_sn_leaf (r_X3_format_22 E)) (ax_sn_leaf (r_X3_format_21 E))) (ax_sn_node (ax_sn_leaf (r_X3_format_20 E)) (ax_sn_leaf (r_X3_format_19 E))))) (ax_sn_node (ax_sn_node (ax_sn_node (ax_sn_node (ax_sn_leaf (r_X3_format_16 E)) (ax_sn_leaf (r_X3_format_13 E))) (ax_sn_leaf (r_X3_format_12 E))) (ax_sn_node (ax_sn_leaf (r_X3_format_9 E)) (ax_sn_leaf (r_X3_format_8 E)))) (ax_sn_node (ax_sn_node (ax_sn_leaf (r_X3_format_5 E)) (ax_sn_leaf (r_X3_format_2 E))) (ax_sn_node (ax_sn_leaf (r_X3_format_1 E)) (ax_sn_leaf (r_X3_format_0 E))))))⟩
theorem r_X3_filesOf_0 (E : ax_EN G l) : ax_Snd G l ax_Ym M_X3_filesOf 0 (S_push (.int (0)) 1) := k_iconst dX3_filesOf_0 rfl
theorem r_X3_filesOf_1 (E : ax_EN G l) : ax_Snd G l ax_Ym M_X3_filesOf 1 (S_istore 1 2) := k_istore_n dX3_filesOf_1 rfl (Nat.le_of_ble_eq_true rfl)
theorem r_X3_filesOf_2 (E : ax_EN G l) : ax_Snd G l ax_Ym M_X3_filesOf 2 (S_push (.int (0)) 3) := k_iconst dX3_filesOf_2 rfl
theorem r_X3_filesOf_3 (E : ax_EN G l) : ax_Snd G l ax_Ym M_X3_filesOf 3 (S_istore 2 4) := k_istore_n dX3_filesOf_3 rfl (Nat.le_of_ble_eq_true rfl)
theorem r_X3_filesOf_4 (E : ax_EN G l) : ax_Snd G l ax_Ym M_X3_filesOf 4 (S_iload 2 5) := k_iload_n dX3_filesOf_4 rfl
theorem r_X3_filesOf_5 (E : ax_EN G l) : ax_Snd G l ax_Ym M_X3_filesOf 5 (S_push (.int (6)) 7) := k_bipush dX3_filesOf_5 rfl
theorem r_X3_filesOf_7 (E : ax_EN G l) : ax_Snd G l ax_Ym M_X3_filesOf 7 (S_if2 (fun x y => decide (y ≤ x)) 36 10) := k_icmp_ge dX3_filesOf_7 rfl
theorem r_X3_filesOf_10 (E : ax_EN G l) : ax_Snd G l ax_Ym M_X3_filesOf 10 (S_iload 1 11) := k_iload_n dX3_filesOf_10 rfl
theorem r_X3_filesOf_11 (E : ax_EN G l) : ax_Snd G l ax_Ym M_X3_filesOf 11 (S_aload 0 12) := k_aload_n dX3_filesOf_11 rfl
theorem r_X3_filesOf_12 (E : ax_EN G l) : ax_Snd G l ax_Ym M_X3_filesOf 12 (S_getf [(38, 50)] 15) := k_getf (en_F E) (ax_fes_cons (fe_402 E) ax_fes_nil) q2803 dX3_filesOf_12
theorem r_X3_filesOf_15 (E : ax_EN G l) : ax_Snd G l ax_Ym M_X3_filesOf 15 (S_iload 2 16) := k_iload_n dX3_filesOf_15 rfl
theorem r_X3_filesOf_16 (E : ax_EN G l) : ax_Snd G l ax_Ym M_X3_filesOf 16 (S_is 415 1 19 hd_0) := k_is (en_F E) (ax_ok0 E rfl) ((ev_s y_X3_entry q3147 q3148 q126 q3149 nm_X3_entry (Nat.le_of_ble_eq_true rfl) dX3_filesOf_16) : ax_EvS G l ax_Ym M_X3_filesOf 16 415 1 3)
theorem r_X3_filesOf_19 (E : ax_EN G l) : ax_Snd G l ax_Ym M_X3_filesOf 19 (S_iald 0 20) := k_iald (en_F E) dX3_filesOf_19
theorem r_X3_filesOf_20 (E : ax_EN G l) : ax_Snd G l ax_Ym M_X3_filesOf 20 (S_if1 (fun x => decide (¬ x = 0)) 27 23) := k_if_ne dX3_filesOf_20 rfl
theorem r_X3_filesOf_23 (E : ax_EN G l) : ax_Snd G l ax_Ym M_X3_filesOf 23 (S_push (.int (0)) 24) := k_iconst dX3_filesOf_23 rfl
theorem r_X3_filesOf_24 (E : ax_EN G l) : ax_Snd G l ax_Ym M_X3_filesOf 24 (S_goto 28) := k_goto dX3_filesOf_24 rfl
theorem r_X3_filesOf_27 (E : ax_EN G l) : ax_Snd G l ax_Ym M_X3_filesOf 27 (S_push (.int (1)) 28) := k_iconst dX3_filesOf_27 rfl
theorem r_X3_filesOf_28 (E : ax_EN G l) : ax_Snd G l ax_Ym M_X3_filesOf 28 (S_i2 (fun x y => x + y) 29) := k_iadd dX3_filesOf_28
theorem r_X3_filesOf_29 (E : ax_EN G l) : ax_Snd G l ax_Ym M_X3_filesOf 29 (S_istore 1 30) := k_istore_n dX3_filesOf_29 rfl (Nat.le_of_ble_eq_true rfl)
theorem r_X3_filesOf_30 (E : ax_EN G l) : ax_Snd G l ax_Ym M_X3_filesOf 30 (S_iinc 2 (1) 33) := k_iinc dX3_filesOf_30 rfl (Nat.le_of_ble_eq_true rfl)
theorem r_X3_filesOf_33 (E : ax_EN G l) : ax_Snd G l ax_Ym M_X3_filesOf 33 (S_goto 4) := k_goto dX3_filesOf_33 rfl
theorem r_X3_filesOf_36 (E : ax_EN G l) : ax_Snd G l ax_Ym M_X3_filesOf 36 (S_iload 1 37) := k_iload_n dX3_filesOf_36 rfl
theorem r_X3_filesOf_37 (E : ax_EN G l) : ax_Snd G l ax_Ym M_X3_filesOf 37 (S_iret) := k_iret dX3_filesOf_37 rfl
theorem mt_X3_filesOf (E : ax_EN G l) : ax_mt G l ax_Ym (3, P_X3_filesOf) (ax_Ym 414) := ⟨M_X3_filesOf, yX3_filesOf, ⟨rfl, by decide +kernel, rfl, (fun h => by cases h), Or.inl ⟨rfl, rfl⟩⟩, fun pc => (ax_sn_node (ax_sn_node (ax_sn_node (ax_sn_node (ax_sn_node (ax_sn_leaf (r_X3_filesOf_37 E)) (ax_sn_leaf (r_X3_filesOf_36 E))) (ax_sn_leaf (r_X3_filesOf_33 E))) (ax_sn_node (ax_sn_node (ax_sn_leaf (r_X3_filesOf_30 E)) (ax_sn_leaf (r_X3_filesOf_29 E))) (ax_sn_leaf (r_X3_filesOf_28 E)))) (ax_sn_node (ax_sn_node (ax_sn_node (ax_sn_leaf (r_X3_filesOf_27 E)) (ax_sn_leaf (r_X3_filesOf_24 E))) (ax_sn_leaf (r_X3_filesOf_23 E))) (ax_sn_node (ax_sn_node (ax_sn_leaf (r_X3_filesOf_20 E)) (ax_sn_leaf (r_X3_filesOf_19 E))) (ax_sn_leaf (r_X3_filesOf_16 E))))) (ax_sn_node (ax_sn_node (ax_sn_node (ax_sn_node (ax_sn_leaf (r_X3_filesOf_15 E)) (ax_sn_leaf (r_X3_filesOf_12 E))) (ax_sn_leaf (r_X3_filesOf_11 E))) (ax_sn_node (ax_sn_node (ax_sn_leaf (r_X3_filesOf_10 E)) (ax_sn_leaf (r_X3_filesOf_7 E))) (ax_sn_leaf (r_X3_filesOf_5 E)))) (ax_sn_node (ax_sn_node (ax_sn_node (ax_sn_leaf (r_X3_filesOf_4 E)) (ax_sn_leaf (r_X3_filesOf_3 E))) (ax_sn_leaf (r_X3_filesOf_2 E))) (ax_sn_node (ax_sn_leaf (r_X3_filesOf_1 E)) (ax_sn_leaf (r_X3_filesOf_0 E))))))⟩
theorem r_X3_entry_0 (E : ax_EN G l) : ax_Snd G l ax_Ym M_X3_entry 0 (S_push (.int (40)) 2) := k_bipush dX3_entry_0 rfl
theorem r_X3_entry_2 (E : ax_EN G l) : ax_Snd G l ax_Ym M_X3_entry 2 (S_push (.int (4)) 3) := k_iconst dX3_entry_2 rfl
theorem r_X3_entry_3 (E : ax_EN G l) : ax_Snd G l ax_Ym M_X3_entry 3 (S_iload 0 4) := k_iload_n dX3_entry_3 rfl
theorem r_X3_entry_4 (E : ax_EN G l) : ax_Snd G l ax_Ym M_X3_entry 4 (S_i2 (fun x y => x * y) 5) := k_imul dX3_entry_4
theorem r_X3_entry_5 (E : ax_EN G l) : ax_Snd G l ax_Ym M_X3_entry 5 (S_i2 (fun x y => x + y) 6) := k_iadd dX3_entry_5
theorem r_X3_entry_6 (E : ax_EN G l) : ax_Snd G l ax_Ym M_X3_entry 6 (S_iret) := k_iret dX3_entry_6 rfl
theorem mt_X3_entry (E : ax_EN G l) : ax_mt G l ax_Ym (1, P_X3_entry) (ax_Ym 415) := ⟨M_X3_entry, yX3_entry, ⟨rfl, by decide +kernel, rfl, (fun h => by cases h), Or.inl ⟨rfl, rfl⟩⟩, fun pc => (ax_sn_node (ax_sn_node (ax_sn_node (ax_sn_leaf (r_X3_entry_6 E)) (ax_sn_leaf (r_X3_entry_5 E))) (ax_sn_leaf (r_X3_entry_4 E))) (ax_sn_node (ax_sn_node (ax_sn_leaf (r_X3_entry_3 E)) (ax_sn_leaf (r_X3_entry_2 E))) (ax_sn_leaf (r_X3_entry_0 E))))⟩
theorem r_X3_step_0 (E : ax_EN G l) : ax_Snd G l ax_Ym M_X3_step 0 (S_aload 0 1) := k_aload_n dX3_step_0 rfl
theorem r_X3_step_1 (E : ax_EN G l) : ax_Snd G l ax_Ym M_X3_step 1 (S_iload 1 2) := k_iload_n dX3_step_1 rfl
theorem r_X3_step_2 (E : ax_EN G l) : ax_Snd G l ax_Ym M_X3_step 2 (S_push (.int (1)) 3) := k_iconst dX3_step_2 rfl
theorem r_X3_step_3 (E : ax_EN G l) : ax_Snd G l ax_Ym M_X3_step 3 (S_push (.int (100)) 5) := k_bipush dX3_step_3 rfl
theorem r_X3_step_5 (E : ax_EN G l) : ax_Snd G l ax_Ym M_X3_step 5 (S_is 376 3 8 hd_0) := k_is (en_F E) (ax_ok0 E rfl) ((ev_s y_X3_in q2992 q2993 q126 q2994 nm_X3_in (Nat.le_of_ble_eq_true rfl) dX3_step_5) : ax_EvS G l ax_Ym M_X3_step 5 376 3 3)
theorem r_X3_step_8 (E : ax_EN G l) : ax_Snd G l ax_Ym M_X3_step 8 (S_if1 (fun x => decide (¬ x = 0)) 15 11) := k_if_ne dX3_step_8 rfl
theorem r_X3_step_11 (E : ax_EN G l) : ax_Snd G l ax_Ym M_X3_step 11 (S_push (.int (1)) 12) := k_iconst dX3_step_11 rfl
theorem r_X3_step_12 (E : ax_EN G l) : ax_Snd G l ax_Ym M_X3_step 12 (S_goto 27) := k_goto dX3_step_12 rfl
theorem r_X3_step_15 (E : ax_EN G l) : ax_Snd G l ax_Ym M_X3_step 15 (S_aload 0 16) := k_aload_n dX3_step_15 rfl
theorem r_X3_step_16 (E : ax_EN G l) : ax_Snd G l ax_Ym M_X3_step 16 (S_iv [(38, 405)] 0 19 hd_0) := k_iv (en_F E) (ax_ok0 E rfl) (ax_Evs_cons ((ev_v (en_c E (k := 38) rfl) rfl y_X3_isMachine q3108 q3110 qs75 q126 q3111 nm_X3_isMachine (Nat.le_of_ble_eq_true rfl) dX3_step_16) : ax_EvV G l ax_Ym M_X3_step 16 0 3 38 405) ax_Evs_nil)
theorem r_X3_step_19 (E : ax_EN G l) : ax_Snd G l ax_Ym M_X3_step 19 (S_if1 (fun x => decide (x = 0)) 26 22) := k_if_eq dX3_step_19 rfl
theorem r_X3_step_22 (E : ax_EN G l) : ax_Snd G l ax_Ym M_X3_step 22 (S_push (.int (0)) 23) := k_iconst dX3_step_22 rfl
theorem r_X3_step_23 (E : ax_EN G l) : ax_Snd G l ax_Ym M_X3_step 23 (S_goto 27) := k_goto dX3_step_23 rfl
theorem r_X3_step_26 (E : ax_EN G l) : ax_Snd G l ax_Ym M_X3_step 26 (S_push (.int (2)) 27) := k_iconst dX3_step_26 rfl
theorem r_X3_step_27 (E : ax_EN G l) : ax_Snd G l ax_Ym M_X3_step 27 (S_iv [(38, 378)] 1 30 hd_0) := k_iv (en_F E) (ax_ok0 E rfl) (ax_Evs_cons ((ev_v (en_c E (k := 38) rfl) rfl y_X3_holds q2999 q3001 qs61 q126 q3002 nm_X3_holds (Nat.le_of_ble_eq_true rfl) dX3_step_27) : ax_EvV G l ax_Ym M_X3_step 27 1 3 38 378) ax_Evs_nil)
theorem r_X3_step_30 (E : ax_EN G l) : ax_Snd G l ax_Ym M_X3_step 30 (S_if1 (fun x => decide (¬ x = 0)) 35 33) := k_if_ne dX3_step_30 rfl
theorem r_X3_step_33 (E : ax_EN G l) : ax_Snd G l ax_Ym M_X3_step 33 (S_push (.int (0)) 34) := k_iconst dX3_step_33 rfl
theorem r_X3_step_34 (E : ax_EN G l) : ax_Snd G l ax_Ym M_X3_step 34 (S_iret) := k_iret dX3_step_34 rfl
theorem r_X3_step_35 (E : ax_EN G l) : ax_Snd G l ax_Ym M_X3_step 35 (S_push (.int (0)) 36) := k_iconst dX3_step_35 rfl
theorem r_X3_step_36 (E : ax_EN G l) : ax_Snd G l ax_Ym M_X3_step 36 (S_istore 2 37) := k_istore_n dX3_step_36 rfl (Nat.le_of_ble_eq_true rfl)
theorem r_X3_step_37 (E : ax_EN G l) : ax_Snd G l ax_Ym M_X3_step 37 (S_iload 2 38) := k_iload_n dX3_step_37 rfl
theorem r_X3_step_38 (E : ax_EN G l) : ax_Snd G l ax_Ym M_X3_step 38 (S_iload 1 39) := k_iload_n dX3_step_38 rfl
theorem r_X3_step_39 (E : ax_EN G l) : ax_Snd G l ax_Ym M_X3_step 39 (S_if2 (fun x y => decide (y ≤ x)) 59 42) := k_icmp_ge dX3_step_39 rfl
theorem r_X3_step_42 (E : ax_EN G l) : ax_Snd G l ax_Ym M_X3_step 42 (S_aload 0 43) := k_aload_n dX3_step_42 rfl
theorem r_X3_step_43 (E : ax_EN G l) : ax_Snd G l ax_Ym M_X3_step 43 (S_iv [(38, 417)] 0 46 hd_0) := k_iv (en_F E) (ax_ok0 E rfl) (ax_Evs_cons ((ev_v (en_c E (k := 38) rfl) rfl y_X3_canStep q3154 q3156 qs82 q126 q3157 nm_X3_canStep (Nat.le_of_ble_eq_true rfl) dX3_step_43) : ax_EvV G l ax_Ym M_X3_step 43 0 3 38 417) ax_Evs_nil)
theorem r_X3_step_46 (E : ax_EN G l) : ax_Snd G l ax_Ym M_X3_step 46 (S_if1 (fun x => decide (x = 0)) 59 49) := k_if_eq dX3_step_46 rfl
theorem r_X3_step_49 (E : ax_EN G l) : ax_Snd G l ax_Ym M_X3_step 49 (S_aload 0 50) := k_aload_n dX3_step_49 rfl
theorem r_X3_step_50 (E : ax_EN G l) : ax_Snd G l ax_Ym M_X3_step 50 (S_iv [(38, 418)] 0 53 hd_0) := k_iv (en_F E) (ax_ok0 E rfl) (ax_Evs_cons ((ev_v (en_c E (k := 38) rfl) rfl y_X3_stepsAndKeeps q3158 q3160 qs83 q126 q3161 nm_X3_stepsAndKeeps (Nat.le_of_ble_eq_true rfl) dX3_step_50) : ax_EvV G l ax_Ym M_X3_step 50 0 3 38 418) ax_Evs_nil)
theorem r_X3_step_53 (E : ax_EN G l) : ax_Snd G l ax_Ym M_X3_step 53 (S_iinc 2 (1) 56) := k_iinc dX3_step_53 rfl (Nat.le_of_ble_eq_true rfl)
theorem r_X3_step_56 (E : ax_EN G l) : ax_Snd G l ax_Ym M_X3_step 56 (S_goto 37) := k_goto dX3_step_56 rfl
theorem r_X3_step_59 (E : ax_EN G l) : ax_Snd G l ax_Ym M_X3_step 59 (S_iload 2 60) := k_iload_n dX3_step_59 rfl
theorem r_X3_step_60 (E : ax_EN G l) : ax_Snd G l ax_Ym M_X3_step 60 (S_iret) := k_iret dX3_step_60 rfl
theorem mt_X3_step (E : ax_EN G l) : ax_mt G l ax_Ym (3, P_X3_step) (ax_Ym 416) := ⟨M_X3_step, yX3_step, ⟨rfl, by decide +kernel, rfl, (fun h => by cases h), Or.inl ⟨rfl, rfl⟩⟩, fun pc => (ax_sn_node (ax_sn_node (ax_sn_node (ax_sn_node (ax_sn_node (ax_sn_leaf (r_X3_step_60 E)) (ax_sn_leaf (r_X3_step_59 E))) (ax_sn_node (ax_sn_leaf (r_X3_step_56 E)) (ax_sn_leaf (r_X3_step_53 E)))) (ax_sn_node (ax_sn_node (ax_sn_leaf (r_X3_step_50 E)) (ax_sn_leaf (r_X3_step_49 E))) (ax_sn_node (ax_sn_leaf (r_X3_step_46 E)) (ax_sn_leaf (r_X3_step_43 E))))) (ax_sn_node (ax_sn_node (ax_sn_node (ax_sn_leaf (r_X3_step_42 E)) (ax_sn_leaf (r_X3_step_39 E))) (ax_sn_node (ax_sn_leaf (r_X3_step_38 E)) (ax_sn_leaf (r_X3_step_37 E)))) (ax_sn_node (ax_sn_node (ax_sn_leaf (r_X3_step_36 E)) (ax_sn_leaf (r_X3_step_35 E))) (ax_sn_node (ax_sn_leaf (r_X3_step_34 E)) (ax_sn_leaf (r_X3_step_33 E)))))) (ax_sn_node (ax_sn_node (ax_sn_node (ax_sn_node (ax_sn_leaf (r_X3_step_30 E)) (ax_sn_leaf (r_X3_step_27 E))) (ax_sn_node (ax_sn_leaf (r_X3_step_26 E)) (ax_sn_leaf (r_X3_step_23 E)))) (ax_sn_node (ax_sn_node (ax_sn_leaf (r_X3_step_22 E)) (ax_sn_leaf (r_X3_step_19 E))) (ax_sn_node (ax_sn_leaf (r_X3_step_16 E)) (ax_sn_leaf (r_X3_step_15 E))))) (ax_sn_node (ax_sn_node (ax_sn_node (ax_sn_leaf (r_X3_step_12 E)) (ax_sn_leaf (r_X3_step_11 E))) (ax_sn_node (ax_sn_leaf (r_X3_step_8 E)) (ax_sn_leaf (r_X3_step_5 E)))) (ax_sn_node (ax_sn_node (ax_sn_leaf (r_X3_step_3 E)) (ax_sn_leaf (r_X3_step_2 E))) (ax_sn_node (ax_sn_leaf (r_X3_step_1 E)) (ax_sn_leaf (r_X3_step_0 E)))))))⟩
theorem r_X3_canStep_0 (E : ax_EN G l) : ax_Snd G l ax_Ym M_X3_canStep 0 (S_aload 0 1) := k_aload_n dX3_canStep_0 rfl
theorem r_X3_canStep_1 (E : ax_EN G l) : ax_Snd G l ax_Ym M_X3_canStep 1 (S_getf [(38, 23)] 4) := k_getf (en_F E) (ax_fes_cons (fe_466 E) ax_fes_nil) q2776 dX3_canStep_1
theorem r_X3_canStep_4 (E : ax_EN G l) : ax_Snd G l ax_Ym M_X3_canStep 4 (S_push (.int (1)) 5) := k_iconst dX3_canStep_4 rfl
theorem r_X3_canStep_5 (E : ax_EN G l) : ax_Snd G l ax_Ym M_X3_canStep 5 (S_if2 (fun x y => decide (¬ x = y)) 22 8) := k_icmp_ne dX3_canStep_5 rfl
theorem r_X3_canStep_8 (E : ax_EN G l) : ax_Snd G l ax_Ym M_X3_canStep 8 (S_aload 0 9) := k_aload_n dX3_canStep_8 rfl
theorem r_X3_canStep_9 (E : ax_EN G l) : ax_Snd G l ax_Ym M_X3_canStep 9 (S_getf [(38, 38)] 12) := k_getf (en_F E) (ax_fes_cons (fe_491 E) ax_fes_nil) q2791 dX3_canStep_9
theorem r_X3_canStep_12 (E : ax_EN G l) : ax_Snd G l ax_Ym M_X3_canStep 12 (S_push (.int (1000)) 15) := k_sipush dX3_canStep_12 rfl
theorem r_X3_canStep_15 (E : ax_EN G l) : ax_Snd G l ax_Ym M_X3_canStep 15 (S_if2 (fun x y => decide (y ≤ x)) 22 18) := k_icmp_ge dX3_canStep_15 rfl
theorem r_X3_canStep_18 (E : ax_EN G l) : ax_Snd G l ax_Ym M_X3_canStep 18 (S_push (.int (1)) 19) := k_iconst dX3_canStep_18 rfl
theorem r_X3_canStep_19 (E : ax_EN G l) : ax_Snd G l ax_Ym M_X3_canStep 19 (S_goto 23) := k_goto dX3_canStep_19 rfl
theorem r_X3_canStep_22 (E : ax_EN G l) : ax_Snd G l ax_Ym M_X3_canStep 22 (S_push (.int (0)) 23) := k_iconst dX3_canStep_22 rfl
theorem r_X3_canStep_23 (E : ax_EN G l) : ax_Snd G l ax_Ym M_X3_canStep 23 (S_zret) := k_zret dX3_canStep_23 rfl
theorem mt_X3_canStep (E : ax_EN G l) : ax_mt G l ax_Ym (1, P_X3_canStep) (ax_Ym 417) := ⟨M_X3_canStep, yX3_canStep, ⟨rfl, by decide +kernel, rfl, (fun h => by cases h), Or.inl ⟨rfl, rfl⟩⟩, fun pc => (ax_sn_node (ax_sn_node (ax_sn_node (ax_sn_node (ax_sn_leaf (r_X3_canStep_23 E)) (ax_sn_leaf (r_X3_canStep_22 E))) (ax_sn_leaf (r_X3_canStep_19 E))) (ax_sn_node (ax_sn_node (ax_sn_leaf (r_X3_canStep_18 E)) (ax_sn_leaf (r_X3_canStep_15 E))) (ax_sn_leaf (r_X3_canStep_12 E)))) (ax_sn_node (ax_sn_node (ax_sn_node (ax_sn_leaf (r_X3_canStep_9 E)) (ax_sn_leaf (r_X3_canStep_8 E))) (ax_sn_leaf (r_X3_canStep_5 E))) (ax_sn_node (ax_sn_node (ax_sn_leaf (r_X3_canStep_4 E)) (ax_sn_leaf (r_X3_canStep_1 E))) (ax_sn_leaf (r_X3_canStep_0 E)))))⟩
theorem r_X3_stepsAndKeeps_0 (E : ax_EN G l) : ax_Snd G l ax_Ym M_X3_stepsAndKeeps 0 (S_aload 0 1) := k_aload_n dX3_stepsAndKeeps_0 rfl
theorem r_X3_stepsAndKeeps_1 (E : ax_EN G l) : ax_Snd G l ax_Ym M_X3_stepsAndKeeps 1 (S_iv [(38, 419)] 0 4 hd_0) := k_iv (en_F E) (ax_ok0 E rfl) (ax_Evs_cons ((ev_v (en_c E (k := 38) rfl) rfl y_X3_stepsOnce q3162 q3164 qs84 q126 q3165 nm_X3_stepsOnce (Nat.le_of_ble_eq_true rfl) dX3_stepsAndKeeps_1) : ax_EvV G l ax_Ym M_X3_stepsAndKeeps 1 0 3 38 419) ax_Evs_nil)
theorem r_X3_stepsAndKeeps_4 (E : ax_EN G l) : ax_Snd G l ax_Ym M_X3_stepsAndKeeps 4 (S_aload 0 5) := k_aload_n dX3_stepsAndKeeps_4 rfl
theorem r_X3_stepsAndKeeps_5 (E : ax_EN G l) : ax_Snd G l ax_Ym M_X3_stepsAndKeeps 5 (S_dup 6) := k_dup dX3_stepsAndKeeps_5
theorem r_X3_stepsAndKeeps_6 (E : ax_EN G l) : ax_Snd G l ax_Ym M_X3_stepsAndKeeps 6 (S_getf [(38, 40)] 9) := k_getf (en_F E) (ax_fes_cons (fe_464 E) ax_fes_nil) q2793 dX3_stepsAndKeeps_6
theorem r_X3_stepsAndKeeps_9 (E : ax_EN G l) : ax_Snd G l ax_Ym M_X3_stepsAndKeeps 9 (S_aload 0 10) := k_aload_n dX3_stepsAndKeeps_9 rfl
theorem r_X3_stepsAndKeeps_10 (E : ax_EN G l) : ax_Snd G l ax_Ym M_X3_stepsAndKeeps 10 (S_getf [(38, 40)] 13) := k_getf (en_F E) (ax_fes_cons (fe_464 E) ax_fes_nil) q2793 dX3_stepsAndKeeps_10
theorem r_X3_stepsAndKeeps_13 (E : ax_EN G l) : ax_Snd G l ax_Ym M_X3_stepsAndKeeps 13 (S_push (.int (200)) 16) := k_sipush dX3_stepsAndKeeps_13 rfl
theorem r_X3_stepsAndKeeps_16 (E : ax_EN G l) : ax_Snd G l ax_Ym M_X3_stepsAndKeeps 16 (S_if2 (fun x y => decide (y ≤ x)) 23 19) := k_icmp_ge dX3_stepsAndKeeps_16 rfl
theorem r_X3_stepsAndKeeps_19 (E : ax_EN G l) : ax_Snd G l ax_Ym M_X3_stepsAndKeeps 19 (S_push (.int (1)) 20) := k_iconst dX3_stepsAndKeeps_19 rfl
theorem r_X3_stepsAndKeeps_20 (E : ax_EN G l) : ax_Snd G l ax_Ym M_X3_stepsAndKeeps 20 (S_goto 24) := k_goto dX3_stepsAndKeeps_20 rfl
theorem r_X3_stepsAndKeeps_23 (E : ax_EN G l) : ax_Snd G l ax_Ym M_X3_stepsAndKeeps 23 (S_push (.int (0)) 24) := k_iconst dX3_stepsAndKeeps_23 rfl
theorem r_X3_stepsAndKeeps_24 (E : ax_EN G l) : ax_Snd G l ax_Ym M_X3_stepsAndKeeps 24 (S_i2 (fun x y => x + y) 25) := k_iadd dX3_stepsAndKeeps_24
theorem r_X3_stepsAndKeeps_25 (E : ax_EN G l) : ax_Snd G l ax_Ym M_X3_stepsAndKeeps 25 (S_putf [(38, 40)] (.int) 28) := k_putf (en_F E) (en_P E) (ax_fes_cons (fe_464 E) ax_fes_nil) (ax_fps_cons (fp_465 E) ax_fps_nil) q2793 dX3_stepsAndKeeps_25
theorem r_X3_stepsAndKeeps_28 (E : ax_EN G l) : ax_Snd G l ax_Ym M_X3_stepsAndKeeps 28 (S_ret) := k_ret dX3_stepsAndKeeps_28 rfl
theorem mt_X3_stepsAndKeeps (E : ax_EN G l) : ax_mt G l ax_Ym (1, P_X3_stepsAndKeeps) (ax_Ym 418) := ⟨M_X3_stepsAndKeeps, yX3_stepsAndKeeps, ⟨rfl, by decide +kernel, rfl, (fun h => by cases h), Or.inl ⟨rfl, rfl⟩⟩, fun pc => (ax_sn_node (ax_sn_node (ax_sn_node (ax_sn_node (ax_sn_leaf (r_X3_stepsAndKeeps_28 E)) (ax_sn_leaf (r_X3_stepsAndKeeps_25 E))) (ax_sn_node (ax_sn_leaf (r_X3_stepsAndKeeps_24 E)) (ax_sn_leaf (r_X3_stepsAndKeeps_23 E)))) (ax_sn_node (ax_sn_node (ax_sn_leaf (r_X3_stepsAndKeeps_20 E)) (ax_sn_leaf (r_X3_stepsAndKeeps_19 E))) (ax_sn_node (ax_sn_leaf (r_X3_stepsAndKeeps_16 E)) (ax_sn_leaf (r_X3_stepsAndKeeps_13 E))))) (ax_sn_node (ax_sn_node (ax_sn_node (ax_sn_leaf (r_X3_stepsAndKeeps_10 E)) (ax_sn_leaf (r_X3_stepsAndKeeps_9 E))) (ax_sn_node (ax_sn_leaf (r_X3_stepsAndKeeps_6 E)) (ax_sn_leaf (r_X3_stepsAndKeeps_5 E)))) (ax_sn_node (ax_sn_node (ax_sn_leaf (r_X3_stepsAndKeeps_4 E)) (ax_sn_leaf (r_X3_stepsAndKeeps_1 E))) (ax_sn_leaf (r_X3_stepsAndKeeps_0 E)))))⟩
theorem r_X3_stepsOnce_0 (E : ax_EN G l) : ax_Snd G l ax_Ym M_X3_stepsOnce 0 (S_aload 0 1) := k_aload_n dX3_stepsOnce_0 rfl
theorem r_X3_stepsOnce_1 (E : ax_EN G l) : ax_Snd G l ax_Ym M_X3_stepsOnce 1 (S_getf [(38, 38)] 4) := k_getf (en_F E) (ax_fes_cons (fe_491 E) ax_fes_nil) q2791 dX3_stepsOnce_1
theorem r_X3_stepsOnce_4 (E : ax_EN G l) : ax_Snd G l ax_Ym M_X3_stepsOnce 4 (S_push (.int (1000)) 7) := k_sipush dX3_stepsOnce_4 rfl
theorem r_X3_stepsOnce_7 (E : ax_EN G l) : ax_Snd G l ax_Ym M_X3_stepsOnce 7 (S_if2 (fun x y => decide (y ≤ x)) 30 10) := k_icmp_ge dX3_stepsOnce_7 rfl
theorem r_X3_stepsOnce_10 (E : ax_EN G l) : ax_Snd G l ax_Ym M_X3_stepsOnce 10 (S_aload 0 11) := k_aload_n dX3_stepsOnce_10 rfl
theorem r_X3_stepsOnce_11 (E : ax_EN G l) : ax_Snd G l ax_Ym M_X3_stepsOnce 11 (S_getf [(38, 44)] 14) := k_getf (en_F E) (ax_fes_cons (fe_394 E) ax_fes_nil) q2797 dX3_stepsOnce_11
theorem r_X3_stepsOnce_14 (E : ax_EN G l) : ax_Snd G l ax_Ym M_X3_stepsOnce 14 (S_aload 0 15) := k_aload_n dX3_stepsOnce_14 rfl
theorem r_X3_stepsOnce_15 (E : ax_EN G l) : ax_Snd G l ax_Ym M_X3_stepsOnce 15 (S_getf [(38, 38)] 18) := k_getf (en_F E) (ax_fes_cons (fe_491 E) ax_fes_nil) q2791 dX3_stepsOnce_15
theorem r_X3_stepsOnce_18 (E : ax_EN G l) : ax_Snd G l ax_Ym M_X3_stepsOnce 18 (S_push (.int (-1)) 19) := k_iconst dX3_stepsOnce_18 rfl
theorem r_X3_stepsOnce_19 (E : ax_EN G l) : ax_Snd G l ax_Ym M_X3_stepsOnce 19 (S_iast 0 (fun x => x) 20) := k_iast (en_F E) dX3_stepsOnce_19
theorem r_X3_stepsOnce_20 (E : ax_EN G l) : ax_Snd G l ax_Ym M_X3_stepsOnce 20 (S_aload 0 21) := k_aload_n dX3_stepsOnce_20 rfl
theorem r_X3_stepsOnce_21 (E : ax_EN G l) : ax_Snd G l ax_Ym M_X3_stepsOnce 21 (S_getf [(38, 45)] 24) := k_getf (en_F E) (ax_fes_cons (fe_396 E) ax_fes_nil) q2798 dX3_stepsOnce_21
theorem r_X3_stepsOnce_24 (E : ax_EN G l) : ax_Snd G l ax_Ym M_X3_stepsOnce 24 (S_aload 0 25) := k_aload_n dX3_stepsOnce_24 rfl
theorem r_X3_stepsOnce_25 (E : ax_EN G l) : ax_Snd G l ax_Ym M_X3_stepsOnce 25 (S_getf [(38, 38)] 28) := k_getf (en_F E) (ax_fes_cons (fe_491 E) ax_fes_nil) q2791 dX3_stepsOnce_25
theorem r_X3_stepsOnce_28 (E : ax_EN G l) : ax_Snd G l ax_Ym M_X3_stepsOnce 28 (S_push (.int (-1)) 29) := k_iconst dX3_stepsOnce_28 rfl
theorem r_X3_stepsOnce_29 (E : ax_EN G l) : ax_Snd G l ax_Ym M_X3_stepsOnce 29 (S_iast 0 (fun x => x) 30) := k_iast (en_F E) dX3_stepsOnce_29
theorem r_X3_stepsOnce_30 (E : ax_EN G l) : ax_Snd G l ax_Ym M_X3_stepsOnce 30 (S_aload 0 31) := k_aload_n dX3_stepsOnce_30 rfl
theorem r_X3_stepsOnce_31 (E : ax_EN G l) : ax_Snd G l ax_Ym M_X3_stepsOnce 31 (S_getf [(38, 46)] 34) := k_getf (en_F E) (ax_fes_cons (fe_495 E) ax_fes_nil) q2799 dX3_stepsOnce_31
theorem r_X3_stepsOnce_34 (E : ax_EN G l) : ax_Snd G l ax_Ym M_X3_stepsOnce 34 (S_if1 (fun x => decide (x ≤ 0)) 44 37) := k_if_le dX3_stepsOnce_34 rfl
theorem r_X3_stepsOnce_37 (E : ax_EN G l) : ax_Snd G l ax_Ym M_X3_stepsOnce 37 (S_aload 0 38) := k_aload_n dX3_stepsOnce_37 rfl
theorem r_X3_stepsOnce_38 (E : ax_EN G l) : ax_Snd G l ax_Ym M_X3_stepsOnce 38 (S_iv [(38, 420)] 0 41 hd_0) := k_iv (en_F E) (ax_ok0 E rfl) (ax_Evs_cons ((ev_v (en_c E (k := 38) rfl) rfl y_X3_writesBlock q3166 q3168 qs85 q126 q3169 nm_X3_writesBlock (Nat.le_of_ble_eq_true rfl) dX3_stepsOnce_38) : ax_EvV G l ax_Ym M_X3_stepsOnce 38 0 3 38 420) ax_Evs_nil)
theorem r_X3_stepsOnce_41 (E : ax_EN G l) : ax_Snd G l ax_Ym M_X3_stepsOnce 41 (S_goto 76) := k_goto dX3_stepsOnce_41 rfl
theorem r_X3_stepsOnce_44 (E : ax_EN G l) : ax_Snd G l ax_Ym M_X3_stepsOnce 44 (S_aload 0 45) := k_aload_n dX3_stepsOnce_44 rfl
theorem r_X3_stepsOnce_45 (E : ax_EN G l) : ax_Snd G l ax_Ym M_X3_stepsOnce 45 (S_getf [(38, 31)] 48) := k_getf (en_F E) (ax_fes_cons (fe_479 E) ax_fes_nil) q2784 dX3_stepsOnce_45
theorem r_X3_stepsOnce_48 (E : ax_EN G l) : ax_Snd G l ax_Ym M_X3_stepsOnce 48 (S_if1 (fun x => decide (x = 0)) 72 51) := k_if_eq dX3_stepsOnce_48 rfl
theorem r_X3_stepsOnce_51 (E : ax_EN G l) : ax_Snd G l ax_Ym M_X3_stepsOnce 51 (S_aload 0 52) := k_aload_n dX3_stepsOnce_51 rfl
theorem r_X3_stepsOnce_52 (E : ax_EN G l) : ax_Snd G l ax_Ym M_X3_stepsOnce 52 (S_getf [(38, 32)] 55) := k_getf (en_F E) (ax_fes_cons (fe_481 E) ax_fes_nil) q2785 dX3_stepsOnce_52
theorem r_X3_stepsOnce_55 (E : ax_EN G l) : ax_Snd G l ax_Ym M_X3_stepsOnce 55 (S_if1 (fun x => decide (¬ x = 0)) 65 58) := k_if_ne dX3_stepsOnce_55 rfl
theorem r_X3_stepsOnce_58 (E : ax_EN G l) : ax_Snd G l ax_Ym M_X3_stepsOnce 58 (S_aload 0 59) := k_aload_n dX3_stepsOnce_58 rfl
theorem r_X3_stepsOnce_59 (E : ax_EN G l) : ax_Snd G l ax_Ym M_X3_stepsOnce 59 (S_getf [(38, 33)] 62) := k_getf (en_F E) (ax_fes_cons (fe_483 E) ax_fes_nil) q2786 dX3_stepsOnce_59
theorem r_X3_stepsOnce_62 (E : ax_EN G l) : ax_Snd G l ax_Ym M_X3_stepsOnce 62 (S_if1 (fun x => decide (x = 0)) 72 65) := k_if_eq dX3_stepsOnce_62 rfl
theorem r_X3_stepsOnce_65 (E : ax_EN G l) : ax_Snd G l ax_Ym M_X3_stepsOnce 65 (S_aload 0 66) := k_aload_n dX3_stepsOnce_65 rfl
theorem r_X3_stepsOnce_66 (E : ax_EN G l) : ax_Snd G l ax_Ym M_X3_stepsOnce 66 (S_iv [(38, 421)] 0 69 hd_0) := k_iv (en_F E) (ax_ok0 E rfl) (ax_Evs_cons ((ev_v (en_c E (k := 38) rfl) rfl y_X3_interrupts q3170 q3172 qs86 q126 q3173 nm_X3_interrupts (Nat.le_of_ble_eq_true rfl) dX3_stepsOnce_66) : ax_EvV G l ax_Ym M_X3_stepsOnce 66 0 3 38 421) ax_Evs_nil)
theorem r_X3_stepsOnce_69 (E : ax_EN G l) : ax_Snd G l ax_Ym M_X3_stepsOnce 69 (S_goto 76) := k_goto dX3_stepsOnce_69 rfl
theorem r_X3_stepsOnce_72 (E : ax_EN G l) : ax_Snd G l ax_Ym M_X3_stepsOnce 72 (S_aload 0 73) := k_aload_n dX3_stepsOnce_72 rfl
theorem r_X3_stepsOnce_73 (E : ax_EN G l) : ax_Snd G l ax_Ym M_X3_stepsOnce 73 (S_iv [(38, 426)] 0 76 hd_0) := k_iv (en_F E) (ax_ok0 E rfl) (ax_Evs_cons ((ev_v (en_c E (k := 38) rfl) rfl y_X3_instructs q3190 q3192 qs91 q126 q3193 nm_X3_instructs (Nat.le_of_ble_eq_true rfl) dX3_stepsOnce_73) : ax_EvV G l ax_Ym M_X3_stepsOnce 73 0 3 38 426) ax_Evs_nil)
theorem r_X3_stepsOnce_76 (E : ax_EN G l) : ax_Snd G l ax_Ym M_X3_stepsOnce 76 (S_aload 0 77) := k_aload_n dX3_stepsOnce_76 rfl
theorem r_X3_stepsOnce_77 (E : ax_EN G l) : ax_Snd G l ax_Ym M_X3_stepsOnce 77 (S_dup 78) := k_dup dX3_stepsOnce_77
theorem r_X3_stepsOnce_78 (E : ax_EN G l) : ax_Snd G l ax_Ym M_X3_stepsOnce 78 (S_getf [(38, 38)] 81) := k_getf (en_F E) (ax_fes_cons (fe_491 E) ax_fes_nil) q2791 dX3_stepsOnce_78
theorem r_X3_stepsOnce_81 (E : ax_EN G l) : ax_Snd G l ax_Ym M_X3_stepsOnce 81 (S_push (.int (1)) 82) := k_iconst dX3_stepsOnce_81 rfl
theorem r_X3_stepsOnce_82 (E : ax_EN G l) : ax_Snd G l ax_Ym M_X3_stepsOnce 82 (S_i2 (fun x y => x + y) 83) := k_iadd dX3_stepsOnce_82
theorem r_X3_stepsOnce_83 (E : ax_EN G l) : ax_Snd G l ax_Ym M_X3_stepsOnce 83 (S_putf [(38, 38)] (.int) 86) := k_putf (en_F E) (en_P E) (ax_fes_cons (fe_491 E) ax_fes_nil) (ax_fps_cons (fp_492 E) ax_fps_nil) q2791 dX3_stepsOnce_83
theorem r_X3_stepsOnce_86 (E : ax_EN G l) : ax_Snd G l ax_Ym M_X3_stepsOnce 86 (S_aload 0 87) := k_aload_n dX3_stepsOnce_86 rfl
theorem r_X3_stepsOnce_87 (E : ax_EN G l) : ax_Snd G l ax_Ym M_X3_stepsOnce 87 (S_getf [(38, 34)] 90) := k_getf (en_F E) (ax_fes_cons (fe_485 E) ax_fes_nil) q2787 dX3_stepsOnce_87
theorem r_X3_stepsOnce_90 (E : ax_EN G l) : ax_Snd G l ax_Ym M_X3_stepsOnce 90 (S_if1 (fun x => decide (x ≤ 0)) 153 93) := k_if_le dX3_stepsOnce_90 rfl
theorem r_X3_stepsOnce_93 (E : ax_EN G l) : ax_Snd G l ax_Ym M_X3_stepsOnce 93 (S_aload 0 94) := k_aload_n dX3_stepsOnce_93 rfl
theorem r_X3_stepsOnce_94 (E : ax_EN G l) : ax_Snd G l ax_Ym M_X3_stepsOnce 94 (S_dup 95) := k_dup dX3_stepsOnce_94
theorem r_X3_stepsOnce_95 (E : ax_EN G l) : ax_Snd G l ax_Ym M_X3_stepsOnce 95 (S_getf [(38, 35)] 98) := k_getf (en_F E) (ax_fes_cons (fe_487 E) ax_fes_nil) q2788 dX3_stepsOnce_95
theorem r_X3_stepsOnce_98 (E : ax_EN G l) : ax_Snd G l ax_Ym M_X3_stepsOnce 98 (S_push (.int (1)) 99) := k_iconst dX3_stepsOnce_98 rfl
theorem r_X3_stepsOnce_99 (E : ax_EN G l) : ax_Snd G l ax_Ym M_X3_stepsOnce 99 (S_i2 (fun x y => x + y) 100) := k_iadd dX3_stepsOnce_99
theorem r_X3_stepsOnce_100 (E : ax_EN G l) : ax_Snd G l ax_Ym M_X3_stepsOnce 100 (S_putf [(38, 35)] (.int) 103) := k_putf (en_F E) (en_P E) (ax_fes_cons (fe_487 E) ax_fes_nil) (ax_fps_cons (fp_488 E) ax_fps_nil) q2788 dX3_stepsOnce_100
theorem r_X3_stepsOnce_103 (E : ax_EN G l) : ax_Snd G l ax_Ym M_X3_stepsOnce 103 (S_aload 0 104) := k_aload_n dX3_stepsOnce_103 rfl
theorem r_X3_stepsOnce_104 (E : ax_EN G l) : ax_Snd G l ax_Ym M_X3_stepsOnce 104 (S_aload 0 105) := k_aload_n dX3_stepsOnce_104 rfl
theorem r_X3_stepsOnce_105 (E : ax_EN G l) : ax_Snd G l ax_Ym M_X3_stepsOnce 105 (S_getf [(38, 32)] 108) := k_getf (en_F E) (ax_fes_cons (fe_481 E) ax_fes_nil) q2785 dX3_stepsOnce_105
theorem r_X3_stepsOnce_108 (E : ax_EN G l) : ax_Snd G l ax_Ym M_X3_stepsOnce 108 (S_if1 (fun x => decide (¬ x = 0)) 122 111) := k_if_ne dX3_stepsOnce_108 rfl
theorem r_X3_stepsOnce_111 (E : ax_EN G l) : ax_Snd G l ax_Ym M_X3_stepsOnce 111 (S_aload 0 112) := k_aload_n dX3_stepsOnce_111 rfl
theorem r_X3_stepsOnce_112 (E : ax_EN G l) : ax_Snd G l ax_Ym M_X3_stepsOnce 112 (S_getf [(38, 35)] 115) := k_getf (en_F E) (ax_fes_cons (fe_487 E) ax_fes_nil) q2788 dX3_stepsOnce_112
theorem r_X3_stepsOnce_115 (E : ax_EN G l) : ax_Snd G l ax_Ym M_X3_stepsOnce 115 (S_aload 0 116) := k_aload_n dX3_stepsOnce_115 rfl
theorem r_X3_stepsOnce_116 (E : ax_EN G l) : ax_Snd G l ax_Ym M_X3_stepsOnce 116 (S_getf [(38, 34)] 119) := k_getf (en_F E) (ax_fes_cons (fe_485 E) ax_fes_nil) q2787 dX3_stepsOnce_116
theorem r_X3_stepsOnce_119 (E : ax_EN G l) : ax_Snd G l ax_Ym M_X3_stepsOnce 119 (S_if2 (fun x y => decide (¬ x = y)) 126 122) := k_icmp_ne dX3_stepsOnce_119 rfl
theorem r_X3_stepsOnce_122 (E : ax_EN G l) : ax_Snd G l ax_Ym M_X3_stepsOnce 122 (S_push (.int (1)) 123) := k_iconst dX3_stepsOnce_122 rfl
theorem r_X3_stepsOnce_123 (E : ax_EN G l) : ax_Snd G l ax_Ym M_X3_stepsOnce 123 (S_goto 127) := k_goto dX3_stepsOnce_123 rfl
theorem r_X3_stepsOnce_126 (E : ax_EN G l) : ax_Snd G l ax_Ym M_X3_stepsOnce 126 (S_push (.int (0)) 127) := k_iconst dX3_stepsOnce_126 rfl
theorem r_X3_stepsOnce_127 (E : ax_EN G l) : ax_Snd G l ax_Ym M_X3_stepsOnce 127 (S_putf [(38, 32)] (.boolean) 130) := k_putf (en_F E) (en_P E) (ax_fes_cons (fe_481 E) ax_fes_nil) (ax_fps_cons (fp_482 E) ax_fps_nil) q2785 dX3_stepsOnce_127
theorem r_X3_stepsOnce_130 (E : ax_EN G l) : ax_Snd G l ax_Ym M_X3_stepsOnce 130 (S_aload 0 131) := k_aload_n dX3_stepsOnce_130 rfl
theorem r_X3_stepsOnce_131 (E : ax_EN G l) : ax_Snd G l ax_Ym M_X3_stepsOnce 131 (S_aload 0 132) := k_aload_n dX3_stepsOnce_131 rfl
theorem r_X3_stepsOnce_132 (E : ax_EN G l) : ax_Snd G l ax_Ym M_X3_stepsOnce 132 (S_getf [(38, 35)] 135) := k_getf (en_F E) (ax_fes_cons (fe_487 E) ax_fes_nil) q2788 dX3_stepsOnce_132
theorem r_X3_stepsOnce_135 (E : ax_EN G l) : ax_Snd G l ax_Ym M_X3_stepsOnce 135 (S_aload 0 136) := k_aload_n dX3_stepsOnce_135 rfl
theorem r_X3_stepsOnce_136 (E : ax_EN G l) : ax_Snd G l ax_Ym M_X3_stepsOnce 136 (S_getf [(38, 34)] 139) := k_getf (en_F E) (ax_fes_cons (fe_485 E) ax_fes_nil) q2787 dX3_stepsOnce_136
theorem r_X3_stepsOnce_139 (E : ax_EN G l) : ax_Snd G l ax_Ym M_X3_stepsOnce 139 (S_if2 (fun x y => decide (¬ x = y)) 146 142) := k_icmp_ne dX3_stepsOnce_139 rfl
theorem r_X3_stepsOnce_142 (E : ax_EN G l) : ax_Snd G l ax_Ym M_X3_stepsOnce 142 (S_push (.int (0)) 143) := k_iconst dX3_stepsOnce_142 rfl
theorem r_X3_stepsOnce_143 (E : ax_EN G l) : ax_Snd G l ax_Ym M_X3_stepsOnce 143 (S_goto 150) := k_goto dX3_stepsOnce_143 rfl
theorem r_X3_stepsOnce_146 (E : ax_EN G l) : ax_Snd G l ax_Ym M_X3_stepsOnce 146 (S_aload 0 147) := k_aload_n dX3_stepsOnce_146 rfl
theorem r_X3_stepsOnce_147 (E : ax_EN G l) : ax_Snd G l ax_Ym M_X3_stepsOnce 147 (S_getf [(38, 35)] 150) := k_getf (en_F E) (ax_fes_cons (fe_487 E) ax_fes_nil) q2788 dX3_stepsOnce_147
theorem r_X3_stepsOnce_150 (E : ax_EN G l) : ax_Snd G l ax_Ym M_X3_stepsOnce 150 (S_putf [(38, 35)] (.int) 153) := k_putf (en_F E) (en_P E) (ax_fes_cons (fe_487 E) ax_fes_nil) (ax_fps_cons (fp_488 E) ax_fps_nil) q2788 dX3_stepsOnce_150
theorem r_X3_stepsOnce_153 (E : ax_EN G l) : ax_Snd G l ax_Ym M_X3_stepsOnce 153 (S_aload 0 154) := k_aload_n dX3_stepsOnce_153 rfl
theorem r_X3_stepsOnce_154 (E : ax_EN G l) : ax_Snd G l ax_Ym M_X3_stepsOnce 154 (S_iv [(38, 449)] 0 157 hd_0) := k_iv (en_F E) (ax_ok0 E rfl) (ax_Evs_cons ((ev_v (en_c E (k := 38) rfl) rfl y_X3_keysCome q3277 q3279 qs108 q126 q3280 nm_X3_keysCome (Nat.le_of_ble_eq_true rfl) dX3_stepsOnce_154) : ax_EvV G l ax_Ym M_X3_stepsOnce 154 0 3 38 449) ax_Evs_nil)
theorem r_X3_stepsOnce_157 (E : ax_EN G l) : ax_Snd G l ax_Ym M_X3_stepsOnce 157 (S_ret) := k_ret dX3_stepsOnce_157 rfl
theorem mt_X3_stepsOnce (E : ax_EN G l) : ax_mt G l ax_Ym (1, P_X3_stepsOnce) (ax_Ym 419) := ⟨M_X3_stepsOnce, yX3_stepsOnce, ⟨rfl, by decide +kernel, rfl, (fun h => by cases h), Or.inl ⟨rfl, rfl⟩⟩, fun pc => (ax_sn_node (ax_sn_node (ax_sn_node (ax_sn_node (ax_sn_node (ax_sn_node (ax_sn_node (ax_sn_leaf (r_X3_stepsOnce_157 E)) (ax_sn_leaf (r_X3_stepsOnce_154 E))) (ax_sn_leaf (r_X3_stepsOnce_153 E))) (ax_sn_node (ax_sn_leaf (r_X3_stepsOnce_150 E)) (ax_sn_leaf (r_X3_stepsOnce_147 E)))) (ax_sn_node (ax_sn_node (ax_sn_node (ax_sn_leaf (r_X3_stepsOnce_146 E)) (ax_sn_leaf (r_X3_stepsOnce_143 E))) (ax_sn_leaf (r_X3_stepsOnce_142 E))) (ax_sn_node (ax_sn_leaf (r_X3_stepsOnce_139 E)) (ax_sn_leaf (r_X3_stepsOnce_136 E))))) (ax_sn_node (ax_sn_node (ax_sn_node (ax_sn_node (ax_sn_leaf (r_X3_stepsOnce_135 E)) (ax_sn_leaf (r_X3_stepsOnce_132 E))) (ax_sn_leaf (r_X3_stepsOnce_131 E))) (ax_sn_node (ax_sn_leaf (r_X3_stepsOnce_130 E)) (ax_sn_leaf (r_X3_stepsOnce_127 E)))) (ax_sn_node (ax_sn_node (ax_sn_node (ax_sn_leaf (r_X3_stepsOnce_126 E)) (ax_sn_leaf (r_X3_stepsOnce_123 E))) (ax_sn_leaf (r_X3_stepsOnce_122 E))) (ax_sn_node (ax_sn_leaf (r_X3_stepsOnce_119 E)) (ax_sn_leaf (r_X3_stepsOnce_116 E)))))) (ax_sn_node (ax_sn_node (ax_sn_node (ax_sn_node (ax_sn_node (ax_sn_leaf (r_X3_stepsOnce_115 E)) (ax_sn_leaf (r_X3_stepsOnce_112 E))) (ax_sn_leaf (r_X3_stepsOnce_111 E))) (ax_sn_node (ax_sn_leaf (r_X3_stepsOnce_108 E)) (ax_sn_leaf (r_X3_stepsOnce_105 E)))) (ax_sn_node (ax_sn_node (ax_sn_node (ax_sn_leaf (r_X3_stepsOnce_104 E)) (ax_sn_leaf (r_X3_stepsOnce_103 E))) (ax_sn_leaf (r_X3_stepsOnce_100 E))) (ax_sn_node (ax_sn_leaf (r_X3_stepsOnce_99 E)) (ax_sn_leaf (r_X3_stepsOnce_98 E))))) (ax_sn_node (ax_sn_node (ax_sn_node (ax_sn_node (ax_sn_leaf (r_X3_stepsOnce_95 E)) (ax_sn_leaf (r_X3_stepsOnce_94 E))) (ax_sn_leaf (r_X3_stepsOnce_93 E))) (ax_sn_node (ax_sn_leaf (r_X3_stepsOnce_90 E)) (ax_sn_leaf (r_X3_stepsOnce_87 E)))) (ax_sn_node (ax_sn_node (ax_sn_leaf (r_X3_stepsOnce_86 E)) (ax_sn_leaf (r_X3_stepsOnce_83 E))) (ax_sn_node (ax_sn_leaf (r_X3_stepsOnce_82 E)) (ax_sn_leaf (r_X3_stepsOnce_81 E))))))) (ax_sn_node (ax_sn_node (ax_sn_node (ax_sn_node (ax_sn_node (ax_sn_node (ax_sn_leaf (r_X3_stepsOnce_78 E)) (ax_sn_leaf (r_X3_stepsOnce_77 E))) (ax_sn_leaf (r_X3_stepsOnce_76 E))) (ax_sn_node (ax_sn_leaf (r_X3_stepsOnce_73 E)) (ax_sn_leaf (r_X3_stepsOnce_72 E)))) (ax_sn_node (ax_sn_node (ax_sn_node (ax_sn_leaf (r_X3_stepsOnce_69 E)) (ax_sn_leaf (r_X3_stepsOnce_66 E))) (ax_sn_leaf (r_X3_stepsOnce_65 E))) (ax_sn_node (ax_sn_leaf (r_X3_stepsOnce_62 E)) (ax_sn_leaf (r_X3_stepsOnce_59 E))))) (ax_sn_node (ax_sn_node (ax_sn_node (ax_sn_node (ax_sn_leaf (r_X3_stepsOnce_58 E)) (ax_sn_leaf (r_X3_stepsOnce_55 E))) (ax_sn_leaf (r_X3_stepsOnce_52 E))) (ax_sn_node (ax_sn_leaf (r_X3_stepsOnce_51 E)) (ax_sn_leaf (r_X3_stepsOnce_48 E)))) (ax_sn_node (ax_sn_node (ax_sn_node (ax_sn_leaf (r_X3_stepsOnce_45 E)) (ax_sn_leaf (r_X3_stepsOnce_44 E))) (ax_sn_leaf (r_X3_stepsOnce_41 E))) (ax_sn_node (ax_sn_leaf (r_X3_stepsOnce_38 E)) (ax_sn_leaf (r_X3_stepsOnce_37 E)))))) (ax_sn_node (ax_sn_node (ax_sn_node (ax_sn_node (ax_sn_node (ax_sn_leaf (r_X3_stepsOnce_34 E)) (ax_sn_leaf (r_X3_stepsOnce_31 E))) (ax_sn_leaf (r_X3_stepsOnce_30 E))) (ax_sn_node (ax_sn_leaf (r_X3_stepsOnce_29 E)) (ax_sn_leaf (r_X3_stepsOnce_28 E)))) (ax_sn_node (ax_sn_node (ax_sn_node (ax_sn_leaf (r_X3_stepsOnce_25 E)) (ax_sn_leaf (r_X3_stepsOnce_24 E))) (ax_sn_leaf (r_X3_stepsOnce_21 E))) (ax_sn_node (ax_sn_leaf (r_X3_stepsOnce_20 E)) (ax_sn_leaf (r_X3_stepsOnce_19 E))))) (ax_sn_node (ax_sn_node (ax_sn_node (ax_sn_node (ax_sn_leaf (r_X3_stepsOnce_18 E)) (ax_sn_leaf (r_X3_stepsOnce_15 E))) (ax_sn_leaf (r_X3_stepsOnce_14 E))) (ax_sn_node (ax_sn_leaf (r_X3_stepsOnce_11 E)) (ax_sn_leaf (r_X3_stepsOnce_10 E)))) (ax_sn_node (ax_sn_node (ax_sn_leaf (r_X3_stepsOnce_7 E)) (ax_sn_leaf (r_X3_stepsOnce_4 E))) (ax_sn_node (ax_sn_leaf (r_X3_stepsOnce_1 E)) (ax_sn_leaf (r_X3_stepsOnce_0 E))))))))⟩
theorem r_X3_writesBlock_0 (E : ax_EN G l) : ax_Snd G l ax_Ym M_X3_writesBlock 0 (S_push (.int (2)) 1) := k_iconst dX3_writesBlock_0 rfl
theorem r_X3_writesBlock_1 (E : ax_EN G l) : ax_Snd G l ax_Ym M_X3_writesBlock 1 (S_aload 0 2) := k_aload_n dX3_writesBlock_1 rfl
theorem r_X3_writesBlock_2 (E : ax_EN G l) : ax_Snd G l ax_Ym M_X3_writesBlock 2 (S_getf [(38, 47)] 5) := k_getf (en_F E) (ax_fes_cons (fe_467 E) ax_fes_nil) q2800 dX3_writesBlock_2
theorem r_X3_writesBlock_5 (E : ax_EN G l) : ax_Snd G l ax_Ym M_X3_writesBlock 5 (S_i2 (fun x y => x * y) 6) := k_imul dX3_writesBlock_5
theorem r_X3_writesBlock_6 (E : ax_EN G l) : ax_Snd G l ax_Ym M_X3_writesBlock 6 (S_push (.int (2)) 7) := k_iconst dX3_writesBlock_6 rfl
theorem r_X3_writesBlock_7 (E : ax_EN G l) : ax_Snd G l ax_Ym M_X3_writesBlock 7 (S_i2 (fun x y => x + y) 8) := k_iadd dX3_writesBlock_7
theorem r_X3_writesBlock_8 (E : ax_EN G l) : ax_Snd G l ax_Ym M_X3_writesBlock 8 (S_aload 0 9) := k_aload_n dX3_writesBlock_8 rfl
theorem r_X3_writesBlock_9 (E : ax_EN G l) : ax_Snd G l ax_Ym M_X3_writesBlock 9 (S_getf [(38, 46)] 12) := k_getf (en_F E) (ax_fes_cons (fe_495 E) ax_fes_nil) q2799 dX3_writesBlock_9
theorem r_X3_writesBlock_12 (E : ax_EN G l) : ax_Snd G l ax_Ym M_X3_writesBlock 12 (S_i2 (fun x y => x - y) 13) := k_isub dX3_writesBlock_12
theorem r_X3_writesBlock_13 (E : ax_EN G l) : ax_Snd G l ax_Ym M_X3_writesBlock 13 (S_istore 1 14) := k_istore_n dX3_writesBlock_13 rfl (Nat.le_of_ble_eq_true rfl)
theorem r_X3_writesBlock_14 (E : ax_EN G l) : ax_Snd G l ax_Ym M_X3_writesBlock 14 (S_aload 0 15) := k_aload_n dX3_writesBlock_14 rfl
theorem r_X3_writesBlock_15 (E : ax_EN G l) : ax_Snd G l ax_Ym M_X3_writesBlock 15 (S_dup 16) := k_dup dX3_writesBlock_15
theorem r_X3_writesBlock_16 (E : ax_EN G l) : ax_Snd G l ax_Ym M_X3_writesBlock 16 (S_getf [(38, 46)] 19) := k_getf (en_F E) (ax_fes_cons (fe_495 E) ax_fes_nil) q2799 dX3_writesBlock_16
theorem r_X3_writesBlock_19 (E : ax_EN G l) : ax_Snd G l ax_Ym M_X3_writesBlock 19 (S_push (.int (1)) 20) := k_iconst dX3_writesBlock_19 rfl
theorem r_X3_writesBlock_20 (E : ax_EN G l) : ax_Snd G l ax_Ym M_X3_writesBlock 20 (S_i2 (fun x y => x - y) 21) := k_isub dX3_writesBlock_20
theorem r_X3_writesBlock_21 (E : ax_EN G l) : ax_Snd G l ax_Ym M_X3_writesBlock 21 (S_putf [(38, 46)] (.int) 24) := k_putf (en_F E) (en_P E) (ax_fes_cons (fe_495 E) ax_fes_nil) (ax_fps_cons (fp_496 E) ax_fps_nil) q2799 dX3_writesBlock_21
theorem r_X3_writesBlock_24 (E : ax_EN G l) : ax_Snd G l ax_Ym M_X3_writesBlock 24 (S_aload 0 25) := k_aload_n dX3_writesBlock_24 rfl
theorem r_X3_writesBlock_25 (E : ax_EN G l) : ax_Snd G l ax_Ym M_X3_writesBlock 25 (S_dup 26) := k_dup dX3_writesBlock_25
theorem r_X3_writesBlock_26 (E : ax_EN G l) : ax_Snd G l ax_Ym M_X3_writesBlock 26 (S_getf [(38, 52)] 29) := k_getf (en_F E) (ax_fes_cons (fe_440 E) ax_fes_nil) q2805 dX3_writesBlock_26
theorem r_X3_writesBlock_29 (E : ax_EN G l) : ax_Snd G l ax_Ym M_X3_writesBlock 29 (S_push (.int (1)) 30) := k_iconst dX3_writesBlock_29 rfl
theorem r_X3_writesBlock_30 (E : ax_EN G l) : ax_Snd G l ax_Ym M_X3_writesBlock 30 (S_i2 (fun x y => x + y) 31) := k_iadd dX3_writesBlock_30
theorem r_X3_writesBlock_31 (E : ax_EN G l) : ax_Snd G l ax_Ym M_X3_writesBlock 31 (S_putf [(38, 52)] (.int) 34) := k_putf (en_F E) (en_P E) (ax_fes_cons (fe_440 E) ax_fes_nil) (ax_fps_cons (fp_441 E) ax_fps_nil) q2805 dX3_writesBlock_31
theorem r_X3_writesBlock_34 (E : ax_EN G l) : ax_Snd G l ax_Ym M_X3_writesBlock 34 (S_iload 1 35) := k_iload_n dX3_writesBlock_34 rfl
theorem r_X3_writesBlock_35 (E : ax_EN G l) : ax_Snd G l ax_Ym M_X3_writesBlock 35 (S_aload 0 36) := k_aload_n dX3_writesBlock_35 rfl
theorem r_X3_writesBlock_36 (E : ax_EN G l) : ax_Snd G l ax_Ym M_X3_writesBlock 36 (S_getf [(38, 47)] 39) := k_getf (en_F E) (ax_fes_cons (fe_467 E) ax_fes_nil) q2800 dX3_writesBlock_36
theorem r_X3_writesBlock_39 (E : ax_EN G l) : ax_Snd G l ax_Ym M_X3_writesBlock 39 (S_if2 (fun x y => decide (x = y)) 54 42) := k_icmp_eq dX3_writesBlock_39 rfl
theorem r_X3_writesBlock_42 (E : ax_EN G l) : ax_Snd G l ax_Ym M_X3_writesBlock 42 (S_iload 1 43) := k_iload_n dX3_writesBlock_42 rfl
theorem r_X3_writesBlock_43 (E : ax_EN G l) : ax_Snd G l ax_Ym M_X3_writesBlock 43 (S_push (.int (2)) 44) := k_iconst dX3_writesBlock_43 rfl
theorem r_X3_writesBlock_44 (E : ax_EN G l) : ax_Snd G l ax_Ym M_X3_writesBlock 44 (S_aload 0 45) := k_aload_n dX3_writesBlock_44 rfl
theorem r_X3_writesBlock_45 (E : ax_EN G l) : ax_Snd G l ax_Ym M_X3_writesBlock 45 (S_getf [(38, 47)] 48) := k_getf (en_F E) (ax_fes_cons (fe_467 E) ax_fes_nil) q2800 dX3_writesBlock_45
theorem r_X3_writesBlock_48 (E : ax_EN G l) : ax_Snd G l ax_Ym M_X3_writesBlock 48 (S_i2 (fun x y => x * y) 49) := k_imul dX3_writesBlock_48
theorem r_X3_writesBlock_49 (E : ax_EN G l) : ax_Snd G l ax_Ym M_X3_writesBlock 49 (S_push (.int (1)) 50) := k_iconst dX3_writesBlock_49 rfl
theorem r_X3_writesBlock_50 (E : ax_EN G l) : ax_Snd G l ax_Ym M_X3_writesBlock 50 (S_i2 (fun x y => x + y) 51) := k_iadd dX3_writesBlock_50
theorem r_X3_writesBlock_51 (E : ax_EN G l) : ax_Snd G l ax_Ym M_X3_writesBlock 51 (S_if2 (fun x y => decide (¬ x = y)) 74 54) := k_icmp_ne dX3_writesBlock_51 rfl
theorem r_X3_writesBlock_54 (E : ax_EN G l) : ax_Snd G l ax_Ym M_X3_writesBlock 54 (S_aload 0 55) := k_aload_n dX3_writesBlock_54 rfl
theorem r_X3_writesBlock_55 (E : ax_EN G l) : ax_Snd G l ax_Ym M_X3_writesBlock 55 (S_iload 1 56) := k_iload_n dX3_writesBlock_55 rfl
theorem r_X3_writesBlock_56 (E : ax_EN G l) : ax_Snd G l ax_Ym M_X3_writesBlock 56 (S_aload 0 57) := k_aload_n dX3_writesBlock_56 rfl
theorem r_X3_writesBlock_57 (E : ax_EN G l) : ax_Snd G l ax_Ym M_X3_writesBlock 57 (S_getf [(38, 47)] 60) := k_getf (en_F E) (ax_fes_cons (fe_467 E) ax_fes_nil) q2800 dX3_writesBlock_57
theorem r_X3_writesBlock_60 (E : ax_EN G l) : ax_Snd G l ax_Ym M_X3_writesBlock 60 (S_if2 (fun x y => decide (¬ x = y)) 67 63) := k_icmp_ne dX3_writesBlock_60 rfl
theorem r_X3_writesBlock_63 (E : ax_EN G l) : ax_Snd G l ax_Ym M_X3_writesBlock 63 (S_push (.int (1)) 64) := k_iconst dX3_writesBlock_63 rfl
theorem r_X3_writesBlock_64 (E : ax_EN G l) : ax_Snd G l ax_Ym M_X3_writesBlock 64 (S_goto 68) := k_goto dX3_writesBlock_64 rfl
theorem r_X3_writesBlock_67 (E : ax_EN G l) : ax_Snd G l ax_Ym M_X3_writesBlock 67 (S_push (.int (0)) 68) := k_iconst dX3_writesBlock_67 rfl
theorem r_X3_writesBlock_68 (E : ax_EN G l) : ax_Snd G l ax_Ym M_X3_writesBlock 68 (S_iv [(38, 408)] 1 71 hd_0) := k_iv (en_F E) (ax_ok0 E rfl) (ax_Evs_cons ((ev_v (en_c E (k := 38) rfl) rfl y_X3_writesHead q3120 q3122 qs78 q126 q3123 nm_X3_writesHead (Nat.le_of_ble_eq_true rfl) dX3_writesBlock_68) : ax_EvV G l ax_Ym M_X3_writesBlock 68 1 3 38 408) ax_Evs_nil)
theorem r_X3_writesBlock_71 (E : ax_EN G l) : ax_Snd G l ax_Ym M_X3_writesBlock 71 (S_goto 156) := k_goto dX3_writesBlock_71 rfl
theorem r_X3_writesBlock_74 (E : ax_EN G l) : ax_Snd G l ax_Ym M_X3_writesBlock 74 (S_iload 1 75) := k_iload_n dX3_writesBlock_74 rfl
theorem r_X3_writesBlock_75 (E : ax_EN G l) : ax_Snd G l ax_Ym M_X3_writesBlock 75 (S_aload 0 76) := k_aload_n dX3_writesBlock_75 rfl
theorem r_X3_writesBlock_76 (E : ax_EN G l) : ax_Snd G l ax_Ym M_X3_writesBlock 76 (S_getf [(38, 47)] 79) := k_getf (en_F E) (ax_fes_cons (fe_467 E) ax_fes_nil) q2800 dX3_writesBlock_76
theorem r_X3_writesBlock_79 (E : ax_EN G l) : ax_Snd G l ax_Ym M_X3_writesBlock 79 (S_if2 (fun x y => decide (y ≤ x)) 86 82) := k_icmp_ge dX3_writesBlock_79 rfl
theorem r_X3_writesBlock_82 (E : ax_EN G l) : ax_Snd G l ax_Ym M_X3_writesBlock 82 (S_iload 1 83) := k_iload_n dX3_writesBlock_82 rfl
theorem r_X3_writesBlock_83 (E : ax_EN G l) : ax_Snd G l ax_Ym M_X3_writesBlock 83 (S_goto 94) := k_goto dX3_writesBlock_83 rfl
theorem r_X3_writesBlock_86 (E : ax_EN G l) : ax_Snd G l ax_Ym M_X3_writesBlock 86 (S_iload 1 87) := k_iload_n dX3_writesBlock_86 rfl
theorem r_X3_writesBlock_87 (E : ax_EN G l) : ax_Snd G l ax_Ym M_X3_writesBlock 87 (S_aload 0 88) := k_aload_n dX3_writesBlock_87 rfl
theorem r_X3_writesBlock_88 (E : ax_EN G l) : ax_Snd G l ax_Ym M_X3_writesBlock 88 (S_getf [(38, 47)] 91) := k_getf (en_F E) (ax_fes_cons (fe_467 E) ax_fes_nil) q2800 dX3_writesBlock_88
theorem r_X3_writesBlock_91 (E : ax_EN G l) : ax_Snd G l ax_Ym M_X3_writesBlock 91 (S_i2 (fun x y => x - y) 92) := k_isub dX3_writesBlock_91
theorem r_X3_writesBlock_92 (E : ax_EN G l) : ax_Snd G l ax_Ym M_X3_writesBlock 92 (S_push (.int (1)) 93) := k_iconst dX3_writesBlock_92 rfl
theorem r_X3_writesBlock_93 (E : ax_EN G l) : ax_Snd G l ax_Ym M_X3_writesBlock 93 (S_i2 (fun x y => x - y) 94) := k_isub dX3_writesBlock_93
theorem r_X3_writesBlock_94 (E : ax_EN G l) : ax_Snd G l ax_Ym M_X3_writesBlock 94 (S_istore 2 95) := k_istore_n dX3_writesBlock_94 rfl (Nat.le_of_ble_eq_true rfl)
theorem r_X3_writesBlock_95 (E : ax_EN G l) : ax_Snd G l ax_Ym M_X3_writesBlock 95 (S_iload 1 96) := k_iload_n dX3_writesBlock_95 rfl
theorem r_X3_writesBlock_96 (E : ax_EN G l) : ax_Snd G l ax_Ym M_X3_writesBlock 96 (S_aload 0 97) := k_aload_n dX3_writesBlock_96 rfl
theorem r_X3_writesBlock_97 (E : ax_EN G l) : ax_Snd G l ax_Ym M_X3_writesBlock 97 (S_getf [(38, 47)] 100) := k_getf (en_F E) (ax_fes_cons (fe_467 E) ax_fes_nil) q2800 dX3_writesBlock_97
theorem r_X3_writesBlock_100 (E : ax_EN G l) : ax_Snd G l ax_Ym M_X3_writesBlock 100 (S_if2 (fun x y => decide (y ≤ x)) 109 103) := k_icmp_ge dX3_writesBlock_100 rfl
theorem r_X3_writesBlock_103 (E : ax_EN G l) : ax_Snd G l ax_Ym M_X3_writesBlock 103 (S_push (.int (1)) 104) := k_iconst dX3_writesBlock_103 rfl
theorem r_X3_writesBlock_104 (E : ax_EN G l) : ax_Snd G l ax_Ym M_X3_writesBlock 104 (S_iload 1 105) := k_iload_n dX3_writesBlock_104 rfl
theorem r_X3_writesBlock_105 (E : ax_EN G l) : ax_Snd G l ax_Ym M_X3_writesBlock 105 (S_i2 (fun x y => x + y) 106) := k_iadd dX3_writesBlock_105
theorem r_X3_writesBlock_106 (E : ax_EN G l) : ax_Snd G l ax_Ym M_X3_writesBlock 106 (S_goto 115) := k_goto dX3_writesBlock_106 rfl
theorem r_X3_writesBlock_109 (E : ax_EN G l) : ax_Snd G l ax_Ym M_X3_writesBlock 109 (S_aload 0 110) := k_aload_n dX3_writesBlock_109 rfl
theorem r_X3_writesBlock_110 (E : ax_EN G l) : ax_Snd G l ax_Ym M_X3_writesBlock 110 (S_getf [(38, 48)] 113) := k_getf (en_F E) (ax_fes_cons (fe_398 E) ax_fes_nil) q2801 dX3_writesBlock_110
theorem r_X3_writesBlock_113 (E : ax_EN G l) : ax_Snd G l ax_Ym M_X3_writesBlock 113 (S_iload 2 114) := k_iload_n dX3_writesBlock_113 rfl
theorem r_X3_writesBlock_114 (E : ax_EN G l) : ax_Snd G l ax_Ym M_X3_writesBlock 114 (S_iald 0 115) := k_iald (en_F E) dX3_writesBlock_114
theorem r_X3_writesBlock_115 (E : ax_EN G l) : ax_Snd G l ax_Ym M_X3_writesBlock 115 (S_istore 3 116) := k_istore_n dX3_writesBlock_115 rfl (Nat.le_of_ble_eq_true rfl)
theorem r_X3_writesBlock_116 (E : ax_EN G l) : ax_Snd G l ax_Ym M_X3_writesBlock 116 (S_push (.int (0)) 117) := k_iconst dX3_writesBlock_116 rfl
theorem r_X3_writesBlock_117 (E : ax_EN G l) : ax_Snd G l ax_Ym M_X3_writesBlock 117 (S_istore 4 119) := k_istore dX3_writesBlock_117 (Nat.le_of_ble_eq_true rfl)
theorem r_X3_writesBlock_119 (E : ax_EN G l) : ax_Snd G l ax_Ym M_X3_writesBlock 119 (S_iload 4 121) := k_iload dX3_writesBlock_119
theorem r_X3_writesBlock_121 (E : ax_EN G l) : ax_Snd G l ax_Ym M_X3_writesBlock 121 (S_push (.int (8)) 123) := k_bipush dX3_writesBlock_121 rfl
theorem r_X3_writesBlock_123 (E : ax_EN G l) : ax_Snd G l ax_Ym M_X3_writesBlock 123 (S_if2 (fun x y => decide (y ≤ x)) 156 126) := k_icmp_ge dX3_writesBlock_123 rfl
theorem r_X3_writesBlock_126 (E : ax_EN G l) : ax_Snd G l ax_Ym M_X3_writesBlock 126 (S_aload 0 127) := k_aload_n dX3_writesBlock_126 rfl
theorem r_X3_writesBlock_127 (E : ax_EN G l) : ax_Snd G l ax_Ym M_X3_writesBlock 127 (S_getf [(38, 50)] 130) := k_getf (en_F E) (ax_fes_cons (fe_402 E) ax_fes_nil) q2803 dX3_writesBlock_127
theorem r_X3_writesBlock_130 (E : ax_EN G l) : ax_Snd G l ax_Ym M_X3_writesBlock 130 (S_push (.int (8)) 132) := k_bipush dX3_writesBlock_130 rfl
theorem r_X3_writesBlock_132 (E : ax_EN G l) : ax_Snd G l ax_Ym M_X3_writesBlock 132 (S_iload 3 133) := k_iload_n dX3_writesBlock_132 rfl
theorem r_X3_writesBlock_133 (E : ax_EN G l) : ax_Snd G l ax_Ym M_X3_writesBlock 133 (S_i2 (fun x y => x * y) 134) := k_imul dX3_writesBlock_133
theorem r_X3_writesBlock_134 (E : ax_EN G l) : ax_Snd G l ax_Ym M_X3_writesBlock 134 (S_iload 4 136) := k_iload dX3_writesBlock_134
theorem r_X3_writesBlock_136 (E : ax_EN G l) : ax_Snd G l ax_Ym M_X3_writesBlock 136 (S_i2 (fun x y => x + y) 137) := k_iadd dX3_writesBlock_136
theorem r_X3_writesBlock_137 (E : ax_EN G l) : ax_Snd G l ax_Ym M_X3_writesBlock 137 (S_aload 0 138) := k_aload_n dX3_writesBlock_137 rfl
theorem r_X3_writesBlock_138 (E : ax_EN G l) : ax_Snd G l ax_Ym M_X3_writesBlock 138 (S_getf [(38, 49)] 141) := k_getf (en_F E) (ax_fes_cons (fe_400 E) ax_fes_nil) q2802 dX3_writesBlock_138
theorem r_X3_writesBlock_141 (E : ax_EN G l) : ax_Snd G l ax_Ym M_X3_writesBlock 141 (S_push (.int (8)) 143) := k_bipush dX3_writesBlock_141 rfl
theorem r_X3_writesBlock_143 (E : ax_EN G l) : ax_Snd G l ax_Ym M_X3_writesBlock 143 (S_iload 2 144) := k_iload_n dX3_writesBlock_143 rfl
theorem r_X3_writesBlock_144 (E : ax_EN G l) : ax_Snd G l ax_Ym M_X3_writesBlock 144 (S_i2 (fun x y => x * y) 145) := k_imul dX3_writesBlock_144
theorem r_X3_writesBlock_145 (E : ax_EN G l) : ax_Snd G l ax_Ym M_X3_writesBlock 145 (S_iload 4 147) := k_iload dX3_writesBlock_145
theorem r_X3_writesBlock_147 (E : ax_EN G l) : ax_Snd G l ax_Ym M_X3_writesBlock 147 (S_i2 (fun x y => x + y) 148) := k_iadd dX3_writesBlock_147
theorem r_X3_writesBlock_148 (E : ax_EN G l) : ax_Snd G l ax_Ym M_X3_writesBlock 148 (S_iald 0 149) := k_iald (en_F E) dX3_writesBlock_148
theorem r_X3_writesBlock_149 (E : ax_EN G l) : ax_Snd G l ax_Ym M_X3_writesBlock 149 (S_iast 0 (fun x => x) 150) := k_iast (en_F E) dX3_writesBlock_149
theorem r_X3_writesBlock_150 (E : ax_EN G l) : ax_Snd G l ax_Ym M_X3_writesBlock 150 (S_iinc 4 (1) 153) := k_iinc dX3_writesBlock_150 rfl (Nat.le_of_ble_eq_true rfl)
theorem r_X3_writesBlock_153 (E : ax_EN G l) : ax_Snd G l ax_Ym M_X3_writesBlock 153 (S_goto 119) := k_goto dX3_writesBlock_153 rfl
theorem r_X3_writesBlock_156 (E : ax_EN G l) : ax_Snd G l ax_Ym M_X3_writesBlock 156 (S_aload 0 157) := k_aload_n dX3_writesBlock_156 rfl
theorem r_X3_writesBlock_157 (E : ax_EN G l) : ax_Snd G l ax_Ym M_X3_writesBlock 157 (S_getf [(38, 46)] 160) := k_getf (en_F E) (ax_fes_cons (fe_495 E) ax_fes_nil) q2799 dX3_writesBlock_157
theorem r_X3_writesBlock_160 (E : ax_EN G l) : ax_Snd G l ax_Ym M_X3_writesBlock 160 (S_if1 (fun x => decide (¬ x = 0)) 180 163) := k_if_ne dX3_writesBlock_160 rfl
theorem r_X3_writesBlock_163 (E : ax_EN G l) : ax_Snd G l ax_Ym M_X3_writesBlock 163 (S_aload 0 164) := k_aload_n dX3_writesBlock_163 rfl
theorem r_X3_writesBlock_164 (E : ax_EN G l) : ax_Snd G l ax_Ym M_X3_writesBlock 164 (S_getf [(38, 26)] 167) := k_getf (en_F E) (ax_fes_cons (fe_386 E) ax_fes_nil) q2779 dX3_writesBlock_164
theorem r_X3_writesBlock_167 (E : ax_EN G l) : ax_Snd G l ax_Ym M_X3_writesBlock 167 (S_push (.int (3)) 168) := k_iconst dX3_writesBlock_167 rfl
theorem r_X3_writesBlock_168 (E : ax_EN G l) : ax_Snd G l ax_Ym M_X3_writesBlock 168 (S_push (.int (0)) 169) := k_iconst dX3_writesBlock_168 rfl
theorem r_X3_writesBlock_169 (E : ax_EN G l) : ax_Snd G l ax_Ym M_X3_writesBlock 169 (S_iast 0 (fun x => x) 170) := k_iast (en_F E) dX3_writesBlock_169
theorem r_X3_writesBlock_170 (E : ax_EN G l) : ax_Snd G l ax_Ym M_X3_writesBlock 170 (S_aload 0 171) := k_aload_n dX3_writesBlock_170 rfl
theorem r_X3_writesBlock_171 (E : ax_EN G l) : ax_Snd G l ax_Ym M_X3_writesBlock 171 (S_dup 172) := k_dup dX3_writesBlock_171
theorem r_X3_writesBlock_172 (E : ax_EN G l) : ax_Snd G l ax_Ym M_X3_writesBlock 172 (S_getf [(38, 27)] 175) := k_getf (en_F E) (ax_fes_cons (fe_469 E) ax_fes_nil) q2780 dX3_writesBlock_172
theorem r_X3_writesBlock_175 (E : ax_EN G l) : ax_Snd G l ax_Ym M_X3_writesBlock 175 (S_push (.int (2)) 176) := k_iconst dX3_writesBlock_175 rfl
theorem r_X3_writesBlock_176 (E : ax_EN G l) : ax_Snd G l ax_Ym M_X3_writesBlock 176 (S_i2 (fun x y => x + y) 177) := k_iadd dX3_writesBlock_176
theorem r_X3_writesBlock_177 (E : ax_EN G l) : ax_Snd G l ax_Ym M_X3_writesBlock 177 (S_putf [(38, 27)] (.int) 180) := k_putf (en_F E) (en_P E) (ax_fes_cons (fe_469 E) ax_fes_nil) (ax_fps_cons (fp_470 E) ax_fps_nil) q2780 dX3_writesBlock_177
theorem r_X3_writesBlock_180 (E : ax_EN G l) : ax_Snd G l ax_Ym M_X3_writesBlock 180 (S_ret) := k_ret dX3_writesBlock_180 rfl
theorem mt_X3_writesBlock (E : ax_EN G l) : ax_mt G l ax_Ym (5, P_X3_writesBlock) (ax_Ym 420) := ⟨M_X3_writesBlock, yX3_writesBlock, ⟨rfl, by decide +kernel, rfl, (fun h => by cases h), Or.inl ⟨rfl, rfl⟩⟩, fun pc => (ax_sn_node (ax_sn_node (ax_sn_node (ax_sn_node (ax_sn_node (ax_sn_node (ax_sn_node (ax_sn_leaf (r_X3_writesBlock_180 E)) (ax_sn_leaf (r_X3_writesBlock_177 E))) (ax_sn_node (ax_sn_leaf (r_X3_writesBlock_176 E)) (ax_sn_leaf (r_X3_writesBlock_175 E)))) (ax_sn_node (ax_sn_node (ax_sn_leaf (r_X3_writesBlock_172 E)) (ax_sn_leaf (r_X3_writesBlock_171 E))) (ax_sn_leaf (r_X3_writesBlock_170 E)))) (ax_sn_node (ax_sn_node (ax_sn_node (ax_sn_leaf (r_X3_writesBlock_169 E)) (ax_sn_leaf (r_X3_writesBlock_168 E))) (ax_sn_node (ax_sn_leaf (r_X3_writesBlock_167 E)) (ax_sn_leaf (r_X3_writesBlock_164 E)))) (ax_sn_node (ax_sn_node (ax_sn_leaf (r_X3_writesBlock_163 E)) (ax_sn_leaf (r_X3_writesBlock_160 E))) (ax_sn_leaf (r_X3_writesBlock_157 E))))) (ax_sn_node (ax_sn_node (ax_sn_node (ax_sn_node (ax_sn_leaf (r_X3_writesBlock_156 E)) (ax_sn_leaf (r_X3_writesBlock_153 E))) (ax_sn_node (ax_sn_leaf (r_X3_writesBlock_150 E)) (ax_sn_leaf (r_X3_writesBlock_149 E)))) (ax_sn_node (ax_sn_node (ax_sn_leaf (r_X3_writesBlock_148 E)) (ax_sn_leaf (r_X3_writesBlock_147 E))) (ax_sn_leaf (r_X3_writesBlock_145 E)))) (ax_sn_node (ax_sn_node (ax_sn_node (ax_sn_leaf (r_X3_writesBlock_144 E)) (ax_sn_leaf (r_X3_writesBlock_143 E))) (ax_sn_leaf (r_X3_writesBlock_141 E))) (ax_sn_node (ax_sn_node (ax_sn_leaf (r_X3_writesBlock_138 E)) (ax_sn_leaf (r_X3_writesBlock_137 E))) (ax_sn_leaf (r_X3_writesBlock_136 E)))))) (ax_sn_node (ax_sn_node (ax_sn_node (ax_sn_node (ax_sn_node (ax_sn_leaf (r_X3_writesBlock_134 E)) (ax_sn_leaf (r_X3_writesBlock_133 E))) (ax_sn_node (ax_sn_leaf (r_X3_writesBlock_132 E)) (ax_sn_leaf (r_X3_writesBlock_130 E)))) (ax_sn_node (ax_sn_node (ax_sn_leaf (r_X3_writesBlock_127 E)) (ax_sn_leaf (r_X3_writesBlock_126 E))) (ax_sn_leaf (r_X3_writesBlock_123 E)))) (ax_sn_node (ax_sn_node (ax_sn_node (ax_sn_leaf (r_X3_writesBlock_121 E)) (ax_sn_leaf (r_X3_writesBlock_119 E))) (ax_sn_node (ax_sn_leaf (r_X3_writesBlock_117 E)) (ax_sn_leaf (r_X3_writesBlock_116 E)))) (ax_sn_node (ax_sn_node (ax_sn_leaf (r_X3_writesBlock_115 E)) (ax_sn_leaf (r_X3_writesBlock_114 E))) (ax_sn_leaf (r_X3_writesBlock_113 E))))) (ax_sn_node (ax_sn_node (ax_sn_node (ax_sn_node (ax_sn_leaf (r_X3_writesBlock_110 E)) (ax_sn_leaf (r_X3_writesBlock_109 E))) (ax_sn_node (ax_sn_leaf (r_X3_writesBlock_106 E)) (ax_sn_leaf (r_X3_writesBlock_105 E)))) (ax_sn_node (ax_sn_node (ax_sn_leaf (r_X3_writesBlock_104 E)) (ax_sn_leaf (r_X3_writesBlock_103 E))) (ax_sn_leaf (r_X3_writesBlock_100 E)))) (ax_sn_node (ax_sn_node (ax_sn_node (ax_sn_leaf (r_X3_writesBlock_97 E)) (ax_sn_leaf (r_X3_writesBlock_96 E))) (ax_sn_leaf (r_X3_writesBlock_95 E))) (ax_sn_node (ax_sn_node (ax_sn_leaf (r_X3_writesBlock_94 E)) (ax_sn_leaf (r_X3_writesBlock_93 E))) (ax_sn_leaf (r_X3_writesBlock_92 E))))))) (ax_sn_node (ax_sn_node (ax_sn_node (ax_sn_node (ax_sn_node (ax_sn_node (ax_sn_leaf (r_X3_writesBlock_91 E)) (ax_sn_leaf (r_X3_writesBlock_88 E))) (ax_sn_node (ax_sn_leaf (r_X3_writesBlock_87 E)) (ax_sn_leaf (r_X3_writesBlock_86 E)))) (ax_sn_node (ax_sn_node (ax_sn_leaf (r_X3_writesBlock_83 E)) (ax_sn_leaf (r_X3_writesBlock_82 E))) (ax_sn_leaf (r_X3_writesBlock_79 E)))) (ax_sn_node (ax_sn_node (ax_sn_node (ax_sn_leaf (r_X3_writesBlock_76 E)) (ax_sn_leaf (r_X3_writesBlock_75 E))) (ax_sn_node (ax_sn_leaf (r_X3_writesBlock_74 E)) (ax_sn_leaf (r_X3_writesBlock_71 E)))) (ax_sn_node (ax_sn_node (ax_sn_leaf (r_X3_writesBlock_68 E)) (ax_sn_leaf (r_X3_writesBlock_67 E))) (ax_sn_leaf (r_X3_writesBlock_64 E))))) (ax_sn_node (ax_sn_node (ax_sn_node (ax_sn_node (ax_sn_leaf (r_X3_writesBlock_63 E)) (ax_sn_leaf (r_X3_writesBlock_60 E))) (ax_sn_node (ax_sn_leaf (r_X3_writesBlock_57 E)) (ax_sn_leaf (r_X3_writesBlock_56 E)))) (ax_sn_node (ax_sn_node (ax_sn_leaf (r_X3_writesBlock_55 E)) (ax_sn_leaf (r_X3_writesBlock_54 E))) (ax_sn_leaf (r_X3_writesBlock_51 E)))) (ax_sn_node (ax_sn_node (ax_sn_node (ax_sn_leaf (r_X3_writesBlock_50 E)) (ax_sn_leaf (r_X3_writesBlock_49 E))) (ax_sn_leaf (r_X3_writesBlock_48 E))) (ax_sn_node (ax_sn_node (ax_sn_leaf (r_X3_writesBlock_45 E)) (ax_sn_leaf (r_X3_writesBlock_44 E))) (ax_sn_leaf (r_X3_writesBlock_43 E)))))) (ax_sn_node (ax_sn_node (ax_sn_node (ax_sn_node (ax_sn_node (ax_sn_leaf (r_X3_writesBlock_42 E)) (ax_sn_leaf (r_X3_writesBlock_39 E))) (ax_sn_node (ax_sn_leaf (r_X3_writesBlock_36 E)) (ax_sn_leaf (r_X3_writesBlock_35 E)))) (ax_sn_node (ax_sn_node (ax_sn_leaf (r_X3_writesBlock_34 E)) (ax_sn_leaf (r_X3_writesBlock_31 E))) (ax_sn_leaf (r_X3_writesBlock_30 E)))) (ax_sn_node (ax_sn_node (ax_sn_node (ax_sn_leaf (r_X3_writesBlock_29 E)) (ax_sn_leaf (r_X3_writesBlock_26 E))) (ax_sn_node (ax_sn_leaf (r_X3_writesBlock_25 E)) (ax_sn_leaf (r_X3_writesBlock_24 E)))) (ax_sn_node (ax_sn_node (ax_sn_leaf (r_X3_writesBlock_21 E)) (ax_sn_leaf (r_X3_writesBlock_20 E))) (ax_sn_leaf (r_X3_writesBlock_19 E))))) (ax_sn_node (ax_sn_node (ax_sn_node (ax_sn_node (ax_sn_leaf (r_X3_writesBlock_16 E)) (ax_sn_leaf (r_X3_writesBlock_15 E))) (ax_sn_node (ax_sn_leaf (r_X3_writesBlock_14 E)) (ax_sn_leaf (r_X3_writesBlock_13 E)))) (ax_sn_node (ax_sn_node (ax_sn_leaf (r_X3_writesBlock_12 E)) (ax_sn_leaf (r_X3_writesBlock_9 E))) (ax_sn_leaf (r_X3_writesBlock_8 E)))) (ax_sn_node (ax_sn_node (ax_sn_node (ax_sn_leaf (r_X3_writesBlock_7 E)) (ax_sn_leaf (r_X3_writesBlock_6 E))) (ax_sn_leaf (r_X3_writesBlock_5 E))) (ax_sn_node (ax_sn_node (ax_sn_leaf (r_X3_writesBlock_2 E)) (ax_sn_leaf (r_X3_writesBlock_1 E))) (ax_sn_leaf (r_X3_writesBlock_0 E))))))))⟩
theorem r_X3_interrupts_0 (E : ax_EN G l) : ax_Snd G l ax_Ym M_X3_interrupts 0 (S_aload 0 1) := k_aload_n dX3_interrupts_0 rfl
theorem r_X3_interrupts_1 (E : ax_EN G l) : ax_Snd G l ax_Ym M_X3_interrupts 1 (S_getf [(38, 28)] 4) := k_getf (en_F E) (ax_fes_cons (fe_471 E) ax_fes_nil) q2781 dX3_interrupts_1
theorem r_X3_interrupts_4 (E : ax_EN G l) : ax_Snd G l ax_Ym M_X3_interrupts 4 (S_push (.int (2)) 5) := k_iconst dX3_interrupts_4 rfl
theorem r_X3_interrupts_5 (E : ax_EN G l) : ax_Snd G l ax_Ym M_X3_interrupts 5 (S_if2 (fun x y => decide (y ≤ x)) 14 8) := k_icmp_ge dX3_interrupts_5 rfl
theorem r_X3_interrupts_8 (E : ax_EN G l) : ax_Snd G l ax_Ym M_X3_interrupts 8 (S_aload 0 9) := k_aload_n dX3_interrupts_8 rfl
theorem r_X3_interrupts_9 (E : ax_EN G l) : ax_Snd G l ax_Ym M_X3_interrupts 9 (S_push (.int (3)) 10) := k_iconst dX3_interrupts_9 rfl
theorem r_X3_interrupts_10 (E : ax_EN G l) : ax_Snd G l ax_Ym M_X3_interrupts 10 (S_iv [(38, 422)] 1 13 hd_0) := k_iv (en_F E) (ax_ok0 E rfl) (ax_Evs_cons ((ev_v (en_c E (k := 38) rfl) rfl y_X3_faults q3174 q3176 qs87 q126 q3177 nm_X3_faults (Nat.le_of_ble_eq_true rfl) dX3_interrupts_10) : ax_EvV G l ax_Ym M_X3_interrupts 10 1 3 38 422) ax_Evs_nil)
theorem r_X3_interrupts_13 (E : ax_EN G l) : ax_Snd G l ax_Ym M_X3_interrupts 13 (S_ret) := k_ret dX3_interrupts_13 rfl
theorem r_X3_interrupts_14 (E : ax_EN G l) : ax_Snd G l ax_Ym M_X3_interrupts 14 (S_aload 0 15) := k_aload_n dX3_interrupts_14 rfl
theorem r_X3_interrupts_15 (E : ax_EN G l) : ax_Snd G l ax_Ym M_X3_interrupts 15 (S_getf [(38, 32)] 18) := k_getf (en_F E) (ax_fes_cons (fe_481 E) ax_fes_nil) q2785 dX3_interrupts_15
theorem r_X3_interrupts_18 (E : ax_EN G l) : ax_Snd G l ax_Ym M_X3_interrupts 18 (S_if1 (fun x => decide (x = 0)) 25 21) := k_if_eq dX3_interrupts_18 rfl
theorem r_X3_interrupts_21 (E : ax_EN G l) : ax_Snd G l ax_Ym M_X3_interrupts 21 (S_push (.int (0)) 22) := k_iconst dX3_interrupts_21 rfl
theorem r_X3_interrupts_22 (E : ax_EN G l) : ax_Snd G l ax_Ym M_X3_interrupts 22 (S_goto 26) := k_goto dX3_interrupts_22 rfl
theorem r_X3_interrupts_25 (E : ax_EN G l) : ax_Snd G l ax_Ym M_X3_interrupts 25 (S_push (.int (1)) 26) := k_iconst dX3_interrupts_25 rfl
theorem r_X3_interrupts_26 (E : ax_EN G l) : ax_Snd G l ax_Ym M_X3_interrupts 26 (S_istore 1 27) := k_istore_n dX3_interrupts_26 rfl (Nat.le_of_ble_eq_true rfl)
theorem r_X3_interrupts_27 (E : ax_EN G l) : ax_Snd G l ax_Ym M_X3_interrupts 27 (S_aload 0 28) := k_aload_n dX3_interrupts_27 rfl
theorem r_X3_interrupts_28 (E : ax_EN G l) : ax_Snd G l ax_Ym M_X3_interrupts 28 (S_aload 0 29) := k_aload_n dX3_interrupts_28 rfl
theorem r_X3_interrupts_29 (E : ax_EN G l) : ax_Snd G l ax_Ym M_X3_interrupts 29 (S_getf [(38, 32)] 32) := k_getf (en_F E) (ax_fes_cons (fe_481 E) ax_fes_nil) q2785 dX3_interrupts_29
theorem r_X3_interrupts_32 (E : ax_EN G l) : ax_Snd G l ax_Ym M_X3_interrupts 32 (S_if1 (fun x => decide (x = 0)) 46 35) := k_if_eq dX3_interrupts_32 rfl
theorem r_X3_interrupts_35 (E : ax_EN G l) : ax_Snd G l ax_Ym M_X3_interrupts 35 (S_aload 0 36) := k_aload_n dX3_interrupts_35 rfl
theorem r_X3_interrupts_36 (E : ax_EN G l) : ax_Snd G l ax_Ym M_X3_interrupts 36 (S_getf [(38, 33)] 39) := k_getf (en_F E) (ax_fes_cons (fe_483 E) ax_fes_nil) q2786 dX3_interrupts_36
theorem r_X3_interrupts_39 (E : ax_EN G l) : ax_Snd G l ax_Ym M_X3_interrupts 39 (S_if1 (fun x => decide (x = 0)) 46 42) := k_if_eq dX3_interrupts_39 rfl
theorem r_X3_interrupts_42 (E : ax_EN G l) : ax_Snd G l ax_Ym M_X3_interrupts 42 (S_push (.int (1)) 43) := k_iconst dX3_interrupts_42 rfl
theorem r_X3_interrupts_43 (E : ax_EN G l) : ax_Snd G l ax_Ym M_X3_interrupts 43 (S_goto 47) := k_goto dX3_interrupts_43 rfl
theorem r_X3_interrupts_46 (E : ax_EN G l) : ax_Snd G l ax_Ym M_X3_interrupts 46 (S_push (.int (0)) 47) := k_iconst dX3_interrupts_46 rfl
theorem r_X3_interrupts_47 (E : ax_EN G l) : ax_Snd G l ax_Ym M_X3_interrupts 47 (S_putf [(38, 33)] (.boolean) 50) := k_putf (en_F E) (en_P E) (ax_fes_cons (fe_483 E) ax_fes_nil) (ax_fps_cons (fp_484 E) ax_fps_nil) q2786 dX3_interrupts_47
theorem r_X3_interrupts_50 (E : ax_EN G l) : ax_Snd G l ax_Ym M_X3_interrupts 50 (S_aload 0 51) := k_aload_n dX3_interrupts_50 rfl
theorem r_X3_interrupts_51 (E : ax_EN G l) : ax_Snd G l ax_Ym M_X3_interrupts 51 (S_push (.int (0)) 52) := k_iconst dX3_interrupts_51 rfl
theorem r_X3_interrupts_52 (E : ax_EN G l) : ax_Snd G l ax_Ym M_X3_interrupts 52 (S_putf [(38, 32)] (.boolean) 55) := k_putf (en_F E) (en_P E) (ax_fes_cons (fe_481 E) ax_fes_nil) (ax_fps_cons (fp_482 E) ax_fps_nil) q2785 dX3_interrupts_52
theorem r_X3_interrupts_55 (E : ax_EN G l) : ax_Snd G l ax_Ym M_X3_interrupts 55 (S_aload 0 56) := k_aload_n dX3_interrupts_55 rfl
theorem r_X3_interrupts_56 (E : ax_EN G l) : ax_Snd G l ax_Ym M_X3_interrupts 56 (S_aload 0 57) := k_aload_n dX3_interrupts_56 rfl
theorem r_X3_interrupts_57 (E : ax_EN G l) : ax_Snd G l ax_Ym M_X3_interrupts 57 (S_getf [(38, 27)] 60) := k_getf (en_F E) (ax_fes_cons (fe_469 E) ax_fes_nil) q2780 dX3_interrupts_57
theorem r_X3_interrupts_60 (E : ax_EN G l) : ax_Snd G l ax_Ym M_X3_interrupts 60 (S_iv [(38, 423)] 1 63 hd_0) := k_iv (en_F E) (ax_ok0 E rfl) (ax_Evs_cons ((ev_v (en_c E (k := 38) rfl) rfl y_X3_pushes q3178 q3180 qs88 q126 q3181 nm_X3_pushes (Nat.le_of_ble_eq_true rfl) dX3_interrupts_60) : ax_EvV G l ax_Ym M_X3_interrupts 60 1 3 38 423) ax_Evs_nil)
theorem r_X3_interrupts_63 (E : ax_EN G l) : ax_Snd G l ax_Ym M_X3_interrupts 63 (S_aload 0 64) := k_aload_n dX3_interrupts_63 rfl
theorem r_X3_interrupts_64 (E : ax_EN G l) : ax_Snd G l ax_Ym M_X3_interrupts 64 (S_aload 0 65) := k_aload_n dX3_interrupts_64 rfl
theorem r_X3_interrupts_65 (E : ax_EN G l) : ax_Snd G l ax_Ym M_X3_interrupts 65 (S_getf [(38, 29)] 68) := k_getf (en_F E) (ax_fes_cons (fe_475 E) ax_fes_nil) q2782 dX3_interrupts_65
theorem r_X3_interrupts_68 (E : ax_EN G l) : ax_Snd G l ax_Ym M_X3_interrupts 68 (S_if1 (fun x => decide (x = 0)) 75 71) := k_if_eq dX3_interrupts_68 rfl
theorem r_X3_interrupts_71 (E : ax_EN G l) : ax_Snd G l ax_Ym M_X3_interrupts 71 (S_push (.int (1)) 72) := k_iconst dX3_interrupts_71 rfl
theorem r_X3_interrupts_72 (E : ax_EN G l) : ax_Snd G l ax_Ym M_X3_interrupts 72 (S_goto 76) := k_goto dX3_interrupts_72 rfl
theorem r_X3_interrupts_75 (E : ax_EN G l) : ax_Snd G l ax_Ym M_X3_interrupts 75 (S_push (.int (0)) 76) := k_iconst dX3_interrupts_75 rfl
theorem r_X3_interrupts_76 (E : ax_EN G l) : ax_Snd G l ax_Ym M_X3_interrupts 76 (S_aload 0 77) := k_aload_n dX3_interrupts_76 rfl
theorem r_X3_interrupts_77 (E : ax_EN G l) : ax_Snd G l ax_Ym M_X3_interrupts 77 (S_getf [(38, 30)] 80) := k_getf (en_F E) (ax_fes_cons (fe_477 E) ax_fes_nil) q2783 dX3_interrupts_77
theorem r_X3_interrupts_80 (E : ax_EN G l) : ax_Snd G l ax_Ym M_X3_interrupts 80 (S_if1 (fun x => decide (x = 0)) 87 83) := k_if_eq dX3_interrupts_80 rfl
theorem r_X3_interrupts_83 (E : ax_EN G l) : ax_Snd G l ax_Ym M_X3_interrupts 83 (S_push (.int (2)) 84) := k_iconst dX3_interrupts_83 rfl
theorem r_X3_interrupts_84 (E : ax_EN G l) : ax_Snd G l ax_Ym M_X3_interrupts 84 (S_goto 88) := k_goto dX3_interrupts_84 rfl
theorem r_X3_interrupts_87 (E : ax_EN G l) : ax_Snd G l ax_Ym M_X3_interrupts 87 (S_push (.int (0)) 88) := k_iconst dX3_interrupts_87 rfl
theorem r_X3_interrupts_88 (E : ax_EN G l) : ax_Snd G l ax_Ym M_X3_interrupts 88 (S_i2 (fun x y => x + y) 89) := k_iadd dX3_interrupts_88
theorem r_X3_interrupts_89 (E : ax_EN G l) : ax_Snd G l ax_Ym M_X3_interrupts 89 (S_iv [(38, 423)] 1 92 hd_0) := k_iv (en_F E) (ax_ok0 E rfl) (ax_Evs_cons ((ev_v (en_c E (k := 38) rfl) rfl y_X3_pushes q3178 q3180 qs88 q126 q3181 nm_X3_pushes (Nat.le_of_ble_eq_true rfl) dX3_interrupts_89) : ax_EvV G l ax_Ym M_X3_interrupts 89 1 3 38 423) ax_Evs_nil)
theorem r_X3_interrupts_92 (E : ax_EN G l) : ax_Snd G l ax_Ym M_X3_interrupts 92 (S_aload 0 93) := k_aload_n dX3_interrupts_92 rfl
theorem r_X3_interrupts_93 (E : ax_EN G l) : ax_Snd G l ax_Ym M_X3_interrupts 93 (S_push (.int (0)) 94) := k_iconst dX3_interrupts_93 rfl
theorem r_X3_interrupts_94 (E : ax_EN G l) : ax_Snd G l ax_Ym M_X3_interrupts 94 (S_putf [(38, 31)] (.boolean) 97) := k_putf (en_F E) (en_P E) (ax_fes_cons (fe_479 E) ax_fes_nil) (ax_fps_cons (fp_480 E) ax_fps_nil) q2784 dX3_interrupts_94
theorem r_X3_interrupts_97 (E : ax_EN G l) : ax_Snd G l ax_Ym M_X3_interrupts 97 (S_aload 0 98) := k_aload_n dX3_interrupts_97 rfl
theorem r_X3_interrupts_98 (E : ax_EN G l) : ax_Snd G l ax_Ym M_X3_interrupts 98 (S_aload 0 99) := k_aload_n dX3_interrupts_98 rfl
theorem r_X3_interrupts_99 (E : ax_EN G l) : ax_Snd G l ax_Ym M_X3_interrupts 99 (S_getf [(38, 25)] 102) := k_getf (en_F E) (ax_fes_cons (fe_384 E) ax_fes_nil) q2778 dX3_interrupts_99
theorem r_X3_interrupts_102 (E : ax_EN G l) : ax_Snd G l ax_Ym M_X3_interrupts 102 (S_iload 1 103) := k_iload_n dX3_interrupts_102 rfl
theorem r_X3_interrupts_103 (E : ax_EN G l) : ax_Snd G l ax_Ym M_X3_interrupts 103 (S_iald 0 104) := k_iald (en_F E) dX3_interrupts_103
theorem r_X3_interrupts_104 (E : ax_EN G l) : ax_Snd G l ax_Ym M_X3_interrupts 104 (S_putf [(38, 27)] (.int) 107) := k_putf (en_F E) (en_P E) (ax_fes_cons (fe_469 E) ax_fes_nil) (ax_fps_cons (fp_470 E) ax_fps_nil) q2780 dX3_interrupts_104
theorem r_X3_interrupts_107 (E : ax_EN G l) : ax_Snd G l ax_Ym M_X3_interrupts 107 (S_ret) := k_ret dX3_interrupts_107 rfl
theorem mt_X3_interrupts (E : ax_EN G l) : ax_mt G l ax_Ym (2, P_X3_interrupts) (ax_Ym 421) := ⟨M_X3_interrupts, yX3_interrupts, ⟨rfl, by decide +kernel, rfl, (fun h => by cases h), Or.inl ⟨rfl, rfl⟩⟩, fun pc => (ax_sn_node (ax_sn_node (ax_sn_node (ax_sn_node (ax_sn_node (ax_sn_node (ax_sn_leaf (r_X3_interrupts_107 E)) (ax_sn_leaf (r_X3_interrupts_104 E))) (ax_sn_node (ax_sn_leaf (r_X3_interrupts_103 E)) (ax_sn_leaf (r_X3_interrupts_102 E)))) (ax_sn_node (ax_sn_node (ax_sn_leaf (r_X3_interrupts_99 E)) (ax_sn_leaf (r_X3_interrupts_98 E))) (ax_sn_node (ax_sn_leaf (r_X3_interrupts_97 E)) (ax_sn_leaf (r_X3_interrupts_94 E))))) (ax_sn_node (ax_sn_node (ax_sn_node (ax_sn_leaf (r_X3_interrupts_93 E)) (ax_sn_leaf (r_X3_interrupts_92 E))) (ax_sn_node (ax_sn_leaf (r_X3_interrupts_89 E)) (ax_sn_leaf (r_X3_interrupts_88 E)))) (ax_sn_node (ax_sn_node (ax_sn_leaf (r_X3_interrupts_87 E)) (ax_sn_leaf (r_X3_interrupts_84 E))) (ax_sn_leaf (r_X3_interrupts_83 E))))) (ax_sn_node (ax_sn_node (ax_sn_node (ax_sn_node (ax_sn_leaf (r_X3_interrupts_80 E)) (ax_sn_leaf (r_X3_interrupts_77 E))) (ax_sn_node (ax_sn_leaf (r_X3_interrupts_76 E)) (ax_sn_leaf (r_X3_interrupts_75 E)))) (ax_sn_node (ax_sn_node (ax_sn_leaf (r_X3_interrupts_72 E)) (ax_sn_leaf (r_X3_interrupts_71 E))) (ax_sn_leaf (r_X3_interrupts_68 E)))) (ax_sn_node (ax_sn_node (ax_sn_node (ax_sn_leaf (r_X3_interrupts_65 E)) (ax_sn_leaf (r_X3_interrupts_64 E))) (ax_sn_node (ax_sn_leaf (r_X3_interrupts_63 E)) (ax_sn_leaf (r_X3_interrupts_60 E)))) (ax_sn_node (ax_sn_node (ax_sn_leaf (r_X3_interrupts_57 E)) (ax_sn_leaf (r_X3_interrupts_56 E))) (ax_sn_leaf (r_X3_interrupts_55 E)))))) (ax_sn_node (ax_sn_node (ax_sn_node (ax_sn_node (ax_sn_node (ax_sn_leaf (r_X3_interrupts_52 E)) (ax_sn_leaf (r_X3_interrupts_51 E))) (ax_sn_node (ax_sn_leaf (r_X3_interrupts_50 E)) (ax_sn_leaf (r_X3_interrupts_47 E)))) (ax_sn_node (ax_sn_node (ax_sn_leaf (r_X3_interrupts_46 E)) (ax_sn_leaf (r_X3_interrupts_43 E))) (ax_sn_node (ax_sn_leaf (r_X3_interrupts_42 E)) (ax_sn_leaf (r_X3_interrupts_39 E))))) (ax_sn_node (ax_sn_node (ax_sn_node (ax_sn_leaf (r_X3_interrupts_36 E)) (ax_sn_leaf (r_X3_interrupts_35 E))) (ax_sn_node (ax_sn_leaf (r_X3_interrupts_32 E)) (ax_sn_leaf (r_X3_interrupts_29 E)))) (ax_sn_node (ax_sn_node (ax_sn_leaf (r_X3_interrupts_28 E)) (ax_sn_leaf (r_X3_interrupts_27 E))) (ax_sn_leaf (r_X3_interrupts_26 E))))) (ax_sn_node (ax_sn_node (ax_sn_node (ax_sn_node (ax_sn_leaf (r_X3_interrupts_25 E)) (ax_sn_leaf (r_X3_interrupts_22 E))) (ax_sn_node (ax_sn_leaf (r_X3_interrupts_21 E)) (ax_sn_leaf (r_X3_interrupts_18 E)))) (ax_sn_node (ax_sn_node (ax_sn_leaf (r_X3_interrupts_15 E)) (ax_sn_leaf (r_X3_interrupts_14 E))) (ax_sn_leaf (r_X3_interrupts_13 E)))) (ax_sn_node (ax_sn_node (ax_sn_node (ax_sn_leaf (r_X3_interrupts_10 E)) (ax_sn_leaf (r_X3_interrupts_9 E))) (ax_sn_node (ax_sn_leaf (r_X3_interrupts_8 E)) (ax_sn_leaf (r_X3_interrupts_5 E)))) (ax_sn_node (ax_sn_node (ax_sn_leaf (r_X3_interrupts_4 E)) (ax_sn_leaf (r_X3_interrupts_1 E))) (ax_sn_leaf (r_X3_interrupts_0 E)))))))⟩
theorem r_X3_faults_0 (E : ax_EN G l) : ax_Snd G l ax_Ym M_X3_faults 0 (S_aload 0 1) := k_aload_n dX3_faults_0 rfl
theorem r_X3_faults_1 (E : ax_EN G l) : ax_Snd G l ax_Ym M_X3_faults 1 (S_push (.int (3)) 2) := k_iconst dX3_faults_1 rfl
theorem r_X3_faults_2 (E : ax_EN G l) : ax_Snd G l ax_Ym M_X3_faults 2 (S_putf [(38, 23)] (.int) 5) := k_putf (en_F E) (en_P E) (ax_fes_cons (fe_466 E) ax_fes_nil) (ax_fps_cons (fp_468 E) ax_fps_nil) q2776 dX3_faults_2
theorem r_X3_faults_5 (E : ax_EN G l) : ax_Snd G l ax_Ym M_X3_faults 5 (S_aload 0 6) := k_aload_n dX3_faults_5 rfl
theorem r_X3_faults_6 (E : ax_EN G l) : ax_Snd G l ax_Ym M_X3_faults 6 (S_iload 1 7) := k_iload_n dX3_faults_6 rfl
theorem r_X3_faults_7 (E : ax_EN G l) : ax_Snd G l ax_Ym M_X3_faults 7 (S_putf [(38, 24)] (.int) 10) := k_putf (en_F E) (en_P E) (ax_fes_cons (fe_473 E) ax_fes_nil) (ax_fps_cons (fp_474 E) ax_fps_nil) q2777 dX3_faults_7
theorem r_X3_faults_10 (E : ax_EN G l) : ax_Snd G l ax_Ym M_X3_faults 10 (S_ret) := k_ret dX3_faults_10 rfl
theorem mt_X3_faults (E : ax_EN G l) : ax_mt G l ax_Ym (2, P_X3_faults) (ax_Ym 422) := ⟨M_X3_faults, yX3_faults, ⟨rfl, by decide +kernel, rfl, (fun h => by cases h), Or.inl ⟨rfl, rfl⟩⟩, fun pc => (ax_sn_node (ax_sn_node (ax_sn_node (ax_sn_leaf (r_X3_faults_10 E)) (ax_sn_leaf (r_X3_faults_7 E))) (ax_sn_node (ax_sn_leaf (r_X3_faults_6 E)) (ax_sn_leaf (r_X3_faults_5 E)))) (ax_sn_node (ax_sn_node (ax_sn_leaf (r_X3_faults_2 E)) (ax_sn_leaf (r_X3_faults_1 E))) (ax_sn_leaf (r_X3_faults_0 E))))⟩
theorem r_X3_pushes_0 (E : ax_EN G l) : ax_Snd G l ax_Ym M_X3_pushes 0 (S_aload 0 1) := k_aload_n dX3_pushes_0 rfl
theorem r_X3_pushes_1 (E : ax_EN G l) : ax_Snd G l ax_Ym M_X3_pushes 1 (S_dup 2) := k_dup dX3_pushes_1
theorem r_X3_pushes_2 (E : ax_EN G l) : ax_Snd G l ax_Ym M_X3_pushes 2 (S_getf [(38, 28)] 5) := k_getf (en_F E) (ax_fes_cons (fe_471 E) ax_fes_nil) q2781 dX3_pushes_2
theorem r_X3_pushes_5 (E : ax_EN G l) : ax_Snd G l ax_Ym M_X3_pushes 5 (S_push (.int (1)) 6) := k_iconst dX3_pushes_5 rfl
theorem r_X3_pushes_6 (E : ax_EN G l) : ax_Snd G l ax_Ym M_X3_pushes 6 (S_i2 (fun x y => x - y) 7) := k_isub dX3_pushes_6
theorem r_X3_pushes_7 (E : ax_EN G l) : ax_Snd G l ax_Ym M_X3_pushes 7 (S_putf [(38, 28)] (.int) 10) := k_putf (en_F E) (en_P E) (ax_fes_cons (fe_471 E) ax_fes_nil) (ax_fps_cons (fp_472 E) ax_fps_nil) q2781 dX3_pushes_7
theorem r_X3_pushes_10 (E : ax_EN G l) : ax_Snd G l ax_Ym M_X3_pushes 10 (S_aload 0 11) := k_aload_n dX3_pushes_10 rfl
theorem r_X3_pushes_11 (E : ax_EN G l) : ax_Snd G l ax_Ym M_X3_pushes 11 (S_aload 0 12) := k_aload_n dX3_pushes_11 rfl
theorem r_X3_pushes_12 (E : ax_EN G l) : ax_Snd G l ax_Ym M_X3_pushes 12 (S_getf [(38, 28)] 15) := k_getf (en_F E) (ax_fes_cons (fe_471 E) ax_fes_nil) q2781 dX3_pushes_12
theorem r_X3_pushes_15 (E : ax_EN G l) : ax_Snd G l ax_Ym M_X3_pushes 15 (S_iload 1 16) := k_iload_n dX3_pushes_15 rfl
theorem r_X3_pushes_16 (E : ax_EN G l) : ax_Snd G l ax_Ym M_X3_pushes 16 (S_iv [(38, 424)] 2 19 hd_0) := k_iv (en_F E) (ax_ok0 E rfl) (ax_Evs_cons ((ev_v (en_c E (k := 38) rfl) rfl y_X3_writes q3182 q3184 qs89 q126 q3185 nm_X3_writes (Nat.le_of_ble_eq_true rfl) dX3_pushes_16) : ax_EvV G l ax_Ym M_X3_pushes 16 2 3 38 424) ax_Evs_nil)
theorem r_X3_pushes_19 (E : ax_EN G l) : ax_Snd G l ax_Ym M_X3_pushes 19 (S_ret) := k_ret dX3_pushes_19 rfl
theorem mt_X3_pushes (E : ax_EN G l) : ax_mt G l ax_Ym (2, P_X3_pushes) (ax_Ym 423) := ⟨M_X3_pushes, yX3_pushes, ⟨rfl, by decide +kernel, rfl, (fun h => by cases h), Or.inl ⟨rfl, rfl⟩⟩, fun pc => (ax_sn_node (ax_sn_node (ax_sn_node (ax_sn_node (ax_sn_leaf (r_X3_pushes_19 E)) (ax_sn_leaf (r_X3_pushes_16 E))) (ax_sn_leaf (r_X3_pushes_15 E))) (ax_sn_node (ax_sn_node (ax_sn_leaf (r_X3_pushes_12 E)) (ax_sn_leaf (r_X3_pushes_11 E))) (ax_sn_leaf (r_X3_pushes_10 E)))) (ax_sn_node (ax_sn_node (ax_sn_node (ax_sn_leaf (r_X3_pushes_7 E)) (ax_sn_leaf (r_X3_pushes_6 E))) (ax_sn_leaf (r_X3_pushes_5 E))) (ax_sn_node (ax_sn_node (ax_sn_leaf (r_X3_pushes_2 E)) (ax_sn_leaf (r_X3_pushes_1 E))) (ax_sn_leaf (r_X3_pushes_0 E)))))⟩
theorem r_X3_writes_0 (E : ax_EN G l) : ax_Snd G l ax_Ym M_X3_writes 0 (S_aload 0 1) := k_aload_n dX3_writes_0 rfl
theorem r_X3_writes_1 (E : ax_EN G l) : ax_Snd G l ax_Ym M_X3_writes 1 (S_getf [(38, 25)] 4) := k_getf (en_F E) (ax_fes_cons (fe_384 E) ax_fes_nil) q2778 dX3_writes_1
theorem r_X3_writes_4 (E : ax_EN G l) : ax_Snd G l ax_Ym M_X3_writes 4 (S_iload 1 5) := k_iload_n dX3_writes_4 rfl
theorem r_X3_writes_5 (E : ax_EN G l) : ax_Snd G l ax_Ym M_X3_writes 5 (S_iload 2 6) := k_iload_n dX3_writes_5 rfl
theorem r_X3_writes_6 (E : ax_EN G l) : ax_Snd G l ax_Ym M_X3_writes 6 (S_iast 0 (fun x => x) 7) := k_iast (en_F E) dX3_writes_6
theorem r_X3_writes_7 (E : ax_EN G l) : ax_Snd G l ax_Ym M_X3_writes 7 (S_aload 0 8) := k_aload_n dX3_writes_7 rfl
theorem r_X3_writes_8 (E : ax_EN G l) : ax_Snd G l ax_Ym M_X3_writes 8 (S_iload 1 9) := k_iload_n dX3_writes_8 rfl
theorem r_X3_writes_9 (E : ax_EN G l) : ax_Snd G l ax_Ym M_X3_writes 9 (S_iv [(38, 425)] 1 12 hd_0) := k_iv (en_F E) (ax_ok0 E rfl) (ax_Evs_cons ((ev_v (en_c E (k := 38) rfl) rfl y_X3_keepsWrite q3186 q3188 qs90 q126 q3189 nm_X3_keepsWrite (Nat.le_of_ble_eq_true rfl) dX3_writes_9) : ax_EvV G l ax_Ym M_X3_writes 9 1 3 38 425) ax_Evs_nil)
theorem r_X3_writes_12 (E : ax_EN G l) : ax_Snd G l ax_Ym M_X3_writes 12 (S_ret) := k_ret dX3_writes_12 rfl
theorem mt_X3_writes (E : ax_EN G l) : ax_mt G l ax_Ym (3, P_X3_writes) (ax_Ym 424) := ⟨M_X3_writes, yX3_writes, ⟨rfl, by decide +kernel, rfl, (fun h => by cases h), Or.inl ⟨rfl, rfl⟩⟩, fun pc => (ax_sn_node (ax_sn_node (ax_sn_node (ax_sn_node (ax_sn_leaf (r_X3_writes_12 E)) (ax_sn_leaf (r_X3_writes_9 E))) (ax_sn_leaf (r_X3_writes_8 E))) (ax_sn_node (ax_sn_leaf (r_X3_writes_7 E)) (ax_sn_leaf (r_X3_writes_6 E)))) (ax_sn_node (ax_sn_node (ax_sn_leaf (r_X3_writes_5 E)) (ax_sn_leaf (r_X3_writes_4 E))) (ax_sn_node (ax_sn_leaf (r_X3_writes_1 E)) (ax_sn_leaf (r_X3_writes_0 E)))))⟩
theorem r_X3_keepsWrite_0 (E : ax_EN G l) : ax_Snd G l ax_Ym M_X3_keepsWrite 0 (S_aload 0 1) := k_aload_n dX3_keepsWrite_0 rfl
theorem r_X3_keepsWrite_1 (E : ax_EN G l) : ax_Snd G l ax_Ym M_X3_keepsWrite 1 (S_getf [(38, 38)] 4) := k_getf (en_F E) (ax_fes_cons (fe_491 E) ax_fes_nil) q2791 dX3_keepsWrite_1
theorem r_X3_keepsWrite_4 (E : ax_EN G l) : ax_Snd G l ax_Ym M_X3_keepsWrite 4 (S_push (.int (1000)) 7) := k_sipush dX3_keepsWrite_4 rfl
theorem r_X3_keepsWrite_7 (E : ax_EN G l) : ax_Snd G l ax_Ym M_X3_keepsWrite 7 (S_if2 (fun x y => decide (y ≤ x)) 72 10) := k_icmp_ge dX3_keepsWrite_7 rfl
theorem r_X3_keepsWrite_10 (E : ax_EN G l) : ax_Snd G l ax_Ym M_X3_keepsWrite 10 (S_aload 0 11) := k_aload_n dX3_keepsWrite_10 rfl
theorem r_X3_keepsWrite_11 (E : ax_EN G l) : ax_Snd G l ax_Ym M_X3_keepsWrite 11 (S_getf [(38, 45)] 14) := k_getf (en_F E) (ax_fes_cons (fe_396 E) ax_fes_nil) q2798 dX3_keepsWrite_11
theorem r_X3_keepsWrite_14 (E : ax_EN G l) : ax_Snd G l ax_Ym M_X3_keepsWrite 14 (S_aload 0 15) := k_aload_n dX3_keepsWrite_14 rfl
theorem r_X3_keepsWrite_15 (E : ax_EN G l) : ax_Snd G l ax_Ym M_X3_keepsWrite 15 (S_getf [(38, 38)] 18) := k_getf (en_F E) (ax_fes_cons (fe_491 E) ax_fes_nil) q2791 dX3_keepsWrite_15
theorem r_X3_keepsWrite_18 (E : ax_EN G l) : ax_Snd G l ax_Ym M_X3_keepsWrite 18 (S_aload 0 19) := k_aload_n dX3_keepsWrite_18 rfl
theorem r_X3_keepsWrite_19 (E : ax_EN G l) : ax_Snd G l ax_Ym M_X3_keepsWrite 19 (S_getf [(38, 44)] 22) := k_getf (en_F E) (ax_fes_cons (fe_394 E) ax_fes_nil) q2797 dX3_keepsWrite_19
theorem r_X3_keepsWrite_22 (E : ax_EN G l) : ax_Snd G l ax_Ym M_X3_keepsWrite 22 (S_aload 0 23) := k_aload_n dX3_keepsWrite_22 rfl
theorem r_X3_keepsWrite_23 (E : ax_EN G l) : ax_Snd G l ax_Ym M_X3_keepsWrite 23 (S_getf [(38, 38)] 26) := k_getf (en_F E) (ax_fes_cons (fe_491 E) ax_fes_nil) q2791 dX3_keepsWrite_23
theorem r_X3_keepsWrite_26 (E : ax_EN G l) : ax_Snd G l ax_Ym M_X3_keepsWrite 26 (S_iald 0 27) := k_iald (en_F E) dX3_keepsWrite_26
theorem r_X3_keepsWrite_27 (E : ax_EN G l) : ax_Snd G l ax_Ym M_X3_keepsWrite 27 (S_push (.int (-1)) 28) := k_iconst dX3_keepsWrite_27 rfl
theorem r_X3_keepsWrite_28 (E : ax_EN G l) : ax_Snd G l ax_Ym M_X3_keepsWrite 28 (S_if2 (fun x y => decide (¬ x = y)) 35 31) := k_icmp_ne dX3_keepsWrite_28 rfl
theorem r_X3_keepsWrite_31 (E : ax_EN G l) : ax_Snd G l ax_Ym M_X3_keepsWrite 31 (S_push (.int (-1)) 32) := k_iconst dX3_keepsWrite_31 rfl
theorem r_X3_keepsWrite_32 (E : ax_EN G l) : ax_Snd G l ax_Ym M_X3_keepsWrite 32 (S_goto 36) := k_goto dX3_keepsWrite_32 rfl
theorem r_X3_keepsWrite_35 (E : ax_EN G l) : ax_Snd G l ax_Ym M_X3_keepsWrite 35 (S_iload 1 36) := k_iload_n dX3_keepsWrite_35 rfl
theorem r_X3_keepsWrite_36 (E : ax_EN G l) : ax_Snd G l ax_Ym M_X3_keepsWrite 36 (S_iast 0 (fun x => x) 37) := k_iast (en_F E) dX3_keepsWrite_36
theorem r_X3_keepsWrite_37 (E : ax_EN G l) : ax_Snd G l ax_Ym M_X3_keepsWrite 37 (S_aload 0 38) := k_aload_n dX3_keepsWrite_37 rfl
theorem r_X3_keepsWrite_38 (E : ax_EN G l) : ax_Snd G l ax_Ym M_X3_keepsWrite 38 (S_getf [(38, 44)] 41) := k_getf (en_F E) (ax_fes_cons (fe_394 E) ax_fes_nil) q2797 dX3_keepsWrite_38
theorem r_X3_keepsWrite_41 (E : ax_EN G l) : ax_Snd G l ax_Ym M_X3_keepsWrite 41 (S_aload 0 42) := k_aload_n dX3_keepsWrite_41 rfl
theorem r_X3_keepsWrite_42 (E : ax_EN G l) : ax_Snd G l ax_Ym M_X3_keepsWrite 42 (S_getf [(38, 38)] 45) := k_getf (en_F E) (ax_fes_cons (fe_491 E) ax_fes_nil) q2791 dX3_keepsWrite_42
theorem r_X3_keepsWrite_45 (E : ax_EN G l) : ax_Snd G l ax_Ym M_X3_keepsWrite 45 (S_aload 0 46) := k_aload_n dX3_keepsWrite_45 rfl
theorem r_X3_keepsWrite_46 (E : ax_EN G l) : ax_Snd G l ax_Ym M_X3_keepsWrite 46 (S_getf [(38, 44)] 49) := k_getf (en_F E) (ax_fes_cons (fe_394 E) ax_fes_nil) q2797 dX3_keepsWrite_46
theorem r_X3_keepsWrite_49 (E : ax_EN G l) : ax_Snd G l ax_Ym M_X3_keepsWrite 49 (S_aload 0 50) := k_aload_n dX3_keepsWrite_49 rfl
theorem r_X3_keepsWrite_50 (E : ax_EN G l) : ax_Snd G l ax_Ym M_X3_keepsWrite 50 (S_getf [(38, 38)] 53) := k_getf (en_F E) (ax_fes_cons (fe_491 E) ax_fes_nil) q2791 dX3_keepsWrite_50
theorem r_X3_keepsWrite_53 (E : ax_EN G l) : ax_Snd G l ax_Ym M_X3_keepsWrite 53 (S_iald 0 54) := k_iald (en_F E) dX3_keepsWrite_53
theorem r_X3_keepsWrite_54 (E : ax_EN G l) : ax_Snd G l ax_Ym M_X3_keepsWrite 54 (S_push (.int (-1)) 55) := k_iconst dX3_keepsWrite_54 rfl
theorem r_X3_keepsWrite_55 (E : ax_EN G l) : ax_Snd G l ax_Ym M_X3_keepsWrite 55 (S_if2 (fun x y => decide (¬ x = y)) 62 58) := k_icmp_ne dX3_keepsWrite_55 rfl
theorem r_X3_keepsWrite_58 (E : ax_EN G l) : ax_Snd G l ax_Ym M_X3_keepsWrite 58 (S_iload 1 59) := k_iload_n dX3_keepsWrite_58 rfl
theorem r_X3_keepsWrite_59 (E : ax_EN G l) : ax_Snd G l ax_Ym M_X3_keepsWrite 59 (S_goto 71) := k_goto dX3_keepsWrite_59 rfl
theorem r_X3_keepsWrite_62 (E : ax_EN G l) : ax_Snd G l ax_Ym M_X3_keepsWrite 62 (S_aload 0 63) := k_aload_n dX3_keepsWrite_62 rfl
theorem r_X3_keepsWrite_63 (E : ax_EN G l) : ax_Snd G l ax_Ym M_X3_keepsWrite 63 (S_getf [(38, 44)] 66) := k_getf (en_F E) (ax_fes_cons (fe_394 E) ax_fes_nil) q2797 dX3_keepsWrite_63
theorem r_X3_keepsWrite_66 (E : ax_EN G l) : ax_Snd G l ax_Ym M_X3_keepsWrite 66 (S_aload 0 67) := k_aload_n dX3_keepsWrite_66 rfl
theorem r_X3_keepsWrite_67 (E : ax_EN G l) : ax_Snd G l ax_Ym M_X3_keepsWrite 67 (S_getf [(38, 38)] 70) := k_getf (en_F E) (ax_fes_cons (fe_491 E) ax_fes_nil) q2791 dX3_keepsWrite_67
theorem r_X3_keepsWrite_70 (E : ax_EN G l) : ax_Snd G l ax_Ym M_X3_keepsWrite 70 (S_iald 0 71) := k_iald (en_F E) dX3_keepsWrite_70
theorem r_X3_keepsWrite_71 (E : ax_EN G l) : ax_Snd G l ax_Ym M_X3_keepsWrite 71 (S_iast 0 (fun x => x) 72) := k_iast (en_F E) dX3_keepsWrite_71
theorem r_X3_keepsWrite_72 (E : ax_EN G l) : ax_Snd G l ax_Ym M_X3_keepsWrite 72 (S_ret) := k_ret dX3_keepsWrite_72 rfl
theorem mt_X3_keepsWrite (E : ax_EN G l) : ax_mt G l ax_Ym (2, P_X3_keepsWrite) (ax_Ym 425) := ⟨M_X3_keepsWrite, yX3_keepsWrite, ⟨rfl, by decide +kernel, rfl, (fun h => by cases h), Or.inl ⟨rfl, rfl⟩⟩, fun pc => (ax_sn_node (ax_sn_node (ax_sn_node (ax_sn_node (ax_sn_node (ax_sn_node (ax_sn_leaf (r_X3_keepsWrite_72 E)) (ax_sn_leaf (r_X3_keepsWrite_71 E))) (ax_sn_leaf (r_X3_keepsWrite_70 E))) (ax_sn_node (ax_sn_leaf (r_X3_keepsWrite_67 E)) (ax_sn_leaf (r_X3_keepsWrite_66 E)))) (ax_sn_node (ax_sn_node (ax_sn_node (ax_sn_leaf (r_X3_keepsWrite_63 E)) (ax_sn_leaf (r_X3_keepsWrite_62 E))) (ax_sn_leaf (r_X3_keepsWrite_59 E))) (ax_sn_node (ax_sn_leaf (r_X3_keepsWrite_58 E)) (ax_sn_leaf (r_X3_keepsWrite_55 E))))) (ax_sn_node (ax_sn_node (ax_sn_node (ax_sn_node (ax_sn_leaf (r_X3_keepsWrite_54 E)) (ax_sn_leaf (r_X3_keepsWrite_53 E))) (ax_sn_leaf (r_X3_keepsWrite_50 E))) (ax_sn_node (ax_sn_leaf (r_X3_keepsWrite_49 E)) (ax_sn_leaf (r_X3_keepsWrite_46 E)))) (ax_sn_node (ax_sn_node (ax_sn_node (ax_sn_leaf (r_X3_keepsWrite_45 E)) (ax_sn_leaf (r_X3_keepsWrite_42 E))) (ax_sn_leaf (r_X3_keepsWrite_41 E))) (ax_sn_node (ax_sn_leaf (r_X3_keepsWrite_38 E)) (ax_sn_leaf (r_X3_keepsWrite_37 E)))))) (ax_sn_node (ax_sn_node (ax_sn_node (ax_sn_node (ax_sn_node (ax_sn_leaf (r_X3_keepsWrite_36 E)) (ax_sn_leaf (r_X3_keepsWrite_35 E))) (ax_sn_leaf (r_X3_keepsWrite_32 E))) (ax_sn_node (ax_sn_leaf (r_X3_keepsWrite_31 E)) (ax_sn_leaf (r_X3_keepsWrite_28 E)))) (ax_sn_node (ax_sn_node (ax_sn_node (ax_sn_leaf (r_X3_keepsWrite_27 E)) (ax_sn_leaf (r_X3_keepsWrite_26 E))) (ax_sn_leaf (r_X3_keepsWrite_23 E))) (ax_sn_node (ax_sn_leaf (r_X3_keepsWrite_22 E)) (ax_sn_leaf (r_X3_keepsWrite_19 E))))) (ax_sn_node (ax_sn_node (ax_sn_node (ax_sn_node (ax_sn_leaf (r_X3_keepsWrite_18 E)) (ax_sn_leaf (r_X3_keepsWrite_15 E))) (ax_sn_leaf (r_X3_keepsWrite_14 E))) (ax_sn_node (ax_sn_leaf (r_X3_keepsWrite_11 E)) (ax_sn_leaf (r_X3_keepsWrite_10 E)))) (ax_sn_node (ax_sn_node (ax_sn_leaf (r_X3_keepsWrite_7 E)) (ax_sn_leaf (r_X3_keepsWrite_4 E))) (ax_sn_node (ax_sn_leaf (r_X3_keepsWrite_1 E)) (ax_sn_leaf (r_X3_keepsWrite_0 E)))))))⟩
theorem r_X3_instructs_0 (E : ax_EN G l) : ax_Snd G l ax_Ym M_X3_instructs 0 (S_aload 0 1) := k_aload_n dX3_instructs_0 rfl
theorem r_X3_instructs_1 (E : ax_EN G l) : ax_Snd G l ax_Ym M_X3_instructs 1 (S_getf [(38, 27)] 4) := k_getf (en_F E) (ax_fes_cons (fe_469 E) ax_fes_nil) q2780 dX3_instructs_1
theorem r_X3_instructs_4 (E : ax_EN G l) : ax_Snd G l ax_Ym M_X3_instructs 4 (S_push (.int (254)) 7) := k_sipush dX3_instructs_4 rfl
theorem r_X3_instructs_7 (E : ax_EN G l) : ax_Snd G l ax_Ym M_X3_instructs 7 (S_if2 (fun x y => decide (x ≤ y)) 16 10) := k_icmp_le dX3_instructs_7 rfl
theorem r_X3_instructs_10 (E : ax_EN G l) : ax_Snd G l ax_Ym M_X3_instructs 10 (S_aload 0 11) := k_aload_n dX3_instructs_10 rfl
theorem r_X3_instructs_11 (E : ax_EN G l) : ax_Snd G l ax_Ym M_X3_instructs 11 (S_push (.int (1)) 12) := k_iconst dX3_instructs_11 rfl
theorem r_X3_instructs_12 (E : ax_EN G l) : ax_Snd G l ax_Ym M_X3_instructs 12 (S_iv [(38, 422)] 1 15 hd_0) := k_iv (en_F E) (ax_ok0 E rfl) (ax_Evs_cons ((ev_v (en_c E (k := 38) rfl) rfl y_X3_faults q3174 q3176 qs87 q126 q3177 nm_X3_faults (Nat.le_of_ble_eq_true rfl) dX3_instructs_12) : ax_EvV G l ax_Ym M_X3_instructs 12 1 3 38 422) ax_Evs_nil)
theorem r_X3_instructs_15 (E : ax_EN G l) : ax_Snd G l ax_Ym M_X3_instructs 15 (S_ret) := k_ret dX3_instructs_15 rfl
theorem r_X3_instructs_16 (E : ax_EN G l) : ax_Snd G l ax_Ym M_X3_instructs 16 (S_aload 0 17) := k_aload_n dX3_instructs_16 rfl
theorem r_X3_instructs_17 (E : ax_EN G l) : ax_Snd G l ax_Ym M_X3_instructs 17 (S_getf [(38, 25)] 20) := k_getf (en_F E) (ax_fes_cons (fe_384 E) ax_fes_nil) q2778 dX3_instructs_17
theorem r_X3_instructs_20 (E : ax_EN G l) : ax_Snd G l ax_Ym M_X3_instructs 20 (S_aload 0 21) := k_aload_n dX3_instructs_20 rfl
theorem r_X3_instructs_21 (E : ax_EN G l) : ax_Snd G l ax_Ym M_X3_instructs 21 (S_getf [(38, 27)] 24) := k_getf (en_F E) (ax_fes_cons (fe_469 E) ax_fes_nil) q2780 dX3_instructs_21
theorem r_X3_instructs_24 (E : ax_EN G l) : ax_Snd G l ax_Ym M_X3_instructs 24 (S_iald 0 25) := k_iald (en_F E) dX3_instructs_24
theorem r_X3_instructs_25 (E : ax_EN G l) : ax_Snd G l ax_Ym M_X3_instructs 25 (S_istore 1 26) := k_istore_n dX3_instructs_25 rfl (Nat.le_of_ble_eq_true rfl)
theorem r_X3_instructs_26 (E : ax_EN G l) : ax_Snd G l ax_Ym M_X3_instructs 26 (S_iload 1 27) := k_iload_n dX3_instructs_26 rfl
theorem r_X3_instructs_27 (E : ax_EN G l) : ax_Snd G l ax_Ym M_X3_instructs 27 (S_push (.int (4)) 28) := k_iconst dX3_instructs_27 rfl
theorem r_X3_instructs_28 (E : ax_EN G l) : ax_Snd G l ax_Ym M_X3_instructs 28 (S_id (fun x y => x / y) 29) := k_idiv dX3_instructs_28
theorem r_X3_instructs_29 (E : ax_EN G l) : ax_Snd G l ax_Ym M_X3_instructs 29 (S_push (.int (4)) 30) := k_iconst dX3_instructs_29 rfl
theorem r_X3_instructs_30 (E : ax_EN G l) : ax_Snd G l ax_Ym M_X3_instructs 30 (S_id (fun x y => x - x / y * y) 31) := k_irem dX3_instructs_30
theorem r_X3_instructs_31 (E : ax_EN G l) : ax_Snd G l ax_Ym M_X3_instructs 31 (S_istore 2 32) := k_istore_n dX3_instructs_31 rfl (Nat.le_of_ble_eq_true rfl)
theorem r_X3_instructs_32 (E : ax_EN G l) : ax_Snd G l ax_Ym M_X3_instructs 32 (S_iload 1 33) := k_iload_n dX3_instructs_32 rfl
theorem r_X3_instructs_33 (E : ax_EN G l) : ax_Snd G l ax_Ym M_X3_instructs 33 (S_push (.int (4)) 34) := k_iconst dX3_instructs_33 rfl
theorem r_X3_instructs_34 (E : ax_EN G l) : ax_Snd G l ax_Ym M_X3_instructs 34 (S_id (fun x y => x - x / y * y) 35) := k_irem dX3_instructs_34
theorem r_X3_instructs_35 (E : ax_EN G l) : ax_Snd G l ax_Ym M_X3_instructs 35 (S_istore 3 36) := k_istore_n dX3_instructs_35 rfl (Nat.le_of_ble_eq_true rfl)
theorem r_X3_instructs_36 (E : ax_EN G l) : ax_Snd G l ax_Ym M_X3_instructs 36 (S_iload 2 37) := k_iload_n dX3_instructs_36 rfl
theorem r_X3_instructs_37 (E : ax_EN G l) : ax_Snd G l ax_Ym M_X3_instructs 37 (S_iload 3 38) := k_iload_n dX3_instructs_37 rfl
theorem r_X3_instructs_38 (E : ax_EN G l) : ax_Snd G l ax_Ym M_X3_instructs 38 (S_if2 (fun x y => decide (¬ x = y)) 55 41) := k_icmp_ne dX3_instructs_38 rfl
theorem r_X3_instructs_41 (E : ax_EN G l) : ax_Snd G l ax_Ym M_X3_instructs 41 (S_aload 0 42) := k_aload_n dX3_instructs_41 rfl
theorem r_X3_instructs_42 (E : ax_EN G l) : ax_Snd G l ax_Ym M_X3_instructs 42 (S_getf [(38, 25)] 45) := k_getf (en_F E) (ax_fes_cons (fe_384 E) ax_fes_nil) q2778 dX3_instructs_42
theorem r_X3_instructs_45 (E : ax_EN G l) : ax_Snd G l ax_Ym M_X3_instructs 45 (S_aload 0 46) := k_aload_n dX3_instructs_45 rfl
theorem r_X3_instructs_46 (E : ax_EN G l) : ax_Snd G l ax_Ym M_X3_instructs 46 (S_getf [(38, 27)] 49) := k_getf (en_F E) (ax_fes_cons (fe_469 E) ax_fes_nil) q2780 dX3_instructs_46
theorem r_X3_instructs_49 (E : ax_EN G l) : ax_Snd G l ax_Ym M_X3_instructs 49 (S_push (.int (1)) 50) := k_iconst dX3_instructs_49 rfl
theorem r_X3_instructs_50 (E : ax_EN G l) : ax_Snd G l ax_Ym M_X3_instructs 50 (S_i2 (fun x y => x + y) 51) := k_iadd dX3_instructs_50
theorem r_X3_instructs_51 (E : ax_EN G l) : ax_Snd G l ax_Ym M_X3_instructs 51 (S_iald 0 52) := k_iald (en_F E) dX3_instructs_51
theorem r_X3_instructs_52 (E : ax_EN G l) : ax_Snd G l ax_Ym M_X3_instructs 52 (S_goto 76) := k_goto dX3_instructs_52 rfl
theorem r_X3_instructs_55 (E : ax_EN G l) : ax_Snd G l ax_Ym M_X3_instructs 55 (S_aload 0 56) := k_aload_n dX3_instructs_55 rfl
theorem r_X3_instructs_56 (E : ax_EN G l) : ax_Snd G l ax_Ym M_X3_instructs 56 (S_getf [(38, 26)] 59) := k_getf (en_F E) (ax_fes_cons (fe_386 E) ax_fes_nil) q2779 dX3_instructs_56
theorem r_X3_instructs_59 (E : ax_EN G l) : ax_Snd G l ax_Ym M_X3_instructs 59 (S_iload 3 60) := k_iload_n dX3_instructs_59 rfl
theorem r_X3_instructs_60 (E : ax_EN G l) : ax_Snd G l ax_Ym M_X3_instructs 60 (S_iald 0 61) := k_iald (en_F E) dX3_instructs_60
theorem r_X3_instructs_61 (E : ax_EN G l) : ax_Snd G l ax_Ym M_X3_instructs 61 (S_aload 0 62) := k_aload_n dX3_instructs_61 rfl
theorem r_X3_instructs_62 (E : ax_EN G l) : ax_Snd G l ax_Ym M_X3_instructs 62 (S_getf [(38, 25)] 65) := k_getf (en_F E) (ax_fes_cons (fe_384 E) ax_fes_nil) q2778 dX3_instructs_62
theorem r_X3_instructs_65 (E : ax_EN G l) : ax_Snd G l ax_Ym M_X3_instructs 65 (S_aload 0 66) := k_aload_n dX3_instructs_65 rfl
theorem r_X3_instructs_66 (E : ax_EN G l) : ax_Snd G l ax_Ym M_X3_instructs 66 (S_getf [(38, 27)] 69) := k_getf (en_F E) (ax_fes_cons (fe_469 E) ax_fes_nil) q2780 dX3_instructs_66
theorem r_X3_instructs_69 (E : ax_EN G l) : ax_Snd G l ax_Ym M_X3_instructs 69 (S_push (.int (1)) 70) := k_iconst dX3_instructs_69 rfl
theorem r_X3_instructs_70 (E : ax_EN G l) : ax_Snd G l ax_Ym M_X3_instructs 70 (S_i2 (fun x y => x + y) 71) := k_iadd dX3_instructs_70
theorem r_X3_instructs_71 (E : ax_EN G l) : ax_Snd G l ax_Ym M_X3_instructs 71 (S_iald 0 72) := k_iald (en_F E) dX3_instructs_71
theorem r_X3_instructs_72 (E : ax_EN G l) : ax_Snd G l ax_Ym M_X3_instructs 72 (S_i2 (fun x y => x + y) 73) := k_iadd dX3_instructs_72
theorem r_X3_instructs_73 (E : ax_EN G l) : ax_Snd G l ax_Ym M_X3_instructs 73 (S_push (.int (65536)) 75) := k_ldc q3083 dX3_instructs_73
theorem r_X3_instructs_75 (E : ax_EN G l) : ax_Snd G l ax_Ym M_X3_instructs 75 (S_id (fun x y => x - x / y * y) 76) := k_irem dX3_instructs_75
theorem r_X3_instructs_76 (E : ax_EN G l) : ax_Snd G l ax_Ym M_X3_instructs 76 (S_istore 4 78) := k_istore dX3_instructs_76 (Nat.le_of_ble_eq_true rfl)
theorem r_X3_instructs_78 (E : ax_EN G l) : ax_Snd G l ax_Ym M_X3_instructs 78 (S_aload 0 79) := k_aload_n dX3_instructs_78 rfl
theorem r_X3_instructs_79 (E : ax_EN G l) : ax_Snd G l ax_Ym M_X3_instructs 79 (S_iload 1 80) := k_iload_n dX3_instructs_79 rfl
theorem r_X3_instructs_80 (E : ax_EN G l) : ax_Snd G l ax_Ym M_X3_instructs 80 (S_push (.int (16)) 82) := k_bipush dX3_instructs_80 rfl
theorem r_X3_instructs_82 (E : ax_EN G l) : ax_Snd G l ax_Ym M_X3_instructs 82 (S_id (fun x y => x / y) 83) := k_idiv dX3_instructs_82
theorem r_X3_instructs_83 (E : ax_EN G l) : ax_Snd G l ax_Ym M_X3_instructs 83 (S_iload 4 85) := k_iload dX3_instructs_83
theorem r_X3_instructs_85 (E : ax_EN G l) : ax_Snd G l ax_Ym M_X3_instructs 85 (S_iv [(38, 427)] 2 88 hd_0) := k_iv (en_F E) (ax_ok0 E rfl) (ax_Evs_cons ((ev_v (en_c E (k := 38) rfl) rfl y_X3_faultOf q3194 q3196 qs92 q126 q3197 nm_X3_faultOf (Nat.le_of_ble_eq_true rfl) dX3_instructs_85) : ax_EvV G l ax_Ym M_X3_instructs 85 2 3 38 427) ax_Evs_nil)
theorem r_X3_instructs_88 (E : ax_EN G l) : ax_Snd G l ax_Ym M_X3_instructs 88 (S_istore 5 90) := k_istore dX3_instructs_88 (Nat.le_of_ble_eq_true rfl)
theorem r_X3_instructs_90 (E : ax_EN G l) : ax_Snd G l ax_Ym M_X3_instructs 90 (S_iload 5 92) := k_iload dX3_instructs_90
theorem r_X3_instructs_92 (E : ax_EN G l) : ax_Snd G l ax_Ym M_X3_instructs 92 (S_if1 (fun x => decide (x = 0)) 104 95) := k_if_eq dX3_instructs_92 rfl
theorem r_X3_instructs_95 (E : ax_EN G l) : ax_Snd G l ax_Ym M_X3_instructs 95 (S_aload 0 96) := k_aload_n dX3_instructs_95 rfl
theorem r_X3_instructs_96 (E : ax_EN G l) : ax_Snd G l ax_Ym M_X3_instructs 96 (S_iload 5 98) := k_iload dX3_instructs_96
theorem r_X3_instructs_98 (E : ax_EN G l) : ax_Snd G l ax_Ym M_X3_instructs 98 (S_iv [(38, 422)] 1 101 hd_0) := k_iv (en_F E) (ax_ok0 E rfl) (ax_Evs_cons ((ev_v (en_c E (k := 38) rfl) rfl y_X3_faults q3174 q3176 qs87 q126 q3177 nm_X3_faults (Nat.le_of_ble_eq_true rfl) dX3_instructs_98) : ax_EvV G l ax_Ym M_X3_instructs 98 1 3 38 422) ax_Evs_nil)
theorem r_X3_instructs_101 (E : ax_EN G l) : ax_Snd G l ax_Ym M_X3_instructs 101 (S_goto 161) := k_goto dX3_instructs_101 rfl
theorem r_X3_instructs_104 (E : ax_EN G l) : ax_Snd G l ax_Ym M_X3_instructs 104 (S_iload 1 105) := k_iload_n dX3_instructs_104 rfl
theorem r_X3_instructs_105 (E : ax_EN G l) : ax_Snd G l ax_Ym M_X3_instructs 105 (S_push (.int (16)) 107) := k_bipush dX3_instructs_105 rfl
theorem r_X3_instructs_107 (E : ax_EN G l) : ax_Snd G l ax_Ym M_X3_instructs 107 (S_id (fun x y => x / y) 108) := k_idiv dX3_instructs_107
theorem r_X3_instructs_108 (E : ax_EN G l) : ax_Snd G l ax_Ym M_X3_instructs 108 (S_push (.int (12)) 110) := k_bipush dX3_instructs_108 rfl
theorem r_X3_instructs_110 (E : ax_EN G l) : ax_Snd G l ax_Ym M_X3_instructs 110 (S_if2 (fun x y => decide (y ≤ x)) 127 113) := k_icmp_ge dX3_instructs_110 rfl
theorem r_X3_instructs_113 (E : ax_EN G l) : ax_Snd G l ax_Ym M_X3_instructs 113 (S_aload 0 114) := k_aload_n dX3_instructs_113 rfl
theorem r_X3_instructs_114 (E : ax_EN G l) : ax_Snd G l ax_Ym M_X3_instructs 114 (S_iload 1 115) := k_iload_n dX3_instructs_114 rfl
theorem r_X3_instructs_115 (E : ax_EN G l) : ax_Snd G l ax_Ym M_X3_instructs 115 (S_push (.int (16)) 117) := k_bipush dX3_instructs_115 rfl
theorem r_X3_instructs_117 (E : ax_EN G l) : ax_Snd G l ax_Ym M_X3_instructs 117 (S_id (fun x y => x / y) 118) := k_idiv dX3_instructs_117
theorem r_X3_instructs_118 (E : ax_EN G l) : ax_Snd G l ax_Ym M_X3_instructs 118 (S_iload 2 119) := k_iload_n dX3_instructs_118 rfl
theorem r_X3_instructs_119 (E : ax_EN G l) : ax_Snd G l ax_Ym M_X3_instructs 119 (S_iload 4 121) := k_iload dX3_instructs_119
theorem r_X3_instructs_121 (E : ax_EN G l) : ax_Snd G l ax_Ym M_X3_instructs 121 (S_iv [(38, 428)] 3 124 hd_0) := k_iv (en_F E) (ax_ok0 E rfl) (ax_Evs_cons ((ev_v (en_c E (k := 38) rfl) rfl y_X3_reckons q3198 q3200 qs93 q126 q3201 nm_X3_reckons (Nat.le_of_ble_eq_true rfl) dX3_instructs_121) : ax_EvV G l ax_Ym M_X3_instructs 121 3 3 38 428) ax_Evs_nil)
theorem r_X3_instructs_124 (E : ax_EN G l) : ax_Snd G l ax_Ym M_X3_instructs 124 (S_goto 161) := k_goto dX3_instructs_124 rfl
theorem r_X3_instructs_127 (E : ax_EN G l) : ax_Snd G l ax_Ym M_X3_instructs 127 (S_iload 1 128) := k_iload_n dX3_instructs_127 rfl
theorem r_X3_instructs_128 (E : ax_EN G l) : ax_Snd G l ax_Ym M_X3_instructs 128 (S_push (.int (16)) 130) := k_bipush dX3_instructs_128 rfl
theorem r_X3_instructs_130 (E : ax_EN G l) : ax_Snd G l ax_Ym M_X3_instructs 130 (S_id (fun x y => x / y) 131) := k_idiv dX3_instructs_130
theorem r_X3_instructs_131 (E : ax_EN G l) : ax_Snd G l ax_Ym M_X3_instructs 131 (S_push (.int (19)) 133) := k_bipush dX3_instructs_131 rfl
theorem r_X3_instructs_133 (E : ax_EN G l) : ax_Snd G l ax_Ym M_X3_instructs 133 (S_if2 (fun x y => decide (y ≤ x)) 150 136) := k_icmp_ge dX3_instructs_133 rfl
theorem r_X3_instructs_136 (E : ax_EN G l) : ax_Snd G l ax_Ym M_X3_instructs 136 (S_aload 0 137) := k_aload_n dX3_instructs_136 rfl
theorem r_X3_instructs_137 (E : ax_EN G l) : ax_Snd G l ax_Ym M_X3_instructs 137 (S_iload 1 138) := k_iload_n dX3_instructs_137 rfl
theorem r_X3_instructs_138 (E : ax_EN G l) : ax_Snd G l ax_Ym M_X3_instructs 138 (S_push (.int (16)) 140) := k_bipush dX3_instructs_138 rfl
theorem r_X3_instructs_140 (E : ax_EN G l) : ax_Snd G l ax_Ym M_X3_instructs 140 (S_id (fun x y => x / y) 141) := k_idiv dX3_instructs_140
theorem r_X3_instructs_141 (E : ax_EN G l) : ax_Snd G l ax_Ym M_X3_instructs 141 (S_iload 2 142) := k_iload_n dX3_instructs_141 rfl
theorem r_X3_instructs_142 (E : ax_EN G l) : ax_Snd G l ax_Ym M_X3_instructs 142 (S_iload 4 144) := k_iload dX3_instructs_142
theorem r_X3_instructs_144 (E : ax_EN G l) : ax_Snd G l ax_Ym M_X3_instructs 144 (S_iv [(38, 431)] 3 147 hd_0) := k_iv (en_F E) (ax_ok0 E rfl) (ax_Evs_cons ((ev_v (en_c E (k := 38) rfl) rfl y_X3_jumps q3209 q3211 qs94 q126 q3212 nm_X3_jumps (Nat.le_of_ble_eq_true rfl) dX3_instructs_144) : ax_EvV G l ax_Ym M_X3_instructs 144 3 3 38 431) ax_Evs_nil)
theorem r_X3_instructs_147 (E : ax_EN G l) : ax_Snd G l ax_Ym M_X3_instructs 147 (S_goto 161) := k_goto dX3_instructs_147 rfl
theorem r_X3_instructs_150 (E : ax_EN G l) : ax_Snd G l ax_Ym M_X3_instructs 150 (S_aload 0 151) := k_aload_n dX3_instructs_150 rfl
theorem r_X3_instructs_151 (E : ax_EN G l) : ax_Snd G l ax_Ym M_X3_instructs 151 (S_iload 1 152) := k_iload_n dX3_instructs_151 rfl
theorem r_X3_instructs_152 (E : ax_EN G l) : ax_Snd G l ax_Ym M_X3_instructs 152 (S_push (.int (16)) 154) := k_bipush dX3_instructs_152 rfl
theorem r_X3_instructs_154 (E : ax_EN G l) : ax_Snd G l ax_Ym M_X3_instructs 154 (S_id (fun x y => x / y) 155) := k_idiv dX3_instructs_154
theorem r_X3_instructs_155 (E : ax_EN G l) : ax_Snd G l ax_Ym M_X3_instructs 155 (S_iload 2 156) := k_iload_n dX3_instructs_155 rfl
theorem r_X3_instructs_156 (E : ax_EN G l) : ax_Snd G l ax_Ym M_X3_instructs 156 (S_iload 4 158) := k_iload dX3_instructs_156
theorem r_X3_instructs_158 (E : ax_EN G l) : ax_Snd G l ax_Ym M_X3_instructs 158 (S_iv [(38, 433)] 3 161 hd_0) := k_iv (en_F E) (ax_ok0 E rfl) (ax_Evs_cons ((ev_v (en_c E (k := 38) rfl) rfl y_X3_others q3217 q3219 qs96 q126 q3220 nm_X3_others (Nat.le_of_ble_eq_true rfl) dX3_instructs_158) : ax_EvV G l ax_Ym M_X3_instructs 158 3 3 38 433) ax_Evs_nil)
theorem r_X3_instructs_161 (E : ax_EN G l) : ax_Snd G l ax_Ym M_X3_instructs 161 (S_ret) := k_ret dX3_instructs_161 rfl
theorem mt_X3_instructs (E : ax_EN G l) : ax_mt G l ax_Ym (6, P_X3_instructs) (ax_Ym 426) := ⟨M_X3_instructs, yX3_instructs, ⟨rfl, by decide +kernel, rfl, (fun h => by cases h), Or.inl ⟨rfl, rfl⟩⟩, fun pc => (ax_sn_node (ax_sn_node (ax_sn_node (ax_sn_node (ax_sn_node (ax_sn_node (ax_sn_node (ax_sn_leaf (r_X3_instructs_161 E)) (ax_sn_leaf (r_X3_instructs_158 E))) (ax_sn_node (ax_sn_leaf (r_X3_instructs_156 E)) (ax_sn_leaf (r_X3_instructs_155 E)))) (ax_sn_node (ax_sn_node (ax_sn_leaf (r_X3_instructs_154 E)) (ax_sn_leaf (r_X3_instructs_152 E))) (ax_sn_leaf (r_X3_instructs_151 E)))) (ax_sn_node (ax_sn_node (ax_sn_node (ax_sn_leaf (r_X3_instructs_150 E)) (ax_sn_leaf (r_X3_instructs_147 E))) (ax_sn_leaf (r_X3_instructs_144 E))) (ax_sn_node (ax_sn_node (ax_sn_leaf (r_X3_instructs_142 E)) (ax_sn_leaf (r_X3_instructs_141 E))) (ax_sn_leaf (r_X3_instructs_140 E))))) (ax_sn_node (ax_sn_node (ax_sn_node (ax_sn_node (ax_sn_leaf (r_X3_instructs_138 E)) (ax_sn_leaf (r_X3_instructs_137 E))) (ax_sn_leaf (r_X3_instructs_136 E))) (ax_sn_node (ax_sn_node (ax_sn_leaf (r_X3_instructs_133 E)) (ax_sn_leaf (r_X3_instructs_131 E))) (ax_sn_leaf (r_X3_instructs_130 E)))) (ax_sn_node (ax_sn_node (ax_sn_node (ax_sn_leaf (r_X3_instructs_128 E)) (ax_sn_leaf (r_X3_instructs_127 E))) (ax_sn_leaf (r_X3_instructs_124 E))) (ax_sn_node (ax_sn_node (ax_sn_leaf (r_X3_instructs_121 E)) (ax_sn_leaf (r_X3_instructs_119 E))) (ax_sn_leaf (r_X3_instructs_118 E)))))) (ax_sn_node (ax_sn_node (ax_sn_node (ax_sn_node (ax_sn_node (ax_sn_leaf (r_X3_instructs_117 E)) (ax_sn_leaf (r_X3_instructs_115 E))) (ax_sn_leaf (r_X3_instructs_114 E))) (ax_sn_node (ax_sn_node (ax_sn_leaf (r_X3_instructs_113 E)) (ax_sn_leaf (r_X3_instructs_110 E))) (ax_sn_leaf (r_X3_instructs_108 E)))) (ax_sn_node (ax_sn_node (ax_sn_node (ax_sn_leaf (r_X3_instructs_107 E)) (ax_sn_leaf (r_X3_instructs_105 E))) (ax_sn_leaf (r_X3_instructs_104 E))) (ax_sn_node (ax_sn_node (ax_sn_leaf (r_X3_instructs_101 E)) (ax_sn_leaf (r_X3_instructs_98 E))) (ax_sn_leaf (r_X3_instructs_96 E))))) (ax_sn_node (ax_sn_node (ax_sn_node (ax_sn_node (ax_sn_leaf (r_X3_instructs_95 E)) (ax_sn_leaf (r_X3_instructs_92 E))) (ax_sn_leaf (r_X3_instructs_90 E))) (ax_sn_node (ax_sn_node (ax_sn_leaf (r_X3_instructs_88 E)) (ax_sn_leaf (r_X3_instructs_85 E))) (ax_sn_leaf (r_X3_instructs_83 E)))) (ax_sn_node (ax_sn_node (ax_sn_node (ax_sn_leaf (r_X3_instructs_82 E)) (ax_sn_leaf (r_X3_instructs_80 E))) (ax_sn_leaf (r_X3_instructs_79 E))) (ax_sn_node (ax_sn_node (ax_sn_leaf (r_X3_instructs_78 E)) (ax_sn_leaf (r_X3_instructs_76 E))) (ax_sn_leaf (r_X3_instructs_75 E))))))) (ax_sn_node (ax_sn_node (ax_sn_node (ax_sn_node (ax_sn_node (ax_sn_node (ax_sn_leaf (r_X3_instructs_73 E)) (ax_sn_leaf (r_X3_instructs_72 E))) (ax_sn_leaf (r_X3_instructs_71 E))) (ax_sn_node (ax_sn_node (ax_sn_leaf (r_X3_instructs_70 E)) (ax_sn_leaf (r_X3_instructs_69 E))) (ax_sn_leaf (r_X3_instructs_66 E)))) (ax_sn_node (ax_sn_node (ax_sn_node (ax_sn_leaf (r_X3_instructs_65 E)) (ax_sn_leaf (r_X3_instructs_62 E))) (ax_sn_leaf (r_X3_instructs_61 E))) (ax_sn_node (ax_sn_node (ax_sn_leaf (r_X3_instructs_60 E)) (ax_sn_leaf (r_X3_instructs_59 E))) (ax_sn_leaf (r_X3_instructs_56 E))))) (ax_sn_node (ax_sn_node (ax_sn_node (ax_sn_node (ax_sn_leaf (r_X3_instructs_55 E)) (ax_sn_leaf (r_X3_instructs_52 E))) (ax_sn_leaf (r_X3_instructs_51 E))) (ax_sn_node (ax_sn_node (ax_sn_leaf (r_X3_instructs_50 E)) (ax_sn_leaf (r_X3_instructs_49 E))) (ax_sn_leaf (r_X3_instructs_46 E)))) (ax_sn_node (ax_sn_node (ax_sn_node (ax_sn_leaf (r_X3_instructs_45 E)) (ax_sn_leaf (r_X3_instructs_42 E))) (ax_sn_leaf (r_X3_instructs_41 E))) (ax_sn_node (ax_sn_node (ax_sn_leaf (r_X3_instructs_38 E)) (ax_sn_leaf (r_X3_instructs_37 E))) (ax_sn_leaf (r_X3_instructs_36 E)))))) (ax_sn_node (ax_sn_node (ax_sn_node (ax_sn_node (ax_sn_node (ax_sn_leaf (r_X3_instructs_35 E)) (ax_sn_leaf (r_X3_instructs_34 E))) (ax_sn_leaf (r_X3_instructs_33 E))) (ax_sn_node (ax_sn_node (ax_sn_leaf (r_X3_instructs_32 E)) (ax_sn_leaf (r_X3_instructs_31 E))) (ax_sn_leaf (r_X3_instructs_30 E)))) (ax_sn_node (ax_sn_node (ax_sn_node (ax_sn_leaf (r_X3_instructs_29 E)) (ax_sn_leaf (r_X3_instructs_28 E))) (ax_sn_leaf (r_X3_instructs_27 E))) (ax_sn_node (ax_sn_node (ax_sn_leaf (r_X3_instructs_26 E)) (ax_sn_leaf (r_X3_instructs_25 E))) (ax_sn_leaf (r_X3_instructs_24 E))))) (ax_sn_node (ax_sn_node (ax_sn_node (ax_sn_node (ax_sn_leaf (r_X3_instructs_21 E)) (ax_sn_leaf (r_X3_instructs_20 E))) (ax_sn_leaf (r_X3_instructs_17 E))) (ax_sn_node (ax_sn_node (ax_sn_leaf (r_X3_instructs_16 E)) (ax_sn_leaf (r_X3_instructs_15 E))) (ax_sn_leaf (r_X3_instructs_12 E)))) (ax_sn_node (ax_sn_node (ax_sn_node (ax_sn_leaf (r_X3_instructs_11 E)) (ax_sn_leaf (r_X3_instructs_10 E))) (ax_sn_leaf (r_X3_instructs_7 E))) (ax_sn_node (ax_sn_node (ax_sn_leaf (r_X3_instructs_4 E)) (ax_sn_leaf (r_X3_instructs_1 E))) (ax_sn_leaf (r_X3_instructs_0 E))))))))⟩
theorem r_X3_faultOf_0 (E : ax_EN G l) : ax_Snd G l ax_Ym M_X3_faultOf 0 (S_iload 1 1) := k_iload_n dX3_faultOf_0 rfl
theorem r_X3_faultOf_1 (E : ax_EN G l) : ax_Snd G l ax_Ym M_X3_faultOf 1 (S_push (.int (26)) 3) := k_bipush dX3_faultOf_1 rfl
theorem r_X3_faultOf_3 (E : ax_EN G l) : ax_Snd G l ax_Ym M_X3_faultOf 3 (S_if2 (fun x y => decide (x ≤ y)) 8 6) := k_icmp_le dX3_faultOf_3 rfl
theorem r_X3_faultOf_6 (E : ax_EN G l) : ax_Snd G l ax_Ym M_X3_faultOf 6 (S_push (.int (2)) 7) := k_iconst dX3_faultOf_6 rfl
theorem r_X3_faultOf_7 (E : ax_EN G l) : ax_Snd G l ax_Ym M_X3_faultOf 7 (S_iret) := k_iret dX3_faultOf_7 rfl
theorem r_X3_faultOf_8 (E : ax_EN G l) : ax_Snd G l ax_Ym M_X3_faultOf 8 (S_iload 1 9) := k_iload_n dX3_faultOf_8 rfl
theorem r_X3_faultOf_9 (E : ax_EN G l) : ax_Snd G l ax_Ym M_X3_faultOf 9 (S_push (.int (2)) 10) := k_iconst dX3_faultOf_9 rfl
theorem r_X3_faultOf_10 (E : ax_EN G l) : ax_Snd G l ax_Ym M_X3_faultOf 10 (S_if2 (fun x y => decide (x = y)) 18 13) := k_icmp_eq dX3_faultOf_10 rfl
theorem r_X3_faultOf_13 (E : ax_EN G l) : ax_Snd G l ax_Ym M_X3_faultOf 13 (S_iload 1 14) := k_iload_n dX3_faultOf_13 rfl
theorem r_X3_faultOf_14 (E : ax_EN G l) : ax_Snd G l ax_Ym M_X3_faultOf 14 (S_push (.int (3)) 15) := k_iconst dX3_faultOf_14 rfl
theorem r_X3_faultOf_15 (E : ax_EN G l) : ax_Snd G l ax_Ym M_X3_faultOf 15 (S_if2 (fun x y => decide (¬ x = y)) 27 18) := k_icmp_ne dX3_faultOf_15 rfl
theorem r_X3_faultOf_18 (E : ax_EN G l) : ax_Snd G l ax_Ym M_X3_faultOf 18 (S_iload 2 19) := k_iload_n dX3_faultOf_18 rfl
theorem r_X3_faultOf_19 (E : ax_EN G l) : ax_Snd G l ax_Ym M_X3_faultOf 19 (S_push (.int (256)) 22) := k_sipush dX3_faultOf_19 rfl
theorem r_X3_faultOf_22 (E : ax_EN G l) : ax_Snd G l ax_Ym M_X3_faultOf 22 (S_if2 (fun x y => decide (x < y)) 27 25) := k_icmp_lt dX3_faultOf_22 rfl
theorem r_X3_faultOf_25 (E : ax_EN G l) : ax_Snd G l ax_Ym M_X3_faultOf 25 (S_push (.int (1)) 26) := k_iconst dX3_faultOf_25 rfl
theorem r_X3_faultOf_26 (E : ax_EN G l) : ax_Snd G l ax_Ym M_X3_faultOf 26 (S_iret) := k_iret dX3_faultOf_26 rfl
theorem r_X3_faultOf_27 (E : ax_EN G l) : ax_Snd G l ax_Ym M_X3_faultOf 27 (S_iload 1 28) := k_iload_n dX3_faultOf_27 rfl
theorem r_X3_faultOf_28 (E : ax_EN G l) : ax_Snd G l ax_Ym M_X3_faultOf 28 (S_push (.int (15)) 30) := k_bipush dX3_faultOf_28 rfl
theorem r_X3_faultOf_30 (E : ax_EN G l) : ax_Snd G l ax_Ym M_X3_faultOf 30 (S_if2 (fun x y => decide (x = y)) 39 33) := k_icmp_eq dX3_faultOf_30 rfl
theorem r_X3_faultOf_33 (E : ax_EN G l) : ax_Snd G l ax_Ym M_X3_faultOf 33 (S_iload 1 34) := k_iload_n dX3_faultOf_33 rfl
theorem r_X3_faultOf_34 (E : ax_EN G l) : ax_Snd G l ax_Ym M_X3_faultOf 34 (S_push (.int (17)) 36) := k_bipush dX3_faultOf_34 rfl
theorem r_X3_faultOf_36 (E : ax_EN G l) : ax_Snd G l ax_Ym M_X3_faultOf 36 (S_if2 (fun x y => decide (¬ x = y)) 43 39) := k_icmp_ne dX3_faultOf_36 rfl
theorem r_X3_faultOf_39 (E : ax_EN G l) : ax_Snd G l ax_Ym M_X3_faultOf 39 (S_push (.int (1)) 40) := k_iconst dX3_faultOf_39 rfl
theorem r_X3_faultOf_40 (E : ax_EN G l) : ax_Snd G l ax_Ym M_X3_faultOf 40 (S_goto 44) := k_goto dX3_faultOf_40 rfl
theorem r_X3_faultOf_43 (E : ax_EN G l) : ax_Snd G l ax_Ym M_X3_faultOf 43 (S_push (.int (0)) 44) := k_iconst dX3_faultOf_43 rfl
theorem r_X3_faultOf_44 (E : ax_EN G l) : ax_Snd G l ax_Ym M_X3_faultOf 44 (S_istore 3 45) := k_istore_n dX3_faultOf_44 rfl (Nat.le_of_ble_eq_true rfl)
theorem r_X3_faultOf_45 (E : ax_EN G l) : ax_Snd G l ax_Ym M_X3_faultOf 45 (S_iload 1 46) := k_iload_n dX3_faultOf_45 rfl
theorem r_X3_faultOf_46 (E : ax_EN G l) : ax_Snd G l ax_Ym M_X3_faultOf 46 (S_push (.int (16)) 48) := k_bipush dX3_faultOf_46 rfl
theorem r_X3_faultOf_48 (E : ax_EN G l) : ax_Snd G l ax_Ym M_X3_faultOf 48 (S_if2 (fun x y => decide (x = y)) 57 51) := k_icmp_eq dX3_faultOf_48 rfl
theorem r_X3_faultOf_51 (E : ax_EN G l) : ax_Snd G l ax_Ym M_X3_faultOf 51 (S_iload 1 52) := k_iload_n dX3_faultOf_51 rfl
theorem r_X3_faultOf_52 (E : ax_EN G l) : ax_Snd G l ax_Ym M_X3_faultOf 52 (S_push (.int (18)) 54) := k_bipush dX3_faultOf_52 rfl
theorem r_X3_faultOf_54 (E : ax_EN G l) : ax_Snd G l ax_Ym M_X3_faultOf 54 (S_if2 (fun x y => decide (¬ x = y)) 61 57) := k_icmp_ne dX3_faultOf_54 rfl
theorem r_X3_faultOf_57 (E : ax_EN G l) : ax_Snd G l ax_Ym M_X3_faultOf 57 (S_push (.int (1)) 58) := k_iconst dX3_faultOf_57 rfl
theorem r_X3_faultOf_58 (E : ax_EN G l) : ax_Snd G l ax_Ym M_X3_faultOf 58 (S_goto 72) := k_goto dX3_faultOf_58 rfl
theorem r_X3_faultOf_61 (E : ax_EN G l) : ax_Snd G l ax_Ym M_X3_faultOf 61 (S_iload 1 62) := k_iload_n dX3_faultOf_61 rfl
theorem r_X3_faultOf_62 (E : ax_EN G l) : ax_Snd G l ax_Ym M_X3_faultOf 62 (S_push (.int (21)) 64) := k_bipush dX3_faultOf_62 rfl
theorem r_X3_faultOf_64 (E : ax_EN G l) : ax_Snd G l ax_Ym M_X3_faultOf 64 (S_if2 (fun x y => decide (¬ x = y)) 71 67) := k_icmp_ne dX3_faultOf_64 rfl
theorem r_X3_faultOf_67 (E : ax_EN G l) : ax_Snd G l ax_Ym M_X3_faultOf 67 (S_push (.int (2)) 68) := k_iconst dX3_faultOf_67 rfl
theorem r_X3_faultOf_68 (E : ax_EN G l) : ax_Snd G l ax_Ym M_X3_faultOf 68 (S_goto 72) := k_goto dX3_faultOf_68 rfl
theorem r_X3_faultOf_71 (E : ax_EN G l) : ax_Snd G l ax_Ym M_X3_faultOf 71 (S_push (.int (0)) 72) := k_iconst dX3_faultOf_71 rfl
theorem r_X3_faultOf_72 (E : ax_EN G l) : ax_Snd G l ax_Ym M_X3_faultOf 72 (S_istore 4 74) := k_istore dX3_faultOf_72 (Nat.le_of_ble_eq_true rfl)
theorem r_X3_faultOf_74 (E : ax_EN G l) : ax_Snd G l ax_Ym M_X3_faultOf 74 (S_iload 3 75) := k_iload_n dX3_faultOf_74 rfl
theorem r_X3_faultOf_75 (E : ax_EN G l) : ax_Snd G l ax_Ym M_X3_faultOf 75 (S_if1 (fun x => decide (x = 0)) 86 78) := k_if_eq dX3_faultOf_75 rfl
theorem r_X3_faultOf_78 (E : ax_EN G l) : ax_Snd G l ax_Ym M_X3_faultOf 78 (S_aload 0 79) := k_aload_n dX3_faultOf_78 rfl
theorem r_X3_faultOf_79 (E : ax_EN G l) : ax_Snd G l ax_Ym M_X3_faultOf 79 (S_getf [(38, 28)] 82) := k_getf (en_F E) (ax_fes_cons (fe_471 E) ax_fes_nil) q2781 dX3_faultOf_79
theorem r_X3_faultOf_82 (E : ax_EN G l) : ax_Snd G l ax_Ym M_X3_faultOf 82 (S_push (.int (1)) 83) := k_iconst dX3_faultOf_82 rfl
theorem r_X3_faultOf_83 (E : ax_EN G l) : ax_Snd G l ax_Ym M_X3_faultOf 83 (S_if2 (fun x y => decide (x < y)) 99 86) := k_icmp_lt dX3_faultOf_83 rfl
theorem r_X3_faultOf_86 (E : ax_EN G l) : ax_Snd G l ax_Ym M_X3_faultOf 86 (S_aload 0 87) := k_aload_n dX3_faultOf_86 rfl
theorem r_X3_faultOf_87 (E : ax_EN G l) : ax_Snd G l ax_Ym M_X3_faultOf 87 (S_getf [(38, 28)] 90) := k_getf (en_F E) (ax_fes_cons (fe_471 E) ax_fes_nil) q2781 dX3_faultOf_87
theorem r_X3_faultOf_90 (E : ax_EN G l) : ax_Snd G l ax_Ym M_X3_faultOf 90 (S_iload 4 92) := k_iload dX3_faultOf_90
theorem r_X3_faultOf_92 (E : ax_EN G l) : ax_Snd G l ax_Ym M_X3_faultOf 92 (S_i2 (fun x y => x + y) 93) := k_iadd dX3_faultOf_92
theorem r_X3_faultOf_93 (E : ax_EN G l) : ax_Snd G l ax_Ym M_X3_faultOf 93 (S_push (.int (256)) 96) := k_sipush dX3_faultOf_93 rfl
theorem r_X3_faultOf_96 (E : ax_EN G l) : ax_Snd G l ax_Ym M_X3_faultOf 96 (S_if2 (fun x y => decide (x ≤ y)) 101 99) := k_icmp_le dX3_faultOf_96 rfl
theorem r_X3_faultOf_99 (E : ax_EN G l) : ax_Snd G l ax_Ym M_X3_faultOf 99 (S_push (.int (3)) 100) := k_iconst dX3_faultOf_99 rfl
theorem r_X3_faultOf_100 (E : ax_EN G l) : ax_Snd G l ax_Ym M_X3_faultOf 100 (S_iret) := k_iret dX3_faultOf_100 rfl
theorem r_X3_faultOf_101 (E : ax_EN G l) : ax_Snd G l ax_Ym M_X3_faultOf 101 (S_iload 1 102) := k_iload_n dX3_faultOf_101 rfl
theorem r_X3_faultOf_102 (E : ax_EN G l) : ax_Snd G l ax_Ym M_X3_faultOf 102 (S_push (.int (25)) 104) := k_bipush dX3_faultOf_102 rfl
theorem r_X3_faultOf_104 (E : ax_EN G l) : ax_Snd G l ax_Ym M_X3_faultOf 104 (S_if2 (fun x y => decide (¬ x = y)) 120 107) := k_icmp_ne dX3_faultOf_104 rfl
theorem r_X3_faultOf_107 (E : ax_EN G l) : ax_Snd G l ax_Ym M_X3_faultOf 107 (S_aload 0 108) := k_aload_n dX3_faultOf_107 rfl
theorem r_X3_faultOf_108 (E : ax_EN G l) : ax_Snd G l ax_Ym M_X3_faultOf 108 (S_getf [(38, 37)] 111) := k_getf (en_F E) (ax_fes_cons (fe_489 E) ax_fes_nil) q2790 dX3_faultOf_108
theorem r_X3_faultOf_111 (E : ax_EN G l) : ax_Snd G l ax_Ym M_X3_faultOf 111 (S_push (.int (60)) 113) := k_bipush dX3_faultOf_111 rfl
theorem r_X3_faultOf_113 (E : ax_EN G l) : ax_Snd G l ax_Ym M_X3_faultOf 113 (S_if2 (fun x y => decide (¬ x = y)) 120 116) := k_icmp_ne dX3_faultOf_113 rfl
theorem r_X3_faultOf_116 (E : ax_EN G l) : ax_Snd G l ax_Ym M_X3_faultOf 116 (S_push (.int (4)) 117) := k_iconst dX3_faultOf_116 rfl
theorem r_X3_faultOf_117 (E : ax_EN G l) : ax_Snd G l ax_Ym M_X3_faultOf 117 (S_goto 121) := k_goto dX3_faultOf_117 rfl
theorem r_X3_faultOf_120 (E : ax_EN G l) : ax_Snd G l ax_Ym M_X3_faultOf 120 (S_push (.int (0)) 121) := k_iconst dX3_faultOf_120 rfl
theorem r_X3_faultOf_121 (E : ax_EN G l) : ax_Snd G l ax_Ym M_X3_faultOf 121 (S_iret) := k_iret dX3_faultOf_121 rfl
theorem mt_X3_faultOf (E : ax_EN G l) : ax_mt G l ax_Ym (5, P_X3_faultOf) (ax_Ym 427) := ⟨M_X3_faultOf, yX3_faultOf, ⟨rfl, by decide +kernel, rfl, (fun h => by cases h), Or.inl ⟨rfl, rfl⟩⟩, fun pc => (ax_sn_node (ax_sn_node (ax_sn_node (ax_sn_node (ax_sn_node (ax_sn_node (ax_sn_node (ax_sn_leaf (r_X3_faultOf_121 E)) (ax_sn_leaf (r_X3_faultOf_120 E))) (ax_sn_leaf (r_X3_faultOf_117 E))) (ax_sn_node (ax_sn_leaf (r_X3_faultOf_116 E)) (ax_sn_leaf (r_X3_faultOf_113 E)))) (ax_sn_node (ax_sn_node (ax_sn_leaf (r_X3_faultOf_111 E)) (ax_sn_leaf (r_X3_faultOf_108 E))) (ax_sn_node (ax_sn_leaf (r_X3_faultOf_107 E)) (ax_sn_leaf (r_X3_faultOf_104 E))))) (ax_sn_node (ax_sn_node (ax_sn_node (ax_sn_leaf (r_X3_faultOf_102 E)) (ax_sn_leaf (r_X3_faultOf_101 E))) (ax_sn_node (ax_sn_leaf (r_X3_faultOf_100 E)) (ax_sn_leaf (r_X3_faultOf_99 E)))) (ax_sn_node (ax_sn_node (ax_sn_leaf (r_X3_faultOf_96 E)) (ax_sn_leaf (r_X3_faultOf_93 E))) (ax_sn_node (ax_sn_leaf (r_X3_faultOf_92 E)) (ax_sn_leaf (r_X3_faultOf_90 E)))))) (ax_sn_node (ax_sn_node (ax_sn_node (ax_sn_node (ax_sn_leaf (r_X3_faultOf_87 E)) (ax_sn_leaf (r_X3_faultOf_86 E))) (ax_sn_node (ax_sn_leaf (r_X3_faultOf_83 E)) (ax_sn_leaf (r_X3_faultOf_82 E)))) (ax_sn_node (ax_sn_node (ax_sn_leaf (r_X3_faultOf_79 E)) (ax_sn_leaf (r_X3_faultOf_78 E))) (ax_sn_node (ax_sn_leaf (r_X3_faultOf_75 E)) (ax_sn_leaf (r_X3_faultOf_74 E))))) (ax_sn_node (ax_sn_node (ax_sn_node (ax_sn_leaf (r_X3_faultOf_72 E)) (ax_sn_leaf (r_X3_faultOf_71 E))) (ax_sn_node (ax_sn_leaf (r_X3_faultOf_68 E)) (ax_sn_leaf (r_X3_faultOf_67 E)))) (ax_sn_node (ax_sn_node (ax_sn_leaf (r_X3_faultOf_64 E)) (ax_sn_leaf (r_X3_faultOf_62 E))) (ax_sn_node (ax_sn_leaf (r_X3_faultOf_61 E)) (ax_sn_leaf (r_X3_faultOf_58 E))))))) (ax_sn_node (ax_sn_node (ax_sn_node (ax_sn_node (ax_sn_node (ax_sn_node (ax_sn_leaf (r_X3_faultOf_57 E)) (ax_sn_leaf (r_X3_faultOf_54 E))) (ax_sn_leaf (r_X3_faultOf_52 E))) (ax_sn_node (ax_sn_leaf (r_X3_faultOf_51 E)) (ax_sn_leaf (r_X3_faultOf_48 E)))) (ax_sn_node (ax_sn_node (ax_sn_leaf (r_X3_faultOf_46 E)) (ax_sn_leaf (r_X3_faultOf_45 E))) (ax_sn_node (ax_sn_leaf (r_X3_faultOf_44 E)) (ax_sn_leaf (r_X3_faultOf_43 E))))) (ax_sn_node (ax_sn_node (ax_sn_node (ax_sn_leaf (r_X3_faultOf_40 E)) (ax_sn_leaf (r_X3_faultOf_39 E))) (ax_sn_node (ax_sn_leaf (r_X3_faultOf_36 E)) (ax_sn_leaf (r_X3_faultOf_34 E)))) (ax_sn_node (ax_sn_node (ax_sn_leaf (r_X3_faultOf_33 E)) (ax_sn_leaf (r_X3_faultOf_30 E))) (ax_sn_node (ax_sn_leaf (r_X3_faultOf_28 E)) (ax_sn_leaf (r_X3_faultOf_27 E)))))) (ax_sn_node (ax_sn_node (ax_sn_node (ax_sn_node (ax_sn_leaf (r_X3_faultOf_26 E)) (ax_sn_leaf (r_X3_faultOf_25 E))) (ax_sn_node (ax_sn_leaf (r_X3_faultOf_22 E)) (ax_sn_leaf (r_X3_faultOf_19 E)))) (ax_sn_node (ax_sn_node (ax_sn_leaf (r_X3_faultOf_18 E)) (ax_sn_leaf (r_X3_faultOf_15 E))) (ax_sn_node (ax_sn_leaf (r_X3_faultOf_14 E)) (ax_sn_leaf (r_X3_faultOf_13 E))))) (ax_sn_node (ax_sn_node (ax_sn_node (ax_sn_leaf (r_X3_faultOf_10 E)) (ax_sn_leaf (r_X3_faultOf_9 E))) (ax_sn_node (ax_sn_leaf (r_X3_faultOf_8 E)) (ax_sn_leaf (r_X3_faultOf_7 E)))) (ax_sn_node (ax_sn_node (ax_sn_leaf (r_X3_faultOf_6 E)) (ax_sn_leaf (r_X3_faultOf_3 E))) (ax_sn_node (ax_sn_leaf (r_X3_faultOf_1 E)) (ax_sn_leaf (r_X3_faultOf_0 E))))))))⟩
end ROW
