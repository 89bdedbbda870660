set_option maxRecDepth 100000
section ROW
variable {G : ax_G} {l : Launch}
theorem r_X3_isWholeNow_0 (E : ax_EN G l) : ax_Snd G l ax_Ym M_X3_isWholeNow 0 (S_push (.int (255)) 3) := k_sipush dX3_isWholeNow_0 rfl
theorem r_X3_isWholeNow_3 (E : ax_EN G l) : ax_Snd G l ax_Ym M_X3_isWholeNow 3 (S_istore 1 4) := k_istore_n dX3_isWholeNow_3 rfl (Nat.le_of_ble_eq_true rfl)
theorem r_X3_isWholeNow_4 (E : ax_EN G l) : ax_Snd G l ax_Ym M_X3_isWholeNow 4 (S_aload 0 5) := k_aload_n dX3_isWholeNow_4 rfl
theorem r_X3_isWholeNow_5 (E : ax_EN G l) : ax_Snd G l ax_Ym M_X3_isWholeNow 5 (S_getf [(38, 50)] 8) := k_getf (en_F E) (ax_fes_cons (fe_402 E) ax_fes_nil) q2803 dX3_isWholeNow_5
theorem r_X3_isWholeNow_8 (E : ax_EN G l) : ax_Snd G l ax_Ym M_X3_isWholeNow 8 (S_push (.int (0)) 9) := k_iconst dX3_isWholeNow_8 rfl
theorem r_X3_isWholeNow_9 (E : ax_EN G l) : ax_Snd G l ax_Ym M_X3_isWholeNow 9 (S_iald 0 10) := k_iald (en_F E) dX3_isWholeNow_9
theorem r_X3_isWholeNow_10 (E : ax_EN G l) : ax_Snd G l ax_Ym M_X3_isWholeNow 10 (S_if1 (fun x => decide (¬ x = 0)) 17 13) := k_if_ne dX3_isWholeNow_10 rfl
theorem r_X3_isWholeNow_13 (E : ax_EN G l) : ax_Snd G l ax_Ym M_X3_isWholeNow 13 (S_push (.int (1)) 14) := k_iconst dX3_isWholeNow_13 rfl
theorem r_X3_isWholeNow_14 (E : ax_EN G l) : ax_Snd G l ax_Ym M_X3_isWholeNow 14 (S_goto 18) := k_goto dX3_isWholeNow_14 rfl
theorem r_X3_isWholeNow_17 (E : ax_EN G l) : ax_Snd G l ax_Ym M_X3_isWholeNow 17 (S_push (.int (0)) 18) := k_iconst dX3_isWholeNow_17 rfl
theorem r_X3_isWholeNow_18 (E : ax_EN G l) : ax_Snd G l ax_Ym M_X3_isWholeNow 18 (S_istore 2 19) := k_istore_n dX3_isWholeNow_18 rfl (Nat.le_of_ble_eq_true rfl)
theorem r_X3_isWholeNow_19 (E : ax_EN G l) : ax_Snd G l ax_Ym M_X3_isWholeNow 19 (S_push (.int (0)) 20) := k_iconst dX3_isWholeNow_19 rfl
theorem r_X3_isWholeNow_20 (E : ax_EN G l) : ax_Snd G l ax_Ym M_X3_isWholeNow 20 (S_istore 3 21) := k_istore_n dX3_isWholeNow_20 rfl (Nat.le_of_ble_eq_true rfl)
theorem r_X3_isWholeNow_21 (E : ax_EN G l) : ax_Snd G l ax_Ym M_X3_isWholeNow 21 (S_iload 3 22) := k_iload_n dX3_isWholeNow_21 rfl
theorem r_X3_isWholeNow_22 (E : ax_EN G l) : ax_Snd G l ax_Ym M_X3_isWholeNow 22 (S_push (.int (6)) 24) := k_bipush dX3_isWholeNow_22 rfl
theorem r_X3_isWholeNow_24 (E : ax_EN G l) : ax_Snd G l ax_Ym M_X3_isWholeNow 24 (S_if2 (fun x y => decide (y ≤ x)) 112 27) := k_icmp_ge dX3_isWholeNow_24 rfl
theorem r_X3_isWholeNow_27 (E : ax_EN G l) : ax_Snd G l ax_Ym M_X3_isWholeNow 27 (S_iload 2 28) := k_iload_n dX3_isWholeNow_27 rfl
theorem r_X3_isWholeNow_28 (E : ax_EN G l) : ax_Snd G l ax_Ym M_X3_isWholeNow 28 (S_if1 (fun x => decide (x = 0)) 112 31) := k_if_eq dX3_isWholeNow_28 rfl
theorem r_X3_isWholeNow_31 (E : ax_EN G l) : ax_Snd G l ax_Ym M_X3_isWholeNow 31 (S_aload 0 32) := k_aload_n dX3_isWholeNow_31 rfl
theorem r_X3_isWholeNow_32 (E : ax_EN G l) : ax_Snd G l ax_Ym M_X3_isWholeNow 32 (S_iload 3 33) := k_iload_n dX3_isWholeNow_32 rfl
theorem r_X3_isWholeNow_33 (E : ax_EN G l) : ax_Snd G l ax_Ym M_X3_isWholeNow 33 (S_iv [(38, 482)] 1 36 hd_0) := k_iv (en_F E) (ax_ok0 E rfl) (ax_Evs_cons ((ev_v (en_c E (k := 38) rfl) rfl y_X3_isEntrySo q3409 q3411 qs114 q126 q3412 nm_X3_isEntrySo (Nat.le_of_ble_eq_true rfl) dX3_isWholeNow_33) : ax_EvV G l ax_Ym M_X3_isWholeNow 33 1 3 38 482) ax_Evs_nil)
theorem r_X3_isWholeNow_36 (E : ax_EN G l) : ax_Snd G l ax_Ym M_X3_isWholeNow 36 (S_istore 2 37) := k_istore_n dX3_isWholeNow_36 rfl (Nat.le_of_ble_eq_true rfl)
theorem r_X3_isWholeNow_37 (E : ax_EN G l) : ax_Snd G l ax_Ym M_X3_isWholeNow 37 (S_push (.int (2)) 38) := k_iconst dX3_isWholeNow_37 rfl
theorem r_X3_isWholeNow_38 (E : ax_EN G l) : ax_Snd G l ax_Ym M_X3_isWholeNow 38 (S_istore 4 40) := k_istore dX3_isWholeNow_38 (Nat.le_of_ble_eq_true rfl)
theorem r_X3_isWholeNow_40 (E : ax_EN G l) : ax_Snd G l ax_Ym M_X3_isWholeNow 40 (S_iload 4 42) := k_iload dX3_isWholeNow_40
theorem r_X3_isWholeNow_42 (E : ax_EN G l) : ax_Snd G l ax_Ym M_X3_isWholeNow 42 (S_push (.int (4)) 43) := k_iconst dX3_isWholeNow_42 rfl
theorem r_X3_isWholeNow_43 (E : ax_EN G l) : ax_Snd G l ax_Ym M_X3_isWholeNow 43 (S_if2 (fun x y => decide (y ≤ x)) 106 46) := k_icmp_ge dX3_isWholeNow_43 rfl
theorem r_X3_isWholeNow_46 (E : ax_EN G l) : ax_Snd G l ax_Ym M_X3_isWholeNow 46 (S_iload 2 47) := k_iload_n dX3_isWholeNow_46 rfl
theorem r_X3_isWholeNow_47 (E : ax_EN G l) : ax_Snd G l ax_Ym M_X3_isWholeNow 47 (S_if1 (fun x => decide (x = 0)) 106 50) := k_if_eq dX3_isWholeNow_47 rfl
theorem r_X3_isWholeNow_50 (E : ax_EN G l) : ax_Snd G l ax_Ym M_X3_isWholeNow 50 (S_aload 0 51) := k_aload_n dX3_isWholeNow_50 rfl
theorem r_X3_isWholeNow_51 (E : ax_EN G l) : ax_Snd G l ax_Ym M_X3_isWholeNow 51 (S_getf [(38, 50)] 54) := k_getf (en_F E) (ax_fes_cons (fe_402 E) ax_fes_nil) q2803 dX3_isWholeNow_51
theorem r_X3_isWholeNow_54 (E : ax_EN G l) : ax_Snd G l ax_Ym M_X3_isWholeNow 54 (S_iload 3 55) := k_iload_n dX3_isWholeNow_54 rfl
theorem r_X3_isWholeNow_55 (E : ax_EN G l) : ax_Snd G l ax_Ym M_X3_isWholeNow 55 (S_is 415 1 58 hd_0) := k_is (en_F E) (ax_ok0 E rfl) ((ev_s y_X3_entry q3147 q3148 q126 q3149 nm_X3_entry (Nat.le_of_ble_eq_true rfl) dX3_isWholeNow_55) : ax_EvS G l ax_Ym M_X3_isWholeNow 55 415 1 3)
theorem r_X3_isWholeNow_58 (E : ax_EN G l) : ax_Snd G l ax_Ym M_X3_isWholeNow 58 (S_iload 4 60) := k_iload dX3_isWholeNow_58
theorem r_X3_isWholeNow_60 (E : ax_EN G l) : ax_Snd G l ax_Ym M_X3_isWholeNow 60 (S_i2 (fun x y => x + y) 61) := k_iadd dX3_isWholeNow_60
theorem r_X3_isWholeNow_61 (E : ax_EN G l) : ax_Snd G l ax_Ym M_X3_isWholeNow 61 (S_iald 0 62) := k_iald (en_F E) dX3_isWholeNow_61
theorem r_X3_isWholeNow_62 (E : ax_EN G l) : ax_Snd G l ax_Ym M_X3_isWholeNow 62 (S_istore 5 64) := k_istore dX3_isWholeNow_62 (Nat.le_of_ble_eq_true rfl)
theorem r_X3_isWholeNow_64 (E : ax_EN G l) : ax_Snd G l ax_Ym M_X3_isWholeNow 64 (S_iload 5 66) := k_iload dX3_isWholeNow_64
theorem r_X3_isWholeNow_66 (E : ax_EN G l) : ax_Snd G l ax_Ym M_X3_isWholeNow 66 (S_if1 (fun x => decide (x = 0)) 78 69) := k_if_eq dX3_isWholeNow_66 rfl
theorem r_X3_isWholeNow_69 (E : ax_EN G l) : ax_Snd G l ax_Ym M_X3_isWholeNow 69 (S_iload 1 70) := k_iload_n dX3_isWholeNow_69 rfl
theorem r_X3_isWholeNow_70 (E : ax_EN G l) : ax_Snd G l ax_Ym M_X3_isWholeNow 70 (S_iload 5 72) := k_iload dX3_isWholeNow_70
theorem r_X3_isWholeNow_72 (E : ax_EN G l) : ax_Snd G l ax_Ym M_X3_isWholeNow 72 (S_i2 (fun x y => x >>> (y &&& 31)) 73) := k_ishr dX3_isWholeNow_72
theorem r_X3_isWholeNow_73 (E : ax_EN G l) : ax_Snd G l ax_Ym M_X3_isWholeNow 73 (S_push (.int (1)) 74) := k_iconst dX3_isWholeNow_73 rfl
theorem r_X3_isWholeNow_74 (E : ax_EN G l) : ax_Snd G l ax_Ym M_X3_isWholeNow 74 (S_i2 (fun x y => x &&& y) 75) := k_iand dX3_isWholeNow_74
theorem r_X3_isWholeNow_75 (E : ax_EN G l) : ax_Snd G l ax_Ym M_X3_isWholeNow 75 (S_if1 (fun x => decide (¬ x = 0)) 82 78) := k_if_ne dX3_isWholeNow_75 rfl
theorem r_X3_isWholeNow_78 (E : ax_EN G l) : ax_Snd G l ax_Ym M_X3_isWholeNow 78 (S_push (.int (1)) 79) := k_iconst dX3_isWholeNow_78 rfl
theorem r_X3_isWholeNow_79 (E : ax_EN G l) : ax_Snd G l ax_Ym M_X3_isWholeNow 79 (S_goto 83) := k_goto dX3_isWholeNow_79 rfl
theorem r_X3_isWholeNow_82 (E : ax_EN G l) : ax_Snd G l ax_Ym M_X3_isWholeNow 82 (S_push (.int (0)) 83) := k_iconst dX3_isWholeNow_82 rfl
theorem r_X3_isWholeNow_83 (E : ax_EN G l) : ax_Snd G l ax_Ym M_X3_isWholeNow 83 (S_istore 2 84) := k_istore_n dX3_isWholeNow_83 rfl (Nat.le_of_ble_eq_true rfl)
theorem r_X3_isWholeNow_84 (E : ax_EN G l) : ax_Snd G l ax_Ym M_X3_isWholeNow 84 (S_iload 1 85) := k_iload_n dX3_isWholeNow_84 rfl
theorem r_X3_isWholeNow_85 (E : ax_EN G l) : ax_Snd G l ax_Ym M_X3_isWholeNow 85 (S_iload 5 87) := k_iload dX3_isWholeNow_85
theorem r_X3_isWholeNow_87 (E : ax_EN G l) : ax_Snd G l ax_Ym M_X3_isWholeNow 87 (S_if1 (fun x => decide (¬ x = 0)) 94 90) := k_if_ne dX3_isWholeNow_87 rfl
theorem r_X3_isWholeNow_90 (E : ax_EN G l) : ax_Snd G l ax_Ym M_X3_isWholeNow 90 (S_push (.int (0)) 91) := k_iconst dX3_isWholeNow_90 rfl
theorem r_X3_isWholeNow_91 (E : ax_EN G l) : ax_Snd G l ax_Ym M_X3_isWholeNow 91 (S_goto 98) := k_goto dX3_isWholeNow_91 rfl
theorem r_X3_isWholeNow_94 (E : ax_EN G l) : ax_Snd G l ax_Ym M_X3_isWholeNow 94 (S_push (.int (1)) 95) := k_iconst dX3_isWholeNow_94 rfl
theorem r_X3_isWholeNow_95 (E : ax_EN G l) : ax_Snd G l ax_Ym M_X3_isWholeNow 95 (S_iload 5 97) := k_iload dX3_isWholeNow_95
theorem r_X3_isWholeNow_97 (E : ax_EN G l) : ax_Snd G l ax_Ym M_X3_isWholeNow 97 (S_i2 (fun x y => x <<< (y &&& 31)) 98) := k_ishl dX3_isWholeNow_97
theorem r_X3_isWholeNow_98 (E : ax_EN G l) : ax_Snd G l ax_Ym M_X3_isWholeNow 98 (S_i2 (fun x y => x ||| y) 99) := k_ior dX3_isWholeNow_98
theorem r_X3_isWholeNow_99 (E : ax_EN G l) : ax_Snd G l ax_Ym M_X3_isWholeNow 99 (S_istore 1 100) := k_istore_n dX3_isWholeNow_99 rfl (Nat.le_of_ble_eq_true rfl)
theorem r_X3_isWholeNow_100 (E : ax_EN G l) : ax_Snd G l ax_Ym M_X3_isWholeNow 100 (S_iinc 4 (1) 103) := k_iinc dX3_isWholeNow_100 rfl (Nat.le_of_ble_eq_true rfl)
theorem r_X3_isWholeNow_103 (E : ax_EN G l) : ax_Snd G l ax_Ym M_X3_isWholeNow 103 (S_goto 40) := k_goto dX3_isWholeNow_103 rfl
theorem r_X3_isWholeNow_106 (E : ax_EN G l) : ax_Snd G l ax_Ym M_X3_isWholeNow 106 (S_iinc 3 (1) 109) := k_iinc dX3_isWholeNow_106 rfl (Nat.le_of_ble_eq_true rfl)
theorem r_X3_isWholeNow_109 (E : ax_EN G l) : ax_Snd G l ax_Ym M_X3_isWholeNow 109 (S_goto 21) := k_goto dX3_isWholeNow_109 rfl
theorem r_X3_isWholeNow_112 (E : ax_EN G l) : ax_Snd G l ax_Ym M_X3_isWholeNow 112 (S_iload 2 113) := k_iload_n dX3_isWholeNow_112 rfl
theorem r_X3_isWholeNow_113 (E : ax_EN G l) : ax_Snd G l ax_Ym M_X3_isWholeNow 113 (S_if1 (fun x => decide (x = 0)) 148 116) := k_if_eq dX3_isWholeNow_113 rfl
theorem r_X3_isWholeNow_116 (E : ax_EN G l) : ax_Snd G l ax_Ym M_X3_isWholeNow 116 (S_aload 0 117) := k_aload_n dX3_isWholeNow_116 rfl
theorem r_X3_isWholeNow_117 (E : ax_EN G l) : ax_Snd G l ax_Ym M_X3_isWholeNow 117 (S_getf [(38, 50)] 120) := k_getf (en_F E) (ax_fes_cons (fe_402 E) ax_fes_nil) q2803 dX3_isWholeNow_117
theorem r_X3_isWholeNow_120 (E : ax_EN G l) : ax_Snd G l ax_Ym M_X3_isWholeNow 120 (S_push (.int (32)) 122) := k_bipush dX3_isWholeNow_120 rfl
theorem r_X3_isWholeNow_122 (E : ax_EN G l) : ax_Snd G l ax_Ym M_X3_isWholeNow 122 (S_iald 0 123) := k_iald (en_F E) dX3_isWholeNow_122
theorem r_X3_isWholeNow_123 (E : ax_EN G l) : ax_Snd G l ax_Ym M_X3_isWholeNow 123 (S_iload 1 124) := k_iload_n dX3_isWholeNow_123 rfl
theorem r_X3_isWholeNow_124 (E : ax_EN G l) : ax_Snd G l ax_Ym M_X3_isWholeNow 124 (S_push (.int (65535)) 126) := k_ldc q3014 dX3_isWholeNow_124
theorem r_X3_isWholeNow_126 (E : ax_EN G l) : ax_Snd G l ax_Ym M_X3_isWholeNow 126 (S_i2 (fun x y => x &&& y) 127) := k_iand dX3_isWholeNow_126
theorem r_X3_isWholeNow_127 (E : ax_EN G l) : ax_Snd G l ax_Ym M_X3_isWholeNow 127 (S_if2 (fun x y => decide (¬ x = y)) 148 130) := k_icmp_ne dX3_isWholeNow_127 rfl
theorem r_X3_isWholeNow_130 (E : ax_EN G l) : ax_Snd G l ax_Ym M_X3_isWholeNow 130 (S_aload 0 131) := k_aload_n dX3_isWholeNow_130 rfl
theorem r_X3_isWholeNow_131 (E : ax_EN G l) : ax_Snd G l ax_Ym M_X3_isWholeNow 131 (S_getf [(38, 50)] 134) := k_getf (en_F E) (ax_fes_cons (fe_402 E) ax_fes_nil) q2803 dX3_isWholeNow_131
theorem r_X3_isWholeNow_134 (E : ax_EN G l) : ax_Snd G l ax_Ym M_X3_isWholeNow 134 (S_push (.int (33)) 136) := k_bipush dX3_isWholeNow_134 rfl
theorem r_X3_isWholeNow_136 (E : ax_EN G l) : ax_Snd G l ax_Ym M_X3_isWholeNow 136 (S_iald 0 137) := k_iald (en_F E) dX3_isWholeNow_136
theorem r_X3_isWholeNow_137 (E : ax_EN G l) : ax_Snd G l ax_Ym M_X3_isWholeNow 137 (S_iload 1 138) := k_iload_n dX3_isWholeNow_137 rfl
theorem r_X3_isWholeNow_138 (E : ax_EN G l) : ax_Snd G l ax_Ym M_X3_isWholeNow 138 (S_push (.int (16)) 140) := k_bipush dX3_isWholeNow_138 rfl
theorem r_X3_isWholeNow_140 (E : ax_EN G l) : ax_Snd G l ax_Ym M_X3_isWholeNow 140 (S_i2 (fun x y => (x.toUInt32 >>> (y.toUInt32 &&& Int32.toUInt32 31)).toInt32) 141) := k_iushr dX3_isWholeNow_140
theorem r_X3_isWholeNow_141 (E : ax_EN G l) : ax_Snd G l ax_Ym M_X3_isWholeNow 141 (S_if2 (fun x y => decide (¬ x = y)) 148 144) := k_icmp_ne dX3_isWholeNow_141 rfl
theorem r_X3_isWholeNow_144 (E : ax_EN G l) : ax_Snd G l ax_Ym M_X3_isWholeNow 144 (S_push (.int (1)) 145) := k_iconst dX3_isWholeNow_144 rfl
theorem r_X3_isWholeNow_145 (E : ax_EN G l) : ax_Snd G l ax_Ym M_X3_isWholeNow 145 (S_goto 149) := k_goto dX3_isWholeNow_145 rfl
theorem r_X3_isWholeNow_148 (E : ax_EN G l) : ax_Snd G l ax_Ym M_X3_isWholeNow 148 (S_push (.int (0)) 149) := k_iconst dX3_isWholeNow_148 rfl
theorem r_X3_isWholeNow_149 (E : ax_EN G l) : ax_Snd G l ax_Ym M_X3_isWholeNow 149 (S_zret) := k_zret dX3_isWholeNow_149 rfl
theorem mt_X3_isWholeNow (E : ax_EN G l) : ax_mt G l ax_Ym (6, P_X3_isWholeNow) (ax_Ym 481) := ⟨M_X3_isWholeNow, yX3_isWholeNow, ⟨rfl, by decide +kernel, rfl, (fun h => by cases h), Or.inl ⟨rfl, rfl⟩⟩, fun pc => (ax_sn_node (ax_sn_node (ax_sn_node (ax_sn_node (ax_sn_node (ax_sn_node (ax_sn_node (ax_sn_leaf (r_X3_isWholeNow_149 E)) (ax_sn_leaf (r_X3_isWholeNow_148 E))) (ax_sn_leaf (r_X3_isWholeNow_145 E))) (ax_sn_node (ax_sn_node (ax_sn_leaf (r_X3_isWholeNow_144 E)) (ax_sn_leaf (r_X3_isWholeNow_141 E))) (ax_sn_leaf (r_X3_isWholeNow_140 E)))) (ax_sn_node (ax_sn_node (ax_sn_node (ax_sn_leaf (r_X3_isWholeNow_138 E)) (ax_sn_leaf (r_X3_isWholeNow_137 E))) (ax_sn_leaf (r_X3_isWholeNow_136 E))) (ax_sn_node (ax_sn_leaf (r_X3_isWholeNow_134 E)) (ax_sn_leaf (r_X3_isWholeNow_131 E))))) (ax_sn_node (ax_sn_node (ax_sn_node (ax_sn_node (ax_sn_leaf (r_X3_isWholeNow_130 E)) (ax_sn_leaf (r_X3_isWholeNow_127 E))) (ax_sn_leaf (r_X3_isWholeNow_126 E))) (ax_sn_node (ax_sn_node (ax_sn_leaf (r_X3_isWholeNow_124 E)) (ax_sn_leaf (r_X3_isWholeNow_123 E))) (ax_sn_leaf (r_X3_isWholeNow_122 E)))) (ax_sn_node (ax_sn_node (ax_sn_node (ax_sn_leaf (r_X3_isWholeNow_120 E)) (ax_sn_leaf (r_X3_isWholeNow_117 E))) (ax_sn_leaf (r_X3_isWholeNow_116 E))) (ax_sn_node (ax_sn_leaf (r_X3_isWholeNow_113 E)) (ax_sn_leaf (r_X3_isWholeNow_112 E)))))) (ax_sn_node (ax_sn_node (ax_sn_node (ax_sn_node (ax_sn_node (ax_sn_leaf (r_X3_isWholeNow_109 E)) (ax_sn_leaf (r_X3_isWholeNow_106 E))) (ax_sn_leaf (r_X3_isWholeNow_103 E))) (ax_sn_node (ax_sn_node (ax_sn_leaf (r_X3_isWholeNow_100 E)) (ax_sn_leaf (r_X3_isWholeNow_99 E))) (ax_sn_leaf (r_X3_isWholeNow_98 E)))) (ax_sn_node (ax_sn_node (ax_sn_node (ax_sn_leaf (r_X3_isWholeNow_97 E)) (ax_sn_leaf (r_X3_isWholeNow_95 E))) (ax_sn_leaf (r_X3_isWholeNow_94 E))) (ax_sn_node (ax_sn_leaf (r_X3_isWholeNow_91 E)) (ax_sn_leaf (r_X3_isWholeNow_90 E))))) (ax_sn_node (ax_sn_node (ax_sn_node (ax_sn_node (ax_sn_leaf (r_X3_isWholeNow_87 E)) (ax_sn_leaf (r_X3_isWholeNow_85 E))) (ax_sn_leaf (r_X3_isWholeNow_84 E))) (ax_sn_node (ax_sn_leaf (r_X3_isWholeNow_83 E)) (ax_sn_leaf (r_X3_isWholeNow_82 E)))) (ax_sn_node (ax_sn_node (ax_sn_node (ax_sn_leaf (r_X3_isWholeNow_79 E)) (ax_sn_leaf (r_X3_isWholeNow_78 E))) (ax_sn_leaf (r_X3_isWholeNow_75 E))) (ax_sn_node (ax_sn_leaf (r_X3_isWholeNow_74 E)) (ax_sn_leaf (r_X3_isWholeNow_73 E))))))) (ax_sn_node (ax_sn_node (ax_sn_node (ax_sn_node (ax_sn_node (ax_sn_node (ax_sn_leaf (r_X3_isWholeNow_72 E)) (ax_sn_leaf (r_X3_isWholeNow_70 E))) (ax_sn_leaf (r_X3_isWholeNow_69 E))) (ax_sn_node (ax_sn_node (ax_sn_leaf (r_X3_isWholeNow_66 E)) (ax_sn_leaf (r_X3_isWholeNow_64 E))) (ax_sn_leaf (r_X3_isWholeNow_62 E)))) (ax_sn_node (ax_sn_node (ax_sn_node (ax_sn_leaf (r_X3_isWholeNow_61 E)) (ax_sn_leaf (r_X3_isWholeNow_60 E))) (ax_sn_leaf (r_X3_isWholeNow_58 E))) (ax_sn_node (ax_sn_leaf (r_X3_isWholeNow_55 E)) (ax_sn_leaf (r_X3_isWholeNow_54 E))))) (ax_sn_node (ax_sn_node (ax_sn_node (ax_sn_node (ax_sn_leaf (r_X3_isWholeNow_51 E)) (ax_sn_leaf (r_X3_isWholeNow_50 E))) (ax_sn_leaf (r_X3_isWholeNow_47 E))) (ax_sn_node (ax_sn_leaf (r_X3_isWholeNow_46 E)) (ax_sn_leaf (r_X3_isWholeNow_43 E)))) (ax_sn_node (ax_sn_node (ax_sn_node (ax_sn_leaf (r_X3_isWholeNow_42 E)) (ax_sn_leaf (r_X3_isWholeNow_40 E))) (ax_sn_leaf (r_X3_isWholeNow_38 E))) (ax_sn_node (ax_sn_leaf (r_X3_isWholeNow_37 E)) (ax_sn_leaf (r_X3_isWholeNow_36 E)))))) (ax_sn_node (ax_sn_node (ax_sn_node (ax_sn_node (ax_sn_node (ax_sn_leaf (r_X3_isWholeNow_33 E)) (ax_sn_leaf (r_X3_isWholeNow_32 E))) (ax_sn_leaf (r_X3_isWholeNow_31 E))) (ax_sn_node (ax_sn_node (ax_sn_leaf (r_X3_isWholeNow_28 E)) (ax_sn_leaf (r_X3_isWholeNow_27 E))) (ax_sn_leaf (r_X3_isWholeNow_24 E)))) (ax_sn_node (ax_sn_node (ax_sn_node (ax_sn_leaf (r_X3_isWholeNow_22 E)) (ax_sn_leaf (r_X3_isWholeNow_21 E))) (ax_sn_leaf (r_X3_isWholeNow_20 E))) (ax_sn_node (ax_sn_leaf (r_X3_isWholeNow_19 E)) (ax_sn_leaf (r_X3_isWholeNow_18 E))))) (ax_sn_node (ax_sn_node (ax_sn_node (ax_sn_node (ax_sn_leaf (r_X3_isWholeNow_17 E)) (ax_sn_leaf (r_X3_isWholeNow_14 E))) (ax_sn_leaf (r_X3_isWholeNow_13 E))) (ax_sn_node (ax_sn_leaf (r_X3_isWholeNow_10 E)) (ax_sn_leaf (r_X3_isWholeNow_9 E)))) (ax_sn_node (ax_sn_node (ax_sn_node (ax_sn_leaf (r_X3_isWholeNow_8 E)) (ax_sn_leaf (r_X3_isWholeNow_5 E))) (ax_sn_leaf (r_X3_isWholeNow_4 E))) (ax_sn_node (ax_sn_leaf (r_X3_isWholeNow_3 E)) (ax_sn_leaf (r_X3_isWholeNow_0 E))))))))⟩
theorem r_X3_isEntrySo_0 (E : ax_EN G l) : ax_Snd G l ax_Ym M_X3_isEntrySo 0 (S_aload 0 1) := k_aload_n dX3_isEntrySo_0 rfl
theorem r_X3_isEntrySo_1 (E : ax_EN G l) : ax_Snd G l ax_Ym M_X3_isEntrySo 1 (S_getf [(38, 50)] 4) := k_getf (en_F E) (ax_fes_cons (fe_402 E) ax_fes_nil) q2803 dX3_isEntrySo_1
theorem r_X3_isEntrySo_4 (E : ax_EN G l) : ax_Snd G l ax_Ym M_X3_isEntrySo 4 (S_iload 1 5) := k_iload_n dX3_isEntrySo_4 rfl
theorem r_X3_isEntrySo_5 (E : ax_EN G l) : ax_Snd G l ax_Ym M_X3_isEntrySo 5 (S_is 415 1 8 hd_0) := k_is (en_F E) (ax_ok0 E rfl) ((ev_s y_X3_entry q3147 q3148 q126 q3149 nm_X3_entry (Nat.le_of_ble_eq_true rfl) dX3_isEntrySo_5) : ax_EvS G l ax_Ym M_X3_isEntrySo 5 415 1 3)
theorem r_X3_isEntrySo_8 (E : ax_EN G l) : ax_Snd G l ax_Ym M_X3_isEntrySo 8 (S_push (.int (1)) 9) := k_iconst dX3_isEntrySo_8 rfl
theorem r_X3_isEntrySo_9 (E : ax_EN G l) : ax_Snd G l ax_Ym M_X3_isEntrySo 9 (S_i2 (fun x y => x + y) 10) := k_iadd dX3_isEntrySo_9
theorem r_X3_isEntrySo_10 (E : ax_EN G l) : ax_Snd G l ax_Ym M_X3_isEntrySo 10 (S_iald 0 11) := k_iald (en_F E) dX3_isEntrySo_10
theorem r_X3_isEntrySo_11 (E : ax_EN G l) : ax_Snd G l ax_Ym M_X3_isEntrySo 11 (S_istore 2 12) := k_istore_n dX3_isEntrySo_11 rfl (Nat.le_of_ble_eq_true rfl)
theorem r_X3_isEntrySo_12 (E : ax_EN G l) : ax_Snd G l ax_Ym M_X3_isEntrySo 12 (S_aload 0 13) := k_aload_n dX3_isEntrySo_12 rfl
theorem r_X3_isEntrySo_13 (E : ax_EN G l) : ax_Snd G l ax_Ym M_X3_isEntrySo 13 (S_getf [(38, 50)] 16) := k_getf (en_F E) (ax_fes_cons (fe_402 E) ax_fes_nil) q2803 dX3_isEntrySo_13
theorem r_X3_isEntrySo_16 (E : ax_EN G l) : ax_Snd G l ax_Ym M_X3_isEntrySo 16 (S_iload 1 17) := k_iload_n dX3_isEntrySo_16 rfl
theorem r_X3_isEntrySo_17 (E : ax_EN G l) : ax_Snd G l ax_Ym M_X3_isEntrySo 17 (S_is 415 1 20 hd_0) := k_is (en_F E) (ax_ok0 E rfl) ((ev_s y_X3_entry q3147 q3148 q126 q3149 nm_X3_entry (Nat.le_of_ble_eq_true rfl) dX3_isEntrySo_17) : ax_EvS G l ax_Ym M_X3_isEntrySo 17 415 1 3)
theorem r_X3_isEntrySo_20 (E : ax_EN G l) : ax_Snd G l ax_Ym M_X3_isEntrySo 20 (S_push (.int (2)) 21) := k_iconst dX3_isEntrySo_20 rfl
theorem r_X3_isEntrySo_21 (E : ax_EN G l) : ax_Snd G l ax_Ym M_X3_isEntrySo 21 (S_i2 (fun x y => x + y) 22) := k_iadd dX3_isEntrySo_21
theorem r_X3_isEntrySo_22 (E : ax_EN G l) : ax_Snd G l ax_Ym M_X3_isEntrySo 22 (S_iald 0 23) := k_iald (en_F E) dX3_isEntrySo_22
theorem r_X3_isEntrySo_23 (E : ax_EN G l) : ax_Snd G l ax_Ym M_X3_isEntrySo 23 (S_istore 3 24) := k_istore_n dX3_isEntrySo_23 rfl (Nat.le_of_ble_eq_true rfl)
theorem r_X3_isEntrySo_24 (E : ax_EN G l) : ax_Snd G l ax_Ym M_X3_isEntrySo 24 (S_aload 0 25) := k_aload_n dX3_isEntrySo_24 rfl
theorem r_X3_isEntrySo_25 (E : ax_EN G l) : ax_Snd G l ax_Ym M_X3_isEntrySo 25 (S_getf [(38, 50)] 28) := k_getf (en_F E) (ax_fes_cons (fe_402 E) ax_fes_nil) q2803 dX3_isEntrySo_25
theorem r_X3_isEntrySo_28 (E : ax_EN G l) : ax_Snd G l ax_Ym M_X3_isEntrySo 28 (S_iload 1 29) := k_iload_n dX3_isEntrySo_28 rfl
theorem r_X3_isEntrySo_29 (E : ax_EN G l) : ax_Snd G l ax_Ym M_X3_isEntrySo 29 (S_is 415 1 32 hd_0) := k_is (en_F E) (ax_ok0 E rfl) ((ev_s y_X3_entry q3147 q3148 q126 q3149 nm_X3_entry (Nat.le_of_ble_eq_true rfl) dX3_isEntrySo_29) : ax_EvS G l ax_Ym M_X3_isEntrySo 29 415 1 3)
theorem r_X3_isEntrySo_32 (E : ax_EN G l) : ax_Snd G l ax_Ym M_X3_isEntrySo 32 (S_push (.int (3)) 33) := k_iconst dX3_isEntrySo_32 rfl
theorem r_X3_isEntrySo_33 (E : ax_EN G l) : ax_Snd G l ax_Ym M_X3_isEntrySo 33 (S_i2 (fun x y => x + y) 34) := k_iadd dX3_isEntrySo_33
theorem r_X3_isEntrySo_34 (E : ax_EN G l) : ax_Snd G l ax_Ym M_X3_isEntrySo 34 (S_iald 0 35) := k_iald (en_F E) dX3_isEntrySo_34
theorem r_X3_isEntrySo_35 (E : ax_EN G l) : ax_Snd G l ax_Ym M_X3_isEntrySo 35 (S_istore 4 37) := k_istore dX3_isEntrySo_35 (Nat.le_of_ble_eq_true rfl)
theorem r_X3_isEntrySo_37 (E : ax_EN G l) : ax_Snd G l ax_Ym M_X3_isEntrySo 37 (S_aload 0 38) := k_aload_n dX3_isEntrySo_37 rfl
theorem r_X3_isEntrySo_38 (E : ax_EN G l) : ax_Snd G l ax_Ym M_X3_isEntrySo 38 (S_getf [(38, 50)] 41) := k_getf (en_F E) (ax_fes_cons (fe_402 E) ax_fes_nil) q2803 dX3_isEntrySo_38
theorem r_X3_isEntrySo_41 (E : ax_EN G l) : ax_Snd G l ax_Ym M_X3_isEntrySo 41 (S_iload 1 42) := k_iload_n dX3_isEntrySo_41 rfl
theorem r_X3_isEntrySo_42 (E : ax_EN G l) : ax_Snd G l ax_Ym M_X3_isEntrySo 42 (S_is 415 1 45 hd_0) := k_is (en_F E) (ax_ok0 E rfl) ((ev_s y_X3_entry q3147 q3148 q126 q3149 nm_X3_entry (Nat.le_of_ble_eq_true rfl) dX3_isEntrySo_42) : ax_EvS G l ax_Ym M_X3_isEntrySo 42 415 1 3)
theorem r_X3_isEntrySo_45 (E : ax_EN G l) : ax_Snd G l ax_Ym M_X3_isEntrySo 45 (S_iald 0 46) := k_iald (en_F E) dX3_isEntrySo_45
theorem r_X3_isEntrySo_46 (E : ax_EN G l) : ax_Snd G l ax_Ym M_X3_isEntrySo 46 (S_if1 (fun x => decide (¬ x = 0)) 68 49) := k_if_ne dX3_isEntrySo_46 rfl
theorem r_X3_isEntrySo_49 (E : ax_EN G l) : ax_Snd G l ax_Ym M_X3_isEntrySo 49 (S_iload 2 50) := k_iload_n dX3_isEntrySo_49 rfl
theorem r_X3_isEntrySo_50 (E : ax_EN G l) : ax_Snd G l ax_Ym M_X3_isEntrySo 50 (S_if1 (fun x => decide (¬ x = 0)) 66 53) := k_if_ne dX3_isEntrySo_50 rfl
theorem r_X3_isEntrySo_53 (E : ax_EN G l) : ax_Snd G l ax_Ym M_X3_isEntrySo 53 (S_iload 3 54) := k_iload_n dX3_isEntrySo_53 rfl
theorem r_X3_isEntrySo_54 (E : ax_EN G l) : ax_Snd G l ax_Ym M_X3_isEntrySo 54 (S_if1 (fun x => decide (¬ x = 0)) 66 57) := k_if_ne dX3_isEntrySo_54 rfl
theorem r_X3_isEntrySo_57 (E : ax_EN G l) : ax_Snd G l ax_Ym M_X3_isEntrySo 57 (S_iload 4 59) := k_iload dX3_isEntrySo_57
theorem r_X3_isEntrySo_59 (E : ax_EN G l) : ax_Snd G l ax_Ym M_X3_isEntrySo 59 (S_if1 (fun x => decide (¬ x = 0)) 66 62) := k_if_ne dX3_isEntrySo_59 rfl
theorem r_X3_isEntrySo_62 (E : ax_EN G l) : ax_Snd G l ax_Ym M_X3_isEntrySo 62 (S_push (.int (1)) 63) := k_iconst dX3_isEntrySo_62 rfl
theorem r_X3_isEntrySo_63 (E : ax_EN G l) : ax_Snd G l ax_Ym M_X3_isEntrySo 63 (S_goto 67) := k_goto dX3_isEntrySo_63 rfl
theorem r_X3_isEntrySo_66 (E : ax_EN G l) : ax_Snd G l ax_Ym M_X3_isEntrySo 66 (S_push (.int (0)) 67) := k_iconst dX3_isEntrySo_66 rfl
theorem r_X3_isEntrySo_67 (E : ax_EN G l) : ax_Snd G l ax_Ym M_X3_isEntrySo 67 (S_zret) := k_zret dX3_isEntrySo_67 rfl
theorem r_X3_isEntrySo_68 (E : ax_EN G l) : ax_Snd G l ax_Ym M_X3_isEntrySo 68 (S_iload 2 69) := k_iload_n dX3_isEntrySo_68 rfl
theorem r_X3_isEntrySo_69 (E : ax_EN G l) : ax_Snd G l ax_Ym M_X3_isEntrySo 69 (S_push (.int (16)) 71) := k_bipush dX3_isEntrySo_69 rfl
theorem r_X3_isEntrySo_71 (E : ax_EN G l) : ax_Snd G l ax_Ym M_X3_isEntrySo 71 (S_if2 (fun x y => decide (y < x)) 123 74) := k_icmp_gt dX3_isEntrySo_71 rfl
theorem r_X3_isEntrySo_74 (E : ax_EN G l) : ax_Snd G l ax_Ym M_X3_isEntrySo 74 (S_iload 3 75) := k_iload_n dX3_isEntrySo_74 rfl
theorem r_X3_isEntrySo_75 (E : ax_EN G l) : ax_Snd G l ax_Ym M_X3_isEntrySo 75 (S_if1 (fun x => decide (x ≤ 0)) 82 78) := k_if_le dX3_isEntrySo_75 rfl
theorem r_X3_isEntrySo_78 (E : ax_EN G l) : ax_Snd G l ax_Ym M_X3_isEntrySo 78 (S_push (.int (1)) 79) := k_iconst dX3_isEntrySo_78 rfl
theorem r_X3_isEntrySo_79 (E : ax_EN G l) : ax_Snd G l ax_Ym M_X3_isEntrySo 79 (S_goto 83) := k_goto dX3_isEntrySo_79 rfl
theorem r_X3_isEntrySo_82 (E : ax_EN G l) : ax_Snd G l ax_Ym M_X3_isEntrySo 82 (S_push (.int (0)) 83) := k_iconst dX3_isEntrySo_82 rfl
theorem r_X3_isEntrySo_83 (E : ax_EN G l) : ax_Snd G l ax_Ym M_X3_isEntrySo 83 (S_iload 2 84) := k_iload_n dX3_isEntrySo_83 rfl
theorem r_X3_isEntrySo_84 (E : ax_EN G l) : ax_Snd G l ax_Ym M_X3_isEntrySo 84 (S_if1 (fun x => decide (x ≤ 0)) 91 87) := k_if_le dX3_isEntrySo_84 rfl
theorem r_X3_isEntrySo_87 (E : ax_EN G l) : ax_Snd G l ax_Ym M_X3_isEntrySo 87 (S_push (.int (1)) 88) := k_iconst dX3_isEntrySo_87 rfl
theorem r_X3_isEntrySo_88 (E : ax_EN G l) : ax_Snd G l ax_Ym M_X3_isEntrySo 88 (S_goto 92) := k_goto dX3_isEntrySo_88 rfl
theorem r_X3_isEntrySo_91 (E : ax_EN G l) : ax_Snd G l ax_Ym M_X3_isEntrySo 91 (S_push (.int (0)) 92) := k_iconst dX3_isEntrySo_91 rfl
theorem r_X3_isEntrySo_92 (E : ax_EN G l) : ax_Snd G l ax_Ym M_X3_isEntrySo 92 (S_if2 (fun x y => decide (¬ x = y)) 123 95) := k_icmp_ne dX3_isEntrySo_92 rfl
theorem r_X3_isEntrySo_95 (E : ax_EN G l) : ax_Snd G l ax_Ym M_X3_isEntrySo 95 (S_iload 4 97) := k_iload dX3_isEntrySo_95
theorem r_X3_isEntrySo_97 (E : ax_EN G l) : ax_Snd G l ax_Ym M_X3_isEntrySo 97 (S_if1 (fun x => decide (x ≤ 0)) 104 100) := k_if_le dX3_isEntrySo_97 rfl
theorem r_X3_isEntrySo_100 (E : ax_EN G l) : ax_Snd G l ax_Ym M_X3_isEntrySo 100 (S_push (.int (1)) 101) := k_iconst dX3_isEntrySo_100 rfl
theorem r_X3_isEntrySo_101 (E : ax_EN G l) : ax_Snd G l ax_Ym M_X3_isEntrySo 101 (S_goto 105) := k_goto dX3_isEntrySo_101 rfl
theorem r_X3_isEntrySo_104 (E : ax_EN G l) : ax_Snd G l ax_Ym M_X3_isEntrySo 104 (S_push (.int (0)) 105) := k_iconst dX3_isEntrySo_104 rfl
theorem r_X3_isEntrySo_105 (E : ax_EN G l) : ax_Snd G l ax_Ym M_X3_isEntrySo 105 (S_iload 2 106) := k_iload_n dX3_isEntrySo_105 rfl
theorem r_X3_isEntrySo_106 (E : ax_EN G l) : ax_Snd G l ax_Ym M_X3_isEntrySo 106 (S_push (.int (8)) 108) := k_bipush dX3_isEntrySo_106 rfl
theorem r_X3_isEntrySo_108 (E : ax_EN G l) : ax_Snd G l ax_Ym M_X3_isEntrySo 108 (S_if2 (fun x y => decide (x ≤ y)) 115 111) := k_icmp_le dX3_isEntrySo_108 rfl
theorem r_X3_isEntrySo_111 (E : ax_EN G l) : ax_Snd G l ax_Ym M_X3_isEntrySo 111 (S_push (.int (1)) 112) := k_iconst dX3_isEntrySo_111 rfl
theorem r_X3_isEntrySo_112 (E : ax_EN G l) : ax_Snd G l ax_Ym M_X3_isEntrySo 112 (S_goto 116) := k_goto dX3_isEntrySo_112 rfl
theorem r_X3_isEntrySo_115 (E : ax_EN G l) : ax_Snd G l ax_Ym M_X3_isEntrySo 115 (S_push (.int (0)) 116) := k_iconst dX3_isEntrySo_115 rfl
theorem r_X3_isEntrySo_116 (E : ax_EN G l) : ax_Snd G l ax_Ym M_X3_isEntrySo 116 (S_if2 (fun x y => decide (¬ x = y)) 123 119) := k_icmp_ne dX3_isEntrySo_116 rfl
theorem r_X3_isEntrySo_119 (E : ax_EN G l) : ax_Snd G l ax_Ym M_X3_isEntrySo 119 (S_push (.int (1)) 120) := k_iconst dX3_isEntrySo_119 rfl
theorem r_X3_isEntrySo_120 (E : ax_EN G l) : ax_Snd G l ax_Ym M_X3_isEntrySo 120 (S_goto 124) := k_goto dX3_isEntrySo_120 rfl
theorem r_X3_isEntrySo_123 (E : ax_EN G l) : ax_Snd G l ax_Ym M_X3_isEntrySo 123 (S_push (.int (0)) 124) := k_iconst dX3_isEntrySo_123 rfl
theorem r_X3_isEntrySo_124 (E : ax_EN G l) : ax_Snd G l ax_Ym M_X3_isEntrySo 124 (S_istore 5 126) := k_istore dX3_isEntrySo_124 (Nat.le_of_ble_eq_true rfl)
theorem r_X3_isEntrySo_126 (E : ax_EN G l) : ax_Snd G l ax_Ym M_X3_isEntrySo 126 (S_iload 5 128) := k_iload dX3_isEntrySo_126
theorem r_X3_isEntrySo_128 (E : ax_EN G l) : ax_Snd G l ax_Ym M_X3_isEntrySo 128 (S_if1 (fun x => decide (x = 0)) 187 131) := k_if_eq dX3_isEntrySo_128 rfl
theorem r_X3_isEntrySo_131 (E : ax_EN G l) : ax_Snd G l ax_Ym M_X3_isEntrySo 131 (S_iload 3 132) := k_iload_n dX3_isEntrySo_131 rfl
theorem r_X3_isEntrySo_132 (E : ax_EN G l) : ax_Snd G l ax_Ym M_X3_isEntrySo 132 (S_if1 (fun x => decide (x = 0)) 146 135) := k_if_eq dX3_isEntrySo_132 rfl
theorem r_X3_isEntrySo_135 (E : ax_EN G l) : ax_Snd G l ax_Ym M_X3_isEntrySo 135 (S_iload 3 136) := k_iload_n dX3_isEntrySo_135 rfl
theorem r_X3_isEntrySo_136 (E : ax_EN G l) : ax_Snd G l ax_Ym M_X3_isEntrySo 136 (S_push (.int (8)) 138) := k_bipush dX3_isEntrySo_136 rfl
theorem r_X3_isEntrySo_138 (E : ax_EN G l) : ax_Snd G l ax_Ym M_X3_isEntrySo 138 (S_push (.int (31)) 140) := k_bipush dX3_isEntrySo_138 rfl
theorem r_X3_isEntrySo_140 (E : ax_EN G l) : ax_Snd G l ax_Ym M_X3_isEntrySo 140 (S_is 376 3 143 hd_0) := k_is (en_F E) (ax_ok0 E rfl) ((ev_s y_X3_in q2992 q2993 q126 q2994 nm_X3_in (Nat.le_of_ble_eq_true rfl) dX3_isEntrySo_140) : ax_EvS G l ax_Ym M_X3_isEntrySo 140 376 3 3)
theorem r_X3_isEntrySo_143 (E : ax_EN G l) : ax_Snd G l ax_Ym M_X3_isEntrySo 143 (S_if1 (fun x => decide (x = 0)) 187 146) := k_if_eq dX3_isEntrySo_143 rfl
theorem r_X3_isEntrySo_146 (E : ax_EN G l) : ax_Snd G l ax_Ym M_X3_isEntrySo 146 (S_iload 4 148) := k_iload dX3_isEntrySo_146
theorem r_X3_isEntrySo_148 (E : ax_EN G l) : ax_Snd G l ax_Ym M_X3_isEntrySo 148 (S_if1 (fun x => decide (x = 0)) 163 151) := k_if_eq dX3_isEntrySo_148 rfl
theorem r_X3_isEntrySo_151 (E : ax_EN G l) : ax_Snd G l ax_Ym M_X3_isEntrySo 151 (S_iload 4 153) := k_iload dX3_isEntrySo_151
theorem r_X3_isEntrySo_153 (E : ax_EN G l) : ax_Snd G l ax_Ym M_X3_isEntrySo 153 (S_push (.int (8)) 155) := k_bipush dX3_isEntrySo_153 rfl
theorem r_X3_isEntrySo_155 (E : ax_EN G l) : ax_Snd G l ax_Ym M_X3_isEntrySo 155 (S_push (.int (31)) 157) := k_bipush dX3_isEntrySo_155 rfl
theorem r_X3_isEntrySo_157 (E : ax_EN G l) : ax_Snd G l ax_Ym M_X3_isEntrySo 157 (S_is 376 3 160 hd_0) := k_is (en_F E) (ax_ok0 E rfl) ((ev_s y_X3_in q2992 q2993 q126 q2994 nm_X3_in (Nat.le_of_ble_eq_true rfl) dX3_isEntrySo_157) : ax_EvS G l ax_Ym M_X3_isEntrySo 157 376 3 3)
theorem r_X3_isEntrySo_160 (E : ax_EN G l) : ax_Snd G l ax_Ym M_X3_isEntrySo 160 (S_if1 (fun x => decide (x = 0)) 187 163) := k_if_eq dX3_isEntrySo_160 rfl
theorem r_X3_isEntrySo_163 (E : ax_EN G l) : ax_Snd G l ax_Ym M_X3_isEntrySo 163 (S_aload 0 164) := k_aload_n dX3_isEntrySo_163 rfl
theorem r_X3_isEntrySo_164 (E : ax_EN G l) : ax_Snd G l ax_Ym M_X3_isEntrySo 164 (S_getf [(38, 50)] 167) := k_getf (en_F E) (ax_fes_cons (fe_402 E) ax_fes_nil) q2803 dX3_isEntrySo_164
theorem r_X3_isEntrySo_167 (E : ax_EN G l) : ax_Snd G l ax_Ym M_X3_isEntrySo 167 (S_aload 0 168) := k_aload_n dX3_isEntrySo_167 rfl
theorem r_X3_isEntrySo_168 (E : ax_EN G l) : ax_Snd G l ax_Ym M_X3_isEntrySo 168 (S_getf [(38, 50)] 171) := k_getf (en_F E) (ax_fes_cons (fe_402 E) ax_fes_nil) q2803 dX3_isEntrySo_168
theorem r_X3_isEntrySo_171 (E : ax_EN G l) : ax_Snd G l ax_Ym M_X3_isEntrySo 171 (S_iload 1 172) := k_iload_n dX3_isEntrySo_171 rfl
theorem r_X3_isEntrySo_172 (E : ax_EN G l) : ax_Snd G l ax_Ym M_X3_isEntrySo 172 (S_is 415 1 175 hd_0) := k_is (en_F E) (ax_ok0 E rfl) ((ev_s y_X3_entry q3147 q3148 q126 q3149 nm_X3_entry (Nat.le_of_ble_eq_true rfl) dX3_isEntrySo_172) : ax_EvS G l ax_Ym M_X3_isEntrySo 172 415 1 3)
theorem r_X3_isEntrySo_175 (E : ax_EN G l) : ax_Snd G l ax_Ym M_X3_isEntrySo 175 (S_iald 0 176) := k_iald (en_F E) dX3_isEntrySo_175
theorem r_X3_isEntrySo_176 (E : ax_EN G l) : ax_Snd G l ax_Ym M_X3_isEntrySo 176 (S_is 435 2 179 hd_0) := k_is (en_F E) (ax_ok0 E rfl) ((ev_s y_X3_find q3225 q3226 q126 q3227 nm_X3_find (Nat.le_of_ble_eq_true rfl) dX3_isEntrySo_176) : ax_EvS G l ax_Ym M_X3_isEntrySo 176 435 2 3)
theorem r_X3_isEntrySo_179 (E : ax_EN G l) : ax_Snd G l ax_Ym M_X3_isEntrySo 179 (S_iload 1 180) := k_iload_n dX3_isEntrySo_179 rfl
theorem r_X3_isEntrySo_180 (E : ax_EN G l) : ax_Snd G l ax_Ym M_X3_isEntrySo 180 (S_if2 (fun x y => decide (¬ x = y)) 187 183) := k_icmp_ne dX3_isEntrySo_180 rfl
theorem r_X3_isEntrySo_183 (E : ax_EN G l) : ax_Snd G l ax_Ym M_X3_isEntrySo 183 (S_push (.int (1)) 184) := k_iconst dX3_isEntrySo_183 rfl
theorem r_X3_isEntrySo_184 (E : ax_EN G l) : ax_Snd G l ax_Ym M_X3_isEntrySo 184 (S_goto 188) := k_goto dX3_isEntrySo_184 rfl
theorem r_X3_isEntrySo_187 (E : ax_EN G l) : ax_Snd G l ax_Ym M_X3_isEntrySo 187 (S_push (.int (0)) 188) := k_iconst dX3_isEntrySo_187 rfl
theorem r_X3_isEntrySo_188 (E : ax_EN G l) : ax_Snd G l ax_Ym M_X3_isEntrySo 188 (S_zret) := k_zret dX3_isEntrySo_188 rfl
theorem mt_X3_isEntrySo (E : ax_EN G l) : ax_mt G l ax_Ym (6, P_X3_isEntrySo) (ax_Ym 482) := ⟨M_X3_isEntrySo, yX3_isEntrySo, ⟨rfl, by decide +kernel, rfl, (fun h => by cases h), Or.inl ⟨rfl, rfl⟩⟩, fun pc => (ax_sn_node (ax_sn_node (ax_sn_node (ax_sn_node (ax_sn_node (ax_sn_node (ax_sn_node (ax_sn_leaf (r_X3_isEntrySo_188 E)) (ax_sn_leaf (r_X3_isEntrySo_187 E))) (ax_sn_node (ax_sn_leaf (r_X3_isEntrySo_184 E)) (ax_sn_leaf (r_X3_isEntrySo_183 E)))) (ax_sn_node (ax_sn_node (ax_sn_leaf (r_X3_isEntrySo_180 E)) (ax_sn_leaf (r_X3_isEntrySo_179 E))) (ax_sn_leaf (r_X3_isEntrySo_176 E)))) (ax_sn_node (ax_sn_node (ax_sn_node (ax_sn_leaf (r_X3_isEntrySo_175 E)) (ax_sn_leaf (r_X3_isEntrySo_172 E))) (ax_sn_leaf (r_X3_isEntrySo_171 E))) (ax_sn_node (ax_sn_node (ax_sn_leaf (r_X3_isEntrySo_168 E)) (ax_sn_leaf (r_X3_isEntrySo_167 E))) (ax_sn_leaf (r_X3_isEntrySo_164 E))))) (ax_sn_node (ax_sn_node (ax_sn_node (ax_sn_node (ax_sn_leaf (r_X3_isEntrySo_163 E)) (ax_sn_leaf (r_X3_isEntrySo_160 E))) (ax_sn_leaf (r_X3_isEntrySo_157 E))) (ax_sn_node (ax_sn_node (ax_sn_leaf (r_X3_isEntrySo_155 E)) (ax_sn_leaf (r_X3_isEntrySo_153 E))) (ax_sn_leaf (r_X3_isEntrySo_151 E)))) (ax_sn_node (ax_sn_node (ax_sn_node (ax_sn_leaf (r_X3_isEntrySo_148 E)) (ax_sn_leaf (r_X3_isEntrySo_146 E))) (ax_sn_leaf (r_X3_isEntrySo_143 E))) (ax_sn_node (ax_sn_node (ax_sn_leaf (r_X3_isEntrySo_140 E)) (ax_sn_leaf (r_X3_isEntrySo_138 E))) (ax_sn_leaf (r_X3_isEntrySo_136 E)))))) (ax_sn_node (ax_sn_node (ax_sn_node (ax_sn_node (ax_sn_node (ax_sn_leaf (r_X3_isEntrySo_135 E)) (ax_sn_leaf (r_X3_isEntrySo_132 E))) (ax_sn_node (ax_sn_leaf (r_X3_isEntrySo_131 E)) (ax_sn_leaf (r_X3_isEntrySo_128 E)))) (ax_sn_node (ax_sn_node (ax_sn_leaf (r_X3_isEntrySo_126 E)) (ax_sn_leaf (r_X3_isEntrySo_124 E))) (ax_sn_leaf (r_X3_isEntrySo_123 E)))) (ax_sn_node (ax_sn_node (ax_sn_node (ax_sn_leaf (r_X3_isEntrySo_120 E)) (ax_sn_leaf (r_X3_isEntrySo_119 E))) (ax_sn_leaf (r_X3_isEntrySo_116 E))) (ax_sn_node (ax_sn_node (ax_sn_leaf (r_X3_isEntrySo_115 E)) (ax_sn_leaf (r_X3_isEntrySo_112 E))) (ax_sn_leaf (r_X3_isEntrySo_111 E))))) (ax_sn_node (ax_sn_node (ax_sn_node (ax_sn_node (ax_sn_leaf (r_X3_isEntrySo_108 E)) (ax_sn_leaf (r_X3_isEntrySo_106 E))) (ax_sn_leaf (r_X3_isEntrySo_105 E))) (ax_sn_node (ax_sn_node (ax_sn_leaf (r_X3_isEntrySo_104 E)) (ax_sn_leaf (r_X3_isEntrySo_101 E))) (ax_sn_leaf (r_X3_isEntrySo_100 E)))) (ax_sn_node (ax_sn_node (ax_sn_node (ax_sn_leaf (r_X3_isEntrySo_97 E)) (ax_sn_leaf (r_X3_isEntrySo_95 E))) (ax_sn_leaf (r_X3_isEntrySo_92 E))) (ax_sn_node (ax_sn_node (ax_sn_leaf (r_X3_isEntrySo_91 E)) (ax_sn_leaf (r_X3_isEntrySo_88 E))) (ax_sn_leaf (r_X3_isEntrySo_87 E))))))) (ax_sn_node (ax_sn_node (ax_sn_node (ax_sn_node (ax_sn_node (ax_sn_node (ax_sn_leaf (r_X3_isEntrySo_84 E)) (ax_sn_leaf (r_X3_isEntrySo_83 E))) (ax_sn_node (ax_sn_leaf (r_X3_isEntrySo_82 E)) (ax_sn_leaf (r_X3_isEntrySo_79 E)))) (ax_sn_node (ax_sn_node (ax_sn_leaf (r_X3_isEntrySo_78 E)) (ax_sn_leaf (r_X3_isEntrySo_75 E))) (ax_sn_leaf (r_X3_isEntrySo_74 E)))) (ax_sn_node (ax_sn_node (ax_sn_node (ax_sn_leaf (r_X3_isEntrySo_71 E)) (ax_sn_leaf (r_X3_isEntrySo_69 E))) (ax_sn_leaf (r_X3_isEntrySo_68 E))) (ax_sn_node (ax_sn_node (ax_sn_leaf (r_X3_isEntrySo_67 E)) (ax_sn_leaf (r_X3_isEntrySo_66 E))) (ax_sn_leaf (r_X3_isEntrySo_63 E))))) (ax_sn_node (ax_sn_node (ax_sn_node (ax_sn_node (ax_sn_leaf (r_X3_isEntrySo_62 E)) (ax_sn_leaf (r_X3_isEntrySo_59 E))) (ax_sn_leaf (r_X3_isEntrySo_57 E))) (ax_sn_node (ax_sn_node (ax_sn_leaf (r_X3_isEntrySo_54 E)) (ax_sn_leaf (r_X3_isEntrySo_53 E))) (ax_sn_leaf (r_X3_isEntrySo_50 E)))) (ax_sn_node (ax_sn_node (ax_sn_node (ax_sn_leaf (r_X3_isEntrySo_49 E)) (ax_sn_leaf (r_X3_isEntrySo_46 E))) (ax_sn_leaf (r_X3_isEntrySo_45 E))) (ax_sn_node (ax_sn_node (ax_sn_leaf (r_X3_isEntrySo_42 E)) (ax_sn_leaf (r_X3_isEntrySo_41 E))) (ax_sn_leaf (r_X3_isEntrySo_38 E)))))) (ax_sn_node (ax_sn_node (ax_sn_node (ax_sn_node (ax_sn_node (ax_sn_leaf (r_X3_isEntrySo_37 E)) (ax_sn_leaf (r_X3_isEntrySo_35 E))) (ax_sn_node (ax_sn_leaf (r_X3_isEntrySo_34 E)) (ax_sn_leaf (r_X3_isEntrySo_33 E)))) (ax_sn_node (ax_sn_node (ax_sn_leaf (r_X3_isEntrySo_32 E)) (ax_sn_leaf (r_X3_isEntrySo_29 E))) (ax_sn_leaf (r_X3_isEntrySo_28 E)))) (ax_sn_node (ax_sn_node (ax_sn_node (ax_sn_leaf (r_X3_isEntrySo_25 E)) (ax_sn_leaf (r_X3_isEntrySo_24 E))) (ax_sn_leaf (r_X3_isEntrySo_23 E))) (ax_sn_node (ax_sn_node (ax_sn_leaf (r_X3_isEntrySo_22 E)) (ax_sn_leaf (r_X3_isEntrySo_21 E))) (ax_sn_leaf (r_X3_isEntrySo_20 E))))) (ax_sn_node (ax_sn_node (ax_sn_node (ax_sn_node (ax_sn_leaf (r_X3_isEntrySo_17 E)) (ax_sn_leaf (r_X3_isEntrySo_16 E))) (ax_sn_leaf (r_X3_isEntrySo_13 E))) (ax_sn_node (ax_sn_node (ax_sn_leaf (r_X3_isEntrySo_12 E)) (ax_sn_leaf (r_X3_isEntrySo_11 E))) (ax_sn_leaf (r_X3_isEntrySo_10 E)))) (ax_sn_node (ax_sn_node (ax_sn_node (ax_sn_leaf (r_X3_isEntrySo_9 E)) (ax_sn_leaf (r_X3_isEntrySo_8 E))) (ax_sn_leaf (r_X3_isEntrySo_5 E))) (ax_sn_node (ax_sn_node (ax_sn_leaf (r_X3_isEntrySo_4 E)) (ax_sn_leaf (r_X3_isEntrySo_1 E))) (ax_sn_leaf (r_X3_isEntrySo_0 E))))))))⟩
theorem r_X3_testKey_0 (E : ax_EN G l) : ax_Snd G l ax_Ym M_X3_testKey 0 (S_aload 0 1) := k_aload_n dX3_testKey_0 rfl
theorem r_X3_testKey_1 (E : ax_EN G l) : ax_Snd G l ax_Ym M_X3_testKey 1 (S_iload 1 2) := k_iload_n dX3_testKey_1 rfl
theorem r_X3_testKey_2 (E : ax_EN G l) : ax_Snd G l ax_Ym M_X3_testKey 2 (S_push (.int (0)) 3) := k_iconst dX3_testKey_2 rfl
theorem r_X3_testKey_3 (E : ax_EN G l) : ax_Snd G l ax_Ym M_X3_testKey 3 (S_push (.int (65535)) 5) := k_ldc q3014 dX3_testKey_3
theorem r_X3_testKey_5 (E : ax_EN G l) : ax_Snd G l ax_Ym M_X3_testKey 5 (S_is 376 3 8 hd_0) := k_is (en_F E) (ax_ok0 E rfl) ((ev_s y_X3_in q2992 q2993 q126 q2994 nm_X3_in (Nat.le_of_ble_eq_true rfl) dX3_testKey_5) : ax_EvS G l ax_Ym M_X3_testKey 5 376 3 3)
theorem r_X3_testKey_8 (E : ax_EN G l) : ax_Snd G l ax_Ym M_X3_testKey 8 (S_if1 (fun x => decide (¬ x = 0)) 15 11) := k_if_ne dX3_testKey_8 rfl
theorem r_X3_testKey_11 (E : ax_EN G l) : ax_Snd G l ax_Ym M_X3_testKey 11 (S_push (.int (1)) 12) := k_iconst dX3_testKey_11 rfl
theorem r_X3_testKey_12 (E : ax_EN G l) : ax_Snd G l ax_Ym M_X3_testKey 12 (S_goto 29) := k_goto dX3_testKey_12 rfl
theorem r_X3_testKey_15 (E : ax_EN G l) : ax_Snd G l ax_Ym M_X3_testKey 15 (S_aload 0 16) := k_aload_n dX3_testKey_15 rfl
theorem r_X3_testKey_16 (E : ax_EN G l) : ax_Snd G l ax_Ym M_X3_testKey 16 (S_getf [(38, 58)] 19) := k_getf (en_F E) (ax_fes_cons (fe_498 E) ax_fes_nil) q2811 dX3_testKey_16
theorem r_X3_testKey_19 (E : ax_EN G l) : ax_Snd G l ax_Ym M_X3_testKey 19 (S_push (.int (6)) 21) := k_bipush dX3_testKey_19 rfl
theorem r_X3_testKey_21 (E : ax_EN G l) : ax_Snd G l ax_Ym M_X3_testKey 21 (S_if2 (fun x y => decide (¬ x = y)) 28 24) := k_icmp_ne dX3_testKey_21 rfl
theorem r_X3_testKey_24 (E : ax_EN G l) : ax_Snd G l ax_Ym M_X3_testKey 24 (S_push (.int (2)) 25) := k_iconst dX3_testKey_24 rfl
theorem r_X3_testKey_25 (E : ax_EN G l) : ax_Snd G l ax_Ym M_X3_testKey 25 (S_goto 29) := k_goto dX3_testKey_25 rfl
theorem r_X3_testKey_28 (E : ax_EN G l) : ax_Snd G l ax_Ym M_X3_testKey 28 (S_push (.int (0)) 29) := k_iconst dX3_testKey_28 rfl
theorem r_X3_testKey_29 (E : ax_EN G l) : ax_Snd G l ax_Ym M_X3_testKey 29 (S_iv [(38, 378)] 1 32 hd_0) := k_iv (en_F E) (ax_ok0 E rfl) (ax_Evs_cons ((ev_v (en_c E (k := 38) rfl) rfl y_X3_holds q2999 q3001 qs61 q126 q3002 nm_X3_holds (Nat.le_of_ble_eq_true rfl) dX3_testKey_29) : ax_EvV G l ax_Ym M_X3_testKey 29 1 3 38 378) ax_Evs_nil)
theorem r_X3_testKey_32 (E : ax_EN G l) : ax_Snd G l ax_Ym M_X3_testKey 32 (S_if1 (fun x => decide (¬ x = 0)) 37 35) := k_if_ne dX3_testKey_32 rfl
theorem r_X3_testKey_35 (E : ax_EN G l) : ax_Snd G l ax_Ym M_X3_testKey 35 (S_push (.int (0)) 36) := k_iconst dX3_testKey_35 rfl
theorem r_X3_testKey_36 (E : ax_EN G l) : ax_Snd G l ax_Ym M_X3_testKey 36 (S_iret) := k_iret dX3_testKey_36 rfl
theorem r_X3_testKey_37 (E : ax_EN G l) : ax_Snd G l ax_Ym M_X3_testKey 37 (S_aload 0 38) := k_aload_n dX3_testKey_37 rfl
theorem r_X3_testKey_38 (E : ax_EN G l) : ax_Snd G l ax_Ym M_X3_testKey 38 (S_getf [(38, 56)] 41) := k_getf (en_F E) (ax_fes_cons (fe_410 E) ax_fes_nil) q2809 dX3_testKey_38
theorem r_X3_testKey_41 (E : ax_EN G l) : ax_Snd G l ax_Ym M_X3_testKey 41 (S_aload 0 42) := k_aload_n dX3_testKey_41 rfl
theorem r_X3_testKey_42 (E : ax_EN G l) : ax_Snd G l ax_Ym M_X3_testKey 42 (S_getf [(38, 58)] 45) := k_getf (en_F E) (ax_fes_cons (fe_498 E) ax_fes_nil) q2811 dX3_testKey_42
theorem r_X3_testKey_45 (E : ax_EN G l) : ax_Snd G l ax_Ym M_X3_testKey 45 (S_iload 1 46) := k_iload_n dX3_testKey_45 rfl
theorem r_X3_testKey_46 (E : ax_EN G l) : ax_Snd G l ax_Ym M_X3_testKey 46 (S_iast 0 (fun x => x) 47) := k_iast (en_F E) dX3_testKey_46
theorem r_X3_testKey_47 (E : ax_EN G l) : ax_Snd G l ax_Ym M_X3_testKey 47 (S_aload 0 48) := k_aload_n dX3_testKey_47 rfl
theorem r_X3_testKey_48 (E : ax_EN G l) : ax_Snd G l ax_Ym M_X3_testKey 48 (S_dup 49) := k_dup dX3_testKey_48
theorem r_X3_testKey_49 (E : ax_EN G l) : ax_Snd G l ax_Ym M_X3_testKey 49 (S_getf [(38, 58)] 52) := k_getf (en_F E) (ax_fes_cons (fe_498 E) ax_fes_nil) q2811 dX3_testKey_49
theorem r_X3_testKey_52 (E : ax_EN G l) : ax_Snd G l ax_Ym M_X3_testKey 52 (S_push (.int (1)) 53) := k_iconst dX3_testKey_52 rfl
theorem r_X3_testKey_53 (E : ax_EN G l) : ax_Snd G l ax_Ym M_X3_testKey 53 (S_i2 (fun x y => x + y) 54) := k_iadd dX3_testKey_53
theorem r_X3_testKey_54 (E : ax_EN G l) : ax_Snd G l ax_Ym M_X3_testKey 54 (S_putf [(38, 58)] (.int) 57) := k_putf (en_F E) (en_P E) (ax_fes_cons (fe_498 E) ax_fes_nil) (ax_fps_cons (fp_499 E) ax_fps_nil) q2811 dX3_testKey_54
theorem r_X3_testKey_57 (E : ax_EN G l) : ax_Snd G l ax_Ym M_X3_testKey 57 (S_aload 0 58) := k_aload_n dX3_testKey_57 rfl
theorem r_X3_testKey_58 (E : ax_EN G l) : ax_Snd G l ax_Ym M_X3_testKey 58 (S_getf [(38, 58)] 61) := k_getf (en_F E) (ax_fes_cons (fe_498 E) ax_fes_nil) q2811 dX3_testKey_58
theorem r_X3_testKey_61 (E : ax_EN G l) : ax_Snd G l ax_Ym M_X3_testKey 61 (S_iret) := k_iret dX3_testKey_61 rfl
theorem mt_X3_testKey (E : ax_EN G l) : ax_mt G l ax_Ym (2, P_X3_testKey) (ax_Ym 483) := ⟨M_X3_testKey, yX3_testKey, ⟨rfl, by decide +kernel, rfl, (fun h => by cases h), Or.inl ⟨rfl, rfl⟩⟩, fun pc => (ax_sn_node (ax_sn_node (ax_sn_node (ax_sn_node (ax_sn_node (ax_sn_node (ax_sn_leaf (r_X3_testKey_61 E)) (ax_sn_leaf (r_X3_testKey_58 E))) (ax_sn_leaf (r_X3_testKey_57 E))) (ax_sn_node (ax_sn_leaf (r_X3_testKey_54 E)) (ax_sn_leaf (r_X3_testKey_53 E)))) (ax_sn_node (ax_sn_node (ax_sn_leaf (r_X3_testKey_52 E)) (ax_sn_leaf (r_X3_testKey_49 E))) (ax_sn_node (ax_sn_leaf (r_X3_testKey_48 E)) (ax_sn_leaf (r_X3_testKey_47 E))))) (ax_sn_node (ax_sn_node (ax_sn_node (ax_sn_leaf (r_X3_testKey_46 E)) (ax_sn_leaf (r_X3_testKey_45 E))) (ax_sn_node (ax_sn_leaf (r_X3_testKey_42 E)) (ax_sn_leaf (r_X3_testKey_41 E)))) (ax_sn_node (ax_sn_node (ax_sn_leaf (r_X3_testKey_38 E)) (ax_sn_leaf (r_X3_testKey_37 E))) (ax_sn_node (ax_sn_leaf (r_X3_testKey_36 E)) (ax_sn_leaf (r_X3_testKey_35 E)))))) (ax_sn_node (ax_sn_node (ax_sn_node (ax_sn_node (ax_sn_node (ax_sn_leaf (r_X3_testKey_32 E)) (ax_sn_leaf (r_X3_testKey_29 E))) (ax_sn_leaf (r_X3_testKey_28 E))) (ax_sn_node (ax_sn_leaf (r_X3_testKey_25 E)) (ax_sn_leaf (r_X3_testKey_24 E)))) (ax_sn_node (ax_sn_node (ax_sn_leaf (r_X3_testKey_21 E)) (ax_sn_leaf (r_X3_testKey_19 E))) (ax_sn_node (ax_sn_leaf (r_X3_testKey_16 E)) (ax_sn_leaf (r_X3_testKey_15 E))))) (ax_sn_node (ax_sn_node (ax_sn_node (ax_sn_leaf (r_X3_testKey_12 E)) (ax_sn_leaf (r_X3_testKey_11 E))) (ax_sn_node (ax_sn_leaf (r_X3_testKey_8 E)) (ax_sn_leaf (r_X3_testKey_5 E)))) (ax_sn_node (ax_sn_node (ax_sn_leaf (r_X3_testKey_3 E)) (ax_sn_leaf (r_X3_testKey_2 E))) (ax_sn_node (ax_sn_leaf (r_X3_testKey_1 E)) (ax_sn_leaf (r_X3_testKey_0 E)))))))⟩
theorem r_X3_testWord_0 (E : ax_EN G l) : ax_Snd G l ax_Ym M_X3_testWord 0 (S_aload 0 1) := k_aload_n dX3_testWord_0 rfl
theorem r_X3_testWord_1 (E : ax_EN G l) : ax_Snd G l ax_Ym M_X3_testWord 1 (S_iload 1 2) := k_iload_n dX3_testWord_1 rfl
theorem r_X3_testWord_2 (E : ax_EN G l) : ax_Snd G l ax_Ym M_X3_testWord 2 (S_push (.int (0)) 3) := k_iconst dX3_testWord_2 rfl
theorem r_X3_testWord_3 (E : ax_EN G l) : ax_Snd G l ax_Ym M_X3_testWord 3 (S_push (.int (65535)) 5) := k_ldc q3014 dX3_testWord_3
theorem r_X3_testWord_5 (E : ax_EN G l) : ax_Snd G l ax_Ym M_X3_testWord 5 (S_is 376 3 8 hd_0) := k_is (en_F E) (ax_ok0 E rfl) ((ev_s y_X3_in q2992 q2993 q126 q2994 nm_X3_in (Nat.le_of_ble_eq_true rfl) dX3_testWord_5) : ax_EvS G l ax_Ym M_X3_testWord 5 376 3 3)
theorem r_X3_testWord_8 (E : ax_EN G l) : ax_Snd G l ax_Ym M_X3_testWord 8 (S_if1 (fun x => decide (¬ x = 0)) 15 11) := k_if_ne dX3_testWord_8 rfl
theorem r_X3_testWord_11 (E : ax_EN G l) : ax_Snd G l ax_Ym M_X3_testWord 11 (S_push (.int (1)) 12) := k_iconst dX3_testWord_11 rfl
theorem r_X3_testWord_12 (E : ax_EN G l) : ax_Snd G l ax_Ym M_X3_testWord 12 (S_goto 29) := k_goto dX3_testWord_12 rfl
theorem r_X3_testWord_15 (E : ax_EN G l) : ax_Snd G l ax_Ym M_X3_testWord 15 (S_aload 0 16) := k_aload_n dX3_testWord_15 rfl
theorem r_X3_testWord_16 (E : ax_EN G l) : ax_Snd G l ax_Ym M_X3_testWord 16 (S_getf [(38, 59)] 19) := k_getf (en_F E) (ax_fes_cons (fe_500 E) ax_fes_nil) q2812 dX3_testWord_16
theorem r_X3_testWord_19 (E : ax_EN G l) : ax_Snd G l ax_Ym M_X3_testWord 19 (S_push (.int (6)) 21) := k_bipush dX3_testWord_19 rfl
theorem r_X3_testWord_21 (E : ax_EN G l) : ax_Snd G l ax_Ym M_X3_testWord 21 (S_if2 (fun x y => decide (¬ x = y)) 28 24) := k_icmp_ne dX3_testWord_21 rfl
theorem r_X3_testWord_24 (E : ax_EN G l) : ax_Snd G l ax_Ym M_X3_testWord 24 (S_push (.int (2)) 25) := k_iconst dX3_testWord_24 rfl
theorem r_X3_testWord_25 (E : ax_EN G l) : ax_Snd G l ax_Ym M_X3_testWord 25 (S_goto 29) := k_goto dX3_testWord_25 rfl
theorem r_X3_testWord_28 (E : ax_EN G l) : ax_Snd G l ax_Ym M_X3_testWord 28 (S_push (.int (0)) 29) := k_iconst dX3_testWord_28 rfl
theorem r_X3_testWord_29 (E : ax_EN G l) : ax_Snd G l ax_Ym M_X3_testWord 29 (S_iv [(38, 378)] 1 32 hd_0) := k_iv (en_F E) (ax_ok0 E rfl) (ax_Evs_cons ((ev_v (en_c E (k := 38) rfl) rfl y_X3_holds q2999 q3001 qs61 q126 q3002 nm_X3_holds (Nat.le_of_ble_eq_true rfl) dX3_testWord_29) : ax_EvV G l ax_Ym M_X3_testWord 29 1 3 38 378) ax_Evs_nil)
theorem r_X3_testWord_32 (E : ax_EN G l) : ax_Snd G l ax_Ym M_X3_testWord 32 (S_if1 (fun x => decide (¬ x = 0)) 37 35) := k_if_ne dX3_testWord_32 rfl
theorem r_X3_testWord_35 (E : ax_EN G l) : ax_Snd G l ax_Ym M_X3_testWord 35 (S_push (.int (0)) 36) := k_iconst dX3_testWord_35 rfl
theorem r_X3_testWord_36 (E : ax_EN G l) : ax_Snd G l ax_Ym M_X3_testWord 36 (S_iret) := k_iret dX3_testWord_36 rfl
theorem r_X3_testWord_37 (E : ax_EN G l) : ax_Snd G l ax_Ym M_X3_testWord 37 (S_aload 0 38) := k_aload_n dX3_testWord_37 rfl
theorem r_X3_testWord_38 (E : ax_EN G l) : ax_Snd G l ax_Ym M_X3_testWord 38 (S_getf [(38, 57)] 41) := k_getf (en_F E) (ax_fes_cons (fe_412 E) ax_fes_nil) q2810 dX3_testWord_38
theorem r_X3_testWord_41 (E : ax_EN G l) : ax_Snd G l ax_Ym M_X3_testWord 41 (S_aload 0 42) := k_aload_n dX3_testWord_41 rfl
theorem r_X3_testWord_42 (E : ax_EN G l) : ax_Snd G l ax_Ym M_X3_testWord 42 (S_getf [(38, 59)] 45) := k_getf (en_F E) (ax_fes_cons (fe_500 E) ax_fes_nil) q2812 dX3_testWord_42
theorem r_X3_testWord_45 (E : ax_EN G l) : ax_Snd G l ax_Ym M_X3_testWord 45 (S_iload 1 46) := k_iload_n dX3_testWord_45 rfl
theorem r_X3_testWord_46 (E : ax_EN G l) : ax_Snd G l ax_Ym M_X3_testWord 46 (S_iast 0 (fun x => x) 47) := k_iast (en_F E) dX3_testWord_46
theorem r_X3_testWord_47 (E : ax_EN G l) : ax_Snd G l ax_Ym M_X3_testWord 47 (S_aload 0 48) := k_aload_n dX3_testWord_47 rfl
theorem r_X3_testWord_48 (E : ax_EN G l) : ax_Snd G l ax_Ym M_X3_testWord 48 (S_dup 49) := k_dup dX3_testWord_48
theorem r_X3_testWord_49 (E : ax_EN G l) : ax_Snd G l ax_Ym M_X3_testWord 49 (S_getf [(38, 59)] 52) := k_getf (en_F E) (ax_fes_cons (fe_500 E) ax_fes_nil) q2812 dX3_testWord_49
theorem r_X3_testWord_52 (E : ax_EN G l) : ax_Snd G l ax_Ym M_X3_testWord 52 (S_push (.int (1)) 53) := k_iconst dX3_testWord_52 rfl
theorem r_X3_testWord_53 (E : ax_EN G l) : ax_Snd G l ax_Ym M_X3_testWord 53 (S_i2 (fun x y => x + y) 54) := k_iadd dX3_testWord_53
theorem r_X3_testWord_54 (E : ax_EN G l) : ax_Snd G l ax_Ym M_X3_testWord 54 (S_putf [(38, 59)] (.int) 57) := k_putf (en_F E) (en_P E) (ax_fes_cons (fe_500 E) ax_fes_nil) (ax_fps_cons (fp_501 E) ax_fps_nil) q2812 dX3_testWord_54
theorem r_X3_testWord_57 (E : ax_EN G l) : ax_Snd G l ax_Ym M_X3_testWord 57 (S_aload 0 58) := k_aload_n dX3_testWord_57 rfl
theorem r_X3_testWord_58 (E : ax_EN G l) : ax_Snd G l ax_Ym M_X3_testWord 58 (S_getf [(38, 59)] 61) := k_getf (en_F E) (ax_fes_cons (fe_500 E) ax_fes_nil) q2812 dX3_testWord_58
theorem r_X3_testWord_61 (E : ax_EN G l) : ax_Snd G l ax_Ym M_X3_testWord 61 (S_iret) := k_iret dX3_testWord_61 rfl
theorem mt_X3_testWord (E : ax_EN G l) : ax_mt G l ax_Ym (2, P_X3_testWord) (ax_Ym 484) := ⟨M_X3_testWord, yX3_testWord, ⟨rfl, by decide +kernel, rfl, (fun h => by cases h), Or.inl ⟨rfl, rfl⟩⟩, fun pc => (ax_sn_node (ax_sn_node (ax_sn_node (ax_sn_node (ax_sn_node (ax_sn_node (ax_sn_leaf (r_X3_testWord_61 E)) (ax_sn_leaf (r_X3_testWord_58 E))) (ax_sn_leaf (r_X3_testWord_57 E))) (ax_sn_node (ax_sn_leaf (r_X3_testWord_54 E)) (ax_sn_leaf (r_X3_testWord_53 E)))) (ax_sn_node (ax_sn_node (ax_sn_leaf (r_X3_testWord_52 E)) (ax_sn_leaf (r_X3_testWord_49 E))) (ax_sn_node (ax_sn_leaf (r_X3_testWord_48 E)) (ax_sn_leaf (r_X3_testWord_47 E))))) (ax_sn_node (ax_sn_node (ax_sn_node (ax_sn_leaf (r_X3_testWord_46 E)) (ax_sn_leaf (r_X3_testWord_45 E))) (ax_sn_node (ax_sn_leaf (r_X3_testWord_42 E)) (ax_sn_leaf (r_X3_testWord_41 E)))) (ax_sn_node (ax_sn_node (ax_sn_leaf (r_X3_testWord_38 E)) (ax_sn_leaf (r_X3_testWord_37 E))) (ax_sn_node (ax_sn_leaf (r_X3_testWord_36 E)) (ax_sn_leaf (r_X3_testWord_35 E)))))) (ax_sn_node (ax_sn_node (ax_sn_node (ax_sn_node (ax_sn_node (ax_sn_leaf (r_X3_testWord_32 E)) (ax_sn_leaf (r_X3_testWord_29 E))) (ax_sn_leaf (r_X3_testWord_28 E))) (ax_sn_node (ax_sn_leaf (r_X3_testWord_25 E)) (ax_sn_leaf (r_X3_testWord_24 E)))) (ax_sn_node (ax_sn_node (ax_sn_leaf (r_X3_testWord_21 E)) (ax_sn_leaf (r_X3_testWord_19 E))) (ax_sn_node (ax_sn_leaf (r_X3_testWord_16 E)) (ax_sn_leaf (r_X3_testWord_15 E))))) (ax_sn_node (ax_sn_node (ax_sn_node (ax_sn_leaf (r_X3_testWord_12 E)) (ax_sn_leaf (r_X3_testWord_11 E))) (ax_sn_node (ax_sn_leaf (r_X3_testWord_8 E)) (ax_sn_leaf (r_X3_testWord_5 E)))) (ax_sn_node (ax_sn_node (ax_sn_leaf (r_X3_testWord_3 E)) (ax_sn_leaf (r_X3_testWord_2 E))) (ax_sn_node (ax_sn_leaf (r_X3_testWord_1 E)) (ax_sn_leaf (r_X3_testWord_0 E)))))))⟩
theorem r_X3_addTest_0 (E : ax_EN G l) : ax_Snd G l ax_Ym M_X3_addTest 0 (S_iload 1 1) := k_iload_n dX3_addTest_0 rfl
theorem r_X3_addTest_1 (E : ax_EN G l) : ax_Snd G l ax_Ym M_X3_addTest 1 (S_push (.int (1)) 2) := k_iconst dX3_addTest_1 rfl
theorem r_X3_addTest_2 (E : ax_EN G l) : ax_Snd G l ax_Ym M_X3_addTest 2 (S_push (.int (500)) 5) := k_sipush dX3_addTest_2 rfl
theorem r_X3_addTest_5 (E : ax_EN G l) : ax_Snd G l ax_Ym M_X3_addTest 5 (S_is 376 3 8 hd_0) := k_is (en_F E) (ax_ok0 E rfl) ((ev_s y_X3_in q2992 q2993 q126 q2994 nm_X3_in (Nat.le_of_ble_eq_true rfl) dX3_addTest_5) : ax_EvS G l ax_Ym M_X3_addTest 5 376 3 3)
theorem r_X3_addTest_8 (E : ax_EN G l) : ax_Snd G l ax_Ym M_X3_addTest 8 (S_if1 (fun x => decide (x = 0)) 47 11) := k_if_eq dX3_addTest_8 rfl
theorem r_X3_addTest_11 (E : ax_EN G l) : ax_Snd G l ax_Ym M_X3_addTest 11 (S_iload 2 12) := k_iload_n dX3_addTest_11 rfl
theorem r_X3_addTest_12 (E : ax_EN G l) : ax_Snd G l ax_Ym M_X3_addTest 12 (S_push (.int (0)) 13) := k_iconst dX3_addTest_12 rfl
theorem r_X3_addTest_13 (E : ax_EN G l) : ax_Snd G l ax_Ym M_X3_addTest 13 (S_push (.int (100)) 15) := k_bipush dX3_addTest_13 rfl
theorem r_X3_addTest_15 (E : ax_EN G l) : ax_Snd G l ax_Ym M_X3_addTest 15 (S_is 376 3 18 hd_0) := k_is (en_F E) (ax_ok0 E rfl) ((ev_s y_X3_in q2992 q2993 q126 q2994 nm_X3_in (Nat.le_of_ble_eq_true rfl) dX3_addTest_15) : ax_EvS G l ax_Ym M_X3_addTest 15 376 3 3)
theorem r_X3_addTest_18 (E : ax_EN G l) : ax_Snd G l ax_Ym M_X3_addTest 18 (S_if1 (fun x => decide (x = 0)) 47 21) := k_if_eq dX3_addTest_18 rfl
theorem r_X3_addTest_21 (E : ax_EN G l) : ax_Snd G l ax_Ym M_X3_addTest 21 (S_iload 3 22) := k_iload_n dX3_addTest_21 rfl
theorem r_X3_addTest_22 (E : ax_EN G l) : ax_Snd G l ax_Ym M_X3_addTest 22 (S_push (.int (1)) 23) := k_iconst dX3_addTest_22 rfl
theorem r_X3_addTest_23 (E : ax_EN G l) : ax_Snd G l ax_Ym M_X3_addTest 23 (S_push (.int (20)) 25) := k_bipush dX3_addTest_23 rfl
theorem r_X3_addTest_25 (E : ax_EN G l) : ax_Snd G l ax_Ym M_X3_addTest 25 (S_is 376 3 28 hd_0) := k_is (en_F E) (ax_ok0 E rfl) ((ev_s y_X3_in q2992 q2993 q126 q2994 nm_X3_in (Nat.le_of_ble_eq_true rfl) dX3_addTest_25) : ax_EvS G l ax_Ym M_X3_addTest 25 376 3 3)
theorem r_X3_addTest_28 (E : ax_EN G l) : ax_Snd G l ax_Ym M_X3_addTest 28 (S_if1 (fun x => decide (x = 0)) 47 31) := k_if_eq dX3_addTest_28 rfl
theorem r_X3_addTest_31 (E : ax_EN G l) : ax_Snd G l ax_Ym M_X3_addTest 31 (S_iload 4 33) := k_iload dX3_addTest_31
theorem r_X3_addTest_33 (E : ax_EN G l) : ax_Snd G l ax_Ym M_X3_addTest 33 (S_push (.int (0)) 34) := k_iconst dX3_addTest_33 rfl
theorem r_X3_addTest_34 (E : ax_EN G l) : ax_Snd G l ax_Ym M_X3_addTest 34 (S_push (.int (500)) 37) := k_sipush dX3_addTest_34 rfl
theorem r_X3_addTest_37 (E : ax_EN G l) : ax_Snd G l ax_Ym M_X3_addTest 37 (S_is 376 3 40 hd_0) := k_is (en_F E) (ax_ok0 E rfl) ((ev_s y_X3_in q2992 q2993 q126 q2994 nm_X3_in (Nat.le_of_ble_eq_true rfl) dX3_addTest_37) : ax_EvS G l ax_Ym M_X3_addTest 37 376 3 3)
theorem r_X3_addTest_40 (E : ax_EN G l) : ax_Snd G l ax_Ym M_X3_addTest 40 (S_if1 (fun x => decide (x = 0)) 47 43) := k_if_eq dX3_addTest_40 rfl
theorem r_X3_addTest_43 (E : ax_EN G l) : ax_Snd G l ax_Ym M_X3_addTest 43 (S_push (.int (1)) 44) := k_iconst dX3_addTest_43 rfl
theorem r_X3_addTest_44 (E : ax_EN G l) : ax_Snd G l ax_Ym M_X3_addTest 44 (S_goto 48) := k_goto dX3_addTest_44 rfl
theorem r_X3_addTest_47 (E : ax_EN G l) : ax_Snd G l ax_Ym M_X3_addTest 47 (S_push (.int (0)) 48) := k_iconst dX3_addTest_47 rfl
theorem r_X3_addTest_48 (E : ax_EN G l) : ax_Snd G l ax_Ym M_X3_addTest 48 (S_istore 5 50) := k_istore dX3_addTest_48 (Nat.le_of_ble_eq_true rfl)
theorem r_X3_addTest_50 (E : ax_EN G l) : ax_Snd G l ax_Ym M_X3_addTest 50 (S_aload 0 51) := k_aload_n dX3_addTest_50 rfl
theorem r_X3_addTest_51 (E : ax_EN G l) : ax_Snd G l ax_Ym M_X3_addTest 51 (S_iload 5 53) := k_iload dX3_addTest_51
theorem r_X3_addTest_53 (E : ax_EN G l) : ax_Snd G l ax_Ym M_X3_addTest 53 (S_if1 (fun x => decide (¬ x = 0)) 60 56) := k_if_ne dX3_addTest_53 rfl
theorem r_X3_addTest_56 (E : ax_EN G l) : ax_Snd G l ax_Ym M_X3_addTest 56 (S_push (.int (1)) 57) := k_iconst dX3_addTest_56 rfl
theorem r_X3_addTest_57 (E : ax_EN G l) : ax_Snd G l ax_Ym M_X3_addTest 57 (S_goto 73) := k_goto dX3_addTest_57 rfl
theorem r_X3_addTest_60 (E : ax_EN G l) : ax_Snd G l ax_Ym M_X3_addTest 60 (S_aload 0 61) := k_aload_n dX3_addTest_60 rfl
theorem r_X3_addTest_61 (E : ax_EN G l) : ax_Snd G l ax_Ym M_X3_addTest 61 (S_getf [(38, 60)] 64) := k_getf (en_F E) (ax_fes_cons (fe_502 E) ax_fes_nil) q2813 dX3_addTest_61
theorem r_X3_addTest_64 (E : ax_EN G l) : ax_Snd G l ax_Ym M_X3_addTest 64 (S_push (.int (5)) 65) := k_iconst dX3_addTest_64 rfl
theorem r_X3_addTest_65 (E : ax_EN G l) : ax_Snd G l ax_Ym M_X3_addTest 65 (S_if2 (fun x y => decide (¬ x = y)) 72 68) := k_icmp_ne dX3_addTest_65 rfl
theorem r_X3_addTest_68 (E : ax_EN G l) : ax_Snd G l ax_Ym M_X3_addTest 68 (S_push (.int (2)) 69) := k_iconst dX3_addTest_68 rfl
theorem r_X3_addTest_69 (E : ax_EN G l) : ax_Snd G l ax_Ym M_X3_addTest 69 (S_goto 73) := k_goto dX3_addTest_69 rfl
theorem r_X3_addTest_72 (E : ax_EN G l) : ax_Snd G l ax_Ym M_X3_addTest 72 (S_push (.int (0)) 73) := k_iconst dX3_addTest_72 rfl
theorem r_X3_addTest_73 (E : ax_EN G l) : ax_Snd G l ax_Ym M_X3_addTest 73 (S_iv [(38, 378)] 1 76 hd_0) := k_iv (en_F E) (ax_ok0 E rfl) (ax_Evs_cons ((ev_v (en_c E (k := 38) rfl) rfl y_X3_holds q2999 q3001 qs61 q126 q3002 nm_X3_holds (Nat.le_of_ble_eq_true rfl) dX3_addTest_73) : ax_EvV G l ax_Ym M_X3_addTest 73 1 3 38 378) ax_Evs_nil)
theorem r_X3_addTest_76 (E : ax_EN G l) : ax_Snd G l ax_Ym M_X3_addTest 76 (S_if1 (fun x => decide (¬ x = 0)) 81 79) := k_if_ne dX3_addTest_76 rfl
theorem r_X3_addTest_79 (E : ax_EN G l) : ax_Snd G l ax_Ym M_X3_addTest 79 (S_push (.int (0)) 80) := k_iconst dX3_addTest_79 rfl
theorem r_X3_addTest_80 (E : ax_EN G l) : ax_Snd G l ax_Ym M_X3_addTest 80 (S_iret) := k_iret dX3_addTest_80 rfl
theorem r_X3_addTest_81 (E : ax_EN G l) : ax_Snd G l ax_Ym M_X3_addTest 81 (S_aload 0 82) := k_aload_n dX3_addTest_81 rfl
theorem r_X3_addTest_82 (E : ax_EN G l) : ax_Snd G l ax_Ym M_X3_addTest 82 (S_getf [(38, 65)] 85) := k_getf (en_F E) (ax_fes_cons (fe_422 E) ax_fes_nil) q2818 dX3_addTest_82
theorem r_X3_addTest_85 (E : ax_EN G l) : ax_Snd G l ax_Ym M_X3_addTest 85 (S_aload 0 86) := k_aload_n dX3_addTest_85 rfl
theorem r_X3_addTest_86 (E : ax_EN G l) : ax_Snd G l ax_Ym M_X3_addTest 86 (S_getf [(38, 60)] 89) := k_getf (en_F E) (ax_fes_cons (fe_502 E) ax_fes_nil) q2813 dX3_addTest_86
theorem r_X3_addTest_89 (E : ax_EN G l) : ax_Snd G l ax_Ym M_X3_addTest 89 (S_iload 1 90) := k_iload_n dX3_addTest_89 rfl
theorem r_X3_addTest_90 (E : ax_EN G l) : ax_Snd G l ax_Ym M_X3_addTest 90 (S_iast 0 (fun x => x) 91) := k_iast (en_F E) dX3_addTest_90
theorem r_X3_addTest_91 (E : ax_EN G l) : ax_Snd G l ax_Ym M_X3_addTest 91 (S_aload 0 92) := k_aload_n dX3_addTest_91 rfl
theorem r_X3_addTest_92 (E : ax_EN G l) : ax_Snd G l ax_Ym M_X3_addTest 92 (S_getf [(38, 66)] 95) := k_getf (en_F E) (ax_fes_cons (fe_424 E) ax_fes_nil) q2819 dX3_addTest_92
theorem r_X3_addTest_95 (E : ax_EN G l) : ax_Snd G l ax_Ym M_X3_addTest 95 (S_aload 0 96) := k_aload_n dX3_addTest_95 rfl
theorem r_X3_addTest_96 (E : ax_EN G l) : ax_Snd G l ax_Ym M_X3_addTest 96 (S_getf [(38, 60)] 99) := k_getf (en_F E) (ax_fes_cons (fe_502 E) ax_fes_nil) q2813 dX3_addTest_96
theorem r_X3_addTest_99 (E : ax_EN G l) : ax_Snd G l ax_Ym M_X3_addTest 99 (S_iload 2 100) := k_iload_n dX3_addTest_99 rfl
theorem r_X3_addTest_100 (E : ax_EN G l) : ax_Snd G l ax_Ym M_X3_addTest 100 (S_iast 0 (fun x => x) 101) := k_iast (en_F E) dX3_addTest_100
theorem r_X3_addTest_101 (E : ax_EN G l) : ax_Snd G l ax_Ym M_X3_addTest 101 (S_aload 0 102) := k_aload_n dX3_addTest_101 rfl
theorem r_X3_addTest_102 (E : ax_EN G l) : ax_Snd G l ax_Ym M_X3_addTest 102 (S_getf [(38, 67)] 105) := k_getf (en_F E) (ax_fes_cons (fe_426 E) ax_fes_nil) q2820 dX3_addTest_102
theorem r_X3_addTest_105 (E : ax_EN G l) : ax_Snd G l ax_Ym M_X3_addTest 105 (S_aload 0 106) := k_aload_n dX3_addTest_105 rfl
theorem r_X3_addTest_106 (E : ax_EN G l) : ax_Snd G l ax_Ym M_X3_addTest 106 (S_getf [(38, 60)] 109) := k_getf (en_F E) (ax_fes_cons (fe_502 E) ax_fes_nil) q2813 dX3_addTest_106
theorem r_X3_addTest_109 (E : ax_EN G l) : ax_Snd G l ax_Ym M_X3_addTest 109 (S_iload 3 110) := k_iload_n dX3_addTest_109 rfl
theorem r_X3_addTest_110 (E : ax_EN G l) : ax_Snd G l ax_Ym M_X3_addTest 110 (S_iast 0 (fun x => x) 111) := k_iast (en_F E) dX3_addTest_110
theorem r_X3_addTest_111 (E : ax_EN G l) : ax_Snd G l ax_Ym M_X3_addTest 111 (S_aload 0 112) := k_aload_n dX3_addTest_111 rfl
theorem r_X3_addTest_112 (E : ax_EN G l) : ax_Snd G l ax_Ym M_X3_addTest 112 (S_getf [(38, 68)] 115) := k_getf (en_F E) (ax_fes_cons (fe_428 E) ax_fes_nil) q2821 dX3_addTest_112
theorem r_X3_addTest_115 (E : ax_EN G l) : ax_Snd G l ax_Ym M_X3_addTest 115 (S_aload 0 116) := k_aload_n dX3_addTest_115 rfl
theorem r_X3_addTest_116 (E : ax_EN G l) : ax_Snd G l ax_Ym M_X3_addTest 116 (S_getf [(38, 60)] 119) := k_getf (en_F E) (ax_fes_cons (fe_502 E) ax_fes_nil) q2813 dX3_addTest_116
theorem r_X3_addTest_119 (E : ax_EN G l) : ax_Snd G l ax_Ym M_X3_addTest 119 (S_iload 4 121) := k_iload dX3_addTest_119
theorem r_X3_addTest_121 (E : ax_EN G l) : ax_Snd G l ax_Ym M_X3_addTest 121 (S_iast 0 (fun x => x) 122) := k_iast (en_F E) dX3_addTest_121
theorem r_X3_addTest_122 (E : ax_EN G l) : ax_Snd G l ax_Ym M_X3_addTest 122 (S_aload 0 123) := k_aload_n dX3_addTest_122 rfl
theorem r_X3_addTest_123 (E : ax_EN G l) : ax_Snd G l ax_Ym M_X3_addTest 123 (S_getf [(38, 69)] 126) := k_getf (en_F E) (ax_fes_cons (fe_430 E) ax_fes_nil) q2822 dX3_addTest_123
theorem r_X3_addTest_126 (E : ax_EN G l) : ax_Snd G l ax_Ym M_X3_addTest 126 (S_aload 0 127) := k_aload_n dX3_addTest_126 rfl
theorem r_X3_addTest_127 (E : ax_EN G l) : ax_Snd G l ax_Ym M_X3_addTest 127 (S_getf [(38, 60)] 130) := k_getf (en_F E) (ax_fes_cons (fe_502 E) ax_fes_nil) q2813 dX3_addTest_127
theorem r_X3_addTest_130 (E : ax_EN G l) : ax_Snd G l ax_Ym M_X3_addTest 130 (S_push (.int (-1)) 131) := k_iconst dX3_addTest_130 rfl
theorem r_X3_addTest_131 (E : ax_EN G l) : ax_Snd G l ax_Ym M_X3_addTest 131 (S_iast 0 (fun x => x) 132) := k_iast (en_F E) dX3_addTest_131
theorem r_X3_addTest_132 (E : ax_EN G l) : ax_Snd G l ax_Ym M_X3_addTest 132 (S_aload 0 133) := k_aload_n dX3_addTest_132 rfl
theorem r_X3_addTest_133 (E : ax_EN G l) : ax_Snd G l ax_Ym M_X3_addTest 133 (S_getf [(38, 62)] 136) := k_getf (en_F E) (ax_fes_cons (fe_416 E) ax_fes_nil) q2815 dX3_addTest_133
theorem r_X3_addTest_136 (E : ax_EN G l) : ax_Snd G l ax_Ym M_X3_addTest 136 (S_aload 0 137) := k_aload_n dX3_addTest_136 rfl
theorem r_X3_addTest_137 (E : ax_EN G l) : ax_Snd G l ax_Ym M_X3_addTest 137 (S_getf [(38, 60)] 140) := k_getf (en_F E) (ax_fes_cons (fe_502 E) ax_fes_nil) q2813 dX3_addTest_137
theorem r_X3_addTest_140 (E : ax_EN G l) : ax_Snd G l ax_Ym M_X3_addTest 140 (S_aload 0 141) := k_aload_n dX3_addTest_140 rfl
theorem r_X3_addTest_141 (E : ax_EN G l) : ax_Snd G l ax_Ym M_X3_addTest 141 (S_getf [(38, 58)] 144) := k_getf (en_F E) (ax_fes_cons (fe_498 E) ax_fes_nil) q2811 dX3_addTest_141
theorem r_X3_addTest_144 (E : ax_EN G l) : ax_Snd G l ax_Ym M_X3_addTest 144 (S_iast 0 (fun x => x) 145) := k_iast (en_F E) dX3_addTest_144
theorem r_X3_addTest_145 (E : ax_EN G l) : ax_Snd G l ax_Ym M_X3_addTest 145 (S_aload 0 146) := k_aload_n dX3_addTest_145 rfl
theorem r_X3_addTest_146 (E : ax_EN G l) : ax_Snd G l ax_Ym M_X3_addTest 146 (S_getf [(38, 64)] 149) := k_getf (en_F E) (ax_fes_cons (fe_420 E) ax_fes_nil) q2817 dX3_addTest_146
theorem r_X3_addTest_149 (E : ax_EN G l) : ax_Snd G l ax_Ym M_X3_addTest 149 (S_aload 0 150) := k_aload_n dX3_addTest_149 rfl
theorem r_X3_addTest_150 (E : ax_EN G l) : ax_Snd G l ax_Ym M_X3_addTest 150 (S_getf [(38, 60)] 153) := k_getf (en_F E) (ax_fes_cons (fe_502 E) ax_fes_nil) q2813 dX3_addTest_150
theorem r_X3_addTest_153 (E : ax_EN G l) : ax_Snd G l ax_Ym M_X3_addTest 153 (S_aload 0 154) := k_aload_n dX3_addTest_153 rfl
theorem r_X3_addTest_154 (E : ax_EN G l) : ax_Snd G l ax_Ym M_X3_addTest 154 (S_getf [(38, 59)] 157) := k_getf (en_F E) (ax_fes_cons (fe_500 E) ax_fes_nil) q2812 dX3_addTest_154
theorem r_X3_addTest_157 (E : ax_EN G l) : ax_Snd G l ax_Ym M_X3_addTest 157 (S_iast 0 (fun x => x) 158) := k_iast (en_F E) dX3_addTest_157
theorem r_X3_addTest_158 (E : ax_EN G l) : ax_Snd G l ax_Ym M_X3_addTest 158 (S_push (.int (0)) 159) := k_iconst dX3_addTest_158 rfl
theorem r_X3_addTest_159 (E : ax_EN G l) : ax_Snd G l ax_Ym M_X3_addTest 159 (S_istore 6 161) := k_istore dX3_addTest_159 (Nat.le_of_ble_eq_true rfl)
theorem r_X3_addTest_161 (E : ax_EN G l) : ax_Snd G l ax_Ym M_X3_addTest 161 (S_iload 6 163) := k_iload dX3_addTest_161
theorem r_X3_addTest_163 (E : ax_EN G l) : ax_Snd G l ax_Ym M_X3_addTest 163 (S_push (.int (6)) 165) := k_bipush dX3_addTest_163 rfl
theorem r_X3_addTest_165 (E : ax_EN G l) : ax_Snd G l ax_Ym M_X3_addTest 165 (S_if2 (fun x y => decide (y ≤ x)) 218 168) := k_icmp_ge dX3_addTest_165 rfl
theorem r_X3_addTest_168 (E : ax_EN G l) : ax_Snd G l ax_Ym M_X3_addTest 168 (S_aload 0 169) := k_aload_n dX3_addTest_168 rfl
theorem r_X3_addTest_169 (E : ax_EN G l) : ax_Snd G l ax_Ym M_X3_addTest 169 (S_getf [(38, 61)] 172) := k_getf (en_F E) (ax_fes_cons (fe_414 E) ax_fes_nil) q2814 dX3_addTest_169
theorem r_X3_addTest_172 (E : ax_EN G l) : ax_Snd G l ax_Ym M_X3_addTest 172 (S_push (.int (6)) 174) := k_bipush dX3_addTest_172 rfl
theorem r_X3_addTest_174 (E : ax_EN G l) : ax_Snd G l ax_Ym M_X3_addTest 174 (S_aload 0 175) := k_aload_n dX3_addTest_174 rfl
theorem r_X3_addTest_175 (E : ax_EN G l) : ax_Snd G l ax_Ym M_X3_addTest 175 (S_getf [(38, 60)] 178) := k_getf (en_F E) (ax_fes_cons (fe_502 E) ax_fes_nil) q2813 dX3_addTest_175
theorem r_X3_addTest_178 (E : ax_EN G l) : ax_Snd G l ax_Ym M_X3_addTest 178 (S_i2 (fun x y => x * y) 179) := k_imul dX3_addTest_178
theorem r_X3_addTest_179 (E : ax_EN G l) : ax_Snd G l ax_Ym M_X3_addTest 179 (S_iload 6 181) := k_iload dX3_addTest_179
theorem r_X3_addTest_181 (E : ax_EN G l) : ax_Snd G l ax_Ym M_X3_addTest 181 (S_i2 (fun x y => x + y) 182) := k_iadd dX3_addTest_181
theorem r_X3_addTest_182 (E : ax_EN G l) : ax_Snd G l ax_Ym M_X3_addTest 182 (S_aload 0 183) := k_aload_n dX3_addTest_182 rfl
theorem r_X3_addTest_183 (E : ax_EN G l) : ax_Snd G l ax_Ym M_X3_addTest 183 (S_getf [(38, 56)] 186) := k_getf (en_F E) (ax_fes_cons (fe_410 E) ax_fes_nil) q2809 dX3_addTest_183
theorem r_X3_addTest_186 (E : ax_EN G l) : ax_Snd G l ax_Ym M_X3_addTest 186 (S_iload 6 188) := k_iload dX3_addTest_186
theorem r_X3_addTest_188 (E : ax_EN G l) : ax_Snd G l ax_Ym M_X3_addTest 188 (S_iald 0 189) := k_iald (en_F E) dX3_addTest_188
theorem r_X3_addTest_189 (E : ax_EN G l) : ax_Snd G l ax_Ym M_X3_addTest 189 (S_iast 0 (fun x => x) 190) := k_iast (en_F E) dX3_addTest_189
theorem r_X3_addTest_190 (E : ax_EN G l) : ax_Snd G l ax_Ym M_X3_addTest 190 (S_aload 0 191) := k_aload_n dX3_addTest_190 rfl
theorem r_X3_addTest_191 (E : ax_EN G l) : ax_Snd G l ax_Ym M_X3_addTest 191 (S_getf [(38, 63)] 194) := k_getf (en_F E) (ax_fes_cons (fe_418 E) ax_fes_nil) q2816 dX3_addTest_191
theorem r_X3_addTest_194 (E : ax_EN G l) : ax_Snd G l ax_Ym M_X3_addTest 194 (S_push (.int (6)) 196) := k_bipush dX3_addTest_194 rfl
theorem r_X3_addTest_196 (E : ax_EN G l) : ax_Snd G l ax_Ym M_X3_addTest 196 (S_aload 0 197) := k_aload_n dX3_addTest_196 rfl
theorem r_X3_addTest_197 (E : ax_EN G l) : ax_Snd G l ax_Ym M_X3_addTest 197 (S_getf [(38, 60)] 200) := k_getf (en_F E) (ax_fes_cons (fe_502 E) ax_fes_nil) q2813 dX3_addTest_197
theorem r_X3_addTest_200 (E : ax_EN G l) : ax_Snd G l ax_Ym M_X3_addTest 200 (S_i2 (fun x y => x * y) 201) := k_imul dX3_addTest_200
theorem r_X3_addTest_201 (E : ax_EN G l) : ax_Snd G l ax_Ym M_X3_addTest 201 (S_iload 6 203) := k_iload dX3_addTest_201
theorem r_X3_addTest_203 (E : ax_EN G l) : ax_Snd G l ax_Ym M_X3_addTest 203 (S_i2 (fun x y => x + y) 204) := k_iadd dX3_addTest_203
theorem r_X3_addTest_204 (E : ax_EN G l) : ax_Snd G l ax_Ym M_X3_addTest 204 (S_aload 0 205) := k_aload_n dX3_addTest_204 rfl
theorem r_X3_addTest_205 (E : ax_EN G l) : ax_Snd G l ax_Ym M_X3_addTest 205 (S_getf [(38, 57)] 208) := k_getf (en_F E) (ax_fes_cons (fe_412 E) ax_fes_nil) q2810 dX3_addTest_205
theorem r_X3_addTest_208 (E : ax_EN G l) : ax_Snd G l ax_Ym M_X3_addTest 208 (S_iload 6 210) := k_iload dX3_addTest_208
theorem r_X3_addTest_210 (E : ax_EN G l) : ax_Snd G l ax_Ym M_X3_addTest 210 (S_iald 0 211) := k_iald (en_F E) dX3_addTest_210
theorem r_X3_addTest_211 (E : ax_EN G l) : ax_Snd G l ax_Ym M_X3_addTest 211 (S_iast 0 (fun x => x) 212) := k_iast (en_F E) dX3_addTest_211
theorem r_X3_addTest_212 (E : ax_EN G l) : ax_Snd G l ax_Ym M_X3_addTest 212 (S_iinc 6 (1) 215) := k_iinc dX3_addTest_212 rfl (Nat.le_of_ble_eq_true rfl)
theorem r_X3_addTest_215 (E : ax_EN G l) : ax_Snd G l ax_Ym M_X3_addTest 215 (S_goto 161) := k_goto dX3_addTest_215 rfl
theorem r_X3_addTest_218 (E : ax_EN G l) : ax_Snd G l ax_Ym M_X3_addTest 218 (S_aload 0 219) := k_aload_n dX3_addTest_218 rfl
theorem r_X3_addTest_219 (E : ax_EN G l) : ax_Snd G l ax_Ym M_X3_addTest 219 (S_push (.int (0)) 220) := k_iconst dX3_addTest_219 rfl
theorem r_X3_addTest_220 (E : ax_EN G l) : ax_Snd G l ax_Ym M_X3_addTest 220 (S_putf [(38, 58)] (.int) 223) := k_putf (en_F E) (en_P E) (ax_fes_cons (fe_498 E) ax_fes_nil) (ax_fps_cons (fp_499 E) ax_fps_nil) q2811 dX3_addTest_220
theorem r_X3_addTest_223 (E : ax_EN G l) : ax_Snd G l ax_Ym M_X3_addTest 223 (S_aload 0 224) := k_aload_n dX3_addTest_223 rfl
theorem r_X3_addTest_224 (E : ax_EN G l) : ax_Snd G l ax_Ym M_X3_addTest 224 (S_push (.int (0)) 225) := k_iconst dX3_addTest_224 rfl
theorem r_X3_addTest_225 (E : ax_EN G l) : ax_Snd G l ax_Ym M_X3_addTest 225 (S_putf [(38, 59)] (.int) 228) := k_putf (en_F E) (en_P E) (ax_fes_cons (fe_500 E) ax_fes_nil) (ax_fps_cons (fp_501 E) ax_fps_nil) q2812 dX3_addTest_225
theorem r_X3_addTest_228 (E : ax_EN G l) : ax_Snd G l ax_Ym M_X3_addTest 228 (S_aload 0 229) := k_aload_n dX3_addTest_228 rfl
theorem r_X3_addTest_229 (E : ax_EN G l) : ax_Snd G l ax_Ym M_X3_addTest 229 (S_dup 230) := k_dup dX3_addTest_229
theorem r_X3_addTest_230 (E : ax_EN G l) : ax_Snd G l ax_Ym M_X3_addTest 230 (S_getf [(38, 60)] 233) := k_getf (en_F E) (ax_fes_cons (fe_502 E) ax_fes_nil) q2813 dX3_addTest_230
theorem r_X3_addTest_233 (E : ax_EN G l) : ax_Snd G l ax_Ym M_X3_addTest 233 (S_push (.int (1)) 234) := k_iconst dX3_addTest_233 rfl
theorem r_X3_addTest_234 (E : ax_EN G l) : ax_Snd G l ax_Ym M_X3_addTest 234 (S_i2 (fun x y => x + y) 235) := k_iadd dX3_addTest_234
theorem r_X3_addTest_235 (E : ax_EN G l) : ax_Snd G l ax_Ym M_X3_addTest 235 (S_putf [(38, 60)] (.int) 238) := k_putf (en_F E) (en_P E) (ax_fes_cons (fe_502 E) ax_fes_nil) (ax_fps_cons (fp_503 E) ax_fps_nil) q2813 dX3_addTest_235
theorem r_X3_addTest_238 (E : ax_EN G l) : ax_Snd G l ax_Ym M_X3_addTest 238 (S_aload 0 239) := k_aload_n dX3_addTest_238 rfl
theorem r_X3_addTest_239 (E : ax_EN G l) : ax_Snd G l ax_Ym M_X3_addTest 239 (S_getf [(38, 60)] 242) := k_getf (en_F E) (ax_fes_cons (fe_502 E) ax_fes_nil) q2813 dX3_addTest_239
theorem r_X3_addTest_242 (E : ax_EN G l) : ax_Snd G l ax_Ym M_X3_addTest 242 (S_push (.int (1)) 243) := k_iconst dX3_addTest_242 rfl
theorem r_X3_addTest_243 (E : ax_EN G l) : ax_Snd G l ax_Ym M_X3_addTest 243 (S_i2 (fun x y => x - y) 244) := k_isub dX3_addTest_243
theorem r_X3_addTest_244 (E : ax_EN G l) : ax_Snd G l ax_Ym M_X3_addTest 244 (S_iret) := k_iret dX3_addTest_244 rfl
theorem mt_X3_addTest (E : ax_EN G l) : ax_mt G l ax_Ym (7, P_X3_addTest) (ax_Ym 485) := ⟨M_X3_addTest, yX3_addTest, ⟨rfl, by decide +kernel, rfl, (fun h => by cases h), Or.inl ⟨rfl, rfl⟩⟩, fun pc => (ax_sn_node (ax_sn_node (ax_sn_node (ax_sn_node (ax_sn_node (ax_sn_node (ax_sn_node (ax_sn_node (ax_sn_leaf (r_X3_addTest_244 E)) (ax_sn_leaf (r_X3_addTest_243 E))) (ax_sn_leaf (r_X3_addTest_242 E))) (ax_sn_node (ax_sn_leaf (r_X3_addTest_239 E)) (ax_sn_leaf (r_X3_addTest_238 E)))) (ax_sn_node (ax_sn_node (ax_sn_leaf (r_X3_addTest_235 E)) (ax_sn_leaf (r_X3_addTest_234 E))) (ax_sn_node (ax_sn_leaf (r_X3_addTest_233 E)) (ax_sn_leaf (r_X3_addTest_230 E))))) (ax_sn_node (ax_sn_node (ax_sn_node (ax_sn_leaf (r_X3_addTest_229 E)) (ax_sn_leaf (r_X3_addTest_228 E))) (ax_sn_node (ax_sn_leaf (r_X3_addTest_225 E)) (ax_sn_leaf (r_X3_addTest_224 E)))) (ax_sn_node (ax_sn_node (ax_sn_leaf (r_X3_addTest_223 E)) (ax_sn_leaf (r_X3_addTest_220 E))) (ax_sn_node (ax_sn_leaf (r_X3_addTest_219 E)) (ax_sn_leaf (r_X3_addTest_218 E)))))) (ax_sn_node (ax_sn_node (ax_sn_node (ax_sn_node (ax_sn_node (ax_sn_leaf (r_X3_addTest_215 E)) (ax_sn_leaf (r_X3_addTest_212 E))) (ax_sn_leaf (r_X3_addTest_211 E))) (ax_sn_node (ax_sn_leaf (r_X3_addTest_210 E)) (ax_sn_leaf (r_X3_addTest_208 E)))) (ax_sn_node (ax_sn_node (ax_sn_leaf (r_X3_addTest_205 E)) (ax_sn_leaf (r_X3_addTest_204 E))) (ax_sn_node (ax_sn_leaf (r_X3_addTest_203 E)) (ax_sn_leaf (r_X3_addTest_201 E))))) (ax_sn_node (ax_sn_node (ax_sn_node (ax_sn_leaf (r_X3_addTest_200 E)) (ax_sn_leaf (r_X3_addTest_197 E))) (ax_sn_node (ax_sn_leaf (r_X3_addTest_196 E)) (ax_sn_leaf (r_X3_addTest_194 E)))) (ax_sn_node (ax_sn_node (ax_sn_leaf (r_X3_addTest_191 E)) (ax_sn_leaf (r_X3_addTest_190 E))) (ax_sn_node (ax_sn_leaf (r_X3_addTest_189 E)) (ax_sn_leaf (r_X3_addTest_188 E))))))) (ax_sn_node (ax_sn_node (ax_sn_node (ax_sn_node (ax_sn_node (ax_sn_node (ax_sn_leaf (r_X3_addTest_186 E)) (ax_sn_leaf (r_X3_addTest_183 E))) (ax_sn_leaf (r_X3_addTest_182 E))) (ax_sn_node (ax_sn_leaf (r_X3_addTest_181 E)) (ax_sn_leaf (r_X3_addTest_179 E)))) (ax_sn_node (ax_sn_node (ax_sn_leaf (r_X3_addTest_178 E)) (ax_sn_leaf (r_X3_addTest_175 E))) (ax_sn_node (ax_sn_leaf (r_X3_addTest_174 E)) (ax_sn_leaf (r_X3_addTest_172 E))))) (ax_sn_node (ax_sn_node (ax_sn_node (ax_sn_leaf (r_X3_addTest_169 E)) (ax_sn_leaf (r_X3_addTest_168 E))) (ax_sn_node (ax_sn_leaf (r_X3_addTest_165 E)) (ax_sn_leaf (r_X3_addTest_163 E)))) (ax_sn_node (ax_sn_node (ax_sn_leaf (r_X3_addTest_161 E)) (ax_sn_leaf (r_X3_addTest_159 E))) (ax_sn_node (ax_sn_leaf (r_X3_addTest_158 E)) (ax_sn_leaf (r_X3_addTest_157 E)))))) (ax_sn_node (ax_sn_node (ax_sn_node (ax_sn_node (ax_sn_leaf (r_X3_addTest_154 E)) (ax_sn_leaf (r_X3_addTest_153 E))) (ax_sn_node (ax_sn_leaf (r_X3_addTest_150 E)) (ax_sn_leaf (r_X3_addTest_149 E)))) (ax_sn_node (ax_sn_node (ax_sn_leaf (r_X3_addTest_146 E)) (ax_sn_leaf (r_X3_addTest_145 E))) (ax_sn_node (ax_sn_leaf (r_X3_addTest_144 E)) (ax_sn_leaf (r_X3_addTest_141 E))))) (ax_sn_node (ax_sn_node (ax_sn_node (ax_sn_leaf (r_X3_addTest_140 E)) (ax_sn_leaf (r_X3_addTest_137 E))) (ax_sn_node (ax_sn_leaf (r_X3_addTest_136 E)) (ax_sn_leaf (r_X3_addTest_133 E)))) (ax_sn_node (ax_sn_node (ax_sn_leaf (r_X3_addTest_132 E)) (ax_sn_leaf (r_X3_addTest_131 E))) (ax_sn_node (ax_sn_leaf (r_X3_addTest_130 E)) (ax_sn_leaf (r_X3_addTest_127 E)))))))) (ax_sn_node (ax_sn_node (ax_sn_node (ax_sn_node (ax_sn_node (ax_sn_node (ax_sn_node (ax_sn_leaf (r_X3_addTest_126 E)) (ax_sn_leaf (r_X3_addTest_123 E))) (ax_sn_leaf (r_X3_addTest_122 E))) (ax_sn_node (ax_sn_leaf (r_X3_addTest_121 E)) (ax_sn_leaf (r_X3_addTest_119 E)))) (ax_sn_node (ax_sn_node (ax_sn_leaf (r_X3_addTest_116 E)) (ax_sn_leaf (r_X3_addTest_115 E))) (ax_sn_node (ax_sn_leaf (r_X3_addTest_112 E)) (ax_sn_leaf (r_X3_addTest_111 E))))) (ax_sn_node (ax_sn_node (ax_sn_node (ax_sn_leaf (r_X3_addTest_110 E)) (ax_sn_leaf (r_X3_addTest_109 E))) (ax_sn_node (ax_sn_leaf (r_X3_addTest_106 E)) (ax_sn_leaf (r_X3_addTest_105 E)))) (ax_sn_node (ax_sn_node (ax_sn_leaf (r_X3_addTest_102 E)) (ax_sn_leaf (r_X3_addTest_101 E))) (ax_sn_node (ax_sn_leaf (r_X3_addTest_100 E)) (ax_sn_leaf (r_X3_addTest_99 E)))))) (ax_sn_node (ax_sn_node (ax_sn_node (ax_sn_node (ax_sn_node (ax_sn_leaf (r_X3_addTest_96 E)) (ax_sn_leaf (r_X3_addTest_95 E))) (ax_sn_leaf (r_X3_addTest_92 E))) (ax_sn_node (ax_sn_leaf (r_X3_addTest_91 E)) (ax_sn_leaf (r_X3_addTest_90 E)))) (ax_sn_node (ax_sn_node (ax_sn_leaf (r_X3_addTest_89 E)) (ax_sn_leaf (r_X3_addTest_86 E))) (ax_sn_node (ax_sn_leaf (r_X3_addTest_85 E)) (ax_sn_leaf (r_X3_addTest_82 E))))) (ax_sn_node (ax_sn_node (ax_sn_node (ax_sn_leaf (r_X3_addTest_81 E)) (ax_sn_leaf (r_X3_addTest_80 E))) (ax_sn_node (ax_sn_leaf (r_X3_addTest_79 E)) (ax_sn_leaf (r_X3_addTest_76 E)))) (ax_sn_node (ax_sn_node (ax_sn_leaf (r_X3_addTest_73 E)) (ax_sn_leaf (r_X3_addTest_72 E))) (ax_sn_node (ax_sn_leaf (r_X3_addTest_69 E)) (ax_sn_leaf (r_X3_addTest_68 E))))))) (ax_sn_node (ax_sn_node (ax_sn_node (ax_sn_node (ax_sn_node (ax_sn_node (ax_sn_leaf (r_X3_addTest_65 E)) (ax_sn_leaf (r_X3_addTest_64 E))) (ax_sn_leaf (r_X3_addTest_61 E))) (ax_sn_node (ax_sn_leaf (r_X3_addTest_60 E)) (ax_sn_leaf (r_X3_addTest_57 E)))) (ax_sn_node (ax_sn_node (ax_sn_leaf (r_X3_addTest_56 E)) (ax_sn_leaf (r_X3_addTest_53 E))) (ax_sn_node (ax_sn_leaf (r_X3_addTest_51 E)) (ax_sn_leaf (r_X3_addTest_50 E))))) (ax_sn_node (ax_sn_node (ax_sn_node (ax_sn_leaf (r_X3_addTest_48 E)) (ax_sn_leaf (r_X3_addTest_47 E))) (ax_sn_node (ax_sn_leaf (r_X3_addTest_44 E)) (ax_sn_leaf (r_X3_addTest_43 E)))) (ax_sn_node (ax_sn_node (ax_sn_leaf (r_X3_addTest_40 E)) (ax_sn_leaf (r_X3_addTest_37 E))) (ax_sn_node (ax_sn_leaf (r_X3_addTest_34 E)) (ax_sn_leaf (r_X3_addTest_33 E)))))) (ax_sn_node (ax_sn_node (ax_sn_node (ax_sn_node (ax_sn_leaf (r_X3_addTest_31 E)) (ax_sn_leaf (r_X3_addTest_28 E))) (ax_sn_node (ax_sn_leaf (r_X3_addTest_25 E)) (ax_sn_leaf (r_X3_addTest_23 E)))) (ax_sn_node (ax_sn_node (ax_sn_leaf (r_X3_addTest_22 E)) (ax_sn_leaf (r_X3_addTest_21 E))) (ax_sn_node (ax_sn_leaf (r_X3_addTest_18 E)) (ax_sn_leaf (r_X3_addTest_15 E))))) (ax_sn_node (ax_sn_node (ax_sn_node (ax_sn_leaf (r_X3_addTest_13 E)) (ax_sn_leaf (r_X3_addTest_12 E))) (ax_sn_node (ax_sn_leaf (r_X3_addTest_11 E)) (ax_sn_leaf (r_X3_addTest_8 E)))) (ax_sn_node (ax_sn_node (ax_sn_leaf (r_X3_addTest_5 E)) (ax_sn_leaf (r_X3_addTest_2 E))) (ax_sn_node (ax_sn_leaf (r_X3_addTest_1 E)) (ax_sn_leaf (r_X3_addTest_0 E)))))))))⟩
theorem r_X3_tests_0 (E : ax_EN G l) : ax_Snd G l ax_Ym M_X3_tests 0 (S_aload 0 1) := k_aload_n dX3_tests_0 rfl
theorem r_X3_tests_1 (E : ax_EN G l) : ax_Snd G l ax_Ym M_X3_tests 1 (S_push (.int (0)) 2) := k_iconst dX3_tests_1 rfl
theorem r_X3_tests_2 (E : ax_EN G l) : ax_Snd G l ax_Ym M_X3_tests 2 (S_putf [(38, 0)] (.int) 5) := k_putf (en_F E) (en_P E) (ax_fes_cons (fe_442 E) ax_fes_nil) (ax_fps_cons (fp_443 E) ax_fps_nil) q2753 dX3_tests_2
theorem r_X3_tests_5 (E : ax_EN G l) : ax_Snd G l ax_Ym M_X3_tests 5 (S_aload 0 6) := k_aload_n dX3_tests_5 rfl
theorem r_X3_tests_6 (E : ax_EN G l) : ax_Snd G l ax_Ym M_X3_tests 6 (S_getf [(38, 60)] 9) := k_getf (en_F E) (ax_fes_cons (fe_502 E) ax_fes_nil) q2813 dX3_tests_6
theorem r_X3_tests_9 (E : ax_EN G l) : ax_Snd G l ax_Ym M_X3_tests 9 (S_iret) := k_iret dX3_tests_9 rfl
theorem mt_X3_tests (E : ax_EN G l) : ax_mt G l ax_Ym (1, P_X3_tests) (ax_Ym 486) := ⟨M_X3_tests, yX3_tests, ⟨rfl, by decide +kernel, rfl, (fun h => by cases h), Or.inl ⟨rfl, rfl⟩⟩, fun pc => (ax_sn_node (ax_sn_node (ax_sn_node (ax_sn_leaf (r_X3_tests_9 E)) (ax_sn_leaf (r_X3_tests_6 E))) (ax_sn_leaf (r_X3_tests_5 E))) (ax_sn_node (ax_sn_node (ax_sn_leaf (r_X3_tests_2 E)) (ax_sn_leaf (r_X3_tests_1 E))) (ax_sn_leaf (r_X3_tests_0 E))))⟩
theorem r_X3_submit_0 (E : ax_EN G l) : ax_Snd G l ax_Ym M_X3_submit 0 (S_aload 0 1) := k_aload_n dX3_submit_0 rfl
theorem r_X3_submit_1 (E : ax_EN G l) : ax_Snd G l ax_Ym M_X3_submit 1 (S_aload 0 2) := k_aload_n dX3_submit_1 rfl
theorem r_X3_submit_2 (E : ax_EN G l) : ax_Snd G l ax_Ym M_X3_submit 2 (S_getf [(38, 22)] 5) := k_getf (en_F E) (ax_fes_cons (fe_458 E) ax_fes_nil) q2775 dX3_submit_2
theorem r_X3_submit_5 (E : ax_EN G l) : ax_Snd G l ax_Ym M_X3_submit 5 (S_if1 (fun x => decide (x = 0)) 12 8) := k_if_eq dX3_submit_5 rfl
theorem r_X3_submit_8 (E : ax_EN G l) : ax_Snd G l ax_Ym M_X3_submit 8 (S_push (.int (0)) 9) := k_iconst dX3_submit_8 rfl
theorem r_X3_submit_9 (E : ax_EN G l) : ax_Snd G l ax_Ym M_X3_submit 9 (S_goto 13) := k_goto dX3_submit_9 rfl
theorem r_X3_submit_12 (E : ax_EN G l) : ax_Snd G l ax_Ym M_X3_submit 12 (S_push (.int (1)) 13) := k_iconst dX3_submit_12 rfl
theorem r_X3_submit_13 (E : ax_EN G l) : ax_Snd G l ax_Ym M_X3_submit 13 (S_iv [(38, 378)] 1 16 hd_0) := k_iv (en_F E) (ax_ok0 E rfl) (ax_Evs_cons ((ev_v (en_c E (k := 38) rfl) rfl y_X3_holds q2999 q3001 qs61 q126 q3002 nm_X3_holds (Nat.le_of_ble_eq_true rfl) dX3_submit_13) : ax_EvV G l ax_Ym M_X3_submit 13 1 3 38 378) ax_Evs_nil)
theorem r_X3_submit_16 (E : ax_EN G l) : ax_Snd G l ax_Ym M_X3_submit 16 (S_if1 (fun x => decide (¬ x = 0)) 21 19) := k_if_ne dX3_submit_16 rfl
theorem r_X3_submit_19 (E : ax_EN G l) : ax_Snd G l ax_Ym M_X3_submit 19 (S_push (.int (0)) 20) := k_iconst dX3_submit_19 rfl
theorem r_X3_submit_20 (E : ax_EN G l) : ax_Snd G l ax_Ym M_X3_submit 20 (S_iret) := k_iret dX3_submit_20 rfl
theorem r_X3_submit_21 (E : ax_EN G l) : ax_Snd G l ax_Ym M_X3_submit 21 (S_aload 0 22) := k_aload_n dX3_submit_21 rfl
theorem r_X3_submit_22 (E : ax_EN G l) : ax_Snd G l ax_Ym M_X3_submit 22 (S_iv [(38, 405)] 0 25 hd_0) := k_iv (en_F E) (ax_ok0 E rfl) (ax_Evs_cons ((ev_v (en_c E (k := 38) rfl) rfl y_X3_isMachine q3108 q3110 qs75 q126 q3111 nm_X3_isMachine (Nat.le_of_ble_eq_true rfl) dX3_submit_22) : ax_EvV G l ax_Ym M_X3_submit 22 0 3 38 405) ax_Evs_nil)
theorem r_X3_submit_25 (E : ax_EN G l) : ax_Snd G l ax_Ym M_X3_submit 25 (S_istore 1 26) := k_istore_n dX3_submit_25 rfl (Nat.le_of_ble_eq_true rfl)
theorem r_X3_submit_26 (E : ax_EN G l) : ax_Snd G l ax_Ym M_X3_submit 26 (S_aload 0 27) := k_aload_n dX3_submit_26 rfl
theorem r_X3_submit_27 (E : ax_EN G l) : ax_Snd G l ax_Ym M_X3_submit 27 (S_getf [(38, 38)] 30) := k_getf (en_F E) (ax_fes_cons (fe_491 E) ax_fes_nil) q2791 dX3_submit_27
theorem r_X3_submit_30 (E : ax_EN G l) : ax_Snd G l ax_Ym M_X3_submit 30 (S_istore 2 31) := k_istore_n dX3_submit_30 rfl (Nat.le_of_ble_eq_true rfl)
theorem r_X3_submit_31 (E : ax_EN G l) : ax_Snd G l ax_Ym M_X3_submit 31 (S_aload 0 32) := k_aload_n dX3_submit_31 rfl
theorem r_X3_submit_32 (E : ax_EN G l) : ax_Snd G l ax_Ym M_X3_submit 32 (S_getf [(38, 52)] 35) := k_getf (en_F E) (ax_fes_cons (fe_440 E) ax_fes_nil) q2805 dX3_submit_32
theorem r_X3_submit_35 (E : ax_EN G l) : ax_Snd G l ax_Ym M_X3_submit 35 (S_istore 3 36) := k_istore_n dX3_submit_35 rfl (Nat.le_of_ble_eq_true rfl)
theorem r_X3_submit_36 (E : ax_EN G l) : ax_Snd G l ax_Ym M_X3_submit 36 (S_aload 0 37) := k_aload_n dX3_submit_36 rfl
theorem r_X3_submit_37 (E : ax_EN G l) : ax_Snd G l ax_Ym M_X3_submit 37 (S_getf [(38, 43)] 40) := k_getf (en_F E) (ax_fes_cons (fe_462 E) ax_fes_nil) q2796 dX3_submit_37
theorem r_X3_submit_40 (E : ax_EN G l) : ax_Snd G l ax_Ym M_X3_submit 40 (S_istore 4 42) := k_istore dX3_submit_40 (Nat.le_of_ble_eq_true rfl)
theorem r_X3_submit_42 (E : ax_EN G l) : ax_Snd G l ax_Ym M_X3_submit 42 (S_aload 0 43) := k_aload_n dX3_submit_42 rfl
theorem r_X3_submit_43 (E : ax_EN G l) : ax_Snd G l ax_Ym M_X3_submit 43 (S_getf [(38, 50)] 46) := k_getf (en_F E) (ax_fes_cons (fe_402 E) ax_fes_nil) q2803 dX3_submit_43
theorem r_X3_submit_46 (E : ax_EN G l) : ax_Snd G l ax_Ym M_X3_submit 46 (S_aload 0 47) := k_aload_n dX3_submit_46 rfl
theorem r_X3_submit_47 (E : ax_EN G l) : ax_Snd G l ax_Ym M_X3_submit 47 (S_getf [(38, 71)] 50) := k_getf (en_F E) (ax_fes_cons (fe_434 E) ax_fes_nil) q2824 dX3_submit_47
theorem r_X3_submit_50 (E : ax_EN G l) : ax_Snd G l ax_Ym M_X3_submit 50 (S_is 409 2 53 hd_0) := k_is (en_F E) (ax_ok0 E rfl) ((ev_s y_X3_copies q3124 q3125 q126 q3126 nm_X3_copies (Nat.le_of_ble_eq_true rfl) dX3_submit_50) : ax_EvS G l ax_Ym M_X3_submit 50 409 2 3)
theorem r_X3_submit_53 (E : ax_EN G l) : ax_Snd G l ax_Ym M_X3_submit 53 (S_push (.int (0)) 54) := k_iconst dX3_submit_53 rfl
theorem r_X3_submit_54 (E : ax_EN G l) : ax_Snd G l ax_Ym M_X3_submit 54 (S_istore 5 56) := k_istore dX3_submit_54 (Nat.le_of_ble_eq_true rfl)
theorem r_X3_submit_56 (E : ax_EN G l) : ax_Snd G l ax_Ym M_X3_submit 56 (S_iload 5 58) := k_iload dX3_submit_56
theorem r_X3_submit_58 (E : ax_EN G l) : ax_Snd G l ax_Ym M_X3_submit 58 (S_push (.int (20)) 60) := k_bipush dX3_submit_58 rfl
theorem r_X3_submit_60 (E : ax_EN G l) : ax_Snd G l ax_Ym M_X3_submit 60 (S_if2 (fun x y => decide (y ≤ x)) 97 63) := k_icmp_ge dX3_submit_60 rfl
theorem r_X3_submit_63 (E : ax_EN G l) : ax_Snd G l ax_Ym M_X3_submit 63 (S_aload 0 64) := k_aload_n dX3_submit_63 rfl
theorem r_X3_submit_64 (E : ax_EN G l) : ax_Snd G l ax_Ym M_X3_submit 64 (S_getf [(38, 72)] 67) := k_getf (en_F E) (ax_fes_cons (fe_436 E) ax_fes_nil) q2825 dX3_submit_64
theorem r_X3_submit_67 (E : ax_EN G l) : ax_Snd G l ax_Ym M_X3_submit 67 (S_iload 5 69) := k_iload dX3_submit_67
theorem r_X3_submit_69 (E : ax_EN G l) : ax_Snd G l ax_Ym M_X3_submit 69 (S_aload 0 70) := k_aload_n dX3_submit_69 rfl
theorem r_X3_submit_70 (E : ax_EN G l) : ax_Snd G l ax_Ym M_X3_submit 70 (S_getf [(38, 41)] 73) := k_getf (en_F E) (ax_fes_cons (fe_390 E) ax_fes_nil) q2794 dX3_submit_70
theorem r_X3_submit_73 (E : ax_EN G l) : ax_Snd G l ax_Ym M_X3_submit 73 (S_iload 5 75) := k_iload dX3_submit_73
theorem r_X3_submit_75 (E : ax_EN G l) : ax_Snd G l ax_Ym M_X3_submit 75 (S_iald 0 76) := k_iald (en_F E) dX3_submit_75
theorem r_X3_submit_76 (E : ax_EN G l) : ax_Snd G l ax_Ym M_X3_submit 76 (S_iast 0 (fun x => x) 77) := k_iast (en_F E) dX3_submit_76
theorem r_X3_submit_77 (E : ax_EN G l) : ax_Snd G l ax_Ym M_X3_submit 77 (S_aload 0 78) := k_aload_n dX3_submit_77 rfl
theorem r_X3_submit_78 (E : ax_EN G l) : ax_Snd G l ax_Ym M_X3_submit 78 (S_getf [(38, 73)] 81) := k_getf (en_F E) (ax_fes_cons (fe_438 E) ax_fes_nil) q2826 dX3_submit_78
theorem r_X3_submit_81 (E : ax_EN G l) : ax_Snd G l ax_Ym M_X3_submit 81 (S_iload 5 83) := k_iload dX3_submit_81
theorem r_X3_submit_83 (E : ax_EN G l) : ax_Snd G l ax_Ym M_X3_submit 83 (S_aload 0 84) := k_aload_n dX3_submit_83 rfl
theorem r_X3_submit_84 (E : ax_EN G l) : ax_Snd G l ax_Ym M_X3_submit 84 (S_getf [(38, 42)] 87) := k_getf (en_F E) (ax_fes_cons (fe_392 E) ax_fes_nil) q2795 dX3_submit_84
theorem r_X3_submit_87 (E : ax_EN G l) : ax_Snd G l ax_Ym M_X3_submit 87 (S_iload 5 89) := k_iload dX3_submit_87
theorem r_X3_submit_89 (E : ax_EN G l) : ax_Snd G l ax_Ym M_X3_submit 89 (S_iald 0 90) := k_iald (en_F E) dX3_submit_89
theorem r_X3_submit_90 (E : ax_EN G l) : ax_Snd G l ax_Ym M_X3_submit 90 (S_iast 0 (fun x => x) 91) := k_iast (en_F E) dX3_submit_90
theorem r_X3_submit_91 (E : ax_EN G l) : ax_Snd G l ax_Ym M_X3_submit 91 (S_iinc 5 (1) 94) := k_iinc dX3_submit_91 rfl (Nat.le_of_ble_eq_true rfl)
theorem r_X3_submit_94 (E : ax_EN G l) : ax_Snd G l ax_Ym M_X3_submit 94 (S_goto 56) := k_goto dX3_submit_94 rfl
theorem r_X3_submit_97 (E : ax_EN G l) : ax_Snd G l ax_Ym M_X3_submit 97 (S_push (.int (0)) 98) := k_iconst dX3_submit_97 rfl
theorem r_X3_submit_98 (E : ax_EN G l) : ax_Snd G l ax_Ym M_X3_submit 98 (S_istore 5 100) := k_istore dX3_submit_98 (Nat.le_of_ble_eq_true rfl)
theorem r_X3_submit_100 (E : ax_EN G l) : ax_Snd G l ax_Ym M_X3_submit 100 (S_push (.int (0)) 101) := k_iconst dX3_submit_100 rfl
theorem r_X3_submit_101 (E : ax_EN G l) : ax_Snd G l ax_Ym M_X3_submit 101 (S_istore 6 103) := k_istore dX3_submit_101 (Nat.le_of_ble_eq_true rfl)
theorem r_X3_submit_103 (E : ax_EN G l) : ax_Snd G l ax_Ym M_X3_submit 103 (S_iload 6 105) := k_iload dX3_submit_103
theorem r_X3_submit_105 (E : ax_EN G l) : ax_Snd G l ax_Ym M_X3_submit 105 (S_aload 0 106) := k_aload_n dX3_submit_105 rfl
theorem r_X3_submit_106 (E : ax_EN G l) : ax_Snd G l ax_Ym M_X3_submit 106 (S_getf [(38, 60)] 109) := k_getf (en_F E) (ax_fes_cons (fe_502 E) ax_fes_nil) q2813 dX3_submit_106
theorem r_X3_submit_109 (E : ax_EN G l) : ax_Snd G l ax_Ym M_X3_submit 109 (S_if2 (fun x y => decide (y ≤ x)) 183 112) := k_icmp_ge dX3_submit_109 rfl
theorem r_X3_submit_112 (E : ax_EN G l) : ax_Snd G l ax_Ym M_X3_submit 112 (S_aload 0 113) := k_aload_n dX3_submit_112 rfl
theorem r_X3_submit_113 (E : ax_EN G l) : ax_Snd G l ax_Ym M_X3_submit 113 (S_getf [(38, 69)] 116) := k_getf (en_F E) (ax_fes_cons (fe_430 E) ax_fes_nil) q2822 dX3_submit_113
theorem r_X3_submit_116 (E : ax_EN G l) : ax_Snd G l ax_Ym M_X3_submit 116 (S_iload 6 118) := k_iload dX3_submit_116
theorem r_X3_submit_118 (E : ax_EN G l) : ax_Snd G l ax_Ym M_X3_submit 118 (S_aload 0 119) := k_aload_n dX3_submit_118 rfl
theorem r_X3_submit_119 (E : ax_EN G l) : ax_Snd G l ax_Ym M_X3_submit 119 (S_iload 6 121) := k_iload dX3_submit_119
theorem r_X3_submit_121 (E : ax_EN G l) : ax_Snd G l ax_Ym M_X3_submit 121 (S_iv [(38, 488)] 1 124 hd_0) := k_iv (en_F E) (ax_ok0 E rfl) (ax_Evs_cons ((ev_v (en_c E (k := 38) rfl) rfl y_X3_madeTest q3433 q3435 qs115 q126 q3436 nm_X3_madeTest (Nat.le_of_ble_eq_true rfl) dX3_submit_121) : ax_EvV G l ax_Ym M_X3_submit 121 1 3 38 488) ax_Evs_nil)
theorem r_X3_submit_124 (E : ax_EN G l) : ax_Snd G l ax_Ym M_X3_submit 124 (S_iast 0 (fun x => x) 125) := k_iast (en_F E) dX3_submit_124
theorem r_X3_submit_125 (E : ax_EN G l) : ax_Snd G l ax_Ym M_X3_submit 125 (S_aload 0 126) := k_aload_n dX3_submit_125 rfl
theorem r_X3_submit_126 (E : ax_EN G l) : ax_Snd G l ax_Ym M_X3_submit 126 (S_getf [(38, 70)] 129) := k_getf (en_F E) (ax_fes_cons (fe_432 E) ax_fes_nil) q2823 dX3_submit_126
theorem r_X3_submit_129 (E : ax_EN G l) : ax_Snd G l ax_Ym M_X3_submit 129 (S_iload 6 131) := k_iload dX3_submit_129
theorem r_X3_submit_131 (E : ax_EN G l) : ax_Snd G l ax_Ym M_X3_submit 131 (S_aload 0 132) := k_aload_n dX3_submit_131 rfl
theorem r_X3_submit_132 (E : ax_EN G l) : ax_Snd G l ax_Ym M_X3_submit 132 (S_getf [(38, 70)] 135) := k_getf (en_F E) (ax_fes_cons (fe_432 E) ax_fes_nil) q2823 dX3_submit_132
theorem r_X3_submit_135 (E : ax_EN G l) : ax_Snd G l ax_Ym M_X3_submit 135 (S_iload 6 137) := k_iload dX3_submit_135
theorem r_X3_submit_137 (E : ax_EN G l) : ax_Snd G l ax_Ym M_X3_submit 137 (S_iald 2 138) := k_zald (en_F E) dX3_submit_137
theorem r_X3_submit_138 (E : ax_EN G l) : ax_Snd G l ax_Ym M_X3_submit 138 (S_if1 (fun x => decide (¬ x = 0)) 151 141) := k_if_ne dX3_submit_138 rfl
theorem r_X3_submit_141 (E : ax_EN G l) : ax_Snd G l ax_Ym M_X3_submit 141 (S_aload 0 142) := k_aload_n dX3_submit_141 rfl
theorem r_X3_submit_142 (E : ax_EN G l) : ax_Snd G l ax_Ym M_X3_submit 142 (S_getf [(38, 69)] 145) := k_getf (en_F E) (ax_fes_cons (fe_430 E) ax_fes_nil) q2822 dX3_submit_142
theorem r_X3_submit_145 (E : ax_EN G l) : ax_Snd G l ax_Ym M_X3_submit 145 (S_iload 6 147) := k_iload dX3_submit_145
theorem r_X3_submit_147 (E : ax_EN G l) : ax_Snd G l ax_Ym M_X3_submit 147 (S_iald 0 148) := k_iald (en_F E) dX3_submit_147
theorem r_X3_submit_148 (E : ax_EN G l) : ax_Snd G l ax_Ym M_X3_submit 148 (S_if1 (fun x => decide (¬ x = 0)) 155 151) := k_if_ne dX3_submit_148 rfl
theorem r_X3_submit_151 (E : ax_EN G l) : ax_Snd G l ax_Ym M_X3_submit 151 (S_push (.int (1)) 152) := k_iconst dX3_submit_151 rfl
theorem r_X3_submit_152 (E : ax_EN G l) : ax_Snd G l ax_Ym M_X3_submit 152 (S_goto 156) := k_goto dX3_submit_152 rfl
theorem r_X3_submit_155 (E : ax_EN G l) : ax_Snd G l ax_Ym M_X3_submit 155 (S_push (.int (0)) 156) := k_iconst dX3_submit_155 rfl
theorem r_X3_submit_156 (E : ax_EN G l) : ax_Snd G l ax_Ym M_X3_submit 156 (S_iast 2 (fun x => vp_nar .boolean x) 157) := k_zast (en_F E) dX3_submit_156
theorem r_X3_submit_157 (E : ax_EN G l) : ax_Snd G l ax_Ym M_X3_submit 157 (S_iload 5 159) := k_iload dX3_submit_157
theorem r_X3_submit_159 (E : ax_EN G l) : ax_Snd G l ax_Ym M_X3_submit 159 (S_aload 0 160) := k_aload_n dX3_submit_159 rfl
theorem r_X3_submit_160 (E : ax_EN G l) : ax_Snd G l ax_Ym M_X3_submit 160 (S_getf [(38, 69)] 163) := k_getf (en_F E) (ax_fes_cons (fe_430 E) ax_fes_nil) q2822 dX3_submit_160
theorem r_X3_submit_163 (E : ax_EN G l) : ax_Snd G l ax_Ym M_X3_submit 163 (S_iload 6 165) := k_iload dX3_submit_163
theorem r_X3_submit_165 (E : ax_EN G l) : ax_Snd G l ax_Ym M_X3_submit 165 (S_iald 0 166) := k_iald (en_F E) dX3_submit_165
theorem r_X3_submit_166 (E : ax_EN G l) : ax_Snd G l ax_Ym M_X3_submit 166 (S_if1 (fun x => decide (¬ x = 0)) 173 169) := k_if_ne dX3_submit_166 rfl
theorem r_X3_submit_169 (E : ax_EN G l) : ax_Snd G l ax_Ym M_X3_submit 169 (S_push (.int (1)) 170) := k_iconst dX3_submit_169 rfl
theorem r_X3_submit_170 (E : ax_EN G l) : ax_Snd G l ax_Ym M_X3_submit 170 (S_goto 174) := k_goto dX3_submit_170 rfl
theorem r_X3_submit_173 (E : ax_EN G l) : ax_Snd G l ax_Ym M_X3_submit 173 (S_push (.int (0)) 174) := k_iconst dX3_submit_173 rfl
theorem r_X3_submit_174 (E : ax_EN G l) : ax_Snd G l ax_Ym M_X3_submit 174 (S_i2 (fun x y => x + y) 175) := k_iadd dX3_submit_174
theorem r_X3_submit_175 (E : ax_EN G l) : ax_Snd G l ax_Ym M_X3_submit 175 (S_istore 5 177) := k_istore dX3_submit_175 (Nat.le_of_ble_eq_true rfl)
theorem r_X3_submit_177 (E : ax_EN G l) : ax_Snd G l ax_Ym M_X3_submit 177 (S_iinc 6 (1) 180) := k_iinc dX3_submit_177 rfl (Nat.le_of_ble_eq_true rfl)
theorem r_X3_submit_180 (E : ax_EN G l) : ax_Snd G l ax_Ym M_X3_submit 180 (S_goto 103) := k_goto dX3_submit_180 rfl
theorem r_X3_submit_183 (E : ax_EN G l) : ax_Snd G l ax_Ym M_X3_submit 183 (S_aload 0 184) := k_aload_n dX3_submit_183 rfl
theorem r_X3_submit_184 (E : ax_EN G l) : ax_Snd G l ax_Ym M_X3_submit 184 (S_iload 4 186) := k_iload dX3_submit_184
theorem r_X3_submit_186 (E : ax_EN G l) : ax_Snd G l ax_Ym M_X3_submit 186 (S_putf [(38, 43)] (.int) 189) := k_putf (en_F E) (en_P E) (ax_fes_cons (fe_462 E) ax_fes_nil) (ax_fps_cons (fp_463 E) ax_fps_nil) q2796 dX3_submit_186
theorem r_X3_submit_189 (E : ax_EN G l) : ax_Snd G l ax_Ym M_X3_submit 189 (S_push (.int (0)) 190) := k_iconst dX3_submit_189 rfl
theorem r_X3_submit_190 (E : ax_EN G l) : ax_Snd G l ax_Ym M_X3_submit 190 (S_istore 6 192) := k_istore dX3_submit_190 (Nat.le_of_ble_eq_true rfl)
theorem r_X3_submit_192 (E : ax_EN G l) : ax_Snd G l ax_Ym M_X3_submit 192 (S_iload 6 194) := k_iload dX3_submit_192
theorem r_X3_submit_194 (E : ax_EN G l) : ax_Snd G l ax_Ym M_X3_submit 194 (S_push (.int (20)) 196) := k_bipush dX3_submit_194 rfl
theorem r_X3_submit_196 (E : ax_EN G l) : ax_Snd G l ax_Ym M_X3_submit 196 (S_if2 (fun x y => decide (y ≤ x)) 233 199) := k_icmp_ge dX3_submit_196 rfl
theorem r_X3_submit_199 (E : ax_EN G l) : ax_Snd G l ax_Ym M_X3_submit 199 (S_aload 0 200) := k_aload_n dX3_submit_199 rfl
theorem r_X3_submit_200 (E : ax_EN G l) : ax_Snd G l ax_Ym M_X3_submit 200 (S_getf [(38, 41)] 203) := k_getf (en_F E) (ax_fes_cons (fe_390 E) ax_fes_nil) q2794 dX3_submit_200
theorem r_X3_submit_203 (E : ax_EN G l) : ax_Snd G l ax_Ym M_X3_submit 203 (S_iload 6 205) := k_iload dX3_submit_203
theorem r_X3_submit_205 (E : ax_EN G l) : ax_Snd G l ax_Ym M_X3_submit 205 (S_aload 0 206) := k_aload_n dX3_submit_205 rfl
theorem r_X3_submit_206 (E : ax_EN G l) : ax_Snd G l ax_Ym M_X3_submit 206 (S_getf [(38, 72)] 209) := k_getf (en_F E) (ax_fes_cons (fe_436 E) ax_fes_nil) q2825 dX3_submit_206
theorem r_X3_submit_209 (E : ax_EN G l) : ax_Snd G l ax_Ym M_X3_submit 209 (S_iload 6 211) := k_iload dX3_submit_209
theorem r_X3_submit_211 (E : ax_EN G l) : ax_Snd G l ax_Ym M_X3_submit 211 (S_iald 0 212) := k_iald (en_F E) dX3_submit_211
theorem r_X3_submit_212 (E : ax_EN G l) : ax_Snd G l ax_Ym M_X3_submit 212 (S_iast 0 (fun x => x) 213) := k_iast (en_F E) dX3_submit_212
theorem r_X3_submit_213 (E : ax_EN G l) : ax_Snd G l ax_Ym M_X3_submit 213 (S_aload 0 214) := k_aload_n dX3_submit_213 rfl
theorem r_X3_submit_214 (E : ax_EN G l) : ax_Snd G l ax_Ym M_X3_submit 214 (S_getf [(38, 42)] 217) := k_getf (en_F E) (ax_fes_cons (fe_392 E) ax_fes_nil) q2795 dX3_submit_214
theorem r_X3_submit_217 (E : ax_EN G l) : ax_Snd G l ax_Ym M_X3_submit 217 (S_iload 6 219) := k_iload dX3_submit_217
theorem r_X3_submit_219 (E : ax_EN G l) : ax_Snd G l ax_Ym M_X3_submit 219 (S_aload 0 220) := k_aload_n dX3_submit_219 rfl
theorem r_X3_submit_220 (E : ax_EN G l) : ax_Snd G l ax_Ym M_X3_submit 220 (S_getf [(38, 73)] 223) := k_getf (en_F E) (ax_fes_cons (fe_438 E) ax_fes_nil) q2826 dX3_submit_220
theorem r_X3_submit_223 (E : ax_EN G l) : ax_Snd G l ax_Ym M_X3_submit 223 (S_iload 6 225) := k_iload dX3_submit_223
theorem r_X3_submit_225 (E : ax_EN G l) : ax_Snd G l ax_Ym M_X3_submit 225 (S_iald 0 226) := k_iald (en_F E) dX3_submit_225
theorem r_X3_submit_226 (E : ax_EN G l) : ax_Snd G l ax_Ym M_X3_submit 226 (S_iast 0 (fun x => x) 227) := k_iast (en_F E) dX3_submit_226
theorem r_X3_submit_227 (E : ax_EN G l) : ax_Snd G l ax_Ym M_X3_submit 227 (S_iinc 6 (1) 230) := k_iinc dX3_submit_227 rfl (Nat.le_of_ble_eq_true rfl)
theorem r_X3_submit_230 (E : ax_EN G l) : ax_Snd G l ax_Ym M_X3_submit 230 (S_goto 192) := k_goto dX3_submit_230 rfl
theorem r_X3_submit_233 (E : ax_EN G l) : ax_Snd G l ax_Ym M_X3_submit 233 (S_aload 0 234) := k_aload_n dX3_submit_233 rfl
theorem r_X3_submit_234 (E : ax_EN G l) : ax_Snd G l ax_Ym M_X3_submit 234 (S_iv [(38, 411)] 0 237 hd_0) := k_iv (en_F E) (ax_ok0 E rfl) (ax_Evs_cons ((ev_v (en_c E (k := 38) rfl) rfl y_X3_sleeps q3131 q3133 qs80 q126 q3134 nm_X3_sleeps (Nat.le_of_ble_eq_true rfl) dX3_submit_234) : ax_EvV G l ax_Ym M_X3_submit 234 0 3 38 411) ax_Evs_nil)
theorem r_X3_submit_237 (E : ax_EN G l) : ax_Snd G l ax_Ym M_X3_submit 237 (S_aload 0 238) := k_aload_n dX3_submit_237 rfl
theorem r_X3_submit_238 (E : ax_EN G l) : ax_Snd G l ax_Ym M_X3_submit 238 (S_getf [(38, 71)] 241) := k_getf (en_F E) (ax_fes_cons (fe_434 E) ax_fes_nil) q2824 dX3_submit_238
theorem r_X3_submit_241 (E : ax_EN G l) : ax_Snd G l ax_Ym M_X3_submit 241 (S_aload 0 242) := k_aload_n dX3_submit_241 rfl
theorem r_X3_submit_242 (E : ax_EN G l) : ax_Snd G l ax_Ym M_X3_submit 242 (S_getf [(38, 50)] 245) := k_getf (en_F E) (ax_fes_cons (fe_402 E) ax_fes_nil) q2803 dX3_submit_242
theorem r_X3_submit_245 (E : ax_EN G l) : ax_Snd G l ax_Ym M_X3_submit 245 (S_is 409 2 248 hd_0) := k_is (en_F E) (ax_ok0 E rfl) ((ev_s y_X3_copies q3124 q3125 q126 q3126 nm_X3_copies (Nat.le_of_ble_eq_true rfl) dX3_submit_245) : ax_EvS G l ax_Ym M_X3_submit 245 409 2 3)
theorem r_X3_submit_248 (E : ax_EN G l) : ax_Snd G l ax_Ym M_X3_submit 248 (S_aload 0 249) := k_aload_n dX3_submit_248 rfl
theorem r_X3_submit_249 (E : ax_EN G l) : ax_Snd G l ax_Ym M_X3_submit 249 (S_iload 3 250) := k_iload_n dX3_submit_249 rfl
theorem r_X3_submit_250 (E : ax_EN G l) : ax_Snd G l ax_Ym M_X3_submit 250 (S_putf [(38, 52)] (.int) 253) := k_putf (en_F E) (en_P E) (ax_fes_cons (fe_440 E) ax_fes_nil) (ax_fps_cons (fp_441 E) ax_fps_nil) q2805 dX3_submit_250
theorem r_X3_submit_253 (E : ax_EN G l) : ax_Snd G l ax_Ym M_X3_submit 253 (S_iload 1 254) := k_iload_n dX3_submit_253 rfl
theorem r_X3_submit_254 (E : ax_EN G l) : ax_Snd G l ax_Ym M_X3_submit 254 (S_if1 (fun x => decide (x = 0)) 262 257) := k_if_eq dX3_submit_254 rfl
theorem r_X3_submit_257 (E : ax_EN G l) : ax_Snd G l ax_Ym M_X3_submit 257 (S_aload 0 258) := k_aload_n dX3_submit_257 rfl
theorem r_X3_submit_258 (E : ax_EN G l) : ax_Snd G l ax_Ym M_X3_submit 258 (S_iload 2 259) := k_iload_n dX3_submit_258 rfl
theorem r_X3_submit_259 (E : ax_EN G l) : ax_Snd G l ax_Ym M_X3_submit 259 (S_iv [(38, 452)] 1 262 hd_0) := k_iv (en_F E) (ax_ok0 E rfl) (ax_Evs_cons ((ev_v (en_c E (k := 38) rfl) rfl y_X3_makesAnew q3289 q3291 qs109 q126 q3292 nm_X3_makesAnew (Nat.le_of_ble_eq_true rfl) dX3_submit_259) : ax_EvV G l ax_Ym M_X3_submit 259 1 3 38 452) ax_Evs_nil)
theorem r_X3_submit_262 (E : ax_EN G l) : ax_Snd G l ax_Ym M_X3_submit 262 (S_iload 5 264) := k_iload dX3_submit_262
theorem r_X3_submit_264 (E : ax_EN G l) : ax_Snd G l ax_Ym M_X3_submit 264 (S_iret) := k_iret dX3_submit_264 rfl
theorem mt_X3_submit (E : ax_EN G l) : ax_mt G l ax_Ym (7, P_X3_submit) (ax_Ym 487) := ⟨M_X3_submit, yX3_submit, ⟨rfl, by decide +kernel, rfl, (fun h => by cases h), Or.inl ⟨rfl, rfl⟩⟩, fun pc => (ax_sn_node (ax_sn_node (ax_sn_node (ax_sn_node (ax_sn_node (ax_sn_node (ax_sn_node (ax_sn_node (ax_sn_leaf (r_X3_submit_264 E)) (ax_sn_leaf (r_X3_submit_262 E))) (ax_sn_leaf (r_X3_submit_259 E))) (ax_sn_node (ax_sn_leaf (r_X3_submit_258 E)) (ax_sn_leaf (r_X3_submit_257 E)))) (ax_sn_node (ax_sn_node (ax_sn_leaf (r_X3_submit_254 E)) (ax_sn_leaf (r_X3_submit_253 E))) (ax_sn_node (ax_sn_leaf (r_X3_submit_250 E)) (ax_sn_leaf (r_X3_submit_249 E))))) (ax_sn_node (ax_sn_node (ax_sn_node (ax_sn_node (ax_sn_leaf (r_X3_submit_248 E)) (ax_sn_leaf (r_X3_submit_245 E))) (ax_sn_leaf (r_X3_submit_242 E))) (ax_sn_node (ax_sn_leaf (r_X3_submit_241 E)) (ax_sn_leaf (r_X3_submit_238 E)))) (ax_sn_node (ax_sn_node (ax_sn_leaf (r_X3_submit_237 E)) (ax_sn_leaf (r_X3_submit_234 E))) (ax_sn_node (ax_sn_leaf (r_X3_submit_233 E)) (ax_sn_leaf (r_X3_submit_230 E)))))) (ax_sn_node (ax_sn_node (ax_sn_node (ax_sn_node (ax_sn_node (ax_sn_leaf (r_X3_submit_227 E)) (ax_sn_leaf (r_X3_submit_226 E))) (ax_sn_leaf (r_X3_submit_225 E))) (ax_sn_node (ax_sn_leaf (r_X3_submit_223 E)) (ax_sn_leaf (r_X3_submit_220 E)))) (ax_sn_node (ax_sn_node (ax_sn_leaf (r_X3_submit_219 E)) (ax_sn_leaf (r_X3_submit_217 E))) (ax_sn_node (ax_sn_leaf (r_X3_submit_214 E)) (ax_sn_leaf (r_X3_submit_213 E))))) (ax_sn_node (ax_sn_node (ax_sn_node (ax_sn_leaf (r_X3_submit_212 E)) (ax_sn_leaf (r_X3_submit_211 E))) (ax_sn_node (ax_sn_leaf (r_X3_submit_209 E)) (ax_sn_leaf (r_X3_submit_206 E)))) (ax_sn_node (ax_sn_node (ax_sn_leaf (r_X3_submit_205 E)) (ax_sn_leaf (r_X3_submit_203 E))) (ax_sn_node (ax_sn_leaf (r_X3_submit_200 E)) (ax_sn_leaf (r_X3_submit_199 E))))))) (ax_sn_node (ax_sn_node (ax_sn_node (ax_sn_node (ax_sn_node (ax_sn_node (ax_sn_leaf (r_X3_submit_196 E)) (ax_sn_leaf (r_X3_submit_194 E))) (ax_sn_leaf (r_X3_submit_192 E))) (ax_sn_node (ax_sn_leaf (r_X3_submit_190 E)) (ax_sn_leaf (r_X3_submit_189 E)))) (ax_sn_node (ax_sn_node (ax_sn_leaf (r_X3_submit_186 E)) (ax_sn_leaf (r_X3_submit_184 E))) (ax_sn_node (ax_sn_leaf (r_X3_submit_183 E)) (ax_sn_leaf (r_X3_submit_180 E))))) (ax_sn_node (ax_sn_node (ax_sn_node (ax_sn_node (ax_sn_leaf (r_X3_submit_177 E)) (ax_sn_leaf (r_X3_submit_175 E))) (ax_sn_leaf (r_X3_submit_174 E))) (ax_sn_node (ax_sn_leaf (r_X3_submit_173 E)) (ax_sn_leaf (r_X3_submit_170 E)))) (ax_sn_node (ax_sn_node (ax_sn_leaf (r_X3_submit_169 E)) (ax_sn_leaf (r_X3_submit_166 E))) (ax_sn_node (ax_sn_leaf (r_X3_submit_165 E)) (ax_sn_leaf (r_X3_submit_163 E)))))) (ax_sn_node (ax_sn_node (ax_sn_node (ax_sn_node (ax_sn_node (ax_sn_leaf (r_X3_submit_160 E)) (ax_sn_leaf (r_X3_submit_159 E))) (ax_sn_leaf (r_X3_submit_157 E))) (ax_sn_node (ax_sn_leaf (r_X3_submit_156 E)) (ax_sn_leaf (r_X3_submit_155 E)))) (ax_sn_node (ax_sn_node (ax_sn_leaf (r_X3_submit_152 E)) (ax_sn_leaf (r_X3_submit_151 E))) (ax_sn_node (ax_sn_leaf (r_X3_submit_148 E)) (ax_sn_leaf (r_X3_submit_147 E))))) (ax_sn_node (ax_sn_node (ax_sn_node (ax_sn_leaf (r_X3_submit_145 E)) (ax_sn_leaf (r_X3_submit_142 E))) (ax_sn_node (ax_sn_leaf (r_X3_submit_141 E)) (ax_sn_leaf (r_X3_submit_138 E)))) (ax_sn_node (ax_sn_node (ax_sn_leaf (r_X3_submit_137 E)) (ax_sn_leaf (r_X3_submit_135 E))) (ax_sn_node (ax_sn_leaf (r_X3_submit_132 E)) (ax_sn_leaf (r_X3_submit_131 E)))))))) (ax_sn_node (ax_sn_node (ax_sn_node (ax_sn_node (ax_sn_node (ax_sn_node (ax_sn_node (ax_sn_leaf (r_X3_submit_129 E)) (ax_sn_leaf (r_X3_submit_126 E))) (ax_sn_leaf (r_X3_submit_125 E))) (ax_sn_node (ax_sn_leaf (r_X3_submit_124 E)) (ax_sn_leaf (r_X3_submit_121 E)))) (ax_sn_node (ax_sn_node (ax_sn_leaf (r_X3_submit_119 E)) (ax_sn_leaf (r_X3_submit_118 E))) (ax_sn_node (ax_sn_leaf (r_X3_submit_116 E)) (ax_sn_leaf (r_X3_submit_113 E))))) (ax_sn_node (ax_sn_node (ax_sn_node (ax_sn_node (ax_sn_leaf (r_X3_submit_112 E)) (ax_sn_leaf (r_X3_submit_109 E))) (ax_sn_leaf (r_X3_submit_106 E))) (ax_sn_node (ax_sn_leaf (r_X3_submit_105 E)) (ax_sn_leaf (r_X3_submit_103 E)))) (ax_sn_node (ax_sn_node (ax_sn_leaf (r_X3_submit_101 E)) (ax_sn_leaf (r_X3_submit_100 E))) (ax_sn_node (ax_sn_leaf (r_X3_submit_98 E)) (ax_sn_leaf (r_X3_submit_97 E)))))) (ax_sn_node (ax_sn_node (ax_sn_node (ax_sn_node (ax_sn_node (ax_sn_leaf (r_X3_submit_94 E)) (ax_sn_leaf (r_X3_submit_91 E))) (ax_sn_leaf (r_X3_submit_90 E))) (ax_sn_node (ax_sn_leaf (r_X3_submit_89 E)) (ax_sn_leaf (r_X3_submit_87 E)))) (ax_sn_node (ax_sn_node (ax_sn_leaf (r_X3_submit_84 E)) (ax_sn_leaf (r_X3_submit_83 E))) (ax_sn_node (ax_sn_leaf (r_X3_submit_81 E)) (ax_sn_leaf (r_X3_submit_78 E))))) (ax_sn_node (ax_sn_node (ax_sn_node (ax_sn_leaf (r_X3_submit_77 E)) (ax_sn_leaf (r_X3_submit_76 E))) (ax_sn_node (ax_sn_leaf (r_X3_submit_75 E)) (ax_sn_leaf (r_X3_submit_73 E)))) (ax_sn_node (ax_sn_node (ax_sn_leaf (r_X3_submit_70 E)) (ax_sn_leaf (r_X3_submit_69 E))) (ax_sn_node (ax_sn_leaf (r_X3_submit_67 E)) (ax_sn_leaf (r_X3_submit_64 E))))))) (ax_sn_node (ax_sn_node (ax_sn_node (ax_sn_node (ax_sn_node (ax_sn_node (ax_sn_leaf (r_X3_submit_63 E)) (ax_sn_leaf (r_X3_submit_60 E))) (ax_sn_leaf (r_X3_submit_58 E))) (ax_sn_node (ax_sn_leaf (r_X3_submit_56 E)) (ax_sn_leaf (r_X3_submit_54 E)))) (ax_sn_node (ax_sn_node (ax_sn_leaf (r_X3_submit_53 E)) (ax_sn_leaf (r_X3_submit_50 E))) (ax_sn_node (ax_sn_leaf (r_X3_submit_47 E)) (ax_sn_leaf (r_X3_submit_46 E))))) (ax_sn_node (ax_sn_node (ax_sn_node (ax_sn_leaf (r_X3_submit_43 E)) (ax_sn_leaf (r_X3_submit_42 E))) (ax_sn_node (ax_sn_leaf (r_X3_submit_40 E)) (ax_sn_leaf (r_X3_submit_37 E)))) (ax_sn_node (ax_sn_node (ax_sn_leaf (r_X3_submit_36 E)) (ax_sn_leaf (r_X3_submit_35 E))) (ax_sn_node (ax_sn_leaf (r_X3_submit_32 E)) (ax_sn_leaf (r_X3_submit_31 E)))))) (ax_sn_node (ax_sn_node (ax_sn_node (ax_sn_node (ax_sn_node (ax_sn_leaf (r_X3_submit_30 E)) (ax_sn_leaf (r_X3_submit_27 E))) (ax_sn_leaf (r_X3_submit_26 E))) (ax_sn_node (ax_sn_leaf (r_X3_submit_25 E)) (ax_sn_leaf (r_X3_submit_22 E)))) (ax_sn_node (ax_sn_node (ax_sn_leaf (r_X3_submit_21 E)) (ax_sn_leaf (r_X3_submit_20 E))) (ax_sn_node (ax_sn_leaf (r_X3_submit_19 E)) (ax_sn_leaf (r_X3_submit_16 E))))) (ax_sn_node (ax_sn_node (ax_sn_node (ax_sn_leaf (r_X3_submit_13 E)) (ax_sn_leaf (r_X3_submit_12 E))) (ax_sn_node (ax_sn_leaf (r_X3_submit_9 E)) (ax_sn_leaf (r_X3_submit_8 E)))) (ax_sn_node (ax_sn_node (ax_sn_leaf (r_X3_submit_5 E)) (ax_sn_leaf (r_X3_submit_2 E))) (ax_sn_node (ax_sn_leaf (r_X3_submit_1 E)) (ax_sn_leaf (r_X3_submit_0 E)))))))))⟩
theorem r_X3_madeTest_0 (E : ax_EN G l) : ax_Snd G l ax_Ym M_X3_madeTest 0 (S_aload 0 1) := k_aload_n dX3_madeTest_0 rfl
theorem r_X3_madeTest_1 (E : ax_EN G l) : ax_Snd G l ax_Ym M_X3_madeTest 1 (S_iv [(38, 371)] 0 4 hd_0) := k_iv (en_F E) (ax_ok0 E rfl) (ax_Evs_cons ((ev_v (en_c E (k := 38) rfl) rfl y_X3_formats q2749 q2751 qs59 q126 q2752 nm_X3_formats (Nat.le_of_ble_eq_true rfl) dX3_madeTest_1) : ax_EvV G l ax_Ym M_X3_madeTest 1 0 3 38 371) ax_Evs_nil)
theorem r_X3_madeTest_4 (E : ax_EN G l) : ax_Snd G l ax_Ym M_X3_madeTest 4 (S_aload 0 5) := k_aload_n dX3_madeTest_4 rfl
theorem r_X3_madeTest_5 (E : ax_EN G l) : ax_Snd G l ax_Ym M_X3_madeTest 5 (S_aload 0 6) := k_aload_n dX3_madeTest_5 rfl
theorem r_X3_madeTest_6 (E : ax_EN G l) : ax_Snd G l ax_Ym M_X3_madeTest 6 (S_getf [(38, 62)] 9) := k_getf (en_F E) (ax_fes_cons (fe_416 E) ax_fes_nil) q2815 dX3_madeTest_6
theorem r_X3_madeTest_9 (E : ax_EN G l) : ax_Snd G l ax_Ym M_X3_madeTest 9 (S_iload 1 10) := k_iload_n dX3_madeTest_9 rfl
theorem r_X3_madeTest_10 (E : ax_EN G l) : ax_Snd G l ax_Ym M_X3_madeTest 10 (S_iald 0 11) := k_iald (en_F E) dX3_madeTest_10
theorem r_X3_madeTest_11 (E : ax_EN G l) : ax_Snd G l ax_Ym M_X3_madeTest 11 (S_putf [(38, 43)] (.int) 14) := k_putf (en_F E) (en_P E) (ax_fes_cons (fe_462 E) ax_fes_nil) (ax_fps_cons (fp_463 E) ax_fps_nil) q2796 dX3_madeTest_11
theorem r_X3_madeTest_14 (E : ax_EN G l) : ax_Snd G l ax_Ym M_X3_madeTest 14 (S_push (.int (0)) 15) := k_iconst dX3_madeTest_14 rfl
theorem r_X3_madeTest_15 (E : ax_EN G l) : ax_Snd G l ax_Ym M_X3_madeTest 15 (S_istore 2 16) := k_istore_n dX3_madeTest_15 rfl (Nat.le_of_ble_eq_true rfl)
theorem r_X3_madeTest_16 (E : ax_EN G l) : ax_Snd G l ax_Ym M_X3_madeTest 16 (S_iload 2 17) := k_iload_n dX3_madeTest_16 rfl
theorem r_X3_madeTest_17 (E : ax_EN G l) : ax_Snd G l ax_Ym M_X3_madeTest 17 (S_aload 0 18) := k_aload_n dX3_madeTest_17 rfl
theorem r_X3_madeTest_18 (E : ax_EN G l) : ax_Snd G l ax_Ym M_X3_madeTest 18 (S_getf [(38, 43)] 21) := k_getf (en_F E) (ax_fes_cons (fe_462 E) ax_fes_nil) q2796 dX3_madeTest_18
theorem r_X3_madeTest_21 (E : ax_EN G l) : ax_Snd G l ax_Ym M_X3_madeTest 21 (S_if2 (fun x y => decide (y ≤ x)) 54 24) := k_icmp_ge dX3_madeTest_21 rfl
theorem r_X3_madeTest_24 (E : ax_EN G l) : ax_Snd G l ax_Ym M_X3_madeTest 24 (S_aload 0 25) := k_aload_n dX3_madeTest_24 rfl
theorem r_X3_madeTest_25 (E : ax_EN G l) : ax_Snd G l ax_Ym M_X3_madeTest 25 (S_getf [(38, 41)] 28) := k_getf (en_F E) (ax_fes_cons (fe_390 E) ax_fes_nil) q2794 dX3_madeTest_25
theorem r_X3_madeTest_28 (E : ax_EN G l) : ax_Snd G l ax_Ym M_X3_madeTest 28 (S_iload 2 29) := k_iload_n dX3_madeTest_28 rfl
theorem r_X3_madeTest_29 (E : ax_EN G l) : ax_Snd G l ax_Ym M_X3_madeTest 29 (S_push (.int (0)) 30) := k_iconst dX3_madeTest_29 rfl
theorem r_X3_madeTest_30 (E : ax_EN G l) : ax_Snd G l ax_Ym M_X3_madeTest 30 (S_iast 0 (fun x => x) 31) := k_iast (en_F E) dX3_madeTest_30
theorem r_X3_madeTest_31 (E : ax_EN G l) : ax_Snd G l ax_Ym M_X3_madeTest 31 (S_aload 0 32) := k_aload_n dX3_madeTest_31 rfl
theorem r_X3_madeTest_32 (E : ax_EN G l) : ax_Snd G l ax_Ym M_X3_madeTest 32 (S_getf [(38, 42)] 35) := k_getf (en_F E) (ax_fes_cons (fe_392 E) ax_fes_nil) q2795 dX3_madeTest_32
theorem r_X3_madeTest_35 (E : ax_EN G l) : ax_Snd G l ax_Ym M_X3_madeTest 35 (S_iload 2 36) := k_iload_n dX3_madeTest_35 rfl
theorem r_X3_madeTest_36 (E : ax_EN G l) : ax_Snd G l ax_Ym M_X3_madeTest 36 (S_aload 0 37) := k_aload_n dX3_madeTest_36 rfl
theorem r_X3_madeTest_37 (E : ax_EN G l) : ax_Snd G l ax_Ym M_X3_madeTest 37 (S_getf [(38, 61)] 40) := k_getf (en_F E) (ax_fes_cons (fe_414 E) ax_fes_nil) q2814 dX3_madeTest_37
theorem r_X3_madeTest_40 (E : ax_EN G l) : ax_Snd G l ax_Ym M_X3_madeTest 40 (S_push (.int (6)) 42) := k_bipush dX3_madeTest_40 rfl
theorem r_X3_madeTest_42 (E : ax_EN G l) : ax_Snd G l ax_Ym M_X3_madeTest 42 (S_iload 1 43) := k_iload_n dX3_madeTest_42 rfl
theorem r_X3_madeTest_43 (E : ax_EN G l) : ax_Snd G l ax_Ym M_X3_madeTest 43 (S_i2 (fun x y => x * y) 44) := k_imul dX3_madeTest_43
theorem r_X3_madeTest_44 (E : ax_EN G l) : ax_Snd G l ax_Ym M_X3_madeTest 44 (S_iload 2 45) := k_iload_n dX3_madeTest_44 rfl
theorem r_X3_madeTest_45 (E : ax_EN G l) : ax_Snd G l ax_Ym M_X3_madeTest 45 (S_i2 (fun x y => x + y) 46) := k_iadd dX3_madeTest_45
theorem r_X3_madeTest_46 (E : ax_EN G l) : ax_Snd G l ax_Ym M_X3_madeTest 46 (S_iald 0 47) := k_iald (en_F E) dX3_madeTest_46
theorem r_X3_madeTest_47 (E : ax_EN G l) : ax_Snd G l ax_Ym M_X3_madeTest 47 (S_iast 0 (fun x => x) 48) := k_iast (en_F E) dX3_madeTest_47
theorem r_X3_madeTest_48 (E : ax_EN G l) : ax_Snd G l ax_Ym M_X3_madeTest 48 (S_iinc 2 (1) 51) := k_iinc dX3_madeTest_48 rfl (Nat.le_of_ble_eq_true rfl)
theorem r_X3_madeTest_51 (E : ax_EN G l) : ax_Snd G l ax_Ym M_X3_madeTest 51 (S_goto 16) := k_goto dX3_madeTest_51 rfl
theorem r_X3_madeTest_54 (E : ax_EN G l) : ax_Snd G l ax_Ym M_X3_madeTest 54 (S_aload 0 55) := k_aload_n dX3_madeTest_54 rfl
theorem r_X3_madeTest_55 (E : ax_EN G l) : ax_Snd G l ax_Ym M_X3_madeTest 55 (S_aload 0 56) := k_aload_n dX3_madeTest_55 rfl
theorem r_X3_madeTest_56 (E : ax_EN G l) : ax_Snd G l ax_Ym M_X3_madeTest 56 (S_getf [(38, 21)] 59) := k_getf (en_F E) (ax_fes_cons (fe_382 E) ax_fes_nil) q2774 dX3_madeTest_56
theorem r_X3_madeTest_59 (E : ax_EN G l) : ax_Snd G l ax_Ym M_X3_madeTest 59 (S_iv [(38, 410)] 1 62 hd_0) := k_iv (en_F E) (ax_ok0 E rfl) (ax_Evs_cons ((ev_v (en_c E (k := 38) rfl) rfl y_X3_wakes q3127 q3129 qs79 q126 q3130 nm_X3_wakes (Nat.le_of_ble_eq_true rfl) dX3_madeTest_59) : ax_EvV G l ax_Ym M_X3_madeTest 59 1 3 38 410) ax_Evs_nil)
theorem r_X3_madeTest_62 (E : ax_EN G l) : ax_Snd G l ax_Ym M_X3_madeTest 62 (S_aload 0 63) := k_aload_n dX3_madeTest_62 rfl
theorem r_X3_madeTest_63 (E : ax_EN G l) : ax_Snd G l ax_Ym M_X3_madeTest 63 (S_iv [(38, 449)] 0 66 hd_0) := k_iv (en_F E) (ax_ok0 E rfl) (ax_Evs_cons ((ev_v (en_c E (k := 38) rfl) rfl y_X3_keysCome q3277 q3279 qs108 q126 q3280 nm_X3_keysCome (Nat.le_of_ble_eq_true rfl) dX3_madeTest_63) : ax_EvV G l ax_Ym M_X3_madeTest 63 0 3 38 449) ax_Evs_nil)
theorem r_X3_madeTest_66 (E : ax_EN G l) : ax_Snd G l ax_Ym M_X3_madeTest 66 (S_push (.int (0)) 67) := k_iconst dX3_madeTest_66 rfl
theorem r_X3_madeTest_67 (E : ax_EN G l) : ax_Snd G l ax_Ym M_X3_madeTest 67 (S_istore 2 68) := k_istore_n dX3_madeTest_67 rfl (Nat.le_of_ble_eq_true rfl)
theorem r_X3_madeTest_68 (E : ax_EN G l) : ax_Snd G l ax_Ym M_X3_madeTest 68 (S_aload 0 69) := k_aload_n dX3_madeTest_68 rfl
theorem r_X3_madeTest_69 (E : ax_EN G l) : ax_Snd G l ax_Ym M_X3_madeTest 69 (S_getf [(38, 23)] 72) := k_getf (en_F E) (ax_fes_cons (fe_466 E) ax_fes_nil) q2776 dX3_madeTest_69
theorem r_X3_madeTest_72 (E : ax_EN G l) : ax_Snd G l ax_Ym M_X3_madeTest 72 (S_push (.int (1)) 73) := k_iconst dX3_madeTest_72 rfl
theorem r_X3_madeTest_73 (E : ax_EN G l) : ax_Snd G l ax_Ym M_X3_madeTest 73 (S_if2 (fun x y => decide (¬ x = y)) 132 76) := k_icmp_ne dX3_madeTest_73 rfl
theorem r_X3_madeTest_76 (E : ax_EN G l) : ax_Snd G l ax_Ym M_X3_madeTest 76 (S_iload 2 77) := k_iload_n dX3_madeTest_76 rfl
theorem r_X3_madeTest_77 (E : ax_EN G l) : ax_Snd G l ax_Ym M_X3_madeTest 77 (S_aload 0 78) := k_aload_n dX3_madeTest_77 rfl
theorem r_X3_madeTest_78 (E : ax_EN G l) : ax_Snd G l ax_Ym M_X3_madeTest 78 (S_getf [(38, 65)] 81) := k_getf (en_F E) (ax_fes_cons (fe_422 E) ax_fes_nil) q2818 dX3_madeTest_78
theorem r_X3_madeTest_81 (E : ax_EN G l) : ax_Snd G l ax_Ym M_X3_madeTest 81 (S_iload 1 82) := k_iload_n dX3_madeTest_81 rfl
theorem r_X3_madeTest_82 (E : ax_EN G l) : ax_Snd G l ax_Ym M_X3_madeTest 82 (S_iald 0 83) := k_iald (en_F E) dX3_madeTest_82
theorem r_X3_madeTest_83 (E : ax_EN G l) : ax_Snd G l ax_Ym M_X3_madeTest 83 (S_if2 (fun x y => decide (y ≤ x)) 132 86) := k_icmp_ge dX3_madeTest_83 rfl
theorem r_X3_madeTest_86 (E : ax_EN G l) : ax_Snd G l ax_Ym M_X3_madeTest 86 (S_aload 0 87) := k_aload_n dX3_madeTest_86 rfl
theorem r_X3_madeTest_87 (E : ax_EN G l) : ax_Snd G l ax_Ym M_X3_madeTest 87 (S_iv [(38, 419)] 0 90 hd_0) := k_iv (en_F E) (ax_ok0 E rfl) (ax_Evs_cons ((ev_v (en_c E (k := 38) rfl) rfl y_X3_stepsOnce q3162 q3164 qs84 q126 q3165 nm_X3_stepsOnce (Nat.le_of_ble_eq_true rfl) dX3_madeTest_87) : ax_EvV G l ax_Ym M_X3_madeTest 87 0 3 38 419) ax_Evs_nil)
theorem r_X3_madeTest_90 (E : ax_EN G l) : ax_Snd G l ax_Ym M_X3_madeTest 90 (S_iinc 2 (1) 93) := k_iinc dX3_madeTest_90 rfl (Nat.le_of_ble_eq_true rfl)
theorem r_X3_madeTest_93 (E : ax_EN G l) : ax_Snd G l ax_Ym M_X3_madeTest 93 (S_iload 2 94) := k_iload_n dX3_madeTest_93 rfl
theorem r_X3_madeTest_94 (E : ax_EN G l) : ax_Snd G l ax_Ym M_X3_madeTest 94 (S_aload 0 95) := k_aload_n dX3_madeTest_94 rfl
theorem r_X3_madeTest_95 (E : ax_EN G l) : ax_Snd G l ax_Ym M_X3_madeTest 95 (S_getf [(38, 68)] 98) := k_getf (en_F E) (ax_fes_cons (fe_428 E) ax_fes_nil) q2821 dX3_madeTest_95
theorem r_X3_madeTest_98 (E : ax_EN G l) : ax_Snd G l ax_Ym M_X3_madeTest 98 (S_iload 1 99) := k_iload_n dX3_madeTest_98 rfl
theorem r_X3_madeTest_99 (E : ax_EN G l) : ax_Snd G l ax_Ym M_X3_madeTest 99 (S_iald 0 100) := k_iald (en_F E) dX3_madeTest_99
theorem r_X3_madeTest_100 (E : ax_EN G l) : ax_Snd G l ax_Ym M_X3_madeTest 100 (S_if2 (fun x y => decide (¬ x = y)) 68 103) := k_icmp_ne dX3_madeTest_100 rfl
theorem r_X3_madeTest_103 (E : ax_EN G l) : ax_Snd G l ax_Ym M_X3_madeTest 103 (S_aload 0 104) := k_aload_n dX3_madeTest_103 rfl
theorem r_X3_madeTest_104 (E : ax_EN G l) : ax_Snd G l ax_Ym M_X3_madeTest 104 (S_getf [(38, 23)] 107) := k_getf (en_F E) (ax_fes_cons (fe_466 E) ax_fes_nil) q2776 dX3_madeTest_104
theorem r_X3_madeTest_107 (E : ax_EN G l) : ax_Snd G l ax_Ym M_X3_madeTest 107 (S_push (.int (1)) 108) := k_iconst dX3_madeTest_107 rfl
theorem r_X3_madeTest_108 (E : ax_EN G l) : ax_Snd G l ax_Ym M_X3_madeTest 108 (S_if2 (fun x y => decide (¬ x = y)) 68 111) := k_icmp_ne dX3_madeTest_108 rfl
theorem r_X3_madeTest_111 (E : ax_EN G l) : ax_Snd G l ax_Ym M_X3_madeTest 111 (S_aload 0 112) := k_aload_n dX3_madeTest_111 rfl
theorem r_X3_madeTest_112 (E : ax_EN G l) : ax_Snd G l ax_Ym M_X3_madeTest 112 (S_iv [(38, 406)] 0 115 hd_0) := k_iv (en_F E) (ax_ok0 E rfl) (ax_Evs_cons ((ev_v (en_c E (k := 38) rfl) rfl y_X3_mends q3112 q3114 qs76 q126 q3115 nm_X3_mends (Nat.le_of_ble_eq_true rfl) dX3_madeTest_112) : ax_EvV G l ax_Ym M_X3_madeTest 112 0 3 38 406) ax_Evs_nil)
theorem r_X3_madeTest_115 (E : ax_EN G l) : ax_Snd G l ax_Ym M_X3_madeTest 115 (S_pop 116) := k_pop dX3_madeTest_115
theorem r_X3_madeTest_116 (E : ax_EN G l) : ax_Snd G l ax_Ym M_X3_madeTest 116 (S_aload 0 117) := k_aload_n dX3_madeTest_116 rfl
theorem r_X3_madeTest_117 (E : ax_EN G l) : ax_Snd G l ax_Ym M_X3_madeTest 117 (S_push (.int (0)) 118) := k_iconst dX3_madeTest_117 rfl
theorem r_X3_madeTest_118 (E : ax_EN G l) : ax_Snd G l ax_Ym M_X3_madeTest 118 (S_putf [(38, 43)] (.int) 121) := k_putf (en_F E) (en_P E) (ax_fes_cons (fe_462 E) ax_fes_nil) (ax_fps_cons (fp_463 E) ax_fps_nil) q2796 dX3_madeTest_118
theorem r_X3_madeTest_121 (E : ax_EN G l) : ax_Snd G l ax_Ym M_X3_madeTest 121 (S_aload 0 122) := k_aload_n dX3_madeTest_121 rfl
theorem r_X3_madeTest_122 (E : ax_EN G l) : ax_Snd G l ax_Ym M_X3_madeTest 122 (S_aload 0 123) := k_aload_n dX3_madeTest_122 rfl
theorem r_X3_madeTest_123 (E : ax_EN G l) : ax_Snd G l ax_Ym M_X3_madeTest 123 (S_getf [(38, 21)] 126) := k_getf (en_F E) (ax_fes_cons (fe_382 E) ax_fes_nil) q2774 dX3_madeTest_123
theorem r_X3_madeTest_126 (E : ax_EN G l) : ax_Snd G l ax_Ym M_X3_madeTest 126 (S_iv [(38, 410)] 1 129 hd_0) := k_iv (en_F E) (ax_ok0 E rfl) (ax_Evs_cons ((ev_v (en_c E (k := 38) rfl) rfl y_X3_wakes q3127 q3129 qs79 q126 q3130 nm_X3_wakes (Nat.le_of_ble_eq_true rfl) dX3_madeTest_126) : ax_EvV G l ax_Ym M_X3_madeTest 126 1 3 38 410) ax_Evs_nil)
theorem r_X3_madeTest_129 (E : ax_EN G l) : ax_Snd G l ax_Ym M_X3_madeTest 129 (S_goto 68) := k_goto dX3_madeTest_129 rfl
theorem r_X3_madeTest_132 (E : ax_EN G l) : ax_Snd G l ax_Ym M_X3_madeTest 132 (S_aload 0 133) := k_aload_n dX3_madeTest_132 rfl
theorem r_X3_madeTest_133 (E : ax_EN G l) : ax_Snd G l ax_Ym M_X3_madeTest 133 (S_getf [(38, 23)] 136) := k_getf (en_F E) (ax_fes_cons (fe_466 E) ax_fes_nil) q2776 dX3_madeTest_133
theorem r_X3_madeTest_136 (E : ax_EN G l) : ax_Snd G l ax_Ym M_X3_madeTest 136 (S_push (.int (3)) 137) := k_iconst dX3_madeTest_136 rfl
theorem r_X3_madeTest_137 (E : ax_EN G l) : ax_Snd G l ax_Ym M_X3_madeTest 137 (S_if2 (fun x y => decide (x = y)) 148 140) := k_icmp_eq dX3_madeTest_137 rfl
theorem r_X3_madeTest_140 (E : ax_EN G l) : ax_Snd G l ax_Ym M_X3_madeTest 140 (S_aload 0 141) := k_aload_n dX3_madeTest_140 rfl
theorem r_X3_madeTest_141 (E : ax_EN G l) : ax_Snd G l ax_Ym M_X3_madeTest 141 (S_getf [(38, 23)] 144) := k_getf (en_F E) (ax_fes_cons (fe_466 E) ax_fes_nil) q2776 dX3_madeTest_141
theorem r_X3_madeTest_144 (E : ax_EN G l) : ax_Snd G l ax_Ym M_X3_madeTest 144 (S_push (.int (1)) 145) := k_iconst dX3_madeTest_144 rfl
theorem r_X3_madeTest_145 (E : ax_EN G l) : ax_Snd G l ax_Ym M_X3_madeTest 145 (S_if2 (fun x y => decide (¬ x = y)) 162 148) := k_icmp_ne dX3_madeTest_145 rfl
theorem r_X3_madeTest_148 (E : ax_EN G l) : ax_Snd G l ax_Ym M_X3_madeTest 148 (S_aload 0 149) := k_aload_n dX3_madeTest_148 rfl
theorem r_X3_madeTest_149 (E : ax_EN G l) : ax_Snd G l ax_Ym M_X3_madeTest 149 (S_getf [(38, 23)] 152) := k_getf (en_F E) (ax_fes_cons (fe_466 E) ax_fes_nil) q2776 dX3_madeTest_149
theorem r_X3_madeTest_152 (E : ax_EN G l) : ax_Snd G l ax_Ym M_X3_madeTest 152 (S_push (.int (3)) 153) := k_iconst dX3_madeTest_152 rfl
theorem r_X3_madeTest_153 (E : ax_EN G l) : ax_Snd G l ax_Ym M_X3_madeTest 153 (S_if2 (fun x y => decide (¬ x = y)) 160 156) := k_icmp_ne dX3_madeTest_153 rfl
theorem r_X3_madeTest_156 (E : ax_EN G l) : ax_Snd G l ax_Ym M_X3_madeTest 156 (S_push (.int (1)) 157) := k_iconst dX3_madeTest_156 rfl
theorem r_X3_madeTest_157 (E : ax_EN G l) : ax_Snd G l ax_Ym M_X3_madeTest 157 (S_goto 161) := k_goto dX3_madeTest_157 rfl
theorem r_X3_madeTest_160 (E : ax_EN G l) : ax_Snd G l ax_Ym M_X3_madeTest 160 (S_push (.int (2)) 161) := k_iconst dX3_madeTest_160 rfl
theorem r_X3_madeTest_161 (E : ax_EN G l) : ax_Snd G l ax_Ym M_X3_madeTest 161 (S_iret) := k_iret dX3_madeTest_161 rfl
theorem r_X3_madeTest_162 (E : ax_EN G l) : ax_Snd G l ax_Ym M_X3_madeTest 162 (S_aload 0 163) := k_aload_n dX3_madeTest_162 rfl
theorem r_X3_madeTest_163 (E : ax_EN G l) : ax_Snd G l ax_Ym M_X3_madeTest 163 (S_getf [(38, 52)] 166) := k_getf (en_F E) (ax_fes_cons (fe_440 E) ax_fes_nil) q2805 dX3_madeTest_163
theorem r_X3_madeTest_166 (E : ax_EN G l) : ax_Snd G l ax_Ym M_X3_madeTest 166 (S_aload 0 167) := k_aload_n dX3_madeTest_166 rfl
theorem r_X3_madeTest_167 (E : ax_EN G l) : ax_Snd G l ax_Ym M_X3_madeTest 167 (S_getf [(38, 66)] 170) := k_getf (en_F E) (ax_fes_cons (fe_424 E) ax_fes_nil) q2819 dX3_madeTest_167
theorem r_X3_madeTest_170 (E : ax_EN G l) : ax_Snd G l ax_Ym M_X3_madeTest 170 (S_iload 1 171) := k_iload_n dX3_madeTest_170 rfl
theorem r_X3_madeTest_171 (E : ax_EN G l) : ax_Snd G l ax_Ym M_X3_madeTest 171 (S_iald 0 172) := k_iald (en_F E) dX3_madeTest_171
theorem r_X3_madeTest_172 (E : ax_EN G l) : ax_Snd G l ax_Ym M_X3_madeTest 172 (S_if2 (fun x y => decide (x ≤ y)) 179 175) := k_icmp_le dX3_madeTest_172 rfl
theorem r_X3_madeTest_175 (E : ax_EN G l) : ax_Snd G l ax_Ym M_X3_madeTest 175 (S_push (.int (3)) 176) := k_iconst dX3_madeTest_175 rfl
theorem r_X3_madeTest_176 (E : ax_EN G l) : ax_Snd G l ax_Ym M_X3_madeTest 176 (S_goto 203) := k_goto dX3_madeTest_176 rfl
theorem r_X3_madeTest_179 (E : ax_EN G l) : ax_Snd G l ax_Ym M_X3_madeTest 179 (S_aload 0 180) := k_aload_n dX3_madeTest_179 rfl
theorem r_X3_madeTest_180 (E : ax_EN G l) : ax_Snd G l ax_Ym M_X3_madeTest 180 (S_iload 1 181) := k_iload_n dX3_madeTest_180 rfl
theorem r_X3_madeTest_181 (E : ax_EN G l) : ax_Snd G l ax_Ym M_X3_madeTest 181 (S_iv [(38, 489)] 1 184 hd_0) := k_iv (en_F E) (ax_ok0 E rfl) (ax_Evs_cons ((ev_v (en_c E (k := 38) rfl) rfl y_X3_isTapeOf q3437 q3439 qs116 q126 q3440 nm_X3_isTapeOf (Nat.le_of_ble_eq_true rfl) dX3_madeTest_181) : ax_EvV G l ax_Ym M_X3_madeTest 181 1 3 38 489) ax_Evs_nil)
theorem r_X3_madeTest_184 (E : ax_EN G l) : ax_Snd G l ax_Ym M_X3_madeTest 184 (S_if1 (fun x => decide (¬ x = 0)) 191 187) := k_if_ne dX3_madeTest_184 rfl
theorem r_X3_madeTest_187 (E : ax_EN G l) : ax_Snd G l ax_Ym M_X3_madeTest 187 (S_push (.int (4)) 188) := k_iconst dX3_madeTest_187 rfl
theorem r_X3_madeTest_188 (E : ax_EN G l) : ax_Snd G l ax_Ym M_X3_madeTest 188 (S_goto 203) := k_goto dX3_madeTest_188 rfl
theorem r_X3_madeTest_191 (E : ax_EN G l) : ax_Snd G l ax_Ym M_X3_madeTest 191 (S_aload 0 192) := k_aload_n dX3_madeTest_191 rfl
theorem r_X3_madeTest_192 (E : ax_EN G l) : ax_Snd G l ax_Ym M_X3_madeTest 192 (S_iv [(38, 481)] 0 195 hd_0) := k_iv (en_F E) (ax_ok0 E rfl) (ax_Evs_cons ((ev_v (en_c E (k := 38) rfl) rfl y_X3_isWholeNow q3405 q3407 qs113 q126 q3408 nm_X3_isWholeNow (Nat.le_of_ble_eq_true rfl) dX3_madeTest_192) : ax_EvV G l ax_Ym M_X3_madeTest 192 0 3 38 481) ax_Evs_nil)
theorem r_X3_madeTest_195 (E : ax_EN G l) : ax_Snd G l ax_Ym M_X3_madeTest 195 (S_if1 (fun x => decide (x = 0)) 202 198) := k_if_eq dX3_madeTest_195 rfl
theorem r_X3_madeTest_198 (E : ax_EN G l) : ax_Snd G l ax_Ym M_X3_madeTest 198 (S_push (.int (0)) 199) := k_iconst dX3_madeTest_198 rfl
theorem r_X3_madeTest_199 (E : ax_EN G l) : ax_Snd G l ax_Ym M_X3_madeTest 199 (S_goto 203) := k_goto dX3_madeTest_199 rfl
theorem r_X3_madeTest_202 (E : ax_EN G l) : ax_Snd G l ax_Ym M_X3_madeTest 202 (S_push (.int (5)) 203) := k_iconst dX3_madeTest_202 rfl
theorem r_X3_madeTest_203 (E : ax_EN G l) : ax_Snd G l ax_Ym M_X3_madeTest 203 (S_iret) := k_iret dX3_madeTest_203 rfl
theorem mt_X3_madeTest (E : ax_EN G l) : ax_mt G l ax_Ym (3, P_X3_madeTest) (ax_Ym 488) := ⟨M_X3_madeTest, yX3_madeTest, ⟨rfl, by decide +kernel, rfl, (fun h => by cases h), Or.inl ⟨rfl, rfl⟩⟩, fun pc => (ax_sn_node (ax_sn_node (ax_sn_node (ax_sn_node (ax_sn_node (ax_sn_node (ax_sn_node (ax_sn_leaf (r_X3_madeTest_203 E)) (ax_sn_leaf (r_X3_madeTest_202 E))) (ax_sn_node (ax_sn_leaf (r_X3_madeTest_199 E)) (ax_sn_leaf (r_X3_madeTest_198 E)))) (ax_sn_node (ax_sn_node (ax_sn_leaf (r_X3_madeTest_195 E)) (ax_sn_leaf (r_X3_madeTest_192 E))) (ax_sn_node (ax_sn_leaf (r_X3_madeTest_191 E)) (ax_sn_leaf (r_X3_madeTest_188 E))))) (ax_sn_node (ax_sn_node (ax_sn_node (ax_sn_leaf (r_X3_madeTest_187 E)) (ax_sn_leaf (r_X3_madeTest_184 E))) (ax_sn_node (ax_sn_leaf (r_X3_madeTest_181 E)) (ax_sn_leaf (r_X3_madeTest_180 E)))) (ax_sn_node (ax_sn_node (ax_sn_leaf (r_X3_madeTest_179 E)) (ax_sn_leaf (r_X3_madeTest_176 E))) (ax_sn_leaf (r_X3_madeTest_175 E))))) (ax_sn_node (ax_sn_node (ax_sn_node (ax_sn_node (ax_sn_leaf (r_X3_madeTest_172 E)) (ax_sn_leaf (r_X3_madeTest_171 E))) (ax_sn_node (ax_sn_leaf (r_X3_madeTest_170 E)) (ax_sn_leaf (r_X3_madeTest_167 E)))) (ax_sn_node (ax_sn_node (ax_sn_leaf (r_X3_madeTest_166 E)) (ax_sn_leaf (r_X3_madeTest_163 E))) (ax_sn_leaf (r_X3_madeTest_162 E)))) (ax_sn_node (ax_sn_node (ax_sn_node (ax_sn_leaf (r_X3_madeTest_161 E)) (ax_sn_leaf (r_X3_madeTest_160 E))) (ax_sn_node (ax_sn_leaf (r_X3_madeTest_157 E)) (ax_sn_leaf (r_X3_madeTest_156 E)))) (ax_sn_node (ax_sn_node (ax_sn_leaf (r_X3_madeTest_153 E)) (ax_sn_leaf (r_X3_madeTest_152 E))) (ax_sn_leaf (r_X3_madeTest_149 E)))))) (ax_sn_node (ax_sn_node (ax_sn_node (ax_sn_node (ax_sn_node (ax_sn_leaf (r_X3_madeTest_148 E)) (ax_sn_leaf (r_X3_madeTest_145 E))) (ax_sn_node (ax_sn_leaf (r_X3_madeTest_144 E)) (ax_sn_leaf (r_X3_madeTest_141 E)))) (ax_sn_node (ax_sn_node (ax_sn_leaf (r_X3_madeTest_140 E)) (ax_sn_leaf (r_X3_madeTest_137 E))) (ax_sn_leaf (r_X3_madeTest_136 E)))) (ax_sn_node (ax_sn_node (ax_sn_node (ax_sn_leaf (r_X3_madeTest_133 E)) (ax_sn_leaf (r_X3_madeTest_132 E))) (ax_sn_node (ax_sn_leaf (r_X3_madeTest_129 E)) (ax_sn_leaf (r_X3_madeTest_126 E)))) (ax_sn_node (ax_sn_node (ax_sn_leaf (r_X3_madeTest_123 E)) (ax_sn_leaf (r_X3_madeTest_122 E))) (ax_sn_leaf (r_X3_madeTest_121 E))))) (ax_sn_node (ax_sn_node (ax_sn_node (ax_sn_node (ax_sn_leaf (r_X3_madeTest_118 E)) (ax_sn_leaf (r_X3_madeTest_117 E))) (ax_sn_node (ax_sn_leaf (r_X3_madeTest_116 E)) (ax_sn_leaf (r_X3_madeTest_115 E)))) (ax_sn_node (ax_sn_node (ax_sn_leaf (r_X3_madeTest_112 E)) (ax_sn_leaf (r_X3_madeTest_111 E))) (ax_sn_leaf (r_X3_madeTest_108 E)))) (ax_sn_node (ax_sn_node (ax_sn_node (ax_sn_leaf (r_X3_madeTest_107 E)) (ax_sn_leaf (r_X3_madeTest_104 E))) (ax_sn_node (ax_sn_leaf (r_X3_madeTest_103 E)) (ax_sn_leaf (r_X3_madeTest_100 E)))) (ax_sn_node (ax_sn_node (ax_sn_leaf (r_X3_madeTest_99 E)) (ax_sn_leaf (r_X3_madeTest_98 E))) (ax_sn_leaf (r_X3_madeTest_95 E))))))) (ax_sn_node (ax_sn_node (ax_sn_node (ax_sn_node (ax_sn_node (ax_sn_node (ax_sn_leaf (r_X3_madeTest_94 E)) (ax_sn_leaf (r_X3_madeTest_93 E))) (ax_sn_node (ax_sn_leaf (r_X3_madeTest_90 E)) (ax_sn_leaf (r_X3_madeTest_87 E)))) (ax_sn_node (ax_sn_node (ax_sn_leaf (r_X3_madeTest_86 E)) (ax_sn_leaf (r_X3_madeTest_83 E))) (ax_sn_leaf (r_X3_madeTest_82 E)))) (ax_sn_node (ax_sn_node (ax_sn_node (ax_sn_leaf (r_X3_madeTest_81 E)) (ax_sn_leaf (r_X3_madeTest_78 E))) (ax_sn_node (ax_sn_leaf (r_X3_madeTest_77 E)) (ax_sn_leaf (r_X3_madeTest_76 E)))) (ax_sn_node (ax_sn_node (ax_sn_leaf (r_X3_madeTest_73 E)) (ax_sn_leaf (r_X3_madeTest_72 E))) (ax_sn_leaf (r_X3_madeTest_69 E))))) (ax_sn_node (ax_sn_node (ax_sn_node (ax_sn_node (ax_sn_leaf (r_X3_madeTest_68 E)) (ax_sn_leaf (r_X3_madeTest_67 E))) (ax_sn_node (ax_sn_leaf (r_X3_madeTest_66 E)) (ax_sn_leaf (r_X3_madeTest_63 E)))) (ax_sn_node (ax_sn_node (ax_sn_leaf (r_X3_madeTest_62 E)) (ax_sn_leaf (r_X3_madeTest_59 E))) (ax_sn_leaf (r_X3_madeTest_56 E)))) (ax_sn_node (ax_sn_node (ax_sn_node (ax_sn_leaf (r_X3_madeTest_55 E)) (ax_sn_leaf (r_X3_madeTest_54 E))) (ax_sn_node (ax_sn_leaf (r_X3_madeTest_51 E)) (ax_sn_leaf (r_X3_madeTest_48 E)))) (ax_sn_node (ax_sn_node (ax_sn_leaf (r_X3_madeTest_47 E)) (ax_sn_leaf (r_X3_madeTest_46 E))) (ax_sn_leaf (r_X3_madeTest_45 E)))))) (ax_sn_node (ax_sn_node (ax_sn_node (ax_sn_node (ax_sn_node (ax_sn_leaf (r_X3_madeTest_44 E)) (ax_sn_leaf (r_X3_madeTest_43 E))) (ax_sn_node (ax_sn_leaf (r_X3_madeTest_42 E)) (ax_sn_leaf (r_X3_madeTest_40 E)))) (ax_sn_node (ax_sn_node (ax_sn_leaf (r_X3_madeTest_37 E)) (ax_sn_leaf (r_X3_madeTest_36 E))) (ax_sn_leaf (r_X3_madeTest_35 E)))) (ax_sn_node (ax_sn_node (ax_sn_node (ax_sn_leaf (r_X3_madeTest_32 E)) (ax_sn_leaf (r_X3_madeTest_31 E))) (ax_sn_node (ax_sn_leaf (r_X3_madeTest_30 E)) (ax_sn_leaf (r_X3_madeTest_29 E)))) (ax_sn_node (ax_sn_node (ax_sn_leaf (r_X3_madeTest_28 E)) (ax_sn_leaf (r_X3_madeTest_25 E))) (ax_sn_leaf (r_X3_madeTest_24 E))))) (ax_sn_node (ax_sn_node (ax_sn_node (ax_sn_node (ax_sn_leaf (r_X3_madeTest_21 E)) (ax_sn_leaf (r_X3_madeTest_18 E))) (ax_sn_node (ax_sn_leaf (r_X3_madeTest_17 E)) (ax_sn_leaf (r_X3_madeTest_16 E)))) (ax_sn_node (ax_sn_node (ax_sn_leaf (r_X3_madeTest_15 E)) (ax_sn_leaf (r_X3_madeTest_14 E))) (ax_sn_leaf (r_X3_madeTest_11 E)))) (ax_sn_node (ax_sn_node (ax_sn_node (ax_sn_leaf (r_X3_madeTest_10 E)) (ax_sn_leaf (r_X3_madeTest_9 E))) (ax_sn_node (ax_sn_leaf (r_X3_madeTest_6 E)) (ax_sn_leaf (r_X3_madeTest_5 E)))) (ax_sn_node (ax_sn_node (ax_sn_leaf (r_X3_madeTest_4 E)) (ax_sn_leaf (r_X3_madeTest_1 E))) (ax_sn_leaf (r_X3_madeTest_0 E))))))))⟩
theorem r_X3_isTapeOf_0 (E : ax_EN G l) : ax_Snd G l ax_Ym M_X3_isTapeOf 0 (S_aload 0 1) := k_aload_n dX3_isTapeOf_0 rfl
theorem r_X3_isTapeOf_1 (E : ax_EN G l) : ax_Snd G l ax_Ym M_X3_isTapeOf 1 (S_getf [(38, 37)] 4) := k_getf (en_F E) (ax_fes_cons (fe_489 E) ax_fes_nil) q2790 dX3_isTapeOf_1
theorem r_X3_isTapeOf_4 (E : ax_EN G l) : ax_Snd G l ax_Ym M_X3_isTapeOf 4 (S_aload 0 5) := k_aload_n dX3_isTapeOf_4 rfl
theorem r_X3_isTapeOf_5 (E : ax_EN G l) : ax_Snd G l ax_Ym M_X3_isTapeOf 5 (S_getf [(38, 64)] 8) := k_getf (en_F E) (ax_fes_cons (fe_420 E) ax_fes_nil) q2817 dX3_isTapeOf_5
theorem r_X3_isTapeOf_8 (E : ax_EN G l) : ax_Snd G l ax_Ym M_X3_isTapeOf 8 (S_iload 1 9) := k_iload_n dX3_isTapeOf_8 rfl
theorem r_X3_isTapeOf_9 (E : ax_EN G l) : ax_Snd G l ax_Ym M_X3_isTapeOf 9 (S_iald 0 10) := k_iald (en_F E) dX3_isTapeOf_9
theorem r_X3_isTapeOf_10 (E : ax_EN G l) : ax_Snd G l ax_Ym M_X3_isTapeOf 10 (S_if2 (fun x y => decide (¬ x = y)) 17 13) := k_icmp_ne dX3_isTapeOf_10 rfl
theorem r_X3_isTapeOf_13 (E : ax_EN G l) : ax_Snd G l ax_Ym M_X3_isTapeOf 13 (S_push (.int (1)) 14) := k_iconst dX3_isTapeOf_13 rfl
theorem r_X3_isTapeOf_14 (E : ax_EN G l) : ax_Snd G l ax_Ym M_X3_isTapeOf 14 (S_goto 18) := k_goto dX3_isTapeOf_14 rfl
theorem r_X3_isTapeOf_17 (E : ax_EN G l) : ax_Snd G l ax_Ym M_X3_isTapeOf 17 (S_push (.int (0)) 18) := k_iconst dX3_isTapeOf_17 rfl
theorem r_X3_isTapeOf_18 (E : ax_EN G l) : ax_Snd G l ax_Ym M_X3_isTapeOf 18 (S_istore 2 19) := k_istore_n dX3_isTapeOf_18 rfl (Nat.le_of_ble_eq_true rfl)
theorem r_X3_isTapeOf_19 (E : ax_EN G l) : ax_Snd G l ax_Ym M_X3_isTapeOf 19 (S_push (.int (0)) 20) := k_iconst dX3_isTapeOf_19 rfl
theorem r_X3_isTapeOf_20 (E : ax_EN G l) : ax_Snd G l ax_Ym M_X3_isTapeOf 20 (S_istore 3 21) := k_istore_n dX3_isTapeOf_20 rfl (Nat.le_of_ble_eq_true rfl)
theorem r_X3_isTapeOf_21 (E : ax_EN G l) : ax_Snd G l ax_Ym M_X3_isTapeOf 21 (S_iload 3 22) := k_iload_n dX3_isTapeOf_21 rfl
theorem r_X3_isTapeOf_22 (E : ax_EN G l) : ax_Snd G l ax_Ym M_X3_isTapeOf 22 (S_aload 0 23) := k_aload_n dX3_isTapeOf_22 rfl
theorem r_X3_isTapeOf_23 (E : ax_EN G l) : ax_Snd G l ax_Ym M_X3_isTapeOf 23 (S_getf [(38, 37)] 26) := k_getf (en_F E) (ax_fes_cons (fe_489 E) ax_fes_nil) q2790 dX3_isTapeOf_23
theorem r_X3_isTapeOf_26 (E : ax_EN G l) : ax_Snd G l ax_Ym M_X3_isTapeOf 26 (S_if2 (fun x y => decide (y ≤ x)) 65 29) := k_icmp_ge dX3_isTapeOf_26 rfl
theorem r_X3_isTapeOf_29 (E : ax_EN G l) : ax_Snd G l ax_Ym M_X3_isTapeOf 29 (S_iload 2 30) := k_iload_n dX3_isTapeOf_29 rfl
theorem r_X3_isTapeOf_30 (E : ax_EN G l) : ax_Snd G l ax_Ym M_X3_isTapeOf 30 (S_if1 (fun x => decide (x = 0)) 65 33) := k_if_eq dX3_isTapeOf_30 rfl
theorem r_X3_isTapeOf_33 (E : ax_EN G l) : ax_Snd G l ax_Ym M_X3_isTapeOf 33 (S_aload 0 34) := k_aload_n dX3_isTapeOf_33 rfl
theorem r_X3_isTapeOf_34 (E : ax_EN G l) : ax_Snd G l ax_Ym M_X3_isTapeOf 34 (S_getf [(38, 36)] 37) := k_getf (en_F E) (ax_fes_cons (fe_388 E) ax_fes_nil) q2789 dX3_isTapeOf_34
theorem r_X3_isTapeOf_37 (E : ax_EN G l) : ax_Snd G l ax_Ym M_X3_isTapeOf 37 (S_iload 3 38) := k_iload_n dX3_isTapeOf_37 rfl
theorem r_X3_isTapeOf_38 (E : ax_EN G l) : ax_Snd G l ax_Ym M_X3_isTapeOf 38 (S_iald 0 39) := k_iald (en_F E) dX3_isTapeOf_38
theorem r_X3_isTapeOf_39 (E : ax_EN G l) : ax_Snd G l ax_Ym M_X3_isTapeOf 39 (S_aload 0 40) := k_aload_n dX3_isTapeOf_39 rfl
theorem r_X3_isTapeOf_40 (E : ax_EN G l) : ax_Snd G l ax_Ym M_X3_isTapeOf 40 (S_getf [(38, 63)] 43) := k_getf (en_F E) (ax_fes_cons (fe_418 E) ax_fes_nil) q2816 dX3_isTapeOf_40
theorem r_X3_isTapeOf_43 (E : ax_EN G l) : ax_Snd G l ax_Ym M_X3_isTapeOf 43 (S_push (.int (6)) 45) := k_bipush dX3_isTapeOf_43 rfl
theorem r_X3_isTapeOf_45 (E : ax_EN G l) : ax_Snd G l ax_Ym M_X3_isTapeOf 45 (S_iload 1 46) := k_iload_n dX3_isTapeOf_45 rfl
theorem r_X3_isTapeOf_46 (E : ax_EN G l) : ax_Snd G l ax_Ym M_X3_isTapeOf 46 (S_i2 (fun x y => x * y) 47) := k_imul dX3_isTapeOf_46
theorem r_X3_isTapeOf_47 (E : ax_EN G l) : ax_Snd G l ax_Ym M_X3_isTapeOf 47 (S_iload 3 48) := k_iload_n dX3_isTapeOf_47 rfl
theorem r_X3_isTapeOf_48 (E : ax_EN G l) : ax_Snd G l ax_Ym M_X3_isTapeOf 48 (S_i2 (fun x y => x + y) 49) := k_iadd dX3_isTapeOf_48
theorem r_X3_isTapeOf_49 (E : ax_EN G l) : ax_Snd G l ax_Ym M_X3_isTapeOf 49 (S_iald 0 50) := k_iald (en_F E) dX3_isTapeOf_49
theorem r_X3_isTapeOf_50 (E : ax_EN G l) : ax_Snd G l ax_Ym M_X3_isTapeOf 50 (S_if2 (fun x y => decide (¬ x = y)) 57 53) := k_icmp_ne dX3_isTapeOf_50 rfl
theorem r_X3_isTapeOf_53 (E : ax_EN G l) : ax_Snd G l ax_Ym M_X3_isTapeOf 53 (S_push (.int (1)) 54) := k_iconst dX3_isTapeOf_53 rfl
theorem r_X3_isTapeOf_54 (E : ax_EN G l) : ax_Snd G l ax_Ym M_X3_isTapeOf 54 (S_goto 58) := k_goto dX3_isTapeOf_54 rfl
theorem r_X3_isTapeOf_57 (E : ax_EN G l) : ax_Snd G l ax_Ym M_X3_isTapeOf 57 (S_push (.int (0)) 58) := k_iconst dX3_isTapeOf_57 rfl
theorem r_X3_isTapeOf_58 (E : ax_EN G l) : ax_Snd G l ax_Ym M_X3_isTapeOf 58 (S_istore 2 59) := k_istore_n dX3_isTapeOf_58 rfl (Nat.le_of_ble_eq_true rfl)
theorem r_X3_isTapeOf_59 (E : ax_EN G l) : ax_Snd G l ax_Ym M_X3_isTapeOf 59 (S_iinc 3 (1) 62) := k_iinc dX3_isTapeOf_59 rfl (Nat.le_of_ble_eq_true rfl)
theorem r_X3_isTapeOf_62 (E : ax_EN G l) : ax_Snd G l ax_Ym M_X3_isTapeOf 62 (S_goto 21) := k_goto dX3_isTapeOf_62 rfl
theorem r_X3_isTapeOf_65 (E : ax_EN G l) : ax_Snd G l ax_Ym M_X3_isTapeOf 65 (S_iload 2 66) := k_iload_n dX3_isTapeOf_65 rfl
theorem r_X3_isTapeOf_66 (E : ax_EN G l) : ax_Snd G l ax_Ym M_X3_isTapeOf 66 (S_zret) := k_zret dX3_isTapeOf_66 rfl
theorem mt_X3_isTapeOf (E : ax_EN G l) : ax_mt G l ax_Ym (4, P_X3_isTapeOf) (ax_Ym 489) := ⟨M_X3_isTapeOf, yX3_isTapeOf, ⟨rfl, by decide +kernel, rfl, (fun h => by cases h), Or.inl ⟨rfl, rfl⟩⟩, fun pc => (ax_sn_node (ax_sn_node (ax_sn_node (ax_sn_node (ax_sn_node (ax_sn_node (ax_sn_leaf (r_X3_isTapeOf_66 E)) (ax_sn_leaf (r_X3_isTapeOf_65 E))) (ax_sn_leaf (r_X3_isTapeOf_62 E))) (ax_sn_node (ax_sn_leaf (r_X3_isTapeOf_59 E)) (ax_sn_leaf (r_X3_isTapeOf_58 E)))) (ax_sn_node (ax_sn_node (ax_sn_node (ax_sn_leaf (r_X3_isTapeOf_57 E)) (ax_sn_leaf (r_X3_isTapeOf_54 E))) (ax_sn_leaf (r_X3_isTapeOf_53 E))) (ax_sn_node (ax_sn_leaf (r_X3_isTapeOf_50 E)) (ax_sn_leaf (r_X3_isTapeOf_49 E))))) (ax_sn_node (ax_sn_node (ax_sn_node (ax_sn_node (ax_sn_leaf (r_X3_isTapeOf_48 E)) (ax_sn_leaf (r_X3_isTapeOf_47 E))) (ax_sn_leaf (r_X3_isTapeOf_46 E))) (ax_sn_node (ax_sn_leaf (r_X3_isTapeOf_45 E)) (ax_sn_leaf (r_X3_isTapeOf_43 E)))) (ax_sn_node (ax_sn_node (ax_sn_node (ax_sn_leaf (r_X3_isTapeOf_40 E)) (ax_sn_leaf (r_X3_isTapeOf_39 E))) (ax_sn_leaf (r_X3_isTapeOf_38 E))) (ax_sn_node (ax_sn_leaf (r_X3_isTapeOf_37 E)) (ax_sn_leaf (r_X3_isTapeOf_34 E)))))) (ax_sn_node (ax_sn_node (ax_sn_node (ax_sn_node (ax_sn_node (ax_sn_leaf (r_X3_isTapeOf_33 E)) (ax_sn_leaf (r_X3_isTapeOf_30 E))) (ax_sn_leaf (r_X3_isTapeOf_29 E))) (ax_sn_node (ax_sn_leaf (r_X3_isTapeOf_26 E)) (ax_sn_leaf (r_X3_isTapeOf_23 E)))) (ax_sn_node (ax_sn_node (ax_sn_node (ax_sn_leaf (r_X3_isTapeOf_22 E)) (ax_sn_leaf (r_X3_isTapeOf_21 E))) (ax_sn_leaf (r_X3_isTapeOf_20 E))) (ax_sn_node (ax_sn_leaf (r_X3_isTapeOf_19 E)) (ax_sn_leaf (r_X3_isTapeOf_18 E))))) (ax_sn_node (ax_sn_node (ax_sn_node (ax_sn_node (ax_sn_leaf (r_X3_isTapeOf_17 E)) (ax_sn_leaf (r_X3_isTapeOf_14 E))) (ax_sn_leaf (r_X3_isTapeOf_13 E))) (ax_sn_node (ax_sn_leaf (r_X3_isTapeOf_10 E)) (ax_sn_leaf (r_X3_isTapeOf_9 E)))) (ax_sn_node (ax_sn_node (ax_sn_node (ax_sn_leaf (r_X3_isTapeOf_8 E)) (ax_sn_leaf (r_X3_isTapeOf_5 E))) (ax_sn_leaf (r_X3_isTapeOf_4 E))) (ax_sn_node (ax_sn_leaf (r_X3_isTapeOf_1 E)) (ax_sn_leaf (r_X3_isTapeOf_0 E)))))))⟩
theorem r_X3_result_0 (E : ax_EN G l) : ax_Snd G l ax_Ym M_X3_result 0 (S_aload 0 1) := k_aload_n dX3_result_0 rfl
theorem r_X3_result_1 (E : ax_EN G l) : ax_Snd G l ax_Ym M_X3_result 1 (S_iload 1 2) := k_iload_n dX3_result_1 rfl
theorem r_X3_result_2 (E : ax_EN G l) : ax_Snd G l ax_Ym M_X3_result 2 (S_push (.int (0)) 3) := k_iconst dX3_result_2 rfl
theorem r_X3_result_3 (E : ax_EN G l) : ax_Snd G l ax_Ym M_X3_result 3 (S_aload 0 4) := k_aload_n dX3_result_3 rfl
theorem r_X3_result_4 (E : ax_EN G l) : ax_Snd G l ax_Ym M_X3_result 4 (S_getf [(38, 60)] 7) := k_getf (en_F E) (ax_fes_cons (fe_502 E) ax_fes_nil) q2813 dX3_result_4
theorem r_X3_result_7 (E : ax_EN G l) : ax_Snd G l ax_Ym M_X3_result 7 (S_push (.int (1)) 8) := k_iconst dX3_result_7 rfl
theorem r_X3_result_8 (E : ax_EN G l) : ax_Snd G l ax_Ym M_X3_result 8 (S_i2 (fun x y => x - y) 9) := k_isub dX3_result_8
theorem r_X3_result_9 (E : ax_EN G l) : ax_Snd G l ax_Ym M_X3_result 9 (S_is 376 3 12 hd_0) := k_is (en_F E) (ax_ok0 E rfl) ((ev_s y_X3_in q2992 q2993 q126 q2994 nm_X3_in (Nat.le_of_ble_eq_true rfl) dX3_result_9) : ax_EvS G l ax_Ym M_X3_result 9 376 3 3)
theorem r_X3_result_12 (E : ax_EN G l) : ax_Snd G l ax_Ym M_X3_result 12 (S_if1 (fun x => decide (x = 0)) 19 15) := k_if_eq dX3_result_12 rfl
theorem r_X3_result_15 (E : ax_EN G l) : ax_Snd G l ax_Ym M_X3_result 15 (S_push (.int (0)) 16) := k_iconst dX3_result_15 rfl
theorem r_X3_result_16 (E : ax_EN G l) : ax_Snd G l ax_Ym M_X3_result 16 (S_goto 20) := k_goto dX3_result_16 rfl
theorem r_X3_result_19 (E : ax_EN G l) : ax_Snd G l ax_Ym M_X3_result 19 (S_push (.int (1)) 20) := k_iconst dX3_result_19 rfl
theorem r_X3_result_20 (E : ax_EN G l) : ax_Snd G l ax_Ym M_X3_result 20 (S_iv [(38, 378)] 1 23 hd_0) := k_iv (en_F E) (ax_ok0 E rfl) (ax_Evs_cons ((ev_v (en_c E (k := 38) rfl) rfl y_X3_holds q2999 q3001 qs61 q126 q3002 nm_X3_holds (Nat.le_of_ble_eq_true rfl) dX3_result_20) : ax_EvV G l ax_Ym M_X3_result 20 1 3 38 378) ax_Evs_nil)
theorem r_X3_result_23 (E : ax_EN G l) : ax_Snd G l ax_Ym M_X3_result 23 (S_if1 (fun x => decide (x = 0)) 35 26) := k_if_eq dX3_result_23 rfl
theorem r_X3_result_26 (E : ax_EN G l) : ax_Snd G l ax_Ym M_X3_result 26 (S_aload 0 27) := k_aload_n dX3_result_26 rfl
theorem r_X3_result_27 (E : ax_EN G l) : ax_Snd G l ax_Ym M_X3_result 27 (S_getf [(38, 69)] 30) := k_getf (en_F E) (ax_fes_cons (fe_430 E) ax_fes_nil) q2822 dX3_result_27
theorem r_X3_result_30 (E : ax_EN G l) : ax_Snd G l ax_Ym M_X3_result 30 (S_iload 1 31) := k_iload_n dX3_result_30 rfl
theorem r_X3_result_31 (E : ax_EN G l) : ax_Snd G l ax_Ym M_X3_result 31 (S_iald 0 32) := k_iald (en_F E) dX3_result_31
theorem r_X3_result_32 (E : ax_EN G l) : ax_Snd G l ax_Ym M_X3_result 32 (S_goto 36) := k_goto dX3_result_32 rfl
theorem r_X3_result_35 (E : ax_EN G l) : ax_Snd G l ax_Ym M_X3_result 35 (S_push (.int (0)) 36) := k_iconst dX3_result_35 rfl
theorem r_X3_result_36 (E : ax_EN G l) : ax_Snd G l ax_Ym M_X3_result 36 (S_iret) := k_iret dX3_result_36 rfl
theorem mt_X3_result (E : ax_EN G l) : ax_mt G l ax_Ym (2, P_X3_result) (ax_Ym 490) := ⟨M_X3_result, yX3_result, ⟨rfl, by decide +kernel, rfl, (fun h => by cases h), Or.inl ⟨rfl, rfl⟩⟩, fun pc => (ax_sn_node (ax_sn_node (ax_sn_node (ax_sn_node (ax_sn_node (ax_sn_leaf (r_X3_result_36 E)) (ax_sn_leaf (r_X3_result_35 E))) (ax_sn_leaf (r_X3_result_32 E))) (ax_sn_node (ax_sn_node (ax_sn_leaf (r_X3_result_31 E)) (ax_sn_leaf (r_X3_result_30 E))) (ax_sn_leaf (r_X3_result_27 E)))) (ax_sn_node (ax_sn_node (ax_sn_node (ax_sn_leaf (r_X3_result_26 E)) (ax_sn_leaf (r_X3_result_23 E))) (ax_sn_leaf (r_X3_result_20 E))) (ax_sn_node (ax_sn_leaf (r_X3_result_19 E)) (ax_sn_leaf (r_X3_result_16 E))))) (ax_sn_node (ax_sn_node (ax_sn_node (ax_sn_node (ax_sn_leaf (r_X3_result_15 E)) (ax_sn_leaf (r_X3_result_12 E))) (ax_sn_leaf (r_X3_result_9 E))) (ax_sn_node (ax_sn_leaf (r_X3_result_8 E)) (ax_sn_leaf (r_X3_result_7 E)))) (ax_sn_node (ax_sn_node (ax_sn_node (ax_sn_leaf (r_X3_result_4 E)) (ax_sn_leaf (r_X3_result_3 E))) (ax_sn_leaf (r_X3_result_2 E))) (ax_sn_node (ax_sn_leaf (r_X3_result_1 E)) (ax_sn_leaf (r_X3_result_0 E))))))⟩
theorem r_X3_mark_0 (E : ax_EN G l) : ax_Snd G l ax_Ym M_X3_mark 0 (S_aload 0 1) := k_aload_n dX3_mark_0 rfl
theorem r_X3_mark_1 (E : ax_EN G l) : ax_Snd G l ax_Ym M_X3_mark 1 (S_push (.int (0)) 2) := k_iconst dX3_mark_1 rfl
theorem r_X3_mark_2 (E : ax_EN G l) : ax_Snd G l ax_Ym M_X3_mark 2 (S_putf [(38, 0)] (.int) 5) := k_putf (en_F E) (en_P E) (ax_fes_cons (fe_442 E) ax_fes_nil) (ax_fps_cons (fp_443 E) ax_fps_nil) q2753 dX3_mark_2
theorem r_X3_mark_5 (E : ax_EN G l) : ax_Snd G l ax_Ym M_X3_mark 5 (S_push (.int (0)) 6) := k_iconst dX3_mark_5 rfl
theorem r_X3_mark_6 (E : ax_EN G l) : ax_Snd G l ax_Ym M_X3_mark 6 (S_istore 1 7) := k_istore_n dX3_mark_6 rfl (Nat.le_of_ble_eq_true rfl)
theorem r_X3_mark_7 (E : ax_EN G l) : ax_Snd G l ax_Ym M_X3_mark 7 (S_push (.int (0)) 8) := k_iconst dX3_mark_7 rfl
theorem r_X3_mark_8 (E : ax_EN G l) : ax_Snd G l ax_Ym M_X3_mark 8 (S_istore 2 9) := k_istore_n dX3_mark_8 rfl (Nat.le_of_ble_eq_true rfl)
theorem r_X3_mark_9 (E : ax_EN G l) : ax_Snd G l ax_Ym M_X3_mark 9 (S_iload 2 10) := k_iload_n dX3_mark_9 rfl
theorem r_X3_mark_10 (E : ax_EN G l) : ax_Snd G l ax_Ym M_X3_mark 10 (S_aload 0 11) := k_aload_n dX3_mark_10 rfl
theorem r_X3_mark_11 (E : ax_EN G l) : ax_Snd G l ax_Ym M_X3_mark 11 (S_getf [(38, 60)] 14) := k_getf (en_F E) (ax_fes_cons (fe_502 E) ax_fes_nil) q2813 dX3_mark_11
theorem r_X3_mark_14 (E : ax_EN G l) : ax_Snd G l ax_Ym M_X3_mark 14 (S_if2 (fun x y => decide (y ≤ x)) 78 17) := k_icmp_ge dX3_mark_14 rfl
theorem r_X3_mark_17 (E : ax_EN G l) : ax_Snd G l ax_Ym M_X3_mark 17 (S_iload 1 18) := k_iload_n dX3_mark_17 rfl
theorem r_X3_mark_18 (E : ax_EN G l) : ax_Snd G l ax_Ym M_X3_mark 18 (S_aload 0 19) := k_aload_n dX3_mark_18 rfl
theorem r_X3_mark_19 (E : ax_EN G l) : ax_Snd G l ax_Ym M_X3_mark 19 (S_getf [(38, 69)] 22) := k_getf (en_F E) (ax_fes_cons (fe_430 E) ax_fes_nil) q2822 dX3_mark_19
theorem r_X3_mark_22 (E : ax_EN G l) : ax_Snd G l ax_Ym M_X3_mark 22 (S_iload 2 23) := k_iload_n dX3_mark_22 rfl
theorem r_X3_mark_23 (E : ax_EN G l) : ax_Snd G l ax_Ym M_X3_mark 23 (S_iald 0 24) := k_iald (en_F E) dX3_mark_23
theorem r_X3_mark_24 (E : ax_EN G l) : ax_Snd G l ax_Ym M_X3_mark 24 (S_if1 (fun x => decide (¬ x = 0)) 36 27) := k_if_ne dX3_mark_24 rfl
theorem r_X3_mark_27 (E : ax_EN G l) : ax_Snd G l ax_Ym M_X3_mark 27 (S_aload 0 28) := k_aload_n dX3_mark_27 rfl
theorem r_X3_mark_28 (E : ax_EN G l) : ax_Snd G l ax_Ym M_X3_mark 28 (S_getf [(38, 67)] 31) := k_getf (en_F E) (ax_fes_cons (fe_426 E) ax_fes_nil) q2820 dX3_mark_28
theorem r_X3_mark_31 (E : ax_EN G l) : ax_Snd G l ax_Ym M_X3_mark 31 (S_iload 2 32) := k_iload_n dX3_mark_31 rfl
theorem r_X3_mark_32 (E : ax_EN G l) : ax_Snd G l ax_Ym M_X3_mark 32 (S_iald 0 33) := k_iald (en_F E) dX3_mark_32
theorem r_X3_mark_33 (E : ax_EN G l) : ax_Snd G l ax_Ym M_X3_mark 33 (S_goto 70) := k_goto dX3_mark_33 rfl
theorem r_X3_mark_36 (E : ax_EN G l) : ax_Snd G l ax_Ym M_X3_mark 36 (S_aload 0 37) := k_aload_n dX3_mark_36 rfl
theorem r_X3_mark_37 (E : ax_EN G l) : ax_Snd G l ax_Ym M_X3_mark 37 (S_getf [(38, 69)] 40) := k_getf (en_F E) (ax_fes_cons (fe_430 E) ax_fes_nil) q2822 dX3_mark_37
theorem r_X3_mark_40 (E : ax_EN G l) : ax_Snd G l ax_Ym M_X3_mark 40 (S_iload 2 41) := k_iload_n dX3_mark_40 rfl
theorem r_X3_mark_41 (E : ax_EN G l) : ax_Snd G l ax_Ym M_X3_mark 41 (S_iald 0 42) := k_iald (en_F E) dX3_mark_41
theorem r_X3_mark_42 (E : ax_EN G l) : ax_Snd G l ax_Ym M_X3_mark 42 (S_push (.int (-1)) 43) := k_iconst dX3_mark_42 rfl
theorem r_X3_mark_43 (E : ax_EN G l) : ax_Snd G l ax_Ym M_X3_mark 43 (S_if2 (fun x y => decide (x = y)) 69 46) := k_icmp_eq dX3_mark_43 rfl
theorem r_X3_mark_46 (E : ax_EN G l) : ax_Snd G l ax_Ym M_X3_mark 46 (S_aload 0 47) := k_aload_n dX3_mark_46 rfl
theorem r_X3_mark_47 (E : ax_EN G l) : ax_Snd G l ax_Ym M_X3_mark 47 (S_getf [(38, 70)] 50) := k_getf (en_F E) (ax_fes_cons (fe_432 E) ax_fes_nil) q2823 dX3_mark_47
theorem r_X3_mark_50 (E : ax_EN G l) : ax_Snd G l ax_Ym M_X3_mark 50 (S_iload 2 51) := k_iload_n dX3_mark_50 rfl
theorem r_X3_mark_51 (E : ax_EN G l) : ax_Snd G l ax_Ym M_X3_mark 51 (S_iald 2 52) := k_zald (en_F E) dX3_mark_51
theorem r_X3_mark_52 (E : ax_EN G l) : ax_Snd G l ax_Ym M_X3_mark 52 (S_if1 (fun x => decide (x = 0)) 69 55) := k_if_eq dX3_mark_52 rfl
theorem r_X3_mark_55 (E : ax_EN G l) : ax_Snd G l ax_Ym M_X3_mark 55 (S_aload 0 56) := k_aload_n dX3_mark_55 rfl
theorem r_X3_mark_56 (E : ax_EN G l) : ax_Snd G l ax_Ym M_X3_mark 56 (S_getf [(38, 67)] 59) := k_getf (en_F E) (ax_fes_cons (fe_426 E) ax_fes_nil) q2820 dX3_mark_56
theorem r_X3_mark_59 (E : ax_EN G l) : ax_Snd G l ax_Ym M_X3_mark 59 (S_iload 2 60) := k_iload_n dX3_mark_59 rfl
theorem r_X3_mark_60 (E : ax_EN G l) : ax_Snd G l ax_Ym M_X3_mark 60 (S_iald 0 61) := k_iald (en_F E) dX3_mark_60
theorem r_X3_mark_61 (E : ax_EN G l) : ax_Snd G l ax_Ym M_X3_mark 61 (S_push (.int (1)) 62) := k_iconst dX3_mark_61 rfl
theorem r_X3_mark_62 (E : ax_EN G l) : ax_Snd G l ax_Ym M_X3_mark 62 (S_i2 (fun x y => x + y) 63) := k_iadd dX3_mark_62
theorem r_X3_mark_63 (E : ax_EN G l) : ax_Snd G l ax_Ym M_X3_mark 63 (S_push (.int (2)) 64) := k_iconst dX3_mark_63 rfl
theorem r_X3_mark_64 (E : ax_EN G l) : ax_Snd G l ax_Ym M_X3_mark 64 (S_id (fun x y => x / y) 65) := k_idiv dX3_mark_64
theorem r_X3_mark_65 (E : ax_EN G l) : ax_Snd G l ax_Ym M_X3_mark 65 (S_i1 (fun x => -x) 66) := k_ineg dX3_mark_65
theorem r_X3_mark_66 (E : ax_EN G l) : ax_Snd G l ax_Ym M_X3_mark 66 (S_goto 70) := k_goto dX3_mark_66 rfl
theorem r_X3_mark_69 (E : ax_EN G l) : ax_Snd G l ax_Ym M_X3_mark 69 (S_push (.int (0)) 70) := k_iconst dX3_mark_69 rfl
theorem r_X3_mark_70 (E : ax_EN G l) : ax_Snd G l ax_Ym M_X3_mark 70 (S_i2 (fun x y => x + y) 71) := k_iadd dX3_mark_70
theorem r_X3_mark_71 (E : ax_EN G l) : ax_Snd G l ax_Ym M_X3_mark 71 (S_istore 1 72) := k_istore_n dX3_mark_71 rfl (Nat.le_of_ble_eq_true rfl)
theorem r_X3_mark_72 (E : ax_EN G l) : ax_Snd G l ax_Ym M_X3_mark 72 (S_iinc 2 (1) 75) := k_iinc dX3_mark_72 rfl (Nat.le_of_ble_eq_true rfl)
theorem r_X3_mark_75 (E : ax_EN G l) : ax_Snd G l ax_Ym M_X3_mark 75 (S_goto 9) := k_goto dX3_mark_75 rfl
theorem r_X3_mark_78 (E : ax_EN G l) : ax_Snd G l ax_Ym M_X3_mark 78 (S_iload 1 79) := k_iload_n dX3_mark_78 rfl
theorem r_X3_mark_79 (E : ax_EN G l) : ax_Snd G l ax_Ym M_X3_mark 79 (S_if1 (fun x => decide (0 ≤ x)) 86 82) := k_if_ge dX3_mark_79 rfl
theorem r_X3_mark_82 (E : ax_EN G l) : ax_Snd G l ax_Ym M_X3_mark 82 (S_push (.int (0)) 83) := k_iconst dX3_mark_82 rfl
theorem r_X3_mark_83 (E : ax_EN G l) : ax_Snd G l ax_Ym M_X3_mark 83 (S_goto 87) := k_goto dX3_mark_83 rfl
theorem r_X3_mark_86 (E : ax_EN G l) : ax_Snd G l ax_Ym M_X3_mark 86 (S_iload 1 87) := k_iload_n dX3_mark_86 rfl
theorem r_X3_mark_87 (E : ax_EN G l) : ax_Snd G l ax_Ym M_X3_mark 87 (S_iret) := k_iret dX3_mark_87 rfl
theorem mt_X3_mark (E : ax_EN G l) : ax_mt G l ax_Ym (3, P_X3_mark) (ax_Ym 491) := ⟨M_X3_mark, yX3_mark, ⟨rfl, by decide +kernel, rfl, (fun h => by cases h), Or.inl ⟨rfl, rfl⟩⟩, fun pc => (ax_sn_node (ax_sn_node (ax_sn_node (ax_sn_node (ax_sn_node (ax_sn_node (ax_sn_leaf (r_X3_mark_87 E)) (ax_sn_leaf (r_X3_mark_86 E))) (ax_sn_node (ax_sn_leaf (r_X3_mark_83 E)) (ax_sn_leaf (r_X3_mark_82 E)))) (ax_sn_node (ax_sn_node (ax_sn_leaf (r_X3_mark_79 E)) (ax_sn_leaf (r_X3_mark_78 E))) (ax_sn_leaf (r_X3_mark_75 E)))) (ax_sn_node (ax_sn_node (ax_sn_node (ax_sn_leaf (r_X3_mark_72 E)) (ax_sn_leaf (r_X3_mark_71 E))) (ax_sn_node (ax_sn_leaf (r_X3_mark_70 E)) (ax_sn_leaf (r_X3_mark_69 E)))) (ax_sn_node (ax_sn_node (ax_sn_leaf (r_X3_mark_66 E)) (ax_sn_leaf (r_X3_mark_65 E))) (ax_sn_leaf (r_X3_mark_64 E))))) (ax_sn_node (ax_sn_node (ax_sn_node (ax_sn_node (ax_sn_leaf (r_X3_mark_63 E)) (ax_sn_leaf (r_X3_mark_62 E))) (ax_sn_node (ax_sn_leaf (r_X3_mark_61 E)) (ax_sn_leaf (r_X3_mark_60 E)))) (ax_sn_node (ax_sn_node (ax_sn_leaf (r_X3_mark_59 E)) (ax_sn_leaf (r_X3_mark_56 E))) (ax_sn_leaf (r_X3_mark_55 E)))) (ax_sn_node (ax_sn_node (ax_sn_node (ax_sn_leaf (r_X3_mark_52 E)) (ax_sn_leaf (r_X3_mark_51 E))) (ax_sn_leaf (r_X3_mark_50 E))) (ax_sn_node (ax_sn_node (ax_sn_leaf (r_X3_mark_47 E)) (ax_sn_leaf (r_X3_mark_46 E))) (ax_sn_leaf (r_X3_mark_43 E)))))) (ax_sn_node (ax_sn_node (ax_sn_node (ax_sn_node (ax_sn_node (ax_sn_leaf (r_X3_mark_42 E)) (ax_sn_leaf (r_X3_mark_41 E))) (ax_sn_node (ax_sn_leaf (r_X3_mark_40 E)) (ax_sn_leaf (r_X3_mark_37 E)))) (ax_sn_node (ax_sn_node (ax_sn_leaf (r_X3_mark_36 E)) (ax_sn_leaf (r_X3_mark_33 E))) (ax_sn_leaf (r_X3_mark_32 E)))) (ax_sn_node (ax_sn_node (ax_sn_node (ax_sn_leaf (r_X3_mark_31 E)) (ax_sn_leaf (r_X3_mark_28 E))) (ax_sn_node (ax_sn_leaf (r_X3_mark_27 E)) (ax_sn_leaf (r_X3_mark_24 E)))) (ax_sn_node (ax_sn_node (ax_sn_leaf (r_X3_mark_23 E)) (ax_sn_leaf (r_X3_mark_22 E))) (ax_sn_leaf (r_X3_mark_19 E))))) (ax_sn_node (ax_sn_node (ax_sn_node (ax_sn_node (ax_sn_leaf (r_X3_mark_18 E)) (ax_sn_leaf (r_X3_mark_17 E))) (ax_sn_node (ax_sn_leaf (r_X3_mark_14 E)) (ax_sn_leaf (r_X3_mark_11 E)))) (ax_sn_node (ax_sn_node (ax_sn_leaf (r_X3_mark_10 E)) (ax_sn_leaf (r_X3_mark_9 E))) (ax_sn_leaf (r_X3_mark_8 E)))) (ax_sn_node (ax_sn_node (ax_sn_node (ax_sn_leaf (r_X3_mark_7 E)) (ax_sn_leaf (r_X3_mark_6 E))) (ax_sn_leaf (r_X3_mark_5 E))) (ax_sn_node (ax_sn_node (ax_sn_leaf (r_X3_mark_2 E)) (ax_sn_leaf (r_X3_mark_1 E))) (ax_sn_leaf (r_X3_mark_0 E)))))))⟩
theorem r_X4_endsMacro_0 (E : ax_EN G l) : ax_Snd G l ax_Ym M_X4_endsMacro 0 (S_push (.int (0)) 1) := k_iconst dX4_endsMacro_0 rfl
theorem r_X4_endsMacro_1 (E : ax_EN G l) : ax_Snd G l ax_Ym M_X4_endsMacro 1 (S_zret) := k_zret dX4_endsMacro_1 rfl
theorem mt_X4_endsMacro (E : ax_EN G l) : ax_mt G l ax_Ym (1, P_X4_endsMacro) (ax_Ym 492) := ⟨M_X4_endsMacro, yX4_endsMacro, ⟨rfl, by decide +kernel, rfl, (fun h => by cases h), Or.inl ⟨rfl, rfl⟩⟩, fun pc => (ax_sn_node (ax_sn_leaf (r_X4_endsMacro_1 E)) (ax_sn_leaf (r_X4_endsMacro_0 E)))⟩
theorem r_X4_beginsMacro_0 (E : ax_EN G l) : ax_Snd G l ax_Ym M_X4_beginsMacro 0 (S_push (.int (0)) 1) := k_iconst dX4_beginsMacro_0 rfl
theorem r_X4_beginsMacro_1 (E : ax_EN G l) : ax_Snd G l ax_Ym M_X4_beginsMacro 1 (S_zret) := k_zret dX4_beginsMacro_1 rfl
theorem mt_X4_beginsMacro (E : ax_EN G l) : ax_mt G l ax_Ym (1, P_X4_beginsMacro) (ax_Ym 493) := ⟨M_X4_beginsMacro, yX4_beginsMacro, ⟨rfl, by decide +kernel, rfl, (fun h => by cases h), Or.inl ⟨rfl, rfl⟩⟩, fun pc => (ax_sn_node (ax_sn_leaf (r_X4_beginsMacro_1 E)) (ax_sn_leaf (r_X4_beginsMacro_0 E)))⟩
theorem r_X4_init_0 (E : ax_EN G l) : ax_Snd G l ax_Ym M_X4_init 0 (S_aload 0 1) := k_aload_n dX4_init_0 rfl
theorem r_X4_init_1 (E : ax_EN G l) : ax_Snd G l ax_Ym M_X4_init 1 (S_oin 4) := k_oin q1702 q189 w_oin dX4_init_1
theorem r_X4_init_4 (E : ax_EN G l) : ax_Snd G l ax_Ym M_X4_init 4 (S_ret) := k_ret dX4_init_4 rfl
theorem mt_X4_init (E : ax_EN G l) : ax_mt G l ax_Ym (1, P_X4_init) (ax_Ym 494) := ⟨M_X4_init, yX4_init, ⟨rfl, by decide +kernel, rfl, (fun _ => rfl), Or.inl ⟨rfl, rfl⟩⟩, fun pc => (ax_sn_node (ax_sn_node (ax_sn_leaf (r_X4_init_4 E)) (ax_sn_leaf (r_X4_init_1 E))) (ax_sn_leaf (r_X4_init_0 E)))⟩
theorem r_X5_go_0 (E : ax_EN G l) : ax_Snd G l ax_Ym M_X5_go 0 (S_aload 1 1) := k_aload_n dX5_go_0 rfl
theorem r_X5_go_1 (E : ax_EN G l) : ax_Snd G l ax_Ym M_X5_go 1 (S_aload 0 2) := k_aload_n dX5_go_1 rfl
theorem r_X5_go_2 (E : ax_EN G l) : ax_Snd G l ax_Ym M_X5_go 2 (S_getf [(39, 0)] 5) := k_getf (en_F E) (ax_fes_cons (fe_504 E) ax_fes_nil) q1703 dX5_go_2
theorem r_X5_go_5 (E : ax_EN G l) : ax_Snd G l ax_Ym M_X5_go 5 (S_putf [(27, 1), (30, 1)] (.int) 8) := k_putf (en_F E) (en_P E) (ax_fes_cons (fe_506 E) (ax_fes_cons (fe_505 E) ax_fes_nil)) (ax_fps_cons (fp_508 E) (ax_fps_cons (fp_507 E) ax_fps_nil)) q432 dX5_go_5
theorem r_X5_go_8 (E : ax_EN G l) : ax_Snd G l ax_Ym M_X5_go 8 (S_iload 3 9) := k_iload_n dX5_go_8 rfl
theorem r_X5_go_9 (E : ax_EN G l) : ax_Snd G l ax_Ym M_X5_go 9 (S_push (.int (1)) 10) := k_iconst dX5_go_9 rfl
theorem r_X5_go_10 (E : ax_EN G l) : ax_Snd G l ax_Ym M_X5_go 10 (S_i2 (fun x y => x + y) 11) := k_iadd dX5_go_10
theorem r_X5_go_11 (E : ax_EN G l) : ax_Snd G l ax_Ym M_X5_go 11 (S_iret) := k_iret dX5_go_11 rfl
theorem mt_X5_go (E : ax_EN G l) : ax_mt G l ax_Ym (4, P_X5_go) (ax_Ym 495) := ⟨M_X5_go, yX5_go, ⟨rfl, by decide +kernel, rfl, (fun h => by cases h), Or.inl ⟨rfl, rfl⟩⟩, fun pc => (ax_sn_node (ax_sn_node (ax_sn_node (ax_sn_leaf (r_X5_go_11 E)) (ax_sn_leaf (r_X5_go_10 E))) (ax_sn_node (ax_sn_leaf (r_X5_go_9 E)) (ax_sn_leaf (r_X5_go_8 E)))) (ax_sn_node (ax_sn_node (ax_sn_leaf (r_X5_go_5 E)) (ax_sn_leaf (r_X5_go_2 E))) (ax_sn_node (ax_sn_leaf (r_X5_go_1 E)) (ax_sn_leaf (r_X5_go_0 E)))))⟩
theorem r_X5_init_0 (E : ax_EN G l) : ax_Snd G l ax_Ym M_X5_init 0 (S_aload 0 1) := k_aload_n dX5_init_0 rfl
theorem r_X5_init_1 (E : ax_EN G l) : ax_Snd G l ax_Ym M_X5_init 1 (S_aload 1 2) := k_aload_n dX5_init_1 rfl
theorem r_X5_init_2 (E : ax_EN G l) : ax_Snd G l ax_Ym M_X5_init 2 (S_putf [(39, 1)] (.object "KernelGym") 5) := k_putfF (en_F E) (en_P E) (ax_fes_cons (fe_509 E) ax_fes_nil) (ax_fps_cons (fp_510 E) ax_fps_nil) rfl q1704 dX5_init_2
theorem r_X5_init_5 (E : ax_EN G l) : ax_Snd G l ax_Ym M_X5_init 5 (S_aload 0 6) := k_aload_n dX5_init_5 rfl
theorem r_X5_init_6 (E : ax_EN G l) : ax_Snd G l ax_Ym M_X5_init 6 (S_iload 2 7) := k_iload_n dX5_init_6 rfl
theorem r_X5_init_7 (E : ax_EN G l) : ax_Snd G l ax_Ym M_X5_init 7 (S_putf [(39, 0)] (.int) 10) := k_putfF (en_F E) (en_P E) (ax_fes_cons (fe_504 E) ax_fes_nil) (ax_fps_cons (fp_511 E) ax_fps_nil) rfl q1703 dX5_init_7
theorem r_X5_init_10 (E : ax_EN G l) : ax_Snd G l ax_Ym M_X5_init 10 (S_aload 0 11) := k_aload_n dX5_init_10 rfl
theorem r_X5_init_11 (E : ax_EN G l) : ax_Snd G l ax_Ym M_X5_init 11 (S_isp 494 0 14 hd_0) := k_isp (en_F E) (ax_ok0 E rfl) ((ev_iN (en_B E) y_X4_init q1699 q1700 q131 q1701 nm_X4_init rfl (Nat.le_of_ble_eq_true rfl) dX5_init_11) : ax_EvI G l ax_Ym M_X5_init 11 494 0 3)
theorem r_X5_init_14 (E : ax_EN G l) : ax_Snd G l ax_Ym M_X5_init 14 (S_ret) := k_ret dX5_init_14 rfl
theorem mt_X5_init (E : ax_EN G l) : ax_mt G l ax_Ym (3, P_X5_init) (ax_Ym 496) := ⟨M_X5_init, yX5_init, ⟨rfl, by decide +kernel, rfl, (fun _ => rfl), Or.inl ⟨rfl, rfl⟩⟩, fun pc => (ax_sn_node (ax_sn_node (ax_sn_node (ax_sn_node (ax_sn_leaf (r_X5_init_14 E)) (ax_sn_leaf (r_X5_init_11 E))) (ax_sn_leaf (r_X5_init_10 E))) (ax_sn_node (ax_sn_leaf (r_X5_init_7 E)) (ax_sn_leaf (r_X5_init_6 E)))) (ax_sn_node (ax_sn_node (ax_sn_leaf (r_X5_init_5 E)) (ax_sn_leaf (r_X5_init_2 E))) (ax_sn_node (ax_sn_leaf (r_X5_init_1 E)) (ax_sn_leaf (r_X5_init_0 E)))))⟩
theorem r_X6_go_0 (E : ax_EN G l) : ax_Snd G l ax_Ym M_X6_go 0 (S_aload 1 1) := k_aload_n dX6_go_0 rfl
theorem r_X6_go_1 (E : ax_EN G l) : ax_Snd G l ax_Ym M_X6_go 1 (S_aload 0 2) := k_aload_n dX6_go_1 rfl
theorem r_X6_go_2 (E : ax_EN G l) : ax_Snd G l ax_Ym M_X6_go 2 (S_getf [(40, 0)] 5) := k_getf (en_F E) (ax_fes_cons (fe_512 E) ax_fes_nil) q1748 dX6_go_2
theorem r_X6_go_5 (E : ax_EN G l) : ax_Snd G l ax_Ym M_X6_go 5 (S_aload 2 6) := k_aload_n dX6_go_5 rfl
theorem r_X6_go_6 (E : ax_EN G l) : ax_Snd G l ax_Ym M_X6_go 6 (S_iload 3 7) := k_iload_n dX6_go_6 rfl
theorem r_X6_go_7 (E : ax_EN G l) : ax_Snd G l ax_Ym M_X6_go 7 (S_iv [(27, 291), (30, 352)] 3 10 hd_0) := k_iv (en_F E) (ax_ok0 E rfl) (ax_Evs_cons ((ev_vB (en_B E) (en_c E (k := 27) rfl) y_X18_set q887 q889 q888 q891 q890 q151 q892 xo_513 (Nat.le_of_ble_eq_true rfl) dX6_go_7) : ax_EvV G l ax_Ym M_X6_go 7 3 3 27 291) (ax_Evs_cons ((ev_vB (en_B E) (en_c E (k := 30) rfl) y_X20_set q887 q889 q888 q899 q898 q163 q900 xo_513 (Nat.le_of_ble_eq_true rfl) dX6_go_7) : ax_EvV G l ax_Ym M_X6_go 7 3 3 30 352) ax_Evs_nil))
theorem r_X6_go_10 (E : ax_EN G l) : ax_Snd G l ax_Ym M_X6_go 10 (S_iload 3 11) := k_iload_n dX6_go_10 rfl
theorem r_X6_go_11 (E : ax_EN G l) : ax_Snd G l ax_Ym M_X6_go 11 (S_push (.int (1)) 12) := k_iconst dX6_go_11 rfl
theorem r_X6_go_12 (E : ax_EN G l) : ax_Snd G l ax_Ym M_X6_go 12 (S_i2 (fun x y => x + y) 13) := k_iadd dX6_go_12
theorem r_X6_go_13 (E : ax_EN G l) : ax_Snd G l ax_Ym M_X6_go 13 (S_iret) := k_iret dX6_go_13 rfl
theorem mt_X6_go (E : ax_EN G l) : ax_mt G l ax_Ym (4, P_X6_go) (ax_Ym 497) := ⟨M_X6_go, yX6_go, ⟨rfl, by decide +kernel, rfl, (fun h => by cases h), Or.inl ⟨rfl, rfl⟩⟩, fun pc => (ax_sn_node (ax_sn_node (ax_sn_node (ax_sn_node (ax_sn_leaf (r_X6_go_13 E)) (ax_sn_leaf (r_X6_go_12 E))) (ax_sn_leaf (r_X6_go_11 E))) (ax_sn_node (ax_sn_leaf (r_X6_go_10 E)) (ax_sn_leaf (r_X6_go_7 E)))) (ax_sn_node (ax_sn_node (ax_sn_node (ax_sn_leaf (r_X6_go_6 E)) (ax_sn_leaf (r_X6_go_5 E))) (ax_sn_leaf (r_X6_go_2 E))) (ax_sn_node (ax_sn_leaf (r_X6_go_1 E)) (ax_sn_leaf (r_X6_go_0 E)))))⟩
theorem r_X6_init_0 (E : ax_EN G l) : ax_Snd G l ax_Ym M_X6_init 0 (S_aload 0 1) := k_aload_n dX6_init_0 rfl
theorem r_X6_init_1 (E : ax_EN G l) : ax_Snd G l ax_Ym M_X6_init 1 (S_aload 1 2) := k_aload_n dX6_init_1 rfl
theorem r_X6_init_2 (E : ax_EN G l) : ax_Snd G l ax_Ym M_X6_init 2 (S_putf [(40, 1)] (.object "KernelGym") 5) := k_putfF (en_F E) (en_P E) (ax_fes_cons (fe_514 E) ax_fes_nil) (ax_fps_cons (fp_515 E) ax_fps_nil) rfl q1749 dX6_init_2
theorem r_X6_init_5 (E : ax_EN G l) : ax_Snd G l ax_Ym M_X6_init 5 (S_aload 0 6) := k_aload_n dX6_init_5 rfl
theorem r_X6_init_6 (E : ax_EN G l) : ax_Snd G l ax_Ym M_X6_init 6 (S_iload 2 7) := k_iload_n dX6_init_6 rfl
theorem r_X6_init_7 (E : ax_EN G l) : ax_Snd G l ax_Ym M_X6_init 7 (S_putf [(40, 0)] (.int) 10) := k_putfF (en_F E) (en_P E) (ax_fes_cons (fe_512 E) ax_fes_nil) (ax_fps_cons (fp_516 E) ax_fps_nil) rfl q1748 dX6_init_7
theorem r_X6_init_10 (E : ax_EN G l) : ax_Snd G l ax_Ym M_X6_init 10 (S_aload 0 11) := k_aload_n dX6_init_10 rfl
theorem r_X6_init_11 (E : ax_EN G l) : ax_Snd G l ax_Ym M_X6_init 11 (S_isp 494 0 14 hd_0) := k_isp (en_F E) (ax_ok0 E rfl) ((ev_iN (en_B E) y_X4_init q1747 q1700 q131 q1701 nm_X4_init rfl (Nat.le_of_ble_eq_true rfl) dX6_init_11) : ax_EvI G l ax_Ym M_X6_init 11 494 0 3)
theorem r_X6_init_14 (E : ax_EN G l) : ax_Snd G l ax_Ym M_X6_init 14 (S_ret) := k_ret dX6_init_14 rfl
theorem mt_X6_init (E : ax_EN G l) : ax_mt G l ax_Ym (3, P_X6_init) (ax_Ym 498) := ⟨M_X6_init, yX6_init, ⟨rfl, by decide +kernel, rfl, (fun _ => rfl), Or.inl ⟨rfl, rfl⟩⟩, fun pc => (ax_sn_node (ax_sn_node (ax_sn_node (ax_sn_node (ax_sn_leaf (r_X6_init_14 E)) (ax_sn_leaf (r_X6_init_11 E))) (ax_sn_leaf (r_X6_init_10 E))) (ax_sn_node (ax_sn_leaf (r_X6_init_7 E)) (ax_sn_leaf (r_X6_init_6 E)))) (ax_sn_node (ax_sn_node (ax_sn_leaf (r_X6_init_5 E)) (ax_sn_leaf (r_X6_init_2 E))) (ax_sn_node (ax_sn_leaf (r_X6_init_1 E)) (ax_sn_leaf (r_X6_init_0 E)))))⟩
theorem r_X7_init_0 (E : ax_EN G l) : ax_Snd G l ax_Ym M_X7_init 0 (S_aload 0 1) := k_aload_n dX7_init_0 rfl
theorem r_X7_init_1 (E : ax_EN G l) : ax_Snd G l ax_Ym M_X7_init 1 (S_oin 4) := k_oin q1771 q189 w_oin dX7_init_1
theorem r_X7_init_4 (E : ax_EN G l) : ax_Snd G l ax_Ym M_X7_init 4 (S_aload 0 5) := k_aload_n dX7_init_4 rfl
theorem r_X7_init_5 (E : ax_EN G l) : ax_Snd G l ax_Ym M_X7_init 5 (S_iload 1 6) := k_iload_n dX7_init_5 rfl
theorem r_X7_init_6 (E : ax_EN G l) : ax_Snd G l ax_Ym M_X7_init 6 (S_putf [(41, 0)] (.int) 9) := k_putfF (en_F E) (en_P E) (ax_fes_cons (fe_333 E) ax_fes_nil) (ax_fps_cons (fp_517 E) ax_fps_nil) rfl q1772 dX7_init_6
theorem r_X7_init_9 (E : ax_EN G l) : ax_Snd G l ax_Ym M_X7_init 9 (S_aload 0 10) := k_aload_n dX7_init_9 rfl
theorem r_X7_init_10 (E : ax_EN G l) : ax_Snd G l ax_Ym M_X7_init 10 (S_iload 2 11) := k_iload_n dX7_init_10 rfl
theorem r_X7_init_11 (E : ax_EN G l) : ax_Snd G l ax_Ym M_X7_init 11 (S_putf [(41, 1)] (.int) 14) := k_putfF (en_F E) (en_P E) (ax_fes_cons (fe_334 E) ax_fes_nil) (ax_fps_cons (fp_518 E) ax_fps_nil) rfl q1774 dX7_init_11
theorem r_X7_init_14 (E : ax_EN G l) : ax_Snd G l ax_Ym M_X7_init 14 (S_ret) := k_ret dX7_init_14 rfl
theorem mt_X7_init (E : ax_EN G l) : ax_mt G l ax_Ym (3, P_X7_init) (ax_Ym 499) := ⟨M_X7_init, yX7_init, ⟨rfl, by decide +kernel, rfl, (fun _ => rfl), Or.inl ⟨rfl, rfl⟩⟩, fun pc => (ax_sn_node (ax_sn_node (ax_sn_node (ax_sn_node (ax_sn_leaf (r_X7_init_14 E)) (ax_sn_leaf (r_X7_init_11 E))) (ax_sn_leaf (r_X7_init_10 E))) (ax_sn_node (ax_sn_leaf (r_X7_init_9 E)) (ax_sn_leaf (r_X7_init_6 E)))) (ax_sn_node (ax_sn_node (ax_sn_leaf (r_X7_init_5 E)) (ax_sn_leaf (r_X7_init_4 E))) (ax_sn_node (ax_sn_leaf (r_X7_init_1 E)) (ax_sn_leaf (r_X7_init_0 E)))))⟩
theorem r_X8_go_0 (E : ax_EN G l) : ax_Snd G l ax_Ym M_X8_go 0 (S_aload 1 1) := k_aload_n dX8_go_0 rfl
theorem r_X8_go_1 (E : ax_EN G l) : ax_Snd G l ax_Ym M_X8_go 1 (S_aload 0 2) := k_aload_n dX8_go_1 rfl
theorem r_X8_go_2 (E : ax_EN G l) : ax_Snd G l ax_Ym M_X8_go 2 (S_getf [(42, 0)] 5) := k_getf (en_F E) (ax_fes_cons (fe_519 E) ax_fes_nil) q1787 dX8_go_2
theorem r_X8_go_5 (E : ax_EN G l) : ax_Snd G l ax_Ym M_X8_go 5 (S_push (.int (4)) 6) := k_iconst dX8_go_5 rfl
theorem r_X8_go_6 (E : ax_EN G l) : ax_Snd G l ax_Ym M_X8_go 6 (S_i2 (fun x y => x <<< (y &&& 31)) 7) := k_ishl dX8_go_6
theorem r_X8_go_7 (E : ax_EN G l) : ax_Snd G l ax_Ym M_X8_go 7 (S_aload 0 8) := k_aload_n dX8_go_7 rfl
theorem r_X8_go_8 (E : ax_EN G l) : ax_Snd G l ax_Ym M_X8_go 8 (S_getf [(42, 1)] 11) := k_getf (en_F E) (ax_fes_cons (fe_520 E) ax_fes_nil) q1788 dX8_go_8
theorem r_X8_go_11 (E : ax_EN G l) : ax_Snd G l ax_Ym M_X8_go 11 (S_push (.int (2)) 12) := k_iconst dX8_go_11 rfl
theorem r_X8_go_12 (E : ax_EN G l) : ax_Snd G l ax_Ym M_X8_go 12 (S_i2 (fun x y => x <<< (y &&& 31)) 13) := k_ishl dX8_go_12
theorem r_X8_go_13 (E : ax_EN G l) : ax_Snd G l ax_Ym M_X8_go 13 (S_i2 (fun x y => x ||| y) 14) := k_ior dX8_go_13
theorem r_X8_go_14 (E : ax_EN G l) : ax_Snd G l ax_Ym M_X8_go 14 (S_aload 0 15) := k_aload_n dX8_go_14 rfl
theorem r_X8_go_15 (E : ax_EN G l) : ax_Snd G l ax_Ym M_X8_go 15 (S_getf [(42, 2)] 18) := k_getf (en_F E) (ax_fes_cons (fe_521 E) ax_fes_nil) q1789 dX8_go_15
theorem r_X8_go_18 (E : ax_EN G l) : ax_Snd G l ax_Ym M_X8_go 18 (S_i2 (fun x y => x ||| y) 19) := k_ior dX8_go_18
theorem r_X8_go_19 (E : ax_EN G l) : ax_Snd G l ax_Ym M_X8_go 19 (S_iload 3 20) := k_iload_n dX8_go_19 rfl
theorem r_X8_go_20 (E : ax_EN G l) : ax_Snd G l ax_Ym M_X8_go 20 (S_iv [(27, 292), (30, 353)] 2 23 hd_0) := k_iv (en_F E) (ax_ok0 E rfl) (ax_Evs_cons ((ev_vB (en_B E) (en_c E (k := 27) rfl) y_X18_take q904 q906 q905 q908 q907 q151 q909 xo_190 (Nat.le_of_ble_eq_true rfl) dX8_go_20) : ax_EvV G l ax_Ym M_X8_go 20 2 3 27 292) (ax_Evs_cons ((ev_vB (en_B E) (en_c E (k := 30) rfl) y_X20_take q904 q906 q905 q911 q910 q163 q912 xo_190 (Nat.le_of_ble_eq_true rfl) dX8_go_20) : ax_EvV G l ax_Ym M_X8_go 20 2 3 30 353) ax_Evs_nil))
theorem r_X8_go_23 (E : ax_EN G l) : ax_Snd G l ax_Ym M_X8_go 23 (S_aload 1 24) := k_aload_n dX8_go_23 rfl
theorem r_X8_go_24 (E : ax_EN G l) : ax_Snd G l ax_Ym M_X8_go 24 (S_aload 1 25) := k_aload_n dX8_go_24 rfl
theorem r_X8_go_25 (E : ax_EN G l) : ax_Snd G l ax_Ym M_X8_go 25 (S_aload 0 26) := k_aload_n dX8_go_25 rfl
theorem r_X8_go_26 (E : ax_EN G l) : ax_Snd G l ax_Ym M_X8_go 26 (S_getf [(42, 3)] 29) := k_getf (en_F E) (ax_fes_cons (fe_522 E) ax_fes_nil) q1790 dX8_go_26
theorem r_X8_go_29 (E : ax_EN G l) : ax_Snd G l ax_Ym M_X8_go 29 (S_aload 2 30) := k_aload_n dX8_go_29 rfl
theorem r_X8_go_30 (E : ax_EN G l) : ax_Snd G l ax_Ym M_X8_go 30 (S_iload 3 31) := k_iload_n dX8_go_30 rfl
theorem r_X8_go_31 (E : ax_EN G l) : ax_Snd G l ax_Ym M_X8_go 31 (S_iv [(27, 293), (30, 354)] 3 34 hd_0) := k_iv (en_F E) (ax_ok0 E rfl) (ax_Evs_cons ((ev_vB (en_B E) (en_c E (k := 27) rfl) y_X18_value q913 q915 q914 q917 q916 q151 q918 xo_196 (Nat.le_of_ble_eq_true rfl) dX8_go_31) : ax_EvV G l ax_Ym M_X8_go 31 3 3 27 293) (ax_Evs_cons ((ev_vB (en_B E) (en_c E (k := 30) rfl) y_X20_value q913 q915 q914 q920 q919 q163 q921 xo_196 (Nat.le_of_ble_eq_true rfl) dX8_go_31) : ax_EvV G l ax_Ym M_X8_go 31 3 3 30 354) ax_Evs_nil))
theorem r_X8_go_34 (E : ax_EN G l) : ax_Snd G l ax_Ym M_X8_go 34 (S_iload 3 35) := k_iload_n dX8_go_34 rfl
theorem r_X8_go_35 (E : ax_EN G l) : ax_Snd G l ax_Ym M_X8_go 35 (S_iv [(27, 292), (30, 353)] 2 38 hd_0) := k_iv (en_F E) (ax_ok0 E rfl) (ax_Evs_cons ((ev_vB (en_B E) (en_c E (k := 27) rfl) y_X18_take q904 q906 q905 q908 q907 q151 q909 xo_190 (Nat.le_of_ble_eq_true rfl) dX8_go_35) : ax_EvV G l ax_Ym M_X8_go 35 2 3 27 292) (ax_Evs_cons ((ev_vB (en_B E) (en_c E (k := 30) rfl) y_X20_take q904 q906 q905 q911 q910 q163 q912 xo_190 (Nat.le_of_ble_eq_true rfl) dX8_go_35) : ax_EvV G l ax_Ym M_X8_go 35 2 3 30 353) ax_Evs_nil))
theorem r_X8_go_38 (E : ax_EN G l) : ax_Snd G l ax_Ym M_X8_go 38 (S_iload 3 39) := k_iload_n dX8_go_38 rfl
theorem r_X8_go_39 (E : ax_EN G l) : ax_Snd G l ax_Ym M_X8_go 39 (S_push (.int (1)) 40) := k_iconst dX8_go_39 rfl
theorem r_X8_go_40 (E : ax_EN G l) : ax_Snd G l ax_Ym M_X8_go 40 (S_i2 (fun x y => x + y) 41) := k_iadd dX8_go_40
theorem r_X8_go_41 (E : ax_EN G l) : ax_Snd G l ax_Ym M_X8_go 41 (S_iret) := k_iret dX8_go_41 rfl
theorem mt_X8_go (E : ax_EN G l) : ax_mt G l ax_Ym (4, P_X8_go) (ax_Ym 500) := ⟨M_X8_go, yX8_go, ⟨rfl, by decide +kernel, rfl, (fun h => by cases h), Or.inl ⟨rfl, rfl⟩⟩, fun pc => (ax_sn_node (ax_sn_node (ax_sn_node (ax_sn_node (ax_sn_node (ax_sn_leaf (r_X8_go_41 E)) (ax_sn_leaf (r_X8_go_40 E))) (ax_sn_node (ax_sn_leaf (r_X8_go_39 E)) (ax_sn_leaf (r_X8_go_38 E)))) (ax_sn_node (ax_sn_node (ax_sn_leaf (r_X8_go_35 E)) (ax_sn_leaf (r_X8_go_34 E))) (ax_sn_leaf (r_X8_go_31 E)))) (ax_sn_node (ax_sn_node (ax_sn_node (ax_sn_leaf (r_X8_go_30 E)) (ax_sn_leaf (r_X8_go_29 E))) (ax_sn_node (ax_sn_leaf (r_X8_go_26 E)) (ax_sn_leaf (r_X8_go_25 E)))) (ax_sn_node (ax_sn_node (ax_sn_leaf (r_X8_go_24 E)) (ax_sn_leaf (r_X8_go_23 E))) (ax_sn_leaf (r_X8_go_20 E))))) (ax_sn_node (ax_sn_node (ax_sn_node (ax_sn_node (ax_sn_leaf (r_X8_go_19 E)) (ax_sn_leaf (r_X8_go_18 E))) (ax_sn_node (ax_sn_leaf (r_X8_go_15 E)) (ax_sn_leaf (r_X8_go_14 E)))) (ax_sn_node (ax_sn_node (ax_sn_leaf (r_X8_go_13 E)) (ax_sn_leaf (r_X8_go_12 E))) (ax_sn_leaf (r_X8_go_11 E)))) (ax_sn_node (ax_sn_node (ax_sn_node (ax_sn_leaf (r_X8_go_8 E)) (ax_sn_leaf (r_X8_go_7 E))) (ax_sn_node (ax_sn_leaf (r_X8_go_6 E)) (ax_sn_leaf (r_X8_go_5 E)))) (ax_sn_node (ax_sn_node (ax_sn_leaf (r_X8_go_2 E)) (ax_sn_leaf (r_X8_go_1 E))) (ax_sn_leaf (r_X8_go_0 E))))))⟩
theorem r_X8_init_0 (E : ax_EN G l) : ax_Snd G l ax_Ym M_X8_init 0 (S_aload 0 1) := k_aload_n dX8_init_0 rfl
theorem r_X8_init_1 (E : ax_EN G l) : ax_Snd G l ax_Ym M_X8_init 1 (S_aload 1 2) := k_aload_n dX8_init_1 rfl
theorem r_X8_init_2 (E : ax_EN G l) : ax_Snd G l ax_Ym M_X8_init 2 (S_putf [(42, 4)] (.object "KernelGym") 5) := k_putfF (en_F E) (en_P E) (ax_fes_cons (fe_523 E) ax_fes_nil) (ax_fps_cons (fp_524 E) ax_fps_nil) rfl q1791 dX8_init_2
theorem r_X8_init_5 (E : ax_EN G l) : ax_Snd G l ax_Ym M_X8_init 5 (S_aload 0 6) := k_aload_n dX8_init_5 rfl
theorem r_X8_init_6 (E : ax_EN G l) : ax_Snd G l ax_Ym M_X8_init 6 (S_iload 2 7) := k_iload_n dX8_init_6 rfl
theorem r_X8_init_7 (E : ax_EN G l) : ax_Snd G l ax_Ym M_X8_init 7 (S_putf [(42, 0)] (.int) 10) := k_putfF (en_F E) (en_P E) (ax_fes_cons (fe_519 E) ax_fes_nil) (ax_fps_cons (fp_525 E) ax_fps_nil) rfl q1787 dX8_init_7
theorem r_X8_init_10 (E : ax_EN G l) : ax_Snd G l ax_Ym M_X8_init 10 (S_aload 0 11) := k_aload_n dX8_init_10 rfl
theorem r_X8_init_11 (E : ax_EN G l) : ax_Snd G l ax_Ym M_X8_init 11 (S_iload 3 12) := k_iload_n dX8_init_11 rfl
theorem r_X8_init_12 (E : ax_EN G l) : ax_Snd G l ax_Ym M_X8_init 12 (S_putf [(42, 1)] (.int) 15) := k_putfF (en_F E) (en_P E) (ax_fes_cons (fe_520 E) ax_fes_nil) (ax_fps_cons (fp_526 E) ax_fps_nil) rfl q1788 dX8_init_12
theorem r_X8_init_15 (E : ax_EN G l) : ax_Snd G l ax_Ym M_X8_init 15 (S_aload 0 16) := k_aload_n dX8_init_15 rfl
theorem r_X8_init_16 (E : ax_EN G l) : ax_Snd G l ax_Ym M_X8_init 16 (S_iload 4 18) := k_iload dX8_init_16
theorem r_X8_init_18 (E : ax_EN G l) : ax_Snd G l ax_Ym M_X8_init 18 (S_putf [(42, 2)] (.int) 21) := k_putfF (en_F E) (en_P E) (ax_fes_cons (fe_521 E) ax_fes_nil) (ax_fps_cons (fp_527 E) ax_fps_nil) rfl q1789 dX8_init_18
theorem r_X8_init_21 (E : ax_EN G l) : ax_Snd G l ax_Ym M_X8_init 21 (S_aload 0 22) := k_aload_n dX8_init_21 rfl
theorem r_X8_init_22 (E : ax_EN G l) : ax_Snd G l ax_Ym M_X8_init 22 (S_aload 5 24) := k_aload dX8_init_22
theorem r_X8_init_24 (E : ax_EN G l) : ax_Snd G l ax_Ym M_X8_init 24 (S_putf [(42, 3)] (.object "KernelGym$Operand") 27) := k_putfF (en_F E) (en_P E) (ax_fes_cons (fe_522 E) ax_fes_nil) (ax_fps_cons (fp_528 E) ax_fps_nil) rfl q1790 dX8_init_24
theorem r_X8_init_27 (E : ax_EN G l) : ax_Snd G l ax_Ym M_X8_init 27 (S_aload 0 28) := k_aload_n dX8_init_27 rfl
theorem r_X8_init_28 (E : ax_EN G l) : ax_Snd G l ax_Ym M_X8_init 28 (S_isp 494 0 31 hd_0) := k_isp (en_F E) (ax_ok0 E rfl) ((ev_iN (en_B E) y_X4_init q1786 q1700 q131 q1701 nm_X4_init rfl (Nat.le_of_ble_eq_true rfl) dX8_init_28) : ax_EvI G l ax_Ym M_X8_init 28 494 0 3)
theorem r_X8_init_31 (E : ax_EN G l) : ax_Snd G l ax_Ym M_X8_init 31 (S_ret) := k_ret dX8_init_31 rfl
theorem mt_X8_init (E : ax_EN G l) : ax_mt G l ax_Ym (6, P_X8_init) (ax_Ym 501) := ⟨M_X8_init, yX8_init, ⟨rfl, by decide +kernel, rfl, (fun _ => rfl), Or.inl ⟨rfl, rfl⟩⟩, fun pc => (ax_sn_node (ax_sn_node (ax_sn_node (ax_sn_node (ax_sn_node (ax_sn_leaf (r_X8_init_31 E)) (ax_sn_leaf (r_X8_init_28 E))) (ax_sn_leaf (r_X8_init_27 E))) (ax_sn_node (ax_sn_leaf (r_X8_init_24 E)) (ax_sn_leaf (r_X8_init_22 E)))) (ax_sn_node (ax_sn_node (ax_sn_leaf (r_X8_init_21 E)) (ax_sn_leaf (r_X8_init_18 E))) (ax_sn_node (ax_sn_leaf (r_X8_init_16 E)) (ax_sn_leaf (r_X8_init_15 E))))) (ax_sn_node (ax_sn_node (ax_sn_node (ax_sn_node (ax_sn_leaf (r_X8_init_12 E)) (ax_sn_leaf (r_X8_init_11 E))) (ax_sn_leaf (r_X8_init_10 E))) (ax_sn_node (ax_sn_leaf (r_X8_init_7 E)) (ax_sn_leaf (r_X8_init_6 E)))) (ax_sn_node (ax_sn_node (ax_sn_leaf (r_X8_init_5 E)) (ax_sn_leaf (r_X8_init_2 E))) (ax_sn_node (ax_sn_leaf (r_X8_init_1 E)) (ax_sn_leaf (r_X8_init_0 E))))))⟩
theorem r_X9_go_0 (E : ax_EN G l) : ax_Snd G l ax_Ym M_X9_go 0 (S_aload 1 1) := k_aload_n dX9_go_0 rfl
theorem r_X9_go_1 (E : ax_EN G l) : ax_Snd G l ax_Ym M_X9_go 1 (S_aload 1 2) := k_aload_n dX9_go_1 rfl
theorem r_X9_go_2 (E : ax_EN G l) : ax_Snd G l ax_Ym M_X9_go 2 (S_aload 0 3) := k_aload_n dX9_go_2 rfl
theorem r_X9_go_3 (E : ax_EN G l) : ax_Snd G l ax_Ym M_X9_go 3 (S_getf [(43, 0)] 6) := k_getf (en_F E) (ax_fes_cons (fe_529 E) ax_fes_nil) q1816 dX9_go_3
theorem r_X9_go_6 (E : ax_EN G l) : ax_Snd G l ax_Ym M_X9_go 6 (S_aload 2 7) := k_aload_n dX9_go_6 rfl
theorem r_X9_go_7 (E : ax_EN G l) : ax_Snd G l ax_Ym M_X9_go 7 (S_iload 3 8) := k_iload_n dX9_go_7 rfl
theorem r_X9_go_8 (E : ax_EN G l) : ax_Snd G l ax_Ym M_X9_go 8 (S_iv [(27, 293), (30, 354)] 3 11 hd_0) := k_iv (en_F E) (ax_ok0 E rfl) (ax_Evs_cons ((ev_vB (en_B E) (en_c E (k := 27) rfl) y_X18_value q935 q915 q914 q917 q916 q151 q918 xo_196 (Nat.le_of_ble_eq_true rfl) dX9_go_8) : ax_EvV G l ax_Ym M_X9_go 8 3 3 27 293) (ax_Evs_cons ((ev_vB (en_B E) (en_c E (k := 30) rfl) y_X20_value q935 q915 q914 q920 q919 q163 q921 xo_196 (Nat.le_of_ble_eq_true rfl) dX9_go_8) : ax_EvV G l ax_Ym M_X9_go 8 3 3 30 354) ax_Evs_nil))
theorem r_X9_go_11 (E : ax_EN G l) : ax_Snd G l ax_Ym M_X9_go 11 (S_iload 3 12) := k_iload_n dX9_go_11 rfl
theorem r_X9_go_12 (E : ax_EN G l) : ax_Snd G l ax_Ym M_X9_go 12 (S_iv [(27, 292), (30, 353)] 2 15 hd_0) := k_iv (en_F E) (ax_ok0 E rfl) (ax_Evs_cons ((ev_vB (en_B E) (en_c E (k := 27) rfl) y_X18_take q936 q906 q905 q908 q907 q151 q909 xo_190 (Nat.le_of_ble_eq_true rfl) dX9_go_12) : ax_EvV G l ax_Ym M_X9_go 12 2 3 27 292) (ax_Evs_cons ((ev_vB (en_B E) (en_c E (k := 30) rfl) y_X20_take q936 q906 q905 q911 q910 q163 q912 xo_190 (Nat.le_of_ble_eq_true rfl) dX9_go_12) : ax_EvV G l ax_Ym M_X9_go 12 2 3 30 353) ax_Evs_nil))
theorem r_X9_go_15 (E : ax_EN G l) : ax_Snd G l ax_Ym M_X9_go 15 (S_iload 3 16) := k_iload_n dX9_go_15 rfl
theorem r_X9_go_16 (E : ax_EN G l) : ax_Snd G l ax_Ym M_X9_go 16 (S_push (.int (1)) 17) := k_iconst dX9_go_16 rfl
theorem r_X9_go_17 (E : ax_EN G l) : ax_Snd G l ax_Ym M_X9_go 17 (S_i2 (fun x y => x + y) 18) := k_iadd dX9_go_17
theorem r_X9_go_18 (E : ax_EN G l) : ax_Snd G l ax_Ym M_X9_go 18 (S_iret) := k_iret dX9_go_18 rfl
theorem mt_X9_go (E : ax_EN G l) : ax_mt G l ax_Ym (4, P_X9_go) (ax_Ym 502) := ⟨M_X9_go, yX9_go, ⟨rfl, by decide +kernel, rfl, (fun h => by cases h), Or.inl ⟨rfl, rfl⟩⟩, fun pc => (ax_sn_node (ax_sn_node (ax_sn_node (ax_sn_node (ax_sn_leaf (r_X9_go_18 E)) (ax_sn_leaf (r_X9_go_17 E))) (ax_sn_node (ax_sn_leaf (r_X9_go_16 E)) (ax_sn_leaf (r_X9_go_15 E)))) (ax_sn_node (ax_sn_node (ax_sn_leaf (r_X9_go_12 E)) (ax_sn_leaf (r_X9_go_11 E))) (ax_sn_leaf (r_X9_go_8 E)))) (ax_sn_node (ax_sn_node (ax_sn_node (ax_sn_leaf (r_X9_go_7 E)) (ax_sn_leaf (r_X9_go_6 E))) (ax_sn_leaf (r_X9_go_3 E))) (ax_sn_node (ax_sn_node (ax_sn_leaf (r_X9_go_2 E)) (ax_sn_leaf (r_X9_go_1 E))) (ax_sn_leaf (r_X9_go_0 E)))))⟩
theorem r_X9_init_0 (E : ax_EN G l) : ax_Snd G l ax_Ym M_X9_init 0 (S_aload 0 1) := k_aload_n dX9_init_0 rfl
theorem r_X9_init_1 (E : ax_EN G l) : ax_Snd G l ax_Ym M_X9_init 1 (S_aload 1 2) := k_aload_n dX9_init_1 rfl
theorem r_X9_init_2 (E : ax_EN G l) : ax_Snd G l ax_Ym M_X9_init 2 (S_putf [(43, 1)] (.object "KernelGym") 5) := k_putfF (en_F E) (en_P E) (ax_fes_cons (fe_530 E) ax_fes_nil) (ax_fps_cons (fp_531 E) ax_fps_nil) rfl q1817 dX9_init_2
theorem r_X9_init_5 (E : ax_EN G l) : ax_Snd G l ax_Ym M_X9_init 5 (S_aload 0 6) := k_aload_n dX9_init_5 rfl
theorem r_X9_init_6 (E : ax_EN G l) : ax_Snd G l ax_Ym M_X9_init 6 (S_aload 2 7) := k_aload_n dX9_init_6 rfl
theorem r_X9_init_7 (E : ax_EN G l) : ax_Snd G l ax_Ym M_X9_init 7 (S_putf [(43, 0)] (.object "KernelGym$Operand") 10) := k_putfF (en_F E) (en_P E) (ax_fes_cons (fe_529 E) ax_fes_nil) (ax_fps_cons (fp_532 E) ax_fps_nil) rfl q1816 dX9_init_7
theorem r_X9_init_10 (E : ax_EN G l) : ax_Snd G l ax_Ym M_X9_init 10 (S_aload 0 11) := k_aload_n dX9_init_10 rfl
theorem r_X9_init_11 (E : ax_EN G l) : ax_Snd G l ax_Ym M_X9_init 11 (S_isp 494 0 14 hd_0) := k_isp (en_F E) (ax_ok0 E rfl) ((ev_iN (en_B E) y_X4_init q1815 q1700 q131 q1701 nm_X4_init rfl (Nat.le_of_ble_eq_true rfl) dX9_init_11) : ax_EvI G l ax_Ym M_X9_init 11 494 0 3)
theorem r_X9_init_14 (E : ax_EN G l) : ax_Snd G l ax_Ym M_X9_init 14 (S_ret) := k_ret dX9_init_14 rfl
theorem mt_X9_init (E : ax_EN G l) : ax_mt G l ax_Ym (3, P_X9_init) (ax_Ym 503) := ⟨M_X9_init, yX9_init, ⟨rfl, by decide +kernel, rfl, (fun _ => rfl), Or.inl ⟨rfl, rfl⟩⟩, fun pc => (ax_sn_node (ax_sn_node (ax_sn_node (ax_sn_node (ax_sn_leaf (r_X9_init_14 E)) (ax_sn_leaf (r_X9_init_11 E))) (ax_sn_leaf (r_X9_init_10 E))) (ax_sn_node (ax_sn_leaf (r_X9_init_7 E)) (ax_sn_leaf (r_X9_init_6 E)))) (ax_sn_node (ax_sn_node (ax_sn_leaf (r_X9_init_5 E)) (ax_sn_leaf (r_X9_init_2 E))) (ax_sn_node (ax_sn_leaf (r_X9_init_1 E)) (ax_sn_leaf (r_X9_init_0 E)))))⟩
end ROW
