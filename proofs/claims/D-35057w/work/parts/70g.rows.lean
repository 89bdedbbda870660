set_option maxRecDepth 100000
section ROW
variable {G : ax_G} {l : Launch}
theorem r_X3_reckons_0 (E : ax_EN G l) : ax_Snd G l ax_Ym M_X3_reckons 0 (S_iload 1 1) := k_iload_n dX3_reckons_0 rfl
theorem r_X3_reckons_1 (E : ax_EN G l) : ax_Snd G l ax_Ym M_X3_reckons 1 (S_if1 (fun x => decide (¬ x = 0)) 10 4) := k_if_ne dX3_reckons_1 rfl
theorem r_X3_reckons_4 (E : ax_EN G l) : ax_Snd G l ax_Ym M_X3_reckons 4 (S_aload 0 5) := k_aload_n dX3_reckons_4 rfl
theorem r_X3_reckons_5 (E : ax_EN G l) : ax_Snd G l ax_Ym M_X3_reckons 5 (S_push (.int (2)) 6) := k_iconst dX3_reckons_5 rfl
theorem r_X3_reckons_6 (E : ax_EN G l) : ax_Snd G l ax_Ym M_X3_reckons 6 (S_putf [(38, 23)] (.int) 9) := k_putf (en_F E) (en_P E) (ax_fes_cons (fe_466 E) ax_fes_nil) (ax_fps_cons (fp_468 E) ax_fps_nil) q2776 dX3_reckons_6
theorem r_X3_reckons_9 (E : ax_EN G l) : ax_Snd G l ax_Ym M_X3_reckons 9 (S_ret) := k_ret dX3_reckons_9 rfl
theorem r_X3_reckons_10 (E : ax_EN G l) : ax_Snd G l ax_Ym M_X3_reckons 10 (S_aload 0 11) := k_aload_n dX3_reckons_10 rfl
theorem r_X3_reckons_11 (E : ax_EN G l) : ax_Snd G l ax_Ym M_X3_reckons 11 (S_dup 12) := k_dup dX3_reckons_11
theorem r_X3_reckons_12 (E : ax_EN G l) : ax_Snd G l ax_Ym M_X3_reckons 12 (S_getf [(38, 27)] 15) := k_getf (en_F E) (ax_fes_cons (fe_469 E) ax_fes_nil) q2780 dX3_reckons_12
theorem r_X3_reckons_15 (E : ax_EN G l) : ax_Snd G l ax_Ym M_X3_reckons 15 (S_push (.int (2)) 16) := k_iconst dX3_reckons_15 rfl
theorem r_X3_reckons_16 (E : ax_EN G l) : ax_Snd G l ax_Ym M_X3_reckons 16 (S_i2 (fun x y => x + y) 17) := k_iadd dX3_reckons_16
theorem r_X3_reckons_17 (E : ax_EN G l) : ax_Snd G l ax_Ym M_X3_reckons 17 (S_putf [(38, 27)] (.int) 20) := k_putf (en_F E) (en_P E) (ax_fes_cons (fe_469 E) ax_fes_nil) (ax_fps_cons (fp_470 E) ax_fps_nil) q2780 dX3_reckons_17
theorem r_X3_reckons_20 (E : ax_EN G l) : ax_Snd G l ax_Ym M_X3_reckons 20 (S_iload 1 21) := k_iload_n dX3_reckons_20 rfl
theorem r_X3_reckons_21 (E : ax_EN G l) : ax_Snd G l ax_Ym M_X3_reckons 21 (S_push (.int (1)) 22) := k_iconst dX3_reckons_21 rfl
theorem r_X3_reckons_22 (E : ax_EN G l) : ax_Snd G l ax_Ym M_X3_reckons 22 (S_if2 (fun x y => decide (¬ x = y)) 35 25) := k_icmp_ne dX3_reckons_22 rfl
theorem r_X3_reckons_25 (E : ax_EN G l) : ax_Snd G l ax_Ym M_X3_reckons 25 (S_aload 0 26) := k_aload_n dX3_reckons_25 rfl
theorem r_X3_reckons_26 (E : ax_EN G l) : ax_Snd G l ax_Ym M_X3_reckons 26 (S_getf [(38, 26)] 29) := k_getf (en_F E) (ax_fes_cons (fe_386 E) ax_fes_nil) q2779 dX3_reckons_26
theorem r_X3_reckons_29 (E : ax_EN G l) : ax_Snd G l ax_Ym M_X3_reckons 29 (S_iload 2 30) := k_iload_n dX3_reckons_29 rfl
theorem r_X3_reckons_30 (E : ax_EN G l) : ax_Snd G l ax_Ym M_X3_reckons 30 (S_iload 3 31) := k_iload_n dX3_reckons_30 rfl
theorem r_X3_reckons_31 (E : ax_EN G l) : ax_Snd G l ax_Ym M_X3_reckons 31 (S_iast 0 (fun x => x) 32) := k_iast (en_F E) dX3_reckons_31
theorem r_X3_reckons_32 (E : ax_EN G l) : ax_Snd G l ax_Ym M_X3_reckons 32 (S_goto 162) := k_goto dX3_reckons_32 rfl
theorem r_X3_reckons_35 (E : ax_EN G l) : ax_Snd G l ax_Ym M_X3_reckons 35 (S_iload 1 36) := k_iload_n dX3_reckons_35 rfl
theorem r_X3_reckons_36 (E : ax_EN G l) : ax_Snd G l ax_Ym M_X3_reckons 36 (S_push (.int (2)) 37) := k_iconst dX3_reckons_36 rfl
theorem r_X3_reckons_37 (E : ax_EN G l) : ax_Snd G l ax_Ym M_X3_reckons 37 (S_if2 (fun x y => decide (¬ x = y)) 55 40) := k_icmp_ne dX3_reckons_37 rfl
theorem r_X3_reckons_40 (E : ax_EN G l) : ax_Snd G l ax_Ym M_X3_reckons 40 (S_aload 0 41) := k_aload_n dX3_reckons_40 rfl
theorem r_X3_reckons_41 (E : ax_EN G l) : ax_Snd G l ax_Ym M_X3_reckons 41 (S_getf [(38, 26)] 44) := k_getf (en_F E) (ax_fes_cons (fe_386 E) ax_fes_nil) q2779 dX3_reckons_41
theorem r_X3_reckons_44 (E : ax_EN G l) : ax_Snd G l ax_Ym M_X3_reckons 44 (S_iload 2 45) := k_iload_n dX3_reckons_44 rfl
theorem r_X3_reckons_45 (E : ax_EN G l) : ax_Snd G l ax_Ym M_X3_reckons 45 (S_aload 0 46) := k_aload_n dX3_reckons_45 rfl
theorem r_X3_reckons_46 (E : ax_EN G l) : ax_Snd G l ax_Ym M_X3_reckons 46 (S_getf [(38, 25)] 49) := k_getf (en_F E) (ax_fes_cons (fe_384 E) ax_fes_nil) q2778 dX3_reckons_46
theorem r_X3_reckons_49 (E : ax_EN G l) : ax_Snd G l ax_Ym M_X3_reckons 49 (S_iload 3 50) := k_iload_n dX3_reckons_49 rfl
theorem r_X3_reckons_50 (E : ax_EN G l) : ax_Snd G l ax_Ym M_X3_reckons 50 (S_iald 0 51) := k_iald (en_F E) dX3_reckons_50
theorem r_X3_reckons_51 (E : ax_EN G l) : ax_Snd G l ax_Ym M_X3_reckons 51 (S_iast 0 (fun x => x) 52) := k_iast (en_F E) dX3_reckons_51
theorem r_X3_reckons_52 (E : ax_EN G l) : ax_Snd G l ax_Ym M_X3_reckons 52 (S_goto 162) := k_goto dX3_reckons_52 rfl
theorem r_X3_reckons_55 (E : ax_EN G l) : ax_Snd G l ax_Ym M_X3_reckons 55 (S_iload 1 56) := k_iload_n dX3_reckons_55 rfl
theorem r_X3_reckons_56 (E : ax_EN G l) : ax_Snd G l ax_Ym M_X3_reckons 56 (S_push (.int (3)) 57) := k_iconst dX3_reckons_56 rfl
theorem r_X3_reckons_57 (E : ax_EN G l) : ax_Snd G l ax_Ym M_X3_reckons 57 (S_if2 (fun x y => decide (¬ x = y)) 74 60) := k_icmp_ne dX3_reckons_57 rfl
theorem r_X3_reckons_60 (E : ax_EN G l) : ax_Snd G l ax_Ym M_X3_reckons 60 (S_aload 0 61) := k_aload_n dX3_reckons_60 rfl
theorem r_X3_reckons_61 (E : ax_EN G l) : ax_Snd G l ax_Ym M_X3_reckons 61 (S_iload 3 62) := k_iload_n dX3_reckons_61 rfl
theorem r_X3_reckons_62 (E : ax_EN G l) : ax_Snd G l ax_Ym M_X3_reckons 62 (S_aload 0 63) := k_aload_n dX3_reckons_62 rfl
theorem r_X3_reckons_63 (E : ax_EN G l) : ax_Snd G l ax_Ym M_X3_reckons 63 (S_getf [(38, 26)] 66) := k_getf (en_F E) (ax_fes_cons (fe_386 E) ax_fes_nil) q2779 dX3_reckons_63
theorem r_X3_reckons_66 (E : ax_EN G l) : ax_Snd G l ax_Ym M_X3_reckons 66 (S_iload 2 67) := k_iload_n dX3_reckons_66 rfl
theorem r_X3_reckons_67 (E : ax_EN G l) : ax_Snd G l ax_Ym M_X3_reckons 67 (S_iald 0 68) := k_iald (en_F E) dX3_reckons_67
theorem r_X3_reckons_68 (E : ax_EN G l) : ax_Snd G l ax_Ym M_X3_reckons 68 (S_iv [(38, 424)] 2 71 hd_0) := k_iv (en_F E) (ax_ok0 E rfl) (ax_Evs_cons ((ev_v (en_c E (k := 38) rfl) rfl y_X3_writes q3182 q3184 qs89 q126 q3185 nm_X3_writes (Nat.le_of_ble_eq_true rfl) dX3_reckons_68) : ax_EvV G l ax_Ym M_X3_reckons 68 2 3 38 424) ax_Evs_nil)
theorem r_X3_reckons_71 (E : ax_EN G l) : ax_Snd G l ax_Ym M_X3_reckons 71 (S_goto 162) := k_goto dX3_reckons_71 rfl
theorem r_X3_reckons_74 (E : ax_EN G l) : ax_Snd G l ax_Ym M_X3_reckons 74 (S_iload 1 75) := k_iload_n dX3_reckons_74 rfl
theorem r_X3_reckons_75 (E : ax_EN G l) : ax_Snd G l ax_Ym M_X3_reckons 75 (S_aload 0 76) := k_aload_n dX3_reckons_75 rfl
theorem r_X3_reckons_76 (E : ax_EN G l) : ax_Snd G l ax_Ym M_X3_reckons 76 (S_getf [(38, 26)] 79) := k_getf (en_F E) (ax_fes_cons (fe_386 E) ax_fes_nil) q2779 dX3_reckons_76
theorem r_X3_reckons_79 (E : ax_EN G l) : ax_Snd G l ax_Ym M_X3_reckons 79 (S_iload 2 80) := k_iload_n dX3_reckons_79 rfl
theorem r_X3_reckons_80 (E : ax_EN G l) : ax_Snd G l ax_Ym M_X3_reckons 80 (S_iald 0 81) := k_iald (en_F E) dX3_reckons_80
theorem r_X3_reckons_81 (E : ax_EN G l) : ax_Snd G l ax_Ym M_X3_reckons 81 (S_iload 3 82) := k_iload_n dX3_reckons_81 rfl
theorem r_X3_reckons_82 (E : ax_EN G l) : ax_Snd G l ax_Ym M_X3_reckons 82 (S_is 429 3 85 hd_0) := k_is (en_F E) (ax_ok0 E rfl) ((ev_s y_X3_made q3202 q3203 q126 q3204 nm_X3_made (Nat.le_of_ble_eq_true rfl) dX3_reckons_82) : ax_EvS G l ax_Ym M_X3_reckons 82 429 3 3)
theorem r_X3_reckons_85 (E : ax_EN G l) : ax_Snd G l ax_Ym M_X3_reckons 85 (S_lstore 4 87) := k_lstore dX3_reckons_85 (Nat.le_of_ble_eq_true rfl)
theorem r_X3_reckons_87 (E : ax_EN G l) : ax_Snd G l ax_Ym M_X3_reckons 87 (S_lload 4 89) := k_lload dX3_reckons_87
theorem r_X3_reckons_89 (E : ax_EN G l) : ax_Snd G l ax_Ym M_X3_reckons 89 (S_push (.long (65536)) 92) := k_ldc2 q3208 dX3_reckons_89
theorem r_X3_reckons_92 (E : ax_EN G l) : ax_Snd G l ax_Ym M_X3_reckons 92 (S_l2 (fun x y => x + y) 93) := k_ladd dX3_reckons_92
theorem r_X3_reckons_93 (E : ax_EN G l) : ax_Snd G l ax_Ym M_X3_reckons 93 (S_push (.long (65536)) 96) := k_ldc2 q3208 dX3_reckons_93
theorem r_X3_reckons_96 (E : ax_EN G l) : ax_Snd G l ax_Ym M_X3_reckons 96 (S_ld (fun x y => x - x / y * y) 97) := k_lrem dX3_reckons_96
theorem r_X3_reckons_97 (E : ax_EN G l) : ax_Snd G l ax_Ym M_X3_reckons 97 (S_l2i 98) := k_l2i dX3_reckons_97
theorem r_X3_reckons_98 (E : ax_EN G l) : ax_Snd G l ax_Ym M_X3_reckons 98 (S_istore 6 100) := k_istore dX3_reckons_98 (Nat.le_of_ble_eq_true rfl)
theorem r_X3_reckons_100 (E : ax_EN G l) : ax_Snd G l ax_Ym M_X3_reckons 100 (S_aload 0 101) := k_aload_n dX3_reckons_100 rfl
theorem r_X3_reckons_101 (E : ax_EN G l) : ax_Snd G l ax_Ym M_X3_reckons 101 (S_lload 4 103) := k_lload dX3_reckons_101
theorem r_X3_reckons_103 (E : ax_EN G l) : ax_Snd G l ax_Ym M_X3_reckons 103 (S_push (.long 0) 104) := k_lconst dX3_reckons_103 rfl
theorem r_X3_reckons_104 (E : ax_EN G l) : ax_Snd G l ax_Ym M_X3_reckons 104 (S_lcmp 105) := k_lcmp dX3_reckons_104
theorem r_X3_reckons_105 (E : ax_EN G l) : ax_Snd G l ax_Ym M_X3_reckons 105 (S_if1 (fun x => decide (x < 0)) 117 108) := k_if_lt dX3_reckons_105 rfl
theorem r_X3_reckons_108 (E : ax_EN G l) : ax_Snd G l ax_Ym M_X3_reckons 108 (S_lload 4 110) := k_lload dX3_reckons_108
theorem r_X3_reckons_110 (E : ax_EN G l) : ax_Snd G l ax_Ym M_X3_reckons 110 (S_push (.long (65536)) 113) := k_ldc2 q3208 dX3_reckons_110
theorem r_X3_reckons_113 (E : ax_EN G l) : ax_Snd G l ax_Ym M_X3_reckons 113 (S_lcmp 114) := k_lcmp dX3_reckons_113
theorem r_X3_reckons_114 (E : ax_EN G l) : ax_Snd G l ax_Ym M_X3_reckons 114 (S_if1 (fun x => decide (x < 0)) 121 117) := k_if_lt dX3_reckons_114 rfl
theorem r_X3_reckons_117 (E : ax_EN G l) : ax_Snd G l ax_Ym M_X3_reckons 117 (S_push (.int (1)) 118) := k_iconst dX3_reckons_117 rfl
theorem r_X3_reckons_118 (E : ax_EN G l) : ax_Snd G l ax_Ym M_X3_reckons 118 (S_goto 122) := k_goto dX3_reckons_118 rfl
theorem r_X3_reckons_121 (E : ax_EN G l) : ax_Snd G l ax_Ym M_X3_reckons 121 (S_push (.int (0)) 122) := k_iconst dX3_reckons_121 rfl
theorem r_X3_reckons_122 (E : ax_EN G l) : ax_Snd G l ax_Ym M_X3_reckons 122 (S_putf [(38, 30)] (.boolean) 125) := k_putf (en_F E) (en_P E) (ax_fes_cons (fe_477 E) ax_fes_nil) (ax_fps_cons (fp_478 E) ax_fps_nil) q2783 dX3_reckons_122
theorem r_X3_reckons_125 (E : ax_EN G l) : ax_Snd G l ax_Ym M_X3_reckons 125 (S_aload 0 126) := k_aload_n dX3_reckons_125 rfl
theorem r_X3_reckons_126 (E : ax_EN G l) : ax_Snd G l ax_Ym M_X3_reckons 126 (S_iload 6 128) := k_iload dX3_reckons_126
theorem r_X3_reckons_128 (E : ax_EN G l) : ax_Snd G l ax_Ym M_X3_reckons 128 (S_if1 (fun x => decide (¬ x = 0)) 135 131) := k_if_ne dX3_reckons_128 rfl
theorem r_X3_reckons_131 (E : ax_EN G l) : ax_Snd G l ax_Ym M_X3_reckons 131 (S_push (.int (1)) 132) := k_iconst dX3_reckons_131 rfl
theorem r_X3_reckons_132 (E : ax_EN G l) : ax_Snd G l ax_Ym M_X3_reckons 132 (S_goto 136) := k_goto dX3_reckons_132 rfl
theorem r_X3_reckons_135 (E : ax_EN G l) : ax_Snd G l ax_Ym M_X3_reckons 135 (S_push (.int (0)) 136) := k_iconst dX3_reckons_135 rfl
theorem r_X3_reckons_136 (E : ax_EN G l) : ax_Snd G l ax_Ym M_X3_reckons 136 (S_putf [(38, 29)] (.boolean) 139) := k_putf (en_F E) (en_P E) (ax_fes_cons (fe_475 E) ax_fes_nil) (ax_fps_cons (fp_476 E) ax_fps_nil) q2782 dX3_reckons_136
theorem r_X3_reckons_139 (E : ax_EN G l) : ax_Snd G l ax_Ym M_X3_reckons 139 (S_aload 0 140) := k_aload_n dX3_reckons_139 rfl
theorem r_X3_reckons_140 (E : ax_EN G l) : ax_Snd G l ax_Ym M_X3_reckons 140 (S_getf [(38, 26)] 143) := k_getf (en_F E) (ax_fes_cons (fe_386 E) ax_fes_nil) q2779 dX3_reckons_140
theorem r_X3_reckons_143 (E : ax_EN G l) : ax_Snd G l ax_Ym M_X3_reckons 143 (S_iload 2 144) := k_iload_n dX3_reckons_143 rfl
theorem r_X3_reckons_144 (E : ax_EN G l) : ax_Snd G l ax_Ym M_X3_reckons 144 (S_iload 1 145) := k_iload_n dX3_reckons_144 rfl
theorem r_X3_reckons_145 (E : ax_EN G l) : ax_Snd G l ax_Ym M_X3_reckons 145 (S_push (.int (11)) 147) := k_bipush dX3_reckons_145 rfl
theorem r_X3_reckons_147 (E : ax_EN G l) : ax_Snd G l ax_Ym M_X3_reckons 147 (S_if2 (fun x y => decide (¬ x = y)) 159 150) := k_icmp_ne dX3_reckons_147 rfl
theorem r_X3_reckons_150 (E : ax_EN G l) : ax_Snd G l ax_Ym M_X3_reckons 150 (S_aload 0 151) := k_aload_n dX3_reckons_150 rfl
theorem r_X3_reckons_151 (E : ax_EN G l) : ax_Snd G l ax_Ym M_X3_reckons 151 (S_getf [(38, 26)] 154) := k_getf (en_F E) (ax_fes_cons (fe_386 E) ax_fes_nil) q2779 dX3_reckons_151
theorem r_X3_reckons_154 (E : ax_EN G l) : ax_Snd G l ax_Ym M_X3_reckons 154 (S_iload 2 155) := k_iload_n dX3_reckons_154 rfl
theorem r_X3_reckons_155 (E : ax_EN G l) : ax_Snd G l ax_Ym M_X3_reckons 155 (S_iald 0 156) := k_iald (en_F E) dX3_reckons_155
theorem r_X3_reckons_156 (E : ax_EN G l) : ax_Snd G l ax_Ym M_X3_reckons 156 (S_goto 161) := k_goto dX3_reckons_156 rfl
theorem r_X3_reckons_159 (E : ax_EN G l) : ax_Snd G l ax_Ym M_X3_reckons 159 (S_iload 6 161) := k_iload dX3_reckons_159
theorem r_X3_reckons_161 (E : ax_EN G l) : ax_Snd G l ax_Ym M_X3_reckons 161 (S_iast 0 (fun x => x) 162) := k_iast (en_F E) dX3_reckons_161
theorem r_X3_reckons_162 (E : ax_EN G l) : ax_Snd G l ax_Ym M_X3_reckons 162 (S_ret) := k_ret dX3_reckons_162 rfl
theorem mt_X3_reckons (E : ax_EN G l) : ax_mt G l ax_Ym (7, P_X3_reckons) (ax_Ym 428) := ⟨M_X3_reckons, yX3_reckons, ⟨rfl, by decide +kernel, rfl, (fun h => by cases h), Or.inl ⟨rfl, rfl⟩⟩, fun pc => (ax_sn_node (ax_sn_node (ax_sn_node (ax_sn_node (ax_sn_node (ax_sn_node (ax_sn_node (ax_sn_leaf (r_X3_reckons_162 E)) (ax_sn_leaf (r_X3_reckons_161 E))) (ax_sn_leaf (r_X3_reckons_159 E))) (ax_sn_node (ax_sn_node (ax_sn_leaf (r_X3_reckons_156 E)) (ax_sn_leaf (r_X3_reckons_155 E))) (ax_sn_leaf (r_X3_reckons_154 E)))) (ax_sn_node (ax_sn_node (ax_sn_node (ax_sn_leaf (r_X3_reckons_151 E)) (ax_sn_leaf (r_X3_reckons_150 E))) (ax_sn_leaf (r_X3_reckons_147 E))) (ax_sn_node (ax_sn_node (ax_sn_leaf (r_X3_reckons_145 E)) (ax_sn_leaf (r_X3_reckons_144 E))) (ax_sn_leaf (r_X3_reckons_143 E))))) (ax_sn_node (ax_sn_node (ax_sn_node (ax_sn_node (ax_sn_leaf (r_X3_reckons_140 E)) (ax_sn_leaf (r_X3_reckons_139 E))) (ax_sn_leaf (r_X3_reckons_136 E))) (ax_sn_node (ax_sn_node (ax_sn_leaf (r_X3_reckons_135 E)) (ax_sn_leaf (r_X3_reckons_132 E))) (ax_sn_leaf (r_X3_reckons_131 E)))) (ax_sn_node (ax_sn_node (ax_sn_node (ax_sn_leaf (r_X3_reckons_128 E)) (ax_sn_leaf (r_X3_reckons_126 E))) (ax_sn_leaf (r_X3_reckons_125 E))) (ax_sn_node (ax_sn_node (ax_sn_leaf (r_X3_reckons_122 E)) (ax_sn_leaf (r_X3_reckons_121 E))) (ax_sn_leaf (r_X3_reckons_118 E)))))) (ax_sn_node (ax_sn_node (ax_sn_node (ax_sn_node (ax_sn_node (ax_sn_leaf (r_X3_reckons_117 E)) (ax_sn_leaf (r_X3_reckons_114 E))) (ax_sn_leaf (r_X3_reckons_113 E))) (ax_sn_node (ax_sn_node (ax_sn_leaf (r_X3_reckons_110 E)) (ax_sn_leaf (r_X3_reckons_108 E))) (ax_sn_leaf (r_X3_reckons_105 E)))) (ax_sn_node (ax_sn_node (ax_sn_node (ax_sn_leaf (r_X3_reckons_104 E)) (ax_sn_leaf (r_X3_reckons_103 E))) (ax_sn_leaf (r_X3_reckons_101 E))) (ax_sn_node (ax_sn_node (ax_sn_leaf (r_X3_reckons_100 E)) (ax_sn_leaf (r_X3_reckons_98 E))) (ax_sn_leaf (r_X3_reckons_97 E))))) (ax_sn_node (ax_sn_node (ax_sn_node (ax_sn_node (ax_sn_leaf (r_X3_reckons_96 E)) (ax_sn_leaf (r_X3_reckons_93 E))) (ax_sn_leaf (r_X3_reckons_92 E))) (ax_sn_node (ax_sn_node (ax_sn_leaf (r_X3_reckons_89 E)) (ax_sn_leaf (r_X3_reckons_87 E))) (ax_sn_leaf (r_X3_reckons_85 E)))) (ax_sn_node (ax_sn_node (ax_sn_node (ax_sn_leaf (r_X3_reckons_82 E)) (ax_sn_leaf (r_X3_reckons_81 E))) (ax_sn_leaf (r_X3_reckons_80 E))) (ax_sn_node (ax_sn_leaf (r_X3_reckons_79 E)) (ax_sn_leaf (r_X3_reckons_76 E))))))) (ax_sn_node (ax_sn_node (ax_sn_node (ax_sn_node (ax_sn_node (ax_sn_node (ax_sn_leaf (r_X3_reckons_75 E)) (ax_sn_leaf (r_X3_reckons_74 E))) (ax_sn_leaf (r_X3_reckons_71 E))) (ax_sn_node (ax_sn_node (ax_sn_leaf (r_X3_reckons_68 E)) (ax_sn_leaf (r_X3_reckons_67 E))) (ax_sn_leaf (r_X3_reckons_66 E)))) (ax_sn_node (ax_sn_node (ax_sn_node (ax_sn_leaf (r_X3_reckons_63 E)) (ax_sn_leaf (r_X3_reckons_62 E))) (ax_sn_leaf (r_X3_reckons_61 E))) (ax_sn_node (ax_sn_node (ax_sn_leaf (r_X3_reckons_60 E)) (ax_sn_leaf (r_X3_reckons_57 E))) (ax_sn_leaf (r_X3_reckons_56 E))))) (ax_sn_node (ax_sn_node (ax_sn_node (ax_sn_node (ax_sn_leaf (r_X3_reckons_55 E)) (ax_sn_leaf (r_X3_reckons_52 E))) (ax_sn_leaf (r_X3_reckons_51 E))) (ax_sn_node (ax_sn_node (ax_sn_leaf (r_X3_reckons_50 E)) (ax_sn_leaf (r_X3_reckons_49 E))) (ax_sn_leaf (r_X3_reckons_46 E)))) (ax_sn_node (ax_sn_node (ax_sn_node (ax_sn_leaf (r_X3_reckons_45 E)) (ax_sn_leaf (r_X3_reckons_44 E))) (ax_sn_leaf (r_X3_reckons_41 E))) (ax_sn_node (ax_sn_leaf (r_X3_reckons_40 E)) (ax_sn_leaf (r_X3_reckons_37 E)))))) (ax_sn_node (ax_sn_node (ax_sn_node (ax_sn_node (ax_sn_node (ax_sn_leaf (r_X3_reckons_36 E)) (ax_sn_leaf (r_X3_reckons_35 E))) (ax_sn_leaf (r_X3_reckons_32 E))) (ax_sn_node (ax_sn_node (ax_sn_leaf (r_X3_reckons_31 E)) (ax_sn_leaf (r_X3_reckons_30 E))) (ax_sn_leaf (r_X3_reckons_29 E)))) (ax_sn_node (ax_sn_node (ax_sn_node (ax_sn_leaf (r_X3_reckons_26 E)) (ax_sn_leaf (r_X3_reckons_25 E))) (ax_sn_leaf (r_X3_reckons_22 E))) (ax_sn_node (ax_sn_node (ax_sn_leaf (r_X3_reckons_21 E)) (ax_sn_leaf (r_X3_reckons_20 E))) (ax_sn_leaf (r_X3_reckons_17 E))))) (ax_sn_node (ax_sn_node (ax_sn_node (ax_sn_node (ax_sn_leaf (r_X3_reckons_16 E)) (ax_sn_leaf (r_X3_reckons_15 E))) (ax_sn_leaf (r_X3_reckons_12 E))) (ax_sn_node (ax_sn_node (ax_sn_leaf (r_X3_reckons_11 E)) (ax_sn_leaf (r_X3_reckons_10 E))) (ax_sn_leaf (r_X3_reckons_9 E)))) (ax_sn_node (ax_sn_node (ax_sn_node (ax_sn_leaf (r_X3_reckons_6 E)) (ax_sn_leaf (r_X3_reckons_5 E))) (ax_sn_leaf (r_X3_reckons_4 E))) (ax_sn_node (ax_sn_leaf (r_X3_reckons_1 E)) (ax_sn_leaf (r_X3_reckons_0 E))))))))⟩
theorem r_X3_made_0 (E : ax_EN G l) : ax_Snd G l ax_Ym M_X3_made 0 (S_iload 0 1) := k_iload_n dX3_made_0 rfl
theorem r_X3_made_1 (E : ax_EN G l) : ax_Snd G l ax_Ym M_X3_made 1 (S_push (.int (4)) 2) := k_iconst dX3_made_1 rfl
theorem r_X3_made_2 (E : ax_EN G l) : ax_Snd G l ax_Ym M_X3_made 2 (S_if2 (fun x y => decide (¬ x = y)) 13 5) := k_icmp_ne dX3_made_2 rfl
theorem r_X3_made_5 (E : ax_EN G l) : ax_Snd G l ax_Ym M_X3_made 5 (S_iload 1 6) := k_iload_n dX3_made_5 rfl
theorem r_X3_made_6 (E : ax_EN G l) : ax_Snd G l ax_Ym M_X3_made 6 (S_i2l 7) := k_i2l dX3_made_6
theorem r_X3_made_7 (E : ax_EN G l) : ax_Snd G l ax_Ym M_X3_made 7 (S_iload 2 8) := k_iload_n dX3_made_7 rfl
theorem r_X3_made_8 (E : ax_EN G l) : ax_Snd G l ax_Ym M_X3_made 8 (S_i2l 9) := k_i2l dX3_made_8
theorem r_X3_made_9 (E : ax_EN G l) : ax_Snd G l ax_Ym M_X3_made 9 (S_l2 (fun x y => x + y) 10) := k_ladd dX3_made_9
theorem r_X3_made_10 (E : ax_EN G l) : ax_Snd G l ax_Ym M_X3_made 10 (S_goto 92) := k_goto dX3_made_10 rfl
theorem r_X3_made_13 (E : ax_EN G l) : ax_Snd G l ax_Ym M_X3_made 13 (S_iload 0 14) := k_iload_n dX3_made_13 rfl
theorem r_X3_made_14 (E : ax_EN G l) : ax_Snd G l ax_Ym M_X3_made 14 (S_push (.int (5)) 15) := k_iconst dX3_made_14 rfl
theorem r_X3_made_15 (E : ax_EN G l) : ax_Snd G l ax_Ym M_X3_made 15 (S_if2 (fun x y => decide (x = y)) 24 18) := k_icmp_eq dX3_made_15 rfl
theorem r_X3_made_18 (E : ax_EN G l) : ax_Snd G l ax_Ym M_X3_made 18 (S_iload 0 19) := k_iload_n dX3_made_18 rfl
theorem r_X3_made_19 (E : ax_EN G l) : ax_Snd G l ax_Ym M_X3_made 19 (S_push (.int (11)) 21) := k_bipush dX3_made_19 rfl
theorem r_X3_made_21 (E : ax_EN G l) : ax_Snd G l ax_Ym M_X3_made 21 (S_if2 (fun x y => decide (¬ x = y)) 32 24) := k_icmp_ne dX3_made_21 rfl
theorem r_X3_made_24 (E : ax_EN G l) : ax_Snd G l ax_Ym M_X3_made 24 (S_iload 1 25) := k_iload_n dX3_made_24 rfl
theorem r_X3_made_25 (E : ax_EN G l) : ax_Snd G l ax_Ym M_X3_made 25 (S_i2l 26) := k_i2l dX3_made_25
theorem r_X3_made_26 (E : ax_EN G l) : ax_Snd G l ax_Ym M_X3_made 26 (S_iload 2 27) := k_iload_n dX3_made_26 rfl
theorem r_X3_made_27 (E : ax_EN G l) : ax_Snd G l ax_Ym M_X3_made 27 (S_i2l 28) := k_i2l dX3_made_27
theorem r_X3_made_28 (E : ax_EN G l) : ax_Snd G l ax_Ym M_X3_made 28 (S_l2 (fun x y => x - y) 29) := k_lsub dX3_made_28
theorem r_X3_made_29 (E : ax_EN G l) : ax_Snd G l ax_Ym M_X3_made 29 (S_goto 92) := k_goto dX3_made_29 rfl
theorem r_X3_made_32 (E : ax_EN G l) : ax_Snd G l ax_Ym M_X3_made 32 (S_iload 0 33) := k_iload_n dX3_made_32 rfl
theorem r_X3_made_33 (E : ax_EN G l) : ax_Snd G l ax_Ym M_X3_made 33 (S_push (.int (6)) 35) := k_bipush dX3_made_33 rfl
theorem r_X3_made_35 (E : ax_EN G l) : ax_Snd G l ax_Ym M_X3_made 35 (S_if2 (fun x y => decide (¬ x = y)) 46 38) := k_icmp_ne dX3_made_35 rfl
theorem r_X3_made_38 (E : ax_EN G l) : ax_Snd G l ax_Ym M_X3_made 38 (S_iload 1 39) := k_iload_n dX3_made_38 rfl
theorem r_X3_made_39 (E : ax_EN G l) : ax_Snd G l ax_Ym M_X3_made 39 (S_i2l 40) := k_i2l dX3_made_39
theorem r_X3_made_40 (E : ax_EN G l) : ax_Snd G l ax_Ym M_X3_made 40 (S_iload 2 41) := k_iload_n dX3_made_40 rfl
theorem r_X3_made_41 (E : ax_EN G l) : ax_Snd G l ax_Ym M_X3_made 41 (S_i2l 42) := k_i2l dX3_made_41
theorem r_X3_made_42 (E : ax_EN G l) : ax_Snd G l ax_Ym M_X3_made 42 (S_l2 (fun x y => x * y) 43) := k_lmul dX3_made_42
theorem r_X3_made_43 (E : ax_EN G l) : ax_Snd G l ax_Ym M_X3_made 43 (S_goto 92) := k_goto dX3_made_43 rfl
theorem r_X3_made_46 (E : ax_EN G l) : ax_Snd G l ax_Ym M_X3_made 46 (S_iload 0 47) := k_iload_n dX3_made_46 rfl
theorem r_X3_made_47 (E : ax_EN G l) : ax_Snd G l ax_Ym M_X3_made 47 (S_push (.int (7)) 49) := k_bipush dX3_made_47 rfl
theorem r_X3_made_49 (E : ax_EN G l) : ax_Snd G l ax_Ym M_X3_made 49 (S_if2 (fun x y => decide (¬ x = y)) 59 52) := k_icmp_ne dX3_made_49 rfl
theorem r_X3_made_52 (E : ax_EN G l) : ax_Snd G l ax_Ym M_X3_made 52 (S_iload 1 53) := k_iload_n dX3_made_52 rfl
theorem r_X3_made_53 (E : ax_EN G l) : ax_Snd G l ax_Ym M_X3_made 53 (S_iload 2 54) := k_iload_n dX3_made_53 rfl
theorem r_X3_made_54 (E : ax_EN G l) : ax_Snd G l ax_Ym M_X3_made 54 (S_i2 (fun x y => x &&& y) 55) := k_iand dX3_made_54
theorem r_X3_made_55 (E : ax_EN G l) : ax_Snd G l ax_Ym M_X3_made 55 (S_i2l 56) := k_i2l dX3_made_55
theorem r_X3_made_56 (E : ax_EN G l) : ax_Snd G l ax_Ym M_X3_made 56 (S_goto 92) := k_goto dX3_made_56 rfl
theorem r_X3_made_59 (E : ax_EN G l) : ax_Snd G l ax_Ym M_X3_made 59 (S_iload 0 60) := k_iload_n dX3_made_59 rfl
theorem r_X3_made_60 (E : ax_EN G l) : ax_Snd G l ax_Ym M_X3_made 60 (S_push (.int (8)) 62) := k_bipush dX3_made_60 rfl
theorem r_X3_made_62 (E : ax_EN G l) : ax_Snd G l ax_Ym M_X3_made 62 (S_if2 (fun x y => decide (¬ x = y)) 72 65) := k_icmp_ne dX3_made_62 rfl
theorem r_X3_made_65 (E : ax_EN G l) : ax_Snd G l ax_Ym M_X3_made 65 (S_iload 1 66) := k_iload_n dX3_made_65 rfl
theorem r_X3_made_66 (E : ax_EN G l) : ax_Snd G l ax_Ym M_X3_made 66 (S_iload 2 67) := k_iload_n dX3_made_66 rfl
theorem r_X3_made_67 (E : ax_EN G l) : ax_Snd G l ax_Ym M_X3_made 67 (S_i2 (fun x y => x ^^^ y) 68) := k_ixor dX3_made_67
theorem r_X3_made_68 (E : ax_EN G l) : ax_Snd G l ax_Ym M_X3_made 68 (S_i2l 69) := k_i2l dX3_made_68
theorem r_X3_made_69 (E : ax_EN G l) : ax_Snd G l ax_Ym M_X3_made 69 (S_goto 92) := k_goto dX3_made_69 rfl
theorem r_X3_made_72 (E : ax_EN G l) : ax_Snd G l ax_Ym M_X3_made 72 (S_iload 1 73) := k_iload_n dX3_made_72 rfl
theorem r_X3_made_73 (E : ax_EN G l) : ax_Snd G l ax_Ym M_X3_made 73 (S_iload 2 74) := k_iload_n dX3_made_73 rfl
theorem r_X3_made_74 (E : ax_EN G l) : ax_Snd G l ax_Ym M_X3_made 74 (S_push (.int (16)) 76) := k_bipush dX3_made_74 rfl
theorem r_X3_made_76 (E : ax_EN G l) : ax_Snd G l ax_Ym M_X3_made 76 (S_id (fun x y => x - x / y * y) 77) := k_irem dX3_made_76
theorem r_X3_made_77 (E : ax_EN G l) : ax_Snd G l ax_Ym M_X3_made 77 (S_iload 0 78) := k_iload_n dX3_made_77 rfl
theorem r_X3_made_78 (E : ax_EN G l) : ax_Snd G l ax_Ym M_X3_made 78 (S_push (.int (9)) 80) := k_bipush dX3_made_78 rfl
theorem r_X3_made_80 (E : ax_EN G l) : ax_Snd G l ax_Ym M_X3_made 80 (S_if2 (fun x y => decide (¬ x = y)) 87 83) := k_icmp_ne dX3_made_80 rfl
theorem r_X3_made_83 (E : ax_EN G l) : ax_Snd G l ax_Ym M_X3_made 83 (S_push (.int (1)) 84) := k_iconst dX3_made_83 rfl
theorem r_X3_made_84 (E : ax_EN G l) : ax_Snd G l ax_Ym M_X3_made 84 (S_goto 88) := k_goto dX3_made_84 rfl
theorem r_X3_made_87 (E : ax_EN G l) : ax_Snd G l ax_Ym M_X3_made 87 (S_push (.int (0)) 88) := k_iconst dX3_made_87 rfl
theorem r_X3_made_88 (E : ax_EN G l) : ax_Snd G l ax_Ym M_X3_made 88 (S_is 430 3 91 hd_0) := k_is (en_F E) (ax_ok0 E rfl) ((ev_s y_X3_shifted q3205 q3206 q126 q3207 nm_X3_shifted (Nat.le_of_ble_eq_true rfl) dX3_made_88) : ax_EvS G l ax_Ym M_X3_made 88 430 3 3)
theorem r_X3_made_91 (E : ax_EN G l) : ax_Snd G l ax_Ym M_X3_made 91 (S_i2l 92) := k_i2l dX3_made_91
theorem r_X3_made_92 (E : ax_EN G l) : ax_Snd G l ax_Ym M_X3_made 92 (S_lret) := k_lret dX3_made_92 rfl
theorem mt_X3_made (E : ax_EN G l) : ax_mt G l ax_Ym (3, P_X3_made) (ax_Ym 429) := ⟨M_X3_made, yX3_made, ⟨rfl, by decide +kernel, rfl, (fun h => by cases h), Or.inl ⟨rfl, rfl⟩⟩, fun pc => (ax_sn_node (ax_sn_node (ax_sn_node (ax_sn_node (ax_sn_node (ax_sn_node (ax_sn_leaf (r_X3_made_92 E)) (ax_sn_leaf (r_X3_made_91 E))) (ax_sn_node (ax_sn_leaf (r_X3_made_88 E)) (ax_sn_leaf (r_X3_made_87 E)))) (ax_sn_node (ax_sn_node (ax_sn_leaf (r_X3_made_84 E)) (ax_sn_leaf (r_X3_made_83 E))) (ax_sn_node (ax_sn_leaf (r_X3_made_80 E)) (ax_sn_leaf (r_X3_made_78 E))))) (ax_sn_node (ax_sn_node (ax_sn_node (ax_sn_leaf (r_X3_made_77 E)) (ax_sn_leaf (r_X3_made_76 E))) (ax_sn_node (ax_sn_leaf (r_X3_made_74 E)) (ax_sn_leaf (r_X3_made_73 E)))) (ax_sn_node (ax_sn_node (ax_sn_leaf (r_X3_made_72 E)) (ax_sn_leaf (r_X3_made_69 E))) (ax_sn_leaf (r_X3_made_68 E))))) (ax_sn_node (ax_sn_node (ax_sn_node (ax_sn_node (ax_sn_leaf (r_X3_made_67 E)) (ax_sn_leaf (r_X3_made_66 E))) (ax_sn_node (ax_sn_leaf (r_X3_made_65 E)) (ax_sn_leaf (r_X3_made_62 E)))) (ax_sn_node (ax_sn_node (ax_sn_leaf (r_X3_made_60 E)) (ax_sn_leaf (r_X3_made_59 E))) (ax_sn_node (ax_sn_leaf (r_X3_made_56 E)) (ax_sn_leaf (r_X3_made_55 E))))) (ax_sn_node (ax_sn_node (ax_sn_node (ax_sn_leaf (r_X3_made_54 E)) (ax_sn_leaf (r_X3_made_53 E))) (ax_sn_node (ax_sn_leaf (r_X3_made_52 E)) (ax_sn_leaf (r_X3_made_49 E)))) (ax_sn_node (ax_sn_node (ax_sn_leaf (r_X3_made_47 E)) (ax_sn_leaf (r_X3_made_46 E))) (ax_sn_leaf (r_X3_made_43 E)))))) (ax_sn_node (ax_sn_node (ax_sn_node (ax_sn_node (ax_sn_node (ax_sn_leaf (r_X3_made_42 E)) (ax_sn_leaf (r_X3_made_41 E))) (ax_sn_node (ax_sn_leaf (r_X3_made_40 E)) (ax_sn_leaf (r_X3_made_39 E)))) (ax_sn_node (ax_sn_node (ax_sn_leaf (r_X3_made_38 E)) (ax_sn_leaf (r_X3_made_35 E))) (ax_sn_node (ax_sn_leaf (r_X3_made_33 E)) (ax_sn_leaf (r_X3_made_32 E))))) (ax_sn_node (ax_sn_node (ax_sn_node (ax_sn_leaf (r_X3_made_29 E)) (ax_sn_leaf (r_X3_made_28 E))) (ax_sn_node (ax_sn_leaf (r_X3_made_27 E)) (ax_sn_leaf (r_X3_made_26 E)))) (ax_sn_node (ax_sn_node (ax_sn_leaf (r_X3_made_25 E)) (ax_sn_leaf (r_X3_made_24 E))) (ax_sn_leaf (r_X3_made_21 E))))) (ax_sn_node (ax_sn_node (ax_sn_node (ax_sn_node (ax_sn_leaf (r_X3_made_19 E)) (ax_sn_leaf (r_X3_made_18 E))) (ax_sn_node (ax_sn_leaf (r_X3_made_15 E)) (ax_sn_leaf (r_X3_made_14 E)))) (ax_sn_node (ax_sn_node (ax_sn_leaf (r_X3_made_13 E)) (ax_sn_leaf (r_X3_made_10 E))) (ax_sn_leaf (r_X3_made_9 E)))) (ax_sn_node (ax_sn_node (ax_sn_node (ax_sn_leaf (r_X3_made_8 E)) (ax_sn_leaf (r_X3_made_7 E))) (ax_sn_node (ax_sn_leaf (r_X3_made_6 E)) (ax_sn_leaf (r_X3_made_5 E)))) (ax_sn_node (ax_sn_node (ax_sn_leaf (r_X3_made_2 E)) (ax_sn_leaf (r_X3_made_1 E))) (ax_sn_leaf (r_X3_made_0 E)))))))⟩
theorem r_X3_shifted_0 (E : ax_EN G l) : ax_Snd G l ax_Ym M_X3_shifted 0 (S_iload 2 1) := k_iload_n dX3_shifted_0 rfl
theorem r_X3_shifted_1 (E : ax_EN G l) : ax_Snd G l ax_Ym M_X3_shifted 1 (S_if1 (fun x => decide (x = 0)) 13 4) := k_if_eq dX3_shifted_1 rfl
theorem r_X3_shifted_4 (E : ax_EN G l) : ax_Snd G l ax_Ym M_X3_shifted 4 (S_iload 0 5) := k_iload_n dX3_shifted_4 rfl
theorem r_X3_shifted_5 (E : ax_EN G l) : ax_Snd G l ax_Ym M_X3_shifted 5 (S_iload 1 6) := k_iload_n dX3_shifted_5 rfl
theorem r_X3_shifted_6 (E : ax_EN G l) : ax_Snd G l ax_Ym M_X3_shifted 6 (S_i2 (fun x y => x <<< (y &&& 31)) 7) := k_ishl dX3_shifted_6
theorem r_X3_shifted_7 (E : ax_EN G l) : ax_Snd G l ax_Ym M_X3_shifted 7 (S_push (.int (65536)) 9) := k_ldc q3083 dX3_shifted_7
theorem r_X3_shifted_9 (E : ax_EN G l) : ax_Snd G l ax_Ym M_X3_shifted 9 (S_id (fun x y => x - x / y * y) 10) := k_irem dX3_shifted_9
theorem r_X3_shifted_10 (E : ax_EN G l) : ax_Snd G l ax_Ym M_X3_shifted 10 (S_goto 16) := k_goto dX3_shifted_10 rfl
theorem r_X3_shifted_13 (E : ax_EN G l) : ax_Snd G l ax_Ym M_X3_shifted 13 (S_iload 0 14) := k_iload_n dX3_shifted_13 rfl
theorem r_X3_shifted_14 (E : ax_EN G l) : ax_Snd G l ax_Ym M_X3_shifted 14 (S_iload 1 15) := k_iload_n dX3_shifted_14 rfl
theorem r_X3_shifted_15 (E : ax_EN G l) : ax_Snd G l ax_Ym M_X3_shifted 15 (S_i2 (fun x y => x >>> (y &&& 31)) 16) := k_ishr dX3_shifted_15
theorem r_X3_shifted_16 (E : ax_EN G l) : ax_Snd G l ax_Ym M_X3_shifted 16 (S_iret) := k_iret dX3_shifted_16 rfl
theorem mt_X3_shifted (E : ax_EN G l) : ax_mt G l ax_Ym (3, P_X3_shifted) (ax_Ym 430) := ⟨M_X3_shifted, yX3_shifted, ⟨rfl, by decide +kernel, rfl, (fun h => by cases h), Or.inl ⟨rfl, rfl⟩⟩, fun pc => (ax_sn_node (ax_sn_node (ax_sn_node (ax_sn_node (ax_sn_leaf (r_X3_shifted_16 E)) (ax_sn_leaf (r_X3_shifted_15 E))) (ax_sn_leaf (r_X3_shifted_14 E))) (ax_sn_node (ax_sn_node (ax_sn_leaf (r_X3_shifted_13 E)) (ax_sn_leaf (r_X3_shifted_10 E))) (ax_sn_leaf (r_X3_shifted_9 E)))) (ax_sn_node (ax_sn_node (ax_sn_node (ax_sn_leaf (r_X3_shifted_7 E)) (ax_sn_leaf (r_X3_shifted_6 E))) (ax_sn_leaf (r_X3_shifted_5 E))) (ax_sn_node (ax_sn_node (ax_sn_leaf (r_X3_shifted_4 E)) (ax_sn_leaf (r_X3_shifted_1 E))) (ax_sn_leaf (r_X3_shifted_0 E)))))⟩
theorem r_X3_jumps_0 (E : ax_EN G l) : ax_Snd G l ax_Ym M_X3_jumps 0 (S_aload 0 1) := k_aload_n dX3_jumps_0 rfl
theorem r_X3_jumps_1 (E : ax_EN G l) : ax_Snd G l ax_Ym M_X3_jumps 1 (S_getf [(38, 27)] 4) := k_getf (en_F E) (ax_fes_cons (fe_469 E) ax_fes_nil) q2780 dX3_jumps_1
theorem r_X3_jumps_4 (E : ax_EN G l) : ax_Snd G l ax_Ym M_X3_jumps 4 (S_push (.int (2)) 5) := k_iconst dX3_jumps_4 rfl
theorem r_X3_jumps_5 (E : ax_EN G l) : ax_Snd G l ax_Ym M_X3_jumps 5 (S_i2 (fun x y => x + y) 6) := k_iadd dX3_jumps_5
theorem r_X3_jumps_6 (E : ax_EN G l) : ax_Snd G l ax_Ym M_X3_jumps 6 (S_istore 4 8) := k_istore dX3_jumps_6 (Nat.le_of_ble_eq_true rfl)
theorem r_X3_jumps_8 (E : ax_EN G l) : ax_Snd G l ax_Ym M_X3_jumps 8 (S_iload 1 9) := k_iload_n dX3_jumps_8 rfl
theorem r_X3_jumps_9 (E : ax_EN G l) : ax_Snd G l ax_Ym M_X3_jumps 9 (S_push (.int (15)) 11) := k_bipush dX3_jumps_9 rfl
theorem r_X3_jumps_11 (E : ax_EN G l) : ax_Snd G l ax_Ym M_X3_jumps 11 (S_if2 (fun x y => decide (¬ x = y)) 20 14) := k_icmp_ne dX3_jumps_11 rfl
theorem r_X3_jumps_14 (E : ax_EN G l) : ax_Snd G l ax_Ym M_X3_jumps 14 (S_aload 0 15) := k_aload_n dX3_jumps_14 rfl
theorem r_X3_jumps_15 (E : ax_EN G l) : ax_Snd G l ax_Ym M_X3_jumps 15 (S_iload 4 17) := k_iload dX3_jumps_15
theorem r_X3_jumps_17 (E : ax_EN G l) : ax_Snd G l ax_Ym M_X3_jumps 17 (S_iv [(38, 423)] 1 20 hd_0) := k_iv (en_F E) (ax_ok0 E rfl) (ax_Evs_cons ((ev_v (en_c E (k := 38) rfl) rfl y_X3_pushes q3178 q3180 qs88 q126 q3181 nm_X3_pushes (Nat.le_of_ble_eq_true rfl) dX3_jumps_17) : ax_EvV G l ax_Ym M_X3_jumps 17 1 3 38 423) ax_Evs_nil)
theorem r_X3_jumps_20 (E : ax_EN G l) : ax_Snd G l ax_Ym M_X3_jumps 20 (S_iload 1 21) := k_iload_n dX3_jumps_20 rfl
theorem r_X3_jumps_21 (E : ax_EN G l) : ax_Snd G l ax_Ym M_X3_jumps 21 (S_push (.int (17)) 23) := k_bipush dX3_jumps_21 rfl
theorem r_X3_jumps_23 (E : ax_EN G l) : ax_Snd G l ax_Ym M_X3_jumps 23 (S_if2 (fun x y => decide (¬ x = y)) 31 26) := k_icmp_ne dX3_jumps_23 rfl
theorem r_X3_jumps_26 (E : ax_EN G l) : ax_Snd G l ax_Ym M_X3_jumps 26 (S_aload 0 27) := k_aload_n dX3_jumps_26 rfl
theorem r_X3_jumps_27 (E : ax_EN G l) : ax_Snd G l ax_Ym M_X3_jumps 27 (S_iload 3 28) := k_iload_n dX3_jumps_27 rfl
theorem r_X3_jumps_28 (E : ax_EN G l) : ax_Snd G l ax_Ym M_X3_jumps 28 (S_iv [(38, 423)] 1 31 hd_0) := k_iv (en_F E) (ax_ok0 E rfl) (ax_Evs_cons ((ev_v (en_c E (k := 38) rfl) rfl y_X3_pushes q3178 q3180 qs88 q126 q3181 nm_X3_pushes (Nat.le_of_ble_eq_true rfl) dX3_jumps_28) : ax_EvV G l ax_Ym M_X3_jumps 28 1 3 38 423) ax_Evs_nil)
theorem r_X3_jumps_31 (E : ax_EN G l) : ax_Snd G l ax_Ym M_X3_jumps 31 (S_iload 1 32) := k_iload_n dX3_jumps_31 rfl
theorem r_X3_jumps_32 (E : ax_EN G l) : ax_Snd G l ax_Ym M_X3_jumps 32 (S_push (.int (12)) 34) := k_bipush dX3_jumps_32 rfl
theorem r_X3_jumps_34 (E : ax_EN G l) : ax_Snd G l ax_Ym M_X3_jumps 34 (S_if2 (fun x y => decide (x = y)) 69 37) := k_icmp_eq dX3_jumps_34 rfl
theorem r_X3_jumps_37 (E : ax_EN G l) : ax_Snd G l ax_Ym M_X3_jumps 37 (S_iload 1 38) := k_iload_n dX3_jumps_37 rfl
theorem r_X3_jumps_38 (E : ax_EN G l) : ax_Snd G l ax_Ym M_X3_jumps 38 (S_push (.int (15)) 40) := k_bipush dX3_jumps_38 rfl
theorem r_X3_jumps_40 (E : ax_EN G l) : ax_Snd G l ax_Ym M_X3_jumps 40 (S_if2 (fun x y => decide (x = y)) 69 43) := k_icmp_eq dX3_jumps_40 rfl
theorem r_X3_jumps_43 (E : ax_EN G l) : ax_Snd G l ax_Ym M_X3_jumps 43 (S_iload 1 44) := k_iload_n dX3_jumps_43 rfl
theorem r_X3_jumps_44 (E : ax_EN G l) : ax_Snd G l ax_Ym M_X3_jumps 44 (S_push (.int (13)) 46) := k_bipush dX3_jumps_44 rfl
theorem r_X3_jumps_46 (E : ax_EN G l) : ax_Snd G l ax_Ym M_X3_jumps 46 (S_if2 (fun x y => decide (¬ x = y)) 56 49) := k_icmp_ne dX3_jumps_46 rfl
theorem r_X3_jumps_49 (E : ax_EN G l) : ax_Snd G l ax_Ym M_X3_jumps 49 (S_aload 0 50) := k_aload_n dX3_jumps_49 rfl
theorem r_X3_jumps_50 (E : ax_EN G l) : ax_Snd G l ax_Ym M_X3_jumps 50 (S_getf [(38, 29)] 53) := k_getf (en_F E) (ax_fes_cons (fe_475 E) ax_fes_nil) q2782 dX3_jumps_50
theorem r_X3_jumps_53 (E : ax_EN G l) : ax_Snd G l ax_Ym M_X3_jumps 53 (S_if1 (fun x => decide (¬ x = 0)) 69 56) := k_if_ne dX3_jumps_53 rfl
theorem r_X3_jumps_56 (E : ax_EN G l) : ax_Snd G l ax_Ym M_X3_jumps 56 (S_iload 1 57) := k_iload_n dX3_jumps_56 rfl
theorem r_X3_jumps_57 (E : ax_EN G l) : ax_Snd G l ax_Ym M_X3_jumps 57 (S_push (.int (14)) 59) := k_bipush dX3_jumps_57 rfl
theorem r_X3_jumps_59 (E : ax_EN G l) : ax_Snd G l ax_Ym M_X3_jumps 59 (S_if2 (fun x y => decide (¬ x = y)) 73 62) := k_icmp_ne dX3_jumps_59 rfl
theorem r_X3_jumps_62 (E : ax_EN G l) : ax_Snd G l ax_Ym M_X3_jumps 62 (S_aload 0 63) := k_aload_n dX3_jumps_62 rfl
theorem r_X3_jumps_63 (E : ax_EN G l) : ax_Snd G l ax_Ym M_X3_jumps 63 (S_getf [(38, 30)] 66) := k_getf (en_F E) (ax_fes_cons (fe_477 E) ax_fes_nil) q2783 dX3_jumps_63
theorem r_X3_jumps_66 (E : ax_EN G l) : ax_Snd G l ax_Ym M_X3_jumps 66 (S_if1 (fun x => decide (x = 0)) 73 69) := k_if_eq dX3_jumps_66 rfl
theorem r_X3_jumps_69 (E : ax_EN G l) : ax_Snd G l ax_Ym M_X3_jumps 69 (S_push (.int (1)) 70) := k_iconst dX3_jumps_69 rfl
theorem r_X3_jumps_70 (E : ax_EN G l) : ax_Snd G l ax_Ym M_X3_jumps 70 (S_goto 74) := k_goto dX3_jumps_70 rfl
theorem r_X3_jumps_73 (E : ax_EN G l) : ax_Snd G l ax_Ym M_X3_jumps 73 (S_push (.int (0)) 74) := k_iconst dX3_jumps_73 rfl
theorem r_X3_jumps_74 (E : ax_EN G l) : ax_Snd G l ax_Ym M_X3_jumps 74 (S_istore 5 76) := k_istore dX3_jumps_74 (Nat.le_of_ble_eq_true rfl)
theorem r_X3_jumps_76 (E : ax_EN G l) : ax_Snd G l ax_Ym M_X3_jumps 76 (S_aload 0 77) := k_aload_n dX3_jumps_76 rfl
theorem r_X3_jumps_77 (E : ax_EN G l) : ax_Snd G l ax_Ym M_X3_jumps 77 (S_iload 1 78) := k_iload_n dX3_jumps_77 rfl
theorem r_X3_jumps_78 (E : ax_EN G l) : ax_Snd G l ax_Ym M_X3_jumps 78 (S_push (.int (16)) 80) := k_bipush dX3_jumps_78 rfl
theorem r_X3_jumps_80 (E : ax_EN G l) : ax_Snd G l ax_Ym M_X3_jumps 80 (S_if2 (fun x y => decide (¬ x = y)) 90 83) := k_icmp_ne dX3_jumps_80 rfl
theorem r_X3_jumps_83 (E : ax_EN G l) : ax_Snd G l ax_Ym M_X3_jumps 83 (S_aload 0 84) := k_aload_n dX3_jumps_83 rfl
theorem r_X3_jumps_84 (E : ax_EN G l) : ax_Snd G l ax_Ym M_X3_jumps 84 (S_iv [(38, 432)] 0 87 hd_0) := k_iv (en_F E) (ax_ok0 E rfl) (ax_Evs_cons ((ev_v (en_c E (k := 38) rfl) rfl y_X3_pulls q3213 q3215 qs95 q126 q3216 nm_X3_pulls (Nat.le_of_ble_eq_true rfl) dX3_jumps_84) : ax_EvV G l ax_Ym M_X3_jumps 84 0 3 38 432) ax_Evs_nil)
theorem r_X3_jumps_87 (E : ax_EN G l) : ax_Snd G l ax_Ym M_X3_jumps 87 (S_goto 101) := k_goto dX3_jumps_87 rfl
theorem r_X3_jumps_90 (E : ax_EN G l) : ax_Snd G l ax_Ym M_X3_jumps 90 (S_iload 5 92) := k_iload dX3_jumps_90
theorem r_X3_jumps_92 (E : ax_EN G l) : ax_Snd G l ax_Ym M_X3_jumps 92 (S_if1 (fun x => decide (x = 0)) 99 95) := k_if_eq dX3_jumps_92 rfl
theorem r_X3_jumps_95 (E : ax_EN G l) : ax_Snd G l ax_Ym M_X3_jumps 95 (S_iload 3 96) := k_iload_n dX3_jumps_95 rfl
theorem r_X3_jumps_96 (E : ax_EN G l) : ax_Snd G l ax_Ym M_X3_jumps 96 (S_goto 101) := k_goto dX3_jumps_96 rfl
theorem r_X3_jumps_99 (E : ax_EN G l) : ax_Snd G l ax_Ym M_X3_jumps 99 (S_iload 4 101) := k_iload dX3_jumps_99
theorem r_X3_jumps_101 (E : ax_EN G l) : ax_Snd G l ax_Ym M_X3_jumps 101 (S_putf [(38, 27)] (.int) 104) := k_putf (en_F E) (en_P E) (ax_fes_cons (fe_469 E) ax_fes_nil) (ax_fps_cons (fp_470 E) ax_fps_nil) q2780 dX3_jumps_101
theorem r_X3_jumps_104 (E : ax_EN G l) : ax_Snd G l ax_Ym M_X3_jumps 104 (S_iload 1 105) := k_iload_n dX3_jumps_104 rfl
theorem r_X3_jumps_105 (E : ax_EN G l) : ax_Snd G l ax_Ym M_X3_jumps 105 (S_push (.int (18)) 107) := k_bipush dX3_jumps_105 rfl
theorem r_X3_jumps_107 (E : ax_EN G l) : ax_Snd G l ax_Ym M_X3_jumps 107 (S_if2 (fun x y => decide (¬ x = y)) 120 110) := k_icmp_ne dX3_jumps_107 rfl
theorem r_X3_jumps_110 (E : ax_EN G l) : ax_Snd G l ax_Ym M_X3_jumps 110 (S_aload 0 111) := k_aload_n dX3_jumps_110 rfl
theorem r_X3_jumps_111 (E : ax_EN G l) : ax_Snd G l ax_Ym M_X3_jumps 111 (S_getf [(38, 26)] 114) := k_getf (en_F E) (ax_fes_cons (fe_386 E) ax_fes_nil) q2779 dX3_jumps_111
theorem r_X3_jumps_114 (E : ax_EN G l) : ax_Snd G l ax_Ym M_X3_jumps 114 (S_iload 2 115) := k_iload_n dX3_jumps_114 rfl
theorem r_X3_jumps_115 (E : ax_EN G l) : ax_Snd G l ax_Ym M_X3_jumps 115 (S_aload 0 116) := k_aload_n dX3_jumps_115 rfl
theorem r_X3_jumps_116 (E : ax_EN G l) : ax_Snd G l ax_Ym M_X3_jumps 116 (S_iv [(38, 432)] 0 119 hd_0) := k_iv (en_F E) (ax_ok0 E rfl) (ax_Evs_cons ((ev_v (en_c E (k := 38) rfl) rfl y_X3_pulls q3213 q3215 qs95 q126 q3216 nm_X3_pulls (Nat.le_of_ble_eq_true rfl) dX3_jumps_116) : ax_EvV G l ax_Ym M_X3_jumps 116 0 3 38 432) ax_Evs_nil)
theorem r_X3_jumps_119 (E : ax_EN G l) : ax_Snd G l ax_Ym M_X3_jumps 119 (S_iast 0 (fun x => x) 120) := k_iast (en_F E) dX3_jumps_119
theorem r_X3_jumps_120 (E : ax_EN G l) : ax_Snd G l ax_Ym M_X3_jumps 120 (S_ret) := k_ret dX3_jumps_120 rfl
theorem mt_X3_jumps (E : ax_EN G l) : ax_mt G l ax_Ym (6, P_X3_jumps) (ax_Ym 431) := ⟨M_X3_jumps, yX3_jumps, ⟨rfl, by decide +kernel, rfl, (fun h => by cases h), Or.inl ⟨rfl, rfl⟩⟩, fun pc => (ax_sn_node (ax_sn_node (ax_sn_node (ax_sn_node (ax_sn_node (ax_sn_node (ax_sn_leaf (r_X3_jumps_120 E)) (ax_sn_leaf (r_X3_jumps_119 E))) (ax_sn_node (ax_sn_leaf (r_X3_jumps_116 E)) (ax_sn_leaf (r_X3_jumps_115 E)))) (ax_sn_node (ax_sn_node (ax_sn_leaf (r_X3_jumps_114 E)) (ax_sn_leaf (r_X3_jumps_111 E))) (ax_sn_node (ax_sn_leaf (r_X3_jumps_110 E)) (ax_sn_leaf (r_X3_jumps_107 E))))) (ax_sn_node (ax_sn_node (ax_sn_node (ax_sn_leaf (r_X3_jumps_105 E)) (ax_sn_leaf (r_X3_jumps_104 E))) (ax_sn_node (ax_sn_leaf (r_X3_jumps_101 E)) (ax_sn_leaf (r_X3_jumps_99 E)))) (ax_sn_node (ax_sn_node (ax_sn_leaf (r_X3_jumps_96 E)) (ax_sn_leaf (r_X3_jumps_95 E))) (ax_sn_node (ax_sn_leaf (r_X3_jumps_92 E)) (ax_sn_leaf (r_X3_jumps_90 E)))))) (ax_sn_node (ax_sn_node (ax_sn_node (ax_sn_node (ax_sn_leaf (r_X3_jumps_87 E)) (ax_sn_leaf (r_X3_jumps_84 E))) (ax_sn_node (ax_sn_leaf (r_X3_jumps_83 E)) (ax_sn_leaf (r_X3_jumps_80 E)))) (ax_sn_node (ax_sn_node (ax_sn_leaf (r_X3_jumps_78 E)) (ax_sn_leaf (r_X3_jumps_77 E))) (ax_sn_node (ax_sn_leaf (r_X3_jumps_76 E)) (ax_sn_leaf (r_X3_jumps_74 E))))) (ax_sn_node (ax_sn_node (ax_sn_node (ax_sn_leaf (r_X3_jumps_73 E)) (ax_sn_leaf (r_X3_jumps_70 E))) (ax_sn_node (ax_sn_leaf (r_X3_jumps_69 E)) (ax_sn_leaf (r_X3_jumps_66 E)))) (ax_sn_node (ax_sn_node (ax_sn_leaf (r_X3_jumps_63 E)) (ax_sn_leaf (r_X3_jumps_62 E))) (ax_sn_leaf (r_X3_jumps_59 E)))))) (ax_sn_node (ax_sn_node (ax_sn_node (ax_sn_node (ax_sn_node (ax_sn_leaf (r_X3_jumps_57 E)) (ax_sn_leaf (r_X3_jumps_56 E))) (ax_sn_node (ax_sn_leaf (r_X3_jumps_53 E)) (ax_sn_leaf (r_X3_jumps_50 E)))) (ax_sn_node (ax_sn_node (ax_sn_leaf (r_X3_jumps_49 E)) (ax_sn_leaf (r_X3_jumps_46 E))) (ax_sn_node (ax_sn_leaf (r_X3_jumps_44 E)) (ax_sn_leaf (r_X3_jumps_43 E))))) (ax_sn_node (ax_sn_node (ax_sn_node (ax_sn_leaf (r_X3_jumps_40 E)) (ax_sn_leaf (r_X3_jumps_38 E))) (ax_sn_node (ax_sn_leaf (r_X3_jumps_37 E)) (ax_sn_leaf (r_X3_jumps_34 E)))) (ax_sn_node (ax_sn_node (ax_sn_leaf (r_X3_jumps_32 E)) (ax_sn_leaf (r_X3_jumps_31 E))) (ax_sn_node (ax_sn_leaf (r_X3_jumps_28 E)) (ax_sn_leaf (r_X3_jumps_27 E)))))) (ax_sn_node (ax_sn_node (ax_sn_node (ax_sn_node (ax_sn_leaf (r_X3_jumps_26 E)) (ax_sn_leaf (r_X3_jumps_23 E))) (ax_sn_node (ax_sn_leaf (r_X3_jumps_21 E)) (ax_sn_leaf (r_X3_jumps_20 E)))) (ax_sn_node (ax_sn_node (ax_sn_leaf (r_X3_jumps_17 E)) (ax_sn_leaf (r_X3_jumps_15 E))) (ax_sn_node (ax_sn_leaf (r_X3_jumps_14 E)) (ax_sn_leaf (r_X3_jumps_11 E))))) (ax_sn_node (ax_sn_node (ax_sn_node (ax_sn_leaf (r_X3_jumps_9 E)) (ax_sn_leaf (r_X3_jumps_8 E))) (ax_sn_node (ax_sn_leaf (r_X3_jumps_6 E)) (ax_sn_leaf (r_X3_jumps_5 E)))) (ax_sn_node (ax_sn_node (ax_sn_leaf (r_X3_jumps_4 E)) (ax_sn_leaf (r_X3_jumps_1 E))) (ax_sn_leaf (r_X3_jumps_0 E)))))))⟩
theorem r_X3_pulls_0 (E : ax_EN G l) : ax_Snd G l ax_Ym M_X3_pulls 0 (S_aload 0 1) := k_aload_n dX3_pulls_0 rfl
theorem r_X3_pulls_1 (E : ax_EN G l) : ax_Snd G l ax_Ym M_X3_pulls 1 (S_dup 2) := k_dup dX3_pulls_1
theorem r_X3_pulls_2 (E : ax_EN G l) : ax_Snd G l ax_Ym M_X3_pulls 2 (S_getf [(38, 28)] 5) := k_getf (en_F E) (ax_fes_cons (fe_471 E) ax_fes_nil) q2781 dX3_pulls_2
theorem r_X3_pulls_5 (E : ax_EN G l) : ax_Snd G l ax_Ym M_X3_pulls 5 (S_push (.int (1)) 6) := k_iconst dX3_pulls_5 rfl
theorem r_X3_pulls_6 (E : ax_EN G l) : ax_Snd G l ax_Ym M_X3_pulls 6 (S_i2 (fun x y => x + y) 7) := k_iadd dX3_pulls_6
theorem r_X3_pulls_7 (E : ax_EN G l) : ax_Snd G l ax_Ym M_X3_pulls 7 (S_putf [(38, 28)] (.int) 10) := k_putf (en_F E) (en_P E) (ax_fes_cons (fe_471 E) ax_fes_nil) (ax_fps_cons (fp_472 E) ax_fps_nil) q2781 dX3_pulls_7
theorem r_X3_pulls_10 (E : ax_EN G l) : ax_Snd G l ax_Ym M_X3_pulls 10 (S_aload 0 11) := k_aload_n dX3_pulls_10 rfl
theorem r_X3_pulls_11 (E : ax_EN G l) : ax_Snd G l ax_Ym M_X3_pulls 11 (S_getf [(38, 25)] 14) := k_getf (en_F E) (ax_fes_cons (fe_384 E) ax_fes_nil) q2778 dX3_pulls_11
theorem r_X3_pulls_14 (E : ax_EN G l) : ax_Snd G l ax_Ym M_X3_pulls 14 (S_aload 0 15) := k_aload_n dX3_pulls_14 rfl
theorem r_X3_pulls_15 (E : ax_EN G l) : ax_Snd G l ax_Ym M_X3_pulls 15 (S_getf [(38, 28)] 18) := k_getf (en_F E) (ax_fes_cons (fe_471 E) ax_fes_nil) q2781 dX3_pulls_15
theorem r_X3_pulls_18 (E : ax_EN G l) : ax_Snd G l ax_Ym M_X3_pulls 18 (S_push (.int (1)) 19) := k_iconst dX3_pulls_18 rfl
theorem r_X3_pulls_19 (E : ax_EN G l) : ax_Snd G l ax_Ym M_X3_pulls 19 (S_i2 (fun x y => x - y) 20) := k_isub dX3_pulls_19
theorem r_X3_pulls_20 (E : ax_EN G l) : ax_Snd G l ax_Ym M_X3_pulls 20 (S_iald 0 21) := k_iald (en_F E) dX3_pulls_20
theorem r_X3_pulls_21 (E : ax_EN G l) : ax_Snd G l ax_Ym M_X3_pulls 21 (S_iret) := k_iret dX3_pulls_21 rfl
theorem mt_X3_pulls (E : ax_EN G l) : ax_mt G l ax_Ym (1, P_X3_pulls) (ax_Ym 432) := ⟨M_X3_pulls, yX3_pulls, ⟨rfl, by decide +kernel, rfl, (fun h => by cases h), Or.inl ⟨rfl, rfl⟩⟩, fun pc => (ax_sn_node (ax_sn_node (ax_sn_node (ax_sn_node (ax_sn_leaf (r_X3_pulls_21 E)) (ax_sn_leaf (r_X3_pulls_20 E))) (ax_sn_node (ax_sn_leaf (r_X3_pulls_19 E)) (ax_sn_leaf (r_X3_pulls_18 E)))) (ax_sn_node (ax_sn_node (ax_sn_leaf (r_X3_pulls_15 E)) (ax_sn_leaf (r_X3_pulls_14 E))) (ax_sn_leaf (r_X3_pulls_11 E)))) (ax_sn_node (ax_sn_node (ax_sn_node (ax_sn_leaf (r_X3_pulls_10 E)) (ax_sn_leaf (r_X3_pulls_7 E))) (ax_sn_node (ax_sn_leaf (r_X3_pulls_6 E)) (ax_sn_leaf (r_X3_pulls_5 E)))) (ax_sn_node (ax_sn_node (ax_sn_leaf (r_X3_pulls_2 E)) (ax_sn_leaf (r_X3_pulls_1 E))) (ax_sn_leaf (r_X3_pulls_0 E)))))⟩
theorem r_X3_others_0 (E : ax_EN G l) : ax_Snd G l ax_Ym M_X3_others 0 (S_iload 1 1) := k_iload_n dX3_others_0 rfl
theorem r_X3_others_1 (E : ax_EN G l) : ax_Snd G l ax_Ym M_X3_others 1 (S_push (.int (21)) 3) := k_bipush dX3_others_1 rfl
theorem r_X3_others_3 (E : ax_EN G l) : ax_Snd G l ax_Ym M_X3_others 3 (S_if2 (fun x y => decide (¬ x = y)) 62 6) := k_icmp_ne dX3_others_3 rfl
theorem r_X3_others_6 (E : ax_EN G l) : ax_Snd G l ax_Ym M_X3_others 6 (S_aload 0 7) := k_aload_n dX3_others_6 rfl
theorem r_X3_others_7 (E : ax_EN G l) : ax_Snd G l ax_Ym M_X3_others 7 (S_iv [(38, 432)] 0 10 hd_0) := k_iv (en_F E) (ax_ok0 E rfl) (ax_Evs_cons ((ev_v (en_c E (k := 38) rfl) rfl y_X3_pulls q3213 q3215 qs95 q126 q3216 nm_X3_pulls (Nat.le_of_ble_eq_true rfl) dX3_others_7) : ax_EvV G l ax_Ym M_X3_others 7 0 3 38 432) ax_Evs_nil)
theorem r_X3_others_10 (E : ax_EN G l) : ax_Snd G l ax_Ym M_X3_others 10 (S_istore 4 12) := k_istore dX3_others_10 (Nat.le_of_ble_eq_true rfl)
theorem r_X3_others_12 (E : ax_EN G l) : ax_Snd G l ax_Ym M_X3_others 12 (S_aload 0 13) := k_aload_n dX3_others_12 rfl
theorem r_X3_others_13 (E : ax_EN G l) : ax_Snd G l ax_Ym M_X3_others 13 (S_iload 4 15) := k_iload dX3_others_13
theorem r_X3_others_15 (E : ax_EN G l) : ax_Snd G l ax_Ym M_X3_others 15 (S_push (.int (2)) 16) := k_iconst dX3_others_15 rfl
theorem r_X3_others_16 (E : ax_EN G l) : ax_Snd G l ax_Ym M_X3_others 16 (S_id (fun x y => x - x / y * y) 17) := k_irem dX3_others_16
theorem r_X3_others_17 (E : ax_EN G l) : ax_Snd G l ax_Ym M_X3_others 17 (S_push (.int (1)) 18) := k_iconst dX3_others_17 rfl
theorem r_X3_others_18 (E : ax_EN G l) : ax_Snd G l ax_Ym M_X3_others 18 (S_if2 (fun x y => decide (¬ x = y)) 25 21) := k_icmp_ne dX3_others_18 rfl
theorem r_X3_others_21 (E : ax_EN G l) : ax_Snd G l ax_Ym M_X3_others 21 (S_push (.int (1)) 22) := k_iconst dX3_others_21 rfl
theorem r_X3_others_22 (E : ax_EN G l) : ax_Snd G l ax_Ym M_X3_others 22 (S_goto 26) := k_goto dX3_others_22 rfl
theorem r_X3_others_25 (E : ax_EN G l) : ax_Snd G l ax_Ym M_X3_others 25 (S_push (.int (0)) 26) := k_iconst dX3_others_25 rfl
theorem r_X3_others_26 (E : ax_EN G l) : ax_Snd G l ax_Ym M_X3_others 26 (S_putf [(38, 29)] (.boolean) 29) := k_putf (en_F E) (en_P E) (ax_fes_cons (fe_475 E) ax_fes_nil) (ax_fps_cons (fp_476 E) ax_fps_nil) q2782 dX3_others_26
theorem r_X3_others_29 (E : ax_EN G l) : ax_Snd G l ax_Ym M_X3_others 29 (S_aload 0 30) := k_aload_n dX3_others_29 rfl
theorem r_X3_others_30 (E : ax_EN G l) : ax_Snd G l ax_Ym M_X3_others 30 (S_iload 4 32) := k_iload dX3_others_30
theorem r_X3_others_32 (E : ax_EN G l) : ax_Snd G l ax_Ym M_X3_others 32 (S_push (.int (2)) 33) := k_iconst dX3_others_32 rfl
theorem r_X3_others_33 (E : ax_EN G l) : ax_Snd G l ax_Ym M_X3_others 33 (S_id (fun x y => x / y) 34) := k_idiv dX3_others_33
theorem r_X3_others_34 (E : ax_EN G l) : ax_Snd G l ax_Ym M_X3_others 34 (S_push (.int (2)) 35) := k_iconst dX3_others_34 rfl
theorem r_X3_others_35 (E : ax_EN G l) : ax_Snd G l ax_Ym M_X3_others 35 (S_id (fun x y => x - x / y * y) 36) := k_irem dX3_others_35
theorem r_X3_others_36 (E : ax_EN G l) : ax_Snd G l ax_Ym M_X3_others 36 (S_push (.int (1)) 37) := k_iconst dX3_others_36 rfl
theorem r_X3_others_37 (E : ax_EN G l) : ax_Snd G l ax_Ym M_X3_others 37 (S_if2 (fun x y => decide (¬ x = y)) 44 40) := k_icmp_ne dX3_others_37 rfl
theorem r_X3_others_40 (E : ax_EN G l) : ax_Snd G l ax_Ym M_X3_others 40 (S_push (.int (1)) 41) := k_iconst dX3_others_40 rfl
theorem r_X3_others_41 (E : ax_EN G l) : ax_Snd G l ax_Ym M_X3_others 41 (S_goto 45) := k_goto dX3_others_41 rfl
theorem r_X3_others_44 (E : ax_EN G l) : ax_Snd G l ax_Ym M_X3_others 44 (S_push (.int (0)) 45) := k_iconst dX3_others_44 rfl
theorem r_X3_others_45 (E : ax_EN G l) : ax_Snd G l ax_Ym M_X3_others 45 (S_putf [(38, 30)] (.boolean) 48) := k_putf (en_F E) (en_P E) (ax_fes_cons (fe_477 E) ax_fes_nil) (ax_fps_cons (fp_478 E) ax_fps_nil) q2783 dX3_others_45
theorem r_X3_others_48 (E : ax_EN G l) : ax_Snd G l ax_Ym M_X3_others 48 (S_aload 0 49) := k_aload_n dX3_others_48 rfl
theorem r_X3_others_49 (E : ax_EN G l) : ax_Snd G l ax_Ym M_X3_others 49 (S_aload 0 50) := k_aload_n dX3_others_49 rfl
theorem r_X3_others_50 (E : ax_EN G l) : ax_Snd G l ax_Ym M_X3_others 50 (S_iv [(38, 432)] 0 53 hd_0) := k_iv (en_F E) (ax_ok0 E rfl) (ax_Evs_cons ((ev_v (en_c E (k := 38) rfl) rfl y_X3_pulls q3213 q3215 qs95 q126 q3216 nm_X3_pulls (Nat.le_of_ble_eq_true rfl) dX3_others_50) : ax_EvV G l ax_Ym M_X3_others 50 0 3 38 432) ax_Evs_nil)
theorem r_X3_others_53 (E : ax_EN G l) : ax_Snd G l ax_Ym M_X3_others 53 (S_putf [(38, 27)] (.int) 56) := k_putf (en_F E) (en_P E) (ax_fes_cons (fe_469 E) ax_fes_nil) (ax_fps_cons (fp_470 E) ax_fps_nil) q2780 dX3_others_53
theorem r_X3_others_56 (E : ax_EN G l) : ax_Snd G l ax_Ym M_X3_others 56 (S_aload 0 57) := k_aload_n dX3_others_56 rfl
theorem r_X3_others_57 (E : ax_EN G l) : ax_Snd G l ax_Ym M_X3_others 57 (S_push (.int (1)) 58) := k_iconst dX3_others_57 rfl
theorem r_X3_others_58 (E : ax_EN G l) : ax_Snd G l ax_Ym M_X3_others 58 (S_putf [(38, 31)] (.boolean) 61) := k_putf (en_F E) (en_P E) (ax_fes_cons (fe_479 E) ax_fes_nil) (ax_fps_cons (fp_480 E) ax_fps_nil) q2784 dX3_others_58
theorem r_X3_others_61 (E : ax_EN G l) : ax_Snd G l ax_Ym M_X3_others 61 (S_ret) := k_ret dX3_others_61 rfl
theorem r_X3_others_62 (E : ax_EN G l) : ax_Snd G l ax_Ym M_X3_others 62 (S_iload 1 63) := k_iload_n dX3_others_62 rfl
theorem r_X3_others_63 (E : ax_EN G l) : ax_Snd G l ax_Ym M_X3_others 63 (S_push (.int (26)) 65) := k_bipush dX3_others_63 rfl
theorem r_X3_others_65 (E : ax_EN G l) : ax_Snd G l ax_Ym M_X3_others 65 (S_if2 (fun x y => decide (¬ x = y)) 74 68) := k_icmp_ne dX3_others_65 rfl
theorem r_X3_others_68 (E : ax_EN G l) : ax_Snd G l ax_Ym M_X3_others 68 (S_aload 0 69) := k_aload_n dX3_others_68 rfl
theorem r_X3_others_69 (E : ax_EN G l) : ax_Snd G l ax_Ym M_X3_others 69 (S_iload 3 70) := k_iload_n dX3_others_69 rfl
theorem r_X3_others_70 (E : ax_EN G l) : ax_Snd G l ax_Ym M_X3_others 70 (S_iv [(38, 434)] 1 73 hd_0) := k_iv (en_F E) (ax_ok0 E rfl) (ax_Evs_cons ((ev_v (en_c E (k := 38) rfl) rfl y_X3_calls q3221 q3223 qs97 q126 q3224 nm_X3_calls (Nat.le_of_ble_eq_true rfl) dX3_others_70) : ax_EvV G l ax_Ym M_X3_others 70 1 3 38 434) ax_Evs_nil)
theorem r_X3_others_73 (E : ax_EN G l) : ax_Snd G l ax_Ym M_X3_others 73 (S_ret) := k_ret dX3_others_73 rfl
theorem r_X3_others_74 (E : ax_EN G l) : ax_Snd G l ax_Ym M_X3_others 74 (S_aload 0 75) := k_aload_n dX3_others_74 rfl
theorem r_X3_others_75 (E : ax_EN G l) : ax_Snd G l ax_Ym M_X3_others 75 (S_dup 76) := k_dup dX3_others_75
theorem r_X3_others_76 (E : ax_EN G l) : ax_Snd G l ax_Ym M_X3_others 76 (S_getf [(38, 27)] 79) := k_getf (en_F E) (ax_fes_cons (fe_469 E) ax_fes_nil) q2780 dX3_others_76
theorem r_X3_others_79 (E : ax_EN G l) : ax_Snd G l ax_Ym M_X3_others 79 (S_iload 1 80) := k_iload_n dX3_others_79 rfl
theorem r_X3_others_80 (E : ax_EN G l) : ax_Snd G l ax_Ym M_X3_others 80 (S_push (.int (22)) 82) := k_bipush dX3_others_80 rfl
theorem r_X3_others_82 (E : ax_EN G l) : ax_Snd G l ax_Ym M_X3_others 82 (S_if2 (fun x y => decide (¬ x = y)) 103 85) := k_icmp_ne dX3_others_82 rfl
theorem r_X3_others_85 (E : ax_EN G l) : ax_Snd G l ax_Ym M_X3_others 85 (S_aload 0 86) := k_aload_n dX3_others_85 rfl
theorem r_X3_others_86 (E : ax_EN G l) : ax_Snd G l ax_Ym M_X3_others 86 (S_getf [(38, 32)] 89) := k_getf (en_F E) (ax_fes_cons (fe_481 E) ax_fes_nil) q2785 dX3_others_86
theorem r_X3_others_89 (E : ax_EN G l) : ax_Snd G l ax_Ym M_X3_others 89 (S_if1 (fun x => decide (¬ x = 0)) 103 92) := k_if_ne dX3_others_89 rfl
theorem r_X3_others_92 (E : ax_EN G l) : ax_Snd G l ax_Ym M_X3_others 92 (S_aload 0 93) := k_aload_n dX3_others_92 rfl
theorem r_X3_others_93 (E : ax_EN G l) : ax_Snd G l ax_Ym M_X3_others 93 (S_getf [(38, 33)] 96) := k_getf (en_F E) (ax_fes_cons (fe_483 E) ax_fes_nil) q2786 dX3_others_93
theorem r_X3_others_96 (E : ax_EN G l) : ax_Snd G l ax_Ym M_X3_others 96 (S_if1 (fun x => decide (¬ x = 0)) 103 99) := k_if_ne dX3_others_96 rfl
theorem r_X3_others_99 (E : ax_EN G l) : ax_Snd G l ax_Ym M_X3_others 99 (S_push (.int (0)) 100) := k_iconst dX3_others_99 rfl
theorem r_X3_others_100 (E : ax_EN G l) : ax_Snd G l ax_Ym M_X3_others 100 (S_goto 104) := k_goto dX3_others_100 rfl
theorem r_X3_others_103 (E : ax_EN G l) : ax_Snd G l ax_Ym M_X3_others 103 (S_push (.int (2)) 104) := k_iconst dX3_others_103 rfl
theorem r_X3_others_104 (E : ax_EN G l) : ax_Snd G l ax_Ym M_X3_others 104 (S_i2 (fun x y => x + y) 105) := k_iadd dX3_others_104
theorem r_X3_others_105 (E : ax_EN G l) : ax_Snd G l ax_Ym M_X3_others 105 (S_putf [(38, 27)] (.int) 108) := k_putf (en_F E) (en_P E) (ax_fes_cons (fe_469 E) ax_fes_nil) (ax_fps_cons (fp_470 E) ax_fps_nil) q2780 dX3_others_105
theorem r_X3_others_108 (E : ax_EN G l) : ax_Snd G l ax_Ym M_X3_others 108 (S_aload 0 109) := k_aload_n dX3_others_108 rfl
theorem r_X3_others_109 (E : ax_EN G l) : ax_Snd G l ax_Ym M_X3_others 109 (S_iload 1 110) := k_iload_n dX3_others_109 rfl
theorem r_X3_others_110 (E : ax_EN G l) : ax_Snd G l ax_Ym M_X3_others 110 (S_push (.int (19)) 112) := k_bipush dX3_others_110 rfl
theorem r_X3_others_112 (E : ax_EN G l) : ax_Snd G l ax_Ym M_X3_others 112 (S_if2 (fun x y => decide (x = y)) 128 115) := k_icmp_eq dX3_others_112 rfl
theorem r_X3_others_115 (E : ax_EN G l) : ax_Snd G l ax_Ym M_X3_others 115 (S_iload 1 116) := k_iload_n dX3_others_115 rfl
theorem r_X3_others_116 (E : ax_EN G l) : ax_Snd G l ax_Ym M_X3_others 116 (S_push (.int (20)) 118) := k_bipush dX3_others_116 rfl
theorem r_X3_others_118 (E : ax_EN G l) : ax_Snd G l ax_Ym M_X3_others 118 (S_if2 (fun x y => decide (x = y)) 132 121) := k_icmp_eq dX3_others_118 rfl
theorem r_X3_others_121 (E : ax_EN G l) : ax_Snd G l ax_Ym M_X3_others 121 (S_aload 0 122) := k_aload_n dX3_others_121 rfl
theorem r_X3_others_122 (E : ax_EN G l) : ax_Snd G l ax_Ym M_X3_others 122 (S_getf [(38, 31)] 125) := k_getf (en_F E) (ax_fes_cons (fe_479 E) ax_fes_nil) q2784 dX3_others_122
theorem r_X3_others_125 (E : ax_EN G l) : ax_Snd G l ax_Ym M_X3_others 125 (S_if1 (fun x => decide (x = 0)) 132 128) := k_if_eq dX3_others_125 rfl
theorem r_X3_others_128 (E : ax_EN G l) : ax_Snd G l ax_Ym M_X3_others 128 (S_push (.int (1)) 129) := k_iconst dX3_others_128 rfl
theorem r_X3_others_129 (E : ax_EN G l) : ax_Snd G l ax_Ym M_X3_others 129 (S_goto 133) := k_goto dX3_others_129 rfl
theorem r_X3_others_132 (E : ax_EN G l) : ax_Snd G l ax_Ym M_X3_others 132 (S_push (.int (0)) 133) := k_iconst dX3_others_132 rfl
theorem r_X3_others_133 (E : ax_EN G l) : ax_Snd G l ax_Ym M_X3_others 133 (S_putf [(38, 31)] (.boolean) 136) := k_putf (en_F E) (en_P E) (ax_fes_cons (fe_479 E) ax_fes_nil) (ax_fps_cons (fp_480 E) ax_fps_nil) q2784 dX3_others_133
theorem r_X3_others_136 (E : ax_EN G l) : ax_Snd G l ax_Ym M_X3_others 136 (S_iload 1 137) := k_iload_n dX3_others_136 rfl
theorem r_X3_others_137 (E : ax_EN G l) : ax_Snd G l ax_Ym M_X3_others 137 (S_push (.int (23)) 139) := k_bipush dX3_others_137 rfl
theorem r_X3_others_139 (E : ax_EN G l) : ax_Snd G l ax_Ym M_X3_others 139 (S_if2 (fun x y => decide (¬ x = y)) 152 142) := k_icmp_ne dX3_others_139 rfl
theorem r_X3_others_142 (E : ax_EN G l) : ax_Snd G l ax_Ym M_X3_others 142 (S_aload 0 143) := k_aload_n dX3_others_142 rfl
theorem r_X3_others_143 (E : ax_EN G l) : ax_Snd G l ax_Ym M_X3_others 143 (S_iload 3 144) := k_iload_n dX3_others_143 rfl
theorem r_X3_others_144 (E : ax_EN G l) : ax_Snd G l ax_Ym M_X3_others 144 (S_putf [(38, 34)] (.int) 147) := k_putf (en_F E) (en_P E) (ax_fes_cons (fe_485 E) ax_fes_nil) (ax_fps_cons (fp_486 E) ax_fps_nil) q2787 dX3_others_144
theorem r_X3_others_147 (E : ax_EN G l) : ax_Snd G l ax_Ym M_X3_others 147 (S_aload 0 148) := k_aload_n dX3_others_147 rfl
theorem r_X3_others_148 (E : ax_EN G l) : ax_Snd G l ax_Ym M_X3_others 148 (S_push (.int (0)) 149) := k_iconst dX3_others_148 rfl
theorem r_X3_others_149 (E : ax_EN G l) : ax_Snd G l ax_Ym M_X3_others 149 (S_putf [(38, 35)] (.int) 152) := k_putf (en_F E) (en_P E) (ax_fes_cons (fe_487 E) ax_fes_nil) (ax_fps_cons (fp_488 E) ax_fps_nil) q2788 dX3_others_149
theorem r_X3_others_152 (E : ax_EN G l) : ax_Snd G l ax_Ym M_X3_others 152 (S_iload 1 153) := k_iload_n dX3_others_152 rfl
theorem r_X3_others_153 (E : ax_EN G l) : ax_Snd G l ax_Ym M_X3_others 153 (S_push (.int (24)) 155) := k_bipush dX3_others_153 rfl
theorem r_X3_others_155 (E : ax_EN G l) : ax_Snd G l ax_Ym M_X3_others 155 (S_if2 (fun x y => decide (¬ x = y)) 220 158) := k_icmp_ne dX3_others_155 rfl
theorem r_X3_others_158 (E : ax_EN G l) : ax_Snd G l ax_Ym M_X3_others 158 (S_aload 0 159) := k_aload_n dX3_others_158 rfl
theorem r_X3_others_159 (E : ax_EN G l) : ax_Snd G l ax_Ym M_X3_others 159 (S_getf [(38, 39)] 162) := k_getf (en_F E) (ax_fes_cons (fe_493 E) ax_fes_nil) q2792 dX3_others_159
theorem r_X3_others_162 (E : ax_EN G l) : ax_Snd G l ax_Ym M_X3_others 162 (S_aload 0 163) := k_aload_n dX3_others_162 rfl
theorem r_X3_others_163 (E : ax_EN G l) : ax_Snd G l ax_Ym M_X3_others 163 (S_iv [(38, 448)] 0 166 hd_0) := k_iv (en_F E) (ax_ok0 E rfl) (ax_Evs_cons ((ev_v (en_c E (k := 38) rfl) rfl y_X3_come q3273 q3275 qs107 q126 q3276 nm_X3_come (Nat.le_of_ble_eq_true rfl) dX3_others_163) : ax_EvV G l ax_Ym M_X3_others 163 0 3 38 448) ax_Evs_nil)
theorem r_X3_others_166 (E : ax_EN G l) : ax_Snd G l ax_Ym M_X3_others 166 (S_if2 (fun x y => decide (y ≤ x)) 173 169) := k_icmp_ge dX3_others_166 rfl
theorem r_X3_others_169 (E : ax_EN G l) : ax_Snd G l ax_Ym M_X3_others 169 (S_push (.int (1)) 170) := k_iconst dX3_others_169 rfl
theorem r_X3_others_170 (E : ax_EN G l) : ax_Snd G l ax_Ym M_X3_others 170 (S_goto 174) := k_goto dX3_others_170 rfl
theorem r_X3_others_173 (E : ax_EN G l) : ax_Snd G l ax_Ym M_X3_others 173 (S_push (.int (0)) 174) := k_iconst dX3_others_173 rfl
theorem r_X3_others_174 (E : ax_EN G l) : ax_Snd G l ax_Ym M_X3_others 174 (S_istore 4 176) := k_istore dX3_others_174 (Nat.le_of_ble_eq_true rfl)
theorem r_X3_others_176 (E : ax_EN G l) : ax_Snd G l ax_Ym M_X3_others 176 (S_aload 0 177) := k_aload_n dX3_others_176 rfl
theorem r_X3_others_177 (E : ax_EN G l) : ax_Snd G l ax_Ym M_X3_others 177 (S_getf [(38, 26)] 180) := k_getf (en_F E) (ax_fes_cons (fe_386 E) ax_fes_nil) q2779 dX3_others_177
theorem r_X3_others_180 (E : ax_EN G l) : ax_Snd G l ax_Ym M_X3_others 180 (S_iload 2 181) := k_iload_n dX3_others_180 rfl
theorem r_X3_others_181 (E : ax_EN G l) : ax_Snd G l ax_Ym M_X3_others 181 (S_iload 4 183) := k_iload dX3_others_181
theorem r_X3_others_183 (E : ax_EN G l) : ax_Snd G l ax_Ym M_X3_others 183 (S_if1 (fun x => decide (x = 0)) 198 186) := k_if_eq dX3_others_183 rfl
theorem r_X3_others_186 (E : ax_EN G l) : ax_Snd G l ax_Ym M_X3_others 186 (S_aload 0 187) := k_aload_n dX3_others_186 rfl
theorem r_X3_others_187 (E : ax_EN G l) : ax_Snd G l ax_Ym M_X3_others 187 (S_getf [(38, 42)] 190) := k_getf (en_F E) (ax_fes_cons (fe_392 E) ax_fes_nil) q2795 dX3_others_187
theorem r_X3_others_190 (E : ax_EN G l) : ax_Snd G l ax_Ym M_X3_others 190 (S_aload 0 191) := k_aload_n dX3_others_190 rfl
theorem r_X3_others_191 (E : ax_EN G l) : ax_Snd G l ax_Ym M_X3_others 191 (S_getf [(38, 39)] 194) := k_getf (en_F E) (ax_fes_cons (fe_493 E) ax_fes_nil) q2792 dX3_others_191
theorem r_X3_others_194 (E : ax_EN G l) : ax_Snd G l ax_Ym M_X3_others 194 (S_iald 0 195) := k_iald (en_F E) dX3_others_194
theorem r_X3_others_195 (E : ax_EN G l) : ax_Snd G l ax_Ym M_X3_others 195 (S_goto 200) := k_goto dX3_others_195 rfl
theorem r_X3_others_198 (E : ax_EN G l) : ax_Snd G l ax_Ym M_X3_others 198 (S_push (.int (65535)) 200) := k_ldc q3014 dX3_others_198
theorem r_X3_others_200 (E : ax_EN G l) : ax_Snd G l ax_Ym M_X3_others 200 (S_iast 0 (fun x => x) 201) := k_iast (en_F E) dX3_others_200
theorem r_X3_others_201 (E : ax_EN G l) : ax_Snd G l ax_Ym M_X3_others 201 (S_aload 0 202) := k_aload_n dX3_others_201 rfl
theorem r_X3_others_202 (E : ax_EN G l) : ax_Snd G l ax_Ym M_X3_others 202 (S_dup 203) := k_dup dX3_others_202
theorem r_X3_others_203 (E : ax_EN G l) : ax_Snd G l ax_Ym M_X3_others 203 (S_getf [(38, 39)] 206) := k_getf (en_F E) (ax_fes_cons (fe_493 E) ax_fes_nil) q2792 dX3_others_203
theorem r_X3_others_206 (E : ax_EN G l) : ax_Snd G l ax_Ym M_X3_others 206 (S_iload 4 208) := k_iload dX3_others_206
theorem r_X3_others_208 (E : ax_EN G l) : ax_Snd G l ax_Ym M_X3_others 208 (S_if1 (fun x => decide (x = 0)) 215 211) := k_if_eq dX3_others_208 rfl
theorem r_X3_others_211 (E : ax_EN G l) : ax_Snd G l ax_Ym M_X3_others 211 (S_push (.int (1)) 212) := k_iconst dX3_others_211 rfl
theorem r_X3_others_212 (E : ax_EN G l) : ax_Snd G l ax_Ym M_X3_others 212 (S_goto 216) := k_goto dX3_others_212 rfl
theorem r_X3_others_215 (E : ax_EN G l) : ax_Snd G l ax_Ym M_X3_others 215 (S_push (.int (0)) 216) := k_iconst dX3_others_215 rfl
theorem r_X3_others_216 (E : ax_EN G l) : ax_Snd G l ax_Ym M_X3_others 216 (S_i2 (fun x y => x + y) 217) := k_iadd dX3_others_216
theorem r_X3_others_217 (E : ax_EN G l) : ax_Snd G l ax_Ym M_X3_others 217 (S_putf [(38, 39)] (.int) 220) := k_putf (en_F E) (en_P E) (ax_fes_cons (fe_493 E) ax_fes_nil) (ax_fps_cons (fp_494 E) ax_fps_nil) q2792 dX3_others_217
theorem r_X3_others_220 (E : ax_EN G l) : ax_Snd G l ax_Ym M_X3_others 220 (S_iload 1 221) := k_iload_n dX3_others_220 rfl
theorem r_X3_others_221 (E : ax_EN G l) : ax_Snd G l ax_Ym M_X3_others 221 (S_push (.int (25)) 223) := k_bipush dX3_others_221 rfl
theorem r_X3_others_223 (E : ax_EN G l) : ax_Snd G l ax_Ym M_X3_others 223 (S_if2 (fun x y => decide (¬ x = y)) 246 226) := k_icmp_ne dX3_others_223 rfl
theorem r_X3_others_226 (E : ax_EN G l) : ax_Snd G l ax_Ym M_X3_others 226 (S_aload 0 227) := k_aload_n dX3_others_226 rfl
theorem r_X3_others_227 (E : ax_EN G l) : ax_Snd G l ax_Ym M_X3_others 227 (S_getf [(38, 36)] 230) := k_getf (en_F E) (ax_fes_cons (fe_388 E) ax_fes_nil) q2789 dX3_others_227
theorem r_X3_others_230 (E : ax_EN G l) : ax_Snd G l ax_Ym M_X3_others 230 (S_aload 0 231) := k_aload_n dX3_others_230 rfl
theorem r_X3_others_231 (E : ax_EN G l) : ax_Snd G l ax_Ym M_X3_others 231 (S_getf [(38, 37)] 234) := k_getf (en_F E) (ax_fes_cons (fe_489 E) ax_fes_nil) q2790 dX3_others_231
theorem r_X3_others_234 (E : ax_EN G l) : ax_Snd G l ax_Ym M_X3_others 234 (S_iload 3 235) := k_iload_n dX3_others_234 rfl
theorem r_X3_others_235 (E : ax_EN G l) : ax_Snd G l ax_Ym M_X3_others 235 (S_iast 0 (fun x => x) 236) := k_iast (en_F E) dX3_others_235
theorem r_X3_others_236 (E : ax_EN G l) : ax_Snd G l ax_Ym M_X3_others 236 (S_aload 0 237) := k_aload_n dX3_others_236 rfl
theorem r_X3_others_237 (E : ax_EN G l) : ax_Snd G l ax_Ym M_X3_others 237 (S_dup 238) := k_dup dX3_others_237
theorem r_X3_others_238 (E : ax_EN G l) : ax_Snd G l ax_Ym M_X3_others 238 (S_getf [(38, 37)] 241) := k_getf (en_F E) (ax_fes_cons (fe_489 E) ax_fes_nil) q2790 dX3_others_238
theorem r_X3_others_241 (E : ax_EN G l) : ax_Snd G l ax_Ym M_X3_others 241 (S_push (.int (1)) 242) := k_iconst dX3_others_241 rfl
theorem r_X3_others_242 (E : ax_EN G l) : ax_Snd G l ax_Ym M_X3_others 242 (S_i2 (fun x y => x + y) 243) := k_iadd dX3_others_242
theorem r_X3_others_243 (E : ax_EN G l) : ax_Snd G l ax_Ym M_X3_others 243 (S_putf [(38, 37)] (.int) 246) := k_putf (en_F E) (en_P E) (ax_fes_cons (fe_489 E) ax_fes_nil) (ax_fps_cons (fp_490 E) ax_fps_nil) q2790 dX3_others_243
theorem r_X3_others_246 (E : ax_EN G l) : ax_Snd G l ax_Ym M_X3_others 246 (S_ret) := k_ret dX3_others_246 rfl
theorem mt_X3_others (E : ax_EN G l) : ax_mt G l ax_Ym (5, P_X3_others) (ax_Ym 433) := ⟨M_X3_others, yX3_others, ⟨rfl, by decide +kernel, rfl, (fun h => by cases h), Or.inl ⟨rfl, rfl⟩⟩, fun pc => (ax_sn_node (ax_sn_node (ax_sn_node (ax_sn_node (ax_sn_node (ax_sn_node (ax_sn_node (ax_sn_node (ax_sn_leaf (r_X3_others_246 E)) (ax_sn_leaf (r_X3_others_243 E))) (ax_sn_leaf (r_X3_others_242 E))) (ax_sn_node (ax_sn_leaf (r_X3_others_241 E)) (ax_sn_leaf (r_X3_others_238 E)))) (ax_sn_node (ax_sn_node (ax_sn_leaf (r_X3_others_237 E)) (ax_sn_leaf (r_X3_others_236 E))) (ax_sn_node (ax_sn_leaf (r_X3_others_235 E)) (ax_sn_leaf (r_X3_others_234 E))))) (ax_sn_node (ax_sn_node (ax_sn_node (ax_sn_leaf (r_X3_others_231 E)) (ax_sn_leaf (r_X3_others_230 E))) (ax_sn_node (ax_sn_leaf (r_X3_others_227 E)) (ax_sn_leaf (r_X3_others_226 E)))) (ax_sn_node (ax_sn_node (ax_sn_leaf (r_X3_others_223 E)) (ax_sn_leaf (r_X3_others_221 E))) (ax_sn_node (ax_sn_leaf (r_X3_others_220 E)) (ax_sn_leaf (r_X3_others_217 E)))))) (ax_sn_node (ax_sn_node (ax_sn_node (ax_sn_node (ax_sn_node (ax_sn_leaf (r_X3_others_216 E)) (ax_sn_leaf (r_X3_others_215 E))) (ax_sn_leaf (r_X3_others_212 E))) (ax_sn_node (ax_sn_leaf (r_X3_others_211 E)) (ax_sn_leaf (r_X3_others_208 E)))) (ax_sn_node (ax_sn_node (ax_sn_leaf (r_X3_others_206 E)) (ax_sn_leaf (r_X3_others_203 E))) (ax_sn_node (ax_sn_leaf (r_X3_others_202 E)) (ax_sn_leaf (r_X3_others_201 E))))) (ax_sn_node (ax_sn_node (ax_sn_node (ax_sn_leaf (r_X3_others_200 E)) (ax_sn_leaf (r_X3_others_198 E))) (ax_sn_node (ax_sn_leaf (r_X3_others_195 E)) (ax_sn_leaf (r_X3_others_194 E)))) (ax_sn_node (ax_sn_node (ax_sn_leaf (r_X3_others_191 E)) (ax_sn_leaf (r_X3_others_190 E))) (ax_sn_node (ax_sn_leaf (r_X3_others_187 E)) (ax_sn_leaf (r_X3_others_186 E))))))) (ax_sn_node (ax_sn_node (ax_sn_node (ax_sn_node (ax_sn_node (ax_sn_node (ax_sn_leaf (r_X3_others_183 E)) (ax_sn_leaf (r_X3_others_181 E))) (ax_sn_leaf (r_X3_others_180 E))) (ax_sn_node (ax_sn_leaf (r_X3_others_177 E)) (ax_sn_leaf (r_X3_others_176 E)))) (ax_sn_node (ax_sn_node (ax_sn_leaf (r_X3_others_174 E)) (ax_sn_leaf (r_X3_others_173 E))) (ax_sn_node (ax_sn_leaf (r_X3_others_170 E)) (ax_sn_leaf (r_X3_others_169 E))))) (ax_sn_node (ax_sn_node (ax_sn_node (ax_sn_leaf (r_X3_others_166 E)) (ax_sn_leaf (r_X3_others_163 E))) (ax_sn_node (ax_sn_leaf (r_X3_others_162 E)) (ax_sn_leaf (r_X3_others_159 E)))) (ax_sn_node (ax_sn_node (ax_sn_leaf (r_X3_others_158 E)) (ax_sn_leaf (r_X3_others_155 E))) (ax_sn_node (ax_sn_leaf (r_X3_others_153 E)) (ax_sn_leaf (r_X3_others_152 E)))))) (ax_sn_node (ax_sn_node (ax_sn_node (ax_sn_node (ax_sn_leaf (r_X3_others_149 E)) (ax_sn_leaf (r_X3_others_148 E))) (ax_sn_node (ax_sn_leaf (r_X3_others_147 E)) (ax_sn_leaf (r_X3_others_144 E)))) (ax_sn_node (ax_sn_node (ax_sn_leaf (r_X3_others_143 E)) (ax_sn_leaf (r_X3_others_142 E))) (ax_sn_node (ax_sn_leaf (r_X3_others_139 E)) (ax_sn_leaf (r_X3_others_137 E))))) (ax_sn_node (ax_sn_node (ax_sn_node (ax_sn_leaf (r_X3_others_136 E)) (ax_sn_leaf (r_X3_others_133 E))) (ax_sn_node (ax_sn_leaf (r_X3_others_132 E)) (ax_sn_leaf (r_X3_others_129 E)))) (ax_sn_node (ax_sn_node (ax_sn_leaf (r_X3_others_128 E)) (ax_sn_leaf (r_X3_others_125 E))) (ax_sn_node (ax_sn_leaf (r_X3_others_122 E)) (ax_sn_leaf (r_X3_others_121 E)))))))) (ax_sn_node (ax_sn_node (ax_sn_node (ax_sn_node (ax_sn_node (ax_sn_node (ax_sn_node (ax_sn_leaf (r_X3_others_118 E)) (ax_sn_leaf (r_X3_others_116 E))) (ax_sn_leaf (r_X3_others_115 E))) (ax_sn_node (ax_sn_leaf (r_X3_others_112 E)) (ax_sn_leaf (r_X3_others_110 E)))) (ax_sn_node (ax_sn_node (ax_sn_leaf (r_X3_others_109 E)) (ax_sn_leaf (r_X3_others_108 E))) (ax_sn_node (ax_sn_leaf (r_X3_others_105 E)) (ax_sn_leaf (r_X3_others_104 E))))) (ax_sn_node (ax_sn_node (ax_sn_node (ax_sn_leaf (r_X3_others_103 E)) (ax_sn_leaf (r_X3_others_100 E))) (ax_sn_node (ax_sn_leaf (r_X3_others_99 E)) (ax_sn_leaf (r_X3_others_96 E)))) (ax_sn_node (ax_sn_node (ax_sn_leaf (r_X3_others_93 E)) (ax_sn_leaf (r_X3_others_92 E))) (ax_sn_node (ax_sn_leaf (r_X3_others_89 E)) (ax_sn_leaf (r_X3_others_86 E)))))) (ax_sn_node (ax_sn_node (ax_sn_node (ax_sn_node (ax_sn_node (ax_sn_leaf (r_X3_others_85 E)) (ax_sn_leaf (r_X3_others_82 E))) (ax_sn_leaf (r_X3_others_80 E))) (ax_sn_node (ax_sn_leaf (r_X3_others_79 E)) (ax_sn_leaf (r_X3_others_76 E)))) (ax_sn_node (ax_sn_node (ax_sn_leaf (r_X3_others_75 E)) (ax_sn_leaf (r_X3_others_74 E))) (ax_sn_node (ax_sn_leaf (r_X3_others_73 E)) (ax_sn_leaf (r_X3_others_70 E))))) (ax_sn_node (ax_sn_node (ax_sn_node (ax_sn_leaf (r_X3_others_69 E)) (ax_sn_leaf (r_X3_others_68 E))) (ax_sn_node (ax_sn_leaf (r_X3_others_65 E)) (ax_sn_leaf (r_X3_others_63 E)))) (ax_sn_node (ax_sn_node (ax_sn_leaf (r_X3_others_62 E)) (ax_sn_leaf (r_X3_others_61 E))) (ax_sn_node (ax_sn_leaf (r_X3_others_58 E)) (ax_sn_leaf (r_X3_others_57 E))))))) (ax_sn_node (ax_sn_node (ax_sn_node (ax_sn_node (ax_sn_node (ax_sn_node (ax_sn_leaf (r_X3_others_56 E)) (ax_sn_leaf (r_X3_others_53 E))) (ax_sn_leaf (r_X3_others_50 E))) (ax_sn_node (ax_sn_leaf (r_X3_others_49 E)) (ax_sn_leaf (r_X3_others_48 E)))) (ax_sn_node (ax_sn_node (ax_sn_leaf (r_X3_others_45 E)) (ax_sn_leaf (r_X3_others_44 E))) (ax_sn_node (ax_sn_leaf (r_X3_others_41 E)) (ax_sn_leaf (r_X3_others_40 E))))) (ax_sn_node (ax_sn_node (ax_sn_node (ax_sn_leaf (r_X3_others_37 E)) (ax_sn_leaf (r_X3_others_36 E))) (ax_sn_node (ax_sn_leaf (r_X3_others_35 E)) (ax_sn_leaf (r_X3_others_34 E)))) (ax_sn_node (ax_sn_node (ax_sn_leaf (r_X3_others_33 E)) (ax_sn_leaf (r_X3_others_32 E))) (ax_sn_node (ax_sn_leaf (r_X3_others_30 E)) (ax_sn_leaf (r_X3_others_29 E)))))) (ax_sn_node (ax_sn_node (ax_sn_node (ax_sn_node (ax_sn_leaf (r_X3_others_26 E)) (ax_sn_leaf (r_X3_others_25 E))) (ax_sn_node (ax_sn_leaf (r_X3_others_22 E)) (ax_sn_leaf (r_X3_others_21 E)))) (ax_sn_node (ax_sn_node (ax_sn_leaf (r_X3_others_18 E)) (ax_sn_leaf (r_X3_others_17 E))) (ax_sn_node (ax_sn_leaf (r_X3_others_16 E)) (ax_sn_leaf (r_X3_others_15 E))))) (ax_sn_node (ax_sn_node (ax_sn_node (ax_sn_leaf (r_X3_others_13 E)) (ax_sn_leaf (r_X3_others_12 E))) (ax_sn_node (ax_sn_leaf (r_X3_others_10 E)) (ax_sn_leaf (r_X3_others_7 E)))) (ax_sn_node (ax_sn_node (ax_sn_leaf (r_X3_others_6 E)) (ax_sn_leaf (r_X3_others_3 E))) (ax_sn_node (ax_sn_leaf (r_X3_others_1 E)) (ax_sn_leaf (r_X3_others_0 E)))))))))⟩
theorem r_X3_calls_0 (E : ax_EN G l) : ax_Snd G l ax_Ym M_X3_calls 0 (S_aload 0 1) := k_aload_n dX3_calls_0 rfl
theorem r_X3_calls_1 (E : ax_EN G l) : ax_Snd G l ax_Ym M_X3_calls 1 (S_getf [(38, 50)] 4) := k_getf (en_F E) (ax_fes_cons (fe_402 E) ax_fes_nil) q2803 dX3_calls_1
theorem r_X3_calls_4 (E : ax_EN G l) : ax_Snd G l ax_Ym M_X3_calls 4 (S_aload 0 5) := k_aload_n dX3_calls_4 rfl
theorem r_X3_calls_5 (E : ax_EN G l) : ax_Snd G l ax_Ym M_X3_calls 5 (S_getf [(38, 26)] 8) := k_getf (en_F E) (ax_fes_cons (fe_386 E) ax_fes_nil) q2779 dX3_calls_5
theorem r_X3_calls_8 (E : ax_EN G l) : ax_Snd G l ax_Ym M_X3_calls 8 (S_push (.int (0)) 9) := k_iconst dX3_calls_8 rfl
theorem r_X3_calls_9 (E : ax_EN G l) : ax_Snd G l ax_Ym M_X3_calls 9 (S_iald 0 10) := k_iald (en_F E) dX3_calls_9
theorem r_X3_calls_10 (E : ax_EN G l) : ax_Snd G l ax_Ym M_X3_calls 10 (S_is 435 2 13 hd_0) := k_is (en_F E) (ax_ok0 E rfl) ((ev_s y_X3_find q3225 q3226 q126 q3227 nm_X3_find (Nat.le_of_ble_eq_true rfl) dX3_calls_10) : ax_EvS G l ax_Ym M_X3_calls 10 435 2 3)
theorem r_X3_calls_13 (E : ax_EN G l) : ax_Snd G l ax_Ym M_X3_calls 13 (S_istore 2 14) := k_istore_n dX3_calls_13 rfl (Nat.le_of_ble_eq_true rfl)
theorem r_X3_calls_14 (E : ax_EN G l) : ax_Snd G l ax_Ym M_X3_calls 14 (S_aload 0 15) := k_aload_n dX3_calls_14 rfl
theorem r_X3_calls_15 (E : ax_EN G l) : ax_Snd G l ax_Ym M_X3_calls 15 (S_iload 1 16) := k_iload_n dX3_calls_15 rfl
theorem r_X3_calls_16 (E : ax_EN G l) : ax_Snd G l ax_Ym M_X3_calls 16 (S_iload 2 17) := k_iload_n dX3_calls_16 rfl
theorem r_X3_calls_17 (E : ax_EN G l) : ax_Snd G l ax_Ym M_X3_calls 17 (S_iv [(38, 436)] 2 20 hd_0) := k_iv (en_F E) (ax_ok0 E rfl) (ax_Evs_cons ((ev_v (en_c E (k := 38) rfl) rfl y_X3_resultOf q3228 q3230 qs98 q126 q3231 nm_X3_resultOf (Nat.le_of_ble_eq_true rfl) dX3_calls_17) : ax_EvV G l ax_Ym M_X3_calls 17 2 3 38 436) ax_Evs_nil)
theorem r_X3_calls_20 (E : ax_EN G l) : ax_Snd G l ax_Ym M_X3_calls 20 (S_istore 3 21) := k_istore_n dX3_calls_20 rfl (Nat.le_of_ble_eq_true rfl)
theorem r_X3_calls_21 (E : ax_EN G l) : ax_Snd G l ax_Ym M_X3_calls 21 (S_iload 3 22) := k_iload_n dX3_calls_21 rfl
theorem r_X3_calls_22 (E : ax_EN G l) : ax_Snd G l ax_Ym M_X3_calls 22 (S_if1 (fun x => decide (¬ x = 0)) 56 25) := k_if_ne dX3_calls_22 rfl
theorem r_X3_calls_25 (E : ax_EN G l) : ax_Snd G l ax_Ym M_X3_calls 25 (S_iload 1 26) := k_iload_n dX3_calls_25 rfl
theorem r_X3_calls_26 (E : ax_EN G l) : ax_Snd G l ax_Ym M_X3_calls 26 (S_push (.int (3)) 27) := k_iconst dX3_calls_26 rfl
theorem r_X3_calls_27 (E : ax_EN G l) : ax_Snd G l ax_Ym M_X3_calls 27 (S_if2 (fun x y => decide (x = y)) 56 30) := k_icmp_eq dX3_calls_27 rfl
theorem r_X3_calls_30 (E : ax_EN G l) : ax_Snd G l ax_Ym M_X3_calls 30 (S_iload 1 31) := k_iload_n dX3_calls_30 rfl
theorem r_X3_calls_31 (E : ax_EN G l) : ax_Snd G l ax_Ym M_X3_calls 31 (S_push (.int (4)) 32) := k_iconst dX3_calls_31 rfl
theorem r_X3_calls_32 (E : ax_EN G l) : ax_Snd G l ax_Ym M_X3_calls 32 (S_if2 (fun x y => decide (x = y)) 56 35) := k_icmp_eq dX3_calls_32 rfl
theorem r_X3_calls_35 (E : ax_EN G l) : ax_Snd G l ax_Ym M_X3_calls 35 (S_iload 1 36) := k_iload_n dX3_calls_35 rfl
theorem r_X3_calls_36 (E : ax_EN G l) : ax_Snd G l ax_Ym M_X3_calls 36 (S_push (.int (6)) 38) := k_bipush dX3_calls_36 rfl
theorem r_X3_calls_38 (E : ax_EN G l) : ax_Snd G l ax_Ym M_X3_calls 38 (S_if2 (fun x y => decide (¬ x = y)) 60 41) := k_icmp_ne dX3_calls_38 rfl
theorem r_X3_calls_41 (E : ax_EN G l) : ax_Snd G l ax_Ym M_X3_calls 41 (S_aload 0 42) := k_aload_n dX3_calls_41 rfl
theorem r_X3_calls_42 (E : ax_EN G l) : ax_Snd G l ax_Ym M_X3_calls 42 (S_getf [(38, 26)] 45) := k_getf (en_F E) (ax_fes_cons (fe_386 E) ax_fes_nil) q2779 dX3_calls_42
theorem r_X3_calls_45 (E : ax_EN G l) : ax_Snd G l ax_Ym M_X3_calls 45 (S_push (.int (0)) 46) := k_iconst dX3_calls_45 rfl
theorem r_X3_calls_46 (E : ax_EN G l) : ax_Snd G l ax_Ym M_X3_calls 46 (S_iald 0 47) := k_iald (en_F E) dX3_calls_46
theorem r_X3_calls_47 (E : ax_EN G l) : ax_Snd G l ax_Ym M_X3_calls 47 (S_aload 0 48) := k_aload_n dX3_calls_47 rfl
theorem r_X3_calls_48 (E : ax_EN G l) : ax_Snd G l ax_Ym M_X3_calls 48 (S_getf [(38, 26)] 51) := k_getf (en_F E) (ax_fes_cons (fe_386 E) ax_fes_nil) q2779 dX3_calls_48
theorem r_X3_calls_51 (E : ax_EN G l) : ax_Snd G l ax_Ym M_X3_calls 51 (S_push (.int (1)) 52) := k_iconst dX3_calls_51 rfl
theorem r_X3_calls_52 (E : ax_EN G l) : ax_Snd G l ax_Ym M_X3_calls 52 (S_iald 0 53) := k_iald (en_F E) dX3_calls_52
theorem r_X3_calls_53 (E : ax_EN G l) : ax_Snd G l ax_Ym M_X3_calls 53 (S_if2 (fun x y => decide (¬ x = y)) 60 56) := k_icmp_ne dX3_calls_53 rfl
theorem r_X3_calls_56 (E : ax_EN G l) : ax_Snd G l ax_Ym M_X3_calls 56 (S_push (.int (1)) 57) := k_iconst dX3_calls_56 rfl
theorem r_X3_calls_57 (E : ax_EN G l) : ax_Snd G l ax_Ym M_X3_calls 57 (S_goto 61) := k_goto dX3_calls_57 rfl
theorem r_X3_calls_60 (E : ax_EN G l) : ax_Snd G l ax_Ym M_X3_calls 60 (S_push (.int (0)) 61) := k_iconst dX3_calls_60 rfl
theorem r_X3_calls_61 (E : ax_EN G l) : ax_Snd G l ax_Ym M_X3_calls 61 (S_istore 4 63) := k_istore dX3_calls_61 (Nat.le_of_ble_eq_true rfl)
theorem r_X3_calls_63 (E : ax_EN G l) : ax_Snd G l ax_Ym M_X3_calls 63 (S_iload 4 65) := k_iload dX3_calls_63
theorem r_X3_calls_65 (E : ax_EN G l) : ax_Snd G l ax_Ym M_X3_calls 65 (S_if1 (fun x => decide (x = 0)) 160 68) := k_if_eq dX3_calls_65 rfl
theorem r_X3_calls_68 (E : ax_EN G l) : ax_Snd G l ax_Ym M_X3_calls 68 (S_iload 3 69) := k_iload_n dX3_calls_68 rfl
theorem r_X3_calls_69 (E : ax_EN G l) : ax_Snd G l ax_Ym M_X3_calls 69 (S_if1 (fun x => decide (¬ x = 0)) 116 72) := k_if_ne dX3_calls_69 rfl
theorem r_X3_calls_72 (E : ax_EN G l) : ax_Snd G l ax_Ym M_X3_calls 72 (S_iload 1 73) := k_iload_n dX3_calls_72 rfl
theorem r_X3_calls_73 (E : ax_EN G l) : ax_Snd G l ax_Ym M_X3_calls 73 (S_push (.int (3)) 74) := k_iconst dX3_calls_73 rfl
theorem r_X3_calls_74 (E : ax_EN G l) : ax_Snd G l ax_Ym M_X3_calls 74 (S_if2 (fun x y => decide (¬ x = y)) 116 77) := k_icmp_ne dX3_calls_74 rfl
theorem r_X3_calls_77 (E : ax_EN G l) : ax_Snd G l ax_Ym M_X3_calls 77 (S_aload 0 78) := k_aload_n dX3_calls_77 rfl
theorem r_X3_calls_78 (E : ax_EN G l) : ax_Snd G l ax_Ym M_X3_calls 78 (S_getf [(38, 26)] 81) := k_getf (en_F E) (ax_fes_cons (fe_386 E) ax_fes_nil) q2779 dX3_calls_78
theorem r_X3_calls_81 (E : ax_EN G l) : ax_Snd G l ax_Ym M_X3_calls 81 (S_push (.int (2)) 82) := k_iconst dX3_calls_81 rfl
theorem r_X3_calls_82 (E : ax_EN G l) : ax_Snd G l ax_Ym M_X3_calls 82 (S_aload 0 83) := k_aload_n dX3_calls_82 rfl
theorem r_X3_calls_83 (E : ax_EN G l) : ax_Snd G l ax_Ym M_X3_calls 83 (S_getf [(38, 50)] 86) := k_getf (en_F E) (ax_fes_cons (fe_402 E) ax_fes_nil) q2803 dX3_calls_83
theorem r_X3_calls_86 (E : ax_EN G l) : ax_Snd G l ax_Ym M_X3_calls 86 (S_push (.int (8)) 88) := k_bipush dX3_calls_86 rfl
theorem r_X3_calls_88 (E : ax_EN G l) : ax_Snd G l ax_Ym M_X3_calls 88 (S_aload 0 89) := k_aload_n dX3_calls_88 rfl
theorem r_X3_calls_89 (E : ax_EN G l) : ax_Snd G l ax_Ym M_X3_calls 89 (S_aload 0 90) := k_aload_n dX3_calls_89 rfl
theorem r_X3_calls_90 (E : ax_EN G l) : ax_Snd G l ax_Ym M_X3_calls 90 (S_getf [(38, 50)] 93) := k_getf (en_F E) (ax_fes_cons (fe_402 E) ax_fes_nil) q2803 dX3_calls_90
theorem r_X3_calls_93 (E : ax_EN G l) : ax_Snd G l ax_Ym M_X3_calls 93 (S_iload 2 94) := k_iload_n dX3_calls_93 rfl
theorem r_X3_calls_94 (E : ax_EN G l) : ax_Snd G l ax_Ym M_X3_calls 94 (S_aload 0 95) := k_aload_n dX3_calls_94 rfl
theorem r_X3_calls_95 (E : ax_EN G l) : ax_Snd G l ax_Ym M_X3_calls 95 (S_getf [(38, 26)] 98) := k_getf (en_F E) (ax_fes_cons (fe_386 E) ax_fes_nil) q2779 dX3_calls_95
theorem r_X3_calls_98 (E : ax_EN G l) : ax_Snd G l ax_Ym M_X3_calls 98 (S_push (.int (1)) 99) := k_iconst dX3_calls_98 rfl
theorem r_X3_calls_99 (E : ax_EN G l) : ax_Snd G l ax_Ym M_X3_calls 99 (S_iald 0 100) := k_iald (en_F E) dX3_calls_99
theorem r_X3_calls_100 (E : ax_EN G l) : ax_Snd G l ax_Ym M_X3_calls 100 (S_iv [(38, 439)] 3 103 hd_0) := k_iv (en_F E) (ax_ok0 E rfl) (ax_Evs_cons ((ev_v (en_c E (k := 38) rfl) rfl y_X3_blockOf q3239 q3241 qs100 q126 q3242 nm_X3_blockOf (Nat.le_of_ble_eq_true rfl) dX3_calls_100) : ax_EvV G l ax_Ym M_X3_calls 100 3 3 38 439) ax_Evs_nil)
theorem r_X3_calls_103 (E : ax_EN G l) : ax_Snd G l ax_Ym M_X3_calls 103 (S_i2 (fun x y => x * y) 104) := k_imul dX3_calls_103
theorem r_X3_calls_104 (E : ax_EN G l) : ax_Snd G l ax_Ym M_X3_calls 104 (S_aload 0 105) := k_aload_n dX3_calls_104 rfl
theorem r_X3_calls_105 (E : ax_EN G l) : ax_Snd G l ax_Ym M_X3_calls 105 (S_getf [(38, 26)] 108) := k_getf (en_F E) (ax_fes_cons (fe_386 E) ax_fes_nil) q2779 dX3_calls_105
theorem r_X3_calls_108 (E : ax_EN G l) : ax_Snd G l ax_Ym M_X3_calls 108 (S_push (.int (1)) 109) := k_iconst dX3_calls_108 rfl
theorem r_X3_calls_109 (E : ax_EN G l) : ax_Snd G l ax_Ym M_X3_calls 109 (S_iald 0 110) := k_iald (en_F E) dX3_calls_109
theorem r_X3_calls_110 (E : ax_EN G l) : ax_Snd G l ax_Ym M_X3_calls 110 (S_push (.int (8)) 112) := k_bipush dX3_calls_110 rfl
theorem r_X3_calls_112 (E : ax_EN G l) : ax_Snd G l ax_Ym M_X3_calls 112 (S_id (fun x y => x - x / y * y) 113) := k_irem dX3_calls_112
theorem r_X3_calls_113 (E : ax_EN G l) : ax_Snd G l ax_Ym M_X3_calls 113 (S_i2 (fun x y => x + y) 114) := k_iadd dX3_calls_113
theorem r_X3_calls_114 (E : ax_EN G l) : ax_Snd G l ax_Ym M_X3_calls 114 (S_iald 0 115) := k_iald (en_F E) dX3_calls_114
theorem r_X3_calls_115 (E : ax_EN G l) : ax_Snd G l ax_Ym M_X3_calls 115 (S_iast 0 (fun x => x) 116) := k_iast (en_F E) dX3_calls_115
theorem r_X3_calls_116 (E : ax_EN G l) : ax_Snd G l ax_Ym M_X3_calls 116 (S_iload 3 117) := k_iload_n dX3_calls_116 rfl
theorem r_X3_calls_117 (E : ax_EN G l) : ax_Snd G l ax_Ym M_X3_calls 117 (S_if1 (fun x => decide (¬ x = 0)) 142 120) := k_if_ne dX3_calls_117 rfl
theorem r_X3_calls_120 (E : ax_EN G l) : ax_Snd G l ax_Ym M_X3_calls 120 (S_iload 1 121) := k_iload_n dX3_calls_120 rfl
theorem r_X3_calls_121 (E : ax_EN G l) : ax_Snd G l ax_Ym M_X3_calls 121 (S_push (.int (4)) 122) := k_iconst dX3_calls_121 rfl
theorem r_X3_calls_122 (E : ax_EN G l) : ax_Snd G l ax_Ym M_X3_calls 122 (S_if2 (fun x y => decide (¬ x = y)) 142 125) := k_icmp_ne dX3_calls_122 rfl
theorem r_X3_calls_125 (E : ax_EN G l) : ax_Snd G l ax_Ym M_X3_calls 125 (S_aload 0 126) := k_aload_n dX3_calls_125 rfl
theorem r_X3_calls_126 (E : ax_EN G l) : ax_Snd G l ax_Ym M_X3_calls 126 (S_getf [(38, 26)] 129) := k_getf (en_F E) (ax_fes_cons (fe_386 E) ax_fes_nil) q2779 dX3_calls_126
theorem r_X3_calls_129 (E : ax_EN G l) : ax_Snd G l ax_Ym M_X3_calls 129 (S_push (.int (1)) 130) := k_iconst dX3_calls_129 rfl
theorem r_X3_calls_130 (E : ax_EN G l) : ax_Snd G l ax_Ym M_X3_calls 130 (S_aload 0 131) := k_aload_n dX3_calls_130 rfl
theorem r_X3_calls_131 (E : ax_EN G l) : ax_Snd G l ax_Ym M_X3_calls 131 (S_getf [(38, 50)] 134) := k_getf (en_F E) (ax_fes_cons (fe_402 E) ax_fes_nil) q2803 dX3_calls_131
theorem r_X3_calls_134 (E : ax_EN G l) : ax_Snd G l ax_Ym M_X3_calls 134 (S_iload 2 135) := k_iload_n dX3_calls_134 rfl
theorem r_X3_calls_135 (E : ax_EN G l) : ax_Snd G l ax_Ym M_X3_calls 135 (S_is 415 1 138 hd_0) := k_is (en_F E) (ax_ok0 E rfl) ((ev_s y_X3_entry q3147 q3148 q126 q3149 nm_X3_entry (Nat.le_of_ble_eq_true rfl) dX3_calls_135) : ax_EvS G l ax_Ym M_X3_calls 135 415 1 3)
theorem r_X3_calls_138 (E : ax_EN G l) : ax_Snd G l ax_Ym M_X3_calls 138 (S_push (.int (1)) 139) := k_iconst dX3_calls_138 rfl
theorem r_X3_calls_139 (E : ax_EN G l) : ax_Snd G l ax_Ym M_X3_calls 139 (S_i2 (fun x y => x + y) 140) := k_iadd dX3_calls_139
theorem r_X3_calls_140 (E : ax_EN G l) : ax_Snd G l ax_Ym M_X3_calls 140 (S_iald 0 141) := k_iald (en_F E) dX3_calls_140
theorem r_X3_calls_141 (E : ax_EN G l) : ax_Snd G l ax_Ym M_X3_calls 141 (S_iast 0 (fun x => x) 142) := k_iast (en_F E) dX3_calls_141
theorem r_X3_calls_142 (E : ax_EN G l) : ax_Snd G l ax_Ym M_X3_calls 142 (S_aload 0 143) := k_aload_n dX3_calls_142 rfl
theorem r_X3_calls_143 (E : ax_EN G l) : ax_Snd G l ax_Ym M_X3_calls 143 (S_getf [(38, 26)] 146) := k_getf (en_F E) (ax_fes_cons (fe_386 E) ax_fes_nil) q2779 dX3_calls_143
theorem r_X3_calls_146 (E : ax_EN G l) : ax_Snd G l ax_Ym M_X3_calls 146 (S_push (.int (3)) 147) := k_iconst dX3_calls_146 rfl
theorem r_X3_calls_147 (E : ax_EN G l) : ax_Snd G l ax_Ym M_X3_calls 147 (S_iload 3 148) := k_iload_n dX3_calls_147 rfl
theorem r_X3_calls_148 (E : ax_EN G l) : ax_Snd G l ax_Ym M_X3_calls 148 (S_iast 0 (fun x => x) 149) := k_iast (en_F E) dX3_calls_148
theorem r_X3_calls_149 (E : ax_EN G l) : ax_Snd G l ax_Ym M_X3_calls 149 (S_aload 0 150) := k_aload_n dX3_calls_149 rfl
theorem r_X3_calls_150 (E : ax_EN G l) : ax_Snd G l ax_Ym M_X3_calls 150 (S_dup 151) := k_dup dX3_calls_150
theorem r_X3_calls_151 (E : ax_EN G l) : ax_Snd G l ax_Ym M_X3_calls 151 (S_getf [(38, 27)] 154) := k_getf (en_F E) (ax_fes_cons (fe_469 E) ax_fes_nil) q2780 dX3_calls_151
theorem r_X3_calls_154 (E : ax_EN G l) : ax_Snd G l ax_Ym M_X3_calls 154 (S_push (.int (2)) 155) := k_iconst dX3_calls_154 rfl
theorem r_X3_calls_155 (E : ax_EN G l) : ax_Snd G l ax_Ym M_X3_calls 155 (S_i2 (fun x y => x + y) 156) := k_iadd dX3_calls_155
theorem r_X3_calls_156 (E : ax_EN G l) : ax_Snd G l ax_Ym M_X3_calls 156 (S_putf [(38, 27)] (.int) 159) := k_putf (en_F E) (en_P E) (ax_fes_cons (fe_469 E) ax_fes_nil) (ax_fps_cons (fp_470 E) ax_fps_nil) q2780 dX3_calls_156
theorem r_X3_calls_159 (E : ax_EN G l) : ax_Snd G l ax_Ym M_X3_calls 159 (S_ret) := k_ret dX3_calls_159 rfl
theorem r_X3_calls_160 (E : ax_EN G l) : ax_Snd G l ax_Ym M_X3_calls 160 (S_push (.int (0)) 161) := k_iconst dX3_calls_160 rfl
theorem r_X3_calls_161 (E : ax_EN G l) : ax_Snd G l ax_Ym M_X3_calls 161 (S_istore 5 163) := k_istore dX3_calls_161 (Nat.le_of_ble_eq_true rfl)
theorem r_X3_calls_163 (E : ax_EN G l) : ax_Snd G l ax_Ym M_X3_calls 163 (S_iload 5 165) := k_iload dX3_calls_163
theorem r_X3_calls_165 (E : ax_EN G l) : ax_Snd G l ax_Ym M_X3_calls 165 (S_push (.int (256)) 168) := k_sipush dX3_calls_165 rfl
theorem r_X3_calls_168 (E : ax_EN G l) : ax_Snd G l ax_Ym M_X3_calls 168 (S_if2 (fun x y => decide (y ≤ x)) 191 171) := k_icmp_ge dX3_calls_168 rfl
theorem r_X3_calls_171 (E : ax_EN G l) : ax_Snd G l ax_Ym M_X3_calls 171 (S_aload 0 172) := k_aload_n dX3_calls_171 rfl
theorem r_X3_calls_172 (E : ax_EN G l) : ax_Snd G l ax_Ym M_X3_calls 172 (S_getf [(38, 51)] 175) := k_getf (en_F E) (ax_fes_cons (fe_404 E) ax_fes_nil) q2804 dX3_calls_172
theorem r_X3_calls_175 (E : ax_EN G l) : ax_Snd G l ax_Ym M_X3_calls 175 (S_iload 5 177) := k_iload dX3_calls_175
theorem r_X3_calls_177 (E : ax_EN G l) : ax_Snd G l ax_Ym M_X3_calls 177 (S_aload 0 178) := k_aload_n dX3_calls_177 rfl
theorem r_X3_calls_178 (E : ax_EN G l) : ax_Snd G l ax_Ym M_X3_calls 178 (S_getf [(38, 50)] 181) := k_getf (en_F E) (ax_fes_cons (fe_402 E) ax_fes_nil) q2803 dX3_calls_178
theorem r_X3_calls_181 (E : ax_EN G l) : ax_Snd G l ax_Ym M_X3_calls 181 (S_iload 5 183) := k_iload dX3_calls_181
theorem r_X3_calls_183 (E : ax_EN G l) : ax_Snd G l ax_Ym M_X3_calls 183 (S_iald 0 184) := k_iald (en_F E) dX3_calls_183
theorem r_X3_calls_184 (E : ax_EN G l) : ax_Snd G l ax_Ym M_X3_calls 184 (S_iast 0 (fun x => x) 185) := k_iast (en_F E) dX3_calls_184
theorem r_X3_calls_185 (E : ax_EN G l) : ax_Snd G l ax_Ym M_X3_calls 185 (S_iinc 5 (1) 188) := k_iinc dX3_calls_185 rfl (Nat.le_of_ble_eq_true rfl)
theorem r_X3_calls_188 (E : ax_EN G l) : ax_Snd G l ax_Ym M_X3_calls 188 (S_goto 163) := k_goto dX3_calls_188 rfl
theorem r_X3_calls_191 (E : ax_EN G l) : ax_Snd G l ax_Ym M_X3_calls 191 (S_iload 1 192) := k_iload_n dX3_calls_191 rfl
theorem r_X3_calls_192 (E : ax_EN G l) : ax_Snd G l ax_Ym M_X3_calls 192 (S_if1 (fun x => decide (¬ x = 0)) 202 195) := k_if_ne dX3_calls_192 rfl
theorem r_X3_calls_195 (E : ax_EN G l) : ax_Snd G l ax_Ym M_X3_calls 195 (S_aload 0 196) := k_aload_n dX3_calls_195 rfl
theorem r_X3_calls_196 (E : ax_EN G l) : ax_Snd G l ax_Ym M_X3_calls 196 (S_iv [(38, 440)] 0 199 hd_0) := k_iv (en_F E) (ax_ok0 E rfl) (ax_Evs_cons ((ev_v (en_c E (k := 38) rfl) rfl y_X3_makesFile q3243 q3245 qs101 q126 q3246 nm_X3_makesFile (Nat.le_of_ble_eq_true rfl) dX3_calls_196) : ax_EvV G l ax_Ym M_X3_calls 196 0 3 38 440) ax_Evs_nil)
theorem r_X3_calls_199 (E : ax_EN G l) : ax_Snd G l ax_Ym M_X3_calls 199 (S_goto 246) := k_goto dX3_calls_199 rfl
theorem r_X3_calls_202 (E : ax_EN G l) : ax_Snd G l ax_Ym M_X3_calls 202 (S_iload 1 203) := k_iload_n dX3_calls_202 rfl
theorem r_X3_calls_203 (E : ax_EN G l) : ax_Snd G l ax_Ym M_X3_calls 203 (S_push (.int (1)) 204) := k_iconst dX3_calls_203 rfl
theorem r_X3_calls_204 (E : ax_EN G l) : ax_Snd G l ax_Ym M_X3_calls 204 (S_if2 (fun x y => decide (¬ x = y)) 215 207) := k_icmp_ne dX3_calls_204 rfl
theorem r_X3_calls_207 (E : ax_EN G l) : ax_Snd G l ax_Ym M_X3_calls 207 (S_aload 0 208) := k_aload_n dX3_calls_207 rfl
theorem r_X3_calls_208 (E : ax_EN G l) : ax_Snd G l ax_Ym M_X3_calls 208 (S_iload 2 209) := k_iload_n dX3_calls_208 rfl
theorem r_X3_calls_209 (E : ax_EN G l) : ax_Snd G l ax_Ym M_X3_calls 209 (S_iv [(38, 442)] 1 212 hd_0) := k_iv (en_F E) (ax_ok0 E rfl) (ax_Evs_cons ((ev_v (en_c E (k := 38) rfl) rfl y_X3_appends q3250 q3252 qs102 q126 q3253 nm_X3_appends (Nat.le_of_ble_eq_true rfl) dX3_calls_209) : ax_EvV G l ax_Ym M_X3_calls 209 1 3 38 442) ax_Evs_nil)
theorem r_X3_calls_212 (E : ax_EN G l) : ax_Snd G l ax_Ym M_X3_calls 212 (S_goto 246) := k_goto dX3_calls_212 rfl
theorem r_X3_calls_215 (E : ax_EN G l) : ax_Snd G l ax_Ym M_X3_calls 215 (S_iload 1 216) := k_iload_n dX3_calls_215 rfl
theorem r_X3_calls_216 (E : ax_EN G l) : ax_Snd G l ax_Ym M_X3_calls 216 (S_push (.int (2)) 217) := k_iconst dX3_calls_216 rfl
theorem r_X3_calls_217 (E : ax_EN G l) : ax_Snd G l ax_Ym M_X3_calls 217 (S_if2 (fun x y => decide (¬ x = y)) 228 220) := k_icmp_ne dX3_calls_217 rfl
theorem r_X3_calls_220 (E : ax_EN G l) : ax_Snd G l ax_Ym M_X3_calls 220 (S_aload 0 221) := k_aload_n dX3_calls_220 rfl
theorem r_X3_calls_221 (E : ax_EN G l) : ax_Snd G l ax_Ym M_X3_calls 221 (S_iload 2 222) := k_iload_n dX3_calls_221 rfl
theorem r_X3_calls_222 (E : ax_EN G l) : ax_Snd G l ax_Ym M_X3_calls 222 (S_iv [(38, 444)] 1 225 hd_0) := k_iv (en_F E) (ax_ok0 E rfl) (ax_Evs_cons ((ev_v (en_c E (k := 38) rfl) rfl y_X3_replaces q3257 q3259 qs103 q126 q3260 nm_X3_replaces (Nat.le_of_ble_eq_true rfl) dX3_calls_222) : ax_EvV G l ax_Ym M_X3_calls 222 1 3 38 444) ax_Evs_nil)
theorem r_X3_calls_225 (E : ax_EN G l) : ax_Snd G l ax_Ym M_X3_calls 225 (S_goto 246) := k_goto dX3_calls_225 rfl
theorem r_X3_calls_228 (E : ax_EN G l) : ax_Snd G l ax_Ym M_X3_calls 228 (S_iload 1 229) := k_iload_n dX3_calls_228 rfl
theorem r_X3_calls_229 (E : ax_EN G l) : ax_Snd G l ax_Ym M_X3_calls 229 (S_push (.int (5)) 230) := k_iconst dX3_calls_229 rfl
theorem r_X3_calls_230 (E : ax_EN G l) : ax_Snd G l ax_Ym M_X3_calls 230 (S_if2 (fun x y => decide (¬ x = y)) 241 233) := k_icmp_ne dX3_calls_230 rfl
theorem r_X3_calls_233 (E : ax_EN G l) : ax_Snd G l ax_Ym M_X3_calls 233 (S_aload 0 234) := k_aload_n dX3_calls_233 rfl
theorem r_X3_calls_234 (E : ax_EN G l) : ax_Snd G l ax_Ym M_X3_calls 234 (S_iload 2 235) := k_iload_n dX3_calls_234 rfl
theorem r_X3_calls_235 (E : ax_EN G l) : ax_Snd G l ax_Ym M_X3_calls 235 (S_iv [(38, 445)] 1 238 hd_0) := k_iv (en_F E) (ax_ok0 E rfl) (ax_Evs_cons ((ev_v (en_c E (k := 38) rfl) rfl y_X3_removes q3261 q3263 qs104 q126 q3264 nm_X3_removes (Nat.le_of_ble_eq_true rfl) dX3_calls_235) : ax_EvV G l ax_Ym M_X3_calls 235 1 3 38 445) ax_Evs_nil)
theorem r_X3_calls_238 (E : ax_EN G l) : ax_Snd G l ax_Ym M_X3_calls 238 (S_goto 246) := k_goto dX3_calls_238 rfl
theorem r_X3_calls_241 (E : ax_EN G l) : ax_Snd G l ax_Ym M_X3_calls 241 (S_aload 0 242) := k_aload_n dX3_calls_241 rfl
theorem r_X3_calls_242 (E : ax_EN G l) : ax_Snd G l ax_Ym M_X3_calls 242 (S_iload 2 243) := k_iload_n dX3_calls_242 rfl
theorem r_X3_calls_243 (E : ax_EN G l) : ax_Snd G l ax_Ym M_X3_calls 243 (S_iv [(38, 446)] 1 246 hd_0) := k_iv (en_F E) (ax_ok0 E rfl) (ax_Evs_cons ((ev_v (en_c E (k := 38) rfl) rfl y_X3_renames q3265 q3267 qs105 q126 q3268 nm_X3_renames (Nat.le_of_ble_eq_true rfl) dX3_calls_243) : ax_EvV G l ax_Ym M_X3_calls 243 1 3 38 446) ax_Evs_nil)
theorem r_X3_calls_246 (E : ax_EN G l) : ax_Snd G l ax_Ym M_X3_calls 246 (S_istore 5 248) := k_istore dX3_calls_246 (Nat.le_of_ble_eq_true rfl)
theorem r_X3_calls_248 (E : ax_EN G l) : ax_Snd G l ax_Ym M_X3_calls 248 (S_aload 0 249) := k_aload_n dX3_calls_248 rfl
theorem r_X3_calls_249 (E : ax_EN G l) : ax_Snd G l ax_Ym M_X3_calls 249 (S_iload 5 251) := k_iload dX3_calls_249
theorem r_X3_calls_251 (E : ax_EN G l) : ax_Snd G l ax_Ym M_X3_calls 251 (S_iv [(38, 447)] 1 254 hd_0) := k_iv (en_F E) (ax_ok0 E rfl) (ax_Evs_cons ((ev_v (en_c E (k := 38) rfl) rfl y_X3_prepares q3269 q3271 qs106 q126 q3272 nm_X3_prepares (Nat.le_of_ble_eq_true rfl) dX3_calls_251) : ax_EvV G l ax_Ym M_X3_calls 251 1 3 38 447) ax_Evs_nil)
theorem r_X3_calls_254 (E : ax_EN G l) : ax_Snd G l ax_Ym M_X3_calls 254 (S_ret) := k_ret dX3_calls_254 rfl
theorem mt_X3_calls (E : ax_EN G l) : ax_mt G l ax_Ym (6, P_X3_calls) (ax_Ym 434) := ⟨M_X3_calls, yX3_calls, ⟨rfl, by decide +kernel, rfl, (fun h => by cases h), Or.inl ⟨rfl, rfl⟩⟩, fun pc => (ax_sn_node (ax_sn_node (ax_sn_node (ax_sn_node (ax_sn_node (ax_sn_node (ax_sn_node (ax_sn_node (ax_sn_leaf (r_X3_calls_254 E)) (ax_sn_leaf (r_X3_calls_251 E))) (ax_sn_leaf (r_X3_calls_249 E))) (ax_sn_node (ax_sn_leaf (r_X3_calls_248 E)) (ax_sn_leaf (r_X3_calls_246 E)))) (ax_sn_node (ax_sn_node (ax_sn_node (ax_sn_leaf (r_X3_calls_243 E)) (ax_sn_leaf (r_X3_calls_242 E))) (ax_sn_leaf (r_X3_calls_241 E))) (ax_sn_node (ax_sn_leaf (r_X3_calls_238 E)) (ax_sn_leaf (r_X3_calls_235 E))))) (ax_sn_node (ax_sn_node (ax_sn_node (ax_sn_node (ax_sn_leaf (r_X3_calls_234 E)) (ax_sn_leaf (r_X3_calls_233 E))) (ax_sn_leaf (r_X3_calls_230 E))) (ax_sn_node (ax_sn_leaf (r_X3_calls_229 E)) (ax_sn_leaf (r_X3_calls_228 E)))) (ax_sn_node (ax_sn_node (ax_sn_leaf (r_X3_calls_225 E)) (ax_sn_leaf (r_X3_calls_222 E))) (ax_sn_node (ax_sn_leaf (r_X3_calls_221 E)) (ax_sn_leaf (r_X3_calls_220 E)))))) (ax_sn_node (ax_sn_node (ax_sn_node (ax_sn_node (ax_sn_node (ax_sn_leaf (r_X3_calls_217 E)) (ax_sn_leaf (r_X3_calls_216 E))) (ax_sn_leaf (r_X3_calls_215 E))) (ax_sn_node (ax_sn_leaf (r_X3_calls_212 E)) (ax_sn_leaf (r_X3_calls_209 E)))) (ax_sn_node (ax_sn_node (ax_sn_leaf (r_X3_calls_208 E)) (ax_sn_leaf (r_X3_calls_207 E))) (ax_sn_node (ax_sn_leaf (r_X3_calls_204 E)) (ax_sn_leaf (r_X3_calls_203 E))))) (ax_sn_node (ax_sn_node (ax_sn_node (ax_sn_node (ax_sn_leaf (r_X3_calls_202 E)) (ax_sn_leaf (r_X3_calls_199 E))) (ax_sn_leaf (r_X3_calls_196 E))) (ax_sn_node (ax_sn_leaf (r_X3_calls_195 E)) (ax_sn_leaf (r_X3_calls_192 E)))) (ax_sn_node (ax_sn_node (ax_sn_leaf (r_X3_calls_191 E)) (ax_sn_leaf (r_X3_calls_188 E))) (ax_sn_node (ax_sn_leaf (r_X3_calls_185 E)) (ax_sn_leaf (r_X3_calls_184 E))))))) (ax_sn_node (ax_sn_node (ax_sn_node (ax_sn_node (ax_sn_node (ax_sn_node (ax_sn_leaf (r_X3_calls_183 E)) (ax_sn_leaf (r_X3_calls_181 E))) (ax_sn_leaf (r_X3_calls_178 E))) (ax_sn_node (ax_sn_leaf (r_X3_calls_177 E)) (ax_sn_leaf (r_X3_calls_175 E)))) (ax_sn_node (ax_sn_node (ax_sn_leaf (r_X3_calls_172 E)) (ax_sn_leaf (r_X3_calls_171 E))) (ax_sn_node (ax_sn_leaf (r_X3_calls_168 E)) (ax_sn_leaf (r_X3_calls_165 E))))) (ax_sn_node (ax_sn_node (ax_sn_node (ax_sn_node (ax_sn_leaf (r_X3_calls_163 E)) (ax_sn_leaf (r_X3_calls_161 E))) (ax_sn_leaf (r_X3_calls_160 E))) (ax_sn_node (ax_sn_leaf (r_X3_calls_159 E)) (ax_sn_leaf (r_X3_calls_156 E)))) (ax_sn_node (ax_sn_node (ax_sn_leaf (r_X3_calls_155 E)) (ax_sn_leaf (r_X3_calls_154 E))) (ax_sn_node (ax_sn_leaf (r_X3_calls_151 E)) (ax_sn_leaf (r_X3_calls_150 E)))))) (ax_sn_node (ax_sn_node (ax_sn_node (ax_sn_node (ax_sn_node (ax_sn_leaf (r_X3_calls_149 E)) (ax_sn_leaf (r_X3_calls_148 E))) (ax_sn_leaf (r_X3_calls_147 E))) (ax_sn_node (ax_sn_leaf (r_X3_calls_146 E)) (ax_sn_leaf (r_X3_calls_143 E)))) (ax_sn_node (ax_sn_node (ax_sn_leaf (r_X3_calls_142 E)) (ax_sn_leaf (r_X3_calls_141 E))) (ax_sn_node (ax_sn_leaf (r_X3_calls_140 E)) (ax_sn_leaf (r_X3_calls_139 E))))) (ax_sn_node (ax_sn_node (ax_sn_node (ax_sn_node (ax_sn_leaf (r_X3_calls_138 E)) (ax_sn_leaf (r_X3_calls_135 E))) (ax_sn_leaf (r_X3_calls_134 E))) (ax_sn_node (ax_sn_leaf (r_X3_calls_131 E)) (ax_sn_leaf (r_X3_calls_130 E)))) (ax_sn_node (ax_sn_node (ax_sn_leaf (r_X3_calls_129 E)) (ax_sn_leaf (r_X3_calls_126 E))) (ax_sn_node (ax_sn_leaf (r_X3_calls_125 E)) (ax_sn_leaf (r_X3_calls_122 E)))))))) (ax_sn_node (ax_sn_node (ax_sn_node (ax_sn_node (ax_sn_node (ax_sn_node (ax_sn_node (ax_sn_leaf (r_X3_calls_121 E)) (ax_sn_leaf (r_X3_calls_120 E))) (ax_sn_leaf (r_X3_calls_117 E))) (ax_sn_node (ax_sn_leaf (r_X3_calls_116 E)) (ax_sn_leaf (r_X3_calls_115 E)))) (ax_sn_node (ax_sn_node (ax_sn_node (ax_sn_leaf (r_X3_calls_114 E)) (ax_sn_leaf (r_X3_calls_113 E))) (ax_sn_leaf (r_X3_calls_112 E))) (ax_sn_node (ax_sn_leaf (r_X3_calls_110 E)) (ax_sn_leaf (r_X3_calls_109 E))))) (ax_sn_node (ax_sn_node (ax_sn_node (ax_sn_node (ax_sn_leaf (r_X3_calls_108 E)) (ax_sn_leaf (r_X3_calls_105 E))) (ax_sn_leaf (r_X3_calls_104 E))) (ax_sn_node (ax_sn_leaf (r_X3_calls_103 E)) (ax_sn_leaf (r_X3_calls_100 E)))) (ax_sn_node (ax_sn_node (ax_sn_leaf (r_X3_calls_99 E)) (ax_sn_leaf (r_X3_calls_98 E))) (ax_sn_node (ax_sn_leaf (r_X3_calls_95 E)) (ax_sn_leaf (r_X3_calls_94 E)))))) (ax_sn_node (ax_sn_node (ax_sn_node (ax_sn_node (ax_sn_node (ax_sn_leaf (r_X3_calls_93 E)) (ax_sn_leaf (r_X3_calls_90 E))) (ax_sn_leaf (r_X3_calls_89 E))) (ax_sn_node (ax_sn_leaf (r_X3_calls_88 E)) (ax_sn_leaf (r_X3_calls_86 E)))) (ax_sn_node (ax_sn_node (ax_sn_leaf (r_X3_calls_83 E)) (ax_sn_leaf (r_X3_calls_82 E))) (ax_sn_node (ax_sn_leaf (r_X3_calls_81 E)) (ax_sn_leaf (r_X3_calls_78 E))))) (ax_sn_node (ax_sn_node (ax_sn_node (ax_sn_node (ax_sn_leaf (r_X3_calls_77 E)) (ax_sn_leaf (r_X3_calls_74 E))) (ax_sn_leaf (r_X3_calls_73 E))) (ax_sn_node (ax_sn_leaf (r_X3_calls_72 E)) (ax_sn_leaf (r_X3_calls_69 E)))) (ax_sn_node (ax_sn_node (ax_sn_leaf (r_X3_calls_68 E)) (ax_sn_leaf (r_X3_calls_65 E))) (ax_sn_node (ax_sn_leaf (r_X3_calls_63 E)) (ax_sn_leaf (r_X3_calls_61 E))))))) (ax_sn_node (ax_sn_node (ax_sn_node (ax_sn_node (ax_sn_node (ax_sn_node (ax_sn_leaf (r_X3_calls_60 E)) (ax_sn_leaf (r_X3_calls_57 E))) (ax_sn_leaf (r_X3_calls_56 E))) (ax_sn_node (ax_sn_leaf (r_X3_calls_53 E)) (ax_sn_leaf (r_X3_calls_52 E)))) (ax_sn_node (ax_sn_node (ax_sn_leaf (r_X3_calls_51 E)) (ax_sn_leaf (r_X3_calls_48 E))) (ax_sn_node (ax_sn_leaf (r_X3_calls_47 E)) (ax_sn_leaf (r_X3_calls_46 E))))) (ax_sn_node (ax_sn_node (ax_sn_node (ax_sn_node (ax_sn_leaf (r_X3_calls_45 E)) (ax_sn_leaf (r_X3_calls_42 E))) (ax_sn_leaf (r_X3_calls_41 E))) (ax_sn_node (ax_sn_leaf (r_X3_calls_38 E)) (ax_sn_leaf (r_X3_calls_36 E)))) (ax_sn_node (ax_sn_node (ax_sn_leaf (r_X3_calls_35 E)) (ax_sn_leaf (r_X3_calls_32 E))) (ax_sn_node (ax_sn_leaf (r_X3_calls_31 E)) (ax_sn_leaf (r_X3_calls_30 E)))))) (ax_sn_node (ax_sn_node (ax_sn_node (ax_sn_node (ax_sn_node (ax_sn_leaf (r_X3_calls_27 E)) (ax_sn_leaf (r_X3_calls_26 E))) (ax_sn_leaf (r_X3_calls_25 E))) (ax_sn_node (ax_sn_leaf (r_X3_calls_22 E)) (ax_sn_leaf (r_X3_calls_21 E)))) (ax_sn_node (ax_sn_node (ax_sn_leaf (r_X3_calls_20 E)) (ax_sn_leaf (r_X3_calls_17 E))) (ax_sn_node (ax_sn_leaf (r_X3_calls_16 E)) (ax_sn_leaf (r_X3_calls_15 E))))) (ax_sn_node (ax_sn_node (ax_sn_node (ax_sn_node (ax_sn_leaf (r_X3_calls_14 E)) (ax_sn_leaf (r_X3_calls_13 E))) (ax_sn_leaf (r_X3_calls_10 E))) (ax_sn_node (ax_sn_leaf (r_X3_calls_9 E)) (ax_sn_leaf (r_X3_calls_8 E)))) (ax_sn_node (ax_sn_node (ax_sn_leaf (r_X3_calls_5 E)) (ax_sn_leaf (r_X3_calls_4 E))) (ax_sn_node (ax_sn_leaf (r_X3_calls_1 E)) (ax_sn_leaf (r_X3_calls_0 E)))))))))⟩
theorem r_X3_find_0 (E : ax_EN G l) : ax_Snd G l ax_Ym M_X3_find 0 (S_push (.int (0)) 1) := k_iconst dX3_find_0 rfl
theorem r_X3_find_1 (E : ax_EN G l) : ax_Snd G l ax_Ym M_X3_find 1 (S_istore 2 2) := k_istore_n dX3_find_1 rfl (Nat.le_of_ble_eq_true rfl)
theorem r_X3_find_2 (E : ax_EN G l) : ax_Snd G l ax_Ym M_X3_find 2 (S_iload 2 3) := k_iload_n dX3_find_2 rfl
theorem r_X3_find_3 (E : ax_EN G l) : ax_Snd G l ax_Ym M_X3_find 3 (S_push (.int (6)) 5) := k_bipush dX3_find_3 rfl
theorem r_X3_find_5 (E : ax_EN G l) : ax_Snd G l ax_Ym M_X3_find 5 (S_if2 (fun x y => decide (y ≤ x)) 26 8) := k_icmp_ge dX3_find_5 rfl
theorem r_X3_find_8 (E : ax_EN G l) : ax_Snd G l ax_Ym M_X3_find 8 (S_aload 0 9) := k_aload_n dX3_find_8 rfl
theorem r_X3_find_9 (E : ax_EN G l) : ax_Snd G l ax_Ym M_X3_find 9 (S_iload 2 10) := k_iload_n dX3_find_9 rfl
theorem r_X3_find_10 (E : ax_EN G l) : ax_Snd G l ax_Ym M_X3_find 10 (S_is 415 1 13 hd_0) := k_is (en_F E) (ax_ok0 E rfl) ((ev_s y_X3_entry q3147 q3148 q126 q3149 nm_X3_entry (Nat.le_of_ble_eq_true rfl) dX3_find_10) : ax_EvS G l ax_Ym M_X3_find 10 415 1 3)
theorem r_X3_find_13 (E : ax_EN G l) : ax_Snd G l ax_Ym M_X3_find 13 (S_iald 0 14) := k_iald (en_F E) dX3_find_13
theorem r_X3_find_14 (E : ax_EN G l) : ax_Snd G l ax_Ym M_X3_find 14 (S_iload 1 15) := k_iload_n dX3_find_14 rfl
theorem r_X3_find_15 (E : ax_EN G l) : ax_Snd G l ax_Ym M_X3_find 15 (S_if2 (fun x y => decide (¬ x = y)) 20 18) := k_icmp_ne dX3_find_15 rfl
theorem r_X3_find_18 (E : ax_EN G l) : ax_Snd G l ax_Ym M_X3_find 18 (S_iload 2 19) := k_iload_n dX3_find_18 rfl
theorem r_X3_find_19 (E : ax_EN G l) : ax_Snd G l ax_Ym M_X3_find 19 (S_iret) := k_iret dX3_find_19 rfl
theorem r_X3_find_20 (E : ax_EN G l) : ax_Snd G l ax_Ym M_X3_find 20 (S_iinc 2 (1) 23) := k_iinc dX3_find_20 rfl (Nat.le_of_ble_eq_true rfl)
theorem r_X3_find_23 (E : ax_EN G l) : ax_Snd G l ax_Ym M_X3_find 23 (S_goto 2) := k_goto dX3_find_23 rfl
theorem r_X3_find_26 (E : ax_EN G l) : ax_Snd G l ax_Ym M_X3_find 26 (S_push (.int (-1)) 27) := k_iconst dX3_find_26 rfl
theorem r_X3_find_27 (E : ax_EN G l) : ax_Snd G l ax_Ym M_X3_find 27 (S_iret) := k_iret dX3_find_27 rfl
theorem mt_X3_find (E : ax_EN G l) : ax_mt G l ax_Ym (3, P_X3_find) (ax_Ym 435) := ⟨M_X3_find, yX3_find, ⟨rfl, by decide +kernel, rfl, (fun h => by cases h), Or.inl ⟨rfl, rfl⟩⟩, fun pc => (ax_sn_node (ax_sn_node (ax_sn_node (ax_sn_node (ax_sn_node (ax_sn_leaf (r_X3_find_27 E)) (ax_sn_leaf (r_X3_find_26 E))) (ax_sn_leaf (r_X3_find_23 E))) (ax_sn_node (ax_sn_leaf (r_X3_find_20 E)) (ax_sn_leaf (r_X3_find_19 E)))) (ax_sn_node (ax_sn_node (ax_sn_leaf (r_X3_find_18 E)) (ax_sn_leaf (r_X3_find_15 E))) (ax_sn_node (ax_sn_leaf (r_X3_find_14 E)) (ax_sn_leaf (r_X3_find_13 E))))) (ax_sn_node (ax_sn_node (ax_sn_node (ax_sn_leaf (r_X3_find_10 E)) (ax_sn_leaf (r_X3_find_9 E))) (ax_sn_node (ax_sn_leaf (r_X3_find_8 E)) (ax_sn_leaf (r_X3_find_5 E)))) (ax_sn_node (ax_sn_node (ax_sn_leaf (r_X3_find_3 E)) (ax_sn_leaf (r_X3_find_2 E))) (ax_sn_node (ax_sn_leaf (r_X3_find_1 E)) (ax_sn_leaf (r_X3_find_0 E))))))⟩
theorem r_X3_resultOf_0 (E : ax_EN G l) : ax_Snd G l ax_Ym M_X3_resultOf 0 (S_aload 0 1) := k_aload_n dX3_resultOf_0 rfl
theorem r_X3_resultOf_1 (E : ax_EN G l) : ax_Snd G l ax_Ym M_X3_resultOf 1 (S_getf [(38, 26)] 4) := k_getf (en_F E) (ax_fes_cons (fe_386 E) ax_fes_nil) q2779 dX3_resultOf_1
theorem r_X3_resultOf_4 (E : ax_EN G l) : ax_Snd G l ax_Ym M_X3_resultOf 4 (S_push (.int (0)) 5) := k_iconst dX3_resultOf_4 rfl
theorem r_X3_resultOf_5 (E : ax_EN G l) : ax_Snd G l ax_Ym M_X3_resultOf 5 (S_iald 0 6) := k_iald (en_F E) dX3_resultOf_5
theorem r_X3_resultOf_6 (E : ax_EN G l) : ax_Snd G l ax_Ym M_X3_resultOf 6 (S_if1 (fun x => decide (x = 0)) 14 9) := k_if_eq dX3_resultOf_6 rfl
theorem r_X3_resultOf_9 (E : ax_EN G l) : ax_Snd G l ax_Ym M_X3_resultOf 9 (S_iload 2 10) := k_iload_n dX3_resultOf_9 rfl
theorem r_X3_resultOf_10 (E : ax_EN G l) : ax_Snd G l ax_Ym M_X3_resultOf 10 (S_push (.int (-1)) 11) := k_iconst dX3_resultOf_10 rfl
theorem r_X3_resultOf_11 (E : ax_EN G l) : ax_Snd G l ax_Ym M_X3_resultOf 11 (S_if2 (fun x y => decide (¬ x = y)) 18 14) := k_icmp_ne dX3_resultOf_11 rfl
theorem r_X3_resultOf_14 (E : ax_EN G l) : ax_Snd G l ax_Ym M_X3_resultOf 14 (S_push (.int (1)) 15) := k_iconst dX3_resultOf_14 rfl
theorem r_X3_resultOf_15 (E : ax_EN G l) : ax_Snd G l ax_Ym M_X3_resultOf 15 (S_goto 19) := k_goto dX3_resultOf_15 rfl
theorem r_X3_resultOf_18 (E : ax_EN G l) : ax_Snd G l ax_Ym M_X3_resultOf 18 (S_push (.int (0)) 19) := k_iconst dX3_resultOf_18 rfl
theorem r_X3_resultOf_19 (E : ax_EN G l) : ax_Snd G l ax_Ym M_X3_resultOf 19 (S_istore 3 20) := k_istore_n dX3_resultOf_19 rfl (Nat.le_of_ble_eq_true rfl)
theorem r_X3_resultOf_20 (E : ax_EN G l) : ax_Snd G l ax_Ym M_X3_resultOf 20 (S_iload 1 21) := k_iload_n dX3_resultOf_20 rfl
theorem r_X3_resultOf_21 (E : ax_EN G l) : ax_Snd G l ax_Ym M_X3_resultOf 21 (S_if1 (fun x => decide (¬ x = 0)) 60 24) := k_if_ne dX3_resultOf_21 rfl
theorem r_X3_resultOf_24 (E : ax_EN G l) : ax_Snd G l ax_Ym M_X3_resultOf 24 (S_aload 0 25) := k_aload_n dX3_resultOf_24 rfl
theorem r_X3_resultOf_25 (E : ax_EN G l) : ax_Snd G l ax_Ym M_X3_resultOf 25 (S_getf [(38, 26)] 28) := k_getf (en_F E) (ax_fes_cons (fe_386 E) ax_fes_nil) q2779 dX3_resultOf_25
theorem r_X3_resultOf_28 (E : ax_EN G l) : ax_Snd G l ax_Ym M_X3_resultOf 28 (S_push (.int (0)) 29) := k_iconst dX3_resultOf_28 rfl
theorem r_X3_resultOf_29 (E : ax_EN G l) : ax_Snd G l ax_Ym M_X3_resultOf 29 (S_iald 0 30) := k_iald (en_F E) dX3_resultOf_29
theorem r_X3_resultOf_30 (E : ax_EN G l) : ax_Snd G l ax_Ym M_X3_resultOf 30 (S_if1 (fun x => decide (x = 0)) 38 33) := k_if_eq dX3_resultOf_30 rfl
theorem r_X3_resultOf_33 (E : ax_EN G l) : ax_Snd G l ax_Ym M_X3_resultOf 33 (S_iload 2 34) := k_iload_n dX3_resultOf_33 rfl
theorem r_X3_resultOf_34 (E : ax_EN G l) : ax_Snd G l ax_Ym M_X3_resultOf 34 (S_push (.int (-1)) 35) := k_iconst dX3_resultOf_34 rfl
theorem r_X3_resultOf_35 (E : ax_EN G l) : ax_Snd G l ax_Ym M_X3_resultOf 35 (S_if2 (fun x y => decide (x = y)) 42 38) := k_icmp_eq dX3_resultOf_35 rfl
theorem r_X3_resultOf_38 (E : ax_EN G l) : ax_Snd G l ax_Ym M_X3_resultOf 38 (S_push (.int (1)) 39) := k_iconst dX3_resultOf_38 rfl
theorem r_X3_resultOf_39 (E : ax_EN G l) : ax_Snd G l ax_Ym M_X3_resultOf 39 (S_goto 59) := k_goto dX3_resultOf_39 rfl
theorem r_X3_resultOf_42 (E : ax_EN G l) : ax_Snd G l ax_Ym M_X3_resultOf 42 (S_aload 0 43) := k_aload_n dX3_resultOf_42 rfl
theorem r_X3_resultOf_43 (E : ax_EN G l) : ax_Snd G l ax_Ym M_X3_resultOf 43 (S_getf [(38, 50)] 46) := k_getf (en_F E) (ax_fes_cons (fe_402 E) ax_fes_nil) q2803 dX3_resultOf_43
theorem r_X3_resultOf_46 (E : ax_EN G l) : ax_Snd G l ax_Ym M_X3_resultOf 46 (S_push (.int (0)) 47) := k_iconst dX3_resultOf_46 rfl
theorem r_X3_resultOf_47 (E : ax_EN G l) : ax_Snd G l ax_Ym M_X3_resultOf 47 (S_is 435 2 50 hd_0) := k_is (en_F E) (ax_ok0 E rfl) ((ev_s y_X3_find q3225 q3226 q126 q3227 nm_X3_find (Nat.le_of_ble_eq_true rfl) dX3_resultOf_47) : ax_EvS G l ax_Ym M_X3_resultOf 47 435 2 3)
theorem r_X3_resultOf_50 (E : ax_EN G l) : ax_Snd G l ax_Ym M_X3_resultOf 50 (S_push (.int (-1)) 51) := k_iconst dX3_resultOf_50 rfl
theorem r_X3_resultOf_51 (E : ax_EN G l) : ax_Snd G l ax_Ym M_X3_resultOf 51 (S_if2 (fun x y => decide (¬ x = y)) 58 54) := k_icmp_ne dX3_resultOf_51 rfl
theorem r_X3_resultOf_54 (E : ax_EN G l) : ax_Snd G l ax_Ym M_X3_resultOf 54 (S_push (.int (2)) 55) := k_iconst dX3_resultOf_54 rfl
theorem r_X3_resultOf_55 (E : ax_EN G l) : ax_Snd G l ax_Ym M_X3_resultOf 55 (S_goto 59) := k_goto dX3_resultOf_55 rfl
theorem r_X3_resultOf_58 (E : ax_EN G l) : ax_Snd G l ax_Ym M_X3_resultOf 58 (S_push (.int (0)) 59) := k_iconst dX3_resultOf_58 rfl
theorem r_X3_resultOf_59 (E : ax_EN G l) : ax_Snd G l ax_Ym M_X3_resultOf 59 (S_iret) := k_iret dX3_resultOf_59 rfl
theorem r_X3_resultOf_60 (E : ax_EN G l) : ax_Snd G l ax_Ym M_X3_resultOf 60 (S_iload 1 61) := k_iload_n dX3_resultOf_60 rfl
theorem r_X3_resultOf_61 (E : ax_EN G l) : ax_Snd G l ax_Ym M_X3_resultOf 61 (S_push (.int (6)) 63) := k_bipush dX3_resultOf_61 rfl
theorem r_X3_resultOf_63 (E : ax_EN G l) : ax_Snd G l ax_Ym M_X3_resultOf 63 (S_if2 (fun x y => decide (x ≤ y)) 69 66) := k_icmp_le dX3_resultOf_63 rfl
theorem r_X3_resultOf_66 (E : ax_EN G l) : ax_Snd G l ax_Ym M_X3_resultOf 66 (S_push (.int (9)) 68) := k_bipush dX3_resultOf_66 rfl
theorem r_X3_resultOf_68 (E : ax_EN G l) : ax_Snd G l ax_Ym M_X3_resultOf 68 (S_iret) := k_iret dX3_resultOf_68 rfl
theorem r_X3_resultOf_69 (E : ax_EN G l) : ax_Snd G l ax_Ym M_X3_resultOf 69 (S_iload 3 70) := k_iload_n dX3_resultOf_69 rfl
theorem r_X3_resultOf_70 (E : ax_EN G l) : ax_Snd G l ax_Ym M_X3_resultOf 70 (S_if1 (fun x => decide (¬ x = 0)) 88 73) := k_if_ne dX3_resultOf_70 rfl
theorem r_X3_resultOf_73 (E : ax_EN G l) : ax_Snd G l ax_Ym M_X3_resultOf 73 (S_iload 1 74) := k_iload_n dX3_resultOf_73 rfl
theorem r_X3_resultOf_74 (E : ax_EN G l) : ax_Snd G l ax_Ym M_X3_resultOf 74 (S_push (.int (6)) 76) := k_bipush dX3_resultOf_74 rfl
theorem r_X3_resultOf_76 (E : ax_EN G l) : ax_Snd G l ax_Ym M_X3_resultOf 76 (S_if2 (fun x y => decide (¬ x = y)) 90 79) := k_icmp_ne dX3_resultOf_76 rfl
theorem r_X3_resultOf_79 (E : ax_EN G l) : ax_Snd G l ax_Ym M_X3_resultOf 79 (S_aload 0 80) := k_aload_n dX3_resultOf_79 rfl
theorem r_X3_resultOf_80 (E : ax_EN G l) : ax_Snd G l ax_Ym M_X3_resultOf 80 (S_getf [(38, 26)] 83) := k_getf (en_F E) (ax_fes_cons (fe_386 E) ax_fes_nil) q2779 dX3_resultOf_80
theorem r_X3_resultOf_83 (E : ax_EN G l) : ax_Snd G l ax_Ym M_X3_resultOf 83 (S_push (.int (1)) 84) := k_iconst dX3_resultOf_83 rfl
theorem r_X3_resultOf_84 (E : ax_EN G l) : ax_Snd G l ax_Ym M_X3_resultOf 84 (S_iald 0 85) := k_iald (en_F E) dX3_resultOf_84
theorem r_X3_resultOf_85 (E : ax_EN G l) : ax_Snd G l ax_Ym M_X3_resultOf 85 (S_if1 (fun x => decide (¬ x = 0)) 90 88) := k_if_ne dX3_resultOf_85 rfl
theorem r_X3_resultOf_88 (E : ax_EN G l) : ax_Snd G l ax_Ym M_X3_resultOf 88 (S_push (.int (1)) 89) := k_iconst dX3_resultOf_88 rfl
theorem r_X3_resultOf_89 (E : ax_EN G l) : ax_Snd G l ax_Ym M_X3_resultOf 89 (S_iret) := k_iret dX3_resultOf_89 rfl
theorem r_X3_resultOf_90 (E : ax_EN G l) : ax_Snd G l ax_Ym M_X3_resultOf 90 (S_aload 0 91) := k_aload_n dX3_resultOf_90 rfl
theorem r_X3_resultOf_91 (E : ax_EN G l) : ax_Snd G l ax_Ym M_X3_resultOf 91 (S_getf [(38, 50)] 94) := k_getf (en_F E) (ax_fes_cons (fe_402 E) ax_fes_nil) q2803 dX3_resultOf_91
theorem r_X3_resultOf_94 (E : ax_EN G l) : ax_Snd G l ax_Ym M_X3_resultOf 94 (S_iload 2 95) := k_iload_n dX3_resultOf_94 rfl
theorem r_X3_resultOf_95 (E : ax_EN G l) : ax_Snd G l ax_Ym M_X3_resultOf 95 (S_is 415 1 98 hd_0) := k_is (en_F E) (ax_ok0 E rfl) ((ev_s y_X3_entry q3147 q3148 q126 q3149 nm_X3_entry (Nat.le_of_ble_eq_true rfl) dX3_resultOf_95) : ax_EvS G l ax_Ym M_X3_resultOf 95 415 1 3)
theorem r_X3_resultOf_98 (E : ax_EN G l) : ax_Snd G l ax_Ym M_X3_resultOf 98 (S_push (.int (1)) 99) := k_iconst dX3_resultOf_98 rfl
theorem r_X3_resultOf_99 (E : ax_EN G l) : ax_Snd G l ax_Ym M_X3_resultOf 99 (S_i2 (fun x y => x + y) 100) := k_iadd dX3_resultOf_99
theorem r_X3_resultOf_100 (E : ax_EN G l) : ax_Snd G l ax_Ym M_X3_resultOf 100 (S_iald 0 101) := k_iald (en_F E) dX3_resultOf_100
theorem r_X3_resultOf_101 (E : ax_EN G l) : ax_Snd G l ax_Ym M_X3_resultOf 101 (S_istore 4 103) := k_istore dX3_resultOf_101 (Nat.le_of_ble_eq_true rfl)
theorem r_X3_resultOf_103 (E : ax_EN G l) : ax_Snd G l ax_Ym M_X3_resultOf 103 (S_iload 1 104) := k_iload_n dX3_resultOf_103 rfl
theorem r_X3_resultOf_104 (E : ax_EN G l) : ax_Snd G l ax_Ym M_X3_resultOf 104 (S_push (.int (1)) 105) := k_iconst dX3_resultOf_104 rfl
theorem r_X3_resultOf_105 (E : ax_EN G l) : ax_Snd G l ax_Ym M_X3_resultOf 105 (S_if2 (fun x y => decide (¬ x = y)) 141 108) := k_icmp_ne dX3_resultOf_105 rfl
theorem r_X3_resultOf_108 (E : ax_EN G l) : ax_Snd G l ax_Ym M_X3_resultOf 108 (S_iload 4 110) := k_iload dX3_resultOf_108
theorem r_X3_resultOf_110 (E : ax_EN G l) : ax_Snd G l ax_Ym M_X3_resultOf 110 (S_push (.int (16)) 112) := k_bipush dX3_resultOf_110 rfl
theorem r_X3_resultOf_112 (E : ax_EN G l) : ax_Snd G l ax_Ym M_X3_resultOf 112 (S_if2 (fun x y => decide (¬ x = y)) 119 115) := k_icmp_ne dX3_resultOf_112 rfl
theorem r_X3_resultOf_115 (E : ax_EN G l) : ax_Snd G l ax_Ym M_X3_resultOf 115 (S_push (.int (2)) 116) := k_iconst dX3_resultOf_115 rfl
theorem r_X3_resultOf_116 (E : ax_EN G l) : ax_Snd G l ax_Ym M_X3_resultOf 116 (S_goto 140) := k_goto dX3_resultOf_116 rfl
theorem r_X3_resultOf_119 (E : ax_EN G l) : ax_Snd G l ax_Ym M_X3_resultOf 119 (S_iload 4 121) := k_iload dX3_resultOf_119
theorem r_X3_resultOf_121 (E : ax_EN G l) : ax_Snd G l ax_Ym M_X3_resultOf 121 (S_push (.int (8)) 123) := k_bipush dX3_resultOf_121 rfl
theorem r_X3_resultOf_123 (E : ax_EN G l) : ax_Snd G l ax_Ym M_X3_resultOf 123 (S_id (fun x y => x - x / y * y) 124) := k_irem dX3_resultOf_123
theorem r_X3_resultOf_124 (E : ax_EN G l) : ax_Snd G l ax_Ym M_X3_resultOf 124 (S_if1 (fun x => decide (¬ x = 0)) 139 127) := k_if_ne dX3_resultOf_124 rfl
theorem r_X3_resultOf_127 (E : ax_EN G l) : ax_Snd G l ax_Ym M_X3_resultOf 127 (S_aload 0 128) := k_aload_n dX3_resultOf_127 rfl
theorem r_X3_resultOf_128 (E : ax_EN G l) : ax_Snd G l ax_Ym M_X3_resultOf 128 (S_iv [(38, 437)] 0 131 hd_0) := k_iv (en_F E) (ax_ok0 E rfl) (ax_Evs_cons ((ev_v (en_c E (k := 38) rfl) rfl y_X3_freeBlock q3232 q3234 qs99 q126 q3235 nm_X3_freeBlock (Nat.le_of_ble_eq_true rfl) dX3_resultOf_128) : ax_EvV G l ax_Ym M_X3_resultOf 128 0 3 38 437) ax_Evs_nil)
theorem r_X3_resultOf_131 (E : ax_EN G l) : ax_Snd G l ax_Ym M_X3_resultOf 131 (S_push (.int (-1)) 132) := k_iconst dX3_resultOf_131 rfl
theorem r_X3_resultOf_132 (E : ax_EN G l) : ax_Snd G l ax_Ym M_X3_resultOf 132 (S_if2 (fun x y => decide (¬ x = y)) 139 135) := k_icmp_ne dX3_resultOf_132 rfl
theorem r_X3_resultOf_135 (E : ax_EN G l) : ax_Snd G l ax_Ym M_X3_resultOf 135 (S_push (.int (3)) 136) := k_iconst dX3_resultOf_135 rfl
theorem r_X3_resultOf_136 (E : ax_EN G l) : ax_Snd G l ax_Ym M_X3_resultOf 136 (S_goto 140) := k_goto dX3_resultOf_136 rfl
theorem r_X3_resultOf_139 (E : ax_EN G l) : ax_Snd G l ax_Ym M_X3_resultOf 139 (S_push (.int (0)) 140) := k_iconst dX3_resultOf_139 rfl
theorem r_X3_resultOf_140 (E : ax_EN G l) : ax_Snd G l ax_Ym M_X3_resultOf 140 (S_iret) := k_iret dX3_resultOf_140 rfl
theorem r_X3_resultOf_141 (E : ax_EN G l) : ax_Snd G l ax_Ym M_X3_resultOf 141 (S_iload 1 142) := k_iload_n dX3_resultOf_141 rfl
theorem r_X3_resultOf_142 (E : ax_EN G l) : ax_Snd G l ax_Ym M_X3_resultOf 142 (S_push (.int (2)) 143) := k_iconst dX3_resultOf_142 rfl
theorem r_X3_resultOf_143 (E : ax_EN G l) : ax_Snd G l ax_Ym M_X3_resultOf 143 (S_if2 (fun x y => decide (x = y)) 151 146) := k_icmp_eq dX3_resultOf_143 rfl
theorem r_X3_resultOf_146 (E : ax_EN G l) : ax_Snd G l ax_Ym M_X3_resultOf 146 (S_iload 1 147) := k_iload_n dX3_resultOf_146 rfl
theorem r_X3_resultOf_147 (E : ax_EN G l) : ax_Snd G l ax_Ym M_X3_resultOf 147 (S_push (.int (3)) 148) := k_iconst dX3_resultOf_147 rfl
theorem r_X3_resultOf_148 (E : ax_EN G l) : ax_Snd G l ax_Ym M_X3_resultOf 148 (S_if2 (fun x y => decide (¬ x = y)) 166 151) := k_icmp_ne dX3_resultOf_148 rfl
theorem r_X3_resultOf_151 (E : ax_EN G l) : ax_Snd G l ax_Ym M_X3_resultOf 151 (S_aload 0 152) := k_aload_n dX3_resultOf_151 rfl
theorem r_X3_resultOf_152 (E : ax_EN G l) : ax_Snd G l ax_Ym M_X3_resultOf 152 (S_getf [(38, 26)] 155) := k_getf (en_F E) (ax_fes_cons (fe_386 E) ax_fes_nil) q2779 dX3_resultOf_152
theorem r_X3_resultOf_155 (E : ax_EN G l) : ax_Snd G l ax_Ym M_X3_resultOf 155 (S_push (.int (1)) 156) := k_iconst dX3_resultOf_155 rfl
theorem r_X3_resultOf_156 (E : ax_EN G l) : ax_Snd G l ax_Ym M_X3_resultOf 156 (S_iald 0 157) := k_iald (en_F E) dX3_resultOf_156
theorem r_X3_resultOf_157 (E : ax_EN G l) : ax_Snd G l ax_Ym M_X3_resultOf 157 (S_iload 4 159) := k_iload dX3_resultOf_157
theorem r_X3_resultOf_159 (E : ax_EN G l) : ax_Snd G l ax_Ym M_X3_resultOf 159 (S_if2 (fun x y => decide (x < y)) 166 162) := k_icmp_lt dX3_resultOf_159 rfl
theorem r_X3_resultOf_162 (E : ax_EN G l) : ax_Snd G l ax_Ym M_X3_resultOf 162 (S_push (.int (2)) 163) := k_iconst dX3_resultOf_162 rfl
theorem r_X3_resultOf_163 (E : ax_EN G l) : ax_Snd G l ax_Ym M_X3_resultOf 163 (S_goto 167) := k_goto dX3_resultOf_163 rfl
theorem r_X3_resultOf_166 (E : ax_EN G l) : ax_Snd G l ax_Ym M_X3_resultOf 166 (S_push (.int (0)) 167) := k_iconst dX3_resultOf_166 rfl
theorem r_X3_resultOf_167 (E : ax_EN G l) : ax_Snd G l ax_Ym M_X3_resultOf 167 (S_iret) := k_iret dX3_resultOf_167 rfl
theorem mt_X3_resultOf (E : ax_EN G l) : ax_mt G l ax_Ym (5, P_X3_resultOf) (ax_Ym 436) := ⟨M_X3_resultOf, yX3_resultOf, ⟨rfl, by decide +kernel, rfl, (fun h => by cases h), Or.inl ⟨rfl, rfl⟩⟩, fun pc => (ax_sn_node (ax_sn_node (ax_sn_node (ax_sn_node (ax_sn_node (ax_sn_node (ax_sn_node (ax_sn_leaf (r_X3_resultOf_167 E)) (ax_sn_leaf (r_X3_resultOf_166 E))) (ax_sn_leaf (r_X3_resultOf_163 E))) (ax_sn_node (ax_sn_node (ax_sn_leaf (r_X3_resultOf_162 E)) (ax_sn_leaf (r_X3_resultOf_159 E))) (ax_sn_leaf (r_X3_resultOf_157 E)))) (ax_sn_node (ax_sn_node (ax_sn_node (ax_sn_leaf (r_X3_resultOf_156 E)) (ax_sn_leaf (r_X3_resultOf_155 E))) (ax_sn_leaf (r_X3_resultOf_152 E))) (ax_sn_node (ax_sn_node (ax_sn_leaf (r_X3_resultOf_151 E)) (ax_sn_leaf (r_X3_resultOf_148 E))) (ax_sn_leaf (r_X3_resultOf_147 E))))) (ax_sn_node (ax_sn_node (ax_sn_node (ax_sn_node (ax_sn_leaf (r_X3_resultOf_146 E)) (ax_sn_leaf (r_X3_resultOf_143 E))) (ax_sn_leaf (r_X3_resultOf_142 E))) (ax_sn_node (ax_sn_node (ax_sn_leaf (r_X3_resultOf_141 E)) (ax_sn_leaf (r_X3_resultOf_140 E))) (ax_sn_leaf (r_X3_resultOf_139 E)))) (ax_sn_node (ax_sn_node (ax_sn_node (ax_sn_leaf (r_X3_resultOf_136 E)) (ax_sn_leaf (r_X3_resultOf_135 E))) (ax_sn_leaf (r_X3_resultOf_132 E))) (ax_sn_node (ax_sn_node (ax_sn_leaf (r_X3_resultOf_131 E)) (ax_sn_leaf (r_X3_resultOf_128 E))) (ax_sn_leaf (r_X3_resultOf_127 E)))))) (ax_sn_node (ax_sn_node (ax_sn_node (ax_sn_node (ax_sn_node (ax_sn_leaf (r_X3_resultOf_124 E)) (ax_sn_leaf (r_X3_resultOf_123 E))) (ax_sn_leaf (r_X3_resultOf_121 E))) (ax_sn_node (ax_sn_node (ax_sn_leaf (r_X3_resultOf_119 E)) (ax_sn_leaf (r_X3_resultOf_116 E))) (ax_sn_leaf (r_X3_resultOf_115 E)))) (ax_sn_node (ax_sn_node (ax_sn_node (ax_sn_leaf (r_X3_resultOf_112 E)) (ax_sn_leaf (r_X3_resultOf_110 E))) (ax_sn_leaf (r_X3_resultOf_108 E))) (ax_sn_node (ax_sn_node (ax_sn_leaf (r_X3_resultOf_105 E)) (ax_sn_leaf (r_X3_resultOf_104 E))) (ax_sn_leaf (r_X3_resultOf_103 E))))) (ax_sn_node (ax_sn_node (ax_sn_node (ax_sn_node (ax_sn_leaf (r_X3_resultOf_101 E)) (ax_sn_leaf (r_X3_resultOf_100 E))) (ax_sn_leaf (r_X3_resultOf_99 E))) (ax_sn_node (ax_sn_node (ax_sn_leaf (r_X3_resultOf_98 E)) (ax_sn_leaf (r_X3_resultOf_95 E))) (ax_sn_leaf (r_X3_resultOf_94 E)))) (ax_sn_node (ax_sn_node (ax_sn_node (ax_sn_leaf (r_X3_resultOf_91 E)) (ax_sn_leaf (r_X3_resultOf_90 E))) (ax_sn_leaf (r_X3_resultOf_89 E))) (ax_sn_node (ax_sn_node (ax_sn_leaf (r_X3_resultOf_88 E)) (ax_sn_leaf (r_X3_resultOf_85 E))) (ax_sn_leaf (r_X3_resultOf_84 E))))))) (ax_sn_node (ax_sn_node (ax_sn_node (ax_sn_node (ax_sn_node (ax_sn_node (ax_sn_leaf (r_X3_resultOf_83 E)) (ax_sn_leaf (r_X3_resultOf_80 E))) (ax_sn_leaf (r_X3_resultOf_79 E))) (ax_sn_node (ax_sn_node (ax_sn_leaf (r_X3_resultOf_76 E)) (ax_sn_leaf (r_X3_resultOf_74 E))) (ax_sn_leaf (r_X3_resultOf_73 E)))) (ax_sn_node (ax_sn_node (ax_sn_node (ax_sn_leaf (r_X3_resultOf_70 E)) (ax_sn_leaf (r_X3_resultOf_69 E))) (ax_sn_leaf (r_X3_resultOf_68 E))) (ax_sn_node (ax_sn_node (ax_sn_leaf (r_X3_resultOf_66 E)) (ax_sn_leaf (r_X3_resultOf_63 E))) (ax_sn_leaf (r_X3_resultOf_61 E))))) (ax_sn_node (ax_sn_node (ax_sn_node (ax_sn_node (ax_sn_leaf (r_X3_resultOf_60 E)) (ax_sn_leaf (r_X3_resultOf_59 E))) (ax_sn_leaf (r_X3_resultOf_58 E))) (ax_sn_node (ax_sn_node (ax_sn_leaf (r_X3_resultOf_55 E)) (ax_sn_leaf (r_X3_resultOf_54 E))) (ax_sn_leaf (r_X3_resultOf_51 E)))) (ax_sn_node (ax_sn_node (ax_sn_node (ax_sn_leaf (r_X3_resultOf_50 E)) (ax_sn_leaf (r_X3_resultOf_47 E))) (ax_sn_leaf (r_X3_resultOf_46 E))) (ax_sn_node (ax_sn_node (ax_sn_leaf (r_X3_resultOf_43 E)) (ax_sn_leaf (r_X3_resultOf_42 E))) (ax_sn_leaf (r_X3_resultOf_39 E)))))) (ax_sn_node (ax_sn_node (ax_sn_node (ax_sn_node (ax_sn_node (ax_sn_leaf (r_X3_resultOf_38 E)) (ax_sn_leaf (r_X3_resultOf_35 E))) (ax_sn_leaf (r_X3_resultOf_34 E))) (ax_sn_node (ax_sn_node (ax_sn_leaf (r_X3_resultOf_33 E)) (ax_sn_leaf (r_X3_resultOf_30 E))) (ax_sn_leaf (r_X3_resultOf_29 E)))) (ax_sn_node (ax_sn_node (ax_sn_node (ax_sn_leaf (r_X3_resultOf_28 E)) (ax_sn_leaf (r_X3_resultOf_25 E))) (ax_sn_leaf (r_X3_resultOf_24 E))) (ax_sn_node (ax_sn_node (ax_sn_leaf (r_X3_resultOf_21 E)) (ax_sn_leaf (r_X3_resultOf_20 E))) (ax_sn_leaf (r_X3_resultOf_19 E))))) (ax_sn_node (ax_sn_node (ax_sn_node (ax_sn_node (ax_sn_leaf (r_X3_resultOf_18 E)) (ax_sn_leaf (r_X3_resultOf_15 E))) (ax_sn_leaf (r_X3_resultOf_14 E))) (ax_sn_node (ax_sn_node (ax_sn_leaf (r_X3_resultOf_11 E)) (ax_sn_leaf (r_X3_resultOf_10 E))) (ax_sn_leaf (r_X3_resultOf_9 E)))) (ax_sn_node (ax_sn_node (ax_sn_node (ax_sn_leaf (r_X3_resultOf_6 E)) (ax_sn_leaf (r_X3_resultOf_5 E))) (ax_sn_leaf (r_X3_resultOf_4 E))) (ax_sn_node (ax_sn_leaf (r_X3_resultOf_1 E)) (ax_sn_leaf (r_X3_resultOf_0 E))))))))⟩
theorem r_X3_freeBlock_0 (E : ax_EN G l) : ax_Snd G l ax_Ym M_X3_freeBlock 0 (S_push (.int (8)) 2) := k_bipush dX3_freeBlock_0 rfl
theorem r_X3_freeBlock_2 (E : ax_EN G l) : ax_Snd G l ax_Ym M_X3_freeBlock 2 (S_istore 1 3) := k_istore_n dX3_freeBlock_2 rfl (Nat.le_of_ble_eq_true rfl)
theorem r_X3_freeBlock_3 (E : ax_EN G l) : ax_Snd G l ax_Ym M_X3_freeBlock 3 (S_iload 1 4) := k_iload_n dX3_freeBlock_3 rfl
theorem r_X3_freeBlock_4 (E : ax_EN G l) : ax_Snd G l ax_Ym M_X3_freeBlock 4 (S_push (.int (32)) 6) := k_bipush dX3_freeBlock_4 rfl
theorem r_X3_freeBlock_6 (E : ax_EN G l) : ax_Snd G l ax_Ym M_X3_freeBlock 6 (S_if2 (fun x y => decide (y ≤ x)) 28 9) := k_icmp_ge dX3_freeBlock_6 rfl
theorem r_X3_freeBlock_9 (E : ax_EN G l) : ax_Snd G l ax_Ym M_X3_freeBlock 9 (S_aload 0 10) := k_aload_n dX3_freeBlock_9 rfl
theorem r_X3_freeBlock_10 (E : ax_EN G l) : ax_Snd G l ax_Ym M_X3_freeBlock 10 (S_getf [(38, 50)] 13) := k_getf (en_F E) (ax_fes_cons (fe_402 E) ax_fes_nil) q2803 dX3_freeBlock_10
theorem r_X3_freeBlock_13 (E : ax_EN G l) : ax_Snd G l ax_Ym M_X3_freeBlock 13 (S_iload 1 14) := k_iload_n dX3_freeBlock_13 rfl
theorem r_X3_freeBlock_14 (E : ax_EN G l) : ax_Snd G l ax_Ym M_X3_freeBlock 14 (S_is 438 2 17 hd_0) := k_is (en_F E) (ax_ok0 E rfl) ((ev_s y_X3_isUsed q3236 q3237 q126 q3238 nm_X3_isUsed (Nat.le_of_ble_eq_true rfl) dX3_freeBlock_14) : ax_EvS G l ax_Ym M_X3_freeBlock 14 438 2 3)
theorem r_X3_freeBlock_17 (E : ax_EN G l) : ax_Snd G l ax_Ym M_X3_freeBlock 17 (S_if1 (fun x => decide (¬ x = 0)) 22 20) := k_if_ne dX3_freeBlock_17 rfl
theorem r_X3_freeBlock_20 (E : ax_EN G l) : ax_Snd G l ax_Ym M_X3_freeBlock 20 (S_iload 1 21) := k_iload_n dX3_freeBlock_20 rfl
theorem r_X3_freeBlock_21 (E : ax_EN G l) : ax_Snd G l ax_Ym M_X3_freeBlock 21 (S_iret) := k_iret dX3_freeBlock_21 rfl
theorem r_X3_freeBlock_22 (E : ax_EN G l) : ax_Snd G l ax_Ym M_X3_freeBlock 22 (S_iinc 1 (1) 25) := k_iinc dX3_freeBlock_22 rfl (Nat.le_of_ble_eq_true rfl)
theorem r_X3_freeBlock_25 (E : ax_EN G l) : ax_Snd G l ax_Ym M_X3_freeBlock 25 (S_goto 3) := k_goto dX3_freeBlock_25 rfl
theorem r_X3_freeBlock_28 (E : ax_EN G l) : ax_Snd G l ax_Ym M_X3_freeBlock 28 (S_push (.int (-1)) 29) := k_iconst dX3_freeBlock_28 rfl
theorem r_X3_freeBlock_29 (E : ax_EN G l) : ax_Snd G l ax_Ym M_X3_freeBlock 29 (S_iret) := k_iret dX3_freeBlock_29 rfl
theorem mt_X3_freeBlock (E : ax_EN G l) : ax_mt G l ax_Ym (2, P_X3_freeBlock) (ax_Ym 437) := ⟨M_X3_freeBlock, yX3_freeBlock, ⟨rfl, by decide +kernel, rfl, (fun h => by cases h), Or.inl ⟨rfl, rfl⟩⟩, fun pc => (ax_sn_node (ax_sn_node (ax_sn_node (ax_sn_node (ax_sn_leaf (r_X3_freeBlock_29 E)) (ax_sn_leaf (r_X3_freeBlock_28 E))) (ax_sn_node (ax_sn_leaf (r_X3_freeBlock_25 E)) (ax_sn_leaf (r_X3_freeBlock_22 E)))) (ax_sn_node (ax_sn_node (ax_sn_leaf (r_X3_freeBlock_21 E)) (ax_sn_leaf (r_X3_freeBlock_20 E))) (ax_sn_node (ax_sn_leaf (r_X3_freeBlock_17 E)) (ax_sn_leaf (r_X3_freeBlock_14 E))))) (ax_sn_node (ax_sn_node (ax_sn_node (ax_sn_leaf (r_X3_freeBlock_13 E)) (ax_sn_leaf (r_X3_freeBlock_10 E))) (ax_sn_node (ax_sn_leaf (r_X3_freeBlock_9 E)) (ax_sn_leaf (r_X3_freeBlock_6 E)))) (ax_sn_node (ax_sn_node (ax_sn_leaf (r_X3_freeBlock_4 E)) (ax_sn_leaf (r_X3_freeBlock_3 E))) (ax_sn_node (ax_sn_leaf (r_X3_freeBlock_2 E)) (ax_sn_leaf (r_X3_freeBlock_0 E))))))⟩
theorem r_X3_isUsed_0 (E : ax_EN G l) : ax_Snd G l ax_Ym M_X3_isUsed 0 (S_aload 0 1) := k_aload_n dX3_isUsed_0 rfl
theorem r_X3_isUsed_1 (E : ax_EN G l) : ax_Snd G l ax_Ym M_X3_isUsed 1 (S_push (.int (32)) 3) := k_bipush dX3_isUsed_1 rfl
theorem r_X3_isUsed_3 (E : ax_EN G l) : ax_Snd G l ax_Ym M_X3_isUsed 3 (S_iload 1 4) := k_iload_n dX3_isUsed_3 rfl
theorem r_X3_isUsed_4 (E : ax_EN G l) : ax_Snd G l ax_Ym M_X3_isUsed 4 (S_push (.int (16)) 6) := k_bipush dX3_isUsed_4 rfl
theorem r_X3_isUsed_6 (E : ax_EN G l) : ax_Snd G l ax_Ym M_X3_isUsed 6 (S_id (fun x y => x / y) 7) := k_idiv dX3_isUsed_6
theorem r_X3_isUsed_7 (E : ax_EN G l) : ax_Snd G l ax_Ym M_X3_isUsed 7 (S_i2 (fun x y => x + y) 8) := k_iadd dX3_isUsed_7
theorem r_X3_isUsed_8 (E : ax_EN G l) : ax_Snd G l ax_Ym M_X3_isUsed 8 (S_iald 0 9) := k_iald (en_F E) dX3_isUsed_8
theorem r_X3_isUsed_9 (E : ax_EN G l) : ax_Snd G l ax_Ym M_X3_isUsed 9 (S_iload 1 10) := k_iload_n dX3_isUsed_9 rfl
theorem r_X3_isUsed_10 (E : ax_EN G l) : ax_Snd G l ax_Ym M_X3_isUsed 10 (S_push (.int (16)) 12) := k_bipush dX3_isUsed_10 rfl
theorem r_X3_isUsed_12 (E : ax_EN G l) : ax_Snd G l ax_Ym M_X3_isUsed 12 (S_id (fun x y => x - x / y * y) 13) := k_irem dX3_isUsed_12
theorem r_X3_isUsed_13 (E : ax_EN G l) : ax_Snd G l ax_Ym M_X3_isUsed 13 (S_i2 (fun x y => x >>> (y &&& 31)) 14) := k_ishr dX3_isUsed_13
theorem r_X3_isUsed_14 (E : ax_EN G l) : ax_Snd G l ax_Ym M_X3_isUsed 14 (S_push (.int (1)) 15) := k_iconst dX3_isUsed_14 rfl
theorem r_X3_isUsed_15 (E : ax_EN G l) : ax_Snd G l ax_Ym M_X3_isUsed 15 (S_i2 (fun x y => x &&& y) 16) := k_iand dX3_isUsed_15
theorem r_X3_isUsed_16 (E : ax_EN G l) : ax_Snd G l ax_Ym M_X3_isUsed 16 (S_push (.int (1)) 17) := k_iconst dX3_isUsed_16 rfl
theorem r_X3_isUsed_17 (E : ax_EN G l) : ax_Snd G l ax_Ym M_X3_isUsed 17 (S_if2 (fun x y => decide (¬ x = y)) 24 20) := k_icmp_ne dX3_isUsed_17 rfl
theorem r_X3_isUsed_20 (E : ax_EN G l) : ax_Snd G l ax_Ym M_X3_isUsed 20 (S_push (.int (1)) 21) := k_iconst dX3_isUsed_20 rfl
theorem r_X3_isUsed_21 (E : ax_EN G l) : ax_Snd G l ax_Ym M_X3_isUsed 21 (S_goto 25) := k_goto dX3_isUsed_21 rfl
theorem r_X3_isUsed_24 (E : ax_EN G l) : ax_Snd G l ax_Ym M_X3_isUsed 24 (S_push (.int (0)) 25) := k_iconst dX3_isUsed_24 rfl
theorem r_X3_isUsed_25 (E : ax_EN G l) : ax_Snd G l ax_Ym M_X3_isUsed 25 (S_zret) := k_zret dX3_isUsed_25 rfl
theorem mt_X3_isUsed (E : ax_EN G l) : ax_mt G l ax_Ym (2, P_X3_isUsed) (ax_Ym 438) := ⟨M_X3_isUsed, yX3_isUsed, ⟨rfl, by decide +kernel, rfl, (fun h => by cases h), Or.inl ⟨rfl, rfl⟩⟩, fun pc => (ax_sn_node (ax_sn_node (ax_sn_node (ax_sn_node (ax_sn_node (ax_sn_leaf (r_X3_isUsed_25 E)) (ax_sn_leaf (r_X3_isUsed_24 E))) (ax_sn_leaf (r_X3_isUsed_21 E))) (ax_sn_node (ax_sn_leaf (r_X3_isUsed_20 E)) (ax_sn_leaf (r_X3_isUsed_17 E)))) (ax_sn_node (ax_sn_node (ax_sn_node (ax_sn_leaf (r_X3_isUsed_16 E)) (ax_sn_leaf (r_X3_isUsed_15 E))) (ax_sn_leaf (r_X3_isUsed_14 E))) (ax_sn_node (ax_sn_leaf (r_X3_isUsed_13 E)) (ax_sn_leaf (r_X3_isUsed_12 E))))) (ax_sn_node (ax_sn_node (ax_sn_node (ax_sn_node (ax_sn_leaf (r_X3_isUsed_10 E)) (ax_sn_leaf (r_X3_isUsed_9 E))) (ax_sn_leaf (r_X3_isUsed_8 E))) (ax_sn_node (ax_sn_leaf (r_X3_isUsed_7 E)) (ax_sn_leaf (r_X3_isUsed_6 E)))) (ax_sn_node (ax_sn_node (ax_sn_leaf (r_X3_isUsed_4 E)) (ax_sn_leaf (r_X3_isUsed_3 E))) (ax_sn_node (ax_sn_leaf (r_X3_isUsed_1 E)) (ax_sn_leaf (r_X3_isUsed_0 E))))))⟩
theorem r_X3_blockOf_0 (E : ax_EN G l) : ax_Snd G l ax_Ym M_X3_blockOf 0 (S_aload 1 1) := k_aload_n dX3_blockOf_0 rfl
theorem r_X3_blockOf_1 (E : ax_EN G l) : ax_Snd G l ax_Ym M_X3_blockOf 1 (S_iload 2 2) := k_iload_n dX3_blockOf_1 rfl
theorem r_X3_blockOf_2 (E : ax_EN G l) : ax_Snd G l ax_Ym M_X3_blockOf 2 (S_is 415 1 5 hd_0) := k_is (en_F E) (ax_ok0 E rfl) ((ev_s y_X3_entry q3147 q3148 q126 q3149 nm_X3_entry (Nat.le_of_ble_eq_true rfl) dX3_blockOf_2) : ax_EvS G l ax_Ym M_X3_blockOf 2 415 1 3)
theorem r_X3_blockOf_5 (E : ax_EN G l) : ax_Snd G l ax_Ym M_X3_blockOf 5 (S_push (.int (2)) 6) := k_iconst dX3_blockOf_5 rfl
theorem r_X3_blockOf_6 (E : ax_EN G l) : ax_Snd G l ax_Ym M_X3_blockOf 6 (S_i2 (fun x y => x + y) 7) := k_iadd dX3_blockOf_6
theorem r_X3_blockOf_7 (E : ax_EN G l) : ax_Snd G l ax_Ym M_X3_blockOf 7 (S_iload 3 8) := k_iload_n dX3_blockOf_7 rfl
theorem r_X3_blockOf_8 (E : ax_EN G l) : ax_Snd G l ax_Ym M_X3_blockOf 8 (S_push (.int (8)) 10) := k_bipush dX3_blockOf_8 rfl
theorem r_X3_blockOf_10 (E : ax_EN G l) : ax_Snd G l ax_Ym M_X3_blockOf 10 (S_id (fun x y => x / y) 11) := k_idiv dX3_blockOf_10
theorem r_X3_blockOf_11 (E : ax_EN G l) : ax_Snd G l ax_Ym M_X3_blockOf 11 (S_i2 (fun x y => x + y) 12) := k_iadd dX3_blockOf_11
theorem r_X3_blockOf_12 (E : ax_EN G l) : ax_Snd G l ax_Ym M_X3_blockOf 12 (S_iald 0 13) := k_iald (en_F E) dX3_blockOf_12
theorem r_X3_blockOf_13 (E : ax_EN G l) : ax_Snd G l ax_Ym M_X3_blockOf 13 (S_iret) := k_iret dX3_blockOf_13 rfl
theorem mt_X3_blockOf (E : ax_EN G l) : ax_mt G l ax_Ym (4, P_X3_blockOf) (ax_Ym 439) := ⟨M_X3_blockOf, yX3_blockOf, ⟨rfl, by decide +kernel, rfl, (fun h => by cases h), Or.inl ⟨rfl, rfl⟩⟩, fun pc => (ax_sn_node (ax_sn_node (ax_sn_node (ax_sn_node (ax_sn_leaf (r_X3_blockOf_13 E)) (ax_sn_leaf (r_X3_blockOf_12 E))) (ax_sn_leaf (r_X3_blockOf_11 E))) (ax_sn_node (ax_sn_node (ax_sn_leaf (r_X3_blockOf_10 E)) (ax_sn_leaf (r_X3_blockOf_8 E))) (ax_sn_leaf (r_X3_blockOf_7 E)))) (ax_sn_node (ax_sn_node (ax_sn_node (ax_sn_leaf (r_X3_blockOf_6 E)) (ax_sn_leaf (r_X3_blockOf_5 E))) (ax_sn_leaf (r_X3_blockOf_2 E))) (ax_sn_node (ax_sn_leaf (r_X3_blockOf_1 E)) (ax_sn_leaf (r_X3_blockOf_0 E)))))⟩
theorem r_X3_makesFile_0 (E : ax_EN G l) : ax_Snd G l ax_Ym M_X3_makesFile 0 (S_aload 0 1) := k_aload_n dX3_makesFile_0 rfl
theorem r_X3_makesFile_1 (E : ax_EN G l) : ax_Snd G l ax_Ym M_X3_makesFile 1 (S_getf [(38, 50)] 4) := k_getf (en_F E) (ax_fes_cons (fe_402 E) ax_fes_nil) q2803 dX3_makesFile_1
theorem r_X3_makesFile_4 (E : ax_EN G l) : ax_Snd G l ax_Ym M_X3_makesFile 4 (S_push (.int (0)) 5) := k_iconst dX3_makesFile_4 rfl
theorem r_X3_makesFile_5 (E : ax_EN G l) : ax_Snd G l ax_Ym M_X3_makesFile 5 (S_is 435 2 8 hd_0) := k_is (en_F E) (ax_ok0 E rfl) ((ev_s y_X3_find q3225 q3226 q126 q3227 nm_X3_find (Nat.le_of_ble_eq_true rfl) dX3_makesFile_5) : ax_EvS G l ax_Ym M_X3_makesFile 5 435 2 3)
theorem r_X3_makesFile_8 (E : ax_EN G l) : ax_Snd G l ax_Ym M_X3_makesFile 8 (S_istore 1 9) := k_istore_n dX3_makesFile_8 rfl (Nat.le_of_ble_eq_true rfl)
theorem r_X3_makesFile_9 (E : ax_EN G l) : ax_Snd G l ax_Ym M_X3_makesFile 9 (S_aload 0 10) := k_aload_n dX3_makesFile_9 rfl
theorem r_X3_makesFile_10 (E : ax_EN G l) : ax_Snd G l ax_Ym M_X3_makesFile 10 (S_getf [(38, 51)] 13) := k_getf (en_F E) (ax_fes_cons (fe_404 E) ax_fes_nil) q2804 dX3_makesFile_10
theorem r_X3_makesFile_13 (E : ax_EN G l) : ax_Snd G l ax_Ym M_X3_makesFile 13 (S_iload 1 14) := k_iload_n dX3_makesFile_13 rfl
theorem r_X3_makesFile_14 (E : ax_EN G l) : ax_Snd G l ax_Ym M_X3_makesFile 14 (S_is 415 1 17 hd_0) := k_is (en_F E) (ax_ok0 E rfl) ((ev_s y_X3_entry q3147 q3148 q126 q3149 nm_X3_entry (Nat.le_of_ble_eq_true rfl) dX3_makesFile_14) : ax_EvS G l ax_Ym M_X3_makesFile 14 415 1 3)
theorem r_X3_makesFile_17 (E : ax_EN G l) : ax_Snd G l ax_Ym M_X3_makesFile 17 (S_aload 0 18) := k_aload_n dX3_makesFile_17 rfl
theorem r_X3_makesFile_18 (E : ax_EN G l) : ax_Snd G l ax_Ym M_X3_makesFile 18 (S_getf [(38, 26)] 21) := k_getf (en_F E) (ax_fes_cons (fe_386 E) ax_fes_nil) q2779 dX3_makesFile_18
theorem r_X3_makesFile_21 (E : ax_EN G l) : ax_Snd G l ax_Ym M_X3_makesFile 21 (S_push (.int (0)) 22) := k_iconst dX3_makesFile_21 rfl
theorem r_X3_makesFile_22 (E : ax_EN G l) : ax_Snd G l ax_Ym M_X3_makesFile 22 (S_iald 0 23) := k_iald (en_F E) dX3_makesFile_22
theorem r_X3_makesFile_23 (E : ax_EN G l) : ax_Snd G l ax_Ym M_X3_makesFile 23 (S_iast 0 (fun x => x) 24) := k_iast (en_F E) dX3_makesFile_23
theorem r_X3_makesFile_24 (E : ax_EN G l) : ax_Snd G l ax_Ym M_X3_makesFile 24 (S_aload 0 25) := k_aload_n dX3_makesFile_24 rfl
theorem r_X3_makesFile_25 (E : ax_EN G l) : ax_Snd G l ax_Ym M_X3_makesFile 25 (S_getf [(38, 51)] 28) := k_getf (en_F E) (ax_fes_cons (fe_404 E) ax_fes_nil) q2804 dX3_makesFile_25
theorem r_X3_makesFile_28 (E : ax_EN G l) : ax_Snd G l ax_Ym M_X3_makesFile 28 (S_iload 1 29) := k_iload_n dX3_makesFile_28 rfl
theorem r_X3_makesFile_29 (E : ax_EN G l) : ax_Snd G l ax_Ym M_X3_makesFile 29 (S_is 415 1 32 hd_0) := k_is (en_F E) (ax_ok0 E rfl) ((ev_s y_X3_entry q3147 q3148 q126 q3149 nm_X3_entry (Nat.le_of_ble_eq_true rfl) dX3_makesFile_29) : ax_EvS G l ax_Ym M_X3_makesFile 29 415 1 3)
theorem r_X3_makesFile_32 (E : ax_EN G l) : ax_Snd G l ax_Ym M_X3_makesFile 32 (S_push (.int (1)) 33) := k_iconst dX3_makesFile_32 rfl
theorem r_X3_makesFile_33 (E : ax_EN G l) : ax_Snd G l ax_Ym M_X3_makesFile 33 (S_i2 (fun x y => x + y) 34) := k_iadd dX3_makesFile_33
theorem r_X3_makesFile_34 (E : ax_EN G l) : ax_Snd G l ax_Ym M_X3_makesFile 34 (S_push (.int (0)) 35) := k_iconst dX3_makesFile_34 rfl
theorem r_X3_makesFile_35 (E : ax_EN G l) : ax_Snd G l ax_Ym M_X3_makesFile 35 (S_iast 0 (fun x => x) 36) := k_iast (en_F E) dX3_makesFile_35
theorem r_X3_makesFile_36 (E : ax_EN G l) : ax_Snd G l ax_Ym M_X3_makesFile 36 (S_aload 0 37) := k_aload_n dX3_makesFile_36 rfl
theorem r_X3_makesFile_37 (E : ax_EN G l) : ax_Snd G l ax_Ym M_X3_makesFile 37 (S_getf [(38, 51)] 40) := k_getf (en_F E) (ax_fes_cons (fe_404 E) ax_fes_nil) q2804 dX3_makesFile_37
theorem r_X3_makesFile_40 (E : ax_EN G l) : ax_Snd G l ax_Ym M_X3_makesFile 40 (S_iload 1 41) := k_iload_n dX3_makesFile_40 rfl
theorem r_X3_makesFile_41 (E : ax_EN G l) : ax_Snd G l ax_Ym M_X3_makesFile 41 (S_is 415 1 44 hd_0) := k_is (en_F E) (ax_ok0 E rfl) ((ev_s y_X3_entry q3147 q3148 q126 q3149 nm_X3_entry (Nat.le_of_ble_eq_true rfl) dX3_makesFile_41) : ax_EvS G l ax_Ym M_X3_makesFile 41 415 1 3)
theorem r_X3_makesFile_44 (E : ax_EN G l) : ax_Snd G l ax_Ym M_X3_makesFile 44 (S_push (.int (2)) 45) := k_iconst dX3_makesFile_44 rfl
theorem r_X3_makesFile_45 (E : ax_EN G l) : ax_Snd G l ax_Ym M_X3_makesFile 45 (S_i2 (fun x y => x + y) 46) := k_iadd dX3_makesFile_45
theorem r_X3_makesFile_46 (E : ax_EN G l) : ax_Snd G l ax_Ym M_X3_makesFile 46 (S_push (.int (0)) 47) := k_iconst dX3_makesFile_46 rfl
theorem r_X3_makesFile_47 (E : ax_EN G l) : ax_Snd G l ax_Ym M_X3_makesFile 47 (S_iast 0 (fun x => x) 48) := k_iast (en_F E) dX3_makesFile_47
theorem r_X3_makesFile_48 (E : ax_EN G l) : ax_Snd G l ax_Ym M_X3_makesFile 48 (S_aload 0 49) := k_aload_n dX3_makesFile_48 rfl
theorem r_X3_makesFile_49 (E : ax_EN G l) : ax_Snd G l ax_Ym M_X3_makesFile 49 (S_getf [(38, 51)] 52) := k_getf (en_F E) (ax_fes_cons (fe_404 E) ax_fes_nil) q2804 dX3_makesFile_49
theorem r_X3_makesFile_52 (E : ax_EN G l) : ax_Snd G l ax_Ym M_X3_makesFile 52 (S_iload 1 53) := k_iload_n dX3_makesFile_52 rfl
theorem r_X3_makesFile_53 (E : ax_EN G l) : ax_Snd G l ax_Ym M_X3_makesFile 53 (S_is 415 1 56 hd_0) := k_is (en_F E) (ax_ok0 E rfl) ((ev_s y_X3_entry q3147 q3148 q126 q3149 nm_X3_entry (Nat.le_of_ble_eq_true rfl) dX3_makesFile_53) : ax_EvS G l ax_Ym M_X3_makesFile 53 415 1 3)
theorem r_X3_makesFile_56 (E : ax_EN G l) : ax_Snd G l ax_Ym M_X3_makesFile 56 (S_push (.int (3)) 57) := k_iconst dX3_makesFile_56 rfl
theorem r_X3_makesFile_57 (E : ax_EN G l) : ax_Snd G l ax_Ym M_X3_makesFile 57 (S_i2 (fun x y => x + y) 58) := k_iadd dX3_makesFile_57
theorem r_X3_makesFile_58 (E : ax_EN G l) : ax_Snd G l ax_Ym M_X3_makesFile 58 (S_push (.int (0)) 59) := k_iconst dX3_makesFile_58 rfl
theorem r_X3_makesFile_59 (E : ax_EN G l) : ax_Snd G l ax_Ym M_X3_makesFile 59 (S_iast 0 (fun x => x) 60) := k_iast (en_F E) dX3_makesFile_59
theorem r_X3_makesFile_60 (E : ax_EN G l) : ax_Snd G l ax_Ym M_X3_makesFile 60 (S_iload 1 61) := k_iload_n dX3_makesFile_60 rfl
theorem r_X3_makesFile_61 (E : ax_EN G l) : ax_Snd G l ax_Ym M_X3_makesFile 61 (S_is 441 1 64 hd_0) := k_is (en_F E) (ax_ok0 E rfl) ((ev_s y_X3_blockOfEntry q3247 q3248 q126 q3249 nm_X3_blockOfEntry (Nat.le_of_ble_eq_true rfl) dX3_makesFile_61) : ax_EvS G l ax_Ym M_X3_makesFile 61 441 1 3)
theorem r_X3_makesFile_64 (E : ax_EN G l) : ax_Snd G l ax_Ym M_X3_makesFile 64 (S_iret) := k_iret dX3_makesFile_64 rfl
theorem mt_X3_makesFile (E : ax_EN G l) : ax_mt G l ax_Ym (2, P_X3_makesFile) (ax_Ym 440) := ⟨M_X3_makesFile, yX3_makesFile, ⟨rfl, by decide +kernel, rfl, (fun h => by cases h), Or.inl ⟨rfl, rfl⟩⟩, fun pc => (ax_sn_node (ax_sn_node (ax_sn_node (ax_sn_node (ax_sn_node (ax_sn_node (ax_sn_leaf (r_X3_makesFile_64 E)) (ax_sn_leaf (r_X3_makesFile_61 E))) (ax_sn_leaf (r_X3_makesFile_60 E))) (ax_sn_node (ax_sn_node (ax_sn_leaf (r_X3_makesFile_59 E)) (ax_sn_leaf (r_X3_makesFile_58 E))) (ax_sn_leaf (r_X3_makesFile_57 E)))) (ax_sn_node (ax_sn_node (ax_sn_node (ax_sn_leaf (r_X3_makesFile_56 E)) (ax_sn_leaf (r_X3_makesFile_53 E))) (ax_sn_leaf (r_X3_makesFile_52 E))) (ax_sn_node (ax_sn_leaf (r_X3_makesFile_49 E)) (ax_sn_leaf (r_X3_makesFile_48 E))))) (ax_sn_node (ax_sn_node (ax_sn_node (ax_sn_node (ax_sn_leaf (r_X3_makesFile_47 E)) (ax_sn_leaf (r_X3_makesFile_46 E))) (ax_sn_leaf (r_X3_makesFile_45 E))) (ax_sn_node (ax_sn_leaf (r_X3_makesFile_44 E)) (ax_sn_leaf (r_X3_makesFile_41 E)))) (ax_sn_node (ax_sn_node (ax_sn_node (ax_sn_leaf (r_X3_makesFile_40 E)) (ax_sn_leaf (r_X3_makesFile_37 E))) (ax_sn_leaf (r_X3_makesFile_36 E))) (ax_sn_node (ax_sn_leaf (r_X3_makesFile_35 E)) (ax_sn_leaf (r_X3_makesFile_34 E)))))) (ax_sn_node (ax_sn_node (ax_sn_node (ax_sn_node (ax_sn_node (ax_sn_leaf (r_X3_makesFile_33 E)) (ax_sn_leaf (r_X3_makesFile_32 E))) (ax_sn_leaf (r_X3_makesFile_29 E))) (ax_sn_node (ax_sn_leaf (r_X3_makesFile_28 E)) (ax_sn_leaf (r_X3_makesFile_25 E)))) (ax_sn_node (ax_sn_node (ax_sn_node (ax_sn_leaf (r_X3_makesFile_24 E)) (ax_sn_leaf (r_X3_makesFile_23 E))) (ax_sn_leaf (r_X3_makesFile_22 E))) (ax_sn_node (ax_sn_leaf (r_X3_makesFile_21 E)) (ax_sn_leaf (r_X3_makesFile_18 E))))) (ax_sn_node (ax_sn_node (ax_sn_node (ax_sn_node (ax_sn_leaf (r_X3_makesFile_17 E)) (ax_sn_leaf (r_X3_makesFile_14 E))) (ax_sn_leaf (r_X3_makesFile_13 E))) (ax_sn_node (ax_sn_leaf (r_X3_makesFile_10 E)) (ax_sn_leaf (r_X3_makesFile_9 E)))) (ax_sn_node (ax_sn_node (ax_sn_node (ax_sn_leaf (r_X3_makesFile_8 E)) (ax_sn_leaf (r_X3_makesFile_5 E))) (ax_sn_leaf (r_X3_makesFile_4 E))) (ax_sn_node (ax_sn_leaf (r_X3_makesFile_1 E)) (ax_sn_leaf (r_X3_makesFile_0 E)))))))⟩
theorem r_X3_blockOfEntry_0 (E : ax_EN G l) : ax_Snd G l ax_Ym M_X3_blockOfEntry 0 (S_push (.int (1)) 1) := k_iconst dX3_blockOfEntry_0 rfl
theorem r_X3_blockOfEntry_1 (E : ax_EN G l) : ax_Snd G l ax_Ym M_X3_blockOfEntry 1 (S_push (.int (5)) 2) := k_iconst dX3_blockOfEntry_1 rfl
theorem r_X3_blockOfEntry_2 (E : ax_EN G l) : ax_Snd G l ax_Ym M_X3_blockOfEntry 2 (S_iload 0 3) := k_iload_n dX3_blockOfEntry_2 rfl
theorem r_X3_blockOfEntry_3 (E : ax_EN G l) : ax_Snd G l ax_Ym M_X3_blockOfEntry 3 (S_push (.int (2)) 4) := k_iconst dX3_blockOfEntry_3 rfl
theorem r_X3_blockOfEntry_4 (E : ax_EN G l) : ax_Snd G l ax_Ym M_X3_blockOfEntry 4 (S_id (fun x y => x / y) 5) := k_idiv dX3_blockOfEntry_4
theorem r_X3_blockOfEntry_5 (E : ax_EN G l) : ax_Snd G l ax_Ym M_X3_blockOfEntry 5 (S_i2 (fun x y => x + y) 6) := k_iadd dX3_blockOfEntry_5
theorem r_X3_blockOfEntry_6 (E : ax_EN G l) : ax_Snd G l ax_Ym M_X3_blockOfEntry 6 (S_i2 (fun x y => x <<< (y &&& 31)) 7) := k_ishl dX3_blockOfEntry_6
theorem r_X3_blockOfEntry_7 (E : ax_EN G l) : ax_Snd G l ax_Ym M_X3_blockOfEntry 7 (S_iret) := k_iret dX3_blockOfEntry_7 rfl
theorem mt_X3_blockOfEntry (E : ax_EN G l) : ax_mt G l ax_Ym (1, P_X3_blockOfEntry) (ax_Ym 441) := ⟨M_X3_blockOfEntry, yX3_blockOfEntry, ⟨rfl, by decide +kernel, rfl, (fun h => by cases h), Or.inl ⟨rfl, rfl⟩⟩, fun pc => (ax_sn_node (ax_sn_node (ax_sn_node (ax_sn_leaf (r_X3_blockOfEntry_7 E)) (ax_sn_leaf (r_X3_blockOfEntry_6 E))) (ax_sn_node (ax_sn_leaf (r_X3_blockOfEntry_5 E)) (ax_sn_leaf (r_X3_blockOfEntry_4 E)))) (ax_sn_node (ax_sn_node (ax_sn_leaf (r_X3_blockOfEntry_3 E)) (ax_sn_leaf (r_X3_blockOfEntry_2 E))) (ax_sn_node (ax_sn_leaf (r_X3_blockOfEntry_1 E)) (ax_sn_leaf (r_X3_blockOfEntry_0 E)))))⟩
theorem r_X3_appends_0 (E : ax_EN G l) : ax_Snd G l ax_Ym M_X3_appends 0 (S_aload 0 1) := k_aload_n dX3_appends_0 rfl
theorem r_X3_appends_1 (E : ax_EN G l) : ax_Snd G l ax_Ym M_X3_appends 1 (S_getf [(38, 51)] 4) := k_getf (en_F E) (ax_fes_cons (fe_404 E) ax_fes_nil) q2804 dX3_appends_1
theorem r_X3_appends_4 (E : ax_EN G l) : ax_Snd G l ax_Ym M_X3_appends 4 (S_iload 1 5) := k_iload_n dX3_appends_4 rfl
theorem r_X3_appends_5 (E : ax_EN G l) : ax_Snd G l ax_Ym M_X3_appends 5 (S_is 415 1 8 hd_0) := k_is (en_F E) (ax_ok0 E rfl) ((ev_s y_X3_entry q3147 q3148 q126 q3149 nm_X3_entry (Nat.le_of_ble_eq_true rfl) dX3_appends_5) : ax_EvS G l ax_Ym M_X3_appends 5 415 1 3)
theorem r_X3_appends_8 (E : ax_EN G l) : ax_Snd G l ax_Ym M_X3_appends 8 (S_push (.int (1)) 9) := k_iconst dX3_appends_8 rfl
theorem r_X3_appends_9 (E : ax_EN G l) : ax_Snd G l ax_Ym M_X3_appends 9 (S_i2 (fun x y => x + y) 10) := k_iadd dX3_appends_9
theorem r_X3_appends_10 (E : ax_EN G l) : ax_Snd G l ax_Ym M_X3_appends 10 (S_iald 0 11) := k_iald (en_F E) dX3_appends_10
theorem r_X3_appends_11 (E : ax_EN G l) : ax_Snd G l ax_Ym M_X3_appends 11 (S_istore 2 12) := k_istore_n dX3_appends_11 rfl (Nat.le_of_ble_eq_true rfl)
theorem r_X3_appends_12 (E : ax_EN G l) : ax_Snd G l ax_Ym M_X3_appends 12 (S_iload 1 13) := k_iload_n dX3_appends_12 rfl
theorem r_X3_appends_13 (E : ax_EN G l) : ax_Snd G l ax_Ym M_X3_appends 13 (S_is 441 1 16 hd_0) := k_is (en_F E) (ax_ok0 E rfl) ((ev_s y_X3_blockOfEntry q3247 q3248 q126 q3249 nm_X3_blockOfEntry (Nat.le_of_ble_eq_true rfl) dX3_appends_13) : ax_EvS G l ax_Ym M_X3_appends 13 441 1 3)
theorem r_X3_appends_16 (E : ax_EN G l) : ax_Snd G l ax_Ym M_X3_appends 16 (S_istore 3 17) := k_istore_n dX3_appends_16 rfl (Nat.le_of_ble_eq_true rfl)
theorem r_X3_appends_17 (E : ax_EN G l) : ax_Snd G l ax_Ym M_X3_appends 17 (S_iload 2 18) := k_iload_n dX3_appends_17 rfl
theorem r_X3_appends_18 (E : ax_EN G l) : ax_Snd G l ax_Ym M_X3_appends 18 (S_push (.int (8)) 20) := k_bipush dX3_appends_18 rfl
theorem r_X3_appends_20 (E : ax_EN G l) : ax_Snd G l ax_Ym M_X3_appends 20 (S_id (fun x y => x - x / y * y) 21) := k_irem dX3_appends_20
theorem r_X3_appends_21 (E : ax_EN G l) : ax_Snd G l ax_Ym M_X3_appends 21 (S_if1 (fun x => decide (¬ x = 0)) 92 24) := k_if_ne dX3_appends_21 rfl
theorem r_X3_appends_24 (E : ax_EN G l) : ax_Snd G l ax_Ym M_X3_appends 24 (S_aload 0 25) := k_aload_n dX3_appends_24 rfl
theorem r_X3_appends_25 (E : ax_EN G l) : ax_Snd G l ax_Ym M_X3_appends 25 (S_iv [(38, 437)] 0 28 hd_0) := k_iv (en_F E) (ax_ok0 E rfl) (ax_Evs_cons ((ev_v (en_c E (k := 38) rfl) rfl y_X3_freeBlock q3232 q3234 qs99 q126 q3235 nm_X3_freeBlock (Nat.le_of_ble_eq_true rfl) dX3_appends_25) : ax_EvV G l ax_Ym M_X3_appends 25 0 3 38 437) ax_Evs_nil)
theorem r_X3_appends_28 (E : ax_EN G l) : ax_Snd G l ax_Ym M_X3_appends 28 (S_istore 4 30) := k_istore dX3_appends_28 (Nat.le_of_ble_eq_true rfl)
theorem r_X3_appends_30 (E : ax_EN G l) : ax_Snd G l ax_Ym M_X3_appends 30 (S_aload 0 31) := k_aload_n dX3_appends_30 rfl
theorem r_X3_appends_31 (E : ax_EN G l) : ax_Snd G l ax_Ym M_X3_appends 31 (S_getf [(38, 51)] 34) := k_getf (en_F E) (ax_fes_cons (fe_404 E) ax_fes_nil) q2804 dX3_appends_31
theorem r_X3_appends_34 (E : ax_EN G l) : ax_Snd G l ax_Ym M_X3_appends 34 (S_iload 4 36) := k_iload dX3_appends_34
theorem r_X3_appends_36 (E : ax_EN G l) : ax_Snd G l ax_Ym M_X3_appends 36 (S_is 443 2 39 hd_0) := k_is (en_F E) (ax_ok0 E rfl) ((ev_s y_X3_turns q3254 q3255 q126 q3256 nm_X3_turns (Nat.le_of_ble_eq_true rfl) dX3_appends_36) : ax_EvS G l ax_Ym M_X3_appends 36 443 2 3)
theorem r_X3_appends_39 (E : ax_EN G l) : ax_Snd G l ax_Ym M_X3_appends 39 (S_aload 0 40) := k_aload_n dX3_appends_39 rfl
theorem r_X3_appends_40 (E : ax_EN G l) : ax_Snd G l ax_Ym M_X3_appends 40 (S_getf [(38, 51)] 43) := k_getf (en_F E) (ax_fes_cons (fe_404 E) ax_fes_nil) q2804 dX3_appends_40
theorem r_X3_appends_43 (E : ax_EN G l) : ax_Snd G l ax_Ym M_X3_appends 43 (S_iload 1 44) := k_iload_n dX3_appends_43 rfl
theorem r_X3_appends_44 (E : ax_EN G l) : ax_Snd G l ax_Ym M_X3_appends 44 (S_is 415 1 47 hd_0) := k_is (en_F E) (ax_ok0 E rfl) ((ev_s y_X3_entry q3147 q3148 q126 q3149 nm_X3_entry (Nat.le_of_ble_eq_true rfl) dX3_appends_44) : ax_EvS G l ax_Ym M_X3_appends 44 415 1 3)
theorem r_X3_appends_47 (E : ax_EN G l) : ax_Snd G l ax_Ym M_X3_appends 47 (S_push (.int (2)) 48) := k_iconst dX3_appends_47 rfl
theorem r_X3_appends_48 (E : ax_EN G l) : ax_Snd G l ax_Ym M_X3_appends 48 (S_i2 (fun x y => x + y) 49) := k_iadd dX3_appends_48
theorem r_X3_appends_49 (E : ax_EN G l) : ax_Snd G l ax_Ym M_X3_appends 49 (S_iload 2 50) := k_iload_n dX3_appends_49 rfl
theorem r_X3_appends_50 (E : ax_EN G l) : ax_Snd G l ax_Ym M_X3_appends 50 (S_push (.int (8)) 52) := k_bipush dX3_appends_50 rfl
theorem r_X3_appends_52 (E : ax_EN G l) : ax_Snd G l ax_Ym M_X3_appends 52 (S_id (fun x y => x / y) 53) := k_idiv dX3_appends_52
theorem r_X3_appends_53 (E : ax_EN G l) : ax_Snd G l ax_Ym M_X3_appends 53 (S_i2 (fun x y => x + y) 54) := k_iadd dX3_appends_53
theorem r_X3_appends_54 (E : ax_EN G l) : ax_Snd G l ax_Ym M_X3_appends 54 (S_iload 4 56) := k_iload dX3_appends_54
theorem r_X3_appends_56 (E : ax_EN G l) : ax_Snd G l ax_Ym M_X3_appends 56 (S_iast 0 (fun x => x) 57) := k_iast (en_F E) dX3_appends_56
theorem r_X3_appends_57 (E : ax_EN G l) : ax_Snd G l ax_Ym M_X3_appends 57 (S_push (.int (0)) 58) := k_iconst dX3_appends_57 rfl
theorem r_X3_appends_58 (E : ax_EN G l) : ax_Snd G l ax_Ym M_X3_appends 58 (S_istore 5 60) := k_istore dX3_appends_58 (Nat.le_of_ble_eq_true rfl)
theorem r_X3_appends_60 (E : ax_EN G l) : ax_Snd G l ax_Ym M_X3_appends 60 (S_iload 5 62) := k_iload dX3_appends_60
theorem r_X3_appends_62 (E : ax_EN G l) : ax_Snd G l ax_Ym M_X3_appends 62 (S_push (.int (8)) 64) := k_bipush dX3_appends_62 rfl
theorem r_X3_appends_64 (E : ax_EN G l) : ax_Snd G l ax_Ym M_X3_appends 64 (S_if2 (fun x y => decide (y ≤ x)) 87 67) := k_icmp_ge dX3_appends_64 rfl
theorem r_X3_appends_67 (E : ax_EN G l) : ax_Snd G l ax_Ym M_X3_appends 67 (S_aload 0 68) := k_aload_n dX3_appends_67 rfl
theorem r_X3_appends_68 (E : ax_EN G l) : ax_Snd G l ax_Ym M_X3_appends 68 (S_getf [(38, 51)] 71) := k_getf (en_F E) (ax_fes_cons (fe_404 E) ax_fes_nil) q2804 dX3_appends_68
theorem r_X3_appends_71 (E : ax_EN G l) : ax_Snd G l ax_Ym M_X3_appends 71 (S_push (.int (8)) 73) := k_bipush dX3_appends_71 rfl
theorem r_X3_appends_73 (E : ax_EN G l) : ax_Snd G l ax_Ym M_X3_appends 73 (S_iload 4 75) := k_iload dX3_appends_73
theorem r_X3_appends_75 (E : ax_EN G l) : ax_Snd G l ax_Ym M_X3_appends 75 (S_i2 (fun x y => x * y) 76) := k_imul dX3_appends_75
theorem r_X3_appends_76 (E : ax_EN G l) : ax_Snd G l ax_Ym M_X3_appends 76 (S_iload 5 78) := k_iload dX3_appends_76
theorem r_X3_appends_78 (E : ax_EN G l) : ax_Snd G l ax_Ym M_X3_appends 78 (S_i2 (fun x y => x + y) 79) := k_iadd dX3_appends_78
theorem r_X3_appends_79 (E : ax_EN G l) : ax_Snd G l ax_Ym M_X3_appends 79 (S_push (.int (0)) 80) := k_iconst dX3_appends_79 rfl
theorem r_X3_appends_80 (E : ax_EN G l) : ax_Snd G l ax_Ym M_X3_appends 80 (S_iast 0 (fun x => x) 81) := k_iast (en_F E) dX3_appends_80
theorem r_X3_appends_81 (E : ax_EN G l) : ax_Snd G l ax_Ym M_X3_appends 81 (S_iinc 5 (1) 84) := k_iinc dX3_appends_81 rfl (Nat.le_of_ble_eq_true rfl)
theorem r_X3_appends_84 (E : ax_EN G l) : ax_Snd G l ax_Ym M_X3_appends 84 (S_goto 60) := k_goto dX3_appends_84 rfl
theorem r_X3_appends_87 (E : ax_EN G l) : ax_Snd G l ax_Ym M_X3_appends 87 (S_iload 3 88) := k_iload_n dX3_appends_87 rfl
theorem r_X3_appends_88 (E : ax_EN G l) : ax_Snd G l ax_Ym M_X3_appends 88 (S_push (.int (16)) 90) := k_bipush dX3_appends_88 rfl
theorem r_X3_appends_90 (E : ax_EN G l) : ax_Snd G l ax_Ym M_X3_appends 90 (S_i2 (fun x y => x ||| y) 91) := k_ior dX3_appends_90
theorem r_X3_appends_91 (E : ax_EN G l) : ax_Snd G l ax_Ym M_X3_appends 91 (S_istore 3 92) := k_istore_n dX3_appends_91 rfl (Nat.le_of_ble_eq_true rfl)
theorem r_X3_appends_92 (E : ax_EN G l) : ax_Snd G l ax_Ym M_X3_appends 92 (S_aload 0 93) := k_aload_n dX3_appends_92 rfl
theorem r_X3_appends_93 (E : ax_EN G l) : ax_Snd G l ax_Ym M_X3_appends 93 (S_aload 0 94) := k_aload_n dX3_appends_93 rfl
theorem r_X3_appends_94 (E : ax_EN G l) : ax_Snd G l ax_Ym M_X3_appends 94 (S_getf [(38, 51)] 97) := k_getf (en_F E) (ax_fes_cons (fe_404 E) ax_fes_nil) q2804 dX3_appends_94
theorem r_X3_appends_97 (E : ax_EN G l) : ax_Snd G l ax_Ym M_X3_appends 97 (S_iload 1 98) := k_iload_n dX3_appends_97 rfl
theorem r_X3_appends_98 (E : ax_EN G l) : ax_Snd G l ax_Ym M_X3_appends 98 (S_iload 2 99) := k_iload_n dX3_appends_98 rfl
theorem r_X3_appends_99 (E : ax_EN G l) : ax_Snd G l ax_Ym M_X3_appends 99 (S_iv [(38, 439)] 3 102 hd_0) := k_iv (en_F E) (ax_ok0 E rfl) (ax_Evs_cons ((ev_v (en_c E (k := 38) rfl) rfl y_X3_blockOf q3239 q3241 qs100 q126 q3242 nm_X3_blockOf (Nat.le_of_ble_eq_true rfl) dX3_appends_99) : ax_EvV G l ax_Ym M_X3_appends 99 3 3 38 439) ax_Evs_nil)
theorem r_X3_appends_102 (E : ax_EN G l) : ax_Snd G l ax_Ym M_X3_appends 102 (S_istore 4 104) := k_istore dX3_appends_102 (Nat.le_of_ble_eq_true rfl)
theorem r_X3_appends_104 (E : ax_EN G l) : ax_Snd G l ax_Ym M_X3_appends 104 (S_aload 0 105) := k_aload_n dX3_appends_104 rfl
theorem r_X3_appends_105 (E : ax_EN G l) : ax_Snd G l ax_Ym M_X3_appends 105 (S_getf [(38, 51)] 108) := k_getf (en_F E) (ax_fes_cons (fe_404 E) ax_fes_nil) q2804 dX3_appends_105
theorem r_X3_appends_108 (E : ax_EN G l) : ax_Snd G l ax_Ym M_X3_appends 108 (S_push (.int (8)) 110) := k_bipush dX3_appends_108 rfl
theorem r_X3_appends_110 (E : ax_EN G l) : ax_Snd G l ax_Ym M_X3_appends 110 (S_iload 4 112) := k_iload dX3_appends_110
theorem r_X3_appends_112 (E : ax_EN G l) : ax_Snd G l ax_Ym M_X3_appends 112 (S_i2 (fun x y => x * y) 113) := k_imul dX3_appends_112
theorem r_X3_appends_113 (E : ax_EN G l) : ax_Snd G l ax_Ym M_X3_appends 113 (S_iload 2 114) := k_iload_n dX3_appends_113 rfl
theorem r_X3_appends_114 (E : ax_EN G l) : ax_Snd G l ax_Ym M_X3_appends 114 (S_push (.int (8)) 116) := k_bipush dX3_appends_114 rfl
theorem r_X3_appends_116 (E : ax_EN G l) : ax_Snd G l ax_Ym M_X3_appends 116 (S_id (fun x y => x - x / y * y) 117) := k_irem dX3_appends_116
theorem r_X3_appends_117 (E : ax_EN G l) : ax_Snd G l ax_Ym M_X3_appends 117 (S_i2 (fun x y => x + y) 118) := k_iadd dX3_appends_117
theorem r_X3_appends_118 (E : ax_EN G l) : ax_Snd G l ax_Ym M_X3_appends 118 (S_aload 0 119) := k_aload_n dX3_appends_118 rfl
theorem r_X3_appends_119 (E : ax_EN G l) : ax_Snd G l ax_Ym M_X3_appends 119 (S_getf [(38, 26)] 122) := k_getf (en_F E) (ax_fes_cons (fe_386 E) ax_fes_nil) q2779 dX3_appends_119
theorem r_X3_appends_122 (E : ax_EN G l) : ax_Snd G l ax_Ym M_X3_appends 122 (S_push (.int (1)) 123) := k_iconst dX3_appends_122 rfl
theorem r_X3_appends_123 (E : ax_EN G l) : ax_Snd G l ax_Ym M_X3_appends 123 (S_iald 0 124) := k_iald (en_F E) dX3_appends_123
theorem r_X3_appends_124 (E : ax_EN G l) : ax_Snd G l ax_Ym M_X3_appends 124 (S_iast 0 (fun x => x) 125) := k_iast (en_F E) dX3_appends_124
theorem r_X3_appends_125 (E : ax_EN G l) : ax_Snd G l ax_Ym M_X3_appends 125 (S_aload 0 126) := k_aload_n dX3_appends_125 rfl
theorem r_X3_appends_126 (E : ax_EN G l) : ax_Snd G l ax_Ym M_X3_appends 126 (S_getf [(38, 51)] 129) := k_getf (en_F E) (ax_fes_cons (fe_404 E) ax_fes_nil) q2804 dX3_appends_126
theorem r_X3_appends_129 (E : ax_EN G l) : ax_Snd G l ax_Ym M_X3_appends 129 (S_iload 1 130) := k_iload_n dX3_appends_129 rfl
theorem r_X3_appends_130 (E : ax_EN G l) : ax_Snd G l ax_Ym M_X3_appends 130 (S_is 415 1 133 hd_0) := k_is (en_F E) (ax_ok0 E rfl) ((ev_s y_X3_entry q3147 q3148 q126 q3149 nm_X3_entry (Nat.le_of_ble_eq_true rfl) dX3_appends_130) : ax_EvS G l ax_Ym M_X3_appends 130 415 1 3)
theorem r_X3_appends_133 (E : ax_EN G l) : ax_Snd G l ax_Ym M_X3_appends 133 (S_push (.int (1)) 134) := k_iconst dX3_appends_133 rfl
theorem r_X3_appends_134 (E : ax_EN G l) : ax_Snd G l ax_Ym M_X3_appends 134 (S_i2 (fun x y => x + y) 135) := k_iadd dX3_appends_134
theorem r_X3_appends_135 (E : ax_EN G l) : ax_Snd G l ax_Ym M_X3_appends 135 (S_iload 2 136) := k_iload_n dX3_appends_135 rfl
theorem r_X3_appends_136 (E : ax_EN G l) : ax_Snd G l ax_Ym M_X3_appends 136 (S_push (.int (1)) 137) := k_iconst dX3_appends_136 rfl
theorem r_X3_appends_137 (E : ax_EN G l) : ax_Snd G l ax_Ym M_X3_appends 137 (S_i2 (fun x y => x + y) 138) := k_iadd dX3_appends_137
theorem r_X3_appends_138 (E : ax_EN G l) : ax_Snd G l ax_Ym M_X3_appends 138 (S_iast 0 (fun x => x) 139) := k_iast (en_F E) dX3_appends_138
theorem r_X3_appends_139 (E : ax_EN G l) : ax_Snd G l ax_Ym M_X3_appends 139 (S_iload 3 140) := k_iload_n dX3_appends_139 rfl
theorem r_X3_appends_140 (E : ax_EN G l) : ax_Snd G l ax_Ym M_X3_appends 140 (S_push (.int (1)) 141) := k_iconst dX3_appends_140 rfl
theorem r_X3_appends_141 (E : ax_EN G l) : ax_Snd G l ax_Ym M_X3_appends 141 (S_iload 4 143) := k_iload dX3_appends_141
theorem r_X3_appends_143 (E : ax_EN G l) : ax_Snd G l ax_Ym M_X3_appends 143 (S_i2 (fun x y => x <<< (y &&& 31)) 144) := k_ishl dX3_appends_143
theorem r_X3_appends_144 (E : ax_EN G l) : ax_Snd G l ax_Ym M_X3_appends 144 (S_i2 (fun x y => x ||| y) 145) := k_ior dX3_appends_144
theorem r_X3_appends_145 (E : ax_EN G l) : ax_Snd G l ax_Ym M_X3_appends 145 (S_iret) := k_iret dX3_appends_145 rfl
theorem mt_X3_appends (E : ax_EN G l) : ax_mt G l ax_Ym (6, P_X3_appends) (ax_Ym 442) := ⟨M_X3_appends, yX3_appends, ⟨rfl, by decide +kernel, rfl, (fun h => by cases h), Or.inl ⟨rfl, rfl⟩⟩, fun pc => (ax_sn_node (ax_sn_node (ax_sn_node (ax_sn_node (ax_sn_node (ax_sn_node (ax_sn_node (ax_sn_leaf (r_X3_appends_145 E)) (ax_sn_leaf (r_X3_appends_144 E))) (ax_sn_leaf (r_X3_appends_143 E))) (ax_sn_node (ax_sn_node (ax_sn_leaf (r_X3_appends_141 E)) (ax_sn_leaf (r_X3_appends_140 E))) (ax_sn_leaf (r_X3_appends_139 E)))) (ax_sn_node (ax_sn_node (ax_sn_node (ax_sn_leaf (r_X3_appends_138 E)) (ax_sn_leaf (r_X3_appends_137 E))) (ax_sn_leaf (r_X3_appends_136 E))) (ax_sn_node (ax_sn_node (ax_sn_leaf (r_X3_appends_135 E)) (ax_sn_leaf (r_X3_appends_134 E))) (ax_sn_leaf (r_X3_appends_133 E))))) (ax_sn_node (ax_sn_node (ax_sn_node (ax_sn_node (ax_sn_leaf (r_X3_appends_130 E)) (ax_sn_leaf (r_X3_appends_129 E))) (ax_sn_leaf (r_X3_appends_126 E))) (ax_sn_node (ax_sn_node (ax_sn_leaf (r_X3_appends_125 E)) (ax_sn_leaf (r_X3_appends_124 E))) (ax_sn_leaf (r_X3_appends_123 E)))) (ax_sn_node (ax_sn_node (ax_sn_node (ax_sn_leaf (r_X3_appends_122 E)) (ax_sn_leaf (r_X3_appends_119 E))) (ax_sn_leaf (r_X3_appends_118 E))) (ax_sn_node (ax_sn_leaf (r_X3_appends_117 E)) (ax_sn_leaf (r_X3_appends_116 E)))))) (ax_sn_node (ax_sn_node (ax_sn_node (ax_sn_node (ax_sn_node (ax_sn_leaf (r_X3_appends_114 E)) (ax_sn_leaf (r_X3_appends_113 E))) (ax_sn_leaf (r_X3_appends_112 E))) (ax_sn_node (ax_sn_node (ax_sn_leaf (r_X3_appends_110 E)) (ax_sn_leaf (r_X3_appends_108 E))) (ax_sn_leaf (r_X3_appends_105 E)))) (ax_sn_node (ax_sn_node (ax_sn_node (ax_sn_leaf (r_X3_appends_104 E)) (ax_sn_leaf (r_X3_appends_102 E))) (ax_sn_leaf (r_X3_appends_99 E))) (ax_sn_node (ax_sn_node (ax_sn_leaf (r_X3_appends_98 E)) (ax_sn_leaf (r_X3_appends_97 E))) (ax_sn_leaf (r_X3_appends_94 E))))) (ax_sn_node (ax_sn_node (ax_sn_node (ax_sn_node (ax_sn_leaf (r_X3_appends_93 E)) (ax_sn_leaf (r_X3_appends_92 E))) (ax_sn_leaf (r_X3_appends_91 E))) (ax_sn_node (ax_sn_node (ax_sn_leaf (r_X3_appends_90 E)) (ax_sn_leaf (r_X3_appends_88 E))) (ax_sn_leaf (r_X3_appends_87 E)))) (ax_sn_node (ax_sn_node (ax_sn_node (ax_sn_leaf (r_X3_appends_84 E)) (ax_sn_leaf (r_X3_appends_81 E))) (ax_sn_leaf (r_X3_appends_80 E))) (ax_sn_node (ax_sn_leaf (r_X3_appends_79 E)) (ax_sn_leaf (r_X3_appends_78 E))))))) (ax_sn_node (ax_sn_node (ax_sn_node (ax_sn_node (ax_sn_node (ax_sn_node (ax_sn_leaf (r_X3_appends_76 E)) (ax_sn_leaf (r_X3_appends_75 E))) (ax_sn_leaf (r_X3_appends_73 E))) (ax_sn_node (ax_sn_node (ax_sn_leaf (r_X3_appends_71 E)) (ax_sn_leaf (r_X3_appends_68 E))) (ax_sn_leaf (r_X3_appends_67 E)))) (ax_sn_node (ax_sn_node (ax_sn_node (ax_sn_leaf (r_X3_appends_64 E)) (ax_sn_leaf (r_X3_appends_62 E))) (ax_sn_leaf (r_X3_appends_60 E))) (ax_sn_node (ax_sn_node (ax_sn_leaf (r_X3_appends_58 E)) (ax_sn_leaf (r_X3_appends_57 E))) (ax_sn_leaf (r_X3_appends_56 E))))) (ax_sn_node (ax_sn_node (ax_sn_node (ax_sn_node (ax_sn_leaf (r_X3_appends_54 E)) (ax_sn_leaf (r_X3_appends_53 E))) (ax_sn_leaf (r_X3_appends_52 E))) (ax_sn_node (ax_sn_node (ax_sn_leaf (r_X3_appends_50 E)) (ax_sn_leaf (r_X3_appends_49 E))) (ax_sn_leaf (r_X3_appends_48 E)))) (ax_sn_node (ax_sn_node (ax_sn_node (ax_sn_leaf (r_X3_appends_47 E)) (ax_sn_leaf (r_X3_appends_44 E))) (ax_sn_leaf (r_X3_appends_43 E))) (ax_sn_node (ax_sn_leaf (r_X3_appends_40 E)) (ax_sn_leaf (r_X3_appends_39 E)))))) (ax_sn_node (ax_sn_node (ax_sn_node (ax_sn_node (ax_sn_node (ax_sn_leaf (r_X3_appends_36 E)) (ax_sn_leaf (r_X3_appends_34 E))) (ax_sn_leaf (r_X3_appends_31 E))) (ax_sn_node (ax_sn_node (ax_sn_leaf (r_X3_appends_30 E)) (ax_sn_leaf (r_X3_appends_28 E))) (ax_sn_leaf (r_X3_appends_25 E)))) (ax_sn_node (ax_sn_node (ax_sn_node (ax_sn_leaf (r_X3_appends_24 E)) (ax_sn_leaf (r_X3_appends_21 E))) (ax_sn_leaf (r_X3_appends_20 E))) (ax_sn_node (ax_sn_leaf (r_X3_appends_18 E)) (ax_sn_leaf (r_X3_appends_17 E))))) (ax_sn_node (ax_sn_node (ax_sn_node (ax_sn_node (ax_sn_leaf (r_X3_appends_16 E)) (ax_sn_leaf (r_X3_appends_13 E))) (ax_sn_leaf (r_X3_appends_12 E))) (ax_sn_node (ax_sn_node (ax_sn_leaf (r_X3_appends_11 E)) (ax_sn_leaf (r_X3_appends_10 E))) (ax_sn_leaf (r_X3_appends_9 E)))) (ax_sn_node (ax_sn_node (ax_sn_node (ax_sn_leaf (r_X3_appends_8 E)) (ax_sn_leaf (r_X3_appends_5 E))) (ax_sn_leaf (r_X3_appends_4 E))) (ax_sn_node (ax_sn_leaf (r_X3_appends_1 E)) (ax_sn_leaf (r_X3_appends_0 E))))))))⟩
theorem r_X3_turns_0 (E : ax_EN G l) : ax_Snd G l ax_Ym M_X3_turns 0 (S_aload 0 1) := k_aload_n dX3_turns_0 rfl
theorem r_X3_turns_1 (E : ax_EN G l) : ax_Snd G l ax_Ym M_X3_turns 1 (S_push (.int (32)) 3) := k_bipush dX3_turns_1 rfl
theorem r_X3_turns_3 (E : ax_EN G l) : ax_Snd G l ax_Ym M_X3_turns 3 (S_iload 1 4) := k_iload_n dX3_turns_3 rfl
theorem r_X3_turns_4 (E : ax_EN G l) : ax_Snd G l ax_Ym M_X3_turns 4 (S_push (.int (16)) 6) := k_bipush dX3_turns_4 rfl
theorem r_X3_turns_6 (E : ax_EN G l) : ax_Snd G l ax_Ym M_X3_turns 6 (S_id (fun x y => x / y) 7) := k_idiv dX3_turns_6
theorem r_X3_turns_7 (E : ax_EN G l) : ax_Snd G l ax_Ym M_X3_turns 7 (S_i2 (fun x y => x + y) 8) := k_iadd dX3_turns_7
theorem r_X3_turns_8 (E : ax_EN G l) : ax_Snd G l ax_Ym M_X3_turns 8 (S_dup2 9) := k_dup2 dX3_turns_8
theorem r_X3_turns_9 (E : ax_EN G l) : ax_Snd G l ax_Ym M_X3_turns 9 (S_iald 0 10) := k_iald (en_F E) dX3_turns_9
theorem r_X3_turns_10 (E : ax_EN G l) : ax_Snd G l ax_Ym M_X3_turns 10 (S_push (.int (1)) 11) := k_iconst dX3_turns_10 rfl
theorem r_X3_turns_11 (E : ax_EN G l) : ax_Snd G l ax_Ym M_X3_turns 11 (S_iload 1 12) := k_iload_n dX3_turns_11 rfl
theorem r_X3_turns_12 (E : ax_EN G l) : ax_Snd G l ax_Ym M_X3_turns 12 (S_push (.int (16)) 14) := k_bipush dX3_turns_12 rfl
theorem r_X3_turns_14 (E : ax_EN G l) : ax_Snd G l ax_Ym M_X3_turns 14 (S_id (fun x y => x - x / y * y) 15) := k_irem dX3_turns_14
theorem r_X3_turns_15 (E : ax_EN G l) : ax_Snd G l ax_Ym M_X3_turns 15 (S_i2 (fun x y => x <<< (y &&& 31)) 16) := k_ishl dX3_turns_15
theorem r_X3_turns_16 (E : ax_EN G l) : ax_Snd G l ax_Ym M_X3_turns 16 (S_i2 (fun x y => x ^^^ y) 17) := k_ixor dX3_turns_16
theorem r_X3_turns_17 (E : ax_EN G l) : ax_Snd G l ax_Ym M_X3_turns 17 (S_iast 0 (fun x => x) 18) := k_iast (en_F E) dX3_turns_17
theorem r_X3_turns_18 (E : ax_EN G l) : ax_Snd G l ax_Ym M_X3_turns 18 (S_ret) := k_ret dX3_turns_18 rfl
theorem mt_X3_turns (E : ax_EN G l) : ax_mt G l ax_Ym (2, P_X3_turns) (ax_Ym 443) := ⟨M_X3_turns, yX3_turns, ⟨rfl, by decide +kernel, rfl, (fun h => by cases h), Or.inl ⟨rfl, rfl⟩⟩, fun pc => (ax_sn_node (ax_sn_node (ax_sn_node (ax_sn_node (ax_sn_leaf (r_X3_turns_18 E)) (ax_sn_leaf (r_X3_turns_17 E))) (ax_sn_node (ax_sn_leaf (r_X3_turns_16 E)) (ax_sn_leaf (r_X3_turns_15 E)))) (ax_sn_node (ax_sn_node (ax_sn_leaf (r_X3_turns_14 E)) (ax_sn_leaf (r_X3_turns_12 E))) (ax_sn_node (ax_sn_leaf (r_X3_turns_11 E)) (ax_sn_leaf (r_X3_turns_10 E))))) (ax_sn_node (ax_sn_node (ax_sn_node (ax_sn_leaf (r_X3_turns_9 E)) (ax_sn_leaf (r_X3_turns_8 E))) (ax_sn_node (ax_sn_leaf (r_X3_turns_7 E)) (ax_sn_leaf (r_X3_turns_6 E)))) (ax_sn_node (ax_sn_node (ax_sn_leaf (r_X3_turns_4 E)) (ax_sn_leaf (r_X3_turns_3 E))) (ax_sn_node (ax_sn_leaf (r_X3_turns_1 E)) (ax_sn_leaf (r_X3_turns_0 E))))))⟩
theorem r_X3_replaces_0 (E : ax_EN G l) : ax_Snd G l ax_Ym M_X3_replaces 0 (S_aload 0 1) := k_aload_n dX3_replaces_0 rfl
theorem r_X3_replaces_1 (E : ax_EN G l) : ax_Snd G l ax_Ym M_X3_replaces 1 (S_aload 0 2) := k_aload_n dX3_replaces_1 rfl
theorem r_X3_replaces_2 (E : ax_EN G l) : ax_Snd G l ax_Ym M_X3_replaces 2 (S_getf [(38, 51)] 5) := k_getf (en_F E) (ax_fes_cons (fe_404 E) ax_fes_nil) q2804 dX3_replaces_2
theorem r_X3_replaces_5 (E : ax_EN G l) : ax_Snd G l ax_Ym M_X3_replaces 5 (S_iload 1 6) := k_iload_n dX3_replaces_5 rfl
theorem r_X3_replaces_6 (E : ax_EN G l) : ax_Snd G l ax_Ym M_X3_replaces 6 (S_aload 0 7) := k_aload_n dX3_replaces_6 rfl
theorem r_X3_replaces_7 (E : ax_EN G l) : ax_Snd G l ax_Ym M_X3_replaces 7 (S_getf [(38, 26)] 10) := k_getf (en_F E) (ax_fes_cons (fe_386 E) ax_fes_nil) q2779 dX3_replaces_7
theorem r_X3_replaces_10 (E : ax_EN G l) : ax_Snd G l ax_Ym M_X3_replaces 10 (S_push (.int (1)) 11) := k_iconst dX3_replaces_10 rfl
theorem r_X3_replaces_11 (E : ax_EN G l) : ax_Snd G l ax_Ym M_X3_replaces 11 (S_iald 0 12) := k_iald (en_F E) dX3_replaces_11
theorem r_X3_replaces_12 (E : ax_EN G l) : ax_Snd G l ax_Ym M_X3_replaces 12 (S_iv [(38, 439)] 3 15 hd_0) := k_iv (en_F E) (ax_ok0 E rfl) (ax_Evs_cons ((ev_v (en_c E (k := 38) rfl) rfl y_X3_blockOf q3239 q3241 qs100 q126 q3242 nm_X3_blockOf (Nat.le_of_ble_eq_true rfl) dX3_replaces_12) : ax_EvV G l ax_Ym M_X3_replaces 12 3 3 38 439) ax_Evs_nil)
theorem r_X3_replaces_15 (E : ax_EN G l) : ax_Snd G l ax_Ym M_X3_replaces 15 (S_istore 2 16) := k_istore_n dX3_replaces_15 rfl (Nat.le_of_ble_eq_true rfl)
theorem r_X3_replaces_16 (E : ax_EN G l) : ax_Snd G l ax_Ym M_X3_replaces 16 (S_aload 0 17) := k_aload_n dX3_replaces_16 rfl
theorem r_X3_replaces_17 (E : ax_EN G l) : ax_Snd G l ax_Ym M_X3_replaces 17 (S_getf [(38, 51)] 20) := k_getf (en_F E) (ax_fes_cons (fe_404 E) ax_fes_nil) q2804 dX3_replaces_17
theorem r_X3_replaces_20 (E : ax_EN G l) : ax_Snd G l ax_Ym M_X3_replaces 20 (S_push (.int (8)) 22) := k_bipush dX3_replaces_20 rfl
theorem r_X3_replaces_22 (E : ax_EN G l) : ax_Snd G l ax_Ym M_X3_replaces 22 (S_iload 2 23) := k_iload_n dX3_replaces_22 rfl
theorem r_X3_replaces_23 (E : ax_EN G l) : ax_Snd G l ax_Ym M_X3_replaces 23 (S_i2 (fun x y => x * y) 24) := k_imul dX3_replaces_23
theorem r_X3_replaces_24 (E : ax_EN G l) : ax_Snd G l ax_Ym M_X3_replaces 24 (S_aload 0 25) := k_aload_n dX3_replaces_24 rfl
theorem r_X3_replaces_25 (E : ax_EN G l) : ax_Snd G l ax_Ym M_X3_replaces 25 (S_getf [(38, 26)] 28) := k_getf (en_F E) (ax_fes_cons (fe_386 E) ax_fes_nil) q2779 dX3_replaces_25
theorem r_X3_replaces_28 (E : ax_EN G l) : ax_Snd G l ax_Ym M_X3_replaces 28 (S_push (.int (1)) 29) := k_iconst dX3_replaces_28 rfl
theorem r_X3_replaces_29 (E : ax_EN G l) : ax_Snd G l ax_Ym M_X3_replaces 29 (S_iald 0 30) := k_iald (en_F E) dX3_replaces_29
theorem r_X3_replaces_30 (E : ax_EN G l) : ax_Snd G l ax_Ym M_X3_replaces 30 (S_push (.int (8)) 32) := k_bipush dX3_replaces_30 rfl
theorem r_X3_replaces_32 (E : ax_EN G l) : ax_Snd G l ax_Ym M_X3_replaces 32 (S_id (fun x y => x - x / y * y) 33) := k_irem dX3_replaces_32
theorem r_X3_replaces_33 (E : ax_EN G l) : ax_Snd G l ax_Ym M_X3_replaces 33 (S_i2 (fun x y => x + y) 34) := k_iadd dX3_replaces_33
theorem r_X3_replaces_34 (E : ax_EN G l) : ax_Snd G l ax_Ym M_X3_replaces 34 (S_aload 0 35) := k_aload_n dX3_replaces_34 rfl
theorem r_X3_replaces_35 (E : ax_EN G l) : ax_Snd G l ax_Ym M_X3_replaces 35 (S_getf [(38, 26)] 38) := k_getf (en_F E) (ax_fes_cons (fe_386 E) ax_fes_nil) q2779 dX3_replaces_35
theorem r_X3_replaces_38 (E : ax_EN G l) : ax_Snd G l ax_Ym M_X3_replaces 38 (S_push (.int (2)) 39) := k_iconst dX3_replaces_38 rfl
theorem r_X3_replaces_39 (E : ax_EN G l) : ax_Snd G l ax_Ym M_X3_replaces 39 (S_iald 0 40) := k_iald (en_F E) dX3_replaces_39
theorem r_X3_replaces_40 (E : ax_EN G l) : ax_Snd G l ax_Ym M_X3_replaces 40 (S_iast 0 (fun x => x) 41) := k_iast (en_F E) dX3_replaces_40
theorem r_X3_replaces_41 (E : ax_EN G l) : ax_Snd G l ax_Ym M_X3_replaces 41 (S_push (.int (1)) 42) := k_iconst dX3_replaces_41 rfl
theorem r_X3_replaces_42 (E : ax_EN G l) : ax_Snd G l ax_Ym M_X3_replaces 42 (S_iload 2 43) := k_iload_n dX3_replaces_42 rfl
theorem r_X3_replaces_43 (E : ax_EN G l) : ax_Snd G l ax_Ym M_X3_replaces 43 (S_i2 (fun x y => x <<< (y &&& 31)) 44) := k_ishl dX3_replaces_43
theorem r_X3_replaces_44 (E : ax_EN G l) : ax_Snd G l ax_Ym M_X3_replaces 44 (S_iret) := k_iret dX3_replaces_44 rfl
theorem mt_X3_replaces (E : ax_EN G l) : ax_mt G l ax_Ym (3, P_X3_replaces) (ax_Ym 444) := ⟨M_X3_replaces, yX3_replaces, ⟨rfl, by decide +kernel, rfl, (fun h => by cases h), Or.inl ⟨rfl, rfl⟩⟩, fun pc => (ax_sn_node (ax_sn_node (ax_sn_node (ax_sn_node (ax_sn_node (ax_sn_leaf (r_X3_replaces_44 E)) (ax_sn_leaf (r_X3_replaces_43 E))) (ax_sn_node (ax_sn_leaf (r_X3_replaces_42 E)) (ax_sn_leaf (r_X3_replaces_41 E)))) (ax_sn_node (ax_sn_node (ax_sn_leaf (r_X3_replaces_40 E)) (ax_sn_leaf (r_X3_replaces_39 E))) (ax_sn_node (ax_sn_leaf (r_X3_replaces_38 E)) (ax_sn_leaf (r_X3_replaces_35 E))))) (ax_sn_node (ax_sn_node (ax_sn_node (ax_sn_leaf (r_X3_replaces_34 E)) (ax_sn_leaf (r_X3_replaces_33 E))) (ax_sn_node (ax_sn_leaf (r_X3_replaces_32 E)) (ax_sn_leaf (r_X3_replaces_30 E)))) (ax_sn_node (ax_sn_node (ax_sn_leaf (r_X3_replaces_29 E)) (ax_sn_leaf (r_X3_replaces_28 E))) (ax_sn_node (ax_sn_leaf (r_X3_replaces_25 E)) (ax_sn_leaf (r_X3_replaces_24 E)))))) (ax_sn_node (ax_sn_node (ax_sn_node (ax_sn_node (ax_sn_leaf (r_X3_replaces_23 E)) (ax_sn_leaf (r_X3_replaces_22 E))) (ax_sn_node (ax_sn_leaf (r_X3_replaces_20 E)) (ax_sn_leaf (r_X3_replaces_17 E)))) (ax_sn_node (ax_sn_node (ax_sn_leaf (r_X3_replaces_16 E)) (ax_sn_leaf (r_X3_replaces_15 E))) (ax_sn_node (ax_sn_leaf (r_X3_replaces_12 E)) (ax_sn_leaf (r_X3_replaces_11 E))))) (ax_sn_node (ax_sn_node (ax_sn_node (ax_sn_leaf (r_X3_replaces_10 E)) (ax_sn_leaf (r_X3_replaces_7 E))) (ax_sn_node (ax_sn_leaf (r_X3_replaces_6 E)) (ax_sn_leaf (r_X3_replaces_5 E)))) (ax_sn_node (ax_sn_node (ax_sn_leaf (r_X3_replaces_2 E)) (ax_sn_leaf (r_X3_replaces_1 E))) (ax_sn_leaf (r_X3_replaces_0 E))))))⟩
theorem r_X3_removes_0 (E : ax_EN G l) : ax_Snd G l ax_Ym M_X3_removes 0 (S_iload 1 1) := k_iload_n dX3_removes_0 rfl
theorem r_X3_removes_1 (E : ax_EN G l) : ax_Snd G l ax_Ym M_X3_removes 1 (S_is 441 1 4 hd_0) := k_is (en_F E) (ax_ok0 E rfl) ((ev_s y_X3_blockOfEntry q3247 q3248 q126 q3249 nm_X3_blockOfEntry (Nat.le_of_ble_eq_true rfl) dX3_removes_1) : ax_EvS G l ax_Ym M_X3_removes 1 441 1 3)
theorem r_X3_removes_4 (E : ax_EN G l) : ax_Snd G l ax_Ym M_X3_removes 4 (S_istore 2 5) := k_istore_n dX3_removes_4 rfl (Nat.le_of_ble_eq_true rfl)
theorem r_X3_removes_5 (E : ax_EN G l) : ax_Snd G l ax_Ym M_X3_removes 5 (S_push (.int (2)) 6) := k_iconst dX3_removes_5 rfl
theorem r_X3_removes_6 (E : ax_EN G l) : ax_Snd G l ax_Ym M_X3_removes 6 (S_istore 3 7) := k_istore_n dX3_removes_6 rfl (Nat.le_of_ble_eq_true rfl)
theorem r_X3_removes_7 (E : ax_EN G l) : ax_Snd G l ax_Ym M_X3_removes 7 (S_iload 3 8) := k_iload_n dX3_removes_7 rfl
theorem r_X3_removes_8 (E : ax_EN G l) : ax_Snd G l ax_Ym M_X3_removes 8 (S_push (.int (4)) 9) := k_iconst dX3_removes_8 rfl
theorem r_X3_removes_9 (E : ax_EN G l) : ax_Snd G l ax_Ym M_X3_removes 9 (S_if2 (fun x y => decide (y ≤ x)) 50 12) := k_icmp_ge dX3_removes_9 rfl
theorem r_X3_removes_12 (E : ax_EN G l) : ax_Snd G l ax_Ym M_X3_removes 12 (S_aload 0 13) := k_aload_n dX3_removes_12 rfl
theorem r_X3_removes_13 (E : ax_EN G l) : ax_Snd G l ax_Ym M_X3_removes 13 (S_getf [(38, 51)] 16) := k_getf (en_F E) (ax_fes_cons (fe_404 E) ax_fes_nil) q2804 dX3_removes_13
theorem r_X3_removes_16 (E : ax_EN G l) : ax_Snd G l ax_Ym M_X3_removes 16 (S_iload 1 17) := k_iload_n dX3_removes_16 rfl
theorem r_X3_removes_17 (E : ax_EN G l) : ax_Snd G l ax_Ym M_X3_removes 17 (S_is 415 1 20 hd_0) := k_is (en_F E) (ax_ok0 E rfl) ((ev_s y_X3_entry q3147 q3148 q126 q3149 nm_X3_entry (Nat.le_of_ble_eq_true rfl) dX3_removes_17) : ax_EvS G l ax_Ym M_X3_removes 17 415 1 3)
theorem r_X3_removes_20 (E : ax_EN G l) : ax_Snd G l ax_Ym M_X3_removes 20 (S_iload 3 21) := k_iload_n dX3_removes_20 rfl
theorem r_X3_removes_21 (E : ax_EN G l) : ax_Snd G l ax_Ym M_X3_removes 21 (S_i2 (fun x y => x + y) 22) := k_iadd dX3_removes_21
theorem r_X3_removes_22 (E : ax_EN G l) : ax_Snd G l ax_Ym M_X3_removes 22 (S_iald 0 23) := k_iald (en_F E) dX3_removes_22
theorem r_X3_removes_23 (E : ax_EN G l) : ax_Snd G l ax_Ym M_X3_removes 23 (S_istore 4 25) := k_istore dX3_removes_23 (Nat.le_of_ble_eq_true rfl)
theorem r_X3_removes_25 (E : ax_EN G l) : ax_Snd G l ax_Ym M_X3_removes 25 (S_iload 4 27) := k_iload dX3_removes_25
theorem r_X3_removes_27 (E : ax_EN G l) : ax_Snd G l ax_Ym M_X3_removes 27 (S_if1 (fun x => decide (x = 0)) 44 30) := k_if_eq dX3_removes_27 rfl
theorem r_X3_removes_30 (E : ax_EN G l) : ax_Snd G l ax_Ym M_X3_removes 30 (S_aload 0 31) := k_aload_n dX3_removes_30 rfl
theorem r_X3_removes_31 (E : ax_EN G l) : ax_Snd G l ax_Ym M_X3_removes 31 (S_getf [(38, 51)] 34) := k_getf (en_F E) (ax_fes_cons (fe_404 E) ax_fes_nil) q2804 dX3_removes_31
theorem r_X3_removes_34 (E : ax_EN G l) : ax_Snd G l ax_Ym M_X3_removes 34 (S_iload 4 36) := k_iload dX3_removes_34
theorem r_X3_removes_36 (E : ax_EN G l) : ax_Snd G l ax_Ym M_X3_removes 36 (S_is 443 2 39 hd_0) := k_is (en_F E) (ax_ok0 E rfl) ((ev_s y_X3_turns q3254 q3255 q126 q3256 nm_X3_turns (Nat.le_of_ble_eq_true rfl) dX3_removes_36) : ax_EvS G l ax_Ym M_X3_removes 36 443 2 3)
theorem r_X3_removes_39 (E : ax_EN G l) : ax_Snd G l ax_Ym M_X3_removes 39 (S_iload 2 40) := k_iload_n dX3_removes_39 rfl
theorem r_X3_removes_40 (E : ax_EN G l) : ax_Snd G l ax_Ym M_X3_removes 40 (S_push (.int (16)) 42) := k_bipush dX3_removes_40 rfl
theorem r_X3_removes_42 (E : ax_EN G l) : ax_Snd G l ax_Ym M_X3_removes 42 (S_i2 (fun x y => x ||| y) 43) := k_ior dX3_removes_42
theorem r_X3_removes_43 (E : ax_EN G l) : ax_Snd G l ax_Ym M_X3_removes 43 (S_istore 2 44) := k_istore_n dX3_removes_43 rfl (Nat.le_of_ble_eq_true rfl)
theorem r_X3_removes_44 (E : ax_EN G l) : ax_Snd G l ax_Ym M_X3_removes 44 (S_iinc 3 (1) 47) := k_iinc dX3_removes_44 rfl (Nat.le_of_ble_eq_true rfl)
theorem r_X3_removes_47 (E : ax_EN G l) : ax_Snd G l ax_Ym M_X3_removes 47 (S_goto 7) := k_goto dX3_removes_47 rfl
theorem r_X3_removes_50 (E : ax_EN G l) : ax_Snd G l ax_Ym M_X3_removes 50 (S_push (.int (0)) 51) := k_iconst dX3_removes_50 rfl
theorem r_X3_removes_51 (E : ax_EN G l) : ax_Snd G l ax_Ym M_X3_removes 51 (S_istore 3 52) := k_istore_n dX3_removes_51 rfl (Nat.le_of_ble_eq_true rfl)
theorem r_X3_removes_52 (E : ax_EN G l) : ax_Snd G l ax_Ym M_X3_removes 52 (S_iload 3 53) := k_iload_n dX3_removes_52 rfl
theorem r_X3_removes_53 (E : ax_EN G l) : ax_Snd G l ax_Ym M_X3_removes 53 (S_push (.int (4)) 54) := k_iconst dX3_removes_53 rfl
theorem r_X3_removes_54 (E : ax_EN G l) : ax_Snd G l ax_Ym M_X3_removes 54 (S_if2 (fun x y => decide (y ≤ x)) 75 57) := k_icmp_ge dX3_removes_54 rfl
theorem r_X3_removes_57 (E : ax_EN G l) : ax_Snd G l ax_Ym M_X3_removes 57 (S_aload 0 58) := k_aload_n dX3_removes_57 rfl
theorem r_X3_removes_58 (E : ax_EN G l) : ax_Snd G l ax_Ym M_X3_removes 58 (S_getf [(38, 51)] 61) := k_getf (en_F E) (ax_fes_cons (fe_404 E) ax_fes_nil) q2804 dX3_removes_58
theorem r_X3_removes_61 (E : ax_EN G l) : ax_Snd G l ax_Ym M_X3_removes 61 (S_iload 1 62) := k_iload_n dX3_removes_61 rfl
theorem r_X3_removes_62 (E : ax_EN G l) : ax_Snd G l ax_Ym M_X3_removes 62 (S_is 415 1 65 hd_0) := k_is (en_F E) (ax_ok0 E rfl) ((ev_s y_X3_entry q3147 q3148 q126 q3149 nm_X3_entry (Nat.le_of_ble_eq_true rfl) dX3_removes_62) : ax_EvS G l ax_Ym M_X3_removes 62 415 1 3)
theorem r_X3_removes_65 (E : ax_EN G l) : ax_Snd G l ax_Ym M_X3_removes 65 (S_iload 3 66) := k_iload_n dX3_removes_65 rfl
theorem r_X3_removes_66 (E : ax_EN G l) : ax_Snd G l ax_Ym M_X3_removes 66 (S_i2 (fun x y => x + y) 67) := k_iadd dX3_removes_66
theorem r_X3_removes_67 (E : ax_EN G l) : ax_Snd G l ax_Ym M_X3_removes 67 (S_push (.int (0)) 68) := k_iconst dX3_removes_67 rfl
theorem r_X3_removes_68 (E : ax_EN G l) : ax_Snd G l ax_Ym M_X3_removes 68 (S_iast 0 (fun x => x) 69) := k_iast (en_F E) dX3_removes_68
theorem r_X3_removes_69 (E : ax_EN G l) : ax_Snd G l ax_Ym M_X3_removes 69 (S_iinc 3 (1) 72) := k_iinc dX3_removes_69 rfl (Nat.le_of_ble_eq_true rfl)
theorem r_X3_removes_72 (E : ax_EN G l) : ax_Snd G l ax_Ym M_X3_removes 72 (S_goto 52) := k_goto dX3_removes_72 rfl
theorem r_X3_removes_75 (E : ax_EN G l) : ax_Snd G l ax_Ym M_X3_removes 75 (S_iload 2 76) := k_iload_n dX3_removes_75 rfl
theorem r_X3_removes_76 (E : ax_EN G l) : ax_Snd G l ax_Ym M_X3_removes 76 (S_iret) := k_iret dX3_removes_76 rfl
theorem mt_X3_removes (E : ax_EN G l) : ax_mt G l ax_Ym (5, P_X3_removes) (ax_Ym 445) := ⟨M_X3_removes, yX3_removes, ⟨rfl, by decide +kernel, rfl, (fun h => by cases h), Or.inl ⟨rfl, rfl⟩⟩, fun pc => (ax_sn_node (ax_sn_node (ax_sn_node (ax_sn_node (ax_sn_node (ax_sn_node (ax_sn_leaf (r_X3_removes_76 E)) (ax_sn_leaf (r_X3_removes_75 E))) (ax_sn_leaf (r_X3_removes_72 E))) (ax_sn_node (ax_sn_node (ax_sn_leaf (r_X3_removes_69 E)) (ax_sn_leaf (r_X3_removes_68 E))) (ax_sn_leaf (r_X3_removes_67 E)))) (ax_sn_node (ax_sn_node (ax_sn_node (ax_sn_leaf (r_X3_removes_66 E)) (ax_sn_leaf (r_X3_removes_65 E))) (ax_sn_leaf (r_X3_removes_62 E))) (ax_sn_node (ax_sn_node (ax_sn_leaf (r_X3_removes_61 E)) (ax_sn_leaf (r_X3_removes_58 E))) (ax_sn_leaf (r_X3_removes_57 E))))) (ax_sn_node (ax_sn_node (ax_sn_node (ax_sn_node (ax_sn_leaf (r_X3_removes_54 E)) (ax_sn_leaf (r_X3_removes_53 E))) (ax_sn_leaf (r_X3_removes_52 E))) (ax_sn_node (ax_sn_node (ax_sn_leaf (r_X3_removes_51 E)) (ax_sn_leaf (r_X3_removes_50 E))) (ax_sn_leaf (r_X3_removes_47 E)))) (ax_sn_node (ax_sn_node (ax_sn_node (ax_sn_leaf (r_X3_removes_44 E)) (ax_sn_leaf (r_X3_removes_43 E))) (ax_sn_leaf (r_X3_removes_42 E))) (ax_sn_node (ax_sn_leaf (r_X3_removes_40 E)) (ax_sn_leaf (r_X3_removes_39 E)))))) (ax_sn_node (ax_sn_node (ax_sn_node (ax_sn_node (ax_sn_node (ax_sn_leaf (r_X3_removes_36 E)) (ax_sn_leaf (r_X3_removes_34 E))) (ax_sn_leaf (r_X3_removes_31 E))) (ax_sn_node (ax_sn_node (ax_sn_leaf (r_X3_removes_30 E)) (ax_sn_leaf (r_X3_removes_27 E))) (ax_sn_leaf (r_X3_removes_25 E)))) (ax_sn_node (ax_sn_node (ax_sn_node (ax_sn_leaf (r_X3_removes_23 E)) (ax_sn_leaf (r_X3_removes_22 E))) (ax_sn_leaf (r_X3_removes_21 E))) (ax_sn_node (ax_sn_leaf (r_X3_removes_20 E)) (ax_sn_leaf (r_X3_removes_17 E))))) (ax_sn_node (ax_sn_node (ax_sn_node (ax_sn_node (ax_sn_leaf (r_X3_removes_16 E)) (ax_sn_leaf (r_X3_removes_13 E))) (ax_sn_leaf (r_X3_removes_12 E))) (ax_sn_node (ax_sn_node (ax_sn_leaf (r_X3_removes_9 E)) (ax_sn_leaf (r_X3_removes_8 E))) (ax_sn_leaf (r_X3_removes_7 E)))) (ax_sn_node (ax_sn_node (ax_sn_node (ax_sn_leaf (r_X3_removes_6 E)) (ax_sn_leaf (r_X3_removes_5 E))) (ax_sn_leaf (r_X3_removes_4 E))) (ax_sn_node (ax_sn_leaf (r_X3_removes_1 E)) (ax_sn_leaf (r_X3_removes_0 E)))))))⟩
theorem r_X3_renames_0 (E : ax_EN G l) : ax_Snd G l ax_Ym M_X3_renames 0 (S_aload 0 1) := k_aload_n dX3_renames_0 rfl
theorem r_X3_renames_1 (E : ax_EN G l) : ax_Snd G l ax_Ym M_X3_renames 1 (S_getf [(38, 50)] 4) := k_getf (en_F E) (ax_fes_cons (fe_402 E) ax_fes_nil) q2803 dX3_renames_1
theorem r_X3_renames_4 (E : ax_EN G l) : ax_Snd G l ax_Ym M_X3_renames 4 (S_aload 0 5) := k_aload_n dX3_renames_4 rfl
theorem r_X3_renames_5 (E : ax_EN G l) : ax_Snd G l ax_Ym M_X3_renames 5 (S_getf [(38, 26)] 8) := k_getf (en_F E) (ax_fes_cons (fe_386 E) ax_fes_nil) q2779 dX3_renames_5
theorem r_X3_renames_8 (E : ax_EN G l) : ax_Snd G l ax_Ym M_X3_renames 8 (S_push (.int (1)) 9) := k_iconst dX3_renames_8 rfl
theorem r_X3_renames_9 (E : ax_EN G l) : ax_Snd G l ax_Ym M_X3_renames 9 (S_iald 0 10) := k_iald (en_F E) dX3_renames_9
theorem r_X3_renames_10 (E : ax_EN G l) : ax_Snd G l ax_Ym M_X3_renames 10 (S_is 435 2 13 hd_0) := k_is (en_F E) (ax_ok0 E rfl) ((ev_s y_X3_find q3225 q3226 q126 q3227 nm_X3_find (Nat.le_of_ble_eq_true rfl) dX3_renames_10) : ax_EvS G l ax_Ym M_X3_renames 10 435 2 3)
theorem r_X3_renames_13 (E : ax_EN G l) : ax_Snd G l ax_Ym M_X3_renames 13 (S_istore 2 14) := k_istore_n dX3_renames_13 rfl (Nat.le_of_ble_eq_true rfl)
theorem r_X3_renames_14 (E : ax_EN G l) : ax_Snd G l ax_Ym M_X3_renames 14 (S_iload 2 15) := k_iload_n dX3_renames_14 rfl
theorem r_X3_renames_15 (E : ax_EN G l) : ax_Snd G l ax_Ym M_X3_renames 15 (S_push (.int (-1)) 16) := k_iconst dX3_renames_15 rfl
theorem r_X3_renames_16 (E : ax_EN G l) : ax_Snd G l ax_Ym M_X3_renames 16 (S_if2 (fun x y => decide (¬ x = y)) 23 19) := k_icmp_ne dX3_renames_16 rfl
theorem r_X3_renames_19 (E : ax_EN G l) : ax_Snd G l ax_Ym M_X3_renames 19 (S_push (.int (0)) 20) := k_iconst dX3_renames_19 rfl
theorem r_X3_renames_20 (E : ax_EN G l) : ax_Snd G l ax_Ym M_X3_renames 20 (S_goto 28) := k_goto dX3_renames_20 rfl
theorem r_X3_renames_23 (E : ax_EN G l) : ax_Snd G l ax_Ym M_X3_renames 23 (S_aload 0 24) := k_aload_n dX3_renames_23 rfl
theorem r_X3_renames_24 (E : ax_EN G l) : ax_Snd G l ax_Ym M_X3_renames 24 (S_iload 2 25) := k_iload_n dX3_renames_24 rfl
theorem r_X3_renames_25 (E : ax_EN G l) : ax_Snd G l ax_Ym M_X3_renames 25 (S_iv [(38, 445)] 1 28 hd_0) := k_iv (en_F E) (ax_ok0 E rfl) (ax_Evs_cons ((ev_v (en_c E (k := 38) rfl) rfl y_X3_removes q3261 q3263 qs104 q126 q3264 nm_X3_removes (Nat.le_of_ble_eq_true rfl) dX3_renames_25) : ax_EvV G l ax_Ym M_X3_renames 25 1 3 38 445) ax_Evs_nil)
theorem r_X3_renames_28 (E : ax_EN G l) : ax_Snd G l ax_Ym M_X3_renames 28 (S_istore 3 29) := k_istore_n dX3_renames_28 rfl (Nat.le_of_ble_eq_true rfl)
theorem r_X3_renames_29 (E : ax_EN G l) : ax_Snd G l ax_Ym M_X3_renames 29 (S_aload 0 30) := k_aload_n dX3_renames_29 rfl
theorem r_X3_renames_30 (E : ax_EN G l) : ax_Snd G l ax_Ym M_X3_renames 30 (S_getf [(38, 51)] 33) := k_getf (en_F E) (ax_fes_cons (fe_404 E) ax_fes_nil) q2804 dX3_renames_30
theorem r_X3_renames_33 (E : ax_EN G l) : ax_Snd G l ax_Ym M_X3_renames 33 (S_iload 1 34) := k_iload_n dX3_renames_33 rfl
theorem r_X3_renames_34 (E : ax_EN G l) : ax_Snd G l ax_Ym M_X3_renames 34 (S_is 415 1 37 hd_0) := k_is (en_F E) (ax_ok0 E rfl) ((ev_s y_X3_entry q3147 q3148 q126 q3149 nm_X3_entry (Nat.le_of_ble_eq_true rfl) dX3_renames_34) : ax_EvS G l ax_Ym M_X3_renames 34 415 1 3)
theorem r_X3_renames_37 (E : ax_EN G l) : ax_Snd G l ax_Ym M_X3_renames 37 (S_aload 0 38) := k_aload_n dX3_renames_37 rfl
theorem r_X3_renames_38 (E : ax_EN G l) : ax_Snd G l ax_Ym M_X3_renames 38 (S_getf [(38, 26)] 41) := k_getf (en_F E) (ax_fes_cons (fe_386 E) ax_fes_nil) q2779 dX3_renames_38
theorem r_X3_renames_41 (E : ax_EN G l) : ax_Snd G l ax_Ym M_X3_renames 41 (S_push (.int (1)) 42) := k_iconst dX3_renames_41 rfl
theorem r_X3_renames_42 (E : ax_EN G l) : ax_Snd G l ax_Ym M_X3_renames 42 (S_iald 0 43) := k_iald (en_F E) dX3_renames_42
theorem r_X3_renames_43 (E : ax_EN G l) : ax_Snd G l ax_Ym M_X3_renames 43 (S_iast 0 (fun x => x) 44) := k_iast (en_F E) dX3_renames_43
theorem r_X3_renames_44 (E : ax_EN G l) : ax_Snd G l ax_Ym M_X3_renames 44 (S_iload 3 45) := k_iload_n dX3_renames_44 rfl
theorem r_X3_renames_45 (E : ax_EN G l) : ax_Snd G l ax_Ym M_X3_renames 45 (S_iload 1 46) := k_iload_n dX3_renames_45 rfl
theorem r_X3_renames_46 (E : ax_EN G l) : ax_Snd G l ax_Ym M_X3_renames 46 (S_is 441 1 49 hd_0) := k_is (en_F E) (ax_ok0 E rfl) ((ev_s y_X3_blockOfEntry q3247 q3248 q126 q3249 nm_X3_blockOfEntry (Nat.le_of_ble_eq_true rfl) dX3_renames_46) : ax_EvS G l ax_Ym M_X3_renames 46 441 1 3)
theorem r_X3_renames_49 (E : ax_EN G l) : ax_Snd G l ax_Ym M_X3_renames 49 (S_i2 (fun x y => x ||| y) 50) := k_ior dX3_renames_49
theorem r_X3_renames_50 (E : ax_EN G l) : ax_Snd G l ax_Ym M_X3_renames 50 (S_iret) := k_iret dX3_renames_50 rfl
theorem mt_X3_renames (E : ax_EN G l) : ax_mt G l ax_Ym (4, P_X3_renames) (ax_Ym 446) := ⟨M_X3_renames, yX3_renames, ⟨rfl, by decide +kernel, rfl, (fun h => by cases h), Or.inl ⟨rfl, rfl⟩⟩, fun pc => (ax_sn_node (ax_sn_node (ax_sn_node (ax_sn_node (ax_sn_node (ax_sn_leaf (r_X3_renames_50 E)) (ax_sn_leaf (r_X3_renames_49 E))) (ax_sn_node (ax_sn_leaf (r_X3_renames_46 E)) (ax_sn_leaf (r_X3_renames_45 E)))) (ax_sn_node (ax_sn_node (ax_sn_leaf (r_X3_renames_44 E)) (ax_sn_leaf (r_X3_renames_43 E))) (ax_sn_node (ax_sn_leaf (r_X3_renames_42 E)) (ax_sn_leaf (r_X3_renames_41 E))))) (ax_sn_node (ax_sn_node (ax_sn_node (ax_sn_leaf (r_X3_renames_38 E)) (ax_sn_leaf (r_X3_renames_37 E))) (ax_sn_node (ax_sn_leaf (r_X3_renames_34 E)) (ax_sn_leaf (r_X3_renames_33 E)))) (ax_sn_node (ax_sn_node (ax_sn_leaf (r_X3_renames_30 E)) (ax_sn_leaf (r_X3_renames_29 E))) (ax_sn_node (ax_sn_leaf (r_X3_renames_28 E)) (ax_sn_leaf (r_X3_renames_25 E)))))) (ax_sn_node (ax_sn_node (ax_sn_node (ax_sn_node (ax_sn_leaf (r_X3_renames_24 E)) (ax_sn_leaf (r_X3_renames_23 E))) (ax_sn_node (ax_sn_leaf (r_X3_renames_20 E)) (ax_sn_leaf (r_X3_renames_19 E)))) (ax_sn_node (ax_sn_node (ax_sn_leaf (r_X3_renames_16 E)) (ax_sn_leaf (r_X3_renames_15 E))) (ax_sn_node (ax_sn_leaf (r_X3_renames_14 E)) (ax_sn_leaf (r_X3_renames_13 E))))) (ax_sn_node (ax_sn_node (ax_sn_node (ax_sn_leaf (r_X3_renames_10 E)) (ax_sn_leaf (r_X3_renames_9 E))) (ax_sn_node (ax_sn_leaf (r_X3_renames_8 E)) (ax_sn_leaf (r_X3_renames_5 E)))) (ax_sn_node (ax_sn_node (ax_sn_leaf (r_X3_renames_4 E)) (ax_sn_leaf (r_X3_renames_1 E))) (ax_sn_leaf (r_X3_renames_0 E))))))⟩
theorem r_X3_prepares_0 (E : ax_EN G l) : ax_Snd G l ax_Ym M_X3_prepares 0 (S_aload 0 1) := k_aload_n dX3_prepares_0 rfl
theorem r_X3_prepares_1 (E : ax_EN G l) : ax_Snd G l ax_Ym M_X3_prepares 1 (S_push (.int (0)) 2) := k_iconst dX3_prepares_1 rfl
theorem r_X3_prepares_2 (E : ax_EN G l) : ax_Snd G l ax_Ym M_X3_prepares 2 (S_putf [(38, 47)] (.int) 5) := k_putf (en_F E) (en_P E) (ax_fes_cons (fe_467 E) ax_fes_nil) (ax_fps_cons (fp_497 E) ax_fps_nil) q2800 dX3_prepares_2
theorem r_X3_prepares_5 (E : ax_EN G l) : ax_Snd G l ax_Ym M_X3_prepares 5 (S_push (.int (0)) 6) := k_iconst dX3_prepares_5 rfl
theorem r_X3_prepares_6 (E : ax_EN G l) : ax_Snd G l ax_Ym M_X3_prepares 6 (S_istore 2 7) := k_istore_n dX3_prepares_6 rfl (Nat.le_of_ble_eq_true rfl)
theorem r_X3_prepares_7 (E : ax_EN G l) : ax_Snd G l ax_Ym M_X3_prepares 7 (S_iload 2 8) := k_iload_n dX3_prepares_7 rfl
theorem r_X3_prepares_8 (E : ax_EN G l) : ax_Snd G l ax_Ym M_X3_prepares 8 (S_push (.int (32)) 10) := k_bipush dX3_prepares_8 rfl
theorem r_X3_prepares_10 (E : ax_EN G l) : ax_Snd G l ax_Ym M_X3_prepares 10 (S_if2 (fun x y => decide (y ≤ x)) 87 13) := k_icmp_ge dX3_prepares_10 rfl
theorem r_X3_prepares_13 (E : ax_EN G l) : ax_Snd G l ax_Ym M_X3_prepares 13 (S_iload 1 14) := k_iload_n dX3_prepares_13 rfl
theorem r_X3_prepares_14 (E : ax_EN G l) : ax_Snd G l ax_Ym M_X3_prepares 14 (S_iload 2 15) := k_iload_n dX3_prepares_14 rfl
theorem r_X3_prepares_15 (E : ax_EN G l) : ax_Snd G l ax_Ym M_X3_prepares 15 (S_i2 (fun x y => x >>> (y &&& 31)) 16) := k_ishr dX3_prepares_15
theorem r_X3_prepares_16 (E : ax_EN G l) : ax_Snd G l ax_Ym M_X3_prepares 16 (S_push (.int (1)) 17) := k_iconst dX3_prepares_16 rfl
theorem r_X3_prepares_17 (E : ax_EN G l) : ax_Snd G l ax_Ym M_X3_prepares 17 (S_i2 (fun x y => x &&& y) 18) := k_iand dX3_prepares_17
theorem r_X3_prepares_18 (E : ax_EN G l) : ax_Snd G l ax_Ym M_X3_prepares 18 (S_push (.int (1)) 19) := k_iconst dX3_prepares_18 rfl
theorem r_X3_prepares_19 (E : ax_EN G l) : ax_Snd G l ax_Ym M_X3_prepares 19 (S_if2 (fun x y => decide (¬ x = y)) 81 22) := k_icmp_ne dX3_prepares_19 rfl
theorem r_X3_prepares_22 (E : ax_EN G l) : ax_Snd G l ax_Ym M_X3_prepares 22 (S_aload 0 23) := k_aload_n dX3_prepares_22 rfl
theorem r_X3_prepares_23 (E : ax_EN G l) : ax_Snd G l ax_Ym M_X3_prepares 23 (S_getf [(38, 48)] 26) := k_getf (en_F E) (ax_fes_cons (fe_398 E) ax_fes_nil) q2801 dX3_prepares_23
theorem r_X3_prepares_26 (E : ax_EN G l) : ax_Snd G l ax_Ym M_X3_prepares 26 (S_aload 0 27) := k_aload_n dX3_prepares_26 rfl
theorem r_X3_prepares_27 (E : ax_EN G l) : ax_Snd G l ax_Ym M_X3_prepares 27 (S_getf [(38, 47)] 30) := k_getf (en_F E) (ax_fes_cons (fe_467 E) ax_fes_nil) q2800 dX3_prepares_27
theorem r_X3_prepares_30 (E : ax_EN G l) : ax_Snd G l ax_Ym M_X3_prepares 30 (S_iload 2 31) := k_iload_n dX3_prepares_30 rfl
theorem r_X3_prepares_31 (E : ax_EN G l) : ax_Snd G l ax_Ym M_X3_prepares 31 (S_iast 0 (fun x => x) 32) := k_iast (en_F E) dX3_prepares_31
theorem r_X3_prepares_32 (E : ax_EN G l) : ax_Snd G l ax_Ym M_X3_prepares 32 (S_push (.int (0)) 33) := k_iconst dX3_prepares_32 rfl
theorem r_X3_prepares_33 (E : ax_EN G l) : ax_Snd G l ax_Ym M_X3_prepares 33 (S_istore 3 34) := k_istore_n dX3_prepares_33 rfl (Nat.le_of_ble_eq_true rfl)
theorem r_X3_prepares_34 (E : ax_EN G l) : ax_Snd G l ax_Ym M_X3_prepares 34 (S_iload 3 35) := k_iload_n dX3_prepares_34 rfl
theorem r_X3_prepares_35 (E : ax_EN G l) : ax_Snd G l ax_Ym M_X3_prepares 35 (S_push (.int (8)) 37) := k_bipush dX3_prepares_35 rfl
theorem r_X3_prepares_37 (E : ax_EN G l) : ax_Snd G l ax_Ym M_X3_prepares 37 (S_if2 (fun x y => decide (y ≤ x)) 71 40) := k_icmp_ge dX3_prepares_37 rfl
theorem r_X3_prepares_40 (E : ax_EN G l) : ax_Snd G l ax_Ym M_X3_prepares 40 (S_aload 0 41) := k_aload_n dX3_prepares_40 rfl
theorem r_X3_prepares_41 (E : ax_EN G l) : ax_Snd G l ax_Ym M_X3_prepares 41 (S_getf [(38, 49)] 44) := k_getf (en_F E) (ax_fes_cons (fe_400 E) ax_fes_nil) q2802 dX3_prepares_41
theorem r_X3_prepares_44 (E : ax_EN G l) : ax_Snd G l ax_Ym M_X3_prepares 44 (S_push (.int (8)) 46) := k_bipush dX3_prepares_44 rfl
theorem r_X3_prepares_46 (E : ax_EN G l) : ax_Snd G l ax_Ym M_X3_prepares 46 (S_aload 0 47) := k_aload_n dX3_prepares_46 rfl
theorem r_X3_prepares_47 (E : ax_EN G l) : ax_Snd G l ax_Ym M_X3_prepares 47 (S_getf [(38, 47)] 50) := k_getf (en_F E) (ax_fes_cons (fe_467 E) ax_fes_nil) q2800 dX3_prepares_47
theorem r_X3_prepares_50 (E : ax_EN G l) : ax_Snd G l ax_Ym M_X3_prepares 50 (S_i2 (fun x y => x * y) 51) := k_imul dX3_prepares_50
theorem r_X3_prepares_51 (E : ax_EN G l) : ax_Snd G l ax_Ym M_X3_prepares 51 (S_iload 3 52) := k_iload_n dX3_prepares_51 rfl
theorem r_X3_prepares_52 (E : ax_EN G l) : ax_Snd G l ax_Ym M_X3_prepares 52 (S_i2 (fun x y => x + y) 53) := k_iadd dX3_prepares_52
theorem r_X3_prepares_53 (E : ax_EN G l) : ax_Snd G l ax_Ym M_X3_prepares 53 (S_aload 0 54) := k_aload_n dX3_prepares_53 rfl
theorem r_X3_prepares_54 (E : ax_EN G l) : ax_Snd G l ax_Ym M_X3_prepares 54 (S_getf [(38, 51)] 57) := k_getf (en_F E) (ax_fes_cons (fe_404 E) ax_fes_nil) q2804 dX3_prepares_54
theorem r_X3_prepares_57 (E : ax_EN G l) : ax_Snd G l ax_Ym M_X3_prepares 57 (S_push (.int (8)) 59) := k_bipush dX3_prepares_57 rfl
theorem r_X3_prepares_59 (E : ax_EN G l) : ax_Snd G l ax_Ym M_X3_prepares 59 (S_iload 2 60) := k_iload_n dX3_prepares_59 rfl
theorem r_X3_prepares_60 (E : ax_EN G l) : ax_Snd G l ax_Ym M_X3_prepares 60 (S_i2 (fun x y => x * y) 61) := k_imul dX3_prepares_60
theorem r_X3_prepares_61 (E : ax_EN G l) : ax_Snd G l ax_Ym M_X3_prepares 61 (S_iload 3 62) := k_iload_n dX3_prepares_61 rfl
theorem r_X3_prepares_62 (E : ax_EN G l) : ax_Snd G l ax_Ym M_X3_prepares 62 (S_i2 (fun x y => x + y) 63) := k_iadd dX3_prepares_62
theorem r_X3_prepares_63 (E : ax_EN G l) : ax_Snd G l ax_Ym M_X3_prepares 63 (S_iald 0 64) := k_iald (en_F E) dX3_prepares_63
theorem r_X3_prepares_64 (E : ax_EN G l) : ax_Snd G l ax_Ym M_X3_prepares 64 (S_iast 0 (fun x => x) 65) := k_iast (en_F E) dX3_prepares_64
theorem r_X3_prepares_65 (E : ax_EN G l) : ax_Snd G l ax_Ym M_X3_prepares 65 (S_iinc 3 (1) 68) := k_iinc dX3_prepares_65 rfl (Nat.le_of_ble_eq_true rfl)
theorem r_X3_prepares_68 (E : ax_EN G l) : ax_Snd G l ax_Ym M_X3_prepares 68 (S_goto 34) := k_goto dX3_prepares_68 rfl
theorem r_X3_prepares_71 (E : ax_EN G l) : ax_Snd G l ax_Ym M_X3_prepares 71 (S_aload 0 72) := k_aload_n dX3_prepares_71 rfl
theorem r_X3_prepares_72 (E : ax_EN G l) : ax_Snd G l ax_Ym M_X3_prepares 72 (S_dup 73) := k_dup dX3_prepares_72
theorem r_X3_prepares_73 (E : ax_EN G l) : ax_Snd G l ax_Ym M_X3_prepares 73 (S_getf [(38, 47)] 76) := k_getf (en_F E) (ax_fes_cons (fe_467 E) ax_fes_nil) q2800 dX3_prepares_73
theorem r_X3_prepares_76 (E : ax_EN G l) : ax_Snd G l ax_Ym M_X3_prepares 76 (S_push (.int (1)) 77) := k_iconst dX3_prepares_76 rfl
theorem r_X3_prepares_77 (E : ax_EN G l) : ax_Snd G l ax_Ym M_X3_prepares 77 (S_i2 (fun x y => x + y) 78) := k_iadd dX3_prepares_77
theorem r_X3_prepares_78 (E : ax_EN G l) : ax_Snd G l ax_Ym M_X3_prepares 78 (S_putf [(38, 47)] (.int) 81) := k_putf (en_F E) (en_P E) (ax_fes_cons (fe_467 E) ax_fes_nil) (ax_fps_cons (fp_497 E) ax_fps_nil) q2800 dX3_prepares_78
theorem r_X3_prepares_81 (E : ax_EN G l) : ax_Snd G l ax_Ym M_X3_prepares 81 (S_iinc 2 (1) 84) := k_iinc dX3_prepares_81 rfl (Nat.le_of_ble_eq_true rfl)
theorem r_X3_prepares_84 (E : ax_EN G l) : ax_Snd G l ax_Ym M_X3_prepares 84 (S_goto 7) := k_goto dX3_prepares_84 rfl
theorem r_X3_prepares_87 (E : ax_EN G l) : ax_Snd G l ax_Ym M_X3_prepares 87 (S_aload 0 88) := k_aload_n dX3_prepares_87 rfl
theorem r_X3_prepares_88 (E : ax_EN G l) : ax_Snd G l ax_Ym M_X3_prepares 88 (S_push (.int (2)) 89) := k_iconst dX3_prepares_88 rfl
theorem r_X3_prepares_89 (E : ax_EN G l) : ax_Snd G l ax_Ym M_X3_prepares 89 (S_aload 0 90) := k_aload_n dX3_prepares_89 rfl
theorem r_X3_prepares_90 (E : ax_EN G l) : ax_Snd G l ax_Ym M_X3_prepares 90 (S_getf [(38, 47)] 93) := k_getf (en_F E) (ax_fes_cons (fe_467 E) ax_fes_nil) q2800 dX3_prepares_90
theorem r_X3_prepares_93 (E : ax_EN G l) : ax_Snd G l ax_Ym M_X3_prepares 93 (S_i2 (fun x y => x * y) 94) := k_imul dX3_prepares_93
theorem r_X3_prepares_94 (E : ax_EN G l) : ax_Snd G l ax_Ym M_X3_prepares 94 (S_push (.int (2)) 95) := k_iconst dX3_prepares_94 rfl
theorem r_X3_prepares_95 (E : ax_EN G l) : ax_Snd G l ax_Ym M_X3_prepares 95 (S_i2 (fun x y => x + y) 96) := k_iadd dX3_prepares_95
theorem r_X3_prepares_96 (E : ax_EN G l) : ax_Snd G l ax_Ym M_X3_prepares 96 (S_putf [(38, 46)] (.int) 99) := k_putf (en_F E) (en_P E) (ax_fes_cons (fe_495 E) ax_fes_nil) (ax_fps_cons (fp_496 E) ax_fps_nil) q2799 dX3_prepares_96
theorem r_X3_prepares_99 (E : ax_EN G l) : ax_Snd G l ax_Ym M_X3_prepares 99 (S_ret) := k_ret dX3_prepares_99 rfl
theorem mt_X3_prepares (E : ax_EN G l) : ax_mt G l ax_Ym (4, P_X3_prepares) (ax_Ym 447) := ⟨M_X3_prepares, yX3_prepares, ⟨rfl, by decide +kernel, rfl, (fun h => by cases h), Or.inl ⟨rfl, rfl⟩⟩, fun pc => (ax_sn_node (ax_sn_node (ax_sn_node (ax_sn_node (ax_sn_node (ax_sn_node (ax_sn_leaf (r_X3_prepares_99 E)) (ax_sn_leaf (r_X3_prepares_96 E))) (ax_sn_node (ax_sn_leaf (r_X3_prepares_95 E)) (ax_sn_leaf (r_X3_prepares_94 E)))) (ax_sn_node (ax_sn_node (ax_sn_leaf (r_X3_prepares_93 E)) (ax_sn_leaf (r_X3_prepares_90 E))) (ax_sn_node (ax_sn_leaf (r_X3_prepares_89 E)) (ax_sn_leaf (r_X3_prepares_88 E))))) (ax_sn_node (ax_sn_node (ax_sn_node (ax_sn_leaf (r_X3_prepares_87 E)) (ax_sn_leaf (r_X3_prepares_84 E))) (ax_sn_node (ax_sn_leaf (r_X3_prepares_81 E)) (ax_sn_leaf (r_X3_prepares_78 E)))) (ax_sn_node (ax_sn_node (ax_sn_leaf (r_X3_prepares_77 E)) (ax_sn_leaf (r_X3_prepares_76 E))) (ax_sn_node (ax_sn_leaf (r_X3_prepares_73 E)) (ax_sn_leaf (r_X3_prepares_72 E)))))) (ax_sn_node (ax_sn_node (ax_sn_node (ax_sn_node (ax_sn_leaf (r_X3_prepares_71 E)) (ax_sn_leaf (r_X3_prepares_68 E))) (ax_sn_node (ax_sn_leaf (r_X3_prepares_65 E)) (ax_sn_leaf (r_X3_prepares_64 E)))) (ax_sn_node (ax_sn_node (ax_sn_leaf (r_X3_prepares_63 E)) (ax_sn_leaf (r_X3_prepares_62 E))) (ax_sn_node (ax_sn_leaf (r_X3_prepares_61 E)) (ax_sn_leaf (r_X3_prepares_60 E))))) (ax_sn_node (ax_sn_node (ax_sn_node (ax_sn_leaf (r_X3_prepares_59 E)) (ax_sn_leaf (r_X3_prepares_57 E))) (ax_sn_node (ax_sn_leaf (r_X3_prepares_54 E)) (ax_sn_leaf (r_X3_prepares_53 E)))) (ax_sn_node (ax_sn_node (ax_sn_leaf (r_X3_prepares_52 E)) (ax_sn_leaf (r_X3_prepares_51 E))) (ax_sn_leaf (r_X3_prepares_50 E)))))) (ax_sn_node (ax_sn_node (ax_sn_node (ax_sn_node (ax_sn_node (ax_sn_leaf (r_X3_prepares_47 E)) (ax_sn_leaf (r_X3_prepares_46 E))) (ax_sn_node (ax_sn_leaf (r_X3_prepares_44 E)) (ax_sn_leaf (r_X3_prepares_41 E)))) (ax_sn_node (ax_sn_node (ax_sn_leaf (r_X3_prepares_40 E)) (ax_sn_leaf (r_X3_prepares_37 E))) (ax_sn_node (ax_sn_leaf (r_X3_prepares_35 E)) (ax_sn_leaf (r_X3_prepares_34 E))))) (ax_sn_node (ax_sn_node (ax_sn_node (ax_sn_leaf (r_X3_prepares_33 E)) (ax_sn_leaf (r_X3_prepares_32 E))) (ax_sn_node (ax_sn_leaf (r_X3_prepares_31 E)) (ax_sn_leaf (r_X3_prepares_30 E)))) (ax_sn_node (ax_sn_node (ax_sn_leaf (r_X3_prepares_27 E)) (ax_sn_leaf (r_X3_prepares_26 E))) (ax_sn_node (ax_sn_leaf (r_X3_prepares_23 E)) (ax_sn_leaf (r_X3_prepares_22 E)))))) (ax_sn_node (ax_sn_node (ax_sn_node (ax_sn_node (ax_sn_leaf (r_X3_prepares_19 E)) (ax_sn_leaf (r_X3_prepares_18 E))) (ax_sn_node (ax_sn_leaf (r_X3_prepares_17 E)) (ax_sn_leaf (r_X3_prepares_16 E)))) (ax_sn_node (ax_sn_node (ax_sn_leaf (r_X3_prepares_15 E)) (ax_sn_leaf (r_X3_prepares_14 E))) (ax_sn_node (ax_sn_leaf (r_X3_prepares_13 E)) (ax_sn_leaf (r_X3_prepares_10 E))))) (ax_sn_node (ax_sn_node (ax_sn_node (ax_sn_leaf (r_X3_prepares_8 E)) (ax_sn_leaf (r_X3_prepares_7 E))) (ax_sn_node (ax_sn_leaf (r_X3_prepares_6 E)) (ax_sn_leaf (r_X3_prepares_5 E)))) (ax_sn_node (ax_sn_node (ax_sn_leaf (r_X3_prepares_2 E)) (ax_sn_leaf (r_X3_prepares_1 E))) (ax_sn_leaf (r_X3_prepares_0 E)))))))⟩
theorem r_X3_come_0 (E : ax_EN G l) : ax_Snd G l ax_Ym M_X3_come 0 (S_push (.int (0)) 1) := k_iconst dX3_come_0 rfl
theorem r_X3_come_1 (E : ax_EN G l) : ax_Snd G l ax_Ym M_X3_come 1 (S_istore 1 2) := k_istore_n dX3_come_1 rfl (Nat.le_of_ble_eq_true rfl)
theorem r_X3_come_2 (E : ax_EN G l) : ax_Snd G l ax_Ym M_X3_come 2 (S_push (.int (0)) 3) := k_iconst dX3_come_2 rfl
theorem r_X3_come_3 (E : ax_EN G l) : ax_Snd G l ax_Ym M_X3_come 3 (S_istore 2 4) := k_istore_n dX3_come_3 rfl (Nat.le_of_ble_eq_true rfl)
theorem r_X3_come_4 (E : ax_EN G l) : ax_Snd G l ax_Ym M_X3_come 4 (S_iload 2 5) := k_iload_n dX3_come_4 rfl
theorem r_X3_come_5 (E : ax_EN G l) : ax_Snd G l ax_Ym M_X3_come 5 (S_aload 0 6) := k_aload_n dX3_come_5 rfl
theorem r_X3_come_6 (E : ax_EN G l) : ax_Snd G l ax_Ym M_X3_come 6 (S_getf [(38, 43)] 9) := k_getf (en_F E) (ax_fes_cons (fe_462 E) ax_fes_nil) q2796 dX3_come_6
theorem r_X3_come_9 (E : ax_EN G l) : ax_Snd G l ax_Ym M_X3_come 9 (S_if2 (fun x y => decide (y ≤ x)) 39 12) := k_icmp_ge dX3_come_9 rfl
theorem r_X3_come_12 (E : ax_EN G l) : ax_Snd G l ax_Ym M_X3_come 12 (S_iload 1 13) := k_iload_n dX3_come_12 rfl
theorem r_X3_come_13 (E : ax_EN G l) : ax_Snd G l ax_Ym M_X3_come 13 (S_aload 0 14) := k_aload_n dX3_come_13 rfl
theorem r_X3_come_14 (E : ax_EN G l) : ax_Snd G l ax_Ym M_X3_come 14 (S_getf [(38, 41)] 17) := k_getf (en_F E) (ax_fes_cons (fe_390 E) ax_fes_nil) q2794 dX3_come_14
theorem r_X3_come_17 (E : ax_EN G l) : ax_Snd G l ax_Ym M_X3_come 17 (S_iload 2 18) := k_iload_n dX3_come_17 rfl
theorem r_X3_come_18 (E : ax_EN G l) : ax_Snd G l ax_Ym M_X3_come 18 (S_iald 0 19) := k_iald (en_F E) dX3_come_18
theorem r_X3_come_19 (E : ax_EN G l) : ax_Snd G l ax_Ym M_X3_come 19 (S_aload 0 20) := k_aload_n dX3_come_19 rfl
theorem r_X3_come_20 (E : ax_EN G l) : ax_Snd G l ax_Ym M_X3_come 20 (S_getf [(38, 38)] 23) := k_getf (en_F E) (ax_fes_cons (fe_491 E) ax_fes_nil) q2791 dX3_come_20
theorem r_X3_come_23 (E : ax_EN G l) : ax_Snd G l ax_Ym M_X3_come 23 (S_if2 (fun x y => decide (y < x)) 30 26) := k_icmp_gt dX3_come_23 rfl
theorem r_X3_come_26 (E : ax_EN G l) : ax_Snd G l ax_Ym M_X3_come 26 (S_push (.int (1)) 27) := k_iconst dX3_come_26 rfl
theorem r_X3_come_27 (E : ax_EN G l) : ax_Snd G l ax_Ym M_X3_come 27 (S_goto 31) := k_goto dX3_come_27 rfl
theorem r_X3_come_30 (E : ax_EN G l) : ax_Snd G l ax_Ym M_X3_come 30 (S_push (.int (0)) 31) := k_iconst dX3_come_30 rfl
theorem r_X3_come_31 (E : ax_EN G l) : ax_Snd G l ax_Ym M_X3_come 31 (S_i2 (fun x y => x + y) 32) := k_iadd dX3_come_31
theorem r_X3_come_32 (E : ax_EN G l) : ax_Snd G l ax_Ym M_X3_come 32 (S_istore 1 33) := k_istore_n dX3_come_32 rfl (Nat.le_of_ble_eq_true rfl)
theorem r_X3_come_33 (E : ax_EN G l) : ax_Snd G l ax_Ym M_X3_come 33 (S_iinc 2 (1) 36) := k_iinc dX3_come_33 rfl (Nat.le_of_ble_eq_true rfl)
theorem r_X3_come_36 (E : ax_EN G l) : ax_Snd G l ax_Ym M_X3_come 36 (S_goto 4) := k_goto dX3_come_36 rfl
theorem r_X3_come_39 (E : ax_EN G l) : ax_Snd G l ax_Ym M_X3_come 39 (S_iload 1 40) := k_iload_n dX3_come_39 rfl
theorem r_X3_come_40 (E : ax_EN G l) : ax_Snd G l ax_Ym M_X3_come 40 (S_iret) := k_iret dX3_come_40 rfl
theorem mt_X3_come (E : ax_EN G l) : ax_mt G l ax_Ym (3, P_X3_come) (ax_Ym 448) := ⟨M_X3_come, yX3_come, ⟨rfl, by decide +kernel, rfl, (fun h => by cases h), Or.inl ⟨rfl, rfl⟩⟩, fun pc => (ax_sn_node (ax_sn_node (ax_sn_node (ax_sn_node (ax_sn_node (ax_sn_leaf (r_X3_come_40 E)) (ax_sn_leaf (r_X3_come_39 E))) (ax_sn_node (ax_sn_leaf (r_X3_come_36 E)) (ax_sn_leaf (r_X3_come_33 E)))) (ax_sn_node (ax_sn_node (ax_sn_leaf (r_X3_come_32 E)) (ax_sn_leaf (r_X3_come_31 E))) (ax_sn_leaf (r_X3_come_30 E)))) (ax_sn_node (ax_sn_node (ax_sn_node (ax_sn_leaf (r_X3_come_27 E)) (ax_sn_leaf (r_X3_come_26 E))) (ax_sn_leaf (r_X3_come_23 E))) (ax_sn_node (ax_sn_node (ax_sn_leaf (r_X3_come_20 E)) (ax_sn_leaf (r_X3_come_19 E))) (ax_sn_leaf (r_X3_come_18 E))))) (ax_sn_node (ax_sn_node (ax_sn_node (ax_sn_node (ax_sn_leaf (r_X3_come_17 E)) (ax_sn_leaf (r_X3_come_14 E))) (ax_sn_leaf (r_X3_come_13 E))) (ax_sn_node (ax_sn_node (ax_sn_leaf (r_X3_come_12 E)) (ax_sn_leaf (r_X3_come_9 E))) (ax_sn_leaf (r_X3_come_6 E)))) (ax_sn_node (ax_sn_node (ax_sn_node (ax_sn_leaf (r_X3_come_5 E)) (ax_sn_leaf (r_X3_come_4 E))) (ax_sn_leaf (r_X3_come_3 E))) (ax_sn_node (ax_sn_node (ax_sn_leaf (r_X3_come_2 E)) (ax_sn_leaf (r_X3_come_1 E))) (ax_sn_leaf (r_X3_come_0 E))))))⟩
theorem r_X3_keysCome_0 (E : ax_EN G l) : ax_Snd G l ax_Ym M_X3_keysCome 0 (S_push (.int (0)) 1) := k_iconst dX3_keysCome_0 rfl
theorem r_X3_keysCome_1 (E : ax_EN G l) : ax_Snd G l ax_Ym M_X3_keysCome 1 (S_istore 1 2) := k_istore_n dX3_keysCome_1 rfl (Nat.le_of_ble_eq_true rfl)
theorem r_X3_keysCome_2 (E : ax_EN G l) : ax_Snd G l ax_Ym M_X3_keysCome 2 (S_iload 1 3) := k_iload_n dX3_keysCome_2 rfl
theorem r_X3_keysCome_3 (E : ax_EN G l) : ax_Snd G l ax_Ym M_X3_keysCome 3 (S_aload 0 4) := k_aload_n dX3_keysCome_3 rfl
theorem r_X3_keysCome_4 (E : ax_EN G l) : ax_Snd G l ax_Ym M_X3_keysCome 4 (S_getf [(38, 43)] 7) := k_getf (en_F E) (ax_fes_cons (fe_462 E) ax_fes_nil) q2796 dX3_keysCome_4
theorem r_X3_keysCome_7 (E : ax_EN G l) : ax_Snd G l ax_Ym M_X3_keysCome 7 (S_if2 (fun x y => decide (y ≤ x)) 45 10) := k_icmp_ge dX3_keysCome_7 rfl
theorem r_X3_keysCome_10 (E : ax_EN G l) : ax_Snd G l ax_Ym M_X3_keysCome 10 (S_aload 0 11) := k_aload_n dX3_keysCome_10 rfl
theorem r_X3_keysCome_11 (E : ax_EN G l) : ax_Snd G l ax_Ym M_X3_keysCome 11 (S_aload 0 12) := k_aload_n dX3_keysCome_11 rfl
theorem r_X3_keysCome_12 (E : ax_EN G l) : ax_Snd G l ax_Ym M_X3_keysCome 12 (S_getf [(38, 33)] 15) := k_getf (en_F E) (ax_fes_cons (fe_483 E) ax_fes_nil) q2786 dX3_keysCome_12
theorem r_X3_keysCome_15 (E : ax_EN G l) : ax_Snd G l ax_Ym M_X3_keysCome 15 (S_if1 (fun x => decide (¬ x = 0)) 31 18) := k_if_ne dX3_keysCome_15 rfl
theorem r_X3_keysCome_18 (E : ax_EN G l) : ax_Snd G l ax_Ym M_X3_keysCome 18 (S_aload 0 19) := k_aload_n dX3_keysCome_18 rfl
theorem r_X3_keysCome_19 (E : ax_EN G l) : ax_Snd G l ax_Ym M_X3_keysCome 19 (S_getf [(38, 41)] 22) := k_getf (en_F E) (ax_fes_cons (fe_390 E) ax_fes_nil) q2794 dX3_keysCome_19
theorem r_X3_keysCome_22 (E : ax_EN G l) : ax_Snd G l ax_Ym M_X3_keysCome 22 (S_iload 1 23) := k_iload_n dX3_keysCome_22 rfl
theorem r_X3_keysCome_23 (E : ax_EN G l) : ax_Snd G l ax_Ym M_X3_keysCome 23 (S_iald 0 24) := k_iald (en_F E) dX3_keysCome_23
theorem r_X3_keysCome_24 (E : ax_EN G l) : ax_Snd G l ax_Ym M_X3_keysCome 24 (S_aload 0 25) := k_aload_n dX3_keysCome_24 rfl
theorem r_X3_keysCome_25 (E : ax_EN G l) : ax_Snd G l ax_Ym M_X3_keysCome 25 (S_getf [(38, 38)] 28) := k_getf (en_F E) (ax_fes_cons (fe_491 E) ax_fes_nil) q2791 dX3_keysCome_25
theorem r_X3_keysCome_28 (E : ax_EN G l) : ax_Snd G l ax_Ym M_X3_keysCome 28 (S_if2 (fun x y => decide (¬ x = y)) 35 31) := k_icmp_ne dX3_keysCome_28 rfl
theorem r_X3_keysCome_31 (E : ax_EN G l) : ax_Snd G l ax_Ym M_X3_keysCome 31 (S_push (.int (1)) 32) := k_iconst dX3_keysCome_31 rfl
theorem r_X3_keysCome_32 (E : ax_EN G l) : ax_Snd G l ax_Ym M_X3_keysCome 32 (S_goto 36) := k_goto dX3_keysCome_32 rfl
theorem r_X3_keysCome_35 (E : ax_EN G l) : ax_Snd G l ax_Ym M_X3_keysCome 35 (S_push (.int (0)) 36) := k_iconst dX3_keysCome_35 rfl
theorem r_X3_keysCome_36 (E : ax_EN G l) : ax_Snd G l ax_Ym M_X3_keysCome 36 (S_putf [(38, 33)] (.boolean) 39) := k_putf (en_F E) (en_P E) (ax_fes_cons (fe_483 E) ax_fes_nil) (ax_fps_cons (fp_484 E) ax_fps_nil) q2786 dX3_keysCome_36
theorem r_X3_keysCome_39 (E : ax_EN G l) : ax_Snd G l ax_Ym M_X3_keysCome 39 (S_iinc 1 (1) 42) := k_iinc dX3_keysCome_39 rfl (Nat.le_of_ble_eq_true rfl)
theorem r_X3_keysCome_42 (E : ax_EN G l) : ax_Snd G l ax_Ym M_X3_keysCome 42 (S_goto 2) := k_goto dX3_keysCome_42 rfl
theorem r_X3_keysCome_45 (E : ax_EN G l) : ax_Snd G l ax_Ym M_X3_keysCome 45 (S_ret) := k_ret dX3_keysCome_45 rfl
theorem mt_X3_keysCome (E : ax_EN G l) : ax_mt G l ax_Ym (2, P_X3_keysCome) (ax_Ym 449) := ⟨M_X3_keysCome, yX3_keysCome, ⟨rfl, by decide +kernel, rfl, (fun h => by cases h), Or.inl ⟨rfl, rfl⟩⟩, fun pc => (ax_sn_node (ax_sn_node (ax_sn_node (ax_sn_node (ax_sn_node (ax_sn_leaf (r_X3_keysCome_45 E)) (ax_sn_leaf (r_X3_keysCome_42 E))) (ax_sn_leaf (r_X3_keysCome_39 E))) (ax_sn_node (ax_sn_node (ax_sn_leaf (r_X3_keysCome_36 E)) (ax_sn_leaf (r_X3_keysCome_35 E))) (ax_sn_leaf (r_X3_keysCome_32 E)))) (ax_sn_node (ax_sn_node (ax_sn_node (ax_sn_leaf (r_X3_keysCome_31 E)) (ax_sn_leaf (r_X3_keysCome_28 E))) (ax_sn_leaf (r_X3_keysCome_25 E))) (ax_sn_node (ax_sn_node (ax_sn_leaf (r_X3_keysCome_24 E)) (ax_sn_leaf (r_X3_keysCome_23 E))) (ax_sn_leaf (r_X3_keysCome_22 E))))) (ax_sn_node (ax_sn_node (ax_sn_node (ax_sn_node (ax_sn_leaf (r_X3_keysCome_19 E)) (ax_sn_leaf (r_X3_keysCome_18 E))) (ax_sn_leaf (r_X3_keysCome_15 E))) (ax_sn_node (ax_sn_node (ax_sn_leaf (r_X3_keysCome_12 E)) (ax_sn_leaf (r_X3_keysCome_11 E))) (ax_sn_leaf (r_X3_keysCome_10 E)))) (ax_sn_node (ax_sn_node (ax_sn_node (ax_sn_leaf (r_X3_keysCome_7 E)) (ax_sn_leaf (r_X3_keysCome_4 E))) (ax_sn_leaf (r_X3_keysCome_3 E))) (ax_sn_node (ax_sn_node (ax_sn_leaf (r_X3_keysCome_2 E)) (ax_sn_leaf (r_X3_keysCome_1 E))) (ax_sn_leaf (r_X3_keysCome_0 E))))))⟩
theorem r_X3_runTo_0 (E : ax_EN G l) : ax_Snd G l ax_Ym M_X3_runTo 0 (S_aload 0 1) := k_aload_n dX3_runTo_0 rfl
theorem r_X3_runTo_1 (E : ax_EN G l) : ax_Snd G l ax_Ym M_X3_runTo 1 (S_iload 1 2) := k_iload_n dX3_runTo_1 rfl
theorem r_X3_runTo_2 (E : ax_EN G l) : ax_Snd G l ax_Ym M_X3_runTo 2 (S_push (.int (0)) 3) := k_iconst dX3_runTo_2 rfl
theorem r_X3_runTo_3 (E : ax_EN G l) : ax_Snd G l ax_Ym M_X3_runTo 3 (S_push (.int (255)) 6) := k_sipush dX3_runTo_3 rfl
theorem r_X3_runTo_6 (E : ax_EN G l) : ax_Snd G l ax_Ym M_X3_runTo 6 (S_is 376 3 9 hd_0) := k_is (en_F E) (ax_ok0 E rfl) ((ev_s y_X3_in q2992 q2993 q126 q2994 nm_X3_in (Nat.le_of_ble_eq_true rfl) dX3_runTo_6) : ax_EvS G l ax_Ym M_X3_runTo 6 376 3 3)
theorem r_X3_runTo_9 (E : ax_EN G l) : ax_Snd G l ax_Ym M_X3_runTo 9 (S_if1 (fun x => decide (x = 0)) 22 12) := k_if_eq dX3_runTo_9 rfl
theorem r_X3_runTo_12 (E : ax_EN G l) : ax_Snd G l ax_Ym M_X3_runTo 12 (S_iload 2 13) := k_iload_n dX3_runTo_12 rfl
theorem r_X3_runTo_13 (E : ax_EN G l) : ax_Snd G l ax_Ym M_X3_runTo 13 (S_push (.int (1)) 14) := k_iconst dX3_runTo_13 rfl
theorem r_X3_runTo_14 (E : ax_EN G l) : ax_Snd G l ax_Ym M_X3_runTo 14 (S_push (.int (100)) 16) := k_bipush dX3_runTo_14 rfl
theorem r_X3_runTo_16 (E : ax_EN G l) : ax_Snd G l ax_Ym M_X3_runTo 16 (S_is 376 3 19 hd_0) := k_is (en_F E) (ax_ok0 E rfl) ((ev_s y_X3_in q2992 q2993 q126 q2994 nm_X3_in (Nat.le_of_ble_eq_true rfl) dX3_runTo_16) : ax_EvS G l ax_Ym M_X3_runTo 16 376 3 3)
theorem r_X3_runTo_19 (E : ax_EN G l) : ax_Snd G l ax_Ym M_X3_runTo 19 (S_if1 (fun x => decide (¬ x = 0)) 26 22) := k_if_ne dX3_runTo_19 rfl
theorem r_X3_runTo_22 (E : ax_EN G l) : ax_Snd G l ax_Ym M_X3_runTo 22 (S_push (.int (1)) 23) := k_iconst dX3_runTo_22 rfl
theorem r_X3_runTo_23 (E : ax_EN G l) : ax_Snd G l ax_Ym M_X3_runTo 23 (S_goto 38) := k_goto dX3_runTo_23 rfl
theorem r_X3_runTo_26 (E : ax_EN G l) : ax_Snd G l ax_Ym M_X3_runTo 26 (S_aload 0 27) := k_aload_n dX3_runTo_26 rfl
theorem r_X3_runTo_27 (E : ax_EN G l) : ax_Snd G l ax_Ym M_X3_runTo 27 (S_iv [(38, 405)] 0 30 hd_0) := k_iv (en_F E) (ax_ok0 E rfl) (ax_Evs_cons ((ev_v (en_c E (k := 38) rfl) rfl y_X3_isMachine q3108 q3110 qs75 q126 q3111 nm_X3_isMachine (Nat.le_of_ble_eq_true rfl) dX3_runTo_27) : ax_EvV G l ax_Ym M_X3_runTo 27 0 3 38 405) ax_Evs_nil)
theorem r_X3_runTo_30 (E : ax_EN G l) : ax_Snd G l ax_Ym M_X3_runTo 30 (S_if1 (fun x => decide (x = 0)) 37 33) := k_if_eq dX3_runTo_30 rfl
theorem r_X3_runTo_33 (E : ax_EN G l) : ax_Snd G l ax_Ym M_X3_runTo 33 (S_push (.int (0)) 34) := k_iconst dX3_runTo_33 rfl
theorem r_X3_runTo_34 (E : ax_EN G l) : ax_Snd G l ax_Ym M_X3_runTo 34 (S_goto 38) := k_goto dX3_runTo_34 rfl
theorem r_X3_runTo_37 (E : ax_EN G l) : ax_Snd G l ax_Ym M_X3_runTo 37 (S_push (.int (2)) 38) := k_iconst dX3_runTo_37 rfl
theorem r_X3_runTo_38 (E : ax_EN G l) : ax_Snd G l ax_Ym M_X3_runTo 38 (S_iv [(38, 378)] 1 41 hd_0) := k_iv (en_F E) (ax_ok0 E rfl) (ax_Evs_cons ((ev_v (en_c E (k := 38) rfl) rfl y_X3_holds q2999 q3001 qs61 q126 q3002 nm_X3_holds (Nat.le_of_ble_eq_true rfl) dX3_runTo_38) : ax_EvV G l ax_Ym M_X3_runTo 38 1 3 38 378) ax_Evs_nil)
theorem r_X3_runTo_41 (E : ax_EN G l) : ax_Snd G l ax_Ym M_X3_runTo 41 (S_if1 (fun x => decide (¬ x = 0)) 46 44) := k_if_ne dX3_runTo_41 rfl
theorem r_X3_runTo_44 (E : ax_EN G l) : ax_Snd G l ax_Ym M_X3_runTo 44 (S_push (.int (0)) 45) := k_iconst dX3_runTo_44 rfl
theorem r_X3_runTo_45 (E : ax_EN G l) : ax_Snd G l ax_Ym M_X3_runTo 45 (S_iret) := k_iret dX3_runTo_45 rfl
theorem r_X3_runTo_46 (E : ax_EN G l) : ax_Snd G l ax_Ym M_X3_runTo 46 (S_push (.int (0)) 47) := k_iconst dX3_runTo_46 rfl
theorem r_X3_runTo_47 (E : ax_EN G l) : ax_Snd G l ax_Ym M_X3_runTo 47 (S_istore 3 48) := k_istore_n dX3_runTo_47 rfl (Nat.le_of_ble_eq_true rfl)
theorem r_X3_runTo_48 (E : ax_EN G l) : ax_Snd G l ax_Ym M_X3_runTo 48 (S_push (.int (0)) 49) := k_iconst dX3_runTo_48 rfl
theorem r_X3_runTo_49 (E : ax_EN G l) : ax_Snd G l ax_Ym M_X3_runTo 49 (S_istore 4 51) := k_istore dX3_runTo_49 (Nat.le_of_ble_eq_true rfl)
theorem r_X3_runTo_51 (E : ax_EN G l) : ax_Snd G l ax_Ym M_X3_runTo 51 (S_iload 3 52) := k_iload_n dX3_runTo_51 rfl
theorem r_X3_runTo_52 (E : ax_EN G l) : ax_Snd G l ax_Ym M_X3_runTo 52 (S_iload 2 53) := k_iload_n dX3_runTo_52 rfl
theorem r_X3_runTo_53 (E : ax_EN G l) : ax_Snd G l ax_Ym M_X3_runTo 53 (S_if2 (fun x y => decide (y ≤ x)) 100 56) := k_icmp_ge dX3_runTo_53 rfl
theorem r_X3_runTo_56 (E : ax_EN G l) : ax_Snd G l ax_Ym M_X3_runTo 56 (S_iload 4 58) := k_iload dX3_runTo_56
theorem r_X3_runTo_58 (E : ax_EN G l) : ax_Snd G l ax_Ym M_X3_runTo 58 (S_if1 (fun x => decide (¬ x = 0)) 100 61) := k_if_ne dX3_runTo_58 rfl
theorem r_X3_runTo_61 (E : ax_EN G l) : ax_Snd G l ax_Ym M_X3_runTo 61 (S_aload 0 62) := k_aload_n dX3_runTo_61 rfl
theorem r_X3_runTo_62 (E : ax_EN G l) : ax_Snd G l ax_Ym M_X3_runTo 62 (S_iv [(38, 417)] 0 65 hd_0) := k_iv (en_F E) (ax_ok0 E rfl) (ax_Evs_cons ((ev_v (en_c E (k := 38) rfl) rfl y_X3_canStep q3154 q3156 qs82 q126 q3157 nm_X3_canStep (Nat.le_of_ble_eq_true rfl) dX3_runTo_62) : ax_EvV G l ax_Ym M_X3_runTo 62 0 3 38 417) ax_Evs_nil)
theorem r_X3_runTo_65 (E : ax_EN G l) : ax_Snd G l ax_Ym M_X3_runTo 65 (S_if1 (fun x => decide (x = 0)) 100 68) := k_if_eq dX3_runTo_65 rfl
theorem r_X3_runTo_68 (E : ax_EN G l) : ax_Snd G l ax_Ym M_X3_runTo 68 (S_aload 0 69) := k_aload_n dX3_runTo_68 rfl
theorem r_X3_runTo_69 (E : ax_EN G l) : ax_Snd G l ax_Ym M_X3_runTo 69 (S_iv [(38, 418)] 0 72 hd_0) := k_iv (en_F E) (ax_ok0 E rfl) (ax_Evs_cons ((ev_v (en_c E (k := 38) rfl) rfl y_X3_stepsAndKeeps q3158 q3160 qs83 q126 q3161 nm_X3_stepsAndKeeps (Nat.le_of_ble_eq_true rfl) dX3_runTo_69) : ax_EvV G l ax_Ym M_X3_runTo 69 0 3 38 418) ax_Evs_nil)
theorem r_X3_runTo_72 (E : ax_EN G l) : ax_Snd G l ax_Ym M_X3_runTo 72 (S_iinc 3 (1) 75) := k_iinc dX3_runTo_72 rfl (Nat.le_of_ble_eq_true rfl)
theorem r_X3_runTo_75 (E : ax_EN G l) : ax_Snd G l ax_Ym M_X3_runTo 75 (S_aload 0 76) := k_aload_n dX3_runTo_75 rfl
theorem r_X3_runTo_76 (E : ax_EN G l) : ax_Snd G l ax_Ym M_X3_runTo 76 (S_getf [(38, 27)] 79) := k_getf (en_F E) (ax_fes_cons (fe_469 E) ax_fes_nil) q2780 dX3_runTo_76
theorem r_X3_runTo_79 (E : ax_EN G l) : ax_Snd G l ax_Ym M_X3_runTo 79 (S_iload 1 80) := k_iload_n dX3_runTo_79 rfl
theorem r_X3_runTo_80 (E : ax_EN G l) : ax_Snd G l ax_Ym M_X3_runTo 80 (S_if2 (fun x y => decide (¬ x = y)) 94 83) := k_icmp_ne dX3_runTo_80 rfl
theorem r_X3_runTo_83 (E : ax_EN G l) : ax_Snd G l ax_Ym M_X3_runTo 83 (S_aload 0 84) := k_aload_n dX3_runTo_83 rfl
theorem r_X3_runTo_84 (E : ax_EN G l) : ax_Snd G l ax_Ym M_X3_runTo 84 (S_getf [(38, 46)] 87) := k_getf (en_F E) (ax_fes_cons (fe_495 E) ax_fes_nil) q2799 dX3_runTo_84
theorem r_X3_runTo_87 (E : ax_EN G l) : ax_Snd G l ax_Ym M_X3_runTo 87 (S_if1 (fun x => decide (¬ x = 0)) 94 90) := k_if_ne dX3_runTo_87 rfl
theorem r_X3_runTo_90 (E : ax_EN G l) : ax_Snd G l ax_Ym M_X3_runTo 90 (S_push (.int (1)) 91) := k_iconst dX3_runTo_90 rfl
theorem r_X3_runTo_91 (E : ax_EN G l) : ax_Snd G l ax_Ym M_X3_runTo 91 (S_goto 95) := k_goto dX3_runTo_91 rfl
theorem r_X3_runTo_94 (E : ax_EN G l) : ax_Snd G l ax_Ym M_X3_runTo 94 (S_push (.int (0)) 95) := k_iconst dX3_runTo_94 rfl
theorem r_X3_runTo_95 (E : ax_EN G l) : ax_Snd G l ax_Ym M_X3_runTo 95 (S_istore 4 97) := k_istore dX3_runTo_95 (Nat.le_of_ble_eq_true rfl)
theorem r_X3_runTo_97 (E : ax_EN G l) : ax_Snd G l ax_Ym M_X3_runTo 97 (S_goto 51) := k_goto dX3_runTo_97 rfl
theorem r_X3_runTo_100 (E : ax_EN G l) : ax_Snd G l ax_Ym M_X3_runTo 100 (S_iload 3 101) := k_iload_n dX3_runTo_100 rfl
theorem r_X3_runTo_101 (E : ax_EN G l) : ax_Snd G l ax_Ym M_X3_runTo 101 (S_iret) := k_iret dX3_runTo_101 rfl
theorem mt_X3_runTo (E : ax_EN G l) : ax_mt G l ax_Ym (5, P_X3_runTo) (ax_Ym 450) := ⟨M_X3_runTo, yX3_runTo, ⟨rfl, by decide +kernel, rfl, (fun h => by cases h), Or.inl ⟨rfl, rfl⟩⟩, fun pc => (ax_sn_node (ax_sn_node (ax_sn_node (ax_sn_node (ax_sn_node (ax_sn_node (ax_sn_leaf (r_X3_runTo_101 E)) (ax_sn_leaf (r_X3_runTo_100 E))) (ax_sn_node (ax_sn_leaf (r_X3_runTo_97 E)) (ax_sn_leaf (r_X3_runTo_95 E)))) (ax_sn_node (ax_sn_node (ax_sn_leaf (r_X3_runTo_94 E)) (ax_sn_leaf (r_X3_runTo_91 E))) (ax_sn_leaf (r_X3_runTo_90 E)))) (ax_sn_node (ax_sn_node (ax_sn_node (ax_sn_leaf (r_X3_runTo_87 E)) (ax_sn_leaf (r_X3_runTo_84 E))) (ax_sn_leaf (r_X3_runTo_83 E))) (ax_sn_node (ax_sn_node (ax_sn_leaf (r_X3_runTo_80 E)) (ax_sn_leaf (r_X3_runTo_79 E))) (ax_sn_leaf (r_X3_runTo_76 E))))) (ax_sn_node (ax_sn_node (ax_sn_node (ax_sn_node (ax_sn_leaf (r_X3_runTo_75 E)) (ax_sn_leaf (r_X3_runTo_72 E))) (ax_sn_node (ax_sn_leaf (r_X3_runTo_69 E)) (ax_sn_leaf (r_X3_runTo_68 E)))) (ax_sn_node (ax_sn_node (ax_sn_leaf (r_X3_runTo_65 E)) (ax_sn_leaf (r_X3_runTo_62 E))) (ax_sn_leaf (r_X3_runTo_61 E)))) (ax_sn_node (ax_sn_node (ax_sn_node (ax_sn_leaf (r_X3_runTo_58 E)) (ax_sn_leaf (r_X3_runTo_56 E))) (ax_sn_leaf (r_X3_runTo_53 E))) (ax_sn_node (ax_sn_node (ax_sn_leaf (r_X3_runTo_52 E)) (ax_sn_leaf (r_X3_runTo_51 E))) (ax_sn_leaf (r_X3_runTo_49 E)))))) (ax_sn_node (ax_sn_node (ax_sn_node (ax_sn_node (ax_sn_node (ax_sn_leaf (r_X3_runTo_48 E)) (ax_sn_leaf (r_X3_runTo_47 E))) (ax_sn_node (ax_sn_leaf (r_X3_runTo_46 E)) (ax_sn_leaf (r_X3_runTo_45 E)))) (ax_sn_node (ax_sn_node (ax_sn_leaf (r_X3_runTo_44 E)) (ax_sn_leaf (r_X3_runTo_41 E))) (ax_sn_leaf (r_X3_runTo_38 E)))) (ax_sn_node (ax_sn_node (ax_sn_node (ax_sn_leaf (r_X3_runTo_37 E)) (ax_sn_leaf (r_X3_runTo_34 E))) (ax_sn_leaf (r_X3_runTo_33 E))) (ax_sn_node (ax_sn_node (ax_sn_leaf (r_X3_runTo_30 E)) (ax_sn_leaf (r_X3_runTo_27 E))) (ax_sn_leaf (r_X3_runTo_26 E))))) (ax_sn_node (ax_sn_node (ax_sn_node (ax_sn_node (ax_sn_leaf (r_X3_runTo_23 E)) (ax_sn_leaf (r_X3_runTo_22 E))) (ax_sn_node (ax_sn_leaf (r_X3_runTo_19 E)) (ax_sn_leaf (r_X3_runTo_16 E)))) (ax_sn_node (ax_sn_node (ax_sn_leaf (r_X3_runTo_14 E)) (ax_sn_leaf (r_X3_runTo_13 E))) (ax_sn_leaf (r_X3_runTo_12 E)))) (ax_sn_node (ax_sn_node (ax_sn_node (ax_sn_leaf (r_X3_runTo_9 E)) (ax_sn_leaf (r_X3_runTo_6 E))) (ax_sn_leaf (r_X3_runTo_3 E))) (ax_sn_node (ax_sn_node (ax_sn_leaf (r_X3_runTo_2 E)) (ax_sn_leaf (r_X3_runTo_1 E))) (ax_sn_leaf (r_X3_runTo_0 E)))))))⟩
theorem r_X3_back_0 (E : ax_EN G l) : ax_Snd G l ax_Ym M_X3_back 0 (S_aload 0 1) := k_aload_n dX3_back_0 rfl
theorem r_X3_back_1 (E : ax_EN G l) : ax_Snd G l ax_Ym M_X3_back 1 (S_iload 1 2) := k_iload_n dX3_back_1 rfl
theorem r_X3_back_2 (E : ax_EN G l) : ax_Snd G l ax_Ym M_X3_back 2 (S_push (.int (1)) 3) := k_iconst dX3_back_2 rfl
theorem r_X3_back_3 (E : ax_EN G l) : ax_Snd G l ax_Ym M_X3_back 3 (S_push (.int (200)) 6) := k_sipush dX3_back_3 rfl
theorem r_X3_back_6 (E : ax_EN G l) : ax_Snd G l ax_Ym M_X3_back 6 (S_is 376 3 9 hd_0) := k_is (en_F E) (ax_ok0 E rfl) ((ev_s y_X3_in q2992 q2993 q126 q2994 nm_X3_in (Nat.le_of_ble_eq_true rfl) dX3_back_6) : ax_EvS G l ax_Ym M_X3_back 6 376 3 3)
theorem r_X3_back_9 (E : ax_EN G l) : ax_Snd G l ax_Ym M_X3_back 9 (S_if1 (fun x => decide (¬ x = 0)) 16 12) := k_if_ne dX3_back_9 rfl
theorem r_X3_back_12 (E : ax_EN G l) : ax_Snd G l ax_Ym M_X3_back 12 (S_push (.int (1)) 13) := k_iconst dX3_back_12 rfl
theorem r_X3_back_13 (E : ax_EN G l) : ax_Snd G l ax_Ym M_X3_back 13 (S_goto 28) := k_goto dX3_back_13 rfl
theorem r_X3_back_16 (E : ax_EN G l) : ax_Snd G l ax_Ym M_X3_back 16 (S_aload 0 17) := k_aload_n dX3_back_16 rfl
theorem r_X3_back_17 (E : ax_EN G l) : ax_Snd G l ax_Ym M_X3_back 17 (S_iv [(38, 405)] 0 20 hd_0) := k_iv (en_F E) (ax_ok0 E rfl) (ax_Evs_cons ((ev_v (en_c E (k := 38) rfl) rfl y_X3_isMachine q3108 q3110 qs75 q126 q3111 nm_X3_isMachine (Nat.le_of_ble_eq_true rfl) dX3_back_17) : ax_EvV G l ax_Ym M_X3_back 17 0 3 38 405) ax_Evs_nil)
theorem r_X3_back_20 (E : ax_EN G l) : ax_Snd G l ax_Ym M_X3_back 20 (S_if1 (fun x => decide (x = 0)) 27 23) := k_if_eq dX3_back_20 rfl
theorem r_X3_back_23 (E : ax_EN G l) : ax_Snd G l ax_Ym M_X3_back 23 (S_push (.int (0)) 24) := k_iconst dX3_back_23 rfl
theorem r_X3_back_24 (E : ax_EN G l) : ax_Snd G l ax_Ym M_X3_back 24 (S_goto 28) := k_goto dX3_back_24 rfl
theorem r_X3_back_27 (E : ax_EN G l) : ax_Snd G l ax_Ym M_X3_back 27 (S_push (.int (2)) 28) := k_iconst dX3_back_27 rfl
theorem r_X3_back_28 (E : ax_EN G l) : ax_Snd G l ax_Ym M_X3_back 28 (S_iv [(38, 378)] 1 31 hd_0) := k_iv (en_F E) (ax_ok0 E rfl) (ax_Evs_cons ((ev_v (en_c E (k := 38) rfl) rfl y_X3_holds q2999 q3001 qs61 q126 q3002 nm_X3_holds (Nat.le_of_ble_eq_true rfl) dX3_back_28) : ax_EvV G l ax_Ym M_X3_back 28 1 3 38 378) ax_Evs_nil)
theorem r_X3_back_31 (E : ax_EN G l) : ax_Snd G l ax_Ym M_X3_back 31 (S_if1 (fun x => decide (¬ x = 0)) 36 34) := k_if_ne dX3_back_31 rfl
theorem r_X3_back_34 (E : ax_EN G l) : ax_Snd G l ax_Ym M_X3_back 34 (S_push (.int (0)) 35) := k_iconst dX3_back_34 rfl
theorem r_X3_back_35 (E : ax_EN G l) : ax_Snd G l ax_Ym M_X3_back 35 (S_iret) := k_iret dX3_back_35 rfl
theorem r_X3_back_36 (E : ax_EN G l) : ax_Snd G l ax_Ym M_X3_back 36 (S_iload 1 37) := k_iload_n dX3_back_36 rfl
theorem r_X3_back_37 (E : ax_EN G l) : ax_Snd G l ax_Ym M_X3_back 37 (S_aload 0 38) := k_aload_n dX3_back_37 rfl
theorem r_X3_back_38 (E : ax_EN G l) : ax_Snd G l ax_Ym M_X3_back 38 (S_getf [(38, 40)] 41) := k_getf (en_F E) (ax_fes_cons (fe_464 E) ax_fes_nil) q2793 dX3_back_38
theorem r_X3_back_41 (E : ax_EN G l) : ax_Snd G l ax_Ym M_X3_back 41 (S_if2 (fun x y => decide (y ≤ x)) 48 44) := k_icmp_ge dX3_back_41 rfl
theorem r_X3_back_44 (E : ax_EN G l) : ax_Snd G l ax_Ym M_X3_back 44 (S_iload 1 45) := k_iload_n dX3_back_44 rfl
theorem r_X3_back_45 (E : ax_EN G l) : ax_Snd G l ax_Ym M_X3_back 45 (S_goto 52) := k_goto dX3_back_45 rfl
theorem r_X3_back_48 (E : ax_EN G l) : ax_Snd G l ax_Ym M_X3_back 48 (S_aload 0 49) := k_aload_n dX3_back_48 rfl
theorem r_X3_back_49 (E : ax_EN G l) : ax_Snd G l ax_Ym M_X3_back 49 (S_getf [(38, 40)] 52) := k_getf (en_F E) (ax_fes_cons (fe_464 E) ax_fes_nil) q2793 dX3_back_49
theorem r_X3_back_52 (E : ax_EN G l) : ax_Snd G l ax_Ym M_X3_back 52 (S_istore 2 53) := k_istore_n dX3_back_52 rfl (Nat.le_of_ble_eq_true rfl)
theorem r_X3_back_53 (E : ax_EN G l) : ax_Snd G l ax_Ym M_X3_back 53 (S_aload 0 54) := k_aload_n dX3_back_53 rfl
theorem r_X3_back_54 (E : ax_EN G l) : ax_Snd G l ax_Ym M_X3_back 54 (S_getf [(38, 38)] 57) := k_getf (en_F E) (ax_fes_cons (fe_491 E) ax_fes_nil) q2791 dX3_back_54
theorem r_X3_back_57 (E : ax_EN G l) : ax_Snd G l ax_Ym M_X3_back 57 (S_iload 2 58) := k_iload_n dX3_back_57 rfl
theorem r_X3_back_58 (E : ax_EN G l) : ax_Snd G l ax_Ym M_X3_back 58 (S_i2 (fun x y => x - y) 59) := k_isub dX3_back_58
theorem r_X3_back_59 (E : ax_EN G l) : ax_Snd G l ax_Ym M_X3_back 59 (S_istore 3 60) := k_istore_n dX3_back_59 rfl (Nat.le_of_ble_eq_true rfl)
theorem r_X3_back_60 (E : ax_EN G l) : ax_Snd G l ax_Ym M_X3_back 60 (S_aload 0 61) := k_aload_n dX3_back_60 rfl
theorem r_X3_back_61 (E : ax_EN G l) : ax_Snd G l ax_Ym M_X3_back 61 (S_dup 62) := k_dup dX3_back_61
theorem r_X3_back_62 (E : ax_EN G l) : ax_Snd G l ax_Ym M_X3_back 62 (S_getf [(38, 40)] 65) := k_getf (en_F E) (ax_fes_cons (fe_464 E) ax_fes_nil) q2793 dX3_back_62
theorem r_X3_back_65 (E : ax_EN G l) : ax_Snd G l ax_Ym M_X3_back 65 (S_iload 2 66) := k_iload_n dX3_back_65 rfl
theorem r_X3_back_66 (E : ax_EN G l) : ax_Snd G l ax_Ym M_X3_back 66 (S_i2 (fun x y => x - y) 67) := k_isub dX3_back_66
theorem r_X3_back_67 (E : ax_EN G l) : ax_Snd G l ax_Ym M_X3_back 67 (S_putf [(38, 40)] (.int) 70) := k_putf (en_F E) (en_P E) (ax_fes_cons (fe_464 E) ax_fes_nil) (ax_fps_cons (fp_465 E) ax_fps_nil) q2793 dX3_back_67
theorem r_X3_back_70 (E : ax_EN G l) : ax_Snd G l ax_Ym M_X3_back 70 (S_aload 0 71) := k_aload_n dX3_back_70 rfl
theorem r_X3_back_71 (E : ax_EN G l) : ax_Snd G l ax_Ym M_X3_back 71 (S_iload 3 72) := k_iload_n dX3_back_71 rfl
theorem r_X3_back_72 (E : ax_EN G l) : ax_Snd G l ax_Ym M_X3_back 72 (S_iv [(38, 452)] 1 75 hd_0) := k_iv (en_F E) (ax_ok0 E rfl) (ax_Evs_cons ((ev_v (en_c E (k := 38) rfl) rfl y_X3_makesAnew q3289 q3291 qs109 q126 q3292 nm_X3_makesAnew (Nat.le_of_ble_eq_true rfl) dX3_back_72) : ax_EvV G l ax_Ym M_X3_back 72 1 3 38 452) ax_Evs_nil)
theorem r_X3_back_75 (E : ax_EN G l) : ax_Snd G l ax_Ym M_X3_back 75 (S_iload 2 76) := k_iload_n dX3_back_75 rfl
theorem r_X3_back_76 (E : ax_EN G l) : ax_Snd G l ax_Ym M_X3_back 76 (S_iret) := k_iret dX3_back_76 rfl
theorem mt_X3_back (E : ax_EN G l) : ax_mt G l ax_Ym (4, P_X3_back) (ax_Ym 451) := ⟨M_X3_back, yX3_back, ⟨rfl, by decide +kernel, rfl, (fun h => by cases h), Or.inl ⟨rfl, rfl⟩⟩, fun pc => (ax_sn_node (ax_sn_node (ax_sn_node (ax_sn_node (ax_sn_node (ax_sn_node (ax_sn_leaf (r_X3_back_76 E)) (ax_sn_leaf (r_X3_back_75 E))) (ax_sn_leaf (r_X3_back_72 E))) (ax_sn_node (ax_sn_node (ax_sn_leaf (r_X3_back_71 E)) (ax_sn_leaf (r_X3_back_70 E))) (ax_sn_leaf (r_X3_back_67 E)))) (ax_sn_node (ax_sn_node (ax_sn_node (ax_sn_leaf (r_X3_back_66 E)) (ax_sn_leaf (r_X3_back_65 E))) (ax_sn_leaf (r_X3_back_62 E))) (ax_sn_node (ax_sn_leaf (r_X3_back_61 E)) (ax_sn_leaf (r_X3_back_60 E))))) (ax_sn_node (ax_sn_node (ax_sn_node (ax_sn_node (ax_sn_leaf (r_X3_back_59 E)) (ax_sn_leaf (r_X3_back_58 E))) (ax_sn_leaf (r_X3_back_57 E))) (ax_sn_node (ax_sn_node (ax_sn_leaf (r_X3_back_54 E)) (ax_sn_leaf (r_X3_back_53 E))) (ax_sn_leaf (r_X3_back_52 E)))) (ax_sn_node (ax_sn_node (ax_sn_node (ax_sn_leaf (r_X3_back_49 E)) (ax_sn_leaf (r_X3_back_48 E))) (ax_sn_leaf (r_X3_back_45 E))) (ax_sn_node (ax_sn_leaf (r_X3_back_44 E)) (ax_sn_leaf (r_X3_back_41 E)))))) (ax_sn_node (ax_sn_node (ax_sn_node (ax_sn_node (ax_sn_node (ax_sn_leaf (r_X3_back_38 E)) (ax_sn_leaf (r_X3_back_37 E))) (ax_sn_leaf (r_X3_back_36 E))) (ax_sn_node (ax_sn_node (ax_sn_leaf (r_X3_back_35 E)) (ax_sn_leaf (r_X3_back_34 E))) (ax_sn_leaf (r_X3_back_31 E)))) (ax_sn_node (ax_sn_node (ax_sn_node (ax_sn_leaf (r_X3_back_28 E)) (ax_sn_leaf (r_X3_back_27 E))) (ax_sn_leaf (r_X3_back_24 E))) (ax_sn_node (ax_sn_leaf (r_X3_back_23 E)) (ax_sn_leaf (r_X3_back_20 E))))) (ax_sn_node (ax_sn_node (ax_sn_node (ax_sn_node (ax_sn_leaf (r_X3_back_17 E)) (ax_sn_leaf (r_X3_back_16 E))) (ax_sn_leaf (r_X3_back_13 E))) (ax_sn_node (ax_sn_leaf (r_X3_back_12 E)) (ax_sn_leaf (r_X3_back_9 E)))) (ax_sn_node (ax_sn_node (ax_sn_node (ax_sn_leaf (r_X3_back_6 E)) (ax_sn_leaf (r_X3_back_3 E))) (ax_sn_leaf (r_X3_back_2 E))) (ax_sn_node (ax_sn_leaf (r_X3_back_1 E)) (ax_sn_leaf (r_X3_back_0 E)))))))⟩
theorem r_X3_makesAnew_0 (E : ax_EN G l) : ax_Snd G l ax_Ym M_X3_makesAnew 0 (S_aload 0 1) := k_aload_n dX3_makesAnew_0 rfl
theorem r_X3_makesAnew_1 (E : ax_EN G l) : ax_Snd G l ax_Ym M_X3_makesAnew 1 (S_getf [(38, 54)] 4) := k_getf (en_F E) (ax_fes_cons (fe_408 E) ax_fes_nil) q2807 dX3_makesAnew_1
theorem r_X3_makesAnew_4 (E : ax_EN G l) : ax_Snd G l ax_Ym M_X3_makesAnew 4 (S_aload 0 5) := k_aload_n dX3_makesAnew_4 rfl
theorem r_X3_makesAnew_5 (E : ax_EN G l) : ax_Snd G l ax_Ym M_X3_makesAnew 5 (S_getf [(38, 50)] 8) := k_getf (en_F E) (ax_fes_cons (fe_402 E) ax_fes_nil) q2803 dX3_makesAnew_5
theorem r_X3_makesAnew_8 (E : ax_EN G l) : ax_Snd G l ax_Ym M_X3_makesAnew 8 (S_is 409 2 11 hd_0) := k_is (en_F E) (ax_ok0 E rfl) ((ev_s y_X3_copies q3124 q3125 q126 q3126 nm_X3_copies (Nat.le_of_ble_eq_true rfl) dX3_makesAnew_8) : ax_EvS G l ax_Ym M_X3_makesAnew 8 409 2 3)
theorem r_X3_makesAnew_11 (E : ax_EN G l) : ax_Snd G l ax_Ym M_X3_makesAnew 11 (S_aload 0 12) := k_aload_n dX3_makesAnew_11 rfl
theorem r_X3_makesAnew_12 (E : ax_EN G l) : ax_Snd G l ax_Ym M_X3_makesAnew 12 (S_aload 0 13) := k_aload_n dX3_makesAnew_12 rfl
theorem r_X3_makesAnew_13 (E : ax_EN G l) : ax_Snd G l ax_Ym M_X3_makesAnew 13 (S_getf [(38, 55)] 16) := k_getf (en_F E) (ax_fes_cons (fe_460 E) ax_fes_nil) q2808 dX3_makesAnew_13
theorem r_X3_makesAnew_16 (E : ax_EN G l) : ax_Snd G l ax_Ym M_X3_makesAnew 16 (S_putf [(38, 52)] (.int) 19) := k_putf (en_F E) (en_P E) (ax_fes_cons (fe_440 E) ax_fes_nil) (ax_fps_cons (fp_441 E) ax_fps_nil) q2805 dX3_makesAnew_16
theorem r_X3_makesAnew_19 (E : ax_EN G l) : ax_Snd G l ax_Ym M_X3_makesAnew 19 (S_aload 0 20) := k_aload_n dX3_makesAnew_19 rfl
theorem r_X3_makesAnew_20 (E : ax_EN G l) : ax_Snd G l ax_Ym M_X3_makesAnew 20 (S_aload 0 21) := k_aload_n dX3_makesAnew_20 rfl
theorem r_X3_makesAnew_21 (E : ax_EN G l) : ax_Snd G l ax_Ym M_X3_makesAnew 21 (S_getf [(38, 53)] 24) := k_getf (en_F E) (ax_fes_cons (fe_406 E) ax_fes_nil) q2806 dX3_makesAnew_21
theorem r_X3_makesAnew_24 (E : ax_EN G l) : ax_Snd G l ax_Ym M_X3_makesAnew 24 (S_iv [(38, 410)] 1 27 hd_0) := k_iv (en_F E) (ax_ok0 E rfl) (ax_Evs_cons ((ev_v (en_c E (k := 38) rfl) rfl y_X3_wakes q3127 q3129 qs79 q126 q3130 nm_X3_wakes (Nat.le_of_ble_eq_true rfl) dX3_makesAnew_24) : ax_EvV G l ax_Ym M_X3_makesAnew 24 1 3 38 410) ax_Evs_nil)
theorem r_X3_makesAnew_27 (E : ax_EN G l) : ax_Snd G l ax_Ym M_X3_makesAnew 27 (S_aload 0 28) := k_aload_n dX3_makesAnew_27 rfl
theorem r_X3_makesAnew_28 (E : ax_EN G l) : ax_Snd G l ax_Ym M_X3_makesAnew 28 (S_iv [(38, 449)] 0 31 hd_0) := k_iv (en_F E) (ax_ok0 E rfl) (ax_Evs_cons ((ev_v (en_c E (k := 38) rfl) rfl y_X3_keysCome q3277 q3279 qs108 q126 q3280 nm_X3_keysCome (Nat.le_of_ble_eq_true rfl) dX3_makesAnew_28) : ax_EvV G l ax_Ym M_X3_makesAnew 28 0 3 38 449) ax_Evs_nil)
theorem r_X3_makesAnew_31 (E : ax_EN G l) : ax_Snd G l ax_Ym M_X3_makesAnew 31 (S_push (.int (0)) 32) := k_iconst dX3_makesAnew_31 rfl
theorem r_X3_makesAnew_32 (E : ax_EN G l) : ax_Snd G l ax_Ym M_X3_makesAnew 32 (S_istore 2 33) := k_istore_n dX3_makesAnew_32 rfl (Nat.le_of_ble_eq_true rfl)
theorem r_X3_makesAnew_33 (E : ax_EN G l) : ax_Snd G l ax_Ym M_X3_makesAnew 33 (S_iload 2 34) := k_iload_n dX3_makesAnew_33 rfl
theorem r_X3_makesAnew_34 (E : ax_EN G l) : ax_Snd G l ax_Ym M_X3_makesAnew 34 (S_iload 1 35) := k_iload_n dX3_makesAnew_34 rfl
theorem r_X3_makesAnew_35 (E : ax_EN G l) : ax_Snd G l ax_Ym M_X3_makesAnew 35 (S_if2 (fun x y => decide (y ≤ x)) 48 38) := k_icmp_ge dX3_makesAnew_35 rfl
theorem r_X3_makesAnew_38 (E : ax_EN G l) : ax_Snd G l ax_Ym M_X3_makesAnew 38 (S_aload 0 39) := k_aload_n dX3_makesAnew_38 rfl
theorem r_X3_makesAnew_39 (E : ax_EN G l) : ax_Snd G l ax_Ym M_X3_makesAnew 39 (S_iv [(38, 419)] 0 42 hd_0) := k_iv (en_F E) (ax_ok0 E rfl) (ax_Evs_cons ((ev_v (en_c E (k := 38) rfl) rfl y_X3_stepsOnce q3162 q3164 qs84 q126 q3165 nm_X3_stepsOnce (Nat.le_of_ble_eq_true rfl) dX3_makesAnew_39) : ax_EvV G l ax_Ym M_X3_makesAnew 39 0 3 38 419) ax_Evs_nil)
theorem r_X3_makesAnew_42 (E : ax_EN G l) : ax_Snd G l ax_Ym M_X3_makesAnew 42 (S_iinc 2 (1) 45) := k_iinc dX3_makesAnew_42 rfl (Nat.le_of_ble_eq_true rfl)
theorem r_X3_makesAnew_45 (E : ax_EN G l) : ax_Snd G l ax_Ym M_X3_makesAnew 45 (S_goto 33) := k_goto dX3_makesAnew_45 rfl
theorem r_X3_makesAnew_48 (E : ax_EN G l) : ax_Snd G l ax_Ym M_X3_makesAnew 48 (S_ret) := k_ret dX3_makesAnew_48 rfl
theorem mt_X3_makesAnew (E : ax_EN G l) : ax_mt G l ax_Ym (3, P_X3_makesAnew) (ax_Ym 452) := ⟨M_X3_makesAnew, yX3_makesAnew, ⟨rfl, by decide +kernel, rfl, (fun h => by cases h), Or.inl ⟨rfl, rfl⟩⟩, fun pc => (ax_sn_node (ax_sn_node (ax_sn_node (ax_sn_node (ax_sn_node (ax_sn_leaf (r_X3_makesAnew_48 E)) (ax_sn_leaf (r_X3_makesAnew_45 E))) (ax_sn_node (ax_sn_leaf (r_X3_makesAnew_42 E)) (ax_sn_leaf (r_X3_makesAnew_39 E)))) (ax_sn_node (ax_sn_node (ax_sn_leaf (r_X3_makesAnew_38 E)) (ax_sn_leaf (r_X3_makesAnew_35 E))) (ax_sn_leaf (r_X3_makesAnew_34 E)))) (ax_sn_node (ax_sn_node (ax_sn_node (ax_sn_leaf (r_X3_makesAnew_33 E)) (ax_sn_leaf (r_X3_makesAnew_32 E))) (ax_sn_leaf (r_X3_makesAnew_31 E))) (ax_sn_node (ax_sn_node (ax_sn_leaf (r_X3_makesAnew_28 E)) (ax_sn_leaf (r_X3_makesAnew_27 E))) (ax_sn_leaf (r_X3_makesAnew_24 E))))) (ax_sn_node (ax_sn_node (ax_sn_node (ax_sn_node (ax_sn_leaf (r_X3_makesAnew_21 E)) (ax_sn_leaf (r_X3_makesAnew_20 E))) (ax_sn_leaf (r_X3_makesAnew_19 E))) (ax_sn_node (ax_sn_node (ax_sn_leaf (r_X3_makesAnew_16 E)) (ax_sn_leaf (r_X3_makesAnew_13 E))) (ax_sn_leaf (r_X3_makesAnew_12 E)))) (ax_sn_node (ax_sn_node (ax_sn_node (ax_sn_leaf (r_X3_makesAnew_11 E)) (ax_sn_leaf (r_X3_makesAnew_8 E))) (ax_sn_leaf (r_X3_makesAnew_5 E))) (ax_sn_node (ax_sn_node (ax_sn_leaf (r_X3_makesAnew_4 E)) (ax_sn_leaf (r_X3_makesAnew_1 E))) (ax_sn_leaf (r_X3_makesAnew_0 E))))))⟩
theorem r_X3_press_0 (E : ax_EN G l) : ax_Snd G l ax_Ym M_X3_press 0 (S_aload 0 1) := k_aload_n dX3_press_0 rfl
theorem r_X3_press_1 (E : ax_EN G l) : ax_Snd G l ax_Ym M_X3_press 1 (S_iload 1 2) := k_iload_n dX3_press_1 rfl
theorem r_X3_press_2 (E : ax_EN G l) : ax_Snd G l ax_Ym M_X3_press 2 (S_push (.int (0)) 3) := k_iconst dX3_press_2 rfl
theorem r_X3_press_3 (E : ax_EN G l) : ax_Snd G l ax_Ym M_X3_press 3 (S_push (.int (65535)) 5) := k_ldc q3014 dX3_press_3
theorem r_X3_press_5 (E : ax_EN G l) : ax_Snd G l ax_Ym M_X3_press 5 (S_is 376 3 8 hd_0) := k_is (en_F E) (ax_ok0 E rfl) ((ev_s y_X3_in q2992 q2993 q126 q2994 nm_X3_in (Nat.le_of_ble_eq_true rfl) dX3_press_5) : ax_EvS G l ax_Ym M_X3_press 5 376 3 3)
theorem r_X3_press_8 (E : ax_EN G l) : ax_Snd G l ax_Ym M_X3_press 8 (S_if1 (fun x => decide (¬ x = 0)) 15 11) := k_if_ne dX3_press_8 rfl
theorem r_X3_press_11 (E : ax_EN G l) : ax_Snd G l ax_Ym M_X3_press 11 (S_push (.int (1)) 12) := k_iconst dX3_press_11 rfl
theorem r_X3_press_12 (E : ax_EN G l) : ax_Snd G l ax_Ym M_X3_press 12 (S_goto 37) := k_goto dX3_press_12 rfl
theorem r_X3_press_15 (E : ax_EN G l) : ax_Snd G l ax_Ym M_X3_press 15 (S_aload 0 16) := k_aload_n dX3_press_15 rfl
theorem r_X3_press_16 (E : ax_EN G l) : ax_Snd G l ax_Ym M_X3_press 16 (S_getf [(38, 23)] 19) := k_getf (en_F E) (ax_fes_cons (fe_466 E) ax_fes_nil) q2776 dX3_press_16
theorem r_X3_press_19 (E : ax_EN G l) : ax_Snd G l ax_Ym M_X3_press 19 (S_push (.int (1)) 20) := k_iconst dX3_press_19 rfl
theorem r_X3_press_20 (E : ax_EN G l) : ax_Snd G l ax_Ym M_X3_press 20 (S_if2 (fun x y => decide (¬ x = y)) 32 23) := k_icmp_ne dX3_press_20 rfl
theorem r_X3_press_23 (E : ax_EN G l) : ax_Snd G l ax_Ym M_X3_press 23 (S_aload 0 24) := k_aload_n dX3_press_23 rfl
theorem r_X3_press_24 (E : ax_EN G l) : ax_Snd G l ax_Ym M_X3_press 24 (S_getf [(38, 43)] 27) := k_getf (en_F E) (ax_fes_cons (fe_462 E) ax_fes_nil) q2796 dX3_press_24
theorem r_X3_press_27 (E : ax_EN G l) : ax_Snd G l ax_Ym M_X3_press 27 (S_push (.int (20)) 29) := k_bipush dX3_press_27 rfl
theorem r_X3_press_29 (E : ax_EN G l) : ax_Snd G l ax_Ym M_X3_press 29 (S_if2 (fun x y => decide (¬ x = y)) 36 32) := k_icmp_ne dX3_press_29 rfl
theorem r_X3_press_32 (E : ax_EN G l) : ax_Snd G l ax_Ym M_X3_press 32 (S_push (.int (2)) 33) := k_iconst dX3_press_32 rfl
theorem r_X3_press_33 (E : ax_EN G l) : ax_Snd G l ax_Ym M_X3_press 33 (S_goto 37) := k_goto dX3_press_33 rfl
theorem r_X3_press_36 (E : ax_EN G l) : ax_Snd G l ax_Ym M_X3_press 36 (S_push (.int (0)) 37) := k_iconst dX3_press_36 rfl
theorem r_X3_press_37 (E : ax_EN G l) : ax_Snd G l ax_Ym M_X3_press 37 (S_iv [(38, 378)] 1 40 hd_0) := k_iv (en_F E) (ax_ok0 E rfl) (ax_Evs_cons ((ev_v (en_c E (k := 38) rfl) rfl y_X3_holds q2999 q3001 qs61 q126 q3002 nm_X3_holds (Nat.le_of_ble_eq_true rfl) dX3_press_37) : ax_EvV G l ax_Ym M_X3_press 37 1 3 38 378) ax_Evs_nil)
theorem r_X3_press_40 (E : ax_EN G l) : ax_Snd G l ax_Ym M_X3_press 40 (S_if1 (fun x => decide (¬ x = 0)) 45 43) := k_if_ne dX3_press_40 rfl
theorem r_X3_press_43 (E : ax_EN G l) : ax_Snd G l ax_Ym M_X3_press 43 (S_push (.int (0)) 44) := k_iconst dX3_press_43 rfl
theorem r_X3_press_44 (E : ax_EN G l) : ax_Snd G l ax_Ym M_X3_press 44 (S_iret) := k_iret dX3_press_44 rfl
theorem r_X3_press_45 (E : ax_EN G l) : ax_Snd G l ax_Ym M_X3_press 45 (S_aload 0 46) := k_aload_n dX3_press_45 rfl
theorem r_X3_press_46 (E : ax_EN G l) : ax_Snd G l ax_Ym M_X3_press 46 (S_getf [(38, 43)] 49) := k_getf (en_F E) (ax_fes_cons (fe_462 E) ax_fes_nil) q2796 dX3_press_46
theorem r_X3_press_49 (E : ax_EN G l) : ax_Snd G l ax_Ym M_X3_press 49 (S_istore 2 50) := k_istore_n dX3_press_49 rfl (Nat.le_of_ble_eq_true rfl)
theorem r_X3_press_50 (E : ax_EN G l) : ax_Snd G l ax_Ym M_X3_press 50 (S_iload 2 51) := k_iload_n dX3_press_50 rfl
theorem r_X3_press_51 (E : ax_EN G l) : ax_Snd G l ax_Ym M_X3_press 51 (S_if1 (fun x => decide (x ≤ 0)) 103 54) := k_if_le dX3_press_51 rfl
theorem r_X3_press_54 (E : ax_EN G l) : ax_Snd G l ax_Ym M_X3_press 54 (S_aload 0 55) := k_aload_n dX3_press_54 rfl
theorem r_X3_press_55 (E : ax_EN G l) : ax_Snd G l ax_Ym M_X3_press 55 (S_getf [(38, 41)] 58) := k_getf (en_F E) (ax_fes_cons (fe_390 E) ax_fes_nil) q2794 dX3_press_55
theorem r_X3_press_58 (E : ax_EN G l) : ax_Snd G l ax_Ym M_X3_press 58 (S_iload 2 59) := k_iload_n dX3_press_58 rfl
theorem r_X3_press_59 (E : ax_EN G l) : ax_Snd G l ax_Ym M_X3_press 59 (S_push (.int (1)) 60) := k_iconst dX3_press_59 rfl
theorem r_X3_press_60 (E : ax_EN G l) : ax_Snd G l ax_Ym M_X3_press 60 (S_i2 (fun x y => x - y) 61) := k_isub dX3_press_60
theorem r_X3_press_61 (E : ax_EN G l) : ax_Snd G l ax_Ym M_X3_press 61 (S_iald 0 62) := k_iald (en_F E) dX3_press_61
theorem r_X3_press_62 (E : ax_EN G l) : ax_Snd G l ax_Ym M_X3_press 62 (S_aload 0 63) := k_aload_n dX3_press_62 rfl
theorem r_X3_press_63 (E : ax_EN G l) : ax_Snd G l ax_Ym M_X3_press 63 (S_getf [(38, 38)] 66) := k_getf (en_F E) (ax_fes_cons (fe_491 E) ax_fes_nil) q2791 dX3_press_63
theorem r_X3_press_66 (E : ax_EN G l) : ax_Snd G l ax_Ym M_X3_press 66 (S_if2 (fun x y => decide (x ≤ y)) 103 69) := k_icmp_le dX3_press_66 rfl
theorem r_X3_press_69 (E : ax_EN G l) : ax_Snd G l ax_Ym M_X3_press 69 (S_aload 0 70) := k_aload_n dX3_press_69 rfl
theorem r_X3_press_70 (E : ax_EN G l) : ax_Snd G l ax_Ym M_X3_press 70 (S_getf [(38, 41)] 73) := k_getf (en_F E) (ax_fes_cons (fe_390 E) ax_fes_nil) q2794 dX3_press_70
theorem r_X3_press_73 (E : ax_EN G l) : ax_Snd G l ax_Ym M_X3_press 73 (S_iload 2 74) := k_iload_n dX3_press_73 rfl
theorem r_X3_press_74 (E : ax_EN G l) : ax_Snd G l ax_Ym M_X3_press 74 (S_aload 0 75) := k_aload_n dX3_press_74 rfl
theorem r_X3_press_75 (E : ax_EN G l) : ax_Snd G l ax_Ym M_X3_press 75 (S_getf [(38, 41)] 78) := k_getf (en_F E) (ax_fes_cons (fe_390 E) ax_fes_nil) q2794 dX3_press_75
theorem r_X3_press_78 (E : ax_EN G l) : ax_Snd G l ax_Ym M_X3_press 78 (S_iload 2 79) := k_iload_n dX3_press_78 rfl
theorem r_X3_press_79 (E : ax_EN G l) : ax_Snd G l ax_Ym M_X3_press 79 (S_push (.int (1)) 80) := k_iconst dX3_press_79 rfl
theorem r_X3_press_80 (E : ax_EN G l) : ax_Snd G l ax_Ym M_X3_press 80 (S_i2 (fun x y => x - y) 81) := k_isub dX3_press_80
theorem r_X3_press_81 (E : ax_EN G l) : ax_Snd G l ax_Ym M_X3_press 81 (S_iald 0 82) := k_iald (en_F E) dX3_press_81
theorem r_X3_press_82 (E : ax_EN G l) : ax_Snd G l ax_Ym M_X3_press 82 (S_iast 0 (fun x => x) 83) := k_iast (en_F E) dX3_press_82
theorem r_X3_press_83 (E : ax_EN G l) : ax_Snd G l ax_Ym M_X3_press 83 (S_aload 0 84) := k_aload_n dX3_press_83 rfl
theorem r_X3_press_84 (E : ax_EN G l) : ax_Snd G l ax_Ym M_X3_press 84 (S_getf [(38, 42)] 87) := k_getf (en_F E) (ax_fes_cons (fe_392 E) ax_fes_nil) q2795 dX3_press_84
theorem r_X3_press_87 (E : ax_EN G l) : ax_Snd G l ax_Ym M_X3_press 87 (S_iload 2 88) := k_iload_n dX3_press_87 rfl
theorem r_X3_press_88 (E : ax_EN G l) : ax_Snd G l ax_Ym M_X3_press 88 (S_aload 0 89) := k_aload_n dX3_press_88 rfl
theorem r_X3_press_89 (E : ax_EN G l) : ax_Snd G l ax_Ym M_X3_press 89 (S_getf [(38, 42)] 92) := k_getf (en_F E) (ax_fes_cons (fe_392 E) ax_fes_nil) q2795 dX3_press_89
theorem r_X3_press_92 (E : ax_EN G l) : ax_Snd G l ax_Ym M_X3_press 92 (S_iload 2 93) := k_iload_n dX3_press_92 rfl
theorem r_X3_press_93 (E : ax_EN G l) : ax_Snd G l ax_Ym M_X3_press 93 (S_push (.int (1)) 94) := k_iconst dX3_press_93 rfl
theorem r_X3_press_94 (E : ax_EN G l) : ax_Snd G l ax_Ym M_X3_press 94 (S_i2 (fun x y => x - y) 95) := k_isub dX3_press_94
theorem r_X3_press_95 (E : ax_EN G l) : ax_Snd G l ax_Ym M_X3_press 95 (S_iald 0 96) := k_iald (en_F E) dX3_press_95
theorem r_X3_press_96 (E : ax_EN G l) : ax_Snd G l ax_Ym M_X3_press 96 (S_iast 0 (fun x => x) 97) := k_iast (en_F E) dX3_press_96
theorem r_X3_press_97 (E : ax_EN G l) : ax_Snd G l ax_Ym M_X3_press 97 (S_iinc 2 (-1) 100) := k_iinc dX3_press_97 rfl (Nat.le_of_ble_eq_true rfl)
theorem r_X3_press_100 (E : ax_EN G l) : ax_Snd G l ax_Ym M_X3_press 100 (S_goto 50) := k_goto dX3_press_100 rfl
theorem r_X3_press_103 (E : ax_EN G l) : ax_Snd G l ax_Ym M_X3_press 103 (S_aload 0 104) := k_aload_n dX3_press_103 rfl
theorem r_X3_press_104 (E : ax_EN G l) : ax_Snd G l ax_Ym M_X3_press 104 (S_getf [(38, 41)] 107) := k_getf (en_F E) (ax_fes_cons (fe_390 E) ax_fes_nil) q2794 dX3_press_104
theorem r_X3_press_107 (E : ax_EN G l) : ax_Snd G l ax_Ym M_X3_press 107 (S_iload 2 108) := k_iload_n dX3_press_107 rfl
theorem r_X3_press_108 (E : ax_EN G l) : ax_Snd G l ax_Ym M_X3_press 108 (S_aload 0 109) := k_aload_n dX3_press_108 rfl
theorem r_X3_press_109 (E : ax_EN G l) : ax_Snd G l ax_Ym M_X3_press 109 (S_getf [(38, 38)] 112) := k_getf (en_F E) (ax_fes_cons (fe_491 E) ax_fes_nil) q2791 dX3_press_109
theorem r_X3_press_112 (E : ax_EN G l) : ax_Snd G l ax_Ym M_X3_press 112 (S_iast 0 (fun x => x) 113) := k_iast (en_F E) dX3_press_112
theorem r_X3_press_113 (E : ax_EN G l) : ax_Snd G l ax_Ym M_X3_press 113 (S_aload 0 114) := k_aload_n dX3_press_113 rfl
theorem r_X3_press_114 (E : ax_EN G l) : ax_Snd G l ax_Ym M_X3_press 114 (S_getf [(38, 42)] 117) := k_getf (en_F E) (ax_fes_cons (fe_392 E) ax_fes_nil) q2795 dX3_press_114
theorem r_X3_press_117 (E : ax_EN G l) : ax_Snd G l ax_Ym M_X3_press 117 (S_iload 2 118) := k_iload_n dX3_press_117 rfl
theorem r_X3_press_118 (E : ax_EN G l) : ax_Snd G l ax_Ym M_X3_press 118 (S_iload 1 119) := k_iload_n dX3_press_118 rfl
theorem r_X3_press_119 (E : ax_EN G l) : ax_Snd G l ax_Ym M_X3_press 119 (S_iast 0 (fun x => x) 120) := k_iast (en_F E) dX3_press_119
theorem r_X3_press_120 (E : ax_EN G l) : ax_Snd G l ax_Ym M_X3_press 120 (S_aload 0 121) := k_aload_n dX3_press_120 rfl
theorem r_X3_press_121 (E : ax_EN G l) : ax_Snd G l ax_Ym M_X3_press 121 (S_dup 122) := k_dup dX3_press_121
theorem r_X3_press_122 (E : ax_EN G l) : ax_Snd G l ax_Ym M_X3_press 122 (S_getf [(38, 43)] 125) := k_getf (en_F E) (ax_fes_cons (fe_462 E) ax_fes_nil) q2796 dX3_press_122
theorem r_X3_press_125 (E : ax_EN G l) : ax_Snd G l ax_Ym M_X3_press 125 (S_push (.int (1)) 126) := k_iconst dX3_press_125 rfl
theorem r_X3_press_126 (E : ax_EN G l) : ax_Snd G l ax_Ym M_X3_press 126 (S_i2 (fun x y => x + y) 127) := k_iadd dX3_press_126
theorem r_X3_press_127 (E : ax_EN G l) : ax_Snd G l ax_Ym M_X3_press 127 (S_putf [(38, 43)] (.int) 130) := k_putf (en_F E) (en_P E) (ax_fes_cons (fe_462 E) ax_fes_nil) (ax_fps_cons (fp_463 E) ax_fps_nil) q2796 dX3_press_127
theorem r_X3_press_130 (E : ax_EN G l) : ax_Snd G l ax_Ym M_X3_press 130 (S_aload 0 131) := k_aload_n dX3_press_130 rfl
theorem r_X3_press_131 (E : ax_EN G l) : ax_Snd G l ax_Ym M_X3_press 131 (S_push (.int (1)) 132) := k_iconst dX3_press_131 rfl
theorem r_X3_press_132 (E : ax_EN G l) : ax_Snd G l ax_Ym M_X3_press 132 (S_putf [(38, 33)] (.boolean) 135) := k_putf (en_F E) (en_P E) (ax_fes_cons (fe_483 E) ax_fes_nil) (ax_fps_cons (fp_484 E) ax_fps_nil) q2786 dX3_press_132
theorem r_X3_press_135 (E : ax_EN G l) : ax_Snd G l ax_Ym M_X3_press 135 (S_aload 0 136) := k_aload_n dX3_press_135 rfl
theorem r_X3_press_136 (E : ax_EN G l) : ax_Snd G l ax_Ym M_X3_press 136 (S_getf [(38, 43)] 139) := k_getf (en_F E) (ax_fes_cons (fe_462 E) ax_fes_nil) q2796 dX3_press_136
theorem r_X3_press_139 (E : ax_EN G l) : ax_Snd G l ax_Ym M_X3_press 139 (S_iret) := k_iret dX3_press_139 rfl
theorem mt_X3_press (E : ax_EN G l) : ax_mt G l ax_Ym (3, P_X3_press) (ax_Ym 453) := ⟨M_X3_press, yX3_press, ⟨rfl, by decide +kernel, rfl, (fun h => by cases h), Or.inl ⟨rfl, rfl⟩⟩, fun pc => (ax_sn_node (ax_sn_node (ax_sn_node (ax_sn_node (ax_sn_node (ax_sn_node (ax_sn_node (ax_sn_leaf (r_X3_press_139 E)) (ax_sn_leaf (r_X3_press_136 E))) (ax_sn_leaf (r_X3_press_135 E))) (ax_sn_node (ax_sn_node (ax_sn_leaf (r_X3_press_132 E)) (ax_sn_leaf (r_X3_press_131 E))) (ax_sn_leaf (r_X3_press_130 E)))) (ax_sn_node (ax_sn_node (ax_sn_node (ax_sn_leaf (r_X3_press_127 E)) (ax_sn_leaf (r_X3_press_126 E))) (ax_sn_leaf (r_X3_press_125 E))) (ax_sn_node (ax_sn_leaf (r_X3_press_122 E)) (ax_sn_leaf (r_X3_press_121 E))))) (ax_sn_node (ax_sn_node (ax_sn_node (ax_sn_node (ax_sn_leaf (r_X3_press_120 E)) (ax_sn_leaf (r_X3_press_119 E))) (ax_sn_leaf (r_X3_press_118 E))) (ax_sn_node (ax_sn_leaf (r_X3_press_117 E)) (ax_sn_leaf (r_X3_press_114 E)))) (ax_sn_node (ax_sn_node (ax_sn_node (ax_sn_leaf (r_X3_press_113 E)) (ax_sn_leaf (r_X3_press_112 E))) (ax_sn_leaf (r_X3_press_109 E))) (ax_sn_node (ax_sn_leaf (r_X3_press_108 E)) (ax_sn_leaf (r_X3_press_107 E)))))) (ax_sn_node (ax_sn_node (ax_sn_node (ax_sn_node (ax_sn_node (ax_sn_leaf (r_X3_press_104 E)) (ax_sn_leaf (r_X3_press_103 E))) (ax_sn_leaf (r_X3_press_100 E))) (ax_sn_node (ax_sn_leaf (r_X3_press_97 E)) (ax_sn_leaf (r_X3_press_96 E)))) (ax_sn_node (ax_sn_node (ax_sn_node (ax_sn_leaf (r_X3_press_95 E)) (ax_sn_leaf (r_X3_press_94 E))) (ax_sn_leaf (r_X3_press_93 E))) (ax_sn_node (ax_sn_leaf (r_X3_press_92 E)) (ax_sn_leaf (r_X3_press_89 E))))) (ax_sn_node (ax_sn_node (ax_sn_node (ax_sn_node (ax_sn_leaf (r_X3_press_88 E)) (ax_sn_leaf (r_X3_press_87 E))) (ax_sn_leaf (r_X3_press_84 E))) (ax_sn_node (ax_sn_leaf (r_X3_press_83 E)) (ax_sn_leaf (r_X3_press_82 E)))) (ax_sn_node (ax_sn_node (ax_sn_node (ax_sn_leaf (r_X3_press_81 E)) (ax_sn_leaf (r_X3_press_80 E))) (ax_sn_leaf (r_X3_press_79 E))) (ax_sn_node (ax_sn_leaf (r_X3_press_78 E)) (ax_sn_leaf (r_X3_press_75 E))))))) (ax_sn_node (ax_sn_node (ax_sn_node (ax_sn_node (ax_sn_node (ax_sn_node (ax_sn_leaf (r_X3_press_74 E)) (ax_sn_leaf (r_X3_press_73 E))) (ax_sn_leaf (r_X3_press_70 E))) (ax_sn_node (ax_sn_node (ax_sn_leaf (r_X3_press_69 E)) (ax_sn_leaf (r_X3_press_66 E))) (ax_sn_leaf (r_X3_press_63 E)))) (ax_sn_node (ax_sn_node (ax_sn_node (ax_sn_leaf (r_X3_press_62 E)) (ax_sn_leaf (r_X3_press_61 E))) (ax_sn_leaf (r_X3_press_60 E))) (ax_sn_node (ax_sn_leaf (r_X3_press_59 E)) (ax_sn_leaf (r_X3_press_58 E))))) (ax_sn_node (ax_sn_node (ax_sn_node (ax_sn_node (ax_sn_leaf (r_X3_press_55 E)) (ax_sn_leaf (r_X3_press_54 E))) (ax_sn_leaf (r_X3_press_51 E))) (ax_sn_node (ax_sn_leaf (r_X3_press_50 E)) (ax_sn_leaf (r_X3_press_49 E)))) (ax_sn_node (ax_sn_node (ax_sn_node (ax_sn_leaf (r_X3_press_46 E)) (ax_sn_leaf (r_X3_press_45 E))) (ax_sn_leaf (r_X3_press_44 E))) (ax_sn_node (ax_sn_leaf (r_X3_press_43 E)) (ax_sn_leaf (r_X3_press_40 E)))))) (ax_sn_node (ax_sn_node (ax_sn_node (ax_sn_node (ax_sn_node (ax_sn_leaf (r_X3_press_37 E)) (ax_sn_leaf (r_X3_press_36 E))) (ax_sn_leaf (r_X3_press_33 E))) (ax_sn_node (ax_sn_leaf (r_X3_press_32 E)) (ax_sn_leaf (r_X3_press_29 E)))) (ax_sn_node (ax_sn_node (ax_sn_node (ax_sn_leaf (r_X3_press_27 E)) (ax_sn_leaf (r_X3_press_24 E))) (ax_sn_leaf (r_X3_press_23 E))) (ax_sn_node (ax_sn_leaf (r_X3_press_20 E)) (ax_sn_leaf (r_X3_press_19 E))))) (ax_sn_node (ax_sn_node (ax_sn_node (ax_sn_node (ax_sn_leaf (r_X3_press_16 E)) (ax_sn_leaf (r_X3_press_15 E))) (ax_sn_leaf (r_X3_press_12 E))) (ax_sn_node (ax_sn_leaf (r_X3_press_11 E)) (ax_sn_leaf (r_X3_press_8 E)))) (ax_sn_node (ax_sn_node (ax_sn_node (ax_sn_leaf (r_X3_press_5 E)) (ax_sn_leaf (r_X3_press_3 E))) (ax_sn_leaf (r_X3_press_2 E))) (ax_sn_node (ax_sn_leaf (r_X3_press_1 E)) (ax_sn_leaf (r_X3_press_0 E))))))))⟩
theorem r_X3_state_0 (E : ax_EN G l) : ax_Snd G l ax_Ym M_X3_state 0 (S_aload 0 1) := k_aload_n dX3_state_0 rfl
theorem r_X3_state_1 (E : ax_EN G l) : ax_Snd G l ax_Ym M_X3_state 1 (S_push (.int (0)) 2) := k_iconst dX3_state_1 rfl
theorem r_X3_state_2 (E : ax_EN G l) : ax_Snd G l ax_Ym M_X3_state 2 (S_putf [(38, 0)] (.int) 5) := k_putf (en_F E) (en_P E) (ax_fes_cons (fe_442 E) ax_fes_nil) (ax_fps_cons (fp_443 E) ax_fps_nil) q2753 dX3_state_2
theorem r_X3_state_5 (E : ax_EN G l) : ax_Snd G l ax_Ym M_X3_state 5 (S_aload 0 6) := k_aload_n dX3_state_5 rfl
theorem r_X3_state_6 (E : ax_EN G l) : ax_Snd G l ax_Ym M_X3_state 6 (S_getf [(38, 23)] 9) := k_getf (en_F E) (ax_fes_cons (fe_466 E) ax_fes_nil) q2776 dX3_state_6
theorem r_X3_state_9 (E : ax_EN G l) : ax_Snd G l ax_Ym M_X3_state 9 (S_iret) := k_iret dX3_state_9 rfl
theorem mt_X3_state (E : ax_EN G l) : ax_mt G l ax_Ym (1, P_X3_state) (ax_Ym 454) := ⟨M_X3_state, yX3_state, ⟨rfl, by decide +kernel, rfl, (fun h => by cases h), Or.inl ⟨rfl, rfl⟩⟩, fun pc => (ax_sn_node (ax_sn_node (ax_sn_node (ax_sn_leaf (r_X3_state_9 E)) (ax_sn_leaf (r_X3_state_6 E))) (ax_sn_leaf (r_X3_state_5 E))) (ax_sn_node (ax_sn_node (ax_sn_leaf (r_X3_state_2 E)) (ax_sn_leaf (r_X3_state_1 E))) (ax_sn_leaf (r_X3_state_0 E))))⟩
theorem r_X3_fault_0 (E : ax_EN G l) : ax_Snd G l ax_Ym M_X3_fault 0 (S_aload 0 1) := k_aload_n dX3_fault_0 rfl
theorem r_X3_fault_1 (E : ax_EN G l) : ax_Snd G l ax_Ym M_X3_fault 1 (S_push (.int (0)) 2) := k_iconst dX3_fault_1 rfl
theorem r_X3_fault_2 (E : ax_EN G l) : ax_Snd G l ax_Ym M_X3_fault 2 (S_putf [(38, 0)] (.int) 5) := k_putf (en_F E) (en_P E) (ax_fes_cons (fe_442 E) ax_fes_nil) (ax_fps_cons (fp_443 E) ax_fps_nil) q2753 dX3_fault_2
theorem r_X3_fault_5 (E : ax_EN G l) : ax_Snd G l ax_Ym M_X3_fault 5 (S_aload 0 6) := k_aload_n dX3_fault_5 rfl
theorem r_X3_fault_6 (E : ax_EN G l) : ax_Snd G l ax_Ym M_X3_fault 6 (S_getf [(38, 24)] 9) := k_getf (en_F E) (ax_fes_cons (fe_473 E) ax_fes_nil) q2777 dX3_fault_6
theorem r_X3_fault_9 (E : ax_EN G l) : ax_Snd G l ax_Ym M_X3_fault 9 (S_iret) := k_iret dX3_fault_9 rfl
theorem mt_X3_fault (E : ax_EN G l) : ax_mt G l ax_Ym (1, P_X3_fault) (ax_Ym 455) := ⟨M_X3_fault, yX3_fault, ⟨rfl, by decide +kernel, rfl, (fun h => by cases h), Or.inl ⟨rfl, rfl⟩⟩, fun pc => (ax_sn_node (ax_sn_node (ax_sn_node (ax_sn_leaf (r_X3_fault_9 E)) (ax_sn_leaf (r_X3_fault_6 E))) (ax_sn_leaf (r_X3_fault_5 E))) (ax_sn_node (ax_sn_node (ax_sn_leaf (r_X3_fault_2 E)) (ax_sn_leaf (r_X3_fault_1 E))) (ax_sn_leaf (r_X3_fault_0 E))))⟩
theorem r_X3_steps_0 (E : ax_EN G l) : ax_Snd G l ax_Ym M_X3_steps 0 (S_aload 0 1) := k_aload_n dX3_steps_0 rfl
theorem r_X3_steps_1 (E : ax_EN G l) : ax_Snd G l ax_Ym M_X3_steps 1 (S_push (.int (0)) 2) := k_iconst dX3_steps_1 rfl
theorem r_X3_steps_2 (E : ax_EN G l) : ax_Snd G l ax_Ym M_X3_steps 2 (S_putf [(38, 0)] (.int) 5) := k_putf (en_F E) (en_P E) (ax_fes_cons (fe_442 E) ax_fes_nil) (ax_fps_cons (fp_443 E) ax_fps_nil) q2753 dX3_steps_2
theorem r_X3_steps_5 (E : ax_EN G l) : ax_Snd G l ax_Ym M_X3_steps 5 (S_aload 0 6) := k_aload_n dX3_steps_5 rfl
theorem r_X3_steps_6 (E : ax_EN G l) : ax_Snd G l ax_Ym M_X3_steps 6 (S_getf [(38, 38)] 9) := k_getf (en_F E) (ax_fes_cons (fe_491 E) ax_fes_nil) q2791 dX3_steps_6
theorem r_X3_steps_9 (E : ax_EN G l) : ax_Snd G l ax_Ym M_X3_steps 9 (S_iret) := k_iret dX3_steps_9 rfl
theorem mt_X3_steps (E : ax_EN G l) : ax_mt G l ax_Ym (1, P_X3_steps) (ax_Ym 456) := ⟨M_X3_steps, yX3_steps, ⟨rfl, by decide +kernel, rfl, (fun h => by cases h), Or.inl ⟨rfl, rfl⟩⟩, fun pc => (ax_sn_node (ax_sn_node (ax_sn_node (ax_sn_leaf (r_X3_steps_9 E)) (ax_sn_leaf (r_X3_steps_6 E))) (ax_sn_leaf (r_X3_steps_5 E))) (ax_sn_node (ax_sn_node (ax_sn_leaf (r_X3_steps_2 E)) (ax_sn_leaf (r_X3_steps_1 E))) (ax_sn_leaf (r_X3_steps_0 E))))⟩
theorem r_X3_kept_0 (E : ax_EN G l) : ax_Snd G l ax_Ym M_X3_kept 0 (S_aload 0 1) := k_aload_n dX3_kept_0 rfl
theorem r_X3_kept_1 (E : ax_EN G l) : ax_Snd G l ax_Ym M_X3_kept 1 (S_push (.int (0)) 2) := k_iconst dX3_kept_1 rfl
theorem r_X3_kept_2 (E : ax_EN G l) : ax_Snd G l ax_Ym M_X3_kept 2 (S_putf [(38, 0)] (.int) 5) := k_putf (en_F E) (en_P E) (ax_fes_cons (fe_442 E) ax_fes_nil) (ax_fps_cons (fp_443 E) ax_fps_nil) q2753 dX3_kept_2
theorem r_X3_kept_5 (E : ax_EN G l) : ax_Snd G l ax_Ym M_X3_kept 5 (S_aload 0 6) := k_aload_n dX3_kept_5 rfl
theorem r_X3_kept_6 (E : ax_EN G l) : ax_Snd G l ax_Ym M_X3_kept 6 (S_getf [(38, 40)] 9) := k_getf (en_F E) (ax_fes_cons (fe_464 E) ax_fes_nil) q2793 dX3_kept_6
theorem r_X3_kept_9 (E : ax_EN G l) : ax_Snd G l ax_Ym M_X3_kept 9 (S_iret) := k_iret dX3_kept_9 rfl
theorem mt_X3_kept (E : ax_EN G l) : ax_mt G l ax_Ym (1, P_X3_kept) (ax_Ym 457) := ⟨M_X3_kept, yX3_kept, ⟨rfl, by decide +kernel, rfl, (fun h => by cases h), Or.inl ⟨rfl, rfl⟩⟩, fun pc => (ax_sn_node (ax_sn_node (ax_sn_node (ax_sn_leaf (r_X3_kept_9 E)) (ax_sn_leaf (r_X3_kept_6 E))) (ax_sn_leaf (r_X3_kept_5 E))) (ax_sn_node (ax_sn_node (ax_sn_leaf (r_X3_kept_2 E)) (ax_sn_leaf (r_X3_kept_1 E))) (ax_sn_leaf (r_X3_kept_0 E))))⟩
theorem r_X3_counter_0 (E : ax_EN G l) : ax_Snd G l ax_Ym M_X3_counter 0 (S_aload 0 1) := k_aload_n dX3_counter_0 rfl
theorem r_X3_counter_1 (E : ax_EN G l) : ax_Snd G l ax_Ym M_X3_counter 1 (S_push (.int (0)) 2) := k_iconst dX3_counter_1 rfl
theorem r_X3_counter_2 (E : ax_EN G l) : ax_Snd G l ax_Ym M_X3_counter 2 (S_putf [(38, 0)] (.int) 5) := k_putf (en_F E) (en_P E) (ax_fes_cons (fe_442 E) ax_fes_nil) (ax_fps_cons (fp_443 E) ax_fps_nil) q2753 dX3_counter_2
theorem r_X3_counter_5 (E : ax_EN G l) : ax_Snd G l ax_Ym M_X3_counter 5 (S_aload 0 6) := k_aload_n dX3_counter_5 rfl
theorem r_X3_counter_6 (E : ax_EN G l) : ax_Snd G l ax_Ym M_X3_counter 6 (S_getf [(38, 27)] 9) := k_getf (en_F E) (ax_fes_cons (fe_469 E) ax_fes_nil) q2780 dX3_counter_6
theorem r_X3_counter_9 (E : ax_EN G l) : ax_Snd G l ax_Ym M_X3_counter 9 (S_iret) := k_iret dX3_counter_9 rfl
theorem mt_X3_counter (E : ax_EN G l) : ax_mt G l ax_Ym (1, P_X3_counter) (ax_Ym 458) := ⟨M_X3_counter, yX3_counter, ⟨rfl, by decide +kernel, rfl, (fun h => by cases h), Or.inl ⟨rfl, rfl⟩⟩, fun pc => (ax_sn_node (ax_sn_node (ax_sn_node (ax_sn_leaf (r_X3_counter_9 E)) (ax_sn_leaf (r_X3_counter_6 E))) (ax_sn_leaf (r_X3_counter_5 E))) (ax_sn_node (ax_sn_node (ax_sn_leaf (r_X3_counter_2 E)) (ax_sn_leaf (r_X3_counter_1 E))) (ax_sn_leaf (r_X3_counter_0 E))))⟩
theorem r_X3_stack_0 (E : ax_EN G l) : ax_Snd G l ax_Ym M_X3_stack 0 (S_aload 0 1) := k_aload_n dX3_stack_0 rfl
theorem r_X3_stack_1 (E : ax_EN G l) : ax_Snd G l ax_Ym M_X3_stack 1 (S_push (.int (0)) 2) := k_iconst dX3_stack_1 rfl
theorem r_X3_stack_2 (E : ax_EN G l) : ax_Snd G l ax_Ym M_X3_stack 2 (S_putf [(38, 0)] (.int) 5) := k_putf (en_F E) (en_P E) (ax_fes_cons (fe_442 E) ax_fes_nil) (ax_fps_cons (fp_443 E) ax_fps_nil) q2753 dX3_stack_2
theorem r_X3_stack_5 (E : ax_EN G l) : ax_Snd G l ax_Ym M_X3_stack 5 (S_aload 0 6) := k_aload_n dX3_stack_5 rfl
theorem r_X3_stack_6 (E : ax_EN G l) : ax_Snd G l ax_Ym M_X3_stack 6 (S_getf [(38, 28)] 9) := k_getf (en_F E) (ax_fes_cons (fe_471 E) ax_fes_nil) q2781 dX3_stack_6
theorem r_X3_stack_9 (E : ax_EN G l) : ax_Snd G l ax_Ym M_X3_stack 9 (S_iret) := k_iret dX3_stack_9 rfl
theorem mt_X3_stack (E : ax_EN G l) : ax_mt G l ax_Ym (1, P_X3_stack) (ax_Ym 459) := ⟨M_X3_stack, yX3_stack, ⟨rfl, by decide +kernel, rfl, (fun h => by cases h), Or.inl ⟨rfl, rfl⟩⟩, fun pc => (ax_sn_node (ax_sn_node (ax_sn_node (ax_sn_leaf (r_X3_stack_9 E)) (ax_sn_leaf (r_X3_stack_6 E))) (ax_sn_leaf (r_X3_stack_5 E))) (ax_sn_node (ax_sn_node (ax_sn_leaf (r_X3_stack_2 E)) (ax_sn_leaf (r_X3_stack_1 E))) (ax_sn_leaf (r_X3_stack_0 E))))⟩
theorem r_X3_flags_0 (E : ax_EN G l) : ax_Snd G l ax_Ym M_X3_flags 0 (S_aload 0 1) := k_aload_n dX3_flags_0 rfl
theorem r_X3_flags_1 (E : ax_EN G l) : ax_Snd G l ax_Ym M_X3_flags 1 (S_push (.int (0)) 2) := k_iconst dX3_flags_1 rfl
theorem r_X3_flags_2 (E : ax_EN G l) : ax_Snd G l ax_Ym M_X3_flags 2 (S_putf [(38, 0)] (.int) 5) := k_putf (en_F E) (en_P E) (ax_fes_cons (fe_442 E) ax_fes_nil) (ax_fps_cons (fp_443 E) ax_fps_nil) q2753 dX3_flags_2
theorem r_X3_flags_5 (E : ax_EN G l) : ax_Snd G l ax_Ym M_X3_flags 5 (S_aload 0 6) := k_aload_n dX3_flags_5 rfl
theorem r_X3_flags_6 (E : ax_EN G l) : ax_Snd G l ax_Ym M_X3_flags 6 (S_iv [(38, 461)] 0 9 hd_0) := k_iv (en_F E) (ax_ok0 E rfl) (ax_Evs_cons ((ev_v (en_c E (k := 38) rfl) rfl y_X3_flagsOf q3325 q3327 qs110 q126 q3328 nm_X3_flagsOf (Nat.le_of_ble_eq_true rfl) dX3_flags_6) : ax_EvV G l ax_Ym M_X3_flags 6 0 3 38 461) ax_Evs_nil)
theorem r_X3_flags_9 (E : ax_EN G l) : ax_Snd G l ax_Ym M_X3_flags 9 (S_iret) := k_iret dX3_flags_9 rfl
theorem mt_X3_flags (E : ax_EN G l) : ax_mt G l ax_Ym (1, P_X3_flags) (ax_Ym 460) := ⟨M_X3_flags, yX3_flags, ⟨rfl, by decide +kernel, rfl, (fun h => by cases h), Or.inl ⟨rfl, rfl⟩⟩, fun pc => (ax_sn_node (ax_sn_node (ax_sn_node (ax_sn_leaf (r_X3_flags_9 E)) (ax_sn_leaf (r_X3_flags_6 E))) (ax_sn_leaf (r_X3_flags_5 E))) (ax_sn_node (ax_sn_node (ax_sn_leaf (r_X3_flags_2 E)) (ax_sn_leaf (r_X3_flags_1 E))) (ax_sn_leaf (r_X3_flags_0 E))))⟩
theorem r_X3_flagsOf_0 (E : ax_EN G l) : ax_Snd G l ax_Ym M_X3_flagsOf 0 (S_aload 0 1) := k_aload_n dX3_flagsOf_0 rfl
theorem r_X3_flagsOf_1 (E : ax_EN G l) : ax_Snd G l ax_Ym M_X3_flagsOf 1 (S_getf [(38, 29)] 4) := k_getf (en_F E) (ax_fes_cons (fe_475 E) ax_fes_nil) q2782 dX3_flagsOf_1
theorem r_X3_flagsOf_4 (E : ax_EN G l) : ax_Snd G l ax_Ym M_X3_flagsOf 4 (S_if1 (fun x => decide (x = 0)) 11 7) := k_if_eq dX3_flagsOf_4 rfl
theorem r_X3_flagsOf_7 (E : ax_EN G l) : ax_Snd G l ax_Ym M_X3_flagsOf 7 (S_push (.int (1)) 8) := k_iconst dX3_flagsOf_7 rfl
theorem r_X3_flagsOf_8 (E : ax_EN G l) : ax_Snd G l ax_Ym M_X3_flagsOf 8 (S_goto 12) := k_goto dX3_flagsOf_8 rfl
theorem r_X3_flagsOf_11 (E : ax_EN G l) : ax_Snd G l ax_Ym M_X3_flagsOf 11 (S_push (.int (0)) 12) := k_iconst dX3_flagsOf_11 rfl
theorem r_X3_flagsOf_12 (E : ax_EN G l) : ax_Snd G l ax_Ym M_X3_flagsOf 12 (S_aload 0 13) := k_aload_n dX3_flagsOf_12 rfl
theorem r_X3_flagsOf_13 (E : ax_EN G l) : ax_Snd G l ax_Ym M_X3_flagsOf 13 (S_getf [(38, 30)] 16) := k_getf (en_F E) (ax_fes_cons (fe_477 E) ax_fes_nil) q2783 dX3_flagsOf_13
theorem r_X3_flagsOf_16 (E : ax_EN G l) : ax_Snd G l ax_Ym M_X3_flagsOf 16 (S_if1 (fun x => decide (x = 0)) 23 19) := k_if_eq dX3_flagsOf_16 rfl
theorem r_X3_flagsOf_19 (E : ax_EN G l) : ax_Snd G l ax_Ym M_X3_flagsOf 19 (S_push (.int (2)) 20) := k_iconst dX3_flagsOf_19 rfl
theorem r_X3_flagsOf_20 (E : ax_EN G l) : ax_Snd G l ax_Ym M_X3_flagsOf 20 (S_goto 24) := k_goto dX3_flagsOf_20 rfl
theorem r_X3_flagsOf_23 (E : ax_EN G l) : ax_Snd G l ax_Ym M_X3_flagsOf 23 (S_push (.int (0)) 24) := k_iconst dX3_flagsOf_23 rfl
theorem r_X3_flagsOf_24 (E : ax_EN G l) : ax_Snd G l ax_Ym M_X3_flagsOf 24 (S_i2 (fun x y => x + y) 25) := k_iadd dX3_flagsOf_24
theorem r_X3_flagsOf_25 (E : ax_EN G l) : ax_Snd G l ax_Ym M_X3_flagsOf 25 (S_aload 0 26) := k_aload_n dX3_flagsOf_25 rfl
theorem r_X3_flagsOf_26 (E : ax_EN G l) : ax_Snd G l ax_Ym M_X3_flagsOf 26 (S_getf [(38, 31)] 29) := k_getf (en_F E) (ax_fes_cons (fe_479 E) ax_fes_nil) q2784 dX3_flagsOf_26
theorem r_X3_flagsOf_29 (E : ax_EN G l) : ax_Snd G l ax_Ym M_X3_flagsOf 29 (S_if1 (fun x => decide (x = 0)) 36 32) := k_if_eq dX3_flagsOf_29 rfl
theorem r_X3_flagsOf_32 (E : ax_EN G l) : ax_Snd G l ax_Ym M_X3_flagsOf 32 (S_push (.int (4)) 33) := k_iconst dX3_flagsOf_32 rfl
theorem r_X3_flagsOf_33 (E : ax_EN G l) : ax_Snd G l ax_Ym M_X3_flagsOf 33 (S_goto 37) := k_goto dX3_flagsOf_33 rfl
theorem r_X3_flagsOf_36 (E : ax_EN G l) : ax_Snd G l ax_Ym M_X3_flagsOf 36 (S_push (.int (0)) 37) := k_iconst dX3_flagsOf_36 rfl
theorem r_X3_flagsOf_37 (E : ax_EN G l) : ax_Snd G l ax_Ym M_X3_flagsOf 37 (S_i2 (fun x y => x + y) 38) := k_iadd dX3_flagsOf_37
theorem r_X3_flagsOf_38 (E : ax_EN G l) : ax_Snd G l ax_Ym M_X3_flagsOf 38 (S_aload 0 39) := k_aload_n dX3_flagsOf_38 rfl
theorem r_X3_flagsOf_39 (E : ax_EN G l) : ax_Snd G l ax_Ym M_X3_flagsOf 39 (S_getf [(38, 32)] 42) := k_getf (en_F E) (ax_fes_cons (fe_481 E) ax_fes_nil) q2785 dX3_flagsOf_39
theorem r_X3_flagsOf_42 (E : ax_EN G l) : ax_Snd G l ax_Ym M_X3_flagsOf 42 (S_if1 (fun x => decide (x = 0)) 50 45) := k_if_eq dX3_flagsOf_42 rfl
theorem r_X3_flagsOf_45 (E : ax_EN G l) : ax_Snd G l ax_Ym M_X3_flagsOf 45 (S_push (.int (8)) 47) := k_bipush dX3_flagsOf_45 rfl
theorem r_X3_flagsOf_47 (E : ax_EN G l) : ax_Snd G l ax_Ym M_X3_flagsOf 47 (S_goto 51) := k_goto dX3_flagsOf_47 rfl
theorem r_X3_flagsOf_50 (E : ax_EN G l) : ax_Snd G l ax_Ym M_X3_flagsOf 50 (S_push (.int (0)) 51) := k_iconst dX3_flagsOf_50 rfl
theorem r_X3_flagsOf_51 (E : ax_EN G l) : ax_Snd G l ax_Ym M_X3_flagsOf 51 (S_i2 (fun x y => x + y) 52) := k_iadd dX3_flagsOf_51
theorem r_X3_flagsOf_52 (E : ax_EN G l) : ax_Snd G l ax_Ym M_X3_flagsOf 52 (S_aload 0 53) := k_aload_n dX3_flagsOf_52 rfl
theorem r_X3_flagsOf_53 (E : ax_EN G l) : ax_Snd G l ax_Ym M_X3_flagsOf 53 (S_getf [(38, 33)] 56) := k_getf (en_F E) (ax_fes_cons (fe_483 E) ax_fes_nil) q2786 dX3_flagsOf_53
theorem r_X3_flagsOf_56 (E : ax_EN G l) : ax_Snd G l ax_Ym M_X3_flagsOf 56 (S_if1 (fun x => decide (x = 0)) 64 59) := k_if_eq dX3_flagsOf_56 rfl
theorem r_X3_flagsOf_59 (E : ax_EN G l) : ax_Snd G l ax_Ym M_X3_flagsOf 59 (S_push (.int (16)) 61) := k_bipush dX3_flagsOf_59 rfl
theorem r_X3_flagsOf_61 (E : ax_EN G l) : ax_Snd G l ax_Ym M_X3_flagsOf 61 (S_goto 65) := k_goto dX3_flagsOf_61 rfl
theorem r_X3_flagsOf_64 (E : ax_EN G l) : ax_Snd G l ax_Ym M_X3_flagsOf 64 (S_push (.int (0)) 65) := k_iconst dX3_flagsOf_64 rfl
theorem r_X3_flagsOf_65 (E : ax_EN G l) : ax_Snd G l ax_Ym M_X3_flagsOf 65 (S_i2 (fun x y => x + y) 66) := k_iadd dX3_flagsOf_65
theorem r_X3_flagsOf_66 (E : ax_EN G l) : ax_Snd G l ax_Ym M_X3_flagsOf 66 (S_iret) := k_iret dX3_flagsOf_66 rfl
theorem mt_X3_flagsOf (E : ax_EN G l) : ax_mt G l ax_Ym (1, P_X3_flagsOf) (ax_Ym 461) := ⟨M_X3_flagsOf, yX3_flagsOf, ⟨rfl, by decide +kernel, rfl, (fun h => by cases h), Or.inl ⟨rfl, rfl⟩⟩, fun pc => (ax_sn_node (ax_sn_node (ax_sn_node (ax_sn_node (ax_sn_node (ax_sn_node (ax_sn_leaf (r_X3_flagsOf_66 E)) (ax_sn_leaf (r_X3_flagsOf_65 E))) (ax_sn_leaf (r_X3_flagsOf_64 E))) (ax_sn_node (ax_sn_leaf (r_X3_flagsOf_61 E)) (ax_sn_leaf (r_X3_flagsOf_59 E)))) (ax_sn_node (ax_sn_node (ax_sn_leaf (r_X3_flagsOf_56 E)) (ax_sn_leaf (r_X3_flagsOf_53 E))) (ax_sn_node (ax_sn_leaf (r_X3_flagsOf_52 E)) (ax_sn_leaf (r_X3_flagsOf_51 E))))) (ax_sn_node (ax_sn_node (ax_sn_node (ax_sn_node (ax_sn_leaf (r_X3_flagsOf_50 E)) (ax_sn_leaf (r_X3_flagsOf_47 E))) (ax_sn_leaf (r_X3_flagsOf_45 E))) (ax_sn_node (ax_sn_leaf (r_X3_flagsOf_42 E)) (ax_sn_leaf (r_X3_flagsOf_39 E)))) (ax_sn_node (ax_sn_node (ax_sn_leaf (r_X3_flagsOf_38 E)) (ax_sn_leaf (r_X3_flagsOf_37 E))) (ax_sn_node (ax_sn_leaf (r_X3_flagsOf_36 E)) (ax_sn_leaf (r_X3_flagsOf_33 E)))))) (ax_sn_node (ax_sn_node (ax_sn_node (ax_sn_node (ax_sn_node (ax_sn_leaf (r_X3_flagsOf_32 E)) (ax_sn_leaf (r_X3_flagsOf_29 E))) (ax_sn_leaf (r_X3_flagsOf_26 E))) (ax_sn_node (ax_sn_leaf (r_X3_flagsOf_25 E)) (ax_sn_leaf (r_X3_flagsOf_24 E)))) (ax_sn_node (ax_sn_node (ax_sn_leaf (r_X3_flagsOf_23 E)) (ax_sn_leaf (r_X3_flagsOf_20 E))) (ax_sn_node (ax_sn_leaf (r_X3_flagsOf_19 E)) (ax_sn_leaf (r_X3_flagsOf_16 E))))) (ax_sn_node (ax_sn_node (ax_sn_node (ax_sn_leaf (r_X3_flagsOf_13 E)) (ax_sn_leaf (r_X3_flagsOf_12 E))) (ax_sn_node (ax_sn_leaf (r_X3_flagsOf_11 E)) (ax_sn_leaf (r_X3_flagsOf_8 E)))) (ax_sn_node (ax_sn_node (ax_sn_leaf (r_X3_flagsOf_7 E)) (ax_sn_leaf (r_X3_flagsOf_4 E))) (ax_sn_node (ax_sn_leaf (r_X3_flagsOf_1 E)) (ax_sn_leaf (r_X3_flagsOf_0 E)))))))⟩
theorem r_X3_writesLeft_0 (E : ax_EN G l) : ax_Snd G l ax_Ym M_X3_writesLeft 0 (S_aload 0 1) := k_aload_n dX3_writesLeft_0 rfl
theorem r_X3_writesLeft_1 (E : ax_EN G l) : ax_Snd G l ax_Ym M_X3_writesLeft 1 (S_push (.int (0)) 2) := k_iconst dX3_writesLeft_1 rfl
theorem r_X3_writesLeft_2 (E : ax_EN G l) : ax_Snd G l ax_Ym M_X3_writesLeft 2 (S_putf [(38, 0)] (.int) 5) := k_putf (en_F E) (en_P E) (ax_fes_cons (fe_442 E) ax_fes_nil) (ax_fps_cons (fp_443 E) ax_fps_nil) q2753 dX3_writesLeft_2
theorem r_X3_writesLeft_5 (E : ax_EN G l) : ax_Snd G l ax_Ym M_X3_writesLeft 5 (S_aload 0 6) := k_aload_n dX3_writesLeft_5 rfl
theorem r_X3_writesLeft_6 (E : ax_EN G l) : ax_Snd G l ax_Ym M_X3_writesLeft 6 (S_getf [(38, 46)] 9) := k_getf (en_F E) (ax_fes_cons (fe_495 E) ax_fes_nil) q2799 dX3_writesLeft_6
theorem r_X3_writesLeft_9 (E : ax_EN G l) : ax_Snd G l ax_Ym M_X3_writesLeft 9 (S_iret) := k_iret dX3_writesLeft_9 rfl
theorem mt_X3_writesLeft (E : ax_EN G l) : ax_mt G l ax_Ym (1, P_X3_writesLeft) (ax_Ym 462) := ⟨M_X3_writesLeft, yX3_writesLeft, ⟨rfl, by decide +kernel, rfl, (fun h => by cases h), Or.inl ⟨rfl, rfl⟩⟩, fun pc => (ax_sn_node (ax_sn_node (ax_sn_node (ax_sn_leaf (r_X3_writesLeft_9 E)) (ax_sn_leaf (r_X3_writesLeft_6 E))) (ax_sn_leaf (r_X3_writesLeft_5 E))) (ax_sn_node (ax_sn_node (ax_sn_leaf (r_X3_writesLeft_2 E)) (ax_sn_leaf (r_X3_writesLeft_1 E))) (ax_sn_leaf (r_X3_writesLeft_0 E))))⟩
theorem r_X3_register_0 (E : ax_EN G l) : ax_Snd G l ax_Ym M_X3_register 0 (S_aload 0 1) := k_aload_n dX3_register_0 rfl
theorem r_X3_register_1 (E : ax_EN G l) : ax_Snd G l ax_Ym M_X3_register 1 (S_iload 1 2) := k_iload_n dX3_register_1 rfl
theorem r_X3_register_2 (E : ax_EN G l) : ax_Snd G l ax_Ym M_X3_register 2 (S_push (.int (0)) 3) := k_iconst dX3_register_2 rfl
theorem r_X3_register_3 (E : ax_EN G l) : ax_Snd G l ax_Ym M_X3_register 3 (S_push (.int (3)) 4) := k_iconst dX3_register_3 rfl
theorem r_X3_register_4 (E : ax_EN G l) : ax_Snd G l ax_Ym M_X3_register 4 (S_is 376 3 7 hd_0) := k_is (en_F E) (ax_ok0 E rfl) ((ev_s y_X3_in q2992 q2993 q126 q2994 nm_X3_in (Nat.le_of_ble_eq_true rfl) dX3_register_4) : ax_EvS G l ax_Ym M_X3_register 4 376 3 3)
theorem r_X3_register_7 (E : ax_EN G l) : ax_Snd G l ax_Ym M_X3_register 7 (S_if1 (fun x => decide (x = 0)) 14 10) := k_if_eq dX3_register_7 rfl
theorem r_X3_register_10 (E : ax_EN G l) : ax_Snd G l ax_Ym M_X3_register 10 (S_push (.int (0)) 11) := k_iconst dX3_register_10 rfl
theorem r_X3_register_11 (E : ax_EN G l) : ax_Snd G l ax_Ym M_X3_register 11 (S_goto 15) := k_goto dX3_register_11 rfl
theorem r_X3_register_14 (E : ax_EN G l) : ax_Snd G l ax_Ym M_X3_register 14 (S_push (.int (1)) 15) := k_iconst dX3_register_14 rfl
theorem r_X3_register_15 (E : ax_EN G l) : ax_Snd G l ax_Ym M_X3_register 15 (S_iv [(38, 378)] 1 18 hd_0) := k_iv (en_F E) (ax_ok0 E rfl) (ax_Evs_cons ((ev_v (en_c E (k := 38) rfl) rfl y_X3_holds q2999 q3001 qs61 q126 q3002 nm_X3_holds (Nat.le_of_ble_eq_true rfl) dX3_register_15) : ax_EvV G l ax_Ym M_X3_register 15 1 3 38 378) ax_Evs_nil)
theorem r_X3_register_18 (E : ax_EN G l) : ax_Snd G l ax_Ym M_X3_register 18 (S_if1 (fun x => decide (x = 0)) 30 21) := k_if_eq dX3_register_18 rfl
theorem r_X3_register_21 (E : ax_EN G l) : ax_Snd G l ax_Ym M_X3_register 21 (S_aload 0 22) := k_aload_n dX3_register_21 rfl
theorem r_X3_register_22 (E : ax_EN G l) : ax_Snd G l ax_Ym M_X3_register 22 (S_getf [(38, 26)] 25) := k_getf (en_F E) (ax_fes_cons (fe_386 E) ax_fes_nil) q2779 dX3_register_22
theorem r_X3_register_25 (E : ax_EN G l) : ax_Snd G l ax_Ym M_X3_register 25 (S_iload 1 26) := k_iload_n dX3_register_25 rfl
theorem r_X3_register_26 (E : ax_EN G l) : ax_Snd G l ax_Ym M_X3_register 26 (S_iald 0 27) := k_iald (en_F E) dX3_register_26
theorem r_X3_register_27 (E : ax_EN G l) : ax_Snd G l ax_Ym M_X3_register 27 (S_goto 31) := k_goto dX3_register_27 rfl
theorem r_X3_register_30 (E : ax_EN G l) : ax_Snd G l ax_Ym M_X3_register 30 (S_push (.int (0)) 31) := k_iconst dX3_register_30 rfl
theorem r_X3_register_31 (E : ax_EN G l) : ax_Snd G l ax_Ym M_X3_register 31 (S_iret) := k_iret dX3_register_31 rfl
theorem mt_X3_register (E : ax_EN G l) : ax_mt G l ax_Ym (2, P_X3_register) (ax_Ym 463) := ⟨M_X3_register, yX3_register, ⟨rfl, by decide +kernel, rfl, (fun h => by cases h), Or.inl ⟨rfl, rfl⟩⟩, fun pc => (ax_sn_node (ax_sn_node (ax_sn_node (ax_sn_node (ax_sn_node (ax_sn_leaf (r_X3_register_31 E)) (ax_sn_leaf (r_X3_register_30 E))) (ax_sn_leaf (r_X3_register_27 E))) (ax_sn_node (ax_sn_leaf (r_X3_register_26 E)) (ax_sn_leaf (r_X3_register_25 E)))) (ax_sn_node (ax_sn_node (ax_sn_leaf (r_X3_register_22 E)) (ax_sn_leaf (r_X3_register_21 E))) (ax_sn_node (ax_sn_leaf (r_X3_register_18 E)) (ax_sn_leaf (r_X3_register_15 E))))) (ax_sn_node (ax_sn_node (ax_sn_node (ax_sn_node (ax_sn_leaf (r_X3_register_14 E)) (ax_sn_leaf (r_X3_register_11 E))) (ax_sn_leaf (r_X3_register_10 E))) (ax_sn_node (ax_sn_leaf (r_X3_register_7 E)) (ax_sn_leaf (r_X3_register_4 E)))) (ax_sn_node (ax_sn_node (ax_sn_leaf (r_X3_register_3 E)) (ax_sn_leaf (r_X3_register_2 E))) (ax_sn_node (ax_sn_leaf (r_X3_register_1 E)) (ax_sn_leaf (r_X3_register_0 E))))))⟩
theorem r_X3_memory_0 (E : ax_EN G l) : ax_Snd G l ax_Ym M_X3_memory 0 (S_aload 0 1) := k_aload_n dX3_memory_0 rfl
theorem r_X3_memory_1 (E : ax_EN G l) : ax_Snd G l ax_Ym M_X3_memory 1 (S_iload 1 2) := k_iload_n dX3_memory_1 rfl
theorem r_X3_memory_2 (E : ax_EN G l) : ax_Snd G l ax_Ym M_X3_memory 2 (S_is 465 1 5 hd_0) := k_is (en_F E) (ax_ok0 E rfl) ((ev_s y_X3_isAddress q3341 q3342 q126 q3343 nm_X3_isAddress (Nat.le_of_ble_eq_true rfl) dX3_memory_2) : ax_EvS G l ax_Ym M_X3_memory 2 465 1 3)
theorem r_X3_memory_5 (E : ax_EN G l) : ax_Snd G l ax_Ym M_X3_memory 5 (S_if1 (fun x => decide (x = 0)) 12 8) := k_if_eq dX3_memory_5 rfl
theorem r_X3_memory_8 (E : ax_EN G l) : ax_Snd G l ax_Ym M_X3_memory 8 (S_push (.int (0)) 9) := k_iconst dX3_memory_8 rfl
theorem r_X3_memory_9 (E : ax_EN G l) : ax_Snd G l ax_Ym M_X3_memory 9 (S_goto 13) := k_goto dX3_memory_9 rfl
theorem r_X3_memory_12 (E : ax_EN G l) : ax_Snd G l ax_Ym M_X3_memory 12 (S_push (.int (1)) 13) := k_iconst dX3_memory_12 rfl
theorem r_X3_memory_13 (E : ax_EN G l) : ax_Snd G l ax_Ym M_X3_memory 13 (S_iv [(38, 378)] 1 16 hd_0) := k_iv (en_F E) (ax_ok0 E rfl) (ax_Evs_cons ((ev_v (en_c E (k := 38) rfl) rfl y_X3_holds q2999 q3001 qs61 q126 q3002 nm_X3_holds (Nat.le_of_ble_eq_true rfl) dX3_memory_13) : ax_EvV G l ax_Ym M_X3_memory 13 1 3 38 378) ax_Evs_nil)
theorem r_X3_memory_16 (E : ax_EN G l) : ax_Snd G l ax_Ym M_X3_memory 16 (S_if1 (fun x => decide (x = 0)) 28 19) := k_if_eq dX3_memory_16 rfl
theorem r_X3_memory_19 (E : ax_EN G l) : ax_Snd G l ax_Ym M_X3_memory 19 (S_aload 0 20) := k_aload_n dX3_memory_19 rfl
theorem r_X3_memory_20 (E : ax_EN G l) : ax_Snd G l ax_Ym M_X3_memory 20 (S_getf [(38, 25)] 23) := k_getf (en_F E) (ax_fes_cons (fe_384 E) ax_fes_nil) q2778 dX3_memory_20
theorem r_X3_memory_23 (E : ax_EN G l) : ax_Snd G l ax_Ym M_X3_memory 23 (S_iload 1 24) := k_iload_n dX3_memory_23 rfl
theorem r_X3_memory_24 (E : ax_EN G l) : ax_Snd G l ax_Ym M_X3_memory 24 (S_iald 0 25) := k_iald (en_F E) dX3_memory_24
theorem r_X3_memory_25 (E : ax_EN G l) : ax_Snd G l ax_Ym M_X3_memory 25 (S_goto 29) := k_goto dX3_memory_25 rfl
theorem r_X3_memory_28 (E : ax_EN G l) : ax_Snd G l ax_Ym M_X3_memory 28 (S_push (.int (0)) 29) := k_iconst dX3_memory_28 rfl
theorem r_X3_memory_29 (E : ax_EN G l) : ax_Snd G l ax_Ym M_X3_memory 29 (S_iret) := k_iret dX3_memory_29 rfl
theorem mt_X3_memory (E : ax_EN G l) : ax_mt G l ax_Ym (2, P_X3_memory) (ax_Ym 464) := ⟨M_X3_memory, yX3_memory, ⟨rfl, by decide +kernel, rfl, (fun h => by cases h), Or.inl ⟨rfl, rfl⟩⟩, fun pc => (ax_sn_node (ax_sn_node (ax_sn_node (ax_sn_node (ax_sn_leaf (r_X3_memory_29 E)) (ax_sn_leaf (r_X3_memory_28 E))) (ax_sn_node (ax_sn_leaf (r_X3_memory_25 E)) (ax_sn_leaf (r_X3_memory_24 E)))) (ax_sn_node (ax_sn_node (ax_sn_leaf (r_X3_memory_23 E)) (ax_sn_leaf (r_X3_memory_20 E))) (ax_sn_node (ax_sn_leaf (r_X3_memory_19 E)) (ax_sn_leaf (r_X3_memory_16 E))))) (ax_sn_node (ax_sn_node (ax_sn_node (ax_sn_leaf (r_X3_memory_13 E)) (ax_sn_leaf (r_X3_memory_12 E))) (ax_sn_node (ax_sn_leaf (r_X3_memory_9 E)) (ax_sn_leaf (r_X3_memory_8 E)))) (ax_sn_node (ax_sn_node (ax_sn_leaf (r_X3_memory_5 E)) (ax_sn_leaf (r_X3_memory_2 E))) (ax_sn_node (ax_sn_leaf (r_X3_memory_1 E)) (ax_sn_leaf (r_X3_memory_0 E))))))⟩
theorem r_X3_isAddress_0 (E : ax_EN G l) : ax_Snd G l ax_Ym M_X3_isAddress 0 (S_iload 0 1) := k_iload_n dX3_isAddress_0 rfl
theorem r_X3_isAddress_1 (E : ax_EN G l) : ax_Snd G l ax_Ym M_X3_isAddress 1 (S_push (.int (0)) 2) := k_iconst dX3_isAddress_1 rfl
theorem r_X3_isAddress_2 (E : ax_EN G l) : ax_Snd G l ax_Ym M_X3_isAddress 2 (S_push (.int (255)) 5) := k_sipush dX3_isAddress_2 rfl
theorem r_X3_isAddress_5 (E : ax_EN G l) : ax_Snd G l ax_Ym M_X3_isAddress 5 (S_is 376 3 8 hd_0) := k_is (en_F E) (ax_ok0 E rfl) ((ev_s y_X3_in q2992 q2993 q126 q2994 nm_X3_in (Nat.le_of_ble_eq_true rfl) dX3_isAddress_5) : ax_EvS G l ax_Ym M_X3_isAddress 5 376 3 3)
theorem r_X3_isAddress_8 (E : ax_EN G l) : ax_Snd G l ax_Ym M_X3_isAddress 8 (S_zret) := k_zret dX3_isAddress_8 rfl
theorem mt_X3_isAddress (E : ax_EN G l) : ax_mt G l ax_Ym (1, P_X3_isAddress) (ax_Ym 465) := ⟨M_X3_isAddress, yX3_isAddress, ⟨rfl, by decide +kernel, rfl, (fun h => by cases h), Or.inl ⟨rfl, rfl⟩⟩, fun pc => (ax_sn_node (ax_sn_node (ax_sn_node (ax_sn_leaf (r_X3_isAddress_8 E)) (ax_sn_leaf (r_X3_isAddress_5 E))) (ax_sn_leaf (r_X3_isAddress_2 E))) (ax_sn_node (ax_sn_leaf (r_X3_isAddress_1 E)) (ax_sn_leaf (r_X3_isAddress_0 E))))⟩
theorem r_X3_changedAt_0 (E : ax_EN G l) : ax_Snd G l ax_Ym M_X3_changedAt 0 (S_aload 0 1) := k_aload_n dX3_changedAt_0 rfl
theorem r_X3_changedAt_1 (E : ax_EN G l) : ax_Snd G l ax_Ym M_X3_changedAt 1 (S_iload 1 2) := k_iload_n dX3_changedAt_1 rfl
theorem r_X3_changedAt_2 (E : ax_EN G l) : ax_Snd G l ax_Ym M_X3_changedAt 2 (S_is 465 1 5 hd_0) := k_is (en_F E) (ax_ok0 E rfl) ((ev_s y_X3_isAddress q3341 q3342 q126 q3343 nm_X3_isAddress (Nat.le_of_ble_eq_true rfl) dX3_changedAt_2) : ax_EvS G l ax_Ym M_X3_changedAt 2 465 1 3)
theorem r_X3_changedAt_5 (E : ax_EN G l) : ax_Snd G l ax_Ym M_X3_changedAt 5 (S_if1 (fun x => decide (x = 0)) 12 8) := k_if_eq dX3_changedAt_5 rfl
theorem r_X3_changedAt_8 (E : ax_EN G l) : ax_Snd G l ax_Ym M_X3_changedAt 8 (S_push (.int (0)) 9) := k_iconst dX3_changedAt_8 rfl
theorem r_X3_changedAt_9 (E : ax_EN G l) : ax_Snd G l ax_Ym M_X3_changedAt 9 (S_goto 13) := k_goto dX3_changedAt_9 rfl
theorem r_X3_changedAt_12 (E : ax_EN G l) : ax_Snd G l ax_Ym M_X3_changedAt 12 (S_push (.int (1)) 13) := k_iconst dX3_changedAt_12 rfl
theorem r_X3_changedAt_13 (E : ax_EN G l) : ax_Snd G l ax_Ym M_X3_changedAt 13 (S_iv [(38, 378)] 1 16 hd_0) := k_iv (en_F E) (ax_ok0 E rfl) (ax_Evs_cons ((ev_v (en_c E (k := 38) rfl) rfl y_X3_holds q2999 q3001 qs61 q126 q3002 nm_X3_holds (Nat.le_of_ble_eq_true rfl) dX3_changedAt_13) : ax_EvV G l ax_Ym M_X3_changedAt 13 1 3 38 378) ax_Evs_nil)
theorem r_X3_changedAt_16 (E : ax_EN G l) : ax_Snd G l ax_Ym M_X3_changedAt 16 (S_if1 (fun x => decide (¬ x = 0)) 21 19) := k_if_ne dX3_changedAt_16 rfl
theorem r_X3_changedAt_19 (E : ax_EN G l) : ax_Snd G l ax_Ym M_X3_changedAt 19 (S_push (.int (0)) 20) := k_iconst dX3_changedAt_19 rfl
theorem r_X3_changedAt_20 (E : ax_EN G l) : ax_Snd G l ax_Ym M_X3_changedAt 20 (S_iret) := k_iret dX3_changedAt_20 rfl
theorem r_X3_changedAt_21 (E : ax_EN G l) : ax_Snd G l ax_Ym M_X3_changedAt 21 (S_aload 0 22) := k_aload_n dX3_changedAt_21 rfl
theorem r_X3_changedAt_22 (E : ax_EN G l) : ax_Snd G l ax_Ym M_X3_changedAt 22 (S_getf [(38, 38)] 25) := k_getf (en_F E) (ax_fes_cons (fe_491 E) ax_fes_nil) q2791 dX3_changedAt_22
theorem r_X3_changedAt_25 (E : ax_EN G l) : ax_Snd G l ax_Ym M_X3_changedAt 25 (S_push (.int (1)) 26) := k_iconst dX3_changedAt_25 rfl
theorem r_X3_changedAt_26 (E : ax_EN G l) : ax_Snd G l ax_Ym M_X3_changedAt 26 (S_i2 (fun x y => x - y) 27) := k_isub dX3_changedAt_26
theorem r_X3_changedAt_27 (E : ax_EN G l) : ax_Snd G l ax_Ym M_X3_changedAt 27 (S_istore 2 28) := k_istore_n dX3_changedAt_27 rfl (Nat.le_of_ble_eq_true rfl)
theorem r_X3_changedAt_28 (E : ax_EN G l) : ax_Snd G l ax_Ym M_X3_changedAt 28 (S_iload 2 29) := k_iload_n dX3_changedAt_28 rfl
theorem r_X3_changedAt_29 (E : ax_EN G l) : ax_Snd G l ax_Ym M_X3_changedAt 29 (S_aload 0 30) := k_aload_n dX3_changedAt_29 rfl
theorem r_X3_changedAt_30 (E : ax_EN G l) : ax_Snd G l ax_Ym M_X3_changedAt 30 (S_getf [(38, 38)] 33) := k_getf (en_F E) (ax_fes_cons (fe_491 E) ax_fes_nil) q2791 dX3_changedAt_30
theorem r_X3_changedAt_33 (E : ax_EN G l) : ax_Snd G l ax_Ym M_X3_changedAt 33 (S_aload 0 34) := k_aload_n dX3_changedAt_33 rfl
theorem r_X3_changedAt_34 (E : ax_EN G l) : ax_Snd G l ax_Ym M_X3_changedAt 34 (S_getf [(38, 40)] 37) := k_getf (en_F E) (ax_fes_cons (fe_464 E) ax_fes_nil) q2793 dX3_changedAt_34
theorem r_X3_changedAt_37 (E : ax_EN G l) : ax_Snd G l ax_Ym M_X3_changedAt 37 (S_i2 (fun x y => x - y) 38) := k_isub dX3_changedAt_37
theorem r_X3_changedAt_38 (E : ax_EN G l) : ax_Snd G l ax_Ym M_X3_changedAt 38 (S_if2 (fun x y => decide (x < y)) 69 41) := k_icmp_lt dX3_changedAt_38 rfl
theorem r_X3_changedAt_41 (E : ax_EN G l) : ax_Snd G l ax_Ym M_X3_changedAt 41 (S_aload 0 42) := k_aload_n dX3_changedAt_41 rfl
theorem r_X3_changedAt_42 (E : ax_EN G l) : ax_Snd G l ax_Ym M_X3_changedAt 42 (S_getf [(38, 44)] 45) := k_getf (en_F E) (ax_fes_cons (fe_394 E) ax_fes_nil) q2797 dX3_changedAt_42
theorem r_X3_changedAt_45 (E : ax_EN G l) : ax_Snd G l ax_Ym M_X3_changedAt 45 (S_iload 2 46) := k_iload_n dX3_changedAt_45 rfl
theorem r_X3_changedAt_46 (E : ax_EN G l) : ax_Snd G l ax_Ym M_X3_changedAt 46 (S_iald 0 47) := k_iald (en_F E) dX3_changedAt_46
theorem r_X3_changedAt_47 (E : ax_EN G l) : ax_Snd G l ax_Ym M_X3_changedAt 47 (S_iload 1 48) := k_iload_n dX3_changedAt_47 rfl
theorem r_X3_changedAt_48 (E : ax_EN G l) : ax_Snd G l ax_Ym M_X3_changedAt 48 (S_if2 (fun x y => decide (x = y)) 61 51) := k_icmp_eq dX3_changedAt_48 rfl
theorem r_X3_changedAt_51 (E : ax_EN G l) : ax_Snd G l ax_Ym M_X3_changedAt 51 (S_aload 0 52) := k_aload_n dX3_changedAt_51 rfl
theorem r_X3_changedAt_52 (E : ax_EN G l) : ax_Snd G l ax_Ym M_X3_changedAt 52 (S_getf [(38, 45)] 55) := k_getf (en_F E) (ax_fes_cons (fe_396 E) ax_fes_nil) q2798 dX3_changedAt_52
theorem r_X3_changedAt_55 (E : ax_EN G l) : ax_Snd G l ax_Ym M_X3_changedAt 55 (S_iload 2 56) := k_iload_n dX3_changedAt_55 rfl
theorem r_X3_changedAt_56 (E : ax_EN G l) : ax_Snd G l ax_Ym M_X3_changedAt 56 (S_iald 0 57) := k_iald (en_F E) dX3_changedAt_56
theorem r_X3_changedAt_57 (E : ax_EN G l) : ax_Snd G l ax_Ym M_X3_changedAt 57 (S_iload 1 58) := k_iload_n dX3_changedAt_57 rfl
theorem r_X3_changedAt_58 (E : ax_EN G l) : ax_Snd G l ax_Ym M_X3_changedAt 58 (S_if2 (fun x y => decide (¬ x = y)) 63 61) := k_icmp_ne dX3_changedAt_58 rfl
theorem r_X3_changedAt_61 (E : ax_EN G l) : ax_Snd G l ax_Ym M_X3_changedAt 61 (S_iload 2 62) := k_iload_n dX3_changedAt_61 rfl
theorem r_X3_changedAt_62 (E : ax_EN G l) : ax_Snd G l ax_Ym M_X3_changedAt 62 (S_iret) := k_iret dX3_changedAt_62 rfl
theorem r_X3_changedAt_63 (E : ax_EN G l) : ax_Snd G l ax_Ym M_X3_changedAt 63 (S_iinc 2 (-1) 66) := k_iinc dX3_changedAt_63 rfl (Nat.le_of_ble_eq_true rfl)
theorem r_X3_changedAt_66 (E : ax_EN G l) : ax_Snd G l ax_Ym M_X3_changedAt 66 (S_goto 28) := k_goto dX3_changedAt_66 rfl
theorem r_X3_changedAt_69 (E : ax_EN G l) : ax_Snd G l ax_Ym M_X3_changedAt 69 (S_push (.int (-1)) 70) := k_iconst dX3_changedAt_69 rfl
theorem r_X3_changedAt_70 (E : ax_EN G l) : ax_Snd G l ax_Ym M_X3_changedAt 70 (S_iret) := k_iret dX3_changedAt_70 rfl
theorem mt_X3_changedAt (E : ax_EN G l) : ax_mt G l ax_Ym (3, P_X3_changedAt) (ax_Ym 466) := ⟨M_X3_changedAt, yX3_changedAt, ⟨rfl, by decide +kernel, rfl, (fun h => by cases h), Or.inl ⟨rfl, rfl⟩⟩, fun pc => (ax_sn_node (ax_sn_node (ax_sn_node (ax_sn_node (ax_sn_node (ax_sn_node (ax_sn_leaf (r_X3_changedAt_70 E)) (ax_sn_leaf (r_X3_changedAt_69 E))) (ax_sn_leaf (r_X3_changedAt_66 E))) (ax_sn_node (ax_sn_node (ax_sn_leaf (r_X3_changedAt_63 E)) (ax_sn_leaf (r_X3_changedAt_62 E))) (ax_sn_leaf (r_X3_changedAt_61 E)))) (ax_sn_node (ax_sn_node (ax_sn_node (ax_sn_leaf (r_X3_changedAt_58 E)) (ax_sn_leaf (r_X3_changedAt_57 E))) (ax_sn_leaf (r_X3_changedAt_56 E))) (ax_sn_node (ax_sn_leaf (r_X3_changedAt_55 E)) (ax_sn_leaf (r_X3_changedAt_52 E))))) (ax_sn_node (ax_sn_node (ax_sn_node (ax_sn_node (ax_sn_leaf (r_X3_changedAt_51 E)) (ax_sn_leaf (r_X3_changedAt_48 E))) (ax_sn_leaf (r_X3_changedAt_47 E))) (ax_sn_node (ax_sn_leaf (r_X3_changedAt_46 E)) (ax_sn_leaf (r_X3_changedAt_45 E)))) (ax_sn_node (ax_sn_node (ax_sn_node (ax_sn_leaf (r_X3_changedAt_42 E)) (ax_sn_leaf (r_X3_changedAt_41 E))) (ax_sn_leaf (r_X3_changedAt_38 E))) (ax_sn_node (ax_sn_leaf (r_X3_changedAt_37 E)) (ax_sn_leaf (r_X3_changedAt_34 E)))))) (ax_sn_node (ax_sn_node (ax_sn_node (ax_sn_node (ax_sn_node (ax_sn_leaf (r_X3_changedAt_33 E)) (ax_sn_leaf (r_X3_changedAt_30 E))) (ax_sn_leaf (r_X3_changedAt_29 E))) (ax_sn_node (ax_sn_leaf (r_X3_changedAt_28 E)) (ax_sn_leaf (r_X3_changedAt_27 E)))) (ax_sn_node (ax_sn_node (ax_sn_node (ax_sn_leaf (r_X3_changedAt_26 E)) (ax_sn_leaf (r_X3_changedAt_25 E))) (ax_sn_leaf (r_X3_changedAt_22 E))) (ax_sn_node (ax_sn_leaf (r_X3_changedAt_21 E)) (ax_sn_leaf (r_X3_changedAt_20 E))))) (ax_sn_node (ax_sn_node (ax_sn_node (ax_sn_node (ax_sn_leaf (r_X3_changedAt_19 E)) (ax_sn_leaf (r_X3_changedAt_16 E))) (ax_sn_leaf (r_X3_changedAt_13 E))) (ax_sn_node (ax_sn_leaf (r_X3_changedAt_12 E)) (ax_sn_leaf (r_X3_changedAt_9 E)))) (ax_sn_node (ax_sn_node (ax_sn_node (ax_sn_leaf (r_X3_changedAt_8 E)) (ax_sn_leaf (r_X3_changedAt_5 E))) (ax_sn_leaf (r_X3_changedAt_2 E))) (ax_sn_node (ax_sn_leaf (r_X3_changedAt_1 E)) (ax_sn_leaf (r_X3_changedAt_0 E)))))))⟩
theorem r_X3_tape_0 (E : ax_EN G l) : ax_Snd G l ax_Ym M_X3_tape 0 (S_aload 0 1) := k_aload_n dX3_tape_0 rfl
theorem r_X3_tape_1 (E : ax_EN G l) : ax_Snd G l ax_Ym M_X3_tape 1 (S_push (.int (0)) 2) := k_iconst dX3_tape_1 rfl
theorem r_X3_tape_2 (E : ax_EN G l) : ax_Snd G l ax_Ym M_X3_tape 2 (S_putf [(38, 0)] (.int) 5) := k_putf (en_F E) (en_P E) (ax_fes_cons (fe_442 E) ax_fes_nil) (ax_fps_cons (fp_443 E) ax_fps_nil) q2753 dX3_tape_2
theorem r_X3_tape_5 (E : ax_EN G l) : ax_Snd G l ax_Ym M_X3_tape 5 (S_aload 0 6) := k_aload_n dX3_tape_5 rfl
theorem r_X3_tape_6 (E : ax_EN G l) : ax_Snd G l ax_Ym M_X3_tape 6 (S_getf [(38, 37)] 9) := k_getf (en_F E) (ax_fes_cons (fe_489 E) ax_fes_nil) q2790 dX3_tape_6
theorem r_X3_tape_9 (E : ax_EN G l) : ax_Snd G l ax_Ym M_X3_tape 9 (S_iret) := k_iret dX3_tape_9 rfl
theorem mt_X3_tape (E : ax_EN G l) : ax_mt G l ax_Ym (1, P_X3_tape) (ax_Ym 467) := ⟨M_X3_tape, yX3_tape, ⟨rfl, by decide +kernel, rfl, (fun h => by cases h), Or.inl ⟨rfl, rfl⟩⟩, fun pc => (ax_sn_node (ax_sn_node (ax_sn_node (ax_sn_leaf (r_X3_tape_9 E)) (ax_sn_leaf (r_X3_tape_6 E))) (ax_sn_leaf (r_X3_tape_5 E))) (ax_sn_node (ax_sn_node (ax_sn_leaf (r_X3_tape_2 E)) (ax_sn_leaf (r_X3_tape_1 E))) (ax_sn_leaf (r_X3_tape_0 E))))⟩
theorem r_X3_tapeAt_0 (E : ax_EN G l) : ax_Snd G l ax_Ym M_X3_tapeAt 0 (S_aload 0 1) := k_aload_n dX3_tapeAt_0 rfl
theorem r_X3_tapeAt_1 (E : ax_EN G l) : ax_Snd G l ax_Ym M_X3_tapeAt 1 (S_iload 1 2) := k_iload_n dX3_tapeAt_1 rfl
theorem r_X3_tapeAt_2 (E : ax_EN G l) : ax_Snd G l ax_Ym M_X3_tapeAt 2 (S_push (.int (0)) 3) := k_iconst dX3_tapeAt_2 rfl
theorem r_X3_tapeAt_3 (E : ax_EN G l) : ax_Snd G l ax_Ym M_X3_tapeAt 3 (S_aload 0 4) := k_aload_n dX3_tapeAt_3 rfl
theorem r_X3_tapeAt_4 (E : ax_EN G l) : ax_Snd G l ax_Ym M_X3_tapeAt 4 (S_getf [(38, 37)] 7) := k_getf (en_F E) (ax_fes_cons (fe_489 E) ax_fes_nil) q2790 dX3_tapeAt_4
theorem r_X3_tapeAt_7 (E : ax_EN G l) : ax_Snd G l ax_Ym M_X3_tapeAt 7 (S_push (.int (1)) 8) := k_iconst dX3_tapeAt_7 rfl
theorem r_X3_tapeAt_8 (E : ax_EN G l) : ax_Snd G l ax_Ym M_X3_tapeAt 8 (S_i2 (fun x y => x - y) 9) := k_isub dX3_tapeAt_8
theorem r_X3_tapeAt_9 (E : ax_EN G l) : ax_Snd G l ax_Ym M_X3_tapeAt 9 (S_is 376 3 12 hd_0) := k_is (en_F E) (ax_ok0 E rfl) ((ev_s y_X3_in q2992 q2993 q126 q2994 nm_X3_in (Nat.le_of_ble_eq_true rfl) dX3_tapeAt_9) : ax_EvS G l ax_Ym M_X3_tapeAt 9 376 3 3)
theorem r_X3_tapeAt_12 (E : ax_EN G l) : ax_Snd G l ax_Ym M_X3_tapeAt 12 (S_if1 (fun x => decide (x = 0)) 19 15) := k_if_eq dX3_tapeAt_12 rfl
theorem r_X3_tapeAt_15 (E : ax_EN G l) : ax_Snd G l ax_Ym M_X3_tapeAt 15 (S_push (.int (0)) 16) := k_iconst dX3_tapeAt_15 rfl
theorem r_X3_tapeAt_16 (E : ax_EN G l) : ax_Snd G l ax_Ym M_X3_tapeAt 16 (S_goto 20) := k_goto dX3_tapeAt_16 rfl
theorem r_X3_tapeAt_19 (E : ax_EN G l) : ax_Snd G l ax_Ym M_X3_tapeAt 19 (S_push (.int (1)) 20) := k_iconst dX3_tapeAt_19 rfl
theorem r_X3_tapeAt_20 (E : ax_EN G l) : ax_Snd G l ax_Ym M_X3_tapeAt 20 (S_iv [(38, 378)] 1 23 hd_0) := k_iv (en_F E) (ax_ok0 E rfl) (ax_Evs_cons ((ev_v (en_c E (k := 38) rfl) rfl y_X3_holds q2999 q3001 qs61 q126 q3002 nm_X3_holds (Nat.le_of_ble_eq_true rfl) dX3_tapeAt_20) : ax_EvV G l ax_Ym M_X3_tapeAt 20 1 3 38 378) ax_Evs_nil)
theorem r_X3_tapeAt_23 (E : ax_EN G l) : ax_Snd G l ax_Ym M_X3_tapeAt 23 (S_if1 (fun x => decide (x = 0)) 35 26) := k_if_eq dX3_tapeAt_23 rfl
theorem r_X3_tapeAt_26 (E : ax_EN G l) : ax_Snd G l ax_Ym M_X3_tapeAt 26 (S_aload 0 27) := k_aload_n dX3_tapeAt_26 rfl
theorem r_X3_tapeAt_27 (E : ax_EN G l) : ax_Snd G l ax_Ym M_X3_tapeAt 27 (S_getf [(38, 36)] 30) := k_getf (en_F E) (ax_fes_cons (fe_388 E) ax_fes_nil) q2789 dX3_tapeAt_27
theorem r_X3_tapeAt_30 (E : ax_EN G l) : ax_Snd G l ax_Ym M_X3_tapeAt 30 (S_iload 1 31) := k_iload_n dX3_tapeAt_30 rfl
theorem r_X3_tapeAt_31 (E : ax_EN G l) : ax_Snd G l ax_Ym M_X3_tapeAt 31 (S_iald 0 32) := k_iald (en_F E) dX3_tapeAt_31
theorem r_X3_tapeAt_32 (E : ax_EN G l) : ax_Snd G l ax_Ym M_X3_tapeAt 32 (S_goto 36) := k_goto dX3_tapeAt_32 rfl
theorem r_X3_tapeAt_35 (E : ax_EN G l) : ax_Snd G l ax_Ym M_X3_tapeAt 35 (S_push (.int (0)) 36) := k_iconst dX3_tapeAt_35 rfl
theorem r_X3_tapeAt_36 (E : ax_EN G l) : ax_Snd G l ax_Ym M_X3_tapeAt 36 (S_iret) := k_iret dX3_tapeAt_36 rfl
theorem mt_X3_tapeAt (E : ax_EN G l) : ax_mt G l ax_Ym (2, P_X3_tapeAt) (ax_Ym 468) := ⟨M_X3_tapeAt, yX3_tapeAt, ⟨rfl, by decide +kernel, rfl, (fun h => by cases h), Or.inl ⟨rfl, rfl⟩⟩, fun pc => (ax_sn_node (ax_sn_node (ax_sn_node (ax_sn_node (ax_sn_node (ax_sn_leaf (r_X3_tapeAt_36 E)) (ax_sn_leaf (r_X3_tapeAt_35 E))) (ax_sn_leaf (r_X3_tapeAt_32 E))) (ax_sn_node (ax_sn_node (ax_sn_leaf (r_X3_tapeAt_31 E)) (ax_sn_leaf (r_X3_tapeAt_30 E))) (ax_sn_leaf (r_X3_tapeAt_27 E)))) (ax_sn_node (ax_sn_node (ax_sn_node (ax_sn_leaf (r_X3_tapeAt_26 E)) (ax_sn_leaf (r_X3_tapeAt_23 E))) (ax_sn_leaf (r_X3_tapeAt_20 E))) (ax_sn_node (ax_sn_leaf (r_X3_tapeAt_19 E)) (ax_sn_leaf (r_X3_tapeAt_16 E))))) (ax_sn_node (ax_sn_node (ax_sn_node (ax_sn_node (ax_sn_leaf (r_X3_tapeAt_15 E)) (ax_sn_leaf (r_X3_tapeAt_12 E))) (ax_sn_leaf (r_X3_tapeAt_9 E))) (ax_sn_node (ax_sn_leaf (r_X3_tapeAt_8 E)) (ax_sn_leaf (r_X3_tapeAt_7 E)))) (ax_sn_node (ax_sn_node (ax_sn_node (ax_sn_leaf (r_X3_tapeAt_4 E)) (ax_sn_leaf (r_X3_tapeAt_3 E))) (ax_sn_leaf (r_X3_tapeAt_2 E))) (ax_sn_node (ax_sn_leaf (r_X3_tapeAt_1 E)) (ax_sn_leaf (r_X3_tapeAt_0 E))))))⟩
theorem r_X3_sum_0 (E : ax_EN G l) : ax_Snd G l ax_Ym M_X3_sum 0 (S_aload 0 1) := k_aload_n dX3_sum_0 rfl
theorem r_X3_sum_1 (E : ax_EN G l) : ax_Snd G l ax_Ym M_X3_sum 1 (S_push (.int (0)) 2) := k_iconst dX3_sum_1 rfl
theorem r_X3_sum_2 (E : ax_EN G l) : ax_Snd G l ax_Ym M_X3_sum 2 (S_putf [(38, 0)] (.int) 5) := k_putf (en_F E) (en_P E) (ax_fes_cons (fe_442 E) ax_fes_nil) (ax_fps_cons (fp_443 E) ax_fps_nil) q2753 dX3_sum_2
theorem r_X3_sum_5 (E : ax_EN G l) : ax_Snd G l ax_Ym M_X3_sum 5 (S_aload 0 6) := k_aload_n dX3_sum_5 rfl
theorem r_X3_sum_6 (E : ax_EN G l) : ax_Snd G l ax_Ym M_X3_sum 6 (S_iv [(38, 470)] 0 9 hd_0) := k_iv (en_F E) (ax_ok0 E rfl) (ax_Evs_cons ((ev_v (en_c E (k := 38) rfl) rfl y_X3_sumOf q3360 q3362 qs111 q126 q3363 nm_X3_sumOf (Nat.le_of_ble_eq_true rfl) dX3_sum_6) : ax_EvV G l ax_Ym M_X3_sum 6 0 3 38 470) ax_Evs_nil)
theorem r_X3_sum_9 (E : ax_EN G l) : ax_Snd G l ax_Ym M_X3_sum 9 (S_iret) := k_iret dX3_sum_9 rfl
theorem mt_X3_sum (E : ax_EN G l) : ax_mt G l ax_Ym (1, P_X3_sum) (ax_Ym 469) := ⟨M_X3_sum, yX3_sum, ⟨rfl, by decide +kernel, rfl, (fun h => by cases h), Or.inl ⟨rfl, rfl⟩⟩, fun pc => (ax_sn_node (ax_sn_node (ax_sn_node (ax_sn_leaf (r_X3_sum_9 E)) (ax_sn_leaf (r_X3_sum_6 E))) (ax_sn_leaf (r_X3_sum_5 E))) (ax_sn_node (ax_sn_node (ax_sn_leaf (r_X3_sum_2 E)) (ax_sn_leaf (r_X3_sum_1 E))) (ax_sn_leaf (r_X3_sum_0 E))))⟩
theorem r_X3_sumOf_0 (E : ax_EN G l) : ax_Snd G l ax_Ym M_X3_sumOf 0 (S_push (.int (7)) 2) := k_bipush dX3_sumOf_0 rfl
theorem r_X3_sumOf_2 (E : ax_EN G l) : ax_Snd G l ax_Ym M_X3_sumOf 2 (S_aload 0 3) := k_aload_n dX3_sumOf_2 rfl
theorem r_X3_sumOf_3 (E : ax_EN G l) : ax_Snd G l ax_Ym M_X3_sumOf 3 (S_getf [(38, 23)] 6) := k_getf (en_F E) (ax_fes_cons (fe_466 E) ax_fes_nil) q2776 dX3_sumOf_3
theorem r_X3_sumOf_6 (E : ax_EN G l) : ax_Snd G l ax_Ym M_X3_sumOf 6 (S_is 471 2 9 hd_0) := k_is (en_F E) (ax_ok0 E rfl) ((ev_s y_X3_added q3364 q3365 q126 q3366 nm_X3_added (Nat.le_of_ble_eq_true rfl) dX3_sumOf_6) : ax_EvS G l ax_Ym M_X3_sumOf 6 471 2 3)
theorem r_X3_sumOf_9 (E : ax_EN G l) : ax_Snd G l ax_Ym M_X3_sumOf 9 (S_aload 0 10) := k_aload_n dX3_sumOf_9 rfl
theorem r_X3_sumOf_10 (E : ax_EN G l) : ax_Snd G l ax_Ym M_X3_sumOf 10 (S_getf [(38, 24)] 13) := k_getf (en_F E) (ax_fes_cons (fe_473 E) ax_fes_nil) q2777 dX3_sumOf_10
theorem r_X3_sumOf_13 (E : ax_EN G l) : ax_Snd G l ax_Ym M_X3_sumOf 13 (S_is 471 2 16 hd_0) := k_is (en_F E) (ax_ok0 E rfl) ((ev_s y_X3_added q3364 q3365 q126 q3366 nm_X3_added (Nat.le_of_ble_eq_true rfl) dX3_sumOf_13) : ax_EvS G l ax_Ym M_X3_sumOf 13 471 2 3)
theorem r_X3_sumOf_16 (E : ax_EN G l) : ax_Snd G l ax_Ym M_X3_sumOf 16 (S_aload 0 17) := k_aload_n dX3_sumOf_16 rfl
theorem r_X3_sumOf_17 (E : ax_EN G l) : ax_Snd G l ax_Ym M_X3_sumOf 17 (S_getf [(38, 38)] 20) := k_getf (en_F E) (ax_fes_cons (fe_491 E) ax_fes_nil) q2791 dX3_sumOf_17
theorem r_X3_sumOf_20 (E : ax_EN G l) : ax_Snd G l ax_Ym M_X3_sumOf 20 (S_is 471 2 23 hd_0) := k_is (en_F E) (ax_ok0 E rfl) ((ev_s y_X3_added q3364 q3365 q126 q3366 nm_X3_added (Nat.le_of_ble_eq_true rfl) dX3_sumOf_20) : ax_EvS G l ax_Ym M_X3_sumOf 20 471 2 3)
theorem r_X3_sumOf_23 (E : ax_EN G l) : ax_Snd G l ax_Ym M_X3_sumOf 23 (S_aload 0 24) := k_aload_n dX3_sumOf_23 rfl
theorem r_X3_sumOf_24 (E : ax_EN G l) : ax_Snd G l ax_Ym M_X3_sumOf 24 (S_getf [(38, 27)] 27) := k_getf (en_F E) (ax_fes_cons (fe_469 E) ax_fes_nil) q2780 dX3_sumOf_24
theorem r_X3_sumOf_27 (E : ax_EN G l) : ax_Snd G l ax_Ym M_X3_sumOf 27 (S_is 471 2 30 hd_0) := k_is (en_F E) (ax_ok0 E rfl) ((ev_s y_X3_added q3364 q3365 q126 q3366 nm_X3_added (Nat.le_of_ble_eq_true rfl) dX3_sumOf_27) : ax_EvS G l ax_Ym M_X3_sumOf 27 471 2 3)
theorem r_X3_sumOf_30 (E : ax_EN G l) : ax_Snd G l ax_Ym M_X3_sumOf 30 (S_istore 1 31) := k_istore_n dX3_sumOf_30 rfl (Nat.le_of_ble_eq_true rfl)
theorem r_X3_sumOf_31 (E : ax_EN G l) : ax_Snd G l ax_Ym M_X3_sumOf 31 (S_iload 1 32) := k_iload_n dX3_sumOf_31 rfl
theorem r_X3_sumOf_32 (E : ax_EN G l) : ax_Snd G l ax_Ym M_X3_sumOf 32 (S_aload 0 33) := k_aload_n dX3_sumOf_32 rfl
theorem r_X3_sumOf_33 (E : ax_EN G l) : ax_Snd G l ax_Ym M_X3_sumOf 33 (S_getf [(38, 28)] 36) := k_getf (en_F E) (ax_fes_cons (fe_471 E) ax_fes_nil) q2781 dX3_sumOf_33
theorem r_X3_sumOf_36 (E : ax_EN G l) : ax_Snd G l ax_Ym M_X3_sumOf 36 (S_is 471 2 39 hd_0) := k_is (en_F E) (ax_ok0 E rfl) ((ev_s y_X3_added q3364 q3365 q126 q3366 nm_X3_added (Nat.le_of_ble_eq_true rfl) dX3_sumOf_36) : ax_EvS G l ax_Ym M_X3_sumOf 36 471 2 3)
theorem r_X3_sumOf_39 (E : ax_EN G l) : ax_Snd G l ax_Ym M_X3_sumOf 39 (S_aload 0 40) := k_aload_n dX3_sumOf_39 rfl
theorem r_X3_sumOf_40 (E : ax_EN G l) : ax_Snd G l ax_Ym M_X3_sumOf 40 (S_iv [(38, 461)] 0 43 hd_0) := k_iv (en_F E) (ax_ok0 E rfl) (ax_Evs_cons ((ev_v (en_c E (k := 38) rfl) rfl y_X3_flagsOf q3325 q3327 qs110 q126 q3328 nm_X3_flagsOf (Nat.le_of_ble_eq_true rfl) dX3_sumOf_40) : ax_EvV G l ax_Ym M_X3_sumOf 40 0 3 38 461) ax_Evs_nil)
theorem r_X3_sumOf_43 (E : ax_EN G l) : ax_Snd G l ax_Ym M_X3_sumOf 43 (S_is 471 2 46 hd_0) := k_is (en_F E) (ax_ok0 E rfl) ((ev_s y_X3_added q3364 q3365 q126 q3366 nm_X3_added (Nat.le_of_ble_eq_true rfl) dX3_sumOf_43) : ax_EvS G l ax_Ym M_X3_sumOf 43 471 2 3)
theorem r_X3_sumOf_46 (E : ax_EN G l) : ax_Snd G l ax_Ym M_X3_sumOf 46 (S_aload 0 47) := k_aload_n dX3_sumOf_46 rfl
theorem r_X3_sumOf_47 (E : ax_EN G l) : ax_Snd G l ax_Ym M_X3_sumOf 47 (S_getf [(38, 34)] 50) := k_getf (en_F E) (ax_fes_cons (fe_485 E) ax_fes_nil) q2787 dX3_sumOf_47
theorem r_X3_sumOf_50 (E : ax_EN G l) : ax_Snd G l ax_Ym M_X3_sumOf 50 (S_is 471 2 53 hd_0) := k_is (en_F E) (ax_ok0 E rfl) ((ev_s y_X3_added q3364 q3365 q126 q3366 nm_X3_added (Nat.le_of_ble_eq_true rfl) dX3_sumOf_50) : ax_EvS G l ax_Ym M_X3_sumOf 50 471 2 3)
theorem r_X3_sumOf_53 (E : ax_EN G l) : ax_Snd G l ax_Ym M_X3_sumOf 53 (S_aload 0 54) := k_aload_n dX3_sumOf_53 rfl
theorem r_X3_sumOf_54 (E : ax_EN G l) : ax_Snd G l ax_Ym M_X3_sumOf 54 (S_getf [(38, 35)] 57) := k_getf (en_F E) (ax_fes_cons (fe_487 E) ax_fes_nil) q2788 dX3_sumOf_54
theorem r_X3_sumOf_57 (E : ax_EN G l) : ax_Snd G l ax_Ym M_X3_sumOf 57 (S_is 471 2 60 hd_0) := k_is (en_F E) (ax_ok0 E rfl) ((ev_s y_X3_added q3364 q3365 q126 q3366 nm_X3_added (Nat.le_of_ble_eq_true rfl) dX3_sumOf_57) : ax_EvS G l ax_Ym M_X3_sumOf 57 471 2 3)
theorem r_X3_sumOf_60 (E : ax_EN G l) : ax_Snd G l ax_Ym M_X3_sumOf 60 (S_istore 1 61) := k_istore_n dX3_sumOf_60 rfl (Nat.le_of_ble_eq_true rfl)
theorem r_X3_sumOf_61 (E : ax_EN G l) : ax_Snd G l ax_Ym M_X3_sumOf 61 (S_push (.int (0)) 62) := k_iconst dX3_sumOf_61 rfl
theorem r_X3_sumOf_62 (E : ax_EN G l) : ax_Snd G l ax_Ym M_X3_sumOf 62 (S_istore 2 63) := k_istore_n dX3_sumOf_62 rfl (Nat.le_of_ble_eq_true rfl)
theorem r_X3_sumOf_63 (E : ax_EN G l) : ax_Snd G l ax_Ym M_X3_sumOf 63 (S_iload 2 64) := k_iload_n dX3_sumOf_63 rfl
theorem r_X3_sumOf_64 (E : ax_EN G l) : ax_Snd G l ax_Ym M_X3_sumOf 64 (S_push (.int (4)) 65) := k_iconst dX3_sumOf_64 rfl
theorem r_X3_sumOf_65 (E : ax_EN G l) : ax_Snd G l ax_Ym M_X3_sumOf 65 (S_if2 (fun x y => decide (y ≤ x)) 85 68) := k_icmp_ge dX3_sumOf_65 rfl
theorem r_X3_sumOf_68 (E : ax_EN G l) : ax_Snd G l ax_Ym M_X3_sumOf 68 (S_iload 1 69) := k_iload_n dX3_sumOf_68 rfl
theorem r_X3_sumOf_69 (E : ax_EN G l) : ax_Snd G l ax_Ym M_X3_sumOf 69 (S_aload 0 70) := k_aload_n dX3_sumOf_69 rfl
theorem r_X3_sumOf_70 (E : ax_EN G l) : ax_Snd G l ax_Ym M_X3_sumOf 70 (S_getf [(38, 26)] 73) := k_getf (en_F E) (ax_fes_cons (fe_386 E) ax_fes_nil) q2779 dX3_sumOf_70
theorem r_X3_sumOf_73 (E : ax_EN G l) : ax_Snd G l ax_Ym M_X3_sumOf 73 (S_iload 2 74) := k_iload_n dX3_sumOf_73 rfl
theorem r_X3_sumOf_74 (E : ax_EN G l) : ax_Snd G l ax_Ym M_X3_sumOf 74 (S_iald 0 75) := k_iald (en_F E) dX3_sumOf_74
theorem r_X3_sumOf_75 (E : ax_EN G l) : ax_Snd G l ax_Ym M_X3_sumOf 75 (S_is 471 2 78 hd_0) := k_is (en_F E) (ax_ok0 E rfl) ((ev_s y_X3_added q3364 q3365 q126 q3366 nm_X3_added (Nat.le_of_ble_eq_true rfl) dX3_sumOf_75) : ax_EvS G l ax_Ym M_X3_sumOf 75 471 2 3)
theorem r_X3_sumOf_78 (E : ax_EN G l) : ax_Snd G l ax_Ym M_X3_sumOf 78 (S_istore 1 79) := k_istore_n dX3_sumOf_78 rfl (Nat.le_of_ble_eq_true rfl)
theorem r_X3_sumOf_79 (E : ax_EN G l) : ax_Snd G l ax_Ym M_X3_sumOf 79 (S_iinc 2 (1) 82) := k_iinc dX3_sumOf_79 rfl (Nat.le_of_ble_eq_true rfl)
theorem r_X3_sumOf_82 (E : ax_EN G l) : ax_Snd G l ax_Ym M_X3_sumOf 82 (S_goto 63) := k_goto dX3_sumOf_82 rfl
theorem r_X3_sumOf_85 (E : ax_EN G l) : ax_Snd G l ax_Ym M_X3_sumOf 85 (S_iload 1 86) := k_iload_n dX3_sumOf_85 rfl
theorem r_X3_sumOf_86 (E : ax_EN G l) : ax_Snd G l ax_Ym M_X3_sumOf 86 (S_aload 0 87) := k_aload_n dX3_sumOf_86 rfl
theorem r_X3_sumOf_87 (E : ax_EN G l) : ax_Snd G l ax_Ym M_X3_sumOf 87 (S_getf [(38, 46)] 90) := k_getf (en_F E) (ax_fes_cons (fe_495 E) ax_fes_nil) q2799 dX3_sumOf_87
theorem r_X3_sumOf_90 (E : ax_EN G l) : ax_Snd G l ax_Ym M_X3_sumOf 90 (S_is 471 2 93 hd_0) := k_is (en_F E) (ax_ok0 E rfl) ((ev_s y_X3_added q3364 q3365 q126 q3366 nm_X3_added (Nat.le_of_ble_eq_true rfl) dX3_sumOf_90) : ax_EvS G l ax_Ym M_X3_sumOf 90 471 2 3)
theorem r_X3_sumOf_93 (E : ax_EN G l) : ax_Snd G l ax_Ym M_X3_sumOf 93 (S_istore 1 94) := k_istore_n dX3_sumOf_93 rfl (Nat.le_of_ble_eq_true rfl)
theorem r_X3_sumOf_94 (E : ax_EN G l) : ax_Snd G l ax_Ym M_X3_sumOf 94 (S_push (.int (0)) 95) := k_iconst dX3_sumOf_94 rfl
theorem r_X3_sumOf_95 (E : ax_EN G l) : ax_Snd G l ax_Ym M_X3_sumOf 95 (S_istore 2 96) := k_istore_n dX3_sumOf_95 rfl (Nat.le_of_ble_eq_true rfl)
theorem r_X3_sumOf_96 (E : ax_EN G l) : ax_Snd G l ax_Ym M_X3_sumOf 96 (S_iload 2 97) := k_iload_n dX3_sumOf_96 rfl
theorem r_X3_sumOf_97 (E : ax_EN G l) : ax_Snd G l ax_Ym M_X3_sumOf 97 (S_push (.int (256)) 100) := k_sipush dX3_sumOf_97 rfl
theorem r_X3_sumOf_100 (E : ax_EN G l) : ax_Snd G l ax_Ym M_X3_sumOf 100 (S_if2 (fun x y => decide (y ≤ x)) 120 103) := k_icmp_ge dX3_sumOf_100 rfl
theorem r_X3_sumOf_103 (E : ax_EN G l) : ax_Snd G l ax_Ym M_X3_sumOf 103 (S_iload 1 104) := k_iload_n dX3_sumOf_103 rfl
theorem r_X3_sumOf_104 (E : ax_EN G l) : ax_Snd G l ax_Ym M_X3_sumOf 104 (S_aload 0 105) := k_aload_n dX3_sumOf_104 rfl
theorem r_X3_sumOf_105 (E : ax_EN G l) : ax_Snd G l ax_Ym M_X3_sumOf 105 (S_getf [(38, 25)] 108) := k_getf (en_F E) (ax_fes_cons (fe_384 E) ax_fes_nil) q2778 dX3_sumOf_105
theorem r_X3_sumOf_108 (E : ax_EN G l) : ax_Snd G l ax_Ym M_X3_sumOf 108 (S_iload 2 109) := k_iload_n dX3_sumOf_108 rfl
theorem r_X3_sumOf_109 (E : ax_EN G l) : ax_Snd G l ax_Ym M_X3_sumOf 109 (S_iald 0 110) := k_iald (en_F E) dX3_sumOf_109
theorem r_X3_sumOf_110 (E : ax_EN G l) : ax_Snd G l ax_Ym M_X3_sumOf 110 (S_is 471 2 113 hd_0) := k_is (en_F E) (ax_ok0 E rfl) ((ev_s y_X3_added q3364 q3365 q126 q3366 nm_X3_added (Nat.le_of_ble_eq_true rfl) dX3_sumOf_110) : ax_EvS G l ax_Ym M_X3_sumOf 110 471 2 3)
theorem r_X3_sumOf_113 (E : ax_EN G l) : ax_Snd G l ax_Ym M_X3_sumOf 113 (S_istore 1 114) := k_istore_n dX3_sumOf_113 rfl (Nat.le_of_ble_eq_true rfl)
theorem r_X3_sumOf_114 (E : ax_EN G l) : ax_Snd G l ax_Ym M_X3_sumOf 114 (S_iinc 2 (1) 117) := k_iinc dX3_sumOf_114 rfl (Nat.le_of_ble_eq_true rfl)
theorem r_X3_sumOf_117 (E : ax_EN G l) : ax_Snd G l ax_Ym M_X3_sumOf 117 (S_goto 96) := k_goto dX3_sumOf_117 rfl
theorem r_X3_sumOf_120 (E : ax_EN G l) : ax_Snd G l ax_Ym M_X3_sumOf 120 (S_push (.int (0)) 121) := k_iconst dX3_sumOf_120 rfl
theorem r_X3_sumOf_121 (E : ax_EN G l) : ax_Snd G l ax_Ym M_X3_sumOf 121 (S_istore 2 122) := k_istore_n dX3_sumOf_121 rfl (Nat.le_of_ble_eq_true rfl)
theorem r_X3_sumOf_122 (E : ax_EN G l) : ax_Snd G l ax_Ym M_X3_sumOf 122 (S_iload 2 123) := k_iload_n dX3_sumOf_122 rfl
theorem r_X3_sumOf_123 (E : ax_EN G l) : ax_Snd G l ax_Ym M_X3_sumOf 123 (S_push (.int (256)) 126) := k_sipush dX3_sumOf_123 rfl
theorem r_X3_sumOf_126 (E : ax_EN G l) : ax_Snd G l ax_Ym M_X3_sumOf 126 (S_if2 (fun x y => decide (y ≤ x)) 146 129) := k_icmp_ge dX3_sumOf_126 rfl
theorem r_X3_sumOf_129 (E : ax_EN G l) : ax_Snd G l ax_Ym M_X3_sumOf 129 (S_iload 1 130) := k_iload_n dX3_sumOf_129 rfl
theorem r_X3_sumOf_130 (E : ax_EN G l) : ax_Snd G l ax_Ym M_X3_sumOf 130 (S_aload 0 131) := k_aload_n dX3_sumOf_130 rfl
theorem r_X3_sumOf_131 (E : ax_EN G l) : ax_Snd G l ax_Ym M_X3_sumOf 131 (S_getf [(38, 50)] 134) := k_getf (en_F E) (ax_fes_cons (fe_402 E) ax_fes_nil) q2803 dX3_sumOf_131
theorem r_X3_sumOf_134 (E : ax_EN G l) : ax_Snd G l ax_Ym M_X3_sumOf 134 (S_iload 2 135) := k_iload_n dX3_sumOf_134 rfl
theorem r_X3_sumOf_135 (E : ax_EN G l) : ax_Snd G l ax_Ym M_X3_sumOf 135 (S_iald 0 136) := k_iald (en_F E) dX3_sumOf_135
theorem r_X3_sumOf_136 (E : ax_EN G l) : ax_Snd G l ax_Ym M_X3_sumOf 136 (S_is 471 2 139 hd_0) := k_is (en_F E) (ax_ok0 E rfl) ((ev_s y_X3_added q3364 q3365 q126 q3366 nm_X3_added (Nat.le_of_ble_eq_true rfl) dX3_sumOf_136) : ax_EvS G l ax_Ym M_X3_sumOf 136 471 2 3)
theorem r_X3_sumOf_139 (E : ax_EN G l) : ax_Snd G l ax_Ym M_X3_sumOf 139 (S_istore 1 140) := k_istore_n dX3_sumOf_139 rfl (Nat.le_of_ble_eq_true rfl)
theorem r_X3_sumOf_140 (E : ax_EN G l) : ax_Snd G l ax_Ym M_X3_sumOf 140 (S_iinc 2 (1) 143) := k_iinc dX3_sumOf_140 rfl (Nat.le_of_ble_eq_true rfl)
theorem r_X3_sumOf_143 (E : ax_EN G l) : ax_Snd G l ax_Ym M_X3_sumOf 143 (S_goto 122) := k_goto dX3_sumOf_143 rfl
theorem r_X3_sumOf_146 (E : ax_EN G l) : ax_Snd G l ax_Ym M_X3_sumOf 146 (S_iload 1 147) := k_iload_n dX3_sumOf_146 rfl
theorem r_X3_sumOf_147 (E : ax_EN G l) : ax_Snd G l ax_Ym M_X3_sumOf 147 (S_aload 0 148) := k_aload_n dX3_sumOf_147 rfl
theorem r_X3_sumOf_148 (E : ax_EN G l) : ax_Snd G l ax_Ym M_X3_sumOf 148 (S_getf [(38, 37)] 151) := k_getf (en_F E) (ax_fes_cons (fe_489 E) ax_fes_nil) q2790 dX3_sumOf_148
theorem r_X3_sumOf_151 (E : ax_EN G l) : ax_Snd G l ax_Ym M_X3_sumOf 151 (S_is 471 2 154 hd_0) := k_is (en_F E) (ax_ok0 E rfl) ((ev_s y_X3_added q3364 q3365 q126 q3366 nm_X3_added (Nat.le_of_ble_eq_true rfl) dX3_sumOf_151) : ax_EvS G l ax_Ym M_X3_sumOf 151 471 2 3)
theorem r_X3_sumOf_154 (E : ax_EN G l) : ax_Snd G l ax_Ym M_X3_sumOf 154 (S_istore 1 155) := k_istore_n dX3_sumOf_154 rfl (Nat.le_of_ble_eq_true rfl)
theorem r_X3_sumOf_155 (E : ax_EN G l) : ax_Snd G l ax_Ym M_X3_sumOf 155 (S_push (.int (0)) 156) := k_iconst dX3_sumOf_155 rfl
theorem r_X3_sumOf_156 (E : ax_EN G l) : ax_Snd G l ax_Ym M_X3_sumOf 156 (S_istore 2 157) := k_istore_n dX3_sumOf_156 rfl (Nat.le_of_ble_eq_true rfl)
theorem r_X3_sumOf_157 (E : ax_EN G l) : ax_Snd G l ax_Ym M_X3_sumOf 157 (S_iload 2 158) := k_iload_n dX3_sumOf_157 rfl
theorem r_X3_sumOf_158 (E : ax_EN G l) : ax_Snd G l ax_Ym M_X3_sumOf 158 (S_aload 0 159) := k_aload_n dX3_sumOf_158 rfl
theorem r_X3_sumOf_159 (E : ax_EN G l) : ax_Snd G l ax_Ym M_X3_sumOf 159 (S_getf [(38, 37)] 162) := k_getf (en_F E) (ax_fes_cons (fe_489 E) ax_fes_nil) q2790 dX3_sumOf_159
theorem r_X3_sumOf_162 (E : ax_EN G l) : ax_Snd G l ax_Ym M_X3_sumOf 162 (S_if2 (fun x y => decide (y ≤ x)) 182 165) := k_icmp_ge dX3_sumOf_162 rfl
theorem r_X3_sumOf_165 (E : ax_EN G l) : ax_Snd G l ax_Ym M_X3_sumOf 165 (S_iload 1 166) := k_iload_n dX3_sumOf_165 rfl
theorem r_X3_sumOf_166 (E : ax_EN G l) : ax_Snd G l ax_Ym M_X3_sumOf 166 (S_aload 0 167) := k_aload_n dX3_sumOf_166 rfl
theorem r_X3_sumOf_167 (E : ax_EN G l) : ax_Snd G l ax_Ym M_X3_sumOf 167 (S_getf [(38, 36)] 170) := k_getf (en_F E) (ax_fes_cons (fe_388 E) ax_fes_nil) q2789 dX3_sumOf_167
theorem r_X3_sumOf_170 (E : ax_EN G l) : ax_Snd G l ax_Ym M_X3_sumOf 170 (S_iload 2 171) := k_iload_n dX3_sumOf_170 rfl
theorem r_X3_sumOf_171 (E : ax_EN G l) : ax_Snd G l ax_Ym M_X3_sumOf 171 (S_iald 0 172) := k_iald (en_F E) dX3_sumOf_171
theorem r_X3_sumOf_172 (E : ax_EN G l) : ax_Snd G l ax_Ym M_X3_sumOf 172 (S_is 471 2 175 hd_0) := k_is (en_F E) (ax_ok0 E rfl) ((ev_s y_X3_added q3364 q3365 q126 q3366 nm_X3_added (Nat.le_of_ble_eq_true rfl) dX3_sumOf_172) : ax_EvS G l ax_Ym M_X3_sumOf 172 471 2 3)
theorem r_X3_sumOf_175 (E : ax_EN G l) : ax_Snd G l ax_Ym M_X3_sumOf 175 (S_istore 1 176) := k_istore_n dX3_sumOf_175 rfl (Nat.le_of_ble_eq_true rfl)
theorem r_X3_sumOf_176 (E : ax_EN G l) : ax_Snd G l ax_Ym M_X3_sumOf 176 (S_iinc 2 (1) 179) := k_iinc dX3_sumOf_176 rfl (Nat.le_of_ble_eq_true rfl)
theorem r_X3_sumOf_179 (E : ax_EN G l) : ax_Snd G l ax_Ym M_X3_sumOf 179 (S_goto 157) := k_goto dX3_sumOf_179 rfl
theorem r_X3_sumOf_182 (E : ax_EN G l) : ax_Snd G l ax_Ym M_X3_sumOf 182 (S_iload 1 183) := k_iload_n dX3_sumOf_182 rfl
theorem r_X3_sumOf_183 (E : ax_EN G l) : ax_Snd G l ax_Ym M_X3_sumOf 183 (S_iret) := k_iret dX3_sumOf_183 rfl
theorem mt_X3_sumOf (E : ax_EN G l) : ax_mt G l ax_Ym (3, P_X3_sumOf) (ax_Ym 470) := ⟨M_X3_sumOf, yX3_sumOf, ⟨rfl, by decide +kernel, rfl, (fun h => by cases h), Or.inl ⟨rfl, rfl⟩⟩, fun pc => (ax_sn_node (ax_sn_node (ax_sn_node (ax_sn_node (ax_sn_node (ax_sn_node (ax_sn_node (ax_sn_leaf (r_X3_sumOf_183 E)) (ax_sn_leaf (r_X3_sumOf_182 E))) (ax_sn_node (ax_sn_leaf (r_X3_sumOf_179 E)) (ax_sn_leaf (r_X3_sumOf_176 E)))) (ax_sn_node (ax_sn_node (ax_sn_leaf (r_X3_sumOf_175 E)) (ax_sn_leaf (r_X3_sumOf_172 E))) (ax_sn_leaf (r_X3_sumOf_171 E)))) (ax_sn_node (ax_sn_node (ax_sn_node (ax_sn_leaf (r_X3_sumOf_170 E)) (ax_sn_leaf (r_X3_sumOf_167 E))) (ax_sn_leaf (r_X3_sumOf_166 E))) (ax_sn_node (ax_sn_node (ax_sn_leaf (r_X3_sumOf_165 E)) (ax_sn_leaf (r_X3_sumOf_162 E))) (ax_sn_leaf (r_X3_sumOf_159 E))))) (ax_sn_node (ax_sn_node (ax_sn_node (ax_sn_node (ax_sn_leaf (r_X3_sumOf_158 E)) (ax_sn_leaf (r_X3_sumOf_157 E))) (ax_sn_leaf (r_X3_sumOf_156 E))) (ax_sn_node (ax_sn_node (ax_sn_leaf (r_X3_sumOf_155 E)) (ax_sn_leaf (r_X3_sumOf_154 E))) (ax_sn_leaf (r_X3_sumOf_151 E)))) (ax_sn_node (ax_sn_node (ax_sn_node (ax_sn_leaf (r_X3_sumOf_148 E)) (ax_sn_leaf (r_X3_sumOf_147 E))) (ax_sn_leaf (r_X3_sumOf_146 E))) (ax_sn_node (ax_sn_node (ax_sn_leaf (r_X3_sumOf_143 E)) (ax_sn_leaf (r_X3_sumOf_140 E))) (ax_sn_leaf (r_X3_sumOf_139 E)))))) (ax_sn_node (ax_sn_node (ax_sn_node (ax_sn_node (ax_sn_node (ax_sn_leaf (r_X3_sumOf_136 E)) (ax_sn_leaf (r_X3_sumOf_135 E))) (ax_sn_leaf (r_X3_sumOf_134 E))) (ax_sn_node (ax_sn_node (ax_sn_leaf (r_X3_sumOf_131 E)) (ax_sn_leaf (r_X3_sumOf_130 E))) (ax_sn_leaf (r_X3_sumOf_129 E)))) (ax_sn_node (ax_sn_node (ax_sn_node (ax_sn_leaf (r_X3_sumOf_126 E)) (ax_sn_leaf (r_X3_sumOf_123 E))) (ax_sn_leaf (r_X3_sumOf_122 E))) (ax_sn_node (ax_sn_node (ax_sn_leaf (r_X3_sumOf_121 E)) (ax_sn_leaf (r_X3_sumOf_120 E))) (ax_sn_leaf (r_X3_sumOf_117 E))))) (ax_sn_node (ax_sn_node (ax_sn_node (ax_sn_node (ax_sn_leaf (r_X3_sumOf_114 E)) (ax_sn_leaf (r_X3_sumOf_113 E))) (ax_sn_leaf (r_X3_sumOf_110 E))) (ax_sn_node (ax_sn_node (ax_sn_leaf (r_X3_sumOf_109 E)) (ax_sn_leaf (r_X3_sumOf_108 E))) (ax_sn_leaf (r_X3_sumOf_105 E)))) (ax_sn_node (ax_sn_node (ax_sn_node (ax_sn_leaf (r_X3_sumOf_104 E)) (ax_sn_leaf (r_X3_sumOf_103 E))) (ax_sn_leaf (r_X3_sumOf_100 E))) (ax_sn_node (ax_sn_node (ax_sn_leaf (r_X3_sumOf_97 E)) (ax_sn_leaf (r_X3_sumOf_96 E))) (ax_sn_leaf (r_X3_sumOf_95 E))))))) (ax_sn_node (ax_sn_node (ax_sn_node (ax_sn_node (ax_sn_node (ax_sn_node (ax_sn_leaf (r_X3_sumOf_94 E)) (ax_sn_leaf (r_X3_sumOf_93 E))) (ax_sn_leaf (r_X3_sumOf_90 E))) (ax_sn_node (ax_sn_node (ax_sn_leaf (r_X3_sumOf_87 E)) (ax_sn_leaf (r_X3_sumOf_86 E))) (ax_sn_leaf (r_X3_sumOf_85 E)))) (ax_sn_node (ax_sn_node (ax_sn_node (ax_sn_leaf (r_X3_sumOf_82 E)) (ax_sn_leaf (r_X3_sumOf_79 E))) (ax_sn_leaf (r_X3_sumOf_78 E))) (ax_sn_node (ax_sn_node (ax_sn_leaf (r_X3_sumOf_75 E)) (ax_sn_leaf (r_X3_sumOf_74 E))) (ax_sn_leaf (r_X3_sumOf_73 E))))) (ax_sn_node (ax_sn_node (ax_sn_node (ax_sn_node (ax_sn_leaf (r_X3_sumOf_70 E)) (ax_sn_leaf (r_X3_sumOf_69 E))) (ax_sn_leaf (r_X3_sumOf_68 E))) (ax_sn_node (ax_sn_node (ax_sn_leaf (r_X3_sumOf_65 E)) (ax_sn_leaf (r_X3_sumOf_64 E))) (ax_sn_leaf (r_X3_sumOf_63 E)))) (ax_sn_node (ax_sn_node (ax_sn_node (ax_sn_leaf (r_X3_sumOf_62 E)) (ax_sn_leaf (r_X3_sumOf_61 E))) (ax_sn_leaf (r_X3_sumOf_60 E))) (ax_sn_node (ax_sn_node (ax_sn_leaf (r_X3_sumOf_57 E)) (ax_sn_leaf (r_X3_sumOf_54 E))) (ax_sn_leaf (r_X3_sumOf_53 E)))))) (ax_sn_node (ax_sn_node (ax_sn_node (ax_sn_node (ax_sn_node (ax_sn_leaf (r_X3_sumOf_50 E)) (ax_sn_leaf (r_X3_sumOf_47 E))) (ax_sn_leaf (r_X3_sumOf_46 E))) (ax_sn_node (ax_sn_node (ax_sn_leaf (r_X3_sumOf_43 E)) (ax_sn_leaf (r_X3_sumOf_40 E))) (ax_sn_leaf (r_X3_sumOf_39 E)))) (ax_sn_node (ax_sn_node (ax_sn_node (ax_sn_leaf (r_X3_sumOf_36 E)) (ax_sn_leaf (r_X3_sumOf_33 E))) (ax_sn_leaf (r_X3_sumOf_32 E))) (ax_sn_node (ax_sn_node (ax_sn_leaf (r_X3_sumOf_31 E)) (ax_sn_leaf (r_X3_sumOf_30 E))) (ax_sn_leaf (r_X3_sumOf_27 E))))) (ax_sn_node (ax_sn_node (ax_sn_node (ax_sn_node (ax_sn_leaf (r_X3_sumOf_24 E)) (ax_sn_leaf (r_X3_sumOf_23 E))) (ax_sn_leaf (r_X3_sumOf_20 E))) (ax_sn_node (ax_sn_node (ax_sn_leaf (r_X3_sumOf_17 E)) (ax_sn_leaf (r_X3_sumOf_16 E))) (ax_sn_leaf (r_X3_sumOf_13 E)))) (ax_sn_node (ax_sn_node (ax_sn_node (ax_sn_leaf (r_X3_sumOf_10 E)) (ax_sn_leaf (r_X3_sumOf_9 E))) (ax_sn_leaf (r_X3_sumOf_6 E))) (ax_sn_node (ax_sn_node (ax_sn_leaf (r_X3_sumOf_3 E)) (ax_sn_leaf (r_X3_sumOf_2 E))) (ax_sn_leaf (r_X3_sumOf_0 E))))))))⟩
theorem r_X3_added_0 (E : ax_EN G l) : ax_Snd G l ax_Ym M_X3_added 0 (S_push (.long (31)) 3) := k_ldc2 q3367 dX3_added_0
theorem r_X3_added_3 (E : ax_EN G l) : ax_Snd G l ax_Ym M_X3_added 3 (S_iload 0 4) := k_iload_n dX3_added_3 rfl
theorem r_X3_added_4 (E : ax_EN G l) : ax_Snd G l ax_Ym M_X3_added 4 (S_i2l 5) := k_i2l dX3_added_4
theorem r_X3_added_5 (E : ax_EN G l) : ax_Snd G l ax_Ym M_X3_added 5 (S_l2 (fun x y => x * y) 6) := k_lmul dX3_added_5
theorem r_X3_added_6 (E : ax_EN G l) : ax_Snd G l ax_Ym M_X3_added 6 (S_iload 1 7) := k_iload_n dX3_added_6 rfl
theorem r_X3_added_7 (E : ax_EN G l) : ax_Snd G l ax_Ym M_X3_added 7 (S_i2l 8) := k_i2l dX3_added_7
theorem r_X3_added_8 (E : ax_EN G l) : ax_Snd G l ax_Ym M_X3_added 8 (S_l2 (fun x y => x + y) 9) := k_ladd dX3_added_8
theorem r_X3_added_9 (E : ax_EN G l) : ax_Snd G l ax_Ym M_X3_added 9 (S_push (.long (1000003)) 12) := k_ldc2 q3368 dX3_added_9
theorem r_X3_added_12 (E : ax_EN G l) : ax_Snd G l ax_Ym M_X3_added 12 (S_ld (fun x y => x - x / y * y) 13) := k_lrem dX3_added_12
theorem r_X3_added_13 (E : ax_EN G l) : ax_Snd G l ax_Ym M_X3_added 13 (S_l2i 14) := k_l2i dX3_added_13
theorem r_X3_added_14 (E : ax_EN G l) : ax_Snd G l ax_Ym M_X3_added 14 (S_iret) := k_iret dX3_added_14 rfl
theorem mt_X3_added (E : ax_EN G l) : ax_mt G l ax_Ym (2, P_X3_added) (ax_Ym 471) := ⟨M_X3_added, yX3_added, ⟨rfl, by decide +kernel, rfl, (fun h => by cases h), Or.inl ⟨rfl, rfl⟩⟩, fun pc => (ax_sn_node (ax_sn_node (ax_sn_node (ax_sn_node (ax_sn_leaf (r_X3_added_14 E)) (ax_sn_leaf (r_X3_added_13 E))) (ax_sn_leaf (r_X3_added_12 E))) (ax_sn_node (ax_sn_node (ax_sn_leaf (r_X3_added_9 E)) (ax_sn_leaf (r_X3_added_8 E))) (ax_sn_leaf (r_X3_added_7 E)))) (ax_sn_node (ax_sn_node (ax_sn_node (ax_sn_leaf (r_X3_added_6 E)) (ax_sn_leaf (r_X3_added_5 E))) (ax_sn_leaf (r_X3_added_4 E))) (ax_sn_node (ax_sn_leaf (r_X3_added_3 E)) (ax_sn_leaf (r_X3_added_0 E)))))⟩
theorem r_X3_sumAnew_0 (E : ax_EN G l) : ax_Snd G l ax_Ym M_X3_sumAnew 0 (S_aload 0 1) := k_aload_n dX3_sumAnew_0 rfl
theorem r_X3_sumAnew_1 (E : ax_EN G l) : ax_Snd G l ax_Ym M_X3_sumAnew 1 (S_aload 0 2) := k_aload_n dX3_sumAnew_1 rfl
theorem r_X3_sumAnew_2 (E : ax_EN G l) : ax_Snd G l ax_Ym M_X3_sumAnew 2 (S_iv [(38, 405)] 0 5 hd_0) := k_iv (en_F E) (ax_ok0 E rfl) (ax_Evs_cons ((ev_v (en_c E (k := 38) rfl) rfl y_X3_isMachine q3108 q3110 qs75 q126 q3111 nm_X3_isMachine (Nat.le_of_ble_eq_true rfl) dX3_sumAnew_2) : ax_EvV G l ax_Ym M_X3_sumAnew 2 0 3 38 405) ax_Evs_nil)
theorem r_X3_sumAnew_5 (E : ax_EN G l) : ax_Snd G l ax_Ym M_X3_sumAnew 5 (S_if1 (fun x => decide (¬ x = 0)) 12 8) := k_if_ne dX3_sumAnew_5 rfl
theorem r_X3_sumAnew_8 (E : ax_EN G l) : ax_Snd G l ax_Ym M_X3_sumAnew 8 (S_push (.int (1)) 9) := k_iconst dX3_sumAnew_8 rfl
theorem r_X3_sumAnew_9 (E : ax_EN G l) : ax_Snd G l ax_Ym M_X3_sumAnew 9 (S_goto 29) := k_goto dX3_sumAnew_9 rfl
theorem r_X3_sumAnew_12 (E : ax_EN G l) : ax_Snd G l ax_Ym M_X3_sumAnew 12 (S_iload 1 13) := k_iload_n dX3_sumAnew_12 rfl
theorem r_X3_sumAnew_13 (E : ax_EN G l) : ax_Snd G l ax_Ym M_X3_sumAnew 13 (S_push (.int (0)) 14) := k_iconst dX3_sumAnew_13 rfl
theorem r_X3_sumAnew_14 (E : ax_EN G l) : ax_Snd G l ax_Ym M_X3_sumAnew 14 (S_aload 0 15) := k_aload_n dX3_sumAnew_14 rfl
theorem r_X3_sumAnew_15 (E : ax_EN G l) : ax_Snd G l ax_Ym M_X3_sumAnew 15 (S_getf [(38, 38)] 18) := k_getf (en_F E) (ax_fes_cons (fe_491 E) ax_fes_nil) q2791 dX3_sumAnew_15
theorem r_X3_sumAnew_18 (E : ax_EN G l) : ax_Snd G l ax_Ym M_X3_sumAnew 18 (S_is 376 3 21 hd_0) := k_is (en_F E) (ax_ok0 E rfl) ((ev_s y_X3_in q2992 q2993 q126 q2994 nm_X3_in (Nat.le_of_ble_eq_true rfl) dX3_sumAnew_18) : ax_EvS G l ax_Ym M_X3_sumAnew 18 376 3 3)
theorem r_X3_sumAnew_21 (E : ax_EN G l) : ax_Snd G l ax_Ym M_X3_sumAnew 21 (S_if1 (fun x => decide (x = 0)) 28 24) := k_if_eq dX3_sumAnew_21 rfl
theorem r_X3_sumAnew_24 (E : ax_EN G l) : ax_Snd G l ax_Ym M_X3_sumAnew 24 (S_push (.int (0)) 25) := k_iconst dX3_sumAnew_24 rfl
theorem r_X3_sumAnew_25 (E : ax_EN G l) : ax_Snd G l ax_Ym M_X3_sumAnew 25 (S_goto 29) := k_goto dX3_sumAnew_25 rfl
theorem r_X3_sumAnew_28 (E : ax_EN G l) : ax_Snd G l ax_Ym M_X3_sumAnew 28 (S_push (.int (2)) 29) := k_iconst dX3_sumAnew_28 rfl
theorem r_X3_sumAnew_29 (E : ax_EN G l) : ax_Snd G l ax_Ym M_X3_sumAnew 29 (S_iv [(38, 378)] 1 32 hd_0) := k_iv (en_F E) (ax_ok0 E rfl) (ax_Evs_cons ((ev_v (en_c E (k := 38) rfl) rfl y_X3_holds q2999 q3001 qs61 q126 q3002 nm_X3_holds (Nat.le_of_ble_eq_true rfl) dX3_sumAnew_29) : ax_EvV G l ax_Ym M_X3_sumAnew 29 1 3 38 378) ax_Evs_nil)
theorem r_X3_sumAnew_32 (E : ax_EN G l) : ax_Snd G l ax_Ym M_X3_sumAnew 32 (S_if1 (fun x => decide (¬ x = 0)) 37 35) := k_if_ne dX3_sumAnew_32 rfl
theorem r_X3_sumAnew_35 (E : ax_EN G l) : ax_Snd G l ax_Ym M_X3_sumAnew 35 (S_push (.int (0)) 36) := k_iconst dX3_sumAnew_35 rfl
theorem r_X3_sumAnew_36 (E : ax_EN G l) : ax_Snd G l ax_Ym M_X3_sumAnew 36 (S_iret) := k_iret dX3_sumAnew_36 rfl
theorem r_X3_sumAnew_37 (E : ax_EN G l) : ax_Snd G l ax_Ym M_X3_sumAnew 37 (S_aload 0 38) := k_aload_n dX3_sumAnew_37 rfl
theorem r_X3_sumAnew_38 (E : ax_EN G l) : ax_Snd G l ax_Ym M_X3_sumAnew 38 (S_getf [(38, 38)] 41) := k_getf (en_F E) (ax_fes_cons (fe_491 E) ax_fes_nil) q2791 dX3_sumAnew_38
theorem r_X3_sumAnew_41 (E : ax_EN G l) : ax_Snd G l ax_Ym M_X3_sumAnew 41 (S_istore 2 42) := k_istore_n dX3_sumAnew_41 rfl (Nat.le_of_ble_eq_true rfl)
theorem r_X3_sumAnew_42 (E : ax_EN G l) : ax_Snd G l ax_Ym M_X3_sumAnew 42 (S_aload 0 43) := k_aload_n dX3_sumAnew_42 rfl
theorem r_X3_sumAnew_43 (E : ax_EN G l) : ax_Snd G l ax_Ym M_X3_sumAnew 43 (S_iload 1 44) := k_iload_n dX3_sumAnew_43 rfl
theorem r_X3_sumAnew_44 (E : ax_EN G l) : ax_Snd G l ax_Ym M_X3_sumAnew 44 (S_iv [(38, 452)] 1 47 hd_0) := k_iv (en_F E) (ax_ok0 E rfl) (ax_Evs_cons ((ev_v (en_c E (k := 38) rfl) rfl y_X3_makesAnew q3289 q3291 qs109 q126 q3292 nm_X3_makesAnew (Nat.le_of_ble_eq_true rfl) dX3_sumAnew_44) : ax_EvV G l ax_Ym M_X3_sumAnew 44 1 3 38 452) ax_Evs_nil)
theorem r_X3_sumAnew_47 (E : ax_EN G l) : ax_Snd G l ax_Ym M_X3_sumAnew 47 (S_aload 0 48) := k_aload_n dX3_sumAnew_47 rfl
theorem r_X3_sumAnew_48 (E : ax_EN G l) : ax_Snd G l ax_Ym M_X3_sumAnew 48 (S_iv [(38, 470)] 0 51 hd_0) := k_iv (en_F E) (ax_ok0 E rfl) (ax_Evs_cons ((ev_v (en_c E (k := 38) rfl) rfl y_X3_sumOf q3360 q3362 qs111 q126 q3363 nm_X3_sumOf (Nat.le_of_ble_eq_true rfl) dX3_sumAnew_48) : ax_EvV G l ax_Ym M_X3_sumAnew 48 0 3 38 470) ax_Evs_nil)
theorem r_X3_sumAnew_51 (E : ax_EN G l) : ax_Snd G l ax_Ym M_X3_sumAnew 51 (S_istore 3 52) := k_istore_n dX3_sumAnew_51 rfl (Nat.le_of_ble_eq_true rfl)
theorem r_X3_sumAnew_52 (E : ax_EN G l) : ax_Snd G l ax_Ym M_X3_sumAnew 52 (S_aload 0 53) := k_aload_n dX3_sumAnew_52 rfl
theorem r_X3_sumAnew_53 (E : ax_EN G l) : ax_Snd G l ax_Ym M_X3_sumAnew 53 (S_iload 2 54) := k_iload_n dX3_sumAnew_53 rfl
theorem r_X3_sumAnew_54 (E : ax_EN G l) : ax_Snd G l ax_Ym M_X3_sumAnew 54 (S_iv [(38, 452)] 1 57 hd_0) := k_iv (en_F E) (ax_ok0 E rfl) (ax_Evs_cons ((ev_v (en_c E (k := 38) rfl) rfl y_X3_makesAnew q3289 q3291 qs109 q126 q3292 nm_X3_makesAnew (Nat.le_of_ble_eq_true rfl) dX3_sumAnew_54) : ax_EvV G l ax_Ym M_X3_sumAnew 54 1 3 38 452) ax_Evs_nil)
theorem r_X3_sumAnew_57 (E : ax_EN G l) : ax_Snd G l ax_Ym M_X3_sumAnew 57 (S_iload 3 58) := k_iload_n dX3_sumAnew_57 rfl
theorem r_X3_sumAnew_58 (E : ax_EN G l) : ax_Snd G l ax_Ym M_X3_sumAnew 58 (S_iret) := k_iret dX3_sumAnew_58 rfl
theorem mt_X3_sumAnew (E : ax_EN G l) : ax_mt G l ax_Ym (4, P_X3_sumAnew) (ax_Ym 472) := ⟨M_X3_sumAnew, yX3_sumAnew, ⟨rfl, by decide +kernel, rfl, (fun h => by cases h), Or.inl ⟨rfl, rfl⟩⟩, fun pc => (ax_sn_node (ax_sn_node (ax_sn_node (ax_sn_node (ax_sn_node (ax_sn_node (ax_sn_leaf (r_X3_sumAnew_58 E)) (ax_sn_leaf (r_X3_sumAnew_57 E))) (ax_sn_leaf (r_X3_sumAnew_54 E))) (ax_sn_node (ax_sn_leaf (r_X3_sumAnew_53 E)) (ax_sn_leaf (r_X3_sumAnew_52 E)))) (ax_sn_node (ax_sn_node (ax_sn_leaf (r_X3_sumAnew_51 E)) (ax_sn_leaf (r_X3_sumAnew_48 E))) (ax_sn_node (ax_sn_leaf (r_X3_sumAnew_47 E)) (ax_sn_leaf (r_X3_sumAnew_44 E))))) (ax_sn_node (ax_sn_node (ax_sn_node (ax_sn_leaf (r_X3_sumAnew_43 E)) (ax_sn_leaf (r_X3_sumAnew_42 E))) (ax_sn_node (ax_sn_leaf (r_X3_sumAnew_41 E)) (ax_sn_leaf (r_X3_sumAnew_38 E)))) (ax_sn_node (ax_sn_node (ax_sn_leaf (r_X3_sumAnew_37 E)) (ax_sn_leaf (r_X3_sumAnew_36 E))) (ax_sn_node (ax_sn_leaf (r_X3_sumAnew_35 E)) (ax_sn_leaf (r_X3_sumAnew_32 E)))))) (ax_sn_node (ax_sn_node (ax_sn_node (ax_sn_node (ax_sn_leaf (r_X3_sumAnew_29 E)) (ax_sn_leaf (r_X3_sumAnew_28 E))) (ax_sn_node (ax_sn_leaf (r_X3_sumAnew_25 E)) (ax_sn_leaf (r_X3_sumAnew_24 E)))) (ax_sn_node (ax_sn_node (ax_sn_leaf (r_X3_sumAnew_21 E)) (ax_sn_leaf (r_X3_sumAnew_18 E))) (ax_sn_node (ax_sn_leaf (r_X3_sumAnew_15 E)) (ax_sn_leaf (r_X3_sumAnew_14 E))))) (ax_sn_node (ax_sn_node (ax_sn_node (ax_sn_leaf (r_X3_sumAnew_13 E)) (ax_sn_leaf (r_X3_sumAnew_12 E))) (ax_sn_node (ax_sn_leaf (r_X3_sumAnew_9 E)) (ax_sn_leaf (r_X3_sumAnew_8 E)))) (ax_sn_node (ax_sn_node (ax_sn_leaf (r_X3_sumAnew_5 E)) (ax_sn_leaf (r_X3_sumAnew_2 E))) (ax_sn_node (ax_sn_leaf (r_X3_sumAnew_1 E)) (ax_sn_leaf (r_X3_sumAnew_0 E)))))))⟩
theorem r_X3_written_0 (E : ax_EN G l) : ax_Snd G l ax_Ym M_X3_written 0 (S_aload 0 1) := k_aload_n dX3_written_0 rfl
theorem r_X3_written_1 (E : ax_EN G l) : ax_Snd G l ax_Ym M_X3_written 1 (S_push (.int (0)) 2) := k_iconst dX3_written_1 rfl
theorem r_X3_written_2 (E : ax_EN G l) : ax_Snd G l ax_Ym M_X3_written 2 (S_putf [(38, 0)] (.int) 5) := k_putf (en_F E) (en_P E) (ax_fes_cons (fe_442 E) ax_fes_nil) (ax_fps_cons (fp_443 E) ax_fps_nil) q2753 dX3_written_2
theorem r_X3_written_5 (E : ax_EN G l) : ax_Snd G l ax_Ym M_X3_written 5 (S_aload 0 6) := k_aload_n dX3_written_5 rfl
theorem r_X3_written_6 (E : ax_EN G l) : ax_Snd G l ax_Ym M_X3_written 6 (S_getf [(38, 52)] 9) := k_getf (en_F E) (ax_fes_cons (fe_440 E) ax_fes_nil) q2805 dX3_written_6
theorem r_X3_written_9 (E : ax_EN G l) : ax_Snd G l ax_Ym M_X3_written 9 (S_iret) := k_iret dX3_written_9 rfl
theorem mt_X3_written (E : ax_EN G l) : ax_mt G l ax_Ym (1, P_X3_written) (ax_Ym 473) := ⟨M_X3_written, yX3_written, ⟨rfl, by decide +kernel, rfl, (fun h => by cases h), Or.inl ⟨rfl, rfl⟩⟩, fun pc => (ax_sn_node (ax_sn_node (ax_sn_node (ax_sn_leaf (r_X3_written_9 E)) (ax_sn_leaf (r_X3_written_6 E))) (ax_sn_leaf (r_X3_written_5 E))) (ax_sn_node (ax_sn_node (ax_sn_leaf (r_X3_written_2 E)) (ax_sn_leaf (r_X3_written_1 E))) (ax_sn_leaf (r_X3_written_0 E))))⟩
theorem r_X3_disk_0 (E : ax_EN G l) : ax_Snd G l ax_Ym M_X3_disk 0 (S_aload 0 1) := k_aload_n dX3_disk_0 rfl
theorem r_X3_disk_1 (E : ax_EN G l) : ax_Snd G l ax_Ym M_X3_disk 1 (S_iload 1 2) := k_iload_n dX3_disk_1 rfl
theorem r_X3_disk_2 (E : ax_EN G l) : ax_Snd G l ax_Ym M_X3_disk 2 (S_push (.int (0)) 3) := k_iconst dX3_disk_2 rfl
theorem r_X3_disk_3 (E : ax_EN G l) : ax_Snd G l ax_Ym M_X3_disk 3 (S_push (.int (31)) 5) := k_bipush dX3_disk_3 rfl
theorem r_X3_disk_5 (E : ax_EN G l) : ax_Snd G l ax_Ym M_X3_disk 5 (S_is 376 3 8 hd_0) := k_is (en_F E) (ax_ok0 E rfl) ((ev_s y_X3_in q2992 q2993 q126 q2994 nm_X3_in (Nat.le_of_ble_eq_true rfl) dX3_disk_5) : ax_EvS G l ax_Ym M_X3_disk 5 376 3 3)
theorem r_X3_disk_8 (E : ax_EN G l) : ax_Snd G l ax_Ym M_X3_disk 8 (S_if1 (fun x => decide (x = 0)) 25 11) := k_if_eq dX3_disk_8 rfl
theorem r_X3_disk_11 (E : ax_EN G l) : ax_Snd G l ax_Ym M_X3_disk 11 (S_iload 2 12) := k_iload_n dX3_disk_11 rfl
theorem r_X3_disk_12 (E : ax_EN G l) : ax_Snd G l ax_Ym M_X3_disk 12 (S_push (.int (0)) 13) := k_iconst dX3_disk_12 rfl
theorem r_X3_disk_13 (E : ax_EN G l) : ax_Snd G l ax_Ym M_X3_disk 13 (S_push (.int (7)) 15) := k_bipush dX3_disk_13 rfl
theorem r_X3_disk_15 (E : ax_EN G l) : ax_Snd G l ax_Ym M_X3_disk 15 (S_is 376 3 18 hd_0) := k_is (en_F E) (ax_ok0 E rfl) ((ev_s y_X3_in q2992 q2993 q126 q2994 nm_X3_in (Nat.le_of_ble_eq_true rfl) dX3_disk_15) : ax_EvS G l ax_Ym M_X3_disk 15 376 3 3)
theorem r_X3_disk_18 (E : ax_EN G l) : ax_Snd G l ax_Ym M_X3_disk 18 (S_if1 (fun x => decide (x = 0)) 25 21) := k_if_eq dX3_disk_18 rfl
theorem r_X3_disk_21 (E : ax_EN G l) : ax_Snd G l ax_Ym M_X3_disk 21 (S_push (.int (0)) 22) := k_iconst dX3_disk_21 rfl
theorem r_X3_disk_22 (E : ax_EN G l) : ax_Snd G l ax_Ym M_X3_disk 22 (S_goto 26) := k_goto dX3_disk_22 rfl
theorem r_X3_disk_25 (E : ax_EN G l) : ax_Snd G l ax_Ym M_X3_disk 25 (S_push (.int (1)) 26) := k_iconst dX3_disk_25 rfl
theorem r_X3_disk_26 (E : ax_EN G l) : ax_Snd G l ax_Ym M_X3_disk 26 (S_iv [(38, 378)] 1 29 hd_0) := k_iv (en_F E) (ax_ok0 E rfl) (ax_Evs_cons ((ev_v (en_c E (k := 38) rfl) rfl y_X3_holds q2999 q3001 qs61 q126 q3002 nm_X3_holds (Nat.le_of_ble_eq_true rfl) dX3_disk_26) : ax_EvV G l ax_Ym M_X3_disk 26 1 3 38 378) ax_Evs_nil)
theorem r_X3_disk_29 (E : ax_EN G l) : ax_Snd G l ax_Ym M_X3_disk 29 (S_if1 (fun x => decide (x = 0)) 46 32) := k_if_eq dX3_disk_29 rfl
theorem r_X3_disk_32 (E : ax_EN G l) : ax_Snd G l ax_Ym M_X3_disk 32 (S_aload 0 33) := k_aload_n dX3_disk_32 rfl
theorem r_X3_disk_33 (E : ax_EN G l) : ax_Snd G l ax_Ym M_X3_disk 33 (S_getf [(38, 50)] 36) := k_getf (en_F E) (ax_fes_cons (fe_402 E) ax_fes_nil) q2803 dX3_disk_33
theorem r_X3_disk_36 (E : ax_EN G l) : ax_Snd G l ax_Ym M_X3_disk 36 (S_push (.int (8)) 38) := k_bipush dX3_disk_36 rfl
theorem r_X3_disk_38 (E : ax_EN G l) : ax_Snd G l ax_Ym M_X3_disk 38 (S_iload 1 39) := k_iload_n dX3_disk_38 rfl
theorem r_X3_disk_39 (E : ax_EN G l) : ax_Snd G l ax_Ym M_X3_disk 39 (S_i2 (fun x y => x * y) 40) := k_imul dX3_disk_39
theorem r_X3_disk_40 (E : ax_EN G l) : ax_Snd G l ax_Ym M_X3_disk 40 (S_iload 2 41) := k_iload_n dX3_disk_40 rfl
theorem r_X3_disk_41 (E : ax_EN G l) : ax_Snd G l ax_Ym M_X3_disk 41 (S_i2 (fun x y => x + y) 42) := k_iadd dX3_disk_41
theorem r_X3_disk_42 (E : ax_EN G l) : ax_Snd G l ax_Ym M_X3_disk 42 (S_iald 0 43) := k_iald (en_F E) dX3_disk_42
theorem r_X3_disk_43 (E : ax_EN G l) : ax_Snd G l ax_Ym M_X3_disk 43 (S_goto 47) := k_goto dX3_disk_43 rfl
theorem r_X3_disk_46 (E : ax_EN G l) : ax_Snd G l ax_Ym M_X3_disk 46 (S_push (.int (0)) 47) := k_iconst dX3_disk_46 rfl
theorem r_X3_disk_47 (E : ax_EN G l) : ax_Snd G l ax_Ym M_X3_disk 47 (S_iret) := k_iret dX3_disk_47 rfl
theorem mt_X3_disk (E : ax_EN G l) : ax_mt G l ax_Ym (3, P_X3_disk) (ax_Ym 474) := ⟨M_X3_disk, yX3_disk, ⟨rfl, by decide +kernel, rfl, (fun h => by cases h), Or.inl ⟨rfl, rfl⟩⟩, fun pc => (ax_sn_node (ax_sn_node (ax_sn_node (ax_sn_node (ax_sn_node (ax_sn_leaf (r_X3_disk_47 E)) (ax_sn_leaf (r_X3_disk_46 E))) (ax_sn_node (ax_sn_leaf (r_X3_disk_43 E)) (ax_sn_leaf (r_X3_disk_42 E)))) (ax_sn_node (ax_sn_node (ax_sn_leaf (r_X3_disk_41 E)) (ax_sn_leaf (r_X3_disk_40 E))) (ax_sn_leaf (r_X3_disk_39 E)))) (ax_sn_node (ax_sn_node (ax_sn_node (ax_sn_leaf (r_X3_disk_38 E)) (ax_sn_leaf (r_X3_disk_36 E))) (ax_sn_node (ax_sn_leaf (r_X3_disk_33 E)) (ax_sn_leaf (r_X3_disk_32 E)))) (ax_sn_node (ax_sn_node (ax_sn_leaf (r_X3_disk_29 E)) (ax_sn_leaf (r_X3_disk_26 E))) (ax_sn_leaf (r_X3_disk_25 E))))) (ax_sn_node (ax_sn_node (ax_sn_node (ax_sn_node (ax_sn_leaf (r_X3_disk_22 E)) (ax_sn_leaf (r_X3_disk_21 E))) (ax_sn_node (ax_sn_leaf (r_X3_disk_18 E)) (ax_sn_leaf (r_X3_disk_15 E)))) (ax_sn_node (ax_sn_node (ax_sn_leaf (r_X3_disk_13 E)) (ax_sn_leaf (r_X3_disk_12 E))) (ax_sn_leaf (r_X3_disk_11 E)))) (ax_sn_node (ax_sn_node (ax_sn_node (ax_sn_leaf (r_X3_disk_8 E)) (ax_sn_leaf (r_X3_disk_5 E))) (ax_sn_leaf (r_X3_disk_3 E))) (ax_sn_node (ax_sn_node (ax_sn_leaf (r_X3_disk_2 E)) (ax_sn_leaf (r_X3_disk_1 E))) (ax_sn_leaf (r_X3_disk_0 E))))))⟩
theorem r_X3_files_0 (E : ax_EN G l) : ax_Snd G l ax_Ym M_X3_files 0 (S_aload 0 1) := k_aload_n dX3_files_0 rfl
theorem r_X3_files_1 (E : ax_EN G l) : ax_Snd G l ax_Ym M_X3_files 1 (S_push (.int (0)) 2) := k_iconst dX3_files_1 rfl
theorem r_X3_files_2 (E : ax_EN G l) : ax_Snd G l ax_Ym M_X3_files 2 (S_putf [(38, 0)] (.int) 5) := k_putf (en_F E) (en_P E) (ax_fes_cons (fe_442 E) ax_fes_nil) (ax_fps_cons (fp_443 E) ax_fps_nil) q2753 dX3_files_2
theorem r_X3_files_5 (E : ax_EN G l) : ax_Snd G l ax_Ym M_X3_files 5 (S_aload 0 6) := k_aload_n dX3_files_5 rfl
theorem r_X3_files_6 (E : ax_EN G l) : ax_Snd G l ax_Ym M_X3_files 6 (S_iv [(38, 414)] 0 9 hd_0) := k_iv (en_F E) (ax_ok0 E rfl) (ax_Evs_cons ((ev_v (en_c E (k := 38) rfl) rfl y_X3_filesOf q3143 q3145 qs81 q126 q3146 nm_X3_filesOf (Nat.le_of_ble_eq_true rfl) dX3_files_6) : ax_EvV G l ax_Ym M_X3_files 6 0 3 38 414) ax_Evs_nil)
theorem r_X3_files_9 (E : ax_EN G l) : ax_Snd G l ax_Ym M_X3_files 9 (S_iret) := k_iret dX3_files_9 rfl
theorem mt_X3_files (E : ax_EN G l) : ax_mt G l ax_Ym (1, P_X3_files) (ax_Ym 475) := ⟨M_X3_files, yX3_files, ⟨rfl, by decide +kernel, rfl, (fun h => by cases h), Or.inl ⟨rfl, rfl⟩⟩, fun pc => (ax_sn_node (ax_sn_node (ax_sn_node (ax_sn_leaf (r_X3_files_9 E)) (ax_sn_leaf (r_X3_files_6 E))) (ax_sn_leaf (r_X3_files_5 E))) (ax_sn_node (ax_sn_node (ax_sn_leaf (r_X3_files_2 E)) (ax_sn_leaf (r_X3_files_1 E))) (ax_sn_leaf (r_X3_files_0 E))))⟩
theorem r_X3_size_0 (E : ax_EN G l) : ax_Snd G l ax_Ym M_X3_size 0 (S_aload 0 1) := k_aload_n dX3_size_0 rfl
theorem r_X3_size_1 (E : ax_EN G l) : ax_Snd G l ax_Ym M_X3_size 1 (S_aload 0 2) := k_aload_n dX3_size_1 rfl
theorem r_X3_size_2 (E : ax_EN G l) : ax_Snd G l ax_Ym M_X3_size 2 (S_iload 1 3) := k_iload_n dX3_size_2 rfl
theorem r_X3_size_3 (E : ax_EN G l) : ax_Snd G l ax_Ym M_X3_size 3 (S_iv [(38, 477)] 1 6 hd_0) := k_iv (en_F E) (ax_ok0 E rfl) (ax_Evs_cons ((ev_v (en_c E (k := 38) rfl) rfl y_X3_errorOfName q3389 q3391 qs112 q126 q3392 nm_X3_errorOfName (Nat.le_of_ble_eq_true rfl) dX3_size_3) : ax_EvV G l ax_Ym M_X3_size 3 1 3 38 477) ax_Evs_nil)
theorem r_X3_size_6 (E : ax_EN G l) : ax_Snd G l ax_Ym M_X3_size 6 (S_iv [(38, 378)] 1 9 hd_0) := k_iv (en_F E) (ax_ok0 E rfl) (ax_Evs_cons ((ev_v (en_c E (k := 38) rfl) rfl y_X3_holds q2999 q3001 qs61 q126 q3002 nm_X3_holds (Nat.le_of_ble_eq_true rfl) dX3_size_6) : ax_EvV G l ax_Ym M_X3_size 6 1 3 38 378) ax_Evs_nil)
theorem r_X3_size_9 (E : ax_EN G l) : ax_Snd G l ax_Ym M_X3_size 9 (S_if1 (fun x => decide (x = 0)) 33 12) := k_if_eq dX3_size_9 rfl
theorem r_X3_size_12 (E : ax_EN G l) : ax_Snd G l ax_Ym M_X3_size 12 (S_aload 0 13) := k_aload_n dX3_size_12 rfl
theorem r_X3_size_13 (E : ax_EN G l) : ax_Snd G l ax_Ym M_X3_size 13 (S_getf [(38, 50)] 16) := k_getf (en_F E) (ax_fes_cons (fe_402 E) ax_fes_nil) q2803 dX3_size_13
theorem r_X3_size_16 (E : ax_EN G l) : ax_Snd G l ax_Ym M_X3_size 16 (S_aload 0 17) := k_aload_n dX3_size_16 rfl
theorem r_X3_size_17 (E : ax_EN G l) : ax_Snd G l ax_Ym M_X3_size 17 (S_getf [(38, 50)] 20) := k_getf (en_F E) (ax_fes_cons (fe_402 E) ax_fes_nil) q2803 dX3_size_17
theorem r_X3_size_20 (E : ax_EN G l) : ax_Snd G l ax_Ym M_X3_size 20 (S_iload 1 21) := k_iload_n dX3_size_20 rfl
theorem r_X3_size_21 (E : ax_EN G l) : ax_Snd G l ax_Ym M_X3_size 21 (S_is 435 2 24 hd_0) := k_is (en_F E) (ax_ok0 E rfl) ((ev_s y_X3_find q3225 q3226 q126 q3227 nm_X3_find (Nat.le_of_ble_eq_true rfl) dX3_size_21) : ax_EvS G l ax_Ym M_X3_size 21 435 2 3)
theorem r_X3_size_24 (E : ax_EN G l) : ax_Snd G l ax_Ym M_X3_size 24 (S_is 415 1 27 hd_0) := k_is (en_F E) (ax_ok0 E rfl) ((ev_s y_X3_entry q3147 q3148 q126 q3149 nm_X3_entry (Nat.le_of_ble_eq_true rfl) dX3_size_24) : ax_EvS G l ax_Ym M_X3_size 24 415 1 3)
theorem r_X3_size_27 (E : ax_EN G l) : ax_Snd G l ax_Ym M_X3_size 27 (S_push (.int (1)) 28) := k_iconst dX3_size_27 rfl
theorem r_X3_size_28 (E : ax_EN G l) : ax_Snd G l ax_Ym M_X3_size 28 (S_i2 (fun x y => x + y) 29) := k_iadd dX3_size_28
theorem r_X3_size_29 (E : ax_EN G l) : ax_Snd G l ax_Ym M_X3_size 29 (S_iald 0 30) := k_iald (en_F E) dX3_size_29
theorem r_X3_size_30 (E : ax_EN G l) : ax_Snd G l ax_Ym M_X3_size 30 (S_goto 34) := k_goto dX3_size_30 rfl
theorem r_X3_size_33 (E : ax_EN G l) : ax_Snd G l ax_Ym M_X3_size 33 (S_push (.int (0)) 34) := k_iconst dX3_size_33 rfl
theorem r_X3_size_34 (E : ax_EN G l) : ax_Snd G l ax_Ym M_X3_size 34 (S_iret) := k_iret dX3_size_34 rfl
theorem mt_X3_size (E : ax_EN G l) : ax_mt G l ax_Ym (2, P_X3_size) (ax_Ym 476) := ⟨M_X3_size, yX3_size, ⟨rfl, by decide +kernel, rfl, (fun h => by cases h), Or.inl ⟨rfl, rfl⟩⟩, fun pc => (ax_sn_node (ax_sn_node (ax_sn_node (ax_sn_node (ax_sn_node (ax_sn_leaf (r_X3_size_34 E)) (ax_sn_leaf (r_X3_size_33 E))) (ax_sn_leaf (r_X3_size_30 E))) (ax_sn_node (ax_sn_leaf (r_X3_size_29 E)) (ax_sn_leaf (r_X3_size_28 E)))) (ax_sn_node (ax_sn_node (ax_sn_node (ax_sn_leaf (r_X3_size_27 E)) (ax_sn_leaf (r_X3_size_24 E))) (ax_sn_leaf (r_X3_size_21 E))) (ax_sn_node (ax_sn_leaf (r_X3_size_20 E)) (ax_sn_leaf (r_X3_size_17 E))))) (ax_sn_node (ax_sn_node (ax_sn_node (ax_sn_node (ax_sn_leaf (r_X3_size_16 E)) (ax_sn_leaf (r_X3_size_13 E))) (ax_sn_leaf (r_X3_size_12 E))) (ax_sn_node (ax_sn_leaf (r_X3_size_9 E)) (ax_sn_leaf (r_X3_size_6 E)))) (ax_sn_node (ax_sn_node (ax_sn_leaf (r_X3_size_3 E)) (ax_sn_leaf (r_X3_size_2 E))) (ax_sn_node (ax_sn_leaf (r_X3_size_1 E)) (ax_sn_leaf (r_X3_size_0 E))))))⟩
theorem r_X3_errorOfName_0 (E : ax_EN G l) : ax_Snd G l ax_Ym M_X3_errorOfName 0 (S_iload 1 1) := k_iload_n dX3_errorOfName_0 rfl
theorem r_X3_errorOfName_1 (E : ax_EN G l) : ax_Snd G l ax_Ym M_X3_errorOfName 1 (S_push (.int (1)) 2) := k_iconst dX3_errorOfName_1 rfl
theorem r_X3_errorOfName_2 (E : ax_EN G l) : ax_Snd G l ax_Ym M_X3_errorOfName 2 (S_push (.int (65535)) 4) := k_ldc q3014 dX3_errorOfName_2
theorem r_X3_errorOfName_4 (E : ax_EN G l) : ax_Snd G l ax_Ym M_X3_errorOfName 4 (S_is 376 3 7 hd_0) := k_is (en_F E) (ax_ok0 E rfl) ((ev_s y_X3_in q2992 q2993 q126 q2994 nm_X3_in (Nat.le_of_ble_eq_true rfl) dX3_errorOfName_4) : ax_EvS G l ax_Ym M_X3_errorOfName 4 376 3 3)
theorem r_X3_errorOfName_7 (E : ax_EN G l) : ax_Snd G l ax_Ym M_X3_errorOfName 7 (S_if1 (fun x => decide (¬ x = 0)) 14 10) := k_if_ne dX3_errorOfName_7 rfl
theorem r_X3_errorOfName_10 (E : ax_EN G l) : ax_Snd G l ax_Ym M_X3_errorOfName 10 (S_push (.int (1)) 11) := k_iconst dX3_errorOfName_10 rfl
theorem r_X3_errorOfName_11 (E : ax_EN G l) : ax_Snd G l ax_Ym M_X3_errorOfName 11 (S_goto 31) := k_goto dX3_errorOfName_11 rfl
theorem r_X3_errorOfName_14 (E : ax_EN G l) : ax_Snd G l ax_Ym M_X3_errorOfName 14 (S_aload 0 15) := k_aload_n dX3_errorOfName_14 rfl
theorem r_X3_errorOfName_15 (E : ax_EN G l) : ax_Snd G l ax_Ym M_X3_errorOfName 15 (S_getf [(38, 50)] 18) := k_getf (en_F E) (ax_fes_cons (fe_402 E) ax_fes_nil) q2803 dX3_errorOfName_15
theorem r_X3_errorOfName_18 (E : ax_EN G l) : ax_Snd G l ax_Ym M_X3_errorOfName 18 (S_iload 1 19) := k_iload_n dX3_errorOfName_18 rfl
theorem r_X3_errorOfName_19 (E : ax_EN G l) : ax_Snd G l ax_Ym M_X3_errorOfName 19 (S_is 435 2 22 hd_0) := k_is (en_F E) (ax_ok0 E rfl) ((ev_s y_X3_find q3225 q3226 q126 q3227 nm_X3_find (Nat.le_of_ble_eq_true rfl) dX3_errorOfName_19) : ax_EvS G l ax_Ym M_X3_errorOfName 19 435 2 3)
theorem r_X3_errorOfName_22 (E : ax_EN G l) : ax_Snd G l ax_Ym M_X3_errorOfName 22 (S_push (.int (-1)) 23) := k_iconst dX3_errorOfName_22 rfl
theorem r_X3_errorOfName_23 (E : ax_EN G l) : ax_Snd G l ax_Ym M_X3_errorOfName 23 (S_if2 (fun x y => decide (¬ x = y)) 30 26) := k_icmp_ne dX3_errorOfName_23 rfl
theorem r_X3_errorOfName_26 (E : ax_EN G l) : ax_Snd G l ax_Ym M_X3_errorOfName 26 (S_push (.int (2)) 27) := k_iconst dX3_errorOfName_26 rfl
theorem r_X3_errorOfName_27 (E : ax_EN G l) : ax_Snd G l ax_Ym M_X3_errorOfName 27 (S_goto 31) := k_goto dX3_errorOfName_27 rfl
theorem r_X3_errorOfName_30 (E : ax_EN G l) : ax_Snd G l ax_Ym M_X3_errorOfName 30 (S_push (.int (0)) 31) := k_iconst dX3_errorOfName_30 rfl
theorem r_X3_errorOfName_31 (E : ax_EN G l) : ax_Snd G l ax_Ym M_X3_errorOfName 31 (S_iret) := k_iret dX3_errorOfName_31 rfl
theorem mt_X3_errorOfName (E : ax_EN G l) : ax_mt G l ax_Ym (2, P_X3_errorOfName) (ax_Ym 477) := ⟨M_X3_errorOfName, yX3_errorOfName, ⟨rfl, by decide +kernel, rfl, (fun h => by cases h), Or.inl ⟨rfl, rfl⟩⟩, fun pc => (ax_sn_node (ax_sn_node (ax_sn_node (ax_sn_node (ax_sn_node (ax_sn_leaf (r_X3_errorOfName_31 E)) (ax_sn_leaf (r_X3_errorOfName_30 E))) (ax_sn_leaf (r_X3_errorOfName_27 E))) (ax_sn_node (ax_sn_leaf (r_X3_errorOfName_26 E)) (ax_sn_leaf (r_X3_errorOfName_23 E)))) (ax_sn_node (ax_sn_node (ax_sn_leaf (r_X3_errorOfName_22 E)) (ax_sn_leaf (r_X3_errorOfName_19 E))) (ax_sn_node (ax_sn_leaf (r_X3_errorOfName_18 E)) (ax_sn_leaf (r_X3_errorOfName_15 E))))) (ax_sn_node (ax_sn_node (ax_sn_node (ax_sn_leaf (r_X3_errorOfName_14 E)) (ax_sn_leaf (r_X3_errorOfName_11 E))) (ax_sn_node (ax_sn_leaf (r_X3_errorOfName_10 E)) (ax_sn_leaf (r_X3_errorOfName_7 E)))) (ax_sn_node (ax_sn_node (ax_sn_leaf (r_X3_errorOfName_4 E)) (ax_sn_leaf (r_X3_errorOfName_2 E))) (ax_sn_node (ax_sn_leaf (r_X3_errorOfName_1 E)) (ax_sn_leaf (r_X3_errorOfName_0 E))))))⟩
theorem r_X3_wordOf_0 (E : ax_EN G l) : ax_Snd G l ax_Ym M_X3_wordOf 0 (S_aload 0 1) := k_aload_n dX3_wordOf_0 rfl
theorem r_X3_wordOf_1 (E : ax_EN G l) : ax_Snd G l ax_Ym M_X3_wordOf 1 (S_iload 1 2) := k_iload_n dX3_wordOf_1 rfl
theorem r_X3_wordOf_2 (E : ax_EN G l) : ax_Snd G l ax_Ym M_X3_wordOf 2 (S_iv [(38, 477)] 1 5 hd_0) := k_iv (en_F E) (ax_ok0 E rfl) (ax_Evs_cons ((ev_v (en_c E (k := 38) rfl) rfl y_X3_errorOfName q3389 q3391 qs112 q126 q3392 nm_X3_errorOfName (Nat.le_of_ble_eq_true rfl) dX3_wordOf_2) : ax_EvV G l ax_Ym M_X3_wordOf 2 1 3 38 477) ax_Evs_nil)
theorem r_X3_wordOf_5 (E : ax_EN G l) : ax_Snd G l ax_Ym M_X3_wordOf 5 (S_istore 3 6) := k_istore_n dX3_wordOf_5 rfl (Nat.le_of_ble_eq_true rfl)
theorem r_X3_wordOf_6 (E : ax_EN G l) : ax_Snd G l ax_Ym M_X3_wordOf 6 (S_aload 0 7) := k_aload_n dX3_wordOf_6 rfl
theorem r_X3_wordOf_7 (E : ax_EN G l) : ax_Snd G l ax_Ym M_X3_wordOf 7 (S_getf [(38, 50)] 10) := k_getf (en_F E) (ax_fes_cons (fe_402 E) ax_fes_nil) q2803 dX3_wordOf_7
theorem r_X3_wordOf_10 (E : ax_EN G l) : ax_Snd G l ax_Ym M_X3_wordOf 10 (S_iload 1 11) := k_iload_n dX3_wordOf_10 rfl
theorem r_X3_wordOf_11 (E : ax_EN G l) : ax_Snd G l ax_Ym M_X3_wordOf 11 (S_is 435 2 14 hd_0) := k_is (en_F E) (ax_ok0 E rfl) ((ev_s y_X3_find q3225 q3226 q126 q3227 nm_X3_find (Nat.le_of_ble_eq_true rfl) dX3_wordOf_11) : ax_EvS G l ax_Ym M_X3_wordOf 11 435 2 3)
theorem r_X3_wordOf_14 (E : ax_EN G l) : ax_Snd G l ax_Ym M_X3_wordOf 14 (S_istore 4 16) := k_istore dX3_wordOf_14 (Nat.le_of_ble_eq_true rfl)
theorem r_X3_wordOf_16 (E : ax_EN G l) : ax_Snd G l ax_Ym M_X3_wordOf 16 (S_aload 0 17) := k_aload_n dX3_wordOf_16 rfl
theorem r_X3_wordOf_17 (E : ax_EN G l) : ax_Snd G l ax_Ym M_X3_wordOf 17 (S_iload 3 18) := k_iload_n dX3_wordOf_17 rfl
theorem r_X3_wordOf_18 (E : ax_EN G l) : ax_Snd G l ax_Ym M_X3_wordOf 18 (S_if1 (fun x => decide (x = 0)) 25 21) := k_if_eq dX3_wordOf_18 rfl
theorem r_X3_wordOf_21 (E : ax_EN G l) : ax_Snd G l ax_Ym M_X3_wordOf 21 (S_iload 3 22) := k_iload_n dX3_wordOf_21 rfl
theorem r_X3_wordOf_22 (E : ax_EN G l) : ax_Snd G l ax_Ym M_X3_wordOf 22 (S_goto 52) := k_goto dX3_wordOf_22 rfl
theorem r_X3_wordOf_25 (E : ax_EN G l) : ax_Snd G l ax_Ym M_X3_wordOf 25 (S_iload 2 26) := k_iload_n dX3_wordOf_25 rfl
theorem r_X3_wordOf_26 (E : ax_EN G l) : ax_Snd G l ax_Ym M_X3_wordOf 26 (S_push (.int (0)) 27) := k_iconst dX3_wordOf_26 rfl
theorem r_X3_wordOf_27 (E : ax_EN G l) : ax_Snd G l ax_Ym M_X3_wordOf 27 (S_aload 0 28) := k_aload_n dX3_wordOf_27 rfl
theorem r_X3_wordOf_28 (E : ax_EN G l) : ax_Snd G l ax_Ym M_X3_wordOf 28 (S_getf [(38, 50)] 31) := k_getf (en_F E) (ax_fes_cons (fe_402 E) ax_fes_nil) q2803 dX3_wordOf_28
theorem r_X3_wordOf_31 (E : ax_EN G l) : ax_Snd G l ax_Ym M_X3_wordOf 31 (S_iload 4 33) := k_iload dX3_wordOf_31
theorem r_X3_wordOf_33 (E : ax_EN G l) : ax_Snd G l ax_Ym M_X3_wordOf 33 (S_is 415 1 36 hd_0) := k_is (en_F E) (ax_ok0 E rfl) ((ev_s y_X3_entry q3147 q3148 q126 q3149 nm_X3_entry (Nat.le_of_ble_eq_true rfl) dX3_wordOf_33) : ax_EvS G l ax_Ym M_X3_wordOf 33 415 1 3)
theorem r_X3_wordOf_36 (E : ax_EN G l) : ax_Snd G l ax_Ym M_X3_wordOf 36 (S_push (.int (1)) 37) := k_iconst dX3_wordOf_36 rfl
theorem r_X3_wordOf_37 (E : ax_EN G l) : ax_Snd G l ax_Ym M_X3_wordOf 37 (S_i2 (fun x y => x + y) 38) := k_iadd dX3_wordOf_37
theorem r_X3_wordOf_38 (E : ax_EN G l) : ax_Snd G l ax_Ym M_X3_wordOf 38 (S_iald 0 39) := k_iald (en_F E) dX3_wordOf_38
theorem r_X3_wordOf_39 (E : ax_EN G l) : ax_Snd G l ax_Ym M_X3_wordOf 39 (S_push (.int (1)) 40) := k_iconst dX3_wordOf_39 rfl
theorem r_X3_wordOf_40 (E : ax_EN G l) : ax_Snd G l ax_Ym M_X3_wordOf 40 (S_i2 (fun x y => x - y) 41) := k_isub dX3_wordOf_40
theorem r_X3_wordOf_41 (E : ax_EN G l) : ax_Snd G l ax_Ym M_X3_wordOf 41 (S_is 376 3 44 hd_0) := k_is (en_F E) (ax_ok0 E rfl) ((ev_s y_X3_in q2992 q2993 q126 q2994 nm_X3_in (Nat.le_of_ble_eq_true rfl) dX3_wordOf_41) : ax_EvS G l ax_Ym M_X3_wordOf 41 376 3 3)
theorem r_X3_wordOf_44 (E : ax_EN G l) : ax_Snd G l ax_Ym M_X3_wordOf 44 (S_if1 (fun x => decide (x = 0)) 51 47) := k_if_eq dX3_wordOf_44 rfl
theorem r_X3_wordOf_47 (E : ax_EN G l) : ax_Snd G l ax_Ym M_X3_wordOf 47 (S_push (.int (0)) 48) := k_iconst dX3_wordOf_47 rfl
theorem r_X3_wordOf_48 (E : ax_EN G l) : ax_Snd G l ax_Ym M_X3_wordOf 48 (S_goto 52) := k_goto dX3_wordOf_48 rfl
theorem r_X3_wordOf_51 (E : ax_EN G l) : ax_Snd G l ax_Ym M_X3_wordOf 51 (S_push (.int (3)) 52) := k_iconst dX3_wordOf_51 rfl
theorem r_X3_wordOf_52 (E : ax_EN G l) : ax_Snd G l ax_Ym M_X3_wordOf 52 (S_iv [(38, 378)] 1 55 hd_0) := k_iv (en_F E) (ax_ok0 E rfl) (ax_Evs_cons ((ev_v (en_c E (k := 38) rfl) rfl y_X3_holds q2999 q3001 qs61 q126 q3002 nm_X3_holds (Nat.le_of_ble_eq_true rfl) dX3_wordOf_52) : ax_EvV G l ax_Ym M_X3_wordOf 52 1 3 38 378) ax_Evs_nil)
theorem r_X3_wordOf_55 (E : ax_EN G l) : ax_Snd G l ax_Ym M_X3_wordOf 55 (S_if1 (fun x => decide (¬ x = 0)) 60 58) := k_if_ne dX3_wordOf_55 rfl
theorem r_X3_wordOf_58 (E : ax_EN G l) : ax_Snd G l ax_Ym M_X3_wordOf 58 (S_push (.int (0)) 59) := k_iconst dX3_wordOf_58 rfl
theorem r_X3_wordOf_59 (E : ax_EN G l) : ax_Snd G l ax_Ym M_X3_wordOf 59 (S_iret) := k_iret dX3_wordOf_59 rfl
theorem r_X3_wordOf_60 (E : ax_EN G l) : ax_Snd G l ax_Ym M_X3_wordOf 60 (S_aload 0 61) := k_aload_n dX3_wordOf_60 rfl
theorem r_X3_wordOf_61 (E : ax_EN G l) : ax_Snd G l ax_Ym M_X3_wordOf 61 (S_getf [(38, 50)] 64) := k_getf (en_F E) (ax_fes_cons (fe_402 E) ax_fes_nil) q2803 dX3_wordOf_61
theorem r_X3_wordOf_64 (E : ax_EN G l) : ax_Snd G l ax_Ym M_X3_wordOf 64 (S_push (.int (8)) 66) := k_bipush dX3_wordOf_64 rfl
theorem r_X3_wordOf_66 (E : ax_EN G l) : ax_Snd G l ax_Ym M_X3_wordOf 66 (S_aload 0 67) := k_aload_n dX3_wordOf_66 rfl
theorem r_X3_wordOf_67 (E : ax_EN G l) : ax_Snd G l ax_Ym M_X3_wordOf 67 (S_aload 0 68) := k_aload_n dX3_wordOf_67 rfl
theorem r_X3_wordOf_68 (E : ax_EN G l) : ax_Snd G l ax_Ym M_X3_wordOf 68 (S_getf [(38, 50)] 71) := k_getf (en_F E) (ax_fes_cons (fe_402 E) ax_fes_nil) q2803 dX3_wordOf_68
theorem r_X3_wordOf_71 (E : ax_EN G l) : ax_Snd G l ax_Ym M_X3_wordOf 71 (S_iload 4 73) := k_iload dX3_wordOf_71
theorem r_X3_wordOf_73 (E : ax_EN G l) : ax_Snd G l ax_Ym M_X3_wordOf 73 (S_iload 2 74) := k_iload_n dX3_wordOf_73 rfl
theorem r_X3_wordOf_74 (E : ax_EN G l) : ax_Snd G l ax_Ym M_X3_wordOf 74 (S_iv [(38, 439)] 3 77 hd_0) := k_iv (en_F E) (ax_ok0 E rfl) (ax_Evs_cons ((ev_v (en_c E (k := 38) rfl) rfl y_X3_blockOf q3239 q3241 qs100 q126 q3242 nm_X3_blockOf (Nat.le_of_ble_eq_true rfl) dX3_wordOf_74) : ax_EvV G l ax_Ym M_X3_wordOf 74 3 3 38 439) ax_Evs_nil)
theorem r_X3_wordOf_77 (E : ax_EN G l) : ax_Snd G l ax_Ym M_X3_wordOf 77 (S_i2 (fun x y => x * y) 78) := k_imul dX3_wordOf_77
theorem r_X3_wordOf_78 (E : ax_EN G l) : ax_Snd G l ax_Ym M_X3_wordOf 78 (S_iload 2 79) := k_iload_n dX3_wordOf_78 rfl
theorem r_X3_wordOf_79 (E : ax_EN G l) : ax_Snd G l ax_Ym M_X3_wordOf 79 (S_push (.int (8)) 81) := k_bipush dX3_wordOf_79 rfl
theorem r_X3_wordOf_81 (E : ax_EN G l) : ax_Snd G l ax_Ym M_X3_wordOf 81 (S_id (fun x y => x - x / y * y) 82) := k_irem dX3_wordOf_81
theorem r_X3_wordOf_82 (E : ax_EN G l) : ax_Snd G l ax_Ym M_X3_wordOf 82 (S_i2 (fun x y => x + y) 83) := k_iadd dX3_wordOf_82
theorem r_X3_wordOf_83 (E : ax_EN G l) : ax_Snd G l ax_Ym M_X3_wordOf 83 (S_iald 0 84) := k_iald (en_F E) dX3_wordOf_83
theorem r_X3_wordOf_84 (E : ax_EN G l) : ax_Snd G l ax_Ym M_X3_wordOf 84 (S_iret) := k_iret dX3_wordOf_84 rfl
theorem mt_X3_wordOf (E : ax_EN G l) : ax_mt G l ax_Ym (5, P_X3_wordOf) (ax_Ym 478) := ⟨M_X3_wordOf, yX3_wordOf, ⟨rfl, by decide +kernel, rfl, (fun h => by cases h), Or.inl ⟨rfl, rfl⟩⟩, fun pc => (ax_sn_node (ax_sn_node (ax_sn_node (ax_sn_node (ax_sn_node (ax_sn_node (ax_sn_leaf (r_X3_wordOf_84 E)) (ax_sn_leaf (r_X3_wordOf_83 E))) (ax_sn_node (ax_sn_leaf (r_X3_wordOf_82 E)) (ax_sn_leaf (r_X3_wordOf_81 E)))) (ax_sn_node (ax_sn_node (ax_sn_leaf (r_X3_wordOf_79 E)) (ax_sn_leaf (r_X3_wordOf_78 E))) (ax_sn_leaf (r_X3_wordOf_77 E)))) (ax_sn_node (ax_sn_node (ax_sn_node (ax_sn_leaf (r_X3_wordOf_74 E)) (ax_sn_leaf (r_X3_wordOf_73 E))) (ax_sn_leaf (r_X3_wordOf_71 E))) (ax_sn_node (ax_sn_node (ax_sn_leaf (r_X3_wordOf_68 E)) (ax_sn_leaf (r_X3_wordOf_67 E))) (ax_sn_leaf (r_X3_wordOf_66 E))))) (ax_sn_node (ax_sn_node (ax_sn_node (ax_sn_node (ax_sn_leaf (r_X3_wordOf_64 E)) (ax_sn_leaf (r_X3_wordOf_61 E))) (ax_sn_leaf (r_X3_wordOf_60 E))) (ax_sn_node (ax_sn_node (ax_sn_leaf (r_X3_wordOf_59 E)) (ax_sn_leaf (r_X3_wordOf_58 E))) (ax_sn_leaf (r_X3_wordOf_55 E)))) (ax_sn_node (ax_sn_node (ax_sn_node (ax_sn_leaf (r_X3_wordOf_52 E)) (ax_sn_leaf (r_X3_wordOf_51 E))) (ax_sn_leaf (r_X3_wordOf_48 E))) (ax_sn_node (ax_sn_node (ax_sn_leaf (r_X3_wordOf_47 E)) (ax_sn_leaf (r_X3_wordOf_44 E))) (ax_sn_leaf (r_X3_wordOf_41 E)))))) (ax_sn_node (ax_sn_node (ax_sn_node (ax_sn_node (ax_sn_node (ax_sn_leaf (r_X3_wordOf_40 E)) (ax_sn_leaf (r_X3_wordOf_39 E))) (ax_sn_node (ax_sn_leaf (r_X3_wordOf_38 E)) (ax_sn_leaf (r_X3_wordOf_37 E)))) (ax_sn_node (ax_sn_node (ax_sn_leaf (r_X3_wordOf_36 E)) (ax_sn_leaf (r_X3_wordOf_33 E))) (ax_sn_leaf (r_X3_wordOf_31 E)))) (ax_sn_node (ax_sn_node (ax_sn_node (ax_sn_leaf (r_X3_wordOf_28 E)) (ax_sn_leaf (r_X3_wordOf_27 E))) (ax_sn_leaf (r_X3_wordOf_26 E))) (ax_sn_node (ax_sn_node (ax_sn_leaf (r_X3_wordOf_25 E)) (ax_sn_leaf (r_X3_wordOf_22 E))) (ax_sn_leaf (r_X3_wordOf_21 E))))) (ax_sn_node (ax_sn_node (ax_sn_node (ax_sn_node (ax_sn_leaf (r_X3_wordOf_18 E)) (ax_sn_leaf (r_X3_wordOf_17 E))) (ax_sn_leaf (r_X3_wordOf_16 E))) (ax_sn_node (ax_sn_node (ax_sn_leaf (r_X3_wordOf_14 E)) (ax_sn_leaf (r_X3_wordOf_11 E))) (ax_sn_leaf (r_X3_wordOf_10 E)))) (ax_sn_node (ax_sn_node (ax_sn_node (ax_sn_leaf (r_X3_wordOf_7 E)) (ax_sn_leaf (r_X3_wordOf_6 E))) (ax_sn_leaf (r_X3_wordOf_5 E))) (ax_sn_node (ax_sn_node (ax_sn_leaf (r_X3_wordOf_2 E)) (ax_sn_leaf (r_X3_wordOf_1 E))) (ax_sn_leaf (r_X3_wordOf_0 E)))))))⟩
theorem r_X3_freeBlocks_0 (E : ax_EN G l) : ax_Snd G l ax_Ym M_X3_freeBlocks 0 (S_aload 0 1) := k_aload_n dX3_freeBlocks_0 rfl
theorem r_X3_freeBlocks_1 (E : ax_EN G l) : ax_Snd G l ax_Ym M_X3_freeBlocks 1 (S_push (.int (0)) 2) := k_iconst dX3_freeBlocks_1 rfl
theorem r_X3_freeBlocks_2 (E : ax_EN G l) : ax_Snd G l ax_Ym M_X3_freeBlocks 2 (S_putf [(38, 0)] (.int) 5) := k_putf (en_F E) (en_P E) (ax_fes_cons (fe_442 E) ax_fes_nil) (ax_fps_cons (fp_443 E) ax_fps_nil) q2753 dX3_freeBlocks_2
theorem r_X3_freeBlocks_5 (E : ax_EN G l) : ax_Snd G l ax_Ym M_X3_freeBlocks 5 (S_push (.int (0)) 6) := k_iconst dX3_freeBlocks_5 rfl
theorem r_X3_freeBlocks_6 (E : ax_EN G l) : ax_Snd G l ax_Ym M_X3_freeBlocks 6 (S_istore 1 7) := k_istore_n dX3_freeBlocks_6 rfl (Nat.le_of_ble_eq_true rfl)
theorem r_X3_freeBlocks_7 (E : ax_EN G l) : ax_Snd G l ax_Ym M_X3_freeBlocks 7 (S_push (.int (8)) 9) := k_bipush dX3_freeBlocks_7 rfl
theorem r_X3_freeBlocks_9 (E : ax_EN G l) : ax_Snd G l ax_Ym M_X3_freeBlocks 9 (S_istore 2 10) := k_istore_n dX3_freeBlocks_9 rfl (Nat.le_of_ble_eq_true rfl)
theorem r_X3_freeBlocks_10 (E : ax_EN G l) : ax_Snd G l ax_Ym M_X3_freeBlocks 10 (S_iload 2 11) := k_iload_n dX3_freeBlocks_10 rfl
theorem r_X3_freeBlocks_11 (E : ax_EN G l) : ax_Snd G l ax_Ym M_X3_freeBlocks 11 (S_push (.int (32)) 13) := k_bipush dX3_freeBlocks_11 rfl
theorem r_X3_freeBlocks_13 (E : ax_EN G l) : ax_Snd G l ax_Ym M_X3_freeBlocks 13 (S_if2 (fun x y => decide (y ≤ x)) 41 16) := k_icmp_ge dX3_freeBlocks_13 rfl
theorem r_X3_freeBlocks_16 (E : ax_EN G l) : ax_Snd G l ax_Ym M_X3_freeBlocks 16 (S_iload 1 17) := k_iload_n dX3_freeBlocks_16 rfl
theorem r_X3_freeBlocks_17 (E : ax_EN G l) : ax_Snd G l ax_Ym M_X3_freeBlocks 17 (S_aload 0 18) := k_aload_n dX3_freeBlocks_17 rfl
theorem r_X3_freeBlocks_18 (E : ax_EN G l) : ax_Snd G l ax_Ym M_X3_freeBlocks 18 (S_getf [(38, 50)] 21) := k_getf (en_F E) (ax_fes_cons (fe_402 E) ax_fes_nil) q2803 dX3_freeBlocks_18
theorem r_X3_freeBlocks_21 (E : ax_EN G l) : ax_Snd G l ax_Ym M_X3_freeBlocks 21 (S_iload 2 22) := k_iload_n dX3_freeBlocks_21 rfl
theorem r_X3_freeBlocks_22 (E : ax_EN G l) : ax_Snd G l ax_Ym M_X3_freeBlocks 22 (S_is 438 2 25 hd_0) := k_is (en_F E) (ax_ok0 E rfl) ((ev_s y_X3_isUsed q3236 q3237 q126 q3238 nm_X3_isUsed (Nat.le_of_ble_eq_true rfl) dX3_freeBlocks_22) : ax_EvS G l ax_Ym M_X3_freeBlocks 22 438 2 3)
theorem r_X3_freeBlocks_25 (E : ax_EN G l) : ax_Snd G l ax_Ym M_X3_freeBlocks 25 (S_if1 (fun x => decide (x = 0)) 32 28) := k_if_eq dX3_freeBlocks_25 rfl
theorem r_X3_freeBlocks_28 (E : ax_EN G l) : ax_Snd G l ax_Ym M_X3_freeBlocks 28 (S_push (.int (0)) 29) := k_iconst dX3_freeBlocks_28 rfl
theorem r_X3_freeBlocks_29 (E : ax_EN G l) : ax_Snd G l ax_Ym M_X3_freeBlocks 29 (S_goto 33) := k_goto dX3_freeBlocks_29 rfl
theorem r_X3_freeBlocks_32 (E : ax_EN G l) : ax_Snd G l ax_Ym M_X3_freeBlocks 32 (S_push (.int (1)) 33) := k_iconst dX3_freeBlocks_32 rfl
theorem r_X3_freeBlocks_33 (E : ax_EN G l) : ax_Snd G l ax_Ym M_X3_freeBlocks 33 (S_i2 (fun x y => x + y) 34) := k_iadd dX3_freeBlocks_33
theorem r_X3_freeBlocks_34 (E : ax_EN G l) : ax_Snd G l ax_Ym M_X3_freeBlocks 34 (S_istore 1 35) := k_istore_n dX3_freeBlocks_34 rfl (Nat.le_of_ble_eq_true rfl)
theorem r_X3_freeBlocks_35 (E : ax_EN G l) : ax_Snd G l ax_Ym M_X3_freeBlocks 35 (S_iinc 2 (1) 38) := k_iinc dX3_freeBlocks_35 rfl (Nat.le_of_ble_eq_true rfl)
theorem r_X3_freeBlocks_38 (E : ax_EN G l) : ax_Snd G l ax_Ym M_X3_freeBlocks 38 (S_goto 10) := k_goto dX3_freeBlocks_38 rfl
theorem r_X3_freeBlocks_41 (E : ax_EN G l) : ax_Snd G l ax_Ym M_X3_freeBlocks 41 (S_iload 1 42) := k_iload_n dX3_freeBlocks_41 rfl
theorem r_X3_freeBlocks_42 (E : ax_EN G l) : ax_Snd G l ax_Ym M_X3_freeBlocks 42 (S_iret) := k_iret dX3_freeBlocks_42 rfl
theorem mt_X3_freeBlocks (E : ax_EN G l) : ax_mt G l ax_Ym (3, P_X3_freeBlocks) (ax_Ym 479) := ⟨M_X3_freeBlocks, yX3_freeBlocks, ⟨rfl, by decide +kernel, rfl, (fun h => by cases h), Or.inl ⟨rfl, rfl⟩⟩, fun pc => (ax_sn_node (ax_sn_node (ax_sn_node (ax_sn_node (ax_sn_node (ax_sn_leaf (r_X3_freeBlocks_42 E)) (ax_sn_leaf (r_X3_freeBlocks_41 E))) (ax_sn_node (ax_sn_leaf (r_X3_freeBlocks_38 E)) (ax_sn_leaf (r_X3_freeBlocks_35 E)))) (ax_sn_node (ax_sn_node (ax_sn_leaf (r_X3_freeBlocks_34 E)) (ax_sn_leaf (r_X3_freeBlocks_33 E))) (ax_sn_leaf (r_X3_freeBlocks_32 E)))) (ax_sn_node (ax_sn_node (ax_sn_node (ax_sn_leaf (r_X3_freeBlocks_29 E)) (ax_sn_leaf (r_X3_freeBlocks_28 E))) (ax_sn_leaf (r_X3_freeBlocks_25 E))) (ax_sn_node (ax_sn_node (ax_sn_leaf (r_X3_freeBlocks_22 E)) (ax_sn_leaf (r_X3_freeBlocks_21 E))) (ax_sn_leaf (r_X3_freeBlocks_18 E))))) (ax_sn_node (ax_sn_node (ax_sn_node (ax_sn_node (ax_sn_leaf (r_X3_freeBlocks_17 E)) (ax_sn_leaf (r_X3_freeBlocks_16 E))) (ax_sn_leaf (r_X3_freeBlocks_13 E))) (ax_sn_node (ax_sn_node (ax_sn_leaf (r_X3_freeBlocks_11 E)) (ax_sn_leaf (r_X3_freeBlocks_10 E))) (ax_sn_leaf (r_X3_freeBlocks_9 E)))) (ax_sn_node (ax_sn_node (ax_sn_node (ax_sn_leaf (r_X3_freeBlocks_7 E)) (ax_sn_leaf (r_X3_freeBlocks_6 E))) (ax_sn_leaf (r_X3_freeBlocks_5 E))) (ax_sn_node (ax_sn_node (ax_sn_leaf (r_X3_freeBlocks_2 E)) (ax_sn_leaf (r_X3_freeBlocks_1 E))) (ax_sn_leaf (r_X3_freeBlocks_0 E))))))⟩
theorem r_X3_isWhole_0 (E : ax_EN G l) : ax_Snd G l ax_Ym M_X3_isWhole 0 (S_aload 0 1) := k_aload_n dX3_isWhole_0 rfl
theorem r_X3_isWhole_1 (E : ax_EN G l) : ax_Snd G l ax_Ym M_X3_isWhole 1 (S_push (.int (0)) 2) := k_iconst dX3_isWhole_1 rfl
theorem r_X3_isWhole_2 (E : ax_EN G l) : ax_Snd G l ax_Ym M_X3_isWhole 2 (S_putf [(38, 0)] (.int) 5) := k_putf (en_F E) (en_P E) (ax_fes_cons (fe_442 E) ax_fes_nil) (ax_fps_cons (fp_443 E) ax_fps_nil) q2753 dX3_isWhole_2
theorem r_X3_isWhole_5 (E : ax_EN G l) : ax_Snd G l ax_Ym M_X3_isWhole 5 (S_aload 0 6) := k_aload_n dX3_isWhole_5 rfl
theorem r_X3_isWhole_6 (E : ax_EN G l) : ax_Snd G l ax_Ym M_X3_isWhole 6 (S_iv [(38, 481)] 0 9 hd_0) := k_iv (en_F E) (ax_ok0 E rfl) (ax_Evs_cons ((ev_v (en_c E (k := 38) rfl) rfl y_X3_isWholeNow q3405 q3407 qs113 q126 q3408 nm_X3_isWholeNow (Nat.le_of_ble_eq_true rfl) dX3_isWhole_6) : ax_EvV G l ax_Ym M_X3_isWhole 6 0 3 38 481) ax_Evs_nil)
theorem r_X3_isWhole_9 (E : ax_EN G l) : ax_Snd G l ax_Ym M_X3_isWhole 9 (S_zret) := k_zret dX3_isWhole_9 rfl
theorem mt_X3_isWhole (E : ax_EN G l) : ax_mt G l ax_Ym (1, P_X3_isWhole) (ax_Ym 480) := ⟨M_X3_isWhole, yX3_isWhole, ⟨rfl, by decide +kernel, rfl, (fun h => by cases h), Or.inl ⟨rfl, rfl⟩⟩, fun pc => (ax_sn_node (ax_sn_node (ax_sn_node (ax_sn_leaf (r_X3_isWhole_9 E)) (ax_sn_leaf (r_X3_isWhole_6 E))) (ax_sn_leaf (r_X3_isWhole_5 E))) (ax_sn_node (ax_sn_node (ax_sn_leaf (r_X3_isWhole_2 E)) (ax_sn_leaf (r_X3_isWhole_1 E))) (ax_sn_leaf (r_X3_isWhole_0 E))))⟩
end ROW
