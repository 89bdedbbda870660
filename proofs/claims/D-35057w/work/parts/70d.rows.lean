set_option maxRecDepth 100000
section ROW
variable {G : ax_G} {l : Launch}
theorem r_X17_expand_0 (E : ax_EN G l) : ax_Snd G l ax_Ym M_X17_expand 0 (S_aload 0 1) := k_aload_n dX17_expand_0 rfl
theorem r_X17_expand_1 (E : ax_EN G l) : ax_Snd G l ax_Ym M_X17_expand 1 (S_getf [(27, 2), (30, 2)] 4) := k_getf (en_F E) (ax_fes_cons (fe_247 E) (ax_fes_cons (fe_246 E) ax_fes_nil)) q437 dX17_expand_1
theorem r_X17_expand_4 (E : ax_EN G l) : ax_Snd G l ax_Ym M_X17_expand 4 (S_iload 1 5) := k_iload_n dX17_expand_4 rfl
theorem r_X17_expand_5 (E : ax_EN G l) : ax_Snd G l ax_Ym M_X17_expand 5 (S_iald 0 6) := k_iald (en_F E) dX17_expand_5
theorem r_X17_expand_6 (E : ax_EN G l) : ax_Snd G l ax_Ym M_X17_expand 6 (S_push (.int (-1)) 7) := k_iconst dX17_expand_6 rfl
theorem r_X17_expand_7 (E : ax_EN G l) : ax_Snd G l ax_Ym M_X17_expand 7 (S_if2 (fun x y => decide (x = y)) 23 10) := k_icmp_eq dX17_expand_7 rfl
theorem r_X17_expand_10 (E : ax_EN G l) : ax_Snd G l ax_Ym M_X17_expand 10 (S_aload 0 11) := k_aload_n dX17_expand_10 rfl
theorem r_X17_expand_11 (E : ax_EN G l) : ax_Snd G l ax_Ym M_X17_expand 11 (S_getf [(27, 4), (30, 4)] 14) := k_getf (en_F E) (ax_fes_cons (fe_255 E) (ax_fes_cons (fe_254 E) ax_fes_nil)) q439 dX17_expand_11
theorem r_X17_expand_14 (E : ax_EN G l) : ax_Snd G l ax_Ym M_X17_expand 14 (S_iload 1 15) := k_iload_n dX17_expand_14 rfl
theorem r_X17_expand_15 (E : ax_EN G l) : ax_Snd G l ax_Ym M_X17_expand 15 (S_iald 2 16) := k_zald (en_F E) dX17_expand_15
theorem r_X17_expand_16 (E : ax_EN G l) : ax_Snd G l ax_Ym M_X17_expand 16 (S_if1 (fun x => decide (¬ x = 0)) 23 19) := k_if_ne dX17_expand_16 rfl
theorem r_X17_expand_19 (E : ax_EN G l) : ax_Snd G l ax_Ym M_X17_expand 19 (S_push (.int (1)) 20) := k_iconst dX17_expand_19 rfl
theorem r_X17_expand_20 (E : ax_EN G l) : ax_Snd G l ax_Ym M_X17_expand 20 (S_goto 24) := k_goto dX17_expand_20 rfl
theorem r_X17_expand_23 (E : ax_EN G l) : ax_Snd G l ax_Ym M_X17_expand 23 (S_push (.int (0)) 24) := k_iconst dX17_expand_23 rfl
theorem r_X17_expand_24 (E : ax_EN G l) : ax_Snd G l ax_Ym M_X17_expand 24 (S_push (.int (5)) 25) := k_iconst dX17_expand_24 rfl
theorem r_X17_expand_25 (E : ax_EN G l) : ax_Snd G l ax_Ym M_X17_expand 25 (S_iload 5 27) := k_iload dX17_expand_25
theorem r_X17_expand_27 (E : ax_EN G l) : ax_Snd G l ax_Ym M_X17_expand 27 (S_is 213 3 30 hd_0) := k_is (en_F E) (ax_ok0 E rfl) ((ev_sN (en_B E) y_X1_check q473 q474 q118 q475 nm_X1_check (Nat.le_of_ble_eq_true rfl) dX17_expand_27) : ax_EvS G l ax_Ym M_X17_expand 27 213 3 3)
theorem r_X17_expand_30 (E : ax_EN G l) : ax_Snd G l ax_Ym M_X17_expand 30 (S_aload 0 31) := k_aload_n dX17_expand_30 rfl
theorem r_X17_expand_31 (E : ax_EN G l) : ax_Snd G l ax_Ym M_X17_expand 31 (S_aload 2 32) := k_aload_n dX17_expand_31 rfl
theorem r_X17_expand_32 (E : ax_EN G l) : ax_Snd G l ax_Ym M_X17_expand 32 (S_aload 4 34) := k_aload dX17_expand_32
theorem r_X17_expand_34 (E : ax_EN G l) : ax_Snd G l ax_Ym M_X17_expand 34 (S_iload 5 36) := k_iload dX17_expand_34
theorem r_X17_expand_36 (E : ax_EN G l) : ax_Snd G l ax_Ym M_X17_expand 36 (S_iv [(27, 293), (30, 354)] 3 39 hd_0) := k_iv (en_F E) (ax_ok0 E rfl) (ax_Evs_cons ((ev_vB (en_B E) (en_c E (k := 27) rfl) y_X18_value q1009 q915 q914 q917 q916 q151 q918 xo_196 (Nat.le_of_ble_eq_true rfl) dX17_expand_36) : ax_EvV G l ax_Ym M_X17_expand 36 3 3 27 293) (ax_Evs_cons ((ev_vB (en_B E) (en_c E (k := 30) rfl) y_X20_value q1009 q915 q914 q920 q919 q163 q921 xo_196 (Nat.le_of_ble_eq_true rfl) dX17_expand_36) : ax_EvV G l ax_Ym M_X17_expand 36 3 3 30 354) ax_Evs_nil))
theorem r_X17_expand_39 (E : ax_EN G l) : ax_Snd G l ax_Ym M_X17_expand 39 (S_istore 6 41) := k_istore dX17_expand_39 (Nat.le_of_ble_eq_true rfl)
theorem r_X17_expand_41 (E : ax_EN G l) : ax_Snd G l ax_Ym M_X17_expand 41 (S_aload 0 42) := k_aload_n dX17_expand_41 rfl
theorem r_X17_expand_42 (E : ax_EN G l) : ax_Snd G l ax_Ym M_X17_expand 42 (S_aload 3 43) := k_aload_n dX17_expand_42 rfl
theorem r_X17_expand_43 (E : ax_EN G l) : ax_Snd G l ax_Ym M_X17_expand 43 (S_aload 4 45) := k_aload dX17_expand_43
theorem r_X17_expand_45 (E : ax_EN G l) : ax_Snd G l ax_Ym M_X17_expand 45 (S_iload 5 47) := k_iload dX17_expand_45
theorem r_X17_expand_47 (E : ax_EN G l) : ax_Snd G l ax_Ym M_X17_expand 47 (S_iv [(27, 293), (30, 354)] 3 50 hd_0) := k_iv (en_F E) (ax_ok0 E rfl) (ax_Evs_cons ((ev_vB (en_B E) (en_c E (k := 27) rfl) y_X18_value q1009 q915 q914 q917 q916 q151 q918 xo_196 (Nat.le_of_ble_eq_true rfl) dX17_expand_47) : ax_EvV G l ax_Ym M_X17_expand 47 3 3 27 293) (ax_Evs_cons ((ev_vB (en_B E) (en_c E (k := 30) rfl) y_X20_value q1009 q915 q914 q920 q919 q163 q921 xo_196 (Nat.le_of_ble_eq_true rfl) dX17_expand_47) : ax_EvV G l ax_Ym M_X17_expand 47 3 3 30 354) ax_Evs_nil))
theorem r_X17_expand_50 (E : ax_EN G l) : ax_Snd G l ax_Ym M_X17_expand 50 (S_istore 7 52) := k_istore dX17_expand_50 (Nat.le_of_ble_eq_true rfl)
theorem r_X17_expand_52 (E : ax_EN G l) : ax_Snd G l ax_Ym M_X17_expand 52 (S_aload 0 53) := k_aload_n dX17_expand_52 rfl
theorem r_X17_expand_53 (E : ax_EN G l) : ax_Snd G l ax_Ym M_X17_expand 53 (S_aload 0 54) := k_aload_n dX17_expand_53 rfl
theorem r_X17_expand_54 (E : ax_EN G l) : ax_Snd G l ax_Ym M_X17_expand 54 (S_dup 55) := k_dup dX17_expand_54
theorem r_X17_expand_55 (E : ax_EN G l) : ax_Snd G l ax_Ym M_X17_expand 55 (S_getf [(27, 6), (30, 6)] 58) := k_getf (en_F E) (ax_fes_cons (fe_267 E) (ax_fes_cons (fe_266 E) ax_fes_nil)) q441 dX17_expand_55
theorem r_X17_expand_58 (E : ax_EN G l) : ax_Snd G l ax_Ym M_X17_expand 58 (S_dupx1 59) := k_dup_x1 dX17_expand_58
theorem r_X17_expand_59 (E : ax_EN G l) : ax_Snd G l ax_Ym M_X17_expand 59 (S_push (.int (1)) 60) := k_iconst dX17_expand_59 rfl
theorem r_X17_expand_60 (E : ax_EN G l) : ax_Snd G l ax_Ym M_X17_expand 60 (S_i2 (fun x y => x + y) 61) := k_iadd dX17_expand_60
theorem r_X17_expand_61 (E : ax_EN G l) : ax_Snd G l ax_Ym M_X17_expand 61 (S_putf [(27, 6), (30, 6)] (.int) 64) := k_putf (en_F E) (en_P E) (ax_fes_cons (fe_267 E) (ax_fes_cons (fe_266 E) ax_fes_nil)) (ax_fps_cons (fp_269 E) (ax_fps_cons (fp_268 E) ax_fps_nil)) q441 dX17_expand_61
theorem r_X17_expand_64 (E : ax_EN G l) : ax_Snd G l ax_Ym M_X17_expand 64 (S_iload 1 65) := k_iload_n dX17_expand_64 rfl
theorem r_X17_expand_65 (E : ax_EN G l) : ax_Snd G l ax_Ym M_X17_expand 65 (S_iv [(27, 295), (30, 356)] 2 68 hd_0) := k_iv (en_F E) (ax_ok0 E rfl) (ax_Evs_cons ((ev_vB (en_B E) (en_c E (k := 27) rfl) y_X18_begin q1010 q1012 q1011 q1014 q1013 q151 q1015 xo_270 (Nat.le_of_ble_eq_true rfl) dX17_expand_65) : ax_EvV G l ax_Ym M_X17_expand 65 2 3 27 295) (ax_Evs_cons ((ev_vB (en_B E) (en_c E (k := 30) rfl) y_X20_begin q1010 q1012 q1011 q1130 q1129 q163 q1131 xo_270 (Nat.le_of_ble_eq_true rfl) dX17_expand_65) : ax_EvV G l ax_Ym M_X17_expand 65 2 3 30 356) ax_Evs_nil))
theorem r_X17_expand_68 (E : ax_EN G l) : ax_Snd G l ax_Ym M_X17_expand 68 (S_astore 8 70) := k_astore dX17_expand_68 (Nat.le_of_ble_eq_true rfl)
theorem r_X17_expand_70 (E : ax_EN G l) : ax_Snd G l ax_Ym M_X17_expand 70 (S_aload 8 72) := k_aload dX17_expand_70
theorem r_X17_expand_72 (E : ax_EN G l) : ax_Snd G l ax_Ym M_X17_expand 72 (S_iload 6 74) := k_iload dX17_expand_72
theorem r_X17_expand_74 (E : ax_EN G l) : ax_Snd G l ax_Ym M_X17_expand 74 (S_putf [(26, 2)] (.int) 77) := k_putfN (en_F E) (en_P E) (en_B E) (ax_fes_cons (fe_271 E) ax_fes_nil) (ax_fps_cons (fp_272 E) ax_fps_nil) q401 dX17_expand_74
theorem r_X17_expand_77 (E : ax_EN G l) : ax_Snd G l ax_Ym M_X17_expand 77 (S_aload 8 79) := k_aload dX17_expand_77
theorem r_X17_expand_79 (E : ax_EN G l) : ax_Snd G l ax_Ym M_X17_expand 79 (S_iload 7 81) := k_iload dX17_expand_79
theorem r_X17_expand_81 (E : ax_EN G l) : ax_Snd G l ax_Ym M_X17_expand 81 (S_putf [(26, 3)] (.int) 84) := k_putfN (en_F E) (en_P E) (en_B E) (ax_fes_cons (fe_273 E) ax_fes_nil) (ax_fps_cons (fp_274 E) ax_fps_nil) q403 dX17_expand_81
theorem r_X17_expand_84 (E : ax_EN G l) : ax_Snd G l ax_Ym M_X17_expand 84 (S_aload 0 85) := k_aload_n dX17_expand_84 rfl
theorem r_X17_expand_85 (E : ax_EN G l) : ax_Snd G l ax_Ym M_X17_expand 85 (S_getf [(27, 4), (30, 4)] 88) := k_getf (en_F E) (ax_fes_cons (fe_255 E) (ax_fes_cons (fe_254 E) ax_fes_nil)) q439 dX17_expand_85
theorem r_X17_expand_88 (E : ax_EN G l) : ax_Snd G l ax_Ym M_X17_expand 88 (S_iload 1 89) := k_iload_n dX17_expand_88 rfl
theorem r_X17_expand_89 (E : ax_EN G l) : ax_Snd G l ax_Ym M_X17_expand 89 (S_push (.int (1)) 90) := k_iconst dX17_expand_89 rfl
theorem r_X17_expand_90 (E : ax_EN G l) : ax_Snd G l ax_Ym M_X17_expand 90 (S_iast 2 (fun x => vp_nar .boolean x) 91) := k_zast (en_F E) dX17_expand_90
theorem r_X17_expand_91 (E : ax_EN G l) : ax_Snd G l ax_Ym M_X17_expand 91 (S_aload 0 92) := k_aload_n dX17_expand_91 rfl
theorem r_X17_expand_92 (E : ax_EN G l) : ax_Snd G l ax_Ym M_X17_expand 92 (S_aload 0 93) := k_aload_n dX17_expand_92 rfl
theorem r_X17_expand_93 (E : ax_EN G l) : ax_Snd G l ax_Ym M_X17_expand 93 (S_getf [(27, 2), (30, 2)] 96) := k_getf (en_F E) (ax_fes_cons (fe_247 E) (ax_fes_cons (fe_246 E) ax_fes_nil)) q437 dX17_expand_93
theorem r_X17_expand_96 (E : ax_EN G l) : ax_Snd G l ax_Ym M_X17_expand 96 (S_iload 1 97) := k_iload_n dX17_expand_96 rfl
theorem r_X17_expand_97 (E : ax_EN G l) : ax_Snd G l ax_Ym M_X17_expand 97 (S_iald 0 98) := k_iald (en_F E) dX17_expand_97
theorem r_X17_expand_98 (E : ax_EN G l) : ax_Snd G l ax_Ym M_X17_expand 98 (S_aload 0 99) := k_aload_n dX17_expand_98 rfl
theorem r_X17_expand_99 (E : ax_EN G l) : ax_Snd G l ax_Ym M_X17_expand 99 (S_getf [(27, 3), (30, 3)] 102) := k_getf (en_F E) (ax_fes_cons (fe_251 E) (ax_fes_cons (fe_250 E) ax_fes_nil)) q438 dX17_expand_99
theorem r_X17_expand_102 (E : ax_EN G l) : ax_Snd G l ax_Ym M_X17_expand 102 (S_iload 1 103) := k_iload_n dX17_expand_102 rfl
theorem r_X17_expand_103 (E : ax_EN G l) : ax_Snd G l ax_Ym M_X17_expand 103 (S_iald 0 104) := k_iald (en_F E) dX17_expand_103
theorem r_X17_expand_104 (E : ax_EN G l) : ax_Snd G l ax_Ym M_X17_expand 104 (S_aload 8 106) := k_aload dX17_expand_104
theorem r_X17_expand_106 (E : ax_EN G l) : ax_Snd G l ax_Ym M_X17_expand 106 (S_iv [(27, 287), (30, 287)] 3 109 hd_0) := k_iv (en_F E) (ax_ok0 E rfl) (ax_Evs_cons ((ev_vU (en_c E (k := 27) rfl) y_X17_go rfl q1135 q469 q468 q470 q150 q472 xo_229 (Nat.le_of_ble_eq_true rfl) dX17_expand_106) : ax_EvV G l ax_Ym M_X17_expand 106 3 3 27 287) (ax_Evs_cons ((ev_vU (en_c E (k := 30) rfl) y_X17_go rfl q1135 q469 q468 q471 q150 q472 xo_229 (Nat.le_of_ble_eq_true rfl) dX17_expand_106) : ax_EvV G l ax_Ym M_X17_expand 106 3 3 30 287) ax_Evs_nil))
theorem r_X17_expand_109 (E : ax_EN G l) : ax_Snd G l ax_Ym M_X17_expand 109 (S_aload 0 110) := k_aload_n dX17_expand_109 rfl
theorem r_X17_expand_110 (E : ax_EN G l) : ax_Snd G l ax_Ym M_X17_expand 110 (S_getf [(27, 4), (30, 4)] 113) := k_getf (en_F E) (ax_fes_cons (fe_255 E) (ax_fes_cons (fe_254 E) ax_fes_nil)) q439 dX17_expand_110
theorem r_X17_expand_113 (E : ax_EN G l) : ax_Snd G l ax_Ym M_X17_expand 113 (S_iload 1 114) := k_iload_n dX17_expand_113 rfl
theorem r_X17_expand_114 (E : ax_EN G l) : ax_Snd G l ax_Ym M_X17_expand 114 (S_push (.int (0)) 115) := k_iconst dX17_expand_114 rfl
theorem r_X17_expand_115 (E : ax_EN G l) : ax_Snd G l ax_Ym M_X17_expand 115 (S_iast 2 (fun x => vp_nar .boolean x) 116) := k_zast (en_F E) dX17_expand_115
theorem r_X17_expand_116 (E : ax_EN G l) : ax_Snd G l ax_Ym M_X17_expand 116 (S_ret) := k_ret dX17_expand_116 rfl
theorem mt_X17_expand (E : ax_EN G l) : ax_mt G l ax_Ym (9, P_X17_expand) (ax_Ym 289) := ⟨M_X17_expand, yX17_expand, ⟨rfl, by decide +kernel, rfl, (fun h => by cases h), Or.inl ⟨rfl, rfl⟩⟩, fun pc => (ax_sn_node (ax_sn_node (ax_sn_node (ax_sn_node (ax_sn_node (ax_sn_node (ax_sn_node (ax_sn_leaf (r_X17_expand_116 E)) (ax_sn_leaf (r_X17_expand_115 E))) (ax_sn_leaf (r_X17_expand_114 E))) (ax_sn_node (ax_sn_leaf (r_X17_expand_113 E)) (ax_sn_leaf (r_X17_expand_110 E)))) (ax_sn_node (ax_sn_node (ax_sn_leaf (r_X17_expand_109 E)) (ax_sn_leaf (r_X17_expand_106 E))) (ax_sn_node (ax_sn_leaf (r_X17_expand_104 E)) (ax_sn_leaf (r_X17_expand_103 E))))) (ax_sn_node (ax_sn_node (ax_sn_node (ax_sn_leaf (r_X17_expand_102 E)) (ax_sn_leaf (r_X17_expand_99 E))) (ax_sn_node (ax_sn_leaf (r_X17_expand_98 E)) (ax_sn_leaf (r_X17_expand_97 E)))) (ax_sn_node (ax_sn_node (ax_sn_leaf (r_X17_expand_96 E)) (ax_sn_leaf (r_X17_expand_93 E))) (ax_sn_node (ax_sn_leaf (r_X17_expand_92 E)) (ax_sn_leaf (r_X17_expand_91 E)))))) (ax_sn_node (ax_sn_node (ax_sn_node (ax_sn_node (ax_sn_node (ax_sn_leaf (r_X17_expand_90 E)) (ax_sn_leaf (r_X17_expand_89 E))) (ax_sn_leaf (r_X17_expand_88 E))) (ax_sn_node (ax_sn_leaf (r_X17_expand_85 E)) (ax_sn_leaf (r_X17_expand_84 E)))) (ax_sn_node (ax_sn_node (ax_sn_leaf (r_X17_expand_81 E)) (ax_sn_leaf (r_X17_expand_79 E))) (ax_sn_node (ax_sn_leaf (r_X17_expand_77 E)) (ax_sn_leaf (r_X17_expand_74 E))))) (ax_sn_node (ax_sn_node (ax_sn_node (ax_sn_leaf (r_X17_expand_72 E)) (ax_sn_leaf (r_X17_expand_70 E))) (ax_sn_node (ax_sn_leaf (r_X17_expand_68 E)) (ax_sn_leaf (r_X17_expand_65 E)))) (ax_sn_node (ax_sn_node (ax_sn_leaf (r_X17_expand_64 E)) (ax_sn_leaf (r_X17_expand_61 E))) (ax_sn_node (ax_sn_leaf (r_X17_expand_60 E)) (ax_sn_leaf (r_X17_expand_59 E))))))) (ax_sn_node (ax_sn_node (ax_sn_node (ax_sn_node (ax_sn_node (ax_sn_node (ax_sn_leaf (r_X17_expand_58 E)) (ax_sn_leaf (r_X17_expand_55 E))) (ax_sn_leaf (r_X17_expand_54 E))) (ax_sn_node (ax_sn_leaf (r_X17_expand_53 E)) (ax_sn_leaf (r_X17_expand_52 E)))) (ax_sn_node (ax_sn_node (ax_sn_leaf (r_X17_expand_50 E)) (ax_sn_leaf (r_X17_expand_47 E))) (ax_sn_node (ax_sn_leaf (r_X17_expand_45 E)) (ax_sn_leaf (r_X17_expand_43 E))))) (ax_sn_node (ax_sn_node (ax_sn_node (ax_sn_leaf (r_X17_expand_42 E)) (ax_sn_leaf (r_X17_expand_41 E))) (ax_sn_node (ax_sn_leaf (r_X17_expand_39 E)) (ax_sn_leaf (r_X17_expand_36 E)))) (ax_sn_node (ax_sn_node (ax_sn_leaf (r_X17_expand_34 E)) (ax_sn_leaf (r_X17_expand_32 E))) (ax_sn_node (ax_sn_leaf (r_X17_expand_31 E)) (ax_sn_leaf (r_X17_expand_30 E)))))) (ax_sn_node (ax_sn_node (ax_sn_node (ax_sn_node (ax_sn_node (ax_sn_leaf (r_X17_expand_27 E)) (ax_sn_leaf (r_X17_expand_25 E))) (ax_sn_leaf (r_X17_expand_24 E))) (ax_sn_node (ax_sn_leaf (r_X17_expand_23 E)) (ax_sn_leaf (r_X17_expand_20 E)))) (ax_sn_node (ax_sn_node (ax_sn_leaf (r_X17_expand_19 E)) (ax_sn_leaf (r_X17_expand_16 E))) (ax_sn_node (ax_sn_leaf (r_X17_expand_15 E)) (ax_sn_leaf (r_X17_expand_14 E))))) (ax_sn_node (ax_sn_node (ax_sn_node (ax_sn_leaf (r_X17_expand_11 E)) (ax_sn_leaf (r_X17_expand_10 E))) (ax_sn_node (ax_sn_leaf (r_X17_expand_7 E)) (ax_sn_leaf (r_X17_expand_6 E)))) (ax_sn_node (ax_sn_node (ax_sn_leaf (r_X17_expand_5 E)) (ax_sn_leaf (r_X17_expand_4 E))) (ax_sn_node (ax_sn_leaf (r_X17_expand_1 E)) (ax_sn_leaf (r_X17_expand_0 E))))))))⟩
theorem r_X18_init_0 (E : ax_EN G l) : ax_Snd G l ax_Ym M_X18_init 0 (S_aload 0 1) := k_aload_n dX18_init_0 rfl
theorem r_X18_init_1 (E : ax_EN G l) : ax_Snd G l ax_Ym M_X18_init 1 (S_aload 1 2) := k_aload_n dX18_init_1 rfl
theorem r_X18_init_2 (E : ax_EN G l) : ax_Snd G l ax_Ym M_X18_init 2 (S_putf [(27, 9)] (.object "KernelGym$Assembly") 5) := k_putfF (en_F E) (en_P E) (ax_fes_cons (fe_275 E) ax_fes_nil) (ax_fps_cons (fp_276 E) ax_fps_nil) rfl q425 dX18_init_2
theorem r_X18_init_5 (E : ax_EN G l) : ax_Snd G l ax_Ym M_X18_init 5 (S_aload 0 6) := k_aload_n dX18_init_5 rfl
theorem r_X18_init_6 (E : ax_EN G l) : ax_Snd G l ax_Ym M_X18_init 6 (S_aload 2 7) := k_aload_n dX18_init_6 rfl
theorem r_X18_init_7 (E : ax_EN G l) : ax_Snd G l ax_Ym M_X18_init 7 (S_putf [(27, 8)] (.object "KernelGym") 10) := k_putfF (en_F E) (en_P E) (ax_fes_cons (fe_277 E) ax_fes_nil) (ax_fps_cons (fp_278 E) ax_fps_nil) rfl q424 dX18_init_7
theorem r_X18_init_10 (E : ax_EN G l) : ax_Snd G l ax_Ym M_X18_init 10 (S_aload 0 11) := k_aload_n dX18_init_10 rfl
theorem r_X18_init_11 (E : ax_EN G l) : ax_Snd G l ax_Ym M_X18_init 11 (S_aload 1 12) := k_aload_n dX18_init_11 rfl
theorem r_X18_init_12 (E : ax_EN G l) : ax_Snd G l ax_Ym M_X18_init 12 (S_getf [(25, 6)] 15) := k_getf (en_F E) (ax_fes_cons (fe_218 E) ax_fes_nil) q1172 dX18_init_12
theorem r_X18_init_15 (E : ax_EN G l) : ax_Snd G l ax_Ym M_X18_init 15 (S_isp 286 1 18 hd_0) := k_isp (en_F E) (ax_ok0 E rfl) ((ev_i y_X17_init q420 q421 q150 q422 nm_X17_init rfl (Nat.le_of_ble_eq_true rfl) dX18_init_15) : ax_EvI G l ax_Ym M_X18_init 15 286 1 3)
theorem r_X18_init_18 (E : ax_EN G l) : ax_Snd G l ax_Ym M_X18_init 18 (S_ret) := k_ret dX18_init_18 rfl
theorem mt_X18_init (E : ax_EN G l) : ax_mt G l ax_Ym (3, P_X18_init) (ax_Ym 290) := ⟨M_X18_init, yX18_init, ⟨rfl, by decide +kernel, rfl, (fun _ => rfl), Or.inl ⟨rfl, rfl⟩⟩, fun pc => (ax_sn_node (ax_sn_node (ax_sn_node (ax_sn_node (ax_sn_leaf (r_X18_init_18 E)) (ax_sn_leaf (r_X18_init_15 E))) (ax_sn_leaf (r_X18_init_12 E))) (ax_sn_node (ax_sn_node (ax_sn_leaf (r_X18_init_11 E)) (ax_sn_leaf (r_X18_init_10 E))) (ax_sn_leaf (r_X18_init_7 E)))) (ax_sn_node (ax_sn_node (ax_sn_node (ax_sn_leaf (r_X18_init_6 E)) (ax_sn_leaf (r_X18_init_5 E))) (ax_sn_leaf (r_X18_init_2 E))) (ax_sn_node (ax_sn_leaf (r_X18_init_1 E)) (ax_sn_leaf (r_X18_init_0 E)))))⟩
theorem r_X18_set_0 (E : ax_EN G l) : ax_Snd G l ax_Ym M_X18_set 0 (S_aload 0 1) := k_aload_n dX18_set_0 rfl
theorem r_X18_set_1 (E : ax_EN G l) : ax_Snd G l ax_Ym M_X18_set 1 (S_getf [(27, 9)] 4) := k_getf (en_F E) (ax_fes_cons (fe_275 E) ax_fes_nil) q425 dX18_set_1
theorem r_X18_set_4 (E : ax_EN G l) : ax_Snd G l ax_Ym M_X18_set 4 (S_iload 1 5) := k_iload_n dX18_set_4 rfl
theorem r_X18_set_5 (E : ax_EN G l) : ax_Snd G l ax_Ym M_X18_set 5 (S_aload 2 6) := k_aload_n dX18_set_5 rfl
theorem r_X18_set_6 (E : ax_EN G l) : ax_Snd G l ax_Ym M_X18_set 6 (S_iv [(25, 282)] 2 9 hd_0) := k_iv (en_F E) (ax_ok0 E rfl) (ax_Evs_cons ((ev_vN (en_B E) (en_c E (k := 25) rfl) y_X15_rowOf q893 q895 qs4 q148 q896 nm_X15_rowOf (Nat.le_of_ble_eq_true rfl) dX18_set_6) : ax_EvV G l ax_Ym M_X18_set 6 2 3 25 282) ax_Evs_nil)
theorem r_X18_set_9 (E : ax_EN G l) : ax_Snd G l ax_Ym M_X18_set 9 (S_astore 4 11) := k_astore dX18_set_9 (Nat.le_of_ble_eq_true rfl)
theorem r_X18_set_11 (E : ax_EN G l) : ax_Snd G l ax_Ym M_X18_set 11 (S_aload 4 13) := k_aload dX18_set_11
theorem r_X18_set_13 (E : ax_EN G l) : ax_Snd G l ax_Ym M_X18_set 13 (S_iload 1 14) := k_iload_n dX18_set_13 rfl
theorem r_X18_set_14 (E : ax_EN G l) : ax_Snd G l ax_Ym M_X18_set 14 (S_push (.int (16)) 16) := k_bipush dX18_set_14 rfl
theorem r_X18_set_16 (E : ax_EN G l) : ax_Snd G l ax_Ym M_X18_set 16 (S_id (fun x y => x - x / y * y) 17) := k_irem dX18_set_16
theorem r_X18_set_17 (E : ax_EN G l) : ax_Snd G l ax_Ym M_X18_set 17 (S_iald 0 18) := k_iald (en_F E) dX18_set_17
theorem r_X18_set_18 (E : ax_EN G l) : ax_Snd G l ax_Ym M_X18_set 18 (S_push (.int (-1)) 19) := k_iconst dX18_set_18 rfl
theorem r_X18_set_19 (E : ax_EN G l) : ax_Snd G l ax_Ym M_X18_set 19 (S_if2 (fun x y => decide (¬ x = y)) 26 22) := k_icmp_ne dX18_set_19 rfl
theorem r_X18_set_22 (E : ax_EN G l) : ax_Snd G l ax_Ym M_X18_set 22 (S_push (.int (1)) 23) := k_iconst dX18_set_22 rfl
theorem r_X18_set_23 (E : ax_EN G l) : ax_Snd G l ax_Ym M_X18_set 23 (S_goto 27) := k_goto dX18_set_23 rfl
theorem r_X18_set_26 (E : ax_EN G l) : ax_Snd G l ax_Ym M_X18_set 26 (S_push (.int (0)) 27) := k_iconst dX18_set_26 rfl
theorem r_X18_set_27 (E : ax_EN G l) : ax_Snd G l ax_Ym M_X18_set 27 (S_push (.int (2)) 28) := k_iconst dX18_set_27 rfl
theorem r_X18_set_28 (E : ax_EN G l) : ax_Snd G l ax_Ym M_X18_set 28 (S_iload 3 29) := k_iload_n dX18_set_28 rfl
theorem r_X18_set_29 (E : ax_EN G l) : ax_Snd G l ax_Ym M_X18_set 29 (S_is 213 3 32 hd_0) := k_is (en_F E) (ax_ok0 E rfl) ((ev_sN (en_B E) y_X1_check q897 q474 q118 q475 nm_X1_check (Nat.le_of_ble_eq_true rfl) dX18_set_29) : ax_EvS G l ax_Ym M_X18_set 29 213 3 3)
theorem r_X18_set_32 (E : ax_EN G l) : ax_Snd G l ax_Ym M_X18_set 32 (S_aload 4 34) := k_aload dX18_set_32
theorem r_X18_set_34 (E : ax_EN G l) : ax_Snd G l ax_Ym M_X18_set 34 (S_iload 1 35) := k_iload_n dX18_set_34 rfl
theorem r_X18_set_35 (E : ax_EN G l) : ax_Snd G l ax_Ym M_X18_set 35 (S_push (.int (16)) 37) := k_bipush dX18_set_35 rfl
theorem r_X18_set_37 (E : ax_EN G l) : ax_Snd G l ax_Ym M_X18_set 37 (S_id (fun x y => x - x / y * y) 38) := k_irem dX18_set_37
theorem r_X18_set_38 (E : ax_EN G l) : ax_Snd G l ax_Ym M_X18_set 38 (S_push (.int (1000)) 41) := k_sipush dX18_set_38 rfl
theorem r_X18_set_41 (E : ax_EN G l) : ax_Snd G l ax_Ym M_X18_set 41 (S_aload 0 42) := k_aload_n dX18_set_41 rfl
theorem r_X18_set_42 (E : ax_EN G l) : ax_Snd G l ax_Ym M_X18_set 42 (S_getf [(27, 1), (30, 1)] 45) := k_getf (en_F E) (ax_fes_cons (fe_280 E) (ax_fes_cons (fe_279 E) ax_fes_nil)) q433 dX18_set_42
theorem r_X18_set_45 (E : ax_EN G l) : ax_Snd G l ax_Ym M_X18_set 45 (S_i2 (fun x y => x * y) 46) := k_imul dX18_set_45
theorem r_X18_set_46 (E : ax_EN G l) : ax_Snd G l ax_Ym M_X18_set 46 (S_aload 0 47) := k_aload_n dX18_set_46 rfl
theorem r_X18_set_47 (E : ax_EN G l) : ax_Snd G l ax_Ym M_X18_set 47 (S_getf [(27, 0), (30, 0)] 50) := k_getf (en_F E) (ax_fes_cons (fe_282 E) (ax_fes_cons (fe_281 E) ax_fes_nil)) q428 dX18_set_47
theorem r_X18_set_50 (E : ax_EN G l) : ax_Snd G l ax_Ym M_X18_set 50 (S_aload 0 51) := k_aload_n dX18_set_50 rfl
theorem r_X18_set_51 (E : ax_EN G l) : ax_Snd G l ax_Ym M_X18_set 51 (S_getf [(27, 1), (30, 1)] 54) := k_getf (en_F E) (ax_fes_cons (fe_280 E) (ax_fes_cons (fe_279 E) ax_fes_nil)) q433 dX18_set_51
theorem r_X18_set_54 (E : ax_EN G l) : ax_Snd G l ax_Ym M_X18_set 54 (S_iald 0 55) := k_iald (en_F E) dX18_set_54
theorem r_X18_set_55 (E : ax_EN G l) : ax_Snd G l ax_Ym M_X18_set 55 (S_i2 (fun x y => x + y) 56) := k_iadd dX18_set_55
theorem r_X18_set_56 (E : ax_EN G l) : ax_Snd G l ax_Ym M_X18_set 56 (S_iast 0 (fun x => x) 57) := k_iast (en_F E) dX18_set_56
theorem r_X18_set_57 (E : ax_EN G l) : ax_Snd G l ax_Ym M_X18_set 57 (S_ret) := k_ret dX18_set_57 rfl
theorem mt_X18_set (E : ax_EN G l) : ax_mt G l ax_Ym (5, P_X18_set) (ax_Ym 291) := ⟨M_X18_set, yX18_set, ⟨rfl, by decide +kernel, rfl, (fun h => by cases h), Or.inl ⟨rfl, rfl⟩⟩, fun pc => (ax_sn_node (ax_sn_node (ax_sn_node (ax_sn_node (ax_sn_node (ax_sn_node (ax_sn_leaf (r_X18_set_57 E)) (ax_sn_leaf (r_X18_set_56 E))) (ax_sn_leaf (r_X18_set_55 E))) (ax_sn_node (ax_sn_leaf (r_X18_set_54 E)) (ax_sn_leaf (r_X18_set_51 E)))) (ax_sn_node (ax_sn_node (ax_sn_leaf (r_X18_set_50 E)) (ax_sn_leaf (r_X18_set_47 E))) (ax_sn_node (ax_sn_leaf (r_X18_set_46 E)) (ax_sn_leaf (r_X18_set_45 E))))) (ax_sn_node (ax_sn_node (ax_sn_node (ax_sn_node (ax_sn_leaf (r_X18_set_42 E)) (ax_sn_leaf (r_X18_set_41 E))) (ax_sn_leaf (r_X18_set_38 E))) (ax_sn_node (ax_sn_leaf (r_X18_set_37 E)) (ax_sn_leaf (r_X18_set_35 E)))) (ax_sn_node (ax_sn_node (ax_sn_leaf (r_X18_set_34 E)) (ax_sn_leaf (r_X18_set_32 E))) (ax_sn_node (ax_sn_leaf (r_X18_set_29 E)) (ax_sn_leaf (r_X18_set_28 E)))))) (ax_sn_node (ax_sn_node (ax_sn_node (ax_sn_node (ax_sn_node (ax_sn_leaf (r_X18_set_27 E)) (ax_sn_leaf (r_X18_set_26 E))) (ax_sn_leaf (r_X18_set_23 E))) (ax_sn_node (ax_sn_leaf (r_X18_set_22 E)) (ax_sn_leaf (r_X18_set_19 E)))) (ax_sn_node (ax_sn_node (ax_sn_leaf (r_X18_set_18 E)) (ax_sn_leaf (r_X18_set_17 E))) (ax_sn_node (ax_sn_leaf (r_X18_set_16 E)) (ax_sn_leaf (r_X18_set_14 E))))) (ax_sn_node (ax_sn_node (ax_sn_node (ax_sn_leaf (r_X18_set_13 E)) (ax_sn_leaf (r_X18_set_11 E))) (ax_sn_node (ax_sn_leaf (r_X18_set_9 E)) (ax_sn_leaf (r_X18_set_6 E)))) (ax_sn_node (ax_sn_node (ax_sn_leaf (r_X18_set_5 E)) (ax_sn_leaf (r_X18_set_4 E))) (ax_sn_node (ax_sn_leaf (r_X18_set_1 E)) (ax_sn_leaf (r_X18_set_0 E)))))))⟩
theorem r_X18_take_0 (E : ax_EN G l) : ax_Snd G l ax_Ym M_X18_take 0 (S_aload 0 1) := k_aload_n dX18_take_0 rfl
theorem r_X18_take_1 (E : ax_EN G l) : ax_Snd G l ax_Ym M_X18_take 1 (S_getf [(27, 0), (30, 0)] 4) := k_getf (en_F E) (ax_fes_cons (fe_282 E) (ax_fes_cons (fe_281 E) ax_fes_nil)) q428 dX18_take_1
theorem r_X18_take_4 (E : ax_EN G l) : ax_Snd G l ax_Ym M_X18_take 4 (S_aload 0 5) := k_aload_n dX18_take_4 rfl
theorem r_X18_take_5 (E : ax_EN G l) : ax_Snd G l ax_Ym M_X18_take 5 (S_getf [(27, 1), (30, 1)] 8) := k_getf (en_F E) (ax_fes_cons (fe_280 E) (ax_fes_cons (fe_279 E) ax_fes_nil)) q433 dX18_take_5
theorem r_X18_take_8 (E : ax_EN G l) : ax_Snd G l ax_Ym M_X18_take 8 (S_dup2 9) := k_dup2 dX18_take_8
theorem r_X18_take_9 (E : ax_EN G l) : ax_Snd G l ax_Ym M_X18_take 9 (S_iald 0 10) := k_iald (en_F E) dX18_take_9
theorem r_X18_take_10 (E : ax_EN G l) : ax_Snd G l ax_Ym M_X18_take 10 (S_push (.int (1)) 11) := k_iconst dX18_take_10 rfl
theorem r_X18_take_11 (E : ax_EN G l) : ax_Snd G l ax_Ym M_X18_take 11 (S_i2 (fun x y => x + y) 12) := k_iadd dX18_take_11
theorem r_X18_take_12 (E : ax_EN G l) : ax_Snd G l ax_Ym M_X18_take 12 (S_iast 0 (fun x => x) 13) := k_iast (en_F E) dX18_take_12
theorem r_X18_take_13 (E : ax_EN G l) : ax_Snd G l ax_Ym M_X18_take 13 (S_aload 0 14) := k_aload_n dX18_take_13 rfl
theorem r_X18_take_14 (E : ax_EN G l) : ax_Snd G l ax_Ym M_X18_take 14 (S_getf [(27, 0), (30, 0)] 17) := k_getf (en_F E) (ax_fes_cons (fe_282 E) (ax_fes_cons (fe_281 E) ax_fes_nil)) q428 dX18_take_14
theorem r_X18_take_17 (E : ax_EN G l) : ax_Snd G l ax_Ym M_X18_take 17 (S_push (.int (0)) 18) := k_iconst dX18_take_17 rfl
theorem r_X18_take_18 (E : ax_EN G l) : ax_Snd G l ax_Ym M_X18_take 18 (S_iald 0 19) := k_iald (en_F E) dX18_take_18
theorem r_X18_take_19 (E : ax_EN G l) : ax_Snd G l ax_Ym M_X18_take 19 (S_aload 0 20) := k_aload_n dX18_take_19 rfl
theorem r_X18_take_20 (E : ax_EN G l) : ax_Snd G l ax_Ym M_X18_take 20 (S_getf [(27, 0), (30, 0)] 23) := k_getf (en_F E) (ax_fes_cons (fe_282 E) (ax_fes_cons (fe_281 E) ax_fes_nil)) q428 dX18_take_20
theorem r_X18_take_23 (E : ax_EN G l) : ax_Snd G l ax_Ym M_X18_take 23 (S_push (.int (1)) 24) := k_iconst dX18_take_23 rfl
theorem r_X18_take_24 (E : ax_EN G l) : ax_Snd G l ax_Ym M_X18_take 24 (S_iald 0 25) := k_iald (en_F E) dX18_take_24
theorem r_X18_take_25 (E : ax_EN G l) : ax_Snd G l ax_Ym M_X18_take 25 (S_i2 (fun x y => x + y) 26) := k_iadd dX18_take_25
theorem r_X18_take_26 (E : ax_EN G l) : ax_Snd G l ax_Ym M_X18_take 26 (S_push (.int (248)) 29) := k_sipush dX18_take_26 rfl
theorem r_X18_take_29 (E : ax_EN G l) : ax_Snd G l ax_Ym M_X18_take 29 (S_if2 (fun x y => decide (y < x)) 36 32) := k_icmp_gt dX18_take_29 rfl
theorem r_X18_take_32 (E : ax_EN G l) : ax_Snd G l ax_Ym M_X18_take 32 (S_push (.int (1)) 33) := k_iconst dX18_take_32 rfl
theorem r_X18_take_33 (E : ax_EN G l) : ax_Snd G l ax_Ym M_X18_take 33 (S_goto 37) := k_goto dX18_take_33 rfl
theorem r_X18_take_36 (E : ax_EN G l) : ax_Snd G l ax_Ym M_X18_take 36 (S_push (.int (0)) 37) := k_iconst dX18_take_36 rfl
theorem r_X18_take_37 (E : ax_EN G l) : ax_Snd G l ax_Ym M_X18_take 37 (S_push (.int (1)) 38) := k_iconst dX18_take_37 rfl
theorem r_X18_take_38 (E : ax_EN G l) : ax_Snd G l ax_Ym M_X18_take 38 (S_iload 2 39) := k_iload_n dX18_take_38 rfl
theorem r_X18_take_39 (E : ax_EN G l) : ax_Snd G l ax_Ym M_X18_take 39 (S_is 213 3 42 hd_0) := k_is (en_F E) (ax_ok0 E rfl) ((ev_sN (en_B E) y_X1_check q897 q474 q118 q475 nm_X1_check (Nat.le_of_ble_eq_true rfl) dX18_take_39) : ax_EvS G l ax_Ym M_X18_take 39 213 3 3)
theorem r_X18_take_42 (E : ax_EN G l) : ax_Snd G l ax_Ym M_X18_take 42 (S_ret) := k_ret dX18_take_42 rfl
theorem mt_X18_take (E : ax_EN G l) : ax_mt G l ax_Ym (3, P_X18_take) (ax_Ym 292) := ⟨M_X18_take, yX18_take, ⟨rfl, by decide +kernel, rfl, (fun h => by cases h), Or.inl ⟨rfl, rfl⟩⟩, fun pc => (ax_sn_node (ax_sn_node (ax_sn_node (ax_sn_node (ax_sn_node (ax_sn_leaf (r_X18_take_42 E)) (ax_sn_leaf (r_X18_take_39 E))) (ax_sn_node (ax_sn_leaf (r_X18_take_38 E)) (ax_sn_leaf (r_X18_take_37 E)))) (ax_sn_node (ax_sn_node (ax_sn_leaf (r_X18_take_36 E)) (ax_sn_leaf (r_X18_take_33 E))) (ax_sn_leaf (r_X18_take_32 E)))) (ax_sn_node (ax_sn_node (ax_sn_node (ax_sn_leaf (r_X18_take_29 E)) (ax_sn_leaf (r_X18_take_26 E))) (ax_sn_node (ax_sn_leaf (r_X18_take_25 E)) (ax_sn_leaf (r_X18_take_24 E)))) (ax_sn_node (ax_sn_node (ax_sn_leaf (r_X18_take_23 E)) (ax_sn_leaf (r_X18_take_20 E))) (ax_sn_leaf (r_X18_take_19 E))))) (ax_sn_node (ax_sn_node (ax_sn_node (ax_sn_node (ax_sn_leaf (r_X18_take_18 E)) (ax_sn_leaf (r_X18_take_17 E))) (ax_sn_node (ax_sn_leaf (r_X18_take_14 E)) (ax_sn_leaf (r_X18_take_13 E)))) (ax_sn_node (ax_sn_node (ax_sn_leaf (r_X18_take_12 E)) (ax_sn_leaf (r_X18_take_11 E))) (ax_sn_leaf (r_X18_take_10 E)))) (ax_sn_node (ax_sn_node (ax_sn_node (ax_sn_leaf (r_X18_take_9 E)) (ax_sn_leaf (r_X18_take_8 E))) (ax_sn_leaf (r_X18_take_5 E))) (ax_sn_node (ax_sn_node (ax_sn_leaf (r_X18_take_4 E)) (ax_sn_leaf (r_X18_take_1 E))) (ax_sn_leaf (r_X18_take_0 E))))))⟩
theorem r_X18_value_0 (E : ax_EN G l) : ax_Snd G l ax_Ym M_X18_value 0 (S_push (.int (0)) 1) := k_iconst dX18_value_0 rfl
theorem r_X18_value_1 (E : ax_EN G l) : ax_Snd G l ax_Ym M_X18_value 1 (S_iret) := k_iret dX18_value_1 rfl
theorem mt_X18_value (E : ax_EN G l) : ax_mt G l ax_Ym (4, P_X18_value) (ax_Ym 293) := ⟨M_X18_value, yX18_value, ⟨rfl, by decide +kernel, rfl, (fun h => by cases h), Or.inl ⟨rfl, rfl⟩⟩, fun pc => (ax_sn_node (ax_sn_leaf (r_X18_value_1 E)) (ax_sn_leaf (r_X18_value_0 E)))⟩
theorem r_X18_point_0 (E : ax_EN G l) : ax_Snd G l ax_Ym M_X18_point 0 (S_ret) := k_ret dX18_point_0 rfl
theorem mt_X18_point (E : ax_EN G l) : ax_mt G l ax_Ym (3, P_X18_point) (ax_Ym 294) := ⟨M_X18_point, yX18_point, ⟨rfl, by decide +kernel, rfl, (fun h => by cases h), Or.inl ⟨rfl, rfl⟩⟩, fun pc => (ax_sn_leaf (r_X18_point_0 E))⟩
theorem r_X18_begin_0 (E : ax_EN G l) : ax_Snd G l ax_Ym M_X18_begin 0 (S_new 26 [.int 0, .null, .int 0, .int 0] 4 3) := k_new (en_F E) (mk_26 E) q1016 dX18_begin_0
theorem r_X18_begin_3 (E : ax_EN G l) : ax_Snd G l ax_Ym M_X18_begin 3 (S_dup 4) := k_dup dX18_begin_3
theorem r_X18_begin_4 (E : ax_EN G l) : ax_Snd G l ax_Ym M_X18_begin 4 (S_iload 2 5) := k_iload_n dX18_begin_4 rfl
theorem r_X18_begin_5 (E : ax_EN G l) : ax_Snd G l ax_Ym M_X18_begin 5 (S_isp 285 1 8 hd_0) := k_isp (en_F E) (ax_ok0 E rfl) ((ev_i y_X16_init q1017 q393 q149 q394 nm_X16_init rfl (Nat.le_of_ble_eq_true rfl) dX18_begin_5) : ax_EvI G l ax_Ym M_X18_begin 5 285 1 3)
theorem r_X18_begin_8 (E : ax_EN G l) : ax_Snd G l ax_Ym M_X18_begin 8 (S_astore 3 9) := k_astore_n dX18_begin_8 rfl (Nat.le_of_ble_eq_true rfl)
theorem r_X18_begin_9 (E : ax_EN G l) : ax_Snd G l ax_Ym M_X18_begin 9 (S_aload 0 10) := k_aload_n dX18_begin_9 rfl
theorem r_X18_begin_10 (E : ax_EN G l) : ax_Snd G l ax_Ym M_X18_begin 10 (S_getf [(27, 9)] 13) := k_getf (en_F E) (ax_fes_cons (fe_275 E) ax_fes_nil) q425 dX18_begin_10
theorem r_X18_begin_13 (E : ax_EN G l) : ax_Snd G l ax_Ym M_X18_begin 13 (S_getf [(25, 2)] 16) := k_getfN (en_F E) (en_B E) (ax_fes_cons (fe_225 E) ax_fes_nil) q1162 dX18_begin_13
theorem r_X18_begin_16 (E : ax_EN G l) : ax_Snd G l ax_Ym M_X18_begin 16 (S_aload 3 17) := k_aload_n dX18_begin_16 rfl
theorem r_X18_begin_17 (E : ax_EN G l) : ax_Snd G l ax_Ym M_X18_begin 17 (S_iv [(4, 63)] 1 22 hd_0) := k_iv (en_F E) (ax_ok0 E rfl) (ax_Evs_cons ((ev_f (en_F E) (en_B E) (en_c E (k := 4) rfl) y_J2_add q1019 q1024 q1022 q121 q1026 q1021 q1020 q1025 q1023 q349 xn_166 (Nat.le_of_ble_eq_true rfl) dX18_begin_17) : ax_EvV G l ax_Ym M_X18_begin 17 1 5 4 63) ax_Evs_nil)
theorem r_X18_begin_22 (E : ax_EN G l) : ax_Snd G l ax_Ym M_X18_begin 22 (S_pop 23) := k_pop dX18_begin_22
theorem r_X18_begin_23 (E : ax_EN G l) : ax_Snd G l ax_Ym M_X18_begin 23 (S_aload 3 24) := k_aload_n dX18_begin_23 rfl
theorem r_X18_begin_24 (E : ax_EN G l) : ax_Snd G l ax_Ym M_X18_begin 24 (S_aret) := k_aret dX18_begin_24 rfl (Or.inl ⟨_, rfl⟩)
theorem mt_X18_begin (E : ax_EN G l) : ax_mt G l ax_Ym (4, P_X18_begin) (ax_Ym 295) := ⟨M_X18_begin, yX18_begin, ⟨rfl, by decide +kernel, rfl, (fun h => by cases h), Or.inl ⟨rfl, rfl⟩⟩, fun pc => (ax_sn_node (ax_sn_node (ax_sn_node (ax_sn_node (ax_sn_leaf (r_X18_begin_24 E)) (ax_sn_leaf (r_X18_begin_23 E))) (ax_sn_node (ax_sn_leaf (r_X18_begin_22 E)) (ax_sn_leaf (r_X18_begin_17 E)))) (ax_sn_node (ax_sn_node (ax_sn_leaf (r_X18_begin_16 E)) (ax_sn_leaf (r_X18_begin_13 E))) (ax_sn_leaf (r_X18_begin_10 E)))) (ax_sn_node (ax_sn_node (ax_sn_node (ax_sn_leaf (r_X18_begin_9 E)) (ax_sn_leaf (r_X18_begin_8 E))) (ax_sn_leaf (r_X18_begin_5 E))) (ax_sn_node (ax_sn_node (ax_sn_leaf (r_X18_begin_4 E)) (ax_sn_leaf (r_X18_begin_3 E))) (ax_sn_leaf (r_X18_begin_0 E)))))⟩
theorem r_X19_init_0 (E : ax_EN G l) : ax_Snd G l ax_Ym M_X19_init 0 (S_aload 0 1) := k_aload_n dX19_init_0 rfl
theorem r_X19_init_1 (E : ax_EN G l) : ax_Snd G l ax_Ym M_X19_init 1 (S_new 2 [.null, .int 0, .int 0, .int 0] 4 4) := k_new (en_F E) (mk_2 E) q525 dX19_init_1
theorem r_X19_init_4 (E : ax_EN G l) : ax_Snd G l ax_Ym M_X19_init 4 (S_dup 5) := k_dup dX19_init_4
theorem r_X19_init_5 (E : ax_EN G l) : ax_Snd G l ax_Ym M_X19_init 5 (S_isp 29 0 8 hd_0) := k_isp (en_F E) (ax_ok0 E rfl) ((ev_i y_J16_init q527 q528 q154 q529 nm_J16_init rfl (Nat.le_of_ble_eq_true rfl) dX19_init_5) : ax_EvI G l ax_Ym M_X19_init 5 29 0 3)
theorem r_X19_init_8 (E : ax_EN G l) : ax_Snd G l ax_Ym M_X19_init 8 (S_push (.ref 280) 10) := k_ldcS (en_x E 8 rfl) dX19_init_8
theorem r_X19_init_10 (E : ax_EN G l) : ax_Snd G l ax_Ym M_X19_init 10 (S_iv [(2, 30)] 1 13 hd_0) := k_iv (en_F E) (ax_ok0 E rfl) (ax_Evs_cons ((ev_v (en_c E (k := 2) rfl) rfl y_J16_append q558 q559 q560 q154 q561 nm_J16_append (Nat.le_of_ble_eq_true rfl) dX19_init_10) : ax_EvV G l ax_Ym M_X19_init 10 1 3 2 30) ax_Evs_nil)
theorem r_X19_init_13 (E : ax_EN G l) : ax_Snd G l ax_Ym M_X19_init 13 (S_iload 1 14) := k_iload_n dX19_init_13 rfl
theorem r_X19_init_14 (E : ax_EN G l) : ax_Snd G l ax_Ym M_X19_init 14 (S_iv [(2, 31)] 1 17 hd_0) := k_iv (en_F E) (ax_ok0 E rfl) (ax_Evs_cons ((ev_v (en_c E (k := 2) rfl) rfl y_J16_append_2 q678 q679 q680 q154 q681 nm_J16_append_2 (Nat.le_of_ble_eq_true rfl) dX19_init_14) : ax_EvV G l ax_Ym M_X19_init 14 1 3 2 31) ax_Evs_nil)
theorem r_X19_init_17 (E : ax_EN G l) : ax_Snd G l ax_Ym M_X19_init 17 (S_push (.ref 282) 19) := k_ldcS (en_x E 9 rfl) dX19_init_17
theorem r_X19_init_19 (E : ax_EN G l) : ax_Snd G l ax_Ym M_X19_init 19 (S_iv [(2, 30)] 1 22 hd_0) := k_iv (en_F E) (ax_ok0 E rfl) (ax_Evs_cons ((ev_v (en_c E (k := 2) rfl) rfl y_J16_append q558 q559 q560 q154 q561 nm_J16_append (Nat.le_of_ble_eq_true rfl) dX19_init_19) : ax_EvV G l ax_Ym M_X19_init 19 1 3 2 30) ax_Evs_nil)
theorem r_X19_init_22 (E : ax_EN G l) : ax_Snd G l ax_Ym M_X19_init 22 (S_iload 2 23) := k_iload_n dX19_init_22 rfl
theorem r_X19_init_23 (E : ax_EN G l) : ax_Snd G l ax_Ym M_X19_init 23 (S_iv [(2, 31)] 1 26 hd_0) := k_iv (en_F E) (ax_ok0 E rfl) (ax_Evs_cons ((ev_v (en_c E (k := 2) rfl) rfl y_J16_append_2 q678 q679 q680 q154 q681 nm_J16_append_2 (Nat.le_of_ble_eq_true rfl) dX19_init_23) : ax_EvV G l ax_Ym M_X19_init 23 1 3 2 31) ax_Evs_nil)
theorem r_X19_init_26 (E : ax_EN G l) : ax_Snd G l ax_Ym M_X19_init 26 (S_iv [(2, 32)] 0 29 hd_0) := k_iv (en_F E) (ax_ok0 E rfl) (ax_Evs_cons ((ev_v (en_c E (k := 2) rfl) rfl y_J16_toString q704 q705 q706 q154 q707 nm_J16_toString (Nat.le_of_ble_eq_true rfl) dX19_init_26) : ax_EvV G l ax_Ym M_X19_init 26 0 3 2 32) ax_Evs_nil)
theorem r_X19_init_29 (E : ax_EN G l) : ax_Snd G l ax_Ym M_X19_init 29 (S_isp 168 1 32 hd_0) := k_isp (en_F E) (ax_ok0 E rfl) ((ev_i y_J7_init q806 q764 q128 q765 nm_J7_init rfl (Nat.le_of_ble_eq_true rfl) dX19_init_29) : ax_EvI G l ax_Ym M_X19_init 29 168 1 3)
theorem r_X19_init_32 (E : ax_EN G l) : ax_Snd G l ax_Ym M_X19_init 32 (S_aload 0 33) := k_aload_n dX19_init_32 rfl
theorem r_X19_init_33 (E : ax_EN G l) : ax_Snd G l ax_Ym M_X19_init 33 (S_iload 1 34) := k_iload_n dX19_init_33 rfl
theorem r_X19_init_34 (E : ax_EN G l) : ax_Snd G l ax_Ym M_X19_init 34 (S_putf [(28, 0)] (.int) 37) := k_putfF (en_F E) (en_P E) (ax_fes_cons (fe_283 E) ax_fes_nil) (ax_fps_cons (fp_284 E) ax_fps_nil) rfl q807 dX19_init_34
theorem r_X19_init_37 (E : ax_EN G l) : ax_Snd G l ax_Ym M_X19_init 37 (S_aload 0 38) := k_aload_n dX19_init_37 rfl
theorem r_X19_init_38 (E : ax_EN G l) : ax_Snd G l ax_Ym M_X19_init 38 (S_iload 2 39) := k_iload_n dX19_init_38 rfl
theorem r_X19_init_39 (E : ax_EN G l) : ax_Snd G l ax_Ym M_X19_init 39 (S_putf [(28, 1)] (.int) 42) := k_putfF (en_F E) (en_P E) (ax_fes_cons (fe_285 E) ax_fes_nil) (ax_fps_cons (fp_286 E) ax_fps_nil) rfl q808 dX19_init_39
theorem r_X19_init_42 (E : ax_EN G l) : ax_Snd G l ax_Ym M_X19_init 42 (S_ret) := k_ret dX19_init_42 rfl
theorem mt_X19_init (E : ax_EN G l) : ax_mt G l ax_Ym (3, P_X19_init) (ax_Ym 296) := ⟨M_X19_init, yX19_init, ⟨rfl, by decide +kernel, rfl, (fun _ => rfl), Or.inl ⟨rfl, rfl⟩⟩, fun pc => (ax_sn_node (ax_sn_node (ax_sn_node (ax_sn_node (ax_sn_node (ax_sn_leaf (r_X19_init_42 E)) (ax_sn_leaf (r_X19_init_39 E))) (ax_sn_leaf (r_X19_init_38 E))) (ax_sn_node (ax_sn_node (ax_sn_leaf (r_X19_init_37 E)) (ax_sn_leaf (r_X19_init_34 E))) (ax_sn_leaf (r_X19_init_33 E)))) (ax_sn_node (ax_sn_node (ax_sn_node (ax_sn_leaf (r_X19_init_32 E)) (ax_sn_leaf (r_X19_init_29 E))) (ax_sn_leaf (r_X19_init_26 E))) (ax_sn_node (ax_sn_leaf (r_X19_init_23 E)) (ax_sn_leaf (r_X19_init_22 E))))) (ax_sn_node (ax_sn_node (ax_sn_node (ax_sn_node (ax_sn_leaf (r_X19_init_19 E)) (ax_sn_leaf (r_X19_init_17 E))) (ax_sn_leaf (r_X19_init_14 E))) (ax_sn_node (ax_sn_leaf (r_X19_init_13 E)) (ax_sn_leaf (r_X19_init_10 E)))) (ax_sn_node (ax_sn_node (ax_sn_node (ax_sn_leaf (r_X19_init_8 E)) (ax_sn_leaf (r_X19_init_5 E))) (ax_sn_leaf (r_X19_init_4 E))) (ax_sn_node (ax_sn_leaf (r_X19_init_1 E)) (ax_sn_leaf (r_X19_init_0 E))))))⟩
theorem r_X19_told_0 (E : ax_EN G l) : ax_Snd G l ax_Ym M_X19_told 0 (S_push (.int (100)) 2) := k_bipush dX19_told_0 rfl
theorem r_X19_told_2 (E : ax_EN G l) : ax_Snd G l ax_Ym M_X19_told 2 (S_aload 0 3) := k_aload_n dX19_told_2 rfl
theorem r_X19_told_3 (E : ax_EN G l) : ax_Snd G l ax_Ym M_X19_told 3 (S_getf [(28, 0)] 6) := k_getf (en_F E) (ax_fes_cons (fe_283 E) ax_fes_nil) q807 dX19_told_3
theorem r_X19_told_6 (E : ax_EN G l) : ax_Snd G l ax_Ym M_X19_told 6 (S_i2 (fun x y => x * y) 7) := k_imul dX19_told_6
theorem r_X19_told_7 (E : ax_EN G l) : ax_Snd G l ax_Ym M_X19_told 7 (S_aload 0 8) := k_aload_n dX19_told_7 rfl
theorem r_X19_told_8 (E : ax_EN G l) : ax_Snd G l ax_Ym M_X19_told 8 (S_getf [(28, 1)] 11) := k_getf (en_F E) (ax_fes_cons (fe_285 E) ax_fes_nil) q808 dX19_told_8
theorem r_X19_told_11 (E : ax_EN G l) : ax_Snd G l ax_Ym M_X19_told 11 (S_i2 (fun x y => x + y) 12) := k_iadd dX19_told_11
theorem r_X19_told_12 (E : ax_EN G l) : ax_Snd G l ax_Ym M_X19_told 12 (S_iret) := k_iret dX19_told_12 rfl
theorem mt_X19_told (E : ax_EN G l) : ax_mt G l ax_Ym (1, P_X19_told) (ax_Ym 297) := ⟨M_X19_told, yX19_told, ⟨rfl, by decide +kernel, rfl, (fun h => by cases h), Or.inl ⟨rfl, rfl⟩⟩, fun pc => (ax_sn_node (ax_sn_node (ax_sn_node (ax_sn_leaf (r_X19_told_12 E)) (ax_sn_leaf (r_X19_told_11 E))) (ax_sn_node (ax_sn_leaf (r_X19_told_8 E)) (ax_sn_leaf (r_X19_told_7 E)))) (ax_sn_node (ax_sn_node (ax_sn_leaf (r_X19_told_6 E)) (ax_sn_leaf (r_X19_told_3 E))) (ax_sn_node (ax_sn_leaf (r_X19_told_2 E)) (ax_sn_leaf (r_X19_told_0 E)))))⟩
theorem r_X2_init_0 (E : ax_EN G l) : ax_Snd G l ax_Ym M_X2_init 0 (S_aload 0 1) := k_aload_n dX2_init_0 rfl
theorem r_X2_init_1 (E : ax_EN G l) : ax_Snd G l ax_Ym M_X2_init 1 (S_oin 4) := k_oin q232 q189 w_oin dX2_init_1
theorem r_X2_init_4 (E : ax_EN G l) : ax_Snd G l ax_Ym M_X2_init 4 (S_aload 0 5) := k_aload_n dX2_init_4 rfl
theorem r_X2_init_5 (E : ax_EN G l) : ax_Snd G l ax_Ym M_X2_init 5 (S_push (.int (621)) 8) := k_sipush dX2_init_5 rfl
theorem r_X2_init_8 (E : ax_EN G l) : ax_Snd G l ax_Ym M_X2_init 8 (S_newa 0 0 10) := k_newa (atype := .int) (en_F E) (by decide) rfl (fun _ => rfl) (Or.inl q255) (by decide) (fun _ => rfl) dX2_init_8
theorem r_X2_init_10 (E : ax_EN G l) : ax_Snd G l ax_Ym M_X2_init 10 (S_putf [(29, 0)] (.array (.int)) 13) := k_putfF (en_F E) (en_P E) (ax_fes_cons (fe_158 E) ax_fes_nil) (ax_fps_cons (fp_287 E) ax_fps_nil) rfl q283 dX2_init_10
theorem r_X2_init_13 (E : ax_EN G l) : ax_Snd G l ax_Ym M_X2_init 13 (S_aload 0 14) := k_aload_n dX2_init_13 rfl
theorem r_X2_init_14 (E : ax_EN G l) : ax_Snd G l ax_Ym M_X2_init 14 (S_new 15 [.int 0, .int 0, .null, .null] 4 17) := k_new (en_F E) (mk_15 E) q233 dX2_init_14
theorem r_X2_init_17 (E : ax_EN G l) : ax_Snd G l ax_Ym M_X2_init 17 (S_dup 18) := k_dup dX2_init_17
theorem r_X2_init_18 (E : ax_EN G l) : ax_Snd G l ax_Ym M_X2_init 18 (S_isp 124 0 21 hd_0) := k_isp (en_F E) (ax_ok0 E rfl) ((ev_i y_J4_init q235 q236 q124 q237 nm_J4_init rfl (Nat.le_of_ble_eq_true rfl) dX2_init_18) : ax_EvI G l ax_Ym M_X2_init 18 124 0 3)
theorem r_X2_init_21 (E : ax_EN G l) : ax_Snd G l ax_Ym M_X2_init 21 (S_putf [(29, 1)] (.object "java/util/LinkedList") 24) := k_putfF (en_F E) (en_P E) (ax_fes_cons (fe_183 E) ax_fes_nil) (ax_fps_cons (fp_288 E) ax_fps_nil) rfl q286 dX2_init_21
theorem r_X2_init_24 (E : ax_EN G l) : ax_Snd G l ax_Ym M_X2_init 24 (S_aload 0 25) := k_aload_n dX2_init_24 rfl
theorem r_X2_init_25 (E : ax_EN G l) : ax_Snd G l ax_Ym M_X2_init 25 (S_new 16 [.null, .int 0, .int 0] 3 28) := k_new (en_F E) (mk_16 E) q256 dX2_init_25
theorem r_X2_init_28 (E : ax_EN G l) : ax_Snd G l ax_Ym M_X2_init 28 (S_dup 29) := k_dup dX2_init_28
theorem r_X2_init_29 (E : ax_EN G l) : ax_Snd G l ax_Ym M_X2_init 29 (S_isp 142 0 32 hd_0) := k_isp (en_F E) (ax_ok0 E rfl) ((ev_i y_J5_init q258 q259 q125 q260 nm_J5_init rfl (Nat.le_of_ble_eq_true rfl) dX2_init_29) : ax_EvI G l ax_Ym M_X2_init 29 142 0 3)
theorem r_X2_init_32 (E : ax_EN G l) : ax_Snd G l ax_Ym M_X2_init 32 (S_putf [(29, 2)] (.object "java/util/ArrayDeque") 35) := k_putfF (en_F E) (en_P E) (ax_fes_cons (fe_159 E) ax_fes_nil) (ax_fps_cons (fp_290 E) ax_fps_nil) rfl q288 dX2_init_32
theorem r_X2_init_35 (E : ax_EN G l) : ax_Snd G l ax_Ym M_X2_init 35 (S_aload 0 36) := k_aload_n dX2_init_35 rfl
theorem r_X2_init_36 (E : ax_EN G l) : ax_Snd G l ax_Ym M_X2_init 36 (S_push (.int (0)) 37) := k_iconst dX2_init_36 rfl
theorem r_X2_init_37 (E : ax_EN G l) : ax_Snd G l ax_Ym M_X2_init 37 (S_newa 0 0 39) := k_newa (atype := .int) (en_F E) (by decide) rfl (fun _ => rfl) (Or.inl q255) (by decide) (fun _ => rfl) dX2_init_37
theorem r_X2_init_39 (E : ax_EN G l) : ax_Snd G l ax_Ym M_X2_init 39 (S_putf [(29, 5)] (.array (.int)) 42) := k_putf (en_F E) (en_P E) (ax_fes_cons (fe_291 E) ax_fes_nil) (ax_fps_cons (fp_292 E) ax_fps_nil) q292 dX2_init_39
theorem r_X2_init_42 (E : ax_EN G l) : ax_Snd G l ax_Ym M_X2_init 42 (S_aload 0 43) := k_aload_n dX2_init_42 rfl
theorem r_X2_init_43 (E : ax_EN G l) : ax_Snd G l ax_Ym M_X2_init 43 (S_push (.int (256)) 46) := k_sipush dX2_init_43 rfl
theorem r_X2_init_46 (E : ax_EN G l) : ax_Snd G l ax_Ym M_X2_init 46 (S_newa 0 0 48) := k_newa (atype := .int) (en_F E) (by decide) rfl (fun _ => rfl) (Or.inl q255) (by decide) (fun _ => rfl) dX2_init_46
theorem r_X2_init_48 (E : ax_EN G l) : ax_Snd G l ax_Ym M_X2_init 48 (S_putf [(29, 6)] (.array (.int)) 51) := k_putfF (en_F E) (en_P E) (ax_fes_cons (fe_293 E) ax_fes_nil) (ax_fps_cons (fp_294 E) ax_fps_nil) rfl q293 dX2_init_48
theorem r_X2_init_51 (E : ax_EN G l) : ax_Snd G l ax_Ym M_X2_init 51 (S_aload 0 52) := k_aload_n dX2_init_51 rfl
theorem r_X2_init_52 (E : ax_EN G l) : ax_Snd G l ax_Ym M_X2_init 52 (S_push (.int (3)) 53) := k_iconst dX2_init_52 rfl
theorem r_X2_init_53 (E : ax_EN G l) : ax_Snd G l ax_Ym M_X2_init 53 (S_newa 0 0 55) := k_newa (atype := .int) (en_F E) (by decide) rfl (fun _ => rfl) (Or.inl q255) (by decide) (fun _ => rfl) dX2_init_53
theorem r_X2_init_55 (E : ax_EN G l) : ax_Snd G l ax_Ym M_X2_init 55 (S_putf [(29, 7)] (.array (.int)) 58) := k_putfF (en_F E) (en_P E) (ax_fes_cons (fe_295 E) ax_fes_nil) (ax_fps_cons (fp_296 E) ax_fps_nil) rfl q294 dX2_init_55
theorem r_X2_init_58 (E : ax_EN G l) : ax_Snd G l ax_Ym M_X2_init 58 (S_aload 0 59) := k_aload_n dX2_init_58 rfl
theorem r_X2_init_59 (E : ax_EN G l) : ax_Snd G l ax_Ym M_X2_init 59 (S_push (.int (3)) 60) := k_iconst dX2_init_59 rfl
theorem r_X2_init_60 (E : ax_EN G l) : ax_Snd G l ax_Ym M_X2_init 60 (S_push (.int (8)) 62) := k_bipush dX2_init_60 rfl
theorem r_X2_init_62 (E : ax_EN G l) : ax_Snd G l ax_Ym M_X2_init 62 (S_newaa 66) := k_newaa (en_F E) (en_B E) q277 q278 q255 dX2_init_62
theorem r_X2_init_66 (E : ax_EN G l) : ax_Snd G l ax_Ym M_X2_init 66 (S_putf [(29, 8)] (.array (.array (.int))) 69) := k_putf (en_F E) (en_P E) (ax_fes_cons (fe_297 E) ax_fes_nil) (ax_fps_cons (fp_298 E) ax_fps_nil) q295 dX2_init_66
theorem r_X2_init_69 (E : ax_EN G l) : ax_Snd G l ax_Ym M_X2_init 69 (S_aload 0 70) := k_aload_n dX2_init_69 rfl
theorem r_X2_init_70 (E : ax_EN G l) : ax_Snd G l ax_Ym M_X2_init 70 (S_iload 1 71) := k_iload_n dX2_init_70 rfl
theorem r_X2_init_71 (E : ax_EN G l) : ax_Snd G l ax_Ym M_X2_init 71 (S_putf [(29, 3)] (.boolean) 74) := k_putfF (en_F E) (en_P E) (ax_fes_cons (fe_299 E) ax_fes_nil) (ax_fps_cons (fp_300 E) ax_fps_nil) rfl q290 dX2_init_71
theorem r_X2_init_74 (E : ax_EN G l) : ax_Snd G l ax_Ym M_X2_init 74 (S_aload 0 75) := k_aload_n dX2_init_74 rfl
theorem r_X2_init_75 (E : ax_EN G l) : ax_Snd G l ax_Ym M_X2_init 75 (S_iv [(29, 299)] 0 78 hd_0) := k_iv (en_F E) (ax_ok0 E rfl) (ax_Evs_cons ((ev_v (en_c E (k := 29) rfl) rfl y_X2_format q279 q280 q281 q122 q282 nm_X2_format (Nat.le_of_ble_eq_true rfl) dX2_init_75) : ax_EvV G l ax_Ym M_X2_init 75 0 3 29 299) ax_Evs_nil)
theorem r_X2_init_78 (E : ax_EN G l) : ax_Snd G l ax_Ym M_X2_init 78 (S_ret) := k_ret dX2_init_78 rfl
theorem mt_X2_init (E : ax_EN G l) : ax_mt G l ax_Ym (2, P_X2_init) (ax_Ym 298) := ⟨M_X2_init, yX2_init, ⟨rfl, by decide +kernel, rfl, (fun _ => rfl), Or.inl ⟨rfl, rfl⟩⟩, fun pc => (ax_sn_node (ax_sn_node (ax_sn_node (ax_sn_node (ax_sn_node (ax_sn_node (ax_sn_leaf (r_X2_init_78 E)) (ax_sn_leaf (r_X2_init_75 E))) (ax_sn_leaf (r_X2_init_74 E))) (ax_sn_node (ax_sn_leaf (r_X2_init_71 E)) (ax_sn_leaf (r_X2_init_70 E)))) (ax_sn_node (ax_sn_node (ax_sn_node (ax_sn_leaf (r_X2_init_69 E)) (ax_sn_leaf (r_X2_init_66 E))) (ax_sn_leaf (r_X2_init_62 E))) (ax_sn_node (ax_sn_leaf (r_X2_init_60 E)) (ax_sn_leaf (r_X2_init_59 E))))) (ax_sn_node (ax_sn_node (ax_sn_node (ax_sn_node (ax_sn_leaf (r_X2_init_58 E)) (ax_sn_leaf (r_X2_init_55 E))) (ax_sn_leaf (r_X2_init_53 E))) (ax_sn_node (ax_sn_leaf (r_X2_init_52 E)) (ax_sn_leaf (r_X2_init_51 E)))) (ax_sn_node (ax_sn_node (ax_sn_node (ax_sn_leaf (r_X2_init_48 E)) (ax_sn_leaf (r_X2_init_46 E))) (ax_sn_leaf (r_X2_init_43 E))) (ax_sn_node (ax_sn_leaf (r_X2_init_42 E)) (ax_sn_leaf (r_X2_init_39 E)))))) (ax_sn_node (ax_sn_node (ax_sn_node (ax_sn_node (ax_sn_node (ax_sn_leaf (r_X2_init_37 E)) (ax_sn_leaf (r_X2_init_36 E))) (ax_sn_leaf (r_X2_init_35 E))) (ax_sn_node (ax_sn_leaf (r_X2_init_32 E)) (ax_sn_leaf (r_X2_init_29 E)))) (ax_sn_node (ax_sn_node (ax_sn_node (ax_sn_leaf (r_X2_init_28 E)) (ax_sn_leaf (r_X2_init_25 E))) (ax_sn_leaf (r_X2_init_24 E))) (ax_sn_node (ax_sn_leaf (r_X2_init_21 E)) (ax_sn_leaf (r_X2_init_18 E))))) (ax_sn_node (ax_sn_node (ax_sn_node (ax_sn_node (ax_sn_leaf (r_X2_init_17 E)) (ax_sn_leaf (r_X2_init_14 E))) (ax_sn_leaf (r_X2_init_13 E))) (ax_sn_node (ax_sn_leaf (r_X2_init_10 E)) (ax_sn_leaf (r_X2_init_8 E)))) (ax_sn_node (ax_sn_node (ax_sn_leaf (r_X2_init_5 E)) (ax_sn_leaf (r_X2_init_4 E))) (ax_sn_node (ax_sn_leaf (r_X2_init_1 E)) (ax_sn_leaf (r_X2_init_0 E)))))))⟩
theorem r_X2_format_0 (E : ax_EN G l) : ax_Snd G l ax_Ym M_X2_format 0 (S_push (.int (364)) 3) := k_sipush dX2_format_0 rfl
theorem r_X2_format_3 (E : ax_EN G l) : ax_Snd G l ax_Ym M_X2_format 3 (S_istore 1 4) := k_istore_n dX2_format_3 rfl (Nat.le_of_ble_eq_true rfl)
theorem r_X2_format_4 (E : ax_EN G l) : ax_Snd G l ax_Ym M_X2_format 4 (S_iload 1 5) := k_iload_n dX2_format_4 rfl
theorem r_X2_format_5 (E : ax_EN G l) : ax_Snd G l ax_Ym M_X2_format 5 (S_push (.int (621)) 8) := k_sipush dX2_format_5 rfl
theorem r_X2_format_8 (E : ax_EN G l) : ax_Snd G l ax_Ym M_X2_format 8 (S_if2 (fun x y => decide (y ≤ x)) 24 11) := k_icmp_ge dX2_format_8 rfl
theorem r_X2_format_11 (E : ax_EN G l) : ax_Snd G l ax_Ym M_X2_format 11 (S_aload 0 12) := k_aload_n dX2_format_11 rfl
theorem r_X2_format_12 (E : ax_EN G l) : ax_Snd G l ax_Ym M_X2_format 12 (S_getf [(29, 0)] 15) := k_getf (en_F E) (ax_fes_cons (fe_158 E) ax_fes_nil) q283 dX2_format_12
theorem r_X2_format_15 (E : ax_EN G l) : ax_Snd G l ax_Ym M_X2_format 15 (S_iload 1 16) := k_iload_n dX2_format_15 rfl
theorem r_X2_format_16 (E : ax_EN G l) : ax_Snd G l ax_Ym M_X2_format 16 (S_push (.int (0)) 17) := k_iconst dX2_format_16 rfl
theorem r_X2_format_17 (E : ax_EN G l) : ax_Snd G l ax_Ym M_X2_format 17 (S_iast 0 (fun x => x) 18) := k_iast (en_F E) dX2_format_17
theorem r_X2_format_18 (E : ax_EN G l) : ax_Snd G l ax_Ym M_X2_format 18 (S_iinc 1 (1) 21) := k_iinc dX2_format_18 rfl (Nat.le_of_ble_eq_true rfl)
theorem r_X2_format_21 (E : ax_EN G l) : ax_Snd G l ax_Ym M_X2_format 21 (S_goto 4) := k_goto dX2_format_21 rfl
theorem r_X2_format_24 (E : ax_EN G l) : ax_Snd G l ax_Ym M_X2_format 24 (S_aload 0 25) := k_aload_n dX2_format_24 rfl
theorem r_X2_format_25 (E : ax_EN G l) : ax_Snd G l ax_Ym M_X2_format 25 (S_getf [(29, 0)] 28) := k_getf (en_F E) (ax_fes_cons (fe_158 E) ax_fes_nil) q283 dX2_format_25
theorem r_X2_format_28 (E : ax_EN G l) : ax_Snd G l ax_Ym M_X2_format 28 (S_push (.int (397)) 31) := k_sipush dX2_format_28 rfl
theorem r_X2_format_31 (E : ax_EN G l) : ax_Snd G l ax_Ym M_X2_format 31 (S_push (.int (255)) 34) := k_sipush dX2_format_31 rfl
theorem r_X2_format_34 (E : ax_EN G l) : ax_Snd G l ax_Ym M_X2_format 34 (S_iast 0 (fun x => x) 35) := k_iast (en_F E) dX2_format_34
theorem r_X2_format_35 (E : ax_EN G l) : ax_Snd G l ax_Ym M_X2_format 35 (S_ret) := k_ret dX2_format_35 rfl
theorem mt_X2_format (E : ax_EN G l) : ax_mt G l ax_Ym (2, P_X2_format) (ax_Ym 299) := ⟨M_X2_format, yX2_format, ⟨rfl, by decide +kernel, rfl, (fun h => by cases h), Or.inl ⟨rfl, rfl⟩⟩, fun pc => (ax_sn_node (ax_sn_node (ax_sn_node (ax_sn_node (ax_sn_node (ax_sn_leaf (r_X2_format_35 E)) (ax_sn_leaf (r_X2_format_34 E))) (ax_sn_leaf (r_X2_format_31 E))) (ax_sn_node (ax_sn_leaf (r_X2_format_28 E)) (ax_sn_leaf (r_X2_format_25 E)))) (ax_sn_node (ax_sn_node (ax_sn_leaf (r_X2_format_24 E)) (ax_sn_leaf (r_X2_format_21 E))) (ax_sn_node (ax_sn_leaf (r_X2_format_18 E)) (ax_sn_leaf (r_X2_format_17 E))))) (ax_sn_node (ax_sn_node (ax_sn_node (ax_sn_node (ax_sn_leaf (r_X2_format_16 E)) (ax_sn_leaf (r_X2_format_15 E))) (ax_sn_leaf (r_X2_format_12 E))) (ax_sn_node (ax_sn_leaf (r_X2_format_11 E)) (ax_sn_leaf (r_X2_format_8 E)))) (ax_sn_node (ax_sn_node (ax_sn_leaf (r_X2_format_5 E)) (ax_sn_leaf (r_X2_format_4 E))) (ax_sn_node (ax_sn_leaf (r_X2_format_3 E)) (ax_sn_leaf (r_X2_format_0 E))))))⟩
theorem r_X2_flags_0 (E : ax_EN G l) : ax_Snd G l ax_Ym M_X2_flags 0 (S_aload 0 1) := k_aload_n dX2_flags_0 rfl
theorem r_X2_flags_1 (E : ax_EN G l) : ax_Snd G l ax_Ym M_X2_flags 1 (S_getf [(29, 0)] 4) := k_getf (en_F E) (ax_fes_cons (fe_158 E) ax_fes_nil) q283 dX2_flags_1
theorem r_X2_flags_4 (E : ax_EN G l) : ax_Snd G l ax_Ym M_X2_flags 4 (S_push (.int (5)) 5) := k_iconst dX2_flags_4 rfl
theorem r_X2_flags_5 (E : ax_EN G l) : ax_Snd G l ax_Ym M_X2_flags 5 (S_iald 0 6) := k_iald (en_F E) dX2_flags_5
theorem r_X2_flags_6 (E : ax_EN G l) : ax_Snd G l ax_Ym M_X2_flags 6 (S_push (.int (2)) 7) := k_iconst dX2_flags_6 rfl
theorem r_X2_flags_7 (E : ax_EN G l) : ax_Snd G l ax_Ym M_X2_flags 7 (S_aload 0 8) := k_aload_n dX2_flags_7 rfl
theorem r_X2_flags_8 (E : ax_EN G l) : ax_Snd G l ax_Ym M_X2_flags 8 (S_getf [(29, 0)] 11) := k_getf (en_F E) (ax_fes_cons (fe_158 E) ax_fes_nil) q283 dX2_flags_8
theorem r_X2_flags_11 (E : ax_EN G l) : ax_Snd G l ax_Ym M_X2_flags 11 (S_push (.int (6)) 13) := k_bipush dX2_flags_11 rfl
theorem r_X2_flags_13 (E : ax_EN G l) : ax_Snd G l ax_Ym M_X2_flags 13 (S_iald 0 14) := k_iald (en_F E) dX2_flags_13
theorem r_X2_flags_14 (E : ax_EN G l) : ax_Snd G l ax_Ym M_X2_flags 14 (S_i2 (fun x y => x * y) 15) := k_imul dX2_flags_14
theorem r_X2_flags_15 (E : ax_EN G l) : ax_Snd G l ax_Ym M_X2_flags 15 (S_i2 (fun x y => x + y) 16) := k_iadd dX2_flags_15
theorem r_X2_flags_16 (E : ax_EN G l) : ax_Snd G l ax_Ym M_X2_flags 16 (S_push (.int (4)) 17) := k_iconst dX2_flags_16 rfl
theorem r_X2_flags_17 (E : ax_EN G l) : ax_Snd G l ax_Ym M_X2_flags 17 (S_aload 0 18) := k_aload_n dX2_flags_17 rfl
theorem r_X2_flags_18 (E : ax_EN G l) : ax_Snd G l ax_Ym M_X2_flags 18 (S_getf [(29, 0)] 21) := k_getf (en_F E) (ax_fes_cons (fe_158 E) ax_fes_nil) q283 dX2_flags_18
theorem r_X2_flags_21 (E : ax_EN G l) : ax_Snd G l ax_Ym M_X2_flags 21 (S_push (.int (7)) 23) := k_bipush dX2_flags_21 rfl
theorem r_X2_flags_23 (E : ax_EN G l) : ax_Snd G l ax_Ym M_X2_flags 23 (S_iald 0 24) := k_iald (en_F E) dX2_flags_23
theorem r_X2_flags_24 (E : ax_EN G l) : ax_Snd G l ax_Ym M_X2_flags 24 (S_i2 (fun x y => x * y) 25) := k_imul dX2_flags_24
theorem r_X2_flags_25 (E : ax_EN G l) : ax_Snd G l ax_Ym M_X2_flags 25 (S_i2 (fun x y => x + y) 26) := k_iadd dX2_flags_25
theorem r_X2_flags_26 (E : ax_EN G l) : ax_Snd G l ax_Ym M_X2_flags 26 (S_push (.int (8)) 28) := k_bipush dX2_flags_26 rfl
theorem r_X2_flags_28 (E : ax_EN G l) : ax_Snd G l ax_Ym M_X2_flags 28 (S_aload 0 29) := k_aload_n dX2_flags_28 rfl
theorem r_X2_flags_29 (E : ax_EN G l) : ax_Snd G l ax_Ym M_X2_flags 29 (S_getf [(29, 0)] 32) := k_getf (en_F E) (ax_fes_cons (fe_158 E) ax_fes_nil) q283 dX2_flags_29
theorem r_X2_flags_32 (E : ax_EN G l) : ax_Snd G l ax_Ym M_X2_flags 32 (S_push (.int (8)) 34) := k_bipush dX2_flags_32 rfl
theorem r_X2_flags_34 (E : ax_EN G l) : ax_Snd G l ax_Ym M_X2_flags 34 (S_iald 0 35) := k_iald (en_F E) dX2_flags_34
theorem r_X2_flags_35 (E : ax_EN G l) : ax_Snd G l ax_Ym M_X2_flags 35 (S_i2 (fun x y => x * y) 36) := k_imul dX2_flags_35
theorem r_X2_flags_36 (E : ax_EN G l) : ax_Snd G l ax_Ym M_X2_flags 36 (S_i2 (fun x y => x + y) 37) := k_iadd dX2_flags_36
theorem r_X2_flags_37 (E : ax_EN G l) : ax_Snd G l ax_Ym M_X2_flags 37 (S_push (.int (16)) 39) := k_bipush dX2_flags_37 rfl
theorem r_X2_flags_39 (E : ax_EN G l) : ax_Snd G l ax_Ym M_X2_flags 39 (S_aload 0 40) := k_aload_n dX2_flags_39 rfl
theorem r_X2_flags_40 (E : ax_EN G l) : ax_Snd G l ax_Ym M_X2_flags 40 (S_getf [(29, 0)] 43) := k_getf (en_F E) (ax_fes_cons (fe_158 E) ax_fes_nil) q283 dX2_flags_40
theorem r_X2_flags_43 (E : ax_EN G l) : ax_Snd G l ax_Ym M_X2_flags 43 (S_push (.int (9)) 45) := k_bipush dX2_flags_43 rfl
theorem r_X2_flags_45 (E : ax_EN G l) : ax_Snd G l ax_Ym M_X2_flags 45 (S_iald 0 46) := k_iald (en_F E) dX2_flags_45
theorem r_X2_flags_46 (E : ax_EN G l) : ax_Snd G l ax_Ym M_X2_flags 46 (S_i2 (fun x y => x * y) 47) := k_imul dX2_flags_46
theorem r_X2_flags_47 (E : ax_EN G l) : ax_Snd G l ax_Ym M_X2_flags 47 (S_i2 (fun x y => x + y) 48) := k_iadd dX2_flags_47
theorem r_X2_flags_48 (E : ax_EN G l) : ax_Snd G l ax_Ym M_X2_flags 48 (S_iret) := k_iret dX2_flags_48 rfl
theorem mt_X2_flags (E : ax_EN G l) : ax_mt G l ax_Ym (1, P_X2_flags) (ax_Ym 300) := ⟨M_X2_flags, yX2_flags, ⟨rfl, by decide +kernel, rfl, (fun h => by cases h), Or.inl ⟨rfl, rfl⟩⟩, fun pc => (ax_sn_node (ax_sn_node (ax_sn_node (ax_sn_node (ax_sn_node (ax_sn_node (ax_sn_leaf (r_X2_flags_48 E)) (ax_sn_leaf (r_X2_flags_47 E))) (ax_sn_leaf (r_X2_flags_46 E))) (ax_sn_node (ax_sn_leaf (r_X2_flags_45 E)) (ax_sn_leaf (r_X2_flags_43 E)))) (ax_sn_node (ax_sn_node (ax_sn_leaf (r_X2_flags_40 E)) (ax_sn_leaf (r_X2_flags_39 E))) (ax_sn_node (ax_sn_leaf (r_X2_flags_37 E)) (ax_sn_leaf (r_X2_flags_36 E))))) (ax_sn_node (ax_sn_node (ax_sn_node (ax_sn_leaf (r_X2_flags_35 E)) (ax_sn_leaf (r_X2_flags_34 E))) (ax_sn_node (ax_sn_leaf (r_X2_flags_32 E)) (ax_sn_leaf (r_X2_flags_29 E)))) (ax_sn_node (ax_sn_node (ax_sn_leaf (r_X2_flags_28 E)) (ax_sn_leaf (r_X2_flags_26 E))) (ax_sn_node (ax_sn_leaf (r_X2_flags_25 E)) (ax_sn_leaf (r_X2_flags_24 E)))))) (ax_sn_node (ax_sn_node (ax_sn_node (ax_sn_node (ax_sn_leaf (r_X2_flags_23 E)) (ax_sn_leaf (r_X2_flags_21 E))) (ax_sn_node (ax_sn_leaf (r_X2_flags_18 E)) (ax_sn_leaf (r_X2_flags_17 E)))) (ax_sn_node (ax_sn_node (ax_sn_leaf (r_X2_flags_16 E)) (ax_sn_leaf (r_X2_flags_15 E))) (ax_sn_node (ax_sn_leaf (r_X2_flags_14 E)) (ax_sn_leaf (r_X2_flags_13 E))))) (ax_sn_node (ax_sn_node (ax_sn_node (ax_sn_leaf (r_X2_flags_11 E)) (ax_sn_leaf (r_X2_flags_8 E))) (ax_sn_node (ax_sn_leaf (r_X2_flags_7 E)) (ax_sn_leaf (r_X2_flags_6 E)))) (ax_sn_node (ax_sn_node (ax_sn_leaf (r_X2_flags_5 E)) (ax_sn_leaf (r_X2_flags_4 E))) (ax_sn_node (ax_sn_leaf (r_X2_flags_1 E)) (ax_sn_leaf (r_X2_flags_0 E)))))))⟩
theorem r_X2_writesLeft_0 (E : ax_EN G l) : ax_Snd G l ax_Ym M_X2_writesLeft 0 (S_aload 0 1) := k_aload_n dX2_writesLeft_0 rfl
theorem r_X2_writesLeft_1 (E : ax_EN G l) : ax_Snd G l ax_Ym M_X2_writesLeft 1 (S_getf [(29, 0)] 4) := k_getf (en_F E) (ax_fes_cons (fe_158 E) ax_fes_nil) q283 dX2_writesLeft_1
theorem r_X2_writesLeft_4 (E : ax_EN G l) : ax_Snd G l ax_Ym M_X2_writesLeft 4 (S_push (.int (18)) 6) := k_bipush dX2_writesLeft_4 rfl
theorem r_X2_writesLeft_6 (E : ax_EN G l) : ax_Snd G l ax_Ym M_X2_writesLeft 6 (S_iald 0 7) := k_iald (en_F E) dX2_writesLeft_6
theorem r_X2_writesLeft_7 (E : ax_EN G l) : ax_Snd G l ax_Ym M_X2_writesLeft 7 (S_if1 (fun x => decide (¬ x = 0)) 14 10) := k_if_ne dX2_writesLeft_7 rfl
theorem r_X2_writesLeft_10 (E : ax_EN G l) : ax_Snd G l ax_Ym M_X2_writesLeft 10 (S_push (.int (0)) 11) := k_iconst dX2_writesLeft_10 rfl
theorem r_X2_writesLeft_11 (E : ax_EN G l) : ax_Snd G l ax_Ym M_X2_writesLeft 11 (S_goto 33) := k_goto dX2_writesLeft_11 rfl
theorem r_X2_writesLeft_14 (E : ax_EN G l) : ax_Snd G l ax_Ym M_X2_writesLeft 14 (S_push (.int (2)) 15) := k_iconst dX2_writesLeft_14 rfl
theorem r_X2_writesLeft_15 (E : ax_EN G l) : ax_Snd G l ax_Ym M_X2_writesLeft 15 (S_aload 0 16) := k_aload_n dX2_writesLeft_15 rfl
theorem r_X2_writesLeft_16 (E : ax_EN G l) : ax_Snd G l ax_Ym M_X2_writesLeft 16 (S_getf [(29, 0)] 19) := k_getf (en_F E) (ax_fes_cons (fe_158 E) ax_fes_nil) q283 dX2_writesLeft_16
theorem r_X2_writesLeft_19 (E : ax_EN G l) : ax_Snd G l ax_Ym M_X2_writesLeft 19 (S_push (.int (18)) 21) := k_bipush dX2_writesLeft_19 rfl
theorem r_X2_writesLeft_21 (E : ax_EN G l) : ax_Snd G l ax_Ym M_X2_writesLeft 21 (S_iald 0 22) := k_iald (en_F E) dX2_writesLeft_21
theorem r_X2_writesLeft_22 (E : ax_EN G l) : ax_Snd G l ax_Ym M_X2_writesLeft 22 (S_i2 (fun x y => x * y) 23) := k_imul dX2_writesLeft_22
theorem r_X2_writesLeft_23 (E : ax_EN G l) : ax_Snd G l ax_Ym M_X2_writesLeft 23 (S_push (.int (2)) 24) := k_iconst dX2_writesLeft_23 rfl
theorem r_X2_writesLeft_24 (E : ax_EN G l) : ax_Snd G l ax_Ym M_X2_writesLeft 24 (S_i2 (fun x y => x + y) 25) := k_iadd dX2_writesLeft_24
theorem r_X2_writesLeft_25 (E : ax_EN G l) : ax_Snd G l ax_Ym M_X2_writesLeft 25 (S_aload 0 26) := k_aload_n dX2_writesLeft_25 rfl
theorem r_X2_writesLeft_26 (E : ax_EN G l) : ax_Snd G l ax_Ym M_X2_writesLeft 26 (S_getf [(29, 0)] 29) := k_getf (en_F E) (ax_fes_cons (fe_158 E) ax_fes_nil) q283 dX2_writesLeft_26
theorem r_X2_writesLeft_29 (E : ax_EN G l) : ax_Snd G l ax_Ym M_X2_writesLeft 29 (S_push (.int (19)) 31) := k_bipush dX2_writesLeft_29 rfl
theorem r_X2_writesLeft_31 (E : ax_EN G l) : ax_Snd G l ax_Ym M_X2_writesLeft 31 (S_iald 0 32) := k_iald (en_F E) dX2_writesLeft_31
theorem r_X2_writesLeft_32 (E : ax_EN G l) : ax_Snd G l ax_Ym M_X2_writesLeft 32 (S_i2 (fun x y => x - y) 33) := k_isub dX2_writesLeft_32
theorem r_X2_writesLeft_33 (E : ax_EN G l) : ax_Snd G l ax_Ym M_X2_writesLeft 33 (S_iret) := k_iret dX2_writesLeft_33 rfl
theorem mt_X2_writesLeft (E : ax_EN G l) : ax_mt G l ax_Ym (1, P_X2_writesLeft) (ax_Ym 301) := ⟨M_X2_writesLeft, yX2_writesLeft, ⟨rfl, by decide +kernel, rfl, (fun h => by cases h), Or.inl ⟨rfl, rfl⟩⟩, fun pc => (ax_sn_node (ax_sn_node (ax_sn_node (ax_sn_node (ax_sn_node (ax_sn_leaf (r_X2_writesLeft_33 E)) (ax_sn_leaf (r_X2_writesLeft_32 E))) (ax_sn_leaf (r_X2_writesLeft_31 E))) (ax_sn_node (ax_sn_node (ax_sn_leaf (r_X2_writesLeft_29 E)) (ax_sn_leaf (r_X2_writesLeft_26 E))) (ax_sn_leaf (r_X2_writesLeft_25 E)))) (ax_sn_node (ax_sn_node (ax_sn_node (ax_sn_leaf (r_X2_writesLeft_24 E)) (ax_sn_leaf (r_X2_writesLeft_23 E))) (ax_sn_leaf (r_X2_writesLeft_22 E))) (ax_sn_node (ax_sn_leaf (r_X2_writesLeft_21 E)) (ax_sn_leaf (r_X2_writesLeft_19 E))))) (ax_sn_node (ax_sn_node (ax_sn_node (ax_sn_node (ax_sn_leaf (r_X2_writesLeft_16 E)) (ax_sn_leaf (r_X2_writesLeft_15 E))) (ax_sn_leaf (r_X2_writesLeft_14 E))) (ax_sn_node (ax_sn_leaf (r_X2_writesLeft_11 E)) (ax_sn_leaf (r_X2_writesLeft_10 E)))) (ax_sn_node (ax_sn_node (ax_sn_node (ax_sn_leaf (r_X2_writesLeft_7 E)) (ax_sn_leaf (r_X2_writesLeft_6 E))) (ax_sn_leaf (r_X2_writesLeft_4 E))) (ax_sn_node (ax_sn_leaf (r_X2_writesLeft_1 E)) (ax_sn_leaf (r_X2_writesLeft_0 E))))))⟩
theorem r_X2_sum_0 (E : ax_EN G l) : ax_Snd G l ax_Ym M_X2_sum 0 (S_aload 0 1) := k_aload_n dX2_sum_0 rfl
theorem r_X2_sum_1 (E : ax_EN G l) : ax_Snd G l ax_Ym M_X2_sum 1 (S_push (.int (7)) 3) := k_bipush dX2_sum_1 rfl
theorem r_X2_sum_3 (E : ax_EN G l) : ax_Snd G l ax_Ym M_X2_sum 3 (S_push (.int (0)) 4) := k_iconst dX2_sum_3 rfl
theorem r_X2_sum_4 (E : ax_EN G l) : ax_Snd G l ax_Ym M_X2_sum 4 (S_push (.int (5)) 5) := k_iconst dX2_sum_4 rfl
theorem r_X2_sum_5 (E : ax_EN G l) : ax_Snd G l ax_Ym M_X2_sum 5 (S_iv [(29, 303)] 3 8 hd_0) := k_iv (en_F E) (ax_ok0 E rfl) (ax_Evs_cons ((ev_v (en_c E (k := 29) rfl) rfl y_X2_added q1251 q1253 qs10 q122 q1254 nm_X2_added (Nat.le_of_ble_eq_true rfl) dX2_sum_5) : ax_EvV G l ax_Ym M_X2_sum 5 3 3 29 303) ax_Evs_nil)
theorem r_X2_sum_8 (E : ax_EN G l) : ax_Snd G l ax_Ym M_X2_sum 8 (S_istore 1 9) := k_istore_n dX2_sum_8 rfl (Nat.le_of_ble_eq_true rfl)
theorem r_X2_sum_9 (E : ax_EN G l) : ax_Snd G l ax_Ym M_X2_sum 9 (S_iload 1 10) := k_iload_n dX2_sum_9 rfl
theorem r_X2_sum_10 (E : ax_EN G l) : ax_Snd G l ax_Ym M_X2_sum 10 (S_aload 0 11) := k_aload_n dX2_sum_10 rfl
theorem r_X2_sum_11 (E : ax_EN G l) : ax_Snd G l ax_Ym M_X2_sum 11 (S_iv [(29, 300)] 0 14 hd_0) := k_iv (en_F E) (ax_ok0 E rfl) (ax_Evs_cons ((ev_v (en_c E (k := 29) rfl) rfl y_X2_flags q1256 q1228 q1229 q122 q1230 nm_X2_flags (Nat.le_of_ble_eq_true rfl) dX2_sum_11) : ax_EvV G l ax_Ym M_X2_sum 11 0 3 29 300) ax_Evs_nil)
theorem r_X2_sum_14 (E : ax_EN G l) : ax_Snd G l ax_Ym M_X2_sum 14 (S_is 304 2 17 hd_0) := k_is (en_F E) (ax_ok0 E rfl) ((ev_s y_X2_joined q1257 q1258 q122 q1259 nm_X2_joined (Nat.le_of_ble_eq_true rfl) dX2_sum_14) : ax_EvS G l ax_Ym M_X2_sum 14 304 2 3)
theorem r_X2_sum_17 (E : ax_EN G l) : ax_Snd G l ax_Ym M_X2_sum 17 (S_istore 1 18) := k_istore_n dX2_sum_17 rfl (Nat.le_of_ble_eq_true rfl)
theorem r_X2_sum_18 (E : ax_EN G l) : ax_Snd G l ax_Ym M_X2_sum 18 (S_aload 0 19) := k_aload_n dX2_sum_18 rfl
theorem r_X2_sum_19 (E : ax_EN G l) : ax_Snd G l ax_Ym M_X2_sum 19 (S_iload 1 20) := k_iload_n dX2_sum_19 rfl
theorem r_X2_sum_20 (E : ax_EN G l) : ax_Snd G l ax_Ym M_X2_sum 20 (S_push (.int (10)) 22) := k_bipush dX2_sum_20 rfl
theorem r_X2_sum_22 (E : ax_EN G l) : ax_Snd G l ax_Ym M_X2_sum 22 (S_push (.int (2)) 23) := k_iconst dX2_sum_22 rfl
theorem r_X2_sum_23 (E : ax_EN G l) : ax_Snd G l ax_Ym M_X2_sum 23 (S_iv [(29, 303)] 3 26 hd_0) := k_iv (en_F E) (ax_ok0 E rfl) (ax_Evs_cons ((ev_v (en_c E (k := 29) rfl) rfl y_X2_added q1251 q1253 qs10 q122 q1254 nm_X2_added (Nat.le_of_ble_eq_true rfl) dX2_sum_23) : ax_EvV G l ax_Ym M_X2_sum 23 3 3 29 303) ax_Evs_nil)
theorem r_X2_sum_26 (E : ax_EN G l) : ax_Snd G l ax_Ym M_X2_sum 26 (S_istore 1 27) := k_istore_n dX2_sum_26 rfl (Nat.le_of_ble_eq_true rfl)
theorem r_X2_sum_27 (E : ax_EN G l) : ax_Snd G l ax_Ym M_X2_sum 27 (S_aload 0 28) := k_aload_n dX2_sum_27 rfl
theorem r_X2_sum_28 (E : ax_EN G l) : ax_Snd G l ax_Ym M_X2_sum 28 (S_iload 1 29) := k_iload_n dX2_sum_28 rfl
theorem r_X2_sum_29 (E : ax_EN G l) : ax_Snd G l ax_Ym M_X2_sum 29 (S_push (.int (12)) 31) := k_bipush dX2_sum_29 rfl
theorem r_X2_sum_31 (E : ax_EN G l) : ax_Snd G l ax_Ym M_X2_sum 31 (S_push (.int (4)) 32) := k_iconst dX2_sum_31 rfl
theorem r_X2_sum_32 (E : ax_EN G l) : ax_Snd G l ax_Ym M_X2_sum 32 (S_iv [(29, 303)] 3 35 hd_0) := k_iv (en_F E) (ax_ok0 E rfl) (ax_Evs_cons ((ev_v (en_c E (k := 29) rfl) rfl y_X2_added q1251 q1253 qs10 q122 q1254 nm_X2_added (Nat.le_of_ble_eq_true rfl) dX2_sum_32) : ax_EvV G l ax_Ym M_X2_sum 32 3 3 29 303) ax_Evs_nil)
theorem r_X2_sum_35 (E : ax_EN G l) : ax_Snd G l ax_Ym M_X2_sum 35 (S_istore 1 36) := k_istore_n dX2_sum_35 rfl (Nat.le_of_ble_eq_true rfl)
theorem r_X2_sum_36 (E : ax_EN G l) : ax_Snd G l ax_Ym M_X2_sum 36 (S_iload 1 37) := k_iload_n dX2_sum_36 rfl
theorem r_X2_sum_37 (E : ax_EN G l) : ax_Snd G l ax_Ym M_X2_sum 37 (S_aload 0 38) := k_aload_n dX2_sum_37 rfl
theorem r_X2_sum_38 (E : ax_EN G l) : ax_Snd G l ax_Ym M_X2_sum 38 (S_iv [(29, 301)] 0 41 hd_0) := k_iv (en_F E) (ax_ok0 E rfl) (ax_Evs_cons ((ev_v (en_c E (k := 29) rfl) rfl y_X2_writesLeft q1260 q1236 q1237 q122 q1238 nm_X2_writesLeft (Nat.le_of_ble_eq_true rfl) dX2_sum_38) : ax_EvV G l ax_Ym M_X2_sum 38 0 3 29 301) ax_Evs_nil)
theorem r_X2_sum_41 (E : ax_EN G l) : ax_Snd G l ax_Ym M_X2_sum 41 (S_is 304 2 44 hd_0) := k_is (en_F E) (ax_ok0 E rfl) ((ev_s y_X2_joined q1257 q1258 q122 q1259 nm_X2_joined (Nat.le_of_ble_eq_true rfl) dX2_sum_41) : ax_EvS G l ax_Ym M_X2_sum 41 304 2 3)
theorem r_X2_sum_44 (E : ax_EN G l) : ax_Snd G l ax_Ym M_X2_sum 44 (S_istore 1 45) := k_istore_n dX2_sum_44 rfl (Nat.le_of_ble_eq_true rfl)
theorem r_X2_sum_45 (E : ax_EN G l) : ax_Snd G l ax_Ym M_X2_sum 45 (S_aload 0 46) := k_aload_n dX2_sum_45 rfl
theorem r_X2_sum_46 (E : ax_EN G l) : ax_Snd G l ax_Ym M_X2_sum 46 (S_iload 1 47) := k_iload_n dX2_sum_46 rfl
theorem r_X2_sum_47 (E : ax_EN G l) : ax_Snd G l ax_Ym M_X2_sum 47 (S_push (.int (108)) 49) := k_bipush dX2_sum_47 rfl
theorem r_X2_sum_49 (E : ax_EN G l) : ax_Snd G l ax_Ym M_X2_sum 49 (S_push (.int (256)) 52) := k_sipush dX2_sum_49 rfl
theorem r_X2_sum_52 (E : ax_EN G l) : ax_Snd G l ax_Ym M_X2_sum 52 (S_iv [(29, 303)] 3 55 hd_0) := k_iv (en_F E) (ax_ok0 E rfl) (ax_Evs_cons ((ev_v (en_c E (k := 29) rfl) rfl y_X2_added q1251 q1253 qs10 q122 q1254 nm_X2_added (Nat.le_of_ble_eq_true rfl) dX2_sum_52) : ax_EvV G l ax_Ym M_X2_sum 52 3 3 29 303) ax_Evs_nil)
theorem r_X2_sum_55 (E : ax_EN G l) : ax_Snd G l ax_Ym M_X2_sum 55 (S_istore 1 56) := k_istore_n dX2_sum_55 rfl (Nat.le_of_ble_eq_true rfl)
theorem r_X2_sum_56 (E : ax_EN G l) : ax_Snd G l ax_Ym M_X2_sum 56 (S_aload 0 57) := k_aload_n dX2_sum_56 rfl
theorem r_X2_sum_57 (E : ax_EN G l) : ax_Snd G l ax_Ym M_X2_sum 57 (S_iload 1 58) := k_iload_n dX2_sum_57 rfl
theorem r_X2_sum_58 (E : ax_EN G l) : ax_Snd G l ax_Ym M_X2_sum 58 (S_push (.int (365)) 61) := k_sipush dX2_sum_58 rfl
theorem r_X2_sum_61 (E : ax_EN G l) : ax_Snd G l ax_Ym M_X2_sum 61 (S_push (.int (256)) 64) := k_sipush dX2_sum_61 rfl
theorem r_X2_sum_64 (E : ax_EN G l) : ax_Snd G l ax_Ym M_X2_sum 64 (S_iv [(29, 303)] 3 67 hd_0) := k_iv (en_F E) (ax_ok0 E rfl) (ax_Evs_cons ((ev_v (en_c E (k := 29) rfl) rfl y_X2_added q1251 q1253 qs10 q122 q1254 nm_X2_added (Nat.le_of_ble_eq_true rfl) dX2_sum_64) : ax_EvV G l ax_Ym M_X2_sum 64 3 3 29 303) ax_Evs_nil)
theorem r_X2_sum_67 (E : ax_EN G l) : ax_Snd G l ax_Ym M_X2_sum 67 (S_istore 1 68) := k_istore_n dX2_sum_67 rfl (Nat.le_of_ble_eq_true rfl)
theorem r_X2_sum_68 (E : ax_EN G l) : ax_Snd G l ax_Ym M_X2_sum 68 (S_iload 1 69) := k_iload_n dX2_sum_68 rfl
theorem r_X2_sum_69 (E : ax_EN G l) : ax_Snd G l ax_Ym M_X2_sum 69 (S_aload 0 70) := k_aload_n dX2_sum_69 rfl
theorem r_X2_sum_70 (E : ax_EN G l) : ax_Snd G l ax_Ym M_X2_sum 70 (S_getf [(29, 0)] 73) := k_getf (en_F E) (ax_fes_cons (fe_158 E) ax_fes_nil) q283 dX2_sum_70
theorem r_X2_sum_73 (E : ax_EN G l) : ax_Snd G l ax_Ym M_X2_sum 73 (S_push (.int (17)) 75) := k_bipush dX2_sum_73 rfl
theorem r_X2_sum_75 (E : ax_EN G l) : ax_Snd G l ax_Ym M_X2_sum 75 (S_iald 0 76) := k_iald (en_F E) dX2_sum_75
theorem r_X2_sum_76 (E : ax_EN G l) : ax_Snd G l ax_Ym M_X2_sum 76 (S_is 304 2 79 hd_0) := k_is (en_F E) (ax_ok0 E rfl) ((ev_s y_X2_joined q1257 q1258 q122 q1259 nm_X2_joined (Nat.le_of_ble_eq_true rfl) dX2_sum_76) : ax_EvS G l ax_Ym M_X2_sum 76 304 2 3)
theorem r_X2_sum_79 (E : ax_EN G l) : ax_Snd G l ax_Ym M_X2_sum 79 (S_istore 1 80) := k_istore_n dX2_sum_79 rfl (Nat.le_of_ble_eq_true rfl)
theorem r_X2_sum_80 (E : ax_EN G l) : ax_Snd G l ax_Ym M_X2_sum 80 (S_aload 0 81) := k_aload_n dX2_sum_80 rfl
theorem r_X2_sum_81 (E : ax_EN G l) : ax_Snd G l ax_Ym M_X2_sum 81 (S_iload 1 82) := k_iload_n dX2_sum_81 rfl
theorem r_X2_sum_82 (E : ax_EN G l) : ax_Snd G l ax_Ym M_X2_sum 82 (S_push (.int (48)) 84) := k_bipush dX2_sum_82 rfl
theorem r_X2_sum_84 (E : ax_EN G l) : ax_Snd G l ax_Ym M_X2_sum 84 (S_aload 0 85) := k_aload_n dX2_sum_84 rfl
theorem r_X2_sum_85 (E : ax_EN G l) : ax_Snd G l ax_Ym M_X2_sum 85 (S_getf [(29, 0)] 88) := k_getf (en_F E) (ax_fes_cons (fe_158 E) ax_fes_nil) q283 dX2_sum_85
theorem r_X2_sum_88 (E : ax_EN G l) : ax_Snd G l ax_Ym M_X2_sum 88 (S_push (.int (17)) 90) := k_bipush dX2_sum_88 rfl
theorem r_X2_sum_90 (E : ax_EN G l) : ax_Snd G l ax_Ym M_X2_sum 90 (S_iald 0 91) := k_iald (en_F E) dX2_sum_90
theorem r_X2_sum_91 (E : ax_EN G l) : ax_Snd G l ax_Ym M_X2_sum 91 (S_iv [(29, 303)] 3 94 hd_0) := k_iv (en_F E) (ax_ok0 E rfl) (ax_Evs_cons ((ev_v (en_c E (k := 29) rfl) rfl y_X2_added q1251 q1253 qs10 q122 q1254 nm_X2_added (Nat.le_of_ble_eq_true rfl) dX2_sum_91) : ax_EvV G l ax_Ym M_X2_sum 91 3 3 29 303) ax_Evs_nil)
theorem r_X2_sum_94 (E : ax_EN G l) : ax_Snd G l ax_Ym M_X2_sum 94 (S_iret) := k_iret dX2_sum_94 rfl
theorem mt_X2_sum (E : ax_EN G l) : ax_mt G l ax_Ym (2, P_X2_sum) (ax_Ym 302) := ⟨M_X2_sum, yX2_sum, ⟨rfl, by decide +kernel, rfl, (fun h => by cases h), Or.inl ⟨rfl, rfl⟩⟩, fun pc => (ax_sn_node (ax_sn_node (ax_sn_node (ax_sn_node (ax_sn_node (ax_sn_node (ax_sn_leaf (r_X2_sum_94 E)) (ax_sn_leaf (r_X2_sum_91 E))) (ax_sn_node (ax_sn_leaf (r_X2_sum_90 E)) (ax_sn_leaf (r_X2_sum_88 E)))) (ax_sn_node (ax_sn_node (ax_sn_leaf (r_X2_sum_85 E)) (ax_sn_leaf (r_X2_sum_84 E))) (ax_sn_leaf (r_X2_sum_82 E)))) (ax_sn_node (ax_sn_node (ax_sn_node (ax_sn_leaf (r_X2_sum_81 E)) (ax_sn_leaf (r_X2_sum_80 E))) (ax_sn_node (ax_sn_leaf (r_X2_sum_79 E)) (ax_sn_leaf (r_X2_sum_76 E)))) (ax_sn_node (ax_sn_node (ax_sn_leaf (r_X2_sum_75 E)) (ax_sn_leaf (r_X2_sum_73 E))) (ax_sn_leaf (r_X2_sum_70 E))))) (ax_sn_node (ax_sn_node (ax_sn_node (ax_sn_node (ax_sn_leaf (r_X2_sum_69 E)) (ax_sn_leaf (r_X2_sum_68 E))) (ax_sn_node (ax_sn_leaf (r_X2_sum_67 E)) (ax_sn_leaf (r_X2_sum_64 E)))) (ax_sn_node (ax_sn_node (ax_sn_leaf (r_X2_sum_61 E)) (ax_sn_leaf (r_X2_sum_58 E))) (ax_sn_leaf (r_X2_sum_57 E)))) (ax_sn_node (ax_sn_node (ax_sn_node (ax_sn_leaf (r_X2_sum_56 E)) (ax_sn_leaf (r_X2_sum_55 E))) (ax_sn_node (ax_sn_leaf (r_X2_sum_52 E)) (ax_sn_leaf (r_X2_sum_49 E)))) (ax_sn_node (ax_sn_node (ax_sn_leaf (r_X2_sum_47 E)) (ax_sn_leaf (r_X2_sum_46 E))) (ax_sn_leaf (r_X2_sum_45 E)))))) (ax_sn_node (ax_sn_node (ax_sn_node (ax_sn_node (ax_sn_node (ax_sn_leaf (r_X2_sum_44 E)) (ax_sn_leaf (r_X2_sum_41 E))) (ax_sn_node (ax_sn_leaf (r_X2_sum_38 E)) (ax_sn_leaf (r_X2_sum_37 E)))) (ax_sn_node (ax_sn_node (ax_sn_leaf (r_X2_sum_36 E)) (ax_sn_leaf (r_X2_sum_35 E))) (ax_sn_leaf (r_X2_sum_32 E)))) (ax_sn_node (ax_sn_node (ax_sn_node (ax_sn_leaf (r_X2_sum_31 E)) (ax_sn_leaf (r_X2_sum_29 E))) (ax_sn_node (ax_sn_leaf (r_X2_sum_28 E)) (ax_sn_leaf (r_X2_sum_27 E)))) (ax_sn_node (ax_sn_node (ax_sn_leaf (r_X2_sum_26 E)) (ax_sn_leaf (r_X2_sum_23 E))) (ax_sn_leaf (r_X2_sum_22 E))))) (ax_sn_node (ax_sn_node (ax_sn_node (ax_sn_node (ax_sn_leaf (r_X2_sum_20 E)) (ax_sn_leaf (r_X2_sum_19 E))) (ax_sn_node (ax_sn_leaf (r_X2_sum_18 E)) (ax_sn_leaf (r_X2_sum_17 E)))) (ax_sn_node (ax_sn_node (ax_sn_leaf (r_X2_sum_14 E)) (ax_sn_leaf (r_X2_sum_11 E))) (ax_sn_leaf (r_X2_sum_10 E)))) (ax_sn_node (ax_sn_node (ax_sn_node (ax_sn_leaf (r_X2_sum_9 E)) (ax_sn_leaf (r_X2_sum_8 E))) (ax_sn_node (ax_sn_leaf (r_X2_sum_5 E)) (ax_sn_leaf (r_X2_sum_4 E)))) (ax_sn_node (ax_sn_node (ax_sn_leaf (r_X2_sum_3 E)) (ax_sn_leaf (r_X2_sum_1 E))) (ax_sn_leaf (r_X2_sum_0 E)))))))⟩
theorem r_X2_added_0 (E : ax_EN G l) : ax_Snd G l ax_Ym M_X2_added 0 (S_iload 1 1) := k_iload_n dX2_added_0 rfl
theorem r_X2_added_1 (E : ax_EN G l) : ax_Snd G l ax_Ym M_X2_added 1 (S_istore 4 3) := k_istore dX2_added_1 (Nat.le_of_ble_eq_true rfl)
theorem r_X2_added_3 (E : ax_EN G l) : ax_Snd G l ax_Ym M_X2_added 3 (S_iload 2 4) := k_iload_n dX2_added_3 rfl
theorem r_X2_added_4 (E : ax_EN G l) : ax_Snd G l ax_Ym M_X2_added 4 (S_istore 5 6) := k_istore dX2_added_4 (Nat.le_of_ble_eq_true rfl)
theorem r_X2_added_6 (E : ax_EN G l) : ax_Snd G l ax_Ym M_X2_added 6 (S_iload 5 8) := k_iload dX2_added_6
theorem r_X2_added_8 (E : ax_EN G l) : ax_Snd G l ax_Ym M_X2_added 8 (S_iload 2 9) := k_iload_n dX2_added_8 rfl
theorem r_X2_added_9 (E : ax_EN G l) : ax_Snd G l ax_Ym M_X2_added 9 (S_iload 3 10) := k_iload_n dX2_added_9 rfl
theorem r_X2_added_10 (E : ax_EN G l) : ax_Snd G l ax_Ym M_X2_added 10 (S_i2 (fun x y => x + y) 11) := k_iadd dX2_added_10
theorem r_X2_added_11 (E : ax_EN G l) : ax_Snd G l ax_Ym M_X2_added 11 (S_if2 (fun x y => decide (y ≤ x)) 39 14) := k_icmp_ge dX2_added_11 rfl
theorem r_X2_added_14 (E : ax_EN G l) : ax_Snd G l ax_Ym M_X2_added 14 (S_push (.int (31)) 16) := k_bipush dX2_added_14 rfl
theorem r_X2_added_16 (E : ax_EN G l) : ax_Snd G l ax_Ym M_X2_added 16 (S_iload 4 18) := k_iload dX2_added_16
theorem r_X2_added_18 (E : ax_EN G l) : ax_Snd G l ax_Ym M_X2_added 18 (S_i2 (fun x y => x * y) 19) := k_imul dX2_added_18
theorem r_X2_added_19 (E : ax_EN G l) : ax_Snd G l ax_Ym M_X2_added 19 (S_aload 0 20) := k_aload_n dX2_added_19 rfl
theorem r_X2_added_20 (E : ax_EN G l) : ax_Snd G l ax_Ym M_X2_added 20 (S_getf [(29, 0)] 23) := k_getf (en_F E) (ax_fes_cons (fe_158 E) ax_fes_nil) q283 dX2_added_20
theorem r_X2_added_23 (E : ax_EN G l) : ax_Snd G l ax_Ym M_X2_added 23 (S_iload 5 25) := k_iload dX2_added_23
theorem r_X2_added_25 (E : ax_EN G l) : ax_Snd G l ax_Ym M_X2_added 25 (S_iald 0 26) := k_iald (en_F E) dX2_added_25
theorem r_X2_added_26 (E : ax_EN G l) : ax_Snd G l ax_Ym M_X2_added 26 (S_i2 (fun x y => x + y) 27) := k_iadd dX2_added_26
theorem r_X2_added_27 (E : ax_EN G l) : ax_Snd G l ax_Ym M_X2_added 27 (S_push (.int (1000003)) 30) := k_ldcw q1255 dX2_added_27
theorem r_X2_added_30 (E : ax_EN G l) : ax_Snd G l ax_Ym M_X2_added 30 (S_id (fun x y => x - x / y * y) 31) := k_irem dX2_added_30
theorem r_X2_added_31 (E : ax_EN G l) : ax_Snd G l ax_Ym M_X2_added 31 (S_istore 4 33) := k_istore dX2_added_31 (Nat.le_of_ble_eq_true rfl)
theorem r_X2_added_33 (E : ax_EN G l) : ax_Snd G l ax_Ym M_X2_added 33 (S_iinc 5 (1) 36) := k_iinc dX2_added_33 rfl (Nat.le_of_ble_eq_true rfl)
theorem r_X2_added_36 (E : ax_EN G l) : ax_Snd G l ax_Ym M_X2_added 36 (S_goto 6) := k_goto dX2_added_36 rfl
theorem r_X2_added_39 (E : ax_EN G l) : ax_Snd G l ax_Ym M_X2_added 39 (S_iload 4 41) := k_iload dX2_added_39
theorem r_X2_added_41 (E : ax_EN G l) : ax_Snd G l ax_Ym M_X2_added 41 (S_iret) := k_iret dX2_added_41 rfl
theorem mt_X2_added (E : ax_EN G l) : ax_mt G l ax_Ym (6, P_X2_added) (ax_Ym 303) := ⟨M_X2_added, yX2_added, ⟨rfl, by decide +kernel, rfl, (fun h => by cases h), Or.inl ⟨rfl, rfl⟩⟩, fun pc => (ax_sn_node (ax_sn_node (ax_sn_node (ax_sn_node (ax_sn_node (ax_sn_leaf (r_X2_added_41 E)) (ax_sn_leaf (r_X2_added_39 E))) (ax_sn_leaf (r_X2_added_36 E))) (ax_sn_node (ax_sn_node (ax_sn_leaf (r_X2_added_33 E)) (ax_sn_leaf (r_X2_added_31 E))) (ax_sn_leaf (r_X2_added_30 E)))) (ax_sn_node (ax_sn_node (ax_sn_node (ax_sn_leaf (r_X2_added_27 E)) (ax_sn_leaf (r_X2_added_26 E))) (ax_sn_leaf (r_X2_added_25 E))) (ax_sn_node (ax_sn_node (ax_sn_leaf (r_X2_added_23 E)) (ax_sn_leaf (r_X2_added_20 E))) (ax_sn_leaf (r_X2_added_19 E))))) (ax_sn_node (ax_sn_node (ax_sn_node (ax_sn_node (ax_sn_leaf (r_X2_added_18 E)) (ax_sn_leaf (r_X2_added_16 E))) (ax_sn_leaf (r_X2_added_14 E))) (ax_sn_node (ax_sn_node (ax_sn_leaf (r_X2_added_11 E)) (ax_sn_leaf (r_X2_added_10 E))) (ax_sn_leaf (r_X2_added_9 E)))) (ax_sn_node (ax_sn_node (ax_sn_node (ax_sn_leaf (r_X2_added_8 E)) (ax_sn_leaf (r_X2_added_6 E))) (ax_sn_leaf (r_X2_added_4 E))) (ax_sn_node (ax_sn_node (ax_sn_leaf (r_X2_added_3 E)) (ax_sn_leaf (r_X2_added_1 E))) (ax_sn_leaf (r_X2_added_0 E))))))⟩
theorem r_X2_joined_0 (E : ax_EN G l) : ax_Snd G l ax_Ym M_X2_joined 0 (S_push (.int (31)) 2) := k_bipush dX2_joined_0 rfl
theorem r_X2_joined_2 (E : ax_EN G l) : ax_Snd G l ax_Ym M_X2_joined 2 (S_iload 0 3) := k_iload_n dX2_joined_2 rfl
theorem r_X2_joined_3 (E : ax_EN G l) : ax_Snd G l ax_Ym M_X2_joined 3 (S_i2 (fun x y => x * y) 4) := k_imul dX2_joined_3
theorem r_X2_joined_4 (E : ax_EN G l) : ax_Snd G l ax_Ym M_X2_joined 4 (S_iload 1 5) := k_iload_n dX2_joined_4 rfl
theorem r_X2_joined_5 (E : ax_EN G l) : ax_Snd G l ax_Ym M_X2_joined 5 (S_i2 (fun x y => x + y) 6) := k_iadd dX2_joined_5
theorem r_X2_joined_6 (E : ax_EN G l) : ax_Snd G l ax_Ym M_X2_joined 6 (S_push (.int (1000003)) 9) := k_ldcw q1255 dX2_joined_6
theorem r_X2_joined_9 (E : ax_EN G l) : ax_Snd G l ax_Ym M_X2_joined 9 (S_id (fun x y => x - x / y * y) 10) := k_irem dX2_joined_9
theorem r_X2_joined_10 (E : ax_EN G l) : ax_Snd G l ax_Ym M_X2_joined 10 (S_iret) := k_iret dX2_joined_10 rfl
theorem mt_X2_joined (E : ax_EN G l) : ax_mt G l ax_Ym (2, P_X2_joined) (ax_Ym 304) := ⟨M_X2_joined, yX2_joined, ⟨rfl, by decide +kernel, rfl, (fun h => by cases h), Or.inl ⟨rfl, rfl⟩⟩, fun pc => (ax_sn_node (ax_sn_node (ax_sn_node (ax_sn_leaf (r_X2_joined_10 E)) (ax_sn_leaf (r_X2_joined_9 E))) (ax_sn_node (ax_sn_leaf (r_X2_joined_6 E)) (ax_sn_leaf (r_X2_joined_5 E)))) (ax_sn_node (ax_sn_node (ax_sn_leaf (r_X2_joined_4 E)) (ax_sn_leaf (r_X2_joined_3 E))) (ax_sn_node (ax_sn_leaf (r_X2_joined_2 E)) (ax_sn_leaf (r_X2_joined_0 E)))))⟩
theorem r_X2_entry_0 (E : ax_EN G l) : ax_Snd G l ax_Ym M_X2_entry 0 (S_aload 0 1) := k_aload_n dX2_entry_0 rfl
theorem r_X2_entry_1 (E : ax_EN G l) : ax_Snd G l ax_Ym M_X2_entry 1 (S_getf [(29, 0)] 4) := k_getf (en_F E) (ax_fes_cons (fe_158 E) ax_fes_nil) q283 dX2_entry_1
theorem r_X2_entry_4 (E : ax_EN G l) : ax_Snd G l ax_Ym M_X2_entry 4 (S_push (.int (365)) 7) := k_sipush dX2_entry_4 rfl
theorem r_X2_entry_7 (E : ax_EN G l) : ax_Snd G l ax_Ym M_X2_entry 7 (S_push (.int (8)) 9) := k_bipush dX2_entry_7 rfl
theorem r_X2_entry_9 (E : ax_EN G l) : ax_Snd G l ax_Ym M_X2_entry 9 (S_push (.int (5)) 10) := k_iconst dX2_entry_9 rfl
theorem r_X2_entry_10 (E : ax_EN G l) : ax_Snd G l ax_Ym M_X2_entry 10 (S_iload 1 11) := k_iload_n dX2_entry_10 rfl
theorem r_X2_entry_11 (E : ax_EN G l) : ax_Snd G l ax_Ym M_X2_entry 11 (S_push (.int (2)) 12) := k_iconst dX2_entry_11 rfl
theorem r_X2_entry_12 (E : ax_EN G l) : ax_Snd G l ax_Ym M_X2_entry 12 (S_id (fun x y => x / y) 13) := k_idiv dX2_entry_12
theorem r_X2_entry_13 (E : ax_EN G l) : ax_Snd G l ax_Ym M_X2_entry 13 (S_i2 (fun x y => x + y) 14) := k_iadd dX2_entry_13
theorem r_X2_entry_14 (E : ax_EN G l) : ax_Snd G l ax_Ym M_X2_entry 14 (S_i2 (fun x y => x * y) 15) := k_imul dX2_entry_14
theorem r_X2_entry_15 (E : ax_EN G l) : ax_Snd G l ax_Ym M_X2_entry 15 (S_i2 (fun x y => x + y) 16) := k_iadd dX2_entry_15
theorem r_X2_entry_16 (E : ax_EN G l) : ax_Snd G l ax_Ym M_X2_entry 16 (S_push (.int (4)) 17) := k_iconst dX2_entry_16 rfl
theorem r_X2_entry_17 (E : ax_EN G l) : ax_Snd G l ax_Ym M_X2_entry 17 (S_iload 1 18) := k_iload_n dX2_entry_17 rfl
theorem r_X2_entry_18 (E : ax_EN G l) : ax_Snd G l ax_Ym M_X2_entry 18 (S_push (.int (2)) 19) := k_iconst dX2_entry_18 rfl
theorem r_X2_entry_19 (E : ax_EN G l) : ax_Snd G l ax_Ym M_X2_entry 19 (S_id (fun x y => x - x / y * y) 20) := k_irem dX2_entry_19
theorem r_X2_entry_20 (E : ax_EN G l) : ax_Snd G l ax_Ym M_X2_entry 20 (S_i2 (fun x y => x * y) 21) := k_imul dX2_entry_20
theorem r_X2_entry_21 (E : ax_EN G l) : ax_Snd G l ax_Ym M_X2_entry 21 (S_i2 (fun x y => x + y) 22) := k_iadd dX2_entry_21
theorem r_X2_entry_22 (E : ax_EN G l) : ax_Snd G l ax_Ym M_X2_entry 22 (S_iload 2 23) := k_iload_n dX2_entry_22 rfl
theorem r_X2_entry_23 (E : ax_EN G l) : ax_Snd G l ax_Ym M_X2_entry 23 (S_i2 (fun x y => x + y) 24) := k_iadd dX2_entry_23
theorem r_X2_entry_24 (E : ax_EN G l) : ax_Snd G l ax_Ym M_X2_entry 24 (S_iald 0 25) := k_iald (en_F E) dX2_entry_24
theorem r_X2_entry_25 (E : ax_EN G l) : ax_Snd G l ax_Ym M_X2_entry 25 (S_iret) := k_iret dX2_entry_25 rfl
theorem mt_X2_entry (E : ax_EN G l) : ax_mt G l ax_Ym (3, P_X2_entry) (ax_Ym 305) := ⟨M_X2_entry, yX2_entry, ⟨rfl, by decide +kernel, rfl, (fun h => by cases h), Or.inl ⟨rfl, rfl⟩⟩, fun pc => (ax_sn_node (ax_sn_node (ax_sn_node (ax_sn_node (ax_sn_node (ax_sn_leaf (r_X2_entry_25 E)) (ax_sn_leaf (r_X2_entry_24 E))) (ax_sn_leaf (r_X2_entry_23 E))) (ax_sn_node (ax_sn_node (ax_sn_leaf (r_X2_entry_22 E)) (ax_sn_leaf (r_X2_entry_21 E))) (ax_sn_leaf (r_X2_entry_20 E)))) (ax_sn_node (ax_sn_node (ax_sn_node (ax_sn_leaf (r_X2_entry_19 E)) (ax_sn_leaf (r_X2_entry_18 E))) (ax_sn_leaf (r_X2_entry_17 E))) (ax_sn_node (ax_sn_leaf (r_X2_entry_16 E)) (ax_sn_leaf (r_X2_entry_15 E))))) (ax_sn_node (ax_sn_node (ax_sn_node (ax_sn_node (ax_sn_leaf (r_X2_entry_14 E)) (ax_sn_leaf (r_X2_entry_13 E))) (ax_sn_leaf (r_X2_entry_12 E))) (ax_sn_node (ax_sn_leaf (r_X2_entry_11 E)) (ax_sn_leaf (r_X2_entry_10 E)))) (ax_sn_node (ax_sn_node (ax_sn_node (ax_sn_leaf (r_X2_entry_9 E)) (ax_sn_leaf (r_X2_entry_7 E))) (ax_sn_leaf (r_X2_entry_4 E))) (ax_sn_node (ax_sn_leaf (r_X2_entry_1 E)) (ax_sn_leaf (r_X2_entry_0 E))))))⟩
theorem r_X2_isUsed_0 (E : ax_EN G l) : ax_Snd G l ax_Ym M_X2_isUsed 0 (S_aload 0 1) := k_aload_n dX2_isUsed_0 rfl
theorem r_X2_isUsed_1 (E : ax_EN G l) : ax_Snd G l ax_Ym M_X2_isUsed 1 (S_getf [(29, 0)] 4) := k_getf (en_F E) (ax_fes_cons (fe_158 E) ax_fes_nil) q283 dX2_isUsed_1
theorem r_X2_isUsed_4 (E : ax_EN G l) : ax_Snd G l ax_Ym M_X2_isUsed 4 (S_push (.int (397)) 7) := k_sipush dX2_isUsed_4 rfl
theorem r_X2_isUsed_7 (E : ax_EN G l) : ax_Snd G l ax_Ym M_X2_isUsed 7 (S_iload 1 8) := k_iload_n dX2_isUsed_7 rfl
theorem r_X2_isUsed_8 (E : ax_EN G l) : ax_Snd G l ax_Ym M_X2_isUsed 8 (S_push (.int (16)) 10) := k_bipush dX2_isUsed_8 rfl
theorem r_X2_isUsed_10 (E : ax_EN G l) : ax_Snd G l ax_Ym M_X2_isUsed 10 (S_id (fun x y => x / y) 11) := k_idiv dX2_isUsed_10
theorem r_X2_isUsed_11 (E : ax_EN G l) : ax_Snd G l ax_Ym M_X2_isUsed 11 (S_i2 (fun x y => x + y) 12) := k_iadd dX2_isUsed_11
theorem r_X2_isUsed_12 (E : ax_EN G l) : ax_Snd G l ax_Ym M_X2_isUsed 12 (S_iald 0 13) := k_iald (en_F E) dX2_isUsed_12
theorem r_X2_isUsed_13 (E : ax_EN G l) : ax_Snd G l ax_Ym M_X2_isUsed 13 (S_iload 1 14) := k_iload_n dX2_isUsed_13 rfl
theorem r_X2_isUsed_14 (E : ax_EN G l) : ax_Snd G l ax_Ym M_X2_isUsed 14 (S_push (.int (16)) 16) := k_bipush dX2_isUsed_14 rfl
theorem r_X2_isUsed_16 (E : ax_EN G l) : ax_Snd G l ax_Ym M_X2_isUsed 16 (S_id (fun x y => x - x / y * y) 17) := k_irem dX2_isUsed_16
theorem r_X2_isUsed_17 (E : ax_EN G l) : ax_Snd G l ax_Ym M_X2_isUsed 17 (S_i2 (fun x y => x >>> (y &&& 31)) 18) := k_ishr dX2_isUsed_17
theorem r_X2_isUsed_18 (E : ax_EN G l) : ax_Snd G l ax_Ym M_X2_isUsed 18 (S_push (.int (1)) 19) := k_iconst dX2_isUsed_18 rfl
theorem r_X2_isUsed_19 (E : ax_EN G l) : ax_Snd G l ax_Ym M_X2_isUsed 19 (S_i2 (fun x y => x &&& y) 20) := k_iand dX2_isUsed_19
theorem r_X2_isUsed_20 (E : ax_EN G l) : ax_Snd G l ax_Ym M_X2_isUsed 20 (S_if1 (fun x => decide (x = 0)) 27 23) := k_if_eq dX2_isUsed_20 rfl
theorem r_X2_isUsed_23 (E : ax_EN G l) : ax_Snd G l ax_Ym M_X2_isUsed 23 (S_push (.int (1)) 24) := k_iconst dX2_isUsed_23 rfl
theorem r_X2_isUsed_24 (E : ax_EN G l) : ax_Snd G l ax_Ym M_X2_isUsed 24 (S_goto 28) := k_goto dX2_isUsed_24 rfl
theorem r_X2_isUsed_27 (E : ax_EN G l) : ax_Snd G l ax_Ym M_X2_isUsed 27 (S_push (.int (0)) 28) := k_iconst dX2_isUsed_27 rfl
theorem r_X2_isUsed_28 (E : ax_EN G l) : ax_Snd G l ax_Ym M_X2_isUsed 28 (S_zret) := k_zret dX2_isUsed_28 rfl
theorem mt_X2_isUsed (E : ax_EN G l) : ax_mt G l ax_Ym (2, P_X2_isUsed) (ax_Ym 306) := ⟨M_X2_isUsed, yX2_isUsed, ⟨rfl, by decide +kernel, rfl, (fun h => by cases h), Or.inl ⟨rfl, rfl⟩⟩, fun pc => (ax_sn_node (ax_sn_node (ax_sn_node (ax_sn_node (ax_sn_node (ax_sn_leaf (r_X2_isUsed_28 E)) (ax_sn_leaf (r_X2_isUsed_27 E))) (ax_sn_leaf (r_X2_isUsed_24 E))) (ax_sn_node (ax_sn_leaf (r_X2_isUsed_23 E)) (ax_sn_leaf (r_X2_isUsed_20 E)))) (ax_sn_node (ax_sn_node (ax_sn_node (ax_sn_leaf (r_X2_isUsed_19 E)) (ax_sn_leaf (r_X2_isUsed_18 E))) (ax_sn_leaf (r_X2_isUsed_17 E))) (ax_sn_node (ax_sn_leaf (r_X2_isUsed_16 E)) (ax_sn_leaf (r_X2_isUsed_14 E))))) (ax_sn_node (ax_sn_node (ax_sn_node (ax_sn_node (ax_sn_leaf (r_X2_isUsed_13 E)) (ax_sn_leaf (r_X2_isUsed_12 E))) (ax_sn_leaf (r_X2_isUsed_11 E))) (ax_sn_node (ax_sn_leaf (r_X2_isUsed_10 E)) (ax_sn_leaf (r_X2_isUsed_8 E)))) (ax_sn_node (ax_sn_node (ax_sn_leaf (r_X2_isUsed_7 E)) (ax_sn_leaf (r_X2_isUsed_4 E))) (ax_sn_node (ax_sn_leaf (r_X2_isUsed_1 E)) (ax_sn_leaf (r_X2_isUsed_0 E))))))⟩
theorem r_X2_isWhole_0 (E : ax_EN G l) : ax_Snd G l ax_Ym M_X2_isWhole 0 (S_new 12 [.null, .int 0, .int 0] 3 3) := k_new (en_F E) (mk_12 E) q1289 dX2_isWhole_0
theorem r_X2_isWhole_3 (E : ax_EN G l) : ax_Snd G l ax_Ym M_X2_isWhole 3 (S_dup 4) := k_dup dX2_isWhole_3
theorem r_X2_isWhole_4 (E : ax_EN G l) : ax_Snd G l ax_Ym M_X2_isWhole 4 (S_push (.int (32)) 6) := k_bipush dX2_isWhole_4 rfl
theorem r_X2_isWhole_6 (E : ax_EN G l) : ax_Snd G l ax_Ym M_X2_isWhole 6 (S_isp 99 1 9 hd_0) := k_isp (en_F E) (ax_ok0 E rfl) ((ev_i y_J31_init q1291 q1292 q176 q1293 nm_J31_init rfl (Nat.le_of_ble_eq_true rfl) dX2_isWhole_6) : ax_EvI G l ax_Ym M_X2_isWhole 6 99 1 3)
theorem r_X2_isWhole_9 (E : ax_EN G l) : ax_Snd G l ax_Ym M_X2_isWhole 9 (S_astore 1 10) := k_astore_n dX2_isWhole_9 rfl (Nat.le_of_ble_eq_true rfl)
theorem r_X2_isWhole_10 (E : ax_EN G l) : ax_Snd G l ax_Ym M_X2_isWhole 10 (S_aload 1 11) := k_aload_n dX2_isWhole_10 rfl
theorem r_X2_isWhole_11 (E : ax_EN G l) : ax_Snd G l ax_Ym M_X2_isWhole 11 (S_push (.int (0)) 12) := k_iconst dX2_isWhole_11 rfl
theorem r_X2_isWhole_12 (E : ax_EN G l) : ax_Snd G l ax_Ym M_X2_isWhole 12 (S_push (.int (8)) 14) := k_bipush dX2_isWhole_12 rfl
theorem r_X2_isWhole_14 (E : ax_EN G l) : ax_Snd G l ax_Ym M_X2_isWhole 14 (S_iv [(12, 102)] 2 17 hd_0) := k_iv (en_F E) (ax_ok0 E rfl) (ax_Evs_cons ((ev_v (en_c E (k := 12) rfl) rfl y_J31_set q1313 q1314 q1315 q176 q1316 nm_J31_set (Nat.le_of_ble_eq_true rfl) dX2_isWhole_14) : ax_EvV G l ax_Ym M_X2_isWhole 14 2 3 12 102) ax_Evs_nil)
theorem r_X2_isWhole_17 (E : ax_EN G l) : ax_Snd G l ax_Ym M_X2_isWhole 17 (S_aload 0 18) := k_aload_n dX2_isWhole_17 rfl
theorem r_X2_isWhole_18 (E : ax_EN G l) : ax_Snd G l ax_Ym M_X2_isWhole 18 (S_getf [(29, 0)] 21) := k_getf (en_F E) (ax_fes_cons (fe_158 E) ax_fes_nil) q283 dX2_isWhole_18
theorem r_X2_isWhole_21 (E : ax_EN G l) : ax_Snd G l ax_Ym M_X2_isWhole 21 (S_push (.int (365)) 24) := k_sipush dX2_isWhole_21 rfl
theorem r_X2_isWhole_24 (E : ax_EN G l) : ax_Snd G l ax_Ym M_X2_isWhole 24 (S_iald 0 25) := k_iald (en_F E) dX2_isWhole_24
theorem r_X2_isWhole_25 (E : ax_EN G l) : ax_Snd G l ax_Ym M_X2_isWhole 25 (S_if1 (fun x => decide (¬ x = 0)) 32 28) := k_if_ne dX2_isWhole_25 rfl
theorem r_X2_isWhole_28 (E : ax_EN G l) : ax_Snd G l ax_Ym M_X2_isWhole 28 (S_push (.int (1)) 29) := k_iconst dX2_isWhole_28 rfl
theorem r_X2_isWhole_29 (E : ax_EN G l) : ax_Snd G l ax_Ym M_X2_isWhole 29 (S_goto 33) := k_goto dX2_isWhole_29 rfl
theorem r_X2_isWhole_32 (E : ax_EN G l) : ax_Snd G l ax_Ym M_X2_isWhole 32 (S_push (.int (0)) 33) := k_iconst dX2_isWhole_32 rfl
theorem r_X2_isWhole_33 (E : ax_EN G l) : ax_Snd G l ax_Ym M_X2_isWhole 33 (S_istore 2 34) := k_istore_n dX2_isWhole_33 rfl (Nat.le_of_ble_eq_true rfl)
theorem r_X2_isWhole_34 (E : ax_EN G l) : ax_Snd G l ax_Ym M_X2_isWhole 34 (S_push (.int (0)) 35) := k_iconst dX2_isWhole_34 rfl
theorem r_X2_isWhole_35 (E : ax_EN G l) : ax_Snd G l ax_Ym M_X2_isWhole 35 (S_istore 3 36) := k_istore_n dX2_isWhole_35 rfl (Nat.le_of_ble_eq_true rfl)
theorem r_X2_isWhole_36 (E : ax_EN G l) : ax_Snd G l ax_Ym M_X2_isWhole 36 (S_iload 3 37) := k_iload_n dX2_isWhole_36 rfl
theorem r_X2_isWhole_37 (E : ax_EN G l) : ax_Snd G l ax_Ym M_X2_isWhole 37 (S_push (.int (6)) 39) := k_bipush dX2_isWhole_37 rfl
theorem r_X2_isWhole_39 (E : ax_EN G l) : ax_Snd G l ax_Ym M_X2_isWhole 39 (S_if2 (fun x y => decide (y ≤ x)) 217 42) := k_icmp_ge dX2_isWhole_39 rfl
theorem r_X2_isWhole_42 (E : ax_EN G l) : ax_Snd G l ax_Ym M_X2_isWhole 42 (S_aload 0 43) := k_aload_n dX2_isWhole_42 rfl
theorem r_X2_isWhole_43 (E : ax_EN G l) : ax_Snd G l ax_Ym M_X2_isWhole 43 (S_iload 3 44) := k_iload_n dX2_isWhole_43 rfl
theorem r_X2_isWhole_44 (E : ax_EN G l) : ax_Snd G l ax_Ym M_X2_isWhole 44 (S_push (.int (1)) 45) := k_iconst dX2_isWhole_44 rfl
theorem r_X2_isWhole_45 (E : ax_EN G l) : ax_Snd G l ax_Ym M_X2_isWhole 45 (S_iv [(29, 305)] 2 48 hd_0) := k_iv (en_F E) (ax_ok0 E rfl) (ax_Evs_cons ((ev_v (en_c E (k := 29) rfl) rfl y_X2_entry q1355 q1271 qs11 q122 q1272 nm_X2_entry (Nat.le_of_ble_eq_true rfl) dX2_isWhole_45) : ax_EvV G l ax_Ym M_X2_isWhole 45 2 3 29 305) ax_Evs_nil)
theorem r_X2_isWhole_48 (E : ax_EN G l) : ax_Snd G l ax_Ym M_X2_isWhole 48 (S_istore 4 50) := k_istore dX2_isWhole_48 (Nat.le_of_ble_eq_true rfl)
theorem r_X2_isWhole_50 (E : ax_EN G l) : ax_Snd G l ax_Ym M_X2_isWhole 50 (S_aload 0 51) := k_aload_n dX2_isWhole_50 rfl
theorem r_X2_isWhole_51 (E : ax_EN G l) : ax_Snd G l ax_Ym M_X2_isWhole 51 (S_iload 3 52) := k_iload_n dX2_isWhole_51 rfl
theorem r_X2_isWhole_52 (E : ax_EN G l) : ax_Snd G l ax_Ym M_X2_isWhole 52 (S_push (.int (0)) 53) := k_iconst dX2_isWhole_52 rfl
theorem r_X2_isWhole_53 (E : ax_EN G l) : ax_Snd G l ax_Ym M_X2_isWhole 53 (S_iv [(29, 305)] 2 56 hd_0) := k_iv (en_F E) (ax_ok0 E rfl) (ax_Evs_cons ((ev_v (en_c E (k := 29) rfl) rfl y_X2_entry q1355 q1271 qs11 q122 q1272 nm_X2_entry (Nat.le_of_ble_eq_true rfl) dX2_isWhole_53) : ax_EvV G l ax_Ym M_X2_isWhole 53 2 3 29 305) ax_Evs_nil)
theorem r_X2_isWhole_56 (E : ax_EN G l) : ax_Snd G l ax_Ym M_X2_isWhole 56 (S_if1 (fun x => decide (x = 0)) 63 59) := k_if_eq dX2_isWhole_56 rfl
theorem r_X2_isWhole_59 (E : ax_EN G l) : ax_Snd G l ax_Ym M_X2_isWhole 59 (S_push (.int (1)) 60) := k_iconst dX2_isWhole_59 rfl
theorem r_X2_isWhole_60 (E : ax_EN G l) : ax_Snd G l ax_Ym M_X2_isWhole 60 (S_goto 64) := k_goto dX2_isWhole_60 rfl
theorem r_X2_isWhole_63 (E : ax_EN G l) : ax_Snd G l ax_Ym M_X2_isWhole 63 (S_push (.int (0)) 64) := k_iconst dX2_isWhole_63 rfl
theorem r_X2_isWhole_64 (E : ax_EN G l) : ax_Snd G l ax_Ym M_X2_isWhole 64 (S_istore 5 66) := k_istore dX2_isWhole_64 (Nat.le_of_ble_eq_true rfl)
theorem r_X2_isWhole_66 (E : ax_EN G l) : ax_Snd G l ax_Ym M_X2_isWhole 66 (S_iload 2 67) := k_iload_n dX2_isWhole_66 rfl
theorem r_X2_isWhole_67 (E : ax_EN G l) : ax_Snd G l ax_Ym M_X2_isWhole 67 (S_iload 5 69) := k_iload dX2_isWhole_67
theorem r_X2_isWhole_69 (E : ax_EN G l) : ax_Snd G l ax_Ym M_X2_isWhole 69 (S_if1 (fun x => decide (x = 0)) 101 72) := k_if_eq dX2_isWhole_69 rfl
theorem r_X2_isWhole_72 (E : ax_EN G l) : ax_Snd G l ax_Ym M_X2_isWhole 72 (S_aload 0 73) := k_aload_n dX2_isWhole_72 rfl
theorem r_X2_isWhole_73 (E : ax_EN G l) : ax_Snd G l ax_Ym M_X2_isWhole 73 (S_aload 0 74) := k_aload_n dX2_isWhole_73 rfl
theorem r_X2_isWhole_74 (E : ax_EN G l) : ax_Snd G l ax_Ym M_X2_isWhole 74 (S_iload 3 75) := k_iload_n dX2_isWhole_74 rfl
theorem r_X2_isWhole_75 (E : ax_EN G l) : ax_Snd G l ax_Ym M_X2_isWhole 75 (S_push (.int (0)) 76) := k_iconst dX2_isWhole_75 rfl
theorem r_X2_isWhole_76 (E : ax_EN G l) : ax_Snd G l ax_Ym M_X2_isWhole 76 (S_iv [(29, 305)] 2 79 hd_0) := k_iv (en_F E) (ax_ok0 E rfl) (ax_Evs_cons ((ev_v (en_c E (k := 29) rfl) rfl y_X2_entry q1355 q1271 qs11 q122 q1272 nm_X2_entry (Nat.le_of_ble_eq_true rfl) dX2_isWhole_76) : ax_EvV G l ax_Ym M_X2_isWhole 76 2 3 29 305) ax_Evs_nil)
theorem r_X2_isWhole_79 (E : ax_EN G l) : ax_Snd G l ax_Ym M_X2_isWhole 79 (S_iv [(29, 308)] 1 82 hd_0) := k_iv (en_F E) (ax_ok0 E rfl) (ax_Evs_cons ((ev_v (en_c E (k := 29) rfl) rfl y_X2_find q1356 q1357 q1358 q122 q1359 nm_X2_find (Nat.le_of_ble_eq_true rfl) dX2_isWhole_79) : ax_EvV G l ax_Ym M_X2_isWhole 79 1 3 29 308) ax_Evs_nil)
theorem r_X2_isWhole_82 (E : ax_EN G l) : ax_Snd G l ax_Ym M_X2_isWhole 82 (S_iload 3 83) := k_iload_n dX2_isWhole_82 rfl
theorem r_X2_isWhole_83 (E : ax_EN G l) : ax_Snd G l ax_Ym M_X2_isWhole 83 (S_if2 (fun x y => decide (¬ x = y)) 97 86) := k_icmp_ne dX2_isWhole_83 rfl
theorem r_X2_isWhole_86 (E : ax_EN G l) : ax_Snd G l ax_Ym M_X2_isWhole 86 (S_iload 4 88) := k_iload dX2_isWhole_86
theorem r_X2_isWhole_88 (E : ax_EN G l) : ax_Snd G l ax_Ym M_X2_isWhole 88 (S_push (.int (16)) 90) := k_bipush dX2_isWhole_88 rfl
theorem r_X2_isWhole_90 (E : ax_EN G l) : ax_Snd G l ax_Ym M_X2_isWhole 90 (S_if2 (fun x y => decide (y < x)) 97 93) := k_icmp_gt dX2_isWhole_90 rfl
theorem r_X2_isWhole_93 (E : ax_EN G l) : ax_Snd G l ax_Ym M_X2_isWhole 93 (S_push (.int (1)) 94) := k_iconst dX2_isWhole_93 rfl
theorem r_X2_isWhole_94 (E : ax_EN G l) : ax_Snd G l ax_Ym M_X2_isWhole 94 (S_goto 111) := k_goto dX2_isWhole_94 rfl
theorem r_X2_isWhole_97 (E : ax_EN G l) : ax_Snd G l ax_Ym M_X2_isWhole 97 (S_push (.int (0)) 98) := k_iconst dX2_isWhole_97 rfl
theorem r_X2_isWhole_98 (E : ax_EN G l) : ax_Snd G l ax_Ym M_X2_isWhole 98 (S_goto 111) := k_goto dX2_isWhole_98 rfl
theorem r_X2_isWhole_101 (E : ax_EN G l) : ax_Snd G l ax_Ym M_X2_isWhole 101 (S_iload 4 103) := k_iload dX2_isWhole_101
theorem r_X2_isWhole_103 (E : ax_EN G l) : ax_Snd G l ax_Ym M_X2_isWhole 103 (S_if1 (fun x => decide (¬ x = 0)) 110 106) := k_if_ne dX2_isWhole_103 rfl
theorem r_X2_isWhole_106 (E : ax_EN G l) : ax_Snd G l ax_Ym M_X2_isWhole 106 (S_push (.int (1)) 107) := k_iconst dX2_isWhole_106 rfl
theorem r_X2_isWhole_107 (E : ax_EN G l) : ax_Snd G l ax_Ym M_X2_isWhole 107 (S_goto 111) := k_goto dX2_isWhole_107 rfl
theorem r_X2_isWhole_110 (E : ax_EN G l) : ax_Snd G l ax_Ym M_X2_isWhole 110 (S_push (.int (0)) 111) := k_iconst dX2_isWhole_110 rfl
theorem r_X2_isWhole_111 (E : ax_EN G l) : ax_Snd G l ax_Ym M_X2_isWhole 111 (S_i2 (fun x y => x &&& y) 112) := k_iand dX2_isWhole_111
theorem r_X2_isWhole_112 (E : ax_EN G l) : ax_Snd G l ax_Ym M_X2_isWhole 112 (S_istore 2 113) := k_istore_n dX2_isWhole_112 rfl (Nat.le_of_ble_eq_true rfl)
theorem r_X2_isWhole_113 (E : ax_EN G l) : ax_Snd G l ax_Ym M_X2_isWhole 113 (S_push (.int (2)) 114) := k_iconst dX2_isWhole_113 rfl
theorem r_X2_isWhole_114 (E : ax_EN G l) : ax_Snd G l ax_Ym M_X2_isWhole 114 (S_istore 6 116) := k_istore dX2_isWhole_114 (Nat.le_of_ble_eq_true rfl)
theorem r_X2_isWhole_116 (E : ax_EN G l) : ax_Snd G l ax_Ym M_X2_isWhole 116 (S_iload 6 118) := k_iload dX2_isWhole_116
theorem r_X2_isWhole_118 (E : ax_EN G l) : ax_Snd G l ax_Ym M_X2_isWhole 118 (S_push (.int (4)) 119) := k_iconst dX2_isWhole_118 rfl
theorem r_X2_isWhole_119 (E : ax_EN G l) : ax_Snd G l ax_Ym M_X2_isWhole 119 (S_if2 (fun x y => decide (y ≤ x)) 211 122) := k_icmp_ge dX2_isWhole_119 rfl
theorem r_X2_isWhole_122 (E : ax_EN G l) : ax_Snd G l ax_Ym M_X2_isWhole 122 (S_aload 0 123) := k_aload_n dX2_isWhole_122 rfl
theorem r_X2_isWhole_123 (E : ax_EN G l) : ax_Snd G l ax_Ym M_X2_isWhole 123 (S_iload 3 124) := k_iload_n dX2_isWhole_123 rfl
theorem r_X2_isWhole_124 (E : ax_EN G l) : ax_Snd G l ax_Ym M_X2_isWhole 124 (S_iload 6 126) := k_iload dX2_isWhole_124
theorem r_X2_isWhole_126 (E : ax_EN G l) : ax_Snd G l ax_Ym M_X2_isWhole 126 (S_iv [(29, 305)] 2 129 hd_0) := k_iv (en_F E) (ax_ok0 E rfl) (ax_Evs_cons ((ev_v (en_c E (k := 29) rfl) rfl y_X2_entry q1355 q1271 qs11 q122 q1272 nm_X2_entry (Nat.le_of_ble_eq_true rfl) dX2_isWhole_126) : ax_EvV G l ax_Ym M_X2_isWhole 126 2 3 29 305) ax_Evs_nil)
theorem r_X2_isWhole_129 (E : ax_EN G l) : ax_Snd G l ax_Ym M_X2_isWhole 129 (S_istore 7 131) := k_istore dX2_isWhole_129 (Nat.le_of_ble_eq_true rfl)
theorem r_X2_isWhole_131 (E : ax_EN G l) : ax_Snd G l ax_Ym M_X2_isWhole 131 (S_iload 2 132) := k_iload_n dX2_isWhole_131 rfl
theorem r_X2_isWhole_132 (E : ax_EN G l) : ax_Snd G l ax_Ym M_X2_isWhole 132 (S_iload 5 134) := k_iload dX2_isWhole_132
theorem r_X2_isWhole_134 (E : ax_EN G l) : ax_Snd G l ax_Ym M_X2_isWhole 134 (S_if1 (fun x => decide (x = 0)) 180 137) := k_if_eq dX2_isWhole_134 rfl
theorem r_X2_isWhole_137 (E : ax_EN G l) : ax_Snd G l ax_Ym M_X2_isWhole 137 (S_iload 4 139) := k_iload dX2_isWhole_137
theorem r_X2_isWhole_139 (E : ax_EN G l) : ax_Snd G l ax_Ym M_X2_isWhole 139 (S_push (.int (8)) 141) := k_bipush dX2_isWhole_139 rfl
theorem r_X2_isWhole_141 (E : ax_EN G l) : ax_Snd G l ax_Ym M_X2_isWhole 141 (S_iload 6 143) := k_iload dX2_isWhole_141
theorem r_X2_isWhole_143 (E : ax_EN G l) : ax_Snd G l ax_Ym M_X2_isWhole 143 (S_push (.int (2)) 144) := k_iconst dX2_isWhole_143 rfl
theorem r_X2_isWhole_144 (E : ax_EN G l) : ax_Snd G l ax_Ym M_X2_isWhole 144 (S_i2 (fun x y => x - y) 145) := k_isub dX2_isWhole_144
theorem r_X2_isWhole_145 (E : ax_EN G l) : ax_Snd G l ax_Ym M_X2_isWhole 145 (S_i2 (fun x y => x * y) 146) := k_imul dX2_isWhole_145
theorem r_X2_isWhole_146 (E : ax_EN G l) : ax_Snd G l ax_Ym M_X2_isWhole 146 (S_if2 (fun x y => decide (x ≤ y)) 180 149) := k_icmp_le dX2_isWhole_146 rfl
theorem r_X2_isWhole_149 (E : ax_EN G l) : ax_Snd G l ax_Ym M_X2_isWhole 149 (S_iload 7 151) := k_iload dX2_isWhole_149
theorem r_X2_isWhole_151 (E : ax_EN G l) : ax_Snd G l ax_Ym M_X2_isWhole 151 (S_push (.int (8)) 153) := k_bipush dX2_isWhole_151 rfl
theorem r_X2_isWhole_153 (E : ax_EN G l) : ax_Snd G l ax_Ym M_X2_isWhole 153 (S_if2 (fun x y => decide (x < y)) 176 156) := k_icmp_lt dX2_isWhole_153 rfl
theorem r_X2_isWhole_156 (E : ax_EN G l) : ax_Snd G l ax_Ym M_X2_isWhole 156 (S_iload 7 158) := k_iload dX2_isWhole_156
theorem r_X2_isWhole_158 (E : ax_EN G l) : ax_Snd G l ax_Ym M_X2_isWhole 158 (S_push (.int (32)) 160) := k_bipush dX2_isWhole_158 rfl
theorem r_X2_isWhole_160 (E : ax_EN G l) : ax_Snd G l ax_Ym M_X2_isWhole 160 (S_if2 (fun x y => decide (y ≤ x)) 176 163) := k_icmp_ge dX2_isWhole_160 rfl
theorem r_X2_isWhole_163 (E : ax_EN G l) : ax_Snd G l ax_Ym M_X2_isWhole 163 (S_aload 1 164) := k_aload_n dX2_isWhole_163 rfl
theorem r_X2_isWhole_164 (E : ax_EN G l) : ax_Snd G l ax_Ym M_X2_isWhole 164 (S_iload 7 166) := k_iload dX2_isWhole_164
theorem r_X2_isWhole_166 (E : ax_EN G l) : ax_Snd G l ax_Ym M_X2_isWhole 166 (S_iv [(12, 107)] 1 169 hd_0) := k_iv (en_F E) (ax_ok0 E rfl) (ax_Evs_cons ((ev_v (en_c E (k := 12) rfl) rfl y_J31_get q1360 q1361 q1362 q176 q1363 nm_J31_get (Nat.le_of_ble_eq_true rfl) dX2_isWhole_166) : ax_EvV G l ax_Ym M_X2_isWhole 166 1 3 12 107) ax_Evs_nil)
theorem r_X2_isWhole_169 (E : ax_EN G l) : ax_Snd G l ax_Ym M_X2_isWhole 169 (S_if1 (fun x => decide (¬ x = 0)) 176 172) := k_if_ne dX2_isWhole_169 rfl
theorem r_X2_isWhole_172 (E : ax_EN G l) : ax_Snd G l ax_Ym M_X2_isWhole 172 (S_push (.int (1)) 173) := k_iconst dX2_isWhole_172 rfl
theorem r_X2_isWhole_173 (E : ax_EN G l) : ax_Snd G l ax_Ym M_X2_isWhole 173 (S_goto 190) := k_goto dX2_isWhole_173 rfl
theorem r_X2_isWhole_176 (E : ax_EN G l) : ax_Snd G l ax_Ym M_X2_isWhole 176 (S_push (.int (0)) 177) := k_iconst dX2_isWhole_176 rfl
theorem r_X2_isWhole_177 (E : ax_EN G l) : ax_Snd G l ax_Ym M_X2_isWhole 177 (S_goto 190) := k_goto dX2_isWhole_177 rfl
theorem r_X2_isWhole_180 (E : ax_EN G l) : ax_Snd G l ax_Ym M_X2_isWhole 180 (S_iload 7 182) := k_iload dX2_isWhole_180
theorem r_X2_isWhole_182 (E : ax_EN G l) : ax_Snd G l ax_Ym M_X2_isWhole 182 (S_if1 (fun x => decide (¬ x = 0)) 189 185) := k_if_ne dX2_isWhole_182 rfl
theorem r_X2_isWhole_185 (E : ax_EN G l) : ax_Snd G l ax_Ym M_X2_isWhole 185 (S_push (.int (1)) 186) := k_iconst dX2_isWhole_185 rfl
theorem r_X2_isWhole_186 (E : ax_EN G l) : ax_Snd G l ax_Ym M_X2_isWhole 186 (S_goto 190) := k_goto dX2_isWhole_186 rfl
theorem r_X2_isWhole_189 (E : ax_EN G l) : ax_Snd G l ax_Ym M_X2_isWhole 189 (S_push (.int (0)) 190) := k_iconst dX2_isWhole_189 rfl
theorem r_X2_isWhole_190 (E : ax_EN G l) : ax_Snd G l ax_Ym M_X2_isWhole 190 (S_i2 (fun x y => x &&& y) 191) := k_iand dX2_isWhole_190
theorem r_X2_isWhole_191 (E : ax_EN G l) : ax_Snd G l ax_Ym M_X2_isWhole 191 (S_istore 2 192) := k_istore_n dX2_isWhole_191 rfl (Nat.le_of_ble_eq_true rfl)
theorem r_X2_isWhole_192 (E : ax_EN G l) : ax_Snd G l ax_Ym M_X2_isWhole 192 (S_iload 7 194) := k_iload dX2_isWhole_192
theorem r_X2_isWhole_194 (E : ax_EN G l) : ax_Snd G l ax_Ym M_X2_isWhole 194 (S_push (.int (32)) 196) := k_bipush dX2_isWhole_194 rfl
theorem r_X2_isWhole_196 (E : ax_EN G l) : ax_Snd G l ax_Ym M_X2_isWhole 196 (S_if2 (fun x y => decide (y ≤ x)) 205 199) := k_icmp_ge dX2_isWhole_196 rfl
theorem r_X2_isWhole_199 (E : ax_EN G l) : ax_Snd G l ax_Ym M_X2_isWhole 199 (S_aload 1 200) := k_aload_n dX2_isWhole_199 rfl
theorem r_X2_isWhole_200 (E : ax_EN G l) : ax_Snd G l ax_Ym M_X2_isWhole 200 (S_iload 7 202) := k_iload dX2_isWhole_200
theorem r_X2_isWhole_202 (E : ax_EN G l) : ax_Snd G l ax_Ym M_X2_isWhole 202 (S_iv [(12, 108)] 1 205 hd_0) := k_iv (en_F E) (ax_ok0 E rfl) (ax_Evs_cons ((ev_v (en_c E (k := 12) rfl) rfl y_J31_set_2 q1365 q1366 q1367 q176 q1368 nm_J31_set_2 (Nat.le_of_ble_eq_true rfl) dX2_isWhole_202) : ax_EvV G l ax_Ym M_X2_isWhole 202 1 3 12 108) ax_Evs_nil)
theorem r_X2_isWhole_205 (E : ax_EN G l) : ax_Snd G l ax_Ym M_X2_isWhole 205 (S_iinc 6 (1) 208) := k_iinc dX2_isWhole_205 rfl (Nat.le_of_ble_eq_true rfl)
theorem r_X2_isWhole_208 (E : ax_EN G l) : ax_Snd G l ax_Ym M_X2_isWhole 208 (S_goto 116) := k_goto dX2_isWhole_208 rfl
theorem r_X2_isWhole_211 (E : ax_EN G l) : ax_Snd G l ax_Ym M_X2_isWhole 211 (S_iinc 3 (1) 214) := k_iinc dX2_isWhole_211 rfl (Nat.le_of_ble_eq_true rfl)
theorem r_X2_isWhole_214 (E : ax_EN G l) : ax_Snd G l ax_Ym M_X2_isWhole 214 (S_goto 36) := k_goto dX2_isWhole_214 rfl
theorem r_X2_isWhole_217 (E : ax_EN G l) : ax_Snd G l ax_Ym M_X2_isWhole 217 (S_push (.int (0)) 218) := k_iconst dX2_isWhole_217 rfl
theorem r_X2_isWhole_218 (E : ax_EN G l) : ax_Snd G l ax_Ym M_X2_isWhole 218 (S_istore 3 219) := k_istore_n dX2_isWhole_218 rfl (Nat.le_of_ble_eq_true rfl)
theorem r_X2_isWhole_219 (E : ax_EN G l) : ax_Snd G l ax_Ym M_X2_isWhole 219 (S_iload 3 220) := k_iload_n dX2_isWhole_219 rfl
theorem r_X2_isWhole_220 (E : ax_EN G l) : ax_Snd G l ax_Ym M_X2_isWhole 220 (S_push (.int (32)) 222) := k_bipush dX2_isWhole_220 rfl
theorem r_X2_isWhole_222 (E : ax_EN G l) : ax_Snd G l ax_Ym M_X2_isWhole 222 (S_if2 (fun x y => decide (y ≤ x)) 252 225) := k_icmp_ge dX2_isWhole_222 rfl
theorem r_X2_isWhole_225 (E : ax_EN G l) : ax_Snd G l ax_Ym M_X2_isWhole 225 (S_iload 2 226) := k_iload_n dX2_isWhole_225 rfl
theorem r_X2_isWhole_226 (E : ax_EN G l) : ax_Snd G l ax_Ym M_X2_isWhole 226 (S_aload 0 227) := k_aload_n dX2_isWhole_226 rfl
theorem r_X2_isWhole_227 (E : ax_EN G l) : ax_Snd G l ax_Ym M_X2_isWhole 227 (S_iload 3 228) := k_iload_n dX2_isWhole_227 rfl
theorem r_X2_isWhole_228 (E : ax_EN G l) : ax_Snd G l ax_Ym M_X2_isWhole 228 (S_iv [(29, 306)] 1 231 hd_0) := k_iv (en_F E) (ax_ok0 E rfl) (ax_Evs_cons ((ev_v (en_c E (k := 29) rfl) rfl y_X2_isUsed q1369 q1279 qs12 q122 q1280 nm_X2_isUsed (Nat.le_of_ble_eq_true rfl) dX2_isWhole_228) : ax_EvV G l ax_Ym M_X2_isWhole 228 1 3 29 306) ax_Evs_nil)
theorem r_X2_isWhole_231 (E : ax_EN G l) : ax_Snd G l ax_Ym M_X2_isWhole 231 (S_aload 1 232) := k_aload_n dX2_isWhole_231 rfl
theorem r_X2_isWhole_232 (E : ax_EN G l) : ax_Snd G l ax_Ym M_X2_isWhole 232 (S_iload 3 233) := k_iload_n dX2_isWhole_232 rfl
theorem r_X2_isWhole_233 (E : ax_EN G l) : ax_Snd G l ax_Ym M_X2_isWhole 233 (S_iv [(12, 107)] 1 236 hd_0) := k_iv (en_F E) (ax_ok0 E rfl) (ax_Evs_cons ((ev_v (en_c E (k := 12) rfl) rfl y_J31_get q1360 q1361 q1362 q176 q1363 nm_J31_get (Nat.le_of_ble_eq_true rfl) dX2_isWhole_233) : ax_EvV G l ax_Ym M_X2_isWhole 233 1 3 12 107) ax_Evs_nil)
theorem r_X2_isWhole_236 (E : ax_EN G l) : ax_Snd G l ax_Ym M_X2_isWhole 236 (S_if2 (fun x y => decide (¬ x = y)) 243 239) := k_icmp_ne dX2_isWhole_236 rfl
theorem r_X2_isWhole_239 (E : ax_EN G l) : ax_Snd G l ax_Ym M_X2_isWhole 239 (S_push (.int (1)) 240) := k_iconst dX2_isWhole_239 rfl
theorem r_X2_isWhole_240 (E : ax_EN G l) : ax_Snd G l ax_Ym M_X2_isWhole 240 (S_goto 244) := k_goto dX2_isWhole_240 rfl
theorem r_X2_isWhole_243 (E : ax_EN G l) : ax_Snd G l ax_Ym M_X2_isWhole 243 (S_push (.int (0)) 244) := k_iconst dX2_isWhole_243 rfl
theorem r_X2_isWhole_244 (E : ax_EN G l) : ax_Snd G l ax_Ym M_X2_isWhole 244 (S_i2 (fun x y => x &&& y) 245) := k_iand dX2_isWhole_244
theorem r_X2_isWhole_245 (E : ax_EN G l) : ax_Snd G l ax_Ym M_X2_isWhole 245 (S_istore 2 246) := k_istore_n dX2_isWhole_245 rfl (Nat.le_of_ble_eq_true rfl)
theorem r_X2_isWhole_246 (E : ax_EN G l) : ax_Snd G l ax_Ym M_X2_isWhole 246 (S_iinc 3 (1) 249) := k_iinc dX2_isWhole_246 rfl (Nat.le_of_ble_eq_true rfl)
theorem r_X2_isWhole_249 (E : ax_EN G l) : ax_Snd G l ax_Ym M_X2_isWhole 249 (S_goto 219) := k_goto dX2_isWhole_249 rfl
theorem r_X2_isWhole_252 (E : ax_EN G l) : ax_Snd G l ax_Ym M_X2_isWhole 252 (S_iload 2 253) := k_iload_n dX2_isWhole_252 rfl
theorem r_X2_isWhole_253 (E : ax_EN G l) : ax_Snd G l ax_Ym M_X2_isWhole 253 (S_zret) := k_zret dX2_isWhole_253 rfl
theorem mt_X2_isWhole (E : ax_EN G l) : ax_mt G l ax_Ym (8, P_X2_isWhole) (ax_Ym 307) := ⟨M_X2_isWhole, yX2_isWhole, ⟨rfl, by decide +kernel, rfl, (fun h => by cases h), Or.inl ⟨rfl, rfl⟩⟩, fun pc => (ax_sn_node (ax_sn_node (ax_sn_node (ax_sn_node (ax_sn_node (ax_sn_node (ax_sn_node (ax_sn_node (ax_sn_leaf (r_X2_isWhole_253 E)) (ax_sn_leaf (r_X2_isWhole_252 E))) (ax_sn_leaf (r_X2_isWhole_249 E))) (ax_sn_node (ax_sn_leaf (r_X2_isWhole_246 E)) (ax_sn_leaf (r_X2_isWhole_245 E)))) (ax_sn_node (ax_sn_node (ax_sn_leaf (r_X2_isWhole_244 E)) (ax_sn_leaf (r_X2_isWhole_243 E))) (ax_sn_node (ax_sn_leaf (r_X2_isWhole_240 E)) (ax_sn_leaf (r_X2_isWhole_239 E))))) (ax_sn_node (ax_sn_node (ax_sn_node (ax_sn_leaf (r_X2_isWhole_236 E)) (ax_sn_leaf (r_X2_isWhole_233 E))) (ax_sn_node (ax_sn_leaf (r_X2_isWhole_232 E)) (ax_sn_leaf (r_X2_isWhole_231 E)))) (ax_sn_node (ax_sn_node (ax_sn_leaf (r_X2_isWhole_228 E)) (ax_sn_leaf (r_X2_isWhole_227 E))) (ax_sn_node (ax_sn_leaf (r_X2_isWhole_226 E)) (ax_sn_leaf (r_X2_isWhole_225 E)))))) (ax_sn_node (ax_sn_node (ax_sn_node (ax_sn_node (ax_sn_node (ax_sn_leaf (r_X2_isWhole_222 E)) (ax_sn_leaf (r_X2_isWhole_220 E))) (ax_sn_leaf (r_X2_isWhole_219 E))) (ax_sn_node (ax_sn_leaf (r_X2_isWhole_218 E)) (ax_sn_leaf (r_X2_isWhole_217 E)))) (ax_sn_node (ax_sn_node (ax_sn_leaf (r_X2_isWhole_214 E)) (ax_sn_leaf (r_X2_isWhole_211 E))) (ax_sn_node (ax_sn_leaf (r_X2_isWhole_208 E)) (ax_sn_leaf (r_X2_isWhole_205 E))))) (ax_sn_node (ax_sn_node (ax_sn_node (ax_sn_leaf (r_X2_isWhole_202 E)) (ax_sn_leaf (r_X2_isWhole_200 E))) (ax_sn_node (ax_sn_leaf (r_X2_isWhole_199 E)) (ax_sn_leaf (r_X2_isWhole_196 E)))) (ax_sn_node (ax_sn_node (ax_sn_leaf (r_X2_isWhole_194 E)) (ax_sn_leaf (r_X2_isWhole_192 E))) (ax_sn_node (ax_sn_leaf (r_X2_isWhole_191 E)) (ax_sn_leaf (r_X2_isWhole_190 E))))))) (ax_sn_node (ax_sn_node (ax_sn_node (ax_sn_node (ax_sn_node (ax_sn_node (ax_sn_leaf (r_X2_isWhole_189 E)) (ax_sn_leaf (r_X2_isWhole_186 E))) (ax_sn_leaf (r_X2_isWhole_185 E))) (ax_sn_node (ax_sn_leaf (r_X2_isWhole_182 E)) (ax_sn_leaf (r_X2_isWhole_180 E)))) (ax_sn_node (ax_sn_node (ax_sn_leaf (r_X2_isWhole_177 E)) (ax_sn_leaf (r_X2_isWhole_176 E))) (ax_sn_node (ax_sn_leaf (r_X2_isWhole_173 E)) (ax_sn_leaf (r_X2_isWhole_172 E))))) (ax_sn_node (ax_sn_node (ax_sn_node (ax_sn_leaf (r_X2_isWhole_169 E)) (ax_sn_leaf (r_X2_isWhole_166 E))) (ax_sn_node (ax_sn_leaf (r_X2_isWhole_164 E)) (ax_sn_leaf (r_X2_isWhole_163 E)))) (ax_sn_node (ax_sn_node (ax_sn_leaf (r_X2_isWhole_160 E)) (ax_sn_leaf (r_X2_isWhole_158 E))) (ax_sn_node (ax_sn_leaf (r_X2_isWhole_156 E)) (ax_sn_leaf (r_X2_isWhole_153 E)))))) (ax_sn_node (ax_sn_node (ax_sn_node (ax_sn_node (ax_sn_node (ax_sn_leaf (r_X2_isWhole_151 E)) (ax_sn_leaf (r_X2_isWhole_149 E))) (ax_sn_leaf (r_X2_isWhole_146 E))) (ax_sn_node (ax_sn_leaf (r_X2_isWhole_145 E)) (ax_sn_leaf (r_X2_isWhole_144 E)))) (ax_sn_node (ax_sn_node (ax_sn_leaf (r_X2_isWhole_143 E)) (ax_sn_leaf (r_X2_isWhole_141 E))) (ax_sn_node (ax_sn_leaf (r_X2_isWhole_139 E)) (ax_sn_leaf (r_X2_isWhole_137 E))))) (ax_sn_node (ax_sn_node (ax_sn_node (ax_sn_leaf (r_X2_isWhole_134 E)) (ax_sn_leaf (r_X2_isWhole_132 E))) (ax_sn_node (ax_sn_leaf (r_X2_isWhole_131 E)) (ax_sn_leaf (r_X2_isWhole_129 E)))) (ax_sn_node (ax_sn_node (ax_sn_leaf (r_X2_isWhole_126 E)) (ax_sn_leaf (r_X2_isWhole_124 E))) (ax_sn_node (ax_sn_leaf (r_X2_isWhole_123 E)) (ax_sn_leaf (r_X2_isWhole_122 E)))))))) (ax_sn_node (ax_sn_node (ax_sn_node (ax_sn_node (ax_sn_node (ax_sn_node (ax_sn_node (ax_sn_leaf (r_X2_isWhole_119 E)) (ax_sn_leaf (r_X2_isWhole_118 E))) (ax_sn_leaf (r_X2_isWhole_116 E))) (ax_sn_node (ax_sn_leaf (r_X2_isWhole_114 E)) (ax_sn_leaf (r_X2_isWhole_113 E)))) (ax_sn_node (ax_sn_node (ax_sn_leaf (r_X2_isWhole_112 E)) (ax_sn_leaf (r_X2_isWhole_111 E))) (ax_sn_node (ax_sn_leaf (r_X2_isWhole_110 E)) (ax_sn_leaf (r_X2_isWhole_107 E))))) (ax_sn_node (ax_sn_node (ax_sn_node (ax_sn_leaf (r_X2_isWhole_106 E)) (ax_sn_leaf (r_X2_isWhole_103 E))) (ax_sn_node (ax_sn_leaf (r_X2_isWhole_101 E)) (ax_sn_leaf (r_X2_isWhole_98 E)))) (ax_sn_node (ax_sn_node (ax_sn_leaf (r_X2_isWhole_97 E)) (ax_sn_leaf (r_X2_isWhole_94 E))) (ax_sn_node (ax_sn_leaf (r_X2_isWhole_93 E)) (ax_sn_leaf (r_X2_isWhole_90 E)))))) (ax_sn_node (ax_sn_node (ax_sn_node (ax_sn_node (ax_sn_node (ax_sn_leaf (r_X2_isWhole_88 E)) (ax_sn_leaf (r_X2_isWhole_86 E))) (ax_sn_leaf (r_X2_isWhole_83 E))) (ax_sn_node (ax_sn_leaf (r_X2_isWhole_82 E)) (ax_sn_leaf (r_X2_isWhole_79 E)))) (ax_sn_node (ax_sn_node (ax_sn_leaf (r_X2_isWhole_76 E)) (ax_sn_leaf (r_X2_isWhole_75 E))) (ax_sn_node (ax_sn_leaf (r_X2_isWhole_74 E)) (ax_sn_leaf (r_X2_isWhole_73 E))))) (ax_sn_node (ax_sn_node (ax_sn_node (ax_sn_leaf (r_X2_isWhole_72 E)) (ax_sn_leaf (r_X2_isWhole_69 E))) (ax_sn_node (ax_sn_leaf (r_X2_isWhole_67 E)) (ax_sn_leaf (r_X2_isWhole_66 E)))) (ax_sn_node (ax_sn_node (ax_sn_leaf (r_X2_isWhole_64 E)) (ax_sn_leaf (r_X2_isWhole_63 E))) (ax_sn_node (ax_sn_leaf (r_X2_isWhole_60 E)) (ax_sn_leaf (r_X2_isWhole_59 E))))))) (ax_sn_node (ax_sn_node (ax_sn_node (ax_sn_node (ax_sn_node (ax_sn_node (ax_sn_leaf (r_X2_isWhole_56 E)) (ax_sn_leaf (r_X2_isWhole_53 E))) (ax_sn_leaf (r_X2_isWhole_52 E))) (ax_sn_node (ax_sn_leaf (r_X2_isWhole_51 E)) (ax_sn_leaf (r_X2_isWhole_50 E)))) (ax_sn_node (ax_sn_node (ax_sn_leaf (r_X2_isWhole_48 E)) (ax_sn_leaf (r_X2_isWhole_45 E))) (ax_sn_node (ax_sn_leaf (r_X2_isWhole_44 E)) (ax_sn_leaf (r_X2_isWhole_43 E))))) (ax_sn_node (ax_sn_node (ax_sn_node (ax_sn_leaf (r_X2_isWhole_42 E)) (ax_sn_leaf (r_X2_isWhole_39 E))) (ax_sn_node (ax_sn_leaf (r_X2_isWhole_37 E)) (ax_sn_leaf (r_X2_isWhole_36 E)))) (ax_sn_node (ax_sn_node (ax_sn_leaf (r_X2_isWhole_35 E)) (ax_sn_leaf (r_X2_isWhole_34 E))) (ax_sn_node (ax_sn_leaf (r_X2_isWhole_33 E)) (ax_sn_leaf (r_X2_isWhole_32 E)))))) (ax_sn_node (ax_sn_node (ax_sn_node (ax_sn_node (ax_sn_leaf (r_X2_isWhole_29 E)) (ax_sn_leaf (r_X2_isWhole_28 E))) (ax_sn_node (ax_sn_leaf (r_X2_isWhole_25 E)) (ax_sn_leaf (r_X2_isWhole_24 E)))) (ax_sn_node (ax_sn_node (ax_sn_leaf (r_X2_isWhole_21 E)) (ax_sn_leaf (r_X2_isWhole_18 E))) (ax_sn_node (ax_sn_leaf (r_X2_isWhole_17 E)) (ax_sn_leaf (r_X2_isWhole_14 E))))) (ax_sn_node (ax_sn_node (ax_sn_node (ax_sn_leaf (r_X2_isWhole_12 E)) (ax_sn_leaf (r_X2_isWhole_11 E))) (ax_sn_node (ax_sn_leaf (r_X2_isWhole_10 E)) (ax_sn_leaf (r_X2_isWhole_9 E)))) (ax_sn_node (ax_sn_node (ax_sn_leaf (r_X2_isWhole_6 E)) (ax_sn_leaf (r_X2_isWhole_4 E))) (ax_sn_node (ax_sn_leaf (r_X2_isWhole_3 E)) (ax_sn_leaf (r_X2_isWhole_0 E)))))))))⟩
theorem r_X2_find_0 (E : ax_EN G l) : ax_Snd G l ax_Ym M_X2_find 0 (S_push (.int (-1)) 1) := k_iconst dX2_find_0 rfl
theorem r_X2_find_1 (E : ax_EN G l) : ax_Snd G l ax_Ym M_X2_find 1 (S_istore 2 2) := k_istore_n dX2_find_1 rfl (Nat.le_of_ble_eq_true rfl)
theorem r_X2_find_2 (E : ax_EN G l) : ax_Snd G l ax_Ym M_X2_find 2 (S_push (.int (5)) 3) := k_iconst dX2_find_2 rfl
theorem r_X2_find_3 (E : ax_EN G l) : ax_Snd G l ax_Ym M_X2_find 3 (S_istore 3 4) := k_istore_n dX2_find_3 rfl (Nat.le_of_ble_eq_true rfl)
theorem r_X2_find_4 (E : ax_EN G l) : ax_Snd G l ax_Ym M_X2_find 4 (S_iload 3 5) := k_iload_n dX2_find_4 rfl
theorem r_X2_find_5 (E : ax_EN G l) : ax_Snd G l ax_Ym M_X2_find 5 (S_if1 (fun x => decide (x < 0)) 30 8) := k_if_lt dX2_find_5 rfl
theorem r_X2_find_8 (E : ax_EN G l) : ax_Snd G l ax_Ym M_X2_find 8 (S_aload 0 9) := k_aload_n dX2_find_8 rfl
theorem r_X2_find_9 (E : ax_EN G l) : ax_Snd G l ax_Ym M_X2_find 9 (S_iload 3 10) := k_iload_n dX2_find_9 rfl
theorem r_X2_find_10 (E : ax_EN G l) : ax_Snd G l ax_Ym M_X2_find 10 (S_push (.int (0)) 11) := k_iconst dX2_find_10 rfl
theorem r_X2_find_11 (E : ax_EN G l) : ax_Snd G l ax_Ym M_X2_find 11 (S_iv [(29, 305)] 2 14 hd_0) := k_iv (en_F E) (ax_ok0 E rfl) (ax_Evs_cons ((ev_v (en_c E (k := 29) rfl) rfl y_X2_entry q1355 q1271 qs11 q122 q1272 nm_X2_entry (Nat.le_of_ble_eq_true rfl) dX2_find_11) : ax_EvV G l ax_Ym M_X2_find 11 2 3 29 305) ax_Evs_nil)
theorem r_X2_find_14 (E : ax_EN G l) : ax_Snd G l ax_Ym M_X2_find 14 (S_iload 1 15) := k_iload_n dX2_find_14 rfl
theorem r_X2_find_15 (E : ax_EN G l) : ax_Snd G l ax_Ym M_X2_find 15 (S_if2 (fun x y => decide (¬ x = y)) 22 18) := k_icmp_ne dX2_find_15 rfl
theorem r_X2_find_18 (E : ax_EN G l) : ax_Snd G l ax_Ym M_X2_find 18 (S_iload 3 19) := k_iload_n dX2_find_18 rfl
theorem r_X2_find_19 (E : ax_EN G l) : ax_Snd G l ax_Ym M_X2_find 19 (S_goto 23) := k_goto dX2_find_19 rfl
theorem r_X2_find_22 (E : ax_EN G l) : ax_Snd G l ax_Ym M_X2_find 22 (S_iload 2 23) := k_iload_n dX2_find_22 rfl
theorem r_X2_find_23 (E : ax_EN G l) : ax_Snd G l ax_Ym M_X2_find 23 (S_istore 2 24) := k_istore_n dX2_find_23 rfl (Nat.le_of_ble_eq_true rfl)
theorem r_X2_find_24 (E : ax_EN G l) : ax_Snd G l ax_Ym M_X2_find 24 (S_iinc 3 (-1) 27) := k_iinc dX2_find_24 rfl (Nat.le_of_ble_eq_true rfl)
theorem r_X2_find_27 (E : ax_EN G l) : ax_Snd G l ax_Ym M_X2_find 27 (S_goto 4) := k_goto dX2_find_27 rfl
theorem r_X2_find_30 (E : ax_EN G l) : ax_Snd G l ax_Ym M_X2_find 30 (S_iload 2 31) := k_iload_n dX2_find_30 rfl
theorem r_X2_find_31 (E : ax_EN G l) : ax_Snd G l ax_Ym M_X2_find 31 (S_iret) := k_iret dX2_find_31 rfl
theorem mt_X2_find (E : ax_EN G l) : ax_mt G l ax_Ym (4, P_X2_find) (ax_Ym 308) := ⟨M_X2_find, yX2_find, ⟨rfl, by decide +kernel, rfl, (fun h => by cases h), Or.inl ⟨rfl, rfl⟩⟩, fun pc => (ax_sn_node (ax_sn_node (ax_sn_node (ax_sn_node (ax_sn_node (ax_sn_leaf (r_X2_find_31 E)) (ax_sn_leaf (r_X2_find_30 E))) (ax_sn_leaf (r_X2_find_27 E))) (ax_sn_node (ax_sn_leaf (r_X2_find_24 E)) (ax_sn_leaf (r_X2_find_23 E)))) (ax_sn_node (ax_sn_node (ax_sn_node (ax_sn_leaf (r_X2_find_22 E)) (ax_sn_leaf (r_X2_find_19 E))) (ax_sn_leaf (r_X2_find_18 E))) (ax_sn_node (ax_sn_leaf (r_X2_find_15 E)) (ax_sn_leaf (r_X2_find_14 E))))) (ax_sn_node (ax_sn_node (ax_sn_node (ax_sn_node (ax_sn_leaf (r_X2_find_11 E)) (ax_sn_leaf (r_X2_find_10 E))) (ax_sn_leaf (r_X2_find_9 E))) (ax_sn_node (ax_sn_leaf (r_X2_find_8 E)) (ax_sn_leaf (r_X2_find_5 E)))) (ax_sn_node (ax_sn_node (ax_sn_node (ax_sn_leaf (r_X2_find_4 E)) (ax_sn_leaf (r_X2_find_3 E))) (ax_sn_leaf (r_X2_find_2 E))) (ax_sn_node (ax_sn_leaf (r_X2_find_1 E)) (ax_sn_leaf (r_X2_find_0 E))))))⟩
theorem r_X2_isOn_0 (E : ax_EN G l) : ax_Snd G l ax_Ym M_X2_isOn 0 (S_aload 0 1) := k_aload_n dX2_isOn_0 rfl
theorem r_X2_isOn_1 (E : ax_EN G l) : ax_Snd G l ax_Ym M_X2_isOn 1 (S_getf [(29, 0)] 4) := k_getf (en_F E) (ax_fes_cons (fe_158 E) ax_fes_nil) q283 dX2_isOn_1
theorem r_X2_isOn_4 (E : ax_EN G l) : ax_Snd G l ax_Ym M_X2_isOn 4 (S_push (.int (0)) 5) := k_iconst dX2_isOn_4 rfl
theorem r_X2_isOn_5 (E : ax_EN G l) : ax_Snd G l ax_Ym M_X2_isOn 5 (S_iald 0 6) := k_iald (en_F E) dX2_isOn_5
theorem r_X2_isOn_6 (E : ax_EN G l) : ax_Snd G l ax_Ym M_X2_isOn 6 (S_if1 (fun x => decide (x = 0)) 13 9) := k_if_eq dX2_isOn_6 rfl
theorem r_X2_isOn_9 (E : ax_EN G l) : ax_Snd G l ax_Ym M_X2_isOn 9 (S_push (.int (1)) 10) := k_iconst dX2_isOn_9 rfl
theorem r_X2_isOn_10 (E : ax_EN G l) : ax_Snd G l ax_Ym M_X2_isOn 10 (S_goto 14) := k_goto dX2_isOn_10 rfl
theorem r_X2_isOn_13 (E : ax_EN G l) : ax_Snd G l ax_Ym M_X2_isOn 13 (S_push (.int (0)) 14) := k_iconst dX2_isOn_13 rfl
theorem r_X2_isOn_14 (E : ax_EN G l) : ax_Snd G l ax_Ym M_X2_isOn 14 (S_zret) := k_zret dX2_isOn_14 rfl
theorem mt_X2_isOn (E : ax_EN G l) : ax_mt G l ax_Ym (1, P_X2_isOn) (ax_Ym 309) := ⟨M_X2_isOn, yX2_isOn, ⟨rfl, by decide +kernel, rfl, (fun h => by cases h), Or.inl ⟨rfl, rfl⟩⟩, fun pc => (ax_sn_node (ax_sn_node (ax_sn_node (ax_sn_node (ax_sn_leaf (r_X2_isOn_14 E)) (ax_sn_leaf (r_X2_isOn_13 E))) (ax_sn_leaf (r_X2_isOn_10 E))) (ax_sn_node (ax_sn_leaf (r_X2_isOn_9 E)) (ax_sn_leaf (r_X2_isOn_6 E)))) (ax_sn_node (ax_sn_node (ax_sn_leaf (r_X2_isOn_5 E)) (ax_sn_leaf (r_X2_isOn_4 E))) (ax_sn_node (ax_sn_leaf (r_X2_isOn_1 E)) (ax_sn_leaf (r_X2_isOn_0 E)))))⟩
theorem r_X2_start_0 (E : ax_EN G l) : ax_Snd G l ax_Ym M_X2_start 0 (S_aload 0 1) := k_aload_n dX2_start_0 rfl
theorem r_X2_start_1 (E : ax_EN G l) : ax_Snd G l ax_Ym M_X2_start 1 (S_iv [(29, 311)] 0 4 hd_0) := k_iv (en_F E) (ax_ok0 E rfl) (ax_Evs_cons ((ev_v (en_c E (k := 29) rfl) rfl y_X2_mend q1971 q1973 qs22 q122 q1974 nm_X2_mend (Nat.le_of_ble_eq_true rfl) dX2_start_1) : ax_EvV G l ax_Ym M_X2_start 1 0 3 29 311) ax_Evs_nil)
theorem r_X2_start_4 (E : ax_EN G l) : ax_Snd G l ax_Ym M_X2_start 4 (S_istore 2 5) := k_istore_n dX2_start_4 rfl (Nat.le_of_ble_eq_true rfl)
theorem r_X2_start_5 (E : ax_EN G l) : ax_Snd G l ax_Ym M_X2_start 5 (S_aload 0 6) := k_aload_n dX2_start_5 rfl
theorem r_X2_start_6 (E : ax_EN G l) : ax_Snd G l ax_Ym M_X2_start 6 (S_getf [(29, 0)] 9) := k_getf (en_F E) (ax_fes_cons (fe_158 E) ax_fes_nil) q283 dX2_start_6
theorem r_X2_start_9 (E : ax_EN G l) : ax_Snd G l ax_Ym M_X2_start 9 (S_push (.int (365)) 12) := k_sipush dX2_start_9 rfl
theorem r_X2_start_12 (E : ax_EN G l) : ax_Snd G l ax_Ym M_X2_start 12 (S_aload 0 13) := k_aload_n dX2_start_12 rfl
theorem r_X2_start_13 (E : ax_EN G l) : ax_Snd G l ax_Ym M_X2_start 13 (S_getf [(29, 6)] 16) := k_getf (en_F E) (ax_fes_cons (fe_293 E) ax_fes_nil) q293 dX2_start_13
theorem r_X2_start_16 (E : ax_EN G l) : ax_Snd G l ax_Ym M_X2_start 16 (S_push (.int (0)) 17) := k_iconst dX2_start_16 rfl
theorem r_X2_start_17 (E : ax_EN G l) : ax_Snd G l ax_Ym M_X2_start 17 (S_aload 0 18) := k_aload_n dX2_start_17 rfl
theorem r_X2_start_18 (E : ax_EN G l) : ax_Snd G l ax_Ym M_X2_start 18 (S_getf [(29, 6)] 21) := k_getf (en_F E) (ax_fes_cons (fe_293 E) ax_fes_nil) q293 dX2_start_18
theorem r_X2_start_21 (E : ax_EN G l) : ax_Snd G l ax_Ym M_X2_start 21 (S_alen 22) := k_alen (en_F E) dX2_start_21
theorem r_X2_start_22 (E : ax_EN G l) : ax_Snd G l ax_Ym M_X2_start 22 (S_acp 25) := k_acp (en_F E) (en_B E) ⟨q1980, q603, q602, q137⟩ (ax_objs_c E) dX2_start_22
theorem r_X2_start_25 (E : ax_EN G l) : ax_Snd G l ax_Ym M_X2_start 25 (S_aload 0 26) := k_aload_n dX2_start_25 rfl
theorem r_X2_start_26 (E : ax_EN G l) : ax_Snd G l ax_Ym M_X2_start 26 (S_aload 1 27) := k_aload_n dX2_start_26 rfl
theorem r_X2_start_27 (E : ax_EN G l) : ax_Snd G l ax_Ym M_X2_start 27 (S_iv [(29, 313)] 1 30 hd_0) := k_iv (en_F E) (ax_ok0 E rfl) (ax_Evs_cons ((ev_v (en_c E (k := 29) rfl) rfl y_X2_begin q1981 q1983 qs24 q122 q1984 nm_X2_begin (Nat.le_of_ble_eq_true rfl) dX2_start_27) : ax_EvV G l ax_Ym M_X2_start 27 1 3 29 313) ax_Evs_nil)
theorem r_X2_start_30 (E : ax_EN G l) : ax_Snd G l ax_Ym M_X2_start 30 (S_iload 2 31) := k_iload_n dX2_start_30 rfl
theorem r_X2_start_31 (E : ax_EN G l) : ax_Snd G l ax_Ym M_X2_start 31 (S_iret) := k_iret dX2_start_31 rfl
theorem mt_X2_start (E : ax_EN G l) : ax_mt G l ax_Ym (3, P_X2_start) (ax_Ym 310) := ⟨M_X2_start, yX2_start, ⟨rfl, by decide +kernel, rfl, (fun h => by cases h), Or.inl ⟨rfl, rfl⟩⟩, fun pc => (ax_sn_node (ax_sn_node (ax_sn_node (ax_sn_node (ax_sn_node (ax_sn_leaf (r_X2_start_31 E)) (ax_sn_leaf (r_X2_start_30 E))) (ax_sn_leaf (r_X2_start_27 E))) (ax_sn_node (ax_sn_leaf (r_X2_start_26 E)) (ax_sn_leaf (r_X2_start_25 E)))) (ax_sn_node (ax_sn_node (ax_sn_leaf (r_X2_start_22 E)) (ax_sn_leaf (r_X2_start_21 E))) (ax_sn_node (ax_sn_leaf (r_X2_start_18 E)) (ax_sn_leaf (r_X2_start_17 E))))) (ax_sn_node (ax_sn_node (ax_sn_node (ax_sn_node (ax_sn_leaf (r_X2_start_16 E)) (ax_sn_leaf (r_X2_start_13 E))) (ax_sn_leaf (r_X2_start_12 E))) (ax_sn_node (ax_sn_leaf (r_X2_start_9 E)) (ax_sn_leaf (r_X2_start_6 E)))) (ax_sn_node (ax_sn_node (ax_sn_leaf (r_X2_start_5 E)) (ax_sn_leaf (r_X2_start_4 E))) (ax_sn_node (ax_sn_leaf (r_X2_start_1 E)) (ax_sn_leaf (r_X2_start_0 E))))))⟩
theorem r_X2_mend_0 (E : ax_EN G l) : ax_Snd G l ax_Ym M_X2_mend 0 (S_aload 0 1) := k_aload_n dX2_mend_0 rfl
theorem r_X2_mend_1 (E : ax_EN G l) : ax_Snd G l ax_Ym M_X2_mend 1 (S_getf [(29, 0)] 4) := k_getf (en_F E) (ax_fes_cons (fe_158 E) ax_fes_nil) q283 dX2_mend_1
theorem r_X2_mend_4 (E : ax_EN G l) : ax_Snd G l ax_Ym M_X2_mend 4 (S_push (.int (365)) 7) := k_sipush dX2_mend_4 rfl
theorem r_X2_mend_7 (E : ax_EN G l) : ax_Snd G l ax_Ym M_X2_mend 7 (S_iald 0 8) := k_iald (en_F E) dX2_mend_7
theorem r_X2_mend_8 (E : ax_EN G l) : ax_Snd G l ax_Ym M_X2_mend 8 (S_istore 1 9) := k_istore_n dX2_mend_8 rfl (Nat.le_of_ble_eq_true rfl)
theorem r_X2_mend_9 (E : ax_EN G l) : ax_Snd G l ax_Ym M_X2_mend 9 (S_iload 1 10) := k_iload_n dX2_mend_9 rfl
theorem r_X2_mend_10 (E : ax_EN G l) : ax_Snd G l ax_Ym M_X2_mend 10 (S_if1 (fun x => decide (¬ x = 0)) 15 13) := k_if_ne dX2_mend_10 rfl
theorem r_X2_mend_13 (E : ax_EN G l) : ax_Snd G l ax_Ym M_X2_mend 13 (S_push (.int (0)) 14) := k_iconst dX2_mend_13 rfl
theorem r_X2_mend_14 (E : ax_EN G l) : ax_Snd G l ax_Ym M_X2_mend 14 (S_iret) := k_iret dX2_mend_14 rfl
theorem r_X2_mend_15 (E : ax_EN G l) : ax_Snd G l ax_Ym M_X2_mend 15 (S_push (.int (1)) 16) := k_iconst dX2_mend_15 rfl
theorem r_X2_mend_16 (E : ax_EN G l) : ax_Snd G l ax_Ym M_X2_mend 16 (S_istore 2 17) := k_istore_n dX2_mend_16 rfl (Nat.le_of_ble_eq_true rfl)
theorem r_X2_mend_17 (E : ax_EN G l) : ax_Snd G l ax_Ym M_X2_mend 17 (S_iload 1 18) := k_iload_n dX2_mend_17 rfl
theorem r_X2_mend_18 (E : ax_EN G l) : ax_Snd G l ax_Ym M_X2_mend 18 (S_push (.int (3)) 19) := k_iconst dX2_mend_18 rfl
theorem r_X2_mend_19 (E : ax_EN G l) : ax_Snd G l ax_Ym M_X2_mend 19 (S_if2 (fun x y => decide (y < x)) 95 22) := k_icmp_gt dX2_mend_19 rfl
theorem r_X2_mend_22 (E : ax_EN G l) : ax_Snd G l ax_Ym M_X2_mend 22 (S_aload 0 23) := k_aload_n dX2_mend_22 rfl
theorem r_X2_mend_23 (E : ax_EN G l) : ax_Snd G l ax_Ym M_X2_mend 23 (S_iload 1 24) := k_iload_n dX2_mend_23 rfl
theorem r_X2_mend_24 (E : ax_EN G l) : ax_Snd G l ax_Ym M_X2_mend 24 (S_iv [(29, 312)] 1 27 hd_0) := k_iv (en_F E) (ax_ok0 E rfl) (ax_Evs_cons ((ev_v (en_c E (k := 29) rfl) rfl y_X2_logged q1975 q1977 qs23 q122 q1978 nm_X2_logged (Nat.le_of_ble_eq_true rfl) dX2_mend_24) : ax_EvV G l ax_Ym M_X2_mend 24 1 3 29 312) ax_Evs_nil)
theorem r_X2_mend_27 (E : ax_EN G l) : ax_Snd G l ax_Ym M_X2_mend 27 (S_aload 0 28) := k_aload_n dX2_mend_27 rfl
theorem r_X2_mend_28 (E : ax_EN G l) : ax_Snd G l ax_Ym M_X2_mend 28 (S_getf [(29, 0)] 31) := k_getf (en_F E) (ax_fes_cons (fe_158 E) ax_fes_nil) q283 dX2_mend_28
theorem r_X2_mend_31 (E : ax_EN G l) : ax_Snd G l ax_Ym M_X2_mend 31 (S_push (.int (369)) 34) := k_sipush dX2_mend_31 rfl
theorem r_X2_mend_34 (E : ax_EN G l) : ax_Snd G l ax_Ym M_X2_mend 34 (S_iald 0 35) := k_iald (en_F E) dX2_mend_34
theorem r_X2_mend_35 (E : ax_EN G l) : ax_Snd G l ax_Ym M_X2_mend 35 (S_if2 (fun x y => decide (¬ x = y)) 95 38) := k_icmp_ne dX2_mend_35 rfl
theorem r_X2_mend_38 (E : ax_EN G l) : ax_Snd G l ax_Ym M_X2_mend 38 (S_push (.int (0)) 39) := k_iconst dX2_mend_38 rfl
theorem r_X2_mend_39 (E : ax_EN G l) : ax_Snd G l ax_Ym M_X2_mend 39 (S_istore 3 40) := k_istore_n dX2_mend_39 rfl (Nat.le_of_ble_eq_true rfl)
theorem r_X2_mend_40 (E : ax_EN G l) : ax_Snd G l ax_Ym M_X2_mend 40 (S_iload 3 41) := k_iload_n dX2_mend_40 rfl
theorem r_X2_mend_41 (E : ax_EN G l) : ax_Snd G l ax_Ym M_X2_mend 41 (S_iload 1 42) := k_iload_n dX2_mend_41 rfl
theorem r_X2_mend_42 (E : ax_EN G l) : ax_Snd G l ax_Ym M_X2_mend 42 (S_if2 (fun x y => decide (y ≤ x)) 91 45) := k_icmp_ge dX2_mend_42 rfl
theorem r_X2_mend_45 (E : ax_EN G l) : ax_Snd G l ax_Ym M_X2_mend 45 (S_aload 0 46) := k_aload_n dX2_mend_45 rfl
theorem r_X2_mend_46 (E : ax_EN G l) : ax_Snd G l ax_Ym M_X2_mend 46 (S_getf [(29, 0)] 49) := k_getf (en_F E) (ax_fes_cons (fe_158 E) ax_fes_nil) q283 dX2_mend_46
theorem r_X2_mend_49 (E : ax_EN G l) : ax_Snd G l ax_Ym M_X2_mend 49 (S_push (.int (365)) 52) := k_sipush dX2_mend_49 rfl
theorem r_X2_mend_52 (E : ax_EN G l) : ax_Snd G l ax_Ym M_X2_mend 52 (S_push (.int (8)) 54) := k_bipush dX2_mend_52 rfl
theorem r_X2_mend_54 (E : ax_EN G l) : ax_Snd G l ax_Ym M_X2_mend 54 (S_push (.int (1)) 55) := k_iconst dX2_mend_54 rfl
theorem r_X2_mend_55 (E : ax_EN G l) : ax_Snd G l ax_Ym M_X2_mend 55 (S_iload 3 56) := k_iload_n dX2_mend_55 rfl
theorem r_X2_mend_56 (E : ax_EN G l) : ax_Snd G l ax_Ym M_X2_mend 56 (S_i2 (fun x y => x + y) 57) := k_iadd dX2_mend_56
theorem r_X2_mend_57 (E : ax_EN G l) : ax_Snd G l ax_Ym M_X2_mend 57 (S_i2 (fun x y => x * y) 58) := k_imul dX2_mend_57
theorem r_X2_mend_58 (E : ax_EN G l) : ax_Snd G l ax_Ym M_X2_mend 58 (S_i2 (fun x y => x + y) 59) := k_iadd dX2_mend_58
theorem r_X2_mend_59 (E : ax_EN G l) : ax_Snd G l ax_Ym M_X2_mend 59 (S_aload 0 60) := k_aload_n dX2_mend_59 rfl
theorem r_X2_mend_60 (E : ax_EN G l) : ax_Snd G l ax_Ym M_X2_mend 60 (S_getf [(29, 0)] 63) := k_getf (en_F E) (ax_fes_cons (fe_158 E) ax_fes_nil) q283 dX2_mend_60
theorem r_X2_mend_63 (E : ax_EN G l) : ax_Snd G l ax_Ym M_X2_mend 63 (S_push (.int (365)) 66) := k_sipush dX2_mend_63 rfl
theorem r_X2_mend_66 (E : ax_EN G l) : ax_Snd G l ax_Ym M_X2_mend 66 (S_push (.int (8)) 68) := k_bipush dX2_mend_66 rfl
theorem r_X2_mend_68 (E : ax_EN G l) : ax_Snd G l ax_Ym M_X2_mend 68 (S_aload 0 69) := k_aload_n dX2_mend_68 rfl
theorem r_X2_mend_69 (E : ax_EN G l) : ax_Snd G l ax_Ym M_X2_mend 69 (S_getf [(29, 0)] 72) := k_getf (en_F E) (ax_fes_cons (fe_158 E) ax_fes_nil) q283 dX2_mend_69
theorem r_X2_mend_72 (E : ax_EN G l) : ax_Snd G l ax_Ym M_X2_mend 72 (S_push (.int (366)) 75) := k_sipush dX2_mend_72 rfl
theorem r_X2_mend_75 (E : ax_EN G l) : ax_Snd G l ax_Ym M_X2_mend 75 (S_iload 3 76) := k_iload_n dX2_mend_75 rfl
theorem r_X2_mend_76 (E : ax_EN G l) : ax_Snd G l ax_Ym M_X2_mend 76 (S_i2 (fun x y => x + y) 77) := k_iadd dX2_mend_76
theorem r_X2_mend_77 (E : ax_EN G l) : ax_Snd G l ax_Ym M_X2_mend 77 (S_iald 0 78) := k_iald (en_F E) dX2_mend_77
theorem r_X2_mend_78 (E : ax_EN G l) : ax_Snd G l ax_Ym M_X2_mend 78 (S_i2 (fun x y => x * y) 79) := k_imul dX2_mend_78
theorem r_X2_mend_79 (E : ax_EN G l) : ax_Snd G l ax_Ym M_X2_mend 79 (S_i2 (fun x y => x + y) 80) := k_iadd dX2_mend_79
theorem r_X2_mend_80 (E : ax_EN G l) : ax_Snd G l ax_Ym M_X2_mend 80 (S_push (.int (8)) 82) := k_bipush dX2_mend_80 rfl
theorem r_X2_mend_82 (E : ax_EN G l) : ax_Snd G l ax_Ym M_X2_mend 82 (S_acp 85) := k_acp (en_F E) (en_B E) ⟨q1980, q603, q602, q137⟩ (ax_objs_c E) dX2_mend_82
theorem r_X2_mend_85 (E : ax_EN G l) : ax_Snd G l ax_Ym M_X2_mend 85 (S_iinc 3 (1) 88) := k_iinc dX2_mend_85 rfl (Nat.le_of_ble_eq_true rfl)
theorem r_X2_mend_88 (E : ax_EN G l) : ax_Snd G l ax_Ym M_X2_mend 88 (S_goto 40) := k_goto dX2_mend_88 rfl
theorem r_X2_mend_91 (E : ax_EN G l) : ax_Snd G l ax_Ym M_X2_mend 91 (S_iload 2 92) := k_iload_n dX2_mend_91 rfl
theorem r_X2_mend_92 (E : ax_EN G l) : ax_Snd G l ax_Ym M_X2_mend 92 (S_iload 1 93) := k_iload_n dX2_mend_92 rfl
theorem r_X2_mend_93 (E : ax_EN G l) : ax_Snd G l ax_Ym M_X2_mend 93 (S_i2 (fun x y => x + y) 94) := k_iadd dX2_mend_93
theorem r_X2_mend_94 (E : ax_EN G l) : ax_Snd G l ax_Ym M_X2_mend 94 (S_istore 2 95) := k_istore_n dX2_mend_94 rfl (Nat.le_of_ble_eq_true rfl)
theorem r_X2_mend_95 (E : ax_EN G l) : ax_Snd G l ax_Ym M_X2_mend 95 (S_push (.int (0)) 96) := k_iconst dX2_mend_95 rfl
theorem r_X2_mend_96 (E : ax_EN G l) : ax_Snd G l ax_Ym M_X2_mend 96 (S_istore 3 97) := k_istore_n dX2_mend_96 rfl (Nat.le_of_ble_eq_true rfl)
theorem r_X2_mend_97 (E : ax_EN G l) : ax_Snd G l ax_Ym M_X2_mend 97 (S_iload 3 98) := k_iload_n dX2_mend_97 rfl
theorem r_X2_mend_98 (E : ax_EN G l) : ax_Snd G l ax_Ym M_X2_mend 98 (S_push (.int (8)) 100) := k_bipush dX2_mend_98 rfl
theorem r_X2_mend_100 (E : ax_EN G l) : ax_Snd G l ax_Ym M_X2_mend 100 (S_if2 (fun x y => decide (y ≤ x)) 120 103) := k_icmp_ge dX2_mend_100 rfl
theorem r_X2_mend_103 (E : ax_EN G l) : ax_Snd G l ax_Ym M_X2_mend 103 (S_aload 0 104) := k_aload_n dX2_mend_103 rfl
theorem r_X2_mend_104 (E : ax_EN G l) : ax_Snd G l ax_Ym M_X2_mend 104 (S_getf [(29, 0)] 107) := k_getf (en_F E) (ax_fes_cons (fe_158 E) ax_fes_nil) q283 dX2_mend_104
theorem r_X2_mend_107 (E : ax_EN G l) : ax_Snd G l ax_Ym M_X2_mend 107 (S_push (.int (365)) 110) := k_sipush dX2_mend_107 rfl
theorem r_X2_mend_110 (E : ax_EN G l) : ax_Snd G l ax_Ym M_X2_mend 110 (S_iload 3 111) := k_iload_n dX2_mend_110 rfl
theorem r_X2_mend_111 (E : ax_EN G l) : ax_Snd G l ax_Ym M_X2_mend 111 (S_i2 (fun x y => x + y) 112) := k_iadd dX2_mend_111
theorem r_X2_mend_112 (E : ax_EN G l) : ax_Snd G l ax_Ym M_X2_mend 112 (S_push (.int (0)) 113) := k_iconst dX2_mend_112 rfl
theorem r_X2_mend_113 (E : ax_EN G l) : ax_Snd G l ax_Ym M_X2_mend 113 (S_iast 0 (fun x => x) 114) := k_iast (en_F E) dX2_mend_113
theorem r_X2_mend_114 (E : ax_EN G l) : ax_Snd G l ax_Ym M_X2_mend 114 (S_iinc 3 (1) 117) := k_iinc dX2_mend_114 rfl (Nat.le_of_ble_eq_true rfl)
theorem r_X2_mend_117 (E : ax_EN G l) : ax_Snd G l ax_Ym M_X2_mend 117 (S_goto 97) := k_goto dX2_mend_117 rfl
theorem r_X2_mend_120 (E : ax_EN G l) : ax_Snd G l ax_Ym M_X2_mend 120 (S_aload 0 121) := k_aload_n dX2_mend_120 rfl
theorem r_X2_mend_121 (E : ax_EN G l) : ax_Snd G l ax_Ym M_X2_mend 121 (S_getf [(29, 0)] 124) := k_getf (en_F E) (ax_fes_cons (fe_158 E) ax_fes_nil) q283 dX2_mend_121
theorem r_X2_mend_124 (E : ax_EN G l) : ax_Snd G l ax_Ym M_X2_mend 124 (S_push (.int (364)) 127) := k_sipush dX2_mend_124 rfl
theorem r_X2_mend_127 (E : ax_EN G l) : ax_Snd G l ax_Ym M_X2_mend 127 (S_dup2 128) := k_dup2 dX2_mend_127
theorem r_X2_mend_128 (E : ax_EN G l) : ax_Snd G l ax_Ym M_X2_mend 128 (S_iald 0 129) := k_iald (en_F E) dX2_mend_128
theorem r_X2_mend_129 (E : ax_EN G l) : ax_Snd G l ax_Ym M_X2_mend 129 (S_iload 2 130) := k_iload_n dX2_mend_129 rfl
theorem r_X2_mend_130 (E : ax_EN G l) : ax_Snd G l ax_Ym M_X2_mend 130 (S_i2 (fun x y => x + y) 131) := k_iadd dX2_mend_130
theorem r_X2_mend_131 (E : ax_EN G l) : ax_Snd G l ax_Ym M_X2_mend 131 (S_iast 0 (fun x => x) 132) := k_iast (en_F E) dX2_mend_131
theorem r_X2_mend_132 (E : ax_EN G l) : ax_Snd G l ax_Ym M_X2_mend 132 (S_iload 2 133) := k_iload_n dX2_mend_132 rfl
theorem r_X2_mend_133 (E : ax_EN G l) : ax_Snd G l ax_Ym M_X2_mend 133 (S_iret) := k_iret dX2_mend_133 rfl
theorem mt_X2_mend (E : ax_EN G l) : ax_mt G l ax_Ym (4, P_X2_mend) (ax_Ym 311) := ⟨M_X2_mend, yX2_mend, ⟨rfl, by decide +kernel, rfl, (fun h => by cases h), Or.inl ⟨rfl, rfl⟩⟩, fun pc => (ax_sn_node (ax_sn_node (ax_sn_node (ax_sn_node (ax_sn_node (ax_sn_node (ax_sn_node (ax_sn_leaf (r_X2_mend_133 E)) (ax_sn_leaf (r_X2_mend_132 E))) (ax_sn_leaf (r_X2_mend_131 E))) (ax_sn_node (ax_sn_leaf (r_X2_mend_130 E)) (ax_sn_leaf (r_X2_mend_129 E)))) (ax_sn_node (ax_sn_node (ax_sn_node (ax_sn_leaf (r_X2_mend_128 E)) (ax_sn_leaf (r_X2_mend_127 E))) (ax_sn_leaf (r_X2_mend_124 E))) (ax_sn_node (ax_sn_leaf (r_X2_mend_121 E)) (ax_sn_leaf (r_X2_mend_120 E))))) (ax_sn_node (ax_sn_node (ax_sn_node (ax_sn_node (ax_sn_leaf (r_X2_mend_117 E)) (ax_sn_leaf (r_X2_mend_114 E))) (ax_sn_leaf (r_X2_mend_113 E))) (ax_sn_node (ax_sn_leaf (r_X2_mend_112 E)) (ax_sn_leaf (r_X2_mend_111 E)))) (ax_sn_node (ax_sn_node (ax_sn_node (ax_sn_leaf (r_X2_mend_110 E)) (ax_sn_leaf (r_X2_mend_107 E))) (ax_sn_leaf (r_X2_mend_104 E))) (ax_sn_node (ax_sn_leaf (r_X2_mend_103 E)) (ax_sn_leaf (r_X2_mend_100 E)))))) (ax_sn_node (ax_sn_node (ax_sn_node (ax_sn_node (ax_sn_node (ax_sn_leaf (r_X2_mend_98 E)) (ax_sn_leaf (r_X2_mend_97 E))) (ax_sn_leaf (r_X2_mend_96 E))) (ax_sn_node (ax_sn_leaf (r_X2_mend_95 E)) (ax_sn_leaf (r_X2_mend_94 E)))) (ax_sn_node (ax_sn_node (ax_sn_node (ax_sn_leaf (r_X2_mend_93 E)) (ax_sn_leaf (r_X2_mend_92 E))) (ax_sn_leaf (r_X2_mend_91 E))) (ax_sn_node (ax_sn_leaf (r_X2_mend_88 E)) (ax_sn_leaf (r_X2_mend_85 E))))) (ax_sn_node (ax_sn_node (ax_sn_node (ax_sn_node (ax_sn_leaf (r_X2_mend_82 E)) (ax_sn_leaf (r_X2_mend_80 E))) (ax_sn_leaf (r_X2_mend_79 E))) (ax_sn_node (ax_sn_leaf (r_X2_mend_78 E)) (ax_sn_leaf (r_X2_mend_77 E)))) (ax_sn_node (ax_sn_node (ax_sn_node (ax_sn_leaf (r_X2_mend_76 E)) (ax_sn_leaf (r_X2_mend_75 E))) (ax_sn_leaf (r_X2_mend_72 E))) (ax_sn_node (ax_sn_leaf (r_X2_mend_69 E)) (ax_sn_leaf (r_X2_mend_68 E))))))) (ax_sn_node (ax_sn_node (ax_sn_node (ax_sn_node (ax_sn_node (ax_sn_node (ax_sn_leaf (r_X2_mend_66 E)) (ax_sn_leaf (r_X2_mend_63 E))) (ax_sn_leaf (r_X2_mend_60 E))) (ax_sn_node (ax_sn_leaf (r_X2_mend_59 E)) (ax_sn_leaf (r_X2_mend_58 E)))) (ax_sn_node (ax_sn_node (ax_sn_node (ax_sn_leaf (r_X2_mend_57 E)) (ax_sn_leaf (r_X2_mend_56 E))) (ax_sn_leaf (r_X2_mend_55 E))) (ax_sn_node (ax_sn_leaf (r_X2_mend_54 E)) (ax_sn_leaf (r_X2_mend_52 E))))) (ax_sn_node (ax_sn_node (ax_sn_node (ax_sn_node (ax_sn_leaf (r_X2_mend_49 E)) (ax_sn_leaf (r_X2_mend_46 E))) (ax_sn_leaf (r_X2_mend_45 E))) (ax_sn_node (ax_sn_leaf (r_X2_mend_42 E)) (ax_sn_leaf (r_X2_mend_41 E)))) (ax_sn_node (ax_sn_node (ax_sn_node (ax_sn_leaf (r_X2_mend_40 E)) (ax_sn_leaf (r_X2_mend_39 E))) (ax_sn_leaf (r_X2_mend_38 E))) (ax_sn_node (ax_sn_leaf (r_X2_mend_35 E)) (ax_sn_leaf (r_X2_mend_34 E)))))) (ax_sn_node (ax_sn_node (ax_sn_node (ax_sn_node (ax_sn_node (ax_sn_leaf (r_X2_mend_31 E)) (ax_sn_leaf (r_X2_mend_28 E))) (ax_sn_leaf (r_X2_mend_27 E))) (ax_sn_node (ax_sn_leaf (r_X2_mend_24 E)) (ax_sn_leaf (r_X2_mend_23 E)))) (ax_sn_node (ax_sn_node (ax_sn_node (ax_sn_leaf (r_X2_mend_22 E)) (ax_sn_leaf (r_X2_mend_19 E))) (ax_sn_leaf (r_X2_mend_18 E))) (ax_sn_node (ax_sn_leaf (r_X2_mend_17 E)) (ax_sn_leaf (r_X2_mend_16 E))))) (ax_sn_node (ax_sn_node (ax_sn_node (ax_sn_node (ax_sn_leaf (r_X2_mend_15 E)) (ax_sn_leaf (r_X2_mend_14 E))) (ax_sn_leaf (r_X2_mend_13 E))) (ax_sn_node (ax_sn_leaf (r_X2_mend_10 E)) (ax_sn_leaf (r_X2_mend_9 E)))) (ax_sn_node (ax_sn_node (ax_sn_node (ax_sn_leaf (r_X2_mend_8 E)) (ax_sn_leaf (r_X2_mend_7 E))) (ax_sn_leaf (r_X2_mend_4 E))) (ax_sn_node (ax_sn_leaf (r_X2_mend_1 E)) (ax_sn_leaf (r_X2_mend_0 E))))))))⟩
theorem r_X2_logged_0 (E : ax_EN G l) : ax_Snd G l ax_Ym M_X2_logged 0 (S_push (.int (0)) 1) := k_iconst dX2_logged_0 rfl
theorem r_X2_logged_1 (E : ax_EN G l) : ax_Snd G l ax_Ym M_X2_logged 1 (S_istore 2 2) := k_istore_n dX2_logged_1 rfl (Nat.le_of_ble_eq_true rfl)
theorem r_X2_logged_2 (E : ax_EN G l) : ax_Snd G l ax_Ym M_X2_logged 2 (S_push (.int (0)) 3) := k_iconst dX2_logged_2 rfl
theorem r_X2_logged_3 (E : ax_EN G l) : ax_Snd G l ax_Ym M_X2_logged 3 (S_istore 3 4) := k_istore_n dX2_logged_3 rfl (Nat.le_of_ble_eq_true rfl)
theorem r_X2_logged_4 (E : ax_EN G l) : ax_Snd G l ax_Ym M_X2_logged 4 (S_iload 3 5) := k_iload_n dX2_logged_4 rfl
theorem r_X2_logged_5 (E : ax_EN G l) : ax_Snd G l ax_Ym M_X2_logged 5 (S_push (.int (4)) 6) := k_iconst dX2_logged_5 rfl
theorem r_X2_logged_6 (E : ax_EN G l) : ax_Snd G l ax_Ym M_X2_logged 6 (S_if2 (fun x y => decide (y ≤ x)) 28 9) := k_icmp_ge dX2_logged_6 rfl
theorem r_X2_logged_9 (E : ax_EN G l) : ax_Snd G l ax_Ym M_X2_logged 9 (S_iload 2 10) := k_iload_n dX2_logged_9 rfl
theorem r_X2_logged_10 (E : ax_EN G l) : ax_Snd G l ax_Ym M_X2_logged 10 (S_aload 0 11) := k_aload_n dX2_logged_10 rfl
theorem r_X2_logged_11 (E : ax_EN G l) : ax_Snd G l ax_Ym M_X2_logged 11 (S_getf [(29, 0)] 14) := k_getf (en_F E) (ax_fes_cons (fe_158 E) ax_fes_nil) q283 dX2_logged_11
theorem r_X2_logged_14 (E : ax_EN G l) : ax_Snd G l ax_Ym M_X2_logged 14 (S_push (.int (365)) 17) := k_sipush dX2_logged_14 rfl
theorem r_X2_logged_17 (E : ax_EN G l) : ax_Snd G l ax_Ym M_X2_logged 17 (S_iload 3 18) := k_iload_n dX2_logged_17 rfl
theorem r_X2_logged_18 (E : ax_EN G l) : ax_Snd G l ax_Ym M_X2_logged 18 (S_i2 (fun x y => x + y) 19) := k_iadd dX2_logged_18
theorem r_X2_logged_19 (E : ax_EN G l) : ax_Snd G l ax_Ym M_X2_logged 19 (S_iald 0 20) := k_iald (en_F E) dX2_logged_19
theorem r_X2_logged_20 (E : ax_EN G l) : ax_Snd G l ax_Ym M_X2_logged 20 (S_i2 (fun x y => x + y) 21) := k_iadd dX2_logged_20
theorem r_X2_logged_21 (E : ax_EN G l) : ax_Snd G l ax_Ym M_X2_logged 21 (S_istore 2 22) := k_istore_n dX2_logged_21 rfl (Nat.le_of_ble_eq_true rfl)
theorem r_X2_logged_22 (E : ax_EN G l) : ax_Snd G l ax_Ym M_X2_logged 22 (S_iinc 3 (1) 25) := k_iinc dX2_logged_22 rfl (Nat.le_of_ble_eq_true rfl)
theorem r_X2_logged_25 (E : ax_EN G l) : ax_Snd G l ax_Ym M_X2_logged 25 (S_goto 4) := k_goto dX2_logged_25 rfl
theorem r_X2_logged_28 (E : ax_EN G l) : ax_Snd G l ax_Ym M_X2_logged 28 (S_push (.int (8)) 30) := k_bipush dX2_logged_28 rfl
theorem r_X2_logged_30 (E : ax_EN G l) : ax_Snd G l ax_Ym M_X2_logged 30 (S_istore 3 31) := k_istore_n dX2_logged_30 rfl (Nat.le_of_ble_eq_true rfl)
theorem r_X2_logged_31 (E : ax_EN G l) : ax_Snd G l ax_Ym M_X2_logged 31 (S_iload 3 32) := k_iload_n dX2_logged_31 rfl
theorem r_X2_logged_32 (E : ax_EN G l) : ax_Snd G l ax_Ym M_X2_logged 32 (S_push (.int (8)) 34) := k_bipush dX2_logged_32 rfl
theorem r_X2_logged_34 (E : ax_EN G l) : ax_Snd G l ax_Ym M_X2_logged 34 (S_push (.int (8)) 36) := k_bipush dX2_logged_34 rfl
theorem r_X2_logged_36 (E : ax_EN G l) : ax_Snd G l ax_Ym M_X2_logged 36 (S_iload 1 37) := k_iload_n dX2_logged_36 rfl
theorem r_X2_logged_37 (E : ax_EN G l) : ax_Snd G l ax_Ym M_X2_logged 37 (S_i2 (fun x y => x * y) 38) := k_imul dX2_logged_37
theorem r_X2_logged_38 (E : ax_EN G l) : ax_Snd G l ax_Ym M_X2_logged 38 (S_i2 (fun x y => x + y) 39) := k_iadd dX2_logged_38
theorem r_X2_logged_39 (E : ax_EN G l) : ax_Snd G l ax_Ym M_X2_logged 39 (S_if2 (fun x y => decide (y ≤ x)) 61 42) := k_icmp_ge dX2_logged_39 rfl
theorem r_X2_logged_42 (E : ax_EN G l) : ax_Snd G l ax_Ym M_X2_logged 42 (S_iload 2 43) := k_iload_n dX2_logged_42 rfl
theorem r_X2_logged_43 (E : ax_EN G l) : ax_Snd G l ax_Ym M_X2_logged 43 (S_aload 0 44) := k_aload_n dX2_logged_43 rfl
theorem r_X2_logged_44 (E : ax_EN G l) : ax_Snd G l ax_Ym M_X2_logged 44 (S_getf [(29, 0)] 47) := k_getf (en_F E) (ax_fes_cons (fe_158 E) ax_fes_nil) q283 dX2_logged_44
theorem r_X2_logged_47 (E : ax_EN G l) : ax_Snd G l ax_Ym M_X2_logged 47 (S_push (.int (365)) 50) := k_sipush dX2_logged_47 rfl
theorem r_X2_logged_50 (E : ax_EN G l) : ax_Snd G l ax_Ym M_X2_logged 50 (S_iload 3 51) := k_iload_n dX2_logged_50 rfl
theorem r_X2_logged_51 (E : ax_EN G l) : ax_Snd G l ax_Ym M_X2_logged 51 (S_i2 (fun x y => x + y) 52) := k_iadd dX2_logged_51
theorem r_X2_logged_52 (E : ax_EN G l) : ax_Snd G l ax_Ym M_X2_logged 52 (S_iald 0 53) := k_iald (en_F E) dX2_logged_52
theorem r_X2_logged_53 (E : ax_EN G l) : ax_Snd G l ax_Ym M_X2_logged 53 (S_i2 (fun x y => x + y) 54) := k_iadd dX2_logged_53
theorem r_X2_logged_54 (E : ax_EN G l) : ax_Snd G l ax_Ym M_X2_logged 54 (S_istore 2 55) := k_istore_n dX2_logged_54 rfl (Nat.le_of_ble_eq_true rfl)
theorem r_X2_logged_55 (E : ax_EN G l) : ax_Snd G l ax_Ym M_X2_logged 55 (S_iinc 3 (1) 58) := k_iinc dX2_logged_55 rfl (Nat.le_of_ble_eq_true rfl)
theorem r_X2_logged_58 (E : ax_EN G l) : ax_Snd G l ax_Ym M_X2_logged 58 (S_goto 31) := k_goto dX2_logged_58 rfl
theorem r_X2_logged_61 (E : ax_EN G l) : ax_Snd G l ax_Ym M_X2_logged 61 (S_iload 2 62) := k_iload_n dX2_logged_61 rfl
theorem r_X2_logged_62 (E : ax_EN G l) : ax_Snd G l ax_Ym M_X2_logged 62 (S_i2l 63) := k_i2l dX2_logged_62
theorem r_X2_logged_63 (E : ax_EN G l) : ax_Snd G l ax_Ym M_X2_logged 63 (S_is 214 1 66 hd_0) := k_is (en_F E) (ax_ok0 E rfl) ((ev_sN (en_B E) y_X1_cut q1979 q930 q118 q931 nm_X1_cut (Nat.le_of_ble_eq_true rfl) dX2_logged_63) : ax_EvS G l ax_Ym M_X2_logged 63 214 1 3)
theorem r_X2_logged_66 (E : ax_EN G l) : ax_Snd G l ax_Ym M_X2_logged 66 (S_iret) := k_iret dX2_logged_66 rfl
theorem mt_X2_logged (E : ax_EN G l) : ax_mt G l ax_Ym (4, P_X2_logged) (ax_Ym 312) := ⟨M_X2_logged, yX2_logged, ⟨rfl, by decide +kernel, rfl, (fun h => by cases h), Or.inl ⟨rfl, rfl⟩⟩, fun pc => (ax_sn_node (ax_sn_node (ax_sn_node (ax_sn_node (ax_sn_node (ax_sn_node (ax_sn_leaf (r_X2_logged_66 E)) (ax_sn_leaf (r_X2_logged_63 E))) (ax_sn_leaf (r_X2_logged_62 E))) (ax_sn_node (ax_sn_node (ax_sn_leaf (r_X2_logged_61 E)) (ax_sn_leaf (r_X2_logged_58 E))) (ax_sn_leaf (r_X2_logged_55 E)))) (ax_sn_node (ax_sn_node (ax_sn_node (ax_sn_leaf (r_X2_logged_54 E)) (ax_sn_leaf (r_X2_logged_53 E))) (ax_sn_leaf (r_X2_logged_52 E))) (ax_sn_node (ax_sn_leaf (r_X2_logged_51 E)) (ax_sn_leaf (r_X2_logged_50 E))))) (ax_sn_node (ax_sn_node (ax_sn_node (ax_sn_node (ax_sn_leaf (r_X2_logged_47 E)) (ax_sn_leaf (r_X2_logged_44 E))) (ax_sn_leaf (r_X2_logged_43 E))) (ax_sn_node (ax_sn_leaf (r_X2_logged_42 E)) (ax_sn_leaf (r_X2_logged_39 E)))) (ax_sn_node (ax_sn_node (ax_sn_node (ax_sn_leaf (r_X2_logged_38 E)) (ax_sn_leaf (r_X2_logged_37 E))) (ax_sn_leaf (r_X2_logged_36 E))) (ax_sn_node (ax_sn_leaf (r_X2_logged_34 E)) (ax_sn_leaf (r_X2_logged_32 E)))))) (ax_sn_node (ax_sn_node (ax_sn_node (ax_sn_node (ax_sn_node (ax_sn_leaf (r_X2_logged_31 E)) (ax_sn_leaf (r_X2_logged_30 E))) (ax_sn_leaf (r_X2_logged_28 E))) (ax_sn_node (ax_sn_node (ax_sn_leaf (r_X2_logged_25 E)) (ax_sn_leaf (r_X2_logged_22 E))) (ax_sn_leaf (r_X2_logged_21 E)))) (ax_sn_node (ax_sn_node (ax_sn_node (ax_sn_leaf (r_X2_logged_20 E)) (ax_sn_leaf (r_X2_logged_19 E))) (ax_sn_leaf (r_X2_logged_18 E))) (ax_sn_node (ax_sn_leaf (r_X2_logged_17 E)) (ax_sn_leaf (r_X2_logged_14 E))))) (ax_sn_node (ax_sn_node (ax_sn_node (ax_sn_node (ax_sn_leaf (r_X2_logged_11 E)) (ax_sn_leaf (r_X2_logged_10 E))) (ax_sn_leaf (r_X2_logged_9 E))) (ax_sn_node (ax_sn_leaf (r_X2_logged_6 E)) (ax_sn_leaf (r_X2_logged_5 E)))) (ax_sn_node (ax_sn_node (ax_sn_node (ax_sn_leaf (r_X2_logged_4 E)) (ax_sn_leaf (r_X2_logged_3 E))) (ax_sn_leaf (r_X2_logged_2 E))) (ax_sn_node (ax_sn_leaf (r_X2_logged_1 E)) (ax_sn_leaf (r_X2_logged_0 E)))))))⟩
theorem r_X2_begin_0 (E : ax_EN G l) : ax_Snd G l ax_Ym M_X2_begin 0 (S_aload 0 1) := k_aload_n dX2_begin_0 rfl
theorem r_X2_begin_1 (E : ax_EN G l) : ax_Snd G l ax_Ym M_X2_begin 1 (S_aload 1 2) := k_aload_n dX2_begin_1 rfl
theorem r_X2_begin_2 (E : ax_EN G l) : ax_Snd G l ax_Ym M_X2_begin 2 (S_putf [(29, 5)] (.array (.int)) 5) := k_putf (en_F E) (en_P E) (ax_fes_cons (fe_291 E) ax_fes_nil) (ax_fps_cons (fp_292 E) ax_fps_nil) q292 dX2_begin_2
theorem r_X2_begin_5 (E : ax_EN G l) : ax_Snd G l ax_Ym M_X2_begin 5 (S_aload 1 6) := k_aload_n dX2_begin_5 rfl
theorem r_X2_begin_6 (E : ax_EN G l) : ax_Snd G l ax_Ym M_X2_begin 6 (S_push (.int (0)) 7) := k_iconst dX2_begin_6 rfl
theorem r_X2_begin_7 (E : ax_EN G l) : ax_Snd G l ax_Ym M_X2_begin 7 (S_aload 0 8) := k_aload_n dX2_begin_7 rfl
theorem r_X2_begin_8 (E : ax_EN G l) : ax_Snd G l ax_Ym M_X2_begin 8 (S_getf [(29, 0)] 11) := k_getf (en_F E) (ax_fes_cons (fe_158 E) ax_fes_nil) q283 dX2_begin_8
theorem r_X2_begin_11 (E : ax_EN G l) : ax_Snd G l ax_Ym M_X2_begin 11 (S_push (.int (108)) 13) := k_bipush dX2_begin_11 rfl
theorem r_X2_begin_13 (E : ax_EN G l) : ax_Snd G l ax_Ym M_X2_begin 13 (S_push (.int (256)) 16) := k_sipush dX2_begin_13 rfl
theorem r_X2_begin_16 (E : ax_EN G l) : ax_Snd G l ax_Ym M_X2_begin 16 (S_acp 19) := k_acp (en_F E) (en_B E) ⟨q1980, q603, q602, q137⟩ (ax_objs_c E) dX2_begin_16
theorem r_X2_begin_19 (E : ax_EN G l) : ax_Snd G l ax_Ym M_X2_begin 19 (S_aload 0 20) := k_aload_n dX2_begin_19 rfl
theorem r_X2_begin_20 (E : ax_EN G l) : ax_Snd G l ax_Ym M_X2_begin 20 (S_getf [(29, 0)] 23) := k_getf (en_F E) (ax_fes_cons (fe_158 E) ax_fes_nil) q283 dX2_begin_20
theorem r_X2_begin_23 (E : ax_EN G l) : ax_Snd G l ax_Ym M_X2_begin 23 (S_push (.int (0)) 24) := k_iconst dX2_begin_23 rfl
theorem r_X2_begin_24 (E : ax_EN G l) : ax_Snd G l ax_Ym M_X2_begin 24 (S_push (.int (1)) 25) := k_iconst dX2_begin_24 rfl
theorem r_X2_begin_25 (E : ax_EN G l) : ax_Snd G l ax_Ym M_X2_begin 25 (S_iast 0 (fun x => x) 26) := k_iast (en_F E) dX2_begin_25
theorem r_X2_begin_26 (E : ax_EN G l) : ax_Snd G l ax_Ym M_X2_begin 26 (S_aload 0 27) := k_aload_n dX2_begin_26 rfl
theorem r_X2_begin_27 (E : ax_EN G l) : ax_Snd G l ax_Ym M_X2_begin 27 (S_getf [(29, 0)] 30) := k_getf (en_F E) (ax_fes_cons (fe_158 E) ax_fes_nil) q283 dX2_begin_27
theorem r_X2_begin_30 (E : ax_EN G l) : ax_Snd G l ax_Ym M_X2_begin 30 (S_push (.int (3)) 31) := k_iconst dX2_begin_30 rfl
theorem r_X2_begin_31 (E : ax_EN G l) : ax_Snd G l ax_Ym M_X2_begin 31 (S_push (.int (8)) 33) := k_bipush dX2_begin_31 rfl
theorem r_X2_begin_33 (E : ax_EN G l) : ax_Snd G l ax_Ym M_X2_begin 33 (S_iast 0 (fun x => x) 34) := k_iast (en_F E) dX2_begin_33
theorem r_X2_begin_34 (E : ax_EN G l) : ax_Snd G l ax_Ym M_X2_begin 34 (S_aload 0 35) := k_aload_n dX2_begin_34 rfl
theorem r_X2_begin_35 (E : ax_EN G l) : ax_Snd G l ax_Ym M_X2_begin 35 (S_getf [(29, 0)] 38) := k_getf (en_F E) (ax_fes_cons (fe_158 E) ax_fes_nil) q283 dX2_begin_35
theorem r_X2_begin_38 (E : ax_EN G l) : ax_Snd G l ax_Ym M_X2_begin 38 (S_push (.int (4)) 39) := k_iconst dX2_begin_38 rfl
theorem r_X2_begin_39 (E : ax_EN G l) : ax_Snd G l ax_Ym M_X2_begin 39 (S_push (.int (256)) 42) := k_sipush dX2_begin_39 rfl
theorem r_X2_begin_42 (E : ax_EN G l) : ax_Snd G l ax_Ym M_X2_begin 42 (S_iast 0 (fun x => x) 43) := k_iast (en_F E) dX2_begin_42
theorem r_X2_begin_43 (E : ax_EN G l) : ax_Snd G l ax_Ym M_X2_begin 43 (S_ret) := k_ret dX2_begin_43 rfl
theorem mt_X2_begin (E : ax_EN G l) : ax_mt G l ax_Ym (2, P_X2_begin) (ax_Ym 313) := ⟨M_X2_begin, yX2_begin, ⟨rfl, by decide +kernel, rfl, (fun h => by cases h), Or.inl ⟨rfl, rfl⟩⟩, fun pc => (ax_sn_node (ax_sn_node (ax_sn_node (ax_sn_node (ax_sn_node (ax_sn_leaf (r_X2_begin_43 E)) (ax_sn_leaf (r_X2_begin_42 E))) (ax_sn_node (ax_sn_leaf (r_X2_begin_39 E)) (ax_sn_leaf (r_X2_begin_38 E)))) (ax_sn_node (ax_sn_node (ax_sn_leaf (r_X2_begin_35 E)) (ax_sn_leaf (r_X2_begin_34 E))) (ax_sn_leaf (r_X2_begin_33 E)))) (ax_sn_node (ax_sn_node (ax_sn_node (ax_sn_leaf (r_X2_begin_31 E)) (ax_sn_leaf (r_X2_begin_30 E))) (ax_sn_leaf (r_X2_begin_27 E))) (ax_sn_node (ax_sn_node (ax_sn_leaf (r_X2_begin_26 E)) (ax_sn_leaf (r_X2_begin_25 E))) (ax_sn_leaf (r_X2_begin_24 E))))) (ax_sn_node (ax_sn_node (ax_sn_node (ax_sn_node (ax_sn_leaf (r_X2_begin_23 E)) (ax_sn_leaf (r_X2_begin_20 E))) (ax_sn_node (ax_sn_leaf (r_X2_begin_19 E)) (ax_sn_leaf (r_X2_begin_16 E)))) (ax_sn_node (ax_sn_node (ax_sn_leaf (r_X2_begin_13 E)) (ax_sn_leaf (r_X2_begin_11 E))) (ax_sn_leaf (r_X2_begin_8 E)))) (ax_sn_node (ax_sn_node (ax_sn_node (ax_sn_leaf (r_X2_begin_7 E)) (ax_sn_leaf (r_X2_begin_6 E))) (ax_sn_leaf (r_X2_begin_5 E))) (ax_sn_node (ax_sn_node (ax_sn_leaf (r_X2_begin_2 E)) (ax_sn_leaf (r_X2_begin_1 E))) (ax_sn_leaf (r_X2_begin_0 E))))))⟩
theorem r_X2_crash_0 (E : ax_EN G l) : ax_Snd G l ax_Ym M_X2_crash 0 (S_aload 0 1) := k_aload_n dX2_crash_0 rfl
theorem r_X2_crash_1 (E : ax_EN G l) : ax_Snd G l ax_Ym M_X2_crash 1 (S_getf [(29, 0)] 4) := k_getf (en_F E) (ax_fes_cons (fe_158 E) ax_fes_nil) q283 dX2_crash_1
theorem r_X2_crash_4 (E : ax_EN G l) : ax_Snd G l ax_Ym M_X2_crash 4 (S_push (.int (2)) 5) := k_iconst dX2_crash_4 rfl
theorem r_X2_crash_5 (E : ax_EN G l) : ax_Snd G l ax_Ym M_X2_crash 5 (S_iald 0 6) := k_iald (en_F E) dX2_crash_5
theorem r_X2_crash_6 (E : ax_EN G l) : ax_Snd G l ax_Ym M_X2_crash 6 (S_istore 1 7) := k_istore_n dX2_crash_6 rfl (Nat.le_of_ble_eq_true rfl)
theorem r_X2_crash_7 (E : ax_EN G l) : ax_Snd G l ax_Ym M_X2_crash 7 (S_push (.int (0)) 8) := k_iconst dX2_crash_7 rfl
theorem r_X2_crash_8 (E : ax_EN G l) : ax_Snd G l ax_Ym M_X2_crash 8 (S_istore 2 9) := k_istore_n dX2_crash_8 rfl (Nat.le_of_ble_eq_true rfl)
theorem r_X2_crash_9 (E : ax_EN G l) : ax_Snd G l ax_Ym M_X2_crash 9 (S_iload 2 10) := k_iload_n dX2_crash_9 rfl
theorem r_X2_crash_10 (E : ax_EN G l) : ax_Snd G l ax_Ym M_X2_crash 10 (S_push (.int (364)) 13) := k_sipush dX2_crash_10 rfl
theorem r_X2_crash_13 (E : ax_EN G l) : ax_Snd G l ax_Ym M_X2_crash 13 (S_if2 (fun x y => decide (y ≤ x)) 29 16) := k_icmp_ge dX2_crash_13 rfl
theorem r_X2_crash_16 (E : ax_EN G l) : ax_Snd G l ax_Ym M_X2_crash 16 (S_aload 0 17) := k_aload_n dX2_crash_16 rfl
theorem r_X2_crash_17 (E : ax_EN G l) : ax_Snd G l ax_Ym M_X2_crash 17 (S_getf [(29, 0)] 20) := k_getf (en_F E) (ax_fes_cons (fe_158 E) ax_fes_nil) q283 dX2_crash_17
theorem r_X2_crash_20 (E : ax_EN G l) : ax_Snd G l ax_Ym M_X2_crash 20 (S_iload 2 21) := k_iload_n dX2_crash_20 rfl
theorem r_X2_crash_21 (E : ax_EN G l) : ax_Snd G l ax_Ym M_X2_crash 21 (S_push (.int (0)) 22) := k_iconst dX2_crash_21 rfl
theorem r_X2_crash_22 (E : ax_EN G l) : ax_Snd G l ax_Ym M_X2_crash 22 (S_iast 0 (fun x => x) 23) := k_iast (en_F E) dX2_crash_22
theorem r_X2_crash_23 (E : ax_EN G l) : ax_Snd G l ax_Ym M_X2_crash 23 (S_iinc 2 (1) 26) := k_iinc dX2_crash_23 rfl (Nat.le_of_ble_eq_true rfl)
theorem r_X2_crash_26 (E : ax_EN G l) : ax_Snd G l ax_Ym M_X2_crash 26 (S_goto 9) := k_goto dX2_crash_26 rfl
theorem r_X2_crash_29 (E : ax_EN G l) : ax_Snd G l ax_Ym M_X2_crash 29 (S_aload 0 30) := k_aload_n dX2_crash_29 rfl
theorem r_X2_crash_30 (E : ax_EN G l) : ax_Snd G l ax_Ym M_X2_crash 30 (S_getf [(29, 1)] 33) := k_getf (en_F E) (ax_fes_cons (fe_183 E) ax_fes_nil) q286 dX2_crash_30
theorem r_X2_crash_33 (E : ax_EN G l) : ax_Snd G l ax_Ym M_X2_crash 33 (S_iv [(15, 126)] 0 36 hd_0) := k_iv (en_F E) (ax_ok0 E rfl) (ax_Evs_cons ((ev_v (en_c E (k := 15) rfl) rfl y_J4_clear q1996 q372 q3459 q124 q374 nm_J4_clear (Nat.le_of_ble_eq_true rfl) dX2_crash_33) : ax_EvV G l ax_Ym M_X2_crash 33 0 3 15 126) ax_Evs_nil)
theorem r_X2_crash_36 (E : ax_EN G l) : ax_Snd G l ax_Ym M_X2_crash 36 (S_aload 0 37) := k_aload_n dX2_crash_36 rfl
theorem r_X2_crash_37 (E : ax_EN G l) : ax_Snd G l ax_Ym M_X2_crash 37 (S_getf [(29, 2)] 40) := k_getf (en_F E) (ax_fes_cons (fe_159 E) ax_fes_nil) q288 dX2_crash_37
theorem r_X2_crash_40 (E : ax_EN G l) : ax_Snd G l ax_Ym M_X2_crash 40 (S_iv [(16, 147)] 0 43 hd_0) := k_iv (en_F E) (ax_ok0 E rfl) (ax_Evs_cons ((ev_v (en_c E (k := 16) rfl) rfl y_J5_clear q1997 q1998 q1999 q125 q2000 nm_J5_clear (Nat.le_of_ble_eq_true rfl) dX2_crash_40) : ax_EvV G l ax_Ym M_X2_crash 40 0 3 16 147) ax_Evs_nil)
theorem r_X2_crash_43 (E : ax_EN G l) : ax_Snd G l ax_Ym M_X2_crash 43 (S_iload 1 44) := k_iload_n dX2_crash_43 rfl
theorem r_X2_crash_44 (E : ax_EN G l) : ax_Snd G l ax_Ym M_X2_crash 44 (S_iret) := k_iret dX2_crash_44 rfl
theorem mt_X2_crash (E : ax_EN G l) : ax_mt G l ax_Ym (3, P_X2_crash) (ax_Ym 314) := ⟨M_X2_crash, yX2_crash, ⟨rfl, by decide +kernel, rfl, (fun h => by cases h), Or.inl ⟨rfl, rfl⟩⟩, fun pc => (ax_sn_node (ax_sn_node (ax_sn_node (ax_sn_node (ax_sn_node (ax_sn_leaf (r_X2_crash_44 E)) (ax_sn_leaf (r_X2_crash_43 E))) (ax_sn_node (ax_sn_leaf (r_X2_crash_40 E)) (ax_sn_leaf (r_X2_crash_37 E)))) (ax_sn_node (ax_sn_node (ax_sn_leaf (r_X2_crash_36 E)) (ax_sn_leaf (r_X2_crash_33 E))) (ax_sn_leaf (r_X2_crash_30 E)))) (ax_sn_node (ax_sn_node (ax_sn_node (ax_sn_leaf (r_X2_crash_29 E)) (ax_sn_leaf (r_X2_crash_26 E))) (ax_sn_leaf (r_X2_crash_23 E))) (ax_sn_node (ax_sn_node (ax_sn_leaf (r_X2_crash_22 E)) (ax_sn_leaf (r_X2_crash_21 E))) (ax_sn_leaf (r_X2_crash_20 E))))) (ax_sn_node (ax_sn_node (ax_sn_node (ax_sn_node (ax_sn_leaf (r_X2_crash_17 E)) (ax_sn_leaf (r_X2_crash_16 E))) (ax_sn_leaf (r_X2_crash_13 E))) (ax_sn_node (ax_sn_node (ax_sn_leaf (r_X2_crash_10 E)) (ax_sn_leaf (r_X2_crash_9 E))) (ax_sn_leaf (r_X2_crash_8 E)))) (ax_sn_node (ax_sn_node (ax_sn_node (ax_sn_leaf (r_X2_crash_7 E)) (ax_sn_leaf (r_X2_crash_6 E))) (ax_sn_leaf (r_X2_crash_5 E))) (ax_sn_node (ax_sn_node (ax_sn_leaf (r_X2_crash_4 E)) (ax_sn_leaf (r_X2_crash_1 E))) (ax_sn_leaf (r_X2_crash_0 E))))))⟩
theorem r_X2_goesOn_0 (E : ax_EN G l) : ax_Snd G l ax_Ym M_X2_goesOn 0 (S_aload 0 1) := k_aload_n dX2_goesOn_0 rfl
theorem r_X2_goesOn_1 (E : ax_EN G l) : ax_Snd G l ax_Ym M_X2_goesOn 1 (S_getf [(29, 0)] 4) := k_getf (en_F E) (ax_fes_cons (fe_158 E) ax_fes_nil) q283 dX2_goesOn_1
theorem r_X2_goesOn_4 (E : ax_EN G l) : ax_Snd G l ax_Ym M_X2_goesOn 4 (S_push (.int (0)) 5) := k_iconst dX2_goesOn_4 rfl
theorem r_X2_goesOn_5 (E : ax_EN G l) : ax_Snd G l ax_Ym M_X2_goesOn 5 (S_iald 0 6) := k_iald (en_F E) dX2_goesOn_5
theorem r_X2_goesOn_6 (E : ax_EN G l) : ax_Snd G l ax_Ym M_X2_goesOn 6 (S_push (.int (1)) 7) := k_iconst dX2_goesOn_6 rfl
theorem r_X2_goesOn_7 (E : ax_EN G l) : ax_Snd G l ax_Ym M_X2_goesOn 7 (S_if2 (fun x y => decide (¬ x = y)) 26 10) := k_icmp_ne dX2_goesOn_7 rfl
theorem r_X2_goesOn_10 (E : ax_EN G l) : ax_Snd G l ax_Ym M_X2_goesOn 10 (S_aload 0 11) := k_aload_n dX2_goesOn_10 rfl
theorem r_X2_goesOn_11 (E : ax_EN G l) : ax_Snd G l ax_Ym M_X2_goesOn 11 (S_getf [(29, 0)] 14) := k_getf (en_F E) (ax_fes_cons (fe_158 E) ax_fes_nil) q283 dX2_goesOn_11
theorem r_X2_goesOn_14 (E : ax_EN G l) : ax_Snd G l ax_Ym M_X2_goesOn 14 (S_push (.int (2)) 15) := k_iconst dX2_goesOn_14 rfl
theorem r_X2_goesOn_15 (E : ax_EN G l) : ax_Snd G l ax_Ym M_X2_goesOn 15 (S_iald 0 16) := k_iald (en_F E) dX2_goesOn_15
theorem r_X2_goesOn_16 (E : ax_EN G l) : ax_Snd G l ax_Ym M_X2_goesOn 16 (S_push (.int (1000)) 19) := k_sipush dX2_goesOn_16 rfl
theorem r_X2_goesOn_19 (E : ax_EN G l) : ax_Snd G l ax_Ym M_X2_goesOn 19 (S_if2 (fun x y => decide (y ≤ x)) 26 22) := k_icmp_ge dX2_goesOn_19 rfl
theorem r_X2_goesOn_22 (E : ax_EN G l) : ax_Snd G l ax_Ym M_X2_goesOn 22 (S_push (.int (1)) 23) := k_iconst dX2_goesOn_22 rfl
theorem r_X2_goesOn_23 (E : ax_EN G l) : ax_Snd G l ax_Ym M_X2_goesOn 23 (S_goto 27) := k_goto dX2_goesOn_23 rfl
theorem r_X2_goesOn_26 (E : ax_EN G l) : ax_Snd G l ax_Ym M_X2_goesOn 26 (S_push (.int (0)) 27) := k_iconst dX2_goesOn_26 rfl
theorem r_X2_goesOn_27 (E : ax_EN G l) : ax_Snd G l ax_Ym M_X2_goesOn 27 (S_zret) := k_zret dX2_goesOn_27 rfl
theorem mt_X2_goesOn (E : ax_EN G l) : ax_mt G l ax_Ym (1, P_X2_goesOn) (ax_Ym 315) := ⟨M_X2_goesOn, yX2_goesOn, ⟨rfl, by decide +kernel, rfl, (fun h => by cases h), Or.inl ⟨rfl, rfl⟩⟩, fun pc => (ax_sn_node (ax_sn_node (ax_sn_node (ax_sn_node (ax_sn_leaf (r_X2_goesOn_27 E)) (ax_sn_leaf (r_X2_goesOn_26 E))) (ax_sn_node (ax_sn_leaf (r_X2_goesOn_23 E)) (ax_sn_leaf (r_X2_goesOn_22 E)))) (ax_sn_node (ax_sn_node (ax_sn_leaf (r_X2_goesOn_19 E)) (ax_sn_leaf (r_X2_goesOn_16 E))) (ax_sn_node (ax_sn_leaf (r_X2_goesOn_15 E)) (ax_sn_leaf (r_X2_goesOn_14 E))))) (ax_sn_node (ax_sn_node (ax_sn_node (ax_sn_leaf (r_X2_goesOn_11 E)) (ax_sn_leaf (r_X2_goesOn_10 E))) (ax_sn_node (ax_sn_leaf (r_X2_goesOn_7 E)) (ax_sn_leaf (r_X2_goesOn_6 E)))) (ax_sn_node (ax_sn_node (ax_sn_leaf (r_X2_goesOn_5 E)) (ax_sn_leaf (r_X2_goesOn_4 E))) (ax_sn_node (ax_sn_leaf (r_X2_goesOn_1 E)) (ax_sn_leaf (r_X2_goesOn_0 E))))))⟩
theorem hox_X2_make_26 (E : ax_EN G l) : ax_hok G M_X2_make 26 hd_0 := by
  have hB := en_B E
  have h18 : ax_ho G M_X2_make 26 18 none := ⟨_, en_c E (k := 18) rfl, fun s args hs hw => (List.forall_mem_cons.mpr ⟨(Or.inl rfl), (List.forall_mem_cons.mpr ⟨(Or.inl rfl), (List.forall_mem_cons.mpr ⟨(Or.inl rfl), (List.forall_mem_cons.mpr ⟨(Or.inl rfl), (List.forall_mem_nil _)⟩)⟩)⟩)⟩)⟩
  have h0 : ax_ho G M_X2_make 26 0 none := ⟨_, en_c E (k := 0) rfl, fun s args hs hw => (List.forall_mem_cons.mpr ⟨(Or.inl rfl), (List.forall_mem_cons.mpr ⟨(Or.inl rfl), (List.forall_mem_cons.mpr ⟨(Or.inl rfl), (List.forall_mem_cons.mpr ⟨(Or.inl rfl), (List.forall_mem_nil _)⟩)⟩)⟩)⟩)⟩
  have h6 : ax_ho G M_X2_make 26 6 none := ⟨_, en_c E (k := 6) rfl, fun s args hs hw => (List.forall_mem_cons.mpr ⟨(Or.inl rfl), (List.forall_mem_cons.mpr ⟨(Or.inl rfl), (List.forall_mem_cons.mpr ⟨(Or.inl rfl), (List.forall_mem_cons.mpr ⟨(Or.inl rfl), (List.forall_mem_nil _)⟩)⟩)⟩)⟩)⟩
  have h7 : ax_ho G M_X2_make 26 7 none := ⟨_, en_c E (k := 7) rfl, fun s args hs hw => (List.forall_mem_cons.mpr ⟨(Or.inl rfl), (List.forall_mem_cons.mpr ⟨(Or.inl rfl), (List.forall_mem_cons.mpr ⟨(Or.inl rfl), (List.forall_mem_cons.mpr ⟨(Or.inl rfl), (List.forall_mem_nil _)⟩)⟩)⟩)⟩)⟩
  have h28 : ax_ho G M_X2_make 26 28 none := ⟨_, en_c E (k := 28) rfl, fun s args hs hw => (List.forall_mem_cons.mpr ⟨(Or.inl rfl), (List.forall_mem_cons.mpr ⟨(Or.inl rfl), (List.forall_mem_cons.mpr ⟨(Or.inl rfl), (List.forall_mem_cons.mpr ⟨(Or.inl rfl), (List.forall_mem_nil _)⟩)⟩)⟩)⟩)⟩
  have h32 : ax_ho G M_X2_make 26 32 none := ⟨_, en_c E (k := 32) rfl, fun s args hs hw => (List.forall_mem_cons.mpr ⟨(Or.inl rfl), (List.forall_mem_cons.mpr ⟨(Or.inl rfl), (List.forall_mem_cons.mpr ⟨(Or.inl rfl), (List.forall_mem_cons.mpr ⟨(Or.inl rfl), (List.forall_mem_nil _)⟩)⟩)⟩)⟩)⟩
  have h33 : ax_ho G M_X2_make 26 33 none := ⟨_, en_c E (k := 33) rfl, fun s args hs hw => (List.forall_mem_cons.mpr ⟨(Or.inl rfl), (List.forall_mem_cons.mpr ⟨(Or.inl rfl), (List.forall_mem_cons.mpr ⟨(Or.inl rfl), (List.forall_mem_cons.mpr ⟨(Or.inl rfl), (List.forall_mem_nil _)⟩)⟩)⟩)⟩)⟩
  have h34 : ax_ho G M_X2_make 26 34 none := ⟨_, en_c E (k := 34) rfl, fun s args hs hw => (List.forall_mem_cons.mpr ⟨(Or.inl rfl), (List.forall_mem_cons.mpr ⟨(Or.inl rfl), (List.forall_mem_cons.mpr ⟨(Or.inl rfl), (List.forall_mem_cons.mpr ⟨(Or.inl rfl), (List.forall_mem_nil _)⟩)⟩)⟩)⟩)⟩
  have h35 : ax_ho G M_X2_make 26 35 none := ⟨_, en_c E (k := 35) rfl, fun s args hs hw => (List.forall_mem_cons.mpr ⟨(Or.inl rfl), (List.forall_mem_cons.mpr ⟨(Or.inl rfl), (List.forall_mem_cons.mpr ⟨(Or.inl rfl), (List.forall_mem_cons.mpr ⟨(Or.inl rfl), (List.forall_mem_nil _)⟩)⟩)⟩)⟩)⟩
  have h44 : ax_ho G M_X2_make 26 44 none := ⟨_, en_c E (k := 44) rfl, fun s args hs hw => (List.forall_mem_cons.mpr ⟨(Or.inl rfl), (List.forall_mem_cons.mpr ⟨(Or.inl rfl), (List.forall_mem_cons.mpr ⟨(Or.inl rfl), (List.forall_mem_cons.mpr ⟨(Or.inl rfl), (List.forall_mem_nil _)⟩)⟩)⟩)⟩)⟩
  have h45 : ax_ho G M_X2_make 26 45 none := ⟨_, en_c E (k := 45) rfl, fun s args hs hw => (List.forall_mem_cons.mpr ⟨(Or.inl rfl), (List.forall_mem_cons.mpr ⟨(Or.inl rfl), (List.forall_mem_cons.mpr ⟨(Or.inl rfl), (List.forall_mem_cons.mpr ⟨(Or.inl rfl), (List.forall_mem_nil _)⟩)⟩)⟩)⟩)⟩
  have h46 : ax_ho G M_X2_make 26 46 none := ⟨_, en_c E (k := 46) rfl, fun s args hs hw => (List.forall_mem_cons.mpr ⟨(Or.inl rfl), (List.forall_mem_cons.mpr ⟨(Or.inl rfl), (List.forall_mem_cons.mpr ⟨(Or.inl rfl), (List.forall_mem_cons.mpr ⟨(Or.inl rfl), (List.forall_mem_nil _)⟩)⟩)⟩)⟩)⟩
  intro k o h
  unfold hd_0 at h
  split at h
  · rename_i hk
    cases h
    simp only [List.mem_cons, List.not_mem_nil, or_false] at hk
    rcases hk with rfl | rfl | rfl | rfl | rfl | rfl | rfl | rfl | rfl | rfl | rfl | rfl
    · exact h18
    · exact h0
    · exact h6
    · exact h7
    · exact h28
    · exact h32
    · exact h33
    · exact h34
    · exact h35
    · exact h44
    · exact h45
    · exact h46
  · cases h
theorem hox_X2_make_33 (E : ax_EN G l) : ax_hok G M_X2_make 33 hd_0 := by
  have hB := en_B E
  have h18 : ax_ho G M_X2_make 33 18 none := ⟨_, en_c E (k := 18) rfl, fun s args hs hw => (List.forall_mem_cons.mpr ⟨(Or.inl rfl), (List.forall_mem_cons.mpr ⟨(Or.inl rfl), (List.forall_mem_cons.mpr ⟨(Or.inl rfl), (List.forall_mem_cons.mpr ⟨(Or.inl rfl), (List.forall_mem_nil _)⟩)⟩)⟩)⟩)⟩
  have h0 : ax_ho G M_X2_make 33 0 none := ⟨_, en_c E (k := 0) rfl, fun s args hs hw => (List.forall_mem_cons.mpr ⟨(Or.inl rfl), (List.forall_mem_cons.mpr ⟨(Or.inl rfl), (List.forall_mem_cons.mpr ⟨(Or.inl rfl), (List.forall_mem_cons.mpr ⟨(Or.inl rfl), (List.forall_mem_nil _)⟩)⟩)⟩)⟩)⟩
  have h6 : ax_ho G M_X2_make 33 6 none := ⟨_, en_c E (k := 6) rfl, fun s args hs hw => (List.forall_mem_cons.mpr ⟨(Or.inl rfl), (List.forall_mem_cons.mpr ⟨(Or.inl rfl), (List.forall_mem_cons.mpr ⟨(Or.inl rfl), (List.forall_mem_cons.mpr ⟨(Or.inl rfl), (List.forall_mem_nil _)⟩)⟩)⟩)⟩)⟩
  have h7 : ax_ho G M_X2_make 33 7 none := ⟨_, en_c E (k := 7) rfl, fun s args hs hw => (List.forall_mem_cons.mpr ⟨(Or.inl rfl), (List.forall_mem_cons.mpr ⟨(Or.inl rfl), (List.forall_mem_cons.mpr ⟨(Or.inl rfl), (List.forall_mem_cons.mpr ⟨(Or.inl rfl), (List.forall_mem_nil _)⟩)⟩)⟩)⟩)⟩
  have h28 : ax_ho G M_X2_make 33 28 none := ⟨_, en_c E (k := 28) rfl, fun s args hs hw => (List.forall_mem_cons.mpr ⟨(Or.inl rfl), (List.forall_mem_cons.mpr ⟨(Or.inl rfl), (List.forall_mem_cons.mpr ⟨(Or.inl rfl), (List.forall_mem_cons.mpr ⟨(Or.inl rfl), (List.forall_mem_nil _)⟩)⟩)⟩)⟩)⟩
  have h32 : ax_ho G M_X2_make 33 32 none := ⟨_, en_c E (k := 32) rfl, fun s args hs hw => (List.forall_mem_cons.mpr ⟨(Or.inl rfl), (List.forall_mem_cons.mpr ⟨(Or.inl rfl), (List.forall_mem_cons.mpr ⟨(Or.inl rfl), (List.forall_mem_cons.mpr ⟨(Or.inl rfl), (List.forall_mem_nil _)⟩)⟩)⟩)⟩)⟩
  have h33 : ax_ho G M_X2_make 33 33 none := ⟨_, en_c E (k := 33) rfl, fun s args hs hw => (List.forall_mem_cons.mpr ⟨(Or.inl rfl), (List.forall_mem_cons.mpr ⟨(Or.inl rfl), (List.forall_mem_cons.mpr ⟨(Or.inl rfl), (List.forall_mem_cons.mpr ⟨(Or.inl rfl), (List.forall_mem_nil _)⟩)⟩)⟩)⟩)⟩
  have h34 : ax_ho G M_X2_make 33 34 none := ⟨_, en_c E (k := 34) rfl, fun s args hs hw => (List.forall_mem_cons.mpr ⟨(Or.inl rfl), (List.forall_mem_cons.mpr ⟨(Or.inl rfl), (List.forall_mem_cons.mpr ⟨(Or.inl rfl), (List.forall_mem_cons.mpr ⟨(Or.inl rfl), (List.forall_mem_nil _)⟩)⟩)⟩)⟩)⟩
  have h35 : ax_ho G M_X2_make 33 35 none := ⟨_, en_c E (k := 35) rfl, fun s args hs hw => (List.forall_mem_cons.mpr ⟨(Or.inl rfl), (List.forall_mem_cons.mpr ⟨(Or.inl rfl), (List.forall_mem_cons.mpr ⟨(Or.inl rfl), (List.forall_mem_cons.mpr ⟨(Or.inl rfl), (List.forall_mem_nil _)⟩)⟩)⟩)⟩)⟩
  have h44 : ax_ho G M_X2_make 33 44 none := ⟨_, en_c E (k := 44) rfl, fun s args hs hw => (List.forall_mem_cons.mpr ⟨(Or.inl rfl), (List.forall_mem_cons.mpr ⟨(Or.inl rfl), (List.forall_mem_cons.mpr ⟨(Or.inl rfl), (List.forall_mem_cons.mpr ⟨(Or.inl rfl), (List.forall_mem_nil _)⟩)⟩)⟩)⟩)⟩
  have h45 : ax_ho G M_X2_make 33 45 none := ⟨_, en_c E (k := 45) rfl, fun s args hs hw => (List.forall_mem_cons.mpr ⟨(Or.inl rfl), (List.forall_mem_cons.mpr ⟨(Or.inl rfl), (List.forall_mem_cons.mpr ⟨(Or.inl rfl), (List.forall_mem_cons.mpr ⟨(Or.inl rfl), (List.forall_mem_nil _)⟩)⟩)⟩)⟩)⟩
  have h46 : ax_ho G M_X2_make 33 46 none := ⟨_, en_c E (k := 46) rfl, fun s args hs hw => (List.forall_mem_cons.mpr ⟨(Or.inl rfl), (List.forall_mem_cons.mpr ⟨(Or.inl rfl), (List.forall_mem_cons.mpr ⟨(Or.inl rfl), (List.forall_mem_cons.mpr ⟨(Or.inl rfl), (List.forall_mem_nil _)⟩)⟩)⟩)⟩)⟩
  intro k o h
  unfold hd_0 at h
  split at h
  · rename_i hk
    cases h
    simp only [List.mem_cons, List.not_mem_nil, or_false] at hk
    rcases hk with rfl | rfl | rfl | rfl | rfl | rfl | rfl | rfl | rfl | rfl | rfl | rfl
    · exact h18
    · exact h0
    · exact h6
    · exact h7
    · exact h28
    · exact h32
    · exact h33
    · exact h34
    · exact h35
    · exact h44
    · exact h45
    · exact h46
  · cases h
theorem hox_X2_make_46 (E : ax_EN G l) : ax_hok G M_X2_make 46 hd_0 := by
  have hB := en_B E
  have h18 : ax_ho G M_X2_make 46 18 none := ⟨_, en_c E (k := 18) rfl, fun s args hs hw => (List.forall_mem_cons.mpr ⟨(Or.inl rfl), (List.forall_mem_cons.mpr ⟨(Or.inl rfl), (List.forall_mem_cons.mpr ⟨(Or.inl rfl), (List.forall_mem_cons.mpr ⟨(Or.inl rfl), (List.forall_mem_nil _)⟩)⟩)⟩)⟩)⟩
  have h0 : ax_ho G M_X2_make 46 0 none := ⟨_, en_c E (k := 0) rfl, fun s args hs hw => (List.forall_mem_cons.mpr ⟨(Or.inl rfl), (List.forall_mem_cons.mpr ⟨(Or.inl rfl), (List.forall_mem_cons.mpr ⟨(Or.inl rfl), (List.forall_mem_cons.mpr ⟨(Or.inl rfl), (List.forall_mem_nil _)⟩)⟩)⟩)⟩)⟩
  have h6 : ax_ho G M_X2_make 46 6 none := ⟨_, en_c E (k := 6) rfl, fun s args hs hw => (List.forall_mem_cons.mpr ⟨(Or.inl rfl), (List.forall_mem_cons.mpr ⟨(Or.inl rfl), (List.forall_mem_cons.mpr ⟨(Or.inl rfl), (List.forall_mem_cons.mpr ⟨(Or.inl rfl), (List.forall_mem_nil _)⟩)⟩)⟩)⟩)⟩
  have h7 : ax_ho G M_X2_make 46 7 none := ⟨_, en_c E (k := 7) rfl, fun s args hs hw => (List.forall_mem_cons.mpr ⟨(Or.inl rfl), (List.forall_mem_cons.mpr ⟨(Or.inl rfl), (List.forall_mem_cons.mpr ⟨(Or.inl rfl), (List.forall_mem_cons.mpr ⟨(Or.inl rfl), (List.forall_mem_nil _)⟩)⟩)⟩)⟩)⟩
  have h28 : ax_ho G M_X2_make 46 28 none := ⟨_, en_c E (k := 28) rfl, fun s args hs hw => (List.forall_mem_cons.mpr ⟨(Or.inl rfl), (List.forall_mem_cons.mpr ⟨(Or.inl rfl), (List.forall_mem_cons.mpr ⟨(Or.inl rfl), (List.forall_mem_cons.mpr ⟨(Or.inl rfl), (List.forall_mem_nil _)⟩)⟩)⟩)⟩)⟩
  have h32 : ax_ho G M_X2_make 46 32 none := ⟨_, en_c E (k := 32) rfl, fun s args hs hw => (List.forall_mem_cons.mpr ⟨(Or.inl rfl), (List.forall_mem_cons.mpr ⟨(Or.inl rfl), (List.forall_mem_cons.mpr ⟨(Or.inl rfl), (List.forall_mem_cons.mpr ⟨(Or.inl rfl), (List.forall_mem_nil _)⟩)⟩)⟩)⟩)⟩
  have h33 : ax_ho G M_X2_make 46 33 none := ⟨_, en_c E (k := 33) rfl, fun s args hs hw => (List.forall_mem_cons.mpr ⟨(Or.inl rfl), (List.forall_mem_cons.mpr ⟨(Or.inl rfl), (List.forall_mem_cons.mpr ⟨(Or.inl rfl), (List.forall_mem_cons.mpr ⟨(Or.inl rfl), (List.forall_mem_nil _)⟩)⟩)⟩)⟩)⟩
  have h34 : ax_ho G M_X2_make 46 34 none := ⟨_, en_c E (k := 34) rfl, fun s args hs hw => (List.forall_mem_cons.mpr ⟨(Or.inl rfl), (List.forall_mem_cons.mpr ⟨(Or.inl rfl), (List.forall_mem_cons.mpr ⟨(Or.inl rfl), (List.forall_mem_cons.mpr ⟨(Or.inl rfl), (List.forall_mem_nil _)⟩)⟩)⟩)⟩)⟩
  have h35 : ax_ho G M_X2_make 46 35 none := ⟨_, en_c E (k := 35) rfl, fun s args hs hw => (List.forall_mem_cons.mpr ⟨(Or.inl rfl), (List.forall_mem_cons.mpr ⟨(Or.inl rfl), (List.forall_mem_cons.mpr ⟨(Or.inl rfl), (List.forall_mem_cons.mpr ⟨(Or.inl rfl), (List.forall_mem_nil _)⟩)⟩)⟩)⟩)⟩
  have h44 : ax_ho G M_X2_make 46 44 none := ⟨_, en_c E (k := 44) rfl, fun s args hs hw => (List.forall_mem_cons.mpr ⟨(Or.inl rfl), (List.forall_mem_cons.mpr ⟨(Or.inl rfl), (List.forall_mem_cons.mpr ⟨(Or.inl rfl), (List.forall_mem_cons.mpr ⟨(Or.inl rfl), (List.forall_mem_nil _)⟩)⟩)⟩)⟩)⟩
  have h45 : ax_ho G M_X2_make 46 45 none := ⟨_, en_c E (k := 45) rfl, fun s args hs hw => (List.forall_mem_cons.mpr ⟨(Or.inl rfl), (List.forall_mem_cons.mpr ⟨(Or.inl rfl), (List.forall_mem_cons.mpr ⟨(Or.inl rfl), (List.forall_mem_cons.mpr ⟨(Or.inl rfl), (List.forall_mem_nil _)⟩)⟩)⟩)⟩)⟩
  have h46 : ax_ho G M_X2_make 46 46 none := ⟨_, en_c E (k := 46) rfl, fun s args hs hw => (List.forall_mem_cons.mpr ⟨(Or.inl rfl), (List.forall_mem_cons.mpr ⟨(Or.inl rfl), (List.forall_mem_cons.mpr ⟨(Or.inl rfl), (List.forall_mem_cons.mpr ⟨(Or.inl rfl), (List.forall_mem_nil _)⟩)⟩)⟩)⟩)⟩
  intro k o h
  unfold hd_0 at h
  split at h
  · rename_i hk
    cases h
    simp only [List.mem_cons, List.not_mem_nil, or_false] at hk
    rcases hk with rfl | rfl | rfl | rfl | rfl | rfl | rfl | rfl | rfl | rfl | rfl | rfl
    · exact h18
    · exact h0
    · exact h6
    · exact h7
    · exact h28
    · exact h32
    · exact h33
    · exact h34
    · exact h35
    · exact h44
    · exact h45
    · exact h46
  · cases h
theorem hox_X2_make_71 (E : ax_EN G l) : ax_hok G M_X2_make 71 hd_0 := by
  have hB := en_B E
  have h18 : ax_ho G M_X2_make 71 18 none := ⟨_, en_c E (k := 18) rfl, fun s args hs hw => (List.forall_mem_cons.mpr ⟨(Or.inl rfl), (List.forall_mem_cons.mpr ⟨(Or.inl rfl), (List.forall_mem_cons.mpr ⟨(Or.inl rfl), (List.forall_mem_cons.mpr ⟨(Or.inl rfl), (List.forall_mem_nil _)⟩)⟩)⟩)⟩)⟩
  have h0 : ax_ho G M_X2_make 71 0 none := ⟨_, en_c E (k := 0) rfl, fun s args hs hw => (List.forall_mem_cons.mpr ⟨(Or.inl rfl), (List.forall_mem_cons.mpr ⟨(Or.inl rfl), (List.forall_mem_cons.mpr ⟨(Or.inl rfl), (List.forall_mem_cons.mpr ⟨(Or.inl rfl), (List.forall_mem_nil _)⟩)⟩)⟩)⟩)⟩
  have h6 : ax_ho G M_X2_make 71 6 none := ⟨_, en_c E (k := 6) rfl, fun s args hs hw => (List.forall_mem_cons.mpr ⟨(Or.inl rfl), (List.forall_mem_cons.mpr ⟨(Or.inl rfl), (List.forall_mem_cons.mpr ⟨(Or.inl rfl), (List.forall_mem_cons.mpr ⟨(Or.inl rfl), (List.forall_mem_nil _)⟩)⟩)⟩)⟩)⟩
  have h7 : ax_ho G M_X2_make 71 7 none := ⟨_, en_c E (k := 7) rfl, fun s args hs hw => (List.forall_mem_cons.mpr ⟨(Or.inl rfl), (List.forall_mem_cons.mpr ⟨(Or.inl rfl), (List.forall_mem_cons.mpr ⟨(Or.inl rfl), (List.forall_mem_cons.mpr ⟨(Or.inl rfl), (List.forall_mem_nil _)⟩)⟩)⟩)⟩)⟩
  have h28 : ax_ho G M_X2_make 71 28 none := ⟨_, en_c E (k := 28) rfl, fun s args hs hw => (List.forall_mem_cons.mpr ⟨(Or.inl rfl), (List.forall_mem_cons.mpr ⟨(Or.inl rfl), (List.forall_mem_cons.mpr ⟨(Or.inl rfl), (List.forall_mem_cons.mpr ⟨(Or.inl rfl), (List.forall_mem_nil _)⟩)⟩)⟩)⟩)⟩
  have h32 : ax_ho G M_X2_make 71 32 none := ⟨_, en_c E (k := 32) rfl, fun s args hs hw => (List.forall_mem_cons.mpr ⟨(Or.inl rfl), (List.forall_mem_cons.mpr ⟨(Or.inl rfl), (List.forall_mem_cons.mpr ⟨(Or.inl rfl), (List.forall_mem_cons.mpr ⟨(Or.inl rfl), (List.forall_mem_nil _)⟩)⟩)⟩)⟩)⟩
  have h33 : ax_ho G M_X2_make 71 33 none := ⟨_, en_c E (k := 33) rfl, fun s args hs hw => (List.forall_mem_cons.mpr ⟨(Or.inl rfl), (List.forall_mem_cons.mpr ⟨(Or.inl rfl), (List.forall_mem_cons.mpr ⟨(Or.inl rfl), (List.forall_mem_cons.mpr ⟨(Or.inl rfl), (List.forall_mem_nil _)⟩)⟩)⟩)⟩)⟩
  have h34 : ax_ho G M_X2_make 71 34 none := ⟨_, en_c E (k := 34) rfl, fun s args hs hw => (List.forall_mem_cons.mpr ⟨(Or.inl rfl), (List.forall_mem_cons.mpr ⟨(Or.inl rfl), (List.forall_mem_cons.mpr ⟨(Or.inl rfl), (List.forall_mem_cons.mpr ⟨(Or.inl rfl), (List.forall_mem_nil _)⟩)⟩)⟩)⟩)⟩
  have h35 : ax_ho G M_X2_make 71 35 none := ⟨_, en_c E (k := 35) rfl, fun s args hs hw => (List.forall_mem_cons.mpr ⟨(Or.inl rfl), (List.forall_mem_cons.mpr ⟨(Or.inl rfl), (List.forall_mem_cons.mpr ⟨(Or.inl rfl), (List.forall_mem_cons.mpr ⟨(Or.inl rfl), (List.forall_mem_nil _)⟩)⟩)⟩)⟩)⟩
  have h44 : ax_ho G M_X2_make 71 44 none := ⟨_, en_c E (k := 44) rfl, fun s args hs hw => (List.forall_mem_cons.mpr ⟨(Or.inl rfl), (List.forall_mem_cons.mpr ⟨(Or.inl rfl), (List.forall_mem_cons.mpr ⟨(Or.inl rfl), (List.forall_mem_cons.mpr ⟨(Or.inl rfl), (List.forall_mem_nil _)⟩)⟩)⟩)⟩)⟩
  have h45 : ax_ho G M_X2_make 71 45 none := ⟨_, en_c E (k := 45) rfl, fun s args hs hw => (List.forall_mem_cons.mpr ⟨(Or.inl rfl), (List.forall_mem_cons.mpr ⟨(Or.inl rfl), (List.forall_mem_cons.mpr ⟨(Or.inl rfl), (List.forall_mem_cons.mpr ⟨(Or.inl rfl), (List.forall_mem_nil _)⟩)⟩)⟩)⟩)⟩
  have h46 : ax_ho G M_X2_make 71 46 none := ⟨_, en_c E (k := 46) rfl, fun s args hs hw => (List.forall_mem_cons.mpr ⟨(Or.inl rfl), (List.forall_mem_cons.mpr ⟨(Or.inl rfl), (List.forall_mem_cons.mpr ⟨(Or.inl rfl), (List.forall_mem_cons.mpr ⟨(Or.inl rfl), (List.forall_mem_nil _)⟩)⟩)⟩)⟩)⟩
  intro k o h
  unfold hd_0 at h
  split at h
  · rename_i hk
    cases h
    simp only [List.mem_cons, List.not_mem_nil, or_false] at hk
    rcases hk with rfl | rfl | rfl | rfl | rfl | rfl | rfl | rfl | rfl | rfl | rfl | rfl
    · exact h18
    · exact h0
    · exact h6
    · exact h7
    · exact h28
    · exact h32
    · exact h33
    · exact h34
    · exact h35
    · exact h44
    · exact h45
    · exact h46
  · cases h
theorem hox_X2_make_91 (E : ax_EN G l) : ax_hok G M_X2_make 91 hd_0 := by
  have hB := en_B E
  have h18 : ax_ho G M_X2_make 91 18 none := ⟨_, en_c E (k := 18) rfl, fun s args hs hw => (List.forall_mem_cons.mpr ⟨(Or.inl rfl), (List.forall_mem_cons.mpr ⟨(Or.inl rfl), (List.forall_mem_cons.mpr ⟨(Or.inl rfl), (List.forall_mem_cons.mpr ⟨(Or.inl rfl), (List.forall_mem_nil _)⟩)⟩)⟩)⟩)⟩
  have h0 : ax_ho G M_X2_make 91 0 none := ⟨_, en_c E (k := 0) rfl, fun s args hs hw => (List.forall_mem_cons.mpr ⟨(Or.inl rfl), (List.forall_mem_cons.mpr ⟨(Or.inl rfl), (List.forall_mem_cons.mpr ⟨(Or.inl rfl), (List.forall_mem_cons.mpr ⟨(Or.inl rfl), (List.forall_mem_nil _)⟩)⟩)⟩)⟩)⟩
  have h6 : ax_ho G M_X2_make 91 6 none := ⟨_, en_c E (k := 6) rfl, fun s args hs hw => (List.forall_mem_cons.mpr ⟨(Or.inl rfl), (List.forall_mem_cons.mpr ⟨(Or.inl rfl), (List.forall_mem_cons.mpr ⟨(Or.inl rfl), (List.forall_mem_cons.mpr ⟨(Or.inl rfl), (List.forall_mem_nil _)⟩)⟩)⟩)⟩)⟩
  have h7 : ax_ho G M_X2_make 91 7 none := ⟨_, en_c E (k := 7) rfl, fun s args hs hw => (List.forall_mem_cons.mpr ⟨(Or.inl rfl), (List.forall_mem_cons.mpr ⟨(Or.inl rfl), (List.forall_mem_cons.mpr ⟨(Or.inl rfl), (List.forall_mem_cons.mpr ⟨(Or.inl rfl), (List.forall_mem_nil _)⟩)⟩)⟩)⟩)⟩
  have h28 : ax_ho G M_X2_make 91 28 none := ⟨_, en_c E (k := 28) rfl, fun s args hs hw => (List.forall_mem_cons.mpr ⟨(Or.inl rfl), (List.forall_mem_cons.mpr ⟨(Or.inl rfl), (List.forall_mem_cons.mpr ⟨(Or.inl rfl), (List.forall_mem_cons.mpr ⟨(Or.inl rfl), (List.forall_mem_nil _)⟩)⟩)⟩)⟩)⟩
  have h32 : ax_ho G M_X2_make 91 32 none := ⟨_, en_c E (k := 32) rfl, fun s args hs hw => (List.forall_mem_cons.mpr ⟨(Or.inl rfl), (List.forall_mem_cons.mpr ⟨(Or.inl rfl), (List.forall_mem_cons.mpr ⟨(Or.inl rfl), (List.forall_mem_cons.mpr ⟨(Or.inl rfl), (List.forall_mem_nil _)⟩)⟩)⟩)⟩)⟩
  have h33 : ax_ho G M_X2_make 91 33 none := ⟨_, en_c E (k := 33) rfl, fun s args hs hw => (List.forall_mem_cons.mpr ⟨(Or.inl rfl), (List.forall_mem_cons.mpr ⟨(Or.inl rfl), (List.forall_mem_cons.mpr ⟨(Or.inl rfl), (List.forall_mem_cons.mpr ⟨(Or.inl rfl), (List.forall_mem_nil _)⟩)⟩)⟩)⟩)⟩
  have h34 : ax_ho G M_X2_make 91 34 none := ⟨_, en_c E (k := 34) rfl, fun s args hs hw => (List.forall_mem_cons.mpr ⟨(Or.inl rfl), (List.forall_mem_cons.mpr ⟨(Or.inl rfl), (List.forall_mem_cons.mpr ⟨(Or.inl rfl), (List.forall_mem_cons.mpr ⟨(Or.inl rfl), (List.forall_mem_nil _)⟩)⟩)⟩)⟩)⟩
  have h35 : ax_ho G M_X2_make 91 35 none := ⟨_, en_c E (k := 35) rfl, fun s args hs hw => (List.forall_mem_cons.mpr ⟨(Or.inl rfl), (List.forall_mem_cons.mpr ⟨(Or.inl rfl), (List.forall_mem_cons.mpr ⟨(Or.inl rfl), (List.forall_mem_cons.mpr ⟨(Or.inl rfl), (List.forall_mem_nil _)⟩)⟩)⟩)⟩)⟩
  have h44 : ax_ho G M_X2_make 91 44 none := ⟨_, en_c E (k := 44) rfl, fun s args hs hw => (List.forall_mem_cons.mpr ⟨(Or.inl rfl), (List.forall_mem_cons.mpr ⟨(Or.inl rfl), (List.forall_mem_cons.mpr ⟨(Or.inl rfl), (List.forall_mem_cons.mpr ⟨(Or.inl rfl), (List.forall_mem_nil _)⟩)⟩)⟩)⟩)⟩
  have h45 : ax_ho G M_X2_make 91 45 none := ⟨_, en_c E (k := 45) rfl, fun s args hs hw => (List.forall_mem_cons.mpr ⟨(Or.inl rfl), (List.forall_mem_cons.mpr ⟨(Or.inl rfl), (List.forall_mem_cons.mpr ⟨(Or.inl rfl), (List.forall_mem_cons.mpr ⟨(Or.inl rfl), (List.forall_mem_nil _)⟩)⟩)⟩)⟩)⟩
  have h46 : ax_ho G M_X2_make 91 46 none := ⟨_, en_c E (k := 46) rfl, fun s args hs hw => (List.forall_mem_cons.mpr ⟨(Or.inl rfl), (List.forall_mem_cons.mpr ⟨(Or.inl rfl), (List.forall_mem_cons.mpr ⟨(Or.inl rfl), (List.forall_mem_cons.mpr ⟨(Or.inl rfl), (List.forall_mem_nil _)⟩)⟩)⟩)⟩)⟩
  intro k o h
  unfold hd_0 at h
  split at h
  · rename_i hk
    cases h
    simp only [List.mem_cons, List.not_mem_nil, or_false] at hk
    rcases hk with rfl | rfl | rfl | rfl | rfl | rfl | rfl | rfl | rfl | rfl | rfl | rfl
    · exact h18
    · exact h0
    · exact h6
    · exact h7
    · exact h28
    · exact h32
    · exact h33
    · exact h34
    · exact h35
    · exact h44
    · exact h45
    · exact h46
  · cases h
theorem hox_X2_make_95 (E : ax_EN G l) : ax_hok G M_X2_make 95 hd_0 := by
  have hB := en_B E
  have h18 : ax_ho G M_X2_make 95 18 none := ⟨_, en_c E (k := 18) rfl, fun s args hs hw => (List.forall_mem_cons.mpr ⟨(Or.inl rfl), (List.forall_mem_cons.mpr ⟨(Or.inl rfl), (List.forall_mem_cons.mpr ⟨(Or.inl rfl), (List.forall_mem_cons.mpr ⟨(Or.inl rfl), (List.forall_mem_nil _)⟩)⟩)⟩)⟩)⟩
  have h0 : ax_ho G M_X2_make 95 0 none := ⟨_, en_c E (k := 0) rfl, fun s args hs hw => (List.forall_mem_cons.mpr ⟨(Or.inl rfl), (List.forall_mem_cons.mpr ⟨(Or.inl rfl), (List.forall_mem_cons.mpr ⟨(Or.inl rfl), (List.forall_mem_cons.mpr ⟨(Or.inl rfl), (List.forall_mem_nil _)⟩)⟩)⟩)⟩)⟩
  have h6 : ax_ho G M_X2_make 95 6 none := ⟨_, en_c E (k := 6) rfl, fun s args hs hw => (List.forall_mem_cons.mpr ⟨(Or.inl rfl), (List.forall_mem_cons.mpr ⟨(Or.inl rfl), (List.forall_mem_cons.mpr ⟨(Or.inl rfl), (List.forall_mem_cons.mpr ⟨(Or.inl rfl), (List.forall_mem_nil _)⟩)⟩)⟩)⟩)⟩
  have h7 : ax_ho G M_X2_make 95 7 none := ⟨_, en_c E (k := 7) rfl, fun s args hs hw => (List.forall_mem_cons.mpr ⟨(Or.inl rfl), (List.forall_mem_cons.mpr ⟨(Or.inl rfl), (List.forall_mem_cons.mpr ⟨(Or.inl rfl), (List.forall_mem_cons.mpr ⟨(Or.inl rfl), (List.forall_mem_nil _)⟩)⟩)⟩)⟩)⟩
  have h28 : ax_ho G M_X2_make 95 28 none := ⟨_, en_c E (k := 28) rfl, fun s args hs hw => (List.forall_mem_cons.mpr ⟨(Or.inl rfl), (List.forall_mem_cons.mpr ⟨(Or.inl rfl), (List.forall_mem_cons.mpr ⟨(Or.inl rfl), (List.forall_mem_cons.mpr ⟨(Or.inl rfl), (List.forall_mem_nil _)⟩)⟩)⟩)⟩)⟩
  have h32 : ax_ho G M_X2_make 95 32 none := ⟨_, en_c E (k := 32) rfl, fun s args hs hw => (List.forall_mem_cons.mpr ⟨(Or.inl rfl), (List.forall_mem_cons.mpr ⟨(Or.inl rfl), (List.forall_mem_cons.mpr ⟨(Or.inl rfl), (List.forall_mem_cons.mpr ⟨(Or.inl rfl), (List.forall_mem_nil _)⟩)⟩)⟩)⟩)⟩
  have h33 : ax_ho G M_X2_make 95 33 none := ⟨_, en_c E (k := 33) rfl, fun s args hs hw => (List.forall_mem_cons.mpr ⟨(Or.inl rfl), (List.forall_mem_cons.mpr ⟨(Or.inl rfl), (List.forall_mem_cons.mpr ⟨(Or.inl rfl), (List.forall_mem_cons.mpr ⟨(Or.inl rfl), (List.forall_mem_nil _)⟩)⟩)⟩)⟩)⟩
  have h34 : ax_ho G M_X2_make 95 34 none := ⟨_, en_c E (k := 34) rfl, fun s args hs hw => (List.forall_mem_cons.mpr ⟨(Or.inl rfl), (List.forall_mem_cons.mpr ⟨(Or.inl rfl), (List.forall_mem_cons.mpr ⟨(Or.inl rfl), (List.forall_mem_cons.mpr ⟨(Or.inl rfl), (List.forall_mem_nil _)⟩)⟩)⟩)⟩)⟩
  have h35 : ax_ho G M_X2_make 95 35 none := ⟨_, en_c E (k := 35) rfl, fun s args hs hw => (List.forall_mem_cons.mpr ⟨(Or.inl rfl), (List.forall_mem_cons.mpr ⟨(Or.inl rfl), (List.forall_mem_cons.mpr ⟨(Or.inl rfl), (List.forall_mem_cons.mpr ⟨(Or.inl rfl), (List.forall_mem_nil _)⟩)⟩)⟩)⟩)⟩
  have h44 : ax_ho G M_X2_make 95 44 none := ⟨_, en_c E (k := 44) rfl, fun s args hs hw => (List.forall_mem_cons.mpr ⟨(Or.inl rfl), (List.forall_mem_cons.mpr ⟨(Or.inl rfl), (List.forall_mem_cons.mpr ⟨(Or.inl rfl), (List.forall_mem_cons.mpr ⟨(Or.inl rfl), (List.forall_mem_nil _)⟩)⟩)⟩)⟩)⟩
  have h45 : ax_ho G M_X2_make 95 45 none := ⟨_, en_c E (k := 45) rfl, fun s args hs hw => (List.forall_mem_cons.mpr ⟨(Or.inl rfl), (List.forall_mem_cons.mpr ⟨(Or.inl rfl), (List.forall_mem_cons.mpr ⟨(Or.inl rfl), (List.forall_mem_cons.mpr ⟨(Or.inl rfl), (List.forall_mem_nil _)⟩)⟩)⟩)⟩)⟩
  have h46 : ax_ho G M_X2_make 95 46 none := ⟨_, en_c E (k := 46) rfl, fun s args hs hw => (List.forall_mem_cons.mpr ⟨(Or.inl rfl), (List.forall_mem_cons.mpr ⟨(Or.inl rfl), (List.forall_mem_cons.mpr ⟨(Or.inl rfl), (List.forall_mem_cons.mpr ⟨(Or.inl rfl), (List.forall_mem_nil _)⟩)⟩)⟩)⟩)⟩
  intro k o h
  unfold hd_0 at h
  split at h
  · rename_i hk
    cases h
    simp only [List.mem_cons, List.not_mem_nil, or_false] at hk
    rcases hk with rfl | rfl | rfl | rfl | rfl | rfl | rfl | rfl | rfl | rfl | rfl | rfl
    · exact h18
    · exact h0
    · exact h6
    · exact h7
    · exact h28
    · exact h32
    · exact h33
    · exact h34
    · exact h35
    · exact h44
    · exact h45
    · exact h46
  · cases h
theorem r_X2_make_0 (E : ax_EN G l) : ax_Snd G l ax_Ym M_X2_make 0 (S_aload 0 1) := k_aload_n dX2_make_0 rfl
theorem r_X2_make_1 (E : ax_EN G l) : ax_Snd G l ax_Ym M_X2_make 1 (S_getf [(29, 3)] 4) := k_getf (en_F E) (ax_fes_cons (fe_299 E) ax_fes_nil) q290 dX2_make_1
theorem r_X2_make_4 (E : ax_EN G l) : ax_Snd G l ax_Ym M_X2_make 4 (S_if1 (fun x => decide (x = 0)) 50 7) := k_if_eq dX2_make_4 rfl
theorem r_X2_make_7 (E : ax_EN G l) : ax_Snd G l ax_Ym M_X2_make 7 (S_aload 0 8) := k_aload_n dX2_make_7 rfl
theorem r_X2_make_8 (E : ax_EN G l) : ax_Snd G l ax_Ym M_X2_make 8 (S_new 31 [.null, .int 0] 2 11) := k_new (en_F E) (mk_31 E) q2032 dX2_make_8
theorem r_X2_make_11 (E : ax_EN G l) : ax_Snd G l ax_Ym M_X2_make 11 (S_dup 12) := k_dup dX2_make_11
theorem r_X2_make_12 (E : ax_EN G l) : ax_Snd G l ax_Ym M_X2_make 12 (S_isp 358 0 15 hd_0) := k_isp (en_F E) (hok_303 E) ((ev_iN (en_B E) y_X21_init q2034 q2035 q164 q2036 nm_X21_init rfl (Nat.le_of_ble_eq_true rfl) dX2_make_12) : ax_EvI G l ax_Ym M_X2_make 12 358 0 3)
theorem r_X2_make_15 (E : ax_EN G l) : ax_Snd G l ax_Ym M_X2_make 15 (S_putf [(29, 4)] (.object "KernelGym$Step") 18) := k_putf (en_F E) (en_P E) (ax_fes_cons (fe_304 E) ax_fes_nil) (ax_fps_cons (fp_305 E) ax_fps_nil) q291 dX2_make_15
theorem r_X2_make_18 (E : ax_EN G l) : ax_Snd G l ax_Ym M_X2_make 18 (S_aload 0 19) := k_aload_n dX2_make_18 rfl
theorem r_X2_make_19 (E : ax_EN G l) : ax_Snd G l ax_Ym M_X2_make 19 (S_getf [(29, 2)] 22) := k_getf (en_F E) (ax_fes_cons (fe_159 E) ax_fes_nil) q288 dX2_make_19
theorem r_X2_make_22 (E : ax_EN G l) : ax_Snd G l ax_Ym M_X2_make 22 (S_aload 0 23) := k_aload_n dX2_make_22 rfl
theorem r_X2_make_23 (E : ax_EN G l) : ax_Snd G l ax_Ym M_X2_make 23 (S_getf [(29, 4)] 26) := k_getf (en_F E) (ax_fes_cons (fe_304 E) ax_fes_nil) q291 dX2_make_23
theorem r_X2_make_26 (E : ax_EN G l) : ax_Snd G l ax_Ym M_X2_make 26 (S_iv [(16, 149)] 1 29 hd_0) := k_iv (en_F E) (hox_X2_make_26 E) (ax_Evs_cons ((ev_v (en_c E (k := 16) rfl) rfl y_J5_addLast q2047 q2048 q2049 q125 q2050 nm_J5_addLast (Nat.le_of_ble_eq_true rfl) dX2_make_26) : ax_EvV G l ax_Ym M_X2_make 26 1 3 16 149) ax_Evs_nil)
theorem r_X2_make_29 (E : ax_EN G l) : ax_Snd G l ax_Ym M_X2_make 29 (S_aload 0 30) := k_aload_n dX2_make_29 rfl
theorem r_X2_make_30 (E : ax_EN G l) : ax_Snd G l ax_Ym M_X2_make 30 (S_getf [(29, 2)] 33) := k_getf (en_F E) (ax_fes_cons (fe_159 E) ax_fes_nil) q288 dX2_make_30
theorem r_X2_make_33 (E : ax_EN G l) : ax_Snd G l ax_Ym M_X2_make 33 (S_iv [(16, 143)] 0 36 hd_0) := k_iv (en_F E) (hox_X2_make_33 E) (ax_Evs_cons ((ev_v (en_c E (k := 16) rfl) rfl y_J5_size q2069 q1209 q1210 q125 q1211 nm_J5_size (Nat.le_of_ble_eq_true rfl) dX2_make_33) : ax_EvV G l ax_Ym M_X2_make 33 0 3 16 143) ax_Evs_nil)
theorem r_X2_make_36 (E : ax_EN G l) : ax_Snd G l ax_Ym M_X2_make 36 (S_push (.int (200)) 39) := k_sipush dX2_make_36 rfl
theorem r_X2_make_39 (E : ax_EN G l) : ax_Snd G l ax_Ym M_X2_make 39 (S_if2 (fun x y => decide (x ≤ y)) 50 42) := k_icmp_le dX2_make_39 rfl
theorem r_X2_make_42 (E : ax_EN G l) : ax_Snd G l ax_Ym M_X2_make 42 (S_aload 0 43) := k_aload_n dX2_make_42 rfl
theorem r_X2_make_43 (E : ax_EN G l) : ax_Snd G l ax_Ym M_X2_make 43 (S_getf [(29, 2)] 46) := k_getf (en_F E) (ax_fes_cons (fe_159 E) ax_fes_nil) q288 dX2_make_43
theorem r_X2_make_46 (E : ax_EN G l) : ax_Snd G l ax_Ym M_X2_make 46 (S_iv [(16, 153)] 0 49 hd_0) := k_iv (en_F E) (hox_X2_make_46 E) (ax_Evs_cons ((ev_v (en_c E (k := 16) rfl) rfl y_J5_removeFirst q2070 q2071 q2072 q125 q2073 nm_J5_removeFirst (Nat.le_of_ble_eq_true rfl) dX2_make_46) : ax_EvV G l ax_Ym M_X2_make 46 0 3 16 153) ax_Evs_nil)
theorem r_X2_make_49 (E : ax_EN G l) : ax_Snd G l ax_Ym M_X2_make 49 (S_pop 50) := k_pop dX2_make_49
theorem r_X2_make_50 (E : ax_EN G l) : ax_Snd G l ax_Ym M_X2_make 50 (S_aload 0 51) := k_aload_n dX2_make_50 rfl
theorem r_X2_make_51 (E : ax_EN G l) : ax_Snd G l ax_Ym M_X2_make 51 (S_iv [(29, 317)] 0 54 (fun k => if k ∈ [32, 35] then some (some 77) else if k ∈ [33, 34] then some (some 57) else if k ∈ [18, 0, 6, 7, 28, 44, 45, 46] then some none else none)) := k_iv (en_F E) (hok_306 E) (ax_Evs_cons ((ev_v (en_c E (k := 29) rfl) rfl y_X2_act q2083 q2085 qs27 q122 q2086 nm_X2_act (Nat.le_of_ble_eq_true rfl) dX2_make_51) : ax_EvV G l ax_Ym M_X2_make 51 0 3 29 317) ax_Evs_nil)
theorem r_X2_make_54 (E : ax_EN G l) : ax_Snd G l ax_Ym M_X2_make 54 (S_goto 94) := k_goto dX2_make_54 rfl
theorem r_X2_make_57 (E : ax_EN G l) : ax_Snd G l ax_Ym M_X2_make 57 (S_astore 1 58) := k_astore_n dX2_make_57 rfl (Nat.le_of_ble_eq_true rfl)
theorem r_X2_make_58 (E : ax_EN G l) : ax_Snd G l ax_Ym M_X2_make 58 (S_aload 0 59) := k_aload_n dX2_make_58 rfl
theorem r_X2_make_59 (E : ax_EN G l) : ax_Snd G l ax_Ym M_X2_make 59 (S_aload 1 60) := k_aload_n dX2_make_59 rfl
theorem r_X2_make_60 (E : ax_EN G l) : ax_Snd G l ax_Ym M_X2_make 60 (S_inst [33] [28, 32, 34, 35] 63) := k_inst (en_F E) (en_B E) (cs_307 E) (nc_308 E) q2028 dX2_make_60
theorem r_X2_make_63 (E : ax_EN G l) : ax_Snd G l ax_Ym M_X2_make 63 (S_if1 (fun x => decide (x = 0)) 70 66) := k_if_eq dX2_make_63 rfl
theorem r_X2_make_66 (E : ax_EN G l) : ax_Snd G l ax_Ym M_X2_make 66 (S_push (.int (1)) 67) := k_iconst dX2_make_66 rfl
theorem r_X2_make_67 (E : ax_EN G l) : ax_Snd G l ax_Ym M_X2_make 67 (S_goto 71) := k_goto dX2_make_67 rfl
theorem r_X2_make_70 (E : ax_EN G l) : ax_Snd G l ax_Ym M_X2_make 70 (S_push (.int (2)) 71) := k_iconst dX2_make_70 rfl
theorem r_X2_make_71 (E : ax_EN G l) : ax_Snd G l ax_Ym M_X2_make 71 (S_iv [(29, 346)] 1 74 hd_0) := k_iv (en_F E) (hox_X2_make_71 E) (ax_Evs_cons ((ev_v (en_c E (k := 29) rfl) rfl y_X2_stop q2283 q2285 qs54 q122 q2286 nm_X2_stop (Nat.le_of_ble_eq_true rfl) dX2_make_71) : ax_EvV G l ax_Ym M_X2_make 71 1 3 29 346) ax_Evs_nil)
theorem r_X2_make_74 (E : ax_EN G l) : ax_Snd G l ax_Ym M_X2_make 74 (S_goto 94) := k_goto dX2_make_74 rfl
theorem r_X2_make_77 (E : ax_EN G l) : ax_Snd G l ax_Ym M_X2_make 77 (S_astore 1 78) := k_astore_n dX2_make_77 rfl (Nat.le_of_ble_eq_true rfl)
theorem r_X2_make_78 (E : ax_EN G l) : ax_Snd G l ax_Ym M_X2_make 78 (S_aload 0 79) := k_aload_n dX2_make_78 rfl
theorem r_X2_make_79 (E : ax_EN G l) : ax_Snd G l ax_Ym M_X2_make 79 (S_aload 1 80) := k_aload_n dX2_make_79 rfl
theorem r_X2_make_80 (E : ax_EN G l) : ax_Snd G l ax_Ym M_X2_make 80 (S_inst [32] [28, 33, 34, 35] 83) := k_inst (en_F E) (en_B E) (cs_309 E) (nc_310 E) q2030 dX2_make_80
theorem r_X2_make_83 (E : ax_EN G l) : ax_Snd G l ax_Ym M_X2_make 83 (S_if1 (fun x => decide (x = 0)) 90 86) := k_if_eq dX2_make_83 rfl
theorem r_X2_make_86 (E : ax_EN G l) : ax_Snd G l ax_Ym M_X2_make 86 (S_push (.int (3)) 87) := k_iconst dX2_make_86 rfl
theorem r_X2_make_87 (E : ax_EN G l) : ax_Snd G l ax_Ym M_X2_make 87 (S_goto 91) := k_goto dX2_make_87 rfl
theorem r_X2_make_90 (E : ax_EN G l) : ax_Snd G l ax_Ym M_X2_make 90 (S_push (.int (4)) 91) := k_iconst dX2_make_90 rfl
theorem r_X2_make_91 (E : ax_EN G l) : ax_Snd G l ax_Ym M_X2_make 91 (S_iv [(29, 346)] 1 94 hd_0) := k_iv (en_F E) (hox_X2_make_91 E) (ax_Evs_cons ((ev_v (en_c E (k := 29) rfl) rfl y_X2_stop q2283 q2285 qs54 q122 q2286 nm_X2_stop (Nat.le_of_ble_eq_true rfl) dX2_make_91) : ax_EvV G l ax_Ym M_X2_make 91 1 3 29 346) ax_Evs_nil)
theorem r_X2_make_94 (E : ax_EN G l) : ax_Snd G l ax_Ym M_X2_make 94 (S_aload 0 95) := k_aload_n dX2_make_94 rfl
theorem r_X2_make_95 (E : ax_EN G l) : ax_Snd G l ax_Ym M_X2_make 95 (S_iv [(29, 347)] 0 98 hd_0) := k_iv (en_F E) (hox_X2_make_95 E) (ax_Evs_cons ((ev_v (en_c E (k := 29) rfl) rfl y_X2_pass q2287 q2289 qs55 q122 q2290 nm_X2_pass (Nat.le_of_ble_eq_true rfl) dX2_make_95) : ax_EvV G l ax_Ym M_X2_make 95 0 3 29 347) ax_Evs_nil)
theorem r_X2_make_98 (E : ax_EN G l) : ax_Snd G l ax_Ym M_X2_make 98 (S_aload 0 99) := k_aload_n dX2_make_98 rfl
theorem r_X2_make_99 (E : ax_EN G l) : ax_Snd G l ax_Ym M_X2_make 99 (S_push .null 100) := k_null dX2_make_99
theorem r_X2_make_100 (E : ax_EN G l) : ax_Snd G l ax_Ym M_X2_make 100 (S_putf [(29, 4)] (.object "KernelGym$Step") 103) := k_putf (en_F E) (en_P E) (ax_fes_cons (fe_304 E) ax_fes_nil) (ax_fps_cons (fp_305 E) ax_fps_nil) q291 dX2_make_100
theorem r_X2_make_103 (E : ax_EN G l) : ax_Snd G l ax_Ym M_X2_make 103 (S_ret) := k_ret dX2_make_103 rfl
theorem mt_X2_make (E : ax_EN G l) : ax_mt G l ax_Ym (2, P_X2_make) (ax_Ym 316) := ⟨M_X2_make, yX2_make, ⟨rfl, by decide +kernel, rfl, (fun h => by cases h), Or.inr rfl⟩, fun pc => (ax_sn_node (ax_sn_node (ax_sn_node (ax_sn_node (ax_sn_node (ax_sn_node (ax_sn_leaf (r_X2_make_103 E)) (ax_sn_leaf (r_X2_make_100 E))) (ax_sn_node (ax_sn_leaf (r_X2_make_99 E)) (ax_sn_leaf (r_X2_make_98 E)))) (ax_sn_node (ax_sn_node (ax_sn_leaf (r_X2_make_95 E)) (ax_sn_leaf (r_X2_make_94 E))) (ax_sn_leaf (r_X2_make_91 E)))) (ax_sn_node (ax_sn_node (ax_sn_node (ax_sn_leaf (r_X2_make_90 E)) (ax_sn_leaf (r_X2_make_87 E))) (ax_sn_leaf (r_X2_make_86 E))) (ax_sn_node (ax_sn_node (ax_sn_leaf (r_X2_make_83 E)) (ax_sn_leaf (r_X2_make_80 E))) (ax_sn_leaf (r_X2_make_79 E))))) (ax_sn_node (ax_sn_node (ax_sn_node (ax_sn_node (ax_sn_leaf (r_X2_make_78 E)) (ax_sn_leaf (r_X2_make_77 E))) (ax_sn_leaf (r_X2_make_74 E))) (ax_sn_node (ax_sn_node (ax_sn_leaf (r_X2_make_71 E)) (ax_sn_leaf (r_X2_make_70 E))) (ax_sn_leaf (r_X2_make_67 E)))) (ax_sn_node (ax_sn_node (ax_sn_node (ax_sn_leaf (r_X2_make_66 E)) (ax_sn_leaf (r_X2_make_63 E))) (ax_sn_leaf (r_X2_make_60 E))) (ax_sn_node (ax_sn_node (ax_sn_leaf (r_X2_make_59 E)) (ax_sn_leaf (r_X2_make_58 E))) (ax_sn_leaf (r_X2_make_57 E)))))) (ax_sn_node (ax_sn_node (ax_sn_node (ax_sn_node (ax_sn_node (ax_sn_leaf (r_X2_make_54 E)) (ax_sn_leaf (r_X2_make_51 E))) (ax_sn_node (ax_sn_leaf (r_X2_make_50 E)) (ax_sn_leaf (r_X2_make_49 E)))) (ax_sn_node (ax_sn_node (ax_sn_leaf (r_X2_make_46 E)) (ax_sn_leaf (r_X2_make_43 E))) (ax_sn_leaf (r_X2_make_42 E)))) (ax_sn_node (ax_sn_node (ax_sn_node (ax_sn_leaf (r_X2_make_39 E)) (ax_sn_leaf (r_X2_make_36 E))) (ax_sn_leaf (r_X2_make_33 E))) (ax_sn_node (ax_sn_node (ax_sn_leaf (r_X2_make_30 E)) (ax_sn_leaf (r_X2_make_29 E))) (ax_sn_leaf (r_X2_make_26 E))))) (ax_sn_node (ax_sn_node (ax_sn_node (ax_sn_node (ax_sn_leaf (r_X2_make_23 E)) (ax_sn_leaf (r_X2_make_22 E))) (ax_sn_leaf (r_X2_make_19 E))) (ax_sn_node (ax_sn_node (ax_sn_leaf (r_X2_make_18 E)) (ax_sn_leaf (r_X2_make_15 E))) (ax_sn_leaf (r_X2_make_12 E)))) (ax_sn_node (ax_sn_node (ax_sn_node (ax_sn_leaf (r_X2_make_11 E)) (ax_sn_leaf (r_X2_make_8 E))) (ax_sn_leaf (r_X2_make_7 E))) (ax_sn_node (ax_sn_node (ax_sn_leaf (r_X2_make_4 E)) (ax_sn_leaf (r_X2_make_1 E))) (ax_sn_leaf (r_X2_make_0 E)))))))⟩
theorem r_X2_act_0 (E : ax_EN G l) : ax_Snd G l ax_Ym M_X2_act 0 (S_aload 0 1) := k_aload_n dX2_act_0 rfl
theorem r_X2_act_1 (E : ax_EN G l) : ax_Snd G l ax_Ym M_X2_act 1 (S_getf [(29, 0)] 4) := k_getf (en_F E) (ax_fes_cons (fe_158 E) ax_fes_nil) q283 dX2_act_1
theorem r_X2_act_4 (E : ax_EN G l) : ax_Snd G l ax_Ym M_X2_act 4 (S_push (.int (18)) 6) := k_bipush dX2_act_4 rfl
theorem r_X2_act_6 (E : ax_EN G l) : ax_Snd G l ax_Ym M_X2_act 6 (S_iald 0 7) := k_iald (en_F E) dX2_act_6
theorem r_X2_act_7 (E : ax_EN G l) : ax_Snd G l ax_Ym M_X2_act 7 (S_if1 (fun x => decide (x ≤ 0)) 17 10) := k_if_le dX2_act_7 rfl
theorem r_X2_act_10 (E : ax_EN G l) : ax_Snd G l ax_Ym M_X2_act 10 (S_aload 0 11) := k_aload_n dX2_act_10 rfl
theorem r_X2_act_11 (E : ax_EN G l) : ax_Snd G l ax_Ym M_X2_act 11 (S_iv [(29, 318)] 0 14 hd_0) := k_iv (en_F E) (ax_ok0 E rfl) (ax_Evs_cons ((ev_v (en_c E (k := 29) rfl) rfl y_X2_write q2087 q2089 qs28 q122 q2090 nm_X2_write (Nat.le_of_ble_eq_true rfl) dX2_act_11) : ax_EvV G l ax_Ym M_X2_act 11 0 3 29 318) ax_Evs_nil)
theorem r_X2_act_14 (E : ax_EN G l) : ax_Snd G l ax_Ym M_X2_act 14 (S_goto 46) := k_goto dX2_act_14 rfl
theorem r_X2_act_17 (E : ax_EN G l) : ax_Snd G l ax_Ym M_X2_act 17 (S_aload 0 18) := k_aload_n dX2_act_17 rfl
theorem r_X2_act_18 (E : ax_EN G l) : ax_Snd G l ax_Ym M_X2_act 18 (S_getf [(29, 0)] 21) := k_getf (en_F E) (ax_fes_cons (fe_158 E) ax_fes_nil) q283 dX2_act_18
theorem r_X2_act_21 (E : ax_EN G l) : ax_Snd G l ax_Ym M_X2_act 21 (S_push (.int (7)) 23) := k_bipush dX2_act_21 rfl
theorem r_X2_act_23 (E : ax_EN G l) : ax_Snd G l ax_Ym M_X2_act 23 (S_iald 0 24) := k_iald (en_F E) dX2_act_23
theorem r_X2_act_24 (E : ax_EN G l) : ax_Snd G l ax_Ym M_X2_act 24 (S_push (.int (1)) 25) := k_iconst dX2_act_24 rfl
theorem r_X2_act_25 (E : ax_EN G l) : ax_Snd G l ax_Ym M_X2_act 25 (S_if2 (fun x y => decide (¬ x = y)) 42 28) := k_icmp_ne dX2_act_25 rfl
theorem r_X2_act_28 (E : ax_EN G l) : ax_Snd G l ax_Ym M_X2_act 28 (S_aload 0 29) := k_aload_n dX2_act_28 rfl
theorem r_X2_act_29 (E : ax_EN G l) : ax_Snd G l ax_Ym M_X2_act 29 (S_iv [(29, 322)] 0 32 hd_0) := k_iv (en_F E) (ax_ok0 E rfl) (ax_Evs_cons ((ev_v (en_c E (k := 29) rfl) rfl y_X2_isWaiting q2108 q2110 qs32 q122 q2111 nm_X2_isWaiting (Nat.le_of_ble_eq_true rfl) dX2_act_29) : ax_EvV G l ax_Ym M_X2_act 29 0 3 29 322) ax_Evs_nil)
theorem r_X2_act_32 (E : ax_EN G l) : ax_Snd G l ax_Ym M_X2_act 32 (S_if1 (fun x => decide (x = 0)) 42 35) := k_if_eq dX2_act_32 rfl
theorem r_X2_act_35 (E : ax_EN G l) : ax_Snd G l ax_Ym M_X2_act 35 (S_aload 0 36) := k_aload_n dX2_act_35 rfl
theorem r_X2_act_36 (E : ax_EN G l) : ax_Snd G l ax_Ym M_X2_act 36 (S_iv [(29, 323)] 0 39 hd_0) := k_iv (en_F E) (ax_ok0 E rfl) (ax_Evs_cons ((ev_v (en_c E (k := 29) rfl) rfl y_X2_interrupt q2112 q2114 qs33 q122 q2115 nm_X2_interrupt (Nat.le_of_ble_eq_true rfl) dX2_act_36) : ax_EvV G l ax_Ym M_X2_act 36 0 3 29 323) ax_Evs_nil)
theorem r_X2_act_39 (E : ax_EN G l) : ax_Snd G l ax_Ym M_X2_act 39 (S_goto 46) := k_goto dX2_act_39 rfl
theorem r_X2_act_42 (E : ax_EN G l) : ax_Snd G l ax_Ym M_X2_act 42 (S_aload 0 43) := k_aload_n dX2_act_42 rfl
theorem r_X2_act_43 (E : ax_EN G l) : ax_Snd G l ax_Ym M_X2_act 43 (S_iv [(29, 326)] 0 46 hd_0) := k_iv (en_F E) (ax_ok0 E rfl) (ax_Evs_cons ((ev_v (en_c E (k := 29) rfl) rfl y_X2_instruct q2144 q2146 qs36 q122 q2147 nm_X2_instruct (Nat.le_of_ble_eq_true rfl) dX2_act_43) : ax_EvV G l ax_Ym M_X2_act 43 0 3 29 326) ax_Evs_nil)
theorem r_X2_act_46 (E : ax_EN G l) : ax_Snd G l ax_Ym M_X2_act 46 (S_ret) := k_ret dX2_act_46 rfl
theorem mt_X2_act (E : ax_EN G l) : ax_mt G l ax_Ym (1, P_X2_act) (ax_Ym 317) := ⟨M_X2_act, yX2_act, ⟨rfl, by decide +kernel, rfl, (fun h => by cases h), Or.inl ⟨rfl, rfl⟩⟩, fun pc => (ax_sn_node (ax_sn_node (ax_sn_node (ax_sn_node (ax_sn_node (ax_sn_leaf (r_X2_act_46 E)) (ax_sn_leaf (r_X2_act_43 E))) (ax_sn_leaf (r_X2_act_42 E))) (ax_sn_node (ax_sn_node (ax_sn_leaf (r_X2_act_39 E)) (ax_sn_leaf (r_X2_act_36 E))) (ax_sn_leaf (r_X2_act_35 E)))) (ax_sn_node (ax_sn_node (ax_sn_node (ax_sn_leaf (r_X2_act_32 E)) (ax_sn_leaf (r_X2_act_29 E))) (ax_sn_leaf (r_X2_act_28 E))) (ax_sn_node (ax_sn_node (ax_sn_leaf (r_X2_act_25 E)) (ax_sn_leaf (r_X2_act_24 E))) (ax_sn_leaf (r_X2_act_23 E))))) (ax_sn_node (ax_sn_node (ax_sn_node (ax_sn_node (ax_sn_leaf (r_X2_act_21 E)) (ax_sn_leaf (r_X2_act_18 E))) (ax_sn_leaf (r_X2_act_17 E))) (ax_sn_node (ax_sn_node (ax_sn_leaf (r_X2_act_14 E)) (ax_sn_leaf (r_X2_act_11 E))) (ax_sn_leaf (r_X2_act_10 E)))) (ax_sn_node (ax_sn_node (ax_sn_node (ax_sn_leaf (r_X2_act_7 E)) (ax_sn_leaf (r_X2_act_6 E))) (ax_sn_leaf (r_X2_act_4 E))) (ax_sn_node (ax_sn_leaf (r_X2_act_1 E)) (ax_sn_leaf (r_X2_act_0 E))))))⟩
theorem r_X2_write_0 (E : ax_EN G l) : ax_Snd G l ax_Ym M_X2_write 0 (S_aload 0 1) := k_aload_n dX2_write_0 rfl
theorem r_X2_write_1 (E : ax_EN G l) : ax_Snd G l ax_Ym M_X2_write 1 (S_getf [(29, 0)] 4) := k_getf (en_F E) (ax_fes_cons (fe_158 E) ax_fes_nil) q283 dX2_write_1
theorem r_X2_write_4 (E : ax_EN G l) : ax_Snd G l ax_Ym M_X2_write 4 (S_push (.int (18)) 6) := k_bipush dX2_write_4 rfl
theorem r_X2_write_6 (E : ax_EN G l) : ax_Snd G l ax_Ym M_X2_write 6 (S_iald 0 7) := k_iald (en_F E) dX2_write_6
theorem r_X2_write_7 (E : ax_EN G l) : ax_Snd G l ax_Ym M_X2_write 7 (S_istore 1 8) := k_istore_n dX2_write_7 rfl (Nat.le_of_ble_eq_true rfl)
theorem r_X2_write_8 (E : ax_EN G l) : ax_Snd G l ax_Ym M_X2_write 8 (S_aload 0 9) := k_aload_n dX2_write_8 rfl
theorem r_X2_write_9 (E : ax_EN G l) : ax_Snd G l ax_Ym M_X2_write 9 (S_getf [(29, 0)] 12) := k_getf (en_F E) (ax_fes_cons (fe_158 E) ax_fes_nil) q283 dX2_write_9
theorem r_X2_write_12 (E : ax_EN G l) : ax_Snd G l ax_Ym M_X2_write 12 (S_push (.int (19)) 14) := k_bipush dX2_write_12 rfl
theorem r_X2_write_14 (E : ax_EN G l) : ax_Snd G l ax_Ym M_X2_write 14 (S_iald 0 15) := k_iald (en_F E) dX2_write_14
theorem r_X2_write_15 (E : ax_EN G l) : ax_Snd G l ax_Ym M_X2_write 15 (S_istore 2 16) := k_istore_n dX2_write_15 rfl (Nat.le_of_ble_eq_true rfl)
theorem r_X2_write_16 (E : ax_EN G l) : ax_Snd G l ax_Ym M_X2_write 16 (S_iload 2 17) := k_iload_n dX2_write_16 rfl
theorem r_X2_write_17 (E : ax_EN G l) : ax_Snd G l ax_Ym M_X2_write 17 (S_iload 1 18) := k_iload_n dX2_write_17 rfl
theorem r_X2_write_18 (E : ax_EN G l) : ax_Snd G l ax_Ym M_X2_write 18 (S_if2 (fun x y => decide (y ≤ x)) 38 21) := k_icmp_ge dX2_write_18 rfl
theorem r_X2_write_21 (E : ax_EN G l) : ax_Snd G l ax_Ym M_X2_write 21 (S_aload 0 22) := k_aload_n dX2_write_21 rfl
theorem r_X2_write_22 (E : ax_EN G l) : ax_Snd G l ax_Ym M_X2_write 22 (S_push (.int (1)) 23) := k_iconst dX2_write_22 rfl
theorem r_X2_write_23 (E : ax_EN G l) : ax_Snd G l ax_Ym M_X2_write 23 (S_iload 2 24) := k_iload_n dX2_write_23 rfl
theorem r_X2_write_24 (E : ax_EN G l) : ax_Snd G l ax_Ym M_X2_write 24 (S_i2 (fun x y => x + y) 25) := k_iadd dX2_write_24
theorem r_X2_write_25 (E : ax_EN G l) : ax_Snd G l ax_Ym M_X2_write 25 (S_push (.int (24)) 27) := k_bipush dX2_write_25 rfl
theorem r_X2_write_27 (E : ax_EN G l) : ax_Snd G l ax_Ym M_X2_write 27 (S_push (.int (8)) 29) := k_bipush dX2_write_27 rfl
theorem r_X2_write_29 (E : ax_EN G l) : ax_Snd G l ax_Ym M_X2_write 29 (S_iload 2 30) := k_iload_n dX2_write_29 rfl
theorem r_X2_write_30 (E : ax_EN G l) : ax_Snd G l ax_Ym M_X2_write 30 (S_i2 (fun x y => x * y) 31) := k_imul dX2_write_30
theorem r_X2_write_31 (E : ax_EN G l) : ax_Snd G l ax_Ym M_X2_write 31 (S_i2 (fun x y => x + y) 32) := k_iadd dX2_write_31
theorem r_X2_write_32 (E : ax_EN G l) : ax_Snd G l ax_Ym M_X2_write 32 (S_iv [(29, 319)] 2 35 hd_0) := k_iv (en_F E) (ax_ok0 E rfl) (ax_Evs_cons ((ev_v (en_c E (k := 29) rfl) rfl y_X2_writeBlock q2091 q2093 qs29 q122 q2094 nm_X2_writeBlock (Nat.le_of_ble_eq_true rfl) dX2_write_32) : ax_EvV G l ax_Ym M_X2_write 32 2 3 29 319) ax_Evs_nil)
theorem r_X2_write_35 (E : ax_EN G l) : ax_Snd G l ax_Ym M_X2_write 35 (S_goto 95) := k_goto dX2_write_35 rfl
theorem r_X2_write_38 (E : ax_EN G l) : ax_Snd G l ax_Ym M_X2_write 38 (S_iload 2 39) := k_iload_n dX2_write_38 rfl
theorem r_X2_write_39 (E : ax_EN G l) : ax_Snd G l ax_Ym M_X2_write 39 (S_iload 1 40) := k_iload_n dX2_write_39 rfl
theorem r_X2_write_40 (E : ax_EN G l) : ax_Snd G l ax_Ym M_X2_write 40 (S_if2 (fun x y => decide (x ≤ y)) 81 43) := k_icmp_le dX2_write_40 rfl
theorem r_X2_write_43 (E : ax_EN G l) : ax_Snd G l ax_Ym M_X2_write 43 (S_iload 2 44) := k_iload_n dX2_write_43 rfl
theorem r_X2_write_44 (E : ax_EN G l) : ax_Snd G l ax_Ym M_X2_write 44 (S_push (.int (2)) 45) := k_iconst dX2_write_44 rfl
theorem r_X2_write_45 (E : ax_EN G l) : ax_Snd G l ax_Ym M_X2_write 45 (S_iload 1 46) := k_iload_n dX2_write_45 rfl
theorem r_X2_write_46 (E : ax_EN G l) : ax_Snd G l ax_Ym M_X2_write 46 (S_i2 (fun x y => x * y) 47) := k_imul dX2_write_46
theorem r_X2_write_47 (E : ax_EN G l) : ax_Snd G l ax_Ym M_X2_write 47 (S_if2 (fun x y => decide (y < x)) 81 50) := k_icmp_gt dX2_write_47 rfl
theorem r_X2_write_50 (E : ax_EN G l) : ax_Snd G l ax_Ym M_X2_write 50 (S_aload 0 51) := k_aload_n dX2_write_50 rfl
theorem r_X2_write_51 (E : ax_EN G l) : ax_Snd G l ax_Ym M_X2_write 51 (S_aload 0 52) := k_aload_n dX2_write_51 rfl
theorem r_X2_write_52 (E : ax_EN G l) : ax_Snd G l ax_Ym M_X2_write 52 (S_getf [(29, 0)] 55) := k_getf (en_F E) (ax_fes_cons (fe_158 E) ax_fes_nil) q283 dX2_write_52
theorem r_X2_write_55 (E : ax_EN G l) : ax_Snd G l ax_Ym M_X2_write 55 (S_push (.int (20)) 57) := k_bipush dX2_write_55 rfl
theorem r_X2_write_57 (E : ax_EN G l) : ax_Snd G l ax_Ym M_X2_write 57 (S_iload 2 58) := k_iload_n dX2_write_57 rfl
theorem r_X2_write_58 (E : ax_EN G l) : ax_Snd G l ax_Ym M_X2_write 58 (S_i2 (fun x y => x + y) 59) := k_iadd dX2_write_58
theorem r_X2_write_59 (E : ax_EN G l) : ax_Snd G l ax_Ym M_X2_write 59 (S_iload 1 60) := k_iload_n dX2_write_59 rfl
theorem r_X2_write_60 (E : ax_EN G l) : ax_Snd G l ax_Ym M_X2_write 60 (S_i2 (fun x y => x - y) 61) := k_isub dX2_write_60
theorem r_X2_write_61 (E : ax_EN G l) : ax_Snd G l ax_Ym M_X2_write 61 (S_push (.int (1)) 62) := k_iconst dX2_write_61 rfl
theorem r_X2_write_62 (E : ax_EN G l) : ax_Snd G l ax_Ym M_X2_write 62 (S_i2 (fun x y => x - y) 63) := k_isub dX2_write_62
theorem r_X2_write_63 (E : ax_EN G l) : ax_Snd G l ax_Ym M_X2_write 63 (S_iald 0 64) := k_iald (en_F E) dX2_write_63
theorem r_X2_write_64 (E : ax_EN G l) : ax_Snd G l ax_Ym M_X2_write 64 (S_push (.int (24)) 66) := k_bipush dX2_write_64 rfl
theorem r_X2_write_66 (E : ax_EN G l) : ax_Snd G l ax_Ym M_X2_write 66 (S_push (.int (8)) 68) := k_bipush dX2_write_66 rfl
theorem r_X2_write_68 (E : ax_EN G l) : ax_Snd G l ax_Ym M_X2_write 68 (S_iload 2 69) := k_iload_n dX2_write_68 rfl
theorem r_X2_write_69 (E : ax_EN G l) : ax_Snd G l ax_Ym M_X2_write 69 (S_iload 1 70) := k_iload_n dX2_write_69 rfl
theorem r_X2_write_70 (E : ax_EN G l) : ax_Snd G l ax_Ym M_X2_write 70 (S_i2 (fun x y => x - y) 71) := k_isub dX2_write_70
theorem r_X2_write_71 (E : ax_EN G l) : ax_Snd G l ax_Ym M_X2_write 71 (S_push (.int (1)) 72) := k_iconst dX2_write_71 rfl
theorem r_X2_write_72 (E : ax_EN G l) : ax_Snd G l ax_Ym M_X2_write 72 (S_i2 (fun x y => x - y) 73) := k_isub dX2_write_72
theorem r_X2_write_73 (E : ax_EN G l) : ax_Snd G l ax_Ym M_X2_write 73 (S_i2 (fun x y => x * y) 74) := k_imul dX2_write_73
theorem r_X2_write_74 (E : ax_EN G l) : ax_Snd G l ax_Ym M_X2_write 74 (S_i2 (fun x y => x + y) 75) := k_iadd dX2_write_74
theorem r_X2_write_75 (E : ax_EN G l) : ax_Snd G l ax_Ym M_X2_write 75 (S_iv [(29, 319)] 2 78 hd_0) := k_iv (en_F E) (ax_ok0 E rfl) (ax_Evs_cons ((ev_v (en_c E (k := 29) rfl) rfl y_X2_writeBlock q2091 q2093 qs29 q122 q2094 nm_X2_writeBlock (Nat.le_of_ble_eq_true rfl) dX2_write_75) : ax_EvV G l ax_Ym M_X2_write 75 2 3 29 319) ax_Evs_nil)
theorem r_X2_write_78 (E : ax_EN G l) : ax_Snd G l ax_Ym M_X2_write 78 (S_goto 95) := k_goto dX2_write_78 rfl
theorem r_X2_write_81 (E : ax_EN G l) : ax_Snd G l ax_Ym M_X2_write 81 (S_aload 0 82) := k_aload_n dX2_write_81 rfl
theorem r_X2_write_82 (E : ax_EN G l) : ax_Snd G l ax_Ym M_X2_write 82 (S_iload 2 83) := k_iload_n dX2_write_82 rfl
theorem r_X2_write_83 (E : ax_EN G l) : ax_Snd G l ax_Ym M_X2_write 83 (S_iload 1 84) := k_iload_n dX2_write_83 rfl
theorem r_X2_write_84 (E : ax_EN G l) : ax_Snd G l ax_Ym M_X2_write 84 (S_if2 (fun x y => decide (¬ x = y)) 91 87) := k_icmp_ne dX2_write_84 rfl
theorem r_X2_write_87 (E : ax_EN G l) : ax_Snd G l ax_Ym M_X2_write 87 (S_iload 1 88) := k_iload_n dX2_write_87 rfl
theorem r_X2_write_88 (E : ax_EN G l) : ax_Snd G l ax_Ym M_X2_write 88 (S_goto 92) := k_goto dX2_write_88 rfl
theorem r_X2_write_91 (E : ax_EN G l) : ax_Snd G l ax_Ym M_X2_write 91 (S_push (.int (0)) 92) := k_iconst dX2_write_91 rfl
theorem r_X2_write_92 (E : ax_EN G l) : ax_Snd G l ax_Ym M_X2_write 92 (S_iv [(29, 321)] 1 95 hd_0) := k_iv (en_F E) (ax_ok0 E rfl) (ax_Evs_cons ((ev_v (en_c E (k := 29) rfl) rfl y_X2_writeHead q2104 q2106 qs31 q122 q2107 nm_X2_writeHead (Nat.le_of_ble_eq_true rfl) dX2_write_92) : ax_EvV G l ax_Ym M_X2_write 92 1 3 29 321) ax_Evs_nil)
theorem r_X2_write_95 (E : ax_EN G l) : ax_Snd G l ax_Ym M_X2_write 95 (S_aload 0 96) := k_aload_n dX2_write_95 rfl
theorem r_X2_write_96 (E : ax_EN G l) : ax_Snd G l ax_Ym M_X2_write 96 (S_push (.int (364)) 99) := k_sipush dX2_write_96 rfl
theorem r_X2_write_99 (E : ax_EN G l) : ax_Snd G l ax_Ym M_X2_write 99 (S_aload 0 100) := k_aload_n dX2_write_99 rfl
theorem r_X2_write_100 (E : ax_EN G l) : ax_Snd G l ax_Ym M_X2_write 100 (S_getf [(29, 0)] 103) := k_getf (en_F E) (ax_fes_cons (fe_158 E) ax_fes_nil) q283 dX2_write_100
theorem r_X2_write_103 (E : ax_EN G l) : ax_Snd G l ax_Ym M_X2_write 103 (S_push (.int (364)) 106) := k_sipush dX2_write_103 rfl
theorem r_X2_write_106 (E : ax_EN G l) : ax_Snd G l ax_Ym M_X2_write 106 (S_iald 0 107) := k_iald (en_F E) dX2_write_106
theorem r_X2_write_107 (E : ax_EN G l) : ax_Snd G l ax_Ym M_X2_write 107 (S_push (.int (1)) 108) := k_iconst dX2_write_107 rfl
theorem r_X2_write_108 (E : ax_EN G l) : ax_Snd G l ax_Ym M_X2_write 108 (S_i2 (fun x y => x + y) 109) := k_iadd dX2_write_108
theorem r_X2_write_109 (E : ax_EN G l) : ax_Snd G l ax_Ym M_X2_write 109 (S_iv [(29, 320)] 2 112 hd_0) := k_iv (en_F E) (ax_ok0 E rfl) (ax_Evs_cons ((ev_v (en_c E (k := 29) rfl) rfl y_X2_set q2095 q2097 qs30 q122 q2098 nm_X2_set (Nat.le_of_ble_eq_true rfl) dX2_write_109) : ax_EvV G l ax_Ym M_X2_write 109 2 3 29 320) ax_Evs_nil)
theorem r_X2_write_112 (E : ax_EN G l) : ax_Snd G l ax_Ym M_X2_write 112 (S_aload 0 113) := k_aload_n dX2_write_112 rfl
theorem r_X2_write_113 (E : ax_EN G l) : ax_Snd G l ax_Ym M_X2_write 113 (S_push (.int (19)) 115) := k_bipush dX2_write_113 rfl
theorem r_X2_write_115 (E : ax_EN G l) : ax_Snd G l ax_Ym M_X2_write 115 (S_iload 2 116) := k_iload_n dX2_write_115 rfl
theorem r_X2_write_116 (E : ax_EN G l) : ax_Snd G l ax_Ym M_X2_write 116 (S_push (.int (1)) 117) := k_iconst dX2_write_116 rfl
theorem r_X2_write_117 (E : ax_EN G l) : ax_Snd G l ax_Ym M_X2_write 117 (S_i2 (fun x y => x + y) 118) := k_iadd dX2_write_117
theorem r_X2_write_118 (E : ax_EN G l) : ax_Snd G l ax_Ym M_X2_write 118 (S_iv [(29, 320)] 2 121 hd_0) := k_iv (en_F E) (ax_ok0 E rfl) (ax_Evs_cons ((ev_v (en_c E (k := 29) rfl) rfl y_X2_set q2095 q2097 qs30 q122 q2098 nm_X2_set (Nat.le_of_ble_eq_true rfl) dX2_write_118) : ax_EvV G l ax_Ym M_X2_write 118 2 3 29 320) ax_Evs_nil)
theorem r_X2_write_121 (E : ax_EN G l) : ax_Snd G l ax_Ym M_X2_write 121 (S_iload 2 122) := k_iload_n dX2_write_121 rfl
theorem r_X2_write_122 (E : ax_EN G l) : ax_Snd G l ax_Ym M_X2_write 122 (S_push (.int (2)) 123) := k_iconst dX2_write_122 rfl
theorem r_X2_write_123 (E : ax_EN G l) : ax_Snd G l ax_Ym M_X2_write 123 (S_iload 1 124) := k_iload_n dX2_write_123 rfl
theorem r_X2_write_124 (E : ax_EN G l) : ax_Snd G l ax_Ym M_X2_write 124 (S_i2 (fun x y => x * y) 125) := k_imul dX2_write_124
theorem r_X2_write_125 (E : ax_EN G l) : ax_Snd G l ax_Ym M_X2_write 125 (S_push (.int (1)) 126) := k_iconst dX2_write_125 rfl
theorem r_X2_write_126 (E : ax_EN G l) : ax_Snd G l ax_Ym M_X2_write 126 (S_i2 (fun x y => x + y) 127) := k_iadd dX2_write_126
theorem r_X2_write_127 (E : ax_EN G l) : ax_Snd G l ax_Ym M_X2_write 127 (S_if2 (fun x y => decide (¬ x = y)) 157 130) := k_icmp_ne dX2_write_127 rfl
theorem r_X2_write_130 (E : ax_EN G l) : ax_Snd G l ax_Ym M_X2_write 130 (S_aload 0 131) := k_aload_n dX2_write_130 rfl
theorem r_X2_write_131 (E : ax_EN G l) : ax_Snd G l ax_Ym M_X2_write 131 (S_push (.int (18)) 133) := k_bipush dX2_write_131 rfl
theorem r_X2_write_133 (E : ax_EN G l) : ax_Snd G l ax_Ym M_X2_write 133 (S_push (.int (0)) 134) := k_iconst dX2_write_133 rfl
theorem r_X2_write_134 (E : ax_EN G l) : ax_Snd G l ax_Ym M_X2_write 134 (S_iv [(29, 320)] 2 137 hd_0) := k_iv (en_F E) (ax_ok0 E rfl) (ax_Evs_cons ((ev_v (en_c E (k := 29) rfl) rfl y_X2_set q2095 q2097 qs30 q122 q2098 nm_X2_set (Nat.le_of_ble_eq_true rfl) dX2_write_134) : ax_EvV G l ax_Ym M_X2_write 134 2 3 29 320) ax_Evs_nil)
theorem r_X2_write_137 (E : ax_EN G l) : ax_Snd G l ax_Ym M_X2_write 137 (S_aload 0 138) := k_aload_n dX2_write_137 rfl
theorem r_X2_write_138 (E : ax_EN G l) : ax_Snd G l ax_Ym M_X2_write 138 (S_push (.int (15)) 140) := k_bipush dX2_write_138 rfl
theorem r_X2_write_140 (E : ax_EN G l) : ax_Snd G l ax_Ym M_X2_write 140 (S_push (.int (0)) 141) := k_iconst dX2_write_140 rfl
theorem r_X2_write_141 (E : ax_EN G l) : ax_Snd G l ax_Ym M_X2_write 141 (S_iv [(29, 320)] 2 144 hd_0) := k_iv (en_F E) (ax_ok0 E rfl) (ax_Evs_cons ((ev_v (en_c E (k := 29) rfl) rfl y_X2_set q2095 q2097 qs30 q122 q2098 nm_X2_set (Nat.le_of_ble_eq_true rfl) dX2_write_141) : ax_EvV G l ax_Ym M_X2_write 141 2 3 29 320) ax_Evs_nil)
theorem r_X2_write_144 (E : ax_EN G l) : ax_Snd G l ax_Ym M_X2_write 144 (S_aload 0 145) := k_aload_n dX2_write_144 rfl
theorem r_X2_write_145 (E : ax_EN G l) : ax_Snd G l ax_Ym M_X2_write 145 (S_push (.int (3)) 146) := k_iconst dX2_write_145 rfl
theorem r_X2_write_146 (E : ax_EN G l) : ax_Snd G l ax_Ym M_X2_write 146 (S_aload 0 147) := k_aload_n dX2_write_146 rfl
theorem r_X2_write_147 (E : ax_EN G l) : ax_Snd G l ax_Ym M_X2_write 147 (S_getf [(29, 0)] 150) := k_getf (en_F E) (ax_fes_cons (fe_158 E) ax_fes_nil) q283 dX2_write_147
theorem r_X2_write_150 (E : ax_EN G l) : ax_Snd G l ax_Ym M_X2_write 150 (S_push (.int (3)) 151) := k_iconst dX2_write_150 rfl
theorem r_X2_write_151 (E : ax_EN G l) : ax_Snd G l ax_Ym M_X2_write 151 (S_iald 0 152) := k_iald (en_F E) dX2_write_151
theorem r_X2_write_152 (E : ax_EN G l) : ax_Snd G l ax_Ym M_X2_write 152 (S_push (.int (2)) 153) := k_iconst dX2_write_152 rfl
theorem r_X2_write_153 (E : ax_EN G l) : ax_Snd G l ax_Ym M_X2_write 153 (S_i2 (fun x y => x + y) 154) := k_iadd dX2_write_153
theorem r_X2_write_154 (E : ax_EN G l) : ax_Snd G l ax_Ym M_X2_write 154 (S_iv [(29, 320)] 2 157 hd_0) := k_iv (en_F E) (ax_ok0 E rfl) (ax_Evs_cons ((ev_v (en_c E (k := 29) rfl) rfl y_X2_set q2095 q2097 qs30 q122 q2098 nm_X2_set (Nat.le_of_ble_eq_true rfl) dX2_write_154) : ax_EvV G l ax_Ym M_X2_write 154 2 3 29 320) ax_Evs_nil)
theorem r_X2_write_157 (E : ax_EN G l) : ax_Snd G l ax_Ym M_X2_write 157 (S_ret) := k_ret dX2_write_157 rfl
theorem mt_X2_write (E : ax_EN G l) : ax_mt G l ax_Ym (3, P_X2_write) (ax_Ym 318) := ⟨M_X2_write, yX2_write, ⟨rfl, by decide +kernel, rfl, (fun h => by cases h), Or.inl ⟨rfl, rfl⟩⟩, fun pc => (ax_sn_node (ax_sn_node (ax_sn_node (ax_sn_node (ax_sn_node (ax_sn_node (ax_sn_node (ax_sn_leaf (r_X2_write_157 E)) (ax_sn_leaf (r_X2_write_154 E))) (ax_sn_node (ax_sn_leaf (r_X2_write_153 E)) (ax_sn_leaf (r_X2_write_152 E)))) (ax_sn_node (ax_sn_node (ax_sn_leaf (r_X2_write_151 E)) (ax_sn_leaf (r_X2_write_150 E))) (ax_sn_leaf (r_X2_write_147 E)))) (ax_sn_node (ax_sn_node (ax_sn_node (ax_sn_leaf (r_X2_write_146 E)) (ax_sn_leaf (r_X2_write_145 E))) (ax_sn_leaf (r_X2_write_144 E))) (ax_sn_node (ax_sn_node (ax_sn_leaf (r_X2_write_141 E)) (ax_sn_leaf (r_X2_write_140 E))) (ax_sn_leaf (r_X2_write_138 E))))) (ax_sn_node (ax_sn_node (ax_sn_node (ax_sn_node (ax_sn_leaf (r_X2_write_137 E)) (ax_sn_leaf (r_X2_write_134 E))) (ax_sn_node (ax_sn_leaf (r_X2_write_133 E)) (ax_sn_leaf (r_X2_write_131 E)))) (ax_sn_node (ax_sn_node (ax_sn_leaf (r_X2_write_130 E)) (ax_sn_leaf (r_X2_write_127 E))) (ax_sn_leaf (r_X2_write_126 E)))) (ax_sn_node (ax_sn_node (ax_sn_node (ax_sn_leaf (r_X2_write_125 E)) (ax_sn_leaf (r_X2_write_124 E))) (ax_sn_leaf (r_X2_write_123 E))) (ax_sn_node (ax_sn_node (ax_sn_leaf (r_X2_write_122 E)) (ax_sn_leaf (r_X2_write_121 E))) (ax_sn_leaf (r_X2_write_118 E)))))) (ax_sn_node (ax_sn_node (ax_sn_node (ax_sn_node (ax_sn_node (ax_sn_leaf (r_X2_write_117 E)) (ax_sn_leaf (r_X2_write_116 E))) (ax_sn_node (ax_sn_leaf (r_X2_write_115 E)) (ax_sn_leaf (r_X2_write_113 E)))) (ax_sn_node (ax_sn_node (ax_sn_leaf (r_X2_write_112 E)) (ax_sn_leaf (r_X2_write_109 E))) (ax_sn_leaf (r_X2_write_108 E)))) (ax_sn_node (ax_sn_node (ax_sn_node (ax_sn_leaf (r_X2_write_107 E)) (ax_sn_leaf (r_X2_write_106 E))) (ax_sn_leaf (r_X2_write_103 E))) (ax_sn_node (ax_sn_node (ax_sn_leaf (r_X2_write_100 E)) (ax_sn_leaf (r_X2_write_99 E))) (ax_sn_leaf (r_X2_write_96 E))))) (ax_sn_node (ax_sn_node (ax_sn_node (ax_sn_node (ax_sn_leaf (r_X2_write_95 E)) (ax_sn_leaf (r_X2_write_92 E))) (ax_sn_leaf (r_X2_write_91 E))) (ax_sn_node (ax_sn_node (ax_sn_leaf (r_X2_write_88 E)) (ax_sn_leaf (r_X2_write_87 E))) (ax_sn_leaf (r_X2_write_84 E)))) (ax_sn_node (ax_sn_node (ax_sn_node (ax_sn_leaf (r_X2_write_83 E)) (ax_sn_leaf (r_X2_write_82 E))) (ax_sn_leaf (r_X2_write_81 E))) (ax_sn_node (ax_sn_node (ax_sn_leaf (r_X2_write_78 E)) (ax_sn_leaf (r_X2_write_75 E))) (ax_sn_leaf (r_X2_write_74 E))))))) (ax_sn_node (ax_sn_node (ax_sn_node (ax_sn_node (ax_sn_node (ax_sn_node (ax_sn_leaf (r_X2_write_73 E)) (ax_sn_leaf (r_X2_write_72 E))) (ax_sn_node (ax_sn_leaf (r_X2_write_71 E)) (ax_sn_leaf (r_X2_write_70 E)))) (ax_sn_node (ax_sn_node (ax_sn_leaf (r_X2_write_69 E)) (ax_sn_leaf (r_X2_write_68 E))) (ax_sn_leaf (r_X2_write_66 E)))) (ax_sn_node (ax_sn_node (ax_sn_node (ax_sn_leaf (r_X2_write_64 E)) (ax_sn_leaf (r_X2_write_63 E))) (ax_sn_leaf (r_X2_write_62 E))) (ax_sn_node (ax_sn_node (ax_sn_leaf (r_X2_write_61 E)) (ax_sn_leaf (r_X2_write_60 E))) (ax_sn_leaf (r_X2_write_59 E))))) (ax_sn_node (ax_sn_node (ax_sn_node (ax_sn_node (ax_sn_leaf (r_X2_write_58 E)) (ax_sn_leaf (r_X2_write_57 E))) (ax_sn_node (ax_sn_leaf (r_X2_write_55 E)) (ax_sn_leaf (r_X2_write_52 E)))) (ax_sn_node (ax_sn_node (ax_sn_leaf (r_X2_write_51 E)) (ax_sn_leaf (r_X2_write_50 E))) (ax_sn_leaf (r_X2_write_47 E)))) (ax_sn_node (ax_sn_node (ax_sn_node (ax_sn_leaf (r_X2_write_46 E)) (ax_sn_leaf (r_X2_write_45 E))) (ax_sn_leaf (r_X2_write_44 E))) (ax_sn_node (ax_sn_node (ax_sn_leaf (r_X2_write_43 E)) (ax_sn_leaf (r_X2_write_40 E))) (ax_sn_leaf (r_X2_write_39 E)))))) (ax_sn_node (ax_sn_node (ax_sn_node (ax_sn_node (ax_sn_node (ax_sn_leaf (r_X2_write_38 E)) (ax_sn_leaf (r_X2_write_35 E))) (ax_sn_node (ax_sn_leaf (r_X2_write_32 E)) (ax_sn_leaf (r_X2_write_31 E)))) (ax_sn_node (ax_sn_node (ax_sn_leaf (r_X2_write_30 E)) (ax_sn_leaf (r_X2_write_29 E))) (ax_sn_leaf (r_X2_write_27 E)))) (ax_sn_node (ax_sn_node (ax_sn_node (ax_sn_leaf (r_X2_write_25 E)) (ax_sn_leaf (r_X2_write_24 E))) (ax_sn_leaf (r_X2_write_23 E))) (ax_sn_node (ax_sn_node (ax_sn_leaf (r_X2_write_22 E)) (ax_sn_leaf (r_X2_write_21 E))) (ax_sn_leaf (r_X2_write_18 E))))) (ax_sn_node (ax_sn_node (ax_sn_node (ax_sn_node (ax_sn_leaf (r_X2_write_17 E)) (ax_sn_leaf (r_X2_write_16 E))) (ax_sn_leaf (r_X2_write_15 E))) (ax_sn_node (ax_sn_node (ax_sn_leaf (r_X2_write_14 E)) (ax_sn_leaf (r_X2_write_12 E))) (ax_sn_leaf (r_X2_write_9 E)))) (ax_sn_node (ax_sn_node (ax_sn_node (ax_sn_leaf (r_X2_write_8 E)) (ax_sn_leaf (r_X2_write_7 E))) (ax_sn_leaf (r_X2_write_6 E))) (ax_sn_node (ax_sn_node (ax_sn_leaf (r_X2_write_4 E)) (ax_sn_leaf (r_X2_write_1 E))) (ax_sn_leaf (r_X2_write_0 E))))))))⟩
theorem r_X2_writeBlock_0 (E : ax_EN G l) : ax_Snd G l ax_Ym M_X2_writeBlock 0 (S_push (.int (0)) 1) := k_iconst dX2_writeBlock_0 rfl
theorem r_X2_writeBlock_1 (E : ax_EN G l) : ax_Snd G l ax_Ym M_X2_writeBlock 1 (S_istore 3 2) := k_istore_n dX2_writeBlock_1 rfl (Nat.le_of_ble_eq_true rfl)
theorem r_X2_writeBlock_2 (E : ax_EN G l) : ax_Snd G l ax_Ym M_X2_writeBlock 2 (S_iload 3 3) := k_iload_n dX2_writeBlock_2 rfl
theorem r_X2_writeBlock_3 (E : ax_EN G l) : ax_Snd G l ax_Ym M_X2_writeBlock 3 (S_push (.int (8)) 5) := k_bipush dX2_writeBlock_3 rfl
theorem r_X2_writeBlock_5 (E : ax_EN G l) : ax_Snd G l ax_Ym M_X2_writeBlock 5 (S_if2 (fun x y => decide (y ≤ x)) 36 8) := k_icmp_ge dX2_writeBlock_5 rfl
theorem r_X2_writeBlock_8 (E : ax_EN G l) : ax_Snd G l ax_Ym M_X2_writeBlock 8 (S_aload 0 9) := k_aload_n dX2_writeBlock_8 rfl
theorem r_X2_writeBlock_9 (E : ax_EN G l) : ax_Snd G l ax_Ym M_X2_writeBlock 9 (S_push (.int (365)) 12) := k_sipush dX2_writeBlock_9 rfl
theorem r_X2_writeBlock_12 (E : ax_EN G l) : ax_Snd G l ax_Ym M_X2_writeBlock 12 (S_push (.int (8)) 14) := k_bipush dX2_writeBlock_12 rfl
theorem r_X2_writeBlock_14 (E : ax_EN G l) : ax_Snd G l ax_Ym M_X2_writeBlock 14 (S_iload 1 15) := k_iload_n dX2_writeBlock_14 rfl
theorem r_X2_writeBlock_15 (E : ax_EN G l) : ax_Snd G l ax_Ym M_X2_writeBlock 15 (S_i2 (fun x y => x * y) 16) := k_imul dX2_writeBlock_15
theorem r_X2_writeBlock_16 (E : ax_EN G l) : ax_Snd G l ax_Ym M_X2_writeBlock 16 (S_i2 (fun x y => x + y) 17) := k_iadd dX2_writeBlock_16
theorem r_X2_writeBlock_17 (E : ax_EN G l) : ax_Snd G l ax_Ym M_X2_writeBlock 17 (S_iload 3 18) := k_iload_n dX2_writeBlock_17 rfl
theorem r_X2_writeBlock_18 (E : ax_EN G l) : ax_Snd G l ax_Ym M_X2_writeBlock 18 (S_i2 (fun x y => x + y) 19) := k_iadd dX2_writeBlock_18
theorem r_X2_writeBlock_19 (E : ax_EN G l) : ax_Snd G l ax_Ym M_X2_writeBlock 19 (S_aload 0 20) := k_aload_n dX2_writeBlock_19 rfl
theorem r_X2_writeBlock_20 (E : ax_EN G l) : ax_Snd G l ax_Ym M_X2_writeBlock 20 (S_getf [(29, 0)] 23) := k_getf (en_F E) (ax_fes_cons (fe_158 E) ax_fes_nil) q283 dX2_writeBlock_20
theorem r_X2_writeBlock_23 (E : ax_EN G l) : ax_Snd G l ax_Ym M_X2_writeBlock 23 (S_iload 2 24) := k_iload_n dX2_writeBlock_23 rfl
theorem r_X2_writeBlock_24 (E : ax_EN G l) : ax_Snd G l ax_Ym M_X2_writeBlock 24 (S_iload 3 25) := k_iload_n dX2_writeBlock_24 rfl
theorem r_X2_writeBlock_25 (E : ax_EN G l) : ax_Snd G l ax_Ym M_X2_writeBlock 25 (S_i2 (fun x y => x + y) 26) := k_iadd dX2_writeBlock_25
theorem r_X2_writeBlock_26 (E : ax_EN G l) : ax_Snd G l ax_Ym M_X2_writeBlock 26 (S_iald 0 27) := k_iald (en_F E) dX2_writeBlock_26
theorem r_X2_writeBlock_27 (E : ax_EN G l) : ax_Snd G l ax_Ym M_X2_writeBlock 27 (S_iv [(29, 320)] 2 30 hd_0) := k_iv (en_F E) (ax_ok0 E rfl) (ax_Evs_cons ((ev_v (en_c E (k := 29) rfl) rfl y_X2_set q2095 q2097 qs30 q122 q2098 nm_X2_set (Nat.le_of_ble_eq_true rfl) dX2_writeBlock_27) : ax_EvV G l ax_Ym M_X2_writeBlock 27 2 3 29 320) ax_Evs_nil)
theorem r_X2_writeBlock_30 (E : ax_EN G l) : ax_Snd G l ax_Ym M_X2_writeBlock 30 (S_iinc 3 (1) 33) := k_iinc dX2_writeBlock_30 rfl (Nat.le_of_ble_eq_true rfl)
theorem r_X2_writeBlock_33 (E : ax_EN G l) : ax_Snd G l ax_Ym M_X2_writeBlock 33 (S_goto 2) := k_goto dX2_writeBlock_33 rfl
theorem r_X2_writeBlock_36 (E : ax_EN G l) : ax_Snd G l ax_Ym M_X2_writeBlock 36 (S_ret) := k_ret dX2_writeBlock_36 rfl
theorem mt_X2_writeBlock (E : ax_EN G l) : ax_mt G l ax_Ym (4, P_X2_writeBlock) (ax_Ym 319) := ⟨M_X2_writeBlock, yX2_writeBlock, ⟨rfl, by decide +kernel, rfl, (fun h => by cases h), Or.inl ⟨rfl, rfl⟩⟩, fun pc => (ax_sn_node (ax_sn_node (ax_sn_node (ax_sn_node (ax_sn_node (ax_sn_leaf (r_X2_writeBlock_36 E)) (ax_sn_leaf (r_X2_writeBlock_33 E))) (ax_sn_leaf (r_X2_writeBlock_30 E))) (ax_sn_node (ax_sn_node (ax_sn_leaf (r_X2_writeBlock_27 E)) (ax_sn_leaf (r_X2_writeBlock_26 E))) (ax_sn_leaf (r_X2_writeBlock_25 E)))) (ax_sn_node (ax_sn_node (ax_sn_node (ax_sn_leaf (r_X2_writeBlock_24 E)) (ax_sn_leaf (r_X2_writeBlock_23 E))) (ax_sn_leaf (r_X2_writeBlock_20 E))) (ax_sn_node (ax_sn_node (ax_sn_leaf (r_X2_writeBlock_19 E)) (ax_sn_leaf (r_X2_writeBlock_18 E))) (ax_sn_leaf (r_X2_writeBlock_17 E))))) (ax_sn_node (ax_sn_node (ax_sn_node (ax_sn_node (ax_sn_leaf (r_X2_writeBlock_16 E)) (ax_sn_leaf (r_X2_writeBlock_15 E))) (ax_sn_leaf (r_X2_writeBlock_14 E))) (ax_sn_node (ax_sn_node (ax_sn_leaf (r_X2_writeBlock_12 E)) (ax_sn_leaf (r_X2_writeBlock_9 E))) (ax_sn_leaf (r_X2_writeBlock_8 E)))) (ax_sn_node (ax_sn_node (ax_sn_node (ax_sn_leaf (r_X2_writeBlock_5 E)) (ax_sn_leaf (r_X2_writeBlock_3 E))) (ax_sn_leaf (r_X2_writeBlock_2 E))) (ax_sn_node (ax_sn_leaf (r_X2_writeBlock_1 E)) (ax_sn_leaf (r_X2_writeBlock_0 E))))))⟩
theorem r_X2_set_0 (E : ax_EN G l) : ax_Snd G l ax_Ym M_X2_set 0 (S_aload 0 1) := k_aload_n dX2_set_0 rfl
theorem r_X2_set_1 (E : ax_EN G l) : ax_Snd G l ax_Ym M_X2_set 1 (S_getf [(29, 4)] 4) := k_getf (en_F E) (ax_fes_cons (fe_304 E) ax_fes_nil) q291 dX2_set_1
theorem r_X2_set_4 (E : ax_EN G l) : ax_Snd G l ax_Ym M_X2_set 4 (S_null 21 7) := k_ifnull dX2_set_4 rfl
theorem r_X2_set_7 (E : ax_EN G l) : ax_Snd G l ax_Ym M_X2_set 7 (S_aload 0 8) := k_aload_n dX2_set_7 rfl
theorem r_X2_set_8 (E : ax_EN G l) : ax_Snd G l ax_Ym M_X2_set 8 (S_getf [(29, 4)] 11) := k_getf (en_F E) (ax_fes_cons (fe_304 E) ax_fes_nil) q291 dX2_set_8
theorem r_X2_set_11 (E : ax_EN G l) : ax_Snd G l ax_Ym M_X2_set 11 (S_iload 1 12) := k_iload_n dX2_set_11 rfl
theorem r_X2_set_12 (E : ax_EN G l) : ax_Snd G l ax_Ym M_X2_set 12 (S_aload 0 13) := k_aload_n dX2_set_12 rfl
theorem r_X2_set_13 (E : ax_EN G l) : ax_Snd G l ax_Ym M_X2_set 13 (S_getf [(29, 0)] 16) := k_getf (en_F E) (ax_fes_cons (fe_158 E) ax_fes_nil) q283 dX2_set_13
theorem r_X2_set_16 (E : ax_EN G l) : ax_Snd G l ax_Ym M_X2_set 16 (S_iload 1 17) := k_iload_n dX2_set_16 rfl
theorem r_X2_set_17 (E : ax_EN G l) : ax_Snd G l ax_Ym M_X2_set 17 (S_iald 0 18) := k_iald (en_F E) dX2_set_17
theorem r_X2_set_18 (E : ax_EN G l) : ax_Snd G l ax_Ym M_X2_set 18 (S_iv [(31, 359)] 2 21 hd_0) := k_iv (en_F E) (ax_ok0 E rfl) (ax_Evs_cons ((ev_v (en_c E (k := 31) rfl) rfl y_X21_note q2099 q2100 q2101 q164 q2102 nm_X21_note (Nat.le_of_ble_eq_true rfl) dX2_set_18) : ax_EvV G l ax_Ym M_X2_set 18 2 3 31 359) ax_Evs_nil)
theorem r_X2_set_21 (E : ax_EN G l) : ax_Snd G l ax_Ym M_X2_set 21 (S_aload 0 22) := k_aload_n dX2_set_21 rfl
theorem r_X2_set_22 (E : ax_EN G l) : ax_Snd G l ax_Ym M_X2_set 22 (S_getf [(29, 0)] 25) := k_getf (en_F E) (ax_fes_cons (fe_158 E) ax_fes_nil) q283 dX2_set_22
theorem r_X2_set_25 (E : ax_EN G l) : ax_Snd G l ax_Ym M_X2_set 25 (S_iload 1 26) := k_iload_n dX2_set_25 rfl
theorem r_X2_set_26 (E : ax_EN G l) : ax_Snd G l ax_Ym M_X2_set 26 (S_iload 2 27) := k_iload_n dX2_set_26 rfl
theorem r_X2_set_27 (E : ax_EN G l) : ax_Snd G l ax_Ym M_X2_set 27 (S_iast 0 (fun x => x) 28) := k_iast (en_F E) dX2_set_27
theorem r_X2_set_28 (E : ax_EN G l) : ax_Snd G l ax_Ym M_X2_set 28 (S_ret) := k_ret dX2_set_28 rfl
theorem mt_X2_set (E : ax_EN G l) : ax_mt G l ax_Ym (3, P_X2_set) (ax_Ym 320) := ⟨M_X2_set, yX2_set, ⟨rfl, by decide +kernel, rfl, (fun h => by cases h), Or.inl ⟨rfl, rfl⟩⟩, fun pc => (ax_sn_node (ax_sn_node (ax_sn_node (ax_sn_node (ax_sn_node (ax_sn_leaf (r_X2_set_28 E)) (ax_sn_leaf (r_X2_set_27 E))) (ax_sn_leaf (r_X2_set_26 E))) (ax_sn_node (ax_sn_leaf (r_X2_set_25 E)) (ax_sn_leaf (r_X2_set_22 E)))) (ax_sn_node (ax_sn_node (ax_sn_leaf (r_X2_set_21 E)) (ax_sn_leaf (r_X2_set_18 E))) (ax_sn_node (ax_sn_leaf (r_X2_set_17 E)) (ax_sn_leaf (r_X2_set_16 E))))) (ax_sn_node (ax_sn_node (ax_sn_node (ax_sn_leaf (r_X2_set_13 E)) (ax_sn_leaf (r_X2_set_12 E))) (ax_sn_node (ax_sn_leaf (r_X2_set_11 E)) (ax_sn_leaf (r_X2_set_8 E)))) (ax_sn_node (ax_sn_node (ax_sn_leaf (r_X2_set_7 E)) (ax_sn_leaf (r_X2_set_4 E))) (ax_sn_node (ax_sn_leaf (r_X2_set_1 E)) (ax_sn_leaf (r_X2_set_0 E))))))⟩
theorem r_X2_writeHead_0 (E : ax_EN G l) : ax_Snd G l ax_Ym M_X2_writeHead 0 (S_push (.int (0)) 1) := k_iconst dX2_writeHead_0 rfl
theorem r_X2_writeHead_1 (E : ax_EN G l) : ax_Snd G l ax_Ym M_X2_writeHead 1 (S_istore 2 2) := k_istore_n dX2_writeHead_1 rfl (Nat.le_of_ble_eq_true rfl)
theorem r_X2_writeHead_2 (E : ax_EN G l) : ax_Snd G l ax_Ym M_X2_writeHead 2 (S_push (.int (0)) 3) := k_iconst dX2_writeHead_2 rfl
theorem r_X2_writeHead_3 (E : ax_EN G l) : ax_Snd G l ax_Ym M_X2_writeHead 3 (S_istore 3 4) := k_istore_n dX2_writeHead_3 rfl (Nat.le_of_ble_eq_true rfl)
theorem r_X2_writeHead_4 (E : ax_EN G l) : ax_Snd G l ax_Ym M_X2_writeHead 4 (S_iload 3 5) := k_iload_n dX2_writeHead_4 rfl
theorem r_X2_writeHead_5 (E : ax_EN G l) : ax_Snd G l ax_Ym M_X2_writeHead 5 (S_push (.int (8)) 7) := k_bipush dX2_writeHead_5 rfl
theorem r_X2_writeHead_7 (E : ax_EN G l) : ax_Snd G l ax_Ym M_X2_writeHead 7 (S_if2 (fun x y => decide (y ≤ x)) 66 10) := k_icmp_ge dX2_writeHead_7 rfl
theorem r_X2_writeHead_10 (E : ax_EN G l) : ax_Snd G l ax_Ym M_X2_writeHead 10 (S_iload 1 11) := k_iload_n dX2_writeHead_10 rfl
theorem r_X2_writeHead_11 (E : ax_EN G l) : ax_Snd G l ax_Ym M_X2_writeHead 11 (S_if1 (fun x => decide (x = 0)) 19 14) := k_if_eq dX2_writeHead_11 rfl
theorem r_X2_writeHead_14 (E : ax_EN G l) : ax_Snd G l ax_Ym M_X2_writeHead 14 (S_iload 3 15) := k_iload_n dX2_writeHead_14 rfl
theorem r_X2_writeHead_15 (E : ax_EN G l) : ax_Snd G l ax_Ym M_X2_writeHead 15 (S_push (.int (3)) 16) := k_iconst dX2_writeHead_15 rfl
theorem r_X2_writeHead_16 (E : ax_EN G l) : ax_Snd G l ax_Ym M_X2_writeHead 16 (S_if2 (fun x y => decide (x ≤ y)) 23 19) := k_icmp_le dX2_writeHead_16 rfl
theorem r_X2_writeHead_19 (E : ax_EN G l) : ax_Snd G l ax_Ym M_X2_writeHead 19 (S_push (.int (0)) 20) := k_iconst dX2_writeHead_19 rfl
theorem r_X2_writeHead_20 (E : ax_EN G l) : ax_Snd G l ax_Ym M_X2_writeHead 20 (S_goto 42) := k_goto dX2_writeHead_20 rfl
theorem r_X2_writeHead_23 (E : ax_EN G l) : ax_Snd G l ax_Ym M_X2_writeHead 23 (S_iload 3 24) := k_iload_n dX2_writeHead_23 rfl
theorem r_X2_writeHead_24 (E : ax_EN G l) : ax_Snd G l ax_Ym M_X2_writeHead 24 (S_if1 (fun x => decide (¬ x = 0)) 31 27) := k_if_ne dX2_writeHead_24 rfl
theorem r_X2_writeHead_27 (E : ax_EN G l) : ax_Snd G l ax_Ym M_X2_writeHead 27 (S_iload 1 28) := k_iload_n dX2_writeHead_27 rfl
theorem r_X2_writeHead_28 (E : ax_EN G l) : ax_Snd G l ax_Ym M_X2_writeHead 28 (S_goto 42) := k_goto dX2_writeHead_28 rfl
theorem r_X2_writeHead_31 (E : ax_EN G l) : ax_Snd G l ax_Ym M_X2_writeHead 31 (S_aload 0 32) := k_aload_n dX2_writeHead_31 rfl
theorem r_X2_writeHead_32 (E : ax_EN G l) : ax_Snd G l ax_Ym M_X2_writeHead 32 (S_getf [(29, 0)] 35) := k_getf (en_F E) (ax_fes_cons (fe_158 E) ax_fes_nil) q283 dX2_writeHead_32
theorem r_X2_writeHead_35 (E : ax_EN G l) : ax_Snd G l ax_Ym M_X2_writeHead 35 (S_push (.int (20)) 37) := k_bipush dX2_writeHead_35 rfl
theorem r_X2_writeHead_37 (E : ax_EN G l) : ax_Snd G l ax_Ym M_X2_writeHead 37 (S_iload 3 38) := k_iload_n dX2_writeHead_37 rfl
theorem r_X2_writeHead_38 (E : ax_EN G l) : ax_Snd G l ax_Ym M_X2_writeHead 38 (S_i2 (fun x y => x + y) 39) := k_iadd dX2_writeHead_38
theorem r_X2_writeHead_39 (E : ax_EN G l) : ax_Snd G l ax_Ym M_X2_writeHead 39 (S_push (.int (1)) 40) := k_iconst dX2_writeHead_39 rfl
theorem r_X2_writeHead_40 (E : ax_EN G l) : ax_Snd G l ax_Ym M_X2_writeHead 40 (S_i2 (fun x y => x - y) 41) := k_isub dX2_writeHead_40
theorem r_X2_writeHead_41 (E : ax_EN G l) : ax_Snd G l ax_Ym M_X2_writeHead 41 (S_iald 0 42) := k_iald (en_F E) dX2_writeHead_41
theorem r_X2_writeHead_42 (E : ax_EN G l) : ax_Snd G l ax_Ym M_X2_writeHead 42 (S_istore 4 44) := k_istore dX2_writeHead_42 (Nat.le_of_ble_eq_true rfl)
theorem r_X2_writeHead_44 (E : ax_EN G l) : ax_Snd G l ax_Ym M_X2_writeHead 44 (S_aload 0 45) := k_aload_n dX2_writeHead_44 rfl
theorem r_X2_writeHead_45 (E : ax_EN G l) : ax_Snd G l ax_Ym M_X2_writeHead 45 (S_push (.int (365)) 48) := k_sipush dX2_writeHead_45 rfl
theorem r_X2_writeHead_48 (E : ax_EN G l) : ax_Snd G l ax_Ym M_X2_writeHead 48 (S_iload 3 49) := k_iload_n dX2_writeHead_48 rfl
theorem r_X2_writeHead_49 (E : ax_EN G l) : ax_Snd G l ax_Ym M_X2_writeHead 49 (S_i2 (fun x y => x + y) 50) := k_iadd dX2_writeHead_49
theorem r_X2_writeHead_50 (E : ax_EN G l) : ax_Snd G l ax_Ym M_X2_writeHead 50 (S_iload 4 52) := k_iload dX2_writeHead_50
theorem r_X2_writeHead_52 (E : ax_EN G l) : ax_Snd G l ax_Ym M_X2_writeHead 52 (S_iv [(29, 320)] 2 55 hd_0) := k_iv (en_F E) (ax_ok0 E rfl) (ax_Evs_cons ((ev_v (en_c E (k := 29) rfl) rfl y_X2_set q2095 q2097 qs30 q122 q2098 nm_X2_set (Nat.le_of_ble_eq_true rfl) dX2_writeHead_52) : ax_EvV G l ax_Ym M_X2_writeHead 52 2 3 29 320) ax_Evs_nil)
theorem r_X2_writeHead_55 (E : ax_EN G l) : ax_Snd G l ax_Ym M_X2_writeHead 55 (S_iload 2 56) := k_iload_n dX2_writeHead_55 rfl
theorem r_X2_writeHead_56 (E : ax_EN G l) : ax_Snd G l ax_Ym M_X2_writeHead 56 (S_iload 4 58) := k_iload dX2_writeHead_56
theorem r_X2_writeHead_58 (E : ax_EN G l) : ax_Snd G l ax_Ym M_X2_writeHead 58 (S_i2 (fun x y => x + y) 59) := k_iadd dX2_writeHead_58
theorem r_X2_writeHead_59 (E : ax_EN G l) : ax_Snd G l ax_Ym M_X2_writeHead 59 (S_istore 2 60) := k_istore_n dX2_writeHead_59 rfl (Nat.le_of_ble_eq_true rfl)
theorem r_X2_writeHead_60 (E : ax_EN G l) : ax_Snd G l ax_Ym M_X2_writeHead 60 (S_iinc 3 (1) 63) := k_iinc dX2_writeHead_60 rfl (Nat.le_of_ble_eq_true rfl)
theorem r_X2_writeHead_63 (E : ax_EN G l) : ax_Snd G l ax_Ym M_X2_writeHead 63 (S_goto 4) := k_goto dX2_writeHead_63 rfl
theorem r_X2_writeHead_66 (E : ax_EN G l) : ax_Snd G l ax_Ym M_X2_writeHead 66 (S_push (.int (0)) 67) := k_iconst dX2_writeHead_66 rfl
theorem r_X2_writeHead_67 (E : ax_EN G l) : ax_Snd G l ax_Ym M_X2_writeHead 67 (S_istore 3 68) := k_istore_n dX2_writeHead_67 rfl (Nat.le_of_ble_eq_true rfl)
theorem r_X2_writeHead_68 (E : ax_EN G l) : ax_Snd G l ax_Ym M_X2_writeHead 68 (S_iload 3 69) := k_iload_n dX2_writeHead_68 rfl
theorem r_X2_writeHead_69 (E : ax_EN G l) : ax_Snd G l ax_Ym M_X2_writeHead 69 (S_push (.int (8)) 71) := k_bipush dX2_writeHead_69 rfl
theorem r_X2_writeHead_71 (E : ax_EN G l) : ax_Snd G l ax_Ym M_X2_writeHead 71 (S_iload 1 72) := k_iload_n dX2_writeHead_71 rfl
theorem r_X2_writeHead_72 (E : ax_EN G l) : ax_Snd G l ax_Ym M_X2_writeHead 72 (S_i2 (fun x y => x * y) 73) := k_imul dX2_writeHead_72
theorem r_X2_writeHead_73 (E : ax_EN G l) : ax_Snd G l ax_Ym M_X2_writeHead 73 (S_if2 (fun x y => decide (y ≤ x)) 94 76) := k_icmp_ge dX2_writeHead_73 rfl
theorem r_X2_writeHead_76 (E : ax_EN G l) : ax_Snd G l ax_Ym M_X2_writeHead 76 (S_iload 2 77) := k_iload_n dX2_writeHead_76 rfl
theorem r_X2_writeHead_77 (E : ax_EN G l) : ax_Snd G l ax_Ym M_X2_writeHead 77 (S_aload 0 78) := k_aload_n dX2_writeHead_77 rfl
theorem r_X2_writeHead_78 (E : ax_EN G l) : ax_Snd G l ax_Ym M_X2_writeHead 78 (S_getf [(29, 0)] 81) := k_getf (en_F E) (ax_fes_cons (fe_158 E) ax_fes_nil) q283 dX2_writeHead_78
theorem r_X2_writeHead_81 (E : ax_EN G l) : ax_Snd G l ax_Ym M_X2_writeHead 81 (S_push (.int (24)) 83) := k_bipush dX2_writeHead_81 rfl
theorem r_X2_writeHead_83 (E : ax_EN G l) : ax_Snd G l ax_Ym M_X2_writeHead 83 (S_iload 3 84) := k_iload_n dX2_writeHead_83 rfl
theorem r_X2_writeHead_84 (E : ax_EN G l) : ax_Snd G l ax_Ym M_X2_writeHead 84 (S_i2 (fun x y => x + y) 85) := k_iadd dX2_writeHead_84
theorem r_X2_writeHead_85 (E : ax_EN G l) : ax_Snd G l ax_Ym M_X2_writeHead 85 (S_iald 0 86) := k_iald (en_F E) dX2_writeHead_85
theorem r_X2_writeHead_86 (E : ax_EN G l) : ax_Snd G l ax_Ym M_X2_writeHead 86 (S_i2 (fun x y => x + y) 87) := k_iadd dX2_writeHead_86
theorem r_X2_writeHead_87 (E : ax_EN G l) : ax_Snd G l ax_Ym M_X2_writeHead 87 (S_istore 2 88) := k_istore_n dX2_writeHead_87 rfl (Nat.le_of_ble_eq_true rfl)
theorem r_X2_writeHead_88 (E : ax_EN G l) : ax_Snd G l ax_Ym M_X2_writeHead 88 (S_iinc 3 (1) 91) := k_iinc dX2_writeHead_88 rfl (Nat.le_of_ble_eq_true rfl)
theorem r_X2_writeHead_91 (E : ax_EN G l) : ax_Snd G l ax_Ym M_X2_writeHead 91 (S_goto 68) := k_goto dX2_writeHead_91 rfl
theorem r_X2_writeHead_94 (E : ax_EN G l) : ax_Snd G l ax_Ym M_X2_writeHead 94 (S_aload 0 95) := k_aload_n dX2_writeHead_94 rfl
theorem r_X2_writeHead_95 (E : ax_EN G l) : ax_Snd G l ax_Ym M_X2_writeHead 95 (S_push (.int (369)) 98) := k_sipush dX2_writeHead_95 rfl
theorem r_X2_writeHead_98 (E : ax_EN G l) : ax_Snd G l ax_Ym M_X2_writeHead 98 (S_iload 2 99) := k_iload_n dX2_writeHead_98 rfl
theorem r_X2_writeHead_99 (E : ax_EN G l) : ax_Snd G l ax_Ym M_X2_writeHead 99 (S_i2l 100) := k_i2l dX2_writeHead_99
theorem r_X2_writeHead_100 (E : ax_EN G l) : ax_Snd G l ax_Ym M_X2_writeHead 100 (S_is 214 1 103 hd_0) := k_is (en_F E) (ax_ok0 E rfl) ((ev_sN (en_B E) y_X1_cut q1979 q930 q118 q931 nm_X1_cut (Nat.le_of_ble_eq_true rfl) dX2_writeHead_100) : ax_EvS G l ax_Ym M_X2_writeHead 100 214 1 3)
theorem r_X2_writeHead_103 (E : ax_EN G l) : ax_Snd G l ax_Ym M_X2_writeHead 103 (S_iv [(29, 320)] 2 106 hd_0) := k_iv (en_F E) (ax_ok0 E rfl) (ax_Evs_cons ((ev_v (en_c E (k := 29) rfl) rfl y_X2_set q2095 q2097 qs30 q122 q2098 nm_X2_set (Nat.le_of_ble_eq_true rfl) dX2_writeHead_103) : ax_EvV G l ax_Ym M_X2_writeHead 103 2 3 29 320) ax_Evs_nil)
theorem r_X2_writeHead_106 (E : ax_EN G l) : ax_Snd G l ax_Ym M_X2_writeHead 106 (S_ret) := k_ret dX2_writeHead_106 rfl
theorem mt_X2_writeHead (E : ax_EN G l) : ax_mt G l ax_Ym (5, P_X2_writeHead) (ax_Ym 321) := ⟨M_X2_writeHead, yX2_writeHead, ⟨rfl, by decide +kernel, rfl, (fun h => by cases h), Or.inl ⟨rfl, rfl⟩⟩, fun pc => (ax_sn_node (ax_sn_node (ax_sn_node (ax_sn_node (ax_sn_node (ax_sn_node (ax_sn_leaf (r_X2_writeHead_106 E)) (ax_sn_leaf (r_X2_writeHead_103 E))) (ax_sn_node (ax_sn_leaf (r_X2_writeHead_100 E)) (ax_sn_leaf (r_X2_writeHead_99 E)))) (ax_sn_node (ax_sn_node (ax_sn_leaf (r_X2_writeHead_98 E)) (ax_sn_leaf (r_X2_writeHead_95 E))) (ax_sn_node (ax_sn_leaf (r_X2_writeHead_94 E)) (ax_sn_leaf (r_X2_writeHead_91 E))))) (ax_sn_node (ax_sn_node (ax_sn_node (ax_sn_leaf (r_X2_writeHead_88 E)) (ax_sn_leaf (r_X2_writeHead_87 E))) (ax_sn_node (ax_sn_leaf (r_X2_writeHead_86 E)) (ax_sn_leaf (r_X2_writeHead_85 E)))) (ax_sn_node (ax_sn_node (ax_sn_leaf (r_X2_writeHead_84 E)) (ax_sn_leaf (r_X2_writeHead_83 E))) (ax_sn_node (ax_sn_leaf (r_X2_writeHead_81 E)) (ax_sn_leaf (r_X2_writeHead_78 E)))))) (ax_sn_node (ax_sn_node (ax_sn_node (ax_sn_node (ax_sn_leaf (r_X2_writeHead_77 E)) (ax_sn_leaf (r_X2_writeHead_76 E))) (ax_sn_node (ax_sn_leaf (r_X2_writeHead_73 E)) (ax_sn_leaf (r_X2_writeHead_72 E)))) (ax_sn_node (ax_sn_node (ax_sn_leaf (r_X2_writeHead_71 E)) (ax_sn_leaf (r_X2_writeHead_69 E))) (ax_sn_node (ax_sn_leaf (r_X2_writeHead_68 E)) (ax_sn_leaf (r_X2_writeHead_67 E))))) (ax_sn_node (ax_sn_node (ax_sn_node (ax_sn_leaf (r_X2_writeHead_66 E)) (ax_sn_leaf (r_X2_writeHead_63 E))) (ax_sn_node (ax_sn_leaf (r_X2_writeHead_60 E)) (ax_sn_leaf (r_X2_writeHead_59 E)))) (ax_sn_node (ax_sn_node (ax_sn_leaf (r_X2_writeHead_58 E)) (ax_sn_leaf (r_X2_writeHead_56 E))) (ax_sn_node (ax_sn_leaf (r_X2_writeHead_55 E)) (ax_sn_leaf (r_X2_writeHead_52 E))))))) (ax_sn_node (ax_sn_node (ax_sn_node (ax_sn_node (ax_sn_node (ax_sn_leaf (r_X2_writeHead_50 E)) (ax_sn_leaf (r_X2_writeHead_49 E))) (ax_sn_node (ax_sn_leaf (r_X2_writeHead_48 E)) (ax_sn_leaf (r_X2_writeHead_45 E)))) (ax_sn_node (ax_sn_node (ax_sn_leaf (r_X2_writeHead_44 E)) (ax_sn_leaf (r_X2_writeHead_42 E))) (ax_sn_node (ax_sn_leaf (r_X2_writeHead_41 E)) (ax_sn_leaf (r_X2_writeHead_40 E))))) (ax_sn_node (ax_sn_node (ax_sn_node (ax_sn_leaf (r_X2_writeHead_39 E)) (ax_sn_leaf (r_X2_writeHead_38 E))) (ax_sn_node (ax_sn_leaf (r_X2_writeHead_37 E)) (ax_sn_leaf (r_X2_writeHead_35 E)))) (ax_sn_node (ax_sn_node (ax_sn_leaf (r_X2_writeHead_32 E)) (ax_sn_leaf (r_X2_writeHead_31 E))) (ax_sn_node (ax_sn_leaf (r_X2_writeHead_28 E)) (ax_sn_leaf (r_X2_writeHead_27 E)))))) (ax_sn_node (ax_sn_node (ax_sn_node (ax_sn_node (ax_sn_leaf (r_X2_writeHead_24 E)) (ax_sn_leaf (r_X2_writeHead_23 E))) (ax_sn_node (ax_sn_leaf (r_X2_writeHead_20 E)) (ax_sn_leaf (r_X2_writeHead_19 E)))) (ax_sn_node (ax_sn_node (ax_sn_leaf (r_X2_writeHead_16 E)) (ax_sn_leaf (r_X2_writeHead_15 E))) (ax_sn_node (ax_sn_leaf (r_X2_writeHead_14 E)) (ax_sn_leaf (r_X2_writeHead_11 E))))) (ax_sn_node (ax_sn_node (ax_sn_node (ax_sn_leaf (r_X2_writeHead_10 E)) (ax_sn_leaf (r_X2_writeHead_7 E))) (ax_sn_node (ax_sn_leaf (r_X2_writeHead_5 E)) (ax_sn_leaf (r_X2_writeHead_4 E)))) (ax_sn_node (ax_sn_node (ax_sn_leaf (r_X2_writeHead_3 E)) (ax_sn_leaf (r_X2_writeHead_2 E))) (ax_sn_node (ax_sn_leaf (r_X2_writeHead_1 E)) (ax_sn_leaf (r_X2_writeHead_0 E))))))))⟩
theorem r_X2_isWaiting_0 (E : ax_EN G l) : ax_Snd G l ax_Ym M_X2_isWaiting 0 (S_aload 0 1) := k_aload_n dX2_isWaiting_0 rfl
theorem r_X2_isWaiting_1 (E : ax_EN G l) : ax_Snd G l ax_Ym M_X2_isWaiting 1 (S_getf [(29, 0)] 4) := k_getf (en_F E) (ax_fes_cons (fe_158 E) ax_fes_nil) q283 dX2_isWaiting_1
theorem r_X2_isWaiting_4 (E : ax_EN G l) : ax_Snd G l ax_Ym M_X2_isWaiting 4 (S_push (.int (8)) 6) := k_bipush dX2_isWaiting_4 rfl
theorem r_X2_isWaiting_6 (E : ax_EN G l) : ax_Snd G l ax_Ym M_X2_isWaiting 6 (S_iald 0 7) := k_iald (en_F E) dX2_isWaiting_6
theorem r_X2_isWaiting_7 (E : ax_EN G l) : ax_Snd G l ax_Ym M_X2_isWaiting 7 (S_aload 0 8) := k_aload_n dX2_isWaiting_7 rfl
theorem r_X2_isWaiting_8 (E : ax_EN G l) : ax_Snd G l ax_Ym M_X2_isWaiting 8 (S_getf [(29, 0)] 11) := k_getf (en_F E) (ax_fes_cons (fe_158 E) ax_fes_nil) q283 dX2_isWaiting_8
theorem r_X2_isWaiting_11 (E : ax_EN G l) : ax_Snd G l ax_Ym M_X2_isWaiting 11 (S_push (.int (9)) 13) := k_bipush dX2_isWaiting_11 rfl
theorem r_X2_isWaiting_13 (E : ax_EN G l) : ax_Snd G l ax_Ym M_X2_isWaiting 13 (S_iald 0 14) := k_iald (en_F E) dX2_isWaiting_13
theorem r_X2_isWaiting_14 (E : ax_EN G l) : ax_Snd G l ax_Ym M_X2_isWaiting 14 (S_i2 (fun x y => x + y) 15) := k_iadd dX2_isWaiting_14
theorem r_X2_isWaiting_15 (E : ax_EN G l) : ax_Snd G l ax_Ym M_X2_isWaiting 15 (S_if1 (fun x => decide (x ≤ 0)) 22 18) := k_if_le dX2_isWaiting_15 rfl
theorem r_X2_isWaiting_18 (E : ax_EN G l) : ax_Snd G l ax_Ym M_X2_isWaiting 18 (S_push (.int (1)) 19) := k_iconst dX2_isWaiting_18 rfl
theorem r_X2_isWaiting_19 (E : ax_EN G l) : ax_Snd G l ax_Ym M_X2_isWaiting 19 (S_goto 23) := k_goto dX2_isWaiting_19 rfl
theorem r_X2_isWaiting_22 (E : ax_EN G l) : ax_Snd G l ax_Ym M_X2_isWaiting 22 (S_push (.int (0)) 23) := k_iconst dX2_isWaiting_22 rfl
theorem r_X2_isWaiting_23 (E : ax_EN G l) : ax_Snd G l ax_Ym M_X2_isWaiting 23 (S_zret) := k_zret dX2_isWaiting_23 rfl
theorem mt_X2_isWaiting (E : ax_EN G l) : ax_mt G l ax_Ym (1, P_X2_isWaiting) (ax_Ym 322) := ⟨M_X2_isWaiting, yX2_isWaiting, ⟨rfl, by decide +kernel, rfl, (fun h => by cases h), Or.inl ⟨rfl, rfl⟩⟩, fun pc => (ax_sn_node (ax_sn_node (ax_sn_node (ax_sn_node (ax_sn_leaf (r_X2_isWaiting_23 E)) (ax_sn_leaf (r_X2_isWaiting_22 E))) (ax_sn_node (ax_sn_leaf (r_X2_isWaiting_19 E)) (ax_sn_leaf (r_X2_isWaiting_18 E)))) (ax_sn_node (ax_sn_node (ax_sn_leaf (r_X2_isWaiting_15 E)) (ax_sn_leaf (r_X2_isWaiting_14 E))) (ax_sn_leaf (r_X2_isWaiting_13 E)))) (ax_sn_node (ax_sn_node (ax_sn_node (ax_sn_leaf (r_X2_isWaiting_11 E)) (ax_sn_leaf (r_X2_isWaiting_8 E))) (ax_sn_node (ax_sn_leaf (r_X2_isWaiting_7 E)) (ax_sn_leaf (r_X2_isWaiting_6 E)))) (ax_sn_node (ax_sn_node (ax_sn_leaf (r_X2_isWaiting_4 E)) (ax_sn_leaf (r_X2_isWaiting_1 E))) (ax_sn_leaf (r_X2_isWaiting_0 E)))))⟩
theorem r_X2_interrupt_0 (E : ax_EN G l) : ax_Snd G l ax_Ym M_X2_interrupt 0 (S_aload 0 1) := k_aload_n dX2_interrupt_0 rfl
theorem r_X2_interrupt_1 (E : ax_EN G l) : ax_Snd G l ax_Ym M_X2_interrupt 1 (S_push (.int (2)) 2) := k_iconst dX2_interrupt_1 rfl
theorem r_X2_interrupt_2 (E : ax_EN G l) : ax_Snd G l ax_Ym M_X2_interrupt 2 (S_iv [(29, 324)] 1 5 hd_0) := k_iv (en_F E) (ax_ok0 E rfl) (ax_Evs_cons ((ev_v (en_c E (k := 29) rfl) rfl y_X2_room q2116 q2118 qs34 q122 q2119 nm_X2_room (Nat.le_of_ble_eq_true rfl) dX2_interrupt_2) : ax_EvV G l ax_Ym M_X2_interrupt 2 1 3 29 324) ax_Evs_nil)
theorem r_X2_interrupt_5 (E : ax_EN G l) : ax_Snd G l ax_Ym M_X2_interrupt 5 (S_aload 0 6) := k_aload_n dX2_interrupt_5 rfl
theorem r_X2_interrupt_6 (E : ax_EN G l) : ax_Snd G l ax_Ym M_X2_interrupt 6 (S_getf [(29, 0)] 9) := k_getf (en_F E) (ax_fes_cons (fe_158 E) ax_fes_nil) q283 dX2_interrupt_6
theorem r_X2_interrupt_9 (E : ax_EN G l) : ax_Snd G l ax_Ym M_X2_interrupt 9 (S_push (.int (8)) 11) := k_bipush dX2_interrupt_9 rfl
theorem r_X2_interrupt_11 (E : ax_EN G l) : ax_Snd G l ax_Ym M_X2_interrupt 11 (S_iald 0 12) := k_iald (en_F E) dX2_interrupt_11
theorem r_X2_interrupt_12 (E : ax_EN G l) : ax_Snd G l ax_Ym M_X2_interrupt 12 (S_push (.int (1)) 13) := k_iconst dX2_interrupt_12 rfl
theorem r_X2_interrupt_13 (E : ax_EN G l) : ax_Snd G l ax_Ym M_X2_interrupt 13 (S_if2 (fun x y => decide (¬ x = y)) 20 16) := k_icmp_ne dX2_interrupt_13 rfl
theorem r_X2_interrupt_16 (E : ax_EN G l) : ax_Snd G l ax_Ym M_X2_interrupt 16 (S_push (.int (0)) 17) := k_iconst dX2_interrupt_16 rfl
theorem r_X2_interrupt_17 (E : ax_EN G l) : ax_Snd G l ax_Ym M_X2_interrupt 17 (S_goto 21) := k_goto dX2_interrupt_17 rfl
theorem r_X2_interrupt_20 (E : ax_EN G l) : ax_Snd G l ax_Ym M_X2_interrupt 20 (S_push (.int (1)) 21) := k_iconst dX2_interrupt_20 rfl
theorem r_X2_interrupt_21 (E : ax_EN G l) : ax_Snd G l ax_Ym M_X2_interrupt 21 (S_istore 1 22) := k_istore_n dX2_interrupt_21 rfl (Nat.le_of_ble_eq_true rfl)
theorem r_X2_interrupt_22 (E : ax_EN G l) : ax_Snd G l ax_Ym M_X2_interrupt 22 (S_aload 0 23) := k_aload_n dX2_interrupt_22 rfl
theorem r_X2_interrupt_23 (E : ax_EN G l) : ax_Snd G l ax_Ym M_X2_interrupt 23 (S_push (.int (8)) 25) := k_bipush dX2_interrupt_23 rfl
theorem r_X2_interrupt_25 (E : ax_EN G l) : ax_Snd G l ax_Ym M_X2_interrupt 25 (S_iload 1 26) := k_iload_n dX2_interrupt_25 rfl
theorem r_X2_interrupt_26 (E : ax_EN G l) : ax_Snd G l ax_Ym M_X2_interrupt 26 (S_i2 (fun x y => x + y) 27) := k_iadd dX2_interrupt_26
theorem r_X2_interrupt_27 (E : ax_EN G l) : ax_Snd G l ax_Ym M_X2_interrupt 27 (S_push (.int (0)) 28) := k_iconst dX2_interrupt_27 rfl
theorem r_X2_interrupt_28 (E : ax_EN G l) : ax_Snd G l ax_Ym M_X2_interrupt 28 (S_iv [(29, 320)] 2 31 hd_0) := k_iv (en_F E) (ax_ok0 E rfl) (ax_Evs_cons ((ev_v (en_c E (k := 29) rfl) rfl y_X2_set q2095 q2097 qs30 q122 q2098 nm_X2_set (Nat.le_of_ble_eq_true rfl) dX2_interrupt_28) : ax_EvV G l ax_Ym M_X2_interrupt 28 2 3 29 320) ax_Evs_nil)
theorem r_X2_interrupt_31 (E : ax_EN G l) : ax_Snd G l ax_Ym M_X2_interrupt 31 (S_aload 0 32) := k_aload_n dX2_interrupt_31 rfl
theorem r_X2_interrupt_32 (E : ax_EN G l) : ax_Snd G l ax_Ym M_X2_interrupt 32 (S_aload 0 33) := k_aload_n dX2_interrupt_32 rfl
theorem r_X2_interrupt_33 (E : ax_EN G l) : ax_Snd G l ax_Ym M_X2_interrupt 33 (S_getf [(29, 0)] 36) := k_getf (en_F E) (ax_fes_cons (fe_158 E) ax_fes_nil) q283 dX2_interrupt_33
theorem r_X2_interrupt_36 (E : ax_EN G l) : ax_Snd G l ax_Ym M_X2_interrupt 36 (S_push (.int (3)) 37) := k_iconst dX2_interrupt_36 rfl
theorem r_X2_interrupt_37 (E : ax_EN G l) : ax_Snd G l ax_Ym M_X2_interrupt 37 (S_iald 0 38) := k_iald (en_F E) dX2_interrupt_37
theorem r_X2_interrupt_38 (E : ax_EN G l) : ax_Snd G l ax_Ym M_X2_interrupt 38 (S_iv [(29, 325)] 1 41 hd_0) := k_iv (en_F E) (ax_ok0 E rfl) (ax_Evs_cons ((ev_v (en_c E (k := 29) rfl) rfl y_X2_push q2140 q2142 qs35 q122 q2143 nm_X2_push (Nat.le_of_ble_eq_true rfl) dX2_interrupt_38) : ax_EvV G l ax_Ym M_X2_interrupt 38 1 3 29 325) ax_Evs_nil)
theorem r_X2_interrupt_41 (E : ax_EN G l) : ax_Snd G l ax_Ym M_X2_interrupt 41 (S_aload 0 42) := k_aload_n dX2_interrupt_41 rfl
theorem r_X2_interrupt_42 (E : ax_EN G l) : ax_Snd G l ax_Ym M_X2_interrupt 42 (S_aload 0 43) := k_aload_n dX2_interrupt_42 rfl
theorem r_X2_interrupt_43 (E : ax_EN G l) : ax_Snd G l ax_Ym M_X2_interrupt 43 (S_getf [(29, 0)] 46) := k_getf (en_F E) (ax_fes_cons (fe_158 E) ax_fes_nil) q283 dX2_interrupt_43
theorem r_X2_interrupt_46 (E : ax_EN G l) : ax_Snd G l ax_Ym M_X2_interrupt 46 (S_push (.int (5)) 47) := k_iconst dX2_interrupt_46 rfl
theorem r_X2_interrupt_47 (E : ax_EN G l) : ax_Snd G l ax_Ym M_X2_interrupt 47 (S_iald 0 48) := k_iald (en_F E) dX2_interrupt_47
theorem r_X2_interrupt_48 (E : ax_EN G l) : ax_Snd G l ax_Ym M_X2_interrupt 48 (S_push (.int (2)) 49) := k_iconst dX2_interrupt_48 rfl
theorem r_X2_interrupt_49 (E : ax_EN G l) : ax_Snd G l ax_Ym M_X2_interrupt 49 (S_aload 0 50) := k_aload_n dX2_interrupt_49 rfl
theorem r_X2_interrupt_50 (E : ax_EN G l) : ax_Snd G l ax_Ym M_X2_interrupt 50 (S_getf [(29, 0)] 53) := k_getf (en_F E) (ax_fes_cons (fe_158 E) ax_fes_nil) q283 dX2_interrupt_50
theorem r_X2_interrupt_53 (E : ax_EN G l) : ax_Snd G l ax_Ym M_X2_interrupt 53 (S_push (.int (6)) 55) := k_bipush dX2_interrupt_53 rfl
theorem r_X2_interrupt_55 (E : ax_EN G l) : ax_Snd G l ax_Ym M_X2_interrupt 55 (S_iald 0 56) := k_iald (en_F E) dX2_interrupt_55
theorem r_X2_interrupt_56 (E : ax_EN G l) : ax_Snd G l ax_Ym M_X2_interrupt 56 (S_i2 (fun x y => x * y) 57) := k_imul dX2_interrupt_56
theorem r_X2_interrupt_57 (E : ax_EN G l) : ax_Snd G l ax_Ym M_X2_interrupt 57 (S_i2 (fun x y => x + y) 58) := k_iadd dX2_interrupt_57
theorem r_X2_interrupt_58 (E : ax_EN G l) : ax_Snd G l ax_Ym M_X2_interrupt 58 (S_iv [(29, 325)] 1 61 hd_0) := k_iv (en_F E) (ax_ok0 E rfl) (ax_Evs_cons ((ev_v (en_c E (k := 29) rfl) rfl y_X2_push q2140 q2142 qs35 q122 q2143 nm_X2_push (Nat.le_of_ble_eq_true rfl) dX2_interrupt_58) : ax_EvV G l ax_Ym M_X2_interrupt 58 1 3 29 325) ax_Evs_nil)
theorem r_X2_interrupt_61 (E : ax_EN G l) : ax_Snd G l ax_Ym M_X2_interrupt 61 (S_aload 0 62) := k_aload_n dX2_interrupt_61 rfl
theorem r_X2_interrupt_62 (E : ax_EN G l) : ax_Snd G l ax_Ym M_X2_interrupt 62 (S_push (.int (7)) 64) := k_bipush dX2_interrupt_62 rfl
theorem r_X2_interrupt_64 (E : ax_EN G l) : ax_Snd G l ax_Ym M_X2_interrupt 64 (S_push (.int (0)) 65) := k_iconst dX2_interrupt_64 rfl
theorem r_X2_interrupt_65 (E : ax_EN G l) : ax_Snd G l ax_Ym M_X2_interrupt 65 (S_iv [(29, 320)] 2 68 hd_0) := k_iv (en_F E) (ax_ok0 E rfl) (ax_Evs_cons ((ev_v (en_c E (k := 29) rfl) rfl y_X2_set q2095 q2097 qs30 q122 q2098 nm_X2_set (Nat.le_of_ble_eq_true rfl) dX2_interrupt_65) : ax_EvV G l ax_Ym M_X2_interrupt 65 2 3 29 320) ax_Evs_nil)
theorem r_X2_interrupt_68 (E : ax_EN G l) : ax_Snd G l ax_Ym M_X2_interrupt 68 (S_aload 0 69) := k_aload_n dX2_interrupt_68 rfl
theorem r_X2_interrupt_69 (E : ax_EN G l) : ax_Snd G l ax_Ym M_X2_interrupt 69 (S_push (.int (3)) 70) := k_iconst dX2_interrupt_69 rfl
theorem r_X2_interrupt_70 (E : ax_EN G l) : ax_Snd G l ax_Ym M_X2_interrupt 70 (S_aload 0 71) := k_aload_n dX2_interrupt_70 rfl
theorem r_X2_interrupt_71 (E : ax_EN G l) : ax_Snd G l ax_Ym M_X2_interrupt 71 (S_getf [(29, 0)] 74) := k_getf (en_F E) (ax_fes_cons (fe_158 E) ax_fes_nil) q283 dX2_interrupt_71
theorem r_X2_interrupt_74 (E : ax_EN G l) : ax_Snd G l ax_Ym M_X2_interrupt 74 (S_push (.int (108)) 76) := k_bipush dX2_interrupt_74 rfl
theorem r_X2_interrupt_76 (E : ax_EN G l) : ax_Snd G l ax_Ym M_X2_interrupt 76 (S_iload 1 77) := k_iload_n dX2_interrupt_76 rfl
theorem r_X2_interrupt_77 (E : ax_EN G l) : ax_Snd G l ax_Ym M_X2_interrupt 77 (S_i2 (fun x y => x + y) 78) := k_iadd dX2_interrupt_77
theorem r_X2_interrupt_78 (E : ax_EN G l) : ax_Snd G l ax_Ym M_X2_interrupt 78 (S_iald 0 79) := k_iald (en_F E) dX2_interrupt_78
theorem r_X2_interrupt_79 (E : ax_EN G l) : ax_Snd G l ax_Ym M_X2_interrupt 79 (S_iv [(29, 320)] 2 82 hd_0) := k_iv (en_F E) (ax_ok0 E rfl) (ax_Evs_cons ((ev_v (en_c E (k := 29) rfl) rfl y_X2_set q2095 q2097 qs30 q122 q2098 nm_X2_set (Nat.le_of_ble_eq_true rfl) dX2_interrupt_79) : ax_EvV G l ax_Ym M_X2_interrupt 79 2 3 29 320) ax_Evs_nil)
theorem r_X2_interrupt_82 (E : ax_EN G l) : ax_Snd G l ax_Ym M_X2_interrupt 82 (S_ret) := k_ret dX2_interrupt_82 rfl
theorem mt_X2_interrupt (E : ax_EN G l) : ax_mt G l ax_Ym (2, P_X2_interrupt) (ax_Ym 323) := ⟨M_X2_interrupt, yX2_interrupt, ⟨rfl, by decide +kernel, rfl, (fun h => by cases h), Or.inl ⟨rfl, rfl⟩⟩, fun pc => (ax_sn_node (ax_sn_node (ax_sn_node (ax_sn_node (ax_sn_node (ax_sn_node (ax_sn_leaf (r_X2_interrupt_82 E)) (ax_sn_leaf (r_X2_interrupt_79 E))) (ax_sn_node (ax_sn_leaf (r_X2_interrupt_78 E)) (ax_sn_leaf (r_X2_interrupt_77 E)))) (ax_sn_node (ax_sn_node (ax_sn_leaf (r_X2_interrupt_76 E)) (ax_sn_leaf (r_X2_interrupt_74 E))) (ax_sn_leaf (r_X2_interrupt_71 E)))) (ax_sn_node (ax_sn_node (ax_sn_node (ax_sn_leaf (r_X2_interrupt_70 E)) (ax_sn_leaf (r_X2_interrupt_69 E))) (ax_sn_leaf (r_X2_interrupt_68 E))) (ax_sn_node (ax_sn_node (ax_sn_leaf (r_X2_interrupt_65 E)) (ax_sn_leaf (r_X2_interrupt_64 E))) (ax_sn_leaf (r_X2_interrupt_62 E))))) (ax_sn_node (ax_sn_node (ax_sn_node (ax_sn_node (ax_sn_leaf (r_X2_interrupt_61 E)) (ax_sn_leaf (r_X2_interrupt_58 E))) (ax_sn_node (ax_sn_leaf (r_X2_interrupt_57 E)) (ax_sn_leaf (r_X2_interrupt_56 E)))) (ax_sn_node (ax_sn_node (ax_sn_leaf (r_X2_interrupt_55 E)) (ax_sn_leaf (r_X2_interrupt_53 E))) (ax_sn_leaf (r_X2_interrupt_50 E)))) (ax_sn_node (ax_sn_node (ax_sn_node (ax_sn_leaf (r_X2_interrupt_49 E)) (ax_sn_leaf (r_X2_interrupt_48 E))) (ax_sn_leaf (r_X2_interrupt_47 E))) (ax_sn_node (ax_sn_node (ax_sn_leaf (r_X2_interrupt_46 E)) (ax_sn_leaf (r_X2_interrupt_43 E))) (ax_sn_leaf (r_X2_interrupt_42 E)))))) (ax_sn_node (ax_sn_node (ax_sn_node (ax_sn_node (ax_sn_node (ax_sn_leaf (r_X2_interrupt_41 E)) (ax_sn_leaf (r_X2_interrupt_38 E))) (ax_sn_node (ax_sn_leaf (r_X2_interrupt_37 E)) (ax_sn_leaf (r_X2_interrupt_36 E)))) (ax_sn_node (ax_sn_node (ax_sn_leaf (r_X2_interrupt_33 E)) (ax_sn_leaf (r_X2_interrupt_32 E))) (ax_sn_leaf (r_X2_interrupt_31 E)))) (ax_sn_node (ax_sn_node (ax_sn_node (ax_sn_leaf (r_X2_interrupt_28 E)) (ax_sn_leaf (r_X2_interrupt_27 E))) (ax_sn_leaf (r_X2_interrupt_26 E))) (ax_sn_node (ax_sn_node (ax_sn_leaf (r_X2_interrupt_25 E)) (ax_sn_leaf (r_X2_interrupt_23 E))) (ax_sn_leaf (r_X2_interrupt_22 E))))) (ax_sn_node (ax_sn_node (ax_sn_node (ax_sn_node (ax_sn_leaf (r_X2_interrupt_21 E)) (ax_sn_leaf (r_X2_interrupt_20 E))) (ax_sn_node (ax_sn_leaf (r_X2_interrupt_17 E)) (ax_sn_leaf (r_X2_interrupt_16 E)))) (ax_sn_node (ax_sn_node (ax_sn_leaf (r_X2_interrupt_13 E)) (ax_sn_leaf (r_X2_interrupt_12 E))) (ax_sn_leaf (r_X2_interrupt_11 E)))) (ax_sn_node (ax_sn_node (ax_sn_node (ax_sn_leaf (r_X2_interrupt_9 E)) (ax_sn_leaf (r_X2_interrupt_6 E))) (ax_sn_leaf (r_X2_interrupt_5 E))) (ax_sn_node (ax_sn_node (ax_sn_leaf (r_X2_interrupt_2 E)) (ax_sn_leaf (r_X2_interrupt_1 E))) (ax_sn_leaf (r_X2_interrupt_0 E)))))))⟩
theorem r_X2_room_0 (E : ax_EN G l) : ax_Snd G l ax_Ym M_X2_room 0 (S_aload 0 1) := k_aload_n dX2_room_0 rfl
theorem r_X2_room_1 (E : ax_EN G l) : ax_Snd G l ax_Ym M_X2_room 1 (S_getf [(29, 0)] 4) := k_getf (en_F E) (ax_fes_cons (fe_158 E) ax_fes_nil) q283 dX2_room_1
theorem r_X2_room_4 (E : ax_EN G l) : ax_Snd G l ax_Ym M_X2_room 4 (S_push (.int (4)) 5) := k_iconst dX2_room_4 rfl
theorem r_X2_room_5 (E : ax_EN G l) : ax_Snd G l ax_Ym M_X2_room 5 (S_iald 0 6) := k_iald (en_F E) dX2_room_5
theorem r_X2_room_6 (E : ax_EN G l) : ax_Snd G l ax_Ym M_X2_room 6 (S_iload 1 7) := k_iload_n dX2_room_6 rfl
theorem r_X2_room_7 (E : ax_EN G l) : ax_Snd G l ax_Ym M_X2_room 7 (S_if2 (fun x y => decide (y ≤ x)) 24 10) := k_icmp_ge dX2_room_7 rfl
theorem r_X2_room_10 (E : ax_EN G l) : ax_Snd G l ax_Ym M_X2_room 10 (S_new 32 [.null] 6 13) := k_new (en_F E) (mk_32 E) q2030 dX2_room_10
theorem r_X2_room_13 (E : ax_EN G l) : ax_Snd G l ax_Ym M_X2_room 13 (S_dup 14) := k_dup dX2_room_13
theorem r_X2_room_14 (E : ax_EN G l) : ax_Snd G l ax_Ym M_X2_room 14 (S_aload 0 15) := k_aload_n dX2_room_14 rfl
theorem r_X2_room_15 (E : ax_EN G l) : ax_Snd G l ax_Ym M_X2_room 15 (S_getf [(29, 0)] 18) := k_getf (en_F E) (ax_fes_cons (fe_158 E) ax_fes_nil) q283 dX2_room_15
theorem r_X2_room_18 (E : ax_EN G l) : ax_Snd G l ax_Ym M_X2_room 18 (S_push (.int (4)) 19) := k_iconst dX2_room_18 rfl
theorem r_X2_room_19 (E : ax_EN G l) : ax_Snd G l ax_Ym M_X2_room 19 (S_iald 0 20) := k_iald (en_F E) dX2_room_19
theorem r_X2_room_20 (E : ax_EN G l) : ax_Snd G l ax_Ym M_X2_room 20 (S_isp 361 1 23 hd_0) := k_isp (en_F E) (ax_ok0 E rfl) ((ev_i y_X22_init q2128 q2129 q166 q2130 nm_X22_init rfl (Nat.le_of_ble_eq_true rfl) dX2_room_20) : ax_EvI G l ax_Ym M_X2_room 20 361 1 3)
theorem r_X2_room_23 (E : ax_EN G l) : ax_Snd G l ax_Ym M_X2_room 23 (S_athrow hd_0) := k_athrow (en_F E) (ax_ok0 E rfl) dX2_room_23
theorem r_X2_room_24 (E : ax_EN G l) : ax_Snd G l ax_Ym M_X2_room 24 (S_ret) := k_ret dX2_room_24 rfl
theorem mt_X2_room (E : ax_EN G l) : ax_mt G l ax_Ym (2, P_X2_room) (ax_Ym 324) := ⟨M_X2_room, yX2_room, ⟨rfl, by decide +kernel, rfl, (fun h => by cases h), Or.inl ⟨rfl, rfl⟩⟩, fun pc => (ax_sn_node (ax_sn_node (ax_sn_node (ax_sn_node (ax_sn_leaf (r_X2_room_24 E)) (ax_sn_leaf (r_X2_room_23 E))) (ax_sn_node (ax_sn_leaf (r_X2_room_20 E)) (ax_sn_leaf (r_X2_room_19 E)))) (ax_sn_node (ax_sn_node (ax_sn_leaf (r_X2_room_18 E)) (ax_sn_leaf (r_X2_room_15 E))) (ax_sn_node (ax_sn_leaf (r_X2_room_14 E)) (ax_sn_leaf (r_X2_room_13 E))))) (ax_sn_node (ax_sn_node (ax_sn_node (ax_sn_leaf (r_X2_room_10 E)) (ax_sn_leaf (r_X2_room_7 E))) (ax_sn_node (ax_sn_leaf (r_X2_room_6 E)) (ax_sn_leaf (r_X2_room_5 E)))) (ax_sn_node (ax_sn_node (ax_sn_leaf (r_X2_room_4 E)) (ax_sn_leaf (r_X2_room_1 E))) (ax_sn_leaf (r_X2_room_0 E)))))⟩
theorem r_X2_push_0 (E : ax_EN G l) : ax_Snd G l ax_Ym M_X2_push 0 (S_aload 0 1) := k_aload_n dX2_push_0 rfl
theorem r_X2_push_1 (E : ax_EN G l) : ax_Snd G l ax_Ym M_X2_push 1 (S_push (.int (4)) 2) := k_iconst dX2_push_1 rfl
theorem r_X2_push_2 (E : ax_EN G l) : ax_Snd G l ax_Ym M_X2_push 2 (S_aload 0 3) := k_aload_n dX2_push_2 rfl
theorem r_X2_push_3 (E : ax_EN G l) : ax_Snd G l ax_Ym M_X2_push 3 (S_getf [(29, 0)] 6) := k_getf (en_F E) (ax_fes_cons (fe_158 E) ax_fes_nil) q283 dX2_push_3
theorem r_X2_push_6 (E : ax_EN G l) : ax_Snd G l ax_Ym M_X2_push 6 (S_push (.int (4)) 7) := k_iconst dX2_push_6 rfl
theorem r_X2_push_7 (E : ax_EN G l) : ax_Snd G l ax_Ym M_X2_push 7 (S_iald 0 8) := k_iald (en_F E) dX2_push_7
theorem r_X2_push_8 (E : ax_EN G l) : ax_Snd G l ax_Ym M_X2_push 8 (S_push (.int (1)) 9) := k_iconst dX2_push_8 rfl
theorem r_X2_push_9 (E : ax_EN G l) : ax_Snd G l ax_Ym M_X2_push 9 (S_i2 (fun x y => x - y) 10) := k_isub dX2_push_9
theorem r_X2_push_10 (E : ax_EN G l) : ax_Snd G l ax_Ym M_X2_push 10 (S_iv [(29, 320)] 2 13 hd_0) := k_iv (en_F E) (ax_ok0 E rfl) (ax_Evs_cons ((ev_v (en_c E (k := 29) rfl) rfl y_X2_set q2095 q2097 qs30 q122 q2098 nm_X2_set (Nat.le_of_ble_eq_true rfl) dX2_push_10) : ax_EvV G l ax_Ym M_X2_push 10 2 3 29 320) ax_Evs_nil)
theorem r_X2_push_13 (E : ax_EN G l) : ax_Snd G l ax_Ym M_X2_push 13 (S_aload 0 14) := k_aload_n dX2_push_13 rfl
theorem r_X2_push_14 (E : ax_EN G l) : ax_Snd G l ax_Ym M_X2_push 14 (S_push (.int (108)) 16) := k_bipush dX2_push_14 rfl
theorem r_X2_push_16 (E : ax_EN G l) : ax_Snd G l ax_Ym M_X2_push 16 (S_aload 0 17) := k_aload_n dX2_push_16 rfl
theorem r_X2_push_17 (E : ax_EN G l) : ax_Snd G l ax_Ym M_X2_push 17 (S_getf [(29, 0)] 20) := k_getf (en_F E) (ax_fes_cons (fe_158 E) ax_fes_nil) q283 dX2_push_17
theorem r_X2_push_20 (E : ax_EN G l) : ax_Snd G l ax_Ym M_X2_push 20 (S_push (.int (4)) 21) := k_iconst dX2_push_20 rfl
theorem r_X2_push_21 (E : ax_EN G l) : ax_Snd G l ax_Ym M_X2_push 21 (S_iald 0 22) := k_iald (en_F E) dX2_push_21
theorem r_X2_push_22 (E : ax_EN G l) : ax_Snd G l ax_Ym M_X2_push 22 (S_i2 (fun x y => x + y) 23) := k_iadd dX2_push_22
theorem r_X2_push_23 (E : ax_EN G l) : ax_Snd G l ax_Ym M_X2_push 23 (S_iload 1 24) := k_iload_n dX2_push_23 rfl
theorem r_X2_push_24 (E : ax_EN G l) : ax_Snd G l ax_Ym M_X2_push 24 (S_iv [(29, 320)] 2 27 hd_0) := k_iv (en_F E) (ax_ok0 E rfl) (ax_Evs_cons ((ev_v (en_c E (k := 29) rfl) rfl y_X2_set q2095 q2097 qs30 q122 q2098 nm_X2_set (Nat.le_of_ble_eq_true rfl) dX2_push_24) : ax_EvV G l ax_Ym M_X2_push 24 2 3 29 320) ax_Evs_nil)
theorem r_X2_push_27 (E : ax_EN G l) : ax_Snd G l ax_Ym M_X2_push 27 (S_ret) := k_ret dX2_push_27 rfl
theorem mt_X2_push (E : ax_EN G l) : ax_mt G l ax_Ym (2, P_X2_push) (ax_Ym 325) := ⟨M_X2_push, yX2_push, ⟨rfl, by decide +kernel, rfl, (fun h => by cases h), Or.inl ⟨rfl, rfl⟩⟩, fun pc => (ax_sn_node (ax_sn_node (ax_sn_node (ax_sn_node (ax_sn_node (ax_sn_leaf (r_X2_push_27 E)) (ax_sn_leaf (r_X2_push_24 E))) (ax_sn_leaf (r_X2_push_23 E))) (ax_sn_node (ax_sn_leaf (r_X2_push_22 E)) (ax_sn_leaf (r_X2_push_21 E)))) (ax_sn_node (ax_sn_node (ax_sn_node (ax_sn_leaf (r_X2_push_20 E)) (ax_sn_leaf (r_X2_push_17 E))) (ax_sn_leaf (r_X2_push_16 E))) (ax_sn_node (ax_sn_leaf (r_X2_push_14 E)) (ax_sn_leaf (r_X2_push_13 E))))) (ax_sn_node (ax_sn_node (ax_sn_node (ax_sn_node (ax_sn_leaf (r_X2_push_10 E)) (ax_sn_leaf (r_X2_push_9 E))) (ax_sn_leaf (r_X2_push_8 E))) (ax_sn_node (ax_sn_leaf (r_X2_push_7 E)) (ax_sn_leaf (r_X2_push_6 E)))) (ax_sn_node (ax_sn_node (ax_sn_leaf (r_X2_push_3 E)) (ax_sn_leaf (r_X2_push_2 E))) (ax_sn_node (ax_sn_leaf (r_X2_push_1 E)) (ax_sn_leaf (r_X2_push_0 E))))))⟩
theorem r_X2_instruct_0 (E : ax_EN G l) : ax_Snd G l ax_Ym M_X2_instruct 0 (S_aload 0 1) := k_aload_n dX2_instruct_0 rfl
theorem r_X2_instruct_1 (E : ax_EN G l) : ax_Snd G l ax_Ym M_X2_instruct 1 (S_getf [(29, 0)] 4) := k_getf (en_F E) (ax_fes_cons (fe_158 E) ax_fes_nil) q283 dX2_instruct_1
theorem r_X2_instruct_4 (E : ax_EN G l) : ax_Snd G l ax_Ym M_X2_instruct 4 (S_push (.int (3)) 5) := k_iconst dX2_instruct_4 rfl
theorem r_X2_instruct_5 (E : ax_EN G l) : ax_Snd G l ax_Ym M_X2_instruct 5 (S_iald 0 6) := k_iald (en_F E) dX2_instruct_5
theorem r_X2_instruct_6 (E : ax_EN G l) : ax_Snd G l ax_Ym M_X2_instruct 6 (S_push (.int (1)) 7) := k_iconst dX2_instruct_6 rfl
theorem r_X2_instruct_7 (E : ax_EN G l) : ax_Snd G l ax_Ym M_X2_instruct 7 (S_i2 (fun x y => x + y) 8) := k_iadd dX2_instruct_7
theorem r_X2_instruct_8 (E : ax_EN G l) : ax_Snd G l ax_Ym M_X2_instruct 8 (S_is 327 1 11 hd_0) := k_is (en_F E) (ax_ok0 E rfl) ((ev_s y_X2_address q2148 q2149 q122 q2150 nm_X2_address (Nat.le_of_ble_eq_true rfl) dX2_instruct_8) : ax_EvS G l ax_Ym M_X2_instruct 8 327 1 3)
theorem r_X2_instruct_11 (E : ax_EN G l) : ax_Snd G l ax_Ym M_X2_instruct 11 (S_istore 1 12) := k_istore_n dX2_instruct_11 rfl (Nat.le_of_ble_eq_true rfl)
theorem r_X2_instruct_12 (E : ax_EN G l) : ax_Snd G l ax_Ym M_X2_instruct 12 (S_aload 0 13) := k_aload_n dX2_instruct_12 rfl
theorem r_X2_instruct_13 (E : ax_EN G l) : ax_Snd G l ax_Ym M_X2_instruct 13 (S_getf [(29, 0)] 16) := k_getf (en_F E) (ax_fes_cons (fe_158 E) ax_fes_nil) q283 dX2_instruct_13
theorem r_X2_instruct_16 (E : ax_EN G l) : ax_Snd G l ax_Ym M_X2_instruct 16 (S_iload 1 17) := k_iload_n dX2_instruct_16 rfl
theorem r_X2_instruct_17 (E : ax_EN G l) : ax_Snd G l ax_Ym M_X2_instruct 17 (S_push (.int (1)) 18) := k_iconst dX2_instruct_17 rfl
theorem r_X2_instruct_18 (E : ax_EN G l) : ax_Snd G l ax_Ym M_X2_instruct 18 (S_i2 (fun x y => x - y) 19) := k_isub dX2_instruct_18
theorem r_X2_instruct_19 (E : ax_EN G l) : ax_Snd G l ax_Ym M_X2_instruct 19 (S_iald 0 20) := k_iald (en_F E) dX2_instruct_19
theorem r_X2_instruct_20 (E : ax_EN G l) : ax_Snd G l ax_Ym M_X2_instruct 20 (S_istore 2 21) := k_istore_n dX2_instruct_20 rfl (Nat.le_of_ble_eq_true rfl)
theorem r_X2_instruct_21 (E : ax_EN G l) : ax_Snd G l ax_Ym M_X2_instruct 21 (S_iload 2 22) := k_iload_n dX2_instruct_21 rfl
theorem r_X2_instruct_22 (E : ax_EN G l) : ax_Snd G l ax_Ym M_X2_instruct 22 (S_push (.int (4)) 23) := k_iconst dX2_instruct_22 rfl
theorem r_X2_instruct_23 (E : ax_EN G l) : ax_Snd G l ax_Ym M_X2_instruct 23 (S_i2 (fun x y => x >>> (y &&& 31)) 24) := k_ishr dX2_instruct_23
theorem r_X2_instruct_24 (E : ax_EN G l) : ax_Snd G l ax_Ym M_X2_instruct 24 (S_istore 3 25) := k_istore_n dX2_instruct_24 rfl (Nat.le_of_ble_eq_true rfl)
theorem r_X2_instruct_25 (E : ax_EN G l) : ax_Snd G l ax_Ym M_X2_instruct 25 (S_iload 3 26) := k_iload_n dX2_instruct_25 rfl
theorem r_X2_instruct_26 (E : ax_EN G l) : ax_Snd G l ax_Ym M_X2_instruct 26 (S_push (.int (26)) 28) := k_bipush dX2_instruct_26 rfl
theorem r_X2_instruct_28 (E : ax_EN G l) : ax_Snd G l ax_Ym M_X2_instruct 28 (S_if2 (fun x y => decide (x ≤ y)) 40 31) := k_icmp_le dX2_instruct_28 rfl
theorem r_X2_instruct_31 (E : ax_EN G l) : ax_Snd G l ax_Ym M_X2_instruct 31 (S_new 34 [.null] 6 34) := k_new (en_F E) (mk_34 E) q2029 dX2_instruct_31
theorem r_X2_instruct_34 (E : ax_EN G l) : ax_Snd G l ax_Ym M_X2_instruct 34 (S_dup 35) := k_dup dX2_instruct_34
theorem r_X2_instruct_35 (E : ax_EN G l) : ax_Snd G l ax_Ym M_X2_instruct 35 (S_iload 3 36) := k_iload_n dX2_instruct_35 rfl
theorem r_X2_instruct_36 (E : ax_EN G l) : ax_Snd G l ax_Ym M_X2_instruct 36 (S_isp 363 1 39 hd_0) := k_isp (en_F E) (ax_ok0 E rfl) ((ev_i y_X24_init q2179 q2180 q168 q2181 nm_X24_init rfl (Nat.le_of_ble_eq_true rfl) dX2_instruct_36) : ax_EvI G l ax_Ym M_X2_instruct 36 363 1 3)
theorem r_X2_instruct_39 (E : ax_EN G l) : ax_Snd G l ax_Ym M_X2_instruct 39 (S_athrow hd_0) := k_athrow (en_F E) (ax_ok0 E rfl) dX2_instruct_39
theorem r_X2_instruct_40 (E : ax_EN G l) : ax_Snd G l ax_Ym M_X2_instruct 40 (S_push (.int (12)) 42) := k_bipush dX2_instruct_40 rfl
theorem r_X2_instruct_42 (E : ax_EN G l) : ax_Snd G l ax_Ym M_X2_instruct 42 (S_iload 2 43) := k_iload_n dX2_instruct_42 rfl
theorem r_X2_instruct_43 (E : ax_EN G l) : ax_Snd G l ax_Ym M_X2_instruct 43 (S_push (.int (2)) 44) := k_iconst dX2_instruct_43 rfl
theorem r_X2_instruct_44 (E : ax_EN G l) : ax_Snd G l ax_Ym M_X2_instruct 44 (S_i2 (fun x y => x >>> (y &&& 31)) 45) := k_ishr dX2_instruct_44
theorem r_X2_instruct_45 (E : ax_EN G l) : ax_Snd G l ax_Ym M_X2_instruct 45 (S_push (.int (3)) 46) := k_iconst dX2_instruct_45 rfl
theorem r_X2_instruct_46 (E : ax_EN G l) : ax_Snd G l ax_Ym M_X2_instruct 46 (S_i2 (fun x y => x &&& y) 47) := k_iand dX2_instruct_46
theorem r_X2_instruct_47 (E : ax_EN G l) : ax_Snd G l ax_Ym M_X2_instruct 47 (S_i2 (fun x y => x + y) 48) := k_iadd dX2_instruct_47
theorem r_X2_instruct_48 (E : ax_EN G l) : ax_Snd G l ax_Ym M_X2_instruct 48 (S_istore 4 50) := k_istore dX2_instruct_48 (Nat.le_of_ble_eq_true rfl)
theorem r_X2_instruct_50 (E : ax_EN G l) : ax_Snd G l ax_Ym M_X2_instruct 50 (S_push (.int (12)) 52) := k_bipush dX2_instruct_50 rfl
theorem r_X2_instruct_52 (E : ax_EN G l) : ax_Snd G l ax_Ym M_X2_instruct 52 (S_iload 2 53) := k_iload_n dX2_instruct_52 rfl
theorem r_X2_instruct_53 (E : ax_EN G l) : ax_Snd G l ax_Ym M_X2_instruct 53 (S_push (.int (3)) 54) := k_iconst dX2_instruct_53 rfl
theorem r_X2_instruct_54 (E : ax_EN G l) : ax_Snd G l ax_Ym M_X2_instruct 54 (S_i2 (fun x y => x &&& y) 55) := k_iand dX2_instruct_54
theorem r_X2_instruct_55 (E : ax_EN G l) : ax_Snd G l ax_Ym M_X2_instruct 55 (S_i2 (fun x y => x + y) 56) := k_iadd dX2_instruct_55
theorem r_X2_instruct_56 (E : ax_EN G l) : ax_Snd G l ax_Ym M_X2_instruct 56 (S_istore 5 58) := k_istore dX2_instruct_56 (Nat.le_of_ble_eq_true rfl)
theorem r_X2_instruct_58 (E : ax_EN G l) : ax_Snd G l ax_Ym M_X2_instruct 58 (S_iload 4 60) := k_iload dX2_instruct_58
theorem r_X2_instruct_60 (E : ax_EN G l) : ax_Snd G l ax_Ym M_X2_instruct 60 (S_iload 5 62) := k_iload dX2_instruct_60
theorem r_X2_instruct_62 (E : ax_EN G l) : ax_Snd G l ax_Ym M_X2_instruct 62 (S_if2 (fun x y => decide (¬ x = y)) 74 65) := k_icmp_ne dX2_instruct_62 rfl
theorem r_X2_instruct_65 (E : ax_EN G l) : ax_Snd G l ax_Ym M_X2_instruct 65 (S_aload 0 66) := k_aload_n dX2_instruct_65 rfl
theorem r_X2_instruct_66 (E : ax_EN G l) : ax_Snd G l ax_Ym M_X2_instruct 66 (S_getf [(29, 0)] 69) := k_getf (en_F E) (ax_fes_cons (fe_158 E) ax_fes_nil) q283 dX2_instruct_66
theorem r_X2_instruct_69 (E : ax_EN G l) : ax_Snd G l ax_Ym M_X2_instruct 69 (S_iload 1 70) := k_iload_n dX2_instruct_69 rfl
theorem r_X2_instruct_70 (E : ax_EN G l) : ax_Snd G l ax_Ym M_X2_instruct 70 (S_iald 0 71) := k_iald (en_F E) dX2_instruct_70
theorem r_X2_instruct_71 (E : ax_EN G l) : ax_Snd G l ax_Ym M_X2_instruct 71 (S_goto 92) := k_goto dX2_instruct_71 rfl
theorem r_X2_instruct_74 (E : ax_EN G l) : ax_Snd G l ax_Ym M_X2_instruct 74 (S_aload 0 75) := k_aload_n dX2_instruct_74 rfl
theorem r_X2_instruct_75 (E : ax_EN G l) : ax_Snd G l ax_Ym M_X2_instruct 75 (S_getf [(29, 0)] 78) := k_getf (en_F E) (ax_fes_cons (fe_158 E) ax_fes_nil) q283 dX2_instruct_75
theorem r_X2_instruct_78 (E : ax_EN G l) : ax_Snd G l ax_Ym M_X2_instruct 78 (S_iload 5 80) := k_iload dX2_instruct_78
theorem r_X2_instruct_80 (E : ax_EN G l) : ax_Snd G l ax_Ym M_X2_instruct 80 (S_iald 0 81) := k_iald (en_F E) dX2_instruct_80
theorem r_X2_instruct_81 (E : ax_EN G l) : ax_Snd G l ax_Ym M_X2_instruct 81 (S_aload 0 82) := k_aload_n dX2_instruct_81 rfl
theorem r_X2_instruct_82 (E : ax_EN G l) : ax_Snd G l ax_Ym M_X2_instruct 82 (S_getf [(29, 0)] 85) := k_getf (en_F E) (ax_fes_cons (fe_158 E) ax_fes_nil) q283 dX2_instruct_82
theorem r_X2_instruct_85 (E : ax_EN G l) : ax_Snd G l ax_Ym M_X2_instruct 85 (S_iload 1 86) := k_iload_n dX2_instruct_85 rfl
theorem r_X2_instruct_86 (E : ax_EN G l) : ax_Snd G l ax_Ym M_X2_instruct 86 (S_iald 0 87) := k_iald (en_F E) dX2_instruct_86
theorem r_X2_instruct_87 (E : ax_EN G l) : ax_Snd G l ax_Ym M_X2_instruct 87 (S_i2 (fun x y => x + y) 88) := k_iadd dX2_instruct_87
theorem r_X2_instruct_88 (E : ax_EN G l) : ax_Snd G l ax_Ym M_X2_instruct 88 (S_i2l 89) := k_i2l dX2_instruct_88
theorem r_X2_instruct_89 (E : ax_EN G l) : ax_Snd G l ax_Ym M_X2_instruct 89 (S_is 214 1 92 hd_0) := k_is (en_F E) (ax_ok0 E rfl) ((ev_sN (en_B E) y_X1_cut q1979 q930 q118 q931 nm_X1_cut (Nat.le_of_ble_eq_true rfl) dX2_instruct_89) : ax_EvS G l ax_Ym M_X2_instruct 89 214 1 3)
theorem r_X2_instruct_92 (E : ax_EN G l) : ax_Snd G l ax_Ym M_X2_instruct 92 (S_istore 6 94) := k_istore dX2_instruct_92 (Nat.le_of_ble_eq_true rfl)
theorem r_X2_instruct_94 (E : ax_EN G l) : ax_Snd G l ax_Ym M_X2_instruct 94 (S_aload 0 95) := k_aload_n dX2_instruct_94 rfl
theorem r_X2_instruct_95 (E : ax_EN G l) : ax_Snd G l ax_Ym M_X2_instruct 95 (S_getf [(29, 0)] 98) := k_getf (en_F E) (ax_fes_cons (fe_158 E) ax_fes_nil) q283 dX2_instruct_95
theorem r_X2_instruct_98 (E : ax_EN G l) : ax_Snd G l ax_Ym M_X2_instruct 98 (S_push (.int (3)) 99) := k_iconst dX2_instruct_98 rfl
theorem r_X2_instruct_99 (E : ax_EN G l) : ax_Snd G l ax_Ym M_X2_instruct 99 (S_iald 0 100) := k_iald (en_F E) dX2_instruct_99
theorem r_X2_instruct_100 (E : ax_EN G l) : ax_Snd G l ax_Ym M_X2_instruct 100 (S_push (.int (2)) 101) := k_iconst dX2_instruct_100 rfl
theorem r_X2_instruct_101 (E : ax_EN G l) : ax_Snd G l ax_Ym M_X2_instruct 101 (S_i2 (fun x y => x + y) 102) := k_iadd dX2_instruct_101
theorem r_X2_instruct_102 (E : ax_EN G l) : ax_Snd G l ax_Ym M_X2_instruct 102 (S_istore 7 104) := k_istore dX2_instruct_102 (Nat.le_of_ble_eq_true rfl)
theorem r_X2_instruct_104 (E : ax_EN G l) : ax_Snd G l ax_Ym M_X2_instruct 104 (S_iload 3 105) := k_iload_n dX2_instruct_104 rfl
theorem r_X2_instruct_105 (E : ax_EN G l) : ax_Snd G l ax_Ym M_X2_instruct 105 (S_push (.int (4)) 106) := k_iconst dX2_instruct_105 rfl
theorem r_X2_instruct_106 (E : ax_EN G l) : ax_Snd G l ax_Ym M_X2_instruct 106 (S_if2 (fun x y => decide (x < y)) 127 109) := k_icmp_lt dX2_instruct_106 rfl
theorem r_X2_instruct_109 (E : ax_EN G l) : ax_Snd G l ax_Ym M_X2_instruct 109 (S_iload 3 110) := k_iload_n dX2_instruct_109 rfl
theorem r_X2_instruct_110 (E : ax_EN G l) : ax_Snd G l ax_Ym M_X2_instruct 110 (S_push (.int (11)) 112) := k_bipush dX2_instruct_110 rfl
theorem r_X2_instruct_112 (E : ax_EN G l) : ax_Snd G l ax_Ym M_X2_instruct 112 (S_if2 (fun x y => decide (y < x)) 127 115) := k_icmp_gt dX2_instruct_112 rfl
theorem r_X2_instruct_115 (E : ax_EN G l) : ax_Snd G l ax_Ym M_X2_instruct 115 (S_aload 0 116) := k_aload_n dX2_instruct_115 rfl
theorem r_X2_instruct_116 (E : ax_EN G l) : ax_Snd G l ax_Ym M_X2_instruct 116 (S_iload 3 117) := k_iload_n dX2_instruct_116 rfl
theorem r_X2_instruct_117 (E : ax_EN G l) : ax_Snd G l ax_Ym M_X2_instruct 117 (S_iload 4 119) := k_iload dX2_instruct_117
theorem r_X2_instruct_119 (E : ax_EN G l) : ax_Snd G l ax_Ym M_X2_instruct 119 (S_iload 6 121) := k_iload dX2_instruct_119
theorem r_X2_instruct_121 (E : ax_EN G l) : ax_Snd G l ax_Ym M_X2_instruct 121 (S_iv [(29, 328)] 3 124 hd_0) := k_iv (en_F E) (ax_ok0 E rfl) (ax_Evs_cons ((ev_v (en_c E (k := 29) rfl) rfl y_X2_reckon q2191 q2193 qs37 q122 q2194 nm_X2_reckon (Nat.le_of_ble_eq_true rfl) dX2_instruct_121) : ax_EvV G l ax_Ym M_X2_instruct 121 3 3 29 328) ax_Evs_nil)
theorem r_X2_instruct_124 (E : ax_EN G l) : ax_Snd G l ax_Ym M_X2_instruct 124 (S_goto 162) := k_goto dX2_instruct_124 rfl
theorem r_X2_instruct_127 (E : ax_EN G l) : ax_Snd G l ax_Ym M_X2_instruct 127 (S_iload 3 128) := k_iload_n dX2_instruct_127 rfl
theorem r_X2_instruct_128 (E : ax_EN G l) : ax_Snd G l ax_Ym M_X2_instruct 128 (S_push (.int (18)) 130) := k_bipush dX2_instruct_128 rfl
theorem r_X2_instruct_130 (E : ax_EN G l) : ax_Snd G l ax_Ym M_X2_instruct 130 (S_if2 (fun x y => decide (y < x)) 149 133) := k_icmp_gt dX2_instruct_130 rfl
theorem r_X2_instruct_133 (E : ax_EN G l) : ax_Snd G l ax_Ym M_X2_instruct 133 (S_aload 0 134) := k_aload_n dX2_instruct_133 rfl
theorem r_X2_instruct_134 (E : ax_EN G l) : ax_Snd G l ax_Ym M_X2_instruct 134 (S_iload 3 135) := k_iload_n dX2_instruct_134 rfl
theorem r_X2_instruct_135 (E : ax_EN G l) : ax_Snd G l ax_Ym M_X2_instruct 135 (S_iload 4 137) := k_iload dX2_instruct_135
theorem r_X2_instruct_137 (E : ax_EN G l) : ax_Snd G l ax_Ym M_X2_instruct 137 (S_iload 6 139) := k_iload dX2_instruct_137
theorem r_X2_instruct_139 (E : ax_EN G l) : ax_Snd G l ax_Ym M_X2_instruct 139 (S_iload 7 141) := k_iload dX2_instruct_139
theorem r_X2_instruct_141 (E : ax_EN G l) : ax_Snd G l ax_Ym M_X2_instruct 141 (S_iv [(29, 329)] 4 144 hd_0) := k_iv (en_F E) (ax_ok0 E rfl) (ax_Evs_cons ((ev_v (en_c E (k := 29) rfl) rfl y_X2_move q2196 q2198 qs38 q122 q2199 nm_X2_move (Nat.le_of_ble_eq_true rfl) dX2_instruct_141) : ax_EvV G l ax_Ym M_X2_instruct 141 4 3 29 329) ax_Evs_nil)
theorem r_X2_instruct_144 (E : ax_EN G l) : ax_Snd G l ax_Ym M_X2_instruct 144 (S_istore 7 146) := k_istore dX2_instruct_144 (Nat.le_of_ble_eq_true rfl)
theorem r_X2_instruct_146 (E : ax_EN G l) : ax_Snd G l ax_Ym M_X2_instruct 146 (S_goto 162) := k_goto dX2_instruct_146 rfl
theorem r_X2_instruct_149 (E : ax_EN G l) : ax_Snd G l ax_Ym M_X2_instruct 149 (S_aload 0 150) := k_aload_n dX2_instruct_149 rfl
theorem r_X2_instruct_150 (E : ax_EN G l) : ax_Snd G l ax_Ym M_X2_instruct 150 (S_iload 3 151) := k_iload_n dX2_instruct_150 rfl
theorem r_X2_instruct_151 (E : ax_EN G l) : ax_Snd G l ax_Ym M_X2_instruct 151 (S_iload 4 153) := k_iload dX2_instruct_151
theorem r_X2_instruct_153 (E : ax_EN G l) : ax_Snd G l ax_Ym M_X2_instruct 153 (S_iload 6 155) := k_iload dX2_instruct_153
theorem r_X2_instruct_155 (E : ax_EN G l) : ax_Snd G l ax_Ym M_X2_instruct 155 (S_iload 7 157) := k_iload dX2_instruct_155
theorem r_X2_instruct_157 (E : ax_EN G l) : ax_Snd G l ax_Ym M_X2_instruct 157 (S_iv [(29, 332)] 4 160 hd_0) := k_iv (en_F E) (ax_ok0 E rfl) (ax_Evs_cons ((ev_v (en_c E (k := 29) rfl) rfl y_X2_serve q2208 q2210 qs41 q122 q2211 nm_X2_serve (Nat.le_of_ble_eq_true rfl) dX2_instruct_157) : ax_EvV G l ax_Ym M_X2_instruct 157 4 3 29 332) ax_Evs_nil)
theorem r_X2_instruct_160 (E : ax_EN G l) : ax_Snd G l ax_Ym M_X2_instruct 160 (S_istore 7 162) := k_istore dX2_instruct_160 (Nat.le_of_ble_eq_true rfl)
theorem r_X2_instruct_162 (E : ax_EN G l) : ax_Snd G l ax_Ym M_X2_instruct 162 (S_aload 0 163) := k_aload_n dX2_instruct_162 rfl
theorem r_X2_instruct_163 (E : ax_EN G l) : ax_Snd G l ax_Ym M_X2_instruct 163 (S_push (.int (3)) 164) := k_iconst dX2_instruct_163 rfl
theorem r_X2_instruct_164 (E : ax_EN G l) : ax_Snd G l ax_Ym M_X2_instruct 164 (S_iload 7 166) := k_iload dX2_instruct_164
theorem r_X2_instruct_166 (E : ax_EN G l) : ax_Snd G l ax_Ym M_X2_instruct 166 (S_iv [(29, 320)] 2 169 hd_0) := k_iv (en_F E) (ax_ok0 E rfl) (ax_Evs_cons ((ev_v (en_c E (k := 29) rfl) rfl y_X2_set q2095 q2097 qs30 q122 q2098 nm_X2_set (Nat.le_of_ble_eq_true rfl) dX2_instruct_166) : ax_EvV G l ax_Ym M_X2_instruct 166 2 3 29 320) ax_Evs_nil)
theorem r_X2_instruct_169 (E : ax_EN G l) : ax_Snd G l ax_Ym M_X2_instruct 169 (S_ret) := k_ret dX2_instruct_169 rfl
theorem mt_X2_instruct (E : ax_EN G l) : ax_mt G l ax_Ym (8, P_X2_instruct) (ax_Ym 326) := ⟨M_X2_instruct, yX2_instruct, ⟨rfl, by decide +kernel, rfl, (fun h => by cases h), Or.inl ⟨rfl, rfl⟩⟩, fun pc => (ax_sn_node (ax_sn_node (ax_sn_node (ax_sn_node (ax_sn_node (ax_sn_node (ax_sn_node (ax_sn_leaf (r_X2_instruct_169 E)) (ax_sn_leaf (r_X2_instruct_166 E))) (ax_sn_node (ax_sn_leaf (r_X2_instruct_164 E)) (ax_sn_leaf (r_X2_instruct_163 E)))) (ax_sn_node (ax_sn_node (ax_sn_leaf (r_X2_instruct_162 E)) (ax_sn_leaf (r_X2_instruct_160 E))) (ax_sn_leaf (r_X2_instruct_157 E)))) (ax_sn_node (ax_sn_node (ax_sn_node (ax_sn_leaf (r_X2_instruct_155 E)) (ax_sn_leaf (r_X2_instruct_153 E))) (ax_sn_leaf (r_X2_instruct_151 E))) (ax_sn_node (ax_sn_node (ax_sn_leaf (r_X2_instruct_150 E)) (ax_sn_leaf (r_X2_instruct_149 E))) (ax_sn_leaf (r_X2_instruct_146 E))))) (ax_sn_node (ax_sn_node (ax_sn_node (ax_sn_node (ax_sn_leaf (r_X2_instruct_144 E)) (ax_sn_leaf (r_X2_instruct_141 E))) (ax_sn_node (ax_sn_leaf (r_X2_instruct_139 E)) (ax_sn_leaf (r_X2_instruct_137 E)))) (ax_sn_node (ax_sn_node (ax_sn_leaf (r_X2_instruct_135 E)) (ax_sn_leaf (r_X2_instruct_134 E))) (ax_sn_leaf (r_X2_instruct_133 E)))) (ax_sn_node (ax_sn_node (ax_sn_node (ax_sn_leaf (r_X2_instruct_130 E)) (ax_sn_leaf (r_X2_instruct_128 E))) (ax_sn_leaf (r_X2_instruct_127 E))) (ax_sn_node (ax_sn_node (ax_sn_leaf (r_X2_instruct_124 E)) (ax_sn_leaf (r_X2_instruct_121 E))) (ax_sn_leaf (r_X2_instruct_119 E)))))) (ax_sn_node (ax_sn_node (ax_sn_node (ax_sn_node (ax_sn_node (ax_sn_leaf (r_X2_instruct_117 E)) (ax_sn_leaf (r_X2_instruct_116 E))) (ax_sn_node (ax_sn_leaf (r_X2_instruct_115 E)) (ax_sn_leaf (r_X2_instruct_112 E)))) (ax_sn_node (ax_sn_node (ax_sn_leaf (r_X2_instruct_110 E)) (ax_sn_leaf (r_X2_instruct_109 E))) (ax_sn_leaf (r_X2_instruct_106 E)))) (ax_sn_node (ax_sn_node (ax_sn_node (ax_sn_leaf (r_X2_instruct_105 E)) (ax_sn_leaf (r_X2_instruct_104 E))) (ax_sn_leaf (r_X2_instruct_102 E))) (ax_sn_node (ax_sn_node (ax_sn_leaf (r_X2_instruct_101 E)) (ax_sn_leaf (r_X2_instruct_100 E))) (ax_sn_leaf (r_X2_instruct_99 E))))) (ax_sn_node (ax_sn_node (ax_sn_node (ax_sn_node (ax_sn_leaf (r_X2_instruct_98 E)) (ax_sn_leaf (r_X2_instruct_95 E))) (ax_sn_node (ax_sn_leaf (r_X2_instruct_94 E)) (ax_sn_leaf (r_X2_instruct_92 E)))) (ax_sn_node (ax_sn_node (ax_sn_leaf (r_X2_instruct_89 E)) (ax_sn_leaf (r_X2_instruct_88 E))) (ax_sn_leaf (r_X2_instruct_87 E)))) (ax_sn_node (ax_sn_node (ax_sn_node (ax_sn_leaf (r_X2_instruct_86 E)) (ax_sn_leaf (r_X2_instruct_85 E))) (ax_sn_leaf (r_X2_instruct_82 E))) (ax_sn_node (ax_sn_node (ax_sn_leaf (r_X2_instruct_81 E)) (ax_sn_leaf (r_X2_instruct_80 E))) (ax_sn_leaf (r_X2_instruct_78 E))))))) (ax_sn_node (ax_sn_node (ax_sn_node (ax_sn_node (ax_sn_node (ax_sn_node (ax_sn_leaf (r_X2_instruct_75 E)) (ax_sn_leaf (r_X2_instruct_74 E))) (ax_sn_node (ax_sn_leaf (r_X2_instruct_71 E)) (ax_sn_leaf (r_X2_instruct_70 E)))) (ax_sn_node (ax_sn_node (ax_sn_leaf (r_X2_instruct_69 E)) (ax_sn_leaf (r_X2_instruct_66 E))) (ax_sn_leaf (r_X2_instruct_65 E)))) (ax_sn_node (ax_sn_node (ax_sn_node (ax_sn_leaf (r_X2_instruct_62 E)) (ax_sn_leaf (r_X2_instruct_60 E))) (ax_sn_leaf (r_X2_instruct_58 E))) (ax_sn_node (ax_sn_node (ax_sn_leaf (r_X2_instruct_56 E)) (ax_sn_leaf (r_X2_instruct_55 E))) (ax_sn_leaf (r_X2_instruct_54 E))))) (ax_sn_node (ax_sn_node (ax_sn_node (ax_sn_node (ax_sn_leaf (r_X2_instruct_53 E)) (ax_sn_leaf (r_X2_instruct_52 E))) (ax_sn_node (ax_sn_leaf (r_X2_instruct_50 E)) (ax_sn_leaf (r_X2_instruct_48 E)))) (ax_sn_node (ax_sn_node (ax_sn_leaf (r_X2_instruct_47 E)) (ax_sn_leaf (r_X2_instruct_46 E))) (ax_sn_leaf (r_X2_instruct_45 E)))) (ax_sn_node (ax_sn_node (ax_sn_node (ax_sn_leaf (r_X2_instruct_44 E)) (ax_sn_leaf (r_X2_instruct_43 E))) (ax_sn_leaf (r_X2_instruct_42 E))) (ax_sn_node (ax_sn_node (ax_sn_leaf (r_X2_instruct_40 E)) (ax_sn_leaf (r_X2_instruct_39 E))) (ax_sn_leaf (r_X2_instruct_36 E)))))) (ax_sn_node (ax_sn_node (ax_sn_node (ax_sn_node (ax_sn_node (ax_sn_leaf (r_X2_instruct_35 E)) (ax_sn_leaf (r_X2_instruct_34 E))) (ax_sn_node (ax_sn_leaf (r_X2_instruct_31 E)) (ax_sn_leaf (r_X2_instruct_28 E)))) (ax_sn_node (ax_sn_node (ax_sn_leaf (r_X2_instruct_26 E)) (ax_sn_leaf (r_X2_instruct_25 E))) (ax_sn_leaf (r_X2_instruct_24 E)))) (ax_sn_node (ax_sn_node (ax_sn_node (ax_sn_leaf (r_X2_instruct_23 E)) (ax_sn_leaf (r_X2_instruct_22 E))) (ax_sn_leaf (r_X2_instruct_21 E))) (ax_sn_node (ax_sn_node (ax_sn_leaf (r_X2_instruct_20 E)) (ax_sn_leaf (r_X2_instruct_19 E))) (ax_sn_leaf (r_X2_instruct_18 E))))) (ax_sn_node (ax_sn_node (ax_sn_node (ax_sn_node (ax_sn_leaf (r_X2_instruct_17 E)) (ax_sn_leaf (r_X2_instruct_16 E))) (ax_sn_leaf (r_X2_instruct_13 E))) (ax_sn_node (ax_sn_node (ax_sn_leaf (r_X2_instruct_12 E)) (ax_sn_leaf (r_X2_instruct_11 E))) (ax_sn_leaf (r_X2_instruct_8 E)))) (ax_sn_node (ax_sn_node (ax_sn_node (ax_sn_leaf (r_X2_instruct_7 E)) (ax_sn_leaf (r_X2_instruct_6 E))) (ax_sn_leaf (r_X2_instruct_5 E))) (ax_sn_node (ax_sn_node (ax_sn_leaf (r_X2_instruct_4 E)) (ax_sn_leaf (r_X2_instruct_1 E))) (ax_sn_leaf (r_X2_instruct_0 E))))))))⟩
theorem r_X2_address_0 (E : ax_EN G l) : ax_Snd G l ax_Ym M_X2_address 0 (S_iload 0 1) := k_iload_n dX2_address_0 rfl
theorem r_X2_address_1 (E : ax_EN G l) : ax_Snd G l ax_Ym M_X2_address 1 (S_push (.int (256)) 4) := k_sipush dX2_address_1 rfl
theorem r_X2_address_4 (E : ax_EN G l) : ax_Snd G l ax_Ym M_X2_address 4 (S_if2 (fun x y => decide (x < y)) 16 7) := k_icmp_lt dX2_address_4 rfl
theorem r_X2_address_7 (E : ax_EN G l) : ax_Snd G l ax_Ym M_X2_address 7 (S_new 33 [.null] 6 10) := k_new (en_F E) (mk_33 E) q2028 dX2_address_7
theorem r_X2_address_10 (E : ax_EN G l) : ax_Snd G l ax_Ym M_X2_address 10 (S_dup 11) := k_dup dX2_address_10
theorem r_X2_address_11 (E : ax_EN G l) : ax_Snd G l ax_Ym M_X2_address 11 (S_iload 0 12) := k_iload_n dX2_address_11 rfl
theorem r_X2_address_12 (E : ax_EN G l) : ax_Snd G l ax_Ym M_X2_address 12 (S_isp 362 1 15 hd_0) := k_isp (en_F E) (ax_ok0 E rfl) ((ev_i y_X23_init q2159 q2160 q167 q2161 nm_X23_init rfl (Nat.le_of_ble_eq_true rfl) dX2_address_12) : ax_EvI G l ax_Ym M_X2_address 12 362 1 3)
theorem r_X2_address_15 (E : ax_EN G l) : ax_Snd G l ax_Ym M_X2_address 15 (S_athrow hd_0) := k_athrow (en_F E) (ax_ok0 E rfl) dX2_address_15
theorem r_X2_address_16 (E : ax_EN G l) : ax_Snd G l ax_Ym M_X2_address 16 (S_push (.int (108)) 18) := k_bipush dX2_address_16 rfl
theorem r_X2_address_18 (E : ax_EN G l) : ax_Snd G l ax_Ym M_X2_address 18 (S_iload 0 19) := k_iload_n dX2_address_18 rfl
theorem r_X2_address_19 (E : ax_EN G l) : ax_Snd G l ax_Ym M_X2_address 19 (S_i2 (fun x y => x + y) 20) := k_iadd dX2_address_19
theorem r_X2_address_20 (E : ax_EN G l) : ax_Snd G l ax_Ym M_X2_address 20 (S_iret) := k_iret dX2_address_20 rfl
theorem mt_X2_address (E : ax_EN G l) : ax_mt G l ax_Ym (1, P_X2_address) (ax_Ym 327) := ⟨M_X2_address, yX2_address, ⟨rfl, by decide +kernel, rfl, (fun h => by cases h), Or.inl ⟨rfl, rfl⟩⟩, fun pc => (ax_sn_node (ax_sn_node (ax_sn_node (ax_sn_node (ax_sn_leaf (r_X2_address_20 E)) (ax_sn_leaf (r_X2_address_19 E))) (ax_sn_leaf (r_X2_address_18 E))) (ax_sn_node (ax_sn_node (ax_sn_leaf (r_X2_address_16 E)) (ax_sn_leaf (r_X2_address_15 E))) (ax_sn_leaf (r_X2_address_12 E)))) (ax_sn_node (ax_sn_node (ax_sn_node (ax_sn_leaf (r_X2_address_11 E)) (ax_sn_leaf (r_X2_address_10 E))) (ax_sn_leaf (r_X2_address_7 E))) (ax_sn_node (ax_sn_node (ax_sn_leaf (r_X2_address_4 E)) (ax_sn_leaf (r_X2_address_1 E))) (ax_sn_leaf (r_X2_address_0 E)))))⟩
theorem r_X2_reckon_0 (E : ax_EN G l) : ax_Snd G l ax_Ym M_X2_reckon 0 (S_aload 0 1) := k_aload_n dX2_reckon_0 rfl
theorem r_X2_reckon_1 (E : ax_EN G l) : ax_Snd G l ax_Ym M_X2_reckon 1 (S_getf [(29, 0)] 4) := k_getf (en_F E) (ax_fes_cons (fe_158 E) ax_fes_nil) q283 dX2_reckon_1
theorem r_X2_reckon_4 (E : ax_EN G l) : ax_Snd G l ax_Ym M_X2_reckon 4 (S_iload 2 5) := k_iload_n dX2_reckon_4 rfl
theorem r_X2_reckon_5 (E : ax_EN G l) : ax_Snd G l ax_Ym M_X2_reckon 5 (S_iald 0 6) := k_iald (en_F E) dX2_reckon_5
theorem r_X2_reckon_6 (E : ax_EN G l) : ax_Snd G l ax_Ym M_X2_reckon 6 (S_i2l 7) := k_i2l dX2_reckon_6
theorem r_X2_reckon_7 (E : ax_EN G l) : ax_Snd G l ax_Ym M_X2_reckon 7 (S_lstore 4 9) := k_lstore dX2_reckon_7 (Nat.le_of_ble_eq_true rfl)
theorem r_X2_reckon_9 (E : ax_EN G l) : ax_Snd G l ax_Ym M_X2_reckon 9 (S_push (.int (0)) 10) := k_iconst dX2_reckon_9 rfl
theorem r_X2_reckon_10 (E : ax_EN G l) : ax_Snd G l ax_Ym M_X2_reckon 10 (S_istore 6 12) := k_istore dX2_reckon_10 (Nat.le_of_ble_eq_true rfl)
theorem r_X2_reckon_12 (E : ax_EN G l) : ax_Snd G l ax_Ym M_X2_reckon 12 (S_iload 1 13) := k_iload_n dX2_reckon_12 rfl
theorem r_X2_reckon_13 (E : ax_EN G l) : ax_Snd G l ax_Ym M_X2_reckon 13 (S_tsw (4) (10) [56, 152, 82, 108, 118, 128, 140] 152) := k_tsw dX2_reckon_13 rfl rfl
theorem r_X2_reckon_56 (E : ax_EN G l) : ax_Snd G l ax_Ym M_X2_reckon 56 (S_lload 4 58) := k_lload dX2_reckon_56
theorem r_X2_reckon_58 (E : ax_EN G l) : ax_Snd G l ax_Ym M_X2_reckon 58 (S_iload 3 59) := k_iload_n dX2_reckon_58 rfl
theorem r_X2_reckon_59 (E : ax_EN G l) : ax_Snd G l ax_Ym M_X2_reckon 59 (S_i2l 60) := k_i2l dX2_reckon_59
theorem r_X2_reckon_60 (E : ax_EN G l) : ax_Snd G l ax_Ym M_X2_reckon 60 (S_l2 (fun x y => x + y) 61) := k_ladd dX2_reckon_60
theorem r_X2_reckon_61 (E : ax_EN G l) : ax_Snd G l ax_Ym M_X2_reckon 61 (S_lstore 4 63) := k_lstore dX2_reckon_61 (Nat.le_of_ble_eq_true rfl)
theorem r_X2_reckon_63 (E : ax_EN G l) : ax_Snd G l ax_Ym M_X2_reckon 63 (S_lload 4 65) := k_lload dX2_reckon_63
theorem r_X2_reckon_65 (E : ax_EN G l) : ax_Snd G l ax_Ym M_X2_reckon 65 (S_push (.long (65535)) 68) := k_ldc2 q2195 dX2_reckon_65
theorem r_X2_reckon_68 (E : ax_EN G l) : ax_Snd G l ax_Ym M_X2_reckon 68 (S_lcmp 69) := k_lcmp dX2_reckon_68
theorem r_X2_reckon_69 (E : ax_EN G l) : ax_Snd G l ax_Ym M_X2_reckon 69 (S_if1 (fun x => decide (x ≤ 0)) 76 72) := k_if_le dX2_reckon_69 rfl
theorem r_X2_reckon_72 (E : ax_EN G l) : ax_Snd G l ax_Ym M_X2_reckon 72 (S_push (.int (1)) 73) := k_iconst dX2_reckon_72 rfl
theorem r_X2_reckon_73 (E : ax_EN G l) : ax_Snd G l ax_Ym M_X2_reckon 73 (S_goto 77) := k_goto dX2_reckon_73 rfl
theorem r_X2_reckon_76 (E : ax_EN G l) : ax_Snd G l ax_Ym M_X2_reckon 76 (S_push (.int (0)) 77) := k_iconst dX2_reckon_76 rfl
theorem r_X2_reckon_77 (E : ax_EN G l) : ax_Snd G l ax_Ym M_X2_reckon 77 (S_istore 6 79) := k_istore dX2_reckon_77 (Nat.le_of_ble_eq_true rfl)
theorem r_X2_reckon_79 (E : ax_EN G l) : ax_Snd G l ax_Ym M_X2_reckon 79 (S_goto 173) := k_goto dX2_reckon_79 rfl
theorem r_X2_reckon_82 (E : ax_EN G l) : ax_Snd G l ax_Ym M_X2_reckon 82 (S_lload 4 84) := k_lload dX2_reckon_82
theorem r_X2_reckon_84 (E : ax_EN G l) : ax_Snd G l ax_Ym M_X2_reckon 84 (S_iload 3 85) := k_iload_n dX2_reckon_84 rfl
theorem r_X2_reckon_85 (E : ax_EN G l) : ax_Snd G l ax_Ym M_X2_reckon 85 (S_i2l 86) := k_i2l dX2_reckon_85
theorem r_X2_reckon_86 (E : ax_EN G l) : ax_Snd G l ax_Ym M_X2_reckon 86 (S_l2 (fun x y => x * y) 87) := k_lmul dX2_reckon_86
theorem r_X2_reckon_87 (E : ax_EN G l) : ax_Snd G l ax_Ym M_X2_reckon 87 (S_lstore 4 89) := k_lstore dX2_reckon_87 (Nat.le_of_ble_eq_true rfl)
theorem r_X2_reckon_89 (E : ax_EN G l) : ax_Snd G l ax_Ym M_X2_reckon 89 (S_lload 4 91) := k_lload dX2_reckon_89
theorem r_X2_reckon_91 (E : ax_EN G l) : ax_Snd G l ax_Ym M_X2_reckon 91 (S_push (.long (65535)) 94) := k_ldc2 q2195 dX2_reckon_91
theorem r_X2_reckon_94 (E : ax_EN G l) : ax_Snd G l ax_Ym M_X2_reckon 94 (S_lcmp 95) := k_lcmp dX2_reckon_94
theorem r_X2_reckon_95 (E : ax_EN G l) : ax_Snd G l ax_Ym M_X2_reckon 95 (S_if1 (fun x => decide (x ≤ 0)) 102 98) := k_if_le dX2_reckon_95 rfl
theorem r_X2_reckon_98 (E : ax_EN G l) : ax_Snd G l ax_Ym M_X2_reckon 98 (S_push (.int (1)) 99) := k_iconst dX2_reckon_98 rfl
theorem r_X2_reckon_99 (E : ax_EN G l) : ax_Snd G l ax_Ym M_X2_reckon 99 (S_goto 103) := k_goto dX2_reckon_99 rfl
theorem r_X2_reckon_102 (E : ax_EN G l) : ax_Snd G l ax_Ym M_X2_reckon 102 (S_push (.int (0)) 103) := k_iconst dX2_reckon_102 rfl
theorem r_X2_reckon_103 (E : ax_EN G l) : ax_Snd G l ax_Ym M_X2_reckon 103 (S_istore 6 105) := k_istore dX2_reckon_103 (Nat.le_of_ble_eq_true rfl)
theorem r_X2_reckon_105 (E : ax_EN G l) : ax_Snd G l ax_Ym M_X2_reckon 105 (S_goto 173) := k_goto dX2_reckon_105 rfl
theorem r_X2_reckon_108 (E : ax_EN G l) : ax_Snd G l ax_Ym M_X2_reckon 108 (S_lload 4 110) := k_lload dX2_reckon_108
theorem r_X2_reckon_110 (E : ax_EN G l) : ax_Snd G l ax_Ym M_X2_reckon 110 (S_iload 3 111) := k_iload_n dX2_reckon_110 rfl
theorem r_X2_reckon_111 (E : ax_EN G l) : ax_Snd G l ax_Ym M_X2_reckon 111 (S_i2l 112) := k_i2l dX2_reckon_111
theorem r_X2_reckon_112 (E : ax_EN G l) : ax_Snd G l ax_Ym M_X2_reckon 112 (S_l2 (fun x y => x &&& y) 113) := k_land dX2_reckon_112
theorem r_X2_reckon_113 (E : ax_EN G l) : ax_Snd G l ax_Ym M_X2_reckon 113 (S_lstore 4 115) := k_lstore dX2_reckon_113 (Nat.le_of_ble_eq_true rfl)
theorem r_X2_reckon_115 (E : ax_EN G l) : ax_Snd G l ax_Ym M_X2_reckon 115 (S_goto 173) := k_goto dX2_reckon_115 rfl
theorem r_X2_reckon_118 (E : ax_EN G l) : ax_Snd G l ax_Ym M_X2_reckon 118 (S_lload 4 120) := k_lload dX2_reckon_118
theorem r_X2_reckon_120 (E : ax_EN G l) : ax_Snd G l ax_Ym M_X2_reckon 120 (S_iload 3 121) := k_iload_n dX2_reckon_120 rfl
theorem r_X2_reckon_121 (E : ax_EN G l) : ax_Snd G l ax_Ym M_X2_reckon 121 (S_i2l 122) := k_i2l dX2_reckon_121
theorem r_X2_reckon_122 (E : ax_EN G l) : ax_Snd G l ax_Ym M_X2_reckon 122 (S_l2 (fun x y => x ^^^ y) 123) := k_lxor dX2_reckon_122
theorem r_X2_reckon_123 (E : ax_EN G l) : ax_Snd G l ax_Ym M_X2_reckon 123 (S_lstore 4 125) := k_lstore dX2_reckon_123 (Nat.le_of_ble_eq_true rfl)
theorem r_X2_reckon_125 (E : ax_EN G l) : ax_Snd G l ax_Ym M_X2_reckon 125 (S_goto 173) := k_goto dX2_reckon_125 rfl
theorem r_X2_reckon_128 (E : ax_EN G l) : ax_Snd G l ax_Ym M_X2_reckon 128 (S_lload 4 130) := k_lload dX2_reckon_128
theorem r_X2_reckon_130 (E : ax_EN G l) : ax_Snd G l ax_Ym M_X2_reckon 130 (S_iload 3 131) := k_iload_n dX2_reckon_130 rfl
theorem r_X2_reckon_131 (E : ax_EN G l) : ax_Snd G l ax_Ym M_X2_reckon 131 (S_push (.int (16)) 133) := k_bipush dX2_reckon_131 rfl
theorem r_X2_reckon_133 (E : ax_EN G l) : ax_Snd G l ax_Ym M_X2_reckon 133 (S_id (fun x y => x - x / y * y) 134) := k_irem dX2_reckon_133
theorem r_X2_reckon_134 (E : ax_EN G l) : ax_Snd G l ax_Ym M_X2_reckon 134 (S_lsh (fun x y => x <<< (y.toInt64 &&& 63)) 135) := k_lshl dX2_reckon_134
theorem r_X2_reckon_135 (E : ax_EN G l) : ax_Snd G l ax_Ym M_X2_reckon 135 (S_lstore 4 137) := k_lstore dX2_reckon_135 (Nat.le_of_ble_eq_true rfl)
theorem r_X2_reckon_137 (E : ax_EN G l) : ax_Snd G l ax_Ym M_X2_reckon 137 (S_goto 173) := k_goto dX2_reckon_137 rfl
theorem r_X2_reckon_140 (E : ax_EN G l) : ax_Snd G l ax_Ym M_X2_reckon 140 (S_lload 4 142) := k_lload dX2_reckon_140
theorem r_X2_reckon_142 (E : ax_EN G l) : ax_Snd G l ax_Ym M_X2_reckon 142 (S_iload 3 143) := k_iload_n dX2_reckon_142 rfl
theorem r_X2_reckon_143 (E : ax_EN G l) : ax_Snd G l ax_Ym M_X2_reckon 143 (S_push (.int (16)) 145) := k_bipush dX2_reckon_143 rfl
theorem r_X2_reckon_145 (E : ax_EN G l) : ax_Snd G l ax_Ym M_X2_reckon 145 (S_id (fun x y => x - x / y * y) 146) := k_irem dX2_reckon_145
theorem r_X2_reckon_146 (E : ax_EN G l) : ax_Snd G l ax_Ym M_X2_reckon 146 (S_lsh (fun x y => x >>> (y.toInt64 &&& 63)) 147) := k_lshr dX2_reckon_146
theorem r_X2_reckon_147 (E : ax_EN G l) : ax_Snd G l ax_Ym M_X2_reckon 147 (S_lstore 4 149) := k_lstore dX2_reckon_147 (Nat.le_of_ble_eq_true rfl)
theorem r_X2_reckon_149 (E : ax_EN G l) : ax_Snd G l ax_Ym M_X2_reckon 149 (S_goto 173) := k_goto dX2_reckon_149 rfl
theorem r_X2_reckon_152 (E : ax_EN G l) : ax_Snd G l ax_Ym M_X2_reckon 152 (S_lload 4 154) := k_lload dX2_reckon_152
theorem r_X2_reckon_154 (E : ax_EN G l) : ax_Snd G l ax_Ym M_X2_reckon 154 (S_iload 3 155) := k_iload_n dX2_reckon_154 rfl
theorem r_X2_reckon_155 (E : ax_EN G l) : ax_Snd G l ax_Ym M_X2_reckon 155 (S_i2l 156) := k_i2l dX2_reckon_155
theorem r_X2_reckon_156 (E : ax_EN G l) : ax_Snd G l ax_Ym M_X2_reckon 156 (S_l2 (fun x y => x - y) 157) := k_lsub dX2_reckon_156
theorem r_X2_reckon_157 (E : ax_EN G l) : ax_Snd G l ax_Ym M_X2_reckon 157 (S_lstore 4 159) := k_lstore dX2_reckon_157 (Nat.le_of_ble_eq_true rfl)
theorem r_X2_reckon_159 (E : ax_EN G l) : ax_Snd G l ax_Ym M_X2_reckon 159 (S_lload 4 161) := k_lload dX2_reckon_159
theorem r_X2_reckon_161 (E : ax_EN G l) : ax_Snd G l ax_Ym M_X2_reckon 161 (S_push (.long 0) 162) := k_lconst dX2_reckon_161 rfl
theorem r_X2_reckon_162 (E : ax_EN G l) : ax_Snd G l ax_Ym M_X2_reckon 162 (S_lcmp 163) := k_lcmp dX2_reckon_162
theorem r_X2_reckon_163 (E : ax_EN G l) : ax_Snd G l ax_Ym M_X2_reckon 163 (S_if1 (fun x => decide (0 ≤ x)) 170 166) := k_if_ge dX2_reckon_163 rfl
theorem r_X2_reckon_166 (E : ax_EN G l) : ax_Snd G l ax_Ym M_X2_reckon 166 (S_push (.int (1)) 167) := k_iconst dX2_reckon_166 rfl
theorem r_X2_reckon_167 (E : ax_EN G l) : ax_Snd G l ax_Ym M_X2_reckon 167 (S_goto 171) := k_goto dX2_reckon_167 rfl
theorem r_X2_reckon_170 (E : ax_EN G l) : ax_Snd G l ax_Ym M_X2_reckon 170 (S_push (.int (0)) 171) := k_iconst dX2_reckon_170 rfl
theorem r_X2_reckon_171 (E : ax_EN G l) : ax_Snd G l ax_Ym M_X2_reckon 171 (S_istore 6 173) := k_istore dX2_reckon_171 (Nat.le_of_ble_eq_true rfl)
theorem r_X2_reckon_173 (E : ax_EN G l) : ax_Snd G l ax_Ym M_X2_reckon 173 (S_aload 0 174) := k_aload_n dX2_reckon_173 rfl
theorem r_X2_reckon_174 (E : ax_EN G l) : ax_Snd G l ax_Ym M_X2_reckon 174 (S_push (.int (6)) 176) := k_bipush dX2_reckon_174 rfl
theorem r_X2_reckon_176 (E : ax_EN G l) : ax_Snd G l ax_Ym M_X2_reckon 176 (S_iload 6 178) := k_iload dX2_reckon_176
theorem r_X2_reckon_178 (E : ax_EN G l) : ax_Snd G l ax_Ym M_X2_reckon 178 (S_if1 (fun x => decide (x = 0)) 185 181) := k_if_eq dX2_reckon_178 rfl
theorem r_X2_reckon_181 (E : ax_EN G l) : ax_Snd G l ax_Ym M_X2_reckon 181 (S_push (.int (1)) 182) := k_iconst dX2_reckon_181 rfl
theorem r_X2_reckon_182 (E : ax_EN G l) : ax_Snd G l ax_Ym M_X2_reckon 182 (S_goto 186) := k_goto dX2_reckon_182 rfl
theorem r_X2_reckon_185 (E : ax_EN G l) : ax_Snd G l ax_Ym M_X2_reckon 185 (S_push (.int (0)) 186) := k_iconst dX2_reckon_185 rfl
theorem r_X2_reckon_186 (E : ax_EN G l) : ax_Snd G l ax_Ym M_X2_reckon 186 (S_iv [(29, 320)] 2 189 hd_0) := k_iv (en_F E) (ax_ok0 E rfl) (ax_Evs_cons ((ev_v (en_c E (k := 29) rfl) rfl y_X2_set q2095 q2097 qs30 q122 q2098 nm_X2_set (Nat.le_of_ble_eq_true rfl) dX2_reckon_186) : ax_EvV G l ax_Ym M_X2_reckon 186 2 3 29 320) ax_Evs_nil)
theorem r_X2_reckon_189 (E : ax_EN G l) : ax_Snd G l ax_Ym M_X2_reckon 189 (S_aload 0 190) := k_aload_n dX2_reckon_189 rfl
theorem r_X2_reckon_190 (E : ax_EN G l) : ax_Snd G l ax_Ym M_X2_reckon 190 (S_push (.int (5)) 191) := k_iconst dX2_reckon_190 rfl
theorem r_X2_reckon_191 (E : ax_EN G l) : ax_Snd G l ax_Ym M_X2_reckon 191 (S_lload 4 193) := k_lload dX2_reckon_191
theorem r_X2_reckon_193 (E : ax_EN G l) : ax_Snd G l ax_Ym M_X2_reckon 193 (S_is 214 1 196 hd_0) := k_is (en_F E) (ax_ok0 E rfl) ((ev_sN (en_B E) y_X1_cut q1979 q930 q118 q931 nm_X1_cut (Nat.le_of_ble_eq_true rfl) dX2_reckon_193) : ax_EvS G l ax_Ym M_X2_reckon 193 214 1 3)
theorem r_X2_reckon_196 (E : ax_EN G l) : ax_Snd G l ax_Ym M_X2_reckon 196 (S_if1 (fun x => decide (¬ x = 0)) 203 199) := k_if_ne dX2_reckon_196 rfl
theorem r_X2_reckon_199 (E : ax_EN G l) : ax_Snd G l ax_Ym M_X2_reckon 199 (S_push (.int (1)) 200) := k_iconst dX2_reckon_199 rfl
theorem r_X2_reckon_200 (E : ax_EN G l) : ax_Snd G l ax_Ym M_X2_reckon 200 (S_goto 204) := k_goto dX2_reckon_200 rfl
theorem r_X2_reckon_203 (E : ax_EN G l) : ax_Snd G l ax_Ym M_X2_reckon 203 (S_push (.int (0)) 204) := k_iconst dX2_reckon_203 rfl
theorem r_X2_reckon_204 (E : ax_EN G l) : ax_Snd G l ax_Ym M_X2_reckon 204 (S_iv [(29, 320)] 2 207 hd_0) := k_iv (en_F E) (ax_ok0 E rfl) (ax_Evs_cons ((ev_v (en_c E (k := 29) rfl) rfl y_X2_set q2095 q2097 qs30 q122 q2098 nm_X2_set (Nat.le_of_ble_eq_true rfl) dX2_reckon_204) : ax_EvV G l ax_Ym M_X2_reckon 204 2 3 29 320) ax_Evs_nil)
theorem r_X2_reckon_207 (E : ax_EN G l) : ax_Snd G l ax_Ym M_X2_reckon 207 (S_iload 1 208) := k_iload_n dX2_reckon_207 rfl
theorem r_X2_reckon_208 (E : ax_EN G l) : ax_Snd G l ax_Ym M_X2_reckon 208 (S_push (.int (11)) 210) := k_bipush dX2_reckon_208 rfl
theorem r_X2_reckon_210 (E : ax_EN G l) : ax_Snd G l ax_Ym M_X2_reckon 210 (S_if2 (fun x y => decide (x = y)) 223 213) := k_icmp_eq dX2_reckon_210 rfl
theorem r_X2_reckon_213 (E : ax_EN G l) : ax_Snd G l ax_Ym M_X2_reckon 213 (S_aload 0 214) := k_aload_n dX2_reckon_213 rfl
theorem r_X2_reckon_214 (E : ax_EN G l) : ax_Snd G l ax_Ym M_X2_reckon 214 (S_iload 2 215) := k_iload_n dX2_reckon_214 rfl
theorem r_X2_reckon_215 (E : ax_EN G l) : ax_Snd G l ax_Ym M_X2_reckon 215 (S_lload 4 217) := k_lload dX2_reckon_215
theorem r_X2_reckon_217 (E : ax_EN G l) : ax_Snd G l ax_Ym M_X2_reckon 217 (S_is 214 1 220 hd_0) := k_is (en_F E) (ax_ok0 E rfl) ((ev_sN (en_B E) y_X1_cut q1979 q930 q118 q931 nm_X1_cut (Nat.le_of_ble_eq_true rfl) dX2_reckon_217) : ax_EvS G l ax_Ym M_X2_reckon 217 214 1 3)
theorem r_X2_reckon_220 (E : ax_EN G l) : ax_Snd G l ax_Ym M_X2_reckon 220 (S_iv [(29, 320)] 2 223 hd_0) := k_iv (en_F E) (ax_ok0 E rfl) (ax_Evs_cons ((ev_v (en_c E (k := 29) rfl) rfl y_X2_set q2095 q2097 qs30 q122 q2098 nm_X2_set (Nat.le_of_ble_eq_true rfl) dX2_reckon_220) : ax_EvV G l ax_Ym M_X2_reckon 220 2 3 29 320) ax_Evs_nil)
theorem r_X2_reckon_223 (E : ax_EN G l) : ax_Snd G l ax_Ym M_X2_reckon 223 (S_ret) := k_ret dX2_reckon_223 rfl
theorem mt_X2_reckon (E : ax_EN G l) : ax_mt G l ax_Ym (7, P_X2_reckon) (ax_Ym 328) := ⟨M_X2_reckon, yX2_reckon, ⟨rfl, by decide +kernel, rfl, (fun h => by cases h), Or.inl ⟨rfl, rfl⟩⟩, fun pc => (ax_sn_node (ax_sn_node (ax_sn_node (ax_sn_node (ax_sn_node (ax_sn_node (ax_sn_node (ax_sn_leaf (r_X2_reckon_223 E)) (ax_sn_leaf (r_X2_reckon_220 E))) (ax_sn_node (ax_sn_leaf (r_X2_reckon_217 E)) (ax_sn_leaf (r_X2_reckon_215 E)))) (ax_sn_node (ax_sn_node (ax_sn_leaf (r_X2_reckon_214 E)) (ax_sn_leaf (r_X2_reckon_213 E))) (ax_sn_leaf (r_X2_reckon_210 E)))) (ax_sn_node (ax_sn_node (ax_sn_node (ax_sn_leaf (r_X2_reckon_208 E)) (ax_sn_leaf (r_X2_reckon_207 E))) (ax_sn_leaf (r_X2_reckon_204 E))) (ax_sn_node (ax_sn_node (ax_sn_leaf (r_X2_reckon_203 E)) (ax_sn_leaf (r_X2_reckon_200 E))) (ax_sn_leaf (r_X2_reckon_199 E))))) (ax_sn_node (ax_sn_node (ax_sn_node (ax_sn_node (ax_sn_leaf (r_X2_reckon_196 E)) (ax_sn_leaf (r_X2_reckon_193 E))) (ax_sn_node (ax_sn_leaf (r_X2_reckon_191 E)) (ax_sn_leaf (r_X2_reckon_190 E)))) (ax_sn_node (ax_sn_node (ax_sn_leaf (r_X2_reckon_189 E)) (ax_sn_leaf (r_X2_reckon_186 E))) (ax_sn_leaf (r_X2_reckon_185 E)))) (ax_sn_node (ax_sn_node (ax_sn_node (ax_sn_leaf (r_X2_reckon_182 E)) (ax_sn_leaf (r_X2_reckon_181 E))) (ax_sn_leaf (r_X2_reckon_178 E))) (ax_sn_node (ax_sn_node (ax_sn_leaf (r_X2_reckon_176 E)) (ax_sn_leaf (r_X2_reckon_174 E))) (ax_sn_leaf (r_X2_reckon_173 E)))))) (ax_sn_node (ax_sn_node (ax_sn_node (ax_sn_node (ax_sn_node (ax_sn_leaf (r_X2_reckon_171 E)) (ax_sn_leaf (r_X2_reckon_170 E))) (ax_sn_node (ax_sn_leaf (r_X2_reckon_167 E)) (ax_sn_leaf (r_X2_reckon_166 E)))) (ax_sn_node (ax_sn_node (ax_sn_leaf (r_X2_reckon_163 E)) (ax_sn_leaf (r_X2_reckon_162 E))) (ax_sn_leaf (r_X2_reckon_161 E)))) (ax_sn_node (ax_sn_node (ax_sn_node (ax_sn_leaf (r_X2_reckon_159 E)) (ax_sn_leaf (r_X2_reckon_157 E))) (ax_sn_leaf (r_X2_reckon_156 E))) (ax_sn_node (ax_sn_node (ax_sn_leaf (r_X2_reckon_155 E)) (ax_sn_leaf (r_X2_reckon_154 E))) (ax_sn_leaf (r_X2_reckon_152 E))))) (ax_sn_node (ax_sn_node (ax_sn_node (ax_sn_node (ax_sn_leaf (r_X2_reckon_149 E)) (ax_sn_leaf (r_X2_reckon_147 E))) (ax_sn_node (ax_sn_leaf (r_X2_reckon_146 E)) (ax_sn_leaf (r_X2_reckon_145 E)))) (ax_sn_node (ax_sn_node (ax_sn_leaf (r_X2_reckon_143 E)) (ax_sn_leaf (r_X2_reckon_142 E))) (ax_sn_leaf (r_X2_reckon_140 E)))) (ax_sn_node (ax_sn_node (ax_sn_node (ax_sn_leaf (r_X2_reckon_137 E)) (ax_sn_leaf (r_X2_reckon_135 E))) (ax_sn_leaf (r_X2_reckon_134 E))) (ax_sn_node (ax_sn_node (ax_sn_leaf (r_X2_reckon_133 E)) (ax_sn_leaf (r_X2_reckon_131 E))) (ax_sn_leaf (r_X2_reckon_130 E))))))) (ax_sn_node (ax_sn_node (ax_sn_node (ax_sn_node (ax_sn_node (ax_sn_node (ax_sn_leaf (r_X2_reckon_128 E)) (ax_sn_leaf (r_X2_reckon_125 E))) (ax_sn_node (ax_sn_leaf (r_X2_reckon_123 E)) (ax_sn_leaf (r_X2_reckon_122 E)))) (ax_sn_node (ax_sn_node (ax_sn_leaf (r_X2_reckon_121 E)) (ax_sn_leaf (r_X2_reckon_120 E))) (ax_sn_leaf (r_X2_reckon_118 E)))) (ax_sn_node (ax_sn_node (ax_sn_node (ax_sn_leaf (r_X2_reckon_115 E)) (ax_sn_leaf (r_X2_reckon_113 E))) (ax_sn_leaf (r_X2_reckon_112 E))) (ax_sn_node (ax_sn_node (ax_sn_leaf (r_X2_reckon_111 E)) (ax_sn_leaf (r_X2_reckon_110 E))) (ax_sn_leaf (r_X2_reckon_108 E))))) (ax_sn_node (ax_sn_node (ax_sn_node (ax_sn_node (ax_sn_leaf (r_X2_reckon_105 E)) (ax_sn_leaf (r_X2_reckon_103 E))) (ax_sn_node (ax_sn_leaf (r_X2_reckon_102 E)) (ax_sn_leaf (r_X2_reckon_99 E)))) (ax_sn_node (ax_sn_node (ax_sn_leaf (r_X2_reckon_98 E)) (ax_sn_leaf (r_X2_reckon_95 E))) (ax_sn_leaf (r_X2_reckon_94 E)))) (ax_sn_node (ax_sn_node (ax_sn_node (ax_sn_leaf (r_X2_reckon_91 E)) (ax_sn_leaf (r_X2_reckon_89 E))) (ax_sn_leaf (r_X2_reckon_87 E))) (ax_sn_node (ax_sn_node (ax_sn_leaf (r_X2_reckon_86 E)) (ax_sn_leaf (r_X2_reckon_85 E))) (ax_sn_leaf (r_X2_reckon_84 E)))))) (ax_sn_node (ax_sn_node (ax_sn_node (ax_sn_node (ax_sn_node (ax_sn_leaf (r_X2_reckon_82 E)) (ax_sn_leaf (r_X2_reckon_79 E))) (ax_sn_node (ax_sn_leaf (r_X2_reckon_77 E)) (ax_sn_leaf (r_X2_reckon_76 E)))) (ax_sn_node (ax_sn_node (ax_sn_leaf (r_X2_reckon_73 E)) (ax_sn_leaf (r_X2_reckon_72 E))) (ax_sn_leaf (r_X2_reckon_69 E)))) (ax_sn_node (ax_sn_node (ax_sn_node (ax_sn_leaf (r_X2_reckon_68 E)) (ax_sn_leaf (r_X2_reckon_65 E))) (ax_sn_leaf (r_X2_reckon_63 E))) (ax_sn_node (ax_sn_node (ax_sn_leaf (r_X2_reckon_61 E)) (ax_sn_leaf (r_X2_reckon_60 E))) (ax_sn_leaf (r_X2_reckon_59 E))))) (ax_sn_node (ax_sn_node (ax_sn_node (ax_sn_node (ax_sn_leaf (r_X2_reckon_58 E)) (ax_sn_leaf (r_X2_reckon_56 E))) (ax_sn_leaf (r_X2_reckon_13 E))) (ax_sn_node (ax_sn_node (ax_sn_leaf (r_X2_reckon_12 E)) (ax_sn_leaf (r_X2_reckon_10 E))) (ax_sn_leaf (r_X2_reckon_9 E)))) (ax_sn_node (ax_sn_node (ax_sn_node (ax_sn_leaf (r_X2_reckon_7 E)) (ax_sn_leaf (r_X2_reckon_6 E))) (ax_sn_leaf (r_X2_reckon_5 E))) (ax_sn_node (ax_sn_node (ax_sn_leaf (r_X2_reckon_4 E)) (ax_sn_leaf (r_X2_reckon_1 E))) (ax_sn_leaf (r_X2_reckon_0 E))))))))⟩
theorem r_X2_move_0 (E : ax_EN G l) : ax_Snd G l ax_Ym M_X2_move 0 (S_iload 1 1) := k_iload_n dX2_move_0 rfl
theorem r_X2_move_1 (E : ax_EN G l) : ax_Snd G l ax_Ym M_X2_move 1 (S_tsw (0) (17) [88, 99, 108, 125, 215, 215, 215, 215, 215, 215, 215, 215, 142, 144, 161, 179, 192, 202] 215) := k_tsw dX2_move_1 rfl rfl
theorem r_X2_move_88 (E : ax_EN G l) : ax_Snd G l ax_Ym M_X2_move 88 (S_aload 0 89) := k_aload_n dX2_move_88 rfl
theorem r_X2_move_89 (E : ax_EN G l) : ax_Snd G l ax_Ym M_X2_move 89 (S_push (.int (0)) 90) := k_iconst dX2_move_89 rfl
theorem r_X2_move_90 (E : ax_EN G l) : ax_Snd G l ax_Ym M_X2_move 90 (S_push (.int (2)) 91) := k_iconst dX2_move_90 rfl
theorem r_X2_move_91 (E : ax_EN G l) : ax_Snd G l ax_Ym M_X2_move 91 (S_iv [(29, 320)] 2 94 hd_0) := k_iv (en_F E) (ax_ok0 E rfl) (ax_Evs_cons ((ev_v (en_c E (k := 29) rfl) rfl y_X2_set q2095 q2097 qs30 q122 q2098 nm_X2_set (Nat.le_of_ble_eq_true rfl) dX2_move_91) : ax_EvV G l ax_Ym M_X2_move 91 2 3 29 320) ax_Evs_nil)
theorem r_X2_move_94 (E : ax_EN G l) : ax_Snd G l ax_Ym M_X2_move 94 (S_iload 4 96) := k_iload dX2_move_94
theorem r_X2_move_96 (E : ax_EN G l) : ax_Snd G l ax_Ym M_X2_move 96 (S_push (.int (2)) 97) := k_iconst dX2_move_96 rfl
theorem r_X2_move_97 (E : ax_EN G l) : ax_Snd G l ax_Ym M_X2_move 97 (S_i2 (fun x y => x - y) 98) := k_isub dX2_move_97
theorem r_X2_move_98 (E : ax_EN G l) : ax_Snd G l ax_Ym M_X2_move 98 (S_iret) := k_iret dX2_move_98 rfl
theorem r_X2_move_99 (E : ax_EN G l) : ax_Snd G l ax_Ym M_X2_move 99 (S_aload 0 100) := k_aload_n dX2_move_99 rfl
theorem r_X2_move_100 (E : ax_EN G l) : ax_Snd G l ax_Ym M_X2_move 100 (S_iload 2 101) := k_iload_n dX2_move_100 rfl
theorem r_X2_move_101 (E : ax_EN G l) : ax_Snd G l ax_Ym M_X2_move 101 (S_iload 3 102) := k_iload_n dX2_move_101 rfl
theorem r_X2_move_102 (E : ax_EN G l) : ax_Snd G l ax_Ym M_X2_move 102 (S_iv [(29, 320)] 2 105 hd_0) := k_iv (en_F E) (ax_ok0 E rfl) (ax_Evs_cons ((ev_v (en_c E (k := 29) rfl) rfl y_X2_set q2095 q2097 qs30 q122 q2098 nm_X2_set (Nat.le_of_ble_eq_true rfl) dX2_move_102) : ax_EvV G l ax_Ym M_X2_move 102 2 3 29 320) ax_Evs_nil)
theorem r_X2_move_105 (E : ax_EN G l) : ax_Snd G l ax_Ym M_X2_move 105 (S_iload 4 107) := k_iload dX2_move_105
theorem r_X2_move_107 (E : ax_EN G l) : ax_Snd G l ax_Ym M_X2_move 107 (S_iret) := k_iret dX2_move_107 rfl
theorem r_X2_move_108 (E : ax_EN G l) : ax_Snd G l ax_Ym M_X2_move 108 (S_aload 0 109) := k_aload_n dX2_move_108 rfl
theorem r_X2_move_109 (E : ax_EN G l) : ax_Snd G l ax_Ym M_X2_move 109 (S_iload 2 110) := k_iload_n dX2_move_109 rfl
theorem r_X2_move_110 (E : ax_EN G l) : ax_Snd G l ax_Ym M_X2_move 110 (S_aload 0 111) := k_aload_n dX2_move_110 rfl
theorem r_X2_move_111 (E : ax_EN G l) : ax_Snd G l ax_Ym M_X2_move 111 (S_getf [(29, 0)] 114) := k_getf (en_F E) (ax_fes_cons (fe_158 E) ax_fes_nil) q283 dX2_move_111
theorem r_X2_move_114 (E : ax_EN G l) : ax_Snd G l ax_Ym M_X2_move 114 (S_iload 3 115) := k_iload_n dX2_move_114 rfl
theorem r_X2_move_115 (E : ax_EN G l) : ax_Snd G l ax_Ym M_X2_move 115 (S_is 327 1 118 hd_0) := k_is (en_F E) (ax_ok0 E rfl) ((ev_s y_X2_address q2148 q2149 q122 q2150 nm_X2_address (Nat.le_of_ble_eq_true rfl) dX2_move_115) : ax_EvS G l ax_Ym M_X2_move 115 327 1 3)
theorem r_X2_move_118 (E : ax_EN G l) : ax_Snd G l ax_Ym M_X2_move 118 (S_iald 0 119) := k_iald (en_F E) dX2_move_118
theorem r_X2_move_119 (E : ax_EN G l) : ax_Snd G l ax_Ym M_X2_move 119 (S_iv [(29, 320)] 2 122 hd_0) := k_iv (en_F E) (ax_ok0 E rfl) (ax_Evs_cons ((ev_v (en_c E (k := 29) rfl) rfl y_X2_set q2095 q2097 qs30 q122 q2098 nm_X2_set (Nat.le_of_ble_eq_true rfl) dX2_move_119) : ax_EvV G l ax_Ym M_X2_move 119 2 3 29 320) ax_Evs_nil)
theorem r_X2_move_122 (E : ax_EN G l) : ax_Snd G l ax_Ym M_X2_move 122 (S_iload 4 124) := k_iload dX2_move_122
theorem r_X2_move_124 (E : ax_EN G l) : ax_Snd G l ax_Ym M_X2_move 124 (S_iret) := k_iret dX2_move_124 rfl
theorem r_X2_move_125 (E : ax_EN G l) : ax_Snd G l ax_Ym M_X2_move 125 (S_aload 0 126) := k_aload_n dX2_move_125 rfl
theorem r_X2_move_126 (E : ax_EN G l) : ax_Snd G l ax_Ym M_X2_move 126 (S_iload 3 127) := k_iload_n dX2_move_126 rfl
theorem r_X2_move_127 (E : ax_EN G l) : ax_Snd G l ax_Ym M_X2_move 127 (S_is 327 1 130 hd_0) := k_is (en_F E) (ax_ok0 E rfl) ((ev_s y_X2_address q2148 q2149 q122 q2150 nm_X2_address (Nat.le_of_ble_eq_true rfl) dX2_move_127) : ax_EvS G l ax_Ym M_X2_move 127 327 1 3)
theorem r_X2_move_130 (E : ax_EN G l) : ax_Snd G l ax_Ym M_X2_move 130 (S_aload 0 131) := k_aload_n dX2_move_130 rfl
theorem r_X2_move_131 (E : ax_EN G l) : ax_Snd G l ax_Ym M_X2_move 131 (S_getf [(29, 0)] 134) := k_getf (en_F E) (ax_fes_cons (fe_158 E) ax_fes_nil) q283 dX2_move_131
theorem r_X2_move_134 (E : ax_EN G l) : ax_Snd G l ax_Ym M_X2_move 134 (S_iload 2 135) := k_iload_n dX2_move_134 rfl
theorem r_X2_move_135 (E : ax_EN G l) : ax_Snd G l ax_Ym M_X2_move 135 (S_iald 0 136) := k_iald (en_F E) dX2_move_135
theorem r_X2_move_136 (E : ax_EN G l) : ax_Snd G l ax_Ym M_X2_move 136 (S_iv [(29, 320)] 2 139 hd_0) := k_iv (en_F E) (ax_ok0 E rfl) (ax_Evs_cons ((ev_v (en_c E (k := 29) rfl) rfl y_X2_set q2095 q2097 qs30 q122 q2098 nm_X2_set (Nat.le_of_ble_eq_true rfl) dX2_move_136) : ax_EvV G l ax_Ym M_X2_move 136 2 3 29 320) ax_Evs_nil)
theorem r_X2_move_139 (E : ax_EN G l) : ax_Snd G l ax_Ym M_X2_move 139 (S_iload 4 141) := k_iload dX2_move_139
theorem r_X2_move_141 (E : ax_EN G l) : ax_Snd G l ax_Ym M_X2_move 141 (S_iret) := k_iret dX2_move_141 rfl
theorem r_X2_move_142 (E : ax_EN G l) : ax_Snd G l ax_Ym M_X2_move 142 (S_iload 3 143) := k_iload_n dX2_move_142 rfl
theorem r_X2_move_143 (E : ax_EN G l) : ax_Snd G l ax_Ym M_X2_move 143 (S_iret) := k_iret dX2_move_143 rfl
theorem r_X2_move_144 (E : ax_EN G l) : ax_Snd G l ax_Ym M_X2_move 144 (S_aload 0 145) := k_aload_n dX2_move_144 rfl
theorem r_X2_move_145 (E : ax_EN G l) : ax_Snd G l ax_Ym M_X2_move 145 (S_getf [(29, 0)] 148) := k_getf (en_F E) (ax_fes_cons (fe_158 E) ax_fes_nil) q283 dX2_move_145
theorem r_X2_move_148 (E : ax_EN G l) : ax_Snd G l ax_Ym M_X2_move 148 (S_push (.int (5)) 149) := k_iconst dX2_move_148 rfl
theorem r_X2_move_149 (E : ax_EN G l) : ax_Snd G l ax_Ym M_X2_move 149 (S_iald 0 150) := k_iald (en_F E) dX2_move_149
theorem r_X2_move_150 (E : ax_EN G l) : ax_Snd G l ax_Ym M_X2_move 150 (S_push (.int (1)) 151) := k_iconst dX2_move_150 rfl
theorem r_X2_move_151 (E : ax_EN G l) : ax_Snd G l ax_Ym M_X2_move 151 (S_if2 (fun x y => decide (¬ x = y)) 158 154) := k_icmp_ne dX2_move_151 rfl
theorem r_X2_move_154 (E : ax_EN G l) : ax_Snd G l ax_Ym M_X2_move 154 (S_iload 3 155) := k_iload_n dX2_move_154 rfl
theorem r_X2_move_155 (E : ax_EN G l) : ax_Snd G l ax_Ym M_X2_move 155 (S_goto 160) := k_goto dX2_move_155 rfl
theorem r_X2_move_158 (E : ax_EN G l) : ax_Snd G l ax_Ym M_X2_move 158 (S_iload 4 160) := k_iload dX2_move_158
theorem r_X2_move_160 (E : ax_EN G l) : ax_Snd G l ax_Ym M_X2_move 160 (S_iret) := k_iret dX2_move_160 rfl
theorem r_X2_move_161 (E : ax_EN G l) : ax_Snd G l ax_Ym M_X2_move 161 (S_aload 0 162) := k_aload_n dX2_move_161 rfl
theorem r_X2_move_162 (E : ax_EN G l) : ax_Snd G l ax_Ym M_X2_move 162 (S_getf [(29, 0)] 165) := k_getf (en_F E) (ax_fes_cons (fe_158 E) ax_fes_nil) q283 dX2_move_162
theorem r_X2_move_165 (E : ax_EN G l) : ax_Snd G l ax_Ym M_X2_move 165 (S_push (.int (6)) 167) := k_bipush dX2_move_165 rfl
theorem r_X2_move_167 (E : ax_EN G l) : ax_Snd G l ax_Ym M_X2_move 167 (S_iald 0 168) := k_iald (en_F E) dX2_move_167
theorem r_X2_move_168 (E : ax_EN G l) : ax_Snd G l ax_Ym M_X2_move 168 (S_push (.int (1)) 169) := k_iconst dX2_move_168 rfl
theorem r_X2_move_169 (E : ax_EN G l) : ax_Snd G l ax_Ym M_X2_move 169 (S_if2 (fun x y => decide (¬ x = y)) 176 172) := k_icmp_ne dX2_move_169 rfl
theorem r_X2_move_172 (E : ax_EN G l) : ax_Snd G l ax_Ym M_X2_move 172 (S_iload 3 173) := k_iload_n dX2_move_172 rfl
theorem r_X2_move_173 (E : ax_EN G l) : ax_Snd G l ax_Ym M_X2_move 173 (S_goto 178) := k_goto dX2_move_173 rfl
theorem r_X2_move_176 (E : ax_EN G l) : ax_Snd G l ax_Ym M_X2_move 176 (S_iload 4 178) := k_iload dX2_move_176
theorem r_X2_move_178 (E : ax_EN G l) : ax_Snd G l ax_Ym M_X2_move 178 (S_iret) := k_iret dX2_move_178 rfl
theorem r_X2_move_179 (E : ax_EN G l) : ax_Snd G l ax_Ym M_X2_move 179 (S_aload 0 180) := k_aload_n dX2_move_179 rfl
theorem r_X2_move_180 (E : ax_EN G l) : ax_Snd G l ax_Ym M_X2_move 180 (S_push (.int (1)) 181) := k_iconst dX2_move_180 rfl
theorem r_X2_move_181 (E : ax_EN G l) : ax_Snd G l ax_Ym M_X2_move 181 (S_iv [(29, 324)] 1 184 hd_0) := k_iv (en_F E) (ax_ok0 E rfl) (ax_Evs_cons ((ev_v (en_c E (k := 29) rfl) rfl y_X2_room q2116 q2118 qs34 q122 q2119 nm_X2_room (Nat.le_of_ble_eq_true rfl) dX2_move_181) : ax_EvV G l ax_Ym M_X2_move 181 1 3 29 324) ax_Evs_nil)
theorem r_X2_move_184 (E : ax_EN G l) : ax_Snd G l ax_Ym M_X2_move 184 (S_aload 0 185) := k_aload_n dX2_move_184 rfl
theorem r_X2_move_185 (E : ax_EN G l) : ax_Snd G l ax_Ym M_X2_move 185 (S_iload 4 187) := k_iload dX2_move_185
theorem r_X2_move_187 (E : ax_EN G l) : ax_Snd G l ax_Ym M_X2_move 187 (S_iv [(29, 325)] 1 190 hd_0) := k_iv (en_F E) (ax_ok0 E rfl) (ax_Evs_cons ((ev_v (en_c E (k := 29) rfl) rfl y_X2_push q2140 q2142 qs35 q122 q2143 nm_X2_push (Nat.le_of_ble_eq_true rfl) dX2_move_187) : ax_EvV G l ax_Ym M_X2_move 187 1 3 29 325) ax_Evs_nil)
theorem r_X2_move_190 (E : ax_EN G l) : ax_Snd G l ax_Ym M_X2_move 190 (S_iload 3 191) := k_iload_n dX2_move_190 rfl
theorem r_X2_move_191 (E : ax_EN G l) : ax_Snd G l ax_Ym M_X2_move 191 (S_iret) := k_iret dX2_move_191 rfl
theorem r_X2_move_192 (E : ax_EN G l) : ax_Snd G l ax_Ym M_X2_move 192 (S_aload 0 193) := k_aload_n dX2_move_192 rfl
theorem r_X2_move_193 (E : ax_EN G l) : ax_Snd G l ax_Ym M_X2_move 193 (S_push (.int (1)) 194) := k_iconst dX2_move_193 rfl
theorem r_X2_move_194 (E : ax_EN G l) : ax_Snd G l ax_Ym M_X2_move 194 (S_iv [(29, 330)] 1 197 hd_0) := k_iv (en_F E) (ax_ok0 E rfl) (ax_Evs_cons ((ev_v (en_c E (k := 29) rfl) rfl y_X2_held q2200 q2202 qs39 q122 q2203 nm_X2_held (Nat.le_of_ble_eq_true rfl) dX2_move_194) : ax_EvV G l ax_Ym M_X2_move 194 1 3 29 330) ax_Evs_nil)
theorem r_X2_move_197 (E : ax_EN G l) : ax_Snd G l ax_Ym M_X2_move 197 (S_aload 0 198) := k_aload_n dX2_move_197 rfl
theorem r_X2_move_198 (E : ax_EN G l) : ax_Snd G l ax_Ym M_X2_move 198 (S_iv [(29, 331)] 0 201 hd_0) := k_iv (en_F E) (ax_ok0 E rfl) (ax_Evs_cons ((ev_v (en_c E (k := 29) rfl) rfl y_X2_pull q2204 q2206 qs40 q122 q2207 nm_X2_pull (Nat.le_of_ble_eq_true rfl) dX2_move_198) : ax_EvV G l ax_Ym M_X2_move 198 0 3 29 331) ax_Evs_nil)
theorem r_X2_move_201 (E : ax_EN G l) : ax_Snd G l ax_Ym M_X2_move 201 (S_iret) := k_iret dX2_move_201 rfl
theorem r_X2_move_202 (E : ax_EN G l) : ax_Snd G l ax_Ym M_X2_move 202 (S_aload 0 203) := k_aload_n dX2_move_202 rfl
theorem r_X2_move_203 (E : ax_EN G l) : ax_Snd G l ax_Ym M_X2_move 203 (S_push (.int (1)) 204) := k_iconst dX2_move_203 rfl
theorem r_X2_move_204 (E : ax_EN G l) : ax_Snd G l ax_Ym M_X2_move 204 (S_iv [(29, 324)] 1 207 hd_0) := k_iv (en_F E) (ax_ok0 E rfl) (ax_Evs_cons ((ev_v (en_c E (k := 29) rfl) rfl y_X2_room q2116 q2118 qs34 q122 q2119 nm_X2_room (Nat.le_of_ble_eq_true rfl) dX2_move_204) : ax_EvV G l ax_Ym M_X2_move 204 1 3 29 324) ax_Evs_nil)
theorem r_X2_move_207 (E : ax_EN G l) : ax_Snd G l ax_Ym M_X2_move 207 (S_aload 0 208) := k_aload_n dX2_move_207 rfl
theorem r_X2_move_208 (E : ax_EN G l) : ax_Snd G l ax_Ym M_X2_move 208 (S_iload 3 209) := k_iload_n dX2_move_208 rfl
theorem r_X2_move_209 (E : ax_EN G l) : ax_Snd G l ax_Ym M_X2_move 209 (S_iv [(29, 325)] 1 212 hd_0) := k_iv (en_F E) (ax_ok0 E rfl) (ax_Evs_cons ((ev_v (en_c E (k := 29) rfl) rfl y_X2_push q2140 q2142 qs35 q122 q2143 nm_X2_push (Nat.le_of_ble_eq_true rfl) dX2_move_209) : ax_EvV G l ax_Ym M_X2_move 209 1 3 29 325) ax_Evs_nil)
theorem r_X2_move_212 (E : ax_EN G l) : ax_Snd G l ax_Ym M_X2_move 212 (S_iload 4 214) := k_iload dX2_move_212
theorem r_X2_move_214 (E : ax_EN G l) : ax_Snd G l ax_Ym M_X2_move 214 (S_iret) := k_iret dX2_move_214 rfl
theorem r_X2_move_215 (E : ax_EN G l) : ax_Snd G l ax_Ym M_X2_move 215 (S_aload 0 216) := k_aload_n dX2_move_215 rfl
theorem r_X2_move_216 (E : ax_EN G l) : ax_Snd G l ax_Ym M_X2_move 216 (S_push (.int (1)) 217) := k_iconst dX2_move_216 rfl
theorem r_X2_move_217 (E : ax_EN G l) : ax_Snd G l ax_Ym M_X2_move 217 (S_iv [(29, 330)] 1 220 hd_0) := k_iv (en_F E) (ax_ok0 E rfl) (ax_Evs_cons ((ev_v (en_c E (k := 29) rfl) rfl y_X2_held q2200 q2202 qs39 q122 q2203 nm_X2_held (Nat.le_of_ble_eq_true rfl) dX2_move_217) : ax_EvV G l ax_Ym M_X2_move 217 1 3 29 330) ax_Evs_nil)
theorem r_X2_move_220 (E : ax_EN G l) : ax_Snd G l ax_Ym M_X2_move 220 (S_aload 0 221) := k_aload_n dX2_move_220 rfl
theorem r_X2_move_221 (E : ax_EN G l) : ax_Snd G l ax_Ym M_X2_move 221 (S_iload 2 222) := k_iload_n dX2_move_221 rfl
theorem r_X2_move_222 (E : ax_EN G l) : ax_Snd G l ax_Ym M_X2_move 222 (S_aload 0 223) := k_aload_n dX2_move_222 rfl
theorem r_X2_move_223 (E : ax_EN G l) : ax_Snd G l ax_Ym M_X2_move 223 (S_iv [(29, 331)] 0 226 hd_0) := k_iv (en_F E) (ax_ok0 E rfl) (ax_Evs_cons ((ev_v (en_c E (k := 29) rfl) rfl y_X2_pull q2204 q2206 qs40 q122 q2207 nm_X2_pull (Nat.le_of_ble_eq_true rfl) dX2_move_223) : ax_EvV G l ax_Ym M_X2_move 223 0 3 29 331) ax_Evs_nil)
theorem r_X2_move_226 (E : ax_EN G l) : ax_Snd G l ax_Ym M_X2_move 226 (S_iv [(29, 320)] 2 229 hd_0) := k_iv (en_F E) (ax_ok0 E rfl) (ax_Evs_cons ((ev_v (en_c E (k := 29) rfl) rfl y_X2_set q2095 q2097 qs30 q122 q2098 nm_X2_set (Nat.le_of_ble_eq_true rfl) dX2_move_226) : ax_EvV G l ax_Ym M_X2_move 226 2 3 29 320) ax_Evs_nil)
theorem r_X2_move_229 (E : ax_EN G l) : ax_Snd G l ax_Ym M_X2_move 229 (S_iload 4 231) := k_iload dX2_move_229
theorem r_X2_move_231 (E : ax_EN G l) : ax_Snd G l ax_Ym M_X2_move 231 (S_iret) := k_iret dX2_move_231 rfl
theorem mt_X2_move (E : ax_EN G l) : ax_mt G l ax_Ym (5, P_X2_move) (ax_Ym 329) := ⟨M_X2_move, yX2_move, ⟨rfl, by decide +kernel, rfl, (fun h => by cases h), Or.inl ⟨rfl, rfl⟩⟩, fun pc => (ax_sn_node (ax_sn_node (ax_sn_node (ax_sn_node (ax_sn_node (ax_sn_node (ax_sn_node (ax_sn_leaf (r_X2_move_231 E)) (ax_sn_leaf (r_X2_move_229 E))) (ax_sn_leaf (r_X2_move_226 E))) (ax_sn_node (ax_sn_node (ax_sn_leaf (r_X2_move_223 E)) (ax_sn_leaf (r_X2_move_222 E))) (ax_sn_leaf (r_X2_move_221 E)))) (ax_sn_node (ax_sn_node (ax_sn_node (ax_sn_leaf (r_X2_move_220 E)) (ax_sn_leaf (r_X2_move_217 E))) (ax_sn_leaf (r_X2_move_216 E))) (ax_sn_node (ax_sn_node (ax_sn_leaf (r_X2_move_215 E)) (ax_sn_leaf (r_X2_move_214 E))) (ax_sn_leaf (r_X2_move_212 E))))) (ax_sn_node (ax_sn_node (ax_sn_node (ax_sn_node (ax_sn_leaf (r_X2_move_209 E)) (ax_sn_leaf (r_X2_move_208 E))) (ax_sn_leaf (r_X2_move_207 E))) (ax_sn_node (ax_sn_node (ax_sn_leaf (r_X2_move_204 E)) (ax_sn_leaf (r_X2_move_203 E))) (ax_sn_leaf (r_X2_move_202 E)))) (ax_sn_node (ax_sn_node (ax_sn_node (ax_sn_leaf (r_X2_move_201 E)) (ax_sn_leaf (r_X2_move_198 E))) (ax_sn_leaf (r_X2_move_197 E))) (ax_sn_node (ax_sn_leaf (r_X2_move_194 E)) (ax_sn_leaf (r_X2_move_193 E)))))) (ax_sn_node (ax_sn_node (ax_sn_node (ax_sn_node (ax_sn_node (ax_sn_leaf (r_X2_move_192 E)) (ax_sn_leaf (r_X2_move_191 E))) (ax_sn_leaf (r_X2_move_190 E))) (ax_sn_node (ax_sn_node (ax_sn_leaf (r_X2_move_187 E)) (ax_sn_leaf (r_X2_move_185 E))) (ax_sn_leaf (r_X2_move_184 E)))) (ax_sn_node (ax_sn_node (ax_sn_node (ax_sn_leaf (r_X2_move_181 E)) (ax_sn_leaf (r_X2_move_180 E))) (ax_sn_leaf (r_X2_move_179 E))) (ax_sn_node (ax_sn_leaf (r_X2_move_178 E)) (ax_sn_leaf (r_X2_move_176 E))))) (ax_sn_node (ax_sn_node (ax_sn_node (ax_sn_node (ax_sn_leaf (r_X2_move_173 E)) (ax_sn_leaf (r_X2_move_172 E))) (ax_sn_leaf (r_X2_move_169 E))) (ax_sn_node (ax_sn_node (ax_sn_leaf (r_X2_move_168 E)) (ax_sn_leaf (r_X2_move_167 E))) (ax_sn_leaf (r_X2_move_165 E)))) (ax_sn_node (ax_sn_node (ax_sn_node (ax_sn_leaf (r_X2_move_162 E)) (ax_sn_leaf (r_X2_move_161 E))) (ax_sn_leaf (r_X2_move_160 E))) (ax_sn_node (ax_sn_leaf (r_X2_move_158 E)) (ax_sn_leaf (r_X2_move_155 E))))))) (ax_sn_node (ax_sn_node (ax_sn_node (ax_sn_node (ax_sn_node (ax_sn_node (ax_sn_leaf (r_X2_move_154 E)) (ax_sn_leaf (r_X2_move_151 E))) (ax_sn_leaf (r_X2_move_150 E))) (ax_sn_node (ax_sn_node (ax_sn_leaf (r_X2_move_149 E)) (ax_sn_leaf (r_X2_move_148 E))) (ax_sn_leaf (r_X2_move_145 E)))) (ax_sn_node (ax_sn_node (ax_sn_node (ax_sn_leaf (r_X2_move_144 E)) (ax_sn_leaf (r_X2_move_143 E))) (ax_sn_leaf (r_X2_move_142 E))) (ax_sn_node (ax_sn_node (ax_sn_leaf (r_X2_move_141 E)) (ax_sn_leaf (r_X2_move_139 E))) (ax_sn_leaf (r_X2_move_136 E))))) (ax_sn_node (ax_sn_node (ax_sn_node (ax_sn_node (ax_sn_leaf (r_X2_move_135 E)) (ax_sn_leaf (r_X2_move_134 E))) (ax_sn_leaf (r_X2_move_131 E))) (ax_sn_node (ax_sn_node (ax_sn_leaf (r_X2_move_130 E)) (ax_sn_leaf (r_X2_move_127 E))) (ax_sn_leaf (r_X2_move_126 E)))) (ax_sn_node (ax_sn_node (ax_sn_node (ax_sn_leaf (r_X2_move_125 E)) (ax_sn_leaf (r_X2_move_124 E))) (ax_sn_leaf (r_X2_move_122 E))) (ax_sn_node (ax_sn_leaf (r_X2_move_119 E)) (ax_sn_leaf (r_X2_move_118 E)))))) (ax_sn_node (ax_sn_node (ax_sn_node (ax_sn_node (ax_sn_node (ax_sn_leaf (r_X2_move_115 E)) (ax_sn_leaf (r_X2_move_114 E))) (ax_sn_leaf (r_X2_move_111 E))) (ax_sn_node (ax_sn_node (ax_sn_leaf (r_X2_move_110 E)) (ax_sn_leaf (r_X2_move_109 E))) (ax_sn_leaf (r_X2_move_108 E)))) (ax_sn_node (ax_sn_node (ax_sn_node (ax_sn_leaf (r_X2_move_107 E)) (ax_sn_leaf (r_X2_move_105 E))) (ax_sn_leaf (r_X2_move_102 E))) (ax_sn_node (ax_sn_leaf (r_X2_move_101 E)) (ax_sn_leaf (r_X2_move_100 E))))) (ax_sn_node (ax_sn_node (ax_sn_node (ax_sn_node (ax_sn_leaf (r_X2_move_99 E)) (ax_sn_leaf (r_X2_move_98 E))) (ax_sn_leaf (r_X2_move_97 E))) (ax_sn_node (ax_sn_node (ax_sn_leaf (r_X2_move_96 E)) (ax_sn_leaf (r_X2_move_94 E))) (ax_sn_leaf (r_X2_move_91 E)))) (ax_sn_node (ax_sn_node (ax_sn_node (ax_sn_leaf (r_X2_move_90 E)) (ax_sn_leaf (r_X2_move_89 E))) (ax_sn_leaf (r_X2_move_88 E))) (ax_sn_node (ax_sn_leaf (r_X2_move_1 E)) (ax_sn_leaf (r_X2_move_0 E))))))))⟩
theorem r_X2_held_0 (E : ax_EN G l) : ax_Snd G l ax_Ym M_X2_held 0 (S_aload 0 1) := k_aload_n dX2_held_0 rfl
theorem r_X2_held_1 (E : ax_EN G l) : ax_Snd G l ax_Ym M_X2_held 1 (S_getf [(29, 0)] 4) := k_getf (en_F E) (ax_fes_cons (fe_158 E) ax_fes_nil) q283 dX2_held_1
theorem r_X2_held_4 (E : ax_EN G l) : ax_Snd G l ax_Ym M_X2_held 4 (S_push (.int (4)) 5) := k_iconst dX2_held_4 rfl
theorem r_X2_held_5 (E : ax_EN G l) : ax_Snd G l ax_Ym M_X2_held 5 (S_iald 0 6) := k_iald (en_F E) dX2_held_5
theorem r_X2_held_6 (E : ax_EN G l) : ax_Snd G l ax_Ym M_X2_held 6 (S_iload 1 7) := k_iload_n dX2_held_6 rfl
theorem r_X2_held_7 (E : ax_EN G l) : ax_Snd G l ax_Ym M_X2_held 7 (S_i2 (fun x y => x + y) 8) := k_iadd dX2_held_7
theorem r_X2_held_8 (E : ax_EN G l) : ax_Snd G l ax_Ym M_X2_held 8 (S_push (.int (256)) 11) := k_sipush dX2_held_8 rfl
theorem r_X2_held_11 (E : ax_EN G l) : ax_Snd G l ax_Ym M_X2_held 11 (S_if2 (fun x y => decide (x ≤ y)) 28 14) := k_icmp_le dX2_held_11 rfl
theorem r_X2_held_14 (E : ax_EN G l) : ax_Snd G l ax_Ym M_X2_held 14 (S_new 32 [.null] 6 17) := k_new (en_F E) (mk_32 E) q2030 dX2_held_14
theorem r_X2_held_17 (E : ax_EN G l) : ax_Snd G l ax_Ym M_X2_held 17 (S_dup 18) := k_dup dX2_held_17
theorem r_X2_held_18 (E : ax_EN G l) : ax_Snd G l ax_Ym M_X2_held 18 (S_aload 0 19) := k_aload_n dX2_held_18 rfl
theorem r_X2_held_19 (E : ax_EN G l) : ax_Snd G l ax_Ym M_X2_held 19 (S_getf [(29, 0)] 22) := k_getf (en_F E) (ax_fes_cons (fe_158 E) ax_fes_nil) q283 dX2_held_19
theorem r_X2_held_22 (E : ax_EN G l) : ax_Snd G l ax_Ym M_X2_held 22 (S_push (.int (4)) 23) := k_iconst dX2_held_22 rfl
theorem r_X2_held_23 (E : ax_EN G l) : ax_Snd G l ax_Ym M_X2_held 23 (S_iald 0 24) := k_iald (en_F E) dX2_held_23
theorem r_X2_held_24 (E : ax_EN G l) : ax_Snd G l ax_Ym M_X2_held 24 (S_isp 361 1 27 hd_0) := k_isp (en_F E) (ax_ok0 E rfl) ((ev_i y_X22_init q2128 q2129 q166 q2130 nm_X22_init rfl (Nat.le_of_ble_eq_true rfl) dX2_held_24) : ax_EvI G l ax_Ym M_X2_held 24 361 1 3)
theorem r_X2_held_27 (E : ax_EN G l) : ax_Snd G l ax_Ym M_X2_held 27 (S_athrow hd_0) := k_athrow (en_F E) (ax_ok0 E rfl) dX2_held_27
theorem r_X2_held_28 (E : ax_EN G l) : ax_Snd G l ax_Ym M_X2_held 28 (S_ret) := k_ret dX2_held_28 rfl
theorem mt_X2_held (E : ax_EN G l) : ax_mt G l ax_Ym (2, P_X2_held) (ax_Ym 330) := ⟨M_X2_held, yX2_held, ⟨rfl, by decide +kernel, rfl, (fun h => by cases h), Or.inl ⟨rfl, rfl⟩⟩, fun pc => (ax_sn_node (ax_sn_node (ax_sn_node (ax_sn_node (ax_sn_node (ax_sn_leaf (r_X2_held_28 E)) (ax_sn_leaf (r_X2_held_27 E))) (ax_sn_leaf (r_X2_held_24 E))) (ax_sn_node (ax_sn_leaf (r_X2_held_23 E)) (ax_sn_leaf (r_X2_held_22 E)))) (ax_sn_node (ax_sn_node (ax_sn_leaf (r_X2_held_19 E)) (ax_sn_leaf (r_X2_held_18 E))) (ax_sn_node (ax_sn_leaf (r_X2_held_17 E)) (ax_sn_leaf (r_X2_held_14 E))))) (ax_sn_node (ax_sn_node (ax_sn_node (ax_sn_leaf (r_X2_held_11 E)) (ax_sn_leaf (r_X2_held_8 E))) (ax_sn_node (ax_sn_leaf (r_X2_held_7 E)) (ax_sn_leaf (r_X2_held_6 E)))) (ax_sn_node (ax_sn_node (ax_sn_leaf (r_X2_held_5 E)) (ax_sn_leaf (r_X2_held_4 E))) (ax_sn_node (ax_sn_leaf (r_X2_held_1 E)) (ax_sn_leaf (r_X2_held_0 E))))))⟩
theorem r_X2_pull_0 (E : ax_EN G l) : ax_Snd G l ax_Ym M_X2_pull 0 (S_aload 0 1) := k_aload_n dX2_pull_0 rfl
theorem r_X2_pull_1 (E : ax_EN G l) : ax_Snd G l ax_Ym M_X2_pull 1 (S_getf [(29, 0)] 4) := k_getf (en_F E) (ax_fes_cons (fe_158 E) ax_fes_nil) q283 dX2_pull_1
theorem r_X2_pull_4 (E : ax_EN G l) : ax_Snd G l ax_Ym M_X2_pull 4 (S_push (.int (108)) 6) := k_bipush dX2_pull_4 rfl
theorem r_X2_pull_6 (E : ax_EN G l) : ax_Snd G l ax_Ym M_X2_pull 6 (S_aload 0 7) := k_aload_n dX2_pull_6 rfl
theorem r_X2_pull_7 (E : ax_EN G l) : ax_Snd G l ax_Ym M_X2_pull 7 (S_getf [(29, 0)] 10) := k_getf (en_F E) (ax_fes_cons (fe_158 E) ax_fes_nil) q283 dX2_pull_7
theorem r_X2_pull_10 (E : ax_EN G l) : ax_Snd G l ax_Ym M_X2_pull 10 (S_push (.int (4)) 11) := k_iconst dX2_pull_10 rfl
theorem r_X2_pull_11 (E : ax_EN G l) : ax_Snd G l ax_Ym M_X2_pull 11 (S_iald 0 12) := k_iald (en_F E) dX2_pull_11
theorem r_X2_pull_12 (E : ax_EN G l) : ax_Snd G l ax_Ym M_X2_pull 12 (S_i2 (fun x y => x + y) 13) := k_iadd dX2_pull_12
theorem r_X2_pull_13 (E : ax_EN G l) : ax_Snd G l ax_Ym M_X2_pull 13 (S_iald 0 14) := k_iald (en_F E) dX2_pull_13
theorem r_X2_pull_14 (E : ax_EN G l) : ax_Snd G l ax_Ym M_X2_pull 14 (S_istore 1 15) := k_istore_n dX2_pull_14 rfl (Nat.le_of_ble_eq_true rfl)
theorem r_X2_pull_15 (E : ax_EN G l) : ax_Snd G l ax_Ym M_X2_pull 15 (S_aload 0 16) := k_aload_n dX2_pull_15 rfl
theorem r_X2_pull_16 (E : ax_EN G l) : ax_Snd G l ax_Ym M_X2_pull 16 (S_push (.int (4)) 17) := k_iconst dX2_pull_16 rfl
theorem r_X2_pull_17 (E : ax_EN G l) : ax_Snd G l ax_Ym M_X2_pull 17 (S_aload 0 18) := k_aload_n dX2_pull_17 rfl
theorem r_X2_pull_18 (E : ax_EN G l) : ax_Snd G l ax_Ym M_X2_pull 18 (S_getf [(29, 0)] 21) := k_getf (en_F E) (ax_fes_cons (fe_158 E) ax_fes_nil) q283 dX2_pull_18
theorem r_X2_pull_21 (E : ax_EN G l) : ax_Snd G l ax_Ym M_X2_pull 21 (S_push (.int (4)) 22) := k_iconst dX2_pull_21 rfl
theorem r_X2_pull_22 (E : ax_EN G l) : ax_Snd G l ax_Ym M_X2_pull 22 (S_iald 0 23) := k_iald (en_F E) dX2_pull_22
theorem r_X2_pull_23 (E : ax_EN G l) : ax_Snd G l ax_Ym M_X2_pull 23 (S_push (.int (1)) 24) := k_iconst dX2_pull_23 rfl
theorem r_X2_pull_24 (E : ax_EN G l) : ax_Snd G l ax_Ym M_X2_pull 24 (S_i2 (fun x y => x + y) 25) := k_iadd dX2_pull_24
theorem r_X2_pull_25 (E : ax_EN G l) : ax_Snd G l ax_Ym M_X2_pull 25 (S_iv [(29, 320)] 2 28 hd_0) := k_iv (en_F E) (ax_ok0 E rfl) (ax_Evs_cons ((ev_v (en_c E (k := 29) rfl) rfl y_X2_set q2095 q2097 qs30 q122 q2098 nm_X2_set (Nat.le_of_ble_eq_true rfl) dX2_pull_25) : ax_EvV G l ax_Ym M_X2_pull 25 2 3 29 320) ax_Evs_nil)
theorem r_X2_pull_28 (E : ax_EN G l) : ax_Snd G l ax_Ym M_X2_pull 28 (S_iload 1 29) := k_iload_n dX2_pull_28 rfl
theorem r_X2_pull_29 (E : ax_EN G l) : ax_Snd G l ax_Ym M_X2_pull 29 (S_iret) := k_iret dX2_pull_29 rfl
theorem mt_X2_pull (E : ax_EN G l) : ax_mt G l ax_Ym (2, P_X2_pull) (ax_Ym 331) := ⟨M_X2_pull, yX2_pull, ⟨rfl, by decide +kernel, rfl, (fun h => by cases h), Or.inl ⟨rfl, rfl⟩⟩, fun pc => (ax_sn_node (ax_sn_node (ax_sn_node (ax_sn_node (ax_sn_node (ax_sn_leaf (r_X2_pull_29 E)) (ax_sn_leaf (r_X2_pull_28 E))) (ax_sn_leaf (r_X2_pull_25 E))) (ax_sn_node (ax_sn_node (ax_sn_leaf (r_X2_pull_24 E)) (ax_sn_leaf (r_X2_pull_23 E))) (ax_sn_leaf (r_X2_pull_22 E)))) (ax_sn_node (ax_sn_node (ax_sn_node (ax_sn_leaf (r_X2_pull_21 E)) (ax_sn_leaf (r_X2_pull_18 E))) (ax_sn_leaf (r_X2_pull_17 E))) (ax_sn_node (ax_sn_leaf (r_X2_pull_16 E)) (ax_sn_leaf (r_X2_pull_15 E))))) (ax_sn_node (ax_sn_node (ax_sn_node (ax_sn_node (ax_sn_leaf (r_X2_pull_14 E)) (ax_sn_leaf (r_X2_pull_13 E))) (ax_sn_leaf (r_X2_pull_12 E))) (ax_sn_node (ax_sn_leaf (r_X2_pull_11 E)) (ax_sn_leaf (r_X2_pull_10 E)))) (ax_sn_node (ax_sn_node (ax_sn_node (ax_sn_leaf (r_X2_pull_7 E)) (ax_sn_leaf (r_X2_pull_6 E))) (ax_sn_leaf (r_X2_pull_4 E))) (ax_sn_node (ax_sn_leaf (r_X2_pull_1 E)) (ax_sn_leaf (r_X2_pull_0 E))))))⟩
theorem r_X2_serve_0 (E : ax_EN G l) : ax_Snd G l ax_Ym M_X2_serve 0 (S_iload 1 1) := k_iload_n dX2_serve_0 rfl
theorem r_X2_serve_1 (E : ax_EN G l) : ax_Snd G l ax_Ym M_X2_serve 1 (S_tsw (19) (25) [44, 44, 64, 108, 125, 142, 154] 207) := k_tsw dX2_serve_1 rfl rfl
theorem r_X2_serve_44 (E : ax_EN G l) : ax_Snd G l ax_Ym M_X2_serve 44 (S_aload 0 45) := k_aload_n dX2_serve_44 rfl
theorem r_X2_serve_45 (E : ax_EN G l) : ax_Snd G l ax_Ym M_X2_serve 45 (S_push (.int (7)) 47) := k_bipush dX2_serve_45 rfl
theorem r_X2_serve_47 (E : ax_EN G l) : ax_Snd G l ax_Ym M_X2_serve 47 (S_iload 1 48) := k_iload_n dX2_serve_47 rfl
theorem r_X2_serve_48 (E : ax_EN G l) : ax_Snd G l ax_Ym M_X2_serve 48 (S_push (.int (19)) 50) := k_bipush dX2_serve_48 rfl
theorem r_X2_serve_50 (E : ax_EN G l) : ax_Snd G l ax_Ym M_X2_serve 50 (S_if2 (fun x y => decide (¬ x = y)) 57 53) := k_icmp_ne dX2_serve_50 rfl
theorem r_X2_serve_53 (E : ax_EN G l) : ax_Snd G l ax_Ym M_X2_serve 53 (S_push (.int (1)) 54) := k_iconst dX2_serve_53 rfl
theorem r_X2_serve_54 (E : ax_EN G l) : ax_Snd G l ax_Ym M_X2_serve 54 (S_goto 58) := k_goto dX2_serve_54 rfl
theorem r_X2_serve_57 (E : ax_EN G l) : ax_Snd G l ax_Ym M_X2_serve 57 (S_push (.int (0)) 58) := k_iconst dX2_serve_57 rfl
theorem r_X2_serve_58 (E : ax_EN G l) : ax_Snd G l ax_Ym M_X2_serve 58 (S_iv [(29, 320)] 2 61 hd_0) := k_iv (en_F E) (ax_ok0 E rfl) (ax_Evs_cons ((ev_v (en_c E (k := 29) rfl) rfl y_X2_set q2095 q2097 qs30 q122 q2098 nm_X2_set (Nat.le_of_ble_eq_true rfl) dX2_serve_58) : ax_EvV G l ax_Ym M_X2_serve 58 2 3 29 320) ax_Evs_nil)
theorem r_X2_serve_61 (E : ax_EN G l) : ax_Snd G l ax_Ym M_X2_serve 61 (S_iload 4 63) := k_iload dX2_serve_61
theorem r_X2_serve_63 (E : ax_EN G l) : ax_Snd G l ax_Ym M_X2_serve 63 (S_iret) := k_iret dX2_serve_63 rfl
theorem r_X2_serve_64 (E : ax_EN G l) : ax_Snd G l ax_Ym M_X2_serve 64 (S_aload 0 65) := k_aload_n dX2_serve_64 rfl
theorem r_X2_serve_65 (E : ax_EN G l) : ax_Snd G l ax_Ym M_X2_serve 65 (S_push (.int (2)) 66) := k_iconst dX2_serve_65 rfl
theorem r_X2_serve_66 (E : ax_EN G l) : ax_Snd G l ax_Ym M_X2_serve 66 (S_iv [(29, 330)] 1 69 hd_0) := k_iv (en_F E) (ax_ok0 E rfl) (ax_Evs_cons ((ev_v (en_c E (k := 29) rfl) rfl y_X2_held q2200 q2202 qs39 q122 q2203 nm_X2_held (Nat.le_of_ble_eq_true rfl) dX2_serve_66) : ax_EvV G l ax_Ym M_X2_serve 66 1 3 29 330) ax_Evs_nil)
theorem r_X2_serve_69 (E : ax_EN G l) : ax_Snd G l ax_Ym M_X2_serve 69 (S_aload 0 70) := k_aload_n dX2_serve_69 rfl
theorem r_X2_serve_70 (E : ax_EN G l) : ax_Snd G l ax_Ym M_X2_serve 70 (S_iv [(29, 331)] 0 73 hd_0) := k_iv (en_F E) (ax_ok0 E rfl) (ax_Evs_cons ((ev_v (en_c E (k := 29) rfl) rfl y_X2_pull q2204 q2206 qs40 q122 q2207 nm_X2_pull (Nat.le_of_ble_eq_true rfl) dX2_serve_70) : ax_EvV G l ax_Ym M_X2_serve 70 0 3 29 331) ax_Evs_nil)
theorem r_X2_serve_73 (E : ax_EN G l) : ax_Snd G l ax_Ym M_X2_serve 73 (S_istore 5 75) := k_istore dX2_serve_73 (Nat.le_of_ble_eq_true rfl)
theorem r_X2_serve_75 (E : ax_EN G l) : ax_Snd G l ax_Ym M_X2_serve 75 (S_aload 0 76) := k_aload_n dX2_serve_75 rfl
theorem r_X2_serve_76 (E : ax_EN G l) : ax_Snd G l ax_Ym M_X2_serve 76 (S_push (.int (5)) 77) := k_iconst dX2_serve_76 rfl
theorem r_X2_serve_77 (E : ax_EN G l) : ax_Snd G l ax_Ym M_X2_serve 77 (S_iload 5 79) := k_iload dX2_serve_77
theorem r_X2_serve_79 (E : ax_EN G l) : ax_Snd G l ax_Ym M_X2_serve 79 (S_push (.int (1)) 80) := k_iconst dX2_serve_79 rfl
theorem r_X2_serve_80 (E : ax_EN G l) : ax_Snd G l ax_Ym M_X2_serve 80 (S_i2 (fun x y => x &&& y) 81) := k_iand dX2_serve_80
theorem r_X2_serve_81 (E : ax_EN G l) : ax_Snd G l ax_Ym M_X2_serve 81 (S_iv [(29, 320)] 2 84 hd_0) := k_iv (en_F E) (ax_ok0 E rfl) (ax_Evs_cons ((ev_v (en_c E (k := 29) rfl) rfl y_X2_set q2095 q2097 qs30 q122 q2098 nm_X2_set (Nat.le_of_ble_eq_true rfl) dX2_serve_81) : ax_EvV G l ax_Ym M_X2_serve 81 2 3 29 320) ax_Evs_nil)
theorem r_X2_serve_84 (E : ax_EN G l) : ax_Snd G l ax_Ym M_X2_serve 84 (S_aload 0 85) := k_aload_n dX2_serve_84 rfl
theorem r_X2_serve_85 (E : ax_EN G l) : ax_Snd G l ax_Ym M_X2_serve 85 (S_push (.int (6)) 87) := k_bipush dX2_serve_85 rfl
theorem r_X2_serve_87 (E : ax_EN G l) : ax_Snd G l ax_Ym M_X2_serve 87 (S_iload 5 89) := k_iload dX2_serve_87
theorem r_X2_serve_89 (E : ax_EN G l) : ax_Snd G l ax_Ym M_X2_serve 89 (S_push (.int (1)) 90) := k_iconst dX2_serve_89 rfl
theorem r_X2_serve_90 (E : ax_EN G l) : ax_Snd G l ax_Ym M_X2_serve 90 (S_i2 (fun x y => x >>> (y &&& 31)) 91) := k_ishr dX2_serve_90
theorem r_X2_serve_91 (E : ax_EN G l) : ax_Snd G l ax_Ym M_X2_serve 91 (S_push (.int (1)) 92) := k_iconst dX2_serve_91 rfl
theorem r_X2_serve_92 (E : ax_EN G l) : ax_Snd G l ax_Ym M_X2_serve 92 (S_i2 (fun x y => x &&& y) 93) := k_iand dX2_serve_92
theorem r_X2_serve_93 (E : ax_EN G l) : ax_Snd G l ax_Ym M_X2_serve 93 (S_iv [(29, 320)] 2 96 hd_0) := k_iv (en_F E) (ax_ok0 E rfl) (ax_Evs_cons ((ev_v (en_c E (k := 29) rfl) rfl y_X2_set q2095 q2097 qs30 q122 q2098 nm_X2_set (Nat.le_of_ble_eq_true rfl) dX2_serve_93) : ax_EvV G l ax_Ym M_X2_serve 93 2 3 29 320) ax_Evs_nil)
theorem r_X2_serve_96 (E : ax_EN G l) : ax_Snd G l ax_Ym M_X2_serve 96 (S_aload 0 97) := k_aload_n dX2_serve_96 rfl
theorem r_X2_serve_97 (E : ax_EN G l) : ax_Snd G l ax_Ym M_X2_serve 97 (S_push (.int (7)) 99) := k_bipush dX2_serve_97 rfl
theorem r_X2_serve_99 (E : ax_EN G l) : ax_Snd G l ax_Ym M_X2_serve 99 (S_push (.int (1)) 100) := k_iconst dX2_serve_99 rfl
theorem r_X2_serve_100 (E : ax_EN G l) : ax_Snd G l ax_Ym M_X2_serve 100 (S_iv [(29, 320)] 2 103 hd_0) := k_iv (en_F E) (ax_ok0 E rfl) (ax_Evs_cons ((ev_v (en_c E (k := 29) rfl) rfl y_X2_set q2095 q2097 qs30 q122 q2098 nm_X2_set (Nat.le_of_ble_eq_true rfl) dX2_serve_100) : ax_EvV G l ax_Ym M_X2_serve 100 2 3 29 320) ax_Evs_nil)
theorem r_X2_serve_103 (E : ax_EN G l) : ax_Snd G l ax_Ym M_X2_serve 103 (S_aload 0 104) := k_aload_n dX2_serve_103 rfl
theorem r_X2_serve_104 (E : ax_EN G l) : ax_Snd G l ax_Ym M_X2_serve 104 (S_iv [(29, 331)] 0 107 hd_0) := k_iv (en_F E) (ax_ok0 E rfl) (ax_Evs_cons ((ev_v (en_c E (k := 29) rfl) rfl y_X2_pull q2204 q2206 qs40 q122 q2207 nm_X2_pull (Nat.le_of_ble_eq_true rfl) dX2_serve_104) : ax_EvV G l ax_Ym M_X2_serve 104 0 3 29 331) ax_Evs_nil)
theorem r_X2_serve_107 (E : ax_EN G l) : ax_Snd G l ax_Ym M_X2_serve 107 (S_iret) := k_iret dX2_serve_107 rfl
theorem r_X2_serve_108 (E : ax_EN G l) : ax_Snd G l ax_Ym M_X2_serve 108 (S_aload 0 109) := k_aload_n dX2_serve_108 rfl
theorem r_X2_serve_109 (E : ax_EN G l) : ax_Snd G l ax_Ym M_X2_serve 109 (S_iv [(29, 322)] 0 112 hd_0) := k_iv (en_F E) (ax_ok0 E rfl) (ax_Evs_cons ((ev_v (en_c E (k := 29) rfl) rfl y_X2_isWaiting q2108 q2110 qs32 q122 q2111 nm_X2_isWaiting (Nat.le_of_ble_eq_true rfl) dX2_serve_109) : ax_EvV G l ax_Ym M_X2_serve 109 0 3 29 322) ax_Evs_nil)
theorem r_X2_serve_112 (E : ax_EN G l) : ax_Snd G l ax_Ym M_X2_serve 112 (S_if1 (fun x => decide (x = 0)) 120 115) := k_if_eq dX2_serve_112 rfl
theorem r_X2_serve_115 (E : ax_EN G l) : ax_Snd G l ax_Ym M_X2_serve 115 (S_iload 4 117) := k_iload dX2_serve_115
theorem r_X2_serve_117 (E : ax_EN G l) : ax_Snd G l ax_Ym M_X2_serve 117 (S_goto 124) := k_goto dX2_serve_117 rfl
theorem r_X2_serve_120 (E : ax_EN G l) : ax_Snd G l ax_Ym M_X2_serve 120 (S_iload 4 122) := k_iload dX2_serve_120
theorem r_X2_serve_122 (E : ax_EN G l) : ax_Snd G l ax_Ym M_X2_serve 122 (S_push (.int (2)) 123) := k_iconst dX2_serve_122 rfl
theorem r_X2_serve_123 (E : ax_EN G l) : ax_Snd G l ax_Ym M_X2_serve 123 (S_i2 (fun x y => x - y) 124) := k_isub dX2_serve_123
theorem r_X2_serve_124 (E : ax_EN G l) : ax_Snd G l ax_Ym M_X2_serve 124 (S_iret) := k_iret dX2_serve_124 rfl
theorem r_X2_serve_125 (E : ax_EN G l) : ax_Snd G l ax_Ym M_X2_serve 125 (S_aload 0 126) := k_aload_n dX2_serve_125 rfl
theorem r_X2_serve_126 (E : ax_EN G l) : ax_Snd G l ax_Ym M_X2_serve 126 (S_push (.int (10)) 128) := k_bipush dX2_serve_126 rfl
theorem r_X2_serve_128 (E : ax_EN G l) : ax_Snd G l ax_Ym M_X2_serve 128 (S_iload 3 129) := k_iload_n dX2_serve_128 rfl
theorem r_X2_serve_129 (E : ax_EN G l) : ax_Snd G l ax_Ym M_X2_serve 129 (S_iv [(29, 320)] 2 132 hd_0) := k_iv (en_F E) (ax_ok0 E rfl) (ax_Evs_cons ((ev_v (en_c E (k := 29) rfl) rfl y_X2_set q2095 q2097 qs30 q122 q2098 nm_X2_set (Nat.le_of_ble_eq_true rfl) dX2_serve_129) : ax_EvV G l ax_Ym M_X2_serve 129 2 3 29 320) ax_Evs_nil)
theorem r_X2_serve_132 (E : ax_EN G l) : ax_Snd G l ax_Ym M_X2_serve 132 (S_aload 0 133) := k_aload_n dX2_serve_132 rfl
theorem r_X2_serve_133 (E : ax_EN G l) : ax_Snd G l ax_Ym M_X2_serve 133 (S_push (.int (11)) 135) := k_bipush dX2_serve_133 rfl
theorem r_X2_serve_135 (E : ax_EN G l) : ax_Snd G l ax_Ym M_X2_serve 135 (S_push (.int (0)) 136) := k_iconst dX2_serve_135 rfl
theorem r_X2_serve_136 (E : ax_EN G l) : ax_Snd G l ax_Ym M_X2_serve 136 (S_iv [(29, 320)] 2 139 hd_0) := k_iv (en_F E) (ax_ok0 E rfl) (ax_Evs_cons ((ev_v (en_c E (k := 29) rfl) rfl y_X2_set q2095 q2097 qs30 q122 q2098 nm_X2_set (Nat.le_of_ble_eq_true rfl) dX2_serve_136) : ax_EvV G l ax_Ym M_X2_serve 136 2 3 29 320) ax_Evs_nil)
theorem r_X2_serve_139 (E : ax_EN G l) : ax_Snd G l ax_Ym M_X2_serve 139 (S_iload 4 141) := k_iload dX2_serve_139
theorem r_X2_serve_141 (E : ax_EN G l) : ax_Snd G l ax_Ym M_X2_serve 141 (S_iret) := k_iret dX2_serve_141 rfl
theorem r_X2_serve_142 (E : ax_EN G l) : ax_Snd G l ax_Ym M_X2_serve 142 (S_aload 0 143) := k_aload_n dX2_serve_142 rfl
theorem r_X2_serve_143 (E : ax_EN G l) : ax_Snd G l ax_Ym M_X2_serve 143 (S_iload 2 144) := k_iload_n dX2_serve_143 rfl
theorem r_X2_serve_144 (E : ax_EN G l) : ax_Snd G l ax_Ym M_X2_serve 144 (S_aload 0 145) := k_aload_n dX2_serve_144 rfl
theorem r_X2_serve_145 (E : ax_EN G l) : ax_Snd G l ax_Ym M_X2_serve 145 (S_iv [(29, 333)] 0 148 hd_0) := k_iv (en_F E) (ax_ok0 E rfl) (ax_Evs_cons ((ev_v (en_c E (k := 29) rfl) rfl y_X2_read q2212 q2214 qs42 q122 q2215 nm_X2_read (Nat.le_of_ble_eq_true rfl) dX2_serve_145) : ax_EvV G l ax_Ym M_X2_serve 145 0 3 29 333) ax_Evs_nil)
theorem r_X2_serve_148 (E : ax_EN G l) : ax_Snd G l ax_Ym M_X2_serve 148 (S_iv [(29, 320)] 2 151 hd_0) := k_iv (en_F E) (ax_ok0 E rfl) (ax_Evs_cons ((ev_v (en_c E (k := 29) rfl) rfl y_X2_set q2095 q2097 qs30 q122 q2098 nm_X2_set (Nat.le_of_ble_eq_true rfl) dX2_serve_148) : ax_EvV G l ax_Ym M_X2_serve 148 2 3 29 320) ax_Evs_nil)
theorem r_X2_serve_151 (E : ax_EN G l) : ax_Snd G l ax_Ym M_X2_serve 151 (S_iload 4 153) := k_iload dX2_serve_151
theorem r_X2_serve_153 (E : ax_EN G l) : ax_Snd G l ax_Ym M_X2_serve 153 (S_iret) := k_iret dX2_serve_153 rfl
theorem r_X2_serve_154 (E : ax_EN G l) : ax_Snd G l ax_Ym M_X2_serve 154 (S_aload 0 155) := k_aload_n dX2_serve_154 rfl
theorem r_X2_serve_155 (E : ax_EN G l) : ax_Snd G l ax_Ym M_X2_serve 155 (S_getf [(29, 0)] 158) := k_getf (en_F E) (ax_fes_cons (fe_158 E) ax_fes_nil) q283 dX2_serve_155
theorem r_X2_serve_158 (E : ax_EN G l) : ax_Snd G l ax_Ym M_X2_serve 158 (S_push (.int (17)) 160) := k_bipush dX2_serve_158 rfl
theorem r_X2_serve_160 (E : ax_EN G l) : ax_Snd G l ax_Ym M_X2_serve 160 (S_iald 0 161) := k_iald (en_F E) dX2_serve_160
theorem r_X2_serve_161 (E : ax_EN G l) : ax_Snd G l ax_Ym M_X2_serve 161 (S_push (.int (60)) 163) := k_bipush dX2_serve_161 rfl
theorem r_X2_serve_163 (E : ax_EN G l) : ax_Snd G l ax_Ym M_X2_serve 163 (S_if2 (fun x y => decide (¬ x = y)) 174 166) := k_icmp_ne dX2_serve_163 rfl
theorem r_X2_serve_166 (E : ax_EN G l) : ax_Snd G l ax_Ym M_X2_serve 166 (S_new 35 [.null] 6 169) := k_new (en_F E) (mk_35 E) q2031 dX2_serve_166
theorem r_X2_serve_169 (E : ax_EN G l) : ax_Snd G l ax_Ym M_X2_serve 169 (S_dup 170) := k_dup dX2_serve_169
theorem r_X2_serve_170 (E : ax_EN G l) : ax_Snd G l ax_Ym M_X2_serve 170 (S_isp 364 0 173 hd_0) := k_isp (en_F E) (ax_ok0 E rfl) ((ev_i y_X25_init q2232 q2233 q169 q2234 nm_X25_init rfl (Nat.le_of_ble_eq_true rfl) dX2_serve_170) : ax_EvI G l ax_Ym M_X2_serve 170 364 0 3)
theorem r_X2_serve_173 (E : ax_EN G l) : ax_Snd G l ax_Ym M_X2_serve 173 (S_athrow hd_0) := k_athrow (en_F E) (ax_ok0 E rfl) dX2_serve_173
theorem r_X2_serve_174 (E : ax_EN G l) : ax_Snd G l ax_Ym M_X2_serve 174 (S_aload 0 175) := k_aload_n dX2_serve_174 rfl
theorem r_X2_serve_175 (E : ax_EN G l) : ax_Snd G l ax_Ym M_X2_serve 175 (S_push (.int (48)) 177) := k_bipush dX2_serve_175 rfl
theorem r_X2_serve_177 (E : ax_EN G l) : ax_Snd G l ax_Ym M_X2_serve 177 (S_aload 0 178) := k_aload_n dX2_serve_177 rfl
theorem r_X2_serve_178 (E : ax_EN G l) : ax_Snd G l ax_Ym M_X2_serve 178 (S_getf [(29, 0)] 181) := k_getf (en_F E) (ax_fes_cons (fe_158 E) ax_fes_nil) q283 dX2_serve_178
theorem r_X2_serve_181 (E : ax_EN G l) : ax_Snd G l ax_Ym M_X2_serve 181 (S_push (.int (17)) 183) := k_bipush dX2_serve_181 rfl
theorem r_X2_serve_183 (E : ax_EN G l) : ax_Snd G l ax_Ym M_X2_serve 183 (S_iald 0 184) := k_iald (en_F E) dX2_serve_183
theorem r_X2_serve_184 (E : ax_EN G l) : ax_Snd G l ax_Ym M_X2_serve 184 (S_i2 (fun x y => x + y) 185) := k_iadd dX2_serve_184
theorem r_X2_serve_185 (E : ax_EN G l) : ax_Snd G l ax_Ym M_X2_serve 185 (S_iload 3 186) := k_iload_n dX2_serve_185 rfl
theorem r_X2_serve_186 (E : ax_EN G l) : ax_Snd G l ax_Ym M_X2_serve 186 (S_iv [(29, 320)] 2 189 hd_0) := k_iv (en_F E) (ax_ok0 E rfl) (ax_Evs_cons ((ev_v (en_c E (k := 29) rfl) rfl y_X2_set q2095 q2097 qs30 q122 q2098 nm_X2_set (Nat.le_of_ble_eq_true rfl) dX2_serve_186) : ax_EvV G l ax_Ym M_X2_serve 186 2 3 29 320) ax_Evs_nil)
theorem r_X2_serve_189 (E : ax_EN G l) : ax_Snd G l ax_Ym M_X2_serve 189 (S_aload 0 190) := k_aload_n dX2_serve_189 rfl
theorem r_X2_serve_190 (E : ax_EN G l) : ax_Snd G l ax_Ym M_X2_serve 190 (S_push (.int (17)) 192) := k_bipush dX2_serve_190 rfl
theorem r_X2_serve_192 (E : ax_EN G l) : ax_Snd G l ax_Ym M_X2_serve 192 (S_aload 0 193) := k_aload_n dX2_serve_192 rfl
theorem r_X2_serve_193 (E : ax_EN G l) : ax_Snd G l ax_Ym M_X2_serve 193 (S_getf [(29, 0)] 196) := k_getf (en_F E) (ax_fes_cons (fe_158 E) ax_fes_nil) q283 dX2_serve_193
theorem r_X2_serve_196 (E : ax_EN G l) : ax_Snd G l ax_Ym M_X2_serve 196 (S_push (.int (17)) 198) := k_bipush dX2_serve_196 rfl
theorem r_X2_serve_198 (E : ax_EN G l) : ax_Snd G l ax_Ym M_X2_serve 198 (S_iald 0 199) := k_iald (en_F E) dX2_serve_198
theorem r_X2_serve_199 (E : ax_EN G l) : ax_Snd G l ax_Ym M_X2_serve 199 (S_push (.int (1)) 200) := k_iconst dX2_serve_199 rfl
theorem r_X2_serve_200 (E : ax_EN G l) : ax_Snd G l ax_Ym M_X2_serve 200 (S_i2 (fun x y => x + y) 201) := k_iadd dX2_serve_200
theorem r_X2_serve_201 (E : ax_EN G l) : ax_Snd G l ax_Ym M_X2_serve 201 (S_iv [(29, 320)] 2 204 hd_0) := k_iv (en_F E) (ax_ok0 E rfl) (ax_Evs_cons ((ev_v (en_c E (k := 29) rfl) rfl y_X2_set q2095 q2097 qs30 q122 q2098 nm_X2_set (Nat.le_of_ble_eq_true rfl) dX2_serve_201) : ax_EvV G l ax_Ym M_X2_serve 201 2 3 29 320) ax_Evs_nil)
theorem r_X2_serve_204 (E : ax_EN G l) : ax_Snd G l ax_Ym M_X2_serve 204 (S_iload 4 206) := k_iload dX2_serve_204
theorem r_X2_serve_206 (E : ax_EN G l) : ax_Snd G l ax_Ym M_X2_serve 206 (S_iret) := k_iret dX2_serve_206 rfl
theorem r_X2_serve_207 (E : ax_EN G l) : ax_Snd G l ax_Ym M_X2_serve 207 (S_aload 0 208) := k_aload_n dX2_serve_207 rfl
theorem r_X2_serve_208 (E : ax_EN G l) : ax_Snd G l ax_Ym M_X2_serve 208 (S_iload 3 209) := k_iload_n dX2_serve_208 rfl
theorem r_X2_serve_209 (E : ax_EN G l) : ax_Snd G l ax_Ym M_X2_serve 209 (S_iv [(29, 335)] 1 212 hd_0) := k_iv (en_F E) (ax_ok0 E rfl) (ax_Evs_cons ((ev_v (en_c E (k := 29) rfl) rfl y_X2_call q2239 q2241 qs44 q122 q2242 nm_X2_call (Nat.le_of_ble_eq_true rfl) dX2_serve_209) : ax_EvV G l ax_Ym M_X2_serve 209 1 3 29 335) ax_Evs_nil)
theorem r_X2_serve_212 (E : ax_EN G l) : ax_Snd G l ax_Ym M_X2_serve 212 (S_if1 (fun x => decide (x = 0)) 220 215) := k_if_eq dX2_serve_212 rfl
theorem r_X2_serve_215 (E : ax_EN G l) : ax_Snd G l ax_Ym M_X2_serve 215 (S_iload 4 217) := k_iload dX2_serve_215
theorem r_X2_serve_217 (E : ax_EN G l) : ax_Snd G l ax_Ym M_X2_serve 217 (S_goto 224) := k_goto dX2_serve_217 rfl
theorem r_X2_serve_220 (E : ax_EN G l) : ax_Snd G l ax_Ym M_X2_serve 220 (S_iload 4 222) := k_iload dX2_serve_220
theorem r_X2_serve_222 (E : ax_EN G l) : ax_Snd G l ax_Ym M_X2_serve 222 (S_push (.int (2)) 223) := k_iconst dX2_serve_222 rfl
theorem r_X2_serve_223 (E : ax_EN G l) : ax_Snd G l ax_Ym M_X2_serve 223 (S_i2 (fun x y => x - y) 224) := k_isub dX2_serve_223
theorem r_X2_serve_224 (E : ax_EN G l) : ax_Snd G l ax_Ym M_X2_serve 224 (S_iret) := k_iret dX2_serve_224 rfl
theorem mt_X2_serve (E : ax_EN G l) : ax_mt G l ax_Ym (6, P_X2_serve) (ax_Ym 332) := ⟨M_X2_serve, yX2_serve, ⟨rfl, by decide +kernel, rfl, (fun h => by cases h), Or.inl ⟨rfl, rfl⟩⟩, fun pc => (ax_sn_node (ax_sn_node (ax_sn_node (ax_sn_node (ax_sn_node (ax_sn_node (ax_sn_node (ax_sn_leaf (r_X2_serve_224 E)) (ax_sn_leaf (r_X2_serve_223 E))) (ax_sn_node (ax_sn_leaf (r_X2_serve_222 E)) (ax_sn_leaf (r_X2_serve_220 E)))) (ax_sn_node (ax_sn_node (ax_sn_leaf (r_X2_serve_217 E)) (ax_sn_leaf (r_X2_serve_215 E))) (ax_sn_leaf (r_X2_serve_212 E)))) (ax_sn_node (ax_sn_node (ax_sn_node (ax_sn_leaf (r_X2_serve_209 E)) (ax_sn_leaf (r_X2_serve_208 E))) (ax_sn_node (ax_sn_leaf (r_X2_serve_207 E)) (ax_sn_leaf (r_X2_serve_206 E)))) (ax_sn_node (ax_sn_node (ax_sn_leaf (r_X2_serve_204 E)) (ax_sn_leaf (r_X2_serve_201 E))) (ax_sn_leaf (r_X2_serve_200 E))))) (ax_sn_node (ax_sn_node (ax_sn_node (ax_sn_node (ax_sn_leaf (r_X2_serve_199 E)) (ax_sn_leaf (r_X2_serve_198 E))) (ax_sn_node (ax_sn_leaf (r_X2_serve_196 E)) (ax_sn_leaf (r_X2_serve_193 E)))) (ax_sn_node (ax_sn_node (ax_sn_leaf (r_X2_serve_192 E)) (ax_sn_leaf (r_X2_serve_190 E))) (ax_sn_leaf (r_X2_serve_189 E)))) (ax_sn_node (ax_sn_node (ax_sn_node (ax_sn_leaf (r_X2_serve_186 E)) (ax_sn_leaf (r_X2_serve_185 E))) (ax_sn_leaf (r_X2_serve_184 E))) (ax_sn_node (ax_sn_node (ax_sn_leaf (r_X2_serve_183 E)) (ax_sn_leaf (r_X2_serve_181 E))) (ax_sn_leaf (r_X2_serve_178 E)))))) (ax_sn_node (ax_sn_node (ax_sn_node (ax_sn_node (ax_sn_node (ax_sn_leaf (r_X2_serve_177 E)) (ax_sn_leaf (r_X2_serve_175 E))) (ax_sn_node (ax_sn_leaf (r_X2_serve_174 E)) (ax_sn_leaf (r_X2_serve_173 E)))) (ax_sn_node (ax_sn_node (ax_sn_leaf (r_X2_serve_170 E)) (ax_sn_leaf (r_X2_serve_169 E))) (ax_sn_leaf (r_X2_serve_166 E)))) (ax_sn_node (ax_sn_node (ax_sn_node (ax_sn_leaf (r_X2_serve_163 E)) (ax_sn_leaf (r_X2_serve_161 E))) (ax_sn_leaf (r_X2_serve_160 E))) (ax_sn_node (ax_sn_node (ax_sn_leaf (r_X2_serve_158 E)) (ax_sn_leaf (r_X2_serve_155 E))) (ax_sn_leaf (r_X2_serve_154 E))))) (ax_sn_node (ax_sn_node (ax_sn_node (ax_sn_node (ax_sn_leaf (r_X2_serve_153 E)) (ax_sn_leaf (r_X2_serve_151 E))) (ax_sn_node (ax_sn_leaf (r_X2_serve_148 E)) (ax_sn_leaf (r_X2_serve_145 E)))) (ax_sn_node (ax_sn_node (ax_sn_leaf (r_X2_serve_144 E)) (ax_sn_leaf (r_X2_serve_143 E))) (ax_sn_leaf (r_X2_serve_142 E)))) (ax_sn_node (ax_sn_node (ax_sn_node (ax_sn_leaf (r_X2_serve_141 E)) (ax_sn_leaf (r_X2_serve_139 E))) (ax_sn_leaf (r_X2_serve_136 E))) (ax_sn_node (ax_sn_node (ax_sn_leaf (r_X2_serve_135 E)) (ax_sn_leaf (r_X2_serve_133 E))) (ax_sn_leaf (r_X2_serve_132 E))))))) (ax_sn_node (ax_sn_node (ax_sn_node (ax_sn_node (ax_sn_node (ax_sn_node (ax_sn_leaf (r_X2_serve_129 E)) (ax_sn_leaf (r_X2_serve_128 E))) (ax_sn_node (ax_sn_leaf (r_X2_serve_126 E)) (ax_sn_leaf (r_X2_serve_125 E)))) (ax_sn_node (ax_sn_node (ax_sn_leaf (r_X2_serve_124 E)) (ax_sn_leaf (r_X2_serve_123 E))) (ax_sn_leaf (r_X2_serve_122 E)))) (ax_sn_node (ax_sn_node (ax_sn_node (ax_sn_leaf (r_X2_serve_120 E)) (ax_sn_leaf (r_X2_serve_117 E))) (ax_sn_node (ax_sn_leaf (r_X2_serve_115 E)) (ax_sn_leaf (r_X2_serve_112 E)))) (ax_sn_node (ax_sn_node (ax_sn_leaf (r_X2_serve_109 E)) (ax_sn_leaf (r_X2_serve_108 E))) (ax_sn_leaf (r_X2_serve_107 E))))) (ax_sn_node (ax_sn_node (ax_sn_node (ax_sn_node (ax_sn_leaf (r_X2_serve_104 E)) (ax_sn_leaf (r_X2_serve_103 E))) (ax_sn_node (ax_sn_leaf (r_X2_serve_100 E)) (ax_sn_leaf (r_X2_serve_99 E)))) (ax_sn_node (ax_sn_node (ax_sn_leaf (r_X2_serve_97 E)) (ax_sn_leaf (r_X2_serve_96 E))) (ax_sn_leaf (r_X2_serve_93 E)))) (ax_sn_node (ax_sn_node (ax_sn_node (ax_sn_leaf (r_X2_serve_92 E)) (ax_sn_leaf (r_X2_serve_91 E))) (ax_sn_leaf (r_X2_serve_90 E))) (ax_sn_node (ax_sn_node (ax_sn_leaf (r_X2_serve_89 E)) (ax_sn_leaf (r_X2_serve_87 E))) (ax_sn_leaf (r_X2_serve_85 E)))))) (ax_sn_node (ax_sn_node (ax_sn_node (ax_sn_node (ax_sn_node (ax_sn_leaf (r_X2_serve_84 E)) (ax_sn_leaf (r_X2_serve_81 E))) (ax_sn_node (ax_sn_leaf (r_X2_serve_80 E)) (ax_sn_leaf (r_X2_serve_79 E)))) (ax_sn_node (ax_sn_node (ax_sn_leaf (r_X2_serve_77 E)) (ax_sn_leaf (r_X2_serve_76 E))) (ax_sn_leaf (r_X2_serve_75 E)))) (ax_sn_node (ax_sn_node (ax_sn_node (ax_sn_leaf (r_X2_serve_73 E)) (ax_sn_leaf (r_X2_serve_70 E))) (ax_sn_leaf (r_X2_serve_69 E))) (ax_sn_node (ax_sn_node (ax_sn_leaf (r_X2_serve_66 E)) (ax_sn_leaf (r_X2_serve_65 E))) (ax_sn_leaf (r_X2_serve_64 E))))) (ax_sn_node (ax_sn_node (ax_sn_node (ax_sn_node (ax_sn_leaf (r_X2_serve_63 E)) (ax_sn_leaf (r_X2_serve_61 E))) (ax_sn_node (ax_sn_leaf (r_X2_serve_58 E)) (ax_sn_leaf (r_X2_serve_57 E)))) (ax_sn_node (ax_sn_node (ax_sn_leaf (r_X2_serve_54 E)) (ax_sn_leaf (r_X2_serve_53 E))) (ax_sn_leaf (r_X2_serve_50 E)))) (ax_sn_node (ax_sn_node (ax_sn_node (ax_sn_leaf (r_X2_serve_48 E)) (ax_sn_leaf (r_X2_serve_47 E))) (ax_sn_leaf (r_X2_serve_45 E))) (ax_sn_node (ax_sn_node (ax_sn_leaf (r_X2_serve_44 E)) (ax_sn_leaf (r_X2_serve_1 E))) (ax_sn_leaf (r_X2_serve_0 E))))))))⟩
theorem r_X2_read_0 (E : ax_EN G l) : ax_Snd G l ax_Ym M_X2_read 0 (S_aload 0 1) := k_aload_n dX2_read_0 rfl
theorem r_X2_read_1 (E : ax_EN G l) : ax_Snd G l ax_Ym M_X2_read 1 (S_getf [(29, 0)] 4) := k_getf (en_F E) (ax_fes_cons (fe_158 E) ax_fes_nil) q283 dX2_read_1
theorem r_X2_read_4 (E : ax_EN G l) : ax_Snd G l ax_Ym M_X2_read 4 (S_push (.int (16)) 6) := k_bipush dX2_read_4 rfl
theorem r_X2_read_6 (E : ax_EN G l) : ax_Snd G l ax_Ym M_X2_read 6 (S_iald 0 7) := k_iald (en_F E) dX2_read_6
theorem r_X2_read_7 (E : ax_EN G l) : ax_Snd G l ax_Ym M_X2_read 7 (S_aload 0 8) := k_aload_n dX2_read_7 rfl
theorem r_X2_read_8 (E : ax_EN G l) : ax_Snd G l ax_Ym M_X2_read 8 (S_push (.int (0)) 9) := k_iconst dX2_read_8 rfl
theorem r_X2_read_9 (E : ax_EN G l) : ax_Snd G l ax_Ym M_X2_read 9 (S_aload 0 10) := k_aload_n dX2_read_9 rfl
theorem r_X2_read_10 (E : ax_EN G l) : ax_Snd G l ax_Ym M_X2_read 10 (S_getf [(29, 0)] 13) := k_getf (en_F E) (ax_fes_cons (fe_158 E) ax_fes_nil) q283 dX2_read_10
theorem r_X2_read_13 (E : ax_EN G l) : ax_Snd G l ax_Ym M_X2_read 13 (S_push (.int (2)) 14) := k_iconst dX2_read_13 rfl
theorem r_X2_read_14 (E : ax_EN G l) : ax_Snd G l ax_Ym M_X2_read 14 (S_iald 0 15) := k_iald (en_F E) dX2_read_14
theorem r_X2_read_15 (E : ax_EN G l) : ax_Snd G l ax_Ym M_X2_read 15 (S_iv [(29, 334)] 2 18 hd_0) := k_iv (en_F E) (ax_ok0 E rfl) (ax_Evs_cons ((ev_v (en_c E (k := 29) rfl) rfl y_X2_told q2216 q2218 qs43 q122 q2219 nm_X2_told (Nat.le_of_ble_eq_true rfl) dX2_read_15) : ax_EvV G l ax_Ym M_X2_read 15 2 3 29 334) ax_Evs_nil)
theorem r_X2_read_18 (E : ax_EN G l) : ax_Snd G l ax_Ym M_X2_read 18 (S_if2 (fun x y => decide (¬ x = y)) 24 21) := k_icmp_ne dX2_read_18 rfl
theorem r_X2_read_21 (E : ax_EN G l) : ax_Snd G l ax_Ym M_X2_read 21 (S_push (.int (65535)) 23) := k_ldc q2223 dX2_read_21
theorem r_X2_read_23 (E : ax_EN G l) : ax_Snd G l ax_Ym M_X2_read 23 (S_iret) := k_iret dX2_read_23 rfl
theorem r_X2_read_24 (E : ax_EN G l) : ax_Snd G l ax_Ym M_X2_read 24 (S_aload 0 25) := k_aload_n dX2_read_24 rfl
theorem r_X2_read_25 (E : ax_EN G l) : ax_Snd G l ax_Ym M_X2_read 25 (S_getf [(29, 1)] 28) := k_getf (en_F E) (ax_fes_cons (fe_183 E) ax_fes_nil) q286 dX2_read_25
theorem r_X2_read_28 (E : ax_EN G l) : ax_Snd G l ax_Ym M_X2_read 28 (S_aload 0 29) := k_aload_n dX2_read_28 rfl
theorem r_X2_read_29 (E : ax_EN G l) : ax_Snd G l ax_Ym M_X2_read 29 (S_getf [(29, 0)] 32) := k_getf (en_F E) (ax_fes_cons (fe_158 E) ax_fes_nil) q283 dX2_read_29
theorem r_X2_read_32 (E : ax_EN G l) : ax_Snd G l ax_Ym M_X2_read 32 (S_push (.int (16)) 34) := k_bipush dX2_read_32 rfl
theorem r_X2_read_34 (E : ax_EN G l) : ax_Snd G l ax_Ym M_X2_read 34 (S_iald 0 35) := k_iald (en_F E) dX2_read_34
theorem r_X2_read_35 (E : ax_EN G l) : ax_Snd G l ax_Ym M_X2_read 35 (S_iv [(15, 127)] 1 38 hd_0) := k_iv (en_F E) (ax_ok0 E rfl) (ax_Evs_cons ((ev_v (en_c E (k := 15) rfl) rfl y_J4_get q2221 q836 q3461 q124 q838 nm_J4_get (Nat.le_of_ble_eq_true rfl) dX2_read_35) : ax_EvV G l ax_Ym M_X2_read 35 1 3 15 127) ax_Evs_nil)
theorem r_X2_read_38 (E : ax_EN G l) : ax_Snd G l ax_Ym M_X2_read 38 (S_cast [36] 41) := k_cast (en_F E) (en_B E) (cs_315 E) q2222 dX2_read_38
theorem r_X2_read_41 (E : ax_EN G l) : ax_Snd G l ax_Ym M_X2_read 41 (S_getf [(36, 1)] 44) := k_getfN (en_F E) (en_B E) (ax_fes_cons (fe_316 E) ax_fes_nil) q2405 dX2_read_41
theorem r_X2_read_44 (E : ax_EN G l) : ax_Snd G l ax_Ym M_X2_read 44 (S_istore 1 45) := k_istore_n dX2_read_44 rfl (Nat.le_of_ble_eq_true rfl)
theorem r_X2_read_45 (E : ax_EN G l) : ax_Snd G l ax_Ym M_X2_read 45 (S_aload 0 46) := k_aload_n dX2_read_45 rfl
theorem r_X2_read_46 (E : ax_EN G l) : ax_Snd G l ax_Ym M_X2_read 46 (S_push (.int (16)) 48) := k_bipush dX2_read_46 rfl
theorem r_X2_read_48 (E : ax_EN G l) : ax_Snd G l ax_Ym M_X2_read 48 (S_aload 0 49) := k_aload_n dX2_read_48 rfl
theorem r_X2_read_49 (E : ax_EN G l) : ax_Snd G l ax_Ym M_X2_read 49 (S_getf [(29, 0)] 52) := k_getf (en_F E) (ax_fes_cons (fe_158 E) ax_fes_nil) q283 dX2_read_49
theorem r_X2_read_52 (E : ax_EN G l) : ax_Snd G l ax_Ym M_X2_read 52 (S_push (.int (16)) 54) := k_bipush dX2_read_52 rfl
theorem r_X2_read_54 (E : ax_EN G l) : ax_Snd G l ax_Ym M_X2_read 54 (S_iald 0 55) := k_iald (en_F E) dX2_read_54
theorem r_X2_read_55 (E : ax_EN G l) : ax_Snd G l ax_Ym M_X2_read 55 (S_push (.int (1)) 56) := k_iconst dX2_read_55 rfl
theorem r_X2_read_56 (E : ax_EN G l) : ax_Snd G l ax_Ym M_X2_read 56 (S_i2 (fun x y => x + y) 57) := k_iadd dX2_read_56
theorem r_X2_read_57 (E : ax_EN G l) : ax_Snd G l ax_Ym M_X2_read 57 (S_iv [(29, 320)] 2 60 hd_0) := k_iv (en_F E) (ax_ok0 E rfl) (ax_Evs_cons ((ev_v (en_c E (k := 29) rfl) rfl y_X2_set q2095 q2097 qs30 q122 q2098 nm_X2_set (Nat.le_of_ble_eq_true rfl) dX2_read_57) : ax_EvV G l ax_Ym M_X2_read 57 2 3 29 320) ax_Evs_nil)
theorem r_X2_read_60 (E : ax_EN G l) : ax_Snd G l ax_Ym M_X2_read 60 (S_iload 1 61) := k_iload_n dX2_read_60 rfl
theorem r_X2_read_61 (E : ax_EN G l) : ax_Snd G l ax_Ym M_X2_read 61 (S_iret) := k_iret dX2_read_61 rfl
theorem mt_X2_read (E : ax_EN G l) : ax_mt G l ax_Ym (2, P_X2_read) (ax_Ym 333) := ⟨M_X2_read, yX2_read, ⟨rfl, by decide +kernel, rfl, (fun h => by cases h), Or.inl ⟨rfl, rfl⟩⟩, fun pc => (ax_sn_node (ax_sn_node (ax_sn_node (ax_sn_node (ax_sn_node (ax_sn_node (ax_sn_leaf (r_X2_read_61 E)) (ax_sn_leaf (r_X2_read_60 E))) (ax_sn_leaf (r_X2_read_57 E))) (ax_sn_node (ax_sn_leaf (r_X2_read_56 E)) (ax_sn_leaf (r_X2_read_55 E)))) (ax_sn_node (ax_sn_node (ax_sn_leaf (r_X2_read_54 E)) (ax_sn_leaf (r_X2_read_52 E))) (ax_sn_node (ax_sn_leaf (r_X2_read_49 E)) (ax_sn_leaf (r_X2_read_48 E))))) (ax_sn_node (ax_sn_node (ax_sn_node (ax_sn_node (ax_sn_leaf (r_X2_read_46 E)) (ax_sn_leaf (r_X2_read_45 E))) (ax_sn_leaf (r_X2_read_44 E))) (ax_sn_node (ax_sn_leaf (r_X2_read_41 E)) (ax_sn_leaf (r_X2_read_38 E)))) (ax_sn_node (ax_sn_node (ax_sn_leaf (r_X2_read_35 E)) (ax_sn_leaf (r_X2_read_34 E))) (ax_sn_node (ax_sn_leaf (r_X2_read_32 E)) (ax_sn_leaf (r_X2_read_29 E)))))) (ax_sn_node (ax_sn_node (ax_sn_node (ax_sn_node (ax_sn_node (ax_sn_leaf (r_X2_read_28 E)) (ax_sn_leaf (r_X2_read_25 E))) (ax_sn_leaf (r_X2_read_24 E))) (ax_sn_node (ax_sn_leaf (r_X2_read_23 E)) (ax_sn_leaf (r_X2_read_21 E)))) (ax_sn_node (ax_sn_node (ax_sn_leaf (r_X2_read_18 E)) (ax_sn_leaf (r_X2_read_15 E))) (ax_sn_node (ax_sn_leaf (r_X2_read_14 E)) (ax_sn_leaf (r_X2_read_13 E))))) (ax_sn_node (ax_sn_node (ax_sn_node (ax_sn_leaf (r_X2_read_10 E)) (ax_sn_leaf (r_X2_read_9 E))) (ax_sn_node (ax_sn_leaf (r_X2_read_8 E)) (ax_sn_leaf (r_X2_read_7 E)))) (ax_sn_node (ax_sn_node (ax_sn_leaf (r_X2_read_6 E)) (ax_sn_leaf (r_X2_read_4 E))) (ax_sn_node (ax_sn_leaf (r_X2_read_1 E)) (ax_sn_leaf (r_X2_read_0 E)))))))⟩
end ROW
