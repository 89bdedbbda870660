/-! the law: the methods that catch, the blocks of its loop (printed by gen/emit99y.py) -/
/- with JH WRP law1 law3 law3t c_mn OPJ ex2 exI o_clear o_lines o_section o_label o_code o_word o_space o_vector o_macro o_endMacro o_use o_error o_assemble o_image o_start o_crash o_format o_step o_runTo o_back o_press o_state o_fault o_steps o_kept o_counter o_stack o_flags o_writesLeft o_register o_memory o_changedAt o_tape o_tapeAt o_sum o_sumAnew o_written o_disk o_files o_size o_wordOf o_freeBlocks o_isWhole o_testKey o_testWord o_addTest o_tests o_submit o_result o_mark b_L_law_1019 b_L_law_1063 b_L_law_1107 b_L_law_1151 b_L_law_1207 b_L_law_1275 b_L_law_1331 b_L_law_1387 b_L_law_1400 b_L_law_1413 b_L_law_1426 b_L_law_1439 b_L_law_1452 b_L_law_1465 b_L_law_1478 b_L_law_1491 b_L_law_1547 b_L_law_1603 b_L_law_1659 b_L_law_1672 b_L_law_1728 b_L_law_1741 b_L_law_1797 b_L_law_1810 b_L_law_1878 b_L_law_1891 b_L_law_1947 b_L_law_2015 b_L_law_2028 b_L_law_2041 b_L_law_2097 b_L_law_2153 b_L_law_2245 b_L_law_2258 b_L_law_23 b_L_law_2302 b_L_law_2358 b_L_law_256 b_L_law_269 b_L_law_282 b_L_law_338 b_L_law_394 b_L_law_498 b_L_law_566 b_L_law_622 b_L_law_702 b_L_law_758 b_L_law_802 b_L_law_906 b_L_law_919 b_L_law_963 b_X0_addTest_17 b_X0_addTest_21 b_X0_assemble_11 b_X0_back_12 b_X0_back_15 b_X0_changedAt_12 b_X0_code_19 b_X0_code_23 b_X0_crash_11 b_X0_disk_13 b_X0_endMacro_11 b_X0_format_11 b_X0_image_12 b_X0_image_15 b_X0_label_12 b_X0_label_15 b_X0_macro_12 b_X0_macro_15 b_X0_memory_12 b_X0_press_12 b_X0_press_15 b_X0_register_12 b_X0_result_12 b_X0_runTo_13 b_X0_runTo_17 b_X0_section_12 b_X0_section_15 b_X0_size_12 b_X0_size_15 b_X0_space_12 b_X0_space_15 b_X0_start_11 b_X0_step_12 b_X0_step_15 b_X0_submit_11 b_X0_sumAnew_12 b_X0_sumAnew_15 b_X0_tapeAt_12 b_X0_testKey_12 b_X0_testKey_15 b_X0_testWord_12 b_X0_testWord_15 b_X0_use_19 b_X0_use_23 b_X0_vector_15 b_X0_vector_19 b_X0_wordOf_13 b_X0_wordOf_17 b_X0_wordOf_21 b_X0_word_13 b_X0_word_17 m_L_law m_X0_addTest m_X0_assemble m_X0_back m_X0_changedAt m_X0_code m_X0_crash m_X0_disk m_X0_endMacro m_X0_format m_X0_image m_X0_label m_X0_macro m_X0_memory m_X0_press m_X0_register m_X0_result m_X0_runTo m_X0_section m_X0_size m_X0_space m_X0_start m_X0_step m_X0_submit m_X0_sumAnew m_X0_tapeAt m_X0_testKey m_X0_testWord m_X0_use m_X0_vector m_X0_word m_X0_wordOf -/
def ex3 (k : Nat) : Int32 := if k = 18 then 1 else 0
def ex4 (k : Nat) : Int32 := if k = 6 ∨ k = 46 then 1 else 0
def ex5 (k : Nat) : Int32 := if k = 0 ∨ k = 44 then 1 else if k = 18 then 2 else 0
def ex6 (k : Nat) : Int32 := if k = 18 then 1 else if k = 7 ∨ k = 45 then 2 else 0
def ex7 (k : Nat) : Int32 := if k = 18 then 1 else if k = 7 ∨ k = 45 then 2 else if k = 6 ∨ k = 46 then 3 else 0
theorem ex2_k {k : Nat} (h : ex2 k ≠ 0) : k = 18 ∨ k = 0 ∨ k = 44 := by
  unfold ex2 at h
  split at h
  · omega
  split at h
  · omega
  · exact absurd rfl h
theorem exI_k {k : Nat} (h : exI k ≠ 0) : k = 0 ∨ k = 44 := by
  unfold exI at h
  split at h
  · omega
  · exact absurd rfl h
theorem ex3_k {k : Nat} (h : ex3 k ≠ 0) : k = 18 := by
  unfold ex3 at h
  split at h
  · omega
  · exact absurd rfl h
theorem ex4_k {k : Nat} (h : ex4 k ≠ 0) : k = 6 ∨ k = 46 := by
  unfold ex4 at h
  split at h
  · omega
  · exact absurd rfl h
theorem ex5_k {k : Nat} (h : ex5 k ≠ 0) : k = 18 ∨ k = 0 ∨ k = 44 := by
  unfold ex5 at h
  split at h
  · omega
  split at h
  · omega
  · exact absurd rfl h
theorem ex6_k {k : Nat} (h : ex6 k ≠ 0) : k = 18 ∨ k = 7 ∨ k = 45 := by
  unfold ex6 at h
  split at h
  · omega
  split at h
  · omega
  · exact absurd rfl h
theorem ex7_k {k : Nat} (h : ex7 k ≠ 0) : k = 18 ∨ k = 7 ∨ k = 45 ∨ k = 6 ∨ k = 46 := by
  unfold ex7 at h
  split at h
  · omega
  split at h
  · omega
  split at h
  · omega
  · exact absurd rfl h
section LBS
variable {i L d : Nat} {xs : Nat → Int32} {h : ax_H} {v : Option Value ⊕ Nat} {Q : ax_H → Prop}
theorem w_section {x1 : Int32} : (∃ iv, GO h iv) → WRP h (ax_c d 231 [.ref 400, .int x1] h) (ax_c (d + 1) 178 [.ref 400, .int x1, .ref 460] h) ex2 := by
  rintro ⟨iv, G⟩
  have v1 : dx_vn [(19, 231)] (.ref 400) h = some 231 := vn_at G
  refine ⟨fun v h1 f e e4 => dx_app (m_X0_section rfl rfl) ?_, fun j h1 k fs e j4 ej ne => dx_app (m_X0_section rfl rfl) ?_⟩
  · rw [v1, Option.bind_some, e, cI_v, sJ_at e4 (by omega), ix_of (k := 0) (n := 1) (i := 0) rfl (by omega) (by omega), Option.bind_some, Option.bind_some]
  · rw [v1, Option.bind_some, e, cI_x]
    unfold dx_xp
    rw [if_neg (show ¬ j < 400 by omega), ej]
    rcases ex2_k ne with rfl | rfl | rfl
    · exact dx_app b_X0_section_12 rfl
    · exact dx_app b_X0_section_15 rfl
    · exact dx_app b_X0_section_15 rfl
theorem w_label {x1 : Int32} : (∃ iv, GO h iv) → WRP h (ax_c d 235 [.ref 400, .int x1] h) (ax_c (d + 1) 179 [.ref 400, .int x1, .ref 460] h) ex2 := by
  rintro ⟨iv, G⟩
  have v1 : dx_vn [(19, 235)] (.ref 400) h = some 235 := vn_at G
  refine ⟨fun v h1 f e e4 => dx_app (m_X0_label rfl rfl) ?_, fun j h1 k fs e j4 ej ne => dx_app (m_X0_label rfl rfl) ?_⟩
  · rw [v1, Option.bind_some, e, cI_v, sJ_at e4 (by omega), ix_of (k := 0) (n := 1) (i := 0) rfl (by omega) (by omega), Option.bind_some, Option.bind_some]
  · rw [v1, Option.bind_some, e, cI_x]
    unfold dx_xp
    rw [if_neg (show ¬ j < 400 by omega), ej]
    rcases ex2_k ne with rfl | rfl | rfl
    · exact dx_app b_X0_label_12 rfl
    · exact dx_app b_X0_label_15 rfl
    · exact dx_app b_X0_label_15 rfl
theorem w_code {x1 x2 x3 x4 x5 : Int32} : (∃ iv, GO h iv) → WRP h (ax_c d 236 [.ref 400, .int x1, .int x2, .int x3, .int x4, .int x5] h) (ax_c (d + 1) 180 [.ref 400, .int x1, .int x2, .int x3, .int x4, .int x5, .ref 460] h) ex2 := by
  rintro ⟨iv, G⟩
  have v1 : dx_vn [(19, 236)] (.ref 400) h = some 236 := vn_at G
  refine ⟨fun v h1 f e e4 => dx_app (m_X0_code rfl rfl) ?_, fun j h1 k fs e j4 ej ne => dx_app (m_X0_code rfl rfl) ?_⟩
  · rw [v1, Option.bind_some, e, cI_v, sJ_at e4 (by omega), ix_of (k := 0) (n := 1) (i := 0) rfl (by omega) (by omega), Option.bind_some, Option.bind_some]
  · rw [v1, Option.bind_some, e, cI_x]
    unfold dx_xp
    rw [if_neg (show ¬ j < 400 by omega), ej]
    rcases ex2_k ne with rfl | rfl | rfl
    · exact dx_app b_X0_code_19 rfl
    · exact dx_app b_X0_code_23 rfl
    · exact dx_app b_X0_code_23 rfl
theorem w_word {x1 x2 : Int32} : (∃ iv, GO h iv) → WRP h (ax_c d 238 [.ref 400, .int x1, .int x2] h) (ax_c (d + 1) 181 [.ref 400, .int x1, .int x2, .ref 460] h) ex2 := by
  rintro ⟨iv, G⟩
  have v1 : dx_vn [(19, 238)] (.ref 400) h = some 238 := vn_at G
  refine ⟨fun v h1 f e e4 => dx_app (m_X0_word rfl rfl) ?_, fun j h1 k fs e j4 ej ne => dx_app (m_X0_word rfl rfl) ?_⟩
  · rw [v1, Option.bind_some, e, cI_v, sJ_at e4 (by omega), ix_of (k := 0) (n := 1) (i := 0) rfl (by omega) (by omega), Option.bind_some, Option.bind_some]
  · rw [v1, Option.bind_some, e, cI_x]
    unfold dx_xp
    rw [if_neg (show ¬ j < 400 by omega), ej]
    rcases ex2_k ne with rfl | rfl | rfl
    · exact dx_app b_X0_word_13 rfl
    · exact dx_app b_X0_word_17 rfl
    · exact dx_app b_X0_word_17 rfl
theorem w_space {x1 : Int32} : (∃ iv, GO h iv) → WRP h (ax_c d 239 [.ref 400, .int x1] h) (ax_c (d + 1) 182 [.ref 400, .int x1, .ref 460] h) ex2 := by
  rintro ⟨iv, G⟩
  have v1 : dx_vn [(19, 239)] (.ref 400) h = some 239 := vn_at G
  refine ⟨fun v h1 f e e4 => dx_app (m_X0_space rfl rfl) ?_, fun j h1 k fs e j4 ej ne => dx_app (m_X0_space rfl rfl) ?_⟩
  · rw [v1, Option.bind_some, e, cI_v, sJ_at e4 (by omega), ix_of (k := 0) (n := 1) (i := 0) rfl (by omega) (by omega), Option.bind_some, Option.bind_some]
  · rw [v1, Option.bind_some, e, cI_x]
    unfold dx_xp
    rw [if_neg (show ¬ j < 400 by omega), ej]
    rcases ex2_k ne with rfl | rfl | rfl
    · exact dx_app b_X0_space_12 rfl
    · exact dx_app b_X0_space_15 rfl
    · exact dx_app b_X0_space_15 rfl
theorem w_vector {x1 x2 x3 : Int32} : (∃ iv, GO h iv) → WRP h (ax_c d 240 [.ref 400, .int x1, .int x2, .int x3] h) (ax_c (d + 1) 183 [.ref 400, .int x1, .int x2, .int x3, .ref 460] h) ex2 := by
  rintro ⟨iv, G⟩
  have v1 : dx_vn [(19, 240)] (.ref 400) h = some 240 := vn_at G
  refine ⟨fun v h1 f e e4 => dx_app (m_X0_vector rfl rfl) ?_, fun j h1 k fs e j4 ej ne => dx_app (m_X0_vector rfl rfl) ?_⟩
  · rw [v1, Option.bind_some, e, cI_v, sJ_at e4 (by omega), ix_of (k := 0) (n := 1) (i := 0) rfl (by omega) (by omega), Option.bind_some, Option.bind_some]
  · rw [v1, Option.bind_some, e, cI_x]
    unfold dx_xp
    rw [if_neg (show ¬ j < 400 by omega), ej]
    rcases ex2_k ne with rfl | rfl | rfl
    · exact dx_app b_X0_vector_15 rfl
    · exact dx_app b_X0_vector_19 rfl
    · exact dx_app b_X0_vector_19 rfl
theorem w_macro {x1 : Int32} : (∃ iv, GO h iv) → WRP h (ax_c d 241 [.ref 400, .int x1] h) (ax_c (d + 1) 184 [.ref 400, .int x1, .ref 460] h) ex2 := by
  rintro ⟨iv, G⟩
  have v1 : dx_vn [(19, 241)] (.ref 400) h = some 241 := vn_at G
  refine ⟨fun v h1 f e e4 => dx_app (m_X0_macro rfl rfl) ?_, fun j h1 k fs e j4 ej ne => dx_app (m_X0_macro rfl rfl) ?_⟩
  · rw [v1, Option.bind_some, e, cI_v, sJ_at e4 (by omega), ix_of (k := 0) (n := 1) (i := 0) rfl (by omega) (by omega), Option.bind_some, Option.bind_some]
  · rw [v1, Option.bind_some, e, cI_x]
    unfold dx_xp
    rw [if_neg (show ¬ j < 400 by omega), ej]
    rcases ex2_k ne with rfl | rfl | rfl
    · exact dx_app b_X0_macro_12 rfl
    · exact dx_app b_X0_macro_15 rfl
    · exact dx_app b_X0_macro_15 rfl
theorem w_endMacro : (∃ iv, GO h iv) → WRP h (ax_c d 242 [.ref 400] h) (ax_c (d + 1) 185 [.ref 400, .ref 460] h) exI := by
  rintro ⟨iv, G⟩
  have v1 : dx_vn [(19, 242)] (.ref 400) h = some 242 := vn_at G
  refine ⟨fun v h1 f e e4 => dx_app (m_X0_endMacro rfl rfl) ?_, fun j h1 k fs e j4 ej ne => dx_app (m_X0_endMacro rfl rfl) ?_⟩
  · rw [v1, Option.bind_some, e, cI_v, sJ_at e4 (by omega), ix_of (k := 0) (n := 1) (i := 0) rfl (by omega) (by omega), Option.bind_some, Option.bind_some]
  · rw [v1, Option.bind_some, e, cI_x]
    unfold dx_xp
    rw [if_neg (show ¬ j < 400 by omega), ej]
    rcases exI_k ne with rfl | rfl
    · exact dx_app b_X0_endMacro_11 rfl
    · exact dx_app b_X0_endMacro_11 rfl
theorem w_use {x1 x2 x3 x4 x5 : Int32} : (∃ iv, GO h iv) → WRP h (ax_c d 243 [.ref 400, .int x1, .int x2, .int x3, .int x4, .int x5] h) (ax_c (d + 1) 186 [.ref 400, .int x1, .int x2, .int x3, .int x4, .int x5, .ref 460] h) ex2 := by
  rintro ⟨iv, G⟩
  have v1 : dx_vn [(19, 243)] (.ref 400) h = some 243 := vn_at G
  refine ⟨fun v h1 f e e4 => dx_app (m_X0_use rfl rfl) ?_, fun j h1 k fs e j4 ej ne => dx_app (m_X0_use rfl rfl) ?_⟩
  · rw [v1, Option.bind_some, e, cI_v, sJ_at e4 (by omega), ix_of (k := 0) (n := 1) (i := 0) rfl (by omega) (by omega), Option.bind_some, Option.bind_some]
  · rw [v1, Option.bind_some, e, cI_x]
    unfold dx_xp
    rw [if_neg (show ¬ j < 400 by omega), ej]
    rcases ex2_k ne with rfl | rfl | rfl
    · exact dx_app b_X0_use_19 rfl
    · exact dx_app b_X0_use_23 rfl
    · exact dx_app b_X0_use_23 rfl
theorem w_assemble : (∃ iv, GO h iv) → WRP h (ax_c d 244 [.ref 400] h) (ax_c (d + 1) 187 [.ref 400, .ref 460] h) exI := by
  rintro ⟨iv, G⟩
  have v1 : dx_vn [(19, 244)] (.ref 400) h = some 244 := vn_at G
  refine ⟨fun v h1 f e e4 => dx_app (m_X0_assemble rfl rfl) ?_, fun j h1 k fs e j4 ej ne => dx_app (m_X0_assemble rfl rfl) ?_⟩
  · rw [v1, Option.bind_some, e, cI_v, sJ_at e4 (by omega), ix_of (k := 0) (n := 1) (i := 0) rfl (by omega) (by omega), Option.bind_some, Option.bind_some]
  · rw [v1, Option.bind_some, e, cI_x]
    unfold dx_xp
    rw [if_neg (show ¬ j < 400 by omega), ej]
    rcases exI_k ne with rfl | rfl
    · exact dx_app b_X0_assemble_11 rfl
    · exact dx_app b_X0_assemble_11 rfl
theorem w_image {x1 : Int32} : (∃ iv, GO h iv) → WRP h (ax_c d 245 [.ref 400, .int x1] h) (ax_c (d + 1) 188 [.ref 400, .int x1, .ref 460] h) ex2 := by
  rintro ⟨iv, G⟩
  have v1 : dx_vn [(19, 245)] (.ref 400) h = some 245 := vn_at G
  refine ⟨fun v h1 f e e4 => dx_app (m_X0_image rfl rfl) ?_, fun j h1 k fs e j4 ej ne => dx_app (m_X0_image rfl rfl) ?_⟩
  · rw [v1, Option.bind_some, e, cI_v, sJ_at e4 (by omega), ix_of (k := 0) (n := 1) (i := 0) rfl (by omega) (by omega), Option.bind_some, Option.bind_some]
  · rw [v1, Option.bind_some, e, cI_x]
    unfold dx_xp
    rw [if_neg (show ¬ j < 400 by omega), ej]
    rcases ex2_k ne with rfl | rfl | rfl
    · exact dx_app b_X0_image_12 rfl
    · exact dx_app b_X0_image_15 rfl
    · exact dx_app b_X0_image_15 rfl
theorem w_start : (∃ iv, GO h iv) → WRP h (ax_c d 246 [.ref 400] h) (ax_c (d + 1) 189 [.ref 400, .ref 460] h) exI := by
  rintro ⟨iv, G⟩
  have v1 : dx_vn [(19, 246)] (.ref 400) h = some 246 := vn_at G
  refine ⟨fun v h1 f e e4 => dx_app (m_X0_start rfl rfl) ?_, fun j h1 k fs e j4 ej ne => dx_app (m_X0_start rfl rfl) ?_⟩
  · rw [v1, Option.bind_some, e, cI_v, sJ_at e4 (by omega), ix_of (k := 0) (n := 1) (i := 0) rfl (by omega) (by omega), Option.bind_some, Option.bind_some]
  · rw [v1, Option.bind_some, e, cI_x]
    unfold dx_xp
    rw [if_neg (show ¬ j < 400 by omega), ej]
    rcases exI_k ne with rfl | rfl
    · exact dx_app b_X0_start_11 rfl
    · exact dx_app b_X0_start_11 rfl
theorem w_crash : (∃ iv, GO h iv) → WRP h (ax_c d 247 [.ref 400] h) (ax_c (d + 1) 190 [.ref 400, .ref 460] h) exI := by
  rintro ⟨iv, G⟩
  have v1 : dx_vn [(19, 247)] (.ref 400) h = some 247 := vn_at G
  refine ⟨fun v h1 f e e4 => dx_app (m_X0_crash rfl rfl) ?_, fun j h1 k fs e j4 ej ne => dx_app (m_X0_crash rfl rfl) ?_⟩
  · rw [v1, Option.bind_some, e, cI_v, sJ_at e4 (by omega), ix_of (k := 0) (n := 1) (i := 0) rfl (by omega) (by omega), Option.bind_some, Option.bind_some]
  · rw [v1, Option.bind_some, e, cI_x]
    unfold dx_xp
    rw [if_neg (show ¬ j < 400 by omega), ej]
    rcases exI_k ne with rfl | rfl
    · exact dx_app b_X0_crash_11 rfl
    · exact dx_app b_X0_crash_11 rfl
theorem w_format : (∃ iv, GO h iv) → WRP h (ax_c d 248 [.ref 400] h) (ax_c (d + 1) 191 [.ref 400, .ref 460] h) exI := by
  rintro ⟨iv, G⟩
  have v1 : dx_vn [(19, 248)] (.ref 400) h = some 248 := vn_at G
  refine ⟨fun v h1 f e e4 => dx_app (m_X0_format rfl rfl) ?_, fun j h1 k fs e j4 ej ne => dx_app (m_X0_format rfl rfl) ?_⟩
  · rw [v1, Option.bind_some, e, cI_v, sJ_at e4 (by omega), ix_of (k := 0) (n := 1) (i := 0) rfl (by omega) (by omega), Option.bind_some, Option.bind_some]
  · rw [v1, Option.bind_some, e, cI_x]
    unfold dx_xp
    rw [if_neg (show ¬ j < 400 by omega), ej]
    rcases exI_k ne with rfl | rfl
    · exact dx_app b_X0_format_11 rfl
    · exact dx_app b_X0_format_11 rfl
theorem w_step {x1 : Int32} : (∃ iv, GO h iv) → WRP h (ax_c d 249 [.ref 400, .int x1] h) (ax_c (d + 1) 192 [.ref 400, .int x1, .ref 460] h) ex2 := by
  rintro ⟨iv, G⟩
  have v1 : dx_vn [(19, 249)] (.ref 400) h = some 249 := vn_at G
  refine ⟨fun v h1 f e e4 => dx_app (m_X0_step rfl rfl) ?_, fun j h1 k fs e j4 ej ne => dx_app (m_X0_step rfl rfl) ?_⟩
  · rw [v1, Option.bind_some, e, cI_v, sJ_at e4 (by omega), ix_of (k := 0) (n := 1) (i := 0) rfl (by omega) (by omega), Option.bind_some, Option.bind_some]
  · rw [v1, Option.bind_some, e, cI_x]
    unfold dx_xp
    rw [if_neg (show ¬ j < 400 by omega), ej]
    rcases ex2_k ne with rfl | rfl | rfl
    · exact dx_app b_X0_step_12 rfl
    · exact dx_app b_X0_step_15 rfl
    · exact dx_app b_X0_step_15 rfl
theorem w_runTo {x1 x2 : Int32} : (∃ iv, GO h iv) → WRP h (ax_c d 250 [.ref 400, .int x1, .int x2] h) (ax_c (d + 1) 193 [.ref 400, .int x1, .int x2, .ref 460] h) ex2 := by
  rintro ⟨iv, G⟩
  have v1 : dx_vn [(19, 250)] (.ref 400) h = some 250 := vn_at G
  refine ⟨fun v h1 f e e4 => dx_app (m_X0_runTo rfl rfl) ?_, fun j h1 k fs e j4 ej ne => dx_app (m_X0_runTo rfl rfl) ?_⟩
  · rw [v1, Option.bind_some, e, cI_v, sJ_at e4 (by omega), ix_of (k := 0) (n := 1) (i := 0) rfl (by omega) (by omega), Option.bind_some, Option.bind_some]
  · rw [v1, Option.bind_some, e, cI_x]
    unfold dx_xp
    rw [if_neg (show ¬ j < 400 by omega), ej]
    rcases ex2_k ne with rfl | rfl | rfl
    · exact dx_app b_X0_runTo_13 rfl
    · exact dx_app b_X0_runTo_17 rfl
    · exact dx_app b_X0_runTo_17 rfl
theorem w_back {x1 : Int32} : (∃ iv, GO h iv) → WRP h (ax_c d 251 [.ref 400, .int x1] h) (ax_c (d + 1) 194 [.ref 400, .int x1, .ref 460] h) ex2 := by
  rintro ⟨iv, G⟩
  have v1 : dx_vn [(19, 251)] (.ref 400) h = some 251 := vn_at G
  refine ⟨fun v h1 f e e4 => dx_app (m_X0_back rfl rfl) ?_, fun j h1 k fs e j4 ej ne => dx_app (m_X0_back rfl rfl) ?_⟩
  · rw [v1, Option.bind_some, e, cI_v, sJ_at e4 (by omega), ix_of (k := 0) (n := 1) (i := 0) rfl (by omega) (by omega), Option.bind_some, Option.bind_some]
  · rw [v1, Option.bind_some, e, cI_x]
    unfold dx_xp
    rw [if_neg (show ¬ j < 400 by omega), ej]
    rcases ex2_k ne with rfl | rfl | rfl
    · exact dx_app b_X0_back_12 rfl
    · exact dx_app b_X0_back_15 rfl
    · exact dx_app b_X0_back_15 rfl
theorem w_press {x1 : Int32} : (∃ iv, GO h iv) → WRP h (ax_c d 252 [.ref 400, .int x1] h) (ax_c (d + 1) 195 [.ref 400, .int x1, .ref 460] h) ex2 := by
  rintro ⟨iv, G⟩
  have v1 : dx_vn [(19, 252)] (.ref 400) h = some 252 := vn_at G
  refine ⟨fun v h1 f e e4 => dx_app (m_X0_press rfl rfl) ?_, fun j h1 k fs e j4 ej ne => dx_app (m_X0_press rfl rfl) ?_⟩
  · rw [v1, Option.bind_some, e, cI_v, sJ_at e4 (by omega), ix_of (k := 0) (n := 1) (i := 0) rfl (by omega) (by omega), Option.bind_some, Option.bind_some]
  · rw [v1, Option.bind_some, e, cI_x]
    unfold dx_xp
    rw [if_neg (show ¬ j < 400 by omega), ej]
    rcases ex2_k ne with rfl | rfl | rfl
    · exact dx_app b_X0_press_12 rfl
    · exact dx_app b_X0_press_15 rfl
    · exact dx_app b_X0_press_15 rfl
theorem w_register {x1 : Int32} : (∃ iv, GO h iv) → WRP h (ax_c d 253 [.ref 400, .int x1] h) (ax_c (d + 1) 196 [.ref 400, .int x1, .ref 460] h) ex3 := by
  rintro ⟨iv, G⟩
  have v1 : dx_vn [(19, 253)] (.ref 400) h = some 253 := vn_at G
  refine ⟨fun v h1 f e e4 => dx_app (m_X0_register rfl rfl) ?_, fun j h1 k fs e j4 ej ne => dx_app (m_X0_register rfl rfl) ?_⟩
  · rw [v1, Option.bind_some, e, cI_v, sJ_at e4 (by omega), ix_of (k := 0) (n := 1) (i := 0) rfl (by omega) (by omega), Option.bind_some, Option.bind_some]
  · rw [v1, Option.bind_some, e, cI_x]
    unfold dx_xp
    rw [if_neg (show ¬ j < 400 by omega), ej]
    rcases ex3_k ne with rfl
    · exact dx_app b_X0_register_12 rfl
theorem w_memory {x1 : Int32} : (∃ iv, GO h iv) → WRP h (ax_c d 254 [.ref 400, .int x1] h) (ax_c (d + 1) 197 [.ref 400, .int x1, .ref 460] h) ex3 := by
  rintro ⟨iv, G⟩
  have v1 : dx_vn [(19, 254)] (.ref 400) h = some 254 := vn_at G
  refine ⟨fun v h1 f e e4 => dx_app (m_X0_memory rfl rfl) ?_, fun j h1 k fs e j4 ej ne => dx_app (m_X0_memory rfl rfl) ?_⟩
  · rw [v1, Option.bind_some, e, cI_v, sJ_at e4 (by omega), ix_of (k := 0) (n := 1) (i := 0) rfl (by omega) (by omega), Option.bind_some, Option.bind_some]
  · rw [v1, Option.bind_some, e, cI_x]
    unfold dx_xp
    rw [if_neg (show ¬ j < 400 by omega), ej]
    rcases ex3_k ne with rfl
    · exact dx_app b_X0_memory_12 rfl
theorem w_changedAt {x1 : Int32} : (∃ iv, GO h iv) → WRP h (ax_c d 255 [.ref 400, .int x1] h) (ax_c (d + 1) 198 [.ref 400, .int x1, .ref 460] h) ex3 := by
  rintro ⟨iv, G⟩
  have v1 : dx_vn [(19, 255)] (.ref 400) h = some 255 := vn_at G
  refine ⟨fun v h1 f e e4 => dx_app (m_X0_changedAt rfl rfl) ?_, fun j h1 k fs e j4 ej ne => dx_app (m_X0_changedAt rfl rfl) ?_⟩
  · rw [v1, Option.bind_some, e, cI_v, sJ_at e4 (by omega), ix_of (k := 0) (n := 1) (i := 0) rfl (by omega) (by omega), Option.bind_some, Option.bind_some]
  · rw [v1, Option.bind_some, e, cI_x]
    unfold dx_xp
    rw [if_neg (show ¬ j < 400 by omega), ej]
    rcases ex3_k ne with rfl
    · exact dx_app b_X0_changedAt_12 rfl
theorem w_tapeAt {x1 : Int32} : (∃ iv, GO h iv) → WRP h (ax_c d 256 [.ref 400, .int x1] h) (ax_c (d + 1) 199 [.ref 400, .int x1, .ref 460] h) ex4 := by
  rintro ⟨iv, G⟩
  have v1 : dx_vn [(19, 256)] (.ref 400) h = some 256 := vn_at G
  refine ⟨fun v h1 f e e4 => dx_app (m_X0_tapeAt rfl rfl) ?_, fun j h1 k fs e j4 ej ne => dx_app (m_X0_tapeAt rfl rfl) ?_⟩
  · rw [v1, Option.bind_some, e, cI_v, sJ_at e4 (by omega), ix_of (k := 0) (n := 1) (i := 0) rfl (by omega) (by omega), Option.bind_some, Option.bind_some]
  · rw [v1, Option.bind_some, e, cI_x]
    unfold dx_xp
    rw [if_neg (show ¬ j < 400 by omega), ej]
    rcases ex4_k ne with rfl | rfl
    · exact dx_app b_X0_tapeAt_12 rfl
    · exact dx_app b_X0_tapeAt_12 rfl
theorem w_sumAnew {x1 : Int32} : (∃ iv, GO h iv) → WRP h (ax_c d 257 [.ref 400, .int x1] h) (ax_c (d + 1) 200 [.ref 400, .int x1, .ref 460] h) ex5 := by
  rintro ⟨iv, G⟩
  have v1 : dx_vn [(19, 257)] (.ref 400) h = some 257 := vn_at G
  refine ⟨fun v h1 f e e4 => dx_app (m_X0_sumAnew rfl rfl) ?_, fun j h1 k fs e j4 ej ne => dx_app (m_X0_sumAnew rfl rfl) ?_⟩
  · rw [v1, Option.bind_some, e, cI_v, sJ_at e4 (by omega), ix_of (k := 0) (n := 1) (i := 0) rfl (by omega) (by omega), Option.bind_some, Option.bind_some]
  · rw [v1, Option.bind_some, e, cI_x]
    unfold dx_xp
    rw [if_neg (show ¬ j < 400 by omega), ej]
    rcases ex5_k ne with rfl | rfl | rfl
    · exact dx_app b_X0_sumAnew_15 rfl
    · exact dx_app b_X0_sumAnew_12 rfl
    · exact dx_app b_X0_sumAnew_12 rfl
theorem w_disk {x1 x2 : Int32} : (∃ iv, GO h iv) → WRP h (ax_c d 258 [.ref 400, .int x1, .int x2] h) (ax_c (d + 1) 201 [.ref 400, .int x1, .int x2, .ref 460] h) ex3 := by
  rintro ⟨iv, G⟩
  have v1 : dx_vn [(19, 258)] (.ref 400) h = some 258 := vn_at G
  refine ⟨fun v h1 f e e4 => dx_app (m_X0_disk rfl rfl) ?_, fun j h1 k fs e j4 ej ne => dx_app (m_X0_disk rfl rfl) ?_⟩
  · rw [v1, Option.bind_some, e, cI_v, sJ_at e4 (by omega), ix_of (k := 0) (n := 1) (i := 0) rfl (by omega) (by omega), Option.bind_some, Option.bind_some]
  · rw [v1, Option.bind_some, e, cI_x]
    unfold dx_xp
    rw [if_neg (show ¬ j < 400 by omega), ej]
    rcases ex3_k ne with rfl
    · exact dx_app b_X0_disk_13 rfl
theorem w_size {x1 : Int32} : (∃ iv, GO h iv) → WRP h (ax_c d 259 [.ref 400, .int x1] h) (ax_c (d + 1) 202 [.ref 400, .int x1, .ref 460] h) ex6 := by
  rintro ⟨iv, G⟩
  have v1 : dx_vn [(19, 259)] (.ref 400) h = some 259 := vn_at G
  refine ⟨fun v h1 f e e4 => dx_app (m_X0_size rfl rfl) ?_, fun j h1 k fs e j4 ej ne => dx_app (m_X0_size rfl rfl) ?_⟩
  · rw [v1, Option.bind_some, e, cI_v, sJ_at e4 (by omega), ix_of (k := 0) (n := 1) (i := 0) rfl (by omega) (by omega), Option.bind_some, Option.bind_some]
  · rw [v1, Option.bind_some, e, cI_x]
    unfold dx_xp
    rw [if_neg (show ¬ j < 400 by omega), ej]
    rcases ex6_k ne with rfl | rfl | rfl
    · exact dx_app b_X0_size_12 rfl
    · exact dx_app b_X0_size_15 rfl
    · exact dx_app b_X0_size_15 rfl
theorem w_wordOf {x1 x2 : Int32} : (∃ iv, GO h iv) → WRP h (ax_c d 261 [.ref 400, .int x1, .int x2] h) (ax_c (d + 1) 203 [.ref 400, .int x1, .int x2, .ref 460] h) ex7 := by
  rintro ⟨iv, G⟩
  have v1 : dx_vn [(19, 261)] (.ref 400) h = some 261 := vn_at G
  refine ⟨fun v h1 f e e4 => dx_app (m_X0_wordOf rfl rfl) ?_, fun j h1 k fs e j4 ej ne => dx_app (m_X0_wordOf rfl rfl) ?_⟩
  · rw [v1, Option.bind_some, e, cI_v, sJ_at e4 (by omega), ix_of (k := 0) (n := 1) (i := 0) rfl (by omega) (by omega), Option.bind_some, Option.bind_some]
  · rw [v1, Option.bind_some, e, cI_x]
    unfold dx_xp
    rw [if_neg (show ¬ j < 400 by omega), ej]
    rcases ex7_k ne with rfl | rfl | rfl | rfl | rfl
    · exact dx_app b_X0_wordOf_13 rfl
    · exact dx_app b_X0_wordOf_17 rfl
    · exact dx_app b_X0_wordOf_17 rfl
    · exact dx_app b_X0_wordOf_21 rfl
    · exact dx_app b_X0_wordOf_21 rfl
theorem w_testKey {x1 : Int32} : (∃ iv, GO h iv) → WRP h (ax_c d 262 [.ref 400, .int x1] h) (ax_c (d + 1) 204 [.ref 400, .int x1, .ref 460] h) ex2 := by
  rintro ⟨iv, G⟩
  have v1 : dx_vn [(19, 262)] (.ref 400) h = some 262 := vn_at G
  refine ⟨fun v h1 f e e4 => dx_app (m_X0_testKey rfl rfl) ?_, fun j h1 k fs e j4 ej ne => dx_app (m_X0_testKey rfl rfl) ?_⟩
  · rw [v1, Option.bind_some, e, cI_v, sJ_at e4 (by omega), ix_of (k := 0) (n := 1) (i := 0) rfl (by omega) (by omega), Option.bind_some, Option.bind_some]
  · rw [v1, Option.bind_some, e, cI_x]
    unfold dx_xp
    rw [if_neg (show ¬ j < 400 by omega), ej]
    rcases ex2_k ne with rfl | rfl | rfl
    · exact dx_app b_X0_testKey_12 rfl
    · exact dx_app b_X0_testKey_15 rfl
    · exact dx_app b_X0_testKey_15 rfl
theorem w_testWord {x1 : Int32} : (∃ iv, GO h iv) → WRP h (ax_c d 264 [.ref 400, .int x1] h) (ax_c (d + 1) 205 [.ref 400, .int x1, .ref 460] h) ex2 := by
  rintro ⟨iv, G⟩
  have v1 : dx_vn [(19, 264)] (.ref 400) h = some 264 := vn_at G
  refine ⟨fun v h1 f e e4 => dx_app (m_X0_testWord rfl rfl) ?_, fun j h1 k fs e j4 ej ne => dx_app (m_X0_testWord rfl rfl) ?_⟩
  · rw [v1, Option.bind_some, e, cI_v, sJ_at e4 (by omega), ix_of (k := 0) (n := 1) (i := 0) rfl (by omega) (by omega), Option.bind_some, Option.bind_some]
  · rw [v1, Option.bind_some, e, cI_x]
    unfold dx_xp
    rw [if_neg (show ¬ j < 400 by omega), ej]
    rcases ex2_k ne with rfl | rfl | rfl
    · exact dx_app b_X0_testWord_12 rfl
    · exact dx_app b_X0_testWord_15 rfl
    · exact dx_app b_X0_testWord_15 rfl
theorem w_addTest {x1 x2 x3 x4 : Int32} : (∃ iv, GO h iv) → WRP h (ax_c d 265 [.ref 400, .int x1, .int x2, .int x3, .int x4] h) (ax_c (d + 1) 206 [.ref 400, .int x1, .int x2, .int x3, .int x4, .ref 460] h) ex2 := by
  rintro ⟨iv, G⟩
  have v1 : dx_vn [(19, 265)] (.ref 400) h = some 265 := vn_at G
  refine ⟨fun v h1 f e e4 => dx_app (m_X0_addTest rfl rfl) ?_, fun j h1 k fs e j4 ej ne => dx_app (m_X0_addTest rfl rfl) ?_⟩
  · rw [v1, Option.bind_some, e, cI_v, sJ_at e4 (by omega), ix_of (k := 0) (n := 1) (i := 0) rfl (by omega) (by omega), Option.bind_some, Option.bind_some]
  · rw [v1, Option.bind_some, e, cI_x]
    unfold dx_xp
    rw [if_neg (show ¬ j < 400 by omega), ej]
    rcases ex2_k ne with rfl | rfl | rfl
    · exact dx_app b_X0_addTest_17 rfl
    · exact dx_app b_X0_addTest_21 rfl
    · exact dx_app b_X0_addTest_21 rfl
theorem w_submit : (∃ iv, GO h iv) → WRP h (ax_c d 267 [.ref 400] h) (ax_c (d + 1) 207 [.ref 400, .ref 460] h) exI := by
  rintro ⟨iv, G⟩
  have v1 : dx_vn [(19, 267)] (.ref 400) h = some 267 := vn_at G
  refine ⟨fun v h1 f e e4 => dx_app (m_X0_submit rfl rfl) ?_, fun j h1 k fs e j4 ej ne => dx_app (m_X0_submit rfl rfl) ?_⟩
  · rw [v1, Option.bind_some, e, cI_v, sJ_at e4 (by omega), ix_of (k := 0) (n := 1) (i := 0) rfl (by omega) (by omega), Option.bind_some, Option.bind_some]
  · rw [v1, Option.bind_some, e, cI_x]
    unfold dx_xp
    rw [if_neg (show ¬ j < 400 by omega), ej]
    rcases exI_k ne with rfl | rfl
    · exact dx_app b_X0_submit_11 rfl
    · exact dx_app b_X0_submit_11 rfl
theorem w_result {x1 : Int32} : (∃ iv, GO h iv) → WRP h (ax_c d 268 [.ref 400, .int x1] h) (ax_c (d + 1) 208 [.ref 400, .int x1, .ref 460] h) ex4 := by
  rintro ⟨iv, G⟩
  have v1 : dx_vn [(19, 268)] (.ref 400) h = some 268 := vn_at G
  refine ⟨fun v h1 f e e4 => dx_app (m_X0_result rfl rfl) ?_, fun j h1 k fs e j4 ej ne => dx_app (m_X0_result rfl rfl) ?_⟩
  · rw [v1, Option.bind_some, e, cI_v, sJ_at e4 (by omega), ix_of (k := 0) (n := 1) (i := 0) rfl (by omega) (by omega), Option.bind_some, Option.bind_some]
  · rw [v1, Option.bind_some, e, cI_x]
    unfold dx_xp
    rw [if_neg (show ¬ j < 400 by omega), ej]
    rcases ex4_k ne with rfl | rfl
    · exact dx_app b_X0_result_12 rfl
    · exact dx_app b_X0_result_12 rfl
theorem lb_clear (J : JH L xs i h) (hd : 94 ≤ d) (hi : 6 * i + 6 ≤ L) (hL : L ≤ 384) (fin : ∀ h3, JH L xs (i + 1) h3 → Ok (B_L_law_23 (ax_c (d + 1)) (.ref 0) 400 417 460 (Int32.ofNat (6 * (i + 1))) h3) v Q) : Ok (B_L_law_256 (ax_c (d + 1)) (.ref 0) 400 417 460 (Int32.ofNat (6 * i)) h) v Q := by
  have n6 : Int32.ofNat (6 * i) + 6 = Int32.ofNat (6 * (i + 1)) := i_add (6 * i) 6
  refine Ok.le (b_L_law_256 rfl) ?_
  exact law1 (d := d + 1) J (fun W s C T => o_clear C T (by omega)) fun h3 J3 => by rw [lt_at, n6]; exact fin h3 J3
theorem lb_lines (J : JH L xs i h) (hd : 94 ≤ d) (hi : 6 * i + 6 ≤ L) (hL : L ≤ 384) (fin : ∀ h3, JH L xs (i + 1) h3 → Ok (B_L_law_23 (ax_c (d + 1)) (.ref 0) 400 417 460 (Int32.ofNat (6 * (i + 1))) h3) v Q) : Ok (B_L_law_269 (ax_c (d + 1)) (.ref 0) 400 417 460 (Int32.ofNat (6 * i)) h) v Q := by
  have n6 : Int32.ofNat (6 * i) + 6 = Int32.ofNat (6 * (i + 1)) := i_add (6 * i) 6
  refine Ok.le (b_L_law_269 rfl) ?_
  exact law1 (d := d + 1) J (fun W s C T => o_lines C T (by omega)) fun h3 J3 => by rw [lt_at, n6]; exact fin h3 J3
theorem lb_section (J : JH L xs i h) (hd : 94 ≤ d) (hi : 6 * i + 6 ≤ L) (hL : L ≤ 384) (fin : ∀ h3, JH L xs (i + 1) h3 → Ok (B_L_law_23 (ax_c (d + 1)) (.ref 0) 400 417 460 (Int32.ofNat (6 * (i + 1))) h3) v Q) : Ok (B_L_law_282 (ax_c (d + 1)) (.ref 0) 400 417 460 (Int32.ofNat (6 * i)) h) v Q := by
  have n6 : Int32.ofNat (6 * i) + 6 = Int32.ofNat (6 * (i + 1)) := i_add (6 * i) 6
  have rx : ∀ (h : ax_H) (j : Nat), j < 6 → h.1 0 = .inl (0, L, .inl xs) → dx_lI 0 (.ref 0) (Int32.ofNat (6 * i) + Int32.ofNat j) h = some (xs (6 * i + j)) := fun h j hj e => by rw [lI_at e, ix_of (i_add (6 * i) j) (show 6 * i + j < L by omega) (by omega), Option.bind_some]
  obtain ⟨x3, h2, e1, e2, ⟨s2, e3⟩, x6, h5, e4, e5, e6, e7, J5⟩ := law3 (cx := ax_c d 231 [.ref 400, .int (xs (6 * i + 1))] h) (ct := fun h => ax_c d 375 [.ref 417, .int (xs (6 * i + 1))] h) (cw := ax_c (d + 1) 178 [.ref 400, .int (xs (6 * i + 1)), .ref 460] h) (ex := ex2) J (fun W s C T => o_section C T (by omega)) (fun g => w_section g)
  have v2 : dx_vn [(38, 375)] (.ref 417) h2 = some 375 := by rw [← e3]; exact tw_vn _ _ _
  have e4 := c_mn (Nat.le_succ d) e4
  refine Ok.le (b_L_law_282 rfl) ?_
  rw [show dx_lI 0 (.ref 0) (Int32.ofNat (6 * i) + 1) h = some (xs (6 * i + 1)) from rx h 1 (by omega) J.1, Option.bind_some, e1, cI_v, show dx_lI 0 (.ref 0) (Int32.ofNat (6 * i) + 1) h2 = some (xs (6 * i + 1)) from rx h2 1 (by omega) e2, Option.bind_some, v2, Option.bind_some, e4, cI_v]
  refine law3t (d := d + 1) e5 e6 e7 (by omega) ?_
  rw [lt_at, n6]
  exact fin h5 J5
theorem lb_label (J : JH L xs i h) (hd : 94 ≤ d) (hi : 6 * i + 6 ≤ L) (hL : L ≤ 384) (fin : ∀ h3, JH L xs (i + 1) h3 → Ok (B_L_law_23 (ax_c (d + 1)) (.ref 0) 400 417 460 (Int32.ofNat (6 * (i + 1))) h3) v Q) : Ok (B_L_law_338 (ax_c (d + 1)) (.ref 0) 400 417 460 (Int32.ofNat (6 * i)) h) v Q := by
  have n6 : Int32.ofNat (6 * i) + 6 = Int32.ofNat (6 * (i + 1)) := i_add (6 * i) 6
  have rx : ∀ (h : ax_H) (j : Nat), j < 6 → h.1 0 = .inl (0, L, .inl xs) → dx_lI 0 (.ref 0) (Int32.ofNat (6 * i) + Int32.ofNat j) h = some (xs (6 * i + j)) := fun h j hj e => by rw [lI_at e, ix_of (i_add (6 * i) j) (show 6 * i + j < L by omega) (by omega), Option.bind_some]
  obtain ⟨x3, h2, e1, e2, ⟨s2, e3⟩, x6, h5, e4, e5, e6, e7, J5⟩ := law3 (cx := ax_c d 235 [.ref 400, .int (xs (6 * i + 1))] h) (ct := fun h => ax_c d 379 [.ref 417, .int (xs (6 * i + 1))] h) (cw := ax_c (d + 1) 179 [.ref 400, .int (xs (6 * i + 1)), .ref 460] h) (ex := ex2) J (fun W s C T => o_label C T (by omega)) (fun g => w_label g)
  have v2 : dx_vn [(38, 379)] (.ref 417) h2 = some 379 := by rw [← e3]; exact tw_vn _ _ _
  have e4 := c_mn (Nat.le_succ d) e4
  refine Ok.le (b_L_law_338 rfl) ?_
  rw [show dx_lI 0 (.ref 0) (Int32.ofNat (6 * i) + 1) h = some (xs (6 * i + 1)) from rx h 1 (by omega) J.1, Option.bind_some, e1, cI_v, show dx_lI 0 (.ref 0) (Int32.ofNat (6 * i) + 1) h2 = some (xs (6 * i + 1)) from rx h2 1 (by omega) e2, Option.bind_some, v2, Option.bind_some, e4, cI_v]
  refine law3t (d := d + 1) e5 e6 e7 (by omega) ?_
  rw [lt_at, n6]
  exact fin h5 J5
theorem lb_code (J : JH L xs i h) (hd : 94 ≤ d) (hi : 6 * i + 6 ≤ L) (hL : L ≤ 384) (fin : ∀ h3, JH L xs (i + 1) h3 → Ok (B_L_law_23 (ax_c (d + 1)) (.ref 0) 400 417 460 (Int32.ofNat (6 * (i + 1))) h3) v Q) : Ok (B_L_law_394 (ax_c (d + 1)) (.ref 0) 400 417 460 (Int32.ofNat (6 * i)) h) v Q := by
  have n6 : Int32.ofNat (6 * i) + 6 = Int32.ofNat (6 * (i + 1)) := i_add (6 * i) 6
  have rx : ∀ (h : ax_H) (j : Nat), j < 6 → h.1 0 = .inl (0, L, .inl xs) → dx_lI 0 (.ref 0) (Int32.ofNat (6 * i) + Int32.ofNat j) h = some (xs (6 * i + j)) := fun h j hj e => by rw [lI_at e, ix_of (i_add (6 * i) j) (show 6 * i + j < L by omega) (by omega), Option.bind_some]
  obtain ⟨x3, h2, e1, e2, ⟨s2, e3⟩, x6, h5, e4, e5, e6, e7, J5⟩ := law3 (cx := ax_c d 236 [.ref 400, .int (xs (6 * i + 1)), .int (xs (6 * i + 2)), .int (xs (6 * i + 3)), .int (xs (6 * i + 4)), .int (xs (6 * i + 5))] h) (ct := fun h => ax_c d 380 [.ref 417, .int (xs (6 * i + 1)), .int (xs (6 * i + 2)), .int (xs (6 * i + 3)), .int (xs (6 * i + 4)), .int (xs (6 * i + 5))] h) (cw := ax_c (d + 1) 180 [.ref 400, .int (xs (6 * i + 1)), .int (xs (6 * i + 2)), .int (xs (6 * i + 3)), .int (xs (6 * i + 4)), .int (xs (6 * i + 5)), .ref 460] h) (ex := ex2) J (fun W s C T => o_code C T (by omega)) (fun g => w_code g)
  have v2 : dx_vn [(38, 380)] (.ref 417) h2 = some 380 := by rw [← e3]; exact tw_vn _ _ _
  have e4 := c_mn (Nat.le_succ d) e4
  refine Ok.le (b_L_law_394 rfl) ?_
  rw [show dx_lI 0 (.ref 0) (Int32.ofNat (6 * i) + 1) h = some (xs (6 * i + 1)) from rx h 1 (by omega) J.1, Option.bind_some, show dx_lI 0 (.ref 0) (Int32.ofNat (6 * i) + 2) h = some (xs (6 * i + 2)) from rx h 2 (by omega) J.1, Option.bind_some, show dx_lI 0 (.ref 0) (Int32.ofNat (6 * i) + 3) h = some (xs (6 * i + 3)) from rx h 3 (by omega) J.1, Option.bind_some, show dx_lI 0 (.ref 0) (Int32.ofNat (6 * i) + 4) h = some (xs (6 * i + 4)) from rx h 4 (by omega) J.1, Option.bind_some, show dx_lI 0 (.ref 0) (Int32.ofNat (6 * i) + 5) h = some (xs (6 * i + 5)) from rx h 5 (by omega) J.1, Option.bind_some, e1, cI_v, show dx_lI 0 (.ref 0) (Int32.ofNat (6 * i) + 1) h2 = some (xs (6 * i + 1)) from rx h2 1 (by omega) e2, Option.bind_some, show dx_lI 0 (.ref 0) (Int32.ofNat (6 * i) + 2) h2 = some (xs (6 * i + 2)) from rx h2 2 (by omega) e2, Option.bind_some, show dx_lI 0 (.ref 0) (Int32.ofNat (6 * i) + 3) h2 = some (xs (6 * i + 3)) from rx h2 3 (by omega) e2, Option.bind_some, show dx_lI 0 (.ref 0) (Int32.ofNat (6 * i) + 4) h2 = some (xs (6 * i + 4)) from rx h2 4 (by omega) e2, Option.bind_some, show dx_lI 0 (.ref 0) (Int32.ofNat (6 * i) + 5) h2 = some (xs (6 * i + 5)) from rx h2 5 (by omega) e2, Option.bind_some, v2, Option.bind_some, e4, cI_v]
  refine law3t (d := d + 1) e5 e6 e7 (by omega) ?_
  rw [lt_at, n6]
  exact fin h5 J5
theorem lb_word (J : JH L xs i h) (hd : 94 ≤ d) (hi : 6 * i + 6 ≤ L) (hL : L ≤ 384) (fin : ∀ h3, JH L xs (i + 1) h3 → Ok (B_L_law_23 (ax_c (d + 1)) (.ref 0) 400 417 460 (Int32.ofNat (6 * (i + 1))) h3) v Q) : Ok (B_L_law_498 (ax_c (d + 1)) (.ref 0) 400 417 460 (Int32.ofNat (6 * i)) h) v Q := by
  have n6 : Int32.ofNat (6 * i) + 6 = Int32.ofNat (6 * (i + 1)) := i_add (6 * i) 6
  have rx : ∀ (h : ax_H) (j : Nat), j < 6 → h.1 0 = .inl (0, L, .inl xs) → dx_lI 0 (.ref 0) (Int32.ofNat (6 * i) + Int32.ofNat j) h = some (xs (6 * i + j)) := fun h j hj e => by rw [lI_at e, ix_of (i_add (6 * i) j) (show 6 * i + j < L by omega) (by omega), Option.bind_some]
  obtain ⟨x3, h2, e1, e2, ⟨s2, e3⟩, x6, h5, e4, e5, e6, e7, J5⟩ := law3 (cx := ax_c d 238 [.ref 400, .int (xs (6 * i + 1)), .int (xs (6 * i + 2))] h) (ct := fun h => ax_c d 382 [.ref 417, .int (xs (6 * i + 1)), .int (xs (6 * i + 2))] h) (cw := ax_c (d + 1) 181 [.ref 400, .int (xs (6 * i + 1)), .int (xs (6 * i + 2)), .ref 460] h) (ex := ex2) J (fun W s C T => o_word C T (by omega)) (fun g => w_word g)
  have v2 : dx_vn [(38, 382)] (.ref 417) h2 = some 382 := by rw [← e3]; exact tw_vn _ _ _
  have e4 := c_mn (Nat.le_succ d) e4
  refine Ok.le (b_L_law_498 rfl) ?_
  rw [show dx_lI 0 (.ref 0) (Int32.ofNat (6 * i) + 1) h = some (xs (6 * i + 1)) from rx h 1 (by omega) J.1, Option.bind_some, show dx_lI 0 (.ref 0) (Int32.ofNat (6 * i) + 2) h = some (xs (6 * i + 2)) from rx h 2 (by omega) J.1, Option.bind_some, e1, cI_v, show dx_lI 0 (.ref 0) (Int32.ofNat (6 * i) + 1) h2 = some (xs (6 * i + 1)) from rx h2 1 (by omega) e2, Option.bind_some, show dx_lI 0 (.ref 0) (Int32.ofNat (6 * i) + 2) h2 = some (xs (6 * i + 2)) from rx h2 2 (by omega) e2, Option.bind_some, v2, Option.bind_some, e4, cI_v]
  refine law3t (d := d + 1) e5 e6 e7 (by omega) ?_
  rw [lt_at, n6]
  exact fin h5 J5
theorem lb_space (J : JH L xs i h) (hd : 94 ≤ d) (hi : 6 * i + 6 ≤ L) (hL : L ≤ 384) (fin : ∀ h3, JH L xs (i + 1) h3 → Ok (B_L_law_23 (ax_c (d + 1)) (.ref 0) 400 417 460 (Int32.ofNat (6 * (i + 1))) h3) v Q) : Ok (B_L_law_566 (ax_c (d + 1)) (.ref 0) 400 417 460 (Int32.ofNat (6 * i)) h) v Q := by
  have n6 : Int32.ofNat (6 * i) + 6 = Int32.ofNat (6 * (i + 1)) := i_add (6 * i) 6
  have rx : ∀ (h : ax_H) (j : Nat), j < 6 → h.1 0 = .inl (0, L, .inl xs) → dx_lI 0 (.ref 0) (Int32.ofNat (6 * i) + Int32.ofNat j) h = some (xs (6 * i + j)) := fun h j hj e => by rw [lI_at e, ix_of (i_add (6 * i) j) (show 6 * i + j < L by omega) (by omega), Option.bind_some]
  obtain ⟨x3, h2, e1, e2, ⟨s2, e3⟩, x6, h5, e4, e5, e6, e7, J5⟩ := law3 (cx := ax_c d 239 [.ref 400, .int (xs (6 * i + 1))] h) (ct := fun h => ax_c d 383 [.ref 417, .int (xs (6 * i + 1))] h) (cw := ax_c (d + 1) 182 [.ref 400, .int (xs (6 * i + 1)), .ref 460] h) (ex := ex2) J (fun W s C T => o_space C T (by omega)) (fun g => w_space g)
  have v2 : dx_vn [(38, 383)] (.ref 417) h2 = some 383 := by rw [← e3]; exact tw_vn _ _ _
  have e4 := c_mn (Nat.le_succ d) e4
  refine Ok.le (b_L_law_566 rfl) ?_
  rw [show dx_lI 0 (.ref 0) (Int32.ofNat (6 * i) + 1) h = some (xs (6 * i + 1)) from rx h 1 (by omega) J.1, Option.bind_some, e1, cI_v, show dx_lI 0 (.ref 0) (Int32.ofNat (6 * i) + 1) h2 = some (xs (6 * i + 1)) from rx h2 1 (by omega) e2, Option.bind_some, v2, Option.bind_some, e4, cI_v]
  refine law3t (d := d + 1) e5 e6 e7 (by omega) ?_
  rw [lt_at, n6]
  exact fin h5 J5
theorem lb_vector (J : JH L xs i h) (hd : 94 ≤ d) (hi : 6 * i + 6 ≤ L) (hL : L ≤ 384) (fin : ∀ h3, JH L xs (i + 1) h3 → Ok (B_L_law_23 (ax_c (d + 1)) (.ref 0) 400 417 460 (Int32.ofNat (6 * (i + 1))) h3) v Q) : Ok (B_L_law_622 (ax_c (d + 1)) (.ref 0) 400 417 460 (Int32.ofNat (6 * i)) h) v Q := by
  have n6 : Int32.ofNat (6 * i) + 6 = Int32.ofNat (6 * (i + 1)) := i_add (6 * i) 6
  have rx : ∀ (h : ax_H) (j : Nat), j < 6 → h.1 0 = .inl (0, L, .inl xs) → dx_lI 0 (.ref 0) (Int32.ofNat (6 * i) + Int32.ofNat j) h = some (xs (6 * i + j)) := fun h j hj e => by rw [lI_at e, ix_of (i_add (6 * i) j) (show 6 * i + j < L by omega) (by omega), Option.bind_some]
  obtain ⟨x3, h2, e1, e2, ⟨s2, e3⟩, x6, h5, e4, e5, e6, e7, J5⟩ := law3 (cx := ax_c d 240 [.ref 400, .int (xs (6 * i + 1)), .int (xs (6 * i + 2)), .int (xs (6 * i + 3))] h) (ct := fun h => ax_c d 384 [.ref 417, .int (xs (6 * i + 1)), .int (xs (6 * i + 2)), .int (xs (6 * i + 3))] h) (cw := ax_c (d + 1) 183 [.ref 400, .int (xs (6 * i + 1)), .int (xs (6 * i + 2)), .int (xs (6 * i + 3)), .ref 460] h) (ex := ex2) J (fun W s C T => o_vector C T (by omega)) (fun g => w_vector g)
  have v2 : dx_vn [(38, 384)] (.ref 417) h2 = some 384 := by rw [← e3]; exact tw_vn _ _ _
  have e4 := c_mn (Nat.le_succ d) e4
  refine Ok.le (b_L_law_622 rfl) ?_
  rw [show dx_lI 0 (.ref 0) (Int32.ofNat (6 * i) + 1) h = some (xs (6 * i + 1)) from rx h 1 (by omega) J.1, Option.bind_some, show dx_lI 0 (.ref 0) (Int32.ofNat (6 * i) + 2) h = some (xs (6 * i + 2)) from rx h 2 (by omega) J.1, Option.bind_some, show dx_lI 0 (.ref 0) (Int32.ofNat (6 * i) + 3) h = some (xs (6 * i + 3)) from rx h 3 (by omega) J.1, Option.bind_some, e1, cI_v, show dx_lI 0 (.ref 0) (Int32.ofNat (6 * i) + 1) h2 = some (xs (6 * i + 1)) from rx h2 1 (by omega) e2, Option.bind_some, show dx_lI 0 (.ref 0) (Int32.ofNat (6 * i) + 2) h2 = some (xs (6 * i + 2)) from rx h2 2 (by omega) e2, Option.bind_some, show dx_lI 0 (.ref 0) (Int32.ofNat (6 * i) + 3) h2 = some (xs (6 * i + 3)) from rx h2 3 (by omega) e2, Option.bind_some, v2, Option.bind_some, e4, cI_v]
  refine law3t (d := d + 1) e5 e6 e7 (by omega) ?_
  rw [lt_at, n6]
  exact fin h5 J5
theorem lb_macro (J : JH L xs i h) (hd : 94 ≤ d) (hi : 6 * i + 6 ≤ L) (hL : L ≤ 384) (fin : ∀ h3, JH L xs (i + 1) h3 → Ok (B_L_law_23 (ax_c (d + 1)) (.ref 0) 400 417 460 (Int32.ofNat (6 * (i + 1))) h3) v Q) : Ok (B_L_law_702 (ax_c (d + 1)) (.ref 0) 400 417 460 (Int32.ofNat (6 * i)) h) v Q := by
  have n6 : Int32.ofNat (6 * i) + 6 = Int32.ofNat (6 * (i + 1)) := i_add (6 * i) 6
  have rx : ∀ (h : ax_H) (j : Nat), j < 6 → h.1 0 = .inl (0, L, .inl xs) → dx_lI 0 (.ref 0) (Int32.ofNat (6 * i) + Int32.ofNat j) h = some (xs (6 * i + j)) := fun h j hj e => by rw [lI_at e, ix_of (i_add (6 * i) j) (show 6 * i + j < L by omega) (by omega), Option.bind_some]
  obtain ⟨x3, h2, e1, e2, ⟨s2, e3⟩, x6, h5, e4, e5, e6, e7, J5⟩ := law3 (cx := ax_c d 241 [.ref 400, .int (xs (6 * i + 1))] h) (ct := fun h => ax_c d 385 [.ref 417, .int (xs (6 * i + 1))] h) (cw := ax_c (d + 1) 184 [.ref 400, .int (xs (6 * i + 1)), .ref 460] h) (ex := ex2) J (fun W s C T => o_macro C T (by omega)) (fun g => w_macro g)
  have v2 : dx_vn [(38, 385)] (.ref 417) h2 = some 385 := by rw [← e3]; exact tw_vn _ _ _
  have e4 := c_mn (Nat.le_succ d) e4
  refine Ok.le (b_L_law_702 rfl) ?_
  rw [show dx_lI 0 (.ref 0) (Int32.ofNat (6 * i) + 1) h = some (xs (6 * i + 1)) from rx h 1 (by omega) J.1, Option.bind_some, e1, cI_v, show dx_lI 0 (.ref 0) (Int32.ofNat (6 * i) + 1) h2 = some (xs (6 * i + 1)) from rx h2 1 (by omega) e2, Option.bind_some, v2, Option.bind_some, e4, cI_v]
  refine law3t (d := d + 1) e5 e6 e7 (by omega) ?_
  rw [lt_at, n6]
  exact fin h5 J5
theorem lb_endMacro (J : JH L xs i h) (hd : 94 ≤ d) (hi : 6 * i + 6 ≤ L) (hL : L ≤ 384) (fin : ∀ h3, JH L xs (i + 1) h3 → Ok (B_L_law_23 (ax_c (d + 1)) (.ref 0) 400 417 460 (Int32.ofNat (6 * (i + 1))) h3) v Q) : Ok (B_L_law_758 (ax_c (d + 1)) (.ref 0) 400 417 460 (Int32.ofNat (6 * i)) h) v Q := by
  have n6 : Int32.ofNat (6 * i) + 6 = Int32.ofNat (6 * (i + 1)) := i_add (6 * i) 6
  have rx : ∀ (h : ax_H) (j : Nat), j < 6 → h.1 0 = .inl (0, L, .inl xs) → dx_lI 0 (.ref 0) (Int32.ofNat (6 * i) + Int32.ofNat j) h = some (xs (6 * i + j)) := fun h j hj e => by rw [lI_at e, ix_of (i_add (6 * i) j) (show 6 * i + j < L by omega) (by omega), Option.bind_some]
  obtain ⟨x3, h2, e1, e2, ⟨s2, e3⟩, x6, h5, e4, e5, e6, e7, J5⟩ := law3 (cx := ax_c d 242 [.ref 400] h) (ct := fun h => ax_c d 386 [.ref 417] h) (cw := ax_c (d + 1) 185 [.ref 400, .ref 460] h) (ex := exI) J (fun W s C T => o_endMacro C T (by omega)) (fun g => w_endMacro g)
  have v2 : dx_vn [(38, 386)] (.ref 417) h2 = some 386 := by rw [← e3]; exact tw_vn _ _ _
  have e4 := c_mn (Nat.le_succ d) e4
  refine Ok.le (b_L_law_758 rfl) ?_
  rw [e1, cI_v, v2, Option.bind_some, e4, cI_v]
  refine law3t (d := d + 1) e5 e6 e7 (by omega) ?_
  rw [lt_at, n6]
  exact fin h5 J5
theorem lb_use (J : JH L xs i h) (hd : 94 ≤ d) (hi : 6 * i + 6 ≤ L) (hL : L ≤ 384) (fin : ∀ h3, JH L xs (i + 1) h3 → Ok (B_L_law_23 (ax_c (d + 1)) (.ref 0) 400 417 460 (Int32.ofNat (6 * (i + 1))) h3) v Q) : Ok (B_L_law_802 (ax_c (d + 1)) (.ref 0) 400 417 460 (Int32.ofNat (6 * i)) h) v Q := by
  have n6 : Int32.ofNat (6 * i) + 6 = Int32.ofNat (6 * (i + 1)) := i_add (6 * i) 6
  have rx : ∀ (h : ax_H) (j : Nat), j < 6 → h.1 0 = .inl (0, L, .inl xs) → dx_lI 0 (.ref 0) (Int32.ofNat (6 * i) + Int32.ofNat j) h = some (xs (6 * i + j)) := fun h j hj e => by rw [lI_at e, ix_of (i_add (6 * i) j) (show 6 * i + j < L by omega) (by omega), Option.bind_some]
  obtain ⟨x3, h2, e1, e2, ⟨s2, e3⟩, x6, h5, e4, e5, e6, e7, J5⟩ := law3 (cx := ax_c d 243 [.ref 400, .int (xs (6 * i + 1)), .int (xs (6 * i + 2)), .int (xs (6 * i + 3)), .int (xs (6 * i + 4)), .int (xs (6 * i + 5))] h) (ct := fun h => ax_c d 387 [.ref 417, .int (xs (6 * i + 1)), .int (xs (6 * i + 2)), .int (xs (6 * i + 3)), .int (xs (6 * i + 4)), .int (xs (6 * i + 5))] h) (cw := ax_c (d + 1) 186 [.ref 400, .int (xs (6 * i + 1)), .int (xs (6 * i + 2)), .int (xs (6 * i + 3)), .int (xs (6 * i + 4)), .int (xs (6 * i + 5)), .ref 460] h) (ex := ex2) J (fun W s C T => o_use C T (by omega)) (fun g => w_use g)
  have v2 : dx_vn [(38, 387)] (.ref 417) h2 = some 387 := by rw [← e3]; exact tw_vn _ _ _
  have e4 := c_mn (Nat.le_succ d) e4
  refine Ok.le (b_L_law_802 rfl) ?_
  rw [show dx_lI 0 (.ref 0) (Int32.ofNat (6 * i) + 1) h = some (xs (6 * i + 1)) from rx h 1 (by omega) J.1, Option.bind_some, show dx_lI 0 (.ref 0) (Int32.ofNat (6 * i) + 2) h = some (xs (6 * i + 2)) from rx h 2 (by omega) J.1, Option.bind_some, show dx_lI 0 (.ref 0) (Int32.ofNat (6 * i) + 3) h = some (xs (6 * i + 3)) from rx h 3 (by omega) J.1, Option.bind_some, show dx_lI 0 (.ref 0) (Int32.ofNat (6 * i) + 4) h = some (xs (6 * i + 4)) from rx h 4 (by omega) J.1, Option.bind_some, show dx_lI 0 (.ref 0) (Int32.ofNat (6 * i) + 5) h = some (xs (6 * i + 5)) from rx h 5 (by omega) J.1, Option.bind_some, e1, cI_v, show dx_lI 0 (.ref 0) (Int32.ofNat (6 * i) + 1) h2 = some (xs (6 * i + 1)) from rx h2 1 (by omega) e2, Option.bind_some, show dx_lI 0 (.ref 0) (Int32.ofNat (6 * i) + 2) h2 = some (xs (6 * i + 2)) from rx h2 2 (by omega) e2, Option.bind_some, show dx_lI 0 (.ref 0) (Int32.ofNat (6 * i) + 3) h2 = some (xs (6 * i + 3)) from rx h2 3 (by omega) e2, Option.bind_some, show dx_lI 0 (.ref 0) (Int32.ofNat (6 * i) + 4) h2 = some (xs (6 * i + 4)) from rx h2 4 (by omega) e2, Option.bind_some, show dx_lI 0 (.ref 0) (Int32.ofNat (6 * i) + 5) h2 = some (xs (6 * i + 5)) from rx h2 5 (by omega) e2, Option.bind_some, v2, Option.bind_some, e4, cI_v]
  refine law3t (d := d + 1) e5 e6 e7 (by omega) ?_
  rw [lt_at, n6]
  exact fin h5 J5
theorem lb_error (J : JH L xs i h) (hd : 94 ≤ d) (hi : 6 * i + 6 ≤ L) (hL : L ≤ 384) (fin : ∀ h3, JH L xs (i + 1) h3 → Ok (B_L_law_23 (ax_c (d + 1)) (.ref 0) 400 417 460 (Int32.ofNat (6 * (i + 1))) h3) v Q) : Ok (B_L_law_906 (ax_c (d + 1)) (.ref 0) 400 417 460 (Int32.ofNat (6 * i)) h) v Q := by
  have n6 : Int32.ofNat (6 * i) + 6 = Int32.ofNat (6 * (i + 1)) := i_add (6 * i) 6
  refine Ok.le (b_L_law_906 rfl) ?_
  exact law1 (d := d + 1) J (fun W s C T => o_error C T (by omega)) fun h3 J3 => by rw [lt_at, n6]; exact fin h3 J3
theorem lb_assemble (J : JH L xs i h) (hd : 94 ≤ d) (hi : 6 * i + 6 ≤ L) (hL : L ≤ 384) (fin : ∀ h3, JH L xs (i + 1) h3 → Ok (B_L_law_23 (ax_c (d + 1)) (.ref 0) 400 417 460 (Int32.ofNat (6 * (i + 1))) h3) v Q) : Ok (B_L_law_919 (ax_c (d + 1)) (.ref 0) 400 417 460 (Int32.ofNat (6 * i)) h) v Q := by
  have n6 : Int32.ofNat (6 * i) + 6 = Int32.ofNat (6 * (i + 1)) := i_add (6 * i) 6
  have rx : ∀ (h : ax_H) (j : Nat), j < 6 → h.1 0 = .inl (0, L, .inl xs) → dx_lI 0 (.ref 0) (Int32.ofNat (6 * i) + Int32.ofNat j) h = some (xs (6 * i + j)) := fun h j hj e => by rw [lI_at e, ix_of (i_add (6 * i) j) (show 6 * i + j < L by omega) (by omega), Option.bind_some]
  obtain ⟨x3, h2, e1, e2, ⟨s2, e3⟩, x6, h5, e4, e5, e6, e7, J5⟩ := law3 (cx := ax_c d 244 [.ref 400] h) (ct := fun h => ax_c d 402 [.ref 417] h) (cw := ax_c (d + 1) 187 [.ref 400, .ref 460] h) (ex := exI) J (fun W s C T => o_assemble C T (by omega)) (fun g => w_assemble g)
  have v2 : dx_vn [(38, 402)] (.ref 417) h2 = some 402 := by rw [← e3]; exact tw_vn _ _ _
  have e4 := c_mn (Nat.le_succ d) e4
  refine Ok.le (b_L_law_919 rfl) ?_
  rw [e1, cI_v, v2, Option.bind_some, e4, cI_v]
  refine law3t (d := d + 1) e5 e6 e7 (by omega) ?_
  rw [lt_at, n6]
  exact fin h5 J5
theorem lb_image (J : JH L xs i h) (hd : 94 ≤ d) (hi : 6 * i + 6 ≤ L) (hL : L ≤ 384) (fin : ∀ h3, JH L xs (i + 1) h3 → Ok (B_L_law_23 (ax_c (d + 1)) (.ref 0) 400 417 460 (Int32.ofNat (6 * (i + 1))) h3) v Q) : Ok (B_L_law_963 (ax_c (d + 1)) (.ref 0) 400 417 460 (Int32.ofNat (6 * i)) h) v Q := by
  have n6 : Int32.ofNat (6 * i) + 6 = Int32.ofNat (6 * (i + 1)) := i_add (6 * i) 6
  have rx : ∀ (h : ax_H) (j : Nat), j < 6 → h.1 0 = .inl (0, L, .inl xs) → dx_lI 0 (.ref 0) (Int32.ofNat (6 * i) + Int32.ofNat j) h = some (xs (6 * i + j)) := fun h j hj e => by rw [lI_at e, ix_of (i_add (6 * i) j) (show 6 * i + j < L by omega) (by omega), Option.bind_some]
  obtain ⟨x3, h2, e1, e2, ⟨s2, e3⟩, x6, h5, e4, e5, e6, e7, J5⟩ := law3 (cx := ax_c d 245 [.ref 400, .int (xs (6 * i + 1))] h) (ct := fun h => ax_c d 403 [.ref 417, .int (xs (6 * i + 1))] h) (cw := ax_c (d + 1) 188 [.ref 400, .int (xs (6 * i + 1)), .ref 460] h) (ex := ex2) J (fun W s C T => o_image C T (by omega)) (fun g => w_image g)
  have v2 : dx_vn [(38, 403)] (.ref 417) h2 = some 403 := by rw [← e3]; exact tw_vn _ _ _
  have e4 := c_mn (Nat.le_succ d) e4
  refine Ok.le (b_L_law_963 rfl) ?_
  rw [show dx_lI 0 (.ref 0) (Int32.ofNat (6 * i) + 1) h = some (xs (6 * i + 1)) from rx h 1 (by omega) J.1, Option.bind_some, e1, cI_v, show dx_lI 0 (.ref 0) (Int32.ofNat (6 * i) + 1) h2 = some (xs (6 * i + 1)) from rx h2 1 (by omega) e2, Option.bind_some, v2, Option.bind_some, e4, cI_v]
  refine law3t (d := d + 1) e5 e6 e7 (by omega) ?_
  rw [lt_at, n6]
  exact fin h5 J5
theorem lb_start (J : JH L xs i h) (hd : 94 ≤ d) (hi : 6 * i + 6 ≤ L) (hL : L ≤ 384) (fin : ∀ h3, JH L xs (i + 1) h3 → Ok (B_L_law_23 (ax_c (d + 1)) (.ref 0) 400 417 460 (Int32.ofNat (6 * (i + 1))) h3) v Q) : Ok (B_L_law_1019 (ax_c (d + 1)) (.ref 0) 400 417 460 (Int32.ofNat (6 * i)) h) v Q := by
  have n6 : Int32.ofNat (6 * i) + 6 = Int32.ofNat (6 * (i + 1)) := i_add (6 * i) 6
  have rx : ∀ (h : ax_H) (j : Nat), j < 6 → h.1 0 = .inl (0, L, .inl xs) → dx_lI 0 (.ref 0) (Int32.ofNat (6 * i) + Int32.ofNat j) h = some (xs (6 * i + j)) := fun h j hj e => by rw [lI_at e, ix_of (i_add (6 * i) j) (show 6 * i + j < L by omega) (by omega), Option.bind_some]
  obtain ⟨x3, h2, e1, e2, ⟨s2, e3⟩, x6, h5, e4, e5, e6, e7, J5⟩ := law3 (cx := ax_c d 246 [.ref 400] h) (ct := fun h => ax_c d 404 [.ref 417] h) (cw := ax_c (d + 1) 189 [.ref 400, .ref 460] h) (ex := exI) J (fun W s C T => o_start C T (by omega) rfl) (fun g => w_start g)
  have v2 : dx_vn [(38, 404)] (.ref 417) h2 = some 404 := by rw [← e3]; exact tw_vn _ _ _
  have e4 := c_mn (Nat.le_succ d) e4
  refine Ok.le (b_L_law_1019 rfl) ?_
  rw [e1, cI_v, v2, Option.bind_some, e4, cI_v]
  refine law3t (d := d + 1) e5 e6 e7 (by omega) ?_
  rw [lt_at, n6]
  exact fin h5 J5
theorem lb_crash (J : JH L xs i h) (hd : 94 ≤ d) (hi : 6 * i + 6 ≤ L) (hL : L ≤ 384) (fin : ∀ h3, JH L xs (i + 1) h3 → Ok (B_L_law_23 (ax_c (d + 1)) (.ref 0) 400 417 460 (Int32.ofNat (6 * (i + 1))) h3) v Q) : Ok (B_L_law_1063 (ax_c (d + 1)) (.ref 0) 400 417 460 (Int32.ofNat (6 * i)) h) v Q := by
  have n6 : Int32.ofNat (6 * i) + 6 = Int32.ofNat (6 * (i + 1)) := i_add (6 * i) 6
  have rx : ∀ (h : ax_H) (j : Nat), j < 6 → h.1 0 = .inl (0, L, .inl xs) → dx_lI 0 (.ref 0) (Int32.ofNat (6 * i) + Int32.ofNat j) h = some (xs (6 * i + j)) := fun h j hj e => by rw [lI_at e, ix_of (i_add (6 * i) j) (show 6 * i + j < L by omega) (by omega), Option.bind_some]
  obtain ⟨x3, h2, e1, e2, ⟨s2, e3⟩, x6, h5, e4, e5, e6, e7, J5⟩ := law3 (cx := ax_c d 247 [.ref 400] h) (ct := fun h => ax_c d 412 [.ref 417] h) (cw := ax_c (d + 1) 190 [.ref 400, .ref 460] h) (ex := exI) J (fun W s C T => o_crash C T (by omega) rfl) (fun g => w_crash g)
  have v2 : dx_vn [(38, 412)] (.ref 417) h2 = some 412 := by rw [← e3]; exact tw_vn _ _ _
  have e4 := c_mn (Nat.le_succ d) e4
  refine Ok.le (b_L_law_1063 rfl) ?_
  rw [e1, cI_v, v2, Option.bind_some, e4, cI_v]
  refine law3t (d := d + 1) e5 e6 e7 (by omega) ?_
  rw [lt_at, n6]
  exact fin h5 J5
theorem lb_format (J : JH L xs i h) (hd : 94 ≤ d) (hi : 6 * i + 6 ≤ L) (hL : L ≤ 384) (fin : ∀ h3, JH L xs (i + 1) h3 → Ok (B_L_law_23 (ax_c (d + 1)) (.ref 0) 400 417 460 (Int32.ofNat (6 * (i + 1))) h3) v Q) : Ok (B_L_law_1107 (ax_c (d + 1)) (.ref 0) 400 417 460 (Int32.ofNat (6 * i)) h) v Q := by
  have n6 : Int32.ofNat (6 * i) + 6 = Int32.ofNat (6 * (i + 1)) := i_add (6 * i) 6
  have rx : ∀ (h : ax_H) (j : Nat), j < 6 → h.1 0 = .inl (0, L, .inl xs) → dx_lI 0 (.ref 0) (Int32.ofNat (6 * i) + Int32.ofNat j) h = some (xs (6 * i + j)) := fun h j hj e => by rw [lI_at e, ix_of (i_add (6 * i) j) (show 6 * i + j < L by omega) (by omega), Option.bind_some]
  obtain ⟨x3, h2, e1, e2, ⟨s2, e3⟩, x6, h5, e4, e5, e6, e7, J5⟩ := law3 (cx := ax_c d 248 [.ref 400] h) (ct := fun h => ax_c d 413 [.ref 417] h) (cw := ax_c (d + 1) 191 [.ref 400, .ref 460] h) (ex := exI) J (fun W s C T => o_format C T (by omega) rfl) (fun g => w_format g)
  have v2 : dx_vn [(38, 413)] (.ref 417) h2 = some 413 := by rw [← e3]; exact tw_vn _ _ _
  have e4 := c_mn (Nat.le_succ d) e4
  refine Ok.le (b_L_law_1107 rfl) ?_
  rw [e1, cI_v, v2, Option.bind_some, e4, cI_v]
  refine law3t (d := d + 1) e5 e6 e7 (by omega) ?_
  rw [lt_at, n6]
  exact fin h5 J5
theorem lb_step (J : JH L xs i h) (hd : 94 ≤ d) (hi : 6 * i + 6 ≤ L) (hL : L ≤ 384) (fin : ∀ h3, JH L xs (i + 1) h3 → Ok (B_L_law_23 (ax_c (d + 1)) (.ref 0) 400 417 460 (Int32.ofNat (6 * (i + 1))) h3) v Q) : Ok (B_L_law_1151 (ax_c (d + 1)) (.ref 0) 400 417 460 (Int32.ofNat (6 * i)) h) v Q := by
  have n6 : Int32.ofNat (6 * i) + 6 = Int32.ofNat (6 * (i + 1)) := i_add (6 * i) 6
  have rx : ∀ (h : ax_H) (j : Nat), j < 6 → h.1 0 = .inl (0, L, .inl xs) → dx_lI 0 (.ref 0) (Int32.ofNat (6 * i) + Int32.ofNat j) h = some (xs (6 * i + j)) := fun h j hj e => by rw [lI_at e, ix_of (i_add (6 * i) j) (show 6 * i + j < L by omega) (by omega), Option.bind_some]
  obtain ⟨x3, h2, e1, e2, ⟨s2, e3⟩, x6, h5, e4, e5, e6, e7, J5⟩ := law3 (cx := ax_c d 249 [.ref 400, .int (xs (6 * i + 1))] h) (ct := fun h => ax_c d 416 [.ref 417, .int (xs (6 * i + 1))] h) (cw := ax_c (d + 1) 192 [.ref 400, .int (xs (6 * i + 1)), .ref 460] h) (ex := ex2) J (fun W s C T => o_step C T (by omega)) (fun g => w_step g)
  have v2 : dx_vn [(38, 416)] (.ref 417) h2 = some 416 := by rw [← e3]; exact tw_vn _ _ _
  have e4 := c_mn (Nat.le_succ d) e4
  refine Ok.le (b_L_law_1151 rfl) ?_
  rw [show dx_lI 0 (.ref 0) (Int32.ofNat (6 * i) + 1) h = some (xs (6 * i + 1)) from rx h 1 (by omega) J.1, Option.bind_some, e1, cI_v, show dx_lI 0 (.ref 0) (Int32.ofNat (6 * i) + 1) h2 = some (xs (6 * i + 1)) from rx h2 1 (by omega) e2, Option.bind_some, v2, Option.bind_some, e4, cI_v]
  refine law3t (d := d + 1) e5 e6 e7 (by omega) ?_
  rw [lt_at, n6]
  exact fin h5 J5
theorem lb_runTo (J : JH L xs i h) (hd : 94 ≤ d) (hi : 6 * i + 6 ≤ L) (hL : L ≤ 384) (fin : ∀ h3, JH L xs (i + 1) h3 → Ok (B_L_law_23 (ax_c (d + 1)) (.ref 0) 400 417 460 (Int32.ofNat (6 * (i + 1))) h3) v Q) : Ok (B_L_law_1207 (ax_c (d + 1)) (.ref 0) 400 417 460 (Int32.ofNat (6 * i)) h) v Q := by
  have n6 : Int32.ofNat (6 * i) + 6 = Int32.ofNat (6 * (i + 1)) := i_add (6 * i) 6
  have rx : ∀ (h : ax_H) (j : Nat), j < 6 → h.1 0 = .inl (0, L, .inl xs) → dx_lI 0 (.ref 0) (Int32.ofNat (6 * i) + Int32.ofNat j) h = some (xs (6 * i + j)) := fun h j hj e => by rw [lI_at e, ix_of (i_add (6 * i) j) (show 6 * i + j < L by omega) (by omega), Option.bind_some]
  obtain ⟨x3, h2, e1, e2, ⟨s2, e3⟩, x6, h5, e4, e5, e6, e7, J5⟩ := law3 (cx := ax_c d 250 [.ref 400, .int (xs (6 * i + 1)), .int (xs (6 * i + 2))] h) (ct := fun h => ax_c d 450 [.ref 417, .int (xs (6 * i + 1)), .int (xs (6 * i + 2))] h) (cw := ax_c (d + 1) 193 [.ref 400, .int (xs (6 * i + 1)), .int (xs (6 * i + 2)), .ref 460] h) (ex := ex2) J (fun W s C T => o_runTo C T (by omega)) (fun g => w_runTo g)
  have v2 : dx_vn [(38, 450)] (.ref 417) h2 = some 450 := by rw [← e3]; exact tw_vn _ _ _
  have e4 := c_mn (Nat.le_succ d) e4
  refine Ok.le (b_L_law_1207 rfl) ?_
  rw [show dx_lI 0 (.ref 0) (Int32.ofNat (6 * i) + 1) h = some (xs (6 * i + 1)) from rx h 1 (by omega) J.1, Option.bind_some, show dx_lI 0 (.ref 0) (Int32.ofNat (6 * i) + 2) h = some (xs (6 * i + 2)) from rx h 2 (by omega) J.1, Option.bind_some, e1, cI_v, show dx_lI 0 (.ref 0) (Int32.ofNat (6 * i) + 1) h2 = some (xs (6 * i + 1)) from rx h2 1 (by omega) e2, Option.bind_some, show dx_lI 0 (.ref 0) (Int32.ofNat (6 * i) + 2) h2 = some (xs (6 * i + 2)) from rx h2 2 (by omega) e2, Option.bind_some, v2, Option.bind_some, e4, cI_v]
  refine law3t (d := d + 1) e5 e6 e7 (by omega) ?_
  rw [lt_at, n6]
  exact fin h5 J5
theorem lb_back (J : JH L xs i h) (hd : 94 ≤ d) (hi : 6 * i + 6 ≤ L) (hL : L ≤ 384) (fin : ∀ h3, JH L xs (i + 1) h3 → Ok (B_L_law_23 (ax_c (d + 1)) (.ref 0) 400 417 460 (Int32.ofNat (6 * (i + 1))) h3) v Q) : Ok (B_L_law_1275 (ax_c (d + 1)) (.ref 0) 400 417 460 (Int32.ofNat (6 * i)) h) v Q := by
  have n6 : Int32.ofNat (6 * i) + 6 = Int32.ofNat (6 * (i + 1)) := i_add (6 * i) 6
  have rx : ∀ (h : ax_H) (j : Nat), j < 6 → h.1 0 = .inl (0, L, .inl xs) → dx_lI 0 (.ref 0) (Int32.ofNat (6 * i) + Int32.ofNat j) h = some (xs (6 * i + j)) := fun h j hj e => by rw [lI_at e, ix_of (i_add (6 * i) j) (show 6 * i + j < L by omega) (by omega), Option.bind_some]
  obtain ⟨x3, h2, e1, e2, ⟨s2, e3⟩, x6, h5, e4, e5, e6, e7, J5⟩ := law3 (cx := ax_c d 251 [.ref 400, .int (xs (6 * i + 1))] h) (ct := fun h => ax_c d 451 [.ref 417, .int (xs (6 * i + 1))] h) (cw := ax_c (d + 1) 194 [.ref 400, .int (xs (6 * i + 1)), .ref 460] h) (ex := ex2) J (fun W s C T => o_back C T (by omega)) (fun g => w_back g)
  have v2 : dx_vn [(38, 451)] (.ref 417) h2 = some 451 := by rw [← e3]; exact tw_vn _ _ _
  have e4 := c_mn (Nat.le_succ d) e4
  refine Ok.le (b_L_law_1275 rfl) ?_
  rw [show dx_lI 0 (.ref 0) (Int32.ofNat (6 * i) + 1) h = some (xs (6 * i + 1)) from rx h 1 (by omega) J.1, Option.bind_some, e1, cI_v, show dx_lI 0 (.ref 0) (Int32.ofNat (6 * i) + 1) h2 = some (xs (6 * i + 1)) from rx h2 1 (by omega) e2, Option.bind_some, v2, Option.bind_some, e4, cI_v]
  refine law3t (d := d + 1) e5 e6 e7 (by omega) ?_
  rw [lt_at, n6]
  exact fin h5 J5
theorem lb_press (J : JH L xs i h) (hd : 94 ≤ d) (hi : 6 * i + 6 ≤ L) (hL : L ≤ 384) (fin : ∀ h3, JH L xs (i + 1) h3 → Ok (B_L_law_23 (ax_c (d + 1)) (.ref 0) 400 417 460 (Int32.ofNat (6 * (i + 1))) h3) v Q) : Ok (B_L_law_1331 (ax_c (d + 1)) (.ref 0) 400 417 460 (Int32.ofNat (6 * i)) h) v Q := by
  have n6 : Int32.ofNat (6 * i) + 6 = Int32.ofNat (6 * (i + 1)) := i_add (6 * i) 6
  have rx : ∀ (h : ax_H) (j : Nat), j < 6 → h.1 0 = .inl (0, L, .inl xs) → dx_lI 0 (.ref 0) (Int32.ofNat (6 * i) + Int32.ofNat j) h = some (xs (6 * i + j)) := fun h j hj e => by rw [lI_at e, ix_of (i_add (6 * i) j) (show 6 * i + j < L by omega) (by omega), Option.bind_some]
  obtain ⟨x3, h2, e1, e2, ⟨s2, e3⟩, x6, h5, e4, e5, e6, e7, J5⟩ := law3 (cx := ax_c d 252 [.ref 400, .int (xs (6 * i + 1))] h) (ct := fun h => ax_c d 453 [.ref 417, .int (xs (6 * i + 1))] h) (cw := ax_c (d + 1) 195 [.ref 400, .int (xs (6 * i + 1)), .ref 460] h) (ex := ex2) J (fun W s C T => o_press C T (by omega)) (fun g => w_press g)
  have v2 : dx_vn [(38, 453)] (.ref 417) h2 = some 453 := by rw [← e3]; exact tw_vn _ _ _
  have e4 := c_mn (Nat.le_succ d) e4
  refine Ok.le (b_L_law_1331 rfl) ?_
  rw [show dx_lI 0 (.ref 0) (Int32.ofNat (6 * i) + 1) h = some (xs (6 * i + 1)) from rx h 1 (by omega) J.1, Option.bind_some, e1, cI_v, show dx_lI 0 (.ref 0) (Int32.ofNat (6 * i) + 1) h2 = some (xs (6 * i + 1)) from rx h2 1 (by omega) e2, Option.bind_some, v2, Option.bind_some, e4, cI_v]
  refine law3t (d := d + 1) e5 e6 e7 (by omega) ?_
  rw [lt_at, n6]
  exact fin h5 J5
theorem lb_state (J : JH L xs i h) (hd : 94 ≤ d) (hi : 6 * i + 6 ≤ L) (hL : L ≤ 384) (fin : ∀ h3, JH L xs (i + 1) h3 → Ok (B_L_law_23 (ax_c (d + 1)) (.ref 0) 400 417 460 (Int32.ofNat (6 * (i + 1))) h3) v Q) : Ok (B_L_law_1387 (ax_c (d + 1)) (.ref 0) 400 417 460 (Int32.ofNat (6 * i)) h) v Q := by
  have n6 : Int32.ofNat (6 * i) + 6 = Int32.ofNat (6 * (i + 1)) := i_add (6 * i) 6
  refine Ok.le (b_L_law_1387 rfl) ?_
  exact law1 (d := d + 1) J (fun W s C T => o_state C T (by omega)) fun h3 J3 => by rw [lt_at, n6]; exact fin h3 J3
theorem lb_fault (J : JH L xs i h) (hd : 94 ≤ d) (hi : 6 * i + 6 ≤ L) (hL : L ≤ 384) (fin : ∀ h3, JH L xs (i + 1) h3 → Ok (B_L_law_23 (ax_c (d + 1)) (.ref 0) 400 417 460 (Int32.ofNat (6 * (i + 1))) h3) v Q) : Ok (B_L_law_1400 (ax_c (d + 1)) (.ref 0) 400 417 460 (Int32.ofNat (6 * i)) h) v Q := by
  have n6 : Int32.ofNat (6 * i) + 6 = Int32.ofNat (6 * (i + 1)) := i_add (6 * i) 6
  refine Ok.le (b_L_law_1400 rfl) ?_
  exact law1 (d := d + 1) J (fun W s C T => o_fault C T (by omega)) fun h3 J3 => by rw [lt_at, n6]; exact fin h3 J3
theorem lb_steps (J : JH L xs i h) (hd : 94 ≤ d) (hi : 6 * i + 6 ≤ L) (hL : L ≤ 384) (fin : ∀ h3, JH L xs (i + 1) h3 → Ok (B_L_law_23 (ax_c (d + 1)) (.ref 0) 400 417 460 (Int32.ofNat (6 * (i + 1))) h3) v Q) : Ok (B_L_law_1413 (ax_c (d + 1)) (.ref 0) 400 417 460 (Int32.ofNat (6 * i)) h) v Q := by
  have n6 : Int32.ofNat (6 * i) + 6 = Int32.ofNat (6 * (i + 1)) := i_add (6 * i) 6
  refine Ok.le (b_L_law_1413 rfl) ?_
  exact law1 (d := d + 1) J (fun W s C T => o_steps C T (by omega)) fun h3 J3 => by rw [lt_at, n6]; exact fin h3 J3
theorem lb_kept (J : JH L xs i h) (hd : 94 ≤ d) (hi : 6 * i + 6 ≤ L) (hL : L ≤ 384) (fin : ∀ h3, JH L xs (i + 1) h3 → Ok (B_L_law_23 (ax_c (d + 1)) (.ref 0) 400 417 460 (Int32.ofNat (6 * (i + 1))) h3) v Q) : Ok (B_L_law_1426 (ax_c (d + 1)) (.ref 0) 400 417 460 (Int32.ofNat (6 * i)) h) v Q := by
  have n6 : Int32.ofNat (6 * i) + 6 = Int32.ofNat (6 * (i + 1)) := i_add (6 * i) 6
  refine Ok.le (b_L_law_1426 rfl) ?_
  exact law1 (d := d + 1) J (fun W s C T => o_kept C T (by omega)) fun h3 J3 => by rw [lt_at, n6]; exact fin h3 J3
theorem lb_counter (J : JH L xs i h) (hd : 94 ≤ d) (hi : 6 * i + 6 ≤ L) (hL : L ≤ 384) (fin : ∀ h3, JH L xs (i + 1) h3 → Ok (B_L_law_23 (ax_c (d + 1)) (.ref 0) 400 417 460 (Int32.ofNat (6 * (i + 1))) h3) v Q) : Ok (B_L_law_1439 (ax_c (d + 1)) (.ref 0) 400 417 460 (Int32.ofNat (6 * i)) h) v Q := by
  have n6 : Int32.ofNat (6 * i) + 6 = Int32.ofNat (6 * (i + 1)) := i_add (6 * i) 6
  refine Ok.le (b_L_law_1439 rfl) ?_
  exact law1 (d := d + 1) J (fun W s C T => o_counter C T (by omega)) fun h3 J3 => by rw [lt_at, n6]; exact fin h3 J3
theorem lb_stack (J : JH L xs i h) (hd : 94 ≤ d) (hi : 6 * i + 6 ≤ L) (hL : L ≤ 384) (fin : ∀ h3, JH L xs (i + 1) h3 → Ok (B_L_law_23 (ax_c (d + 1)) (.ref 0) 400 417 460 (Int32.ofNat (6 * (i + 1))) h3) v Q) : Ok (B_L_law_1452 (ax_c (d + 1)) (.ref 0) 400 417 460 (Int32.ofNat (6 * i)) h) v Q := by
  have n6 : Int32.ofNat (6 * i) + 6 = Int32.ofNat (6 * (i + 1)) := i_add (6 * i) 6
  refine Ok.le (b_L_law_1452 rfl) ?_
  exact law1 (d := d + 1) J (fun W s C T => o_stack C T (by omega)) fun h3 J3 => by rw [lt_at, n6]; exact fin h3 J3
theorem lb_flags (J : JH L xs i h) (hd : 94 ≤ d) (hi : 6 * i + 6 ≤ L) (hL : L ≤ 384) (fin : ∀ h3, JH L xs (i + 1) h3 → Ok (B_L_law_23 (ax_c (d + 1)) (.ref 0) 400 417 460 (Int32.ofNat (6 * (i + 1))) h3) v Q) : Ok (B_L_law_1465 (ax_c (d + 1)) (.ref 0) 400 417 460 (Int32.ofNat (6 * i)) h) v Q := by
  have n6 : Int32.ofNat (6 * i) + 6 = Int32.ofNat (6 * (i + 1)) := i_add (6 * i) 6
  refine Ok.le (b_L_law_1465 rfl) ?_
  exact law1 (d := d + 1) J (fun W s C T => o_flags C T (by omega)) fun h3 J3 => by rw [lt_at, n6]; exact fin h3 J3
theorem lb_writesLeft (J : JH L xs i h) (hd : 94 ≤ d) (hi : 6 * i + 6 ≤ L) (hL : L ≤ 384) (fin : ∀ h3, JH L xs (i + 1) h3 → Ok (B_L_law_23 (ax_c (d + 1)) (.ref 0) 400 417 460 (Int32.ofNat (6 * (i + 1))) h3) v Q) : Ok (B_L_law_1478 (ax_c (d + 1)) (.ref 0) 400 417 460 (Int32.ofNat (6 * i)) h) v Q := by
  have n6 : Int32.ofNat (6 * i) + 6 = Int32.ofNat (6 * (i + 1)) := i_add (6 * i) 6
  refine Ok.le (b_L_law_1478 rfl) ?_
  exact law1 (d := d + 1) J (fun W s C T => o_writesLeft C T (by omega)) fun h3 J3 => by rw [lt_at, n6]; exact fin h3 J3
theorem lb_register (J : JH L xs i h) (hd : 94 ≤ d) (hi : 6 * i + 6 ≤ L) (hL : L ≤ 384) (fin : ∀ h3, JH L xs (i + 1) h3 → Ok (B_L_law_23 (ax_c (d + 1)) (.ref 0) 400 417 460 (Int32.ofNat (6 * (i + 1))) h3) v Q) : Ok (B_L_law_1491 (ax_c (d + 1)) (.ref 0) 400 417 460 (Int32.ofNat (6 * i)) h) v Q := by
  have n6 : Int32.ofNat (6 * i) + 6 = Int32.ofNat (6 * (i + 1)) := i_add (6 * i) 6
  have rx : ∀ (h : ax_H) (j : Nat), j < 6 → h.1 0 = .inl (0, L, .inl xs) → dx_lI 0 (.ref 0) (Int32.ofNat (6 * i) + Int32.ofNat j) h = some (xs (6 * i + j)) := fun h j hj e => by rw [lI_at e, ix_of (i_add (6 * i) j) (show 6 * i + j < L by omega) (by omega), Option.bind_some]
  obtain ⟨x3, h2, e1, e2, ⟨s2, e3⟩, x6, h5, e4, e5, e6, e7, J5⟩ := law3 (cx := ax_c d 253 [.ref 400, .int (xs (6 * i + 1))] h) (ct := fun h => ax_c d 463 [.ref 417, .int (xs (6 * i + 1))] h) (cw := ax_c (d + 1) 196 [.ref 400, .int (xs (6 * i + 1)), .ref 460] h) (ex := ex3) J (fun W s C T => o_register C T (by omega) rfl) (fun g => w_register g)
  have v2 : dx_vn [(38, 463)] (.ref 417) h2 = some 463 := by rw [← e3]; exact tw_vn _ _ _
  have e4 := c_mn (Nat.le_succ d) e4
  refine Ok.le (b_L_law_1491 rfl) ?_
  rw [show dx_lI 0 (.ref 0) (Int32.ofNat (6 * i) + 1) h = some (xs (6 * i + 1)) from rx h 1 (by omega) J.1, Option.bind_some, e1, cI_v, show dx_lI 0 (.ref 0) (Int32.ofNat (6 * i) + 1) h2 = some (xs (6 * i + 1)) from rx h2 1 (by omega) e2, Option.bind_some, v2, Option.bind_some, e4, cI_v]
  refine law3t (d := d + 1) e5 e6 e7 (by omega) ?_
  rw [lt_at, n6]
  exact fin h5 J5
theorem lb_memory (J : JH L xs i h) (hd : 94 ≤ d) (hi : 6 * i + 6 ≤ L) (hL : L ≤ 384) (fin : ∀ h3, JH L xs (i + 1) h3 → Ok (B_L_law_23 (ax_c (d + 1)) (.ref 0) 400 417 460 (Int32.ofNat (6 * (i + 1))) h3) v Q) : Ok (B_L_law_1547 (ax_c (d + 1)) (.ref 0) 400 417 460 (Int32.ofNat (6 * i)) h) v Q := by
  have n6 : Int32.ofNat (6 * i) + 6 = Int32.ofNat (6 * (i + 1)) := i_add (6 * i) 6
  have rx : ∀ (h : ax_H) (j : Nat), j < 6 → h.1 0 = .inl (0, L, .inl xs) → dx_lI 0 (.ref 0) (Int32.ofNat (6 * i) + Int32.ofNat j) h = some (xs (6 * i + j)) := fun h j hj e => by rw [lI_at e, ix_of (i_add (6 * i) j) (show 6 * i + j < L by omega) (by omega), Option.bind_some]
  obtain ⟨x3, h2, e1, e2, ⟨s2, e3⟩, x6, h5, e4, e5, e6, e7, J5⟩ := law3 (cx := ax_c d 254 [.ref 400, .int (xs (6 * i + 1))] h) (ct := fun h => ax_c d 464 [.ref 417, .int (xs (6 * i + 1))] h) (cw := ax_c (d + 1) 197 [.ref 400, .int (xs (6 * i + 1)), .ref 460] h) (ex := ex3) J (fun W s C T => o_memory C T (by omega) rfl) (fun g => w_memory g)
  have v2 : dx_vn [(38, 464)] (.ref 417) h2 = some 464 := by rw [← e3]; exact tw_vn _ _ _
  have e4 := c_mn (Nat.le_succ d) e4
  refine Ok.le (b_L_law_1547 rfl) ?_
  rw [show dx_lI 0 (.ref 0) (Int32.ofNat (6 * i) + 1) h = some (xs (6 * i + 1)) from rx h 1 (by omega) J.1, Option.bind_some, e1, cI_v, show dx_lI 0 (.ref 0) (Int32.ofNat (6 * i) + 1) h2 = some (xs (6 * i + 1)) from rx h2 1 (by omega) e2, Option.bind_some, v2, Option.bind_some, e4, cI_v]
  refine law3t (d := d + 1) e5 e6 e7 (by omega) ?_
  rw [lt_at, n6]
  exact fin h5 J5
theorem lb_changedAt (J : JH L xs i h) (hd : 94 ≤ d) (hi : 6 * i + 6 ≤ L) (hL : L ≤ 384) (fin : ∀ h3, JH L xs (i + 1) h3 → Ok (B_L_law_23 (ax_c (d + 1)) (.ref 0) 400 417 460 (Int32.ofNat (6 * (i + 1))) h3) v Q) : Ok (B_L_law_1603 (ax_c (d + 1)) (.ref 0) 400 417 460 (Int32.ofNat (6 * i)) h) v Q := by
  have n6 : Int32.ofNat (6 * i) + 6 = Int32.ofNat (6 * (i + 1)) := i_add (6 * i) 6
  have rx : ∀ (h : ax_H) (j : Nat), j < 6 → h.1 0 = .inl (0, L, .inl xs) → dx_lI 0 (.ref 0) (Int32.ofNat (6 * i) + Int32.ofNat j) h = some (xs (6 * i + j)) := fun h j hj e => by rw [lI_at e, ix_of (i_add (6 * i) j) (show 6 * i + j < L by omega) (by omega), Option.bind_some]
  obtain ⟨x3, h2, e1, e2, ⟨s2, e3⟩, x6, h5, e4, e5, e6, e7, J5⟩ := law3 (cx := ax_c d 255 [.ref 400, .int (xs (6 * i + 1))] h) (ct := fun h => ax_c d 466 [.ref 417, .int (xs (6 * i + 1))] h) (cw := ax_c (d + 1) 198 [.ref 400, .int (xs (6 * i + 1)), .ref 460] h) (ex := ex3) J (fun W s C T => o_changedAt C T (by omega) rfl) (fun g => w_changedAt g)
  have v2 : dx_vn [(38, 466)] (.ref 417) h2 = some 466 := by rw [← e3]; exact tw_vn _ _ _
  have e4 := c_mn (Nat.le_succ d) e4
  refine Ok.le (b_L_law_1603 rfl) ?_
  rw [show dx_lI 0 (.ref 0) (Int32.ofNat (6 * i) + 1) h = some (xs (6 * i + 1)) from rx h 1 (by omega) J.1, Option.bind_some, e1, cI_v, show dx_lI 0 (.ref 0) (Int32.ofNat (6 * i) + 1) h2 = some (xs (6 * i + 1)) from rx h2 1 (by omega) e2, Option.bind_some, v2, Option.bind_some, e4, cI_v]
  refine law3t (d := d + 1) e5 e6 e7 (by omega) ?_
  rw [lt_at, n6]
  exact fin h5 J5
theorem lb_tape (J : JH L xs i h) (hd : 94 ≤ d) (hi : 6 * i + 6 ≤ L) (hL : L ≤ 384) (fin : ∀ h3, JH L xs (i + 1) h3 → Ok (B_L_law_23 (ax_c (d + 1)) (.ref 0) 400 417 460 (Int32.ofNat (6 * (i + 1))) h3) v Q) : Ok (B_L_law_1659 (ax_c (d + 1)) (.ref 0) 400 417 460 (Int32.ofNat (6 * i)) h) v Q := by
  have n6 : Int32.ofNat (6 * i) + 6 = Int32.ofNat (6 * (i + 1)) := i_add (6 * i) 6
  refine Ok.le (b_L_law_1659 rfl) ?_
  exact law1 (d := d + 1) J (fun W s C T => o_tape C T (by omega)) fun h3 J3 => by rw [lt_at, n6]; exact fin h3 J3
theorem lb_tapeAt (J : JH L xs i h) (hd : 94 ≤ d) (hi : 6 * i + 6 ≤ L) (hL : L ≤ 384) (fin : ∀ h3, JH L xs (i + 1) h3 → Ok (B_L_law_23 (ax_c (d + 1)) (.ref 0) 400 417 460 (Int32.ofNat (6 * (i + 1))) h3) v Q) : Ok (B_L_law_1672 (ax_c (d + 1)) (.ref 0) 400 417 460 (Int32.ofNat (6 * i)) h) v Q := by
  have n6 : Int32.ofNat (6 * i) + 6 = Int32.ofNat (6 * (i + 1)) := i_add (6 * i) 6
  have rx : ∀ (h : ax_H) (j : Nat), j < 6 → h.1 0 = .inl (0, L, .inl xs) → dx_lI 0 (.ref 0) (Int32.ofNat (6 * i) + Int32.ofNat j) h = some (xs (6 * i + j)) := fun h j hj e => by rw [lI_at e, ix_of (i_add (6 * i) j) (show 6 * i + j < L by omega) (by omega), Option.bind_some]
  obtain ⟨x3, h2, e1, e2, ⟨s2, e3⟩, x6, h5, e4, e5, e6, e7, J5⟩ := law3 (cx := ax_c d 256 [.ref 400, .int (xs (6 * i + 1))] h) (ct := fun h => ax_c d 468 [.ref 417, .int (xs (6 * i + 1))] h) (cw := ax_c (d + 1) 199 [.ref 400, .int (xs (6 * i + 1)), .ref 460] h) (ex := ex4) J (fun W s C T => o_tapeAt C T (by omega) rfl) (fun g => w_tapeAt g)
  have v2 : dx_vn [(38, 468)] (.ref 417) h2 = some 468 := by rw [← e3]; exact tw_vn _ _ _
  have e4 := c_mn (Nat.le_succ d) e4
  refine Ok.le (b_L_law_1672 rfl) ?_
  rw [show dx_lI 0 (.ref 0) (Int32.ofNat (6 * i) + 1) h = some (xs (6 * i + 1)) from rx h 1 (by omega) J.1, Option.bind_some, e1, cI_v, show dx_lI 0 (.ref 0) (Int32.ofNat (6 * i) + 1) h2 = some (xs (6 * i + 1)) from rx h2 1 (by omega) e2, Option.bind_some, v2, Option.bind_some, e4, cI_v]
  refine law3t (d := d + 1) e5 e6 e7 (by omega) ?_
  rw [lt_at, n6]
  exact fin h5 J5
theorem lb_sum (J : JH L xs i h) (hd : 94 ≤ d) (hi : 6 * i + 6 ≤ L) (hL : L ≤ 384) (fin : ∀ h3, JH L xs (i + 1) h3 → Ok (B_L_law_23 (ax_c (d + 1)) (.ref 0) 400 417 460 (Int32.ofNat (6 * (i + 1))) h3) v Q) : Ok (B_L_law_1728 (ax_c (d + 1)) (.ref 0) 400 417 460 (Int32.ofNat (6 * i)) h) v Q := by
  have n6 : Int32.ofNat (6 * i) + 6 = Int32.ofNat (6 * (i + 1)) := i_add (6 * i) 6
  refine Ok.le (b_L_law_1728 rfl) ?_
  exact law1 (d := d + 1) J (fun W s C T => o_sum C T (by omega)) fun h3 J3 => by rw [lt_at, n6]; exact fin h3 J3
theorem lb_sumAnew (J : JH L xs i h) (hd : 94 ≤ d) (hi : 6 * i + 6 ≤ L) (hL : L ≤ 384) (fin : ∀ h3, JH L xs (i + 1) h3 → Ok (B_L_law_23 (ax_c (d + 1)) (.ref 0) 400 417 460 (Int32.ofNat (6 * (i + 1))) h3) v Q) : Ok (B_L_law_1741 (ax_c (d + 1)) (.ref 0) 400 417 460 (Int32.ofNat (6 * i)) h) v Q := by
  have n6 : Int32.ofNat (6 * i) + 6 = Int32.ofNat (6 * (i + 1)) := i_add (6 * i) 6
  have rx : ∀ (h : ax_H) (j : Nat), j < 6 → h.1 0 = .inl (0, L, .inl xs) → dx_lI 0 (.ref 0) (Int32.ofNat (6 * i) + Int32.ofNat j) h = some (xs (6 * i + j)) := fun h j hj e => by rw [lI_at e, ix_of (i_add (6 * i) j) (show 6 * i + j < L by omega) (by omega), Option.bind_some]
  obtain ⟨x3, h2, e1, e2, ⟨s2, e3⟩, x6, h5, e4, e5, e6, e7, J5⟩ := law3 (cx := ax_c d 257 [.ref 400, .int (xs (6 * i + 1))] h) (ct := fun h => ax_c d 472 [.ref 417, .int (xs (6 * i + 1))] h) (cw := ax_c (d + 1) 200 [.ref 400, .int (xs (6 * i + 1)), .ref 460] h) (ex := ex5) J (fun W s C T => o_sumAnew C T (by omega) rfl rfl) (fun g => w_sumAnew g)
  have v2 : dx_vn [(38, 472)] (.ref 417) h2 = some 472 := by rw [← e3]; exact tw_vn _ _ _
  have e4 := c_mn (Nat.le_succ d) e4
  refine Ok.le (b_L_law_1741 rfl) ?_
  rw [show dx_lI 0 (.ref 0) (Int32.ofNat (6 * i) + 1) h = some (xs (6 * i + 1)) from rx h 1 (by omega) J.1, Option.bind_some, e1, cI_v, show dx_lI 0 (.ref 0) (Int32.ofNat (6 * i) + 1) h2 = some (xs (6 * i + 1)) from rx h2 1 (by omega) e2, Option.bind_some, v2, Option.bind_some, e4, cI_v]
  refine law3t (d := d + 1) e5 e6 e7 (by omega) ?_
  rw [lt_at, n6]
  exact fin h5 J5
theorem lb_written (J : JH L xs i h) (hd : 94 ≤ d) (hi : 6 * i + 6 ≤ L) (hL : L ≤ 384) (fin : ∀ h3, JH L xs (i + 1) h3 → Ok (B_L_law_23 (ax_c (d + 1)) (.ref 0) 400 417 460 (Int32.ofNat (6 * (i + 1))) h3) v Q) : Ok (B_L_law_1797 (ax_c (d + 1)) (.ref 0) 400 417 460 (Int32.ofNat (6 * i)) h) v Q := by
  have n6 : Int32.ofNat (6 * i) + 6 = Int32.ofNat (6 * (i + 1)) := i_add (6 * i) 6
  refine Ok.le (b_L_law_1797 rfl) ?_
  exact law1 (d := d + 1) J (fun W s C T => o_written C T (by omega)) fun h3 J3 => by rw [lt_at, n6]; exact fin h3 J3
theorem lb_disk (J : JH L xs i h) (hd : 94 ≤ d) (hi : 6 * i + 6 ≤ L) (hL : L ≤ 384) (fin : ∀ h3, JH L xs (i + 1) h3 → Ok (B_L_law_23 (ax_c (d + 1)) (.ref 0) 400 417 460 (Int32.ofNat (6 * (i + 1))) h3) v Q) : Ok (B_L_law_1810 (ax_c (d + 1)) (.ref 0) 400 417 460 (Int32.ofNat (6 * i)) h) v Q := by
  have n6 : Int32.ofNat (6 * i) + 6 = Int32.ofNat (6 * (i + 1)) := i_add (6 * i) 6
  have rx : ∀ (h : ax_H) (j : Nat), j < 6 → h.1 0 = .inl (0, L, .inl xs) → dx_lI 0 (.ref 0) (Int32.ofNat (6 * i) + Int32.ofNat j) h = some (xs (6 * i + j)) := fun h j hj e => by rw [lI_at e, ix_of (i_add (6 * i) j) (show 6 * i + j < L by omega) (by omega), Option.bind_some]
  obtain ⟨x3, h2, e1, e2, ⟨s2, e3⟩, x6, h5, e4, e5, e6, e7, J5⟩ := law3 (cx := ax_c d 258 [.ref 400, .int (xs (6 * i + 1)), .int (xs (6 * i + 2))] h) (ct := fun h => ax_c d 474 [.ref 417, .int (xs (6 * i + 1)), .int (xs (6 * i + 2))] h) (cw := ax_c (d + 1) 201 [.ref 400, .int (xs (6 * i + 1)), .int (xs (6 * i + 2)), .ref 460] h) (ex := ex3) J (fun W s C T => o_disk C T (by omega) rfl) (fun g => w_disk g)
  have v2 : dx_vn [(38, 474)] (.ref 417) h2 = some 474 := by rw [← e3]; exact tw_vn _ _ _
  have e4 := c_mn (Nat.le_succ d) e4
  refine Ok.le (b_L_law_1810 rfl) ?_
  rw [show dx_lI 0 (.ref 0) (Int32.ofNat (6 * i) + 1) h = some (xs (6 * i + 1)) from rx h 1 (by omega) J.1, Option.bind_some, show dx_lI 0 (.ref 0) (Int32.ofNat (6 * i) + 2) h = some (xs (6 * i + 2)) from rx h 2 (by omega) J.1, Option.bind_some, e1, cI_v, show dx_lI 0 (.ref 0) (Int32.ofNat (6 * i) + 1) h2 = some (xs (6 * i + 1)) from rx h2 1 (by omega) e2, Option.bind_some, show dx_lI 0 (.ref 0) (Int32.ofNat (6 * i) + 2) h2 = some (xs (6 * i + 2)) from rx h2 2 (by omega) e2, Option.bind_some, v2, Option.bind_some, e4, cI_v]
  refine law3t (d := d + 1) e5 e6 e7 (by omega) ?_
  rw [lt_at, n6]
  exact fin h5 J5
theorem lb_files (J : JH L xs i h) (hd : 94 ≤ d) (hi : 6 * i + 6 ≤ L) (hL : L ≤ 384) (fin : ∀ h3, JH L xs (i + 1) h3 → Ok (B_L_law_23 (ax_c (d + 1)) (.ref 0) 400 417 460 (Int32.ofNat (6 * (i + 1))) h3) v Q) : Ok (B_L_law_1878 (ax_c (d + 1)) (.ref 0) 400 417 460 (Int32.ofNat (6 * i)) h) v Q := by
  have n6 : Int32.ofNat (6 * i) + 6 = Int32.ofNat (6 * (i + 1)) := i_add (6 * i) 6
  refine Ok.le (b_L_law_1878 rfl) ?_
  exact law1 (d := d + 1) J (fun W s C T => o_files C T (by omega)) fun h3 J3 => by rw [lt_at, n6]; exact fin h3 J3
theorem lb_size (J : JH L xs i h) (hd : 94 ≤ d) (hi : 6 * i + 6 ≤ L) (hL : L ≤ 384) (fin : ∀ h3, JH L xs (i + 1) h3 → Ok (B_L_law_23 (ax_c (d + 1)) (.ref 0) 400 417 460 (Int32.ofNat (6 * (i + 1))) h3) v Q) : Ok (B_L_law_1891 (ax_c (d + 1)) (.ref 0) 400 417 460 (Int32.ofNat (6 * i)) h) v Q := by
  have n6 : Int32.ofNat (6 * i) + 6 = Int32.ofNat (6 * (i + 1)) := i_add (6 * i) 6
  have rx : ∀ (h : ax_H) (j : Nat), j < 6 → h.1 0 = .inl (0, L, .inl xs) → dx_lI 0 (.ref 0) (Int32.ofNat (6 * i) + Int32.ofNat j) h = some (xs (6 * i + j)) := fun h j hj e => by rw [lI_at e, ix_of (i_add (6 * i) j) (show 6 * i + j < L by omega) (by omega), Option.bind_some]
  obtain ⟨x3, h2, e1, e2, ⟨s2, e3⟩, x6, h5, e4, e5, e6, e7, J5⟩ := law3 (cx := ax_c d 259 [.ref 400, .int (xs (6 * i + 1))] h) (ct := fun h => ax_c d 476 [.ref 417, .int (xs (6 * i + 1))] h) (cw := ax_c (d + 1) 202 [.ref 400, .int (xs (6 * i + 1)), .ref 460] h) (ex := ex6) J (fun W s C T => o_size C T (by omega) rfl rfl) (fun g => w_size g)
  have v2 : dx_vn [(38, 476)] (.ref 417) h2 = some 476 := by rw [← e3]; exact tw_vn _ _ _
  have e4 := c_mn (Nat.le_succ d) e4
  refine Ok.le (b_L_law_1891 rfl) ?_
  rw [show dx_lI 0 (.ref 0) (Int32.ofNat (6 * i) + 1) h = some (xs (6 * i + 1)) from rx h 1 (by omega) J.1, Option.bind_some, e1, cI_v, show dx_lI 0 (.ref 0) (Int32.ofNat (6 * i) + 1) h2 = some (xs (6 * i + 1)) from rx h2 1 (by omega) e2, Option.bind_some, v2, Option.bind_some, e4, cI_v]
  refine law3t (d := d + 1) e5 e6 e7 (by omega) ?_
  rw [lt_at, n6]
  exact fin h5 J5
theorem lb_wordOf (J : JH L xs i h) (hd : 94 ≤ d) (hi : 6 * i + 6 ≤ L) (hL : L ≤ 384) (fin : ∀ h3, JH L xs (i + 1) h3 → Ok (B_L_law_23 (ax_c (d + 1)) (.ref 0) 400 417 460 (Int32.ofNat (6 * (i + 1))) h3) v Q) : Ok (B_L_law_1947 (ax_c (d + 1)) (.ref 0) 400 417 460 (Int32.ofNat (6 * i)) h) v Q := by
  have n6 : Int32.ofNat (6 * i) + 6 = Int32.ofNat (6 * (i + 1)) := i_add (6 * i) 6
  have rx : ∀ (h : ax_H) (j : Nat), j < 6 → h.1 0 = .inl (0, L, .inl xs) → dx_lI 0 (.ref 0) (Int32.ofNat (6 * i) + Int32.ofNat j) h = some (xs (6 * i + j)) := fun h j hj e => by rw [lI_at e, ix_of (i_add (6 * i) j) (show 6 * i + j < L by omega) (by omega), Option.bind_some]
  obtain ⟨x3, h2, e1, e2, ⟨s2, e3⟩, x6, h5, e4, e5, e6, e7, J5⟩ := law3 (cx := ax_c d 261 [.ref 400, .int (xs (6 * i + 1)), .int (xs (6 * i + 2))] h) (ct := fun h => ax_c d 478 [.ref 417, .int (xs (6 * i + 1)), .int (xs (6 * i + 2))] h) (cw := ax_c (d + 1) 203 [.ref 400, .int (xs (6 * i + 1)), .int (xs (6 * i + 2)), .ref 460] h) (ex := ex7) J (fun W s C T => o_wordOf C T (by omega) rfl rfl rfl) (fun g => w_wordOf g)
  have v2 : dx_vn [(38, 478)] (.ref 417) h2 = some 478 := by rw [← e3]; exact tw_vn _ _ _
  have e4 := c_mn (Nat.le_succ d) e4
  refine Ok.le (b_L_law_1947 rfl) ?_
  rw [show dx_lI 0 (.ref 0) (Int32.ofNat (6 * i) + 1) h = some (xs (6 * i + 1)) from rx h 1 (by omega) J.1, Option.bind_some, show dx_lI 0 (.ref 0) (Int32.ofNat (6 * i) + 2) h = some (xs (6 * i + 2)) from rx h 2 (by omega) J.1, Option.bind_some, e1, cI_v, show dx_lI 0 (.ref 0) (Int32.ofNat (6 * i) + 1) h2 = some (xs (6 * i + 1)) from rx h2 1 (by omega) e2, Option.bind_some, show dx_lI 0 (.ref 0) (Int32.ofNat (6 * i) + 2) h2 = some (xs (6 * i + 2)) from rx h2 2 (by omega) e2, Option.bind_some, v2, Option.bind_some, e4, cI_v]
  refine law3t (d := d + 1) e5 e6 e7 (by omega) ?_
  rw [lt_at, n6]
  exact fin h5 J5
theorem lb_freeBlocks (J : JH L xs i h) (hd : 94 ≤ d) (hi : 6 * i + 6 ≤ L) (hL : L ≤ 384) (fin : ∀ h3, JH L xs (i + 1) h3 → Ok (B_L_law_23 (ax_c (d + 1)) (.ref 0) 400 417 460 (Int32.ofNat (6 * (i + 1))) h3) v Q) : Ok (B_L_law_2015 (ax_c (d + 1)) (.ref 0) 400 417 460 (Int32.ofNat (6 * i)) h) v Q := by
  have n6 : Int32.ofNat (6 * i) + 6 = Int32.ofNat (6 * (i + 1)) := i_add (6 * i) 6
  refine Ok.le (b_L_law_2015 rfl) ?_
  exact law1 (d := d + 1) J (fun W s C T => o_freeBlocks C T (by omega)) fun h3 J3 => by rw [lt_at, n6]; exact fin h3 J3
theorem lb_isWhole (J : JH L xs i h) (hd : 94 ≤ d) (hi : 6 * i + 6 ≤ L) (hL : L ≤ 384) (fin : ∀ h3, JH L xs (i + 1) h3 → Ok (B_L_law_23 (ax_c (d + 1)) (.ref 0) 400 417 460 (Int32.ofNat (6 * (i + 1))) h3) v Q) : Ok (B_L_law_2028 (ax_c (d + 1)) (.ref 0) 400 417 460 (Int32.ofNat (6 * i)) h) v Q := by
  have n6 : Int32.ofNat (6 * i) + 6 = Int32.ofNat (6 * (i + 1)) := i_add (6 * i) 6
  refine Ok.le (b_L_law_2028 rfl) ?_
  exact law1 (d := d + 1) J (fun W s C T => o_isWhole C T (by omega)) fun h3 J3 => by rw [lt_at, n6]; exact fin h3 J3
theorem lb_testKey (J : JH L xs i h) (hd : 94 ≤ d) (hi : 6 * i + 6 ≤ L) (hL : L ≤ 384) (fin : ∀ h3, JH L xs (i + 1) h3 → Ok (B_L_law_23 (ax_c (d + 1)) (.ref 0) 400 417 460 (Int32.ofNat (6 * (i + 1))) h3) v Q) : Ok (B_L_law_2041 (ax_c (d + 1)) (.ref 0) 400 417 460 (Int32.ofNat (6 * i)) h) v Q := by
  have n6 : Int32.ofNat (6 * i) + 6 = Int32.ofNat (6 * (i + 1)) := i_add (6 * i) 6
  have rx : ∀ (h : ax_H) (j : Nat), j < 6 → h.1 0 = .inl (0, L, .inl xs) → dx_lI 0 (.ref 0) (Int32.ofNat (6 * i) + Int32.ofNat j) h = some (xs (6 * i + j)) := fun h j hj e => by rw [lI_at e, ix_of (i_add (6 * i) j) (show 6 * i + j < L by omega) (by omega), Option.bind_some]
  obtain ⟨x3, h2, e1, e2, ⟨s2, e3⟩, x6, h5, e4, e5, e6, e7, J5⟩ := law3 (cx := ax_c d 262 [.ref 400, .int (xs (6 * i + 1))] h) (ct := fun h => ax_c d 483 [.ref 417, .int (xs (6 * i + 1))] h) (cw := ax_c (d + 1) 204 [.ref 400, .int (xs (6 * i + 1)), .ref 460] h) (ex := ex2) J (fun W s C T => o_testKey C T (by omega)) (fun g => w_testKey g)
  have v2 : dx_vn [(38, 483)] (.ref 417) h2 = some 483 := by rw [← e3]; exact tw_vn _ _ _
  have e4 := c_mn (Nat.le_succ d) e4
  refine Ok.le (b_L_law_2041 rfl) ?_
  rw [show dx_lI 0 (.ref 0) (Int32.ofNat (6 * i) + 1) h = some (xs (6 * i + 1)) from rx h 1 (by omega) J.1, Option.bind_some, e1, cI_v, show dx_lI 0 (.ref 0) (Int32.ofNat (6 * i) + 1) h2 = some (xs (6 * i + 1)) from rx h2 1 (by omega) e2, Option.bind_some, v2, Option.bind_some, e4, cI_v]
  refine law3t (d := d + 1) e5 e6 e7 (by omega) ?_
  rw [lt_at, n6]
  exact fin h5 J5
theorem lb_testWord (J : JH L xs i h) (hd : 94 ≤ d) (hi : 6 * i + 6 ≤ L) (hL : L ≤ 384) (fin : ∀ h3, JH L xs (i + 1) h3 → Ok (B_L_law_23 (ax_c (d + 1)) (.ref 0) 400 417 460 (Int32.ofNat (6 * (i + 1))) h3) v Q) : Ok (B_L_law_2097 (ax_c (d + 1)) (.ref 0) 400 417 460 (Int32.ofNat (6 * i)) h) v Q := by
  have n6 : Int32.ofNat (6 * i) + 6 = Int32.ofNat (6 * (i + 1)) := i_add (6 * i) 6
  have rx : ∀ (h : ax_H) (j : Nat), j < 6 → h.1 0 = .inl (0, L, .inl xs) → dx_lI 0 (.ref 0) (Int32.ofNat (6 * i) + Int32.ofNat j) h = some (xs (6 * i + j)) := fun h j hj e => by rw [lI_at e, ix_of (i_add (6 * i) j) (show 6 * i + j < L by omega) (by omega), Option.bind_some]
  obtain ⟨x3, h2, e1, e2, ⟨s2, e3⟩, x6, h5, e4, e5, e6, e7, J5⟩ := law3 (cx := ax_c d 264 [.ref 400, .int (xs (6 * i + 1))] h) (ct := fun h => ax_c d 484 [.ref 417, .int (xs (6 * i + 1))] h) (cw := ax_c (d + 1) 205 [.ref 400, .int (xs (6 * i + 1)), .ref 460] h) (ex := ex2) J (fun W s C T => o_testWord C T (by omega)) (fun g => w_testWord g)
  have v2 : dx_vn [(38, 484)] (.ref 417) h2 = some 484 := by rw [← e3]; exact tw_vn _ _ _
  have e4 := c_mn (Nat.le_succ d) e4
  refine Ok.le (b_L_law_2097 rfl) ?_
  rw [show dx_lI 0 (.ref 0) (Int32.ofNat (6 * i) + 1) h = some (xs (6 * i + 1)) from rx h 1 (by omega) J.1, Option.bind_some, e1, cI_v, show dx_lI 0 (.ref 0) (Int32.ofNat (6 * i) + 1) h2 = some (xs (6 * i + 1)) from rx h2 1 (by omega) e2, Option.bind_some, v2, Option.bind_some, e4, cI_v]
  refine law3t (d := d + 1) e5 e6 e7 (by omega) ?_
  rw [lt_at, n6]
  exact fin h5 J5
theorem lb_addTest (J : JH L xs i h) (hd : 94 ≤ d) (hi : 6 * i + 6 ≤ L) (hL : L ≤ 384) (fin : ∀ h3, JH L xs (i + 1) h3 → Ok (B_L_law_23 (ax_c (d + 1)) (.ref 0) 400 417 460 (Int32.ofNat (6 * (i + 1))) h3) v Q) : Ok (B_L_law_2153 (ax_c (d + 1)) (.ref 0) 400 417 460 (Int32.ofNat (6 * i)) h) v Q := by
  have n6 : Int32.ofNat (6 * i) + 6 = Int32.ofNat (6 * (i + 1)) := i_add (6 * i) 6
  have rx : ∀ (h : ax_H) (j : Nat), j < 6 → h.1 0 = .inl (0, L, .inl xs) → dx_lI 0 (.ref 0) (Int32.ofNat (6 * i) + Int32.ofNat j) h = some (xs (6 * i + j)) := fun h j hj e => by rw [lI_at e, ix_of (i_add (6 * i) j) (show 6 * i + j < L by omega) (by omega), Option.bind_some]
  obtain ⟨x3, h2, e1, e2, ⟨s2, e3⟩, x6, h5, e4, e5, e6, e7, J5⟩ := law3 (cx := ax_c d 265 [.ref 400, .int (xs (6 * i + 1)), .int (xs (6 * i + 2)), .int (xs (6 * i + 3)), .int (xs (6 * i + 4))] h) (ct := fun h => ax_c d 485 [.ref 417, .int (xs (6 * i + 1)), .int (xs (6 * i + 2)), .int (xs (6 * i + 3)), .int (xs (6 * i + 4))] h) (cw := ax_c (d + 1) 206 [.ref 400, .int (xs (6 * i + 1)), .int (xs (6 * i + 2)), .int (xs (6 * i + 3)), .int (xs (6 * i + 4)), .ref 460] h) (ex := ex2) J (fun W s C T => o_addTest C T (by omega)) (fun g => w_addTest g)
  have v2 : dx_vn [(38, 485)] (.ref 417) h2 = some 485 := by rw [← e3]; exact tw_vn _ _ _
  have e4 := c_mn (Nat.le_succ d) e4
  refine Ok.le (b_L_law_2153 rfl) ?_
  rw [show dx_lI 0 (.ref 0) (Int32.ofNat (6 * i) + 1) h = some (xs (6 * i + 1)) from rx h 1 (by omega) J.1, Option.bind_some, show dx_lI 0 (.ref 0) (Int32.ofNat (6 * i) + 2) h = some (xs (6 * i + 2)) from rx h 2 (by omega) J.1, Option.bind_some, show dx_lI 0 (.ref 0) (Int32.ofNat (6 * i) + 3) h = some (xs (6 * i + 3)) from rx h 3 (by omega) J.1, Option.bind_some, show dx_lI 0 (.ref 0) (Int32.ofNat (6 * i) + 4) h = some (xs (6 * i + 4)) from rx h 4 (by omega) J.1, Option.bind_some, e1, cI_v, show dx_lI 0 (.ref 0) (Int32.ofNat (6 * i) + 1) h2 = some (xs (6 * i + 1)) from rx h2 1 (by omega) e2, Option.bind_some, show dx_lI 0 (.ref 0) (Int32.ofNat (6 * i) + 2) h2 = some (xs (6 * i + 2)) from rx h2 2 (by omega) e2, Option.bind_some, show dx_lI 0 (.ref 0) (Int32.ofNat (6 * i) + 3) h2 = some (xs (6 * i + 3)) from rx h2 3 (by omega) e2, Option.bind_some, show dx_lI 0 (.ref 0) (Int32.ofNat (6 * i) + 4) h2 = some (xs (6 * i + 4)) from rx h2 4 (by omega) e2, Option.bind_some, v2, Option.bind_some, e4, cI_v]
  refine law3t (d := d + 1) e5 e6 e7 (by omega) ?_
  rw [lt_at, n6]
  exact fin h5 J5
theorem lb_tests (J : JH L xs i h) (hd : 94 ≤ d) (hi : 6 * i + 6 ≤ L) (hL : L ≤ 384) (fin : ∀ h3, JH L xs (i + 1) h3 → Ok (B_L_law_23 (ax_c (d + 1)) (.ref 0) 400 417 460 (Int32.ofNat (6 * (i + 1))) h3) v Q) : Ok (B_L_law_2245 (ax_c (d + 1)) (.ref 0) 400 417 460 (Int32.ofNat (6 * i)) h) v Q := by
  have n6 : Int32.ofNat (6 * i) + 6 = Int32.ofNat (6 * (i + 1)) := i_add (6 * i) 6
  refine Ok.le (b_L_law_2245 rfl) ?_
  exact law1 (d := d + 1) J (fun W s C T => o_tests C T (by omega)) fun h3 J3 => by rw [lt_at, n6]; exact fin h3 J3
theorem lb_submit (J : JH L xs i h) (hd : 94 ≤ d) (hi : 6 * i + 6 ≤ L) (hL : L ≤ 384) (fin : ∀ h3, JH L xs (i + 1) h3 → Ok (B_L_law_23 (ax_c (d + 1)) (.ref 0) 400 417 460 (Int32.ofNat (6 * (i + 1))) h3) v Q) : Ok (B_L_law_2258 (ax_c (d + 1)) (.ref 0) 400 417 460 (Int32.ofNat (6 * i)) h) v Q := by
  have n6 : Int32.ofNat (6 * i) + 6 = Int32.ofNat (6 * (i + 1)) := i_add (6 * i) 6
  have rx : ∀ (h : ax_H) (j : Nat), j < 6 → h.1 0 = .inl (0, L, .inl xs) → dx_lI 0 (.ref 0) (Int32.ofNat (6 * i) + Int32.ofNat j) h = some (xs (6 * i + j)) := fun h j hj e => by rw [lI_at e, ix_of (i_add (6 * i) j) (show 6 * i + j < L by omega) (by omega), Option.bind_some]
  obtain ⟨x3, h2, e1, e2, ⟨s2, e3⟩, x6, h5, e4, e5, e6, e7, J5⟩ := law3 (cx := ax_c d 267 [.ref 400] h) (ct := fun h => ax_c d 487 [.ref 417] h) (cw := ax_c (d + 1) 207 [.ref 400, .ref 460] h) (ex := exI) J (fun W s C T => o_submit C T (by omega) rfl) (fun g => w_submit g)
  have v2 : dx_vn [(38, 487)] (.ref 417) h2 = some 487 := by rw [← e3]; exact tw_vn _ _ _
  have e4 := c_mn (Nat.le_succ d) e4
  refine Ok.le (b_L_law_2258 rfl) ?_
  rw [e1, cI_v, v2, Option.bind_some, e4, cI_v]
  refine law3t (d := d + 1) e5 e6 e7 (by omega) ?_
  rw [lt_at, n6]
  exact fin h5 J5
theorem lb_result (J : JH L xs i h) (hd : 94 ≤ d) (hi : 6 * i + 6 ≤ L) (hL : L ≤ 384) (fin : ∀ h3, JH L xs (i + 1) h3 → Ok (B_L_law_23 (ax_c (d + 1)) (.ref 0) 400 417 460 (Int32.ofNat (6 * (i + 1))) h3) v Q) : Ok (B_L_law_2302 (ax_c (d + 1)) (.ref 0) 400 417 460 (Int32.ofNat (6 * i)) h) v Q := by
  have n6 : Int32.ofNat (6 * i) + 6 = Int32.ofNat (6 * (i + 1)) := i_add (6 * i) 6
  have rx : ∀ (h : ax_H) (j : Nat), j < 6 → h.1 0 = .inl (0, L, .inl xs) → dx_lI 0 (.ref 0) (Int32.ofNat (6 * i) + Int32.ofNat j) h = some (xs (6 * i + j)) := fun h j hj e => by rw [lI_at e, ix_of (i_add (6 * i) j) (show 6 * i + j < L by omega) (by omega), Option.bind_some]
  obtain ⟨x3, h2, e1, e2, ⟨s2, e3⟩, x6, h5, e4, e5, e6, e7, J5⟩ := law3 (cx := ax_c d 268 [.ref 400, .int (xs (6 * i + 1))] h) (ct := fun h => ax_c d 490 [.ref 417, .int (xs (6 * i + 1))] h) (cw := ax_c (d + 1) 208 [.ref 400, .int (xs (6 * i + 1)), .ref 460] h) (ex := ex4) J (fun W s C T => o_result C T (by omega) rfl) (fun g => w_result g)
  have v2 : dx_vn [(38, 490)] (.ref 417) h2 = some 490 := by rw [← e3]; exact tw_vn _ _ _
  have e4 := c_mn (Nat.le_succ d) e4
  refine Ok.le (b_L_law_2302 rfl) ?_
  rw [show dx_lI 0 (.ref 0) (Int32.ofNat (6 * i) + 1) h = some (xs (6 * i + 1)) from rx h 1 (by omega) J.1, Option.bind_some, e1, cI_v, show dx_lI 0 (.ref 0) (Int32.ofNat (6 * i) + 1) h2 = some (xs (6 * i + 1)) from rx h2 1 (by omega) e2, Option.bind_some, v2, Option.bind_some, e4, cI_v]
  refine law3t (d := d + 1) e5 e6 e7 (by omega) ?_
  rw [lt_at, n6]
  exact fin h5 J5
theorem lb_mark (J : JH L xs i h) (hd : 94 ≤ d) (hi : 6 * i + 6 ≤ L) (hL : L ≤ 384) (fin : ∀ h3, JH L xs (i + 1) h3 → Ok (B_L_law_23 (ax_c (d + 1)) (.ref 0) 400 417 460 (Int32.ofNat (6 * (i + 1))) h3) v Q) : Ok (B_L_law_2358 (ax_c (d + 1)) (.ref 0) 400 417 460 (Int32.ofNat (6 * i)) h) v Q := by
  have n6 : Int32.ofNat (6 * i) + 6 = Int32.ofNat (6 * (i + 1)) := i_add (6 * i) 6
  refine Ok.le (b_L_law_2358 rfl) ?_
  exact law1 (d := d + 1) J (fun W s C T => o_mark C T (by omega)) fun h3 J3 => by rw [lt_at, n6]; exact fin h3 J3
end LBS
