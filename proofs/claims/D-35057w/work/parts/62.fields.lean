/-! fields, kinds and names that the rows use (printed by gen/emit70.py) -/
set_option maxRecDepth 100000
section FLD
variable {G : ax_G} {l : Launch}
/-- default values -/
def ax_isd (v : Value) (t : FieldType) : Bool := match v, defaultValue t with
  | .int x, .int y => decide (x = y)
  | .long x, .long y => decide (x = y)
  | .null, .null => true
  | _, _ => false
theorem ax_isd_eq {v : Value} {t : FieldType} (h : ax_isd v t = true) : ax_v G v = defaultValue t := by
  unfold ax_isd at h
  split at h
  · rename_i e; rw [e, of_decide_eq_true h]; rfl
  · rename_i e; rw [e, of_decide_eq_true h]; rfl
  · rename_i e; rw [e]; rfl
  · cases h
theorem ax_dfs (fs : List Value) (ty : Nat → FieldType) (n : Nat) (h : ((List.range n).all fun j => ax_isd (fs.getD j .null) (ty j)) = true) : ∀ j, j < n → ax_v G (fs.getD j .null) = defaultValue (ty j) := fun j hj => ax_isd_eq (List.all_eq_true.mp h j (List.mem_range.mpr hj))
theorem ax_ok0 (E : ax_EN G l) {M : ax_M} {pc : Nat} (hM : M.2.2.2.2.2 = []) : ax_hok G M pc hd_0 := by
  intro k o h
  unfold hd_0 at h
  split at h
  · rename_i hk
    cases h
    have hr : ∃ r : vw_C, ax_cl[k]? = some r := by
      simp only [List.mem_cons, List.not_mem_nil, or_false] at hk
      rcases hk with e | e | e | e | e | e | e | e | e | e | e | e <;> (rw [e]; exact ⟨_, rfl⟩)
    obtain ⟨r, hr⟩ := hr
    exact ⟨r, en_c E hr, fun s args _ _ z hz => by rw [hM] at hz; cases hz⟩
  · cases h
theorem ax_objs_ok (E : ax_EN G l) : ax_cas G "java/lang/Object" ax_objs := (ax_cas_cons (en_c E (k := 0) rfl) q3484 (ax_cas_cons (en_c E (k := 1) rfl) q3485 (ax_cas_cons (en_c E (k := 2) rfl) q3499 (ax_cas_cons (en_c E (k := 3) rfl) q3500 (ax_cas_cons (en_c E (k := 4) rfl) q3477 (ax_cas_cons (en_c E (k := 5) rfl) q3514 (ax_cas_cons (en_c E (k := 6) rfl) q3501 (ax_cas_cons (en_c E (k := 7) rfl) q3504 (ax_cas_cons (en_c E (k := 8) rfl) q3509 (ax_cas_cons (en_c E (k := 9) rfl) q3519 (ax_cas_cons (en_c E (k := 10) rfl) q3511 (ax_cas_cons (en_c E (k := 11) rfl) q3512 (ax_cas_cons (en_c E (k := 12) rfl) q3513 (ax_cas_cons (en_c E (k := 13) rfl) q3516 (ax_cas_cons (en_c E (k := 14) rfl) q3518 (ax_cas_cons (en_c E (k := 15) rfl) q3479 (ax_cas_cons (en_c E (k := 16) rfl) q3480 (ax_cas_cons (en_c E (k := 17) rfl) q3520 (ax_cas_cons (en_c E (k := 18) rfl) q3482 (ax_cas_cons (en_c E (k := 19) rfl) q3476 (ax_cas_cons (en_c E (k := 20) rfl) q3490 (ax_cas_cons (en_c E (k := 21) rfl) q3491 (ax_cas_cons (en_c E (k := 22) rfl) q3492 (ax_cas_cons (en_c E (k := 23) rfl) q3493 (ax_cas_cons (en_c E (k := 24) rfl) q3494 (ax_cas_cons (en_c E (k := 25) rfl) q3495 (ax_cas_cons (en_c E (k := 26) rfl) q3496 (ax_cas_cons (en_c E (k := 27) rfl) q3497 (ax_cas_cons (en_c E (k := 28) rfl) q3498 (ax_cas_cons (en_c E (k := 29) rfl) q3478 (ax_cas_cons (en_c E (k := 30) rfl) q3502 (ax_cas_cons (en_c E (k := 31) rfl) q3503 (ax_cas_cons (en_c E (k := 32) rfl) q3505 (ax_cas_cons (en_c E (k := 33) rfl) q3506 (ax_cas_cons (en_c E (k := 34) rfl) q3507 (ax_cas_cons (en_c E (k := 35) rfl) q3508 (ax_cas_cons (en_c E (k := 36) rfl) q3510 (ax_cas_cons (en_c E (k := 37) rfl) q3515 (ax_cas_cons (en_c E (k := 38) rfl) q3481 (ax_cas_cons (en_c E (k := 39) rfl) q3483 (ax_cas_cons (en_c E (k := 40) rfl) q3486 (ax_cas_cons (en_c E (k := 41) rfl) q3487 (ax_cas_cons (en_c E (k := 42) rfl) q3488 (ax_cas_cons (en_c E (k := 43) rfl) q3489 (ax_cas_cons (en_c E (k := 44) rfl) q3484 (ax_cas_cons (en_c E (k := 45) rfl) q3504 (ax_cas_cons (en_c E (k := 46) rfl) q3501 ax_cas_nil)))))))))))))))))))))))))))))))))))))))))))))))
theorem ax_inA (g : Cond → Bool) (ws : List Cond) (ps : List Nat) (hp : ws = ps.filterMap (fun i => lw_tbl[i]?)) (hg : ws.all g = true) : ∀ w ∈ ws, w ∈ lw_tbl ∧ g w = true := by
  intro w h
  have h1 := List.all_eq_true.mp hg w h
  refine ⟨?_, h1⟩
  rw [hp] at h
  obtain ⟨i, -, hi⟩ := List.mem_filterMap.mp h
  exact List.mem_of_getElem? hi
theorem ax_objs_c (E : ax_EN G l) : ∀ k ∈ ax_objs, ∃ r : vw_C, G.2.2.1[k]? = some r ∧ Cond.castable r.1 "java/lang/Object" ∈ lw_tbl := by
  unfold ax_objs
  exact (List.forall_mem_cons.mpr ⟨⟨_, en_c E (k := 0) rfl, q3484⟩, (List.forall_mem_cons.mpr ⟨⟨_, en_c E (k := 1) rfl, q3485⟩, (List.forall_mem_cons.mpr ⟨⟨_, en_c E (k := 2) rfl, q3499⟩, (List.forall_mem_cons.mpr ⟨⟨_, en_c E (k := 3) rfl, q3500⟩, (List.forall_mem_cons.mpr ⟨⟨_, en_c E (k := 4) rfl, q3477⟩, (List.forall_mem_cons.mpr ⟨⟨_, en_c E (k := 5) rfl, q3514⟩, (List.forall_mem_cons.mpr ⟨⟨_, en_c E (k := 6) rfl, q3501⟩, (List.forall_mem_cons.mpr ⟨⟨_, en_c E (k := 7) rfl, q3504⟩, (List.forall_mem_cons.mpr ⟨⟨_, en_c E (k := 8) rfl, q3509⟩, (List.forall_mem_cons.mpr ⟨⟨_, en_c E (k := 9) rfl, q3519⟩, (List.forall_mem_cons.mpr ⟨⟨_, en_c E (k := 10) rfl, q3511⟩, (List.forall_mem_cons.mpr ⟨⟨_, en_c E (k := 11) rfl, q3512⟩, (List.forall_mem_cons.mpr ⟨⟨_, en_c E (k := 12) rfl, q3513⟩, (List.forall_mem_cons.mpr ⟨⟨_, en_c E (k := 13) rfl, q3516⟩, (List.forall_mem_cons.mpr ⟨⟨_, en_c E (k := 14) rfl, q3518⟩, (List.forall_mem_cons.mpr ⟨⟨_, en_c E (k := 15) rfl, q3479⟩, (List.forall_mem_cons.mpr ⟨⟨_, en_c E (k := 16) rfl, q3480⟩, (List.forall_mem_cons.mpr ⟨⟨_, en_c E (k := 17) rfl, q3520⟩, (List.forall_mem_cons.mpr ⟨⟨_, en_c E (k := 18) rfl, q3482⟩, (List.forall_mem_cons.mpr ⟨⟨_, en_c E (k := 19) rfl, q3476⟩, (List.forall_mem_cons.mpr ⟨⟨_, en_c E (k := 20) rfl, q3490⟩, (List.forall_mem_cons.mpr ⟨⟨_, en_c E (k := 21) rfl, q3491⟩, (List.forall_mem_cons.mpr ⟨⟨_, en_c E (k := 22) rfl, q3492⟩, (List.forall_mem_cons.mpr ⟨⟨_, en_c E (k := 23) rfl, q3493⟩, (List.forall_mem_cons.mpr ⟨⟨_, en_c E (k := 24) rfl, q3494⟩, (List.forall_mem_cons.mpr ⟨⟨_, en_c E (k := 25) rfl, q3495⟩, (List.forall_mem_cons.mpr ⟨⟨_, en_c E (k := 26) rfl, q3496⟩, (List.forall_mem_cons.mpr ⟨⟨_, en_c E (k := 27) rfl, q3497⟩, (List.forall_mem_cons.mpr ⟨⟨_, en_c E (k := 28) rfl, q3498⟩, (List.forall_mem_cons.mpr ⟨⟨_, en_c E (k := 29) rfl, q3478⟩, (List.forall_mem_cons.mpr ⟨⟨_, en_c E (k := 30) rfl, q3502⟩, (List.forall_mem_cons.mpr ⟨⟨_, en_c E (k := 31) rfl, q3503⟩, (List.forall_mem_cons.mpr ⟨⟨_, en_c E (k := 32) rfl, q3505⟩, (List.forall_mem_cons.mpr ⟨⟨_, en_c E (k := 33) rfl, q3506⟩, (List.forall_mem_cons.mpr ⟨⟨_, en_c E (k := 34) rfl, q3507⟩, (List.forall_mem_cons.mpr ⟨⟨_, en_c E (k := 35) rfl, q3508⟩, (List.forall_mem_cons.mpr ⟨⟨_, en_c E (k := 36) rfl, q3510⟩, (List.forall_mem_cons.mpr ⟨⟨_, en_c E (k := 37) rfl, q3515⟩, (List.forall_mem_cons.mpr ⟨⟨_, en_c E (k := 38) rfl, q3481⟩, (List.forall_mem_cons.mpr ⟨⟨_, en_c E (k := 39) rfl, q3483⟩, (List.forall_mem_cons.mpr ⟨⟨_, en_c E (k := 40) rfl, q3486⟩, (List.forall_mem_cons.mpr ⟨⟨_, en_c E (k := 41) rfl, q3487⟩, (List.forall_mem_cons.mpr ⟨⟨_, en_c E (k := 42) rfl, q3488⟩, (List.forall_mem_cons.mpr ⟨⟨_, en_c E (k := 43) rfl, q3489⟩, (List.forall_mem_cons.mpr ⟨⟨_, en_c E (k := 44) rfl, q3484⟩, (List.forall_mem_cons.mpr ⟨⟨_, en_c E (k := 45) rfl, q3504⟩, (List.forall_mem_cons.mpr ⟨⟨_, en_c E (k := 46) rfl, q3501⟩, (List.forall_mem_nil _)⟩)⟩)⟩)⟩)⟩)⟩)⟩)⟩)⟩)⟩)⟩)⟩)⟩)⟩)⟩)⟩)⟩)⟩)⟩)⟩)⟩)⟩)⟩)⟩)⟩)⟩)⟩)⟩)⟩)⟩)⟩)⟩)⟩)⟩)⟩)⟩)⟩)⟩)⟩)⟩)⟩)⟩)⟩)⟩)⟩)⟩)⟩)
theorem w_max : Cond.code Lib.Math.max.name Lib.Math.max.code 2 (some .int) ∈ lw_all := q582
theorem w_min : Cond.code Lib.Math.min.name Lib.Math.min.code 2 (some .int) ∈ lw_all := q600
theorem w_oin : Cond.code Lib.objectInit ⟨#[0xb1]⟩ 1 none ∈ lw_all := q190
theorem tk_46 (E : ax_EN G l) : ax_tk G 46 0 := ⟨by decide, _, en_c E (k := 46) rfl, (Nat.le_of_ble_eq_true rfl), rfl, in_E46, ax_inA ax_mvb (ax_thA RJ24) [127, 495, 504, 516, 519, 521, 496, 497, 189, 190, 498, 503, 517, 771, 485, 772, 487, 773, 489, 499, 501, 491, 770, 494, 493, 850, 513, 851, 852, 853, 854, 855] (by decide +kernel) (by decide +kernel), by decide +kernel⟩
theorem tk_45 (E : ax_EN G l) : ax_tk G 45 0 := ⟨by decide, _, en_c E (k := 45) rfl, (Nat.le_of_ble_eq_true rfl), rfl, in_E45, ax_inA ax_mvb (ax_thA RJ25) [127, 495, 504, 516, 519, 521, 496, 497, 189, 190, 498, 503, 517, 771, 485, 772, 487, 773, 489, 499, 501, 491, 770, 494, 493, 1553, 515, 1554, 1555, 1556, 1557, 1558] (by decide +kernel) (by decide +kernel), by decide +kernel⟩
theorem tk_44 (E : ax_EN G l) : ax_tk G 44 0 := ⟨by decide, _, en_c E (k := 44) rfl, (Nat.le_of_ble_eq_true rfl), rfl, in_E44, ax_inA ax_mvb (ax_thA RJ10) [127, 495, 504, 516, 519, 521, 496, 497, 189, 190, 498, 503, 517, 771, 485, 772, 487, 773, 489, 499, 501, 491, 770, 494, 493, 1720, 512, 1721, 1722, 1723, 1724, 1725] (by decide +kernel) (by decide +kernel), by decide +kernel⟩
theorem tk_35 (E : ax_EN G l) : ax_tk G 35 0 := ⟨by decide, _, en_c E (k := 35) rfl, (Nat.le_of_ble_eq_true rfl), rfl, in_E35, ax_inA ax_mvb (ax_thA RX25) [127, 495, 504, 516, 519, 521, 496, 497, 189, 190, 498, 503, 517, 771, 485, 772, 487, 773, 489, 499, 501, 491, 770, 494, 493, 2226, 509, 2227, 2228, 2229, 2230, 2231] (by decide +kernel) (by decide +kernel), by decide +kernel⟩
theorem tk_34 (E : ax_EN G l) : ax_tk G 34 0 := ⟨by decide, _, en_c E (k := 34) rfl, (Nat.le_of_ble_eq_true rfl), rfl, in_E34, ax_inA ax_mvb (ax_thA RX24) [127, 495, 504, 516, 519, 521, 496, 497, 189, 190, 498, 503, 517, 771, 485, 772, 487, 773, 489, 499, 501, 491, 770, 494, 493, 2173, 507, 2174, 2175, 2176, 2177, 2178] (by decide +kernel) (by decide +kernel), by decide +kernel⟩
theorem tk_33 (E : ax_EN G l) : ax_tk G 33 0 := ⟨by decide, _, en_c E (k := 33) rfl, (Nat.le_of_ble_eq_true rfl), rfl, in_E33, ax_inA ax_mvb (ax_thA RX23) [127, 495, 504, 516, 519, 521, 496, 497, 189, 190, 498, 503, 517, 771, 485, 772, 487, 773, 489, 499, 501, 491, 770, 494, 493, 2153, 506, 2154, 2155, 2156, 2157, 2158] (by decide +kernel) (by decide +kernel), by decide +kernel⟩
theorem tk_32 (E : ax_EN G l) : ax_tk G 32 0 := ⟨by decide, _, en_c E (k := 32) rfl, (Nat.le_of_ble_eq_true rfl), rfl, in_E32, ax_inA ax_mvb (ax_thA RX22) [127, 495, 504, 516, 519, 521, 496, 497, 189, 190, 498, 503, 517, 771, 485, 772, 487, 773, 489, 499, 501, 491, 770, 494, 493, 2122, 508, 2123, 2124, 2125, 2126, 2127] (by decide +kernel) (by decide +kernel), by decide +kernel⟩
theorem tk_28 (E : ax_EN G l) : ax_tk G 28 2 := ⟨by decide, _, en_c E (k := 28) rfl, (Nat.le_of_ble_eq_true rfl), rfl, in_E28, ax_inA ax_mvb (ax_thA RX19) [127, 495, 504, 516, 519, 521, 496, 497, 189, 190, 498, 503, 517, 771, 485, 772, 487, 773, 489, 499, 501, 491, 770, 494, 493, 482, 483, 484, 486, 488, 490, 492] (by decide +kernel) (by decide +kernel), by decide +kernel⟩
theorem tks (E : ax_EN G l) : ax_tks G [(28, 2), (32, 0), (33, 0), (34, 0), (35, 0), (44, 0), (45, 0), (46, 0)] := (ax_tks_cons (tk_28 E) (ax_tks_cons (tk_32 E) (ax_tks_cons (tk_33 E) (ax_tks_cons (tk_34 E) (ax_tks_cons (tk_35 E) (ax_tks_cons (tk_44 E) (ax_tks_cons (tk_45 E) (ax_tks_cons (tk_46 E) ax_tks_nil))))))))
theorem nm_J0_init : ax_nm yJ0_init 0 := ⟨by decide +kernel, by decide +kernel, by decide +kernel⟩
theorem fe_0 (E : ax_EN G l) : ax_fe G "java/util/AbstractList" "modCount" "I" 15 0 := ⟨_, en_c E (k := 15) rfl, (Nat.le_of_ble_eq_true rfl), in_J4, rfl, rfl, Or.inl rfl⟩
theorem fe_1 (E : ax_EN G l) : ax_fe G "java/util/AbstractList" "modCount" "I" 4 0 := ⟨_, en_c E (k := 4) rfl, (Nat.le_of_ble_eq_true rfl), in_J2, rfl, rfl, Or.inl rfl⟩
theorem fp_2 {own : String} (E : ax_EN G l) : ax_fp G (.int) false own 15 0 := ⟨_, en_c E (k := 15) rfl, tyJ4_ok 0 (Nat.le_of_ble_eq_true rfl), rfl, fun h => by cases h⟩
theorem fp_3 {own : String} (E : ax_EN G l) : ax_fp G (.int) false own 4 0 := ⟨_, en_c E (k := 4) rfl, tyJ2_ok 0 (Nat.le_of_ble_eq_true rfl), rfl, fun h => by cases h⟩
theorem nm_J8_init : ax_nm yJ8_init 1 := ⟨by decide +kernel, by decide +kernel, by decide +kernel⟩
theorem nm_J8_init_4 : ax_nm yJ8_init_4 2 := ⟨by decide +kernel, by decide +kernel, by decide +kernel⟩
theorem nm_J13_copyOfRangeByte : ax_nm yJ13_copyOfRangeByte 3 := ⟨by decide +kernel, by decide +kernel, by decide +kernel⟩
theorem nm_J13_checkLength : ax_nm yJ13_checkLength 2 := ⟨by decide +kernel, by decide +kernel, by decide +kernel⟩
theorem mk_18 (E : ax_EN G l) : ax_mk G "java/lang/IllegalArgumentException" 18 6 [] := ⟨_, en_c E (k := 18) rfl, rfl, rfl, (fun _ h => nomatch h), q741, q130, (fun _ => .int), fun j hj => ⟨(fun _ h => absurd h (Nat.not_lt_zero _)) j hj, ax_dfs [] (fun _ => .int) 0 rfl j hj⟩⟩
theorem mk_2 (E : ax_EN G l) : ax_mk G "java/lang/StringBuilde\x72" 2 4 [.null, .int 0, .int 0, .int 0] := ⟨_, en_c E (k := 2) rfl, rfl, rfl, in_J16, q526, q154, tyJ16, fun j hj => ⟨tyJ16_ok j hj, ax_dfs [.null, .int 0, .int 0, .int 0] tyJ16 4 rfl j hj⟩⟩
theorem nm_J16_init : ax_nm yJ16_init 0 := ⟨by decide +kernel, by decide +kernel, by decide +kernel⟩
theorem nm_J16_append_2 : ax_nm yJ16_append_2 1 := ⟨by decide +kernel, by decide +kernel, by decide +kernel⟩
theorem nm_J16_append : ax_nm yJ16_append 1 := ⟨by decide +kernel, by decide +kernel, by decide +kernel⟩
theorem nm_J16_toString : ax_nm yJ16_toString 0 := ⟨by decide +kernel, by decide +kernel, by decide +kernel⟩
theorem nm_J9_init : ax_nm yJ9_init 1 := ⟨by decide +kernel, by decide +kernel, by decide +kernel⟩
theorem nm_J13_copyOf_3 : ax_nm yJ13_copyOf_3 3 := ⟨by decide +kernel, by decide +kernel, by decide +kernel⟩
theorem fe_6 (E : ax_EN G l) : ax_fe G "java/util/LinkedList$Node" "item" "Ljava/lang/Object;" 1 0 := ⟨_, en_c E (k := 1) rfl, (Nat.le_of_ble_eq_true rfl), in_J14, rfl, rfl, Or.inl rfl⟩
theorem fp_7 {own : String} (E : ax_EN G l) : ax_fp G (.object "java/lang/Object") false own 1 0 := ⟨_, en_c E (k := 1) rfl, tyJ14_ok 0 (Nat.le_of_ble_eq_true rfl), rfl, fun h => by cases h⟩
theorem fe_8 (E : ax_EN G l) : ax_fe G "java/util/LinkedList$Node" "next" "Ljava/util/LinkedList$Node;" 1 1 := ⟨_, en_c E (k := 1) rfl, (Nat.le_of_ble_eq_true rfl), in_J14, rfl, rfl, Or.inl rfl⟩
theorem fp_9 {own : String} (E : ax_EN G l) : ax_fp G (.object "java/util/LinkedList$Node") false own 1 1 := ⟨_, en_c E (k := 1) rfl, tyJ14_ok 1 (Nat.le_of_ble_eq_true rfl), rfl, fun h => by cases h⟩
theorem fe_10 (E : ax_EN G l) : ax_fe G "java/util/LinkedList$Node" "prev" "Ljava/util/LinkedList$Node;" 1 2 := ⟨_, en_c E (k := 1) rfl, (Nat.le_of_ble_eq_true rfl), in_J14, rfl, rfl, Or.inl rfl⟩
theorem fp_11 {own : String} (E : ax_EN G l) : ax_fp G (.object "java/util/LinkedList$Node") false own 1 2 := ⟨_, en_c E (k := 1) rfl, tyJ14_ok 2 (Nat.le_of_ble_eq_true rfl), rfl, fun h => by cases h⟩
theorem fe_12 (E : ax_EN G l) : ax_fe G "java/lang/AbstractStringBuilde\x72" "value" "[B" 2 0 := ⟨_, en_c E (k := 2) rfl, (Nat.le_of_ble_eq_true rfl), in_J16, rfl, rfl, Or.inl rfl⟩
theorem fp_13 {own : String} (E : ax_EN G l) : ax_fp G (.array (.byte)) false own 2 0 := ⟨_, en_c E (k := 2) rfl, tyJ16_ok 0 (Nat.le_of_ble_eq_true rfl), rfl, fun h => by cases h⟩
theorem fe_14 (E : ax_EN G l) : ax_fe G "java/lang/AbstractStringBuilde\x72" "code\x72" "B" 2 1 := ⟨_, en_c E (k := 2) rfl, (Nat.le_of_ble_eq_true rfl), in_J16, rfl, rfl, Or.inl rfl⟩
theorem fp_15 {own : String} (E : ax_EN G l) : ax_fp G (.byte) false own 2 1 := ⟨_, en_c E (k := 2) rfl, tyJ16_ok 1 (Nat.le_of_ble_eq_true rfl), rfl, fun h => by cases h⟩
theorem nm_J17_length : ax_nm yJ17_length 0 := ⟨by decide +kernel, by decide +kernel, by decide +kernel⟩
theorem fe_16 (E : ax_EN G l) : ax_fe G "java/lang/AbstractStringBuilde\x72" "count" "I" 2 3 := ⟨_, en_c E (k := 2) rfl, (Nat.le_of_ble_eq_true rfl), in_J16, rfl, rfl, Or.inl rfl⟩
theorem nm_J15_ensureCapacityInternal : ax_nm yJ15_ensureCapacityInternal 1 := ⟨by decide +kernel, by decide +kernel, by decide +kernel⟩
theorem nm_J15_putStringAt : ax_nm yJ15_putStringAt 2 := ⟨by decide +kernel, by decide +kernel, by decide +kernel⟩
theorem fp_17 {own : String} (E : ax_EN G l) : ax_fp G (.int) false own 2 3 := ⟨_, en_c E (k := 2) rfl, tyJ16_ok 3 (Nat.le_of_ble_eq_true rfl), rfl, fun h => by cases h⟩
theorem nm_J15_newCapacity : ax_nm yJ15_newCapacity 1 := ⟨by decide +kernel, by decide +kernel, by decide +kernel⟩
theorem nm_J13_copyOf : ax_nm yJ13_copyOf 2 := ⟨by decide +kernel, by decide +kernel, by decide +kernel⟩
theorem nm_J11_newLength : ax_nm yJ11_newLength 3 := ⟨by decide +kernel, by decide +kernel, by decide +kernel⟩
theorem nm_J15_inflateIfNeededFor : ax_nm yJ15_inflateIfNeededFor 1 := ⟨by decide +kernel, by decide +kernel, by decide +kernel⟩
theorem nm_J17_getBytes : ax_nm yJ17_getBytes 3 := ⟨by decide +kernel, by decide +kernel, by decide +kernel⟩
theorem nm_J17_coder : ax_nm yJ17_coder 0 := ⟨by decide +kernel, by decide +kernel, by decide +kernel⟩
theorem nm_J22_stringSize : ax_nm yJ22_stringSize 1 := ⟨by decide +kernel, by decide +kernel, by decide +kernel⟩
theorem xo_18 : "java/lang/AbstractStringBuilde\x72" ≠ "java/lang/invoke/MethodHandle" ∧ "java/lang/AbstractStringBuilde\x72" ≠ "java/lang/invoke/VarHandle" ∧ (parseMethodDescriptor "()Z").map (fun d => d.parameters.length) = some 0 := ⟨by decide +kernel, by decide +kernel, by decide +kernel⟩
theorem nm_J22_getChars : ax_nm yJ22_getChars 3 := ⟨by decide +kernel, by decide +kernel, by decide +kernel⟩
theorem nm_J15_init : ax_nm yJ15_init 1 := ⟨by decide +kernel, by decide +kernel, by decide +kernel⟩
theorem sn_19 : "append" ≠ "<init>" ∧ (parseMethodDescriptor "(Ljava/lang/String;)Ljava/lang/AbstractStringBuilder;").map (fun d => d.parameters.length) = some 1 := ⟨by decide +kernel, by decide +kernel⟩
theorem sn_20 : "append" ≠ "<init>" ∧ (parseMethodDescriptor "(I)Ljava/lang/AbstractStringBuilder;").map (fun d => d.parameters.length) = some 1 := ⟨by decide +kernel, by decide +kernel⟩
theorem mk_3 (E : ax_EN G l) : ax_mk G "java/lang/String" 3 4 [.null, .int 0] := ⟨_, en_c E (k := 3) rfl, rfl, rfl, in_E3, q709, q155, tyE3, fun j hj => ⟨tyE3_ok j hj, ax_dfs [.null, .int 0] tyE3 2 rfl j hj⟩⟩
theorem nm_J17_init : ax_nm yJ17_init 1 := ⟨by decide +kernel, by decide +kernel, by decide +kernel⟩
theorem sn_22 : "length" ≠ "<init>" ∧ (parseMethodDescriptor "()I").map (fun d => d.parameters.length) = some 0 := ⟨by decide +kernel, by decide +kernel⟩
theorem fe_23 (E : ax_EN G l) : ax_fe G "java/lang/String" "value" "[B" 3 0 := ⟨_, en_c E (k := 3) rfl, (Nat.le_of_ble_eq_true rfl), in_E3, rfl, rfl, Or.inl rfl⟩
theorem fe_24 (E : ax_EN G l) : ax_fe G "java/lang/String" "code\x72" "B" 3 1 := ⟨_, en_c E (k := 3) rfl, (Nat.le_of_ble_eq_true rfl), in_E3, rfl, rfl, Or.inl rfl⟩
theorem nm_J20_inflate : ax_nm yJ20_inflate 5 := ⟨by decide +kernel, by decide +kernel, by decide +kernel⟩
theorem nm_J17_init_2 : ax_nm yJ17_init_2 2 := ⟨by decide +kernel, by decide +kernel, by decide +kernel⟩
theorem xo_25 : "java/lang/AbstractStringBuilde\x72" ≠ "java/lang/invoke/MethodHandle" ∧ "java/lang/AbstractStringBuilde\x72" ≠ "java/lang/invoke/VarHandle" ∧ (parseMethodDescriptor "()[B").map (fun d => d.parameters.length) = some 0 := ⟨by decide +kernel, by decide +kernel, by decide +kernel⟩
theorem xo_26 : "java/lang/AbstractStringBuilde\x72" ≠ "java/lang/invoke/MethodHandle" ∧ "java/lang/AbstractStringBuilde\x72" ≠ "java/lang/invoke/VarHandle" ∧ (parseMethodDescriptor "()I").map (fun d => d.parameters.length) = some 0 := ⟨by decide +kernel, by decide +kernel, by decide +kernel⟩
theorem fp_27 (E : ax_EN G l) : ax_fp G (.byte) true RJ17 3 1 := ⟨_, en_c E (k := 3) rfl, tyE3_ok 1 (Nat.le_of_ble_eq_true rfl), rfl, fun _ => rfl⟩
theorem nm_J13_copyOfRange : ax_nm yJ13_copyOfRange 3 := ⟨by decide +kernel, by decide +kernel, by decide +kernel⟩
theorem fp_28 (E : ax_EN G l) : ax_fp G (.array (.byte)) true RJ17 3 0 := ⟨_, en_c E (k := 3) rfl, tyE3_ok 0 (Nat.le_of_ble_eq_true rfl), rfl, fun _ => rfl⟩
theorem fe_29 (E : ax_EN G l) : ax_fe G "java/lang/AbstractStringBuilde\x72" "maybeLatin1" "Z" 2 2 := ⟨_, en_c E (k := 2) rfl, (Nat.le_of_ble_eq_true rfl), in_J16, rfl, rfl, Or.inl rfl⟩
theorem nm_J1_init : ax_nm yJ1_init 0 := ⟨by decide +kernel, by decide +kernel, by decide +kernel⟩
theorem fe_30 (E : ax_EN G l) : ax_fe G "java/util/ArrayList" "elementData" "[Ljava/lang/Object;" 4 1 := ⟨_, en_c E (k := 4) rfl, (Nat.le_of_ble_eq_true rfl), in_J2, rfl, rfl, Or.inl rfl⟩
theorem fp_31 {own : String} (E : ax_EN G l) : ax_fp G (.array (.object "java/lang/Object")) false own 4 1 := ⟨_, en_c E (k := 4) rfl, tyJ2_ok 1 (Nat.le_of_ble_eq_true rfl), rfl, fun h => by cases h⟩
theorem fe_32 (E : ax_EN G l) : ax_fe G "java/util/ArrayList" "size" "I" 4 2 := ⟨_, en_c E (k := 4) rfl, (Nat.le_of_ble_eq_true rfl), in_J2, rfl, rfl, Or.inl rfl⟩
theorem fe_33 (E : ax_EN G l) : ax_fe G "java/util/ArrayList" "modCount" "I" 15 0 := ⟨_, en_c E (k := 15) rfl, (Nat.le_of_ble_eq_true rfl), in_J4, rfl, rfl, Or.inr q214⟩
theorem fe_34 (E : ax_EN G l) : ax_fe G "java/util/ArrayList" "modCount" "I" 4 0 := ⟨_, en_c E (k := 4) rfl, (Nat.le_of_ble_eq_true rfl), in_J2, rfl, rfl, Or.inr q214⟩
theorem fp_35 {own : String} (E : ax_EN G l) : ax_fp G (.int) false own 4 2 := ⟨_, en_c E (k := 4) rfl, tyJ2_ok 2 (Nat.le_of_ble_eq_true rfl), rfl, fun h => by cases h⟩
theorem nm_J23_checkIndex : ax_nm yJ23_checkIndex 2 := ⟨by decide +kernel, by decide +kernel, by decide +kernel⟩
theorem nm_J2_elementData : ax_nm yJ2_elementData 1 := ⟨by decide +kernel, by decide +kernel, by decide +kernel⟩
theorem nm_J2_add_2 : ax_nm yJ2_add_2 3 := ⟨by decide +kernel, by decide +kernel, by decide +kernel⟩
theorem nm_J2_grow : ax_nm yJ2_grow 0 := ⟨by decide +kernel, by decide +kernel, by decide +kernel⟩
theorem nm_J2_grow_2 : ax_nm yJ2_grow_2 1 := ⟨by decide +kernel, by decide +kernel, by decide +kernel⟩
theorem nm_J13_copyOf_2 : ax_nm yJ13_copyOf_2 2 := ⟨by decide +kernel, by decide +kernel, by decide +kernel⟩
theorem mk_13 (E : ax_EN G l) : ax_mk G "java/util/ArrayList$It\x72" 13 4 [.int 0, .int 0, .int 0, .null] := ⟨_, en_c E (k := 13) rfl, rfl, rfl, in_J32, q1388, q179, tyJ32, fun j hj => ⟨tyJ32_ok j hj, ax_dfs [.int 0, .int 0, .int 0, .null] tyJ32 4 rfl j hj⟩⟩
theorem nm_J32_init : ax_nm yJ32_init 1 := ⟨by decide +kernel, by decide +kernel, by decide +kernel⟩
theorem mk_5 (E : ax_EN G l) : ax_mk G "java/lang/Intege\x72" 5 1 [.int 0] := ⟨_, en_c E (k := 5) rfl, rfl, rfl, in_J22, q2634, q160, tyJ22, fun j hj => ⟨tyJ22_ok j hj, ax_dfs [.int 0] tyJ22 1 rfl j hj⟩⟩
theorem nm_J22_init : ax_nm yJ22_init 1 := ⟨by decide +kernel, by decide +kernel, by decide +kernel⟩
theorem nm_J21_init : ax_nm yJ21_init 0 := ⟨by decide +kernel, by decide +kernel, by decide +kernel⟩
theorem fe_38 (E : ax_EN G l) : ax_fe G "java/lang/Intege\x72" "value" "I" 5 0 := ⟨_, en_c E (k := 5) rfl, (Nat.le_of_ble_eq_true rfl), in_J22, rfl, rfl, Or.inl rfl⟩
theorem fp_39 (E : ax_EN G l) : ax_fp G (.int) true RJ22 5 0 := ⟨_, en_c E (k := 5) rfl, tyJ22_ok 0 (Nat.le_of_ble_eq_true rfl), rfl, fun _ => rfl⟩
theorem nm_J19_checkIndex : ax_nm yJ19_checkIndex 3 := ⟨by decide +kernel, by decide +kernel, by decide +kernel⟩
theorem nm_J8_init_3 : ax_nm yJ8_init_3 0 := ⟨by decide +kernel, by decide +kernel, by decide +kernel⟩
theorem fe_40 (E : ax_EN G l) : ax_fe G "java/util/LinkedList$ListIt\x72" "this$0" "Ljava/util/LinkedList;" 8 4 := ⟨_, en_c E (k := 8) rfl, (Nat.le_of_ble_eq_true rfl), in_J26, rfl, rfl, Or.inl rfl⟩
theorem fp_41 (E : ax_EN G l) : ax_fp G (.object "java/util/LinkedList") true RJ26 8 4 := ⟨_, en_c E (k := 8) rfl, tyJ26_ok 4 (Nat.le_of_ble_eq_true rfl), rfl, fun _ => rfl⟩
theorem fe_42 (E : ax_EN G l) : ax_fe G "java/util/LinkedList" "modCount" "I" 15 0 := ⟨_, en_c E (k := 15) rfl, (Nat.le_of_ble_eq_true rfl), in_J4, rfl, rfl, Or.inr q212⟩
theorem fe_43 (E : ax_EN G l) : ax_fe G "java/util/LinkedList" "modCount" "I" 4 0 := ⟨_, en_c E (k := 4) rfl, (Nat.le_of_ble_eq_true rfl), in_J2, rfl, rfl, Or.inr q212⟩
theorem fe_44 (E : ax_EN G l) : ax_fe G "java/util/LinkedList$ListIt\x72" "expectedModCount" "I" 8 3 := ⟨_, en_c E (k := 8) rfl, (Nat.le_of_ble_eq_true rfl), in_J26, rfl, rfl, Or.inl rfl⟩
theorem fp_45 {own : String} (E : ax_EN G l) : ax_fp G (.int) false own 8 3 := ⟨_, en_c E (k := 8) rfl, tyJ26_ok 3 (Nat.le_of_ble_eq_true rfl), rfl, fun h => by cases h⟩
theorem fe_46 (E : ax_EN G l) : ax_fe G "java/util/LinkedList" "size" "I" 15 1 := ⟨_, en_c E (k := 15) rfl, (Nat.le_of_ble_eq_true rfl), in_J4, rfl, rfl, Or.inl rfl⟩
theorem nm_J4_node : ax_nm yJ4_node 1 := ⟨by decide +kernel, by decide +kernel, by decide +kernel⟩
theorem fe_47 (E : ax_EN G l) : ax_fe G "java/util/LinkedList$ListIt\x72" "next" "Ljava/util/LinkedList$Node;" 8 1 := ⟨_, en_c E (k := 8) rfl, (Nat.le_of_ble_eq_true rfl), in_J26, rfl, rfl, Or.inl rfl⟩
theorem fp_48 {own : String} (E : ax_EN G l) : ax_fp G (.object "java/util/LinkedList$Node") false own 8 1 := ⟨_, en_c E (k := 8) rfl, tyJ26_ok 1 (Nat.le_of_ble_eq_true rfl), rfl, fun h => by cases h⟩
theorem fe_49 (E : ax_EN G l) : ax_fe G "java/util/LinkedList$ListIt\x72" "nextIndex" "I" 8 2 := ⟨_, en_c E (k := 8) rfl, (Nat.le_of_ble_eq_true rfl), in_J26, rfl, rfl, Or.inl rfl⟩
theorem fp_50 {own : String} (E : ax_EN G l) : ax_fp G (.int) false own 8 2 := ⟨_, en_c E (k := 8) rfl, tyJ26_ok 2 (Nat.le_of_ble_eq_true rfl), rfl, fun h => by cases h⟩
theorem nm_J26_checkForComodification : ax_nm yJ26_checkForComodification 0 := ⟨by decide +kernel, by decide +kernel, by decide +kernel⟩
theorem nm_J26_hasNext : ax_nm yJ26_hasNext 0 := ⟨by decide +kernel, by decide +kernel, by decide +kernel⟩
theorem mk_45 (E : ax_EN G l) : ax_mk G "java/util/NoSuchElementException" 45 6 [.null] := ⟨_, en_c E (k := 45) rfl, rfl, rfl, in_E45, q1551, q165, tyE45, fun j hj => ⟨tyE45_ok j hj, ax_dfs [.null] tyE45 1 rfl j hj⟩⟩
theorem nm_J25_init_2 : ax_nm yJ25_init_2 0 := ⟨by decide +kernel, by decide +kernel, by decide +kernel⟩
theorem fe_52 (E : ax_EN G l) : ax_fe G "java/util/LinkedList$ListIt\x72" "lastReturned" "Ljava/util/LinkedList$Node;" 8 0 := ⟨_, en_c E (k := 8) rfl, (Nat.le_of_ble_eq_true rfl), in_J26, rfl, rfl, Or.inl rfl⟩
theorem fp_53 {own : String} (E : ax_EN G l) : ax_fp G (.object "java/util/LinkedList$Node") false own 8 0 := ⟨_, en_c E (k := 8) rfl, tyJ26_ok 0 (Nat.le_of_ble_eq_true rfl), rfl, fun h => by cases h⟩
theorem nm_J26_hasPrevious : ax_nm yJ26_hasPrevious 0 := ⟨by decide +kernel, by decide +kernel, by decide +kernel⟩
theorem fe_54 (E : ax_EN G l) : ax_fe G "java/util/LinkedList" "last" "Ljava/util/LinkedList$Node;" 15 3 := ⟨_, en_c E (k := 15) rfl, (Nat.le_of_ble_eq_true rfl), in_J4, rfl, rfl, Or.inl rfl⟩
theorem nm_J4_linkLast : ax_nm yJ4_linkLast 1 := ⟨by decide +kernel, by decide +kernel, by decide +kernel⟩
theorem nm_J4_linkBefore : ax_nm yJ4_linkBefore 2 := ⟨by decide +kernel, by decide +kernel, by decide +kernel⟩
theorem fe_55 (E : ax_EN G l) : ax_fe G "java/util/ArrayDeque$DeqIterato\x72" "remaining" "I" 10 1 := ⟨_, en_c E (k := 10) rfl, (Nat.le_of_ble_eq_true rfl), in_J29, rfl, rfl, Or.inl rfl⟩
theorem fe_56 (E : ax_EN G l) : ax_fe G "java/util/ArrayDeque$DeqIterato\x72" "this$0" "Ljava/util/ArrayDeque;" 10 3 := ⟨_, en_c E (k := 10) rfl, (Nat.le_of_ble_eq_true rfl), in_J29, rfl, rfl, Or.inl rfl⟩
theorem fp_57 (E : ax_EN G l) : ax_fp G (.object "java/util/ArrayDeque") true RJ28 10 3 := ⟨_, en_c E (k := 10) rfl, tyJ29_ok 3 (Nat.le_of_ble_eq_true rfl), rfl, fun _ => rfl⟩
theorem nm_J5_size : ax_nm yJ5_size 0 := ⟨by decide +kernel, by decide +kernel, by decide +kernel⟩
theorem fp_58 {own : String} (E : ax_EN G l) : ax_fp G (.int) false own 10 1 := ⟨_, en_c E (k := 10) rfl, tyJ29_ok 1 (Nat.le_of_ble_eq_true rfl), rfl, fun h => by cases h⟩
theorem fe_59 (E : ax_EN G l) : ax_fe G "java/util/ArrayDeque$DeqIterato\x72" "lastRet" "I" 10 2 := ⟨_, en_c E (k := 10) rfl, (Nat.le_of_ble_eq_true rfl), in_J29, rfl, rfl, Or.inl rfl⟩
theorem fp_60 {own : String} (E : ax_EN G l) : ax_fp G (.int) false own 10 2 := ⟨_, en_c E (k := 10) rfl, tyJ29_ok 2 (Nat.le_of_ble_eq_true rfl), rfl, fun h => by cases h⟩
theorem fe_61 (E : ax_EN G l) : ax_fe G "java/util/ArrayDeque" "head" "I" 16 1 := ⟨_, en_c E (k := 16) rfl, (Nat.le_of_ble_eq_true rfl), in_J5, rfl, rfl, Or.inl rfl⟩
theorem fe_62 (E : ax_EN G l) : ax_fe G "java/util/ArrayDeque$DeqIterato\x72" "curso\x72" "I" 10 0 := ⟨_, en_c E (k := 10) rfl, (Nat.le_of_ble_eq_true rfl), in_J29, rfl, rfl, Or.inl rfl⟩
theorem fp_63 {own : String} (E : ax_EN G l) : ax_fp G (.int) false own 10 0 := ⟨_, en_c E (k := 10) rfl, tyJ29_ok 0 (Nat.le_of_ble_eq_true rfl), rfl, fun h => by cases h⟩
theorem fe_64 (E : ax_EN G l) : ax_fe G "java/util/ArrayDeque$DescendingIterato\x72" "remaining" "I" 10 1 := ⟨_, en_c E (k := 10) rfl, (Nat.le_of_ble_eq_true rfl), in_J29, rfl, rfl, Or.inr q2512⟩
theorem fe_65 (E : ax_EN G l) : ax_fe G "java/util/ArrayDeque$DescendingIterato\x72" "this$0" "Ljava/util/ArrayDeque;" 10 4 := ⟨_, en_c E (k := 10) rfl, (Nat.le_of_ble_eq_true rfl), in_J29, rfl, rfl, Or.inl rfl⟩
theorem fe_66 (E : ax_EN G l) : ax_fe G "java/util/ArrayDeque" "elements" "[Ljava/lang/Object;" 16 0 := ⟨_, en_c E (k := 16) rfl, (Nat.le_of_ble_eq_true rfl), in_J5, rfl, rfl, Or.inl rfl⟩
theorem fe_67 (E : ax_EN G l) : ax_fe G "java/util/ArrayDeque$DescendingIterato\x72" "curso\x72" "I" 10 0 := ⟨_, en_c E (k := 10) rfl, (Nat.le_of_ble_eq_true rfl), in_J29, rfl, rfl, Or.inr q2508⟩
theorem nm_J5_nonNullElementAt : ax_nm yJ5_nonNullElementAt 2 := ⟨by decide +kernel, by decide +kernel, by decide +kernel⟩
theorem fe_68 (E : ax_EN G l) : ax_fe G "java/util/ArrayDeque$DescendingIterato\x72" "lastRet" "I" 10 2 := ⟨_, en_c E (k := 10) rfl, (Nat.le_of_ble_eq_true rfl), in_J29, rfl, rfl, Or.inr q2515⟩
theorem nm_J5_dec : ax_nm yJ5_dec 2 := ⟨by decide +kernel, by decide +kernel, by decide +kernel⟩
theorem fp_69 (E : ax_EN G l) : ax_fp G (.object "java/util/ArrayDeque") true RJ29 10 4 := ⟨_, en_c E (k := 10) rfl, tyJ29_ok 4 (Nat.le_of_ble_eq_true rfl), rfl, fun _ => rfl⟩
theorem nm_J28_init : ax_nm yJ28_init 1 := ⟨by decide +kernel, by decide +kernel, by decide +kernel⟩
theorem fe_70 (E : ax_EN G l) : ax_fe G "java/util/ArrayDeque" "tail" "I" 16 2 := ⟨_, en_c E (k := 16) rfl, (Nat.le_of_ble_eq_true rfl), in_J5, rfl, rfl, Or.inl rfl⟩
theorem fe_71 (E : ax_EN G l) : ax_fe G "java/util/BitSet" "wordsInUse" "I" 12 1 := ⟨_, en_c E (k := 12) rfl, (Nat.le_of_ble_eq_true rfl), in_J31, rfl, rfl, Or.inl rfl⟩
theorem fp_72 {own : String} (E : ax_EN G l) : ax_fp G (.int) false own 12 1 := ⟨_, en_c E (k := 12) rfl, tyJ31_ok 1 (Nat.le_of_ble_eq_true rfl), rfl, fun h => by cases h⟩
theorem fe_73 (E : ax_EN G l) : ax_fe G "java/util/BitSet" "sizeIsSticky" "Z" 12 2 := ⟨_, en_c E (k := 12) rfl, (Nat.le_of_ble_eq_true rfl), in_J31, rfl, rfl, Or.inl rfl⟩
theorem fp_74 {own : String} (E : ax_EN G l) : ax_fp G (.boolean) false own 12 2 := ⟨_, en_c E (k := 12) rfl, tyJ31_ok 2 (Nat.le_of_ble_eq_true rfl), rfl, fun h => by cases h⟩
theorem nm_J31_initWords : ax_nm yJ31_initWords 1 := ⟨by decide +kernel, by decide +kernel, by decide +kernel⟩
theorem nm_J31_wordIndex : ax_nm yJ31_wordIndex 1 := ⟨by decide +kernel, by decide +kernel, by decide +kernel⟩
theorem fe_75 (E : ax_EN G l) : ax_fe G "java/util/BitSet" "words" "[J" 12 0 := ⟨_, en_c E (k := 12) rfl, (Nat.le_of_ble_eq_true rfl), in_J31, rfl, rfl, Or.inl rfl⟩
theorem fp_76 {own : String} (E : ax_EN G l) : ax_fp G (.array (.long)) false own 12 0 := ⟨_, en_c E (k := 12) rfl, tyJ31_ok 0 (Nat.le_of_ble_eq_true rfl), rfl, fun h => by cases h⟩
theorem nm_J31_checkRange : ax_nm yJ31_checkRange 2 := ⟨by decide +kernel, by decide +kernel, by decide +kernel⟩
theorem nm_J31_expandTo : ax_nm yJ31_expandTo 1 := ⟨by decide +kernel, by decide +kernel, by decide +kernel⟩
theorem nm_J31_checkInvariants : ax_nm yJ31_checkInvariants 0 := ⟨by decide +kernel, by decide +kernel, by decide +kernel⟩
theorem mk_46 (E : ax_EN G l) : ax_mk G "java/lang/IndexOutOfBoundsException" 46 6 [.null] := ⟨_, en_c E (k := 46) rfl, rfl, rfl, in_E46, q848, q162, tyE46, fun j hj => ⟨tyE46_ok j hj, ax_dfs [.null] tyE46 1 rfl j hj⟩⟩
theorem nm_J24_init : ax_nm yJ24_init 1 := ⟨by decide +kernel, by decide +kernel, by decide +kernel⟩
theorem nm_J31_ensureCapacity : ax_nm yJ31_ensureCapacity 1 := ⟨by decide +kernel, by decide +kernel, by decide +kernel⟩
theorem nm_J13_copyOf_4 : ax_nm yJ13_copyOf_4 2 := ⟨by decide +kernel, by decide +kernel, by decide +kernel⟩
theorem fe_78 (E : ax_EN G l) : ax_fe G "java/util/ArrayList$It\x72" "this$0" "Ljava/util/ArrayList;" 14 3 := ⟨_, en_c E (k := 14) rfl, (Nat.le_of_ble_eq_true rfl), in_J35, rfl, rfl, Or.inl rfl⟩
theorem fe_79 (E : ax_EN G l) : ax_fe G "java/util/ArrayList$It\x72" "this$0" "Ljava/util/ArrayList;" 13 3 := ⟨_, en_c E (k := 13) rfl, (Nat.le_of_ble_eq_true rfl), in_J32, rfl, rfl, Or.inl rfl⟩
theorem fp_80 (E : ax_EN G l) : ax_fp G (.object "java/util/ArrayList") true RJ32 14 3 := ⟨_, en_c E (k := 14) rfl, tyJ35_ok 3 (Nat.le_of_ble_eq_true rfl), rfl, fun _ => rfl⟩
theorem fp_81 (E : ax_EN G l) : ax_fp G (.object "java/util/ArrayList") true RJ32 13 3 := ⟨_, en_c E (k := 13) rfl, tyJ32_ok 3 (Nat.le_of_ble_eq_true rfl), rfl, fun _ => rfl⟩
theorem fe_82 (E : ax_EN G l) : ax_fe G "java/util/ArrayList$It\x72" "lastRet" "I" 14 1 := ⟨_, en_c E (k := 14) rfl, (Nat.le_of_ble_eq_true rfl), in_J35, rfl, rfl, Or.inl rfl⟩
theorem fe_83 (E : ax_EN G l) : ax_fe G "java/util/ArrayList$It\x72" "lastRet" "I" 13 1 := ⟨_, en_c E (k := 13) rfl, (Nat.le_of_ble_eq_true rfl), in_J32, rfl, rfl, Or.inl rfl⟩
theorem fp_84 {own : String} (E : ax_EN G l) : ax_fp G (.int) false own 14 1 := ⟨_, en_c E (k := 14) rfl, tyJ35_ok 1 (Nat.le_of_ble_eq_true rfl), rfl, fun h => by cases h⟩
theorem fp_85 {own : String} (E : ax_EN G l) : ax_fp G (.int) false own 13 1 := ⟨_, en_c E (k := 13) rfl, tyJ32_ok 1 (Nat.le_of_ble_eq_true rfl), rfl, fun h => by cases h⟩
theorem fe_86 (E : ax_EN G l) : ax_fe G "java/util/ArrayList$It\x72" "expectedModCount" "I" 14 2 := ⟨_, en_c E (k := 14) rfl, (Nat.le_of_ble_eq_true rfl), in_J35, rfl, rfl, Or.inl rfl⟩
theorem fe_87 (E : ax_EN G l) : ax_fe G "java/util/ArrayList$It\x72" "expectedModCount" "I" 13 2 := ⟨_, en_c E (k := 13) rfl, (Nat.le_of_ble_eq_true rfl), in_J32, rfl, rfl, Or.inl rfl⟩
theorem fp_88 {own : String} (E : ax_EN G l) : ax_fp G (.int) false own 14 2 := ⟨_, en_c E (k := 14) rfl, tyJ35_ok 2 (Nat.le_of_ble_eq_true rfl), rfl, fun h => by cases h⟩
theorem fp_89 {own : String} (E : ax_EN G l) : ax_fp G (.int) false own 13 2 := ⟨_, en_c E (k := 13) rfl, tyJ32_ok 2 (Nat.le_of_ble_eq_true rfl), rfl, fun h => by cases h⟩
theorem fe_90 (E : ax_EN G l) : ax_fe G "java/util/ArrayList$It\x72" "curso\x72" "I" 14 0 := ⟨_, en_c E (k := 14) rfl, (Nat.le_of_ble_eq_true rfl), in_J35, rfl, rfl, Or.inl rfl⟩
theorem fe_91 (E : ax_EN G l) : ax_fe G "java/util/ArrayList$It\x72" "curso\x72" "I" 13 0 := ⟨_, en_c E (k := 13) rfl, (Nat.le_of_ble_eq_true rfl), in_J32, rfl, rfl, Or.inl rfl⟩
theorem nm_J32_checkForComodification : ax_nm yJ32_checkForComodification 0 := ⟨by decide +kernel, by decide +kernel, by decide +kernel⟩
theorem fp_92 {own : String} (E : ax_EN G l) : ax_fp G (.int) false own 14 0 := ⟨_, en_c E (k := 14) rfl, tyJ35_ok 0 (Nat.le_of_ble_eq_true rfl), rfl, fun h => by cases h⟩
theorem fp_93 {own : String} (E : ax_EN G l) : ax_fp G (.int) false own 13 0 := ⟨_, en_c E (k := 13) rfl, tyJ32_ok 0 (Nat.le_of_ble_eq_true rfl), rfl, fun h => by cases h⟩
theorem nm_J3_init : ax_nm yJ3_init 0 := ⟨by decide +kernel, by decide +kernel, by decide +kernel⟩
theorem fp_94 {own : String} (E : ax_EN G l) : ax_fp G (.int) false own 15 1 := ⟨_, en_c E (k := 15) rfl, tyJ4_ok 1 (Nat.le_of_ble_eq_true rfl), rfl, fun h => by cases h⟩
theorem fe_95 (E : ax_EN G l) : ax_fe G "java/util/LinkedList" "first" "Ljava/util/LinkedList$Node;" 15 2 := ⟨_, en_c E (k := 15) rfl, (Nat.le_of_ble_eq_true rfl), in_J4, rfl, rfl, Or.inl rfl⟩
theorem fp_96 {own : String} (E : ax_EN G l) : ax_fp G (.object "java/util/LinkedList$Node") false own 15 3 := ⟨_, en_c E (k := 15) rfl, tyJ4_ok 3 (Nat.le_of_ble_eq_true rfl), rfl, fun h => by cases h⟩
theorem fp_97 {own : String} (E : ax_EN G l) : ax_fp G (.object "java/util/LinkedList$Node") false own 15 2 := ⟨_, en_c E (k := 15) rfl, tyJ4_ok 2 (Nat.le_of_ble_eq_true rfl), rfl, fun h => by cases h⟩
theorem nm_J4_checkElementIndex : ax_nm yJ4_checkElementIndex 1 := ⟨by decide +kernel, by decide +kernel, by decide +kernel⟩
theorem nm_J4_isElementIndex : ax_nm yJ4_isElementIndex 1 := ⟨by decide +kernel, by decide +kernel, by decide +kernel⟩
theorem mk_1 (E : ax_EN G l) : ax_mk G "java/util/LinkedList$Node" 1 3 [.null, .null, .null] := ⟨_, en_c E (k := 1) rfl, rfl, rfl, in_J14, q1108, q138, tyJ14, fun j hj => ⟨tyJ14_ok j hj, ax_dfs [.null, .null, .null] tyJ14 3 rfl j hj⟩⟩
theorem nm_J14_init : ax_nm yJ14_init 3 := ⟨by decide +kernel, by decide +kernel, by decide +kernel⟩
theorem nm_J4_checkPositionIndex : ax_nm yJ4_checkPositionIndex 1 := ⟨by decide +kernel, by decide +kernel, by decide +kernel⟩
theorem mk_8 (E : ax_EN G l) : ax_mk G "java/util/LinkedList$ListIt\x72" 8 5 [.null, .null, .int 0, .int 0, .null] := ⟨_, en_c E (k := 8) rfl, rfl, rfl, in_J26, q1472, q170, tyJ26, fun j hj => ⟨tyJ26_ok j hj, ax_dfs [.null, .null, .int 0, .int 0, .null] tyJ26 5 rfl j hj⟩⟩
theorem nm_J26_init : ax_nm yJ26_init 2 := ⟨by decide +kernel, by decide +kernel, by decide +kernel⟩
theorem nm_J4_isPositionIndex : ax_nm yJ4_isPositionIndex 1 := ⟨by decide +kernel, by decide +kernel, by decide +kernel⟩
theorem nm_J4_unlinkFirst : ax_nm yJ4_unlinkFirst 1 := ⟨by decide +kernel, by decide +kernel, by decide +kernel⟩
theorem fp_100 {own : String} (E : ax_EN G l) : ax_fp G (.array (.object "java/lang/Object")) false own 16 0 := ⟨_, en_c E (k := 16) rfl, tyJ5_ok 0 (Nat.le_of_ble_eq_true rfl), rfl, fun h => by cases h⟩
theorem nm_J5_sub : ax_nm yJ5_sub 3 := ⟨by decide +kernel, by decide +kernel, by decide +kernel⟩
theorem nm_J5_circularClear : ax_nm yJ5_circularClear 3 := ⟨by decide +kernel, by decide +kernel, by decide +kernel⟩
theorem fp_101 {own : String} (E : ax_EN G l) : ax_fp G (.int) false own 16 2 := ⟨_, en_c E (k := 16) rfl, tyJ5_ok 2 (Nat.le_of_ble_eq_true rfl), rfl, fun h => by cases h⟩
theorem fp_102 {own : String} (E : ax_EN G l) : ax_fp G (.int) false own 16 1 := ⟨_, en_c E (k := 16) rfl, tyJ5_ok 1 (Nat.le_of_ble_eq_true rfl), rfl, fun h => by cases h⟩
theorem nm_J5_inc : ax_nm yJ5_inc 2 := ⟨by decide +kernel, by decide +kernel, by decide +kernel⟩
theorem nm_J5_grow : ax_nm yJ5_grow 1 := ⟨by decide +kernel, by decide +kernel, by decide +kernel⟩
theorem nm_J5_newCapacity : ax_nm yJ5_newCapacity 2 := ⟨by decide +kernel, by decide +kernel, by decide +kernel⟩
theorem hat_103 : ∀ w ∈ vx_atS "java/util/ArrayDeque" 37 "java/lang/IllegalStateException" ["java/lang/RuntimeException", "java/lang/Exception"], w ∈ lw_tbl ∧ ax_mvb w = true ∧ vx_ot w = true := fun w hw => ⟨(ax_inA (fun w => ax_mvb w && vx_ot w) (vx_atS "java/util/ArrayDeque" 37 "java/lang/IllegalStateException" ["java/lang/RuntimeException", "java/lang/Exception"]) [127, 495, 504, 516, 519, 521, 496, 497, 189, 190, 498, 503, 517, 771, 485, 772, 487, 773, 489, 499, 501, 491, 767, 768, 770, 491, 1728, 1729, 1730, 761, 744, 761, 762, 763, 764, 479, 764, 765, 766, 767, 481, 2065, 1718, 1719, 1720, 512, 1721, 1722, 1723, 1724, 494, 493, 1725] (by decide +kernel) (by decide +kernel) w hw).1, Bool.and_eq_true_iff.mp (ax_inA (fun w => ax_mvb w && vx_ot w) (vx_atS "java/util/ArrayDeque" 37 "java/lang/IllegalStateException" ["java/lang/RuntimeException", "java/lang/Exception"]) [127, 495, 504, 516, 519, 521, 496, 497, 189, 190, 498, 503, 517, 771, 485, 772, 487, 773, 489, 499, 501, 491, 767, 768, 770, 491, 1728, 1729, 1730, 761, 744, 761, 762, 763, 764, 479, 764, 765, 766, 767, 481, 2065, 1718, 1719, 1720, 512, 1721, 1722, 1723, 1724, 494, 493, 1725] (by decide +kernel) (by decide +kernel) w hw).2⟩
theorem nm_J10_init : ax_nm yJ10_init 1 := ⟨by decide +kernel, by decide +kernel, by decide +kernel⟩
theorem nm_J5_pollFirst : ax_nm yJ5_pollFirst 0 := ⟨by decide +kernel, by decide +kernel, by decide +kernel⟩
theorem nm_J5_elementAt : ax_nm yJ5_elementAt 2 := ⟨by decide +kernel, by decide +kernel, by decide +kernel⟩
theorem nm_J5_pollLast : ax_nm yJ5_pollLast 0 := ⟨by decide +kernel, by decide +kernel, by decide +kernel⟩
theorem mk_10 (E : ax_EN G l) : ax_mk G "java/util/ArrayDeque$DescendingIterato\x72" 10 5 [.int 0, .int 0, .int 0, .null, .null] := ⟨_, en_c E (k := 10) rfl, rfl, rfl, in_J29, q2497, q174, tyJ29, fun j hj => ⟨tyJ29_ok j hj, ax_dfs [.int 0, .int 0, .int 0, .null, .null] tyJ29 5 rfl j hj⟩⟩
theorem nm_J29_init : ax_nm yJ29_init 1 := ⟨by decide +kernel, by decide +kernel, by decide +kernel⟩
theorem nm_J6_init_2 : ax_nm yJ6_init_2 1 := ⟨by decide +kernel, by decide +kernel, by decide +kernel⟩
theorem nm_J6_init_4 : ax_nm yJ6_init_4 2 := ⟨by decide +kernel, by decide +kernel, by decide +kernel⟩
theorem nm_J7_init : ax_nm yJ7_init 1 := ⟨by decide +kernel, by decide +kernel, by decide +kernel⟩
theorem nm_J7_init_3 : ax_nm yJ7_init_3 0 := ⟨by decide +kernel, by decide +kernel, by decide +kernel⟩
theorem nm_J7_init_4 : ax_nm yJ7_init_4 2 := ⟨by decide +kernel, by decide +kernel, by decide +kernel⟩
theorem mk_19 (E : ax_EN G l) : ax_mk G "KernelGym" 19 6 [.null, .null, .null, .null, .null, .null] := ⟨_, en_c E (k := 19) rfl, rfl, rfl, in_X1, q184, q118, tyX1, fun j hj => ⟨tyX1_ok j hj, ax_dfs [.null, .null, .null, .null, .null, .null] tyX1 6 rfl j hj⟩⟩
theorem nm_X1_init : ax_nm yX1_init 0 := ⟨by decide +kernel, by decide +kernel, by decide +kernel⟩
theorem mk_38 (E : ax_EN G l) : ax_mk G "KernelGymModel" 38 74 [.int 0, .int 0, .null, .null, .null, .null, .null, .null, .null, .null, .null, .null, .null, .null, .int 0, .int 0, .int 0, .int 0, .int 0, .int 0, .null, .null, .int 0, .int 0, .int 0, .null, .null, .int 0, .int 0, .int 0, .int 0, .int 0, .int 0, .int 0, .int 0, .int 0, .null, .int 0, .int 0, .int 0, .int 0, .null, .null, .int 0, .null, .null, .int 0, .int 0, .null, .null, .null, .null, .int 0, .null, .null, .int 0, .null, .null, .int 0, .int 0, .int 0, .null, .null, .null, .null, .null, .null, .null, .null, .null, .null, .null, .null, .null] := ⟨_, en_c E (k := 38) rfl, rfl, rfl, in_X3, q2744, q126, tyX3, fun j hj => ⟨tyX3_ok j hj, ax_dfs [.int 0, .int 0, .null, .null, .null, .null, .null, .null, .null, .null, .null, .null, .null, .null, .int 0, .int 0, .int 0, .int 0, .int 0, .int 0, .null, .null, .int 0, .int 0, .int 0, .null, .null, .int 0, .int 0, .int 0, .int 0, .int 0, .int 0, .int 0, .int 0, .int 0, .null, .int 0, .int 0, .int 0, .int 0, .null, .null, .int 0, .null, .null, .int 0, .int 0, .null, .null, .null, .null, .int 0, .null, .null, .int 0, .null, .null, .int 0, .int 0, .int 0, .null, .null, .null, .null, .null, .null, .null, .null, .null, .null, .null, .null, .null] tyX3 74 rfl j hj⟩⟩
theorem nm_X3_init : ax_nm yX3_init 0 := ⟨by decide +kernel, by decide +kernel, by decide +kernel⟩
theorem nm_X1_clear : ax_nm yX1_clear 0 := ⟨by decide +kernel, by decide +kernel, by decide +kernel⟩
theorem nm_X3_clear : ax_nm yX3_clear 0 := ⟨by decide +kernel, by decide +kernel, by decide +kernel⟩
theorem nm_X1_lines : ax_nm yX1_lines 0 := ⟨by decide +kernel, by decide +kernel, by decide +kernel⟩
theorem nm_X3_lines : ax_nm yX3_lines 0 := ⟨by decide +kernel, by decide +kernel, by decide +kernel⟩
theorem nm_X0_section : ax_nm yX0_section 3 := ⟨by decide +kernel, by decide +kernel, by decide +kernel⟩
theorem nm_X3_section : ax_nm yX3_section 1 := ⟨by decide +kernel, by decide +kernel, by decide +kernel⟩
theorem nm_X3_thrown : ax_nm yX3_thrown 0 := ⟨by decide +kernel, by decide +kernel, by decide +kernel⟩
theorem nm_X0_label : ax_nm yX0_label 3 := ⟨by decide +kernel, by decide +kernel, by decide +kernel⟩
theorem nm_X3_label : ax_nm yX3_label 1 := ⟨by decide +kernel, by decide +kernel, by decide +kernel⟩
theorem nm_X0_code : ax_nm yX0_code 7 := ⟨by decide +kernel, by decide +kernel, by decide +kernel⟩
theorem nm_X3_code : ax_nm yX3_code 5 := ⟨by decide +kernel, by decide +kernel, by decide +kernel⟩
theorem nm_X0_word : ax_nm yX0_word 4 := ⟨by decide +kernel, by decide +kernel, by decide +kernel⟩
theorem nm_X3_word : ax_nm yX3_word 2 := ⟨by decide +kernel, by decide +kernel, by decide +kernel⟩
theorem nm_X0_space : ax_nm yX0_space 3 := ⟨by decide +kernel, by decide +kernel, by decide +kernel⟩
theorem nm_X3_space : ax_nm yX3_space 1 := ⟨by decide +kernel, by decide +kernel, by decide +kernel⟩
theorem nm_X0_vector : ax_nm yX0_vector 5 := ⟨by decide +kernel, by decide +kernel, by decide +kernel⟩
theorem nm_X3_vector : ax_nm yX3_vector 3 := ⟨by decide +kernel, by decide +kernel, by decide +kernel⟩
theorem nm_X0_macro : ax_nm yX0_macro 3 := ⟨by decide +kernel, by decide +kernel, by decide +kernel⟩
theorem nm_X3_macro : ax_nm yX3_macro 1 := ⟨by decide +kernel, by decide +kernel, by decide +kernel⟩
theorem nm_X0_endMacro : ax_nm yX0_endMacro 2 := ⟨by decide +kernel, by decide +kernel, by decide +kernel⟩
theorem nm_X3_endMacro : ax_nm yX3_endMacro 0 := ⟨by decide +kernel, by decide +kernel, by decide +kernel⟩
theorem nm_X0_use : ax_nm yX0_use 7 := ⟨by decide +kernel, by decide +kernel, by decide +kernel⟩
theorem nm_X3_use : ax_nm yX3_use 5 := ⟨by decide +kernel, by decide +kernel, by decide +kernel⟩
theorem nm_X1_error : ax_nm yX1_error 0 := ⟨by decide +kernel, by decide +kernel, by decide +kernel⟩
theorem nm_X3_error : ax_nm yX3_error 0 := ⟨by decide +kernel, by decide +kernel, by decide +kernel⟩
theorem nm_X0_assemble : ax_nm yX0_assemble 2 := ⟨by decide +kernel, by decide +kernel, by decide +kernel⟩
theorem nm_X3_assemble : ax_nm yX3_assemble 0 := ⟨by decide +kernel, by decide +kernel, by decide +kernel⟩
theorem nm_X0_image : ax_nm yX0_image 3 := ⟨by decide +kernel, by decide +kernel, by decide +kernel⟩
theorem nm_X3_image : ax_nm yX3_image 1 := ⟨by decide +kernel, by decide +kernel, by decide +kernel⟩
theorem nm_X0_start : ax_nm yX0_start 2 := ⟨by decide +kernel, by decide +kernel, by decide +kernel⟩
theorem nm_X3_start : ax_nm yX3_start 0 := ⟨by decide +kernel, by decide +kernel, by decide +kernel⟩
theorem nm_X0_crash : ax_nm yX0_crash 2 := ⟨by decide +kernel, by decide +kernel, by decide +kernel⟩
theorem nm_X3_crash : ax_nm yX3_crash 0 := ⟨by decide +kernel, by decide +kernel, by decide +kernel⟩
theorem nm_X0_format : ax_nm yX0_format 2 := ⟨by decide +kernel, by decide +kernel, by decide +kernel⟩
theorem nm_X3_format : ax_nm yX3_format 0 := ⟨by decide +kernel, by decide +kernel, by decide +kernel⟩
theorem nm_X0_step : ax_nm yX0_step 3 := ⟨by decide +kernel, by decide +kernel, by decide +kernel⟩
theorem nm_X3_step : ax_nm yX3_step 1 := ⟨by decide +kernel, by decide +kernel, by decide +kernel⟩
theorem nm_X0_runTo : ax_nm yX0_runTo 4 := ⟨by decide +kernel, by decide +kernel, by decide +kernel⟩
theorem nm_X3_runTo : ax_nm yX3_runTo 2 := ⟨by decide +kernel, by decide +kernel, by decide +kernel⟩
theorem nm_X0_back : ax_nm yX0_back 3 := ⟨by decide +kernel, by decide +kernel, by decide +kernel⟩
theorem nm_X3_back : ax_nm yX3_back 1 := ⟨by decide +kernel, by decide +kernel, by decide +kernel⟩
theorem nm_X0_press : ax_nm yX0_press 3 := ⟨by decide +kernel, by decide +kernel, by decide +kernel⟩
theorem nm_X3_press : ax_nm yX3_press 1 := ⟨by decide +kernel, by decide +kernel, by decide +kernel⟩
theorem nm_X1_state : ax_nm yX1_state 0 := ⟨by decide +kernel, by decide +kernel, by decide +kernel⟩
theorem nm_X3_state : ax_nm yX3_state 0 := ⟨by decide +kernel, by decide +kernel, by decide +kernel⟩
theorem nm_X1_fault : ax_nm yX1_fault 0 := ⟨by decide +kernel, by decide +kernel, by decide +kernel⟩
theorem nm_X3_fault : ax_nm yX3_fault 0 := ⟨by decide +kernel, by decide +kernel, by decide +kernel⟩
theorem nm_X1_steps : ax_nm yX1_steps 0 := ⟨by decide +kernel, by decide +kernel, by decide +kernel⟩
theorem nm_X3_steps : ax_nm yX3_steps 0 := ⟨by decide +kernel, by decide +kernel, by decide +kernel⟩
theorem nm_X1_kept : ax_nm yX1_kept 0 := ⟨by decide +kernel, by decide +kernel, by decide +kernel⟩
theorem nm_X3_kept : ax_nm yX3_kept 0 := ⟨by decide +kernel, by decide +kernel, by decide +kernel⟩
theorem nm_X1_counter : ax_nm yX1_counter 0 := ⟨by decide +kernel, by decide +kernel, by decide +kernel⟩
theorem nm_X3_counter : ax_nm yX3_counter 0 := ⟨by decide +kernel, by decide +kernel, by decide +kernel⟩
theorem nm_X1_stack : ax_nm yX1_stack 0 := ⟨by decide +kernel, by decide +kernel, by decide +kernel⟩
theorem nm_X3_stack : ax_nm yX3_stack 0 := ⟨by decide +kernel, by decide +kernel, by decide +kernel⟩
theorem nm_X1_flags : ax_nm yX1_flags 0 := ⟨by decide +kernel, by decide +kernel, by decide +kernel⟩
theorem nm_X3_flags : ax_nm yX3_flags 0 := ⟨by decide +kernel, by decide +kernel, by decide +kernel⟩
theorem nm_X1_writesLeft : ax_nm yX1_writesLeft 0 := ⟨by decide +kernel, by decide +kernel, by decide +kernel⟩
theorem nm_X3_writesLeft : ax_nm yX3_writesLeft 0 := ⟨by decide +kernel, by decide +kernel, by decide +kernel⟩
theorem nm_X0_register : ax_nm yX0_register 3 := ⟨by decide +kernel, by decide +kernel, by decide +kernel⟩
theorem nm_X3_register : ax_nm yX3_register 1 := ⟨by decide +kernel, by decide +kernel, by decide +kernel⟩
theorem nm_X0_memory : ax_nm yX0_memory 3 := ⟨by decide +kernel, by decide +kernel, by decide +kernel⟩
theorem nm_X3_memory : ax_nm yX3_memory 1 := ⟨by decide +kernel, by decide +kernel, by decide +kernel⟩
theorem nm_X0_changedAt : ax_nm yX0_changedAt 3 := ⟨by decide +kernel, by decide +kernel, by decide +kernel⟩
theorem nm_X3_changedAt : ax_nm yX3_changedAt 1 := ⟨by decide +kernel, by decide +kernel, by decide +kernel⟩
theorem nm_X1_tape : ax_nm yX1_tape 0 := ⟨by decide +kernel, by decide +kernel, by decide +kernel⟩
theorem nm_X3_tape : ax_nm yX3_tape 0 := ⟨by decide +kernel, by decide +kernel, by decide +kernel⟩
theorem nm_X0_tapeAt : ax_nm yX0_tapeAt 3 := ⟨by decide +kernel, by decide +kernel, by decide +kernel⟩
theorem nm_X3_tapeAt : ax_nm yX3_tapeAt 1 := ⟨by decide +kernel, by decide +kernel, by decide +kernel⟩
theorem nm_X1_sum : ax_nm yX1_sum 0 := ⟨by decide +kernel, by decide +kernel, by decide +kernel⟩
theorem nm_X3_sum : ax_nm yX3_sum 0 := ⟨by decide +kernel, by decide +kernel, by decide +kernel⟩
theorem nm_X0_sumAnew : ax_nm yX0_sumAnew 3 := ⟨by decide +kernel, by decide +kernel, by decide +kernel⟩
theorem nm_X3_sumAnew : ax_nm yX3_sumAnew 1 := ⟨by decide +kernel, by decide +kernel, by decide +kernel⟩
theorem nm_X1_written : ax_nm yX1_written 0 := ⟨by decide +kernel, by decide +kernel, by decide +kernel⟩
theorem nm_X3_written : ax_nm yX3_written 0 := ⟨by decide +kernel, by decide +kernel, by decide +kernel⟩
theorem nm_X0_disk : ax_nm yX0_disk 4 := ⟨by decide +kernel, by decide +kernel, by decide +kernel⟩
theorem nm_X3_disk : ax_nm yX3_disk 2 := ⟨by decide +kernel, by decide +kernel, by decide +kernel⟩
theorem nm_X1_files : ax_nm yX1_files 0 := ⟨by decide +kernel, by decide +kernel, by decide +kernel⟩
theorem nm_X3_files : ax_nm yX3_files 0 := ⟨by decide +kernel, by decide +kernel, by decide +kernel⟩
theorem nm_X0_size : ax_nm yX0_size 3 := ⟨by decide +kernel, by decide +kernel, by decide +kernel⟩
theorem nm_X3_size : ax_nm yX3_size 1 := ⟨by decide +kernel, by decide +kernel, by decide +kernel⟩
theorem nm_X0_wordOf : ax_nm yX0_wordOf 4 := ⟨by decide +kernel, by decide +kernel, by decide +kernel⟩
theorem nm_X3_wordOf : ax_nm yX3_wordOf 2 := ⟨by decide +kernel, by decide +kernel, by decide +kernel⟩
theorem nm_X1_freeBlocks : ax_nm yX1_freeBlocks 0 := ⟨by decide +kernel, by decide +kernel, by decide +kernel⟩
theorem nm_X3_freeBlocks : ax_nm yX3_freeBlocks 0 := ⟨by decide +kernel, by decide +kernel, by decide +kernel⟩
theorem nm_X1_isWhole : ax_nm yX1_isWhole 0 := ⟨by decide +kernel, by decide +kernel, by decide +kernel⟩
theorem nm_X3_isWhole : ax_nm yX3_isWhole 0 := ⟨by decide +kernel, by decide +kernel, by decide +kernel⟩
theorem nm_X0_testKey : ax_nm yX0_testKey 3 := ⟨by decide +kernel, by decide +kernel, by decide +kernel⟩
theorem nm_X3_testKey : ax_nm yX3_testKey 1 := ⟨by decide +kernel, by decide +kernel, by decide +kernel⟩
theorem nm_X0_testWord : ax_nm yX0_testWord 3 := ⟨by decide +kernel, by decide +kernel, by decide +kernel⟩
theorem nm_X3_testWord : ax_nm yX3_testWord 1 := ⟨by decide +kernel, by decide +kernel, by decide +kernel⟩
theorem nm_X0_addTest : ax_nm yX0_addTest 6 := ⟨by decide +kernel, by decide +kernel, by decide +kernel⟩
theorem nm_X3_addTest : ax_nm yX3_addTest 4 := ⟨by decide +kernel, by decide +kernel, by decide +kernel⟩
theorem nm_X1_tests : ax_nm yX1_tests 0 := ⟨by decide +kernel, by decide +kernel, by decide +kernel⟩
theorem nm_X3_tests : ax_nm yX3_tests 0 := ⟨by decide +kernel, by decide +kernel, by decide +kernel⟩
theorem nm_X0_submit : ax_nm yX0_submit 2 := ⟨by decide +kernel, by decide +kernel, by decide +kernel⟩
theorem nm_X3_submit : ax_nm yX3_submit 0 := ⟨by decide +kernel, by decide +kernel, by decide +kernel⟩
theorem nm_X0_result : ax_nm yX0_result 3 := ⟨by decide +kernel, by decide +kernel, by decide +kernel⟩
theorem nm_X3_result : ax_nm yX3_result 1 := ⟨by decide +kernel, by decide +kernel, by decide +kernel⟩
theorem nm_X1_mark : ax_nm yX1_mark 0 := ⟨by decide +kernel, by decide +kernel, by decide +kernel⟩
theorem nm_X3_mark : ax_nm yX3_mark 0 := ⟨by decide +kernel, by decide +kernel, by decide +kernel⟩
theorem nm_X1_section : ax_nm yX1_section 1 := ⟨by decide +kernel, by decide +kernel, by decide +kernel⟩
theorem nm_X1_label : ax_nm yX1_label 1 := ⟨by decide +kernel, by decide +kernel, by decide +kernel⟩
theorem nm_X1_code : ax_nm yX1_code 5 := ⟨by decide +kernel, by decide +kernel, by decide +kernel⟩
theorem nm_X1_word : ax_nm yX1_word 2 := ⟨by decide +kernel, by decide +kernel, by decide +kernel⟩
theorem nm_X1_space : ax_nm yX1_space 1 := ⟨by decide +kernel, by decide +kernel, by decide +kernel⟩
theorem nm_X1_vector : ax_nm yX1_vector 3 := ⟨by decide +kernel, by decide +kernel, by decide +kernel⟩
theorem nm_X1_macro : ax_nm yX1_macro 1 := ⟨by decide +kernel, by decide +kernel, by decide +kernel⟩
theorem nm_X1_endMacro : ax_nm yX1_endMacro 0 := ⟨by decide +kernel, by decide +kernel, by decide +kernel⟩
theorem nm_X1_use : ax_nm yX1_use 5 := ⟨by decide +kernel, by decide +kernel, by decide +kernel⟩
theorem nm_X1_assemble : ax_nm yX1_assemble 0 := ⟨by decide +kernel, by decide +kernel, by decide +kernel⟩
theorem nm_X1_image : ax_nm yX1_image 1 := ⟨by decide +kernel, by decide +kernel, by decide +kernel⟩
theorem nm_X1_start : ax_nm yX1_start 0 := ⟨by decide +kernel, by decide +kernel, by decide +kernel⟩
theorem nm_X1_crash : ax_nm yX1_crash 0 := ⟨by decide +kernel, by decide +kernel, by decide +kernel⟩
theorem nm_X1_format : ax_nm yX1_format 0 := ⟨by decide +kernel, by decide +kernel, by decide +kernel⟩
theorem nm_X1_step : ax_nm yX1_step 1 := ⟨by decide +kernel, by decide +kernel, by decide +kernel⟩
theorem nm_X1_runTo : ax_nm yX1_runTo 2 := ⟨by decide +kernel, by decide +kernel, by decide +kernel⟩
theorem nm_X1_back : ax_nm yX1_back 1 := ⟨by decide +kernel, by decide +kernel, by decide +kernel⟩
theorem nm_X1_press : ax_nm yX1_press 1 := ⟨by decide +kernel, by decide +kernel, by decide +kernel⟩
theorem nm_X1_register : ax_nm yX1_register 1 := ⟨by decide +kernel, by decide +kernel, by decide +kernel⟩
theorem nm_X1_memory : ax_nm yX1_memory 1 := ⟨by decide +kernel, by decide +kernel, by decide +kernel⟩
theorem nm_X1_changedAt : ax_nm yX1_changedAt 1 := ⟨by decide +kernel, by decide +kernel, by decide +kernel⟩
theorem nm_X1_tapeAt : ax_nm yX1_tapeAt 1 := ⟨by decide +kernel, by decide +kernel, by decide +kernel⟩
theorem nm_X1_sumAnew : ax_nm yX1_sumAnew 1 := ⟨by decide +kernel, by decide +kernel, by decide +kernel⟩
theorem nm_X1_disk : ax_nm yX1_disk 2 := ⟨by decide +kernel, by decide +kernel, by decide +kernel⟩
theorem nm_X1_size : ax_nm yX1_size 1 := ⟨by decide +kernel, by decide +kernel, by decide +kernel⟩
theorem nm_X1_wordOf : ax_nm yX1_wordOf 2 := ⟨by decide +kernel, by decide +kernel, by decide +kernel⟩
theorem nm_X1_testKey : ax_nm yX1_testKey 1 := ⟨by decide +kernel, by decide +kernel, by decide +kernel⟩
theorem nm_X1_testWord : ax_nm yX1_testWord 1 := ⟨by decide +kernel, by decide +kernel, by decide +kernel⟩
theorem nm_X1_addTest : ax_nm yX1_addTest 4 := ⟨by decide +kernel, by decide +kernel, by decide +kernel⟩
theorem nm_X1_submit : ax_nm yX1_submit 0 := ⟨by decide +kernel, by decide +kernel, by decide +kernel⟩
theorem nm_X1_result : ax_nm yX1_result 1 := ⟨by decide +kernel, by decide +kernel, by decide +kernel⟩
theorem mk_4 (E : ax_EN G l) : ax_mk G "java/util/ArrayList" 4 3 [.int 0, .null, .int 0] := ⟨_, en_c E (k := 4) rfl, rfl, rfl, in_J2, q192, q121, tyJ2, fun j hj => ⟨tyJ2_ok j hj, ax_dfs [.int 0, .null, .int 0] tyJ2 3 rfl j hj⟩⟩
theorem nm_J2_init : ax_nm yJ2_init 0 := ⟨by decide +kernel, by decide +kernel, by decide +kernel⟩
theorem fe_139 (E : ax_EN G l) : ax_fe G "KernelGym" "lines" "Ljava/util/List;" 19 0 := ⟨_, en_c E (k := 19) rfl, (Nat.le_of_ble_eq_true rfl), in_X1, rfl, rfl, Or.inl rfl⟩
theorem fp_140 (E : ax_EN G l) : ax_fp G (.object "java/util/List") true RX1 19 0 := ⟨_, en_c E (k := 19) rfl, tyX1_ok 0 (Nat.le_of_ble_eq_true rfl), rfl, fun _ => rfl⟩
theorem mk_29 (E : ax_EN G l) : ax_mk G "KernelGym$Machine" 29 10 [.null, .null, .null, .int 0, .null, .null, .null, .null, .null, .int 0] := ⟨_, en_c E (k := 29) rfl, rfl, rfl, in_X2, q228, q122, tyX2, fun j hj => ⟨tyX2_ok j hj, ax_dfs [.null, .null, .null, .int 0, .null, .null, .null, .null, .null, .int 0] tyX2 10 rfl j hj⟩⟩
theorem nm_X2_init : ax_nm yX2_init 1 := ⟨by decide +kernel, by decide +kernel, by decide +kernel⟩
theorem fe_142 (E : ax_EN G l) : ax_fe G "KernelGym" "machine" "LKernelGym$Machine;" 19 1 := ⟨_, en_c E (k := 19) rfl, (Nat.le_of_ble_eq_true rfl), in_X1, rfl, rfl, Or.inl rfl⟩
theorem fp_143 (E : ax_EN G l) : ax_fp G (.object "KernelGym$Machine") true RX1 19 1 := ⟨_, en_c E (k := 19) rfl, tyX1_ok 1 (Nat.le_of_ble_eq_true rfl), rfl, fun _ => rfl⟩
theorem fe_144 (E : ax_EN G l) : ax_fe G "KernelGym" "tests" "Ljava/util/List;" 19 2 := ⟨_, en_c E (k := 19) rfl, (Nat.le_of_ble_eq_true rfl), in_X1, rfl, rfl, Or.inl rfl⟩
theorem fp_145 (E : ax_EN G l) : ax_fp G (.object "java/util/List") true RX1 19 2 := ⟨_, en_c E (k := 19) rfl, tyX1_ok 2 (Nat.le_of_ble_eq_true rfl), rfl, fun _ => rfl⟩
theorem mk_15 (E : ax_EN G l) : ax_mk G "java/util/LinkedList" 15 4 [.int 0, .int 0, .null, .null] := ⟨_, en_c E (k := 15) rfl, rfl, rfl, in_J4, q234, q124, tyJ4, fun j hj => ⟨tyJ4_ok j hj, ax_dfs [.int 0, .int 0, .null, .null] tyJ4 4 rfl j hj⟩⟩
theorem nm_J4_init : ax_nm yJ4_init 0 := ⟨by decide +kernel, by decide +kernel, by decide +kernel⟩
theorem fe_147 (E : ax_EN G l) : ax_fe G "KernelGym" "draftKeys" "Ljava/util/LinkedList;" 19 3 := ⟨_, en_c E (k := 19) rfl, (Nat.le_of_ble_eq_true rfl), in_X1, rfl, rfl, Or.inl rfl⟩
theorem fp_148 (E : ax_EN G l) : ax_fp G (.object "java/util/LinkedList") true RX1 19 3 := ⟨_, en_c E (k := 19) rfl, tyX1_ok 3 (Nat.le_of_ble_eq_true rfl), rfl, fun _ => rfl⟩
theorem fe_149 (E : ax_EN G l) : ax_fe G "KernelGym" "draftWords" "Ljava/util/LinkedList;" 19 4 := ⟨_, en_c E (k := 19) rfl, (Nat.le_of_ble_eq_true rfl), in_X1, rfl, rfl, Or.inl rfl⟩
theorem fp_150 (E : ax_EN G l) : ax_fp G (.object "java/util/LinkedList") true RX1 19 4 := ⟨_, en_c E (k := 19) rfl, tyX1_ok 4 (Nat.le_of_ble_eq_true rfl), rfl, fun _ => rfl⟩
theorem xn_151 : ax_nm ⟨"java/util/List", "size", "()I"⟩ 0 := ⟨by decide +kernel, by decide +kernel, by decide +kernel⟩
theorem xn_152 : ax_nm ⟨"java/util/List", "clea\x72", "()V"⟩ 0 := ⟨by decide +kernel, by decide +kernel, by decide +kernel⟩
theorem mk_25 (E : ax_EN G l) : ax_mk G "KernelGym$Assembly" 25 7 [.null, .null, .null, .null, .int 0, .int 0, .null] := ⟨_, en_c E (k := 25) rfl, rfl, rfl, in_X15, q385, q148, tyX15, fun j hj => ⟨tyX15_ok j hj, ax_dfs [.null, .null, .null, .null, .int 0, .int 0, .null] tyX15 7 rfl j hj⟩⟩
theorem nm_X15_init : ax_nm yX15_init 1 := ⟨by decide +kernel, by decide +kernel, by decide +kernel⟩
theorem fe_155 (E : ax_EN G l) : ax_fe G "KernelGym$Assembly" "words" "I" 25 5 := ⟨_, en_c E (k := 25) rfl, (Nat.le_of_ble_eq_true rfl), in_X15, rfl, rfl, Or.inl rfl⟩
theorem nm_X19_told : ax_nm yX19_told 0 := ⟨by decide +kernel, by decide +kernel, by decide +kernel⟩
theorem mk_28 (E : ax_EN G l) : ax_mk G "KernelGym$Wrong" 28 8 [.int 0, .int 0, .null] := ⟨_, en_c E (k := 28) rfl, rfl, rfl, in_E28, q476, q152, tyE28, fun j hj => ⟨tyE28_ok j hj, ax_dfs [.int 0, .int 0, .null] tyE28 3 rfl j hj⟩⟩
theorem nm_X19_init : ax_nm yX19_init 2 := ⟨by decide +kernel, by decide +kernel, by decide +kernel⟩
theorem fe_158 (E : ax_EN G l) : ax_fe G "KernelGym$Machine" "cells" "[I" 29 0 := ⟨_, en_c E (k := 29) rfl, (Nat.le_of_ble_eq_true rfl), in_X2, rfl, rfl, Or.inl rfl⟩
theorem fe_159 (E : ax_EN G l) : ax_fe G "KernelGym$Machine" "kept" "Ljava/util/ArrayDeque;" 29 2 := ⟨_, en_c E (k := 29) rfl, (Nat.le_of_ble_eq_true rfl), in_X2, rfl, rfl, Or.inl rfl⟩
theorem nm_X2_flags : ax_nm yX2_flags 0 := ⟨by decide +kernel, by decide +kernel, by decide +kernel⟩
theorem nm_X2_writesLeft : ax_nm yX2_writesLeft 0 := ⟨by decide +kernel, by decide +kernel, by decide +kernel⟩
theorem nm_X2_sum : ax_nm yX2_sum 0 := ⟨by decide +kernel, by decide +kernel, by decide +kernel⟩
theorem nm_X2_entry : ax_nm yX2_entry 2 := ⟨by decide +kernel, by decide +kernel, by decide +kernel⟩
theorem nm_X2_isUsed : ax_nm yX2_isUsed 1 := ⟨by decide +kernel, by decide +kernel, by decide +kernel⟩
theorem nm_X2_isWhole : ax_nm yX2_isWhole 0 := ⟨by decide +kernel, by decide +kernel, by decide +kernel⟩
theorem xn_160 : ax_nm ⟨"java/util/List", "iterato\x72", "()Ljava/util/Iterator;"⟩ 0 := ⟨by decide +kernel, by decide +kernel, by decide +kernel⟩
theorem xn_161 : ax_nm ⟨"java/util/Iterato\x72", "hasNext", "()Z"⟩ 0 := ⟨by decide +kernel, by decide +kernel, by decide +kernel⟩
theorem xn_162 : ax_nm ⟨"java/util/Iterato\x72", "next", "()Ljava/lang/Object;"⟩ 0 := ⟨by decide +kernel, by decide +kernel, by decide +kernel⟩
theorem cs_163 (E : ax_EN G l) : ax_cas G "KernelGym$Test" [37] := (ax_cas_self (en_c E (k := 37) rfl) rfl ax_cas_nil)
theorem nm_X27_worth : ax_nm yX27_worth 0 := ⟨by decide +kernel, by decide +kernel, by decide +kernel⟩
theorem nm_X1_in : ax_nm yX1_in 3 := ⟨by decide +kernel, by decide +kernel, by decide +kernel⟩
theorem mk_39 (E : ax_EN G l) : ax_mk G "KernelGym$1" 39 2 [.int 0, .null] := ⟨_, en_c E (k := 39) rfl, rfl, rfl, in_X5, q1695, q132, tyX5, fun j hj => ⟨tyX5_ok j hj, ax_dfs [.int 0, .null] tyX5 2 rfl j hj⟩⟩
theorem nm_X5_init : ax_nm yX5_init 2 := ⟨by decide +kernel, by decide +kernel, by decide +kernel⟩
theorem nm_X1_add : ax_nm yX1_add 1 := ⟨by decide +kernel, by decide +kernel, by decide +kernel⟩
theorem hat_165 : ∀ w ∈ vx_atS "KernelGym" 47 "java/lang/IllegalArgumentException" ["java/lang/RuntimeException", "java/lang/Exception"], w ∈ lw_tbl ∧ ax_mvb w = true ∧ vx_ot w = true := fun w hw => ⟨(ax_inA (fun w => ax_mvb w && vx_ot w) (vx_atS "KernelGym" 47 "java/lang/IllegalArgumentException" ["java/lang/RuntimeException", "java/lang/Exception"]) [127, 495, 504, 516, 519, 521, 496, 497, 189, 190, 498, 503, 517, 771, 485, 772, 487, 773, 489, 499, 501, 491, 767, 768, 770, 491, 758, 759, 760, 761, 744, 761, 762, 763, 764, 479, 764, 765, 766, 767, 481, 1693, 741, 742, 745, 511, 746, 747, 748, 749, 494, 493, 750] (by decide +kernel) (by decide +kernel) w hw).1, Bool.and_eq_true_iff.mp (ax_inA (fun w => ax_mvb w && vx_ot w) (vx_atS "KernelGym" 47 "java/lang/IllegalArgumentException" ["java/lang/RuntimeException", "java/lang/Exception"]) [127, 495, 504, 516, 519, 521, 496, 497, 189, 190, 498, 503, 517, 771, 485, 772, 487, 773, 489, 499, 501, 491, 767, 768, 770, 491, 758, 759, 760, 761, 744, 761, 762, 763, 764, 479, 764, 765, 766, 767, 481, 1693, 741, 742, 745, 511, 746, 747, 748, 749, 494, 493, 750] (by decide +kernel) (by decide +kernel) w hw).2⟩
theorem nm_X1_must : ax_nm yX1_must 1 := ⟨by decide +kernel, by decide +kernel, by decide +kernel⟩
theorem xn_166 : ax_nm ⟨"java/util/List", "add", "(Ljava/lang/Object;)Z"⟩ 1 := ⟨by decide +kernel, by decide +kernel, by decide +kernel⟩
theorem hat_167 : ∀ w ∈ vx_atS "KernelGym" 54 "java/lang/IllegalStateException" ["java/lang/RuntimeException", "java/lang/Exception"], w ∈ lw_tbl ∧ ax_mvb w = true ∧ vx_ot w = true := fun w hw => ⟨(ax_inA (fun w => ax_mvb w && vx_ot w) (vx_atS "KernelGym" 54 "java/lang/IllegalStateException" ["java/lang/RuntimeException", "java/lang/Exception"]) [127, 495, 504, 516, 519, 521, 496, 497, 189, 190, 498, 503, 517, 771, 485, 772, 487, 773, 489, 499, 501, 491, 767, 768, 770, 491, 1728, 1729, 1730, 761, 744, 761, 762, 763, 764, 479, 764, 765, 766, 767, 481, 1727, 1718, 1719, 1720, 512, 1721, 1722, 1723, 1724, 494, 493, 1725] (by decide +kernel) (by decide +kernel) w hw).1, Bool.and_eq_true_iff.mp (ax_inA (fun w => ax_mvb w && vx_ot w) (vx_atS "KernelGym" 54 "java/lang/IllegalStateException" ["java/lang/RuntimeException", "java/lang/Exception"]) [127, 495, 504, 516, 519, 521, 496, 497, 189, 190, 498, 503, 517, 771, 485, 772, 487, 773, 489, 499, 501, 491, 767, 768, 770, 491, 1728, 1729, 1730, 761, 744, 761, 762, 763, 764, 479, 764, 765, 766, 767, 481, 1727, 1718, 1719, 1720, 512, 1721, 1722, 1723, 1724, 494, 493, 1725] (by decide +kernel) (by decide +kernel) w hw).2⟩
theorem mk_40 (E : ax_EN G l) : ax_mk G "KernelGym$2" 40 2 [.int 0, .null] := ⟨_, en_c E (k := 40) rfl, rfl, rfl, in_X6, q1743, q139, tyX6, fun j hj => ⟨tyX6_ok j hj, ax_dfs [.int 0, .null] tyX6 2 rfl j hj⟩⟩
theorem nm_X6_init : ax_nm yX6_init 2 := ⟨by decide +kernel, by decide +kernel, by decide +kernel⟩
theorem nm_X1_operand : ax_nm yX1_operand 2 := ⟨by decide +kernel, by decide +kernel, by decide +kernel⟩
theorem mk_42 (E : ax_EN G l) : ax_mk G "KernelGym$3" 42 5 [.int 0, .int 0, .int 0, .null, .null] := ⟨_, en_c E (k := 42) rfl, rfl, rfl, in_X8, q1782, q141, tyX8, fun j hj => ⟨tyX8_ok j hj, ax_dfs [.int 0, .int 0, .int 0, .null, .null] tyX8 5 rfl j hj⟩⟩
theorem nm_X8_init : ax_nm yX8_init 5 := ⟨by decide +kernel, by decide +kernel, by decide +kernel⟩
theorem mk_41 (E : ax_EN G l) : ax_mk G "KernelGym$Operand" 41 2 [.int 0, .int 0] := ⟨_, en_c E (k := 41) rfl, rfl, rfl, in_X7, q1766, q140, tyX7, fun j hj => ⟨tyX7_ok j hj, ax_dfs [.int 0, .int 0] tyX7 2 rfl j hj⟩⟩
theorem nm_X7_init : ax_nm yX7_init 2 := ⟨by decide +kernel, by decide +kernel, by decide +kernel⟩
theorem mk_43 (E : ax_EN G l) : ax_mk G "KernelGym$4" 43 2 [.null, .null] := ⟨_, en_c E (k := 43) rfl, rfl, rfl, in_X9, q1811, q142, tyX9, fun j hj => ⟨tyX9_ok j hj, ax_dfs [.null, .null] tyX9 2 rfl j hj⟩⟩
theorem nm_X9_init : ax_nm yX9_init 2 := ⟨by decide +kernel, by decide +kernel, by decide +kernel⟩
theorem mk_20 (E : ax_EN G l) : ax_mk G "KernelGym$5" 20 2 [.int 0, .null] := ⟨_, en_c E (k := 20) rfl, rfl, rfl, in_X10, q1831, q143, tyX10, fun j hj => ⟨tyX10_ok j hj, ax_dfs [.int 0, .null] tyX10 2 rfl j hj⟩⟩
theorem nm_X10_init : ax_nm yX10_init 2 := ⟨by decide +kernel, by decide +kernel, by decide +kernel⟩
theorem mk_21 (E : ax_EN G l) : ax_mk G "KernelGym$6" 21 3 [.int 0, .null, .null] := ⟨_, en_c E (k := 21) rfl, rfl, rfl, in_X11, q1851, q144, tyX11, fun j hj => ⟨tyX11_ok j hj, ax_dfs [.int 0, .null, .null] tyX11 3 rfl j hj⟩⟩
theorem nm_X11_init : ax_nm yX11_init 3 := ⟨by decide +kernel, by decide +kernel, by decide +kernel⟩
theorem mk_22 (E : ax_EN G l) : ax_mk G "KernelGym$7" 22 2 [.int 0, .null] := ⟨_, en_c E (k := 22) rfl, rfl, rfl, in_X12, q1874, q145, tyX12, fun j hj => ⟨tyX12_ok j hj, ax_dfs [.int 0, .null] tyX12 2 rfl j hj⟩⟩
theorem nm_X12_init : ax_nm yX12_init 2 := ⟨by decide +kernel, by decide +kernel, by decide +kernel⟩
theorem mk_23 (E : ax_EN G l) : ax_mk G "KernelGym$8" 23 1 [.null] := ⟨_, en_c E (k := 23) rfl, rfl, rfl, in_X13, q1894, q146, tyX13, fun j hj => ⟨tyX13_ok j hj, ax_dfs [.null] tyX13 1 rfl j hj⟩⟩
theorem nm_X13_init : ax_nm yX13_init 1 := ⟨by decide +kernel, by decide +kernel, by decide +kernel⟩
theorem mk_24 (E : ax_EN G l) : ax_mk G "KernelGym$9" 24 4 [.int 0, .null, .null, .null] := ⟨_, en_c E (k := 24) rfl, rfl, rfl, in_X14, q1911, q147, tyX14, fun j hj => ⟨tyX14_ok j hj, ax_dfs [.int 0, .null, .null, .null] tyX14 4 rfl j hj⟩⟩
theorem nm_X14_init : ax_nm yX14_init 4 := ⟨by decide +kernel, by decide +kernel, by decide +kernel⟩
theorem fe_178 (E : ax_EN G l) : ax_fe G "KernelGym$Assembly" "made" "[I" 25 3 := ⟨_, en_c E (k := 25) rfl, (Nat.le_of_ble_eq_true rfl), in_X15, rfl, rfl, Or.inl rfl⟩
theorem fe_179 (E : ax_EN G l) : ax_fe G "KernelGym" "image" "[I" 19 5 := ⟨_, en_c E (k := 19) rfl, (Nat.le_of_ble_eq_true rfl), in_X1, rfl, rfl, Or.inl rfl⟩
theorem fp_180 {own : String} (E : ax_EN G l) : ax_fp G (.array (.int)) false own 19 5 := ⟨_, en_c E (k := 19) rfl, tyX1_ok 5 (Nat.le_of_ble_eq_true rfl), rfl, fun h => by cases h⟩
theorem mk_44 (E : ax_EN G l) : ax_mk G "java/lang/IllegalStateException" 44 6 [.null] := ⟨_, en_c E (k := 44) rfl, rfl, rfl, in_E44, q1718, q133, tyE44, fun j hj => ⟨tyE44_ok j hj, ax_dfs [.null] tyE44 1 rfl j hj⟩⟩
theorem nm_J10_init_2 : ax_nm yJ10_init_2 2 := ⟨by decide +kernel, by decide +kernel, by decide +kernel⟩
theorem nm_X2_isOn : ax_nm yX2_isOn 0 := ⟨by decide +kernel, by decide +kernel, by decide +kernel⟩
theorem nm_X2_start : ax_nm yX2_start 1 := ⟨by decide +kernel, by decide +kernel, by decide +kernel⟩
theorem nm_X2_crash : ax_nm yX2_crash 0 := ⟨by decide +kernel, by decide +kernel, by decide +kernel⟩
theorem nm_X2_format : ax_nm yX2_format 0 := ⟨by decide +kernel, by decide +kernel, by decide +kernel⟩
theorem nm_X2_goesOn : ax_nm yX2_goesOn 0 := ⟨by decide +kernel, by decide +kernel, by decide +kernel⟩
theorem nm_X2_make : ax_nm yX2_make 0 := ⟨by decide +kernel, by decide +kernel, by decide +kernel⟩
theorem nm_X2_back : ax_nm yX2_back 1 := ⟨by decide +kernel, by decide +kernel, by decide +kernel⟩
theorem fe_183 (E : ax_EN G l) : ax_fe G "KernelGym$Machine" "keys" "Ljava/util/LinkedList;" 29 1 := ⟨_, en_c E (k := 29) rfl, (Nat.le_of_ble_eq_true rfl), in_X2, rfl, rfl, Or.inl rfl⟩
theorem nm_J4_size : ax_nm yJ4_size 0 := ⟨by decide +kernel, by decide +kernel, by decide +kernel⟩
theorem nm_X2_press : ax_nm yX2_press 1 := ⟨by decide +kernel, by decide +kernel, by decide +kernel⟩
theorem nm_X2_changedAt : ax_nm yX2_changedAt 1 := ⟨by decide +kernel, by decide +kernel, by decide +kernel⟩
theorem hat_184 : ∀ w ∈ vx_atS "KernelGym" 205 "java/lang/IndexOutOfBoundsException" ["java/lang/RuntimeException", "java/lang/Exception"], w ∈ lw_tbl ∧ ax_mvb w = true ∧ vx_ot w = true := fun w hw => ⟨(ax_inA (fun w => ax_mvb w && vx_ot w) (vx_atS "KernelGym" 205 "java/lang/IndexOutOfBoundsException" ["java/lang/RuntimeException", "java/lang/Exception"]) [127, 495, 504, 516, 519, 521, 496, 497, 189, 190, 498, 503, 517, 771, 485, 772, 487, 773, 489, 499, 501, 491, 767, 768, 770, 491, 868, 869, 870, 761, 744, 761, 762, 763, 764, 479, 764, 765, 766, 767, 481, 2561, 848, 849, 850, 513, 851, 852, 853, 854, 494, 493, 855] (by decide +kernel) (by decide +kernel) w hw).1, Bool.and_eq_true_iff.mp (ax_inA (fun w => ax_mvb w && vx_ot w) (vx_atS "KernelGym" 205 "java/lang/IndexOutOfBoundsException" ["java/lang/RuntimeException", "java/lang/Exception"]) [127, 495, 504, 516, 519, 521, 496, 497, 189, 190, 498, 503, 517, 771, 485, 772, 487, 773, 489, 499, 501, 491, 767, 768, 770, 491, 868, 869, 870, 761, 744, 761, 762, 763, 764, 479, 764, 765, 766, 767, 481, 2561, 848, 849, 850, 513, 851, 852, 853, 854, 494, 493, 855] (by decide +kernel) (by decide +kernel) w hw).2⟩
theorem nm_X2_sumAnew : ax_nm yX2_sumAnew 1 := ⟨by decide +kernel, by decide +kernel, by decide +kernel⟩
theorem nm_X1_file : ax_nm yX1_file 1 := ⟨by decide +kernel, by decide +kernel, by decide +kernel⟩
theorem nm_X2_find : ax_nm yX2_find 1 := ⟨by decide +kernel, by decide +kernel, by decide +kernel⟩
theorem nm_J25_init_3 : ax_nm yJ25_init_3 1 := ⟨by decide +kernel, by decide +kernel, by decide +kernel⟩
theorem nm_X2_wordOf : ax_nm yX2_wordOf 2 := ⟨by decide +kernel, by decide +kernel, by decide +kernel⟩
theorem nm_X1_draft : ax_nm yX1_draft 2 := ⟨by decide +kernel, by decide +kernel, by decide +kernel⟩
theorem nm_J22_valueOf : ax_nm yJ22_valueOf 1 := ⟨by decide +kernel, by decide +kernel, by decide +kernel⟩
theorem nm_J4_addLast : ax_nm yJ4_addLast 1 := ⟨by decide +kernel, by decide +kernel, by decide +kernel⟩
theorem mk_37 (E : ax_EN G l) : ax_mk G "KernelGym$Test" 37 8 [.null, .null, .int 0, .int 0, .int 0, .int 0, .int 0, .int 0] := ⟨_, en_c E (k := 37) rfl, rfl, rfl, in_X27, q2661, q178, tyX27, fun j hj => ⟨tyX27_ok j hj, ax_dfs [.null, .null, .int 0, .int 0, .int 0, .int 0, .int 0, .int 0] tyX27 8 rfl j hj⟩⟩
theorem nm_X1_taken : ax_nm yX1_taken 1 := ⟨by decide +kernel, by decide +kernel, by decide +kernel⟩
theorem nm_X27_init : ax_nm yX27_init 6 := ⟨by decide +kernel, by decide +kernel, by decide +kernel⟩
theorem nm_J4_removeFirst : ax_nm yJ4_removeFirst 0 := ⟨by decide +kernel, by decide +kernel, by decide +kernel⟩
theorem cs_186 (E : ax_EN G l) : ax_cas G "java/lang/Intege\x72" [5] := (ax_cas_self (en_c E (k := 5) rfl) rfl ax_cas_nil)
theorem nm_J22_intValue : ax_nm yJ22_intValue 0 := ⟨by decide +kernel, by decide +kernel, by decide +kernel⟩
theorem nm_X27_make : ax_nm yX27_make 1 := ⟨by decide +kernel, by decide +kernel, by decide +kernel⟩
theorem fe_187 (E : ax_EN G l) : ax_fe G "KernelGym$Test" "result" "I" 37 6 := ⟨_, en_c E (k := 37) rfl, (Nat.le_of_ble_eq_true rfl), in_X27, rfl, rfl, Or.inl rfl⟩
theorem xn_188 : ax_nm ⟨"java/util/List", "get", "(I)Ljava/lang/Object;"⟩ 1 := ⟨by decide +kernel, by decide +kernel, by decide +kernel⟩
theorem fe_189 (E : ax_EN G l) : ax_fe G "KernelGym$5" "val$words" "I" 20 0 := ⟨_, en_c E (k := 20) rfl, (Nat.le_of_ble_eq_true rfl), in_X10, rfl, rfl, Or.inl rfl⟩
theorem xo_190 : "KernelGym$Pass" ≠ "java/lang/invoke/MethodHandle" ∧ "KernelGym$Pass" ≠ "java/lang/invoke/VarHandle" ∧ (parseMethodDescriptor "(II)V").map (fun d => d.parameters.length) = some 2 := ⟨by decide +kernel, by decide +kernel, by decide +kernel⟩
theorem fe_191 (E : ax_EN G l) : ax_fe G "KernelGym$5" "this$0" "LKernelGym;" 20 1 := ⟨_, en_c E (k := 20) rfl, (Nat.le_of_ble_eq_true rfl), in_X10, rfl, rfl, Or.inl rfl⟩
theorem fp_192 (E : ax_EN G l) : ax_fp G (.object "KernelGym") true RX10 20 1 := ⟨_, en_c E (k := 20) rfl, tyX10_ok 1 (Nat.le_of_ble_eq_true rfl), rfl, fun _ => rfl⟩
theorem fp_193 (E : ax_EN G l) : ax_fp G (.int) true RX10 20 0 := ⟨_, en_c E (k := 20) rfl, tyX10_ok 0 (Nat.le_of_ble_eq_true rfl), rfl, fun _ => rfl⟩
theorem nm_X4_init : ax_nm yX4_init 0 := ⟨by decide +kernel, by decide +kernel, by decide +kernel⟩
theorem fe_194 (E : ax_EN G l) : ax_fe G "KernelGym$6" "val$address" "I" 21 0 := ⟨_, en_c E (k := 21) rfl, (Nat.le_of_ble_eq_true rfl), in_X11, rfl, rfl, Or.inl rfl⟩
theorem fe_195 (E : ax_EN G l) : ax_fe G "KernelGym$6" "val$operand" "LKernelGym$Operand;" 21 1 := ⟨_, en_c E (k := 21) rfl, (Nat.le_of_ble_eq_true rfl), in_X11, rfl, rfl, Or.inl rfl⟩
theorem xo_196 : "KernelGym$Pass" ≠ "java/lang/invoke/MethodHandle" ∧ "KernelGym$Pass" ≠ "java/lang/invoke/VarHandle" ∧ (parseMethodDescriptor "(LKernelGym$Operand;LKernelGym$Use;I)I").map (fun d => d.parameters.length) = some 3 := ⟨by decide +kernel, by decide +kernel, by decide +kernel⟩
theorem xo_197 : "KernelGym$Pass" ≠ "java/lang/invoke/MethodHandle" ∧ "KernelGym$Pass" ≠ "java/lang/invoke/VarHandle" ∧ (parseMethodDescriptor "(II)V").map (fun d => d.parameters.length) = some 2 := ⟨by decide +kernel, by decide +kernel, by decide +kernel⟩
theorem fe_198 (E : ax_EN G l) : ax_fe G "KernelGym$6" "this$0" "LKernelGym;" 21 2 := ⟨_, en_c E (k := 21) rfl, (Nat.le_of_ble_eq_true rfl), in_X11, rfl, rfl, Or.inl rfl⟩
theorem fp_199 (E : ax_EN G l) : ax_fp G (.object "KernelGym") true RX11 21 2 := ⟨_, en_c E (k := 21) rfl, tyX11_ok 2 (Nat.le_of_ble_eq_true rfl), rfl, fun _ => rfl⟩
theorem fp_200 (E : ax_EN G l) : ax_fp G (.int) true RX11 21 0 := ⟨_, en_c E (k := 21) rfl, tyX11_ok 0 (Nat.le_of_ble_eq_true rfl), rfl, fun _ => rfl⟩
theorem fp_201 (E : ax_EN G l) : ax_fp G (.object "KernelGym$Operand") true RX11 21 1 := ⟨_, en_c E (k := 21) rfl, tyX11_ok 1 (Nat.le_of_ble_eq_true rfl), rfl, fun _ => rfl⟩
theorem fe_202 (E : ax_EN G l) : ax_fe G "KernelGym$7" "val$macro" "I" 22 0 := ⟨_, en_c E (k := 22) rfl, (Nat.le_of_ble_eq_true rfl), in_X12, rfl, rfl, Or.inl rfl⟩
theorem xo_203 : "KernelGym$Pass" ≠ "java/lang/invoke/MethodHandle" ∧ "KernelGym$Pass" ≠ "java/lang/invoke/VarHandle" ∧ (parseMethodDescriptor "(II)I").map (fun d => d.parameters.length) = some 2 := ⟨by decide +kernel, by decide +kernel, by decide +kernel⟩
theorem fe_204 (E : ax_EN G l) : ax_fe G "KernelGym$7" "this$0" "LKernelGym;" 22 1 := ⟨_, en_c E (k := 22) rfl, (Nat.le_of_ble_eq_true rfl), in_X12, rfl, rfl, Or.inl rfl⟩
theorem fp_205 (E : ax_EN G l) : ax_fp G (.object "KernelGym") true RX12 22 1 := ⟨_, en_c E (k := 22) rfl, tyX12_ok 1 (Nat.le_of_ble_eq_true rfl), rfl, fun _ => rfl⟩
theorem fp_206 (E : ax_EN G l) : ax_fp G (.int) true RX12 22 0 := ⟨_, en_c E (k := 22) rfl, tyX12_ok 0 (Nat.le_of_ble_eq_true rfl), rfl, fun _ => rfl⟩
theorem fe_207 (E : ax_EN G l) : ax_fe G "KernelGym$8" "this$0" "LKernelGym;" 23 0 := ⟨_, en_c E (k := 23) rfl, (Nat.le_of_ble_eq_true rfl), in_X13, rfl, rfl, Or.inl rfl⟩
theorem fp_208 (E : ax_EN G l) : ax_fp G (.object "KernelGym") true RX13 23 0 := ⟨_, en_c E (k := 23) rfl, tyX13_ok 0 (Nat.le_of_ble_eq_true rfl), rfl, fun _ => rfl⟩
theorem fe_209 (E : ax_EN G l) : ax_fe G "KernelGym$9" "val$macro" "I" 24 0 := ⟨_, en_c E (k := 24) rfl, (Nat.le_of_ble_eq_true rfl), in_X14, rfl, rfl, Or.inl rfl⟩
theorem fe_210 (E : ax_EN G l) : ax_fe G "KernelGym$9" "val$first" "LKernelGym$Operand;" 24 1 := ⟨_, en_c E (k := 24) rfl, (Nat.le_of_ble_eq_true rfl), in_X14, rfl, rfl, Or.inl rfl⟩
theorem fe_211 (E : ax_EN G l) : ax_fe G "KernelGym$9" "val$second" "LKernelGym$Operand;" 24 2 := ⟨_, en_c E (k := 24) rfl, (Nat.le_of_ble_eq_true rfl), in_X14, rfl, rfl, Or.inl rfl⟩
theorem xo_212 : "KernelGym$Pass" ≠ "java/lang/invoke/MethodHandle" ∧ "KernelGym$Pass" ≠ "java/lang/invoke/VarHandle" ∧ (parseMethodDescriptor "(ILKernelGym$Operand;LKernelGym$Operand;LKernelGym$Use;I)V").map (fun d => d.parameters.length) = some 5 := ⟨by decide +kernel, by decide +kernel, by decide +kernel⟩
theorem fe_213 (E : ax_EN G l) : ax_fe G "KernelGym$9" "this$0" "LKernelGym;" 24 3 := ⟨_, en_c E (k := 24) rfl, (Nat.le_of_ble_eq_true rfl), in_X14, rfl, rfl, Or.inl rfl⟩
theorem fp_214 (E : ax_EN G l) : ax_fp G (.object "KernelGym") true RX14 24 3 := ⟨_, en_c E (k := 24) rfl, tyX14_ok 3 (Nat.le_of_ble_eq_true rfl), rfl, fun _ => rfl⟩
theorem fp_215 (E : ax_EN G l) : ax_fp G (.int) true RX14 24 0 := ⟨_, en_c E (k := 24) rfl, tyX14_ok 0 (Nat.le_of_ble_eq_true rfl), rfl, fun _ => rfl⟩
theorem fp_216 (E : ax_EN G l) : ax_fp G (.object "KernelGym$Operand") true RX14 24 1 := ⟨_, en_c E (k := 24) rfl, tyX14_ok 1 (Nat.le_of_ble_eq_true rfl), rfl, fun _ => rfl⟩
theorem fp_217 (E : ax_EN G l) : ax_fp G (.object "KernelGym$Operand") true RX14 24 2 := ⟨_, en_c E (k := 24) rfl, tyX14_ok 2 (Nat.le_of_ble_eq_true rfl), rfl, fun _ => rfl⟩
theorem fe_218 (E : ax_EN G l) : ax_fe G "KernelGym$Assembly" "this$0" "LKernelGym;" 25 6 := ⟨_, en_c E (k := 25) rfl, (Nat.le_of_ble_eq_true rfl), in_X15, rfl, rfl, Or.inl rfl⟩
theorem fp_219 (E : ax_EN G l) : ax_fp G (.object "KernelGym") true RX15 25 6 := ⟨_, en_c E (k := 25) rfl, tyX15_ok 6 (Nat.le_of_ble_eq_true rfl), rfl, fun _ => rfl⟩
theorem fe_220 (E : ax_EN G l) : ax_fe G "KernelGym$Assembly" "labels" "[I" 25 0 := ⟨_, en_c E (k := 25) rfl, (Nat.le_of_ble_eq_true rfl), in_X15, rfl, rfl, Or.inl rfl⟩
theorem fp_221 (E : ax_EN G l) : ax_fp G (.array (.int)) true RX15 25 0 := ⟨_, en_c E (k := 25) rfl, tyX15_ok 0 (Nat.le_of_ble_eq_true rfl), rfl, fun _ => rfl⟩
theorem mk_26 (E : ax_EN G l) : ax_mk G "KernelGym$Use" 26 4 [.int 0, .null, .int 0, .int 0] := ⟨_, en_c E (k := 26) rfl, rfl, rfl, in_X16, q391, q149, tyX16, fun j hj => ⟨tyX16_ok j hj, ax_dfs [.int 0, .null, .int 0, .int 0] tyX16 4 rfl j hj⟩⟩
theorem nm_X16_init : ax_nm yX16_init 1 := ⟨by decide +kernel, by decide +kernel, by decide +kernel⟩
theorem fe_223 (E : ax_EN G l) : ax_fe G "KernelGym$Assembly" "source" "LKernelGym$Use;" 25 1 := ⟨_, en_c E (k := 25) rfl, (Nat.le_of_ble_eq_true rfl), in_X15, rfl, rfl, Or.inl rfl⟩
theorem fp_224 (E : ax_EN G l) : ax_fp G (.object "KernelGym$Use") true RX15 25 1 := ⟨_, en_c E (k := 25) rfl, tyX15_ok 1 (Nat.le_of_ble_eq_true rfl), rfl, fun _ => rfl⟩
theorem fe_225 (E : ax_EN G l) : ax_fe G "KernelGym$Assembly" "uses" "Ljava/util/List;" 25 2 := ⟨_, en_c E (k := 25) rfl, (Nat.le_of_ble_eq_true rfl), in_X15, rfl, rfl, Or.inl rfl⟩
theorem fp_226 (E : ax_EN G l) : ax_fp G (.object "java/util/List") true RX15 25 2 := ⟨_, en_c E (k := 25) rfl, tyX15_ok 2 (Nat.le_of_ble_eq_true rfl), rfl, fun _ => rfl⟩
theorem fp_227 (E : ax_EN G l) : ax_fp G (.array (.int)) true RX15 25 3 := ⟨_, en_c E (k := 25) rfl, tyX15_ok 3 (Nat.le_of_ble_eq_true rfl), rfl, fun _ => rfl⟩
theorem mk_27 (E : ax_EN G l) : ax_mk G "KernelGym$Assembly$1" 27 10 [.null, .int 0, .null, .null, .null, .int 0, .int 0, .null, .null, .null] := ⟨_, en_c E (k := 27) rfl, rfl, rfl, in_X18, q416, q151, tyX18, fun j hj => ⟨tyX18_ok j hj, ax_dfs [.null, .int 0, .null, .null, .null, .int 0, .int 0, .null, .null, .null] tyX18 10 rfl j hj⟩⟩
theorem nm_X18_init : ax_nm yX18_init 2 := ⟨by decide +kernel, by decide +kernel, by decide +kernel⟩
theorem xo_229 : "KernelGym$Pass" ≠ "java/lang/invoke/MethodHandle" ∧ "KernelGym$Pass" ≠ "java/lang/invoke/VarHandle" ∧ (parseMethodDescriptor "(IILKernelGym$Use;)V").map (fun d => d.parameters.length) = some 3 := ⟨by decide +kernel, by decide +kernel, by decide +kernel⟩
theorem fe_230 (E : ax_EN G l) : ax_fe G "KernelGym$Pass" "sizes" "[I" 30 0 := ⟨_, en_c E (k := 30) rfl, (Nat.le_of_ble_eq_true rfl), in_X20, rfl, rfl, Or.inl rfl⟩
theorem fe_231 (E : ax_EN G l) : ax_fe G "KernelGym$Pass" "sizes" "[I" 27 0 := ⟨_, en_c E (k := 27) rfl, (Nat.le_of_ble_eq_true rfl), in_X18, rfl, rfl, Or.inl rfl⟩
theorem fe_232 (E : ax_EN G l) : ax_fe G "KernelGym$Assembly" "behind" "I" 25 4 := ⟨_, en_c E (k := 25) rfl, (Nat.le_of_ble_eq_true rfl), in_X15, rfl, rfl, Or.inl rfl⟩
theorem fp_233 (E : ax_EN G l) : ax_fp G (.int) true RX15 25 4 := ⟨_, en_c E (k := 25) rfl, tyX15_ok 4 (Nat.le_of_ble_eq_true rfl), rfl, fun _ => rfl⟩
theorem fp_234 (E : ax_EN G l) : ax_fp G (.int) true RX15 25 5 := ⟨_, en_c E (k := 25) rfl, tyX15_ok 5 (Nat.le_of_ble_eq_true rfl), rfl, fun _ => rfl⟩
theorem nm_X15_makeWords : ax_nm yX15_makeWords 0 := ⟨by decide +kernel, by decide +kernel, by decide +kernel⟩
theorem fe_235 (E : ax_EN G l) : ax_fe G "KernelGym$Use" "labels" "[I" 26 1 := ⟨_, en_c E (k := 26) rfl, (Nat.le_of_ble_eq_true rfl), in_X16, rfl, rfl, Or.inl rfl⟩
theorem nm_X15_rowOf : ax_nm yX15_rowOf 2 := ⟨by decide +kernel, by decide +kernel, by decide +kernel⟩
theorem nm_X1_check : ax_nm yX1_check 3 := ⟨by decide +kernel, by decide +kernel, by decide +kernel⟩
theorem mk_30 (E : ax_EN G l) : ax_mk G "KernelGym$Assembly$2" 30 9 [.null, .int 0, .null, .null, .null, .int 0, .int 0, .null, .null] := ⟨_, en_c E (k := 30) rfl, rfl, rfl, in_X20, q1141, q163, tyX20, fun j hj => ⟨tyX20_ok j hj, ax_dfs [.null, .int 0, .null, .null, .null, .int 0, .int 0, .null, .null] tyX20 9 rfl j hj⟩⟩
theorem nm_X20_init : ax_nm yX20_init 1 := ⟨by decide +kernel, by decide +kernel, by decide +kernel⟩
theorem fp_237 (E : ax_EN G l) : ax_fp G (.array (.int)) true RX16 26 1 := ⟨_, en_c E (k := 26) rfl, tyX16_ok 1 (Nat.le_of_ble_eq_true rfl), rfl, fun _ => rfl⟩
theorem fe_238 (E : ax_EN G l) : ax_fe G "KernelGym$Use" "macro" "I" 26 0 := ⟨_, en_c E (k := 26) rfl, (Nat.le_of_ble_eq_true rfl), in_X16, rfl, rfl, Or.inl rfl⟩
theorem fp_239 (E : ax_EN G l) : ax_fp G (.int) true RX16 26 0 := ⟨_, en_c E (k := 26) rfl, tyX16_ok 0 (Nat.le_of_ble_eq_true rfl), rfl, fun _ => rfl⟩
theorem fe_240 (E : ax_EN G l) : ax_fe G "KernelGym$Pass" "this$0" "LKernelGym;" 30 7 := ⟨_, en_c E (k := 30) rfl, (Nat.le_of_ble_eq_true rfl), in_X20, rfl, rfl, Or.inl rfl⟩
theorem fe_241 (E : ax_EN G l) : ax_fe G "KernelGym$Pass" "this$0" "LKernelGym;" 27 7 := ⟨_, en_c E (k := 27) rfl, (Nat.le_of_ble_eq_true rfl), in_X18, rfl, rfl, Or.inl rfl⟩
theorem fp_242 (E : ax_EN G l) : ax_fp G (.object "KernelGym") true RX17 30 7 := ⟨_, en_c E (k := 30) rfl, tyX20_ok 7 (Nat.le_of_ble_eq_true rfl), rfl, fun _ => rfl⟩
theorem fp_243 (E : ax_EN G l) : ax_fp G (.object "KernelGym") true RX17 27 7 := ⟨_, en_c E (k := 27) rfl, tyX18_ok 7 (Nat.le_of_ble_eq_true rfl), rfl, fun _ => rfl⟩
theorem fp_244 (E : ax_EN G l) : ax_fp G (.array (.int)) true RX17 30 0 := ⟨_, en_c E (k := 30) rfl, tyX20_ok 0 (Nat.le_of_ble_eq_true rfl), rfl, fun _ => rfl⟩
theorem fp_245 (E : ax_EN G l) : ax_fp G (.array (.int)) true RX17 27 0 := ⟨_, en_c E (k := 27) rfl, tyX18_ok 0 (Nat.le_of_ble_eq_true rfl), rfl, fun _ => rfl⟩
theorem fe_246 (E : ax_EN G l) : ax_fe G "KernelGym$Pass" "begins" "[I" 30 2 := ⟨_, en_c E (k := 30) rfl, (Nat.le_of_ble_eq_true rfl), in_X20, rfl, rfl, Or.inl rfl⟩
theorem fe_247 (E : ax_EN G l) : ax_fe G "KernelGym$Pass" "begins" "[I" 27 2 := ⟨_, en_c E (k := 27) rfl, (Nat.le_of_ble_eq_true rfl), in_X18, rfl, rfl, Or.inl rfl⟩
theorem fp_248 (E : ax_EN G l) : ax_fp G (.array (.int)) true RX17 30 2 := ⟨_, en_c E (k := 30) rfl, tyX20_ok 2 (Nat.le_of_ble_eq_true rfl), rfl, fun _ => rfl⟩
theorem fp_249 (E : ax_EN G l) : ax_fp G (.array (.int)) true RX17 27 2 := ⟨_, en_c E (k := 27) rfl, tyX18_ok 2 (Nat.le_of_ble_eq_true rfl), rfl, fun _ => rfl⟩
theorem fe_250 (E : ax_EN G l) : ax_fe G "KernelGym$Pass" "ends" "[I" 30 3 := ⟨_, en_c E (k := 30) rfl, (Nat.le_of_ble_eq_true rfl), in_X20, rfl, rfl, Or.inl rfl⟩
theorem fe_251 (E : ax_EN G l) : ax_fe G "KernelGym$Pass" "ends" "[I" 27 3 := ⟨_, en_c E (k := 27) rfl, (Nat.le_of_ble_eq_true rfl), in_X18, rfl, rfl, Or.inl rfl⟩
theorem fp_252 (E : ax_EN G l) : ax_fp G (.array (.int)) true RX17 30 3 := ⟨_, en_c E (k := 30) rfl, tyX20_ok 3 (Nat.le_of_ble_eq_true rfl), rfl, fun _ => rfl⟩
theorem fp_253 (E : ax_EN G l) : ax_fp G (.array (.int)) true RX17 27 3 := ⟨_, en_c E (k := 27) rfl, tyX18_ok 3 (Nat.le_of_ble_eq_true rfl), rfl, fun _ => rfl⟩
theorem fe_254 (E : ax_EN G l) : ax_fe G "KernelGym$Pass" "used" "[Z" 30 4 := ⟨_, en_c E (k := 30) rfl, (Nat.le_of_ble_eq_true rfl), in_X20, rfl, rfl, Or.inl rfl⟩
theorem fe_255 (E : ax_EN G l) : ax_fe G "KernelGym$Pass" "used" "[Z" 27 4 := ⟨_, en_c E (k := 27) rfl, (Nat.le_of_ble_eq_true rfl), in_X18, rfl, rfl, Or.inl rfl⟩
theorem fp_256 (E : ax_EN G l) : ax_fp G (.array (.boolean)) true RX17 30 4 := ⟨_, en_c E (k := 30) rfl, tyX20_ok 4 (Nat.le_of_ble_eq_true rfl), rfl, fun _ => rfl⟩
theorem fp_257 (E : ax_EN G l) : ax_fp G (.array (.boolean)) true RX17 27 4 := ⟨_, en_c E (k := 27) rfl, tyX18_ok 4 (Nat.le_of_ble_eq_true rfl), rfl, fun _ => rfl⟩
theorem fe_258 (E : ax_EN G l) : ax_fe G "KernelGym$Pass" "gone" "I" 30 5 := ⟨_, en_c E (k := 30) rfl, (Nat.le_of_ble_eq_true rfl), in_X20, rfl, rfl, Or.inl rfl⟩
theorem fe_259 (E : ax_EN G l) : ax_fe G "KernelGym$Pass" "gone" "I" 27 5 := ⟨_, en_c E (k := 27) rfl, (Nat.le_of_ble_eq_true rfl), in_X18, rfl, rfl, Or.inl rfl⟩
theorem fp_260 {own : String} (E : ax_EN G l) : ax_fp G (.int) false own 30 5 := ⟨_, en_c E (k := 30) rfl, tyX20_ok 5 (Nat.le_of_ble_eq_true rfl), rfl, fun h => by cases h⟩
theorem fp_261 {own : String} (E : ax_EN G l) : ax_fp G (.int) false own 27 5 := ⟨_, en_c E (k := 27) rfl, tyX18_ok 5 (Nat.le_of_ble_eq_true rfl), rfl, fun h => by cases h⟩
theorem cs_262 (E : ax_EN G l) : ax_cas G "KernelGym$Line" [20, 21, 22, 23, 24, 39, 40, 42, 43] := (ax_cas_cons (en_c E (k := 20) rfl) q3471 (ax_cas_cons (en_c E (k := 21) rfl) q3472 (ax_cas_cons (en_c E (k := 22) rfl) q3473 (ax_cas_cons (en_c E (k := 23) rfl) q3474 (ax_cas_cons (en_c E (k := 24) rfl) q3475 (ax_cas_cons (en_c E (k := 39) rfl) q3467 (ax_cas_cons (en_c E (k := 40) rfl) q3468 (ax_cas_cons (en_c E (k := 42) rfl) q3469 (ax_cas_cons (en_c E (k := 43) rfl) q3470 ax_cas_nil)))))))))
theorem xo_263 : "KernelGym$Line" ≠ "java/lang/invoke/MethodHandle" ∧ "KernelGym$Line" ≠ "java/lang/invoke/VarHandle" ∧ (parseMethodDescriptor "(LKernelGym$Pass;LKernelGym$Use;I)I").map (fun d => d.parameters.length) = some 3 := ⟨by decide +kernel, by decide +kernel, by decide +kernel⟩
theorem xo_264 : "KernelGym$Line" ≠ "java/lang/invoke/MethodHandle" ∧ "KernelGym$Line" ≠ "java/lang/invoke/VarHandle" ∧ (parseMethodDescriptor "()Z").map (fun d => d.parameters.length) = some 0 := ⟨by decide +kernel, by decide +kernel, by decide +kernel⟩
theorem xo_265 : "KernelGym$Line" ≠ "java/lang/invoke/MethodHandle" ∧ "KernelGym$Line" ≠ "java/lang/invoke/VarHandle" ∧ (parseMethodDescriptor "()Z").map (fun d => d.parameters.length) = some 0 := ⟨by decide +kernel, by decide +kernel, by decide +kernel⟩
theorem fe_266 (E : ax_EN G l) : ax_fe G "KernelGym$Pass" "many" "I" 30 6 := ⟨_, en_c E (k := 30) rfl, (Nat.le_of_ble_eq_true rfl), in_X20, rfl, rfl, Or.inl rfl⟩
theorem fe_267 (E : ax_EN G l) : ax_fe G "KernelGym$Pass" "many" "I" 27 6 := ⟨_, en_c E (k := 27) rfl, (Nat.le_of_ble_eq_true rfl), in_X18, rfl, rfl, Or.inl rfl⟩
theorem fp_268 {own : String} (E : ax_EN G l) : ax_fp G (.int) false own 30 6 := ⟨_, en_c E (k := 30) rfl, tyX20_ok 6 (Nat.le_of_ble_eq_true rfl), rfl, fun h => by cases h⟩
theorem fp_269 {own : String} (E : ax_EN G l) : ax_fp G (.int) false own 27 6 := ⟨_, en_c E (k := 27) rfl, tyX18_ok 6 (Nat.le_of_ble_eq_true rfl), rfl, fun h => by cases h⟩
theorem xo_270 : "KernelGym$Pass" ≠ "java/lang/invoke/MethodHandle" ∧ "KernelGym$Pass" ≠ "java/lang/invoke/VarHandle" ∧ (parseMethodDescriptor "(II)LKernelGym$Use;").map (fun d => d.parameters.length) = some 2 := ⟨by decide +kernel, by decide +kernel, by decide +kernel⟩
theorem fe_271 (E : ax_EN G l) : ax_fe G "KernelGym$Use" "first" "I" 26 2 := ⟨_, en_c E (k := 26) rfl, (Nat.le_of_ble_eq_true rfl), in_X16, rfl, rfl, Or.inl rfl⟩
theorem fp_272 {own : String} (E : ax_EN G l) : ax_fp G (.int) false own 26 2 := ⟨_, en_c E (k := 26) rfl, tyX16_ok 2 (Nat.le_of_ble_eq_true rfl), rfl, fun h => by cases h⟩
theorem fe_273 (E : ax_EN G l) : ax_fe G "KernelGym$Use" "second" "I" 26 3 := ⟨_, en_c E (k := 26) rfl, (Nat.le_of_ble_eq_true rfl), in_X16, rfl, rfl, Or.inl rfl⟩
theorem fp_274 {own : String} (E : ax_EN G l) : ax_fp G (.int) false own 26 3 := ⟨_, en_c E (k := 26) rfl, tyX16_ok 3 (Nat.le_of_ble_eq_true rfl), rfl, fun h => by cases h⟩
theorem fe_275 (E : ax_EN G l) : ax_fe G "KernelGym$Assembly$1" "this$1" "LKernelGym$Assembly;" 27 9 := ⟨_, en_c E (k := 27) rfl, (Nat.le_of_ble_eq_true rfl), in_X18, rfl, rfl, Or.inl rfl⟩
theorem fp_276 (E : ax_EN G l) : ax_fp G (.object "KernelGym$Assembly") true RX18 27 9 := ⟨_, en_c E (k := 27) rfl, tyX18_ok 9 (Nat.le_of_ble_eq_true rfl), rfl, fun _ => rfl⟩
theorem fe_277 (E : ax_EN G l) : ax_fe G "KernelGym$Assembly$1" "val$this$0" "LKernelGym;" 27 8 := ⟨_, en_c E (k := 27) rfl, (Nat.le_of_ble_eq_true rfl), in_X18, rfl, rfl, Or.inl rfl⟩
theorem fp_278 (E : ax_EN G l) : ax_fp G (.object "KernelGym") true RX18 27 8 := ⟨_, en_c E (k := 27) rfl, tyX18_ok 8 (Nat.le_of_ble_eq_true rfl), rfl, fun _ => rfl⟩
theorem nm_X17_init : ax_nm yX17_init 1 := ⟨by decide +kernel, by decide +kernel, by decide +kernel⟩
theorem fe_279 (E : ax_EN G l) : ax_fe G "KernelGym$Assembly$1" "section" "I" 30 1 := ⟨_, en_c E (k := 30) rfl, (Nat.le_of_ble_eq_true rfl), in_X20, rfl, rfl, Or.inr q434⟩
theorem fe_280 (E : ax_EN G l) : ax_fe G "KernelGym$Assembly$1" "section" "I" 27 1 := ⟨_, en_c E (k := 27) rfl, (Nat.le_of_ble_eq_true rfl), in_X18, rfl, rfl, Or.inr q434⟩
theorem fe_281 (E : ax_EN G l) : ax_fe G "KernelGym$Assembly$1" "sizes" "[I" 30 0 := ⟨_, en_c E (k := 30) rfl, (Nat.le_of_ble_eq_true rfl), in_X20, rfl, rfl, Or.inr q429⟩
theorem fe_282 (E : ax_EN G l) : ax_fe G "KernelGym$Assembly$1" "sizes" "[I" 27 0 := ⟨_, en_c E (k := 27) rfl, (Nat.le_of_ble_eq_true rfl), in_X18, rfl, rfl, Or.inr q429⟩
theorem fe_283 (E : ax_EN G l) : ax_fe G "KernelGym$Wrong" "erro\x72" "I" 28 0 := ⟨_, en_c E (k := 28) rfl, (Nat.le_of_ble_eq_true rfl), in_E28, rfl, rfl, Or.inl rfl⟩
theorem fp_284 (E : ax_EN G l) : ax_fp G (.int) true RX19 28 0 := ⟨_, en_c E (k := 28) rfl, tyE28_ok 0 (Nat.le_of_ble_eq_true rfl), rfl, fun _ => rfl⟩
theorem fe_285 (E : ax_EN G l) : ax_fe G "KernelGym$Wrong" "line" "I" 28 1 := ⟨_, en_c E (k := 28) rfl, (Nat.le_of_ble_eq_true rfl), in_E28, rfl, rfl, Or.inl rfl⟩
theorem fp_286 (E : ax_EN G l) : ax_fp G (.int) true RX19 28 1 := ⟨_, en_c E (k := 28) rfl, tyE28_ok 1 (Nat.le_of_ble_eq_true rfl), rfl, fun _ => rfl⟩
theorem fp_287 (E : ax_EN G l) : ax_fp G (.array (.int)) true RX2 29 0 := ⟨_, en_c E (k := 29) rfl, tyX2_ok 0 (Nat.le_of_ble_eq_true rfl), rfl, fun _ => rfl⟩
theorem fp_288 (E : ax_EN G l) : ax_fp G (.object "java/util/LinkedList") true RX2 29 1 := ⟨_, en_c E (k := 29) rfl, tyX2_ok 1 (Nat.le_of_ble_eq_true rfl), rfl, fun _ => rfl⟩
theorem mk_16 (E : ax_EN G l) : ax_mk G "java/util/ArrayDeque" 16 3 [.null, .int 0, .int 0] := ⟨_, en_c E (k := 16) rfl, rfl, rfl, in_J5, q257, q125, tyJ5, fun j hj => ⟨tyJ5_ok j hj, ax_dfs [.null, .int 0, .int 0] tyJ5 3 rfl j hj⟩⟩
theorem nm_J5_init : ax_nm yJ5_init 0 := ⟨by decide +kernel, by decide +kernel, by decide +kernel⟩
theorem fp_290 (E : ax_EN G l) : ax_fp G (.object "java/util/ArrayDeque") true RX2 29 2 := ⟨_, en_c E (k := 29) rfl, tyX2_ok 2 (Nat.le_of_ble_eq_true rfl), rfl, fun _ => rfl⟩
theorem fe_291 (E : ax_EN G l) : ax_fe G "KernelGym$Machine" "image" "[I" 29 5 := ⟨_, en_c E (k := 29) rfl, (Nat.le_of_ble_eq_true rfl), in_X2, rfl, rfl, Or.inl rfl⟩
theorem fp_292 {own : String} (E : ax_EN G l) : ax_fp G (.array (.int)) false own 29 5 := ⟨_, en_c E (k := 29) rfl, tyX2_ok 5 (Nat.le_of_ble_eq_true rfl), rfl, fun h => by cases h⟩
theorem fe_293 (E : ax_EN G l) : ax_fe G "KernelGym$Machine" "diskAtStart" "[I" 29 6 := ⟨_, en_c E (k := 29) rfl, (Nat.le_of_ble_eq_true rfl), in_X2, rfl, rfl, Or.inl rfl⟩
theorem fp_294 (E : ax_EN G l) : ax_fp G (.array (.int)) true RX2 29 6 := ⟨_, en_c E (k := 29) rfl, tyX2_ok 6 (Nat.le_of_ble_eq_true rfl), rfl, fun _ => rfl⟩
theorem fe_295 (E : ax_EN G l) : ax_fe G "KernelGym$Machine" "numbers" "[I" 29 7 := ⟨_, en_c E (k := 29) rfl, (Nat.le_of_ble_eq_true rfl), in_X2, rfl, rfl, Or.inl rfl⟩
theorem fp_296 (E : ax_EN G l) : ax_fp G (.array (.int)) true RX2 29 7 := ⟨_, en_c E (k := 29) rfl, tyX2_ok 7 (Nat.le_of_ble_eq_true rfl), rfl, fun _ => rfl⟩
theorem fe_297 (E : ax_EN G l) : ax_fe G "KernelGym$Machine" "drafts" "[[I" 29 8 := ⟨_, en_c E (k := 29) rfl, (Nat.le_of_ble_eq_true rfl), in_X2, rfl, rfl, Or.inl rfl⟩
theorem fp_298 {own : String} (E : ax_EN G l) : ax_fp G (.array (.array (.int))) false own 29 8 := ⟨_, en_c E (k := 29) rfl, tyX2_ok 8 (Nat.le_of_ble_eq_true rfl), rfl, fun h => by cases h⟩
theorem fe_299 (E : ax_EN G l) : ax_fe G "KernelGym$Machine" "keeps" "Z" 29 3 := ⟨_, en_c E (k := 29) rfl, (Nat.le_of_ble_eq_true rfl), in_X2, rfl, rfl, Or.inl rfl⟩
theorem fp_300 (E : ax_EN G l) : ax_fp G (.boolean) true RX2 29 3 := ⟨_, en_c E (k := 29) rfl, tyX2_ok 3 (Nat.le_of_ble_eq_true rfl), rfl, fun _ => rfl⟩
theorem nm_X2_added : ax_nm yX2_added 3 := ⟨by decide +kernel, by decide +kernel, by decide +kernel⟩
theorem nm_X2_joined : ax_nm yX2_joined 2 := ⟨by decide +kernel, by decide +kernel, by decide +kernel⟩
theorem mk_12 (E : ax_EN G l) : ax_mk G "java/util/BitSet" 12 3 [.null, .int 0, .int 0] := ⟨_, en_c E (k := 12) rfl, rfl, rfl, in_J31, q1290, q176, tyJ31, fun j hj => ⟨tyJ31_ok j hj, ax_dfs [.null, .int 0, .int 0] tyJ31 3 rfl j hj⟩⟩
theorem nm_J31_init : ax_nm yJ31_init 1 := ⟨by decide +kernel, by decide +kernel, by decide +kernel⟩
theorem nm_J31_set : ax_nm yJ31_set 2 := ⟨by decide +kernel, by decide +kernel, by decide +kernel⟩
theorem nm_J31_get : ax_nm yJ31_get 1 := ⟨by decide +kernel, by decide +kernel, by decide +kernel⟩
theorem nm_J31_set_2 : ax_nm yJ31_set_2 1 := ⟨by decide +kernel, by decide +kernel, by decide +kernel⟩
theorem nm_X2_mend : ax_nm yX2_mend 0 := ⟨by decide +kernel, by decide +kernel, by decide +kernel⟩
theorem nm_X2_begin : ax_nm yX2_begin 1 := ⟨by decide +kernel, by decide +kernel, by decide +kernel⟩
theorem nm_X2_logged : ax_nm yX2_logged 1 := ⟨by decide +kernel, by decide +kernel, by decide +kernel⟩
theorem nm_X1_cut : ax_nm yX1_cut 1 := ⟨by decide +kernel, by decide +kernel, by decide +kernel⟩
theorem nm_J4_clear : ax_nm yJ4_clear 0 := ⟨by decide +kernel, by decide +kernel, by decide +kernel⟩
theorem nm_J5_clear : ax_nm yJ5_clear 0 := ⟨by decide +kernel, by decide +kernel, by decide +kernel⟩
theorem mk_31 (E : ax_EN G l) : ax_mk G "KernelGym$Step" 31 2 [.null, .int 0] := ⟨_, en_c E (k := 31) rfl, rfl, rfl, in_X21, q2033, q164, tyX21, fun j hj => ⟨tyX21_ok j hj, ax_dfs [.null, .int 0] tyX21 2 rfl j hj⟩⟩
theorem nm_X21_init : ax_nm yX21_init 0 := ⟨by decide +kernel, by decide +kernel, by decide +kernel⟩
theorem fe_304 (E : ax_EN G l) : ax_fe G "KernelGym$Machine" "present" "LKernelGym$Step;" 29 4 := ⟨_, en_c E (k := 29) rfl, (Nat.le_of_ble_eq_true rfl), in_X2, rfl, rfl, Or.inl rfl⟩
theorem fp_305 {own : String} (E : ax_EN G l) : ax_fp G (.object "KernelGym$Step") false own 29 4 := ⟨_, en_c E (k := 29) rfl, tyX2_ok 4 (Nat.le_of_ble_eq_true rfl), rfl, fun h => by cases h⟩
theorem nm_J5_addLast : ax_nm yJ5_addLast 1 := ⟨by decide +kernel, by decide +kernel, by decide +kernel⟩
theorem nm_J5_removeFirst : ax_nm yJ5_removeFirst 0 := ⟨by decide +kernel, by decide +kernel, by decide +kernel⟩
theorem nm_X2_act : ax_nm yX2_act 0 := ⟨by decide +kernel, by decide +kernel, by decide +kernel⟩
theorem cs_307 (E : ax_EN G l) : ax_cas G "KernelGym$NoAddress" [33] := (ax_cas_self (en_c E (k := 33) rfl) rfl ax_cas_nil)
theorem nc_308 (E : ax_EN G l) : ax_ncs G "KernelGym$NoAddress" [28, 32, 34, 35] := (ax_ncs_cons (en_c E (k := 28) rfl) (en_n E 32 rfl) (ax_ncs_cons (en_c E (k := 32) rfl) (en_n E 16 rfl) (ax_ncs_cons (en_c E (k := 34) rfl) (en_n E 8 rfl) (ax_ncs_cons (en_c E (k := 35) rfl) (en_n E 24 rfl) ax_ncs_nil))))
theorem nm_X2_stop : ax_nm yX2_stop 1 := ⟨by decide +kernel, by decide +kernel, by decide +kernel⟩
theorem cs_309 (E : ax_EN G l) : ax_cas G "KernelGym$NoStack" [32] := (ax_cas_self (en_c E (k := 32) rfl) rfl ax_cas_nil)
theorem nc_310 (E : ax_EN G l) : ax_ncs G "KernelGym$NoStack" [28, 33, 34, 35] := (ax_ncs_cons (en_c E (k := 28) rfl) (en_n E 34 rfl) (ax_ncs_cons (en_c E (k := 33) rfl) (en_n E 1 rfl) (ax_ncs_cons (en_c E (k := 34) rfl) (en_n E 9 rfl) (ax_ncs_cons (en_c E (k := 35) rfl) (en_n E 26 rfl) ax_ncs_nil))))
theorem nm_X2_pass : ax_nm yX2_pass 0 := ⟨by decide +kernel, by decide +kernel, by decide +kernel⟩
theorem nm_X2_write : ax_nm yX2_write 0 := ⟨by decide +kernel, by decide +kernel, by decide +kernel⟩
theorem nm_X2_isWaiting : ax_nm yX2_isWaiting 0 := ⟨by decide +kernel, by decide +kernel, by decide +kernel⟩
theorem nm_X2_interrupt : ax_nm yX2_interrupt 0 := ⟨by decide +kernel, by decide +kernel, by decide +kernel⟩
theorem nm_X2_instruct : ax_nm yX2_instruct 0 := ⟨by decide +kernel, by decide +kernel, by decide +kernel⟩
theorem nm_X2_writeBlock : ax_nm yX2_writeBlock 2 := ⟨by decide +kernel, by decide +kernel, by decide +kernel⟩
theorem nm_X2_writeHead : ax_nm yX2_writeHead 1 := ⟨by decide +kernel, by decide +kernel, by decide +kernel⟩
theorem nm_X2_set : ax_nm yX2_set 2 := ⟨by decide +kernel, by decide +kernel, by decide +kernel⟩
theorem nm_X21_note : ax_nm yX21_note 2 := ⟨by decide +kernel, by decide +kernel, by decide +kernel⟩
theorem nm_X2_room : ax_nm yX2_room 1 := ⟨by decide +kernel, by decide +kernel, by decide +kernel⟩
theorem nm_X2_push : ax_nm yX2_push 1 := ⟨by decide +kernel, by decide +kernel, by decide +kernel⟩
theorem mk_32 (E : ax_EN G l) : ax_mk G "KernelGym$NoStack" 32 6 [.null] := ⟨_, en_c E (k := 32) rfl, rfl, rfl, in_E32, q2120, q166, tyE32, fun j hj => ⟨tyE32_ok j hj, ax_dfs [.null] tyE32 1 rfl j hj⟩⟩
theorem nm_X22_init : ax_nm yX22_init 1 := ⟨by decide +kernel, by decide +kernel, by decide +kernel⟩
theorem nm_X2_address : ax_nm yX2_address 1 := ⟨by decide +kernel, by decide +kernel, by decide +kernel⟩
theorem mk_34 (E : ax_EN G l) : ax_mk G "KernelGym$NoOperation" 34 6 [.null] := ⟨_, en_c E (k := 34) rfl, rfl, rfl, in_E34, q2171, q168, tyE34, fun j hj => ⟨tyE34_ok j hj, ax_dfs [.null] tyE34 1 rfl j hj⟩⟩
theorem nm_X24_init : ax_nm yX24_init 1 := ⟨by decide +kernel, by decide +kernel, by decide +kernel⟩
theorem nm_X2_reckon : ax_nm yX2_reckon 3 := ⟨by decide +kernel, by decide +kernel, by decide +kernel⟩
theorem nm_X2_move : ax_nm yX2_move 4 := ⟨by decide +kernel, by decide +kernel, by decide +kernel⟩
theorem nm_X2_serve : ax_nm yX2_serve 4 := ⟨by decide +kernel, by decide +kernel, by decide +kernel⟩
theorem mk_33 (E : ax_EN G l) : ax_mk G "KernelGym$NoAddress" 33 6 [.null] := ⟨_, en_c E (k := 33) rfl, rfl, rfl, in_E33, q2151, q167, tyE33, fun j hj => ⟨tyE33_ok j hj, ax_dfs [.null] tyE33 1 rfl j hj⟩⟩
theorem nm_X23_init : ax_nm yX23_init 1 := ⟨by decide +kernel, by decide +kernel, by decide +kernel⟩
theorem nm_X2_held : ax_nm yX2_held 1 := ⟨by decide +kernel, by decide +kernel, by decide +kernel⟩
theorem nm_X2_pull : ax_nm yX2_pull 0 := ⟨by decide +kernel, by decide +kernel, by decide +kernel⟩
theorem nm_X2_read : ax_nm yX2_read 0 := ⟨by decide +kernel, by decide +kernel, by decide +kernel⟩
theorem mk_35 (E : ax_EN G l) : ax_mk G "KernelGym$NoTape" 35 6 [.null] := ⟨_, en_c E (k := 35) rfl, rfl, rfl, in_E35, q2224, q169, tyE35, fun j hj => ⟨tyE35_ok j hj, ax_dfs [.null] tyE35 1 rfl j hj⟩⟩
theorem nm_X25_init : ax_nm yX25_init 0 := ⟨by decide +kernel, by decide +kernel, by decide +kernel⟩
theorem nm_X2_call : ax_nm yX2_call 1 := ⟨by decide +kernel, by decide +kernel, by decide +kernel⟩
theorem nm_X2_told : ax_nm yX2_told 2 := ⟨by decide +kernel, by decide +kernel, by decide +kernel⟩
theorem nm_J4_get : ax_nm yJ4_get 1 := ⟨by decide +kernel, by decide +kernel, by decide +kernel⟩
theorem cs_315 (E : ax_EN G l) : ax_cas G "KernelGym$Key" [36] := (ax_cas_self (en_c E (k := 36) rfl) rfl ax_cas_nil)
theorem fe_316 (E : ax_EN G l) : ax_fe G "KernelGym$Key" "value" "I" 36 1 := ⟨_, en_c E (k := 36) rfl, (Nat.le_of_ble_eq_true rfl), in_X26, rfl, rfl, Or.inl rfl⟩
theorem fe_317 (E : ax_EN G l) : ax_fe G "KernelGym$Key" "step" "I" 36 0 := ⟨_, en_c E (k := 36) rfl, (Nat.le_of_ble_eq_true rfl), in_X26, rfl, rfl, Or.inl rfl⟩
theorem fe_318 (E : ax_EN G l) : ax_fe G "KernelGym$Machine" "drafted" "I" 29 9 := ⟨_, en_c E (k := 29) rfl, (Nat.le_of_ble_eq_true rfl), in_X2, rfl, rfl, Or.inl rfl⟩
theorem fp_319 {own : String} (E : ax_EN G l) : ax_fp G (.int) false own 29 9 := ⟨_, en_c E (k := 29) rfl, tyX2_ok 9 (Nat.le_of_ble_eq_true rfl), rfl, fun h => by cases h⟩
theorem nm_X2_plan : ax_nm yX2_plan 1 := ⟨by decide +kernel, by decide +kernel, by decide +kernel⟩
theorem nm_X2_named : ax_nm yX2_named 1 := ⟨by decide +kernel, by decide +kernel, by decide +kernel⟩
theorem nm_X2_setEntry : ax_nm yX2_setEntry 3 := ⟨by decide +kernel, by decide +kernel, by decide +kernel⟩
theorem nm_X2_append : ax_nm yX2_append 2 := ⟨by decide +kernel, by decide +kernel, by decide +kernel⟩
theorem nm_X2_draft : ax_nm yX2_draft 1 := ⟨by decide +kernel, by decide +kernel, by decide +kernel⟩
theorem nm_X2_remove : ax_nm yX2_remove 1 := ⟨by decide +kernel, by decide +kernel, by decide +kernel⟩
theorem nm_X2_rename : ax_nm yX2_rename 3 := ⟨by decide +kernel, by decide +kernel, by decide +kernel⟩
theorem nm_X2_firstFree : ax_nm yX2_firstFree 0 := ⟨by decide +kernel, by decide +kernel, by decide +kernel⟩
theorem nm_X2_mark : ax_nm yX2_mark 2 := ⟨by decide +kernel, by decide +kernel, by decide +kernel⟩
theorem nm_J5_isEmpty : ax_nm yJ5_isEmpty 0 := ⟨by decide +kernel, by decide +kernel, by decide +kernel⟩
theorem nm_J5_removeLast : ax_nm yJ5_removeLast 0 := ⟨by decide +kernel, by decide +kernel, by decide +kernel⟩
theorem cs_320 (E : ax_EN G l) : ax_cas G "KernelGym$Step" [31] := (ax_cas_self (en_c E (k := 31) rfl) rfl ax_cas_nil)
theorem fe_321 (E : ax_EN G l) : ax_fe G "KernelGym$Step" "size" "I" 31 1 := ⟨_, en_c E (k := 31) rfl, (Nat.le_of_ble_eq_true rfl), in_X21, rfl, rfl, Or.inl rfl⟩
theorem fe_322 (E : ax_EN G l) : ax_fe G "KernelGym$Step" "row" "[I" 31 0 := ⟨_, en_c E (k := 31) rfl, (Nat.le_of_ble_eq_true rfl), in_X21, rfl, rfl, Or.inl rfl⟩
theorem nm_J4_listIterator : ax_nm yJ4_listIterator 1 := ⟨by decide +kernel, by decide +kernel, by decide +kernel⟩
theorem xn_323 : ax_nm ⟨"java/util/ListIterato\x72", "hasPrevious", "()Z"⟩ 0 := ⟨by decide +kernel, by decide +kernel, by decide +kernel⟩
theorem xn_324 : ax_nm ⟨"java/util/ListIterato\x72", "previous", "()Ljava/lang/Object;"⟩ 0 := ⟨by decide +kernel, by decide +kernel, by decide +kernel⟩
theorem xn_325 : ax_nm ⟨"java/util/ListIterato\x72", "next", "()Ljava/lang/Object;"⟩ 0 := ⟨by decide +kernel, by decide +kernel, by decide +kernel⟩
theorem mk_36 (E : ax_EN G l) : ax_mk G "KernelGym$Key" 36 2 [.int 0, .int 0] := ⟨_, en_c E (k := 36) rfl, rfl, rfl, in_X26, q2397, q171, tyX26, fun j hj => ⟨tyX26_ok j hj, ax_dfs [.int 0, .int 0] tyX26 2 rfl j hj⟩⟩
theorem nm_X26_init : ax_nm yX26_init 2 := ⟨by decide +kernel, by decide +kernel, by decide +kernel⟩
theorem xn_327 : ax_nm ⟨"java/util/ListIterato\x72", "add", "(Ljava/lang/Object;)V"⟩ 1 := ⟨by decide +kernel, by decide +kernel, by decide +kernel⟩
theorem nm_J5_peekLast : ax_nm yJ5_peekLast 0 := ⟨by decide +kernel, by decide +kernel, by decide +kernel⟩
theorem nm_J5_descendingIterator : ax_nm yJ5_descendingIterator 0 := ⟨by decide +kernel, by decide +kernel, by decide +kernel⟩
theorem nm_X21_has : ax_nm yX21_has 1 := ⟨by decide +kernel, by decide +kernel, by decide +kernel⟩
theorem fe_328 (E : ax_EN G l) : ax_fe G "KernelGym$Assembly$2" "this$1" "LKernelGym$Assembly;" 30 8 := ⟨_, en_c E (k := 30) rfl, (Nat.le_of_ble_eq_true rfl), in_X20, rfl, rfl, Or.inl rfl⟩
theorem fe_329 (E : ax_EN G l) : ax_fe G "KernelGym$Assembly$2" "section" "I" 30 1 := ⟨_, en_c E (k := 30) rfl, (Nat.le_of_ble_eq_true rfl), in_X20, rfl, rfl, Or.inr q436⟩
theorem fe_330 (E : ax_EN G l) : ax_fe G "KernelGym$Assembly$2" "section" "I" 27 1 := ⟨_, en_c E (k := 27) rfl, (Nat.le_of_ble_eq_true rfl), in_X18, rfl, rfl, Or.inr q436⟩
theorem fe_331 (E : ax_EN G l) : ax_fe G "KernelGym$Assembly$2" "sizes" "[I" 30 0 := ⟨_, en_c E (k := 30) rfl, (Nat.le_of_ble_eq_true rfl), in_X20, rfl, rfl, Or.inr q431⟩
theorem fe_332 (E : ax_EN G l) : ax_fe G "KernelGym$Assembly$2" "sizes" "[I" 27 0 := ⟨_, en_c E (k := 27) rfl, (Nat.le_of_ble_eq_true rfl), in_X18, rfl, rfl, Or.inr q431⟩
theorem fe_333 (E : ax_EN G l) : ax_fe G "KernelGym$Operand" "kind" "I" 41 0 := ⟨_, en_c E (k := 41) rfl, (Nat.le_of_ble_eq_true rfl), in_X7, rfl, rfl, Or.inl rfl⟩
theorem fe_334 (E : ax_EN G l) : ax_fe G "KernelGym$Operand" "n" "I" 41 1 := ⟨_, en_c E (k := 41) rfl, (Nat.le_of_ble_eq_true rfl), in_X7, rfl, rfl, Or.inl rfl⟩
theorem nm_X15_address : ax_nm yX15_address 3 := ⟨by decide +kernel, by decide +kernel, by decide +kernel⟩
theorem cs_335 (E : ax_EN G l) : ax_cas G "KernelGym$Use" [26] := (ax_cas_self (en_c E (k := 26) rfl) rfl ax_cas_nil)
theorem fp_336 (E : ax_EN G l) : ax_fp G (.object "KernelGym$Assembly") true RX20 30 8 := ⟨_, en_c E (k := 30) rfl, tyX20_ok 8 (Nat.le_of_ble_eq_true rfl), rfl, fun _ => rfl⟩
theorem fp_337 {own : String} (E : ax_EN G l) : ax_fp G (.array (.int)) false own 31 0 := ⟨_, en_c E (k := 31) rfl, tyX21_ok 0 (Nat.le_of_ble_eq_true rfl), rfl, fun h => by cases h⟩
theorem fp_338 {own : String} (E : ax_EN G l) : ax_fp G (.int) false own 31 1 := ⟨_, en_c E (k := 31) rfl, tyX21_ok 1 (Nat.le_of_ble_eq_true rfl), rfl, fun h => by cases h⟩
theorem fp_339 (E : ax_EN G l) : ax_fp G (.int) true RX26 36 0 := ⟨_, en_c E (k := 36) rfl, tyX26_ok 0 (Nat.le_of_ble_eq_true rfl), rfl, fun _ => rfl⟩
theorem fp_340 (E : ax_EN G l) : ax_fp G (.int) true RX26 36 1 := ⟨_, en_c E (k := 36) rfl, tyX26_ok 1 (Nat.le_of_ble_eq_true rfl), rfl, fun _ => rfl⟩
theorem fe_341 (E : ax_EN G l) : ax_fe G "KernelGym$Test" "points" "I" 37 4 := ⟨_, en_c E (k := 37) rfl, (Nat.le_of_ble_eq_true rfl), in_X27, rfl, rfl, Or.inl rfl⟩
theorem fe_342 (E : ax_EN G l) : ax_fe G "KernelGym$Test" "hadPassed" "Z" 37 7 := ⟨_, en_c E (k := 37) rfl, (Nat.le_of_ble_eq_true rfl), in_X27, rfl, rfl, Or.inl rfl⟩
theorem fp_343 {own : String} (E : ax_EN G l) : ax_fp G (.int) false own 37 6 := ⟨_, en_c E (k := 37) rfl, tyX27_ok 6 (Nat.le_of_ble_eq_true rfl), rfl, fun h => by cases h⟩
theorem fe_344 (E : ax_EN G l) : ax_fe G "KernelGym$Test" "keys" "[I" 37 0 := ⟨_, en_c E (k := 37) rfl, (Nat.le_of_ble_eq_true rfl), in_X27, rfl, rfl, Or.inl rfl⟩
theorem fp_345 (E : ax_EN G l) : ax_fp G (.array (.int)) true RX27 37 0 := ⟨_, en_c E (k := 37) rfl, tyX27_ok 0 (Nat.le_of_ble_eq_true rfl), rfl, fun _ => rfl⟩
theorem fe_346 (E : ax_EN G l) : ax_fe G "KernelGym$Test" "words" "[I" 37 1 := ⟨_, en_c E (k := 37) rfl, (Nat.le_of_ble_eq_true rfl), in_X27, rfl, rfl, Or.inl rfl⟩
theorem fp_347 (E : ax_EN G l) : ax_fp G (.array (.int)) true RX27 37 1 := ⟨_, en_c E (k := 37) rfl, tyX27_ok 1 (Nat.le_of_ble_eq_true rfl), rfl, fun _ => rfl⟩
theorem fe_348 (E : ax_EN G l) : ax_fe G "KernelGym$Test" "steps" "I" 37 2 := ⟨_, en_c E (k := 37) rfl, (Nat.le_of_ble_eq_true rfl), in_X27, rfl, rfl, Or.inl rfl⟩
theorem fp_349 (E : ax_EN G l) : ax_fp G (.int) true RX27 37 2 := ⟨_, en_c E (k := 37) rfl, tyX27_ok 2 (Nat.le_of_ble_eq_true rfl), rfl, fun _ => rfl⟩
theorem fe_350 (E : ax_EN G l) : ax_fe G "KernelGym$Test" "blocks" "I" 37 3 := ⟨_, en_c E (k := 37) rfl, (Nat.le_of_ble_eq_true rfl), in_X27, rfl, rfl, Or.inl rfl⟩
theorem fp_351 (E : ax_EN G l) : ax_fp G (.int) true RX27 37 3 := ⟨_, en_c E (k := 37) rfl, tyX27_ok 3 (Nat.le_of_ble_eq_true rfl), rfl, fun _ => rfl⟩
theorem fp_352 (E : ax_EN G l) : ax_fp G (.int) true RX27 37 4 := ⟨_, en_c E (k := 37) rfl, tyX27_ok 4 (Nat.le_of_ble_eq_true rfl), rfl, fun _ => rfl⟩
theorem fe_353 (E : ax_EN G l) : ax_fe G "KernelGym$Test" "crash" "I" 37 5 := ⟨_, en_c E (k := 37) rfl, (Nat.le_of_ble_eq_true rfl), in_X27, rfl, rfl, Or.inl rfl⟩
theorem fp_354 (E : ax_EN G l) : ax_fp G (.int) true RX27 37 5 := ⟨_, en_c E (k := 37) rfl, tyX27_ok 5 (Nat.le_of_ble_eq_true rfl), rfl, fun _ => rfl⟩
theorem fp_355 {own : String} (E : ax_EN G l) : ax_fp G (.boolean) false own 37 7 := ⟨_, en_c E (k := 37) rfl, tyX27_ok 7 (Nat.le_of_ble_eq_true rfl), rfl, fun h => by cases h⟩
theorem nm_X27_resultOf : ax_nm yX27_resultOf 1 := ⟨by decide +kernel, by decide +kernel, by decide +kernel⟩
theorem fe_356 (E : ax_EN G l) : ax_fe G "KernelGymModel" "kinds" "[I" 38 2 := ⟨_, en_c E (k := 38) rfl, (Nat.le_of_ble_eq_true rfl), in_X3, rfl, rfl, Or.inl rfl⟩
theorem fp_357 (E : ax_EN G l) : ax_fp G (.array (.int)) true RX3 38 2 := ⟨_, en_c E (k := 38) rfl, tyX3_ok 2 (Nat.le_of_ble_eq_true rfl), rfl, fun _ => rfl⟩
theorem fe_358 (E : ax_EN G l) : ax_fe G "KernelGymModel" "numbers" "[I" 38 3 := ⟨_, en_c E (k := 38) rfl, (Nat.le_of_ble_eq_true rfl), in_X3, rfl, rfl, Or.inl rfl⟩
theorem fp_359 (E : ax_EN G l) : ax_fp G (.array (.int)) true RX3 38 3 := ⟨_, en_c E (k := 38) rfl, tyX3_ok 3 (Nat.le_of_ble_eq_true rfl), rfl, fun _ => rfl⟩
theorem fe_360 (E : ax_EN G l) : ax_fe G "KernelGymModel" "labels" "[I" 38 4 := ⟨_, en_c E (k := 38) rfl, (Nat.le_of_ble_eq_true rfl), in_X3, rfl, rfl, Or.inl rfl⟩
theorem fp_361 (E : ax_EN G l) : ax_fp G (.array (.int)) true RX3 38 4 := ⟨_, en_c E (k := 38) rfl, tyX3_ok 4 (Nat.le_of_ble_eq_true rfl), rfl, fun _ => rfl⟩
theorem fe_362 (E : ax_EN G l) : ax_fe G "KernelGymModel" "sizes" "[I" 38 5 := ⟨_, en_c E (k := 38) rfl, (Nat.le_of_ble_eq_true rfl), in_X3, rfl, rfl, Or.inl rfl⟩
theorem fp_363 (E : ax_EN G l) : ax_fp G (.array (.int)) true RX3 38 5 := ⟨_, en_c E (k := 38) rfl, tyX3_ok 5 (Nat.le_of_ble_eq_true rfl), rfl, fun _ => rfl⟩
theorem fe_364 (E : ax_EN G l) : ax_fe G "KernelGymModel" "macroFrom" "[I" 38 6 := ⟨_, en_c E (k := 38) rfl, (Nat.le_of_ble_eq_true rfl), in_X3, rfl, rfl, Or.inl rfl⟩
theorem fp_365 (E : ax_EN G l) : ax_fp G (.array (.int)) true RX3 38 6 := ⟨_, en_c E (k := 38) rfl, tyX3_ok 6 (Nat.le_of_ble_eq_true rfl), rfl, fun _ => rfl⟩
theorem fe_366 (E : ax_EN G l) : ax_fe G "KernelGymModel" "macroTo" "[I" 38 7 := ⟨_, en_c E (k := 38) rfl, (Nat.le_of_ble_eq_true rfl), in_X3, rfl, rfl, Or.inl rfl⟩
theorem fp_367 (E : ax_EN G l) : ax_fp G (.array (.int)) true RX3 38 7 := ⟨_, en_c E (k := 38) rfl, tyX3_ok 7 (Nat.le_of_ble_eq_true rfl), rfl, fun _ => rfl⟩
theorem fe_368 (E : ax_EN G l) : ax_fe G "KernelGymModel" "at" "[I" 38 8 := ⟨_, en_c E (k := 38) rfl, (Nat.le_of_ble_eq_true rfl), in_X3, rfl, rfl, Or.inl rfl⟩
theorem fp_369 (E : ax_EN G l) : ax_fp G (.array (.int)) true RX3 38 8 := ⟨_, en_c E (k := 38) rfl, tyX3_ok 8 (Nat.le_of_ble_eq_true rfl), rfl, fun _ => rfl⟩
theorem fe_370 (E : ax_EN G l) : ax_fe G "KernelGymModel" "to" "[I" 38 9 := ⟨_, en_c E (k := 38) rfl, (Nat.le_of_ble_eq_true rfl), in_X3, rfl, rfl, Or.inl rfl⟩
theorem fp_371 (E : ax_EN G l) : ax_fp G (.array (.int)) true RX3 38 9 := ⟨_, en_c E (k := 38) rfl, tyX3_ok 9 (Nat.le_of_ble_eq_true rfl), rfl, fun _ => rfl⟩
theorem fe_372 (E : ax_EN G l) : ax_fe G "KernelGymModel" "useOf" "[I" 38 10 := ⟨_, en_c E (k := 38) rfl, (Nat.le_of_ble_eq_true rfl), in_X3, rfl, rfl, Or.inl rfl⟩
theorem fp_373 (E : ax_EN G l) : ax_fp G (.array (.int)) true RX3 38 10 := ⟨_, en_c E (k := 38) rfl, tyX3_ok 10 (Nat.le_of_ble_eq_true rfl), rfl, fun _ => rfl⟩
theorem fe_374 (E : ax_EN G l) : ax_fe G "KernelGymModel" "macroOf" "[I" 38 11 := ⟨_, en_c E (k := 38) rfl, (Nat.le_of_ble_eq_true rfl), in_X3, rfl, rfl, Or.inl rfl⟩
theorem fp_375 (E : ax_EN G l) : ax_fp G (.array (.int)) true RX3 38 11 := ⟨_, en_c E (k := 38) rfl, tyX3_ok 11 (Nat.le_of_ble_eq_true rfl), rfl, fun _ => rfl⟩
theorem fe_376 (E : ax_EN G l) : ax_fe G "KernelGymModel" "firsts" "[I" 38 12 := ⟨_, en_c E (k := 38) rfl, (Nat.le_of_ble_eq_true rfl), in_X3, rfl, rfl, Or.inl rfl⟩
theorem fp_377 (E : ax_EN G l) : ax_fp G (.array (.int)) true RX3 38 12 := ⟨_, en_c E (k := 38) rfl, tyX3_ok 12 (Nat.le_of_ble_eq_true rfl), rfl, fun _ => rfl⟩
theorem fe_378 (E : ax_EN G l) : ax_fe G "KernelGymModel" "seconds" "[I" 38 13 := ⟨_, en_c E (k := 38) rfl, (Nat.le_of_ble_eq_true rfl), in_X3, rfl, rfl, Or.inl rfl⟩
theorem fp_379 (E : ax_EN G l) : ax_fp G (.array (.int)) true RX3 38 13 := ⟨_, en_c E (k := 38) rfl, tyX3_ok 13 (Nat.le_of_ble_eq_true rfl), rfl, fun _ => rfl⟩
theorem fe_380 (E : ax_EN G l) : ax_fe G "KernelGymModel" "built" "[I" 38 20 := ⟨_, en_c E (k := 38) rfl, (Nat.le_of_ble_eq_true rfl), in_X3, rfl, rfl, Or.inl rfl⟩
theorem fp_381 (E : ax_EN G l) : ax_fp G (.array (.int)) true RX3 38 20 := ⟨_, en_c E (k := 38) rfl, tyX3_ok 20 (Nat.le_of_ble_eq_true rfl), rfl, fun _ => rfl⟩
theorem fe_382 (E : ax_EN G l) : ax_fe G "KernelGymModel" "image" "[I" 38 21 := ⟨_, en_c E (k := 38) rfl, (Nat.le_of_ble_eq_true rfl), in_X3, rfl, rfl, Or.inl rfl⟩
theorem fp_383 (E : ax_EN G l) : ax_fp G (.array (.int)) true RX3 38 21 := ⟨_, en_c E (k := 38) rfl, tyX3_ok 21 (Nat.le_of_ble_eq_true rfl), rfl, fun _ => rfl⟩
theorem fe_384 (E : ax_EN G l) : ax_fe G "KernelGymModel" "memory" "[I" 38 25 := ⟨_, en_c E (k := 38) rfl, (Nat.le_of_ble_eq_true rfl), in_X3, rfl, rfl, Or.inl rfl⟩
theorem fp_385 (E : ax_EN G l) : ax_fp G (.array (.int)) true RX3 38 25 := ⟨_, en_c E (k := 38) rfl, tyX3_ok 25 (Nat.le_of_ble_eq_true rfl), rfl, fun _ => rfl⟩
theorem fe_386 (E : ax_EN G l) : ax_fe G "KernelGymModel" "registers" "[I" 38 26 := ⟨_, en_c E (k := 38) rfl, (Nat.le_of_ble_eq_true rfl), in_X3, rfl, rfl, Or.inl rfl⟩
theorem fp_387 (E : ax_EN G l) : ax_fp G (.array (.int)) true RX3 38 26 := ⟨_, en_c E (k := 38) rfl, tyX3_ok 26 (Nat.le_of_ble_eq_true rfl), rfl, fun _ => rfl⟩
theorem fe_388 (E : ax_EN G l) : ax_fe G "KernelGymModel" "tape" "[I" 38 36 := ⟨_, en_c E (k := 38) rfl, (Nat.le_of_ble_eq_true rfl), in_X3, rfl, rfl, Or.inl rfl⟩
theorem fp_389 (E : ax_EN G l) : ax_fp G (.array (.int)) true RX3 38 36 := ⟨_, en_c E (k := 38) rfl, tyX3_ok 36 (Nat.le_of_ble_eq_true rfl), rfl, fun _ => rfl⟩
theorem fe_390 (E : ax_EN G l) : ax_fe G "KernelGymModel" "keyTimes" "[I" 38 41 := ⟨_, en_c E (k := 38) rfl, (Nat.le_of_ble_eq_true rfl), in_X3, rfl, rfl, Or.inl rfl⟩
theorem fp_391 (E : ax_EN G l) : ax_fp G (.array (.int)) true RX3 38 41 := ⟨_, en_c E (k := 38) rfl, tyX3_ok 41 (Nat.le_of_ble_eq_true rfl), rfl, fun _ => rfl⟩
theorem fe_392 (E : ax_EN G l) : ax_fe G "KernelGymModel" "keys" "[I" 38 42 := ⟨_, en_c E (k := 38) rfl, (Nat.le_of_ble_eq_true rfl), in_X3, rfl, rfl, Or.inl rfl⟩
theorem fp_393 (E : ax_EN G l) : ax_fp G (.array (.int)) true RX3 38 42 := ⟨_, en_c E (k := 38) rfl, tyX3_ok 42 (Nat.le_of_ble_eq_true rfl), rfl, fun _ => rfl⟩
theorem fe_394 (E : ax_EN G l) : ax_fe G "KernelGymModel" "wroteOne" "[I" 38 44 := ⟨_, en_c E (k := 38) rfl, (Nat.le_of_ble_eq_true rfl), in_X3, rfl, rfl, Or.inl rfl⟩
theorem fp_395 (E : ax_EN G l) : ax_fp G (.array (.int)) true RX3 38 44 := ⟨_, en_c E (k := 38) rfl, tyX3_ok 44 (Nat.le_of_ble_eq_true rfl), rfl, fun _ => rfl⟩
theorem fe_396 (E : ax_EN G l) : ax_fe G "KernelGymModel" "wroteOthe\x72" "[I" 38 45 := ⟨_, en_c E (k := 38) rfl, (Nat.le_of_ble_eq_true rfl), in_X3, rfl, rfl, Or.inl rfl⟩
theorem fp_397 (E : ax_EN G l) : ax_fp G (.array (.int)) true RX3 38 45 := ⟨_, en_c E (k := 38) rfl, tyX3_ok 45 (Nat.le_of_ble_eq_true rfl), rfl, fun _ => rfl⟩
theorem fe_398 (E : ax_EN G l) : ax_fe G "KernelGymModel" "changed" "[I" 38 48 := ⟨_, en_c E (k := 38) rfl, (Nat.le_of_ble_eq_true rfl), in_X3, rfl, rfl, Or.inl rfl⟩
theorem fp_399 (E : ax_EN G l) : ax_fp G (.array (.int)) true RX3 38 48 := ⟨_, en_c E (k := 38) rfl, tyX3_ok 48 (Nat.le_of_ble_eq_true rfl), rfl, fun _ => rfl⟩
theorem fe_400 (E : ax_EN G l) : ax_fe G "KernelGymModel" "contents" "[I" 38 49 := ⟨_, en_c E (k := 38) rfl, (Nat.le_of_ble_eq_true rfl), in_X3, rfl, rfl, Or.inl rfl⟩
theorem fp_401 (E : ax_EN G l) : ax_fp G (.array (.int)) true RX3 38 49 := ⟨_, en_c E (k := 38) rfl, tyX3_ok 49 (Nat.le_of_ble_eq_true rfl), rfl, fun _ => rfl⟩
theorem fe_402 (E : ax_EN G l) : ax_fe G "KernelGymModel" "disk" "[I" 38 50 := ⟨_, en_c E (k := 38) rfl, (Nat.le_of_ble_eq_true rfl), in_X3, rfl, rfl, Or.inl rfl⟩
theorem fp_403 (E : ax_EN G l) : ax_fp G (.array (.int)) true RX3 38 50 := ⟨_, en_c E (k := 38) rfl, tyX3_ok 50 (Nat.le_of_ble_eq_true rfl), rfl, fun _ => rfl⟩
theorem fe_404 (E : ax_EN G l) : ax_fe G "KernelGymModel" "will" "[I" 38 51 := ⟨_, en_c E (k := 38) rfl, (Nat.le_of_ble_eq_true rfl), in_X3, rfl, rfl, Or.inl rfl⟩
theorem fp_405 (E : ax_EN G l) : ax_fp G (.array (.int)) true RX3 38 51 := ⟨_, en_c E (k := 38) rfl, tyX3_ok 51 (Nat.le_of_ble_eq_true rfl), rfl, fun _ => rfl⟩
theorem fe_406 (E : ax_EN G l) : ax_fe G "KernelGymModel" "startMemory" "[I" 38 53 := ⟨_, en_c E (k := 38) rfl, (Nat.le_of_ble_eq_true rfl), in_X3, rfl, rfl, Or.inl rfl⟩
theorem fp_407 (E : ax_EN G l) : ax_fp G (.array (.int)) true RX3 38 53 := ⟨_, en_c E (k := 38) rfl, tyX3_ok 53 (Nat.le_of_ble_eq_true rfl), rfl, fun _ => rfl⟩
theorem fe_408 (E : ax_EN G l) : ax_fe G "KernelGymModel" "startDisk" "[I" 38 54 := ⟨_, en_c E (k := 38) rfl, (Nat.le_of_ble_eq_true rfl), in_X3, rfl, rfl, Or.inl rfl⟩
theorem fp_409 (E : ax_EN G l) : ax_fp G (.array (.int)) true RX3 38 54 := ⟨_, en_c E (k := 38) rfl, tyX3_ok 54 (Nat.le_of_ble_eq_true rfl), rfl, fun _ => rfl⟩
theorem fe_410 (E : ax_EN G l) : ax_fe G "KernelGymModel" "draftKeys" "[I" 38 56 := ⟨_, en_c E (k := 38) rfl, (Nat.le_of_ble_eq_true rfl), in_X3, rfl, rfl, Or.inl rfl⟩
theorem fp_411 (E : ax_EN G l) : ax_fp G (.array (.int)) true RX3 38 56 := ⟨_, en_c E (k := 38) rfl, tyX3_ok 56 (Nat.le_of_ble_eq_true rfl), rfl, fun _ => rfl⟩
theorem fe_412 (E : ax_EN G l) : ax_fe G "KernelGymModel" "draftWords" "[I" 38 57 := ⟨_, en_c E (k := 38) rfl, (Nat.le_of_ble_eq_true rfl), in_X3, rfl, rfl, Or.inl rfl⟩
theorem fp_413 (E : ax_EN G l) : ax_fp G (.array (.int)) true RX3 38 57 := ⟨_, en_c E (k := 38) rfl, tyX3_ok 57 (Nat.le_of_ble_eq_true rfl), rfl, fun _ => rfl⟩
theorem fe_414 (E : ax_EN G l) : ax_fe G "KernelGymModel" "testKeys" "[I" 38 61 := ⟨_, en_c E (k := 38) rfl, (Nat.le_of_ble_eq_true rfl), in_X3, rfl, rfl, Or.inl rfl⟩
theorem fp_415 (E : ax_EN G l) : ax_fp G (.array (.int)) true RX3 38 61 := ⟨_, en_c E (k := 38) rfl, tyX3_ok 61 (Nat.le_of_ble_eq_true rfl), rfl, fun _ => rfl⟩
theorem fe_416 (E : ax_EN G l) : ax_fe G "KernelGymModel" "testKeyCounts" "[I" 38 62 := ⟨_, en_c E (k := 38) rfl, (Nat.le_of_ble_eq_true rfl), in_X3, rfl, rfl, Or.inl rfl⟩
theorem fp_417 (E : ax_EN G l) : ax_fp G (.array (.int)) true RX3 38 62 := ⟨_, en_c E (k := 38) rfl, tyX3_ok 62 (Nat.le_of_ble_eq_true rfl), rfl, fun _ => rfl⟩
theorem fe_418 (E : ax_EN G l) : ax_fe G "KernelGymModel" "testWords" "[I" 38 63 := ⟨_, en_c E (k := 38) rfl, (Nat.le_of_ble_eq_true rfl), in_X3, rfl, rfl, Or.inl rfl⟩
theorem fp_419 (E : ax_EN G l) : ax_fp G (.array (.int)) true RX3 38 63 := ⟨_, en_c E (k := 38) rfl, tyX3_ok 63 (Nat.le_of_ble_eq_true rfl), rfl, fun _ => rfl⟩
theorem fe_420 (E : ax_EN G l) : ax_fe G "KernelGymModel" "testWordCounts" "[I" 38 64 := ⟨_, en_c E (k := 38) rfl, (Nat.le_of_ble_eq_true rfl), in_X3, rfl, rfl, Or.inl rfl⟩
theorem fp_421 (E : ax_EN G l) : ax_fp G (.array (.int)) true RX3 38 64 := ⟨_, en_c E (k := 38) rfl, tyX3_ok 64 (Nat.le_of_ble_eq_true rfl), rfl, fun _ => rfl⟩
theorem fe_422 (E : ax_EN G l) : ax_fe G "KernelGymModel" "budgets" "[I" 38 65 := ⟨_, en_c E (k := 38) rfl, (Nat.le_of_ble_eq_true rfl), in_X3, rfl, rfl, Or.inl rfl⟩
theorem fp_423 (E : ax_EN G l) : ax_fp G (.array (.int)) true RX3 38 65 := ⟨_, en_c E (k := 38) rfl, tyX3_ok 65 (Nat.le_of_ble_eq_true rfl), rfl, fun _ => rfl⟩
theorem fe_424 (E : ax_EN G l) : ax_fe G "KernelGymModel" "blockBudgets" "[I" 38 66 := ⟨_, en_c E (k := 38) rfl, (Nat.le_of_ble_eq_true rfl), in_X3, rfl, rfl, Or.inl rfl⟩
theorem fp_425 (E : ax_EN G l) : ax_fp G (.array (.int)) true RX3 38 66 := ⟨_, en_c E (k := 38) rfl, tyX3_ok 66 (Nat.le_of_ble_eq_true rfl), rfl, fun _ => rfl⟩
theorem fe_426 (E : ax_EN G l) : ax_fe G "KernelGymModel" "points" "[I" 38 67 := ⟨_, en_c E (k := 38) rfl, (Nat.le_of_ble_eq_true rfl), in_X3, rfl, rfl, Or.inl rfl⟩
theorem fp_427 (E : ax_EN G l) : ax_fp G (.array (.int)) true RX3 38 67 := ⟨_, en_c E (k := 38) rfl, tyX3_ok 67 (Nat.le_of_ble_eq_true rfl), rfl, fun _ => rfl⟩
theorem fe_428 (E : ax_EN G l) : ax_fe G "KernelGymModel" "crashes" "[I" 38 68 := ⟨_, en_c E (k := 38) rfl, (Nat.le_of_ble_eq_true rfl), in_X3, rfl, rfl, Or.inl rfl⟩
theorem fp_429 (E : ax_EN G l) : ax_fp G (.array (.int)) true RX3 38 68 := ⟨_, en_c E (k := 38) rfl, tyX3_ok 68 (Nat.le_of_ble_eq_true rfl), rfl, fun _ => rfl⟩
theorem fe_430 (E : ax_EN G l) : ax_fe G "KernelGymModel" "results" "[I" 38 69 := ⟨_, en_c E (k := 38) rfl, (Nat.le_of_ble_eq_true rfl), in_X3, rfl, rfl, Or.inl rfl⟩
theorem fp_431 (E : ax_EN G l) : ax_fp G (.array (.int)) true RX3 38 69 := ⟨_, en_c E (k := 38) rfl, tyX3_ok 69 (Nat.le_of_ble_eq_true rfl), rfl, fun _ => rfl⟩
theorem fe_432 (E : ax_EN G l) : ax_fe G "KernelGymModel" "havePassed" "[Z" 38 70 := ⟨_, en_c E (k := 38) rfl, (Nat.le_of_ble_eq_true rfl), in_X3, rfl, rfl, Or.inl rfl⟩
theorem fp_433 (E : ax_EN G l) : ax_fp G (.array (.boolean)) true RX3 38 70 := ⟨_, en_c E (k := 38) rfl, tyX3_ok 70 (Nat.le_of_ble_eq_true rfl), rfl, fun _ => rfl⟩
theorem fe_434 (E : ax_EN G l) : ax_fe G "KernelGymModel" "asideDisk" "[I" 38 71 := ⟨_, en_c E (k := 38) rfl, (Nat.le_of_ble_eq_true rfl), in_X3, rfl, rfl, Or.inl rfl⟩
theorem fp_435 (E : ax_EN G l) : ax_fp G (.array (.int)) true RX3 38 71 := ⟨_, en_c E (k := 38) rfl, tyX3_ok 71 (Nat.le_of_ble_eq_true rfl), rfl, fun _ => rfl⟩
theorem fe_436 (E : ax_EN G l) : ax_fe G "KernelGymModel" "asideTimes" "[I" 38 72 := ⟨_, en_c E (k := 38) rfl, (Nat.le_of_ble_eq_true rfl), in_X3, rfl, rfl, Or.inl rfl⟩
theorem fp_437 (E : ax_EN G l) : ax_fp G (.array (.int)) true RX3 38 72 := ⟨_, en_c E (k := 38) rfl, tyX3_ok 72 (Nat.le_of_ble_eq_true rfl), rfl, fun _ => rfl⟩
theorem fe_438 (E : ax_EN G l) : ax_fe G "KernelGymModel" "asideKeys" "[I" 38 73 := ⟨_, en_c E (k := 38) rfl, (Nat.le_of_ble_eq_true rfl), in_X3, rfl, rfl, Or.inl rfl⟩
theorem fp_439 (E : ax_EN G l) : ax_fp G (.array (.int)) true RX3 38 73 := ⟨_, en_c E (k := 38) rfl, tyX3_ok 73 (Nat.le_of_ble_eq_true rfl), rfl, fun _ => rfl⟩
theorem nm_X3_formats : ax_nm yX3_formats 0 := ⟨by decide +kernel, by decide +kernel, by decide +kernel⟩
theorem fe_440 (E : ax_EN G l) : ax_fe G "KernelGymModel" "written" "I" 38 52 := ⟨_, en_c E (k := 38) rfl, (Nat.le_of_ble_eq_true rfl), in_X3, rfl, rfl, Or.inl rfl⟩
theorem fp_441 {own : String} (E : ax_EN G l) : ax_fp G (.int) false own 38 52 := ⟨_, en_c E (k := 38) rfl, tyX3_ok 52 (Nat.le_of_ble_eq_true rfl), rfl, fun h => by cases h⟩
theorem fe_442 (E : ax_EN G l) : ax_fe G "KernelGymModel" "thrown" "I" 38 0 := ⟨_, en_c E (k := 38) rfl, (Nat.le_of_ble_eq_true rfl), in_X3, rfl, rfl, Or.inl rfl⟩
theorem fp_443 {own : String} (E : ax_EN G l) : ax_fp G (.int) false own 38 0 := ⟨_, en_c E (k := 38) rfl, tyX3_ok 0 (Nat.le_of_ble_eq_true rfl), rfl, fun h => by cases h⟩
theorem fe_444 (E : ax_EN G l) : ax_fe G "KernelGymModel" "lines" "I" 38 1 := ⟨_, en_c E (k := 38) rfl, (Nat.le_of_ble_eq_true rfl), in_X3, rfl, rfl, Or.inl rfl⟩
theorem fp_445 {own : String} (E : ax_EN G l) : ax_fp G (.int) false own 38 1 := ⟨_, en_c E (k := 38) rfl, tyX3_ok 1 (Nat.le_of_ble_eq_true rfl), rfl, fun h => by cases h⟩
theorem nm_X3_in : ax_nm yX3_in 3 := ⟨by decide +kernel, by decide +kernel, by decide +kernel⟩
theorem nm_X3_adds : ax_nm yX3_adds 7 := ⟨by decide +kernel, by decide +kernel, by decide +kernel⟩
theorem nm_X3_holds : ax_nm yX3_holds 1 := ⟨by decide +kernel, by decide +kernel, by decide +kernel⟩
theorem nm_X3_isOperand : ax_nm yX3_isOperand 2 := ⟨by decide +kernel, by decide +kernel, by decide +kernel⟩
theorem nm_X3_errorOfSource : ax_nm yX3_errorOfSource 0 := ⟨by decide +kernel, by decide +kernel, by decide +kernel⟩
theorem nm_X3_goesThrough : ax_nm yX3_goesThrough 1 := ⟨by decide +kernel, by decide +kernel, by decide +kernel⟩
theorem fe_446 (E : ax_EN G l) : ax_fe G "KernelGymModel" "base" "I" 38 18 := ⟨_, en_c E (k := 38) rfl, (Nat.le_of_ble_eq_true rfl), in_X3, rfl, rfl, Or.inl rfl⟩
theorem fp_447 {own : String} (E : ax_EN G l) : ax_fp G (.int) false own 38 18 := ⟨_, en_c E (k := 38) rfl, tyX3_ok 18 (Nat.le_of_ble_eq_true rfl), rfl, fun h => by cases h⟩
theorem fe_448 (E : ax_EN G l) : ax_fe G "KernelGymModel" "present" "I" 38 15 := ⟨_, en_c E (k := 38) rfl, (Nat.le_of_ble_eq_true rfl), in_X3, rfl, rfl, Or.inl rfl⟩
theorem fp_449 {own : String} (E : ax_EN G l) : ax_fp G (.int) false own 38 15 := ⟨_, en_c E (k := 38) rfl, tyX3_ok 15 (Nat.le_of_ble_eq_true rfl), rfl, fun h => by cases h⟩
theorem fe_450 (E : ax_EN G l) : ax_fe G "KernelGymModel" "gone" "I" 38 16 := ⟨_, en_c E (k := 38) rfl, (Nat.le_of_ble_eq_true rfl), in_X3, rfl, rfl, Or.inl rfl⟩
theorem fp_451 {own : String} (E : ax_EN G l) : ax_fp G (.int) false own 38 16 := ⟨_, en_c E (k := 38) rfl, tyX3_ok 16 (Nat.le_of_ble_eq_true rfl), rfl, fun h => by cases h⟩
theorem fe_452 (E : ax_EN G l) : ax_fe G "KernelGymModel" "uses" "I" 38 17 := ⟨_, en_c E (k := 38) rfl, (Nat.le_of_ble_eq_true rfl), in_X3, rfl, rfl, Or.inl rfl⟩
theorem fp_453 {own : String} (E : ax_EN G l) : ax_fp G (.int) false own 38 17 := ⟨_, en_c E (k := 38) rfl, tyX3_ok 17 (Nat.le_of_ble_eq_true rfl), rfl, fun h => by cases h⟩
theorem fe_454 (E : ax_EN G l) : ax_fe G "KernelGymModel" "depth" "I" 38 14 := ⟨_, en_c E (k := 38) rfl, (Nat.le_of_ble_eq_true rfl), in_X3, rfl, rfl, Or.inl rfl⟩
theorem fp_455 {own : String} (E : ax_EN G l) : ax_fp G (.int) false own 38 14 := ⟨_, en_c E (k := 38) rfl, tyX3_ok 14 (Nat.le_of_ble_eq_true rfl), rfl, fun h => by cases h⟩
theorem nm_X3_goes : ax_nm yX3_goes 2 := ⟨by decide +kernel, by decide +kernel, by decide +kernel⟩
theorem nm_X3_wordsOf : ax_nm yX3_wordsOf 1 := ⟨by decide +kernel, by decide +kernel, by decide +kernel⟩
theorem nm_X3_begins : ax_nm yX3_begins 1 := ⟨by decide +kernel, by decide +kernel, by decide +kernel⟩
theorem nm_X3_usesMacro : ax_nm yX3_usesMacro 2 := ⟨by decide +kernel, by decide +kernel, by decide +kernel⟩
theorem nm_X3_builds : ax_nm yX3_builds 1 := ⟨by decide +kernel, by decide +kernel, by decide +kernel⟩
theorem nm_X3_setsLabel : ax_nm yX3_setsLabel 1 := ⟨by decide +kernel, by decide +kernel, by decide +kernel⟩
theorem nm_X3_nextOf : ax_nm yX3_nextOf 1 := ⟨by decide +kernel, by decide +kernel, by decide +kernel⟩
theorem nm_X3_isGoneThrough : ax_nm yX3_isGoneThrough 1 := ⟨by decide +kernel, by decide +kernel, by decide +kernel⟩
theorem nm_X3_value : ax_nm yX3_value 2 := ⟨by decide +kernel, by decide +kernel, by decide +kernel⟩
theorem fe_456 (E : ax_EN G l) : ax_fe G "KernelGymModel" "operandErro\x72" "I" 38 19 := ⟨_, en_c E (k := 38) rfl, (Nat.le_of_ble_eq_true rfl), in_X3, rfl, rfl, Or.inl rfl⟩
theorem fp_457 {own : String} (E : ax_EN G l) : ax_fp G (.int) false own 38 19 := ⟨_, en_c E (k := 38) rfl, tyX3_ok 19 (Nat.le_of_ble_eq_true rfl), rfl, fun h => by cases h⟩
theorem nm_X3_placeOf : ax_nm yX3_placeOf 1 := ⟨by decide +kernel, by decide +kernel, by decide +kernel⟩
theorem nm_X3_puts : ax_nm yX3_puts 1 := ⟨by decide +kernel, by decide +kernel, by decide +kernel⟩
theorem fe_458 (E : ax_EN G l) : ax_fe G "KernelGymModel" "isAssembled" "Z" 38 22 := ⟨_, en_c E (k := 38) rfl, (Nat.le_of_ble_eq_true rfl), in_X3, rfl, rfl, Or.inl rfl⟩
theorem fp_459 {own : String} (E : ax_EN G l) : ax_fp G (.boolean) false own 38 22 := ⟨_, en_c E (k := 38) rfl, tyX3_ok 22 (Nat.le_of_ble_eq_true rfl), rfl, fun h => by cases h⟩
theorem nm_X3_isMachine : ax_nm yX3_isMachine 0 := ⟨by decide +kernel, by decide +kernel, by decide +kernel⟩
theorem nm_X3_mends : ax_nm yX3_mends 0 := ⟨by decide +kernel, by decide +kernel, by decide +kernel⟩
theorem nm_X3_copies : ax_nm yX3_copies 2 := ⟨by decide +kernel, by decide +kernel, by decide +kernel⟩
theorem fe_460 (E : ax_EN G l) : ax_fe G "KernelGymModel" "startWritten" "I" 38 55 := ⟨_, en_c E (k := 38) rfl, (Nat.le_of_ble_eq_true rfl), in_X3, rfl, rfl, Or.inl rfl⟩
theorem fp_461 {own : String} (E : ax_EN G l) : ax_fp G (.int) false own 38 55 := ⟨_, en_c E (k := 38) rfl, tyX3_ok 55 (Nat.le_of_ble_eq_true rfl), rfl, fun h => by cases h⟩
theorem fe_462 (E : ax_EN G l) : ax_fe G "KernelGymModel" "told" "I" 38 43 := ⟨_, en_c E (k := 38) rfl, (Nat.le_of_ble_eq_true rfl), in_X3, rfl, rfl, Or.inl rfl⟩
theorem fp_463 {own : String} (E : ax_EN G l) : ax_fp G (.int) false own 38 43 := ⟨_, en_c E (k := 38) rfl, tyX3_ok 43 (Nat.le_of_ble_eq_true rfl), rfl, fun h => by cases h⟩
theorem fe_464 (E : ax_EN G l) : ax_fe G "KernelGymModel" "kept" "I" 38 40 := ⟨_, en_c E (k := 38) rfl, (Nat.le_of_ble_eq_true rfl), in_X3, rfl, rfl, Or.inl rfl⟩
theorem fp_465 {own : String} (E : ax_EN G l) : ax_fp G (.int) false own 38 40 := ⟨_, en_c E (k := 38) rfl, tyX3_ok 40 (Nat.le_of_ble_eq_true rfl), rfl, fun h => by cases h⟩
theorem nm_X3_wakes : ax_nm yX3_wakes 1 := ⟨by decide +kernel, by decide +kernel, by decide +kernel⟩
theorem fe_466 (E : ax_EN G l) : ax_fe G "KernelGymModel" "state" "I" 38 23 := ⟨_, en_c E (k := 38) rfl, (Nat.le_of_ble_eq_true rfl), in_X3, rfl, rfl, Or.inl rfl⟩
theorem nm_X3_checkOfLog : ax_nm yX3_checkOfLog 0 := ⟨by decide +kernel, by decide +kernel, by decide +kernel⟩
theorem nm_X3_writesHead : ax_nm yX3_writesHead 1 := ⟨by decide +kernel, by decide +kernel, by decide +kernel⟩
theorem fe_467 (E : ax_EN G l) : ax_fe G "KernelGymModel" "many" "I" 38 47 := ⟨_, en_c E (k := 38) rfl, (Nat.le_of_ble_eq_true rfl), in_X3, rfl, rfl, Or.inl rfl⟩
theorem nm_X3_sleeps : ax_nm yX3_sleeps 0 := ⟨by decide +kernel, by decide +kernel, by decide +kernel⟩
theorem fp_468 {own : String} (E : ax_EN G l) : ax_fp G (.int) false own 38 23 := ⟨_, en_c E (k := 38) rfl, tyX3_ok 23 (Nat.le_of_ble_eq_true rfl), rfl, fun h => by cases h⟩
theorem fe_469 (E : ax_EN G l) : ax_fe G "KernelGymModel" "counte\x72" "I" 38 27 := ⟨_, en_c E (k := 38) rfl, (Nat.le_of_ble_eq_true rfl), in_X3, rfl, rfl, Or.inl rfl⟩
theorem fp_470 {own : String} (E : ax_EN G l) : ax_fp G (.int) false own 38 27 := ⟨_, en_c E (k := 38) rfl, tyX3_ok 27 (Nat.le_of_ble_eq_true rfl), rfl, fun h => by cases h⟩
theorem fe_471 (E : ax_EN G l) : ax_fe G "KernelGymModel" "stack" "I" 38 28 := ⟨_, en_c E (k := 38) rfl, (Nat.le_of_ble_eq_true rfl), in_X3, rfl, rfl, Or.inl rfl⟩
theorem fp_472 {own : String} (E : ax_EN G l) : ax_fp G (.int) false own 38 28 := ⟨_, en_c E (k := 38) rfl, tyX3_ok 28 (Nat.le_of_ble_eq_true rfl), rfl, fun h => by cases h⟩
theorem fe_473 (E : ax_EN G l) : ax_fe G "KernelGymModel" "fault" "I" 38 24 := ⟨_, en_c E (k := 38) rfl, (Nat.le_of_ble_eq_true rfl), in_X3, rfl, rfl, Or.inl rfl⟩
theorem fp_474 {own : String} (E : ax_EN G l) : ax_fp G (.int) false own 38 24 := ⟨_, en_c E (k := 38) rfl, tyX3_ok 24 (Nat.le_of_ble_eq_true rfl), rfl, fun h => by cases h⟩
theorem fe_475 (E : ax_EN G l) : ax_fe G "KernelGymModel" "isZero" "Z" 38 29 := ⟨_, en_c E (k := 38) rfl, (Nat.le_of_ble_eq_true rfl), in_X3, rfl, rfl, Or.inl rfl⟩
theorem fp_476 {own : String} (E : ax_EN G l) : ax_fp G (.boolean) false own 38 29 := ⟨_, en_c E (k := 38) rfl, tyX3_ok 29 (Nat.le_of_ble_eq_true rfl), rfl, fun h => by cases h⟩
theorem fe_477 (E : ax_EN G l) : ax_fe G "KernelGymModel" "isLess" "Z" 38 30 := ⟨_, en_c E (k := 38) rfl, (Nat.le_of_ble_eq_true rfl), in_X3, rfl, rfl, Or.inl rfl⟩
theorem fp_478 {own : String} (E : ax_EN G l) : ax_fp G (.boolean) false own 38 30 := ⟨_, en_c E (k := 38) rfl, tyX3_ok 30 (Nat.le_of_ble_eq_true rfl), rfl, fun h => by cases h⟩
theorem fe_479 (E : ax_EN G l) : ax_fe G "KernelGymModel" "isOn" "Z" 38 31 := ⟨_, en_c E (k := 38) rfl, (Nat.le_of_ble_eq_true rfl), in_X3, rfl, rfl, Or.inl rfl⟩
theorem fp_480 {own : String} (E : ax_EN G l) : ax_fp G (.boolean) false own 38 31 := ⟨_, en_c E (k := 38) rfl, tyX3_ok 31 (Nat.le_of_ble_eq_true rfl), rfl, fun h => by cases h⟩
theorem fe_481 (E : ax_EN G l) : ax_fe G "KernelGymModel" "isTime\x72" "Z" 38 32 := ⟨_, en_c E (k := 38) rfl, (Nat.le_of_ble_eq_true rfl), in_X3, rfl, rfl, Or.inl rfl⟩
theorem fp_482 {own : String} (E : ax_EN G l) : ax_fp G (.boolean) false own 38 32 := ⟨_, en_c E (k := 38) rfl, tyX3_ok 32 (Nat.le_of_ble_eq_true rfl), rfl, fun h => by cases h⟩
theorem fe_483 (E : ax_EN G l) : ax_fe G "KernelGymModel" "isKey" "Z" 38 33 := ⟨_, en_c E (k := 38) rfl, (Nat.le_of_ble_eq_true rfl), in_X3, rfl, rfl, Or.inl rfl⟩
theorem fp_484 {own : String} (E : ax_EN G l) : ax_fp G (.boolean) false own 38 33 := ⟨_, en_c E (k := 38) rfl, tyX3_ok 33 (Nat.le_of_ble_eq_true rfl), rfl, fun h => by cases h⟩
theorem fe_485 (E : ax_EN G l) : ax_fe G "KernelGymModel" "interval" "I" 38 34 := ⟨_, en_c E (k := 38) rfl, (Nat.le_of_ble_eq_true rfl), in_X3, rfl, rfl, Or.inl rfl⟩
theorem fp_486 {own : String} (E : ax_EN G l) : ax_fp G (.int) false own 38 34 := ⟨_, en_c E (k := 38) rfl, tyX3_ok 34 (Nat.le_of_ble_eq_true rfl), rfl, fun h => by cases h⟩
theorem fe_487 (E : ax_EN G l) : ax_fe G "KernelGymModel" "time" "I" 38 35 := ⟨_, en_c E (k := 38) rfl, (Nat.le_of_ble_eq_true rfl), in_X3, rfl, rfl, Or.inl rfl⟩
theorem fp_488 {own : String} (E : ax_EN G l) : ax_fp G (.int) false own 38 35 := ⟨_, en_c E (k := 38) rfl, tyX3_ok 35 (Nat.le_of_ble_eq_true rfl), rfl, fun h => by cases h⟩
theorem fe_489 (E : ax_EN G l) : ax_fe G "KernelGymModel" "taped" "I" 38 37 := ⟨_, en_c E (k := 38) rfl, (Nat.le_of_ble_eq_true rfl), in_X3, rfl, rfl, Or.inl rfl⟩
theorem fp_490 {own : String} (E : ax_EN G l) : ax_fp G (.int) false own 38 37 := ⟨_, en_c E (k := 38) rfl, tyX3_ok 37 (Nat.le_of_ble_eq_true rfl), rfl, fun h => by cases h⟩
theorem fe_491 (E : ax_EN G l) : ax_fe G "KernelGymModel" "steps" "I" 38 38 := ⟨_, en_c E (k := 38) rfl, (Nat.le_of_ble_eq_true rfl), in_X3, rfl, rfl, Or.inl rfl⟩
theorem fp_492 {own : String} (E : ax_EN G l) : ax_fp G (.int) false own 38 38 := ⟨_, en_c E (k := 38) rfl, tyX3_ok 38 (Nat.le_of_ble_eq_true rfl), rfl, fun h => by cases h⟩
theorem fe_493 (E : ax_EN G l) : ax_fe G "KernelGymModel" "read" "I" 38 39 := ⟨_, en_c E (k := 38) rfl, (Nat.le_of_ble_eq_true rfl), in_X3, rfl, rfl, Or.inl rfl⟩
theorem fp_494 {own : String} (E : ax_EN G l) : ax_fp G (.int) false own 38 39 := ⟨_, en_c E (k := 38) rfl, tyX3_ok 39 (Nat.le_of_ble_eq_true rfl), rfl, fun h => by cases h⟩
theorem fe_495 (E : ax_EN G l) : ax_fe G "KernelGymModel" "left" "I" 38 46 := ⟨_, en_c E (k := 38) rfl, (Nat.le_of_ble_eq_true rfl), in_X3, rfl, rfl, Or.inl rfl⟩
theorem fp_496 {own : String} (E : ax_EN G l) : ax_fp G (.int) false own 38 46 := ⟨_, en_c E (k := 38) rfl, tyX3_ok 46 (Nat.le_of_ble_eq_true rfl), rfl, fun h => by cases h⟩
theorem nm_X3_filesOf : ax_nm yX3_filesOf 0 := ⟨by decide +kernel, by decide +kernel, by decide +kernel⟩
theorem nm_X3_entry : ax_nm yX3_entry 1 := ⟨by decide +kernel, by decide +kernel, by decide +kernel⟩
theorem nm_X3_canStep : ax_nm yX3_canStep 0 := ⟨by decide +kernel, by decide +kernel, by decide +kernel⟩
theorem nm_X3_stepsAndKeeps : ax_nm yX3_stepsAndKeeps 0 := ⟨by decide +kernel, by decide +kernel, by decide +kernel⟩
theorem nm_X3_stepsOnce : ax_nm yX3_stepsOnce 0 := ⟨by decide +kernel, by decide +kernel, by decide +kernel⟩
theorem nm_X3_writesBlock : ax_nm yX3_writesBlock 0 := ⟨by decide +kernel, by decide +kernel, by decide +kernel⟩
theorem nm_X3_interrupts : ax_nm yX3_interrupts 0 := ⟨by decide +kernel, by decide +kernel, by decide +kernel⟩
theorem nm_X3_instructs : ax_nm yX3_instructs 0 := ⟨by decide +kernel, by decide +kernel, by decide +kernel⟩
theorem nm_X3_keysCome : ax_nm yX3_keysCome 0 := ⟨by decide +kernel, by decide +kernel, by decide +kernel⟩
theorem nm_X3_faults : ax_nm yX3_faults 1 := ⟨by decide +kernel, by decide +kernel, by decide +kernel⟩
theorem nm_X3_pushes : ax_nm yX3_pushes 1 := ⟨by decide +kernel, by decide +kernel, by decide +kernel⟩
theorem nm_X3_writes : ax_nm yX3_writes 2 := ⟨by decide +kernel, by decide +kernel, by decide +kernel⟩
theorem nm_X3_keepsWrite : ax_nm yX3_keepsWrite 1 := ⟨by decide +kernel, by decide +kernel, by decide +kernel⟩
theorem nm_X3_faultOf : ax_nm yX3_faultOf 2 := ⟨by decide +kernel, by decide +kernel, by decide +kernel⟩
theorem nm_X3_reckons : ax_nm yX3_reckons 3 := ⟨by decide +kernel, by decide +kernel, by decide +kernel⟩
theorem nm_X3_jumps : ax_nm yX3_jumps 3 := ⟨by decide +kernel, by decide +kernel, by decide +kernel⟩
theorem nm_X3_others : ax_nm yX3_others 3 := ⟨by decide +kernel, by decide +kernel, by decide +kernel⟩
theorem nm_X3_made : ax_nm yX3_made 3 := ⟨by decide +kernel, by decide +kernel, by decide +kernel⟩
theorem nm_X3_shifted : ax_nm yX3_shifted 3 := ⟨by decide +kernel, by decide +kernel, by decide +kernel⟩
theorem nm_X3_pulls : ax_nm yX3_pulls 0 := ⟨by decide +kernel, by decide +kernel, by decide +kernel⟩
theorem nm_X3_calls : ax_nm yX3_calls 1 := ⟨by decide +kernel, by decide +kernel, by decide +kernel⟩
theorem nm_X3_come : ax_nm yX3_come 0 := ⟨by decide +kernel, by decide +kernel, by decide +kernel⟩
theorem nm_X3_find : ax_nm yX3_find 2 := ⟨by decide +kernel, by decide +kernel, by decide +kernel⟩
theorem nm_X3_resultOf : ax_nm yX3_resultOf 2 := ⟨by decide +kernel, by decide +kernel, by decide +kernel⟩
theorem nm_X3_blockOf : ax_nm yX3_blockOf 3 := ⟨by decide +kernel, by decide +kernel, by decide +kernel⟩
theorem nm_X3_makesFile : ax_nm yX3_makesFile 0 := ⟨by decide +kernel, by decide +kernel, by decide +kernel⟩
theorem nm_X3_appends : ax_nm yX3_appends 1 := ⟨by decide +kernel, by decide +kernel, by decide +kernel⟩
theorem nm_X3_replaces : ax_nm yX3_replaces 1 := ⟨by decide +kernel, by decide +kernel, by decide +kernel⟩
theorem nm_X3_removes : ax_nm yX3_removes 1 := ⟨by decide +kernel, by decide +kernel, by decide +kernel⟩
theorem nm_X3_renames : ax_nm yX3_renames 1 := ⟨by decide +kernel, by decide +kernel, by decide +kernel⟩
theorem nm_X3_prepares : ax_nm yX3_prepares 1 := ⟨by decide +kernel, by decide +kernel, by decide +kernel⟩
theorem nm_X3_freeBlock : ax_nm yX3_freeBlock 0 := ⟨by decide +kernel, by decide +kernel, by decide +kernel⟩
theorem nm_X3_isUsed : ax_nm yX3_isUsed 2 := ⟨by decide +kernel, by decide +kernel, by decide +kernel⟩
theorem nm_X3_blockOfEntry : ax_nm yX3_blockOfEntry 1 := ⟨by decide +kernel, by decide +kernel, by decide +kernel⟩
theorem nm_X3_turns : ax_nm yX3_turns 2 := ⟨by decide +kernel, by decide +kernel, by decide +kernel⟩
theorem fp_497 {own : String} (E : ax_EN G l) : ax_fp G (.int) false own 38 47 := ⟨_, en_c E (k := 38) rfl, tyX3_ok 47 (Nat.le_of_ble_eq_true rfl), rfl, fun h => by cases h⟩
theorem nm_X3_makesAnew : ax_nm yX3_makesAnew 1 := ⟨by decide +kernel, by decide +kernel, by decide +kernel⟩
theorem nm_X3_flagsOf : ax_nm yX3_flagsOf 0 := ⟨by decide +kernel, by decide +kernel, by decide +kernel⟩
theorem nm_X3_isAddress : ax_nm yX3_isAddress 1 := ⟨by decide +kernel, by decide +kernel, by decide +kernel⟩
theorem nm_X3_sumOf : ax_nm yX3_sumOf 0 := ⟨by decide +kernel, by decide +kernel, by decide +kernel⟩
theorem nm_X3_added : ax_nm yX3_added 2 := ⟨by decide +kernel, by decide +kernel, by decide +kernel⟩
theorem nm_X3_errorOfName : ax_nm yX3_errorOfName 1 := ⟨by decide +kernel, by decide +kernel, by decide +kernel⟩
theorem nm_X3_isWholeNow : ax_nm yX3_isWholeNow 0 := ⟨by decide +kernel, by decide +kernel, by decide +kernel⟩
theorem nm_X3_isEntrySo : ax_nm yX3_isEntrySo 1 := ⟨by decide +kernel, by decide +kernel, by decide +kernel⟩
theorem fe_498 (E : ax_EN G l) : ax_fe G "KernelGymModel" "draftedKeys" "I" 38 58 := ⟨_, en_c E (k := 38) rfl, (Nat.le_of_ble_eq_true rfl), in_X3, rfl, rfl, Or.inl rfl⟩
theorem fp_499 {own : String} (E : ax_EN G l) : ax_fp G (.int) false own 38 58 := ⟨_, en_c E (k := 38) rfl, tyX3_ok 58 (Nat.le_of_ble_eq_true rfl), rfl, fun h => by cases h⟩
theorem fe_500 (E : ax_EN G l) : ax_fe G "KernelGymModel" "draftedWords" "I" 38 59 := ⟨_, en_c E (k := 38) rfl, (Nat.le_of_ble_eq_true rfl), in_X3, rfl, rfl, Or.inl rfl⟩
theorem fp_501 {own : String} (E : ax_EN G l) : ax_fp G (.int) false own 38 59 := ⟨_, en_c E (k := 38) rfl, tyX3_ok 59 (Nat.le_of_ble_eq_true rfl), rfl, fun h => by cases h⟩
theorem fe_502 (E : ax_EN G l) : ax_fe G "KernelGymModel" "tests" "I" 38 60 := ⟨_, en_c E (k := 38) rfl, (Nat.le_of_ble_eq_true rfl), in_X3, rfl, rfl, Or.inl rfl⟩
theorem fp_503 {own : String} (E : ax_EN G l) : ax_fp G (.int) false own 38 60 := ⟨_, en_c E (k := 38) rfl, tyX3_ok 60 (Nat.le_of_ble_eq_true rfl), rfl, fun h => by cases h⟩
theorem nm_X3_madeTest : ax_nm yX3_madeTest 1 := ⟨by decide +kernel, by decide +kernel, by decide +kernel⟩
theorem nm_X3_isTapeOf : ax_nm yX3_isTapeOf 1 := ⟨by decide +kernel, by decide +kernel, by decide +kernel⟩
theorem fe_504 (E : ax_EN G l) : ax_fe G "KernelGym$1" "val$section" "I" 39 0 := ⟨_, en_c E (k := 39) rfl, (Nat.le_of_ble_eq_true rfl), in_X5, rfl, rfl, Or.inl rfl⟩
theorem fe_505 (E : ax_EN G l) : ax_fe G "KernelGym$Pass" "section" "I" 30 1 := ⟨_, en_c E (k := 30) rfl, (Nat.le_of_ble_eq_true rfl), in_X20, rfl, rfl, Or.inl rfl⟩
theorem fe_506 (E : ax_EN G l) : ax_fe G "KernelGym$Pass" "section" "I" 27 1 := ⟨_, en_c E (k := 27) rfl, (Nat.le_of_ble_eq_true rfl), in_X18, rfl, rfl, Or.inl rfl⟩
theorem fp_507 {own : String} (E : ax_EN G l) : ax_fp G (.int) false own 30 1 := ⟨_, en_c E (k := 30) rfl, tyX20_ok 1 (Nat.le_of_ble_eq_true rfl), rfl, fun h => by cases h⟩
theorem fp_508 {own : String} (E : ax_EN G l) : ax_fp G (.int) false own 27 1 := ⟨_, en_c E (k := 27) rfl, tyX18_ok 1 (Nat.le_of_ble_eq_true rfl), rfl, fun h => by cases h⟩
theorem fe_509 (E : ax_EN G l) : ax_fe G "KernelGym$1" "this$0" "LKernelGym;" 39 1 := ⟨_, en_c E (k := 39) rfl, (Nat.le_of_ble_eq_true rfl), in_X5, rfl, rfl, Or.inl rfl⟩
theorem fp_510 (E : ax_EN G l) : ax_fp G (.object "KernelGym") true RX5 39 1 := ⟨_, en_c E (k := 39) rfl, tyX5_ok 1 (Nat.le_of_ble_eq_true rfl), rfl, fun _ => rfl⟩
theorem fp_511 (E : ax_EN G l) : ax_fp G (.int) true RX5 39 0 := ⟨_, en_c E (k := 39) rfl, tyX5_ok 0 (Nat.le_of_ble_eq_true rfl), rfl, fun _ => rfl⟩
theorem fe_512 (E : ax_EN G l) : ax_fe G "KernelGym$2" "val$label" "I" 40 0 := ⟨_, en_c E (k := 40) rfl, (Nat.le_of_ble_eq_true rfl), in_X6, rfl, rfl, Or.inl rfl⟩
theorem xo_513 : "KernelGym$Pass" ≠ "java/lang/invoke/MethodHandle" ∧ "KernelGym$Pass" ≠ "java/lang/invoke/VarHandle" ∧ (parseMethodDescriptor "(ILKernelGym$Use;I)V").map (fun d => d.parameters.length) = some 3 := ⟨by decide +kernel, by decide +kernel, by decide +kernel⟩
theorem fe_514 (E : ax_EN G l) : ax_fe G "KernelGym$2" "this$0" "LKernelGym;" 40 1 := ⟨_, en_c E (k := 40) rfl, (Nat.le_of_ble_eq_true rfl), in_X6, rfl, rfl, Or.inl rfl⟩
theorem fp_515 (E : ax_EN G l) : ax_fp G (.object "KernelGym") true RX6 40 1 := ⟨_, en_c E (k := 40) rfl, tyX6_ok 1 (Nat.le_of_ble_eq_true rfl), rfl, fun _ => rfl⟩
theorem fp_516 (E : ax_EN G l) : ax_fp G (.int) true RX6 40 0 := ⟨_, en_c E (k := 40) rfl, tyX6_ok 0 (Nat.le_of_ble_eq_true rfl), rfl, fun _ => rfl⟩
theorem fp_517 (E : ax_EN G l) : ax_fp G (.int) true RX7 41 0 := ⟨_, en_c E (k := 41) rfl, tyX7_ok 0 (Nat.le_of_ble_eq_true rfl), rfl, fun _ => rfl⟩
theorem fp_518 (E : ax_EN G l) : ax_fp G (.int) true RX7 41 1 := ⟨_, en_c E (k := 41) rfl, tyX7_ok 1 (Nat.le_of_ble_eq_true rfl), rfl, fun _ => rfl⟩
theorem fe_519 (E : ax_EN G l) : ax_fe G "KernelGym$3" "val$operation" "I" 42 0 := ⟨_, en_c E (k := 42) rfl, (Nat.le_of_ble_eq_true rfl), in_X8, rfl, rfl, Or.inl rfl⟩
theorem fe_520 (E : ax_EN G l) : ax_fe G "KernelGym$3" "val$d" "I" 42 1 := ⟨_, en_c E (k := 42) rfl, (Nat.le_of_ble_eq_true rfl), in_X8, rfl, rfl, Or.inl rfl⟩
theorem fe_521 (E : ax_EN G l) : ax_fe G "KernelGym$3" "val$s" "I" 42 2 := ⟨_, en_c E (k := 42) rfl, (Nat.le_of_ble_eq_true rfl), in_X8, rfl, rfl, Or.inl rfl⟩
theorem fe_522 (E : ax_EN G l) : ax_fe G "KernelGym$3" "val$operand" "LKernelGym$Operand;" 42 3 := ⟨_, en_c E (k := 42) rfl, (Nat.le_of_ble_eq_true rfl), in_X8, rfl, rfl, Or.inl rfl⟩
theorem fe_523 (E : ax_EN G l) : ax_fe G "KernelGym$3" "this$0" "LKernelGym;" 42 4 := ⟨_, en_c E (k := 42) rfl, (Nat.le_of_ble_eq_true rfl), in_X8, rfl, rfl, Or.inl rfl⟩
theorem fp_524 (E : ax_EN G l) : ax_fp G (.object "KernelGym") true RX8 42 4 := ⟨_, en_c E (k := 42) rfl, tyX8_ok 4 (Nat.le_of_ble_eq_true rfl), rfl, fun _ => rfl⟩
theorem fp_525 (E : ax_EN G l) : ax_fp G (.int) true RX8 42 0 := ⟨_, en_c E (k := 42) rfl, tyX8_ok 0 (Nat.le_of_ble_eq_true rfl), rfl, fun _ => rfl⟩
theorem fp_526 (E : ax_EN G l) : ax_fp G (.int) true RX8 42 1 := ⟨_, en_c E (k := 42) rfl, tyX8_ok 1 (Nat.le_of_ble_eq_true rfl), rfl, fun _ => rfl⟩
theorem fp_527 (E : ax_EN G l) : ax_fp G (.int) true RX8 42 2 := ⟨_, en_c E (k := 42) rfl, tyX8_ok 2 (Nat.le_of_ble_eq_true rfl), rfl, fun _ => rfl⟩
theorem fp_528 (E : ax_EN G l) : ax_fp G (.object "KernelGym$Operand") true RX8 42 3 := ⟨_, en_c E (k := 42) rfl, tyX8_ok 3 (Nat.le_of_ble_eq_true rfl), rfl, fun _ => rfl⟩
theorem fe_529 (E : ax_EN G l) : ax_fe G "KernelGym$4" "val$operand" "LKernelGym$Operand;" 43 0 := ⟨_, en_c E (k := 43) rfl, (Nat.le_of_ble_eq_true rfl), in_X9, rfl, rfl, Or.inl rfl⟩
theorem fe_530 (E : ax_EN G l) : ax_fe G "KernelGym$4" "this$0" "LKernelGym;" 43 1 := ⟨_, en_c E (k := 43) rfl, (Nat.le_of_ble_eq_true rfl), in_X9, rfl, rfl, Or.inl rfl⟩
theorem fp_531 (E : ax_EN G l) : ax_fp G (.object "KernelGym") true RX9 43 1 := ⟨_, en_c E (k := 43) rfl, tyX9_ok 1 (Nat.le_of_ble_eq_true rfl), rfl, fun _ => rfl⟩
theorem fp_532 (E : ax_EN G l) : ax_fp G (.object "KernelGym$Operand") true RX9 43 0 := ⟨_, en_c E (k := 43) rfl, tyX9_ok 0 (Nat.le_of_ble_eq_true rfl), rfl, fun _ => rfl⟩
theorem hok_107 (E : ax_EN G l) : ax_hok G M_X0_section 4 (fun k : Nat => if k ∈ [0, 44] then some (some 15) else if k ∈ [18] then some (some 12) else if k ∈ [6, 7, 28, 32, 33, 34, 35, 45, 46] then some none else none) := by
  have hB := en_B E
  have h18 : ax_ho G M_X0_section 4 18 (some 12) := ⟨_, en_c E (k := 18) rfl, fun s args hs hw => ⟨(tableOf []), _, (tableOf [(0, 9, 15, 15)]), "java/lang/IllegalArgumentException", rfl, (List.forall_mem_nil _), rfl, by decide, rfl, hw _ q1682, (ax_mv hB hs hw q742 rfl)⟩⟩
  have h0 : ax_ho G M_X0_section 4 0 (some 15) := ⟨_, en_c E (k := 0) rfl, fun s args hs hw => ⟨(tableOf [(0, 9, 12, 13)]), _, (tableOf []), "java/lang/IllegalStateException", rfl, (List.forall_mem_cons.mpr ⟨(Or.inr ⟨by decide, _, hw _ q1682, _, en_c E (k := 0) rfl, va_Nc.moved hs.1.alike (en_n E 53 rfl)⟩), (List.forall_mem_nil _)⟩), rfl, by decide, rfl, hw _ q1683, (ax_mv hB hs hw q1719 rfl)⟩⟩
  have h6 : ax_ho G M_X0_section 4 6 none := ⟨_, en_c E (k := 6) rfl, fun s args hs hw => (List.forall_mem_cons.mpr ⟨(Or.inr ⟨by decide, _, hw _ q1682, _, en_c E (k := 6) rfl, va_Nc.moved hs.1.alike (en_n E 61 rfl)⟩), (List.forall_mem_cons.mpr ⟨(Or.inr ⟨by decide, _, hw _ q1683, _, en_c E (k := 6) rfl, va_Nc.moved hs.1.alike (en_n E 62 rfl)⟩), (List.forall_mem_nil _)⟩)⟩)⟩
  have h7 : ax_ho G M_X0_section 4 7 none := ⟨_, en_c E (k := 7) rfl, fun s args hs hw => (List.forall_mem_cons.mpr ⟨(Or.inr ⟨by decide, _, hw _ q1682, _, en_c E (k := 7) rfl, va_Nc.moved hs.1.alike (en_n E 69 rfl)⟩), (List.forall_mem_cons.mpr ⟨(Or.inr ⟨by decide, _, hw _ q1683, _, en_c E (k := 7) rfl, va_Nc.moved hs.1.alike (en_n E 70 rfl)⟩), (List.forall_mem_nil _)⟩)⟩)⟩
  have h28 : ax_ho G M_X0_section 4 28 none := ⟨_, en_c E (k := 28) rfl, fun s args hs hw => (List.forall_mem_cons.mpr ⟨(Or.inr ⟨by decide, _, hw _ q1682, _, en_c E (k := 28) rfl, va_Nc.moved hs.1.alike (en_n E 36 rfl)⟩), (List.forall_mem_cons.mpr ⟨(Or.inr ⟨by decide, _, hw _ q1683, _, en_c E (k := 28) rfl, va_Nc.moved hs.1.alike (en_n E 37 rfl)⟩), (List.forall_mem_nil _)⟩)⟩)⟩
  have h32 : ax_ho G M_X0_section 4 32 none := ⟨_, en_c E (k := 32) rfl, fun s args hs hw => (List.forall_mem_cons.mpr ⟨(Or.inr ⟨by decide, _, hw _ q1682, _, en_c E (k := 32) rfl, va_Nc.moved hs.1.alike (en_n E 20 rfl)⟩), (List.forall_mem_cons.mpr ⟨(Or.inr ⟨by decide, _, hw _ q1683, _, en_c E (k := 32) rfl, va_Nc.moved hs.1.alike (en_n E 21 rfl)⟩), (List.forall_mem_nil _)⟩)⟩)⟩
  have h33 : ax_ho G M_X0_section 4 33 none := ⟨_, en_c E (k := 33) rfl, fun s args hs hw => (List.forall_mem_cons.mpr ⟨(Or.inr ⟨by decide, _, hw _ q1682, _, en_c E (k := 33) rfl, va_Nc.moved hs.1.alike (en_n E 4 rfl)⟩), (List.forall_mem_cons.mpr ⟨(Or.inr ⟨by decide, _, hw _ q1683, _, en_c E (k := 33) rfl, va_Nc.moved hs.1.alike (en_n E 5 rfl)⟩), (List.forall_mem_nil _)⟩)⟩)⟩
  have h34 : ax_ho G M_X0_section 4 34 none := ⟨_, en_c E (k := 34) rfl, fun s args hs hw => (List.forall_mem_cons.mpr ⟨(Or.inr ⟨by decide, _, hw _ q1682, _, en_c E (k := 34) rfl, va_Nc.moved hs.1.alike (en_n E 12 rfl)⟩), (List.forall_mem_cons.mpr ⟨(Or.inr ⟨by decide, _, hw _ q1683, _, en_c E (k := 34) rfl, va_Nc.moved hs.1.alike (en_n E 13 rfl)⟩), (List.forall_mem_nil _)⟩)⟩)⟩
  have h35 : ax_ho G M_X0_section 4 35 none := ⟨_, en_c E (k := 35) rfl, fun s args hs hw => (List.forall_mem_cons.mpr ⟨(Or.inr ⟨by decide, _, hw _ q1682, _, en_c E (k := 35) rfl, va_Nc.moved hs.1.alike (en_n E 28 rfl)⟩), (List.forall_mem_cons.mpr ⟨(Or.inr ⟨by decide, _, hw _ q1683, _, en_c E (k := 35) rfl, va_Nc.moved hs.1.alike (en_n E 29 rfl)⟩), (List.forall_mem_nil _)⟩)⟩)⟩
  have h44 : ax_ho G M_X0_section 4 44 (some 15) := ⟨_, en_c E (k := 44) rfl, fun s args hs hw => ⟨(tableOf [(0, 9, 12, 13)]), _, (tableOf []), "java/lang/IllegalStateException", rfl, (List.forall_mem_cons.mpr ⟨(Or.inr ⟨by decide, _, hw _ q1682, _, en_c E (k := 44) rfl, va_Nc.moved hs.1.alike (en_n E 53 rfl)⟩), (List.forall_mem_nil _)⟩), rfl, by decide, rfl, hw _ q1683, (ax_mv hB hs hw q1719 rfl)⟩⟩
  have h45 : ax_ho G M_X0_section 4 45 none := ⟨_, en_c E (k := 45) rfl, fun s args hs hw => (List.forall_mem_cons.mpr ⟨(Or.inr ⟨by decide, _, hw _ q1682, _, en_c E (k := 45) rfl, va_Nc.moved hs.1.alike (en_n E 69 rfl)⟩), (List.forall_mem_cons.mpr ⟨(Or.inr ⟨by decide, _, hw _ q1683, _, en_c E (k := 45) rfl, va_Nc.moved hs.1.alike (en_n E 70 rfl)⟩), (List.forall_mem_nil _)⟩)⟩)⟩
  have h46 : ax_ho G M_X0_section 4 46 none := ⟨_, en_c E (k := 46) rfl, fun s args hs hw => (List.forall_mem_cons.mpr ⟨(Or.inr ⟨by decide, _, hw _ q1682, _, en_c E (k := 46) rfl, va_Nc.moved hs.1.alike (en_n E 61 rfl)⟩), (List.forall_mem_cons.mpr ⟨(Or.inr ⟨by decide, _, hw _ q1683, _, en_c E (k := 46) rfl, va_Nc.moved hs.1.alike (en_n E 62 rfl)⟩), (List.forall_mem_nil _)⟩)⟩)⟩
  intro k o h
  dsimp only at h
  split at h
  · rename_i hk
    cases h
    simp only [List.mem_cons, List.not_mem_nil, or_false] at hk
    rcases hk with rfl | rfl
    · exact h0
    · exact h44
  ·
    split at h
    · rename_i hk
      cases h
      simp only [List.mem_cons, List.not_mem_nil, or_false] at hk
      rcases hk with rfl
      exact h18
    ·
      split at h
      · rename_i hk
        cases h
        simp only [List.mem_cons, List.not_mem_nil, or_false] at hk
        rcases hk with rfl | rfl | rfl | rfl | rfl | rfl | rfl | rfl | rfl
        · exact h6
        · exact h7
        · exact h28
        · exact h32
        · exact h33
        · exact h34
        · exact h35
        · exact h45
        · exact h46
      · cases h
theorem hok_108 (E : ax_EN G l) : ax_hok G M_X0_label 4 (fun k : Nat => if k ∈ [0, 44] then some (some 15) else if k ∈ [18] then some (some 12) else if k ∈ [6, 7, 28, 32, 33, 34, 35, 45, 46] then some none else none) := by
  have hB := en_B E
  have h18 : ax_ho G M_X0_label 4 18 (some 12) := ⟨_, en_c E (k := 18) rfl, fun s args hs hw => ⟨(tableOf []), _, (tableOf [(0, 9, 15, 15)]), "java/lang/IllegalArgumentException", rfl, (List.forall_mem_nil _), rfl, by decide, rfl, hw _ q1682, (ax_mv hB hs hw q742 rfl)⟩⟩
  have h0 : ax_ho G M_X0_label 4 0 (some 15) := ⟨_, en_c E (k := 0) rfl, fun s args hs hw => ⟨(tableOf [(0, 9, 12, 13)]), _, (tableOf []), "java/lang/IllegalStateException", rfl, (List.forall_mem_cons.mpr ⟨(Or.inr ⟨by decide, _, hw _ q1682, _, en_c E (k := 0) rfl, va_Nc.moved hs.1.alike (en_n E 53 rfl)⟩), (List.forall_mem_nil _)⟩), rfl, by decide, rfl, hw _ q1683, (ax_mv hB hs hw q1719 rfl)⟩⟩
  have h6 : ax_ho G M_X0_label 4 6 none := ⟨_, en_c E (k := 6) rfl, fun s args hs hw => (List.forall_mem_cons.mpr ⟨(Or.inr ⟨by decide, _, hw _ q1682, _, en_c E (k := 6) rfl, va_Nc.moved hs.1.alike (en_n E 61 rfl)⟩), (List.forall_mem_cons.mpr ⟨(Or.inr ⟨by decide, _, hw _ q1683, _, en_c E (k := 6) rfl, va_Nc.moved hs.1.alike (en_n E 62 rfl)⟩), (List.forall_mem_nil _)⟩)⟩)⟩
  have h7 : ax_ho G M_X0_label 4 7 none := ⟨_, en_c E (k := 7) rfl, fun s args hs hw => (List.forall_mem_cons.mpr ⟨(Or.inr ⟨by decide, _, hw _ q1682, _, en_c E (k := 7) rfl, va_Nc.moved hs.1.alike (en_n E 69 rfl)⟩), (List.forall_mem_cons.mpr ⟨(Or.inr ⟨by decide, _, hw _ q1683, _, en_c E (k := 7) rfl, va_Nc.moved hs.1.alike (en_n E 70 rfl)⟩), (List.forall_mem_nil _)⟩)⟩)⟩
  have h28 : ax_ho G M_X0_label 4 28 none := ⟨_, en_c E (k := 28) rfl, fun s args hs hw => (List.forall_mem_cons.mpr ⟨(Or.inr ⟨by decide, _, hw _ q1682, _, en_c E (k := 28) rfl, va_Nc.moved hs.1.alike (en_n E 36 rfl)⟩), (List.forall_mem_cons.mpr ⟨(Or.inr ⟨by decide, _, hw _ q1683, _, en_c E (k := 28) rfl, va_Nc.moved hs.1.alike (en_n E 37 rfl)⟩), (List.forall_mem_nil _)⟩)⟩)⟩
  have h32 : ax_ho G M_X0_label 4 32 none := ⟨_, en_c E (k := 32) rfl, fun s args hs hw => (List.forall_mem_cons.mpr ⟨(Or.inr ⟨by decide, _, hw _ q1682, _, en_c E (k := 32) rfl, va_Nc.moved hs.1.alike (en_n E 20 rfl)⟩), (List.forall_mem_cons.mpr ⟨(Or.inr ⟨by decide, _, hw _ q1683, _, en_c E (k := 32) rfl, va_Nc.moved hs.1.alike (en_n E 21 rfl)⟩), (List.forall_mem_nil _)⟩)⟩)⟩
  have h33 : ax_ho G M_X0_label 4 33 none := ⟨_, en_c E (k := 33) rfl, fun s args hs hw => (List.forall_mem_cons.mpr ⟨(Or.inr ⟨by decide, _, hw _ q1682, _, en_c E (k := 33) rfl, va_Nc.moved hs.1.alike (en_n E 4 rfl)⟩), (List.forall_mem_cons.mpr ⟨(Or.inr ⟨by decide, _, hw _ q1683, _, en_c E (k := 33) rfl, va_Nc.moved hs.1.alike (en_n E 5 rfl)⟩), (List.forall_mem_nil _)⟩)⟩)⟩
  have h34 : ax_ho G M_X0_label 4 34 none := ⟨_, en_c E (k := 34) rfl, fun s args hs hw => (List.forall_mem_cons.mpr ⟨(Or.inr ⟨by decide, _, hw _ q1682, _, en_c E (k := 34) rfl, va_Nc.moved hs.1.alike (en_n E 12 rfl)⟩), (List.forall_mem_cons.mpr ⟨(Or.inr ⟨by decide, _, hw _ q1683, _, en_c E (k := 34) rfl, va_Nc.moved hs.1.alike (en_n E 13 rfl)⟩), (List.forall_mem_nil _)⟩)⟩)⟩
  have h35 : ax_ho G M_X0_label 4 35 none := ⟨_, en_c E (k := 35) rfl, fun s args hs hw => (List.forall_mem_cons.mpr ⟨(Or.inr ⟨by decide, _, hw _ q1682, _, en_c E (k := 35) rfl, va_Nc.moved hs.1.alike (en_n E 28 rfl)⟩), (List.forall_mem_cons.mpr ⟨(Or.inr ⟨by decide, _, hw _ q1683, _, en_c E (k := 35) rfl, va_Nc.moved hs.1.alike (en_n E 29 rfl)⟩), (List.forall_mem_nil _)⟩)⟩)⟩
  have h44 : ax_ho G M_X0_label 4 44 (some 15) := ⟨_, en_c E (k := 44) rfl, fun s args hs hw => ⟨(tableOf [(0, 9, 12, 13)]), _, (tableOf []), "java/lang/IllegalStateException", rfl, (List.forall_mem_cons.mpr ⟨(Or.inr ⟨by decide, _, hw _ q1682, _, en_c E (k := 44) rfl, va_Nc.moved hs.1.alike (en_n E 53 rfl)⟩), (List.forall_mem_nil _)⟩), rfl, by decide, rfl, hw _ q1683, (ax_mv hB hs hw q1719 rfl)⟩⟩
  have h45 : ax_ho G M_X0_label 4 45 none := ⟨_, en_c E (k := 45) rfl, fun s args hs hw => (List.forall_mem_cons.mpr ⟨(Or.inr ⟨by decide, _, hw _ q1682, _, en_c E (k := 45) rfl, va_Nc.moved hs.1.alike (en_n E 69 rfl)⟩), (List.forall_mem_cons.mpr ⟨(Or.inr ⟨by decide, _, hw _ q1683, _, en_c E (k := 45) rfl, va_Nc.moved hs.1.alike (en_n E 70 rfl)⟩), (List.forall_mem_nil _)⟩)⟩)⟩
  have h46 : ax_ho G M_X0_label 4 46 none := ⟨_, en_c E (k := 46) rfl, fun s args hs hw => (List.forall_mem_cons.mpr ⟨(Or.inr ⟨by decide, _, hw _ q1682, _, en_c E (k := 46) rfl, va_Nc.moved hs.1.alike (en_n E 61 rfl)⟩), (List.forall_mem_cons.mpr ⟨(Or.inr ⟨by decide, _, hw _ q1683, _, en_c E (k := 46) rfl, va_Nc.moved hs.1.alike (en_n E 62 rfl)⟩), (List.forall_mem_nil _)⟩)⟩)⟩
  intro k o h
  dsimp only at h
  split at h
  · rename_i hk
    cases h
    simp only [List.mem_cons, List.not_mem_nil, or_false] at hk
    rcases hk with rfl | rfl
    · exact h0
    · exact h44
  ·
    split at h
    · rename_i hk
      cases h
      simp only [List.mem_cons, List.not_mem_nil, or_false] at hk
      rcases hk with rfl
      exact h18
    ·
      split at h
      · rename_i hk
        cases h
        simp only [List.mem_cons, List.not_mem_nil, or_false] at hk
        rcases hk with rfl | rfl | rfl | rfl | rfl | rfl | rfl | rfl | rfl
        · exact h6
        · exact h7
        · exact h28
        · exact h32
        · exact h33
        · exact h34
        · exact h35
        · exact h45
        · exact h46
      · cases h
theorem hok_109 (E : ax_EN G l) : ax_hok G M_X0_code 11 (fun k : Nat => if k ∈ [0, 44] then some (some 23) else if k ∈ [18] then some (some 19) else if k ∈ [6, 7, 28, 32, 33, 34, 35, 45, 46] then some none else none) := by
  have hB := en_B E
  have h18 : ax_ho G M_X0_code 11 18 (some 19) := ⟨_, en_c E (k := 18) rfl, fun s args hs hw => ⟨(tableOf []), _, (tableOf [(0, 16, 23, 15)]), "java/lang/IllegalArgumentException", rfl, (List.forall_mem_nil _), rfl, by decide, rfl, hw _ q1682, (ax_mv hB hs hw q742 rfl)⟩⟩
  have h0 : ax_ho G M_X0_code 11 0 (some 23) := ⟨_, en_c E (k := 0) rfl, fun s args hs hw => ⟨(tableOf [(0, 16, 19, 13)]), _, (tableOf []), "java/lang/IllegalStateException", rfl, (List.forall_mem_cons.mpr ⟨(Or.inr ⟨by decide, _, hw _ q1682, _, en_c E (k := 0) rfl, va_Nc.moved hs.1.alike (en_n E 53 rfl)⟩), (List.forall_mem_nil _)⟩), rfl, by decide, rfl, hw _ q1683, (ax_mv hB hs hw q1719 rfl)⟩⟩
  have h6 : ax_ho G M_X0_code 11 6 none := ⟨_, en_c E (k := 6) rfl, fun s args hs hw => (List.forall_mem_cons.mpr ⟨(Or.inr ⟨by decide, _, hw _ q1682, _, en_c E (k := 6) rfl, va_Nc.moved hs.1.alike (en_n E 61 rfl)⟩), (List.forall_mem_cons.mpr ⟨(Or.inr ⟨by decide, _, hw _ q1683, _, en_c E (k := 6) rfl, va_Nc.moved hs.1.alike (en_n E 62 rfl)⟩), (List.forall_mem_nil _)⟩)⟩)⟩
  have h7 : ax_ho G M_X0_code 11 7 none := ⟨_, en_c E (k := 7) rfl, fun s args hs hw => (List.forall_mem_cons.mpr ⟨(Or.inr ⟨by decide, _, hw _ q1682, _, en_c E (k := 7) rfl, va_Nc.moved hs.1.alike (en_n E 69 rfl)⟩), (List.forall_mem_cons.mpr ⟨(Or.inr ⟨by decide, _, hw _ q1683, _, en_c E (k := 7) rfl, va_Nc.moved hs.1.alike (en_n E 70 rfl)⟩), (List.forall_mem_nil _)⟩)⟩)⟩
  have h28 : ax_ho G M_X0_code 11 28 none := ⟨_, en_c E (k := 28) rfl, fun s args hs hw => (List.forall_mem_cons.mpr ⟨(Or.inr ⟨by decide, _, hw _ q1682, _, en_c E (k := 28) rfl, va_Nc.moved hs.1.alike (en_n E 36 rfl)⟩), (List.forall_mem_cons.mpr ⟨(Or.inr ⟨by decide, _, hw _ q1683, _, en_c E (k := 28) rfl, va_Nc.moved hs.1.alike (en_n E 37 rfl)⟩), (List.forall_mem_nil _)⟩)⟩)⟩
  have h32 : ax_ho G M_X0_code 11 32 none := ⟨_, en_c E (k := 32) rfl, fun s args hs hw => (List.forall_mem_cons.mpr ⟨(Or.inr ⟨by decide, _, hw _ q1682, _, en_c E (k := 32) rfl, va_Nc.moved hs.1.alike (en_n E 20 rfl)⟩), (List.forall_mem_cons.mpr ⟨(Or.inr ⟨by decide, _, hw _ q1683, _, en_c E (k := 32) rfl, va_Nc.moved hs.1.alike (en_n E 21 rfl)⟩), (List.forall_mem_nil _)⟩)⟩)⟩
  have h33 : ax_ho G M_X0_code 11 33 none := ⟨_, en_c E (k := 33) rfl, fun s args hs hw => (List.forall_mem_cons.mpr ⟨(Or.inr ⟨by decide, _, hw _ q1682, _, en_c E (k := 33) rfl, va_Nc.moved hs.1.alike (en_n E 4 rfl)⟩), (List.forall_mem_cons.mpr ⟨(Or.inr ⟨by decide, _, hw _ q1683, _, en_c E (k := 33) rfl, va_Nc.moved hs.1.alike (en_n E 5 rfl)⟩), (List.forall_mem_nil _)⟩)⟩)⟩
  have h34 : ax_ho G M_X0_code 11 34 none := ⟨_, en_c E (k := 34) rfl, fun s args hs hw => (List.forall_mem_cons.mpr ⟨(Or.inr ⟨by decide, _, hw _ q1682, _, en_c E (k := 34) rfl, va_Nc.moved hs.1.alike (en_n E 12 rfl)⟩), (List.forall_mem_cons.mpr ⟨(Or.inr ⟨by decide, _, hw _ q1683, _, en_c E (k := 34) rfl, va_Nc.moved hs.1.alike (en_n E 13 rfl)⟩), (List.forall_mem_nil _)⟩)⟩)⟩
  have h35 : ax_ho G M_X0_code 11 35 none := ⟨_, en_c E (k := 35) rfl, fun s args hs hw => (List.forall_mem_cons.mpr ⟨(Or.inr ⟨by decide, _, hw _ q1682, _, en_c E (k := 35) rfl, va_Nc.moved hs.1.alike (en_n E 28 rfl)⟩), (List.forall_mem_cons.mpr ⟨(Or.inr ⟨by decide, _, hw _ q1683, _, en_c E (k := 35) rfl, va_Nc.moved hs.1.alike (en_n E 29 rfl)⟩), (List.forall_mem_nil _)⟩)⟩)⟩
  have h44 : ax_ho G M_X0_code 11 44 (some 23) := ⟨_, en_c E (k := 44) rfl, fun s args hs hw => ⟨(tableOf [(0, 16, 19, 13)]), _, (tableOf []), "java/lang/IllegalStateException", rfl, (List.forall_mem_cons.mpr ⟨(Or.inr ⟨by decide, _, hw _ q1682, _, en_c E (k := 44) rfl, va_Nc.moved hs.1.alike (en_n E 53 rfl)⟩), (List.forall_mem_nil _)⟩), rfl, by decide, rfl, hw _ q1683, (ax_mv hB hs hw q1719 rfl)⟩⟩
  have h45 : ax_ho G M_X0_code 11 45 none := ⟨_, en_c E (k := 45) rfl, fun s args hs hw => (List.forall_mem_cons.mpr ⟨(Or.inr ⟨by decide, _, hw _ q1682, _, en_c E (k := 45) rfl, va_Nc.moved hs.1.alike (en_n E 69 rfl)⟩), (List.forall_mem_cons.mpr ⟨(Or.inr ⟨by decide, _, hw _ q1683, _, en_c E (k := 45) rfl, va_Nc.moved hs.1.alike (en_n E 70 rfl)⟩), (List.forall_mem_nil _)⟩)⟩)⟩
  have h46 : ax_ho G M_X0_code 11 46 none := ⟨_, en_c E (k := 46) rfl, fun s args hs hw => (List.forall_mem_cons.mpr ⟨(Or.inr ⟨by decide, _, hw _ q1682, _, en_c E (k := 46) rfl, va_Nc.moved hs.1.alike (en_n E 61 rfl)⟩), (List.forall_mem_cons.mpr ⟨(Or.inr ⟨by decide, _, hw _ q1683, _, en_c E (k := 46) rfl, va_Nc.moved hs.1.alike (en_n E 62 rfl)⟩), (List.forall_mem_nil _)⟩)⟩)⟩
  intro k o h
  dsimp only at h
  split at h
  · rename_i hk
    cases h
    simp only [List.mem_cons, List.not_mem_nil, or_false] at hk
    rcases hk with rfl | rfl
    · exact h0
    · exact h44
  ·
    split at h
    · rename_i hk
      cases h
      simp only [List.mem_cons, List.not_mem_nil, or_false] at hk
      rcases hk with rfl
      exact h18
    ·
      split at h
      · rename_i hk
        cases h
        simp only [List.mem_cons, List.not_mem_nil, or_false] at hk
        rcases hk with rfl | rfl | rfl | rfl | rfl | rfl | rfl | rfl | rfl
        · exact h6
        · exact h7
        · exact h28
        · exact h32
        · exact h33
        · exact h34
        · exact h35
        · exact h45
        · exact h46
      · cases h
theorem hok_110 (E : ax_EN G l) : ax_hok G M_X0_word 5 (fun k : Nat => if k ∈ [0, 44] then some (some 17) else if k ∈ [18] then some (some 13) else if k ∈ [6, 7, 28, 32, 33, 34, 35, 45, 46] then some none else none) := by
  have hB := en_B E
  have h18 : ax_ho G M_X0_word 5 18 (some 13) := ⟨_, en_c E (k := 18) rfl, fun s args hs hw => ⟨(tableOf []), _, (tableOf [(0, 10, 17, 15)]), "java/lang/IllegalArgumentException", rfl, (List.forall_mem_nil _), rfl, by decide, rfl, hw _ q1682, (ax_mv hB hs hw q742 rfl)⟩⟩
  have h0 : ax_ho G M_X0_word 5 0 (some 17) := ⟨_, en_c E (k := 0) rfl, fun s args hs hw => ⟨(tableOf [(0, 10, 13, 13)]), _, (tableOf []), "java/lang/IllegalStateException", rfl, (List.forall_mem_cons.mpr ⟨(Or.inr ⟨by decide, _, hw _ q1682, _, en_c E (k := 0) rfl, va_Nc.moved hs.1.alike (en_n E 53 rfl)⟩), (List.forall_mem_nil _)⟩), rfl, by decide, rfl, hw _ q1683, (ax_mv hB hs hw q1719 rfl)⟩⟩
  have h6 : ax_ho G M_X0_word 5 6 none := ⟨_, en_c E (k := 6) rfl, fun s args hs hw => (List.forall_mem_cons.mpr ⟨(Or.inr ⟨by decide, _, hw _ q1682, _, en_c E (k := 6) rfl, va_Nc.moved hs.1.alike (en_n E 61 rfl)⟩), (List.forall_mem_cons.mpr ⟨(Or.inr ⟨by decide, _, hw _ q1683, _, en_c E (k := 6) rfl, va_Nc.moved hs.1.alike (en_n E 62 rfl)⟩), (List.forall_mem_nil _)⟩)⟩)⟩
  have h7 : ax_ho G M_X0_word 5 7 none := ⟨_, en_c E (k := 7) rfl, fun s args hs hw => (List.forall_mem_cons.mpr ⟨(Or.inr ⟨by decide, _, hw _ q1682, _, en_c E (k := 7) rfl, va_Nc.moved hs.1.alike (en_n E 69 rfl)⟩), (List.forall_mem_cons.mpr ⟨(Or.inr ⟨by decide, _, hw _ q1683, _, en_c E (k := 7) rfl, va_Nc.moved hs.1.alike (en_n E 70 rfl)⟩), (List.forall_mem_nil _)⟩)⟩)⟩
  have h28 : ax_ho G M_X0_word 5 28 none := ⟨_, en_c E (k := 28) rfl, fun s args hs hw => (List.forall_mem_cons.mpr ⟨(Or.inr ⟨by decide, _, hw _ q1682, _, en_c E (k := 28) rfl, va_Nc.moved hs.1.alike (en_n E 36 rfl)⟩), (List.forall_mem_cons.mpr ⟨(Or.inr ⟨by decide, _, hw _ q1683, _, en_c E (k := 28) rfl, va_Nc.moved hs.1.alike (en_n E 37 rfl)⟩), (List.forall_mem_nil _)⟩)⟩)⟩
  have h32 : ax_ho G M_X0_word 5 32 none := ⟨_, en_c E (k := 32) rfl, fun s args hs hw => (List.forall_mem_cons.mpr ⟨(Or.inr ⟨by decide, _, hw _ q1682, _, en_c E (k := 32) rfl, va_Nc.moved hs.1.alike (en_n E 20 rfl)⟩), (List.forall_mem_cons.mpr ⟨(Or.inr ⟨by decide, _, hw _ q1683, _, en_c E (k := 32) rfl, va_Nc.moved hs.1.alike (en_n E 21 rfl)⟩), (List.forall_mem_nil _)⟩)⟩)⟩
  have h33 : ax_ho G M_X0_word 5 33 none := ⟨_, en_c E (k := 33) rfl, fun s args hs hw => (List.forall_mem_cons.mpr ⟨(Or.inr ⟨by decide, _, hw _ q1682, _, en_c E (k := 33) rfl, va_Nc.moved hs.1.alike (en_n E 4 rfl)⟩), (List.forall_mem_cons.mpr ⟨(Or.inr ⟨by decide, _, hw _ q1683, _, en_c E (k := 33) rfl, va_Nc.moved hs.1.alike (en_n E 5 rfl)⟩), (List.forall_mem_nil _)⟩)⟩)⟩
  have h34 : ax_ho G M_X0_word 5 34 none := ⟨_, en_c E (k := 34) rfl, fun s args hs hw => (List.forall_mem_cons.mpr ⟨(Or.inr ⟨by decide, _, hw _ q1682, _, en_c E (k := 34) rfl, va_Nc.moved hs.1.alike (en_n E 12 rfl)⟩), (List.forall_mem_cons.mpr ⟨(Or.inr ⟨by decide, _, hw _ q1683, _, en_c E (k := 34) rfl, va_Nc.moved hs.1.alike (en_n E 13 rfl)⟩), (List.forall_mem_nil _)⟩)⟩)⟩
  have h35 : ax_ho G M_X0_word 5 35 none := ⟨_, en_c E (k := 35) rfl, fun s args hs hw => (List.forall_mem_cons.mpr ⟨(Or.inr ⟨by decide, _, hw _ q1682, _, en_c E (k := 35) rfl, va_Nc.moved hs.1.alike (en_n E 28 rfl)⟩), (List.forall_mem_cons.mpr ⟨(Or.inr ⟨by decide, _, hw _ q1683, _, en_c E (k := 35) rfl, va_Nc.moved hs.1.alike (en_n E 29 rfl)⟩), (List.forall_mem_nil _)⟩)⟩)⟩
  have h44 : ax_ho G M_X0_word 5 44 (some 17) := ⟨_, en_c E (k := 44) rfl, fun s args hs hw => ⟨(tableOf [(0, 10, 13, 13)]), _, (tableOf []), "java/lang/IllegalStateException", rfl, (List.forall_mem_cons.mpr ⟨(Or.inr ⟨by decide, _, hw _ q1682, _, en_c E (k := 44) rfl, va_Nc.moved hs.1.alike (en_n E 53 rfl)⟩), (List.forall_mem_nil _)⟩), rfl, by decide, rfl, hw _ q1683, (ax_mv hB hs hw q1719 rfl)⟩⟩
  have h45 : ax_ho G M_X0_word 5 45 none := ⟨_, en_c E (k := 45) rfl, fun s args hs hw => (List.forall_mem_cons.mpr ⟨(Or.inr ⟨by decide, _, hw _ q1682, _, en_c E (k := 45) rfl, va_Nc.moved hs.1.alike (en_n E 69 rfl)⟩), (List.forall_mem_cons.mpr ⟨(Or.inr ⟨by decide, _, hw _ q1683, _, en_c E (k := 45) rfl, va_Nc.moved hs.1.alike (en_n E 70 rfl)⟩), (List.forall_mem_nil _)⟩)⟩)⟩
  have h46 : ax_ho G M_X0_word 5 46 none := ⟨_, en_c E (k := 46) rfl, fun s args hs hw => (List.forall_mem_cons.mpr ⟨(Or.inr ⟨by decide, _, hw _ q1682, _, en_c E (k := 46) rfl, va_Nc.moved hs.1.alike (en_n E 61 rfl)⟩), (List.forall_mem_cons.mpr ⟨(Or.inr ⟨by decide, _, hw _ q1683, _, en_c E (k := 46) rfl, va_Nc.moved hs.1.alike (en_n E 62 rfl)⟩), (List.forall_mem_nil _)⟩)⟩)⟩
  intro k o h
  dsimp only at h
  split at h
  · rename_i hk
    cases h
    simp only [List.mem_cons, List.not_mem_nil, or_false] at hk
    rcases hk with rfl | rfl
    · exact h0
    · exact h44
  ·
    split at h
    · rename_i hk
      cases h
      simp only [List.mem_cons, List.not_mem_nil, or_false] at hk
      rcases hk with rfl
      exact h18
    ·
      split at h
      · rename_i hk
        cases h
        simp only [List.mem_cons, List.not_mem_nil, or_false] at hk
        rcases hk with rfl | rfl | rfl | rfl | rfl | rfl | rfl | rfl | rfl
        · exact h6
        · exact h7
        · exact h28
        · exact h32
        · exact h33
        · exact h34
        · exact h35
        · exact h45
        · exact h46
      · cases h
theorem hok_111 (E : ax_EN G l) : ax_hok G M_X0_space 4 (fun k : Nat => if k ∈ [0, 44] then some (some 15) else if k ∈ [18] then some (some 12) else if k ∈ [6, 7, 28, 32, 33, 34, 35, 45, 46] then some none else none) := by
  have hB := en_B E
  have h18 : ax_ho G M_X0_space 4 18 (some 12) := ⟨_, en_c E (k := 18) rfl, fun s args hs hw => ⟨(tableOf []), _, (tableOf [(0, 9, 15, 15)]), "java/lang/IllegalArgumentException", rfl, (List.forall_mem_nil _), rfl, by decide, rfl, hw _ q1682, (ax_mv hB hs hw q742 rfl)⟩⟩
  have h0 : ax_ho G M_X0_space 4 0 (some 15) := ⟨_, en_c E (k := 0) rfl, fun s args hs hw => ⟨(tableOf [(0, 9, 12, 13)]), _, (tableOf []), "java/lang/IllegalStateException", rfl, (List.forall_mem_cons.mpr ⟨(Or.inr ⟨by decide, _, hw _ q1682, _, en_c E (k := 0) rfl, va_Nc.moved hs.1.alike (en_n E 53 rfl)⟩), (List.forall_mem_nil _)⟩), rfl, by decide, rfl, hw _ q1683, (ax_mv hB hs hw q1719 rfl)⟩⟩
  have h6 : ax_ho G M_X0_space 4 6 none := ⟨_, en_c E (k := 6) rfl, fun s args hs hw => (List.forall_mem_cons.mpr ⟨(Or.inr ⟨by decide, _, hw _ q1682, _, en_c E (k := 6) rfl, va_Nc.moved hs.1.alike (en_n E 61 rfl)⟩), (List.forall_mem_cons.mpr ⟨(Or.inr ⟨by decide, _, hw _ q1683, _, en_c E (k := 6) rfl, va_Nc.moved hs.1.alike (en_n E 62 rfl)⟩), (List.forall_mem_nil _)⟩)⟩)⟩
  have h7 : ax_ho G M_X0_space 4 7 none := ⟨_, en_c E (k := 7) rfl, fun s args hs hw => (List.forall_mem_cons.mpr ⟨(Or.inr ⟨by decide, _, hw _ q1682, _, en_c E (k := 7) rfl, va_Nc.moved hs.1.alike (en_n E 69 rfl)⟩), (List.forall_mem_cons.mpr ⟨(Or.inr ⟨by decide, _, hw _ q1683, _, en_c E (k := 7) rfl, va_Nc.moved hs.1.alike (en_n E 70 rfl)⟩), (List.forall_mem_nil _)⟩)⟩)⟩
  have h28 : ax_ho G M_X0_space 4 28 none := ⟨_, en_c E (k := 28) rfl, fun s args hs hw => (List.forall_mem_cons.mpr ⟨(Or.inr ⟨by decide, _, hw _ q1682, _, en_c E (k := 28) rfl, va_Nc.moved hs.1.alike (en_n E 36 rfl)⟩), (List.forall_mem_cons.mpr ⟨(Or.inr ⟨by decide, _, hw _ q1683, _, en_c E (k := 28) rfl, va_Nc.moved hs.1.alike (en_n E 37 rfl)⟩), (List.forall_mem_nil _)⟩)⟩)⟩
  have h32 : ax_ho G M_X0_space 4 32 none := ⟨_, en_c E (k := 32) rfl, fun s args hs hw => (List.forall_mem_cons.mpr ⟨(Or.inr ⟨by decide, _, hw _ q1682, _, en_c E (k := 32) rfl, va_Nc.moved hs.1.alike (en_n E 20 rfl)⟩), (List.forall_mem_cons.mpr ⟨(Or.inr ⟨by decide, _, hw _ q1683, _, en_c E (k := 32) rfl, va_Nc.moved hs.1.alike (en_n E 21 rfl)⟩), (List.forall_mem_nil _)⟩)⟩)⟩
  have h33 : ax_ho G M_X0_space 4 33 none := ⟨_, en_c E (k := 33) rfl, fun s args hs hw => (List.forall_mem_cons.mpr ⟨(Or.inr ⟨by decide, _, hw _ q1682, _, en_c E (k := 33) rfl, va_Nc.moved hs.1.alike (en_n E 4 rfl)⟩), (List.forall_mem_cons.mpr ⟨(Or.inr ⟨by decide, _, hw _ q1683, _, en_c E (k := 33) rfl, va_Nc.moved hs.1.alike (en_n E 5 rfl)⟩), (List.forall_mem_nil _)⟩)⟩)⟩
  have h34 : ax_ho G M_X0_space 4 34 none := ⟨_, en_c E (k := 34) rfl, fun s args hs hw => (List.forall_mem_cons.mpr ⟨(Or.inr ⟨by decide, _, hw _ q1682, _, en_c E (k := 34) rfl, va_Nc.moved hs.1.alike (en_n E 12 rfl)⟩), (List.forall_mem_cons.mpr ⟨(Or.inr ⟨by decide, _, hw _ q1683, _, en_c E (k := 34) rfl, va_Nc.moved hs.1.alike (en_n E 13 rfl)⟩), (List.forall_mem_nil _)⟩)⟩)⟩
  have h35 : ax_ho G M_X0_space 4 35 none := ⟨_, en_c E (k := 35) rfl, fun s args hs hw => (List.forall_mem_cons.mpr ⟨(Or.inr ⟨by decide, _, hw _ q1682, _, en_c E (k := 35) rfl, va_Nc.moved hs.1.alike (en_n E 28 rfl)⟩), (List.forall_mem_cons.mpr ⟨(Or.inr ⟨by decide, _, hw _ q1683, _, en_c E (k := 35) rfl, va_Nc.moved hs.1.alike (en_n E 29 rfl)⟩), (List.forall_mem_nil _)⟩)⟩)⟩
  have h44 : ax_ho G M_X0_space 4 44 (some 15) := ⟨_, en_c E (k := 44) rfl, fun s args hs hw => ⟨(tableOf [(0, 9, 12, 13)]), _, (tableOf []), "java/lang/IllegalStateException", rfl, (List.forall_mem_cons.mpr ⟨(Or.inr ⟨by decide, _, hw _ q1682, _, en_c E (k := 44) rfl, va_Nc.moved hs.1.alike (en_n E 53 rfl)⟩), (List.forall_mem_nil _)⟩), rfl, by decide, rfl, hw _ q1683, (ax_mv hB hs hw q1719 rfl)⟩⟩
  have h45 : ax_ho G M_X0_space 4 45 none := ⟨_, en_c E (k := 45) rfl, fun s args hs hw => (List.forall_mem_cons.mpr ⟨(Or.inr ⟨by decide, _, hw _ q1682, _, en_c E (k := 45) rfl, va_Nc.moved hs.1.alike (en_n E 69 rfl)⟩), (List.forall_mem_cons.mpr ⟨(Or.inr ⟨by decide, _, hw _ q1683, _, en_c E (k := 45) rfl, va_Nc.moved hs.1.alike (en_n E 70 rfl)⟩), (List.forall_mem_nil _)⟩)⟩)⟩
  have h46 : ax_ho G M_X0_space 4 46 none := ⟨_, en_c E (k := 46) rfl, fun s args hs hw => (List.forall_mem_cons.mpr ⟨(Or.inr ⟨by decide, _, hw _ q1682, _, en_c E (k := 46) rfl, va_Nc.moved hs.1.alike (en_n E 61 rfl)⟩), (List.forall_mem_cons.mpr ⟨(Or.inr ⟨by decide, _, hw _ q1683, _, en_c E (k := 46) rfl, va_Nc.moved hs.1.alike (en_n E 62 rfl)⟩), (List.forall_mem_nil _)⟩)⟩)⟩
  intro k o h
  dsimp only at h
  split at h
  · rename_i hk
    cases h
    simp only [List.mem_cons, List.not_mem_nil, or_false] at hk
    rcases hk with rfl | rfl
    · exact h0
    · exact h44
  ·
    split at h
    · rename_i hk
      cases h
      simp only [List.mem_cons, List.not_mem_nil, or_false] at hk
      rcases hk with rfl
      exact h18
    ·
      split at h
      · rename_i hk
        cases h
        simp only [List.mem_cons, List.not_mem_nil, or_false] at hk
        rcases hk with rfl | rfl | rfl | rfl | rfl | rfl | rfl | rfl | rfl
        · exact h6
        · exact h7
        · exact h28
        · exact h32
        · exact h33
        · exact h34
        · exact h35
        · exact h45
        · exact h46
      · cases h
theorem hok_112 (E : ax_EN G l) : ax_hok G M_X0_vector 7 (fun k : Nat => if k ∈ [0, 44] then some (some 19) else if k ∈ [18] then some (some 15) else if k ∈ [6, 7, 28, 32, 33, 34, 35, 45, 46] then some none else none) := by
  have hB := en_B E
  have h18 : ax_ho G M_X0_vector 7 18 (some 15) := ⟨_, en_c E (k := 18) rfl, fun s args hs hw => ⟨(tableOf []), _, (tableOf [(0, 12, 19, 15)]), "java/lang/IllegalArgumentException", rfl, (List.forall_mem_nil _), rfl, by decide, rfl, hw _ q1682, (ax_mv hB hs hw q742 rfl)⟩⟩
  have h0 : ax_ho G M_X0_vector 7 0 (some 19) := ⟨_, en_c E (k := 0) rfl, fun s args hs hw => ⟨(tableOf [(0, 12, 15, 13)]), _, (tableOf []), "java/lang/IllegalStateException", rfl, (List.forall_mem_cons.mpr ⟨(Or.inr ⟨by decide, _, hw _ q1682, _, en_c E (k := 0) rfl, va_Nc.moved hs.1.alike (en_n E 53 rfl)⟩), (List.forall_mem_nil _)⟩), rfl, by decide, rfl, hw _ q1683, (ax_mv hB hs hw q1719 rfl)⟩⟩
  have h6 : ax_ho G M_X0_vector 7 6 none := ⟨_, en_c E (k := 6) rfl, fun s args hs hw => (List.forall_mem_cons.mpr ⟨(Or.inr ⟨by decide, _, hw _ q1682, _, en_c E (k := 6) rfl, va_Nc.moved hs.1.alike (en_n E 61 rfl)⟩), (List.forall_mem_cons.mpr ⟨(Or.inr ⟨by decide, _, hw _ q1683, _, en_c E (k := 6) rfl, va_Nc.moved hs.1.alike (en_n E 62 rfl)⟩), (List.forall_mem_nil _)⟩)⟩)⟩
  have h7 : ax_ho G M_X0_vector 7 7 none := ⟨_, en_c E (k := 7) rfl, fun s args hs hw => (List.forall_mem_cons.mpr ⟨(Or.inr ⟨by decide, _, hw _ q1682, _, en_c E (k := 7) rfl, va_Nc.moved hs.1.alike (en_n E 69 rfl)⟩), (List.forall_mem_cons.mpr ⟨(Or.inr ⟨by decide, _, hw _ q1683, _, en_c E (k := 7) rfl, va_Nc.moved hs.1.alike (en_n E 70 rfl)⟩), (List.forall_mem_nil _)⟩)⟩)⟩
  have h28 : ax_ho G M_X0_vector 7 28 none := ⟨_, en_c E (k := 28) rfl, fun s args hs hw => (List.forall_mem_cons.mpr ⟨(Or.inr ⟨by decide, _, hw _ q1682, _, en_c E (k := 28) rfl, va_Nc.moved hs.1.alike (en_n E 36 rfl)⟩), (List.forall_mem_cons.mpr ⟨(Or.inr ⟨by decide, _, hw _ q1683, _, en_c E (k := 28) rfl, va_Nc.moved hs.1.alike (en_n E 37 rfl)⟩), (List.forall_mem_nil _)⟩)⟩)⟩
  have h32 : ax_ho G M_X0_vector 7 32 none := ⟨_, en_c E (k := 32) rfl, fun s args hs hw => (List.forall_mem_cons.mpr ⟨(Or.inr ⟨by decide, _, hw _ q1682, _, en_c E (k := 32) rfl, va_Nc.moved hs.1.alike (en_n E 20 rfl)⟩), (List.forall_mem_cons.mpr ⟨(Or.inr ⟨by decide, _, hw _ q1683, _, en_c E (k := 32) rfl, va_Nc.moved hs.1.alike (en_n E 21 rfl)⟩), (List.forall_mem_nil _)⟩)⟩)⟩
  have h33 : ax_ho G M_X0_vector 7 33 none := ⟨_, en_c E (k := 33) rfl, fun s args hs hw => (List.forall_mem_cons.mpr ⟨(Or.inr ⟨by decide, _, hw _ q1682, _, en_c E (k := 33) rfl, va_Nc.moved hs.1.alike (en_n E 4 rfl)⟩), (List.forall_mem_cons.mpr ⟨(Or.inr ⟨by decide, _, hw _ q1683, _, en_c E (k := 33) rfl, va_Nc.moved hs.1.alike (en_n E 5 rfl)⟩), (List.forall_mem_nil _)⟩)⟩)⟩
  have h34 : ax_ho G M_X0_vector 7 34 none := ⟨_, en_c E (k := 34) rfl, fun s args hs hw => (List.forall_mem_cons.mpr ⟨(Or.inr ⟨by decide, _, hw _ q1682, _, en_c E (k := 34) rfl, va_Nc.moved hs.1.alike (en_n E 12 rfl)⟩), (List.forall_mem_cons.mpr ⟨(Or.inr ⟨by decide, _, hw _ q1683, _, en_c E (k := 34) rfl, va_Nc.moved hs.1.alike (en_n E 13 rfl)⟩), (List.forall_mem_nil _)⟩)⟩)⟩
  have h35 : ax_ho G M_X0_vector 7 35 none := ⟨_, en_c E (k := 35) rfl, fun s args hs hw => (List.forall_mem_cons.mpr ⟨(Or.inr ⟨by decide, _, hw _ q1682, _, en_c E (k := 35) rfl, va_Nc.moved hs.1.alike (en_n E 28 rfl)⟩), (List.forall_mem_cons.mpr ⟨(Or.inr ⟨by decide, _, hw _ q1683, _, en_c E (k := 35) rfl, va_Nc.moved hs.1.alike (en_n E 29 rfl)⟩), (List.forall_mem_nil _)⟩)⟩)⟩
  have h44 : ax_ho G M_X0_vector 7 44 (some 19) := ⟨_, en_c E (k := 44) rfl, fun s args hs hw => ⟨(tableOf [(0, 12, 15, 13)]), _, (tableOf []), "java/lang/IllegalStateException", rfl, (List.forall_mem_cons.mpr ⟨(Or.inr ⟨by decide, _, hw _ q1682, _, en_c E (k := 44) rfl, va_Nc.moved hs.1.alike (en_n E 53 rfl)⟩), (List.forall_mem_nil _)⟩), rfl, by decide, rfl, hw _ q1683, (ax_mv hB hs hw q1719 rfl)⟩⟩
  have h45 : ax_ho G M_X0_vector 7 45 none := ⟨_, en_c E (k := 45) rfl, fun s args hs hw => (List.forall_mem_cons.mpr ⟨(Or.inr ⟨by decide, _, hw _ q1682, _, en_c E (k := 45) rfl, va_Nc.moved hs.1.alike (en_n E 69 rfl)⟩), (List.forall_mem_cons.mpr ⟨(Or.inr ⟨by decide, _, hw _ q1683, _, en_c E (k := 45) rfl, va_Nc.moved hs.1.alike (en_n E 70 rfl)⟩), (List.forall_mem_nil _)⟩)⟩)⟩
  have h46 : ax_ho G M_X0_vector 7 46 none := ⟨_, en_c E (k := 46) rfl, fun s args hs hw => (List.forall_mem_cons.mpr ⟨(Or.inr ⟨by decide, _, hw _ q1682, _, en_c E (k := 46) rfl, va_Nc.moved hs.1.alike (en_n E 61 rfl)⟩), (List.forall_mem_cons.mpr ⟨(Or.inr ⟨by decide, _, hw _ q1683, _, en_c E (k := 46) rfl, va_Nc.moved hs.1.alike (en_n E 62 rfl)⟩), (List.forall_mem_nil _)⟩)⟩)⟩
  intro k o h
  dsimp only at h
  split at h
  · rename_i hk
    cases h
    simp only [List.mem_cons, List.not_mem_nil, or_false] at hk
    rcases hk with rfl | rfl
    · exact h0
    · exact h44
  ·
    split at h
    · rename_i hk
      cases h
      simp only [List.mem_cons, List.not_mem_nil, or_false] at hk
      rcases hk with rfl
      exact h18
    ·
      split at h
      · rename_i hk
        cases h
        simp only [List.mem_cons, List.not_mem_nil, or_false] at hk
        rcases hk with rfl | rfl | rfl | rfl | rfl | rfl | rfl | rfl | rfl
        · exact h6
        · exact h7
        · exact h28
        · exact h32
        · exact h33
        · exact h34
        · exact h35
        · exact h45
        · exact h46
      · cases h
theorem hok_113 (E : ax_EN G l) : ax_hok G M_X0_macro 4 (fun k : Nat => if k ∈ [0, 44] then some (some 15) else if k ∈ [18] then some (some 12) else if k ∈ [6, 7, 28, 32, 33, 34, 35, 45, 46] then some none else none) := by
  have hB := en_B E
  have h18 : ax_ho G M_X0_macro 4 18 (some 12) := ⟨_, en_c E (k := 18) rfl, fun s args hs hw => ⟨(tableOf []), _, (tableOf [(0, 9, 15, 15)]), "java/lang/IllegalArgumentException", rfl, (List.forall_mem_nil _), rfl, by decide, rfl, hw _ q1682, (ax_mv hB hs hw q742 rfl)⟩⟩
  have h0 : ax_ho G M_X0_macro 4 0 (some 15) := ⟨_, en_c E (k := 0) rfl, fun s args hs hw => ⟨(tableOf [(0, 9, 12, 13)]), _, (tableOf []), "java/lang/IllegalStateException", rfl, (List.forall_mem_cons.mpr ⟨(Or.inr ⟨by decide, _, hw _ q1682, _, en_c E (k := 0) rfl, va_Nc.moved hs.1.alike (en_n E 53 rfl)⟩), (List.forall_mem_nil _)⟩), rfl, by decide, rfl, hw _ q1683, (ax_mv hB hs hw q1719 rfl)⟩⟩
  have h6 : ax_ho G M_X0_macro 4 6 none := ⟨_, en_c E (k := 6) rfl, fun s args hs hw => (List.forall_mem_cons.mpr ⟨(Or.inr ⟨by decide, _, hw _ q1682, _, en_c E (k := 6) rfl, va_Nc.moved hs.1.alike (en_n E 61 rfl)⟩), (List.forall_mem_cons.mpr ⟨(Or.inr ⟨by decide, _, hw _ q1683, _, en_c E (k := 6) rfl, va_Nc.moved hs.1.alike (en_n E 62 rfl)⟩), (List.forall_mem_nil _)⟩)⟩)⟩
  have h7 : ax_ho G M_X0_macro 4 7 none := ⟨_, en_c E (k := 7) rfl, fun s args hs hw => (List.forall_mem_cons.mpr ⟨(Or.inr ⟨by decide, _, hw _ q1682, _, en_c E (k := 7) rfl, va_Nc.moved hs.1.alike (en_n E 69 rfl)⟩), (List.forall_mem_cons.mpr ⟨(Or.inr ⟨by decide, _, hw _ q1683, _, en_c E (k := 7) rfl, va_Nc.moved hs.1.alike (en_n E 70 rfl)⟩), (List.forall_mem_nil _)⟩)⟩)⟩
  have h28 : ax_ho G M_X0_macro 4 28 none := ⟨_, en_c E (k := 28) rfl, fun s args hs hw => (List.forall_mem_cons.mpr ⟨(Or.inr ⟨by decide, _, hw _ q1682, _, en_c E (k := 28) rfl, va_Nc.moved hs.1.alike (en_n E 36 rfl)⟩), (List.forall_mem_cons.mpr ⟨(Or.inr ⟨by decide, _, hw _ q1683, _, en_c E (k := 28) rfl, va_Nc.moved hs.1.alike (en_n E 37 rfl)⟩), (List.forall_mem_nil _)⟩)⟩)⟩
  have h32 : ax_ho G M_X0_macro 4 32 none := ⟨_, en_c E (k := 32) rfl, fun s args hs hw => (List.forall_mem_cons.mpr ⟨(Or.inr ⟨by decide, _, hw _ q1682, _, en_c E (k := 32) rfl, va_Nc.moved hs.1.alike (en_n E 20 rfl)⟩), (List.forall_mem_cons.mpr ⟨(Or.inr ⟨by decide, _, hw _ q1683, _, en_c E (k := 32) rfl, va_Nc.moved hs.1.alike (en_n E 21 rfl)⟩), (List.forall_mem_nil _)⟩)⟩)⟩
  have h33 : ax_ho G M_X0_macro 4 33 none := ⟨_, en_c E (k := 33) rfl, fun s args hs hw => (List.forall_mem_cons.mpr ⟨(Or.inr ⟨by decide, _, hw _ q1682, _, en_c E (k := 33) rfl, va_Nc.moved hs.1.alike (en_n E 4 rfl)⟩), (List.forall_mem_cons.mpr ⟨(Or.inr ⟨by decide, _, hw _ q1683, _, en_c E (k := 33) rfl, va_Nc.moved hs.1.alike (en_n E 5 rfl)⟩), (List.forall_mem_nil _)⟩)⟩)⟩
  have h34 : ax_ho G M_X0_macro 4 34 none := ⟨_, en_c E (k := 34) rfl, fun s args hs hw => (List.forall_mem_cons.mpr ⟨(Or.inr ⟨by decide, _, hw _ q1682, _, en_c E (k := 34) rfl, va_Nc.moved hs.1.alike (en_n E 12 rfl)⟩), (List.forall_mem_cons.mpr ⟨(Or.inr ⟨by decide, _, hw _ q1683, _, en_c E (k := 34) rfl, va_Nc.moved hs.1.alike (en_n E 13 rfl)⟩), (List.forall_mem_nil _)⟩)⟩)⟩
  have h35 : ax_ho G M_X0_macro 4 35 none := ⟨_, en_c E (k := 35) rfl, fun s args hs hw => (List.forall_mem_cons.mpr ⟨(Or.inr ⟨by decide, _, hw _ q1682, _, en_c E (k := 35) rfl, va_Nc.moved hs.1.alike (en_n E 28 rfl)⟩), (List.forall_mem_cons.mpr ⟨(Or.inr ⟨by decide, _, hw _ q1683, _, en_c E (k := 35) rfl, va_Nc.moved hs.1.alike (en_n E 29 rfl)⟩), (List.forall_mem_nil _)⟩)⟩)⟩
  have h44 : ax_ho G M_X0_macro 4 44 (some 15) := ⟨_, en_c E (k := 44) rfl, fun s args hs hw => ⟨(tableOf [(0, 9, 12, 13)]), _, (tableOf []), "java/lang/IllegalStateException", rfl, (List.forall_mem_cons.mpr ⟨(Or.inr ⟨by decide, _, hw _ q1682, _, en_c E (k := 44) rfl, va_Nc.moved hs.1.alike (en_n E 53 rfl)⟩), (List.forall_mem_nil _)⟩), rfl, by decide, rfl, hw _ q1683, (ax_mv hB hs hw q1719 rfl)⟩⟩
  have h45 : ax_ho G M_X0_macro 4 45 none := ⟨_, en_c E (k := 45) rfl, fun s args hs hw => (List.forall_mem_cons.mpr ⟨(Or.inr ⟨by decide, _, hw _ q1682, _, en_c E (k := 45) rfl, va_Nc.moved hs.1.alike (en_n E 69 rfl)⟩), (List.forall_mem_cons.mpr ⟨(Or.inr ⟨by decide, _, hw _ q1683, _, en_c E (k := 45) rfl, va_Nc.moved hs.1.alike (en_n E 70 rfl)⟩), (List.forall_mem_nil _)⟩)⟩)⟩
  have h46 : ax_ho G M_X0_macro 4 46 none := ⟨_, en_c E (k := 46) rfl, fun s args hs hw => (List.forall_mem_cons.mpr ⟨(Or.inr ⟨by decide, _, hw _ q1682, _, en_c E (k := 46) rfl, va_Nc.moved hs.1.alike (en_n E 61 rfl)⟩), (List.forall_mem_cons.mpr ⟨(Or.inr ⟨by decide, _, hw _ q1683, _, en_c E (k := 46) rfl, va_Nc.moved hs.1.alike (en_n E 62 rfl)⟩), (List.forall_mem_nil _)⟩)⟩)⟩
  intro k o h
  dsimp only at h
  split at h
  · rename_i hk
    cases h
    simp only [List.mem_cons, List.not_mem_nil, or_false] at hk
    rcases hk with rfl | rfl
    · exact h0
    · exact h44
  ·
    split at h
    · rename_i hk
      cases h
      simp only [List.mem_cons, List.not_mem_nil, or_false] at hk
      rcases hk with rfl
      exact h18
    ·
      split at h
      · rename_i hk
        cases h
        simp only [List.mem_cons, List.not_mem_nil, or_false] at hk
        rcases hk with rfl | rfl | rfl | rfl | rfl | rfl | rfl | rfl | rfl
        · exact h6
        · exact h7
        · exact h28
        · exact h32
        · exact h33
        · exact h34
        · exact h35
        · exact h45
        · exact h46
      · cases h
theorem hok_114 (E : ax_EN G l) : ax_hok G M_X0_endMacro 3 (fun k : Nat => if k ∈ [0, 44] then some (some 11) else if k ∈ [18, 6, 7, 28, 32, 33, 34, 35, 45, 46] then some none else none) := by
  have hB := en_B E
  have h18 : ax_ho G M_X0_endMacro 3 18 none := ⟨_, en_c E (k := 18) rfl, fun s args hs hw => (List.forall_mem_cons.mpr ⟨(Or.inr ⟨by decide, _, hw _ q1683, _, en_c E (k := 18) rfl, va_Nc.moved hs.1.alike (en_n E 45 rfl)⟩), (List.forall_mem_nil _)⟩)⟩
  have h0 : ax_ho G M_X0_endMacro 3 0 (some 11) := ⟨_, en_c E (k := 0) rfl, fun s args hs hw => ⟨(tableOf []), _, (tableOf []), "java/lang/IllegalStateException", rfl, (List.forall_mem_nil _), rfl, by decide, rfl, hw _ q1683, (ax_mv hB hs hw q1719 rfl)⟩⟩
  have h6 : ax_ho G M_X0_endMacro 3 6 none := ⟨_, en_c E (k := 6) rfl, fun s args hs hw => (List.forall_mem_cons.mpr ⟨(Or.inr ⟨by decide, _, hw _ q1683, _, en_c E (k := 6) rfl, va_Nc.moved hs.1.alike (en_n E 62 rfl)⟩), (List.forall_mem_nil _)⟩)⟩
  have h7 : ax_ho G M_X0_endMacro 3 7 none := ⟨_, en_c E (k := 7) rfl, fun s args hs hw => (List.forall_mem_cons.mpr ⟨(Or.inr ⟨by decide, _, hw _ q1683, _, en_c E (k := 7) rfl, va_Nc.moved hs.1.alike (en_n E 70 rfl)⟩), (List.forall_mem_nil _)⟩)⟩
  have h28 : ax_ho G M_X0_endMacro 3 28 none := ⟨_, en_c E (k := 28) rfl, fun s args hs hw => (List.forall_mem_cons.mpr ⟨(Or.inr ⟨by decide, _, hw _ q1683, _, en_c E (k := 28) rfl, va_Nc.moved hs.1.alike (en_n E 37 rfl)⟩), (List.forall_mem_nil _)⟩)⟩
  have h32 : ax_ho G M_X0_endMacro 3 32 none := ⟨_, en_c E (k := 32) rfl, fun s args hs hw => (List.forall_mem_cons.mpr ⟨(Or.inr ⟨by decide, _, hw _ q1683, _, en_c E (k := 32) rfl, va_Nc.moved hs.1.alike (en_n E 21 rfl)⟩), (List.forall_mem_nil _)⟩)⟩
  have h33 : ax_ho G M_X0_endMacro 3 33 none := ⟨_, en_c E (k := 33) rfl, fun s args hs hw => (List.forall_mem_cons.mpr ⟨(Or.inr ⟨by decide, _, hw _ q1683, _, en_c E (k := 33) rfl, va_Nc.moved hs.1.alike (en_n E 5 rfl)⟩), (List.forall_mem_nil _)⟩)⟩
  have h34 : ax_ho G M_X0_endMacro 3 34 none := ⟨_, en_c E (k := 34) rfl, fun s args hs hw => (List.forall_mem_cons.mpr ⟨(Or.inr ⟨by decide, _, hw _ q1683, _, en_c E (k := 34) rfl, va_Nc.moved hs.1.alike (en_n E 13 rfl)⟩), (List.forall_mem_nil _)⟩)⟩
  have h35 : ax_ho G M_X0_endMacro 3 35 none := ⟨_, en_c E (k := 35) rfl, fun s args hs hw => (List.forall_mem_cons.mpr ⟨(Or.inr ⟨by decide, _, hw _ q1683, _, en_c E (k := 35) rfl, va_Nc.moved hs.1.alike (en_n E 29 rfl)⟩), (List.forall_mem_nil _)⟩)⟩
  have h44 : ax_ho G M_X0_endMacro 3 44 (some 11) := ⟨_, en_c E (k := 44) rfl, fun s args hs hw => ⟨(tableOf []), _, (tableOf []), "java/lang/IllegalStateException", rfl, (List.forall_mem_nil _), rfl, by decide, rfl, hw _ q1683, (ax_mv hB hs hw q1719 rfl)⟩⟩
  have h45 : ax_ho G M_X0_endMacro 3 45 none := ⟨_, en_c E (k := 45) rfl, fun s args hs hw => (List.forall_mem_cons.mpr ⟨(Or.inr ⟨by decide, _, hw _ q1683, _, en_c E (k := 45) rfl, va_Nc.moved hs.1.alike (en_n E 70 rfl)⟩), (List.forall_mem_nil _)⟩)⟩
  have h46 : ax_ho G M_X0_endMacro 3 46 none := ⟨_, en_c E (k := 46) rfl, fun s args hs hw => (List.forall_mem_cons.mpr ⟨(Or.inr ⟨by decide, _, hw _ q1683, _, en_c E (k := 46) rfl, va_Nc.moved hs.1.alike (en_n E 62 rfl)⟩), (List.forall_mem_nil _)⟩)⟩
  intro k o h
  dsimp only at h
  split at h
  · rename_i hk
    cases h
    simp only [List.mem_cons, List.not_mem_nil, or_false] at hk
    rcases hk with rfl | rfl
    · exact h0
    · exact h44
  ·
    split at h
    · rename_i hk
      cases h
      simp only [List.mem_cons, List.not_mem_nil, or_false] at hk
      rcases hk with rfl | rfl | rfl | rfl | rfl | rfl | rfl | rfl | rfl | rfl
      · exact h18
      · exact h6
      · exact h7
      · exact h28
      · exact h32
      · exact h33
      · exact h34
      · exact h35
      · exact h45
      · exact h46
    · cases h
theorem hok_115 (E : ax_EN G l) : ax_hok G M_X0_use 11 (fun k : Nat => if k ∈ [0, 44] then some (some 23) else if k ∈ [18] then some (some 19) else if k ∈ [6, 7, 28, 32, 33, 34, 35, 45, 46] then some none else none) := by
  have hB := en_B E
  have h18 : ax_ho G M_X0_use 11 18 (some 19) := ⟨_, en_c E (k := 18) rfl, fun s args hs hw => ⟨(tableOf []), _, (tableOf [(0, 16, 23, 15)]), "java/lang/IllegalArgumentException", rfl, (List.forall_mem_nil _), rfl, by decide, rfl, hw _ q1682, (ax_mv hB hs hw q742 rfl)⟩⟩
  have h0 : ax_ho G M_X0_use 11 0 (some 23) := ⟨_, en_c E (k := 0) rfl, fun s args hs hw => ⟨(tableOf [(0, 16, 19, 13)]), _, (tableOf []), "java/lang/IllegalStateException", rfl, (List.forall_mem_cons.mpr ⟨(Or.inr ⟨by decide, _, hw _ q1682, _, en_c E (k := 0) rfl, va_Nc.moved hs.1.alike (en_n E 53 rfl)⟩), (List.forall_mem_nil _)⟩), rfl, by decide, rfl, hw _ q1683, (ax_mv hB hs hw q1719 rfl)⟩⟩
  have h6 : ax_ho G M_X0_use 11 6 none := ⟨_, en_c E (k := 6) rfl, fun s args hs hw => (List.forall_mem_cons.mpr ⟨(Or.inr ⟨by decide, _, hw _ q1682, _, en_c E (k := 6) rfl, va_Nc.moved hs.1.alike (en_n E 61 rfl)⟩), (List.forall_mem_cons.mpr ⟨(Or.inr ⟨by decide, _, hw _ q1683, _, en_c E (k := 6) rfl, va_Nc.moved hs.1.alike (en_n E 62 rfl)⟩), (List.forall_mem_nil _)⟩)⟩)⟩
  have h7 : ax_ho G M_X0_use 11 7 none := ⟨_, en_c E (k := 7) rfl, fun s args hs hw => (List.forall_mem_cons.mpr ⟨(Or.inr ⟨by decide, _, hw _ q1682, _, en_c E (k := 7) rfl, va_Nc.moved hs.1.alike (en_n E 69 rfl)⟩), (List.forall_mem_cons.mpr ⟨(Or.inr ⟨by decide, _, hw _ q1683, _, en_c E (k := 7) rfl, va_Nc.moved hs.1.alike (en_n E 70 rfl)⟩), (List.forall_mem_nil _)⟩)⟩)⟩
  have h28 : ax_ho G M_X0_use 11 28 none := ⟨_, en_c E (k := 28) rfl, fun s args hs hw => (List.forall_mem_cons.mpr ⟨(Or.inr ⟨by decide, _, hw _ q1682, _, en_c E (k := 28) rfl, va_Nc.moved hs.1.alike (en_n E 36 rfl)⟩), (List.forall_mem_cons.mpr ⟨(Or.inr ⟨by decide, _, hw _ q1683, _, en_c E (k := 28) rfl, va_Nc.moved hs.1.alike (en_n E 37 rfl)⟩), (List.forall_mem_nil _)⟩)⟩)⟩
  have h32 : ax_ho G M_X0_use 11 32 none := ⟨_, en_c E (k := 32) rfl, fun s args hs hw => (List.forall_mem_cons.mpr ⟨(Or.inr ⟨by decide, _, hw _ q1682, _, en_c E (k := 32) rfl, va_Nc.moved hs.1.alike (en_n E 20 rfl)⟩), (List.forall_mem_cons.mpr ⟨(Or.inr ⟨by decide, _, hw _ q1683, _, en_c E (k := 32) rfl, va_Nc.moved hs.1.alike (en_n E 21 rfl)⟩), (List.forall_mem_nil _)⟩)⟩)⟩
  have h33 : ax_ho G M_X0_use 11 33 none := ⟨_, en_c E (k := 33) rfl, fun s args hs hw => (List.forall_mem_cons.mpr ⟨(Or.inr ⟨by decide, _, hw _ q1682, _, en_c E (k := 33) rfl, va_Nc.moved hs.1.alike (en_n E 4 rfl)⟩), (List.forall_mem_cons.mpr ⟨(Or.inr ⟨by decide, _, hw _ q1683, _, en_c E (k := 33) rfl, va_Nc.moved hs.1.alike (en_n E 5 rfl)⟩), (List.forall_mem_nil _)⟩)⟩)⟩
  have h34 : ax_ho G M_X0_use 11 34 none := ⟨_, en_c E (k := 34) rfl, fun s args hs hw => (List.forall_mem_cons.mpr ⟨(Or.inr ⟨by decide, _, hw _ q1682, _, en_c E (k := 34) rfl, va_Nc.moved hs.1.alike (en_n E 12 rfl)⟩), (List.forall_mem_cons.mpr ⟨(Or.inr ⟨by decide, _, hw _ q1683, _, en_c E (k := 34) rfl, va_Nc.moved hs.1.alike (en_n E 13 rfl)⟩), (List.forall_mem_nil _)⟩)⟩)⟩
  have h35 : ax_ho G M_X0_use 11 35 none := ⟨_, en_c E (k := 35) rfl, fun s args hs hw => (List.forall_mem_cons.mpr ⟨(Or.inr ⟨by decide, _, hw _ q1682, _, en_c E (k := 35) rfl, va_Nc.moved hs.1.alike (en_n E 28 rfl)⟩), (List.forall_mem_cons.mpr ⟨(Or.inr ⟨by decide, _, hw _ q1683, _, en_c E (k := 35) rfl, va_Nc.moved hs.1.alike (en_n E 29 rfl)⟩), (List.forall_mem_nil _)⟩)⟩)⟩
  have h44 : ax_ho G M_X0_use 11 44 (some 23) := ⟨_, en_c E (k := 44) rfl, fun s args hs hw => ⟨(tableOf [(0, 16, 19, 13)]), _, (tableOf []), "java/lang/IllegalStateException", rfl, (List.forall_mem_cons.mpr ⟨(Or.inr ⟨by decide, _, hw _ q1682, _, en_c E (k := 44) rfl, va_Nc.moved hs.1.alike (en_n E 53 rfl)⟩), (List.forall_mem_nil _)⟩), rfl, by decide, rfl, hw _ q1683, (ax_mv hB hs hw q1719 rfl)⟩⟩
  have h45 : ax_ho G M_X0_use 11 45 none := ⟨_, en_c E (k := 45) rfl, fun s args hs hw => (List.forall_mem_cons.mpr ⟨(Or.inr ⟨by decide, _, hw _ q1682, _, en_c E (k := 45) rfl, va_Nc.moved hs.1.alike (en_n E 69 rfl)⟩), (List.forall_mem_cons.mpr ⟨(Or.inr ⟨by decide, _, hw _ q1683, _, en_c E (k := 45) rfl, va_Nc.moved hs.1.alike (en_n E 70 rfl)⟩), (List.forall_mem_nil _)⟩)⟩)⟩
  have h46 : ax_ho G M_X0_use 11 46 none := ⟨_, en_c E (k := 46) rfl, fun s args hs hw => (List.forall_mem_cons.mpr ⟨(Or.inr ⟨by decide, _, hw _ q1682, _, en_c E (k := 46) rfl, va_Nc.moved hs.1.alike (en_n E 61 rfl)⟩), (List.forall_mem_cons.mpr ⟨(Or.inr ⟨by decide, _, hw _ q1683, _, en_c E (k := 46) rfl, va_Nc.moved hs.1.alike (en_n E 62 rfl)⟩), (List.forall_mem_nil _)⟩)⟩)⟩
  intro k o h
  dsimp only at h
  split at h
  · rename_i hk
    cases h
    simp only [List.mem_cons, List.not_mem_nil, or_false] at hk
    rcases hk with rfl | rfl
    · exact h0
    · exact h44
  ·
    split at h
    · rename_i hk
      cases h
      simp only [List.mem_cons, List.not_mem_nil, or_false] at hk
      rcases hk with rfl
      exact h18
    ·
      split at h
      · rename_i hk
        cases h
        simp only [List.mem_cons, List.not_mem_nil, or_false] at hk
        rcases hk with rfl | rfl | rfl | rfl | rfl | rfl | rfl | rfl | rfl
        · exact h6
        · exact h7
        · exact h28
        · exact h32
        · exact h33
        · exact h34
        · exact h35
        · exact h45
        · exact h46
      · cases h
theorem hok_116 (E : ax_EN G l) : ax_hok G M_X0_assemble 3 (fun k : Nat => if k ∈ [0, 44] then some (some 11) else if k ∈ [18, 6, 7, 28, 32, 33, 34, 35, 45, 46] then some none else none) := by
  have hB := en_B E
  have h18 : ax_ho G M_X0_assemble 3 18 none := ⟨_, en_c E (k := 18) rfl, fun s args hs hw => (List.forall_mem_cons.mpr ⟨(Or.inr ⟨by decide, _, hw _ q1683, _, en_c E (k := 18) rfl, va_Nc.moved hs.1.alike (en_n E 45 rfl)⟩), (List.forall_mem_nil _)⟩)⟩
  have h0 : ax_ho G M_X0_assemble 3 0 (some 11) := ⟨_, en_c E (k := 0) rfl, fun s args hs hw => ⟨(tableOf []), _, (tableOf []), "java/lang/IllegalStateException", rfl, (List.forall_mem_nil _), rfl, by decide, rfl, hw _ q1683, (ax_mv hB hs hw q1719 rfl)⟩⟩
  have h6 : ax_ho G M_X0_assemble 3 6 none := ⟨_, en_c E (k := 6) rfl, fun s args hs hw => (List.forall_mem_cons.mpr ⟨(Or.inr ⟨by decide, _, hw _ q1683, _, en_c E (k := 6) rfl, va_Nc.moved hs.1.alike (en_n E 62 rfl)⟩), (List.forall_mem_nil _)⟩)⟩
  have h7 : ax_ho G M_X0_assemble 3 7 none := ⟨_, en_c E (k := 7) rfl, fun s args hs hw => (List.forall_mem_cons.mpr ⟨(Or.inr ⟨by decide, _, hw _ q1683, _, en_c E (k := 7) rfl, va_Nc.moved hs.1.alike (en_n E 70 rfl)⟩), (List.forall_mem_nil _)⟩)⟩
  have h28 : ax_ho G M_X0_assemble 3 28 none := ⟨_, en_c E (k := 28) rfl, fun s args hs hw => (List.forall_mem_cons.mpr ⟨(Or.inr ⟨by decide, _, hw _ q1683, _, en_c E (k := 28) rfl, va_Nc.moved hs.1.alike (en_n E 37 rfl)⟩), (List.forall_mem_nil _)⟩)⟩
  have h32 : ax_ho G M_X0_assemble 3 32 none := ⟨_, en_c E (k := 32) rfl, fun s args hs hw => (List.forall_mem_cons.mpr ⟨(Or.inr ⟨by decide, _, hw _ q1683, _, en_c E (k := 32) rfl, va_Nc.moved hs.1.alike (en_n E 21 rfl)⟩), (List.forall_mem_nil _)⟩)⟩
  have h33 : ax_ho G M_X0_assemble 3 33 none := ⟨_, en_c E (k := 33) rfl, fun s args hs hw => (List.forall_mem_cons.mpr ⟨(Or.inr ⟨by decide, _, hw _ q1683, _, en_c E (k := 33) rfl, va_Nc.moved hs.1.alike (en_n E 5 rfl)⟩), (List.forall_mem_nil _)⟩)⟩
  have h34 : ax_ho G M_X0_assemble 3 34 none := ⟨_, en_c E (k := 34) rfl, fun s args hs hw => (List.forall_mem_cons.mpr ⟨(Or.inr ⟨by decide, _, hw _ q1683, _, en_c E (k := 34) rfl, va_Nc.moved hs.1.alike (en_n E 13 rfl)⟩), (List.forall_mem_nil _)⟩)⟩
  have h35 : ax_ho G M_X0_assemble 3 35 none := ⟨_, en_c E (k := 35) rfl, fun s args hs hw => (List.forall_mem_cons.mpr ⟨(Or.inr ⟨by decide, _, hw _ q1683, _, en_c E (k := 35) rfl, va_Nc.moved hs.1.alike (en_n E 29 rfl)⟩), (List.forall_mem_nil _)⟩)⟩
  have h44 : ax_ho G M_X0_assemble 3 44 (some 11) := ⟨_, en_c E (k := 44) rfl, fun s args hs hw => ⟨(tableOf []), _, (tableOf []), "java/lang/IllegalStateException", rfl, (List.forall_mem_nil _), rfl, by decide, rfl, hw _ q1683, (ax_mv hB hs hw q1719 rfl)⟩⟩
  have h45 : ax_ho G M_X0_assemble 3 45 none := ⟨_, en_c E (k := 45) rfl, fun s args hs hw => (List.forall_mem_cons.mpr ⟨(Or.inr ⟨by decide, _, hw _ q1683, _, en_c E (k := 45) rfl, va_Nc.moved hs.1.alike (en_n E 70 rfl)⟩), (List.forall_mem_nil _)⟩)⟩
  have h46 : ax_ho G M_X0_assemble 3 46 none := ⟨_, en_c E (k := 46) rfl, fun s args hs hw => (List.forall_mem_cons.mpr ⟨(Or.inr ⟨by decide, _, hw _ q1683, _, en_c E (k := 46) rfl, va_Nc.moved hs.1.alike (en_n E 62 rfl)⟩), (List.forall_mem_nil _)⟩)⟩
  intro k o h
  dsimp only at h
  split at h
  · rename_i hk
    cases h
    simp only [List.mem_cons, List.not_mem_nil, or_false] at hk
    rcases hk with rfl | rfl
    · exact h0
    · exact h44
  ·
    split at h
    · rename_i hk
      cases h
      simp only [List.mem_cons, List.not_mem_nil, or_false] at hk
      rcases hk with rfl | rfl | rfl | rfl | rfl | rfl | rfl | rfl | rfl | rfl
      · exact h18
      · exact h6
      · exact h7
      · exact h28
      · exact h32
      · exact h33
      · exact h34
      · exact h35
      · exact h45
      · exact h46
    · cases h
theorem hok_117 (E : ax_EN G l) : ax_hok G M_X0_image 4 (fun k : Nat => if k ∈ [0, 44] then some (some 15) else if k ∈ [18] then some (some 12) else if k ∈ [6, 7, 28, 32, 33, 34, 35, 45, 46] then some none else none) := by
  have hB := en_B E
  have h18 : ax_ho G M_X0_image 4 18 (some 12) := ⟨_, en_c E (k := 18) rfl, fun s args hs hw => ⟨(tableOf []), _, (tableOf [(0, 9, 15, 15)]), "java/lang/IllegalArgumentException", rfl, (List.forall_mem_nil _), rfl, by decide, rfl, hw _ q1682, (ax_mv hB hs hw q742 rfl)⟩⟩
  have h0 : ax_ho G M_X0_image 4 0 (some 15) := ⟨_, en_c E (k := 0) rfl, fun s args hs hw => ⟨(tableOf [(0, 9, 12, 13)]), _, (tableOf []), "java/lang/IllegalStateException", rfl, (List.forall_mem_cons.mpr ⟨(Or.inr ⟨by decide, _, hw _ q1682, _, en_c E (k := 0) rfl, va_Nc.moved hs.1.alike (en_n E 53 rfl)⟩), (List.forall_mem_nil _)⟩), rfl, by decide, rfl, hw _ q1683, (ax_mv hB hs hw q1719 rfl)⟩⟩
  have h6 : ax_ho G M_X0_image 4 6 none := ⟨_, en_c E (k := 6) rfl, fun s args hs hw => (List.forall_mem_cons.mpr ⟨(Or.inr ⟨by decide, _, hw _ q1682, _, en_c E (k := 6) rfl, va_Nc.moved hs.1.alike (en_n E 61 rfl)⟩), (List.forall_mem_cons.mpr ⟨(Or.inr ⟨by decide, _, hw _ q1683, _, en_c E (k := 6) rfl, va_Nc.moved hs.1.alike (en_n E 62 rfl)⟩), (List.forall_mem_nil _)⟩)⟩)⟩
  have h7 : ax_ho G M_X0_image 4 7 none := ⟨_, en_c E (k := 7) rfl, fun s args hs hw => (List.forall_mem_cons.mpr ⟨(Or.inr ⟨by decide, _, hw _ q1682, _, en_c E (k := 7) rfl, va_Nc.moved hs.1.alike (en_n E 69 rfl)⟩), (List.forall_mem_cons.mpr ⟨(Or.inr ⟨by decide, _, hw _ q1683, _, en_c E (k := 7) rfl, va_Nc.moved hs.1.alike (en_n E 70 rfl)⟩), (List.forall_mem_nil _)⟩)⟩)⟩
  have h28 : ax_ho G M_X0_image 4 28 none := ⟨_, en_c E (k := 28) rfl, fun s args hs hw => (List.forall_mem_cons.mpr ⟨(Or.inr ⟨by decide, _, hw _ q1682, _, en_c E (k := 28) rfl, va_Nc.moved hs.1.alike (en_n E 36 rfl)⟩), (List.forall_mem_cons.mpr ⟨(Or.inr ⟨by decide, _, hw _ q1683, _, en_c E (k := 28) rfl, va_Nc.moved hs.1.alike (en_n E 37 rfl)⟩), (List.forall_mem_nil _)⟩)⟩)⟩
  have h32 : ax_ho G M_X0_image 4 32 none := ⟨_, en_c E (k := 32) rfl, fun s args hs hw => (List.forall_mem_cons.mpr ⟨(Or.inr ⟨by decide, _, hw _ q1682, _, en_c E (k := 32) rfl, va_Nc.moved hs.1.alike (en_n E 20 rfl)⟩), (List.forall_mem_cons.mpr ⟨(Or.inr ⟨by decide, _, hw _ q1683, _, en_c E (k := 32) rfl, va_Nc.moved hs.1.alike (en_n E 21 rfl)⟩), (List.forall_mem_nil _)⟩)⟩)⟩
  have h33 : ax_ho G M_X0_image 4 33 none := ⟨_, en_c E (k := 33) rfl, fun s args hs hw => (List.forall_mem_cons.mpr ⟨(Or.inr ⟨by decide, _, hw _ q1682, _, en_c E (k := 33) rfl, va_Nc.moved hs.1.alike (en_n E 4 rfl)⟩), (List.forall_mem_cons.mpr ⟨(Or.inr ⟨by decide, _, hw _ q1683, _, en_c E (k := 33) rfl, va_Nc.moved hs.1.alike (en_n E 5 rfl)⟩), (List.forall_mem_nil _)⟩)⟩)⟩
  have h34 : ax_ho G M_X0_image 4 34 none := ⟨_, en_c E (k := 34) rfl, fun s args hs hw => (List.forall_mem_cons.mpr ⟨(Or.inr ⟨by decide, _, hw _ q1682, _, en_c E (k := 34) rfl, va_Nc.moved hs.1.alike (en_n E 12 rfl)⟩), (List.forall_mem_cons.mpr ⟨(Or.inr ⟨by decide, _, hw _ q1683, _, en_c E (k := 34) rfl, va_Nc.moved hs.1.alike (en_n E 13 rfl)⟩), (List.forall_mem_nil _)⟩)⟩)⟩
  have h35 : ax_ho G M_X0_image 4 35 none := ⟨_, en_c E (k := 35) rfl, fun s args hs hw => (List.forall_mem_cons.mpr ⟨(Or.inr ⟨by decide, _, hw _ q1682, _, en_c E (k := 35) rfl, va_Nc.moved hs.1.alike (en_n E 28 rfl)⟩), (List.forall_mem_cons.mpr ⟨(Or.inr ⟨by decide, _, hw _ q1683, _, en_c E (k := 35) rfl, va_Nc.moved hs.1.alike (en_n E 29 rfl)⟩), (List.forall_mem_nil _)⟩)⟩)⟩
  have h44 : ax_ho G M_X0_image 4 44 (some 15) := ⟨_, en_c E (k := 44) rfl, fun s args hs hw => ⟨(tableOf [(0, 9, 12, 13)]), _, (tableOf []), "java/lang/IllegalStateException", rfl, (List.forall_mem_cons.mpr ⟨(Or.inr ⟨by decide, _, hw _ q1682, _, en_c E (k := 44) rfl, va_Nc.moved hs.1.alike (en_n E 53 rfl)⟩), (List.forall_mem_nil _)⟩), rfl, by decide, rfl, hw _ q1683, (ax_mv hB hs hw q1719 rfl)⟩⟩
  have h45 : ax_ho G M_X0_image 4 45 none := ⟨_, en_c E (k := 45) rfl, fun s args hs hw => (List.forall_mem_cons.mpr ⟨(Or.inr ⟨by decide, _, hw _ q1682, _, en_c E (k := 45) rfl, va_Nc.moved hs.1.alike (en_n E 69 rfl)⟩), (List.forall_mem_cons.mpr ⟨(Or.inr ⟨by decide, _, hw _ q1683, _, en_c E (k := 45) rfl, va_Nc.moved hs.1.alike (en_n E 70 rfl)⟩), (List.forall_mem_nil _)⟩)⟩)⟩
  have h46 : ax_ho G M_X0_image 4 46 none := ⟨_, en_c E (k := 46) rfl, fun s args hs hw => (List.forall_mem_cons.mpr ⟨(Or.inr ⟨by decide, _, hw _ q1682, _, en_c E (k := 46) rfl, va_Nc.moved hs.1.alike (en_n E 61 rfl)⟩), (List.forall_mem_cons.mpr ⟨(Or.inr ⟨by decide, _, hw _ q1683, _, en_c E (k := 46) rfl, va_Nc.moved hs.1.alike (en_n E 62 rfl)⟩), (List.forall_mem_nil _)⟩)⟩)⟩
  intro k o h
  dsimp only at h
  split at h
  · rename_i hk
    cases h
    simp only [List.mem_cons, List.not_mem_nil, or_false] at hk
    rcases hk with rfl | rfl
    · exact h0
    · exact h44
  ·
    split at h
    · rename_i hk
      cases h
      simp only [List.mem_cons, List.not_mem_nil, or_false] at hk
      rcases hk with rfl
      exact h18
    ·
      split at h
      · rename_i hk
        cases h
        simp only [List.mem_cons, List.not_mem_nil, or_false] at hk
        rcases hk with rfl | rfl | rfl | rfl | rfl | rfl | rfl | rfl | rfl
        · exact h6
        · exact h7
        · exact h28
        · exact h32
        · exact h33
        · exact h34
        · exact h35
        · exact h45
        · exact h46
      · cases h
theorem hok_118 (E : ax_EN G l) : ax_hok G M_X0_start 3 (fun k : Nat => if k ∈ [0, 44] then some (some 11) else if k ∈ [18, 6, 7, 28, 32, 33, 34, 35, 45, 46] then some none else none) := by
  have hB := en_B E
  have h18 : ax_ho G M_X0_start 3 18 none := ⟨_, en_c E (k := 18) rfl, fun s args hs hw => (List.forall_mem_cons.mpr ⟨(Or.inr ⟨by decide, _, hw _ q1683, _, en_c E (k := 18) rfl, va_Nc.moved hs.1.alike (en_n E 45 rfl)⟩), (List.forall_mem_nil _)⟩)⟩
  have h0 : ax_ho G M_X0_start 3 0 (some 11) := ⟨_, en_c E (k := 0) rfl, fun s args hs hw => ⟨(tableOf []), _, (tableOf []), "java/lang/IllegalStateException", rfl, (List.forall_mem_nil _), rfl, by decide, rfl, hw _ q1683, (ax_mv hB hs hw q1719 rfl)⟩⟩
  have h6 : ax_ho G M_X0_start 3 6 none := ⟨_, en_c E (k := 6) rfl, fun s args hs hw => (List.forall_mem_cons.mpr ⟨(Or.inr ⟨by decide, _, hw _ q1683, _, en_c E (k := 6) rfl, va_Nc.moved hs.1.alike (en_n E 62 rfl)⟩), (List.forall_mem_nil _)⟩)⟩
  have h7 : ax_ho G M_X0_start 3 7 none := ⟨_, en_c E (k := 7) rfl, fun s args hs hw => (List.forall_mem_cons.mpr ⟨(Or.inr ⟨by decide, _, hw _ q1683, _, en_c E (k := 7) rfl, va_Nc.moved hs.1.alike (en_n E 70 rfl)⟩), (List.forall_mem_nil _)⟩)⟩
  have h28 : ax_ho G M_X0_start 3 28 none := ⟨_, en_c E (k := 28) rfl, fun s args hs hw => (List.forall_mem_cons.mpr ⟨(Or.inr ⟨by decide, _, hw _ q1683, _, en_c E (k := 28) rfl, va_Nc.moved hs.1.alike (en_n E 37 rfl)⟩), (List.forall_mem_nil _)⟩)⟩
  have h32 : ax_ho G M_X0_start 3 32 none := ⟨_, en_c E (k := 32) rfl, fun s args hs hw => (List.forall_mem_cons.mpr ⟨(Or.inr ⟨by decide, _, hw _ q1683, _, en_c E (k := 32) rfl, va_Nc.moved hs.1.alike (en_n E 21 rfl)⟩), (List.forall_mem_nil _)⟩)⟩
  have h33 : ax_ho G M_X0_start 3 33 none := ⟨_, en_c E (k := 33) rfl, fun s args hs hw => (List.forall_mem_cons.mpr ⟨(Or.inr ⟨by decide, _, hw _ q1683, _, en_c E (k := 33) rfl, va_Nc.moved hs.1.alike (en_n E 5 rfl)⟩), (List.forall_mem_nil _)⟩)⟩
  have h34 : ax_ho G M_X0_start 3 34 none := ⟨_, en_c E (k := 34) rfl, fun s args hs hw => (List.forall_mem_cons.mpr ⟨(Or.inr ⟨by decide, _, hw _ q1683, _, en_c E (k := 34) rfl, va_Nc.moved hs.1.alike (en_n E 13 rfl)⟩), (List.forall_mem_nil _)⟩)⟩
  have h35 : ax_ho G M_X0_start 3 35 none := ⟨_, en_c E (k := 35) rfl, fun s args hs hw => (List.forall_mem_cons.mpr ⟨(Or.inr ⟨by decide, _, hw _ q1683, _, en_c E (k := 35) rfl, va_Nc.moved hs.1.alike (en_n E 29 rfl)⟩), (List.forall_mem_nil _)⟩)⟩
  have h44 : ax_ho G M_X0_start 3 44 (some 11) := ⟨_, en_c E (k := 44) rfl, fun s args hs hw => ⟨(tableOf []), _, (tableOf []), "java/lang/IllegalStateException", rfl, (List.forall_mem_nil _), rfl, by decide, rfl, hw _ q1683, (ax_mv hB hs hw q1719 rfl)⟩⟩
  have h45 : ax_ho G M_X0_start 3 45 none := ⟨_, en_c E (k := 45) rfl, fun s args hs hw => (List.forall_mem_cons.mpr ⟨(Or.inr ⟨by decide, _, hw _ q1683, _, en_c E (k := 45) rfl, va_Nc.moved hs.1.alike (en_n E 70 rfl)⟩), (List.forall_mem_nil _)⟩)⟩
  have h46 : ax_ho G M_X0_start 3 46 none := ⟨_, en_c E (k := 46) rfl, fun s args hs hw => (List.forall_mem_cons.mpr ⟨(Or.inr ⟨by decide, _, hw _ q1683, _, en_c E (k := 46) rfl, va_Nc.moved hs.1.alike (en_n E 62 rfl)⟩), (List.forall_mem_nil _)⟩)⟩
  intro k o h
  dsimp only at h
  split at h
  · rename_i hk
    cases h
    simp only [List.mem_cons, List.not_mem_nil, or_false] at hk
    rcases hk with rfl | rfl
    · exact h0
    · exact h44
  ·
    split at h
    · rename_i hk
      cases h
      simp only [List.mem_cons, List.not_mem_nil, or_false] at hk
      rcases hk with rfl | rfl | rfl | rfl | rfl | rfl | rfl | rfl | rfl | rfl
      · exact h18
      · exact h6
      · exact h7
      · exact h28
      · exact h32
      · exact h33
      · exact h34
      · exact h35
      · exact h45
      · exact h46
    · cases h
theorem hok_119 (E : ax_EN G l) : ax_hok G M_X0_crash 3 (fun k : Nat => if k ∈ [0, 44] then some (some 11) else if k ∈ [18, 6, 7, 28, 32, 33, 34, 35, 45, 46] then some none else none) := by
  have hB := en_B E
  have h18 : ax_ho G M_X0_crash 3 18 none := ⟨_, en_c E (k := 18) rfl, fun s args hs hw => (List.forall_mem_cons.mpr ⟨(Or.inr ⟨by decide, _, hw _ q1683, _, en_c E (k := 18) rfl, va_Nc.moved hs.1.alike (en_n E 45 rfl)⟩), (List.forall_mem_nil _)⟩)⟩
  have h0 : ax_ho G M_X0_crash 3 0 (some 11) := ⟨_, en_c E (k := 0) rfl, fun s args hs hw => ⟨(tableOf []), _, (tableOf []), "java/lang/IllegalStateException", rfl, (List.forall_mem_nil _), rfl, by decide, rfl, hw _ q1683, (ax_mv hB hs hw q1719 rfl)⟩⟩
  have h6 : ax_ho G M_X0_crash 3 6 none := ⟨_, en_c E (k := 6) rfl, fun s args hs hw => (List.forall_mem_cons.mpr ⟨(Or.inr ⟨by decide, _, hw _ q1683, _, en_c E (k := 6) rfl, va_Nc.moved hs.1.alike (en_n E 62 rfl)⟩), (List.forall_mem_nil _)⟩)⟩
  have h7 : ax_ho G M_X0_crash 3 7 none := ⟨_, en_c E (k := 7) rfl, fun s args hs hw => (List.forall_mem_cons.mpr ⟨(Or.inr ⟨by decide, _, hw _ q1683, _, en_c E (k := 7) rfl, va_Nc.moved hs.1.alike (en_n E 70 rfl)⟩), (List.forall_mem_nil _)⟩)⟩
  have h28 : ax_ho G M_X0_crash 3 28 none := ⟨_, en_c E (k := 28) rfl, fun s args hs hw => (List.forall_mem_cons.mpr ⟨(Or.inr ⟨by decide, _, hw _ q1683, _, en_c E (k := 28) rfl, va_Nc.moved hs.1.alike (en_n E 37 rfl)⟩), (List.forall_mem_nil _)⟩)⟩
  have h32 : ax_ho G M_X0_crash 3 32 none := ⟨_, en_c E (k := 32) rfl, fun s args hs hw => (List.forall_mem_cons.mpr ⟨(Or.inr ⟨by decide, _, hw _ q1683, _, en_c E (k := 32) rfl, va_Nc.moved hs.1.alike (en_n E 21 rfl)⟩), (List.forall_mem_nil _)⟩)⟩
  have h33 : ax_ho G M_X0_crash 3 33 none := ⟨_, en_c E (k := 33) rfl, fun s args hs hw => (List.forall_mem_cons.mpr ⟨(Or.inr ⟨by decide, _, hw _ q1683, _, en_c E (k := 33) rfl, va_Nc.moved hs.1.alike (en_n E 5 rfl)⟩), (List.forall_mem_nil _)⟩)⟩
  have h34 : ax_ho G M_X0_crash 3 34 none := ⟨_, en_c E (k := 34) rfl, fun s args hs hw => (List.forall_mem_cons.mpr ⟨(Or.inr ⟨by decide, _, hw _ q1683, _, en_c E (k := 34) rfl, va_Nc.moved hs.1.alike (en_n E 13 rfl)⟩), (List.forall_mem_nil _)⟩)⟩
  have h35 : ax_ho G M_X0_crash 3 35 none := ⟨_, en_c E (k := 35) rfl, fun s args hs hw => (List.forall_mem_cons.mpr ⟨(Or.inr ⟨by decide, _, hw _ q1683, _, en_c E (k := 35) rfl, va_Nc.moved hs.1.alike (en_n E 29 rfl)⟩), (List.forall_mem_nil _)⟩)⟩
  have h44 : ax_ho G M_X0_crash 3 44 (some 11) := ⟨_, en_c E (k := 44) rfl, fun s args hs hw => ⟨(tableOf []), _, (tableOf []), "java/lang/IllegalStateException", rfl, (List.forall_mem_nil _), rfl, by decide, rfl, hw _ q1683, (ax_mv hB hs hw q1719 rfl)⟩⟩
  have h45 : ax_ho G M_X0_crash 3 45 none := ⟨_, en_c E (k := 45) rfl, fun s args hs hw => (List.forall_mem_cons.mpr ⟨(Or.inr ⟨by decide, _, hw _ q1683, _, en_c E (k := 45) rfl, va_Nc.moved hs.1.alike (en_n E 70 rfl)⟩), (List.forall_mem_nil _)⟩)⟩
  have h46 : ax_ho G M_X0_crash 3 46 none := ⟨_, en_c E (k := 46) rfl, fun s args hs hw => (List.forall_mem_cons.mpr ⟨(Or.inr ⟨by decide, _, hw _ q1683, _, en_c E (k := 46) rfl, va_Nc.moved hs.1.alike (en_n E 62 rfl)⟩), (List.forall_mem_nil _)⟩)⟩
  intro k o h
  dsimp only at h
  split at h
  · rename_i hk
    cases h
    simp only [List.mem_cons, List.not_mem_nil, or_false] at hk
    rcases hk with rfl | rfl
    · exact h0
    · exact h44
  ·
    split at h
    · rename_i hk
      cases h
      simp only [List.mem_cons, List.not_mem_nil, or_false] at hk
      rcases hk with rfl | rfl | rfl | rfl | rfl | rfl | rfl | rfl | rfl | rfl
      · exact h18
      · exact h6
      · exact h7
      · exact h28
      · exact h32
      · exact h33
      · exact h34
      · exact h35
      · exact h45
      · exact h46
    · cases h
theorem hok_120 (E : ax_EN G l) : ax_hok G M_X0_format 3 (fun k : Nat => if k ∈ [0, 44] then some (some 11) else if k ∈ [18, 6, 7, 28, 32, 33, 34, 35, 45, 46] then some none else none) := by
  have hB := en_B E
  have h18 : ax_ho G M_X0_format 3 18 none := ⟨_, en_c E (k := 18) rfl, fun s args hs hw => (List.forall_mem_cons.mpr ⟨(Or.inr ⟨by decide, _, hw _ q1683, _, en_c E (k := 18) rfl, va_Nc.moved hs.1.alike (en_n E 45 rfl)⟩), (List.forall_mem_nil _)⟩)⟩
  have h0 : ax_ho G M_X0_format 3 0 (some 11) := ⟨_, en_c E (k := 0) rfl, fun s args hs hw => ⟨(tableOf []), _, (tableOf []), "java/lang/IllegalStateException", rfl, (List.forall_mem_nil _), rfl, by decide, rfl, hw _ q1683, (ax_mv hB hs hw q1719 rfl)⟩⟩
  have h6 : ax_ho G M_X0_format 3 6 none := ⟨_, en_c E (k := 6) rfl, fun s args hs hw => (List.forall_mem_cons.mpr ⟨(Or.inr ⟨by decide, _, hw _ q1683, _, en_c E (k := 6) rfl, va_Nc.moved hs.1.alike (en_n E 62 rfl)⟩), (List.forall_mem_nil _)⟩)⟩
  have h7 : ax_ho G M_X0_format 3 7 none := ⟨_, en_c E (k := 7) rfl, fun s args hs hw => (List.forall_mem_cons.mpr ⟨(Or.inr ⟨by decide, _, hw _ q1683, _, en_c E (k := 7) rfl, va_Nc.moved hs.1.alike (en_n E 70 rfl)⟩), (List.forall_mem_nil _)⟩)⟩
  have h28 : ax_ho G M_X0_format 3 28 none := ⟨_, en_c E (k := 28) rfl, fun s args hs hw => (List.forall_mem_cons.mpr ⟨(Or.inr ⟨by decide, _, hw _ q1683, _, en_c E (k := 28) rfl, va_Nc.moved hs.1.alike (en_n E 37 rfl)⟩), (List.forall_mem_nil _)⟩)⟩
  have h32 : ax_ho G M_X0_format 3 32 none := ⟨_, en_c E (k := 32) rfl, fun s args hs hw => (List.forall_mem_cons.mpr ⟨(Or.inr ⟨by decide, _, hw _ q1683, _, en_c E (k := 32) rfl, va_Nc.moved hs.1.alike (en_n E 21 rfl)⟩), (List.forall_mem_nil _)⟩)⟩
  have h33 : ax_ho G M_X0_format 3 33 none := ⟨_, en_c E (k := 33) rfl, fun s args hs hw => (List.forall_mem_cons.mpr ⟨(Or.inr ⟨by decide, _, hw _ q1683, _, en_c E (k := 33) rfl, va_Nc.moved hs.1.alike (en_n E 5 rfl)⟩), (List.forall_mem_nil _)⟩)⟩
  have h34 : ax_ho G M_X0_format 3 34 none := ⟨_, en_c E (k := 34) rfl, fun s args hs hw => (List.forall_mem_cons.mpr ⟨(Or.inr ⟨by decide, _, hw _ q1683, _, en_c E (k := 34) rfl, va_Nc.moved hs.1.alike (en_n E 13 rfl)⟩), (List.forall_mem_nil _)⟩)⟩
  have h35 : ax_ho G M_X0_format 3 35 none := ⟨_, en_c E (k := 35) rfl, fun s args hs hw => (List.forall_mem_cons.mpr ⟨(Or.inr ⟨by decide, _, hw _ q1683, _, en_c E (k := 35) rfl, va_Nc.moved hs.1.alike (en_n E 29 rfl)⟩), (List.forall_mem_nil _)⟩)⟩
  have h44 : ax_ho G M_X0_format 3 44 (some 11) := ⟨_, en_c E (k := 44) rfl, fun s args hs hw => ⟨(tableOf []), _, (tableOf []), "java/lang/IllegalStateException", rfl, (List.forall_mem_nil _), rfl, by decide, rfl, hw _ q1683, (ax_mv hB hs hw q1719 rfl)⟩⟩
  have h45 : ax_ho G M_X0_format 3 45 none := ⟨_, en_c E (k := 45) rfl, fun s args hs hw => (List.forall_mem_cons.mpr ⟨(Or.inr ⟨by decide, _, hw _ q1683, _, en_c E (k := 45) rfl, va_Nc.moved hs.1.alike (en_n E 70 rfl)⟩), (List.forall_mem_nil _)⟩)⟩
  have h46 : ax_ho G M_X0_format 3 46 none := ⟨_, en_c E (k := 46) rfl, fun s args hs hw => (List.forall_mem_cons.mpr ⟨(Or.inr ⟨by decide, _, hw _ q1683, _, en_c E (k := 46) rfl, va_Nc.moved hs.1.alike (en_n E 62 rfl)⟩), (List.forall_mem_nil _)⟩)⟩
  intro k o h
  dsimp only at h
  split at h
  · rename_i hk
    cases h
    simp only [List.mem_cons, List.not_mem_nil, or_false] at hk
    rcases hk with rfl | rfl
    · exact h0
    · exact h44
  ·
    split at h
    · rename_i hk
      cases h
      simp only [List.mem_cons, List.not_mem_nil, or_false] at hk
      rcases hk with rfl | rfl | rfl | rfl | rfl | rfl | rfl | rfl | rfl | rfl
      · exact h18
      · exact h6
      · exact h7
      · exact h28
      · exact h32
      · exact h33
      · exact h34
      · exact h35
      · exact h45
      · exact h46
    · cases h
theorem hok_121 (E : ax_EN G l) : ax_hok G M_X0_step 4 (fun k : Nat => if k ∈ [0, 44] then some (some 15) else if k ∈ [18] then some (some 12) else if k ∈ [6, 7, 28, 32, 33, 34, 35, 45, 46] then some none else none) := by
  have hB := en_B E
  have h18 : ax_ho G M_X0_step 4 18 (some 12) := ⟨_, en_c E (k := 18) rfl, fun s args hs hw => ⟨(tableOf []), _, (tableOf [(0, 9, 15, 15)]), "java/lang/IllegalArgumentException", rfl, (List.forall_mem_nil _), rfl, by decide, rfl, hw _ q1682, (ax_mv hB hs hw q742 rfl)⟩⟩
  have h0 : ax_ho G M_X0_step 4 0 (some 15) := ⟨_, en_c E (k := 0) rfl, fun s args hs hw => ⟨(tableOf [(0, 9, 12, 13)]), _, (tableOf []), "java/lang/IllegalStateException", rfl, (List.forall_mem_cons.mpr ⟨(Or.inr ⟨by decide, _, hw _ q1682, _, en_c E (k := 0) rfl, va_Nc.moved hs.1.alike (en_n E 53 rfl)⟩), (List.forall_mem_nil _)⟩), rfl, by decide, rfl, hw _ q1683, (ax_mv hB hs hw q1719 rfl)⟩⟩
  have h6 : ax_ho G M_X0_step 4 6 none := ⟨_, en_c E (k := 6) rfl, fun s args hs hw => (List.forall_mem_cons.mpr ⟨(Or.inr ⟨by decide, _, hw _ q1682, _, en_c E (k := 6) rfl, va_Nc.moved hs.1.alike (en_n E 61 rfl)⟩), (List.forall_mem_cons.mpr ⟨(Or.inr ⟨by decide, _, hw _ q1683, _, en_c E (k := 6) rfl, va_Nc.moved hs.1.alike (en_n E 62 rfl)⟩), (List.forall_mem_nil _)⟩)⟩)⟩
  have h7 : ax_ho G M_X0_step 4 7 none := ⟨_, en_c E (k := 7) rfl, fun s args hs hw => (List.forall_mem_cons.mpr ⟨(Or.inr ⟨by decide, _, hw _ q1682, _, en_c E (k := 7) rfl, va_Nc.moved hs.1.alike (en_n E 69 rfl)⟩), (List.forall_mem_cons.mpr ⟨(Or.inr ⟨by decide, _, hw _ q1683, _, en_c E (k := 7) rfl, va_Nc.moved hs.1.alike (en_n E 70 rfl)⟩), (List.forall_mem_nil _)⟩)⟩)⟩
  have h28 : ax_ho G M_X0_step 4 28 none := ⟨_, en_c E (k := 28) rfl, fun s args hs hw => (List.forall_mem_cons.mpr ⟨(Or.inr ⟨by decide, _, hw _ q1682, _, en_c E (k := 28) rfl, va_Nc.moved hs.1.alike (en_n E 36 rfl)⟩), (List.forall_mem_cons.mpr ⟨(Or.inr ⟨by decide, _, hw _ q1683, _, en_c E (k := 28) rfl, va_Nc.moved hs.1.alike (en_n E 37 rfl)⟩), (List.forall_mem_nil _)⟩)⟩)⟩
  have h32 : ax_ho G M_X0_step 4 32 none := ⟨_, en_c E (k := 32) rfl, fun s args hs hw => (List.forall_mem_cons.mpr ⟨(Or.inr ⟨by decide, _, hw _ q1682, _, en_c E (k := 32) rfl, va_Nc.moved hs.1.alike (en_n E 20 rfl)⟩), (List.forall_mem_cons.mpr ⟨(Or.inr ⟨by decide, _, hw _ q1683, _, en_c E (k := 32) rfl, va_Nc.moved hs.1.alike (en_n E 21 rfl)⟩), (List.forall_mem_nil _)⟩)⟩)⟩
  have h33 : ax_ho G M_X0_step 4 33 none := ⟨_, en_c E (k := 33) rfl, fun s args hs hw => (List.forall_mem_cons.mpr ⟨(Or.inr ⟨by decide, _, hw _ q1682, _, en_c E (k := 33) rfl, va_Nc.moved hs.1.alike (en_n E 4 rfl)⟩), (List.forall_mem_cons.mpr ⟨(Or.inr ⟨by decide, _, hw _ q1683, _, en_c E (k := 33) rfl, va_Nc.moved hs.1.alike (en_n E 5 rfl)⟩), (List.forall_mem_nil _)⟩)⟩)⟩
  have h34 : ax_ho G M_X0_step 4 34 none := ⟨_, en_c E (k := 34) rfl, fun s args hs hw => (List.forall_mem_cons.mpr ⟨(Or.inr ⟨by decide, _, hw _ q1682, _, en_c E (k := 34) rfl, va_Nc.moved hs.1.alike (en_n E 12 rfl)⟩), (List.forall_mem_cons.mpr ⟨(Or.inr ⟨by decide, _, hw _ q1683, _, en_c E (k := 34) rfl, va_Nc.moved hs.1.alike (en_n E 13 rfl)⟩), (List.forall_mem_nil _)⟩)⟩)⟩
  have h35 : ax_ho G M_X0_step 4 35 none := ⟨_, en_c E (k := 35) rfl, fun s args hs hw => (List.forall_mem_cons.mpr ⟨(Or.inr ⟨by decide, _, hw _ q1682, _, en_c E (k := 35) rfl, va_Nc.moved hs.1.alike (en_n E 28 rfl)⟩), (List.forall_mem_cons.mpr ⟨(Or.inr ⟨by decide, _, hw _ q1683, _, en_c E (k := 35) rfl, va_Nc.moved hs.1.alike (en_n E 29 rfl)⟩), (List.forall_mem_nil _)⟩)⟩)⟩
  have h44 : ax_ho G M_X0_step 4 44 (some 15) := ⟨_, en_c E (k := 44) rfl, fun s args hs hw => ⟨(tableOf [(0, 9, 12, 13)]), _, (tableOf []), "java/lang/IllegalStateException", rfl, (List.forall_mem_cons.mpr ⟨(Or.inr ⟨by decide, _, hw _ q1682, _, en_c E (k := 44) rfl, va_Nc.moved hs.1.alike (en_n E 53 rfl)⟩), (List.forall_mem_nil _)⟩), rfl, by decide, rfl, hw _ q1683, (ax_mv hB hs hw q1719 rfl)⟩⟩
  have h45 : ax_ho G M_X0_step 4 45 none := ⟨_, en_c E (k := 45) rfl, fun s args hs hw => (List.forall_mem_cons.mpr ⟨(Or.inr ⟨by decide, _, hw _ q1682, _, en_c E (k := 45) rfl, va_Nc.moved hs.1.alike (en_n E 69 rfl)⟩), (List.forall_mem_cons.mpr ⟨(Or.inr ⟨by decide, _, hw _ q1683, _, en_c E (k := 45) rfl, va_Nc.moved hs.1.alike (en_n E 70 rfl)⟩), (List.forall_mem_nil _)⟩)⟩)⟩
  have h46 : ax_ho G M_X0_step 4 46 none := ⟨_, en_c E (k := 46) rfl, fun s args hs hw => (List.forall_mem_cons.mpr ⟨(Or.inr ⟨by decide, _, hw _ q1682, _, en_c E (k := 46) rfl, va_Nc.moved hs.1.alike (en_n E 61 rfl)⟩), (List.forall_mem_cons.mpr ⟨(Or.inr ⟨by decide, _, hw _ q1683, _, en_c E (k := 46) rfl, va_Nc.moved hs.1.alike (en_n E 62 rfl)⟩), (List.forall_mem_nil _)⟩)⟩)⟩
  intro k o h
  dsimp only at h
  split at h
  · rename_i hk
    cases h
    simp only [List.mem_cons, List.not_mem_nil, or_false] at hk
    rcases hk with rfl | rfl
    · exact h0
    · exact h44
  ·
    split at h
    · rename_i hk
      cases h
      simp only [List.mem_cons, List.not_mem_nil, or_false] at hk
      rcases hk with rfl
      exact h18
    ·
      split at h
      · rename_i hk
        cases h
        simp only [List.mem_cons, List.not_mem_nil, or_false] at hk
        rcases hk with rfl | rfl | rfl | rfl | rfl | rfl | rfl | rfl | rfl
        · exact h6
        · exact h7
        · exact h28
        · exact h32
        · exact h33
        · exact h34
        · exact h35
        · exact h45
        · exact h46
      · cases h
theorem hok_122 (E : ax_EN G l) : ax_hok G M_X0_runTo 5 (fun k : Nat => if k ∈ [0, 44] then some (some 17) else if k ∈ [18] then some (some 13) else if k ∈ [6, 7, 28, 32, 33, 34, 35, 45, 46] then some none else none) := by
  have hB := en_B E
  have h18 : ax_ho G M_X0_runTo 5 18 (some 13) := ⟨_, en_c E (k := 18) rfl, fun s args hs hw => ⟨(tableOf []), _, (tableOf [(0, 10, 17, 15)]), "java/lang/IllegalArgumentException", rfl, (List.forall_mem_nil _), rfl, by decide, rfl, hw _ q1682, (ax_mv hB hs hw q742 rfl)⟩⟩
  have h0 : ax_ho G M_X0_runTo 5 0 (some 17) := ⟨_, en_c E (k := 0) rfl, fun s args hs hw => ⟨(tableOf [(0, 10, 13, 13)]), _, (tableOf []), "java/lang/IllegalStateException", rfl, (List.forall_mem_cons.mpr ⟨(Or.inr ⟨by decide, _, hw _ q1682, _, en_c E (k := 0) rfl, va_Nc.moved hs.1.alike (en_n E 53 rfl)⟩), (List.forall_mem_nil _)⟩), rfl, by decide, rfl, hw _ q1683, (ax_mv hB hs hw q1719 rfl)⟩⟩
  have h6 : ax_ho G M_X0_runTo 5 6 none := ⟨_, en_c E (k := 6) rfl, fun s args hs hw => (List.forall_mem_cons.mpr ⟨(Or.inr ⟨by decide, _, hw _ q1682, _, en_c E (k := 6) rfl, va_Nc.moved hs.1.alike (en_n E 61 rfl)⟩), (List.forall_mem_cons.mpr ⟨(Or.inr ⟨by decide, _, hw _ q1683, _, en_c E (k := 6) rfl, va_Nc.moved hs.1.alike (en_n E 62 rfl)⟩), (List.forall_mem_nil _)⟩)⟩)⟩
  have h7 : ax_ho G M_X0_runTo 5 7 none := ⟨_, en_c E (k := 7) rfl, fun s args hs hw => (List.forall_mem_cons.mpr ⟨(Or.inr ⟨by decide, _, hw _ q1682, _, en_c E (k := 7) rfl, va_Nc.moved hs.1.alike (en_n E 69 rfl)⟩), (List.forall_mem_cons.mpr ⟨(Or.inr ⟨by decide, _, hw _ q1683, _, en_c E (k := 7) rfl, va_Nc.moved hs.1.alike (en_n E 70 rfl)⟩), (List.forall_mem_nil _)⟩)⟩)⟩
  have h28 : ax_ho G M_X0_runTo 5 28 none := ⟨_, en_c E (k := 28) rfl, fun s args hs hw => (List.forall_mem_cons.mpr ⟨(Or.inr ⟨by decide, _, hw _ q1682, _, en_c E (k := 28) rfl, va_Nc.moved hs.1.alike (en_n E 36 rfl)⟩), (List.forall_mem_cons.mpr ⟨(Or.inr ⟨by decide, _, hw _ q1683, _, en_c E (k := 28) rfl, va_Nc.moved hs.1.alike (en_n E 37 rfl)⟩), (List.forall_mem_nil _)⟩)⟩)⟩
  have h32 : ax_ho G M_X0_runTo 5 32 none := ⟨_, en_c E (k := 32) rfl, fun s args hs hw => (List.forall_mem_cons.mpr ⟨(Or.inr ⟨by decide, _, hw _ q1682, _, en_c E (k := 32) rfl, va_Nc.moved hs.1.alike (en_n E 20 rfl)⟩), (List.forall_mem_cons.mpr ⟨(Or.inr ⟨by decide, _, hw _ q1683, _, en_c E (k := 32) rfl, va_Nc.moved hs.1.alike (en_n E 21 rfl)⟩), (List.forall_mem_nil _)⟩)⟩)⟩
  have h33 : ax_ho G M_X0_runTo 5 33 none := ⟨_, en_c E (k := 33) rfl, fun s args hs hw => (List.forall_mem_cons.mpr ⟨(Or.inr ⟨by decide, _, hw _ q1682, _, en_c E (k := 33) rfl, va_Nc.moved hs.1.alike (en_n E 4 rfl)⟩), (List.forall_mem_cons.mpr ⟨(Or.inr ⟨by decide, _, hw _ q1683, _, en_c E (k := 33) rfl, va_Nc.moved hs.1.alike (en_n E 5 rfl)⟩), (List.forall_mem_nil _)⟩)⟩)⟩
  have h34 : ax_ho G M_X0_runTo 5 34 none := ⟨_, en_c E (k := 34) rfl, fun s args hs hw => (List.forall_mem_cons.mpr ⟨(Or.inr ⟨by decide, _, hw _ q1682, _, en_c E (k := 34) rfl, va_Nc.moved hs.1.alike (en_n E 12 rfl)⟩), (List.forall_mem_cons.mpr ⟨(Or.inr ⟨by decide, _, hw _ q1683, _, en_c E (k := 34) rfl, va_Nc.moved hs.1.alike (en_n E 13 rfl)⟩), (List.forall_mem_nil _)⟩)⟩)⟩
  have h35 : ax_ho G M_X0_runTo 5 35 none := ⟨_, en_c E (k := 35) rfl, fun s args hs hw => (List.forall_mem_cons.mpr ⟨(Or.inr ⟨by decide, _, hw _ q1682, _, en_c E (k := 35) rfl, va_Nc.moved hs.1.alike (en_n E 28 rfl)⟩), (List.forall_mem_cons.mpr ⟨(Or.inr ⟨by decide, _, hw _ q1683, _, en_c E (k := 35) rfl, va_Nc.moved hs.1.alike (en_n E 29 rfl)⟩), (List.forall_mem_nil _)⟩)⟩)⟩
  have h44 : ax_ho G M_X0_runTo 5 44 (some 17) := ⟨_, en_c E (k := 44) rfl, fun s args hs hw => ⟨(tableOf [(0, 10, 13, 13)]), _, (tableOf []), "java/lang/IllegalStateException", rfl, (List.forall_mem_cons.mpr ⟨(Or.inr ⟨by decide, _, hw _ q1682, _, en_c E (k := 44) rfl, va_Nc.moved hs.1.alike (en_n E 53 rfl)⟩), (List.forall_mem_nil _)⟩), rfl, by decide, rfl, hw _ q1683, (ax_mv hB hs hw q1719 rfl)⟩⟩
  have h45 : ax_ho G M_X0_runTo 5 45 none := ⟨_, en_c E (k := 45) rfl, fun s args hs hw => (List.forall_mem_cons.mpr ⟨(Or.inr ⟨by decide, _, hw _ q1682, _, en_c E (k := 45) rfl, va_Nc.moved hs.1.alike (en_n E 69 rfl)⟩), (List.forall_mem_cons.mpr ⟨(Or.inr ⟨by decide, _, hw _ q1683, _, en_c E (k := 45) rfl, va_Nc.moved hs.1.alike (en_n E 70 rfl)⟩), (List.forall_mem_nil _)⟩)⟩)⟩
  have h46 : ax_ho G M_X0_runTo 5 46 none := ⟨_, en_c E (k := 46) rfl, fun s args hs hw => (List.forall_mem_cons.mpr ⟨(Or.inr ⟨by decide, _, hw _ q1682, _, en_c E (k := 46) rfl, va_Nc.moved hs.1.alike (en_n E 61 rfl)⟩), (List.forall_mem_cons.mpr ⟨(Or.inr ⟨by decide, _, hw _ q1683, _, en_c E (k := 46) rfl, va_Nc.moved hs.1.alike (en_n E 62 rfl)⟩), (List.forall_mem_nil _)⟩)⟩)⟩
  intro k o h
  dsimp only at h
  split at h
  · rename_i hk
    cases h
    simp only [List.mem_cons, List.not_mem_nil, or_false] at hk
    rcases hk with rfl | rfl
    · exact h0
    · exact h44
  ·
    split at h
    · rename_i hk
      cases h
      simp only [List.mem_cons, List.not_mem_nil, or_false] at hk
      rcases hk with rfl
      exact h18
    ·
      split at h
      · rename_i hk
        cases h
        simp only [List.mem_cons, List.not_mem_nil, or_false] at hk
        rcases hk with rfl | rfl | rfl | rfl | rfl | rfl | rfl | rfl | rfl
        · exact h6
        · exact h7
        · exact h28
        · exact h32
        · exact h33
        · exact h34
        · exact h35
        · exact h45
        · exact h46
      · cases h
theorem hok_123 (E : ax_EN G l) : ax_hok G M_X0_back 4 (fun k : Nat => if k ∈ [0, 44] then some (some 15) else if k ∈ [18] then some (some 12) else if k ∈ [6, 7, 28, 32, 33, 34, 35, 45, 46] then some none else none) := by
  have hB := en_B E
  have h18 : ax_ho G M_X0_back 4 18 (some 12) := ⟨_, en_c E (k := 18) rfl, fun s args hs hw => ⟨(tableOf []), _, (tableOf [(0, 9, 15, 15)]), "java/lang/IllegalArgumentException", rfl, (List.forall_mem_nil _), rfl, by decide, rfl, hw _ q1682, (ax_mv hB hs hw q742 rfl)⟩⟩
  have h0 : ax_ho G M_X0_back 4 0 (some 15) := ⟨_, en_c E (k := 0) rfl, fun s args hs hw => ⟨(tableOf [(0, 9, 12, 13)]), _, (tableOf []), "java/lang/IllegalStateException", rfl, (List.forall_mem_cons.mpr ⟨(Or.inr ⟨by decide, _, hw _ q1682, _, en_c E (k := 0) rfl, va_Nc.moved hs.1.alike (en_n E 53 rfl)⟩), (List.forall_mem_nil _)⟩), rfl, by decide, rfl, hw _ q1683, (ax_mv hB hs hw q1719 rfl)⟩⟩
  have h6 : ax_ho G M_X0_back 4 6 none := ⟨_, en_c E (k := 6) rfl, fun s args hs hw => (List.forall_mem_cons.mpr ⟨(Or.inr ⟨by decide, _, hw _ q1682, _, en_c E (k := 6) rfl, va_Nc.moved hs.1.alike (en_n E 61 rfl)⟩), (List.forall_mem_cons.mpr ⟨(Or.inr ⟨by decide, _, hw _ q1683, _, en_c E (k := 6) rfl, va_Nc.moved hs.1.alike (en_n E 62 rfl)⟩), (List.forall_mem_nil _)⟩)⟩)⟩
  have h7 : ax_ho G M_X0_back 4 7 none := ⟨_, en_c E (k := 7) rfl, fun s args hs hw => (List.forall_mem_cons.mpr ⟨(Or.inr ⟨by decide, _, hw _ q1682, _, en_c E (k := 7) rfl, va_Nc.moved hs.1.alike (en_n E 69 rfl)⟩), (List.forall_mem_cons.mpr ⟨(Or.inr ⟨by decide, _, hw _ q1683, _, en_c E (k := 7) rfl, va_Nc.moved hs.1.alike (en_n E 70 rfl)⟩), (List.forall_mem_nil _)⟩)⟩)⟩
  have h28 : ax_ho G M_X0_back 4 28 none := ⟨_, en_c E (k := 28) rfl, fun s args hs hw => (List.forall_mem_cons.mpr ⟨(Or.inr ⟨by decide, _, hw _ q1682, _, en_c E (k := 28) rfl, va_Nc.moved hs.1.alike (en_n E 36 rfl)⟩), (List.forall_mem_cons.mpr ⟨(Or.inr ⟨by decide, _, hw _ q1683, _, en_c E (k := 28) rfl, va_Nc.moved hs.1.alike (en_n E 37 rfl)⟩), (List.forall_mem_nil _)⟩)⟩)⟩
  have h32 : ax_ho G M_X0_back 4 32 none := ⟨_, en_c E (k := 32) rfl, fun s args hs hw => (List.forall_mem_cons.mpr ⟨(Or.inr ⟨by decide, _, hw _ q1682, _, en_c E (k := 32) rfl, va_Nc.moved hs.1.alike (en_n E 20 rfl)⟩), (List.forall_mem_cons.mpr ⟨(Or.inr ⟨by decide, _, hw _ q1683, _, en_c E (k := 32) rfl, va_Nc.moved hs.1.alike (en_n E 21 rfl)⟩), (List.forall_mem_nil _)⟩)⟩)⟩
  have h33 : ax_ho G M_X0_back 4 33 none := ⟨_, en_c E (k := 33) rfl, fun s args hs hw => (List.forall_mem_cons.mpr ⟨(Or.inr ⟨by decide, _, hw _ q1682, _, en_c E (k := 33) rfl, va_Nc.moved hs.1.alike (en_n E 4 rfl)⟩), (List.forall_mem_cons.mpr ⟨(Or.inr ⟨by decide, _, hw _ q1683, _, en_c E (k := 33) rfl, va_Nc.moved hs.1.alike (en_n E 5 rfl)⟩), (List.forall_mem_nil _)⟩)⟩)⟩
  have h34 : ax_ho G M_X0_back 4 34 none := ⟨_, en_c E (k := 34) rfl, fun s args hs hw => (List.forall_mem_cons.mpr ⟨(Or.inr ⟨by decide, _, hw _ q1682, _, en_c E (k := 34) rfl, va_Nc.moved hs.1.alike (en_n E 12 rfl)⟩), (List.forall_mem_cons.mpr ⟨(Or.inr ⟨by decide, _, hw _ q1683, _, en_c E (k := 34) rfl, va_Nc.moved hs.1.alike (en_n E 13 rfl)⟩), (List.forall_mem_nil _)⟩)⟩)⟩
  have h35 : ax_ho G M_X0_back 4 35 none := ⟨_, en_c E (k := 35) rfl, fun s args hs hw => (List.forall_mem_cons.mpr ⟨(Or.inr ⟨by decide, _, hw _ q1682, _, en_c E (k := 35) rfl, va_Nc.moved hs.1.alike (en_n E 28 rfl)⟩), (List.forall_mem_cons.mpr ⟨(Or.inr ⟨by decide, _, hw _ q1683, _, en_c E (k := 35) rfl, va_Nc.moved hs.1.alike (en_n E 29 rfl)⟩), (List.forall_mem_nil _)⟩)⟩)⟩
  have h44 : ax_ho G M_X0_back 4 44 (some 15) := ⟨_, en_c E (k := 44) rfl, fun s args hs hw => ⟨(tableOf [(0, 9, 12, 13)]), _, (tableOf []), "java/lang/IllegalStateException", rfl, (List.forall_mem_cons.mpr ⟨(Or.inr ⟨by decide, _, hw _ q1682, _, en_c E (k := 44) rfl, va_Nc.moved hs.1.alike (en_n E 53 rfl)⟩), (List.forall_mem_nil _)⟩), rfl, by decide, rfl, hw _ q1683, (ax_mv hB hs hw q1719 rfl)⟩⟩
  have h45 : ax_ho G M_X0_back 4 45 none := ⟨_, en_c E (k := 45) rfl, fun s args hs hw => (List.forall_mem_cons.mpr ⟨(Or.inr ⟨by decide, _, hw _ q1682, _, en_c E (k := 45) rfl, va_Nc.moved hs.1.alike (en_n E 69 rfl)⟩), (List.forall_mem_cons.mpr ⟨(Or.inr ⟨by decide, _, hw _ q1683, _, en_c E (k := 45) rfl, va_Nc.moved hs.1.alike (en_n E 70 rfl)⟩), (List.forall_mem_nil _)⟩)⟩)⟩
  have h46 : ax_ho G M_X0_back 4 46 none := ⟨_, en_c E (k := 46) rfl, fun s args hs hw => (List.forall_mem_cons.mpr ⟨(Or.inr ⟨by decide, _, hw _ q1682, _, en_c E (k := 46) rfl, va_Nc.moved hs.1.alike (en_n E 61 rfl)⟩), (List.forall_mem_cons.mpr ⟨(Or.inr ⟨by decide, _, hw _ q1683, _, en_c E (k := 46) rfl, va_Nc.moved hs.1.alike (en_n E 62 rfl)⟩), (List.forall_mem_nil _)⟩)⟩)⟩
  intro k o h
  dsimp only at h
  split at h
  · rename_i hk
    cases h
    simp only [List.mem_cons, List.not_mem_nil, or_false] at hk
    rcases hk with rfl | rfl
    · exact h0
    · exact h44
  ·
    split at h
    · rename_i hk
      cases h
      simp only [List.mem_cons, List.not_mem_nil, or_false] at hk
      rcases hk with rfl
      exact h18
    ·
      split at h
      · rename_i hk
        cases h
        simp only [List.mem_cons, List.not_mem_nil, or_false] at hk
        rcases hk with rfl | rfl | rfl | rfl | rfl | rfl | rfl | rfl | rfl
        · exact h6
        · exact h7
        · exact h28
        · exact h32
        · exact h33
        · exact h34
        · exact h35
        · exact h45
        · exact h46
      · cases h
theorem hok_124 (E : ax_EN G l) : ax_hok G M_X0_press 4 (fun k : Nat => if k ∈ [0, 44] then some (some 15) else if k ∈ [18] then some (some 12) else if k ∈ [6, 7, 28, 32, 33, 34, 35, 45, 46] then some none else none) := by
  have hB := en_B E
  have h18 : ax_ho G M_X0_press 4 18 (some 12) := ⟨_, en_c E (k := 18) rfl, fun s args hs hw => ⟨(tableOf []), _, (tableOf [(0, 9, 15, 15)]), "java/lang/IllegalArgumentException", rfl, (List.forall_mem_nil _), rfl, by decide, rfl, hw _ q1682, (ax_mv hB hs hw q742 rfl)⟩⟩
  have h0 : ax_ho G M_X0_press 4 0 (some 15) := ⟨_, en_c E (k := 0) rfl, fun s args hs hw => ⟨(tableOf [(0, 9, 12, 13)]), _, (tableOf []), "java/lang/IllegalStateException", rfl, (List.forall_mem_cons.mpr ⟨(Or.inr ⟨by decide, _, hw _ q1682, _, en_c E (k := 0) rfl, va_Nc.moved hs.1.alike (en_n E 53 rfl)⟩), (List.forall_mem_nil _)⟩), rfl, by decide, rfl, hw _ q1683, (ax_mv hB hs hw q1719 rfl)⟩⟩
  have h6 : ax_ho G M_X0_press 4 6 none := ⟨_, en_c E (k := 6) rfl, fun s args hs hw => (List.forall_mem_cons.mpr ⟨(Or.inr ⟨by decide, _, hw _ q1682, _, en_c E (k := 6) rfl, va_Nc.moved hs.1.alike (en_n E 61 rfl)⟩), (List.forall_mem_cons.mpr ⟨(Or.inr ⟨by decide, _, hw _ q1683, _, en_c E (k := 6) rfl, va_Nc.moved hs.1.alike (en_n E 62 rfl)⟩), (List.forall_mem_nil _)⟩)⟩)⟩
  have h7 : ax_ho G M_X0_press 4 7 none := ⟨_, en_c E (k := 7) rfl, fun s args hs hw => (List.forall_mem_cons.mpr ⟨(Or.inr ⟨by decide, _, hw _ q1682, _, en_c E (k := 7) rfl, va_Nc.moved hs.1.alike (en_n E 69 rfl)⟩), (List.forall_mem_cons.mpr ⟨(Or.inr ⟨by decide, _, hw _ q1683, _, en_c E (k := 7) rfl, va_Nc.moved hs.1.alike (en_n E 70 rfl)⟩), (List.forall_mem_nil _)⟩)⟩)⟩
  have h28 : ax_ho G M_X0_press 4 28 none := ⟨_, en_c E (k := 28) rfl, fun s args hs hw => (List.forall_mem_cons.mpr ⟨(Or.inr ⟨by decide, _, hw _ q1682, _, en_c E (k := 28) rfl, va_Nc.moved hs.1.alike (en_n E 36 rfl)⟩), (List.forall_mem_cons.mpr ⟨(Or.inr ⟨by decide, _, hw _ q1683, _, en_c E (k := 28) rfl, va_Nc.moved hs.1.alike (en_n E 37 rfl)⟩), (List.forall_mem_nil _)⟩)⟩)⟩
  have h32 : ax_ho G M_X0_press 4 32 none := ⟨_, en_c E (k := 32) rfl, fun s args hs hw => (List.forall_mem_cons.mpr ⟨(Or.inr ⟨by decide, _, hw _ q1682, _, en_c E (k := 32) rfl, va_Nc.moved hs.1.alike (en_n E 20 rfl)⟩), (List.forall_mem_cons.mpr ⟨(Or.inr ⟨by decide, _, hw _ q1683, _, en_c E (k := 32) rfl, va_Nc.moved hs.1.alike (en_n E 21 rfl)⟩), (List.forall_mem_nil _)⟩)⟩)⟩
  have h33 : ax_ho G M_X0_press 4 33 none := ⟨_, en_c E (k := 33) rfl, fun s args hs hw => (List.forall_mem_cons.mpr ⟨(Or.inr ⟨by decide, _, hw _ q1682, _, en_c E (k := 33) rfl, va_Nc.moved hs.1.alike (en_n E 4 rfl)⟩), (List.forall_mem_cons.mpr ⟨(Or.inr ⟨by decide, _, hw _ q1683, _, en_c E (k := 33) rfl, va_Nc.moved hs.1.alike (en_n E 5 rfl)⟩), (List.forall_mem_nil _)⟩)⟩)⟩
  have h34 : ax_ho G M_X0_press 4 34 none := ⟨_, en_c E (k := 34) rfl, fun s args hs hw => (List.forall_mem_cons.mpr ⟨(Or.inr ⟨by decide, _, hw _ q1682, _, en_c E (k := 34) rfl, va_Nc.moved hs.1.alike (en_n E 12 rfl)⟩), (List.forall_mem_cons.mpr ⟨(Or.inr ⟨by decide, _, hw _ q1683, _, en_c E (k := 34) rfl, va_Nc.moved hs.1.alike (en_n E 13 rfl)⟩), (List.forall_mem_nil _)⟩)⟩)⟩
  have h35 : ax_ho G M_X0_press 4 35 none := ⟨_, en_c E (k := 35) rfl, fun s args hs hw => (List.forall_mem_cons.mpr ⟨(Or.inr ⟨by decide, _, hw _ q1682, _, en_c E (k := 35) rfl, va_Nc.moved hs.1.alike (en_n E 28 rfl)⟩), (List.forall_mem_cons.mpr ⟨(Or.inr ⟨by decide, _, hw _ q1683, _, en_c E (k := 35) rfl, va_Nc.moved hs.1.alike (en_n E 29 rfl)⟩), (List.forall_mem_nil _)⟩)⟩)⟩
  have h44 : ax_ho G M_X0_press 4 44 (some 15) := ⟨_, en_c E (k := 44) rfl, fun s args hs hw => ⟨(tableOf [(0, 9, 12, 13)]), _, (tableOf []), "java/lang/IllegalStateException", rfl, (List.forall_mem_cons.mpr ⟨(Or.inr ⟨by decide, _, hw _ q1682, _, en_c E (k := 44) rfl, va_Nc.moved hs.1.alike (en_n E 53 rfl)⟩), (List.forall_mem_nil _)⟩), rfl, by decide, rfl, hw _ q1683, (ax_mv hB hs hw q1719 rfl)⟩⟩
  have h45 : ax_ho G M_X0_press 4 45 none := ⟨_, en_c E (k := 45) rfl, fun s args hs hw => (List.forall_mem_cons.mpr ⟨(Or.inr ⟨by decide, _, hw _ q1682, _, en_c E (k := 45) rfl, va_Nc.moved hs.1.alike (en_n E 69 rfl)⟩), (List.forall_mem_cons.mpr ⟨(Or.inr ⟨by decide, _, hw _ q1683, _, en_c E (k := 45) rfl, va_Nc.moved hs.1.alike (en_n E 70 rfl)⟩), (List.forall_mem_nil _)⟩)⟩)⟩
  have h46 : ax_ho G M_X0_press 4 46 none := ⟨_, en_c E (k := 46) rfl, fun s args hs hw => (List.forall_mem_cons.mpr ⟨(Or.inr ⟨by decide, _, hw _ q1682, _, en_c E (k := 46) rfl, va_Nc.moved hs.1.alike (en_n E 61 rfl)⟩), (List.forall_mem_cons.mpr ⟨(Or.inr ⟨by decide, _, hw _ q1683, _, en_c E (k := 46) rfl, va_Nc.moved hs.1.alike (en_n E 62 rfl)⟩), (List.forall_mem_nil _)⟩)⟩)⟩
  intro k o h
  dsimp only at h
  split at h
  · rename_i hk
    cases h
    simp only [List.mem_cons, List.not_mem_nil, or_false] at hk
    rcases hk with rfl | rfl
    · exact h0
    · exact h44
  ·
    split at h
    · rename_i hk
      cases h
      simp only [List.mem_cons, List.not_mem_nil, or_false] at hk
      rcases hk with rfl
      exact h18
    ·
      split at h
      · rename_i hk
        cases h
        simp only [List.mem_cons, List.not_mem_nil, or_false] at hk
        rcases hk with rfl | rfl | rfl | rfl | rfl | rfl | rfl | rfl | rfl
        · exact h6
        · exact h7
        · exact h28
        · exact h32
        · exact h33
        · exact h34
        · exact h35
        · exact h45
        · exact h46
      · cases h
theorem hok_125 (E : ax_EN G l) : ax_hok G M_X0_register 4 (fun k : Nat => if k ∈ [18] then some (some 12) else if k ∈ [0, 6, 7, 28, 32, 33, 34, 35, 44, 45, 46] then some none else none) := by
  have hB := en_B E
  have h18 : ax_ho G M_X0_register 4 18 (some 12) := ⟨_, en_c E (k := 18) rfl, fun s args hs hw => ⟨(tableOf []), _, (tableOf []), "java/lang/IllegalArgumentException", rfl, (List.forall_mem_nil _), rfl, by decide, rfl, hw _ q1682, (ax_mv hB hs hw q742 rfl)⟩⟩
  have h0 : ax_ho G M_X0_register 4 0 none := ⟨_, en_c E (k := 0) rfl, fun s args hs hw => (List.forall_mem_cons.mpr ⟨(Or.inr ⟨by decide, _, hw _ q1682, _, en_c E (k := 0) rfl, va_Nc.moved hs.1.alike (en_n E 53 rfl)⟩), (List.forall_mem_nil _)⟩)⟩
  have h6 : ax_ho G M_X0_register 4 6 none := ⟨_, en_c E (k := 6) rfl, fun s args hs hw => (List.forall_mem_cons.mpr ⟨(Or.inr ⟨by decide, _, hw _ q1682, _, en_c E (k := 6) rfl, va_Nc.moved hs.1.alike (en_n E 61 rfl)⟩), (List.forall_mem_nil _)⟩)⟩
  have h7 : ax_ho G M_X0_register 4 7 none := ⟨_, en_c E (k := 7) rfl, fun s args hs hw => (List.forall_mem_cons.mpr ⟨(Or.inr ⟨by decide, _, hw _ q1682, _, en_c E (k := 7) rfl, va_Nc.moved hs.1.alike (en_n E 69 rfl)⟩), (List.forall_mem_nil _)⟩)⟩
  have h28 : ax_ho G M_X0_register 4 28 none := ⟨_, en_c E (k := 28) rfl, fun s args hs hw => (List.forall_mem_cons.mpr ⟨(Or.inr ⟨by decide, _, hw _ q1682, _, en_c E (k := 28) rfl, va_Nc.moved hs.1.alike (en_n E 36 rfl)⟩), (List.forall_mem_nil _)⟩)⟩
  have h32 : ax_ho G M_X0_register 4 32 none := ⟨_, en_c E (k := 32) rfl, fun s args hs hw => (List.forall_mem_cons.mpr ⟨(Or.inr ⟨by decide, _, hw _ q1682, _, en_c E (k := 32) rfl, va_Nc.moved hs.1.alike (en_n E 20 rfl)⟩), (List.forall_mem_nil _)⟩)⟩
  have h33 : ax_ho G M_X0_register 4 33 none := ⟨_, en_c E (k := 33) rfl, fun s args hs hw => (List.forall_mem_cons.mpr ⟨(Or.inr ⟨by decide, _, hw _ q1682, _, en_c E (k := 33) rfl, va_Nc.moved hs.1.alike (en_n E 4 rfl)⟩), (List.forall_mem_nil _)⟩)⟩
  have h34 : ax_ho G M_X0_register 4 34 none := ⟨_, en_c E (k := 34) rfl, fun s args hs hw => (List.forall_mem_cons.mpr ⟨(Or.inr ⟨by decide, _, hw _ q1682, _, en_c E (k := 34) rfl, va_Nc.moved hs.1.alike (en_n E 12 rfl)⟩), (List.forall_mem_nil _)⟩)⟩
  have h35 : ax_ho G M_X0_register 4 35 none := ⟨_, en_c E (k := 35) rfl, fun s args hs hw => (List.forall_mem_cons.mpr ⟨(Or.inr ⟨by decide, _, hw _ q1682, _, en_c E (k := 35) rfl, va_Nc.moved hs.1.alike (en_n E 28 rfl)⟩), (List.forall_mem_nil _)⟩)⟩
  have h44 : ax_ho G M_X0_register 4 44 none := ⟨_, en_c E (k := 44) rfl, fun s args hs hw => (List.forall_mem_cons.mpr ⟨(Or.inr ⟨by decide, _, hw _ q1682, _, en_c E (k := 44) rfl, va_Nc.moved hs.1.alike (en_n E 53 rfl)⟩), (List.forall_mem_nil _)⟩)⟩
  have h45 : ax_ho G M_X0_register 4 45 none := ⟨_, en_c E (k := 45) rfl, fun s args hs hw => (List.forall_mem_cons.mpr ⟨(Or.inr ⟨by decide, _, hw _ q1682, _, en_c E (k := 45) rfl, va_Nc.moved hs.1.alike (en_n E 69 rfl)⟩), (List.forall_mem_nil _)⟩)⟩
  have h46 : ax_ho G M_X0_register 4 46 none := ⟨_, en_c E (k := 46) rfl, fun s args hs hw => (List.forall_mem_cons.mpr ⟨(Or.inr ⟨by decide, _, hw _ q1682, _, en_c E (k := 46) rfl, va_Nc.moved hs.1.alike (en_n E 61 rfl)⟩), (List.forall_mem_nil _)⟩)⟩
  intro k o h
  dsimp only at h
  split at h
  · rename_i hk
    cases h
    simp only [List.mem_cons, List.not_mem_nil, or_false] at hk
    rcases hk with rfl
    exact h18
  ·
    split at h
    · rename_i hk
      cases h
      simp only [List.mem_cons, List.not_mem_nil, or_false] at hk
      rcases hk with rfl | rfl | rfl | rfl | rfl | rfl | rfl | rfl | rfl | rfl | rfl
      · exact h0
      · exact h6
      · exact h7
      · exact h28
      · exact h32
      · exact h33
      · exact h34
      · exact h35
      · exact h44
      · exact h45
      · exact h46
    · cases h
theorem hok_126 (E : ax_EN G l) : ax_hok G M_X0_memory 4 (fun k : Nat => if k ∈ [18] then some (some 12) else if k ∈ [0, 6, 7, 28, 32, 33, 34, 35, 44, 45, 46] then some none else none) := by
  have hB := en_B E
  have h18 : ax_ho G M_X0_memory 4 18 (some 12) := ⟨_, en_c E (k := 18) rfl, fun s args hs hw => ⟨(tableOf []), _, (tableOf []), "java/lang/IllegalArgumentException", rfl, (List.forall_mem_nil _), rfl, by decide, rfl, hw _ q1682, (ax_mv hB hs hw q742 rfl)⟩⟩
  have h0 : ax_ho G M_X0_memory 4 0 none := ⟨_, en_c E (k := 0) rfl, fun s args hs hw => (List.forall_mem_cons.mpr ⟨(Or.inr ⟨by decide, _, hw _ q1682, _, en_c E (k := 0) rfl, va_Nc.moved hs.1.alike (en_n E 53 rfl)⟩), (List.forall_mem_nil _)⟩)⟩
  have h6 : ax_ho G M_X0_memory 4 6 none := ⟨_, en_c E (k := 6) rfl, fun s args hs hw => (List.forall_mem_cons.mpr ⟨(Or.inr ⟨by decide, _, hw _ q1682, _, en_c E (k := 6) rfl, va_Nc.moved hs.1.alike (en_n E 61 rfl)⟩), (List.forall_mem_nil _)⟩)⟩
  have h7 : ax_ho G M_X0_memory 4 7 none := ⟨_, en_c E (k := 7) rfl, fun s args hs hw => (List.forall_mem_cons.mpr ⟨(Or.inr ⟨by decide, _, hw _ q1682, _, en_c E (k := 7) rfl, va_Nc.moved hs.1.alike (en_n E 69 rfl)⟩), (List.forall_mem_nil _)⟩)⟩
  have h28 : ax_ho G M_X0_memory 4 28 none := ⟨_, en_c E (k := 28) rfl, fun s args hs hw => (List.forall_mem_cons.mpr ⟨(Or.inr ⟨by decide, _, hw _ q1682, _, en_c E (k := 28) rfl, va_Nc.moved hs.1.alike (en_n E 36 rfl)⟩), (List.forall_mem_nil _)⟩)⟩
  have h32 : ax_ho G M_X0_memory 4 32 none := ⟨_, en_c E (k := 32) rfl, fun s args hs hw => (List.forall_mem_cons.mpr ⟨(Or.inr ⟨by decide, _, hw _ q1682, _, en_c E (k := 32) rfl, va_Nc.moved hs.1.alike (en_n E 20 rfl)⟩), (List.forall_mem_nil _)⟩)⟩
  have h33 : ax_ho G M_X0_memory 4 33 none := ⟨_, en_c E (k := 33) rfl, fun s args hs hw => (List.forall_mem_cons.mpr ⟨(Or.inr ⟨by decide, _, hw _ q1682, _, en_c E (k := 33) rfl, va_Nc.moved hs.1.alike (en_n E 4 rfl)⟩), (List.forall_mem_nil _)⟩)⟩
  have h34 : ax_ho G M_X0_memory 4 34 none := ⟨_, en_c E (k := 34) rfl, fun s args hs hw => (List.forall_mem_cons.mpr ⟨(Or.inr ⟨by decide, _, hw _ q1682, _, en_c E (k := 34) rfl, va_Nc.moved hs.1.alike (en_n E 12 rfl)⟩), (List.forall_mem_nil _)⟩)⟩
  have h35 : ax_ho G M_X0_memory 4 35 none := ⟨_, en_c E (k := 35) rfl, fun s args hs hw => (List.forall_mem_cons.mpr ⟨(Or.inr ⟨by decide, _, hw _ q1682, _, en_c E (k := 35) rfl, va_Nc.moved hs.1.alike (en_n E 28 rfl)⟩), (List.forall_mem_nil _)⟩)⟩
  have h44 : ax_ho G M_X0_memory 4 44 none := ⟨_, en_c E (k := 44) rfl, fun s args hs hw => (List.forall_mem_cons.mpr ⟨(Or.inr ⟨by decide, _, hw _ q1682, _, en_c E (k := 44) rfl, va_Nc.moved hs.1.alike (en_n E 53 rfl)⟩), (List.forall_mem_nil _)⟩)⟩
  have h45 : ax_ho G M_X0_memory 4 45 none := ⟨_, en_c E (k := 45) rfl, fun s args hs hw => (List.forall_mem_cons.mpr ⟨(Or.inr ⟨by decide, _, hw _ q1682, _, en_c E (k := 45) rfl, va_Nc.moved hs.1.alike (en_n E 69 rfl)⟩), (List.forall_mem_nil _)⟩)⟩
  have h46 : ax_ho G M_X0_memory 4 46 none := ⟨_, en_c E (k := 46) rfl, fun s args hs hw => (List.forall_mem_cons.mpr ⟨(Or.inr ⟨by decide, _, hw _ q1682, _, en_c E (k := 46) rfl, va_Nc.moved hs.1.alike (en_n E 61 rfl)⟩), (List.forall_mem_nil _)⟩)⟩
  intro k o h
  dsimp only at h
  split at h
  · rename_i hk
    cases h
    simp only [List.mem_cons, List.not_mem_nil, or_false] at hk
    rcases hk with rfl
    exact h18
  ·
    split at h
    · rename_i hk
      cases h
      simp only [List.mem_cons, List.not_mem_nil, or_false] at hk
      rcases hk with rfl | rfl | rfl | rfl | rfl | rfl | rfl | rfl | rfl | rfl | rfl
      · exact h0
      · exact h6
      · exact h7
      · exact h28
      · exact h32
      · exact h33
      · exact h34
      · exact h35
      · exact h44
      · exact h45
      · exact h46
    · cases h
theorem hok_127 (E : ax_EN G l) : ax_hok G M_X0_changedAt 4 (fun k : Nat => if k ∈ [18] then some (some 12) else if k ∈ [0, 6, 7, 28, 32, 33, 34, 35, 44, 45, 46] then some none else none) := by
  have hB := en_B E
  have h18 : ax_ho G M_X0_changedAt 4 18 (some 12) := ⟨_, en_c E (k := 18) rfl, fun s args hs hw => ⟨(tableOf []), _, (tableOf []), "java/lang/IllegalArgumentException", rfl, (List.forall_mem_nil _), rfl, by decide, rfl, hw _ q1682, (ax_mv hB hs hw q742 rfl)⟩⟩
  have h0 : ax_ho G M_X0_changedAt 4 0 none := ⟨_, en_c E (k := 0) rfl, fun s args hs hw => (List.forall_mem_cons.mpr ⟨(Or.inr ⟨by decide, _, hw _ q1682, _, en_c E (k := 0) rfl, va_Nc.moved hs.1.alike (en_n E 53 rfl)⟩), (List.forall_mem_nil _)⟩)⟩
  have h6 : ax_ho G M_X0_changedAt 4 6 none := ⟨_, en_c E (k := 6) rfl, fun s args hs hw => (List.forall_mem_cons.mpr ⟨(Or.inr ⟨by decide, _, hw _ q1682, _, en_c E (k := 6) rfl, va_Nc.moved hs.1.alike (en_n E 61 rfl)⟩), (List.forall_mem_nil _)⟩)⟩
  have h7 : ax_ho G M_X0_changedAt 4 7 none := ⟨_, en_c E (k := 7) rfl, fun s args hs hw => (List.forall_mem_cons.mpr ⟨(Or.inr ⟨by decide, _, hw _ q1682, _, en_c E (k := 7) rfl, va_Nc.moved hs.1.alike (en_n E 69 rfl)⟩), (List.forall_mem_nil _)⟩)⟩
  have h28 : ax_ho G M_X0_changedAt 4 28 none := ⟨_, en_c E (k := 28) rfl, fun s args hs hw => (List.forall_mem_cons.mpr ⟨(Or.inr ⟨by decide, _, hw _ q1682, _, en_c E (k := 28) rfl, va_Nc.moved hs.1.alike (en_n E 36 rfl)⟩), (List.forall_mem_nil _)⟩)⟩
  have h32 : ax_ho G M_X0_changedAt 4 32 none := ⟨_, en_c E (k := 32) rfl, fun s args hs hw => (List.forall_mem_cons.mpr ⟨(Or.inr ⟨by decide, _, hw _ q1682, _, en_c E (k := 32) rfl, va_Nc.moved hs.1.alike (en_n E 20 rfl)⟩), (List.forall_mem_nil _)⟩)⟩
  have h33 : ax_ho G M_X0_changedAt 4 33 none := ⟨_, en_c E (k := 33) rfl, fun s args hs hw => (List.forall_mem_cons.mpr ⟨(Or.inr ⟨by decide, _, hw _ q1682, _, en_c E (k := 33) rfl, va_Nc.moved hs.1.alike (en_n E 4 rfl)⟩), (List.forall_mem_nil _)⟩)⟩
  have h34 : ax_ho G M_X0_changedAt 4 34 none := ⟨_, en_c E (k := 34) rfl, fun s args hs hw => (List.forall_mem_cons.mpr ⟨(Or.inr ⟨by decide, _, hw _ q1682, _, en_c E (k := 34) rfl, va_Nc.moved hs.1.alike (en_n E 12 rfl)⟩), (List.forall_mem_nil _)⟩)⟩
  have h35 : ax_ho G M_X0_changedAt 4 35 none := ⟨_, en_c E (k := 35) rfl, fun s args hs hw => (List.forall_mem_cons.mpr ⟨(Or.inr ⟨by decide, _, hw _ q1682, _, en_c E (k := 35) rfl, va_Nc.moved hs.1.alike (en_n E 28 rfl)⟩), (List.forall_mem_nil _)⟩)⟩
  have h44 : ax_ho G M_X0_changedAt 4 44 none := ⟨_, en_c E (k := 44) rfl, fun s args hs hw => (List.forall_mem_cons.mpr ⟨(Or.inr ⟨by decide, _, hw _ q1682, _, en_c E (k := 44) rfl, va_Nc.moved hs.1.alike (en_n E 53 rfl)⟩), (List.forall_mem_nil _)⟩)⟩
  have h45 : ax_ho G M_X0_changedAt 4 45 none := ⟨_, en_c E (k := 45) rfl, fun s args hs hw => (List.forall_mem_cons.mpr ⟨(Or.inr ⟨by decide, _, hw _ q1682, _, en_c E (k := 45) rfl, va_Nc.moved hs.1.alike (en_n E 69 rfl)⟩), (List.forall_mem_nil _)⟩)⟩
  have h46 : ax_ho G M_X0_changedAt 4 46 none := ⟨_, en_c E (k := 46) rfl, fun s args hs hw => (List.forall_mem_cons.mpr ⟨(Or.inr ⟨by decide, _, hw _ q1682, _, en_c E (k := 46) rfl, va_Nc.moved hs.1.alike (en_n E 61 rfl)⟩), (List.forall_mem_nil _)⟩)⟩
  intro k o h
  dsimp only at h
  split at h
  · rename_i hk
    cases h
    simp only [List.mem_cons, List.not_mem_nil, or_false] at hk
    rcases hk with rfl
    exact h18
  ·
    split at h
    · rename_i hk
      cases h
      simp only [List.mem_cons, List.not_mem_nil, or_false] at hk
      rcases hk with rfl | rfl | rfl | rfl | rfl | rfl | rfl | rfl | rfl | rfl | rfl
      · exact h0
      · exact h6
      · exact h7
      · exact h28
      · exact h32
      · exact h33
      · exact h34
      · exact h35
      · exact h44
      · exact h45
      · exact h46
    · cases h
theorem hok_128 (E : ax_EN G l) : ax_hok G M_X0_tapeAt 4 (fun k : Nat => if k ∈ [6, 46] then some (some 12) else if k ∈ [18, 0, 7, 28, 32, 33, 34, 35, 44, 45] then some none else none) := by
  have hB := en_B E
  have h18 : ax_ho G M_X0_tapeAt 4 18 none := ⟨_, en_c E (k := 18) rfl, fun s args hs hw => (List.forall_mem_cons.mpr ⟨(Or.inr ⟨by decide, _, hw _ q2539, _, en_c E (k := 18) rfl, va_Nc.moved hs.1.alike (en_n E 46 rfl)⟩), (List.forall_mem_nil _)⟩)⟩
  have h0 : ax_ho G M_X0_tapeAt 4 0 none := ⟨_, en_c E (k := 0) rfl, fun s args hs hw => (List.forall_mem_cons.mpr ⟨(Or.inr ⟨by decide, _, hw _ q2539, _, en_c E (k := 0) rfl, va_Nc.moved hs.1.alike (en_n E 54 rfl)⟩), (List.forall_mem_nil _)⟩)⟩
  have h6 : ax_ho G M_X0_tapeAt 4 6 (some 12) := ⟨_, en_c E (k := 6) rfl, fun s args hs hw => ⟨(tableOf []), _, (tableOf []), "java/lang/IndexOutOfBoundsException", rfl, (List.forall_mem_nil _), rfl, by decide, rfl, hw _ q2539, (ax_mv hB hs hw q849 rfl)⟩⟩
  have h7 : ax_ho G M_X0_tapeAt 4 7 none := ⟨_, en_c E (k := 7) rfl, fun s args hs hw => (List.forall_mem_cons.mpr ⟨(Or.inr ⟨by decide, _, hw _ q2539, _, en_c E (k := 7) rfl, va_Nc.moved hs.1.alike (en_n E 71 rfl)⟩), (List.forall_mem_nil _)⟩)⟩
  have h28 : ax_ho G M_X0_tapeAt 4 28 none := ⟨_, en_c E (k := 28) rfl, fun s args hs hw => (List.forall_mem_cons.mpr ⟨(Or.inr ⟨by decide, _, hw _ q2539, _, en_c E (k := 28) rfl, va_Nc.moved hs.1.alike (en_n E 38 rfl)⟩), (List.forall_mem_nil _)⟩)⟩
  have h32 : ax_ho G M_X0_tapeAt 4 32 none := ⟨_, en_c E (k := 32) rfl, fun s args hs hw => (List.forall_mem_cons.mpr ⟨(Or.inr ⟨by decide, _, hw _ q2539, _, en_c E (k := 32) rfl, va_Nc.moved hs.1.alike (en_n E 22 rfl)⟩), (List.forall_mem_nil _)⟩)⟩
  have h33 : ax_ho G M_X0_tapeAt 4 33 none := ⟨_, en_c E (k := 33) rfl, fun s args hs hw => (List.forall_mem_cons.mpr ⟨(Or.inr ⟨by decide, _, hw _ q2539, _, en_c E (k := 33) rfl, va_Nc.moved hs.1.alike (en_n E 6 rfl)⟩), (List.forall_mem_nil _)⟩)⟩
  have h34 : ax_ho G M_X0_tapeAt 4 34 none := ⟨_, en_c E (k := 34) rfl, fun s args hs hw => (List.forall_mem_cons.mpr ⟨(Or.inr ⟨by decide, _, hw _ q2539, _, en_c E (k := 34) rfl, va_Nc.moved hs.1.alike (en_n E 14 rfl)⟩), (List.forall_mem_nil _)⟩)⟩
  have h35 : ax_ho G M_X0_tapeAt 4 35 none := ⟨_, en_c E (k := 35) rfl, fun s args hs hw => (List.forall_mem_cons.mpr ⟨(Or.inr ⟨by decide, _, hw _ q2539, _, en_c E (k := 35) rfl, va_Nc.moved hs.1.alike (en_n E 30 rfl)⟩), (List.forall_mem_nil _)⟩)⟩
  have h44 : ax_ho G M_X0_tapeAt 4 44 none := ⟨_, en_c E (k := 44) rfl, fun s args hs hw => (List.forall_mem_cons.mpr ⟨(Or.inr ⟨by decide, _, hw _ q2539, _, en_c E (k := 44) rfl, va_Nc.moved hs.1.alike (en_n E 54 rfl)⟩), (List.forall_mem_nil _)⟩)⟩
  have h45 : ax_ho G M_X0_tapeAt 4 45 none := ⟨_, en_c E (k := 45) rfl, fun s args hs hw => (List.forall_mem_cons.mpr ⟨(Or.inr ⟨by decide, _, hw _ q2539, _, en_c E (k := 45) rfl, va_Nc.moved hs.1.alike (en_n E 71 rfl)⟩), (List.forall_mem_nil _)⟩)⟩
  have h46 : ax_ho G M_X0_tapeAt 4 46 (some 12) := ⟨_, en_c E (k := 46) rfl, fun s args hs hw => ⟨(tableOf []), _, (tableOf []), "java/lang/IndexOutOfBoundsException", rfl, (List.forall_mem_nil _), rfl, by decide, rfl, hw _ q2539, (ax_mv hB hs hw q849 rfl)⟩⟩
  intro k o h
  dsimp only at h
  split at h
  · rename_i hk
    cases h
    simp only [List.mem_cons, List.not_mem_nil, or_false] at hk
    rcases hk with rfl | rfl
    · exact h6
    · exact h46
  ·
    split at h
    · rename_i hk
      cases h
      simp only [List.mem_cons, List.not_mem_nil, or_false] at hk
      rcases hk with rfl | rfl | rfl | rfl | rfl | rfl | rfl | rfl | rfl | rfl
      · exact h18
      · exact h0
      · exact h7
      · exact h28
      · exact h32
      · exact h33
      · exact h34
      · exact h35
      · exact h44
      · exact h45
    · cases h
theorem hok_129 (E : ax_EN G l) : ax_hok G M_X0_sumAnew 4 (fun k : Nat => if k ∈ [18] then some (some 15) else if k ∈ [0, 44] then some (some 12) else if k ∈ [6, 7, 28, 32, 33, 34, 35, 45, 46] then some none else none) := by
  have hB := en_B E
  have h18 : ax_ho G M_X0_sumAnew 4 18 (some 15) := ⟨_, en_c E (k := 18) rfl, fun s args hs hw => ⟨(tableOf [(0, 9, 12, 15)]), _, (tableOf []), "java/lang/IllegalArgumentException", rfl, (List.forall_mem_cons.mpr ⟨(Or.inr ⟨by decide, _, hw _ q1683, _, en_c E (k := 18) rfl, va_Nc.moved hs.1.alike (en_n E 45 rfl)⟩), (List.forall_mem_nil _)⟩), rfl, by decide, rfl, hw _ q1682, (ax_mv hB hs hw q742 rfl)⟩⟩
  have h0 : ax_ho G M_X0_sumAnew 4 0 (some 12) := ⟨_, en_c E (k := 0) rfl, fun s args hs hw => ⟨(tableOf []), _, (tableOf [(0, 9, 15, 13)]), "java/lang/IllegalStateException", rfl, (List.forall_mem_nil _), rfl, by decide, rfl, hw _ q1683, (ax_mv hB hs hw q1719 rfl)⟩⟩
  have h6 : ax_ho G M_X0_sumAnew 4 6 none := ⟨_, en_c E (k := 6) rfl, fun s args hs hw => (List.forall_mem_cons.mpr ⟨(Or.inr ⟨by decide, _, hw _ q1683, _, en_c E (k := 6) rfl, va_Nc.moved hs.1.alike (en_n E 62 rfl)⟩), (List.forall_mem_cons.mpr ⟨(Or.inr ⟨by decide, _, hw _ q1682, _, en_c E (k := 6) rfl, va_Nc.moved hs.1.alike (en_n E 61 rfl)⟩), (List.forall_mem_nil _)⟩)⟩)⟩
  have h7 : ax_ho G M_X0_sumAnew 4 7 none := ⟨_, en_c E (k := 7) rfl, fun s args hs hw => (List.forall_mem_cons.mpr ⟨(Or.inr ⟨by decide, _, hw _ q1683, _, en_c E (k := 7) rfl, va_Nc.moved hs.1.alike (en_n E 70 rfl)⟩), (List.forall_mem_cons.mpr ⟨(Or.inr ⟨by decide, _, hw _ q1682, _, en_c E (k := 7) rfl, va_Nc.moved hs.1.alike (en_n E 69 rfl)⟩), (List.forall_mem_nil _)⟩)⟩)⟩
  have h28 : ax_ho G M_X0_sumAnew 4 28 none := ⟨_, en_c E (k := 28) rfl, fun s args hs hw => (List.forall_mem_cons.mpr ⟨(Or.inr ⟨by decide, _, hw _ q1683, _, en_c E (k := 28) rfl, va_Nc.moved hs.1.alike (en_n E 37 rfl)⟩), (List.forall_mem_cons.mpr ⟨(Or.inr ⟨by decide, _, hw _ q1682, _, en_c E (k := 28) rfl, va_Nc.moved hs.1.alike (en_n E 36 rfl)⟩), (List.forall_mem_nil _)⟩)⟩)⟩
  have h32 : ax_ho G M_X0_sumAnew 4 32 none := ⟨_, en_c E (k := 32) rfl, fun s args hs hw => (List.forall_mem_cons.mpr ⟨(Or.inr ⟨by decide, _, hw _ q1683, _, en_c E (k := 32) rfl, va_Nc.moved hs.1.alike (en_n E 21 rfl)⟩), (List.forall_mem_cons.mpr ⟨(Or.inr ⟨by decide, _, hw _ q1682, _, en_c E (k := 32) rfl, va_Nc.moved hs.1.alike (en_n E 20 rfl)⟩), (List.forall_mem_nil _)⟩)⟩)⟩
  have h33 : ax_ho G M_X0_sumAnew 4 33 none := ⟨_, en_c E (k := 33) rfl, fun s args hs hw => (List.forall_mem_cons.mpr ⟨(Or.inr ⟨by decide, _, hw _ q1683, _, en_c E (k := 33) rfl, va_Nc.moved hs.1.alike (en_n E 5 rfl)⟩), (List.forall_mem_cons.mpr ⟨(Or.inr ⟨by decide, _, hw _ q1682, _, en_c E (k := 33) rfl, va_Nc.moved hs.1.alike (en_n E 4 rfl)⟩), (List.forall_mem_nil _)⟩)⟩)⟩
  have h34 : ax_ho G M_X0_sumAnew 4 34 none := ⟨_, en_c E (k := 34) rfl, fun s args hs hw => (List.forall_mem_cons.mpr ⟨(Or.inr ⟨by decide, _, hw _ q1683, _, en_c E (k := 34) rfl, va_Nc.moved hs.1.alike (en_n E 13 rfl)⟩), (List.forall_mem_cons.mpr ⟨(Or.inr ⟨by decide, _, hw _ q1682, _, en_c E (k := 34) rfl, va_Nc.moved hs.1.alike (en_n E 12 rfl)⟩), (List.forall_mem_nil _)⟩)⟩)⟩
  have h35 : ax_ho G M_X0_sumAnew 4 35 none := ⟨_, en_c E (k := 35) rfl, fun s args hs hw => (List.forall_mem_cons.mpr ⟨(Or.inr ⟨by decide, _, hw _ q1683, _, en_c E (k := 35) rfl, va_Nc.moved hs.1.alike (en_n E 29 rfl)⟩), (List.forall_mem_cons.mpr ⟨(Or.inr ⟨by decide, _, hw _ q1682, _, en_c E (k := 35) rfl, va_Nc.moved hs.1.alike (en_n E 28 rfl)⟩), (List.forall_mem_nil _)⟩)⟩)⟩
  have h44 : ax_ho G M_X0_sumAnew 4 44 (some 12) := ⟨_, en_c E (k := 44) rfl, fun s args hs hw => ⟨(tableOf []), _, (tableOf [(0, 9, 15, 13)]), "java/lang/IllegalStateException", rfl, (List.forall_mem_nil _), rfl, by decide, rfl, hw _ q1683, (ax_mv hB hs hw q1719 rfl)⟩⟩
  have h45 : ax_ho G M_X0_sumAnew 4 45 none := ⟨_, en_c E (k := 45) rfl, fun s args hs hw => (List.forall_mem_cons.mpr ⟨(Or.inr ⟨by decide, _, hw _ q1683, _, en_c E (k := 45) rfl, va_Nc.moved hs.1.alike (en_n E 70 rfl)⟩), (List.forall_mem_cons.mpr ⟨(Or.inr ⟨by decide, _, hw _ q1682, _, en_c E (k := 45) rfl, va_Nc.moved hs.1.alike (en_n E 69 rfl)⟩), (List.forall_mem_nil _)⟩)⟩)⟩
  have h46 : ax_ho G M_X0_sumAnew 4 46 none := ⟨_, en_c E (k := 46) rfl, fun s args hs hw => (List.forall_mem_cons.mpr ⟨(Or.inr ⟨by decide, _, hw _ q1683, _, en_c E (k := 46) rfl, va_Nc.moved hs.1.alike (en_n E 62 rfl)⟩), (List.forall_mem_cons.mpr ⟨(Or.inr ⟨by decide, _, hw _ q1682, _, en_c E (k := 46) rfl, va_Nc.moved hs.1.alike (en_n E 61 rfl)⟩), (List.forall_mem_nil _)⟩)⟩)⟩
  intro k o h
  dsimp only at h
  split at h
  · rename_i hk
    cases h
    simp only [List.mem_cons, List.not_mem_nil, or_false] at hk
    rcases hk with rfl
    exact h18
  ·
    split at h
    · rename_i hk
      cases h
      simp only [List.mem_cons, List.not_mem_nil, or_false] at hk
      rcases hk with rfl | rfl
      · exact h0
      · exact h44
    ·
      split at h
      · rename_i hk
        cases h
        simp only [List.mem_cons, List.not_mem_nil, or_false] at hk
        rcases hk with rfl | rfl | rfl | rfl | rfl | rfl | rfl | rfl | rfl
        · exact h6
        · exact h7
        · exact h28
        · exact h32
        · exact h33
        · exact h34
        · exact h35
        · exact h45
        · exact h46
      · cases h
theorem hok_130 (E : ax_EN G l) : ax_hok G M_X0_disk 5 (fun k : Nat => if k ∈ [18] then some (some 13) else if k ∈ [0, 6, 7, 28, 32, 33, 34, 35, 44, 45, 46] then some none else none) := by
  have hB := en_B E
  have h18 : ax_ho G M_X0_disk 5 18 (some 13) := ⟨_, en_c E (k := 18) rfl, fun s args hs hw => ⟨(tableOf []), _, (tableOf []), "java/lang/IllegalArgumentException", rfl, (List.forall_mem_nil _), rfl, by decide, rfl, hw _ q1682, (ax_mv hB hs hw q742 rfl)⟩⟩
  have h0 : ax_ho G M_X0_disk 5 0 none := ⟨_, en_c E (k := 0) rfl, fun s args hs hw => (List.forall_mem_cons.mpr ⟨(Or.inr ⟨by decide, _, hw _ q1682, _, en_c E (k := 0) rfl, va_Nc.moved hs.1.alike (en_n E 53 rfl)⟩), (List.forall_mem_nil _)⟩)⟩
  have h6 : ax_ho G M_X0_disk 5 6 none := ⟨_, en_c E (k := 6) rfl, fun s args hs hw => (List.forall_mem_cons.mpr ⟨(Or.inr ⟨by decide, _, hw _ q1682, _, en_c E (k := 6) rfl, va_Nc.moved hs.1.alike (en_n E 61 rfl)⟩), (List.forall_mem_nil _)⟩)⟩
  have h7 : ax_ho G M_X0_disk 5 7 none := ⟨_, en_c E (k := 7) rfl, fun s args hs hw => (List.forall_mem_cons.mpr ⟨(Or.inr ⟨by decide, _, hw _ q1682, _, en_c E (k := 7) rfl, va_Nc.moved hs.1.alike (en_n E 69 rfl)⟩), (List.forall_mem_nil _)⟩)⟩
  have h28 : ax_ho G M_X0_disk 5 28 none := ⟨_, en_c E (k := 28) rfl, fun s args hs hw => (List.forall_mem_cons.mpr ⟨(Or.inr ⟨by decide, _, hw _ q1682, _, en_c E (k := 28) rfl, va_Nc.moved hs.1.alike (en_n E 36 rfl)⟩), (List.forall_mem_nil _)⟩)⟩
  have h32 : ax_ho G M_X0_disk 5 32 none := ⟨_, en_c E (k := 32) rfl, fun s args hs hw => (List.forall_mem_cons.mpr ⟨(Or.inr ⟨by decide, _, hw _ q1682, _, en_c E (k := 32) rfl, va_Nc.moved hs.1.alike (en_n E 20 rfl)⟩), (List.forall_mem_nil _)⟩)⟩
  have h33 : ax_ho G M_X0_disk 5 33 none := ⟨_, en_c E (k := 33) rfl, fun s args hs hw => (List.forall_mem_cons.mpr ⟨(Or.inr ⟨by decide, _, hw _ q1682, _, en_c E (k := 33) rfl, va_Nc.moved hs.1.alike (en_n E 4 rfl)⟩), (List.forall_mem_nil _)⟩)⟩
  have h34 : ax_ho G M_X0_disk 5 34 none := ⟨_, en_c E (k := 34) rfl, fun s args hs hw => (List.forall_mem_cons.mpr ⟨(Or.inr ⟨by decide, _, hw _ q1682, _, en_c E (k := 34) rfl, va_Nc.moved hs.1.alike (en_n E 12 rfl)⟩), (List.forall_mem_nil _)⟩)⟩
  have h35 : ax_ho G M_X0_disk 5 35 none := ⟨_, en_c E (k := 35) rfl, fun s args hs hw => (List.forall_mem_cons.mpr ⟨(Or.inr ⟨by decide, _, hw _ q1682, _, en_c E (k := 35) rfl, va_Nc.moved hs.1.alike (en_n E 28 rfl)⟩), (List.forall_mem_nil _)⟩)⟩
  have h44 : ax_ho G M_X0_disk 5 44 none := ⟨_, en_c E (k := 44) rfl, fun s args hs hw => (List.forall_mem_cons.mpr ⟨(Or.inr ⟨by decide, _, hw _ q1682, _, en_c E (k := 44) rfl, va_Nc.moved hs.1.alike (en_n E 53 rfl)⟩), (List.forall_mem_nil _)⟩)⟩
  have h45 : ax_ho G M_X0_disk 5 45 none := ⟨_, en_c E (k := 45) rfl, fun s args hs hw => (List.forall_mem_cons.mpr ⟨(Or.inr ⟨by decide, _, hw _ q1682, _, en_c E (k := 45) rfl, va_Nc.moved hs.1.alike (en_n E 69 rfl)⟩), (List.forall_mem_nil _)⟩)⟩
  have h46 : ax_ho G M_X0_disk 5 46 none := ⟨_, en_c E (k := 46) rfl, fun s args hs hw => (List.forall_mem_cons.mpr ⟨(Or.inr ⟨by decide, _, hw _ q1682, _, en_c E (k := 46) rfl, va_Nc.moved hs.1.alike (en_n E 61 rfl)⟩), (List.forall_mem_nil _)⟩)⟩
  intro k o h
  dsimp only at h
  split at h
  · rename_i hk
    cases h
    simp only [List.mem_cons, List.not_mem_nil, or_false] at hk
    rcases hk with rfl
    exact h18
  ·
    split at h
    · rename_i hk
      cases h
      simp only [List.mem_cons, List.not_mem_nil, or_false] at hk
      rcases hk with rfl | rfl | rfl | rfl | rfl | rfl | rfl | rfl | rfl | rfl | rfl
      · exact h0
      · exact h6
      · exact h7
      · exact h28
      · exact h32
      · exact h33
      · exact h34
      · exact h35
      · exact h44
      · exact h45
      · exact h46
    · cases h
theorem hok_131 (E : ax_EN G l) : ax_hok G M_X0_size 4 (fun k : Nat => if k ∈ [7, 45] then some (some 15) else if k ∈ [18] then some (some 12) else if k ∈ [0, 6, 28, 32, 33, 34, 35, 44, 46] then some none else none) := by
  have hB := en_B E
  have h18 : ax_ho G M_X0_size 4 18 (some 12) := ⟨_, en_c E (k := 18) rfl, fun s args hs hw => ⟨(tableOf []), _, (tableOf [(0, 9, 15, 95)]), "java/lang/IllegalArgumentException", rfl, (List.forall_mem_nil _), rfl, by decide, rfl, hw _ q1682, (ax_mv hB hs hw q742 rfl)⟩⟩
  have h0 : ax_ho G M_X0_size 4 0 none := ⟨_, en_c E (k := 0) rfl, fun s args hs hw => (List.forall_mem_cons.mpr ⟨(Or.inr ⟨by decide, _, hw _ q1682, _, en_c E (k := 0) rfl, va_Nc.moved hs.1.alike (en_n E 53 rfl)⟩), (List.forall_mem_cons.mpr ⟨(Or.inr ⟨by decide, _, hw _ q2591, _, en_c E (k := 0) rfl, va_Nc.moved hs.1.alike (en_n E 55 rfl)⟩), (List.forall_mem_nil _)⟩)⟩)⟩
  have h6 : ax_ho G M_X0_size 4 6 none := ⟨_, en_c E (k := 6) rfl, fun s args hs hw => (List.forall_mem_cons.mpr ⟨(Or.inr ⟨by decide, _, hw _ q1682, _, en_c E (k := 6) rfl, va_Nc.moved hs.1.alike (en_n E 61 rfl)⟩), (List.forall_mem_cons.mpr ⟨(Or.inr ⟨by decide, _, hw _ q2591, _, en_c E (k := 6) rfl, va_Nc.moved hs.1.alike (en_n E 63 rfl)⟩), (List.forall_mem_nil _)⟩)⟩)⟩
  have h7 : ax_ho G M_X0_size 4 7 (some 15) := ⟨_, en_c E (k := 7) rfl, fun s args hs hw => ⟨(tableOf [(0, 9, 12, 13)]), _, (tableOf []), "java/util/NoSuchElementException", rfl, (List.forall_mem_cons.mpr ⟨(Or.inr ⟨by decide, _, hw _ q1682, _, en_c E (k := 7) rfl, va_Nc.moved hs.1.alike (en_n E 69 rfl)⟩), (List.forall_mem_nil _)⟩), rfl, by decide, rfl, hw _ q2591, (ax_mv hB hs hw q1552 rfl)⟩⟩
  have h28 : ax_ho G M_X0_size 4 28 none := ⟨_, en_c E (k := 28) rfl, fun s args hs hw => (List.forall_mem_cons.mpr ⟨(Or.inr ⟨by decide, _, hw _ q1682, _, en_c E (k := 28) rfl, va_Nc.moved hs.1.alike (en_n E 36 rfl)⟩), (List.forall_mem_cons.mpr ⟨(Or.inr ⟨by decide, _, hw _ q2591, _, en_c E (k := 28) rfl, va_Nc.moved hs.1.alike (en_n E 39 rfl)⟩), (List.forall_mem_nil _)⟩)⟩)⟩
  have h32 : ax_ho G M_X0_size 4 32 none := ⟨_, en_c E (k := 32) rfl, fun s args hs hw => (List.forall_mem_cons.mpr ⟨(Or.inr ⟨by decide, _, hw _ q1682, _, en_c E (k := 32) rfl, va_Nc.moved hs.1.alike (en_n E 20 rfl)⟩), (List.forall_mem_cons.mpr ⟨(Or.inr ⟨by decide, _, hw _ q2591, _, en_c E (k := 32) rfl, va_Nc.moved hs.1.alike (en_n E 23 rfl)⟩), (List.forall_mem_nil _)⟩)⟩)⟩
  have h33 : ax_ho G M_X0_size 4 33 none := ⟨_, en_c E (k := 33) rfl, fun s args hs hw => (List.forall_mem_cons.mpr ⟨(Or.inr ⟨by decide, _, hw _ q1682, _, en_c E (k := 33) rfl, va_Nc.moved hs.1.alike (en_n E 4 rfl)⟩), (List.forall_mem_cons.mpr ⟨(Or.inr ⟨by decide, _, hw _ q2591, _, en_c E (k := 33) rfl, va_Nc.moved hs.1.alike (en_n E 7 rfl)⟩), (List.forall_mem_nil _)⟩)⟩)⟩
  have h34 : ax_ho G M_X0_size 4 34 none := ⟨_, en_c E (k := 34) rfl, fun s args hs hw => (List.forall_mem_cons.mpr ⟨(Or.inr ⟨by decide, _, hw _ q1682, _, en_c E (k := 34) rfl, va_Nc.moved hs.1.alike (en_n E 12 rfl)⟩), (List.forall_mem_cons.mpr ⟨(Or.inr ⟨by decide, _, hw _ q2591, _, en_c E (k := 34) rfl, va_Nc.moved hs.1.alike (en_n E 15 rfl)⟩), (List.forall_mem_nil _)⟩)⟩)⟩
  have h35 : ax_ho G M_X0_size 4 35 none := ⟨_, en_c E (k := 35) rfl, fun s args hs hw => (List.forall_mem_cons.mpr ⟨(Or.inr ⟨by decide, _, hw _ q1682, _, en_c E (k := 35) rfl, va_Nc.moved hs.1.alike (en_n E 28 rfl)⟩), (List.forall_mem_cons.mpr ⟨(Or.inr ⟨by decide, _, hw _ q2591, _, en_c E (k := 35) rfl, va_Nc.moved hs.1.alike (en_n E 31 rfl)⟩), (List.forall_mem_nil _)⟩)⟩)⟩
  have h44 : ax_ho G M_X0_size 4 44 none := ⟨_, en_c E (k := 44) rfl, fun s args hs hw => (List.forall_mem_cons.mpr ⟨(Or.inr ⟨by decide, _, hw _ q1682, _, en_c E (k := 44) rfl, va_Nc.moved hs.1.alike (en_n E 53 rfl)⟩), (List.forall_mem_cons.mpr ⟨(Or.inr ⟨by decide, _, hw _ q2591, _, en_c E (k := 44) rfl, va_Nc.moved hs.1.alike (en_n E 55 rfl)⟩), (List.forall_mem_nil _)⟩)⟩)⟩
  have h45 : ax_ho G M_X0_size 4 45 (some 15) := ⟨_, en_c E (k := 45) rfl, fun s args hs hw => ⟨(tableOf [(0, 9, 12, 13)]), _, (tableOf []), "java/util/NoSuchElementException", rfl, (List.forall_mem_cons.mpr ⟨(Or.inr ⟨by decide, _, hw _ q1682, _, en_c E (k := 45) rfl, va_Nc.moved hs.1.alike (en_n E 69 rfl)⟩), (List.forall_mem_nil _)⟩), rfl, by decide, rfl, hw _ q2591, (ax_mv hB hs hw q1552 rfl)⟩⟩
  have h46 : ax_ho G M_X0_size 4 46 none := ⟨_, en_c E (k := 46) rfl, fun s args hs hw => (List.forall_mem_cons.mpr ⟨(Or.inr ⟨by decide, _, hw _ q1682, _, en_c E (k := 46) rfl, va_Nc.moved hs.1.alike (en_n E 61 rfl)⟩), (List.forall_mem_cons.mpr ⟨(Or.inr ⟨by decide, _, hw _ q2591, _, en_c E (k := 46) rfl, va_Nc.moved hs.1.alike (en_n E 63 rfl)⟩), (List.forall_mem_nil _)⟩)⟩)⟩
  intro k o h
  dsimp only at h
  split at h
  · rename_i hk
    cases h
    simp only [List.mem_cons, List.not_mem_nil, or_false] at hk
    rcases hk with rfl | rfl
    · exact h7
    · exact h45
  ·
    split at h
    · rename_i hk
      cases h
      simp only [List.mem_cons, List.not_mem_nil, or_false] at hk
      rcases hk with rfl
      exact h18
    ·
      split at h
      · rename_i hk
        cases h
        simp only [List.mem_cons, List.not_mem_nil, or_false] at hk
        rcases hk with rfl | rfl | rfl | rfl | rfl | rfl | rfl | rfl | rfl
        · exact h0
        · exact h6
        · exact h28
        · exact h32
        · exact h33
        · exact h34
        · exact h35
        · exact h44
        · exact h46
      · cases h
theorem hok_132 (E : ax_EN G l) : ax_hok G M_X0_wordOf 5 (fun k : Nat => if k ∈ [6, 46] then some (some 21) else if k ∈ [7, 45] then some (some 17) else if k ∈ [18] then some (some 13) else if k ∈ [0, 28, 32, 33, 34, 35, 44] then some none else none) := by
  have hB := en_B E
  have h18 : ax_ho G M_X0_wordOf 5 18 (some 13) := ⟨_, en_c E (k := 18) rfl, fun s args hs hw => ⟨(tableOf []), _, (tableOf [(0, 10, 17, 95), (0, 10, 21, 84)]), "java/lang/IllegalArgumentException", rfl, (List.forall_mem_nil _), rfl, by decide, rfl, hw _ q1682, (ax_mv hB hs hw q742 rfl)⟩⟩
  have h0 : ax_ho G M_X0_wordOf 5 0 none := ⟨_, en_c E (k := 0) rfl, fun s args hs hw => (List.forall_mem_cons.mpr ⟨(Or.inr ⟨by decide, _, hw _ q1682, _, en_c E (k := 0) rfl, va_Nc.moved hs.1.alike (en_n E 53 rfl)⟩), (List.forall_mem_cons.mpr ⟨(Or.inr ⟨by decide, _, hw _ q2591, _, en_c E (k := 0) rfl, va_Nc.moved hs.1.alike (en_n E 55 rfl)⟩), (List.forall_mem_cons.mpr ⟨(Or.inr ⟨by decide, _, hw _ q2539, _, en_c E (k := 0) rfl, va_Nc.moved hs.1.alike (en_n E 54 rfl)⟩), (List.forall_mem_nil _)⟩)⟩)⟩)⟩
  have h6 : ax_ho G M_X0_wordOf 5 6 (some 21) := ⟨_, en_c E (k := 6) rfl, fun s args hs hw => ⟨(tableOf [(0, 10, 13, 13), (0, 10, 17, 95)]), _, (tableOf []), "java/lang/IndexOutOfBoundsException", rfl, (List.forall_mem_cons.mpr ⟨(Or.inr ⟨by decide, _, hw _ q1682, _, en_c E (k := 6) rfl, va_Nc.moved hs.1.alike (en_n E 61 rfl)⟩), (List.forall_mem_cons.mpr ⟨(Or.inr ⟨by decide, _, hw _ q2591, _, en_c E (k := 6) rfl, va_Nc.moved hs.1.alike (en_n E 63 rfl)⟩), (List.forall_mem_nil _)⟩)⟩), rfl, by decide, rfl, hw _ q2539, (ax_mv hB hs hw q849 rfl)⟩⟩
  have h7 : ax_ho G M_X0_wordOf 5 7 (some 17) := ⟨_, en_c E (k := 7) rfl, fun s args hs hw => ⟨(tableOf [(0, 10, 13, 13)]), _, (tableOf [(0, 10, 21, 84)]), "java/util/NoSuchElementException", rfl, (List.forall_mem_cons.mpr ⟨(Or.inr ⟨by decide, _, hw _ q1682, _, en_c E (k := 7) rfl, va_Nc.moved hs.1.alike (en_n E 69 rfl)⟩), (List.forall_mem_nil _)⟩), rfl, by decide, rfl, hw _ q2591, (ax_mv hB hs hw q1552 rfl)⟩⟩
  have h28 : ax_ho G M_X0_wordOf 5 28 none := ⟨_, en_c E (k := 28) rfl, fun s args hs hw => (List.forall_mem_cons.mpr ⟨(Or.inr ⟨by decide, _, hw _ q1682, _, en_c E (k := 28) rfl, va_Nc.moved hs.1.alike (en_n E 36 rfl)⟩), (List.forall_mem_cons.mpr ⟨(Or.inr ⟨by decide, _, hw _ q2591, _, en_c E (k := 28) rfl, va_Nc.moved hs.1.alike (en_n E 39 rfl)⟩), (List.forall_mem_cons.mpr ⟨(Or.inr ⟨by decide, _, hw _ q2539, _, en_c E (k := 28) rfl, va_Nc.moved hs.1.alike (en_n E 38 rfl)⟩), (List.forall_mem_nil _)⟩)⟩)⟩)⟩
  have h32 : ax_ho G M_X0_wordOf 5 32 none := ⟨_, en_c E (k := 32) rfl, fun s args hs hw => (List.forall_mem_cons.mpr ⟨(Or.inr ⟨by decide, _, hw _ q1682, _, en_c E (k := 32) rfl, va_Nc.moved hs.1.alike (en_n E 20 rfl)⟩), (List.forall_mem_cons.mpr ⟨(Or.inr ⟨by decide, _, hw _ q2591, _, en_c E (k := 32) rfl, va_Nc.moved hs.1.alike (en_n E 23 rfl)⟩), (List.forall_mem_cons.mpr ⟨(Or.inr ⟨by decide, _, hw _ q2539, _, en_c E (k := 32) rfl, va_Nc.moved hs.1.alike (en_n E 22 rfl)⟩), (List.forall_mem_nil _)⟩)⟩)⟩)⟩
  have h33 : ax_ho G M_X0_wordOf 5 33 none := ⟨_, en_c E (k := 33) rfl, fun s args hs hw => (List.forall_mem_cons.mpr ⟨(Or.inr ⟨by decide, _, hw _ q1682, _, en_c E (k := 33) rfl, va_Nc.moved hs.1.alike (en_n E 4 rfl)⟩), (List.forall_mem_cons.mpr ⟨(Or.inr ⟨by decide, _, hw _ q2591, _, en_c E (k := 33) rfl, va_Nc.moved hs.1.alike (en_n E 7 rfl)⟩), (List.forall_mem_cons.mpr ⟨(Or.inr ⟨by decide, _, hw _ q2539, _, en_c E (k := 33) rfl, va_Nc.moved hs.1.alike (en_n E 6 rfl)⟩), (List.forall_mem_nil _)⟩)⟩)⟩)⟩
  have h34 : ax_ho G M_X0_wordOf 5 34 none := ⟨_, en_c E (k := 34) rfl, fun s args hs hw => (List.forall_mem_cons.mpr ⟨(Or.inr ⟨by decide, _, hw _ q1682, _, en_c E (k := 34) rfl, va_Nc.moved hs.1.alike (en_n E 12 rfl)⟩), (List.forall_mem_cons.mpr ⟨(Or.inr ⟨by decide, _, hw _ q2591, _, en_c E (k := 34) rfl, va_Nc.moved hs.1.alike (en_n E 15 rfl)⟩), (List.forall_mem_cons.mpr ⟨(Or.inr ⟨by decide, _, hw _ q2539, _, en_c E (k := 34) rfl, va_Nc.moved hs.1.alike (en_n E 14 rfl)⟩), (List.forall_mem_nil _)⟩)⟩)⟩)⟩
  have h35 : ax_ho G M_X0_wordOf 5 35 none := ⟨_, en_c E (k := 35) rfl, fun s args hs hw => (List.forall_mem_cons.mpr ⟨(Or.inr ⟨by decide, _, hw _ q1682, _, en_c E (k := 35) rfl, va_Nc.moved hs.1.alike (en_n E 28 rfl)⟩), (List.forall_mem_cons.mpr ⟨(Or.inr ⟨by decide, _, hw _ q2591, _, en_c E (k := 35) rfl, va_Nc.moved hs.1.alike (en_n E 31 rfl)⟩), (List.forall_mem_cons.mpr ⟨(Or.inr ⟨by decide, _, hw _ q2539, _, en_c E (k := 35) rfl, va_Nc.moved hs.1.alike (en_n E 30 rfl)⟩), (List.forall_mem_nil _)⟩)⟩)⟩)⟩
  have h44 : ax_ho G M_X0_wordOf 5 44 none := ⟨_, en_c E (k := 44) rfl, fun s args hs hw => (List.forall_mem_cons.mpr ⟨(Or.inr ⟨by decide, _, hw _ q1682, _, en_c E (k := 44) rfl, va_Nc.moved hs.1.alike (en_n E 53 rfl)⟩), (List.forall_mem_cons.mpr ⟨(Or.inr ⟨by decide, _, hw _ q2591, _, en_c E (k := 44) rfl, va_Nc.moved hs.1.alike (en_n E 55 rfl)⟩), (List.forall_mem_cons.mpr ⟨(Or.inr ⟨by decide, _, hw _ q2539, _, en_c E (k := 44) rfl, va_Nc.moved hs.1.alike (en_n E 54 rfl)⟩), (List.forall_mem_nil _)⟩)⟩)⟩)⟩
  have h45 : ax_ho G M_X0_wordOf 5 45 (some 17) := ⟨_, en_c E (k := 45) rfl, fun s args hs hw => ⟨(tableOf [(0, 10, 13, 13)]), _, (tableOf [(0, 10, 21, 84)]), "java/util/NoSuchElementException", rfl, (List.forall_mem_cons.mpr ⟨(Or.inr ⟨by decide, _, hw _ q1682, _, en_c E (k := 45) rfl, va_Nc.moved hs.1.alike (en_n E 69 rfl)⟩), (List.forall_mem_nil _)⟩), rfl, by decide, rfl, hw _ q2591, (ax_mv hB hs hw q1552 rfl)⟩⟩
  have h46 : ax_ho G M_X0_wordOf 5 46 (some 21) := ⟨_, en_c E (k := 46) rfl, fun s args hs hw => ⟨(tableOf [(0, 10, 13, 13), (0, 10, 17, 95)]), _, (tableOf []), "java/lang/IndexOutOfBoundsException", rfl, (List.forall_mem_cons.mpr ⟨(Or.inr ⟨by decide, _, hw _ q1682, _, en_c E (k := 46) rfl, va_Nc.moved hs.1.alike (en_n E 61 rfl)⟩), (List.forall_mem_cons.mpr ⟨(Or.inr ⟨by decide, _, hw _ q2591, _, en_c E (k := 46) rfl, va_Nc.moved hs.1.alike (en_n E 63 rfl)⟩), (List.forall_mem_nil _)⟩)⟩), rfl, by decide, rfl, hw _ q2539, (ax_mv hB hs hw q849 rfl)⟩⟩
  intro k o h
  dsimp only at h
  split at h
  · rename_i hk
    cases h
    simp only [List.mem_cons, List.not_mem_nil, or_false] at hk
    rcases hk with rfl | rfl
    · exact h6
    · exact h46
  ·
    split at h
    · rename_i hk
      cases h
      simp only [List.mem_cons, List.not_mem_nil, or_false] at hk
      rcases hk with rfl | rfl
      · exact h7
      · exact h45
    ·
      split at h
      · rename_i hk
        cases h
        simp only [List.mem_cons, List.not_mem_nil, or_false] at hk
        rcases hk with rfl
        exact h18
      ·
        split at h
        · rename_i hk
          cases h
          simp only [List.mem_cons, List.not_mem_nil, or_false] at hk
          rcases hk with rfl | rfl | rfl | rfl | rfl | rfl | rfl
          · exact h0
          · exact h28
          · exact h32
          · exact h33
          · exact h34
          · exact h35
          · exact h44
        · cases h
theorem hok_133 (E : ax_EN G l) : ax_hok G M_X0_testKey 4 (fun k : Nat => if k ∈ [0, 44] then some (some 15) else if k ∈ [18] then some (some 12) else if k ∈ [6, 7, 28, 32, 33, 34, 35, 45, 46] then some none else none) := by
  have hB := en_B E
  have h18 : ax_ho G M_X0_testKey 4 18 (some 12) := ⟨_, en_c E (k := 18) rfl, fun s args hs hw => ⟨(tableOf []), _, (tableOf [(0, 9, 15, 15)]), "java/lang/IllegalArgumentException", rfl, (List.forall_mem_nil _), rfl, by decide, rfl, hw _ q1682, (ax_mv hB hs hw q742 rfl)⟩⟩
  have h0 : ax_ho G M_X0_testKey 4 0 (some 15) := ⟨_, en_c E (k := 0) rfl, fun s args hs hw => ⟨(tableOf [(0, 9, 12, 13)]), _, (tableOf []), "java/lang/IllegalStateException", rfl, (List.forall_mem_cons.mpr ⟨(Or.inr ⟨by decide, _, hw _ q1682, _, en_c E (k := 0) rfl, va_Nc.moved hs.1.alike (en_n E 53 rfl)⟩), (List.forall_mem_nil _)⟩), rfl, by decide, rfl, hw _ q1683, (ax_mv hB hs hw q1719 rfl)⟩⟩
  have h6 : ax_ho G M_X0_testKey 4 6 none := ⟨_, en_c E (k := 6) rfl, fun s args hs hw => (List.forall_mem_cons.mpr ⟨(Or.inr ⟨by decide, _, hw _ q1682, _, en_c E (k := 6) rfl, va_Nc.moved hs.1.alike (en_n E 61 rfl)⟩), (List.forall_mem_cons.mpr ⟨(Or.inr ⟨by decide, _, hw _ q1683, _, en_c E (k := 6) rfl, va_Nc.moved hs.1.alike (en_n E 62 rfl)⟩), (List.forall_mem_nil _)⟩)⟩)⟩
  have h7 : ax_ho G M_X0_testKey 4 7 none := ⟨_, en_c E (k := 7) rfl, fun s args hs hw => (List.forall_mem_cons.mpr ⟨(Or.inr ⟨by decide, _, hw _ q1682, _, en_c E (k := 7) rfl, va_Nc.moved hs.1.alike (en_n E 69 rfl)⟩), (List.forall_mem_cons.mpr ⟨(Or.inr ⟨by decide, _, hw _ q1683, _, en_c E (k := 7) rfl, va_Nc.moved hs.1.alike (en_n E 70 rfl)⟩), (List.forall_mem_nil _)⟩)⟩)⟩
  have h28 : ax_ho G M_X0_testKey 4 28 none := ⟨_, en_c E (k := 28) rfl, fun s args hs hw => (List.forall_mem_cons.mpr ⟨(Or.inr ⟨by decide, _, hw _ q1682, _, en_c E (k := 28) rfl, va_Nc.moved hs.1.alike (en_n E 36 rfl)⟩), (List.forall_mem_cons.mpr ⟨(Or.inr ⟨by decide, _, hw _ q1683, _, en_c E (k := 28) rfl, va_Nc.moved hs.1.alike (en_n E 37 rfl)⟩), (List.forall_mem_nil _)⟩)⟩)⟩
  have h32 : ax_ho G M_X0_testKey 4 32 none := ⟨_, en_c E (k := 32) rfl, fun s args hs hw => (List.forall_mem_cons.mpr ⟨(Or.inr ⟨by decide, _, hw _ q1682, _, en_c E (k := 32) rfl, va_Nc.moved hs.1.alike (en_n E 20 rfl)⟩), (List.forall_mem_cons.mpr ⟨(Or.inr ⟨by decide, _, hw _ q1683, _, en_c E (k := 32) rfl, va_Nc.moved hs.1.alike (en_n E 21 rfl)⟩), (List.forall_mem_nil _)⟩)⟩)⟩
  have h33 : ax_ho G M_X0_testKey 4 33 none := ⟨_, en_c E (k := 33) rfl, fun s args hs hw => (List.forall_mem_cons.mpr ⟨(Or.inr ⟨by decide, _, hw _ q1682, _, en_c E (k := 33) rfl, va_Nc.moved hs.1.alike (en_n E 4 rfl)⟩), (List.forall_mem_cons.mpr ⟨(Or.inr ⟨by decide, _, hw _ q1683, _, en_c E (k := 33) rfl, va_Nc.moved hs.1.alike (en_n E 5 rfl)⟩), (List.forall_mem_nil _)⟩)⟩)⟩
  have h34 : ax_ho G M_X0_testKey 4 34 none := ⟨_, en_c E (k := 34) rfl, fun s args hs hw => (List.forall_mem_cons.mpr ⟨(Or.inr ⟨by decide, _, hw _ q1682, _, en_c E (k := 34) rfl, va_Nc.moved hs.1.alike (en_n E 12 rfl)⟩), (List.forall_mem_cons.mpr ⟨(Or.inr ⟨by decide, _, hw _ q1683, _, en_c E (k := 34) rfl, va_Nc.moved hs.1.alike (en_n E 13 rfl)⟩), (List.forall_mem_nil _)⟩)⟩)⟩
  have h35 : ax_ho G M_X0_testKey 4 35 none := ⟨_, en_c E (k := 35) rfl, fun s args hs hw => (List.forall_mem_cons.mpr ⟨(Or.inr ⟨by decide, _, hw _ q1682, _, en_c E (k := 35) rfl, va_Nc.moved hs.1.alike (en_n E 28 rfl)⟩), (List.forall_mem_cons.mpr ⟨(Or.inr ⟨by decide, _, hw _ q1683, _, en_c E (k := 35) rfl, va_Nc.moved hs.1.alike (en_n E 29 rfl)⟩), (List.forall_mem_nil _)⟩)⟩)⟩
  have h44 : ax_ho G M_X0_testKey 4 44 (some 15) := ⟨_, en_c E (k := 44) rfl, fun s args hs hw => ⟨(tableOf [(0, 9, 12, 13)]), _, (tableOf []), "java/lang/IllegalStateException", rfl, (List.forall_mem_cons.mpr ⟨(Or.inr ⟨by decide, _, hw _ q1682, _, en_c E (k := 44) rfl, va_Nc.moved hs.1.alike (en_n E 53 rfl)⟩), (List.forall_mem_nil _)⟩), rfl, by decide, rfl, hw _ q1683, (ax_mv hB hs hw q1719 rfl)⟩⟩
  have h45 : ax_ho G M_X0_testKey 4 45 none := ⟨_, en_c E (k := 45) rfl, fun s args hs hw => (List.forall_mem_cons.mpr ⟨(Or.inr ⟨by decide, _, hw _ q1682, _, en_c E (k := 45) rfl, va_Nc.moved hs.1.alike (en_n E 69 rfl)⟩), (List.forall_mem_cons.mpr ⟨(Or.inr ⟨by decide, _, hw _ q1683, _, en_c E (k := 45) rfl, va_Nc.moved hs.1.alike (en_n E 70 rfl)⟩), (List.forall_mem_nil _)⟩)⟩)⟩
  have h46 : ax_ho G M_X0_testKey 4 46 none := ⟨_, en_c E (k := 46) rfl, fun s args hs hw => (List.forall_mem_cons.mpr ⟨(Or.inr ⟨by decide, _, hw _ q1682, _, en_c E (k := 46) rfl, va_Nc.moved hs.1.alike (en_n E 61 rfl)⟩), (List.forall_mem_cons.mpr ⟨(Or.inr ⟨by decide, _, hw _ q1683, _, en_c E (k := 46) rfl, va_Nc.moved hs.1.alike (en_n E 62 rfl)⟩), (List.forall_mem_nil _)⟩)⟩)⟩
  intro k o h
  dsimp only at h
  split at h
  · rename_i hk
    cases h
    simp only [List.mem_cons, List.not_mem_nil, or_false] at hk
    rcases hk with rfl | rfl
    · exact h0
    · exact h44
  ·
    split at h
    · rename_i hk
      cases h
      simp only [List.mem_cons, List.not_mem_nil, or_false] at hk
      rcases hk with rfl
      exact h18
    ·
      split at h
      · rename_i hk
        cases h
        simp only [List.mem_cons, List.not_mem_nil, or_false] at hk
        rcases hk with rfl | rfl | rfl | rfl | rfl | rfl | rfl | rfl | rfl
        · exact h6
        · exact h7
        · exact h28
        · exact h32
        · exact h33
        · exact h34
        · exact h35
        · exact h45
        · exact h46
      · cases h
theorem hok_134 (E : ax_EN G l) : ax_hok G M_X0_testWord 4 (fun k : Nat => if k ∈ [0, 44] then some (some 15) else if k ∈ [18] then some (some 12) else if k ∈ [6, 7, 28, 32, 33, 34, 35, 45, 46] then some none else none) := by
  have hB := en_B E
  have h18 : ax_ho G M_X0_testWord 4 18 (some 12) := ⟨_, en_c E (k := 18) rfl, fun s args hs hw => ⟨(tableOf []), _, (tableOf [(0, 9, 15, 15)]), "java/lang/IllegalArgumentException", rfl, (List.forall_mem_nil _), rfl, by decide, rfl, hw _ q1682, (ax_mv hB hs hw q742 rfl)⟩⟩
  have h0 : ax_ho G M_X0_testWord 4 0 (some 15) := ⟨_, en_c E (k := 0) rfl, fun s args hs hw => ⟨(tableOf [(0, 9, 12, 13)]), _, (tableOf []), "java/lang/IllegalStateException", rfl, (List.forall_mem_cons.mpr ⟨(Or.inr ⟨by decide, _, hw _ q1682, _, en_c E (k := 0) rfl, va_Nc.moved hs.1.alike (en_n E 53 rfl)⟩), (List.forall_mem_nil _)⟩), rfl, by decide, rfl, hw _ q1683, (ax_mv hB hs hw q1719 rfl)⟩⟩
  have h6 : ax_ho G M_X0_testWord 4 6 none := ⟨_, en_c E (k := 6) rfl, fun s args hs hw => (List.forall_mem_cons.mpr ⟨(Or.inr ⟨by decide, _, hw _ q1682, _, en_c E (k := 6) rfl, va_Nc.moved hs.1.alike (en_n E 61 rfl)⟩), (List.forall_mem_cons.mpr ⟨(Or.inr ⟨by decide, _, hw _ q1683, _, en_c E (k := 6) rfl, va_Nc.moved hs.1.alike (en_n E 62 rfl)⟩), (List.forall_mem_nil _)⟩)⟩)⟩
  have h7 : ax_ho G M_X0_testWord 4 7 none := ⟨_, en_c E (k := 7) rfl, fun s args hs hw => (List.forall_mem_cons.mpr ⟨(Or.inr ⟨by decide, _, hw _ q1682, _, en_c E (k := 7) rfl, va_Nc.moved hs.1.alike (en_n E 69 rfl)⟩), (List.forall_mem_cons.mpr ⟨(Or.inr ⟨by decide, _, hw _ q1683, _, en_c E (k := 7) rfl, va_Nc.moved hs.1.alike (en_n E 70 rfl)⟩), (List.forall_mem_nil _)⟩)⟩)⟩
  have h28 : ax_ho G M_X0_testWord 4 28 none := ⟨_, en_c E (k := 28) rfl, fun s args hs hw => (List.forall_mem_cons.mpr ⟨(Or.inr ⟨by decide, _, hw _ q1682, _, en_c E (k := 28) rfl, va_Nc.moved hs.1.alike (en_n E 36 rfl)⟩), (List.forall_mem_cons.mpr ⟨(Or.inr ⟨by decide, _, hw _ q1683, _, en_c E (k := 28) rfl, va_Nc.moved hs.1.alike (en_n E 37 rfl)⟩), (List.forall_mem_nil _)⟩)⟩)⟩
  have h32 : ax_ho G M_X0_testWord 4 32 none := ⟨_, en_c E (k := 32) rfl, fun s args hs hw => (List.forall_mem_cons.mpr ⟨(Or.inr ⟨by decide, _, hw _ q1682, _, en_c E (k := 32) rfl, va_Nc.moved hs.1.alike (en_n E 20 rfl)⟩), (List.forall_mem_cons.mpr ⟨(Or.inr ⟨by decide, _, hw _ q1683, _, en_c E (k := 32) rfl, va_Nc.moved hs.1.alike (en_n E 21 rfl)⟩), (List.forall_mem_nil _)⟩)⟩)⟩
  have h33 : ax_ho G M_X0_testWord 4 33 none := ⟨_, en_c E (k := 33) rfl, fun s args hs hw => (List.forall_mem_cons.mpr ⟨(Or.inr ⟨by decide, _, hw _ q1682, _, en_c E (k := 33) rfl, va_Nc.moved hs.1.alike (en_n E 4 rfl)⟩), (List.forall_mem_cons.mpr ⟨(Or.inr ⟨by decide, _, hw _ q1683, _, en_c E (k := 33) rfl, va_Nc.moved hs.1.alike (en_n E 5 rfl)⟩), (List.forall_mem_nil _)⟩)⟩)⟩
  have h34 : ax_ho G M_X0_testWord 4 34 none := ⟨_, en_c E (k := 34) rfl, fun s args hs hw => (List.forall_mem_cons.mpr ⟨(Or.inr ⟨by decide, _, hw _ q1682, _, en_c E (k := 34) rfl, va_Nc.moved hs.1.alike (en_n E 12 rfl)⟩), (List.forall_mem_cons.mpr ⟨(Or.inr ⟨by decide, _, hw _ q1683, _, en_c E (k := 34) rfl, va_Nc.moved hs.1.alike (en_n E 13 rfl)⟩), (List.forall_mem_nil _)⟩)⟩)⟩
  have h35 : ax_ho G M_X0_testWord 4 35 none := ⟨_, en_c E (k := 35) rfl, fun s args hs hw => (List.forall_mem_cons.mpr ⟨(Or.inr ⟨by decide, _, hw _ q1682, _, en_c E (k := 35) rfl, va_Nc.moved hs.1.alike (en_n E 28 rfl)⟩), (List.forall_mem_cons.mpr ⟨(Or.inr ⟨by decide, _, hw _ q1683, _, en_c E (k := 35) rfl, va_Nc.moved hs.1.alike (en_n E 29 rfl)⟩), (List.forall_mem_nil _)⟩)⟩)⟩
  have h44 : ax_ho G M_X0_testWord 4 44 (some 15) := ⟨_, en_c E (k := 44) rfl, fun s args hs hw => ⟨(tableOf [(0, 9, 12, 13)]), _, (tableOf []), "java/lang/IllegalStateException", rfl, (List.forall_mem_cons.mpr ⟨(Or.inr ⟨by decide, _, hw _ q1682, _, en_c E (k := 44) rfl, va_Nc.moved hs.1.alike (en_n E 53 rfl)⟩), (List.forall_mem_nil _)⟩), rfl, by decide, rfl, hw _ q1683, (ax_mv hB hs hw q1719 rfl)⟩⟩
  have h45 : ax_ho G M_X0_testWord 4 45 none := ⟨_, en_c E (k := 45) rfl, fun s args hs hw => (List.forall_mem_cons.mpr ⟨(Or.inr ⟨by decide, _, hw _ q1682, _, en_c E (k := 45) rfl, va_Nc.moved hs.1.alike (en_n E 69 rfl)⟩), (List.forall_mem_cons.mpr ⟨(Or.inr ⟨by decide, _, hw _ q1683, _, en_c E (k := 45) rfl, va_Nc.moved hs.1.alike (en_n E 70 rfl)⟩), (List.forall_mem_nil _)⟩)⟩)⟩
  have h46 : ax_ho G M_X0_testWord 4 46 none := ⟨_, en_c E (k := 46) rfl, fun s args hs hw => (List.forall_mem_cons.mpr ⟨(Or.inr ⟨by decide, _, hw _ q1682, _, en_c E (k := 46) rfl, va_Nc.moved hs.1.alike (en_n E 61 rfl)⟩), (List.forall_mem_cons.mpr ⟨(Or.inr ⟨by decide, _, hw _ q1683, _, en_c E (k := 46) rfl, va_Nc.moved hs.1.alike (en_n E 62 rfl)⟩), (List.forall_mem_nil _)⟩)⟩)⟩
  intro k o h
  dsimp only at h
  split at h
  · rename_i hk
    cases h
    simp only [List.mem_cons, List.not_mem_nil, or_false] at hk
    rcases hk with rfl | rfl
    · exact h0
    · exact h44
  ·
    split at h
    · rename_i hk
      cases h
      simp only [List.mem_cons, List.not_mem_nil, or_false] at hk
      rcases hk with rfl
      exact h18
    ·
      split at h
      · rename_i hk
        cases h
        simp only [List.mem_cons, List.not_mem_nil, or_false] at hk
        rcases hk with rfl | rfl | rfl | rfl | rfl | rfl | rfl | rfl | rfl
        · exact h6
        · exact h7
        · exact h28
        · exact h32
        · exact h33
        · exact h34
        · exact h35
        · exact h45
        · exact h46
      · cases h
theorem hok_135 (E : ax_EN G l) : ax_hok G M_X0_addTest 9 (fun k : Nat => if k ∈ [0, 44] then some (some 21) else if k ∈ [18] then some (some 17) else if k ∈ [6, 7, 28, 32, 33, 34, 35, 45, 46] then some none else none) := by
  have hB := en_B E
  have h18 : ax_ho G M_X0_addTest 9 18 (some 17) := ⟨_, en_c E (k := 18) rfl, fun s args hs hw => ⟨(tableOf []), _, (tableOf [(0, 14, 21, 15)]), "java/lang/IllegalArgumentException", rfl, (List.forall_mem_nil _), rfl, by decide, rfl, hw _ q1682, (ax_mv hB hs hw q742 rfl)⟩⟩
  have h0 : ax_ho G M_X0_addTest 9 0 (some 21) := ⟨_, en_c E (k := 0) rfl, fun s args hs hw => ⟨(tableOf [(0, 14, 17, 13)]), _, (tableOf []), "java/lang/IllegalStateException", rfl, (List.forall_mem_cons.mpr ⟨(Or.inr ⟨by decide, _, hw _ q1682, _, en_c E (k := 0) rfl, va_Nc.moved hs.1.alike (en_n E 53 rfl)⟩), (List.forall_mem_nil _)⟩), rfl, by decide, rfl, hw _ q1683, (ax_mv hB hs hw q1719 rfl)⟩⟩
  have h6 : ax_ho G M_X0_addTest 9 6 none := ⟨_, en_c E (k := 6) rfl, fun s args hs hw => (List.forall_mem_cons.mpr ⟨(Or.inr ⟨by decide, _, hw _ q1682, _, en_c E (k := 6) rfl, va_Nc.moved hs.1.alike (en_n E 61 rfl)⟩), (List.forall_mem_cons.mpr ⟨(Or.inr ⟨by decide, _, hw _ q1683, _, en_c E (k := 6) rfl, va_Nc.moved hs.1.alike (en_n E 62 rfl)⟩), (List.forall_mem_nil _)⟩)⟩)⟩
  have h7 : ax_ho G M_X0_addTest 9 7 none := ⟨_, en_c E (k := 7) rfl, fun s args hs hw => (List.forall_mem_cons.mpr ⟨(Or.inr ⟨by decide, _, hw _ q1682, _, en_c E (k := 7) rfl, va_Nc.moved hs.1.alike (en_n E 69 rfl)⟩), (List.forall_mem_cons.mpr ⟨(Or.inr ⟨by decide, _, hw _ q1683, _, en_c E (k := 7) rfl, va_Nc.moved hs.1.alike (en_n E 70 rfl)⟩), (List.forall_mem_nil _)⟩)⟩)⟩
  have h28 : ax_ho G M_X0_addTest 9 28 none := ⟨_, en_c E (k := 28) rfl, fun s args hs hw => (List.forall_mem_cons.mpr ⟨(Or.inr ⟨by decide, _, hw _ q1682, _, en_c E (k := 28) rfl, va_Nc.moved hs.1.alike (en_n E 36 rfl)⟩), (List.forall_mem_cons.mpr ⟨(Or.inr ⟨by decide, _, hw _ q1683, _, en_c E (k := 28) rfl, va_Nc.moved hs.1.alike (en_n E 37 rfl)⟩), (List.forall_mem_nil _)⟩)⟩)⟩
  have h32 : ax_ho G M_X0_addTest 9 32 none := ⟨_, en_c E (k := 32) rfl, fun s args hs hw => (List.forall_mem_cons.mpr ⟨(Or.inr ⟨by decide, _, hw _ q1682, _, en_c E (k := 32) rfl, va_Nc.moved hs.1.alike (en_n E 20 rfl)⟩), (List.forall_mem_cons.mpr ⟨(Or.inr ⟨by decide, _, hw _ q1683, _, en_c E (k := 32) rfl, va_Nc.moved hs.1.alike (en_n E 21 rfl)⟩), (List.forall_mem_nil _)⟩)⟩)⟩
  have h33 : ax_ho G M_X0_addTest 9 33 none := ⟨_, en_c E (k := 33) rfl, fun s args hs hw => (List.forall_mem_cons.mpr ⟨(Or.inr ⟨by decide, _, hw _ q1682, _, en_c E (k := 33) rfl, va_Nc.moved hs.1.alike (en_n E 4 rfl)⟩), (List.forall_mem_cons.mpr ⟨(Or.inr ⟨by decide, _, hw _ q1683, _, en_c E (k := 33) rfl, va_Nc.moved hs.1.alike (en_n E 5 rfl)⟩), (List.forall_mem_nil _)⟩)⟩)⟩
  have h34 : ax_ho G M_X0_addTest 9 34 none := ⟨_, en_c E (k := 34) rfl, fun s args hs hw => (List.forall_mem_cons.mpr ⟨(Or.inr ⟨by decide, _, hw _ q1682, _, en_c E (k := 34) rfl, va_Nc.moved hs.1.alike (en_n E 12 rfl)⟩), (List.forall_mem_cons.mpr ⟨(Or.inr ⟨by decide, _, hw _ q1683, _, en_c E (k := 34) rfl, va_Nc.moved hs.1.alike (en_n E 13 rfl)⟩), (List.forall_mem_nil _)⟩)⟩)⟩
  have h35 : ax_ho G M_X0_addTest 9 35 none := ⟨_, en_c E (k := 35) rfl, fun s args hs hw => (List.forall_mem_cons.mpr ⟨(Or.inr ⟨by decide, _, hw _ q1682, _, en_c E (k := 35) rfl, va_Nc.moved hs.1.alike (en_n E 28 rfl)⟩), (List.forall_mem_cons.mpr ⟨(Or.inr ⟨by decide, _, hw _ q1683, _, en_c E (k := 35) rfl, va_Nc.moved hs.1.alike (en_n E 29 rfl)⟩), (List.forall_mem_nil _)⟩)⟩)⟩
  have h44 : ax_ho G M_X0_addTest 9 44 (some 21) := ⟨_, en_c E (k := 44) rfl, fun s args hs hw => ⟨(tableOf [(0, 14, 17, 13)]), _, (tableOf []), "java/lang/IllegalStateException", rfl, (List.forall_mem_cons.mpr ⟨(Or.inr ⟨by decide, _, hw _ q1682, _, en_c E (k := 44) rfl, va_Nc.moved hs.1.alike (en_n E 53 rfl)⟩), (List.forall_mem_nil _)⟩), rfl, by decide, rfl, hw _ q1683, (ax_mv hB hs hw q1719 rfl)⟩⟩
  have h45 : ax_ho G M_X0_addTest 9 45 none := ⟨_, en_c E (k := 45) rfl, fun s args hs hw => (List.forall_mem_cons.mpr ⟨(Or.inr ⟨by decide, _, hw _ q1682, _, en_c E (k := 45) rfl, va_Nc.moved hs.1.alike (en_n E 69 rfl)⟩), (List.forall_mem_cons.mpr ⟨(Or.inr ⟨by decide, _, hw _ q1683, _, en_c E (k := 45) rfl, va_Nc.moved hs.1.alike (en_n E 70 rfl)⟩), (List.forall_mem_nil _)⟩)⟩)⟩
  have h46 : ax_ho G M_X0_addTest 9 46 none := ⟨_, en_c E (k := 46) rfl, fun s args hs hw => (List.forall_mem_cons.mpr ⟨(Or.inr ⟨by decide, _, hw _ q1682, _, en_c E (k := 46) rfl, va_Nc.moved hs.1.alike (en_n E 61 rfl)⟩), (List.forall_mem_cons.mpr ⟨(Or.inr ⟨by decide, _, hw _ q1683, _, en_c E (k := 46) rfl, va_Nc.moved hs.1.alike (en_n E 62 rfl)⟩), (List.forall_mem_nil _)⟩)⟩)⟩
  intro k o h
  dsimp only at h
  split at h
  · rename_i hk
    cases h
    simp only [List.mem_cons, List.not_mem_nil, or_false] at hk
    rcases hk with rfl | rfl
    · exact h0
    · exact h44
  ·
    split at h
    · rename_i hk
      cases h
      simp only [List.mem_cons, List.not_mem_nil, or_false] at hk
      rcases hk with rfl
      exact h18
    ·
      split at h
      · rename_i hk
        cases h
        simp only [List.mem_cons, List.not_mem_nil, or_false] at hk
        rcases hk with rfl | rfl | rfl | rfl | rfl | rfl | rfl | rfl | rfl
        · exact h6
        · exact h7
        · exact h28
        · exact h32
        · exact h33
        · exact h34
        · exact h35
        · exact h45
        · exact h46
      · cases h
theorem hok_136 (E : ax_EN G l) : ax_hok G M_X0_submit 3 (fun k : Nat => if k ∈ [0, 44] then some (some 11) else if k ∈ [18, 6, 7, 28, 32, 33, 34, 35, 45, 46] then some none else none) := by
  have hB := en_B E
  have h18 : ax_ho G M_X0_submit 3 18 none := ⟨_, en_c E (k := 18) rfl, fun s args hs hw => (List.forall_mem_cons.mpr ⟨(Or.inr ⟨by decide, _, hw _ q1683, _, en_c E (k := 18) rfl, va_Nc.moved hs.1.alike (en_n E 45 rfl)⟩), (List.forall_mem_nil _)⟩)⟩
  have h0 : ax_ho G M_X0_submit 3 0 (some 11) := ⟨_, en_c E (k := 0) rfl, fun s args hs hw => ⟨(tableOf []), _, (tableOf []), "java/lang/IllegalStateException", rfl, (List.forall_mem_nil _), rfl, by decide, rfl, hw _ q1683, (ax_mv hB hs hw q1719 rfl)⟩⟩
  have h6 : ax_ho G M_X0_submit 3 6 none := ⟨_, en_c E (k := 6) rfl, fun s args hs hw => (List.forall_mem_cons.mpr ⟨(Or.inr ⟨by decide, _, hw _ q1683, _, en_c E (k := 6) rfl, va_Nc.moved hs.1.alike (en_n E 62 rfl)⟩), (List.forall_mem_nil _)⟩)⟩
  have h7 : ax_ho G M_X0_submit 3 7 none := ⟨_, en_c E (k := 7) rfl, fun s args hs hw => (List.forall_mem_cons.mpr ⟨(Or.inr ⟨by decide, _, hw _ q1683, _, en_c E (k := 7) rfl, va_Nc.moved hs.1.alike (en_n E 70 rfl)⟩), (List.forall_mem_nil _)⟩)⟩
  have h28 : ax_ho G M_X0_submit 3 28 none := ⟨_, en_c E (k := 28) rfl, fun s args hs hw => (List.forall_mem_cons.mpr ⟨(Or.inr ⟨by decide, _, hw _ q1683, _, en_c E (k := 28) rfl, va_Nc.moved hs.1.alike (en_n E 37 rfl)⟩), (List.forall_mem_nil _)⟩)⟩
  have h32 : ax_ho G M_X0_submit 3 32 none := ⟨_, en_c E (k := 32) rfl, fun s args hs hw => (List.forall_mem_cons.mpr ⟨(Or.inr ⟨by decide, _, hw _ q1683, _, en_c E (k := 32) rfl, va_Nc.moved hs.1.alike (en_n E 21 rfl)⟩), (List.forall_mem_nil _)⟩)⟩
  have h33 : ax_ho G M_X0_submit 3 33 none := ⟨_, en_c E (k := 33) rfl, fun s args hs hw => (List.forall_mem_cons.mpr ⟨(Or.inr ⟨by decide, _, hw _ q1683, _, en_c E (k := 33) rfl, va_Nc.moved hs.1.alike (en_n E 5 rfl)⟩), (List.forall_mem_nil _)⟩)⟩
  have h34 : ax_ho G M_X0_submit 3 34 none := ⟨_, en_c E (k := 34) rfl, fun s args hs hw => (List.forall_mem_cons.mpr ⟨(Or.inr ⟨by decide, _, hw _ q1683, _, en_c E (k := 34) rfl, va_Nc.moved hs.1.alike (en_n E 13 rfl)⟩), (List.forall_mem_nil _)⟩)⟩
  have h35 : ax_ho G M_X0_submit 3 35 none := ⟨_, en_c E (k := 35) rfl, fun s args hs hw => (List.forall_mem_cons.mpr ⟨(Or.inr ⟨by decide, _, hw _ q1683, _, en_c E (k := 35) rfl, va_Nc.moved hs.1.alike (en_n E 29 rfl)⟩), (List.forall_mem_nil _)⟩)⟩
  have h44 : ax_ho G M_X0_submit 3 44 (some 11) := ⟨_, en_c E (k := 44) rfl, fun s args hs hw => ⟨(tableOf []), _, (tableOf []), "java/lang/IllegalStateException", rfl, (List.forall_mem_nil _), rfl, by decide, rfl, hw _ q1683, (ax_mv hB hs hw q1719 rfl)⟩⟩
  have h45 : ax_ho G M_X0_submit 3 45 none := ⟨_, en_c E (k := 45) rfl, fun s args hs hw => (List.forall_mem_cons.mpr ⟨(Or.inr ⟨by decide, _, hw _ q1683, _, en_c E (k := 45) rfl, va_Nc.moved hs.1.alike (en_n E 70 rfl)⟩), (List.forall_mem_nil _)⟩)⟩
  have h46 : ax_ho G M_X0_submit 3 46 none := ⟨_, en_c E (k := 46) rfl, fun s args hs hw => (List.forall_mem_cons.mpr ⟨(Or.inr ⟨by decide, _, hw _ q1683, _, en_c E (k := 46) rfl, va_Nc.moved hs.1.alike (en_n E 62 rfl)⟩), (List.forall_mem_nil _)⟩)⟩
  intro k o h
  dsimp only at h
  split at h
  · rename_i hk
    cases h
    simp only [List.mem_cons, List.not_mem_nil, or_false] at hk
    rcases hk with rfl | rfl
    · exact h0
    · exact h44
  ·
    split at h
    · rename_i hk
      cases h
      simp only [List.mem_cons, List.not_mem_nil, or_false] at hk
      rcases hk with rfl | rfl | rfl | rfl | rfl | rfl | rfl | rfl | rfl | rfl
      · exact h18
      · exact h6
      · exact h7
      · exact h28
      · exact h32
      · exact h33
      · exact h34
      · exact h35
      · exact h45
      · exact h46
    · cases h
theorem hok_137 (E : ax_EN G l) : ax_hok G M_X0_result 4 (fun k : Nat => if k ∈ [6, 46] then some (some 12) else if k ∈ [18, 0, 7, 28, 32, 33, 34, 35, 44, 45] then some none else none) := by
  have hB := en_B E
  have h18 : ax_ho G M_X0_result 4 18 none := ⟨_, en_c E (k := 18) rfl, fun s args hs hw => (List.forall_mem_cons.mpr ⟨(Or.inr ⟨by decide, _, hw _ q2539, _, en_c E (k := 18) rfl, va_Nc.moved hs.1.alike (en_n E 46 rfl)⟩), (List.forall_mem_nil _)⟩)⟩
  have h0 : ax_ho G M_X0_result 4 0 none := ⟨_, en_c E (k := 0) rfl, fun s args hs hw => (List.forall_mem_cons.mpr ⟨(Or.inr ⟨by decide, _, hw _ q2539, _, en_c E (k := 0) rfl, va_Nc.moved hs.1.alike (en_n E 54 rfl)⟩), (List.forall_mem_nil _)⟩)⟩
  have h6 : ax_ho G M_X0_result 4 6 (some 12) := ⟨_, en_c E (k := 6) rfl, fun s args hs hw => ⟨(tableOf []), _, (tableOf []), "java/lang/IndexOutOfBoundsException", rfl, (List.forall_mem_nil _), rfl, by decide, rfl, hw _ q2539, (ax_mv hB hs hw q849 rfl)⟩⟩
  have h7 : ax_ho G M_X0_result 4 7 none := ⟨_, en_c E (k := 7) rfl, fun s args hs hw => (List.forall_mem_cons.mpr ⟨(Or.inr ⟨by decide, _, hw _ q2539, _, en_c E (k := 7) rfl, va_Nc.moved hs.1.alike (en_n E 71 rfl)⟩), (List.forall_mem_nil _)⟩)⟩
  have h28 : ax_ho G M_X0_result 4 28 none := ⟨_, en_c E (k := 28) rfl, fun s args hs hw => (List.forall_mem_cons.mpr ⟨(Or.inr ⟨by decide, _, hw _ q2539, _, en_c E (k := 28) rfl, va_Nc.moved hs.1.alike (en_n E 38 rfl)⟩), (List.forall_mem_nil _)⟩)⟩
  have h32 : ax_ho G M_X0_result 4 32 none := ⟨_, en_c E (k := 32) rfl, fun s args hs hw => (List.forall_mem_cons.mpr ⟨(Or.inr ⟨by decide, _, hw _ q2539, _, en_c E (k := 32) rfl, va_Nc.moved hs.1.alike (en_n E 22 rfl)⟩), (List.forall_mem_nil _)⟩)⟩
  have h33 : ax_ho G M_X0_result 4 33 none := ⟨_, en_c E (k := 33) rfl, fun s args hs hw => (List.forall_mem_cons.mpr ⟨(Or.inr ⟨by decide, _, hw _ q2539, _, en_c E (k := 33) rfl, va_Nc.moved hs.1.alike (en_n E 6 rfl)⟩), (List.forall_mem_nil _)⟩)⟩
  have h34 : ax_ho G M_X0_result 4 34 none := ⟨_, en_c E (k := 34) rfl, fun s args hs hw => (List.forall_mem_cons.mpr ⟨(Or.inr ⟨by decide, _, hw _ q2539, _, en_c E (k := 34) rfl, va_Nc.moved hs.1.alike (en_n E 14 rfl)⟩), (List.forall_mem_nil _)⟩)⟩
  have h35 : ax_ho G M_X0_result 4 35 none := ⟨_, en_c E (k := 35) rfl, fun s args hs hw => (List.forall_mem_cons.mpr ⟨(Or.inr ⟨by decide, _, hw _ q2539, _, en_c E (k := 35) rfl, va_Nc.moved hs.1.alike (en_n E 30 rfl)⟩), (List.forall_mem_nil _)⟩)⟩
  have h44 : ax_ho G M_X0_result 4 44 none := ⟨_, en_c E (k := 44) rfl, fun s args hs hw => (List.forall_mem_cons.mpr ⟨(Or.inr ⟨by decide, _, hw _ q2539, _, en_c E (k := 44) rfl, va_Nc.moved hs.1.alike (en_n E 54 rfl)⟩), (List.forall_mem_nil _)⟩)⟩
  have h45 : ax_ho G M_X0_result 4 45 none := ⟨_, en_c E (k := 45) rfl, fun s args hs hw => (List.forall_mem_cons.mpr ⟨(Or.inr ⟨by decide, _, hw _ q2539, _, en_c E (k := 45) rfl, va_Nc.moved hs.1.alike (en_n E 71 rfl)⟩), (List.forall_mem_nil _)⟩)⟩
  have h46 : ax_ho G M_X0_result 4 46 (some 12) := ⟨_, en_c E (k := 46) rfl, fun s args hs hw => ⟨(tableOf []), _, (tableOf []), "java/lang/IndexOutOfBoundsException", rfl, (List.forall_mem_nil _), rfl, by decide, rfl, hw _ q2539, (ax_mv hB hs hw q849 rfl)⟩⟩
  intro k o h
  dsimp only at h
  split at h
  · rename_i hk
    cases h
    simp only [List.mem_cons, List.not_mem_nil, or_false] at hk
    rcases hk with rfl | rfl
    · exact h6
    · exact h46
  ·
    split at h
    · rename_i hk
      cases h
      simp only [List.mem_cons, List.not_mem_nil, or_false] at hk
      rcases hk with rfl | rfl | rfl | rfl | rfl | rfl | rfl | rfl | rfl | rfl
      · exact h18
      · exact h0
      · exact h7
      · exact h28
      · exact h32
      · exact h33
      · exact h34
      · exact h35
      · exact h44
      · exact h45
    · cases h
theorem hok_154 (E : ax_EN G l) : ax_hok G M_X1_error 5 (fun k : Nat => if k ∈ [28] then some (some 20) else if k ∈ [18, 0, 6, 7, 32, 33, 34, 35, 44, 45, 46] then some none else none) := by
  have hB := en_B E
  have h18 : ax_ho G M_X1_error 5 18 none := ⟨_, en_c E (k := 18) rfl, fun s args hs hw => (List.forall_mem_cons.mpr ⟨(Or.inr ⟨by decide, _, hw _ q383, _, en_c E (k := 18) rfl, va_Nc.moved hs.1.alike (en_n E 44 rfl)⟩), (List.forall_mem_nil _)⟩)⟩
  have h0 : ax_ho G M_X1_error 5 0 none := ⟨_, en_c E (k := 0) rfl, fun s args hs hw => (List.forall_mem_cons.mpr ⟨(Or.inr ⟨by decide, _, hw _ q383, _, en_c E (k := 0) rfl, va_Nc.moved hs.1.alike (en_n E 52 rfl)⟩), (List.forall_mem_nil _)⟩)⟩
  have h6 : ax_ho G M_X1_error 5 6 none := ⟨_, en_c E (k := 6) rfl, fun s args hs hw => (List.forall_mem_cons.mpr ⟨(Or.inr ⟨by decide, _, hw _ q383, _, en_c E (k := 6) rfl, va_Nc.moved hs.1.alike (en_n E 60 rfl)⟩), (List.forall_mem_nil _)⟩)⟩
  have h7 : ax_ho G M_X1_error 5 7 none := ⟨_, en_c E (k := 7) rfl, fun s args hs hw => (List.forall_mem_cons.mpr ⟨(Or.inr ⟨by decide, _, hw _ q383, _, en_c E (k := 7) rfl, va_Nc.moved hs.1.alike (en_n E 68 rfl)⟩), (List.forall_mem_nil _)⟩)⟩
  have h28 : ax_ho G M_X1_error 5 28 (some 20) := ⟨_, en_c E (k := 28) rfl, fun s args hs hw => ⟨(tableOf []), _, (tableOf []), "KernelGym$Wrong", rfl, (List.forall_mem_nil _), rfl, by decide, rfl, hw _ q383, (ax_mv hB hs hw q477 rfl)⟩⟩
  have h32 : ax_ho G M_X1_error 5 32 none := ⟨_, en_c E (k := 32) rfl, fun s args hs hw => (List.forall_mem_cons.mpr ⟨(Or.inr ⟨by decide, _, hw _ q383, _, en_c E (k := 32) rfl, va_Nc.moved hs.1.alike (en_n E 19 rfl)⟩), (List.forall_mem_nil _)⟩)⟩
  have h33 : ax_ho G M_X1_error 5 33 none := ⟨_, en_c E (k := 33) rfl, fun s args hs hw => (List.forall_mem_cons.mpr ⟨(Or.inr ⟨by decide, _, hw _ q383, _, en_c E (k := 33) rfl, va_Nc.moved hs.1.alike (en_n E 3 rfl)⟩), (List.forall_mem_nil _)⟩)⟩
  have h34 : ax_ho G M_X1_error 5 34 none := ⟨_, en_c E (k := 34) rfl, fun s args hs hw => (List.forall_mem_cons.mpr ⟨(Or.inr ⟨by decide, _, hw _ q383, _, en_c E (k := 34) rfl, va_Nc.moved hs.1.alike (en_n E 11 rfl)⟩), (List.forall_mem_nil _)⟩)⟩
  have h35 : ax_ho G M_X1_error 5 35 none := ⟨_, en_c E (k := 35) rfl, fun s args hs hw => (List.forall_mem_cons.mpr ⟨(Or.inr ⟨by decide, _, hw _ q383, _, en_c E (k := 35) rfl, va_Nc.moved hs.1.alike (en_n E 27 rfl)⟩), (List.forall_mem_nil _)⟩)⟩
  have h44 : ax_ho G M_X1_error 5 44 none := ⟨_, en_c E (k := 44) rfl, fun s args hs hw => (List.forall_mem_cons.mpr ⟨(Or.inr ⟨by decide, _, hw _ q383, _, en_c E (k := 44) rfl, va_Nc.moved hs.1.alike (en_n E 52 rfl)⟩), (List.forall_mem_nil _)⟩)⟩
  have h45 : ax_ho G M_X1_error 5 45 none := ⟨_, en_c E (k := 45) rfl, fun s args hs hw => (List.forall_mem_cons.mpr ⟨(Or.inr ⟨by decide, _, hw _ q383, _, en_c E (k := 45) rfl, va_Nc.moved hs.1.alike (en_n E 68 rfl)⟩), (List.forall_mem_nil _)⟩)⟩
  have h46 : ax_ho G M_X1_error 5 46 none := ⟨_, en_c E (k := 46) rfl, fun s args hs hw => (List.forall_mem_cons.mpr ⟨(Or.inr ⟨by decide, _, hw _ q383, _, en_c E (k := 46) rfl, va_Nc.moved hs.1.alike (en_n E 60 rfl)⟩), (List.forall_mem_nil _)⟩)⟩
  intro k o h
  dsimp only at h
  split at h
  · rename_i hk
    cases h
    simp only [List.mem_cons, List.not_mem_nil, or_false] at hk
    rcases hk with rfl
    exact h28
  ·
    split at h
    · rename_i hk
      cases h
      simp only [List.mem_cons, List.not_mem_nil, or_false] at hk
      rcases hk with rfl | rfl | rfl | rfl | rfl | rfl | rfl | rfl | rfl | rfl | rfl
      · exact h18
      · exact h0
      · exact h6
      · exact h7
      · exact h32
      · exact h33
      · exact h34
      · exact h35
      · exact h44
      · exact h45
      · exact h46
    · cases h
theorem hok_156 (E : ax_EN G l) : ax_hok G M_X1_error 22 hd_0 := by
  have hB := en_B E
  have h18 : ax_ho G M_X1_error 22 18 none := ⟨_, en_c E (k := 18) rfl, fun s args hs hw => (List.forall_mem_cons.mpr ⟨(Or.inl rfl), (List.forall_mem_nil _)⟩)⟩
  have h0 : ax_ho G M_X1_error 22 0 none := ⟨_, en_c E (k := 0) rfl, fun s args hs hw => (List.forall_mem_cons.mpr ⟨(Or.inl rfl), (List.forall_mem_nil _)⟩)⟩
  have h6 : ax_ho G M_X1_error 22 6 none := ⟨_, en_c E (k := 6) rfl, fun s args hs hw => (List.forall_mem_cons.mpr ⟨(Or.inl rfl), (List.forall_mem_nil _)⟩)⟩
  have h7 : ax_ho G M_X1_error 22 7 none := ⟨_, en_c E (k := 7) rfl, fun s args hs hw => (List.forall_mem_cons.mpr ⟨(Or.inl rfl), (List.forall_mem_nil _)⟩)⟩
  have h28 : ax_ho G M_X1_error 22 28 none := ⟨_, en_c E (k := 28) rfl, fun s args hs hw => (List.forall_mem_cons.mpr ⟨(Or.inl rfl), (List.forall_mem_nil _)⟩)⟩
  have h32 : ax_ho G M_X1_error 22 32 none := ⟨_, en_c E (k := 32) rfl, fun s args hs hw => (List.forall_mem_cons.mpr ⟨(Or.inl rfl), (List.forall_mem_nil _)⟩)⟩
  have h33 : ax_ho G M_X1_error 22 33 none := ⟨_, en_c E (k := 33) rfl, fun s args hs hw => (List.forall_mem_cons.mpr ⟨(Or.inl rfl), (List.forall_mem_nil _)⟩)⟩
  have h34 : ax_ho G M_X1_error 22 34 none := ⟨_, en_c E (k := 34) rfl, fun s args hs hw => (List.forall_mem_cons.mpr ⟨(Or.inl rfl), (List.forall_mem_nil _)⟩)⟩
  have h35 : ax_ho G M_X1_error 22 35 none := ⟨_, en_c E (k := 35) rfl, fun s args hs hw => (List.forall_mem_cons.mpr ⟨(Or.inl rfl), (List.forall_mem_nil _)⟩)⟩
  have h44 : ax_ho G M_X1_error 22 44 none := ⟨_, en_c E (k := 44) rfl, fun s args hs hw => (List.forall_mem_cons.mpr ⟨(Or.inl rfl), (List.forall_mem_nil _)⟩)⟩
  have h45 : ax_ho G M_X1_error 22 45 none := ⟨_, en_c E (k := 45) rfl, fun s args hs hw => (List.forall_mem_cons.mpr ⟨(Or.inl rfl), (List.forall_mem_nil _)⟩)⟩
  have h46 : ax_ho G M_X1_error 22 46 none := ⟨_, en_c E (k := 46) rfl, fun s args hs hw => (List.forall_mem_cons.mpr ⟨(Or.inl rfl), (List.forall_mem_nil _)⟩)⟩
  intro k o h
  unfold hd_0 at h
  split at h
  · rename_i hk
    cases h
    simp only [List.mem_cons, List.not_mem_nil, or_false] at hk
    rcases hk with rfl | rfl | rfl | rfl | rfl | rfl | rfl | rfl | rfl | rfl | rfl | rfl
    · exact h18
    · exact h0
    · exact h6
    · exact h7
    · exact h28
    · exact h32
    · exact h33
    · exact h34
    · exact h35
    · exact h44
    · exact h45
    · exact h46
  · cases h
theorem hok_177 (E : ax_EN G l) : ax_hok G M_X1_assemble 5 (fun k : Nat => if k ∈ [28] then some (some 22) else if k ∈ [18, 0, 6, 7, 32, 33, 34, 35, 44, 45, 46] then some none else none) := by
  have hB := en_B E
  have h18 : ax_ho G M_X1_assemble 5 18 none := ⟨_, en_c E (k := 18) rfl, fun s args hs hw => (List.forall_mem_cons.mpr ⟨(Or.inr ⟨by decide, _, hw _ q383, _, en_c E (k := 18) rfl, va_Nc.moved hs.1.alike (en_n E 44 rfl)⟩), (List.forall_mem_nil _)⟩)⟩
  have h0 : ax_ho G M_X1_assemble 5 0 none := ⟨_, en_c E (k := 0) rfl, fun s args hs hw => (List.forall_mem_cons.mpr ⟨(Or.inr ⟨by decide, _, hw _ q383, _, en_c E (k := 0) rfl, va_Nc.moved hs.1.alike (en_n E 52 rfl)⟩), (List.forall_mem_nil _)⟩)⟩
  have h6 : ax_ho G M_X1_assemble 5 6 none := ⟨_, en_c E (k := 6) rfl, fun s args hs hw => (List.forall_mem_cons.mpr ⟨(Or.inr ⟨by decide, _, hw _ q383, _, en_c E (k := 6) rfl, va_Nc.moved hs.1.alike (en_n E 60 rfl)⟩), (List.forall_mem_nil _)⟩)⟩
  have h7 : ax_ho G M_X1_assemble 5 7 none := ⟨_, en_c E (k := 7) rfl, fun s args hs hw => (List.forall_mem_cons.mpr ⟨(Or.inr ⟨by decide, _, hw _ q383, _, en_c E (k := 7) rfl, va_Nc.moved hs.1.alike (en_n E 68 rfl)⟩), (List.forall_mem_nil _)⟩)⟩
  have h28 : ax_ho G M_X1_assemble 5 28 (some 22) := ⟨_, en_c E (k := 28) rfl, fun s args hs hw => ⟨(tableOf []), _, (tableOf []), "KernelGym$Wrong", rfl, (List.forall_mem_nil _), rfl, by decide, rfl, hw _ q383, (ax_mv hB hs hw q477 rfl)⟩⟩
  have h32 : ax_ho G M_X1_assemble 5 32 none := ⟨_, en_c E (k := 32) rfl, fun s args hs hw => (List.forall_mem_cons.mpr ⟨(Or.inr ⟨by decide, _, hw _ q383, _, en_c E (k := 32) rfl, va_Nc.moved hs.1.alike (en_n E 19 rfl)⟩), (List.forall_mem_nil _)⟩)⟩
  have h33 : ax_ho G M_X1_assemble 5 33 none := ⟨_, en_c E (k := 33) rfl, fun s args hs hw => (List.forall_mem_cons.mpr ⟨(Or.inr ⟨by decide, _, hw _ q383, _, en_c E (k := 33) rfl, va_Nc.moved hs.1.alike (en_n E 3 rfl)⟩), (List.forall_mem_nil _)⟩)⟩
  have h34 : ax_ho G M_X1_assemble 5 34 none := ⟨_, en_c E (k := 34) rfl, fun s args hs hw => (List.forall_mem_cons.mpr ⟨(Or.inr ⟨by decide, _, hw _ q383, _, en_c E (k := 34) rfl, va_Nc.moved hs.1.alike (en_n E 11 rfl)⟩), (List.forall_mem_nil _)⟩)⟩
  have h35 : ax_ho G M_X1_assemble 5 35 none := ⟨_, en_c E (k := 35) rfl, fun s args hs hw => (List.forall_mem_cons.mpr ⟨(Or.inr ⟨by decide, _, hw _ q383, _, en_c E (k := 35) rfl, va_Nc.moved hs.1.alike (en_n E 27 rfl)⟩), (List.forall_mem_nil _)⟩)⟩
  have h44 : ax_ho G M_X1_assemble 5 44 none := ⟨_, en_c E (k := 44) rfl, fun s args hs hw => (List.forall_mem_cons.mpr ⟨(Or.inr ⟨by decide, _, hw _ q383, _, en_c E (k := 44) rfl, va_Nc.moved hs.1.alike (en_n E 52 rfl)⟩), (List.forall_mem_nil _)⟩)⟩
  have h45 : ax_ho G M_X1_assemble 5 45 none := ⟨_, en_c E (k := 45) rfl, fun s args hs hw => (List.forall_mem_cons.mpr ⟨(Or.inr ⟨by decide, _, hw _ q383, _, en_c E (k := 45) rfl, va_Nc.moved hs.1.alike (en_n E 68 rfl)⟩), (List.forall_mem_nil _)⟩)⟩
  have h46 : ax_ho G M_X1_assemble 5 46 none := ⟨_, en_c E (k := 46) rfl, fun s args hs hw => (List.forall_mem_cons.mpr ⟨(Or.inr ⟨by decide, _, hw _ q383, _, en_c E (k := 46) rfl, va_Nc.moved hs.1.alike (en_n E 60 rfl)⟩), (List.forall_mem_nil _)⟩)⟩
  intro k o h
  dsimp only at h
  split at h
  · rename_i hk
    cases h
    simp only [List.mem_cons, List.not_mem_nil, or_false] at hk
    rcases hk with rfl
    exact h28
  ·
    split at h
    · rename_i hk
      cases h
      simp only [List.mem_cons, List.not_mem_nil, or_false] at hk
      rcases hk with rfl | rfl | rfl | rfl | rfl | rfl | rfl | rfl | rfl | rfl | rfl
      · exact h18
      · exact h0
      · exact h6
      · exact h7
      · exact h32
      · exact h33
      · exact h34
      · exact h35
      · exact h44
      · exact h45
      · exact h46
    · cases h
theorem hok_182 (E : ax_EN G l) : ax_hok G M_X1_assemble 30 hd_0 := by
  have hB := en_B E
  have h18 : ax_ho G M_X1_assemble 30 18 none := ⟨_, en_c E (k := 18) rfl, fun s args hs hw => (List.forall_mem_cons.mpr ⟨(Or.inl rfl), (List.forall_mem_nil _)⟩)⟩
  have h0 : ax_ho G M_X1_assemble 30 0 none := ⟨_, en_c E (k := 0) rfl, fun s args hs hw => (List.forall_mem_cons.mpr ⟨(Or.inl rfl), (List.forall_mem_nil _)⟩)⟩
  have h6 : ax_ho G M_X1_assemble 30 6 none := ⟨_, en_c E (k := 6) rfl, fun s args hs hw => (List.forall_mem_cons.mpr ⟨(Or.inl rfl), (List.forall_mem_nil _)⟩)⟩
  have h7 : ax_ho G M_X1_assemble 30 7 none := ⟨_, en_c E (k := 7) rfl, fun s args hs hw => (List.forall_mem_cons.mpr ⟨(Or.inl rfl), (List.forall_mem_nil _)⟩)⟩
  have h28 : ax_ho G M_X1_assemble 30 28 none := ⟨_, en_c E (k := 28) rfl, fun s args hs hw => (List.forall_mem_cons.mpr ⟨(Or.inl rfl), (List.forall_mem_nil _)⟩)⟩
  have h32 : ax_ho G M_X1_assemble 30 32 none := ⟨_, en_c E (k := 32) rfl, fun s args hs hw => (List.forall_mem_cons.mpr ⟨(Or.inl rfl), (List.forall_mem_nil _)⟩)⟩
  have h33 : ax_ho G M_X1_assemble 30 33 none := ⟨_, en_c E (k := 33) rfl, fun s args hs hw => (List.forall_mem_cons.mpr ⟨(Or.inl rfl), (List.forall_mem_nil _)⟩)⟩
  have h34 : ax_ho G M_X1_assemble 30 34 none := ⟨_, en_c E (k := 34) rfl, fun s args hs hw => (List.forall_mem_cons.mpr ⟨(Or.inl rfl), (List.forall_mem_nil _)⟩)⟩
  have h35 : ax_ho G M_X1_assemble 30 35 none := ⟨_, en_c E (k := 35) rfl, fun s args hs hw => (List.forall_mem_cons.mpr ⟨(Or.inl rfl), (List.forall_mem_nil _)⟩)⟩
  have h44 : ax_ho G M_X1_assemble 30 44 none := ⟨_, en_c E (k := 44) rfl, fun s args hs hw => (List.forall_mem_cons.mpr ⟨(Or.inl rfl), (List.forall_mem_nil _)⟩)⟩
  have h45 : ax_ho G M_X1_assemble 30 45 none := ⟨_, en_c E (k := 45) rfl, fun s args hs hw => (List.forall_mem_cons.mpr ⟨(Or.inl rfl), (List.forall_mem_nil _)⟩)⟩
  have h46 : ax_ho G M_X1_assemble 30 46 none := ⟨_, en_c E (k := 46) rfl, fun s args hs hw => (List.forall_mem_cons.mpr ⟨(Or.inl rfl), (List.forall_mem_nil _)⟩)⟩
  intro k o h
  unfold hd_0 at h
  split at h
  · rename_i hk
    cases h
    simp only [List.mem_cons, List.not_mem_nil, or_false] at hk
    rcases hk with rfl | rfl | rfl | rfl | rfl | rfl | rfl | rfl | rfl | rfl | rfl | rfl
    · exact h18
    · exact h0
    · exact h6
    · exact h7
    · exact h28
    · exact h32
    · exact h33
    · exact h34
    · exact h35
    · exact h44
    · exact h45
    · exact h46
  · cases h
theorem hok_303 (E : ax_EN G l) : ax_hok G M_X2_make 12 hd_0 := by
  have hB := en_B E
  have h18 : ax_ho G M_X2_make 12 18 none := ⟨_, en_c E (k := 18) rfl, fun s args hs hw => (List.forall_mem_cons.mpr ⟨(Or.inl rfl), (List.forall_mem_cons.mpr ⟨(Or.inl rfl), (List.forall_mem_cons.mpr ⟨(Or.inl rfl), (List.forall_mem_cons.mpr ⟨(Or.inl rfl), (List.forall_mem_nil _)⟩)⟩)⟩)⟩)⟩
  have h0 : ax_ho G M_X2_make 12 0 none := ⟨_, en_c E (k := 0) rfl, fun s args hs hw => (List.forall_mem_cons.mpr ⟨(Or.inl rfl), (List.forall_mem_cons.mpr ⟨(Or.inl rfl), (List.forall_mem_cons.mpr ⟨(Or.inl rfl), (List.forall_mem_cons.mpr ⟨(Or.inl rfl), (List.forall_mem_nil _)⟩)⟩)⟩)⟩)⟩
  have h6 : ax_ho G M_X2_make 12 6 none := ⟨_, en_c E (k := 6) rfl, fun s args hs hw => (List.forall_mem_cons.mpr ⟨(Or.inl rfl), (List.forall_mem_cons.mpr ⟨(Or.inl rfl), (List.forall_mem_cons.mpr ⟨(Or.inl rfl), (List.forall_mem_cons.mpr ⟨(Or.inl rfl), (List.forall_mem_nil _)⟩)⟩)⟩)⟩)⟩
  have h7 : ax_ho G M_X2_make 12 7 none := ⟨_, en_c E (k := 7) rfl, fun s args hs hw => (List.forall_mem_cons.mpr ⟨(Or.inl rfl), (List.forall_mem_cons.mpr ⟨(Or.inl rfl), (List.forall_mem_cons.mpr ⟨(Or.inl rfl), (List.forall_mem_cons.mpr ⟨(Or.inl rfl), (List.forall_mem_nil _)⟩)⟩)⟩)⟩)⟩
  have h28 : ax_ho G M_X2_make 12 28 none := ⟨_, en_c E (k := 28) rfl, fun s args hs hw => (List.forall_mem_cons.mpr ⟨(Or.inl rfl), (List.forall_mem_cons.mpr ⟨(Or.inl rfl), (List.forall_mem_cons.mpr ⟨(Or.inl rfl), (List.forall_mem_cons.mpr ⟨(Or.inl rfl), (List.forall_mem_nil _)⟩)⟩)⟩)⟩)⟩
  have h32 : ax_ho G M_X2_make 12 32 none := ⟨_, en_c E (k := 32) rfl, fun s args hs hw => (List.forall_mem_cons.mpr ⟨(Or.inl rfl), (List.forall_mem_cons.mpr ⟨(Or.inl rfl), (List.forall_mem_cons.mpr ⟨(Or.inl rfl), (List.forall_mem_cons.mpr ⟨(Or.inl rfl), (List.forall_mem_nil _)⟩)⟩)⟩)⟩)⟩
  have h33 : ax_ho G M_X2_make 12 33 none := ⟨_, en_c E (k := 33) rfl, fun s args hs hw => (List.forall_mem_cons.mpr ⟨(Or.inl rfl), (List.forall_mem_cons.mpr ⟨(Or.inl rfl), (List.forall_mem_cons.mpr ⟨(Or.inl rfl), (List.forall_mem_cons.mpr ⟨(Or.inl rfl), (List.forall_mem_nil _)⟩)⟩)⟩)⟩)⟩
  have h34 : ax_ho G M_X2_make 12 34 none := ⟨_, en_c E (k := 34) rfl, fun s args hs hw => (List.forall_mem_cons.mpr ⟨(Or.inl rfl), (List.forall_mem_cons.mpr ⟨(Or.inl rfl), (List.forall_mem_cons.mpr ⟨(Or.inl rfl), (List.forall_mem_cons.mpr ⟨(Or.inl rfl), (List.forall_mem_nil _)⟩)⟩)⟩)⟩)⟩
  have h35 : ax_ho G M_X2_make 12 35 none := ⟨_, en_c E (k := 35) rfl, fun s args hs hw => (List.forall_mem_cons.mpr ⟨(Or.inl rfl), (List.forall_mem_cons.mpr ⟨(Or.inl rfl), (List.forall_mem_cons.mpr ⟨(Or.inl rfl), (List.forall_mem_cons.mpr ⟨(Or.inl rfl), (List.forall_mem_nil _)⟩)⟩)⟩)⟩)⟩
  have h44 : ax_ho G M_X2_make 12 44 none := ⟨_, en_c E (k := 44) rfl, fun s args hs hw => (List.forall_mem_cons.mpr ⟨(Or.inl rfl), (List.forall_mem_cons.mpr ⟨(Or.inl rfl), (List.forall_mem_cons.mpr ⟨(Or.inl rfl), (List.forall_mem_cons.mpr ⟨(Or.inl rfl), (List.forall_mem_nil _)⟩)⟩)⟩)⟩)⟩
  have h45 : ax_ho G M_X2_make 12 45 none := ⟨_, en_c E (k := 45) rfl, fun s args hs hw => (List.forall_mem_cons.mpr ⟨(Or.inl rfl), (List.forall_mem_cons.mpr ⟨(Or.inl rfl), (List.forall_mem_cons.mpr ⟨(Or.inl rfl), (List.forall_mem_cons.mpr ⟨(Or.inl rfl), (List.forall_mem_nil _)⟩)⟩)⟩)⟩)⟩
  have h46 : ax_ho G M_X2_make 12 46 none := ⟨_, en_c E (k := 46) rfl, fun s args hs hw => (List.forall_mem_cons.mpr ⟨(Or.inl rfl), (List.forall_mem_cons.mpr ⟨(Or.inl rfl), (List.forall_mem_cons.mpr ⟨(Or.inl rfl), (List.forall_mem_cons.mpr ⟨(Or.inl rfl), (List.forall_mem_nil _)⟩)⟩)⟩)⟩)⟩
  intro k o h
  unfold hd_0 at h
  split at h
  · rename_i hk
    cases h
    simp only [List.mem_cons, List.not_mem_nil, or_false] at hk
    rcases hk with rfl | rfl | rfl | rfl | rfl | rfl | rfl | rfl | rfl | rfl | rfl | rfl
    · exact h18
    · exact h0
    · exact h6
    · exact h7
    · exact h28
    · exact h32
    · exact h33
    · exact h34
    · exact h35
    · exact h44
    · exact h45
    · exact h46
  · cases h
theorem hok_306 (E : ax_EN G l) : ax_hok G M_X2_make 51 (fun k : Nat => if k ∈ [32, 35] then some (some 77) else if k ∈ [33, 34] then some (some 57) else if k ∈ [18, 0, 6, 7, 28, 44, 45, 46] then some none else none) := by
  have hB := en_B E
  have h18 : ax_ho G M_X2_make 51 18 none := ⟨_, en_c E (k := 18) rfl, fun s args hs hw => (List.forall_mem_cons.mpr ⟨(Or.inr ⟨by decide, _, hw _ q2028, _, en_c E (k := 18) rfl, va_Nc.moved hs.1.alike (en_n E 40 rfl)⟩), (List.forall_mem_cons.mpr ⟨(Or.inr ⟨by decide, _, hw _ q2029, _, en_c E (k := 18) rfl, va_Nc.moved hs.1.alike (en_n E 41 rfl)⟩), (List.forall_mem_cons.mpr ⟨(Or.inr ⟨by decide, _, hw _ q2030, _, en_c E (k := 18) rfl, va_Nc.moved hs.1.alike (en_n E 42 rfl)⟩), (List.forall_mem_cons.mpr ⟨(Or.inr ⟨by decide, _, hw _ q2031, _, en_c E (k := 18) rfl, va_Nc.moved hs.1.alike (en_n E 43 rfl)⟩), (List.forall_mem_nil _)⟩)⟩)⟩)⟩)⟩
  have h0 : ax_ho G M_X2_make 51 0 none := ⟨_, en_c E (k := 0) rfl, fun s args hs hw => (List.forall_mem_cons.mpr ⟨(Or.inr ⟨by decide, _, hw _ q2028, _, en_c E (k := 0) rfl, va_Nc.moved hs.1.alike (en_n E 48 rfl)⟩), (List.forall_mem_cons.mpr ⟨(Or.inr ⟨by decide, _, hw _ q2029, _, en_c E (k := 0) rfl, va_Nc.moved hs.1.alike (en_n E 49 rfl)⟩), (List.forall_mem_cons.mpr ⟨(Or.inr ⟨by decide, _, hw _ q2030, _, en_c E (k := 0) rfl, va_Nc.moved hs.1.alike (en_n E 50 rfl)⟩), (List.forall_mem_cons.mpr ⟨(Or.inr ⟨by decide, _, hw _ q2031, _, en_c E (k := 0) rfl, va_Nc.moved hs.1.alike (en_n E 51 rfl)⟩), (List.forall_mem_nil _)⟩)⟩)⟩)⟩)⟩
  have h6 : ax_ho G M_X2_make 51 6 none := ⟨_, en_c E (k := 6) rfl, fun s args hs hw => (List.forall_mem_cons.mpr ⟨(Or.inr ⟨by decide, _, hw _ q2028, _, en_c E (k := 6) rfl, va_Nc.moved hs.1.alike (en_n E 56 rfl)⟩), (List.forall_mem_cons.mpr ⟨(Or.inr ⟨by decide, _, hw _ q2029, _, en_c E (k := 6) rfl, va_Nc.moved hs.1.alike (en_n E 57 rfl)⟩), (List.forall_mem_cons.mpr ⟨(Or.inr ⟨by decide, _, hw _ q2030, _, en_c E (k := 6) rfl, va_Nc.moved hs.1.alike (en_n E 58 rfl)⟩), (List.forall_mem_cons.mpr ⟨(Or.inr ⟨by decide, _, hw _ q2031, _, en_c E (k := 6) rfl, va_Nc.moved hs.1.alike (en_n E 59 rfl)⟩), (List.forall_mem_nil _)⟩)⟩)⟩)⟩)⟩
  have h7 : ax_ho G M_X2_make 51 7 none := ⟨_, en_c E (k := 7) rfl, fun s args hs hw => (List.forall_mem_cons.mpr ⟨(Or.inr ⟨by decide, _, hw _ q2028, _, en_c E (k := 7) rfl, va_Nc.moved hs.1.alike (en_n E 64 rfl)⟩), (List.forall_mem_cons.mpr ⟨(Or.inr ⟨by decide, _, hw _ q2029, _, en_c E (k := 7) rfl, va_Nc.moved hs.1.alike (en_n E 65 rfl)⟩), (List.forall_mem_cons.mpr ⟨(Or.inr ⟨by decide, _, hw _ q2030, _, en_c E (k := 7) rfl, va_Nc.moved hs.1.alike (en_n E 66 rfl)⟩), (List.forall_mem_cons.mpr ⟨(Or.inr ⟨by decide, _, hw _ q2031, _, en_c E (k := 7) rfl, va_Nc.moved hs.1.alike (en_n E 67 rfl)⟩), (List.forall_mem_nil _)⟩)⟩)⟩)⟩)⟩
  have h28 : ax_ho G M_X2_make 51 28 none := ⟨_, en_c E (k := 28) rfl, fun s args hs hw => (List.forall_mem_cons.mpr ⟨(Or.inr ⟨by decide, _, hw _ q2028, _, en_c E (k := 28) rfl, va_Nc.moved hs.1.alike (en_n E 32 rfl)⟩), (List.forall_mem_cons.mpr ⟨(Or.inr ⟨by decide, _, hw _ q2029, _, en_c E (k := 28) rfl, va_Nc.moved hs.1.alike (en_n E 33 rfl)⟩), (List.forall_mem_cons.mpr ⟨(Or.inr ⟨by decide, _, hw _ q2030, _, en_c E (k := 28) rfl, va_Nc.moved hs.1.alike (en_n E 34 rfl)⟩), (List.forall_mem_cons.mpr ⟨(Or.inr ⟨by decide, _, hw _ q2031, _, en_c E (k := 28) rfl, va_Nc.moved hs.1.alike (en_n E 35 rfl)⟩), (List.forall_mem_nil _)⟩)⟩)⟩)⟩)⟩
  have h32 : ax_ho G M_X2_make 51 32 (some 77) := ⟨_, en_c E (k := 32) rfl, fun s args hs hw => ⟨(tableOf [(50, 54, 57, 147), (50, 54, 57, 149)]), _, (tableOf [(50, 54, 77, 157)]), "KernelGym$NoStack", rfl, (List.forall_mem_cons.mpr ⟨(Or.inr ⟨by decide, _, hw _ q2028, _, en_c E (k := 32) rfl, va_Nc.moved hs.1.alike (en_n E 16 rfl)⟩), (List.forall_mem_cons.mpr ⟨(Or.inr ⟨by decide, _, hw _ q2029, _, en_c E (k := 32) rfl, va_Nc.moved hs.1.alike (en_n E 17 rfl)⟩), (List.forall_mem_nil _)⟩)⟩), rfl, by decide, rfl, hw _ q2030, (ax_mv hB hs hw q2121 rfl)⟩⟩
  have h33 : ax_ho G M_X2_make 51 33 (some 57) := ⟨_, en_c E (k := 33) rfl, fun s args hs hw => ⟨(tableOf []), _, (tableOf [(50, 54, 57, 149), (50, 54, 77, 155), (50, 54, 77, 157)]), "KernelGym$NoAddress", rfl, (List.forall_mem_nil _), rfl, by decide, rfl, hw _ q2028, (ax_mv hB hs hw q2152 rfl)⟩⟩
  have h34 : ax_ho G M_X2_make 51 34 (some 57) := ⟨_, en_c E (k := 34) rfl, fun s args hs hw => ⟨(tableOf [(50, 54, 57, 147)]), _, (tableOf [(50, 54, 77, 155), (50, 54, 77, 157)]), "KernelGym$NoOperation", rfl, (List.forall_mem_cons.mpr ⟨(Or.inr ⟨by decide, _, hw _ q2028, _, en_c E (k := 34) rfl, va_Nc.moved hs.1.alike (en_n E 8 rfl)⟩), (List.forall_mem_nil _)⟩), rfl, by decide, rfl, hw _ q2029, (ax_mv hB hs hw q2172 rfl)⟩⟩
  have h35 : ax_ho G M_X2_make 51 35 (some 77) := ⟨_, en_c E (k := 35) rfl, fun s args hs hw => ⟨(tableOf [(50, 54, 57, 147), (50, 54, 57, 149), (50, 54, 77, 155)]), _, (tableOf []), "KernelGym$NoTape", rfl, (List.forall_mem_cons.mpr ⟨(Or.inr ⟨by decide, _, hw _ q2028, _, en_c E (k := 35) rfl, va_Nc.moved hs.1.alike (en_n E 24 rfl)⟩), (List.forall_mem_cons.mpr ⟨(Or.inr ⟨by decide, _, hw _ q2029, _, en_c E (k := 35) rfl, va_Nc.moved hs.1.alike (en_n E 25 rfl)⟩), (List.forall_mem_cons.mpr ⟨(Or.inr ⟨by decide, _, hw _ q2030, _, en_c E (k := 35) rfl, va_Nc.moved hs.1.alike (en_n E 26 rfl)⟩), (List.forall_mem_nil _)⟩)⟩)⟩), rfl, by decide, rfl, hw _ q2031, (ax_mv hB hs hw q2225 rfl)⟩⟩
  have h44 : ax_ho G M_X2_make 51 44 none := ⟨_, en_c E (k := 44) rfl, fun s args hs hw => (List.forall_mem_cons.mpr ⟨(Or.inr ⟨by decide, _, hw _ q2028, _, en_c E (k := 44) rfl, va_Nc.moved hs.1.alike (en_n E 48 rfl)⟩), (List.forall_mem_cons.mpr ⟨(Or.inr ⟨by decide, _, hw _ q2029, _, en_c E (k := 44) rfl, va_Nc.moved hs.1.alike (en_n E 49 rfl)⟩), (List.forall_mem_cons.mpr ⟨(Or.inr ⟨by decide, _, hw _ q2030, _, en_c E (k := 44) rfl, va_Nc.moved hs.1.alike (en_n E 50 rfl)⟩), (List.forall_mem_cons.mpr ⟨(Or.inr ⟨by decide, _, hw _ q2031, _, en_c E (k := 44) rfl, va_Nc.moved hs.1.alike (en_n E 51 rfl)⟩), (List.forall_mem_nil _)⟩)⟩)⟩)⟩)⟩
  have h45 : ax_ho G M_X2_make 51 45 none := ⟨_, en_c E (k := 45) rfl, fun s args hs hw => (List.forall_mem_cons.mpr ⟨(Or.inr ⟨by decide, _, hw _ q2028, _, en_c E (k := 45) rfl, va_Nc.moved hs.1.alike (en_n E 64 rfl)⟩), (List.forall_mem_cons.mpr ⟨(Or.inr ⟨by decide, _, hw _ q2029, _, en_c E (k := 45) rfl, va_Nc.moved hs.1.alike (en_n E 65 rfl)⟩), (List.forall_mem_cons.mpr ⟨(Or.inr ⟨by decide, _, hw _ q2030, _, en_c E (k := 45) rfl, va_Nc.moved hs.1.alike (en_n E 66 rfl)⟩), (List.forall_mem_cons.mpr ⟨(Or.inr ⟨by decide, _, hw _ q2031, _, en_c E (k := 45) rfl, va_Nc.moved hs.1.alike (en_n E 67 rfl)⟩), (List.forall_mem_nil _)⟩)⟩)⟩)⟩)⟩
  have h46 : ax_ho G M_X2_make 51 46 none := ⟨_, en_c E (k := 46) rfl, fun s args hs hw => (List.forall_mem_cons.mpr ⟨(Or.inr ⟨by decide, _, hw _ q2028, _, en_c E (k := 46) rfl, va_Nc.moved hs.1.alike (en_n E 56 rfl)⟩), (List.forall_mem_cons.mpr ⟨(Or.inr ⟨by decide, _, hw _ q2029, _, en_c E (k := 46) rfl, va_Nc.moved hs.1.alike (en_n E 57 rfl)⟩), (List.forall_mem_cons.mpr ⟨(Or.inr ⟨by decide, _, hw _ q2030, _, en_c E (k := 46) rfl, va_Nc.moved hs.1.alike (en_n E 58 rfl)⟩), (List.forall_mem_cons.mpr ⟨(Or.inr ⟨by decide, _, hw _ q2031, _, en_c E (k := 46) rfl, va_Nc.moved hs.1.alike (en_n E 59 rfl)⟩), (List.forall_mem_nil _)⟩)⟩)⟩)⟩)⟩
  intro k o h
  dsimp only at h
  split at h
  · rename_i hk
    cases h
    simp only [List.mem_cons, List.not_mem_nil, or_false] at hk
    rcases hk with rfl | rfl
    · exact h32
    · exact h35
  ·
    split at h
    · rename_i hk
      cases h
      simp only [List.mem_cons, List.not_mem_nil, or_false] at hk
      rcases hk with rfl | rfl
      · exact h33
      · exact h34
    ·
      split at h
      · rename_i hk
        cases h
        simp only [List.mem_cons, List.not_mem_nil, or_false] at hk
        rcases hk with rfl | rfl | rfl | rfl | rfl | rfl | rfl | rfl
        · exact h18
        · exact h0
        · exact h6
        · exact h7
        · exact h28
        · exact h44
        · exact h45
        · exact h46
      · cases h
end FLD
