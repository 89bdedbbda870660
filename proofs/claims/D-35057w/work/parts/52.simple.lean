/-! the simple instructions are sound, printed by gen/emit52.py -/
section SIM
variable {G : ax_G} {l : Launch} {Y : ax_Y} {M : ax_M} {pc : Nat}
theorem k_iconst {n : Int} {v : Int32} (hd : decode M.2.1 pc = .ok (.iconst n, 1)) (hv : Int32.ofInt n = v) : ax_Snd G l Y M pc (S_push (.int v) (pc + 1)) := by
  refine ax_snd_simple fun K L st h o ho => ?_
  cases ho
  exact ⟨_, _, _, rfl, fun p e R s m args below meth c CX hRl hRf H locs ls cells slots Q X V _ _ k => lv_iconst CX.1 CX.2.1 hd hv (k ls V)⟩
theorem k_bipush {n : Int} {v : Int32} (hd : decode M.2.1 pc = .ok (.bipush n, 2)) (hv : (Int8.ofInt n).toInt32 = v) : ax_Snd G l Y M pc (S_push (.int v) (pc + 2)) := by
  refine ax_snd_simple fun K L st h o ho => ?_
  cases ho
  exact ⟨_, _, _, rfl, fun p e R s m args below meth c CX hRl hRf H locs ls cells slots Q X V _ _ k => lv_bipush CX.1 CX.2.1 hd hv (k ls V)⟩
theorem k_sipush {n : Int} {v : Int32} (hd : decode M.2.1 pc = .ok (.sipush n, 3)) (hv : (Int16.ofInt n).toInt32 = v) : ax_Snd G l Y M pc (S_push (.int v) (pc + 3)) := by
  refine ax_snd_simple fun K L st h o ho => ?_
  cases ho
  exact ⟨_, _, _, rfl, fun p e R s m args below meth c CX hRl hRf H locs ls cells slots Q X V _ _ k => lv_sipush CX.1 CX.2.1 hd hv (k ls V)⟩
theorem k_lconst {n : Fin 2} {v : Int64} (hd : decode M.2.1 pc = .ok (.lconst n, 1)) (hv : Int64.ofNat (n : Nat) = v) : ax_Snd G l Y M pc (S_push (.long v) (pc + 1)) := by
  refine ax_snd_simple fun K L st h o ho => ?_
  cases ho
  exact ⟨_, _, _, rfl, fun p e R s m args below meth c CX hRl hRf H locs ls cells slots Q X V _ _ k => lv_lconst CX.1 CX.2.1 hd hv (k ls V)⟩
theorem k_null (hd : decode M.2.1 pc = .ok (.aconst_null, 1)) : ax_Snd G l Y M pc (S_push .null (pc + 1)) := by
  refine ax_snd_simple fun K L st h o ho => ?_
  cases ho
  exact ⟨_, _, _, rfl, fun p e R s m args below meth c CX hRl hRf H locs ls cells slots Q X V _ _ k => lv_null CX.1 CX.2.1 hd (k ls V)⟩
theorem k_ldc {index : Nat} {v : Int32} (hw : (Jvm.Cond.constant M.1 index v) ∈ lw_all) (hd : decode M.2.1 pc = .ok (.ldc index, 2)) : ax_Snd G l Y M pc (S_push (.int v) (pc + 2)) := by
  refine ax_snd_simple fun K L st h o ho => ?_
  cases ho
  exact ⟨_, _, _, rfl, fun p e R s m args below meth c CX hRl hRf H locs ls cells slots Q X V _ _ k => lv_ldc CX.1 CX.2.1 CX.2.2.2.1 (CX.2.2.2.2.1 _ hw) hd (k ls V)⟩
theorem k_ldcw {index : Nat} {v : Int32} (hw : (Jvm.Cond.constant M.1 index v) ∈ lw_all) (hd : decode M.2.1 pc = .ok (.ldc_w index, 3)) : ax_Snd G l Y M pc (S_push (.int v) (pc + 3)) := by
  refine ax_snd_simple fun K L st h o ho => ?_
  cases ho
  refine ⟨_, _, _, rfl, fun p e R s m args below meth c CX hRl hRf H locs ls cells slots Q X V _ _ k => ?_⟩
  intro T hT Z
  obtain ⟨t, a1, b1⟩ := k ls V T hT Z
  exact ⟨t, va_ldcwI Z CX.1 CX.2.2.2.1 (CX.2.2.2.2.1 _ hw) (g := F0 m pc ls (st.map (ax_v G))) rfl (by rw [CX.2.1]; exact hd) t a1, b1⟩
theorem k_ldc2 {index : Nat} {v : Int64} (hw : (Jvm.Cond.constantLong M.1 index v) ∈ lw_all) (hd : decode M.2.1 pc = .ok (.ldc2_w index, 3)) : ax_Snd G l Y M pc (S_push (.long v) (pc + 3)) := by
  refine ax_snd_simple fun K L st h o ho => ?_
  cases ho
  exact ⟨_, _, _, rfl, fun p e R s m args below meth c CX hRl hRf H locs ls cells slots Q X V _ _ k => lv_ldc2 CX.1 CX.2.1 CX.2.2.2.1 (CX.2.2.2.2.1 _ hw) hd (k ls V)⟩
theorem k_iload {i : Nat} (hd : decode M.2.1 pc = .ok (.iload i, 2)) : ax_Snd G l Y M pc (S_iload i (pc + 2)) := by
  refine ax_snd_simple fun K L st h o ho => ?_
  obtain ⟨x, hx, hy⟩ := Option.bind_eq_some_iff.mp ho
  cases hy
  exact ⟨_, _, _, rfl, fun p e R s m args below meth c CX hRl hRf H locs ls cells slots Q X V _ _ k => lv_iload CX.1 CX.2.1 hd (ax_LV_at V (ax_li_get L i x hx)) (k ls V)⟩
theorem k_iload_n {q : Fin 4} {i : Nat} (hd : decode M.2.1 pc = .ok (.iload_n q, 1)) (hi : (q : Nat) = i) : ax_Snd G l Y M pc (S_iload i (pc + 1)) := by
  refine ax_snd_simple fun K L st h o ho => ?_
  obtain ⟨x, hx, hy⟩ := Option.bind_eq_some_iff.mp ho
  cases hy
  exact ⟨_, _, _, rfl, fun p e R s m args below meth c CX hRl hRf H locs ls cells slots Q X V _ _ k => lv_iload_n CX.1 CX.2.1 hd hi (ax_LV_at V (ax_li_get L i x hx)) (k ls V)⟩
theorem k_lload {i : Nat} (hd : decode M.2.1 pc = .ok (.lload i, 2)) : ax_Snd G l Y M pc (S_lload i (pc + 2)) := by
  refine ax_snd_simple fun K L st h o ho => ?_
  obtain ⟨x, hx, hy⟩ := Option.bind_eq_some_iff.mp ho
  cases hy
  exact ⟨_, _, _, rfl, fun p e R s m args below meth c CX hRl hRf H locs ls cells slots Q X V _ _ k => lv_lload CX.1 CX.2.1 hd (ax_LV_at V (ax_ll2_get L i x hx)) (k ls V)⟩
theorem k_lload_n {q : Fin 4} {i : Nat} (hd : decode M.2.1 pc = .ok (.lload_n q, 1)) (hi : (q : Nat) = i) : ax_Snd G l Y M pc (S_lload i (pc + 1)) := by
  refine ax_snd_simple fun K L st h o ho => ?_
  obtain ⟨x, hx, hy⟩ := Option.bind_eq_some_iff.mp ho
  cases hy
  exact ⟨_, _, _, rfl, fun p e R s m args below meth c CX hRl hRf H locs ls cells slots Q X V _ _ k => lv_lload_n CX.1 CX.2.1 hd hi (ax_LV_at V (ax_ll2_get L i x hx)) (k ls V)⟩
theorem k_aload {i : Nat} (hd : decode M.2.1 pc = .ok (.aload i, 2)) : ax_Snd G l Y M pc (S_aload i (pc + 2)) := by
  refine ax_snd_simple fun K L st h o ho => ?_
  obtain ⟨x, hx, hy⟩ := Option.bind_eq_some_iff.mp ho
  cases hy
  obtain ⟨g1, g2⟩ := ax_la_get L i x hx
  refine ⟨_, _, _, rfl, fun p e R s m args below meth c CX hRl hRf H locs ls cells slots Q X V _ _ k => ?_⟩
  have g3 := ax_LV_at V g1
  rcases g2 with e | ⟨a, e⟩
  · subst e
    exact lv_aloadN CX.1 CX.2.1 hd g3 (k ls V)
  · subst e
    exact lv_aload CX.1 CX.2.1 hd g3 (k ls V)
theorem k_aload_n {q : Fin 4} {i : Nat} (hd : decode M.2.1 pc = .ok (.aload_n q, 1)) (hi : (q : Nat) = i) : ax_Snd G l Y M pc (S_aload i (pc + 1)) := by
  refine ax_snd_simple fun K L st h o ho => ?_
  obtain ⟨x, hx, hy⟩ := Option.bind_eq_some_iff.mp ho
  cases hy
  obtain ⟨g1, g2⟩ := ax_la_get L i x hx
  refine ⟨_, _, _, rfl, fun p e R s m args below meth c CX hRl hRf H locs ls cells slots Q X V _ _ k => ?_⟩
  have g3 := ax_LV_at V g1
  rcases g2 with e | ⟨a, e⟩
  · subst e
    exact lv_aload_nN CX.1 CX.2.1 hd hi g3 (k ls V)
  · subst e
    exact lv_aload_n CX.1 CX.2.1 hd hi g3 (k ls V)
theorem ax_LV_sto {ls' : Array Slot} {n : Nat} {L : ax_L} {i : Nat} {v : Value} (h : lv_has ls' n ((i, ax_v G v) :: (ax_pr G 0 L).filter (fun q => !(q.1 == i) && !(q.1 + 1 == i && q.2.category == 2)))) : ax_LV G ls' n (ax_sto L i v) := by
  refine ax_LV_of h fun j w hw => ?_
  rcases ax_sto_get L i v j w hw with ⟨e1, e2, -⟩ | ⟨e1, e2, e3⟩
  · subst e1; subst e2
    exact List.mem_cons_self
  · refine List.mem_cons_of_mem _ (List.mem_filter.mpr ⟨(ax_pr_mem G L 0 j _).mpr ⟨j, w, by omega, e2, rfl⟩, ?_⟩)
    by_cases z : j + 1 = i
    · have : ¬ w.category = 2 := fun q => e3 ⟨z, q⟩
      simp [e1, ax_v_cat, this]
    · simp [e1, z]
theorem ax_LV_sto2 {ls' : Array Slot} {n : Nat} {L : ax_L} {i : Nat} {v : Value} (h : lv_has ls' n ((i, ax_v G v) :: (ax_pr G 0 L).filter (fun q => !(q.1 == i) && (!(q.1 == i + 1) && !(q.1 + 1 == i && q.2.category == 2))))) : ax_LV G ls' n (ax_sto2 L i v) := by
  refine ax_LV_of h fun j w hw => ?_
  rcases ax_sto2_get L i v j w hw with ⟨e1, e2, -⟩ | ⟨e1, e0, e2, e3⟩
  · subst e1; subst e2
    exact List.mem_cons_self
  · refine List.mem_cons_of_mem _ (List.mem_filter.mpr ⟨(ax_pr_mem G L 0 j _).mpr ⟨j, w, by omega, e2, rfl⟩, ?_⟩)
    by_cases z : j + 1 = i
    · have : ¬ w.category = 2 := fun q => e3 ⟨z, q⟩
      simp [e1, e0, ax_v_cat, this]
    · simp [e1, e0, z]
theorem k_istore {i : Nat} (hd : decode M.2.1 pc = .ok (.istore i, 2)) (hn : i < M.2.2.1) : ax_Snd G l Y M pc (S_istore i (pc + 2)) := by
  refine ax_snd_simple fun K L st h o ho => ?_
  unfold S_istore at ho
  split at ho
  · cases ho
    exact ⟨_, _, _, rfl, fun p e R s m args below meth c CX hRl hRf H locs ls cells slots Q X V _ _ k => lv_istore CX.1 CX.2.1 hd (ax_LV_has V) hn rfl (fun ls' hl' => k ls' (ax_LV_sto hl'))⟩
  · cases ho
theorem k_istore_n {q : Fin 4} {i : Nat} (hd : decode M.2.1 pc = .ok (.istore_n q, 1)) (hi : (q : Nat) = i) (hn : i < M.2.2.1) : ax_Snd G l Y M pc (S_istore i (pc + 1)) := by
  refine ax_snd_simple fun K L st h o ho => ?_
  unfold S_istore at ho
  split at ho
  · cases ho
    exact ⟨_, _, _, rfl, fun p e R s m args below meth c CX hRl hRf H locs ls cells slots Q X V _ _ k => lv_istore_n CX.1 CX.2.1 hd hi (ax_LV_has V) hn rfl (fun ls' hl' => k ls' (ax_LV_sto hl'))⟩
  · cases ho
theorem k_lstore {i : Nat} (hd : decode M.2.1 pc = .ok (.lstore i, 2)) (hn : i + 1 < M.2.2.1) : ax_Snd G l Y M pc (S_lstore i (pc + 2)) := by
  refine ax_snd_simple fun K L st h o ho => ?_
  unfold S_lstore at ho
  split at ho
  · cases ho
    exact ⟨_, _, _, rfl, fun p e R s m args below meth c CX hRl hRf H locs ls cells slots Q X V _ _ k => lv_lstore CX.1 CX.2.1 hd (ax_LV_has V) hn rfl (fun ls' hl' => k ls' (ax_LV_sto2 hl'))⟩
  · cases ho
theorem k_lstore_n {q : Fin 4} {i : Nat} (hd : decode M.2.1 pc = .ok (.lstore_n q, 1)) (hi : (q : Nat) = i) (hn : i + 1 < M.2.2.1) : ax_Snd G l Y M pc (S_lstore i (pc + 1)) := by
  refine ax_snd_simple fun K L st h o ho => ?_
  unfold S_lstore at ho
  split at ho
  · cases ho
    exact ⟨_, _, _, rfl, fun p e R s m args below meth c CX hRl hRf H locs ls cells slots Q X V _ _ k => lv_lstore_n CX.1 CX.2.1 hd hi (ax_LV_has V) hn rfl (fun ls' hl' => k ls' (ax_LV_sto2 hl'))⟩
  · cases ho
theorem k_astore {i : Nat} (hd : decode M.2.1 pc = .ok (.astore i, 2)) (hn : i < M.2.2.1) : ax_Snd G l Y M pc (S_astore i (pc + 2)) := by
  refine ax_snd_simple fun K L st h o ho => ?_
  unfold S_astore at ho
  split at ho
  · cases ho
    exact ⟨_, _, _, rfl, fun p e R s m args below meth c CX hRl hRf H locs ls cells slots Q X V _ _ k => lv_astore CX.1 CX.2.1 hd (ax_LV_has V) hn rfl (fun ls' hl' => k ls' (ax_LV_sto hl'))⟩
  · cases ho
    exact ⟨_, _, _, rfl, fun p e R s m args below meth c CX hRl hRf H locs ls cells slots Q X V _ _ k => lv_astoreN CX.1 CX.2.1 hd (ax_LV_has V) hn rfl (fun ls' hl' => k ls' (ax_LV_sto hl'))⟩
  · cases ho
theorem k_astore_n {q : Fin 4} {i : Nat} (hd : decode M.2.1 pc = .ok (.astore_n q, 1)) (hi : (q : Nat) = i) (hn : i < M.2.2.1) : ax_Snd G l Y M pc (S_astore i (pc + 1)) := by
  refine ax_snd_simple fun K L st h o ho => ?_
  unfold S_astore at ho
  split at ho
  · cases ho
    exact ⟨_, _, _, rfl, fun p e R s m args below meth c CX hRl hRf H locs ls cells slots Q X V _ _ k => lv_astore_n CX.1 CX.2.1 hd hi (ax_LV_has V) hn rfl (fun ls' hl' => k ls' (ax_LV_sto hl'))⟩
  · cases ho
    exact ⟨_, _, _, rfl, fun p e R s m args below meth c CX hRl hRf H locs ls cells slots Q X V _ _ k => lv_astore_nN CX.1 CX.2.1 hd hi (ax_LV_has V) hn rfl (fun ls' hl' => k ls' (ax_LV_sto hl'))⟩
  · cases ho
theorem k_iinc {i : Nat} {n : Int} {k : Int32} (hd : decode M.2.1 pc = .ok (.iinc i n, 3)) (hk : Int32.ofInt n = k) (hn : i < M.2.2.1) : ax_Snd G l Y M pc (S_iinc i k (pc + 3)) := by
  refine ax_snd_simple fun K L st h o ho => ?_
  obtain ⟨x, hx, hy⟩ := Option.bind_eq_some_iff.mp ho
  cases hy
  refine ⟨_, _, _, rfl, fun p e R s m args below meth c CX hRl hRf H locs ls cells slots Q X V _ _ kk => ?_⟩
  obtain ⟨j, hj⟩ := List.getElem?_of_mem ((ax_pr_mem G L 0 i _).mpr ⟨i, .int x, by omega, ax_li_get L i x hx, rfl⟩)
  exact lv_iinc (v := x + k) CX.1 CX.2.1 hd (ax_LV_has V) hj (by rw [hk]) hn rfl (fun ls' hl' => kk ls' (ax_LV_sto (v := .int (x + k)) hl'))
theorem k_iadd (hd : decode M.2.1 pc = .ok (.iadd, 1)) : ax_Snd G l Y M pc (S_i2 (fun x y => x + y) (pc + 1)) := by
  refine ax_snd_simple fun K L st h o ho => ?_
  unfold S_i2 at ho
  split at ho
  · cases ho
    exact ⟨_, _, _, rfl, fun p e R s m args below meth c CX hRl hRf H locs ls cells slots Q X V _ _ k => lv_iadd CX.1 CX.2.1 hd (k ls V)⟩
  · cases ho
theorem k_isub (hd : decode M.2.1 pc = .ok (.isub, 1)) : ax_Snd G l Y M pc (S_i2 (fun x y => x - y) (pc + 1)) := by
  refine ax_snd_simple fun K L st h o ho => ?_
  unfold S_i2 at ho
  split at ho
  · cases ho
    exact ⟨_, _, _, rfl, fun p e R s m args below meth c CX hRl hRf H locs ls cells slots Q X V _ _ k => lv_isub CX.1 CX.2.1 hd (k ls V)⟩
  · cases ho
theorem k_imul (hd : decode M.2.1 pc = .ok (.imul, 1)) : ax_Snd G l Y M pc (S_i2 (fun x y => x * y) (pc + 1)) := by
  refine ax_snd_simple fun K L st h o ho => ?_
  unfold S_i2 at ho
  split at ho
  · cases ho
    exact ⟨_, _, _, rfl, fun p e R s m args below meth c CX hRl hRf H locs ls cells slots Q X V _ _ k => lv_imul CX.1 CX.2.1 hd (k ls V)⟩
  · cases ho
theorem k_iand (hd : decode M.2.1 pc = .ok (.iand, 1)) : ax_Snd G l Y M pc (S_i2 (fun x y => x &&& y) (pc + 1)) := by
  refine ax_snd_simple fun K L st h o ho => ?_
  unfold S_i2 at ho
  split at ho
  · cases ho
    exact ⟨_, _, _, rfl, fun p e R s m args below meth c CX hRl hRf H locs ls cells slots Q X V _ _ k => lv_iand CX.1 CX.2.1 hd (k ls V)⟩
  · cases ho
theorem k_ior (hd : decode M.2.1 pc = .ok (.ior, 1)) : ax_Snd G l Y M pc (S_i2 (fun x y => x ||| y) (pc + 1)) := by
  refine ax_snd_simple fun K L st h o ho => ?_
  unfold S_i2 at ho
  split at ho
  · cases ho
    exact ⟨_, _, _, rfl, fun p e R s m args below meth c CX hRl hRf H locs ls cells slots Q X V _ _ k => lv_ior CX.1 CX.2.1 hd (k ls V)⟩
  · cases ho
theorem k_ixor (hd : decode M.2.1 pc = .ok (.ixor, 1)) : ax_Snd G l Y M pc (S_i2 (fun x y => x ^^^ y) (pc + 1)) := by
  refine ax_snd_simple fun K L st h o ho => ?_
  unfold S_i2 at ho
  split at ho
  · cases ho
    exact ⟨_, _, _, rfl, fun p e R s m args below meth c CX hRl hRf H locs ls cells slots Q X V _ _ k => lv_ixor CX.1 CX.2.1 hd (k ls V)⟩
  · cases ho
theorem k_ishl (hd : decode M.2.1 pc = .ok (.ishl, 1)) : ax_Snd G l Y M pc (S_i2 (fun x y => x <<< (y &&& 31)) (pc + 1)) := by
  refine ax_snd_simple fun K L st h o ho => ?_
  unfold S_i2 at ho
  split at ho
  · cases ho
    exact ⟨_, _, _, rfl, fun p e R s m args below meth c CX hRl hRf H locs ls cells slots Q X V _ _ k => lv_ishl CX.1 CX.2.1 hd (k ls V)⟩
  · cases ho
theorem k_ishr (hd : decode M.2.1 pc = .ok (.ishr, 1)) : ax_Snd G l Y M pc (S_i2 (fun x y => x >>> (y &&& 31)) (pc + 1)) := by
  refine ax_snd_simple fun K L st h o ho => ?_
  unfold S_i2 at ho
  split at ho
  · cases ho
    exact ⟨_, _, _, rfl, fun p e R s m args below meth c CX hRl hRf H locs ls cells slots Q X V _ _ k => lv_ishr CX.1 CX.2.1 hd (k ls V)⟩
  · cases ho
theorem k_iushr (hd : decode M.2.1 pc = .ok (.iushr, 1)) : ax_Snd G l Y M pc (S_i2 (fun x y => (x.toUInt32 >>> (y.toUInt32 &&& Int32.toUInt32 31)).toInt32) (pc + 1)) := by
  refine ax_snd_simple fun K L st h o ho => ?_
  unfold S_i2 at ho
  split at ho
  · cases ho
    exact ⟨_, _, _, rfl, fun p e R s m args below meth c CX hRl hRf H locs ls cells slots Q X V _ _ k => lv_iushr CX.1 CX.2.1 hd rfl (k ls V)⟩
  · cases ho
theorem k_idiv (hd : decode M.2.1 pc = .ok (.idiv, 1)) : ax_Snd G l Y M pc (S_id (fun x y => x / y) (pc + 1)) := by
  refine ax_snd_simple fun K L st h o ho => ?_
  unfold S_id at ho
  split at ho
  · split at ho
    · cases ho
    · rename_i hne
      cases ho
      exact ⟨_, _, _, rfl, fun p e R s m args below meth c CX hRl hRf H locs ls cells slots Q X V _ _ k => lv_idiv CX.1 CX.2.1 hd hne (k ls V)⟩
  · cases ho
theorem k_irem (hd : decode M.2.1 pc = .ok (.irem, 1)) : ax_Snd G l Y M pc (S_id (fun x y => x - x / y * y) (pc + 1)) := by
  refine ax_snd_simple fun K L st h o ho => ?_
  unfold S_id at ho
  split at ho
  · split at ho
    · cases ho
    · rename_i hne
      cases ho
      exact ⟨_, _, _, rfl, fun p e R s m args below meth c CX hRl hRf H locs ls cells slots Q X V _ _ k => lv_irem CX.1 CX.2.1 hd hne (k ls V)⟩
  · cases ho
theorem k_ineg (hd : decode M.2.1 pc = .ok (.ineg, 1)) : ax_Snd G l Y M pc (S_i1 (fun x => -x) (pc + 1)) := by
  refine ax_snd_simple fun K L st h o ho => ?_
  unfold S_i1 at ho
  split at ho
  · cases ho
    exact ⟨_, _, _, rfl, fun p e R s m args below meth c CX hRl hRf H locs ls cells slots Q X V _ _ k => lv_ineg CX.1 CX.2.1 hd (k ls V)⟩
  · cases ho
theorem k_i2b (hd : decode M.2.1 pc = .ok (.i2b, 1)) : ax_Snd G l Y M pc (S_i1 (fun x => x.toInt8.toInt32) (pc + 1)) := by
  refine ax_snd_simple fun K L st h o ho => ?_
  unfold S_i1 at ho
  split at ho
  · cases ho
    exact ⟨_, _, _, rfl, fun p e R s m args below meth c CX hRl hRf H locs ls cells slots Q X V _ _ k => lv_i2b CX.1 CX.2.1 hd rfl (k ls V)⟩
  · cases ho
theorem k_i2c (hd : decode M.2.1 pc = .ok (.i2c, 1)) : ax_Snd G l Y M pc (S_i1 (fun x => (x.toUInt32 % 65536).toInt32) (pc + 1)) := by
  refine ax_snd_simple fun K L st h o ho => ?_
  unfold S_i1 at ho
  split at ho
  · cases ho
    exact ⟨_, _, _, rfl, fun p e R s m args below meth c CX hRl hRf H locs ls cells slots Q X V _ _ k => lv_i2c CX.1 CX.2.1 hd rfl (k ls V)⟩
  · cases ho
theorem k_i2l (hd : decode M.2.1 pc = .ok (.i2l, 1)) : ax_Snd G l Y M pc (S_i2l (pc + 1)) := by
  refine ax_snd_simple fun K L st h o ho => ?_
  unfold S_i2l at ho
  split at ho
  · cases ho
    exact ⟨_, _, _, rfl, fun p e R s m args below meth c CX hRl hRf H locs ls cells slots Q X V _ _ k => lv_i2l CX.1 CX.2.1 hd rfl (k ls V)⟩
  · cases ho
theorem k_l2i (hd : decode M.2.1 pc = .ok (.l2i, 1)) : ax_Snd G l Y M pc (S_l2i (pc + 1)) := by
  refine ax_snd_simple fun K L st h o ho => ?_
  unfold S_l2i at ho
  split at ho
  · cases ho
    exact ⟨_, _, _, rfl, fun p e R s m args below meth c CX hRl hRf H locs ls cells slots Q X V _ _ k => lv_l2i CX.1 CX.2.1 hd rfl (k ls V)⟩
  · cases ho
theorem k_lcmp (hd : decode M.2.1 pc = .ok (.lcmp, 1)) : ax_Snd G l Y M pc (S_lcmp (pc + 1)) := by
  refine ax_snd_simple fun K L st h o ho => ?_
  unfold S_lcmp at ho
  split at ho
  · cases ho
    exact ⟨_, _, _, rfl, fun p e R s m args below meth c CX hRl hRf H locs ls cells slots Q X V _ _ k => W.lcmp CX.1 CX.2.1 hd (k ls V)⟩
  · cases ho
theorem k_ladd (hd : decode M.2.1 pc = .ok (.ladd, 1)) : ax_Snd G l Y M pc (S_l2 (fun x y => x + y) (pc + 1)) := by
  refine ax_snd_simple fun K L st h o ho => ?_
  unfold S_l2 at ho
  split at ho
  · cases ho
    exact ⟨_, _, _, rfl, fun p e R s m args below meth c CX hRl hRf H locs ls cells slots Q X V _ _ k => lv_ladd CX.1 CX.2.1 hd (k ls V)⟩
  · cases ho
theorem k_lsub (hd : decode M.2.1 pc = .ok (.lsub, 1)) : ax_Snd G l Y M pc (S_l2 (fun x y => x - y) (pc + 1)) := by
  refine ax_snd_simple fun K L st h o ho => ?_
  unfold S_l2 at ho
  split at ho
  · cases ho
    exact ⟨_, _, _, rfl, fun p e R s m args below meth c CX hRl hRf H locs ls cells slots Q X V _ _ k => lv_lsub CX.1 CX.2.1 hd (k ls V)⟩
  · cases ho
theorem k_lmul (hd : decode M.2.1 pc = .ok (.lmul, 1)) : ax_Snd G l Y M pc (S_l2 (fun x y => x * y) (pc + 1)) := by
  refine ax_snd_simple fun K L st h o ho => ?_
  unfold S_l2 at ho
  split at ho
  · cases ho
    exact ⟨_, _, _, rfl, fun p e R s m args below meth c CX hRl hRf H locs ls cells slots Q X V _ _ k => lv_lmul CX.1 CX.2.1 hd (k ls V)⟩
  · cases ho
theorem k_land (hd : decode M.2.1 pc = .ok (.land, 1)) : ax_Snd G l Y M pc (S_l2 (fun x y => x &&& y) (pc + 1)) := by
  refine ax_snd_simple fun K L st h o ho => ?_
  unfold S_l2 at ho
  split at ho
  · cases ho
    exact ⟨_, _, _, rfl, fun p e R s m args below meth c CX hRl hRf H locs ls cells slots Q X V _ _ k => lv_land CX.1 CX.2.1 hd (k ls V)⟩
  · cases ho
theorem k_lor (hd : decode M.2.1 pc = .ok (.lor, 1)) : ax_Snd G l Y M pc (S_l2 (fun x y => x ||| y) (pc + 1)) := by
  refine ax_snd_simple fun K L st h o ho => ?_
  unfold S_l2 at ho
  split at ho
  · cases ho
    exact ⟨_, _, _, rfl, fun p e R s m args below meth c CX hRl hRf H locs ls cells slots Q X V _ _ k => lv_lor CX.1 CX.2.1 hd (k ls V)⟩
  · cases ho
theorem k_lxor (hd : decode M.2.1 pc = .ok (.lxor, 1)) : ax_Snd G l Y M pc (S_l2 (fun x y => x ^^^ y) (pc + 1)) := by
  refine ax_snd_simple fun K L st h o ho => ?_
  unfold S_l2 at ho
  split at ho
  · cases ho
    exact ⟨_, _, _, rfl, fun p e R s m args below meth c CX hRl hRf H locs ls cells slots Q X V _ _ k => lv_lxor CX.1 CX.2.1 hd (k ls V)⟩
  · cases ho
theorem k_lrem (hd : decode M.2.1 pc = .ok (.lrem, 1)) : ax_Snd G l Y M pc (S_ld (fun x y => x - x / y * y) (pc + 1)) := by
  refine ax_snd_simple fun K L st h o ho => ?_
  unfold S_ld at ho
  split at ho
  · split at ho
    · cases ho
    · rename_i hne
      cases ho
      exact ⟨_, _, _, rfl, fun p e R s m args below meth c CX hRl hRf H locs ls cells slots Q X V _ _ k => lv_lrem CX.1 CX.2.1 hd hne (k ls V)⟩
  · cases ho
theorem k_lshl (hd : decode M.2.1 pc = .ok (.lshl, 1)) : ax_Snd G l Y M pc (S_lsh (fun x y => x <<< (y.toInt64 &&& 63)) (pc + 1)) := by
  refine ax_snd_simple fun K L st h o ho => ?_
  unfold S_lsh at ho
  split at ho
  · cases ho
    exact ⟨_, _, _, rfl, fun p e R s m args below meth c CX hRl hRf H locs ls cells slots Q X V _ _ k => lv_lshl CX.1 CX.2.1 hd rfl (k ls V)⟩
  · cases ho
theorem k_lshr (hd : decode M.2.1 pc = .ok (.lshr, 1)) : ax_Snd G l Y M pc (S_lsh (fun x y => x >>> (y.toInt64 &&& 63)) (pc + 1)) := by
  refine ax_snd_simple fun K L st h o ho => ?_
  unfold S_lsh at ho
  split at ho
  · cases ho
    exact ⟨_, _, _, rfl, fun p e R s m args below meth c CX hRl hRf H locs ls cells slots Q X V _ _ k => lv_lshr CX.1 CX.2.1 hd rfl (k ls V)⟩
  · cases ho
theorem k_lushr (hd : decode M.2.1 pc = .ok (.lushr, 1)) : ax_Snd G l Y M pc (S_lsh (fun x y => (x.toUInt64 >>> (y.toInt64.toUInt64 &&& Int64.toUInt64 63)).toInt64) (pc + 1)) := by
  refine ax_snd_simple fun K L st h o ho => ?_
  unfold S_lsh at ho
  split at ho
  · cases ho
    exact ⟨_, _, _, rfl, fun p e R s m args below meth c CX hRl hRf H locs ls cells slots Q X V _ _ k => lv_lushr CX.1 CX.2.1 hd rfl (k ls V)⟩
  · cases ho
theorem k_if_eq {off : Int} {t : Nat} (hd : decode M.2.1 pc = .ok (.ifCond .eq off, 3)) (ht : (pc : Int) + off = (t : Int)) : ax_Snd G l Y M pc (S_if1 (fun x => decide (x = 0)) t (pc + 3)) := by
  refine ax_snd_simple fun K L st h o ho => ?_
  unfold S_if1 at ho
  split at ho
  · cases ho
    refine ⟨_, _, _, rfl, fun p e R s m args below meth c CX hRl hRf H locs ls cells slots Q X V _ _ k => ?_⟩
    have k9 := k ls V
    refine lv_if_eq CX.1 CX.2.1 hd ht (fun z => ?_) (fun z => ?_)
    · rw [if_pos (decide_eq_true z)] at k9; exact k9
    · rw [if_neg (by simpa using z)] at k9; exact k9
  · cases ho
theorem k_icmp_eq {off : Int} {t : Nat} (hd : decode M.2.1 pc = .ok (.if_icmp .eq off, 3)) (ht : (pc : Int) + off = (t : Int)) : ax_Snd G l Y M pc (S_if2 (fun x y => decide (x = y)) t (pc + 3)) := by
  refine ax_snd_simple fun K L st h o ho => ?_
  unfold S_if2 at ho
  split at ho
  · cases ho
    refine ⟨_, _, _, rfl, fun p e R s m args below meth c CX hRl hRf H locs ls cells slots Q X V _ _ k => ?_⟩
    have k9 := k ls V
    refine lv_icmp_eq CX.1 CX.2.1 hd ht (fun z => ?_) (fun z => ?_)
    · rw [if_pos (decide_eq_true z)] at k9; exact k9
    · rw [if_neg (by simpa using z)] at k9; exact k9
  · cases ho
theorem k_if_ne {off : Int} {t : Nat} (hd : decode M.2.1 pc = .ok (.ifCond .ne off, 3)) (ht : (pc : Int) + off = (t : Int)) : ax_Snd G l Y M pc (S_if1 (fun x => decide (¬ x = 0)) t (pc + 3)) := by
  refine ax_snd_simple fun K L st h o ho => ?_
  unfold S_if1 at ho
  split at ho
  · cases ho
    refine ⟨_, _, _, rfl, fun p e R s m args below meth c CX hRl hRf H locs ls cells slots Q X V _ _ k => ?_⟩
    have k9 := k ls V
    refine lv_if_ne CX.1 CX.2.1 hd ht (fun z => ?_) (fun z => ?_)
    · rw [if_pos (decide_eq_true z)] at k9; exact k9
    · rw [if_neg (by simp [z])] at k9; exact k9
  · cases ho
theorem k_icmp_ne {off : Int} {t : Nat} (hd : decode M.2.1 pc = .ok (.if_icmp .ne off, 3)) (ht : (pc : Int) + off = (t : Int)) : ax_Snd G l Y M pc (S_if2 (fun x y => decide (¬ x = y)) t (pc + 3)) := by
  refine ax_snd_simple fun K L st h o ho => ?_
  unfold S_if2 at ho
  split at ho
  · cases ho
    refine ⟨_, _, _, rfl, fun p e R s m args below meth c CX hRl hRf H locs ls cells slots Q X V _ _ k => ?_⟩
    have k9 := k ls V
    refine lv_icmp_ne CX.1 CX.2.1 hd ht (fun z => ?_) (fun z => ?_)
    · rw [if_pos (decide_eq_true z)] at k9; exact k9
    · rw [if_neg (by simp [z])] at k9; exact k9
  · cases ho
theorem k_if_lt {off : Int} {t : Nat} (hd : decode M.2.1 pc = .ok (.ifCond .lt off, 3)) (ht : (pc : Int) + off = (t : Int)) : ax_Snd G l Y M pc (S_if1 (fun x => decide (x < 0)) t (pc + 3)) := by
  refine ax_snd_simple fun K L st h o ho => ?_
  unfold S_if1 at ho
  split at ho
  · cases ho
    refine ⟨_, _, _, rfl, fun p e R s m args below meth c CX hRl hRf H locs ls cells slots Q X V _ _ k => ?_⟩
    have k9 := k ls V
    refine lv_if_lt CX.1 CX.2.1 hd ht (fun z => ?_) (fun z => ?_)
    · rw [if_pos (decide_eq_true z)] at k9; exact k9
    · rw [if_neg (by simpa using z)] at k9; exact k9
  · cases ho
theorem k_icmp_lt {off : Int} {t : Nat} (hd : decode M.2.1 pc = .ok (.if_icmp .lt off, 3)) (ht : (pc : Int) + off = (t : Int)) : ax_Snd G l Y M pc (S_if2 (fun x y => decide (x < y)) t (pc + 3)) := by
  refine ax_snd_simple fun K L st h o ho => ?_
  unfold S_if2 at ho
  split at ho
  · cases ho
    refine ⟨_, _, _, rfl, fun p e R s m args below meth c CX hRl hRf H locs ls cells slots Q X V _ _ k => ?_⟩
    have k9 := k ls V
    refine lv_icmp_lt CX.1 CX.2.1 hd ht (fun z => ?_) (fun z => ?_)
    · rw [if_pos (decide_eq_true z)] at k9; exact k9
    · rw [if_neg (by simpa using z)] at k9; exact k9
  · cases ho
theorem k_if_ge {off : Int} {t : Nat} (hd : decode M.2.1 pc = .ok (.ifCond .ge off, 3)) (ht : (pc : Int) + off = (t : Int)) : ax_Snd G l Y M pc (S_if1 (fun x => decide (0 ≤ x)) t (pc + 3)) := by
  refine ax_snd_simple fun K L st h o ho => ?_
  unfold S_if1 at ho
  split at ho
  · cases ho
    refine ⟨_, _, _, rfl, fun p e R s m args below meth c CX hRl hRf H locs ls cells slots Q X V _ _ k => ?_⟩
    have k9 := k ls V
    refine lv_if_ge CX.1 CX.2.1 hd ht (fun z => ?_) (fun z => ?_)
    · rw [if_pos (decide_eq_true z)] at k9; exact k9
    · rw [if_neg (by simpa using z)] at k9; exact k9
  · cases ho
theorem k_icmp_ge {off : Int} {t : Nat} (hd : decode M.2.1 pc = .ok (.if_icmp .ge off, 3)) (ht : (pc : Int) + off = (t : Int)) : ax_Snd G l Y M pc (S_if2 (fun x y => decide (y ≤ x)) t (pc + 3)) := by
  refine ax_snd_simple fun K L st h o ho => ?_
  unfold S_if2 at ho
  split at ho
  · cases ho
    refine ⟨_, _, _, rfl, fun p e R s m args below meth c CX hRl hRf H locs ls cells slots Q X V _ _ k => ?_⟩
    have k9 := k ls V
    refine lv_icmp_ge CX.1 CX.2.1 hd ht (fun z => ?_) (fun z => ?_)
    · rw [if_pos (decide_eq_true z)] at k9; exact k9
    · rw [if_neg (by simpa using z)] at k9; exact k9
  · cases ho
theorem k_if_gt {off : Int} {t : Nat} (hd : decode M.2.1 pc = .ok (.ifCond .gt off, 3)) (ht : (pc : Int) + off = (t : Int)) : ax_Snd G l Y M pc (S_if1 (fun x => decide (0 < x)) t (pc + 3)) := by
  refine ax_snd_simple fun K L st h o ho => ?_
  unfold S_if1 at ho
  split at ho
  · cases ho
    refine ⟨_, _, _, rfl, fun p e R s m args below meth c CX hRl hRf H locs ls cells slots Q X V _ _ k => ?_⟩
    have k9 := k ls V
    refine lv_if_gt CX.1 CX.2.1 hd ht (fun z => ?_) (fun z => ?_)
    · rw [if_pos (decide_eq_true z)] at k9; exact k9
    · rw [if_neg (by simpa using z)] at k9; exact k9
  · cases ho
theorem k_icmp_gt {off : Int} {t : Nat} (hd : decode M.2.1 pc = .ok (.if_icmp .gt off, 3)) (ht : (pc : Int) + off = (t : Int)) : ax_Snd G l Y M pc (S_if2 (fun x y => decide (y < x)) t (pc + 3)) := by
  refine ax_snd_simple fun K L st h o ho => ?_
  unfold S_if2 at ho
  split at ho
  · cases ho
    refine ⟨_, _, _, rfl, fun p e R s m args below meth c CX hRl hRf H locs ls cells slots Q X V _ _ k => ?_⟩
    have k9 := k ls V
    refine lv_icmp_gt CX.1 CX.2.1 hd ht (fun z => ?_) (fun z => ?_)
    · rw [if_pos (decide_eq_true z)] at k9; exact k9
    · rw [if_neg (by simpa using z)] at k9; exact k9
  · cases ho
theorem k_if_le {off : Int} {t : Nat} (hd : decode M.2.1 pc = .ok (.ifCond .le off, 3)) (ht : (pc : Int) + off = (t : Int)) : ax_Snd G l Y M pc (S_if1 (fun x => decide (x ≤ 0)) t (pc + 3)) := by
  refine ax_snd_simple fun K L st h o ho => ?_
  unfold S_if1 at ho
  split at ho
  · cases ho
    refine ⟨_, _, _, rfl, fun p e R s m args below meth c CX hRl hRf H locs ls cells slots Q X V _ _ k => ?_⟩
    have k9 := k ls V
    refine lv_if_le CX.1 CX.2.1 hd ht (fun z => ?_) (fun z => ?_)
    · rw [if_pos (decide_eq_true z)] at k9; exact k9
    · rw [if_neg (by simpa using z)] at k9; exact k9
  · cases ho
theorem k_icmp_le {off : Int} {t : Nat} (hd : decode M.2.1 pc = .ok (.if_icmp .le off, 3)) (ht : (pc : Int) + off = (t : Int)) : ax_Snd G l Y M pc (S_if2 (fun x y => decide (x ≤ y)) t (pc + 3)) := by
  refine ax_snd_simple fun K L st h o ho => ?_
  unfold S_if2 at ho
  split at ho
  · cases ho
    refine ⟨_, _, _, rfl, fun p e R s m args below meth c CX hRl hRf H locs ls cells slots Q X V _ _ k => ?_⟩
    have k9 := k ls V
    refine lv_icmp_le CX.1 CX.2.1 hd ht (fun z => ?_) (fun z => ?_)
    · rw [if_pos (decide_eq_true z)] at k9; exact k9
    · rw [if_neg (by simpa using z)] at k9; exact k9
  · cases ho
theorem k_goto {off : Int} {t : Nat} (hd : decode M.2.1 pc = .ok (.goto off, 3)) (ht : (pc : Int) + off = (t : Int)) : ax_Snd G l Y M pc (S_goto t) := by
  refine ax_snd_simple fun K L st h o ho => ?_
  cases ho
  exact ⟨_, _, _, rfl, fun p e R s m args below meth c CX hRl hRf H locs ls cells slots Q X V _ _ k => lv_goto CX.1 CX.2.1 hd ht (k ls V)⟩
theorem k_ifnull {off : Int} {t : Nat} (hd : decode M.2.1 pc = .ok (.ifnull off, 3)) (ht : (pc : Int) + off = (t : Int)) : ax_Snd G l Y M pc (S_null t (pc + 3)) := by
  refine ax_snd_simple fun K L st h o ho => ?_
  unfold S_null at ho
  split at ho
  · cases ho
    exact ⟨_, _, _, rfl, fun p e R s m args below meth c CX hRl hRf H locs ls cells slots Q X V _ _ k => lv_ifnullN CX.1 CX.2.1 hd ht (k ls V)⟩
  · cases ho
    exact ⟨_, _, _, rfl, fun p e R s m args below meth c CX hRl hRf H locs ls cells slots Q X V _ _ k => lv_ifnull CX.1 CX.2.1 hd (k ls V)⟩
  · cases ho
theorem k_ifnonnull {off : Int} {t : Nat} (hd : decode M.2.1 pc = .ok (.ifnonnull off, 3)) (ht : (pc : Int) + off = (t : Int)) : ax_Snd G l Y M pc (S_null (pc + 3) t) := by
  refine ax_snd_simple fun K L st h o ho => ?_
  unfold S_null at ho
  split at ho
  · cases ho
    exact ⟨_, _, _, rfl, fun p e R s m args below meth c CX hRl hRf H locs ls cells slots Q X V _ _ k => lv_ifnonnullN CX.1 CX.2.1 hd (k ls V)⟩
  · cases ho
    exact ⟨_, _, _, rfl, fun p e R s m args below meth c CX hRl hRf H locs ls cells slots Q X V _ _ k => lv_ifnonnull CX.1 CX.2.1 hd ht (k ls V)⟩
  · cases ho
theorem ax_c1_cat {G : ax_G} {v : Value} (h : ax_c1 v = true) : (ax_v G v).category = 1 := by cases v <;> first | rfl | simp [ax_c1] at h
theorem k_dup (hd : decode M.2.1 pc = .ok (.dup, 1)) : ax_Snd G l Y M pc (S_dup (pc + 1)) := by
  refine ax_snd_simple fun K L st h o ho => ?_
  unfold S_dup at ho
  split at ho
  · split at ho
    · rename_i hc
      cases ho
      exact ⟨_, _, _, rfl, fun p e R s m args below meth c CX hRl hRf H locs ls cells slots Q X V _ _ k => lv_dup CX.1 CX.2.1 hd (ax_c1_cat hc) (k ls V)⟩
    · cases ho
  · cases ho
theorem k_pop (hd : decode M.2.1 pc = .ok (.pop, 1)) : ax_Snd G l Y M pc (S_pop (pc + 1)) := by
  refine ax_snd_simple fun K L st h o ho => ?_
  unfold S_pop at ho
  split at ho
  · split at ho
    · rename_i hc
      cases ho
      exact ⟨_, _, _, rfl, fun p e R s m args below meth c CX hRl hRf H locs ls cells slots Q X V _ _ k => lv_pop CX.1 CX.2.1 hd (ax_c1_cat hc) (k ls V)⟩
    · cases ho
  · cases ho
theorem k_dup_x1 (hd : decode M.2.1 pc = .ok (.dup_x1, 1)) : ax_Snd G l Y M pc (S_dupx1 (pc + 1)) := by
  refine ax_snd_simple fun K L st h o ho => ?_
  unfold S_dupx1 at ho
  split at ho
  · split at ho
    · rename_i hc1
      split at ho
      · rename_i hc2
        cases ho
        exact ⟨_, _, _, rfl, fun p e R s m args below meth c CX hRl hRf H locs ls cells slots Q X V _ _ k => lv_dup_x1 CX.1 CX.2.1 hd (ax_c1_cat hc1) (ax_c1_cat hc2) (k ls V)⟩
      · cases ho
    · cases ho
  · cases ho
theorem k_dup2 (hd : decode M.2.1 pc = .ok (.dup2, 1)) : ax_Snd G l Y M pc (S_dup2 (pc + 1)) := by
  refine ax_snd_simple fun K L st h o ho => ?_
  unfold S_dup2 at ho
  split at ho
  · split at ho
    · rename_i hc1
      split at ho
      · rename_i hc2
        cases ho
        exact ⟨_, _, _, rfl, fun p e R s m args below meth c CX hRl hRf H locs ls cells slots Q X V _ _ k => lv_dup2_11 CX.1 CX.2.1 hd (ax_c1_cat hc1) (ax_c1_cat hc2) (k ls V)⟩
      · cases ho
    · cases ho
  · cases ho
theorem k_tsw {d lo hi : Int} {offs : Array Int} {ln t : Nat} {ts : List Nat} (hd : decode M.2.1 pc = .ok (.tableswitch d lo hi offs, ln)) (hdt : (pc : Int) + d = (t : Int)) (hts : offs.toList.map (fun q => (pc : Int) + q) = ts.map Int.ofNat) : ax_Snd G l Y M pc (S_tsw lo hi ts t) := by
  refine ax_snd_simple fun K L st h o ho => ?_
  unfold S_tsw at ho
  split at ho
  · split at ho
    · rename_i hx
      cases ho
      exact ⟨_, _, _, rfl, fun p e R s m args below meth c CX hRl hRf H locs ls cells slots Q X V _ _ k => lv_tableOut CX.1 CX.2.1 hd hx hdt (k ls V)⟩
    · rename_i x rest hx
      obtain ⟨q, hq, hy⟩ := Option.bind_eq_some_iff.mp ho
      cases hy
      have h1 : (ts.map Int.ofNat)[(x.toInt - lo).toNat]? = some (Int.ofNat q) := by rw [List.getElem?_map, hq]; rfl
      rw [← hts, List.getElem?_map] at h1
      cases ho2 : offs.toList[(x.toInt - lo).toNat]? with
      | none => rw [ho2] at h1; cases h1
      | some off =>
        rw [ho2] at h1
        exact ⟨_, _, _, rfl, fun p e R s m args below meth c CX hRl hRf H locs ls cells slots Q X V _ _ k => lv_tableIn (off := off) CX.1 CX.2.1 hd (fun z => hx (Or.inl z)) (fun z => hx (Or.inr z)) (by rw [← Array.getElem?_toList]; exact ho2) (by simpa using h1) (k ls V)⟩
  · cases ho
end SIM
