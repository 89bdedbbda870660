/-! calls of abstract methods, of a superclass's methods, of private methods of a superclass -/
section MOR
variable {G : ax_G} {l : Launch} {Y : ax_Y} {M : ax_M} {pc : Nat}
variable {y : MethodName} {idx maxL k a : Nat} {b : ByteArray} {ret : Option FieldType}
/-- abstract: x stands in owner without code -/
theorem ev_vB (B : ax_TB G) {ci : Nat} {r : vw_C} {x : MethodName} {owner : String} (hr0 : G.2.2.1[ci]? = some r) (hy : Y k = (y, ws_ y b maxL ret)) (h1 : Cond.methodLink M.1 idx x ∈ lw_all) (h6 : Cond.sameMethod x.cls owner x.name x.desc ∈ lw_all) (h7 : Cond.declares ⟨owner, x.name, x.desc⟩ ∈ lw_tbl) (h2 : Cond.instanceMethod y ∈ lw_all) (h3 : Cond.selects r.1 x y ∈ lw_all) (h5 : Cond.initialized y.cls ∈ lw_all) (h4 : Cond.code y b maxL ret ∈ lw_all) (hn : owner ≠ "java/lang/invoke/MethodHandle" ∧ owner ≠ "java/lang/invoke/VarHandle" ∧ (parseMethodDescriptor x.desc).map (fun d => d.parameters.length) = some a) (hl : maxL ≤ 41) (hdg : decode M.2.1 pc = .ok (.invokevirtual idx, 3)) : ax_EvV G l Y M pc a 3 ci k := by
  refine ⟨r, hr0, ?_⟩
  intro d p e R s m args below meth c CX hRf hRl Pc Qc XC mc ms free hM H locs cells slots b As rest ls hp hA hls hr hf
  have hts := CX.2.2.2.2.1
  have hs := CX.2.2.2.2.2.2.2.2.2
  rw [hy] at hM
  exact vx_runU (g := F0 m pc ls (As.reverse ++ .ref b :: rest)) ⟨CX.1, CX.2.1, CX.2.2.1, CX.2.2.2.1, hts⟩ hM (va_cwA (owner := owner) a hts (lw_app (ax_in5 h1 h6 h3 h2 h5) (lw_meth h4)) rfl rfl rfl (va_Nw.warmD hs.1 (B.nw h7 rfl)) hn ⟨by show d + 20 + 1 ≤ _; omega, ax_room hRl hl⟩) hp rfl hA hls rfl (ax_mr hr) hdg hf
/-- super.y() -/
theorem ev_p (F : ax_FA G) {ci : Nat} {r : vw_C} (hr0 : G.2.2.1[ci]? = some r) (hy : Y k = (y, ws_ y b maxL ret)) (h1 : Cond.methodLink M.1 idx y ∈ lw_all) (h6 : Cond.sameMethod y.cls y.cls y.name y.desc ∈ lw_all) (h7 : Cond.superclass M.1 y.cls ∈ lw_all) (h2 : Cond.instanceMethod y ∈ lw_all) (h5 : Cond.initialized y.cls ∈ lw_all) (h4 : Cond.code y b maxL ret ∈ lw_all) (hn : y.name ≠ "<init>" ∧ (parseMethodDescriptor y.desc).map (fun d => d.parameters.length) = some a) (hl : maxL ≤ 41) (hdg : decode M.2.1 pc = .ok (.invokespecial idx, 3)) : ax_EvV G l Y M pc a 3 ci k := by
  refine ⟨r, hr0, ?_⟩
  intro d p e R s m args below meth c CX hRf hRl Pc Qc XC mc ms free hM H locs cells slots b As rest ls hp hA hls hr hf
  have hts := CX.2.2.2.2.1
  have hs := CX.2.2.2.2.2.2.2.2.2
  rw [hy] at hM
  exact vx_runSU (g := F0 m pc ls (As.reverse ++ .ref b :: rest)) ((ax_K_at F hs).1 ci r hr0).2 ⟨CX.1, CX.2.1, CX.2.2.1, CX.2.2.2.1, hts⟩ hM (va_cwSU a hts (lw_app (ax_in5 h1 h6 h7 h2 h5) (lw_meth h4)) rfl rfl rfl hn ⟨by show d + 20 + 1 ≤ _; omega, ax_room hRl hl⟩) hp rfl hA hls rfl (ax_mr hr) hdg hf
/-- a private method of a class that can't be made itself, for a class under it -/
theorem ax_selA {s : State} {args : Array Value} {C : String} {c : ClassId} (hy : y.cls ≠ "java/lang/invoke/MethodHandle" ∧ y.cls ≠ "java/lang/invoke/VarHandle") (hc : s.vm.findClass C = some c) (hpriv : (Cond.privateMethod y).before args s = true) (hinst : (Cond.instanceMethod y).before args s = true) (hsame : (Cond.sameMethod y.cls y.cls y.name y.desc).before args s = true) : (Cond.selects C y y).before args s = true := by
  obtain ⟨mk, methM, hnamed, hmethM, -, -⟩ := Cond.instanceMethod_spec hinst
  obtain ⟨c', ck, r1, hcn, hck, hni, hf, hn1⟩ := Cond.sameMethod_found hsame
  have hfound : s.methodFound? y.cls y.name y.desc = some mk := State.methodFound?_of_named hnamed hy
  have hcls : mk.cls = c' := Option.some.inj ((findClass_of_methodNamed hnamed).symm.trans hcn)
  have hsel : selectMethod {} s.vm c mk = .method mk := selectMethod_private hmethM (Cond.privateMethod_at hpriv mk methM hnamed hmethM)
  simp only [Cond.before, Cond.holds, Cond.value, hc, hfound, hnamed, hsel, hcls, hck]
  simp; exact hni
theorem ev_vA (F : ax_FA G) (B : ax_TB G) {ci : Nat} {r : vw_C} (hr0 : G.2.2.1[ci]? = some r) (hy : Y k = (y, ws_ y b maxL ret)) (h1 : Cond.methodLink M.1 idx y ∈ lw_all) (h6 : Cond.sameMethod y.cls y.cls y.name y.desc ∈ lw_all) (h7 : Cond.privateMethod y ∈ lw_tbl) (h2 : Cond.instanceMethod y ∈ lw_all) (h5 : Cond.initialized y.cls ∈ lw_all) (h4 : Cond.code y b maxL ret ∈ lw_all) (hn : ax_nm y a) (hl : maxL ≤ 41) (hdg : decode M.2.1 pc = .ok (.invokevirtual idx, 3)) : ax_EvV G l Y M pc a 3 ci k := by
  refine ⟨r, hr0, ?_⟩
  intro d p e R s m args below meth c CX hRf hRl Pc Qc XC mc ms free hM H locs cells slots b As rest ls hp hA hls hr hf
  have hts := CX.2.2.2.2.1
  have hs := CX.2.2.2.2.2.2.2.2.2
  rw [hy] at hM
  have hG1 := lw_meth h4
  obtain ⟨A0, B0⟩ := B
  have hsel0 : (Cond.selects r.1 y y).before A0 G.1 = true := ax_selA ⟨hn.1, hn.2.1⟩ (F.1.1 ci r hr0).2.1 (B0 _ h7) (B0 _ (lw_all_tbl h2)) (B0 _ (lw_all_tbl h6))
  have hsel : (Cond.selects r.1 y y).before args s = true := word_at hs.1 (good_of_word rfl) hsel0
  refine vx_runU (g := F0 m pc ls (As.reverse ++ .ref b :: rest)) (owner := y.cls) (x := y) ⟨CX.1, CX.2.1, CX.2.2.1, CX.2.2.2.1, hts⟩ hM ⟨⟨rfl, rfl, by show d + 20 + 1 ≤ _; omega, ax_room hRl hl, pay_in hts hG1, List.mem_cons_self⟩, hts _ h4, hts _ h5, ⟨hn.1, hn.2.1⟩, fun sig h => ?_, hts _ h1, hts _ h6, va_Decl.of (hts _ h2) (hts _ h4), hsel, hts _ h2⟩ hp rfl hA hls rfl (ax_mr hr) hdg hf
  have h9 := hn.2.2
  rw [h] at h9
  exact (Option.some.inj h9).symm
end MOR
section MOS
variable {G : ax_G} {l : Launch} {Y : ax_Y} {M : ax_M} {pc : Nat}
theorem k_ldcwS {tx : String} {index i : Nat} (hz : vk_R M.1 index tx (ax_ad G i) G.1) (hd : decode M.2.1 pc = .ok (.ldc_w index, 3)) : ax_Snd G l Y M pc (S_push (.ref i) (pc + 3)) := by
  refine ax_snd_simple fun K L st h o ho => ?_
  cases ho
  refine ⟨_, _, _, rfl, fun p e R s m args below meth c CX hRl hRf H locs ls cells slots Q X V _ _ kk => ?_⟩
  have hz' := vk_R.warm CX.2.2.2.2.2.2.2.2.2.1 hz
  intro T hT X0
  obtain ⟨t, a1, b1⟩ := kk ls V T hT X0
  refine ⟨t, ?_, b1⟩
  obtain ⟨kk1, cf, j, q, e1, e2, e3, -, e4, e5⟩ := Cond.stringRef_spec CX.2.2.2.1 hz'.1
  have hq : q = ax_ad G i := by
    have := hz'.2.symm.trans e5
    cases this
    rfl
  subst hq
  obtain ⟨kk2, f1, f2⟩ := X0.warmed.alike.2.2 _ _ e1
  have f3 : kk2.resolved[index]? = some (some (.string (ax_ad G i))) := by
    rcases X0.warmed.entry e1 f1 index with z | z
    · rw [z, e4]
    · rw [e4] at z; cases z.1
  have hdg : decode c.code pc = .ok (.ldc_w index, 3) := by rw [CX.2.1]; exact hd
  jvm_step X0.here [CX.1, hdg, ldc_w.wp_string (e := e) (s := T) (f := F0 m pc ls (st.map (ax_v G))) X0.here.top f1 (by rw [f2]; exact e2) e3 f3]
  exact a1
end MOS
