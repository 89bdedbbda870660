/-! what the machine has of its own: constants, class objects, native methods, Object's constructor -/
section BLT
variable {G : ax_G} {l : Launch} {Y : ax_Y} {M : ax_M} {pc : Nat}
theorem ax_cat_le (G : ax_G) : ∀ st : List Value, ((st.map (ax_v G)).map fun v => v.category).sum ≤ 2 * st.length := by
  intro st
  induction st with
  | nil => exact Nat.le_refl _
  | cons a st ih =>
    have h1 : (ax_v G a).category ≤ 2 := by cases a <;> simp [ax_v, Value.category]
    simp only [List.map_cons, List.sum_cons, List.length_cons]
    omega
theorem k_oin {idx : Nat} (hl : Cond.methodLink M.1 idx Lib.objectInit ∈ lw_all) (hi : Cond.instanceMethod Lib.objectInit ∈ lw_all) (hc : Cond.code Lib.objectInit ⟨#[0xb1]⟩ 1 none ∈ lw_all) (hd : decode M.2.1 pc = .ok (.invokespecial idx, 3)) : ax_Snd G l Y M pc (S_oin (pc + 3)) := by
  refine ax_snd_simple fun K L st h o ho => ?_
  unfold S_oin at ho
  split at ho
  · split at ho
    · rename_i hlen
      cases ho
      refine ⟨_, _, _, rfl, fun p e R s m args below meth c CX hRl hRf H locs ls cells slots Q X V _ _ kk => ?_⟩
      have hq := ax_cat_le G (by assumption : List Value)
      exact W.objInit CX.1 CX.2.1 CX.2.2.2.1 (CX.2.2.2.2.1 _ hl) (CX.2.2.2.2.1 _ hi) (CX.2.2.2.2.1 _ hc) rfl (by rw [CX.2.2.1]; exact V.1) rfl hd (by omega) (by show 2 * 0 + _ + 12 ≤ _; omega) (kk ls V)
    · cases ho
  · cases ho
/-- a static field that nobody writes -/
def ax_st (G : ax_G) (C n d : String) (v : Value) : Prop := va_Z C n d (ax_v G v) (fun q => G.1.heap.size ≤ q) G.1 G.1.heap
theorem ax_st_at {C n d : String} {v : Value} (h : ax_st G C n d v) {s : State} (hs : ax_GD G s) : va_Z C n d (ax_v G v) (fun q => G.1.heap.size ≤ q) s s.heap := (va_Z.moved hs.1.alike h).kept fun a ha _ => hs.2.1 a ha
theorem k_gets {C n d : String} {v : Value} {index : Nat} (hz : ax_st G C n d v) (hl : Cond.fieldLink M.1 index C n d ∈ lw_all) (hd : decode M.2.1 pc = .ok (.getstatic index, 3)) : ax_Snd G l Y M pc (S_push v (pc + 3)) := by
  refine ax_snd_simple fun K L st h o ho => ?_
  cases ho
  refine ⟨_, _, _, rfl, fun p e R s m args below meth c CX hRl hRf H locs ls cells slots Q X V _ _ kk => ?_⟩
  exact va_gets CX.1 CX.2.1 (ax_st_at hz CX.2.2.2.2.2.2.2.2.2) X.2.2.2.2.1 CX.2.2.2.1 (CX.2.2.2.2.1 _ hl) (fun x hx => hx) hd (kk ls V)
theorem k_ldcS {tx : String} {index i : Nat} (hz : vk_R M.1 index tx (ax_ad G i) G.1) (hd : decode M.2.1 pc = .ok (.ldc index, 2)) : ax_Snd G l Y M pc (S_push (.ref i) (pc + 2)) := by
  refine ax_snd_simple fun K L st h o ho => ?_
  cases ho
  refine ⟨_, _, _, rfl, fun p e R s m args below meth c CX hRl hRf H locs ls cells slots Q X V _ _ kk => ?_⟩
  exact va_ldcS CX.1 CX.2.1 CX.2.2.2.1 (vk_R.warm CX.2.2.2.2.2.2.2.2.2.1 hz) hd (kk ls V)
theorem k_ldcM {C : String} {index i : Nat} (hz : va_Mi C (ax_ad G i) G.1) (hl : Cond.classLink M.1 index C ∈ lw_all) (hd : decode M.2.1 pc = .ok (.ldc index, 2)) : ax_Snd G l Y M pc (S_push (.ref i) (pc + 2)) := by
  refine ax_snd_simple fun K L st h o ho => ?_
  cases ho
  refine ⟨_, _, _, rfl, fun p e R s m args below meth c CX hRl hRf H locs ls cells slots Q X V _ _ kk => ?_⟩
  exact va_ldcM CX.1 CX.2.1 CX.2.2.2.1 (CX.2.2.2.2.1 _ hl) (va_Mi.moved CX.2.2.2.2.2.2.2.2.2.1.alike hz) hd (kk ls V)
theorem k_gcl (F : ax_FA G) (B : ax_TB G) {index : Nat} (hz : va_Mi "[Ljava/lang/Object;" (ax_ad G 6) G.1) (hl : Cond.methodLink M.1 index ⟨"java/lang/Object", "getClass", "()Ljava/lang/Class;"⟩ ∈ lw_all) (hdc : Cond.declares ⟨"java/lang/Object", "getClass", "()Ljava/lang/Class;"⟩ ∈ lw_tbl) (hsel : Cond.selects "[Ljava/lang/Object;" ⟨"java/lang/Object", "getClass", "()Ljava/lang/Class;"⟩ ⟨"java/lang/Object", "getClass", "()Ljava/lang/Class;"⟩ ∈ lw_all) (hi : Cond.instanceMethod ⟨"java/lang/Object", "getClass", "()Ljava/lang/Class;"⟩ ∈ lw_all) (hn : Cond.native ⟨"java/lang/Object", "getClass", "()Ljava/lang/Class;"⟩ ∈ lw_all) (hd : decode M.2.1 pc = .ok (.invokevirtual index, 3)) : ax_Snd G l Y M pc (S_gcl (pc + 3)) := by
  refine ax_snd_simple fun K L st h o ho => ?_
  unfold S_gcl at ho
  split at ho
  · split at ho
    · cases ho
    · rename_i a rest hlo
      split at ho
      · rename_i x hc
        cases ho
        refine ⟨_, _, _, rfl, fun p e R s m args below meth c CX hRl hRf H locs ls cells slots Q X V _ _ kk => ?_⟩
        have hs := CX.2.2.2.2.2.2.2.2.2
        have hq := ax_cat_le G rest
        obtain ⟨n, x⟩ := x
        obtain ⟨q1, q2, q3⟩ := ax_arr_cell F hs X (fun z => hlo (Or.inl z)) hc
        obtain ⟨A0, B0⟩ := B
        exact va_getC CX.1 CX.2.1 (by rw [CX.2.2.1]; exact V.1.symm) CX.2.2.2.1 (CX.2.2.2.2.1 _ hl) (va_Dc.use (va_Dc.moved hs.1.alike (va_Dc.of (B0 _ hdc)))) (CX.2.2.2.2.1 _ hsel) (CX.2.2.2.2.1 _ hi) (CX.2.2.2.2.1 _ hn) (va_Mi.moved hs.1.alike hz) ⟨_, q1, rfl, by rw [show (arrV (G.2.2.2.1 4) n (ax_el G x)).cls = G.2.2.2.1 4 from rfl]; exact ax_arr_find F hs (t := 4) (by decide)⟩ (by omega) (by omega) hd (kk ls V)
      · cases ho
  · cases ho
theorem ax_ad_inj (F : ax_FA G) {a b : Nat} (h : ¬ ((a < 400 ∧ b < 400) ∨ a = 6 ∨ b = 6)) (e : ax_ad G a = ax_ad G b) : a = b := by
  by_cases ha : a < 400
  · have hb : ¬ b < 400 := fun z => h (Or.inl ⟨ha, z⟩)
    rw [ax_ad_lo ha, ax_ad_hi (by omega)] at e
    have := (F.2.2.2 a ha).1 (fun z => h (Or.inr (Or.inl z)))
    omega
  · by_cases hb : b < 400
    · rw [ax_ad_hi (by omega), ax_ad_lo hb] at e
      have := (F.2.2.2 b hb).1 (fun z => h (Or.inr (Or.inr z)))
      omega
    · rw [ax_ad_hi (by omega), ax_ad_hi (by omega)] at e
      omega
theorem ax_acmp (F : ax_FA G) {t n : Nat} {K : ax_K} {L : ax_L} {st : List Value} {h : ax_H} {o : ax_F ⊕ ax_R} (ho : S_acmp t n K L st h = some o) : ∃ (rx ry : Option Nat) (rest : List Value), st.map (ax_v G) = va_rf ry :: va_rf rx :: rest.map (ax_v G) ∧ ((rx = ry ∧ o = .inl (t, L, rest, h)) ∨ (rx ≠ ry ∧ o = .inl (n, L, rest, h))) := by
  unfold S_acmp at ho
  split at ho
  · cases ho; exact ⟨none, none, _, rfl, Or.inl ⟨rfl, rfl⟩⟩
  · cases ho; exact ⟨none, some _, _, rfl, Or.inr ⟨(fun q => by cases q), rfl⟩⟩
  · cases ho; exact ⟨some _, none, _, rfl, Or.inr ⟨(fun q => by cases q), rfl⟩⟩
  · rename_i a b rest
    refine ⟨some (ax_ad G b), some (ax_ad G a), rest, rfl, ?_⟩
    split at ho
    · rename_i e
      cases ho
      exact Or.inl ⟨by rw [e], rfl⟩
    · rename_i e
      split at ho
      · cases ho
      · rename_i e2
        cases ho
        exact Or.inr ⟨fun q => e (ax_ad_inj F (fun z => e2 (z.elim (fun y => Or.inl ⟨y.2, y.1⟩) fun y => Or.inr y.symm)) (Option.some.inj q)), rfl⟩
  · cases ho
theorem k_acmp_eq (F : ax_FA G) {off : Int} {t : Nat} (ht : (pc : Int) + off = (t : Int)) (hd : decode M.2.1 pc = .ok (.if_acmp .eq off, 3)) : ax_Snd G l Y M pc (S_acmp t (pc + 3)) := by
  refine ax_snd_simple fun K L st h o ho => ?_
  obtain ⟨rx, ry, rest, e, he⟩ := ax_acmp F ho
  rcases he with ⟨q, rfl⟩ | ⟨q, rfl⟩
  · refine ⟨_, _, _, rfl, fun p e1 R s m args below meth c CX hRl hRf H locs ls cells slots Q X V _ _ kk => ?_⟩
    rw [e]
    exact lv_acmp_eq CX.1 CX.2.1 hd ht (fun _ => kk ls V) (fun z => absurd q z)
  · refine ⟨_, _, _, rfl, fun p e1 R s m args below meth c CX hRl hRf H locs ls cells slots Q X V _ _ kk => ?_⟩
    rw [e]
    exact lv_acmp_eq CX.1 CX.2.1 hd ht (fun z => absurd z q) (fun _ => kk ls V)
theorem k_acmp_ne (F : ax_FA G) {off : Int} {t : Nat} (ht : (pc : Int) + off = (t : Int)) (hd : decode M.2.1 pc = .ok (.if_acmp .ne off, 3)) : ax_Snd G l Y M pc (S_acmp (pc + 3) t) := by
  refine ax_snd_simple fun K L st h o ho => ?_
  obtain ⟨rx, ry, rest, e, he⟩ := ax_acmp F ho
  rcases he with ⟨q, rfl⟩ | ⟨q, rfl⟩
  · refine ⟨_, _, _, rfl, fun p e1 R s m args below meth c CX hRl hRf H locs ls cells slots Q X V _ _ kk => ?_⟩
    rw [e]
    exact lv_acmp_ne CX.1 CX.2.1 hd ht (fun z => absurd q z) (fun _ => kk ls V)
  · refine ⟨_, _, _, rfl, fun p e1 R s m args below meth c CX hRl hRf H locs ls cells slots Q X V _ _ kk => ?_⟩
    rw [e]
    exact lv_acmp_ne CX.1 CX.2.1 hd ht (fun _ => kk ls V) (fun z => absurd z q)
theorem k_max {index : Nat} (hl : Cond.methodLink M.1 index Lib.Math.max.name ∈ lw_all) (hs : Cond.static Lib.Math.max.name ∈ lw_all) (hi : Cond.initialized "java/lang/Math" ∈ lw_all) (hc : Cond.code Lib.Math.max.name Lib.Math.max.code 2 (some .int) ∈ lw_all) (hd : decode M.2.1 pc = .ok (.invokestatic index, 3)) : ax_Snd G l Y M pc (S_max (pc + 3)) := by
  refine ax_snd_simple fun K L st h o ho => ?_
  unfold S_max at ho
  split at ho
  · split at ho
    · rename_i y x rest hlen
      cases ho
      refine ⟨_, _, _, rfl, fun p e R s m args below meth c CX hRl hRf H locs ls cells slots Q X V b1 b2 kk => ?_⟩
      have hq := ax_cat_le G rest
      exact va_mmax CX.1 CX.2.1 (by rw [CX.2.2.1]; exact V.1.symm) CX.2.2.2.1 (CX.2.2.2.2.1 _ hl) (CX.2.2.2.2.1 _ hs) (CX.2.2.2.2.1 _ hi) (CX.2.2.2.2.1 _ hc) (by omega) (by omega) b1 b2 hd (kk ls V)
    · cases ho
  · cases ho
theorem k_min {index : Nat} (hl : Cond.methodLink M.1 index Lib.Math.min.name ∈ lw_all) (hs : Cond.static Lib.Math.min.name ∈ lw_all) (hi : Cond.initialized "java/lang/Math" ∈ lw_all) (hc : Cond.code Lib.Math.min.name Lib.Math.min.code 2 (some .int) ∈ lw_all) (hd : decode M.2.1 pc = .ok (.invokestatic index, 3)) : ax_Snd G l Y M pc (S_min (pc + 3)) := by
  refine ax_snd_simple fun K L st h o ho => ?_
  unfold S_min at ho
  split at ho
  · split at ho
    · rename_i y x rest hlen
      cases ho
      refine ⟨_, _, _, rfl, fun p e R s m args below meth c CX hRl hRf H locs ls cells slots Q X V b1 b2 kk => ?_⟩
      have hq := ax_cat_le G rest
      exact va_mmin CX.1 CX.2.1 (by rw [CX.2.2.1]; exact V.1.symm) CX.2.2.2.1 (CX.2.2.2.2.1 _ hl) (CX.2.2.2.2.1 _ hs) (CX.2.2.2.2.1 _ hi) (CX.2.2.2.2.1 _ hc) (by omega) (by omega) b1 b2 hd (kk ls V)
    · cases ho
  · cases ho
theorem k_castA (F : ax_FA G) {t index : Nat} {nm : String} (hl : Cond.classLink M.1 index nm ∈ lw_all) (hnm : "[" ++ (ax_ty t).toString = nm) (hd : decode M.2.1 pc = .ok (.checkcast index, 3)) : ax_Snd G l Y M pc (S_castA t (pc + 3)) := by
  refine ax_snd_simple fun K L st h o ho => ?_
  unfold S_castA at ho
  split at ho
  · split at ho
    · cases ho
    · rename_i a rest hlo
      split at ho
      · rename_i t' x hc
        split at ho
        · rename_i e
          subst e
          cases ho
          refine ⟨_, _, _, rfl, fun p e R s m args below meth c CX hRl hRf H locs ls cells slots Q X V _ _ kk => ?_⟩
          have hs := CX.2.2.2.2.2.2.2.2.2
          obtain ⟨n, x⟩ := x
          obtain ⟨q1, q2, q3⟩ := ax_arr_cell F hs X hlo hc
          have hf := ax_arr_find F hs q2
          rw [hnm] at hf
          intro T hT X0
          obtain ⟨vm', X', st⟩ := X0.checkcastYes CX.1 CX.2.2.2.1 (CX.2.2.2.2.1 _ hl) (by rw [hT]; exact q1) rfl hf (va_asg _ _) (g := F0 m pc ls (.ref (ax_ad G a) :: rest.map (ax_v G))) rfl rfl (by rw [CX.2.1]; exact hd)
          obtain ⟨t, a1, b1⟩ := kk ls V (T.setVm vm') hT X'
          exact ⟨t, st t a1, b1⟩
        · cases ho
      · cases ho
  · cases ho
/-! System.arraycopy -/
theorem ax_nn {z : Int32} (hz : ¬ z < 0) : z.toInt = (z.toNatClampNeg : Int) := by
  have hz0 : (0 : Int) ≤ z.toInt := by
    have := Int32.not_lt.mp hz
    simpa using Int32.le_iff_toInt_le.mp this
  show z.toInt = ((z.toInt.toNat : Nat) : Int)
  omega
def ax_cpw (own : String) (index : Nat) : Prop := Cond.methodLink own index arraycopyName ∈ lw_all ∧ Cond.native arraycopyName ∈ lw_all ∧ Cond.static arraycopyName ∈ lw_all ∧ Cond.initialized "java/lang/System" ∈ lw_all
theorem ax_copy {α : Type} (mk : α → Value) (F : ax_FA G) {p : Program} {e : Env} {R : Jvm.Room} {s : State} {m : MethodId} {args : Array Value} {below : List Frame} {meth : Method} {c : Code} {H : Heap} {locs : List Loc} {cells slots : Nat} {Q : State → Prop} {ls : Array Slot} {index : Nat} (hw : ax_cpw M.1 index) (CX : ax_CX G M p s m args meth c) (hls : ls.size = M.2.2.1)
    {h : ax_H} {a b t n0 n1 : Nat} {x0 x1 : ax_D} {f g : Nat → α} (X : ax_RL G s h H locs) (hb : ¬ b < 400) (h0 : h.1 a = .inl (t, n0, x0)) (h1 : h.1 b = .inl (t, n1, x1)) (e0 : ax_el G x0 = fun j => mk (f j)) (e1 : ax_el G x1 = fun j => mk (g j))
    {sp dp k : Int32} (hbd : ¬ ax_bd sp dp k n0 n1) (hv : ∀ vm' : Vm, s.vm.Alike vm' → ∀ i, i < k.toNatClampNeg → ∀ (kd : Class) (comp : ClassId), s.vm.classes[G.2.2.2.1 t]? = some kd → kd.kind = .array comp (ax_ty t) → ∀ T : State, T.heap = H → fits (ax_ty t) (mk (f (sp.toNatClampNeg + i))) = true ∧ (T.setVm vm').takes comp (mk (f (sp.toNatClampNeg + i))))
    {rest : List Value} (hlen : rest.length ≤ 4) (hf : 21 ≤ R.frames) (hl : 360 ≤ R.locals) (hd : decode M.2.1 pc = .ok (.invokestatic index, 3))
    (kk : ∀ (H1 : Heap) (locs1 : List Loc), H1[ax_ad G b]? = some (arrV (G.2.2.2.1 t) n1 (fun j => mk (va_cpy f g sp.toNatClampNeg dp.toNatClampNeg k.toNatClampNeg j))) → H1.size = H.size → (∀ q : Nat, q ≠ ax_ad G b → H1[q]? = H[q]?) → va_S (fun q => G.1.heap.size ≤ q) s.heap H1 locs1 → W p l e R s m args below meth c H1 locs1 cells slots Q (F0 m (pc + 3) ls (rest.map (ax_v G)))) :
    W p l e R s m args below meth c H locs cells slots Q (F0 m pc ls (.int k :: .int dp :: .ref (ax_ad G b) :: .int sp :: .ref (ax_ad G a) :: rest.map (ax_v G))) := by
  have hs := CX.2.2.2.2.2.2.2.2.2
  have hq := ax_cat_le G rest
  obtain ⟨w1, w2, w3, w4⟩ := hw
  obtain ⟨cs, s1, s2, s3, s4, -, s5⟩ := ax_rd_arr F hs X h0
  obtain ⟨d1, -, d3⟩ := ax_arr_cell F hs X hb h1
  obtain ⟨s6, k0, hk0, cm0, hkk0⟩ := s2
  obtain ⟨d6, k1, hk1, cm1, hkk1⟩ := d3
  rw [e1] at d1 d6 hk1
  rw [e0] at s5
  unfold ax_bd at hbd
  have z1 : ¬ sp < 0 := fun q => hbd (Or.inl q)
  have z2 : ¬ dp < 0 := fun q => hbd (Or.inr (Or.inl q))
  have z3 : ¬ k < 0 := fun q => hbd (Or.inr (Or.inr (Or.inl q)))
  have z4 : sp.toNatClampNeg + k.toNatClampNeg ≤ n0 := Nat.not_lt.mp fun q => hbd (Or.inr (Or.inr (Or.inr (Or.inl q))))
  have z5 : dp.toNatClampNeg + k.toNatClampNeg ≤ n1 := Nat.not_lt.mp fun q => hbd (Or.inr (Or.inr (Or.inr (Or.inr q))))
  intro T hT X0
  obtain ⟨vm', X', step⟩ := X0.arraycopy CX.1 CX.2.2.2.1 (CX.2.2.2.2.1 _ w1) (CX.2.2.2.2.1 _ w2) (CX.2.2.2.2.1 _ w3) (CX.2.2.2.2.1 _ w4) (src := ax_ad G a) (dst := ax_ad G b) (cs := cs) (srcPos := sp) (destPos := dp) (n := k) (by rw [hT]; exact s1) (by rw [hT]; exact d1)
    s6 d6 s3 (fun z => by cases z) hk0 hk1 hkk0 hkk1 (by simp) z1 z2 z3
    (by rw [ax_nn z1, ax_nn z3]; omega)
    (by rw [ax_nn z2, ax_nn z3, arrV_size]; omega)
    (fun vm₁ hal i hi => by
      have e : cs.slots.getD (sp.toNatClampNeg + i) .null = mk (f (sp.toNatClampNeg + i)) := by
        rw [Array.getD_eq_getD_getElem?, s5 _ (by omega)]
        rfl
      rw [e]
      exact hv vm₁ hal i hi k1 cm1 hk1 hkk1 T hT)
    (g := F0 m pc ls (.int k :: .int dp :: .ref (ax_ad G b) :: .int sp :: .ref (ax_ad G a) :: rest.map (ax_v G))) rfl (by show ls.size = _; rw [hls, CX.2.2.1]) (rest := rest.map (ax_v G)) rfl (by rw [CX.2.1]; exact hd) (by omega) (by show 2 * 0 + _ + _ ≤ _; have hw9 : nativeFrameWords "java/lang/System" "arraycopy" 5 ≤ 100 := (by decide); omega)
  have ec : copied cs (arrV (G.2.2.2.1 t) n1 (fun j => mk (g j))) sp dp k = arrV (G.2.2.2.1 t) n1 (fun j => mk (va_cpy f g sp.toNatClampNeg dp.toNatClampNeg k.toNatClampNeg j)) := va_copiedX mk cs (G.2.2.2.1 t) f g s5 z4
  rw [ec] at X' step
  have hlt : ax_ad G b < H.size := (Array.getElem?_eq_some_iff.mp d1).1
  have hheap : ((T.setVm vm').setCell (ax_ad G b) (arrV (G.2.2.2.1 t) n1 (fun j => mk (va_cpy f g sp.toNatClampNeg dp.toNatClampNeg k.toNatClampNeg j)))).heap = H.setIfInBounds (ax_ad G b) (arrV (G.2.2.2.1 t) n1 (fun j => mk (va_cpy f g sp.toNatClampNeg dp.toNatClampNeg k.toNatClampNeg j))) := by rw [← hT]; rfl
  have oq : ∀ q : Nat, q ≠ ax_ad G b → (H.setIfInBounds (ax_ad G b) (arrV (G.2.2.2.1 t) n1 (fun j => mk (va_cpy f g sp.toNatClampNeg dp.toNatClampNeg k.toNatClampNeg j))))[q]? = H[q]? := fun q hq => by simp [Array.getElem?_setIfInBounds, Ne.symm hq]
  have hlo : G.1.heap.size ≤ ax_ad G b := by rw [ax_ad_hi (by omega)]; omega
  have hS := X.2.2.2.2.1
  obtain ⟨t9, a1, b1⟩ := kk _ _ (by simp [Array.getElem?_setIfInBounds, hlt]) (by simp) oq ⟨by simp; exact hS.1, fun q g1 g2 => by
      rw [oq q (fun e => g2 (by rw [e]; exact hlo))]
      exact hS.2.1 q g1 g2, fun q hq => by
      rcases List.mem_append.mp hq with h | h
      · exact hS.2.2 q h
      · obtain ⟨z, -, hz⟩ := List.mem_map.mp h
        rw [← hz]
        exact hlo⟩ _ hheap X'
  exact ⟨t9, step t9 a1, b1⟩
theorem ax_RL_setL {s : State} {h : ax_H} {H H1 : Heap} {locs locs1 : List Loc} {i : Nat} {c : ax_C} (X : ax_RL G s h H locs) (hi : ¬ i < 400) (hl : i < 400 + h.2.1) (hn : ax_nw G H1 (ax_ad G i) c) (hz : H1.size = H.size) (hq : ∀ q : Nat, q ≠ ax_ad G i → H1[q]? = H[q]?) (hS : va_S (fun q => G.1.heap.size ≤ q) s.heap H1 locs1) (hI : ax_IV (ax_set h i c)) : ax_RL G s (ax_set h i c) H1 locs1 := by
  obtain ⟨r1, r2, r3, r4, r5, r6⟩ := ax_RL_set (f := 0) X hi hl hn hz hq hI
  exact ⟨r1, r2, r3, r4, hS, r6⟩
theorem ax_pfits {t : Nat} (ht : t = 0 ∨ t = 1 ∨ t = 3) : refKind (ax_ty t) = false := by rcases ht with e | e | e <;> (subst e; rfl)
theorem k_acp (F : ax_FA G) (B : ax_TB G) {index : Nat} (hw : ax_cpw M.1 index) (hobj : ∀ k ∈ ax_objs, ∃ r : vw_C, G.2.2.1[k]? = some r ∧ Cond.castable r.1 "java/lang/Object" ∈ lw_tbl) (hd : decode M.2.1 pc = .ok (.invokestatic index, 3)) : ax_Snd G l Y M pc (S_acp (pc + 3)) := by
  intro d K _ L st h o ho
  unfold S_acp at ho
  split at ho
  · split at ho
    · cases ho
    · rename_i k dp b sp a rest hlo
      have hlb : ¬ b < 400 := fun z => hlo (Or.inl z)
      have hlen : rest.length ≤ 4 := Nat.not_lt.mp fun z => hlo (Or.inr z)
      obtain ⟨c', hc', hy⟩ := Option.bind_eq_some_iff.mp ho
      cases hy
      refine ⟨⟨Nat.le_refl _, Nat.le_refl _⟩, fun p e R s m args below meth c CX hRf hRl h0 Q b1 b2 KO H locs ls g1 g2 X V => ?_⟩
      have hs := CX.2.2.2.2.2.2.2.2.2
      have fin : ∀ {t n1 : Nat} {x1 x2 : ax_D}, h.1 b = .inl (t, n1, x1) → ∀ (H1 : Heap) (locs1 : List Loc), H1[ax_ad G b]? = some (arrV (G.2.2.2.1 t) n1 (ax_el G x2)) → H1.size = H.size → (∀ q : Nat, q ≠ ax_ad G b → H1[q]? = H[q]?) → va_S (fun q => G.1.heap.size ≤ q) s.heap H1 locs1 → ax_IV (ax_set h b (.inl (t, n1, x2))) → ax_RL G s (ax_set h b (.inl (t, n1, x2))) H1 locs1 := by
        intro t n1 x1 x2 hc H1 locs1 e1 e2 e3 e4 e5
        rcases ax_new_at X hlb with hdd | ⟨hn, hlt⟩
        · rw [hc] at hdd; cases hdd
        · rw [hc] at hn
          exact ax_RL_setL X hlb hlt ⟨e1, hn.2⟩ e2 e3 e4 e5
      unfold ax_cp at hc'
      split at hc'
      · rename_i t0 n0 f t1 n1 g ha hb
        split at hc'
        · rename_i htt
          obtain ⟨rfl, ht⟩ := htt
          split at hc'
          · cases hc'
          · rename_i hbd
            cases hc'
            refine ax_copy (fun x => .int x) (f := f) (g := g) F hw CX V.1 X hlb ha hb rfl rfl hbd (fun vm' _ i hi kd comp _ _ T hT => ⟨?_, trivial⟩) hlen (by omega) (by omega) hd fun H1 locs1 e1 e2 e3 e4 => KO H1 locs1 ls g1 g2 (fin (x2 := .inl (va_cpy f g sp.toNatClampNeg dp.toNatClampNeg k.toNatClampNeg)) hb H1 locs1 e1 e2 e3 e4 (ax_IV_set X.2.2.2.2.2 (by rw [hb]; rfl) (fun _ _ e => by cases e) (fun n' f' e j hj => ?_))) V
            · rcases ht with e | e
              · subst e; rfl
              · subst e
                refine X.2.2.2.2.2.2 _ _ _ ha _ ?_
                have : sp.toNatClampNeg + k.toNatClampNeg ≤ n0 := Nat.not_lt.mp fun q => hbd (Or.inr (Or.inr (Or.inr (Or.inl q))))
                omega
            · cases e
              show fits .byte (.int (if dp.toNatClampNeg ≤ j ∧ j < dp.toNatClampNeg + k.toNatClampNeg then f (sp.toNatClampNeg + (j - dp.toNatClampNeg)) else g j)) = true
              split
              · refine X.2.2.2.2.2.2 _ _ _ ha _ ?_
                have : sp.toNatClampNeg + k.toNatClampNeg ≤ n0 := Nat.not_lt.mp fun q => hbd (Or.inr (Or.inr (Or.inr (Or.inl q))))
                omega
              · exact X.2.2.2.2.2.2 _ _ _ hb j hj
        · cases hc'
      · rename_i t0 n0 f t1 n1 g ha hb
        split at hc'
        · rename_i htt
          obtain ⟨rfl, rfl⟩ := htt
          split at hc'
          · cases hc'
          · rename_i hbd
            cases hc'
            refine ax_copy (fun x => .long x) (f := f) (g := g) F hw CX V.1 X hlb ha hb rfl rfl hbd (fun vm' _ i hi kd comp _ _ T hT => ⟨rfl, trivial⟩) hlen (by omega) (by omega) hd fun H1 locs1 e1 e2 e3 e4 => KO H1 locs1 ls g1 g2 (fin (x2 := .inr (.inl (va_cpy f g sp.toNatClampNeg dp.toNatClampNeg k.toNatClampNeg))) hb H1 locs1 e1 e2 e3 e4 (ax_IV_set X.2.2.2.2.2 (by rw [hb]; rfl) (fun _ _ e => by cases e) (fun n' f' e j hj => by cases e))) V
        · cases hc'
      · rename_i t0 n0 f t1 n1 g ha hb
        split at hc'
        · rename_i htt
          obtain ⟨rfl, rfl⟩ := htt
          split at hc'
          · cases hc'
          · rename_i hbd
            have hbs : sp.toNatClampNeg + k.toNatClampNeg ≤ n0 := Nat.not_lt.mp fun q => hbd (Or.inr (Or.inr (Or.inr (Or.inl q))))
            cases hc'
            refine ax_copy (fun x : Option Nat => va_rf (x.map (ax_ad G))) (f := f) (g := g) F hw CX V.1 X hlb ha hb rfl rfl hbd (fun vm' hal i hi kd comp hkd hkk T hT => ?_) hlen (by omega) (by omega) hd fun H1 locs1 e1 e2 e3 e4 => KO H1 locs1 ls g1 g2 (fin (x2 := .inr (.inr (.inr (.inr (va_cpy f g sp.toNatClampNeg dp.toNatClampNeg k.toNatClampNeg))))) hb H1 locs1 e1 e2 e3 e4 (ax_IV_set X.2.2.2.2.2 (by rw [hb]; rfl) (fun n' f' e j hj y hy => ?_) (fun _ _ e => by cases e))) V
            · cases hfy : f (sp.toNatClampNeg + i) with
              | none => exact ⟨rfl, trivial⟩
              | some y =>
                obtain ⟨q, hq, hcq⟩ := X.2.2.2.2.2.1 _ _ _ ha _ (show sp.toNatClampNeg + i < n0 by omega) y hfy
                obtain ⟨r, hr, hcast⟩ := hobj q hq
                obtain ⟨cellV, v1, v2, v3⟩ := ax_recv F hs X hcq hr
                obtain ⟨kA, comp', r1, r2, r3, -⟩ := ax_arr_RA F hs (t := 4) (by decide)
                cases r1.symm.trans hkd
                rw [r2] at hkk
                cases hkk
                obtain ⟨kE, hkE, -⟩ := Vm.findClass_spec r3
                obtain ⟨kC, hkC, -⟩ := Vm.findClass_spec v3
                obtain ⟨kC', hkC', -⟩ := hal.2.2 _ _ hkC
                obtain ⟨kE', hkE', -⟩ := hal.2.2 _ _ hkE
                refine ⟨rfl, cellV, (show T.heap[ax_ad G y]? = some cellV by rw [hT]; exact v1), (fun q h => by rw [h] at v2; cases v2), ⟨kC', hkC'⟩, ⟨kE', hkE'⟩, ?_⟩
                show vm'.assignable _ _ = true
                rw [hal.assignable]
                obtain ⟨c0, t0, w1, w2, w3⟩ := Cond.castable_spec (va_Nw.use (A := args) rfl (va_Nw.warmC hs.1 (B.nw hcast rfl)))
                cases Option.some.inj (w1.symm.trans v3)
                cases Option.some.inj (w2.symm.trans r3)
                exact w3
            · cases e
              have hy' : (if dp.toNatClampNeg ≤ j ∧ j < dp.toNatClampNeg + k.toNatClampNeg then f (sp.toNatClampNeg + (j - dp.toNatClampNeg)) else g j) = some y := hy
              split at hy'
              · exact X.2.2.2.2.2.1 _ _ _ ha _ (by omega) y hy'
              · exact X.2.2.2.2.2.1 _ _ _ hb j hj y hy'
        · cases hc'
      · cases hc'
  · cases ho
/-! clone -/
theorem k_cln (F : ax_FA G) (B : ax_TB G) {index t : Nat} {ad : String} (hnm : "[" ++ (ax_ty t).toString = ad) (hl : Cond.methodLink M.1 index ⟨ad, "clone", "()Ljava/lang/Object;"⟩ ∈ lw_all) (hsm : Cond.sameMethod ad "java/lang/Object" "clone" "()Ljava/lang/Object;" ∈ lw_all) (hn : Cond.native ⟨"java/lang/Object", "clone", "()Ljava/lang/Object;"⟩ ∈ lw_all) (hi : Cond.instanceMethod ⟨"java/lang/Object", "clone", "()Ljava/lang/Object;"⟩ ∈ lw_all) (hsel : Cond.selects ad ⟨ad, "clone", "()Ljava/lang/Object;"⟩ ⟨"java/lang/Object", "clone", "()Ljava/lang/Object;"⟩ ∈ lw_all) (hcl : Cond.castable ad "java/lang/Cloneable" ∈ lw_tbl) (hd : decode M.2.1 pc = .ok (.invokevirtual index, 3)) : ax_Snd G l Y M pc (S_cln t (pc + 3)) := by
  intro d K _ L st h o ho
  unfold S_cln at ho
  split at ho
  · split at ho
    · cases ho
    · rename_i a rest hlo
      have hla : ¬ a < 400 := fun z => hlo (Or.inl z)
      have hlen : rest.length ≤ 4 := Nat.not_lt.mp fun z => hlo (Or.inr z)
      obtain ⟨n, hn', hy⟩ := Option.bind_eq_some_iff.mp ho
      cases hy
      refine ⟨⟨Nat.le_succ _, Nat.le_add_right _ _⟩, fun p e R s m args below meth c CX hRf hRl h0 Q b1 b2 KO H locs ls g1 g2 X V => ?_⟩
      have hs := CX.2.2.2.2.2.2.2.2.2
      have hts := CX.2.2.2.2.1
      have b1 : h.2.1 + 1 ≤ h0.2.1 + R.cells := b1
      have b2 : h.2.2 + n ≤ h0.2.2 + R.slots := b2
      have g1 : h0.2.1 ≤ h.2.1 := g1
      have g2 : h0.2.2 ≤ h.2.2 := g2
      have hx : ∃ x : ax_D, h.1 a = .inl (t, n, x) ∧ (∀ i, i < n → fits (ax_ty t) (ax_el G x i) = true) ∧ (∀ (n' : Nat) (f : Nat → Option Nat), h.1 a ≠ .inl (4, n', .inr (.inr (.inr (.inr f))))) := by
        unfold ax_cln at hn'
        split at hn'
        · rename_i t' m' f hc
          split at hn'
          · rename_i ht
            cases hn'
            obtain ⟨rfl, rfl⟩ := ht
            exact ⟨_, hc, fun i hi => X.2.2.2.2.2.2 _ _ _ hc i hi, fun n' f e => by rw [hc] at e; cases e⟩
          · cases hn'
        · rename_i t' m' f hc
          split at hn'
          · rename_i ht
            cases hn'
            obtain ⟨rfl, rfl⟩ := ht
            exact ⟨_, hc, fun i hi => rfl, fun n' f e => by rw [hc] at e; cases e⟩
          · cases hn'
        · cases hn'
      obtain ⟨x, hc, hfit, hno4⟩ := hx
      obtain ⟨q1, q2, q3⟩ := ax_arr_cell F hs X hla hc
      have hf := ax_arr_find F hs q2
      rw [hnm] at hf
      have hq := ax_cat_le G rest
      obtain ⟨c0, t0', f1, f2, f3⟩ := Cond.castable_spec (va_Nw.use (A := args) rfl (va_Nw.warmC hs.1 (B.nw hcl rfl)))
      cases Option.some.inj (hf.symm.trans f1)
      intro T hT X0
      obtain ⟨-, kA, hkA, comp, hkind⟩ := State.isArrayOf_alike X0.warmed.alike q3
      obtain ⟨-, kS, hkS, compS, hkindS⟩ := q3
      obtain ⟨vm', X', st⟩ := X0.cloneArray CX.1 CX.2.2.2.1 (hts _ hl) (hts _ hsm) (hts _ hn) (hts _ hi) (hts _ hsel) (a := ax_ad G a) (cell := arrV (G.2.2.2.1 t) n (ax_el G x)) (by rw [hT]; exact q1) (fun k h => by cases h) (fun h => by cases h) hf f2 f3
        (fun i v hv => by
          have hk' : T.vm.classes[G.2.2.2.1 t]? = some kA := hkA
          have h9 := va_fit hfit i v hv
          simpa [State.fitsSlot, State.slotType?, show (arrV (G.2.2.2.1 t) n (ax_el G x)).cls = G.2.2.2.1 t from rfl, hk', hkind] using h9)
        (g := F0 m pc ls (.ref (ax_ad G a) :: rest.map (ax_v G))) rfl (by show ls.size = _; rw [V.1, CX.2.2.1]) rfl (by rw [CX.2.1]; exact hd) (by omega) (by show 2 * 0 + _ + 14 ≤ _; omega) (by show h.2.1 - h0.2.1 + 1 ≤ _; omega) (by show h.2.2 - h0.2.2 + _ ≤ _; rw [arrV_size]; omega) (hloader := Vm.clonesLoader_of_array hkS hkindS)
      have hcellE : ({ cls := (arrV (G.2.2.2.1 t) n (ax_el G x)).cls, slots := (arrV (G.2.2.2.1 t) n (ax_el G x)).slots } : Cell) = arrV (G.2.2.2.1 t) n (ax_el G x) := rfl
      rw [hcellE, arrV_size] at X'
      rw [hcellE] at st
      generalize hH1 : H.push (arrV (G.2.2.2.1 t) n (ax_el G x)) = H1
      have z1 : H1.size = H.size + 1 := by rw [← hH1, Array.size_push]
      have e1 : H1[H.size]? = some (arrV (G.2.2.2.1 t) n (ax_el G x)) := by rw [← hH1, Array.getElem?_push_size]
      have o1 : ∀ q : Nat, q < H.size → H1[q]? = H[q]? := fun q hq => by rw [← hH1, Array.getElem?_push, if_neg (Nat.ne_of_lt hq)]
      have hn31 : n < 2 ^ 31 := by
        rcases ax_new_at X hla with hdd | ⟨hnn, -⟩
        · rw [hc] at hdd; cases hdd
        · rw [hc] at hnn; exact hnn.2.1
      have X9 : ax_RL G s (ax_new h (h.1 a) n) H1 locs := by
        refine ax_RL_new X (by rw [hc]; exact ⟨e1, hn31, q2⟩) z1 o1 (ax_IV_new X.2.2.2.2.2 (ax_RL_dead X) (fun n' f e => absurd e (hno4 n' f)) (fun n' f e => ?_))
        exact X.2.2.2.2.2.2 _ _ _ e
      have k9 := KO H1 locs ls (by show h0.2.1 ≤ h.2.1 + 1; omega) (by show h0.2.2 ≤ h.2.2 + n; omega) X9 V
      have k8 : W p l e R s m args below meth c H1 locs (h.2.1 + 1 - h0.2.1) (h.2.2 + n - h0.2.2) Q (F0 m (pc + 3) ls (.ref (ax_ad G (400 + h.2.1)) :: rest.map (ax_v G))) := k9
      rw [ax_ad_new X, show h.2.1 + 1 - h0.2.1 = h.2.1 - h0.2.1 + 1 by omega, show h.2.2 + n - h0.2.2 = h.2.2 - h0.2.2 + n by omega] at k8
      obtain ⟨t, b1, b2⟩ := k8 ((T.setVm vm').pushCell (arrV (G.2.2.2.1 t) n (ax_el G x))) (by rw [← hH1, ← hT]; rfl) X'
      refine ⟨t, st t ?_, b2⟩
      rw [hT]
      exact b1
  · cases ho
end BLT
/-- a word of the tables that stays true: the good ones and three sorts more -/
def ax_mvb (w : Cond) : Bool := goodWord w || (match w with
  | .castable _ _ => true
  | .declares _ => true
  | .arrayOver _ => true
  | _ => false)
theorem ax_mv {G : ax_G} (B : ax_TB G) {s : State} (hs : ax_GD G s) {args : Array Value} (hts : ∀ w ∈ lw_all, w.before args s = true) {w : Cond} (h1 : w ∈ lw_tbl) (h2 : ax_mvb w = true) : w.before args s = true := by
  by_cases hg : goodWord w = true
  · exact hts _ (lw_g h1 hg)
  · unfold ax_mvb at h2
    rw [Bool.or_eq_true] at h2
    rcases h2 with h2 | h2
    · exact absurd h2 hg
    · have hal := hs.1.alike
      have hsm : s.setVm s.vm = s := rfl
      obtain ⟨A0, B0⟩ := B
      have h0 := B0 _ h1
      split at h2
      · exact va_tabs (A := A0) (u := G.1.setVm s.vm) rfl rfl (by rw [Cond.castable_setVm hal]; exact h0)
      · exact va_tabs (A := A0) (u := G.1.setVm s.vm) rfl rfl (by rw [Cond.declares_setVm hal]; exact h0)
      · rename_i ty
        have h9 : (Cond.arrayOver ty).before A0 (G.1.setVm s.vm) = true := by rw [Cond.arrayOver_setVmC hal]; exact h0
        exact h9
      · cases h2
section BLU
variable {G : ax_G} {l : Launch} {Y : ax_Y} {M : ax_M} {pc : Nat}
/-! new int[3][8], and a row of ints into rows -/
theorem ax_outer (cI : ClassId) (h0 : Nat) (g : Nat → Value) (hg : ∀ j, j < 3 → g j = .ref (h0 + 1 + j)) : Jvm.Free.Multi.outerC cI 3 h0 3 = arrV cI 3 g := by
  show ((({ cls := cI, slots := Array.replicate 3 .null, vm := .none } : Cell).setSlot 0 (.ref (h0 + 1 + 0))).setSlot 1 (.ref (h0 + 1 + 1))).setSlot 2 (.ref (h0 + 1 + 2)) = _
  rw [arrV_new, arrV_store, arrV_store, arrV_store]
  unfold arrV
  congr 1
  congr 1
  funext q
  obtain ⟨q, hq⟩ := q
  simp only [updV]
  rcases (show q = 0 ∨ q = 1 ∨ q = 2 by omega) with e | e | e <;> (subst e; simp [hg])
theorem k_newaa (F : ax_FA G) (B : ax_TB G) {index : Nat} (hl : Cond.classLink M.1 index ("[" ++ (FieldType.array .int).toString) ∈ lw_all) (hov : Cond.arrayOver (.array .int) ∈ lw_tbl) (har : Cond.arrayClass .int ∈ lw_all) (hd : decode M.2.1 pc = .ok (.multianewarray index 2, 4)) : ax_Snd G l Y M pc (S_newaa (pc + 4)) := by
  intro d K _ L st h o ho
  unfold S_newaa at ho
  split at ho
  · split at ho
    · rename_i y x rest hxy
      obtain ⟨rfl, rfl⟩ := hxy
      cases ho
      have mono : h.2.1 ≤ h.2.1 + 1 + 1 + 1 + 1 ∧ h.2.2 ≤ h.2.2 + 3 + 8 + 8 + 8 := by omega
      refine ⟨mono, fun p e R s m args below meth c CX hRf hRl h0 Q b1 b2 KO H locs ls g1 g2 X V => ?_⟩
      have hs := CX.2.2.2.2.2.2.2.2.2
      have hts := CX.2.2.2.2.1
      have b1 : h.2.1 + 1 + 1 + 1 + 1 ≤ h0.2.1 + R.cells := b1
      have b2 : h.2.2 + 3 + 8 + 8 + 8 ≤ h0.2.2 + R.slots := b2
      have g1 : h0.2.1 ≤ h.2.1 := g1
      have g2 : h0.2.2 ≤ h.2.2 := g2
      intro T hT X0
      obtain ⟨vm₁, cA, comp, hW, hfA, hfC, -, -, X1, step⟩ := X0.multianewarray2F CX.1 CX.2.2.2.1 (hts _ hl) (ax_mv B hs hts hov rfl) (hts _ har) (g := F0 m pc ls (.int 8 :: .int 3 :: rest.map (ax_v G))) rfl (by rw [CX.2.1]; exact hd) rfl (by decide) (by decide) (by decide) (by decide) (by decide) rfl rfl (by show h.2.1 - h0.2.1 + (1 + 3) ≤ _; omega) (by show h.2.2 - h0.2.2 + (3 + 3 * 8) ≤ _; omega)
      have c3 : (3 : Int32).toNatClampNeg = 3 := rfl
      have c8 : (8 : Int32).toNatClampNeg = 8 := rfl
      rw [c3, c8] at X1 step
      obtain ⟨f1, f2, f3, f4⟩ := Jvm.Free.Multi.fill_facts (T.setVm vm₁) cA comp 3 8 (defaultValue .int) 3
      have fi := Jvm.Free.Multi.fill_inner (T.setVm vm₁) cA comp 3 8 (defaultValue .int) 3
      have fo : ∀ a, a < (T.setVm vm₁).heap.size → _ := fun a ha => Jvm.Free.Multi.fill_old (T.setVm vm₁) cA comp 3 8 (defaultValue .int) (a := a) ha 3
      have hh : (T.setVm vm₁).heap = H := hT
      rw [hh] at f1 f2 fi fo
      have eA : cA = G.2.2.2.1 5 := Option.some.inj (hfA.symm.trans (ax_arr_find F hs (t := 5) (by decide)))
      have eC : comp = G.2.2.2.1 0 := Option.some.inj (hfC.symm.trans (ax_arr_find F hs (t := 0) (by decide)))
      generalize hN : Jvm.Free.Multi.fill (T.setVm vm₁) cA comp 3 8 (defaultValue .int) 3 = T2 at f1 f2 fi fo X1 step
      subst eA eC
      have X : ax_RL G s h H locs := X
      have hsz : H.size = G.1.heap.size + h.2.1 := X.1
      have hd0 := ax_RL_dead X
      have inner : ∀ j, j < 3 → T2.heap[H.size + 1 + j]? = some (arrV (G.2.2.2.1 0) 8 (ax_el G (.inl (fun _ => 0)))) := fun j hj => by
        rw [fi j hj]
        show some ({ cls := G.2.2.2.1 0, slots := Array.replicate 8 (defaultValue .int), vm := .none } : Cell) = _
        rw [arrV_new]
        rfl
      have X9 : ax_RL G s (ax_newaa h) T2.heap locs := by
        obtain ⟨r1, r2, r3, r4, r5, r6⟩ := X
        refine ⟨?_, fun j hj => ?_, fun j hj => ?_, fun j hj => ?_, ⟨?_, fun q q1 q2 => ?_, r5.2.2⟩, ?_⟩
        · show T2.heap.size = G.1.heap.size + (h.2.1 + 1 + 1 + 1 + 1)
          omega
        · have hj : j < h.2.1 + 1 + 1 + 1 + 1 := hj
          show ax_nw G T2.heap _ (if 400 + j = 400 + (h.2.1 + 1 + 1 + 1) then _ else if 400 + j = 400 + (h.2.1 + 1 + 1) then _ else if 400 + j = 400 + (h.2.1 + 1) then _ else if 400 + j = 400 + h.2.1 then _ else h.1 (400 + j))
          by_cases e3 : j = h.2.1 + 3
          · rw [if_pos (by omega), show G.1.heap.size + j = H.size + 1 + 2 by omega]
            exact ⟨inner 2 (by decide), by decide, by decide⟩
          · rw [if_neg (by omega)]
            by_cases e2 : j = h.2.1 + 2
            · rw [if_pos (by omega), show G.1.heap.size + j = H.size + 1 + 1 by omega]
              exact ⟨inner 1 (by decide), by decide, by decide⟩
            · rw [if_neg (by omega)]
              by_cases e1 : j = h.2.1 + 1
              · rw [if_pos (by omega), show G.1.heap.size + j = H.size + 1 + 0 by omega]
                exact ⟨inner 0 (by decide), by decide, by decide⟩
              · rw [if_neg (by omega)]
                by_cases e0 : j = h.2.1
                · rw [if_pos (by omega), show G.1.heap.size + j = H.size by omega]
                  refine ⟨?_, by decide, by decide⟩
                  rw [f2]
                  congr 1
                  refine ax_outer _ _ _ fun i hi => ?_
                  show va_rf ((if i < 3 then some (400 + h.2.1 + 1 + i) else none).map (ax_ad G)) = _
                  rw [if_pos hi]
                  show Value.ref (ax_ad G (400 + h.2.1 + 1 + i)) = _
                  rw [ax_ad_hi (by omega)]
                  have hz8 : G.1.heap.size + (400 + h.2.1 + 1 + i - 400) = H.size + 1 + i := by omega
                  exact congrArg Value.ref hz8
                · rw [if_neg (by omega)]
                  exact ax_nw_kept (r2 j (by omega)) (fo _ (by omega))
        · have hj : h.2.1 + 1 + 1 + 1 + 1 ≤ j := hj
          show (if 400 + j = 400 + (h.2.1 + 1 + 1 + 1) then _ else if 400 + j = 400 + (h.2.1 + 1 + 1) then _ else if 400 + j = 400 + (h.2.1 + 1) then _ else if 400 + j = 400 + h.2.1 then _ else h.1 (400 + j)) = ax_dead
          rw [if_neg (by omega), if_neg (by omega), if_neg (by omega), if_neg (by omega)]
          exact r3 j (by omega)
        · show (if j = 400 + (h.2.1 + 1 + 1 + 1) then _ else if j = 400 + (h.2.1 + 1 + 1) then _ else if j = 400 + (h.2.1 + 1) then _ else if j = 400 + h.2.1 then _ else h.1 j) = _
          rw [if_neg (by omega), if_neg (by omega), if_neg (by omega), if_neg (by omega)]
          exact r4 j hj
        · have := r5.1
          omega
        · have := r5.1
          rw [fo q (by omega)]
          exact r5.2.1 q q1 q2
        · have n4 : ∀ (n n' : Nat) (x : Nat → Int32) (f : Nat → Option Nat), (Sum.inl (0, n, .inl x) : ax_C) ≠ .inl (4, n', .inr (.inr (.inr (.inr f)))) := fun n n' x f e => by cases e
          have n3 : ∀ (n n' : Nat) (x f : Nat → Int32), (Sum.inl (0, n, .inl x) : ax_C) ≠ .inl (3, n', .inl f) := fun n n' x f e => by cases e
          have i1 : ax_IV (ax_new h (.inl (5, 3, .inr (.inr (.inr (.inr (fun j => if j < 3 then some (400 + h.2.1 + 1 + j) else none)))))) 3) := ax_IV_new r6 hd0 (fun _ _ e => by cases e) (fun _ _ e => by cases e)
          have dd : ∀ i, h.2.1 ≤ i → h.1 (400 + i) = ax_dead := r3
          have i2 := ax_IV_new (w := 8) i1 (by show (if 400 + (h.2.1 + 1) = 400 + h.2.1 then _ else h.1 (400 + (h.2.1 + 1))) = _; rw [if_neg (by omega)]; exact dd _ (by omega)) (fun n' f e => absurd e (n4 8 n' (fun _ => 0) f)) (fun n' f e => absurd e (n3 8 n' (fun _ => 0) f))
          have i3 := ax_IV_new (w := 8) i2 (by show (if 400 + (h.2.1 + 1 + 1) = 400 + (h.2.1 + 1) then _ else if 400 + (h.2.1 + 1 + 1) = 400 + h.2.1 then _ else h.1 (400 + (h.2.1 + 1 + 1))) = _; rw [if_neg (by omega), if_neg (by omega)]; exact dd _ (by omega)) (fun n' f e => absurd e (n4 8 n' (fun _ => 0) f)) (fun n' f e => absurd e (n3 8 n' (fun _ => 0) f))
          exact ax_IV_new (w := 8) i3 (by show (if 400 + (h.2.1 + 1 + 1 + 1) = 400 + (h.2.1 + 1 + 1) then _ else if 400 + (h.2.1 + 1 + 1 + 1) = 400 + (h.2.1 + 1) then _ else if 400 + (h.2.1 + 1 + 1 + 1) = 400 + h.2.1 then _ else h.1 (400 + (h.2.1 + 1 + 1 + 1))) = _; rw [if_neg (by omega), if_neg (by omega), if_neg (by omega)]; exact dd _ (by omega)) (fun n' f e => absurd e (n4 8 n' (fun _ => 0) f)) (fun n' f e => absurd e (n3 8 n' (fun _ => 0) f))
      have k9 := KO T2.heap locs ls (by show h0.2.1 ≤ h.2.1 + 1 + 1 + 1 + 1; omega) (by show h0.2.2 ≤ h.2.2 + 3 + 8 + 8 + 8; omega) X9 V
      have k8 : W p l e R s m args below meth c T2.heap locs (h.2.1 + 1 + 1 + 1 + 1 - h0.2.1) (h.2.2 + 3 + 8 + 8 + 8 - h0.2.2) Q (F0 m (pc + 4) ls (.ref (ax_ad G (400 + h.2.1)) :: rest.map (ax_v G))) := k9
      rw [ax_ad_new X, show h.2.1 + 1 + 1 + 1 + 1 - h0.2.1 = h.2.1 - h0.2.1 + 1 + 3 by omega, show h.2.2 + 3 + 8 + 8 + 8 - h0.2.2 = h.2.2 - h0.2.2 + 3 + 3 * 8 by omega] at k8
      obtain ⟨t, a1, a2⟩ := k8 T2 rfl X1
      refine ⟨t, step t ?_, a2⟩
      rw [hT]
      exact a1
    · cases ho
  · cases ho
theorem k_aastA (F : ax_FA G) (B : ax_TB G) (hov : Cond.arrayOver (.array .int) ∈ lw_tbl) (hd : decode M.2.1 pc = .ok (.aastore, 1)) : ax_Snd G l Y M pc (S_aastA (pc + 1)) := by
  intro d K _ L st h o ho
  unfold S_aastA at ho
  split at ho
  · split at ho
    · cases ho
    · rename_i x i a rest hlo
      have hla : ¬ a < 400 := fun z => hlo (Or.inl z)
      have hxo : ¬ x < 400 := fun z => hlo (Or.inr z)
      split at ho
      · rename_i xx hx
        obtain ⟨c', hc', hy⟩ := Option.bind_eq_some_iff.mp ho
        cases hy
        obtain ⟨n, f, hc, hn, rfl⟩ := ax_rs_spec hc'
        refine ⟨⟨Nat.le_refl _, Nat.le_refl _⟩, fun p e R s m args below meth c CX hRf hRl h0 Q b1 b2 KO H locs ls g1 g2 X V => ?_⟩
        have hs := CX.2.2.2.2.2.2.2.2.2
        obtain ⟨nx, xd⟩ := xx
        obtain ⟨q1, q2, q3⟩ := ax_arr_cell F hs X hla hc
        obtain ⟨comp, cA, kA, r1, r3, r4, r5⟩ := Cond.arrayOver_specA (ax_mv (args := args) B hs CX.2.2.2.2.1 hov rfl)
        have eC : comp = G.2.2.2.1 0 := Option.some.inj (r1.symm.trans (ax_arr_find F hs (t := 0) (by decide)))
        have eA : cA = G.2.2.2.1 5 := Option.some.inj (r5.symm.trans (ax_arr_find F hs (t := 5) (by decide)))
        subst eC eA
        obtain ⟨kcomp, p1, -⟩ := Vm.findClass_spec r1
        obtain ⟨v1, -, -⟩ := ax_arr_cell F hs X hxo hx
        refine W.aast CX.1 CX.2.1 q1 (fun q z => by cases z) (fun z => by cases z) r3 r4 rfl p1 ⟨fun z => hn (Or.inl z), by rw [arrV_size]; exact Nat.not_le.mp fun z => hn (Or.inr z)⟩ v1 (fun q z => by cases z) p1 (va_asg _ _) rfl rfl hd fun H' e1 e2 e3 => KO H' _ ls g1 g2 (ax_arr_set X hla hc e1 e2 e3 (ax_el_r _ _ _) (fun n' f' e j hj y hy => by cases e) (fun _ _ e => by cases e)) V
      · cases ho
  · cases ho
end BLU
