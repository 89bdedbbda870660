/-! casts, ends, throws, calls -/
section FLO
variable {G : ax_G} {l : Launch} {Y : ax_Y} {M : ax_M} {pc : Nat}
theorem ax_castable (F : ax_FA G) (B : ax_TB G) {s : State} (hs : ax_GD G s) {nm : String} {k : Nat} {r : vw_C} (hr : G.2.2.1[k]? = some r) (hc : r.1 = nm ∨ Cond.castable r.1 nm ∈ lw_tbl) : ClassAt s nm (G.2.1.1 k) ∨ va_Nw (.castable r.1 nm) s := by
  rcases hc with e | e
  · left
    rw [← e]
    exact ((ax_K_at F hs).1 k r hr).2
  · exact Or.inr (va_Nw.warmC hs.1 (B.nw e rfl))
theorem k_cast (F : ax_FA G) (B : ax_TB G) {oks : List Nat} {index : Nat} {nm : String} (hoks : ax_cas G nm oks) (hl : Cond.classLink M.1 index nm ∈ lw_all) (hd : decode M.2.1 pc = .ok (.checkcast index, 3)) : ax_Snd G l Y M pc (S_cast oks (pc + 3)) := by
  refine ax_snd_simple fun K L st h o ho => ?_
  unfold S_cast at ho
  split at ho
  · cases ho
    exact ⟨_, _, _, rfl, fun p e R s m args below meth c CX hRl hRf H locs ls cells slots Q X V _ _ k => lv_castN CX.1 CX.2.1 hd (k ls V)⟩
  · obtain ⟨k, hk, hz⟩ := Option.bind_eq_some_iff.mp ho
    split at hz
    · rename_i hin
      cases hz
      obtain ⟨r, hr, hc⟩ := hoks k hin
      refine ⟨_, _, _, rfl, fun p e R s m args below meth c CX hRl hRf H locs ls cells slots Q X V _ _ kk => ?_⟩
      have hs := CX.2.2.2.2.2.2.2.2.2
      obtain ⟨cell, v1, v2, v3⟩ := ax_recv F hs X hk hr
      rcases ax_castable F B hs hr hc with q | q
      · rcases hc with e | e
        · rw [e] at v3
          exact va_castS CX.1 CX.2.1 CX.2.2.2.1 (CX.2.2.2.2.1 _ hl) q ⟨cell, v1, v2, v3⟩ hd (kk ls V)
        · exact va_castY CX.1 CX.2.1 CX.2.2.2.1 (CX.2.2.2.2.1 _ hl) (va_Nw.warmC hs.1 (B.nw e rfl)) ⟨cell, v1, v2, v3⟩ hd (kk ls V)
      · exact va_castY CX.1 CX.2.1 CX.2.2.2.1 (CX.2.2.2.2.1 _ hl) q ⟨cell, v1, v2, v3⟩ hd (kk ls V)
    · cases hz
  · cases ho
/-- the kinds of ks are not of the class nm -/
def ax_ncs (G : ax_G) (nm : String) (ks : List Nat) : Prop := ∀ k ∈ ks, ∃ r : vw_C, G.2.2.1[k]? = some r ∧ va_Nc r.1 nm G.1
theorem ax_ncs_nil {nm : String} : ax_ncs G nm [] := fun _ h => nomatch h
theorem ax_ncs_cons {nm : String} {k : Nat} {ks : List Nat} {r : vw_C} (h : G.2.2.1[k]? = some r) (h2 : va_Nc r.1 nm G.1) (t : ax_ncs G nm ks) : ax_ncs G nm (k :: ks) := by
  intro q hq
  rcases List.mem_cons.mp hq with e | e
  · rw [e]; exact ⟨r, h, h2⟩
  · exact t q e
theorem k_inst (F : ax_FA G) (B : ax_TB G) {yes no : List Nat} {index : Nat} {nm : String} (hy : ax_cas G nm yes) (hn : ax_ncs G nm no) (hl : Cond.classLink M.1 index nm ∈ lw_all) (hd : decode M.2.1 pc = .ok (.instanceof index, 3)) : ax_Snd G l Y M pc (S_inst yes no (pc + 3)) := by
  refine ax_snd_simple fun K L st h o ho => ?_
  unfold S_inst at ho
  split at ho
  · obtain ⟨k, hk, hz⟩ := Option.bind_eq_some_iff.mp ho
    split at hz
    · rename_i hin
      cases hz
      obtain ⟨r, hr, hc⟩ := hy k hin
      refine ⟨_, _, _, rfl, fun p e R s m args below meth c CX hRl hRf H locs ls cells slots Q X V _ _ kk => ?_⟩
      have hs := CX.2.2.2.2.2.2.2.2.2
      obtain ⟨cell, v1, v2, v3⟩ := ax_recv F hs X hk hr
      rcases hc with e | e
      · rw [e] at v3
        exact va_instS CX.1 CX.2.1 CX.2.2.2.1 (CX.2.2.2.2.1 _ hl) (by rw [← e]; exact ((ax_K_at F hs).1 k r hr).2) ⟨cell, v1, v2, v3⟩ hd (kk ls V)
      · exact va_instY CX.1 CX.2.1 CX.2.2.2.1 (CX.2.2.2.2.1 _ hl) (va_Nw.warmC hs.1 (B.nw e rfl)) ⟨cell, v1, v2, v3⟩ hd (kk ls V)
    · split at hz
      · rename_i hin
        cases hz
        obtain ⟨r, hr, hc⟩ := hn k hin
        refine ⟨_, _, _, rfl, fun p e R s m args below meth c CX hRl hRf H locs ls cells slots Q X V _ _ kk => ?_⟩
        have hs := CX.2.2.2.2.2.2.2.2.2
        obtain ⟨cell, v1, v2, v3⟩ := ax_recv F hs X hk hr
        exact va_instNo CX.1 CX.2.1 CX.2.2.2.1 (CX.2.2.2.2.1 _ hl) (va_Nc.moved hs.1.alike hc) ⟨cell, v1, v2, v3⟩ hd (kk ls V)
      · cases hz
  · cases ho
/-! ends -/
theorem ax_snd_end {S : ax_S} (op : Instr) (hd : decode M.2.1 pc = .ok (op, 1)) (hS : ∀ (K : ax_K) (L : ax_L) (st : List Value) (h : ax_H) (o : ax_F ⊕ ax_R), S K L st h = some o → ∃ v : Option Value, o = .inr (.inl v, h) ∧ st = v.toList ∧ ax_rop M.2.2.2.1 op v) : ax_Snd G l Y M pc S := by
  intro d K _ L st h o ho
  obtain ⟨v, rfl, rfl, hr⟩ := hS K L st h o ho
  refine ⟨⟨Nat.le_refl _, Nat.le_refl _⟩, fun p e R s m args below meth c CX hRf hRl h0 Q b1 b2 KO H locs ls g1 g2 X V => ?_⟩
  have k9 := KO.1 v rfl pc op hd hr H locs ls g1 g2 X V.1
  have e9 : v.toList.map (ax_v G) = (v.map (ax_v G)).toList := by cases v <;> rfl
  show W p l e R s m args below meth c H locs _ _ Q (F0 m pc ls (v.toList.map (ax_v G)))
  rw [e9]
  exact k9
theorem k_iret (hd : decode M.2.1 pc = .ok (.ireturn, 1)) (hr : M.2.2.2.1 = some .int) : ax_Snd G l Y M pc S_iret := by
  refine ax_snd_end _ hd fun K L st h o ho => ?_
  unfold S_iret at ho
  split at ho
  · cases ho; exact ⟨_, rfl, rfl, rfl, _, hr, rfl⟩
  · cases ho
theorem k_zret (hd : decode M.2.1 pc = .ok (.ireturn, 1)) (hr : M.2.2.2.1 = some .boolean) : ax_Snd G l Y M pc S_zret := by
  refine ax_snd_end _ hd fun K L st h o ho => ?_
  unfold S_zret at ho
  split at ho
  · split at ho
    · rename_i hz
      cases ho
      refine ⟨_, rfl, rfl, rfl, _, hr, ?_⟩
      rcases hz with e | e <;> (subst e; decide)
    · cases ho
  · cases ho
theorem k_bret (hd : decode M.2.1 pc = .ok (.ireturn, 1)) (hr : M.2.2.2.1 = some .byte) : ax_Snd G l Y M pc S_bret := by
  refine ax_snd_end _ hd fun K L st h o ho => ?_
  unfold S_bret at ho
  split at ho
  · split at ho
    · rename_i hz
      cases ho
      unfold ax_ft at hz
      rw [Bool.and_eq_true, decide_eq_true_eq] at hz
      exact ⟨_, rfl, rfl, rfl, _, hr, hz.1⟩
    · cases ho
  · cases ho
theorem k_lret (hd : decode M.2.1 pc = .ok (.lreturn, 1)) (hr : M.2.2.2.1 = some .long) : ax_Snd G l Y M pc S_lret := by
  refine ax_snd_end _ hd fun K L st h o ho => ?_
  unfold S_lret at ho
  split at ho
  · cases ho; exact ⟨_, rfl, rfl, rfl, hr⟩
  · cases ho
theorem k_aret {ty : FieldType} (hd : decode M.2.1 pc = .ok (.areturn, 1)) (hr : M.2.2.2.1 = some ty) (ht : (∃ n, ty = .object n) ∨ ∃ t, ty = .array t) : ax_Snd G l Y M pc S_aret := by
  refine ax_snd_end _ hd fun K L st h o ho => ?_
  unfold S_aret at ho
  split at ho
  · cases ho; exact ⟨_, rfl, rfl, rfl, _, hr, ht⟩
  · cases ho; exact ⟨_, rfl, rfl, rfl, _, hr, ht⟩
  · cases ho
theorem k_ret (hd : decode M.2.1 pc = .ok (.return_, 1)) (hr : M.2.2.2.1 = none) : ax_Snd G l Y M pc S_ret := by
  refine ax_snd_end _ hd fun K L st h o ho => ?_
  unfold S_ret at ho
  split at ho
  · cases ho; exact ⟨_, rfl, rfl, rfl, hr⟩
  · cases ho
/-! throws -/
theorem ax_th_hp {hd : Nat → Option (Option Nat)} {L : ax_L} {i : Nat} {h : ax_H} {o : ax_F ⊕ ax_R} (ho : ax_th L hd i h = some o) : ax_hp o = h := by
  unfold ax_th at ho
  split at ho
  · cases ho
  · obtain ⟨k, hk, hz⟩ := Option.bind_eq_some_iff.mp ho
    obtain ⟨oo, hoo, hy⟩ := Option.bind_eq_some_iff.mp hz
    cases oo <;> (cases hy; rfl)
theorem ax_bk_hp {hd : Nat → Option (Option Nat)} {n : Nat} {L : ax_L} {rest : List Value} {r : ax_R} {o : ax_F ⊕ ax_R} (ho : ax_bk n L rest hd r = some o) : ax_hp o = r.2 := by
  obtain ⟨rv, h'⟩ := r
  cases rv with
  | inl v => cases ho; rfl
  | inr i => exact ax_th_hp ho
/-- what the table of the method does with a thing of the kind k that is thrown at pc -/
def ax_ho (G : ax_G) (M : ax_M) (pc k : Nat) (o : Option Nat) : Prop := ∃ r : vw_C, G.2.2.1[k]? = some r ∧ ∀ (s : State) (args : Array Value), ax_GD G s → (∀ w ∈ lw_all, w.before args s = true) → match o with
  | none => ∀ z ∈ tableOf M.2.2.2.2.2, ax_past G M s args k pc z
  | some hpc => ∃ (pre : List ExceptionTableEntry) (x : ExceptionTableEntry) (suf : List ExceptionTableEntry) (nm : String), tableOf M.2.2.2.2.2 = pre ++ x :: suf ∧ (∀ z ∈ pre, ax_past G M s args k pc z) ∧ covers x pc = true ∧ x.catchType ≠ 0 ∧ x.handlerPc = hpc ∧ (Cond.classLink M.1 x.catchType nm).before args s = true ∧ (Cond.castable r.1 nm).before args s = true
def ax_hok (G : ax_G) (M : ax_M) (pc : Nat) (hd : Nat → Option (Option Nat)) : Prop := ∀ k o, hd k = some o → ax_ho G M pc k o
theorem ax_exc_cell (F : ax_FA G) {s : State} (hs : ax_GD G s) {h : ax_H} {H : Heap} {locs : List Loc} (X : ax_RL G s h H locs) {i k : Nat} {r : vw_C} (hlo : ¬ i < 400) (hk : ax_ci (h.1 i) = some k) (hr : G.2.2.1[k]? = some r) : ∃ ce : Cell, H[ax_ad G i]? = some ce ∧ ce.vm = .none ∧ s.vm.findClass r.1 = some ce.cls := by
  cases hc : h.1 i with
  | inl a => rw [hc] at hk; cases hk
  | inr w =>
    obtain ⟨kk, fs⟩ := w
    rw [hc] at hk
    cases hk
    rcases ax_new_at X hlo with hdd | ⟨hn, -⟩
    · rw [hc] at hdd
      cases hdd
      exact absurd rfl (ax_len_lt F hr)
    · rw [hc] at hn
      obtain ⟨r', f1, f2, ⟨cell, q1, q2, q3, q4⟩, -⟩ := hn
      cases Option.some.inj (f1.symm.trans hr)
      exact ⟨cell, q1, q3, by rw [q2]; exact ((ax_K_at F hs).1 kk _ hr).2.1⟩
theorem ax_throw (F : ax_FA G) {hd : Nat → Option (Option Nat)} (hok : ax_hok G M pc hd) {p : Program} {e : Env} {R : Jvm.Room} {s : State} {m : MethodId} {args : Array Value} {below : List Frame} {meth : Method} {c : Code} (CX : ax_CX G M p s m args meth c) {L : ax_L} {i : Nat} {h : ax_H} {o : ax_F ⊕ ax_R} (ho : ax_th L hd i h = some o) :
    ax_hp o = h ∧ ∀ (h0 : ax_H) (Q : State → Prop), ax_KO G M p l e R s m args below meth c h0 Q o → ∀ (H : Heap) (locs : List Loc) (ls : Array Slot) (rest : List Value), h0.2.1 ≤ h.2.1 → h0.2.2 ≤ h.2.2 → ax_RL G s h H locs → ax_LV G ls M.2.2.1 L →
      vx_W p l e R s m args below meth c H locs (h.2.1 - h0.2.1) (h.2.2 - h0.2.2) Q (F0 m pc ls rest) (ax_ad G i) := by
  have hs := CX.2.2.2.2.2.2.2.2.2
  unfold ax_th at ho
  split at ho
  · cases ho
  · rename_i hlo
    obtain ⟨k, hk, hz⟩ := Option.bind_eq_some_iff.mp ho
    obtain ⟨oo, hoo, hy⟩ := Option.bind_eq_some_iff.mp hz
    obtain ⟨r, hr, hh⟩ := hok k oo hoo
    have hh := hh s args hs CX.2.2.2.2.1
    cases oo with
    | none =>
      cases hy
      exact ⟨rfl, fun h0 Q KO H locs ls rest g1 g2 X V => KO.2 i rfl pc k r hlo hk hr hh H locs ls rest g1 g2 X⟩
    | some hpc =>
      cases hy
      refine ⟨rfl, fun h0 Q KO H locs ls rest g1 g2 X V => ?_⟩
      obtain ⟨pre, x, suf, nm, e1, e2, e3, e4, rfl, e6, e7⟩ := hh
      have hcell := ax_exc_cell F hs X hlo hk hr
      obtain ⟨ce, c1, c2, c3⟩ := hcell
      refine vx_catch CX.2.2.2.1 pre x suf (by rw [CX.2.2.2.2.2.2.2.2.1]; exact e1) (fun z hz => ?_) e3 e4 e6 e7 c1 c2 c3 (KO H locs ls g1 g2 X V)
      rcases e2 z hz with q | ⟨q1, n2, q2, r2, q3, q4⟩
      · exact Or.inl q
      · cases Option.some.inj (q3.symm.trans hr)
        exact Or.inr ⟨q1, n2, q2, q4⟩
theorem k_athrow (F : ax_FA G) {hd : Nat → Option (Option Nat)} (hok : ax_hok G M pc hd) (hdd : decode M.2.1 pc = .ok (.athrow, 1)) : ax_Snd G l Y M pc (S_athrow hd) := by
  intro d K _ L st h o ho
  unfold S_athrow at ho
  split at ho
  · rw [ax_th_hp ho]
    refine ⟨⟨Nat.le_refl _, Nat.le_refl _⟩, fun p e R s m args below meth c CX hRf hRl h0 Q b1 b2 KO H locs ls g1 g2 X V => ?_⟩
    obtain ⟨-, e2⟩ := ax_throw (l := l) (R := R) (e := e) (below := below) F hok CX ho
    exact vx_athrow CX.1 CX.2.1 hdd (e2 h0 Q KO H locs ls _ g1 g2 X V)
  · cases ho
/-! calls -/
def ax_Run (n : Nat) (p : Program) (l : Launch) (e : Env) (R : Jvm.Room) (s : State) (m : MethodId) (args : Array Value) (below : List Frame) (meth : Method) (c : Code) (H : Heap) (locs : List Loc) (cells slots mc ms : Nat) (g : JFrame) (rest : List Value) (Qa : State → Outcome → State → Prop) (XC : Addr → String → State → State → Prop) (free : Addr → Prop) : Prop :=
  ∀ T : State, T.heap = H → Stand p l e R s m args below meth c T locs cells slots →
    (∃ (v : Option Value) (st₀ t T' : State) (L : List Loc), st₀.heap = H ∧ Stand p l e R s m args below meth c T' (locs ++ L) (cells + mc) (slots + ms) ∧ (∀ q ∈ L, free q.base) ∧ T'.heap = t.heap ∧ T'.vm = t.vm ∧ Qa st₀ (.returned v) t ∧
      Goes p e below T g T' { g with pc := g.pc + n, stack := v.toList ++ rest }) ∨
    (∃ (q : Addr) (st₀ t T' : State) (L : List Loc) (E : String) (ce : Cell), st₀.heap = H ∧ Stand p l e R s m args below meth c T' (locs ++ L) (cells + mc) (slots + ms) ∧ (∀ z ∈ L, free z.base) ∧ T'.heap = t.heap ∧ T'.vm = t.vm ∧ XC q E st₀ t ∧ t.heap[q]? = some ce ∧ ce.vm = .none ∧ s.vm.findClass E = some ce.cls ∧
      Steps p.tables e below (T.setTop g) ((T'.setTop { g with stack := rest }).pushFrame (.throwing q)))
theorem ax_HD_RL {s t : State} {h h0 : ax_H} {H1 : Heap} {locs : List Loc} (hD : ax_HD G h t) (e : H1 = t.heap) (hS : va_S (fun q => G.1.heap.size ≤ q) s.heap H1 locs) : ax_RL G s h H1 locs := by
  subst e
  obtain ⟨-, h1, h2, h3, h4, -, h6⟩ := hD
  exact ⟨h1, h2, h3, h4, hS, h6⟩
/-- behind a call -/
theorem ax_called (F : ax_FA G) {n : Nat} {hd : Nat → Option (Option Nat)} (hok : ax_hok G M pc hd) {p : Program} {e : Env} {R : Jvm.Room} {s : State} {m : MethodId} {args : Array Value} {below : List Frame} {meth : Method} {c : Code} (CX : ax_CX G M p s m args meth c) {L : ax_L} {rest : List Value} {h : ax_H} {r : ax_R} {o : ax_F ⊕ ax_R} (hbk : ax_bk (pc + n) L rest hd r = some o) (hm1 : h.2.1 ≤ r.2.2.1) (hm2 : h.2.2 ≤ r.2.2.2) :
    ax_hp o = r.2 ∧ ∀ (h0 : ax_H) (Q : State → Prop), ax_KO G M p l e R s m args below meth c h0 Q o → ∀ (H : Heap) (locs : List Loc) (ls : Array Slot) (st0 : List Value) (a : Array Value), h0.2.1 ≤ h.2.1 → h0.2.2 ≤ h.2.2 → ax_RL G s h H locs → ax_LV G ls M.2.2.1 L →
      ax_Run n p l e R s m args below meth c H locs (h.2.1 - h0.2.1) (h.2.2 - h0.2.2) (r.2.2.1 - h.2.1) (r.2.2.2 - h.2.2) (F0 m pc ls st0) (rest.map (ax_v G)) (ax_Qc G r a) (ax_XC G r) (fun q => G.1.heap.size ≤ q) →
      W p l e R s m args below meth c H locs (h.2.1 - h0.2.1) (h.2.2 - h0.2.2) Q (F0 m pc ls st0) := by
  obtain ⟨rv, h'⟩ := r
  cases rv with
  | inl v =>
    cases hbk
    refine ⟨rfl, fun h0 Q KO H locs ls st0 a g1 g2 X V hrun T hT Xs => ?_⟩
    rcases hrun T hT Xs with ⟨v', st₀, t, T', L', e0, X', hL, e1, e2, ⟨v2, q1, q2, q3, q4⟩, st⟩ | ⟨q, st₀, t, T', L', E, ce, e0, X', hL, e1, e2, ⟨i, k, w, q1, -⟩, -⟩
    · cases q1
      cases q2
      obtain ⟨-, -, k3⟩ := vx_keep e0 e1 X.2.2.2.2.1 (fun q _ z => z) (fun q z => z) hL q4
      have g1' : h0.2.1 ≤ h'.2.1 := Nat.le_trans g1 hm1
      have g2' : h0.2.2 ≤ h'.2.2 := Nat.le_trans g2 hm2
      have k9 := KO T'.heap (locs ++ L') ls g1' g2' (ax_HD_RL (h0 := h0) q3 e1 k3) V
      have hm1 : h.2.1 ≤ h'.2.1 := hm1
      have hm2 : h.2.2 ≤ h'.2.2 := hm2
      have X2 : Stand p l e R s m args below meth c T' (locs ++ L') (h'.2.1 - h0.2.1) (h'.2.2 - h0.2.2) := by
        have z1 : h.2.1 - h0.2.1 + (h'.2.1 - h.2.1) = h'.2.1 - h0.2.1 := by omega
        have z2 : h.2.2 - h0.2.2 + (h'.2.2 - h.2.2) = h'.2.2 - h0.2.2 := by omega
        rw [← z1, ← z2]
        exact X'
      obtain ⟨t2, a1, b1⟩ := k9 T' rfl X2
      refine ⟨t2, st t2 ?_, b1⟩
      have e5 : (v.map (ax_v G)).toList ++ rest.map (ax_v G) = (v.toList ++ rest).map (ax_v G) := by cases v <;> rfl
      rw [e5]
      exact a1
    · cases q1
  | inr i =>
    obtain ⟨e1, e2⟩ := ax_throw (l := l) (R := R) (e := e) (below := below) F hok CX hbk
    refine ⟨e1, fun h0 Q KO H locs ls st0 a g1 g2 X V hrun T hT Xs => ?_⟩
    rcases hrun T hT Xs with ⟨v', st₀, t, T', L', e0, X', hL, e1, e2, ⟨v2, q1, -⟩, -⟩ | ⟨q, st₀, t, T', L', E, ce, e0, X', hL, z1, z2, ⟨i', k, w, q1, q2, -, -, -, q6, q7⟩, -, -, -, st⟩
    · cases q1
    · cases q1
      obtain ⟨-, -, k3⟩ := vx_keep e0 z1 X.2.2.2.2.1 (fun q _ z => z) (fun q z => z) hL q7
      have hm1 : h.2.1 ≤ h'.2.1 := hm1
      have hm2 : h.2.2 ≤ h'.2.2 := hm2
      have k9 := e2 h0 Q KO T'.heap (locs ++ L') ls (rest.map (ax_v G)) (Nat.le_trans g1 hm1) (Nat.le_trans g2 hm2) (ax_HD_RL (h0 := h0) q6 z1 k3) V
      have X2 : Stand p l e R s m args below meth c T' (locs ++ L') (h'.2.1 - h0.2.1) (h'.2.2 - h0.2.2) := by
        have z1 : h.2.1 - h0.2.1 + (h'.2.1 - h.2.1) = h'.2.1 - h0.2.1 := by omega
        have z2 : h.2.2 - h0.2.2 + (h'.2.2 - h.2.2) = h'.2.2 - h0.2.2 := by omega
        rw [← z1, ← z2]
        exact X'
      obtain ⟨t2, a1, b1⟩ := k9 T' rfl X2
      subst q2
      exact ⟨t2, st.trans a1, b1⟩
end FLO
