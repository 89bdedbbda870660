set_option maxRecDepth 100000
/-! calls are sound -/
theorem ax_HD_of {G : ax_G} {s U : State} (hs : ax_GD G s) {h : ax_H} {H : Heap} {locs : List Loc} (X : ax_RL G s h H locs) (hU : U.heap = H) (hW : s.WarmedH U.vm) : ax_HD G h U := by
  subst hU
  obtain ⟨h1, h2, h3, h4, hS, h6⟩ := X
  refine ⟨⟨State.WarmedH.trans hs.1 hW, fun q hq => ?_, by omega⟩, h1, h2, h3, h4, va_S.rf, h6⟩
  rw [hS.2.1 q (by have := hs.2.2; omega) (by show ¬ G.1.heap.size ≤ q; omega)]
  exact hs.2.1 q hq
theorem ax_blind {G : ax_G} {h : ax_H} {as : List Value} : FrameBlind (va_Pc as (ax_HD G h)) := fun _ _ _ _ q => q
theorem ax_cats {G : ax_G} {rest : List Value} (h : rest.length ≤ 4) : ((rest.map (ax_v G)).map fun v => v.category).sum ≤ 8 := by
  have key : ∀ r : List Value, ((r.map (ax_v G)).map fun v => v.category).sum ≤ 2 * r.length := by
    intro r
    induction r with
    | nil => simp
    | cons a r ih =>
      have h1 : (ax_v G a).category ≤ 2 := by rcases lv_cat (ax_v G a) with e | e <;> omega
      simp only [List.map_cons, List.sum_cons, List.length_cons]
      omega
  have := key rest
  omega
section CAL
variable (G : ax_G) (l : Launch) (Y : ax_Y) (M : ax_M) (pc : Nat)
def ax_EvS (k a len : Nat) : Prop := ∀ (d : Nat) (p : Program) (e : Env) (R : Jvm.Room) (s : State) (m : MethodId) (args : Array Value) (below : List Frame) (meth : Method) (c : Code), ax_CX G M p s m args meth c → d + 21 ≤ R.frames → 60 * d + 360 ≤ R.locals → ∀ (Pc : Array Value → State → Prop) (Qc : Array Value → State → Outcome → State → Prop) (XC : Addr → String → State → State → Prop) (mc ms : Nat) (free : Addr → Prop),
  vx_Met l (Y k).1 (Y k).2 (ax_rm d mc ms) Pc Qc XC mc ms free → ∀ (H : Heap) (locs : List Loc) (cells slots : Nat) (As rest : List Value) (ls : Array Slot), PreS s H Pc As → As.length = a → ls.size = M.2.2.1 → (rest.map fun v => v.category).sum ≤ 8 → cells + mc ≤ R.cells ∧ slots + ms ≤ R.slots →
    ax_Run len p l e R s m args below meth c H locs cells slots mc ms (F0 m pc ls (As.reverse ++ rest)) rest (Qc As.toArray) XC free
def ax_EvI (k a len : Nat) : Prop := ∀ (d : Nat) (p : Program) (e : Env) (R : Jvm.Room) (s : State) (m : MethodId) (args : Array Value) (below : List Frame) (meth : Method) (c : Code), ax_CX G M p s m args meth c → d + 21 ≤ R.frames → 60 * d + 360 ≤ R.locals → ∀ (Pc : Array Value → State → Prop) (Qc : Array Value → State → Outcome → State → Prop) (XC : Addr → String → State → State → Prop) (mc ms : Nat) (free : Addr → Prop),
  vx_Met l (Y k).1 (Y k).2 (ax_rm d mc ms) Pc Qc XC mc ms free → ∀ (H : Heap) (locs : List Loc) (cells slots : Nat) (b : Nat) (As rest : List Value) (ls : Array Slot), PreS s H Pc (.ref b :: As) → As.length = a → ls.size = M.2.2.1 → (rest.map fun v => v.category).sum ≤ 8 → cells + mc ≤ R.cells ∧ slots + ms ≤ R.slots →
    ax_Run len p l e R s m args below meth c H locs cells slots mc ms (F0 m pc ls (As.reverse ++ .ref b :: rest)) rest (Qc (Value.ref b :: As).toArray) XC free
def ax_EvV (a len ci k : Nat) : Prop := ∃ r : vw_C, G.2.2.1[ci]? = some r ∧ ∀ (d : Nat) (p : Program) (e : Env) (R : Jvm.Room) (s : State) (m : MethodId) (args : Array Value) (below : List Frame) (meth : Method) (c : Code), ax_CX G M p s m args meth c → d + 21 ≤ R.frames → 60 * d + 360 ≤ R.locals → ∀ (Pc : Array Value → State → Prop) (Qc : Array Value → State → Outcome → State → Prop) (XC : Addr → String → State → State → Prop) (mc ms : Nat) (free : Addr → Prop),
  vx_Met l (Y k).1 (Y k).2 (ax_rm d mc ms) Pc Qc XC mc ms free → ∀ (H : Heap) (locs : List Loc) (cells slots : Nat) (b : Nat) (As rest : List Value) (ls : Array Slot), PreV s H r.1 b Pc As → As.length = a → ls.size = M.2.2.1 → (rest.map fun v => v.category).sum ≤ 8 → cells + mc ≤ R.cells ∧ slots + ms ≤ R.slots →
    ax_Run len p l e R s m args below meth c H locs cells slots mc ms (F0 m pc ls (As.reverse ++ .ref b :: rest)) rest (Qc (Value.ref b :: As).toArray) XC free
def ax_Evs (a len : Nat) (tb : List (Nat × Nat)) : Prop := ∀ ci k, tb.lookup ci = some k → ax_EvV G l Y M pc a len ci k
end CAL
section CAM
variable {G : ax_G} {l : Launch} {Y : ax_Y} {M : ax_M} {pc : Nat}
theorem ax_Evs_nil {a len : Nat} : ax_Evs G l Y M pc a len [] := fun _ _ h => by cases h
theorem ax_Evs_cons {a len ci k : Nat} {tb : List (Nat × Nat)} (h : ax_EvV G l Y M pc a len ci k) (t : ax_Evs G l Y M pc a len tb) : ax_Evs G l Y M pc a len ((ci, k) :: tb) := by
  intro i j e
  rw [List.lookup_cons] at e
  by_cases z : (i == ci) = true
  · rw [z] at e
    cases e
    rw [beq_iff_eq.mp z]
    exact h
  · rw [Bool.not_eq_true] at z
    rw [z] at e
    exact t i j e
theorem k_is (F : ax_FA G) {k a n : Nat} {hd : Nat → Option (Option Nat)} (hok : ax_hok G M pc hd) (hE : ax_EvS G l Y M pc k a n) : ax_Snd G l Y M pc (S_is k a (pc + n) hd) := by
  intro d K hK L st h o ho
  unfold S_is at ho
  split at ho
  · rename_i hlen
    obtain ⟨r, hr, hbk⟩ := Option.bind_eq_some_iff.mp ho
    obtain ⟨m1, m2, hM⟩ := hK k _ h r hr
    have e1 := ax_bk_hp hbk
    rw [e1]
    refine ⟨⟨m1, m2⟩, fun p e R s m args below meth c CX hRf hRl h0 Q b1 b2 KO H locs ls g1 g2 X V => ?_⟩
    obtain ⟨-, e2⟩ := ax_called (l := l) (R := R) (e := e) (below := below) F hok CX hbk m1 m2
    have hs := CX.2.2.2.2.2.2.2.2.2
    have g1 : h0.2.1 ≤ h.2.1 := g1
    have g2 : h0.2.2 ≤ h.2.2 := g2
    have hrun := hE d p e R s m args below meth c CX hRf hRl _ _ _ _ _ _ hM H locs (h.2.1 - h0.2.1) (h.2.2 - h0.2.2) ((st.take a).reverse.map (ax_v G)) ((st.drop a).map (ax_v G)) ls ⟨ax_blind, fun U hU hW => ⟨rfl, ax_HD_of hs X hU hW⟩⟩ (by simp; omega) V.1 (ax_cats hlen.2) ⟨by omega, by omega⟩
    have es : ((st.take a).reverse.map (ax_v G)).reverse ++ (st.drop a).map (ax_v G) = st.map (ax_v G) := by
      rw [List.map_reverse, List.reverse_reverse, ← List.map_append, List.take_append_drop]
    rw [es] at hrun
    exact e2 h0 Q KO H locs ls _ _ g1 g2 X V hrun
  · cases ho
theorem ax_split {st : List Value} {a : Nat} {v : Value} {rest : List Value} (e : st.drop a = v :: rest) : (st.take a).length = a ∧ st = st.take a ++ v :: rest := by
  have h1 : a < st.length := by
    rcases Nat.lt_or_ge a st.length with q | q
    · exact q
    · rw [List.drop_eq_nil_of_le q] at e; cases e
  refine ⟨by rw [List.length_take]; omega, ?_⟩
  rw [← e, List.take_append_drop]
theorem k_isp (F : ax_FA G) {k a n : Nat} {hd : Nat → Option (Option Nat)} (hok : ax_hok G M pc hd) (hE : ax_EvI G l Y M pc k a n) : ax_Snd G l Y M pc (S_isp k a (pc + n) hd) := by
  intro d K hK L st h o ho
  unfold S_isp at ho
  split at ho
  · rename_i b rest hdr
    split at ho
    · rename_i hlen
      obtain ⟨r, hr, hbk⟩ := Option.bind_eq_some_iff.mp ho
      obtain ⟨m1, m2, hM⟩ := hK k _ h r hr
      have e1 := ax_bk_hp hbk
      rw [e1]
      refine ⟨⟨m1, m2⟩, fun p e R s m args below meth c CX hRf hRl h0 Q b1 b2 KO H locs ls g1 g2 X V => ?_⟩
      obtain ⟨-, e2⟩ := ax_called (l := l) (R := R) (e := e) (below := below) F hok CX hbk m1 m2
      have hs := CX.2.2.2.2.2.2.2.2.2
      have g1 : h0.2.1 ≤ h.2.1 := g1
      have g2 : h0.2.2 ≤ h.2.2 := g2
      obtain ⟨q1, q2⟩ := ax_split hdr
      have hrun := hE d p e R s m args below meth c CX hRf hRl _ _ _ _ _ _ hM H locs (h.2.1 - h0.2.1) (h.2.2 - h0.2.2) (ax_ad G b) ((st.take a).reverse.map (ax_v G)) (rest.map (ax_v G)) ls ⟨ax_blind, fun U hU hW => ⟨rfl, ax_HD_of hs X hU hW⟩⟩ (by rw [List.length_map, List.length_reverse]; exact q1) V.1 (ax_cats hlen) ⟨by omega, by omega⟩
      have es : ((st.take a).reverse.map (ax_v G)).reverse ++ .ref (ax_ad G b) :: rest.map (ax_v G) = st.map (ax_v G) := by
        rw [List.map_reverse, List.reverse_reverse]
        exact (congrArg (List.map (ax_v G)) q2).trans List.map_append |>.symm
      rw [es] at hrun
      exact e2 h0 Q KO H locs ls _ _ g1 g2 X V hrun
    · cases ho
  · cases ho
theorem k_iv (F : ax_FA G) {tb : List (Nat × Nat)} {a n : Nat} {hd : Nat → Option (Option Nat)} (hok : ax_hok G M pc hd) (hE : ax_Evs G l Y M pc a n tb) : ax_Snd G l Y M pc (S_iv tb a (pc + n) hd) := by
  intro d K hK L st h o ho
  unfold S_iv at ho
  split at ho
  · rename_i b rest hdr
    split at ho
    · rename_i hlen
      obtain ⟨ci, hci, hz⟩ := Option.bind_eq_some_iff.mp ho
      obtain ⟨k, hk, hz⟩ := Option.bind_eq_some_iff.mp hz
      obtain ⟨r, hr, hbk⟩ := Option.bind_eq_some_iff.mp hz
      obtain ⟨w, hw, hE⟩ := hE ci k hk
      obtain ⟨m1, m2, hM⟩ := hK k _ h r hr
      have e1 := ax_bk_hp hbk
      rw [e1]
      refine ⟨⟨m1, m2⟩, fun p e R s m args below meth c CX hRf hRl h0 Q b1 b2 KO H locs ls g1 g2 X V => ?_⟩
      obtain ⟨-, e2⟩ := ax_called (l := l) (R := R) (e := e) (below := below) F hok CX hbk m1 m2
      have hs := CX.2.2.2.2.2.2.2.2.2
      have g1 : h0.2.1 ≤ h.2.1 := g1
      have g2 : h0.2.2 ≤ h.2.2 := g2
      obtain ⟨q1, q2⟩ := ax_split hdr
      have hrun := hE d p e R s m args below meth c CX hRf hRl _ _ _ _ _ _ hM H locs (h.2.1 - h0.2.1) (h.2.2 - h0.2.2) (ax_ad G b) ((st.take a).reverse.map (ax_v G)) (rest.map (ax_v G)) ls ⟨ax_blind, ax_recv F hs X hci hw, fun U hU hW => ⟨rfl, ax_HD_of hs X hU hW⟩⟩ (by rw [List.length_map, List.length_reverse]; exact q1) V.1 (ax_cats hlen) ⟨by omega, by omega⟩
      have es : ((st.take a).reverse.map (ax_v G)).reverse ++ .ref (ax_ad G b) :: rest.map (ax_v G) = st.map (ax_v G) := by
        rw [List.map_reverse, List.reverse_reverse]
        exact (congrArg (List.map (ax_v G)) q2).trans List.map_append |>.symm
      rw [es] at hrun
      exact e2 h0 Q KO H locs ls _ _ g1 g2 X V hrun
    · cases ho
  · cases ho
/-! the evidence for a call, by its sort -/
theorem ax_room {d R1 maxL : Nat} (h : 60 * d + 360 ≤ R1) (hl : maxL ≤ 41) : 8 + (maxL + 11) + (60 * d + 300) ≤ R1 := by omega
theorem ax_mr {m : MethodId} {pc : Nat} {ls : Array Slot} {st : List Value} {n : Nat} (h : n ≤ 8) : 2 * (F0 m pc ls st).monitorRoom + n ≤ 8 := by
  have : (F0 m pc ls st).monitorRoom = 0 := rfl
  omega
def ax_nm (y : MethodName) (a : Nat) : Prop := y.cls ≠ "java/lang/invoke/MethodHandle" ∧ y.cls ≠ "java/lang/invoke/VarHandle" ∧ (parseMethodDescriptor y.desc).map (fun d => d.parameters.length) = some a
section EV
variable {y : MethodName} {idx maxL k a : Nat} {b : ByteArray} {ret : Option FieldType} {host : String} {hh : List (Nat × Nat × Nat × Nat)}
theorem ev_s (hy : Y k = (y, ws_ y b maxL ret)) (h1 : Cond.methodLink M.1 idx y ∈ lw_all) (h2 : Cond.static y ∈ lw_all) (h3 : Cond.initialized y.cls ∈ lw_all) (h4 : Cond.code y b maxL ret ∈ lw_all) (hn : ax_nm y a) (hl : maxL ≤ 41) (hdg : decode M.2.1 pc = .ok (.invokestatic idx, 3)) : ax_EvS G l Y M pc k a 3 := by
  intro d p e R s m args below meth c CX hRf hRl Pc Qc XC mc ms free hM H locs cells slots As rest ls hp hA hls hr hf
  rw [hy] at hM
  exact vx_runS (g := F0 m pc ls (As.reverse ++ rest)) ⟨CX.1, CX.2.1, CX.2.2.1, CX.2.2.2.1, CX.2.2.2.2.1⟩ hM (va_cwS a CX.2.2.2.2.1 (lw_S h1 h2 h3 h4) rfl rfl rfl hn ⟨by show d + 20 + 1 ≤ _; omega, ax_room hRl hl⟩) hp rfl hA hls rfl (ax_mr hr) hdg hf
theorem ev_sW (hy : Y k = (y, wsW_ y b maxL ret hh)) (h1 : Cond.methodLink M.1 idx y ∈ lw_all) (h2 : Cond.static y ∈ lw_all) (h3 : Cond.initialized y.cls ∈ lw_all) (h4 : Cond.codeWith y b maxL ret hh ∈ lw_all) (hn : ax_nm y a) (hl : maxL ≤ 41) (hdg : decode M.2.1 pc = .ok (.invokestatic idx, 3)) : ax_EvS G l Y M pc k a 3 := by
  intro d p e R s m args below meth c CX hRf hRl Pc Qc XC mc ms free hM H locs cells slots As rest ls hp hA hls hr hf
  rw [hy] at hM
  exact vx_runSX (g := F0 m pc ls (As.reverse ++ rest)) (hh := hh) ⟨CX.1, CX.2.1, CX.2.2.1, CX.2.2.2.1, CX.2.2.2.2.1⟩ hM (vx_cwSW a CX.2.2.2.2.1 (lw_SW h1 h2 h3 h4) rfl rfl rfl hn ⟨by show d + 20 + 1 ≤ _; omega, ax_room hRl hl⟩) hp rfl hA hls rfl (ax_mr hr) hdg hf
theorem ev_sN (B : ax_TB G) (hy : Y k = (y, ws_ y b maxL ret)) (h1 : Cond.methodLinkNest M.1 idx y host ∈ lw_tbl) (h2 : Cond.static y ∈ lw_all) (h3 : Cond.initialized y.cls ∈ lw_all) (h4 : Cond.code y b maxL ret ∈ lw_all) (hn : ax_nm y a) (hl : maxL ≤ 41) (hdg : decode M.2.1 pc = .ok (.invokestatic idx, 3)) : ax_EvS G l Y M pc k a 3 := by
  intro d p e R s m args below meth c CX hRf hRl Pc Qc XC mc ms free hM H locs cells slots As rest ls hp hA hls hr hf
  have hs := CX.2.2.2.2.2.2.2.2.2
  rw [hy] at hM
  exact vx_runSN (g := F0 m pc ls (As.reverse ++ rest)) ⟨CX.1, CX.2.1, CX.2.2.1, CX.2.2.2.1, CX.2.2.2.2.1⟩ hM ⟨va_cnB a CX.2.2.2.2.1 (lw_meth h4) rfl rfl rfl (va_Nw.warmM hs.1 (B.nw h1 rfl)) (CX.2.2.2.2.1 _ h3) hn ⟨by show d + 20 + 1 ≤ _; omega, ax_room hRl hl⟩, CX.2.2.2.2.1 _ h2, trivial⟩ hp rfl hA hls rfl (ax_mr hr) hdg hf
theorem ev_i (hy : Y k = (y, ws_ y b maxL none)) (h1 : Cond.methodLink M.1 idx y ∈ lw_all) (h2 : Cond.instanceMethod y ∈ lw_all) (h3 : Cond.initialized y.cls ∈ lw_all) (h4 : Cond.code y b maxL none ∈ lw_all) (hn : ax_nm y a) (hi : y.name = "<init>") (hl : maxL ≤ 41) (hdg : decode M.2.1 pc = .ok (.invokespecial idx, 3)) : ax_EvI G l Y M pc k a 3 := by
  intro d p e R s m args below meth c CX hRf hRl Pc Qc XC mc ms free hM H locs cells slots b As rest ls hp hA hls hr hf
  have hts := CX.2.2.2.2.1
  rw [hy] at hM
  exact vx_runI (g := F0 m pc ls (As.reverse ++ .ref b :: rest)) ⟨CX.1, CX.2.1, CX.2.2.1, CX.2.2.2.1, hts⟩ hM (cwI a hts (lw_meth h4) rfl rfl rfl (hts _ h3) (hts _ h1) (hts _ h2) hi hn ⟨by show d + 20 + 1 ≤ _; omega, ax_room hRl hl⟩) hp rfl hA hls rfl (ax_mr hr) hdg hf
theorem ev_iN (B : ax_TB G) (hy : Y k = (y, ws_ y b maxL none)) (h1 : Cond.methodLinkNest M.1 idx y host ∈ lw_tbl) (h2 : Cond.instanceMethod y ∈ lw_all) (h3 : Cond.initialized y.cls ∈ lw_all) (h4 : Cond.code y b maxL none ∈ lw_all) (hn : ax_nm y a) (hi : y.name = "<init>") (hl : maxL ≤ 41) (hdg : decode M.2.1 pc = .ok (.invokespecial idx, 3)) : ax_EvI G l Y M pc k a 3 := by
  intro d p e R s m args below meth c CX hRf hRl Pc Qc XC mc ms free hM H locs cells slots b As rest ls hp hA hls hr hf
  have hts := CX.2.2.2.2.1
  have hs := CX.2.2.2.2.2.2.2.2.2
  rw [hy] at hM
  exact vx_runIN (g := F0 m pc ls (As.reverse ++ .ref b :: rest)) ⟨CX.1, CX.2.1, CX.2.2.1, CX.2.2.2.1, hts⟩ hM ⟨va_cnB a hts (lw_meth h4) rfl rfl rfl (va_Nw.warmM hs.1 (B.nw h1 rfl)) (hts _ h3) hn ⟨by show d + 20 + 1 ≤ _; omega, ax_room hRl hl⟩, hi, hts _ h2⟩ hp rfl hA hls rfl (ax_mr hr) hdg hf
theorem ev_v {ci : Nat} {r : vw_C} (hr0 : G.2.2.1[ci]? = some r) (hc : y.cls = r.1) (hy : Y k = (y, ws_ y b maxL ret)) (h1 : Cond.methodLink M.1 idx y ∈ lw_all) (h2 : Cond.instanceMethod y ∈ lw_all) (h3 : Cond.selects r.1 y y ∈ lw_all) (h5 : Cond.initialized r.1 ∈ lw_all) (h4 : Cond.code y b maxL ret ∈ lw_all) (hn : ax_nm y a) (hl : maxL ≤ 41) (hdg : decode M.2.1 pc = .ok (.invokevirtual idx, 3)) : ax_EvV G l Y M pc a 3 ci k := by
  refine ⟨r, hr0, ?_⟩
  intro d p e R s m args below meth c CX hRf hRl Pc Qc XC mc ms free hM H locs cells slots b As rest ls hp hA hls hr hf
  have hts := CX.2.2.2.2.1
  rw [hy] at hM
  exact vx_runV (g := F0 m pc ls (As.reverse ++ .ref b :: rest)) ⟨CX.1, CX.2.1, CX.2.2.1, CX.2.2.2.1, hts⟩ hM (cwV a hts (lw_V h1 h2 h3 h5 h4) rfl rfl rfl ⟨hc, hn⟩ ⟨by show d + 20 + 1 ≤ _; omega, ax_room hRl hl⟩) hp rfl hA hls rfl (ax_mr hr) hdg hf
theorem ev_vW {ci : Nat} {r : vw_C} (hr0 : G.2.2.1[ci]? = some r) (hc : y.cls = r.1) (hy : Y k = (y, wsW_ y b maxL ret hh)) (h1 : Cond.methodLink M.1 idx y ∈ lw_all) (h2 : Cond.instanceMethod y ∈ lw_all) (h3 : Cond.selects r.1 y y ∈ lw_all) (h5 : Cond.initialized r.1 ∈ lw_all) (h4 : Cond.codeWith y b maxL ret hh ∈ lw_all) (hn : ax_nm y a) (hl : maxL ≤ 41) (hdg : decode M.2.1 pc = .ok (.invokevirtual idx, 3)) : ax_EvV G l Y M pc a 3 ci k := by
  refine ⟨r, hr0, ?_⟩
  intro d p e R s m args below meth c CX hRf hRl Pc Qc XC mc ms free hM H locs cells slots b As rest ls hp hA hls hr hf
  have hts := CX.2.2.2.2.1
  rw [hy] at hM
  exact vx_runVX (g := F0 m pc ls (As.reverse ++ .ref b :: rest)) (hh := hh) ⟨CX.1, CX.2.1, CX.2.2.1, CX.2.2.2.1, hts⟩ hM (vx_cwVW a hts (lw_VW h1 h2 h3 h5 h4) rfl rfl rfl ⟨hc, hn⟩ ⟨by show d + 20 + 1 ≤ _; omega, ax_room hRl hl⟩) hp rfl hA hls rfl (ax_mr hr) hdg hf
theorem ev_vN (B : ax_TB G) {ci : Nat} {r : vw_C} (hr0 : G.2.2.1[ci]? = some r) (hy : Y k = (y, ws_ y b maxL ret)) (h1 : Cond.methodLinkNest M.1 idx y host ∈ lw_tbl) (h2 : Cond.instanceMethod y ∈ lw_all) (h3 : Cond.selects r.1 y y ∈ lw_all) (h5 : Cond.initialized y.cls ∈ lw_all) (h4 : Cond.code y b maxL ret ∈ lw_all) (hn : ax_nm y a) (hl : maxL ≤ 41) (hdg : decode M.2.1 pc = .ok (.invokevirtual idx, 3)) : ax_EvV G l Y M pc a 3 ci k := by
  refine ⟨r, hr0, ?_⟩
  intro d p e R s m args below meth c CX hRf hRl Pc Qc XC mc ms free hM H locs cells slots b As rest ls hp hA hls hr hf
  have hts := CX.2.2.2.2.1
  have hs := CX.2.2.2.2.2.2.2.2.2
  rw [hy] at hM
  exact vx_runVN (g := F0 m pc ls (As.reverse ++ .ref b :: rest)) ⟨CX.1, CX.2.1, CX.2.2.1, CX.2.2.2.1, hts⟩ hM ⟨va_cnB a hts (lw_meth h4) rfl rfl rfl (va_Nw.warmM hs.1 (B.nw h1 rfl)) (hts _ h5) hn ⟨by show d + 20 + 1 ≤ _; omega, ax_room hRl hl⟩, hts _ h2, hts _ h3⟩ hp rfl hA hls rfl (ax_mr hr) hdg hf
theorem ax_in5 {w1 w2 w3 w4 w5 : Cond} (h1 : w1 ∈ lw_all) (h2 : w2 ∈ lw_all) (h3 : w3 ∈ lw_all) (h4 : w4 ∈ lw_all) (h5 : w5 ∈ lw_all) : ∀ w ∈ [w1, w2, w3, w4, w5], w ∈ lw_all := by
  intro w hw
  simp only [List.mem_cons, List.not_mem_nil, or_false] at hw
  rcases hw with e | e | e | e | e <;> (rw [e]; assumption)
/-- inherited: the method y stands in owner, under x's name -/
theorem ev_vU {ci : Nat} {r : vw_C} {x : MethodName} {owner : String} (hr0 : G.2.2.1[ci]? = some r) (hy : Y k = (y, ws_ y b maxL ret)) (hyx : y = ⟨owner, x.name, x.desc⟩) (h1 : Cond.methodLink M.1 idx x ∈ lw_all) (h6 : Cond.sameMethod x.cls owner x.name x.desc ∈ lw_all) (h2 : Cond.instanceMethod y ∈ lw_all) (h3 : Cond.selects r.1 x y ∈ lw_all) (h5 : Cond.initialized y.cls ∈ lw_all) (h4 : Cond.code y b maxL ret ∈ lw_all) (hn : owner ≠ "java/lang/invoke/MethodHandle" ∧ owner ≠ "java/lang/invoke/VarHandle" ∧ (parseMethodDescriptor x.desc).map (fun d => d.parameters.length) = some a) (hl : maxL ≤ 41) (hdg : decode M.2.1 pc = .ok (.invokevirtual idx, 3)) : ax_EvV G l Y M pc a 3 ci k := by
  refine ⟨r, hr0, ?_⟩
  intro d p e R s m args below meth c CX hRf hRl Pc Qc XC mc ms free hM H locs cells slots b As rest ls hp hA hls hr hf
  have hts := CX.2.2.2.2.1
  rw [hy] at hM
  exact vx_runU (g := F0 m pc ls (As.reverse ++ .ref b :: rest)) ⟨CX.1, CX.2.1, CX.2.2.1, CX.2.2.2.1, hts⟩ hM (va_cwU (owner := owner) a hts (lw_app (ax_in5 h1 h6 h3 h2 h5) (lw_meth h4)) rfl rfl rfl hyx hn ⟨by show d + 20 + 1 ≤ _; omega, ax_room hRl hl⟩) hp rfl hA hls rfl (ax_mr hr) hdg hf
/-- overridden: x's own code stands in owner -/
theorem ev_vO {ci : Nat} {r : vw_C} {x : MethodName} {owner : String} {b0 : ByteArray} {m0 : Nat} {r0 : Option FieldType} (hr0 : G.2.2.1[ci]? = some r) (hy : Y k = (y, ws_ y b maxL ret)) (h1 : Cond.methodLink M.1 idx x ∈ lw_all) (h6 : Cond.sameMethod x.cls owner x.name x.desc ∈ lw_all) (h7 : Cond.instanceMethod ⟨owner, x.name, x.desc⟩ ∈ lw_all) (h8 : Cond.code ⟨owner, x.name, x.desc⟩ b0 m0 r0 ∈ lw_all) (h2 : Cond.instanceMethod y ∈ lw_all) (h3 : Cond.selects r.1 x y ∈ lw_all) (h5 : Cond.initialized y.cls ∈ lw_all) (h4 : Cond.code y b maxL ret ∈ lw_all) (hn : owner ≠ "java/lang/invoke/MethodHandle" ∧ owner ≠ "java/lang/invoke/VarHandle" ∧ (parseMethodDescriptor x.desc).map (fun d => d.parameters.length) = some a) (hl : maxL ≤ 41) (hdg : decode M.2.1 pc = .ok (.invokevirtual idx, 3)) : ax_EvV G l Y M pc a 3 ci k := by
  refine ⟨r, hr0, ?_⟩
  intro d p e R s m args below meth c CX hRf hRl Pc Qc XC mc ms free hM H locs cells slots b As rest ls hp hA hls hr hf
  have hts := CX.2.2.2.2.1
  rw [hy] at hM
  exact vx_runU (g := F0 m pc ls (As.reverse ++ .ref b :: rest)) ⟨CX.1, CX.2.1, CX.2.2.1, CX.2.2.2.1, hts⟩ hM (va_cwO (owner := owner) a hts (lw_app (by intro w hw; simp only [List.mem_cons, List.not_mem_nil, or_false] at hw; rcases hw with e | e | e | e | e | e <;> (rw [e]; assumption)) (lw_meth h4)) rfl rfl rfl h8 hn ⟨by show d + 20 + 1 ≤ _; omega, ax_room hRl hl⟩) hp rfl hA hls rfl (ax_mr hr) hdg hf
/-- through an interface -/
theorem ev_f (F : ax_FA G) (B : ax_TB G) {ci cnt : Nat} {r : vw_C} {x : MethodName} (hr0 : G.2.2.1[ci]? = some r) (hy : Y k = (y, ws_ y b maxL ret)) (h1 : Cond.methodLink M.1 idx x ∈ lw_all) (h2 : Cond.instanceMethod y ∈ lw_all) (h3 : Cond.selects r.1 x y ∈ lw_all) (h5 : Cond.initialized y.cls ∈ lw_all) (h4 : Cond.code y b maxL ret ∈ lw_all)
    (t1 : Cond.declares x ∈ lw_tbl) (t2 : Cond.interfaceMethod x.cls x.cls x.name x.desc ∈ lw_tbl) (t3 : Cond.publicMethod y ∈ lw_tbl) (t4 : Cond.unhidden r.1 x.name x.desc ∈ lw_tbl) (t5 : Cond.castable r.1 x.cls ∈ lw_tbl) (hn : ax_nm x a) (hl : maxL ≤ 41) (hdg : decode M.2.1 pc = .ok (.invokeinterface idx cnt, 5)) : ax_EvV G l Y M pc a 5 ci k := by
  refine ⟨r, hr0, ?_⟩
  intro d p e R s m args below meth c CX hRf hRl Pc Qc XC mc ms free hM H locs cells slots b As rest ls hp hA hls hr hf
  have hts := CX.2.2.2.2.1
  have hs := CX.2.2.2.2.2.2.2.2.2
  rw [hy] at hM
  obtain ⟨A0, B0⟩ := B
  have hF : va_Fw r.1 x y s := va_Fw.moved ⟨hn.1, hn.2.1⟩ hs.1.alike (va_Fw.of (B0 _ t1) (B0 _ t2) (B0 _ t3) (B0 _ t4) (B0 _ t5))
  exact vx_runF (g := F0 m pc ls (As.reverse ++ .ref b :: rest)) ((ax_K_at F hs).1 ci r hr0).2 ⟨CX.1, CX.2.1, CX.2.2.1, CX.2.2.2.1, hts⟩ hM (va_cwF a hts (lw_app (by intro w hw; simp only [List.mem_cons, List.not_mem_nil, or_false] at hw; rcases hw with e | e | e | e <;> (rw [e]; assumption)) (lw_meth h4)) rfl rfl rfl hF hn ⟨by show d + 20 + 1 ≤ _; omega, ax_room hRl hl⟩) hp rfl hA hls rfl (ax_mr hr) hdg hf
end EV
end CAM
