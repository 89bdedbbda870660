/-! every method that answers in the pure machine has its contract -/
section WHO
variable {G : ax_G} {l : Launch} {Y : ax_Y} {M : ax_M}
theorem ax_run_sound {code : Nat → ax_S} (hcode : ∀ pc, ax_Snd G l Y M pc (code pc)) {d : Nat} {K : ax_K} (hK : ax_OK G l Y d K) : ∀ (n : Nat) (F : ax_F) (r : ax_R), ax_it (ax_fr code K) n F = some r → (F.2.2.2.2.1 ≤ r.2.2.1 ∧ F.2.2.2.2.2 ≤ r.2.2.2) ∧
    ∀ (p : Program) (e : Env) (R : Jvm.Room) (s : State) (m : MethodId) (args : Array Value) (below : List Frame) (meth : Method) (c : Code), ax_CX G M p s m args meth c → d + 21 ≤ R.frames → 60 * d + 360 ≤ R.locals →
    ∀ (h0 : ax_H) (Q : State → Prop), r.2.2.1 ≤ h0.2.1 + R.cells → r.2.2.2 ≤ h0.2.2 + R.slots → ax_FIN G M p l e R s m args below meth c h0 Q r → ax_WG G M p l e R s m args below meth c h0 Q F := by
  intro n
  induction n with
  | zero => intro F r h; cases h
  | succ n ih =>
    intro F r h
    unfold ax_it at h
    cases hF : ax_fr code K F with
    | none => rw [hF] at h; cases h
    | some o =>
      rw [hF] at h
      obtain ⟨m0, h1⟩ := hcode F.1 d K hK F.2.1 F.2.2.1 F.2.2.2 o hF
      cases o with
      | inl F' =>
        obtain ⟨m1, h2⟩ := ih F' r h
        have m0 : F.2.2.2.2.1 ≤ F'.2.2.2.2.1 ∧ F.2.2.2.2.2 ≤ F'.2.2.2.2.2 := m0
        refine ⟨⟨Nat.le_trans m0.1 m1.1, Nat.le_trans m0.2 m1.2⟩, fun p e R s m args below meth c CX hRf hRl h0 Q b1 b2 FI => ?_⟩
        exact h1 p e R s m args below meth c CX hRf hRl h0 Q (Nat.le_trans m1.1 b1) (Nat.le_trans m1.2 b2) (h2 p e R s m args below meth c CX hRf hRl h0 Q b1 b2 FI)
      | inr r' =>
        cases h
        exact ⟨m0, fun p e R s m args below meth c CX hRf hRl h0 Q b1 b2 FI => h1 p e R s m args below meth c CX hRf hRl h0 Q b1 b2 FI⟩
/-- the ends of a method's body, as a contract asks -/
theorem ax_fin (F : ax_FA G) {p : Program} {e : Env} {R : Jvm.Room} {s : State} {m : MethodId} {args : Array Value} {below : List Frame} {meth : Method} {c : Code} (CX : ax_CX G M p s m args meth c) {h : ax_H} {r : ax_R} :
    ax_FIN G M p l e R s m args below meth c h (vx_MQ below (ax_Qc G r) (ax_XC G r) args s (r.2.2.1 - h.2.1) (r.2.2.2 - h.2.2) (fun q => G.1.heap.size ≤ q)) r := by
  have hs := CX.2.2.2.2.2.2.2.2.2
  have hlocks : meth.locks = false := CX.2.2.2.2.2.2.1
  have hret := CX.2.2.2.2.2.1
  refine ⟨fun v hv pc op hd hop H locs ls g1 g2 X hls => ?_, fun i hi pc k w hlo hk hw hpast H locs ls rest g1 g2 X => ?_⟩
  · have hq : ∀ t : State, t.heap = H → s.WarmedH t.vm → ax_Qc G r args s (.returned (v.map (ax_v G))) t := fun t ht hW => ⟨v, hv, rfl, ax_HD_of hs X ht hW, X.2.2.2.2.1.F ht⟩
    have hf := X.2.2.2.2.1.2.2
    refine vx_ret ?_
    match v, hop, hq with
    | none, ⟨e1, e2⟩, hq => subst e1; exact W.vret CX.1 CX.2.1 (hret.trans e2) hq hf hd
    | some (.int x), ⟨e1, ty, e2, e3⟩, hq => subst e1; exact W.zret CX.1 CX.2.1 (hret.trans e2) e3 hq hf hd
    | some (.long x), ⟨e1, e2⟩, hq => subst e1; exact W.lret CX.1 CX.2.1 (hret.trans e2) hq hf hd
    | some .null, ⟨e1, ty, e2, e3⟩, hq => subst e1; exact W.aret CX.1 CX.2.1 (hret.trans e2) e3 (Or.inl rfl) hq hf hd
    | some (.ref x), ⟨e1, ty, e2, e3⟩, hq => subst e1; exact W.aret CX.1 CX.2.1 (hret.trans e2) e3 (Or.inr ⟨_, rfl⟩) hq hf hd
  · obtain ⟨ce, c1, c2, c3⟩ := ax_exc_cell F hs X hlo hk hw
    refine vx_outP CX.2.2.2.1 hlocks (fun z hz => ?_) c1 c2 c3 (fun t ht hW => ⟨i, k, w, hi, rfl, hk, hw, rfl, ax_HD_of hs X ht hW, X.2.2.2.2.1.F ht⟩) X.2.2.2.2.1.2.2 (Nat.le_refl _) (Nat.le_refl _)
    rw [CX.2.2.2.2.2.2.2.2.1] at hz
    rcases hpast z hz with q | ⟨q1, n2, q2, r2, q3, q4⟩
    · exact Or.inl q
    · cases Option.some.inj (q3.symm.trans hw)
      exact Or.inr ⟨q1, n2, q2, q4⟩
/-- what a method's number stands for -/
def ax_mt (G : ax_G) (l : Launch) (Y : ax_Y) (pk : Nat × (Nat → ax_S)) (yk : MethodName × List Cond) : Prop := ∃ (M : ax_M) (y : MethodName), (y.cls = M.1 ∧ plainName y.cls = true ∧ pk.1 = M.2.2.1 ∧ (M.2.2.2.2.1 = true → y.name = "<init>") ∧
  ((M.2.2.2.2.2 = [] ∧ yk = (y, ws_ y M.2.1 M.2.2.1 M.2.2.2.1)) ∨ yk = (y, wsW_ y M.2.1 M.2.2.1 M.2.2.2.1 M.2.2.2.2.2))) ∧ ∀ pc, ax_Snd G l Y M pc (pk.2 pc)
theorem ax_mt_node {b : Bool} {p1 p2 : Nat × (Nat → ax_S)} {y1 y2 : MethodName × List Cond} (h1 : ax_mt G l Y p1 y1) (h2 : ax_mt G l Y p2 y2) : ax_mt G l Y (cond b p1 p2) (cond b y1 y2) := by
  cases b
  · exact h2
  · exact h1
theorem ax_sn_node {pc : Nat} {b : Bool} {S1 S2 : ax_S} (h1 : ax_Snd G l Y M pc S1) (h2 : ax_Snd G l Y M pc S2) : ax_Snd G l Y M pc (cond b S1 S2) := by
  cases b
  · exact h2
  · exact h1
theorem ax_sn_leaf {pc a : Nat} {S : ax_S} (h : ax_Snd G l Y M a S) : ax_Snd G l Y M pc (ax_at a S pc) := by
  unfold ax_at
  cases hb : Nat.beq pc a with
  | true =>
    have e : pc = a := Nat.eq_of_beq_eq_true hb
    subst e
    exact h
  | false => intro d K _ L st h o ho; cases ho
theorem ax_sl_len (G : ax_G) : ∀ as : List Value, (lg_sl (as.map (ax_v G))).length = (lg_sl as).length := by
  intro as
  induction as with
  | nil => rfl
  | cons a as ih => cases a <;> simp_all [lg_sl, ax_v, Value.category]
theorem ax_ctx {y : MethodName} {p : Program} {S : Spec} {e : Env} {s s₁ : State} {m : MethodId} {args : Array Value} {below : List Frame} {meth : Method} {c : Code} (hc : y.cls = M.1) (hi : M.2.2.2.2.1 = true → y.name = "<init>") (B : BodyLoose p l y S M.2.1 M.2.2.1 M.2.2.2.1 e s m args below meth c s₁) (hml : c.maxLocals = M.2.2.1) (hts : ∀ w ∈ lw_all, w.before args s = true) (ht : c.exceptionTable.toList = tableOf M.2.2.2.2.2) (hg : ax_GD G s) : ax_CX G M p s m args meth c :=
  ⟨B.exec, B.bytes, hml, by rw [← hc]; exact findClass_of_methodNamed B.named, hts, B.returns, B.notSynchronized, fun z => ((name_of_methodNamed B.named B.method).1).trans (hi z), ht, hg⟩
theorem ax_met {P : ax_T} (F : ax_FA G) {k d : Nat} (hm : ax_mt G l Y (P k) (Y k)) (hK : ax_OK G l Y d (ax_call P d)) (as : List Value) (h : ax_H) (r : ax_R) (hr : ax_call P (d + 1) k as h = some r) : h.2.1 ≤ r.2.2.1 ∧ h.2.2 ≤ r.2.2.2 ∧
    vx_Met l (Y k).1 (Y k).2 (ax_rm (d + 1) (r.2.2.1 - h.2.1) (r.2.2.2 - h.2.2)) (va_Pc (as.map (ax_v G)) (ax_HD G h)) (ax_Qc G r) (ax_XC G r) (r.2.2.1 - h.2.1) (r.2.2.2 - h.2.2) (fun q => G.1.heap.size ≤ q) := by
  obtain ⟨M, y, ⟨y1, y2, y3, y4, y5⟩, hcode⟩ := hm
  have hr' : (if (lg_sl as).length ≤ (P k).1 then ax_lim (ax_fr (P k).2 (ax_call P d)) (0, ax_args (P k).1 as, [], h) else none) = some r := hr
  have hlen : (lg_sl as).length ≤ (P k).1 := by
    rcases Nat.lt_or_ge (P k).1 (lg_sl as).length with q | q
    · rw [if_neg (by omega)] at hr'; cases hr'
    · exact q
  rw [if_pos hlen] at hr'
  rw [y3, ← ax_sl_len G] at hlen
  obtain ⟨n, hn⟩ := ax_lim_some.mp hr'
  obtain ⟨⟨m1, m2⟩, hw⟩ := ax_run_sound hcode hK n _ r hn
  have m1 : h.2.1 ≤ r.2.2.1 := m1
  have m2 : h.2.2 ≤ r.2.2.2 := m2
  refine ⟨m1, m2, ?_⟩
  have body : ∀ (S : Spec) (hS : S.room = ax_rm (d + 1) (r.2.2.1 - h.2.1) (r.2.2.2 - h.2.2)) (p : Program) (e : Env) (s : State) (m : MethodId) (args : Array Value) (below : List Frame) (meth : Method) (c : Code) (s₁ : State), BodyLoose p l y S M.2.1 M.2.2.1 M.2.2.2.1 e s m args below meth c s₁ → c.maxLocals = M.2.2.1 → (∀ w ∈ lw_all, w.before args s = true) → c.exceptionTable.toList = tableOf M.2.2.2.2.2 → va_Pc (as.map (ax_v G)) (ax_HD G h) args s →
      W p l e S.room s m args below meth c s.heap [] 0 0 (vx_MQ below (ax_Qc G r) (ax_XC G r) args s (r.2.2.1 - h.2.1) (r.2.2.2 - h.2.2) (fun q => G.1.heap.size ≤ q)) (entryFrame m args M.2.2.1) := by
    intro S hS p e s m args below meth c s₁ B hml hts ht hv
    obtain ⟨rfl, hg, hRL⟩ := hv
    have CX : ax_CX G M p s m (as.map (ax_v G)).toArray meth c := ax_ctx y1 y4 B hml hts ht hg
    have hl := lv_entry (as.map (ax_v G)) (n := M.2.2.1) hlen
    rw [lg_entry_eq]
    generalize (lg_sl (as.map (ax_v G)) ++ List.replicate (M.2.2.1 - (lg_sl (as.map (ax_v G))).length) Slot.unset).toArray = ls at hl ⊢
    have k9 := hw p e S.room s m _ below meth c CX (by rw [hS]; show d + 21 ≤ d + 1 + 20; omega) (by rw [hS]; show 60 * d + 360 ≤ 60 * (d + 1) + 300; omega) h _ (by rw [hS]; show r.2.2.1 ≤ h.2.1 + (r.2.2.1 - h.2.1); omega) (by rw [hS]; show r.2.2.2 ≤ h.2.2 + (r.2.2.2 - h.2.2); omega) (ax_fin F CX) s.heap [] ls (Nat.le_refl _) (Nat.le_refl _) hRL (by rw [y3]; exact ax_args_LV G hl)
    have k8 : W p l e S.room s m (as.map (ax_v G)).toArray below meth c s.heap [] (h.2.1 - h.2.1) (h.2.2 - h.2.2) (vx_MQ below (ax_Qc G r) (ax_XC G r) (as.map (ax_v G)).toArray s (r.2.2.1 - h.2.1) (r.2.2.2 - h.2.2) (fun q => G.1.heap.size ≤ q)) (F0 m 0 ls []) := k9
    rw [Nat.sub_self, Nat.sub_self] at k8
    exact k8
  rcases y5 with ⟨e1, e2⟩ | e2
  · rw [e2]
    refine vx_ofW (cc := M.2.1) (maxL := M.2.2.1) (ret := M.2.2.2.1) y2 rfl ?_
    intro p e s m args below meth c s₁ B hml ht hv
    have hts := atoms_spec (ws := ws_ y M.2.1 M.2.2.1 M.2.2.2.1) B.pre
    refine body _ rfl p e s m args below meth c s₁ B hml (fun w h => hts w (List.mem_cons_of_mem _ h)) ?_ hv
    rw [e1]
    exact List.eq_nil_iff_forall_not_mem.mpr fun x hx => ht x hx
  · rw [e2]
    refine vx_ofWH (cc := M.2.1) (maxL := M.2.2.1) (ret := M.2.2.2.1) (hh := M.2.2.2.2.2) y2 rfl ?_
    intro p e s m args below meth c s₁ B hml hv
    have hts := atoms_spec (ws := wsW_ y M.2.1 M.2.2.1 M.2.2.2.1 M.2.2.2.2.2) B.pre
    exact body _ rfl p e s m args below meth c s₁ B hml (fun w h => hts w (List.mem_cons_of_mem _ h)) (vx_table (x := y) B (hts _ List.mem_cons_self)) hv
theorem ax_all {P : ax_T} (F : ax_FA G) (hT : ∀ k, ax_mt G l Y (P k) (Y k)) : ∀ d, ax_OK G l Y d (ax_call P d) := by
  intro d
  induction d with
  | zero => intro k as h r hr; cases hr
  | succ d ih => exact fun k as h r hr => ax_met F (hT k) ih as h r hr
end WHO
