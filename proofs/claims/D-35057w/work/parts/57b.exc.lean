/-! exceptions: made in one step, and Throwable's own constructors -/
section EXC
variable {G : ax_G} {l : Launch} {Y : ax_Y} {M : ax_M} {pc : Nat}
/-- what Throwable's statics are at the start -/
def ax_US (G : ax_G) : Prop := vx_Zq Bundle.tN "UNASSIGNED_STACK" Bundle.steD (fun q => G.1.heap.size ≤ q) G.1 G.1.heap ∧ vx_Zq Bundle.tN "SUPPRESSED_SENTINEL" Bundle.listD (fun q => G.1.heap.size ≤ q) G.1 G.1.heap
theorem ax_US_at (h : ax_US G) {s : State} (hs : ax_GD G s) : vx_Zq Bundle.tN "UNASSIGNED_STACK" Bundle.steD (fun q => G.1.heap.size ≤ q) s s.heap ∧ vx_Zq Bundle.tN "SUPPRESSED_SENTINEL" Bundle.listD (fun q => G.1.heap.size ≤ q) s s.heap :=
  ⟨(vx_Zq.moved hs.1.alike h.1).kept fun a ha _ => hs.2.1 a ha, (vx_Zq.moved hs.1.alike h.2).kept fun a ha _ => hs.2.1 a ha⟩
theorem ax_vx_ot {w : Cond} (h : ax_mvb w = true) : goodWord w = true ∨ vx_ot w = true ∨ ∃ ty, w = .arrayOver ty := by
  unfold ax_mvb at h
  rw [Bool.or_eq_true] at h
  rcases h with h | h
  · exact Or.inl h
  · split at h
    · exact Or.inr (Or.inl rfl)
    · exact Or.inr (Or.inl rfl)
    · exact Or.inr (Or.inr ⟨_, rfl⟩)
    · cases h
theorem k_mk (F : ax_FA G) (B : ax_TB G) (US : ax_US G) (hst : l.stackTraces = false) {cls text : String} {names : List String} {ik is ic i k : Nat} {T0 : u_T} (hr : G.2.2.1[k]? = some (cls, T0, 0)) (hk7 : ¬ k ∈ ax_thk) (hcls : Bundle.fit cls = true) (hnames : ∀ n ∈ names, Bundle.fit n = true) (hk : Cond.classLink M.1 ik cls ∈ lw_all) (hini : Cond.initialized cls ∈ lw_all) (hz : vk_R M.1 is text (ax_ad G i) G.1)
    (hat : ∀ w ∈ vx_atS M.1 ic cls names, w ∈ lw_tbl ∧ ax_mvb w = true ∧ vx_ot w = true) (hlen : names.length ≤ 5) (d0 : decode M.2.1 pc = .ok (.new ik, 3)) (d3 : decode M.2.1 (pc + 3) = .ok (.dup, 1)) (d4 : decode M.2.1 (pc + 4) = .ok (.ldc is, 2)) (d6 : decode M.2.1 (pc + 6) = .ok (.invokespecial ic, 3)) : ax_Snd G l Y M pc (S_mk k 6 (pc + 9)) := by
  intro d K _ L st h o ho
  unfold S_mk at ho
  split at ho
  · rename_i hsl
    cases ho
    refine ⟨⟨Nat.le_succ _, Nat.le_add_right _ _⟩, fun p e R s m args below meth c CX hRf hRl h0 Q b1 b2 KO H locs ls g1 g2 X V => ?_⟩
    have hs := CX.2.2.2.2.2.2.2.2.2
    have hts := CX.2.2.2.2.1
    have b1 : h.2.1 + 1 ≤ h0.2.1 + R.cells := b1
    have b2 : h.2.2 + 6 ≤ h0.2.2 + R.slots := b2
    have g1 : h0.2.1 ≤ h.2.1 := g1
    have g2 : h0.2.2 ≤ h.2.2 := g2
    have hq := ax_cat_le G st
    obtain ⟨hU, hN⟩ := ax_US_at US hs
    refine vx_makeS (rest := st.map (ax_v G)) (D := G.2.1) (cl := G.2.2.1) (tys := []) (ws := []) (ci := k) CX.1 CX.2.1 hst CX.2.2.2.1 hcls hnames (hts _ hk) (hts _ hini) (vk_R.warm hs.1 hz) (fun w hw => ax_mv B hs hts (hat w hw).1 (hat w hw).2.1) (fun w hw => ?_) hU hN X.2.2.2.2.1 (by rw [CX.2.2.1]; exact V.1) d0 d3 d4 d6 (ax_K_at F hs) (fun k q z => absurd z (by simp)) ⟨fun i j x y z => absurd z (by simp), fun k q z => absurd z (by simp)⟩ (fun q z => Nat.le_trans hs.2.2 z) hr (by omega) (by omega) (by show h.2.1 - h0.2.1 + 1 ≤ _; omega) (by show h.2.2 - h0.2.2 + 6 ≤ _; omega) fun H1 ce e1 e2 e3 z1 o1 => ?_
    · rcases List.mem_cons.mp hw with rfl | hw
      · rfl
      · rcases List.mem_cons.mp hw with rfl | hw
        · rfl
        · exact (hat w hw).2.2
    · have X' : ax_RL G s (ax_new h (.inr (k, [])) 6) H1 locs := by
        refine ax_RL_new X ⟨_, hr, rfl, ⟨ce, e1, e2, e3, fun j hj => absurd hj (Nat.not_lt_zero _)⟩, fun z => absurd z hk7⟩ z1 o1 (ax_IV_new X.2.2.2.2.2 (ax_RL_dead X) (fun _ _ e => by cases e) (fun _ _ e => by cases e))
      have k9 := KO H1 locs ls (by show h0.2.1 ≤ h.2.1 + 1; omega) (by show h0.2.2 ≤ h.2.2 + 6; omega) X' V
      have k8 : W p l e R s m args below meth c H1 locs (h.2.1 + 1 - h0.2.1) (h.2.2 + 6 - h0.2.2) Q (F0 m (pc + 9) ls (.ref (ax_ad G (400 + h.2.1)) :: st.map (ax_v G))) := k9
      rw [ax_ad_new X, show h.2.1 + 1 - h0.2.1 = h.2.1 - h0.2.1 + 1 by omega, show h.2.2 + 6 - h0.2.2 = h.2.2 - h0.2.2 + 6 by omega] at k8
      exact k8
  · cases ho
/-! Throwable's constructors -/
/-- the words that the walk needs, of a kind with the class X -/
def ax_thA (X : String) : List Cond := (Bundle.throwableAtoms.filter vx_no) ++ [.fieldLink Bundle.tN 31 Bundle.tN "detailMessage" "Ljava/lang/String;", .fieldLink Bundle.tN 198 Bundle.tN "backtrace" "Ljava/lang/Object;", .lays Bundle.tN Bundle.tN "backtrace" "Ljava/lang/Object;",
  .selects X Bundle.tFill0 Bundle.tFill0, .selects X Bundle.tFill Bundle.tFill, .lays X Bundle.tN "cause" "Ljava/lang/Throwable;", .lays X Bundle.tN "stackTrace" Bundle.steD, .lays X Bundle.tN "suppressedExceptions" Bundle.listD, .lays X Bundle.tN "detailMessage" "Ljava/lang/String;", .lays X Bundle.tN "backtrace" "Ljava/lang/Object;"]
/-- a kind of exceptions that the program makes: j is the number of its field 'backtrace' -/
def ax_tk (G : ax_G) (k j : Nat) : Prop := k ∈ ax_thk ∧ ∃ r : vw_C, G.2.2.1[k]? = some r ∧ j < r.2.2 ∧ r.2.1 j = ("java/lang/Throwable", "backtrace", "Ljava/lang/Object;", false) ∧ (∀ w ∈ u_ws r.1 r.2.1 r.2.2, w ∈ lw_all) ∧ (∀ w ∈ ax_thA r.1, w ∈ lw_tbl ∧ ax_mvb w = true) ∧
  ∀ i, i < r.2.2 → (r.2.1 i).2.1 ≠ "cause" ∧ (r.2.1 i).2.1 ≠ "stackTrace" ∧ (r.2.1 i).2.1 ≠ "suppressedExceptions" ∧ (r.2.1 i).2.1 ≠ "detailMessage"
/-- a field of the kind's objects that isn't listed -/
def ax_hid (G : ax_G) (s : State) (r : vw_C) (k cC : Nat) (kC : Class) (f : Field) : Prop := f.isStatic = false ∧ f.slot < kC.instanceTypes.size ∧ (∀ v : Value, v.isRef = true → k2_Sd s f cC v) ∧ (∀ i, i < r.2.2 → G.2.1.2 k i ≠ f.slot) ∧ ∃ d, Jmm.declares? s.vm f.slot (cC + 1) cC = some d ∧ d.2.name = f.name
theorem ax_isrefF {ty : FieldType} (ht : (∃ n, ty = .object n) ∨ ∃ t, ty = .array t) {v : Value} (hv : v.isRef = true) : fits ty v = true := by
  rcases ht with ⟨n, rfl⟩ | ⟨t, rfl⟩
  · exact fits_refV_object n ⟨v, hv⟩
  · exact fits_refV_array t ⟨v, hv⟩
theorem ax_decl {args : Array Value} {s : State} {C : String} {T : u_T} {N cC : Nat} {kC : Class} (hfc : s.vm.findClass C = some cC) (hkC : s.vm.classes[cC]? = some kC) {i : Nat} (h : (Cond.lays C (T i).1 (T i).2.1 (T i).2.2.1).before args s = true ∨ (Cond.laysFinal C (T i).1 (T i).2.1 (T i).2.2.1).before args s = true) {cf fi : Nat} {kf : Class} {f : Field} (hi : s.fieldFound? (T i).1 (T i).2.1 (T i).2.2.1 = some (cf, kf, fi, f)) : ∃ d, Jmm.declares? s.vm f.slot (cC + 1) cC = some d ∧ d.2.name = f.name := by
  rcases h with h | h
  · obtain ⟨c, k, cf', kf', fi', fd', r1, r2, hi', -, -, -, -, d, h1, -, h2, -⟩ := Cond.lays_spec h
    cases hfc.symm.trans r1
    cases hi.symm.trans hi'
    exact ⟨d, h1, h2⟩
  · obtain ⟨c, k, cf', kf', fi', fd', r1, r2, hi', -, -, -, -, -, d, h1, -, h2, -⟩ := Cond.laysFinal_spec h
    cases hfc.symm.trans r1
    cases hi.symm.trans hi'
    exact ⟨d, h1, h2⟩
theorem ax_hid_of (F : ax_FA G) {s : State} {args : Array Value} (hs : ax_GD G s) (hts : ∀ w ∈ lw_all, w.before args s = true) {k : Nat} {r : vw_C} (hr : G.2.2.1[k]? = some r) (hu : ∀ w ∈ u_ws r.1 r.2.1 r.2.2, w ∈ lw_all) {kC : Class} (hkC : s.vm.classes[G.2.1.1 k]? = some kC) {nm ds : String} {ty : FieldType} (hp : parseFieldDescriptor ds = some ty) (hty : (∃ n, ty = .object n) ∨ ∃ t, ty = .array t) (hl : (Cond.lays r.1 Bundle.tN nm ds).before args s = true)
    (hne : ∀ i, i < r.2.2 → (r.2.1 i).2.1 ≠ nm) {cf fi : Nat} {kf : Class} {f : Field} (hf : s.fieldFound? Bundle.tN nm ds = some (cf, kf, fi, f)) : ax_hid G s r k (G.2.1.1 k) kC f := by
  obtain ⟨hS, hfc, kC', hkC', hkind⟩ := (ax_K_at F hs).1 k _ hr
  cases hkC.symm.trans hkC'
  obtain ⟨c, k1, cf', kf', fi', fd', r1, r2, hi', hst, hfin, hcast, hty9, d, h1, -, h2, -⟩ := Cond.lays_spec hl
  cases hfc.symm.trans r1
  cases hkC.symm.trans r2
  cases hf.symm.trans hi'
  refine ⟨hst, (Array.getElem?_eq_some_iff.mp hty9).1, fun v hv => u_store hfc hkC hkind hl hf hp (narrow_isRef _ hv) (ax_isrefF hty hv), fun i hi z => ?_, d, h1, h2⟩
  obtain ⟨cf2, kf2, fi2, f2, hi2, hsl⟩ := hS i hi
  obtain ⟨d2, e1, e2⟩ := ax_decl (N := r.2.2) hfc hkC (u_lays hts hu hi) hi2
  rw [← hsl] at z
  rw [z] at e1
  cases Option.some.inj (h1.symm.trans e1)
  have n1 := (State.fieldFound?_type hf hp).1
  obtain ⟨ty2, hp2⟩ : ∃ ty2, parseFieldDescriptor (r.2.1 i).2.2.1 = some ty2 := by
    cases hpp : parseFieldDescriptor (r.2.1 i).2.2.1 with
    | none => rw [State.fieldFound?, hpp] at hi2; simp at hi2
    | some t => exact ⟨t, rfl⟩
  have n2 := (State.fieldFound?_type hi2 hp2).1
  exact hne i hi (n2.symm.trans (e2.symm.trans (h2.trans n1)))
theorem ax_set_self {h : ax_H} {o : Nat} : ax_set h o (h.1 o) = h := by
  obtain ⟨f, x⟩ := h
  unfold ax_set
  congr 1
  funext j
  by_cases e : j = o
  · rw [if_pos e, e]
  · rw [if_neg e]
/-- a store into a field that isn't listed -/
theorem ax_RL_hid {s : State} {h : ax_H} {H H1 : Heap} {locs : List Loc} {o k : Nat} {r : vw_C} {cC : Nat} {kC : Class} {f : Field} {cell : Cell} {v : Value} (X : ax_RL G s h H locs) (hlo : ¬ o < 400) (hk : ax_ci (h.1 o) = some k) (hr : G.2.2.1[k]? = some r) (hne : k ≠ 9999) (hh : ax_hid G s r k cC kC f) (hc : H[ax_ad G o]? = some cell) (e1 : H1[ax_ad G o]? = some (cell.setSlot f.slot v)) (e2 : H1.size = H.size) (e3 : ∀ q, q ≠ ax_ad G o → H1[q]? = H[q]?) : ax_RL G s h H1 (locs ++ [⟨ax_ad G o, f.slot⟩]) := by
  cases hcc : h.1 o with
  | inl a => rw [hcc] at hk; cases hk
  | inr w =>
    obtain ⟨kk, fs⟩ := w
    rw [hcc] at hk
    cases hk
    rcases ax_new_at X hlo with hdd | ⟨hn, hlt⟩
    · rw [hcc] at hdd
      cases hdd
      exact absurd rfl hne
    · rw [hcc] at hn
      obtain ⟨r', f1, f2, ⟨cell', q1, q2, q3, q4⟩, q5⟩ := hn
      cases Option.some.inj (f1.symm.trans hr)
      cases Option.some.inj (q1.symm.trans hc)
      have h9 := ax_RL_set (f := f.slot) (c := h.1 o) X hlo hlt (by
        rw [hcc]
        refine ⟨_, hr, f2, ⟨_, e1, q2, q3, fun i hi => ?_⟩, fun hk9 cell9 hc9 => ?_⟩
        · show (cell.slots.setIfInBounds f.slot v)[G.2.1.2 kk i]? = _
          rw [Array.getElem?_setIfInBounds, if_neg (Ne.symm (hh.2.2.2.1 i hi))]
          exact q4 i hi
        · cases Option.some.inj (e1.symm.trans hc9)
          obtain ⟨m1, m2, m3⟩ := q5 hk9 cell q1
          exact ⟨m1, m2, fun kG hkG => (Array.size_setIfInBounds ..).trans (m3 kG hkG)⟩) e2 e3 (by rw [ax_set_self]; exact X.2.2.2.2.2)
      rw [ax_set_self] at h9
      exact h9
theorem ax_ald {p : Program} {e : Env} {R : Jvm.Room} {s : State} {m : MethodId} {args : Array Value} {below : List Frame} {meth : Method} {c : Code} {H : Heap} {locs : List Loc} {cells slots : Nat} {Q : State → Prop} {ls : Array Slot} {rest : List Value} (CX : ax_CX G M p s m args meth c) {q : Fin 4} {i : Nat} (hd : decode M.2.1 pc = .ok (.aload_n q, 1)) (hi : (q : Nat) = i) {v : Value} (hv : v.isRef = true) (hl : ls[i]? = some (.val v)) (k : W p l e R s m args below meth c H locs cells slots Q (F0 m (pc + 1) ls (v :: rest))) : W p l e R s m args below meth c H locs cells slots Q (F0 m pc ls rest) := by
  cases v with
  | ref a => exact lv_aload_n CX.1 CX.2.1 hd hi hl k
  | null => exact lv_aload_nN CX.1 CX.2.1 hd hi hl k
  | _ => simp [Value.isRef] at hv
/-- a static of Throwable -/
theorem ax_getq {p : Program} {e : Env} {R : Jvm.Room} {s : State} {m : MethodId} {args : Array Value} {below : List Frame} {meth : Method} {c : Code} {H : Heap} {locs : List Loc} {cells slots : Nat} {Q : State → Prop} {ls : Array Slot} {rest : List Value} (CX : ax_CX G M p s m args meth c) {C n d : String} {index : Nat} {v : Value} (hz : va_Z C n d v (fun q => G.1.heap.size ≤ q) s s.heap) (hS : va_S (fun q => G.1.heap.size ≤ q) s.heap H locs) (hl : (Cond.fieldLink M.1 index C n d).before args s = true) (hd : decode M.2.1 pc = .ok (.getstatic index, 3)) (k : W p l e R s m args below meth c H locs cells slots Q (F0 m (pc + 3) ls (v :: rest))) : W p l e R s m args below meth c H locs cells slots Q (F0 m pc ls rest) :=
  va_gets CX.1 CX.2.1 hz hS CX.2.2.2.1 hl (fun x hx => hx) hd k
theorem ax_Zq_val {C n d : String} {A : Nat → Prop} {s : State} {H : Heap} (h : va_Zq C n d A s H) : ∃ v : Value, v.isRef = true ∧ va_Z C n d v A s H := by
  rcases h with h | ⟨t, h⟩
  · exact ⟨_, rfl, h⟩
  · exact ⟨_, rfl, h⟩
/-- the object under construction -/
def ax_ck (G : ax_G) (k j : Nat) (kC : Class) (H : Heap) (A : Nat) (cell : Cell) : Prop := H[A]? = some cell ∧ cell.cls = G.2.1.1 k ∧ cell.vm = .none ∧ cell.monitor.owner = none ∧ cell.monitor.count = 0 ∧ cell.slots.size = kC.instanceTypes.size ∧ cell.slots[G.2.1.2 k j]? = some .null
theorem ax_ck_set {k j : Nat} {r : vw_C} {kC : Class} {H H1 : Heap} {A : Nat} {cell : Cell} {s : State} {cC : Nat} {f : Field} {v : Value} (h : ax_ck G k j kC H A cell) (hh : ax_hid G s r k cC kC f) (hj : j < r.2.2) (e : H1[A]? = some (cell.setSlot f.slot v)) : ax_ck G k j kC H1 A (cell.setSlot f.slot v) := by
  obtain ⟨h1, h2, h3, h4, h5, h6, h7⟩ := h
  refine ⟨e, h2, h3, h4, h5, (Array.size_setIfInBounds ..).trans h6, ?_⟩
  show (cell.slots.setIfInBounds f.slot v)[G.2.1.2 k j]? = _
  rw [Array.getElem?_setIfInBounds, if_neg (Ne.symm (hh.2.2.2.1 j hj))]
  exact h7
theorem ax_ck_slot {f g : Field} {cell : Cell} {v : Value} (hne : f.slot ≠ g.slot) {w : Value} (h : cell.slots[g.slot]? = some w) : (cell.setSlot f.slot v).slots[g.slot]? = some w := by
  show (cell.slots.setIfInBounds f.slot v)[g.slot]? = _
  rw [Array.getElem?_setIfInBounds, if_neg hne]
  exact h
theorem ax_tput {p : Program} {e : Env} {R : Jvm.Room} {s : State} {m : MethodId} {args : Array Value} {below : List Frame} {meth : Method} {c : Code} {H : Heap} {locs : List Loc} {cells slots : Nat} {Q : State → Prop} {ls : Array Slot} {rest : List Value} (CX : ax_CX G M p s m args meth c)
    {h : ax_H} {o k j : Nat} {r : vw_C} {kC : Class} (X : ax_RL G s h H locs) (hlo : ¬ o < 400) (hk : ax_ci (h.1 o) = some k) (hr : G.2.2.1[k]? = some r) (hne : k ≠ 9999) (hj : j < r.2.2) {nm ds : String} {idx : Nat} {cf fi : Nat} {kf : Class} {f : Field} (hf : s.fieldFound? Bundle.tN nm ds = some (cf, kf, fi, f)) (hh : ax_hid G s r k (G.2.1.1 k) kC f)
    (hl : (Cond.fieldLink M.1 idx Bundle.tN nm ds).before args s = true) (hd : decode M.2.1 pc = .ok (.putfield idx, 3)) {cell : Cell} (hc : ax_ck G k j kC H (ax_ad G o) cell) {v : Value} (hv : v.isRef = true)
    (kk : ∀ H' : Heap, ax_RL G s h H' (locs ++ [⟨ax_ad G o, f.slot⟩]) → ax_ck G k j kC H' (ax_ad G o) (cell.setSlot f.slot v) → W p l e R s m args below meth c H' (locs ++ [⟨ax_ad G o, f.slot⟩]) cells slots Q (F0 m (pc + 3) ls rest)) : W p l e R s m args below meth c H locs cells slots Q (F0 m pc ls (v :: .ref (ax_ad G o) :: rest)) := by
  obtain ⟨c1, c2, c3, c4, c5, c6, c7⟩ := hc
  refine W.putK CX.1 CX.2.1 ⟨CX.2.2.2.1, hl, ⟨_, _, _, hf⟩, hh.1⟩ (by rw [c2]; exact hh.2.2.1 v hv) c1 c3 (by rw [c6]; exact hh.2.1) rfl rfl hd fun H' e1 e2 e3 => kk H' (ax_RL_hid X hlo hk hr hne hh c1 e1 e2 e3) (ax_ck_set ⟨c1, c2, c3, c4, c5, c6, c7⟩ hh hj e1)
/-- what the launch makes of the platform -/
theorem ax_pl {p : Program} {e : Env} {R : Jvm.Room} {s : State} {m : MethodId} {args : Array Value} {below : List Frame} {meth : Method} {c : Code} {H : Heap} {locs : List Loc} {cells slots : Nat} {Q : State → Prop} {g : JFrame} (hk : l.admits e → W p l e R s m args below meth c H locs cells slots Q g) : W p l e R s m args below meth c H locs cells slots Q g :=
  fun T hT X => hk X.admits T hT X
theorem ax_fillRoom {e : Env} {V : State} {g : JFrame} (htop : V.topJava?.isSome) {m' : MethodId} {self : Addr} {cell : Cell} {lim : Nat × Nat} (hlim : e.platform.stackLimits V.me = lim) (hframes : V.frames.length + 2 < lim.1) (hwords : (stackUse (.java g :: V.frames.tail)).2 + 41 ≤ lim.2) :
    e.platform.stackFull ((((fillInside V g m' self cell).setTop (fillJ m' self 16 [])).threads[((fillInside V g m' self cell).setTop (fillJ m' self 16 [])).cur]?).getD { frames := [] }) ((fillInside V g m' self cell).setTop (fillJ m' self 16 [])).frames (nativeFrameWords "java/lang/Throwable" "fillInStackTrace" 2) = false := by
  obtain ⟨g₀, hg⟩ := Option.isSome_iff_exists.mp htop
  obtain ⟨tl, htl⟩ := State.topJava?_eq_some.mp hg
  have hlen : V.frames.length = (Frame.java g :: V.frames.tail).length := by rw [htl]; rfl
  have htopE : (V.setCell self (cell.withEntry V.cur)).topJava?.isSome := htop
  have hfF : (fillInside V g m' self cell).frames = .java (entryFrameSync m' #[.ref self] 1 self) :: .java g :: V.frames.tail := frames_entered (g := g) htopE _
  have htopF : (fillInside V g m' self cell).topJava?.isSome := by rw [State.topJava?_of_frames hfF]; rfl
  have hlimF : e.platform.stackLimits (fillInside V g m' self cell).me = lim := by
    rw [State.stackLimits_pushFrame, State.stackLimits_setTop _ htopE]; exact hlim
  have hw : (stackUse [Frame.java (fillJ m' self 16 [])]).2 ≤ 14 := by
    rw [stackUse_java, stackUse_nil]
    simp [operandWords]
  have hnf : nativeFrameWords "java/lang/Throwable" "fillInStackTrace" 2 ≤ 16 := by decide
  exact roomAbove (pl := e.platform) (pushed := [.java (fillJ m' self 16 [])]) (base := .java g :: V.frames.tail) (free := 41) (lim := lim) (State.frames_setTop _ hfF) (by rw [State.stackLimits_setTop _ htopF]; exact hlimF)
    (by rw [← hlen]; simp only [List.length_cons, List.length_nil]; omega) hwords (by omega)
/-- fillInStackTrace, where there are no traces -/
theorem ax_fill (hst : l.stackTraces = false) {p : Program} {e : Env} {R : Jvm.Room} {s : State} {m : MethodId} {args : Array Value} {below : List Frame} {meth : Method} {c : Code} {H : Heap} {locs : List Loc} {cells slots : Nat} {Q : State → Prop} {ls : Array Slot} (hadm : l.admits e) (CX : ax_CX G M p s m args meth c) (hls : ls.size = M.2.2.1) (hRf : 21 ≤ R.frames) (hRl : 360 ≤ R.locals)
    (T : ThrowableC) {Z : Init0T} (L : T.Links e.platform s) (Y : Bundle.Ties T Z s) {idx : Nat} (hl : (Cond.methodLink M.1 idx Bundle.tFill).before args s = true) (hd : decode M.2.1 pc = .ok (.invokevirtual idx, 3))
    {A : Nat} {cell : Cell} (hcell : H[A]? = some cell) (hvm : cell.vm = .none) (hfree : cell.monitor.owner = none) (hcount : cell.monitor.count = 0) (hsel0 : selectMethod e.platform s.vm cell.cls T.fill0 = .method T.fill0) (hselF : selectMethod e.platform s.vm cell.cls T.fill = .method T.fill)
    {u0 : RefV} (hvS : cell.slots[T.fStack.slot]? = some u0.v) {cellS : Cell} (hcellS : H[T.aS]? = some cellS) (hneS : T.aS ≠ A) (hknownS : cellS.vm ≠ .unknown) (hvU : cellS.slots[T.fUnassigned.slot]? = some u0.v) (htS : Takes s cell T.fStack u0.v) (hskip : ∀ t : Nat, SkipFacts T e.platform s (fun u => u) u0 (cell.withEntry t))
    (kk : ∀ H' : Heap, H'[A]? = some (cell.setSlot T.fStack.slot u0.v) → H'.size = H.size → (∀ q, q ≠ A → H'[q]? = H[q]?) → W p l e R s m args below meth c H' (locs ++ [⟨A, T.fStack.slot⟩]) cells slots Q (F0 m (pc + 3) ls [.ref A])) : W p l e R s m args below meth c H locs cells slots Q (F0 m pc ls [.ref A]) := by
  intro T0 hT X
  have htr : e.platform.stackTraces = false := (show e.platform.stackTraces = l.stackTraces by rw [hadm.platform]).trans hst
  have hcT : T0.heap[A]? = some cell := by rw [hT]; exact hcell
  obtain ⟨vm', X', st⟩ := X.invokevirtual CX.1 CX.2.2.2.1 hl Y.fill (L.method L.fillAt) L.fillStatic L.cls L.notInterface (by decide) hcT (fun z h => by rw [hvm] at h; cases h) hselF (L.method L.fillAt) L.fillAbstract L.cls L.notInterface (g := F0 m pc ls [.ref A]) rfl (argsL := []) (rest := []) (by rw [L.fillParams]; rfl) rfl (by rw [CX.2.1]; exact hd)
  have hsz : ls.size = c.maxLocals := by rw [hls, CX.2.2.1]
  have hroom := X'.notFull (g := F0 m pc ls []) hsz (vars := 1 + 2) (by omega) (by show 2 * 0 + 0 + (1 + 2 + 11) ≤ _; omega)
  have hhere : At (T0.setVm vm') (F0 m pc ls []).method c below := X'.here
  have hlen := X'.framesAbove (n := 2) (by omega)
  have hwords := X'.stackAbove (g := F0 m pc ls []) hsz (K := 41) (by show 2 * 0 + 0 + 41 ≤ _; omega)
  obtain ⟨vm2, hW2, st2⟩ := Steps.fillColdAnyV p (s₀ := s) (V := T0.setVm vm') (g := F0 m pc ls []) (self := A) hhere CX.1 T L X'.warmed (Nn := fun u => u) heapOnly_id (fun _ _ => rfl) (fun _ => rfl) (fun u x y => setCell_twice _ _ _ _) (cell := cell) (cellS := cellS) (cN := cell.withEntry (T0.setVm vm').cur) (u0 := u0) [] hcT (fun z h => by rw [hvm] at h; cases h) (fun h => by rw [hvm] at h; cases h) (Or.inl hfree) hvS hsel0
    (by show T0.heap[T.aS]? = _; rw [hT]; exact hcellS) hneS hknownS hvU (fun u h => h) (fun u h => h) rfl rfl rfl rfl htS (by rw [CX.2.1]; exact hd)
    (fun _ vm1 hW1 hA t' hrest => by
      exact L.nativeOff p htr hA hW1 (ax_fillRoom (V := (T0.setVm vm').setVm vm1) (g := F0 m pc ls []) hhere.top rfl hlen hwords) hrest) hroom (hskip _)
  have hleft : ((cell.withEntry (T0.setVm vm').cur).setSlot T.fStack.slot u0.v).left = cell.setSlot T.fStack.slot u0.v := by
    have h2 : (cell.withEntry (T0.setVm vm').cur).left = cell := Cell.left_withEntry (T0.setVm vm').cur hfree hcount
    simp only [Cell.left_setSlot, h2]
  have hleft2 : ((cell.setSlot T.fStack.slot u0.v).withEntry (T0.setVm vm').cur).left = cell.setSlot T.fStack.slot u0.v := Cell.left_withEntry (T0.setVm vm').cur hfree hcount
  rw [hleft] at st2
  have X2 := X'.noted hW2
  have hcT2 : ((T0.setVm vm').setVm vm2).heap[A]? = some cell := hcT
  have X3 := X2.stored (a := A) hcT2 T.fStack.slot u0.v
  have ha : A < H.size := (Array.getElem?_eq_some_iff.mp hcell).1
  have hheap : (((T0.setVm vm').setVm vm2).setCell A (cell.setSlot T.fStack.slot u0.v)).heap = H.setIfInBounds A (cell.setSlot T.fStack.slot u0.v) := by rw [← hT]; rfl
  obtain ⟨t, a1, b1⟩ := kk (H.setIfInBounds A (cell.setSlot T.fStack.slot u0.v)) (by simp [Array.getElem?_setIfInBounds, ha]) (by simp) (fun q hq => by simp [Array.getElem?_setIfInBounds, Ne.symm hq]) _ hheap X3
  exact ⟨t, st t fun acts => by rw [doInvoke_state]; exact st2 t a1, b1⟩
/-- the first bytes of Throwable's constructors -/
def ax_thd (code : ByteArray) : Prop := decode code 0 = .ok (.aload_n 0, 1) ∧ decode code 1 = .ok (.invokespecial 1, 3) ∧ decode code 4 = .ok (.aload_n 0, 1) ∧ decode code 5 = .ok (.aload_n 0, 1) ∧ decode code 6 = .ok (.putfield 7, 3) ∧ decode code 9 = .ok (.aload_n 0, 1) ∧ decode code 10 = .ok (.getstatic 13, 3) ∧ decode code 13 = .ok (.putfield 17, 3) ∧ decode code 16 = .ok (.aload_n 0, 1) ∧ decode code 17 = .ok (.getstatic 20, 3) ∧ decode code 20 = .ok (.putfield 24, 3) ∧ decode code 23 = .ok (.aload_n 0, 1) ∧ decode code 24 = .ok (.invokevirtual 27, 3) ∧ decode code 27 = .ok (.pop, 1)
theorem ax_thr_pre (F : ax_FA G) (B : ax_TB G) (US : ax_US G) (hst : l.stackTraces = false) (hM : M.1 = Bundle.tN) (hdk : ax_thd M.2.1) {k j : Nat} (hkk : ax_tk G k j) {p : Program} {e : Env} {R : Jvm.Room} {s : State} {m : MethodId} {args : Array Value} {below : List Frame} {meth : Method} {c : Code} {H : Heap} {locs : List Loc} {cells slots : Nat} {Q : State → Prop} {ls : Array Slot} (CX : ax_CX G M p s m args meth c) (hls : ls.size = M.2.2.1) (hRf : 21 ≤ R.frames) (hRl : 360 ≤ R.locals)
    {h : ax_H} {o : Nat} (X : ax_RL G s h H locs) (hlo : ¬ o < 400) {fs : List Value} (hc : h.1 o = .inr (k, fs)) (hfs : fs[j]? = some .null) (hl0 : ls[0]? = some (.val (.ref (ax_ad G o))))
    (kk : ∀ (H' : Heap) (locs' : List Loc) (kC : Class) (cell : Cell) (r : vw_C) (cf fi i7 : Nat) (fm fc : Field) (kf : Class), ax_RL G s h H' locs' → ax_ck G k j kC H' (ax_ad G o) cell → G.2.2.1[k]? = some r → k ≠ 9999 → j < r.2.2 → s.fieldFound? Bundle.tN "detailMessage" "Ljava/lang/String;" = some (cf, kf, fi, fm) → ax_hid G s r k (G.2.1.1 k) kC fm → (Cond.fieldLink M.1 31 Bundle.tN "detailMessage" "Ljava/lang/String;").before args s = true → s.fieldFound? Bundle.tN "cause" "Ljava/lang/Throwable;" = some (cf, kf, i7, fc) → ax_hid G s r k (G.2.1.1 k) kC fc → (Cond.fieldLink M.1 7 Bundle.tN "cause" "Ljava/lang/Throwable;").before args s = true →
      W p l e R s m args below meth c H' locs' cells slots Q (F0 m 28 ls [])) : W p l e R s m args below meth c H locs cells slots Q (F0 m 0 ls []) := by
  obtain ⟨hk7, r, hr, hj, hrj, hu, hat, hnm⟩ := hkk
  obtain ⟨d0, d1, d4, d5, d6, d9, d10, d13, d16, d17, d20, d23, d24, d27⟩ := hdk
  have hs := CX.2.2.2.2.2.2.2.2.2
  have hts := CX.2.2.2.2.1
  have hne := ax_len_lt F hr
  have hw : ∀ w ∈ ax_thA r.1, w.before args s = true := fun w hw => ax_mv B hs hts (hat w hw).1 (hat w hw).2
  obtain ⟨hU, hN⟩ := ax_US_at US hs
  have hT := vx_own (L := Bundle.throwableAtoms) (args := args) (fun w hx => hw w (List.mem_append_left _ hx)) (vx_isRefq hU.1) (vx_isRefq hN.1) hU.2.word hN.2.word
  have w31 := hw (.fieldLink Bundle.tN 31 Bundle.tN "detailMessage" "Ljava/lang/String;") (List.mem_append_right _ (by simp))
  have w198 := hw (.fieldLink Bundle.tN 198 Bundle.tN "backtrace" "Ljava/lang/Object;") (List.mem_append_right _ (by simp))
  have wlb := hw (.lays Bundle.tN Bundle.tN "backtrace" "Ljava/lang/Object;") (List.mem_append_right _ (by simp))
  have ws0 := hw (.selects r.1 Bundle.tFill0 Bundle.tFill0) (List.mem_append_right _ (by simp))
  have wsF := hw (.selects r.1 Bundle.tFill Bundle.tFill) (List.mem_append_right _ (by simp))
  have wC := hw (.lays r.1 Bundle.tN "cause" "Ljava/lang/Throwable;") (List.mem_append_right _ (by simp))
  have wS := hw (.lays r.1 Bundle.tN "stackTrace" Bundle.steD) (List.mem_append_right _ (by simp))
  have wP := hw (.lays r.1 Bundle.tN "suppressedExceptions" Bundle.listD) (List.mem_append_right _ (by simp))
  have wM := hw (.lays r.1 Bundle.tN "detailMessage" "Ljava/lang/String;") (List.mem_append_right _ (by simp))
  have t : ∀ w ∈ Bundle.throwableAtoms, w.before args s = true := hT
  have t7 := t (.fieldLink Bundle.tN 7 Bundle.tN "cause" "Ljava/lang/Throwable;") (by simp [Bundle.throwableAtoms])
  have t17 := t (.fieldLink Bundle.tN 17 Bundle.tN "stackTrace" Bundle.steD) (by simp [Bundle.throwableAtoms])
  have t24 := t (.fieldLink Bundle.tN 24 Bundle.tN "suppressedExceptions" Bundle.listD) (by simp [Bundle.throwableAtoms])
  have t13 := t (.fieldLink Bundle.tN 13 Bundle.tN "UNASSIGNED_STACK" Bundle.steD) (by simp [Bundle.throwableAtoms])
  have t20 := t (.fieldLink Bundle.tN 20 Bundle.tN "SUPPRESSED_SENTINEL" Bundle.listD) (by simp [Bundle.throwableAtoms])
  have t1 := t (.methodLink Bundle.tN 1 Lib.objectInit) (by simp [Bundle.throwableAtoms, Bundle.oInit, Lib.objectInit])
  have t27 := t (.methodLink Bundle.tN 27 Bundle.tFill) (by simp [Bundle.throwableAtoms])
  have tI := t (.instanceMethod Lib.objectInit) (by simp [Bundle.throwableAtoms, Bundle.oInit, Lib.objectInit])
  have tO := t (.code Lib.objectInit ⟨#[0xb1]⟩ 1 none) (by simp [Bundle.throwableAtoms, Bundle.oInit, Lib.objectInit])
  have cv : ∀ (i : Nat) (nm ds : String), (Cond.fieldLink Bundle.tN i Bundle.tN nm ds).before args s = true → (Cond.fieldLink M.1 i Bundle.tN nm ds).before args s = true := fun i nm ds z => by rw [hM]; exact z
  have cm : ∀ (i : Nat) (x : MethodName), (Cond.methodLink Bundle.tN i x).before args s = true → (Cond.methodLink M.1 i x).before args s = true := fun i x z => by rw [hM]; exact z
  replace t7 := cv _ _ _ t7
  replace t17 := cv _ _ _ t17
  replace t24 := cv _ _ _ t24
  replace t13 := cv _ _ _ t13
  replace t20 := cv _ _ _ t20
  replace t1 := cm _ _ t1
  replace t27 := cm _ _ t27
  have w31' := cv _ _ _ w31
  refine ax_pl (l := l) fun hadm => ?_
  have howns : e.platform.frameOwnsMonitors = true := by rw [hadm.platform]
  have hfin : e.platform.finalization = false := by rw [hadm.platform]
  have hpl : e.platform.magicAccessors = ({} : Platform).magicAccessors := by rw [hadm.platform]
  obtain ⟨T, Z0, L, -, Y⟩ := ThrowableC.of_atoms (args := args) howns hfin hpl t
  obtain ⟨iM, hffM⟩ := Y.msg
  obtain ⟨hS, hfc, kC, hkC, hkind⟩ := (ax_K_at F hs).1 k _ hr
  have hC := ax_hid_of (ty := .object "java/lang/Throwable") F hs hts hr hu hkC (by decide +kernel) (Or.inl ⟨_, rfl⟩) wC (fun i hi => (hnm i hi).1) Y.cause
  have hSt := ax_hid_of (ty := .array (.object "java/lang/StackTraceElement")) F hs hts hr hu hkC (by decide +kernel) (Or.inr ⟨_, rfl⟩) wS (fun i hi => (hnm i hi).2.1) Y.stack
  have hSu := ax_hid_of (ty := .object "java/util/List") F hs hts hr hu hkC (by decide +kernel) (Or.inl ⟨_, rfl⟩) wP (fun i hi => (hnm i hi).2.2.1) Y.supp
  have hMs := ax_hid_of (ty := .object "java/lang/String") F hs hts hr hu hkC (by decide +kernel) (Or.inl ⟨_, rfl⟩) wM (fun i hi => (hnm i hi).2.2.2) hffM
  obtain ⟨ci198, i198, fB, hk198, hg198, ha198, hsB, -, hnB, htB, hffB⟩ := Cond.ownField (t := .object "java/lang/Object") Y.found L.cls (by decide +kernel) w198 wlb e.platform hpl
  obtain ⟨cfb, kfb, fib, fb, hfb, hslb⟩ := hS j hj
  rw [hrj] at hfb
  have efb : fb = fB := by have := hfb.symm.trans hffB; simp at this; exact this.2.2.2
  subst efb
  have hkci : ax_ci (h.1 o) = some k := by rw [hc]; rfl
  obtain ⟨cell, hck⟩ : ∃ cell : Cell, ax_ck G k j kC H (ax_ad G o) cell := by
    rcases ax_new_at X hlo with hdd | ⟨hn, -⟩
    · rw [hc] at hdd; cases hdd; exact absurd rfl hne
    · rw [hc] at hn
      obtain ⟨r', f1, f2, ⟨cell, q1, q2, q3, q4⟩, q5⟩ := hn
      cases Option.some.inj (f1.symm.trans hr)
      obtain ⟨m1, m2, m3⟩ := q5 hk7 cell q1
      refine ⟨cell, q1, q2, q3, m1, m2, ?_, by rw [q4 j hj, ax_getD hfs]; rfl⟩
      cases hg1 : G.1.vm.classes[cell.cls]? with
      | none =>
        obtain ⟨-, -, kG, hkG, -⟩ := F.1.1 k _ hr
        rw [q2, hkG] at hg1
        cases hg1
      | some kG =>
        obtain ⟨k', hk', he⟩ := hs.1.alike.2.2 _ _ hg1
        rw [q2] at hk'
        rw [m3 kG hg1, ← Option.some.inj (hk'.symm.trans hkC), he]
  obtain ⟨u0, hu0, zU⟩ := ax_Zq_val hU.1
  obtain ⟨sen, hsen, zN⟩ := ax_Zq_val hN.1
  have hRl9 : 360 ≤ R.locals := hRl
  refine ax_ald CX d0 rfl rfl hl0 ?_
  refine W.objInit CX.1 CX.2.1 CX.2.2.2.1 t1 tI tO rfl (by rw [CX.2.2.1]; exact hls) rfl d1 (by omega) (by show 2 * 0 + 0 + 12 ≤ _; omega) ?_
  refine ax_ald CX d4 rfl rfl hl0 ?_
  refine ax_ald CX d5 rfl rfl hl0 ?_
  refine ax_tput CX X hlo hkci hr hne hj Y.cause hC t7 d6 hck rfl fun H1 X1 ck1 => ?_
  refine ax_ald CX d9 rfl rfl hl0 ?_
  refine ax_getq CX zU X1.2.2.2.2.1 t13 d10 ?_
  refine ax_tput CX X1 hlo hkci hr hne hj Y.stack hSt t17 d13 ck1 hu0 fun H2 X2 ck2 => ?_
  refine ax_ald CX d16 rfl rfl hl0 ?_
  refine ax_getq CX zN X2.2.2.2.2.1 t20 d17 ?_
  refine ax_tput CX X2 hlo hkci hr hne hj Y.supp hSu t24 d20 ck2 hsen fun H3 X3 ck3 => ?_
  refine ax_ald CX d23 rfl rfl hl0 ?_
  obtain ⟨c1, c2, c3, c4, c5, c6, c7⟩ := ck3
  obtain ⟨cfU, kfU, fiU, fU, aU, cellU, g1, g2, g3, g4, g5, g6, g7, g8⟩ := zU
  have eU := g1.symm.trans Y.unassigned
  simp only [Option.some.injEq, Prod.mk.injEq] at eU
  obtain ⟨eU1, eU2, eU3, eU4⟩ := eU
  subst eU2 eU4
  have eaU : aU = T.aS := Option.some.inj (g4.symm.trans L.statics)
  subst eaU
  have hcellS : H3[T.aS]? = some cellU := by rw [X3.2.2.2.2.1.2.1 _ (Array.getElem?_eq_some_iff.mp g5).1 g8]; exact g5
  have hneS : T.aS ≠ ax_ad G o := fun z => g8 (by show G.1.heap.size ≤ _; rw [z, ax_ad_hi (by omega)]; omega)
  have apart : ∀ {f g : Field}, (∃ d, Jmm.declares? s.vm f.slot (G.2.1.1 k + 1) (G.2.1.1 k) = some d ∧ d.2.name = f.name) → (∃ d, Jmm.declares? s.vm g.slot (G.2.1.1 k + 1) (G.2.1.1 k) = some d ∧ d.2.name = g.name) → f.name ≠ g.name → f.slot ≠ g.slot := fun ⟨d, h1, h2⟩ ⟨d', h3, h4⟩ hn => Cond.laysApart h1 h3 h2 h4 hn
  have hsel : ∀ {w : MethodName} {mw : MethodId}, (w.cls == "" ) = false → s.methodNamed? w = some mw → (Cond.selects r.1 w w).before args s = true → (∃ r0, s.methodFound? w.cls w.name w.desc = some r0 ∧ r0 = mw) → selectMethod e.platform s.vm (G.2.1.1 k) mw = .method mw := by
    intro w mw _ hn hsw hf
    obtain ⟨c2', r2, m2, q1, q2, q3, q4, -⟩ := Cond.selects_spec hsw
    obtain ⟨r0, hr0, rfl⟩ := hf
    cases Option.some.inj (q1.symm.trans hfc)
    cases Option.some.inj (q2.symm.trans hr0)
    cases Option.some.inj (q3.symm.trans hn)
    rw [Launch.admits_selectMethod hadm]; exact q4
  have hsel0 := hsel (w := Bundle.tFill0) (by decide) Y.fill0 ws0 ⟨_, State.methodFound?_of_named Y.fill0 (by decide), rfl⟩
  have hselF := hsel (w := Bundle.tFill) (by decide) Y.fill wsF ⟨_, State.methodFound?_of_named Y.fill (by decide), rfl⟩
  refine ax_fill (u0 := ⟨u0, hu0⟩) hst hadm CX hls hRf hRl T L Y t27 d24 c1 c3 c4 c5 (by rw [c2]; exact hsel0) (by rw [c2]; exact hselF) ?_ hcellS hneS (fun z => by rw [z] at g6; cases g6) g7 ⟨by rw [c6]; exact hSt.2.1, by rw [c2, c3]; exact (hSt.2.2.1 u0 hu0).2.2⟩ (fun tt => ⟨{ ci198 := ci198, i198 := i198, fBack := fb }, ⟨hk198, hg198, ha198, hsB⟩, by rw [hslb]; exact c7, fun _ _ => rfl⟩) fun H4 e1 e2 e3 => ?_
  · refine ax_ck_slot (apart hSu.2.2.2.2 hSt.2.2.2.2 (by rw [Y.suppName, Y.stackName]; decide)) ?_
    show ((_ : Array Value).setIfInBounds _ _)[_]? = _
    rw [Array.getElem?_setIfInBounds, if_pos rfl, if_pos (by rw [ck1.2.2.2.2.2.1]; exact hSt.2.1)]
  · have X4 := ax_RL_hid X3 hlo hkci hr hne hSt c1 e1 e2 e3
    have ck4 := ax_ck_set ⟨c1, c2, c3, c4, c5, c6, c7⟩ hSt hj e1
    refine lv_pop CX.1 CX.2.1 d27 rfl ?_
    exact kk H4 _ kC _ r _ _ _ _ _ _ X4 ck4 hr hne hj hffM hMs w31' Y.cause hC t7
theorem ax_rv_ref {v : Value} (h : ax_rv v = true) : (ax_v G v).isRef = true := by cases v <;> first | rfl | (exact absurd h (by decide)) | (simp [ax_rv] at h)
def ax_tks (G : ax_G) (tb : List (Nat × Nat)) : Prop := ∀ k j, tb.lookup k = some j → ax_tk G k j
theorem ax_tks_nil : ax_tks G [] := fun _ _ h => by cases h
theorem ax_tks_cons {k j : Nat} {tb : List (Nat × Nat)} (h : ax_tk G k j) (t : ax_tks G tb) : ax_tks G ((k, j) :: tb) := by
  intro i q e
  rw [List.lookup_cons] at e
  by_cases z : (i == k) = true
  · rw [z] at e
    cases e
    rw [beq_iff_eq.mp z]
    exact h
  · rw [Bool.not_eq_true] at z
    rw [z] at e
    exact t i q e
theorem ax_gf_inv {tb : List (Nat × Nat)} {c : ax_C} {v : Value} (h : ax_gf tb c = some v) : ∃ (k j : Nat) (fs : List Value), c = .inr (k, fs) ∧ tb.lookup k = some j ∧ fs[j]? = some v := by
  cases c with
  | inl a => cases h
  | inr w =>
    obtain ⟨k, fs⟩ := w
    obtain ⟨j, hj, hv⟩ := Option.bind_eq_some_iff.mp h
    exact ⟨k, j, fs, rfl, hj, hv⟩
theorem k_thr1 (F : ax_FA G) (B : ax_TB G) (US : ax_US G) (hst : l.stackTraces = false) (hM : M.1 = Bundle.tN) (hr : M.2.2.2.1 = none) (hdk : ax_thd M.2.1) {tb : List (Nat × Nat)} (hkk : ax_tks G tb) (d28 : decode M.2.1 28 = .ok (.aload_n 0, 1)) (d29 : decode M.2.1 29 = .ok (.aload_n 1, 1)) (d30 : decode M.2.1 30 = .ok (.putfield 31, 3)) (d33 : decode M.2.1 33 = .ok (.return_, 1)) : ax_Snd G l Y M 0 (S_thr1 tb) := by
  intro d K _ L st h o ho
  unfold S_thr1 at ho
  split at ho
  · rename_i oo w Lr
    split at ho
    · cases ho
    · rename_i hcond
      have hlo : ¬ oo < 400 := fun z => hcond (Or.inl z)
      have hw : ax_rv w = true := by
        cases hh : ax_rv w with
        | true => rfl
        | false => exact absurd (Or.inr hh) hcond
      obtain ⟨v, hv, hz⟩ := Option.bind_eq_some_iff.mp ho
      split at hz
      · cases hz
        obtain ⟨k, j, fs, hc, hj, hfs⟩ := ax_gf_inv hv
        refine ⟨⟨Nat.le_refl _, Nat.le_refl _⟩, fun p e R s m args below meth c CX hRf hRl h0 Q b1 b2 KO H locs ls g1 g2 X V => ?_⟩
        have l0 := ax_LV_at V (i := 0) (v := .ref oo) rfl
        have l1 := ax_LV_at V (i := 1) (v := w) rfl
        refine ax_thr_pre F B US hst hM hdk (hkk k j hj) CX V.1 (by omega) (by omega) X hlo hc hfs l0 fun H1 locs1 kC cell r cf fi i7 fm fc kf X1 ck1 hr1 hne hjl hfm hhm wm hfc hhc wc => ?_
        have hkci : ax_ci (h.1 oo) = some k := by rw [hc]; rfl
        refine ax_ald CX d28 rfl rfl l0 ?_
        refine ax_ald CX d29 rfl (ax_rv_ref hw) l1 ?_
        refine ax_tput CX X1 hlo hkci hr1 hne hjl hfm hhm wm d30 ck1 (ax_rv_ref hw) fun H2 X2 ck2 => ?_
        exact KO.1 none rfl 33 .return_ d33 ⟨rfl, hr⟩ H2 _ ls g1 g2 X2 V.1
      · cases hz
  · cases ho
theorem k_thr2 (F : ax_FA G) (B : ax_TB G) (US : ax_US G) (hst : l.stackTraces = false) (hM : M.1 = Bundle.tN) (hr : M.2.2.2.1 = none) (hdk : ax_thd M.2.1) {tb : List (Nat × Nat)} (hkk : ax_tks G tb) (d28 : decode M.2.1 28 = .ok (.aload_n 0, 1)) (d29 : decode M.2.1 29 = .ok (.aload_n 1, 1)) (d30 : decode M.2.1 30 = .ok (.putfield 31, 3)) (d33 : decode M.2.1 33 = .ok (.aload_n 0, 1)) (d34 : decode M.2.1 34 = .ok (.aload_n 2, 1)) (d35 : decode M.2.1 35 = .ok (.putfield 7, 3)) (d38 : decode M.2.1 38 = .ok (.return_, 1)) : ax_Snd G l Y M 0 (S_thr2 tb) := by
  intro d K _ L st h o ho
  unfold S_thr2 at ho
  split at ho
  · rename_i oo w x Lr
    split at ho
    · cases ho
    · rename_i hcond
      have hlo : ¬ oo < 400 := fun z => hcond (Or.inl z)
      have hw : ax_rv w = true := by
        cases hh : ax_rv w with
        | true => rfl
        | false => exact absurd (Or.inr (Or.inl hh)) hcond
      have hx : ax_rv x = true := by
        cases hh : ax_rv x with
        | true => rfl
        | false => exact absurd (Or.inr (Or.inr hh)) hcond
      obtain ⟨v, hv, hz⟩ := Option.bind_eq_some_iff.mp ho
      split at hz
      · cases hz
        obtain ⟨k, j, fs, hc, hj, hfs⟩ := ax_gf_inv hv
        refine ⟨⟨Nat.le_refl _, Nat.le_refl _⟩, fun p e R s m args below meth c CX hRf hRl h0 Q b1 b2 KO H locs ls g1 g2 X V => ?_⟩
        have l0 := ax_LV_at V (i := 0) (v := .ref oo) rfl
        have l1 := ax_LV_at V (i := 1) (v := w) rfl
        have l2 := ax_LV_at V (i := 2) (v := x) rfl
        refine ax_thr_pre F B US hst hM hdk (hkk k j hj) CX V.1 (by omega) (by omega) X hlo hc hfs l0 fun H1 locs1 kC cell r cf fi i7 fm fc kf X1 ck1 hr1 hne hjl hfm hhm wm hfc hhc wc => ?_
        have hkci : ax_ci (h.1 oo) = some k := by rw [hc]; rfl
        refine ax_ald CX d28 rfl rfl l0 ?_
        refine ax_ald CX d29 rfl (ax_rv_ref hw) l1 ?_
        refine ax_tput CX X1 hlo hkci hr1 hne hjl hfm hhm wm d30 ck1 (ax_rv_ref hw) fun H2 X2 ck2 => ?_
        refine ax_ald CX d33 rfl rfl l0 ?_
        refine ax_ald CX d34 rfl (ax_rv_ref hx) l2 ?_
        refine ax_tput CX X2 hlo hkci hr1 hne hjl hfc hhc wc d35 ck2 (ax_rv_ref hx) fun H3 X3 ck3 => ?_
        exact KO.1 none rfl 38 .return_ d38 ⟨rfl, hr⟩ H3 _ ls g1 g2 X3 V.1
      · cases hz
  · cases ho
end EXC
