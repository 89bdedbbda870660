/-! what the pure machine's things are in the real one -/
abbrev ax_D : Type := (Nat → Int32) ⊕ (Nat → Int64) ⊕ (Nat → UInt32) ⊕ (Nat → UInt64) ⊕ (Nat → Option Nat)
/-- the start's state; the kinds' numbers and slots; the kinds; the numbers of the kinds of arrays; where the old things lie; what they are -/
abbrev ax_G : Type := State × va_G × List vw_C × (Nat → ClassId) × (Nat → Nat) × (Nat → ax_C)
abbrev ax_M : Type := String × ByteArray × Nat × Option FieldType × Bool × List (Nat × Nat × Nat × Nat)
def ax_ty (t : Nat) : FieldType := match t with
  | 0 => .int
  | 1 => .long
  | 2 => .boolean
  | 3 => .byte
  | 4 => .object "java/lang/Object"
  | 5 => .array .int
  | _ => .object "java/lang/Intege\x72"
def ax_dead : ax_C := .inr (9999, [])
def ax_ad (G : ax_G) (i : Nat) : Nat := if i < 400 then G.2.2.2.2.1 i else G.1.heap.size + (i - 400)
def ax_v (G : ax_G) (v : Value) : Value := match v with
  | .ref i => .ref (ax_ad G i)
  | .int x => .int x
  | .long x => .long x
  | .float x => .float x
  | .double x => .double x
  | .null => .null
  | .retAddr x => .retAddr x
def ax_el (G : ax_G) (x : ax_D) (j : Nat) : Value := match x with
  | .inl f => .int (f j)
  | .inr (.inl f) => .long (f j)
  | .inr (.inr (.inl f)) => .float (f j)
  | .inr (.inr (.inr (.inl f))) => .double (f j)
  | .inr (.inr (.inr (.inr f))) => va_rf ((f j).map (ax_ad G))
/-- nobody holds it, and it has all its slots -/
def ax_mon (G : ax_G) (H : Heap) (a : Nat) : Prop := ∀ cell : Cell, H[a]? = some cell → cell.monitor.owner = none ∧ cell.monitor.count = 0 ∧ ∀ kG : Class, G.1.vm.classes[cell.cls]? = some kG → cell.slots.size = kG.instanceTypes.size
/-- a thing that the run has made, exactly -/
def ax_nw (G : ax_G) (H : Heap) (a : Nat) (c : ax_C) : Prop := match c with
  | .inl (t, n, x) => H[a]? = some (arrV (G.2.2.2.1 t) n (ax_el G x)) ∧ n < 2 ^ 31 ∧ t ≤ 5
  | .inr (k, fs) => ∃ r : vw_C, G.2.2.1[k]? = some r ∧ fs.length = r.2.2 ∧ t_OB a (G.2.1.1 k) r.2.2 (G.2.1.2 k) H (vp_V (fs.map (ax_v G))) ∧ (k ∈ ax_thk → ax_mon G H a)
/-- a thing as it is read -/
def ax_rd (G : ax_G) (U : State) (H : Heap) (a : Nat) (c : ax_C) : Prop := match c with
  | .inl (t, n, x) => ∃ cell : Cell, H[a]? = some cell ∧ U.isArrayOf cell (ax_ty t) ∧ cell.vm ≠ .unknown ∧ n ≤ cell.slots.size ∧ cell.slots.size.toInt32 = Int32.ofNat n ∧ ∀ j, j < n → cell.slots[j]? = some (ax_el G x j)
  | .inr (k, fs) => ∃ (r : vw_C) (cell : Cell), G.2.2.1[k]? = some r ∧ fs.length = r.2.2 ∧ H[a]? = some cell ∧ cell.cls = G.2.1.1 k ∧ cell.vm ≠ .unknown ∧ cell.vm.isStatics = false ∧ ∀ j, j < r.2.2 → cell.slots[G.2.1.2 k j]? = some (vp_V (fs.map (ax_v G)) j)
/-- what is known of the start -/
def ax_FA (G : ax_G) : Prop := va_K G.2.1 G.2.2.1 [] G.1 ∧ (∀ t, t ≤ 5 → ArrOfT G.1 (G.2.2.2.1 t) (ax_ty t) ∧ va_RA G.1 (G.2.2.2.1 t) (ax_ty t)) ∧ G.2.2.1.length ≤ 9999 ∧
  (∀ i, i < 400 → (i ≠ 6 → G.2.2.2.2.1 i < G.1.heap.size) ∧ (G.2.2.2.2.2 i = ax_dead ∨ (G.2.2.2.2.1 i < G.1.heap.size ∧ ax_rd G G.1 G.1.heap (G.2.2.2.2.1 i) (G.2.2.2.2.2 i))))
/-- a state of the run: warmer than the start, what was there is as it was -/
def ax_GD (G : ax_G) (s : State) : Prop := G.1.WarmedH s.vm ∧ (∀ q, q < G.1.heap.size → s.heap[q]? = G.1.heap[q]?) ∧ G.1.heap.size ≤ s.heap.size
def ax_IV (h : ax_H) : Prop := (∀ (i n : Nat) (f : Nat → Option Nat), h.1 i = .inl (4, n, .inr (.inr (.inr (.inr f)))) → ∀ j, j < n → ∀ y, f j = some y → ∃ k, k ∈ ax_objs ∧ ax_ci (h.1 y) = some k) ∧
  (∀ (i n : Nat) (f : Nat → Int32), h.1 i = .inl (3, n, .inl f) → ∀ j, j < n → fits .byte (.int (f j)) = true)
def ax_RL (G : ax_G) (s : State) (h : ax_H) (H : Heap) (locs : List Loc) : Prop := H.size = G.1.heap.size + h.2.1 ∧ (∀ j, j < h.2.1 → ax_nw G H (G.1.heap.size + j) (h.1 (400 + j))) ∧ (∀ j, h.2.1 ≤ j → h.1 (400 + j) = ax_dead) ∧ (∀ i, i < 400 → h.1 i = G.2.2.2.2.2 i) ∧ va_S (fun q => G.1.heap.size ≤ q) s.heap H locs ∧ ax_IV h
def ax_LV (G : ax_G) (ls : Array Slot) (n : Nat) (L : ax_L) : Prop := ls.size = n ∧ lv_wf ls ∧ ∀ (i : Nat) (v : Value), L[i]? = some (some v) → ls[i]? = some (.val (ax_v G v))
def ax_CX (G : ax_G) (M : ax_M) (p : Program) (s : State) (m : MethodId) (args : Array Value) (meth : Method) (c : Code) : Prop :=
  p.tables.exec = Jvm.exec ∧ c.code = M.2.1 ∧ c.maxLocals = M.2.2.1 ∧ s.vm.findClass M.1 = some m.cls ∧ (∀ w ∈ lw_all, w.before args s = true) ∧ meth.sig.returnType = M.2.2.2.1 ∧ meth.locks = false ∧ (M.2.2.2.2.1 = true → meth.name = "<init>") ∧ c.exceptionTable.toList = tableOf M.2.2.2.2.2 ∧ ax_GD G s
def ax_WG (G : ax_G) (M : ax_M) (p : Program) (l : Launch) (e : Env) (R : Jvm.Room) (s : State) (m : MethodId) (args : Array Value) (below : List Frame) (meth : Method) (c : Code) (h0 : ax_H) (Q : State → Prop) (F : ax_F) : Prop :=
  ∀ (H : Heap) (locs : List Loc) (ls : Array Slot), h0.2.1 ≤ F.2.2.2.2.1 → h0.2.2 ≤ F.2.2.2.2.2 → ax_RL G s F.2.2.2 H locs → ax_LV G ls M.2.2.1 F.2.1 →
    W p l e R s m args below meth c H locs (F.2.2.2.2.1 - h0.2.1) (F.2.2.2.2.2 - h0.2.2) Q (F0 m F.1 ls (F.2.2.1.map (ax_v G)))
def ax_rop (ret : Option FieldType) (op : Instr) (v : Option Value) : Prop := match v with
  | none => op = .return_ ∧ ret = none
  | some (.int x) => op = .ireturn ∧ ∃ ty, ret = some ty ∧ narrow ty (.int x) = .int x
  | some (.long _) => op = .lreturn ∧ ret = some .long
  | some .null => op = .areturn ∧ ∃ ty, ret = some ty ∧ ((∃ n, ty = .object n) ∨ ∃ t, ty = .array t)
  | some (.ref _) => op = .areturn ∧ ∃ ty, ret = some ty ∧ ((∃ n, ty = .object n) ∨ ∃ t, ty = .array t)
  | _ => False
/-- past these rows of the method's table goes a thing of the kind k -/
def ax_past (G : ax_G) (M : ax_M) (s : State) (args : Array Value) (k pc : Nat) (z : ExceptionTableEntry) : Prop := covers z pc = false ∨ (z.catchType ≠ 0 ∧ ∃ nm : String, (Cond.classLink M.1 z.catchType nm).before args s = true ∧ ∃ r : vw_C, G.2.2.1[k]? = some r ∧ va_Nc r.1 nm s)
def ax_FIN (G : ax_G) (M : ax_M) (p : Program) (l : Launch) (e : Env) (R : Jvm.Room) (s : State) (m : MethodId) (args : Array Value) (below : List Frame) (meth : Method) (c : Code) (h0 : ax_H) (Q : State → Prop) (r : ax_R) : Prop :=
  (∀ v : Option Value, r.1 = .inl v → ∀ (pc : Nat) (op : Instr), decode M.2.1 pc = .ok (op, 1) → ax_rop M.2.2.2.1 op v → ∀ (H : Heap) (locs : List Loc) (ls : Array Slot), h0.2.1 ≤ r.2.2.1 → h0.2.2 ≤ r.2.2.2 → ax_RL G s r.2 H locs → ls.size = M.2.2.1 →
    W p l e R s m args below meth c H locs (r.2.2.1 - h0.2.1) (r.2.2.2 - h0.2.2) Q (F0 m pc ls (v.map (ax_v G)).toList)) ∧
  (∀ i : Nat, r.1 = .inr i → ∀ (pc k : Nat) (w : vw_C), ¬ i < 400 → ax_ci (r.2.1 i) = some k → G.2.2.1[k]? = some w → (∀ z ∈ tableOf M.2.2.2.2.2, ax_past G M s args k pc z) → ∀ (H : Heap) (locs : List Loc) (ls : Array Slot) (rest : List Value), h0.2.1 ≤ r.2.2.1 → h0.2.2 ≤ r.2.2.2 → ax_RL G s r.2 H locs →
    vx_W p l e R s m args below meth c H locs (r.2.2.1 - h0.2.1) (r.2.2.2 - h0.2.2) Q (F0 m pc ls rest) (ax_ad G i))
def ax_hp (o : ax_F ⊕ ax_R) : ax_H := match o with
  | .inl F => F.2.2.2
  | .inr r => r.2
def ax_KO (G : ax_G) (M : ax_M) (p : Program) (l : Launch) (e : Env) (R : Jvm.Room) (s : State) (m : MethodId) (args : Array Value) (below : List Frame) (meth : Method) (c : Code) (h0 : ax_H) (Q : State → Prop) (o : ax_F ⊕ ax_R) : Prop := match o with
  | .inl F => ax_WG G M p l e R s m args below meth c h0 Q F
  | .inr r => ax_FIN G M p l e R s m args below meth c h0 Q r
/-- contracts -/
def ax_HD (G : ax_G) (h : ax_H) (U : State) : Prop := ax_GD G U ∧ ax_RL G U h U.heap []
def ax_Qc (G : ax_G) (r : ax_R) : Array Value → State → Outcome → State → Prop := fun _ st oc t => ∃ v : Option Value, r.1 = .inl v ∧ oc = .returned (v.map (ax_v G)) ∧ ax_HD G r.2 t ∧ va_F (fun q => G.1.heap.size ≤ q) st t
def ax_XC (G : ax_G) (r : ax_R) : Addr → String → State → State → Prop := fun q E st t => ∃ (i k : Nat) (w : vw_C), r.1 = .inr i ∧ q = ax_ad G i ∧ ax_ci (r.2.1 i) = some k ∧ G.2.2.1[k]? = some w ∧ E = w.1 ∧ ax_HD G r.2 t ∧ va_F (fun q => G.1.heap.size ≤ q) st t
def ax_rm (d mc ms : Nat) : Jvm.Room := { frames := d + 20, cells := mc, slots := ms, locals := 60 * d + 300 }
abbrev ax_Y : Type := Nat → MethodName × List Cond
def ax_OK (G : ax_G) (l : Launch) (Y : ax_Y) (d : Nat) (K : ax_K) : Prop := ∀ (k : Nat) (as : List Value) (h : ax_H) (r : ax_R), K k as h = some r → h.2.1 ≤ r.2.2.1 ∧ h.2.2 ≤ r.2.2.2 ∧
  vx_Met l (Y k).1 (Y k).2 (ax_rm d (r.2.2.1 - h.2.1) (r.2.2.2 - h.2.2)) (va_Pc (as.map (ax_v G)) (ax_HD G h)) (ax_Qc G r) (ax_XC G r) (r.2.2.1 - h.2.1) (r.2.2.2 - h.2.2) (fun q => G.1.heap.size ≤ q)
def ax_Snd (G : ax_G) (l : Launch) (Y : ax_Y) (M : ax_M) (pc : Nat) (S : ax_S) : Prop := ∀ (d : Nat) (K : ax_K), ax_OK G l Y d K → ∀ (L : ax_L) (st : List Value) (h : ax_H) (o : ax_F ⊕ ax_R), S K L st h = some o → (h.2.1 ≤ (ax_hp o).2.1 ∧ h.2.2 ≤ (ax_hp o).2.2) ∧
    ∀ (p : Program) (e : Env) (R : Jvm.Room) (s : State) (m : MethodId) (args : Array Value) (below : List Frame) (meth : Method) (c : Code), ax_CX G M p s m args meth c → d + 21 ≤ R.frames → 60 * d + 360 ≤ R.locals →
    ∀ (h0 : ax_H) (Q : State → Prop), (ax_hp o).2.1 ≤ h0.2.1 + R.cells → (ax_hp o).2.2 ≤ h0.2.2 + R.slots → ax_KO G M p l e R s m args below meth c h0 Q o → ax_WG G M p l e R s m args below meth c h0 Q (pc, L, st, h)
/-! locals -/
theorem ax_v_cat (G : ax_G) (v : Value) : (ax_v G v).category = v.category := by cases v <;> rfl
theorem ax_li_get : ∀ (L : ax_L) (i : Nat) (x : Int32), ax_li L i = some x → L[i]? = some (some (.int x)) := by
  intro L
  induction L with
  | nil => intro i x h; simp [ax_li] at h
  | cons a L ih =>
    intro i x h
    cases i with
    | zero =>
      cases a with
      | none => simp [ax_li] at h
      | some v => cases v <;> simp [ax_li] at h ⊢; exact h
    | succ i =>
      have h1 : ax_li L i = some x := by
        cases a with
        | none => simpa [ax_li] using h
        | some v => cases v <;> simpa [ax_li] using h
      simpa using ih i x h1
theorem ax_ll2_get : ∀ (L : ax_L) (i : Nat) (x : Int64), ax_ll2 L i = some x → L[i]? = some (some (.long x)) := by
  intro L
  induction L with
  | nil => intro i x h; simp [ax_ll2] at h
  | cons a L ih =>
    intro i x h
    cases i with
    | zero =>
      cases a with
      | none => simp [ax_ll2] at h
      | some v => cases v <;> simp [ax_ll2] at h ⊢; exact h
    | succ i =>
      have h1 : ax_ll2 L i = some x := by
        cases a with
        | none => simpa [ax_ll2] using h
        | some v => cases v <;> simpa [ax_ll2] using h
      simpa using ih i x h1
theorem ax_la_get : ∀ (L : ax_L) (i : Nat) (v : Value), ax_la L i = some v → L[i]? = some (some v) ∧ (v = .null ∨ ∃ a, v = .ref a) := by
  intro L
  induction L with
  | nil => intro i x h; simp [ax_la] at h
  | cons a L ih =>
    intro i x h
    cases i with
    | zero =>
      cases a with
      | none => simp [ax_la] at h
      | some v =>
        cases v with
        | null => simp [ax_la] at h; subst h; exact ⟨rfl, Or.inl rfl⟩
        | ref q => simp [ax_la] at h; subst h; exact ⟨rfl, Or.inr ⟨_, rfl⟩⟩
        | _ => simp [ax_la] at h
    | succ i =>
      have h1 : ax_la L i = some x := by
        cases a with
        | none => simpa [ax_la] using h
        | some v => cases v <;> simpa [ax_la] using h
      simpa using ih i x h1
/-- the listed locals, as the kit has them -/
def ax_pr (G : ax_G) (i : Nat) : ax_L → List (Nat × Value)
  | [] => []
  | none :: L => ax_pr G (i + 1) L
  | some v :: L => (i, ax_v G v) :: ax_pr G (i + 1) L
theorem ax_pr_mem (G : ax_G) : ∀ (L : ax_L) (i j : Nat) (w : Value), (j, w) ∈ ax_pr G i L ↔ ∃ (k : Nat) (v : Value), j = i + k ∧ L[k]? = some (some v) ∧ w = ax_v G v := by
  intro L
  induction L with
  | nil => intro i j w; simp [ax_pr]
  | cons a L ih =>
    intro i j w
    have key : (∃ (k : Nat) (v : Value), j = i + k ∧ (a :: L)[k]? = some (some v) ∧ w = ax_v G v) ↔ (∃ v, j = i ∧ a = some v ∧ w = ax_v G v) ∨ ∃ (k : Nat) (v : Value), j = i + 1 + k ∧ L[k]? = some (some v) ∧ w = ax_v G v := by
      constructor
      · intro ⟨k, v, h1, h2, h3⟩
        cases k with
        | zero => simp at h2; exact Or.inl ⟨v, h1, h2, h3⟩
        | succ k => simp at h2; exact Or.inr ⟨k, v, by omega, h2, h3⟩
      · intro h
        rcases h with ⟨v, h1, h2, h3⟩ | ⟨k, v, h1, h2, h3⟩
        · exact ⟨0, v, by omega, by simp [h2], h3⟩
        · exact ⟨k + 1, v, by omega, by simpa using h2, h3⟩
    rw [key, ← ih]
    cases a with
    | none => simp [ax_pr]
    | some v =>
      simp only [ax_pr, List.mem_cons, Prod.mk.injEq, Option.some.injEq]
      constructor
      · intro h
        rcases h with ⟨h1, h2⟩ | h
        · exact Or.inl ⟨v, h1, rfl, h2⟩
        · exact Or.inr h
      · intro h
        rcases h with ⟨v', h1, h2, h3⟩ | h
        · subst h2; exact Or.inl ⟨h1, h3⟩
        · exact Or.inr h
theorem ax_LV_has {G : ax_G} {ls : Array Slot} {n : Nat} {L : ax_L} (h : ax_LV G ls n L) : lv_has ls n (ax_pr G 0 L) := by
  refine ⟨h.1, h.2.1, fun q hq => ?_⟩
  obtain ⟨k, v, h1, h2, h3⟩ := (ax_pr_mem G L 0 q.1 q.2).mp hq
  rw [h1, h3, Nat.zero_add]
  exact h.2.2 k v h2
theorem ax_LV_of {G : ax_G} {ls : Array Slot} {n : Nat} {L : ax_L} {lv : List (Nat × Value)} (h : lv_has ls n lv) (hL : ∀ (j : Nat) (v : Value), L[j]? = some (some v) → (j, ax_v G v) ∈ lv) : ax_LV G ls n L :=
  ⟨h.1, h.2.1, fun i v hv => h.2.2 (i, ax_v G v) (hL i v hv)⟩
theorem ax_LV_at {G : ax_G} {ls : Array Slot} {n : Nat} {L : ax_L} (h : ax_LV G ls n L) {i : Nat} {v : Value} (hi : L[i]? = some (some v)) : ls[i]? = some (.val (ax_v G v)) := h.2.2 i v hi
theorem ax_sto_get : ∀ (L : ax_L) (i : Nat) (v : Value) (j : Nat) (w : Value), (ax_sto L i v)[j]? = some (some w) → (j = i ∧ w = v ∧ i < L.length) ∨ (j ≠ i ∧ L[j]? = some (some w) ∧ ¬ (j + 1 = i ∧ w.category = 2)) := by
  intro L
  induction L with
  | nil => intro i v j w h; simp [ax_sto] at h
  | cons a L ih =>
    intro i v j w h
    match i, L, ih with
    | 0, L, _ =>
      simp only [ax_sto] at h
      cases j with
      | zero => simp at h; exact Or.inl ⟨rfl, h.symm, by simp⟩
      | succ j => simp at h; exact Or.inr ⟨by omega, by simpa using h, by omega⟩
    | 1, [], _ => simp [ax_sto] at h
    | 1, b :: L, _ =>
      simp only [ax_sto] at h
      match j with
      | 0 =>
        simp at h
        cases a with
        | none => simp [ax_nl] at h
        | some u =>
          cases u <;> simp [ax_nl] at h <;> (subst h; exact Or.inr ⟨by omega, by simp, by simp [Value.category]⟩)
      | 1 => simp at h; exact Or.inl ⟨rfl, h.symm, by simp⟩
      | j + 2 => simp at h; exact Or.inr ⟨by omega, by simpa using h, by omega⟩
    | i + 2, L, ih =>
      simp only [ax_sto] at h
      cases j with
      | zero => simp at h; exact Or.inr ⟨by omega, by simpa using h, by omega⟩
      | succ j =>
        simp at h
        rcases ih (i + 1) v j w h with ⟨h1, h2, h3⟩ | ⟨h1, h2, h3⟩
        · exact Or.inl ⟨by omega, h2, by simp; omega⟩
        · exact Or.inr ⟨by omega, by simpa using h2, fun ⟨q1, q2⟩ => h3 ⟨by omega, q2⟩⟩
theorem ax_sto2_get : ∀ (L : ax_L) (i : Nat) (v : Value) (j : Nat) (w : Value), (ax_sto2 L i v)[j]? = some (some w) → (j = i ∧ w = v ∧ i + 1 < L.length) ∨ (j ≠ i ∧ j ≠ i + 1 ∧ L[j]? = some (some w) ∧ ¬ (j + 1 = i ∧ w.category = 2)) := by
  intro L
  induction L with
  | nil => intro i v j w h; simp [ax_sto2] at h
  | cons a L ih =>
    intro i v j w h
    match i, L, ih with
    | 0, [], _ => simp [ax_sto2] at h
    | 0, b :: L, _ =>
      simp only [ax_sto2] at h
      match j with
      | 0 => simp at h; exact Or.inl ⟨rfl, h.symm, by simp⟩
      | 1 => simp at h
      | j + 2 => simp at h; exact Or.inr ⟨by omega, by omega, by simpa using h, by omega⟩
    | 1, [], _ => simp [ax_sto2] at h
    | 1, [b], _ => simp [ax_sto2] at h
    | 1, b :: b' :: L, _ =>
      simp only [ax_sto2] at h
      match j with
      | 0 =>
        simp at h
        cases a with
        | none => simp [ax_nl] at h
        | some u =>
          cases u <;> simp [ax_nl] at h <;> (subst h; exact Or.inr ⟨by omega, by omega, by simp, by simp [Value.category]⟩)
      | 1 => simp at h; exact Or.inl ⟨rfl, h.symm, by simp⟩
      | 2 => simp at h
      | j + 3 => simp at h; exact Or.inr ⟨by omega, by omega, by simpa using h, by omega⟩
    | i + 2, L, ih =>
      simp only [ax_sto2] at h
      cases j with
      | zero => simp at h; exact Or.inr ⟨by omega, by omega, by simpa using h, by omega⟩
      | succ j =>
        simp at h
        rcases ih (i + 1) v j w h with ⟨h1, h2, h3⟩ | ⟨h1, h2, h3, h4⟩
        · exact Or.inl ⟨by omega, h2, by simp; omega⟩
        · exact Or.inr ⟨by omega, by omega, by simpa using h3, fun ⟨q1, q2⟩ => h4 ⟨by omega, q2⟩⟩
/-! from the real machine's entry -/
theorem ax_entry (G : ax_G) : ∀ (as : List Value) (i : Nat) (L0 : ax_L) (j : Nat) (v : Value), L0.length = i → (∀ k, k < i → L0[k]? = some none) → (L0 ++ ax_arg as)[j]? = some (some v) → (j, ax_v G v) ∈ lv_args i (as.map (ax_v G)) := by
  intro as
  induction as with
  | nil =>
    intro i L0 j v hl h0 h
    simp only [ax_arg, List.append_nil] at h
    have hj : j < L0.length := (List.getElem?_eq_some_iff.mp h).1
    rw [h0 j (by omega)] at h
    cases h
  | cons a as ih =>
    intro i L0 j v hl h0 h
    have hlt : ∀ {X : ax_L}, (L0 ++ X)[j]? = some (some v) → i ≤ j := by
      intro X hX
      rcases Nat.lt_or_ge j i with q | q
      · rw [List.getElem?_append_left (by omega), h0 j q] at hX
        cases hX
      · exact q
    have step1 : ∀ (u : Value), u.category = 1 → (L0 ++ some u :: ax_arg as)[j]? = some (some v) → (j, ax_v G v) ∈ lv_args i ((u :: as).map (ax_v G)) := by
      intro u hu hX
      have hij := hlt hX
      simp only [List.map_cons, lv_args, ax_v_cat, hu, show ¬ (1 = 2) by omega, if_false, List.mem_cons, Prod.mk.injEq]
      rcases Nat.lt_or_ge i j with q | q
      · right
        refine ih (i + 1) (L0 ++ [none]) j v (by simp [hl]) (fun k hk => ?_) ?_
        · rcases Nat.lt_or_ge k i with z | z
          · rw [List.getElem?_append_left (by omega)]; exact h0 k z
          · rw [show k = i by omega, List.getElem?_append_right (by omega)]; simp [hl]
        · rw [List.getElem?_append_right (by omega)] at hX
          rw [List.append_assoc, List.getElem?_append_right (by omega)]
          obtain ⟨t, ht⟩ : ∃ t, j - L0.length = t + 1 := ⟨j - L0.length - 1, by omega⟩
          rw [ht] at hX ⊢
          simpa using hX
      · left
        have : j = i := by omega
        subst this
        rw [List.getElem?_append_right (by omega), hl, Nat.sub_self] at hX
        simp at hX
        exact ⟨rfl, by rw [hX]⟩
    cases a with
    | int x => exact step1 _ rfl (by simpa [ax_arg] using h)
    | ref x => exact step1 _ rfl (by simpa [ax_arg] using h)
    | null => exact step1 _ rfl (by simpa [ax_arg] using h)
    | long x =>
      have hX : (L0 ++ some (.long x) :: none :: ax_arg as)[j]? = some (some v) := by simpa [ax_arg] using h
      have hij := hlt hX
      have e2 : lv_args i ((Value.long x :: as).map (ax_v G)) = (i, ax_v G (.long x)) :: lv_args (i + 2) (as.map (ax_v G)) := rfl
      rw [e2]
      rcases Nat.lt_or_ge i j with q | q
      · refine List.mem_cons_of_mem _ (ih (i + 2) (L0 ++ [none, none]) j v (by simp [hl]) (fun k hk => ?_) ?_)
        · rcases Nat.lt_or_ge k i with z | z
          · rw [List.getElem?_append_left (by omega)]; exact h0 k z
          · rw [List.getElem?_append_right (by omega)]
            rcases (show k = i ∨ k = i + 1 by omega) with e | e <;> (subst e; simp [hl])
        · rw [List.getElem?_append_right (by omega)] at hX
          rw [List.append_assoc, List.getElem?_append_right (by omega)]
          obtain ⟨t, ht⟩ : ∃ t, j - L0.length = t + 1 := ⟨j - L0.length - 1, by omega⟩
          rw [ht] at hX ⊢
          cases t with
          | zero => simp at hX
          | succ t => simpa using hX
      · have : j = i := by omega
        subst this
        rw [List.getElem?_append_right (by omega), hl, Nat.sub_self] at hX
        simp at hX
        rw [← hX]
        exact List.mem_cons_self
    | float x => simp only [ax_arg, List.append_nil] at h; have hj : j < L0.length := (List.getElem?_eq_some_iff.mp h).1; rw [h0 j (by omega)] at h; cases h
    | double x => simp only [ax_arg, List.append_nil] at h; have hj : j < L0.length := (List.getElem?_eq_some_iff.mp h).1; rw [h0 j (by omega)] at h; cases h
    | retAddr x => simp only [ax_arg, List.append_nil] at h; have hj : j < L0.length := (List.getElem?_eq_some_iff.mp h).1; rw [h0 j (by omega)] at h; cases h
theorem ax_args_get {n : Nat} {as : List Value} {j : Nat} {v : Value} (h : (ax_args n as)[j]? = some (some v)) : (ax_arg as)[j]? = some (some v) := by
  unfold ax_args at h
  rcases Nat.lt_or_ge j (ax_arg as).length with q | q
  · rwa [List.getElem?_append_left q] at h
  · rw [List.getElem?_append_right q] at h
    obtain ⟨_, h2⟩ := List.getElem?_eq_some_iff.mp h
    simp at h2
theorem ax_args_LV (G : ax_G) {n : Nat} {as : List Value} {ls : Array Slot} (h : lv_has ls n (lv_args 0 (as.map (ax_v G)))) : ax_LV G ls n (ax_args n as) :=
  ax_LV_of h fun j v hv => ax_entry G as 0 [] j v rfl (fun k hk => by omega) (by simpa using ax_args_get hv)
/-! the heap -/
theorem ax_GD.refl (G : ax_G) : ax_GD G G.1 := ⟨State.WarmedH.refl _, fun _ _ => rfl, Nat.le_refl _⟩
theorem ax_K_at {G : ax_G} (F : ax_FA G) {s : State} (hs : ax_GD G s) : va_K G.2.1 G.2.2.1 [] s := va_K.moved hs.1.alike F.1
theorem ax_arr_at {G : ax_G} (F : ax_FA G) {s : State} (hs : ax_GD G s) {t : Nat} (ht : t ≤ 5) : ArrOfT s (G.2.2.2.1 t) (ax_ty t) := arrOfT_moved hs.1.alike (F.2.1 t ht).1
theorem ax_arr_RA {G : ax_G} (F : ax_FA G) {s : State} (hs : ax_GD G s) {t : Nat} (ht : t ≤ 5) : va_RA s (G.2.2.2.1 t) (ax_ty t) := (F.2.1 t ht).2.moved hs.1.alike
theorem ax_RA_find {U : State} {cA : ClassId} {ty : FieldType} (h : va_RA U cA ty) : U.vm.findClass ("[" ++ ty.toString) = some cA := by
  cases ty with
  | object C => obtain ⟨-, -, -, -, -, h4⟩ := h; exact h4
  | _ => unfold va_RA at h; exact h
theorem ax_arr_find {G : ax_G} (F : ax_FA G) {s : State} (hs : ax_GD G s) {t : Nat} (ht : t ≤ 5) : s.vm.findClass ("[" ++ (ax_ty t).toString) = some (G.2.2.2.1 t) := ax_RA_find (ax_arr_RA F hs ht)
theorem ax_rd_old {G : ax_G} {s : State} (hs : ax_GD G s) {H : Heap} {locs : List Loc} (hS : va_S (fun q => G.1.heap.size ≤ q) s.heap H locs) {a : Nat} {c : ax_C} (ha : a < G.1.heap.size) (h : ax_rd G G.1 G.1.heap a c) : ax_rd G s H a c := by
  have e : H[a]? = G.1.heap[a]? := by
    rw [hS.2.1 a (by have := hs.2.2; omega) (by show ¬ G.1.heap.size ≤ a; omega)]
    exact hs.2.1 a ha
  match c, h with
  | .inl (t, n, x), h =>
    obtain ⟨cell, h1, h2, h3⟩ := h
    exact ⟨cell, by rw [e]; exact h1, State.isArrayOf_alike hs.1.alike h2, h3⟩
  | .inr (k, fs), h =>
    obtain ⟨r, cell, h1, h2, h3, h4⟩ := h
    exact ⟨r, cell, h1, h2, by rw [e]; exact h3, h4⟩
theorem ax_nw_rd {G : ax_G} (F : ax_FA G) {s : State} (hs : ax_GD G s) {H : Heap} {a : Nat} {c : ax_C} (h : ax_nw G H a c) : ax_rd G s H a c := by
  match c, h with
  | .inl (t, n, x), h =>
    obtain ⟨h1, h2, h3⟩ := h
    exact ⟨_, h1, ax_arr_at F hs h3 n (ax_el G x), (fun q => by cases q), Nat.le_of_eq (arrV_size _ _ _).symm, (by rw [arrV_size]), fun j hj => arrV_read _ _ hj⟩
  | .inr (k, fs), h =>
    obtain ⟨r, h1, h2, ⟨cell, g1, g2, g3, g4⟩, -⟩ := h
    exact ⟨r, cell, h1, h2, g1, g2, by rw [g3]; exact (fun q => by cases q), by rw [g3]; rfl, g4⟩
theorem ax_ad_lo {G : ax_G} {i : Nat} (h : i < 400) : ax_ad G i = G.2.2.2.2.1 i := by unfold ax_ad; rw [if_pos h]
theorem ax_ad_hi {G : ax_G} {i : Nat} (h : 400 ≤ i) : ax_ad G i = G.1.heap.size + (i - 400) := by unfold ax_ad; rw [if_neg (by omega)]
/-- what lies at a position, if it isn't dead -/
theorem ax_read {G : ax_G} (F : ax_FA G) {s : State} (hs : ax_GD G s) {h : ax_H} {H : Heap} {locs : List Loc} (X : ax_RL G s h H locs) (i : Nat) : h.1 i = ax_dead ∨ ax_rd G s H (ax_ad G i) (h.1 i) := by
  obtain ⟨-, hnw, hd, ho, hS, -⟩ := X
  by_cases hi : i < 400
  · rw [ho i hi, ax_ad_lo hi]
    obtain ⟨-, q | ⟨q1, q2⟩⟩ := F.2.2.2 i hi
    · exact Or.inl q
    · exact Or.inr (ax_rd_old hs hS q1 q2)
  · rw [ax_ad_hi (by omega)]
    obtain ⟨j, rfl⟩ : ∃ j, i = 400 + j := ⟨i - 400, by omega⟩
    rw [show 400 + j - 400 = j by omega]
    by_cases hj : j < h.2.1
    · exact Or.inr (ax_nw_rd F hs (hnw j hj))
    · exact Or.inl (hd j (by omega))
/-- a thing that was made in the run -/
theorem ax_new_at {G : ax_G} {s : State} {h : ax_H} {H : Heap} {locs : List Loc} (X : ax_RL G s h H locs) {i : Nat} (hi : ¬ i < 400) : h.1 i = ax_dead ∨ (ax_nw G H (ax_ad G i) (h.1 i) ∧ i < 400 + h.2.1) := by
  obtain ⟨-, hnw, hd, -, -, -⟩ := X
  rw [ax_ad_hi (by omega)]
  obtain ⟨j, rfl⟩ : ∃ j, i = 400 + j := ⟨i - 400, by omega⟩
  rw [show 400 + j - 400 = j by omega]
  by_cases hj : j < h.2.1
  · exact Or.inr ⟨hnw j hj, by omega⟩
  · exact Or.inl (hd j (by omega))
theorem ax_nw_kept {G : ax_G} {H H1 : Heap} {a : Nat} {c : ax_C} (h : ax_nw G H a c) (e : H1[a]? = H[a]?) : ax_nw G H1 a c := by
  match c, h with
  | .inl (t, n, x), h => exact ⟨by rw [e]; exact h.1, h.2⟩
  | .inr (k, fs), h =>
    obtain ⟨r, h1, h2, h3, h4⟩ := h
    exact ⟨r, h1, h2, h3.kept e, fun hk cell hc => h4 hk cell (by rw [← e]; exact hc)⟩
/-- one thing changes -/
theorem ax_RL_set {G : ax_G} {s : State} {h : ax_H} {H H1 : Heap} {locs : List Loc} {i f : Nat} {c : ax_C} (X : ax_RL G s h H locs) (hi : ¬ i < 400) (hl : i < 400 + h.2.1) (hn : ax_nw G H1 (ax_ad G i) c) (hz : H1.size = H.size) (hq : ∀ q : Nat, q ≠ ax_ad G i → H1[q]? = H[q]?) (hI : ax_IV (ax_set h i c)) : ax_RL G s (ax_set h i c) H1 (locs ++ [⟨ax_ad G i, f⟩]) := by
  obtain ⟨h1, hnw, hd, ho, hS, -⟩ := X
  have ea : ax_ad G i = G.1.heap.size + (i - 400) := ax_ad_hi (by omega)
  refine ⟨hz.trans h1, fun j hj => ?_, fun j hj => ?_, fun j hj => ?_, hS.put hz hq (by show _ ≤ ax_ad G i; omega), hI⟩
  · show ax_nw G H1 _ (if 400 + j = i then c else h.1 (400 + j))
    by_cases e : 400 + j = i
    · rw [if_pos e]
      rw [ea, show i - 400 = j by omega] at hn
      exact hn
    · rw [if_neg e]
      exact ax_nw_kept (hnw j hj) (hq _ (by omega))
  · show (if 400 + j = i then c else h.1 (400 + j)) = ax_dead
    have hj' : h.2.1 ≤ j := hj
    rw [if_neg (by omega)]
    exact hd j hj'
  · show (if j = i then c else h.1 j) = _
    rw [if_neg (by omega)]
    exact ho j hj
/-- one thing more -/
theorem ax_RL_new {G : ax_G} {s : State} {h : ax_H} {H H1 : Heap} {locs : List Loc} {w : Nat} {c : ax_C} (X : ax_RL G s h H locs) (hn : ax_nw G H1 H.size c) (hz : H1.size = H.size + 1) (hq : ∀ q : Nat, q < H.size → H1[q]? = H[q]?) (hI : ax_IV (ax_new h c w)) : ax_RL G s (ax_new h c w) H1 locs := by
  obtain ⟨h1, hnw, hd, ho, hS, -⟩ := X
  refine ⟨?_, fun j hj => ?_, fun j hj => ?_, fun j hj => ?_, ⟨Nat.le_trans hS.1 (by omega), fun q g1 g2 => ?_, hS.2.2⟩, hI⟩
  · show H1.size = G.1.heap.size + (h.2.1 + 1)
    omega
  · show ax_nw G H1 _ (if 400 + j = 400 + h.2.1 then c else h.1 (400 + j))
    have hj' : j < h.2.1 + 1 := hj
    by_cases e : j = h.2.1
    · rw [if_pos (by omega), e, ← h1]
      exact hn
    · rw [if_neg (by omega)]
      exact ax_nw_kept (hnw j (by omega)) (hq _ (by omega))
  · show (if 400 + j = 400 + h.2.1 then c else h.1 (400 + j)) = ax_dead
    have hj' : h.2.1 + 1 ≤ j := hj
    rw [if_neg (by omega)]
    exact hd j (by omega)
  · show (if j = 400 + h.2.1 then c else h.1 j) = _
    rw [if_neg (by omega)]
    exact ho j hj
  · have := hS.1
    rw [hq q (by omega)]
    exact hS.2.1 q g1 g2
theorem ax_ci_dead : ax_ci ax_dead = some 9999 := rfl
theorem ax_ci_set {h : ax_H} {i : Nat} {c : ax_C} (hc : ax_ci c = ax_ci (h.1 i)) (y : Nat) : ax_ci ((ax_set h i c).1 y) = ax_ci (h.1 y) := by
  show ax_ci (if y = i then c else h.1 y) = _
  by_cases e : y = i
  · rw [if_pos e, hc, e]
  · rw [if_neg e]
theorem ax_IV_set {h : ax_H} {i : Nat} {c : ax_C} (I : ax_IV h) (hc : ax_ci c = ax_ci (h.1 i))
    (h4 : ∀ (n : Nat) (f : Nat → Option Nat), c = .inl (4, n, .inr (.inr (.inr (.inr f)))) → ∀ j, j < n → ∀ y, f j = some y → ∃ k, k ∈ ax_objs ∧ ax_ci (h.1 y) = some k)
    (h3 : ∀ (n : Nat) (f : Nat → Int32), c = .inl (3, n, .inl f) → ∀ j, j < n → fits .byte (.int (f j)) = true) : ax_IV (ax_set h i c) := by
  refine ⟨fun q n f e j hj y hy => ?_, fun q n f e j hj => ?_⟩
  · rw [ax_ci_set hc]
    have e' : (if q = i then c else h.1 q) = .inl (4, n, .inr (.inr (.inr (.inr f)))) := e
    by_cases z : q = i
    · rw [if_pos z] at e'; exact h4 n f e' j hj y hy
    · rw [if_neg z] at e'; exact I.1 q n f e' j hj y hy
  · have e' : (if q = i then c else h.1 q) = .inl (3, n, .inl f) := e
    by_cases z : q = i
    · rw [if_pos z] at e'; exact h3 n f e' j hj
    · rw [if_neg z] at e'; exact I.2 q n f e' j hj
theorem ax_objs_dead : ¬ (9999 ∈ ax_objs) := by decide
theorem ax_IV_new {h : ax_H} {w : Nat} {c : ax_C} (I : ax_IV h) (hd : h.1 (400 + h.2.1) = ax_dead)
    (h4 : ∀ (n : Nat) (f : Nat → Option Nat), c = .inl (4, n, .inr (.inr (.inr (.inr f)))) → ∀ j, j < n → ∀ y, f j = some y → ∃ k, k ∈ ax_objs ∧ ax_ci (h.1 y) = some k)
    (h3 : ∀ (n : Nat) (f : Nat → Int32), c = .inl (3, n, .inl f) → ∀ j, j < n → fits .byte (.int (f j)) = true) : ax_IV (ax_new h c w) := by
  have key : ∀ y : Nat, (∃ k, k ∈ ax_objs ∧ ax_ci (h.1 y) = some k) → ∃ k, k ∈ ax_objs ∧ ax_ci ((ax_new h c w).1 y) = some k := by
    intro y ⟨k, hk, e⟩
    refine ⟨k, hk, ?_⟩
    show ax_ci (if y = 400 + h.2.1 then c else h.1 y) = _
    by_cases z : y = 400 + h.2.1
    · rw [z, hd, ax_ci_dead] at e
      cases e
      exact absurd hk ax_objs_dead
    · rw [if_neg z]; exact e
  refine ⟨fun q n f e j hj y hy => key y ?_, fun q n f e j hj => ?_⟩
  · have e' : (if q = 400 + h.2.1 then c else h.1 q) = .inl (4, n, .inr (.inr (.inr (.inr f)))) := e
    by_cases z : q = 400 + h.2.1
    · rw [if_pos z] at e'; exact h4 n f e' j hj y hy
    · rw [if_neg z] at e'; exact I.1 q n f e' j hj y hy
  · have e' : (if q = 400 + h.2.1 then c else h.1 q) = .inl (3, n, .inl f) := e
    by_cases z : q = 400 + h.2.1
    · rw [if_pos z] at e'; exact h3 n f e' j hj
    · rw [if_neg z] at e'; exact I.2 q n f e' j hj
section SND
variable {G : ax_G} {l : Launch} {Y : ax_Y} {M : ax_M} {pc : Nat}
/-- an instruction that leaves the heap alone -/
theorem ax_snd_simple {S : ax_S} (hS : ∀ (K : ax_K) (L : ax_L) (st : List Value) (h : ax_H) (o : ax_F ⊕ ax_R), S K L st h = some o →
    ∃ (n : Nat) (L' : ax_L) (st' : List Value), o = .inl (n, L', st', h) ∧ ∀ (p : Program) (e : Env) (R : Jvm.Room) (s : State) (m : MethodId) (args : Array Value) (below : List Frame) (meth : Method) (c : Code), ax_CX G M p s m args meth c → 360 ≤ R.locals → 21 ≤ R.frames → ∀ (H : Heap) (locs : List Loc) (ls : Array Slot) (cells slots : Nat) (Q : State → Prop), ax_RL G s h H locs → ax_LV G ls M.2.2.1 L → cells ≤ R.cells → slots ≤ R.slots →
      (∀ ls' : Array Slot, ax_LV G ls' M.2.2.1 L' → W p l e R s m args below meth c H locs cells slots Q (F0 m n ls' (st'.map (ax_v G)))) → W p l e R s m args below meth c H locs cells slots Q (F0 m pc ls (st.map (ax_v G)))) : ax_Snd G l Y M pc S := by
  intro d K _ L st h o ho
  obtain ⟨n, L', st', rfl, hw⟩ := hS K L st h o ho
  refine ⟨⟨Nat.le_refl _, Nat.le_refl _⟩, fun p e R s m args below meth c CX hRf hRl h0 Q b1 b2 KO H locs ls g1 g2 X V => hw p e R s m args below meth c CX (by omega) (by omega) H locs ls _ _ Q X V ?_ ?_ fun ls' V' => KO H locs ls' g1 g2 X V'⟩
  · have b1 : h.2.1 ≤ h0.2.1 + R.cells := b1
    show h.2.1 - h0.2.1 ≤ _
    omega
  · have b2 : h.2.2 ≤ h0.2.2 + R.slots := b2
    show h.2.2 - h0.2.2 ≤ _
    omega
end SND
