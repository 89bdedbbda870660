/-! Lower bounds of runs: the rules by which a program reads a method's body off its instructions -/
def dx_le (a b : Option ax_R) : Prop := ∀ r, a = some r → b = some r
theorem dx_refl (a : Option ax_R) : dx_le a a := fun _ h => h
theorem dx_none (b : Option ax_R) : dx_le none b := fun r h => by cases h
theorem dx_trans {a b c : Option ax_R} (h1 : dx_le a b) (h2 : dx_le b c) : dx_le a c := fun r h => h2 r (h1 r h)
/-! locals: less is known -/
def dx_ll : ax_L → ax_L → Prop
  | [], [] => True
  | a :: A, b :: B => (a = none ∨ a = b) ∧ dx_ll A B
  | _, _ => False
theorem dx_ll_refl : ∀ L : ax_L, dx_ll L L := by
  intro L
  induction L with
  | nil => exact trivial
  | cons a L ih => exact ⟨Or.inr rfl, ih⟩
theorem dx_ll_len : ∀ {A B : ax_L}, dx_ll A B → A.length = B.length := by
  intro A
  induction A with
  | nil => intro B h; cases B with
    | nil => rfl
    | cons b B => cases h
  | cons a A ih => intro B h; cases B with
    | nil => cases h
    | cons b B => simp [ih h.2]
theorem dx_ll_get : ∀ {A B : ax_L} {i : Nat} {v : Value}, dx_ll A B → A[i]? = some (some v) → B[i]? = some (some v) := by
  intro A
  induction A with
  | nil => intro B i v h e; simp at e
  | cons a A ih => intro B i v h e; cases B with
    | nil => cases h
    | cons b B =>
      cases i with
      | zero =>
        simp at e
        rcases h.1 with q | q
        · rw [q] at e; cases e
        · rw [← q, e]; rfl
      | succ i => simp at e ⊢; exact ih h.2 e
theorem dx_li_of : ∀ {L : ax_L} {i : Nat} {x : Int32}, L[i]? = some (some (.int x)) → ax_li L i = some x := by
  intro L
  induction L with
  | nil => intro i x e; simp at e
  | cons a L ih =>
    intro i x e
    cases i with
    | zero => simp at e; subst e; rfl
    | succ i =>
      simp at e
      have := ih e
      cases a with
      | none => simpa [ax_li] using this
      | some v => cases v <;> simpa [ax_li] using this
theorem dx_ll2_of : ∀ {L : ax_L} {i : Nat} {x : Int64}, L[i]? = some (some (.long x)) → ax_ll2 L i = some x := by
  intro L
  induction L with
  | nil => intro i x e; simp at e
  | cons a L ih =>
    intro i x e
    cases i with
    | zero => simp at e; subst e; rfl
    | succ i =>
      simp at e
      have := ih e
      cases a with
      | none => simpa [ax_ll2] using this
      | some v => cases v <;> simpa [ax_ll2] using this
theorem dx_rv_cases {v : Value} (hv : ax_rv v = true) : v = .null ∨ ∃ a, v = .ref a := by
  cases v <;> simp [ax_rv] at hv <;> first | exact Or.inl rfl | exact Or.inr ⟨_, rfl⟩
theorem dx_la_of : ∀ {L : ax_L} {i : Nat} {v : Value}, L[i]? = some (some v) → ax_rv v = true → ax_la L i = some v := by
  intro L
  induction L with
  | nil => intro i v e; simp at e
  | cons a L ih =>
    intro i v e hv
    cases i with
    | zero =>
      simp at e
      subst e
      rcases dx_rv_cases hv with q | ⟨a, q⟩ <;> (subst q; rfl)
    | succ i =>
      simp at e
      have := ih e hv
      cases a with
      | none => simpa [ax_la] using this
      | some v => cases v <;> simpa [ax_la] using this
theorem dx_rv_rf (x : Option Nat) : ax_rv (va_rf x) = true := by cases x <;> rfl
theorem dx_c1 {v : Value} (hv : ax_rv v = true) : ax_c1 v = true := by
  rcases dx_rv_cases hv with q | ⟨a, q⟩ <;> (subst q; rfl)
theorem dx_nl {v : Value} (hv : ax_rv v = true) : ax_nl (some v) = some v := by
  rcases dx_rv_cases hv with q | ⟨a, q⟩ <;> (subst q; rfl)
/-- the word ahead of the place that is written isn't the first of two -/
def dx_pv (L : ax_L) (i : Nat) : Prop := i = 0 ∨ ∃ a, L[i - 1]? = some a ∧ ax_nl a = a
theorem dx_sto_a : ∀ (L : ax_L) (i : Nat) (v : Value), i < L.length → dx_pv L i → ax_sto L i v = L.set i (some v) := by
  intro L
  induction L with
  | nil => intro i v h; simp at h
  | cons a L ih =>
    intro i v h hp
    match i, L, ih, h, hp with
    | 0, L, _, _, _ => rfl
    | 1, [], _, h, _ => simp at h
    | 1, b :: L, _, _, hp =>
      rcases hp with q | ⟨c, q1, q2⟩
      · cases q
      · simp at q1; subst q1; simp [ax_sto, q2]
    | i + 2, L, ih, h, hp =>
      have := ih (i + 1) v (by simp at h ⊢; omega) (by
        rcases hp with q | ⟨c, q1, q2⟩
        · cases q
        · exact Or.inr ⟨c, by simpa using q1, q2⟩)
      simp [ax_sto, this]
theorem dx_sto {L : ax_L} {i : Nat} {v : Value} {L' : ax_L} (h : i < L.length) (hp : dx_pv L i) (hL : L.set i (some v) = L') : ax_sto L i v = L' := (dx_sto_a L i v h hp).trans hL
theorem dx_sto2_a : ∀ (L : ax_L) (i : Nat) (v : Value), i + 1 < L.length → dx_pv L i → ax_sto2 L i v = (L.set i (some v)).set (i + 1) none := by
  intro L
  induction L with
  | nil => intro i v h; simp at h
  | cons a L ih =>
    intro i v h hp
    match i, L, ih, h, hp with
    | 0, [], _, h, _ => simp at h
    | 0, b :: L, _, _, _ => rfl
    | 1, [], _, h, _ => simp at h
    | 1, [b], _, h, _ => simp at h
    | 1, b :: c :: L, _, _, hp =>
      rcases hp with q | ⟨d, q1, q2⟩
      · cases q
      · simp at q1; subst q1; simp [ax_sto2, q2]
    | i + 2, L, ih, h, hp =>
      have := ih (i + 1) v (by simp at h ⊢; omega) (by
        rcases hp with q | ⟨c, q1, q2⟩
        · cases q
        · exact Or.inr ⟨c, by simpa using q1, q2⟩)
      simp [ax_sto2, this]
theorem dx_sto2 {L : ax_L} {i : Nat} {v : Value} {L' : ax_L} (h : i + 1 < L.length) (hp : dx_pv L i) (hL : (L.set i (some v)).set (i + 1) none = L') : ax_sto2 L i v = L' := (dx_sto2_a L i v h hp).trans hL
theorem dx_nl_mono {a b : Option Value} (h : a = none ∨ a = b) : ax_nl a = none ∨ ax_nl a = ax_nl b := by
  rcases h with q | q
  · subst q; exact Or.inl rfl
  · subst q; exact Or.inr rfl
theorem dx_ll_sto_a : ∀ (A B : ax_L) (i : Nat) (v : Value), dx_ll A B → dx_ll (ax_sto A i v) (ax_sto B i v) := by
  intro A
  induction A with
  | nil => intro B i v h; cases B with
    | nil => exact h
    | cons b B => cases h
  | cons a A ih => intro B i v h; cases B with
    | nil => cases h
    | cons b B =>
      obtain ⟨h1, h2⟩ := h
      match i, A, B, h2, ih with
      | 0, A, B, h2, _ => exact ⟨Or.inr rfl, h2⟩
      | 1, [], [], h2, _ => exact trivial
      | 1, [], b' :: B, h2, _ => cases h2
      | 1, a' :: A, [], h2, _ => cases h2
      | 1, a' :: A, b' :: B, h2, _ => exact ⟨dx_nl_mono h1, Or.inr rfl, h2.2⟩
      | i + 2, A, B, h2, ih =>
        simp only [ax_sto]
        exact ⟨h1, ih B (i + 1) v h2⟩
theorem dx_ll_sto {A B : ax_L} (i : Nat) (v : Value) (h : dx_ll A B) : dx_ll (ax_sto A i v) (ax_sto B i v) := dx_ll_sto_a A B i v h
theorem dx_ll_sto2_a : ∀ (A B : ax_L) (i : Nat) (v : Value), dx_ll A B → dx_ll (ax_sto2 A i v) (ax_sto2 B i v) := by
  intro A
  induction A with
  | nil => intro B i v h; cases B with
    | nil => exact h
    | cons b B => cases h
  | cons a A ih => intro B i v h; cases B with
    | nil => cases h
    | cons b B =>
      obtain ⟨h1, h2⟩ := h
      match i, A, B, h2, ih with
      | 0, [], [], h2, _ => exact trivial
      | 0, [], b' :: B, h2, _ => cases h2
      | 0, a' :: A, [], h2, _ => cases h2
      | 0, a' :: A, b' :: B, h2, _ => exact ⟨Or.inr rfl, Or.inr rfl, h2.2⟩
      | 1, [], [], h2, _ => exact trivial
      | 1, [], b' :: B, h2, _ => cases h2
      | 1, a' :: A, [], h2, _ => cases h2
      | 1, [a'], [b'], h2, _ => exact trivial
      | 1, [a'], b' :: b2 :: B, h2, _ => cases h2.2
      | 1, a' :: a2 :: A, [b'], h2, _ => cases h2.2
      | 1, a' :: a2 :: A, b' :: b2 :: B, h2, _ => exact ⟨dx_nl_mono h1, Or.inr rfl, Or.inr rfl, h2.2.2⟩
      | i + 2, A, B, h2, ih =>
        simp only [ax_sto2]
        exact ⟨h1, ih B (i + 1) v h2⟩
theorem dx_ll_sto2 {A B : ax_L} (i : Nat) (v : Value) (h : dx_ll A B) : dx_ll (ax_sto2 A i v) (ax_sto2 B i v) := dx_ll_sto2_a A B i v h
/-! what an instruction says with less known it says with more -/
def dx_K (K K' : ax_K) : Prop := ∀ k as h r, K k as h = some r → K' k as h = some r
def dx_oL (o o' : ax_O) : Prop := match o with
  | none => True
  | some (.inl F) => ∃ L', dx_ll F.2.1 L' ∧ o' = some (.inl (F.1, L', F.2.2))
  | some (.inr r) => o' = some (.inr r)
def dx_mn (S : ax_S) : Prop := ∀ K K' L L' st h, dx_K K K' → dx_ll L L' → dx_oL (S K L st h) (S K' L' st h)
theorem dx_oL_l {n : Nat} {L L' : ax_L} {st : List Value} {h : ax_H} (hL : dx_ll L L') : dx_oL (some (.inl (n, L, st, h))) (some (.inl (n, L', st, h))) := ⟨L', hL, rfl⟩
theorem dx_oL_r {r : ax_R} : dx_oL (some (.inr r)) (some (.inr r)) := rfl
theorem dx_oL_n {o : ax_O} : dx_oL none o := trivial
theorem dx_oL_bind {α : Type} {x : Option α} {f g : α → ax_O} (h : ∀ a, dx_oL (f a) (g a)) : dx_oL (x.bind f) (x.bind g) := by
  cases x with
  | none => exact trivial
  | some a => exact h a
theorem dx_oL_bind2 {α : Type} {x y : Option α} {f g : α → ax_O} (hx : ∀ a, x = some a → y = some a) (h : ∀ a, dx_oL (f a) (g a)) : dx_oL (x.bind f) (y.bind g) := by
  cases x with
  | none => exact trivial
  | some a => rw [hx a rfl]; exact h a
theorem dx_oL_ite {c : Prop} {i : Decidable c} {a b a' b' : ax_O} (h1 : dx_oL a a') (h2 : dx_oL b b') : dx_oL (@ite _ c i a b) (@ite _ c i a' b') := by
  by_cases h : c
  · rw [if_pos h, if_pos h]; exact h1
  · rw [if_neg h, if_neg h]; exact h2
theorem dx_li_get : ∀ (L : ax_L) (i : Nat) (x : Int32), ax_li L i = some x → L[i]? = some (some (.int x)) := by
  intro L
  induction L with
  | nil => intro i x h; simp [ax_li] at h
  | cons a L ih =>
    intro i x h
    cases i with
    | zero =>
      cases a with
      | none => simp [ax_li] at h
      | some v => cases v <;> simp [ax_li] at h ⊢; exact h
    | succ i =>
      have h1 : ax_li L i = some x := by
        cases a with
        | none => simpa [ax_li] using h
        | some v => cases v <;> simpa [ax_li] using h
      simpa using ih i x h1
theorem dx_ll2_get : ∀ (L : ax_L) (i : Nat) (x : Int64), ax_ll2 L i = some x → L[i]? = some (some (.long x)) := by
  intro L
  induction L with
  | nil => intro i x h; simp [ax_ll2] at h
  | cons a L ih =>
    intro i x h
    cases i with
    | zero =>
      cases a with
      | none => simp [ax_ll2] at h
      | some v => cases v <;> simp [ax_ll2] at h ⊢; exact h
    | succ i =>
      have h1 : ax_ll2 L i = some x := by
        cases a with
        | none => simpa [ax_ll2] using h
        | some v => cases v <;> simpa [ax_ll2] using h
      simpa using ih i x h1
theorem dx_la_get : ∀ (L : ax_L) (i : Nat) (v : Value), ax_la L i = some v → L[i]? = some (some v) ∧ (v = .null ∨ ∃ a, v = .ref a) := by
  intro L
  induction L with
  | nil => intro i x h; simp [ax_la] at h
  | cons a L ih =>
    intro i x h
    cases i with
    | zero =>
      cases a with
      | none => simp [ax_la] at h
      | some v =>
        cases v with
        | null => simp [ax_la] at h; subst h; exact ⟨rfl, Or.inl rfl⟩
        | ref q => simp [ax_la] at h; subst h; exact ⟨rfl, Or.inr ⟨_, rfl⟩⟩
        | _ => simp [ax_la] at h
    | succ i =>
      have h1 : ax_la L i = some x := by
        cases a with
        | none => simpa [ax_la] using h
        | some v => cases v <;> simpa [ax_la] using h
      simpa using ih i x h1
theorem dx_li_m {L L' : ax_L} (h : dx_ll L L') {i : Nat} (a : Int32) (e : ax_li L i = some a) : ax_li L' i = some a := dx_li_of (dx_ll_get h (dx_li_get _ _ _ e))
theorem dx_ll2_m {L L' : ax_L} (h : dx_ll L L') {i : Nat} (a : Int64) (e : ax_ll2 L i = some a) : ax_ll2 L' i = some a := dx_ll2_of (dx_ll_get h (dx_ll2_get _ _ _ e))
theorem dx_la_m {L L' : ax_L} (h : dx_ll L L') {i : Nat} (a : Value) (e : ax_la L i = some a) : ax_la L' i = some a := by
  obtain ⟨h1, h2⟩ := dx_la_get _ _ _ e
  exact dx_la_of (dx_ll_get h h1) (by rcases h2 with q | ⟨b, q⟩ <;> (subst q; rfl))
theorem mn_stop : dx_mn (S_stop) := fun K K' L L' st h hK hL => by
  exact trivial
theorem mn_push {v : Value} {n : Nat} : dx_mn (S_push v n) := fun K K' L L' st h hK hL => by
  exact dx_oL_l hL
theorem mn_iload {i n : Nat} : dx_mn (S_iload i n) := fun K K' L L' st h hK hL => by
  exact dx_oL_bind2 (dx_li_m hL) fun a => dx_oL_l hL
theorem mn_lload {i n : Nat} : dx_mn (S_lload i n) := fun K K' L L' st h hK hL => by
  exact dx_oL_bind2 (dx_ll2_m hL) fun a => dx_oL_l hL
theorem mn_aload {i n : Nat} : dx_mn (S_aload i n) := fun K K' L L' st h hK hL => by
  exact dx_oL_bind2 (dx_la_m hL) fun a => dx_oL_l hL
theorem mn_iinc {i n : Nat} {k : Int32} : dx_mn (S_iinc i k n) := fun K K' L L' st h hK hL => by
  exact dx_oL_bind2 (dx_li_m hL) fun a => dx_oL_l (dx_ll_sto _ _ hL)
theorem mn_istore {i n : Nat} : dx_mn (S_istore i n) := fun K K' L L' st h hK hL => by
  unfold S_istore
  split <;> first | exact dx_oL_n | exact dx_oL_l (dx_ll_sto _ _ hL)
theorem mn_lstore {i n : Nat} : dx_mn (S_lstore i n) := fun K K' L L' st h hK hL => by
  unfold S_lstore
  split <;> first | exact dx_oL_n | exact dx_oL_l (dx_ll_sto2 _ _ hL)
theorem mn_astore {i n : Nat} : dx_mn (S_astore i n) := fun K K' L L' st h hK hL => by
  unfold S_astore
  split <;> first | exact dx_oL_n | exact dx_oL_l (dx_ll_sto _ _ hL)
theorem mn_i1 {f : Int32 → Int32} {n : Nat} : dx_mn (S_i1 f n) := fun K K' L L' st h hK hL => by
  unfold S_i1
  split <;> first | exact dx_oL_n | exact dx_oL_l hL
theorem mn_i2 {f : Int32 → Int32 → Int32} {n : Nat} : dx_mn (S_i2 f n) := fun K K' L L' st h hK hL => by
  unfold S_i2
  split <;> first | exact dx_oL_n | exact dx_oL_l hL
theorem mn_id {f : Int32 → Int32 → Int32} {n : Nat} : dx_mn (S_id f n) := fun K K' L L' st h hK hL => by
  unfold S_id
  split <;> first | exact dx_oL_n | exact dx_oL_ite dx_oL_n (dx_oL_l hL)
theorem mn_l2 {f : Int64 → Int64 → Int64} {n : Nat} : dx_mn (S_l2 f n) := fun K K' L L' st h hK hL => by
  unfold S_l2
  split <;> first | exact dx_oL_n | exact dx_oL_l hL
theorem mn_ld {f : Int64 → Int64 → Int64} {n : Nat} : dx_mn (S_ld f n) := fun K K' L L' st h hK hL => by
  unfold S_ld
  split <;> first | exact dx_oL_n | exact dx_oL_ite dx_oL_n (dx_oL_l hL)
theorem mn_lsh {f : Int64 → Int32 → Int64} {n : Nat} : dx_mn (S_lsh f n) := fun K K' L L' st h hK hL => by
  unfold S_lsh
  split <;> first | exact dx_oL_n | exact dx_oL_l hL
theorem mn_lcmp {n : Nat} : dx_mn (S_lcmp n) := fun K K' L L' st h hK hL => by
  unfold S_lcmp
  split <;> first | exact dx_oL_n | exact dx_oL_l hL
theorem mn_i2l {n : Nat} : dx_mn (S_i2l n) := fun K K' L L' st h hK hL => by
  unfold S_i2l
  split <;> first | exact dx_oL_n | exact dx_oL_l hL
theorem mn_l2i {n : Nat} : dx_mn (S_l2i n) := fun K K' L L' st h hK hL => by
  unfold S_l2i
  split <;> first | exact dx_oL_n | exact dx_oL_l hL
theorem mn_if1 {c : Int32 → Bool} {t n : Nat} : dx_mn (S_if1 c t n) := fun K K' L L' st h hK hL => by
  unfold S_if1
  split <;> first | exact dx_oL_n | exact dx_oL_l hL
theorem mn_if2 {c : Int32 → Int32 → Bool} {t n : Nat} : dx_mn (S_if2 c t n) := fun K K' L L' st h hK hL => by
  unfold S_if2
  split <;> first | exact dx_oL_n | exact dx_oL_l hL
theorem mn_null {t n : Nat} : dx_mn (S_null t n) := fun K K' L L' st h hK hL => by
  unfold S_null
  split <;> first | exact dx_oL_n | exact dx_oL_l hL
theorem mn_acmp {t n : Nat} : dx_mn (S_acmp t n) := fun K K' L L' st h hK hL => by
  unfold S_acmp
  split <;> first | exact dx_oL_n | exact dx_oL_l hL | exact dx_oL_ite (dx_oL_l hL) (dx_oL_ite dx_oL_n (dx_oL_l hL))
theorem mn_goto {n : Nat} : dx_mn (S_goto n) := fun K K' L L' st h hK hL => by
  exact dx_oL_l hL
theorem mn_dup {n : Nat} : dx_mn (S_dup n) := fun K K' L L' st h hK hL => by
  unfold S_dup
  split <;> first | exact dx_oL_n | exact dx_oL_ite (dx_oL_l hL) dx_oL_n
theorem mn_pop {n : Nat} : dx_mn (S_pop n) := fun K K' L L' st h hK hL => by
  unfold S_pop
  split <;> first | exact dx_oL_n | exact dx_oL_ite (dx_oL_l hL) dx_oL_n
theorem mn_oin {n : Nat} : dx_mn (S_oin n) := fun K K' L L' st h hK hL => by
  unfold S_oin
  split <;> first | exact dx_oL_n | exact dx_oL_ite (dx_oL_l hL) dx_oL_n
theorem mn_dupx1 {n : Nat} : dx_mn (S_dupx1 n) := fun K K' L L' st h hK hL => by
  unfold S_dupx1
  split <;> first | exact dx_oL_n | exact dx_oL_ite (dx_oL_ite (dx_oL_l hL) dx_oL_n) dx_oL_n
theorem mn_dup2 {n : Nat} : dx_mn (S_dup2 n) := fun K K' L L' st h hK hL => by
  unfold S_dup2
  split <;> first | exact dx_oL_n | exact dx_oL_ite (dx_oL_ite (dx_oL_l hL) dx_oL_n) dx_oL_n
theorem mn_tsw {lo hi : Int} {ts : List Nat} {t : Nat} : dx_mn (S_tsw lo hi ts t) := fun K K' L L' st h hK hL => by
  unfold S_tsw
  split <;> first | exact dx_oL_n | exact dx_oL_ite (dx_oL_l hL) (dx_oL_bind fun a => dx_oL_l hL)
theorem mn_getf {tb : List (Nat × Nat)} {n : Nat} : dx_mn (S_getf tb n) := fun K K' L L' st h hK hL => by
  unfold S_getf
  split <;> first | exact dx_oL_n | exact dx_oL_bind fun a => dx_oL_l hL
theorem mn_putf {tb : List (Nat × Nat)} {ty : FieldType} {n : Nat} : dx_mn (S_putf tb ty n) := fun K K' L L' st h hK hL => by
  unfold S_putf
  split <;> first | exact dx_oL_n | exact dx_oL_ite dx_oL_n (dx_oL_bind fun a => dx_oL_l hL)
theorem mn_iald {t n : Nat} : dx_mn (S_iald t n) := fun K K' L L' st h hK hL => by
  unfold S_iald
  split <;> first | exact dx_oL_n | exact dx_oL_bind fun a => dx_oL_l hL
theorem mn_lald {t n : Nat} : dx_mn (S_lald t n) := fun K K' L L' st h hK hL => by
  unfold S_lald
  split <;> first | exact dx_oL_n | exact dx_oL_bind fun a => dx_oL_l hL
theorem mn_aald {t n : Nat} : dx_mn (S_aald t n) := fun K K' L L' st h hK hL => by
  unfold S_aald
  split <;> first | exact dx_oL_n | exact dx_oL_bind fun a => dx_oL_l hL
theorem mn_iast {t n : Nat} {w : Int32 → Int32} : dx_mn (S_iast t w n) := fun K K' L L' st h hK hL => by
  unfold S_iast
  split <;> first | exact dx_oL_n | exact dx_oL_ite dx_oL_n (dx_oL_bind fun a => dx_oL_l hL)
theorem mn_last {t n : Nat} : dx_mn (S_last t n) := fun K K' L L' st h hK hL => by
  unfold S_last
  split <;> first | exact dx_oL_n | exact dx_oL_ite dx_oL_n (dx_oL_bind fun a => dx_oL_l hL)
theorem mn_aast {t n : Nat} {oks : List Nat} : dx_mn (S_aast t oks n) := fun K K' L L' st h hK hL => by
  unfold S_aast
  split <;> first | exact dx_oL_n | exact dx_oL_ite dx_oL_n (dx_oL_bind fun a => dx_oL_l hL) | exact dx_oL_ite dx_oL_n (dx_oL_bind fun a => dx_oL_ite (dx_oL_bind fun b => dx_oL_l hL) dx_oL_n)
theorem mn_alen {n : Nat} : dx_mn (S_alen n) := fun K K' L L' st h hK hL => by
  unfold S_alen
  split <;> first | exact dx_oL_n | exact dx_oL_bind fun a => dx_oL_l hL
theorem mn_new {k w n : Nat} {fs : List Value} : dx_mn (S_new k fs w n) := fun K K' L L' st h hK hL => by
  exact dx_oL_l hL
theorem mn_newa {t u n : Nat} : dx_mn (S_newa t u n) := fun K K' L L' st h hK hL => by
  unfold S_newa
  split <;> first | exact dx_oL_n | exact dx_oL_ite dx_oL_n (dx_oL_l hL)
theorem mn_mk {k w n : Nat} : dx_mn (S_mk k w n) := fun K K' L L' st h hK hL => by
  exact dx_oL_ite (dx_oL_l hL) dx_oL_n
theorem mn_max {n : Nat} : dx_mn (S_max n) := fun K K' L L' st h hK hL => by
  unfold S_max
  split <;> first | exact dx_oL_n | exact dx_oL_ite (dx_oL_l hL) dx_oL_n
theorem mn_min {n : Nat} : dx_mn (S_min n) := fun K K' L L' st h hK hL => by
  unfold S_min
  split <;> first | exact dx_oL_n | exact dx_oL_ite (dx_oL_l hL) dx_oL_n
theorem mn_acp {n : Nat} : dx_mn (S_acp n) := fun K K' L L' st h hK hL => by
  unfold S_acp
  split <;> first | exact dx_oL_n | exact dx_oL_ite dx_oL_n (dx_oL_bind fun a => dx_oL_l hL)
theorem mn_gcl {n : Nat} : dx_mn (S_gcl n) := fun K K' L L' st h hK hL => by
  unfold S_gcl
  split <;> first | exact dx_oL_n | (refine dx_oL_ite dx_oL_n ?_; split <;> first | exact dx_oL_l hL | exact dx_oL_n)
theorem mn_cln {t n : Nat} : dx_mn (S_cln t n) := fun K K' L L' st h hK hL => by
  unfold S_cln
  split <;> first | exact dx_oL_n | exact dx_oL_ite dx_oL_n (dx_oL_bind fun a => dx_oL_l hL)
theorem mn_castA {t n : Nat} : dx_mn (S_castA t n) := fun K K' L L' st h hK hL => by
  unfold S_castA
  split <;> first | exact dx_oL_n | (refine dx_oL_ite dx_oL_n ?_; split <;> first | exact dx_oL_ite (dx_oL_l hL) dx_oL_n | exact dx_oL_n)
theorem mn_newaa {n : Nat} : dx_mn (S_newaa n) := fun K K' L L' st h hK hL => by
  unfold S_newaa
  split <;> first | exact dx_oL_n | exact dx_oL_ite (dx_oL_l hL) dx_oL_n
theorem mn_aastA {n : Nat} : dx_mn (S_aastA n) := fun K K' L L' st h hK hL => by
  unfold S_aastA
  split <;> first | exact dx_oL_n | (refine dx_oL_ite dx_oL_n ?_; split <;> first | exact dx_oL_bind fun a => dx_oL_l hL | exact dx_oL_n)
theorem dx_oL_refl (x : ax_O) : dx_oL x x := by
  cases x with
  | none => exact trivial
  | some y => cases y with
    | inl F => exact ⟨F.2.1, dx_ll_refl _, rfl⟩
    | inr r => rfl
theorem mn_thr1 {tb : List (Nat × Nat)} : dx_mn (S_thr1 tb) := fun K K' L L' st h hK hL => by
  unfold S_thr1
  split
  · rename_i o w L
    obtain ⟨L2, rfl⟩ : ∃ L2, L' = some (.ref o) :: some w :: L2 := by
      match L', hL with
      | [_], hL => exact hL.2.elim
      | a :: b :: L2, hL =>
        obtain ⟨h1, h2, -⟩ := hL
        refine ⟨L2, ?_⟩
        rcases h1 with q | q
        · cases q
        · rcases h2 with q2 | q2
          · cases q2
          · rw [q, q2]
    exact dx_oL_refl _
  · exact dx_oL_n
theorem mn_thr2 {tb : List (Nat × Nat)} : dx_mn (S_thr2 tb) := fun K K' L L' st h hK hL => by
  unfold S_thr2
  split
  · rename_i o w x L
    obtain ⟨L2, rfl⟩ : ∃ L2, L' = some (.ref o) :: some w :: some x :: L2 := by
      match L', hL with
      | [_], hL => exact hL.2.elim
      | [_, _], hL => exact hL.2.2.elim
      | a :: b :: c :: L2, hL =>
        obtain ⟨h1, h2, h3, -⟩ := hL
        refine ⟨L2, ?_⟩
        rcases h1 with q | q
        · cases q
        · rcases h2 with q2 | q2
          · cases q2
          · rcases h3 with q3 | q3
            · cases q3
            · rw [q, q2, q3]
    exact dx_oL_refl _
  · exact dx_oL_n
theorem dx_oL_th {L L' : ax_L} {hd : Nat → Option (Option Nat)} {i : Nat} {h : ax_H} (hL : dx_ll L L') : dx_oL (ax_th L hd i h) (ax_th L' hd i h) := by
  unfold ax_th
  refine dx_oL_ite dx_oL_n (dx_oL_bind fun k => dx_oL_bind fun o => ?_)
  cases o with
  | none => exact dx_oL_r
  | some pc => exact dx_oL_l hL
theorem dx_oL_bk {L L' : ax_L} {st : List Value} {hd : Nat → Option (Option Nat)} {n : Nat} {r : ax_R} (hL : dx_ll L L') : dx_oL (ax_bk n L st hd r) (ax_bk n L' st hd r) := by
  obtain ⟨r1, r2⟩ := r
  cases r1 with
  | inl v => exact dx_oL_l hL
  | inr i => exact dx_oL_th hL
theorem mn_is {k a n : Nat} {hd : Nat → Option (Option Nat)} : dx_mn (S_is k a n hd) := fun K K' L L' st h hK hL =>
  dx_oL_ite (dx_oL_bind2 (hK _ _ _) fun r => dx_oL_bk hL) dx_oL_n
theorem mn_isp {k a n : Nat} {hd : Nat → Option (Option Nat)} : dx_mn (S_isp k a n hd) := fun K K' L L' st h hK hL => by
  unfold S_isp
  split
  · exact dx_oL_ite (dx_oL_bind2 (hK _ _ _) fun r => dx_oL_bk hL) dx_oL_n
  · exact dx_oL_n
theorem mn_iv {tb : List (Nat × Nat)} {a n : Nat} {hd : Nat → Option (Option Nat)} : dx_mn (S_iv tb a n hd) := fun K K' L L' st h hK hL => by
  unfold S_iv
  split
  · exact dx_oL_ite (dx_oL_bind fun c => dx_oL_bind fun k => dx_oL_bind2 (hK _ _ _) fun r => dx_oL_bk hL) dx_oL_n
  · exact dx_oL_n
theorem mn_iret : dx_mn (S_iret) := fun K K' L L' st h hK hL => by
  unfold S_iret
  split <;> first | exact dx_oL_n | exact dx_oL_r
theorem mn_zret : dx_mn (S_zret) := fun K K' L L' st h hK hL => by
  unfold S_zret
  split <;> first | exact dx_oL_n | exact dx_oL_ite dx_oL_r dx_oL_n
theorem mn_bret : dx_mn (S_bret) := fun K K' L L' st h hK hL => by
  unfold S_bret
  split <;> first | exact dx_oL_n | exact dx_oL_ite dx_oL_r dx_oL_n
theorem mn_lret : dx_mn (S_lret) := fun K K' L L' st h hK hL => by
  unfold S_lret
  split <;> first | exact dx_oL_n | exact dx_oL_r
theorem mn_aret : dx_mn (S_aret) := fun K K' L L' st h hK hL => by
  unfold S_aret
  split <;> first | exact dx_oL_n | exact dx_oL_r
theorem mn_ret : dx_mn (S_ret) := fun K K' L L' st h hK hL => by
  unfold S_ret
  split <;> first | exact dx_oL_n | exact dx_oL_r
theorem mn_athrow {hd : Nat → Option (Option Nat)} : dx_mn (S_athrow hd) := fun K K' L L' st h hK hL => by
  unfold S_athrow
  split <;> first | exact dx_oL_n | exact dx_oL_th hL
theorem mn_cast {oks : List Nat} {n : Nat} : dx_mn (S_cast oks n) := fun K K' L L' st h hK hL => by
  unfold S_cast
  split <;> first | exact dx_oL_n | exact dx_oL_l hL | exact dx_oL_bind fun a => dx_oL_ite (dx_oL_l hL) dx_oL_n
theorem mn_inst {yes no : List Nat} {n : Nat} : dx_mn (S_inst yes no n) := fun K K' L L' st h hK hL => by
  unfold S_inst
  split <;> first | exact dx_oL_n | exact dx_oL_bind fun a => dx_oL_ite (dx_oL_l hL) (dx_oL_ite (dx_oL_l hL) dx_oL_n)
theorem mn_node {b : Bool} {S1 S2 : ax_S} (h1 : dx_mn S1) (h2 : dx_mn S2) : dx_mn (cond b S1 S2) := by
  cases b
  · exact h2
  · exact h1
theorem mn_leaf {pc a : Nat} {S : ax_S} (h : dx_mn S) : dx_mn (ax_at a S pc) := by
  unfold ax_at
  cases Nat.beq pc a with
  | true => exact h
  | false => exact mn_stop
def dx_mP (pk : Nat × (Nat → ax_S)) : Prop := ∀ pc, dx_mn (pk.2 pc)
theorem mp_node {b : Bool} {p1 p2 : Nat × (Nat → ax_S)} (h1 : dx_mP p1) (h2 : dx_mP p2) : dx_mP (cond b p1 p2) := by
  cases b
  · exact h2
  · exact h1
theorem dx_it_mono {code : Nat → ax_S} (hc : ∀ pc, dx_mn (code pc)) {K K' : ax_K} (hK : dx_K K K') : ∀ (n pc : Nat) (L L' : ax_L) (st : List Value) (h : ax_H) (r : ax_R), dx_ll L L' → ax_it (ax_fr code K) n (pc, L, st, h) = some r → ax_it (ax_fr code K') n (pc, L', st, h) = some r := by
  intro n
  induction n with
  | zero => intro pc L L' st h r hL e; cases e
  | succ n ih =>
    intro pc L L' st h r hL e
    have hm : dx_oL (ax_fr code K (pc, L, st, h)) (ax_fr code K' (pc, L', st, h)) := hc pc K K' L L' st h hK hL
    unfold ax_it at e ⊢
    cases hF : ax_fr code K (pc, L, st, h) with
    | none => rw [hF] at e; cases e
    | some o =>
      rw [hF] at e hm
      cases o with
      | inl F =>
        obtain ⟨L2, h1, h2⟩ := hm
        rw [h2]
        exact ih F.1 F.2.1 L2 F.2.2.1 F.2.2.2 r h1 e
      | inr r' =>
        have hm : ax_fr code K' (pc, L', st, h) = some (.inr r') := hm
        rw [hm]
        exact e
theorem dx_run_mono {code : Nat → ax_S} (hc : ∀ pc, dx_mn (code pc)) {K K' : ax_K} (hK : dx_K K K') {pc : Nat} {L L' : ax_L} {st : List Value} {h : ax_H} (hL : dx_ll L L') : dx_le (ax_run K code pc L st h) (ax_run K' code pc L' st h) := by
  intro r e
  obtain ⟨n, hn⟩ := ax_lim_some.mp e
  exact ax_lim_some.mpr ⟨n, dx_it_mono hc hK n pc L L' st h r hL hn⟩
theorem dx_call_succ {P : ax_T} (hP : ∀ k, dx_mP (P k)) : ∀ d, dx_K (ax_call P d) (ax_call P (d + 1)) := by
  intro d
  induction d with
  | zero => intro k as h r e; cases e
  | succ d ih =>
    intro k as h r e
    have e' : (if (lg_sl as).length ≤ (P k).1 then ax_lim (ax_fr (P k).2 (ax_call P d)) (0, ax_args (P k).1 as, [], h) else none) = some r := e
    show (if (lg_sl as).length ≤ (P k).1 then ax_lim (ax_fr (P k).2 (ax_call P (d + 1))) (0, ax_args (P k).1 as, [], h) else none) = some r
    by_cases q : (lg_sl as).length ≤ (P k).1
    · rw [if_pos q] at e' ⊢
      exact dx_run_mono (hP k) ih (dx_ll_refl _) r e'
    · rw [if_neg q] at e'; cases e'
theorem dx_call_mono {P : ax_T} (hP : ∀ k, dx_mP (P k)) {d e : Nat} (hde : d ≤ e) {k : Nat} {as : List Value} {h : ax_H} {r : ax_R} (hr : ax_call P d k as h = some r) : ax_call P e k as h = some r := by
  induction hde with
  | refl => exact hr
  | step _ ih => exact dx_call_succ hP _ _ _ _ _ ih
