/-! LinkedList: its cells, and what its methods do -/
def ll_at (ns : Nat → Nat) (n i : Nat) : Value := if i < n then .ref (ns i) else .null
def ll_pv (ns : Nat → Nat) (i : Nat) : Value := if i = 0 then .null else .ref (ns (i - 1))
theorem ll_at_rv (ns : Nat → Nat) (n i : Nat) : ax_rv (ll_at ns n i) = true := by unfold ll_at; split <;> rfl
theorem ll_pv_rv (ns : Nat → Nat) (i : Nat) : ax_rv (ll_pv ns i) = true := by unfold ll_pv; split <;> rfl
/-- the list at p: n nodes, the things it holds -/
def LL (h : ax_H) (p : Nat) (mc : Int32) (n : Nat) (ns it : Nat → Nat) : Prop :=
  h.1 p = .inr (15, [.int mc, .int (Int32.ofNat n), ll_at ns n 0, ll_pv ns n]) ∧ (∀ i, i < n → h.1 (ns i) = .inr (1, [.ref (it i), ll_at ns n (i + 1), ll_pv ns i])) ∧ (∀ i, i < n → 400 ≤ ns i ∧ ns i < 400 + h.2.1) ∧ n ≤ 1000 ∧ 400 ≤ p ∧ p < 400 + h.2.1
theorem LL.mono {h h' : ax_H} {p : Nat} {mc : Int32} {n : Nat} {ns it : Nat → Nat} (A : LL h p mc n ns it) (e1 : h'.1 p = h.1 p) (e2 : ∀ i, i < n → h'.1 (ns i) = h.1 (ns i)) (hh : h.2.1 ≤ h'.2.1) : LL h' p mc n ns it := by
  obtain ⟨a1, a2, a3, a4, a5, a6⟩ := A
  exact ⟨e1.trans a1, fun i hi => (e2 i hi).trans (a2 i hi), fun i hi => ⟨(a3 i hi).1, by have := (a3 i hi).2; omega⟩, a4, a5, by omega⟩
theorem LL.inj {h : ax_H} {p : Nat} {mc : Int32} {n : Nat} {ns it : Nat → Nat} (A : LL h p mc n ns it) : ∀ i j, i < j → j < n → ns i ≠ ns j := by
  obtain ⟨a1, a2, a3, a4, a5, a6⟩ := A
  intro i
  induction i with
  | zero =>
    intro j hij hj e
    have x := a2 0 (by omega)
    have y := a2 j hj
    rw [e, y] at x
    unfold ll_pv at x
    rw [if_neg (by omega), if_pos rfl] at x
    simp at x
  | succ i ih =>
    intro j hij hj e
    have x := a2 (i + 1) (by omega)
    have y := a2 j hj
    rw [e, y] at x
    unfold ll_pv at x
    rw [if_neg (by omega), if_neg (by omega)] at x
    simp at x
    exact ih (j - 1) (by omega) (by omega) x.2.2.symm
theorem LL.ne {h : ax_H} {p : Nat} {mc : Int32} {n : Nat} {ns it : Nat → Nat} (A : LL h p mc n ns it) : ∀ i, i < n → ns i ≠ p := by
  obtain ⟨a1, a2, a3, a4, a5, a6⟩ := A
  intro i hi e
  have x := a2 i hi
  rw [e, a1] at x
  cases x
/-- no more is made, and what lies outside of A stays -/
def Ex (A : Nat → Prop) (h h' : ax_H) : Prop := h'.2 = h.2 ∧ ∀ q, ¬ A q → h'.1 q = h.1 q
section EX
variable {A B : Nat → Prop} {h h1 h2 h3 : ax_H}
theorem Ex.rf : Ex A h h := ⟨rfl, fun _ _ => rfl⟩
theorem Ex.tr (x : Ex A h1 h2) (y : Ex A h2 h3) : Ex A h1 h3 := ⟨y.1.trans x.1, fun q hq => (y.2 q hq).trans (x.2 q hq)⟩
theorem Ex.le (x : Ex A h1 h2) (hA : ∀ q, A q → B q) : Ex B h1 h2 := ⟨x.1, fun q hq => x.2 q fun z => hq (hA q z)⟩
theorem Ex.set {p : Nat} {c : ax_C} (hp : A p) : Ex A h (ax_set h p c) := ⟨rfl, fun q hA => set_ne c (fun e => hA (e ▸ hp))⟩
theorem Ex.fr (x : Ex A h1 h2) : Fr2 A 0 0 h1 h2 := by
  obtain ⟨x1, x2⟩ := x
  exact ⟨by rw [x1]; exact Nat.le_refl _, by rw [x1]; exact Nat.le_refl _, by rw [x1]; exact Nat.le_refl _, by rw [x1]; exact Nat.le_refl _, fun q _ hq => x2 q hq⟩
end EX
theorem ft_o {s : String} {w : Value} (hw : ax_rv w = true) : ax_ft (.object s) w = true := by
  rcases dx_rv_cases hw with q | ⟨a, q⟩ <;> subst q
  · exact ft_onull s
  · exact ft_oref s a
theorem pF_o {h : ax_H} {o k j : Nat} {fs : List Value} {tb : List (Nat × Nat)} {s : String} {w : Value} (hw : ax_rv w = true) (ho : h.1 o = .inr (k, fs)) (hl : tb.lookup k = some j) (hj : j < fs.length) (h4 : 400 ≤ o) : dx_pF tb (.object s) (.ref o) w h = some (ax_set h o (.inr (k, fs.set j w))) := pF_at ho hl hj (ft_o hw) h4
theorem i_dec {k : Nat} (h : 1 ≤ k) : Int32.ofNat k + (-1) = Int32.ofNat (k - 1) := by
  rw [← i_sub h, Int32.sub_eq_add_neg]
  rfl
theorem Ex.set1 {h : ax_H} {p : Nat} {c : ax_C} : Ex (fun q => q = p) h (ax_set h p c) := Ex.set rfl
section LLS
variable {d : Nat} {h : ax_H} {p : Nat} {mc : Int32} {n : Nat} {ns it : Nat → Nat}
theorem ll_size (hd : 1 ≤ d) (A : LL h p mc n ns it) : ax_c d 125 [.ref p] h = some (.inl (some (.int (Int32.ofNat n))), h) := by
  obtain ⟨d, rfl, he⟩ := d_succ hd
  refine dx_app m_J4_size ?_
  rw [gI_at A.1 rfl rfl]; rfl
theorem ll_check (hd : 2 ≤ d) (A : LL h p mc n ns it) {k : Nat} (hk : k < n) : ax_c d 128 [.ref p, .int (Int32.ofNat k)] h = some (.inl none, h) := by
  obtain ⟨d, rfl, he⟩ := d_succ hd
  obtain ⟨a1, a2, a3, a4, a5, a6⟩ := A
  refine dx_app m_J4_checkElementIndex ?_
  have e1 : ax_c d 129 [.ref p, .int (Int32.ofNat k)] h = some (.inl (some (.int 1)), h) := by
    obtain ⟨d2, rfl, he2⟩ := d_succ he
    refine dx_app m_J4_isElementIndex ?_
    rw [if_neg (i_neg (by omega)), gI_at a1 rfl rfl, Option.bind_some, if_neg (i_ge_not hk (by omega))]
  rw [vn_at a1]
  show Option.bind (some 129) _ = _
  rw [Option.bind_some, e1, cI_v, if_pos (by decide)]
theorem ll_node (hd : 1 ≤ d) (A : LL h p mc n ns it) {k : Nat} (hk : k < n) : ax_c d 131 [.ref p, .int (Int32.ofNat k)] h = some (.inl (some (.ref (ns k))), h) := by
  obtain ⟨d, rfl, he⟩ := d_succ hd
  obtain ⟨a1, a2, a3, a4, a5, a6⟩ := A
  refine dx_app m_J4_node ?_
  rw [gI_at a1 rfl rfl, Option.bind_some, i_shr1 n (by omega)]
  by_cases q : n / 2 ≤ k
  · have loop : ∀ m j : Nat, k + m = j → j < n → B_J4_node_47 (ax_c d) (Int32.ofNat k) (.ref (ns j)) (Int32.ofNat j) h = some (.inl (some (.ref (ns k))), h) := by
      intro m
      induction m with
      | zero =>
        intro j hj hn
        obtain rfl : k = j := by omega
        refine dx_app (b_J4_node_47 rfl) ?_
        rw [if_pos ((i_le (by omega) (by omega)).mpr (Nat.le_refl _))]
      | succ m ih =>
        intro j hj hn
        refine dx_app (b_J4_node_47 rfl) ?_
        rw [if_neg (i_ge_not (by omega) (by omega)), gA_at (a2 j hn) rfl rfl (ll_pv_rv _ _), Option.bind_some, lt_at]
        unfold ll_pv
        rw [if_neg (by omega), i_dec (show 1 ≤ j by omega)]
        exact ih (j - 1) (by omega) (by omega)
    rw [if_pos ((i_le (by omega) (by omega)).mpr q), gA_at a1 rfl rfl (ll_pv_rv _ _), Option.bind_some, Option.bind_some, lt_at]
    unfold ll_pv
    rw [if_neg (by omega), show Int32.ofNat n - 1 = Int32.ofNat (n - 1) from i_sub (b := 1) (by omega)]
    exact loop (n - 1 - k) (n - 1) (by omega) (by omega)
  · have loop : ∀ m j : Nat, j + m = k → B_J4_node_17 (ax_c d) (Int32.ofNat k) (.ref (ns j)) (Int32.ofNat j) h = some (.inl (some (.ref (ns k))), h) := by
      intro m
      induction m with
      | zero =>
        intro j hj
        obtain rfl : k = j := by omega
        refine dx_app (b_J4_node_17 rfl) ?_
        rw [if_pos ((i_le (by omega) (by omega)).mpr (Nat.le_refl _))]
      | succ m ih =>
        intro j hj
        refine dx_app (b_J4_node_17 rfl) ?_
        rw [if_neg (i_ge_not (by omega) (by omega)), gA_at (a2 j (by omega)) rfl rfl (ll_at_rv _ _ _), Option.bind_some, lt_at]
        unfold ll_at
        rw [if_pos (by omega), show Int32.ofNat j + 1 = Int32.ofNat (j + 1) from i_add j 1]
        exact ih (j + 1) (by omega)
    rw [if_neg (fun z => q ((i_le (by omega) (by omega)).mp z)), gA_at a1 rfl rfl (ll_at_rv _ _ _), Option.bind_some]
    unfold ll_at
    rw [if_pos (by omega)]
    exact loop k 0 (by omega)
theorem ll_get (hd : 3 ≤ d) (A : LL h p mc n ns it) {k : Nat} (hk : k < n) : ax_c d 127 [.ref p, .int (Int32.ofNat k)] h = some (.inl (some (.ref (it k))), h) := by
  obtain ⟨d, rfl, he⟩ := d_succ hd
  refine dx_app m_J4_get ?_
  rw [vn_at A.1]
  show Option.bind (some 128) _ = _
  rw [Option.bind_some, ll_check he A hk, cV_v, vn_at A.1]
  show Option.bind (some 131) _ = _
  rw [Option.bind_some, ll_node (by omega) A hk, cR_r, gA_r (A.2.1 k hk) rfl rfl]
  rfl
theorem nd_init (hd : 1 ≤ d) {a : Nat} {v1 v2 v3 x y z : Value} (h4 : 400 ≤ a) (e : h.1 a = .inr (1, [x, y, z])) (w1 : ax_rv v1 = true) (w2 : ax_rv v2 = true) (w3 : ax_rv v3 = true) : Ok (ax_c d 16 [.ref a, v1, v2, v3] h) (.inl none) (fun h' => h'.1 a = .inr (1, [v2, v3, v1]) ∧ Ex (fun q => q = a) h h') := by
  obtain ⟨d, rfl, he⟩ := d_succ hd
  refine Ok.le (m_J14_init w1 w2 w3) ?_
  rw [nn_ref, pF_o w2 e rfl (Nat.le_of_ble_eq_true rfl) h4, Option.bind_some, pF_o w3 (set_eq _) rfl (Nat.le_of_ble_eq_true rfl) h4, Option.bind_some, pF_o w1 (set_eq _) rfl (Nat.le_of_ble_eq_true rfl) h4, Option.bind_some]
  exact Ok.ret ⟨set_eq _, Ex.set1.tr (Ex.set1.tr Ex.set1)⟩
/-- the size and the count of changes, after a node is linked -/
theorem ll_bump38 {K : ax_K} {a b : Value} {m m2 : Int32} (h4 : 400 ≤ p) (e : h.1 p = .inr (15, [.int m, .int m2, a, b])) : Ok (B_J4_linkLast_38 K p h) (.inl none) (fun h' => h'.1 p = .inr (15, [.int (m + 1), .int (m2 + 1), a, b]) ∧ Ex (fun q => q = p) h h') := by
  refine Ok.le b_J4_linkLast_38 ?_
  rw [gI_at e rfl rfl, Option.bind_some, pF_int e rfl (Nat.le_of_ble_eq_true rfl) h4, Option.bind_some, gI_at (set_eq _) rfl rfl, Option.bind_some, pF_int (set_eq _) rfl (Nat.le_of_ble_eq_true rfl) h4, Option.bind_some]
  exact Ok.ret ⟨set_eq _, Ex.set1.tr Ex.set1⟩
theorem ll_bump42 {K : ax_K} {a b : Value} {m m2 : Int32} (h4 : 400 ≤ p) (e : h.1 p = .inr (15, [.int m, .int m2, a, b])) : Ok (B_J4_linkBefore_42 K p h) (.inl none) (fun h' => h'.1 p = .inr (15, [.int (m + 1), .int (m2 + 1), a, b]) ∧ Ex (fun q => q = p) h h') := by
  refine Ok.le b_J4_linkBefore_42 ?_
  rw [gI_at e rfl rfl, Option.bind_some, pF_int e rfl (Nat.le_of_ble_eq_true rfl) h4, Option.bind_some, gI_at (set_eq _) rfl rfl, Option.bind_some, pF_int (set_eq _) rfl (Nat.le_of_ble_eq_true rfl) h4, Option.bind_some]
  exact Ok.ret ⟨set_eq _, Ex.set1.tr Ex.set1⟩
/-- one thing put in at the place k -/
def insF (f : Nat → Nat) (k q : Nat) : Nat → Nat := fun i => if i < k then f i else if i = k then q else f (i - 1)
theorem insF_lt {f : Nat → Nat} {k q i : Nat} (h : i < k) : insF f k q i = f i := if_pos h
theorem insF_eq {f : Nat → Nat} {k q : Nat} : insF f k q k = q := by unfold insF; rw [if_neg (Nat.lt_irrefl k), if_pos rfl]
theorem insF_gt {f : Nat → Nat} {k q i : Nat} (h : k < i) : insF f k q i = f (i - 1) := by unfold insF; rw [if_neg (by omega), if_neg (by omega)]
theorem ll_pv_s (ns : Nat → Nat) (i : Nat) : ll_pv ns (i + 1) = .ref (ns i) := by unfold ll_pv; rw [if_neg (by omega), Nat.add_sub_cancel]
theorem ll_at_y {ns : Nat → Nat} {n i : Nat} (h : i < n) : ll_at ns n i = .ref (ns i) := if_pos h
theorem ll_at_n {ns : Nat → Nat} {n i : Nat} (h : ¬ i < n) : ll_at ns n i = .null := if_neg h
/-- the cells behind a linking, wherever it was -/
theorem LL.ins {h h' : ax_H} (A : LL h p mc n ns it) {k q a : Nat} {mc' : Int32} (hk : k ≤ n) (hn : n < 1000) (ea : a = 400 + h.2.1) (hh : a < 400 + h'.2.1) (hp : h'.1 p = .inr (15, [.int mc', .int (Int32.ofNat (n + 1)), ll_at (insF ns k a) (n + 1) 0, ll_pv (insF ns k a) (n + 1)]))
    (ha : h'.1 a = .inr (1, [.ref q, ll_at ns n k, ll_pv ns k])) (hb : 0 < k → h'.1 (ns (k - 1)) = .inr (1, [.ref (it (k - 1)), .ref a, ll_pv ns (k - 1)])) (hc : k < n → h'.1 (ns k) = .inr (1, [.ref (it k), ll_at ns n (k + 1), .ref a]))
    (ho : ∀ i, i < n → i ≠ k → i + 1 ≠ k → h'.1 (ns i) = h.1 (ns i)) : LL h' p mc' (n + 1) (insF ns k a) (insF it k q) := by
  obtain ⟨a1, a2, a3, a4, a5, a6⟩ := A
  have e1 : ∀ i, ll_at (insF ns k a) (n + 1) i = if i < k then ll_at ns n i else if i = k then .ref a else ll_at ns n (i - 1) := by
    intro i
    unfold ll_at
    by_cases q1 : i < k
    · rw [if_pos q1, if_pos (by omega), if_pos (by omega), insF_lt q1]
    · rw [if_neg q1]
      by_cases q2 : i = k
      · rw [if_pos q2, if_pos (by omega), q2, insF_eq]
      · rw [if_neg q2]
        by_cases q3 : i < n + 1
        · rw [if_pos q3, if_pos (by omega), insF_gt (by omega)]
        · rw [if_neg q3, if_neg (by omega)]
  have e2 : ∀ i, ll_pv (insF ns k a) i = if i ≤ k then ll_pv ns i else if i = k + 1 then .ref a else ll_pv ns (i - 1) := by
    intro i
    unfold ll_pv
    by_cases q0 : i = 0
    · rw [if_pos q0, if_pos (by omega), if_pos q0]
    · rw [if_neg q0]
      by_cases q1 : i ≤ k
      · rw [if_pos q1, if_neg q0, insF_lt (by omega)]
      · rw [if_neg q1]
        by_cases q2 : i = k + 1
        · rw [if_pos q2, q2, Nat.add_sub_cancel, insF_eq]
        · rw [if_neg q2, if_neg (by omega), insF_gt (by omega)]
  refine ⟨hp, fun i hi => ?_, fun i hi => ?_, by omega, a5, by omega⟩
  · rw [e1, e2]
    by_cases q1 : i < k
    · rw [insF_lt q1, insF_lt q1, if_pos (by omega : i ≤ k)]
      by_cases q2 : i + 1 < k
      · rw [if_pos q2, ho i (by omega) (by omega) (by omega)]
        exact a2 i (by omega)
      · have q3 : i = k - 1 := by omega
        rw [if_neg q2, if_pos (by omega), q3]
        exact hb (by omega)
    · by_cases q2 : i = k
      · rw [q2, insF_eq, insF_eq, if_neg (by omega), if_neg (by omega), if_pos (Nat.le_refl _), Nat.add_sub_cancel]
        exact ha
      · rw [insF_gt (by omega), insF_gt (by omega), if_neg (by omega), if_neg (by omega), if_neg (by omega), Nat.add_sub_cancel]
        by_cases q3 : i = k + 1
        · rw [if_pos q3, q3, Nat.add_sub_cancel]
          exact hc (by omega)
        · rw [if_neg q3, ho (i - 1) (by omega) (by omega) (by omega)]
          have := a2 (i - 1) (by omega)
          rw [show i - 1 + 1 = i by omega] at this
          exact this
  · unfold insF
    split
    · have := a3 i (by omega); omega
    · split
      · omega
      · have := a3 (i - 1) (by omega); omega
theorem ll_linkLast (hd : 2 ≤ d) (A : LL h p mc n ns it) (hn : n < 1000) (q : Nat) : Ok (ax_c d 133 [.ref p, .ref q] h) (.inl none) (fun h' => LL h' p (mc + 1) (n + 1) (insF ns n (400 + h.2.1)) (insF it n q) ∧ h'.2.1 = h.2.1 + 1 ∧ h'.2.2 = h.2.2 + 3 ∧ ∀ r, r < 400 + h.2.1 → r ≠ p → (∀ i, i < n → r ≠ ns i) → h'.1 r = h.1 r) := by
  have hne := A.ne
  have hinj := A.inj
  have A0 := A
  obtain ⟨a1, a2, a3, a4, a5, a6⟩ := A
  obtain ⟨d, rfl, he⟩ := d_succ hd
  refine Ok.le (m_J4_linkLast rfl) ?_
  rw [gA_at a1 rfl rfl (ll_pv_rv _ _), Option.bind_some, nw_at]
  refine Ok.V (nd_init he (x := .null) (y := .null) (z := .null) (by omega) (new_eq _ _) (ll_pv_rv _ _) rfl rfl) ?_
  rintro h1 ⟨b1, b2, b3⟩
  have c1 : h1.1 p = .inr (15, [.int mc, .int (Int32.ofNat n), ll_at ns n 0, ll_pv ns n]) := (b3 p (by omega)).trans ((new_ne _ _ (by omega)).trans a1)
  have c2 : ∀ r, r < 400 + h.2.1 → h1.1 r = h.1 r := fun r hr => (b3 r (by omega)).trans (new_ne _ _ (by omega))
  have c3 : h1.2.1 = h.2.1 + 1 := by rw [b2]; rfl
  have c4 : h1.2.2 = h.2.2 + 3 := by rw [b2]; rfl
  rw [pF_oref c1 rfl (Nat.le_of_ble_eq_true rfl) a5, Option.bind_some]
  have pa : p ≠ 400 + h.2.1 := by omega
  by_cases q0 : n = 0
  · subst q0
    show Ok (dx_nul (ll_pv ns 0) _ _) _ _
    rw [show ll_pv ns 0 = .null from rfl, nul_null, pF_oref (set_eq _) rfl (Nat.le_of_ble_eq_true rfl) a5, Option.bind_some]
    refine (ll_bump38 a5 (set_eq _)).imp ?_
    rintro h' ⟨x1, x2, x3⟩
    refine ⟨A0.ins (Nat.le_refl _) (by omega) rfl (by rw [x2]; show 400 + h.2.1 < 400 + h1.2.1; omega) (x1.trans ?_) ((x3 _ (Ne.symm pa)).trans ((set_ne _ (Ne.symm pa)).trans ((set_ne _ (Ne.symm pa)).trans b1))) (fun z => by omega) (fun z => by omega) (fun i hi => by omega), by rw [x2]; exact c3, by rw [x2]; exact c4, fun r hr hrp _ => (x3 r hrp).trans ((set_ne _ hrp).trans ((set_ne _ hrp).trans (c2 r hr)))⟩
    rfl
  · obtain ⟨m, rfl⟩ : ∃ m, n = m + 1 := ⟨n - 1, by omega⟩
    rw [ll_pv_s, nul_ref]
    have hm : ns m ≠ p := hne m (by omega)
    have hm4 := a3 m (by omega)
    have f1 : (ax_set h1 p (.inr (15, [.int mc, .int (Int32.ofNat (m + 1)), ll_at ns (m + 1) 0, ll_pv ns (m + 1)].set 3 (.ref (400 + h.2.1))))).1 (ns m) = .inr (1, [.ref (it m), ll_at ns (m + 1) (m + 1), ll_pv ns m]) := (set_ne _ hm).trans ((c2 _ hm4.2).trans (a2 m (by omega)))
    rw [ll_pv_s] at f1
    rw [pF_oref f1 rfl (Nat.le_of_ble_eq_true rfl) hm4.1, Option.bind_some]
    refine (ll_bump38 a5 ((set_ne _ (Ne.symm hm)).trans (set_eq _))).imp ?_
    rintro h' ⟨x1, x2, x3⟩
    refine ⟨A0.ins (Nat.le_refl _) hn rfl (by rw [x2]; show 400 + h.2.1 < 400 + h1.2.1; omega) (x1.trans ?_) ((x3 _ (Ne.symm pa)).trans ((set_ne _ (by omega)).trans ((set_ne _ (Ne.symm pa)).trans ?_))) (fun z => (x3 _ hm).trans (set_eq _)) (fun z => by omega) (fun i hi z1 z2 => (x3 _ (hne i hi)).trans ((set_ne _ (hinj i m (by omega) (by omega))).trans ((set_ne _ (hne i hi)).trans (c2 _ (a3 i hi).2)))), by rw [x2]; exact c3, by rw [x2]; exact c4, fun r hr hrp hrn => (x3 r hrp).trans ((set_ne _ (hrn m (by omega))).trans ((set_ne _ hrp).trans (c2 r hr)))⟩
    · rw [show Int32.ofNat (m + 1) + 1 = Int32.ofNat (m + 1 + 1) from i_add _ 1, ll_at_y (by omega), ll_at_y (by omega), insF_lt (by omega), ll_pv_s, insF_eq]
    · rw [b1, ll_at_n (by omega)]
theorem ll_addLast (hd : 3 ≤ d) (A : LL h p mc n ns it) (hn : n < 1000) (q : Nat) : Ok (ax_c d 139 [.ref p, .ref q] h) (.inl none) (fun h' => LL h' p (mc + 1) (n + 1) (insF ns n (400 + h.2.1)) (insF it n q) ∧ h'.2.1 = h.2.1 + 1 ∧ h'.2.2 = h.2.2 + 3 ∧ ∀ r, r < 400 + h.2.1 → r ≠ p → (∀ i, i < n → r ≠ ns i) → h'.1 r = h.1 r) := by
  obtain ⟨d, rfl, he⟩ := d_succ hd
  refine Ok.le (m_J4_addLast rfl) ?_
  rw [vn_at A.1]
  show Ok (Option.bind (some 133) _) _ _
  rw [Option.bind_some]
  exact Ok.V (ll_linkLast he A hn q) fun h' p' => Ok.ret p'
theorem ll_linkBefore (hd : 2 ≤ d) (A : LL h p mc n ns it) (hn : n < 1000) (q : Nat) {k : Nat} (hk : k < n) : Ok (ax_c d 138 [.ref p, .ref q, .ref (ns k)] h) (.inl none) (fun h' => LL h' p (mc + 1) (n + 1) (insF ns k (400 + h.2.1)) (insF it k q) ∧ h'.2.1 = h.2.1 + 1 ∧ h'.2.2 = h.2.2 + 3 ∧ ∀ r, r < 400 + h.2.1 → r ≠ p → (∀ i, i < n → r ≠ ns i) → h'.1 r = h.1 r) := by
  have hne := A.ne
  have hinj := A.inj
  have A0 := A
  obtain ⟨a1, a2, a3, a4, a5, a6⟩ := A
  obtain ⟨d, rfl, he⟩ := d_succ hd
  refine Ok.le (m_J4_linkBefore rfl rfl) ?_
  rw [gA_at (a2 k hk) rfl rfl (ll_pv_rv _ _), Option.bind_some, nw_at]
  refine Ok.V (nd_init he (x := .null) (y := .null) (z := .null) (by omega) (new_eq _ _) (ll_pv_rv _ _) rfl rfl) ?_
  rintro h1 ⟨b1, b2, b3⟩
  have c2 : ∀ r, r < 400 + h.2.1 → h1.1 r = h.1 r := fun r hr => (b3 r (by omega)).trans (new_ne _ _ (by omega))
  have c1 := (c2 p a6).trans a1
  have c3 : h1.2.1 = h.2.1 + 1 := by rw [b2]; rfl
  have c4 : h1.2.2 = h.2.2 + 3 := by rw [b2]; rfl
  have hk4 := a3 k hk
  have hkp := hne k hk
  rw [pF_oref ((c2 _ hk4.2).trans (a2 k hk)) rfl (Nat.le_of_ble_eq_true rfl) hk4.1, Option.bind_some]
  have pa : p ≠ 400 + h.2.1 := by omega
  have ak : 400 + h.2.1 ≠ ns k := by omega
  by_cases q0 : k = 0
  · subst q0
    show Ok (dx_nul (ll_pv ns 0) _ _) _ _
    rw [show ll_pv ns 0 = .null from rfl, nul_null, pF_oref ((set_ne _ (Ne.symm hkp)).trans c1) rfl (Nat.le_of_ble_eq_true rfl) a5, Option.bind_some]
    refine (ll_bump42 a5 (set_eq _)).imp ?_
    rintro h' ⟨x1, x2, x3⟩
    refine ⟨A0.ins (by omega) hn rfl (by rw [x2]; show 400 + h.2.1 < 400 + h1.2.1; omega) (x1.trans ?_) ((x3 _ (Ne.symm pa)).trans ((set_ne _ (Ne.symm pa)).trans ((set_ne _ ak).trans ?_))) (fun z => by omega) (fun z => (x3 _ hkp).trans ((set_ne _ hkp).trans (set_eq _))) (fun i hi z1 z2 => (x3 _ (hne i hi)).trans ((set_ne _ (hne i hi)).trans ((set_ne _ (Ne.symm (hinj 0 i (by omega) hi))).trans (c2 _ (a3 i hi).2)))), by rw [x2]; exact c3, by rw [x2]; exact c4, fun r hr hrp hrn => (x3 r hrp).trans ((set_ne _ hrp).trans ((set_ne _ (hrn 0 hk)).trans (c2 r hr)))⟩
    · rw [show Int32.ofNat n + 1 = Int32.ofNat (n + 1) from i_add _ 1, ll_at_y (by omega), insF_eq, ll_pv_s, insF_gt (by omega)]
      unfold ll_pv
      rw [if_neg (by omega)]
    · rw [b1, ll_at_y hk]
  · obtain ⟨m, rfl⟩ : ∃ m, k = m + 1 := ⟨k - 1, by omega⟩
    rw [ll_pv_s, nul_ref]
    have hm : ns m ≠ p := hne m (by omega)
    have hmk : ns m ≠ ns (m + 1) := hinj m (m + 1) (by omega) hk
    have hm4 := a3 m (by omega)
    rw [pF_oref ((set_ne _ hmk).trans ((c2 _ hm4.2).trans (a2 m (by omega)))) rfl (Nat.le_of_ble_eq_true rfl) hm4.1, Option.bind_some]
    refine (ll_bump42 a5 ((set_ne _ (Ne.symm hm)).trans ((set_ne _ (Ne.symm hkp)).trans c1))).imp ?_
    rintro h' ⟨x1, x2, x3⟩
    refine ⟨A0.ins (by omega) hn rfl (by rw [x2]; show 400 + h.2.1 < 400 + h1.2.1; omega) (x1.trans ?_) ((x3 _ (Ne.symm pa)).trans ((set_ne _ (by omega)).trans ((set_ne _ ak).trans ?_))) (fun z => (x3 _ hm).trans (set_eq _)) (fun z => (x3 _ hkp).trans ((set_ne _ (Ne.symm hmk)).trans (set_eq _))) (fun i hi z1 z2 => (x3 _ (hne i hi)).trans ((set_ne _ ?_).trans ((set_ne _ ?_).trans (c2 _ (a3 i hi).2)))), by rw [x2]; exact c3, by rw [x2]; exact c4, fun r hr hrp hrn => (x3 r hrp).trans ((set_ne _ (hrn m (by omega))).trans ((set_ne _ (hrn (m + 1) hk)).trans (c2 r hr)))⟩
    · rw [show Int32.ofNat n + 1 = Int32.ofNat (n + 1) from i_add _ 1, ll_at_y (by omega), ll_at_y (by omega), insF_lt (by omega), ll_pv_s, insF_gt (by omega)]
      unfold ll_pv
      rw [if_neg (by omega)]
    · rw [b1, ll_at_y hk, ll_pv_s]
    · rcases Nat.lt_or_ge i m with w | w
      · exact hinj i m w (by omega)
      · exact Ne.symm (hinj m i (by omega) hi)
    · rcases Nat.lt_or_ge i (m + 1) with w | w
      · exact hinj i (m + 1) w hk
      · exact Ne.symm (hinj (m + 1) i (by omega) hi)
/-- none any more -/
theorem ll_clear (hd : 1 ≤ d) (A : LL h p mc n ns it) : Ok (ax_c d 126 [.ref p] h) (.inl none) (fun h' => LL h' p (mc + 1) 0 ns it ∧ Ex (fun r => r = p ∨ ∃ i, i < n ∧ r = ns i) h h') := by
  have hne := A.ne
  have hinj := A.inj
  obtain ⟨a1, a2, a3, a4, a5, a6⟩ := A
  obtain ⟨d, rfl, he⟩ := d_succ hd
  refine Ok.le m_J4_clear ?_
  rw [gA_at a1 rfl rfl (ll_at_rv _ _ _), Option.bind_some]
  have loop : ∀ m k : Nat, k + m = n → ∀ h1 : ax_H, h1.1 p = h.1 p → (∀ i, k ≤ i → i < n → h1.1 (ns i) = h.1 (ns i)) → Ex (fun r => r = p ∨ ∃ i, i < n ∧ r = ns i) h h1 → Ok (B_J4_clear_5 (ax_c d) p (ll_at ns n k) h1) (.inl none) (fun h' => LL h' p (mc + 1) 0 ns it ∧ Ex (fun r => r = p ∨ ∃ i, i < n ∧ r = ns i) h h') := by
    intro m
    induction m with
    | zero =>
      intro k hk h1 c1 c2 c3
      obtain rfl : k = n := by omega
      refine Ok.le (b_J4_clear_5 (ll_at_rv _ _ _)) ?_
      rw [ll_at_n (Nat.lt_irrefl _), nul_null, pF_onull (c1.trans a1) rfl (Nat.le_of_ble_eq_true rfl) a5, Option.bind_some, pF_onull (set_eq _) rfl (Nat.le_of_ble_eq_true rfl) a5, Option.bind_some, pF_int (set_eq _) rfl (Nat.le_of_ble_eq_true rfl) a5, Option.bind_some, gI_at (set_eq _) rfl rfl, Option.bind_some, pF_int (set_eq _) rfl (Nat.le_of_ble_eq_true rfl) a5, Option.bind_some]
      refine Ok.ret ⟨⟨set_eq _, fun i hi => by omega, fun i hi => by omega, by omega, a5, ?_⟩, c3.tr ((Ex.set (Or.inl rfl)).tr ((Ex.set (Or.inl rfl)).tr ((Ex.set (Or.inl rfl)).tr (Ex.set (Or.inl rfl)))))⟩
      show p < 400 + h1.2.1
      rw [c3.1]; exact a6
    | succ m ih =>
      intro k hk h1 c1 c2 c3
      have hkn : k < n := by omega
      refine Ok.le (b_J4_clear_5 (ll_at_rv _ _ _)) ?_
      have e := (c2 k (Nat.le_refl _) hkn).trans (a2 k hkn)
      rw [ll_at_y hkn, nul_ref, gA_at e rfl rfl (ll_at_rv _ _ _), Option.bind_some, pF_onull e rfl (Nat.le_of_ble_eq_true rfl) (a3 k hkn).1, Option.bind_some, pF_onull (set_eq _) rfl (Nat.le_of_ble_eq_true rfl) (a3 k hkn).1, Option.bind_some, pF_onull (set_eq _) rfl (Nat.le_of_ble_eq_true rfl) (a3 k hkn).1, Option.bind_some]
      have pk : p ≠ ns k := Ne.symm (hne k hkn)
      refine ih (k + 1) (by omega) _ ((set_ne _ pk).trans ((set_ne _ pk).trans ((set_ne _ pk).trans c1))) (fun i hi hin => ?_) (c3.tr ((Ex.set (Or.inr ⟨k, hkn, rfl⟩)).tr ((Ex.set (Or.inr ⟨k, hkn, rfl⟩)).tr (Ex.set (Or.inr ⟨k, hkn, rfl⟩)))))
      have ki : ns i ≠ ns k := Ne.symm (hinj k i (by omega) hin)
      exact (set_ne _ ki).trans ((set_ne _ ki).trans ((set_ne _ ki).trans (c2 i (by omega) hin)))
  exact loop n 0 (by omega) h rfl (fun _ _ _ => rfl) Ex.rf
end LLS
