/-! LinkedList: the first taken away; its iterator -/
section LLI
variable {d : Nat} {h : ax_H} {p : Nat} {mc : Int32} {n : Nat} {ns it : Nat → Nat}
theorem ll_unlink42 {K : ax_K} {a b : Value} {m m2 : Int32} {v : Nat} (h4 : 400 ≤ p) (e : h.1 p = .inr (15, [.int m, .int m2, a, b])) : Ok (B_J4_unlinkFirst_42 K p (.ref v) h) (.inl (some (.ref v))) (fun h' => h'.1 p = .inr (15, [.int (m + 1), .int (m2 - 1), a, b]) ∧ Ex (fun q => q = p) h h') := by
  refine Ok.le (b_J4_unlinkFirst_42 rfl) ?_
  rw [gI_at e rfl rfl, Option.bind_some, pF_int e rfl (Nat.le_of_ble_eq_true rfl) h4, Option.bind_some, gI_at (set_eq _) rfl rfl, Option.bind_some, pF_int (set_eq _) rfl (Nat.le_of_ble_eq_true rfl) h4, Option.bind_some]
  exact Ok.ret ⟨set_eq _, Ex.set1.tr Ex.set1⟩
theorem ll_removeFirst (hd : 2 ≤ d) (A : LL h p mc (n + 1) ns it) : Ok (ax_c d 140 [.ref p] h) (.inl (some (.ref (it 0)))) (fun h' => LL h' p (mc + 1) n (fun i => ns (i + 1)) (fun i => it (i + 1)) ∧ Ex (fun r => r = p ∨ ∃ i, i < n + 1 ∧ r = ns i) h h') := by
  have hne := A.ne
  have hinj := A.inj
  obtain ⟨a1, a2, a3, a4, a5, a6⟩ := A
  obtain ⟨d, rfl, he⟩ := d_succ hd
  refine Ok.le m_J4_removeFirst ?_
  rw [gA_at a1 rfl rfl (ll_at_rv _ _ _), Option.bind_some, ll_at_y (by omega), nul_ref, vn_at a1]
  show Ok (Option.bind (some 141) _) _ _
  rw [Option.bind_some]
  refine Ok.R (P := fun h' => LL h' p (mc + 1) n (fun i => ns (i + 1)) (fun i => it (i + 1)) ∧ Ex (fun r => r = p ∨ ∃ i, i < n + 1 ∧ r = ns i) h h') ?_ (fun h' p' => Ok.ret p')
  obtain ⟨d2, rfl, he2⟩ := d_succ he
  refine Ok.le (m_J4_unlinkFirst rfl) ?_
  have z0 := a2 0 (by omega)
  have z4 := (a3 0 (by omega)).1
  have zp : p ≠ ns 0 := Ne.symm (hne 0 (by omega))
  rw [gA_r z0 rfl rfl, Option.bind_some, gA_at z0 rfl rfl (ll_at_rv _ _ _), Option.bind_some, pF_onull z0 rfl (Nat.le_of_ble_eq_true rfl) z4, Option.bind_some, pF_onull (set_eq _) rfl (Nat.le_of_ble_eq_true rfl) z4, Option.bind_some, pF_o (ll_at_rv _ _ _) ((set_ne _ zp).trans ((set_ne _ zp).trans a1)) rfl (Nat.le_of_ble_eq_true rfl) a5, Option.bind_some]
  have e1 : ∀ i, ll_at (fun i => ns (i + 1)) n i = ll_at ns (n + 1) (i + 1) := by
    intro i
    unfold ll_at
    by_cases q : i < n
    · rw [if_pos q, if_pos (by omega)]
    · rw [if_neg q, if_neg (by omega)]
  have e2 : ∀ i, 0 < i → ll_pv (fun i => ns (i + 1)) i = ll_pv ns (i + 1) := by
    intro i hi
    unfold ll_pv
    rw [if_neg (by omega), if_neg (by omega), Nat.add_sub_cancel]
    show Value.ref (ns (i - 1 + 1)) = _
    rw [Nat.sub_add_cancel hi]
  have ex3 : ∀ (c1 c2 c3 : ax_C), Ex (fun r => r = p ∨ ∃ i, i < n + 1 ∧ r = ns i) h (ax_set (ax_set (ax_set h (ns 0) c1) (ns 0) c2) p c3) := fun _ _ _ => (Ex.set (Or.inr ⟨0, by omega, rfl⟩)).tr ((Ex.set (Or.inr ⟨0, by omega, rfl⟩)).tr (Ex.set (Or.inl rfl)))
  by_cases q0 : n = 0
  · subst q0
    rw [ll_at_n (by omega), nul_null, pF_onull (set_eq _) rfl (Nat.le_of_ble_eq_true rfl) a5, Option.bind_some]
    refine (ll_unlink42 a5 (set_eq _)).imp ?_
    rintro h' ⟨x1, x2⟩
    refine ⟨⟨x1, fun i hi => by omega, fun i hi => by omega, by omega, a5, by rw [x2.1]; exact a6⟩, (ex3 _ _ _).tr ((Ex.set (Or.inl rfl)).tr (x2.le fun q hq => Or.inl hq))⟩
  · have o1 : ns 1 ≠ p := hne 1 (by omega)
    have o0 : ns 1 ≠ ns 0 := Ne.symm (hinj 0 1 (by omega) (by omega))
    have z1 := a2 1 (by omega)
    rw [ll_at_y (by omega), nul_ref, pF_onull ((set_ne _ o1).trans ((set_ne _ o0).trans ((set_ne _ o0).trans z1))) rfl (Nat.le_of_ble_eq_true rfl) (a3 1 (by omega)).1, Option.bind_some]
    refine (ll_unlink42 a5 ((set_ne _ (Ne.symm o1)).trans (set_eq _))).imp ?_
    rintro h' ⟨x1, x2⟩
    refine ⟨⟨x1.trans ?_, fun i hi => ?_, fun i hi => ?_, by omega, a5, by rw [x2.1]; exact a6⟩, (ex3 _ _ _).tr ((Ex.set (Or.inr ⟨1, by omega, rfl⟩)).tr (x2.le fun q hq => Or.inl hq))⟩
    · rw [show Int32.ofNat (n + 1) - 1 = Int32.ofNat (n + 1 - 1) from i_sub (b := 1) (by omega), Nat.add_sub_cancel, e1, e2 n (by omega), ll_at_y (by omega)]
    · rw [x2.2 _ (hne (i + 1) (by omega)), e1]
      by_cases q1 : i = 0
      · subst q1
        refine (set_eq _).trans ?_
        rfl
      · have w1 : ns (i + 1) ≠ ns 1 := Ne.symm (hinj 1 (i + 1) (by omega) (by omega))
        have w0 : ns (i + 1) ≠ ns 0 := Ne.symm (hinj 0 (i + 1) (by omega) (by omega))
        have wp := hne (i + 1) (by omega)
        rw [e2 i (by omega)]
        exact (set_ne _ w1).trans ((set_ne _ wp).trans ((set_ne _ w0).trans ((set_ne _ w0).trans (a2 (i + 1) (by omega)))))
    · rw [x2.1]
      exact a3 (i + 1) (by omega)
/-- the iterator at a stands ahead of the place j -/
def IT (h : ax_H) (a p : Nat) (mc : Int32) (n : Nat) (ns : Nat → Nat) (lr : Value) (j : Nat) : Prop := h.1 a = .inr (8, [lr, ll_at ns n j, .int (Int32.ofNat j), .int mc, .ref p])
theorem it_check (hd : 1 ≤ d) (A : LL h p mc n ns it) {a j : Nat} {lr : Value} (I : IT h a p mc n ns lr j) : ax_c d 87 [.ref a] h = some (.inl none, h) := by
  obtain ⟨d, rfl, he⟩ := d_succ hd
  refine dx_app m_J26_checkForComodification ?_
  rw [gA_r I rfl rfl, Option.bind_some, gI_at A.1 rfl rfl, Option.bind_some, gI_at I rfl rfl, Option.bind_some, if_pos rfl]
theorem it_hasPrev (hd : 1 ≤ d) {a j : Nat} {lr : Value} (I : IT h a p mc n ns lr j) (hj : j ≤ 1000) : ax_c d 88 [.ref a] h = some (.inl (some (.int (if j = 0 then 0 else 1))), h) := by
  obtain ⟨d, rfl, he⟩ := d_succ hd
  refine dx_app m_J26_hasPrevious ?_
  rw [gI_at I rfl rfl, Option.bind_some]
  by_cases q : j = 0
  · subst q
    rw [if_pos (by decide), if_pos rfl]
  · rw [if_neg (fun z => by have := (i_le (b := 0) (by omega) (by omega)).mp z; omega), if_neg q]
theorem it_hasNext (hd : 1 ≤ d) (A : LL h p mc n ns it) {a j : Nat} {lr : Value} (I : IT h a p mc n ns lr j) (hj : j < n) : ax_c d 85 [.ref a] h = some (.inl (some (.int 1)), h) := by
  obtain ⟨d, rfl, he⟩ := d_succ hd
  refine dx_app m_J26_hasNext ?_
  rw [gI_at I rfl rfl, Option.bind_some, gA_r I rfl rfl, Option.bind_some, gI_at A.1 rfl rfl, Option.bind_some, if_neg (i_ge_not hj (by have := A.2.2.2.1; omega))]
theorem it_prev (hd : 2 ≤ d) (A : LL h p mc n ns it) {a j : Nat} {lr : Value} (h4 : 400 ≤ a) (I : IT h a p mc n ns lr (j + 1)) (hj : j < n) : Ok (ax_c d 89 [.ref a] h) (.inl (some (.ref (it j)))) (fun h' => IT h' a p mc n ns (.ref (ns j)) j ∧ Ex (fun q => q = a) h h') := by
  have hn := A.2.2.2.1
  have hak : ∀ i, i < n → ns i ≠ a := by
    intro i hi e
    have x := A.2.1 i hi
    rw [e, I] at x
    cases x
  obtain ⟨d, rfl, he⟩ := d_succ hd
  refine Ok.le m_J26_previous ?_
  rw [vn_at I]
  show Ok (Option.bind (some 87) _) _ _
  rw [Option.bind_some, it_check he A I, cV_v, vn_at I]
  show Ok (Option.bind (some 88) _) _ _
  rw [Option.bind_some, it_hasPrev he I (by omega), cI_v, if_neg (Nat.succ_ne_zero j), if_pos (by decide), gA_at I rfl rfl (ll_at_rv _ _ _), Option.bind_some]
  have fin : ∀ K : ax_K, Ok (B_J26_previous_45 K a a (.ref (ns j)) a h) (.inl (some (.ref (it j)))) (fun h' => IT h' a p mc n ns (.ref (ns j)) j ∧ Ex (fun q => q = a) h h') := by
    intro K
    refine Ok.le (b_J26_previous_45 rfl) ?_
    have hj' : ns j ≠ a := hak j hj
    rw [pF_oref I rfl (Nat.le_of_ble_eq_true rfl) h4, Option.bind_some, pF_oref (set_eq _) rfl (Nat.le_of_ble_eq_true rfl) h4, Option.bind_some, gI_at (set_eq _) rfl rfl, Option.bind_some, pF_int (set_eq _) rfl (Nat.le_of_ble_eq_true rfl) h4, Option.bind_some, gA_r (set_eq _) rfl rfl, Option.bind_some, gA_r ((set_ne _ hj').trans ((set_ne _ hj').trans ((set_ne _ hj').trans (A.2.1 j hj)))) rfl rfl, Option.bind_some]
    refine Ok.ret ⟨(set_eq _).trans ?_, Ex.set1.tr (Ex.set1.tr Ex.set1)⟩
    rw [ll_at_y hj, show Int32.ofNat (j + 1) - 1 = Int32.ofNat (j + 1 - 1) from i_sub (b := 1) (by omega), Nat.add_sub_cancel]
    rfl
  by_cases q : j + 1 < n
  · rw [ll_at_y q, nul_ref, Option.bind_some, gA_at (A.2.1 (j + 1) q) rfl rfl (ll_pv_rv _ _), Option.bind_some, ll_pv_s]
    exact fin _
  · obtain rfl : n = j + 1 := by omega
    rw [ll_at_n q, nul_null, gA_r I rfl rfl, Option.bind_some, gA_at A.1 rfl rfl (ll_pv_rv _ _), Option.bind_some, ll_pv_s]
    exact fin _
theorem it_next (hd : 2 ≤ d) (A : LL h p mc n ns it) {a j : Nat} {lr : Value} (h4 : 400 ≤ a) (I : IT h a p mc n ns lr j) (hj : j < n) : Ok (ax_c d 86 [.ref a] h) (.inl (some (.ref (it j)))) (fun h' => IT h' a p mc n ns (.ref (ns j)) (j + 1) ∧ Ex (fun q => q = a) h h') := by
  have hn := A.2.2.2.1
  have hak : ns j ≠ a := by
    intro e
    have x := A.2.1 j hj
    rw [e, I] at x
    cases x
  obtain ⟨d, rfl, he⟩ := d_succ hd
  refine Ok.le m_J26_next ?_
  rw [vn_at I]
  show Ok (Option.bind (some 87) _) _ _
  rw [Option.bind_some, it_check he A I, cV_v, vn_at I]
  show Ok (Option.bind (some 85) _) _ _
  unfold IT at I
  rw [ll_at_y hj] at I
  rw [Option.bind_some, it_hasNext he A (by unfold IT; rw [ll_at_y hj]; exact I) hj, cI_v, if_pos (by decide), gA_r I rfl rfl, Option.bind_some, pF_oref I rfl (Nat.le_of_ble_eq_true rfl) h4, Option.bind_some, gA_r (set_eq _) rfl rfl, Option.bind_some, gA_at ((set_ne _ hak).trans (A.2.1 j hj)) rfl rfl (ll_at_rv _ _ _), Option.bind_some, pF_o (ll_at_rv _ _ _) (set_eq _) rfl (Nat.le_of_ble_eq_true rfl) h4, Option.bind_some, gI_at (set_eq _) rfl rfl, Option.bind_some, pF_int (set_eq _) rfl (Nat.le_of_ble_eq_true rfl) h4, Option.bind_some, gA_r (set_eq _) rfl rfl, Option.bind_some, gA_r ((set_ne _ hak).trans ((set_ne _ hak).trans ((set_ne _ hak).trans (A.2.1 j hj)))) rfl rfl, Option.bind_some]
  refine Ok.ret ⟨(set_eq _).trans ?_, Ex.set1.tr (Ex.set1.tr Ex.set1)⟩
  rw [show Int32.ofNat j + 1 = Int32.ofNat (j + 1) from i_add j 1]
  rfl
theorem it_add39 {K : ax_K} {a : Nat} {x y z : Value} {i j : Int32} (h4 : 400 ≤ a) (e : h.1 a = .inr (8, [x, y, .int i, .int j, z])) : Ok (B_J26_add_39 K a h) (.inl none) (fun h' => Ex (fun q => q = a) h h') := by
  refine Ok.le b_J26_add_39 ?_
  rw [gI_at e rfl rfl, Option.bind_some, pF_int e rfl (Nat.le_of_ble_eq_true rfl) h4, Option.bind_some, gI_at (set_eq _) rfl rfl, Option.bind_some, pF_int (set_eq _) rfl (Nat.le_of_ble_eq_true rfl) h4, Option.bind_some]
  exact Ok.ret (Ex.set1.tr Ex.set1)
/-- put in where the iterator stands -/
theorem it_add (hd : 3 ≤ d) (A : LL h p mc n ns it) {a j : Nat} {lr : Value} (h4 : 400 ≤ a) (hal : a < 400 + h.2.1) (I : IT h a p mc n ns lr j) (hj : j ≤ n) (hn : n < 1000) (q : Nat) : Ok (ax_c d 90 [.ref a, .ref q] h) (.inl none) (fun h' => LL h' p (mc + 1) (n + 1) (insF ns j (400 + h.2.1)) (insF it j q) ∧ h'.2.1 = h.2.1 + 1 ∧ h'.2.2 = h.2.2 + 3 ∧ ∀ r, r < 400 + h.2.1 → r ≠ p → (∀ i, i < n → r ≠ ns i) → r ≠ a → h'.1 r = h.1 r) := by
  have hak : ∀ i, i < n → ns i ≠ a := by
    intro i hi e
    have x := A.2.1 i hi
    rw [e, I] at x
    cases x
  have hap : p ≠ a := by
    intro e
    have x := A.1
    rw [e, I] at x
    cases x
  obtain ⟨d, rfl, he⟩ := d_succ hd
  refine Ok.le (m_J26_add rfl) ?_
  rw [vn_at I]
  show Ok (Option.bind (some 87) _) _ _
  rw [Option.bind_some, it_check (by omega) A I, cV_v, pF_onull I rfl (Nat.le_of_ble_eq_true rfl) h4, Option.bind_some, gA_at (set_eq _) rfl rfl (ll_at_rv _ _ _), Option.bind_some]
  have A2 : LL (ax_set h a (.inr (8, [lr, ll_at ns n j, .int (Int32.ofNat j), .int mc, .ref p].set 0 .null))) p mc n ns it := A.mono (set_ne _ hap) (fun i hi => set_ne _ (hak i hi)) (Nat.le_refl _)
  have tail : ∀ (K : ax_K) (h' : ax_H), (LL h' p (mc + 1) (n + 1) (insF ns j (400 + h.2.1)) (insF it j q) ∧ h'.2.1 = h.2.1 + 1 ∧ h'.2.2 = h.2.2 + 3 ∧ ∀ r, r < 400 + h.2.1 → r ≠ p → (∀ i, i < n → r ≠ ns i) → h'.1 r = (ax_set h a (.inr (8, [lr, ll_at ns n j, .int (Int32.ofNat j), .int mc, .ref p].set 0 .null))).1 r) → Ok (B_J26_add_39 K a h') (.inl none) (fun h' => LL h' p (mc + 1) (n + 1) (insF ns j (400 + h.2.1)) (insF it j q) ∧ h'.2.1 = h.2.1 + 1 ∧ h'.2.2 = h.2.2 + 3 ∧ ∀ r, r < 400 + h.2.1 → r ≠ p → (∀ i, i < n → r ≠ ns i) → r ≠ a → h'.1 r = h.1 r) := by
    rintro K h' ⟨x1, x2, x3, x4⟩
    have ea := (x4 a hal (Ne.symm hap) (fun i hi => Ne.symm (hak i hi))).trans (set_eq _)
    refine (it_add39 h4 ea).imp ?_
    rintro h2 ⟨y1, y2⟩
    refine ⟨x1.mono (y2 p hap) (fun i hi => y2 _ ?_) (by rw [y1]; exact Nat.le_refl _), by rw [y1]; exact x2, by rw [y1]; exact x3, fun r hr r1 r2 r3 => (y2 r r3).trans ((x4 r hr r1 r2).trans (set_ne _ r3))⟩
    unfold insF
    split
    · exact hak i (by omega)
    · split
      · intro z
        have : 400 + h.2.1 = a := z
        omega
      · exact hak (i - 1) (by omega)
  by_cases qn : j < n
  · rw [ll_at_y qn] at A2 tail
    rw [ll_at_y qn, nul_ref, gA_r (set_eq _) rfl rfl, Option.bind_some, Option.bind_some, vn_at A2.1]
    show Ok (Option.bind (some 138) _) _ _
    rw [Option.bind_some]
    exact Ok.V (ll_linkBefore he A2 hn q qn) (fun h' p' => tail _ h' p')
  · obtain rfl : j = n := by omega
    rw [ll_at_n qn] at A2 tail
    rw [ll_at_n qn, nul_null, gA_r (set_eq _) rfl rfl, Option.bind_some, vn_at A2.1]
    show Ok (Option.bind (some 133) _) _ _
    rw [Option.bind_some]
    exact Ok.V (ll_linkLast he A2 hn q) (fun h' p' => tail _ h' p')
theorem it_init (hd : 1 ≤ d) (A : LL h p mc n ns it) {a : Nat} {x y z : Value} {i j : Int32} (h4 : 400 ≤ a) (e : h.1 a = .inr (8, [x, y, .int i, .int j, z])) : Ok (ax_c d 84 [.ref a, .ref p, .int (Int32.ofNat n)] h) (.inl none) (fun h' => IT h' a p mc n ns x n ∧ Ex (fun q => q = a) h h') := by
  have hap : p ≠ a := by
    intro e2
    have x := A.1
    rw [e2, e] at x
    cases x
  obtain ⟨d, rfl, he⟩ := d_succ hd
  refine Ok.le (m_J26_init rfl) ?_
  have ep : ∀ c1 c2, (ax_set (ax_set h a c1) a c2).1 p = h.1 p := fun c1 c2 => (set_ne _ hap).trans (set_ne _ hap)
  rw [pF_oref e rfl (Nat.le_of_ble_eq_true rfl) h4, Option.bind_some, nn_ref, gA_r (set_eq _) rfl rfl, Option.bind_some, gI_at ((set_ne _ hap).trans A.1) rfl rfl, Option.bind_some, pF_int (set_eq _) rfl (Nat.le_of_ble_eq_true rfl) h4, Option.bind_some, gI_at ((ep _ _).trans A.1) rfl rfl, Option.bind_some, if_neg (fun z => z rfl), pF_onull (set_eq _) rfl (Nat.le_of_ble_eq_true rfl) h4, Option.bind_some, pF_int (set_eq _) rfl (Nat.le_of_ble_eq_true rfl) h4, Option.bind_some]
  refine Ok.ret ⟨(set_eq _).trans ?_, Ex.set1.tr (Ex.set1.tr (Ex.set1.tr Ex.set1))⟩
  rw [ll_at_n (Nat.lt_irrefl _)]
  rfl
/-- an iterator behind the last -/
theorem ll_iter (hd : 3 ≤ d) (A : LL h p mc n ns it) : Ok (ax_c d 134 [.ref p, .int (Int32.ofNat n)] h) (.inl (some (.ref (400 + h.2.1)))) (fun h' => IT h' (400 + h.2.1) p mc n ns .null n ∧ h'.2.1 = h.2.1 + 1 ∧ h'.2.2 = h.2.2 + 5 ∧ ∀ r, r < 400 + h.2.1 → h'.1 r = h.1 r) := by
  have hn := A.2.2.2.1
  have hp := A.2.2.2.2
  obtain ⟨d, rfl, he⟩ := d_succ hd
  refine Ok.le m_J4_listIterator ?_
  have e1 : ax_c d 135 [.ref p, .int (Int32.ofNat n)] h = some (.inl none, h) := by
    obtain ⟨d2, rfl, he2⟩ := d_succ (k := 1) he
    refine dx_app m_J4_checkPositionIndex ?_
    have e2 : ax_c d2 136 [.ref p, .int (Int32.ofNat n)] h = some (.inl (some (.int 1)), h) := by
      obtain ⟨d3, rfl, he3⟩ := d_succ (k := 0) he2
      refine dx_app m_J4_isPositionIndex ?_
      rw [if_neg (i_neg (by omega)), gI_at A.1 rfl rfl, Option.bind_some, if_neg (fun z => by have := (i_lt (by omega) (by omega)).mp z; omega)]
    rw [vn_at A.1]
    show Option.bind (some 136) _ = _
    rw [Option.bind_some, e2, cI_v, if_pos (by decide)]
  rw [vn_at A.1]
  show Ok (Option.bind (some 135) _) _ _
  rw [Option.bind_some, e1, cV_v, nw_at]
  have A2 : LL (ax_new h (.inr (8, [.null, .null, .int 0, .int 0, .null])) 5) p mc n ns it := A.mono (new_ne _ _ (by omega)) (fun i hi => new_ne _ _ (by have := (A.2.2.1 i hi).2; omega)) (Nat.le_succ _)
  refine Ok.V (it_init (by omega) A2 (by omega) (new_eq _ _)) ?_
  rintro h' ⟨x1, x2⟩
  exact Ok.ret ⟨x1, by rw [x2.1]; rfl, by rw [x2.1]; rfl, fun r hr => (x2.2 r (by omega)).trans (new_ne _ _ (by omega))⟩
theorem ll_init (hd : 4 ≤ d) (h4 : 400 ≤ p) (hp : p < 400 + h.2.1) {i j : Int32} (e : h.1 p = .inr (15, [.int i, .int j, .null, .null])) (ns it : Nat → Nat) : Ok (ax_c d 124 [.ref p] h) (.inl none) (fun h' => LL h' p 0 0 ns it ∧ Ex (fun q => q = p) h h') := by
  obtain ⟨d, rfl, he⟩ := d_succ hd
  refine Ok.le m_J4_init ?_
  have e96 : Ok (ax_c d 96 [.ref p] h) (.inl none) (fun h' => h'.1 p = .inr (15, [.int 0, .int j, .null, .null]) ∧ Ex (fun q => q = p) h h') := by
    obtain ⟨d2, rfl, he2⟩ := d_succ (k := 2) he
    refine Ok.le m_J3_init ?_
    refine Ok.V (P := fun h' => h'.1 p = .inr (15, [.int 0, .int j, .null, .null]) ∧ Ex (fun q => q = p) h h') ?_ (fun h' p' => Ok.ret p')
    obtain ⟨d3, rfl, he3⟩ := d_succ (k := 1) he2
    refine Ok.le m_J1_init ?_
    have e0 : ax_c d3 0 [.ref p] h = some (.inl none, h) := by
      obtain ⟨d4, rfl, he4⟩ := d_succ (k := 0) he3
      exact dx_app m_J0_init nn_ref
    rw [e0, cV_v, pF_int e rfl (Nat.le_of_ble_eq_true rfl) h4, Option.bind_some]
    exact Ok.ret ⟨set_eq _, Ex.set1⟩
  refine Ok.V e96 ?_
  rintro h1 ⟨x1, x2⟩
  rw [pF_int x1 rfl (Nat.le_of_ble_eq_true rfl) h4, Option.bind_some]
  exact Ok.ret ⟨⟨set_eq _, fun i hi => by omega, fun i hi => by omega, by omega, h4, by show p < 400 + h1.2.1; rw [x2.1]; exact hp⟩, x2.tr Ex.set1⟩
theorem al_init (hd : 3 ≤ d) (h4 : 400 ≤ p) (hp : p < 400 + h.2.1) {i : Int32} (e : h.1 p = .inr (4, [.int i, .null, .int 0])) (o1 : ∃ f, h.1 1 = .inl (4, 0, objs f)) (it : Nat → Nat) : Ok (ax_c d 58 [.ref p] h) (.inl none) (fun h' => AL h' p 0 1 0 0 it ∧ Ex (fun q => q = p) h h') := by
  obtain ⟨d, rfl, he⟩ := d_succ hd
  obtain ⟨f, o1⟩ := o1
  refine Ok.le m_J2_init ?_
  have e96 : Ok (ax_c d 1 [.ref p] h) (.inl none) (fun h' => h'.1 p = .inr (4, [.int 0, .null, .int 0]) ∧ Ex (fun q => q = p) h h') := by
    obtain ⟨d3, rfl, he3⟩ := d_succ (k := 1) he
    refine Ok.le m_J1_init ?_
    have e0 : ax_c d3 0 [.ref p] h = some (.inl none, h) := by
      obtain ⟨d4, rfl, he4⟩ := d_succ (k := 0) he3
      exact dx_app m_J0_init nn_ref
    rw [e0, cV_v, pF_int e rfl (Nat.le_of_ble_eq_true rfl) h4, Option.bind_some]
    exact Ok.ret ⟨set_eq _, Ex.set1⟩
  refine Ok.V e96 ?_
  rintro h1 ⟨x1, x2⟩
  rw [pF_aref x1 rfl (Nat.le_of_ble_eq_true rfl) h4, Option.bind_some]
  have x3 : Ex (fun q => q = p) h (ax_set h1 p (.inr (4, [.int 0, .ref 1, .int 0]))) := x2.tr Ex.set1
  exact Ok.ret ⟨⟨set_eq _, ⟨f, (x3.2 1 (by omega)).trans o1, fun i hi => by omega⟩, by omega, by omega, fun _ => rfl, fun z => by omega, h4, by show p < 400 + h1.2.1; rw [x2.1]; exact hp, by omega⟩, x3⟩
end LLI
