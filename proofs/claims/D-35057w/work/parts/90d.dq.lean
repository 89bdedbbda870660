/-! ArrayDeque: its cells, and what its methods do -/
/-- the place of the i-th thing behind the head a -/
def dqi (cap a i : Nat) : Nat := if a + i < cap then a + i else a + i - cap
def DQ (h : ax_H) (p arr cap a n : Nat) (it : Nat → Nat) : Prop :=
  h.1 p = .inr (16, [.ref arr, .int (Int32.ofNat a), .int (Int32.ofNat (dqi cap a n))]) ∧ (∃ f, h.1 arr = .inl (4, cap, objs f) ∧ (∀ i, i < n → f (dqi cap a i) = some (it i)) ∧ ∀ j, j < cap → (∀ i, i < n → j ≠ dqi cap a i) → f j = none) ∧ a < cap ∧ n < cap ∧ cap ≤ 404 ∧ 400 ≤ p ∧ p < 400 + h.2.1 ∧ 400 ≤ arr ∧ arr < 400 + h.2.1
theorem DQ.mono {h h' : ax_H} {p arr cap a n : Nat} {it : Nat → Nat} (A : DQ h p arr cap a n it) (e1 : h'.1 p = h.1 p) (e2 : h'.1 arr = h.1 arr) (hh : h.2.1 ≤ h'.2.1) : DQ h' p arr cap a n it := by
  obtain ⟨a1, ⟨f, a2, a3, a4⟩, a5, a6, a7, a8, a9, a10, a11⟩ := A
  exact ⟨e1.trans a1, ⟨f, e2.trans a2, a3, a4⟩, a5, a6, a7, a8, by omega, a10, by omega⟩
theorem DQ.ne {h : ax_H} {p arr cap a n : Nat} {it : Nat → Nat} (A : DQ h p arr cap a n it) : arr ≠ p := by
  obtain ⟨a1, ⟨f, a2, a3, a4⟩, _⟩ := A
  intro e
  rw [e, a1] at a2
  cases a2
theorem dqi_lt {cap a i : Nat} (ha : a < cap) (hi : i ≤ cap) : dqi cap a i < cap := by
  unfold dqi; split <;> omega
theorem dqi_inj {cap a i j : Nat} (ha : a < cap) (hi : i < cap) (hj : j < cap) (e : dqi cap a i = dqi cap a j) : i = j := by
  unfold dqi at e
  split at e <;> split at e <;> omega
theorem i_nonneg {k : Nat} (h : k < 2 ^ 31) : (0 : Int32) ≤ Int32.ofNat k := (i_le (a := 0) (by omega) h).mpr (by omega)
theorem dq_sub {d : Nat} (hd : 1 ≤ d) {h : ax_H} {cap a n : Nat} (ha : a < cap) (hn : n < cap) (hc : cap ≤ 404) : ax_c d 144 [.int (Int32.ofNat (dqi cap a n)), .int (Int32.ofNat a), .int (Int32.ofNat cap)] h = some (.inl (some (.int (Int32.ofNat n))), h) := by
  obtain ⟨d, rfl, -⟩ := d_succ hd
  refine dx_app m_J5_sub ?_
  rw [lt_at]
  have hl := dqi_lt ha (Nat.le_of_lt hn)
  by_cases q : a + n < cap
  · have e : dqi cap a n = a + n := if_pos q
    rw [e, i_sub (by omega), if_pos (i_nonneg (by omega)), Nat.add_sub_cancel_left]
  · have e : dqi cap a n = a + n - cap := if_neg q
    have e1 : Int32.ofNat (a + n - cap) - Int32.ofNat a + Int32.ofNat cap = Int32.ofNat n := by
      have e2 : Int32.ofNat (a + n - cap) = Int32.ofNat (a + n) - Int32.ofNat cap := (i_sub (by omega)).symm
      rw [e2, Int32.sub_eq_add_neg, Int32.sub_eq_add_neg, Int32.add_assoc, Int32.add_assoc, Int32.add_comm (-Int32.ofNat a) (Int32.ofNat cap), ← Int32.add_assoc (-Int32.ofNat cap), Int32.add_left_neg, Int32.zero_add, ← Int32.sub_eq_add_neg, i_sub (by omega), Nat.add_sub_cancel_left]
    rw [e, lt_at, e1, if_neg]
    intro z
    rw [Int32.le_iff_toInt_le, Int32.toInt_sub, i_toInt (by omega), i_toInt (by omega)] at z
    have h0 : (0 : Int32).toInt = 0 := rfl
    unfold Int.bmod at z
    dsimp only at z
    split at z <;> omega
theorem dq_dec {d : Nat} (hd : 1 ≤ d) {h : ax_H} {cap j : Nat} (hj : j < cap) (hc : cap ≤ 404) : ax_c d 146 [.int (Int32.ofNat j), .int (Int32.ofNat cap)] h = some (.inl (some (.int (Int32.ofNat (if j = 0 then cap - 1 else j - 1)))), h) := by
  obtain ⟨d, rfl, -⟩ := d_succ hd
  refine dx_app m_J5_dec ?_
  rw [lt_at, lt_at]
  by_cases q : j = 0
  · subst q
    rw [if_neg (by decide), if_pos rfl, show Int32.ofNat cap - 1 = Int32.ofNat (cap - 1) from i_sub (b := 1) (by omega)]
  · rw [i_dec (by omega), if_pos (i_nonneg (by omega)), if_neg q]
theorem dq_inc {d : Nat} (hd : 1 ≤ d) {h : ax_H} {cap j : Nat} (hj : j < cap) (hc : cap ≤ 404) : ax_c d 150 [.int (Int32.ofNat j), .int (Int32.ofNat cap)] h = some (.inl (some (.int (Int32.ofNat (if j + 1 < cap then j + 1 else 0)))), h) := by
  obtain ⟨d, rfl, -⟩ := d_succ hd
  refine dx_app m_J5_inc ?_
  rw [lt_at, show Int32.ofNat j + 1 = Int32.ofNat (j + 1) from i_add j 1]
  by_cases q : j + 1 < cap
  · rw [if_pos ((i_lt (by omega) (by omega)).mpr q), if_pos q]
  · rw [if_neg (fun z => q ((i_lt (by omega) (by omega)).mp z)), if_neg q]
    rfl
theorem dq_elem {d : Nat} (hd : 1 ≤ d) {h : ax_H} {arr cap j : Nat} {f : Nat → Option Nat} (e : h.1 arr = .inl (4, cap, objs f)) (hj : j < cap) (hc : cap ≤ 404) : ax_c d 155 [.ref arr, .int (Int32.ofNat j)] h = some (.inl (some (va_rf (f j))), h) := by
  obtain ⟨d, rfl, -⟩ := d_succ hd
  refine dx_app (m_J5_elementAt rfl) ?_
  rw [lA_at e, ix_of rfl hj (by omega), Option.bind_some, Option.bind_some]
theorem dqi_dec {cap a n : Nat} (ha : a < cap) (hn : n + 1 < cap) : (if dqi cap a (n + 1) = 0 then cap - 1 else dqi cap a (n + 1) - 1) = dqi cap a n := by
  unfold dqi
  split <;> split <;> split <;> omega
theorem dqi_inc {cap a n : Nat} (ha : a < cap) (hn : n < cap) : (if dqi cap a n + 1 < cap then dqi cap a n + 1 else 0) = dqi cap a (n + 1) := by
  unfold dqi
  split <;> split <;> split <;> omega
section DQS
variable {d : Nat} {h : ax_H} {p arr cap a n : Nat} {it : Nat → Nat}
theorem dq_size (hd : 2 ≤ d) (A : DQ h p arr cap a n it) : ax_c d 143 [.ref p] h = some (.inl (some (.int (Int32.ofNat n))), h) := by
  obtain ⟨a1, ⟨f, a2, a3, a4⟩, a5, a6, a7, a8, a9, a10, a11⟩ := A
  obtain ⟨d, rfl, he⟩ := d_succ hd
  refine dx_app m_J5_size ?_
  rw [gI_at a1 rfl rfl, Option.bind_some, gI_at a1 rfl rfl, Option.bind_some, gA_r a1 rfl rfl, Option.bind_some, len_at a2, Option.bind_some, dq_sub he a5 a6 a7, cI_v]
theorem dq_isEmpty (hd : 1 ≤ d) (A : DQ h p arr cap a n it) : ax_c d 156 [.ref p] h = some (.inl (some (.int (if n = 0 then 1 else 0))), h) := by
  obtain ⟨a1, ⟨f, a2, a3, a4⟩, a5, a6, a7, a8, a9, a10, a11⟩ := A
  obtain ⟨d, rfl, he⟩ := d_succ hd
  refine dx_app m_J5_isEmpty ?_
  have hl := dqi_lt a5 (Nat.le_of_lt a6)
  rw [gI_at a1 rfl rfl, Option.bind_some, gI_at a1 rfl rfl, Option.bind_some]
  by_cases q : n = 0
  · subst q
    rw [if_neg, if_pos rfl]
    intro z
    refine z ?_
    unfold dqi
    rw [if_pos (by omega)]
    rfl
  · rw [if_pos, if_neg q]
    intro z
    have := (i_eq (by omega) (by omega)).mp z
    unfold dqi at this
    split at this <;> omega
theorem dq_peekLast (hd : 2 ≤ d) (A : DQ h p arr cap a n it) : ax_c d 159 [.ref p] h = some (.inl (some (if n = 0 then .null else .ref (it (n - 1)))), h) := by
  obtain ⟨a1, ⟨f, a2, a3, a4⟩, a5, a6, a7, a8, a9, a10, a11⟩ := A
  obtain ⟨d, rfl, he⟩ := d_succ hd
  have hl := dqi_lt a5 (Nat.le_of_lt a6)
  refine dx_app m_J5_peekLast ?_
  rw [gA_r a1 rfl rfl, Option.bind_some, gI_at a1 rfl rfl, Option.bind_some, len_at a2, Option.bind_some, dq_dec he hl a7, cI_v, dq_elem he a2 (by split <;> omega) a7]
  by_cases q : n = 0
  · subst q
    rw [a4 _ (by split <;> omega) (fun i hi => by omega), if_pos rfl]
    exact cR_n
  · obtain ⟨m, rfl⟩ : ∃ m, n = m + 1 := ⟨n - 1, by omega⟩
    rw [dqi_dec a5 a6, a3 m (by omega), if_neg q, Nat.add_sub_cancel]
    exact cR_r
theorem dq_removeFirst (hd : 3 ≤ d) (A : DQ h p arr cap a (n + 1) it) : Ok (ax_c d 153 [.ref p] h) (.inl (some (.ref (it 0)))) (fun h' => (∃ a', DQ h' p arr cap a' n (fun i => it (i + 1))) ∧ Ex (fun q => q = p ∨ q = arr) h h') := by
  have hap := A.ne
  obtain ⟨a1, ⟨f, a2, a3, a4⟩, a5, a6, a7, a8, a9, a10, a11⟩ := A
  obtain ⟨d, rfl, he⟩ := d_succ hd
  refine Ok.le m_J5_removeFirst ?_
  rw [vn_at a1]
  show Ok (Option.bind (some 154) _) _ _
  rw [Option.bind_some]
  refine Ok.R (P := fun h' => (∃ a', DQ h' p arr cap a' n (fun i => it (i + 1))) ∧ Ex (fun q => q = p ∨ q = arr) h h') ?_ (fun h' p' => by rw [nul_ref]; exact Ok.ret p')
  obtain ⟨d2, rfl, he2⟩ := d_succ he
  refine Ok.le m_J5_pollFirst ?_
  have e0 : dqi cap a 0 = a := by unfold dqi; rw [if_pos (by omega)]; rfl
  have f0 := a3 0 (by omega)
  rw [e0] at f0
  rw [gA_r a1 rfl rfl, Option.bind_some, gI_at a1 rfl rfl, Option.bind_some, dq_elem he2 a2 a5 a7, f0]
  show Ok (dx_cR (some (.inl (some (.ref (it 0))), h)) _ _) _ _
  rw [cR_r, nul_ref, sA_null a2 a10, ix_of rfl a5 (by omega), Option.bind_some, Option.bind_some, len_at (set_eq _), Option.bind_some, dq_inc he2 a5 a7, cI_v, pF_int ((set_ne _ (Ne.symm hap)).trans a1) rfl (Nat.le_of_ble_eq_true rfl) a8, Option.bind_some]
  have en : ∀ i, dqi cap (if a + 1 < cap then a + 1 else 0) i = dqi cap a (i + 1) ∨ cap ≤ i := by
    intro i
    unfold dqi
    by_cases q : a + 1 < cap
    · rw [if_pos q]
      left
      split <;> split <;> omega
    · rw [if_neg q]
      rcases Nat.lt_or_ge i cap with w | w
      · left; split <;> split <;> omega
      · right; exact w
  have en' : ∀ i, i ≤ n → dqi cap (if a + 1 < cap then a + 1 else 0) i = dqi cap a (i + 1) := fun i hi => (en i).resolve_right (by omega)
  refine Ok.ret ⟨⟨if a + 1 < cap then a + 1 else 0, (set_eq _).trans ?_, ⟨va_up f a none, (set_ne _ hap).trans (set_eq _), fun i hi => ?_, fun j hj hh => ?_⟩, by split <;> omega, by omega, a7, a8, a9, a10, a11⟩, (Ex.set (Or.inr rfl)).tr (Ex.set (Or.inl rfl))⟩
  · rw [en' n (Nat.le_refl _)]
    rfl
  · rw [en' i (by omega)]
    show (if dqi cap a (i + 1) = a then none else f (dqi cap a (i + 1))) = _
    rw [if_neg, a3 (i + 1) (by omega)]
    intro z
    have := dqi_inj (i := i + 1) (j := 0) a5 (by omega) (by omega) (z.trans e0.symm)
    omega
  · show (if j = a then none else f j) = none
    by_cases q : j = a
    · rw [if_pos q]
    · rw [if_neg q]
      refine a4 j hj fun i hi z => ?_
      rcases Nat.eq_zero_or_pos i with w | w
      · rw [w, e0] at z; exact q z
      · refine hh (i - 1) (by omega) ?_
        rw [en' (i - 1) (by omega), show i - 1 + 1 = i by omega]
        exact z
theorem dq_removeLast (hd : 3 ≤ d) (A : DQ h p arr cap a (n + 1) it) : Ok (ax_c d 157 [.ref p] h) (.inl (some (.ref (it n)))) (fun h' => DQ h' p arr cap a n it ∧ Ex (fun q => q = p ∨ q = arr) h h') := by
  have hap := A.ne
  obtain ⟨a1, ⟨f, a2, a3, a4⟩, a5, a6, a7, a8, a9, a10, a11⟩ := A
  obtain ⟨d, rfl, he⟩ := d_succ hd
  refine Ok.le m_J5_removeLast ?_
  rw [vn_at a1]
  show Ok (Option.bind (some 158) _) _ _
  rw [Option.bind_some]
  refine Ok.R (P := fun h' => DQ h' p arr cap a n it ∧ Ex (fun q => q = p ∨ q = arr) h h') ?_ (fun h' p' => by rw [nul_ref]; exact Ok.ret p')
  obtain ⟨d2, rfl, he2⟩ := d_succ he
  refine Ok.le m_J5_pollLast ?_
  have hl := dqi_lt a5 (Nat.le_of_lt a6)
  have hln := dqi_lt (i := n) a5 (by omega)
  rw [gA_r a1 rfl rfl, Option.bind_some, gI_at a1 rfl rfl, Option.bind_some, len_at a2, Option.bind_some, dq_dec he2 hl a7, cI_v, dqi_dec a5 a6, dq_elem he2 a2 hln a7, a3 n (by omega)]
  show Ok (dx_cR (some (.inl (some (.ref (it n))), h)) _ _) _ _
  rw [cR_r, nul_ref, pF_int a1 rfl (Nat.le_of_ble_eq_true rfl) a8, Option.bind_some, sA_null ((set_ne _ hap).trans a2) a10, ix_of rfl hln (by omega), Option.bind_some, Option.bind_some]
  refine Ok.ret ⟨⟨(set_ne _ (Ne.symm hap)).trans (set_eq _), ⟨va_up f (dqi cap a n) none, set_eq _, fun i hi => ?_, fun j hj hh => ?_⟩, a5, by omega, a7, a8, a9, a10, a11⟩, (Ex.set (Or.inl rfl)).tr (Ex.set (Or.inr rfl))⟩
  · show (if dqi cap a i = dqi cap a n then none else f (dqi cap a i)) = _
    rw [if_neg, a3 i (by omega)]
    intro z
    have := dqi_inj (i := i) (j := n) a5 (by omega) (by omega) z
    omega
  · show (if j = dqi cap a n then none else f j) = none
    by_cases q : j = dqi cap a n
    · rw [if_pos q]
    · rw [if_neg q]
      refine a4 j hj fun i hi z => ?_
      rcases Nat.lt_or_ge i n with w | w
      · exact hh i w z
      · obtain rfl : i = n := by omega
        exact q z
theorem dq_init (hd : 2 ≤ d) (h4 : 400 ≤ p) (hp : p < 400 + h.2.1) {x : Value} (e : h.1 p = .inr (16, [x, .int 0, .int 0])) (it : Nat → Nat) : Ok (ax_c d 142 [.ref p] h) (.inl none) (fun h' => DQ h' p (400 + h.2.1) 17 0 0 it ∧ h'.2.1 = h.2.1 + 1 ∧ h'.2.2 = h.2.2 + 17 ∧ ∀ r, r < 400 + h.2.1 → r ≠ p → h'.1 r = h.1 r) := by
  obtain ⟨d, rfl, he⟩ := d_succ hd
  refine Ok.le m_J5_init ?_
  have e0 : ax_c d 0 [.ref p] h = some (.inl none, h) := by
    obtain ⟨d4, rfl, he4⟩ := d_succ (k := 0) he
    exact dx_app m_J0_init nn_ref
  rw [e0, cV_v, na_at (k := 17) (n := 17) rfl (by omega), pF_aref ((new_ne _ _ (by omega)).trans e) rfl (Nat.le_of_ble_eq_true rfl) h4, Option.bind_some]
  exact Ok.ret ⟨⟨(set_eq _).trans rfl, ⟨fun _ => none, (set_ne _ (by omega)).trans (new_eq _ _), fun i hi => by omega, fun _ _ _ => rfl⟩, by omega, by omega, by omega, h4, by show p < 400 + (h.2.1 + 1); omega, by omega, by show 400 + h.2.1 < 400 + (h.2.1 + 1); omega⟩, rfl, rfl, fun r hr hr2 => (set_ne _ hr2).trans (new_ne _ _ (by omega))⟩
theorem dq_clear (hd : 2 ≤ d) (A : DQ h p arr cap a n it) : Ok (ax_c d 147 [.ref p] h) (.inl none) (fun h' => DQ h' p arr cap 0 0 it ∧ Ex (fun q => q = p ∨ q = arr) h h') := by
  have hap := A.ne
  obtain ⟨a1, ⟨f, a2, a3, a4⟩, a5, a6, a7, a8, a9, a10, a11⟩ := A
  obtain ⟨d, rfl, he⟩ := d_succ hd
  refine Ok.le m_J5_clear ?_
  rw [gA_r a1 rfl rfl, Option.bind_some, gI_at a1 rfl rfl, Option.bind_some, gI_at a1 rfl rfl, Option.bind_some]
  have hl := dqi_lt a5 (Nat.le_of_lt a6)
  obtain ⟨t, ht⟩ : ∃ t, t = dqi cap a n := ⟨_, rfl⟩
  rw [← ht] at hl ⊢
  -- one leg: from k up to 'to'
  have leg : ∀ (K : ax_K) (to : Nat) (Q : ax_H → Prop), to ≤ cap → ∀ m k : Nat, k + m = to → ∀ (h1 : ax_H) (g : Nat → Option Nat), h1.1 arr = .inl (4, cap, objs g) → Ex (fun q => q = p ∨ q = arr) h h1 → h1.1 p = h.1 p → (∀ (h2 : ax_H) (g2 : Nat → Option Nat), h2.1 arr = .inl (4, cap, objs g2) → Ex (fun q => q = p ∨ q = arr) h h2 → h2.1 p = h.1 p → (∀ j, g2 j = if k ≤ j ∧ j < to then none else g j) → Ok (B_J5_circularClear_12 K (.ref arr) (Int32.ofNat to) (Int32.ofNat t) (Int32.ofNat to) h2) (.inl none) Q) → Ok (B_J5_circularClear_12 K (.ref arr) (Int32.ofNat k) (Int32.ofNat t) (Int32.ofNat to) h1) (.inl none) Q := by
    intro K to Q hto m
    induction m with
    | zero =>
      intro k hk h1 g c1 c2 c3 fin
      obtain rfl : k = to := by omega
      exact fin h1 g c1 c2 c3 fun j => by rw [if_neg (by omega)]
    | succ m ih =>
      intro k hk h1 g c1 c2 c3 fin
      refine Ok.le (b_J5_circularClear_12 rfl) ?_
      rw [if_neg (i_ge_not (by omega) (by omega)), sA_null c1 a10, ix_of rfl (show k < cap by omega) (by omega), Option.bind_some, Option.bind_some, lt_at, show Int32.ofNat k + 1 = Int32.ofNat (k + 1) from i_add k 1]
      refine ih (k + 1) (by omega) _ (va_up g k none) (set_eq _) (c2.tr (Ex.set (Or.inr rfl))) ((set_ne _ (Ne.symm hap)).trans c3) (fun h2 g2 x1 x2 x3 x4 => fin h2 g2 x1 x2 x3 fun j => ?_)
      rw [x4 j]
      show (if k + 1 ≤ j ∧ j < to then none else if j = k then none else g j) = _
      by_cases w : j = k
      · rw [if_neg (show ¬ (k + 1 ≤ j ∧ j < to) by omega), if_pos w, if_pos (by omega)]
      · rw [if_neg w]
        by_cases w2 : k + 1 ≤ j ∧ j < to
        · rw [if_pos w2, if_pos (by omega)]
        · rw [if_neg w2, if_neg (by omega)]
  have last : ∀ (K : ax_K) (h2 : ax_H), Ok (B_J5_circularClear_12 K (.ref arr) (Int32.ofNat t) (Int32.ofNat t) (Int32.ofNat t) h2) (.inl none) (fun h' => h' = h2) := by
    intro K h2
    refine Ok.le (b_J5_circularClear_12 rfl) ?_
    rw [if_pos ((i_le (by omega) (by omega)).mpr (Nat.le_refl _)), if_neg (fun z => z rfl)]
    exact Ok.ret rfl
  have e148 : Ok (ax_c d 148 [.ref arr, .int (Int32.ofNat a), .int (Int32.ofNat t)] h) (.inl none) (fun h' => (∃ g, h'.1 arr = .inl (4, cap, objs g) ∧ ∀ j, j < cap → g j = none) ∧ Ex (fun q => q = p ∨ q = arr) h h' ∧ h'.1 p = h.1 p) := by
    obtain ⟨d2, rfl, he2⟩ := d_succ he
    refine Ok.le (m_J5_circularClear rfl) ?_
    by_cases q : t < a
    · rw [if_pos ((i_lt (by omega) (by omega)).mpr q), len_at a2, Option.bind_some]
      refine leg _ cap _ (Nat.le_refl _) (cap - a) a (by omega) h f a2 Ex.rf rfl ?_
      intro h2 g2 x1 x2 x3 x4
      refine Ok.le (b_J5_circularClear_12 rfl) ?_
      rw [if_pos ((i_le (by omega) (by omega)).mpr (Nat.le_refl _)), if_pos (fun z => by have := (i_eq (by omega) (by omega)).mp z; omega)]
      refine leg _ t _ (by omega) t 0 (by omega) h2 g2 x1 x2 x3 ?_
      intro h3 g3 y1 y2 y3 y4
      refine (last _ h3).imp ?_
      rintro h' rfl
      refine ⟨⟨g3, y1, fun j hj => ?_⟩, y2, y3⟩
      rw [y4 j, x4 j]
      split
      · rfl
      · split
        · rfl
        · refine a4 j hj fun i hi z => ?_
          unfold dqi at ht z
          split at ht <;> split at z <;> omega
    · rw [if_neg (fun z => q ((i_lt (by omega) (by omega)).mp z))]
      refine leg _ t _ (by omega) (t - a) a (by omega) h f a2 Ex.rf rfl ?_
      intro h3 g3 y1 y2 y3 y4
      refine (last _ h3).imp ?_
      rintro h' rfl
      refine ⟨⟨g3, y1, fun j hj => ?_⟩, y2, y3⟩
      rw [y4 j]
      split
      · rfl
      · refine a4 j hj fun i hi z => ?_
        unfold dqi at ht z
        split at ht <;> split at z <;> omega
  refine Ok.V e148 ?_
  rintro h1 ⟨⟨g, x1, x2⟩, x3, x4⟩
  rw [pF_int (x4.trans a1) rfl (Nat.le_of_ble_eq_true rfl) a8, Option.bind_some, pF_int (set_eq _) rfl (Nat.le_of_ble_eq_true rfl) a8, Option.bind_some]
  refine Ok.ret ⟨⟨(set_eq _).trans ?_, ⟨g, (set_ne _ hap).trans ((set_ne _ hap).trans x1), fun i hi => by omega, fun j hj _ => x2 j hj⟩, by omega, by omega, a7, a8, ?_, a10, ?_⟩, x3.tr ((Ex.set (Or.inl rfl)).tr (Ex.set (Or.inl rfl)))⟩
  · show _ = (Sum.inr (16, [.ref arr, .int (Int32.ofNat 0), .int (Int32.ofNat (dqi cap 0 0))]) : ax_C)
    have : dqi cap 0 0 = 0 := by unfold dqi; rw [if_pos (by omega)]
    rw [this]
    rfl
  · show p < 400 + h1.2.1
    rw [x3.1]; exact a9
  · show arr < 400 + h1.2.1
    rw [x3.1]; exact a11
end DQS
