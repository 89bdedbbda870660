/-! ArrayDeque: one more behind; its iterator from the end -/
theorem i_shr1b : ∀ k, k < 405 → dx_shr (Int32.ofNat k) 1 = Int32.ofNat (k / 2) := by decide +kernel
/-- arraycopy of things within one row -/
theorem acpS_at {h : ax_H} {b n1 s d k : Nat} {sp dp kk : Int32} {g : Nat → Option Nat} (hb : h.1 b = .inl (4, n1, objs g)) (h4 : 400 ≤ b) (hs : sp = Int32.ofNat s) (hd : dp = Int32.ofNat d) (hk : kk = Int32.ofNat k) (h1 : s + k ≤ n1) (h2 : d + k ≤ n1) (h5 : n1 < 2 ^ 31) : dx_acp (.ref b) sp (.ref b) dp kk h = some (ax_set h b (.inl (4, n1, objs (va_cpy g g s d k)))) := acpA_at hb hb h4 hs hd hk h1 h2 h5 h5
theorem i_ge_not' {n : Nat} (h : 1 ≤ n) (hn : n < 2 ^ 31) : ¬ Int32.ofNat n < 1 := fun z => by
  have := (i_lt (b := 1) hn (by omega)).mp z
  omega
section DQA
variable {d : Nat} {h : ax_H} {p arr cap a n : Nat} {it : Nat → Nat}
/-- the row is full: a longer one -/
theorem dq_grow (hd : 4 ≤ d) {f : Nat → Option Nat} (e : h.1 p = .inr (16, [.ref arr, .int (Int32.ofNat a), .int (Int32.ofNat a)])) (ea : h.1 arr = .inl (4, cap, objs f)) (hf : ∀ i, i < cap → f (dqi cap a i) = some (it i)) (ha : a < cap) (hc0 : 17 ≤ cap) (hc : cap ≤ 201) (h4 : 400 ≤ p) (hp : p < 400 + h.2.1) (ha4 : 400 ≤ arr) (hal : arr < 400 + h.2.1) :
    Ok (ax_c d 151 [.ref p, .int 1] h) (.inl none) (fun h' => ∃ cap' a', DQ h' p (400 + h.2.1) cap' a' cap it ∧ h'.2.1 = h.2.1 + 1 ∧ (h'.2.2 = h.2.2 + cap' ∧ cap' + 4 * cap ≤ 4 * cap') ∧ ∀ r, r < 400 + h.2.1 → r ≠ p → h'.1 r = h.1 r) := by
  obtain ⟨d, rfl, he⟩ := d_succ hd
  obtain ⟨nw, hnw1, hnw2, key⟩ : ∃ nw, (1 ≤ nw ∧ cap ≤ 3 * nw) ∧ nw ≤ cap + 2 ∧ cap + nw ≤ 404 ∧ (if (64 : Int32) ≤ Int32.ofNat cap then B_J5_grow_21 (ax_c d) (dx_shr (Int32.ofNat cap) 1) p 1 (Int32.ofNat cap) h else B_J5_grow_21 (ax_c d) (Int32.ofNat cap + 2) p 1 (Int32.ofNat cap) h) = B_J5_grow_21 (ax_c d) (Int32.ofNat nw) p 1 (Int32.ofNat cap) h := by
    by_cases q : 64 ≤ cap
    · refine ⟨cap / 2, by omega, by omega, by omega, ?_⟩
      rw [if_pos (show (64 : Int32) ≤ Int32.ofNat cap from (i_le (a := 64) (by omega) (by omega)).mpr q), i_shr1b cap (by omega)]
    · refine ⟨cap + 2, by omega, by omega, by omega, ?_⟩
      rw [if_neg (show ¬ (64 : Int32) ≤ Int32.ofNat cap from fun z => q ((i_le (a := 64) (by omega) (by omega)).mp z)), show Int32.ofNat cap + 2 = Int32.ofNat (cap + 2) from i_add cap 2]
  obtain ⟨hnw3, key⟩ := key
  obtain ⟨hnw1, hnw4⟩ := hnw1
  refine Ok.le m_J5_grow ?_
  rw [gA_r e rfl rfl, Option.bind_some, len_at ea, Option.bind_some, key]
  refine Ok.le b_J5_grow_21 ?_
  rw [if_neg (i_ge_not' hnw1 (by omega)), i_add, lt_at]
  have e3 : ((Int32.ofNat (cap + nw)) - 2147483639) ≤ 0 := by
    rw [Int32.le_iff_toInt_le, Int32.toInt_sub, i_toInt (by omega), show (2147483639 : Int32) = Int32.ofNat 2147483639 from rfl, i_toInt (by omega)]
    have h0 : (0 : Int32).toInt = 0 := rfl
    unfold Int.bmod
    dsimp only
    split <;> omega
  rw [if_pos e3]
  refine Ok.le b_J5_grow_49 ?_
  rw [gA_r e rfl rfl, Option.bind_some, al_copyOf (c := cap) (f := f) (by omega) ha4 hal ea (by omega) (by omega), cR_r]
  have pn : p ≠ 400 + h.2.1 := by omega
  obtain ⟨h1, eh1⟩ : ∃ h1, h1 = ax_set (ax_new h (.inl (4, cap + nw, ax_dat 2)) (cap + nw)) (400 + h.2.1) (.inl (4, cap + nw, objs (va_cpy f (fun _ => none) 0 0 cap))) := ⟨_, rfl⟩
  rw [← eh1]
  have c1 : h1.1 p = .inr (16, [.ref arr, .int (Int32.ofNat a), .int (Int32.ofNat a)]) := by rw [eh1]; exact (set_ne _ pn).trans ((new_ne _ _ pn).trans e)
  have c2 : h1.1 (400 + h.2.1) = .inl (4, cap + nw, objs (va_cpy f (fun _ => none) 0 0 cap)) := by rw [eh1]; exact set_eq _
  have c3 : h1.2.1 = h.2.1 + 1 := by rw [eh1]; rfl
  have c4 : h1.2.2 = h.2.2 + (cap + nw) := by rw [eh1]; rfl
  have c5 : ∀ r, r < 400 + h.2.1 → h1.1 r = h.1 r := fun r hr => by rw [eh1]; exact (set_ne _ (by omega)).trans (new_ne _ _ (by omega))
  clear eh1
  have fa : va_cpy f (fun _ => none) 0 0 cap a = some (it 0) := by
    show (if 0 ≤ a ∧ a < 0 + cap then f (0 + (a - 0)) else none) = _
    rw [if_pos ⟨by omega, by omega⟩, Nat.zero_add, Nat.sub_zero]
    have := hf 0 (by omega)
    unfold dqi at this
    rw [if_pos (by omega)] at this
    exact this
  rw [pF_aref c1 rfl (Nat.le_of_ble_eq_true rfl) h4, Option.bind_some, gI_at (set_eq _) rfl rfl, Option.bind_some, gI_at (set_eq _) rfl rfl, Option.bind_some, if_neg (by rw [Int32.lt_iff_toInt_lt]; omega), Option.bind_some, Option.bind_some, if_neg (fun z => z rfl), Option.bind_some, lA_at ((set_ne _ (Ne.symm pn)).trans c2), ix_of rfl (show a < cap + nw by omega) (by omega), Option.bind_some, Option.bind_some, fa]
  show Ok (dx_nul (.ref (it 0)) _ _) _ _
  rw [nul_ref]
  refine Ok.le (b_J5_grow_96 rfl) ?_
  rw [show Int32.ofNat (cap + nw) - Int32.ofNat cap = Int32.ofNat nw from by rw [i_sub (by omega), Nat.add_sub_cancel_left], lt_at, gI_at (set_eq _) rfl rfl, Option.bind_some, Option.bind_some, Option.bind_some, acpS_at (s := a) (d := a + nw) (k := cap - a) ((set_ne _ (Ne.symm pn)).trans c2) (by omega) rfl (i_add a nw) (i_sub (by omega)) (by omega) (by omega) (by omega), Option.bind_some, gI_at ((set_ne _ pn).trans (set_eq _)) rfl rfl, Option.bind_some, Option.bind_some, pF_int ((set_ne _ pn).trans (set_eq _)) rfl (Nat.le_of_ble_eq_true rfl) h4, Option.bind_some, lt_at, i_add]
  have loop : ∀ m k : Nat, k + m = a + nw → a ≤ k → ∀ (h2 : ax_H) (g : Nat → Option Nat), h2.1 p = .inr (16, [.ref (400 + h.2.1), .int (Int32.ofNat (a + nw)), .int (Int32.ofNat a)]) → h2.1 (400 + h.2.1) = .inl (4, cap + nw, objs g) → (∀ j, j < cap + nw → g j = if a ≤ j ∧ j < k then none else va_cpy (va_cpy f (fun _ => none) 0 0 cap) (va_cpy f (fun _ => none) 0 0 cap) a (a + nw) (cap - a) j) → h2.2 = h1.2 → (∀ r, r < 400 + h.2.1 → r ≠ p → h2.1 r = h.1 r) → Ok (B_J5_grow_145 (ax_c d) (.ref (400 + h.2.1)) (Int32.ofNat k) (Int32.ofNat (a + nw)) h2) (.inl none) (fun h' => ∃ cap' a', DQ h' p (400 + h.2.1) cap' a' cap it ∧ h'.2.1 = h.2.1 + 1 ∧ (h'.2.2 = h.2.2 + cap' ∧ cap' + 4 * cap ≤ 4 * cap') ∧ ∀ r, r < 400 + h.2.1 → r ≠ p → h'.1 r = h.1 r) := by
    intro m
    induction m with
    | zero =>
      intro k hk hka h2 g x1 x2 x3 x4 x5
      obtain rfl : k = a + nw := by omega
      refine Ok.le (b_J5_grow_145 rfl) ?_
      rw [if_pos ((i_le (by omega) (by omega)).mpr (Nat.le_refl _))]
      have g1 : ∀ j, j < cap + nw → g j = if j < a then f j else if a + nw ≤ j then f (j - nw) else none := by
        intro j hj
        rw [x3 j hj]
        show (if a ≤ j ∧ j < a + nw then none else if a + nw ≤ j ∧ j < a + nw + (cap - a) then va_cpy f (fun _ => none) 0 0 cap (a + (j - (a + nw))) else va_cpy f (fun _ => none) 0 0 cap j) = _
        by_cases w1 : j < a
        · rw [if_neg (by omega), if_neg (by omega), if_pos w1]
          show (if 0 ≤ j ∧ j < 0 + cap then f (0 + (j - 0)) else none) = _
          rw [if_pos (by omega), Nat.zero_add, Nat.sub_zero]
        · rw [if_neg w1]
          by_cases w2 : a + nw ≤ j
          · rw [if_neg (by omega), if_pos (by omega), if_pos w2]
            show (if 0 ≤ a + (j - (a + nw)) ∧ a + (j - (a + nw)) < 0 + cap then f (0 + (a + (j - (a + nw)) - 0)) else none) = _
            rw [if_pos (by omega), Nat.zero_add, Nat.sub_zero, show a + (j - (a + nw)) = j - nw by omega]
          · rw [if_pos (by omega), if_neg w2]
      have ed : ∀ i, i < cap → dqi (cap + nw) (a + nw) i = if a + i < cap then dqi cap a i + nw else dqi cap a i := by
        intro i hi
        unfold dqi
        split <;> split <;> omega
      have el : ∀ i, i < cap → dqi cap a i < cap := fun i hi => dqi_lt ha (by omega)
      refine Ok.ret ⟨cap + nw, a + nw, ⟨x1.trans ?_, ⟨g, x2, fun i hi => ?_, fun j hj hh => ?_⟩, by omega, by omega, by omega, h4, by rw [x4, c3]; omega, by omega, by rw [x4, c3]; omega⟩, by rw [x4, c3], ⟨by rw [x4, c4], by omega⟩, x5⟩
      · have : dqi (cap + nw) (a + nw) cap = a := by
          unfold dqi
          rw [if_neg (by omega)]
          omega
        rw [this]
      · have el1 := el i hi
        have hfi := hf i hi
        rw [ed i hi, g1 _ (by split <;> omega)]
        unfold dqi at hfi ⊢
        by_cases w : a + i < cap
        · rw [if_pos w] at hfi
          rw [if_pos w, if_pos w, if_neg (by omega), if_pos (by omega), Nat.add_sub_cancel]
          exact hfi
        · rw [if_neg w] at hfi
          rw [if_neg w, if_neg w, if_pos (by omega)]
          exact hfi
      · rw [g1 j hj]
        by_cases w1 : j < a
        · exact absurd rfl (hh (cap - a + j) (by omega) |> fun z => fun _ => z (by rw [ed _ (by omega), if_neg (by omega)]; unfold dqi; rw [if_neg (by omega)]; omega))
        · by_cases w2 : a + nw ≤ j
          · exact absurd rfl (hh (j - nw - a) (by omega) |> fun z => fun _ => z (by rw [ed _ (by omega), if_pos (by omega)]; unfold dqi; rw [if_pos (by omega)]; omega))
          · rw [if_neg w1, if_neg w2]
    | succ m ih =>
      intro k hk hka h2 g x1 x2 x3 x4 x5
      refine Ok.le (b_J5_grow_145 rfl) ?_
      rw [if_neg (i_ge_not (by omega) (by omega)), sA_null x2 (by omega), ix_of rfl (show k < cap + nw by omega) (by omega), Option.bind_some, Option.bind_some, lt_at, show Int32.ofNat k + 1 = Int32.ofNat (k + 1) from i_add k 1]
      refine ih (k + 1) (by omega) (by omega) _ (va_up g k none) ((set_ne _ pn).trans x1) (set_eq _) (fun j hj => ?_) x4 (fun r hr hr2 => (set_ne _ (by omega)).trans (x5 r hr hr2))
      show (if j = k then none else g j) = _
      by_cases w : j = k
      · rw [if_pos w, if_pos (by omega)]
      · rw [if_neg w, x3 j hj]
        by_cases w2 : a ≤ j ∧ j < k
        · rw [if_pos w2, if_pos (by omega)]
        · rw [if_neg w2, if_neg (by omega)]
  exact loop nw a rfl (Nat.le_refl _) _ _ (set_eq _) ((set_ne _ (Ne.symm pn)).trans (set_eq _)) (fun j hj => by rw [if_neg (by omega)]) rfl (fun r hr hr2 => (set_ne _ hr2).trans ((set_ne _ (by omega)).trans ((set_ne _ hr2).trans (c5 r hr))))
theorem dq_addLast (hd : 5 ≤ d) (A : DQ h p arr cap a n it) (hn : n ≤ 200) (hc0 : 17 ≤ cap) {q k : Nat} {fs : List Value} (hq : h.1 q = .inr (k, fs)) (hk : k ∈ ax_objs) : Ok (ax_c d 149 [.ref p, .ref q] h) (.inl none) (fun h' => ∃ arr' cap' a', DQ h' p arr' cap' a' (n + 1) (fun i => if i = n then q else it i) ∧ 17 ≤ cap' ∧ (arr' = arr ∨ arr' = 400 + h.2.1) ∧ (h.2.1 ≤ h'.2.1 ∧ h.2.2 ≤ h'.2.2 ∧ h'.2.1 + cap ≤ h.2.1 + cap' ∧ h'.2.2 + 4 * cap ≤ h.2.2 + 4 * cap' ∧ cap ≤ cap') ∧ ∀ r, r < 400 + h.2.1 → r ≠ p → r ≠ arr → h'.1 r = h.1 r) := by
  have hap := A.ne
  obtain ⟨a1, ⟨f, a2, a3, a4⟩, a5, a6, a7, a8, a9, a10, a11⟩ := A
  obtain ⟨d, rfl, he⟩ := d_succ hd
  have hl := dqi_lt a5 (Nat.le_of_lt a6)
  refine Ok.le (m_J5_addLast rfl) ?_
  have o1 := (set_ne (h := h) (o := arr) (.inl (4, cap, objs (va_up f (dqi cap a n) (some q)))) (Ne.symm hap)).trans a1
  rw [nul_ref, gA_r a1 rfl rfl, Option.bind_some, gI_at a1 rfl rfl, Option.bind_some, sA_at a2 a10 hq hk, ix_of rfl hl (by omega), Option.bind_some, Option.bind_some, gI_at o1 rfl rfl, Option.bind_some, gI_at o1 rfl rfl, Option.bind_some, len_at (set_eq _), Option.bind_some, dq_inc (by omega) hl a7, cI_v, dqi_inc a5 a6, pF_int o1 rfl (Nat.le_of_ble_eq_true rfl) a8, Option.bind_some]
  have g1 : ∀ i, i < n + 1 → va_up f (dqi cap a n) (some q) (dqi cap a i) = some (if i = n then q else it i) := by
    intro i hi
    show (if dqi cap a i = dqi cap a n then some q else f (dqi cap a i)) = _
    by_cases w : i = n
    · rw [w, if_pos rfl, if_pos rfl]
    · rw [if_neg w, if_neg, a3 i (by omega)]
      intro z
      exact w (dqi_inj a5 (by omega) (by omega) z)
  by_cases w : n + 1 = cap
  · have ew : dqi cap a (n + 1) = a := by
      unfold dqi
      rw [if_neg (by omega)]
      omega
    rw [ew, if_neg (fun z => z rfl), vn_at (set_eq _)]
    show Ok (Option.bind (some 151) _) _ _
    rw [Option.bind_some]
    refine Ok.V (dq_grow (cap := cap) (a := a) (arr := arr) (it := fun i => if i = n then q else it i) (by omega) (set_eq _) ((set_ne _ hap).trans (set_eq _)) (fun i hi => g1 i (by omega)) a5 hc0 (by omega) a8 a9 a10 a11) ?_
    rintro h' ⟨cap', a', x1, x2, ⟨x3, x31⟩, x4⟩
    rw [← w] at x1
    have x7 := x1.2.2.2.2.1
    refine Ok.ret ⟨_, cap', a', x1, ?_, Or.inr rfl, ?_, ?_⟩
    · have := x1.2.2.2.1
      omega
    · have x2' : h'.2.1 = h.2.1 + 1 := x2
      have x3' : h'.2.2 = h.2.2 + cap' := x3
      have := x1.2.2.2.1
      exact ⟨by omega, by omega, by omega, by omega, by omega⟩
    · exact fun r hr hr1 hr2 => (x4 r hr hr1).trans ((set_ne _ hr1).trans (set_ne _ hr2))
  · have hne : ¬ Int32.ofNat a = Int32.ofNat (dqi cap a (n + 1)) := by
      intro z
      have hl2 := dqi_lt (i := n + 1) a5 (by omega)
      have := (i_eq (by omega) (by omega)).mp z
      unfold dqi at this
      split at this <;> omega
    rw [if_pos hne]
    refine Ok.ret ⟨arr, cap, a, ⟨(set_eq _).trans rfl, ⟨_, (set_ne _ hap).trans (set_eq _), g1, fun j hj hh => ?_⟩, a5, by omega, a7, a8, a9, a10, a11⟩, hc0, Or.inl rfl, ⟨Nat.le_refl _, Nat.le_refl _, Nat.le_refl _, Nat.le_refl _, Nat.le_refl _⟩, fun r _ hr1 hr2 => (set_ne _ hr1).trans (set_ne _ hr2)⟩
    show (if j = dqi cap a n then some q else f j) = none
    rw [if_neg (hh n (by omega))]
    exact a4 j hj fun i hi => hh i (by omega)
/-- the iterator at b has gone through the last n - j -/
def DI (h : ax_H) (b p cap a j : Nat) : Prop := ∃ x : Int32, h.1 b = .inr (10, [.int (Int32.ofNat (if dqi cap a j = 0 then cap - 1 else dqi cap a j - 1)), .int (Int32.ofNat j), .int x, .ref p, .ref p])
theorem di_init (hd : 5 ≤ d) (A : DQ h p arr cap a n it) : Ok (ax_c d 160 [.ref p] h) (.inl (some (.ref (400 + h.2.1)))) (fun h' => DI h' (400 + h.2.1) p cap a n ∧ h'.2.1 = h.2.1 + 1 ∧ h'.2.2 = h.2.2 + 5 ∧ ∀ r, r < 400 + h.2.1 → h'.1 r = h.1 r) := by
  have hap := A.ne
  have A0 := A
  obtain ⟨a1, ⟨f, a2, a3, a4⟩, a5, a6, a7, a8, a9, a10, a11⟩ := A
  obtain ⟨d, rfl, he⟩ := d_succ hd
  have hl := dqi_lt a5 (Nat.le_of_lt a6)
  refine Ok.le m_J5_descendingIterator ?_
  rw [nw_at]
  have pb : p ≠ 400 + h.2.1 := by omega
  have ab : arr ≠ 400 + h.2.1 := by omega
  refine Ok.V (P := fun h' => DI h' (400 + h.2.1) p cap a n ∧ h'.2.1 = h.2.1 + 1 ∧ h'.2.2 = h.2.2 + 5 ∧ ∀ r, r < 400 + h.2.1 → h'.1 r = h.1 r) ?_ (fun h' p' => Ok.ret p')
  obtain ⟨d2, rfl, he2⟩ := d_succ he
  refine Ok.le (m_J29_init rfl) ?_
  rw [pF_oref (new_eq _ _) rfl (Nat.le_of_ble_eq_true rfl) (by omega), Option.bind_some]
  obtain ⟨h1, eh1⟩ : ∃ h1, h1 = ax_set (ax_new h (.inr (10, [.int 0, .int 0, .int 0, .null, .null])) 5) (400 + h.2.1) (.inr (10, [.int 0, .int 0, .int 0, .null, .ref p])) := ⟨_, rfl⟩
  show Ok (dx_cV (ax_c d2 93 _ (ax_set (ax_new h (.inr (10, [.int 0, .int 0, .int 0, .null, .null])) 5) (400 + h.2.1) (.inr (10, [.int 0, .int 0, .int 0, .null, .ref p])))) _ _) _ _
  rw [← eh1]
  have A1 : DQ h1 p arr cap a n it := A0.mono (by rw [eh1]; exact (set_ne _ pb).trans (new_ne _ _ pb)) (by rw [eh1]; exact (set_ne _ ab).trans (new_ne _ _ ab)) (by rw [eh1]; exact Nat.le_succ _)
  have b1 : h1.1 (400 + h.2.1) = .inr (10, [.int 0, .int 0, .int 0, .null, .ref p]) := by rw [eh1]; exact set_eq _
  have b2 : h1.2.1 = h.2.1 + 1 := by rw [eh1]; rfl
  have b3 : h1.2.2 = h.2.2 + 5 := by rw [eh1]; rfl
  have b4 : ∀ r, r < 400 + h.2.1 → h1.1 r = h.1 r := fun r hr => by rw [eh1]; exact (set_ne _ (by omega)).trans (new_ne _ _ (by omega))
  clear eh1
  have e93 : Ok (ax_c d2 93 [.ref (400 + h.2.1), .ref p] h1) (.inl none) (fun h' => h'.1 (400 + h.2.1) = .inr (10, [.int (Int32.ofNat a), .int (Int32.ofNat n), .int (-1), .ref p, .ref p]) ∧ Ex (fun q => q = 400 + h.2.1) h1 h') := by
    obtain ⟨d3, rfl, he3⟩ := d_succ he2
    refine Ok.le (m_J28_init rfl) ?_
    rw [pF_oref b1 rfl (Nat.le_of_ble_eq_true rfl) (by omega), Option.bind_some, nn_ref, gA_r (set_eq _) rfl rfl, Option.bind_some]
    have A2 : DQ (ax_set h1 (400 + h.2.1) (.inr (10, [.int 0, .int 0, .int 0, .null, .ref p].set 3 (.ref p)))) p arr cap a n it := A1.mono (set_ne _ pb) (set_ne _ ab) (Nat.le_refl _)
    rw [vn_at A2.1]
    show Ok (Option.bind (some 143) _) _ _
    rw [Option.bind_some, dq_size (by omega) A2, cI_v, pF_int (set_eq _) rfl (Nat.le_of_ble_eq_true rfl) (by omega), Option.bind_some, pF_int (set_eq _) rfl (Nat.le_of_ble_eq_true rfl) (by omega), Option.bind_some, gI_at ((set_ne _ pb).trans ((set_ne _ pb).trans A2.1)) rfl rfl, Option.bind_some, pF_int (set_eq _) rfl (Nat.le_of_ble_eq_true rfl) (by omega), Option.bind_some]
    exact Ok.ret ⟨(set_eq _).trans rfl, Ex.set1.tr (Ex.set1.tr (Ex.set1.tr Ex.set1))⟩
  refine Ok.V e93 ?_
  rintro h2 ⟨x1, x2⟩
  have A3 : DQ h2 p arr cap a n it := A1.mono (x2.2 _ pb) (x2.2 _ ab) (by rw [x2.1]; exact Nat.le_refl _)
  obtain ⟨c1, ⟨f3, c2, c3, c4⟩, -⟩ := A3
  rw [gI_at c1 rfl rfl, Option.bind_some, gA_r c1 rfl rfl, Option.bind_some, len_at c2, Option.bind_some, dq_dec (by omega) hl a7, cI_v, pF_int x1 rfl (Nat.le_of_ble_eq_true rfl) (by omega), Option.bind_some]
  refine Ok.ret ⟨⟨-1, (set_eq _).trans rfl⟩, by show h2.2.1 = _; rw [x2.1]; exact b2, by show h2.2.2 = _; rw [x2.1]; exact b3, fun r hr => (set_ne _ (by omega)).trans ((x2.2 r (by omega)).trans (b4 r hr))⟩
theorem di_hasNext (hd : 1 ≤ d) {b j : Nat} (I : DI h b p cap a j) (hj : j < 1000) : ax_c d 92 [.ref b] h = some (.inl (some (.int (if j = 0 then 0 else 1))), h) := by
  obtain ⟨d, rfl, he⟩ := d_succ hd
  obtain ⟨x, I⟩ := I
  refine dx_app m_J28_hasNext ?_
  rw [gI_at I rfl rfl, Option.bind_some]
  by_cases q : j = 0
  · subst q
    rw [if_pos (by decide), if_pos rfl]
  · rw [if_neg (fun z => by have := (i_le (b := 0) (by omega) (by omega)).mp z; omega), if_neg q]
theorem di_next (hd : 2 ≤ d) (A : DQ h p arr cap a n it) {b j : Nat} (h4 : 400 ≤ b) (I : DI h b p cap a (j + 1)) (hj : j < n) : Ok (ax_c d 94 [.ref b] h) (.inl (some (.ref (it j)))) (fun h' => DI h' b p cap a j ∧ Ex (fun q => q = b) h h') := by
  obtain ⟨a1, ⟨f, a2, a3, a4⟩, a5, a6, a7, a8, a9, a10, a11⟩ := A
  obtain ⟨d, rfl, he⟩ := d_succ hd
  obtain ⟨x, I⟩ := I
  rw [dqi_dec a5 (by omega)] at I
  have hl := dqi_lt (i := j) a5 (by omega)
  have bp : p ≠ b := by
    intro z
    rw [z, I] at a1
    cases a1
  have ba : arr ≠ b := by
    intro z
    rw [z, I] at a2
    cases a2
  have e145 : ax_c d 145 [.ref arr, .int (Int32.ofNat (dqi cap a j))] h = some (.inl (some (.ref (it j))), h) := by
    obtain ⟨d2, rfl, he2⟩ := d_succ (k := 0) he
    refine dx_app (m_J5_nonNullElementAt rfl) ?_
    rw [lA_at a2, ix_of rfl hl (by omega), Option.bind_some, Option.bind_some, a3 j hj]
    exact nul_ref
  refine Ok.le m_J29_next ?_
  rw [gI_at I rfl rfl, Option.bind_some, if_pos (i_pos (by omega) (by omega)), gA_r I rfl rfl, Option.bind_some, gA_r a1 rfl rfl, Option.bind_some, gI_at I rfl rfl, Option.bind_some, e145, cR_r, gI_at I rfl rfl, Option.bind_some, pF_int I rfl (Nat.le_of_ble_eq_true rfl) h4, Option.bind_some, len_at ((set_ne _ ba).trans a2), Option.bind_some, dq_dec he hl a7, cI_v, pF_int (set_eq _) rfl (Nat.le_of_ble_eq_true rfl) h4, Option.bind_some, gI_at (set_eq _) rfl rfl, Option.bind_some, pF_int (set_eq _) rfl (Nat.le_of_ble_eq_true rfl) h4, Option.bind_some]
  refine Ok.ret ⟨⟨Int32.ofNat (dqi cap a j), (set_eq _).trans ?_⟩, Ex.set1.tr (Ex.set1.tr Ex.set1)⟩
  rw [show Int32.ofNat (j + 1) - 1 = Int32.ofNat (j + 1 - 1) from i_sub (b := 1) (by omega), Nat.add_sub_cancel]
  rfl
end DQA
