/-! the twin's tests: drafting, adding, results, the mark -/
/- with TTW TT1 TT1.cong tsG inI_val inI_1 i_key wrF wrS nwT -/
section TAT
variable {T n m : Nat} {q : Nat → tst} {f g : Nat → Int32} {x y z w : Int32} {s s' : Nat → Nat → Int32} {d : Nat}
theorem t_testKey29 {e : Int32} (he : e ≠ 0) (hd : 1 ≤ d) (h : ax_H) : B_X3_testKey_29 (ax_c d) 417 e 417 x (tw_H h s) = some (.inl (some (.int 0)), tw_H h (tw_up s 0 0 e)) := by
  refine dx_app b_X3_testKey_29 ?_
  rw [tw_vn, Option.bind_some, t_holds hd, cI_v, if_neg he, if_neg (fun z => z rfl)]
theorem t_testKey_bad (hx : inI x 0 65535 = 0) (hd : 2 ≤ d) (h : ax_H) : ax_c d 483 [.ref 417, .int x] (tw_H h s) = some (.inl (some (.int 0)), tw_H h (tw_up s 0 0 1)) := by
  obtain ⟨d, rfl, he⟩ := d_succ hd
  refine dx_app m_X3_testKey ?_
  rw [t_in he, cI_v, if_neg (fun z => z hx)]
  exact t_testKey29 (by decide) he h
theorem t_testKey_full (hx : inI x 0 65535 ≠ 0) (h58 : s 58 0 = 6) (hd : 2 ≤ d) (h : ax_H) : ax_c d 483 [.ref 417, .int x] (tw_H h s) = some (.inl (some (.int 0)), tw_H h (tw_up s 0 0 2)) := by
  obtain ⟨d, rfl, he⟩ := d_succ hd
  refine dx_app m_X3_testKey ?_
  rw [t_in he, cI_v, if_pos hx, tg_58, Option.bind_some, if_neg (fun z => z h58)]
  exact t_testKey29 (by decide) he h
theorem t_testKey_yes (hx : inI x 0 65535 ≠ 0) (h58 : s 58 0 = Int32.ofNat n) (hn : n < 6) (hd : 2 ≤ d) (h : ax_H) : ax_c d 483 [.ref 417, .int x] (tw_H h s) = some (.inl (some (.int (Int32.ofNat (n + 1)))), tw_H h (tw_up (tw_up (tw_up s 0 0 0) 56 n x) 58 0 (Int32.ofNat (n + 1)))) := by
  obtain ⟨d, rfl, he⟩ := d_succ hd
  refine dx_app m_X3_testKey ?_
  have n6 : ¬ Int32.ofNat n = 6 := fun z => by have := (i_eq (b := 6) (by omega) (by omega)).mp z; omega
  rw [t_in he, cI_v, if_pos hx, tg_58, Option.bind_some, h58, if_pos n6]
  refine dx_app b_X3_testKey_29 ?_
  rw [tw_vn, Option.bind_some, t_holds he, cI_v, if_pos rfl, if_pos (by decide), tr_56, Option.bind_some, tg_58, Option.bind_some, show tw_up s 0 0 0 58 0 = Int32.ofNat n from h58, ts_56, ix_of (n := 6) (k := n) rfl hn (by omega), Option.bind_some, Option.bind_some, tg_58, Option.bind_some, show tw_up (tw_up s 0 0 0) 56 n x 58 0 = Int32.ofNat n from h58, show Int32.ofNat n + 1 = Int32.ofNat (n + 1) from i_add n 1, tp_58, Option.bind_some, tg_58, Option.bind_some]
  rfl
theorem t_testWord29 {e : Int32} (he : e ≠ 0) (hd : 1 ≤ d) (h : ax_H) : B_X3_testWord_29 (ax_c d) 417 e 417 x (tw_H h s) = some (.inl (some (.int 0)), tw_H h (tw_up s 0 0 e)) := by
  refine dx_app b_X3_testWord_29 ?_
  rw [tw_vn, Option.bind_some, t_holds hd, cI_v, if_neg he, if_neg (fun z => z rfl)]
theorem t_testWord_bad (hx : inI x 0 65535 = 0) (hd : 2 ≤ d) (h : ax_H) : ax_c d 484 [.ref 417, .int x] (tw_H h s) = some (.inl (some (.int 0)), tw_H h (tw_up s 0 0 1)) := by
  obtain ⟨d, rfl, he⟩ := d_succ hd
  refine dx_app m_X3_testWord ?_
  rw [t_in he, cI_v, if_neg (fun z => z hx)]
  exact t_testWord29 (by decide) he h
theorem t_testWord_full (hx : inI x 0 65535 ≠ 0) (h59 : s 59 0 = 6) (hd : 2 ≤ d) (h : ax_H) : ax_c d 484 [.ref 417, .int x] (tw_H h s) = some (.inl (some (.int 0)), tw_H h (tw_up s 0 0 2)) := by
  obtain ⟨d, rfl, he⟩ := d_succ hd
  refine dx_app m_X3_testWord ?_
  rw [t_in he, cI_v, if_pos hx, tg_59, Option.bind_some, if_neg (fun z => z h59)]
  exact t_testWord29 (by decide) he h
theorem t_testWord_yes (hx : inI x 0 65535 ≠ 0) (h59 : s 59 0 = Int32.ofNat n) (hn : n < 6) (hd : 2 ≤ d) (h : ax_H) : ax_c d 484 [.ref 417, .int x] (tw_H h s) = some (.inl (some (.int (Int32.ofNat (n + 1)))), tw_H h (tw_up (tw_up (tw_up s 0 0 0) 57 n x) 59 0 (Int32.ofNat (n + 1)))) := by
  obtain ⟨d, rfl, he⟩ := d_succ hd
  refine dx_app m_X3_testWord ?_
  have n6 : ¬ Int32.ofNat n = 6 := fun z => by have := (i_eq (b := 6) (by omega) (by omega)).mp z; omega
  rw [t_in he, cI_v, if_pos hx, tg_59, Option.bind_some, h59, if_pos n6]
  refine dx_app b_X3_testWord_29 ?_
  rw [tw_vn, Option.bind_some, t_holds he, cI_v, if_pos rfl, if_pos (by decide), tr_57, Option.bind_some, tg_59, Option.bind_some, show tw_up s 0 0 0 59 0 = Int32.ofNat n from h59, ts_57, ix_of (n := 6) (k := n) rfl hn (by omega), Option.bind_some, Option.bind_some, tg_59, Option.bind_some, show tw_up (tw_up s 0 0 0) 57 n x 59 0 = Int32.ofNat n from h59, show Int32.ofNat n + 1 = Int32.ofNat (n + 1) from i_add n 1, tp_59, Option.bind_some, tg_59, Option.bind_some]
  rfl
theorem t_result_bad (hx : inI x 0 (s 60 0 - 1) = 0) (hd : 2 ≤ d) (h : ax_H) : ax_c d 490 [.ref 417, .int x] (tw_H h s) = some (.inl (some (.int 0)), tw_H h (tw_up s 0 0 1)) := by
  obtain ⟨d, rfl, he⟩ := d_succ hd
  refine dx_app m_X3_result ?_
  rw [tg_60, Option.bind_some, t_in he, cI_v, if_pos hx]
  refine dx_app b_X3_result_20 ?_
  rw [tw_vn, Option.bind_some, t_holds he, cI_v, if_neg (show ¬ (1 : Int32) = 0 by decide), if_pos rfl]
theorem t_result (h60 : s 60 0 = Int32.ofNat T) (hT : T ≤ 5) {k : Nat} (hk : k < T) (hd : 2 ≤ d) (h : ax_H) : ax_c d 490 [.ref 417, .int (Int32.ofNat k)] (tw_H h s) = some (.inl (some (.int (s 69 k))), tw_H h (tw_up s 0 0 0)) := by
  obtain ⟨d, rfl, he⟩ := d_succ hd
  refine dx_app m_X3_result ?_
  rw [tg_60, Option.bind_some, h60, show Int32.ofNat T - 1 = Int32.ofNat (T - 1) from i_sub (b := 1) (by omega), t_in he, cI_v, if_neg (show ¬ inI (Int32.ofNat k) 0 (Int32.ofNat (T - 1)) = 0 from (inI_val (lo := 0) (by omega) (by omega)).mpr ⟨k, Nat.zero_le _, by omega, rfl⟩)]
  refine dx_app b_X3_result_20 ?_
  rw [tw_vn, Option.bind_some, t_holds he, cI_v, if_pos rfl, if_neg (by decide), tr_69, Option.bind_some, tl_69, ix_of (n := 5) (k := k) rfl (by omega) (by omega), Option.bind_some, Option.bind_some]
  rfl
theorem half_neg : ∀ k, k < 21 → -(Int32.ofNat k + 1) / 2 = -((Int32.ofNat k + 1) / 2) := by decide +kernel
theorem t_mark9 (W : TTW T q s) (h : ax_H) : ∀ m t, t + m = T → B_X3_mark_9 (ax_c d) 417 (wrS q t) (Int32.ofNat t) (tw_H h s) = some (.inl (some (.int (if (0 : Int32) ≤ wrS q T then wrS q T else 0))), tw_H h s) := by
  obtain ⟨w1, w2, w3⟩ := W
  intro m
  induction m with
  | zero =>
    intro t ht
    obtain rfl : t = T := by omega
    refine dx_app b_X3_mark_9 ?_
    rw [tg_60, Option.bind_some, w1, if_pos (Int32.le_refl _)]
    by_cases e : (0 : Int32) ≤ wrS q t
    · rw [if_pos e, if_pos e]
    · rw [if_neg e, if_neg e]
  | succ m ih =>
    intro t ht
    refine dx_app b_X3_mark_9 ?_
    have i5 : ix 5 (Int32.ofNat t) = some t := ix_of rfl (by omega) (by omega)
    obtain ⟨⟨g1, g2, g3, g4, g5, g6, g7⟩, a62, a61, a64, a63, a65, a66, a67, a68, a69, a70⟩ := w3 t (by omega)
    have nx := ih (t + 1) (by omega)
    have e : wrS q (t + 1) = wrS q t + wrF (q t) := rfl
    rw [e] at nx
    unfold wrF at nx
    have i1 : Int32.ofNat t + 1 = Int32.ofNat (t + 1) := i_add t 1
    rw [tg_60, Option.bind_some, w1, if_neg (i_ge_not (by omega) (by omega))]
    simp only [tr_69, tl_69, tr_70, tl_70, tr_67, tl_67, i5, a69, a70, a67, Option.bind_some, lt_at, i1]
    by_cases e0 : (q t).2.2.2.2.2.2.1 = 0
    · rw [if_neg (fun z => z e0)]
      rw [if_pos e0] at nx
      exact nx
    · rw [if_pos e0]
      rw [if_neg e0] at nx
      by_cases e1 : (q t).2.2.2.2.2.2.1 = -1
      · rw [if_pos e1]
        rw [if_pos e1] at nx
        exact nx
      · rw [if_neg e1]
        rw [if_neg e1] at nx
        rcases g7 with y | y
        · rw [if_pos y] at nx
          rw [if_neg (show ¬ ((q t).2.2.2.2.2.2.2 = 1 ∨ (q t).2.2.2.2.2.2.1 = 0) from fun z => z.elim (fun z => by rw [y] at z; exact absurd z (by decide)) e0), if_pos rfl]
          exact nx
        · rw [if_neg (show ¬ (q t).2.2.2.2.2.2.2 = 0 from fun z => by rw [y] at z; exact absurd z (by decide))] at nx
          obtain ⟨k, k1, k2⟩ : ∃ k, k < 21 ∧ (q t).2.2.2.2.1 = Int32.ofNat k := ⟨_, Nat.lt_succ_of_le (rg.nat g6).1, (rg.nat g6).2⟩
          rw [k2, half_neg k k1] at nx
          rw [if_pos (Or.inl y), if_neg (show ¬ (1 : Int32) = 0 by decide), k2]
          exact nx
theorem t_mark (W : TTW T q s) (hd : 1 ≤ d) (h : ax_H) : ax_c d 491 [.ref 417] (tw_H h s) = some (.inl (some (.int (dx_max 0 (wrS q T)))), tw_H h (tw_up s 0 0 0)) := by
  obtain ⟨d, rfl, he⟩ := d_succ hd
  refine dx_app m_X3_mark ?_
  have W' : TTW T q (tw_up s 0 0 0) := ⟨W.1, W.2.1, fun t ht => ⟨(W.2.2 t ht).1, (W.2.2 t ht).2.cong fun f f1 f2 => by rw [tw_up_at, if_neg (by omega)]⟩⟩
  have e := t_mark9 (d := d) W' h T 0 (by omega)
  rw [tp_0, Option.bind_some]
  have f : dx_max 0 (wrS q T) = if (0 : Int32) ≤ wrS q T then wrS q T else 0 := by
    show (if (0 : Int32) < wrS q T then wrS q T else 0) = _
    by_cases a : (0 : Int32) < wrS q T
    · rw [if_pos a, if_pos (Int32.le_of_lt a)]
    · rw [if_neg a]
      by_cases b : (0 : Int32) ≤ wrS q T
      · rw [if_pos b]; exact Int32.le_antisymm b (Int32.not_lt.mp a)
      · rw [if_neg b]
  rw [f]
  exact e
theorem t_addTest73 {e : Int32} (he : e ≠ 0) (hd : 1 ≤ d) (h : ax_H) : B_X3_addTest_73 (ax_c d) 417 e 417 x y z w (tw_H h s) = some (.inl (some (.int 0)), tw_H h (tw_up s 0 0 e)) := by
  refine dx_app b_X3_addTest_73 ?_
  rw [tw_vn, Option.bind_some, t_holds hd, cI_v, if_neg he, if_neg (fun z => z rfl)]
theorem t_addTest_bad (hx : inI x 1 500 = 0 ∨ inI y 0 100 = 0 ∨ inI z 1 20 = 0 ∨ inI w 0 500 = 0) (hd : 2 ≤ d) (h : ax_H) : ax_c d 485 [.ref 417, .int x, .int y, .int z, .int w] (tw_H h s) = some (.inl (some (.int 0)), tw_H h (tw_up s 0 0 1)) := by
  obtain ⟨d, rfl, he⟩ := d_succ hd
  refine dx_app m_X3_addTest ?_
  have b48 : B_X3_addTest_48 (ax_c d) 0 417 x y z w (tw_H h s) = some (.inl (some (.int 0)), tw_H h (tw_up s 0 0 1)) := by
    refine dx_app b_X3_addTest_48 ?_
    rw [if_neg (fun z => z rfl)]
    exact t_addTest73 (by decide) he h
  rw [t_in he, cI_v]
  by_cases e1 : inI x 1 500 = 0
  · rw [if_pos e1]; exact b48
  · rw [if_neg e1, t_in he, cI_v]
    by_cases e2 : inI y 0 100 = 0
    · rw [if_pos e2]; exact b48
    · rw [if_neg e2, t_in he, cI_v]
      by_cases e3 : inI z 1 20 = 0
      · rw [if_pos e3]; exact b48
      · rw [if_neg e3, t_in he, cI_v, if_pos]
        · exact b48
        · rcases hx with e | e | e | e
          · exact absurd e e1
          · exact absurd e e2
          · exact absurd e e3
          · exact e
theorem t_addTest_full (hx : inI x 1 500 ≠ 0 ∧ inI y 0 100 ≠ 0 ∧ inI z 1 20 ≠ 0 ∧ inI w 0 500 ≠ 0) (h60 : s 60 0 = 5) (hd : 2 ≤ d) (h : ax_H) : ax_c d 485 [.ref 417, .int x, .int y, .int z, .int w] (tw_H h s) = some (.inl (some (.int 0)), tw_H h (tw_up s 0 0 2)) := by
  obtain ⟨d, rfl, he⟩ := d_succ hd
  refine dx_app m_X3_addTest ?_
  rw [t_in he, cI_v, if_neg hx.1, t_in he, cI_v, if_neg hx.2.1, t_in he, cI_v, if_neg hx.2.2.1, t_in he, cI_v, if_neg hx.2.2.2]
  refine dx_app b_X3_addTest_48 ?_
  rw [if_pos (by decide), tg_60, Option.bind_some, if_neg (fun z => z h60)]
  exact t_addTest73 (by decide) he h
/-- the rows of a new test but for what was drafted -/
def adA (s : Nat → Nat → Int32) (T : Nat) (x y z w : Int32) : Nat → Nat → Int32 := tw_up (tw_up (tw_up (tw_up (tw_up (tw_up (tw_up (tw_up s 0 0 0) 65 T x) 66 T y) 67 T z) 68 T w) 69 T (-1)) 62 T (s 58 0)) 64 T (s 59 0)
theorem t_addTest161 {u : Nat → Nat → Int32} (hT : T < 5) (u60 : u 60 0 = Int32.ofNat T) (h : ax_H) : ∀ m k, k + m = 6 → ∀ s1 : Nat → Nat → Int32, (∀ f, f ≠ 61 → f ≠ 63 → s1 f = u f) → (∀ j, s1 61 j = if 6 * T ≤ j ∧ j < 6 * T + k then u 56 (j - 6 * T) else u 61 j) → (∀ j, s1 63 j = if 6 * T ≤ j ∧ j < 6 * T + k then u 57 (j - 6 * T) else u 63 j) → ∃ s', B_X3_addTest_161 (ax_c d) 417 (Int32.ofNat k) (tw_H h s1) = some (.inl (some (.int (Int32.ofNat T))), tw_H h s') ∧ (∀ f, f ≠ 58 → f ≠ 59 → f ≠ 60 → f ≠ 61 → f ≠ 63 → s' f = u f) ∧ s' 58 0 = 0 ∧ s' 59 0 = 0 ∧ s' 60 0 = Int32.ofNat (T + 1) ∧ (∀ j, s' 61 j = if 6 * T ≤ j ∧ j < 6 * T + 6 then u 56 (j - 6 * T) else u 61 j) ∧ (∀ j, s' 63 j = if 6 * T ≤ j ∧ j < 6 * T + 6 then u 57 (j - 6 * T) else u 63 j) := by
  intro m
  induction m with
  | zero =>
    intro k hk s1 h1 h61 h63
    obtain rfl : k = 6 := by omega
    refine ⟨tw_up (tw_up (tw_up s1 58 0 0) 59 0 0) 60 0 (Int32.ofNat (T + 1)), dx_app b_X3_addTest_161 ?_, fun f f1 f2 f3 f4 f5 => ?_, rfl, rfl, rfl, fun j => ?_, fun j => ?_⟩
    · rw [if_pos (by decide), tp_58, Option.bind_some, tp_59, Option.bind_some, tg_60, Option.bind_some, show tw_up (tw_up s1 58 0 0) 59 0 0 60 0 = Int32.ofNat T from by rw [tw_up_at, if_neg (by decide), tw_up_at, if_neg (by decide), h1 60 (by decide) (by decide)]; exact u60, show Int32.ofNat T + 1 = Int32.ofNat (T + 1) from i_add T 1, tp_60, Option.bind_some, tg_60, Option.bind_some, show tw_up (tw_up (tw_up s1 58 0 0) 59 0 0) 60 0 (Int32.ofNat (T + 1)) 60 0 = Int32.ofNat (T + 1) from rfl, show Int32.ofNat (T + 1) - 1 = Int32.ofNat (T + 1 - 1) from i_sub (b := 1) (by omega), Nat.add_sub_cancel]
    · rw [tw_up_at, if_neg f3, tw_up_at, if_neg f2, tw_up_at, if_neg f1]; exact h1 f f4 f5
    · exact h61 j
    · exact h63 j
  | succ m ih =>
    intro k hk s1 h1 h61 h63
    have iT : ix 30 (6 * Int32.ofNat T + Int32.ofNat k) = some (6 * T + k) := ix_of (by rw [show (6 : Int32) * Int32.ofNat T = Int32.ofNat (6 * T) from i_mul 6 T, i_add]) (by omega) (by omega)
    have i6 : ix 6 (Int32.ofNat k) = some k := ix_of rfl (by omega) (by omega)
    obtain ⟨s2, hs2⟩ : ∃ s2, s2 = tw_up (tw_up s1 61 (6 * T + k) (u 56 k)) 63 (6 * T + k) (u 57 k) := ⟨_, rfl⟩
    obtain ⟨s', a1, a2⟩ := ih (k + 1) (by omega) s2 (fun f f1 f2 => by rw [hs2, tw_up_at, if_neg f2, tw_up_at, if_neg f1]; exact h1 f f1 f2) (fun j => by
      rw [hs2, tw_up_at, if_neg (by decide), tw_up_at, if_pos rfl, upd_at]
      by_cases e : j = 6 * T + k
      · rw [if_pos e, if_pos (by omega), e, Nat.add_sub_cancel_left]
      · rw [if_neg e, h61 j]
        by_cases z : 6 * T ≤ j ∧ j < 6 * T + k
        · rw [if_pos z, if_pos (by omega)]
        · rw [if_neg z, if_neg (by omega)]) (fun j => by
      rw [hs2, tw_up_at, if_pos rfl, upd_at, show tw_up s1 61 (6 * T + k) (u 56 k) 63 = s1 63 from rfl]
      by_cases e : j = 6 * T + k
      · rw [if_pos e, if_pos (by omega), e, Nat.add_sub_cancel_left]
      · rw [if_neg e, h63 j]
        by_cases z : 6 * T ≤ j ∧ j < 6 * T + k
        · rw [if_pos z, if_pos (by omega)]
        · rw [if_neg z, if_neg (by omega)])
    refine ⟨s', dx_app b_X3_addTest_161 ?_, a2⟩
    have e60 : s1 60 0 = Int32.ofNat T := by rw [h1 60 (by decide) (by decide)]; exact u60
    have e56 : s1 56 k = u 56 k := by rw [h1 56 (by decide) (by decide)]
    have e57 : s1 57 k = u 57 k := by rw [h1 57 (by decide) (by decide)]
    rw [if_neg (show ¬ (6 : Int32) ≤ Int32.ofNat k from i_ge_not (n := 6) (by omega) (by omega)), tr_61, Option.bind_some, tg_60, Option.bind_some, e60, tr_56, Option.bind_some, tl_56, i6, Option.bind_some, Option.bind_some, e56, ts_61, iT, Option.bind_some, Option.bind_some, tr_63, Option.bind_some, tg_60, Option.bind_some, show tw_up s1 61 (6 * T + k) (u 56 k) 60 0 = Int32.ofNat T from e60, tr_57, Option.bind_some, tl_57, i6, Option.bind_some, Option.bind_some, show tw_up s1 61 (6 * T + k) (u 56 k) 57 k = u 57 k from e57, ts_63, iT, Option.bind_some, Option.bind_some, lt_at, show Int32.ofNat k + 1 = Int32.ofNat (k + 1) from i_add k 1, ← hs2]
    exact a1
/-- drafts in the rows -/
def DRW (n m : Nat) (f g : Nat → Int32) (s : Nat → Nat → Int32) : Prop := s 58 0 = Int32.ofNat n ∧ s 59 0 = Int32.ofNat m ∧ n ≤ 6 ∧ m ≤ 6 ∧ (∀ k, k < n → s 56 k = f k) ∧ ∀ k, k < m → s 57 k = g k
theorem t_addTest_yes (W : TTW T q s) (Z : ∀ j, T ≤ j → s 70 j = 0) (D : DRW n m f g s) (fr : ∀ i, i < n → rg 65535 (f i)) {k l : Nat} (hx : inI x 1 500 ≠ 0 ∧ inI y 0 100 ≠ 0 ∧ inI z 1 20 ≠ 0 ∧ inI w 0 500 ≠ 0) (hk : x = Int32.ofNat k) (hk5 : k ≤ 500) (hl : w = Int32.ofNat l) (hl5 : l ≤ 500) (hz : rg 20 z) (hT : T < 5) (hd : 2 ≤ d) (h : ax_H) : ∃ s', ax_c d 485 [.ref 417, .int x, .int y, .int z, .int w] (tw_H h s) = some (.inl (some (.int (Int32.ofNat T))), tw_H h s') ∧ TTW (T + 1) (fun t => if t = T then nwT n m f g k y z l else q t) s' ∧ (∀ j, T + 1 ≤ j → s' 70 j = 0) ∧ DRW 0 0 f g s' ∧ s' 0 0 = 0 ∧ ∀ p, p ≠ 0 → p < 58 ∨ 70 ≤ p → s' p = s p := by
  obtain ⟨d, rfl, he⟩ := d_succ hd
  obtain ⟨w1, w2, w3⟩ := W
  obtain ⟨c1, c2, n6, m6, c3, c4⟩ := D
  obtain ⟨u, hu⟩ : ∃ u, u = adA s T x y z w := ⟨_, rfl⟩
  have ne : ∀ p, p ≠ 0 → p ≠ 62 → p ≠ 64 → p < 65 ∨ 70 ≤ p → u p = s p := fun p p0 p1 p2 p3 => by
    rw [hu]; unfold adA
    rw [tw_up_at, if_neg p2, tw_up_at, if_neg p1, tw_up_at, if_neg (by omega), tw_up_at, if_neg (by omega), tw_up_at, if_neg (by omega), tw_up_at, if_neg (by omega), tw_up_at, if_neg (by omega), tw_up_at, if_neg p0]
  have u60 : u 60 0 = Int32.ofNat T := by rw [ne 60 (by decide) (by decide) (by decide) (by decide)]; exact w1
  have i5 : ix 5 (Int32.ofNat T) = some T := ix_of rfl hT (by omega)
  obtain ⟨s', a1, a2, a58, a59, a60, a61, a63⟩ := t_addTest161 (d := d) hT u60 h 6 0 rfl u (fun _ _ _ => rfl) (fun j => by rw [if_neg (by omega)]) (fun j => by rw [if_neg (by omega)])
  refine ⟨s', dx_app m_X3_addTest ?_, ⟨a60, by omega, fun t ht => ?_⟩, fun j hj => ?_, ⟨a58, a59, by omega, by omega, fun i hi => absurd hi (Nat.not_lt_zero _), fun i hi => absurd hi (Nat.not_lt_zero _)⟩, ?_, fun p p0 hp => ?_⟩
  · rw [t_in he, cI_v, if_neg hx.1, t_in he, cI_v, if_neg hx.2.1, t_in he, cI_v, if_neg hx.2.2.1, t_in he, cI_v, if_neg hx.2.2.2]
    refine dx_app b_X3_addTest_48 ?_
    have T5 : ¬ Int32.ofNat T = 5 := fun z => by have := (i_eq (b := 5) (by omega) (by omega)).mp z; omega
    rw [if_pos (by decide), tg_60, Option.bind_some, w1, if_pos T5]
    refine dx_app b_X3_addTest_73 ?_
    rw [tw_vn, Option.bind_some, t_holds he, cI_v, if_pos rfl, if_pos (by decide)]
    rw [tr_65, Option.bind_some, tg_60, Option.bind_some, show tw_up s 0 0 0 60 0 = Int32.ofNat T from w1, ts_65, i5, Option.bind_some, Option.bind_some]
    rw [tr_66, Option.bind_some, tg_60, Option.bind_some, show tw_up (tw_up s 0 0 0) 65 T x 60 0 = Int32.ofNat T from w1, ts_66, i5, Option.bind_some, Option.bind_some]
    rw [tr_67, Option.bind_some, tg_60, Option.bind_some, show tw_up (tw_up (tw_up s 0 0 0) 65 T x) 66 T y 60 0 = Int32.ofNat T from w1, ts_67, i5, Option.bind_some, Option.bind_some]
    rw [tr_68, Option.bind_some, tg_60, Option.bind_some, show tw_up (tw_up (tw_up (tw_up s 0 0 0) 65 T x) 66 T y) 67 T z 60 0 = Int32.ofNat T from w1, ts_68, i5, Option.bind_some, Option.bind_some]
    rw [tr_69, Option.bind_some, tg_60, Option.bind_some, show tw_up (tw_up (tw_up (tw_up (tw_up s 0 0 0) 65 T x) 66 T y) 67 T z) 68 T w 60 0 = Int32.ofNat T from w1, ts_69, i5, Option.bind_some, Option.bind_some]
    rw [tr_62, Option.bind_some, tg_60, Option.bind_some, show tw_up (tw_up (tw_up (tw_up (tw_up (tw_up s 0 0 0) 65 T x) 66 T y) 67 T z) 68 T w) 69 T (-1) 60 0 = Int32.ofNat T from w1, tg_58, Option.bind_some, ts_62, i5, Option.bind_some, Option.bind_some]
    rw [tr_64, Option.bind_some, tg_60, Option.bind_some, show tw_up (tw_up (tw_up (tw_up (tw_up (tw_up (tw_up s 0 0 0) 65 T x) 66 T y) 67 T z) 68 T w) 69 T (-1)) 62 T _ 60 0 = Int32.ofNat T from w1, tg_59, Option.bind_some, ts_64, i5, Option.bind_some, Option.bind_some]
    rw [hu] at a1
    exact a1
  · by_cases e : t = T
    · dsimp only
      rw [if_pos e, e]
      have un : ∀ p, p ≠ 0 → p ≠ 58 → p ≠ 59 → p ≠ 60 → p ≠ 61 → p ≠ 63 → s' p = u p := fun p _ p1 p2 p3 p4 p5 => a2 p p1 p2 p3 p4 p5
      refine ⟨⟨n6, fun j hj => ?_, m6, hk5, hl5, hz, Or.inl rfl⟩, ?_, fun j hj => ?_, ?_, fun j hj => ?_, ?_, ?_, ?_, ?_, ?_, ?_⟩
      · have hj : j < n := hj
        show rg 65535 (if j < n then f j else 0)
        rw [if_pos hj]; exact fr j hj
      · rw [un 62 (by decide) (by decide) (by decide) (by decide) (by decide) (by decide), hu]
        show upd _ T (s 58 0) T = _
        rw [upd_eq]; exact c1
      · have hj : j < n := hj
        rw [a61, if_pos (by omega), Nat.add_sub_cancel_left, ne 56 (by decide) (by decide) (by decide) (by decide), c3 j hj]
        show f j = if j < n then f j else 0
        rw [if_pos hj]
      · rw [un 64 (by decide) (by decide) (by decide) (by decide) (by decide) (by decide), hu]
        show upd _ T (s 59 0) T = _
        rw [upd_eq]; exact c2
      · have hj : j < m := hj
        rw [a63, if_pos (by omega), Nat.add_sub_cancel_left, ne 57 (by decide) (by decide) (by decide) (by decide), c4 j hj]
        show g j = if j < m then g j else 0
        rw [if_pos hj]
      · rw [un 65 (by decide) (by decide) (by decide) (by decide) (by decide) (by decide), hu]
        show upd _ T x T = _
        rw [upd_eq]; exact hk
      · rw [un 66 (by decide) (by decide) (by decide) (by decide) (by decide) (by decide), hu]
        show upd _ T y T = _
        rw [upd_eq]; rfl
      · rw [un 67 (by decide) (by decide) (by decide) (by decide) (by decide) (by decide), hu]
        show upd _ T z T = _
        rw [upd_eq]; rfl
      · rw [un 68 (by decide) (by decide) (by decide) (by decide) (by decide) (by decide), hu]
        show upd _ T w T = _
        rw [upd_eq]; exact hl
      · rw [un 69 (by decide) (by decide) (by decide) (by decide) (by decide) (by decide), hu]
        show upd _ T (-1) T = _
        rw [upd_eq]; rfl
      · rw [un 70 (by decide) (by decide) (by decide) (by decide) (by decide) (by decide), ne 70 (by decide) (by decide) (by decide) (by decide), Z T (Nat.le_refl _)]
        rfl
    · dsimp only
      rw [if_neg e]
      have tl : t < T := by omega
      refine ⟨(w3 t tl).1, ?_⟩
      obtain ⟨b62, b61, b64, b63, b65, b66, b67, b68, b69, b70⟩ := (w3 t tl).2
      have un : ∀ p, p ≠ 58 → p ≠ 59 → p ≠ 60 → p ≠ 61 → p ≠ 63 → s' p = u p := a2
      refine ⟨?_, fun j hj => ?_, ?_, fun j hj => ?_, ?_, ?_, ?_, ?_, ?_, ?_⟩
      · rw [un 62 (by decide) (by decide) (by decide) (by decide) (by decide), hu]
        show upd _ T _ t = _
        rw [upd_ne _ _ e]; exact b62
      · have := (w3 t tl).1.1
        rw [a61, if_neg (by omega), ne 61 (by decide) (by decide) (by decide) (by decide)]; exact b61 j hj
      · rw [un 64 (by decide) (by decide) (by decide) (by decide) (by decide), hu]
        show upd _ T _ t = _
        rw [upd_ne _ _ e]; exact b64
      · have := (w3 t tl).1.2.2.1
        rw [a63, if_neg (by omega), ne 63 (by decide) (by decide) (by decide) (by decide)]; exact b63 j hj
      · rw [un 65 (by decide) (by decide) (by decide) (by decide) (by decide), hu]
        show upd _ T _ t = _
        rw [upd_ne _ _ e]; exact b65
      · rw [un 66 (by decide) (by decide) (by decide) (by decide) (by decide), hu]
        show upd _ T _ t = _
        rw [upd_ne _ _ e]; exact b66
      · rw [un 67 (by decide) (by decide) (by decide) (by decide) (by decide), hu]
        show upd _ T _ t = _
        rw [upd_ne _ _ e]; exact b67
      · rw [un 68 (by decide) (by decide) (by decide) (by decide) (by decide), hu]
        show upd _ T _ t = _
        rw [upd_ne _ _ e]; exact b68
      · rw [un 69 (by decide) (by decide) (by decide) (by decide) (by decide), hu]
        show upd _ T _ t = _
        rw [upd_ne _ _ e]; exact b69
      · rw [un 70 (by decide) (by decide) (by decide) (by decide) (by decide), ne 70 (by decide) (by decide) (by decide) (by decide)]; exact b70
  · rw [a2 70 (by decide) (by decide) (by decide) (by decide) (by decide), ne 70 (by decide) (by decide) (by decide) (by decide)]; exact Z j (by omega)
  · rw [a2 0 (by decide) (by decide) (by decide) (by decide) (by decide), hu]; rfl
  · rw [a2 p (by omega) (by omega) (by omega) (by omega) (by omega), ne p p0 (by omega) (by omega) (by omega)]
end TAT
