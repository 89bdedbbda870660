/-! the twin's lines -/
/- with lnD opG opI inI_1 t_adds_ok t_adds_bad t_adds_full -/
/-- lines in the rows -/
def TLW (n : Nat) (ls : Nat → lnD) (s : Nat → Nat → Int32) : Prop := s 1 0 = Int32.ofNat n ∧ n ≤ 100 ∧ ∀ t, t < n → s 2 t = Int32.ofNat (ls t).1 ∧ s 3 (5 * t) = (ls t).2.1 ∧ s 3 (5 * t + 1) = (ls t).2.2.1 ∧ s 3 (5 * t + 2) = (ls t).2.2.2.1 ∧ s 3 (5 * t + 3) = (ls t).2.2.2.2.1 ∧ s 3 (5 * t + 4) = (ls t).2.2.2.2.2
section TLS
variable {n : Nat} {ls : Nat → lnD} {l : lnD} {s s' : Nat → Nat → Int32} {x y z k m : Int32} {d : Nat} {h : ax_H}
theorem TLW.cong (T : TLW n ls s) (h : ∀ f, 1 ≤ f → f ≤ 3 → s' f = s f) : TLW n ls s' := by
  unfold TLW
  rw [h 1 (by omega) (by omega), h 2 (by omega) (by omega), h 3 (by omega) (by omega)]
  exact T
theorem lineS_T (T : TLW n ls s) (hn : n < 100) : TLW (n + 1) (fun t => if t = n then l else ls t) (lineS s n (Int32.ofNat l.1) l.2.1 l.2.2.1 l.2.2.2.1 l.2.2.2.2.1 l.2.2.2.2.2) ∧ (∀ f, f ≠ 0 → f ≠ 1 → f ≠ 2 → f ≠ 3 → lineS s n (Int32.ofNat l.1) l.2.1 l.2.2.1 l.2.2.2.1 l.2.2.2.2.1 l.2.2.2.2.2 f = s f) ∧ lineS s n (Int32.ofNat l.1) l.2.1 l.2.2.1 l.2.2.2.1 l.2.2.2.2.1 l.2.2.2.2.2 0 0 = 0 := by
  obtain ⟨t1, t2, t3⟩ := T
  refine ⟨⟨rfl, by omega, fun t ht => ?_⟩, fun f f0 f1 f2 f3 => ?_, rfl⟩
  · have e2 : lineS s n (Int32.ofNat l.1) l.2.1 l.2.2.1 l.2.2.2.1 l.2.2.2.2.1 l.2.2.2.2.2 2 t = if t = n then Int32.ofNat l.1 else s 2 t := rfl
    have e3 : ∀ j, lineS s n (Int32.ofNat l.1) l.2.1 l.2.2.1 l.2.2.2.1 l.2.2.2.2.1 l.2.2.2.2.2 3 j = if j = 5 * n + 4 then l.2.2.2.2.2 else if j = 5 * n + 3 then l.2.2.2.2.1 else if j = 5 * n + 2 then l.2.2.2.1 else if j = 5 * n + 1 then l.2.2.1 else if j = 5 * n then l.2.1 else s 3 j := fun j => rfl
    rw [e2, e3, e3, e3, e3, e3]
    dsimp only
    by_cases e : t = n
    · rw [if_pos e, if_pos e, e]
      refine ⟨rfl, ?_, ?_, ?_, ?_, ?_⟩
      · rw [if_neg (by omega), if_neg (by omega), if_neg (by omega), if_neg (by omega), if_pos rfl]
      · rw [if_neg (by omega), if_neg (by omega), if_neg (by omega), if_pos rfl]
      · rw [if_neg (by omega), if_neg (by omega), if_pos rfl]
      · rw [if_neg (by omega), if_pos rfl]
      · rw [if_pos rfl]
    · rw [if_neg e, if_neg e]
      obtain ⟨a1, a2, a3, a4, a5, a6⟩ := t3 t (by omega)
      refine ⟨a1, ?_, ?_, ?_, ?_, ?_⟩
      all_goals rw [if_neg (by omega), if_neg (by omega), if_neg (by omega), if_neg (by omega), if_neg (by omega)]
      · exact a2
      · exact a3
      · exact a4
      · exact a5
      · exact a6
  · unfold lineS
    rw [tw_up_at, if_neg f1, tw_up_at, if_neg f3, tw_up_at, if_neg f3, tw_up_at, if_neg f3, tw_up_at, if_neg f3, tw_up_at, if_neg f3, tw_up_at, if_neg f2, tw_up_at, if_neg f0]
/-- all that a method that adds a line does in the end -/
def TAD (n : Nat) (ls : Nat → lnD) (l : lnD) (s : Nat → Nat → Int32) (h : ax_H) (c : Option ax_R) : Prop := (n = 100 → c = some (.inl (some (.int 0)), tw_H h (tw_up s 0 0 2))) ∧ (n < 100 → ∃ s', c = some (.inl (some (.int (Int32.ofNat (n + 1)))), tw_H h s') ∧ TLW (n + 1) (fun t => if t = n then l else ls t) s' ∧ (∀ f, f ≠ 0 → f ≠ 1 → f ≠ 2 → f ≠ 3 → s' f = s f) ∧ s' 0 0 = 0)
theorem TAD.of {k a b c e f : Int32} (T : TLW n ls s) (hd : 2 ≤ d) (hl : (k, a, b, c, e, f) = (Int32.ofNat l.1, l.2)) : TAD n ls l s h (ax_c d 377 [.ref 417, .int 1, .int k, .int a, .int b, .int c, .int e, .int f] (tw_H h s)) := by
  refine ⟨fun hn => ?_, fun hn => ⟨lineS s n (Int32.ofNat l.1) l.2.1 l.2.2.1 l.2.2.2.1 l.2.2.2.2.1 l.2.2.2.2.2, ?_, lineS_T T hn⟩⟩
  · exact t_adds_full hd h s (by rw [T.1, hn]; rfl) k a b c e f
  · obtain ⟨l1, l2, l3, l4, l5, l6⟩ := l
    cases hl
    exact t_adds_ok hd h s T.1 hn _ _ _ _ _ _
theorem TAD.le {c c' : Option ax_R} (X : TAD n ls l s h c) (hl : dx_le c c') : TAD n ls l s h c' := by
  obtain ⟨x1, x2⟩ := X
  refine ⟨fun hn => hl _ (x1 hn), fun hn => ?_⟩
  obtain ⟨s', e, y⟩ := x2 hn
  exact ⟨s', hl _ e, y⟩
theorem TAD.I {c : Option ax_R} {X : Nat → ax_H → Option ax_R} (T : TAD n ls l s h c) : TAD n ls l s h (dx_cI c (fun x4 h3 => some (.inl (some (.int x4)), h3)) X) := by
  obtain ⟨x1, x2⟩ := T
  refine ⟨fun hn => by rw [x1 hn, cI_v], fun hn => ?_⟩
  obtain ⟨s', e, y⟩ := x2 hn
  exact ⟨s', by rw [e, cI_v], y⟩
theorem opI_1 (g : opG k m) : opI k m = 1 := by
  obtain ⟨g1, g2⟩ := g
  unfold opI
  rw [if_neg g1]
  by_cases e : k = 1
  · rw [if_pos e] at g2
    rw [if_pos e, if_neg g2]
  · rw [if_neg e] at g2
    rw [if_neg e, if_neg g2]
theorem opI_0 (g : ¬ opG k m) : opI k m = 0 := by
  unfold opI
  by_cases g1 : inI k 0 3 = 0
  · rw [if_pos g1]
  · rw [if_neg g1]
    by_cases e : k = 1
    · rw [if_pos e]
      by_cases g2 : inI m 0 19 = 0
      · rw [if_pos g2]
      · exact absurd ⟨g1, by rw [if_pos e]; exact g2⟩ g
    · rw [if_neg e]
      by_cases g2 : inI m 0 65535 = 0
      · rw [if_pos g2]
      · exact absurd ⟨g1, by rw [if_neg e]; exact g2⟩ g
theorem t_section_bad (hx : inI x 0 1 = 0) (hd : 3 ≤ d) : ax_c d 375 [.ref 417, .int x] (tw_H h s) = some (.inl (some (.int 0)), tw_H h (tw_up s 0 0 1)) := by
  obtain ⟨d, rfl, he⟩ := d_succ hd
  refine dx_app m_X3_section ?_
  rw [t_in (by omega), cI_v, tw_vn, Option.bind_some, hx, t_adds_bad (by omega), cI_v]
theorem t_section (T : TLW n ls s) (hx : inI x 0 1 ≠ 0) (hd : 3 ≤ d) : TAD n ls (0, x, 0, 0, 0, 0) s h (ax_c d 375 [.ref 417, .int x] (tw_H h s)) := by
  obtain ⟨d, rfl, he⟩ := d_succ hd
  refine TAD.le ?_ m_X3_section
  rw [t_in (by omega), cI_v, tw_vn, Option.bind_some, inI_1 hx]
  exact TAD.I (TAD.of T (by omega) rfl)
theorem t_label_bad (hx : inI x 0 19 = 0) (hd : 3 ≤ d) : ax_c d 379 [.ref 417, .int x] (tw_H h s) = some (.inl (some (.int 0)), tw_H h (tw_up s 0 0 1)) := by
  obtain ⟨d, rfl, he⟩ := d_succ hd
  refine dx_app m_X3_label ?_
  rw [t_in (by omega), cI_v, tw_vn, Option.bind_some, hx, t_adds_bad (by omega), cI_v]
theorem t_label (T : TLW n ls s) (hx : inI x 0 19 ≠ 0) (hd : 3 ≤ d) : TAD n ls (1, x, 0, 0, 0, 0) s h (ax_c d 379 [.ref 417, .int x] (tw_H h s)) := by
  obtain ⟨d, rfl, he⟩ := d_succ hd
  refine TAD.le ?_ m_X3_label
  rw [t_in (by omega), cI_v, tw_vn, Option.bind_some, inI_1 hx]
  exact TAD.I (TAD.of T (by omega) rfl)
theorem t_space_bad (hx : inI x 1 32 = 0) (hd : 3 ≤ d) : ax_c d 383 [.ref 417, .int x] (tw_H h s) = some (.inl (some (.int 0)), tw_H h (tw_up s 0 0 1)) := by
  obtain ⟨d, rfl, he⟩ := d_succ hd
  refine dx_app m_X3_space ?_
  rw [t_in (by omega), cI_v, tw_vn, Option.bind_some, hx, t_adds_bad (by omega), cI_v]
theorem t_space (T : TLW n ls s) (hx : inI x 1 32 ≠ 0) (hd : 3 ≤ d) : TAD n ls (4, x, 0, 0, 0, 0) s h (ax_c d 383 [.ref 417, .int x] (tw_H h s)) := by
  obtain ⟨d, rfl, he⟩ := d_succ hd
  refine TAD.le ?_ m_X3_space
  rw [t_in (by omega), cI_v, tw_vn, Option.bind_some, inI_1 hx]
  exact TAD.I (TAD.of T (by omega) rfl)
theorem t_macro_bad (hx : inI x 0 4 = 0) (hd : 3 ≤ d) : ax_c d 385 [.ref 417, .int x] (tw_H h s) = some (.inl (some (.int 0)), tw_H h (tw_up s 0 0 1)) := by
  obtain ⟨d, rfl, he⟩ := d_succ hd
  refine dx_app m_X3_macro ?_
  rw [t_in (by omega), cI_v, tw_vn, Option.bind_some, hx, t_adds_bad (by omega), cI_v]
theorem t_macro (T : TLW n ls s) (hx : inI x 0 4 ≠ 0) (hd : 3 ≤ d) : TAD n ls (6, x, 0, 0, 0, 0) s h (ax_c d 385 [.ref 417, .int x] (tw_H h s)) := by
  obtain ⟨d, rfl, he⟩ := d_succ hd
  refine TAD.le ?_ m_X3_macro
  rw [t_in (by omega), cI_v, tw_vn, Option.bind_some, inI_1 hx]
  exact TAD.I (TAD.of T (by omega) rfl)
theorem t_word_bad (hx : ¬ opG k m) (hd : 3 ≤ d) : ax_c d 382 [.ref 417, .int k, .int m] (tw_H h s) = some (.inl (some (.int 0)), tw_H h (tw_up s 0 0 1)) := by
  obtain ⟨d, rfl, he⟩ := d_succ hd
  refine dx_app m_X3_word ?_
  rw [t_isOperand (by omega), cI_v, tw_vn, Option.bind_some, opI_0 hx, t_adds_bad (by omega), cI_v]
theorem t_word (T : TLW n ls s) (hx : opG k m) (hd : 3 ≤ d) : TAD n ls (3, k, m, 0, 0, 0) s h (ax_c d 382 [.ref 417, .int k, .int m] (tw_H h s)) := by
  obtain ⟨d, rfl, he⟩ := d_succ hd
  refine TAD.le ?_ m_X3_word
  rw [t_isOperand (by omega), cI_v, tw_vn, Option.bind_some, opI_1 hx]
  exact TAD.I (TAD.of T (by omega) rfl)
theorem t_endMacro_full (hs : s 1 0 = 100) (hd : 3 ≤ d) : ax_c d 386 [.ref 417] (tw_H h s) = some (.inl (some (.int 0)), tw_H h (tw_up s 0 0 1)) := by
  obtain ⟨d, rfl, he⟩ := d_succ hd
  refine dx_app m_X3_endMacro ?_
  rw [tg_1, Option.bind_some, hs, if_neg (fun z => z rfl)]
  refine dx_app b_X3_endMacro_15 ?_
  rw [tw_vn, Option.bind_some, t_holds (by omega), cI_v, if_neg (show ¬ (1 : Int32) = 0 by decide), if_neg (fun z => z rfl)]
theorem t_endMacro (T : TLW n ls s) (hn : n < 100) (hd : 3 ≤ d) : ∃ s', ax_c d 386 [.ref 417] (tw_H h s) = some (.inl (some (.int (Int32.ofNat (n + 1)))), tw_H h s') ∧ TLW (n + 1) (fun t => if t = n then (7, 0, 0, 0, 0, 0) else ls t) s' ∧ (∀ f, f ≠ 0 → f ≠ 1 → f ≠ 2 → f ≠ 3 → s' f = s f) ∧ s' 0 0 = 0 := by
  obtain ⟨d, rfl, he⟩ := d_succ hd
  have T' : TLW n ls (tw_up s 0 0 0) := T.cong fun f f1 f2 => by rw [tw_up_at, if_neg (by omega)]
  obtain ⟨s', e, a, b, c⟩ := (TAD.of (l := (7, 0, 0, 0, 0, 0)) (h := h) T' (d := d) (by omega) rfl).2 hn
  refine ⟨s', dx_app m_X3_endMacro ?_, a, fun f f0 f1 f2 f3 => (b f f0 f1 f2 f3).trans (by rw [tw_up_at, if_neg f0]), c⟩
  have n100 : ¬ Int32.ofNat n = 100 := fun z => by have := (i_eq (b := 100) (by omega) (by omega)).mp z; omega
  rw [tg_1, Option.bind_some, T.1, if_pos n100]
  refine dx_app b_X3_endMacro_15 ?_
  rw [tw_vn, Option.bind_some, t_holds (by omega), cI_v, if_pos rfl, if_pos (by decide), tw_vn, Option.bind_some]
  exact (congrArg (fun c => dx_cI c (fun x4 h3 => some (.inl (some (.int x4)), h3)) dx_x0) e).trans cI_v
theorem t_code_bad (hx : inI x 0 26 = 0 ∨ inI y 0 3 = 0 ∨ inI z 0 3 = 0 ∨ ¬ opG k m) (hd : 3 ≤ d) : ax_c d 380 [.ref 417, .int x, .int y, .int z, .int k, .int m] (tw_H h s) = some (.inl (some (.int 0)), tw_H h (tw_up s 0 0 1)) := by
  obtain ⟨d, rfl, he⟩ := d_succ hd
  refine dx_app m_X3_code ?_
  have b : B_X3_code_43 (ax_c d) 0 417 x y z k m (tw_H h s) = some (.inl (some (.int 0)), tw_H h (tw_up s 0 0 1)) := by
    refine dx_app b_X3_code_43 ?_
    rw [tw_vn, Option.bind_some, t_adds_bad (by omega), cI_v]
  rw [t_in (by omega), cI_v]
  by_cases e0 : inI x 0 26 = 0
  · rw [if_pos e0]; exact b
  rw [if_neg e0]
  rw [t_in (by omega), cI_v]
  by_cases e1 : inI y 0 3 = 0
  · rw [if_pos e1]; exact b
  rw [if_neg e1]
  rw [t_in (by omega), cI_v]
  by_cases e2 : inI z 0 3 = 0
  · rw [if_pos e2]; exact b
  rw [if_neg e2]
  rw [t_isOperand (by omega), cI_v]
  rw [if_pos]
  · exact b
  · rcases hx with w | w | w | w
    · exact absurd w e0
    · exact absurd w e1
    · exact absurd w e2
    · exact opI_0 w
theorem t_code (T : TLW n ls s) (g0 : inI x 0 26 ≠ 0) (g1 : inI y 0 3 ≠ 0) (g2 : inI z 0 3 ≠ 0) (g3 : opG k m) (hd : 3 ≤ d) : TAD n ls (2, k, m, 16 * x + 4 * y + z, 0, 0) s h (ax_c d 380 [.ref 417, .int x, .int y, .int z, .int k, .int m] (tw_H h s)) := by
  obtain ⟨d, rfl, he⟩ := d_succ hd
  refine TAD.le ?_ m_X3_code
  rw [t_in (by omega), cI_v, if_neg g0]
  rw [t_in (by omega), cI_v, if_neg g1]
  rw [t_in (by omega), cI_v, if_neg g2]
  rw [t_isOperand (by omega), cI_v, if_neg (show ¬ opI k m = 0 from fun w => by rw [opI_1 g3] at w; exact absurd w (by decide))]
  refine TAD.le ?_ b_X3_code_43
  rw [tw_vn, Option.bind_some]
  exact TAD.I (TAD.of T (by omega) rfl)
theorem t_vector_bad (hx : inI x 0 1 = 0 ∨ ¬ opG k m) (hd : 3 ≤ d) : ax_c d 384 [.ref 417, .int x, .int k, .int m] (tw_H h s) = some (.inl (some (.int 0)), tw_H h (tw_up s 0 0 1)) := by
  obtain ⟨d, rfl, he⟩ := d_succ hd
  refine dx_app m_X3_vector ?_
  have b : B_X3_vector_23 (ax_c d) 417 0 x k m (tw_H h s) = some (.inl (some (.int 0)), tw_H h (tw_up s 0 0 1)) := by
    refine dx_app b_X3_vector_23 ?_
    rw [tw_vn, Option.bind_some, t_adds_bad (by omega), cI_v]
  rw [t_in (by omega), cI_v]
  by_cases e0 : inI x 0 1 = 0
  · rw [if_pos e0]; exact b
  rw [if_neg e0]
  rw [t_isOperand (by omega), cI_v]
  rw [if_pos]
  · exact b
  · rcases hx with w | w
    · exact absurd w e0
    · exact opI_0 w
theorem t_vector (T : TLW n ls s) (g0 : inI x 0 1 ≠ 0) (g1 : opG k m) (hd : 3 ≤ d) : TAD n ls (5, k, m, x, 0, 0) s h (ax_c d 384 [.ref 417, .int x, .int k, .int m] (tw_H h s)) := by
  obtain ⟨d, rfl, he⟩ := d_succ hd
  refine TAD.le ?_ m_X3_vector
  rw [t_in (by omega), cI_v, if_neg g0]
  rw [t_isOperand (by omega), cI_v, if_neg (show ¬ opI k m = 0 from fun w => by rw [opI_1 g1] at w; exact absurd w (by decide))]
  refine TAD.le ?_ b_X3_vector_23
  rw [tw_vn, Option.bind_some]
  exact TAD.I (TAD.of T (by omega) rfl)
theorem t_use_bad (hx : inI x 0 4 = 0 ∨ ¬ opG k m ∨ ¬ opG y z) (hd : 3 ≤ d) : ax_c d 387 [.ref 417, .int x, .int k, .int m, .int y, .int z] (tw_H h s) = some (.inl (some (.int 0)), tw_H h (tw_up s 0 0 1)) := by
  obtain ⟨d, rfl, he⟩ := d_succ hd
  refine dx_app m_X3_use ?_
  have b : B_X3_use_32 (ax_c d) 0 417 x k m y z (tw_H h s) = some (.inl (some (.int 0)), tw_H h (tw_up s 0 0 1)) := by
    refine dx_app b_X3_use_32 ?_
    rw [tw_vn, Option.bind_some, t_adds_bad (by omega), cI_v]
  rw [t_in (by omega), cI_v]
  by_cases e0 : inI x 0 4 = 0
  · rw [if_pos e0]; exact b
  rw [if_neg e0]
  rw [t_isOperand (by omega), cI_v]
  by_cases e1 : opI k m = 0
  · rw [if_pos e1]; exact b
  rw [if_neg e1]
  rw [t_isOperand (by omega), cI_v]
  rw [if_pos]
  · exact b
  · rcases hx with w | w | w
    · exact absurd w e0
    · exact absurd (opI_0 w) e1
    · exact opI_0 w
theorem t_use (T : TLW n ls s) (g0 : inI x 0 4 ≠ 0) (g1 : opG k m) (g2 : opG y z) (hd : 3 ≤ d) : TAD n ls (8, k, m, y, z, x) s h (ax_c d 387 [.ref 417, .int x, .int k, .int m, .int y, .int z] (tw_H h s)) := by
  obtain ⟨d, rfl, he⟩ := d_succ hd
  refine TAD.le ?_ m_X3_use
  rw [t_in (by omega), cI_v, if_neg g0]
  rw [t_isOperand (by omega), cI_v, if_neg (show ¬ opI k m = 0 from fun w => by rw [opI_1 g1] at w; exact absurd w (by decide))]
  rw [t_isOperand (by omega), cI_v, if_neg (show ¬ opI y z = 0 from fun w => by rw [opI_1 g2] at w; exact absurd w (by decide))]
  refine TAD.le ?_ b_X3_use_32
  rw [tw_vn, Option.bind_some]
  exact TAD.I (TAD.of T (by omega) rfl)
end TLS
