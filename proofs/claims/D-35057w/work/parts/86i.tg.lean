/-! the twin's answers that are a number of its own (printed by a program out of the blocks) -/
theorem t_lines {d : Nat} (hd : 1 ≤ d) (h : ax_H) (s : Nat → Nat → Int32) : ax_c d 374 [.ref 417] (tw_H h s) = some (.inl (some (.int (tw_up s 0 0 0 1 0))), tw_H h (tw_up s 0 0 0)) := by
  obtain ⟨d, rfl, -⟩ := d_succ hd
  refine dx_app m_X3_lines ?_
  rw [tp_0, Option.bind_some, tg_1, Option.bind_some]
theorem t_state {d : Nat} (hd : 1 ≤ d) (h : ax_H) (s : Nat → Nat → Int32) : ax_c d 454 [.ref 417] (tw_H h s) = some (.inl (some (.int (tw_up s 0 0 0 23 0))), tw_H h (tw_up s 0 0 0)) := by
  obtain ⟨d, rfl, -⟩ := d_succ hd
  refine dx_app m_X3_state ?_
  rw [tp_0, Option.bind_some, tg_23, Option.bind_some]
theorem t_fault {d : Nat} (hd : 1 ≤ d) (h : ax_H) (s : Nat → Nat → Int32) : ax_c d 455 [.ref 417] (tw_H h s) = some (.inl (some (.int (tw_up s 0 0 0 24 0))), tw_H h (tw_up s 0 0 0)) := by
  obtain ⟨d, rfl, -⟩ := d_succ hd
  refine dx_app m_X3_fault ?_
  rw [tp_0, Option.bind_some, tg_24, Option.bind_some]
theorem t_steps {d : Nat} (hd : 1 ≤ d) (h : ax_H) (s : Nat → Nat → Int32) : ax_c d 456 [.ref 417] (tw_H h s) = some (.inl (some (.int (tw_up s 0 0 0 38 0))), tw_H h (tw_up s 0 0 0)) := by
  obtain ⟨d, rfl, -⟩ := d_succ hd
  refine dx_app m_X3_steps ?_
  rw [tp_0, Option.bind_some, tg_38, Option.bind_some]
theorem t_kept {d : Nat} (hd : 1 ≤ d) (h : ax_H) (s : Nat → Nat → Int32) : ax_c d 457 [.ref 417] (tw_H h s) = some (.inl (some (.int (tw_up s 0 0 0 40 0))), tw_H h (tw_up s 0 0 0)) := by
  obtain ⟨d, rfl, -⟩ := d_succ hd
  refine dx_app m_X3_kept ?_
  rw [tp_0, Option.bind_some, tg_40, Option.bind_some]
theorem t_counter {d : Nat} (hd : 1 ≤ d) (h : ax_H) (s : Nat → Nat → Int32) : ax_c d 458 [.ref 417] (tw_H h s) = some (.inl (some (.int (tw_up s 0 0 0 27 0))), tw_H h (tw_up s 0 0 0)) := by
  obtain ⟨d, rfl, -⟩ := d_succ hd
  refine dx_app m_X3_counter ?_
  rw [tp_0, Option.bind_some, tg_27, Option.bind_some]
theorem t_stack {d : Nat} (hd : 1 ≤ d) (h : ax_H) (s : Nat → Nat → Int32) : ax_c d 459 [.ref 417] (tw_H h s) = some (.inl (some (.int (tw_up s 0 0 0 28 0))), tw_H h (tw_up s 0 0 0)) := by
  obtain ⟨d, rfl, -⟩ := d_succ hd
  refine dx_app m_X3_stack ?_
  rw [tp_0, Option.bind_some, tg_28, Option.bind_some]
theorem t_writesLeft {d : Nat} (hd : 1 ≤ d) (h : ax_H) (s : Nat → Nat → Int32) : ax_c d 462 [.ref 417] (tw_H h s) = some (.inl (some (.int (tw_up s 0 0 0 46 0))), tw_H h (tw_up s 0 0 0)) := by
  obtain ⟨d, rfl, -⟩ := d_succ hd
  refine dx_app m_X3_writesLeft ?_
  rw [tp_0, Option.bind_some, tg_46, Option.bind_some]
theorem t_tape {d : Nat} (hd : 1 ≤ d) (h : ax_H) (s : Nat → Nat → Int32) : ax_c d 467 [.ref 417] (tw_H h s) = some (.inl (some (.int (tw_up s 0 0 0 37 0))), tw_H h (tw_up s 0 0 0)) := by
  obtain ⟨d, rfl, -⟩ := d_succ hd
  refine dx_app m_X3_tape ?_
  rw [tp_0, Option.bind_some, tg_37, Option.bind_some]
theorem t_written {d : Nat} (hd : 1 ≤ d) (h : ax_H) (s : Nat → Nat → Int32) : ax_c d 473 [.ref 417] (tw_H h s) = some (.inl (some (.int (tw_up s 0 0 0 52 0))), tw_H h (tw_up s 0 0 0)) := by
  obtain ⟨d, rfl, -⟩ := d_succ hd
  refine dx_app m_X3_written ?_
  rw [tp_0, Option.bind_some, tg_52, Option.bind_some]
theorem t_tests {d : Nat} (hd : 1 ≤ d) (h : ax_H) (s : Nat → Nat → Int32) : ax_c d 486 [.ref 417] (tw_H h s) = some (.inl (some (.int (tw_up s 0 0 0 60 0))), tw_H h (tw_up s 0 0 0)) := by
  obtain ⟨d, rfl, -⟩ := d_succ hd
  refine dx_app m_X3_tests ?_
  rw [tp_0, Option.bind_some, tg_60, Option.bind_some]
/-! files: where a name stands -/
def findR (row : Nat → Int32) (name : Int32) : Nat → Nat → Int32
  | 0, _ => -1
  | m + 1, k => if row (40 + 4 * k) = name then Int32.ofNat k else findR row name m (k + 1)
def findF (row : Nat → Int32) (name : Int32) : Int32 := findR row name 6 0
theorem t_entry {d : Nat} (hd : 1 ≤ d) (h : ax_H) (x : Int32) : ax_c d 415 [.int x] h = some (.inl (some (.int (40 + 4 * x))), h) := by
  obtain ⟨d, rfl, -⟩ := d_succ hd
  exact dx_app m_X3_entry rfl
theorem i_entry (k : Nat) : (40 : Int32) + 4 * Int32.ofNat k = Int32.ofNat (40 + 4 * k) := by
  rw [show (4 : Int32) * Int32.ofNat k = Int32.ofNat (4 * k) from i_mul 4 k]
  exact i_add 40 (4 * k)
theorem t_find {d : Nat} (hd : 2 ≤ d) (h : ax_H) (s : Nat → Nat → Int32) (p f : Nat) (hl : ∀ (t : Nat → Nat → Int32) (i : Int32), dx_lI 0 (.ref p) i (tw_H h t) = (ix 256 i).bind fun k => some (t f k)) (name : Int32) : ax_c d 435 [.ref p, .int name] (tw_H h s) = some (.inl (some (.int (findF (s f) name))), tw_H h s) := by
  obtain ⟨d, rfl, he⟩ := d_succ hd
  refine dx_app (m_X3_find rfl) ?_
  have loop : ∀ m k : Nat, k + m = 6 → B_X3_find_2 (ax_c d) (.ref p) name (Int32.ofNat k) (tw_H h s) = some (.inl (some (.int (findR (s f) name m k))), tw_H h s) := by
    intro m
    induction m with
    | zero =>
      intro k hk
      obtain rfl : k = 6 := by omega
      exact dx_app (b_X3_find_2 rfl) (if_pos (by decide))
    | succ m ih =>
      intro k hk
      refine dx_app (b_X3_find_2 rfl) ?_
      have hc : ¬ (6 : Int32) ≤ Int32.ofNat k := i_ge_not (n := 6) (by omega) (by decide)
      have hi : ix 256 (Int32.ofNat (40 + 4 * k)) = some (40 + 4 * k) := ix_of rfl (by omega) (by omega)
      rw [if_neg hc, t_entry he, cI_v, i_entry, hl, hi, Option.bind_some, Option.bind_some]
      by_cases q : s f (40 + 4 * k) = name
      · rw [if_neg (fun z => z q)]
        unfold findR
        rw [if_pos q]
      · rw [if_pos q, lt_at, show Int32.ofNat k + 1 = Int32.ofNat (k + 1) from i_add k 1, ih (k + 1) (by omega), show findR (s f) name (m + 1) k = findR (s f) name m (k + 1) from if_neg q]
  exact loop 6 0 rfl
theorem i_div16 : ∀ b, b < 32 → (32 : Int32) + Int32.ofNat b / 16 = Int32.ofNat (32 + b / 16) := by decide
theorem i_rem16 : ∀ b, b < 32 → dx_rem (Int32.ofNat b) 16 = Int32.ofNat (b % 16) := by decide
/-- the bit of a block in the map -/
def usedF (row : Nat → Int32) (b : Nat) : Int32 := if (dx_shr (row (32 + b / 16)) (Int32.ofNat (b % 16)) &&& 1) = 1 then 1 else 0
theorem t_isUsed {d : Nat} (hd : 1 ≤ d) (h : ax_H) (s : Nat → Nat → Int32) (p f : Nat) (hl : ∀ (t : Nat → Nat → Int32) (i : Int32), dx_lI 0 (.ref p) i (tw_H h t) = (ix 256 i).bind fun k => some (t f k)) (b : Nat) (hb : b < 32) : ax_c d 438 [.ref p, .int (Int32.ofNat b)] (tw_H h s) = some (.inl (some (.int (usedF (s f) b))), tw_H h s) := by
  obtain ⟨d, rfl, -⟩ := d_succ hd
  refine dx_app (m_X3_isUsed rfl) ?_
  have hi : ix 256 (Int32.ofNat (32 + b / 16)) = some (32 + b / 16) := ix_of rfl (by omega) (by omega)
  rw [i_div16 b hb, i_rem16 b hb, hl, hi, Option.bind_some, Option.bind_some]
  unfold usedF
  by_cases q : (dx_shr (s f (32 + b / 16)) (Int32.ofNat (b % 16)) &&& 1) = 1
  · rw [if_neg (fun z => z q), if_pos q]
  · rw [if_pos q, if_neg q]
def freeR (row : Nat → Int32) : Nat → Nat → Int32
  | 0, _ => -1
  | m + 1, b => if usedF row b = 0 then Int32.ofNat b else freeR row m (b + 1)
def freeF (row : Nat → Int32) : Int32 := freeR row 24 8
theorem t_freeBlock {d : Nat} (hd : 2 ≤ d) (h : ax_H) (s : Nat → Nat → Int32) : ax_c d 437 [.ref 417] (tw_H h s) = some (.inl (some (.int (freeF (s 50)))), tw_H h s) := by
  obtain ⟨d, rfl, he⟩ := d_succ hd
  refine dx_app m_X3_freeBlock ?_
  have loop : ∀ m k : Nat, k + m = 32 → B_X3_freeBlock_3 (ax_c d) 417 (Int32.ofNat k) (tw_H h s) = some (.inl (some (.int (freeR (s 50) m k))), tw_H h s) := by
    intro m
    induction m with
    | zero =>
      intro k hk
      obtain rfl : k = 32 := by omega
      exact dx_app b_X3_freeBlock_3 (if_pos (by decide))
    | succ m ih =>
      intro k hk
      refine dx_app b_X3_freeBlock_3 ?_
      have hc : ¬ (32 : Int32) ≤ Int32.ofNat k := i_ge_not (n := 32) (by omega) (by decide)
      rw [if_neg hc, tr_50, Option.bind_some, t_isUsed he h s _ 50 (tl_50 h) k (by omega), cI_v]
      by_cases q : usedF (s 50) k = 0
      · rw [if_neg (fun z => z q)]
        unfold freeR
        rw [if_pos q]
      · rw [if_pos q, lt_at, show Int32.ofNat k + 1 = Int32.ofNat (k + 1) from i_add k 1, ih (k + 1) (by omega), show freeR (s 50) (m + 1) k = freeR (s 50) m (k + 1) from if_neg q]
  exact loop 24 8 rfl
theorem t_blockOf {d : Nat} (hd : 2 ≤ d) (h : ax_H) (s : Nat → Nat → Int32) (p f : Nat) (hl : ∀ (t : Nat → Nat → Int32) (i : Int32), dx_lI 0 (.ref p) i (tw_H h t) = (ix 256 i).bind fun k => some (t f k)) (n j : Nat) (x : Int32) (hn : n < 6) (hx : x / 8 = Int32.ofNat j) (hj : j < 2) : ax_c d 439 [.ref 417, .ref p, .int (Int32.ofNat n), .int x] (tw_H h s) = some (.inl (some (.int (s f (40 + 4 * n + 2 + j)))), tw_H h s) := by
  obtain ⟨d, rfl, he⟩ := d_succ hd
  refine dx_app (m_X3_blockOf rfl) ?_
  have hi : ix 256 (Int32.ofNat (40 + 4 * n + 2 + j)) = some (40 + 4 * n + 2 + j) := ix_of rfl (by omega) (by omega)
  rw [t_entry he, cI_v, i_entry, hx, show Int32.ofNat (40 + 4 * n) + 2 = Int32.ofNat (40 + 4 * n + 2) from i_add _ 2, i_add, hl, hi, Option.bind_some, Option.bind_some]
