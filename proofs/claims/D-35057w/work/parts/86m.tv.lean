/- The twin's calls on the disk, one by one: what each does to the draft (row 51) and the map of blocks that it answers. -/
theorem t_blockOfEntry {d : Nat} (hd : 1 ≤ d) (h : ax_H) (x : Int32) : ax_c d 441 [.int x] h = some (.inl (some (.int (dx_shl 1 (5 + x / 2)))), h) := by
  obtain ⟨d, rfl, he⟩ := d_succ hd
  exact dx_app m_X3_blockOfEntry rfl
/- turns a block's bit in the draft -/
def turnS (s : Nat → Nat → Int32) (b : Nat) : Nat → Nat → Int32 := tw_up s 51 (32 + b / 16) (s 51 (32 + b / 16) ^^^ dx_shl 1 (Int32.ofNat (b % 16)))
theorem t_turns {d : Nat} (hd : 1 ≤ d) (h : ax_H) (s : Nat → Nat → Int32) (b : Nat) (hb : b < 32) : ax_c d 443 [.ref 442, .int (Int32.ofNat b)] (tw_H h s) = some (.inl none, tw_H h (turnS s b)) := by
  obtain ⟨d, rfl, he⟩ := d_succ hd
  refine dx_app (m_X3_turns rfl) ?_
  have hi : ix 256 (Int32.ofNat (32 + b / 16)) = some (32 + b / 16) := ix_of rfl (by omega) (by omega)
  rw [i_div16 b hb, tl_51, hi, Option.bind_some, Option.bind_some, ts_51, hi, Option.bind_some, Option.bind_some, i_rem16 b hb]
  rfl
/- a file is made: first free entry n -/
def makeFS (s : Nat → Nat → Int32) (n : Nat) : Nat → Nat → Int32 := tw_up (tw_up (tw_up (tw_up s 51 (40 + 4 * n) (s 26 0)) 51 (40 + 4 * n + 1) 0) 51 (40 + 4 * n + 2) 0) 51 (40 + 4 * n + 3) 0
theorem t_makesFile {d : Nat} (hd : 3 ≤ d) (h : ax_H) (s : Nat → Nat → Int32) (n : Nat) (hn : n < 6) (hf : findF (s 50) 0 = Int32.ofNat n) : ax_c d 440 [.ref 417] (tw_H h s) = some (.inl (some (.int (dx_shl 1 (5 + Int32.ofNat n / 2)))), tw_H h (makeFS s n)) := by
  obtain ⟨d, rfl, he⟩ := d_succ hd
  have i0 : ix 4 0 = some 0 := by decide
  have e0 : ix 256 (40 + 4 * Int32.ofNat n) = some (40 + 4 * n) := ix_of (by rw [i_entry]) (by omega) (by omega)
  have e1 : ix 256 (40 + 4 * Int32.ofNat n + 1) = some (40 + 4 * n + 1) := ix_of (by rw [i_entry]; exact i_add _ 1) (by omega) (by omega)
  have e2 : ix 256 (40 + 4 * Int32.ofNat n + 2) = some (40 + 4 * n + 2) := ix_of (by rw [i_entry]; exact i_add _ 2) (by omega) (by omega)
  have e3 : ix 256 (40 + 4 * Int32.ofNat n + 3) = some (40 + 4 * n + 3) := ix_of (by rw [i_entry]; exact i_add _ 3) (by omega) (by omega)
  refine dx_app m_X3_makesFile ?_
  rw [tr_50, Option.bind_some, t_find (by omega) h s _ 50 (tl_50 h), cI_v, hf, tr_51, Option.bind_some, t_entry (by omega), cI_v, tr_26, Option.bind_some, tl_26, i0, Option.bind_some, Option.bind_some, ts_51, e0, Option.bind_some, Option.bind_some,
    tr_51, Option.bind_some, t_entry (by omega), cI_v, ts_51, e1, Option.bind_some, Option.bind_some,
    tr_51, Option.bind_some, t_entry (by omega), cI_v, ts_51, e2, Option.bind_some, Option.bind_some,
    tr_51, Option.bind_some, t_entry (by omega), cI_v, ts_51, e3, Option.bind_some, Option.bind_some, t_blockOfEntry (by omega), cI_v]
  rfl
/- a word is replaced: block b of the draft -/
def replS (s : Nat → Nat → Int32) (b r : Nat) : Nat → Nat → Int32 := tw_up s 51 (8 * b + r) (s 26 2)
theorem t_replaces {d : Nat} (hd : 3 ≤ d) (h : ax_H) (s : Nat → Nat → Int32) (n j b r : Nat) (hn : n < 6) (hx : s 26 1 / 8 = Int32.ofNat j) (hj : j < 2) (hr : dx_rem (s 26 1) 8 = Int32.ofNat r) (hr8 : r < 8) (hb : s 51 (40 + 4 * n + 2 + j) = Int32.ofNat b) (hbb : b < 32) : ax_c d 444 [.ref 417, .int (Int32.ofNat n)] (tw_H h s) = some (.inl (some (.int (dx_shl 1 (Int32.ofNat b)))), tw_H h (replS s b r)) := by
  obtain ⟨d, rfl, he⟩ := d_succ hd
  have i1 : ix 4 1 = some 1 := by decide
  have i2 : ix 4 2 = some 2 := by decide
  have e1 : ix 256 (8 * Int32.ofNat b + Int32.ofNat r) = some (8 * b + r) := ix_of (by rw [show (8 : Int32) * Int32.ofNat b = Int32.ofNat (8 * b) from i_mul 8 b, i_add]) (by omega) (by omega)
  refine dx_app m_X3_replaces ?_
  rw [tr_51, Option.bind_some, tr_26, Option.bind_some, tl_26, i1, Option.bind_some, Option.bind_some, tw_vn, Option.bind_some, t_blockOf (by omega) h s _ 51 (tl_51 h) n j _ hn hx hj, cI_v, hb, tr_51, Option.bind_some, tr_26, Option.bind_some, tl_26, i1, Option.bind_some, Option.bind_some, Option.bind_some, tl_26, i2, Option.bind_some, Option.bind_some, hr, ts_51, e1, Option.bind_some, Option.bind_some]
  rfl
/- a file is removed: its blocks' bits are turned (zero: no block), then its entry is zeroed -/
def remS (s : Nat → Nat → Int32) (b : Nat → Nat) : Nat → Nat → Nat → Int32
  | 0 => s
  | k + 1 => if b k = 0 then remS s b k else turnS (remS s b k) (b k)
def remM (m : Int32) (b : Nat → Nat) : Nat → Int32
  | 0 => m
  | k + 1 => if b k = 0 then remM m b k else remM m b k ||| 16
theorem tw_up_ne51 (s : Nat → Nat → Int32) {f i j : Nat} (x : Int32) (h : j ≠ i) : tw_up s f i x f j = s f j := by
  unfold tw_up
  rw [if_pos rfl]
  exact if_neg h
theorem turn_hi (s : Nat → Nat → Int32) {b : Nat} (hb : b < 32) {j : Nat} (hj : 34 ≤ j) : turnS s b 51 j = s 51 j := by
  unfold turnS
  exact tw_up_ne51 s _ (by omega)
theorem remS_hi (s : Nat → Nat → Int32) (b : Nat → Nat) (hb : ∀ k, k < 2 → b k < 32) : ∀ k, k ≤ 2 → ∀ {j : Nat}, 34 ≤ j → remS s b k 51 j = s 51 j := by
  intro k
  induction k with
  | zero => intro _ j _; rfl
  | succ k ih =>
    intro hk j hj
    unfold remS
    split
    · exact ih (by omega) hj
    · rw [turn_hi _ (hb k (by omega)) hj]
      exact ih (by omega) hj
def remF (s : Nat → Nat → Int32) (b : Nat → Nat) (n : Nat) : Nat → Nat → Int32 := tw_fo (remS s b 2) 51 (40 + 4 * n) 4 fun _ => 0
def remA (b : Nat → Nat) (n : Nat) : Int32 := remM (dx_shl 1 (5 + Int32.ofNat n / 2)) b 2
theorem t_removes {d : Nat} (hd : 2 ≤ d) (h : ax_H) (s : Nat → Nat → Int32) (n : Nat) (hn : n < 6) (b : Nat → Nat) (hb : ∀ k, k < 2 → b k < 32) (hs : ∀ k, k < 2 → s 51 (40 + 4 * n + (2 + k)) = Int32.ofNat (b k)) : ax_c d 445 [.ref 417, .int (Int32.ofNat n)] (tw_H h s) = some (.inl (some (.int (remA b n))), tw_H h (remF s b n)) := by
  obtain ⟨d, rfl, he⟩ := d_succ hd
  have ie : ∀ k, k < 4 → ix 256 (40 + 4 * Int32.ofNat n + Int32.ofNat k) = some (40 + 4 * n + k) := fun k hk => ix_of (by rw [i_entry, i_add]) (by omega) (by omega)
  have h52 : ∀ (t : Nat → Nat → Int32) (v : Int32) (m k : Nat), k + m = 4 → B_X3_removes_52 (ax_c d) 417 (Int32.ofNat n) v (Int32.ofNat k) (tw_H h (tw_fo t 51 (40 + 4 * n) k fun _ => 0)) = some (.inl (some (.int v)), tw_H h (tw_fo t 51 (40 + 4 * n) 4 fun _ => 0)) := by
    intro t v m
    induction m with
    | zero =>
      intro k hk
      obtain rfl : k = 4 := by omega
      refine dx_app b_X3_removes_52 ?_
      rw [if_pos (by decide)]
    | succ m ih =>
      intro k hk
      refine dx_app b_X3_removes_52 ?_
      rw [if_neg (nge4 (show k < 4 by omega)), tr_51, Option.bind_some, t_entry (by omega), cI_v, ts_51, ie k (by omega), Option.bind_some, Option.bind_some, lt_at, show Int32.ofNat k + 1 = Int32.ofNat (k + 1) from i_add k 1]
      have := ih (k + 1) (by omega)
      rw [← fo_up] at this
      exact this
  have h7 : ∀ (m0 : Int32) (m k : Nat), k + m = 2 → B_X3_removes_7 (ax_c d) 417 (Int32.ofNat n) (remM m0 b k) (Int32.ofNat (2 + k)) (tw_H h (remS s b k)) = some (.inl (some (.int (remM m0 b 2))), tw_H h (remF s b n)) := by
    intro m0 m
    induction m with
    | zero =>
      intro k hk
      obtain rfl : k = 2 := by omega
      refine dx_app b_X3_removes_7 ?_
      rw [if_pos (by decide)]
      have := h52 (remS s b 2) (remM m0 b 2) 4 0 (by omega)
      rw [fo_zero] at this
      exact this
    | succ m ih =>
      intro k hk
      have hk2 : k < 2 := by omega
      refine dx_app b_X3_removes_7 ?_
      rw [if_neg (nge4 (show 2 + k < 4 by omega)), tr_51, Option.bind_some, t_entry (by omega), cI_v, tl_51, ie (2 + k) (by omega), Option.bind_some, Option.bind_some, remS_hi s b hb k (by omega) (by omega), hs k hk2]
      have hi := ih (k + 1) (by omega)
      by_cases q : b k = 0
      · rw [if_pos (by rw [q]; rfl), lt_at, show Int32.ofNat (2 + k) + 1 = Int32.ofNat (2 + (k + 1)) from i_add (2 + k) 1]
        rw [show remS s b (k + 1) = remS s b k from if_pos q, show remM m0 b (k + 1) = remM m0 b k from if_pos q] at hi
        exact hi
      · have q' : ¬ Int32.ofNat (b k) = 0 := fun z => q ((i_eq (b := 0) (by have := hb k hk2; omega) (by decide)).mp z)
        rw [if_neg q', tr_51, Option.bind_some, t_turns (by omega) h _ (b k) (hb k hk2), cV_v, lt_at, lt_at, show Int32.ofNat (2 + k) + 1 = Int32.ofNat (2 + (k + 1)) from i_add (2 + k) 1]
        rw [show remS s b (k + 1) = turnS (remS s b k) (b k) from if_neg q, show remM m0 b (k + 1) = remM m0 b k ||| 16 from if_neg q] at hi
        exact hi
  refine dx_app m_X3_removes ?_
  rw [t_blockOfEntry (by omega), cI_v]
  exact h7 _ 2 0 rfl
