/- appending a word: when the last block is full a free one is turned on, its number kept, its words zeroed -/
theorem z_div8 : ∀ z, z < 16 → Int32.ofNat z / 8 = Int32.ofNat (z / 8) := by decide
theorem z_rem8 : ∀ z, z < 16 → dx_rem (Int32.ofNat z) 8 = Int32.ofNat (z % 8) := by decide
def appT (s : Nat → Nat → Int32) (n z b : Nat) : Nat → Nat → Int32 := tw_up (turnS s b) 51 (40 + 4 * n + 2 + z / 8) (Int32.ofNat b)
def appN (s : Nat → Nat → Int32) (n z b : Nat) : Nat → Nat → Int32 := tw_fo (appT s n z b) 51 (8 * b) 8 fun _ => 0
def appE (t : Nat → Nat → Int32) (n z b : Nat) : Nat → Nat → Int32 := tw_up (tw_up t 51 (8 * b + z % 8) (t 26 1)) 51 (40 + 4 * n + 1) (Int32.ofNat z + 1)
theorem t_appends {d : Nat} (hd : 3 ≤ d) (h : ax_H) (s : Nat → Nat → Int32) (n z b : Nat) (hn : n < 6) (hz : z < 16) (hs : s 51 (40 + 4 * n + 1) = Int32.ofNat z) (hb8 : 8 ≤ b) (hb : b < 32) (hf : z % 8 = 0 → freeF (s 50) = Int32.ofNat b) (hf' : ¬ z % 8 = 0 → s 51 (40 + 4 * n + 2 + z / 8) = Int32.ofNat b) :
    ax_c d 442 [.ref 417, .int (Int32.ofNat n)] (tw_H h s) = some (.inl (some (.int ((if z % 8 = 0 then dx_shl 1 (5 + Int32.ofNat n / 2) ||| 16 else dx_shl 1 (5 + Int32.ofNat n / 2)) ||| dx_shl 1 (Int32.ofNat b)))), tw_H h (appE (if z % 8 = 0 then appN s n z b else s) n z b)) := by
  obtain ⟨d, rfl, he⟩ := d_succ hd
  have i1 : ix 4 1 = some 1 := by decide
  have e1 : ix 256 (40 + 4 * Int32.ofNat n + 1) = some (40 + 4 * n + 1) := ix_of (by rw [i_entry]; exact i_add _ 1) (by omega) (by omega)
  have e2 : ix 256 (40 + 4 * Int32.ofNat n + 2 + Int32.ofNat (z / 8)) = some (40 + 4 * n + 2 + z / 8) := ix_of (by rw [i_entry, show Int32.ofNat (40 + 4 * n) + 2 = Int32.ofNat (40 + 4 * n + 2) from i_add _ 2, i_add]) (by omega) (by omega)
  have e3 : ∀ j, j < 8 → ix 256 (8 * Int32.ofNat b + Int32.ofNat j) = some (8 * b + j) := fun j hj => ix_of (by rw [show (8 : Int32) * Int32.ofNat b = Int32.ofNat (8 * b) from i_mul 8 b, i_add]) (by omega) (by omega)
  have h92 : ∀ (t : Nat → Nat → Int32) (v : Int32), t 51 (40 + 4 * n + 2 + z / 8) = Int32.ofNat b → B_X3_appends_92 (ax_c d) 417 (Int32.ofNat n) (Int32.ofNat z) v (tw_H h t) = some (.inl (some (.int (v ||| dx_shl 1 (Int32.ofNat b)))), tw_H h (appE t n z b)) := by
    intro t v ht
    refine dx_app b_X3_appends_92 ?_
    rw [tr_51, Option.bind_some, tw_vn, Option.bind_some, t_blockOf (by omega) h t _ 51 (tl_51 h) n (z / 8) _ hn (z_div8 z hz) (by omega), cI_v, ht, tr_51, Option.bind_some, tr_26, Option.bind_some, tl_26, i1, Option.bind_some, Option.bind_some, z_rem8 z hz, ts_51, e3 _ (by omega), Option.bind_some, Option.bind_some, tr_51, Option.bind_some, t_entry (by omega), cI_v, ts_51, e1, Option.bind_some, Option.bind_some]
    rfl
  refine dx_app m_X3_appends ?_
  rw [tr_51, Option.bind_some, t_entry (by omega), cI_v, tl_51, e1, Option.bind_some, Option.bind_some, hs, t_blockOfEntry (by omega), cI_v, z_rem8 z hz]
  by_cases q : z % 8 = 0
  · rw [if_pos q, if_pos q, if_neg (fun w => w (by rw [q]; rfl)), tw_vn, Option.bind_some, t_freeBlock (by omega), cI_v, hf q, tr_51, Option.bind_some, t_turns (by omega) h _ b hb, cV_v, tr_51, Option.bind_some, t_entry (by omega), cI_v, z_div8 z hz, ts_51, e2, Option.bind_some, Option.bind_some]
    have h60 : ∀ (v : Int32) (m k : Nat), k + m = 8 → B_X3_appends_60 (ax_c d) 417 (Int32.ofNat n) (Int32.ofNat z) v (Int32.ofNat b) (Int32.ofNat k) (tw_H h (tw_fo (appT s n z b) 51 (8 * b) k fun _ => 0)) = some (.inl (some (.int ((v ||| 16) ||| dx_shl 1 (Int32.ofNat b)))), tw_H h (appE (appN s n z b) n z b)) := by
      intro v m
      induction m with
      | zero =>
        intro k hk
        obtain rfl : k = 8 := by omega
        refine dx_app b_X3_appends_60 ?_
        rw [if_pos (by decide), lt_at]
        refine h92 (appN s n z b) _ ?_
        unfold appN tw_fo
        rw [if_pos rfl]
        show (if _ then _ else appT s n z b 51 (40 + 4 * n + 2 + z / 8)) = _
        rw [if_neg (by omega)]
        unfold appT tw_up
        rw [if_pos rfl]
        exact if_pos rfl
      | succ m ih =>
        intro k hk
        refine dx_app b_X3_appends_60 ?_
        rw [if_neg (nge8 (show k < 8 by omega)), tr_51, Option.bind_some, ts_51, e3 k (by omega), Option.bind_some, Option.bind_some, lt_at, show Int32.ofNat k + 1 = Int32.ofNat (k + 1) from i_add k 1]
        have := ih (k + 1) (by omega)
        rw [← fo_up] at this
        exact this
    have := h60 (dx_shl 1 (5 + Int32.ofNat n / 2)) 8 0 rfl
    rw [fo_zero] at this
    exact this
  · have q' : ¬ Int32.ofNat (z % 8) = 0 := fun w => q ((i_eq (b := 0) (by omega) (by decide)).mp w)
    rw [if_neg q, if_neg q, if_pos q']
    exact h92 s _ (hf' q)
