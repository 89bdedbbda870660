/- a call's end without a write: what it reads, its answer, the counter behind it -/
def rdS (s : Nat → Nat → Int32) (call res : Int32) (n b r : Nat) : Nat → Nat → Int32 :=
  if res = 0 then if call = 3 then tw_up s 26 2 (s 50 (8 * b + r)) else if call = 4 then tw_up s 26 1 (s 50 (40 + 4 * n + 1)) else s else s
def ansS (t : Nat → Nat → Int32) (res : Int32) : Nat → Nat → Int32 := tw_up (tw_up t 26 3 res) 27 0 (t 27 0 + 2)
theorem t_calls142 {d : Nat} (h : ax_H) (s : Nat → Nat → Int32) (res : Int32) : B_X3_calls_142 (ax_c d) 417 res (tw_H h s) = some (.inl none, tw_H h (ansS s res)) := by
  have i3 : ix 4 3 = some 3 := by decide
  refine dx_app b_X3_calls_142 ?_
  rw [tr_26, Option.bind_some, ts_26, i3, Option.bind_some, Option.bind_some, tg_27, Option.bind_some, tp_27, Option.bind_some]
  rfl
theorem t_calls116 {d : Nat} (hd : 1 ≤ d) (h : ax_H) (s : Nat → Nat → Int32) (call file res : Int32) (n : Nat) (hf : call = 4 → res = 0 → file = Int32.ofNat n ∧ n < 6) :
    B_X3_calls_116 (ax_c d) 417 call file res (tw_H h s) = some (.inl none, tw_H h (ansS (if res = 0 then if call = 4 then tw_up s 26 1 (s 50 (40 + 4 * n + 1)) else s else s) res)) := by
  have i1 : ix 4 1 = some 1 := by decide
  refine dx_app b_X3_calls_116 ?_
  by_cases q : res = 0
  · rw [if_neg (fun z => z q), if_pos q]
    by_cases q4 : call = 4
    · obtain ⟨rfl, hn⟩ := hf q4 q
      have e1 : ix 256 (40 + 4 * Int32.ofNat n + 1) = some (40 + 4 * n + 1) := ix_of (by rw [i_entry]; exact i_add _ 1) (by omega) (by omega)
      rw [if_neg (fun z => z q4), if_pos q4, tr_26, Option.bind_some, tr_50, Option.bind_some, t_entry hd, cI_v, tl_50, e1, Option.bind_some, Option.bind_some, ts_26, i1, Option.bind_some, Option.bind_some]
      exact t_calls142 h _ res
    · rw [if_pos q4, if_neg q4]
      exact t_calls142 h _ res
  · rw [if_pos q, if_neg q]
    exact t_calls142 h _ res
theorem t_calls61 {d : Nat} (hd : 2 ≤ d) (h : ax_H) (s : Nat → Nat → Int32) (call file res : Int32) (n j b r : Nat) (hf : (call = 3 ∨ call = 4) → res = 0 → file = Int32.ofNat n ∧ n < 6)
    (h3 : call = 3 → res = 0 → s 26 1 / 8 = Int32.ofNat j ∧ j < 2 ∧ dx_rem (s 26 1) 8 = Int32.ofNat r ∧ r < 8 ∧ s 50 (40 + 4 * n + 2 + j) = Int32.ofNat b ∧ b < 32) :
    B_X3_calls_61 (ax_c d) 1 417 call file res (tw_H h s) = some (.inl none, tw_H h (ansS (rdS s call res n b r) res)) := by
  have i1 : ix 4 1 = some 1 := by decide
  have i2 : ix 4 2 = some 2 := by decide
  refine dx_app b_X3_calls_61 ?_
  rw [if_neg (by decide)]
  unfold rdS
  by_cases q : res = 0
  · rw [if_neg (fun z => z q), if_pos q]
    by_cases q3 : call = 3
    · obtain ⟨rfl, hn⟩ := hf (Or.inl q3) q
      obtain ⟨hx, hj, hr, hr8, hb, hbb⟩ := h3 q3 q
      have e1 : ix 256 (8 * Int32.ofNat b + Int32.ofNat r) = some (8 * b + r) := ix_of (by rw [show (8 : Int32) * Int32.ofNat b = Int32.ofNat (8 * b) from i_mul 8 b, i_add]) (by omega) (by omega)
      rw [if_neg (fun z => z q3), if_pos q3, tr_26, Option.bind_some, tr_50, Option.bind_some, Option.bind_some, Option.bind_some, tl_26, i1, Option.bind_some, Option.bind_some, tw_vn, Option.bind_some, t_blockOf hd h s _ 50 (tl_50 h) n j _ hn hx hj, cI_v, hb, tr_26, Option.bind_some, tl_26, i1, Option.bind_some, Option.bind_some, hr, tl_50, e1, Option.bind_some, Option.bind_some, ts_26, i2, Option.bind_some, Option.bind_some]
      rw [t_calls116 (by omega) h _ call _ res n (fun z => by rw [q3] at z; exact absurd z (by decide)), if_pos q, if_neg (by rw [q3]; decide)]
    · rw [if_pos q3, if_neg q3, t_calls116 (by omega) h _ call _ res n (fun z => hf (Or.inr z)), if_pos q]
  · rw [if_pos q, if_neg q, t_calls116 (by omega) h _ call _ res n (fun _ z => absurd z q), if_neg q]
