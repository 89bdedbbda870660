/- a call that writes: the draft is a copy of the disk, the call changes it, the blocks changed are planned -/
def drS (s : Nat → Nat → Int32) : Nat → Nat → Int32 := tw_fl s 51 256 (s 50)
theorem t_calls163 {d : Nat} (hd : 1 ≤ d) (h : ax_H) (s t : Nat → Nat → Int32) (call file x : Int32) (hc : cntB x 32 ≤ 3)
    (hq : (if call = 0 then ax_c d 440 [.ref 417] (tw_H h (drS s)) else if call = 1 then ax_c d 442 [.ref 417, .int file] (tw_H h (drS s)) else if call = 2 then ax_c d 444 [.ref 417, .int file] (tw_H h (drS s)) else if call = 5 then ax_c d 445 [.ref 417, .int file] (tw_H h (drS s)) else ax_c d 446 [.ref 417, .int file] (tw_H h (drS s))) = some (.inl (some (.int x)), tw_H h t)) :
    ∀ m k : Nat, k + m = 256 → B_X3_calls_163 (ax_c d) 417 call file (Int32.ofNat k) (tw_H h (tw_fl s 51 k (s 50))) = some (.inl none, tw_H h (prepF t x)) := by
  intro m
  induction m with
  | zero =>
    intro k hk
    obtain rfl : k = 256 := by omega
    have hq' := hq
    refine dx_app b_X3_calls_163 ?_
    rw [if_pos (by decide), show tw_fl s 51 256 (s 50) = drS s from rfl]
    by_cases q0 : call = 0
    · rw [if_pos q0] at hq'
      rw [if_neg (fun z => z q0), tw_vn, Option.bind_some, hq', cI_v, tw_vn, Option.bind_some, t_prepares hd h t x hc, cV_v]
    · rw [if_neg q0] at hq'
      rw [if_pos q0]
      by_cases q1 : call = 1
      · rw [if_pos q1] at hq'
        rw [if_neg (fun z => z q1), tw_vn, Option.bind_some, hq', cI_v, tw_vn, Option.bind_some, t_prepares hd h t x hc, cV_v]
      · rw [if_neg q1] at hq'
        rw [if_pos q1]
        by_cases q2 : call = 2
        · rw [if_pos q2] at hq'
          rw [if_neg (fun z => z q2), tw_vn, Option.bind_some, hq', cI_v, tw_vn, Option.bind_some, t_prepares hd h t x hc, cV_v]
        · rw [if_neg q2] at hq'
          rw [if_pos q2]
          by_cases q5 : call = 5
          · rw [if_pos q5] at hq'
            rw [if_neg (fun z => z q5), tw_vn, Option.bind_some, hq', cI_v, tw_vn, Option.bind_some, t_prepares hd h t x hc, cV_v]
          · rw [if_neg q5] at hq'
            rw [if_pos q5, tw_vn, Option.bind_some, hq', cI_v, tw_vn, Option.bind_some, t_prepares hd h t x hc, cV_v]
  | succ m ih =>
    intro k hk
    have e1 : ix 256 (Int32.ofNat k) = some k := ix_of rfl (by omega) (by omega)
    refine dx_app b_X3_calls_163 ?_
    rw [if_neg (nge256 (show k < 256 by omega)), tr_51, Option.bind_some, tr_50, Option.bind_some, tl_50, e1, Option.bind_some, Option.bind_some, ts_51, e1, Option.bind_some, Option.bind_some, lt_at, show Int32.ofNat k + 1 = Int32.ofNat (k + 1) from i_add k 1]
    have := ih (k + 1) (by omega)
    rw [← fl_up] at this
    exact this
