/- the two ends of a call -/
theorem t_callsR {d : Nat} (hd : 5 ≤ d) (h : ax_H) (s : Nat → Nat → Int32) (call : Int32) (n j b r : Nat) (hf : findF (s 50) (s 26 0) = -1 ∨ (findF (s 50) (s 26 0) = Int32.ofNat n ∧ n < 6))
    (hw : noW s call (resF s call (findF (s 50) (s 26 0)) n)) (hf' : (call = 3 ∨ call = 4) → resF s call (findF (s 50) (s 26 0)) n = 0 → findF (s 50) (s 26 0) = Int32.ofNat n ∧ n < 6)
    (h3 : call = 3 → resF s call (findF (s 50) (s 26 0)) n = 0 → s 26 1 / 8 = Int32.ofNat j ∧ j < 2 ∧ dx_rem (s 26 1) 8 = Int32.ofNat r ∧ r < 8 ∧ s 50 (40 + 4 * n + 2 + j) = Int32.ofNat b ∧ b < 32) :
    ax_c d 434 [.ref 417, .int call] (tw_H h s) = some (.inl none, tw_H h (ansS (rdS s call (resF s call (findF (s 50) (s 26 0)) n) n b r) (resF s call (findF (s 50) (s 26 0)) n))) := by
  obtain ⟨d, rfl, he⟩ := d_succ hd
  exact t_calls_to he h s call n hf _ (fun _ => t_calls61 (by omega) h s call _ _ n j b r hf' h3) (fun z => absurd hw z) _ rfl
theorem t_callsW {d : Nat} (hd : 5 ≤ d) (h : ax_H) (s t : Nat → Nat → Int32) (call x : Int32) (n : Nat) (hf : findF (s 50) (s 26 0) = -1 ∨ (findF (s 50) (s 26 0) = Int32.ofNat n ∧ n < 6))
    (hw : ¬ noW s call (resF s call (findF (s 50) (s 26 0)) n)) (hc : cntB x 32 ≤ 3)
    (hq : ∀ d, 4 ≤ d → (if call = 0 then ax_c d 440 [.ref 417] (tw_H h (drS s)) else if call = 1 then ax_c d 442 [.ref 417, .int (findF (s 50) (s 26 0))] (tw_H h (drS s)) else if call = 2 then ax_c d 444 [.ref 417, .int (findF (s 50) (s 26 0))] (tw_H h (drS s)) else if call = 5 then ax_c d 445 [.ref 417, .int (findF (s 50) (s 26 0))] (tw_H h (drS s)) else ax_c d 446 [.ref 417, .int (findF (s 50) (s 26 0))] (tw_H h (drS s))) = some (.inl (some (.int x)), tw_H h t)) :
    ax_c d 434 [.ref 417, .int call] (tw_H h s) = some (.inl none, tw_H h (prepF t x)) := by
  obtain ⟨d, rfl, he⟩ := d_succ hd
  refine t_calls_to he h s call n hf _ (fun z => absurd z hw) (fun _ => ?_) _ rfl
  refine dx_app b_X3_calls_61 ?_
  rw [if_pos rfl]
  have := t_calls163 (by omega) h s t call (findF (s 50) (s 26 0)) x hc (hq d he) 256 0 rfl
  rw [fl_zero] at this
  exact this
