/-! the law's run from the start that the claim knows (behind 71.start: st_h, old_c) -/
/- with law_start OLD LWQ st_h old_c st_len st_byt ax_dead ax_args -/
theorem st_c400 (L : Nat) (xs : Nat → Int32) {i : Nat} (h : i < 400) : (st_h L xs).1 i = old_c L xs i := if_pos h
theorem st_OLD (L : Nat) (xs : Nat → Int32) : OLD (st_h L xs) := by
  refine ⟨⟨fun _ => none, rfl⟩, ⟨_, rfl⟩, ⟨_, rfl⟩, fun j hj => ?_, rfl, fun j hj => ?_⟩
  · match j, hj with
    | 0, _ => exact ⟨rfl, _, _, (by decide : st_len.getD 0 0 ≤ 30), rfl⟩
    | 1, _ => exact ⟨rfl, _, _, (by decide : st_len.getD 1 0 ≤ 30), rfl⟩
    | 2, _ => exact ⟨rfl, _, _, (by decide : st_len.getD 2 0 ≤ 30), rfl⟩
    | 3, _ => exact ⟨rfl, _, _, (by decide : st_len.getD 3 0 ≤ 30), rfl⟩
    | 4, _ => exact ⟨rfl, _, _, (by decide : st_len.getD 4 0 ≤ 30), rfl⟩
    | j + 5, hj => omega
  · rw [st_c400 L xs (by omega)]
    unfold old_c
    rw [if_neg (by omega), if_neg (by omega), if_neg (by omega), if_neg (by omega), if_neg (by omega), if_pos (by omega), Nat.add_sub_cancel_left]
theorem pure_main (L : Nat) (xs : Nat → Int32) (hL : L ≤ 384) : ∃ d : Nat, d ≤ 1500 ∧ ∃ r : ax_R, ax_run (ax_c d) P_L_law 0 (ax_args 7 [.ref 0]) [] (st_h L xs) = some r ∧ r.1 = .inl (some (.int 1)) ∧ r.2.2.1 ≤ 1200384 ∧ r.2.2.2 ≤ 5487274 := by
  obtain ⟨h', e, q1, q2⟩ := law_start (d := 94) (xs := xs) hL (Nat.le_refl _) (show (st_h L xs).1 0 = .inl (0, L, .inl xs) from rfl) (st_OLD L xs) rfl rfl
  exact ⟨94 + 1, by decide, _, e, rfl, q1, q2⟩
