/- a call, whole: without a write (noW) and with one -/
abbrev noW (s : Nat → Nat → Int32) (call res : Int32) : Prop := ¬ res = 0 ∨ call = 3 ∨ call = 4 ∨ (call = 6 ∧ s 26 0 = s 26 1)
theorem t_calls_to {d : Nat} (hd : 4 ≤ d) (h : ax_H) (s : Nat → Nat → Int32) (call : Int32) (n : Nat) (hf : findF (s 50) (s 26 0) = -1 ∨ (findF (s 50) (s 26 0) = Int32.ofNat n ∧ n < 6)) (A : Option ax_R)
    (h1 : noW s call (resF s call (findF (s 50) (s 26 0)) n) → B_X3_calls_61 (ax_c d) 1 417 call (findF (s 50) (s 26 0)) (resF s call (findF (s 50) (s 26 0)) n) (tw_H h s) = A)
    (h0 : ¬ noW s call (resF s call (findF (s 50) (s 26 0)) n) → B_X3_calls_61 (ax_c d) 0 417 call (findF (s 50) (s 26 0)) (resF s call (findF (s 50) (s 26 0)) n) (tw_H h s) = A) (a : _) (ha : A = some a) :
    ax_c (d + 1) 434 [.ref 417, .int call] (tw_H h s) = A := by
  have i0 : ix 4 0 = some 0 := by decide
  have i1 : ix 4 1 = some 1 := by decide
  rw [ha] at h1 h0 ⊢
  refine dx_app m_X3_calls ?_
  rw [tr_50, Option.bind_some, tr_26, Option.bind_some, tl_26, i0, Option.bind_some, Option.bind_some, t_find (by omega) h s _ 50 (tl_50 h), cI_v, tw_vn, Option.bind_some, t_resultOf hd h s call _ n hf, cI_v]
  revert h1 h0
  generalize resF s call (findF (s 50) (s 26 0)) n = res
  intro h0 h1
  by_cases q : res = 0
  · rw [if_neg (fun z => z q)]
    by_cases q3 : call = 3
    · rw [if_pos q3]
      exact h1 (Or.inr (Or.inl q3))
    · rw [if_neg q3]
      by_cases q4 : call = 4
      · rw [if_pos q4]
        exact h1 (Or.inr (Or.inr (Or.inl q4)))
      · rw [if_neg q4]
        by_cases q6 : call = 6
        · rw [if_neg (fun z => z q6), tr_26, Option.bind_some, tl_26, i0, Option.bind_some, Option.bind_some, Option.bind_some, tl_26, i1, Option.bind_some, Option.bind_some]
          by_cases qn : s 26 0 = s 26 1
          · rw [if_neg (fun z => z qn)]
            exact h1 (Or.inr (Or.inr (Or.inr ⟨q6, qn⟩)))
          · rw [if_pos qn]
            exact h0 (fun z => z.elim (fun w => w q) fun z => z.elim q3 fun z => z.elim q4 fun z => qn z.2)
        · rw [if_pos q6]
          exact h0 (fun z => z.elim (fun w => w q) fun z => z.elim q3 fun z => z.elim q4 fun z => q6 z.1)
  · rw [if_pos q]
    exact h1 (Or.inl q)
