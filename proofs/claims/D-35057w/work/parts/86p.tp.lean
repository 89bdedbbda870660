/- preparing the write: the blocks whose bits are on go into the plan, with their words -/
abbrev onB (m : Int32) (k : Nat) : Prop := dx_shr m (Int32.ofNat k) &&& 1 = 1
def cntB (m : Int32) : Nat → Nat
  | 0 => 0
  | k + 1 => if onB m k then cntB m k + 1 else cntB m k
theorem cntB_mono (m : Int32) (k j : Nat) : cntB m k ≤ cntB m (k + j) := by
  induction j with
  | zero => exact Nat.le_refl _
  | succ j ih =>
    refine Nat.le_trans ih ?_
    show _ ≤ (if onB m (k + j) then cntB m (k + j) + 1 else cntB m (k + j))
    split <;> omega
def prepK (t : Nat → Nat → Int32) (k c : Nat) : Nat → Nat → Int32 := tw_up (tw_fo (tw_up t 48 c (Int32.ofNat k)) 49 (8 * c) 8 fun j => t 51 (8 * k + j)) 47 0 (Int32.ofNat (c + 1))
def prepS (s : Nat → Nat → Int32) (m : Int32) : Nat → Nat → Nat → Int32
  | 0 => tw_up s 47 0 0
  | k + 1 => if onB m k then prepK (prepS s m k) k (cntB m k) else prepS s m k
theorem prep_c (s : Nat → Nat → Int32) (m : Int32) (k : Nat) : prepS s m k 47 0 = Int32.ofNat (cntB m k) := by
  induction k with
  | zero => rfl
  | succ k ih =>
    show (if onB m k then prepK (prepS s m k) k (cntB m k) else prepS s m k) 47 0 = Int32.ofNat (if onB m k then cntB m k + 1 else cntB m k)
    split
    · rfl
    · exact ih
def prepF (s : Nat → Nat → Int32) (m : Int32) : Nat → Nat → Int32 := tw_up (prepS s m 32) 46 0 (2 * Int32.ofNat (cntB m 32) + 2)
theorem t_prepares {d : Nat} (hd : 1 ≤ d) (h : ax_H) (s : Nat → Nat → Int32) (m : Int32) (hc : cntB m 32 ≤ 3) : ax_c d 447 [.ref 417, .int m] (tw_H h s) = some (.inl none, tw_H h (prepF s m)) := by
  obtain ⟨d, rfl, he⟩ := d_succ hd
  have h7 : ∀ n k : Nat, k + n = 32 → B_X3_prepares_7 (ax_c d) 417 m (Int32.ofNat k) (tw_H h (prepS s m k)) = some (.inl none, tw_H h (prepF s m)) := by
    intro n
    induction n with
    | zero =>
      intro k hk
      obtain rfl : k = 32 := by omega
      refine dx_app b_X3_prepares_7 ?_
      rw [if_pos (by decide), tg_47, Option.bind_some, prep_c, tp_46, Option.bind_some]
      rfl
    | succ n ih =>
      intro k hk
      have hi := ih (k + 1) (by omega)
      have ek : Int32.ofNat k + 1 = Int32.ofNat (k + 1) := i_add k 1
      refine dx_app b_X3_prepares_7 ?_
      have g32 : ¬ (32 : Int32) ≤ Int32.ofNat k := i_ge_not (n := 32) (by omega) (by decide)
      rw [if_neg g32]
      by_cases q : onB m k
      · rw [show prepS s m (k + 1) = prepK (prepS s m k) k (cntB m k) from if_pos q] at hi
        have hc3 : cntB m k < 3 := by
          have a := cntB_mono m (k + 1) (32 - (k + 1))
          rw [show k + 1 + (32 - (k + 1)) = 32 by omega, show cntB m (k + 1) = cntB m k + 1 from if_pos q] at a
          omega
        have hg := prep_c s m k
        revert hi hg hc3
        generalize prepS s m k = t
        generalize cntB m k = c
        intro hi hc3 hg
        have i3 : ix 3 (Int32.ofNat c) = some c := ix_of rfl hc3 (by omega)
        have h34 : ∀ n j, j + n = 8 → B_X3_prepares_34 (ax_c d) 417 m (Int32.ofNat k) (Int32.ofNat j) (tw_H h (tw_fo (tw_up t 48 c (Int32.ofNat k)) 49 (8 * c) j fun i => t 51 (8 * k + i))) = some (.inl none, tw_H h (prepF s m)) := by
          intro n
          induction n with
          | zero =>
            intro j hj
            obtain rfl : j = 8 := by omega
            refine dx_app b_X3_prepares_34 ?_
            rw [if_pos (by decide), tg_47, Option.bind_some, show tw_fo (tw_up t 48 c (Int32.ofNat k)) 49 (8 * c) 8 (fun i => t 51 (8 * k + i)) 47 0 = t 47 0 from rfl, hg, show Int32.ofNat c + 1 = Int32.ofNat (c + 1) from i_add c 1, tp_47, Option.bind_some, lt_at, ek]
            exact hi
          | succ n ihn =>
            intro j hj
            have e1 : ix 256 (8 * Int32.ofNat k + Int32.ofNat j) = some (8 * k + j) := ix_of (by rw [show (8 : Int32) * Int32.ofNat k = Int32.ofNat (8 * k) from i_mul 8 k, i_add]) (by omega) (by omega)
            have e2 : ix 24 (8 * Int32.ofNat c + Int32.ofNat j) = some (8 * c + j) := ix_of (by rw [show (8 : Int32) * Int32.ofNat c = Int32.ofNat (8 * c) from i_mul 8 c, i_add]) (by omega) (by omega)
            refine dx_app b_X3_prepares_34 ?_
            rw [if_neg (nge8 (show j < 8 by omega)), tr_49, Option.bind_some, tg_47, Option.bind_some, show tw_fo (tw_up t 48 c (Int32.ofNat k)) 49 (8 * c) j (fun i => t 51 (8 * k + i)) 47 0 = t 47 0 from rfl, hg, tr_51, Option.bind_some, tl_51, e1, Option.bind_some, Option.bind_some, ts_49, e2, Option.bind_some, Option.bind_some, lt_at, show Int32.ofNat j + 1 = Int32.ofNat (j + 1) from i_add j 1]
            have := ihn (j + 1) (by omega)
            rw [← fo_up] at this
            exact this
        have q' : ¬ ¬ dx_shr m (Int32.ofNat k) &&& 1 = 1 := fun z => z q
        rw [if_neg q', tr_48, Option.bind_some, tg_47, Option.bind_some, hg, ts_48, i3, Option.bind_some, Option.bind_some]
        have := h34 8 0 rfl
        rw [fo_zero] at this
        exact this
      · rw [show prepS s m (k + 1) = prepS s m k from if_neg q] at hi
        have q' : ¬ dx_shr m (Int32.ofNat k) &&& 1 = 1 := q
        rw [if_pos q', lt_at, ek]
        exact hi
  refine dx_app m_X3_prepares ?_
  rw [tp_47, Option.bind_some]
  exact h7 32 0 rfl
