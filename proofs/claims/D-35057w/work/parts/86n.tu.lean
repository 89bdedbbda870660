/- renaming: a file of the new name, if there is one, is removed first -/
def renS (t : Nat → Nat → Int32) (n : Nat) : Nat → Nat → Int32 := tw_up t 51 (40 + 4 * n) (t 26 1)
theorem t_renames {d : Nat} (hd : 3 ≤ d) (h : ax_H) (s : Nat → Nat → Int32) (n : Nat) (hn : n < 6) (f : Option Nat) (hf : findF (s 50) (s 26 1) = (match f with | none => -1 | some m => Int32.ofNat m)) (b : Nat → Nat) (hfm : ∀ m, f = some m → m < 6 ∧ (∀ k, k < 2 → b k < 32) ∧ ∀ k, k < 2 → s 51 (40 + 4 * m + (2 + k)) = Int32.ofNat (b k)) :
    ax_c d 446 [.ref 417, .int (Int32.ofNat n)] (tw_H h s) = some (.inl (some (.int ((match f with | none => 0 | some m => remA b m) ||| dx_shl 1 (5 + Int32.ofNat n / 2)))), tw_H h (renS (match f with | none => s | some m => remF s b m) n)) := by
  obtain ⟨d, rfl, he⟩ := d_succ hd
  have i1 : ix 4 1 = some 1 := by decide
  have e0 : ix 256 (40 + 4 * Int32.ofNat n) = some (40 + 4 * n) := ix_of (by rw [i_entry]) (by omega) (by omega)
  have h28 : ∀ (t : Nat → Nat → Int32) (v : Int32), B_X3_renames_28 (ax_c d) v 417 (Int32.ofNat n) (tw_H h t) = some (.inl (some (.int (v ||| dx_shl 1 (5 + Int32.ofNat n / 2)))), tw_H h (renS t n)) := by
    intro t v
    refine dx_app b_X3_renames_28 ?_
    rw [tr_51, Option.bind_some, t_entry (by omega), cI_v, tr_26, Option.bind_some, tl_26, i1, Option.bind_some, Option.bind_some, ts_51, e0, Option.bind_some, Option.bind_some, t_blockOfEntry (by omega), cI_v]
    rfl
  refine dx_app m_X3_renames ?_
  rw [tr_50, Option.bind_some, tr_26, Option.bind_some, tl_26, i1, Option.bind_some, Option.bind_some, t_find (by omega) h s _ 50 (tl_50 h), cI_v, hf]
  cases f with
  | none =>
    rw [if_neg (fun z => z rfl)]
    exact h28 s 0
  | some m =>
    obtain ⟨hm, hb, hs⟩ := hfm m rfl
    have q : ¬ Int32.ofNat m = -1 := fun z => by
      have := congrArg Int32.toInt z
      rw [i_toInt (by omega)] at this
      have e : (-1 : Int32).toInt = -1 := by decide
      omega
    show (if ¬ Int32.ofNat m = -1 then _ else _) = _
    rw [if_pos q, tw_vn, Option.bind_some, t_removes (by omega) h s m hm b hb hs, cI_v]
    exact h28 _ _
