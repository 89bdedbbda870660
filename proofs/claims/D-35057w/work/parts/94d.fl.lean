/-! the twin: how many files, how many blocks are free -/
/- with t_blockOf div_nat rem_nat i_eqf t_holds t_in t_find t_entry t_isUsed tl_50 tr_50 tp_0 -/
def filN (D : Nat → Int32) : Nat → Nat
  | 0 => 0
  | f + 1 => filN D f + (if D (40 + 4 * f) = 0 then 0 else 1)
def freN (D : Nat → Int32) : Nat → Nat
  | 0 => 0
  | k + 1 => freN D k + (if usedF D (8 + k) = 0 then 1 else 0)
theorem filN_le (D : Nat → Int32) : ∀ f, filN D f ≤ f
  | 0 => Nat.le_refl 0
  | f + 1 => by
    have := filN_le D f
    show filN D f + (if D (40 + 4 * f) = 0 then 0 else 1) ≤ f + 1
    split <;> omega
theorem freN_le (D : Nat → Int32) : ∀ f, freN D f ≤ f
  | 0 => Nat.le_refl 0
  | f + 1 => by
    have := freN_le D f
    show freN D f + (if usedF D (8 + f) = 0 then 1 else 0) ≤ f + 1
    split <;> omega
section FLS
variable {d : Nat} {h : ax_H} {s : Nat → Nat → Int32}
theorem t_filesOf (hd : 2 ≤ d) : ax_c d 414 [.ref 417] (tw_H h s) = some (.inl (some (.int (Int32.ofNat (filN (s 50) 6)))), tw_H h s) := by
  obtain ⟨d, rfl, he⟩ := d_succ hd
  refine dx_app m_X3_filesOf ?_
  have loop : ∀ r f, f + r = 6 → B_X3_filesOf_4 (ax_c d) 417 (Int32.ofNat (filN (s 50) f)) (Int32.ofNat f) (tw_H h s) = some (.inl (some (.int (Int32.ofNat (filN (s 50) 6)))), tw_H h s) := by
    intro r
    induction r with
    | zero =>
      intro f hf
      obtain rfl : f = 6 := by omega
      exact dx_app b_X3_filesOf_4 (if_pos (by decide))
    | succ r ih =>
      intro f hf
      refine dx_app b_X3_filesOf_4 ?_
      have st : filN (s 50) (f + 1) = filN (s 50) f + (if s 50 (40 + 4 * f) = 0 then 0 else 1) := rfl
      rw [if_neg (show ¬ (6 : Int32) ≤ Int32.ofNat f from i_ge_not (n := 6) (by omega) (by omega)), tr_50, Option.bind_some, t_entry (by omega), cI_v, i_entry, tl_50, ix_of (k := 40 + 4 * f) rfl (by omega) (by omega), Option.bind_some, Option.bind_some]
      by_cases z : s 50 (40 + 4 * f) = 0
      · rw [if_neg (fun y => y z), lt_at, lt_at, Int32.add_zero, show Int32.ofNat f + 1 = Int32.ofNat (f + 1) from i_add f 1]
        have := ih (f + 1) (by omega)
        rw [st, if_pos z] at this
        exact this
      · rw [if_pos z, lt_at, lt_at, show Int32.ofNat f + 1 = Int32.ofNat (f + 1) from i_add f 1, show Int32.ofNat (filN (s 50) f) + 1 = Int32.ofNat (filN (s 50) f + 1) from i_add _ 1]
        have := ih (f + 1) (by omega)
        rw [st, if_neg z] at this
        exact this
  exact loop 6 0 rfl
theorem t_files (hd : 3 ≤ d) : ax_c d 475 [.ref 417] (tw_H h s) = some (.inl (some (.int (Int32.ofNat (filN (s 50) 6)))), tw_H h (tw_up s 0 0 0)) := by
  obtain ⟨d, rfl, he⟩ := d_succ hd
  refine dx_app m_X3_files ?_
  rw [tp_0, Option.bind_some, tw_vn, Option.bind_some, t_filesOf (by omega), cI_v]
  rfl
theorem t_freeBlocks (hd : 2 ≤ d) : ax_c d 479 [.ref 417] (tw_H h s) = some (.inl (some (.int (Int32.ofNat (freN (s 50) 24)))), tw_H h (tw_up s 0 0 0)) := by
  obtain ⟨d, rfl, he⟩ := d_succ hd
  refine dx_app m_X3_freeBlocks ?_
  rw [tp_0, Option.bind_some]
  have e50 : tw_up s 0 0 0 50 = s 50 := rfl
  have loop : ∀ r f, f + r = 24 → B_X3_freeBlocks_10 (ax_c d) 417 (Int32.ofNat (freN (s 50) f)) (Int32.ofNat (8 + f)) (tw_H h (tw_up s 0 0 0)) = some (.inl (some (.int (Int32.ofNat (freN (s 50) 24)))), tw_H h (tw_up s 0 0 0)) := by
    intro r
    induction r with
    | zero =>
      intro f hf
      obtain rfl : f = 24 := by omega
      exact dx_app b_X3_freeBlocks_10 (if_pos (by decide))
    | succ r ih =>
      intro f hf
      refine dx_app b_X3_freeBlocks_10 ?_
      have st : freN (s 50) (f + 1) = freN (s 50) f + (if usedF (s 50) (8 + f) = 0 then 1 else 0) := rfl
      rw [if_neg (show ¬ (32 : Int32) ≤ Int32.ofNat (8 + f) from i_ge_not (n := 32) (by omega) (by omega)), tr_50, Option.bind_some, t_isUsed (by omega) h _ _ 50 (tl_50 h) (8 + f) (by omega), cI_v, e50]
      by_cases z : usedF (s 50) (8 + f) = 0
      · rw [if_pos z, lt_at, lt_at, show Int32.ofNat (8 + f) + 1 = Int32.ofNat (8 + (f + 1)) from i_add (8 + f) 1, show Int32.ofNat (freN (s 50) f) + 1 = Int32.ofNat (freN (s 50) f + 1) from i_add _ 1]
        have := ih (f + 1) (by omega)
        rw [st, if_pos z] at this
        exact this
      · rw [if_neg z, lt_at, lt_at, Int32.add_zero, show Int32.ofNat (8 + f) + 1 = Int32.ofNat (8 + (f + 1)) from i_add (8 + f) 1]
        have := ih (f + 1) (by omega)
        rw [st, if_neg z] at this
        exact this
  exact loop 24 0 rfl
/-! a file by its name -/
def noN (D : Nat → Int32) (name : Int32) : Int32 := if inI name 1 65535 = 0 then 1 else if findF D name = -1 then 2 else 0
theorem t_errorOfName (hd : 3 ≤ d) (name : Int32) : ax_c d 477 [.ref 417, .int name] (tw_H h s) = some (.inl (some (.int (noN (s 50) name))), tw_H h s) := by
  obtain ⟨d, rfl, he⟩ := d_succ hd
  refine dx_app m_X3_errorOfName ?_
  rw [t_in (by omega), cI_v]
  unfold noN
  by_cases q : inI name 1 65535 = 0
  · rw [if_neg (fun z => z q), if_pos q]
  · rw [if_pos q, if_neg q, tr_50, Option.bind_some, t_find (by omega) h s _ 50 (tl_50 h), cI_v]
    by_cases q2 : findF (s 50) name = -1
    · rw [if_neg (fun z => z q2), if_pos q2]
    · rw [if_pos q2, if_neg q2]
theorem findR_nat (row : Nat → Int32) (name : Int32) : ∀ m k, findR row name m k = -1 ∨ ∃ f, k ≤ f ∧ f < k + m ∧ findR row name m k = Int32.ofNat f ∧ row (40 + 4 * f) = name
  | 0, _ => Or.inl rfl
  | m + 1, k => by
    by_cases q : row (40 + 4 * k) = name
    · exact Or.inr ⟨k, Nat.le_refl _, by omega, if_pos q, q⟩
    · rw [show findR row name (m + 1) k = findR row name m (k + 1) from if_neg q]
      exact (findR_nat row name m (k + 1)).imp id fun ⟨f, h1, h2, h3, h4⟩ => ⟨f, by omega, by omega, h3, h4⟩
theorem findF_nat (row : Nat → Int32) (name : Int32) : findF row name = -1 ∨ ∃ f, f < 6 ∧ findF row name = Int32.ofNat f ∧ row (40 + 4 * f) = name :=
  (findR_nat row name 6 0).imp id fun ⟨f, _, h2, h3, h4⟩ => ⟨f, by omega, h3, h4⟩
theorem t_size_no (hd : 4 ≤ d) {name : Int32} (hn : noN (s 50) name ≠ 0) : ax_c d 476 [.ref 417, .int name] (tw_H h s) = some (.inl (some (.int 0)), tw_H h (tw_up s 0 0 (noN (s 50) name))) := by
  obtain ⟨d, rfl, he⟩ := d_succ hd
  refine dx_app m_X3_size ?_
  rw [tw_vn, Option.bind_some, t_errorOfName (by omega), cI_v, tw_vn, Option.bind_some, t_holds (by omega), cI_v, if_neg hn, if_pos rfl]
theorem t_size_yes (hd : 4 ≤ d) {name : Int32} (hn : noN (s 50) name = 0) {f : Nat} (hf : f < 6) (ef : findF (s 50) name = Int32.ofNat f) : ax_c d 476 [.ref 417, .int name] (tw_H h s) = some (.inl (some (.int (s 50 (40 + 4 * f + 1)))), tw_H h (tw_up s 0 0 0)) := by
  obtain ⟨d, rfl, he⟩ := d_succ hd
  refine dx_app m_X3_size ?_
  rw [tw_vn, Option.bind_some, t_errorOfName (by omega), cI_v, hn, tw_vn, Option.bind_some, t_holds (by omega), cI_v, if_pos rfl, if_neg (by decide), tr_50, Option.bind_some, Option.bind_some, t_find (by omega) h _ _ 50 (tl_50 h), cI_v, show findF (tw_up s 0 0 0 50) name = Int32.ofNat f from ef, t_entry (by omega), cI_v, i_entry, tl_50, show ix 256 (Int32.ofNat (40 + 4 * f) + 1) = some _ from i_eqf hf (k := 1) (by omega), Option.bind_some, Option.bind_some]
  rfl
theorem t_wordOf_52 (hd : 1 ≤ d) {e p f : Int32} (he : e ≠ 0) : B_X3_wordOf_52 (ax_c d) 417 e 417 p f (tw_H h s) = some (.inl (some (.int 0)), tw_H h (tw_up s 0 0 e)) := by
  refine dx_app b_X3_wordOf_52 ?_
  rw [tw_vn, Option.bind_some, t_holds hd, cI_v, if_neg he, if_neg (fun z => z rfl)]
theorem t_wordOf_no (hd : 4 ≤ d) {name p : Int32} (hn : noN (s 50) name ≠ 0) : ax_c d 478 [.ref 417, .int name, .int p] (tw_H h s) = some (.inl (some (.int 0)), tw_H h (tw_up s 0 0 (noN (s 50) name))) := by
  obtain ⟨d, rfl, he⟩ := d_succ hd
  refine dx_app m_X3_wordOf ?_
  rw [tw_vn, Option.bind_some, t_errorOfName (by omega), cI_v, tr_50, Option.bind_some, t_find (by omega) h s _ 50 (tl_50 h), cI_v, if_neg hn]
  exact t_wordOf_52 (by omega) hn
theorem t_wordOf_far (hd : 4 ≤ d) {name p : Int32} (hn : noN (s 50) name = 0) {f : Nat} (hf : f < 6) (ef : findF (s 50) name = Int32.ofNat f) (hp : inI p 0 (s 50 (40 + 4 * f + 1) - 1) = 0) : ax_c d 478 [.ref 417, .int name, .int p] (tw_H h s) = some (.inl (some (.int 0)), tw_H h (tw_up s 0 0 3)) := by
  obtain ⟨d, rfl, he⟩ := d_succ hd
  refine dx_app m_X3_wordOf ?_
  rw [tw_vn, Option.bind_some, t_errorOfName (by omega), cI_v, tr_50, Option.bind_some, t_find (by omega) h s _ 50 (tl_50 h), cI_v, if_pos hn, tr_50, Option.bind_some, ef, t_entry (by omega), cI_v, i_entry, tl_50, show ix 256 (Int32.ofNat (40 + 4 * f) + 1) = some _ from i_eqf hf (k := 1) (by omega), Option.bind_some, Option.bind_some, t_in (by omega), cI_v, if_pos hp]
  exact t_wordOf_52 (by omega) (by decide)
theorem t_wordOf_yes (hd : 4 ≤ d) {name : Int32} (hn : noN (s 50) name = 0) {f p v : Nat} (hf : f < 6) (ef : findF (s 50) name = Int32.ofNat f) (hp : inI (Int32.ofNat p) 0 (s 50 (40 + 4 * f + 1) - 1) ≠ 0) (hp16 : p < 16) (hv : s 50 (40 + 4 * f + (2 + p / 8)) = Int32.ofNat v) (hv2 : v < 32) : ax_c d 478 [.ref 417, .int name, .int (Int32.ofNat p)] (tw_H h s) = some (.inl (some (.int (s 50 (8 * v + p % 8)))), tw_H h (tw_up s 0 0 0)) := by
  obtain ⟨d, rfl, he⟩ := d_succ hd
  refine dx_app m_X3_wordOf ?_
  rw [tw_vn, Option.bind_some, t_errorOfName (by omega), cI_v, tr_50, Option.bind_some, t_find (by omega) h s _ 50 (tl_50 h), cI_v, if_pos hn, tr_50, Option.bind_some, ef, t_entry (by omega), cI_v, i_entry, tl_50, show ix 256 (Int32.ofNat (40 + 4 * f) + 1) = some _ from i_eqf hf (k := 1) (by omega), Option.bind_some, Option.bind_some, t_in (by omega), cI_v, if_neg hp]
  refine dx_app b_X3_wordOf_52 ?_
  rw [tw_vn, Option.bind_some, t_holds (by omega), cI_v, if_pos rfl, if_pos (by decide), tr_50, Option.bind_some, Option.bind_some, tw_vn, Option.bind_some, t_blockOf (by omega) h _ _ 50 (tl_50 h) f (p / 8) (Int32.ofNat p) hf (div_nat (b := 8) (by omega) (by omega)) (by omega), cI_v, show tw_up s 0 0 0 50 (40 + 4 * f + 2 + p / 8) = Int32.ofNat v from by rw [← hv]; show s 50 _ = _; rw [Nat.add_assoc], show dx_rem (Int32.ofNat p) 8 = Int32.ofNat (p % 8) from rem_nat (b := 8) (by omega) (by omega), show (8 : Int32) * Int32.ofNat v = Int32.ofNat (8 * v) from i_mul 8 v, i_add, tl_50, ix_of (k := 8 * v + p % 8) rfl (by omega) (by omega), Option.bind_some, Option.bind_some]
  rfl
end FLS
