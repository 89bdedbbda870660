/-! cells of a heap: what the words read and write where the cell is known -/
section CEL
variable {h : ax_H} {o a k j n t : Nat} {fs : List Value} {tb : List (Nat × Nat)} {v w : Value} {x y i : Int32}
theorem gI_at (ho : h.1 o = .inr (k, fs)) (hl : tb.lookup k = some j) (hv : fs[j]? = some (.int x)) : dx_gI tb (.ref o) h = some x := by
  show (match ax_gf tb (h.1 o) with
    | some (.int x) => some x
    | _ => none) = _
  rw [ho]
  show (match (tb.lookup k).bind fun j => fs[j]? with
    | some (.int x) => some x
    | _ => none) = _
  rw [hl, Option.bind_some, hv]
theorem gA_at (ho : h.1 o = .inr (k, fs)) (hl : tb.lookup k = some j) (hv : fs[j]? = some v) (hr : ax_rv v = true) : dx_gA tb (.ref o) h = some v := by
  show (ax_gf tb (h.1 o)).bind _ = _
  rw [ho]
  show ((tb.lookup k).bind fun j => fs[j]?).bind _ = _
  rw [hl, Option.bind_some, hv, Option.bind_some, if_pos hr]
theorem pF_at {ty : FieldType} (ho : h.1 o = .inr (k, fs)) (hl : tb.lookup k = some j) (hj : j < fs.length) (ht : ax_ft ty w = true) (h4 : 400 ≤ o) : dx_pF tb ty (.ref o) w h = some (ax_set h o (.inr (k, fs.set j w))) := by
  have e1 : ax_pf tb ty w (.inr (k, fs)) = some (.inr (k, fs.set j w)) := by
    show ((tb.lookup k).bind _) = _
    rw [hl, Option.bind_some, if_pos hj, if_pos ht]
  show (if o < 400 then none else (ax_pf tb ty w (h.1 o)).bind fun c => some (ax_set h o c)) = _
  rw [if_neg (by omega), ho, e1]
  rfl
theorem ft_int (x : Int32) : ax_ft .int (.int x) = true := by unfold ax_ft; simp [narrow, fits]
theorem lI_at {f : Nat → Int32} (ha : h.1 a = .inl (t, n, .inl f)) : dx_lI t (.ref a) i h = (ix n i).bind fun k => some (f k) := by
  show ax_al t i (h.1 a) = _
  rw [ha]
  show (if t = t then (if i < 0 ∨ n ≤ i.toNatClampNeg then none else some (f i.toNatClampNeg)) else none) = _
  rw [if_pos rfl]
  unfold ix
  by_cases q : i < 0 ∨ n ≤ i.toNatClampNeg
  · rw [if_pos q, if_pos q]; rfl
  · rw [if_neg q, if_neg q]; rfl
theorem sI_at {f : Nat → Int32} (ha : h.1 a = .inl (t, n, .inl f)) (h4 : 400 ≤ a) : dx_sI t (.ref a) i x h = (ix n i).bind fun k => some (ax_set h a (.inl (t, n, .inl (upd f k x)))) := by
  show (if a < 400 then none else (ax_as t i x (h.1 a)).bind fun c => some (ax_set h a c)) = _
  rw [if_neg (by omega), ha]
  show (Option.bind (if t = t then (if i < 0 ∨ n ≤ i.toNatClampNeg then none else some _) else none) _) = _
  rw [if_pos rfl]
  unfold ix
  by_cases q : i < 0 ∨ n ≤ i.toNatClampNeg
  · rw [if_pos q, if_pos q]; rfl
  · rw [if_neg q, if_neg q]; rfl
theorem lA_at {f : Nat → Option Nat} (ha : h.1 a = .inl (t, n, .inr (.inr (.inr (.inr f))))) : dx_lA t (.ref a) i h = (ix n i).bind fun k => some (va_rf (f k)) := by
  show ax_rl t i (h.1 a) = _
  rw [ha]
  show (if t = t then (if i < 0 ∨ n ≤ i.toNatClampNeg then none else some (va_rf (f i.toNatClampNeg))) else none) = _
  rw [if_pos rfl]
  unfold ix
  by_cases q : i < 0 ∨ n ≤ i.toNatClampNeg
  · rw [if_pos q, if_pos q]; rfl
  · rw [if_neg q, if_neg q]; rfl
theorem len_at {d : (Nat → Int32) ⊕ (Nat → Int64) ⊕ (Nat → UInt32) ⊕ (Nat → UInt64) ⊕ (Nat → Option Nat)} (ha : h.1 a = .inl (t, n, d)) : dx_len (.ref a) h = some (Int32.ofNat n) := by
  show (ax_len (h.1 a)).bind _ = _
  rw [ha]; rfl
theorem vn_at (ho : h.1 o = .inr (k, fs)) : dx_vn tb (.ref o) h = tb.lookup k := by
  show (ax_ci (h.1 o)).bind _ = _
  rw [ho]; rfl
theorem set_at (c : ax_C) (q : Nat) : (ax_set h o c).1 q = if q = o then c else h.1 q := rfl
theorem set_eq (c : ax_C) : (ax_set h o c).1 o = c := if_pos rfl
theorem set_ne (c : ax_C) {q : Nat} (hq : q ≠ o) : (ax_set h o c).1 q = h.1 q := if_neg hq
theorem new_eq (c : ax_C) (m : Nat) : (ax_new h c m).1 (400 + h.2.1) = c := if_pos rfl
theorem new_ne (c : ax_C) (m : Nat) {q : Nat} (hq : q ≠ 400 + h.2.1) : (ax_new h c m).1 q = h.1 q := if_neg hq
end CEL
