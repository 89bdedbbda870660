/-! printed by gen/emit84.py: the twin's state over a heap: s f i is the i-th word of the field f (i = 0 for a number) -/
set_option maxRecDepth 100000
def tw_tab : List (Nat × Nat × Nat) := [(0, 100, 2), (0, 500, 3), (0, 1220, 4), (0, 2, 5), (0, 5, 6), (0, 5, 7), (0, 6, 8), (0, 6, 9), (0, 6, 10), (0, 6, 11), (0, 6, 12), (0, 6, 13), (0, 256, 20), (0, 256, 21), (0, 256, 25), (0, 4, 26), (0, 60, 36), (0, 20, 41), (0, 20, 42), (0, 1000, 44), (0, 1000, 45), (0, 3, 48), (0, 24, 49), (0, 256, 50), (0, 256, 51), (0, 256, 53), (0, 256, 54), (0, 6, 56), (0, 6, 57), (0, 30, 61), (0, 5, 62), (0, 30, 63), (0, 5, 64), (0, 5, 65), (0, 5, 66), (0, 5, 67), (0, 5, 68), (0, 5, 69), (2, 5, 70), (0, 256, 71), (0, 20, 72), (0, 20, 73)]
def tw_fs (s : Nat → Nat → Int32) : List Value := [.int (s 0 0), .int (s 1 0), .ref 418, .ref 419, .ref 420, .ref 421, .ref 422, .ref 423, .ref 424, .ref 425, .ref 426, .ref 427, .ref 428, .ref 429, .int (s 14 0), .int (s 15 0), .int (s 16 0), .int (s 17 0), .int (s 18 0), .int (s 19 0), .ref 430, .ref 431, .int (s 22 0), .int (s 23 0), .int (s 24 0), .ref 432, .ref 433, .int (s 27 0), .int (s 28 0), .int (s 29 0), .int (s 30 0), .int (s 31 0), .int (s 32 0), .int (s 33 0), .int (s 34 0), .int (s 35 0), .ref 434, .int (s 37 0), .int (s 38 0), .int (s 39 0), .int (s 40 0), .ref 435, .ref 436, .int (s 43 0), .ref 437, .ref 438, .int (s 46 0), .int (s 47 0), .ref 439, .ref 440, .ref 441, .ref 442, .int (s 52 0), .ref 443, .ref 444, .int (s 55 0), .ref 445, .ref 446, .int (s 58 0), .int (s 59 0), .int (s 60 0), .ref 447, .ref 448, .ref 449, .ref 450, .ref 451, .ref 452, .ref 453, .ref 454, .ref 455, .ref 456, .ref 457, .ref 458, .ref 459]
def tw_cell (s : Nat → Nat → Int32) (j : Nat) : ax_C := match tw_tab[j]? with
  | some e => .inl (e.1, e.2.1, .inl (s e.2.2))
  | none => .inr (9999, [])
def tw_H (h : ax_H) (s : Nat → Nat → Int32) : ax_H := (fun p => if p < 417 then h.1 p else if p = 417 then .inr (38, tw_fs s) else if p < 460 then tw_cell s (p - 418) else h.1 p, h.2)
def tw_up (s : Nat → Nat → Int32) (f i : Nat) (x : Int32) : Nat → Nat → Int32 := fun g => if g = f then upd (s f) i x else s g
theorem tw_up_at (s : Nat → Nat → Int32) (f i g : Nat) (x : Int32) : tw_up s f i x g = if g = f then upd (s f) i x else s g := rfl
theorem upd_at (f : Nat → Int32) (k j : Nat) (x : Int32) : upd f k x j = if j = k then x else f j := rfl
theorem tw_put_gen (h : ax_H) (s s' : Nat → Nat → Int32) (p : Nat) (c : ax_C) (hp : 417 ≤ p ∧ p < 460) (h0 : (tw_H h s').1 p = c) (h1 : ∀ q, q ≠ p → 417 ≤ q → q < 460 → (tw_H h s').1 q = (tw_H h s).1 q) : ax_set (tw_H h s) p c = tw_H h s' := by
  refine Prod.ext ?_ rfl
  funext q
  show (if q = p then c else (tw_H h s).1 q) = (tw_H h s').1 q
  by_cases e : q = p
  · rw [if_pos e, e, h0]
  · rw [if_neg e]
    by_cases e1 : q < 417
    · show (if q < 417 then h.1 q else _) = (if q < 417 then h.1 q else _)
      rw [if_pos e1, if_pos e1]
    · by_cases e2 : q < 460
      · exact (h1 q e (by omega) e2).symm
      · show (if q < 417 then h.1 q else if q = 417 then _ else if q < 460 then _ else h.1 q) = (if q < 417 then h.1 q else if q = 417 then _ else if q < 460 then _ else h.1 q)
        rw [if_neg e1, if_neg (by omega), if_neg e2, if_neg e1, if_neg (by omega), if_neg e2]
theorem tw_H_cell (h : ax_H) (s : Nat → Nat → Int32) (j : Nat) (hj : j < 42) : (tw_H h s).1 (418 + j) = tw_cell s j := by
  show (if 418 + j < 417 then _ else if 418 + j = 417 then _ else if 418 + j < 460 then tw_cell s (418 + j - 418) else _) = _
  rw [if_neg (by omega), if_neg (by omega), if_pos (by omega), Nat.add_sub_cancel_left]
theorem tw_cell_up (s : Nat → Nat → Int32) (f i : Nat) (x : Int32) (j : Nat) (hj : ∀ e, tw_tab[j]? = some e → e.2.2 ≠ f) : tw_cell (tw_up s f i x) j = tw_cell s j := by
  unfold tw_cell
  cases hc : tw_tab[j]? with
  | none => rfl
  | some e =>
    have : tw_up s f i x e.2.2 = s e.2.2 := if_neg (hj e hc)
    show (.inl (e.1, e.2.1, .inl (tw_up s f i x e.2.2)) : ax_C) = .inl (e.1, e.2.1, .inl (s e.2.2))
    rw [this]
/-- a number's field -/
theorem tw_put_f (h : ax_H) (s : Nat → Nat → Int32) (k : Nat) (x : Int32) (hk : ∀ e ∈ tw_tab, e.2.2 ≠ k) (hf : tw_fs (tw_up s k 0 x) = (tw_fs s).set k (.int x)) : ax_set (tw_H h s) 417 (.inr (38, (tw_fs s).set k (.int x))) = tw_H h (tw_up s k 0 x) := by
  refine tw_put_gen h s _ 417 _ ⟨Nat.le_refl _, by omega⟩ ?_ fun q hq h1 h2 => ?_
  · show (.inr (38, tw_fs (tw_up s k 0 x)) : ax_C) = _
    rw [hf]
  · obtain ⟨j, rfl⟩ : ∃ j, q = 418 + j := ⟨q - 418, by omega⟩
    rw [tw_H_cell h _ j (by omega), tw_H_cell h _ j (by omega)]
    exact tw_cell_up s k 0 x j fun e he => hk e (List.mem_of_getElem? he)
/-- a word of a row -/
theorem tw_put_a (h : ax_H) (s : Nat → Nat → Int32) (j t n f i : Nat) (x : Int32) (hj : tw_tab[j]? = some (t, n, f)) (hu : ∀ j' e, j' < 42 → tw_tab[j']? = some e → j' ≠ j → e.2.2 ≠ f) (hj4 : j < 42) (hf : tw_fs (tw_up s f i x) = tw_fs s) : ax_set (tw_H h s) (418 + j) (.inl (t, n, .inl (upd (s f) i x))) = tw_H h (tw_up s f i x) := by
  refine tw_put_gen h s _ (418 + j) _ ⟨by omega, by omega⟩ ?_ fun q hq h1 h2 => ?_
  · rw [tw_H_cell h _ j hj4]
    unfold tw_cell
    rw [hj]
    show (.inl (t, n, .inl (tw_up s f i x f)) : ax_C) = _
    have : tw_up s f i x f = upd (s f) i x := if_pos rfl
    rw [this]
  · rcases Nat.lt_or_ge 417 q with h3 | h3
    · obtain ⟨j', rfl⟩ : ∃ j, q = 418 + j := ⟨q - 418, by omega⟩
      rw [tw_H_cell h _ j' (by omega), tw_H_cell h _ j' (by omega)]
      exact tw_cell_up s f i x j' fun e he => hu j' e (by omega) he (by omega)
    · obtain rfl : q = 417 := by omega
      show (.inr (38, tw_fs (tw_up s f i x)) : ax_C) = .inr (38, tw_fs s)
      rw [hf]
/-- an index that lies within n places -/
def ix (n : Nat) (i : Int32) : Option Nat := if i < 0 ∨ n ≤ i.toNatClampNeg then none else some i.toNatClampNeg
theorem ix_ofNat {n k : Nat} (hk : k < n) (hn : n ≤ 2 ^ 31) : ix n (Int32.ofNat k) = some k := by
  have h1 : (Int32.ofNat k).toInt = k := Int32.toInt_ofNat_of_lt (by omega)
  have h2 : (Int32.ofNat k).toNatClampNeg = k := by
    show (Int32.ofNat k).toInt.toNat = k
    rw [h1]; rfl
  unfold ix
  rw [if_neg (by rw [h2, Int32.lt_iff_toInt_lt, h1]; intro z; rcases z with z | z; · have : (0 : Int32).toInt = 0 := rfl; omega
                 · omega), h2]
theorem tw_vn (h : ax_H) (s : Nat → Nat → Int32) (k : Nat) : dx_vn [(38, k)] (.ref 417) (tw_H h s) = some k := rfl
theorem tw_sI_gen (h : ax_H) (s : Nat → Nat → Int32) (j t n f : Nat) (i x : Int32) (hj : tw_tab[j]? = some (t, n, f)) (hj4 : j < 42) (hu : ∀ j' e, j' < 42 → tw_tab[j']? = some e → j' ≠ j → e.2.2 ≠ f) (hf : ∀ i x, tw_fs (tw_up s f i x) = tw_fs s) : dx_sI t (.ref (418 + j)) i x (tw_H h s) = (ix n i).bind fun k => some (tw_H h (tw_up s f k x)) := by
  show (if 418 + j < 400 then none else (ax_as t i x ((tw_H h s).1 (418 + j))).bind fun c => some (ax_set (tw_H h s) (418 + j) c)) = _
  rw [if_neg (by omega), tw_H_cell h s j hj4]
  have : tw_cell s j = .inl (t, n, .inl (s f)) := by unfold tw_cell; rw [hj]
  rw [this]
  show (Option.bind (if t = t then (if i < 0 ∨ n ≤ i.toNatClampNeg then none else some _) else none) _) = _
  rw [if_pos rfl]
  unfold ix
  by_cases q : i < 0 ∨ n ≤ i.toNatClampNeg
  · rw [if_pos q, if_pos q]; rfl
  · rw [if_neg q, if_neg q]
    show some (ax_set (tw_H h s) (418 + j) _) = some _
    rw [tw_put_a h s j t n f i.toNatClampNeg x hj hu hj4 (hf _ _)]
theorem tw_lI_gen (h : ax_H) (s : Nat → Nat → Int32) (j t n f : Nat) (i : Int32) (hj : tw_tab[j]? = some (t, n, f)) (hj4 : j < 42) : dx_lI t (.ref (418 + j)) i (tw_H h s) = (ix n i).bind fun k => some (s f k) := by
  show ax_al t i ((tw_H h s).1 (418 + j)) = _
  rw [tw_H_cell h s j hj4]
  have : tw_cell s j = .inl (t, n, .inl (s f)) := by unfold tw_cell; rw [hj]
  rw [this]
  show (if t = t then (if i < 0 ∨ n ≤ i.toNatClampNeg then none else some _) else none) = _
  rw [if_pos rfl]
  unfold ix
  by_cases q : i < 0 ∨ n ≤ i.toNatClampNeg
  · rw [if_pos q, if_pos q]; rfl
  · rw [if_neg q, if_neg q]; rfl
theorem tw_uniq : ∀ j, j < 42 → ∀ j' e, j' < 42 → tw_tab[j']? = some e → j' ≠ j → ∀ e', tw_tab[j]? = some e' → e.2.2 ≠ e'.2.2 := by
  have key : ∀ j, j < 42 → ∀ j', j' < 42 → j' ≠ j → (tw_tab.getD j' (0, 0, 0)).2.2 ≠ (tw_tab.getD j (0, 0, 0)).2.2 := by decide +kernel
  intro j hj j' e hj' he hne e' he'
  have := key j hj j' hj' hne
  rw [List.getD_eq_getElem?_getD, List.getD_eq_getElem?_getD, he, he'] at this
  exact this
theorem tw_pF_gen (h : ax_H) (s : Nat → Nat → Int32) (k : Nat) (ty : FieldType) (x : Int32) (hk : (tw_fs s)[k]? = some (.int (s k 0))) (hne : ∀ e ∈ tw_tab, e.2.2 ≠ k) (hf : tw_fs (tw_up s k 0 x) = (tw_fs s).set k (.int x)) : dx_pF [(38, k)] ty (.ref 417) (.int x) (tw_H h s) = if ax_ft ty (.int x) = true then some (tw_H h (tw_up s k 0 x)) else none := by
  show (if 417 < 400 then none else (ax_pf [(38, k)] ty (.int x) (.inr (38, tw_fs s))).bind fun c => some (ax_set (tw_H h s) 417 c)) = _
  rw [if_neg (by omega)]
  have hlt : k < (tw_fs s).length := (List.getElem?_eq_some_iff.mp hk).1
  have e1 : ax_pf [(38, k)] ty (.int x) (.inr (38, tw_fs s)) = if ax_ft ty (.int x) = true then some (.inr (38, (tw_fs s).set k (.int x))) else none := by
    show (if k < (tw_fs s).length then _ else none) = _
    rw [if_pos hlt]
  rw [e1]
  by_cases q : ax_ft ty (.int x) = true
  · rw [if_pos q, if_pos q]
    show some (ax_set (tw_H h s) 417 _) = some _
    rw [tw_put_f h s k x hne hf]
  · rw [if_neg q, if_neg q]; rfl
theorem tw_pF_int (h : ax_H) (s : Nat → Nat → Int32) (k : Nat) (x : Int32) (hk : (tw_fs s)[k]? = some (.int (s k 0))) (hne : ∀ e ∈ tw_tab, e.2.2 ≠ k) (hf : tw_fs (tw_up s k 0 x) = (tw_fs s).set k (.int x)) : dx_pF [(38, k)] .int (.ref 417) (.int x) (tw_H h s) = some (tw_H h (tw_up s k 0 x)) := by
  rw [tw_pF_gen h s k .int x hk hne hf, if_pos]
  unfold ax_ft
  simp [narrow, fits]
theorem tw_pF_bool (h : ax_H) (s : Nat → Nat → Int32) (k : Nat) (x : Int32) (hk : (tw_fs s)[k]? = some (.int (s k 0))) (hne : ∀ e ∈ tw_tab, e.2.2 ≠ k) (hf : tw_fs (tw_up s k 0 x) = (tw_fs s).set k (.int x)) : dx_pF [(38, k)] .boolean (.ref 417) (.int x) (tw_H h s) = if ax_ft .boolean (.int x) = true then some (tw_H h (tw_up s k 0 x)) else none := tw_pF_gen h s k .boolean x hk hne hf
theorem tg_0 (h : ax_H) (s : Nat → Nat → Int32) : dx_gI [(38, 0)] (.ref 417) (tw_H h s) = some (s 0 0) := rfl
theorem tp_0 (h : ax_H) (s : Nat → Nat → Int32) (x : Int32) : dx_pF [(38, 0)] (.int) (.ref 417) (.int x) (tw_H h s) = some (tw_H h (tw_up s 0 0 x)) := tw_pF_int h s 0 x rfl (by decide) rfl
theorem tg_1 (h : ax_H) (s : Nat → Nat → Int32) : dx_gI [(38, 1)] (.ref 417) (tw_H h s) = some (s 1 0) := rfl
theorem tp_1 (h : ax_H) (s : Nat → Nat → Int32) (x : Int32) : dx_pF [(38, 1)] (.int) (.ref 417) (.int x) (tw_H h s) = some (tw_H h (tw_up s 1 0 x)) := tw_pF_int h s 1 x rfl (by decide) rfl
theorem tr_2 (h : ax_H) (s : Nat → Nat → Int32) : dx_gA [(38, 2)] (.ref 417) (tw_H h s) = some (.ref 418) := rfl
theorem tl_2 (h : ax_H) (s : Nat → Nat → Int32) (i : Int32) : dx_lI 0 (.ref 418) i (tw_H h s) = (ix 100 i).bind fun k => some (s 2 k) := tw_lI_gen h s 0 0 100 2 i rfl (Nat.le_of_ble_eq_true rfl)
theorem ts_2 (h : ax_H) (s : Nat → Nat → Int32) (i x : Int32) : dx_sI 0 (.ref 418) i x (tw_H h s) = (ix 100 i).bind fun j => some (tw_H h (tw_up s 2 j x)) := tw_sI_gen h s 0 0 100 2 i x rfl (Nat.le_of_ble_eq_true rfl) (fun j' e h1 h2 h3 => tw_uniq 0 (Nat.le_of_ble_eq_true rfl) j' e h1 h2 h3 _ rfl) (fun _ _ => rfl)
theorem tn_2 (h : ax_H) (s : Nat → Nat → Int32) : dx_len (.ref 418) (tw_H h s) = some 100 := rfl
theorem tr_3 (h : ax_H) (s : Nat → Nat → Int32) : dx_gA [(38, 3)] (.ref 417) (tw_H h s) = some (.ref 419) := rfl
theorem tl_3 (h : ax_H) (s : Nat → Nat → Int32) (i : Int32) : dx_lI 0 (.ref 419) i (tw_H h s) = (ix 500 i).bind fun k => some (s 3 k) := tw_lI_gen h s 1 0 500 3 i rfl (Nat.le_of_ble_eq_true rfl)
theorem ts_3 (h : ax_H) (s : Nat → Nat → Int32) (i x : Int32) : dx_sI 0 (.ref 419) i x (tw_H h s) = (ix 500 i).bind fun j => some (tw_H h (tw_up s 3 j x)) := tw_sI_gen h s 1 0 500 3 i x rfl (Nat.le_of_ble_eq_true rfl) (fun j' e h1 h2 h3 => tw_uniq 1 (Nat.le_of_ble_eq_true rfl) j' e h1 h2 h3 _ rfl) (fun _ _ => rfl)
theorem tn_3 (h : ax_H) (s : Nat → Nat → Int32) : dx_len (.ref 419) (tw_H h s) = some 500 := rfl
theorem tr_4 (h : ax_H) (s : Nat → Nat → Int32) : dx_gA [(38, 4)] (.ref 417) (tw_H h s) = some (.ref 420) := rfl
theorem tl_4 (h : ax_H) (s : Nat → Nat → Int32) (i : Int32) : dx_lI 0 (.ref 420) i (tw_H h s) = (ix 1220 i).bind fun k => some (s 4 k) := tw_lI_gen h s 2 0 1220 4 i rfl (Nat.le_of_ble_eq_true rfl)
theorem ts_4 (h : ax_H) (s : Nat → Nat → Int32) (i x : Int32) : dx_sI 0 (.ref 420) i x (tw_H h s) = (ix 1220 i).bind fun j => some (tw_H h (tw_up s 4 j x)) := tw_sI_gen h s 2 0 1220 4 i x rfl (Nat.le_of_ble_eq_true rfl) (fun j' e h1 h2 h3 => tw_uniq 2 (Nat.le_of_ble_eq_true rfl) j' e h1 h2 h3 _ rfl) (fun _ _ => rfl)
theorem tn_4 (h : ax_H) (s : Nat → Nat → Int32) : dx_len (.ref 420) (tw_H h s) = some 1220 := rfl
theorem tr_5 (h : ax_H) (s : Nat → Nat → Int32) : dx_gA [(38, 5)] (.ref 417) (tw_H h s) = some (.ref 421) := rfl
theorem tl_5 (h : ax_H) (s : Nat → Nat → Int32) (i : Int32) : dx_lI 0 (.ref 421) i (tw_H h s) = (ix 2 i).bind fun k => some (s 5 k) := tw_lI_gen h s 3 0 2 5 i rfl (Nat.le_of_ble_eq_true rfl)
theorem ts_5 (h : ax_H) (s : Nat → Nat → Int32) (i x : Int32) : dx_sI 0 (.ref 421) i x (tw_H h s) = (ix 2 i).bind fun j => some (tw_H h (tw_up s 5 j x)) := tw_sI_gen h s 3 0 2 5 i x rfl (Nat.le_of_ble_eq_true rfl) (fun j' e h1 h2 h3 => tw_uniq 3 (Nat.le_of_ble_eq_true rfl) j' e h1 h2 h3 _ rfl) (fun _ _ => rfl)
theorem tn_5 (h : ax_H) (s : Nat → Nat → Int32) : dx_len (.ref 421) (tw_H h s) = some 2 := rfl
theorem tr_6 (h : ax_H) (s : Nat → Nat → Int32) : dx_gA [(38, 6)] (.ref 417) (tw_H h s) = some (.ref 422) := rfl
theorem tl_6 (h : ax_H) (s : Nat → Nat → Int32) (i : Int32) : dx_lI 0 (.ref 422) i (tw_H h s) = (ix 5 i).bind fun k => some (s 6 k) := tw_lI_gen h s 4 0 5 6 i rfl (Nat.le_of_ble_eq_true rfl)
theorem ts_6 (h : ax_H) (s : Nat → Nat → Int32) (i x : Int32) : dx_sI 0 (.ref 422) i x (tw_H h s) = (ix 5 i).bind fun j => some (tw_H h (tw_up s 6 j x)) := tw_sI_gen h s 4 0 5 6 i x rfl (Nat.le_of_ble_eq_true rfl) (fun j' e h1 h2 h3 => tw_uniq 4 (Nat.le_of_ble_eq_true rfl) j' e h1 h2 h3 _ rfl) (fun _ _ => rfl)
theorem tn_6 (h : ax_H) (s : Nat → Nat → Int32) : dx_len (.ref 422) (tw_H h s) = some 5 := rfl
theorem tr_7 (h : ax_H) (s : Nat → Nat → Int32) : dx_gA [(38, 7)] (.ref 417) (tw_H h s) = some (.ref 423) := rfl
theorem tl_7 (h : ax_H) (s : Nat → Nat → Int32) (i : Int32) : dx_lI 0 (.ref 423) i (tw_H h s) = (ix 5 i).bind fun k => some (s 7 k) := tw_lI_gen h s 5 0 5 7 i rfl (Nat.le_of_ble_eq_true rfl)
theorem ts_7 (h : ax_H) (s : Nat → Nat → Int32) (i x : Int32) : dx_sI 0 (.ref 423) i x (tw_H h s) = (ix 5 i).bind fun j => some (tw_H h (tw_up s 7 j x)) := tw_sI_gen h s 5 0 5 7 i x rfl (Nat.le_of_ble_eq_true rfl) (fun j' e h1 h2 h3 => tw_uniq 5 (Nat.le_of_ble_eq_true rfl) j' e h1 h2 h3 _ rfl) (fun _ _ => rfl)
theorem tn_7 (h : ax_H) (s : Nat → Nat → Int32) : dx_len (.ref 423) (tw_H h s) = some 5 := rfl
theorem tr_8 (h : ax_H) (s : Nat → Nat → Int32) : dx_gA [(38, 8)] (.ref 417) (tw_H h s) = some (.ref 424) := rfl
theorem tl_8 (h : ax_H) (s : Nat → Nat → Int32) (i : Int32) : dx_lI 0 (.ref 424) i (tw_H h s) = (ix 6 i).bind fun k => some (s 8 k) := tw_lI_gen h s 6 0 6 8 i rfl (Nat.le_of_ble_eq_true rfl)
theorem ts_8 (h : ax_H) (s : Nat → Nat → Int32) (i x : Int32) : dx_sI 0 (.ref 424) i x (tw_H h s) = (ix 6 i).bind fun j => some (tw_H h (tw_up s 8 j x)) := tw_sI_gen h s 6 0 6 8 i x rfl (Nat.le_of_ble_eq_true rfl) (fun j' e h1 h2 h3 => tw_uniq 6 (Nat.le_of_ble_eq_true rfl) j' e h1 h2 h3 _ rfl) (fun _ _ => rfl)
theorem tn_8 (h : ax_H) (s : Nat → Nat → Int32) : dx_len (.ref 424) (tw_H h s) = some 6 := rfl
theorem tr_9 (h : ax_H) (s : Nat → Nat → Int32) : dx_gA [(38, 9)] (.ref 417) (tw_H h s) = some (.ref 425) := rfl
theorem tl_9 (h : ax_H) (s : Nat → Nat → Int32) (i : Int32) : dx_lI 0 (.ref 425) i (tw_H h s) = (ix 6 i).bind fun k => some (s 9 k) := tw_lI_gen h s 7 0 6 9 i rfl (Nat.le_of_ble_eq_true rfl)
theorem ts_9 (h : ax_H) (s : Nat → Nat → Int32) (i x : Int32) : dx_sI 0 (.ref 425) i x (tw_H h s) = (ix 6 i).bind fun j => some (tw_H h (tw_up s 9 j x)) := tw_sI_gen h s 7 0 6 9 i x rfl (Nat.le_of_ble_eq_true rfl) (fun j' e h1 h2 h3 => tw_uniq 7 (Nat.le_of_ble_eq_true rfl) j' e h1 h2 h3 _ rfl) (fun _ _ => rfl)
theorem tn_9 (h : ax_H) (s : Nat → Nat → Int32) : dx_len (.ref 425) (tw_H h s) = some 6 := rfl
theorem tr_10 (h : ax_H) (s : Nat → Nat → Int32) : dx_gA [(38, 10)] (.ref 417) (tw_H h s) = some (.ref 426) := rfl
theorem tl_10 (h : ax_H) (s : Nat → Nat → Int32) (i : Int32) : dx_lI 0 (.ref 426) i (tw_H h s) = (ix 6 i).bind fun k => some (s 10 k) := tw_lI_gen h s 8 0 6 10 i rfl (Nat.le_of_ble_eq_true rfl)
theorem ts_10 (h : ax_H) (s : Nat → Nat → Int32) (i x : Int32) : dx_sI 0 (.ref 426) i x (tw_H h s) = (ix 6 i).bind fun j => some (tw_H h (tw_up s 10 j x)) := tw_sI_gen h s 8 0 6 10 i x rfl (Nat.le_of_ble_eq_true rfl) (fun j' e h1 h2 h3 => tw_uniq 8 (Nat.le_of_ble_eq_true rfl) j' e h1 h2 h3 _ rfl) (fun _ _ => rfl)
theorem tn_10 (h : ax_H) (s : Nat → Nat → Int32) : dx_len (.ref 426) (tw_H h s) = some 6 := rfl
theorem tr_11 (h : ax_H) (s : Nat → Nat → Int32) : dx_gA [(38, 11)] (.ref 417) (tw_H h s) = some (.ref 427) := rfl
theorem tl_11 (h : ax_H) (s : Nat → Nat → Int32) (i : Int32) : dx_lI 0 (.ref 427) i (tw_H h s) = (ix 6 i).bind fun k => some (s 11 k) := tw_lI_gen h s 9 0 6 11 i rfl (Nat.le_of_ble_eq_true rfl)
theorem ts_11 (h : ax_H) (s : Nat → Nat → Int32) (i x : Int32) : dx_sI 0 (.ref 427) i x (tw_H h s) = (ix 6 i).bind fun j => some (tw_H h (tw_up s 11 j x)) := tw_sI_gen h s 9 0 6 11 i x rfl (Nat.le_of_ble_eq_true rfl) (fun j' e h1 h2 h3 => tw_uniq 9 (Nat.le_of_ble_eq_true rfl) j' e h1 h2 h3 _ rfl) (fun _ _ => rfl)
theorem tn_11 (h : ax_H) (s : Nat → Nat → Int32) : dx_len (.ref 427) (tw_H h s) = some 6 := rfl
theorem tr_12 (h : ax_H) (s : Nat → Nat → Int32) : dx_gA [(38, 12)] (.ref 417) (tw_H h s) = some (.ref 428) := rfl
theorem tl_12 (h : ax_H) (s : Nat → Nat → Int32) (i : Int32) : dx_lI 0 (.ref 428) i (tw_H h s) = (ix 6 i).bind fun k => some (s 12 k) := tw_lI_gen h s 10 0 6 12 i rfl (Nat.le_of_ble_eq_true rfl)
theorem ts_12 (h : ax_H) (s : Nat → Nat → Int32) (i x : Int32) : dx_sI 0 (.ref 428) i x (tw_H h s) = (ix 6 i).bind fun j => some (tw_H h (tw_up s 12 j x)) := tw_sI_gen h s 10 0 6 12 i x rfl (Nat.le_of_ble_eq_true rfl) (fun j' e h1 h2 h3 => tw_uniq 10 (Nat.le_of_ble_eq_true rfl) j' e h1 h2 h3 _ rfl) (fun _ _ => rfl)
theorem tn_12 (h : ax_H) (s : Nat → Nat → Int32) : dx_len (.ref 428) (tw_H h s) = some 6 := rfl
theorem tr_13 (h : ax_H) (s : Nat → Nat → Int32) : dx_gA [(38, 13)] (.ref 417) (tw_H h s) = some (.ref 429) := rfl
theorem tl_13 (h : ax_H) (s : Nat → Nat → Int32) (i : Int32) : dx_lI 0 (.ref 429) i (tw_H h s) = (ix 6 i).bind fun k => some (s 13 k) := tw_lI_gen h s 11 0 6 13 i rfl (Nat.le_of_ble_eq_true rfl)
theorem ts_13 (h : ax_H) (s : Nat → Nat → Int32) (i x : Int32) : dx_sI 0 (.ref 429) i x (tw_H h s) = (ix 6 i).bind fun j => some (tw_H h (tw_up s 13 j x)) := tw_sI_gen h s 11 0 6 13 i x rfl (Nat.le_of_ble_eq_true rfl) (fun j' e h1 h2 h3 => tw_uniq 11 (Nat.le_of_ble_eq_true rfl) j' e h1 h2 h3 _ rfl) (fun _ _ => rfl)
theorem tn_13 (h : ax_H) (s : Nat → Nat → Int32) : dx_len (.ref 429) (tw_H h s) = some 6 := rfl
theorem tg_14 (h : ax_H) (s : Nat → Nat → Int32) : dx_gI [(38, 14)] (.ref 417) (tw_H h s) = some (s 14 0) := rfl
theorem tp_14 (h : ax_H) (s : Nat → Nat → Int32) (x : Int32) : dx_pF [(38, 14)] (.int) (.ref 417) (.int x) (tw_H h s) = some (tw_H h (tw_up s 14 0 x)) := tw_pF_int h s 14 x rfl (by decide) rfl
theorem tg_15 (h : ax_H) (s : Nat → Nat → Int32) : dx_gI [(38, 15)] (.ref 417) (tw_H h s) = some (s 15 0) := rfl
theorem tp_15 (h : ax_H) (s : Nat → Nat → Int32) (x : Int32) : dx_pF [(38, 15)] (.int) (.ref 417) (.int x) (tw_H h s) = some (tw_H h (tw_up s 15 0 x)) := tw_pF_int h s 15 x rfl (by decide) rfl
theorem tg_16 (h : ax_H) (s : Nat → Nat → Int32) : dx_gI [(38, 16)] (.ref 417) (tw_H h s) = some (s 16 0) := rfl
theorem tp_16 (h : ax_H) (s : Nat → Nat → Int32) (x : Int32) : dx_pF [(38, 16)] (.int) (.ref 417) (.int x) (tw_H h s) = some (tw_H h (tw_up s 16 0 x)) := tw_pF_int h s 16 x rfl (by decide) rfl
theorem tg_17 (h : ax_H) (s : Nat → Nat → Int32) : dx_gI [(38, 17)] (.ref 417) (tw_H h s) = some (s 17 0) := rfl
theorem tp_17 (h : ax_H) (s : Nat → Nat → Int32) (x : Int32) : dx_pF [(38, 17)] (.int) (.ref 417) (.int x) (tw_H h s) = some (tw_H h (tw_up s 17 0 x)) := tw_pF_int h s 17 x rfl (by decide) rfl
theorem tg_18 (h : ax_H) (s : Nat → Nat → Int32) : dx_gI [(38, 18)] (.ref 417) (tw_H h s) = some (s 18 0) := rfl
theorem tp_18 (h : ax_H) (s : Nat → Nat → Int32) (x : Int32) : dx_pF [(38, 18)] (.int) (.ref 417) (.int x) (tw_H h s) = some (tw_H h (tw_up s 18 0 x)) := tw_pF_int h s 18 x rfl (by decide) rfl
theorem tg_19 (h : ax_H) (s : Nat → Nat → Int32) : dx_gI [(38, 19)] (.ref 417) (tw_H h s) = some (s 19 0) := rfl
theorem tp_19 (h : ax_H) (s : Nat → Nat → Int32) (x : Int32) : dx_pF [(38, 19)] (.int) (.ref 417) (.int x) (tw_H h s) = some (tw_H h (tw_up s 19 0 x)) := tw_pF_int h s 19 x rfl (by decide) rfl
theorem tr_20 (h : ax_H) (s : Nat → Nat → Int32) : dx_gA [(38, 20)] (.ref 417) (tw_H h s) = some (.ref 430) := rfl
theorem tl_20 (h : ax_H) (s : Nat → Nat → Int32) (i : Int32) : dx_lI 0 (.ref 430) i (tw_H h s) = (ix 256 i).bind fun k => some (s 20 k) := tw_lI_gen h s 12 0 256 20 i rfl (Nat.le_of_ble_eq_true rfl)
theorem ts_20 (h : ax_H) (s : Nat → Nat → Int32) (i x : Int32) : dx_sI 0 (.ref 430) i x (tw_H h s) = (ix 256 i).bind fun j => some (tw_H h (tw_up s 20 j x)) := tw_sI_gen h s 12 0 256 20 i x rfl (Nat.le_of_ble_eq_true rfl) (fun j' e h1 h2 h3 => tw_uniq 12 (Nat.le_of_ble_eq_true rfl) j' e h1 h2 h3 _ rfl) (fun _ _ => rfl)
theorem tn_20 (h : ax_H) (s : Nat → Nat → Int32) : dx_len (.ref 430) (tw_H h s) = some 256 := rfl
theorem tr_21 (h : ax_H) (s : Nat → Nat → Int32) : dx_gA [(38, 21)] (.ref 417) (tw_H h s) = some (.ref 431) := rfl
theorem tl_21 (h : ax_H) (s : Nat → Nat → Int32) (i : Int32) : dx_lI 0 (.ref 431) i (tw_H h s) = (ix 256 i).bind fun k => some (s 21 k) := tw_lI_gen h s 13 0 256 21 i rfl (Nat.le_of_ble_eq_true rfl)
theorem ts_21 (h : ax_H) (s : Nat → Nat → Int32) (i x : Int32) : dx_sI 0 (.ref 431) i x (tw_H h s) = (ix 256 i).bind fun j => some (tw_H h (tw_up s 21 j x)) := tw_sI_gen h s 13 0 256 21 i x rfl (Nat.le_of_ble_eq_true rfl) (fun j' e h1 h2 h3 => tw_uniq 13 (Nat.le_of_ble_eq_true rfl) j' e h1 h2 h3 _ rfl) (fun _ _ => rfl)
theorem tn_21 (h : ax_H) (s : Nat → Nat → Int32) : dx_len (.ref 431) (tw_H h s) = some 256 := rfl
theorem tg_22 (h : ax_H) (s : Nat → Nat → Int32) : dx_gI [(38, 22)] (.ref 417) (tw_H h s) = some (s 22 0) := rfl
theorem tp_22 (h : ax_H) (s : Nat → Nat → Int32) (x : Int32) : dx_pF [(38, 22)] (.boolean) (.ref 417) (.int x) (tw_H h s) = if ax_ft .boolean (.int x) = true then some (tw_H h (tw_up s 22 0 x)) else none := tw_pF_bool h s 22 x rfl (by decide) rfl
theorem tg_23 (h : ax_H) (s : Nat → Nat → Int32) : dx_gI [(38, 23)] (.ref 417) (tw_H h s) = some (s 23 0) := rfl
theorem tp_23 (h : ax_H) (s : Nat → Nat → Int32) (x : Int32) : dx_pF [(38, 23)] (.int) (.ref 417) (.int x) (tw_H h s) = some (tw_H h (tw_up s 23 0 x)) := tw_pF_int h s 23 x rfl (by decide) rfl
theorem tg_24 (h : ax_H) (s : Nat → Nat → Int32) : dx_gI [(38, 24)] (.ref 417) (tw_H h s) = some (s 24 0) := rfl
theorem tp_24 (h : ax_H) (s : Nat → Nat → Int32) (x : Int32) : dx_pF [(38, 24)] (.int) (.ref 417) (.int x) (tw_H h s) = some (tw_H h (tw_up s 24 0 x)) := tw_pF_int h s 24 x rfl (by decide) rfl
theorem tr_25 (h : ax_H) (s : Nat → Nat → Int32) : dx_gA [(38, 25)] (.ref 417) (tw_H h s) = some (.ref 432) := rfl
theorem tl_25 (h : ax_H) (s : Nat → Nat → Int32) (i : Int32) : dx_lI 0 (.ref 432) i (tw_H h s) = (ix 256 i).bind fun k => some (s 25 k) := tw_lI_gen h s 14 0 256 25 i rfl (Nat.le_of_ble_eq_true rfl)
theorem ts_25 (h : ax_H) (s : Nat → Nat → Int32) (i x : Int32) : dx_sI 0 (.ref 432) i x (tw_H h s) = (ix 256 i).bind fun j => some (tw_H h (tw_up s 25 j x)) := tw_sI_gen h s 14 0 256 25 i x rfl (Nat.le_of_ble_eq_true rfl) (fun j' e h1 h2 h3 => tw_uniq 14 (Nat.le_of_ble_eq_true rfl) j' e h1 h2 h3 _ rfl) (fun _ _ => rfl)
theorem tn_25 (h : ax_H) (s : Nat → Nat → Int32) : dx_len (.ref 432) (tw_H h s) = some 256 := rfl
theorem tr_26 (h : ax_H) (s : Nat → Nat → Int32) : dx_gA [(38, 26)] (.ref 417) (tw_H h s) = some (.ref 433) := rfl
theorem tl_26 (h : ax_H) (s : Nat → Nat → Int32) (i : Int32) : dx_lI 0 (.ref 433) i (tw_H h s) = (ix 4 i).bind fun k => some (s 26 k) := tw_lI_gen h s 15 0 4 26 i rfl (Nat.le_of_ble_eq_true rfl)
theorem ts_26 (h : ax_H) (s : Nat → Nat → Int32) (i x : Int32) : dx_sI 0 (.ref 433) i x (tw_H h s) = (ix 4 i).bind fun j => some (tw_H h (tw_up s 26 j x)) := tw_sI_gen h s 15 0 4 26 i x rfl (Nat.le_of_ble_eq_true rfl) (fun j' e h1 h2 h3 => tw_uniq 15 (Nat.le_of_ble_eq_true rfl) j' e h1 h2 h3 _ rfl) (fun _ _ => rfl)
theorem tn_26 (h : ax_H) (s : Nat → Nat → Int32) : dx_len (.ref 433) (tw_H h s) = some 4 := rfl
theorem tg_27 (h : ax_H) (s : Nat → Nat → Int32) : dx_gI [(38, 27)] (.ref 417) (tw_H h s) = some (s 27 0) := rfl
theorem tp_27 (h : ax_H) (s : Nat → Nat → Int32) (x : Int32) : dx_pF [(38, 27)] (.int) (.ref 417) (.int x) (tw_H h s) = some (tw_H h (tw_up s 27 0 x)) := tw_pF_int h s 27 x rfl (by decide) rfl
theorem tg_28 (h : ax_H) (s : Nat → Nat → Int32) : dx_gI [(38, 28)] (.ref 417) (tw_H h s) = some (s 28 0) := rfl
theorem tp_28 (h : ax_H) (s : Nat → Nat → Int32) (x : Int32) : dx_pF [(38, 28)] (.int) (.ref 417) (.int x) (tw_H h s) = some (tw_H h (tw_up s 28 0 x)) := tw_pF_int h s 28 x rfl (by decide) rfl
theorem tg_29 (h : ax_H) (s : Nat → Nat → Int32) : dx_gI [(38, 29)] (.ref 417) (tw_H h s) = some (s 29 0) := rfl
theorem tp_29 (h : ax_H) (s : Nat → Nat → Int32) (x : Int32) : dx_pF [(38, 29)] (.boolean) (.ref 417) (.int x) (tw_H h s) = if ax_ft .boolean (.int x) = true then some (tw_H h (tw_up s 29 0 x)) else none := tw_pF_bool h s 29 x rfl (by decide) rfl
theorem tg_30 (h : ax_H) (s : Nat → Nat → Int32) : dx_gI [(38, 30)] (.ref 417) (tw_H h s) = some (s 30 0) := rfl
theorem tp_30 (h : ax_H) (s : Nat → Nat → Int32) (x : Int32) : dx_pF [(38, 30)] (.boolean) (.ref 417) (.int x) (tw_H h s) = if ax_ft .boolean (.int x) = true then some (tw_H h (tw_up s 30 0 x)) else none := tw_pF_bool h s 30 x rfl (by decide) rfl
theorem tg_31 (h : ax_H) (s : Nat → Nat → Int32) : dx_gI [(38, 31)] (.ref 417) (tw_H h s) = some (s 31 0) := rfl
theorem tp_31 (h : ax_H) (s : Nat → Nat → Int32) (x : Int32) : dx_pF [(38, 31)] (.boolean) (.ref 417) (.int x) (tw_H h s) = if ax_ft .boolean (.int x) = true then some (tw_H h (tw_up s 31 0 x)) else none := tw_pF_bool h s 31 x rfl (by decide) rfl
theorem tg_32 (h : ax_H) (s : Nat → Nat → Int32) : dx_gI [(38, 32)] (.ref 417) (tw_H h s) = some (s 32 0) := rfl
theorem tp_32 (h : ax_H) (s : Nat → Nat → Int32) (x : Int32) : dx_pF [(38, 32)] (.boolean) (.ref 417) (.int x) (tw_H h s) = if ax_ft .boolean (.int x) = true then some (tw_H h (tw_up s 32 0 x)) else none := tw_pF_bool h s 32 x rfl (by decide) rfl
theorem tg_33 (h : ax_H) (s : Nat → Nat → Int32) : dx_gI [(38, 33)] (.ref 417) (tw_H h s) = some (s 33 0) := rfl
theorem tp_33 (h : ax_H) (s : Nat → Nat → Int32) (x : Int32) : dx_pF [(38, 33)] (.boolean) (.ref 417) (.int x) (tw_H h s) = if ax_ft .boolean (.int x) = true then some (tw_H h (tw_up s 33 0 x)) else none := tw_pF_bool h s 33 x rfl (by decide) rfl
theorem tg_34 (h : ax_H) (s : Nat → Nat → Int32) : dx_gI [(38, 34)] (.ref 417) (tw_H h s) = some (s 34 0) := rfl
theorem tp_34 (h : ax_H) (s : Nat → Nat → Int32) (x : Int32) : dx_pF [(38, 34)] (.int) (.ref 417) (.int x) (tw_H h s) = some (tw_H h (tw_up s 34 0 x)) := tw_pF_int h s 34 x rfl (by decide) rfl
theorem tg_35 (h : ax_H) (s : Nat → Nat → Int32) : dx_gI [(38, 35)] (.ref 417) (tw_H h s) = some (s 35 0) := rfl
theorem tp_35 (h : ax_H) (s : Nat → Nat → Int32) (x : Int32) : dx_pF [(38, 35)] (.int) (.ref 417) (.int x) (tw_H h s) = some (tw_H h (tw_up s 35 0 x)) := tw_pF_int h s 35 x rfl (by decide) rfl
theorem tr_36 (h : ax_H) (s : Nat → Nat → Int32) : dx_gA [(38, 36)] (.ref 417) (tw_H h s) = some (.ref 434) := rfl
theorem tl_36 (h : ax_H) (s : Nat → Nat → Int32) (i : Int32) : dx_lI 0 (.ref 434) i (tw_H h s) = (ix 60 i).bind fun k => some (s 36 k) := tw_lI_gen h s 16 0 60 36 i rfl (Nat.le_of_ble_eq_true rfl)
theorem ts_36 (h : ax_H) (s : Nat → Nat → Int32) (i x : Int32) : dx_sI 0 (.ref 434) i x (tw_H h s) = (ix 60 i).bind fun j => some (tw_H h (tw_up s 36 j x)) := tw_sI_gen h s 16 0 60 36 i x rfl (Nat.le_of_ble_eq_true rfl) (fun j' e h1 h2 h3 => tw_uniq 16 (Nat.le_of_ble_eq_true rfl) j' e h1 h2 h3 _ rfl) (fun _ _ => rfl)
theorem tn_36 (h : ax_H) (s : Nat → Nat → Int32) : dx_len (.ref 434) (tw_H h s) = some 60 := rfl
theorem tg_37 (h : ax_H) (s : Nat → Nat → Int32) : dx_gI [(38, 37)] (.ref 417) (tw_H h s) = some (s 37 0) := rfl
theorem tp_37 (h : ax_H) (s : Nat → Nat → Int32) (x : Int32) : dx_pF [(38, 37)] (.int) (.ref 417) (.int x) (tw_H h s) = some (tw_H h (tw_up s 37 0 x)) := tw_pF_int h s 37 x rfl (by decide) rfl
theorem tg_38 (h : ax_H) (s : Nat → Nat → Int32) : dx_gI [(38, 38)] (.ref 417) (tw_H h s) = some (s 38 0) := rfl
theorem tp_38 (h : ax_H) (s : Nat → Nat → Int32) (x : Int32) : dx_pF [(38, 38)] (.int) (.ref 417) (.int x) (tw_H h s) = some (tw_H h (tw_up s 38 0 x)) := tw_pF_int h s 38 x rfl (by decide) rfl
theorem tg_39 (h : ax_H) (s : Nat → Nat → Int32) : dx_gI [(38, 39)] (.ref 417) (tw_H h s) = some (s 39 0) := rfl
theorem tp_39 (h : ax_H) (s : Nat → Nat → Int32) (x : Int32) : dx_pF [(38, 39)] (.int) (.ref 417) (.int x) (tw_H h s) = some (tw_H h (tw_up s 39 0 x)) := tw_pF_int h s 39 x rfl (by decide) rfl
theorem tg_40 (h : ax_H) (s : Nat → Nat → Int32) : dx_gI [(38, 40)] (.ref 417) (tw_H h s) = some (s 40 0) := rfl
theorem tp_40 (h : ax_H) (s : Nat → Nat → Int32) (x : Int32) : dx_pF [(38, 40)] (.int) (.ref 417) (.int x) (tw_H h s) = some (tw_H h (tw_up s 40 0 x)) := tw_pF_int h s 40 x rfl (by decide) rfl
theorem tr_41 (h : ax_H) (s : Nat → Nat → Int32) : dx_gA [(38, 41)] (.ref 417) (tw_H h s) = some (.ref 435) := rfl
theorem tl_41 (h : ax_H) (s : Nat → Nat → Int32) (i : Int32) : dx_lI 0 (.ref 435) i (tw_H h s) = (ix 20 i).bind fun k => some (s 41 k) := tw_lI_gen h s 17 0 20 41 i rfl (Nat.le_of_ble_eq_true rfl)
theorem ts_41 (h : ax_H) (s : Nat → Nat → Int32) (i x : Int32) : dx_sI 0 (.ref 435) i x (tw_H h s) = (ix 20 i).bind fun j => some (tw_H h (tw_up s 41 j x)) := tw_sI_gen h s 17 0 20 41 i x rfl (Nat.le_of_ble_eq_true rfl) (fun j' e h1 h2 h3 => tw_uniq 17 (Nat.le_of_ble_eq_true rfl) j' e h1 h2 h3 _ rfl) (fun _ _ => rfl)
theorem tn_41 (h : ax_H) (s : Nat → Nat → Int32) : dx_len (.ref 435) (tw_H h s) = some 20 := rfl
theorem tr_42 (h : ax_H) (s : Nat → Nat → Int32) : dx_gA [(38, 42)] (.ref 417) (tw_H h s) = some (.ref 436) := rfl
theorem tl_42 (h : ax_H) (s : Nat → Nat → Int32) (i : Int32) : dx_lI 0 (.ref 436) i (tw_H h s) = (ix 20 i).bind fun k => some (s 42 k) := tw_lI_gen h s 18 0 20 42 i rfl (Nat.le_of_ble_eq_true rfl)
theorem ts_42 (h : ax_H) (s : Nat → Nat → Int32) (i x : Int32) : dx_sI 0 (.ref 436) i x (tw_H h s) = (ix 20 i).bind fun j => some (tw_H h (tw_up s 42 j x)) := tw_sI_gen h s 18 0 20 42 i x rfl (Nat.le_of_ble_eq_true rfl) (fun j' e h1 h2 h3 => tw_uniq 18 (Nat.le_of_ble_eq_true rfl) j' e h1 h2 h3 _ rfl) (fun _ _ => rfl)
theorem tn_42 (h : ax_H) (s : Nat → Nat → Int32) : dx_len (.ref 436) (tw_H h s) = some 20 := rfl
theorem tg_43 (h : ax_H) (s : Nat → Nat → Int32) : dx_gI [(38, 43)] (.ref 417) (tw_H h s) = some (s 43 0) := rfl
theorem tp_43 (h : ax_H) (s : Nat → Nat → Int32) (x : Int32) : dx_pF [(38, 43)] (.int) (.ref 417) (.int x) (tw_H h s) = some (tw_H h (tw_up s 43 0 x)) := tw_pF_int h s 43 x rfl (by decide) rfl
theorem tr_44 (h : ax_H) (s : Nat → Nat → Int32) : dx_gA [(38, 44)] (.ref 417) (tw_H h s) = some (.ref 437) := rfl
theorem tl_44 (h : ax_H) (s : Nat → Nat → Int32) (i : Int32) : dx_lI 0 (.ref 437) i (tw_H h s) = (ix 1000 i).bind fun k => some (s 44 k) := tw_lI_gen h s 19 0 1000 44 i rfl (Nat.le_of_ble_eq_true rfl)
theorem ts_44 (h : ax_H) (s : Nat → Nat → Int32) (i x : Int32) : dx_sI 0 (.ref 437) i x (tw_H h s) = (ix 1000 i).bind fun j => some (tw_H h (tw_up s 44 j x)) := tw_sI_gen h s 19 0 1000 44 i x rfl (Nat.le_of_ble_eq_true rfl) (fun j' e h1 h2 h3 => tw_uniq 19 (Nat.le_of_ble_eq_true rfl) j' e h1 h2 h3 _ rfl) (fun _ _ => rfl)
theorem tn_44 (h : ax_H) (s : Nat → Nat → Int32) : dx_len (.ref 437) (tw_H h s) = some 1000 := rfl
theorem tr_45 (h : ax_H) (s : Nat → Nat → Int32) : dx_gA [(38, 45)] (.ref 417) (tw_H h s) = some (.ref 438) := rfl
theorem tl_45 (h : ax_H) (s : Nat → Nat → Int32) (i : Int32) : dx_lI 0 (.ref 438) i (tw_H h s) = (ix 1000 i).bind fun k => some (s 45 k) := tw_lI_gen h s 20 0 1000 45 i rfl (Nat.le_of_ble_eq_true rfl)
theorem ts_45 (h : ax_H) (s : Nat → Nat → Int32) (i x : Int32) : dx_sI 0 (.ref 438) i x (tw_H h s) = (ix 1000 i).bind fun j => some (tw_H h (tw_up s 45 j x)) := tw_sI_gen h s 20 0 1000 45 i x rfl (Nat.le_of_ble_eq_true rfl) (fun j' e h1 h2 h3 => tw_uniq 20 (Nat.le_of_ble_eq_true rfl) j' e h1 h2 h3 _ rfl) (fun _ _ => rfl)
theorem tn_45 (h : ax_H) (s : Nat → Nat → Int32) : dx_len (.ref 438) (tw_H h s) = some 1000 := rfl
theorem tg_46 (h : ax_H) (s : Nat → Nat → Int32) : dx_gI [(38, 46)] (.ref 417) (tw_H h s) = some (s 46 0) := rfl
theorem tp_46 (h : ax_H) (s : Nat → Nat → Int32) (x : Int32) : dx_pF [(38, 46)] (.int) (.ref 417) (.int x) (tw_H h s) = some (tw_H h (tw_up s 46 0 x)) := tw_pF_int h s 46 x rfl (by decide) rfl
theorem tg_47 (h : ax_H) (s : Nat → Nat → Int32) : dx_gI [(38, 47)] (.ref 417) (tw_H h s) = some (s 47 0) := rfl
theorem tp_47 (h : ax_H) (s : Nat → Nat → Int32) (x : Int32) : dx_pF [(38, 47)] (.int) (.ref 417) (.int x) (tw_H h s) = some (tw_H h (tw_up s 47 0 x)) := tw_pF_int h s 47 x rfl (by decide) rfl
theorem tr_48 (h : ax_H) (s : Nat → Nat → Int32) : dx_gA [(38, 48)] (.ref 417) (tw_H h s) = some (.ref 439) := rfl
theorem tl_48 (h : ax_H) (s : Nat → Nat → Int32) (i : Int32) : dx_lI 0 (.ref 439) i (tw_H h s) = (ix 3 i).bind fun k => some (s 48 k) := tw_lI_gen h s 21 0 3 48 i rfl (Nat.le_of_ble_eq_true rfl)
theorem ts_48 (h : ax_H) (s : Nat → Nat → Int32) (i x : Int32) : dx_sI 0 (.ref 439) i x (tw_H h s) = (ix 3 i).bind fun j => some (tw_H h (tw_up s 48 j x)) := tw_sI_gen h s 21 0 3 48 i x rfl (Nat.le_of_ble_eq_true rfl) (fun j' e h1 h2 h3 => tw_uniq 21 (Nat.le_of_ble_eq_true rfl) j' e h1 h2 h3 _ rfl) (fun _ _ => rfl)
theorem tn_48 (h : ax_H) (s : Nat → Nat → Int32) : dx_len (.ref 439) (tw_H h s) = some 3 := rfl
theorem tr_49 (h : ax_H) (s : Nat → Nat → Int32) : dx_gA [(38, 49)] (.ref 417) (tw_H h s) = some (.ref 440) := rfl
theorem tl_49 (h : ax_H) (s : Nat → Nat → Int32) (i : Int32) : dx_lI 0 (.ref 440) i (tw_H h s) = (ix 24 i).bind fun k => some (s 49 k) := tw_lI_gen h s 22 0 24 49 i rfl (Nat.le_of_ble_eq_true rfl)
theorem ts_49 (h : ax_H) (s : Nat → Nat → Int32) (i x : Int32) : dx_sI 0 (.ref 440) i x (tw_H h s) = (ix 24 i).bind fun j => some (tw_H h (tw_up s 49 j x)) := tw_sI_gen h s 22 0 24 49 i x rfl (Nat.le_of_ble_eq_true rfl) (fun j' e h1 h2 h3 => tw_uniq 22 (Nat.le_of_ble_eq_true rfl) j' e h1 h2 h3 _ rfl) (fun _ _ => rfl)
theorem tn_49 (h : ax_H) (s : Nat → Nat → Int32) : dx_len (.ref 440) (tw_H h s) = some 24 := rfl
theorem tr_50 (h : ax_H) (s : Nat → Nat → Int32) : dx_gA [(38, 50)] (.ref 417) (tw_H h s) = some (.ref 441) := rfl
theorem tl_50 (h : ax_H) (s : Nat → Nat → Int32) (i : Int32) : dx_lI 0 (.ref 441) i (tw_H h s) = (ix 256 i).bind fun k => some (s 50 k) := tw_lI_gen h s 23 0 256 50 i rfl (Nat.le_of_ble_eq_true rfl)
theorem ts_50 (h : ax_H) (s : Nat → Nat → Int32) (i x : Int32) : dx_sI 0 (.ref 441) i x (tw_H h s) = (ix 256 i).bind fun j => some (tw_H h (tw_up s 50 j x)) := tw_sI_gen h s 23 0 256 50 i x rfl (Nat.le_of_ble_eq_true rfl) (fun j' e h1 h2 h3 => tw_uniq 23 (Nat.le_of_ble_eq_true rfl) j' e h1 h2 h3 _ rfl) (fun _ _ => rfl)
theorem tn_50 (h : ax_H) (s : Nat → Nat → Int32) : dx_len (.ref 441) (tw_H h s) = some 256 := rfl
theorem tr_51 (h : ax_H) (s : Nat → Nat → Int32) : dx_gA [(38, 51)] (.ref 417) (tw_H h s) = some (.ref 442) := rfl
theorem tl_51 (h : ax_H) (s : Nat → Nat → Int32) (i : Int32) : dx_lI 0 (.ref 442) i (tw_H h s) = (ix 256 i).bind fun k => some (s 51 k) := tw_lI_gen h s 24 0 256 51 i rfl (Nat.le_of_ble_eq_true rfl)
theorem ts_51 (h : ax_H) (s : Nat → Nat → Int32) (i x : Int32) : dx_sI 0 (.ref 442) i x (tw_H h s) = (ix 256 i).bind fun j => some (tw_H h (tw_up s 51 j x)) := tw_sI_gen h s 24 0 256 51 i x rfl (Nat.le_of_ble_eq_true rfl) (fun j' e h1 h2 h3 => tw_uniq 24 (Nat.le_of_ble_eq_true rfl) j' e h1 h2 h3 _ rfl) (fun _ _ => rfl)
theorem tn_51 (h : ax_H) (s : Nat → Nat → Int32) : dx_len (.ref 442) (tw_H h s) = some 256 := rfl
theorem tg_52 (h : ax_H) (s : Nat → Nat → Int32) : dx_gI [(38, 52)] (.ref 417) (tw_H h s) = some (s 52 0) := rfl
theorem tp_52 (h : ax_H) (s : Nat → Nat → Int32) (x : Int32) : dx_pF [(38, 52)] (.int) (.ref 417) (.int x) (tw_H h s) = some (tw_H h (tw_up s 52 0 x)) := tw_pF_int h s 52 x rfl (by decide) rfl
theorem tr_53 (h : ax_H) (s : Nat → Nat → Int32) : dx_gA [(38, 53)] (.ref 417) (tw_H h s) = some (.ref 443) := rfl
theorem tl_53 (h : ax_H) (s : Nat → Nat → Int32) (i : Int32) : dx_lI 0 (.ref 443) i (tw_H h s) = (ix 256 i).bind fun k => some (s 53 k) := tw_lI_gen h s 25 0 256 53 i rfl (Nat.le_of_ble_eq_true rfl)
theorem ts_53 (h : ax_H) (s : Nat → Nat → Int32) (i x : Int32) : dx_sI 0 (.ref 443) i x (tw_H h s) = (ix 256 i).bind fun j => some (tw_H h (tw_up s 53 j x)) := tw_sI_gen h s 25 0 256 53 i x rfl (Nat.le_of_ble_eq_true rfl) (fun j' e h1 h2 h3 => tw_uniq 25 (Nat.le_of_ble_eq_true rfl) j' e h1 h2 h3 _ rfl) (fun _ _ => rfl)
theorem tn_53 (h : ax_H) (s : Nat → Nat → Int32) : dx_len (.ref 443) (tw_H h s) = some 256 := rfl
theorem tr_54 (h : ax_H) (s : Nat → Nat → Int32) : dx_gA [(38, 54)] (.ref 417) (tw_H h s) = some (.ref 444) := rfl
theorem tl_54 (h : ax_H) (s : Nat → Nat → Int32) (i : Int32) : dx_lI 0 (.ref 444) i (tw_H h s) = (ix 256 i).bind fun k => some (s 54 k) := tw_lI_gen h s 26 0 256 54 i rfl (Nat.le_of_ble_eq_true rfl)
theorem ts_54 (h : ax_H) (s : Nat → Nat → Int32) (i x : Int32) : dx_sI 0 (.ref 444) i x (tw_H h s) = (ix 256 i).bind fun j => some (tw_H h (tw_up s 54 j x)) := tw_sI_gen h s 26 0 256 54 i x rfl (Nat.le_of_ble_eq_true rfl) (fun j' e h1 h2 h3 => tw_uniq 26 (Nat.le_of_ble_eq_true rfl) j' e h1 h2 h3 _ rfl) (fun _ _ => rfl)
theorem tn_54 (h : ax_H) (s : Nat → Nat → Int32) : dx_len (.ref 444) (tw_H h s) = some 256 := rfl
theorem tg_55 (h : ax_H) (s : Nat → Nat → Int32) : dx_gI [(38, 55)] (.ref 417) (tw_H h s) = some (s 55 0) := rfl
theorem tp_55 (h : ax_H) (s : Nat → Nat → Int32) (x : Int32) : dx_pF [(38, 55)] (.int) (.ref 417) (.int x) (tw_H h s) = some (tw_H h (tw_up s 55 0 x)) := tw_pF_int h s 55 x rfl (by decide) rfl
theorem tr_56 (h : ax_H) (s : Nat → Nat → Int32) : dx_gA [(38, 56)] (.ref 417) (tw_H h s) = some (.ref 445) := rfl
theorem tl_56 (h : ax_H) (s : Nat → Nat → Int32) (i : Int32) : dx_lI 0 (.ref 445) i (tw_H h s) = (ix 6 i).bind fun k => some (s 56 k) := tw_lI_gen h s 27 0 6 56 i rfl (Nat.le_of_ble_eq_true rfl)
theorem ts_56 (h : ax_H) (s : Nat → Nat → Int32) (i x : Int32) : dx_sI 0 (.ref 445) i x (tw_H h s) = (ix 6 i).bind fun j => some (tw_H h (tw_up s 56 j x)) := tw_sI_gen h s 27 0 6 56 i x rfl (Nat.le_of_ble_eq_true rfl) (fun j' e h1 h2 h3 => tw_uniq 27 (Nat.le_of_ble_eq_true rfl) j' e h1 h2 h3 _ rfl) (fun _ _ => rfl)
theorem tn_56 (h : ax_H) (s : Nat → Nat → Int32) : dx_len (.ref 445) (tw_H h s) = some 6 := rfl
theorem tr_57 (h : ax_H) (s : Nat → Nat → Int32) : dx_gA [(38, 57)] (.ref 417) (tw_H h s) = some (.ref 446) := rfl
theorem tl_57 (h : ax_H) (s : Nat → Nat → Int32) (i : Int32) : dx_lI 0 (.ref 446) i (tw_H h s) = (ix 6 i).bind fun k => some (s 57 k) := tw_lI_gen h s 28 0 6 57 i rfl (Nat.le_of_ble_eq_true rfl)
theorem ts_57 (h : ax_H) (s : Nat → Nat → Int32) (i x : Int32) : dx_sI 0 (.ref 446) i x (tw_H h s) = (ix 6 i).bind fun j => some (tw_H h (tw_up s 57 j x)) := tw_sI_gen h s 28 0 6 57 i x rfl (Nat.le_of_ble_eq_true rfl) (fun j' e h1 h2 h3 => tw_uniq 28 (Nat.le_of_ble_eq_true rfl) j' e h1 h2 h3 _ rfl) (fun _ _ => rfl)
theorem tn_57 (h : ax_H) (s : Nat → Nat → Int32) : dx_len (.ref 446) (tw_H h s) = some 6 := rfl
theorem tg_58 (h : ax_H) (s : Nat → Nat → Int32) : dx_gI [(38, 58)] (.ref 417) (tw_H h s) = some (s 58 0) := rfl
theorem tp_58 (h : ax_H) (s : Nat → Nat → Int32) (x : Int32) : dx_pF [(38, 58)] (.int) (.ref 417) (.int x) (tw_H h s) = some (tw_H h (tw_up s 58 0 x)) := tw_pF_int h s 58 x rfl (by decide) rfl
theorem tg_59 (h : ax_H) (s : Nat → Nat → Int32) : dx_gI [(38, 59)] (.ref 417) (tw_H h s) = some (s 59 0) := rfl
theorem tp_59 (h : ax_H) (s : Nat → Nat → Int32) (x : Int32) : dx_pF [(38, 59)] (.int) (.ref 417) (.int x) (tw_H h s) = some (tw_H h (tw_up s 59 0 x)) := tw_pF_int h s 59 x rfl (by decide) rfl
theorem tg_60 (h : ax_H) (s : Nat → Nat → Int32) : dx_gI [(38, 60)] (.ref 417) (tw_H h s) = some (s 60 0) := rfl
theorem tp_60 (h : ax_H) (s : Nat → Nat → Int32) (x : Int32) : dx_pF [(38, 60)] (.int) (.ref 417) (.int x) (tw_H h s) = some (tw_H h (tw_up s 60 0 x)) := tw_pF_int h s 60 x rfl (by decide) rfl
theorem tr_61 (h : ax_H) (s : Nat → Nat → Int32) : dx_gA [(38, 61)] (.ref 417) (tw_H h s) = some (.ref 447) := rfl
theorem tl_61 (h : ax_H) (s : Nat → Nat → Int32) (i : Int32) : dx_lI 0 (.ref 447) i (tw_H h s) = (ix 30 i).bind fun k => some (s 61 k) := tw_lI_gen h s 29 0 30 61 i rfl (Nat.le_of_ble_eq_true rfl)
theorem ts_61 (h : ax_H) (s : Nat → Nat → Int32) (i x : Int32) : dx_sI 0 (.ref 447) i x (tw_H h s) = (ix 30 i).bind fun j => some (tw_H h (tw_up s 61 j x)) := tw_sI_gen h s 29 0 30 61 i x rfl (Nat.le_of_ble_eq_true rfl) (fun j' e h1 h2 h3 => tw_uniq 29 (Nat.le_of_ble_eq_true rfl) j' e h1 h2 h3 _ rfl) (fun _ _ => rfl)
theorem tn_61 (h : ax_H) (s : Nat → Nat → Int32) : dx_len (.ref 447) (tw_H h s) = some 30 := rfl
theorem tr_62 (h : ax_H) (s : Nat → Nat → Int32) : dx_gA [(38, 62)] (.ref 417) (tw_H h s) = some (.ref 448) := rfl
theorem tl_62 (h : ax_H) (s : Nat → Nat → Int32) (i : Int32) : dx_lI 0 (.ref 448) i (tw_H h s) = (ix 5 i).bind fun k => some (s 62 k) := tw_lI_gen h s 30 0 5 62 i rfl (Nat.le_of_ble_eq_true rfl)
theorem ts_62 (h : ax_H) (s : Nat → Nat → Int32) (i x : Int32) : dx_sI 0 (.ref 448) i x (tw_H h s) = (ix 5 i).bind fun j => some (tw_H h (tw_up s 62 j x)) := tw_sI_gen h s 30 0 5 62 i x rfl (Nat.le_of_ble_eq_true rfl) (fun j' e h1 h2 h3 => tw_uniq 30 (Nat.le_of_ble_eq_true rfl) j' e h1 h2 h3 _ rfl) (fun _ _ => rfl)
theorem tn_62 (h : ax_H) (s : Nat → Nat → Int32) : dx_len (.ref 448) (tw_H h s) = some 5 := rfl
theorem tr_63 (h : ax_H) (s : Nat → Nat → Int32) : dx_gA [(38, 63)] (.ref 417) (tw_H h s) = some (.ref 449) := rfl
theorem tl_63 (h : ax_H) (s : Nat → Nat → Int32) (i : Int32) : dx_lI 0 (.ref 449) i (tw_H h s) = (ix 30 i).bind fun k => some (s 63 k) := tw_lI_gen h s 31 0 30 63 i rfl (Nat.le_of_ble_eq_true rfl)
theorem ts_63 (h : ax_H) (s : Nat → Nat → Int32) (i x : Int32) : dx_sI 0 (.ref 449) i x (tw_H h s) = (ix 30 i).bind fun j => some (tw_H h (tw_up s 63 j x)) := tw_sI_gen h s 31 0 30 63 i x rfl (Nat.le_of_ble_eq_true rfl) (fun j' e h1 h2 h3 => tw_uniq 31 (Nat.le_of_ble_eq_true rfl) j' e h1 h2 h3 _ rfl) (fun _ _ => rfl)
theorem tn_63 (h : ax_H) (s : Nat → Nat → Int32) : dx_len (.ref 449) (tw_H h s) = some 30 := rfl
theorem tr_64 (h : ax_H) (s : Nat → Nat → Int32) : dx_gA [(38, 64)] (.ref 417) (tw_H h s) = some (.ref 450) := rfl
theorem tl_64 (h : ax_H) (s : Nat → Nat → Int32) (i : Int32) : dx_lI 0 (.ref 450) i (tw_H h s) = (ix 5 i).bind fun k => some (s 64 k) := tw_lI_gen h s 32 0 5 64 i rfl (Nat.le_of_ble_eq_true rfl)
theorem ts_64 (h : ax_H) (s : Nat → Nat → Int32) (i x : Int32) : dx_sI 0 (.ref 450) i x (tw_H h s) = (ix 5 i).bind fun j => some (tw_H h (tw_up s 64 j x)) := tw_sI_gen h s 32 0 5 64 i x rfl (Nat.le_of_ble_eq_true rfl) (fun j' e h1 h2 h3 => tw_uniq 32 (Nat.le_of_ble_eq_true rfl) j' e h1 h2 h3 _ rfl) (fun _ _ => rfl)
theorem tn_64 (h : ax_H) (s : Nat → Nat → Int32) : dx_len (.ref 450) (tw_H h s) = some 5 := rfl
theorem tr_65 (h : ax_H) (s : Nat → Nat → Int32) : dx_gA [(38, 65)] (.ref 417) (tw_H h s) = some (.ref 451) := rfl
theorem tl_65 (h : ax_H) (s : Nat → Nat → Int32) (i : Int32) : dx_lI 0 (.ref 451) i (tw_H h s) = (ix 5 i).bind fun k => some (s 65 k) := tw_lI_gen h s 33 0 5 65 i rfl (Nat.le_of_ble_eq_true rfl)
theorem ts_65 (h : ax_H) (s : Nat → Nat → Int32) (i x : Int32) : dx_sI 0 (.ref 451) i x (tw_H h s) = (ix 5 i).bind fun j => some (tw_H h (tw_up s 65 j x)) := tw_sI_gen h s 33 0 5 65 i x rfl (Nat.le_of_ble_eq_true rfl) (fun j' e h1 h2 h3 => tw_uniq 33 (Nat.le_of_ble_eq_true rfl) j' e h1 h2 h3 _ rfl) (fun _ _ => rfl)
theorem tn_65 (h : ax_H) (s : Nat → Nat → Int32) : dx_len (.ref 451) (tw_H h s) = some 5 := rfl
theorem tr_66 (h : ax_H) (s : Nat → Nat → Int32) : dx_gA [(38, 66)] (.ref 417) (tw_H h s) = some (.ref 452) := rfl
theorem tl_66 (h : ax_H) (s : Nat → Nat → Int32) (i : Int32) : dx_lI 0 (.ref 452) i (tw_H h s) = (ix 5 i).bind fun k => some (s 66 k) := tw_lI_gen h s 34 0 5 66 i rfl (Nat.le_of_ble_eq_true rfl)
theorem ts_66 (h : ax_H) (s : Nat → Nat → Int32) (i x : Int32) : dx_sI 0 (.ref 452) i x (tw_H h s) = (ix 5 i).bind fun j => some (tw_H h (tw_up s 66 j x)) := tw_sI_gen h s 34 0 5 66 i x rfl (Nat.le_of_ble_eq_true rfl) (fun j' e h1 h2 h3 => tw_uniq 34 (Nat.le_of_ble_eq_true rfl) j' e h1 h2 h3 _ rfl) (fun _ _ => rfl)
theorem tn_66 (h : ax_H) (s : Nat → Nat → Int32) : dx_len (.ref 452) (tw_H h s) = some 5 := rfl
theorem tr_67 (h : ax_H) (s : Nat → Nat → Int32) : dx_gA [(38, 67)] (.ref 417) (tw_H h s) = some (.ref 453) := rfl
theorem tl_67 (h : ax_H) (s : Nat → Nat → Int32) (i : Int32) : dx_lI 0 (.ref 453) i (tw_H h s) = (ix 5 i).bind fun k => some (s 67 k) := tw_lI_gen h s 35 0 5 67 i rfl (Nat.le_of_ble_eq_true rfl)
theorem ts_67 (h : ax_H) (s : Nat → Nat → Int32) (i x : Int32) : dx_sI 0 (.ref 453) i x (tw_H h s) = (ix 5 i).bind fun j => some (tw_H h (tw_up s 67 j x)) := tw_sI_gen h s 35 0 5 67 i x rfl (Nat.le_of_ble_eq_true rfl) (fun j' e h1 h2 h3 => tw_uniq 35 (Nat.le_of_ble_eq_true rfl) j' e h1 h2 h3 _ rfl) (fun _ _ => rfl)
theorem tn_67 (h : ax_H) (s : Nat → Nat → Int32) : dx_len (.ref 453) (tw_H h s) = some 5 := rfl
theorem tr_68 (h : ax_H) (s : Nat → Nat → Int32) : dx_gA [(38, 68)] (.ref 417) (tw_H h s) = some (.ref 454) := rfl
theorem tl_68 (h : ax_H) (s : Nat → Nat → Int32) (i : Int32) : dx_lI 0 (.ref 454) i (tw_H h s) = (ix 5 i).bind fun k => some (s 68 k) := tw_lI_gen h s 36 0 5 68 i rfl (Nat.le_of_ble_eq_true rfl)
theorem ts_68 (h : ax_H) (s : Nat → Nat → Int32) (i x : Int32) : dx_sI 0 (.ref 454) i x (tw_H h s) = (ix 5 i).bind fun j => some (tw_H h (tw_up s 68 j x)) := tw_sI_gen h s 36 0 5 68 i x rfl (Nat.le_of_ble_eq_true rfl) (fun j' e h1 h2 h3 => tw_uniq 36 (Nat.le_of_ble_eq_true rfl) j' e h1 h2 h3 _ rfl) (fun _ _ => rfl)
theorem tn_68 (h : ax_H) (s : Nat → Nat → Int32) : dx_len (.ref 454) (tw_H h s) = some 5 := rfl
theorem tr_69 (h : ax_H) (s : Nat → Nat → Int32) : dx_gA [(38, 69)] (.ref 417) (tw_H h s) = some (.ref 455) := rfl
theorem tl_69 (h : ax_H) (s : Nat → Nat → Int32) (i : Int32) : dx_lI 0 (.ref 455) i (tw_H h s) = (ix 5 i).bind fun k => some (s 69 k) := tw_lI_gen h s 37 0 5 69 i rfl (Nat.le_of_ble_eq_true rfl)
theorem ts_69 (h : ax_H) (s : Nat → Nat → Int32) (i x : Int32) : dx_sI 0 (.ref 455) i x (tw_H h s) = (ix 5 i).bind fun j => some (tw_H h (tw_up s 69 j x)) := tw_sI_gen h s 37 0 5 69 i x rfl (Nat.le_of_ble_eq_true rfl) (fun j' e h1 h2 h3 => tw_uniq 37 (Nat.le_of_ble_eq_true rfl) j' e h1 h2 h3 _ rfl) (fun _ _ => rfl)
theorem tn_69 (h : ax_H) (s : Nat → Nat → Int32) : dx_len (.ref 455) (tw_H h s) = some 5 := rfl
theorem tr_70 (h : ax_H) (s : Nat → Nat → Int32) : dx_gA [(38, 70)] (.ref 417) (tw_H h s) = some (.ref 456) := rfl
theorem tl_70 (h : ax_H) (s : Nat → Nat → Int32) (i : Int32) : dx_lI 2 (.ref 456) i (tw_H h s) = (ix 5 i).bind fun k => some (s 70 k) := tw_lI_gen h s 38 2 5 70 i rfl (Nat.le_of_ble_eq_true rfl)
theorem ts_70 (h : ax_H) (s : Nat → Nat → Int32) (i x : Int32) : dx_sI 2 (.ref 456) i x (tw_H h s) = (ix 5 i).bind fun j => some (tw_H h (tw_up s 70 j x)) := tw_sI_gen h s 38 2 5 70 i x rfl (Nat.le_of_ble_eq_true rfl) (fun j' e h1 h2 h3 => tw_uniq 38 (Nat.le_of_ble_eq_true rfl) j' e h1 h2 h3 _ rfl) (fun _ _ => rfl)
theorem tn_70 (h : ax_H) (s : Nat → Nat → Int32) : dx_len (.ref 456) (tw_H h s) = some 5 := rfl
theorem tr_71 (h : ax_H) (s : Nat → Nat → Int32) : dx_gA [(38, 71)] (.ref 417) (tw_H h s) = some (.ref 457) := rfl
theorem tl_71 (h : ax_H) (s : Nat → Nat → Int32) (i : Int32) : dx_lI 0 (.ref 457) i (tw_H h s) = (ix 256 i).bind fun k => some (s 71 k) := tw_lI_gen h s 39 0 256 71 i rfl (Nat.le_of_ble_eq_true rfl)
theorem ts_71 (h : ax_H) (s : Nat → Nat → Int32) (i x : Int32) : dx_sI 0 (.ref 457) i x (tw_H h s) = (ix 256 i).bind fun j => some (tw_H h (tw_up s 71 j x)) := tw_sI_gen h s 39 0 256 71 i x rfl (Nat.le_of_ble_eq_true rfl) (fun j' e h1 h2 h3 => tw_uniq 39 (Nat.le_of_ble_eq_true rfl) j' e h1 h2 h3 _ rfl) (fun _ _ => rfl)
theorem tn_71 (h : ax_H) (s : Nat → Nat → Int32) : dx_len (.ref 457) (tw_H h s) = some 256 := rfl
theorem tr_72 (h : ax_H) (s : Nat → Nat → Int32) : dx_gA [(38, 72)] (.ref 417) (tw_H h s) = some (.ref 458) := rfl
theorem tl_72 (h : ax_H) (s : Nat → Nat → Int32) (i : Int32) : dx_lI 0 (.ref 458) i (tw_H h s) = (ix 20 i).bind fun k => some (s 72 k) := tw_lI_gen h s 40 0 20 72 i rfl (Nat.le_of_ble_eq_true rfl)
theorem ts_72 (h : ax_H) (s : Nat → Nat → Int32) (i x : Int32) : dx_sI 0 (.ref 458) i x (tw_H h s) = (ix 20 i).bind fun j => some (tw_H h (tw_up s 72 j x)) := tw_sI_gen h s 40 0 20 72 i x rfl (Nat.le_of_ble_eq_true rfl) (fun j' e h1 h2 h3 => tw_uniq 40 (Nat.le_of_ble_eq_true rfl) j' e h1 h2 h3 _ rfl) (fun _ _ => rfl)
theorem tn_72 (h : ax_H) (s : Nat → Nat → Int32) : dx_len (.ref 458) (tw_H h s) = some 20 := rfl
theorem tr_73 (h : ax_H) (s : Nat → Nat → Int32) : dx_gA [(38, 73)] (.ref 417) (tw_H h s) = some (.ref 459) := rfl
theorem tl_73 (h : ax_H) (s : Nat → Nat → Int32) (i : Int32) : dx_lI 0 (.ref 459) i (tw_H h s) = (ix 20 i).bind fun k => some (s 73 k) := tw_lI_gen h s 41 0 20 73 i rfl (Nat.le_of_ble_eq_true rfl)
theorem ts_73 (h : ax_H) (s : Nat → Nat → Int32) (i x : Int32) : dx_sI 0 (.ref 459) i x (tw_H h s) = (ix 20 i).bind fun j => some (tw_H h (tw_up s 73 j x)) := tw_sI_gen h s 41 0 20 73 i x rfl (Nat.le_of_ble_eq_true rfl) (fun j' e h1 h2 h3 => tw_uniq 41 (Nat.le_of_ble_eq_true rfl) j' e h1 h2 h3 _ rfl) (fun _ _ => rfl)
theorem tn_73 (h : ax_H) (s : Nat → Nat → Int32) : dx_len (.ref 459) (tw_H h s) = some 20 := rfl
