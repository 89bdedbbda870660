/-! the class's machine: moves; files looked at -/
section MSM
variable {d b e w : Nat} {Z : mr_Z} {pr : Option Nat} {c : Nat → Int32} {L : List (Nat × Int32)} {X : mr_X} {h : ax_H} {K : kk_K}
/-- the answer of an operation: words written and a number, or a fault -/
def OpR (b : Nat) (Z : mr_Z) (e w : Nat) (pr : Option Nat) (c : Nat → Int32) (L : List (Nat × Int32)) (X : mr_X) (x : Option ax_R) (o : (ce_W × Int32) ⊕ Int32) : Prop := match o with
  | .inl (ws, v) => Ok x (.inl (some (.int v))) (MR b Z e w pr (apW c ws) (L ++ joW c ws) X)
  | .inr f => ∃ k, (f = 1 ∧ k = 33 ∨ f = 2 ∧ k = 34 ∨ f = 3 ∧ k = 32 ∨ f = 4 ∧ k = 35) ∧ OkX x (TX b Z e w pr c L X k)
theorem OpR.le {x y : Option ax_R} {o : (ce_W × Int32) ⊕ Int32} (hl : dx_le x y) (r : OpR b Z e w pr c L X x o) : OpR b Z e w pr c L X y o := by
  match o, r with
  | .inl (ws, v), r => exact Ok.le hl r
  | .inr f, ⟨k, hk, r⟩ => exact ⟨k, hk, OkX.le hl r⟩
theorem rg_h1 {x : Int32} (hr : rg 256 x) (h1 : x + 1 ≤ 256) : rg 255 x := by
  obtain ⟨n1, n2⟩ := rg.nat hr
  rw [n2, show Int32.ofNat (nn x) + 1 = Int32.ofNat (nn x + 1) from i_add _ 1] at h1
  have := (i_le (b := 256) (by omega) (by omega)).mp h1
  rw [n2]
  exact rg.of (by omega) (by omega)
theorem c_move (hd : 10 ≤ d) (R : MR b Z e w pr c L X h) (O : OLD Z.1) (hL : L.length ≤ 150) (hs : rg 256 (c 4)) {o r y : Nat} (ho : o ≤ 18 ∧ ¬ (4 ≤ o ∧ o ≤ 11)) (hr2 : r < 621) (hy : y ≤ 65535) (nx : Int32) : OpR b Z e w pr c L X (ax_c d 329 [.ref b, .int (Int32.ofNat o), .int (Int32.ofNat r), .int (Int32.ofNat y), .int nx] h) (moveW c (Int32.ofNat o) (Int32.ofNat r) (Int32.ofNat y) nx) := by
  obtain ⟨d, rfl, he⟩ := d_succ hd
  refine OpR.le m_X2_move ?_
  have er : nn (Int32.ofNat r) = r := nn_of (by omega)
  have ey : ∀ (hy2 : y < 256), nn (108 + Int32.ofNat y) = 108 + y := fun _ => by rw [show (108 : Int32) + Int32.ofNat y = Int32.ofNat (108 + y) from i_add 108 y, nn_of (by omega)]
  have y2 : Int32.ofNat y < 256 ↔ y < 256 := i_lt (b := 256) (by omega) (by omega)
  have nil : ∀ v : Int32, Ok (some (.inl (some (.int v)), h)) (.inl (some (.int v))) (MR b Z e w pr (apW c []) (L ++ joW c []) X) := fun v => Ok.ret (by rw [show joW c [] = [] from rfl, List.append_nil]; exact R)
  obtain rfl | rfl | rfl | rfl | rfl | rfl | rfl | rfl | rfl | rfl | rfl : o = 0 ∨ o = 1 ∨ o = 2 ∨ o = 3 ∨ o = 12 ∨ o = 13 ∨ o = 14 ∨ o = 15 ∨ o = 16 ∨ o = 17 ∨ o = 18 := by omega
  · rw [tw_in (o := 0) (by omega) (by omega) (by omega) rfl]
    refine Ok.le b_X2_move_88 ?_
    rw [R.vn, Option.bind_some]
    exact Ok.V (c_set (by omega) R (by omega) (i := 0) (p := 0) rfl (by omega) 2) fun h1 R1 => Ok.ret R1
  · rw [tw_in (o := 1) (by omega) (by omega) (by omega) rfl, R.vn, Option.bind_some]
    show Ok _ _ (MR b Z e w pr (apW c [(nn (Int32.ofNat r), Int32.ofNat y)]) (L ++ joW c [(nn (Int32.ofNat r), Int32.ofNat y)]) X)
    rw [er]
    exact Ok.V (c_set (by omega) R (by omega) rfl hr2 _) fun h1 R1 => Ok.ret R1
  · rw [tw_in (o := 2) (by omega) (by omega) (by omega) rfl]
    refine OpR.le b_X2_move_108 ?_
    show OpR b Z e w pr c L X _ (if Int32.ofNat y < 256 then .inl ([(nn (Int32.ofNat r), c (nn (108 + Int32.ofNat y)))], nx) else .inr 1)
    rw [R.g0, Option.bind_some]
    by_cases q : y < 256
    · rw [if_pos (y2.mpr q), ey q, er, c_address (by omega) q, cI_v, R.rdn rfl (by omega), Option.bind_some, R.vn, Option.bind_some]
      exact Ok.V (c_set (by omega) R (by omega) rfl hr2 _) fun h1 R1 => Ok.ret R1
    · rw [if_neg (fun z => q (y2.mp z))]
      exact ⟨33, Or.inl ⟨rfl, rfl⟩, OkX.xI (c_addressX (by omega) R O q (by omega)) fun i h' T => T.x0 rfl⟩
  · rw [tw_in (o := 3) (by omega) (by omega) (by omega) rfl]
    refine OpR.le b_X2_move_125 ?_
    show OpR b Z e w pr c L X _ (if Int32.ofNat y < 256 then .inl ([(nn (108 + Int32.ofNat y), c (nn (Int32.ofNat r)))], nx) else .inr 1)
    by_cases q : y < 256
    · rw [if_pos (y2.mpr q), ey q, er, c_address (by omega) q, cI_v, R.g0, Option.bind_some, R.rdn rfl hr2, Option.bind_some, R.vn, Option.bind_some]
      exact Ok.V (c_set (by omega) R (by omega) rfl (by omega) _) fun h1 R1 => Ok.ret R1
    · rw [if_neg (fun z => q (y2.mp z))]
      exact ⟨33, Or.inl ⟨rfl, rfl⟩, OkX.xI (c_addressX (by omega) R O q (by omega)) fun i h' T => T.x0 rfl⟩
  · rw [tw_in (o := 12) (by omega) (by omega) (by omega) rfl]
    exact nil _
  · rw [tw_in (o := 13) (by omega) (by omega) (by omega) rfl]
    refine OpR.le b_X2_move_144 ?_
    show OpR b Z e w pr c L X _ (.inl ([], if c 5 = 1 then Int32.ofNat y else nx))
    rw [R.g0, Option.bind_some, R.rdn (i := 5) (k := 5) rfl (by decide), Option.bind_some]
    by_cases q : c 5 = 1
    · rw [if_neg (fun z => z q), if_pos q]; exact nil _
    · rw [if_pos q, if_neg q]; exact nil _
  · rw [tw_in (o := 14) (by omega) (by omega) (by omega) rfl]
    refine OpR.le b_X2_move_161 ?_
    show OpR b Z e w pr c L X _ (.inl ([], if c 6 = 1 then Int32.ofNat y else nx))
    rw [R.g0, Option.bind_some, R.rdn (i := 6) (k := 6) rfl (by decide), Option.bind_some]
    by_cases q : c 6 = 1
    · rw [if_neg (fun z => z q), if_pos q]; exact nil _
    · rw [if_pos q, if_neg q]; exact nil _
  · rw [tw_in (o := 15) (by omega) (by omega) (by omega) rfl]
    refine OpR.le b_X2_move_179 ?_
    show OpR b Z e w pr c L X _ (if 1 ≤ c 4 then .inl (pushW c nx, Int32.ofNat y) else .inr 3)
    rw [R.vn, Option.bind_some]
    by_cases q : 1 ≤ c 4
    · rw [if_pos q, c_room (by omega) R q, cV_v, R.vn, Option.bind_some]
      exact Ok.V (c_push (by omega) R (by omega) hs q _) fun h1 R1 => Ok.ret R1
    · rw [if_neg q]
      exact ⟨32, Or.inr (Or.inr (Or.inl ⟨rfl, rfl⟩)), OkX.xV (c_roomX (by omega) R O hs q) fun i h' T => T.x0 rfl⟩
  · rw [tw_in (o := 16) (by omega) (by omega) (by omega) rfl]
    show OpR b Z e w pr c L X _ (if c 4 + 1 ≤ 256 then .inl (pullW c, pullV c) else .inr 3)
    rw [R.vn, Option.bind_some]
    by_cases q : c 4 + 1 ≤ 256
    · rw [if_pos q, c_held (by omega) R q, cV_v, R.vn, Option.bind_some]
      exact Ok.I (c_pull (by omega) R (by omega) (rg_h1 hs q)) fun h1 R1 => Ok.ret R1
    · rw [if_neg q]
      exact ⟨32, Or.inr (Or.inr (Or.inl ⟨rfl, rfl⟩)), OkX.xV (c_heldX (by omega) R O hs q) fun i h' T => T.x0 rfl⟩
  · rw [tw_in (o := 17) (by omega) (by omega) (by omega) rfl]
    refine OpR.le b_X2_move_202 ?_
    show OpR b Z e w pr c L X _ (if 1 ≤ c 4 then .inl (pushW c (Int32.ofNat y), nx) else .inr 3)
    rw [R.vn, Option.bind_some]
    by_cases q : 1 ≤ c 4
    · rw [if_pos q, c_room (by omega) R q, cV_v, R.vn, Option.bind_some]
      exact Ok.V (c_push (by omega) R (by omega) hs q _) fun h1 R1 => Ok.ret R1
    · rw [if_neg q]
      exact ⟨32, Or.inr (Or.inr (Or.inl ⟨rfl, rfl⟩)), OkX.xV (c_roomX (by omega) R O hs q) fun i h' T => T.x0 rfl⟩
  · rw [tw_out (o := 18) (by omega) (by omega)]
    refine OpR.le b_X2_move_215 ?_
    show OpR b Z e w pr c L X _ (if c 4 + 1 ≤ 256 then .inl (pullW c ++ [(nn (Int32.ofNat r), pullV c)], nx) else .inr 3)
    rw [R.vn, Option.bind_some]
    by_cases q : c 4 + 1 ≤ 256
    · rw [if_pos q, er, c_held (by omega) R q, cV_v, R.vn, Option.bind_some]
      refine Ok.I (c_pull (by omega) R (by omega) (rg_h1 hs q)) fun h1 R1 => ?_
      rw [R1.vn, Option.bind_some]
      exact Ok.V (c_set (by omega) R1 (by simp only [List.length_append, joW_len, pushW_len, pullW_len, stopW_len, List.length_cons, List.length_nil]; omega) rfl hr2 _) fun h2 R2 => Ok.ret R2.app
    · rw [if_neg q]
      exact ⟨32, Or.inr (Or.inr (Or.inl ⟨rfl, rfl⟩)), OkX.xV (c_heldX (by omega) R O hs q) fun i h' T => T.x0 rfl⟩
/-! files looked at; the disk's words are c's from 365 on -/
def ds (c : ce_C) : Nat → Int32 := fun p => c (365 + p)
/-- what is asked of a heap when the machine is only looked at -/
def MV (b : Nat) (c : Nat → Int32) (h : ax_H) : Prop := (∃ fs, h.1 b = .inr (29, .ref (b + 1) :: fs)) ∧ h.1 (b + 1) = .inl (0, 621, .inl c)
theorem MR.mv (R : MR b Z e w pr c L X h) : MV b c h := ⟨⟨_, R.1⟩, R.2.1⟩
theorem MV.g0 (R : MV b c h) : dx_gA [(29, 0)] (.ref b) h = some (.ref (b + 1)) := by
  obtain ⟨⟨fs, e⟩, -⟩ := R
  exact gA_r e rfl rfl
theorem MV.vn (R : MV b c h) (k : Nat) : dx_vn [(29, k)] (.ref b) h = some k := by
  obtain ⟨⟨fs, e⟩, -⟩ := R
  exact vn_at e
theorem MV.rdn (R : MV b c h) {i : Int32} {k : Nat} (hi : i = Int32.ofNat k) (hk : k < 621) : dx_lI 0 (.ref (b + 1)) i h = some (c k) := by
  rw [lI_at R.2, ix_of hi hk (by omega), Option.bind_some]
theorem e_half : ∀ f, f < 6 → ((365 : Int32) + 8 * (5 + Int32.ofNat f / 2)) + 4 * dx_rem (Int32.ofNat f) 2 = Int32.ofNat (405 + 4 * f) := by decide
theorem c_entry (hd : 1 ≤ d) (R : MV b c h) {f k : Nat} (hf : f < 6) (hk : k < 4) : ax_c d 305 [.ref b, .int (Int32.ofNat f), .int (Int32.ofNat k)] h = some (.inl (some (.int (ds c (40 + 4 * f + k)))), h) := by
  obtain ⟨d, rfl, he⟩ := d_succ hd
  refine dx_app m_X2_entry ?_
  rw [R.g0, Option.bind_some, e_half f hf, R.rdn (i_add _ _) (by omega), Option.bind_some]
  unfold ds
  rw [show 365 + (40 + 4 * f + k) = 405 + 4 * f + k by omega]
theorem i_div16' : ∀ b, b < 32 → (397 : Int32) + Int32.ofNat b / 16 = Int32.ofNat (397 + b / 16) := by decide
theorem used_and (x : Int32) : x &&& 1 = 0 ∨ x &&& 1 = 1 := by
  have : ∀ y : BitVec 32, y &&& 1#32 = 0#32 ∨ y &&& 1#32 = 1#32 := by
    intro y
    by_cases q : y.getLsbD 0
    · right
      apply BitVec.eq_of_getLsbD_eq
      intro i hi
      rw [BitVec.getLsbD_and]
      cases i with
      | zero => simp [q]
      | succ i => simp [BitVec.getLsbD_one]
    · left
      apply BitVec.eq_of_getLsbD_eq
      intro i hi
      rw [BitVec.getLsbD_and]
      cases i with
      | zero => simpa using q
      | succ i => simp [BitVec.getLsbD_one]
  rcases this x.toBitVec with z | z
  · left; exact Int32.toBitVec_inj.mp z
  · right; exact Int32.toBitVec_inj.mp z
theorem c_isUsed (hd : 1 ≤ d) (R : MV b c h) {k : Nat} (hk : k < 32) : ax_c d 306 [.ref b, .int (Int32.ofNat k)] h = some (.inl (some (.int (usedF (ds c) k))), h) := by
  obtain ⟨d, rfl, he⟩ := d_succ hd
  refine dx_app m_X2_isUsed ?_
  rw [R.g0, Option.bind_some, i_div16' k hk, R.rdn rfl (by omega), Option.bind_some, i_rem16 k hk]
  unfold usedF ds
  rw [show 365 + (32 + k / 16) = 397 + k / 16 by omega]
  rcases used_and (dx_shr (c (397 + k / 16)) (Int32.ofNat (k % 16))) with z | z
  · rw [z, if_pos rfl, if_neg (by decide)]
  · rw [z, if_neg (by decide), if_pos rfl]
theorem c_find (hd : 2 ≤ d) (R : MV b c h) (name : Int32) : ax_c d 308 [.ref b, .int name] h = some (.inl (some (.int (findF (ds c) name))), h) := by
  obtain ⟨d, rfl, he⟩ := d_succ hd
  refine dx_app m_X2_find ?_
  have neg : (-1 : Int32) < 0 := by decide
  have loop : ∀ m k : Nat, m + k = 6 → B_X2_find_4 (ax_c d) b name (findR (ds c) name m k) (Int32.ofNat k + (-1)) h = some (.inl (some (.int (findF (ds c) name))), h) := by
    intro m k
    induction k generalizing m with
    | zero =>
      intro hm
      obtain rfl : m = 6 := by omega
      refine dx_app b_X2_find_4 ?_
      rw [if_pos (by decide)]
      rfl
    | succ k ih =>
      intro hm
      refine dx_app b_X2_find_4 ?_
      rw [i_dec (show 1 ≤ k + 1 by omega), Nat.add_sub_cancel, if_neg (i_neg (by omega)), R.vn, Option.bind_some]
      have := c_entry he R (f := k) (k := 0) (by omega) (by omega)
      rw [show Int32.ofNat 0 = 0 from rfl] at this
      rw [this, cI_v]
      have hi := ih (m + 1) (by omega)
      rw [show findR (ds c) name (m + 1) k = if ds c (40 + 4 * k) = name then Int32.ofNat k else findR (ds c) name m (k + 1) from rfl] at hi
      rw [Nat.add_zero]
      by_cases q : ds c (40 + 4 * k) = name
      · rw [if_pos q] at hi
        rw [if_neg (fun z => z q), lt_at]
        exact hi
      · rw [if_neg q] at hi
        rw [if_pos q, lt_at]
        exact hi
  exact loop 0 6 rfl
theorem c_named (hd : 3 ≤ d) (R : MV b c h) (name : Int32) : ax_c d 337 [.ref b, .int name] h = some (.inl (some (.int (if name = 0 then -1 else findF (ds c) name))), h) := by
  obtain ⟨d, rfl, he⟩ := d_succ hd
  refine dx_app m_X2_named ?_
  by_cases q : name = 0
  · rw [if_neg (fun z => z q), if_pos q]
  · rw [if_pos q, if_neg q, R.vn, Option.bind_some, c_find he R, cI_v]
theorem c_firstFree (hd : 2 ≤ d) (R : MV b c h) : ax_c d 341 [.ref b] h = some (.inl (some (.int (freeF (ds c)))), h) := by
  obtain ⟨d, rfl, he⟩ := d_succ hd
  refine dx_app m_X2_firstFree ?_
  have loop : ∀ k m : Nat, m + k = 24 → B_X2_firstFree_5 (ax_c d) b (freeR (ds c) m (8 + k)) (Int32.ofNat (8 + k) + (-1)) h = some (.inl (some (.int (freeF (ds c)))), h) := by
    intro k
    induction k with
    | zero =>
      intro m hm
      obtain rfl : m = 24 := by omega
      refine dx_app b_X2_firstFree_5 ?_
      rw [if_pos (by decide)]
      rfl
    | succ k ih =>
      intro m hm
      refine dx_app b_X2_firstFree_5 ?_
      rw [i_dec (show 1 ≤ 8 + (k + 1) by omega), show 8 + (k + 1) - 1 = 8 + k by omega, if_neg (fun z => by have := (i_lt (b := 8) (by omega) (by omega)).mp z; omega), R.vn, Option.bind_some, c_isUsed he R (by omega), cI_v]
      have hi := ih (m + 1) (by omega)
      rw [show freeR (ds c) (m + 1) (8 + k) = if usedF (ds c) (8 + k) = 0 then Int32.ofNat (8 + k) else freeR (ds c) m (8 + k + 1) from rfl] at hi
      by_cases q : usedF (ds c) (8 + k) = 0
      · rw [if_pos q] at hi
        rw [if_pos q, lt_at]
        exact hi
      · rw [if_neg q] at hi
        rw [if_neg q, lt_at]
        exact hi
  exact loop 24 0 rfl
theorem c_wordOf (hd : 2 ≤ d) (R : MV b c h) {f j r v : Nat} {p : Int32} (hf : f < 6) (hp : p / 8 = Int32.ofNat j) (hj : j < 2) (hr : dx_rem p 8 = Int32.ofNat r) (hr8 : r < 8) (hv : ds c (40 + 4 * f + (2 + j)) = Int32.ofNat v) (hv2 : v < 32) : ax_c d 343 [.ref b, .int (Int32.ofNat f), .int p] h = some (.inl (some (.int (ds c (8 * v + r)))), h) := by
  obtain ⟨d, rfl, he⟩ := d_succ hd
  refine dx_app m_X2_wordOf ?_
  rw [R.g0, Option.bind_some, R.vn, Option.bind_some, hp, show (2 : Int32) + Int32.ofNat j = Int32.ofNat (2 + j) from i_add 2 j, c_entry he R hf (by omega), cI_v, hv, hr, R.rdn (k := 365 + 8 * v + r) (by rw [show (8 : Int32) * Int32.ofNat v = Int32.ofNat (8 * v) from i_mul 8 v, show (365 : Int32) + Int32.ofNat (8 * v) = Int32.ofNat (365 + 8 * v) from i_add 365 _, i_add]) (by omega), Option.bind_some]
  unfold ds
  rw [Nat.add_assoc]
end MSM
