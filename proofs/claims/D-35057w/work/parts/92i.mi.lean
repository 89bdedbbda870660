/-! the class's machine: the other operations; an instruction -/
noncomputable def serveO (K : kk_K) (c : ce_C) (op d y nx : Int32) : (ce_W × Int32) ⊕ Int32 :=
  if op = 19 then .inl ([(7, 1)], nx)
  else if op = 20 then .inl ([(7, 0)], nx)
  else if op = 21 then (if c 4 + 2 ≤ 256 then
    let w2 : ce_W := pullW c ++ [(5, pullV c &&& 1), (6, dx_shr (pullV c) 1 &&& 1), (7, 1)]
    .inl (w2 ++ pullW (apW c w2), pullV (apW c w2)) else .inr 3)
  else if op = 22 then .inl ([], if c 8 + c 9 ≤ 0 then nx - 2 else nx)
  else if op = 23 then .inl ([(10, y), (11, 0)], nx)
  else if op = 24 then .inl (readW K c ++ [(nn d, readV K c)], nx)
  else if op = 25 then (if c 17 = 60 then .inr 4 else .inl ([(48 + nn (c 17), y), (17, c 17 + 1)], nx))
  else .inl ((callO c y).1, if (callO c y).2 = 0 then nx - 2 else nx)
/-- the word behind an instruction's first one, with the register added -/
def secC (c : ce_C) (v : Nat) : Nat := if v / 4 % 4 = v % 4 then nn (c (108 + nn (c 3) + 1)) else (nn (c (12 + v % 4)) + nn (c (108 + nn (c 3) + 1))) % 65536
/-- an operation -/
noncomputable def opO (K : kk_K) (c : ce_C) (o r y : Nat) (nx : Int32) : (ce_W × Int32) ⊕ Int32 :=
  if 4 ≤ o ∧ o ≤ 11 then .inl (reckW c (Int32.ofNat o) (Int32.ofNat r) (Int32.ofNat y), nx)
  else if o ≤ 18 then moveW c (Int32.ofNat o) (Int32.ofNat r) (Int32.ofNat y) nx
  else serveO K c (Int32.ofNat o) (Int32.ofNat r) (Int32.ofNat y) nx
/-- an instruction: words written, or a fault -/
noncomputable def instO (K : kk_K) (c : ce_C) : ce_W ⊕ Int32 :=
  if ¬ nn (c 3) + 1 < 256 then .inr 1 else
  let v := nn (c (108 + nn (c 3)))
  if ¬ v / 16 ≤ 26 then .inr 2 else
  match opO K c (v / 16) (12 + v / 4 % 4) (secC c v) (c 3 + 2) with
  | .inl (ws, nx) => .inl (ws ++ [(3, nx)])
  | .inr f => .inr f
/-- the cells are within bounds -/
def WC (c : ce_C) : Prop := rg 65535 (c 3) ∧ rg 256 (c 4) ∧ (∀ i, i < 4 → rg 65535 (c (12 + i))) ∧ rg 20 (c 16) ∧ rg 60 (c 17) ∧ (∀ a, a < 256 → rg 65535 (c (108 + a))) ∧ ∀ p, p < 256 → rg 65535 (ds c p)
section MSI
variable {d b e w : Nat} {Z : mr_Z} {pr : Option Nat} {c : Nat → Int32} {L : List (Nat × Int32)} {X : mr_X} {h : ax_H} {K : kk_K}
/-- as OpR, but the drafts may have changed -/
def OpX (b : Nat) (Z : mr_Z) (e w : Nat) (pr : Option Nat) (c : Nat → Int32) (L : List (Nat × Int32)) (x : Option ax_R) (o : (ce_W × Int32) ⊕ Int32) : Prop := ∃ X, OpR b Z e w pr c L X x o
theorem OpX.le {x y : Option ax_R} {o : (ce_W × Int32) ⊕ Int32} (hl : dx_le x y) (r : OpX b Z e w pr c L x o) : OpX b Z e w pr c L y o := by
  obtain ⟨X, r⟩ := r
  exact ⟨X, r.le hl⟩
theorem c_serve (hd : 11 ≤ d) (R : MR b Z e w pr c L X h) (O : OLD Z.1) (B : SB0 Z pr) (Y : KY b Z.1 K) (hL : L.length ≤ 100) (C : WC c) (F : FW (ds c)) (hk : nn (c 16) ≤ toldN K.2.1 0 (c 2) K.1) {o r y : Nat} (ho : 19 ≤ o ∧ o ≤ 26) (hr2 : r < 621) (hy : y ≤ 65535) (nx : Int32) : OpX b Z e w pr c L (ax_c d 332 [.ref b, .int (Int32.ofNat o), .int (Int32.ofNat r), .int (Int32.ofNat y), .int nx] h) (serveO K c (Int32.ofNat o) (Int32.ofNat r) (Int32.ofNat y) nx) := by
  obtain ⟨C3, C4, C12, C16, C17, Cw, Cd⟩ := C
  obtain ⟨d, rfl, he⟩ := d_succ hd
  refine OpX.le m_X2_serve ?_
  have er : nn (Int32.ofNat r) = r := nn_of (by omega)
  have nil : ∀ v : Int32, Ok (some (.inl (some (.int v)), h)) (.inl (some (.int v))) (MR b Z e w pr (apW c []) (L ++ joW c []) X) := fun v => Ok.ret (by rw [show joW c [] = [] from rfl, List.append_nil]; exact R)
  obtain rfl | rfl | rfl | rfl | rfl | rfl | rfl | rfl : o = 19 ∨ o = 20 ∨ o = 21 ∨ o = 22 ∨ o = 23 ∨ o = 24 ∨ o = 25 ∨ o = 26 := by omega
  · rw [tw_in (o := 19) (by omega) (by omega) (by omega) rfl]
    refine OpX.le b_X2_serve_44 ⟨X, ?_⟩
    rw [if_neg (fun z => z rfl), R.vn, Option.bind_some]
    exact Ok.V (c_set (by omega) R (by omega) (i := 7) (p := 7) rfl (by omega) 1) fun h1 R1 => Ok.ret R1
  · rw [tw_in (o := 20) (by omega) (by omega) (by omega) rfl]
    refine OpX.le b_X2_serve_44 ⟨X, ?_⟩
    rw [if_pos (by decide), R.vn, Option.bind_some]
    exact Ok.V (c_set (by omega) R (by omega) (i := 7) (p := 7) rfl (by omega) 0) fun h1 R1 => Ok.ret R1
  · rw [tw_in (o := 21) (by omega) (by omega) (by omega) rfl]
    refine OpX.le b_X2_serve_64 ⟨X, ?_⟩
    show OpR b Z e w pr c L X _ (if c 4 + 2 ≤ 256 then .inl ((pullW c ++ [(5, pullV c &&& 1), (6, dx_shr (pullV c) 1 &&& 1), (7, 1)]) ++ pullW (apW c (pullW c ++ [(5, pullV c &&& 1), (6, dx_shr (pullV c) 1 &&& 1), (7, 1)])), pullV (apW c (pullW c ++ [(5, pullV c &&& 1), (6, dx_shr (pullV c) 1 &&& 1), (7, 1)]))) else .inr 3)
    rw [R.vn, Option.bind_some]
    by_cases q : c 4 + 2 ≤ 256
    · obtain ⟨n1, n2⟩ := rg.nat C4
      have q4 : nn (c 4) + 2 ≤ 256 := by
        rw [n2, show Int32.ofNat (nn (c 4)) + 2 = Int32.ofNat (nn (c 4) + 2) from i_add _ 2] at q
        exact (i_le (b := 256) (by omega) (by omega)).mp q
      rw [if_pos q, c_held (by omega) R q, cV_v, R.vn, Option.bind_some]
      refine Ok.I (c_pull (by omega) R (by omega) (by rw [n2]; exact rg.of (by omega) (by omega))) fun h1 R1 => ?_
      rw [R1.vn, Option.bind_some]
      refine Ok.V (c_set (by omega) R1 (by simp only [List.length_append, joW_len, pushW_len, pullW_len, stopW_len, List.length_cons, List.length_nil]; omega) (i := 5) (p := 5) rfl (by omega) _) fun h2 R2 => ?_
      rw [R2.vn, Option.bind_some]
      refine Ok.V (c_set (by omega) R2 (by simp only [List.length_append, joW_len, pushW_len, pullW_len, stopW_len, List.length_cons, List.length_nil]; omega) (i := 6) (p := 6) rfl (by omega) _) fun h3 R3 => ?_
      rw [R3.vn, Option.bind_some]
      refine Ok.V (c_set (by omega) R3 (by simp only [List.length_append, joW_len, pushW_len, pullW_len, stopW_len, List.length_cons, List.length_nil]; omega) (i := 7) (p := 7) rfl (by omega) _) fun h4 R4 => ?_
      have R5 : MR b Z e w pr (apW c (pullW c ++ [(5, pullV c &&& 1), (6, dx_shr (pullV c) 1 &&& 1), (7, 1)])) (L ++ joW c (pullW c ++ [(5, pullV c &&& 1), (6, dx_shr (pullV c) 1 &&& 1), (7, 1)])) X h4 := by
        simp only [List.append_assoc] at R4
        exact R4
      rw [R5.vn, Option.bind_some]
      refine Ok.I (c_pull (by omega) R5 (by simp only [List.length_append, joW_len, pushW_len, pullW_len, stopW_len, List.length_cons, List.length_nil]; omega) ?_) fun h6 R6 => Ok.ret R6.app
      have : apW c (pullW c ++ [(5, pullV c &&& 1), (6, dx_shr (pullV c) 1 &&& 1), (7, 1)]) 4 = c 4 + 1 := rfl
      rw [this, n2, show Int32.ofNat (nn (c 4)) + 1 = Int32.ofNat (nn (c 4) + 1) from i_add _ 1]
      exact rg.of (by omega) (by omega)
    · rw [if_neg q]
      exact ⟨32, Or.inr (Or.inr (Or.inl ⟨rfl, rfl⟩)), OkX.xV (c_heldX (by omega) R O C4 q) fun i h' T => T.x0 rfl⟩
  · rw [tw_in (o := 22) (by omega) (by omega) (by omega) rfl]
    refine OpX.le b_X2_serve_108 ⟨X, ?_⟩
    show OpR b Z e w pr c L X _ (.inl ([], if c 8 + c 9 ≤ 0 then nx - 2 else nx))
    rw [R.vn, Option.bind_some, c_isWaiting (by omega) R, cI_v]
    by_cases q : c 8 + c 9 ≤ 0
    · rw [if_pos q, if_pos q, if_pos rfl]; exact nil _
    · rw [if_neg q, if_neg q, if_neg (by decide)]; exact nil _
  · rw [tw_in (o := 23) (by omega) (by omega) (by omega) rfl]
    refine OpX.le b_X2_serve_125 ⟨X, ?_⟩
    rw [R.vn, Option.bind_some]
    refine Ok.V (c_set (by omega) R (by omega) (i := 10) (p := 10) rfl (by omega) _) fun h1 R1 => ?_
    rw [R1.vn, Option.bind_some]
    refine Ok.V (c_set (by omega) R1 (by simp only [List.length_append, joW_len, pushW_len, pullW_len, stopW_len, List.length_cons, List.length_nil]; omega) (i := 11) (p := 11) rfl (by omega) _) fun h2 R2 => Ok.ret ?_
    rw [List.append_assoc] at R2
    exact R2
  · rw [tw_in (o := 24) (by omega) (by omega) (by omega) rfl]
    refine OpX.le b_X2_serve_142 ⟨X, ?_⟩
    show Ok _ _ (MR b Z e w pr (apW c (readW K c ++ [(nn (Int32.ofNat r), readV K c)])) (L ++ joW c (readW K c ++ [(nn (Int32.ofNat r), readV K c)])) X)
    have hl : (readW K c).length ≤ 1 := by unfold readW; split <;> simp
    rw [R.vn, Option.bind_some, er]
    refine Ok.I (c_read (by omega) R B Y (by omega) C16 hk) fun h1 R1 => ?_
    rw [R1.vn, Option.bind_some]
    exact Ok.V (c_set (by omega) R1 (by simp only [List.length_append, joW_len]; omega) rfl hr2 _) fun h2 R2 => Ok.ret R2.app
  · rw [tw_in (o := 25) (by omega) (by omega) (by omega) rfl]
    refine OpX.le b_X2_serve_154 ⟨X, ?_⟩
    show OpR b Z e w pr c L X _ (if c 17 = 60 then .inr 4 else .inl ([(48 + nn (c 17), Int32.ofNat y), (17, c 17 + 1)], nx))
    rw [R.g0, Option.bind_some, R.rdn (i := 17) (k := 17) rfl (by decide), Option.bind_some]
    by_cases q : c 17 = 60
    · rw [if_neg (fun z => z q), if_pos q, nw_at]
      have R1 : MR b Z (e + 1) (w + 6) pr c L X (ax_new h (.inr (35, [.null])) 6) := R.ext (fun q hq => new_ne _ _ (by omega)) (Nat.le_succ _) (Nat.le_add_right _ _) (Nat.le_refl _) (Nat.le_refl _)
      rw [ex_tape (by omega) (by omega) (new_eq _ _), cV_v]
      have T : TX b Z e w pr c L X 35 (400 + h.2.1) (ax_new h (.inr (35, [.null])) 6) := ⟨R1.le (by omega) (by omega), by omega, _, new_eq _ _⟩
      exact ⟨35, Or.inr (Or.inr (Or.inr ⟨rfl, rfl⟩)), T.ret rfl⟩
    · obtain ⟨n1, n2⟩ := rg.nat C17
      rw [if_pos q, if_neg q, Option.bind_some, R.rdn (i := 17) (k := 17) rfl (by decide), Option.bind_some, R.vn, Option.bind_some]
      refine Ok.V (c_set (by omega) R (by omega) (i := 48 + c 17) (p := 48 + nn (c 17)) (by rw [← i_add, ← n2]; rfl) (by omega) _) fun h1 R1 => ?_
      have e17 : upd c (48 + nn (c 17)) (Int32.ofNat y) 17 = c 17 := if_neg (by omega)
      rw [R1.g0, Option.bind_some, R1.rdn (i := 17) (k := 17) rfl (by decide), Option.bind_some, e17, R1.vn, Option.bind_some]
      refine Ok.V (c_set (by omega) R1 (by simp only [List.length_append, joW_len, pushW_len, pullW_len, stopW_len, List.length_cons, List.length_nil]; omega) (i := 17) (p := 17) rfl (by omega) _) fun h2 R2 => Ok.ret ?_
      rw [List.append_assoc] at R2
      exact R2
  · rw [tw_out (o := 26) (by omega) (by omega)]
    refine OpX.le b_X2_serve_207 ?_
    obtain ⟨X1, h1, r1, R1⟩ := c_call (d := d) (by omega) R (by omega) F hy (C12 1 (by omega))
    refine ⟨X1, ?_⟩
    show Ok _ (.inl (some (.int (if (callO c (Int32.ofNat y)).2 = 0 then nx - 2 else nx)))) (MR b Z e w pr (apW c (callO c (Int32.ofNat y)).1) (L ++ joW c (callO c (Int32.ofNat y)).1) X1)
    rw [R.vn, Option.bind_some, r1, cI_v]
    by_cases q : (callO c (Int32.ofNat y)).2 = 0
    · rw [if_pos q, if_pos q]; exact Ok.ret R1
    · rw [if_neg q, if_neg q]; exact Ok.ret R1
/-- an instruction: it goes well, or a fault is thrown -/
def InR (b : Nat) (Z : mr_Z) (e w : Nat) (pr : Option Nat) (c : Nat → Int32) (L : List (Nat × Int32)) (x : Option ax_R) (o : ce_W ⊕ Int32) : Prop := ∃ X, match o with
  | .inl ws => Ok x (.inl none) (MR b Z e w pr (apW c ws) (L ++ joW c ws) X)
  | .inr f => ∃ k, (f = 1 ∧ k = 33 ∨ f = 2 ∧ k = 34 ∨ f = 3 ∧ k = 32 ∨ f = 4 ∧ k = 35) ∧ OkX x (TX b Z e w pr c L X k)
theorem InR.le {x y : Option ax_R} {o : ce_W ⊕ Int32} (hl : dx_le x y) (r : InR b Z e w pr c L x o) : InR b Z e w pr c L y o := by
  obtain ⟨X, r⟩ := r
  match o, r with
  | .inl ws, r => exact ⟨X, Ok.le hl r⟩
  | .inr f, ⟨k, hk, r⟩ => exact ⟨X, k, hk, OkX.le hl r⟩
theorem kinds_0 {f : Int32} {k : Nat} (hk : f = 1 ∧ k = 33 ∨ f = 2 ∧ k = 34 ∨ f = 3 ∧ k = 32 ∨ f = 4 ∧ k = 35) : hd_0 k = some none := by
  rcases hk with ⟨_, rfl⟩ | ⟨_, rfl⟩ | ⟨_, rfl⟩ | ⟨_, rfl⟩ <;> rfl
theorem toI64_add (a b : Nat) : Int64.toInt32 (Int32.toInt64 (Int32.ofNat a + Int32.ofNat b)) = Int32.ofNat (a + b) := by
  rw [i_add, Int32.toInt32_toInt64]
theorem plkW_len (n : Nat) (nb : Nat → Nat) (W : Nat → Int32) : ∀ m k, (plkW n nb W m k).length ≤ 9 * m := by
  intro m
  induction m with
  | zero => intro k; exact Nat.le_refl _
  | succ m ih =>
    intro k
    show (((20 + k, if k < n then Int32.ofNat (nb k) else 0) :: (if k < n then evW W (24 + 8 * k) (nb k) 8 0 else [])) ++ plkW n nb W m (k + 1)).length ≤ _
    have := ih (k + 1)
    rw [List.length_append, List.length_cons]
    by_cases q : k < n
    · rw [if_pos q, evW_len]; omega
    · rw [if_neg q, List.length_nil]; omega
theorem reckW_len (c : ce_C) (op d y : Int32) : (reckW c op d y).length ≤ 3 := by
  unfold reckW
  dsimp only
  rw [List.length_append]
  by_cases q : op = 11
  · rw [if_pos q]; simp
  · rw [if_neg q]; simp
theorem callO_len (c : ce_C) (k : Int32) : (callO c k).1.length ≤ 30 := by
  have h1 := plO_len c k
  unfold callO
  split
  · show List.length ((plO c k).1 ++ [(15, (plO c k).2.1)]) ≤ 30
    rw [List.length_append]
    simp only [List.length_cons, List.length_nil]
    omega
  · show List.length ((plO c k).1 ++ callW (cntS (plO c k).2.2.1 32) (enS (plO c k).2.2.1) (plO c k).2.2.2) ≤ 30
    have := plkW_len (cntS (plO c k).2.2.1 32) (enS (plO c k).2.2.1) (plO c k).2.2.2 3 0
    unfold callW
    rw [List.length_append, List.length_append]
    simp only [List.length_cons, List.length_nil]
    omega
theorem opO_len (K : kk_K) (c : ce_C) (o r y : Nat) (nx : Int32) {ws : ce_W} {v : Int32} (e1 : opO K c o r y nx = .inl (ws, v)) : ws.length ≤ 30 := by
  have hc := callO_len c (Int32.ofNat y)
  have hr : (readW K c).length ≤ 1 := by unfold readW; split <;> simp
  have key : ∀ (x : (ce_W × Int32) ⊕ Int32), (match x with | .inl (ws, _) => ws.length ≤ 30 | .inr _ => True) → x = .inl (ws, v) → ws.length ≤ 30 := by
    intro x hx ex
    rw [ex] at hx
    exact hx
  have ki : ∀ {p : Prop} [Decidable p] {a b : (ce_W × Int32) ⊕ Int32}, (match a with | .inl (ws, _) => ws.length ≤ 30 | .inr _ => True) → (match b with | .inl (ws, _) => ws.length ≤ 30 | .inr _ => True) → (match (if p then a else b) with | .inl (ws, _) => ws.length ≤ 30 | .inr _ => True) := by
    intro p _ a b ha hb
    by_cases q : p
    · rw [if_pos q]; exact ha
    · rw [if_neg q]; exact hb
  refine key _ ?_ e1
  unfold opO
  refine ki ?_ (ki ?_ ?_)
  · show (reckW c _ _ _).length ≤ 30
    exact Nat.le_trans (reckW_len _ _ _ _) (by omega)
  · unfold moveW
    repeat' (first | exact trivial | refine ki ?_ ?_)
    all_goals (show List.length _ ≤ 30; simp [pushW_len, pullW_len])
  · unfold serveO
    repeat' (first | exact trivial | refine ki ?_ ?_)
    all_goals (show List.length _ ≤ 30; first | exact hc | (simp only [List.length_append, pullW_len, List.length_cons, List.length_nil]; omega) | simp)
theorem c_instruct (hd : 12 ≤ d) (R : MR b Z e w pr c L X h) (O : OLD Z.1) (B : SB0 Z pr) (Y : KY b Z.1 K) (hL : L.length ≤ 100) (C : WC c) (F : FW (ds c)) (hk : nn (c 16) ≤ toldN K.2.1 0 (c 2) K.1) : InR b Z e w pr c L (ax_c d 326 [.ref b] h) (instO K c) := by
  have C0 := C
  obtain ⟨C3, C4, C12, C16, C17, Cw, Cd⟩ := C
  obtain ⟨n3, e3⟩ := rg.nat C3
  obtain ⟨d, rfl, he⟩ := d_succ hd
  refine InR.le m_X2_instruct ?_
  have ea : c 3 + 1 = Int32.ofNat (nn (c 3) + 1) := by
    have := i_add (nn (c 3)) 1
    rw [← e3] at this
    exact this
  unfold instO
  rw [R.g0, Option.bind_some, R.rdn (i := 3) (k := 3) rfl (by decide), Option.bind_some, ea]
  by_cases q : nn (c 3) + 1 < 256
  · rw [if_neg (show ¬ ¬ nn (c 3) + 1 < 256 from fun z => z q), c_address (by omega) q, cI_v, R.g0, Option.bind_some, show Int32.ofNat (108 + (nn (c 3) + 1)) - 1 = Int32.ofNat (108 + nn (c 3)) from i_sub (b := 1) (by omega), R.rdn rfl (by omega), Option.bind_some]
    obtain ⟨nv, ev⟩ := rg.nat (Cw (nn (c 3)) (by omega))
    generalize hv : nn (c (108 + nn (c 3))) = v at nv ev
    dsimp only
    have s4 : dx_shr (Int32.ofNat v) 4 = Int32.ofNat (v / 16) := shr_nat (j := 4) (by omega) (by omega)
    have s2 : (12 : Int32) + (dx_shr (Int32.ofNat v) 2 &&& 3) = Int32.ofNat (12 + v / 4 % 4) := by
      rw [show dx_shr (Int32.ofNat v) 2 = Int32.ofNat (v / 4) from shr_nat (j := 2) (by omega) (by omega), and3_nat (by omega)]
      exact i_add 12 _
    have s0 : (12 : Int32) + (Int32.ofNat v &&& 3) = Int32.ofNat (12 + v % 4) := by
      rw [and3_nat (by omega)]
      exact i_add 12 _
    rw [ev, s4, lt_at]
    by_cases q2 : v / 16 ≤ 26
    · rw [if_pos (show Int32.ofNat (v / 16) ≤ 26 from (i_le (b := 26) (by omega) (by omega)).mpr q2), if_neg (show ¬ ¬ v / 16 ≤ 26 from fun z => z q2), s2, lt_at, s0, lt_at]
      obtain ⟨nb', eb'⟩ := rg.nat (Cw (nn (c 3) + 1) q)
      obtain ⟨ns', es'⟩ := rg.nat (C12 (v % 4) (by omega))
      have hsec : secC c v ≤ 65535 := by
        unfold secC
        split
        · rw [Nat.add_assoc]; exact nb'
        · omega
      -- behind the second word
      have h92 : InR b Z e w pr c L (B_X2_instruct_92 (ax_c d) (Int32.ofNat (secC c v)) b (Int32.ofNat (v / 16)) (Int32.ofNat (12 + v / 4 % 4)) h) (match opO K c (v / 16) (12 + v / 4 % 4) (secC c v) (c 3 + 2) with | .inl (ws, nx) => .inl (ws ++ [(3, nx)]) | .inr f => .inr f) := by
        refine InR.le b_X2_instruct_92 ?_
        rw [R.g0, Option.bind_some, R.rdn (i := 3) (k := 3) rfl (by decide), Option.bind_some, lt_at]
        -- the counter is set behind an operation
        have fin : ∀ (x : Option ax_R), OpX b Z e w pr c L x (opO K c (v / 16) (12 + v / 4 % 4) (secC c v) (c 3 + 2)) → InR b Z e w pr c L (dx_cI x (fun x5 h4 => (dx_vn [(29, 320)] (.ref b) h4).bind fun k => dx_cV (ax_c d k [.ref b, .int 3, .int x5] h4) (fun h6 => some (.inl none, h6)) dx_x0) dx_x0) (match opO K c (v / 16) (12 + v / 4 % 4) (secC c v) (c 3 + 2) with | .inl (ws, nx) => .inl (ws ++ [(3, nx)]) | .inr f => .inr f) := by
          rintro x ⟨X1, r⟩
          generalize ho : opO K c (v / 16) (12 + v / 4 % 4) (secC c v) (c 3 + 2) = o at r
          match o, r, ho with
          | .inl (ws, nx), r, ho =>
            have hl := opO_len K c _ _ _ _ ho
            refine ⟨X1, Ok.I r fun h1 R1 => ?_⟩
            rw [R1.vn, Option.bind_some]
            exact Ok.V (c_set (by omega) R1 (by simp only [List.length_append, joW_len]; omega) (i := 3) (p := 3) rfl (by omega) _) fun h2 R2 => Ok.ret R2.app
          | .inr f, ⟨k, hk, r⟩, ho => exact ⟨X1, k, hk, OkX.xI r fun i h' T => T.x0 (kinds_0 hk)⟩
        have h127 : ¬ (4 ≤ v / 16 ∧ v / 16 ≤ 11) → InR b Z e w pr c L (B_X2_instruct_127 (ax_c d) b (Int32.ofNat (v / 16)) (Int32.ofNat (12 + v / 4 % 4)) (Int32.ofNat (secC c v)) (c 3 + 2) h) (match opO K c (v / 16) (12 + v / 4 % 4) (secC c v) (c 3 + 2) with | .inl (ws, nx) => .inl (ws ++ [(3, nx)]) | .inr f => .inr f) := by
          intro no
          refine InR.le b_X2_instruct_127 ?_
          by_cases q3 : v / 16 ≤ 18
          · rw [if_neg (show ¬ (18 : Int32) < Int32.ofNat (v / 16) from fun z => by have := (i_lt (a := 18) (by omega) (by omega)).mp z; omega), R.vn, Option.bind_some]
            refine fin _ ⟨X, ?_⟩
            unfold opO
            rw [if_neg no, if_pos q3]
            exact c_move (by omega) R O (by omega) C4 ⟨q3, no⟩ (by omega) hsec _
          · rw [if_pos (show (18 : Int32) < Int32.ofNat (v / 16) from (i_lt (a := 18) (by omega) (by omega)).mpr (by omega)), R.vn, Option.bind_some]
            refine fin _ ?_
            unfold opO
            rw [if_neg no, if_neg q3]
            exact c_serve (by omega) R O B Y hL C0 F hk ⟨by omega, by omega⟩ (by omega) hsec _
        by_cases q4 : 4 ≤ v / 16
        · rw [if_neg (show ¬ Int32.ofNat (v / 16) < 4 from fun z => by have := (i_lt (b := 4) (by omega) (by omega)).mp z; omega)]
          by_cases q5 : v / 16 ≤ 11
          · rw [if_neg (show ¬ (11 : Int32) < Int32.ofNat (v / 16) from fun z => by have := (i_lt (a := 11) (by omega) (by omega)).mp z; omega), R.vn, Option.bind_some]
            unfold opO
            rw [if_pos ⟨q4, q5⟩]
            refine ⟨X, ?_⟩
            dsimp only
            refine Ok.V (c_reckon (by omega) R (by omega) ⟨q4, q5⟩ (by omega) _) fun h1 R1 => ?_
            have hl : (reckW c (Int32.ofNat (v / 16)) (Int32.ofNat (12 + v / 4 % 4)) (Int32.ofNat (secC c v))).length ≤ 3 := reckW_len _ _ _ _
            rw [R1.vn, Option.bind_some]
            exact Ok.V (c_set (by omega) R1 (by simp only [List.length_append, joW_len]; omega) (i := 3) (p := 3) rfl (by omega) _) fun h2 R2 => Ok.ret R2.app
          · rw [if_pos (show (11 : Int32) < Int32.ofNat (v / 16) from (i_lt (a := 11) (by omega) (by omega)).mpr (by omega))]
            exact h127 (fun z => q5 z.2)
        · rw [if_pos (show Int32.ofNat (v / 16) < 4 from (i_lt (b := 4) (by omega) (by omega)).mpr (by omega))]
          exact h127 (fun z => q4 z.1)
      unfold secC at h92 ⊢
      by_cases q6 : v / 4 % 4 = v % 4
      · rw [if_pos q6] at h92 ⊢
        rw [if_neg (fun z => z (by rw [q6])), Option.bind_some, R.rdn rfl (by omega), Option.bind_some, eb']
        rw [Nat.add_assoc] at h92 ⊢
        exact h92
      · rw [if_neg q6] at h92 ⊢
        rw [if_pos (fun z => by have := (i_eq (by omega) (by omega)).mp z; omega), Option.bind_some, R.rdn rfl (by omega), Option.bind_some, Option.bind_some, R.rdn rfl (by omega), Option.bind_some, es', eb', c_cut (by omega), cI_v]
        unfold cutI
        rw [toI64_add, i2c_nat]
        rw [Nat.add_assoc 108] at h92 ⊢
        rw [nn_of (show nn (c (12 + v % 4)) < 2 ^ 31 by omega)]
        exact h92
    · rw [if_neg (show ¬ Int32.ofNat (v / 16) ≤ 26 from fun z => by have := (i_le (b := 26) (by omega) (by omega)).mp z; omega), if_pos q2, nw_at]
      exact ⟨X, 34, Or.inr (Or.inl ⟨rfl, rfl⟩), OkX.V (x_made R O (Or.inr (Or.inr ⟨rfl, rfl⟩)) (by omega) (by omega)) fun h' T => T.ret rfl⟩
  · rw [if_pos q]
    exact ⟨X, 33, Or.inl ⟨rfl, rfl⟩, OkX.xI (c_addressX (by omega) R O q (by omega)) fun i h' T => T.x0 rfl⟩
end MSI
