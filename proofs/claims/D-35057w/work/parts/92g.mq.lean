/-! the class's machine: plans and calls, whole -/
/-- what a call finds: words read, its result, the blocks it changes, the disk as it will be -/
def plO (c : ce_C) (k : Int32) : ce_W × Int32 × (Nat → Prop) × (Nat → Int32) :=
  let D := ds c
  let fi := if c 12 = 0 then -1 else findF D (c 12)
  let f := nn fi
  let z := nn (D (40 + 4 * f + 1))
  let q := nn (D (40 + 4 * f + (2 + nn (c 13) / 8)))
  if ¬ k ≤ 6 then ([], 9, noS, D)
  else if k = 0 then (if c 12 = 0 then ([], 1, noS, D) else if ¬ fi = -1 then ([], 1, noS, D) else if findF D 0 = -1 then ([], 2, noS, D) else ([], 0, addS noS (5 + nn (findF D 0) / 2), entW D (nn (findF D 0)) 0 (c 12)))
  else if fi = -1 then ([], 1, noS, D)
  else if k = 1 then (if z = 16 then ([], 2, noS, D) else if ¬ z % 8 = 0 then ([], 0, appS1 f (nn (D (40 + 4 * f + (2 + z / 8)))), appW1 D f z (nn (D (40 + 4 * f + (2 + z / 8)))) (c 13)) else if freeF D = -1 then ([], 3, noS, D) else ([], 0, appS2 f (nn (freeF D)), appW2 D f z (nn (freeF D)) (c 13)))
  else if k = 2 then (if c 13 < D (40 + 4 * f + 1) then ([], 0, addS noS q, upd D (8 * q + nn (c 13) % 8) (c 14)) else ([], 2, noS, D))
  else if k = 3 then (if c 13 < D (40 + 4 * f + 1) then ([(14, D (8 * q + nn (c 13) % 8))], 0, noS, D) else ([], 2, noS, D))
  else if k = 4 then ([(13, D (40 + 4 * f + 1))], 0, noS, D)
  else if k = 5 then ([], 0, rmvS D f noS, rmvW D f 4 0 D)
  else if c 13 = 0 then ([], 1, noS, D)
  else if c 13 = c 12 then ([], 0, noS, D)
  else if findF D (c 13) = -1 then ([], 0, addS noS (5 + f / 2), entW D f 0 (c 13))
  else ([], 0, addS (rmvS D (nn (findF D (c 13))) noS) (5 + f / 2), entW (rmvW D (nn (findF D (c 13))) 4 0 D) f 0 (c 13))
/-- the entries are within bounds -/
def FW (D : Nat → Int32) : Prop := ∀ f, f < 6 → (∃ z, z ≤ 16 ∧ D (40 + 4 * f + 1) = Int32.ofNat z) ∧ ∀ k, 2 ≤ k → k < 4 → ∃ v, v < 32 ∧ D (40 + 4 * f + k) = Int32.ofNat v
section MSQ
variable {d b e w : Nat} {Z : mr_Z} {pr : Option Nat} {c : Nat → Int32} {L : List (Nat × Int32)} {X : mr_X} {h : ax_H} {K : kk_K} {S : Nat → Prop} {W : Nat → Int32}
def PlanOk (b : Nat) (Z : mr_Z) (e w : Nat) (pr : Option Nat) (c : ce_C) (L : List (Nat × Int32)) (x : Option ax_R) (o : ce_W × Int32 × (Nat → Prop) × (Nat → Int32)) : Prop := ∃ X, Ok x (.inl (some (.int o.2.1))) (MR b Z e w pr (apW c o.1) (L ++ joW c o.1) X) ∧ DSS (apW c o.1) X o.2.2.1 o.2.2.2
theorem OkD.plan {x : Option ax_R} {r : Int32} (o : OkD b Z e w pr c L x (.inl (some (.int r))) S W) : PlanOk b Z e w pr c L x ([], r, S, W) := by
  obtain ⟨X, o1, o2⟩ := o
  exact ⟨X, o1.imp fun h' R => by rw [show joW c [] = [] from rfl, List.append_nil]; exact R, o2⟩
theorem PlanOk.le {x y : Option ax_R} {o : ce_W × Int32 × (Nat → Prop) × (Nat → Int32)} (hl : dx_le x y) (p : PlanOk b Z e w pr c L x o) : PlanOk b Z e w pr c L y o := by
  obtain ⟨X, o1, o2⟩ := p
  exact ⟨X, Ok.le hl o1, o2⟩
theorem DSS.regs {ws : ce_W} (D : DSS c X S W) (hw : ∀ p, 365 ≤ p → apW c ws p = c p) : DSS (apW c ws) X S W := by
  obtain ⟨n, nb, ⟨d1, d2, d3, d4, d5, d6⟩, d7⟩ := D
  refine ⟨n, nb, ⟨d1, d2, d3, d4, d5, fun p hp hh => ?_⟩, d7⟩
  rw [d6 p hp hh]
  unfold ds
  rw [hw _ (by omega)]
theorem c_plan (hd : 6 ≤ d) (R : MR b Z e w pr c L X h) (hL : L.length ≤ 150) (D : DSS c X noS (ds c)) (F : FW (ds c)) {y : Nat} (hy : y ≤ 65535) (h13 : rg 65535 (c 13)) : PlanOk b Z e w pr c L (ax_c d 336 [.ref b, .int (Int32.ofNat y)] h) (plO c (Int32.ofNat y)) := by
  obtain ⟨d, rfl, he⟩ := d_succ hd
  have en := c_named (d := d) (by omega) R.mv (c 12)
  have ef := c_find (d := d) (by omega) R.mv 0
  have hv : ∀ f k, f < 6 → 2 ≤ k → k < 4 → ∃ v, v < 32 ∧ ds c (40 + 4 * f + k) = Int32.ofNat v := fun f k hf => (F f hf).2 k
  obtain ⟨n13, e13⟩ := rg.nat h13
  refine PlanOk.le m_X2_plan ?_
  rw [R.g0, Option.bind_some, R.rdn (i := 12) (k := 12) rfl (by decide), Option.bind_some, Option.bind_some, R.rdn (i := 13) (k := 13) rfl (by decide), Option.bind_some, R.vn, Option.bind_some, en, cI_v]
  generalize hfi : (if c 12 = 0 then (-1 : Int32) else findF (ds c) (c 12)) = fi
  have hfc : fi = -1 ∨ ∃ v, v < 6 ∧ fi = Int32.ofNat v := by
    rw [← hfi]
    split
    · exact Or.inl rfl
    · exact findF_cases _ _
  have ret : ∀ r : Int32, PlanOk b Z e w pr c L (some (.inl (some (.int r)), h)) ([], r, noS, ds c) := fun r => OkD.plan (OkD.ret R D)
  unfold plO
  dsimp only
  rw [hfi]
  by_cases q6 : Int32.ofNat y ≤ 6
  · rw [if_pos q6, if_neg (show ¬ ¬ Int32.ofNat y ≤ 6 from fun z => z q6)]
    have y6 : y ≤ 6 := (i_le (b := 6) (by omega) (by omega)).mp q6
    by_cases q0 : Int32.ofNat y = 0
    · rw [if_neg (fun z => z q0), if_pos q0, R.vn, Option.bind_some, ef, cI_v]
      by_cases q1 : c 12 = 0
      · rw [if_pos q1, if_pos q1]; exact ret 1
      · rw [if_neg q1, if_neg q1]
        by_cases q2 : fi = -1
        · rw [if_pos q2, if_neg (show ¬ ¬ fi = -1 from fun z => z q2)]
          rcases findF_cases (ds c) 0 with z | ⟨v, v1, v2⟩
          · rw [z, if_pos rfl, if_pos rfl]
            refine PlanOk.le b_X2_plan_69 ?_
            rw [if_neg (fun z => z rfl)]
            exact ret 2
          · rw [v2, if_neg (ofNat_ne_neg (by omega)), if_neg (ofNat_ne_neg (by omega)), R.vn, Option.bind_some, nn_of (by omega)]
            obtain ⟨X1, ⟨h1, r1, R1⟩, D1⟩ := c_setEntry (d := d) (by omega) R D v1 (show 0 < 4 by omega) (t0 := 5 + v / 2) (t1 := 0) (t2 := 0) (fun x hx => hx.elim) (Or.inl rfl) (c 12) (i := 0) rfl
            rw [r1, cV_v]
            refine PlanOk.le b_X2_plan_69 ?_
            rw [if_pos (ofNat_ne_neg (by omega))]
            exact OkD.plan (OkD.ret R1 D1)
        · rw [if_neg q2, if_pos q2]; exact ret 1
    · rw [if_pos q0, if_neg q0]
      by_cases q2 : fi = -1
      · rw [if_neg (fun z => z q2), if_pos q2]; exact ret 1
      · obtain ⟨f, f1, rfl⟩ := hfc.resolve_left q2
        rw [if_pos q2, if_neg q2, nn_of (by omega)]
        obtain ⟨⟨z, z1, z2⟩, zv⟩ := F f f1
        have e1 := c_entry (d := d) (by omega) R.mv f1 (show 1 < 4 by omega)
        rw [show Int32.ofNat 1 = 1 from rfl] at e1
        have y0 : y ≠ 0 := fun z => q0 (by rw [z]; rfl)
        -- the place 'more', where it lies within the file
        have pl : c 13 < ds c (40 + 4 * f + 1) → nn (c 13) / 8 < 2 ∧ c 13 / 8 = Int32.ofNat (nn (c 13) / 8) ∧ dx_rem (c 13) 8 = Int32.ofNat (nn (c 13) % 8) := by
          intro hlt
          rw [z2, e13] at hlt
          have hlt := (i_lt (by omega) (by omega)).mp hlt
          have zd : ∀ z, z < 17 → Int32.ofNat z / 8 = Int32.ofNat (z / 8) ∧ dx_rem (Int32.ofNat z) 8 = Int32.ofNat (z % 8) := by decide
          obtain ⟨a1, a2⟩ := zd (nn (c 13)) (by omega)
          rw [← e13] at a1 a2
          exact ⟨by omega, a1, a2⟩
        obtain rfl | rfl | rfl | rfl | rfl | rfl : y = 1 ∨ y = 2 ∨ y = 3 ∨ y = 4 ∨ y = 5 ∨ y = 6 := by omega
        · rw [tw_in (o := 1) (by omega) (by omega) (by omega) rfl, if_pos (show Int32.ofNat 1 = 1 from rfl), R.vn, Option.bind_some, z2, nn_of (by omega)]
          obtain ⟨p1, p2, p3, p4⟩ := c_append (d := d) (by omega) R D f1 z1 z2 (fun y => (zv (2 + z / 8) (by omega) (by
            rcases Nat.lt_or_ge z 16 with y2 | y2
            · omega
            · have : z = 16 := by omega
              rw [this] at y; omega)).imp fun v hv => hv) (c 13)
          have wrap : ∀ (r : Int32) (S' : Nat → Prop) (W' : Nat → Int32), OkD b Z e w pr c L (ax_c d 340 [.ref b, .int (Int32.ofNat f), .int (c 13)] h) (.inl (some (.int r))) S' W' → PlanOk b Z e w pr c L (dx_cI (ax_c d 340 [.ref b, .int (Int32.ofNat f), .int (c 13)] h) (fun x10 h9 => some (.inl (some (.int x10)), h9)) dx_x0) ([], r, S', W') := fun r S' W' o => OkD.plan (OkD.I o fun X' h' R' D' => OkD.ret R' D')
          by_cases k1 : z = 16
          · rw [if_pos k1]; exact wrap _ _ _ (p1 k1)
          · rw [if_neg k1]
            by_cases k2 : z % 8 = 0
            · rw [if_neg (show ¬ ¬ z % 8 = 0 from fun y => y k2)]
              rcases freeF_cases (ds c) with k3 | ⟨v, v1, v2, v3⟩
              · rw [if_pos k3]; exact wrap _ _ _ (p3 (by omega) k2 k3)
              · rw [if_neg (by rw [v3]; exact ofNat_ne_neg (by omega)), v3, nn_of (by omega)]
                exact wrap _ _ _ (p4 (by omega) k2 v v2 v3)
            · obtain ⟨v, v1, v2⟩ := zv (2 + z / 8) (by omega) (by omega)
              rw [if_pos k2, v2, nn_of (by omega)]
              exact wrap _ _ _ (p2 (by omega) k2 v v1 v2)
        · rw [tw_in (o := 2) (by omega) (by omega) (by omega) rfl, if_neg (show ¬ Int32.ofNat 2 = 1 by decide), if_pos (show Int32.ofNat 2 = 2 from rfl)]
          refine PlanOk.le b_X2_plan_132 ?_
          rw [R.vn, Option.bind_some, e1, cI_v]
          by_cases k1 : c 13 < ds c (40 + 4 * f + 1)
          · obtain ⟨m1, m2, m3⟩ := pl k1
            obtain ⟨v, v1, v2⟩ := zv (2 + nn (c 13) / 8) (by omega) (by omega)
            rw [if_neg (Int32.not_le.mpr k1), if_pos k1, R.vn, Option.bind_some, m2, show (2 : Int32) + Int32.ofNat (nn (c 13) / 8) = Int32.ofNat (2 + nn (c 13) / 8) from i_add 2 _, c_entry (by omega) R.mv f1 (by omega), cI_v, v2, nn_of (by omega), R.vn, Option.bind_some]
            obtain ⟨X1, p, ⟨h1, r1, R1⟩, D1⟩ := c_draftS (d := d) (by omega) R D v1 (t0 := v) (t1 := 0) (t2 := 0) (fun x hx => hx.elim) (Or.inl rfl)
            rw [r1, cR_r, R1.g0, Option.bind_some, R1.rdn (i := 14) (k := 14) rfl (by decide), Option.bind_some]
            obtain ⟨X2, h2, s1, R2, D2⟩ := D1.st R1 (j := nn (c 13) % 8) (by omega) m3 (c 14)
            rw [s1, Option.bind_some]
            refine PlanOk.le b_X2_plan_171 ?_
            have e1' := c_entry (d := d) (by omega) R2.mv f1 (show 1 < 4 by omega)
            rw [show Int32.ofNat 1 = 1 from rfl] at e1'
            rw [R2.vn, Option.bind_some, e1', cI_v, if_neg (Int32.not_le.mpr k1)]
            exact OkD.plan (OkD.ret R2 D2.dss)
          · rw [if_pos (Int32.not_lt.mp k1), if_neg k1]
            refine PlanOk.le b_X2_plan_171 ?_
            rw [R.vn, Option.bind_some, e1, cI_v, if_pos (Int32.not_lt.mp k1)]
            exact ret 2
        · rw [tw_in (o := 3) (by omega) (by omega) (by omega) rfl, if_neg (show ¬ Int32.ofNat 3 = 1 by decide), if_neg (show ¬ Int32.ofNat 3 = 2 by decide), if_pos (show Int32.ofNat 3 = 3 from rfl)]
          refine PlanOk.le b_X2_plan_188 ?_
          rw [R.vn, Option.bind_some, e1, cI_v]
          by_cases k1 : c 13 < ds c (40 + 4 * f + 1)
          · obtain ⟨m1, m2, m3⟩ := pl k1
            obtain ⟨v, v1, v2⟩ := zv (2 + nn (c 13) / 8) (by omega) (by omega)
            rw [if_neg (Int32.not_le.mpr k1), if_pos k1, R.vn, Option.bind_some, c_wordOf (by omega) R.mv f1 m2 m1 m3 (by omega) v2 v1, cI_v, v2, nn_of (by omega), R.vn, Option.bind_some]
            obtain ⟨h1, r1, R1⟩ := c_set (d := d) (by omega) R (by omega) (i := 14) (p := 14) rfl (by omega) (ds c (8 * v + nn (c 13) % 8))
            rw [r1, cV_v]
            refine PlanOk.le b_X2_plan_212 ?_
            have e1' := c_entry (d := d) (by omega) R1.mv f1 (show 1 < 4 by omega)
            rw [show Int32.ofNat 1 = 1 from rfl] at e1'
            have eD : ds (upd c 14 (ds c (8 * v + nn (c 13) % 8))) (40 + 4 * f + 1) = ds c (40 + 4 * f + 1) := if_neg (by omega)
            rw [R1.vn, Option.bind_some, e1', cI_v, eD, if_neg (Int32.not_le.mpr k1)]
            exact ⟨X, Ok.ret R1, D.regs fun p hp => if_neg (by omega)⟩
          · rw [if_pos (Int32.not_lt.mp k1), if_neg k1]
            refine PlanOk.le b_X2_plan_212 ?_
            rw [R.vn, Option.bind_some, e1, cI_v, if_pos (Int32.not_lt.mp k1)]
            exact ret 2
        · rw [tw_in (o := 4) (by omega) (by omega) (by omega) rfl, if_neg (show ¬ Int32.ofNat 4 = 1 by decide), if_neg (show ¬ Int32.ofNat 4 = 2 by decide), if_neg (show ¬ Int32.ofNat 4 = 3 by decide), if_pos (show Int32.ofNat 4 = 4 from rfl)]
          refine PlanOk.le b_X2_plan_229 ?_
          rw [R.vn, Option.bind_some, e1, cI_v, R.vn, Option.bind_some]
          obtain ⟨h1, r1, R1⟩ := c_set (d := d) (by omega) R (by omega) (i := 13) (p := 13) rfl (by omega) (ds c (40 + 4 * f + 1))
          rw [r1, cV_v]
          exact ⟨X, Ok.ret R1, D.regs fun p hp => if_neg (by omega)⟩
        · rw [tw_in (o := 5) (by omega) (by omega) (by omega) rfl, if_neg (show ¬ Int32.ofNat 5 = 1 by decide), if_neg (show ¬ Int32.ofNat 5 = 2 by decide), if_neg (show ¬ Int32.ofNat 5 = 3 by decide), if_neg (show ¬ Int32.ofNat 5 = 4 by decide), if_pos (show Int32.ofNat 5 = 5 from rfl), R.vn, Option.bind_some]
          exact OkD.plan (OkD.V (c_remove (t0 := 5 + f / 2) (t1 := 4) (t2 := 4) (by omega) R D f1 (fun x hx => hx.elim) (Or.inl rfl) (Or.inr (Or.inl rfl)) zv) fun X' h' R' D' => OkD.ret R' D')
        · rw [tw_out (o := 6) (by omega) (by omega), if_neg (show ¬ Int32.ofNat 6 = 1 by decide), if_neg (show ¬ Int32.ofNat 6 = 2 by decide), if_neg (show ¬ Int32.ofNat 6 = 3 by decide), if_neg (show ¬ Int32.ofNat 6 = 4 by decide), if_neg (show ¬ Int32.ofNat 6 = 5 by decide), R.vn, Option.bind_some]
          have wrap : ∀ (r : Int32) (S' : Nat → Prop) (W' : Nat → Int32), OkD b Z e w pr c L (ax_c d 345 [.ref b, .int (Int32.ofNat f), .int (c 12), .int (c 13)] h) (.inl (some (.int r))) S' W' → PlanOk b Z e w pr c L (dx_cI (ax_c d 345 [.ref b, .int (Int32.ofNat f), .int (c 12), .int (c 13)] h) (fun x10 h9 => some (.inl (some (.int x10)), h9)) dx_x0) ([], r, S', W') := fun r S' W' o => OkD.plan (OkD.I o fun X' h' R' D' => OkD.ret R' D')
          by_cases k1 : c 13 = 0
          · rw [if_pos k1]
            refine wrap _ _ _ ?_
            obtain ⟨d2, rfl, he2⟩ := d_succ (k := 4) he
            refine OkD.le m_X2_rename ?_
            rw [if_neg (fun z => z k1)]
            exact OkD.ret R D
          · obtain ⟨p1, p2, p3⟩ := c_rename (d := d) he R D f1 (c 12) (c 13) k1 hv
            rw [if_neg k1]
            by_cases k2 : c 13 = c 12
            · rw [if_pos k2]; exact wrap _ _ _ (p1 k2)
            · rw [if_neg k2]
              rcases findF_cases (ds c) (c 13) with k3 | ⟨g, g1, g2⟩
              · rw [if_pos k3]; exact wrap _ _ _ (p2 k2 k3)
              · rw [if_neg (by rw [g2]; exact ofNat_ne_neg (by omega)), g2, nn_of (by omega)]
                exact wrap _ _ _ (p3 k2 g g1 g2)
  · rw [if_neg q6, if_pos q6]
    exact ret 9
end MSQ
