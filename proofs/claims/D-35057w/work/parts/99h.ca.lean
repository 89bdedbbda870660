/-! the class assembles: how the assembly and a pass lie -/
/- with AL.mono AL.ne al_get al_size al_addB OLD OLD.mono GO XP XP.x0 Ext Ext.tr Ext.up skT frT plcN CLW LnC lnV ex_wrong cs_at rem_nat rg.nat FRK SKI -/
/-- the fields of a pass -/
def psF (tl : List Value) (pb : Nat) (sec g us : Int32) : List Value := .ref (pb + 1) :: .int sec :: .ref (pb + 2) :: .ref (pb + 3) :: .ref (pb + 4) :: .int g :: .int us :: .ref 400 :: tl
def psT (pk q0 : Nat) : List Value := if pk = 27 then [.ref 400, .ref q0] else [.ref q0]
/-- a pass -/
def CPS (pk q0 pb : Nat) (σ : skT) (h : ax_H) : Prop := (pk = 27 ∨ pk = 30) ∧ h.1 pb = .inr (pk, psF (psT pk q0) pb (Int32.ofNat σ.2.2.1) (Int32.ofNat σ.2.2.2.2.1) (Int32.ofNat σ.2.2.2.2.2)) ∧ (∃ f, h.1 (pb + 1) = .inl (0, 2, .inl f) ∧ f 0 = Int32.ofNat (σ.2.2.2.1 0) ∧ f 1 = Int32.ofNat (σ.2.2.2.1 1)) ∧ (∃ fb fe, h.1 (pb + 2) = .inl (0, 5, .inl fb) ∧ h.1 (pb + 3) = .inl (0, 5, .inl fe) ∧ ∀ m, m < 5 → (σ.2.1 m = none → fb m = -1) ∧ ∀ x y, σ.2.1 m = some (x, y) → fb m = Int32.ofNat x ∧ fe m = Int32.ofNat y) ∧ ∃ fu, h.1 (pb + 4) = .inl (2, 5, .inl fu) ∧ ∀ m, m < 5 → fu m = if (∃ f, f ∈ σ.1 ∧ f.2.2.2 = m) then 1 else 0
/-- the assembly, its labels, uses, and what is made -/
def CB (H : ax_H) (q0 nU c1 c2 : Nat) (it : Nat → Nat) (lab bu : Nat → Int32) (bh wd mc : Int32) (arr cap : Nat) (h : ax_H) : Prop := q0 = 400 + H.2.1 ∧ Ext (c1 + 3 * nU) (c2 + 8 * nU + 4 * cap) H h ∧ H.2.1 + 11 ≤ h.2.1 ∧ h.1 q0 = .inr (25, [.ref (q0 + 1), .ref (q0 + 2), .ref (q0 + 4), .ref (q0 + 5), .int bh, .int wd, .ref 400]) ∧ (∃ f, h.1 (q0 + 1) = .inl (0, 16, .inl f) ∧ ∀ j, j < 16 → f j = lab j) ∧ (∃ x y, h.1 (q0 + 2) = .inr (26, [.int (-1), .ref (q0 + 3), .int x, .int y])) ∧ (∃ f, h.1 (q0 + 3) = .inl (0, 4, .inl f) ∧ ∀ j, j < 4 → f j = lab (16 + j)) ∧ (∃ f, h.1 (q0 + 5) = .inl (0, 256, .inl f) ∧ ∀ j, j < 256 → f j = bu j) ∧ AL h (q0 + 4) mc arr cap nU it ∧ (cap ≤ 610 ∧ (cap = 0 ∨ 10 ≤ cap) ∧ (arr < 400 ∨ q0 + 11 ≤ arr)) ∧ (∀ k, k < nU → (q0 + 11 ≤ it k ∧ it k + 1 < 400 + h.2.1 ∧ arr ≠ it k ∧ arr ≠ it k + 1) ∧ (∃ m x y, m < 5 ∧ h.1 (it k) = .inr (26, [.int (Int32.ofNat m), .ref (it k + 1), .int x, .int y])) ∧ ∃ f, h.1 (it k + 1) = .inl (0, 4, .inl f) ∧ ∀ j, j < 4 → f j = lab (20 + 4 * k + j)) ∧ ∀ j k, j < k → k < nU → it j + 1 < it k
/-- apart from the assembly -/
def AP (q0 nU : Nat) (it : Nat → Nat) (arr p : Nat) : Prop := q0 + 6 ≤ p ∧ p ≠ arr ∧ ∀ k, k < nU → p ≠ it k ∧ p ≠ it k + 1
/-- Wrong is thrown -/
def WR (H : ax_H) (e : Nat × Nat) (i : Nat) (h : ax_H) : Prop := 400 ≤ i ∧ h.1 i = .inr (28, [.int (Int32.ofNat e.1), .int (Int32.ofNat e.2), .null]) ∧ Ext 1000 7000 H h
def useP (q0 : Nat) (it : Nat → Nat) (R : List frT) (u : Nat) : Nat := if R = [] then q0 + 2 else it u
section CAS
variable {H h h' : ax_H} {q0 nU c1 c2 arr cap pk pb d k p a w e l j u sec g us : Nat} {it : Nat → Nat} {lab bu : Nat → Int32} {bh wd mc x v : Int32} {σ : skT} {R F : List frT} {sz : Nat → Nat} {mac : Nat → Option (Nat × Nat)}
theorem x_check1 (e l : Int32) (hd : 1 ≤ d) : ax_c d 213 [.int 1, .int e, .int l] h = some (.inl none, h) := by
  obtain ⟨d, rfl, -⟩ := d_succ hd
  exact dx_app m_X1_check (if_pos (by decide))
theorem WR.x0 {i : Nat} {er : Nat × Nat} (W : WR H er i h) : OkX (dx_x0 i h) (WR H er) := OkX.x0 W.1 W.2.1 rfl W
theorem x_check0 (E : Ext a w H h) (ha : a ≤ 920) (hw : w ≤ 5300) (o : OLD H) (he : e ≤ 7) (hl : l ≤ 100) (hd : 9 ≤ d) : OkX (ax_c d 213 [.int 0, .int (Int32.ofNat e), .int (Int32.ofNat l)] h) (WR H (e, l)) := by
  obtain ⟨d, rfl, hd'⟩ := d_succ hd
  refine OkX.le m_X1_check ?_
  have o1 : OLD (ax_new h (.inr (28, [.int 0, .int 0, .null])) 8) := o.mono fun q hq => (new_ne _ _ (by omega)).trans (E.1 q (by omega))
  obtain ⟨e1, e2, e3, e4, e5⟩ := E
  have s1 : (ax_new h (.inr (28, [.int 0, .int 0, .null])) 8).2.1 = h.2.1 + 1 := rfl
  have s2 : (ax_new h (.inr (28, [.int 0, .int 0, .null])) 8).2.2 = h.2.2 + 8 := rfl
  rw [if_neg (fun z => z rfl), nw_at]
  refine OkX.V (ex_wrong (by omega) o1 (a := 400 + h.2.1) (by omega) (by rw [s1]; omega) (new_eq _ _) (by omega) (by omega)) ?_
  rintro h2 ⟨x1, x2, x3, x4, x5, x6⟩
  refine OkX.x0 (by omega) x1 rfl ⟨by omega, x1, fun q hq => ?_, by omega, by omega, by omega, by omega⟩
  exact (x6 q (by omega) (by omega)).trans ((new_ne _ _ (by omega)).trans (e1 q hq))
theorem CB.ext (C : CB H q0 nU c1 c2 it lab bu bh wd mc arr cap h) (hn : nU ≤ 300) (h1 : c1 ≤ 16) (h2 : c2 ≤ 400) : ∃ a w, Ext a w H h ∧ a ≤ 920 ∧ w ≤ 5300 := by
  obtain ⟨-, E, -, -, -, -, -, -, -, ⟨c, -⟩, -⟩ := C
  exact ⟨_, _, E, by omega, by omega⟩
theorem CB.mv (C : CB H q0 nU c1 c2 it lab bu bh wd mc arr cap h) (hs : h'.2 = h.2) (e : ∀ q, q < q0 + 6 ∨ q = arr ∨ (∃ k, k < nU ∧ (q = it k ∨ q = it k + 1)) → h'.1 q = h.1 q) : CB H q0 nU c1 c2 it lab bu bh wd mc arr cap h' := by
  obtain ⟨a1, ⟨b1, b2, b3, b4, b5⟩, a3, a4, a5, a6, a7, a8, a9, a10, a11, a12⟩ := C
  refine ⟨a1, ⟨fun q hq => (e q (Or.inl (by omega))).trans (b1 q hq), by rw [hs]; exact b2, by rw [hs]; exact b3, by rw [hs]; exact b4, by rw [hs]; exact b5⟩, by rw [hs]; exact a3, (e _ (Or.inl (by omega))).trans a4, ?_, ?_, ?_, ?_, a9.mono (e _ (Or.inl (by omega))) (e _ (Or.inr (Or.inl rfl))) (by rw [hs]; exact Nat.le_refl _), a10, fun k hk => ?_, a12⟩
  · rw [e _ (Or.inl (by omega))]; exact a5
  · rw [e _ (Or.inl (by omega))]; exact a6
  · rw [e _ (Or.inl (by omega))]; exact a7
  · rw [e _ (Or.inl (by omega))]; exact a8
  · rw [e _ (Or.inr (Or.inr ⟨k, hk, Or.inl rfl⟩)), e _ (Or.inr (Or.inr ⟨k, hk, Or.inr rfl⟩)), hs]
    exact a11 k hk
theorem CB.set (C : CB H q0 nU c1 c2 it lab bu bh wd mc arr cap h) (A : AP q0 nU it arr p) (c : ax_C) : CB H q0 nU c1 c2 it lab bu bh wd mc arr cap (ax_set h p c) := by
  obtain ⟨p1, p2, p3⟩ := A
  refine C.mv rfl fun q hq => set_ne _ ?_
  rcases hq with z | z | ⟨k, hk, z⟩
  · omega
  · rw [z]; exact fun y => p2 y.symm
  · have := p3 k hk
    omega
theorem CB.ap1 (C : CB H q0 nU c1 c2 it lab bu bh wd mc arr cap h) (h1 : q0 + 6 ≤ p) (h2 : p < q0 + 11) : AP q0 nU it arr p := by
  obtain ⟨a1, -, -, -, -, -, -, -, -, ⟨-, -, a10⟩, a11, -⟩ := C
  exact ⟨h1, by omega, fun k hk => by have := (a11 k hk).1; omega⟩
theorem CPS.mv (C : CPS pk q0 pb σ h) (e : ∀ j, j < 5 → h'.1 (pb + j) = h.1 (pb + j)) : CPS pk q0 pb σ h' := by
  unfold CPS
  have e0 := e 0 (by omega)
  rw [Nat.add_zero] at e0
  rw [e0, e 1 (by omega), e 2 (by omega), e 3 (by omega), e 4 (by omega)]
  exact C
theorem CPS.lk (C : CPS pk q0 pb σ h) (j : Nat) : [(27, j), (30, j)].lookup pk = some j := by
  rcases C.1 with z | z <;> (rw [z]; rfl)
theorem CPS.sizes (C : CPS pk q0 pb σ h) : dx_gA [(27, 0), (30, 0)] (.ref pb) h = some (.ref (pb + 1)) := gA_r C.2.1 (C.lk 0) rfl
theorem CPS.begins (C : CPS pk q0 pb σ h) : dx_gA [(27, 2), (30, 2)] (.ref pb) h = some (.ref (pb + 2)) := gA_r C.2.1 (C.lk 2) rfl
theorem CPS.ends (C : CPS pk q0 pb σ h) : dx_gA [(27, 3), (30, 3)] (.ref pb) h = some (.ref (pb + 3)) := gA_r C.2.1 (C.lk 3) rfl
theorem CPS.used (C : CPS pk q0 pb σ h) : dx_gA [(27, 4), (30, 4)] (.ref pb) h = some (.ref (pb + 4)) := gA_r C.2.1 (C.lk 4) rfl
theorem CPS.gym (C : CPS pk q0 pb σ h) : dx_gA [(27, 7), (30, 7)] (.ref pb) h = some (.ref 400) := gA_r C.2.1 (C.lk 7) rfl
theorem CPS.secI (C : CPS pk q0 pb σ h) : dx_gI [(27, 1), (30, 1)] (.ref pb) h = some (Int32.ofNat σ.2.2.1) := gI_at C.2.1 (C.lk 1) rfl
theorem CPS.gone (C : CPS pk q0 pb σ h) : dx_gI [(27, 5), (30, 5)] (.ref pb) h = some (Int32.ofNat σ.2.2.2.2.1) := gI_at C.2.1 (C.lk 5) rfl
theorem CPS.many (C : CPS pk q0 pb σ h) : dx_gI [(27, 6), (30, 6)] (.ref pb) h = some (Int32.ofNat σ.2.2.2.2.2) := gI_at C.2.1 (C.lk 6) rfl
theorem CPS.vn (C : CPS pk q0 pb σ h) (i j : Nat) : dx_vn [(27, i), (30, j)] (.ref pb) h = some (if pk = 27 then i else j) := by
  rw [vn_at C.2.1]
  rcases C.1 with z | z <;> (rw [z]; rfl)
theorem CPS.szS (C : CPS pk q0 pb σ h) (hj : j < 2) : dx_lI 0 (.ref (pb + 1)) (Int32.ofNat j) h = some (Int32.ofNat (σ.2.2.2.1 j)) := by
  obtain ⟨-, -, ⟨f, f1, f2, f3⟩, -⟩ := C
  rw [lI_at f1, ix_of rfl hj (by omega), Option.bind_some]
  rcases (show j = 0 ∨ j = 1 by omega) with z | z
  · rw [z, f2]
  · rw [z, f3]
/-- one more gone through -/
theorem CPS.incG (C : CPS pk q0 pb (F, mac, sec, sz, g, us) h) (h4 : 400 ≤ pb) : ∃ h', dx_pF [(27, 5), (30, 5)] .int (.ref pb) (.int (Int32.ofNat g + 1)) h = some h' ∧ CPS pk q0 pb (F, mac, sec, sz, g + 1, us) h' ∧ ∃ c, h' = ax_set h pb c := by
  obtain ⟨c1, c2, c3, c4, c5⟩ := id C
  refine ⟨_, pF_int c2 (C.lk 5) (by simp [psF]) h4, ⟨c1, (set_eq _).trans ?_, ?_, ?_, ?_⟩, _, rfl⟩
  · rw [show Int32.ofNat g + 1 = Int32.ofNat (g + 1) from i_add g 1]; rfl
  · rw [set_ne _ (show pb + 1 ≠ pb by omega)]; exact c3
  · rw [set_ne _ (show pb + 2 ≠ pb by omega), set_ne _ (show pb + 3 ≠ pb by omega)]; exact c4
  · rw [set_ne _ (show pb + 4 ≠ pb by omega)]; exact c5
theorem CPS.incU (C : CPS pk q0 pb (F, mac, sec, sz, g, us) h) (h4 : 400 ≤ pb) : ∃ h', dx_pF [(27, 6), (30, 6)] .int (.ref pb) (.int (Int32.ofNat us + 1)) h = some h' ∧ CPS pk q0 pb (F, mac, sec, sz, g, us + 1) h' ∧ ∃ c, h' = ax_set h pb c := by
  obtain ⟨c1, c2, c3, c4, c5⟩ := id C
  refine ⟨_, pF_int c2 (C.lk 6) (by simp [psF]) h4, ⟨c1, (set_eq _).trans ?_, ?_, ?_, ?_⟩, _, rfl⟩
  · rw [show Int32.ofNat us + 1 = Int32.ofNat (us + 1) from i_add us 1]; rfl
  · rw [set_ne _ (show pb + 1 ≠ pb by omega)]; exact c3
  · rw [set_ne _ (show pb + 2 ≠ pb by omega), set_ne _ (show pb + 3 ≠ pb by omega)]; exact c4
  · rw [set_ne _ (show pb + 4 ≠ pb by omega)]; exact c5
theorem CPS.setS (C : CPS pk q0 pb (F, mac, sec, sz, g, us) h) (h4 : 400 ≤ pb) {z : Nat} (hx : x = Int32.ofNat z) : ∃ h', dx_pF [(27, 1), (30, 1)] .int (.ref pb) (.int x) h = some h' ∧ CPS pk q0 pb (F, mac, z, sz, g, us) h' ∧ ∃ c, h' = ax_set h pb c := by
  obtain ⟨c1, c2, c3, c4, c5⟩ := id C
  refine ⟨_, pF_int c2 (C.lk 1) (by simp [psF]) h4, ⟨c1, (set_eq _).trans ?_, ?_, ?_, ?_⟩, _, rfl⟩
  · rw [hx]; rfl
  · rw [set_ne _ (show pb + 1 ≠ pb by omega)]; exact c3
  · rw [set_ne _ (show pb + 2 ≠ pb by omega), set_ne _ (show pb + 3 ≠ pb by omega)]; exact c4
  · rw [set_ne _ (show pb + 4 ≠ pb by omega)]; exact c5
/-- a word more in the section -/
theorem CPS.incZ (C : CPS pk q0 pb (F, mac, sec, sz, g, us) h) (h4 : 400 ≤ pb) (hs : sec < 2) : ∃ h', dx_sI 0 (.ref (pb + 1)) (Int32.ofNat sec) (Int32.ofNat (sz sec) + 1) h = some h' ∧ CPS pk q0 pb (F, mac, sec, (fun k => if k = sec then sz k + 1 else sz k), g, us) h' ∧ ∃ c, h' = ax_set h (pb + 1) c := by
  obtain ⟨c1, c2, ⟨f, f1, f2, f3⟩, c4, c5⟩ := id C
  refine ⟨ax_set h (pb + 1) (.inl (0, 2, .inl (upd f sec (Int32.ofNat (sz sec) + 1)))), by rw [sI_at f1 (by omega), ix_of rfl hs (by omega), Option.bind_some], ⟨c1, ?_, ⟨_, set_eq _, ?_, ?_⟩, ?_, ?_⟩, _, rfl⟩
  · rw [set_ne _ (show pb ≠ pb + 1 by omega)]; exact c2
  · show (if 0 = sec then _ else f 0) = Int32.ofNat (if 0 = sec then sz 0 + 1 else sz 0)
    by_cases e : 0 = sec
    · rw [if_pos e, if_pos e, ← e]; exact i_add _ 1
    · rw [if_neg e, if_neg e]; exact f2
  · show (if 1 = sec then _ else f 1) = Int32.ofNat (if 1 = sec then sz 1 + 1 else sz 1)
    by_cases e : 1 = sec
    · rw [if_pos e, if_pos e, ← e]; exact i_add _ 1
    · rw [if_neg e, if_neg e]; exact f3
  · rw [set_ne _ (show pb + 2 ≠ pb + 1 by omega), set_ne _ (show pb + 3 ≠ pb + 1 by omega)]; exact c4
  · rw [set_ne _ (show pb + 4 ≠ pb + 1 by omega)]; exact c5
/-- the row of a label -/
theorem CB.rowOf (C : CB H q0 nU c1 c2 it lab bu bh wd mc arr cap h) (hR : R = [] ∨ u < nU) (hx : rg 19 x) (hd : 1 ≤ d) : ∃ (p sz : Nat) (f : Nat → Int32), ax_c d 282 [.ref q0, .int x, .ref (useP q0 it R u)] h = some (.inl (some (.ref p)), h) ∧ h.1 p = .inl (0, sz, .inl f) ∧ (nn x % 16 < sz ∧ sz ≤ 16) ∧ f (nn x % 16) = lab (plcN R u x) ∧ 400 ≤ p ∧ (p = q0 + 1 ∨ p = q0 + 3 ∨ ∃ k, k < nU ∧ p = it k + 1) ∧ ∀ v, CB H q0 nU c1 c2 it (upd lab (plcN R u x) v) bu bh wd mc arr cap (ax_set h p (.inl (0, sz, .inl (upd f (nn x % 16) v)))) := by
  obtain ⟨d, rfl, -⟩ := d_succ hd
  obtain ⟨q1, q2⟩ := hx.nat
  obtain ⟨a1, ⟨b1, b2, b3, b4, b5⟩, a3, a4, ⟨f0, a5, a5'⟩, ⟨sx, sy, a6⟩, ⟨f1, a7, a7'⟩, ⟨fm, a8, a8'⟩, a9, ⟨a10, a10', a10''⟩, a11, a12⟩ := id C
  unfold plcN useP
  have le := m_X15_rowOf (d := d) (v0 := q0) (v1 := x) (v2 := .ref (useP q0 it R u)) (h := h) rfl
  unfold useP at le
  by_cases c : nn x < 16
  · have cx : ¬ (16 : Int32) ≤ x := by rw [q2]; exact fun z => by have := (i_le (a := 16) (by omega) (by omega)).mp z; omega
    rw [if_neg cx, gA_r a4 rfl rfl, Option.bind_some] at le
    refine ⟨q0 + 1, 16, f0, dx_app le rfl, a5, ⟨by omega, Nat.le_refl _⟩, by rw [a5' _ (by omega), if_pos (Or.inl c), Nat.mod_eq_of_lt c], by omega, Or.inl rfl, fun v => ?_⟩
    rw [if_pos (Or.inl c), Nat.mod_eq_of_lt c]
    have ne : ∀ q, q ≠ q0 + 1 → (ax_set h (q0 + 1) (.inl (0, 16, .inl (upd f0 (nn x) v)))).1 q = h.1 q := fun q hq => set_ne _ hq
    refine ⟨a1, ⟨fun q hq => (ne q (by omega)).trans (b1 q hq), b2, b3, b4, b5⟩, a3, (ne _ (by omega)).trans a4, ⟨_, set_eq _, fun j hj => ?_⟩, ⟨sx, sy, (ne _ (by omega)).trans a6⟩, ⟨f1, (ne _ (by omega)).trans a7, fun j hj => ?_⟩, ⟨fm, (ne _ (by omega)).trans a8, a8'⟩, a9.mono (ne _ (by omega)) (ne _ (by omega)) (Nat.le_refl _), ⟨a10, a10', a10''⟩, fun k hk => ?_, a12⟩
    · show (if j = nn x then v else f0 j) = (if j = nn x then v else lab j)
      rw [a5' j hj]
    · show f1 j = (if 16 + j = nn x then v else lab (16 + j))
      rw [if_neg (by omega)]; exact a7' j hj
    · obtain ⟨y1, ⟨m, xx, yy, y2, y3⟩, f, y4, y5⟩ := a11 k hk
      refine ⟨y1, ⟨m, xx, yy, y2, (ne _ (by omega)).trans y3⟩, f, (ne _ (by omega)).trans y4, fun j hj => ?_⟩
      show f j = (if 20 + 4 * k + j = nn x then v else lab (20 + 4 * k + j))
      rw [if_neg (by omega)]; exact y5 j hj
  have cx : (16 : Int32) ≤ x := by rw [q2]; exact (i_le (a := 16) (by omega) (by omega)).mpr (by omega)
  rw [if_pos cx] at le
  have md : nn x % 16 = nn x - 16 := by omega
  by_cases eR : R = []
  · rw [if_pos eR] at le
    rw [gA_r a6 rfl rfl, Option.bind_some] at le
    refine ⟨q0 + 3, 4, f1, ?_, a7, ⟨by omega, by omega⟩, ?_, by omega, Or.inr (Or.inl rfl), fun v => ?_⟩
    · rw [if_pos eR]; exact dx_app le rfl
    · rw [if_pos (Or.inr eR), a7' _ (by omega)]
      congr 1; omega
    rw [if_pos (Or.inr eR)]
    have ne : ∀ q, q ≠ q0 + 3 → (ax_set h (q0 + 3) (.inl (0, 4, .inl (upd f1 (nn x % 16) v)))).1 q = h.1 q := fun q hq => set_ne _ hq
    refine ⟨a1, ⟨fun q hq => (ne q (by omega)).trans (b1 q hq), b2, b3, b4, b5⟩, a3, (ne _ (by omega)).trans a4, ⟨f0, (ne _ (by omega)).trans a5, fun j hj => ?_⟩, ⟨sx, sy, (ne _ (by omega)).trans a6⟩, ⟨_, set_eq _, fun j hj => ?_⟩, ⟨fm, (ne _ (by omega)).trans a8, a8'⟩, a9.mono (ne _ (by omega)) (ne _ (by omega)) (Nat.le_refl _), ⟨a10, a10', a10''⟩, fun k hk => ?_, a12⟩
    · show f0 j = (if j = nn x then v else lab j)
      rw [if_neg (by omega)]; exact a5' j hj
    · show (if j = nn x % 16 then v else f1 j) = (if 16 + j = nn x then v else lab (16 + j))
      by_cases e : j = nn x % 16
      · rw [if_pos e, if_pos (by omega)]
      · rw [if_neg e, if_neg (by omega)]; exact a7' j hj
    · obtain ⟨y1, ⟨m, xx, yy, y2, y3⟩, f, y4, y5⟩ := a11 k hk
      refine ⟨y1, ⟨m, xx, yy, y2, (ne _ (by omega)).trans y3⟩, f, (ne _ (by omega)).trans y4, fun j hj => ?_⟩
      show f j = (if 20 + 4 * k + j = nn x then v else lab (20 + 4 * k + j))
      rw [if_neg (by omega)]; exact y5 j hj
  · rw [if_neg eR] at le
    have hu := hR.resolve_left eR
    obtain ⟨y1, ⟨m, xx, yy, y2, y3⟩, fu, y4, y5⟩ := a11 u hu
    rw [gA_r y3 rfl rfl, Option.bind_some] at le
    refine ⟨it u + 1, 4, fu, ?_, y4, ⟨by omega, by omega⟩, ?_, by omega, Or.inr (Or.inr ⟨u, hu, rfl⟩), fun v => ?_⟩
    · rw [if_neg eR]; exact dx_app le rfl
    · rw [if_neg (fun z => z.elim c eR), y5 _ (by omega)]
      congr 1; omega
    rw [if_neg (fun z => z.elim c eR)]
    have ne : ∀ q, q ≠ it u + 1 → (ax_set h (it u + 1) (.inl (0, 4, .inl (upd fu (nn x % 16) v)))).1 q = h.1 q := fun q hq => set_ne _ hq
    refine ⟨a1, ⟨fun q hq => (ne q (by omega)).trans (b1 q hq), b2, b3, b4, b5⟩, a3, (ne _ (by omega)).trans a4, ⟨f0, (ne _ (by omega)).trans a5, fun j hj => ?_⟩, ⟨sx, sy, (ne _ (by omega)).trans a6⟩, ⟨f1, (ne _ (by omega)).trans a7, fun j hj => ?_⟩, ⟨fm, (ne _ (by omega)).trans a8, a8'⟩, a9.mono (ne _ (by omega)) (ne _ (by omega)) (Nat.le_refl _), ⟨a10, a10', a10''⟩, fun k hk => ?_, a12⟩
    · show f0 j = (if j = 20 + 4 * u + nn x - 16 then v else lab j)
      rw [if_neg (by omega)]; exact a5' j hj
    · show f1 j = (if 16 + j = 20 + 4 * u + nn x - 16 then v else lab (16 + j))
      rw [if_neg (by omega)]; exact a7' j hj
    · obtain ⟨z1, ⟨m', xx', yy', z2, z3⟩, f, z4, z5⟩ := a11 k hk
      have lt1 := a12 k u
      have lt2 := a12 u k
      by_cases e : k = u
      · subst e
        refine ⟨z1, ⟨m', xx', yy', z2, (ne _ (by omega)).trans z3⟩, _, set_eq _, fun j hj => ?_⟩
        show (if j = nn x % 16 then v else fu j) = (if 20 + 4 * k + j = 20 + 4 * k + nn x - 16 then v else lab (20 + 4 * k + j))
        by_cases e : j = nn x % 16
        · rw [if_pos e, if_pos (by omega)]
        · rw [if_neg e, if_neg (by omega)]; exact y5 j hj
      · have hk' : it k ≠ it u + 1 ∧ it k + 1 ≠ it u + 1 := by
          rcases Nat.lt_or_gt_of_ne e with z | z
          · have := lt1 z hu; omega
          · have := lt2 z hk; omega
        refine ⟨z1, ⟨m', xx', yy', z2, (ne _ hk'.1).trans z3⟩, f, (ne _ hk'.2).trans z4, fun j hj => ?_⟩
        show f j = (if 20 + 4 * k + j = 20 + 4 * u + nn x - 16 then v else lab (20 + 4 * k + j))
        rw [if_neg (by omega)]; exact z5 j hj
/-- a place of what is made -/
theorem CB.put (C : CB H q0 nU c1 c2 it lab bu bh wd mc arr cap h) (hp : p < 256) (v : Int32) : ∃ h', dx_sI 0 (.ref (q0 + 5)) (Int32.ofNat p) v h = some h' ∧ CB H q0 nU c1 c2 it lab (upd bu p v) bh wd mc arr cap h' ∧ ∃ c, h' = ax_set h (q0 + 5) c := by
  obtain ⟨a1, ⟨b1, b2, b3, b4, b5⟩, a3, a4, ⟨f0, a5, a5'⟩, ⟨sx, sy, a6⟩, ⟨f1, a7, a7'⟩, ⟨fm, a8, a8'⟩, a9, ⟨a10, a10', a10''⟩, a11, a12⟩ := id C
  have ne : ∀ q, q ≠ q0 + 5 → (ax_set h (q0 + 5) (.inl (0, 256, .inl (upd fm p v)))).1 q = h.1 q := fun q hq => set_ne _ hq
  refine ⟨_, by rw [sI_at a8 (by omega), ix_of rfl hp (by omega), Option.bind_some], ⟨a1, ⟨fun q hq => (ne q (by omega)).trans (b1 q hq), b2, b3, b4, b5⟩, a3, (ne _ (by omega)).trans a4, ⟨f0, (ne _ (by omega)).trans a5, a5'⟩, ⟨sx, sy, (ne _ (by omega)).trans a6⟩, ⟨f1, (ne _ (by omega)).trans a7, a7'⟩, ⟨_, set_eq _, fun j hj => ?_⟩, a9.mono (ne _ (by omega)) (ne _ (by omega)) (Nat.le_refl _), ⟨a10, a10', a10''⟩, fun k hk => ?_, a12⟩, _, rfl⟩
  · show (if j = p then v else fm j) = (if j = p then v else bu j)
    rw [a8' j hj]
  · obtain ⟨z1, ⟨m', xx', yy', z2, z3⟩, f, z4, z5⟩ := a11 k hk
    exact ⟨z1, ⟨m', xx', yy', z2, (ne _ (by omega)).trans z3⟩, f, (ne _ (by omega)).trans z4, z5⟩
end CAS
