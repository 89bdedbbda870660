/-! the twin: is the disk whole -/
/- with bo.and bo.iff OkB.le t_entry t_find t_in tl_50 -/
def enP (D : Nat → Int32) (f : Nat) : Prop := (D (40 + 4 * f) = 0 → D (40 + 4 * f + 1) = 0 ∧ D (40 + 4 * f + 2) = 0 ∧ D (40 + 4 * f + 3) = 0) ∧ (D (40 + 4 * f) ≠ 0 → ¬ (16 : Int32) < D (40 + 4 * f + 1) ∧ (D (40 + 4 * f + 2) ≤ 0 ↔ D (40 + 4 * f + 1) ≤ 0) ∧ (D (40 + 4 * f + 3) ≤ 0 ↔ D (40 + 4 * f + 1) ≤ 8) ∧ (D (40 + 4 * f + 2) = 0 ∨ inI (D (40 + 4 * f + 2)) 8 31 ≠ 0) ∧ (D (40 + 4 * f + 3) = 0 ∨ inI (D (40 + 4 * f + 3)) 8 31 ≠ 0) ∧ findF D (D (40 + 4 * f)) = Int32.ofNat f)
theorem i_eqf {f : Nat} (hf : f < 6) {k : Nat} (hk : k < 4) : ix 256 (Int32.ofNat (40 + 4 * f) + Int32.ofNat k) = some (40 + 4 * f + k) := ix_of (i_add _ _) (by omega) (by omega)
section MTW
variable {d : Nat} {h : ax_H} {s : Nat → Nat → Int32}
theorem t_isEntrySo (hd : 3 ≤ d) {f : Nat} (hf : f < 6) : OkB (ax_c d 482 [.ref 417, .int (Int32.ofNat f)] (tw_H h s)) (enP (s 50) f) (fun h' => h' = tw_H h s) := by
  obtain ⟨d, rfl, he⟩ := d_succ hd
  have no : ∀ {A : Prop}, ¬ A → OkB (some (.inl (some (.int 0)), tw_H h s)) A (fun h' => h' = tw_H h s) := fun hA => ⟨0, bo.no hA, Ok.ret rfl⟩
  have yes : ∀ {A : Prop}, A → OkB (some (.inl (some (.int 1)), tw_H h s)) A (fun h' => h' = tw_H h s) := fun hA => ⟨1, bo.yes hA, Ok.ret rfl⟩
  have r1 : dx_lI 0 (.ref 441) (Int32.ofNat (40 + 4 * f) + 1) (tw_H h s) = some (s 50 (40 + 4 * f + 1)) := by rw [tl_50, show ix 256 (Int32.ofNat (40 + 4 * f) + 1) = some _ from i_eqf hf (k := 1) (by omega)]; rfl
  have r2 : dx_lI 0 (.ref 441) (Int32.ofNat (40 + 4 * f) + 2) (tw_H h s) = some (s 50 (40 + 4 * f + 2)) := by rw [tl_50, show ix 256 (Int32.ofNat (40 + 4 * f) + 2) = some _ from i_eqf hf (k := 2) (by omega)]; rfl
  have r3 : dx_lI 0 (.ref 441) (Int32.ofNat (40 + 4 * f) + 3) (tw_H h s) = some (s 50 (40 + 4 * f + 3)) := by rw [tl_50, show ix 256 (Int32.ofNat (40 + 4 * f) + 3) = some _ from i_eqf hf (k := 3) (by omega)]; rfl
  have r0 : dx_lI 0 (.ref 441) (Int32.ofNat (40 + 4 * f)) (tw_H h s) = some (s 50 (40 + 4 * f)) := by rw [tl_50, ix_of (k := 40 + 4 * f) rfl (by omega) (by omega)]; rfl
  refine OkB.le m_X3_isEntrySo ?_
  rw [tr_50, Option.bind_some, t_entry (by omega), cI_v, i_entry, r1, Option.bind_some, tr_50, Option.bind_some, t_entry (by omega), cI_v, i_entry, r2, Option.bind_some, tr_50, Option.bind_some, t_entry (by omega), cI_v, i_entry, r3, Option.bind_some, tr_50, Option.bind_some, t_entry (by omega), cI_v, i_entry, r0, Option.bind_some]
  unfold enP
  generalize hn : s 50 (40 + 4 * f) = nm
  generalize hx : s 50 (40 + 4 * f + 1) = x
  generalize hy : s 50 (40 + 4 * f + 2) = y
  generalize hz : s 50 (40 + 4 * f + 3) = z
  by_cases n0 : nm = 0
  · rw [if_neg (fun w => w n0)]
    by_cases x0 : x = 0
    · rw [if_neg (fun w => w x0)]
      by_cases y0 : y = 0
      · rw [if_neg (fun w => w y0)]
        by_cases z0 : z = 0
        · rw [if_neg (fun w => w z0)]
          exact yes ⟨fun _ => ⟨x0, y0, z0⟩, fun w => absurd n0 w⟩
        · rw [if_pos z0]
          exact no fun w => z0 (w.1 n0).2.2
      · rw [if_pos y0]
        exact no fun w => y0 (w.1 n0).2.1
    · rw [if_pos x0]
      exact no fun w => x0 (w.1 n0).1
  rw [if_pos n0]
  obtain ⟨A, hA⟩ : ∃ A : Prop, A = ((nm = 0 → x = 0 ∧ y = 0 ∧ z = 0) ∧ (nm ≠ 0 → ¬ (16 : Int32) < x ∧ (y ≤ 0 ↔ x ≤ 0) ∧ (z ≤ 0 ↔ x ≤ 8) ∧ (y = 0 ∨ inI y 8 31 ≠ 0) ∧ (z = 0 ∨ inI z 8 31 ≠ 0) ∧ findF (s 50) nm = Int32.ofNat f)) := ⟨_, rfl⟩
  rw [← hA]
  have q0 : ¬ A → OkB (B_X3_isEntrySo_124 (ax_c d) 0 417 (Int32.ofNat f) y z (tw_H h s)) A (fun h' => h' = tw_H h s) := by
    intro w
    refine OkB.le b_X3_isEntrySo_124 ?_
    rw [if_pos rfl]
    exact no w
  have q163 : (findF (s 50) nm = Int32.ofNat f ↔ A) → OkB (B_X3_isEntrySo_163 (ax_c d) 417 (Int32.ofNat f) (tw_H h s)) A (fun h' => h' = tw_H h s) := by
    intro w
    refine OkB.le b_X3_isEntrySo_163 ?_
    rw [tr_50, Option.bind_some, Option.bind_some, t_entry (by omega), cI_v, i_entry, r0, Option.bind_some, hn, t_find (by omega) h s _ 50 (tl_50 h), cI_v]
    by_cases e : findF (s 50) nm = Int32.ofNat f
    · rw [if_neg (fun w => w e)]
      exact yes (w.mp e)
    · rw [if_pos e]
      exact no fun w2 => e (w.mpr w2)
  have q146 : ((z = 0 ∨ inI z 8 31 ≠ 0) ∧ findF (s 50) nm = Int32.ofNat f ↔ A) → OkB (B_X3_isEntrySo_146 (ax_c d) 417 (Int32.ofNat f) z (tw_H h s)) A (fun h' => h' = tw_H h s) := by
    intro w
    refine OkB.le b_X3_isEntrySo_146 ?_
    by_cases e : z = 0
    · rw [if_pos e]
      exact q163 ⟨fun v => w.mp ⟨Or.inl e, v⟩, fun v => (w.mpr v).2⟩
    · rw [if_neg e, t_in (by omega), cI_v]
      by_cases e2 : inI z 8 31 = 0
      · rw [if_pos e2]
        exact no fun v => (w.mpr v).1.elim e fun u => u e2
      · rw [if_neg e2]
        exact q163 ⟨fun v => w.mp ⟨Or.inr e2, v⟩, fun v => (w.mpr v).2⟩
  have q124 : ((y = 0 ∨ inI y 8 31 ≠ 0) ∧ (z = 0 ∨ inI z 8 31 ≠ 0) ∧ findF (s 50) nm = Int32.ofNat f ↔ A) → OkB (B_X3_isEntrySo_124 (ax_c d) 1 417 (Int32.ofNat f) y z (tw_H h s)) A (fun h' => h' = tw_H h s) := by
    intro w
    refine OkB.le b_X3_isEntrySo_124 ?_
    rw [if_neg (by decide)]
    by_cases e : y = 0
    · rw [if_pos e]
      exact q146 ⟨fun v => w.mp ⟨Or.inl e, v⟩, fun v => (w.mpr v).2⟩
    · rw [if_neg e, t_in (by omega), cI_v]
      by_cases e2 : inI y 8 31 = 0
      · rw [if_pos e2]
        exact no fun v => (w.mpr v).1.elim e fun u => u e2
      · rw [if_neg e2]
        exact q146 ⟨fun v => w.mp ⟨Or.inr e2, v⟩, fun v => (w.mpr v).2⟩
  by_cases e16 : (16 : Int32) < x
  · rw [if_pos e16]
    exact q0 (by rw [hA]; exact fun w => (w.2 n0).1 e16)
  rw [if_neg e16]
  have q92 : (y ≤ 0 ↔ x ≤ 0) → ∀ u : Int32, OkB (B_X3_isEntrySo_92 (ax_c d) u u 417 (Int32.ofNat f) x y z (tw_H h s)) A (fun h' => h' = tw_H h s) := by
    intro w u
    refine OkB.le b_X3_isEntrySo_92 ?_
    rw [if_neg (fun w => w rfl)]
    by_cases ez : z ≤ 0
    · rw [if_pos ez]
      refine OkB.le b_X3_isEntrySo_105 ?_
      by_cases ex : x ≤ 8
      · rw [if_pos ex, if_neg (fun w => w rfl)]
        refine q124 ?_
        rw [hA]
        exact ⟨fun v => ⟨fun v2 => absurd v2 n0, fun _ => ⟨e16, w, ⟨fun _ => ex, fun _ => ez⟩, v⟩⟩, fun v => (v.2 n0).2.2.2⟩
      · rw [if_neg ex, if_pos (by decide)]
        exact q0 (by rw [hA]; exact fun v => ex ((v.2 n0).2.2.1.mp ez))
    · rw [if_neg ez]
      refine OkB.le b_X3_isEntrySo_105 ?_
      by_cases ex : x ≤ 8
      · rw [if_pos ex, if_pos (by decide)]
        exact q0 (by rw [hA]; exact fun v => ez ((v.2 n0).2.2.1.mpr ex))
      · rw [if_neg ex, if_neg (fun w => w rfl)]
        refine q124 ?_
        rw [hA]
        exact ⟨fun v => ⟨fun v2 => absurd v2 n0, fun _ => ⟨e16, w, ⟨fun v2 => absurd v2 ez, fun v2 => absurd v2 ex⟩, v⟩⟩, fun v => (v.2 n0).2.2.2⟩
  by_cases ey : y ≤ 0
  · rw [if_pos ey]
    by_cases ex : x ≤ 0
    · rw [if_pos ex]
      exact q92 ⟨fun _ => ex, fun _ => ey⟩ 0
    · rw [if_neg ex]
      refine OkB.le b_X3_isEntrySo_92 ?_
      rw [if_pos (by decide)]
      exact q0 (by rw [hA]; exact fun v => ex ((v.2 n0).2.1.mp ey))
  · rw [if_neg ey]
    by_cases ex : x ≤ 0
    · rw [if_pos ex]
      refine OkB.le b_X3_isEntrySo_92 ?_
      rw [if_pos (by decide)]
      exact q0 (by rw [hA]; exact fun v => ey ((v.2 n0).2.1.mpr ex))
    · rw [if_neg ex]
      exact q92 ⟨fun v => absurd v ey, fun v => absurd v ex⟩ 1
/-! the blocks one behind the other: none twice -/
def tbP (D : Nat → Int32) (S : Nat → Prop) (f j : Nat) : Prop := D (40 + 4 * f + (2 + j)) ≠ 0 → ¬ S (nn (D (40 + 4 * f + (2 + j))))
theorem inI_nat {x : Nat} (hx : x ≤ 65535) : inI (Int32.ofNat x) 8 31 ≠ 0 ↔ 8 ≤ x ∧ x < 32 := by
  unfold inI
  by_cases a : x < 8
  · rw [if_pos (show Int32.ofNat x < 8 from (i_lt (b := 8) (by omega) (by omega)).mpr a)]
    exact ⟨fun z => absurd rfl z, fun z => by omega⟩
  · rw [if_neg (show ¬ Int32.ofNat x < 8 from fun z => a ((i_lt (b := 8) (by omega) (by omega)).mp z))]
    by_cases b : 31 < x
    · rw [if_pos (show (31 : Int32) < Int32.ofNat x from (i_lt (a := 31) (by omega) (by omega)).mpr b)]
      exact ⟨fun z => absurd rfl z, fun z => by omega⟩
    · rw [if_neg (show ¬ (31 : Int32) < Int32.ofNat x from fun z => b ((i_lt (a := 31) (by omega) (by omega)).mp z))]
      exact ⟨fun _ => by omega, fun _ => by decide⟩
/-- class and twin ask the same of an entry -/
theorem en_iff {D : Nat → Int32} {S : Nat → Prop} {f : Nat} (hf : f < 6) (C : ∀ p, p < 256 → rg 65535 (D p)) : ((okE D f ∧ okB D S f 0) ∧ okB D (sbM D S f 0) f 1) ↔ enP D f ∧ tbP D S f 0 ∧ tbP D (sbM D S f 0) f 1 := by
  unfold okE okB wnP enP tbP
  rw [show 40 + 4 * f + (2 + 0) = 40 + 4 * f + 2 from rfl, show 40 + 4 * f + (2 + 1) = 40 + 4 * f + 3 from rfl]
  obtain ⟨x1, x2⟩ := rg.nat (C (40 + 4 * f + 1) (by omega))
  obtain ⟨y1, y2⟩ := rg.nat (C (40 + 4 * f + 2) (by omega))
  obtain ⟨z1, z2⟩ := rg.nat (C (40 + 4 * f + 3) (by omega))
  generalize nn (D (40 + 4 * f + 1)) = x at x1 x2
  generalize ey : nn (D (40 + 4 * f + 2)) = y at y1 y2
  generalize ez : nn (D (40 + 4 * f + 3)) = z at z1 z2
  rw [x2, y2, z2, show (8 : Int32) * (Int32.ofNat (2 + 0) - 2) = 0 from by decide, show (8 : Int32) * (Int32.ofNat (2 + 1) - 2) = 8 from by decide, inI_nat y1, inI_nat z1]
  have a1 : (16 : Int32) < Int32.ofNat x ↔ 16 < x := i_lt (a := 16) (by omega) (by omega)
  have a2 : Int32.ofNat x ≤ 0 ↔ x ≤ 0 := i_le (b := 0) (by omega) (by omega)
  have a3 : Int32.ofNat x ≤ 8 ↔ x ≤ 8 := i_le (b := 8) (by omega) (by omega)
  have a4 : Int32.ofNat y ≤ 0 ↔ y ≤ 0 := i_le (b := 0) (by omega) (by omega)
  have a5 : Int32.ofNat z ≤ 0 ↔ z ≤ 0 := i_le (b := 0) (by omega) (by omega)
  have a6 : Int32.ofNat y < 8 ↔ y < 8 := i_lt (b := 8) (by omega) (by omega)
  have a7 : Int32.ofNat z < 8 ↔ z < 8 := i_lt (b := 8) (by omega) (by omega)
  have a8 : (32 : Int32) ≤ Int32.ofNat y ↔ 32 ≤ y := i_le (a := 32) (by omega) (by omega)
  have a9 : (32 : Int32) ≤ Int32.ofNat z ↔ 32 ≤ z := i_le (a := 32) (by omega) (by omega)
  have b1 : Int32.ofNat x = 0 ↔ x = 0 := i_eq (b := 0) (by omega) (by omega)
  have b2 : Int32.ofNat y = 0 ↔ y = 0 := i_eq (b := 0) (by omega) (by omega)
  have b3 : Int32.ofNat z = 0 ↔ z = 0 := i_eq (b := 0) (by omega) (by omega)
  rw [Ne, Ne, Ne, a1, a2, a3, a4, a5, a6, a7, a8, a9, b1, b2, b3]
  generalize sbM D S f 0 z = Sz
  generalize S y = Sy
  generalize (findF D (D (40 + 4 * f)) = Int32.ofNat f) = fd
  by_cases n0 : D (40 + 4 * f) = 0
  · simp only [n0, not_true_eq_false, false_implies, true_implies, false_and, not_false_eq_true, and_true, true_and]
    constructor
    · rintro ⟨⟨r1, r2⟩, r3⟩
      exact ⟨⟨r1, r2, r3⟩, fun q => absurd r2 q, fun q => absurd r3 q⟩
    · rintro ⟨⟨r1, r2, r3⟩, -, -⟩
      exact ⟨⟨r1, r2⟩, r3⟩
  · simp only [n0, not_true_eq_false, false_implies, true_implies, false_and, not_false_eq_true, and_true, true_and]
    constructor
    · rintro ⟨⟨⟨r1, r2⟩, r3, r4⟩, r5, r6⟩
      have y0 : x ≤ 0 → y = 0 := fun w => r4 (fun v => v w)
      have z0 : x ≤ 8 → z = 0 := fun w => r6 (fun v => v w)
      refine ⟨⟨r2, ⟨fun w => ?_, fun w => by have := y0 w; omega⟩, ⟨fun w => ?_, fun w => by have := z0 w; omega⟩, ?_, ?_, r1⟩, fun w => ?_, fun w => ?_⟩
      · by_cases q : x ≤ 0
        · exact q
        · have := (r3 q).1; omega
      · by_cases q : x ≤ 8
        · exact q
        · have := (r5 q).1; omega
      · by_cases q : x ≤ 0
        · exact Or.inl (y0 q)
        · have := r3 q; exact Or.inr ⟨by omega, by omega⟩
      · by_cases q : x ≤ 8
        · exact Or.inl (z0 q)
        · have := r5 q; exact Or.inr ⟨by omega, by omega⟩
      · by_cases q : x ≤ 0
        · exact absurd (y0 q) w
        · exact (r3 q).2.2
      · by_cases q : x ≤ 8
        · exact absurd (z0 q) w
        · exact (r5 q).2.2
    · rintro ⟨⟨r1, r2, r3, r4, r5, r6⟩, r7, r8⟩
      refine ⟨⟨⟨r6, r1⟩, fun w => ?_, fun w => ?_⟩, fun w => ?_, fun w => ?_⟩
      · have : ¬ y ≤ 0 := fun v => w (r2.mp v)
        rcases r4 with v | ⟨v1, v2⟩
        · omega
        · exact ⟨by omega, by omega, r7 (by omega)⟩
      · have : x ≤ 0 := Classical.byContradiction w
        have := r2.mpr this
        omega
      · have : ¬ z ≤ 0 := fun v => w (r3.mp v)
        rcases r5 with v | ⟨v1, v2⟩
        · omega
        · exact ⟨by omega, by omega, r8 (by omega)⟩
      · have : x ≤ 8 := Classical.byContradiction w
        have := r3.mpr this
        omega
end MTW
