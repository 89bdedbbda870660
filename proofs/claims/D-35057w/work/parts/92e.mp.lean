/-! the class's machine: entries, marks, plans -/
/-- the blocks S are drafted, W is the disk as it will be -/
def DSS (c : ce_C) (X : mr_X) (S : Nat → Prop) (W : Nat → Int32) : Prop := ∃ (n : Nat) (nb : Nat → Nat), DS c X n nb W ∧ ∀ q, (∃ k, k < n ∧ nb k = q) ↔ S q
/-- the row at p is the draft of the block q -/
def DP (b : Nat) (c : ce_C) (X : mr_X) (S : Nat → Prop) (W : Nat → Int32) (q p : Nat) : Prop := ∃ (n : Nat) (nb : Nat → Nat), DS c X n nb W ∧ (∀ q, (∃ k, k < n ∧ nb k = q) ↔ S q) ∧ ∃ k, k < n ∧ nb k = q ∧ p = b + 9 + X.2.2.1 k
def addS (S : Nat → Prop) (x : Nat) : Nat → Prop := fun q => S q ∨ q = x
def entW (W : Nat → Int32) (f k : Nat) (v : Int32) : Nat → Int32 := upd W (40 + 4 * f + k) v
def bitI (q : Nat) : Int32 := dx_shl 1 (Int32.ofNat (q % 16))
def mrkW (W : Nat → Int32) (q : Nat) (u : Int32) : Nat → Int32 := upd W (32 + q / 16) (if u = 0 then W (32 + q / 16) &&& (bitI q ^^^ -1) else W (32 + q / 16) ||| bitI q)
section MSP
variable {d b e w : Nat} {Z : mr_Z} {pr : Option Nat} {c : Nat → Int32} {L : List (Nat × Int32)} {X : mr_X} {h : ax_H} {K : kk_K} {S : Nat → Prop} {W : Nat → Int32}
theorem DP.dss {q p : Nat} (D : DP b c X S W q p) : DSS c X S W := by
  obtain ⟨n, nb, d1, d2, _⟩ := D
  exact ⟨n, nb, d1, d2⟩
theorem DP.rd (R : MR b Z e w pr c L X h) {q p j : Nat} (D : DP b c X S W q p) (hj : j < 8) {i : Int32} (hi : i = Int32.ofNat j) : dx_lI 0 (.ref p) i h = some (W (8 * q + j)) := by
  obtain ⟨n, nb, d1, d2, k, k1, k2, k3⟩ := D
  have d1' := d1.2.1
  have x4 := R.2.2.1.2.2.1 (X.2.2.1 k) (R.2.2.1.2.2.2.1 k (by omega))
  rw [k3, lI_at x4, ix_of hi hj (by omega), Option.bind_some, d1.2.2.2.2.1 k k1 j hj, k2]
theorem DP.st (R : MR b Z e w pr c L X h) {q p j : Nat} (D : DP b c X S W q p) (hj : j < 8) {i : Int32} (hi : i = Int32.ofNat j) (v : Int32) : ∃ X' h', dx_sI 0 (.ref p) i v h = some h' ∧ MR b Z e w pr c L X' h' ∧ DP b c X' S (upd W (8 * q + j) v) q p := by
  obtain ⟨n, nb, d1, d2, k, k1, k2, k3⟩ := D
  obtain ⟨X', h', e1, e2, e3, e4⟩ := ds_store R d1 k1 hj v hi
  rw [k2] at e3
  exact ⟨X', h', by rw [k3]; exact e1, e2, n, nb, e3, d2, k, k1, k2, by rw [e4]; exact k3⟩
theorem c_draftS (hd : 1 ≤ d) (R : MR b Z e w pr c L X h) (D : DSS c X S W) {blk t0 t1 t2 : Nat} (hb : blk < 32) (hT : ∀ q, S q → q = t0 ∨ q = t1 ∨ q = t2) (hb2 : blk = t0 ∨ blk = t1 ∨ blk = t2) : ∃ X' p, Ok (ax_c d 339 [.ref b, .int (Int32.ofNat blk)] h) (.inl (some (.ref p))) (MR b Z e w pr c L X') ∧ DP b c X' (addS S blk) W blk p := by
  obtain ⟨n, nb, d1, d2⟩ := D
  have hn : n < 3 ∨ ∃ k, k < n ∧ nb k = blk := by
    rcases Nat.lt_or_ge n 3 with z | z
    · exact Or.inl z
    · right
      have h3 := d1.2.1
      have a0 := hT _ ((d2 (nb 0)).mp ⟨0, by omega, rfl⟩)
      have a1 := hT _ ((d2 (nb 1)).mp ⟨1, by omega, rfl⟩)
      have a2 := hT _ ((d2 (nb 2)).mp ⟨2, by omega, rfl⟩)
      have m1 := d1.2.2.2.1 0 1 (by omega) (by omega)
      have m2 := d1.2.2.2.1 1 2 (by omega) (by omega)
      have : nb 0 = blk ∨ nb 1 = blk ∨ nb 2 = blk := by omega
      rcases this with y | y | y
      · exact ⟨0, by omega, y⟩
      · exact ⟨1, by omega, y⟩
      · exact ⟨2, by omega, y⟩
  obtain ⟨X', n', k', nb', o1, o2, o3, o4, o5, o6⟩ := c_draft hd R d1 hb hn
  exact ⟨X', _, o1, n', nb', o2, fun q => (o6 q).trans ⟨fun z => z.elim (fun y => Or.inl ((d2 q).mp y)) Or.inr, fun z => z.elim (fun y => Or.inl ((d2 q).mpr y)) Or.inr⟩, k', o3, o4, rfl⟩
theorem e_dir : ∀ f, f < 6 → (5 : Int32) + Int32.ofNat f / 2 = Int32.ofNat (5 + f / 2) := by decide
theorem e_dir2 : ∀ f, f < 6 → (4 : Int32) * dx_rem (Int32.ofNat f) 2 = Int32.ofNat (4 * (f % 2)) := by decide
/-- a method that goes well and leaves the drafts as S, W say -/
def OkD (b : Nat) (Z : mr_Z) (e w : Nat) (pr : Option Nat) (c : ce_C) (L : List (Nat × Int32)) (x : Option ax_R) (v : Option Value ⊕ Nat) (S : Nat → Prop) (W : Nat → Int32) : Prop := ∃ X, Ok x v (MR b Z e w pr c L X) ∧ DSS c X S W
theorem OkD.le {x y : Option ax_R} {v : Option Value ⊕ Nat} (hl : dx_le x y) (h1 : OkD b Z e w pr c L x v S W) : OkD b Z e w pr c L y v S W := by
  obtain ⟨X, o, p⟩ := h1
  exact ⟨X, Ok.le hl o, p⟩
theorem OkD.ret {v : Option Value ⊕ Nat} (R : MR b Z e w pr c L X h) (D : DSS c X S W) : OkD b Z e w pr c L (some (v, h)) v S W := ⟨X, Ok.ret R, D⟩
theorem OkD.V {S' : Nat → Prop} {W' : Nat → Int32} {v : Option Value ⊕ Nat} {x : Option ax_R} {F : ax_H → Option ax_R} {Y : Nat → ax_H → Option ax_R} (h1 : OkD b Z e w pr c L x (.inl none) S W) (f : ∀ X h', MR b Z e w pr c L X h' → DSS c X S W → OkD b Z e w pr c L (F h') v S' W') : OkD b Z e w pr c L (dx_cV x F Y) v S' W' := by
  obtain ⟨X, ⟨h', rfl, R⟩, D⟩ := h1
  exact f X h' R D
theorem OkD.I {S' : Nat → Prop} {W' : Nat → Int32} {v : Option Value ⊕ Nat} {a : Int32} {x : Option ax_R} {F : Int32 → ax_H → Option ax_R} {Y : Nat → ax_H → Option ax_R} (h1 : OkD b Z e w pr c L x (.inl (some (.int a))) S W) (f : ∀ X h', MR b Z e w pr c L X h' → DSS c X S W → OkD b Z e w pr c L (F a h') v S' W') : OkD b Z e w pr c L (dx_cI x F Y) v S' W' := by
  obtain ⟨X, ⟨h', rfl, R⟩, D⟩ := h1
  exact f X h' R D
theorem OkD.R {S' : Nat → Prop} {W' : Nat → Int32} {v : Option Value ⊕ Nat} {q p : Nat} {x : Option ax_R} {F : Value → ax_H → Option ax_R} {Y : Nat → ax_H → Option ax_R} (h1 : Ok x (.inl (some (.ref p))) (MR b Z e w pr c L X)) (D : DP b c X S W q p) (f : ∀ h', MR b Z e w pr c L X h' → OkD b Z e w pr c L (F (.ref p) h') v S' W') : OkD b Z e w pr c L (dx_cR x F Y) v S' W' := by
  obtain ⟨h', rfl, R⟩ := h1
  exact f h' R
theorem c_setEntry (hd : 2 ≤ d) (R : MR b Z e w pr c L X h) (D : DSS c X S W) {f k t0 t1 t2 : Nat} (hf : f < 6) (hk : k < 4) (hT : ∀ q, S q → q = t0 ∨ q = t1 ∨ q = t2) (hb2 : 5 + f / 2 = t0 ∨ 5 + f / 2 = t1 ∨ 5 + f / 2 = t2) (v : Int32) {i : Int32} (hi : i = Int32.ofNat k) : OkD b Z e w pr c L (ax_c d 338 [.ref b, .int (Int32.ofNat f), .int i, .int v] h) (.inl none) (addS S (5 + f / 2)) (entW W f k v) := by
  subst hi
  obtain ⟨d, rfl, he⟩ := d_succ hd
  refine OkD.le m_X2_setEntry ?_
  obtain ⟨X1, p, o1, o2⟩ := c_draftS (d := d) he R D (blk := 5 + f / 2) (by omega) hT hb2
  rw [R.vn, Option.bind_some, e_dir f hf]
  refine OkD.R o1 o2 fun h1 R1 => ?_
  obtain ⟨X2, h2, e1, e2, e3⟩ := o2.st R1 (j := 4 * (f % 2) + k) (i := 4 * dx_rem (Int32.ofNat f) 2 + Int32.ofNat k) (by omega) (by rw [e_dir2 f hf, i_add]) v
  rw [e1, Option.bind_some]
  rw [show 8 * (5 + f / 2) + (4 * (f % 2) + k) = 40 + 4 * f + k by omega] at e3
  exact OkD.ret e2 e3.dss
theorem i_div16b : ∀ q, q < 32 → Int32.ofNat q / 16 = Int32.ofNat (q / 16) := by decide
theorem c_mark (hd : 2 ≤ d) (R : MR b Z e w pr c L X h) (D : DSS c X S W) {q t0 t1 t2 : Nat} (hq : q < 32) (hT : ∀ q, S q → q = t0 ∨ q = t1 ∨ q = t2) (hb2 : 4 = t0 ∨ 4 = t1 ∨ 4 = t2) (u : Int32) : OkD b Z e w pr c L (ax_c d 342 [.ref b, .int (Int32.ofNat q), .int u] h) (.inl none) (addS S 4) (mrkW W q u) := by
  obtain ⟨d, rfl, he⟩ := d_succ hd
  refine OkD.le m_X2_mark ?_
  obtain ⟨X1, p, o1, o2⟩ := c_draftS (d := d) he R D (blk := 4) (by omega) hT hb2
  rw [R.vn, Option.bind_some]
  refine OkD.R o1 o2 fun h1 R1 => ?_
  have e32 : 8 * 4 + q / 16 = 32 + q / 16 := by omega
  have r1 := o2.rd R1 (j := q / 16) (by omega) rfl
  rw [e32] at r1
  rw [lt_at, i_rem16 q hq, i_div16b q hq]
  unfold mrkW bitI
  by_cases z : u = 0
  · obtain ⟨X2, h2, e1, e2, e3⟩ := o2.st R1 (j := q / 16) (by omega) rfl (W (32 + q / 16) &&& (dx_shl 1 (Int32.ofNat (q % 16)) ^^^ -1))
    rw [if_pos z, if_pos z, r1, Option.bind_some, e1, Option.bind_some]
    rw [e32] at e3
    exact OkD.ret e2 e3.dss
  · obtain ⟨X2, h2, e1, e2, e3⟩ := o2.st R1 (j := q / 16) (by omega) rfl (W (32 + q / 16) ||| dx_shl 1 (Int32.ofNat (q % 16)))
    rw [if_neg z, if_neg z, r1, Option.bind_some, e1, Option.bind_some]
    rw [e32] at e3
    exact OkD.ret e2 e3.dss
/-- a file removed: its entry's fields from k on -/
def rmvW (D : Nat → Int32) (f : Nat) : Nat → Nat → (Nat → Int32) → (Nat → Int32)
  | 0, _, W => W
  | m + 1, k, W => rmvW D f m (k + 1) (entW (if 2 ≤ k ∧ ¬ D (40 + 4 * f + k) = 0 then mrkW W (nn (D (40 + 4 * f + k))) 0 else W) f k 0)
def rmvS (D : Nat → Int32) (f : Nat) (S : Nat → Prop) : Nat → Prop := fun q => S q ∨ q = 5 + f / 2 ∨ (q = 4 ∧ (¬ D (40 + 4 * f + 2) = 0 ∨ ¬ D (40 + 4 * f + 3) = 0))
theorem DSS.congr {S' : Nat → Prop} (D : DSS c X S W) (hs : ∀ q, S q ↔ S' q) : DSS c X S' W := by
  obtain ⟨n, nb, d1, d2⟩ := D
  exact ⟨n, nb, d1, fun q => (d2 q).trans (hs q)⟩
theorem OkD.congr {S' : Nat → Prop} {x : Option ax_R} {v : Option Value ⊕ Nat} (D : OkD b Z e w pr c L x v S W) (hs : ∀ q, S q ↔ S' q) : OkD b Z e w pr c L x v S' W := by
  obtain ⟨X, o, p⟩ := D
  exact ⟨X, o, p.congr hs⟩
theorem c_remove (hd : 3 ≤ d) (R : MR b Z e w pr c L X h) (D : DSS c X S W) {f t0 t1 t2 : Nat} (hf : f < 6) (hT : ∀ q, S q → q = t0 ∨ q = t1 ∨ q = t2) (hb2 : 5 + f / 2 = t0 ∨ 5 + f / 2 = t1 ∨ 5 + f / 2 = t2) (hb4 : 4 = t0 ∨ 4 = t1 ∨ 4 = t2) (hv : ∀ k, 2 ≤ k → k < 4 → ∃ v, v < 32 ∧ ds c (40 + 4 * f + k) = Int32.ofNat v) : OkD b Z e w pr c L (ax_c d 344 [.ref b, .int (Int32.ofNat f)] h) (.inl none) (rmvS (ds c) f S) (rmvW (ds c) f 4 0 W) := by
  obtain ⟨d, rfl, he⟩ := d_succ hd
  refine OkD.le m_X2_remove ?_
  have loop : ∀ m k : Nat, k + m = 4 → ∀ (S1 : Nat → Prop) (W1 : Nat → Int32) (X1 : mr_X) (h1 : ax_H), MR b Z e w pr c L X1 h1 → DSS c X1 S1 W1 → (∀ q, S1 q → q = t0 ∨ q = t1 ∨ q = t2) → OkD b Z e w pr c L (B_X2_remove_2 (ax_c d) b (Int32.ofNat f) (Int32.ofNat k) h1) (.inl none) (fun q => S1 q ∨ (q = 5 + f / 2 ∧ k < 4) ∨ (q = 4 ∧ ((k ≤ 2 ∧ ¬ ds c (40 + 4 * f + 2) = 0) ∨ (k ≤ 3 ∧ ¬ ds c (40 + 4 * f + 3) = 0)))) (rmvW (ds c) f m k W1) := by
    intro m
    induction m with
    | zero =>
      intro k hk S1 W1 X1 h1 R1 D1 hT1
      obtain rfl : k = 4 := by omega
      refine OkD.le b_X2_remove_2 ?_
      rw [if_pos (by decide)]
      exact OkD.ret R1 (D1.congr fun q => ⟨Or.inl, fun z => z.elim id fun z => by omega⟩)
    | succ m ih =>
      intro k hk S1 W1 X1 h1 R1 D1 hT1
      have step : ∀ (S2 : Nat → Prop) (W2 : Nat → Int32) (X2 : mr_X) (h2 : ax_H), MR b Z e w pr c L X2 h2 → DSS c X2 S2 W2 → (∀ q, S2 q → q = t0 ∨ q = t1 ∨ q = t2) → OkD b Z e w pr c L (B_X2_remove_32 (ax_c d) b (Int32.ofNat f) (Int32.ofNat k) h2) (.inl none) (fun q => addS S2 (5 + f / 2) q ∨ (q = 5 + f / 2 ∧ k + 1 < 4) ∨ (q = 4 ∧ ((k + 1 ≤ 2 ∧ ¬ ds c (40 + 4 * f + 2) = 0) ∨ (k + 1 ≤ 3 ∧ ¬ ds c (40 + 4 * f + 3) = 0)))) (rmvW (ds c) f m (k + 1) (entW W2 f k 0)) := by
        intro S2 W2 X2 h2 R2 D2 hT2
        refine OkD.le b_X2_remove_32 ?_
        rw [R2.vn, Option.bind_some]
        refine OkD.V (c_setEntry he R2 D2 hf (by omega) hT2 hb2 0 rfl) fun X3 h3 R3 D3 => ?_
        rw [lt_at, show Int32.ofNat k + 1 = Int32.ofNat (k + 1) from i_add k 1]
        exact ih (k + 1) (by omega) _ _ X3 h3 R3 D3 (fun q hq => hq.elim (hT2 q) fun z => by rw [z]; exact hb2)
      refine OkD.le b_X2_remove_2 ?_
      rw [if_neg (nge4 (show k < 4 by omega))]
      have ek : rmvW (ds c) f (m + 1) k W1 = rmvW (ds c) f m (k + 1) (entW (if 2 ≤ k ∧ ¬ ds c (40 + 4 * f + k) = 0 then mrkW W1 (nn (ds c (40 + 4 * f + k))) 0 else W1) f k 0) := rfl
      rw [ek]
      by_cases q1 : k < 2
      · rw [if_pos (show Int32.ofNat k < 2 from (i_lt (b := 2) (by omega) (by omega)).mpr q1), if_neg (show ¬ (2 ≤ k ∧ ¬ ds c (40 + 4 * f + k) = 0) from fun z => by omega)]
        refine (step S1 W1 X1 h1 R1 D1 hT1).congr fun q => ?_
        unfold addS
        have e1 : (k + 1 ≤ 2 ∧ ¬ ds c (40 + 4 * f + 2) = 0) ↔ (k ≤ 2 ∧ ¬ ds c (40 + 4 * f + 2) = 0) := ⟨fun z => ⟨by omega, z.2⟩, fun z => ⟨by omega, z.2⟩⟩
        have e2 : (k + 1 ≤ 3 ∧ ¬ ds c (40 + 4 * f + 3) = 0) ↔ (k ≤ 3 ∧ ¬ ds c (40 + 4 * f + 3) = 0) := ⟨fun z => ⟨by omega, z.2⟩, fun z => ⟨by omega, z.2⟩⟩
        rw [e1, e2]
        constructor
        · rintro ((z | z) | ⟨z1, z2⟩ | z)
          · exact Or.inl z
          · exact Or.inr (Or.inl ⟨z, by omega⟩)
          · exact Or.inr (Or.inl ⟨z1, by omega⟩)
          · exact Or.inr (Or.inr z)
        · rintro (z | ⟨z1, z2⟩ | z)
          · exact Or.inl (Or.inl z)
          · exact Or.inl (Or.inr z1)
          · exact Or.inr (Or.inr z)
      · obtain ⟨v, v1, v2⟩ := hv k (by omega) (by omega)
        rw [if_neg (show ¬ Int32.ofNat k < 2 from fun z => q1 ((i_lt (b := 2) (by omega) (by omega)).mp z)), R1.vn, Option.bind_some, c_entry (by omega) R1.mv hf (show k < 4 by omega), cI_v]
        by_cases q2 : ds c (40 + 4 * f + k) = 0
        · rw [if_pos q2, if_neg (show ¬ (2 ≤ k ∧ ¬ ds c (40 + 4 * f + k) = 0) from fun z => z.2 q2)]
          refine (step S1 W1 X1 h1 R1 D1 hT1).congr fun q => ?_
          unfold addS
          have e1 : (k + 1 ≤ 2 ∧ ¬ ds c (40 + 4 * f + 2) = 0) ↔ (k ≤ 2 ∧ ¬ ds c (40 + 4 * f + 2) = 0) := ⟨fun z => ⟨by omega, z.2⟩, fun z => by
            obtain rfl : k = 2 := by omega
            exact absurd q2 z.2⟩
          have e2 : (k + 1 ≤ 3 ∧ ¬ ds c (40 + 4 * f + 3) = 0) ↔ (k ≤ 3 ∧ ¬ ds c (40 + 4 * f + 3) = 0) := ⟨fun z => ⟨by omega, z.2⟩, fun z => by
            rcases Nat.lt_or_ge k 3 with y | y
            · exact ⟨by omega, z.2⟩
            · obtain rfl : k = 3 := by omega
              exact absurd q2 z.2⟩
          rw [e1, e2]
          constructor
          · rintro ((z | z) | ⟨z1, z2⟩ | z)
            · exact Or.inl z
            · exact Or.inr (Or.inl ⟨z, by omega⟩)
            · exact Or.inr (Or.inl ⟨z1, by omega⟩)
            · exact Or.inr (Or.inr z)
          · rintro (z | ⟨z1, z2⟩ | z)
            · exact Or.inl (Or.inl z)
            · exact Or.inl (Or.inr z1)
            · exact Or.inr (Or.inr z)
        · rw [if_neg q2, if_pos (show 2 ≤ k ∧ ¬ ds c (40 + 4 * f + k) = 0 from ⟨by omega, q2⟩), R1.vn, Option.bind_some, c_entry (by omega) R1.mv hf (show k < 4 by omega), cI_v, v2, R1.vn, Option.bind_some, nn_of (by omega)]
          refine OkD.V (c_mark he R1 D1 v1 hT1 hb4 0) fun X2 h2 R2 D2 => ?_
          refine (step (addS S1 4) _ X2 h2 R2 D2 (fun q hq => hq.elim (hT1 q) fun z => by rw [z]; exact hb4)).congr fun q => ?_
          unfold addS
          constructor
          · rintro (((z | z) | z) | ⟨z1, z2⟩ | ⟨z1, z2⟩)
            · exact Or.inl z
            · refine Or.inr (Or.inr ⟨z, ?_⟩)
              rcases Nat.lt_or_ge k 3 with y | y
              · obtain rfl : k = 2 := by omega
                exact Or.inl ⟨by omega, q2⟩
              · obtain rfl : k = 3 := by omega
                exact Or.inr ⟨by omega, q2⟩
            · exact Or.inr (Or.inl ⟨z, by omega⟩)
            · exact Or.inr (Or.inl ⟨z1, by omega⟩)
            · exact Or.inr (Or.inr ⟨z1, z2.elim (fun y => Or.inl ⟨by omega, y.2⟩) (fun y => Or.inr ⟨by omega, y.2⟩)⟩)
          · rintro (z | ⟨z1, z2⟩ | ⟨z1, z2⟩)
            · exact Or.inl (Or.inl (Or.inl z))
            · exact Or.inl (Or.inr z1)
            · exact Or.inl (Or.inl (Or.inr z1))
  refine (loop 4 0 rfl S W X h R D hT).congr fun q => ?_
  unfold rmvS
  constructor
  · rintro (z | ⟨z1, z2⟩ | ⟨z1, z2⟩)
    · exact Or.inl z
    · exact Or.inr (Or.inl z1)
    · exact Or.inr (Or.inr ⟨z1, z2.elim (fun y => Or.inl y.2) (fun y => Or.inr y.2)⟩)
  · rintro (z | z | ⟨z1, z2⟩)
    · exact Or.inl z
    · exact Or.inr (Or.inl ⟨z, by omega⟩)
    · exact Or.inr (Or.inr ⟨z1, z2.elim (fun y => Or.inl ⟨by omega, y⟩) (fun y => Or.inr ⟨by omega, y⟩)⟩)
end MSP
