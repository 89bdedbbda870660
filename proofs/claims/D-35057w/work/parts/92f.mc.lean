/-! the class's machine: file calls -/
def zer8 (W : Nat → Int32) (q : Nat) : Nat → Int32 := fun p => if 8 * q ≤ p ∧ p < 8 * q + 8 then 0 else W p
theorem freeR_cases (row : Nat → Int32) : ∀ m k, k + m = 32 → freeR row m k = -1 ∨ ∃ v, k ≤ v ∧ v < 32 ∧ freeR row m k = Int32.ofNat v := by
  intro m
  induction m with
  | zero => intro k _; exact Or.inl rfl
  | succ m ih =>
    intro k hk
    rw [show freeR row (m + 1) k = if usedF row k = 0 then Int32.ofNat k else freeR row m (k + 1) from rfl]
    split
    · exact Or.inr ⟨k, Nat.le_refl _, by omega, rfl⟩
    · rcases ih (k + 1) (by omega) with z | ⟨v, v1, v2, v3⟩
      · exact Or.inl z
      · exact Or.inr ⟨v, by omega, v2, v3⟩
theorem freeF_cases (row : Nat → Int32) : freeF row = -1 ∨ ∃ v, 8 ≤ v ∧ v < 32 ∧ freeF row = Int32.ofNat v := freeR_cases row 24 8 rfl
theorem findR_cases (row : Nat → Int32) (name : Int32) : ∀ m k, k + m = 6 → findR row name m k = -1 ∨ ∃ v, k ≤ v ∧ v < 6 ∧ findR row name m k = Int32.ofNat v := by
  intro m
  induction m with
  | zero => intro k _; exact Or.inl rfl
  | succ m ih =>
    intro k hk
    rw [show findR row name (m + 1) k = if row (40 + 4 * k) = name then Int32.ofNat k else findR row name m (k + 1) from rfl]
    split
    · exact Or.inr ⟨k, Nat.le_refl _, by omega, rfl⟩
    · rcases ih (k + 1) (by omega) with z | ⟨v, v1, v2, v3⟩
      · exact Or.inl z
      · exact Or.inr ⟨v, by omega, v2, v3⟩
theorem findF_cases (row : Nat → Int32) (name : Int32) : findF row name = -1 ∨ ∃ v, v < 6 ∧ findF row name = Int32.ofNat v := by
  rcases findR_cases row name 6 0 rfl with z | ⟨v, _, v2, v3⟩
  · exact Or.inl z
  · exact Or.inr ⟨v, v2, v3⟩
theorem ofNat_ne_neg {v : Nat} (hv : v < 2 ^ 31) : ¬ Int32.ofNat v = -1 := by
  intro z
  have := congrArg Int32.toInt z
  rw [i_toInt hv] at this
  have e : (-1 : Int32).toInt = -1 := by decide
  omega
def appW1 (W : Nat → Int32) (f z q : Nat) (v : Int32) : Nat → Int32 := entW (upd W (8 * q + z % 8) v) f 1 (Int32.ofNat (z + 1))
def appW2 (W : Nat → Int32) (f z q : Nat) (v : Int32) : Nat → Int32 := entW (entW (mrkW (upd (zer8 W q) (8 * q + z % 8) v) q 1) f (2 + z / 8) (Int32.ofNat q)) f 1 (Int32.ofNat (z + 1))
def appS1 (f q : Nat) : Nat → Prop := fun x => x = q ∨ x = 5 + f / 2
def appS2 (f q : Nat) : Nat → Prop := fun x => x = q ∨ x = 4 ∨ x = 5 + f / 2
def noS : Nat → Prop := fun _ => False
section MSC
variable {d b e w : Nat} {Z : mr_Z} {pr : Option Nat} {c : Nat → Int32} {L : List (Nat × Int32)} {X : mr_X} {h : ax_H} {K : kk_K} {S : Nat → Prop} {W : Nat → Int32}
theorem c_append130 (hd : 2 ≤ d) (R : MR b Z e w pr c L X h) (D : DSS c X S W) {f t0 t1 t2 z : Nat} (hf : f < 6) (hT : ∀ q, S q → q = t0 ∨ q = t1 ∨ q = t2) (hb2 : 5 + f / 2 = t0 ∨ 5 + f / 2 = t1 ∨ 5 + f / 2 = t2) : OkD b Z e w pr c L (B_X2_append_130 (ax_c d) b (Int32.ofNat f) (Int32.ofNat z) h) (.inl (some (.int 0))) (addS S (5 + f / 2)) (entW W f 1 (Int32.ofNat (z + 1))) := by
  refine OkD.le b_X2_append_130 ?_
  rw [R.vn, Option.bind_some, show Int32.ofNat z + 1 = Int32.ofNat (z + 1) from i_add z 1]
  exact OkD.V (c_setEntry hd R D hf (k := 1) (by omega) hT hb2 _ (i := 1) rfl) fun X1 h1 R1 D1 => OkD.ret R1 D1
theorem c_append (hd : 4 ≤ d) (R : MR b Z e w pr c L X h) (D : DSS c X noS (ds c)) {f z : Nat} (hf : f < 6) (hz : z ≤ 16) (hs : ds c (40 + 4 * f + 1) = Int32.ofNat z) (hv : ¬ z % 8 = 0 → ∃ v, v < 32 ∧ ds c (40 + 4 * f + (2 + z / 8)) = Int32.ofNat v) (word : Int32) :
    (z = 16 → OkD b Z e w pr c L (ax_c d 340 [.ref b, .int (Int32.ofNat f), .int word] h) (.inl (some (.int 2))) noS (ds c)) ∧
    (z < 16 → ¬ z % 8 = 0 → ∀ q, q < 32 → ds c (40 + 4 * f + (2 + z / 8)) = Int32.ofNat q → OkD b Z e w pr c L (ax_c d 340 [.ref b, .int (Int32.ofNat f), .int word] h) (.inl (some (.int 0))) (appS1 f q) (appW1 (ds c) f z q word)) ∧
    (z < 16 → z % 8 = 0 → freeF (ds c) = -1 → OkD b Z e w pr c L (ax_c d 340 [.ref b, .int (Int32.ofNat f), .int word] h) (.inl (some (.int 3))) noS (ds c)) ∧
    (z < 16 → z % 8 = 0 → ∀ q, q < 32 → freeF (ds c) = Int32.ofNat q → OkD b Z e w pr c L (ax_c d 340 [.ref b, .int (Int32.ofNat f), .int word] h) (.inl (some (.int 0))) (appS2 f q) (appW2 (ds c) f z q word)) := by
  obtain ⟨d, rfl, he⟩ := d_succ hd
  have zd : Int32.ofNat z / 8 = Int32.ofNat (z / 8) := by
    have : ∀ z, z < 17 → Int32.ofNat z / 8 = Int32.ofNat (z / 8) := by decide
    exact this z (by omega)
  have zr : dx_rem (Int32.ofNat z) 8 = Int32.ofNat (z % 8) := by
    have : ∀ z, z < 17 → dx_rem (Int32.ofNat z) 8 = Int32.ofNat (z % 8) := by decide
    exact this z (by omega)
  -- up to the block
  have go : ∀ (v : Option Value ⊕ Nat) (S' : Nat → Prop) (W' : Nat → Int32), OkD b Z e w pr c L (B_X2_append_27 (ax_c d) (if z % 8 = 0 then 1 else 0) b (Int32.ofNat f) word (Int32.ofNat z) (Int32.ofNat (2 + z / 8)) h) v S' W' → OkD b Z e w pr c L (ax_c (d + 1) 340 [.ref b, .int (Int32.ofNat f), .int word] h) v S' W' := by
    intro v S' W' o
    refine OkD.le m_X2_append ?_
    have e1 := c_entry (d := d) (by omega) R.mv hf (show 1 < 4 by omega)
    rw [show Int32.ofNat 1 = 1 from rfl] at e1
    rw [R.vn, Option.bind_some, e1, cI_v, hs, zd, zr, lt_at, show (2 : Int32) + Int32.ofNat (z / 8) = Int32.ofNat (2 + z / 8) from i_add 2 _]
    by_cases q : z % 8 = 0
    · rw [if_neg (fun y => y (by rw [q]; rfl))]
      rw [if_pos q] at o
      exact o
    · rw [if_pos (show ¬ Int32.ofNat (z % 8) = 0 from fun y => q ((i_eq (b := 0) (by omega) (by omega)).mp y))]
      rw [if_neg q] at o
      exact o
  have b56 : ∀ (q : Nat) (S' : Nat → Prop) (W' : Nat → Int32) (nd : Int32), q < 32 → (∀ X1 p h1, MR b Z e w pr c L X1 h1 → DP b c X1 (fun x => x = q) (ds c) q p → OkD b Z e w pr c L (B_X2_append_77 (ax_c d) b (Int32.ofNat f) word (Int32.ofNat z) (Int32.ofNat (2 + z / 8)) nd (Int32.ofNat q) (.ref p) 0 h1) (.inl (some (.int 0))) S' W') → OkD b Z e w pr c L (B_X2_append_56 (ax_c d) (Int32.ofNat q) b (Int32.ofNat f) word (Int32.ofNat z) (Int32.ofNat (2 + z / 8)) nd h) (.inl (some (.int 0))) S' W' := by
    intro q S' W' nd hq o
    refine OkD.le b_X2_append_56 ?_
    rw [if_pos (ofNat_ne_neg (by omega)), R.vn, Option.bind_some]
    obtain ⟨X1, p, o1, n, nb, o2, o3, o4⟩ := c_draftS (d := d) (by omega) R D hq (t0 := q) (t1 := q) (t2 := q) (fun x hx => hx.elim) (Or.inl rfl)
    have o2' : DP b c X1 (fun x => x = q) (ds c) q p := ⟨n, nb, o2, fun x => (o3 x).trans ⟨fun y => y.elim False.elim id, Or.inr⟩, o4⟩
    exact OkD.R o1 o2' fun h1 R1 => o X1 p h1 R1 o2'
  refine ⟨fun h16 => go _ _ _ ?_, fun hz16 hn q hq hq2 => go _ _ _ ?_, fun hz16 hn hq => go _ _ _ ?_, fun hz16 hn q hq hq2 => go _ _ _ ?_⟩
  · refine OkD.le b_X2_append_27 ?_
    rw [if_neg (fun y => y (by rw [h16]; rfl))]
    exact OkD.ret R D
  · refine OkD.le b_X2_append_27 ?_
    rw [if_pos (show ¬ Int32.ofNat z = 16 from fun y => by have := (i_eq (b := 16) (by omega) (by omega)).mp y; omega), if_neg hn, if_pos rfl, R.vn, Option.bind_some, c_entry (by omega) R.mv hf (by omega), cI_v, hq2]
    refine b56 q _ _ 0 hq fun X1 p h1 R1 D1 => ?_
    refine OkD.le (b_X2_append_77 rfl) ?_
    rw [if_pos rfl]
    refine OkD.le (b_X2_append_101 rfl) ?_
    obtain ⟨X2, h2, e1, e2, e3⟩ := D1.st R1 (j := z % 8) (by omega) zr word
    rw [e1, Option.bind_some, if_pos rfl]
    refine (c_append130 (t0 := q) (t1 := 5 + f / 2) (t2 := q) (by omega) e2 e3.dss hf (fun x hx => Or.inl hx) (Or.inr (Or.inl rfl))).congr fun x => Iff.rfl
  · refine OkD.le b_X2_append_27 ?_
    rw [if_pos (show ¬ Int32.ofNat z = 16 from fun y => by have := (i_eq (b := 16) (by omega) (by omega)).mp y; omega), if_pos hn, if_neg (by decide), R.vn, Option.bind_some, c_firstFree (by omega) R.mv, cI_v, hq]
    refine OkD.le b_X2_append_56 ?_
    rw [if_neg (fun y => y rfl)]
    exact OkD.ret R D
  · refine OkD.le b_X2_append_27 ?_
    rw [if_pos (show ¬ Int32.ofNat z = 16 from fun y => by have := (i_eq (b := 16) (by omega) (by omega)).mp y; omega), if_pos hn, if_neg (by decide), R.vn, Option.bind_some, c_firstFree (by omega) R.mv, cI_v, hq2]
    refine b56 q _ _ 1 hq fun X1 p h1 R1 D1 => ?_
    have loop : ∀ m k : Nat, k + m = 8 → ∀ (X1 : mr_X) (h1 : ax_H) (W1 : Nat → Int32), MR b Z e w pr c L X1 h1 → DP b c X1 (fun x => x = q) W1 q p → (∀ j, W1 j = if 8 * q ≤ j ∧ j < 8 * q + k then 0 else ds c j) → OkD b Z e w pr c L (B_X2_append_77 (ax_c d) b (Int32.ofNat f) word (Int32.ofNat z) (Int32.ofNat (2 + z / 8)) 1 (Int32.ofNat q) (.ref p) (Int32.ofNat k) h1) (.inl (some (.int 0))) (appS2 f q) (appW2 (ds c) f z q word) := by
      intro m
      induction m with
      | zero =>
        intro k hk X1 h1 W1 R1 D1 hW
        obtain rfl : k = 8 := by omega
        have eW : W1 = zer8 (ds c) q := funext hW
        subst eW
        refine OkD.le (b_X2_append_77 rfl) ?_
        rw [if_neg (by decide), if_pos (by decide)]
        refine OkD.le (b_X2_append_101 rfl) ?_
        obtain ⟨X2, h2, e1, e2, e3⟩ := D1.st R1 (j := z % 8) (by omega) zr word
        rw [e1, Option.bind_some, if_neg (by decide), e2.vn, Option.bind_some]
        refine OkD.V (c_mark (t0 := q) (t1 := 4) (t2 := 5 + f / 2) (by omega) e2 e3.dss hq (fun x hx => Or.inl hx) (Or.inr (Or.inl rfl)) 1) fun X3 h3 R3 D3 => ?_
        have T3 : ∀ x, addS (fun x => x = q) 4 x → x = q ∨ x = 4 ∨ x = 5 + f / 2 := fun x hx => hx.elim Or.inl fun y => Or.inr (Or.inl y)
        rw [R3.vn, Option.bind_some]
        refine OkD.V (c_setEntry (by omega) R3 D3 hf (show 2 + z / 8 < 4 by omega) T3 (Or.inr (Or.inr rfl)) _ rfl) fun X4 h4 R4 D4 => ?_
        refine (c_append130 (t0 := q) (t1 := 4) (t2 := 5 + f / 2) (by omega) R4 D4 hf (fun x hx => hx.elim (T3 x) fun y => Or.inr (Or.inr y)) (Or.inr (Or.inr rfl))).congr fun x => ?_
        unfold addS appS2
        constructor
        · rintro (((y | y) | y) | y)
          · exact Or.inl y
          · exact Or.inr (Or.inl y)
          · exact Or.inr (Or.inr y)
          · exact Or.inr (Or.inr y)
        · rintro (y | y | y)
          · exact Or.inl (Or.inl (Or.inl y))
          · exact Or.inl (Or.inl (Or.inr y))
          · exact Or.inr y
      | succ m ih =>
        intro k hk X1 h1 W1 R1 D1 hW
        refine OkD.le (b_X2_append_77 rfl) ?_
        obtain ⟨X2, h2, e1, e2, e3⟩ := D1.st R1 (j := k) (by omega) rfl 0
        rw [if_neg (by decide), if_neg (nge8 (show k < 8 by omega)), e1, Option.bind_some, lt_at, show Int32.ofNat k + 1 = Int32.ofNat (k + 1) from i_add k 1]
        refine ih (k + 1) (by omega) X2 h2 _ e2 e3 fun j => ?_
        show (if j = 8 * q + k then 0 else W1 j) = _
        by_cases y : j = 8 * q + k
        · rw [if_pos y, if_pos (by omega)]
        · rw [if_neg y, hW j]
          by_cases y2 : 8 * q ≤ j ∧ j < 8 * q + k
          · rw [if_pos y2, if_pos (by omega)]
          · rw [if_neg y2, if_neg (by omega)]
    exact loop 8 0 rfl X1 h1 (ds c) R1 D1 fun j => by rw [if_neg (by omega)]
/-- renaming: S, W behind it -/
theorem c_rename (hd : 5 ≤ d) (R : MR b Z e w pr c L X h) (D : DSS c X noS (ds c)) {f : Nat} (hf : f < 6) (name next : Int32) (hn : ¬ next = 0) (hv : ∀ f k, f < 6 → 2 ≤ k → k < 4 → ∃ v, v < 32 ∧ ds c (40 + 4 * f + k) = Int32.ofNat v) :
    (next = name → OkD b Z e w pr c L (ax_c d 345 [.ref b, .int (Int32.ofNat f), .int name, .int next] h) (.inl (some (.int 0))) noS (ds c)) ∧
    (¬ next = name → findF (ds c) next = -1 → OkD b Z e w pr c L (ax_c d 345 [.ref b, .int (Int32.ofNat f), .int name, .int next] h) (.inl (some (.int 0))) (addS noS (5 + f / 2)) (entW (ds c) f 0 next)) ∧
    (¬ next = name → ∀ g, g < 6 → findF (ds c) next = Int32.ofNat g → OkD b Z e w pr c L (ax_c d 345 [.ref b, .int (Int32.ofNat f), .int name, .int next] h) (.inl (some (.int 0))) (addS (rmvS (ds c) g noS) (5 + f / 2)) (entW (rmvW (ds c) g 4 0 (ds c)) f 0 next)) := by
  obtain ⟨d, rfl, he⟩ := d_succ hd
  have e1 := c_named (d := d) (by omega) R.mv next
  rw [if_neg hn] at e1
  have b30 : ∀ (S1 : Nat → Prop) (W1 : Nat → Int32) (X1 : mr_X) (h1 : ax_H) (t0 t1 : Nat), MR b Z e w pr c L X1 h1 → DSS c X1 S1 W1 → (∀ q, S1 q → q = t0 ∨ q = t1 ∨ q = 5 + f / 2) → OkD b Z e w pr c L (B_X2_rename_30 (ax_c d) b (Int32.ofNat f) next h1) (.inl (some (.int 0))) (addS S1 (5 + f / 2)) (entW W1 f 0 next) := by
    intro S1 W1 X1 h1 t0 t1 R1 D1 hT
    refine OkD.le b_X2_rename_30 ?_
    rw [R1.vn, Option.bind_some]
    exact OkD.V (c_setEntry (by omega) R1 D1 hf (show 0 < 4 by omega) hT (Or.inr (Or.inr rfl)) _ (i := 0) rfl) fun X2 h2 R2 D2 => OkD.ret R2 D2
  refine ⟨fun q => ?_, fun q hq => ?_, fun q g hg hq => ?_⟩
  · refine OkD.le m_X2_rename ?_
    rw [if_pos hn, R.vn, Option.bind_some, e1, cI_v, if_pos q]
    exact OkD.ret R D
  · refine OkD.le m_X2_rename ?_
    rw [if_pos hn, R.vn, Option.bind_some, e1, cI_v, if_neg q, hq, if_pos rfl]
    exact b30 _ _ X h 0 0 R D fun q hq => hq.elim
  · refine OkD.le m_X2_rename ?_
    rw [if_pos hn, R.vn, Option.bind_some, e1, cI_v, if_neg q, hq, if_neg (ofNat_ne_neg (by omega)), R.vn, Option.bind_some]
    have T : ∀ x, rmvS (ds c) g noS x → x = 4 ∨ x = 5 + g / 2 ∨ x = 5 + f / 2 := fun x hx => by
      rcases hx with y | y | y
      · exact y.elim
      · exact Or.inr (Or.inl y)
      · exact Or.inl y.1
    refine OkD.V (c_remove (t0 := 4) (t1 := 5 + g / 2) (t2 := 5 + f / 2) (by omega) R D hg (fun x hx => hx.elim) (Or.inr (Or.inl rfl)) (Or.inl rfl) fun k k1 k2 => hv g k hg k1 k2) fun X1 h1 R1 D1 => ?_
    exact b30 _ _ X1 h1 4 (5 + g / 2) R1 D1 T
end MSC
