/-! the class's machine: is the disk whole -/
/- with MM.mv BS.mono BW.put BW.eight -/
/-- a number that answers yes or no -/
def bo (v : Int32) (A : Prop) : Prop := v = 1 ∧ A ∨ v = 0 ∧ ¬ A
theorem bo.and {v w : Int32} {A B : Prop} (x : bo v A) (y : bo w B) : bo (v &&& w) (A ∧ B) := by
  rcases x with ⟨rfl, x⟩ | ⟨rfl, x⟩ <;> rcases y with ⟨rfl, y⟩ | ⟨rfl, y⟩
  · exact Or.inl ⟨by decide, x, y⟩
  · exact Or.inr ⟨by decide, fun z => y z.2⟩
  · exact Or.inr ⟨by decide, fun z => x z.1⟩
  · exact Or.inr ⟨by decide, fun z => x z.1⟩
theorem bo.yes {A : Prop} (h : A) : bo 1 A := Or.inl ⟨rfl, h⟩
theorem bo.no {A : Prop} (h : ¬ A) : bo 0 A := Or.inr ⟨rfl, h⟩
theorem bo.iff {v : Int32} {A B : Prop} (x : bo v A) (h : A ↔ B) : bo v B := x.imp (fun z => ⟨z.1, h.mp z.2⟩) (fun z => ⟨z.1, fun y => z.2 (h.mpr y)⟩)
theorem bo.uniq {v w : Int32} {A : Prop} (x : bo v A) (y : bo w A) : v = w := by
  rcases x with ⟨rfl, x⟩ | ⟨rfl, x⟩ <;> rcases y with ⟨rfl, y⟩ | ⟨rfl, y⟩
  · rfl
  · exact absurd x y
  · exact absurd y x
  · rfl
def OkB (x : Option ax_R) (A : Prop) (Q : ax_H → Prop) : Prop := ∃ r : Int32, bo r A ∧ Ok x (.inl (some (.int r))) Q
theorem OkB.le {x y : Option ax_R} {A : Prop} {Q : ax_H → Prop} (hl : dx_le x y) (o : OkB x A Q) : OkB y A Q := let ⟨r, h, k⟩ := o; ⟨r, h, Ok.le hl k⟩
theorem OkB.V {x : Option ax_R} {F : ax_H → Option ax_R} {X : Nat → ax_H → Option ax_R} {A : Prop} {P Q : ax_H → Prop} (o : Ok x (.inl none) P) (f : ∀ h', P h' → OkB (F h') A Q) : OkB (dx_cV x F X) A Q := by
  obtain ⟨h', e, p⟩ := o
  obtain ⟨r, b, k⟩ := f h' p
  exact ⟨r, b, Ok.V (P := fun q => q = h') ⟨h', e, rfl⟩ (fun h2 e2 => by rw [e2]; exact k)⟩
/-! what is to hold of a whole disk -/
def wnP (D : Nat → Int32) (f j : Nat) : Prop := D (40 + 4 * f) ≠ 0 ∧ ¬ D (40 + 4 * f + 1) ≤ 8 * (Int32.ofNat (2 + j) - 2)
def okB (D : Nat → Int32) (S : Nat → Prop) (f j : Nat) : Prop := (wnP D f j → ¬ D (40 + 4 * f + (2 + j)) < 8 ∧ ¬ (32 : Int32) ≤ D (40 + 4 * f + (2 + j)) ∧ ¬ S (nn (D (40 + 4 * f + (2 + j))))) ∧ (¬ wnP D f j → D (40 + 4 * f + (2 + j)) = 0)
def okE (D : Nat → Int32) (f : Nat) : Prop := (D (40 + 4 * f) = 0 → D (40 + 4 * f + 1) = 0) ∧ (D (40 + 4 * f) ≠ 0 → findF D (D (40 + 4 * f)) = Int32.ofNat f ∧ ¬ (16 : Int32) < D (40 + 4 * f + 1))
def sbM (D : Nat → Int32) (S : Nat → Prop) (f j : Nat) : Nat → Prop := fun b => S b ∨ D (40 + 4 * f + (2 + j)) = Int32.ofNat b
def sbP (D : Nat → Int32) : Nat → Nat → Prop
  | 0 => fun b => b < 8
  | f + 1 => sbM D (sbM D (sbP D f) f 0) f 1
def wE (D : Nat → Int32) : Nat → Prop
  | 0 => D 0 = 0
  | f + 1 => ((wE D f ∧ okE D f) ∧ okB D (sbP D f) f 0) ∧ okB D (sbM D (sbP D f) f 0) f 1
def wM (D : Nat → Int32) : Nat → Prop
  | 0 => wE D 6
  | b + 1 => wM D b ∧ (usedF D b = 1 ↔ sbP D 6 b)
theorem BW.iff {w : Int64} {B B' : Nat → Prop} (b : BW w B) (h : ∀ k, k < 32 → (B k ↔ B' k)) : BW w B' := fun k hk => (b k hk).trans (not_congr (h k hk))
section MMW
variable {d b : Nat} {c : Nat → Int32} {h : ax_H}
theorem c_isWhole (hd : 5 ≤ d) (M : MV b c h) (hb : b + 1 < 400 + h.2.1) (C : ∀ p, p < 256 → rg 65535 (ds c p)) : OkB (ax_c d 307 [.ref b] h) (wM (ds c) 32) (fun h' => (∀ q, q < 400 + h.2.1 → h'.1 q = h.1 q) ∧ h'.2.1 = h.2.1 + 2 ∧ h'.2.2 = h.2.2 + 4) := by
  obtain ⟨d, rfl, he⟩ := d_succ hd
  refine OkB.le m_X2_isWhole ?_
  obtain ⟨p, ep⟩ : ∃ p, p = 400 + h.2.1 := ⟨_, rfl⟩
  rw [nw_at, ← ep]
  refine OkB.V (j31_init (by omega) (by show p + 1 = 400 + (h.2.1 + 1); omega) (by omega) (by rw [ep]; exact new_eq _ _)) ?_
  rintro h1 ⟨b1, s1, w1, k1⟩
  have s1 : h1.2.1 = h.2.1 + 2 := by rw [s1]; rfl
  have w1 : h1.2.2 = h.2.2 + 4 := by rw [w1]; rfl
  have k1 : ∀ q, q < p → h1.1 q = h.1 q := fun q hq => (k1 q hq).trans (new_ne _ _ (by omega))
  rw [vn_at b1.1]
  show OkB (Option.bind (some 102) _) _ _
  rw [Option.bind_some]
  refine OkB.V (j31_set8 (by omega) b1) ?_
  rintro h2 ⟨b2, E2⟩
  -- what holds of a heap from here on
  have inv : ∀ g : ax_H, Ex (fun q => q = p + 1) h2 g → MV b c g ∧ (∀ q, q < 400 + h.2.1 → g.1 q = h.1 q) ∧ g.2.1 = h.2.1 + 2 ∧ g.2.2 = h.2.2 + 4 := by
    intro g E
    have k : ∀ q, q < p → g.1 q = h.1 q := fun q hq => (E.2 q (by omega)).trans ((E2.2 q (by omega)).trans (k1 q hq))
    obtain ⟨⟨fs, m1⟩, m2⟩ := M
    exact ⟨⟨⟨fs, (k b (by omega)).trans m1⟩, (k _ (by omega)).trans m2⟩, fun q hq => k q (by omega), by rw [E.1, E2.1]; exact s1, by rw [E.1, E2.1]; exact w1⟩
  -- the marks
  have marks : ∀ r k : Nat, k + r = 32 → ∀ (g : ax_H) (v : Int32) (w : Int64), Ex (fun q => q = p + 1) h2 g → BS g p (p + 1) 1 w → BW w (sbP (ds c) 6) → bo v (wM (ds c) k) → OkB (B_X2_isWhole_219 (ax_c d) b p v (Int32.ofNat k) g) (wM (ds c) 32) (fun h' => (∀ q, q < p → h'.1 q = h.1 q) ∧ h'.2.1 = h.2.1 + 2 ∧ h'.2.2 = h.2.2 + 4) := by
    intro r
    induction r with
    | zero =>
      intro k hk g v w E b3 W V
      obtain rfl : k = 32 := by omega
      obtain ⟨Mg, i1, i2, i3⟩ := inv g E
      refine OkB.le b_X2_isWhole_219 ?_
      rw [if_pos (by decide), if_pos (V.elim (fun z => Or.inr z.1) (fun z => Or.inl z.1))]
      exact ⟨v, V, Ok.ret ⟨fun q hq => i1 q (by omega), i2, i3⟩⟩
    | succ r ih =>
      intro k hk g v w E b3 W V
      obtain ⟨Mg, i1, i2, i3⟩ := inv g E
      refine OkB.le b_X2_isWhole_219 ?_
      obtain ⟨x, hx, ex⟩ := j31_get (d := d) (k := k) (by omega) b3 W (by omega)
      rw [if_neg (show ¬ (32 : Int32) ≤ Int32.ofNat k from fun z => by have := (i_le (a := 32) (by omega) (by omega)).mp z; omega), Mg.vn, Option.bind_some, c_isUsed (by omega) Mg (by omega), cI_v, vn_at b3.1]
      show OkB (Option.bind (some 107) _) _ _
      rw [Option.bind_some, ex, cI_v]
      have fin : ∀ y : Int32, bo y (usedF (ds c) k = 1 ↔ sbP (ds c) 6 k) → OkB (dx_lt (v &&& y) fun x5 => dx_lt (Int32.ofNat k + 1) fun x6 => B_X2_isWhole_219 (ax_c d) b p x5 x6 g) (wM (ds c) 32) (fun h' => (∀ q, q < p → h'.1 q = h.1 q) ∧ h'.2.1 = h.2.1 + 2 ∧ h'.2.2 = h.2.2 + 4) := by
        intro y hy
        rw [lt_at, lt_at, show Int32.ofNat k + 1 = Int32.ofNat (k + 1) from i_add k 1]
        exact ih (k + 1) (by omega) g _ w E b3 W (V.and hy)
      have u01 : usedF (ds c) k = 0 ∨ usedF (ds c) k = 1 := by unfold usedF; split <;> simp
      rcases hx with ⟨rfl, hx⟩ | ⟨rfl, hx⟩ <;> rcases u01 with u | u <;> rw [u]
      · rw [if_neg (by decide)]
        exact fin 1 (bo.yes ⟨fun z => absurd (u.symm.trans z) (by decide), fun z => absurd z hx⟩)
      · rw [if_pos (by decide)]
        exact fin 0 (bo.no fun z => hx (z.mp u))
      · rw [if_pos (by decide)]
        exact fin 0 (bo.no fun z => absurd (u.symm.trans (z.mpr hx)) (by decide))
      · rw [if_neg (by decide)]
        exact fin 1 (bo.yes ⟨fun _ => hx, fun _ => u⟩)
  -- a block of a file
  have blk : ∀ (f j : Nat) (A : Prop) (S : Nat → Prop) (T : Prop), f < 6 → j < 2 → (∀ (g : ax_H) (v : Int32) (w : Int64), Ex (fun q => q = p + 1) h2 g → BS g p (p + 1) 1 w → BW w (sbM (ds c) S f j) → bo v (A ∧ okB (ds c) S f j) → OkB (B_X2_isWhole_116 (ax_c d) b p v (Int32.ofNat f) (ds c (40 + 4 * f + 1)) (if ds c (40 + 4 * f) = 0 then 0 else 1) (Int32.ofNat (2 + (j + 1))) g) T (fun h' => (∀ q, q < p → h'.1 q = h.1 q) ∧ h'.2.1 = h.2.1 + 2 ∧ h'.2.2 = h.2.2 + 4)) → ∀ (g : ax_H) (v : Int32) (w : Int64), Ex (fun q => q = p + 1) h2 g → BS g p (p + 1) 1 w → BW w S → bo v A → OkB (B_X2_isWhole_116 (ax_c d) b p v (Int32.ofNat f) (ds c (40 + 4 * f + 1)) (if ds c (40 + 4 * f) = 0 then 0 else 1) (Int32.ofNat (2 + j)) g) T (fun h' => (∀ q, q < p → h'.1 q = h.1 q) ∧ h'.2.1 = h.2.1 + 2 ∧ h'.2.2 = h.2.2 + 4) := by
    intro f j A S T hf hj nxt g v w E b3 W V
    obtain ⟨Mg, i1, i2, i3⟩ := inv g E
    obtain ⟨x1, x2⟩ := rg.nat (C (40 + 4 * f + (2 + j)) (by omega))
    obtain ⟨x, ex⟩ : ∃ x, x = nn (ds c (40 + 4 * f + (2 + j))) := ⟨_, rfl⟩
    rw [← ex] at x1 x2
    have fin : ∀ y : Int32, bo y (okB (ds c) S f j) → OkB (B_X2_isWhole_190 (ax_c d) v y b p (Int32.ofNat f) (ds c (40 + 4 * f + 1)) (if ds c (40 + 4 * f) = 0 then 0 else 1) (Int32.ofNat (2 + j)) (Int32.ofNat x) g) T (fun h' => (∀ q, q < p → h'.1 q = h.1 q) ∧ h'.2.1 = h.2.1 + 2 ∧ h'.2.2 = h.2.2 + 4) := by
      intro y hy
      refine OkB.le b_X2_isWhole_190 ?_
      rw [lt_at]
      by_cases z : 32 ≤ x
      · rw [if_pos (show (32 : Int32) ≤ Int32.ofNat x from (i_le (a := 32) (by omega) (by omega)).mpr z), lt_at, show Int32.ofNat (2 + j) + 1 = Int32.ofNat (2 + (j + 1)) from i_add (2 + j) 1]
        exact nxt g _ w E b3 (W.iff fun k hk => ⟨Or.inl, fun y => y.elim id fun y => by rw [x2] at y; have := (i_eq (by omega) (by omega)).mp y; omega⟩) (V.and hy)
      · rw [if_neg (show ¬ (32 : Int32) ≤ Int32.ofNat x from fun y => z ((i_le (a := 32) (by omega) (by omega)).mp y)), vn_at b3.1]
        show OkB (Option.bind (some 108) _) _ _
        rw [Option.bind_some]
        refine OkB.V (j31_set (by omega) b3 (by omega)) ?_
        rintro g2 ⟨b4, E4⟩
        rw [lt_at, show Int32.ofNat (2 + j) + 1 = Int32.ofNat (2 + (j + 1)) from i_add (2 + j) 1]
        refine nxt g2 _ _ (E.tr E4) b4 ((W.put (by omega)).iff fun k hk => ⟨fun y => y.imp id fun y => by rw [x2, y], fun y => y.imp id fun y => ?_⟩) (V.and hy)
        rw [x2] at y
        exact ((i_eq (by omega) (by omega)).mp y).symm
    refine OkB.le b_X2_isWhole_116 ?_
    rw [if_neg (show ¬ (4 : Int32) ≤ Int32.ofNat (2 + j) from fun z => by have := (i_le (a := 4) (by omega) (by omega)).mp z; omega), Mg.vn, Option.bind_some, c_entry (by omega) Mg hf (by omega), cI_v, x2]
    -- not needed
    have non : ¬ wnP (ds c) f j → OkB (if ¬ Int32.ofNat x = 0 then B_X2_isWhole_190 (ax_c d) v 0 b p (Int32.ofNat f) (ds c (40 + 4 * f + 1)) (if ds c (40 + 4 * f) = 0 then 0 else 1) (Int32.ofNat (2 + j)) (Int32.ofNat x) g else B_X2_isWhole_190 (ax_c d) v 1 b p (Int32.ofNat f) (ds c (40 + 4 * f + 1)) (if ds c (40 + 4 * f) = 0 then 0 else 1) (Int32.ofNat (2 + j)) (Int32.ofNat x) g) T (fun h' => (∀ q, q < p → h'.1 q = h.1 q) ∧ h'.2.1 = h.2.1 + 2 ∧ h'.2.2 = h.2.2 + 4) := by
      intro hn
      by_cases z : Int32.ofNat x = 0
      · rw [if_neg (fun y => y z)]
        exact fin 1 (bo.yes ⟨fun y => absurd y hn, fun _ => x2.trans z⟩)
      · rw [if_pos z]
        exact fin 0 (bo.no fun y => z (x2.symm.trans (y.2 hn)))
    by_cases hh : ds c (40 + 4 * f) = 0
    · rw [if_pos (show (if ds c (40 + 4 * f) = 0 then (0 : Int32) else 1) = 0 from if_pos hh)]
      exact non fun y => y.1 hh
    · rw [if_neg (show ¬ (if ds c (40 + 4 * f) = 0 then (0 : Int32) else 1) = 0 from by rw [if_neg hh]; decide)]
      by_cases hs : ds c (40 + 4 * f + 1) ≤ 8 * (Int32.ofNat (2 + j) - 2)
      · rw [if_pos hs]
        exact non fun y => y.2 hs
      · rw [if_neg hs]
        have need : wnP (ds c) f j := ⟨hh, hs⟩
        by_cases z : x < 8
        · rw [if_pos (show Int32.ofNat x < 8 from (i_lt (b := 8) (by omega) (by omega)).mpr z)]
          exact fin 0 (bo.no fun y => (y.1 need).1 (by rw [x2]; exact (i_lt (b := 8) (by omega) (by omega)).mpr z))
        · rw [if_neg (show ¬ Int32.ofNat x < 8 from fun y => z ((i_lt (b := 8) (by omega) (by omega)).mp y))]
          by_cases z2 : 32 ≤ x
          · rw [if_pos (show (32 : Int32) ≤ Int32.ofNat x from (i_le (a := 32) (by omega) (by omega)).mpr z2)]
            exact fin 0 (bo.no fun y => (y.1 need).2.1 (by rw [x2]; exact (i_le (a := 32) (by omega) (by omega)).mpr z2))
          · rw [if_neg (show ¬ (32 : Int32) ≤ Int32.ofNat x from fun y => z2 ((i_le (a := 32) (by omega) (by omega)).mp y))]
            obtain ⟨u, hu, eu⟩ := j31_get (d := d) (k := x) (by omega) b3 W (by omega)
            rw [vn_at b3.1]
            show OkB (Option.bind (some 107) _) _ _
            rw [Option.bind_some, eu, cI_v]
            rcases hu with ⟨rfl, hu⟩ | ⟨rfl, hu⟩
            · rw [if_neg (by decide)]
              exact fin 1 (bo.yes ⟨fun _ => ⟨by rw [x2]; exact fun y => z ((i_lt (b := 8) (by omega) (by omega)).mp y), by rw [x2]; exact fun y => z2 ((i_le (a := 32) (by omega) (by omega)).mp y), by rw [← ex]; exact hu⟩, fun y => absurd need y⟩)
            · rw [if_pos (by decide)]
              exact fin 0 (bo.no fun y => (y.1 need).2.2 (by rw [← ex]; exact hu))
  -- the files
  have files : ∀ r f : Nat, f + r = 6 → ∀ (g : ax_H) (v : Int32) (w : Int64), Ex (fun q => q = p + 1) h2 g → BS g p (p + 1) 1 w → BW w (sbP (ds c) f) → bo v (wE (ds c) f) → OkB (B_X2_isWhole_36 (ax_c d) b p v (Int32.ofNat f) g) (wM (ds c) 32) (fun h' => (∀ q, q < p → h'.1 q = h.1 q) ∧ h'.2.1 = h.2.1 + 2 ∧ h'.2.2 = h.2.2 + 4) := by
    intro r
    induction r with
    | zero =>
      intro f hf g v w E b3 W V
      obtain rfl : f = 6 := by omega
      refine OkB.le b_X2_isWhole_36 ?_
      rw [if_pos (by decide)]
      exact marks 32 0 rfl g v w E b3 W V
    | succ r ih =>
      intro f hf g v w E b3 W V
      have f6 : f < 6 := by omega
      obtain ⟨Mg, i1, i2, i3⟩ := inv g E
      -- both blocks, then the next file
      have go : ∀ y : Int32, bo y (okE (ds c) f) → OkB (B_X2_isWhole_116 (ax_c d) b p (v &&& y) (Int32.ofNat f) (ds c (40 + 4 * f + 1)) (if ds c (40 + 4 * f) = 0 then 0 else 1) (Int32.ofNat (2 + 0)) g) (wM (ds c) 32) (fun h' => (∀ q, q < p → h'.1 q = h.1 q) ∧ h'.2.1 = h.2.1 + 2 ∧ h'.2.2 = h.2.2 + 4) := by
        intro y hy
        refine blk f 0 (wE (ds c) f ∧ okE (ds c) f) (sbP (ds c) f) _ f6 (by omega) ?_ g _ w E b3 W (V.and hy)
        refine blk f 1 _ (sbM (ds c) (sbP (ds c) f) f 0) _ f6 (by omega) ?_
        intro g3 v3 w3 E3 b5 W3 V3
        refine OkB.le b_X2_isWhole_116 ?_
        rw [if_pos (by decide), lt_at, show Int32.ofNat f + 1 = Int32.ofNat (f + 1) from i_add f 1]
        exact ih (f + 1) (by omega) g3 v3 w3 E3 b5 W3 V3
      refine OkB.le b_X2_isWhole_36 ?_
      rw [if_neg (show ¬ (6 : Int32) ≤ Int32.ofNat f from fun z => by have := (i_le (a := 6) (by omega) (by omega)).mp z; omega), Mg.vn, Option.bind_some, show ax_c d 305 [.ref b, .int (Int32.ofNat f), .int 1] g = _ from c_entry (k := 1) (by omega) Mg f6 (by omega), cI_v, Mg.vn, Option.bind_some, show ax_c d 305 [.ref b, .int (Int32.ofNat f), .int 0] g = _ from c_entry (k := 0) (by omega) Mg f6 (by omega), cI_v, Nat.add_zero]
      by_cases hh : ds c (40 + 4 * f) = 0
      · rw [if_pos hh]
        refine OkB.le b_X2_isWhole_64 ?_
        have go := go
        rw [if_pos hh] at go
        rw [if_pos rfl]
        by_cases z : ds c (40 + 4 * f + 1) = 0
        · rw [if_neg (fun y => y z), lt_at]
          exact go 1 (bo.yes ⟨fun _ => z, fun y => absurd hh y⟩)
        · rw [if_pos z, lt_at]
          exact go 0 (bo.no fun y => z (y.1 hh))
      · rw [if_neg hh]
        refine OkB.le b_X2_isWhole_64 ?_
        have go := go
        rw [if_neg hh] at go
        rw [if_neg (by decide), Mg.vn, Option.bind_some, show ax_c d 305 [.ref b, .int (Int32.ofNat f), .int 0] g = _ from c_entry (k := 0) (by omega) Mg f6 (by omega), cI_v, Nat.add_zero, Mg.vn, Option.bind_some, c_find (by omega) Mg, cI_v]
        by_cases z : findF (ds c) (ds c (40 + 4 * f)) = Int32.ofNat f
        · rw [if_neg (fun y => y z)]
          by_cases z2 : (16 : Int32) < ds c (40 + 4 * f + 1)
          · rw [if_pos z2, lt_at]
            exact go 0 (bo.no fun y => (y.2 hh).2 z2)
          · rw [if_neg z2, lt_at]
            exact go 1 (bo.yes ⟨fun y => absurd y hh, fun _ => ⟨z, z2⟩⟩)
        · rw [if_pos z, lt_at]
          exact go 0 (bo.no fun y => z (y.2 hh).1)
  obtain ⟨M2, -, -, -⟩ := inv h2 Ex.rf
  rw [M2.g0, Option.bind_some, M2.rdn (i := 365) (k := 365) rfl (by omega), Option.bind_some]
  by_cases z : c 365 = 0
  · rw [if_neg (fun y => y z)]
    exact files 6 0 rfl h2 1 _ Ex.rf b2 BW.eight (bo.yes z)
  · rw [if_pos z]
    exact files 6 0 rfl h2 0 _ Ex.rf b2 BW.eight (bo.no z)
end MMW
