/-! the class's journal: a Step's row -/
def lv (h : ax_H) (p : Nat) : Prop := 400 ≤ p ∧ p < 400 + h.2.1
/-- what lies outside of A stays -/
def Fr (A : Nat → Prop) (h h' : ax_H) : Prop := h.2.1 ≤ h'.2.1 ∧ h.2.2 ≤ h'.2.2 ∧ ∀ q, q < 400 + h.2.1 → ¬ A q → h'.1 q = h.1 q
theorem Fr.rf {A : Nat → Prop} (h : ax_H) : Fr A h h := ⟨Nat.le_refl _, Nat.le_refl _, fun _ _ _ => rfl⟩
theorem Fr.tr {A : Nat → Prop} {h1 h2 h3 : ax_H} (a : Fr A h1 h2) (b : Fr A h2 h3) : Fr A h1 h3 :=
  ⟨Nat.le_trans a.1 b.1, Nat.le_trans a.2.1 b.2.1, fun q hq hA => (b.2.2 q (by have := a.1; omega) hA).trans (a.2.2 q hq hA)⟩
theorem Fr.set {A : Nat → Prop} {h : ax_H} {p : Nat} {c : ax_C} (hp : A p) : Fr A h (ax_set h p c) :=
  ⟨Nat.le_refl _, Nat.le_refl _, fun q _ hA => set_ne c (fun e => hA (e ▸ hp))⟩
theorem Fr.new {A : Nat → Prop} {h : ax_H} {c : ax_C} {w : Nat} : Fr A h (ax_new h c w) :=
  ⟨Nat.le_succ _, Nat.le_add_right _ _, fun q hq _ => new_ne c w (by omega)⟩
theorem lv.fr {h h' : ax_H} {p : Nat} (a : lv h p) (hh : h.2.1 ≤ h'.2.1) : lv h' p := ⟨a.1, Nat.lt_of_lt_of_le a.2 (by omega)⟩
/-- the Step at st has noted J, in a row of n words -/
def JS (h : ax_H) (A : Nat → Prop) (st n : Nat) (J : List (Nat × Int32)) : Prop := ∃ (row : Nat) (f : Nat → Int32), h.1 st = .inr (31, [.ref row, .int (Int32.ofNat (2 * J.length))]) ∧ h.1 row = .inl (0, n, .inl f) ∧ lv h st ∧ lv h row ∧ A st ∧ A row ∧ 2 * J.length ≤ n ∧ 16 ≤ n ∧ n ≤ 16 + 4 * J.length ∧ ∀ (i : Nat) (q : Nat × Int32), J[i]? = some q → f (2 * i) = Int32.ofNat q.1 ∧ f (2 * i + 1) = q.2
theorem JS.kept0 {h h' : ax_H} {A : Nat → Prop} {st n : Nat} {J : List (Nat × Int32)} (a : JS h A st n J) (hh : h.2.1 ≤ h'.2.1) (hs : ∀ q, A q → q < 400 + h.2.1 → h'.1 q = h.1 q) : JS h' A st n J := by
  obtain ⟨row, f, h1, h2, h3, h4, h5, h6, h7⟩ := a
  exact ⟨row, f, (hs st h5 h3.2).trans h1, (hs row h6 h4.2).trans h2, h3.fr hh, h4.fr hh, h5, h6, h7⟩
