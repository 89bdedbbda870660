/-! the class's machine on the heap, while a step is made -/
abbrev mr_X : Type := Nat × (Nat → Int32) × (Nat → Nat) × (Nat → Nat → Int32)
/-- the heap when the step began; does the machine keep; its image -/
abbrev mr_Z : Type := ax_H × Int32 × Nat
def prV (pr : Option Nat) : Value := va_rf pr
def mo_fs (b : Nat) (Z : mr_Z) (pr : Option Nat) (dd : Nat) : List Value := [.ref (b + 1), .ref (b + 2), .ref (b + 3), .int Z.2.1, va_rf pr, .ref Z.2.2, .ref (b + 6), .ref (b + 7), .ref (b + 8), .int (Int32.ofNat dd)]
/-- what a step may change -/
def mA (b q : Nat) : Prop := q = b ∨ q = b + 1 ∨ (b + 7 ≤ q ∧ q ≤ b + 11)
/-- the drafts: how many, numbers, which row, rows -/
def DX (b : Nat) (X : mr_X) (h : ax_H) : Prop := h.1 (b + 7) = .inl (0, 3, .inl X.2.1) ∧ (∃ g, h.1 (b + 8) = .inl (5, 3, objs g) ∧ ∀ j, j < 3 → g j = some (b + 9 + X.2.2.1 j)) ∧ (∀ k, k < 3 → h.1 (b + 9 + k) = .inl (0, 8, .inl (X.2.2.2 k))) ∧ (∀ j, j < 3 → X.2.2.1 j < 3) ∧ (∀ i j, i < j → j < 3 → X.2.2.1 i ≠ X.2.2.1 j)
/-- the present step's own things -/
def exS (pr : Option Nat) (q : Nat) : Prop := ∃ st, pr = some st ∧ (q = st ∨ q = st + 1)
/-- the journal of the present step: its row has n places -/
def JP (h : ax_H) (b lo : Nat) (pr : Option Nat) (L : List (Nat × Int32)) (n : Nat) : Prop := match pr with
  | none => n = 0
  | some st => b + 12 ≤ st ∧ (st + 1 < lo ∧ st < 400 + h.2.1) ∧ ∃ (row : Nat) (f : Nat → Int32), h.1 st = .inr (31, [.ref row, .int (Int32.ofNat (2 * L.length))]) ∧ h.1 row = .inl (0, n, .inl f) ∧ (row = st + 1 ∨ lo ≤ row) ∧ row < 400 + h.2.1 ∧ 2 * L.length ≤ n ∧ (16 ≤ n ∧ n % 2 = 0) ∧ n ≤ 16 + 4 * L.length ∧ ∀ (i : Nat) (q : Nat × Int32), L[i]? = some q → f (2 * i) = Int32.ofNat q.1 ∧ f (2 * i + 1) = q.2 ∧ q.1 < 621
def MR (b : Nat) (Z : mr_Z) (e w : Nat) (pr : Option Nat) (c : Nat → Int32) (L : List (Nat × Int32)) (X : mr_X) (h : ax_H) : Prop :=
  h.1 b = .inr (29, mo_fs b Z pr X.1) ∧ h.1 (b + 1) = .inl (0, 621, .inl c) ∧ DX b X h ∧ (∃ n, JP h b (400 + Z.1.2.1) pr L n ∧ h.2.1 ≤ e + n ∧ h.2.2 ≤ w + 2 * n) ∧ (∀ q, q < 400 + Z.1.2.1 → ¬ mA b q → ¬ exS pr q → h.1 q = Z.1.1 q) ∧ Z.1.2.1 ≤ h.2.1 ∧ Z.1.2.2 ≤ h.2.2 ∧ 402 ≤ b ∧ b + 11 < 400 + Z.1.2.1
section MRS
variable {d b e w : Nat} {Z : mr_Z} {pr : Option Nat} {c : Nat → Int32} {L : List (Nat × Int32)} {X : mr_X} {h : ax_H}
theorem MR.le {e' w' : Nat} (R : MR b Z e w pr c L X h) (he : e ≤ e') (hw : w ≤ w') : MR b Z e' w' pr c L X h := by
  obtain ⟨a1, a2, a3, ⟨n, a4, a5, a6⟩, a7⟩ := R
  exact ⟨a1, a2, a3, ⟨n, a4, by omega, by omega⟩, a7⟩
theorem MR.g0 (R : MR b Z e w pr c L X h) : dx_gA [(29, 0)] (.ref b) h = some (.ref (b + 1)) := gA_r R.1 rfl rfl
theorem MR.g1 (R : MR b Z e w pr c L X h) : dx_gA [(29, 1)] (.ref b) h = some (.ref (b + 2)) := gA_r R.1 rfl rfl
theorem MR.g2 (R : MR b Z e w pr c L X h) : dx_gA [(29, 2)] (.ref b) h = some (.ref (b + 3)) := gA_r R.1 rfl rfl
theorem MR.g7 (R : MR b Z e w pr c L X h) : dx_gA [(29, 7)] (.ref b) h = some (.ref (b + 7)) := gA_r R.1 rfl rfl
theorem MR.g8 (R : MR b Z e w pr c L X h) : dx_gA [(29, 8)] (.ref b) h = some (.ref (b + 8)) := gA_r R.1 rfl rfl
theorem MR.g9 (R : MR b Z e w pr c L X h) : dx_gI [(29, 9)] (.ref b) h = some (Int32.ofNat X.1) := gI_at R.1 rfl rfl
theorem MR.vn (R : MR b Z e w pr c L X h) (k : Nat) : dx_vn [(29, k)] (.ref b) h = some k := vn_at R.1
theorem MR.rd (R : MR b Z e w pr c L X h) (i : Int32) : dx_lI 0 (.ref (b + 1)) i h = (ix 621 i).bind fun k => some (c k) := lI_at R.2.1
/-- a place that is read -/
theorem MR.rdn (R : MR b Z e w pr c L X h) {i : Int32} {k : Nat} (hi : i = Int32.ofNat k) (hk : k < 621) : dx_lI 0 (.ref (b + 1)) i h = some (c k) := by
  rw [R.rd, ix_of hi hk (by omega), Option.bind_some]
theorem MR.mA_ge (R : MR b Z e w pr c L X h) {q : Nat} (hq : mA b q) : 402 ≤ q ∧ q < 400 + Z.1.2.1 := by
  obtain ⟨-, -, -, -, -, -, -, a, a'⟩ := R
  rcases hq with z | z | z <;> omega
theorem MR.ex_ge (R : MR b Z e w pr c L X h) {q : Nat} (hq : exS pr q) : b + 12 ≤ q := by
  obtain ⟨st, rfl, z⟩ := hq
  obtain ⟨-, -, -, ⟨n, ⟨a, -⟩, -⟩, -⟩ := R
  omega
theorem MR.old (R : MR b Z e w pr c L X h) (o : OLD Z.1) : OLD h := o.mono fun q hq => R.2.2.2.2.1 q (by have := R.2.2.2.2.2.2.2.2; omega) (fun z => by have := (R.mA_ge z).1; omega) (fun z => by have := R.ex_ge z; have := R.2.2.2.2.2.2.2.1; omega)
/-- cells, drafts and all else where the step's own things change alone -/
theorem MR.jp {h' : ax_H} {L' : List (Nat × Int32)} {n' : Nat} (R : MR b Z e w pr c L X h) (hJ : JP h' b (400 + Z.1.2.1) pr L' n') (h1 : h'.2.1 ≤ e + n') (h2 : h'.2.2 ≤ w + 2 * n') (hh : ∀ q, q < 400 + Z.1.2.1 → ¬ exS pr q → h'.1 q = h.1 q) (h3 : h.2.1 ≤ h'.2.1) (h4 : h.2.2 ≤ h'.2.2) : MR b Z e w pr c L' X h' := by
  have ex := fun q (hq : q < b + 12) => fun z => Nat.lt_irrefl _ (Nat.lt_of_lt_of_le hq (R.ex_ge (q := q) z))
  obtain ⟨a1, a2, ⟨a3, ⟨g, a4, a5⟩, a6, a7⟩, -, a9, a10, a11, a12, a13⟩ := R
  exact ⟨(hh b (by omega) (ex _ (by omega))).trans a1, (hh _ (by omega) (ex _ (by omega))).trans a2, ⟨(hh _ (by omega) (ex _ (by omega))).trans a3, ⟨g, (hh _ (by omega) (ex _ (by omega))).trans a4, a5⟩, fun k hk => (hh _ (by omega) (ex _ (by omega))).trans (a6 k hk), a7⟩, ⟨n', hJ, h1, h2⟩, fun q hq hA hE => (hh q hq hE).trans (a9 q hq hA hE), by omega, by omega, a12, a13⟩
theorem row_fin {K : ax_K} {st row n : Nat} {L : List (Nat × Int32)} {f : Nat → Int32} {p : Nat} {v : Int32} {h : ax_H} (h4 : 400 ≤ st) (hr4 : 400 ≤ row) (e1 : h.1 st = .inr (31, [.ref row, .int (Int32.ofNat (2 * L.length))])) (e2 : h.1 row = .inl (0, n, .inl f)) (hn : 2 * L.length + 2 ≤ n) (hn2 : n ≤ 5000) : Ok (B_X21_note_40 K st (Int32.ofNat p) v h) (.inl none) (fun h' => h'.1 st = .inr (31, [.ref row, .int (Int32.ofNat (2 * (L ++ [(p, v)]).length))]) ∧ h'.1 row = .inl (0, n, .inl (upd (upd f (2 * L.length) (Int32.ofNat p)) (2 * L.length + 1) v)) ∧ Ex (fun q => q = st ∨ q = row) h h') := by
  have sr : st ≠ row := by
    intro z
    rw [z, e2] at e1
    cases e1
  refine Ok.le b_X21_note_40 ?_
  rw [gA_r e1 rfl rfl, Option.bind_some, gI_at e1 rfl rfl, Option.bind_some, sI_at e2 hr4, ix_of rfl (show 2 * L.length < n by omega) (by omega), Option.bind_some, Option.bind_some, gA_r ((set_ne _ sr).trans e1) rfl rfl, Option.bind_some, gI_at ((set_ne _ sr).trans e1) rfl rfl, Option.bind_some, show Int32.ofNat (2 * L.length) + 1 = Int32.ofNat (2 * L.length + 1) from i_add _ 1, sI_at (set_eq _) hr4, ix_of rfl (show 2 * L.length + 1 < n by omega) (by omega), Option.bind_some, Option.bind_some, gI_at ((set_ne _ sr).trans ((set_ne _ sr).trans e1)) rfl rfl, Option.bind_some, pF_int ((set_ne _ sr).trans ((set_ne _ sr).trans e1)) rfl (Nat.le_of_ble_eq_true rfl) h4, Option.bind_some]
  refine Ok.ret ⟨(set_eq _).trans ?_, (set_ne _ (Ne.symm sr)).trans (set_eq _), (Ex.set (Or.inr rfl)).tr ((Ex.set (Or.inr rfl)).tr (Ex.set (Or.inl rfl)))⟩
  rw [List.length_append, show 2 * (L.length + [(p, v)].length) = 2 * L.length + 2 from rfl, ← i_add]
  rfl
theorem row_app {L : List (Nat × Int32)} {f : Nat → Int32} {p : Nat} {v : Int32} (hp : p < 621) (hL : ∀ (i : Nat) (q : Nat × Int32), L[i]? = some q → f (2 * i) = Int32.ofNat q.1 ∧ f (2 * i + 1) = q.2 ∧ q.1 < 621) : ∀ (i : Nat) (q : Nat × Int32), (L ++ [(p, v)])[i]? = some q → (upd (upd f (2 * L.length) (Int32.ofNat p)) (2 * L.length + 1) v) (2 * i) = Int32.ofNat q.1 ∧ (upd (upd f (2 * L.length) (Int32.ofNat p)) (2 * L.length + 1) v) (2 * i + 1) = q.2 ∧ q.1 < 621 := by
  intro i q hi
  simp only [upd_at]
  rcases Nat.lt_trichotomy i L.length with z | z | z
  · rw [List.getElem?_append_left z] at hi
    have := hL i q hi
    rw [if_neg (by omega), if_neg (by omega), if_neg (by omega), if_neg (by omega)]
    exact this
  · rw [z, List.getElem?_append_right (Nat.le_refl _), Nat.sub_self] at hi
    have hi : some (p, v) = some q := hi
    cases hi
    rw [z, if_neg (by omega), if_pos rfl, if_pos rfl]
    exact ⟨rfl, rfl, hp⟩
  · rw [List.getElem?_append_right (by omega)] at hi
    have : i - L.length ≠ 0 := by omega
    obtain ⟨m, hm⟩ : ∃ m, i - L.length = m + 1 := ⟨i - L.length - 1, by omega⟩
    rw [hm] at hi
    cases hi
/-- a note in a step's row -/
theorem c_note (hd : 1 ≤ d) {st row n : Nat} {f : Nat → Int32} (h4 : 400 ≤ st) (hs : st < 400 + h.2.1) (hr4 : 400 ≤ row) (hr : row < 400 + h.2.1) (e1 : h.1 st = .inr (31, [.ref row, .int (Int32.ofNat (2 * L.length))])) (e2 : h.1 row = .inl (0, n, .inl f)) (h1 : 2 * L.length ≤ n) (h16 : 16 ≤ n ∧ n % 2 = 0) (h2 : n ≤ 16 + 4 * L.length) (hL : L.length ≤ 200) (hLf : ∀ (i : Nat) (q : Nat × Int32), L[i]? = some q → f (2 * i) = Int32.ofNat q.1 ∧ f (2 * i + 1) = q.2 ∧ q.1 < 621) (p : Nat) (v : Int32) (hp : p < 621) :
    Ok (ax_c d 359 [.ref st, .int (Int32.ofNat p), .int v] h) (.inl none) (fun h' => ∃ (row' n' : Nat) (f' : Nat → Int32), h'.1 st = .inr (31, [.ref row', .int (Int32.ofNat (2 * (L ++ [(p, v)]).length))]) ∧ h'.1 row' = .inl (0, n', .inl f') ∧ (row' = row ∨ 400 + h.2.1 ≤ row') ∧ row' < 400 + h'.2.1 ∧ 2 * L.length + 2 ≤ n' ∧ (16 ≤ n' ∧ n' % 2 = 0) ∧ n' ≤ 16 + 4 * (L.length + 1) ∧ (∀ (i : Nat) (q : Nat × Int32), (L ++ [(p, v)])[i]? = some q → f' (2 * i) = Int32.ofNat q.1 ∧ f' (2 * i + 1) = q.2 ∧ q.1 < 621) ∧ h.2.1 ≤ h'.2.1 ∧ h.2.2 ≤ h'.2.2 ∧ h'.2.1 + n ≤ h.2.1 + n' ∧ h'.2.2 + 2 * n ≤ h.2.2 + 2 * n' ∧ ∀ q, q < 400 + h.2.1 → q ≠ st → q ≠ row → h'.1 q = h.1 q) := by
  have sr : st ≠ row := by
    intro z
    rw [z, e2] at e1
    cases e1
  obtain ⟨d, rfl, -⟩ := d_succ hd
  refine Ok.le m_X21_note ?_
  rw [gI_at e1 rfl rfl, Option.bind_some, gA_r e1 rfl rfl, Option.bind_some, len_at e2, Option.bind_some]
  by_cases q : 2 * L.length = n
  · rw [if_neg (fun z => z (by rw [q])), Option.bind_some, show (2 : Int32) * Int32.ofNat (2 * L.length) = Int32.ofNat (2 * (2 * L.length)) from i_mul 2 _, na_at rfl (by omega)]
    have sn : st ≠ 400 + h.2.1 := by omega
    have rn : row ≠ 400 + h.2.1 := by omega
    have eb : (ax_new h (.inl (0, 2 * (2 * L.length), ax_dat 0)) (2 * (2 * L.length))).1 (400 + h.2.1) = .inl (0, 2 * (2 * L.length), .inl fun _ => 0) := new_eq _ _
    rw [gA_r ((new_ne _ _ sn).trans e1) rfl rfl, Option.bind_some, gI_at ((new_ne _ _ sn).trans e1) rfl rfl, Option.bind_some, acpI_at (f := f) (g := fun _ => 0) (s := 0) (d := 0) (k := 2 * L.length) (sp := 0) (dp := 0) ((new_ne _ _ rn).trans e2) eb (by omega) rfl rfl rfl (by omega) (by omega) (by omega) (by omega), Option.bind_some, pF_aref ((set_ne _ sn).trans ((new_ne _ _ sn).trans e1)) rfl (Nat.le_of_ble_eq_true rfl) h4, Option.bind_some]
    refine (row_fin (n := 2 * (2 * L.length)) (p := p) (v := v) h4 (show 400 ≤ 400 + h.2.1 by omega) (set_eq _) ((set_ne _ (Ne.symm sn)).trans (set_eq _)) (by omega) (by omega)).imp ?_
    rintro h' ⟨x1, x2, x3, x4⟩
    refine ⟨400 + h.2.1, _, _, x1, x2, Or.inr (Nat.le_refl _), by rw [x3]; show 400 + h.2.1 < 400 + (h.2.1 + 1); omega, by omega, by omega, by omega, row_app hp ?_, by rw [x3]; show h.2.1 ≤ h.2.1 + 1; omega, by rw [x3]; show h.2.2 ≤ h.2.2 + _; omega, by rw [x3]; show h.2.1 + 1 + n ≤ _; omega, by rw [x3]; show h.2.2 + _ + 2 * n ≤ _; omega, fun r hr hr1 hr2 => (x4 r (fun z => z.elim hr1 (fun z => by omega))).trans ((set_ne _ hr1).trans ((set_ne _ (by omega)).trans (new_ne _ _ (by omega))))⟩
    intro i w hi
    have hl : i < L.length := by
      rcases Nat.lt_or_ge i L.length with z | z
      · exact z
      · rw [List.getElem?_eq_none z] at hi; cases hi
    have := hLf i w hi
    refine ⟨?_, ?_, this.2.2⟩
    · show (if 0 ≤ 2 * i ∧ 2 * i < 0 + 2 * L.length then f (0 + (2 * i - 0)) else 0) = _
      rw [if_pos (by omega), Nat.zero_add, Nat.sub_zero]
      exact this.1
    · show (if 0 ≤ 2 * i + 1 ∧ 2 * i + 1 < 0 + 2 * L.length then f (0 + (2 * i + 1 - 0)) else 0) = _
      rw [if_pos (by omega), Nat.zero_add, Nat.sub_zero]
      exact this.2.1
  · rw [if_pos (fun z => q ((i_eq (by omega) (by omega)).mp z))]
    refine (row_fin (p := p) (v := v) h4 hr4 e1 e2 (by omega) (by omega)).imp ?_
    rintro h' ⟨x1, x2, x3, x4⟩
    exact ⟨row, n, _, x1, x2, Or.inl rfl, by rw [x3]; exact hr, by omega, by omega, by omega, row_app hp hLf, by rw [x3]; omega, by rw [x3]; omega, by rw [x3]; omega, by rw [x3]; omega, fun r hr hr1 hr2 => x4 r (fun z => z.elim hr1 hr2)⟩
theorem c_set (hd : 2 ≤ d) (R : MR b Z e w pr c L X h) (hL : L.length ≤ 200) {p : Nat} {i : Int32} (hi : i = Int32.ofNat p) (hp : p < 621) (v : Int32) : Ok (ax_c d 320 [.ref b, .int i, .int v] h) (.inl none) (MR b Z e w pr (upd c p v) (L ++ [(p, c p)]) X) := by
  subst hi
  obtain ⟨d, rfl, he⟩ := d_succ hd
  refine Ok.le m_X2_set ?_
  have b4 : 402 ≤ b ∧ b + 11 < 400 + Z.1.2.1 := ⟨R.2.2.2.2.2.2.2.1, R.2.2.2.2.2.2.2.2⟩
  have wr : ∀ (h1 : ax_H) (L1 : List (Nat × Int32)), MR b Z e w pr c L1 X h1 → MR b Z e w pr (upd c p v) L1 X (ax_set h1 (b + 1) (.inl (0, 621, .inl (upd c p v)))) := by
    rintro h1 L1 ⟨a1, a2, ⟨a3, ⟨g, a4, a5⟩, a6, a7⟩, ⟨n, a8, a81, a82⟩, a9, a10, a11, a12, a13⟩
    refine ⟨(set_ne _ (by omega)).trans a1, set_eq _, ⟨(set_ne _ (by omega)).trans a3, ⟨g, (set_ne _ (by omega)).trans a4, a5⟩, fun k hk => (set_ne _ (by omega)).trans (a6 k hk), a7⟩, ⟨n, ?_, a81, a82⟩, fun q hq hA hE => (set_ne _ (fun z => hA (Or.inr (Or.inl z)))).trans (a9 q hq hA hE), a10, a11, a12, a13⟩
    cases pr with
    | none => exact a8
    | some st =>
      obtain ⟨j1, j2, row, f, j3, j4, j5, j6, j7⟩ := a8
      exact ⟨j1, j2, row, f, (set_ne _ (by omega)).trans j3, (set_ne _ (by omega)).trans j4, j5, j6, j7⟩
  cases pr with
  | none =>
    rw [gA_n R.1 rfl rfl, Option.bind_some, nul_null, R.g0, Option.bind_some, sI_at R.2.1 (by omega), ix_of rfl hp (by omega), Option.bind_some, Option.bind_some]
    have R2 : MR b Z e w none c (L ++ [(p, c p)]) X h := by
      obtain ⟨n, x1, x2, x3⟩ := R.2.2.2.1
      exact R.jp (n' := n) x1 x2 x3 (fun _ _ _ => rfl) (Nat.le_refl _) (Nat.le_refl _)
    exact Ok.ret (wr h _ R2)
  | some st =>
    obtain ⟨n, ⟨j1, ⟨j21, j2⟩, row, f, j3, j4, j5, j6, j7, j8, j9, j10⟩, x2, x3⟩ := R.2.2.2.1
    rw [gA_r (p := st) R.1 rfl rfl, Option.bind_some, nul_ref, Option.bind_some, R.g0, Option.bind_some, R.rdn rfl hp, Option.bind_some, vn_at j3]
    show Ok (Option.bind (some 359) _) _ _
    rw [Option.bind_some]
    refine Ok.V (c_note he (by omega) j2 (by omega) j6 j3 j4 j7 j8 j9 hL j10 p (c p) hp) ?_
    rintro h1 ⟨row', n', f', y1, y2, y3, y4, y5, y6, y7, y8, y9, y10, y11, y12, y13⟩
    have hlen : (L ++ [(p, c p)]).length = L.length + 1 := by rw [List.length_append]; rfl
    have R2 : MR b Z e w (some st) c (L ++ [(p, c p)]) X h1 := R.jp (n' := n') ⟨j1, by omega, row', f', y1, y2, (by have := R.2.2.2.2.2.1; omega), y4, by rw [hlen]; omega, y6, by rw [hlen]; omega, y8⟩ (by omega) (by omega) (fun q hq hE => y13 q (by have := R.2.2.2.2.2.1; omega) (fun z => hE ⟨st, rfl, Or.inl z⟩) (fun z => j5.elim (fun y => hE ⟨st, rfl, Or.inr (z.trans y)⟩) (fun y => by omega))) y9 y10
    rw [R2.g0, Option.bind_some, sI_at R2.2.1 (by omega), ix_of rfl hp (by omega), Option.bind_some, Option.bind_some]
    exact Ok.ret (wr h1 _ R2)
end MRS
