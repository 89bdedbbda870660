/-! the twin goes through the lines: what it asks on the way -/
/- with lnD lnV TLW skT frT FRK FRK.len SKI MCK nxM wrdN plcN rg.nat i_lt i_eq i_ge_not -/
def lnN (l : lnD) : Nat → Int32
  | 0 => l.2.1
  | 1 => l.2.2.1
  | 2 => l.2.2.2.1
  | 3 => l.2.2.2.2.1
  | _ => l.2.2.2.2.2
/-- the frames as they lie in the rows -/
def TFr (s : Nat → Nat → Int32) : List frT → Prop
  | [] => True
  | (a, t, u, m) :: R => s 8 R.length = Int32.ofNat a ∧ s 9 R.length = Int32.ofNat t ∧ (R ≠ [] → s 10 R.length = Int32.ofNat u ∧ s 11 R.length = Int32.ofNat m) ∧ TFr s R
def TMC (mac : Nat → Option (Nat × Nat)) (s : Nat → Nat → Int32) : Prop := ∀ m, m < 5 → (mac m = none → s 6 m = -1) ∧ ∀ x y, mac m = some (x, y) → s 6 m = Int32.ofNat x ∧ s 7 m = Int32.ofNat y
def TSK (σ : skT) (s : Nat → Nat → Int32) : Prop := s 14 0 = Int32.ofNat σ.1.length - 1 ∧ TFr s σ.1 ∧ TMC σ.2.1 s ∧ s 15 0 = Int32.ofNat σ.2.2.1 ∧ (s 5 0 = Int32.ofNat (σ.2.2.2.1 0) ∧ s 5 1 = Int32.ofNat (σ.2.2.2.1 1)) ∧ s 16 0 = Int32.ofNat σ.2.2.2.2.1 ∧ s 17 0 = Int32.ofNat σ.2.2.2.2.2
def fmac : List frT → Nat → Nat
  | [], _ => 9
  | (_, _, _, m) :: R, k => if k = R.length then m else fmac R k
section TKS
variable {n a t u m k d j : Nat} {ls : Nat → lnD} {s s' : Nat → Nat → Int32} {h : ax_H} {R F : List frT} {mac : Nat → Option (Nat × Nat)} {i : Int32}
theorem TFr.cong : ∀ F, TFr s F → (∀ k, k < F.length → s' 8 k = s 8 k ∧ s' 9 k = s 9 k ∧ s' 10 k = s 10 k ∧ s' 11 k = s 11 k) → TFr s' F := by
  intro F
  induction F with
  | nil => intro _ _; trivial
  | cons f R ih =>
    obtain ⟨a, t, u, m⟩ := f
    rintro ⟨h1, h2, h3, h4⟩ e
    obtain ⟨e1, e2, e3, e4⟩ := e R.length (by rw [List.length_cons]; omega)
    exact ⟨e1.trans h1, e2.trans h2, fun z => ⟨e3.trans (h3 z).1, e4.trans (h3 z).2⟩, ih h4 fun k hk => e k (by rw [List.length_cons]; omega)⟩
theorem TFr.fmac : ∀ F, TFr s F → ∀ k, 0 < k → k < F.length → s 11 k = Int32.ofNat (fmac F k) := by
  intro F
  induction F with
  | nil => intro _ k _ h; exact absurd h (Nat.not_lt_zero _)
  | cons f R ih =>
    obtain ⟨a, t, u, m⟩ := f
    rintro ⟨h1, h2, h3, h4⟩ k h0 hk
    unfold Jvm.Pilot.X.fmac
    by_cases e : k = R.length
    · rw [if_pos e, e]
      exact (h3 (fun z => by rw [z] at e; exact absurd e (by show ¬ k = 0; omega))).2
    · rw [if_neg e]
      exact ih h4 k h0 (by rw [List.length_cons] at hk; omega)
theorem fmac_mem : ∀ F x, (∃ k, k < F.length ∧ fmac F k = x) ↔ ∃ f, f ∈ F ∧ f.2.2.2 = x := by
  intro F
  induction F with
  | nil => intro x; exact ⟨fun ⟨k, hk, _⟩ => absurd hk (Nat.not_lt_zero _), fun ⟨f, hf, _⟩ => absurd hf List.not_mem_nil⟩
  | cons f R ih =>
    obtain ⟨a, t, u, m⟩ := f
    intro x
    constructor
    · rintro ⟨k, hk, e⟩
      unfold fmac at e
      by_cases e1 : k = R.length
      · rw [if_pos e1] at e; exact ⟨_, List.mem_cons_self, e⟩
      · rw [if_neg e1] at e
        obtain ⟨f, f1, f2⟩ := (ih x).mp ⟨k, by rw [List.length_cons] at hk; omega, e⟩
        exact ⟨f, List.mem_cons_of_mem _ f1, f2⟩
    · rintro ⟨f, f1, f2⟩
      rcases List.mem_cons.mp f1 with z | z
      · refine ⟨R.length, by rw [List.length_cons]; omega, ?_⟩
        unfold fmac
        rw [if_pos rfl, ← f2, z]
      · obtain ⟨k, k1, k2⟩ := (ih x).mpr ⟨f, z, f2⟩
        refine ⟨k, by rw [List.length_cons]; omega, ?_⟩
        unfold fmac
        rw [if_neg (by omega), k2]
theorem FRK.fm0 : ∀ F us, FRK n mac us F → 0 < F.length → fmac F 0 = 5 := by
  intro F
  induction F with
  | nil => intro us _ h; exact absurd h (Nat.not_lt_zero _)
  | cons f R ih =>
    obtain ⟨a, t, u, m⟩ := f
    rintro us ⟨h1, h2, h3, h4⟩ _
    unfold fmac
    by_cases e : R = []
    · rw [if_pos e] at h3
      rw [e]; exact (if_pos rfl).trans h3.1
    · have : 0 < R.length := List.length_pos_iff.mpr e
      rw [if_neg (by omega)]
      exact ih us h4 this
theorem e5 (a j : Nat) : 5 * Int32.ofNat a + Int32.ofNat j = Int32.ofNat (5 * a + j) := (congrArg (· + Int32.ofNat j) (i_mul 5 a)).trans (i_add (5 * a) j)
theorem e50 (a : Nat) : 5 * Int32.ofNat a = Int32.ofNat (5 * a + 0) := i_mul 5 a
theorem tkind (T : TLW n ls s) (ha : a < n) : dx_lI 0 (.ref 418) (Int32.ofNat a) (tw_H h s) = some (Int32.ofNat (ls a).1) := by
  have := T.2.1
  rw [tl_2, ix_of rfl (show a < 100 by omega) (by omega), Option.bind_some, (T.2.2 a ha).1]
theorem tnum (T : TLW n ls s) (ha : a < n) (hj : j < 5) (hi : i = Int32.ofNat (5 * a + j)) : dx_lI 0 (.ref 419) i (tw_H h s) = some (lnN (ls a) j) := by
  have := T.2.1
  rw [tl_3, ix_of hi (show 5 * a + j < 500 by omega) (by omega), Option.bind_some]
  obtain ⟨a1, a2, a3, a4, a5, a6⟩ := T.2.2 a ha
  match j, hj with
  | 0, _ => exact congrArg some a2
  | 1, _ => exact congrArg some a3
  | 2, _ => exact congrArg some a4
  | 3, _ => exact congrArg some a5
  | 4, _ => exact congrArg some a6
theorem kqs : ∀ x, x ≤ 8 → (Int32.ofNat x = 0 ↔ x = 0) ∧ (Int32.ofNat x = 1 ↔ x = 1) ∧ (Int32.ofNat x = 2 ↔ x = 2) ∧ (Int32.ofNat x = 3 ↔ x = 3) ∧ (Int32.ofNat x = 4 ↔ x = 4) ∧ (Int32.ofNat x = 5 ↔ x = 5) ∧ (Int32.ofNat x = 6 ↔ x = 6) ∧ (Int32.ofNat x = 7 ↔ x = 7) ∧ (Int32.ofNat x = 8 ↔ x = 8) := by decide
theorem t_wordsOf (T : TLW n ls s) (V : lnV (ls a)) (ha : a < n) (hd : 1 ≤ d) : ax_c d 392 [.ref 417, .int (Int32.ofNat a)] (tw_H h s) = some (.inl (some (.int (Int32.ofNat (wrdN (ls a))))), tw_H h s) := by
  obtain ⟨d, rfl, -⟩ := d_succ hd
  refine dx_app m_X3_wordsOf ?_
  rw [tr_2, Option.bind_some, tkind T ha, Option.bind_some]
  unfold wrdN
  have k8 := V.1
  obtain ⟨c0, c1, c2, c3, c4, c5, c6, c7, c8⟩ := kqs _ k8
  by_cases q2 : (ls a).1 = 2
  · rw [if_neg (fun z => z (c2.mpr q2)), if_pos q2]; rfl
  rw [if_pos (fun z => q2 (c2.mp z)), if_neg q2]
  by_cases q3 : (ls a).1 = 3
  · rw [if_neg (fun z => z (c3.mpr q3)), if_pos q3]; rfl
  rw [if_pos (fun z => q3 (c3.mp z)), if_neg q3]
  by_cases q4 : (ls a).1 = 4
  · rw [if_neg (fun z => z (c4.mpr q4)), if_pos q4, tr_3, Option.bind_some, tnum (j := 0) T ha (by omega) (e50 a), Option.bind_some]
    rw [← (rg.nat (V.2.2.2.2.2.1 q4)).2]
    rfl
  · rw [if_pos (fun z => q4 (c4.mp z)), if_neg q4]; rfl
theorem t_nextOf (T : TLW n ls s) (V : ∀ t, t < n → lnV (ls t)) (ha : a < n) (hd : 1 ≤ d) : ax_c d 394 [.ref 417, .int (Int32.ofNat a)] (tw_H h s) = some (.inl (some (.int (match nxM ls (n - (a + 1)) (a + 1) with | none => -1 | some e => Int32.ofNat e))), tw_H h s) := by
  obtain ⟨d, rfl, -⟩ := d_succ hd
  refine dx_app m_X3_nextOf ?_
  have n1 := T.2.1
  rw [lt_at, show Int32.ofNat a + 1 = Int32.ofNat (a + 1) from i_add a 1]
  have loop : ∀ f k, k + f = n → B_X3_nextOf_4 (ax_c d) 417 (Int32.ofNat k) (tw_H h s) = some (.inl (some (.int (match nxM ls f k with | none => -1 | some e => Int32.ofNat e))), tw_H h s) := by
    intro f
    induction f with
    | zero =>
      intro k hk
      refine dx_app b_X3_nextOf_4 ?_
      rw [tg_1, Option.bind_some, T.1, if_pos ((i_le (by omega) (by omega)).mpr (by omega))]
      rfl
    | succ f ih =>
      intro k hk
      refine dx_app b_X3_nextOf_4 ?_
      have k8 := (V k (by omega)).1
      obtain ⟨c0, c1, c2, c3, c4, c5, c6, c7, c8⟩ := kqs _ k8
      rw [tg_1, Option.bind_some, T.1, if_neg (i_ge_not (by omega) (by omega)), tr_2, Option.bind_some, tkind T (by omega), Option.bind_some]
      by_cases q : (ls k).1 = 7 ∨ (ls k).1 = 6
      · rw [show nxM ls (f + 1) k = some k from if_pos q]
        by_cases q7 : (ls k).1 = 7
        · rw [if_pos (c7.mpr q7)]
        · rw [if_neg (fun z => q7 (c7.mp z)), Option.bind_some, tkind T (by omega), Option.bind_some, if_neg (fun z => z (c6.mpr (q.resolve_left q7)))]
      · rw [show nxM ls (f + 1) k = nxM ls f (k + 1) from if_neg q, if_neg (fun z => q (Or.inl (c7.mp z))), Option.bind_some, tkind T (by omega), Option.bind_some, if_pos (fun z => q (Or.inr (c6.mp z))), lt_at, show Int32.ofNat k + 1 = Int32.ofNat (k + 1) from i_add k 1]
        exact ih (k + 1) (by omega)
  exact loop (n - (a + 1)) (a + 1) (by omega)
theorem t_isGone (K : s 14 0 = Int32.ofNat (F.length - 1)) (hF : 0 < F.length) (hF6 : F.length ≤ 6) (Tf : TFr s F) (h0 : fmac F 0 = 5) (h5 : ∀ k, k < F.length → fmac F k ≤ 5) (hm : m < 5) (hd : 1 ≤ d) : ax_c d 396 [.ref 417, .int (Int32.ofNat m)] (tw_H h s) = some (.inl (some (.int (if (∃ f, f ∈ F ∧ f.2.2.2 = m) then 1 else 0))), tw_H h s) := by
  obtain ⟨d, rfl, -⟩ := d_succ hd
  refine dx_app m_X3_isGoneThrough ?_
  have loop : ∀ r k, 0 < k → k + r = F.length → (∀ j, j < k → fmac F j ≠ m) → B_X3_isGoneThrough_2 (ax_c d) 417 (Int32.ofNat m) (Int32.ofNat k) (tw_H h s) = some (.inl (some (.int (if (∃ f, f ∈ F ∧ f.2.2.2 = m) then 1 else 0))), tw_H h s) := by
    intro r
    induction r with
    | zero =>
      intro k h0 hk hj
      refine dx_app b_X3_isGoneThrough_2 ?_
      rw [tg_14, Option.bind_some, K, if_pos ((i_lt (by omega) (by omega)).mpr (by omega)), if_neg (fun z => by
        obtain ⟨j, j1, j2⟩ := (fmac_mem F m).mpr z
        exact hj j (by omega) j2)]
    | succ r ih =>
      intro k h0 hk hj
      refine dx_app b_X3_isGoneThrough_2 ?_
      rw [tg_14, Option.bind_some, K, if_neg (fun z => by have := (i_lt (by omega) (by omega)).mp z; omega), tr_11, Option.bind_some, tl_11, ix_of rfl (show k < 6 by omega) (by omega), Option.bind_some, Option.bind_some, Tf.fmac F k h0 (by omega)]
      have := h5 k (by omega)
      by_cases e : fmac F k = m
      · rw [if_neg (fun z => z (by rw [e])), if_pos ((fmac_mem F m).mp ⟨k, by omega, e⟩)]
      · rw [if_pos (fun z => e ((i_eq (by omega) (by omega)).mp z)), lt_at, show Int32.ofNat k + 1 = Int32.ofNat (k + 1) from i_add k 1]
        refine ih (k + 1) (by omega) (by omega) fun j hj2 => ?_
        by_cases z : j = k
        · rw [z]; exact e
        · exact hj j (by omega)
  exact loop (F.length - 1) 1 (by omega) (by omega) fun j hj => by
    obtain rfl : j = 0 := by omega
    omega
theorem FRK.le5 : ∀ F us, FRK n mac us F → ∀ k, k < F.length → Jvm.Pilot.X.fmac F k ≤ 5 := by
  intro F us H k hk
  obtain ⟨a, b⟩ := FRK.nod F H
  obtain ⟨f, f1, f2⟩ := (fmac_mem F _).mp ⟨k, hk, rfl⟩
  have := b (Jvm.Pilot.X.fmac F k) (List.mem_map.mpr ⟨f, f1, f2⟩)
  omega
end TKS
