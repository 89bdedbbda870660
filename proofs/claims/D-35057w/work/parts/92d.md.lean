/-! the class's machine: drafts of blocks -/
/-- n blocks are drafted, nb their rising numbers; W is the disk as it will be -/
def DS (c : ce_C) (X : mr_X) (n : Nat) (nb : Nat → Nat) (W : Nat → Int32) : Prop := X.1 = n ∧ n ≤ 3 ∧ (∀ k, k < n → X.2.1 k = Int32.ofNat (nb k) ∧ nb k < 32) ∧ (∀ i j, i < j → j < n → nb i < nb j) ∧ (∀ k, k < n → ∀ j, j < 8 → X.2.2.2 (X.2.2.1 k) j = W (8 * nb k + j)) ∧ ∀ p, p < 256 → (∀ k, k < n → p / 8 ≠ nb k) → W p = ds c p
section MSD
variable {d b e w : Nat} {Z : mr_Z} {pr : Option Nat} {c : Nat → Int32} {L : List (Nat × Int32)} {X : mr_X} {h : ax_H} {K : kk_K}
theorem MR.x {X' : mr_X} {h' : ax_H} (R : MR b Z e w pr c L X h) (hX : DX b X' h') (hb : h'.1 b = .inr (29, mo_fs b Z pr X'.1)) (hc : h'.1 (b + 1) = h.1 (b + 1)) (ho : ∀ q, ¬ mA b q → h'.1 q = h.1 q) (hs : h'.2 = h.2) : MR b Z e w pr c L X' h' := by
  obtain ⟨a1, a2, a3, ⟨n, a4, a5, a6⟩, a9, a10, a11, a12, a13⟩ := R
  refine ⟨hb, hc.trans a2, hX, ⟨n, ?_, by rw [hs]; exact a5, by rw [hs]; exact a6⟩, fun q hq hA hE => (ho q hA).trans (a9 q hq hA hE), by rw [hs]; exact a10, by rw [hs]; exact a11, a12, a13⟩
  cases pr with
  | none => exact a4
  | some st =>
    obtain ⟨j1, j2, row, f, j3, j4, j5, j6, j7⟩ := a4
    have nm : ∀ q, b + 12 ≤ q → ¬ mA b q := fun q hq z => by rcases z with z | z | z <;> omega
    exact ⟨j1, by rw [hs]; exact j2, row, f, (ho _ (nm _ j1)).trans j3, (ho _ (nm _ (by omega))).trans j4, j5, by rw [hs]; exact j6, j7⟩
theorem mA_out {b q : Nat} (h : ¬ mA b q) : q ≠ b ∧ q ≠ b + 1 ∧ ¬ (b + 7 ≤ q ∧ q ≤ b + 11) := ⟨fun z => h (Or.inl z), fun z => h (Or.inr (Or.inl z)), fun z => h (Or.inr (Or.inr z))⟩
theorem lA5 {h : ax_H} {a n : Nat} {f : Nat → Option Nat} {i : Int32} {k p : Nat} (ha : h.1 a = .inl (5, n, objs f)) (hi : i = Int32.ofNat k) (hk : k < n) (hn : n < 2 ^ 31) (hf : f k = some p) : dx_lA 5 (.ref a) i h = some (.ref p) := by
  rw [lA_at ha, ix_of hi hk (by omega), Option.bind_some, hf]
  rfl
theorem sR_at {h : ax_H} {a n x m k : Nat} {f : Nat → Option Nat} {y : _} {i : Int32} (ha : h.1 a = .inl (5, n, objs f)) (h4 : 400 ≤ a) (hx4 : 400 ≤ x) (hx : h.1 x = .inl (0, m, y)) (hi : i = Int32.ofNat k) (hk : k < n) (hn : n < 2 ^ 31) : dx_sR (.ref a) i (.ref x) h = some (ax_set h a (.inl (5, n, objs (va_up f k (some x))))) := by
  show (if a < 400 ∨ x < 400 then none else (match h.1 x with
    | .inl (0, _) => (ax_rs 5 i (some x) (h.1 a)).bind fun c => some (ax_set h a c)
    | _ => none)) = _
  rw [if_neg (by omega), hx]
  show (ax_rs 5 i (some x) (h.1 a)).bind _ = _
  rw [ha]
  show (Option.bind (if 5 = 5 then (if i < 0 ∨ n ≤ i.toNatClampNeg then none else some _) else none) _) = _
  subst hi
  rw [if_pos rfl, if_neg (by rw [i_nat (by omega)]; intro z; rcases z with z | z; · exact i_neg (by omega) z
                             · omega), i_nat (by omega)]
  rfl
/-- where a draft comes from when one is put in at pl -/
def sg (n pl j : Nat) : Nat := if j < pl then j else if j = pl then n else if j ≤ n then j - 1 else j
theorem sg_lt {n pl j : Nat} (hp : pl ≤ n) (hn : n < 3) (hj : j < 3) : sg n pl j < 3 := by unfold sg; split <;> (try split) <;> (try split) <;> omega
theorem sg_inj {n pl i j : Nat} (hp : pl ≤ n) (hij : i < j) : sg n pl i ≠ sg n pl j := by unfold sg; (repeat' split) <;> omega
theorem DX.inj {X : mr_X} (D : DX b X h) {i j : Nat} (hi : i < 3) (hj : j < 3) (hij : i ≠ j) : X.2.2.1 i ≠ X.2.2.1 j := by
  rcases Nat.lt_or_ge i j with z | z
  · exact D.2.2.2.2 i j z hj
  · exact Ne.symm (D.2.2.2.2 j i (by omega) hi)
/-- a word of a drafted row is written -/
theorem ds_store (R : MR b Z e w pr c L X h) {n k j : Nat} {nb : Nat → Nat} {W : Nat → Int32} (D : DS c X n nb W) (hk : k < n) (hj : j < 8) (v : Int32) {i : Int32} (hi : i = Int32.ofNat j) : ∃ X' h', dx_sI 0 (.ref (b + 9 + X.2.2.1 k)) i v h = some h' ∧ MR b Z e w pr c L X' h' ∧ DS c X' n nb (upd W (8 * nb k + j) v) ∧ X'.2.2.1 = X.2.2.1 := by
  obtain ⟨d1, d2, d3, d4, d5, d6⟩ := D
  have b4 := R.2.2.2.2.2.2.2
  have DXX := R.2.2.1
  obtain ⟨x1, ⟨g, x2, x3⟩, x4, x5, x6⟩ := id DXX
  have hp := x5 k (by omega)
  refine ⟨(X.1, X.2.1, X.2.2.1, fun q => if q = X.2.2.1 k then upd (X.2.2.2 q) j v else X.2.2.2 q), ax_set h (b + 9 + X.2.2.1 k) (.inl (0, 8, .inl (upd (X.2.2.2 (X.2.2.1 k)) j v))), ?_, ?_, ?_, rfl⟩
  · rw [sI_at (x4 _ hp) (by omega), ix_of hi hj (by omega), Option.bind_some]
  · refine R.x ⟨(set_ne _ (by omega)).trans x1, ⟨g, (set_ne _ (by omega)).trans x2, x3⟩, fun q hq => ?_, x5, x6⟩ ((set_ne _ (by omega)).trans R.1) (set_ne _ (by omega)) (fun q hq => set_ne _ (by have := mA_out hq; omega)) rfl
    by_cases z : q = X.2.2.1 k
    · rw [z]
      refine (set_eq _).trans ?_
      show _ = (Sum.inl (0, 8, .inl (if X.2.2.1 k = X.2.2.1 k then upd (X.2.2.2 (X.2.2.1 k)) j v else _)) : ax_C)
      rw [if_pos rfl]
    · refine (set_ne _ (by omega)).trans ((x4 q hq).trans ?_)
      show _ = (Sum.inl (0, 8, .inl (if q = X.2.2.1 k then _ else X.2.2.2 q)) : ax_C)
      rw [if_neg z]
  · refine ⟨d1, d2, d3, d4, fun k' hk' j' hj' => ?_, fun p hp hh => ?_⟩
    · show (if X.2.2.1 k' = X.2.2.1 k then upd (X.2.2.2 (X.2.2.1 k')) j v else X.2.2.2 (X.2.2.1 k')) j' = (if 8 * nb k' + j' = 8 * nb k + j then v else W (8 * nb k' + j'))
      by_cases z : k' = k
      · subst z
        rw [if_pos rfl]
        show (if j' = j then v else X.2.2.2 (X.2.2.1 k') j') = _
        by_cases z2 : j' = j
        · rw [if_pos z2, if_pos (by omega)]
        · rw [if_neg z2, if_neg (by omega)]
          exact d5 k' hk' j' hj'
      · have hne : nb k' ≠ nb k := by
          rcases Nat.lt_or_ge k' k with y | y
          · have := d4 k' k y hk; omega
          · have := d4 k k' (by omega) hk'; omega
        rw [if_neg (DXX.inj (by omega) (by omega) z), if_neg (by omega)]
        exact d5 k' hk' j' hj'
    · show (if p = 8 * nb k + j then v else W p) = _
      rw [if_neg, d6 p hp hh]
      intro z
      exact hh k hk (by omega)
theorem c_draft (hd : 1 ≤ d) (R : MR b Z e w pr c L X h) {n blk : Nat} {nb : Nat → Nat} {W : Nat → Int32} (D : DS c X n nb W) (hb : blk < 32) (hn : n < 3 ∨ ∃ k, k < n ∧ nb k = blk) : ∃ (X' : mr_X) (n' k' : Nat) (nb' : Nat → Nat), Ok (ax_c d 339 [.ref b, .int (Int32.ofNat blk)] h) (.inl (some (.ref (b + 9 + X'.2.2.1 k')))) (MR b Z e w pr c L X') ∧ DS c X' n' nb' W ∧ k' < n' ∧ nb' k' = blk ∧ n' = n + (if ∃ k, k < n ∧ nb k = blk then 0 else 1) ∧ ∀ q, (∃ k, k < n' ∧ nb' k = q) ↔ ((∃ k, k < n ∧ nb k = q) ∨ q = blk) := by
  obtain ⟨d1, d2, d3, d4, d5, d6⟩ := id D
  have b4 := R.2.2.2.2.2.2.2
  obtain ⟨x1, ⟨g, x2, x3⟩, x4, x5, x6⟩ := id R.2.2.1
  obtain ⟨d, rfl, he⟩ := d_succ hd
  have rn : ∀ k, k < n → dx_lI 0 (.ref (b + 7)) (Int32.ofNat k) h = some (Int32.ofNat (nb k)) := fun k hk => by rw [lI_at x1, ix_of rfl (show k < 3 by omega) (by omega), Option.bind_some, (d3 k hk).1]
  -- the place
  obtain ⟨pl, hp1, hp2, hp3⟩ : ∃ pl, pl ≤ n ∧ (∀ k, k < pl → nb k < blk) ∧ (pl < n → blk ≤ nb pl) := by
    have : ∀ m k, k + m = n → (∀ j, j < k → nb j < blk) → ∃ pl, pl ≤ n ∧ (∀ k, k < pl → nb k < blk) ∧ (pl < n → blk ≤ nb pl) := by
      intro m
      induction m with
      | zero => intro k hk hh; exact ⟨k, by omega, hh, fun z => by omega⟩
      | succ m ih =>
        intro k hk hh
        by_cases q : nb k < blk
        · exact ih (k + 1) (by omega) fun j hj => by
            rcases Nat.lt_or_ge j k with z | z
            · exact hh j z
            · obtain rfl : j = k := by omega
              exact q
        · exact ⟨k, by omega, hh, fun _ => by omega⟩
    exact this n 0 (by omega) fun j hj => by omega
  have walk : ∀ (v : Option Value ⊕ Nat) (Q : ax_H → Prop), Ok (B_X2_draft_26 (ax_c d) b (Int32.ofNat blk) (Int32.ofNat pl) h) v Q → Ok (ax_c (d + 1) 339 [.ref b, .int (Int32.ofNat blk)] h) v Q := by
    intro v Q h26
    refine Ok.le m_X2_draft ?_
    have loop : ∀ m k, k + m = pl → Ok (B_X2_draft_2 (ax_c d) b (Int32.ofNat blk) (Int32.ofNat k) h) v Q := by
      intro m
      induction m with
      | zero =>
        intro k hk
        obtain rfl : k = pl := by omega
        refine Ok.le b_X2_draft_2 ?_
        rw [R.g9, Option.bind_some, d1]
        by_cases q : k < n
        · rw [if_neg (i_ge_not q (by omega)), R.g7, Option.bind_some, rn k q, Option.bind_some, if_pos ((i_le (by omega) (by have := (d3 k q).2; omega)).mpr (hp3 q))]
          exact h26
        · rw [if_pos ((i_le (by omega) (by omega)).mpr (by omega))]
          exact h26
      | succ m ih =>
        intro k hk
        refine Ok.le b_X2_draft_2 ?_
        rw [R.g9, Option.bind_some, d1, if_neg (i_ge_not (by omega) (by omega)), R.g7, Option.bind_some, rn k (by omega), Option.bind_some, if_neg (i_ge_not (hp2 k (by omega)) (by omega)), lt_at, show Int32.ofNat k + 1 = Int32.ofNat (k + 1) from i_add k 1]
        exact ih (k + 1) (by omega)
    exact loop pl 0 (by omega)
  by_cases hit : pl < n ∧ nb pl = blk
  · refine ⟨X, n, pl, nb, walk _ _ ?_, D, hit.1, hit.2, by rw [if_pos ⟨pl, hit⟩]; rfl, fun q => ⟨Or.inl, fun z => z.elim id fun z => ⟨pl, hit.1, hit.2.trans z.symm⟩⟩⟩
    refine Ok.le b_X2_draft_26 ?_
    rw [R.g9, Option.bind_some, d1, if_neg (fun z => by have := (i_eq (by omega) (by omega)).mp z; omega), R.g7, Option.bind_some, rn pl hit.1, Option.bind_some, if_pos (by rw [hit.2]), R.g8, Option.bind_some, lA5 x2 rfl (show pl < 3 by omega) (by omega) (x3 pl (by omega)), Option.bind_some]
    exact Ok.ret R
  · have no : ¬ ∃ k, k < n ∧ nb k = blk := by
      rintro ⟨k, k1, k2⟩
      rcases Nat.lt_trichotomy k pl with z | z | z
      · have := hp2 k z; omega
      · exact hit ⟨by omega, by rw [← z]; exact k2⟩
      · have := hp3 (by omega)
        have := d4 pl k z k1
        omega
    have n3 : n < 3 := hn.resolve_right no
    refine ⟨(n + 1, fun j => if j = pl then Int32.ofNat blk else X.2.1 (sg n pl j), fun j => X.2.2.1 (sg n pl j), fun q => if q = X.2.2.1 n then (fun j => if j < 8 then W (8 * blk + j) else X.2.2.2 q j) else X.2.2.2 q), n + 1, pl, insF nb pl blk, walk _ _ ?_, ?_, by omega, insF_eq, by rw [if_neg no], fun q => ?_⟩
    · have h44 : Ok (B_X2_draft_44 (ax_c d) b (Int32.ofNat blk) (Int32.ofNat pl) h) (.inl (some (.ref (b + 9 + X.2.2.1 (sg n pl pl))))) (MR b Z e w pr c L (n + 1, fun j => if j = pl then Int32.ofNat blk else X.2.1 (sg n pl j), fun j => X.2.2.1 (sg n pl j), fun q => if q = X.2.2.1 n then (fun j => if j < 8 then W (8 * blk + j) else X.2.2.2 q j) else X.2.2.2 q)) := by
        refine Ok.le b_X2_draft_44 ?_
        rw [R.g8, Option.bind_some, R.g9, Option.bind_some, d1, lA5 x2 rfl n3 (by omega) (x3 n n3), Option.bind_some, Option.bind_some]
        have sgp : sg n pl pl = n := by unfold sg; rw [if_neg (by omega), if_pos rfl]
        -- the shift
        have loop : ∀ m k : Nat, pl + m = k → k ≤ n → ∀ (h1 : ax_H) (g1 : Nat → Option Nat) (u1 : Nat → Int32), h1.1 b = h.1 b → h1.1 (b + 1) = h.1 (b + 1) → h1.1 (b + 7) = .inl (0, 3, .inl u1) → h1.1 (b + 8) = .inl (5, 3, objs g1) → (∀ q, q < 3 → h1.1 (b + 9 + q) = h.1 (b + 9 + q)) → (∀ q, ¬ mA b q → h1.1 q = h.1 q) → h1.2 = h.2 → (∀ j, u1 j = if k < j ∧ j ≤ n then X.2.1 (j - 1) else X.2.1 j) → (∀ j, j < 3 → g1 j = some (b + 9 + if k < j ∧ j ≤ n then X.2.2.1 (j - 1) else X.2.2.1 j)) → Ok (B_X2_draft_60 (ax_c d) b (Int32.ofNat blk) (Int32.ofNat pl) (.ref (b + 9 + X.2.2.1 n)) (Int32.ofNat k) h1) (.inl (some (.ref (b + 9 + X.2.2.1 (sg n pl pl))))) (MR b Z e w pr c L (n + 1, fun j => if j = pl then Int32.ofNat blk else X.2.1 (sg n pl j), fun j => X.2.2.1 (sg n pl j), fun q => if q = X.2.2.1 n then (fun j => if j < 8 then W (8 * blk + j) else X.2.2.2 q j) else X.2.2.2 q)) := by
          intro m
          induction m with
          | zero =>
            intro k hk hkn h1 g1 u1 y1 y2 y3 y4 y5 y6 y7 y8 y9
            obtain rfl : k = pl := by omega
            have pn := x5 n n3
            have gb := y1.trans R.1
            refine Ok.le (b_X2_draft_60 rfl) ?_
            rw [if_pos ((i_le (by omega) (by omega)).mpr (Nat.le_refl _)), gA_r (p := b + 7) gb rfl rfl, Option.bind_some, sI_at y3 (by omega), ix_of rfl (show k < 3 by omega) (by omega), Option.bind_some, Option.bind_some, gA_r (p := b + 8) ((set_ne _ (by omega)).trans gb) rfl rfl, Option.bind_some, sR_at (k := k) ((set_ne _ (by omega)).trans y4) (by omega) (by omega) ((set_ne _ (by omega)).trans ((y5 _ pn).trans (x4 _ pn))) rfl (by omega) (by omega), Option.bind_some, gA_r (p := b + 1) ((set_ne _ (by omega)).trans ((set_ne _ (by omega)).trans gb)) rfl rfl, Option.bind_some,
              acpI_at (s := 365 + 8 * blk) (d := 0) (k := 8) (dp := 0) (kk := 8) ((set_ne _ (by omega)).trans ((set_ne _ (by omega)).trans (y2.trans R.2.1))) ((set_ne _ (by omega)).trans ((set_ne _ (by omega)).trans ((y5 _ pn).trans (x4 _ pn)))) (by omega) (by rw [show (8 : Int32) * Int32.ofNat blk = Int32.ofNat (8 * blk) from i_mul 8 blk]; exact i_add 365 _) rfl rfl (by omega) (by omega) (by omega) (by omega), Option.bind_some,
              gI_at ((set_ne _ (by omega)).trans ((set_ne _ (by omega)).trans ((set_ne _ (by omega)).trans gb))) rfl rfl, Option.bind_some, pF_int ((set_ne _ (by omega)).trans ((set_ne _ (by omega)).trans ((set_ne _ (by omega)).trans gb))) rfl (Nat.le_of_ble_eq_true rfl) (by omega), Option.bind_some, gA_r (p := b + 8) (set_eq _) rfl rfl, Option.bind_some, lA5 (p := b + 9 + X.2.2.1 n) ((set_ne _ (by omega)).trans ((set_ne _ (by omega)).trans (set_eq _))) rfl (show k < 3 by omega) (by omega) (if_pos rfl), Option.bind_some, sgp]
            refine Ok.ret (R.x ⟨?_, ⟨va_up g1 k (some (b + 9 + X.2.2.1 n)), (set_ne _ (by omega)).trans ((set_ne _ (by omega)).trans (set_eq _)), fun j hj => ?_⟩, fun q hq => ?_, fun j hj => x5 _ (sg_lt hp1 n3 hj), fun i j hij hj => ?_⟩ ?_ ((set_ne _ (by omega)).trans ((set_ne _ (by omega)).trans ((set_ne _ (by omega)).trans ((set_ne _ (by omega)).trans y2)))) (fun q hq => ?_) y7)
            · refine (set_ne _ (by omega)).trans ((set_ne _ (by omega)).trans ((set_ne _ (by omega)).trans ((set_eq _).trans ?_)))
              have : upd u1 k (Int32.ofNat blk) = fun j => if j = k then Int32.ofNat blk else X.2.1 (sg n k j) := by
                funext j
                show (if j = k then Int32.ofNat blk else u1 j) = _
                by_cases z : j = k
                · rw [if_pos z, if_pos z]
                · rw [if_neg z, if_neg z, y8 j]
                  unfold sg
                  by_cases z2 : j < k
                  · rw [if_neg (by omega), if_pos z2]
                  · rw [if_neg z2, if_neg z]
                    by_cases z3 : j ≤ n
                    · rw [if_pos (by omega), if_pos z3]
                    · rw [if_neg (by omega), if_neg z3]
              rw [this]
            · show (if j = k then some (b + 9 + X.2.2.1 n) else g1 j) = some (b + 9 + X.2.2.1 (sg n k j))
              by_cases z : j = k
              · rw [if_pos z, z, sgp]
              · rw [if_neg z, y9 j hj]
                unfold sg
                by_cases z2 : j < k
                · rw [if_neg (by omega), if_pos z2]
                · rw [if_neg z2, if_neg z]
                  by_cases z3 : j ≤ n
                  · rw [if_pos (by omega), if_pos z3]
                  · rw [if_neg (by omega), if_neg z3]
            · by_cases z : q = X.2.2.1 n
              · rw [z]
                refine (set_ne _ (by omega)).trans ((set_eq _).trans ?_)
                show _ = (Sum.inl (0, 8, .inl (if X.2.2.1 n = X.2.2.1 n then _ else _)) : ax_C)
                rw [if_pos rfl]
                have : va_cpy c (X.2.2.2 (X.2.2.1 n)) (365 + 8 * blk) 0 8 = fun j => if j < 8 then W (8 * blk + j) else X.2.2.2 (X.2.2.1 n) j := by
                  funext j
                  show (if 0 ≤ j ∧ j < 0 + 8 then c (365 + 8 * blk + (j - 0)) else X.2.2.2 (X.2.2.1 n) j) = _
                  by_cases z3 : j < 8
                  · rw [if_pos (by omega), if_pos z3, d6 (8 * blk + j) (by omega) (fun k' hk' z4 => no ⟨k', hk', by omega⟩), Nat.sub_zero, Nat.add_assoc]
                    rfl
                  · rw [if_neg (by omega), if_neg z3]
                rw [this]
              · refine (set_ne _ (by omega)).trans ((set_ne _ (by omega)).trans ((set_ne _ (by omega)).trans ((set_ne _ (by omega)).trans ((y5 q hq).trans ((x4 q hq).trans ?_)))))
                show _ = (Sum.inl (0, 8, .inl (if q = X.2.2.1 n then _ else X.2.2.2 q)) : ax_C)
                rw [if_neg z]
            · exact R.2.2.1.inj (sg_lt hp1 n3 (by omega)) (sg_lt hp1 n3 hj) (sg_inj hp1 hij)
            · refine (set_eq _).trans ?_
              rw [d1, show Int32.ofNat n + 1 = Int32.ofNat (n + 1) from i_add n 1]
              rfl
            · have hq' := mA_out hq
              exact (set_ne _ (by omega)).trans ((set_ne _ (by omega)).trans ((set_ne _ (by omega)).trans ((set_ne _ (by omega)).trans (y6 q hq))))
          | succ m ih =>
            intro k hk hkn h1 g1 u1 y1 y2 y3 y4 y5 y6 y7 y8 y9
            have gb := y1.trans R.1
            have pk := x5 (k - 1) (by omega)
            have gk : g1 (k - 1) = some (b + 9 + X.2.2.1 (k - 1)) := by rw [y9 (k - 1) (by omega), if_neg (by omega)]
            refine Ok.le (b_X2_draft_60 rfl) ?_
            rw [if_neg (i_ge_not (by omega) (by omega)), gA_r (p := b + 7) gb rfl rfl, Option.bind_some, Option.bind_some, show Int32.ofNat k - 1 = Int32.ofNat (k - 1) from i_sub (b := 1) (by omega), lI_at y3, ix_of rfl (show k - 1 < 3 by omega) (by omega), Option.bind_some, Option.bind_some, sI_at y3 (by omega), ix_of rfl (show k < 3 by omega) (by omega), Option.bind_some, Option.bind_some, gA_r (p := b + 8) ((set_ne _ (by omega)).trans gb) rfl rfl, Option.bind_some, Option.bind_some, lA5 ((set_ne _ (by omega)).trans y4) rfl (show k - 1 < 3 by omega) (by omega) gk, Option.bind_some, sR_at (k := k) ((set_ne _ (by omega)).trans y4) (by omega) (by omega) ((set_ne _ (by omega)).trans ((y5 _ pk).trans (x4 _ pk))) rfl (by omega) (by omega), Option.bind_some, lt_at, i_dec (by omega)]
            refine ih (k - 1) (by omega) (by omega) _ (va_up g1 k (some (b + 9 + X.2.2.1 (k - 1)))) (upd u1 k (u1 (k - 1))) ((set_ne _ (by omega)).trans ((set_ne _ (by omega)).trans y1)) ((set_ne _ (by omega)).trans ((set_ne _ (by omega)).trans y2)) ((set_ne _ (by omega)).trans (set_eq _)) (set_eq _) (fun q hq => (set_ne _ (by omega)).trans ((set_ne _ (by omega)).trans (y5 q hq))) (fun q hq => by
              have hq' := mA_out hq
              exact (set_ne _ (by omega)).trans ((set_ne _ (by omega)).trans (y6 q hq))) y7 (fun j => ?_) (fun j hj => ?_)
            · show (if j = k then u1 (k - 1) else u1 j) = _
              by_cases z : j = k
              · rw [if_pos z, y8, if_neg (by omega), if_pos (by omega), z]
              · rw [if_neg z, y8]
                by_cases z2 : k < j ∧ j ≤ n
                · rw [if_pos z2, if_pos (by omega)]
                · rw [if_neg z2, if_neg (by omega)]
            · show (if j = k then some (b + 9 + X.2.2.1 (k - 1)) else g1 j) = _
              by_cases z : j = k
              · rw [if_pos z, if_pos (by omega), z]
              · rw [if_neg z, y9 j hj]
                by_cases z2 : k < j ∧ j ≤ n
                · rw [if_pos z2, if_pos (by omega)]
                · rw [if_neg z2, if_neg (by omega)]
        exact loop (n - pl) n (by omega) (Nat.le_refl _) h g X.2.1 rfl rfl x1 x2 (fun _ _ => rfl) (fun _ _ => rfl) rfl (fun j => by rw [if_neg (by omega)]) (fun j hj => by rw [if_neg (by omega)]; exact x3 j hj)
      refine Ok.le b_X2_draft_26 ?_
      rw [R.g9, Option.bind_some, d1]
      by_cases q : pl < n
      · rw [if_neg (fun z => by have := (i_eq (by omega) (by omega)).mp z; omega), R.g7, Option.bind_some, rn pl q, Option.bind_some, if_neg (fun z => hit ⟨q, (i_eq (by have := (d3 pl q).2; omega) (by omega)).mp z⟩)]
        exact h44
      · rw [if_pos (by congr 1; omega)]
        exact h44
    · have si : ∀ k, k < n + 1 → k ≠ pl → sg n pl k < n ∧ insF nb pl blk k = nb (sg n pl k) := by
        intro k hk hne
        unfold sg insF
        by_cases z : k < pl
        · rw [if_pos z, if_pos z]
          exact ⟨by omega, rfl⟩
        · rw [if_neg z, if_neg z, if_neg hne, if_neg hne, if_pos (by omega)]
          exact ⟨by omega, rfl⟩
      refine ⟨rfl, by omega, fun k hk => ?_, fun i j hij hj => ?_, fun k hk j hj => ?_, fun p hp hh => ?_⟩
      · show (if k = pl then Int32.ofNat blk else X.2.1 (sg n pl k)) = _ ∧ _
        by_cases z : k = pl
        · rw [if_pos z, z, insF_eq]
          exact ⟨rfl, hb⟩
        · rw [if_neg z, (si k hk z).2]
          exact d3 _ (si k hk z).1
      · unfold insF
        by_cases z1 : i < pl
        · rw [if_pos z1]
          by_cases z2 : j < pl
          · rw [if_pos z2]; exact d4 i j hij (by omega)
          · rw [if_neg z2]
            by_cases z3 : j = pl
            · rw [if_pos z3]; exact hp2 i z1
            · rw [if_neg z3]
              rcases Nat.lt_or_ge i (j - 1) with z4 | z4
              · exact d4 i (j - 1) z4 (by omega)
              · omega
        · rw [if_neg z1]
          have hpl := hp3
          by_cases z3 : i = pl
          · rw [if_pos z3, if_neg (by omega), if_neg (by omega)]
            have h1 := hp3 (by omega)
            have h2 : nb pl ≠ blk := fun z => hit ⟨by omega, z⟩
            rcases Nat.lt_or_ge pl (j - 1) with z4 | z4
            · have := d4 pl (j - 1) z4 (by omega); omega
            · have : j - 1 = pl := by omega
              rw [this]; omega
          · rw [if_neg z3, if_neg (by omega), if_neg (by omega)]
            exact d4 (i - 1) (j - 1) (by omega) (by omega)
      · show (if X.2.2.1 (sg n pl k) = X.2.2.1 n then (fun j => if j < 8 then W (8 * blk + j) else X.2.2.2 (X.2.2.1 (sg n pl k)) j) else X.2.2.2 (X.2.2.1 (sg n pl k))) j = _
        by_cases z : k = pl
        · have sgp : sg n pl pl = n := by unfold sg; rw [if_neg (by omega), if_pos rfl]
          rw [z, sgp, if_pos rfl, insF_eq]
          show (if j < 8 then _ else _) = _
          rw [if_pos hj]
        · obtain ⟨s1, s2⟩ := si k hk z
          rw [if_neg (R.2.2.1.inj (by omega) n3 (by omega)), s2]
          exact d5 _ s1 j hj
      · refine d6 p hp fun k hk z => ?_
        rcases Nat.lt_or_ge k pl with y | y
        · exact hh k (by omega) (by rw [insF_lt y]; exact z)
        · exact hh (k + 1) (by omega) (by rw [insF_gt (by omega), Nat.add_sub_cancel]; exact z)
    · constructor
      · rintro ⟨k, k1, k2⟩
        rcases Nat.lt_trichotomy k pl with y | y | y
        · rw [insF_lt y] at k2
          exact Or.inl ⟨k, by omega, k2⟩
        · rw [y, insF_eq] at k2
          exact Or.inr k2.symm
        · rw [insF_gt y] at k2
          exact Or.inl ⟨k - 1, by omega, k2⟩
      · rintro (⟨k, k1, k2⟩ | z)
        · rcases Nat.lt_or_ge k pl with y | y
          · exact ⟨k, by omega, by rw [insF_lt y]; exact k2⟩
          · exact ⟨k + 1, by omega, by rw [insF_gt (by omega), Nat.add_sub_cancel]; exact k2⟩
        · exact ⟨pl, by omega, by rw [insF_eq]; exact z.symm⟩
end MSD
