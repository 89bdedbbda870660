/-! the class's machine: a call's writes planned -/
noncomputable def cntS (S : Nat → Prop) : Nat → Nat
  | 0 => 0
  | k + 1 => cntS S k + @ite _ (S k) (Classical.propDecidable _) 1 0
theorem cntS_y {S : Nat → Prop} {k : Nat} (h : S k) : cntS S (k + 1) = cntS S k + 1 := by
  show _ + @ite _ (S k) (Classical.propDecidable _) 1 0 = _
  rw [@if_pos _ (Classical.propDecidable _) h]
theorem cntS_n {S : Nat → Prop} {k : Nat} (h : ¬ S k) : cntS S (k + 1) = cntS S k := by
  show _ + @ite _ (S k) (Classical.propDecidable _) 1 0 = _
  rw [@if_neg _ (Classical.propDecidable _) h]; rfl
theorem cntS_mono {S : Nat → Prop} {i : Nat} : ∀ j, cntS S i ≤ cntS S (i + j) := by
  intro j
  induction j with
  | zero => exact Nat.le_refl _
  | succ j ih =>
    refine Nat.le_trans ih ?_
    show cntS S (i + j) ≤ cntS S (i + j + 1)
    by_cases h : S (i + j)
    · rw [cntS_y h]; omega
    · rw [cntS_n h]; omega
theorem cntS_lt {S : Nat → Prop} {i j : Nat} (hi : S i) (hij : i < j) : cntS S i < cntS S j := by
  have h1 := cntS_y hi
  have h2 := cntS_mono (S := S) (i := i + 1) (j - (i + 1))
  rw [show i + 1 + (j - (i + 1)) = j by omega] at h2
  omega
/-- the k-th of S -/
noncomputable def enS (S : Nat → Prop) (k : Nat) : Nat := @dite _ (∃ q, S q ∧ cntS S q = k) (Classical.propDecidable _) (fun h => h.choose) (fun _ => 0)
theorem enS_eq {S : Nat → Prop} {k q : Nat} (hq : S q) (hc : cntS S q = k) : enS S k = q := by
  have hx : ∃ q, S q ∧ cntS S q = k := ⟨q, hq, hc⟩
  unfold enS
  rw [@dif_pos _ (Classical.propDecidable _) hx]
  obtain ⟨h1, h2⟩ := hx.choose_spec
  rcases Nat.lt_trichotomy hx.choose q with z | z | z
  · have := cntS_lt h1 z; omega
  · exact z
  · have := cntS_lt hq z; omega
/-- an enumeration by rising numbers is the one -/
theorem en_uniq {S : Nat → Prop} {n : Nat} {nb : Nat → Nat} (h1 : ∀ i j, i < j → j < n → nb i < nb j) (h2 : ∀ q, (∃ k, k < n ∧ nb k = q) ↔ S q) (h3 : ∀ k, k < n → nb k < 32) : cntS S 32 = n ∧ ∀ k, k < n → enS S k = nb k := by
  have key : ∀ m, ∃ j, j ≤ n ∧ cntS S m = j ∧ (∀ k, k < j → nb k < m) ∧ (∀ k, j ≤ k → k < n → m ≤ nb k) := by
    intro m
    induction m with
    | zero => exact ⟨0, by omega, rfl, fun k hk => by omega, fun k _ _ => by omega⟩
    | succ m ih =>
      obtain ⟨j, j1, j2, j3, j4⟩ := ih
      by_cases hm : S m
      · obtain ⟨k, k1, k2⟩ := (h2 m).mpr hm
        have kj : k = j := by
          rcases Nat.lt_trichotomy k j with z | z | z
          · have := j3 k z; omega
          · exact z
          · have a := j4 j (Nat.le_refl _) (by omega)
            have b := h1 j k z k1
            omega
        subst kj
        refine ⟨k + 1, by omega, by rw [cntS_y hm, j2], fun i hi => ?_, fun i hi hin => ?_⟩
        · rcases Nat.lt_or_ge i k with z | z
          · have := j3 i z; omega
          · obtain rfl : i = k := by omega
            omega
        · have := h1 k i (by omega) hin; omega
      · refine ⟨j, j1, by rw [cntS_n hm, j2], fun i hi => by have := j3 i hi; omega, fun i hi hin => ?_⟩
        have := j4 i hi hin
        rcases Nat.lt_or_ge m (nb i) with z | z
        · omega
        · exact absurd ((h2 m).mp ⟨i, hin, by omega⟩) hm
  constructor
  · obtain ⟨j, j1, j2, j3, j4⟩ := key 32
    rcases Nat.lt_or_ge j n with z | z
    · have a := j4 j (Nat.le_refl _) z
      have b := h3 j z
      omega
    · omega
  · intro k hk
    refine enS_eq ((h2 _).mp ⟨k, hk, rfl⟩) ?_
    obtain ⟨j, j1, j2, j3, j4⟩ := key (nb k)
    rcases Nat.lt_trichotomy j k with z | z | z
    · have a := j4 j (Nat.le_refl _) (by omega)
      have b := h1 j k z hk
      omega
    · omega
    · have := j3 k z; omega
def evW (W : Nat → Int32) (o q : Nat) : Nat → Nat → ce_W
  | 0, _ => []
  | m + 1, j => (o + j, W (8 * q + j)) :: evW W o q m (j + 1)
def plkW (n : Nat) (nb : Nat → Nat) (W : Nat → Int32) : Nat → Nat → ce_W
  | 0, _ => []
  | m + 1, k => ((20 + k, if k < n then Int32.ofNat (nb k) else 0) :: (if k < n then evW W (24 + 8 * k) (nb k) 8 0 else [])) ++ plkW n nb W m (k + 1)
def callW (n : Nat) (nb : Nat → Nat) (W : Nat → Int32) : ce_W := [(18, Int32.ofNat n), (19, 0)] ++ plkW n nb W 3 0
theorem evW_len (W : Nat → Int32) (o q : Nat) : ∀ m j, (evW W o q m j).length = m := by
  intro m
  induction m with
  | zero => intro j; rfl
  | succ m ih => intro j; show (evW W o q m (j + 1)).length + 1 = _; rw [ih]
theorem plkW_congr {n : Nat} {nb nb' : Nat → Nat} {W : Nat → Int32} (h : ∀ k, k < n → nb k = nb' k) : ∀ m k, plkW n nb W m k = plkW n nb' W m k := by
  intro m
  induction m with
  | zero => intro k; rfl
  | succ m ih =>
    intro k
    show ((20 + k, if k < n then Int32.ofNat (nb k) else 0) :: (if k < n then evW W (24 + 8 * k) (nb k) 8 0 else [])) ++ plkW n nb W m (k + 1) = ((20 + k, if k < n then Int32.ofNat (nb' k) else 0) :: (if k < n then evW W (24 + 8 * k) (nb' k) 8 0 else [])) ++ plkW n nb' W m (k + 1)
    rw [ih]
    by_cases q : k < n
    · rw [h k q]
    · rw [if_neg q, if_neg q, if_neg q, if_neg q]
/-- a call: what is written, and whether it is done -/
noncomputable def callO (c : ce_C) (k : Int32) : ce_W × Int32 := if cntS (plO c k).2.2.1 32 = 0 then ((plO c k).1 ++ [(15, (plO c k).2.1)], 1) else ((plO c k).1 ++ callW (cntS (plO c k).2.2.1 32) (enS (plO c k).2.2.1) (plO c k).2.2.2, 0)
section MSL
variable {d b e w : Nat} {Z : mr_Z} {pr : Option Nat} {c : Nat → Int32} {L : List (Nat × Int32)} {X : mr_X} {h : ax_H} {K : kk_K} {S : Nat → Prop} {W : Nat → Int32}
/-- rows of sets behind each other -/
theorem MR.cons {a : Nat × Int32} {ws : ce_W} (R : MR b Z e w pr (apW (upd c a.1 a.2) ws) ((L ++ [(a.1, c a.1)]) ++ joW (upd c a.1 a.2) ws) X h) : MR b Z e w pr (apW c (a :: ws)) (L ++ joW c (a :: ws)) X h := by
  rw [List.append_assoc] at R
  exact R
theorem c_call46 (hd : 2 ≤ d) {n : Nat} {nb : Nat → Nat} {c0 : ce_C} (D : DS c0 X n nb W) : ∀ (m k : Nat), k + m = 3 → ∀ (c : Nat → Int32) (L : List (Nat × Int32)) (h : ax_H), L.length + 9 * m ≤ 190 → MR b Z e w pr c L X h → Ok (B_X2_call_46 (ax_c d) b (Int32.ofNat k) h) (.inl (some (.int 0))) (MR b Z e w pr (apW c (plkW n nb W m k)) (L ++ joW c (plkW n nb W m k)) X) := by
  obtain ⟨d1, d2, d3, d4, d5, d6⟩ := D
  intro m
  induction m with
  | zero =>
    intro k hk c L h hL R
    obtain rfl : k = 3 := by omega
    refine Ok.le b_X2_call_46 ?_
    rw [if_pos (by decide)]
    refine Ok.ret ?_
    show MR b Z e w pr c (L ++ []) X h
    rw [List.append_nil]
    exact R
  | succ m ih =>
    intro k hk c L h hL R
    refine Ok.le b_X2_call_46 ?_
    have k3 : ¬ (3 : Int32) ≤ Int32.ofNat k := fun z => by have := (i_le (a := 3) (by omega) (by omega)).mp z; omega
    have ek : plkW n nb W (m + 1) k = ((20 + k, if k < n then Int32.ofNat (nb k) else 0) :: (if k < n then evW W (24 + 8 * k) (nb k) 8 0 else [])) ++ plkW n nb W m (k + 1) := rfl
    have e20 : (20 : Int32) + Int32.ofNat k = Int32.ofNat (20 + k) := i_add 20 k
    rw [if_neg k3, R.g9, Option.bind_some, d1, ek]
    by_cases q : k < n
    · have i3 : ix 3 (Int32.ofNat k) = some k := ix_of rfl (by omega) (by omega)
      rw [if_neg (i_ge_not q (by omega)), R.g7, Option.bind_some, lI_at R.2.2.1.1, i3, Option.bind_some, Option.bind_some, R.vn, Option.bind_some, (d3 k q).1, if_pos q, if_pos q]
      refine Ok.V (c_set hd R (by omega) e20 (by omega) _) fun h1 R1 => ?_
      rw [List.cons_append]
      refine Ok.imp ?_ fun h' R' => MR.cons (a := (20 + k, Int32.ofNat (nb k))) R'
      have inner : ∀ (m2 j : Nat), j + m2 = 8 → ∀ (c : Nat → Int32) (L : List (Nat × Int32)) (h : ax_H), L.length + 9 * m + m2 ≤ 190 → MR b Z e w pr c L X h → Ok (B_X2_call_80 (ax_c d) b (Int32.ofNat k) (Int32.ofNat j) h) (.inl (some (.int 0))) (MR b Z e w pr (apW c (evW W (24 + 8 * k) (nb k) m2 j ++ plkW n nb W m (k + 1))) (L ++ joW c (evW W (24 + 8 * k) (nb k) m2 j ++ plkW n nb W m (k + 1))) X) := by
        intro m2
        induction m2 with
        | zero =>
          intro j hj c L h hL R
          obtain rfl : j = 8 := by omega
          refine Ok.le b_X2_call_80 ?_
          rw [R.g9, Option.bind_some, d1, if_neg (i_ge_not q (by omega)), if_pos (by decide), lt_at, show Int32.ofNat k + 1 = Int32.ofNat (k + 1) from i_add k 1]
          exact ih (k + 1) (by omega) c L h (by omega) R
        | succ m2 ih2 =>
          intro j hj c L h hL R
          refine Ok.le b_X2_call_80 ?_
          obtain ⟨x1, ⟨g, x2, x3⟩, x4, x5, x6⟩ := R.2.2.1
          have i8 : ix 8 (Int32.ofNat j) = some j := ix_of rfl (by omega) (by omega)
          rw [R.g9, Option.bind_some, d1, if_neg (i_ge_not q (by omega)), if_neg (nge8 (show j < 8 by omega)), R.g8, Option.bind_some, lA5 x2 rfl (show k < 3 by omega) (by omega) (x3 k (by omega)), Option.bind_some, lI_at (x4 _ (x5 k (by omega))), i8, Option.bind_some, Option.bind_some, d5 k q j (by omega), R.vn, Option.bind_some]
          refine Ok.V (c_set hd R (by omega) (p := 24 + 8 * k + j) (by rw [show (8 : Int32) * Int32.ofNat k = Int32.ofNat (8 * k) from i_mul 8 k, show (24 : Int32) + Int32.ofNat (8 * k) = Int32.ofNat (24 + 8 * k) from i_add 24 _, i_add]) (by omega) _) fun h1 R1 => ?_
          rw [lt_at, show Int32.ofNat j + 1 = Int32.ofNat (j + 1) from i_add j 1]
          exact (ih2 (j + 1) (by omega) _ _ h1 (by simp only [List.length_append, List.length_cons, List.length_nil]; omega) R1).imp fun h' R' => MR.cons (a := (24 + 8 * k + j, W (8 * nb k + j))) R'
      exact inner 8 0 rfl _ _ h1 (by simp only [List.length_append, List.length_cons, List.length_nil]; omega) R1
    · rw [if_pos ((i_le (by omega) (by omega)).mpr (by omega)), R.vn, Option.bind_some, if_neg q, if_neg q]
      refine Ok.V (c_set hd R (by omega) e20 (by omega) _) fun h1 R1 => ?_
      refine Ok.le b_X2_call_80 ?_
      rw [R1.g9, Option.bind_some, d1, if_pos ((i_le (by omega) (by omega)).mpr (by omega)), lt_at, show Int32.ofNat k + 1 = Int32.ofNat (k + 1) from i_add k 1]
      exact (ih (k + 1) (by omega) _ _ h1 (by simp only [List.length_append, List.length_cons, List.length_nil]; omega) R1).imp fun h' R' => MR.cons (a := (20 + k, 0)) R'
theorem plO_len (c : ce_C) (k : Int32) : (plO c k).1.length ≤ 1 := by
  have key : ∀ {p : Prop} [Decidable p] {a b : ce_W × Int32 × (Nat → Prop) × (Nat → Int32)}, a.1.length ≤ 1 → b.1.length ≤ 1 → (if p then a else b).1.length ≤ 1 := by
    intro p _ a b ha hb
    split
    · exact ha
    · exact hb
  unfold plO
  dsimp only
  repeat' (first | exact Nat.zero_le _ | exact Nat.le_refl _ | refine key ?_ ?_)
theorem c_call (hd : 7 ≤ d) (R : MR b Z e w pr c L X h) (hL : L.length ≤ 120) (F : FW (ds c)) {y : Nat} (hy : y ≤ 65535) (h13 : rg 65535 (c 13)) : ∃ X', Ok (ax_c d 335 [.ref b, .int (Int32.ofNat y)] h) (.inl (some (.int (callO c (Int32.ofNat y)).2))) (MR b Z e w pr (apW c (callO c (Int32.ofNat y)).1) (L ++ joW c (callO c (Int32.ofNat y)).1) X') := by
  obtain ⟨d, rfl, he⟩ := d_succ hd
  have b4 := R.2.2.2.2.2.2.2
  obtain ⟨x1, ⟨g, x2, x3⟩, x4, x5, x6⟩ := R.2.2.1
  have R0 : MR b Z e w pr c L (0, X.2) (ax_set h b (.inr (29, (mo_fs b Z pr X.1).set 9 (.int 0)))) := R.x ⟨(set_ne _ (by omega)).trans x1, ⟨g, (set_ne _ (by omega)).trans x2, x3⟩, fun k hk => (set_ne _ (by omega)).trans (x4 k hk), x5, x6⟩ ((set_eq _).trans rfl) (set_ne _ (by omega)) (fun q hq => set_ne _ (fun z => hq (Or.inl z))) rfl
  have D0 : DSS c (0, X.2) noS (ds c) := ⟨0, fun _ => 0, ⟨rfl, by omega, fun k hk => by omega, fun i j _ hj => by omega, fun k hk => by omega, fun p _ _ => rfl⟩, fun q => ⟨fun z => by obtain ⟨k, k1, _⟩ := z; omega, fun z => z.elim⟩⟩
  obtain ⟨X1, ⟨h1, r1, R1⟩, D1⟩ := c_plan (d := d) (by omega) R0 (by omega) D0 F hy h13
  obtain ⟨n, nb, DD, Ds⟩ := D1
  obtain ⟨u1, u2⟩ := en_uniq DD.2.2.2.1 Ds fun k hk => (DD.2.2.1 k hk).2
  have hlen := plO_len c (Int32.ofNat y)
  refine ⟨X1, Ok.le m_X2_call ?_⟩
  rw [pF_int R.1 rfl (Nat.le_of_ble_eq_true rfl) (by omega), Option.bind_some, R0.vn, Option.bind_some, r1, cI_v, R1.g9, Option.bind_some, DD.1]
  unfold callO
  rw [u1]
  by_cases q : n = 0
  · rw [if_neg (fun z => z (by rw [q]; rfl)), if_pos q, R1.vn, Option.bind_some]
    exact Ok.V (c_set (by omega) R1 (by simp only [List.length_append, joW_len]; omega) (i := 15) (p := 15) rfl (by omega) _) fun h2 R2 => Ok.ret R2.app
  · rw [if_pos (show ¬ Int32.ofNat n = 0 from fun z => q ((i_eq (b := 0) (by have := DD.2.1; omega) (by omega)).mp z)), if_neg q, Option.bind_some, R1.vn, Option.bind_some]
    refine Ok.V (c_set (by omega) R1 (by simp only [List.length_append, joW_len]; omega) (i := 18) (p := 18) rfl (by omega) _) fun h2 R2 => ?_
    rw [R2.vn, Option.bind_some]
    refine Ok.V (c_set (by omega) R2 (by simp only [List.length_append, joW_len, List.length_cons, List.length_nil]; omega) (i := 19) (p := 19) rfl (by omega) _) fun h3 R3 => ?_
    have := c_call46 (d := d) (by omega) DD 3 0 rfl _ _ h3 (by simp only [List.length_append, joW_len, List.length_cons, List.length_nil]; omega) R3
    refine this.imp fun h' R' => ?_
    refine MR.app ?_
    unfold callW
    rw [plkW_congr u2]
    exact MR.cons (a := (18, Int32.ofNat n)) (MR.cons (a := (19, 0)) R')
end MSL
