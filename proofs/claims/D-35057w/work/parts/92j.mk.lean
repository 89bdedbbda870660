/-! the class's machine: a file call's writes; a step, whole -/
/-- m words from p on are written from o on, the j-th first -/
def cpW (c0 : ce_C) (o p : Nat) : Nat → Nat → ce_W
  | 0, _ => []
  | m + 1, j => (o + j, c0 (p + j)) :: cpW c0 o p m (j + 1)
def hdV (c0 : ce_C) (m p : Nat) : Int32 := if m = 0 then 0 else if p ≤ 3 then (if p = 0 then Int32.ofNat m else c0 (19 + p)) else 0
def hd8 (c0 : ce_C) (m : Nat) : Nat → Nat → ce_W
  | 0, _ => []
  | k + 1, p => (365 + p, hdV c0 m p) :: hd8 c0 m k (p + 1)
def hdW (c0 : ce_C) (m : Nat) : ce_W := hd8 c0 m 8 0 ++ [(369, dx_i2c (sumT (fun k => c0 (24 + k)) (sumT (hdV c0 m) 0 8) (8 * m)))]
def writeO (c : ce_C) : ce_W :=
  let m := nn (c 18)
  let k := nn (c 19)
  (if k < m then cpW c (365 + 8 * (1 + k)) (24 + 8 * k) 8 0
    else if m < k ∧ k ≤ 2 * m then cpW c (365 + 8 * nn (c (20 + (k - m - 1)))) (24 + 8 * (k - m - 1)) 8 0
    else hdW c (if k = m then m else 0)) ++ ([(364, c 364 + 1), (19, Int32.ofNat (k + 1))] ++ (if k = 2 * m + 1 then [(18, 0), (15, 0), (3, c 3 + 2)] else []))
noncomputable def actO (K : kk_K) (c : ce_C) : ce_W ⊕ Int32 := if c 18 ≤ 0 then (if c 7 = 1 ∧ ¬ c 8 + c 9 ≤ 0 then (if 2 ≤ c 4 then .inl (interW c) else .inr 3) else instO K c) else .inl (writeO c)
noncomputable def actW (K : kk_K) (c : ce_C) : ce_W := match actO K c with
  | .inl ws => ws
  | .inr f => stopW f
/-- a step of the machine: what is written -/
noncomputable def stepW (K : kk_K) (c : ce_C) : ce_W := actW K c ++ passW K (apW c (actW K c))
/-- a file call that goes on -/
def WK (c : ce_C) : Prop := c 18 ≤ 0 ∨ ∃ m k, c 18 = Int32.ofNat m ∧ c 19 = Int32.ofNat k ∧ 1 ≤ m ∧ m ≤ 3 ∧ k ≤ 2 * m + 1 ∧ ∀ j, j < m → ∃ v, v < 32 ∧ c (20 + j) = Int32.ofNat v
theorem cpW_len (c0 : ce_C) (o p : Nat) : ∀ m j, (cpW c0 o p m j).length = m := by
  intro m
  induction m with
  | zero => intro j; rfl
  | succ m ih => intro j; show (cpW c0 o p m (j + 1)).length + 1 = _; rw [ih]
theorem hd8_len (c0 : ce_C) (n : Nat) : ∀ m j, (hd8 c0 n m j).length = m := by
  intro m
  induction m with
  | zero => intro j; rfl
  | succ m ih => intro j; show (hd8 c0 n m (j + 1)).length + 1 = _; rw [ih]
theorem hdW_len (c0 : ce_C) (n : Nat) : (hdW c0 n).length = 9 := by
  unfold hdW
  rw [List.length_append, hd8_len]
  rfl
section MSK
variable {d b e w : Nat} {Z : mr_Z} {pr : Option Nat} {c : Nat → Int32} {L : List (Nat × Int32)} {X : mr_X} {h : ax_H} {K : kk_K}
theorem c_writeBlock (hd : 3 ≤ d) (R : MR b Z e w pr c L X h) (hL : L.length ≤ 150) {blk p : Nat} (hb : blk < 32) (hp : p + 8 ≤ 48) : Ok (ax_c d 319 [.ref b, .int (Int32.ofNat blk), .int (Int32.ofNat p)] h) (.inl none) (MR b Z e w pr (apW c (cpW c (365 + 8 * blk) p 8 0)) (L ++ joW c (cpW c (365 + 8 * blk) p 8 0)) X) := by
  obtain ⟨d, rfl, he⟩ := d_succ hd
  refine Ok.le m_X2_writeBlock ?_
  have loop : ∀ m j : Nat, j + m = 8 → ∀ (c1 : Nat → Int32) (L : List (Nat × Int32)) (h : ax_H), L.length + m ≤ 190 → (∀ i, i < 365 → c1 i = c i) → MR b Z e w pr c1 L X h → Ok (B_X2_writeBlock_2 (ax_c d) b (Int32.ofNat blk) (Int32.ofNat p) (Int32.ofNat j) h) (.inl none) (MR b Z e w pr (apW c1 (cpW c (365 + 8 * blk) p m j)) (L ++ joW c1 (cpW c (365 + 8 * blk) p m j)) X) := by
    intro m
    induction m with
    | zero =>
      intro j hj c1 L h hL hc R
      obtain rfl : j = 8 := by omega
      refine Ok.le b_X2_writeBlock_2 ?_
      rw [if_pos (by decide)]
      refine Ok.ret ?_
      show MR b Z e w pr c1 (L ++ []) X h
      rw [List.append_nil]
      exact R
    | succ m ih =>
      intro j hj c1 L h hL hc R
      refine Ok.le b_X2_writeBlock_2 ?_
      rw [if_neg (nge8 (show j < 8 by omega)), R.g0, Option.bind_some, R.rdn (i_add p j) (by omega), Option.bind_some, R.vn, Option.bind_some, hc (p + j) (by omega)]
      refine Ok.V (c_set (by omega) R (by omega) (p := 365 + 8 * blk + j) (by rw [show (8 : Int32) * Int32.ofNat blk = Int32.ofNat (8 * blk) from i_mul 8 blk, show (365 : Int32) + Int32.ofNat (8 * blk) = Int32.ofNat (365 + 8 * blk) from i_add 365 _, i_add]) (by omega) _) fun h1 R1 => ?_
      rw [lt_at, show Int32.ofNat j + 1 = Int32.ofNat (j + 1) from i_add j 1]
      exact (ih (j + 1) (by omega) _ _ h1 (by simp only [List.length_append, List.length_cons, List.length_nil]; omega) (fun i hi => (if_neg (by omega)).trans (hc i hi)) R1).imp fun h' R' => MR.cons (a := (365 + 8 * blk + j, c (p + j))) R'
  exact loop 8 0 rfl c L h (by omega) (fun _ _ => rfl) R
theorem c_writeHead (hd : 3 ≤ d) (R : MR b Z e w pr c L X h) (hL : L.length ≤ 150) {m : Nat} (hm : m ≤ 3) : Ok (ax_c d 321 [.ref b, .int (Int32.ofNat m)] h) (.inl none) (MR b Z e w pr (apW c (hdW c m)) (L ++ joW c (hdW c m)) X) := by
  obtain ⟨d, rfl, he⟩ := d_succ hd
  refine Ok.le m_X2_writeHead ?_
  have l2 : ∀ n k : Nat, k + n = 8 * m → ∀ (c1 : Nat → Int32) (L : List (Nat × Int32)) (h : ax_H), L.length ≤ 180 → (∀ i, i < 365 → c1 i = c i) → MR b Z e w pr c1 L X h → Ok (B_X2_writeHead_68 (ax_c d) b (Int32.ofNat m) (sumT (fun k => c (24 + k)) (sumT (hdV c m) 0 8) k) (Int32.ofNat k) h) (.inl none) (MR b Z e w pr (apW c1 [(369, dx_i2c (sumT (fun k => c (24 + k)) (sumT (hdV c m) 0 8) (8 * m)))]) (L ++ joW c1 [(369, dx_i2c (sumT (fun k => c (24 + k)) (sumT (hdV c m) 0 8) (8 * m)))]) X) := by
    intro n
    induction n with
    | zero =>
      intro k hk c1 L h hL hc R
      obtain rfl : k = 8 * m := by omega
      refine Ok.le b_X2_writeHead_68 ?_
      rw [show (8 : Int32) * Int32.ofNat m = Int32.ofNat (8 * m) from i_mul 8 m, if_pos ((i_le (by omega) (by omega)).mpr (Nat.le_refl _)), c_cut (by omega), cI_v, R.vn, Option.bind_some]
      unfold cutI
      rw [Int32.toInt32_toInt64]
      exact Ok.V (c_set (by omega) R (by omega) (i := 369) (p := 369) rfl (by omega) _) fun h1 R1 => Ok.ret R1
    | succ n ih =>
      intro k hk c1 L h hL hc R
      refine Ok.le b_X2_writeHead_68 ?_
      rw [show (8 : Int32) * Int32.ofNat m = Int32.ofNat (8 * m) from i_mul 8 m, if_neg (i_ge_not (by omega) (by omega)), R.g0, Option.bind_some, R.rdn (i := 24 + Int32.ofNat k) (k := 24 + k) (i_add 24 k) (by omega), Option.bind_some, hc (24 + k) (by omega), lt_at, lt_at, show Int32.ofNat k + 1 = Int32.ofNat (k + 1) from i_add k 1]
      exact ih (k + 1) (by omega) c1 L h hL hc R
  have l1 : ∀ n p : Nat, p + n = 8 → ∀ (c1 : Nat → Int32) (L : List (Nat × Int32)) (h : ax_H), L.length + n ≤ 170 → (∀ i, i < 365 → c1 i = c i) → MR b Z e w pr c1 L X h → Ok (B_X2_writeHead_4 (ax_c d) b (Int32.ofNat m) (sumT (hdV c m) 0 p) (Int32.ofNat p) h) (.inl none) (MR b Z e w pr (apW c1 (hd8 c m n p ++ [(369, dx_i2c (sumT (fun k => c (24 + k)) (sumT (hdV c m) 0 8) (8 * m)))])) (L ++ joW c1 (hd8 c m n p ++ [(369, dx_i2c (sumT (fun k => c (24 + k)) (sumT (hdV c m) 0 8) (8 * m)))])) X) := by
    intro n
    induction n with
    | zero =>
      intro p hp c1 L h hL hc R
      obtain rfl : p = 8 := by omega
      refine Ok.le b_X2_writeHead_4 ?_
      rw [if_pos (by decide)]
      exact l2 (8 * m) 0 (by omega) c1 L h (by omega) hc R
    | succ n ih =>
      intro p hp c1 L h hL hc R
      have h42 : Ok (B_X2_writeHead_42 (ax_c d) (hdV c m p) b (Int32.ofNat m) (sumT (hdV c m) 0 p) (Int32.ofNat p) h) (.inl none) (MR b Z e w pr (apW c1 (hd8 c m (n + 1) p ++ [(369, dx_i2c (sumT (fun k => c (24 + k)) (sumT (hdV c m) 0 8) (8 * m)))])) (L ++ joW c1 (hd8 c m (n + 1) p ++ [(369, dx_i2c (sumT (fun k => c (24 + k)) (sumT (hdV c m) 0 8) (8 * m)))])) X) := by
        refine Ok.le b_X2_writeHead_42 ?_
        rw [R.vn, Option.bind_some]
        refine Ok.V (c_set (by omega) R (by omega) (i := 365 + Int32.ofNat p) (p := 365 + p) (i_add 365 p) (by omega) _) fun h1 R1 => ?_
        rw [lt_at, lt_at, show Int32.ofNat p + 1 = Int32.ofNat (p + 1) from i_add p 1]
        exact (ih (p + 1) (by omega) _ _ h1 (by simp only [List.length_append, List.length_cons, List.length_nil]; omega) (fun i hi => (if_neg (by omega)).trans (hc i hi)) R1).imp fun h' R' => MR.cons (a := (365 + p, hdV c m p)) R'
      refine Ok.le b_X2_writeHead_4 ?_
      rw [if_neg (nge8 (show p < 8 by omega))]
      by_cases q1 : m = 0
      · rw [if_pos (by rw [q1]; rfl)]
        rw [show hdV c m p = 0 from if_pos q1] at h42
        exact h42
      · rw [if_neg (show ¬ Int32.ofNat m = 0 from fun z => q1 ((i_eq (b := 0) (by omega) (by omega)).mp z))]
        by_cases q2 : p ≤ 3
        · rw [if_pos (show Int32.ofNat p ≤ 3 from (i_le (b := 3) (by omega) (by omega)).mpr q2)]
          by_cases q3 : p = 0
          · rw [if_neg (fun z => z (by rw [q3]; rfl))]
            rw [show hdV c m p = Int32.ofNat m from (if_neg q1).trans ((if_pos q2).trans (if_pos q3))] at h42
            exact h42
          · rw [if_pos (show ¬ Int32.ofNat p = 0 from fun z => q3 ((i_eq (b := 0) (by omega) (by omega)).mp z)), R.g0, Option.bind_some, R.rdn (k := 19 + p) (by rw [show (20 : Int32) + Int32.ofNat p = Int32.ofNat (20 + p) from i_add 20 p, show Int32.ofNat (20 + p) - 1 = Int32.ofNat (20 + p - 1) from i_sub (b := 1) (by omega)]; congr 1; omega) (by omega), Option.bind_some, hc _ (by omega)]
            rw [show hdV c m p = c (19 + p) from (if_neg q1).trans ((if_pos q2).trans (if_neg q3))] at h42
            exact h42
        · rw [if_neg (show ¬ Int32.ofNat p ≤ 3 from fun z => q2 ((i_le (b := 3) (by omega) (by omega)).mp z))]
          rw [show hdV c m p = 0 from (if_neg q1).trans (if_neg q2)] at h42
          exact h42
  exact l1 8 0 rfl c L h (by omega) (fun _ _ => rfl) R
theorem cpW_lo (c0 : ce_C) {o p i : Nat} (hi : i < o) : ∀ (m j : Nat) (c : ce_C), apW c (cpW c0 o p m j) i = c i := by
  intro m
  induction m with
  | zero => intro j c; rfl
  | succ m ih => intro j c; exact (ih (j + 1) _).trans (if_neg (by omega))
theorem hd8_lo (c0 : ce_C) {n i : Nat} (hi : i < 365) : ∀ (m j : Nat) (c : ce_C), apW c (hd8 c0 n m j) i = c i := by
  intro m
  induction m with
  | zero => intro j c; rfl
  | succ m ih => intro j c; exact (ih (j + 1) _).trans (if_neg (by omega))
theorem hdW_lo (c0 c : ce_C) {n i : Nat} (hi : i < 365) : apW c (hdW c0 n) i = c i := by
  unfold hdW
  rw [apW_app]
  exact (if_neg (by omega)).trans (hd8_lo c0 hi 8 0 c)
theorem c_write (hd : 4 ≤ d) (R : MR b Z e w pr c L X h) (hL : L.length ≤ 100) {m k : Nat} (hm : c 18 = Int32.ofNat m) (hk : c 19 = Int32.ofNat k) (m1 : 1 ≤ m) (m3 : m ≤ 3) (k1 : k ≤ 2 * m + 1) (hb : ∀ j, j < m → ∃ v, v < 32 ∧ c (20 + j) = Int32.ofNat v) : Ok (ax_c d 318 [.ref b] h) (.inl none) (MR b Z e w pr (apW c (writeO c)) (L ++ joW c (writeO c)) X) := by
  obtain ⟨d, rfl, he⟩ := d_succ hd
  refine Ok.le m_X2_write ?_
  rw [R.g0, Option.bind_some, R.rdn (i := 18) (k := 18) rfl (by decide), Option.bind_some, Option.bind_some, R.rdn (i := 19) (k := 19) rfl (by decide), Option.bind_some, hm, hk]
  -- the end of a write
  have h95 : ∀ (a : ce_W) (h1 : ax_H), a.length ≤ 10 → (∀ i, i < 365 → apW c a i = c i) → MR b Z e w pr (apW c a) (L ++ joW c a) X h1 → (if k < m then cpW c (365 + 8 * (1 + k)) (24 + 8 * k) 8 0 else if m < k ∧ k ≤ 2 * m then cpW c (365 + 8 * nn (c (20 + (k - m - 1)))) (24 + 8 * (k - m - 1)) 8 0 else hdW c (if k = m then m else 0)) = a → Ok (B_X2_write_95 (ax_c d) b (Int32.ofNat m) (Int32.ofNat k) h1) (.inl none) (MR b Z e w pr (apW c (writeO c)) (L ++ joW c (writeO c)) X) := by
    intro a h1 ha hc R1 ea
    have hw : writeO c = a ++ ([(364, c 364 + 1), (19, Int32.ofNat (k + 1))] ++ (if k = 2 * m + 1 then [(18, 0), (15, 0), (3, c 3 + 2)] else [])) := by
      unfold writeO
      dsimp only
      rw [hm, hk, nn_of (by omega), nn_of (by omega), ea]
    refine Ok.le b_X2_write_95 ?_
    rw [R1.g0, Option.bind_some, R1.rdn (i := 364) (k := 364) rfl (by decide), Option.bind_some, R1.vn, Option.bind_some, hc 364 (by omega)]
    refine Ok.V (c_set (by omega) R1 (by simp only [List.length_append, joW_len, pushW_len, pullW_len, stopW_len, List.length_cons, List.length_nil]; omega) (i := 364) (p := 364) rfl (by omega) _) fun h2 R2 => ?_
    rw [R2.vn, Option.bind_some, show Int32.ofNat k + 1 = Int32.ofNat (k + 1) from i_add k 1]
    refine Ok.V (c_set (by omega) R2 (by simp only [List.length_append, joW_len, pushW_len, pullW_len, stopW_len, List.length_cons, List.length_nil]; omega) (i := 19) (p := 19) rfl (by omega) _) fun h3 R3 => ?_
    rw [show (2 : Int32) * Int32.ofNat m = Int32.ofNat (2 * m) from i_mul 2 m, show Int32.ofNat (2 * m) + 1 = Int32.ofNat (2 * m + 1) from i_add _ 1]
    by_cases q : k = 2 * m + 1
    · rw [if_neg (fun z => z (by rw [q])), R3.vn, Option.bind_some]
      refine Ok.V (c_set (by omega) R3 (by simp only [List.length_append, joW_len, pushW_len, pullW_len, stopW_len, List.length_cons, List.length_nil]; omega) (i := 18) (p := 18) rfl (by omega) _) fun h4 R4 => ?_
      rw [R4.vn, Option.bind_some]
      refine Ok.V (c_set (by omega) R4 (by simp only [List.length_append, joW_len, pushW_len, pullW_len, stopW_len, List.length_cons, List.length_nil]; omega) (i := 15) (p := 15) rfl (by omega) _) fun h5 R5 => ?_
      rw [R5.g0, Option.bind_some, R5.rdn (i := 3) (k := 3) rfl (by decide), Option.bind_some, R5.vn, Option.bind_some]
      have e3 : upd (upd (upd (upd (apW c a) 364 (c 364 + 1)) 19 (Int32.ofNat (k + 1))) 18 0) 15 0 3 = c 3 := hc 3 (by omega)
      rw [e3]
      refine Ok.V (c_set (by omega) R5 (by simp only [List.length_append, joW_len, pushW_len, pullW_len, stopW_len, List.length_cons, List.length_nil]; omega) (i := 3) (p := 3) rfl (by omega) _) fun h6 R6 => Ok.ret ?_
      rw [hw, if_pos q]
      refine MR.app ?_
      simp only [List.append_assoc] at R6 ⊢
      have e364 : apW c a 364 = c 364 := hc 364 (by omega)
      exact R6
    · rw [if_pos (show ¬ Int32.ofNat k = Int32.ofNat (2 * m + 1) from fun z => q ((i_eq (by omega) (by omega)).mp z))]
      refine Ok.ret ?_
      rw [hw, if_neg q]
      refine MR.app ?_
      simp only [List.append_assoc] at R3 ⊢
      exact R3
  have h81 : ¬ k < m → ¬ (m < k ∧ k ≤ 2 * m) → Ok (B_X2_write_81 (ax_c d) b (Int32.ofNat m) (Int32.ofNat k) h) (.inl none) (MR b Z e w pr (apW c (writeO c)) (L ++ joW c (writeO c)) X) := by
    intro n1 n2
    refine Ok.le b_X2_write_81 ?_
    by_cases q : k = m
    · rw [if_neg (fun z => z (by rw [q])), R.vn, Option.bind_some]
      refine Ok.V (c_writeHead (by omega) R (by omega) m3) fun h1 R1 => ?_
      exact h95 _ h1 (by rw [hdW_len]; omega) (fun i hi => hdW_lo c c hi) R1 (by rw [if_neg n1, if_neg n2, if_pos q])
    · rw [if_pos (show ¬ Int32.ofNat k = Int32.ofNat m from fun z => q ((i_eq (by omega) (by omega)).mp z)), R.vn, Option.bind_some]
      have := c_writeHead (d := d) (by omega) R (by omega) (m := 0) (by omega)
      rw [show Int32.ofNat 0 = 0 from rfl] at this
      refine Ok.V this fun h1 R1 => ?_
      exact h95 _ h1 (by rw [hdW_len]; omega) (fun i hi => hdW_lo c c hi) R1 (by rw [if_neg n1, if_neg n2, if_neg q])
  by_cases q : k < m
  · rw [if_neg (i_ge_not q (by omega)), R.vn, Option.bind_some, show (1 : Int32) + Int32.ofNat k = Int32.ofNat (1 + k) from i_add 1 k, show (8 : Int32) * Int32.ofNat k = Int32.ofNat (8 * k) from i_mul 8 k, show (24 : Int32) + Int32.ofNat (8 * k) = Int32.ofNat (24 + 8 * k) from i_add 24 _]
    refine Ok.V (c_writeBlock (by omega) R (by omega) (by omega) (by omega)) fun h1 R1 => ?_
    exact h95 _ h1 (by rw [cpW_len]; omega) (fun i hi => cpW_lo c (by omega) 8 0 c) R1 (if_pos q)
  · rw [if_pos ((i_le (by omega) (by omega)).mpr (by omega))]
    by_cases q2 : k ≤ m
    · rw [if_pos ((i_le (by omega) (by omega)).mpr q2)]
      exact h81 q (by omega)
    · rw [if_neg (fun z => q2 ((i_le (by omega) (by omega)).mp z)), show (2 : Int32) * Int32.ofNat m = Int32.ofNat (2 * m) from i_mul 2 m]
      by_cases q3 : k ≤ 2 * m
      · obtain ⟨v, v1, v2⟩ := hb (k - m - 1) (by omega)
        rw [if_neg (fun z => by have := (i_lt (by omega) (by omega)).mp z; omega), Option.bind_some, R.rdn (k := 20 + (k - m - 1)) (by rw [show (20 : Int32) + Int32.ofNat k = Int32.ofNat (20 + k) from i_add 20 k, i_sub (by omega), show Int32.ofNat (20 + k - m) - 1 = Int32.ofNat (20 + k - m - 1) from i_sub (b := 1) (by omega)]; congr 1; omega) (by omega), Option.bind_some, v2, R.vn, Option.bind_some, i_sub (by omega), show Int32.ofNat (k - m) - 1 = Int32.ofNat (k - m - 1) from i_sub (b := 1) (by omega), show (8 : Int32) * Int32.ofNat (k - m - 1) = Int32.ofNat (8 * (k - m - 1)) from i_mul 8 _, show (24 : Int32) + Int32.ofNat (8 * (k - m - 1)) = Int32.ofNat (24 + 8 * (k - m - 1)) from i_add 24 _]
        refine Ok.V (c_writeBlock (by omega) R (by omega) v1 (by omega)) fun h1 R1 => ?_
        exact h95 _ h1 (by rw [cpW_len]; omega) (fun i hi => cpW_lo c (by omega) 8 0 c) R1 (by rw [if_neg q, if_pos ⟨by omega, q3⟩, v2, nn_of (by omega)])
      · rw [if_pos ((i_lt (by omega) (by omega)).mpr (by omega))]
        exact h81 q (by omega)
theorem c_act (hd : 13 ≤ d) (R : MR b Z e w pr c L X h) (O : OLD Z.1) (B : SB0 Z pr) (Y : KY b Z.1 K) (hL : L.length ≤ 100) (C : WC c) (F : FW (ds c)) (hk : nn (c 16) ≤ toldN K.2.1 0 (c 2) K.1) (G : WK c) : InR b Z e w pr c L (ax_c d 317 [.ref b] h) (actO K c) := by
  obtain ⟨d, rfl, he⟩ := d_succ hd
  refine InR.le m_X2_act ?_
  have wrap : ∀ (x : Option ax_R) (o : ce_W ⊕ Int32), InR b Z e w pr c L x o → InR b Z e w pr c L (dx_cV x (fun h5 => some (.inl none, h5)) dx_x0) o := by
    rintro x o ⟨X1, r⟩
    match o, r with
    | .inl ws, r => exact ⟨X1, Ok.V r fun h' R' => Ok.ret R'⟩
    | .inr f, ⟨k, hk, r⟩ => exact ⟨X1, k, hk, OkX.xV r fun i h' T => T.x0 (kinds_0 hk)⟩
  rw [R.g0, Option.bind_some, R.rdn (i := 18) (k := 18) rfl (by decide), Option.bind_some]
  unfold actO
  by_cases q : c 18 ≤ 0
  · rw [if_pos q, if_pos q, Option.bind_some, R.rdn (i := 7) (k := 7) rfl (by decide), Option.bind_some]
    have inst := wrap _ _ (c_instruct (d := d) (by omega) R O B Y hL C F hk)
    by_cases q2 : c 7 = 1
    · rw [if_neg (fun z => z q2), R.vn, Option.bind_some, c_isWaiting (by omega) R, cI_v]
      by_cases q3 : c 8 + c 9 ≤ 0
      · rw [if_pos q3, if_pos rfl, R.vn, Option.bind_some, if_neg (fun z => z.2 q3)]
        exact inst
      · rw [if_neg q3, if_neg (by decide), R.vn, Option.bind_some, if_pos ⟨q2, q3⟩]
        refine wrap _ _ ?_
        by_cases q4 : 2 ≤ c 4
        · rw [if_pos q4]
          exact ⟨X, c_interrupt (by omega) R (by omega) C.2.1 q4⟩
        · rw [if_neg q4]
          obtain ⟨d2, rfl, he2⟩ := d_succ (k := 11) he
          refine ⟨X, 32, Or.inr (Or.inr (Or.inl ⟨rfl, rfl⟩)), OkX.le m_X2_interrupt ?_⟩
          rw [R.vn, Option.bind_some]
          exact OkX.xV (c_roomX (by omega) R O C.2.1 q4) fun i h' T => T.x0 rfl
    · rw [if_pos q2, R.vn, Option.bind_some, if_neg (fun z => q2 z.1)]
      exact inst
  · rw [if_neg q, if_neg q, R.vn, Option.bind_some]
    rcases G with g | ⟨m, k, g1, g2, g3, g4, g5, g6⟩
    · exact absurd g q
    · exact wrap _ _ ⟨X, c_write (by omega) R hL g1 g2 g3 g4 g5 g6⟩
end MSK
