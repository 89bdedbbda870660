/-! a disk mended: class and twin alike; starting -/
/- with RA TO ON SF SF.t0 SF.tr t_isMachine OF TF DK LD LC DG IG stC_at saC_at FSI.cong mendS mndS mendC cpB zerC begC t_mends t_copies t_wakes t_wake0 sleep_ne formC -/
/-- so many blocks of the log copied home -/
def hmD (D : Nat → Int32) : Nat → Nat → Int32
  | 0 => D
  | j + 1 => fun a => if 8 * nn (D (1 + j)) ≤ a ∧ a < 8 * nn (D (1 + j)) + 8 then D (8 * (1 + j) + (a - 8 * nn (D (1 + j)))) else hmD D j a
/-- the disk mended -/
def meD (D : Nat → Int32) (m : Nat) : Nat → Int32 := if m = 0 then D else fun a => if a < 8 then 0 else hmD D m a
section MND
variable {m : Nat} {s : Nat → Nat → Int32} {c D : Nat → Int32}
theorem hmD_lo (hb : ∀ j, j < m → ∃ v, 4 ≤ v ∧ v < 32 ∧ D (1 + j) = Int32.ofNat v) : ∀ j, j ≤ m → ∀ a, a < 32 ∨ 256 ≤ a → hmD D j a = D a := by
  intro j
  induction j with
  | zero => intro _ a _; rfl
  | succ j ih =>
    intro hj a ha
    obtain ⟨v, v1, v2, v3⟩ := hb j (by omega)
    show (if 8 * nn (D (1 + j)) ≤ a ∧ a < 8 * nn (D (1 + j)) + 8 then _ else hmD D j a) = _
    rw [v3, nn_of (by omega), if_neg (by omega)]
    exact ih (by omega) a ha
theorem cpB_hm (hb : ∀ j, j < m → ∃ v, 4 ≤ v ∧ v < 32 ∧ c (366 + j) = Int32.ofNat v) (m3 : m ≤ 3) : ∀ j, j ≤ m → (∀ a, cpB c j (365 + a) = hmD (ds c) j a) := by
  intro j
  induction j with
  | zero => intro _ a; rfl
  | succ j ih =>
    intro hj a
    obtain ⟨v, v1, v2, v3⟩ := hb j (by omega)
    have e1 : ds c (1 + j) = Int32.ofNat v := (congrArg c (show 365 + (1 + j) = 366 + j by omega)).trans v3
    show (if 365 + 8 * nn (c (366 + j)) ≤ 365 + a ∧ 365 + a < 365 + 8 * nn (c (366 + j)) + 8 then cpB c j (365 + 8 * (1 + j) + (365 + a - (365 + 8 * nn (c (366 + j))))) else cpB c j (365 + a)) = if 8 * nn (ds c (1 + j)) ≤ a ∧ a < 8 * nn (ds c (1 + j)) + 8 then ds c (8 * (1 + j) + (a - 8 * nn (ds c (1 + j)))) else hmD (ds c) j a
    rw [v3, e1, nn_of (show v < 2 ^ 31 by omega)]
    by_cases q : 8 * v ≤ a ∧ a < 8 * v + 8
    · rw [if_pos q, if_pos (by omega), cpB_lo c hb j (by omega) _ (by omega)]
      show c _ = c _
      congr 1
      omega
    · rw [if_neg q, if_neg (by omega)]; exact ih (by omega) a
theorem mendC_ds (hb : ∀ j, j < m → ∃ v, 4 ≤ v ∧ v < 32 ∧ c (366 + j) = Int32.ofNat v) (m3 : m ≤ 3) (a : Nat) : ds (mendC c m) a = meD (ds c) m a := by
  show mendC c m (365 + a) = _
  unfold mendC meD
  by_cases q : m = 0
  · rw [if_pos q, if_pos q]; rfl
  · rw [if_neg q, if_neg q, upd_ne _ _ (by omega)]
    show (if 365 ≤ 365 + a ∧ 365 + a < 365 + 8 then 0 else cpB c m (365 + a)) = if a < 8 then 0 else hmD (ds c) m a
    rw [cpB_hm hb m3 m (Nat.le_refl _)]
    by_cases e : a < 8
    · rw [if_pos e, if_pos (by omega)]
    · rw [if_neg e, if_neg (by omega)]
theorem mendC_lo (hb : ∀ j, j < m → ∃ v, 4 ≤ v ∧ v < 32 ∧ c (366 + j) = Int32.ofNat v) {p : Nat} (hp : p < 364) : mendC c m p = c p := by
  unfold mendC
  by_cases q : m = 0
  · rw [if_pos q]
  · rw [if_neg q, upd_ne _ _ (by omega)]
    show (if 365 ≤ p ∧ p < 365 + 8 then 0 else cpB c m p) = _
    rw [if_neg (by omega)]
    exact cpB_lo c hb m (Nat.le_refl _) p (by omega)
theorem mendC_364 (hb : ∀ j, j < m → ∃ v, 4 ≤ v ∧ v < 32 ∧ c (366 + j) = Int32.ofNat v) : mendC c m 364 = if m = 0 then c 364 else c 364 + Int32.ofNat (1 + m) := by
  unfold mendC
  by_cases q : m = 0
  · rw [if_pos q, if_pos q]
  · rw [if_neg q, if_neg q, upd_eq]
theorem mndS_hm (hb : ∀ j, j < m → ∃ v, 4 ≤ v ∧ v < 32 ∧ s 50 (1 + j) = Int32.ofNat v) (m3 : m ≤ 3) : ∀ k, k ≤ 8 * m → ∀ a, a < 256 → mndS s k 50 a = if k % 8 = 0 then hmD (s 50) (k / 8) a else if 8 * nn (s 50 (1 + k / 8)) ≤ a ∧ a < 8 * nn (s 50 (1 + k / 8)) + k % 8 then s 50 (8 * (1 + k / 8) + (a - 8 * nn (s 50 (1 + k / 8)))) else hmD (s 50) (k / 8) a := by
  intro k
  induction k with
  | zero => intro _ a _; rfl
  | succ k ih =>
    intro hk a ha
    obtain ⟨v, v1, v2, v3⟩ := hb (k / 8) (by omega)
    have nv : nn (s 50 (1 + k / 8)) = v := by rw [v3, nn_of (by omega)]
    have i := ih (by omega) a ha
    have e : mndS s (k + 1) 50 a = if a = 8 * v + k % 8 then s 50 (8 + k) else mndS s k 50 a := by
      show tw_up (mndS s k) 50 (8 * nn (s 50 (1 + k / 8)) + k % 8) (s 50 (8 + k)) 50 a = _
      rw [tw_up_at, if_pos rfl, upd_at, nv]
    rw [e, i]
    by_cases q : (k + 1) % 8 = 0
    · have h1 : (k + 1) / 8 = k / 8 + 1 := by omega
      rw [if_pos q, h1]
      show _ = if 8 * nn (s 50 (1 + k / 8)) ≤ a ∧ a < 8 * nn (s 50 (1 + k / 8)) + 8 then s 50 (8 * (1 + k / 8) + (a - 8 * nn (s 50 (1 + k / 8)))) else hmD (s 50) (k / 8) a
      rw [nv, if_neg (show ¬ k % 8 = 0 by omega)]
      by_cases e1 : a = 8 * v + k % 8
      · rw [if_pos e1, if_pos (by omega)]
        congr 1
        omega
      · rw [if_neg e1]
        by_cases e2 : 8 * v ≤ a ∧ a < 8 * v + k % 8
        · rw [if_pos e2, if_pos (by omega)]
        · rw [if_neg e2, if_neg (by omega)]
    · have h1 : (k + 1) / 8 = k / 8 := by omega
      have h2 : (k + 1) % 8 = k % 8 + 1 := by omega
      rw [if_neg q, h1, h2, nv]
      by_cases e1 : a = 8 * v + k % 8
      · rw [if_pos e1, if_pos (by omega)]
        congr 1
        omega
      · rw [if_neg e1]
        by_cases e0 : k % 8 = 0
        · rw [if_pos e0, if_neg (by omega)]
        · rw [if_neg e0]
          by_cases e2 : 8 * v ≤ a ∧ a < 8 * v + k % 8
          · rw [if_pos e2, if_pos (by omega)]
          · rw [if_neg e2, if_neg (by omega)]
theorem hmD_cong {E : Nat → Int32} (h : ∀ a, a < 256 → E a = D a) (hb : ∀ j, j < m → ∃ v, 4 ≤ v ∧ v < 32 ∧ D (1 + j) = Int32.ofNat v) (m3 : m ≤ 3) : ∀ j, j ≤ m → ∀ a, a < 256 → hmD E j a = hmD D j a := by
  intro j
  induction j with
  | zero => intro _ a ha; exact h a ha
  | succ j ih =>
    intro hj a ha
    obtain ⟨v, v1, v2, v3⟩ := hb j (by omega)
    show (if 8 * nn (E (1 + j)) ≤ a ∧ a < 8 * nn (E (1 + j)) + 8 then E (8 * (1 + j) + (a - 8 * nn (E (1 + j)))) else hmD E j a) = if 8 * nn (D (1 + j)) ≤ a ∧ a < 8 * nn (D (1 + j)) + 8 then D (8 * (1 + j) + (a - 8 * nn (D (1 + j)))) else hmD D j a
    rw [h _ (by omega), v3, nn_of (show v < 2 ^ 31 by omega), ih (by omega) a ha]
    by_cases q : 8 * v ≤ a ∧ a < 8 * v + 8
    · rw [if_pos q, if_pos q, h _ (by omega)]
    · rw [if_neg q, if_neg q]
/-- what is found at a start: a log of so many blocks, or none -/
theorem DK.lg (K : DK D) : ∃ m, m ≤ 3 ∧ D 0 = Int32.ofNat m ∧ (m ≠ 0 → LC D m) ∧ (∀ j, j < m → ∃ v, 4 ≤ v ∧ v < 32 ∧ D (1 + j) = Int32.ofNat v) ∧ FSI (meD D m) ∧ meD D m 0 = 0 := by
  rcases K with ⟨z, I⟩ | ⟨m, W, m1, m3, L, I, dj, bl, ot⟩
  · have e : meD D 0 = D := if_pos rfl
    exact ⟨0, by omega, z, fun y => absurd rfl y, fun j hj => absurd hj (Nat.not_lt_zero _), by rw [e]; exact I, by rw [e]; exact z⟩
  · refine ⟨m, m3, L.1, fun _ => L, L.2.2, I.cong fun a a1 a2 => ?_, ?_⟩
    · unfold meD
      rw [if_neg (by omega)]
      show (if a < 8 then 0 else hmD D m a) = _
      rw [if_neg (by omega)]
      have key : ∀ j, j ≤ m → hmD D j a = if ∃ i, i < j ∧ a / 8 = nn (D (1 + i)) then W a else D a := by
        intro j
        induction j with
        | zero =>
          intro _
          rw [if_neg (fun ⟨i, hi, _⟩ => absurd hi (Nat.not_lt_zero _))]; rfl
        | succ j ih =>
          intro hj
          show (if 8 * nn (D (1 + j)) ≤ a ∧ a < 8 * nn (D (1 + j)) + 8 then D (8 * (1 + j) + (a - 8 * nn (D (1 + j)))) else hmD D j a) = _
          by_cases q : a / 8 = nn (D (1 + j))
          · rw [if_pos (by omega), if_pos ⟨j, by omega, q⟩]
            have := bl j (a % 8) (by omega) (by omega)
            rw [← q, show 8 * (a / 8) + a % 8 = a by omega] at this
            rw [← this]
            congr 1
            omega
          · rw [if_neg (by omega), ih (by omega)]
            by_cases e : ∃ i, i < j ∧ a / 8 = nn (D (1 + i))
            · obtain ⟨i, i1, i2⟩ := e
              rw [if_pos ⟨i, i1, i2⟩, if_pos ⟨i, by omega, i2⟩]
            · rw [if_neg e, if_neg]
              rintro ⟨i, i1, i2⟩
              rcases Nat.lt_or_ge i j with z | z
              · exact e ⟨i, z, i2⟩
              · obtain rfl : i = j := by omega
                exact q i2
      rw [key m (Nat.le_refl _)]
      by_cases e : ∃ i, i < m ∧ a / 8 = nn (D (1 + i))
      · rw [if_pos e]
      · rw [if_neg e]
        exact ot a a1 (by omega) fun j hj z => e ⟨j, hj, z⟩
    · unfold meD
      rw [if_neg (by omega)]
      exact if_pos (by omega)
theorem meD_rg (hb : ∀ j, j < m → ∃ v, 4 ≤ v ∧ v < 32 ∧ D (1 + j) = Int32.ofNat v) (m3 : m ≤ 3) (hD : ∀ a, a < 256 → rg 65535 (D a)) : ∀ a, a < 256 → rg 65535 (meD D m a) := by
  intro a ha
  unfold meD
  by_cases q : m = 0
  · rw [if_pos q]; exact hD a ha
  · rw [if_neg q]
    refine rg_ite (rg0 (by omega)) ?_
    have key : ∀ j, j ≤ m → rg 65535 (hmD D j a) := by
      intro j
      induction j with
      | zero => intro _; exact hD a ha
      | succ j ih =>
        intro hj
        obtain ⟨v, v1, v2, v3⟩ := hb j (by omega)
        show rg 65535 (if 8 * nn (D (1 + j)) ≤ a ∧ a < 8 * nn (D (1 + j)) + 8 then D (8 * (1 + j) + (a - 8 * nn (D (1 + j)))) else hmD D j a)
        rw [v3, nn_of (show v < 2 ^ 31 by omega)]
        by_cases q : 8 * v ≤ a ∧ a < 8 * v + 8
        · rw [if_pos q]; exact hD _ (by omega)
        · rw [if_neg q]; exact ih (by omega)
    exact key m (Nat.le_refl _)
theorem LC.chk {E : Nat → Int32} (L : LC D m) (m3 : m ≤ 3) (hD : ∀ a, a < 256 → rg 65535 (D a)) (h : ∀ a, a < 256 → E a = D a) : chkT E m = E 4 := by
  have L2 := L.cong m3 (E := E) fun a ha => h a (by omega)
  rw [← L2.2.1]
  unfold chkT
  have e4 : sumT E 0 4 = E 0 + E 1 + E 2 + E 3 := by
    show 0 + E 0 + E 1 + E 2 + E 3 = _
    rw [Int32.zero_add]
  rw [e4]
  have nE : ∀ a, a < 256 → nn (E a) ≤ 65535 ∧ E a = Int32.ofNat (nn (E a)) := fun a ha => by rw [h a ha]; exact rg.nat (hD a ha)
  obtain ⟨a0, b0⟩ := nE 0 (by omega)
  obtain ⟨a1, b1⟩ := nE 1 (by omega)
  obtain ⟨a2, b2⟩ := nE 2 (by omega)
  obtain ⟨a3, b3⟩ := nE 3 (by omega)
  have base : E 0 + E 1 + E 2 + E 3 = Int32.ofNat (nn (E 0) + nn (E 1) + nn (E 2) + nn (E 3)) := by
    rw [b0, b1, b2, b3, i_add, i_add, i_add, nn_of (by omega), nn_of (by omega), nn_of (by omega), nn_of (by omega)]
  rw [base]
  obtain ⟨r, e, b⟩ := sumT_nat (g := fun k => E (8 + k)) (f := fun k => nn (E (8 + k))) (a := nn (E 0) + nn (E 1) + nn (E 2) + nn (E 3)) (8 * m) (fun k hk => (nE (8 + k) (by omega)).2)
  have := b 65535 (fun k hk => (nE (8 + k) (by omega)).1)
  rw [e, i2c_nat]
  exact rem_nat (b := 65536) (by omega) (by omega)
end MND
