/-! the map's bits; the files are sound -/
theorem bt_xor (x y : Int32) (k : Nat) : bt (x ^^^ y) k = (bt x k ^^ bt y k) := by
  unfold bt
  rw [Int32.toBitVec_xor, BitVec.getLsbD_xor]
theorem bt_m1 : ∀ k, k < 32 → bt (-1) k = true := by decide +kernel
def usB (D : Nat → Int32) (b : Nat) : Prop := bt (D (32 + b / 16)) (b % 16) = true
/-- a block's bit is turned -/
def trnW (D : Nat → Int32) (b : Nat) : Nat → Int32 := upd D (32 + b / 16) (D (32 + b / 16) ^^^ bitI b)
theorem mrk_off {D : Nat → Int32} {b : Nat} (h : usB D b) : mrkW D b 0 = trnW D b := by
  unfold mrkW trnW bitI
  rw [if_pos rfl]
  congr 1
  refine bt_ext fun k hk => ?_
  rw [bt_and, bt_xor, bt_xor, bt_shl1 _ (by omega) k hk, bt_m1 k hk]
  by_cases e : k = b % 16
  · rw [e, h]; simp
  · simp [e]
theorem mrk_on {D : Nat → Int32} {b : Nat} (h : ¬ usB D b) : mrkW D b 1 = trnW D b := by
  unfold mrkW trnW bitI
  rw [if_neg (by decide)]
  congr 1
  refine bt_ext fun k hk => ?_
  rw [bt_or, bt_xor, bt_shl1 _ (by omega) k hk]
  by_cases e : k = b % 16
  · rw [e, show bt (D (32 + b / 16)) (b % 16) = false from Bool.eq_false_iff.mpr h]; simp
  · simp [e]
theorem us_trn {D : Nat → Int32} {b b' : Nat} (hb : b < 32) : usB (trnW D b) b' ↔ if b' = b then ¬ usB D b else usB D b' := by
  unfold usB trnW bitI
  by_cases e : b' = b
  · subst e
    rw [if_pos rfl, upd_eq, bt_xor, bt_shl1 _ (by omega) _ (by omega)]
    simp
  · rw [if_neg e]
    by_cases e2 : 32 + b' / 16 = 32 + b / 16
    · rw [e2, upd_eq, bt_xor, bt_shl1 _ (by omega) _ (by omega)]
      have : ¬ b' % 16 = b % 16 := by omega
      simp [this]
    · rw [upd_ne _ _ e2]
theorem mrk_ent {W : Nat → Int32} {f k b : Nat} {v u : Int32} (hb : b < 32) : mrkW (entW W f k v) b u = entW (mrkW W b u) f k v := by
  unfold mrkW entW
  rw [upd_ne _ _ (show 32 + b / 16 ≠ 40 + 4 * f + k by omega)]
  exact upd_comm _ (by omega) _ _
/-- the files are sound -/
def FSI (D : Nat → Int32) : Prop := (∀ f, f < 6 → (D (40 + 4 * f) = 0 → ∀ k, k < 4 → D (40 + 4 * f + k) = 0) ∧ (∃ z, z ≤ 16 ∧ D (40 + 4 * f + 1) = Int32.ofNat z ∧ ∀ k, k < 2 → (D (40 + 4 * f + (2 + k)) = 0 ↔ z ≤ 8 * k)) ∧ ∀ k, k < 2 → ∃ v, v < 32 ∧ D (40 + 4 * f + (2 + k)) = Int32.ofNat v ∧ (v ≠ 0 → 8 ≤ v ∧ usB D v)) ∧ ∀ f k f' k', f < 6 → k < 2 → f' < 6 → k' < 2 → D (40 + 4 * f + (2 + k)) = D (40 + 4 * f' + (2 + k')) → D (40 + 4 * f + (2 + k)) ≠ 0 → f = f' ∧ k = k'
theorem FSI.fw {D : Nat → Int32} (I : FSI D) : FW D := by
  intro f hf
  obtain ⟨i1, ⟨z, z1, z2, z3⟩, i3⟩ := I.1 f hf
  refine ⟨⟨z, z1, z2⟩, fun k k2 k4 => ?_⟩
  obtain ⟨v, v1, v2, _⟩ := i3 (k - 2) (by omega)
  rw [show 2 + (k - 2) = k by omega] at v2
  exact ⟨v, v1, v2⟩
/-- what is asked of a disk depends on the map and the directory alone -/
theorem FSI.cong {D E : Nat → Int32} (I : FSI D) (h : ∀ a, 32 ≤ a → a < 64 → E a = D a) : FSI E := by
  have e : ∀ f k, f < 6 → k < 4 → E (40 + 4 * f + k) = D (40 + 4 * f + k) := fun f k hf hk => h _ (by omega) (by omega)
  have u : ∀ b, b < 32 → (usB E b ↔ usB D b) := fun b hb => by unfold usB; rw [h _ (by omega) (by omega)]
  refine ⟨fun f hf => ⟨fun z k hk => ?_, ?_, fun k hk => ?_⟩, fun f k f' k' hf hk hf' hk' => ?_⟩
  · rw [e f k hf hk]
    exact (I.1 f hf).1 ((h (40 + 4 * f) (by omega) (by omega)).symm.trans z) k hk
  · obtain ⟨z, z1, z2, z3⟩ := (I.1 f hf).2.1
    refine ⟨z, z1, (e f 1 hf (by omega)).trans z2, fun k hk => ?_⟩
    rw [e f (2 + k) hf (by omega)]
    exact z3 k hk
  · obtain ⟨v, v1, v2, v3⟩ := (I.1 f hf).2.2 k hk
    refine ⟨v, v1, (e f (2 + k) hf (by omega)).trans v2, fun v0 => ⟨(v3 v0).1, (u v v1).mpr (v3 v0).2⟩⟩
  · rw [e f (2 + k) hf (by omega), e f' (2 + k') hf' (by omega)]
    exact I.2 f k f' k' hf hk hf' hk'
theorem findR_cong {D E : Nat → Int32} (h : ∀ a, a < 64 → E a = D a) (x : Int32) : ∀ m k, k + m = 6 → findR E x m k = findR D x m k := by
  intro m
  induction m with
  | zero => intro k _; rfl
  | succ m ih =>
    intro k hk
    show (if E (40 + 4 * k) = x then Int32.ofNat k else findR E x m (k + 1)) = if D (40 + 4 * k) = x then Int32.ofNat k else findR D x m (k + 1)
    rw [h _ (by omega), ih (k + 1) (by omega)]
theorem freeR_cong {D E : Nat → Int32} (h : ∀ a, a < 64 → E a = D a) : ∀ m k, k + m = 32 → freeR E m k = freeR D m k := by
  intro m
  induction m with
  | zero => intro k _; rfl
  | succ m ih =>
    intro k hk
    show (if usedF E k = 0 then Int32.ofNat k else freeR E m (k + 1)) = if usedF D k = 0 then Int32.ofNat k else freeR D m (k + 1)
    rw [ih (k + 1) (by omega), show usedF E k = usedF D k from by unfold usedF; rw [h _ (by omega)]]
theorem freeR_not (D : Nat → Int32) : ∀ m k, k + m = 32 → ∀ v, v < 32 → freeR D m k = Int32.ofNat v → ¬ usB D v := by
  intro m
  induction m with
  | zero => intro k _ v hv e; exact absurd e.symm (ofNat_ne_neg (by omega))
  | succ m ih =>
    intro k hk v hv e
    have e' : (if usedF D k = 0 then Int32.ofNat k else freeR D m (k + 1)) = Int32.ofNat v := e
    by_cases q : usedF D k = 0
    · rw [if_pos q] at e'
      have := (i_eq (by omega) (by omega)).mp e'
      subst this
      intro u
      have := (bt_used (D := D) (b := k) (by omega)).mpr u
      rw [q] at this
      exact absurd this (by decide)
    · rw [if_neg q] at e'
      exact ih (k + 1) (by omega) v hv e'
theorem freeF_not {D : Nat → Int32} {v : Nat} (hv : v < 32) (h : freeF D = Int32.ofNat v) : ¬ usB D v := freeR_not D 24 8 rfl v hv h
theorem cnt_le3 {S : Nat → Prop} {t0 t1 t2 : Nat} (h : ∀ q, S q → q = t0 ∨ q = t1 ∨ q = t2) : ∀ N, cntS S N ≤ (if t0 < N then 1 else 0) + (if t1 < N then 1 else 0) + (if t2 < N then 1 else 0) := by
  have mo : ∀ t N : Nat, (if t < N then 1 else 0) ≤ (if t < N + 1 then 1 else 0) := fun t N => by split <;> split <;> omega
  have eq : ∀ N : Nat, (if N < N then 1 else 0) + 1 = (if N < N + 1 then 1 else 0) := fun N => by rw [if_neg (Nat.lt_irrefl N), if_pos (Nat.lt_succ_self N)]
  intro N
  induction N with
  | zero => exact Nat.zero_le _
  | succ N ih =>
    have m0 := mo t0 N; have m1 := mo t1 N; have m2 := mo t2 N
    by_cases q : S N
    · rw [cntS_y q]
      have e := eq N
      rcases h N q with z | z | z <;> rw [← z] at ih ⊢ <;> omega
    · rw [cntS_n q]; omega
theorem cnt_b {S : Nat → Prop} {t0 t1 t2 : Nat} (h : ∀ q, S q → q = t0 ∨ q = t1 ∨ q = t2) {q : Nat} (hq : S q) (q32 : q < 32) : 1 ≤ cntS S 32 ∧ cntS S 32 ≤ 3 := by
  have a := cnt_le3 h 32
  have b := cntS_lt hq q32
  refine ⟨by omega, Nat.le_trans a ?_⟩
  have u : ∀ t : Nat, (if t < 32 then 1 else 0) ≤ 1 := fun t => by split <;> omega
  have u0 := u t0; have u1 := u t1; have u2 := u t2
  omega
