/-! ArrayList: its cells, and what its methods do -/
abbrev objs (f : Nat → Option Nat) : (Nat → Int32) ⊕ (Nat → Int64) ⊕ (Nat → UInt32) ⊕ (Nat → UInt64) ⊕ (Nat → Option Nat) := .inr (.inr (.inr (.inr f)))
/-- the list at p: its row at arr of cap places, n things -/
def AL (h : ax_H) (p : Nat) (mc : Int32) (arr cap n : Nat) (it : Nat → Nat) : Prop :=
  h.1 p = .inr (4, [.int mc, .ref arr, .int (Int32.ofNat n)]) ∧ (∃ f, h.1 arr = .inl (4, cap, objs f) ∧ ∀ i, i < n → f i = some (it i)) ∧ n ≤ cap ∧ cap ≤ 1000 ∧ (cap = 0 → arr = 1) ∧ (0 < cap → 400 ≤ arr) ∧ 400 ≤ p ∧ p < 400 + h.2.1 ∧ arr < 400 + h.2.1
theorem AL.mono {h h' : ax_H} {p : Nat} {mc : Int32} {arr cap n : Nat} {it : Nat → Nat} (A : AL h p mc arr cap n it) (e1 : h'.1 p = h.1 p) (e2 : h'.1 arr = h.1 arr) (hh : h.2.1 ≤ h'.2.1) : AL h' p mc arr cap n it := by
  obtain ⟨a1, ⟨f, a2, a3⟩, a4, a5, a6, a7, a8, a9, a10⟩ := A
  exact ⟨e1.trans a1, ⟨f, e2.trans a2, a3⟩, a4, a5, a6, a7, a8, by omega, by omega⟩
theorem AL.ne {h : ax_H} {p : Nat} {mc : Int32} {arr cap n : Nat} {it : Nat → Nat} (A : AL h p mc arr cap n it) : arr ≠ p := by
  obtain ⟨a1, ⟨f, a2, a3⟩, _⟩ := A
  intro e
  rw [e, a1] at a2
  cases a2
theorem gcl_at {h : ax_H} {a c : Nat} {x : _} {E : Option ax_R} (h4 : 400 ≤ a) (e : h.1 a = .inl (4, c, x)) : dx_gcl (.ref a) h E = E := by
  show (if a < 400 then none else (match h.1 a with
    | .inl (4, _) => E
    | _ => none)) = _
  rw [if_neg (by omega), e]
  rfl
theorem eq_same {a : Nat} {A B : Option ax_R} : dx_eq (.ref a) (.ref a) A B = A := if_pos rfl
theorem i_pos {k : Nat} (h : 0 < k) (h2 : k < 2 ^ 31) : (0 : Int32) < Int32.ofNat k := (i_lt (a := 0) (by omega) h2).mpr h
section ALS
variable {d : Nat} {h : ax_H} {p : Nat} {mc : Int32} {arr cap n : Nat} {it : Nat → Nat}
theorem al_size (hd : 1 ≤ d) (A : AL h p mc arr cap n it) : ax_c d 59 [.ref p] h = some (.inl (some (.int (Int32.ofNat n))), h) := by
  obtain ⟨d, rfl, he⟩ := d_succ hd
  refine dx_app m_J2_size ?_
  rw [gI_at A.1 rfl rfl]; rfl
theorem i_neg {k : Nat} (h : k < 2 ^ 31) : ¬ Int32.ofNat k < 0 := by
  rw [Int32.lt_iff_toInt_lt, i_toInt h]
  have : (0 : Int32).toInt = 0 := rfl
  omega
theorem al_get (hd : 3 ≤ d) (A : AL h p mc arr cap n it) {k : Nat} (hk : k < n) : ax_c d 61 [.ref p, .int (Int32.ofNat k)] h = some (.inl (some (.ref (it k))), h) := by
  obtain ⟨d, rfl, he⟩ := d_succ hd
  obtain ⟨a1, ⟨f, a2, a3⟩, a4, a5, a6, a7, a8, a9, a10⟩ := A
  have e1 : ax_c d 79 [.int (Int32.ofNat k), .int (Int32.ofNat n)] h = some (.inl (some (.int (Int32.ofNat k))), h) := by
    obtain ⟨d1, rfl, he1⟩ := d_succ he
    refine dx_app m_J23_checkIndex ?_
    have : ax_c d1 57 [.int (Int32.ofNat k), .int (Int32.ofNat n), .null] h = some (.inl (some (.int (Int32.ofNat k))), h) := by
      obtain ⟨d2, rfl, he2⟩ := d_succ he1
      refine dx_app (m_J19_checkIndex rfl) ?_
      rw [if_neg (i_neg (by omega)), if_pos ((i_lt (by omega) (by omega)).mpr hk)]
    rw [this, cI_v]
  have e2 : ax_c d 62 [.ref p, .int (Int32.ofNat k)] h = some (.inl (some (.ref (it k))), h) := by
    obtain ⟨d, rfl, he⟩ := d_succ (k := 1) (by omega : 2 ≤ d)
    refine dx_app m_J2_elementData ?_
    rw [gA_r a1 rfl rfl, Option.bind_some, lA_at a2, ix_of rfl (show k < cap by omega) (by omega), Option.bind_some, Option.bind_some, a3 k hk]
    rfl
  refine dx_app m_J2_get ?_
  rw [gI_at a1 rfl rfl, Option.bind_some, e1, cI_v, vn_at a1]
  show Option.bind (some 62) _ = _
  rw [Option.bind_some, e2, cR_r]
theorem i_max (a b : Nat) (ha : a < 2 ^ 31) (hb : b < 2 ^ 31) : dx_max (Int32.ofNat a) (Int32.ofNat b) = Int32.ofNat (if a < b then b else a) := by
  show (if Int32.ofNat a < Int32.ofNat b then Int32.ofNat b else Int32.ofNat a) = _
  by_cases q : a < b
  · rw [if_pos q, if_pos ((i_lt ha hb).mpr q)]
  · rw [if_neg q, if_neg (fun z => q ((i_lt ha hb).mp z))]
theorem i_min (a b : Nat) (ha : a < 2 ^ 31) (hb : b < 2 ^ 31) : dx_min (Int32.ofNat a) (Int32.ofNat b) = Int32.ofNat (if b < a then b else a) := by
  show (if Int32.ofNat b < Int32.ofNat a then Int32.ofNat b else Int32.ofNat a) = _
  by_cases q : b < a
  · rw [if_pos q, if_pos ((i_lt hb ha).mpr q)]
  · rw [if_neg q, if_neg (fun z => q ((i_lt hb ha).mp z))]
theorem i_shr1 : ∀ k, k < 1001 → dx_shr (Int32.ofNat k) 1 = Int32.ofNat (k / 2) := by decide +kernel
/-- the row of a list that is full -/
theorem al_copyOf {c m : Nat} {a : Nat} {f : Nat → Option Nat} (hd : 2 ≤ d) (h4 : 400 ≤ a) (ha : a < 400 + h.2.1) (e : h.1 a = .inl (4, c, objs f)) (hcm : c ≤ m) (hm : m ≤ 100000) : ax_c d 13 [.ref a, .int (Int32.ofNat m)] h = some (.inl (some (.ref (400 + h.2.1))), ax_set (ax_new h (.inl (4, m, ax_dat 2)) m) (400 + h.2.1) (.inl (4, m, objs (va_cpy f (fun _ => none) 0 0 c)))) := by
  obtain ⟨d, rfl, he⟩ := d_succ hd
  refine dx_app (m_J13_copyOf_2 rfl) ?_
  rw [gcl_at h4 e]
  have e2 : ax_c d 14 [.ref a, .int (Int32.ofNat m), .ref 6] h = some (.inl (some (.ref (400 + h.2.1))), ax_set (ax_new h (.inl (4, m, ax_dat 2)) m) (400 + h.2.1) (.inl (4, m, objs (va_cpy f (fun _ => none) 0 0 c)))) := by
    obtain ⟨d, rfl, he⟩ := d_succ he
    refine dx_app (m_J13_copyOf_3 rfl rfl) ?_
    have hb : (ax_new h (.inl (4, m, ax_dat 2)) m).1 (400 + h.2.1) = .inl (4, m, objs fun _ => none) := new_eq _ _
    rw [eq_same, na_at rfl (by omega), len_at (n := c) ((new_ne _ _ (by omega)).trans e), Option.bind_some, i_min _ _ (by omega) (by omega), if_neg (by omega), acpA_at (f := f) (g := fun _ => none) (s := 0) (d := 0) (k := c) (sp := 0) (dp := 0) ((new_ne _ _ (by omega)).trans e) hb (by omega) rfl rfl rfl (by omega) (by omega) (by omega) (by omega)]
    rfl
  rw [e2, cR_r]
/-- one more -/
theorem al_addB {B : Nat} (hB : 2 * n + 10 ≤ B) (hB4 : B ≤ 1000) (hd : 6 ≤ d) (A : AL h p mc arr cap n it) {q k : Nat} {fs : List Value} (hq : h.1 q = .inr (k, fs)) (hk : k ∈ ax_objs) (hn : n < 300) (hc : cap ≤ B) (hq4 : q < 400 + h.2.1) (hqp : q ≠ p) : Ok (ax_c d 63 [.ref p, .ref q] h) (.inl (some (.int 1))) (fun h' => ∃ arr' cap', AL h' p (mc + 1) arr' cap' (n + 1) (fun i => if i = n then q else it i) ∧ cap' ≤ B ∧ (arr' = arr ∨ 400 + h.2.1 ≤ arr') ∧ Fr2 (fun r => r = p ∨ (r = arr ∧ 400 ≤ arr)) 1 (2 * n + 10) h h' ∧ ((cap = 0 ∨ 10 ≤ cap) → 10 ≤ cap' ∧ h'.2.2 + 4 * cap ≤ h.2.2 + 4 * cap')) := by
  have hap := A.ne
  obtain ⟨a1, ⟨f, a2, a3⟩, a4, a5, a6, a7, a8, a9, a10⟩ := A
  obtain ⟨d, rfl, he⟩ := d_succ hd
  refine Ok.le (m_J2_add rfl) ?_
  rw [gI_at a1 rfl rfl, Option.bind_some, pF_int a1 rfl (Nat.le_of_ble_eq_true rfl) a8, Option.bind_some, gA_r (p := arr) (set_eq _) rfl rfl, Option.bind_some, gI_at (set_eq _) rfl rfl, Option.bind_some, vn_at (set_eq _)]
  show Ok (Option.bind (some 64) _) _ _
  rw [Option.bind_some]
  show Ok (dx_cV (ax_c d 64 _ (ax_set h p (.inr (4, [.int (mc + 1), .ref arr, .int (Int32.ofNat n)])))) _ _) _ _
  refine Ok.V ?_ (fun h' p' => Ok.ret p')
  obtain ⟨h1, eh1⟩ : ∃ h1, h1 = ax_set h p (.inr (4, [.int (mc + 1), .ref arr, .int (Int32.ofNat n)])) := ⟨_, rfl⟩
  rw [← eh1]
  have b1 : h1.1 p = .inr (4, [.int (mc + 1), .ref arr, .int (Int32.ofNat n)]) := by rw [eh1]; exact set_eq _
  have b2 : h1.1 arr = .inl (4, cap, objs f) := by rw [eh1]; exact (set_ne _ hap).trans a2
  have bq : h1.1 q = .inr (k, fs) := by rw [eh1]; exact (set_ne _ hqp).trans hq
  have bs : h1.2 = h.2 := by rw [eh1]; rfl
  have bo : ∀ r, r ≠ p → h1.1 r = h.1 r := fun r hr => by rw [eh1]; exact set_ne _ hr
  clear eh1
  obtain ⟨d1, rfl, he1⟩ := d_succ he
  -- storing behind the growing
  have fin : ∀ (K : ax_K) (h2 : ax_H) (ar2 c2 : Nat) (f2 : Nat → Option Nat), h2.1 p = .inr (4, [.int (mc + 1), .ref ar2, .int (Int32.ofNat n)]) → h2.1 ar2 = .inl (4, c2, objs f2) → (∀ i, i < n → f2 i = some (it i)) → n < c2 → c2 ≤ B → 400 ≤ ar2 → ar2 ≠ p → h2.1 q = .inr (k, fs) → p < 400 + h2.2.1 → ar2 < 400 + h2.2.1 → (ar2 = arr ∨ 400 + h.2.1 ≤ ar2) → Fr2 (fun r => r = p ∨ (r = arr ∧ 400 ≤ arr)) 1 (2 * n + 10) h h2 → ((cap = 0 ∨ 10 ≤ cap) → 10 ≤ c2 ∧ h2.2.2 + 4 * cap ≤ h.2.2 + 4 * c2) → Ok (B_J2_add_2_11 K p (.ref q) (.ref ar2) (Int32.ofNat n) h2) (.inl none) (fun h' => ∃ arr' cap', AL h' p (mc + 1) arr' cap' (n + 1) (fun i => if i = n then q else it i) ∧ cap' ≤ B ∧ (arr' = arr ∨ 400 + h.2.1 ≤ arr') ∧ Fr2 (fun r => r = p ∨ (r = arr ∧ 400 ≤ arr)) 1 (2 * n + 10) h h' ∧ ((cap = 0 ∨ 10 ≤ cap) → 10 ≤ cap' ∧ h'.2.2 + 4 * cap ≤ h.2.2 + 4 * cap')) := by
    intro K h2 ar2 c2 f2 c1 c3 c4 c5 c6 c7 c8 c9 c10 c11 c12 c13 c14
    refine Ok.le (b_J2_add_2_11 rfl rfl) ?_
    rw [sA_at c3 c7 c9 hk, ix_of rfl c5 (by omega), Option.bind_some, Option.bind_some, pF_int ((set_ne _ (Ne.symm c8)).trans c1) rfl (Nat.le_of_ble_eq_true rfl) a8, Option.bind_some]
    refine Ok.ret ⟨ar2, c2, ⟨(set_eq _).trans ?_, ⟨va_up f2 n (some q), (set_ne _ c8).trans (set_eq _), ?_⟩, by omega, by omega, fun z => by omega, fun _ => c7, a8, c10, c11⟩, c6, c12, ?_, c14⟩
    · show (Sum.inr (4, [.int (mc + 1), .ref ar2, .int (Int32.ofNat n + 1)]) : ax_C) = _
      rw [show Int32.ofNat n + 1 = Int32.ofNat (n + 1) from i_add n 1]
    · intro i hi
      show (if i = n then some q else f2 i) = some (if i = n then q else it i)
      by_cases e : i = n
      · rw [if_pos e, if_pos e]
      · rw [if_neg e, if_neg e]; exact c4 i (by omega)
    · obtain ⟨x1, x2, x3, x4, x5⟩ := c13
      refine ⟨x1, x2, x3, x4, fun r hr hA => ?_⟩
      have r1 : r ≠ p := fun z => hA (Or.inl z)
      have r2 : r ≠ ar2 := fun z => by
        rcases c12 with w | w
        · exact hA (Or.inr ⟨z.trans w, by omega⟩)
        · omega
      exact (set_ne _ r1).trans ((set_ne _ r2).trans (x5 r hr hA))
  have fr0 : Fr2 (fun r => r = p ∨ (r = arr ∧ 400 ≤ arr)) 1 (2 * n + 10) h h1 := ⟨by rw [bs]; omega, by rw [bs]; omega, by rw [bs]; omega, by rw [bs]; omega, fun r _ hA => bo r fun z => hA (Or.inl z)⟩
  refine Ok.le (m_J2_add_2 rfl rfl) ?_
  rw [len_at b2, Option.bind_some]
  by_cases qq : n = cap
  · rw [if_neg (fun z => z (by rw [qq])), vn_at b1]
    show Ok (Option.bind (some 65) _) _ _
    rw [Option.bind_some]
    have gr : Ok (ax_c d1 65 [.ref p] h1) (.inl (some (.ref (400 + h.2.1)))) (fun h2 => ∃ c2 f2, h2.1 p = .inr (4, [.int (mc + 1), .ref (400 + h.2.1), .int (Int32.ofNat n)]) ∧ h2.1 (400 + h.2.1) = .inl (4, c2, objs f2) ∧ (∀ i, i < n → f2 i = some (it i)) ∧ n < c2 ∧ c2 ≤ 2 * n + 10 ∧ h2.2.1 = h.2.1 + 1 ∧ h2.2.2 = h.2.2 + c2 ∧ ((cap = 0 ∨ 10 ≤ cap) → 10 ≤ c2 ∧ 4 * cap ≤ 3 * c2) ∧ ∀ r, r < 400 + h.2.1 → r ≠ p → h2.1 r = h.1 r) := by
      obtain ⟨d2, rfl, he2⟩ := d_succ he1
      refine Ok.le m_J2_grow ?_
      rw [gI_at b1 rfl rfl, Option.bind_some, vn_at b1]
      show Ok (Option.bind (some 66) _) _ _
      rw [Option.bind_some, show Int32.ofNat n + 1 = Int32.ofNat (n + 1) from i_add n 1]
      refine Ok.R ?_ (fun h2 p2 => Ok.ret p2)
      obtain ⟨d3, rfl, he3⟩ := d_succ he2
      refine Ok.le m_J2_grow_2 ?_
      rw [gA_r b1 rfl rfl, Option.bind_some, len_at b2, Option.bind_some]
      by_cases q0 : cap = 0
      · have hn0 : n = 0 := by omega
        rw [if_neg (fun z => by rw [q0] at z; exact absurd z (by decide)), Option.bind_some, a6 q0]
        rw [eq_same, hn0, na_at (n := 10) (by decide) (by omega), pF_aref (p := 400 + h1.2.1) ((new_ne _ _ (by rw [bs]; omega)).trans b1) rfl (Nat.le_of_ble_eq_true rfl) a8, Option.bind_some, bs]
        refine Ok.ret ⟨10, fun _ => none, (set_eq _).trans ?_, (set_ne _ (by omega)).trans ?_, fun i hi => by omega, by omega, by omega, by show h1.2.1 + 1 = _; rw [bs], by show h1.2.2 + 10 = _; rw [bs], fun _ => ⟨by omega, by omega⟩, fun r hr hr2 => (set_ne _ hr2).trans ((new_ne _ _ (by rw [bs]; omega)).trans (bo r hr2))⟩
        · show _ = (Sum.inr (4, [.int (mc + 1), .ref (400 + h.2.1), .int (Int32.ofNat 0)]) : ax_C)
          rw [hn0]
          rfl
        · rw [show (400 + h.2.1 : Nat) = 400 + h1.2.1 by rw [bs]]; exact new_eq _ _
      · have h41 := a7 (by omega)
        rw [if_pos (i_pos (by omega) (by omega))]
        refine Ok.le b_J2_grow_2_20 ?_
        have e5 : ax_c d3 5 [.int (Int32.ofNat cap), .int (Int32.ofNat (n + 1) - Int32.ofNat cap), .int (dx_shr (Int32.ofNat cap) 1)] h1 = some (.inl (some (.int (Int32.ofNat (cap + if 1 < cap / 2 then cap / 2 else 1)))), h1) := by
          obtain ⟨d4, rfl, -⟩ := d_succ (k := 0) (by omega : 1 ≤ d3)
          refine dx_app m_J11_newLength ?_
          rw [i_sub (by omega), show n + 1 - cap = 1 by omega, i_shr1 cap (by omega), i_max 1 (cap / 2) (by omega) (by omega), i_add, lt_at]
          have hb : cap + (if 1 < cap / 2 then cap / 2 else 1) ≤ 2000 := by split <;> omega
          rw [if_neg (fun z => by have := (i_le (b := 0) (by omega) (by omega)).mp z; omega), if_neg (fun z => by have := (i_lt (a := 2147483639) (by omega) (by omega)).mp z; omega)]
        rw [e5, cI_v, gA_r b1 rfl rfl, Option.bind_some, al_copyOf (c := cap) (f := f) (by omega) h41 (by rw [bs]; omega) b2 (by omega) (by split <;> omega), cR_r, pF_aref (k := 4) (fs := [.int (mc + 1), .ref arr, .int (Int32.ofNat n)]) ((set_ne _ (by rw [bs]; omega)).trans ((new_ne _ _ (by rw [bs]; omega)).trans b1)) rfl (Nat.le_of_ble_eq_true rfl) a8, Option.bind_some, bs]
        refine Ok.ret ⟨cap + if 1 < cap / 2 then cap / 2 else 1, va_cpy f (fun _ => none) 0 0 cap, set_eq _, (set_ne _ (by omega)).trans (set_eq _), fun i hi => ?_, by split <;> omega, by split <;> omega, by show h1.2.1 + 1 = _; rw [bs], by show h1.2.2 + _ = _; rw [bs], fun _ => ⟨by split <;> omega, by split <;> omega⟩, fun r hr hr2 => (set_ne _ hr2).trans ((set_ne _ (by omega)).trans ((new_ne _ _ (by rw [bs]; omega)).trans (bo r hr2)))⟩
        show (if 0 ≤ i ∧ i < 0 + cap then f (0 + (i - 0)) else none) = _
        rw [if_pos ⟨by omega, by omega⟩, Nat.zero_add, Nat.sub_zero]
        exact a3 i hi
    refine Ok.R gr ?_
    rintro h2 ⟨c2, f2, x1, x2, x3, x4, x5, x6, x7, x9, x8⟩
    refine fin _ h2 (400 + h.2.1) c2 f2 x1 x2 x3 x4 (Nat.le_trans x5 hB) (by omega) (by omega) ((x8 q hq4 hqp).trans hq) (by omega) (by omega) (Or.inr (Nat.le_refl _)) ⟨by omega, by omega, by omega, by omega, fun r hr hA => x8 r hr fun z => hA (Or.inl z)⟩ fun z => ⟨(x9 z).1, by have := (x9 z).2; omega⟩
  · rw [if_pos (fun z => qq ((i_eq (by omega) (by omega)).mp z))]
    exact fin _ h1 arr cap f b1 b2 a3 (by omega) hc (a7 (by omega)) hap bq (by rw [bs]; exact a9) (by rw [bs]; exact a10) (Or.inl rfl) fr0 fun z => ⟨by omega, by rw [bs]; omega⟩
theorem al_add (hd : 6 ≤ d) (A : AL h p mc arr cap n it) {q k : Nat} {fs : List Value} (hq : h.1 q = .inr (k, fs)) (hk : k ∈ ax_objs) (hn : n < 300) (hc : cap ≤ 2 * n + 10) (hq4 : q < 400 + h.2.1) (hqp : q ≠ p) : Ok (ax_c d 63 [.ref p, .ref q] h) (.inl (some (.int 1))) (fun h' => ∃ arr' cap', AL h' p (mc + 1) arr' cap' (n + 1) (fun i => if i = n then q else it i) ∧ cap' ≤ 2 * n + 10 ∧ (arr' = arr ∨ 400 + h.2.1 ≤ arr') ∧ Fr2 (fun r => r = p ∨ (r = arr ∧ 400 ≤ arr)) 1 (2 * n + 10) h h') := (al_addB (Nat.le_refl _) (by omega) hd A hq hk hn hc hq4 hqp).imp fun h' ⟨a', c', x1, x2, x3, x4, _⟩ => ⟨a', c', x1, x2, x3, x4⟩
/-- none any more -/
theorem al_clear (hd : 1 ≤ d) (A : AL h p mc arr cap n it) : Ok (ax_c d 60 [.ref p] h) (.inl none) (fun h' => AL h' p (mc + 1) arr cap 0 it ∧ Fr2 (fun r => r = p ∨ (r = arr ∧ 400 ≤ arr)) 0 0 h h') := by
  have hap := A.ne
  obtain ⟨a1, ⟨f, a2, a3⟩, a4, a5, a6, a7, a8, a9, a10⟩ := A
  obtain ⟨d, rfl, he⟩ := d_succ hd
  refine Ok.le m_J2_clear ?_
  rw [gI_at a1 rfl rfl, Option.bind_some, pF_int a1 rfl (Nat.le_of_ble_eq_true rfl) a8, Option.bind_some, gA_r (p := arr) (set_eq _) rfl rfl, Option.bind_some, gI_at (set_eq _) rfl rfl, Option.bind_some, pF_int (set_eq _) rfl (Nat.le_of_ble_eq_true rfl) a8, Option.bind_some]
  have loop : ∀ m k : Nat, k + m = n → ∀ h1 : ax_H, h1.1 p = .inr (4, [.int (mc + 1), .ref arr, .int 0]) → (∃ f, h1.1 arr = .inl (4, cap, objs f)) → Fr2 (fun r => r = p ∨ (r = arr ∧ 400 ≤ arr)) 0 0 h h1 → Ok (B_J2_clear_27 (ax_c d) (.ref arr) (Int32.ofNat n) (Int32.ofNat k) h1) (.inl none) (fun h' => AL h' p (mc + 1) arr cap 0 it ∧ Fr2 (fun r => r = p ∨ (r = arr ∧ 400 ≤ arr)) 0 0 h h') := by
    intro m
    induction m with
    | zero =>
      intro k hk h1 c1 c2 c3
      obtain rfl : k = n := by omega
      obtain ⟨f1, c2⟩ := c2
      refine Ok.le (b_J2_clear_27 rfl) ?_
      rw [if_pos ((i_le (by omega) (by omega)).mpr (Nat.le_refl _))]
      exact Ok.ret ⟨⟨c1, ⟨f1, c2, fun i hi => by omega⟩, by omega, a5, a6, a7, a8, by have := c3.1; omega, by have := c3.1; omega⟩, c3⟩
    | succ m ih =>
      intro k hk h1 c1 c2 c3
      obtain ⟨f1, c2⟩ := c2
      refine Ok.le (b_J2_clear_27 rfl) ?_
      have h41 := a7 (by omega)
      rw [if_neg (i_ge_not (by omega) (by omega)), sA_null c2 h41, ix_of rfl (show k < cap by omega) (by omega), Option.bind_some, Option.bind_some, lt_at, show Int32.ofNat k + 1 = Int32.ofNat (k + 1) from i_add k 1]
      refine ih (k + 1) (by omega) _ ((set_ne _ (Ne.symm hap)).trans c1) ⟨_, set_eq _⟩ (c3.tr (Fr2.set (Or.inr ⟨rfl, h41⟩)))
  exact loop n 0 (by omega) _ (set_eq _) ⟨f, (set_ne _ hap).trans ((set_ne _ hap).trans a2)⟩ ((Fr2.set (Or.inl rfl)).tr (Fr2.set (Or.inl rfl)))
end ALS
