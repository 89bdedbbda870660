/-! the twin's machine: on, its steps -/
/- with RA AR.ra IV.step IV.b20 IV.it IV.start KR.of in_step MKm.cong2 t_makesAnew itC MA stC kpN -/
/-- a machine that is on: N steps made from the start, n of them kept -/
def ON (N n : Nat) (K : kk_K) (ds0 img : Nat → Int32) : Prop := n ≤ N ∧ N ≤ 1000 ∧ n ≤ 200 ∧ KT K ∧ IG img ∧ DG ds0
/-- the twin's rows of it -/
def TO (N n : Nat) (K : kk_K) (ds0 img : Nat → Int32) (v : Int32) (s : Nat → Nat → Int32) : Prop := RA 0 (itC K (stC ds0 img K v) N) s ∧ KR K s ∧ s 40 0 = Int32.ofNat n ∧ (∀ a, a < 256 → s 53 a = img a) ∧ (∀ a, a < 256 → s 54 a = ds0 a) ∧ s 55 0 = v ∧ MA K (stC ds0 img K v) N s
/-- fields that are not the machine's stay -/
def SF (s s' : Nat → Nat → Int32) : Prop := ∀ f, (f ≠ 0 ∧ f < 23) ∨ 56 ≤ f → s' f = s f
/-- it can go on -/
def goP (K : kk_K) (c0 : Nat → Int32) (N : Nat) : Prop := itC K c0 N 0 = 1 ∧ N < 1000
noncomputable def rnN (K : kk_K) (c0 : Nat → Int32) : Nat → Nat → Nat
  | 0, _ => 0
  | k + 1, N => @ite _ (goP K c0 N) (Classical.propDecidable _) (rnN K c0 k (N + 1) + 1) 0
/-- it is there -/
def atP (K : kk_K) (c0 : Nat → Int32) (x : Int32) (N : Nat) : Prop := itC K c0 N 3 = x ∧ itC K c0 N 18 = 0
noncomputable def rtN (K : kk_K) (c0 : Nat → Int32) (x : Int32) : Nat → Nat → Nat
  | 0, _ => 0
  | k + 1, N => @ite _ (goP K c0 N) (Classical.propDecidable _) (@ite _ (atP K c0 x (N + 1)) (Classical.propDecidable _) 1 (rtN K c0 x k (N + 1) + 1)) 0
def kpI : Nat → Nat → Nat
  | 0, n => n
  | r + 1, n => kpI r (kpN n)
theorem kpN_le {n N : Nat} (h : n ≤ N) (h2 : n ≤ 200) : kpN n ≤ N + 1 ∧ kpN n ≤ 200 := by
  unfold kpN
  split <;> omega
section TOS
variable {N n : Nat} {v : Int32} {s s' : Nat → Nat → Int32} {ds0 img : Nat → Int32} {K : kk_K}
theorem ON.iv (O : ON N n K ds0 img) : IV N K (itC K (stC ds0 img K v) N) := (IV.start (v := v) O.2.2.2.1.1.1 O.2.2.2.2.1 O.2.2.2.2.2).it O.2.2.2.1 N O.2.1
theorem ON.go (O : ON N n K ds0 img) (h : N < 1000) : ON (N + 1) (kpN n) K ds0 img := ⟨(kpN_le O.1 O.2.2.1).1, by omega, (kpN_le O.1 O.2.2.1).2, O.2.2.2⟩
theorem TO.cong (T : TO N n K ds0 img v s) (h : ∀ f, 23 ≤ f → f < 56 → s' f = s f) : TO N n K ds0 img v s' := by
  obtain ⟨⟨r1, r2, r3, r4⟩, t2, t3, t4, t5, t6, t7⟩ := T
  refine ⟨⟨r1.cong fun f f1 f2 f3 f4 => h f f1 (by omega), ⟨r2.1, fun i hi => by rw [h 36 (by omega) (by omega)]; exact r2.2 i hi⟩, ⟨by rw [h 46 (by omega) (by omega)]; exact r3.1, fun z => ?_⟩, by rw [h 52 (by omega) (by omega)]; exact r4⟩, t2.of fun f f1 f2 => h f (by omega) (by omega), by rw [h 40 (by omega) (by omega)]; exact t3, fun a ha => by rw [h 53 (by omega) (by omega)]; exact t4 a ha, fun a ha => by rw [h 54 (by omega) (by omega)]; exact t5 a ha, by rw [h 55 (by omega) (by omega)]; exact t6, fun k hk => (t7 k hk).cong2 (by rw [h 44 (by omega) (by omega)]) (by rw [h 45 (by omega) (by omega)])⟩
  rw [h 47 (by omega) (by omega), h 48 (by omega) (by omega), h 49 (by omega) (by omega)]
  exact r3.2 z
theorem TO.t0 {x : Int32} (T : TO N n K ds0 img v s) : TO N n K ds0 img v (tw_up s 0 0 x) := T.cong fun f f1 _ => by rw [tw_up_at, if_neg (by omega)]
theorem SF.t0 {x : Int32} : SF s (tw_up s 0 0 x) := fun f hf => by rw [tw_up_at, if_neg (by omega)]
theorem SF.tr {s'' : Nat → Nat → Int32} (A : SF s s') (B : SF s' s'') : SF s s'' := fun f hf => (B f hf).trans (A f hf)
theorem SF.rf : SF s s := fun _ _ => rfl
theorem t_isMachine {d : Nat} (hd : 1 ≤ d) (h : ax_H) : ax_c d 405 [.ref 417] (tw_H h s) = some (.inl (some (.int (if s 23 0 = 0 then 0 else 1))), tw_H h s) := by
  obtain ⟨d, rfl, -⟩ := d_succ hd
  refine dx_app m_X3_isMachine ?_
  rw [tg_23, Option.bind_some]
  split <;> rfl
/-- one step more, and it is kept -/
theorem t_stepK (O : ON N n K ds0 img) (T : TO N n K ds0 img v s) (hN : N < 1000) {d : Nat} (hd : 10 ≤ d) (h : ax_H) : ∃ s', ax_c d 418 [.ref 417] (tw_H h s) = some (.inl none, tw_H h s') ∧ TO (N + 1) (kpN n) K ds0 img v s' ∧ (∀ f, f < 23 ∨ 56 ≤ f → s' f = s f) := by
  obtain ⟨d, rfl, he⟩ := d_succ hd
  obtain ⟨t1, t2, t3, t4, t5, t6, t7⟩ := T
  obtain ⟨s', i1, A⟩ := in_step t1 (O.iv (v := v)) O.2.2.2.1 t2 hN (d := d) (by omega) h
  have f0 := A.2.2.2.2.2.1
  have fk := A.2.2.2.2.2.2
  have k40 : s' 40 0 = Int32.ofNat n := by rw [f0 40 (by omega)]; exact t3
  have n200 := O.2.2.1
  refine ⟨tw_up s' 40 0 (Int32.ofNat (kpN n)), dx_app m_X3_stepsAndKeeps ?_, ?_, fun f hf => by rw [tw_up_at, if_neg (by omega)]; exact f0 f (by omega)⟩
  · rw [tw_vn, Option.bind_some, i1, cV_v, tg_40, Option.bind_some, Option.bind_some, k40]
    unfold kpN
    by_cases q : n + 1 ≤ 200
    · rw [if_pos q, if_neg (show ¬ (200 : Int32) ≤ Int32.ofNat n from i_ge_not (n := 200) (k := n) (by omega) (by omega)), tp_40, Option.bind_some, show Int32.ofNat n + 1 = Int32.ofNat (n + 1) from i_add n 1]
    · rw [if_neg q, if_pos (show (200 : Int32) ≤ Int32.ofNat n from (i_le (a := 200) (by omega) (by omega)).mpr (by omega)), tp_40, Option.bind_some, Int32.add_zero]
  · have R := A.ra
    have ne : ∀ f, f ≠ 40 → tw_up s' 40 0 (Int32.ofNat (kpN n)) f = s' f := fun f hf => by rw [tw_up_at, if_neg hf]
    obtain ⟨r1, r2, r3, r4⟩ := R
    refine ⟨⟨r1.sks (by omega), ⟨r2.1, fun i hi => by rw [ne 36 (by decide)]; exact r2.2 i hi⟩, ⟨by rw [ne 46 (by decide)]; exact r3.1, fun z => by rw [ne 47 (by decide), ne 48 (by decide), ne 49 (by decide)]; exact r3.2 z⟩, by rw [ne 52 (by decide)]; exact r4⟩, ?_, rfl, fun a ha => by rw [ne 53 (by decide), f0 53 (by omega)]; exact t4 a ha, fun a ha => by rw [ne 54 (by decide), f0 54 (by omega)]; exact t5 a ha, by rw [ne 55 (by decide), f0 55 (by omega)]; exact t6, fun k hk => ?_⟩
    · unfold KR
      rw [ne 41 (by decide), ne 42 (by decide), ne 43 (by decide), f0 41 (by omega), f0 42 (by omega), f0 43 (by omega)]
      exact t2
    · refine MKm.cong2 ?_ (by rw [ne 44 (by decide)]) (by rw [ne 45 (by decide)])
      rcases Nat.lt_or_ge k N with z | z
      · have := fk k (by omega)
        exact (t7 k z).cong2 this.1 this.2
      · obtain rfl : k = N := by omega
        exact A.2.2.2.2.1
theorem TO.g (T : TO N n K ds0 img v s) {p : Nat} (h : p < 18) : s (fF p) (fI p) = itC K (stC ds0 img K v) N p := T.1.1.sml h
theorem TO.st (O : ON N n K ds0 img) (T : TO N n K ds0 img v s) : s 38 0 = Int32.ofNat N := (T.g (p := 2) (by omega)).trans (O.iv (v := v)).2.2.1
theorem t_canStep (O : ON N n K ds0 img) (T : TO N n K ds0 img v s) {d : Nat} (hd : 1 ≤ d) (h : ax_H) : ax_c d 417 [.ref 417] (tw_H h s) = some (.inl (some (.int (@ite _ (goP K (stC ds0 img K v) N) (Classical.propDecidable _) 1 0))), tw_H h s) := by
  obtain ⟨d, rfl, -⟩ := d_succ hd
  refine dx_app m_X3_canStep ?_
  have e0 : s 23 0 = itC K (stC ds0 img K v) N 0 := T.g (p := 0) (by omega)
  have n1 := O.2.1
  rw [tg_23, Option.bind_some, e0]
  by_cases q : itC K (stC ds0 img K v) N 0 = 1
  · rw [if_neg (fun z => z q), tg_38, Option.bind_some, TO.st O T]
    by_cases q2 : N < 1000
    · rw [if_neg (show ¬ (1000 : Int32) ≤ Int32.ofNat N from i_ge_not (n := 1000) q2 (by omega)), @if_pos _ (Classical.propDecidable _) (show goP K (stC ds0 img K v) N from ⟨q, q2⟩)]
    · rw [if_pos (show (1000 : Int32) ≤ Int32.ofNat N from (i_le (a := 1000) (by omega) (by omega)).mpr (by omega)), @if_neg _ (Classical.propDecidable _) (show ¬ goP K (stC ds0 img K v) N from fun z => q2 z.2)]
  · rw [if_pos q, @if_neg _ (Classical.propDecidable _) (show ¬ goP K (stC ds0 img K v) N from fun z => q z.1)]
theorem t_step37 {d : Nat} (hd : 10 ≤ d) (h : ax_H) {k : Nat} (hk : k ≤ 100) : ∀ m j, j + m = k → ∀ (N n : Nat) (s : Nat → Nat → Int32), ON N n K ds0 img → TO N n K ds0 img v s → ∃ s', B_X3_step_37 (ax_c d) 417 (Int32.ofNat k) (Int32.ofNat j) (tw_H h s) = some (.inl (some (.int (Int32.ofNat (j + rnN K (stC ds0 img K v) m N)))), tw_H h s') ∧ ON (N + rnN K (stC ds0 img K v) m N) (kpI (rnN K (stC ds0 img K v) m N) n) K ds0 img ∧ TO (N + rnN K (stC ds0 img K v) m N) (kpI (rnN K (stC ds0 img K v) m N) n) K ds0 img v s' ∧ (∀ f, f < 23 ∨ 56 ≤ f → s' f = s f) := by
  intro m
  induction m with
  | zero =>
    intro j hj N n s O T
    obtain rfl : j = k := by omega
    refine ⟨s, dx_app b_X3_step_37 ?_, O, T, fun _ _ => rfl⟩
    rw [if_pos (Int32.le_refl _)]; rfl
  | succ m ih =>
    intro j hj N n s O T
    by_cases q : goP K (stC ds0 img K v) N
    · have er : rnN K (stC ds0 img K v) (m + 1) N = rnN K (stC ds0 img K v) m (N + 1) + 1 := @if_pos _ (Classical.propDecidable _) q _ _ _
      obtain ⟨s1, a1, a2, a3⟩ := t_stepK O T q.2 hd h
      obtain ⟨s', b1, b2, b3, b4⟩ := ih (j + 1) (by omega) (N + 1) (kpN n) s1 (O.go q.2) a2
      rw [er]
      rw [show N + 1 + rnN K (stC ds0 img K v) m (N + 1) = N + (rnN K (stC ds0 img K v) m (N + 1) + 1) by omega] at b2 b3
      refine ⟨s', dx_app b_X3_step_37 ?_, b2, b3, fun f hf => (b4 f hf).trans (a3 f hf)⟩
      rw [if_neg (i_ge_not (by omega) (by omega)), tw_vn, Option.bind_some, t_canStep O T (by omega) h, @if_pos _ (Classical.propDecidable _) q, cI_v, if_neg (by decide), tw_vn, Option.bind_some, a1, cV_v, lt_at, show Int32.ofNat j + 1 = Int32.ofNat (j + 1) from i_add j 1, b1, show j + 1 + rnN K (stC ds0 img K v) m (N + 1) = j + (rnN K (stC ds0 img K v) m (N + 1) + 1) by omega]
    · have er : rnN K (stC ds0 img K v) (m + 1) N = 0 := @if_neg _ (Classical.propDecidable _) q _ _ _
      rw [er]
      refine ⟨s, dx_app b_X3_step_37 ?_, O, T, fun _ _ => rfl⟩
      rw [if_neg (i_ge_not (by omega) (by omega)), tw_vn, Option.bind_some, t_canStep O T (by omega) h, @if_neg _ (Classical.propDecidable _) q, cI_v, if_pos rfl]; rfl
theorem TO.on (O : ON N n K ds0 img) (T : TO N n K ds0 img v s) : s 23 0 ≠ 0 := by
  rw [show s 23 0 = itC K (stC ds0 img K v) N 0 from T.g (p := 0) (by omega)]
  exact (O.iv (v := v)).2.2.2.1
theorem inI_1 {x lo hi : Int32} (h : inI x lo hi ≠ 0) : inI x lo hi = 1 := by
  unfold inI at h ⊢
  split
  · rename_i z; rw [if_pos z] at h; exact absurd rfl h
  · rename_i z
    rw [if_neg z] at h
    split
    · rename_i y; rw [if_pos y] at h; exact absurd rfl h
    · rfl
theorem inI_val {x : Int32} {lo hi : Nat} (hh : hi < 2 ^ 31) (hl : lo < 2 ^ 31) : inI x (Int32.ofNat lo) (Int32.ofNat hi) ≠ 0 ↔ ∃ k, lo ≤ k ∧ k ≤ hi ∧ x = Int32.ofNat k := by
  unfold inI
  constructor
  · intro z
    by_cases q : x < Int32.ofNat lo
    · rw [if_pos q] at z; exact absurd rfl z
    rw [if_neg q] at z
    by_cases q2 : Int32.ofNat hi < x
    · rw [if_pos q2] at z; exact absurd rfl z
    have a := Int32.not_lt.mp q
    have b := Int32.not_lt.mp q2
    have r : rg hi x := by
      rw [Int32.le_iff_toInt_le] at a b
      rw [show (Int32.ofNat hi).toInt = hi from Int32.toInt_ofNat_of_lt hh] at b
      rw [show (Int32.ofNat lo).toInt = lo from Int32.toInt_ofNat_of_lt hl] at a
      exact ⟨by omega, b⟩
    obtain ⟨n1, n2⟩ := rg.nat r
    refine ⟨nn x, ?_, n1, n2⟩
    rw [n2] at a
    exact (i_le hl (by omega)).mp a
  · rintro ⟨k, k1, k2, rfl⟩
    rw [if_neg (fun z => by have := (i_lt (by omega) (by omega)).mp z; omega), if_neg (fun z => by have := (i_lt (by omega) (by omega)).mp z; omega)]
    decide
/-- step: numbers out of range, machine off, steps -/
theorem t_step_bad {x : Int32} (hx : inI x 1 100 = 0) {d : Nat} (hd : 2 ≤ d) (h : ax_H) : ax_c d 416 [.ref 417, .int x] (tw_H h s) = some (.inl (some (.int 0)), tw_H h (tw_up s 0 0 1)) := by
  obtain ⟨d, rfl, he⟩ := d_succ hd
  refine dx_app m_X3_step ?_
  rw [t_in he, cI_v, hx, if_neg (fun z => z rfl), tw_vn, Option.bind_some, t_holds he, cI_v, if_neg (show ¬ (1 : Int32) = 0 by decide), if_neg (fun z => z rfl)]
theorem t_step_off {x : Int32} (hx : inI x 1 100 ≠ 0) (h0 : s 23 0 = 0) {d : Nat} (hd : 2 ≤ d) (h : ax_H) : ax_c d 416 [.ref 417, .int x] (tw_H h s) = some (.inl (some (.int 0)), tw_H h (tw_up s 0 0 2)) := by
  obtain ⟨d, rfl, he⟩ := d_succ hd
  refine dx_app m_X3_step ?_
  rw [t_in he, cI_v, if_pos hx, tw_vn, Option.bind_some, t_isMachine he, cI_v, if_pos h0, if_pos rfl, tw_vn, Option.bind_some, t_holds he, cI_v, if_neg (show ¬ (2 : Int32) = 0 by decide), if_neg (fun z => z rfl)]
theorem t_step_yes (O : ON N n K ds0 img) (T : TO N n K ds0 img v s) {k : Nat} (h1 : 1 ≤ k) (hk : k ≤ 100) {d : Nat} (hd : 11 ≤ d) (h : ax_H) : ∃ s', ax_c d 416 [.ref 417, .int (Int32.ofNat k)] (tw_H h s) = some (.inl (some (.int (Int32.ofNat (rnN K (stC ds0 img K v) k N)))), tw_H h s') ∧ ON (N + rnN K (stC ds0 img K v) k N) (kpI (rnN K (stC ds0 img K v) k N) n) K ds0 img ∧ TO (N + rnN K (stC ds0 img K v) k N) (kpI (rnN K (stC ds0 img K v) k N) n) K ds0 img v s' ∧ SF s s' ∧ s' 0 0 = 0 := by
  obtain ⟨d, rfl, he⟩ := d_succ hd
  have n0 := TO.on O T
  obtain ⟨s', a1, a2, a3, a4⟩ := t_step37 (d := d) (by omega) h hk k 0 (by omega) N n (tw_up s 0 0 0) O T.t0
  rw [Nat.zero_add] at a1
  refine ⟨s', dx_app m_X3_step ?_, a2, a3, fun f hf => (a4 f (by omega)).trans (SF.t0 f hf), by rw [a4 0 (by omega)]; rfl⟩
  rw [t_in (by omega), cI_v, if_pos (show ¬ inI (Int32.ofNat k) 1 100 = 0 from (inI_val (lo := 1) (hi := 100) (by omega) (by omega)).mpr ⟨k, h1, hk, rfl⟩), tw_vn, Option.bind_some, t_isMachine (by omega), cI_v, if_neg n0, if_neg (show ¬ (1 : Int32) = 0 by decide), tw_vn, Option.bind_some, t_holds (by omega), cI_v, if_pos rfl, if_pos (by decide)]
  exact a1
end TOS
