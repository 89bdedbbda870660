/-! the twin's machine: going to an address, back, crashing, formatting -/
/- with RA AR.ra TO TO.t0 TO.g TO.on TO.st TO.cong ON ON.iv ON.go SF SF.t0 SF.tr t_stepK t_canStep t_isMachine rtN kpI atP goP CG.ne wl_val wlC inI_val formC zerC formS sleepS DK CK.dk -/
/-- a machine that is off -/
def OF (c : Nat → Int32) : Prop := (∀ p, p < 364 ∨ 621 ≤ p → c p = 0) ∧ (∀ a, a < 256 → rg 65535 (ds c a)) ∧ DK (ds c)
def TF (c : Nat → Int32) (s : Nat → Nat → Int32) : Prop := RA 0 c s ∧ s 40 0 = 0
theorem fil_cong {D E : Nat → Int32} (h : ∀ a, a < 256 → E a = D a) : ∀ f, f ≤ 6 → filN E f = filN D f := by
  intro f
  induction f with
  | zero => intro _; rfl
  | succ f ih =>
    intro hf
    unfold filN
    rw [ih (by omega), h _ (by omega)]
section TRS
variable {N n : Nat} {v : Int32} {s s' : Nat → Nat → Int32} {c ds0 img : Nat → Int32} {K : kk_K}
theorem CK.wl (C : CK c) : wlC c = 0 ↔ c 18 = 0 := by
  constructor
  · intro z
    rcases C with ⟨z1, -⟩ | ⟨m, k, W, G⟩
    · exact z1
    · obtain ⟨g1, g2, ⟨m1, m3, k1, c3⟩, -⟩ := G
      rw [wl_val g1 g2 m1 m3 (by omega)] at z
      have := (i_eq (b := 0) (by omega) (by omega)).mp z
      omega
  · exact fun z => if_pos z
theorem t_runTo51 {x : Int32} {d : Nat} (hd : 10 ≤ d) (h : ax_H) {k : Nat} (hk : k ≤ 100) : ∀ m j, j + m = k → ∀ (N n : Nat) (s : Nat → Nat → Int32), ON N n K ds0 img → TO N n K ds0 img v s → ∃ s', B_X3_runTo_51 (ax_c d) 417 x (Int32.ofNat k) (Int32.ofNat j) 0 (tw_H h s) = some (.inl (some (.int (Int32.ofNat (j + rtN K (stC ds0 img K v) x m N)))), tw_H h s') ∧ ON (N + rtN K (stC ds0 img K v) x m N) (kpI (rtN K (stC ds0 img K v) x m N) n) K ds0 img ∧ TO (N + rtN K (stC ds0 img K v) x m N) (kpI (rtN K (stC ds0 img K v) x m N) n) K ds0 img v s' ∧ (∀ f, f < 23 ∨ 56 ≤ f → s' f = s f) := by
  intro m
  induction m with
  | zero =>
    intro j hj N n s O T
    obtain rfl : j = k := by omega
    refine ⟨s, dx_app b_X3_runTo_51 ?_, O, T, fun _ _ => rfl⟩
    rw [if_pos (Int32.le_refl _)]; rfl
  | succ m ih =>
    intro j hj N n s O T
    by_cases q : goP K (stC ds0 img K v) N
    · obtain ⟨s1, a1, a2, a3⟩ := t_stepK O T q.2 hd h
      have O1 := O.go q.2
      have e27 : s1 27 0 = itC K (stC ds0 img K v) (N + 1) 3 := a2.g (p := 3) (by omega)
      have e46 : s1 46 0 = 0 ↔ itC K (stC ds0 img K v) (N + 1) 18 = 0 := by rw [a2.1.2.2.1.1]; exact CK.wl (O1.iv (v := v)).2.1
      have first : ∀ (E : Option ax_R) (F : Nat → Nat → Int32 → ax_H → Option ax_R), B_X3_runTo_51 (ax_c d) 417 x (Int32.ofNat k) (Int32.ofNat j) 0 (tw_H h s) = B_X3_runTo_51 (ax_c d) 417 x (Int32.ofNat k) (Int32.ofNat j) 0 (tw_H h s) := fun _ _ => rfl
      by_cases qa : atP K (stC ds0 img K v) x (N + 1)
      · have er : rtN K (stC ds0 img K v) x (m + 1) N = 1 := (@if_pos _ (Classical.propDecidable _) q _ _ _).trans (@if_pos _ (Classical.propDecidable _) qa _ _ _)
        rw [er]
        refine ⟨s1, dx_app b_X3_runTo_51 ?_, O1, a2, a3⟩
        rw [if_neg (i_ge_not (by omega) (by omega)), if_neg (fun z => z rfl), tw_vn, Option.bind_some, t_canStep O T (by omega) h, @if_pos _ (Classical.propDecidable _) q, cI_v, if_neg (by decide), tw_vn, Option.bind_some, a1, cV_v, lt_at, show Int32.ofNat j + 1 = Int32.ofNat (j + 1) from i_add j 1, tg_27, Option.bind_some, if_neg (fun z => z (e27.trans qa.1)), tg_46, Option.bind_some, if_neg (fun z => z (e46.mpr qa.2))]
        refine dx_app b_X3_runTo_51 ?_
        by_cases qk : Int32.ofNat k ≤ Int32.ofNat (j + 1)
        · rw [if_pos qk]
        · rw [if_neg qk, if_pos (by decide)]
      · have er : rtN K (stC ds0 img K v) x (m + 1) N = rtN K (stC ds0 img K v) x m (N + 1) + 1 := (@if_pos _ (Classical.propDecidable _) q _ _ _).trans (@if_neg _ (Classical.propDecidable _) qa _ _ _)
        obtain ⟨s', b1, b2, b3, b4⟩ := ih (j + 1) (by omega) (N + 1) (kpN n) s1 O1 a2
        rw [er]
        rw [show N + 1 + rtN K (stC ds0 img K v) x m (N + 1) = N + (rtN K (stC ds0 img K v) x m (N + 1) + 1) by omega] at b2 b3
        refine ⟨s', dx_app b_X3_runTo_51 ?_, b2, b3, fun f hf => (b4 f hf).trans (a3 f hf)⟩
        rw [show j + 1 + rtN K (stC ds0 img K v) x m (N + 1) = j + (rtN K (stC ds0 img K v) x m (N + 1) + 1) by omega] at b1
        rw [if_neg (i_ge_not (by omega) (by omega)), if_neg (fun z => z rfl), tw_vn, Option.bind_some, t_canStep O T (by omega) h, @if_pos _ (Classical.propDecidable _) q, cI_v, if_neg (by decide), tw_vn, Option.bind_some, a1, cV_v, lt_at, show Int32.ofNat j + 1 = Int32.ofNat (j + 1) from i_add j 1, tg_27, Option.bind_some]
        by_cases q1 : s1 27 0 = x
        · have q2 : ¬ s1 46 0 = 0 := fun z => qa ⟨e27.symm.trans q1, e46.mp z⟩
          rw [if_neg (fun z => z q1), tg_46, Option.bind_some, if_pos q2]; exact b1
        · rw [if_pos q1]; exact b1
    · have er : rtN K (stC ds0 img K v) x (m + 1) N = 0 := @if_neg _ (Classical.propDecidable _) q _ _ _
      rw [er]
      refine ⟨s, dx_app b_X3_runTo_51 ?_, O, T, fun _ _ => rfl⟩
      rw [if_neg (i_ge_not (by omega) (by omega)), if_neg (fun z => z rfl), tw_vn, Option.bind_some, t_canStep O T (by omega) h, @if_neg _ (Classical.propDecidable _) q, cI_v, if_pos rfl]; rfl
theorem t_runTo38 {x k e : Int32} (he : e ≠ 0) {d : Nat} (hd : 1 ≤ d) (h : ax_H) : B_X3_runTo_38 (ax_c d) 417 e 417 x k (tw_H h s) = some (.inl (some (.int 0)), tw_H h (tw_up s 0 0 e)) := by
  refine dx_app b_X3_runTo_38 ?_
  rw [tw_vn, Option.bind_some, t_holds hd, cI_v, if_neg he, if_neg (fun z => z rfl)]
theorem t_runTo_bad {x k : Int32} (hx : inI x 0 255 = 0 ∨ inI k 1 100 = 0) {d : Nat} (hd : 2 ≤ d) (h : ax_H) : ax_c d 450 [.ref 417, .int x, .int k] (tw_H h s) = some (.inl (some (.int 0)), tw_H h (tw_up s 0 0 1)) := by
  obtain ⟨d, rfl, he⟩ := d_succ hd
  refine dx_app m_X3_runTo ?_
  rw [t_in he, cI_v]
  by_cases q : inI x 0 255 = 0
  · rw [if_pos q]; exact t_runTo38 (by decide) he h
  · rw [if_neg q, t_in he, cI_v, if_neg (fun z => z (hx.resolve_left q))]; exact t_runTo38 (by decide) he h
theorem t_runTo_off {x k : Int32} (hx : inI x 0 255 ≠ 0) (hk : inI k 1 100 ≠ 0) (h0 : s 23 0 = 0) {d : Nat} (hd : 2 ≤ d) (h : ax_H) : ax_c d 450 [.ref 417, .int x, .int k] (tw_H h s) = some (.inl (some (.int 0)), tw_H h (tw_up s 0 0 2)) := by
  obtain ⟨d, rfl, he⟩ := d_succ hd
  refine dx_app m_X3_runTo ?_
  rw [t_in he, cI_v, if_neg hx, t_in he, cI_v, if_pos hk, tw_vn, Option.bind_some, t_isMachine he, cI_v, if_pos h0, if_pos rfl]
  exact t_runTo38 (by decide) he h
theorem t_runTo_yes (O : ON N n K ds0 img) (T : TO N n K ds0 img v s) {x : Int32} (hx : inI x 0 255 ≠ 0) {k : Nat} (h1 : 1 ≤ k) (hk : k ≤ 100) {d : Nat} (hd : 11 ≤ d) (h : ax_H) : ∃ s', ax_c d 450 [.ref 417, .int x, .int (Int32.ofNat k)] (tw_H h s) = some (.inl (some (.int (Int32.ofNat (rtN K (stC ds0 img K v) x k N)))), tw_H h s') ∧ ON (N + rtN K (stC ds0 img K v) x k N) (kpI (rtN K (stC ds0 img K v) x k N) n) K ds0 img ∧ TO (N + rtN K (stC ds0 img K v) x k N) (kpI (rtN K (stC ds0 img K v) x k N) n) K ds0 img v s' ∧ SF s s' ∧ s' 0 0 = 0 := by
  obtain ⟨d, rfl, he⟩ := d_succ hd
  have n0 := TO.on O T
  obtain ⟨s', a1, a2, a3, a4⟩ := t_runTo51 (x := x) (d := d) (by omega) h hk k 0 (by omega) N n (tw_up s 0 0 0) O T.t0
  rw [Nat.zero_add] at a1
  refine ⟨s', dx_app m_X3_runTo ?_, a2, a3, fun f hf => (a4 f (by omega)).trans (SF.t0 f hf), by rw [a4 0 (by omega)]; rfl⟩
  rw [t_in (by omega), cI_v, if_neg hx, t_in (by omega), cI_v, if_pos (show ¬ inI (Int32.ofNat k) 1 100 = 0 from (inI_val (lo := 1) (hi := 100) (by omega) (by omega)).mpr ⟨k, h1, hk, rfl⟩), tw_vn, Option.bind_some, t_isMachine (by omega), cI_v, if_neg n0, if_neg (show ¬ (1 : Int32) = 0 by decide)]
  refine dx_app b_X3_runTo_38 ?_
  rw [tw_vn, Option.bind_some, t_holds (by omega), cI_v, if_pos rfl, if_pos (by decide)]
  exact a1
/-! back -/
theorem t_back28 {x e : Int32} (he : e ≠ 0) {d : Nat} (hd : 1 ≤ d) (h : ax_H) : B_X3_back_28 (ax_c d) 417 e 417 x (tw_H h s) = some (.inl (some (.int 0)), tw_H h (tw_up s 0 0 e)) := by
  refine dx_app b_X3_back_28 ?_
  rw [tw_vn, Option.bind_some, t_holds hd, cI_v, if_neg he, if_neg (fun z => z rfl)]
theorem t_back_bad {x : Int32} (hx : inI x 1 200 = 0) {d : Nat} (hd : 2 ≤ d) (h : ax_H) : ax_c d 451 [.ref 417, .int x] (tw_H h s) = some (.inl (some (.int 0)), tw_H h (tw_up s 0 0 1)) := by
  obtain ⟨d, rfl, he⟩ := d_succ hd
  refine dx_app m_X3_back ?_
  rw [t_in he, cI_v, if_neg (fun z => z hx)]
  exact t_back28 (by decide) he h
theorem t_back_off {x : Int32} (hx : inI x 1 200 ≠ 0) (h0 : s 23 0 = 0) {d : Nat} (hd : 2 ≤ d) (h : ax_H) : ax_c d 451 [.ref 417, .int x] (tw_H h s) = some (.inl (some (.int 0)), tw_H h (tw_up s 0 0 2)) := by
  obtain ⟨d, rfl, he⟩ := d_succ hd
  refine dx_app m_X3_back ?_
  rw [t_in he, cI_v, if_pos hx, tw_vn, Option.bind_some, t_isMachine he, cI_v, if_pos h0, if_pos rfl]
  exact t_back28 (by decide) he h
theorem t_back_yes (O : ON N n K ds0 img) (T : TO N n K ds0 img v s) {k : Nat} (h1 : 1 ≤ k) (hk : k ≤ 200) {d : Nat} (hd : 12 ≤ d) (h : ax_H) : ∃ s', ax_c d 451 [.ref 417, .int (Int32.ofNat k)] (tw_H h s) = some (.inl (some (.int (Int32.ofNat (if k < n then k else n)))), tw_H h s') ∧ ON (N - (if k < n then k else n)) (n - (if k < n then k else n)) K ds0 img ∧ TO (N - (if k < n then k else n)) (n - (if k < n then k else n)) K ds0 img v s' ∧ SF s s' ∧ s' 0 0 = 0 := by
  obtain ⟨d, rfl, he⟩ := d_succ hd
  have n0 := TO.on O T
  have st := TO.st O T
  obtain ⟨o1, o2, o3, o4, o5, o6⟩ := O
  obtain ⟨t1, t2, t3, t4, t5, t6, t7⟩ := T
  have hr : (if k < n then k else n) ≤ n := by split <;> omega
  have er : (if k < n then k else n) = if n ≤ k then n else k := by split <;> split <;> omega
  generalize hg : (if k < n then k else n) = r at hr er
  generalize hu : tw_up (tw_up s 0 0 0) 40 0 (Int32.ofNat (n - r)) = u
  have uf : ∀ f, f ≠ 0 → f ≠ 40 → u f = s f := fun f f1 f2 => by rw [← hu, tw_up_at, if_neg f2, tw_up_at, if_neg f1]
  have u40 : u 40 0 = Int32.ofNat (n - r) := by rw [← hu]; rfl
  obtain ⟨s', m1, m2, m3, m4⟩ := t_makesAnew (w := 0) (v := v) (s := u) o4 o5 o6 (t2.of fun f f1 f2 => uf f (by omega) (by omega)) (fun a ha => by rw [uf 53 (by decide) (by decide)]; exact t4 a ha) (fun a ha => by rw [uf 54 (by decide) (by decide)]; exact t5 a ha) (by rw [uf 55 (by decide) (by decide), Int32.add_zero]; exact t6) (N := N - r) (by omega) (d := d) (by omega) h
  have fin : B_X3_back_52 (ax_c d) (Int32.ofNat r) 417 (tw_H h (tw_up s 0 0 0)) = some (.inl (some (.int (Int32.ofNat r))), tw_H h s') := by
    refine dx_app b_X3_back_52 ?_
    rw [tg_38, Option.bind_some, show tw_up s 0 0 0 38 0 = s 38 0 from rfl, st, lt_at, tg_40, Option.bind_some, show tw_up s 0 0 0 40 0 = s 40 0 from rfl, t3, tp_40, Option.bind_some, show Int32.ofNat n - Int32.ofNat r = Int32.ofNat (n - r) from i_sub hr, show Int32.ofNat N - Int32.ofNat r = Int32.ofNat (N - r) from i_sub (by omega), hu, tw_vn, Option.bind_some, m1, cV_v]
  refine ⟨s', dx_app m_X3_back ?_, ⟨by omega, by omega, by omega, o4, o5, o6⟩, ⟨m2, t2.of fun f f1 f2 => ?_, ?_, fun a ha => ?_, fun a ha => ?_, ?_, m4⟩, fun f hf => ?_, ?_⟩
  · rw [t_in (by omega), cI_v, if_pos (show ¬ inI (Int32.ofNat k) 1 200 = 0 from (inI_val (lo := 1) (hi := 200) (by omega) (by omega)).mpr ⟨k, h1, hk, rfl⟩), tw_vn, Option.bind_some, t_isMachine (by omega), cI_v, if_neg n0, if_neg (show ¬ (1 : Int32) = 0 by decide)]
    refine dx_app b_X3_back_28 ?_
    rw [tw_vn, Option.bind_some, t_holds (by omega), cI_v, if_pos rfl, if_pos (by decide), tg_40, Option.bind_some, show tw_up s 0 0 0 40 0 = s 40 0 from rfl, t3]
    by_cases q : n ≤ k
    · rw [if_pos ((i_le (by omega) (by omega)).mpr q), Option.bind_some]
      rw [if_pos q] at er
      rw [← er]; exact fin
    · rw [if_neg (fun z => q ((i_le (by omega) (by omega)).mp z))]
      rw [if_neg q] at er
      rw [← er]; exact fin
  · rw [m3 f (by omega), uf f (by omega) (by omega)]
  · rw [m3 40 (by omega)]; exact u40
  · rw [m3 53 (by omega), uf 53 (by decide) (by decide)]; exact t4 a ha
  · rw [m3 54 (by omega), uf 54 (by decide) (by decide)]; exact t5 a ha
  · rw [m3 55 (by omega), uf 55 (by decide) (by decide)]; exact t6
  · rw [m3 f (by omega), uf f (by omega) (by omega)]
  · rw [m3 0 (by omega), ← hu]; rfl
/-! crashing, formatting -/
theorem t_crash_no (h0 : s 23 0 = 0) {d : Nat} (hd : 2 ≤ d) (h : ax_H) : ax_c d 412 [.ref 417] (tw_H h s) = some (.inl (some (.int 0)), tw_H h (tw_up s 0 0 1)) := by
  obtain ⟨d, rfl, he⟩ := d_succ hd
  refine dx_app m_X3_crash ?_
  rw [tw_vn, Option.bind_some, t_isMachine he, cI_v, if_pos h0, if_pos rfl]
  refine dx_app b_X3_crash_13 ?_
  rw [tw_vn, Option.bind_some, t_holds he, cI_v, if_neg (show ¬ (1 : Int32) = 0 by decide), if_neg (fun z => z rfl)]
theorem sleep_ne {f : Nat} (h : (f ≠ 0 ∧ f < 23) ∨ f = 36 ∨ (40 ≤ f ∧ f ≠ 46)) : sleepS s f = s f := by
  unfold sleepS
  rw [tw_up_at, if_neg (by omega), tw_up_at, if_neg (by omega), tw_up_at, if_neg (by omega), tw_up_at, if_neg (by omega), tw_up_at, if_neg (by omega), tw_up_at, if_neg (by omega), tw_up_at, if_neg (by omega), tw_up_at, if_neg (by omega), tw_up_at, if_neg (by omega), tw_up_at, if_neg (by omega), tw_up_at, if_neg (by omega), tw_up_at, if_neg (by omega), tw_up_at, if_neg (by omega), fl_ne (by omega), fl_ne (by omega), tw_up_at, if_neg (by omega), tw_up_at, if_neg (by omega)]
/-- asleep: as cells that are all zero but for the disk -/
theorem sleep_ra {c' : Nat → Int32} (h50 : ∀ a, a < 256 → s 50 a = c' (365 + a)) (h52 : s 52 0 = c' 364) (hz : ∀ p, p < 364 → c' p = 0) : RA 0 c' (sleepS s) := by
  refine ⟨fun p hp => ?_, ⟨by rw [hz 17 (by omega)]; exact Nat.zero_le _, fun i hi => ?_⟩, ⟨?_, fun z => absurd (hz 18 (by omega)) z⟩, ?_⟩
  · unfold pk at hp
    by_cases h18 : p < 18
    · rw [hz p (by omega)]
      have : p = 0 ∨ p = 1 ∨ p = 2 ∨ p = 3 ∨ p = 4 ∨ p = 5 ∨ p = 6 ∨ p = 7 ∨ p = 8 ∨ p = 9 ∨ p = 10 ∨ p = 11 ∨ p = 12 ∨ p = 13 ∨ p = 14 ∨ p = 15 ∨ p = 16 ∨ p = 17 := by omega
      rcases this with rfl | rfl | rfl | rfl | rfl | rfl | rfl | rfl | rfl | rfl | rfl | rfl | rfl | rfl | rfl | rfl | rfl | rfl <;> rfl
    by_cases h364 : p < 364
    · obtain ⟨a, rfl⟩ : ∃ a, p = 108 + a := ⟨p - 108, by omega⟩
      rw [(fF_mem (by omega)).1, (fF_mem (by omega)).2, hz _ (by omega)]
      show (if a < 256 then (0 : Int32) else _) = _
      rw [if_pos (by omega)]
    · obtain ⟨a, rfl⟩ : ∃ a, p = 365 + a := ⟨p - 365, by omega⟩
      rw [(fF_dsk (by omega)).1, (fF_dsk (by omega)).2]
      exact h50 a (by omega)
  · rw [hz 17 (by omega)] at hi
    exact absurd hi (Nat.not_lt_zero _)
  · show (0 : Int32) = _
    exact (if_pos (hz 18 (by omega))).symm
  · rw [Int32.add_zero]; exact h52
theorem t_crash_yes (O : ON N n K ds0 img) (T : TO N n K ds0 img v s) {d : Nat} (hd : 2 ≤ d) (h : ax_H) : ∃ s', ax_c d 412 [.ref 417] (tw_H h s) = some (.inl (some (.int (Int32.ofNat N))), tw_H h s') ∧ OF (zerC (itC K (stC ds0 img K v) N) 0 364) ∧ TF (zerC (itC K (stC ds0 img K v) N) 0 364) s' ∧ SF s s' ∧ s' 0 0 = 0 := by
  obtain ⟨d, rfl, he⟩ := d_succ hd
  have n0 := TO.on O T
  have st := TO.st O T
  have V := O.iv (v := v)
  have z1 : ∀ p, p < 364 → zerC (itC K (stC ds0 img K v) N) 0 364 p = 0 := fun p hp => if_pos (by omega)
  have z2 : ∀ p, 364 ≤ p → zerC (itC K (stC ds0 img K v) N) 0 364 p = itC K (stC ds0 img K v) N p := fun p hp => if_neg (by omega)
  have B20 := V.b20 O.2.2.2.1
  refine ⟨sleepS (tw_up (tw_up s 0 0 0) 40 0 0), dx_app m_X3_crash ?_, ⟨fun p hp => ?_, fun a ha => ?_, ?_⟩, ⟨sleep_ra (fun a ha => ?_) ?_ z1, rfl⟩, fun f hf => ?_, rfl⟩
  · rw [tw_vn, Option.bind_some, t_isMachine he, cI_v, if_neg n0, if_neg (by decide)]
    refine dx_app b_X3_crash_13 ?_
    rw [tw_vn, Option.bind_some, t_holds he, cI_v, if_pos rfl, if_pos (by decide), tg_38, Option.bind_some, show tw_up s 0 0 0 38 0 = s 38 0 from rfl, st, tp_40, Option.bind_some, tw_vn, Option.bind_some, t_sleeps he, cV_v]
  · rcases hp with z | z
    · exact z1 p z
    · rw [z2 p (by omega)]; exact V.2.2.2.2.1 p z
  · show rg 65535 (zerC (itC K (stC ds0 img K v) N) 0 364 (365 + a))
    rw [z2 _ (by omega)]
    exact V.1 (365 + a) _ (bn_mem ha).2
  · have : ds (zerC (itC K (stC ds0 img K v) N) 0 364) = ds (itC K (stC ds0 img K v) N) := by
      funext a
      exact z2 _ (by omega)
    rw [this]; exact V.2.1.dk
  · rw [z2 _ (by omega)]; exact T.1.1.dsk ha
  · rw [z2 _ (by omega)]
    have := T.1.2.2.2
    rw [Int32.add_zero] at this; exact this
  · rw [sleep_ne (by omega), tw_up_at, if_neg (by omega), tw_up_at, if_neg (by omega)]
theorem t_format_no (h0 : s 23 0 ≠ 0) {d : Nat} (hd : 2 ≤ d) (h : ax_H) : ax_c d 413 [.ref 417] (tw_H h s) = some (.inl (some (.int 0)), tw_H h (tw_up s 0 0 1)) := by
  obtain ⟨d, rfl, he⟩ := d_succ hd
  refine dx_app m_X3_format ?_
  rw [tw_vn, Option.bind_some, t_isMachine he, cI_v, if_neg h0, if_neg (by decide)]
  refine dx_app b_X3_format_13 ?_
  rw [tw_vn, Option.bind_some, t_holds he, cI_v, if_neg (show ¬ (1 : Int32) = 0 by decide), if_neg (fun z => z rfl)]
theorem form_at (c : Nat → Int32) (p : Nat) : formC c p = if p = 397 then 255 else if 364 ≤ p ∧ p < 621 then 0 else c p := rfl
theorem form_fsi {D : Nat → Int32} (h : ∀ a, a < 256 → D a = if a = 32 then 255 else 0) : FSI D ∧ D 0 = 0 := by
  have z : ∀ f k, f < 6 → k < 4 → D (40 + 4 * f + k) = 0 := fun f k hf hk => by rw [h _ (by omega), if_neg (by omega)]
  refine ⟨⟨fun f hf => ⟨fun _ k hk => z f k hf hk, ⟨0, by omega, z f 1 hf (by omega), fun k hk => ⟨fun _ => Nat.zero_le _, fun _ => z f (2 + k) hf (by omega)⟩⟩, fun k hk => ⟨0, by omega, z f (2 + k) hf (by omega), fun y => absurd rfl y⟩⟩, fun f k f' k' hf hk hf' hk' _ y => absurd (z f (2 + k) hf (by omega)) y⟩, by rw [h 0 (by omega)]; rfl⟩
theorem t_format_yes (F : OF c) (T : TF c s) {d : Nat} (hd : 3 ≤ d) (h : ax_H) : ∃ s', ax_c d 413 [.ref 417] (tw_H h s) = some (.inl (some (.int (Int32.ofNat (filN (ds c) 6)))), tw_H h s') ∧ OF (formC c) ∧ TF (formC c) s' ∧ SF s s' ∧ s' 0 0 = 0 := by
  obtain ⟨d, rfl, he⟩ := d_succ hd
  have h0 : s 23 0 = 0 := (T.1.1.sml (p := 0) (by omega)).trans (F.1 0 (by omega))
  have hf : filN (s 50) 6 = filN (ds c) 6 := fil_cong (fun a ha => T.1.1.dsk ha) 6 (by omega)
  have dd : ∀ a, a < 256 → ds (formC c) a = if a = 32 then 255 else 0 := fun a ha => by
    show formC c (365 + a) = _
    rw [form_at]
    by_cases e : a = 32
    · rw [if_pos (by omega), if_pos e]
    · rw [if_neg (by omega), if_pos (by omega), if_neg e]
  obtain ⟨f1, f2⟩ := form_fsi dd
  have lo : ∀ p, p < 364 → formC c p = c p := fun p hp => by rw [form_at, if_neg (by omega), if_neg (by omega)]
  refine ⟨formS (tw_up s 0 0 0), dx_app m_X3_format ?_, ⟨fun p hp => ?_, fun a ha => ?_, Or.inl ⟨f2, f1⟩⟩, ⟨⟨fun p hp => ?_, ?_, ?_, ?_⟩, T.2⟩, fun f hf => ?_, rfl⟩
  · rw [tw_vn, Option.bind_some, t_isMachine (by omega), cI_v, if_pos h0, if_pos rfl]
    refine dx_app b_X3_format_13 ?_
    rw [tw_vn, Option.bind_some, t_holds (by omega), cI_v, if_pos rfl, if_pos (by decide), tw_vn, Option.bind_some, t_filesOf (by omega), cI_v, show filN (tw_up s 0 0 0 50) 6 = filN (ds c) 6 from hf, tw_vn, Option.bind_some, t_formats (by omega), cV_v]
  · rw [form_at, if_neg (by omega), if_neg (by omega)]; exact F.1 p hp
  · rw [dd a ha]; exact rg_ite (rg.of (n := 255) (by omega) (by omega)) (rg0 (by omega))
  · unfold pk at hp
    by_cases h365 : p < 365
    · rw [lo p (by omega)]
      have ff := fF_fld (p := p) (by unfold pk; omega)
      have n50 : fF p ≠ 50 := by
        by_cases z : p < 18
        · have : ∀ p, p < 18 → fF p ≠ 50 := by decide
          exact this p z
        · obtain ⟨a, rfl⟩ : ∃ a, p = 108 + a := ⟨p - 108, by omega⟩
          rw [(fF_mem (by omega)).1]; decide
      unfold formS
      rw [tw_up_at, if_neg (by omega), tw_up_at, if_neg n50, fl_ne n50, tw_up_at, if_neg (by omega)]
      exact T.1.1 p (by unfold pk; omega)
    · obtain ⟨a, rfl⟩ : ∃ a, p = 365 + a := ⟨p - 365, by omega⟩
      rw [(fF_dsk (by omega)).1, (fF_dsk (by omega)).2, show formC c (365 + a) = ds (formC c) a from rfl, dd a (by omega)]
      show upd (fun j => if j < 256 then (0 : Int32) else tw_up s 0 0 0 50 j) 32 255 a = _
      rw [upd_at]
      split
      · rfl
      · exact if_pos (by omega)
  · refine ⟨by rw [lo 17 (by omega), F.1 17 (by omega)]; exact Nat.zero_le _, fun i hi => ?_⟩
    rw [lo 17 (by omega), F.1 17 (by omega)] at hi
    exact absurd hi (Nat.not_lt_zero _)
  · refine ⟨?_, fun z => absurd ((lo 18 (by omega)).trans (F.1 18 (by omega))) z⟩
    show s 46 0 = _
    rw [T.1.2.2.1.1, show wlC c = 0 from if_pos (F.1 18 (by omega))]
    exact (if_pos ((lo 18 (by omega)).trans (F.1 18 (by omega)))).symm
  · show (0 : Int32) = formC c 364 + 0
    rw [form_at]; rfl
  · unfold formS
    rw [tw_up_at, if_neg (by omega), tw_up_at, if_neg (by omega), fl_ne (by omega), tw_up_at, if_neg (by omega)]
end TRS
