/-! the twin submits -/
/- with RA AR.ra KR KR.of TO TO.t0 TO.cong TO.on TO.st ON ON.iv OF TF t_isMachine t_makesAnew sleep_ra sleep_ne t_sleeps t_copies t_submit103 TTW TT1 tsG mkT psN IG RB.dsk KT MA -/
theorem fl_comm {w : Nat → Nat → Int32} {f1 f2 i k : Nat} {b : Nat → Int32} {x : Int32} (hne : f1 ≠ f2) : tw_up (tw_fl w f2 k b) f1 i x = tw_fl (tw_up w f1 i x) f2 k b := by
  funext f
  by_cases e1 : f = f1
  · subst e1
    rw [tw_up_at, if_pos rfl, fl_ne hne, fl_ne hne, tw_up_at, if_pos rfl]
  · rw [tw_up_at, if_neg e1]
    by_cases e2 : f = f2
    · subst e2
      rw [fl_at, if_pos rfl, fl_at, if_pos rfl]
      funext j
      rw [tw_up_at, if_neg e1]
    · rw [fl_ne e2, fl_ne e2, tw_up_at, if_neg e1]
theorem fl2_up {u : Nat → Nat → Int32} {f1 f2 k : Nat} {a b : Nat → Int32} (hne : f1 ≠ f2) : tw_up (tw_up (tw_fl (tw_fl u f1 k a) f2 k b) f1 k (a k)) f2 k (b k) = tw_fl (tw_fl u f1 (k + 1) a) f2 (k + 1) b := by
  rw [fl_comm hne, fl_up, fl_up]
section TUS
variable {N n T : Nat} {img im2 ds0 c D : Nat → Int32} {q : Nat → tst} {K : kk_K} {v : Int32} {s s' : Nat → Nat → Int32} {d : Nat}
theorem t_submit13 {e : Int32} (he : e ≠ 0) (hd : 1 ≤ d) (h : ax_H) : B_X3_submit_13 (ax_c d) 417 e 417 (tw_H h s) = some (.inl (some (.int 0)), tw_H h (tw_up s 0 0 e)) := by
  refine dx_app b_X3_submit_13 ?_
  rw [tw_vn, Option.bind_some, t_holds hd, cI_v, if_neg he, if_neg (fun z => z rfl)]
theorem t_submit_no (h22 : s 22 0 = 0) (hd : 2 ≤ d) (h : ax_H) : ax_c d 487 [.ref 417] (tw_H h s) = some (.inl (some (.int 0)), tw_H h (tw_up s 0 0 1)) := by
  obtain ⟨d, rfl, he⟩ := d_succ hd
  refine dx_app m_X3_submit ?_
  rw [tg_22, Option.bind_some, if_pos h22]
  exact t_submit13 (by decide) he h
/-- what is put aside -/
def asS (s : Nat → Nat → Int32) : Nat → Nat → Int32 := tw_fl (tw_fl (tw_fl (tw_up s 0 0 0) 71 256 (s 50)) 72 20 (s 41)) 73 20 (s 42)
/-- the rows but for the machine's when all tests are made, and what was put aside is back -/
theorem t_submit_go (hI : IG img) (h22 : s 22 0 ≠ 0) (h21 : ∀ a, a < 256 → s 21 a = img a) (W : TTW T q s) (hd : 13 ≤ d) (h : ax_H) {P : (Nat → Nat → Int32) → Prop} (fin : ∀ u : Nat → Nat → Int32, (∀ f, f ≠ 0 → f < 23 ∨ f = 40 ∨ (53 ≤ f ∧ f ≠ 69 ∧ f ≠ 70 ∧ f < 71) → u f = s f) → u 0 0 = 0 → u 43 0 = s 43 0 → (∀ k, k < 20 → u 41 k = s 41 k ∧ u 42 k = s 42 k) → ((∀ j, j < T → TT1 j (mkT img (q j)) u) ∧ ∀ j, T ≤ j → u 70 j = s 70 j) → (∀ a, a < 256 → u 71 a = s 50 a) → ∃ s', ((dx_vn [(38, 411)] (.ref 417) (tw_H h u)).bind fun k => dx_cV ((ax_c (d - 1)) k [.ref 417] (tw_H h u)) (fun h1 => (dx_gA [(38, 71)] (.ref 417) h1).bind fun r2 => (dx_gA [(38, 50)] (.ref 417) h1).bind fun r3 => dx_cV ((ax_c (d - 1)) 409 [r2, r3] h1) (fun h4 => (dx_pF [(38, 52)] (.int) (.ref 417) (.int (s 52 0)) h4).bind fun h5 => if (if s 23 0 = 0 then (0 : Int32) else 1) = 0 then some (.inl (some (.int (Int32.ofNat (psN img q T)))), h5) else (dx_vn [(38, 452)] (.ref 417) h5).bind fun k => dx_cV ((ax_c (d - 1)) k [.ref 417, .int (s 38 0)] h5) (fun h6 => some (.inl (some (.int (Int32.ofNat (psN img q T)))), h6)) dx_x0) dx_x0) dx_x0) = some (.inl (some (.int (Int32.ofNat (psN img q T)))), tw_H h s') ∧ P s') : ∃ s', ax_c d 487 [.ref 417] (tw_H h s) = some (.inl (some (.int (Int32.ofNat (psN img q T)))), tw_H h s') ∧ P s' := by
  obtain ⟨d, rfl, he⟩ := d_succ hd
  rw [Nat.add_sub_cancel] at fin
  obtain ⟨w1, w2, w3⟩ := W
  have i20 : ∀ k, k < 20 → ix 20 (Int32.ofNat k) = some k := fun k hk => ix_of rfl hk (by omega)
  have n20 : ∀ k, k < 20 → ¬ (20 : Int32) ≤ Int32.ofNat k := fun k hk => i_ge_not (n := 20) hk (by omega)
  have as : ∀ f, f ≠ 0 → f ≠ 71 → f ≠ 72 → f ≠ 73 → asS s f = s f := fun f f0 f1 f2 f3 => by
    unfold asS
    rw [fl_ne f3, fl_ne f2, fl_ne f1, tw_up_at, if_neg f0]
  -- all tests
  obtain ⟨s1, a1, a2, a3⟩ := t_submit103 (q := q) hI w2 (d := d) (by omega) h (v1 := if s 23 0 = 0 then 0 else 1) (v2 := s 38 0) (v3 := s 52 0) (v4 := s 43 0) T 0 (by omega) (asS s) (by rw [as 60 (by decide) (by decide) (by decide) (by decide)]; exact w1) (fun a ha => by rw [as 21 (by decide) (by decide) (by decide) (by decide)]; exact h21 a ha) (fun j hj => ⟨(w3 j hj).1, by rw [if_neg (Nat.not_lt_zero _)]; exact (w3 j hj).2.cong fun f f1 f2 => as f (by omega) (by omega) (by omega) (by omega)⟩)
  -- what was put aside is back
  generalize hu0 : tw_up s1 43 0 (s 43 0) = u0
  have uf : ∀ f, f ≠ 43 → u0 f = s1 f := fun f hf => by rw [← hu0, tw_up_at, if_neg hf]
  have u72 : ∀ k, k < 20 → u0 72 k = s 41 k ∧ u0 73 k = s 42 k := fun k hk => by
    rw [uf 72 (by decide), uf 73 (by decide), a3 72 (by omega), a3 73 (by omega)]
    constructor
    · show asS s 72 k = _
      unfold asS
      rw [fl_ne (by decide), fl_at, if_pos rfl]
      exact if_pos hk
    · show asS s 73 k = _
      unfold asS
      rw [fl_at, if_pos rfl]
      exact if_pos hk
  have bf : ∀ f, f ≠ 41 → f ≠ 42 → tw_fl (tw_fl u0 41 20 (u0 72)) 42 20 (u0 73) f = u0 f := fun f f1 f2 => by rw [fl_ne f2, fl_ne f1]
  obtain ⟨s', g1, g2⟩ := fin (tw_fl (tw_fl u0 41 20 (u0 72)) 42 20 (u0 73)) (fun f f0 hf => by
    rw [bf f (by omega) (by omega), uf f (by omega), a3 f (by omega), as f f0 (by omega) (by omega) (by omega)]) (by
    rw [bf 0 (by decide) (by decide), uf 0 (by decide), a3 0 (by omega)]; rfl) (by rw [bf 43 (by decide) (by decide), ← hu0]; rfl) (fun k hk => by
    constructor
    · rw [fl_ne (by decide), fl_at, if_pos rfl]
      show (if k < 20 then u0 72 k else _) = _
      rw [if_pos hk]; exact (u72 k hk).1
    · rw [fl_at, if_pos rfl]
      show (if k < 20 then u0 73 k else _) = _
      rw [if_pos hk]; exact (u72 k hk).2) ⟨fun j hj => (a2.1 j hj).cong fun f f1 f2 => by rw [bf f (by omega) (by omega), uf f (by omega)], fun j hj => by rw [bf 70 (by decide) (by decide), uf 70 (by decide), a2.2 j hj, as 70 (by decide) (by decide) (by decide) (by decide)]⟩ (fun a ha => by
    rw [bf 71 (by decide) (by decide), uf 71 (by decide), a3 71 (by omega)]
    unfold asS
    rw [fl_ne (by decide), fl_ne (by decide), fl_at, if_pos rfl]
    exact if_pos ha)
  refine ⟨s', dx_app m_X3_submit ?_, g2⟩
  have back : ∀ m k, k + m = 20 → B_X3_submit_192 (ax_c d) 417 (if s 23 0 = 0 then 0 else 1) (s 38 0) (s 52 0) (Int32.ofNat (psN img q T)) (Int32.ofNat k) (tw_H h (tw_fl (tw_fl u0 41 k (u0 72)) 42 k (u0 73))) = some (.inl (some (.int (Int32.ofNat (psN img q T)))), tw_H h s') := by
    intro m
    induction m with
    | zero =>
      intro k hk
      obtain rfl : k = 20 := by omega
      refine dx_app b_X3_submit_192 ?_
      rw [if_pos (by decide)]
      exact g1
    | succ m ih =>
      intro k hk
      refine dx_app b_X3_submit_192 ?_
      rw [if_neg (n20 k (by omega)), tr_41, Option.bind_some, tr_72, Option.bind_some, tl_72, i20 k (by omega), Option.bind_some, Option.bind_some, ts_41, i20 k (by omega), Option.bind_some, Option.bind_some, tr_42, Option.bind_some, tr_73, Option.bind_some, tl_73, i20 k (by omega), Option.bind_some, Option.bind_some, ts_42, i20 k (by omega), Option.bind_some, Option.bind_some, lt_at, show Int32.ofNat k + 1 = Int32.ofNat (k + 1) from i_add k 1]
      have e72 : tw_fl (tw_fl u0 41 k (u0 72)) 42 k (u0 73) 72 k = u0 72 k := by rw [fl_ne (by decide), fl_ne (by decide)]
      have e73 : tw_up (tw_fl (tw_fl u0 41 k (u0 72)) 42 k (u0 73)) 41 k (u0 72 k) 73 k = u0 73 k := by rw [tw_up_at, if_neg (by decide), fl_ne (by decide), fl_ne (by decide)]
      rw [e72, e73, fl2_up (by decide)]
      exact ih (k + 1) (by omega)
  have l103 : B_X3_submit_103 (ax_c d) 417 (if s 23 0 = 0 then 0 else 1) (s 38 0) (s 52 0) (s 43 0) 0 0 (tw_H h (asS s)) = some (.inl (some (.int (Int32.ofNat (psN img q T)))), tw_H h s') := by
    refine a1 _ ?_
    have b0 := back 20 0 rfl
    rw [fl_zero, fl_zero] at b0
    rw [tp_43, Option.bind_some, hu0]
    exact b0
  have aside : ∀ m k, k + m = 20 → B_X3_submit_56 (ax_c d) 417 (if s 23 0 = 0 then 0 else 1) (s 38 0) (s 52 0) (s 43 0) (Int32.ofNat k) (tw_H h (tw_fl (tw_fl (tw_fl (tw_up s 0 0 0) 71 256 (s 50)) 72 k (s 41)) 73 k (s 42))) = some (.inl (some (.int (Int32.ofNat (psN img q T)))), tw_H h s') := by
    intro m
    induction m with
    | zero =>
      intro k hk
      obtain rfl : k = 20 := by omega
      refine dx_app b_X3_submit_56 ?_
      rw [if_pos (by decide)]
      exact l103
    | succ m ih =>
      intro k hk
      refine dx_app b_X3_submit_56 ?_
      rw [if_neg (n20 k (by omega)), tr_72, Option.bind_some, tr_41, Option.bind_some, tl_41, i20 k (by omega), Option.bind_some, Option.bind_some, ts_72, i20 k (by omega), Option.bind_some, Option.bind_some, tr_73, Option.bind_some, tr_42, Option.bind_some, tl_42, i20 k (by omega), Option.bind_some, Option.bind_some, ts_73, i20 k (by omega), Option.bind_some, Option.bind_some, lt_at, show Int32.ofNat k + 1 = Int32.ofNat (k + 1) from i_add k 1]
      have e41 : tw_fl (tw_fl (tw_fl (tw_up s 0 0 0) 71 256 (s 50)) 72 k (s 41)) 73 k (s 42) 41 k = s 41 k := by rw [fl_ne (by decide), fl_ne (by decide), fl_ne (by decide), tw_up_at, if_neg (by decide)]
      have e42 : tw_up (tw_fl (tw_fl (tw_fl (tw_up s 0 0 0) 71 256 (s 50)) 72 k (s 41)) 73 k (s 42)) 72 k (s 41 k) 42 k = s 42 k := by rw [tw_up_at, if_neg (by decide), fl_ne (by decide), fl_ne (by decide), fl_ne (by decide), tw_up_at, if_neg (by decide)]
      rw [e41, e42, fl2_up (by decide)]
      exact ih (k + 1) (by omega)
  rw [tg_22, Option.bind_some, if_neg h22]
  refine dx_app b_X3_submit_13 ?_
  rw [tw_vn, Option.bind_some, t_holds (by omega), cI_v, if_pos rfl, if_pos (by decide), tw_vn, Option.bind_some, t_isMachine (by omega), cI_v, tg_38, Option.bind_some, tg_52, Option.bind_some, tg_43, Option.bind_some, tr_50, Option.bind_some, tr_71, Option.bind_some, t_copies (by omega) h (tw_up s 0 0 0) _ _ 50 71 (by decide) (tl_50 h) (ts_71 h), cV_v]
  have a0 := aside 20 0 rfl
  rw [fl_zero, fl_zero] at a0
  exact a0
/-- submitting, the machine on -/
theorem t_submit_on (hI : IG img) (h22 : s 22 0 ≠ 0) (h21 : ∀ a, a < 256 → s 21 a = img a) (W : TTW T q s) (O : ON N n K ds0 im2) (X : TO N n K ds0 im2 v s) (hd : 13 ≤ d) (h : ax_H) : ∃ s', ax_c d 487 [.ref 417] (tw_H h s) = some (.inl (some (.int (Int32.ofNat (psN img q T)))), tw_H h s') ∧ TO N n K ds0 im2 v s' ∧ (∀ f, f ≠ 0 → f < 23 ∨ (56 ≤ f ∧ f ≠ 69 ∧ f ≠ 70 ∧ f < 71) → s' f = s f) ∧ s' 0 0 = 0 ∧ (∀ j, j < T → TT1 j (mkT img (q j)) s') ∧ ∀ j, T ≤ j → s' 70 j = s 70 j := by
  have n0 := TO.on O X
  have st := TO.st O X
  obtain ⟨o1, o2, o3, o4, o5, o6⟩ := O
  obtain ⟨x1, x2, x3, x4, x5, x6, x7⟩ := X
  refine t_submit_go (P := fun s' => TO N n K ds0 im2 v s' ∧ (∀ f, f ≠ 0 → f < 23 ∨ (56 ≤ f ∧ f ≠ 69 ∧ f ≠ 70 ∧ f < 71) → s' f = s f) ∧ s' 0 0 = 0 ∧ (∀ j, j < T → TT1 j (mkT img (q j)) s') ∧ ∀ j, T ≤ j → s' 70 j = s 70 j) hI h22 h21 W hd h fun u u1 u0 u43 u41 u2 u71 => ?_
  generalize hw : tw_up (tw_fl (sleepS u) 50 256 (sleepS u 71)) 52 0 (s 52 0) = w
  have wf : ∀ f, f ≠ 0 → f < 23 ∨ f = 36 ∨ (40 ≤ f ∧ f ≠ 46 ∧ f ≠ 50 ∧ f ≠ 52) → w f = u f := fun f f0 hf => by
    rw [← hw, tw_up_at, if_neg (by omega), fl_ne (by omega)]
    exact sleep_ne (by omega)
  have KW : KR K w := by
    obtain ⟨k1, k2, k3⟩ := x2
    refine ⟨by rw [wf 43 (by decide) (by omega), u43]; exact k1, k2, fun k hk => ?_⟩
    rw [wf 41 (by decide) (by omega), wf 42 (by decide) (by omega), (u41 k (by omega)).1, (u41 k (by omega)).2]
    exact k3 k hk
  obtain ⟨s', m1, m2, m3, m4⟩ := t_makesAnew (w := 0) (v := v) (s := w) o4 o5 o6 KW (fun a ha => by rw [wf 53 (by decide) (by omega), u1 53 (by decide) (by omega)]; exact x4 a ha) (fun a ha => by rw [wf 54 (by decide) (by omega), u1 54 (by decide) (by omega)]; exact x5 a ha) (by rw [wf 55 (by decide) (by omega), u1 55 (by decide) (by omega), Int32.add_zero]; exact x6) (N := N) o2 (d := d - 1) (by omega) h
  refine ⟨s', ?_, ⟨m2, KW.of fun f f1 f2 => m3 f (by omega), ?_, fun a ha => ?_, fun a ha => ?_, ?_, m4⟩, fun f f0 hf => ?_, ?_, fun j hj => (u2.1 j hj).cong fun f f1 f2 => ?_, fun j hj => ?_⟩
  · rw [tw_vn, Option.bind_some, t_sleeps (by omega), cV_v, tr_71, Option.bind_some, tr_50, Option.bind_some, t_copies (by omega) h _ _ _ 71 50 (by decide) (tl_71 h) (ts_50 h), cV_v, tp_52, Option.bind_some, hw, if_neg n0, if_neg (by decide), tw_vn, Option.bind_some, st, m1, cV_v]
  · rw [m3 40 (by omega), wf 40 (by decide) (by omega), u1 40 (by decide) (by omega)]; exact x3
  · rw [m3 53 (by omega), wf 53 (by decide) (by omega), u1 53 (by decide) (by omega)]; exact x4 a ha
  · rw [m3 54 (by omega), wf 54 (by decide) (by omega), u1 54 (by decide) (by omega)]; exact x5 a ha
  · rw [m3 55 (by omega), wf 55 (by decide) (by omega), u1 55 (by decide) (by omega)]; exact x6
  · rw [m3 f (by omega), wf f f0 (by omega), u1 f f0 (by omega)]
  · rw [m3 0 (by omega), ← hw]
    exact u0
  · rw [m3 f (by omega), wf f (by omega) (by omega)]
  · rw [m3 70 (by omega), wf 70 (by decide) (by omega), u2.2 j hj]
/-- submitting, the machine off -/
theorem t_submit_off (hI : IG img) (h22 : s 22 0 ≠ 0) (h21 : ∀ a, a < 256 → s 21 a = img a) (W : TTW T q s) (F : OF c) (X : TF c s) (hd : 13 ≤ d) (h : ax_H) : ∃ s', ax_c d 487 [.ref 417] (tw_H h s) = some (.inl (some (.int (Int32.ofNat (psN img q T)))), tw_H h s') ∧ TF c s' ∧ (∀ f, f ≠ 0 → f < 23 ∨ (56 ≤ f ∧ f ≠ 69 ∧ f ≠ 70 ∧ f < 71) → s' f = s f) ∧ s' 0 0 = 0 ∧ (∀ j, j < T → TT1 j (mkT img (q j)) s') ∧ ∀ j, T ≤ j → s' 70 j = s 70 j := by
  have n0 : s 23 0 = 0 := (X.1.1.sml (p := 0) (by omega)).trans (F.1 0 (by omega))
  refine t_submit_go (P := fun s' => TF c s' ∧ (∀ f, f ≠ 0 → f < 23 ∨ (56 ≤ f ∧ f ≠ 69 ∧ f ≠ 70 ∧ f < 71) → s' f = s f) ∧ s' 0 0 = 0 ∧ (∀ j, j < T → TT1 j (mkT img (q j)) s') ∧ ∀ j, T ≤ j → s' 70 j = s 70 j) hI h22 h21 W hd h fun u u1 u0 u43 u41 u2 u71 => ?_
  have e52 : s 52 0 = c 364 := by have := X.1.2.2.2; rw [Int32.add_zero] at this; exact this
  generalize hw : tw_up (tw_fl (sleepS u) 50 256 (sleepS u 71)) 52 0 (s 52 0) = w
  have wf : ∀ f, f ≠ 0 → f < 23 ∨ f = 36 ∨ (40 ≤ f ∧ f ≠ 46 ∧ f ≠ 50 ∧ f ≠ 52) → w f = u f := fun f f0 hf => by
    rw [← hw, tw_up_at, if_neg (by omega), fl_ne (by omega)]
    exact sleep_ne (by omega)
  -- asleep with the disk that was put aside
  have ew : w = sleepS (tw_up (tw_fl u 50 256 (u 71)) 52 0 (s 52 0)) := by
    rw [← hw, show sleepS u 71 = u 71 from sleep_ne (by omega)]
    funext f
    unfold sleepS
    simp only [tw_up_at, fl_at]
    by_cases e52 : f = 52
    · subst e52; rfl
    · by_cases e50 : f = 50
      · subst e50; rfl
      · simp only [e52, e50, if_false, show ¬ (23 = 52) by decide, show ¬ (24 = 52) by decide, show ¬ (25 = 52) by decide, show ¬ (26 = 52) by decide, show ¬ (27 = 52) by decide, show ¬ (28 = 52) by decide, show ¬ (29 = 52) by decide, show ¬ (30 = 52) by decide, show ¬ (31 = 52) by decide, show ¬ (32 = 52) by decide, show ¬ (33 = 52) by decide, show ¬ (34 = 52) by decide, show ¬ (35 = 52) by decide, show ¬ (37 = 52) by decide, show ¬ (38 = 52) by decide, show ¬ (39 = 52) by decide, show ¬ (46 = 52) by decide, show ¬ (23 = 50) by decide, show ¬ (24 = 50) by decide, show ¬ (25 = 50) by decide, show ¬ (26 = 50) by decide, show ¬ (27 = 50) by decide, show ¬ (28 = 50) by decide, show ¬ (29 = 50) by decide, show ¬ (30 = 50) by decide, show ¬ (31 = 50) by decide, show ¬ (32 = 50) by decide, show ¬ (33 = 50) by decide, show ¬ (34 = 50) by decide, show ¬ (35 = 50) by decide, show ¬ (37 = 50) by decide, show ¬ (38 = 50) by decide, show ¬ (39 = 50) by decide, show ¬ (46 = 50) by decide]
  refine ⟨w, ?_, ⟨?_, ?_⟩, fun f f0 hf => by rw [wf f f0 (by omega), u1 f f0 (by omega)], by rw [← hw]; exact u0, fun j hj => (u2.1 j hj).cong fun f f1 f2 => wf f (by omega) (by omega), fun j hj => by rw [wf 70 (by decide) (by omega), u2.2 j hj]⟩
  · rw [tw_vn, Option.bind_some, t_sleeps (by omega), cV_v, tr_71, Option.bind_some, tr_50, Option.bind_some, t_copies (by omega) h _ _ _ 71 50 (by decide) (tl_71 h) (ts_50 h), cV_v, tp_52, Option.bind_some, hw, if_pos n0, if_pos rfl]
  · rw [ew]
    refine sleep_ra (fun a ha => ?_) ?_ fun p hp => F.1 p (by omega)
    · rw [tw_up_at, if_neg (by decide), fl_at, if_pos rfl]
      show (if a < 256 then u 71 a else _) = _
      rw [if_pos ha, u71 a ha]; exact X.1.1.dsk ha
    · show s 52 0 = _
      exact e52
  · rw [wf 40 (by decide) (by omega), u1 40 (by decide) (by omega)]; exact X.2
end TUS
