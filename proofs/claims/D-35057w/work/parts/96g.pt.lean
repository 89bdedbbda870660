/-! the twin: a key pressed; where something changed -/
/- with RA TO TO.g TO.on TO.st TO.t0 ON ON.iv SF SF.t0 t_isMachine IV IV.it IV.start KT KT.press KG KR it_press RB.up RB.sks inI_val ins_lt ins_eq ins_gt MA MKm -/
section PTS
variable {N n : Nat} {v : Int32} {s s' : Nat → Nat → Int32} {c ds0 img : Nat → Int32} {K : kk_K} {key : Int32}
theorem t_press37 {x e : Int32} (he : e ≠ 0) {d : Nat} (hd : 1 ≤ d) (h : ax_H) : B_X3_press_37 (ax_c d) 417 e 417 x (tw_H h s) = some (.inl (some (.int 0)), tw_H h (tw_up s 0 0 e)) := by
  refine dx_app b_X3_press_37 ?_
  rw [tw_vn, Option.bind_some, t_holds hd, cI_v, if_neg he, if_neg (fun z => z rfl)]
theorem t_press_bad (hx : inI key 0 65535 = 0) {d : Nat} (hd : 2 ≤ d) (h : ax_H) : ax_c d 453 [.ref 417, .int key] (tw_H h s) = some (.inl (some (.int 0)), tw_H h (tw_up s 0 0 1)) := by
  obtain ⟨d, rfl, he⟩ := d_succ hd
  refine dx_app m_X3_press ?_
  rw [t_in he, cI_v, if_neg (fun z => z hx)]
  exact t_press37 (by decide) he h
theorem t_press_off (hx : inI key 0 65535 ≠ 0) (h0 : s 23 0 ≠ 1 ∨ s 43 0 = 20) {d : Nat} (hd : 2 ≤ d) (h : ax_H) : ax_c d 453 [.ref 417, .int key] (tw_H h s) = some (.inl (some (.int 0)), tw_H h (tw_up s 0 0 2)) := by
  obtain ⟨d, rfl, he⟩ := d_succ hd
  refine dx_app m_X3_press ?_
  rw [t_in he, cI_v, if_pos hx, tg_23, Option.bind_some]
  by_cases q : s 23 0 = 1
  · rw [if_neg (fun z => z q), tg_43, Option.bind_some, if_neg (fun z => z (h0.resolve_left (fun y => y q)))]
    exact t_press37 (by decide) he h
  · rw [if_pos q]
    exact t_press37 (by decide) he h
theorem t_press_yes (O : ON N n K ds0 img) (T : TO N n K ds0 img v s) (h1 : itC K (stC ds0 img K v) N 0 = 1) (h20 : K.1 < 20) (hk : rg 65535 key) {d : Nat} (hd : 3 ≤ d) (h : ax_H) : ∃ s', ax_c d 453 [.ref 417, .int key] (tw_H h s) = some (.inl (some (.int (Int32.ofNat (K.1 + 1)))), tw_H h s') ∧ ON N n (prK K (Int32.ofNat N) key) ds0 img ∧ TO N n (prK K (Int32.ofNat N) key) ds0 img v s' ∧ SF s s' ∧ s' 0 0 = 0 := by
  obtain ⟨d, rfl, he⟩ := d_succ hd
  have st := TO.st O T
  have e23 : s 23 0 = 1 := (T.g (p := 0) (by omega)).trans h1
  obtain ⟨o1, o2, o3, o4, o5, o6⟩ := O
  obtain ⟨⟨r1, r2, r3, r4⟩, ⟨k1, k2, k3⟩, t3, t4, t5, t6, t7⟩ := T
  obtain ⟨p1, p2⟩ := it_press (v := v) o4 o5 o6 h20 o2 hk
  have hz := pzF_le K.2.1 (Int32.ofNat N) K.1
  have i20 : ∀ i, i < 20 → ix 20 (Int32.ofNat i) = some i := fun i hi => ix_of rfl hi (by omega)
  -- the row is moved
  have loop : ∀ p, p ≤ K.1 → pzF K.2.1 (Int32.ofNat N) p = pzF K.2.1 (Int32.ofNat N) K.1 → ∀ u : Nat → Nat → Int32, (∀ f, f ≠ 0 → f ≠ 41 → f ≠ 42 → u f = s f) → u 0 0 = 0 → (∀ i, i ≤ p → u 41 i = s 41 i ∧ u 42 i = s 42 i) → (∀ i, p < i → i ≤ K.1 → u 41 i = s 41 (i - 1) ∧ u 42 i = s 42 (i - 1)) → ∃ s', B_X3_press_50 (ax_c d) 417 key (Int32.ofNat p) (tw_H h u) = some (.inl (some (.int (Int32.ofNat (K.1 + 1)))), tw_H h s') ∧ (∀ f, f ≠ 0 → f ≠ 33 → f ≠ 41 → f ≠ 42 → f ≠ 43 → s' f = s f) ∧ s' 0 0 = 0 ∧ s' 43 0 = Int32.ofNat (K.1 + 1) ∧ s' 33 = upd (s 33) 0 1 ∧ ∀ i, i < K.1 + 1 → s' 41 i = insI K.2.1 (pzF K.2.1 (Int32.ofNat N) K.1) (Int32.ofNat N) i ∧ s' 42 i = insI K.2.2 (pzF K.2.1 (Int32.ofNat N) K.1) key i := by
    have fin : ∀ p, p ≤ K.1 → p = pzF K.2.1 (Int32.ofNat N) K.1 → ∀ u : Nat → Nat → Int32, (∀ f, f ≠ 0 → f ≠ 41 → f ≠ 42 → u f = s f) → u 0 0 = 0 → (∀ i, i ≤ p → u 41 i = s 41 i ∧ u 42 i = s 42 i) → (∀ i, p < i → i ≤ K.1 → u 41 i = s 41 (i - 1) ∧ u 42 i = s 42 (i - 1)) → ∃ s', B_X3_press_103 (ax_c d) 417 key (Int32.ofNat p) (tw_H h u) = some (.inl (some (.int (Int32.ofNat (K.1 + 1)))), tw_H h s') ∧ (∀ f, f ≠ 0 → f ≠ 33 → f ≠ 41 → f ≠ 42 → f ≠ 43 → s' f = s f) ∧ s' 0 0 = 0 ∧ s' 43 0 = Int32.ofNat (K.1 + 1) ∧ s' 33 = upd (s 33) 0 1 ∧ ∀ i, i < K.1 + 1 → s' 41 i = insI K.2.1 (pzF K.2.1 (Int32.ofNat N) K.1) (Int32.ofNat N) i ∧ s' 42 i = insI K.2.2 (pzF K.2.1 (Int32.ofNat N) K.1) key i := by
      intro p hp ep u u1 u0 u2 u3
      have e38 : u 38 0 = Int32.ofNat N := by rw [u1 38 (by decide) (by decide) (by decide)]; exact st
      have e43 : u 43 0 = Int32.ofNat K.1 := by rw [u1 43 (by decide) (by decide) (by decide)]; exact k1
      refine ⟨tw_up (tw_up (tw_up (tw_up u 41 p (Int32.ofNat N)) 42 p key) 43 0 (Int32.ofNat (K.1 + 1))) 33 0 1, dx_app b_X3_press_103 ?_, fun f f0 f1 f2 f3 f4 => ?_, u0, rfl, ?_, fun i hi => ?_⟩
      · rw [tr_41, Option.bind_some, tg_38, Option.bind_some, e38, ts_41, i20 p (by omega), Option.bind_some, Option.bind_some, tr_42, Option.bind_some, ts_42, i20 p (by omega), Option.bind_some, Option.bind_some, tg_43, Option.bind_some, show tw_up (tw_up u 41 p (Int32.ofNat N)) 42 p key 43 0 = u 43 0 from rfl, e43, show Int32.ofNat K.1 + 1 = Int32.ofNat (K.1 + 1) from i_add _ 1, tp_43, Option.bind_some, tp_33, if_pos ftb1, Option.bind_some, tg_43, Option.bind_some]
        rfl
      · rw [tw_up_at, if_neg f1, tw_up_at, if_neg f4, tw_up_at, if_neg f3, tw_up_at, if_neg f2]; exact u1 f f0 f2 f3
      · show upd (u 33) 0 1 = _
        rw [u1 33 (by decide) (by decide) (by decide)]
      · rw [← ep]
        show upd (u 41) p (Int32.ofNat N) i = _ ∧ upd (u 42) p key i = _
        rw [upd_at, upd_at]
        rcases Nat.lt_trichotomy i p with z | z | z
        · rw [if_neg (by omega), if_neg (by omega), ins_lt z, ins_lt z]
          have := k3 i (by omega)
          rw [(u2 i (by omega)).1, (u2 i (by omega)).2]
          exact ⟨this.1, this.2.1⟩
        · rw [if_pos z, if_pos z, z, ins_eq, ins_eq]; exact ⟨rfl, rfl⟩
        · rw [if_neg (by omega), if_neg (by omega), ins_gt z, ins_gt z]
          have := k3 (i - 1) (by omega)
          rw [(u3 i z (by omega)).1, (u3 i z (by omega)).2]
          exact ⟨this.1, this.2.1⟩
    intro p
    induction p with
    | zero =>
      intro hp ep u u1 u0 u2 u3
      obtain ⟨s', x1, x2⟩ := fin 0 hp ep u u1 u0 u2 u3
      refine ⟨s', dx_app b_X3_press_50 ?_, x2⟩
      rw [if_pos (by decide)]; exact x1
    | succ p ih =>
      intro hp ep u u1 u0 u2 u3
      have k3p := k3 p (by omega)
      have e1 : Int32.ofNat (p + 1) - 1 = Int32.ofNat p := i_sub (a := p + 1) (b := 1) (by omega)
      have e38 : u 38 0 = Int32.ofNat N := by rw [u1 38 (by decide) (by decide) (by decide)]; exact st
      have e41 : u 41 p = K.2.1 p := by rw [(u2 p (by omega)).1]; exact k3p.1
      have ez : pzF K.2.1 (Int32.ofNat N) (p + 1) = if Int32.ofNat N < K.2.1 p then pzF K.2.1 (Int32.ofNat N) p else p + 1 := rfl
      by_cases q : Int32.ofNat N < K.2.1 p
      · rw [ez, if_pos q] at ep
        generalize hw : tw_up (tw_up u 41 (p + 1) (u 41 p)) 42 (p + 1) (u 42 p) = w
        obtain ⟨s', x1, x2⟩ := ih (by omega) ep w (fun f f0 f1 f2 => by rw [← hw, tw_up_at, if_neg f2, tw_up_at, if_neg f1]; exact u1 f f0 f1 f2) (by rw [← hw]; exact u0) (fun i hi => by
          rw [← hw]
          show upd (u 41) (p + 1) (u 41 p) i = _ ∧ upd (u 42) (p + 1) (u 42 p) i = _
          rw [upd_ne _ _ (by omega), upd_ne _ _ (by omega)]; exact u2 i (by omega)) (fun i h1 h2 => by
          rw [← hw]
          show upd (u 41) (p + 1) (u 41 p) i = _ ∧ upd (u 42) (p + 1) (u 42 p) i = _
          by_cases e : i = p + 1
          · rw [e, upd_eq, upd_eq, Nat.add_sub_cancel]; exact u2 p (by omega)
          · rw [upd_ne _ _ e, upd_ne _ _ e]; exact u3 i (by omega) h2)
        refine ⟨s', dx_app b_X3_press_50 ?_, x2⟩
        rw [if_neg (fun z => by have := (i_le (b := 0) (by omega) (by omega)).mp z; omega), tr_41, Option.bind_some, tl_41, e1, i20 p (by omega), Option.bind_some, Option.bind_some, tg_38, Option.bind_some, e38, e41, if_neg (Int32.not_le.mpr q), Option.bind_some, Option.bind_some, tl_41, i20 p (by omega), Option.bind_some, Option.bind_some, ts_41, i20 (p + 1) (by omega), Option.bind_some, Option.bind_some, tr_42, Option.bind_some, Option.bind_some, tl_42, i20 p (by omega), Option.bind_some, Option.bind_some, ts_42, i20 (p + 1) (by omega), Option.bind_some, Option.bind_some, lt_at, show tw_up u 41 (p + 1) (u 41 p) 42 p = u 42 p from rfl, hw, show Int32.ofNat (p + 1) + (-1) = Int32.ofNat p from by rw [← e1, Int32.sub_eq_add_neg]]
        exact x1
      · rw [ez, if_neg q] at ep
        obtain ⟨s', x1, x2⟩ := fin (p + 1) hp ep u u1 u0 u2 u3
        refine ⟨s', dx_app b_X3_press_50 ?_, x2⟩
        rw [if_neg (fun z => by have := (i_le (b := 0) (by omega) (by omega)).mp z; omega), tr_41, Option.bind_some, tl_41, e1, i20 p (by omega), Option.bind_some, Option.bind_some, tg_38, Option.bind_some, e38, e41, if_pos (Int32.not_lt.mp q)]
        exact x1
  obtain ⟨s', x1, x2, x3, x4, x5, x6⟩ := loop K.1 (Nat.le_refl _) rfl (tw_up s 0 0 0) (fun f f0 _ _ => by rw [tw_up_at, if_neg f0]) rfl (fun i _ => ⟨rfl, rfl⟩) (fun i h1 h2 => by omega)
  have KP := o4.press h20 o2 hk
  have hq : inI key 0 65535 ≠ 0 := by
    obtain ⟨q1, q2⟩ := rg.nat hk
    rw [q2]
    exact (inI_val (lo := 0) (hi := 65535) (by omega) (by omega)).mpr ⟨_, Nat.zero_le _, q1, rfl⟩
  refine ⟨s', dx_app m_X3_press ?_, ⟨o1, o2, o3, KP, o5, o6⟩, ⟨?_, ⟨x4, KP.1.1, fun k hk => ⟨(x6 k hk).1, (x6 k hk).2, KP.2 k hk⟩⟩, ?_, fun a ha => ?_, fun a ha => ?_, ?_, fun k hk => ?_⟩, fun f hf => x2 f (by omega) (by omega) (by omega) (by omega) (by omega), x3⟩
  · rw [t_in (by omega), cI_v, if_pos hq, tg_23, Option.bind_some, e23, if_neg (fun z => z rfl), tg_43, Option.bind_some, k1, if_pos (fun z => by have := (i_eq (b := 20) (by omega) (by omega)).mp z; omega)]
    refine dx_app b_X3_press_37 ?_
    rw [tw_vn, Option.bind_some, t_holds (by omega), cI_v, if_pos rfl, if_pos (by decide), tg_43, Option.bind_some, show tw_up s 0 0 0 43 0 = s 43 0 from rfl, k1]
    exact x1
  · rw [p2]
    have u : ∀ f, f ≠ 0 → f ≠ 41 → f ≠ 42 → f ≠ 43 → s' f = tw_up s 33 0 1 f := fun f f0 f1 f2 f3 => by
      rw [tw_up_at]
      by_cases e : f = 33
      · rw [if_pos e, e]; exact x5
      · rw [if_neg e]; exact x2 f f0 e f1 f2 f3
    refine ⟨(r1.up (p := 9) (x := 1) (Or.inl (by omega)) rfl rfl).cong fun f f1 f2 f3 f4 => u f (by omega) (by omega) (by omega) (by omega), ⟨by rw [upd_ne _ _ (by omega)]; exact r2.1, fun i hi => ?_⟩, ⟨?_, fun z => ?_⟩, ?_⟩
    · rw [upd_ne _ _ (by omega)] at hi
      rw [x2 36 (by decide) (by decide) (by decide) (by decide) (by decide), upd_ne _ _ (by omega)]; exact r2.2 i hi
    · rw [x2 46 (by decide) (by decide) (by decide) (by decide) (by decide), wlC_ne (by omega) (by omega)]; exact r3.1
    · rw [upd_ne _ _ (by omega)] at z ⊢
      obtain ⟨b0, b1, b2, b3⟩ := r3.2 z
      refine ⟨b0, by rw [x2 47 (by decide) (by decide) (by decide) (by decide) (by decide)]; exact b1, fun j hj => ?_, fun q hq => ?_⟩
      · rw [x2 48 (by decide) (by decide) (by decide) (by decide) (by decide), upd_ne _ _ (by omega)]; exact b2 j hj
      · rw [x2 49 (by decide) (by decide) (by decide) (by decide) (by decide), upd_ne _ _ (by omega)]; exact b3 q hq
    · rw [x2 52 (by decide) (by decide) (by decide) (by decide) (by decide), upd_ne _ _ (by omega)]; exact r4
  · rw [x2 40 (by decide) (by decide) (by decide) (by decide) (by decide)]; exact t3
  · rw [x2 53 (by decide) (by decide) (by decide) (by decide) (by decide)]; exact t4 a ha
  · rw [x2 54 (by decide) (by decide) (by decide) (by decide) (by decide)]; exact t5 a ha
  · rw [x2 55 (by decide) (by decide) (by decide) (by decide) (by decide)]; exact t6
  · have m : MKm k (MS (stepW (prK K (Int32.ofNat N) key) (itC (prK K (Int32.ofNat N) key) (stC ds0 img (prK K (Int32.ofNat N) key) v) k))) s := by
      rw [(p1 k hk).1, show MS (stepW (prK K (Int32.ofNat N) key) (itC K (stC ds0 img K v) k)) = MS (stepW K (itC K (stC ds0 img K v) k)) from funext fun a => propext ((p1 k hk).2 a)]
      exact t7 k hk
    exact m.cong2 (by rw [x2 44 (by decide) (by decide) (by decide) (by decide) (by decide)]) (by rw [x2 45 (by decide) (by decide) (by decide) (by decide) (by decide)])
/-! where something changed -/
/-- the latest of the kept steps that wrote to an address: m of them are asked, the last one is t - 1 -/
noncomputable def caR (M : Nat → Prop) : Nat → Nat → Int32
  | 0, _ => -1
  | m + 1, t => @ite _ (M (t - 1)) (Classical.propDecidable _) (Int32.ofNat (t - 1)) (caR M m (t - 1))
theorem MKm.has {M : Nat → Prop} {k a : Nat} (m : MKm k M s) (ha : a < 256) : M a ↔ s 44 k = Int32.ofNat a ∨ s 45 k = Int32.ofNat a := by
  rcases m with ⟨m1, m2, m3⟩ | ⟨b, m0, m1, m2, m3⟩ | ⟨b, b', m0, m0', m1, m2, m3⟩
  · rw [m1, m2]
    exact ⟨fun z => absurd z (m3 a), fun z => z.elim (fun y => absurd y.symm (m1_ne ha)) fun y => absurd y.symm (m1_ne ha)⟩
  · rw [m1, m2, m3 a]
    exact ⟨fun z => Or.inl (by rw [z]), fun z => z.elim (fun y => ((i_eq (by omega) (by omega)).mp y).symm) fun y => absurd y.symm (m1_ne ha)⟩
  · rw [m1, m2, m3 a]
    exact ⟨fun z => z.imp (fun y => by rw [y]) fun y => by rw [y], fun z => z.imp (fun y => ((i_eq (by omega) (by omega)).mp y).symm) fun y => ((i_eq (by omega) (by omega)).mp y).symm⟩
theorem t_isAddress {d : Nat} (hd : 2 ≤ d) (h : ax_H) (x : Int32) : ax_c d 465 [.int x] h = some (.inl (some (.int (inI x 0 255))), h) := by
  obtain ⟨d, rfl, he⟩ := d_succ hd
  refine dx_app m_X3_isAddress ?_
  rw [t_in he, cI_v, if_pos]
  unfold inI
  split
  · exact Or.inl rfl
  · split
    · exact Or.inl rfl
    · exact Or.inr rfl
theorem t_changedAt_bad {x : Int32} (hx : inI x 0 255 = 0) {d : Nat} (hd : 3 ≤ d) (h : ax_H) : ax_c d 466 [.ref 417, .int x] (tw_H h s) = some (.inl (some (.int 0)), tw_H h (tw_up s 0 0 1)) := by
  obtain ⟨d, rfl, he⟩ := d_succ hd
  refine dx_app m_X3_changedAt ?_
  rw [t_isAddress he, cI_v, if_pos hx]
  refine dx_app b_X3_changedAt_13 ?_
  rw [tw_vn, Option.bind_some, t_holds (by omega), cI_v, if_neg (show ¬ (1 : Int32) = 0 by decide), if_neg (fun z => z rfl)]
theorem t_changedAt_yes {M : Nat → Nat → Prop} (hn : n ≤ N) (hN : N ≤ 1000) (e38 : s 38 0 = Int32.ofNat N) (e40 : s 40 0 = Int32.ofNat n) (hm : ∀ k, k < N → MKm k (M k) s) {a : Nat} (ha : a < 256) {d : Nat} (hd : 3 ≤ d) (h : ax_H) : ax_c d 466 [.ref 417, .int (Int32.ofNat a)] (tw_H h s) = some (.inl (some (.int (caR (fun k => M k a) n N))), tw_H h (tw_up s 0 0 0)) := by
  obtain ⟨d, rfl, he⟩ := d_succ hd
  have loop : ∀ m k, k = N - n + m → k ≤ N → ∀ z : Int32, z = Int32.ofNat k - 1 → B_X3_changedAt_28 (ax_c d) 417 (Int32.ofNat a) z (tw_H h (tw_up s 0 0 0)) = some (.inl (some (.int (caR (fun k => M k a) m k))), tw_H h (tw_up s 0 0 0)) := by
    intro m
    induction m with
    | zero =>
      intro k hk kN z hz
      refine dx_app b_X3_changedAt_28 ?_
      rw [tg_38, Option.bind_some, tg_40, Option.bind_some, show tw_up s 0 0 0 38 0 = s 38 0 from rfl, show tw_up s 0 0 0 40 0 = s 40 0 from rfl, e38, e40, i_sub hn, hz, if_pos]
      · rfl
      · rw [hk, Nat.add_zero]
        rw [Int32.lt_iff_toInt_lt]
        have x1 : (Int32.ofNat (N - n)).toInt = ((N - n : Nat) : Int) := Int32.toInt_ofNat_of_lt (by omega)
        rcases Nat.eq_zero_or_pos (N - n) with y | y
        · rw [y]; decide
        · rw [show Int32.ofNat (N - n) - 1 = Int32.ofNat (N - n - 1) from i_sub (b := 1) y, x1, show (Int32.ofNat (N - n - 1)).toInt = ((N - n - 1 : Nat) : Int) from Int32.toInt_ofNat_of_lt (by omega)]
          omega
    | succ m ih =>
      intro k hk kN z hz
      have k1 : Int32.ofNat k - 1 = Int32.ofNat (k - 1) := i_sub (b := 1) (by omega)
      have i1 : ix 1000 (Int32.ofNat (k - 1)) = some (k - 1) := ix_of rfl (by omega) (by omega)
      have hs := (hm (k - 1) (by omega)).has ha
      refine dx_app b_X3_changedAt_28 ?_
      rw [tg_38, Option.bind_some, tg_40, Option.bind_some, show tw_up s 0 0 0 38 0 = s 38 0 from rfl, show tw_up s 0 0 0 40 0 = s 40 0 from rfl, e38, e40, i_sub hn, hz, k1, if_neg (fun y => by have := (i_lt (by omega) (by omega)).mp y; omega), tr_44, Option.bind_some, tl_44, i1, Option.bind_some, Option.bind_some, show tw_up s 0 0 0 44 (k - 1) = s 44 (k - 1) from rfl]
      rw [show caR (fun k => M k a) (m + 1) k = @ite _ (M (k - 1) a) (Classical.propDecidable _) (Int32.ofNat (k - 1)) (caR (fun k => M k a) m (k - 1)) from rfl]
      by_cases q1 : s 44 (k - 1) = Int32.ofNat a
      · rw [if_pos q1, @if_pos _ (Classical.propDecidable _) (hs.mpr (Or.inl q1))]
      · rw [if_neg q1, tr_45, Option.bind_some, tl_45, i1, Option.bind_some, Option.bind_some, show tw_up s 0 0 0 45 (k - 1) = s 45 (k - 1) from rfl]
        by_cases q2 : s 45 (k - 1) = Int32.ofNat a
        · rw [if_neg (fun y => y q2), @if_pos _ (Classical.propDecidable _) (hs.mpr (Or.inr q2))]
        · rw [if_pos q2, @if_neg _ (Classical.propDecidable _) (fun y => (hs.mp y).elim q1 q2), lt_at]
          exact ih (k - 1) (by omega) (by omega) _ (by rw [Int32.sub_eq_add_neg])
  refine dx_app m_X3_changedAt ?_
  rw [t_isAddress he, cI_v, if_neg (show ¬ inI (Int32.ofNat a) 0 255 = 0 from (inI_val (lo := 0) (hi := 255) (by omega) (by omega)).mpr ⟨a, Nat.zero_le _, by omega, rfl⟩)]
  refine dx_app b_X3_changedAt_13 ?_
  rw [tw_vn, Option.bind_some, t_holds (by omega), cI_v, if_pos rfl, if_pos (by decide), tg_38, Option.bind_some, show tw_up s 0 0 0 38 0 = s 38 0 from rfl, e38, lt_at]
  exact loop n N (by omega) (Nat.le_refl _) _ rfl
end PTS
