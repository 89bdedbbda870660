/-! the law: one call of both in its loop -/
/- with wld CJ0 CJ TJ FT OPJ CLW.mn CTW.mn DRL.mono MCH.mn IMG.mn tw_H XP Ext CJ0.mv CJ0.ext IMG GO ax_mP dx_call_mono -/
theorem c_mn {d e k : Nat} {as : List Value} {h : ax_H} {r : ax_R} (hde : d ≤ e) (hr : ax_c d k as h = some r) : ax_c e k as h = some r := dx_call_mono ax_mP hde hr
/-- the loop's heap: both, the script, the row of what comes out -/
def JH (L : Nat) (xs : Nat → Int32) (i : Nat) (h : ax_H) : Prop := h.1 0 = .inl (0, L, .inl xs) ∧ ∃ W s, CJ i W h ∧ TJ W s ∧ tw_H h s = h ∧ ∃ f, h.1 460 = .inl (1, 1, .inr (.inl f))
section LWS
variable {R : Nat → Nat → Prop} {cap i L d : Nat} {xs : Nat → Int32} {W : wld} {h h' h1 h2 H H' : ax_H} {s s' : Nat → Nat → Int32} {v : Int32} {ex : Nat → Int32} {cx : Option ax_R} {ct : ax_H → Option ax_R}
theorem tw_ext (e : ∀ q, 417 ≤ q → q < 460 → h2.1 q = h1.1 q) (t : tw_H h1 s = h1) : tw_H h2 s = h2 := by
  refine Prod.ext ?_ rfl
  funext q
  have tq : ∀ q, (tw_H h1 s).1 q = h1.1 q := fun q => by rw [t]
  by_cases c : 417 ≤ q ∧ q < 460
  · rw [e q c.1 c.2, ← tq q]
    show (if q < 417 then h2.1 q else if q = 417 then _ else if q < 460 then _ else h2.1 q) = (if q < 417 then h1.1 q else if q = 417 then _ else if q < 460 then _ else h1.1 q)
    have c0 : ¬ q < 417 := by omega
    rw [if_neg c0, if_neg c0]
    by_cases c2 : q = 417
    · rw [if_pos c2, if_pos c2]
    · rw [if_neg c2, if_neg c2, if_pos c.2, if_pos c.2]
  · show (if q < 417 then h2.1 q else if q = 417 then _ else if q < 460 then _ else h2.1 q) = _
    by_cases c1 : q < 417
    · rw [if_pos c1]
    · rw [if_neg c1, if_neg (show ¬ q = 417 by omega), if_neg (show ¬ q < 460 by omega)]
theorem tw_off {q : Nat} (hq : q < 417 ∨ 460 ≤ q) : (tw_H h s).1 q = h.1 q := by
  show (if q < 417 then h.1 q else if q = 417 then _ else if q < 460 then _ else h.1 q) = _
  by_cases c1 : q < 417
  · rw [if_pos c1]
  · rw [if_neg c1, if_neg (show ¬ q = 417 by omega), if_neg (show ¬ q < 460 by omega)]
/-- what the class holds stays when only the twin's cells, or the row of what comes out, change -/
theorem CJ.tw (C : CJ i W h) (e : ∀ q, q < 417 ∨ 461 ≤ q → h'.1 q = h.1 q) (hs : h'.2 = h.2) : CJ i W h' := by
  obtain ⟨R, cap, c1, c2, c3, c4, c5, c6, c7, c8, c9, c10, r1, r2, r3, r4⟩ := C
  have eR : ∀ j q, R j q → h'.1 q = h.1 q := fun j q hq => e q (by have := (c10.2 j q hq).1; omega)
  have eo : ∀ q, q ≤ 400 → h'.1 q = h.1 q := fun q hq => e q (by omega)
  have s1 : h.2.1 ≤ h'.2.1 := by rw [hs]; exact Nat.le_refl _
  exact ⟨R, cap, c1.mono fun q hq => eo q (by omega), c2, c3.mn c10 eR s1, c4.mn (eR 0) (eo 400 (by omega)), c5, c6.mn (eR 2) (fun q hq => eo q (by omega)) s1, c7.mn (eR 3) (fun q hq => eo q (by omega)) s1, c8.mono (fun r _ hr => hr.elim (eR 4 r) fun z => eo r (by omega)) s1, c9.mono (fun r _ hr => hr.elim (eR 5 r) fun z => eo r (by omega)) s1, ⟨c10.1, fun i q h => ⟨(c10.2 i q h).1, by rw [hs]; exact (c10.2 i q h).2⟩⟩, by rw [hs]; exact r1, r2, by rw [hs]; exact r3, by rw [hs]; exact r4⟩
theorem CJ.go (C : CJ i W h) : ∃ iv, GO h iv := by
  obtain ⟨R, cap, c1, c2, c3, ⟨iv, G, -⟩, -⟩ := C
  exact ⟨iv, G⟩
/-- behind the twin's part -/
theorem JH.fin (hx : h1.1 0 = .inl (0, L, .inl xs)) (C : CJ i W h1) (T : TJ W s') (ho : ∃ f, h1.1 460 = .inl (1, 1, .inr (.inl f))) : JH L xs i (tw_H h1 s') := by
  refine ⟨(tw_off (by omega)).trans hx, W, s', C.tw (fun q hq => tw_off (by omega)) rfl, T, tw_ext (h1 := tw_H h1 s') (fun q q1 q2 => rfl) ?_, ?_⟩
  · refine Prod.ext ?_ rfl
    funext q
    by_cases c : q < 417 ∨ 460 ≤ q
    · exact tw_off c
    · show (if q < 417 then (tw_H h1 s').1 q else if q = 417 then _ else if q < 460 then _ else (tw_H h1 s').1 q) = (if q < 417 then h1.1 q else if q = 417 then _ else if q < 460 then _ else h1.1 q)
      have c0 : ¬ q < 417 := fun z => c (Or.inl z)
      have c3 : q < 460 := by omega
      rw [if_neg c0, if_neg c0]
      by_cases c2 : q = 417
      · rw [if_pos c2, if_pos c2]
      · rw [if_neg c2, if_neg c2, if_pos c3, if_pos c3]
  · obtain ⟨f, hf⟩ := ho
    exact ⟨f, (tw_off (by omega)).trans hf⟩
/-- a call without a row of what comes out -/
theorem law1 {kx kt : Nat} {w : Option Value ⊕ Nat} {Q : ax_H → Prop} {F : ax_H → Option ax_R} {G0 : ax_H → Option ax_R} (J : JH L xs i h) (O : ∀ W s, CJ i W h → TJ W s → OPJ i W h s (ax_c d kx [.ref 400] h) (fun h => ax_c d kt [.ref 417] h) (fun _ => 0)) (fin : ∀ h3, JH L xs (i + 1) h3 → Ok (F h3) w Q) : Ok ((dx_vn [(19, kx)] (.ref 400) h).bind fun k => dx_cI (ax_c d k [.ref 400] h) (fun x2 h1 => (dx_vn [(38, kt)] (.ref 417) h1).bind fun k => dx_cI (ax_c d k [.ref 417] h1) (fun x4 h3 => if x2 = x4 then F h3 else G0 h3) dx_x0) dx_x0) w Q := by
  obtain ⟨j0, W, s, C, T, t0, f, j4⟩ := J
  obtain ⟨iv, G⟩ := C.go
  have v1 : dx_vn [(19, kx)] (.ref 400) h = some kx := vn_at G
  rw [v1, Option.bind_some]
  rcases O W s C T with ⟨v, Q0, X, Y⟩ | ⟨k, a, b, ha, hb, X, h0, -⟩
  · obtain ⟨h1, e1, ⟨W', q0, C'⟩, F1⟩ := X
    have t1 : tw_H h1 s = h1 := tw_ext (fun q q1 q2 => F1.1 q (by omega) (Or.inl q1)) t0
    obtain ⟨s', e2, e3, e4⟩ := Y h1
    have v2 : dx_vn [(38, kt)] (.ref 417) h1 = some kt := by rw [← t1]; exact tw_vn _ _ _
    dsimp only at e2
    rw [t1] at e2
    rw [e1, cI_v, v2, Option.bind_some, e2, cI_v, if_pos rfl]
    exact fin _ (JH.fin ((F1.1 0 (by omega) (Or.inr (by omega))).trans j0) C' (e4 W' q0) ⟨f, (F1.1 460 (by omega) (Or.inl (by omega))).trans j4⟩)
  · exact absurd rfl h0
/-- a call through a method of the law that catches -/
def WRP (h : ax_H) (cx : Option ax_R) (cw : Option ax_R) (ex : Nat → Int32) : Prop := (∀ v h1 f, cx = some (.inl (some (.int v)), h1) → h1.1 460 = .inl (1, 1, .inr (.inl f)) → cw = some (.inl (some (.int 0)), ax_set h1 460 (.inl (1, 1, .inr (.inl (vp_updL f 0 (Int32.toInt64 v))))))) ∧ ∀ i h1 k fs, cx = some (.inr i, h1) → 400 ≤ i → h1.1 i = .inr (k, fs) → ex k ≠ 0 → cw = some (.inl (some (.int (ex k))), h1)
theorem law3 {cw : Option ax_R} (J : JH L xs i h) (O : ∀ W s, CJ i W h → TJ W s → OPJ i W h s cx ct ex) (wr : (∃ iv, GO h iv) → WRP h cx cw ex) : ∃ x3 h2, cw = some (.inl (some (.int x3)), h2) ∧ h2.1 0 = .inl (0, L, .inl xs) ∧ (∃ s, tw_H h2 s = h2) ∧ ∃ x6 h5, ct h2 = some (.inl (some (.int x6)), h5) ∧ (∀ k, dx_vn [(38, k)] (.ref 417) h5 = some k) ∧ dx_gI [(38, 0)] (.ref 417) h5 = some x3 ∧ (x3 = 0 → dx_lJ 1 (.ref 460) 0 h5 = some (Int32.toInt64 x6)) ∧ JH L xs (i + 1) h5 := by
  obtain ⟨j0, W, s, C, T, t0, f, j4⟩ := J
  obtain ⟨w1, w2⟩ := wr C.go
  rcases O W s C T with ⟨v, Q0, X, Y⟩ | ⟨k, a, b, ha, hb, X, h0, Y⟩
  · obtain ⟨h1, e1, ⟨W', q0, C'⟩, F1⟩ := X
    have o1 : h1.1 460 = .inl (1, 1, .inr (.inl f)) := (F1.1 460 (by omega) (Or.inl (by omega))).trans j4
    have x0 : h1.1 0 = .inl (0, L, .inl xs) := (F1.1 0 (by omega) (Or.inr (by omega))).trans j0
    have t1 : tw_H h1 s = h1 := tw_ext (fun q q1 q2 => F1.1 q (by omega) (Or.inl q1)) t0
    obtain ⟨h2, e2⟩ : ∃ h2, h2 = ax_set h1 460 (.inl (1, 1, .inr (.inl (vp_updL f 0 (Int32.toInt64 v))))) := ⟨_, rfl⟩
    have ne : ∀ q, q ≠ 460 → h2.1 q = h1.1 q := fun q hq => by rw [e2]; exact set_ne _ hq
    have o2 : h2.1 460 = .inl (1, 1, .inr (.inl (vp_updL f 0 (Int32.toInt64 v)))) := by rw [e2]; exact set_eq _
    have t2 : tw_H h2 s = h2 := tw_ext (fun q q1 q2 => ne q (by omega)) t1
    have C2 : CJ (i + 1) W' h2 := C'.tw (fun q hq => ne q (by omega)) (by rw [e2]; rfl)
    obtain ⟨s', e3, e4, e5⟩ := Y h2
    rw [t2] at e3
    refine ⟨0, h2, by rw [e2]; exact w1 v h1 f e1 o1, (ne 0 (by omega)).trans x0, ⟨s, t2⟩, v, tw_H h2 s', e3, fun k => tw_vn _ _ _, ?_, fun _ => ?_, JH.fin ((ne 0 (by omega)).trans x0) C2 (e5 W' q0) ⟨_, o2⟩⟩
    · rw [tg_0, e4]
    · rw [lJ_at ((tw_off (s := s') (by omega)).trans o2), ix_of (k := 0) (n := 1) (i := 0) rfl (by omega) (by omega), Option.bind_some]
      rfl
  · obtain ⟨j, h1, e1, x4, ⟨fs, x5⟩, E⟩ := X
    have E0 := E
    obtain ⟨R, cap, C0⟩ := C
    obtain ⟨C', F1⟩ := C0.ext E ha hb
    have o1 : h1.1 460 = .inl (1, 1, .inr (.inl f)) := (F1.1 460 (by omega) (Or.inl (by omega))).trans j4
    have x0 : h1.1 0 = .inl (0, L, .inl xs) := (F1.1 0 (by omega) (Or.inr (by omega))).trans j0
    have t1 : tw_H h1 s = h1 := tw_ext (fun q q1 q2 => F1.1 q (by omega) (Or.inl q1)) t0
    obtain ⟨s', e3, e4, e5⟩ := Y h1
    rw [t1] at e3
    refine ⟨ex k, h1, w2 j h1 k fs e1 x4 x5 h0, x0, ⟨s, t1⟩, 0, tw_H h1 s', e3, fun k => tw_vn _ _ _, ?_, fun z => absurd z h0, JH.fin x0 ⟨R, cap, C'⟩ e5 ⟨f, o1⟩⟩
    rw [tg_0, e4]
/-- the end of such a call -/
theorem law3t {w : Option Value ⊕ Nat} {Q : ax_H → Prop} {F G1 G2 : ax_H → Option ax_R} {x3 x6 : Int32} (hv : ∀ k, dx_vn [(38, k)] (.ref 417) h = some k) (ht : dx_gI [(38, 0)] (.ref 417) h = some x3) (hl : x3 = 0 → dx_lJ 1 (.ref 460) 0 h = some (Int32.toInt64 x6)) (hd : 1 ≤ d) (fin : Ok (F h) w Q) : Ok ((dx_vn [(38, 372)] (.ref 417) h).bind fun k => dx_cI (ax_c d k [.ref 417] h) (fun x8 h7 => if x8 = x3 then if ¬ x3 = 0 then F h7 else (dx_lJ 1 (.ref 460) 0 h7).bind fun j10 => if (lg_cmp j10 (Int32.toInt64 x6)) = 0 then F h7 else G1 h7 else G2 h7) dx_x0) w Q := by
  have th : ax_c d 372 [.ref 417] h = some (.inl (some (.int x3)), h) := by
    obtain ⟨d, rfl, -⟩ := d_succ hd
    refine dx_app m_X3_thrown ?_
    rw [ht, Option.bind_some]
  rw [hv, Option.bind_some, th, cI_v, if_pos rfl]
  by_cases z : x3 = 0
  · rw [if_neg (fun y => y z), hl z, Option.bind_some, if_pos ((lg_cmp_eq _ _).mpr rfl)]
    exact fin
  · rw [if_pos z]; exact fin
end LWS
