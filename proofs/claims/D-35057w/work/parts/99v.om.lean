/-! one call of both: the machine changes; the tests -/
/- with wld mch mC MOK MCH MCH.mv IMG APR ROOM CJ0 CJ TJ FT CJ0.ext CJ0.on1 CJ0.on3 CJ0.on4 CJ0.on5 CJ0.onA CJ0.rg upR upR_ne OPJ OPJ.obs OPJ.ob OPJ.exc ex2 exI TJ.t0 TJ.cong TJ.rb ON ON.iv TO TO.cong TF TF.cong OF SF CO CO.sz CF FR FR.tr GO DK.lg2 x_start_no x_start_yes t_start_no t_start_yes x_crash_no x_crash_yes t_crash_no t_crash_yes x_format_no x_format_yes t_format_no t_format_yes x_step_bad x_step_off x_step_yes t_step_bad t_step_off t_step_yes x_runTo_bad1 x_runTo_bad2 x_runTo_off x_runTo_yes t_runTo_bad t_runTo_off t_runTo_yes x_back_bad x_back_off x_back_yes t_back_bad t_back_off t_back_yes x_press_bad x_press_off x_press_yes t_press_bad t_press_off t_press_yes crash_of K0 FSI.fw form_fsi form_at x_testKey_ok x_testKey_X x_testWord_ok x_testWord_X x_draft_bad x_draft_full x_draft_yes t_testKey_bad t_testKey_full t_testKey_yes t_testWord_bad t_testWord_full t_testWord_yes x_addTest_bad x_addTest_full x_addTest_yes t_addTest_bad t_addTest_full t_addTest_yes x_tests t_tests x_submit_no x_submit_yes t_submit_no t_submit_on t_submit_off x_result x_result_bad t_result t_result_bad x_mark t_mark inI_val inI_rg -/
section OMS
variable {R : Nat → Nat → Prop} {cap i a w k n d : Nat} {W : wld} {M : mch} {H H' : ax_H} {s s' : Nat → Nat → Int32} {x y z u m v : Int32} {ex : Nat → Int32} {cx : Option ax_R} {ct : ax_H → Option ax_R}
/-- the twin's machine changes, all else stays -/
theorem TJ.mc (T : TJ W s) (F : SF s s') (h : match M with
  | .inl (N, n, K, ds0, img, v) => TO N n K ds0 img v s'
  | .inr c => TF c s') : TJ (M, W.2) s' := by
  have T' : TJ W (fun f => if (f ≠ 0 ∧ f < 23) ∨ 56 ≤ f then s' f else s f) := T.cong fun f f0 hf => by
    by_cases c : (f ≠ 0 ∧ f < 23) ∨ 56 ≤ f
    · rw [if_pos c]; exact F f c
    · rw [if_neg c]
  have T2 : TJ W (fun f => if f < 23 ∨ 56 ≤ f then s' f else s f) := T'.cong fun f f0 hf => by
    by_cases c : f < 23 ∨ 56 ≤ f
    · rw [if_pos c, if_pos (by omega)]
    · rw [if_neg c, if_neg (by omega)]
  obtain ⟨u1, u2, u3, u4, u5, u6⟩ := T2
  exact ⟨h, u2, u3, u4, u5, u6⟩
/-- the machine's cap -/
theorem CF.sz {c : Nat → Int32} {im : Nat} {J : mm_J} {P : Nat → Prop} (C : CF c im J cap P H) : (∀ q, P q → q < 400 + H.2.1) ∧ cap ≤ 1000 := by
  obtain ⟨ds1, K, k0, X, arr, a, it, rw', m1, m2, m3, m4, m5, m6, m7, m8, m9, m10, m11, m12, m13, -⟩ := C
  exact ⟨m13, by have := m5.2.2.2.2.1; omega⟩
/-- on again: the class's machine -/
theorem OPJ.on {N' n' : Nat} {K' : kk_K} {ds0 img : Nat → Int32} {v : Int32} {r : Int32} (C : CJ0 R cap i W H) (T : TJ W s) (X : Ok cx (.inl (some (.int r))) (fun H' => ∃ (im : Nat) (J' : mm_J) (cap' : Nat) (P' : Nat → Prop), (CO N' n' K' ds0 img v im J' cap' P' H' ∧ R 0 im) ∧ FR (R 1) P' cap cap' a w H H')) (ha : a ≤ 18000) (hw : w ≤ 80000) (O : ON N' n' K' ds0 img) (Y : ∀ h, ∃ s', ct (tw_H h s) = some (.inl (some (.int r)), tw_H h s') ∧ TO N' n' K' ds0 img v s' ∧ SF s s' ∧ s' 0 0 = 0) : OPJ i W H s cx ct ex := by
  refine Or.inl ⟨r, fun W' => W' = (.inl (N', n', K', ds0, img, v), W.2), X.imp fun H' Z => ?_, fun h => ?_⟩
  · obtain ⟨im, J', cap', P', ⟨c1, c2⟩, F⟩ := Z
    obtain ⟨z1, z2, z3, z4⟩ := c1.sz
    obtain ⟨C', F'⟩ := C.on1 F ha hw z2 z3 (M := .inl (N', n', K', ds0, img, v)) O ⟨im, J', c1, by rw [upR_ne (by decide)]; exact c2⟩
    exact ⟨⟨_, rfl, _, cap', C'⟩, F'⟩
  · obtain ⟨s', e1, e2, e3, e4⟩ := Y h
    exact ⟨s', e1, e4, fun W' e => by rw [e]; exact T.mc (M := .inl (N', n', K', ds0, img, v)) e3 e2⟩
/-- off -/
theorem OPJ.off {c : Nat → Int32} {r : Int32} (C : CJ0 R cap i W H) (T : TJ W s) (X : Ok cx (.inl (some (.int r))) (fun H' => ∃ (im : Nat) (J' : mm_J), CF c im J' cap (R 1) H' ∧ FR (R 1) (R 1) cap cap 0 0 H H')) (O : OF c ∧ FW (ds c)) (Y : ∀ h, ∃ s', ct (tw_H h s) = some (.inl (some (.int r)), tw_H h s') ∧ TF c s' ∧ SF s s' ∧ s' 0 0 = 0) : OPJ i W H s cx ct ex := by
  have hc := C.2.2.2.2.2.2.2.2.2.2.2.1
  refine Or.inl ⟨r, fun W' => W' = (.inr c, W.2), X.imp fun H' Z => ?_, fun h => ?_⟩
  · obtain ⟨im, J', c1, F⟩ := Z
    obtain ⟨C', F'⟩ := C.on1 F (by omega) (by omega) c1.sz.1 hc (M := .inr c) O ⟨im, J', c1⟩
    exact ⟨⟨_, rfl, _, cap, C'⟩, F'⟩
  · obtain ⟨s', e1, e2, e3, e4⟩ := Y h
    exact ⟨s', e1, e4, fun W' e => by rw [e]; exact T.mc (M := .inr c) e3 e2⟩
theorem o_start (C : CJ i W H) (T : TJ W s) (hd : 6 ≤ d) (h0 : ex 0 = 1) : OPJ i W H s (ax_c d 246 [.ref 400] H) (fun h => ax_c d 404 [.ref 417] h) ex := by
  obtain ⟨R, cap, C0⟩ := id C
  obtain ⟨iv, G, gi⟩ := C0.2.2.2.1
  have m1 := C0.2.2.1
  have mv := C0.2.2.1.mv
  have t1 := T.1
  have t2 := T.2.1
  have ok := C0.2.1
  have gI := C0.2.2.2.2.1
  have r0 : s 23 0 = mC W.1 0 := T.rb (p := 0) (by omega)
  have no : mC W.1 0 ≠ 0 ∨ iv = .null → (s 23 0 ≠ 0 ∨ s 22 0 = 0) → OPJ i W H s (ax_c d 246 [.ref 400] H) (fun h => ax_c d 404 [.ref 417] h) ex := fun z1 z2 => OPJ.exc (k := 0) T (x_start_no G mv z1 (by omega)) (by omega) (by omega) (by rw [h0]; decide) fun h => by rw [h0]; exact t_start_no z2 (by omega) h
  revert m1 t1 ok r0 no
  cases hM : W.1 with
  | inl z =>
    obtain ⟨N, n, K, ds0, img, v⟩ := z
    rintro m1 t1 ok r0 no
    have ne : mC (.inl (N, n, K, ds0, img, v)) 0 ≠ 0 := (ON.iv (v := v) ok).2.2.2.1
    exact no (Or.inl ne) (Or.inl (by rw [r0]; exact ne))
  | inr c =>
    rintro ⟨im, J, m1⟩ t1 ok r0 no
    have c0 : c 0 = 0 := ok.1.1 0 (Or.inl (by omega))
    revert gi t2 gI
    cases hI : W.2.1 with
    | none =>
      intro gi t2 gI
      exact no (Or.inr gi) (Or.inr t2)
    | some img =>
      rintro ⟨ip, rfl, ⟨g2, g3⟩, g4⟩ ⟨t2, t3⟩ gI
      have gI := gI img rfl
      obtain ⟨m3, m0, mL, mb, mI, mI0⟩ := ok.1.2.2.lg2
      have aR := C0.2.2.2.2.2.2.2.2.2.1
      have X := x_start_yes ok.1 m1 G C0.rg g4 ((aR.2 0 ip g2).2) (aR.off (by decide) g2) (by omega) m3 m0 mL mb (d := d) (by omega)
      refine Or.inl ⟨_, fun W' => ∃ K : kk_K, W' = (.inl (0, 0, K0 K, meD (ds c) (tsM (ds c)), img, mendC c (tsM (ds c)) 364), W.2), X.imp fun H' Z => ?_, fun h => ?_⟩
      · obtain ⟨K, c1, F⟩ := Z
        obtain ⟨z1, z2, z3, z4⟩ := c1.sz
        obtain ⟨sS, -, oS, -⟩ := t_start_yes (K := K) ok.1 t1 t2 gI t3 m3 m0 mL mb mI mI0 (d := d) (by omega) H
        obtain ⟨C', F'⟩ := C0.on1 F (by omega) (by omega) z2 z3 (M := .inl (0, 0, K0 K, meD (ds c) (tsM (ds c)), img, mendC c (tsM (ds c)) 364)) oS ⟨ip, J, c1, by rw [upR_ne (by decide)]; exact g2⟩
        exact ⟨⟨_, ⟨K, rfl⟩, _, cap, C'⟩, F'⟩
      · obtain ⟨s', e1, -, e2, e3, e4⟩ := t_start_yes (K := (0, (fun _ => 0), fun _ => 0)) ok.1 t1 t2 gI t3 m3 m0 mL mb mI mI0 (d := d) (by omega) h
        refine ⟨s', e1, e4, fun W' e => ?_⟩
        obtain ⟨K, rfl⟩ := e
        refine T.mc (M := .inl (0, 0, K0 K, meD (ds c) (tsM (ds c)), img, mendC c (tsM (ds c)) 364)) e3 ?_
        obtain ⟨w1, w2, w3, w4, w5, w6, w7⟩ := e2
        exact ⟨w1, ⟨w2.1, Nat.zero_le _, fun k hk => absurd hk (Nat.not_lt_zero _)⟩, w3, w4, w5, w6, fun k hk => absurd hk (Nat.not_lt_zero _)⟩
theorem o_crash (C : CJ i W H) (T : TJ W s) (hd : 5 ≤ d) (h0 : ex 0 = 1) : OPJ i W H s (ax_c d 247 [.ref 400] H) (fun h => ax_c d 412 [.ref 417] h) ex := by
  obtain ⟨R, cap, C0⟩ := id C
  obtain ⟨iv, G, gi⟩ := C0.2.2.2.1
  have m1 := C0.2.2.1
  have mv := C0.2.2.1.mv
  have t1 := T.1
  have ok := C0.2.1
  have r0 : s 23 0 = mC W.1 0 := T.rb (p := 0) (by omega)
  revert m1 mv t1 ok r0
  cases hM : W.1 with
  | inl z =>
    obtain ⟨N, n, K, ds0, img, v⟩ := z
    rintro ⟨im, J, m1, mr⟩ mv t1 ok r0
    have V := ON.iv (v := v) ok
    obtain ⟨q1, q2⟩ := crash_of V
    refine OPJ.off C0 T ((x_crash_yes ok m1 G (d := d) (by omega)).imp fun H' Z => ⟨im, J, Z.1, Z.2⟩) ⟨q1, by rw [q2]; exact V.2.2.2.2.2⟩ fun h => ?_
    obtain ⟨s', e1, e2, e3, e4, e5⟩ := t_crash_yes ok t1 (d := d) (by omega) h
    exact ⟨s', e1, e3, e4, e5⟩
  | inr c =>
    rintro ⟨im, J, m1⟩ mv t1 ok r0
    have c0 : c 0 = 0 := ok.1.1 0 (Or.inl (by omega))
    exact OPJ.exc (k := 0) T (x_crash_no G mv c0 (by omega)) (by omega) (by omega) (by rw [h0]; decide) fun h => by rw [h0]; exact t_crash_no (r0.trans c0) (by omega) h
theorem o_format (C : CJ i W H) (T : TJ W s) (hd : 5 ≤ d) (h0 : ex 0 = 1) : OPJ i W H s (ax_c d 248 [.ref 400] H) (fun h => ax_c d 413 [.ref 417] h) ex := by
  obtain ⟨R, cap, C0⟩ := id C
  obtain ⟨iv, G, gi⟩ := C0.2.2.2.1
  have m1 := C0.2.2.1
  have mv := C0.2.2.1.mv
  have t1 := T.1
  have ok := C0.2.1
  have r0 : s 23 0 = mC W.1 0 := T.rb (p := 0) (by omega)
  revert m1 mv t1 ok r0
  cases hM : W.1 with
  | inl z =>
    obtain ⟨N, n, K, ds0, img, v⟩ := z
    rintro ⟨im, J, m1, mr⟩ mv t1 ok r0
    have ne : mC (.inl (N, n, K, ds0, img, v)) 0 ≠ 0 := (ON.iv (v := v) ok).2.2.2.1
    exact OPJ.exc (k := 0) T (x_format_no G mv ne (by omega)) (by omega) (by omega) (by rw [h0]; decide) fun h => by rw [h0]; exact t_format_no (by rw [r0]; exact ne) (by omega) h
  | inr c =>
    rintro ⟨im, J, m1⟩ mv t1 ok r0
    have c0 : c 0 = 0 := ok.1.1 0 (Or.inl (by omega))
    obtain ⟨sS, -, oS, -⟩ := t_format_yes ok.1 t1 (d := d) (by omega) H
    refine OPJ.off C0 T ((x_format_yes m1 c0 G (d := d) (by omega)).imp fun H' Z => ⟨im, J, Z.1, Z.2⟩) ⟨oS, ?_⟩ fun h => ?_
    · have dd : ∀ a, a < 256 → ds (formC c) a = if a = 32 then 255 else 0 := fun a ha => by
        show formC c (365 + a) = _
        rw [form_at]
        by_cases e : a = 32
        · rw [if_pos (by omega), if_pos e]
        · rw [if_neg (by omega), if_pos (by omega), if_neg e]
      exact (form_fsi dd).1.fw
    · obtain ⟨s', e1, e2, e3, e4, e5⟩ := t_format_yes ok.1 t1 (d := d) (by omega) h
      exact ⟨s', e1, e3, e4, e5⟩
theorem o_step (C : CJ i W H) (T : TJ W s) (hd : 17 ≤ d) : OPJ i W H s (ax_c d 249 [.ref 400, .int x] H) (fun h => ax_c d 416 [.ref 417, .int x] h) ex2 := by
  by_cases e : inI x 1 100 = 0
  · exact OPJ.exc (k := 18) T (x_step_bad e (by omega)) (by omega) (by omega) (by decide) fun h => t_step_bad e (by omega) h
  obtain ⟨k, k1, k2, rfl⟩ := (inI_val (lo := 1) (hi := 100) (by omega) (by omega)).mp e
  obtain ⟨R, cap, C0⟩ := id C
  obtain ⟨iv, G, gi⟩ := C0.2.2.2.1
  have m1 := C0.2.2.1
  have mv := C0.2.2.1.mv
  have t1 := T.1
  have ok := C0.2.1
  have r0 : s 23 0 = mC W.1 0 := T.rb (p := 0) (by omega)
  revert m1 mv t1 ok r0
  cases hM : W.1 with
  | inl z =>
    obtain ⟨N, n, K, ds0, img, v⟩ := z
    rintro ⟨im, J, m1, mr⟩ mv t1 ok r0
    obtain ⟨sS, -, oS, -⟩ := t_step_yes ok t1 k1 k2 (d := d) (by omega) H
    refine OPJ.on (a := 16012) (w := 35100) (v := v) C0 T ((x_step_yes ok m1 C0.1 C0.rg G k1 k2 (d := d) (by omega)).imp fun H' Z => ?_) (by omega) (by omega) oS fun h => ?_
    · obtain ⟨J', cap', P', z1, z2⟩ := Z
      exact ⟨im, J', cap', P', ⟨z1, mr⟩, z2⟩
    · obtain ⟨s', e1, e2, e3, e4, e5⟩ := t_step_yes ok t1 k1 k2 (d := d) (by omega) h
      exact ⟨s', e1, e3, e4, e5⟩
  | inr c =>
    rintro ⟨im, J, m1⟩ mv t1 ok r0
    have c0 : c 0 = 0 := ok.1.1 0 (Or.inl (by omega))
    exact OPJ.exc (k := 0) T (x_step_off e G mv c0 (by omega)) (by omega) (by omega) (by decide) fun h => t_step_off e (r0.trans c0) (by omega) h
theorem o_runTo (C : CJ i W H) (T : TJ W s) (hd : 17 ≤ d) : OPJ i W H s (ax_c d 250 [.ref 400, .int x, .int y] H) (fun h => ax_c d 450 [.ref 417, .int x, .int y] h) ex2 := by
  by_cases e : inI x 0 255 = 0
  · exact OPJ.exc (k := 18) T (x_runTo_bad1 e (by omega)) (by omega) (by omega) (by decide) fun h => t_runTo_bad (Or.inl e) (by omega) h
  by_cases e2 : inI y 1 100 = 0
  · exact OPJ.exc (k := 18) T (x_runTo_bad2 e e2 (by omega)) (by omega) (by omega) (by decide) fun h => t_runTo_bad (Or.inr e2) (by omega) h
  obtain ⟨k, k1, k2, rfl⟩ := (inI_val (lo := 1) (hi := 100) (by omega) (by omega)).mp e2
  obtain ⟨R, cap, C0⟩ := id C
  obtain ⟨iv, G, gi⟩ := C0.2.2.2.1
  have m1 := C0.2.2.1
  have mv := C0.2.2.1.mv
  have t1 := T.1
  have ok := C0.2.1
  have r0 : s 23 0 = mC W.1 0 := T.rb (p := 0) (by omega)
  revert m1 mv t1 ok r0
  cases hM : W.1 with
  | inl z =>
    obtain ⟨N, n, K, ds0, img, v⟩ := z
    rintro ⟨im, J, m1, mr⟩ mv t1 ok r0
    obtain ⟨sS, -, oS, -⟩ := t_runTo_yes ok t1 e k1 k2 (d := d) (by omega) H
    refine OPJ.on (a := 16012) (w := 35100) (v := v) C0 T ((x_runTo_yes e ok m1 C0.1 C0.rg G k1 k2 (d := d) (by omega)).imp fun H' Z => ?_) (by omega) (by omega) oS fun h => ?_
    · obtain ⟨J', cap', P', z1, z2⟩ := Z
      exact ⟨im, J', cap', P', ⟨z1, mr⟩, z2⟩
    · obtain ⟨s', e1, e2, e3, e4, e5⟩ := t_runTo_yes ok t1 e k1 k2 (d := d) (by omega) h
      exact ⟨s', e1, e3, e4, e5⟩
  | inr c =>
    rintro ⟨im, J, m1⟩ mv t1 ok r0
    have c0 : c 0 = 0 := ok.1.1 0 (Or.inl (by omega))
    exact OPJ.exc (k := 0) T (x_runTo_off e e2 G mv c0 (by omega)) (by omega) (by omega) (by decide) fun h => t_runTo_off e e2 (r0.trans c0) (by omega) h
theorem o_back (C : CJ i W H) (T : TJ W s) (hd : 13 ≤ d) : OPJ i W H s (ax_c d 251 [.ref 400, .int x] H) (fun h => ax_c d 451 [.ref 417, .int x] h) ex2 := by
  by_cases e : inI x 1 200 = 0
  · exact OPJ.exc (k := 18) T (x_back_bad e (by omega)) (by omega) (by omega) (by decide) fun h => t_back_bad e (by omega) h
  obtain ⟨k, k1, k2, rfl⟩ := (inI_val (lo := 1) (hi := 200) (by omega) (by omega)).mp e
  obtain ⟨R, cap, C0⟩ := id C
  obtain ⟨iv, G, gi⟩ := C0.2.2.2.1
  have m1 := C0.2.2.1
  have mv := C0.2.2.1.mv
  have t1 := T.1
  have ok := C0.2.1
  have r0 : s 23 0 = mC W.1 0 := T.rb (p := 0) (by omega)
  revert m1 mv t1 ok r0
  cases hM : W.1 with
  | inl z =>
    obtain ⟨N, n, K, ds0, img, v⟩ := z
    rintro ⟨im, J, m1, mr⟩ mv t1 ok r0
    obtain ⟨sS, -, oS, -⟩ := t_back_yes ok t1 k1 k2 (d := d) (by omega) H
    refine OPJ.on (a := 0) (w := 0) (v := v) C0 T ((x_back_yes ok m1 G k1 k2 (d := d) (by omega)).imp fun H' Z => ⟨im, J, cap, R 1, ⟨Z.1, mr⟩, Z.2⟩) (by omega) (by omega) oS fun h => ?_
    obtain ⟨s', e1, e2, e3, e4, e5⟩ := t_back_yes ok t1 k1 k2 (d := d) (by omega) h
    exact ⟨s', e1, e3, e4, e5⟩
  | inr c =>
    rintro ⟨im, J, m1⟩ mv t1 ok r0
    have c0 : c 0 = 0 := ok.1.1 0 (Or.inl (by omega))
    exact OPJ.exc (k := 0) T (x_back_off e G mv c0 (by omega)) (by omega) (by omega) (by decide) fun h => t_back_off e (r0.trans c0) (by omega) h
theorem o_press (C : CJ i W H) (T : TJ W s) (hd : 9 ≤ d) : OPJ i W H s (ax_c d 252 [.ref 400, .int x] H) (fun h => ax_c d 453 [.ref 417, .int x] h) ex2 := by
  by_cases e : inI x 0 65535 = 0
  · exact OPJ.exc (k := 18) T (x_press_bad e (by omega)) (by omega) (by omega) (by decide) fun h => t_press_bad e (by omega) h
  have rx := inI_rg (hi := 65535) (by omega) e
  obtain ⟨R, cap, C0⟩ := id C
  obtain ⟨iv, G, gi⟩ := C0.2.2.2.1
  have m1 := C0.2.2.1
  have mv := C0.2.2.1.mv
  have t1 := T.1
  have ok := C0.2.1
  have r0 : s 23 0 = mC W.1 0 := T.rb (p := 0) (by omega)
  revert m1 mv t1 ok r0
  cases hM : W.1 with
  | inl z =>
    obtain ⟨N, n, K, ds0, img, v⟩ := z
    rintro ⟨im, J, m1, mr⟩ mv t1 ok r0
    have k20 : K.1 ≤ 20 := t1.2.1.2.1
    by_cases q : itC K (stC ds0 img K v) N 0 = 1 ∧ K.1 < 20
    · obtain ⟨sS, -, oS, -⟩ := t_press_yes ok t1 q.1 q.2 rx (d := d) (by omega) H
      refine OPJ.on (a := 260) (w := 540) (v := v) C0 T ((x_press_yes ok m1 C0.rg G q.1 q.2 rx (d := d) (by omega)).imp fun H' Z => ?_) (by omega) (by omega) oS fun h => ?_
      · obtain ⟨J', P', z1, z2⟩ := Z
        exact ⟨im, J', cap, P', ⟨z1, mr⟩, z2⟩
      · obtain ⟨s', e1, e2, e3, e4, e5⟩ := t_press_yes ok t1 q.1 q.2 rx (d := d) (by omega) h
        exact ⟨s', e1, e3, e4, e5⟩
    · have q' : itC K (stC ds0 img K v) N 0 ≠ 1 ∨ 20 ≤ K.1 := by
        by_cases z : itC K (stC ds0 img K v) N 0 = 1
        · exact Or.inr (by
            by_cases z2 : K.1 < 20
            · exact absurd ⟨z, z2⟩ q
            · omega)
        · exact Or.inl z
      obtain ⟨ds1, MM1, -⟩ := m1
      refine OPJ.exc (k := 0) T (x_press_off e G MM1 q' (by omega)) (by omega) (by omega) (by decide) fun h => t_press_off e ?_ (by omega) h
      rcases q' with z | z
      · exact Or.inl (by rw [r0]; exact z)
      · exact Or.inr (by rw [t1.2.1.1, show K.1 = 20 by omega]; rfl)
  | inr c =>
    rintro ⟨im, J, ds1, K, k0, MM1⟩ mv t1 ok r0
    have c0 : c 0 = 0 := ok.1.1 0 (Or.inl (by omega))
    exact OPJ.exc (k := 0) T (x_press_off e G MM1 (Or.inl (by rw [c0]; decide)) (by omega)) (by omega) (by omega) (by decide) fun h => t_press_off e (Or.inl (by rw [r0]; show c 0 ≠ 1; rw [c0]; decide)) (by omega) h
end OMS
