/-! one call of both: the tests -/
/- with wld mch mC MOK MCH IMG APR ROOM CJ0 CJ TJ FT CJ0.ext CJ0.on3 CJ0.on4 CJ0.on5 CJ0.onA CJ0.rg OPJ OPJ.obs OPJ.ob OPJ.exc ex2 exI TJ.t0 TJ.cong TO.cong TF.cong x_testKey_ok x_testKey_X x_testWord_ok x_testWord_X x_draft_bad x_draft_full x_draft_yes t_testKey_bad t_testKey_full t_testKey_yes t_testWord_bad t_testWord_full t_testWord_yes x_addTest_bad x_addTest_full x_addTest_yes t_addTest_bad t_addTest_full t_addTest_yes x_tests t_tests x_submit_no x_submit_yes t_submit_no t_submit_on t_submit_off x_result x_result_bad t_result t_result_bad x_mark t_mark inI_val inI_rg mkT nwT TT1 -/
section OTS
variable {R : Nat → Nat → Prop} {cap i a w k n m d : Nat} {W : wld} {M : mch} {H H' : ax_H} {s s' : Nat → Nat → Int32} {x y z u v : Int32} {ex : Nat → Int32} {cx : Option ax_R} {ct : ax_H → Option ax_R} {f g : Nat → Int32}
/-- the twin's drafts change, all else stays -/
theorem TJ.dr (T : TJ W s) (h : ∀ f, f ≠ 0 → (f < 56 ∨ 60 ≤ f) → s' f = s f) (D : DRW n m f g s') : TJ (W.1, W.2.1, W.2.2.1, W.2.2.2.1, (n, f), (m, g)) s' := by
  have T' : TJ W (fun f => if f < 56 ∨ 60 ≤ f then s' f else s f) := T.cong fun f f0 hf => by
    by_cases c : f < 56 ∨ 60 ≤ f
    · rw [if_pos c]; exact h f f0 c
    · rw [if_neg c]
  obtain ⟨u1, u2, u3, u4, u5, u6⟩ := T'
  refine ⟨?_, u2, u3, u4, u5, D⟩
  revert u1
  dsimp only
  cases W.1 with
  | inl q =>
    obtain ⟨N, n, K, ds0, img, v⟩ := q
    intro t1
    exact TO.cong t1 fun f f1 f2 => (if_pos (by omega)).symm
  | inr c =>
    intro t1
    exact TF.cong t1 fun f f1 f2 => (if_pos (by omega)).symm
theorem o_testKey (C : CJ i W H) (T : TJ W s) (hd : 7 ≤ d) : OPJ i W H s (ax_c d 262 [.ref 400, .int x] H) (fun h => ax_c d 483 [.ref 417, .int x] h) ex2 := by
  obtain ⟨R, cap, C0⟩ := id C
  obtain ⟨iv, G, gi⟩ := C0.2.2.2.1
  have D := C0.2.2.2.2.2.2.2.1
  obtain ⟨e58, e59, n6, m6, r56, r57⟩ := T.2.2.2.2.2
  obtain ⟨d, rfl, he⟩ := d_succ hd
  by_cases e : inI x 0 65535 = 0
  · exact OPJ.exc (k := 18) T (x_testKey_X G rfl (x_draft_bad e (by omega))) (by omega) (by omega) (by decide) fun h => t_testKey_bad e (by omega) h
  by_cases hn : W.2.2.2.2.1.1 = 6
  · exact OPJ.exc (k := 0) T (x_testKey_X G rfl (x_draft_full D hn e (by omega))) (by omega) (by omega) (by decide) fun h => t_testKey_full e (by rw [e58, hn]; rfl) (by omega) h
  have rx := inI_rg (hi := 65535) (by omega) e
  refine Or.inl ⟨_, fun W' => W' = (W.1, W.2.1, W.2.2.1, W.2.2.2.1, (W.2.2.2.2.1.1 + 1, fun i => if i = W.2.2.2.2.1.1 then x else W.2.2.2.2.1.2 i), W.2.2.2.2.2), (x_testKey_ok G (x_draft_yes D C0.1 (by omega) rx (d := d) (by omega))).imp fun H' Z => ?_, fun h => ⟨_, t_testKey_yes e e58 (by omega) (by omega) h, rfl, fun W' e => ?_⟩⟩
  · obtain ⟨C', F⟩ := C0.on4 Z.2 (by omega) (by omega) (fun q h => h.2) (fun q h => h.1) Z.1
    exact ⟨⟨_, rfl, _, cap, C'⟩, F⟩
  · rw [e]
    refine T.dr (fun f f0 hf => by rw [tw_up_at, if_neg (by omega), tw_up_at, if_neg (by omega), tw_up_at, if_neg f0]) ⟨rfl, e59, by omega, m6, fun k hk => ?_, r57⟩
    show (if k = W.2.2.2.2.1.1 then x else s 56 k) = (if k = W.2.2.2.2.1.1 then x else W.2.2.2.2.1.2 k)
    by_cases c : k = W.2.2.2.2.1.1
    · rw [if_pos c, if_pos c]
    · rw [if_neg c, if_neg c]; exact r56 k (by omega)
theorem o_testWord (C : CJ i W H) (T : TJ W s) (hd : 7 ≤ d) : OPJ i W H s (ax_c d 264 [.ref 400, .int x] H) (fun h => ax_c d 484 [.ref 417, .int x] h) ex2 := by
  obtain ⟨R, cap, C0⟩ := id C
  obtain ⟨iv, G, gi⟩ := C0.2.2.2.1
  have D := C0.2.2.2.2.2.2.2.2.1
  obtain ⟨e58, e59, n6, m6, r56, r57⟩ := T.2.2.2.2.2
  obtain ⟨d, rfl, he⟩ := d_succ hd
  by_cases e : inI x 0 65535 = 0
  · exact OPJ.exc (k := 18) T (x_testWord_X G rfl (x_draft_bad e (by omega))) (by omega) (by omega) (by decide) fun h => t_testWord_bad e (by omega) h
  by_cases hn : W.2.2.2.2.2.1 = 6
  · exact OPJ.exc (k := 0) T (x_testWord_X G rfl (x_draft_full D hn e (by omega))) (by omega) (by omega) (by decide) fun h => t_testWord_full e (by rw [e59, hn]; rfl) (by omega) h
  have rx := inI_rg (hi := 65535) (by omega) e
  refine Or.inl ⟨_, fun W' => W' = (W.1, W.2.1, W.2.2.1, W.2.2.2.1, W.2.2.2.2.1, (W.2.2.2.2.2.1 + 1, fun i => if i = W.2.2.2.2.2.1 then x else W.2.2.2.2.2.2 i)), (x_testWord_ok G (x_draft_yes D C0.1 (by omega) rx (d := d) (by omega))).imp fun H' Z => ?_, fun h => ⟨_, t_testWord_yes e e59 (by omega) (by omega) h, rfl, fun W' e => ?_⟩⟩
  · obtain ⟨C', F⟩ := C0.on5 Z.2 (by omega) (by omega) (fun q h => h.2) (fun q h => h.1) Z.1
    exact ⟨⟨_, rfl, _, cap, C'⟩, F⟩
  · rw [e]
    refine T.dr (fun f f0 hf => by rw [tw_up_at, if_neg (by omega), tw_up_at, if_neg (by omega), tw_up_at, if_neg f0]) ⟨e58, rfl, n6, by omega, r56, fun k hk => ?_⟩
    show (if k = W.2.2.2.2.2.1 then x else s 57 k) = (if k = W.2.2.2.2.2.1 then x else W.2.2.2.2.2.2 k)
    by_cases c : k = W.2.2.2.2.2.1
    · rw [if_pos c, if_pos c]
    · rw [if_neg c, if_neg c]; exact r57 k (by omega)
theorem o_addTest (C : CJ i W H) (T : TJ W s) (hd : 8 ≤ d) : OPJ i W H s (ax_c d 265 [.ref 400, .int x, .int y, .int z, .int u] H) (fun h => ax_c d 485 [.ref 417, .int x, .int y, .int z, .int u] h) ex2 := by
  obtain ⟨R, cap, C0⟩ := id C
  obtain ⟨iv, G, gi⟩ := C0.2.2.2.1
  have K := C0.2.2.2.2.2.2.2.1
  have L := C0.2.2.2.2.2.2.2.2.1
  have X := C0.2.2.2.2.2.2.1
  have A := C0.2.2.2.2.2.2.2.2.2.1
  have D := T.2.2.2.2.2
  have W4 := T.2.2.2.1
  by_cases e : inI x 1 500 = 0 ∨ inI y 0 100 = 0 ∨ inI z 1 20 = 0 ∨ inI u 0 500 = 0
  · exact OPJ.exc (k := 18) T (x_addTest_bad e (by omega)) (by omega) (by omega) (by decide) fun h => t_addTest_bad e (by omega) h
  have e1 : inI x 1 500 ≠ 0 := fun q => e (Or.inl q)
  have e2 : inI y 0 100 ≠ 0 := fun q => e (Or.inr (Or.inl q))
  have e3 : inI z 1 20 ≠ 0 := fun q => e (Or.inr (Or.inr (Or.inl q)))
  have e4 : inI u 0 500 ≠ 0 := fun q => e (Or.inr (Or.inr (Or.inr q)))
  by_cases hT : W.2.2.2.1.1 = 5
  · exact OPJ.exc (k := 0) T (x_addTest_full X G ⟨e1, e2, e3, e4⟩ hT (by omega)) (by omega) (by omega) (by decide) fun h => t_addTest_full ⟨e1, e2, e3, e4⟩ (by rw [W4.1, hT]; rfl) (by omega) h
  have t5 := W4.2.1
  obtain ⟨k, k1, k2, kx⟩ := (inI_val (lo := 1) (hi := 500) (by omega) (by omega)).mp e1
  obtain ⟨l, l1, l2, lx⟩ := (inI_val (lo := 0) (hi := 500) (by omega) (by omega)).mp e4
  obtain ⟨zz, z1, z2, zx⟩ := (inI_val (lo := 1) (hi := 20) (by omega) (by omega)).mp e3
  have rz : rg 20 z := by rw [zx]; exact rg.of z2 (by omega)
  have rgk : ∀ j, 2 < j → RG (R j) := fun j hj q hq => by
    obtain ⟨mc, arr, cap, it, Q, A', d1, d2, d3, d4, d5, d6, d7, d8⟩ := C0.2.2.2.2.2.1
    have a := (A.2 j q hq).1
    have : q ≠ 401 := fun z => by
      rw [z] at hq
      have := A.1 j 2 401 hq d7
      omega
    omega
  have X1 := x_addTest_yes (d := d) X G C0.1 K L (rgk 4 (by omega)) (rgk 5 (by omega)) (fun r hr => ⟨A.off (by decide) hr, A.off (by decide) hr⟩) (fun r hr => A.off (by decide) hr) ⟨e1, e2, e3, e4⟩ kx k2 lx l2 rz (by omega) (by omega)
  refine Or.inl ⟨_, fun W' => W' = (W.1, W.2.1, W.2.2.1, (W.2.2.2.1.1 + 1, fun t => if t = W.2.2.2.1.1 then nwT W.2.2.2.2.1.1 W.2.2.2.2.2.1 W.2.2.2.2.1.2 W.2.2.2.2.2.2 k y z l else W.2.2.2.1.2 t), (0, W.2.2.2.2.1.2), (0, W.2.2.2.2.2.2)), X1.imp fun H' Z => ?_, fun h => ?_⟩
  · obtain ⟨C', F⟩ := C0.onA Z.2.2.2 (by omega) (by omega) Z.1 Z.2.1 Z.2.2.1
    exact ⟨⟨_, rfl, _, cap, C'⟩, F⟩
  · have fr : ∀ i, i < W.2.2.2.2.1.1 → rg 65535 (W.2.2.2.2.1.2 i) := fun i hi => by
      obtain ⟨mc, ns, it, L, n6, Pp, Pb, I⟩ := K
      exact (I i hi).2.2.1
    obtain ⟨s', q1, q2, q3, q4, q5, q6⟩ := t_addTest_yes (d := d) W4 T.2.2.2.2.1 D fr ⟨e1, e2, e3, e4⟩ kx k2 lx l2 rz (by omega) (by omega) h
    refine ⟨s', q1, q5, fun W' e => ?_⟩
    rw [e]
    have T' : TJ W (fun f => if f ≠ 0 ∧ (f < 58 ∨ 70 ≤ f) then s' f else s f) := T.cong fun f f0 hf => by
      by_cases c : f ≠ 0 ∧ (f < 58 ∨ 70 ≤ f)
      · rw [if_pos c]; exact q6 f c.1 c.2
      · rw [if_neg c]
    obtain ⟨u1, u2, u3, u4, u5, u6⟩ := T'
    refine ⟨?_, u2, u3, q2, q3, q4⟩
    revert u1
    dsimp only
    cases W.1 with
    | inl q =>
      obtain ⟨N, n, K, ds0, img, v⟩ := q
      intro t1
      exact TO.cong t1 fun f f1 f2 => (if_pos (by omega)).symm
    | inr c =>
      intro t1
      exact TF.cong t1 fun f f1 f2 => (if_pos (by omega)).symm
theorem o_tests (C : CJ i W H) (T : TJ W s) (hd : 2 ≤ d) : OPJ i W H s (ax_c d 229 [.ref 400] H) (fun h => ax_c d 486 [.ref 417] h) ex := by
  obtain ⟨R, cap, C0⟩ := id C
  obtain ⟨iv, G, gi⟩ := C0.2.2.2.1
  exact OPJ.ob C T (x_tests C0.2.2.2.2.2.2.1 G hd) fun h => (t_tests (by omega) h s).trans (by rw [show tw_up s 0 0 0 60 0 = Int32.ofNat W.2.2.2.1.1 from T.2.2.2.1.1])
theorem o_result (C : CJ i W H) (T : TJ W s) (hd : 5 ≤ d) (h1 : ex 46 = 1) : OPJ i W H s (ax_c d 268 [.ref 400, .int x] H) (fun h => ax_c d 490 [.ref 417, .int x] h) ex := by
  obtain ⟨R, cap, C0⟩ := id C
  obtain ⟨iv, G, gi⟩ := C0.2.2.2.1
  have X := C0.2.2.2.2.2.2.1
  obtain ⟨w1, w2, w3⟩ := T.2.2.2.1
  by_cases e : inI x 0 (Int32.ofNat W.2.2.2.1.1 - 1) = 0
  · exact OPJ.exc (k := 46) T (x_result_bad X G e hd) (by omega) (by omega) (by rw [h1]; decide) fun h => by rw [h1]; exact t_result_bad (by rw [w1]; exact e) (by omega) h
  · have pos : W.2.2.2.1.1 ≠ 0 := fun z => by
      rw [z] at e
      refine e ?_
      unfold inI
      by_cases r : x < 0
      · rw [if_pos r]
      · rw [if_neg r, if_pos]
        rw [Int32.lt_iff_toInt_lt] at r ⊢
        have a : (Int32.ofNat 0 - 1).toInt = -1 := by decide
        have b : (0 : Int32).toInt = 0 := by decide
        rw [a]; omega
    have e' : inI x (Int32.ofNat 0) (Int32.ofNat (W.2.2.2.1.1 - 1)) ≠ 0 := by
      rw [← show Int32.ofNat W.2.2.2.1.1 - 1 = Int32.ofNat (W.2.2.2.1.1 - 1) from i_sub (b := 1) (by omega)]; exact e
    obtain ⟨k, -, k2, rfl⟩ := (inI_val (lo := 0) (by omega) (by omega)).mp e'
    exact OPJ.ob C T (x_result X G (show k < W.2.2.2.1.1 by omega) hd) fun h => (t_result w1 w2 (show k < W.2.2.2.1.1 by omega) (by omega) h).trans (by rw [(w3 k (by omega)).2.2.2.2.2.2.2.2.2.1])
theorem o_mark (C : CJ i W H) (T : TJ W s) (hd : 5 ≤ d) : OPJ i W H s (ax_c d 230 [.ref 400] H) (fun h => ax_c d 491 [.ref 417] h) ex := by
  obtain ⟨R, cap, C0⟩ := id C
  obtain ⟨iv, G, gi⟩ := C0.2.2.2.1
  exact OPJ.obs C T (x_mark C0.2.2.2.2.2.2.1 G hd) (by omega) (by omega) fun h => t_mark T.2.2.2.1 (by omega) h
theorem o_submit (C : CJ i W H) (T : TJ W s) (hd : 20 ≤ d) (h0 : ex 0 = 1) : OPJ i W H s (ax_c d 267 [.ref 400] H) (fun h => ax_c d 487 [.ref 417] h) ex := by
  obtain ⟨R, cap, C0⟩ := id C
  obtain ⟨iv, G, gi⟩ := C0.2.2.2.1
  have X := C0.2.2.2.2.2.2.1
  have A := C0.2.2.2.2.2.2.2.2.2.1
  have ok := C0.2.1
  have gI := C0.2.2.2.2.1
  have W4 := T.2.2.2.1
  have t2 := T.2.1
  revert gi t2 gI
  cases hI : W.2.1 with
  | none =>
    intro gi gI t2
    have gi : iv = .null := gi
    subst gi
    exact OPJ.exc (k := 0) T (x_submit_no G (by omega)) (by omega) (by omega) (by rw [h0]; decide) fun h => by rw [h0]; exact t_submit_no t2 (by omega) h
  | some img =>
    rintro ⟨ip, rfl, ⟨g2, g3⟩, g4⟩ gI ⟨t2, t3⟩
    have gI := gI img rfl
    have X1 := x_submit_yes (d := d) X G gI C0.1 g4 ((A.2 0 ip g2).2) (A.off (by decide) g2) hd
    refine Or.inl ⟨_, fun W' => W' = (W.1, W.2.1, W.2.2.1, (W.2.2.2.1.1, fun t => mkT img (W.2.2.2.1.2 t)), W.2.2.2.2) ∧ ∀ t, t < W.2.2.2.1.1 → tsG (mkT img (W.2.2.2.1.2 t)), X1.imp fun H' Z => ?_, fun h => ?_⟩
    · obtain ⟨C', F⟩ := C0.on3 Z.2 (by omega) (by omega) Z.1
      refine ⟨⟨_, ⟨rfl, fun t ht => ?_⟩, _, cap, C'⟩, F⟩
      obtain ⟨mc, arr, cap', it, A', c1, c2, -⟩ := Z.1
      exact (c2 t ht).2
    · have fin : ∀ s', (∀ f, f ≠ 0 → f < 23 ∨ (56 ≤ f ∧ f ≠ 69 ∧ f ≠ 70 ∧ f < 71) → s' f = s f) → (∀ j, j < W.2.2.2.1.1 → TT1 j (mkT img (W.2.2.2.1.2 j)) s') → (∀ j, W.2.2.2.1.1 ≤ j → s' 70 j = s 70 j) → (match W.1 with
        | .inl (N, n, K, ds0, img, v) => TO N n K ds0 img v s'
        | .inr c => TF c s') → ∀ W', W' = (W.1, W.2.1, W.2.2.1, (W.2.2.2.1.1, fun t => mkT img (W.2.2.2.1.2 t)), W.2.2.2.2) ∧ (∀ t, t < W.2.2.2.1.1 → tsG (mkT img (W.2.2.2.1.2 t))) → TJ W' s' := by
        rintro s' f1 f2 f3 f4 W' ⟨rfl, f5⟩
        have T' : TJ W (fun f => if f ≠ 0 ∧ (f < 23 ∨ (56 ≤ f ∧ f ≠ 69 ∧ f ≠ 70 ∧ f < 71)) then s' f else s f) := T.cong fun f f0 hf => by
          by_cases c : f ≠ 0 ∧ (f < 23 ∨ (56 ≤ f ∧ f ≠ 69 ∧ f ≠ 70 ∧ f < 71))
          · rw [if_pos c]; exact f1 f c.1 c.2
          · rw [if_neg c]
        obtain ⟨u1, u2, u3, u4, u5, u6⟩ := T'
        exact ⟨f4, u2, u3, ⟨u4.1, u4.2.1, fun t ht => ⟨f5 t ht, f2 t ht⟩⟩, fun j hj => (f3 j hj).trans (T.2.2.2.2.1 j hj), u6⟩
      have t1 := T.1
      revert t1 ok fin
      cases hM : W.1 with
      | inl z =>
        obtain ⟨N, n, K, ds0, im2, v⟩ := z
        intro ok fin t1
        obtain ⟨s', q1, q2, q3, q4, q5, q6⟩ := t_submit_on (d := d) gI t2 t3 W4 ok t1 (by omega) h
        exact ⟨s', q1, q4, fin s' q3 q5 q6 q2⟩
      | inr c =>
        intro ok fin t1
        obtain ⟨s', q1, q2, q3, q4, q5, q6⟩ := t_submit_off (d := d) gI t2 t3 W4 ok.1 t1 (by omega) h
        exact ⟨s', q1, q4, fin s' q3 q5 q6 q2⟩
end OTS
