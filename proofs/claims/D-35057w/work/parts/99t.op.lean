/-! one call of both: the source, the image -/
/- with wld MOK MCH IMG APR ROOM CJ0 CJ TJ FT CJ0.ext CJ0.rf CJ0.on2 CJ0.on0 XP XP.x0 Ext Ext.rf GO OLD TO.cong TF RA t_clear x_clear x_lines t_lines LAD TAD x_section t_section x_section_bad t_section_bad x_label t_label x_label_bad t_label_bad x_code t_code x_code_bad t_code_bad x_word t_word x_word_bad t_word_bad x_space t_space x_space_bad t_space_bad x_vector t_vector x_vector_bad t_vector_bad x_macro t_macro x_macro_bad t_macro_bad x_endMacro t_endMacro t_endMacro_full x_use t_use x_use_bad t_use_bad x_error t_error x_assemble_no x_assemble_yes t_assemble asR asR_img PRE x_image t_image x_image_no t_image_no x_image_bad t_image_bad TLW.cong opG -/
/-- both do the same: they answer the same, or the class throws and the twin tells so -/
def OPJ (i : Nat) (W : wld) (H : ax_H) (s : Nat → Nat → Int32) (cx : Option ax_R) (ct : ax_H → Option ax_R) (ex : Nat → Int32) : Prop := (∃ (v : Int32) (Q : wld → Prop), Ok cx (.inl (some (.int v))) (fun H' => (∃ W', Q W' ∧ CJ (i + 1) W' H') ∧ FT H H') ∧ ∀ h, ∃ s', ct (tw_H h s) = some (.inl (some (.int v)), tw_H h s') ∧ s' 0 0 = 0 ∧ ∀ W', Q W' → TJ W' s') ∨ ∃ k a w, a ≤ 18000 ∧ w ≤ 80000 ∧ OkX cx (XP k (Ext a w H)) ∧ ex k ≠ 0 ∧ ∀ h, ∃ s', ct (tw_H h s) = some (.inl (some (.int 0)), tw_H h s') ∧ s' 0 0 = ex k ∧ TJ W s'
section OPS
variable {R : Nat → Nat → Prop} {cap i a w k n d : Nat} {W : wld} {H H' : ax_H} {s s' : Nat → Nat → Int32} {x y z u m v : Int32} {ex : Nat → Int32} {cx : Option ax_R} {ct : ax_H → Option ax_R}
theorem TF.cong {c : Nat → Int32} (T : TF c s) (h : ∀ f, 23 ≤ f → f < 56 → s' f = s f) : TF c s' := by
  obtain ⟨⟨r1, r2, r3, r4⟩, t⟩ := T
  refine ⟨⟨r1.cong fun f f1 f2 f3 f4 => h f f1 (by omega), ⟨r2.1, fun i hi => by rw [h 36 (by omega) (by omega)]; exact r2.2 i hi⟩, ⟨by rw [h 46 (by omega) (by omega)]; exact r3.1, fun z => ?_⟩, by rw [h 52 (by omega) (by omega)]; exact r4⟩, by rw [h 40 (by omega) (by omega)]; exact t⟩
  rw [h 47 (by omega) (by omega), h 48 (by omega) (by omega), h 49 (by omega) (by omega)]
  exact r3.2 z
/-- the source's state is looked at only in rows 1 to 3; the others' in theirs -/
theorem TJ.cong (T : TJ W s) (h : ∀ f, f ≠ 0 → (f < 4 ∨ 21 ≤ f) → s' f = s f) : TJ W s' := by
  obtain ⟨t1, t2, t3, t4, t5, t6⟩ := T
  refine ⟨?_, ?_, t3.cong fun f f1 f2 => h f (by omega) (by omega), ?_, fun j hj => by rw [h 70 (by omega) (by omega)]; exact t5 j hj, ?_⟩
  · revert t1
    cases W.1 with
    | inl q =>
      obtain ⟨N, n, K, ds0, img, v⟩ := q
      intro t1
      exact TO.cong t1 fun f f1 f2 => h f (by omega) (by omega)
    | inr c =>
      intro t1
      exact TF.cong t1 fun f f1 f2 => h f (by omega) (by omega)
  · revert t2
    cases W.2.1 with
    | none => intro t2; show s' 22 0 = 0; rw [h 22 (by omega) (by omega)]; exact t2
    | some img =>
      intro t2
      obtain ⟨a, b⟩ := t2
      exact ⟨by rw [h 22 (by omega) (by omega)]; exact a, fun j hj => by rw [h 21 (by omega) (by omega)]; exact b j hj⟩
  · obtain ⟨a, b, c⟩ := t4
    refine ⟨by rw [h 60 (by omega) (by omega)]; exact a, b, fun t ht => ⟨(c t ht).1, ?_⟩⟩
    have e := (c t ht).2
    unfold TT1 at e ⊢
    rw [h 62 (by omega) (by omega), h 61 (by omega) (by omega), h 64 (by omega) (by omega), h 63 (by omega) (by omega), h 65 (by omega) (by omega), h 66 (by omega) (by omega), h 67 (by omega) (by omega), h 68 (by omega) (by omega), h 69 (by omega) (by omega), h 70 (by omega) (by omega)]
    exact e
  · unfold DRW at t6 ⊢
    rw [h 58 (by omega) (by omega), h 59 (by omega) (by omega), h 56 (by omega) (by omega), h 57 (by omega) (by omega)]
    exact t6
theorem TJ.t0 (T : TJ W s) : TJ W (tw_up s 0 0 x) := T.cong fun f f0 _ => by rw [tw_up_at, if_neg f0]
/-- looked at only -/
theorem OPJ.obs (C : CJ i W H) (T : TJ W s) (X : Ok cx (.inl (some (.int v))) (Ext a w H)) (ha : a ≤ 18000) (hw : w ≤ 80000) (Y : ∀ h, ct (tw_H h s) = some (.inl (some (.int v)), tw_H h (tw_up s 0 0 0))) : OPJ i W H s cx ct ex := by
  obtain ⟨R, cap, C⟩ := C
  refine Or.inl ⟨v, fun W' => W' = W, X.imp fun H' E => ?_, fun h => ⟨_, Y h, rfl, fun W' e => by rw [e]; exact T.t0⟩⟩
  obtain ⟨C', F⟩ := C.ext E ha hw
  exact ⟨⟨W, rfl, R, cap, C'⟩, F⟩
theorem OPJ.ob (C : CJ i W H) (T : TJ W s) (X : cx = some (.inl (some (.int v)), H)) (Y : ∀ h, ct (tw_H h s) = some (.inl (some (.int v)), tw_H h (tw_up s 0 0 0))) : OPJ i W H s cx ct ex := OPJ.obs (a := 0) (w := 0) C T (by rw [X]; exact Ok.ret Ext.rf) (by omega) (by omega) Y
/-- thrown -/
theorem OPJ.exc (T : TJ W s) (X : OkX cx (XP k (Ext a w H))) (ha : a ≤ 18000) (hw : w ≤ 80000) (h0 : ex k ≠ 0) (Y : ∀ h, ct (tw_H h s) = some (.inl (some (.int 0)), tw_H h (tw_up s 0 0 (ex k)))) : OPJ i W H s cx ct ex := Or.inr ⟨k, a, w, ha, hw, X, h0, fun h => ⟨_, Y h, rfl, T.t0⟩⟩
/-- the lines change, all else stays -/
theorem TJ.ln {ls' : Nat → lnD} {n' : Nat} (T : TJ W s) (L : TLW n' ls' s') (h : ∀ f, f ≠ 0 → f ≠ 1 → f ≠ 2 → f ≠ 3 → s' f = s f) : TJ (W.1, W.2.1, (n', ls'), W.2.2.2) s' := by
  obtain ⟨t1, t2, t3, t4, t5, t6⟩ := T
  refine ⟨?_, ?_, L, ?_, fun j hj => by rw [h 70 (by omega) (by omega) (by omega) (by omega)]; exact t5 j hj, ?_⟩
  · revert t1
    dsimp only
    cases W.1 with
    | inl q =>
      obtain ⟨N, n, K, ds0, img, v⟩ := q
      intro t1
      exact TO.cong t1 fun f f1 f2 => h f (by omega) (by omega) (by omega) (by omega)
    | inr c =>
      intro t1
      exact TF.cong t1 fun f f1 f2 => h f (by omega) (by omega) (by omega) (by omega)
  · revert t2
    dsimp only
    cases W.2.1 with
    | none => intro t2; show s' 22 0 = 0; rw [h 22 (by omega) (by omega) (by omega) (by omega)]; exact t2
    | some img =>
      intro t2
      obtain ⟨a, b⟩ := t2
      exact ⟨by rw [h 22 (by omega) (by omega) (by omega) (by omega)]; exact a, fun j hj => by rw [h 21 (by omega) (by omega) (by omega) (by omega)]; exact b j hj⟩
  · obtain ⟨a, b, c⟩ := t4
    refine ⟨by rw [h 60 (by omega) (by omega) (by omega) (by omega)]; exact a, b, fun t ht => ⟨(c t ht).1, ?_⟩⟩
    have e := (c t ht).2
    unfold TT1 at e ⊢
    rw [h 62 (by omega) (by omega) (by omega) (by omega), h 61 (by omega) (by omega) (by omega) (by omega), h 64 (by omega) (by omega) (by omega) (by omega), h 63 (by omega) (by omega) (by omega) (by omega), h 65 (by omega) (by omega) (by omega) (by omega), h 66 (by omega) (by omega) (by omega) (by omega), h 67 (by omega) (by omega) (by omega) (by omega), h 68 (by omega) (by omega) (by omega) (by omega), h 69 (by omega) (by omega) (by omega) (by omega), h 70 (by omega) (by omega) (by omega) (by omega)]
    exact e
  · unfold DRW at t6 ⊢
    rw [h 58 (by omega) (by omega) (by omega) (by omega), h 59 (by omega) (by omega) (by omega) (by omega), h 56 (by omega) (by omega) (by omega) (by omega), h 57 (by omega) (by omega) (by omega) (by omega)]
    exact t6
def ex2 (k : Nat) : Int32 := if k = 18 then 1 else if k = 0 ∨ k = 44 then 2 else 0
def exI (k : Nat) : Int32 := if k = 0 ∨ k = 44 then 1 else 0
/-- a line more -/
theorem OPJ.line {l : lnD} (C : CJ i W H) (T : TJ W s) (X : ∀ (R : Nat → Nat → Prop) (iv : Value), CLW W.2.2.1.1 W.2.2.1.2 (R 2) H → GO H iv → LAD W.2.2.1.1 W.2.2.1.2 l (R 2) H cx) (Y : ∀ h, TAD W.2.2.1.1 W.2.2.1.2 l s h (ct (tw_H h s))) (h0 : ex 0 = 2) : OPJ i W H s cx ct ex := by
  obtain ⟨R, cap, C⟩ := C
  obtain ⟨iv, G, -⟩ := C.2.2.2.1
  have L := C.2.2.2.2.2.1
  obtain ⟨x1, x2⟩ := X R iv L G
  have n1 := T.2.2.1.2.1
  by_cases hn : W.2.2.1.1 = 100
  · exact Or.inr ⟨0, 6, 40, by omega, by omega, x1 hn, by rw [h0]; decide, fun h => ⟨_, (Y h).1 hn, h0.symm, T.t0⟩⟩
  · refine Or.inl ⟨_, fun W' => W' = (W.1, W.2.1, (W.2.2.1.1 + 1, fun t => if t = W.2.2.1.1 then l else W.2.2.1.2 t), W.2.2.2), (x2 (by omega)).imp fun H' Z => ?_, fun h => ?_⟩
    · obtain ⟨C', F⟩ := C.on2 Z.2 (by omega) (by omega) (fun q h => h.2) (fun q h => h.1) Z.1
      exact ⟨⟨_, rfl, _, cap, C'⟩, F⟩
    · obtain ⟨s', e, L', fr, z⟩ := (Y h).2 (by omega)
      exact ⟨s', e, z, fun W' e => by rw [e]; exact T.ln L' fr⟩
theorem o_clear (C : CJ i W H) (T : TJ W s) (hd : 2 ≤ d) : OPJ i W H s (ax_c d 210 [.ref 400] H) (fun h => ax_c d 373 [.ref 417] h) ex := by
  have T0 := T
  obtain ⟨R, cap, C⟩ := C
  obtain ⟨iv, G, -⟩ := C.2.2.2.1
  have L := C.2.2.2.2.2.1
  refine Or.inl ⟨_, fun W' => W' = (W.1, W.2.1, (0, W.2.2.1.2), W.2.2.2), (x_clear L G hd).imp fun H' Z => ?_, fun h => ⟨tw_up (tw_up s 0 0 0) 1 0 0, (t_clear (by omega) h s).trans (by rw [T.2.2.1.1]), rfl, fun W' e => ?_⟩⟩
  · obtain ⟨C', F⟩ := C.on2 (P' := R 2) Z.2 (by omega) (by omega) (fun q h => Or.inl h) (fun q h => by have := (C.2.2.2.2.2.2.2.2.2.1.2 2 q h).2; have := Z.2.1; omega) Z.1
    exact ⟨⟨_, rfl, _, cap, C'⟩, F⟩
  · rw [e]
    exact T0.ln (s' := tw_up (tw_up s 0 0 0) 1 0 0) ⟨rfl, by omega, fun t ht => absurd ht (Nat.not_lt_zero _)⟩ fun f f0 f1 f2 f3 => by rw [tw_up_at, if_neg f1, tw_up_at, if_neg f0]
theorem o_lines (C : CJ i W H) (T : TJ W s) (hd : 2 ≤ d) : OPJ i W H s (ax_c d 211 [.ref 400] H) (fun h => ax_c d 374 [.ref 417] h) ex := by
  have C0 := C
  obtain ⟨R, cap, C⟩ := C
  obtain ⟨iv, G, -⟩ := C.2.2.2.1
  refine OPJ.ob C0 T (x_lines C.2.2.2.2.2.1 G hd) fun h => ?_
  obtain ⟨d, rfl, -⟩ := d_succ (k := 0) (by omega : 1 ≤ d)
  refine dx_app m_X3_lines ?_
  rw [tp_0, Option.bind_some, tg_1, Option.bind_some, show tw_up s 0 0 0 1 0 = s 1 0 from rfl, T.2.2.1.1]
theorem o_section (C : CJ i W H) (T : TJ W s) (hd : 9 ≤ d) : OPJ i W H s (ax_c d 231 [.ref 400, .int x] H) (fun h => ax_c d 375 [.ref 417, .int x] h) ex2 := by
  by_cases e : inI x 0 1 = 0
  · exact OPJ.exc (k := 18) T (x_section_bad e (by omega)) (by omega) (by omega) (by decide) fun h => t_section_bad e (by omega)
  · exact OPJ.line C T (fun R iv L G => x_section L G e hd) (fun h => t_section T.2.2.1 e (by omega)) rfl
theorem o_label (C : CJ i W H) (T : TJ W s) (hd : 9 ≤ d) : OPJ i W H s (ax_c d 235 [.ref 400, .int x] H) (fun h => ax_c d 379 [.ref 417, .int x] h) ex2 := by
  by_cases e : inI x 0 19 = 0
  · exact OPJ.exc (k := 18) T (x_label_bad e (by omega)) (by omega) (by omega) (by decide) fun h => t_label_bad e (by omega)
  · exact OPJ.line C T (fun R iv L G => x_label L G e hd) (fun h => t_label T.2.2.1 e (by omega)) rfl
theorem o_space (C : CJ i W H) (T : TJ W s) (hd : 9 ≤ d) : OPJ i W H s (ax_c d 239 [.ref 400, .int x] H) (fun h => ax_c d 383 [.ref 417, .int x] h) ex2 := by
  by_cases e : inI x 1 32 = 0
  · exact OPJ.exc (k := 18) T (x_space_bad e (by omega)) (by omega) (by omega) (by decide) fun h => t_space_bad e (by omega)
  · exact OPJ.line C T (fun R iv L G => x_space L G e hd) (fun h => t_space T.2.2.1 e (by omega)) rfl
theorem o_macro (C : CJ i W H) (T : TJ W s) (hd : 9 ≤ d) : OPJ i W H s (ax_c d 241 [.ref 400, .int x] H) (fun h => ax_c d 385 [.ref 417, .int x] h) ex2 := by
  by_cases e : inI x 0 4 = 0
  · exact OPJ.exc (k := 18) T (x_macro_bad e (by omega)) (by omega) (by omega) (by decide) fun h => t_macro_bad e (by omega)
  · exact OPJ.line C T (fun R iv L G => x_macro L G e hd) (fun h => t_macro T.2.2.1 e (by omega)) rfl
theorem o_word (C : CJ i W H) (T : TJ W s) (hd : 9 ≤ d) : OPJ i W H s (ax_c d 238 [.ref 400, .int x, .int y] H) (fun h => ax_c d 382 [.ref 417, .int x, .int y] h) ex2 := by
  by_cases e : opG x y
  · exact OPJ.line C T (fun R iv L G => x_word L G e hd) (fun h => t_word T.2.2.1 e (by omega)) rfl
  · exact OPJ.exc (k := 18) T (x_word_bad e (by omega)) (by omega) (by omega) (by decide) fun h => t_word_bad e (by omega)
theorem o_code (C : CJ i W H) (T : TJ W s) (hd : 9 ≤ d) : OPJ i W H s (ax_c d 236 [.ref 400, .int x, .int y, .int z, .int u, .int m] H) (fun h => ax_c d 380 [.ref 417, .int x, .int y, .int z, .int u, .int m] h) ex2 := by
  by_cases e : inI x 0 26 = 0 ∨ inI y 0 3 = 0 ∨ inI z 0 3 = 0 ∨ ¬ opG u m
  · exact OPJ.exc (k := 18) T (x_code_bad e (by omega)) (by omega) (by omega) (by decide) fun h => t_code_bad e (by omega)
  · have e1 : inI x 0 26 ≠ 0 := fun q => e (Or.inl q)
    have e2 : inI y 0 3 ≠ 0 := fun q => e (Or.inr (Or.inl q))
    have e3 : inI z 0 3 ≠ 0 := fun q => e (Or.inr (Or.inr (Or.inl q)))
    have e4 : opG u m := Classical.not_not.mp fun q => e (Or.inr (Or.inr (Or.inr q)))
    exact OPJ.line C T (fun R iv L G => x_code L G e1 e2 e3 e4 hd) (fun h => t_code T.2.2.1 e1 e2 e3 e4 (by omega)) rfl
theorem o_vector (C : CJ i W H) (T : TJ W s) (hd : 9 ≤ d) : OPJ i W H s (ax_c d 240 [.ref 400, .int x, .int y, .int z] H) (fun h => ax_c d 384 [.ref 417, .int x, .int y, .int z] h) ex2 := by
  by_cases e : inI x 0 1 = 0 ∨ ¬ opG y z
  · exact OPJ.exc (k := 18) T (x_vector_bad e (by omega)) (by omega) (by omega) (by decide) fun h => t_vector_bad e (by omega)
  · have e1 : inI x 0 1 ≠ 0 := fun q => e (Or.inl q)
    have e4 : opG y z := Classical.not_not.mp fun q => e (Or.inr q)
    exact OPJ.line C T (fun R iv L G => x_vector L G e1 e4 hd) (fun h => t_vector T.2.2.1 e1 e4 (by omega)) rfl
theorem o_use (C : CJ i W H) (T : TJ W s) (hd : 9 ≤ d) : OPJ i W H s (ax_c d 243 [.ref 400, .int x, .int y, .int z, .int u, .int m] H) (fun h => ax_c d 387 [.ref 417, .int x, .int y, .int z, .int u, .int m] h) ex2 := by
  by_cases e : inI x 0 4 = 0 ∨ ¬ opG y z ∨ ¬ opG u m
  · exact OPJ.exc (k := 18) T (x_use_bad e (by omega)) (by omega) (by omega) (by decide) fun h => t_use_bad e (by omega)
  · have e1 : inI x 0 4 ≠ 0 := fun q => e (Or.inl q)
    have e2 : opG y z := Classical.not_not.mp fun q => e (Or.inr (Or.inl q))
    have e3 : opG u m := Classical.not_not.mp fun q => e (Or.inr (Or.inr q))
    exact OPJ.line C T (fun R iv L G => x_use L G e1 e2 e3 hd) (fun h => t_use T.2.2.1 e1 e2 e3 (by omega)) rfl
theorem o_endMacro (C : CJ i W H) (T : TJ W s) (hd : 9 ≤ d) : OPJ i W H s (ax_c d 242 [.ref 400] H) (fun h => ax_c d 386 [.ref 417] h) exI := by
  have C0 := C
  obtain ⟨R, cap, C⟩ := C
  obtain ⟨iv, G, -⟩ := C.2.2.2.1
  obtain ⟨x1, x2⟩ := x_endMacro C.2.2.2.2.2.1 G hd
  have n1 := T.2.2.1.2.1
  by_cases hn : W.2.2.1.1 = 100
  · exact OPJ.exc (k := 0) T (x1 hn) (by omega) (by omega) (by decide) fun h => t_endMacro_full (by rw [T.2.2.1.1, hn]; rfl) (by omega)
  · refine Or.inl ⟨_, fun W' => W' = (W.1, W.2.1, (W.2.2.1.1 + 1, fun t => if t = W.2.2.1.1 then (7, 0, 0, 0, 0, 0) else W.2.2.1.2 t), W.2.2.2), (x2 (by omega)).imp fun H' Z => ?_, fun h => ?_⟩
    · obtain ⟨C', F⟩ := C.on2 Z.2 (by omega) (by omega) (fun q h => h.2) (fun q h => h.1) Z.1
      exact ⟨⟨_, rfl, _, cap, C'⟩, F⟩
    · obtain ⟨s', e, L', fr, z⟩ := t_endMacro (h := h) T.2.2.1 (by omega) (show 3 ≤ d by omega)
      exact ⟨s', e, z, fun W' e => by rw [e]; exact T.ln L' fr⟩
theorem CJ0.pre (C : CJ0 R cap i W H) : ∃ iv, PRE H W.2.2.1.1 W.2.2.1.2 (R 2) iv := by
  obtain ⟨iv, G, -⟩ := C.2.2.2.1
  exact ⟨iv, C.1, G, C.2.2.2.2.2.1⟩
theorem o_error (C : CJ i W H) (T : TJ W s) (hd : 92 ≤ d) : OPJ i W H s (ax_c d 212 [.ref 400] H) (fun h => ax_c d 388 [.ref 417] h) ex := by
  obtain ⟨R, cap, C⟩ := C
  obtain ⟨iv, Z⟩ := C.pre
  refine Or.inl ⟨_, fun W' => W' = W, (x_error Z hd).imp fun H' E => ?_, fun h => ?_⟩
  · obtain ⟨C', F⟩ := C.ext E (by omega) (by omega)
    exact ⟨⟨W, rfl, R, cap, C'⟩, F⟩
  · obtain ⟨s', e, fr, z⟩ := t_error (h := h) T.2.2.1 Z.V.2 (show 8 ≤ d by omega)
    exact ⟨s', e, z, fun W' e => by rw [e]; exact T.cong fun f f0 hf => fr f f0 (by omega)⟩
theorem o_assemble (C : CJ i W H) (T : TJ W s) (hd : 92 ≤ d) : OPJ i W H s (ax_c d 244 [.ref 400] H) (fun h => ax_c d 402 [.ref 417] h) exI := by
  obtain ⟨R, cap, C⟩ := C
  obtain ⟨iv, Z⟩ := C.pre
  cases hr : asR W.2.2.1.2 W.2.2.1.1 with
  | inr er =>
    refine Or.inr ⟨44, 1001, 7006, by omega, by omega, x_assemble_no Z hr hd, by decide, fun h => ?_⟩
    obtain ⟨s', e, fr, z⟩ := (t_assemble (h := h) T.2.2.1 Z.V.2 (show 8 ≤ d by omega)).1 er hr
    exact ⟨s', e, z, T.cong fun f f0 hf => fr f f0 (by omega)⟩
  | inl r =>
    obtain ⟨w, bl⟩ := r
    have hI := (asR_img Z.V.2 hr).1
    refine Or.inl ⟨_, fun W' => ∃ f : Nat → Int32, (∀ a, a < 256 → f a = bl a) ∧ W' = (W.1, some f, W.2.2), (x_assemble_yes Z hr hd).imp fun H' X => ?_, fun h => ?_⟩
    · obtain ⟨ip, f, g1, g2, g3, g4, g5, g6, g7, g8, g9, g10⟩ := X
      obtain ⟨C', F⟩ := C.on0 g6 g7 (by omega) (by omega) g1 g2 (fun a ha => by rw [g3 a ha]; exact hI a ha) g4 g5
      exact ⟨⟨_, ⟨f, g3, rfl⟩, _, cap, C'⟩, F⟩
    · obtain ⟨s', e, fr, z, z21, z22⟩ := (t_assemble (h := h) T.2.2.1 Z.V.2 (show 8 ≤ d by omega)).2 w bl hr
      refine ⟨s', e, z, fun W' e => ?_⟩
      obtain ⟨f, g3, rfl⟩ := e
      -- rows 21 and 22 are new; all else as before
      have T' : TJ W (fun f => if f = 21 ∨ f = 22 then s f else s' f) := T.cong fun f f0 hf => by
        by_cases c : f = 21 ∨ f = 22
        · rw [if_pos c]
        · rw [if_neg c]; exact fr f f0 (by omega)
      obtain ⟨t1, t2, t3, t4, t5, t6⟩ := T'
      refine ⟨?_, ⟨by rw [z22]; decide, fun a ha => by rw [z21 a ha, g3 a ha]⟩, t3, t4, t5, t6⟩
      revert t1
      dsimp only
      cases W.1 with
      | inl q =>
        obtain ⟨N, n, K, ds0, img, v⟩ := q
        intro t1
        exact TO.cong t1 fun f f1 f2 => (if_neg (by omega)).symm
      | inr c =>
        intro t1
        exact TF.cong t1 fun f f1 f2 => (if_neg (by omega)).symm
theorem o_image (C : CJ i W H) (T : TJ W s) (hd : 3 ≤ d) : OPJ i W H s (ax_c d 245 [.ref 400, .int x] H) (fun h => ax_c d 403 [.ref 417, .int x] h) ex2 := by
  have C0 := C
  obtain ⟨R, cap, C⟩ := C
  by_cases e : inI x 0 255 = 0
  · exact OPJ.exc (k := 18) T (x_image_bad (by omega) e) (by omega) (by omega) (by decide) fun h => t_image_bad (by omega) h e
  obtain ⟨iv, G, gi⟩ := C.2.2.2.1
  have t2 := T.2.1
  revert gi t2
  cases hI : W.2.1 with
  | none =>
    intro gi t2
    have gi : iv = .null := gi
    subst gi
    exact OPJ.exc (k := 0) T (x_image_no (by omega) G e) (by omega) (by omega) (by decide) fun h => t_image_no (by omega) h e t2
  | some img =>
    rintro ⟨ip, rfl, g2, g3⟩ ⟨t2, t3⟩
    obtain ⟨k, -, k2, k3⟩ := (inI_val (lo := 0) (hi := 255) (by omega) (by omega)).mp e
    subst k3
    exact OPJ.ob C0 T (x_image (by omega) G g3 (show k < 256 by omega)) fun h => (t_image (by omega) h (show k < 256 by omega) t2).trans (by rw [t3 k (by omega)])
end OPS
