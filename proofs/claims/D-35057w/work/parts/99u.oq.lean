/-! one call of both: the machine asked -/
/- with wld mch MOK MCH IMG APR ROOM CJ0 CJ TJ FT CJ0.ext OPJ OPJ.obs OPJ.ob OPJ.exc ex2 exI TJ.t0 ON ON.iv TO TO.on OF TF RA RB RB.mem RB.dsk RB.reg RB.sml RTp RCl SC IV.sc CO CO.mv CF CF.mv GO x_state x_fault x_steps x_counter x_stack x_tape x_written x_flags x_writesLeft x_kept x_register x_register_bad x_memory x_memory_bad x_tapeAt x_tapeAt_bad x_disk x_disk_bad x_freeBlocks x_isWhole x_file_bad x_file_no x_file_yes x_size_bad x_size x_wordOf_bad x_wordOf_far x_wordOf x_files x_sum x_sumAnew_off x_sumAnew_bad x_sumAnew_yes x_changedAt_bad x_changedAt_mm x_changedAt_yes t_state t_fault t_steps t_kept t_counter t_stack t_writesLeft t_tape t_written t_register t_register_bad t_memory t_memory_bad t_tapeAt t_tapeAt_bad t_disk t_disk_bad t_freeBlocks t_isWhole t_files t_size_no t_size_yes t_wordOf_no t_wordOf_far t_wordOf_yes t_sum t_sumAnew_off t_sumAnew_bad t_sumAnew_yes t_changedAt_bad t_changedAt_yes t_flags zero_eq wM_cong findR_cong findF_nat FW WC F01 CI rg0' inI_val bo OkB caR chR noN CO.sz -/
noncomputable def mC (M : mch) : Nat → Int32 := match M with
  | .inl (N, _, K, ds0, img, v) => itC K (stC ds0 img K v) N
  | .inr c => c
section OQS
variable {R : Nat → Nat → Prop} {cap i a w k n d : Nat} {W : wld} {M : mch} {H H' : ax_H} {s s' : Nat → Nat → Int32} {x y z u m v : Int32} {ex : Nat → Int32} {cx : Option ax_R} {ct : ax_H → Option ax_R} {D E : Nat → Int32}
theorem MCH.mv {P : Nat → Prop} (C : MCH M R P cap H) : MV 402 (mC M) H := by
  cases M with
  | inl z => obtain ⟨N, n, K, ds0, img, v⟩ := z; obtain ⟨im, J, c, -⟩ := C; exact c.mv
  | inr c => obtain ⟨im, J, c⟩ := C; exact c.mv
theorem TJ.ra (T : TJ W s) : RA 0 (mC W.1) s := by
  obtain ⟨t1, -⟩ := T
  revert t1
  cases W.1 with
  | inl z => obtain ⟨N, n, K, ds0, img, v⟩ := z; intro t1; exact t1.1
  | inr c => intro t1; exact t1.1
theorem OF.sc {c : Nat → Int32} (F : OF c) : SC c := by
  obtain ⟨f1, f2, f3⟩ := F
  have z : ∀ p, p < 364 → c p = 0 := fun p hp => f1 p (Or.inl hp)
  have r : ∀ k p, p < 364 → rg k (c p) := fun k p hp => by rw [z p hp]; exact rg0' k
  exact ⟨⟨r _ 3 (by omega), r _ 4 (by omega), fun i hi => r _ _ (by omega), r _ 16 (by omega), r _ 17 (by omega), fun a ha => r _ _ (by omega), f2⟩, fun p p1 p2 => Or.inl (z p (by omega)), Or.inl (z 18 (by omega)), r _ 0 (by omega), r _ 1 (by omega), r _ 2 (by omega), r _ 10 (by omega), r _ 11 (by omega), fun i hi => by
    rw [z 17 (by omega)] at hi
    exact absurd hi (Nat.not_lt_zero _)⟩
theorem MOK.sc (O : MOK M) : SC (mC M) := by
  cases M with
  | inl z => obtain ⟨N, n, K, ds0, img, v⟩ := z; exact IV.sc (ON.iv O) O.2.2.2.1 O.2.1
  | inr c => exact O.1.sc
theorem MOK.fw (O : MOK M) : FW (ds (mC M)) := by
  cases M with
  | inl z => obtain ⟨N, n, K, ds0, img, v⟩ := z; exact (ON.iv (v := v) O).2.2.2.2.2
  | inr c => exact O.2
/-- what is asked with -/
theorem CJ0.q (C : CJ0 R cap i W H) : ∃ iv, GO H iv ∧ MV 402 (mC W.1) H ∧ SC (mC W.1) ∧ FW (ds (mC W.1)) := by
  obtain ⟨iv, G, -⟩ := C.2.2.2.1
  exact ⟨iv, G, C.2.2.1.mv, C.2.1.sc, C.2.1.fw⟩
theorem TJ.rb (T : TJ W s) {p : Nat} (h : p < 18) : s (fF p) (fI p) = mC W.1 p := T.ra.1.sml h
theorem TJ.dk (T : TJ W s) {a : Nat} (h : a < 256) : s 50 a = ds (mC W.1) a := T.ra.1.dsk h
theorem o_state (C : CJ i W H) (T : TJ W s) (hd : 2 ≤ d) : OPJ i W H s (ax_c d 215 [.ref 400] H) (fun h => ax_c d 454 [.ref 417] h) ex := by
  obtain ⟨iv, G, M, S, F⟩ := C.choose_spec.choose_spec.q
  exact OPJ.ob C T (x_state (by omega) G M) fun h => (t_state (by omega) h s).trans (by rw [show tw_up s 0 0 0 23 0 = mC W.1 0 from T.rb (p := 0) (by omega)])
theorem o_fault (C : CJ i W H) (T : TJ W s) (hd : 2 ≤ d) : OPJ i W H s (ax_c d 216 [.ref 400] H) (fun h => ax_c d 455 [.ref 417] h) ex := by
  obtain ⟨iv, G, M, S, F⟩ := C.choose_spec.choose_spec.q
  exact OPJ.ob C T (x_fault (by omega) G M) fun h => (t_fault (by omega) h s).trans (by rw [show tw_up s 0 0 0 24 0 = mC W.1 1 from T.rb (p := 1) (by omega)])
theorem o_steps (C : CJ i W H) (T : TJ W s) (hd : 2 ≤ d) : OPJ i W H s (ax_c d 217 [.ref 400] H) (fun h => ax_c d 456 [.ref 417] h) ex := by
  obtain ⟨iv, G, M, S, F⟩ := C.choose_spec.choose_spec.q
  exact OPJ.ob C T (x_steps (by omega) G M) fun h => (t_steps (by omega) h s).trans (by rw [show tw_up s 0 0 0 38 0 = mC W.1 2 from T.rb (p := 2) (by omega)])
theorem o_counter (C : CJ i W H) (T : TJ W s) (hd : 2 ≤ d) : OPJ i W H s (ax_c d 219 [.ref 400] H) (fun h => ax_c d 458 [.ref 417] h) ex := by
  obtain ⟨iv, G, M, S, F⟩ := C.choose_spec.choose_spec.q
  exact OPJ.ob C T (x_counter (by omega) G M) fun h => (t_counter (by omega) h s).trans (by rw [show tw_up s 0 0 0 27 0 = mC W.1 3 from T.rb (p := 3) (by omega)])
theorem o_stack (C : CJ i W H) (T : TJ W s) (hd : 2 ≤ d) : OPJ i W H s (ax_c d 220 [.ref 400] H) (fun h => ax_c d 459 [.ref 417] h) ex := by
  obtain ⟨iv, G, M, S, F⟩ := C.choose_spec.choose_spec.q
  exact OPJ.ob C T (x_stack (by omega) G M) fun h => (t_stack (by omega) h s).trans (by rw [show tw_up s 0 0 0 28 0 = mC W.1 4 from T.rb (p := 4) (by omega)])
theorem o_tape (C : CJ i W H) (T : TJ W s) (hd : 2 ≤ d) : OPJ i W H s (ax_c d 223 [.ref 400] H) (fun h => ax_c d 467 [.ref 417] h) ex := by
  obtain ⟨iv, G, M, S, F⟩ := C.choose_spec.choose_spec.q
  exact OPJ.ob C T (x_tape (by omega) G M) fun h => (t_tape (by omega) h s).trans (by rw [show tw_up s 0 0 0 37 0 = mC W.1 17 from T.rb (p := 17) (by omega)])
theorem o_written (C : CJ i W H) (T : TJ W s) (hd : 2 ≤ d) : OPJ i W H s (ax_c d 225 [.ref 400] H) (fun h => ax_c d 473 [.ref 417] h) ex := by
  obtain ⟨iv, G, M, S, F⟩ := C.choose_spec.choose_spec.q
  exact OPJ.ob C T (x_written (by omega) G M) fun h => (t_written (by omega) h s).trans (by rw [show tw_up s 0 0 0 52 0 = mC W.1 364 from T.ra.2.2.2.trans (Int32.add_zero _)])
theorem o_flags (C : CJ i W H) (T : TJ W s) (hd : 3 ≤ d) : OPJ i W H s (ax_c d 221 [.ref 400] H) (fun h => ax_c d 460 [.ref 417] h) ex := by
  obtain ⟨iv, G, M, S, F⟩ := C.choose_spec.choose_spec.q
  exact OPJ.ob C T (x_flags (by omega) G M) fun h => t_flags (by omega) h T.ra S.2.1
theorem o_writesLeft (C : CJ i W H) (T : TJ W s) (hd : 2 ≤ d) : OPJ i W H s (ax_c d 222 [.ref 400] H) (fun h => ax_c d 462 [.ref 417] h) ex := by
  obtain ⟨iv, G, M, S, F⟩ := C.choose_spec.choose_spec.q
  exact OPJ.ob C T (x_writesLeft (by omega) G M) fun h => (t_writesLeft (by omega) h s).trans (by rw [show tw_up s 0 0 0 46 0 = wlC (mC W.1) from T.ra.2.2.1.1])
theorem o_register (C : CJ i W H) (T : TJ W s) (hd : 3 ≤ d) (h1 : ex 18 = 1) : OPJ i W H s (ax_c d 253 [.ref 400, .int x] H) (fun h => ax_c d 463 [.ref 417, .int x] h) ex := by
  obtain ⟨iv, G, M, S, F⟩ := C.choose_spec.choose_spec.q
  by_cases e : inI x 0 3 = 0
  · exact OPJ.exc (k := 18) T (x_register_bad (by omega) G M e) (by omega) (by omega) (by rw [h1]; decide) fun h => by rw [h1]; exact t_register_bad (by omega) h e
  · obtain ⟨k, -, k2, rfl⟩ := (inI_val (lo := 0) (hi := 3) (by omega) (by omega)).mp e
    exact OPJ.ob C T (x_register (by omega) G M (show k < 4 by omega)) fun h => (t_register (by omega) h (show k < 4 by omega)).trans (by rw [T.ra.1.reg (show k < 4 by omega)])
theorem o_memory (C : CJ i W H) (T : TJ W s) (hd : 3 ≤ d) (h1 : ex 18 = 1) : OPJ i W H s (ax_c d 254 [.ref 400, .int x] H) (fun h => ax_c d 464 [.ref 417, .int x] h) ex := by
  obtain ⟨iv, G, M, S, F⟩ := C.choose_spec.choose_spec.q
  by_cases e : inI x 0 255 = 0
  · exact OPJ.exc (k := 18) T (x_memory_bad (by omega) G M e) (by omega) (by omega) (by rw [h1]; decide) fun h => by rw [h1]; exact t_memory_bad (by omega) h e
  · obtain ⟨k, -, k2, rfl⟩ := (inI_val (lo := 0) (hi := 255) (by omega) (by omega)).mp e
    exact OPJ.ob C T (x_memory (by omega) G M (show k < 256 by omega)) fun h => (t_memory (by omega) h (show k < 256 by omega)).trans (by rw [T.ra.1.mem (show k < 256 by omega)])
theorem o_tapeAt (C : CJ i W H) (T : TJ W s) (hd : 3 ≤ d) (h1 : ex 6 = 1) : OPJ i W H s (ax_c d 256 [.ref 400, .int x] H) (fun h => ax_c d 468 [.ref 417, .int x] h) ex := by
  obtain ⟨iv, G, M, S, F⟩ := C.choose_spec.choose_spec.q
  obtain ⟨m60, me⟩ := (S.1.2.2.2.2.1).nat
  have e17 : s 37 0 = mC W.1 17 := T.rb (p := 17) (by omega)
  by_cases e : inI x 0 (mC W.1 17 - 1) = 0
  · exact OPJ.exc (k := 6) T (x_tapeAt_bad (by omega) G M me m60 e) (by omega) (by omega) (by rw [h1]; decide) fun h => by rw [h1]; exact t_tapeAt_bad (by omega) h (by rw [e17]; exact e)
  · have pos : nn (mC W.1 17) ≠ 0 := fun z => by
      rw [me, z] at e
      refine e ?_
      unfold inI
      by_cases q : x < 0
      · rw [if_pos q]
      · rw [if_neg q, if_pos]
        rw [Int32.lt_iff_toInt_lt] at q ⊢
        have a : (Int32.ofNat 0 - 1).toInt = -1 := by decide
        have b : (0 : Int32).toInt = 0 := by decide
        rw [a]; omega
    have e' : inI x (Int32.ofNat 0) (Int32.ofNat (nn (mC W.1 17) - 1)) ≠ 0 := by
      rw [← show Int32.ofNat (nn (mC W.1 17)) - 1 = Int32.ofNat (nn (mC W.1 17) - 1) from i_sub (b := 1) (by omega), ← me]; exact e
    obtain ⟨k, -, k2, rfl⟩ := (inI_val (lo := 0) (by omega) (by omega)).mp e'
    exact OPJ.ob C T (x_tapeAt (by omega) G M me m60 (show k < nn (mC W.1 17) by omega)) fun h => (t_tapeAt (by omega) h (e17.trans me) m60 (show k < nn (mC W.1 17) by omega)).trans (by rw [T.ra.2.1.2 k (by omega)])
theorem o_sum (C : CJ i W H) (T : TJ W s) (hd : 3 ≤ d) : OPJ i W H s (ax_c d 224 [.ref 400] H) (fun h => ax_c d 469 [.ref 417] h) ex := by
  obtain ⟨iv, G, M, S, F⟩ := C.choose_spec.choose_spec.q
  exact OPJ.ob C T (x_sum (by omega) G M S.1.2.2.2.2.1) fun h => t_sum T.ra S (by omega) h
theorem o_disk (C : CJ i W H) (T : TJ W s) (hd : 3 ≤ d) (h1 : ex 18 = 1) : OPJ i W H s (ax_c d 258 [.ref 400, .int x, .int y] H) (fun h => ax_c d 474 [.ref 417, .int x, .int y] h) ex := by
  obtain ⟨iv, G, M, S, F⟩ := C.choose_spec.choose_spec.q
  by_cases e : inI x 0 31 = 0 ∨ inI y 0 7 = 0
  · exact OPJ.exc (k := 18) T (x_disk_bad (by omega) G M e) (by omega) (by omega) (by rw [h1]; decide) fun h => by rw [h1]; exact t_disk_bad (by omega) h e
  · obtain ⟨k, -, k2, rfl⟩ := (inI_val (lo := 0) (hi := 31) (by omega) (by omega)).mp fun z => e (Or.inl z)
    obtain ⟨j, -, j2, rfl⟩ := (inI_val (lo := 0) (hi := 7) (by omega) (by omega)).mp fun z => e (Or.inr z)
    exact OPJ.ob C T (x_disk (by omega) G M (show k < 32 by omega) (show j < 8 by omega)) fun h => (t_disk (by omega) h (show k < 32 by omega) (show j < 8 by omega)).trans (by rw [T.dk (show 8 * k + j < 256 by omega)])
theorem findF_cong {D E : Nat → Int32} (h : ∀ a, a < 256 → E a = D a) (x : Int32) : findF E x = findF D x := findR_cong (fun a ha => h a (by omega)) x 6 0 rfl
theorem filN_cong {D E : Nat → Int32} (h : ∀ a, a < 256 → E a = D a) : ∀ f, f ≤ 6 → filN E f = filN D f := by
  intro f
  induction f with
  | zero => intro _; rfl
  | succ f ih =>
    intro hf
    show filN E f + _ = filN D f + _
    rw [ih (by omega), h _ (by omega)]
theorem usedF_cong {D E : Nat → Int32} (h : ∀ a, a < 256 → E a = D a) {b : Nat} (hb : b < 32) : usedF E b = usedF D b := by
  unfold usedF
  rw [h _ (by omega)]
theorem freN_cong {D E : Nat → Int32} (h : ∀ a, a < 256 → E a = D a) : ∀ f, f ≤ 24 → freN E f = freN D f := by
  intro f
  induction f with
  | zero => intro _; rfl
  | succ f ih =>
    intro hf
    show freN E f + _ = freN D f + _
    rw [ih (by omega), usedF_cong h (by omega)]
theorem o_files (C : CJ i W H) (T : TJ W s) (hd : 3 ≤ d) : OPJ i W H s (ax_c d 226 [.ref 400] H) (fun h => ax_c d 475 [.ref 417] h) ex := by
  obtain ⟨iv, G, M, S, F⟩ := C.choose_spec.choose_spec.q
  exact OPJ.ob C T (x_files (by omega) G M) fun h => (t_files (by omega)).trans (by rw [filN_cong (fun a ha => T.dk ha) 6 (by omega)])
theorem o_freeBlocks (C : CJ i W H) (T : TJ W s) (hd : 2 ≤ d) : OPJ i W H s (ax_c d 227 [.ref 400] H) (fun h => ax_c d 479 [.ref 417] h) ex := by
  obtain ⟨iv, G, M, S, F⟩ := C.choose_spec.choose_spec.q
  exact OPJ.ob C T (x_freeBlocks (by omega) G M) fun h => (t_freeBlocks (by omega)).trans (by rw [freN_cong (fun a ha => T.dk ha) 24 (by omega)])
theorem o_isWhole (C : CJ i W H) (T : TJ W s) (hd : 6 ≤ d) : OPJ i W H s (ax_c d 228 [.ref 400] H) (fun h => ax_c d 480 [.ref 417] h) ex := by
  obtain ⟨iv, G, M, S, F⟩ := C.choose_spec.choose_spec.q
  have h61 := C.choose_spec.choose_spec.2.2.2.2.2.2.2.2.2.2.1
  obtain ⟨r, r1, r2⟩ := x_isWhole (by omega) G M (by omega) S.1.2.2.2.2.2.2
  refine OPJ.obs C T r2 (by omega) (by omega) fun h => ?_
  obtain ⟨r', q1, h', q2, q3⟩ := t_isWhole (h := h) (s := s) (d := d) (by omega) (fun p hp => by rw [T.dk hp]; exact S.1.2.2.2.2.2.2 p hp)
  have e : wM (s 50) 32 ↔ wM (ds (mC W.1)) 32 := wM_cong fun a ha => T.dk ha
  have : r' = r := by
    rcases q1 with ⟨a, b⟩ | ⟨a, b⟩
    · rcases r1 with ⟨c, d⟩ | ⟨c, d⟩
      · rw [a, c]
      · exact absurd (e.mp b) d
    · rcases r1 with ⟨c, d⟩ | ⟨c, d⟩
      · exact absurd (e.mpr d) b
      · rw [a, c]
  rw [← this, ← q3]; exact q2
theorem o_size (C : CJ i W H) (T : TJ W s) (hd : 7 ≤ d) (h1 : ex 18 = 1) (h2 : ex 45 = 2) : OPJ i W H s (ax_c d 259 [.ref 400, .int x] H) (fun h => ax_c d 476 [.ref 417, .int x] h) ex := by
  obtain ⟨iv, G, M, S, F⟩ := C.choose_spec.choose_spec.q
  have fe : findF (s 50) x = findF (ds (mC W.1)) x := findF_cong (fun a ha => T.dk ha) x
  obtain ⟨d, rfl, he⟩ := d_succ hd
  by_cases e : inI x 1 65535 = 0
  · have no : noN (s 50) x = 1 := if_pos e
    exact OPJ.exc (k := 18) T (x_size_bad (by omega) G (x_file_bad (by omega) G e) rfl) (by omega) (by omega) (by rw [h1]; decide) fun h => by rw [h1, ← no]; exact t_size_no (by omega) (by rw [no]; decide)
  rcases findF_nat (ds (mC W.1)) x with f0 | ⟨f, f6, ff, -⟩
  · have no : noN (s 50) x = 2 := by unfold noN; rw [if_neg e, fe, if_pos f0]
    exact OPJ.exc (k := 45) T (x_size_bad (by omega) G (x_file_no (by omega) G M e f0) rfl) (by omega) (by omega) (by rw [h2]; decide) fun h => by rw [h2, ← no]; exact t_size_no (by omega) (by rw [no]; decide)
  · have no : noN (s 50) x = 0 := by
      unfold noN; rw [if_neg e, fe, if_neg]
      rw [ff]
      exact fun z => by
        have z2 := congrArg Int32.toInt z
        rw [i_toInt (by omega)] at z2
        have : (-1 : Int32).toInt = -1 := rfl
        omega
    exact OPJ.ob C T (x_size (by omega) G M e f6 ff) fun h => (t_size_yes (by omega) no f6 (fe.trans ff)).trans (by rw [T.dk (show 40 + 4 * f + 1 < 256 by omega)])
theorem o_wordOf (C : CJ i W H) (T : TJ W s) (hd : 7 ≤ d) (h1 : ex 18 = 1) (h2 : ex 45 = 2) (h3 : ex 6 = 3) : OPJ i W H s (ax_c d 261 [.ref 400, .int x, .int y] H) (fun h => ax_c d 478 [.ref 417, .int x, .int y] h) ex := by
  obtain ⟨iv, G, M, S, F⟩ := C.choose_spec.choose_spec.q
  have fe : findF (s 50) x = findF (ds (mC W.1)) x := findF_cong (fun a ha => T.dk ha) x
  obtain ⟨d, rfl, he⟩ := d_succ hd
  by_cases e : inI x 1 65535 = 0
  · have no : noN (s 50) x = 1 := if_pos e
    exact OPJ.exc (k := 18) T (x_wordOf_bad (by omega) G (x_file_bad (by omega) G e) rfl) (by omega) (by omega) (by rw [h1]; decide) fun h => by rw [h1, ← no]; exact t_wordOf_no (by omega) (by rw [no]; decide)
  rcases findF_nat (ds (mC W.1)) x with f0 | ⟨f, f6, ff, -⟩
  · have no : noN (s 50) x = 2 := by unfold noN; rw [if_neg e, fe, if_pos f0]
    exact OPJ.exc (k := 45) T (x_wordOf_bad (by omega) G (x_file_no (by omega) G M e f0) rfl) (by omega) (by omega) (by rw [h2]; decide) fun h => by rw [h2, ← no]; exact t_wordOf_no (by omega) (by rw [no]; decide)
  · have no : noN (s 50) x = 0 := by
      unfold noN; rw [if_neg e, fe, if_neg]
      rw [ff]
      exact fun z => by
        have z2 := congrArg Int32.toInt z
        rw [i_toInt (by omega)] at z2
        have : (-1 : Int32).toInt = -1 := rfl
        omega
    obtain ⟨⟨zz, z16, ze⟩, bl⟩ := F f f6
    have se : s 50 (40 + 4 * f + 1) = ds (mC W.1) (40 + 4 * f + 1) := T.dk (by omega)
    by_cases q : inI y 0 (Int32.ofNat zz - 1) = 0
    · exact OPJ.exc (k := 6) T (x_wordOf_far (by omega) G M e f6 ff ze (by omega) q) (by omega) (by omega) (by rw [h3]; decide) fun h => by rw [h3]; exact t_wordOf_far (by omega) no f6 (fe.trans ff) (by rw [se, ze]; exact q)
    · have pos : zz ≠ 0 := fun z => by
        rw [z] at q
        refine q ?_
        unfold inI
        by_cases r : y < 0
        · rw [if_pos r]
        · rw [if_neg r, if_pos]
          rw [Int32.lt_iff_toInt_lt] at r ⊢
          have a : (Int32.ofNat 0 - 1).toInt = -1 := by decide
          have b : (0 : Int32).toInt = 0 := by decide
          rw [a]; omega
      have q' : inI y (Int32.ofNat 0) (Int32.ofNat (zz - 1)) ≠ 0 := by
        rw [← show Int32.ofNat zz - 1 = Int32.ofNat (zz - 1) from i_sub (b := 1) (by omega)]; exact q
      obtain ⟨p, -, p2, rfl⟩ := (inI_val (lo := 0) (by omega) (by omega)).mp q'
      obtain ⟨vb, v32, ve⟩ := bl (2 + p / 8) (by omega) (by omega)
      exact OPJ.ob C T (x_wordOf (by omega) G M e f6 ff ze (show p < zz by omega) z16 ve v32) fun h => (t_wordOf_yes (by omega) no f6 (fe.trans ff) (by rw [se, ze]; exact q) (by omega) ((T.dk (by omega)).trans ve) v32).trans (by rw [T.dk (show 8 * vb + p % 8 < 256 by omega)])
theorem o_kept (C : CJ i W H) (T : TJ W s) (hd : 3 ≤ d) : OPJ i W H s (ax_c d 218 [.ref 400] H) (fun h => ax_c d 457 [.ref 417] h) ex := by
  obtain ⟨R, cap, C0⟩ := id C
  obtain ⟨iv, G, -⟩ := C0.2.2.2.1
  have m1 := C0.2.2.1
  have t1 := T.1
  revert m1 t1
  cases hM : W.1 with
  | inl z =>
    obtain ⟨N, n, K, ds0, img, v⟩ := z
    rintro ⟨im, J, ⟨ds1, M, -⟩, -⟩ t1
    exact OPJ.ob C T (x_kept hd G M) fun h => (t_kept (by omega) h s).trans (by rw [show tw_up s 0 0 0 40 0 = Int32.ofNat n from t1.2.2.1])
  | inr c =>
    rintro ⟨im, J, ds1, K, -, M⟩ t1
    exact OPJ.ob C T (x_kept hd G M) fun h => (t_kept (by omega) h s).trans (by rw [show tw_up s 0 0 0 40 0 = 0 from t1.2]; rfl)
theorem o_changedAt (C : CJ i W H) (T : TJ W s) (hd : 8 ≤ d) (h1 : ex 18 = 1) : OPJ i W H s (ax_c d 255 [.ref 400, .int x] H) (fun h => ax_c d 466 [.ref 417, .int x] h) ex := by
  obtain ⟨R, cap, C0⟩ := id C
  obtain ⟨iv, G, -⟩ := C0.2.2.2.1
  by_cases e : inI x 0 255 = 0
  · exact OPJ.exc (k := 18) T (x_changedAt_bad G e (by omega)) (by omega) (by omega) (by rw [h1]; decide) fun h => by rw [h1]; exact t_changedAt_bad e (by omega) h
  obtain ⟨a, -, a2, rfl⟩ := (inI_val (lo := 0) (hi := 255) (by omega) (by omega)).mp e
  have m1 := C0.2.2.1
  have t1 := T.1
  have ok := C0.2.1
  have r2 : s 38 0 = mC W.1 2 := T.rb (p := 2) (by omega)
  revert m1 t1 ok r2
  cases hM : W.1 with
  | inl z =>
    obtain ⟨N, n, K, ds0, img, v⟩ := z
    rintro ⟨im, J, m1, -⟩ t1 ok r2
    exact OPJ.obs C T (x_changedAt_yes ok m1 G (show a < 256 by omega) hd) (by omega) (by omega) fun h => t_changedAt_yes ok.1 ok.2.1 (TO.st ok t1) t1.2.2.1 t1.2.2.2.2.2.2 (show a < 256 by omega) (by omega) h
  | inr c =>
    rintro ⟨im, J, ds1, K, -, M⟩ t1 ok r2
    have c2 : c 2 = 0 := ok.1.1 2 (Or.inl (by omega))
    exact OPJ.obs C T (x_changedAt_mm M G (by omega) (show a < 256 by omega) hd) (by omega) (by omega) fun h => t_changedAt_yes (n := 0) (N := 0) (M := fun _ _ => False) (by omega) (by omega) (r2.trans c2) t1.2 (fun k hk => absurd hk (Nat.not_lt_zero _)) (show a < 256 by omega) (by omega) h
theorem o_sumAnew (C : CJ i W H) (T : TJ W s) (hd : 17 ≤ d) (h1 : ex 0 = 1) (h2 : ex 18 = 2) : OPJ i W H s (ax_c d 257 [.ref 400, .int x] H) (fun h => ax_c d 472 [.ref 417, .int x] h) ex := by
  obtain ⟨R, cap, C0⟩ := id C
  obtain ⟨iv, G, -⟩ := C0.2.2.2.1
  have m1 := C0.2.2.1
  have mv := C0.2.2.1.mv
  have t1 := T.1
  have ok := C0.2.1
  have r0 : s 23 0 = mC W.1 0 := T.rb (p := 0) (by omega)
  have r2 : s 38 0 = mC W.1 2 := T.rb (p := 2) (by omega)
  revert m1 mv t1 ok r0 r2
  cases hM : W.1 with
  | inl z =>
    obtain ⟨N, n, K, ds0, img, v⟩ := z
    rintro ⟨im, J, m1, -⟩ mv t1 ok r0 r2
    have ne : mC (.inl (N, n, K, ds0, img, v)) 0 ≠ 0 := (ON.iv (v := v) ok).2.2.2.1
    have c2 : mC (.inl (N, n, K, ds0, img, v)) 2 = Int32.ofNat N := (ON.iv (v := v) ok).2.2.1
    by_cases e : inI x 0 (Int32.ofNat N) = 0
    · exact OPJ.exc (k := 18) T (x_sumAnew_bad G mv ne (by rw [c2]; exact e) (by omega)) (by omega) (by omega) (by rw [h2]; decide) fun h => by rw [h2]; exact t_sumAnew_bad (by rw [r0]; exact ne) (by rw [r2, c2]; exact e) (by omega) h
    · have n1000 := ok.2.1
      obtain ⟨k, -, k2, rfl⟩ := (inI_val (lo := 0) (by omega) (by omega)).mp e
      have hr : ∀ j, j < N → itC K (stC ds0 img K 0) j 0 = 1 := fun j hj => by
        rw [← zero_eq (v := v) ok.2.2.2.1 ok.2.2.2.2.1 ok.2.2.2.2.2 (show j ≤ 1000 by omega)]
        obtain ⟨ds1, -, -, -, -, -, -, hj'⟩ := m1
        exact hj' j hj
      have X := x_sumAnew_yes ok m1 C0.1 G hr k2 (d := d) (by omega)
      refine Or.inl ⟨_, fun W' => W' = W, X.imp fun H' E => ?_, fun h => ?_⟩
      · obtain ⟨C', F⟩ := C0.ext E (by omega) (by omega)
        exact ⟨⟨W, rfl, R, cap, C'⟩, F⟩
      · obtain ⟨s', e1, e2, e3, e4⟩ := t_sumAnew_yes ok t1 k2 (d := d) (by omega) h
        refine ⟨s', e1, e4, fun W' e => ?_⟩
        rw [e]
        -- the twin's machine is the same again
        have T' : TJ W (fun f => if (f ≠ 0 ∧ f < 23) ∨ 56 ≤ f then s' f else s f) := T.cong fun f f0 hf => by
          by_cases c : (f ≠ 0 ∧ f < 23) ∨ 56 ≤ f
          · rw [if_pos c]; exact e3 f c
          · rw [if_neg c]
        have T2 : TJ W (fun f => if f < 23 ∨ 56 ≤ f then s' f else s f) := T'.cong fun f f0 hf => by
          by_cases c : f < 23 ∨ 56 ≤ f
          · rw [if_pos c, if_pos (by omega)]
          · rw [if_neg c, if_neg (by omega)]
        obtain ⟨u1, u2, u3, u4, u5, u6⟩ := T2
        refine ⟨by rw [hM]; exact e2, u2, u3, u4, u5, u6⟩
  | inr c =>
    rintro ⟨im, J, m1⟩ mv t1 ok r0 r2
    have c0 : c 0 = 0 := ok.1.1 0 (Or.inl (by omega))
    exact OPJ.exc (k := 0) T (x_sumAnew_off G mv c0 (by omega)) (by omega) (by omega) (by rw [h1]; decide) fun h => by rw [h1]; exact t_sumAnew_off (r0.trans c0) (by omega) h
end OQS
