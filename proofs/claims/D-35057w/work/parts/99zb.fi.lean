/-! the law: its loop, its start (printed by gen/emit99zb.py) -/
/- with JH CJ0.rf b_L_law_23 m_L_law GYM x_ginit t_init tf_0 of_0 tw_f0 lb_clear lb_lines lb_section lb_label lb_code lb_word lb_space lb_vector lb_macro lb_endMacro lb_use lb_error lb_assemble lb_image lb_start lb_crash lb_format lb_step lb_runTo lb_back lb_press lb_state lb_fault lb_steps lb_kept lb_counter lb_stack lb_flags lb_writesLeft lb_register lb_memory lb_changedAt lb_tape lb_tapeAt lb_sum lb_sumAnew lb_written lb_disk lb_files lb_size lb_wordOf lb_freeBlocks lb_isWhole lb_testKey lb_testWord lb_addTest lb_tests lb_submit lb_result lb_mark CLW CTW DRL DRW TLW TTW APR ROOM MCH IMG MOK MM.mono AL.mono LL.mono CF formS tw_ext tw_off OLD.mono -/
theorem i_sub_lt {a b : Nat} (ha : a < 2 ^ 30) (hb : b < 2 ^ 30) : Int32.ofNat a - 6 < Int32.ofNat b ↔ a < b + 6 := by
  rw [Int32.lt_iff_toInt_lt, Int32.toInt_sub, i_toInt (by omega), i_toInt (by omega), show (6 : Int32).toInt = 6 from rfl, Int.bmod_eq_of_le (by omega) (by omega)]
  omega
section ZBL
variable {L i d : Nat} {xs : Nat → Int32} {h h' : ax_H} {v : Option Value ⊕ Nat} {Q : ax_H → Prop}
theorem tw_sel {x : Int32} {Es : List (Option ax_R)} {Ed : Option ax_R} (hl : Es.length = 50) (h1 : ∀ e ∈ Es, Ok e v Q) (h2 : Ok Ed v Q) : Ok (dx_tw 0 49 x Es Ed) v Q := by
  unfold dx_tw
  by_cases c : x.toInt < 0 ∨ 49 < x.toInt
  · rw [if_pos c]; exact h2
  · rw [if_neg c]
    have k : (x.toInt - 0).toNat < Es.length := by rw [hl]; omega
    rw [List.getElem?_eq_getElem k]
    exact h1 _ (List.getElem_mem k)
theorem fm_c {e : Option ax_R} {Es : List (Option ax_R)} (a : Ok e v Q) (b : ∀ e ∈ Es, Ok e v Q) : ∀ x ∈ e :: Es, Ok x v Q := fun x hx => by
  rcases List.mem_cons.mp hx with z | z
  · rw [z]; exact a
  · exact b x z
theorem fm_n : ∀ x ∈ ([] : List (Option ax_R)), Ok x v Q := fun x hx => absurd hx List.not_mem_nil
theorem JH.rf (J : JH L xs i h) : JH L xs (i + 1) h := by
  obtain ⟨j0, W, s, ⟨R, cap, C⟩, T, t0, f⟩ := J
  exact ⟨j0, W, s, ⟨R, cap, C.rf⟩, T, t0, f⟩
/-- the room that the law takes -/
def LWQ (h : ax_H) : Prop := h.2.1 ≤ 1200384 ∧ h.2.2 ≤ 5487274
theorem law_loop (hL : L ≤ 384) (hd : 94 ≤ d) : ∀ n i h, 6 * i ≤ L → L < 6 * i + 6 * n → JH L xs i h → Ok (B_L_law_23 (ax_c (d + 1)) (.ref 0) 400 417 460 (Int32.ofNat (6 * i)) h) (.inl (some (.int 1))) LWQ := by
  intro n
  induction n with
  | zero => intro i h h1 h2; omega
  | succ n ih =>
    intro i h h1 h2 J
    refine Ok.le (b_L_law_23 rfl) ?_
    rw [len_at J.1, Option.bind_some]
    by_cases c : L < 6 * i + 6
    · rw [if_pos ((i_sub_lt (by omega) (by omega)).mpr c)]
      obtain ⟨j0, W, s, ⟨R, cap, C⟩, -⟩ := J
      obtain ⟨c1, c2, c3, c4, c5, c6, c7, c8, c9, c10, r1, r2, r3, r4⟩ := C
      exact Ok.ret ⟨by omega, by omega⟩
    · rw [if_neg (fun z => c ((i_sub_lt (by omega) (by omega)).mp z)), lI_at J.1, ix_of (k := 6 * i) rfl (by omega) (by omega), Option.bind_some, Option.bind_some]
      have n6 : Int32.ofNat (6 * i) + 6 = Int32.ofNat (6 * (i + 1)) := i_add (6 * i) 6
      have hi : 6 * i + 6 ≤ L := by omega
      have fin : ∀ h3, JH L xs (i + 1) h3 → Ok (B_L_law_23 (ax_c (d + 1)) (.ref 0) 400 417 460 (Int32.ofNat (6 * (i + 1))) h3) (.inl (some (.int 1))) LWQ := fun h3 J3 => ih (i + 1) h3 (by omega) (by omega) J3
      refine tw_sel rfl ?_ ?_
      · refine fm_c (lb_clear J hd hi hL fin) ?_
        refine fm_c (lb_lines J hd hi hL fin) ?_
        refine fm_c (lb_section J hd hi hL fin) ?_
        refine fm_c (lb_label J hd hi hL fin) ?_
        refine fm_c (lb_code J hd hi hL fin) ?_
        refine fm_c (lb_word J hd hi hL fin) ?_
        refine fm_c (lb_space J hd hi hL fin) ?_
        refine fm_c (lb_vector J hd hi hL fin) ?_
        refine fm_c (lb_macro J hd hi hL fin) ?_
        refine fm_c (lb_endMacro J hd hi hL fin) ?_
        refine fm_c (lb_use J hd hi hL fin) ?_
        refine fm_c (lb_error J hd hi hL fin) ?_
        refine fm_c (lb_assemble J hd hi hL fin) ?_
        refine fm_c (lb_image J hd hi hL fin) ?_
        refine fm_c (lb_start J hd hi hL fin) ?_
        refine fm_c (lb_crash J hd hi hL fin) ?_
        refine fm_c (lb_format J hd hi hL fin) ?_
        refine fm_c (lb_step J hd hi hL fin) ?_
        refine fm_c (lb_runTo J hd hi hL fin) ?_
        refine fm_c (lb_back J hd hi hL fin) ?_
        refine fm_c (lb_press J hd hi hL fin) ?_
        refine fm_c (lb_state J hd hi hL fin) ?_
        refine fm_c (lb_fault J hd hi hL fin) ?_
        refine fm_c (lb_steps J hd hi hL fin) ?_
        refine fm_c (lb_kept J hd hi hL fin) ?_
        refine fm_c (lb_counter J hd hi hL fin) ?_
        refine fm_c (lb_stack J hd hi hL fin) ?_
        refine fm_c (lb_flags J hd hi hL fin) ?_
        refine fm_c (lb_writesLeft J hd hi hL fin) ?_
        refine fm_c (lb_register J hd hi hL fin) ?_
        refine fm_c (lb_memory J hd hi hL fin) ?_
        refine fm_c (lb_changedAt J hd hi hL fin) ?_
        refine fm_c (lb_tape J hd hi hL fin) ?_
        refine fm_c (lb_tapeAt J hd hi hL fin) ?_
        refine fm_c (lb_sum J hd hi hL fin) ?_
        refine fm_c (lb_sumAnew J hd hi hL fin) ?_
        refine fm_c (lb_written J hd hi hL fin) ?_
        refine fm_c (lb_disk J hd hi hL fin) ?_
        refine fm_c (lb_files J hd hi hL fin) ?_
        refine fm_c (lb_size J hd hi hL fin) ?_
        refine fm_c (lb_wordOf J hd hi hL fin) ?_
        refine fm_c (lb_freeBlocks J hd hi hL fin) ?_
        refine fm_c (lb_isWhole J hd hi hL fin) ?_
        refine fm_c (lb_testKey J hd hi hL fin) ?_
        refine fm_c (lb_testWord J hd hi hL fin) ?_
        refine fm_c (lb_addTest J hd hi hL fin) ?_
        refine fm_c (lb_tests J hd hi hL fin) ?_
        refine fm_c (lb_submit J hd hi hL fin) ?_
        refine fm_c (lb_result J hd hi hL fin) ?_
        refine fm_c (lb_mark J hd hi hL fin) ?_
        exact fm_n
      · rw [lt_at, n6]
        exact fin h J.rf
theorem tw_idem (h : ax_H) (s : Nat → Nat → Int32) : tw_H (tw_H h s) s = tw_H h s := by
  refine Prod.ext ?_ rfl
  funext q
  by_cases c : q < 417 ∨ 460 ≤ q
  · exact tw_off c
  · show (if q < 417 then (tw_H h s).1 q else if q = 417 then _ else if q < 460 then _ else (tw_H h s).1 q) = (if q < 417 then h.1 q else if q = 417 then _ else if q < 460 then _ else h.1 q)
    have c0 : ¬ q < 417 := fun z => c (Or.inl z)
    have c3 : q < 460 := by omega
    rw [if_neg c0, if_neg c0]
    by_cases c2 : q = 417
    · rw [if_pos c2, if_pos c2]
    · rw [if_neg c2, if_neg c2, if_pos c3, if_pos c3]
/-- the things' own places at the start -/
def RG0 (j q : Nat) : Prop := (j = 1 ∧ 402 ≤ q ∧ q ≤ 413) ∨ (j = 2 ∧ q = 401) ∨ (j = 3 ∧ q = 414) ∨ (j = 4 ∧ q = 415) ∨ (j = 5 ∧ q = 416)
def wl0 : wld := (.inr (formC fun _ => 0), none, (0, fun _ => (0, 0, 0, 0, 0, 0)), (0, fun _ => ((0, fun _ => 0), (0, fun _ => 0), 0, 0, 0, 0, 0, 0)), (0, fun _ => 0), (0, fun _ => 0))
theorem cj_0 (o : OLD h) (G : GYM h) (e : ∀ q, q < 417 → h'.1 q = h.1 q) (h61 : h'.2.1 = 61) (hw : h'.2.2 ≤ 10000) : CJ 0 wl0 h' := by
  obtain ⟨g1, g2, g3, g4, g5, g6, g7, g8⟩ := G
  have r1 : ∀ q, RG0 1 q ↔ 402 ≤ q ∧ q ≤ 413 := fun q => by unfold RG0; omega
  have r2 : ∀ q, RG0 2 q ↔ q = 401 := fun q => by unfold RG0; omega
  have r3 : ∀ q, RG0 3 q ↔ q = 414 := fun q => by unfold RG0; omega
  have r4 : ∀ q, RG0 4 q ↔ q = 415 := fun q => by unfold RG0; omega
  have r5 : ∀ q, RG0 5 q ↔ q = 416 := fun q => by unfold RG0; omega
  refine ⟨RG0, 17, o.mono fun q hq => e q (by omega), of_0, ⟨407, fun _ => [], fun _ => 0, (0, fun _ => 0, fun _ => 0), rfl, g4.mono (fun q hq => e q (by omega)) (by omega) (fun q hq => (r1 q).mpr hq) (fun q hq => by have := (r1 q).mp hq; omega)⟩, ⟨.null, (e 400 (by omega)).trans g3, rfl⟩, (fun img hi => by cases hi), ?_, ?_, ?_, ?_, ⟨?_, ?_⟩, by omega, by omega, by omega, by omega⟩
  · exact ⟨0, 1, 0, fun _ => 0, fun _ => False, g5.mono (e _ (by omega)) (e _ (by omega)) (by omega), ⟨by decide, by omega⟩, fun t ht => absurd ht (Nat.not_lt_zero _), fun r hr => hr.elim, id, id, fun r hr => by have := (r2 r).mp hr; omega, (r2 _).mpr rfl, Or.inl (by omega)⟩
  · exact ⟨0, 1, 0, fun _ => 0, g6.mono (e _ (by omega)) (e _ (by omega)) (by omega), ⟨by decide, by omega⟩, fun t ht => absurd ht (Nat.not_lt_zero _), fun t u _ hu => absurd hu (Nat.not_lt_zero _), fun r hr => by have := (r3 r).mp hr; omega, (r3 _).mpr rfl, Or.inl (by omega)⟩
  · exact ⟨0, fun _ => 0, fun _ => 0, g7.mono (e _ (by omega)) (fun i hi => absurd hi (Nat.not_lt_zero _)) (by omega), by decide, (r4 _).mpr rfl, fun q hq => by have := (r4 q).mp hq; omega, fun i hi => absurd hi (Nat.not_lt_zero _)⟩
  · exact ⟨0, fun _ => 0, fun _ => 0, g8.mono (e _ (by omega)) (fun i hi => absurd hi (Nat.not_lt_zero _)) (by omega), by decide, (r5 _).mpr rfl, fun q hq => by have := (r5 q).mp hq; omega, fun i hi => absurd hi (Nat.not_lt_zero _)⟩
  · intro i j q hi hj
    unfold RG0 at hi hj
    omega
  · intro i q hi
    unfold RG0 at hi
    omega
theorem tj_0 : TJ wl0 (formS fun _ _ => 0) :=
  ⟨tf_0, rfl, ⟨rfl, by decide, fun t ht => absurd ht (Nat.not_lt_zero _)⟩, ⟨rfl, by decide, fun t ht => absurd ht (Nat.not_lt_zero _)⟩, fun j _ => rfl, ⟨rfl, rfl, by decide, by decide, fun t ht => absurd ht (Nat.not_lt_zero _), fun t ht => absurd ht (Nat.not_lt_zero _)⟩⟩
/-- the law answers yes, at any script -/
theorem law_start (hL : L ≤ 384) (hd : 94 ≤ d) (h0 : h.1 0 = .inl (0, L, .inl xs)) (o : OLD h) (h1 : h.2.1 = 0) (h2 : h.2.2 = 0) : Ok (ax_run (ax_c (d + 1)) P_L_law 0 [some (.ref 0), none, none, none, none, none, none] [] h) (.inl (some (.int 1))) LWQ := by
  refine Ok.le (m_L_law rfl) ?_
  rw [nw_at, show 400 + h.2.1 = 400 by omega]
  refine Ok.V (x_ginit o.1 h1 h2 (by omega)) ?_
  rintro h3 ⟨G, low⟩
  rw [nw_at, show 400 + h3.2.1 = 417 by rw [G.1]]
  obtain ⟨h4, e, n4, w4, k4⟩ := t_init (d := d + 1) G.1 (by omega)
  unfold tw_f0 at e
  rw [e, cV_v, na_at (n := 1) (k := 1) rfl (by omega), show 400 + (tw_H h4 (formS fun _ _ => 0)).2.1 = 460 by show 400 + h4.2.1 = 460; rw [n4]]
  obtain ⟨h6, e6⟩ : ∃ h6, h6 = tw_H h4 (formS fun _ _ => 0) := ⟨_, rfl⟩
  have a6 : 400 + h6.2.1 = 460 := by rw [e6]; show 400 + h4.2.1 = 460; rw [n4]
  have w6 : h6.2.2 = h4.2.2 := by rw [e6]; rfl
  have t6 : tw_H h6 (formS fun _ _ => 0) = h6 := by rw [e6]; exact tw_idem _ _
  have k6 : ∀ q, q < 417 → h6.1 q = h3.1 q := fun q hq => by rw [e6]; exact (tw_off (Or.inl hq)).trans (k4 q hq)
  rw [← e6]
  obtain ⟨h7, e7⟩ : ∃ h7, h7 = ax_new h6 (.inl (1, 1, ax_dat 1)) 1 := ⟨_, rfl⟩
  have c7 : h7.1 460 = .inl (1, 1, .inr (.inl fun _ => 0)) := by rw [e7, ← a6]; exact new_eq _ _
  have k7 : ∀ q, q < 460 → h7.1 q = h6.1 q := fun q hq => by rw [e7]; exact new_ne _ _ (by omega)
  have n7 : h7.2.1 = 61 := by rw [e7]; show h6.2.1 + 1 = 61; omega
  have w7 : h7.2.2 ≤ 10000 := by have := G.2.1; rw [e7]; show h6.2.2 + 1 ≤ 10000; omega
  rw [← e7]
  have J : JH L xs 0 h7 := ⟨(k7 0 (by omega)).trans ((k6 0 (by omega)).trans ((low 0 (by omega)).trans h0)), wl0, formS fun _ _ => 0, cj_0 (o.mono low) G (fun q hq => (k7 q (by omega)).trans (k6 q hq)) n7 w7, tj_0, tw_ext (h1 := h6) (fun q q1 q2 => k7 q q2) t6, _, c7⟩
  exact law_loop hL hd 65 0 h7 (by omega) (by omega) J
end ZBL
