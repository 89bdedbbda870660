/-! the law begins: the twin is made (printed by gen/emit99z.py) -/
/- with tw_tab tw_fs tw_cell tw_H m_X3_init t_formats formS na_at pF_aref tw_H_cell -/
def tw_f0 : List Value := [.int 0, .int 0, .null, .null, .null, .null, .null, .null, .null, .null, .null, .null, .null, .null, .int 0, .int 0, .int 0, .int 0, .int 0, .int 0, .null, .null, .int 0, .int 0, .int 0, .null, .null, .int 0, .int 0, .int 0, .int 0, .int 0, .int 0, .int 0, .int 0, .int 0, .null, .int 0, .int 0, .int 0, .int 0, .null, .null, .int 0, .null, .null, .int 0, .int 0, .null, .null, .null, .null, .int 0, .null, .null, .int 0, .null, .null, .int 0, .int 0, .int 0, .null, .null, .null, .null, .null, .null, .null, .null, .null, .null, .null, .null, .null]
/-- the fields when j rows are made -/
def tw_fj : Nat → List Value
  | 0 => tw_f0
  | j + 1 => match tw_tab[j]? with
    | some e => (tw_fj j).set e.2.2 (.ref (418 + j))
    | none => tw_fj j
theorem tw_fj_all : tw_fj 42 = tw_fs fun _ _ => 0 := rfl
theorem tw_fj_len : ∀ j, (tw_fj j).length = 74 := by
  intro j
  induction j with
  | zero => rfl
  | succ j ih =>
    show (match tw_tab[j]? with | some e => (tw_fj j).set e.2.2 (.ref (418 + j)) | none => tw_fj j).length = 74
    split
    · rw [List.length_set]; exact ih
    · exact ih
/-- j rows are made -/
def TWI (j w : Nat) (h hh : ax_H) : Prop := hh.2.1 = 18 + j ∧ hh.2.2 = h.2.2 + w ∧ (∀ q, q < 417 → hh.1 q = h.1 q) ∧ hh.1 417 = .inr (38, tw_fj j) ∧ ∀ i, i < j → hh.1 (418 + i) = tw_cell (fun _ _ => 0) i
theorem TWI.go {j w t n f : Nat} {h hh : ax_H} {k : Int32} {ty : FieldType} {E : ax_H → Option ax_R} (S : TWI j w h hh) (hj : tw_tab[j]? = some (t, n, f)) (hk : k = Int32.ofNat n) (hn : n ≤ 1000000) (hf : f < 74) : ∃ h', TWI (j + 1) (w + n) h h' ∧ dx_na t 0 k hh (fun a h1 => (dx_pF [(38, f)] (.array ty) (.ref 417) (.ref a) h1).bind E) = E h' := by
  obtain ⟨s1, s2, s3, s4, s5⟩ := S
  have p : 400 + hh.2.1 = 418 + j := by omega
  have e1 : (ax_new hh (.inl (t, n, ax_dat 0)) n).1 417 = .inr (38, tw_fj j) := (new_ne _ _ (by omega)).trans s4
  refine ⟨ax_set (ax_new hh (.inl (t, n, ax_dat 0)) n) 417 (.inr (38, (tw_fj j).set f (.ref (418 + j)))), ⟨?_, ?_, fun q hq => (set_ne _ (by omega)).trans ((new_ne _ _ (by omega)).trans (s3 q hq)), ?_, fun i hi => ?_⟩, ?_⟩
  · show hh.2.1 + 1 = _; omega
  · show hh.2.2 + n = _; omega
  · rw [set_eq]
    show (Sum.inr (38, (tw_fj j).set f (.ref (418 + j))) : ax_C) = .inr (38, match tw_tab[j]? with | some e => (tw_fj j).set e.2.2 (.ref (418 + j)) | none => tw_fj j)
    rw [hj]
  · by_cases c : i = j
    · rw [c, set_ne _ (by omega), ← p, new_eq]
      unfold tw_cell
      rw [hj]
      rfl
    · rw [set_ne _ (by omega), new_ne _ _ (by omega)]
      exact s5 i (by omega)
  · rw [na_at hk hn, p, pF_aref (j := f) (k := 38) e1 (by simp [List.lookup]) (by rw [tw_fj_len]; exact hf) (by omega), Option.bind_some]
theorem TWI.all {w : Nat} {h hh : ax_H} (S : TWI 42 w h hh) : tw_H hh (fun _ _ => 0) = hh := by
  obtain ⟨s1, s2, s3, s4, s5⟩ := S
  refine Prod.ext ?_ rfl
  funext q
  show (if q < 417 then hh.1 q else if q = 417 then .inr (38, tw_fs fun _ _ => 0) else if q < 460 then tw_cell (fun _ _ => 0) (q - 418) else hh.1 q) = hh.1 q
  by_cases c1 : q < 417
  · rw [if_pos c1]
  rw [if_neg c1]
  by_cases c2 : q = 417
  · rw [if_pos c2, c2, s4, tw_fj_all]
  rw [if_neg c2]
  by_cases c3 : q < 460
  · rw [if_pos c3]
    have := s5 (q - 418) (by omega)
    rw [show 418 + (q - 418) = q by omega] at this
    exact this.symm
  · rw [if_neg c3]
theorem t_init {d : Nat} {h : ax_H} (hs : h.2.1 = 17) (hd : 2 ≤ d) : ∃ h1, ax_c d 370 [.ref 417] (ax_new h (.inr (38, tw_f0)) 74) = some (.inl none, tw_H h1 (formS fun _ _ => 0)) ∧ h1.2.1 = 60 ∧ h1.2.2 = h.2.2 + 6273 ∧ ∀ q, q < 417 → h1.1 q = h.1 q := by
  obtain ⟨d, rfl, he⟩ := d_succ hd
  have S0 : TWI 0 74 h (ax_new h (.inr (38, tw_f0)) 74) := ⟨by show h.2.1 + 1 = 18 + 0; omega, rfl, fun q hq => new_ne _ _ (by omega), by rw [show (417 : Nat) = 400 + h.2.1 by omega]; exact new_eq _ _, fun i hi => absurd hi (Nat.not_lt_zero _)⟩
  obtain ⟨h0, eh0⟩ : ∃ h0, h0 = ax_new h (.inr (38, tw_f0)) 74 := ⟨_, rfl⟩
  rw [← eh0] at S0 ⊢
  clear eh0
  have le := m_X3_init (d := d) (v0 := 417) (h := h0)
  rw [nn_ref] at le
  obtain ⟨h1, S1, e1⟩ := S0.go (t := 0) (n := 100) (f := 2) (k := 100) (ty := .int) (E := _) rfl rfl (by omega) (by omega)
  rw [e1] at le
  clear e1 S0
  obtain ⟨h2, S2, e2⟩ := S1.go (t := 0) (n := 500) (f := 3) (k := 500) (ty := .int) (E := _) rfl rfl (by omega) (by omega)
  rw [e2] at le
  clear e2 S1
  obtain ⟨h3, S3, e3⟩ := S2.go (t := 0) (n := 1220) (f := 4) (k := 1220) (ty := .int) (E := _) rfl rfl (by omega) (by omega)
  rw [e3] at le
  clear e3 S2
  obtain ⟨h4, S4, e4⟩ := S3.go (t := 0) (n := 2) (f := 5) (k := 2) (ty := .int) (E := _) rfl rfl (by omega) (by omega)
  rw [e4] at le
  clear e4 S3
  obtain ⟨h5, S5, e5⟩ := S4.go (t := 0) (n := 5) (f := 6) (k := 5) (ty := .int) (E := _) rfl rfl (by omega) (by omega)
  rw [e5] at le
  clear e5 S4
  obtain ⟨h6, S6, e6⟩ := S5.go (t := 0) (n := 5) (f := 7) (k := 5) (ty := .int) (E := _) rfl rfl (by omega) (by omega)
  rw [e6] at le
  clear e6 S5
  obtain ⟨h7, S7, e7⟩ := S6.go (t := 0) (n := 6) (f := 8) (k := 6) (ty := .int) (E := _) rfl rfl (by omega) (by omega)
  rw [e7] at le
  clear e7 S6
  obtain ⟨h8, S8, e8⟩ := S7.go (t := 0) (n := 6) (f := 9) (k := 6) (ty := .int) (E := _) rfl rfl (by omega) (by omega)
  rw [e8] at le
  clear e8 S7
  obtain ⟨h9, S9, e9⟩ := S8.go (t := 0) (n := 6) (f := 10) (k := 6) (ty := .int) (E := _) rfl rfl (by omega) (by omega)
  rw [e9] at le
  clear e9 S8
  obtain ⟨h10, S10, e10⟩ := S9.go (t := 0) (n := 6) (f := 11) (k := 6) (ty := .int) (E := _) rfl rfl (by omega) (by omega)
  rw [e10] at le
  clear e10 S9
  obtain ⟨h11, S11, e11⟩ := S10.go (t := 0) (n := 6) (f := 12) (k := 6) (ty := .int) (E := _) rfl rfl (by omega) (by omega)
  rw [e11] at le
  clear e11 S10
  obtain ⟨h12, S12, e12⟩ := S11.go (t := 0) (n := 6) (f := 13) (k := 6) (ty := .int) (E := _) rfl rfl (by omega) (by omega)
  rw [e12] at le
  clear e12 S11
  obtain ⟨h13, S13, e13⟩ := S12.go (t := 0) (n := 256) (f := 20) (k := 256) (ty := .int) (E := _) rfl rfl (by omega) (by omega)
  rw [e13] at le
  clear e13 S12
  obtain ⟨h14, S14, e14⟩ := S13.go (t := 0) (n := 256) (f := 21) (k := 256) (ty := .int) (E := _) rfl rfl (by omega) (by omega)
  rw [e14] at le
  clear e14 S13
  obtain ⟨h15, S15, e15⟩ := S14.go (t := 0) (n := 256) (f := 25) (k := 256) (ty := .int) (E := _) rfl rfl (by omega) (by omega)
  rw [e15] at le
  clear e15 S14
  obtain ⟨h16, S16, e16⟩ := S15.go (t := 0) (n := 4) (f := 26) (k := 4) (ty := .int) (E := _) rfl rfl (by omega) (by omega)
  rw [e16] at le
  clear e16 S15
  obtain ⟨h17, S17, e17⟩ := S16.go (t := 0) (n := 60) (f := 36) (k := 60) (ty := .int) (E := _) rfl rfl (by omega) (by omega)
  rw [e17] at le
  clear e17 S16
  obtain ⟨h18, S18, e18⟩ := S17.go (t := 0) (n := 20) (f := 41) (k := 20) (ty := .int) (E := _) rfl rfl (by omega) (by omega)
  rw [e18] at le
  clear e18 S17
  obtain ⟨h19, S19, e19⟩ := S18.go (t := 0) (n := 20) (f := 42) (k := 20) (ty := .int) (E := _) rfl rfl (by omega) (by omega)
  rw [e19] at le
  clear e19 S18
  obtain ⟨h20, S20, e20⟩ := S19.go (t := 0) (n := 1000) (f := 44) (k := 1000) (ty := .int) (E := _) rfl rfl (by omega) (by omega)
  rw [e20] at le
  clear e20 S19
  obtain ⟨h21, S21, e21⟩ := S20.go (t := 0) (n := 1000) (f := 45) (k := 1000) (ty := .int) (E := _) rfl rfl (by omega) (by omega)
  rw [e21] at le
  clear e21 S20
  obtain ⟨h22, S22, e22⟩ := S21.go (t := 0) (n := 3) (f := 48) (k := 3) (ty := .int) (E := _) rfl rfl (by omega) (by omega)
  rw [e22] at le
  clear e22 S21
  obtain ⟨h23, S23, e23⟩ := S22.go (t := 0) (n := 24) (f := 49) (k := 24) (ty := .int) (E := _) rfl rfl (by omega) (by omega)
  rw [e23] at le
  clear e23 S22
  obtain ⟨h24, S24, e24⟩ := S23.go (t := 0) (n := 256) (f := 50) (k := 256) (ty := .int) (E := _) rfl rfl (by omega) (by omega)
  rw [e24] at le
  clear e24 S23
  obtain ⟨h25, S25, e25⟩ := S24.go (t := 0) (n := 256) (f := 51) (k := 256) (ty := .int) (E := _) rfl rfl (by omega) (by omega)
  rw [e25] at le
  clear e25 S24
  obtain ⟨h26, S26, e26⟩ := S25.go (t := 0) (n := 256) (f := 53) (k := 256) (ty := .int) (E := _) rfl rfl (by omega) (by omega)
  rw [e26] at le
  clear e26 S25
  obtain ⟨h27, S27, e27⟩ := S26.go (t := 0) (n := 256) (f := 54) (k := 256) (ty := .int) (E := _) rfl rfl (by omega) (by omega)
  rw [e27] at le
  clear e27 S26
  obtain ⟨h28, S28, e28⟩ := S27.go (t := 0) (n := 6) (f := 56) (k := 6) (ty := .int) (E := _) rfl rfl (by omega) (by omega)
  rw [e28] at le
  clear e28 S27
  obtain ⟨h29, S29, e29⟩ := S28.go (t := 0) (n := 6) (f := 57) (k := 6) (ty := .int) (E := _) rfl rfl (by omega) (by omega)
  rw [e29] at le
  clear e29 S28
  obtain ⟨h30, S30, e30⟩ := S29.go (t := 0) (n := 30) (f := 61) (k := 30) (ty := .int) (E := _) rfl rfl (by omega) (by omega)
  rw [e30] at le
  clear e30 S29
  obtain ⟨h31, S31, e31⟩ := S30.go (t := 0) (n := 5) (f := 62) (k := 5) (ty := .int) (E := _) rfl rfl (by omega) (by omega)
  rw [e31] at le
  clear e31 S30
  obtain ⟨h32, S32, e32⟩ := S31.go (t := 0) (n := 30) (f := 63) (k := 30) (ty := .int) (E := _) rfl rfl (by omega) (by omega)
  rw [e32] at le
  clear e32 S31
  obtain ⟨h33, S33, e33⟩ := S32.go (t := 0) (n := 5) (f := 64) (k := 5) (ty := .int) (E := _) rfl rfl (by omega) (by omega)
  rw [e33] at le
  clear e33 S32
  obtain ⟨h34, S34, e34⟩ := S33.go (t := 0) (n := 5) (f := 65) (k := 5) (ty := .int) (E := _) rfl rfl (by omega) (by omega)
  rw [e34] at le
  clear e34 S33
  obtain ⟨h35, S35, e35⟩ := S34.go (t := 0) (n := 5) (f := 66) (k := 5) (ty := .int) (E := _) rfl rfl (by omega) (by omega)
  rw [e35] at le
  clear e35 S34
  obtain ⟨h36, S36, e36⟩ := S35.go (t := 0) (n := 5) (f := 67) (k := 5) (ty := .int) (E := _) rfl rfl (by omega) (by omega)
  rw [e36] at le
  clear e36 S35
  obtain ⟨h37, S37, e37⟩ := S36.go (t := 0) (n := 5) (f := 68) (k := 5) (ty := .int) (E := _) rfl rfl (by omega) (by omega)
  rw [e37] at le
  clear e37 S36
  obtain ⟨h38, S38, e38⟩ := S37.go (t := 0) (n := 5) (f := 69) (k := 5) (ty := .int) (E := _) rfl rfl (by omega) (by omega)
  rw [e38] at le
  clear e38 S37
  obtain ⟨h39, S39, e39⟩ := S38.go (t := 2) (n := 5) (f := 70) (k := 5) (ty := .boolean) (E := _) rfl rfl (by omega) (by omega)
  rw [e39] at le
  clear e39 S38
  obtain ⟨h40, S40, e40⟩ := S39.go (t := 0) (n := 256) (f := 71) (k := 256) (ty := .int) (E := _) rfl rfl (by omega) (by omega)
  rw [e40] at le
  clear e40 S39
  obtain ⟨h41, S41, e41⟩ := S40.go (t := 0) (n := 20) (f := 72) (k := 20) (ty := .int) (E := _) rfl rfl (by omega) (by omega)
  rw [e41] at le
  clear e41 S40
  obtain ⟨h42, S42, e42⟩ := S41.go (t := 0) (n := 20) (f := 73) (k := 20) (ty := .int) (E := _) rfl rfl (by omega) (by omega)
  rw [e42] at le
  clear e42 S41
  have a := S42.all
  obtain ⟨b1, b2, b3, -, -⟩ := S42
  have v : dx_vn [(38, 371)] (.ref 417) h42 = some 371 := by rw [← a]; exact tw_vn _ _ _
  have f := t_formats (d := d) (by omega) h42 (fun _ _ => 0)
  rw [a] at f
  rw [v, Option.bind_some, f, cV_v] at le
  exact ⟨h42, dx_app le rfl, by omega, by omega, b3⟩
