/-! the twin's tests: drafts, tests, submitting -/
/- with RA AR.ra IV IV.it IV.start IV.b20 KT KR KR.of t_madeTest TO TO.t0 TO.cong TO.on TO.st ON ON.iv OF TF SF t_isMachine t_makesAnew sleep_ra sleep_ne t_sleeps t_copies inI_val i_key IG tsF tsR kT -/
/-- a test: keys, words, steps, blocks, points, crash, result, whether it had passed -/
abbrev tst : Type := (Nat × (Nat → Int32)) × (Nat × (Nat → Int32)) × Nat × Int32 × Int32 × Nat × Int32 × Int32
def tsG (q : tst) : Prop := q.1.1 ≤ 6 ∧ (∀ k, k < q.1.1 → rg 65535 (q.1.2 k)) ∧ q.2.1.1 ≤ 6 ∧ q.2.2.1 ≤ 500 ∧ q.2.2.2.2.2.1 ≤ 500 ∧ rg 20 q.2.2.2.2.1 ∧ (q.2.2.2.2.2.2.2 = 0 ∨ q.2.2.2.2.2.2.2 = 1)
/-- a test in the rows -/
def TT1 (t : Nat) (q : tst) (s : Nat → Nat → Int32) : Prop := s 62 t = Int32.ofNat q.1.1 ∧ (∀ k, k < q.1.1 → s 61 (6 * t + k) = q.1.2 k) ∧ s 64 t = Int32.ofNat q.2.1.1 ∧ (∀ i, i < q.2.1.1 → s 63 (6 * t + i) = q.2.1.2 i) ∧ s 65 t = Int32.ofNat q.2.2.1 ∧ s 66 t = q.2.2.2.1 ∧ s 67 t = q.2.2.2.2.1 ∧ s 68 t = Int32.ofNat q.2.2.2.2.2.1 ∧ s 69 t = q.2.2.2.2.2.2.1 ∧ s 70 t = if q.2.2.2.2.2.2.2 = 1 ∨ q.2.2.2.2.2.2.1 = 0 then 1 else 0
/-- tests in the rows -/
def TTW (T : Nat) (q : Nat → tst) (s : Nat → Nat → Int32) : Prop := s 60 0 = Int32.ofNat T ∧ T ≤ 5 ∧ ∀ t, t < T → tsG (q t) ∧ TT1 t (q t) s
/-- a test made -/
noncomputable def mkT (img : Nat → Int32) (q : tst) : tst := (q.1, q.2.1, q.2.2.1, q.2.2.2.1, q.2.2.2.2.1, q.2.2.2.2.2.1, tsR (tsF img q.2.2.2.2.2.1 q.2.2.1 0 (kT q.1.1 q.1.2) fmD 0 0) q.2.2.2.1 q.2.1.1 q.2.1.2, if q.2.2.2.2.2.2.1 = 0 then 1 else q.2.2.2.2.2.2.2)
/-- so many of the tests are passed -/
noncomputable def psN (img : Nat → Int32) (q : Nat → tst) : Nat → Nat
  | 0 => 0
  | t + 1 => psN img q t + (if (mkT img (q t)).2.2.2.2.2.2.1 = 0 then 1 else 0)
theorem psN_le {img : Nat → Int32} {q : Nat → tst} : ∀ t, psN img q t ≤ t := by
  intro t
  induction t with
  | zero => exact Nat.le_refl _
  | succ t ih => unfold psN; split <;> omega
section TSS
variable {img : Nat → Int32} {T t : Nat} {q : Nat → tst} {s s' : Nat → Nat → Int32} {d : Nat}
theorem tsR_01 {c : Nat → Int32} {bl : Int32} {wn : Nat} {wd : Nat → Int32} : tsR c bl wn wd = 0 ∨ tsR c bl wn wd ≠ 0 := Decidable.em _
theorem TT1.cong {p : tst} (A : TT1 t p s) (h : ∀ f, 61 ≤ f → f ≤ 70 → s' f = s f) : TT1 t p s' := by
  unfold TT1
  rw [h 62 (by omega) (by omega), h 61 (by omega) (by omega), h 64 (by omega) (by omega), h 63 (by omega) (by omega), h 65 (by omega) (by omega), h 66 (by omega) (by omega), h 67 (by omega) (by omega), h 68 (by omega) (by omega), h 69 (by omega) (by omega), h 70 (by omega) (by omega)]
  exact A
theorem nar_b (x : Int32) (h : x = 0 ∨ x = 1) : vp_nar .boolean x = x := by
  rcases h with z | z <;> rw [z] <;> decide
/-- all tests are made -/
theorem t_submit103 (hI : IG img) (hT : T ≤ 5) (hd : 12 ≤ d) (h : ax_H) {v1 v2 v3 v4 : Int32} : ∀ m t, t + m = T → ∀ s : Nat → Nat → Int32, s 60 0 = Int32.ofNat T → (∀ a, a < 256 → s 21 a = img a) → (∀ j, j < T → tsG (q j) ∧ TT1 j (if j < t then mkT img (q j) else q j) s) → ∃ s', (∀ A, (dx_pF [(38, 43)] (.int) (.ref 417) (.int v4) (tw_H h s')).bind (fun h2 => B_X3_submit_192 (ax_c d) 417 v1 v2 v3 (Int32.ofNat (psN img q T)) 0 h2) = some A → B_X3_submit_103 (ax_c d) 417 v1 v2 v3 v4 (Int32.ofNat (psN img q t)) (Int32.ofNat t) (tw_H h s) = some A) ∧ ((∀ j, j < T → TT1 j (mkT img (q j)) s') ∧ ∀ j, T ≤ j → s' 70 j = s 70 j) ∧ ∀ f, f < 23 ∨ f = 40 ∨ (53 ≤ f ∧ f ≠ 69 ∧ f ≠ 70) → s' f = s f := by
  intro m
  induction m with
  | zero =>
    intro t ht s s60 h21 hq
    obtain rfl : t = T := by omega
    refine ⟨s, fun A hA => dx_app b_X3_submit_103 ?_, ⟨fun j hj => ?_, fun _ _ => rfl⟩, fun _ _ => rfl⟩
    · rw [tg_60, Option.bind_some, s60, if_pos (Int32.le_refl _)]; exact hA
    · have := (hq j hj).2
      rw [if_pos hj] at this; exact this
  | succ m ih =>
    intro t ht s s60 h21 hq
    have i5 : ix 5 (Int32.ofNat t) = some t := ix_of rfl (by omega) (by omega)
    obtain ⟨⟨g1, g2, g3, g4, g5, g6, g7⟩, q1⟩ := hq t (by omega)
    rw [if_neg (Nat.lt_irrefl t)] at q1
    obtain ⟨a62, a61, a64, a63, a65, a66, a67, a68, a69, a70⟩ := q1
    obtain ⟨s1, b1, b2⟩ := t_madeTest (s := s) (t := t) (x := (q t).2.2.2.2.2.1) (bud := (q t).2.2.1) (n := (q t).1.1) (wn := (q t).2.1.1) (kv := (q t).1.2) (wd := (q t).2.1.2) hI (by omega) g4 g5 a62 g1 (fun k hk => ⟨a61 k hk, g2 k hk⟩) a63 h21 a65 a68 a64 g3 hd h
    rw [a66] at b1
    generalize hr : tsR (tsF img (q t).2.2.2.2.2.1 (q t).2.2.1 0 (kT (q t).1.1 (q t).1.2) fmD 0 0) (q t).2.2.2.1 (q t).2.1.1 (q t).2.1.2 = r at b1
    have em : mkT img (q t) = ((q t).1, (q t).2.1, (q t).2.2.1, (q t).2.2.2.1, (q t).2.2.2.2.1, (q t).2.2.2.2.2.1, r, if (q t).2.2.2.2.2.2.1 = 0 then 1 else (q t).2.2.2.2.2.2.2) := by unfold mkT; rw [hr]
    generalize hg : (if (if (q t).2.2.2.2.2.2.1 = 0 then (1 : Int32) else (q t).2.2.2.2.2.2.2) = 1 ∨ r = 0 then (1 : Int32) else 0) = g
    generalize hs2 : tw_up (tw_up s1 69 t r) 70 t g = s2
    have f2 : ∀ f, f < 23 ∨ f = 40 ∨ (53 ≤ f ∧ f ≠ 69 ∧ f ≠ 70) → s2 f = s f := fun f hf => by
      rw [← hs2, tw_up_at, if_neg (by omega), tw_up_at, if_neg (by omega)]; exact b2 f (by omega)
    have s69 : s2 69 = upd (s 69) t r := by rw [← hs2, tw_up_at, if_neg (by decide), tw_up_at, if_pos rfl, b2 69 (by omega)]
    have s70 : s2 70 = upd (s 70) t g := by rw [← hs2, tw_up_at, if_pos rfl, tw_up_at, if_neg (by decide), b2 70 (by omega)]
    have q2 : ∀ j, j < T → tsG (q j) ∧ TT1 j (if j < t + 1 then mkT img (q j) else q j) s2 := by
      intro j hj
      refine ⟨(hq j hj).1, ?_⟩
      by_cases e : j = t
      · subst e
        rw [if_pos (by omega), em]
        refine ⟨by rw [f2 62 (by omega)]; exact a62, fun k hk => by rw [f2 61 (by omega)]; exact a61 k hk, by rw [f2 64 (by omega)]; exact a64, fun k hk => by rw [f2 63 (by omega)]; exact a63 k hk, by rw [f2 65 (by omega)]; exact a65, by rw [f2 66 (by omega)]; exact a66, by rw [f2 67 (by omega)]; exact a67, by rw [f2 68 (by omega)]; exact a68, by rw [s69, upd_eq], by rw [s70, upd_eq]; exact hg.symm⟩
      · have o := (hq j hj).2
        have e2 : (if j < t + 1 then mkT img (q j) else q j) = if j < t then mkT img (q j) else q j := by
          by_cases z : j < t
          · rw [if_pos z, if_pos (by omega)]
          · rw [if_neg z, if_neg (by omega)]
        rw [e2]
        obtain ⟨c62, c61, c64, c63, c65, c66, c67, c68, c69, c70⟩ := o
        exact ⟨by rw [f2 62 (by omega)]; exact c62, fun k hk => by rw [f2 61 (by omega)]; exact c61 k hk, by rw [f2 64 (by omega)]; exact c64, fun k hk => by rw [f2 63 (by omega)]; exact c63 k hk, by rw [f2 65 (by omega)]; exact c65, by rw [f2 66 (by omega)]; exact c66, by rw [f2 67 (by omega)]; exact c67, by rw [f2 68 (by omega)]; exact c68, by rw [s69, upd_ne _ _ e]; exact c69, by rw [s70, upd_ne _ _ e]; exact c70⟩
    obtain ⟨s', i1, i2, i3⟩ := ih (t + 1) (by omega) s2 (by rw [f2 60 (by omega)]; exact s60) (fun a ha => by rw [f2 21 (by omega)]; exact h21 a ha) q2
    refine ⟨s', fun A hA => dx_app b_X3_submit_103 ?_, ⟨i2.1, fun j hj => (i2.2 j hj).trans (by rw [s70, upd_ne _ _ (by omega)])⟩, fun f hf => (i3 f hf).trans (f2 f hf)⟩
    have ep : psN img q (t + 1) = psN img q t + (if r = 0 then 1 else 0) := by
      show psN img q t + (if (mkT img (q t)).2.2.2.2.2.2.1 = 0 then 1 else 0) = _
      rw [em]
    have o156 : ∀ b : Int32, (b = 0 ∨ b = 1) → b = g → B_X3_submit_156 (ax_c d) (.ref 456) (Int32.ofNat t) b 417 v1 v2 v3 v4 (Int32.ofNat (psN img q t)) (Int32.ofNat t) (tw_H h (tw_up s1 69 t r)) = some A := by
      intro b hb hbg
      refine dx_app (b_X3_submit_156 rfl) ?_
      rw [nar_b b hb, hbg, ts_70, i5, Option.bind_some, Option.bind_some, hs2, tr_69, Option.bind_some, tl_69, i5, Option.bind_some, Option.bind_some, s69, upd_eq]
      have i1' := i1 A hA
      rw [ep] at i1'
      by_cases z : r = 0
      · rw [if_pos z] at i1'
        rw [if_neg (fun y => y z), lt_at, lt_at, show Int32.ofNat (psN img q t) + 1 = Int32.ofNat (psN img q t + 1) from i_add _ 1, show Int32.ofNat t + 1 = Int32.ofNat (t + 1) from i_add t 1]; exact i1'
      · rw [if_neg z] at i1'
        rw [if_pos z, lt_at, lt_at, Int32.add_zero, show Int32.ofNat t + 1 = Int32.ofNat (t + 1) from i_add t 1]; exact i1'
    have h70 : tw_up s1 69 t r 70 t = s 70 t := by rw [tw_up_at, if_neg (by decide), b2 70 (by omega)]
    have h69 : tw_up s1 69 t r 69 t = r := by rw [tw_up_at, if_pos rfl, upd_eq]
    have gv : g = if ¬ s 70 t = 0 then 1 else if r = 0 then 1 else 0 := by
      rw [← hg, a70]
      rcases g7 with z | z <;> rw [z] <;> by_cases y1 : (q t).2.2.2.2.2.2.1 = 0 <;> by_cases y2 : r = 0 <;> simp [y1, y2]
    rw [tg_60, Option.bind_some, s60, if_neg (i_ge_not (by omega) (by omega)), tr_69, Option.bind_some, tw_vn, Option.bind_some, b1, cI_v, ts_69, i5, Option.bind_some, Option.bind_some, tr_70, Option.bind_some, Option.bind_some, tl_70, i5, Option.bind_some, Option.bind_some, h70]
    by_cases y : s 70 t = 0
    · rw [if_neg (fun z => z y)]
      rw [if_neg (fun z => z y)] at gv
      rw [tr_69, Option.bind_some, tl_69, i5, Option.bind_some, Option.bind_some, h69]
      by_cases z : r = 0
      · rw [if_pos z] at gv
        rw [if_neg (fun w => w z)]; exact o156 1 (Or.inr rfl) gv.symm
      · rw [if_neg z] at gv
        rw [if_pos z]; exact o156 0 (Or.inl rfl) gv.symm
    · rw [if_pos y] at gv
      rw [if_pos y]; exact o156 1 (Or.inr rfl) gv.symm
end TSS
