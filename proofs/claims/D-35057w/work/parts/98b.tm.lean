/-! the twin makes a test -/
/- with RA AR.ra IV IV.it IV.start IV.b20 KT KR KR.of in_step t_again t_mendR sleep_ne wakeS K0 DG IG stC_at saC_at t_wake0 t_wakes t_formats formS t_keysCome any_k itC tsF tsF_iv t_isWholeNow OkB bo wM usedF form_fsi RB.cong -/
section TMT
variable {img ds0 : Nat → Int32} {x n t wn : Nat} {K : kk_K} {D c : Nat → Int32} {v w : Int32} {s u : Nat → Nat → Int32} {d : Nat}
/-- woken with the image of the row 21 -/
theorem t_wake21 (KS : KR K u) (h21 : ∀ a, a < 256 → u 21 a = img a) (h50 : ∀ a, a < 256 → u 50 a = ds0 a) (hv : u 52 0 = v + w) {x : Int32} (hx1 : (∃ k, k < K.1 ∧ u 41 k = 0) → x = 1) (hx0 : ¬ (∃ k, k < K.1 ∧ u 41 k = 0) → x = 0) : RA w (stC ds0 img K v) (tw_up (wakeS u (u 21)) 33 0 x) := by
  have Rw : RA w (stC ds0 img K v) (tw_up (wakeS (fun f => if f = 53 then u 21 else u f) (u 21)) 33 0 x) := t_wake0 (s := fun f => if f = 53 then u 21 else u f) (KS.of fun f f1 f2 => if_neg (by omega)) h21 h50 hv hx1 hx0
  have eqw : ∀ f, f ≠ 53 → tw_up (wakeS (fun f => if f = 53 then u 21 else u f) (u 21)) 33 0 x f = tw_up (wakeS u (u 21)) 33 0 x f := by
    intro f hf
    have same : ∀ f, f ≠ 53 → wakeS (fun f => if f = 53 then u 21 else u f) (u 21) f = wakeS u (u 21) f := by
      intro f hf
      unfold wakeS sleepS
      simp only [tw_up_at, fl_at]
      simp only [if_neg hf, show ¬ (26 = 53) by decide, show ¬ (25 = 53) by decide, show ¬ (23 = 53) by decide, show ¬ (24 = 53) by decide, show ¬ (27 = 53) by decide, show ¬ (28 = 53) by decide, show ¬ (29 = 53) by decide, show ¬ (30 = 53) by decide, show ¬ (31 = 53) by decide, show ¬ (32 = 53) by decide, show ¬ (33 = 53) by decide, show ¬ (34 = 53) by decide, show ¬ (35 = 53) by decide, show ¬ (37 = 53) by decide, show ¬ (38 = 53) by decide, show ¬ (39 = 53) by decide, show ¬ (46 = 53) by decide, if_false]
    rw [tw_up_at, tw_up_at, same 33 (by decide), same f hf]
  obtain ⟨r1, r2, r3, r4⟩ := Rw
  exact ⟨r1.cong fun f f1 f2 f3 f4 => (eqw f (by omega)).symm, ⟨r2.1, fun i hi => by rw [← eqw 36 (by decide)]; exact r2.2 i hi⟩, ⟨by rw [← eqw 46 (by decide)]; exact r3.1, fun z => by rw [← eqw 47 (by decide), ← eqw 48 (by decide), ← eqw 49 (by decide)]; exact r3.2 z⟩, by rw [← eqw 52 (by decide)]; exact r4⟩
/-- the steps of a test -/
theorem t_test68 (hI : IG img) (ht : t < 5) (hd : 10 ≤ d) (h : ax_H) {bud : Nat} (hb : bud ≤ 500) (hx : x ≤ 500) : ∀ m j, j + m = bud → ∀ (K : kk_K) (D : Nat → Int32) (v : Int32) (N : Nat) (s : Nat → Nat → Int32), N ≤ j → KT K → DG D → RA 0 (itC K (stC D img K v) N) s → KR K s → (∀ a, a < 256 → s 21 a = img a) → s 65 t = Int32.ofNat bud → s 68 t = Int32.ofNat x → ∃ s', (∀ A, B_X3_madeTest_132 (ax_c d) 417 (Int32.ofNat t) (tw_H h s') = some A → B_X3_madeTest_68 (ax_c d) 417 (Int32.ofNat t) (Int32.ofNat j) (tw_H h s) = some A) ∧ RA 0 (tsF img x m j K D v N) s' ∧ (∃ K', KR K' s') ∧ ∀ f, f < 23 ∨ f = 40 ∨ 53 ≤ f → s' f = s f := by
  have i5 : ix 5 (Int32.ofNat t) = some t := ix_of rfl ht (by omega)
  intro m
  induction m with
  | zero =>
    intro j hj K D v N s hN KK hD R KS h21 h65 h68
    obtain rfl : j = bud := by omega
    refine ⟨s, fun A hA => dx_app b_X3_madeTest_68 ?_, R, ⟨K, KS⟩, fun _ _ => rfl⟩
    rw [tg_23, Option.bind_some]
    by_cases q : s 23 0 = 1
    · rw [if_neg (fun z => z q), tr_65, Option.bind_some, tl_65, i5, Option.bind_some, Option.bind_some, h65, if_pos (Int32.le_refl _)]; exact hA
    · rw [if_pos q]; exact hA
  | succ m ih =>
    intro j hj K D v N s hN KK hD R KS h21 h65 h68
    have V := (IV.start (v := v) KK.1.1 hI hD).it KK
    have e0 : s 23 0 = itC K (stC D img K v) N 0 := R.1.sml (p := 0) (by omega)
    have ef : tsF img x (m + 1) j K D v N = if itC K (stC D img K v) N 0 = 1 then (if j + 1 = x ∧ itC K (stC D img K v) (N + 1) 0 = 1 then tsF img x m (j + 1) (K0 K) (meD (ds (itC K (stC D img K v) (N + 1))) (tsM (ds (itC K (stC D img K v) (N + 1))))) (mendC (zerC (itC K (stC D img K v) (N + 1)) 0 364) (tsM (ds (itC K (stC D img K v) (N + 1)))) 364) 0 else tsF img x m (j + 1) K D v (N + 1)) else itC K (stC D img K v) N := rfl
    by_cases q : itC K (stC D img K v) N 0 = 1
    · obtain ⟨s1, a1, A⟩ := in_step R (V N (by omega)) KK KS (by omega) (d := d) (by omega) h
      have f0 := A.2.2.2.2.2.1
      have R1 := A.ra
      have K1 : KR K s1 := KS.of fun f f1 f2 => f0 f (by omega)
      have h21' : ∀ a, a < 256 → s1 21 a = img a := fun a ha => by rw [f0 21 (by omega)]; exact h21 a ha
      have e1 : s1 23 0 = itC K (stC D img K v) (N + 1) 0 := R1.1.sml (p := 0) (by omega)
      have hd1 : ∀ B, (dx_lt (Int32.ofNat j + 1) fun x5 => (dx_gA [(38, 68)] (.ref 417) (tw_H h s1)).bind fun r6 => (dx_lI 0 r6 (Int32.ofNat t) (tw_H h s1)).bind fun x7 => if ¬ x5 = x7 then B_X3_madeTest_68 (ax_c d) 417 (Int32.ofNat t) x5 (tw_H h s1) else (dx_gI [(38, 23)] (.ref 417) (tw_H h s1)).bind fun x8 => if ¬ x8 = 1 then B_X3_madeTest_68 (ax_c d) 417 (Int32.ofNat t) x5 (tw_H h s1) else (dx_vn [(38, 406)] (.ref 417) (tw_H h s1)).bind fun k => dx_cI ((ax_c d) k [.ref 417] (tw_H h s1)) (fun x10 h9 => (dx_pF [(38, 43)] (.int) (.ref 417) (.int 0) h9).bind fun h11 => (dx_gA [(38, 21)] (.ref 417) h11).bind fun r12 => (dx_vn [(38, 410)] (.ref 417) h11).bind fun k => dx_cV ((ax_c d) k [.ref 417, r12] h11) (fun h13 => B_X3_madeTest_68 (ax_c d) 417 (Int32.ofNat t) x5 h13) dx_x0) dx_x0) = some B → B_X3_madeTest_68 (ax_c d) 417 (Int32.ofNat t) (Int32.ofNat j) (tw_H h s) = some B := by
        intro B hB
        refine dx_app b_X3_madeTest_68 ?_
        rw [tg_23, Option.bind_some, e0, if_neg (fun z => z q), tr_65, Option.bind_some, tl_65, i5, Option.bind_some, Option.bind_some, h65, if_neg (i_ge_not (by omega) (by omega)), tw_vn, Option.bind_some, a1, cV_v]
        exact hB
      have eqx : Int32.ofNat (j + 1) = Int32.ofNat x ↔ j + 1 = x := i_eq (by omega) (by omega)
      by_cases q2 : j + 1 = x ∧ itC K (stC D img K v) (N + 1) 0 = 1
      · obtain ⟨s2, r, b1, b2, b3, b4, b5⟩ := t_again (V (N + 1) (by omega)) R1 hI h21' (d := d) (by omega) h
        obtain ⟨s', g1, g2, g3, g4⟩ := ih (j + 1) (by omega) (K0 K) _ _ 0 _ (by omega) (KT.none K) (V (N + 1) (by omega)).dg b3 b4 (fun a ha => by rw [b5 21 (by omega)]; exact h21' a ha) (by rw [b5 65 (by omega), f0 65 (by omega)]; exact h65) (by rw [b5 68 (by omega), f0 68 (by omega)]; exact h68)
        refine ⟨s', fun A hA => hd1 A ?_, by rw [ef, if_pos q, if_pos q2]; exact g2, g3, fun f hf => by rw [g4 f hf, b5 f (by omega), f0 f (by omega)]⟩
        rw [lt_at, show Int32.ofNat j + 1 = Int32.ofNat (j + 1) from i_add j 1, tr_68, Option.bind_some, tl_68, i5, Option.bind_some, Option.bind_some, show s1 68 t = Int32.ofNat x from by rw [f0 68 (by omega)]; exact h68, if_neg (fun z => z (eqx.mpr q2.1)), tg_23, Option.bind_some, e1, if_neg (fun z => z q2.2), tw_vn, Option.bind_some, b1, cI_v, tp_43, Option.bind_some, tr_21, Option.bind_some, tw_vn, Option.bind_some, b2, cV_v]
        exact g1 A hA
      · obtain ⟨s', g1, g2, g3, g4⟩ := ih (j + 1) (by omega) K D v (N + 1) s1 (by omega) KK hD R1 K1 h21' (by rw [f0 65 (by omega)]; exact h65) (by rw [f0 68 (by omega)]; exact h68)
        refine ⟨s', fun A hA => hd1 A ?_, by rw [ef, if_pos q, if_neg q2]; exact g2, g3, fun f hf => by rw [g4 f hf, f0 f (by omega)]⟩
        rw [lt_at, show Int32.ofNat j + 1 = Int32.ofNat (j + 1) from i_add j 1, tr_68, Option.bind_some, tl_68, i5, Option.bind_some, Option.bind_some, show s1 68 t = Int32.ofNat x from by rw [f0 68 (by omega)]; exact h68]
        by_cases q3 : j + 1 = x
        · rw [if_neg (fun z => z (eqx.mpr q3)), tg_23, Option.bind_some, e1, if_pos (fun z => q2 ⟨q3, z⟩)]
          exact g1 A hA
        · rw [if_pos (fun z => q3 (eqx.mp z))]
          exact g1 A hA
    · refine ⟨s, fun A hA => dx_app b_X3_madeTest_68 ?_, by rw [ef, if_neg q]; exact R, ⟨K, KS⟩, fun _ _ => rfl⟩
      rw [tg_23, Option.bind_some, e0, if_pos q]; exact hA
/-- what is on the tape is what the test asks -/
theorem t_isTapeOf {m : Nat} (ht : t < 5) (hm : s 37 0 = Int32.ofNat m) (m60 : m ≤ 60) (hw : s 64 t = Int32.ofNat wn) (w6 : wn ≤ 6) (hd : 1 ≤ d) (h : ax_H) : ax_c d 489 [.ref 417, .int (Int32.ofNat t)] (tw_H h s) = some (.inl (some (.int (@ite _ (m = wn ∧ ∀ i, i < m → s 36 i = s 63 (6 * t + i)) (Classical.propDecidable _) 1 0))), tw_H h s) := by
  obtain ⟨d, rfl, he⟩ := d_succ hd
  have i5 : ix 5 (Int32.ofNat t) = some t := ix_of rfl ht (by omega)
  have z0 : ∀ k : Int32, B_X3_isTapeOf_21 (ax_c d) 417 (Int32.ofNat t) 0 k (tw_H h s) = some (.inl (some (.int 0)), tw_H h s) := by
    intro k
    refine dx_app b_X3_isTapeOf_21 ?_
    rw [tg_37, Option.bind_some]
    by_cases q : s 37 0 ≤ k
    · rw [if_pos q]; rfl
    · rw [if_neg q]; rfl
  refine dx_app m_X3_isTapeOf ?_
  rw [tg_37, Option.bind_some, tr_64, Option.bind_some, tl_64, i5, Option.bind_some, Option.bind_some, hm, hw]
  by_cases q : m = wn
  · subst q
    rw [if_neg (fun z => z rfl)]
    have loop : ∀ r k, k + r = m → (∀ i, i < k → s 36 i = s 63 (6 * t + i)) → B_X3_isTapeOf_21 (ax_c d) 417 (Int32.ofNat t) 1 (Int32.ofNat k) (tw_H h s) = some (.inl (some (.int (@ite _ (m = m ∧ ∀ i, i < m → s 36 i = s 63 (6 * t + i)) (Classical.propDecidable _) 1 0))), tw_H h s) := by
      intro r
      induction r with
      | zero =>
        intro k hk hh
        obtain rfl : k = m := by omega
        refine dx_app b_X3_isTapeOf_21 ?_
        rw [tg_37, Option.bind_some, hm, if_pos (Int32.le_refl _), if_pos (Or.inr rfl), @if_pos _ (Classical.propDecidable _) (show k = k ∧ ∀ i, i < k → s 36 i = s 63 (6 * t + i) from ⟨rfl, hh⟩)]
      | succ r ih =>
        intro k hk hh
        refine dx_app b_X3_isTapeOf_21 ?_
        have i60 : ix 60 (Int32.ofNat k) = some k := ix_of rfl (by omega) (by omega)
        have i30 : ix 30 (6 * Int32.ofNat t + Int32.ofNat k) = some (6 * t + k) := ix_of (by rw [show (6 : Int32) * Int32.ofNat t = Int32.ofNat (6 * t) from i_mul 6 t, i_add]) (by omega) (by omega)
        rw [tg_37, Option.bind_some, hm, if_neg (i_ge_not (by omega) (by omega)), if_neg (by decide), tr_36, Option.bind_some, tl_36, i60, Option.bind_some, Option.bind_some, tr_63, Option.bind_some, tl_63, i30, Option.bind_some, Option.bind_some]
        by_cases q2 : s 36 k = s 63 (6 * t + k)
        · rw [if_neg (fun z => z q2), lt_at, show Int32.ofNat k + 1 = Int32.ofNat (k + 1) from i_add k 1]
          exact ih (k + 1) (by omega) fun i hi => by
            rcases Nat.lt_or_ge i k with z | z
            · exact hh i z
            · rw [show i = k by omega]; exact q2
        · rw [if_pos q2, lt_at, z0, @if_neg _ (Classical.propDecidable _) (show ¬ (m = m ∧ ∀ i, i < m → s 36 i = s 63 (6 * t + i)) from fun z => q2 (z.2 k (by omega)))]
    exact loop m 0 (by omega) fun i hi => absurd hi (Nat.not_lt_zero _)
  · rw [if_pos (fun z => q ((i_eq (by omega) (by omega)).mp z)), z0, @if_neg _ (Classical.propDecidable _) (show ¬ (m = wn ∧ ∀ i, i < m → s 36 i = s 63 (6 * t + i)) from fun z => q z.1)]
end TMT
