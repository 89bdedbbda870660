/-! the gym's tests: drafting, adding, results, the mark -/
/- with AL.mono AL.ne al_size al_get al_add OLD OLD.mono GO GO.g XP XP.x0 Ext x_in x_inX x_must x_mustX lA_at cs_at FrP tsG DRL x_draft_bad x_draft_full x_draft_yes x_taken CTW CT1 IR al_iterator ir_hasNext ir_next thr_46 -/
/-- what a test is worth -/
def wrF (q : tst) : Int32 := if q.2.2.2.2.2.2.1 = 0 then q.2.2.2.2.1 else if q.2.2.2.2.2.2.1 = -1 then 0 else if q.2.2.2.2.2.2.2 = 0 then 0 else -(q.2.2.2.2.1 + 1) / 2
def wrS (q : Nat → tst) : Nat → Int32
  | 0 => 0
  | t + 1 => wrS q t + wrF (q t)
section XTT
variable {T n m k ip : Nat} {q : Nat → tst} {P P' : Nat → Prop} {H H' : ax_H} {f g : Nat → Int32} {x : Int32} {d : Nat} {iv : Value}
theorem DRL.re {p : Nat} (D : DRL p 0 f P H) (hP : P' p) (hb : ∀ r, P' r → r < 400 + H.2.1) : DRL p 0 g P' H := by
  obtain ⟨mc, ns, it, L, n6, Pp, Pb, I⟩ := D
  exact ⟨mc, ns, it, L, n6, hP, hb, fun i hi => absurd hi (Nat.not_lt_zero _)⟩
theorem x_testKey_ok (G : GO H iv) {y : Int32} {Q : ax_H → Prop} (X : Ok (ax_c d 263 [.ref 415, .int x] H) (.inl (some (.int y))) Q) : Ok (ax_c (d + 1) 262 [.ref 400, .int x] H) (.inl (some (.int y))) Q := by
  refine Ok.le m_X1_testKey ?_
  have g : dx_gA [(19, 3)] (.ref 400) H = some (.ref 415) := gA_r G rfl rfl
  rw [g, Option.bind_some]
  exact Ok.I X fun h hh => Ok.ret hh
theorem x_testKey_X (G : GO H iv) {k : Nat} {Q : ax_H → Prop} (hk : hd_0 k = some none) (X : OkX (ax_c d 263 [.ref 415, .int x] H) (XP k Q)) : OkX (ax_c (d + 1) 262 [.ref 400, .int x] H) (XP k Q) := by
  refine OkX.le m_X1_testKey ?_
  have g : dx_gA [(19, 3)] (.ref 400) H = some (.ref 415) := gA_r G rfl rfl
  rw [g, Option.bind_some]
  exact OkX.xI X fun i h hh => hh.x0 hk
theorem x_testWord_ok (G : GO H iv) {y : Int32} {Q : ax_H → Prop} (X : Ok (ax_c d 263 [.ref 416, .int x] H) (.inl (some (.int y))) Q) : Ok (ax_c (d + 1) 264 [.ref 400, .int x] H) (.inl (some (.int y))) Q := by
  refine Ok.le m_X1_testWord ?_
  have g : dx_gA [(19, 4)] (.ref 400) H = some (.ref 416) := gA_r G rfl rfl
  rw [g, Option.bind_some]
  exact Ok.I X fun h hh => Ok.ret hh
theorem x_testWord_X (G : GO H iv) {k : Nat} {Q : ax_H → Prop} (hk : hd_0 k = some none) (X : OkX (ax_c d 263 [.ref 416, .int x] H) (XP k Q)) : OkX (ax_c (d + 1) 264 [.ref 400, .int x] H) (XP k Q) := by
  refine OkX.le m_X1_testWord ?_
  have g : dx_gA [(19, 4)] (.ref 400) H = some (.ref 416) := gA_r G rfl rfl
  rw [g, Option.bind_some]
  exact OkX.xI X fun i h hh => hh.x0 hk
theorem x_tests (C : CTW T q P H) (G : GO H iv) (hd : 2 ≤ d) : ax_c d 229 [.ref 400] H = some (.inl (some (.int (Int32.ofNat T))), H) := by
  obtain ⟨d, rfl, he⟩ := d_succ hd
  obtain ⟨mc, arr, cap, it, A, -⟩ := C
  refine dx_app m_X1_tests ?_
  have g2 : dx_gA [(19, 2)] (.ref 400) H = some (.ref 414) := gA_r G rfl rfl
  have v59 : dx_vn [(4, 59)] (.ref 414) H = some 59 := vn_at A.1
  rw [g2, Option.bind_some, v59, Option.bind_some, al_size he A, cI_v]
theorem x_result_bad (C : CTW T q P H) (G : GO H iv) (hx : inI x 0 (Int32.ofNat T - 1) = 0) (hd : 5 ≤ d) : OkX (ax_c d 268 [.ref 400, .int x] H) (XP 46 (Ext 1 6 H)) := by
  obtain ⟨d, rfl, he⟩ := d_succ hd
  obtain ⟨mc, arr, cap, it, A, T5, -⟩ := C
  refine OkX.le m_X1_result ?_
  have g2 : dx_gA [(19, 2)] (.ref 400) H = some (.ref 414) := gA_r G rfl rfl
  have v59 : dx_vn [(4, 59)] (.ref 414) H = some 59 := vn_at A.1
  by_cases q : x < 0
  · rw [if_pos q]; exact thr_46 (by omega)
  · rw [if_neg q, g2, Option.bind_some, v59, Option.bind_some, al_size (by omega) A, cI_v, if_neg]
    · exact thr_46 (by omega)
    · intro z
      unfold inI at hx
      have a := Int32.le_iff_toInt_le.mp (Int32.not_lt.mp q)
      have b := Int32.lt_iff_toInt_lt.mp z
      rw [i_toInt (by omega)] at b
      have a : 0 ≤ x.toInt := a
      have e : x = Int32.ofNat x.toInt.toNat := by
        apply Int32.toInt.inj
        rw [i_toInt (by omega)]; omega
      obtain ⟨k, hk⟩ : ∃ k, k = x.toInt.toNat := ⟨_, rfl⟩
      rw [← hk] at e
      have T0 : 1 ≤ T := by omega
      rw [if_neg q, e, show Int32.ofNat T - 1 = Int32.ofNat (T - 1) from i_sub (b := 1) T0, if_neg] at hx
      · exact absurd hx (by decide)
      · exact fun y => by have := (i_lt (by omega) (by omega)).mp y; omega
theorem x_result (C : CTW T q P H) (G : GO H iv) (hk : k < T) (hd : 5 ≤ d) : ax_c d 268 [.ref 400, .int (Int32.ofNat k)] H = some (.inl (some (.int (q k).2.2.2.2.2.2.1)), H) := by
  obtain ⟨d, rfl, he⟩ := d_succ hd
  obtain ⟨mc, arr, cap, it, A, T5, ct, -⟩ := C
  refine dx_app m_X1_result ?_
  have g2 : dx_gA [(19, 2)] (.ref 400) H = some (.ref 414) := gA_r G rfl rfl
  have v59 : dx_vn [(4, 59)] (.ref 414) H = some 59 := vn_at A.1
  have v61 : dx_vn [(4, 61)] (.ref 414) H = some 61 := vn_at A.1
  obtain ⟨⟨kp, wp, c1, -⟩, -⟩ := ct k hk
  rw [if_neg (i_neg (by omega)), g2, Option.bind_some, v59, Option.bind_some, al_size (by omega) A, cI_v, if_pos ((i_lt (by omega) (by omega)).mpr hk), g2, Option.bind_some, v61, Option.bind_some, al_get (by omega) A hk, cR_r, cs_at c1 (by decide), gI_at c1 rfl rfl, Option.bind_some]
theorem x_worth {p : Nat} {r : tst} (C : CT1 p r P H) (hd : 1 ≤ d) : ax_c d 366 [.ref p] H = some (.inl (some (.int (wrF r))), H) := by
  obtain ⟨d, rfl, -⟩ := d_succ hd
  obtain ⟨kp, wp, c1, -⟩ := C
  refine dx_app m_X27_worth ?_
  have g4 : dx_gI [(37, 4)] (.ref p) H = some r.2.2.2.2.1 := gI_at c1 rfl rfl
  have g6 : dx_gI [(37, 6)] (.ref p) H = some r.2.2.2.2.2.2.1 := gI_at c1 rfl rfl
  have g7 : dx_gI [(37, 7)] (.ref p) H = some r.2.2.2.2.2.2.2 := gI_at c1 rfl rfl
  rw [g6, Option.bind_some, Option.bind_some, g7, Option.bind_some, g4, Option.bind_some, Option.bind_some]
  unfold wrF
  by_cases e : r.2.2.2.2.2.2.1 = 0
  · rw [if_neg (fun z => z e), if_pos e]
  · rw [if_pos e, if_neg e]
    by_cases e2 : r.2.2.2.2.2.2.1 = -1
    · rw [if_pos e2, if_pos e2]
    · rw [if_neg e2, if_neg e2]
      by_cases e3 : r.2.2.2.2.2.2.2 = 0
      · rw [if_pos e3, if_pos e3]
      · rw [if_neg e3, if_neg e3]
theorem CT1.mono {p : Nat} {r : tst} (C : CT1 p r P H) (hb : ∀ r, P r → r < 400 + H.2.1) (e : ∀ r, r < 400 + H.2.1 → H'.1 r = H.1 r) : CT1 p r P H' := by
  obtain ⟨kp, wp, c1, c2, c3, c4, c5, c6⟩ := C
  exact ⟨kp, wp, (e _ (hb _ c4)).trans c1, (e _ (hb _ c5)).trans c2, (e _ (hb _ c6)).trans c3, c4, c5, c6⟩
theorem x_mark (C : CTW T q P H) (G : GO H iv) (hd : 5 ≤ d) : Ok (ax_c d 230 [.ref 400] H) (.inl (some (.int (dx_max 0 (wrS q T))))) (Ext 1 4 H) := by
  obtain ⟨d, rfl, he⟩ := d_succ hd
  obtain ⟨mc, arr, cap, it, A, T5, ct, inj, PB, P414, Parr⟩ := C
  refine Ok.le m_X1_mark ?_
  have g2 : dx_gA [(19, 2)] (.ref 400) H = some (.ref 414) := gA_r G rfl rfl
  have v67 : dx_vn [(4, 67)] (.ref 414) H = some 67 := vn_at A.1
  have p414 := PB 414 P414
  rw [g2, Option.bind_some, v67, Option.bind_some]
  obtain ⟨b, eb⟩ : ∃ b, b = 400 + H.2.1 := ⟨_, rfl⟩
  have X := al_iterator A (d := d) (by omega)
  rw [← eb] at X
  refine Ok.R X ?_
  rintro H1 ⟨I1, ⟨x1, x2, x3, x4, x5⟩, x6⟩
  have arlt : arr < b := by have := A.2.2.2.2.2.2.2.2; omega
  have loop : ∀ m t, t + m = T → ∀ h : ax_H, IR h b 414 mc t → (∀ r, r < b → h.1 r = H.1 r) → h.2 = H1.2 → Ok (B_X1_mark_12 (ax_c d) (wrS q t) (.ref b) h) (.inl (some (.int (dx_max 0 (wrS q T))))) (Ext 1 4 H) := by
    intro m
    induction m with
    | zero =>
      intro t ht h I fr hs
      obtain rfl : t = T := by omega
      refine Ok.le (b_X1_mark_12 rfl) ?_
      have I0 := I
      obtain ⟨l, I'⟩ := I
      have v110 : dx_vn [(10, 92), (13, 110)] (.ref b) h = some 110 := vn_at I'
      have s1 : h.2.1 = H1.2.1 := by rw [hs]
      have s2 : h.2.2 = H1.2.2 := by rw [hs]
      have A' : AL h 414 mc arr cap t it := A.mono (fr 414 (by omega)) (fr arr arlt) (by omega)
      rw [v110, Option.bind_some, ir_hasNext I0 A' (Nat.le_refl _) (by omega), cI_v, if_pos rfl, if_pos rfl]
      exact Ok.ret ⟨fun r hr => fr r (by omega), by omega, by omega, by omega, by omega⟩
    | succ m ih =>
      intro t ht h I fr hs
      refine Ok.le (b_X1_mark_12 rfl) ?_
      have I0 := I
      obtain ⟨l, I'⟩ := I
      have v110 : dx_vn [(10, 92), (13, 110)] (.ref b) h = some 110 := vn_at I'
      have v111 : dx_vn [(10, 94), (13, 111)] (.ref b) h = some 111 := vn_at I'
      have s1 : h.2.1 = H1.2.1 := by rw [hs]
      have A' : AL h 414 mc arr cap T it := A.mono (fr 414 (by omega)) (fr arr arlt) (by omega)
      rw [v110, Option.bind_some, ir_hasNext I0 A' (by omega) (by omega), cI_v, if_neg (show ¬ t = T by omega), if_neg (by decide), v111, Option.bind_some]
      refine Ok.R (ir_next I0 A' (by omega) (by omega) (by omega) (by omega) (by omega)) ?_
      rintro h2 ⟨I2, k2, e2⟩
      have fr2 : ∀ r, r < b → h2.1 r = H.1 r := fun r hr => (k2 r (by omega)).trans (fr r hr)
      have c := (ct t (by omega)).1
      have c' : CT1 (it t) (q t) P h2 := c.mono (fun r hr => (PB r hr).2) (fun r hr => fr2 r (by omega))
      obtain ⟨kp, wp, c1, -⟩ := id c'
      have v366 : dx_vn [(37, 366)] (.ref (it t)) h2 = some 366 := vn_at c1
      rw [cs_at c1 (by decide), v366, Option.bind_some, x_worth c' (by omega), cI_v, lt_at]
      exact ih (t + 1) (by omega) h2 I2 fr2 (by rw [e2]; exact hs)
  exact loop T 0 (by omega) H1 I1 (fun r hr => x1 r (by omega)) rfl
end XTT
