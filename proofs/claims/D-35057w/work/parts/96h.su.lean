/-! the twin's sum -/
/- with IV.sc IV.b20 IV.start IV.it saC_at RB.sks KR.of RA TO TO.g TO.on TO.st TO.t0 ON ON.iv SF SF.t0 t_isMachine IV GD.wc GD.f01 RB.sml RB.mem RB.dsk RB.reg CK.ci wl_val inI_val t_makesAnew -/
section SMS
variable {N n : Nat} {w v : Int32} {s s' : Nat → Nat → Int32} {c ds0 img : Nat → Int32} {K : kk_K}
def lgJ (a b : Int32) : Int32 := Int64.toInt32 (dx_lrem ((31 * a.toInt64) + b.toInt64) 1000003)
theorem l_to32 {n : Nat} (h : n < 2 ^ 31) : Int64.toInt32 (lNn n) = Int32.ofNat n := by
  rw [← toL h, Int32.toInt32_toInt64]
theorem l_val {x y : Int64} {n : Nat} (hx : x.toInt = n) (hy : y.toInt = n) : x = y := Int64.toInt_inj.mp (hx.trans hy.symm)
theorem lgJ_eq {r x : Nat} (hr : r < 1000003) (hx : x ≤ 100000) : lgJ (Int32.ofNat r) (Int32.ofNat x) = Int32.ofNat ((31 * r + x) % 1000003) ∧ joI (Int32.ofNat r) (Int32.ofNat x) = Int32.ofNat ((31 * r + x) % 1000003) := by
  constructor
  · unfold lgJ
    rw [toL (by omega), toL (by omega)]
    have e1 : (31 : Int64) * lNn r + lNn x = lNn (31 * r + x) := by
      refine l_val (n := 31 * r + x) ?_ (lNn_toInt (by omega))
      rw [Int64.toInt_add, Int64.toInt_mul, lNn_toInt (by omega), lNn_toInt (by omega), show ((31 : Int64)).toInt = 31 from rfl, l_bm (z := 31 * (r : Int)) (by omega) (by omega), l_bm (by omega) (by omega)]
      omega
    rw [e1]
    have e2 : dx_lrem (lNn (31 * r + x)) 1000003 = lNn ((31 * r + x) % 1000003) := by
      generalize hm : 31 * r + x = m
      refine l_val (n := m % 1000003) ?_ (lNn_toInt (by omega))
      show (lNn m - lNn m / 1000003 * 1000003).toInt = _
      have ed : (lNn m / 1000003).toInt = ((m / 1000003 : Nat) : Int) := by
        rw [Int64.toInt_div, lNn_toInt (by omega), show ((1000003 : Int64)).toInt = 1000003 from rfl]
        have : (m : Int).tdiv 1000003 = ((m / 1000003 : Nat) : Int) := by
          rw [Int.tdiv_eq_ediv_of_nonneg (by omega)]
          omega
        rw [this, l_bm (by omega) (by omega)]
      rw [Int64.toInt_sub, Int64.toInt_mul, ed, lNn_toInt (by omega), show ((1000003 : Int64)).toInt = 1000003 from rfl, l_bm (z := ((m / 1000003 : Nat) : Int) * 1000003) (by omega) (by omega), l_bm (by omega) (by omega)]
      omega
    rw [e2, l_to32 (by omega)]
  · unfold joI
    rw [show (31 : Int32) * Int32.ofNat r = Int32.ofNat (31 * r) from i_mul 31 r, i_add]
    exact rem_nat (b := 1000003) (by omega) (by omega)
/-- a sum so far -/
def sm (x : Int32) : Prop := ∃ r, r < 1000003 ∧ x = Int32.ofNat r
theorem lgJ_jo {a b : Int32} (ha : sm a) (hb : rg 100000 b) : lgJ a b = joI a b ∧ sm (joI a b) := by
  obtain ⟨r, r1, rfl⟩ := ha
  obtain ⟨n1, n2⟩ := rg.nat hb
  rw [n2]
  obtain ⟨e1, e2⟩ := lgJ_eq r1 n1
  exact ⟨e1.trans e2.symm, _, Nat.mod_lt _ (by omega), e2⟩
theorem t_added {d : Nat} (hd : 1 ≤ d) (h : ax_H) (a b : Int32) : ax_c d 471 [.int a, .int b] h = some (.inl (some (.int (lgJ a b))), h) := by
  obtain ⟨d, rfl, -⟩ := d_succ hd
  exact dx_app m_X3_added rfl
theorem ad_sm {a : Int32} {o : Nat} (ha : sm a) : ∀ m, (∀ j, j < m → rg 100000 (c (o + j))) → sm (adC c a o m) := by
  intro m
  induction m with
  | zero => intro _; exact ha
  | succ m ih => intro hm; exact (lgJ_jo (ih fun j hj => hm j (by omega)) (hm m (by omega))).2
/-- cells that a sum takes are small -/
def SC (c : Nat → Int32) : Prop := WC c ∧ F01 c ∧ CI c ∧ rg 3 (c 0) ∧ rg 4 (c 1) ∧ rg 1000 (c 2) ∧ rg 65535 (c 10) ∧ rg 1000 (c 11) ∧ ∀ i, i < nn (c 17) → rg 65535 (c (48 + i))
theorem fl_val (F : F01 c) : (if c 5 = 0 then (0 : Int32) else 1) + (if c 6 = 0 then 0 else 2) + (if c 7 = 0 then 0 else 4) + (if c 8 = 0 then 0 else 8) + (if c 9 = 0 then 0 else 16) = flC c ∧ rg 100000 (flC c) := by
  unfold flC
  have key : ∀ a b c d e : Int32, (a = 0 ∨ a = 1) → (b = 0 ∨ b = 1) → (c = 0 ∨ c = 1) → (d = 0 ∨ d = 1) → (e = 0 ∨ e = 1) → (if a = 0 then (0 : Int32) else 1) + (if b = 0 then 0 else 2) + (if c = 0 then 0 else 4) + (if d = 0 then 0 else 8) + (if e = 0 then 0 else 16) = a + 2 * b + 4 * c + 8 * d + 16 * e ∧ (0 ≤ (a + 2 * b + 4 * c + 8 * d + 16 * e).toInt ∧ (a + 2 * b + 4 * c + 8 * d + 16 * e).toInt ≤ 100000) := by
    rintro a b c d e (rfl | rfl) (rfl | rfl) (rfl | rfl) (rfl | rfl) (rfl | rfl) <;> decide
  exact key _ _ _ _ _ (F 5 (by omega) (by omega)) (F 6 (by omega) (by omega)) (F 7 (by omega) (by omega)) (F 8 (by omega) (by omega)) (F 9 (by omega) (by omega))
theorem t_flagsOf (R : RA w c s) (F : F01 c) {d : Nat} (hd : 1 ≤ d) (h : ax_H) : ax_c d 461 [.ref 417] (tw_H h s) = some (.inl (some (.int (flC c))), tw_H h s) := by
  obtain ⟨d, rfl, he⟩ := d_succ hd
  have e5 : s 29 0 = c 5 := R.1.sml (p := 5) (by omega)
  have e6 : s 30 0 = c 6 := R.1.sml (p := 6) (by omega)
  have e7 : s 31 0 = c 7 := R.1.sml (p := 7) (by omega)
  have e8 : s 32 0 = c 8 := R.1.sml (p := 8) (by omega)
  have e9 : s 33 0 = c 9 := R.1.sml (p := 9) (by omega)
  have h51 : ∀ a b, B_X3_flagsOf_51 (ax_c d) a b 417 (tw_H h s) = some (.inl (some (.int (a + b + (if c 9 = 0 then 0 else 16)))), tw_H h s) := fun a b => by
    refine dx_app b_X3_flagsOf_51 ?_
    rw [tg_33, Option.bind_some, e9]
    split <;> rfl
  have h37 : ∀ a b, B_X3_flagsOf_37 (ax_c d) a b 417 (tw_H h s) = some (.inl (some (.int (a + b + (if c 8 = 0 then 0 else 8) + (if c 9 = 0 then 0 else 16)))), tw_H h s) := fun a b => by
    refine dx_app b_X3_flagsOf_37 ?_
    rw [tg_32, Option.bind_some, e8]
    by_cases q : c 8 = 0
    · rw [if_pos q, if_pos q, h51]
    · rw [if_neg q, if_neg q, h51]
  have h24 : ∀ a b, B_X3_flagsOf_24 (ax_c d) a b 417 (tw_H h s) = some (.inl (some (.int (a + b + (if c 7 = 0 then 0 else 4) + (if c 8 = 0 then 0 else 8) + (if c 9 = 0 then 0 else 16)))), tw_H h s) := fun a b => by
    refine dx_app b_X3_flagsOf_24 ?_
    rw [tg_31, Option.bind_some, e7]
    by_cases q : c 7 = 0
    · rw [if_pos q, if_pos q, h37]
    · rw [if_neg q, if_neg q, h37]
  refine dx_app m_X3_flagsOf ?_
  rw [← (fl_val F).1, tg_29, Option.bind_some, e5]
  by_cases q : c 5 = 0
  · rw [if_pos q, if_pos q, tg_30, Option.bind_some, e6]
    by_cases q2 : c 6 = 0
    · rw [if_pos q2, if_pos q2, h24]
    · rw [if_neg q2, if_neg q2, h24]
  · rw [if_neg q, if_neg q, tg_30, Option.bind_some, e6]
    by_cases q2 : c 6 = 0
    · rw [if_pos q2, if_pos q2, h24]
    · rw [if_neg q2, if_neg q2, h24]
theorem rg_up {k : Nat} {x : Int32} (h : rg k x) (hk : k ≤ 100000) : rg 100000 x := h.mono hk
theorem t_sumOf (R : RA w c s) (S : SC c) {d : Nat} (hd : 2 ≤ d) (h : ax_H) : ax_c d 470 [.ref 417] (tw_H h s) = some (.inl (some (.int (smC c))), tw_H h s) := by
  obtain ⟨d, rfl, he⟩ := d_succ hd
  obtain ⟨W, F, CC, c0, c1, c2, c10, c11, ct⟩ := S
  obtain ⟨W3, W4, Wr, W16, W17, Wm, Wd⟩ := W
  have e0 : s 23 0 = c 0 := R.1.sml (p := 0) (by omega)
  have e1 : s 24 0 = c 1 := R.1.sml (p := 1) (by omega)
  have e2 : s 38 0 = c 2 := R.1.sml (p := 2) (by omega)
  have e3 : s 27 0 = c 3 := R.1.sml (p := 3) (by omega)
  have e4 : s 28 0 = c 4 := R.1.sml (p := 4) (by omega)
  have e10 : s 34 0 = c 10 := R.1.sml (p := 10) (by omega)
  have e11 : s 35 0 = c 11 := R.1.sml (p := 11) (by omega)
  have e17 : s 37 0 = c 17 := R.1.sml (p := 17) (by omega)
  have e46 : s 46 0 = wlC c := R.2.2.1.1
  have rw' : rg 100000 (wlC c) := by
    rcases CC with z | ⟨m, k, g1, g2, m1, m3, k1, -⟩
    · rw [show wlC c = 0 from if_pos z]; exact rg0 (by omega)
    · rw [wl_val g1 g2 m1 m3 (by omega)]; exact rg.of (by omega) (by omega)
  obtain ⟨n17, m17⟩ := rg.nat W17
  have s7 : sm 7 := ⟨7, by omega, rfl⟩
  have st5 : ∀ j, j < 5 → rg 100000 (c (0 + j)) := fun j hj => by
    obtain rfl | rfl | rfl | rfl | rfl : j = 0 ∨ j = 1 ∨ j = 2 ∨ j = 3 ∨ j = 4 := by omega
    · exact rg_up c0 (by omega)
    · exact rg_up c1 (by omega)
    · exact rg_up c2 (by omega)
    · exact rg_up W3 (by omega)
    · exact rg_up W4 (by omega)
  have S0 := fun m (hm : m ≤ 5) => ad_sm (c := c) (o := 0) s7 m fun j hj => st5 j (by omega)
  obtain ⟨A, hA⟩ : ∃ A, A = joI (adC c 7 0 5) (flC c) := ⟨_, rfl⟩
  have S1 := (lgJ_jo (S0 5 (by omega)) (fl_val F).2)
  rw [← hA] at S1
  have r2 : ∀ j, j < 2 → rg 100000 (c (10 + j)) := fun j hj => by
    obtain rfl | rfl : j = 0 ∨ j = 1 := by omega
    · exact rg_up c10 (by omega)
    · exact rg_up c11 (by omega)
  have S2 := fun m (hm : m ≤ 2) => ad_sm (c := c) (o := 10) S1.2 m fun j hj => r2 j (by omega)
  have S3 := fun m (hm : m ≤ 4) => ad_sm (c := c) (o := 12) (S2 2 (by omega)) m fun j hj => rg_up (Wr j (by omega)) (by omega)
  obtain ⟨B, hB⟩ : ∃ B, B = adC c (adC c A 10 2) 12 4 := ⟨_, rfl⟩
  have S4 := lgJ_jo (S3 4 (by omega)) rw'
  rw [← hB] at S4
  obtain ⟨C, hC⟩ : ∃ C, C = joI B (wlC c) := ⟨_, rfl⟩
  rw [← hC] at S4
  have S5 := fun m (hm : m ≤ 256) => ad_sm (c := c) (o := 108) S4.2 m fun j hj => rg_up (Wm j (by omega)) (by omega)
  obtain ⟨E, hE⟩ : ∃ E, E = adC c C 108 256 := ⟨_, rfl⟩
  have S5E := S5 256 (by omega)
  rw [← hE] at S5E
  have S6 := fun m (hm : m ≤ 256) => ad_sm (c := c) (o := 365) S5E m fun j hj => rg_up (Wd j (by omega)) (by omega)
  obtain ⟨G, hG⟩ : ∃ G, G = adC c E 365 256 := ⟨_, rfl⟩
  have S6G := S6 256 (by omega)
  rw [← hG] at S6G
  have S7 := lgJ_jo S6G (rg_up W17 (by omega))
  obtain ⟨D, hD⟩ : ∃ D, D = joI G (c 17) := ⟨_, rfl⟩
  rw [← hD] at S7
  have S8 := fun m (hm : m ≤ nn (c 17)) => ad_sm (c := c) (o := 48) S7.2 m fun j hj => rg_up (ct j (by omega)) (by omega)
  have hs : smC c = adC c D 48 (nn (c 17)) := by
    unfold smC
    rw [hD, hG, hE, hC, hB, hA]
  have l4 : ∀ m j, j + m = nn (c 17) → B_X3_sumOf_157 (ax_c d) 417 (adC c D 48 j) (Int32.ofNat j) (tw_H h s) = some (.inl (some (.int (smC c))), tw_H h s) := by
    intro m
    induction m with
    | zero =>
      intro j hj
      obtain rfl : j = nn (c 17) := by omega
      refine dx_app b_X3_sumOf_157 ?_
      rw [tg_37, Option.bind_some, e17, if_pos (by rw [m17, nn_of (by omega)]; exact Int32.le_refl _), hs]
    | succ m ih =>
      intro j hj
      refine dx_app b_X3_sumOf_157 ?_
      have i60 : ix 60 (Int32.ofNat j) = some j := ix_of rfl (by omega) (by omega)
      rw [tg_37, Option.bind_some, e17, if_neg (by rw [m17]; exact i_ge_not (by omega) (by omega)), tr_36, Option.bind_some, tl_36, i60, Option.bind_some, Option.bind_some, R.2.1.2 j (by omega), t_added he, cI_v, (lgJ_jo (S8 j (by omega)) (rg_up (ct j (by omega)) (by omega))).1, lt_at, show Int32.ofNat j + 1 = Int32.ofNat (j + 1) from i_add j 1]
      exact ih (j + 1) (by omega)
  have l3 : ∀ m j, j + m = 256 → B_X3_sumOf_122 (ax_c d) 417 (adC c E 365 j) (Int32.ofNat j) (tw_H h s) = some (.inl (some (.int (smC c))), tw_H h s) := by
    intro m
    induction m with
    | zero =>
      intro j hj
      obtain rfl : j = 256 := by omega
      refine dx_app b_X3_sumOf_122 ?_
      rw [if_pos (by decide), tg_37, Option.bind_some, e17, ← hG, t_added he, cI_v, S7.1]
      exact l4 (nn (c 17)) 0 (by omega)
    | succ m ih =>
      intro j hj
      refine dx_app b_X3_sumOf_122 ?_
      have i256 : ix 256 (Int32.ofNat j) = some j := ix_of rfl (by omega) (by omega)
      rw [if_neg (nge256 (show j < 256 by omega)), tr_50, Option.bind_some, tl_50, i256, Option.bind_some, Option.bind_some, R.1.dsk (by omega), t_added he, cI_v, show lgJ (adC c E 365 j) (c (365 + j)) = joI (adC c E 365 j) (c (365 + j)) from (lgJ_jo (S6 j (by omega)) (rg_up (Wd j (by omega)) (by omega))).1, lt_at, show Int32.ofNat j + 1 = Int32.ofNat (j + 1) from i_add j 1]
      exact ih (j + 1) (by omega)
  have l2 : ∀ m j, j + m = 256 → B_X3_sumOf_96 (ax_c d) 417 (adC c C 108 j) (Int32.ofNat j) (tw_H h s) = some (.inl (some (.int (smC c))), tw_H h s) := by
    intro m
    induction m with
    | zero =>
      intro j hj
      obtain rfl : j = 256 := by omega
      refine dx_app b_X3_sumOf_96 ?_
      rw [if_pos (by decide), ← hE]
      exact l3 256 0 rfl
    | succ m ih =>
      intro j hj
      refine dx_app b_X3_sumOf_96 ?_
      have i256 : ix 256 (Int32.ofNat j) = some j := ix_of rfl (by omega) (by omega)
      rw [if_neg (nge256 (show j < 256 by omega)), tr_25, Option.bind_some, tl_25, i256, Option.bind_some, Option.bind_some, R.1.mem (by omega), t_added he, cI_v, (lgJ_jo (S5 j (by omega)) (rg_up (Wm j (by omega)) (by omega))).1, lt_at, show Int32.ofNat j + 1 = Int32.ofNat (j + 1) from i_add j 1]
      exact ih (j + 1) (by omega)
  have l1 : ∀ m j, j + m = 4 → B_X3_sumOf_63 (ax_c d) 417 (adC c (adC c A 10 2) 12 j) (Int32.ofNat j) (tw_H h s) = some (.inl (some (.int (smC c))), tw_H h s) := by
    intro m
    induction m with
    | zero =>
      intro j hj
      obtain rfl : j = 4 := by omega
      refine dx_app b_X3_sumOf_63 ?_
      rw [if_pos (by decide), tg_46, Option.bind_some, e46, ← hB, t_added he, cI_v, S4.1]
      exact l2 256 0 rfl
    | succ m ih =>
      intro j hj
      refine dx_app b_X3_sumOf_63 ?_
      have i4 : ix 4 (Int32.ofNat j) = some j := ix_of rfl (by omega) (by omega)
      rw [if_neg (nge4 (show j < 4 by omega)), tr_26, Option.bind_some, tl_26, i4, Option.bind_some, Option.bind_some, R.1.reg (by omega), t_added he, cI_v, (lgJ_jo (S3 j (by omega)) (rg_up (Wr j (by omega)) (by omega))).1, lt_at, show Int32.ofNat j + 1 = Int32.ofNat (j + 1) from i_add j 1]
      exact ih (j + 1) (by omega)
  refine dx_app m_X3_sumOf ?_
  have a0 := (lgJ_jo (S0 0 (by omega)) (st5 0 (by omega))).1
  have a1 := (lgJ_jo (S0 1 (by omega)) (st5 1 (by omega))).1
  have a2 := (lgJ_jo (S0 2 (by omega)) (st5 2 (by omega))).1
  have a3 := (lgJ_jo (S0 3 (by omega)) (st5 3 (by omega))).1
  have a4 := (lgJ_jo (S0 4 (by omega)) (st5 4 (by omega))).1
  have b0 := (lgJ_jo (S2 0 (by omega)) (r2 0 (by omega))).1
  have b1 := (lgJ_jo (S2 1 (by omega)) (r2 1 (by omega))).1
  rw [tg_23, Option.bind_some, e0, t_added he, cI_v, tg_24, Option.bind_some, e1, show lgJ 7 (c 0) = adC c 7 0 1 from a0, t_added he, cI_v, tg_38, Option.bind_some, e2, show lgJ (adC c 7 0 1) (c 1) = adC c 7 0 2 from a1, t_added he, cI_v, tg_27, Option.bind_some, e3, show lgJ (adC c 7 0 2) (c 2) = adC c 7 0 3 from a2, t_added he, cI_v, tg_28, Option.bind_some, e4, show lgJ (adC c 7 0 3) (c 3) = adC c 7 0 4 from a3, t_added he, cI_v, show lgJ (adC c 7 0 4) (c 4) = adC c 7 0 5 from a4, tw_vn, Option.bind_some, t_flagsOf R F he, cI_v, t_added he, cI_v, S1.1, tg_34, Option.bind_some, e10, t_added he, cI_v, tg_35, Option.bind_some, e11, show lgJ A (c 10) = adC c A 10 1 from b0, t_added he, cI_v, show lgJ (adC c A 10 1) (c 11) = adC c A 10 2 from b1]
  exact l1 4 0 rfl
theorem IV.sc (V : IV N K c) (KK : KT K) (hN : N ≤ 1000) : SC c := ⟨V.1.wc (V.b20 KK), V.1.f01, V.2.1.ci V.1, V.1 0 _ rfl, V.1 1 _ rfl, by rw [V.2.2.1]; exact rg.of hN (by omega), V.1 10 _ rfl, (V.1 11 N rfl).mono hN, fun i hi => V.1 (48 + i) _ (bn_tp (by
  have := (rg.nat (V.1 17 60 rfl)).1
  omega))⟩
theorem saC_st : stC ds0 img K 0 = saC ds0 img K := by
  have : saC ds0 img K 364 = 0 := by rw [saC_at]; rfl
  have e := upd_same (saC ds0 img K) 364
  rw [this] at e
  exact e
theorem t_sum (R : RA w c s) (S : SC c) {d : Nat} (hd : 3 ≤ d) (h : ax_H) : ax_c d 469 [.ref 417] (tw_H h s) = some (.inl (some (.int (smC c))), tw_H h (tw_up s 0 0 0)) := by
  obtain ⟨d, rfl, he⟩ := d_succ hd
  refine dx_app m_X3_sum ?_
  have R' : RA w c (tw_up s 0 0 0) := ⟨R.1.sks (by omega), R.2.1, R.2.2.1, R.2.2.2⟩
  rw [tp_0, Option.bind_some, tw_vn, Option.bind_some, t_sumOf R' S he h, cI_v]
theorem t_sumAnew29 {x e : Int32} (he : e ≠ 0) {d : Nat} (hd : 1 ≤ d) (h : ax_H) : B_X3_sumAnew_29 (ax_c d) 417 e 417 x (tw_H h s) = some (.inl (some (.int 0)), tw_H h (tw_up s 0 0 e)) := by
  refine dx_app b_X3_sumAnew_29 ?_
  rw [tw_vn, Option.bind_some, t_holds hd, cI_v, if_neg he, if_neg (fun z => z rfl)]
theorem t_sumAnew_off {x : Int32} (h0 : s 23 0 = 0) {d : Nat} (hd : 2 ≤ d) (h : ax_H) : ax_c d 472 [.ref 417, .int x] (tw_H h s) = some (.inl (some (.int 0)), tw_H h (tw_up s 0 0 1)) := by
  obtain ⟨d, rfl, he⟩ := d_succ hd
  refine dx_app m_X3_sumAnew ?_
  rw [tw_vn, Option.bind_some, t_isMachine he, cI_v, if_pos h0, if_neg (fun z => z rfl)]
  exact t_sumAnew29 (by decide) he h
theorem t_sumAnew_bad {x : Int32} (h0 : s 23 0 ≠ 0) (hx : inI x 0 (s 38 0) = 0) {d : Nat} (hd : 2 ≤ d) (h : ax_H) : ax_c d 472 [.ref 417, .int x] (tw_H h s) = some (.inl (some (.int 0)), tw_H h (tw_up s 0 0 2)) := by
  obtain ⟨d, rfl, he⟩ := d_succ hd
  refine dx_app m_X3_sumAnew ?_
  rw [tw_vn, Option.bind_some, t_isMachine he, cI_v, if_neg h0, if_pos (by decide), tg_38, Option.bind_some, t_in he, cI_v, if_pos hx]
  exact t_sumAnew29 (by decide) he h
theorem t_sumAnew_yes (O : ON N n K ds0 img) (T : TO N n K ds0 img v s) {k : Nat} (hk : k ≤ N) {d : Nat} (hd : 11 ≤ d) (h : ax_H) : ∃ s', ax_c d 472 [.ref 417, .int (Int32.ofNat k)] (tw_H h s) = some (.inl (some (.int (smC (itC K (saC ds0 img K) k)))), tw_H h s') ∧ TO N n K ds0 img v s' ∧ SF s s' ∧ s' 0 0 = 0 := by
  obtain ⟨d, rfl, he⟩ := d_succ hd
  have n0 := TO.on O T
  have st := TO.st O T
  obtain ⟨o1, o2, o3, o4, o5, o6⟩ := O
  obtain ⟨t1, t2, t3, t4, t5, t6, t7⟩ := T
  obtain ⟨s1, m1, m2, m3, m4⟩ := t_makesAnew (w := v) (v := 0) (s := tw_up s 0 0 0) o4 o5 o6 (t2.of fun f f1 f2 => by rw [tw_up_at, if_neg (by omega)]) (fun a ha => t4 a ha) (fun a ha => t5 a ha) (by rw [Int32.zero_add]; exact t6) (N := k) (by omega) (d := d) (by omega) h
  obtain ⟨s2, q1, q2, q3, q4⟩ := t_makesAnew (w := 0) (v := v) (s := s1) o4 o5 o6 (t2.of fun f f1 f2 => by rw [m3 f (by omega), tw_up_at, if_neg (by omega)]) (fun a ha => by rw [m3 53 (by omega)]; exact t4 a ha) (fun a ha => by rw [m3 54 (by omega)]; exact t5 a ha) (by rw [m3 55 (by omega), Int32.add_zero]; exact t6) (N := N) o2 (d := d) (by omega) h
  have Vk := (IV.start (K := K) (v := 0) t2.2.1 o5 o6).it o4 k (by omega)
  have sm1 := t_sumOf m2 (Vk.sc o4 (by omega)) (d := d) (by omega) h
  refine ⟨s2, dx_app m_X3_sumAnew ?_, ⟨q2, t2.of fun f f1 f2 => ?_, ?_, fun a ha => ?_, fun a ha => ?_, ?_, q4⟩, fun f hf => ?_, ?_⟩
  · rw [tw_vn, Option.bind_some, t_isMachine (by omega), cI_v, if_neg n0, if_pos (by decide), tg_38, Option.bind_some, st, t_in (by omega), cI_v, if_neg (show ¬ inI (Int32.ofNat k) 0 (Int32.ofNat N) = 0 from (inI_val (lo := 0) (by omega) (by omega)).mpr ⟨k, Nat.zero_le _, hk, rfl⟩)]
    refine dx_app b_X3_sumAnew_29 ?_
    rw [tw_vn, Option.bind_some, t_holds (by omega), cI_v, if_pos rfl, if_pos (by decide), tg_38, Option.bind_some, show tw_up s 0 0 0 38 0 = s 38 0 from rfl, st, tw_vn, Option.bind_some, m1, cV_v, tw_vn, Option.bind_some, sm1, cI_v, tw_vn, Option.bind_some, q1, cV_v, saC_st]
  · rw [q3 f (by omega), m3 f (by omega), tw_up_at, if_neg (by omega)]
  · rw [q3 40 (by omega), m3 40 (by omega)]; exact t3
  · rw [q3 53 (by omega), m3 53 (by omega)]; exact t4 a ha
  · rw [q3 54 (by omega), m3 54 (by omega)]; exact t5 a ha
  · rw [q3 55 (by omega), m3 55 (by omega)]; exact t6
  · rw [q3 f (by omega), m3 f (by omega), tw_up_at, if_neg (by omega)]
  · rw [q3 0 (by omega), m3 0 (by omega)]; rfl
end SMS
