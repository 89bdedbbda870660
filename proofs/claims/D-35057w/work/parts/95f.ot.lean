/-! class and twin alike: the other operations -/
/- with AR.up AR.mem AR.tap AR.eqc AR.eqs AR.eqM AR.g AR.reg RB.sml RB.mem RB.reg othS othA fF_reg fF_mem -/
/-- the keys stand in the rows -/
def KR (K : kk_K) (s : Nat → Nat → Int32) : Prop := s 43 0 = Int32.ofNat K.1 ∧ K.1 ≤ 20 ∧ ∀ k, k < K.1 → s 41 k = K.2.1 k ∧ s 42 k = K.2.2 k ∧ ∃ t, t ≤ 1000 ∧ K.2.1 k = Int32.ofNat t
theorem cnt_told {K : kk_K} {s : Nat → Nat → Int32} (R : KR K s) {t : Int32} (ht : s 38 0 = t) : ∀ m, m ≤ K.1 → cntT s m = toldN K.2.1 0 t m := by
  intro m
  induction m with
  | zero => intro _; rfl
  | succ m ih =>
    intro hm
    obtain ⟨a1, a2, u, a3, a4⟩ := R.2.2 m (by omega)
    show cntT s m + (if s 38 0 < s 41 m then 0 else 1) = toldN K.2.1 0 t m + (if 0 ≤ K.2.1 m ∧ K.2.1 m ≤ t then 1 else 0)
    rw [ih (by omega), ht, a1]
    have n0 : (0 : Int32) ≤ K.2.1 m := by rw [a4]; exact (i_le (a := 0) (by omega) (by omega)).mpr (Nat.zero_le _)
    by_cases q : t < K.2.1 m
    · rw [if_pos q, if_neg (fun z => absurd z.2 (Int32.not_le.mpr q))]
    · rw [if_neg q, if_pos ⟨n0, Int32.not_lt.mp q⟩]
section OTS
variable {n : Nat} {w : Int32} {s0 s : Nat → Nat → Int32} {M : Nat → Prop} {c : Nat → Int32} {K : kk_K}
theorem othA_on (F : F01 c) (A : AR n w s0 M c s) {op : Int32} (h1 : op ≠ 19) (h2 : op ≠ 20) : othA s op = tw_up s 27 0 (s 27 0 + (if op = 22 ∧ s 32 0 = 0 ∧ s 33 0 = 0 then 0 else 2)) := by
  have e7 : s 31 0 = c 7 := A.g (p := 7) (by omega)
  unfold othA onN
  rw [if_neg h1, if_neg h2]
  have : (if s 31 0 = 0 then (0 : Int32) else 1) = s 31 0 := by
    rw [e7]
    rcases F 7 (by omega) (by omega) with z | z <;> rw [z] <;> rfl
  rw [this]
  exact tw_up_same (tw_up s 27 0 _) 31 0
theorem in_other (A : AR n w s0 M c s) (C : WC c) (F : F01 c) (R : KR K s) (hM : ∀ b, ¬ M b) (hk : nn (c 16) ≤ toldN K.2.1 0 (c 2) K.1) {o r y : Nat} (ho : 19 ≤ o ∧ o ≤ 25) (hr : r < 4) (hy : y < 65536) {ws : ce_W} {nx : Int32} (hw : serveO K c (Int32.ofNat o) (Int32.ofNat (12 + r)) (Int32.ofNat y) (c 3 + 2) = .inl (ws, nx)) : AR n w s0 (MW (ws ++ [(3, nx)])) (apW c (ws ++ [(3, nx)])) (othS s (Int32.ofNat o) (Int32.ofNat r) (Int32.ofNat y) K.1) := by
  have e3 : s 27 0 = c 3 := A.g (p := 3) (by omega)
  have e4 : s 28 0 = c 4 := A.g (p := 4) (by omega)
  have e8 : s 32 0 = c 8 := A.g (p := 8) (by omega)
  have e9 : s 33 0 = c 9 := A.g (p := 9) (by omega)
  have e16 : s 39 0 = c 16 := A.g (p := 16) (by omega)
  have e17 : s 37 0 = c 17 := A.g (p := 17) (by omega)
  have nr : (Int32.ofNat r).toNatClampNeg = r := i_nat (by omega)
  have nr2 : nn (Int32.ofNat (12 + r)) = 12 + r := nn_of (by omega)
  obtain ⟨k1, k2⟩ := rg.nat C.2.1
  have eM : ∀ ws : ce_W, (∀ q, q ∈ ws → q.1 < 108) → ∀ a, MW ws a ↔ M a := fun ws h a => ⟨fun ⟨x, hx⟩ => by have := h _ hx; simp at this; omega, fun z => absurd z (hM a)⟩
  have inj : ∀ {a a' : ce_W} {b b' : Int32}, (Sum.inl (a, b) : (ce_W × Int32) ⊕ Int32) = .inl (a', b') → a = a' ∧ b = b' := fun h => ⟨congrArg Prod.fst (Sum.inl.inj h), congrArg Prod.snd (Sum.inl.inj h)⟩
  have A2 := A.up (p := 3) (x := c 3 + 2) (Or.inl (by omega)) rfl rfl
  obtain rfl | rfl | rfl | rfl | rfl | rfl | rfl : o = 19 ∨ o = 20 ∨ o = 21 ∨ o = 22 ∨ o = 23 ∨ o = 24 ∨ o = 25 := by omega
  · obtain ⟨rfl, rfl⟩ := inj (show Sum.inl ([(7, 1)], c 3 + 2) = _ from hw)
    refine (((A2.up (p := 7) (x := 1) (Or.inl (by omega)) rfl rfl).eqM (eM [(7, 1), (3, c 3 + 2)] (by simp))).eqs ?_).eqc ?_
    · show tw_up (tw_up s 27 0 (s 27 0 + 2)) 31 0 1 = _
      rw [e3]; rfl
    · exact upd_comm _ (by omega) _ _
  · obtain ⟨rfl, rfl⟩ := inj (show Sum.inl ([(7, 0)], c 3 + 2) = _ from hw)
    refine (((A2.up (p := 7) (x := 0) (Or.inl (by omega)) rfl rfl).eqM (eM [(7, 0), (3, c 3 + 2)] (by simp))).eqs ?_).eqc ?_
    · show tw_up (tw_up s 27 0 (s 27 0 + 2)) 31 0 0 = _
      rw [e3]; rfl
    · exact upd_comm _ (by omega) _ _
  · by_cases q : c 4 + 2 ≤ 256
    · obtain ⟨rfl, rfl⟩ := inj (show Sum.inl ((pullW c ++ [(5, pullV c &&& 1), (6, dx_shr (pullV c) 1 &&& 1), (7, 1)]) ++ pullW (apW c (pullW c ++ [(5, pullV c &&& 1), (6, dx_shr (pullV c) 1 &&& 1), (7, 1)])), pullV (apW c (pullW c ++ [(5, pullV c &&& 1), (6, dx_shr (pullV c) 1 &&& 1), (7, 1)]))) = Sum.inl (ws, nx) from by rw [← hw]; exact (if_pos q).symm)
      have h4 : nn (c 4) ≤ 254 := by
        rw [k2, show Int32.ofNat (nn (c 4)) + 2 = Int32.ofNat (nn (c 4) + 2) from i_add _ 2] at q
        have := (i_le (b := 256) (by omega) (by omega)).mp q
        omega
      have n4 : nn (c 4 + 1) = nn (c 4) + 1 := by rw [k2, show Int32.ofNat (nn (c 4)) + 1 = Int32.ofNat (nn (c 4) + 1) from i_add _ 1, nn_of (by omega), nn_of (by omega)]
      obtain ⟨m1, m2⟩ := rg.nat (C.2.2.2.2.2.1 (nn (c 4)) (by omega))
      have pv : pullV c = Int32.ofNat (nn (c (108 + nn (c 4)))) := m2
      generalize nn (c (108 + nn (c 4))) = m at m1 pv
      have v1 : pullV c &&& 1 = Int32.ofNat (m % 2) := by rw [pv, and1_nat (by omega)]
      have v2 : dx_shr (pullV c) 1 &&& 1 = Int32.ofNat (m / 2 % 2) := by rw [pv, show dx_shr (Int32.ofNat m) 1 = Int32.ofNat (m / 2 ^ 1) from shr_nat (j := 1) (by omega) (by omega), and1_nat (by omega)]
      have b01 : ∀ m, (if Int32.ofNat (m % 2) = 1 then (1 : Int32) else 0) = Int32.ofNat (m % 2) := fun m => by
        obtain z | z : m % 2 = 0 ∨ m % 2 = 1 := by omega
        · rw [z]; rfl
        · rw [z]; rfl
      have pv2 : pullV (apW c (pullW c ++ [(5, pullV c &&& 1), (6, dx_shr (pullV c) 1 &&& 1), (7, 1)])) = c (108 + (nn (c 4) + 1)) := by
        show (upd (upd (upd (upd c 4 (c 4 + 1)) 5 (pullV c &&& 1)) 6 (dx_shr (pullV c) 1 &&& 1)) 7 1) (108 + nn ((upd (upd (upd (upd c 4 (c 4 + 1)) 5 (pullV c &&& 1)) 6 (dx_shr (pullV c) 1 &&& 1)) 7 1) 4)) = _
        rw [show (upd (upd (upd (upd c 4 (c 4 + 1)) 5 (pullV c &&& 1)) 6 (dx_shr (pullV c) 1 &&& 1)) 7 1) 4 = c 4 + 1 from rfl, n4, upd_ne _ _ (by omega), upd_ne _ _ (by omega), upd_ne _ _ (by omega), upd_ne _ _ (by omega)]
      have A3 := (((((A.up (p := 4) (x := c 4 + 1) (Or.inl (by omega)) rfl rfl).up (p := 5) (x := pullV c &&& 1) (Or.inl (by omega)) rfl rfl).up (p := 6) (x := dx_shr (pullV c) 1 &&& 1) (Or.inl (by omega)) rfl rfl).up (p := 4) (x := c 4 + 1 + 1) (Or.inl (by omega)) rfl rfl).up (p := 3) (x := c (108 + (nn (c 4) + 1))) (Or.inl (by omega)) rfl rfl).up (p := 7) (x := 1) (Or.inl (by omega)) rfl rfl
      rw [pv2]
      refine ((A3.eqM (eM [(4, c 4 + 1), (5, pullV c &&& 1), (6, dx_shr (pullV c) 1 &&& 1), (7, 1), (4, c 4 + 1 + 1), (3, c (108 + (nn (c 4) + 1)))] (by simp))).eqs ?_).eqc ?_
      · show tw_up (tw_up (tw_up (tw_up (tw_up (tw_up s 28 0 (s 28 0 + 1)) 29 0 (if dx_rem (s 25 (s 28 0).toNatClampNeg) 2 = 1 then 1 else 0)) 30 0 (if dx_rem (s 25 (s 28 0).toNatClampNeg / 2) 2 = 1 then 1 else 0)) 28 0 (s 28 0 + 1 + 1)) 27 0 (s 25 (s 28 0 + 1).toNatClampNeg)) 31 0 1 = _
        rw [e4, show s 25 (c 4).toNatClampNeg = pullV c from A.1.mem (a := nn (c 4)) (by omega), show s 25 (c 4 + 1).toNatClampNeg = c (108 + (nn (c 4) + 1)) from by rw [show (c 4 + 1).toNatClampNeg = nn (c 4) + 1 from n4]; exact A.1.mem (by omega), v1, v2, pv, show dx_rem (Int32.ofNat m) 2 = Int32.ofNat (m % 2) from rem_nat (b := 2) (by omega) (by omega), show Int32.ofNat m / 2 = Int32.ofNat (m / 2) from div_nat (b := 2) (by omega) (by omega), show dx_rem (Int32.ofNat (m / 2)) 2 = Int32.ofNat (m / 2 % 2) from rem_nat (b := 2) (by omega) (by omega), b01, b01]
        rfl
      · show upd (upd (upd (upd (upd (upd c 4 (c 4 + 1)) 5 _) 6 _) 7 1) 4 (c 4 + 1 + 1)) 3 _ = upd (upd (upd (upd (upd (upd c 4 (c 4 + 1)) 5 _) 6 _) 4 (c 4 + 1 + 1)) 3 _) 7 1
        rw [upd_comm _ (show 7 ≠ 4 by omega), upd_comm _ (show 7 ≠ 3 by omega)]
    · have : Sum.inr 3 = (Sum.inl (ws, nx) : (ce_W × Int32) ⊕ Int32) := by rw [← hw]; exact (if_neg q).symm
      cases this
  · obtain ⟨rfl, rfl⟩ := inj (show Sum.inl ([], if c 8 + c 9 ≤ 0 then c 3 + 2 - 2 else c 3 + 2) = _ from hw)
    refine ((A.up (p := 3) (x := if c 8 + c 9 ≤ 0 then c 3 + 2 - 2 else c 3 + 2) (Or.inl (by omega)) rfl rfl).eqM (eM [(3, if c 8 + c 9 ≤ 0 then c 3 + 2 - 2 else c 3 + 2)] (by simp))).eqs ?_
    show othA s (Int32.ofNat 22) = _
    rw [othA_on F A (by decide) (by decide), e3, e8, e9]
    rcases F 8 (by omega) (by omega) with z | z <;> rcases F 9 (by omega) (by omega) with z2 | z2 <;> rw [z, z2]
    · rw [if_pos (by decide), if_pos (by decide), Int32.add_sub_cancel, Int32.add_zero]; rfl
    all_goals (rw [if_neg (by decide), if_neg (by decide)]; rfl)
  · obtain ⟨rfl, rfl⟩ := inj (show Sum.inl ([(10, Int32.ofNat y), (11, 0)], c 3 + 2) = _ from hw)
    refine ((((A2.up (p := 10) (x := Int32.ofNat y) (Or.inl (by omega)) rfl rfl).up (p := 11) (x := 0) (Or.inl (by omega)) rfl rfl).eqM (eM [(10, Int32.ofNat y), (11, 0), (3, c 3 + 2)] (by simp))).eqs ?_).eqc ?_
    · show tw_up (tw_up (othA s (Int32.ofNat 23)) 34 0 (Int32.ofNat y)) 35 0 0 = _
      rw [othA_on F A (by decide) (by decide), e3, if_neg (by intro z; exact absurd z.1 (by decide))]; rfl
    · show upd (upd (upd c 10 _) 11 _) 3 _ = _
      rw [upd_comm _ (show 11 ≠ 3 by omega), upd_comm _ (show 10 ≠ 3 by omega)]
  · obtain ⟨rfl, rfl⟩ := inj (show Sum.inl (readW K c ++ [(nn (Int32.ofNat (12 + r)), readV K c)], c 3 + 2) = _ from hw)
    have oa : othA s (Int32.ofNat 24) = tw_up s 27 0 (c 3 + 2) := by rw [othA_on F A (by decide) (by decide), e3, if_neg (by intro z; exact absurd z.1 (by decide))]
    have e2 : s 38 0 = c 2 := A.g (p := 2) (by omega)
    have ct := cnt_told R e2 K.1 (Nat.le_refl _)
    have tl : toldN K.2.1 0 (c 2) K.1 ≤ K.1 := by rw [← ct]; exact cntT_le s K.1
    have k20 := R.2.1
    obtain ⟨g1, g2⟩ := rg.nat C.2.2.2.1
    rw [nr2]
    show AR n w s0 _ _ (if Int32.ofNat (cntT s K.1) ≤ s 39 0 then tw_up (tw_up (othA s (Int32.ofNat 24)) 26 (Int32.ofNat r).toNatClampNeg 65535) 39 0 (s 39 0 + 0) else tw_up (tw_up (othA s (Int32.ofNat 24)) 26 (Int32.ofNat r).toNatClampNeg (s 42 (s 39 0).toNatClampNeg)) 39 0 (s 39 0 + 1))
    rw [nr, oa, e16, ct]
    by_cases q : c 16 = Int32.ofNat (toldN K.2.1 0 (c 2) K.1)
    · have rw1 : readW K c = [] := if_pos q
      have rv1 : readV K c = 65535 := if_pos q
      rw [rw1, rv1, if_pos (by rw [q]; exact (i_le (by omega) (by omega)).mpr (Nat.le_refl _)), Int32.add_zero]
      refine (((A2.reg hr (x := 65535)).eqM (eM [(12 + r, 65535), (3, c 3 + 2)] (by simp; omega))).eqs ?_).eqc ?_
      · have := tw_up_same (tw_up (tw_up s 27 0 (c 3 + 2)) 26 r 65535) 39 0
        rw [show (tw_up (tw_up s 27 0 (c 3 + 2)) 26 r 65535) 39 0 = c 16 from e16] at this
        exact this
      · exact upd_comm _ (by omega) _ _
    · have rw1 : readW K c = [(16, c 16 + 1)] := if_neg q
      have rv1 : readV K c = K.2.2 (nn (c 16)) := if_neg q
      have lt : nn (c 16) < toldN K.2.1 0 (c 2) K.1 := Nat.lt_of_le_of_ne hk fun z => q (by rw [← z]; exact g2)
      rw [rw1, rv1, if_neg (by rw [g2]; exact fun z => by have := (i_le (by omega) (by omega)).mp z; omega)]
      refine ((((A2.reg hr (x := K.2.2 (nn (c 16)))).up (p := 16) (x := c 16 + 1) (Or.inl (by omega)) rfl rfl).eqM (eM [(16, c 16 + 1), (12 + r, K.2.2 (nn (c 16))), (3, c 3 + 2)] (by simp; omega))).eqs ?_).eqc ?_
      · rw [show s 42 (c 16).toNatClampNeg = K.2.2 (nn (c 16)) from (R.2.2 (nn (c 16)) (by omega)).2.1]; rfl
      · show upd (upd (upd c 16 _) (12 + r) _) 3 _ = upd (upd (upd c 3 _) (12 + r) _) 16 _
        rw [upd_comm _ (show 12 + r ≠ 3 by omega), upd_comm _ (show 16 ≠ 3 by omega), upd_comm _ (show 16 ≠ 12 + r by omega)]
  · by_cases q : c 17 = 60
    · have : Sum.inr 4 = (Sum.inl (ws, nx) : (ce_W × Int32) ⊕ Int32) := by rw [← hw]; exact (if_pos q).symm
      cases this
    · obtain ⟨rfl, rfl⟩ := inj (show Sum.inl ([(48 + nn (c 17), Int32.ofNat y), (17, c 17 + 1)], c 3 + 2) = Sum.inl (ws, nx) from by rw [← hw]; exact (if_neg q).symm)
      obtain ⟨g1, g2⟩ := rg.nat C.2.2.2.2.1
      have lt : nn (c 17) < 60 := Nat.lt_of_le_of_ne g1 fun z => q (by rw [g2, z]; rfl)
      have oa : othA s (Int32.ofNat 25) = tw_up s 27 0 (c 3 + 2) := by rw [othA_on F A (by decide) (by decide), e3, if_neg (by intro z; exact absurd z.1 (by decide))]
      have A3 := A2.tap (x := Int32.ofNat y) (by rw [upd_ne _ _ (by omega)]; exact lt) (by rw [upd_ne _ _ (by omega)]; exact g2)
      rw [upd_ne _ _ (show 17 ≠ 3 by omega)] at A3
      refine ((A3.eqM (eM [(48 + nn (c 17), Int32.ofNat y), (17, c 17 + 1), (3, c 3 + 2)] (by simp; omega))).eqs ?_).eqc ?_
      · show tw_up (tw_up (othA s (Int32.ofNat 25)) 36 (s 37 0).toNatClampNeg (Int32.ofNat y)) 37 0 (s 37 0 + 1) = _
        rw [oa, e17]
        show _ = tw_up (tw_up (tw_up s 27 0 (c 3 + 2)) 36 (nn (c 17)) (Int32.ofNat y)) 37 0 (s 37 0 + 1)
        rw [e17]; rfl
      · show upd (upd (upd c (48 + nn (c 17)) _) 17 _) 3 _ = upd (upd (upd c 3 _) (48 + nn (c 17)) _) 17 _
        rw [upd_comm _ (show 17 ≠ 3 by omega), upd_comm _ (show 48 + nn (c 17) ≠ 3 by omega)]
end OTS
