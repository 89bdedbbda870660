/-! what every step keeps -/
/- with GD.up GD.wc GD.pl GD.f01 GD.write GD.begin FSI.cong FSI.fw FSI.ds CG.cong CG.ne CG.write CK.cong CK.fsi CK.ci CK.begin LC.cong OKW.at OKW OKW.cons OKW.one OKW.app OKW.nil actO actW stepW instO interW passW timeW comeW plan_ok push_ok opO serveO -/
/-- a step's number stays within it, and a machine that is on stays on -/
theorem FW.cong {D E : Nat → Int32} (F : FW D) (h : ∀ a, 40 ≤ a → a < 64 → E a = D a) : FW E := by
  intro f hf
  obtain ⟨⟨z, z1, z2⟩, z3⟩ := F f hf
  exact ⟨⟨z, z1, (h _ (by omega) (by omega)).trans z2⟩, fun k k2 k4 => by
    obtain ⟨v, v1, v2⟩ := z3 k k2 k4
    exact ⟨v, v1, (h _ (by omega) (by omega)).trans v2⟩⟩
def K2 (c c' : Nat → Int32) : Prop := c' 2 = c 2 ∧ (c 0 ≠ 0 → c' 0 ≠ 0) ∧ (∀ p, 621 ≤ p → c' p = c p) ∧ (FW (ds c) → FW (ds c'))
section INV
variable {c : Nat → Int32} {m k : Nat} {B : Nat × Nat} {W : Nat → Int32} {K : kk_K}
theorem OKW.all {ws : ce_W} (A : OKW B c ws) (C : CK c) (h18 : c 18 = 0) : GD B (apW c ws) ∧ CK (apW c ws) ∧ K2 c (apW c ws) := ⟨A.1, C.cong fun p hp => A.at (hp.elim (fun z => Or.inr (Or.inl z)) fun z => z.elim (fun z => Or.inr (Or.inr z.1)) fun z => absurd h18 z.2), A.at (Or.inl rfl), A.at0, fun p hp => A.at (Or.inr (Or.inr (by omega))), fun F => F.cong fun a a1 a2 => A.at (Or.inr (Or.inr (by omega)))⟩
theorem call_ok (G : GD B c) (hB : B.1 ≤ 20) (C : CK c) (h18 : c 18 = 0) {y : Nat} (hy : y ≤ 65535) (h3 : nn (c 3) + 1 < 256) : GD B (apW c ((callO c (Int32.ofNat y)).1 ++ [(3, if (callO c (Int32.ofNat y)).2 = 0 then c 3 + 2 - 2 else c 3 + 2)])) ∧ CK (apW c ((callO c (Int32.ofNat y)).1 ++ [(3, if (callO c (Int32.ofNat y)).2 = 0 then c 3 + 2 - 2 else c 3 + 2)])) ∧ K2 c (apW c ((callO c (Int32.ofNat y)).1 ++ [(3, if (callO c (Int32.ofNat y)).2 = 0 then c 3 + 2 - 2 else c 3 + 2)])) := by
  obtain ⟨k1, k2⟩ := rg.nat (G 3 _ rfl)
  have rn : rg 65535 (c 3 + 2) := by rw [k2, show Int32.ofNat (nn (c 3)) + 2 = Int32.ofNat (nn (c 3) + 2) from i_add _ 2]; exact rg.of (by omega) (by omega)
  rcases plan_ok (G.wc hB) (C.fsi h18) hy with ⟨p1, ⟨r, r9, p2⟩, p3⟩ | ⟨p1, p2, p3, p4, p5, p6⟩
  · have hc : callO c (Int32.ofNat y) = ((plO c (Int32.ofNat y)).1 ++ [(15, Int32.ofNat r)], 1) := by
      unfold callO
      rw [p1, p2]
      exact if_pos (cnt_noS 32)
    rw [hc]
    show GD B (apW c (((plO c (Int32.ofNat y)).1 ++ [(15, Int32.ofNat r)]) ++ [(3, if (1 : Int32) = 0 then c 3 + 2 - 2 else c 3 + 2)])) ∧ CK (apW c (((plO c (Int32.ofNat y)).1 ++ [(15, Int32.ofNat r)]) ++ [(3, if (1 : Int32) = 0 then c 3 + 2 - 2 else c 3 + 2)])) ∧ K2 c (apW c (((plO c (Int32.ofNat y)).1 ++ [(15, Int32.ofNat r)]) ++ [(3, if (1 : Int32) = 0 then c 3 + 2 - 2 else c 3 + 2)]))
    rw [if_neg (show ¬ (1 : Int32) = 0 by decide)]
    refine OKW.all (B := B) ?_ C h18
    have tail : ∀ {c' : Nat → Int32}, GD B c' → OKW B c' [(15, Int32.ofNat r)] := fun G' => OKW.one G' (gd_k (k := 65535) rfl (rg.of (by omega) (by omega))) (Or.inl (by omega))
    have fin : ∀ {ws : ce_W}, OKW B c ws → OKW B c (ws ++ [(3, c 3 + 2)]) := fun A => A.app (OKW.one A.1 (gd_k (k := 65535) rfl rn) (Or.inl (by omega)))
    refine fin ?_
    rcases p3 with z | ⟨p, x, z, zp, zx⟩
    · rw [z]; exact tail G
    · rw [z]
      rcases zp with e | e
      · subst e
        exact OKW.cons (Or.inl (by omega)) (tail (G.up (gd_k (k := 65535) rfl zx)))
      · subst e
        exact OKW.cons (Or.inl (by omega)) (tail (G.up (gd_k (k := 65535) rfl zx)))
  · have hc : callO c (Int32.ofNat y) = (callW (cntS (plO c (Int32.ofNat y)).2.2.1 32) (enS (plO c (Int32.ofNat y)).2.2.1) (plO c (Int32.ofNat y)).2.2.2, 0) := by
      unfold callO
      rw [p1]
      exact if_neg (by omega)
    rw [hc]
    have G1 := G.begin p2.2 p5
    have C1 := C.begin h18 p2 p3 p4 p6 (by omega)
    have ca := call_at (enS (plO c (Int32.ofNat y)).2.2.1) (plO c (Int32.ofNat y)).2.2.2 p2.2 c
    generalize (plO c (Int32.ofNat y)).2.2.1 = S at *
    generalize (plO c (Int32.ofNat y)).2.2.2 = W at *
    show GD B (apW c (callW (cntS S 32) (enS S) W ++ [(3, if (0 : Int32) = 0 then c 3 + 2 - 2 else c 3 + 2)])) ∧ CK (apW c (callW (cntS S 32) (enS S) W ++ [(3, if (0 : Int32) = 0 then c 3 + 2 - 2 else c 3 + 2)])) ∧ K2 c (apW c (callW (cntS S 32) (enS S) W ++ [(3, if (0 : Int32) = 0 then c 3 + 2 - 2 else c 3 + 2)]))
    rw [if_pos rfl, Int32.add_sub_cancel, apW_app]
    have c3 : apW c (callW (cntS S 32) (enS S) W) 3 = c 3 := by rw [ca, if_neg (by omega), if_neg (by omega), if_neg (by omega), if_neg (by omega)]
    have e : apW (apW c (callW (cntS S 32) (enS S) W)) [(3, c 3)] = apW c (callW (cntS S 32) (enS S) W) := by
      have := upd_same (apW c (callW (cntS S 32) (enS S) W)) 3
      rw [c3] at this
      exact this
    rw [e]
    refine ⟨G1, Or.inr ⟨_, _, _, C1⟩, ?_, fun h0 => ?_, fun p hp => ?_, fun F => F.cong fun a a1 a2 => ?_⟩
    · rw [ca, if_neg (by omega), if_neg (by omega), if_neg (by omega), if_neg (by omega)]
    · rw [ca, if_neg (by omega), if_neg (by omega), if_neg (by omega), if_neg (by omega)]; exact h0
    · rw [ca, if_neg (by omega), if_neg (by omega), if_neg (by omega), if_neg (by omega)]
    · show apW c (callW (cntS S 32) (enS S) W) (365 + a) = c (365 + a)
      rw [ca, if_neg (by omega), if_neg (by omega), if_neg (by omega), if_neg (by omega)]
theorem inter_ok (G : GD B c) (hB : B.1 ≤ 20) (h2 : (2 : Int32) ≤ c 4) : OKW B c (interW c) := by
  obtain ⟨k1, k2⟩ := rg.nat (G 4 _ rfl)
  have n2 : 2 ≤ nn (c 4) := by rw [k2] at h2; exact (i_le (a := 2) (by omega) (by omega)).mp h2
  unfold interW
  rw [if_pos h2]
  have src : ∀ s : Int32, s = (if c 8 = 1 then 0 else 1) → OKW B c (let w1 : ce_W := [(nn (8 + s), 0)]; let c1 := apW c w1; let w2 := w1 ++ pushW c1 (c1 3); let c2 := apW c w2; let w3 := w2 ++ pushW c2 (c2 5 + 2 * c2 6) ++ [(7, 0)]; w3 ++ [(3, apW c w3 (nn (108 + s)))]) := by
    intro s hs
    obtain ⟨v, v1, v2, v3⟩ : ∃ v, v < 2 ∧ nn (8 + s) = 8 + v ∧ nn (108 + s) = 108 + v := by
      by_cases q : c 8 = 1
      · rw [if_pos q] at hs; rw [hs]; exact ⟨0, by omega, rfl, rfl⟩
      · rw [if_neg q] at hs; rw [hs]; exact ⟨1, by omega, rfl, rfl⟩
    dsimp only
    rw [v2, v3]
    have b8 : bn B (8 + v) = some 1 := by
      obtain rfl | rfl : v = 0 ∨ v = 1 := by omega
      all_goals rfl
    have A1 : OKW B c [(8 + v, 0)] := OKW.one G (gd_k b8 (rg0 (by omega))) (Or.inl (by omega))
    have e1 : ∀ p, p < 8 → apW c [(8 + v, 0)] p = c p := fun p hp => upd_ne _ _ (by omega)
    have A2 : OKW B c ([(8 + v, 0)] ++ pushW (apW c [(8 + v, 0)]) (apW c [(8 + v, 0)] 3)) := A1.app (push_ok A1.1 hB (by
      rw [e1 4 (by omega), k2]; exact (i_le (a := 1) (by omega) (by omega)).mpr (by omega)) (A1.1 3 _ rfl))
    have F := A2.1.f01
    have e4 : apW c ([(8 + v, 0)] ++ pushW (apW c [(8 + v, 0)]) (apW c [(8 + v, 0)] 3)) 4 = Int32.ofNat (nn (c 4) - 1) := by
      show upd (upd (apW c [(8 + v, 0)]) 4 (apW c [(8 + v, 0)] 4 - 1)) (108 + nn (apW c [(8 + v, 0)] 4 - 1)) _ 4 = _
      rw [upd_ne _ _ (by omega), upd_eq, e1 4 (by omega), k2, nn_of (by omega)]
      exact i_sub (b := 1) (by omega)
    have A3 := A2.app (push_ok A2.1 hB (w := apW c ([(8 + v, 0)] ++ pushW (apW c [(8 + v, 0)]) (apW c [(8 + v, 0)] 3)) 5 + 2 * apW c ([(8 + v, 0)] ++ pushW (apW c [(8 + v, 0)]) (apW c [(8 + v, 0)] 3)) 6) (by
      rw [e4]; exact (i_le (a := 1) (by omega) (by omega)).mpr (by omega)) (by
      rcases F 5 (by omega) (by omega) with y | y <;> rcases F 6 (by omega) (by omega) with z | z <;> rw [y, z]
      · exact rg.of (n := 0) (by omega) (by omega)
      · exact rg.of (n := 2) (by omega) (by omega)
      · exact rg.of (n := 1) (by omega) (by omega)
      · exact rg.of (n := 3) (by omega) (by omega)))
    have A4 := A3.app (OKW.one A3.1 (p := 7) (x := 0) (gd_k (k := 1) rfl (rg0 (by omega))) (Or.inl (by omega)))
    exact A4.app (OKW.one A4.1 (gd_k (k := 65535) rfl (A4.1 (108 + v) _ (bn_mem (by omega)).1)) (Or.inl (by omega)))
  exact src _ rfl
theorem act_ok (G : GD B c) (hB : B.1 ≤ 20) (hT : B.1 = toldN K.2.1 0 (c 2) K.1) (KK : KG K) (C : CK c) : GD B (apW c (actW K c)) ∧ CK (apW c (actW K c)) ∧ K2 c (apW c (actW K c)) := by
  unfold actW actO
  rcases C with ⟨z1, z2, z3⟩ | ⟨m, k, W, C⟩
  · have C : CK c := Or.inl ⟨z1, z2, z3⟩
    rw [if_pos (show c 18 ≤ 0 by rw [z1]; decide)]
    by_cases q : c 7 = 1 ∧ ¬ c 8 + c 9 ≤ 0
    · rw [if_pos q]
      by_cases h2 : (2 : Int32) ≤ c 4
      · rw [if_pos h2]; exact (inter_ok G hB h2).all C z1
      · rw [if_neg h2]; exact (stop_ok G (rg.of (n := 3) (by omega) (by omega))).all C z1
    rw [if_neg q]
    unfold instO
    by_cases h3 : ¬ nn (c 3) + 1 < 256
    · rw [if_pos h3]; exact (stop_ok G (rg.of (n := 1) (by omega) (by omega))).all C z1
    rw [if_neg h3]
    have h3 : nn (c 3) + 1 < 256 := Decidable.of_not_not h3
    dsimp only
    by_cases h26 : ¬ nn (c (108 + nn (c 3))) / 16 ≤ 26
    · rw [if_pos h26]; exact (stop_ok G (rg.of (n := 2) (by omega) (by omega))).all C z1
    rw [if_neg h26]
    have hs : secC c (nn (c (108 + nn (c 3)))) < 65536 := by
      have W := G.wc hB
      obtain ⟨a1, a2⟩ := rg.nat (W.2.2.2.2.2.1 (nn (c 3) + 1) h3)
      unfold secC
      rw [show 108 + nn (c 3) + 1 = 108 + (nn (c 3) + 1) by omega]
      split
      · omega
      · exact Nat.mod_lt _ (by omega)
    generalize secC c (nn (c (108 + nn (c 3)))) = y at hs
    generalize hv : nn (c (108 + nn (c 3))) = v at h26
    have h26 : v / 16 ≤ 26 := Decidable.of_not_not h26
    cases hO : opO K c (v / 16) (12 + v / 4 % 4) y (c 3 + 2) with
    | inr f => exact (stop_ok G (by
      rcases opO_f _ _ _ _ _ _ hO with z | z | z <;> rw [z]
      · exact rg.of (n := 1) (by omega) (by omega)
      · exact rg.of (n := 3) (by omega) (by omega)
      · exact rg.of (n := 4) (by omega) (by omega))).all C z1
    | inl p =>
      obtain ⟨ws, nx⟩ := p
      show GD B (apW c (ws ++ [(3, nx)])) ∧ CK (apW c (ws ++ [(3, nx)])) ∧ K2 c (apW c (ws ++ [(3, nx)]))
      by_cases o26 : v / 16 = 26
      · rw [o26] at hO
        have e2 : opO K c 26 (12 + v / 4 % 4) y (c 3 + 2) = .inl ((callO c (Int32.ofNat y)).1, if (callO c (Int32.ofNat y)).2 = 0 then c 3 + 2 - 2 else c 3 + 2) := by
          unfold opO serveO
          rw [if_neg (by omega), if_neg (by omega), if_neg (by decide), if_neg (by decide), if_neg (by decide), if_neg (by decide), if_neg (by decide), if_neg (by decide), if_neg (by decide)]
        rw [e2] at hO
        cases hO
        exact call_ok G hB C z1 (by omega) h3
      · exact (op_ok G hB KK hT (o := v / 16) (by omega) (Nat.mod_lt _ (by omega)) hs h3 hO).all C z1
  · have n0 : ¬ c 18 ≤ 0 := by
      obtain ⟨g1, g2, ⟨m1, m3, -⟩, -⟩ := C
      rw [g1]; exact fun z => by have := (i_le (b := 0) (by omega) (by omega)).mp z; omega
    rw [if_neg n0]
    refine ⟨G.write C, C.write, ?_⟩
    obtain ⟨g1, g2, ⟨m1, m3, k1, c3⟩, g4, g5, g6, g7, g8, -⟩ := C
    show apW c (writeO c) 2 = c 2 ∧ (c 0 ≠ 0 → apW c (writeO c) 0 ≠ 0) ∧ (∀ p, 621 ≤ p → apW c (writeO c) p = c p) ∧ (FW (ds c) → FW (ds (apW c (writeO c))))
    rw [wr_lo g1 g2 m3 k1 (by omega), if_neg (by omega), if_neg (by omega), if_neg (by omega), wr_lo g1 g2 m3 k1 (by omega), if_neg (by omega), if_neg (by omega), if_neg (by omega)]
    refine ⟨rfl, id, fun p hp => ?_, fun F => ?_⟩
    rotate_left
    · by_cases q3 : m < k ∧ k ≤ 2 * m
      · have hv := g5 (k - m - 1) (by omega)
        have FWW := g4.fw
        have dd : ∀ a, ds (apW c (writeO c)) a = if a / 8 = nn (c (20 + (k - m - 1))) then W a else ds c a := fun a => by
          rw [wr_ds g1 g2 m1 m3 k1, if_neg (by omega), if_neg (by omega), if_pos q3.2]
          by_cases e : a / 8 = nn (c (20 + (k - m - 1)))
          · rw [if_pos e, if_pos (by omega)]
            have := g8 (k - m - 1) (a % 8) (by omega) (by omega)
            rw [← e, show 8 * (a / 8) + a % 8 = a by omega] at this
            rw [← this]
            congr 1
            omega
          · rw [if_neg e, if_neg (by omega)]
        intro f hf
        by_cases e : 5 + f / 2 = nn (c (20 + (k - m - 1)))
        · obtain ⟨⟨z, z1, z2⟩, z3⟩ := FWW f hf
          refine ⟨⟨z, z1, by rw [dd, if_pos (by omega)]; exact z2⟩, fun j j2 j4 => ?_⟩
          obtain ⟨v, v1, v2⟩ := z3 j j2 j4
          exact ⟨v, v1, by rw [dd, if_pos (by omega)]; exact v2⟩
        · obtain ⟨⟨z, z1, z2⟩, z3⟩ := F f hf
          refine ⟨⟨z, z1, by rw [dd, if_neg (by omega)]; exact z2⟩, fun j j2 j4 => ?_⟩
          obtain ⟨v, v1, v2⟩ := z3 j j2 j4
          exact ⟨v, v1, by rw [dd, if_neg (by omega)]; exact v2⟩
      · refine F.cong fun a a1 a2 => ?_
        rw [wr_ds g1 g2 m1 m3 k1]
        by_cases q1 : k < m
        · rw [if_pos q1, if_neg (by omega)]
        rw [if_neg q1]
        by_cases q2 : k = m
        · rw [if_pos q2, if_neg (by omega), if_neg (by omega)]
        · rw [if_neg q2, if_neg (by omega), if_neg (by omega)]
    obtain ⟨a, rfl⟩ : ∃ a, p = 365 + a := ⟨p - 365, by omega⟩
    rw [show apW c (writeO c) (365 + a) = ds (apW c (writeO c)) a from rfl, wr_ds g1 g2 m1 m3 k1]
    by_cases q1 : k < m
    · rw [if_pos q1, if_neg (by omega)]; rfl
    rw [if_neg q1]
    by_cases q2 : k = m
    · rw [if_pos q2, if_neg (by omega), if_neg (by omega)]; rfl
    rw [if_neg q2]
    by_cases q3 : k ≤ 2 * m
    · have := (g5 (k - m - 1) (by omega)).2.1
      rw [if_pos q3, if_neg (by omega)]; rfl
    · rw [if_neg q3, if_neg (by omega)]; rfl
theorem pass_at {p : Nat} (h : p ≠ 2 ∧ p ≠ 8 ∧ p ≠ 9 ∧ p ≠ 11) : apW c (passW K c) p = c p := by
  unfold passW timeW comeW
  rw [apW_app, apW_app]
  have e1 : ∀ e : Nat → Int32, apW e (if toldN K.2.1 (c 2 + 1) (c 2 + 1) K.1 = 0 then [] else [(9, 1)]) p = e p := fun e => by
    split
    · rfl
    · exact upd_ne _ _ h.2.2.1
  have e2 : ∀ e : Nat → Int32, apW e (if c 10 ≤ 0 then [] else [(11, if c 11 + 1 = c 10 then 0 else c 11 + 1), (8, if c 11 + 1 = c 10 then 1 else c 8)]) p = e p := fun e => by
    split
    · rfl
    · show upd (upd e 11 _) 8 _ p = _
      rw [upd_ne _ _ h.2.1, upd_ne _ _ h.2.2.2]
  rw [e1, e2]
  exact upd_ne _ _ h.1
theorem pass_2 : apW c (passW K c) 2 = c 2 + 1 := by
  unfold passW timeW comeW
  rw [apW_app, apW_app]
  have e1 : ∀ e : Nat → Int32, apW e (if toldN K.2.1 (c 2 + 1) (c 2 + 1) K.1 = 0 then [] else [(9, 1)]) 2 = e 2 := fun e => by
    split <;> rfl
  have e2 : ∀ e : Nat → Int32, apW e (if c 10 ≤ 0 then [] else [(11, if c 11 + 1 = c 10 then 0 else c 11 + 1), (8, if c 11 + 1 = c 10 then 1 else c 8)]) 2 = e 2 := fun e => by
    split <;> rfl
  rw [e1, e2]
  rfl
theorem GD.mono {B' : Nat × Nat} (G : GD B c) (h : B.1 ≤ B'.1) (h2 : B.2 ≤ B'.2) : GD B' c := by
  intro p k hk
  by_cases e : p = 16
  · subst e
    cases hk
    exact (G 16 B.1 rfl).mono h
  by_cases e2 : p = 11
  · subst e2
    cases hk
    exact (G 11 B.2 rfl).mono h2
  · refine G p k ?_
    have : bn B p = bn B' p := by
      unfold bn
      rw [if_neg (show ¬ p = 16 from e), if_neg (show ¬ p = 16 from e)]
      by_cases q : p < 10
      · rw [if_pos q, if_pos q]
      rw [if_neg q, if_neg q]
      by_cases q2 : p = 10
      · rw [if_pos q2, if_pos q2]
      rw [if_neg q2, if_neg q2, if_neg (show ¬ p < 12 by omega), if_neg (show ¬ p < 12 by omega)]
    rw [this]; exact hk
theorem GD.pass (G : GD B c) (hT : B.2 < 2 ^ 31 - 1) : GD (B.1, B.2 + 1) (apW c (passW K c)) := by
  have G0 := G.mono (B' := (B.1, B.2 + 1)) (Nat.le_refl _) (Nat.le_succ _)
  obtain ⟨n1, n2⟩ := rg.nat (G 11 B.2 rfl)
  unfold passW timeW comeW
  rw [apW_app, apW_app]
  have e1 : ∀ e : Nat → Int32, GD (B.1, B.2 + 1) e → GD (B.1, B.2 + 1) (apW e (if toldN K.2.1 (c 2 + 1) (c 2 + 1) K.1 = 0 then [] else [(9, 1)])) := fun e G => by
    split
    · exact G
    · exact G.up (gd_k (k := 1) rfl (rg_1 (by omega) (by omega)))
  have e2 : ∀ e : Nat → Int32, GD (B.1, B.2 + 1) e → GD (B.1, B.2 + 1) (apW e (if c 10 ≤ 0 then [] else [(11, if c 11 + 1 = c 10 then 0 else c 11 + 1), (8, if c 11 + 1 = c 10 then 1 else c 8)])) := fun e G' => by
    split
    · exact G'
    · exact (G'.up (p := 11) (gd_k (k := B.2 + 1) rfl (rg_ite (rg0' _) (by rw [n2, show Int32.ofNat (nn (c 11)) + 1 = Int32.ofNat (nn (c 11) + 1) from i_add _ 1]; exact rg.of (by omega) (by omega))))).up (gd_k (k := 1) rfl (rg_ite (rg_1 (by omega) (by omega)) (G 8 _ rfl)))
  exact e1 _ (e2 _ (G0.up (gd_no rfl)))
/-- keys at steps -/
def KT (K : kk_K) : Prop := KG K ∧ ∀ k, k < K.1 → ∃ t, t ≤ 1000 ∧ K.2.1 k = Int32.ofNat t
theorem told_mono (KK : KT K) {t u : Nat} (ht : t < 2 ^ 31) (hu : u < 2 ^ 31) (h : t ≤ u) : ∀ m, m ≤ K.1 → toldN K.2.1 0 (Int32.ofNat t) m ≤ toldN K.2.1 0 (Int32.ofNat u) m := by
  intro m
  induction m with
  | zero => intro _; exact Nat.le_refl _
  | succ m ih =>
    intro hm
    have i := ih (by omega)
    obtain ⟨v, v1, v2⟩ := KK.2 m (by omega)
    show toldN K.2.1 0 (Int32.ofNat t) m + (if 0 ≤ K.2.1 m ∧ K.2.1 m ≤ Int32.ofNat t then 1 else 0) ≤ toldN K.2.1 0 (Int32.ofNat u) m + (if 0 ≤ K.2.1 m ∧ K.2.1 m ≤ Int32.ofNat u then 1 else 0)
    by_cases q : 0 ≤ K.2.1 m ∧ K.2.1 m ≤ Int32.ofNat t
    · have q2 : K.2.1 m ≤ Int32.ofNat u := by
        have := q.2
        rw [v2] at this ⊢
        have := (i_le (by omega) ht).mp this
        exact (i_le (by omega) hu).mpr (by omega)
      rw [if_pos q, if_pos ⟨q.1, q2⟩]; omega
    · rw [if_neg q]; omega
/-- what every step keeps -/
def IV (n : Nat) (K : kk_K) (c : Nat → Int32) : Prop := GD (toldN K.2.1 0 (c 2) K.1, n) c ∧ CK c ∧ c 2 = Int32.ofNat n ∧ c 0 ≠ 0 ∧ (∀ p, 621 ≤ p → c p = 0) ∧ FW (ds c)
theorem IV.b20 {n : Nat} (_ : IV n K c) (KK : KT K) : toldN K.2.1 0 (c 2) K.1 ≤ 20 := Nat.le_trans (toldN_le _ _ _ _) KK.1.1
theorem IV.step {n : Nat} (V : IV n K c) (KK : KT K) (hn : n < 1000) : IV (n + 1) K (apW c (stepW K c)) := by
  obtain ⟨G, C, h2, h0, h6, hF⟩ := V
  obtain ⟨G1, C1, e2, e0, e6, eF⟩ := act_ok (K := K) G (Nat.le_trans (toldN_le _ _ _ _) KK.1.1) rfl KK.1 C
  unfold stepW
  rw [apW_app]
  have p2 : apW (apW c (actW K c)) (passW K (apW c (actW K c))) 2 = Int32.ofNat (n + 1) := by
    rw [pass_2, e2, h2]; exact i_add n 1
  refine ⟨?_, C1.cong fun p hp => pass_at ⟨by omega, by omega, by omega, by omega⟩, p2, by rw [pass_at ⟨by omega, by omega, by omega, by omega⟩]; exact e0 h0, fun p hp => by rw [pass_at ⟨by omega, by omega, by omega, by omega⟩, e6 p hp]; exact h6 p hp, (eF hF).cong fun a a1 a2 => pass_at ⟨by omega, by omega, by omega, by omega⟩⟩
  rw [p2]
  refine (GD.pass G1 (show n < 2 ^ 31 - 1 by omega)).mono ?_ (Nat.le_refl _)
  show toldN K.2.1 0 (c 2) K.1 ≤ toldN K.2.1 0 (Int32.ofNat (n + 1)) K.1
  rw [h2]
  exact told_mono KK (by omega) (by omega) (by omega) K.1 (Nat.le_refl _)
end INV
