/-! a step keeps the bounds and the files -/
/- with GD.up GD.wc GD.pl GD.f01 GD.write FSI.cong FSI.fw FSI.ds CG.cong CG.ne CK.cong CK.fsi CK.ci LC.cong OKW.at OKW OKW.cons OKW.one OKW.app OKW.nil actO actW stepW instO interW plan_ok -/
section CUS
variable {c c' : Nat → Int32} {m k : Nat} {B : Nat × Nat} {W : Nat → Int32} {K : kk_K}
theorem CG.write (C : CG c m k W) : CK (apW c (writeO c)) := by
  obtain ⟨g1, g2, ⟨m1, m3, k1, c3⟩, g4, g5, g6, g7, g8, g9, g10, g11⟩ := C
  have lo := fun (p : Nat) (hp : p < 364) => wr_lo (c := c) (p := p) g1 g2 m3 k1 hp
  have dd := fun (a : Nat) => wr_ds (c := c) (a := a) g1 g2 m1 m3 k1
  by_cases q : k = 2 * m + 1
  · have dd' : ∀ a, ds (apW c (writeO c)) a = if a < 8 then 0 else ds c a := fun a => by
      rw [dd, if_neg (by omega), if_neg (by omega), if_neg (by omega)]
    refine Or.inl ⟨?_, by rw [dd', if_pos (by omega)], g4.cong fun a a1 a2 => ?_⟩
    · rw [lo 18 (by omega), if_neg (by omega), if_pos ⟨q, Or.inr rfl⟩]
    · rw [dd', if_neg (by omega)]
      rcases g11 with ⟨h1, -⟩ | ⟨h1, h2, h3, h4⟩
      · omega
      · by_cases z : ∃ j, j < m ∧ a / 8 = nn (c (20 + j))
        · obtain ⟨j, j1, j2⟩ := z
          have := h4 j (a % 8) j1 (by omega) (by omega)
          rw [← j2, show 8 * (a / 8) + a % 8 = a by omega] at this
          exact this
        · exact g9 a a1 (by omega) fun j hj e => z ⟨j, hj, e⟩
  · have lo' : ∀ p, p < 364 → p ≠ 19 → apW c (writeO c) p = c p := fun p hp h => by
      rw [lo p hp, if_neg (fun z => q z.1), if_neg (fun z => q z.1), if_neg h]
    have l20 : ∀ j, j < 3 → apW c (writeO c) (20 + j) = c (20 + j) := fun j hj => lo' _ (by omega) (by omega)
    have hi : ∀ a, 32 ≤ a → (∀ j, j < m → a / 8 ≠ nn (c (20 + j))) → ds (apW c (writeO c)) a = ds c a := by
      intro a ha hj
      rw [dd]
      by_cases q1 : k < m
      · rw [if_pos q1, if_neg (by omega)]
      rw [if_neg q1]
      by_cases q2 : k = m
      · rw [if_pos q2, if_neg (by omega), if_neg (by omega)]
      rw [if_neg q2, if_pos (show k ≤ 2 * m by omega)]
      have := hj (k - m - 1) (by omega)
      rw [if_neg (by omega)]
    refine Or.inr ⟨m, k + 1, W, (lo' 18 (by omega) (by omega)).trans g1, ?_, ⟨m1, m3, by omega, by rw [lo' 3 (by omega) (by omega)]; exact c3⟩, g4, fun j hj => ?_, fun j h1 h2 => (l20 j h2).trans (g6 j h1 h2), fun i j hij hj => ?_, fun j q hj hq => ?_, fun a a1 a2 ha => ?_, fun j q' hj hk hq => ?_, ?_⟩
    · rw [lo 19 (by omega), if_neg (fun z => q z.1), if_neg (fun z => q z.1), if_pos rfl]
    · rw [l20 j (by omega)]; exact g5 j hj
    · rw [l20 i (by omega), l20 j (by omega)]; exact g7 i j hij hj
    · rw [l20 j (by omega), lo' _ (by omega) (by omega)]; exact g8 j q hj hq
    · have ha' : ∀ j, j < m → a / 8 ≠ nn (c (20 + j)) := fun j hj => by rw [← l20 j (by omega)]; exact ha j hj
      rw [hi a a1 ha']; exact g9 a a1 a2 ha'
    · rw [lo' (24 + 8 * j + q') (by omega) (by omega), dd]
      by_cases q1 : k < m
      · rw [if_pos q1]
        by_cases e : j = k
        · rw [if_pos (by omega), e]
          congr 1
          omega
        · rw [if_neg (by omega)]; exact g10 j q' hj (by omega) hq
      rw [if_neg q1]
      by_cases q2 : k = m
      · rw [if_pos q2, if_neg (by omega), if_neg (by omega)]; exact g10 j q' hj (by omega) hq
      · rw [if_neg q2, if_pos (show k ≤ 2 * m by omega)]
        have := g5 (k - m - 1) (by omega)
        rw [if_neg (by omega)]; exact g10 j q' hj (by omega) hq
    · rcases g11 with ⟨h1, h2, h3⟩ | ⟨h1, h2, h3, h4⟩
      · by_cases q2 : k = m
        · have dd' : ∀ a, ds (apW c (writeO c)) a = if a = 4 then chkW c m else if a < 8 then hdV c m a else ds c a := fun a => by
            rw [dd, if_neg (by omega), if_pos q2]
          have hv : ∀ j, j < m → hdV c m (1 + j) = c (20 + j) := fun j hj => by
            unfold hdV
            rw [if_neg (by omega), if_pos (show 1 + j ≤ 3 by omega), if_neg (by omega), show 19 + (1 + j) = 20 + j by omega]
          have h0 : hdV c m 0 = Int32.ofNat m := by unfold hdV; rw [if_neg (by omega), if_pos (by omega), if_pos rfl]
          have hz : ∀ p, 4 ≤ p → hdV c m p = 0 := fun p hp => by unfold hdV; rw [if_neg (by omega), if_neg (by omega)]
          have d1 : ∀ j, j < m → ds (apW c (writeO c)) (1 + j) = c (20 + j) := fun j hj => by
            rw [dd', if_neg (by omega), if_pos (by omega)]; exact hv j hj
          refine Or.inr ⟨by omega, ⟨?_, ?_, fun j hj => ?_⟩, fun j hj => ?_, fun j q' hj hk => by omega⟩
          · rw [dd', if_neg (by omega), if_pos (by omega)]; exact h0
          · rw [dd' 4, if_pos rfl]
            unfold chkW
            have s1 : sumT (hdV c m) 0 8 = sumT (ds (apW c (writeO c))) 0 4 := by
              show ((((sumT (hdV c m) 0 4 + hdV c m 4) + hdV c m 5) + hdV c m 6) + hdV c m 7) = _
              rw [hz 4 (by omega), hz 5 (by omega), hz 6 (by omega), hz 7 (by omega), Int32.add_zero, Int32.add_zero, Int32.add_zero, Int32.add_zero]
              refine sumT_congr 4 fun i hi => ?_
              rw [dd', if_neg (by omega), if_pos (by omega)]
            rw [s1]
            congr 1
            refine sumT_congr (8 * m) fun i hi => ?_
            rw [dd', if_neg (by omega), if_neg (by omega)]
            have := g10 (i / 8) (i % 8) (by omega) (by omega) (by omega)
            rw [show 8 * (1 + i / 8) + i % 8 = 8 + i by omega, show 24 + 8 * (i / 8) + i % 8 = 24 + i by omega] at this
            exact this
          · obtain ⟨v1, v2, v3⟩ := g5 j hj
            rw [d1 j hj]; exact ⟨_, v1, v2, v3⟩
          · rw [d1 j hj, l20 j (by omega)]
        · refine Or.inl ⟨by omega, ?_, h3.cong fun a a1 a2 => ?_⟩
          · rw [dd, if_pos (show k < m by omega), if_neg (by omega)]; exact h2
          · rw [dd, if_pos (show k < m by omega), if_neg (by omega)]
      · have v := g5 (k - m - 1) (by omega)
        have dd' : ∀ a, ds (apW c (writeO c)) a = if 8 * nn (c (20 + (k - m - 1))) ≤ a ∧ a < 8 * nn (c (20 + (k - m - 1))) + 8 then c (24 + 8 * (k - m - 1) + (a - 8 * nn (c (20 + (k - m - 1))))) else ds c a := fun a => by
          rw [dd, if_neg (by omega), if_neg (by omega), if_pos (show k ≤ 2 * m by omega)]
        have lo32 : ∀ a, a < 32 → ds (apW c (writeO c)) a = ds c a := fun a ha => by rw [dd', if_neg (by omega)]
        refine Or.inr ⟨by omega, h2.cong m3 lo32, fun j hj => ?_, fun j q' hj hk hq => ?_⟩
        · rw [lo32 _ (by omega), l20 j (by omega)]; exact h3 j hj
        · rw [l20 j (by omega), dd']
          by_cases e : j = k - m - 1
          · rw [← e, if_pos (by omega), Nat.add_sub_cancel_left]; exact g8 j q' hj hq
          · have := g7 j (k - m - 1) (by omega) (by omega)
            rw [if_neg (by omega)]; exact h4 j q' hj (by omega) hq
theorem CK.begin (C : CK c) (h18 : c 18 = 0) {S : Nat → Prop} (hS : 1 ≤ cntS S 32 ∧ cntS S 32 ≤ 3) (hR : ∀ q, S q → 4 ≤ q ∧ q < 32) (I : FSI W) (hW : ∀ a, a < 256 → ¬ S (a / 8) → W a = ds c a) (c3 : nn (c 3) ≤ 254) : CG (apW c (callW (cntS S 32) (enS S) W)) (cntS S 32) 0 W := by
  have ca := call_at (enS S) W hS.2 c
  have ex : ∀ j, j < cntS S 32 → ∃ q, q < 32 ∧ S q ∧ cntS S q = j ∧ enS S j = q := fun j hj => by
    obtain ⟨q, q1, q2, q3⟩ := cnt_ex (S := S) 32 j hj
    exact ⟨q, q1, q2, q3, enS_eq q2 q3⟩
  generalize hm : cntS S 32 = m at *
  have c20 : ∀ j, j < m → apW c (callW m (enS S) W) (20 + j) = Int32.ofNat (enS S j) := fun j hj => by
    rw [ca, if_neg (by omega), if_neg (by omega), if_pos (by omega), Nat.add_sub_cancel_left, if_pos hj]
  have n20 : ∀ j, j < m → nn (apW c (callW m (enS S) W) (20 + j)) = enS S j := fun j hj => by
    obtain ⟨q, q1, q2, q3, q4⟩ := ex j hj
    rw [c20 j hj, nn_of (by omega)]
  have dsk : ∀ a, a < 256 → ds (apW c (callW m (enS S) W)) a = ds c a := fun a ha => by
    show apW c (callW m (enS S) W) (365 + a) = _
    rw [ca, if_neg (by omega), if_neg (by omega), if_neg (by omega), if_neg (by omega)]; rfl
  obtain ⟨z2, z3⟩ : ds c 0 = 0 ∧ FSI (ds c) := by
    rcases C with ⟨-, z2, z3⟩ | ⟨m, k, W, G⟩
    · exact ⟨z2, z3⟩
    · exact absurd h18 G.ne
  refine ⟨by rw [ca, if_pos rfl], by rw [ca, if_neg (by omega), if_pos rfl]; rfl, ⟨hS.1, hS.2, by omega, ?_⟩, I, fun j hj => ?_, fun j h1 h2 => ?_, fun i j hij hj => ?_, fun j q hj hq => ?_, fun a a1 a2 ha => ?_, fun j q hj hk => by omega, Or.inl ⟨by omega, (dsk 0 (by omega)).trans z2, z3.ds dsk⟩⟩
  · rw [ca, if_neg (by omega), if_neg (by omega), if_neg (by omega), if_neg (by omega)]; exact c3
  · obtain ⟨q, q1, q2, q3, q4⟩ := ex j hj
    have := hR q q2
    rw [n20 j hj, q4]
    exact ⟨this.1, this.2, by rw [c20 j hj, q4]⟩
  · rw [ca, if_neg (by omega), if_neg (by omega), if_pos (by omega), Nat.add_sub_cancel_left, if_neg (by omega)]
  · obtain ⟨q, q1, q2, q3, q4⟩ := ex i (by omega)
    obtain ⟨r, r1, r2, r3, r4⟩ := ex j hj
    rw [n20 i (by omega), n20 j hj, q4, r4]
    intro e
    rw [e] at q3
    omega
  · rw [n20 j hj, ca, if_neg (by omega), if_neg (by omega), if_neg (by omega), if_pos (by omega), show (24 + 8 * j + q - 24) / 8 = j by omega, show (24 + 8 * j + q - 24) % 8 = q by omega]
  · rw [dsk a a2]
    refine (hW a a2 fun z => ?_).symm
    have lt := cntS_lt z (show a / 8 < 32 by omega)
    rw [hm] at lt
    exact ha _ lt (by rw [n20 _ lt]; exact (enS_eq z rfl).symm)
theorem GD.begin (G : GD B c) {S : Nat → Prop} (hS : cntS S 32 ≤ 3) (hW : ∀ a, a < 256 → rg 65535 (W a)) : GD B (apW c (callW (cntS S 32) (enS S) W)) := by
  have ca := call_at (enS S) W hS c
  have ex : ∀ j, j < cntS S 32 → enS S j < 32 := fun j hj => by
    obtain ⟨q, q1, q2, q3⟩ := cnt_ex (S := S) 32 j hj
    rw [enS_eq q2 q3]; exact q1
  generalize cntS S 32 = m at *
  intro p
  rw [ca]
  by_cases e1 : p = 18
  · rw [if_pos e1, e1]; exact gd_no rfl
  rw [if_neg e1]
  by_cases e2 : p = 19
  · rw [if_pos e2, e2]; exact gd_no rfl
  rw [if_neg e2]
  by_cases e3 : 20 ≤ p ∧ p < 23
  · rw [if_pos e3]
    obtain rfl | rfl | rfl : p = 20 ∨ p = 21 ∨ p = 22 := by omega
    all_goals exact gd_no rfl
  rw [if_neg e3]
  by_cases e4 : 24 ≤ p ∧ p < 24 + 8 * m
  · rw [if_pos e4]
    obtain ⟨q, rfl⟩ : ∃ q, p = 24 + q := ⟨p - 24, by omega⟩
    have := ex ((24 + q - 24) / 8) (by omega)
    exact gd_k (bn_pl (by omega)) (hW _ (by omega))
  · rw [if_neg e4]; exact G p
end CUS
