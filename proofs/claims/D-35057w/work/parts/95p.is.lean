/-! class and twin alike: an instruction -/
/- with AR.g AR.eqM AR.eqs RB.mem RB.reg in_reck in_move in_other in_fault in_call flt_eq sec_eq instO opO moveW serveO fltS secS stopW FSI.fw -/
/-- what an instruction writes -/
noncomputable def inL (x : ce_W ⊕ Int32) : ce_W := match x with
  | .inl ws => ws
  | .inr f => stopW f
theorem opO_ne0 (K : kk_K) (c : ce_C) (o r y : Nat) (nx : Int32) : opO K c o r y nx ≠ .inr 0 := by
  have key : ∀ (x : (ce_W × Int32) ⊕ Int32), (match x with | .inl _ => True | .inr f => f ≠ 0) → x ≠ .inr 0 := by
    intro x hx ex
    rw [ex] at hx
    exact hx rfl
  have ki : ∀ {p : Prop} [Decidable p] {a b : (ce_W × Int32) ⊕ Int32}, (match a with | .inl _ => True | .inr f => f ≠ 0) → (match b with | .inl _ => True | .inr f => f ≠ 0) → (match (if p then a else b) with | .inl _ => True | .inr f => f ≠ 0) := by
    intro p _ a b ha hb
    split
    · trivial
    · rename_i f e
      by_cases q : p
      · rw [if_pos q] at e; rw [e] at ha; exact ha
      · rw [if_neg q] at e; rw [e] at hb; exact hb
  refine key _ ?_
  unfold opO moveW serveO
  dsimp only
  repeat' (first | exact trivial | exact (show (1 : Int32) ≠ 0 by decide) | exact (show (3 : Int32) ≠ 0 by decide) | exact (show (4 : Int32) ≠ 0 by decide) | refine ki ?_ ?_)
theorem opO_f (K : kk_K) (c : ce_C) (o r y : Nat) (nx : Int32) {f : Int32} (e : opO K c o r y nx = .inr f) : f = 1 ∨ f = 3 ∨ f = 4 := by
  have key : ∀ (x : (ce_W × Int32) ⊕ Int32), (match x with | .inl _ => True | .inr f => f = 1 ∨ f = 3 ∨ f = 4) → x = .inr f → f = 1 ∨ f = 3 ∨ f = 4 := by
    intro x hx ex
    rw [ex] at hx
    exact hx
  have ki : ∀ {p : Prop} [Decidable p] {a b : (ce_W × Int32) ⊕ Int32}, (match a with | .inl _ => True | .inr f => f = 1 ∨ f = 3 ∨ f = 4) → (match b with | .inl _ => True | .inr f => f = 1 ∨ f = 3 ∨ f = 4) → (match (if p then a else b) with | .inl _ => True | .inr f => f = 1 ∨ f = 3 ∨ f = 4) := by
    intro p _ a b ha hb
    split
    · trivial
    · rename_i f e
      by_cases q : p
      · rw [if_pos q] at e; rw [e] at ha; exact ha
      · rw [if_neg q] at e; rw [e] at hb; exact hb
  refine key _ ?_ e
  unfold opO moveW serveO
  dsimp only
  repeat' (first | exact trivial | exact (show (1 : Int32) = 1 ∨ (1 : Int32) = 3 ∨ (1 : Int32) = 4 by decide) | exact (show (3 : Int32) = 1 ∨ (3 : Int32) = 3 ∨ (3 : Int32) = 4 by decide) | exact (show (4 : Int32) = 1 ∨ (4 : Int32) = 3 ∨ (4 : Int32) = 4 by decide) | refine ki ?_ ?_)
section INI
variable {n : Nat} {w : Int32} {s0 s : Nat → Nat → Int32} {M : Nat → Prop} {c : Nat → Int32} {K : kk_K}
theorem in_instr (A : AR n w s0 M c s) (hM : ∀ b, ¬ M b) (C : WC c) (F : F01 c) (I : FSI (ds c)) (R : KR K s) (hn : c 2 = Int32.ofNat n) (h1000 : n < 1000) (hk : nn (c 16) ≤ toldN K.2.1 0 (c 2) K.1) {d : Nat} (hd : 8 ≤ d) (h : ax_H) : ∃ s', ax_c d 426 [.ref 417] (tw_H h s) = some (.inl none, tw_H h s') ∧ AR n w s0 (MW (inL (instO K c))) (apW c (inL (instO K c))) s' := by
  have e27 : s 27 0 = c 3 := A.g (p := 3) (by omega)
  have e38 : s 38 0 = c 2 := A.g (p := 2) (by omega)
  have e28 : s 28 0 = c 4 := A.g (p := 4) (by omega)
  have e37 : s 37 0 = c 17 := A.g (p := 17) (by omega)
  have e39 : s 39 0 = c 16 := A.g (p := 16) (by omega)
  have h38 : 0 ≤ s 38 0 := by rw [e38, hn]; exact (i_le (a := 0) (by omega) (by omega)).mpr (by omega)
  obtain ⟨k1, k2⟩ := rg.nat C.1
  by_cases q : ¬ nn (c 3) + 1 < 256
  · have ei : instO K c = .inr 1 := by unfold instO; rw [if_pos q]
    refine ⟨_, t_instr0 (by omega) h s ?_, ?_⟩
    · rw [e27, k2]
      exact fun z => by have := (i_le (b := 254) (by omega) (by omega)).mp z; omega
    · rw [ei]; exact in_fault A hM 1
  have q : nn (c 3) + 1 < 256 := Decidable.of_not_not q
  obtain ⟨v1, v2⟩ := rg.nat (C.2.2.2.2.2.1 (nn (c 3)) (by omega))
  have em : s 25 (nn (c 3)) = Int32.ofNat (nn (c (108 + nn (c 3)))) := (A.1.mem (by omega)).trans v2
  obtain ⟨y1, y2⟩ := sec_eq A C (v := nn (c (108 + nn (c 3)))) (by omega) q
  generalize hv : nn (c (108 + nn (c 3))) = v at v1 v2 em y1 y2
  have d16 : Int32.ofNat v / 16 = Int32.ofNat (v / 16) := div_nat (b := 16) (by omega) (by omega)
  have d4 : dx_rem (Int32.ofNat v / 4) 4 = Int32.ofNat (v / 4 % 4) := by rw [show Int32.ofNat v / 4 = Int32.ofNat (v / 4) from div_nat (b := 4) (by omega) (by omega)]; exact rem_nat (b := 4) (by omega) (by omega)
  have r4 : dx_rem (Int32.ofNat v) 4 = Int32.ofNat (v % 4) := rem_nat (b := 4) (by omega) (by omega)
  have r4' : v / 4 % 4 < 4 := Nat.mod_lt _ (by omega)
  have ei : instO K c = if ¬ v / 16 ≤ 26 then .inr 2 else match opO K c (v / 16) (12 + v / 4 % 4) (secC c v) (c 3 + 2) with
    | .inl (ws, nx) => .inl (ws ++ [(3, nx)])
    | .inr f => .inr f := by
    unfold instO
    rw [if_neg (fun z => z q)]
    dsimp only
    rw [hv]
    rfl
  have i0 : ix 256 (s 27 0) = some (nn (c 3)) := ix_of (by rw [e27]; exact k2) (by omega) (by omega)
  have i1 : ix 256 (s 27 0 + 1) = some (nn (c 3) + 1) := ix_of (by rw [e27]; exact (congrArg (· + 1) k2).trans (i_add _ 1)) (by omega) (by omega)
  have ir : ix 4 (dx_rem (s 25 (nn (c 3))) 4) = some (v % 4) := ix_of (by rw [em]; exact r4) (by omega) (by omega)
  have go : ∀ s', (∀ e, e + 1 = d → (if fltS s (Int32.ofNat (v / 16)) (Int32.ofNat (secC c v)) = 0 then (if 12 ≤ Int32.ofNat (v / 16) then (if 19 ≤ Int32.ofNat (v / 16) then ax_c e 433 [.ref 417, .int (Int32.ofNat (v / 16)), .int (Int32.ofNat (v / 4 % 4)), .int (Int32.ofNat (secC c v))] (tw_H h s) else ax_c e 431 [.ref 417, .int (Int32.ofNat (v / 16)), .int (Int32.ofNat (v / 4 % 4)), .int (Int32.ofNat (secC c v))] (tw_H h s)) else ax_c e 428 [.ref 417, .int (Int32.ofNat (v / 16)), .int (Int32.ofNat (v / 4 % 4)), .int (Int32.ofNat (secC c v))] (tw_H h s)) else ax_c e 422 [.ref 417, .int (fltS s (Int32.ofNat (v / 16)) (Int32.ofNat (secC c v)))] (tw_H h s)) = some (.inl none, tw_H h s')) → ax_c d 426 [.ref 417] (tw_H h s) = some (.inl none, tw_H h s') := by
    intro s' hu
    refine t_instr (by omega) h s s' ?_ i0 i1 ir fun e he y hy => ?_
    · rw [e27, k2]; exact (i_le (b := 254) (by omega) (by omega)).mpr (by omega)
    · rw [hy, em, y1, d16, d4]
      exact hu e he
  generalize hy : secC c v = y at go ei y2
  generalize ho : v / 16 = o at go ei
  generalize hr : v / 4 % 4 = r at go ei r4'
  have flt0 : ∀ f : Int32, fltS s (Int32.ofNat o) (Int32.ofNat y) = f → f ≠ 0 → inL (instO K c) = stopW f → ∃ s', ax_c d 426 [.ref 417] (tw_H h s) = some (.inl none, tw_H h s') ∧ AR n w s0 (MW (inL (instO K c))) (apW c (inL (instO K c))) s' := by
    intro f hf h0 hi
    refine ⟨tw_up (tw_up s 23 0 3) 24 0 f, go _ fun e he => ?_, by rw [hi]; exact in_fault A hM f⟩
    rw [hf, if_neg h0]
    exact t_faults (by omega) h s f
  by_cases q2 : ¬ o ≤ 26
  · rw [if_pos q2] at ei
    refine flt0 2 ?_ (by decide) (by rw [ei]; rfl)
    unfold fltS
    rw [if_neg (show ¬ Int32.ofNat o ≤ 26 from fun z => q2 ((i_le (b := 26) (by omega) (by omega)).mp z))]
  have q2 : o ≤ 26 := by omega
  rw [if_neg (fun z => z q2)] at ei
  have o26 : Int32.ofNat o ≤ 26 := (i_le (b := 26) (by omega) (by omega)).mpr q2
  have fe := flt_eq (K := K) (r := 12 + r) A C q2 y2 (c 3 + 2)
  have le12 : (12 : Int32) ≤ Int32.ofNat o ↔ 12 ≤ o := i_le (a := 12) (by omega) (by omega)
  have le19 : (19 : Int32) ≤ Int32.ofNat o ↔ 19 ≤ o := i_le (a := 19) (by omega) (by omega)
  have i4 : ix 4 (Int32.ofNat r) = some r := ix_of rfl r4' (by omega)
  cases hO : opO K c o (12 + r) y (c 3 + 2) with
  | inr f =>
    rw [hO] at fe ei
    have f0 : f ≠ 0 := by
      intro f0
      subst f0
      exact opO_ne0 _ _ _ _ _ _ hO
    exact flt0 f fe f0 (by rw [ei]; rfl)
  | inl p =>
    obtain ⟨ws, nx⟩ := p
    rw [hO] at fe ei
    have iL : inL (instO K c) = ws ++ [(3, nx)] := by rw [ei]; rfl
    have fe0 : fltS s (Int32.ofNat o) (Int32.ofNat y) = 0 := fe
    rw [iL]
    have cs : ∀ x, x < 27 → o ≠ x → Int32.ofNat o ≠ Int32.ofNat x := fun x hx h z => h ((i_eq (by omega) (by omega)).mp z)
    by_cases o1 : 4 ≤ o ∧ o ≤ 11
    · have e1 : opO K c o (12 + r) y (c 3 + 2) = .inl (reckW c (Int32.ofNat o) (Int32.ofNat (12 + r)) (Int32.ofNat y), c 3 + 2) := by unfold opO; rw [if_pos o1]
      rw [e1] at hO
      cases hO
      refine ⟨_, go _ fun e he => ?_, (in_reck A C o1 r4' y2).eqM fun a => ⟨fun z => absurd z (MW_lo (fun q hq => ?_) a), fun z => absurd z (hM a)⟩⟩
      · rw [if_pos fe0, if_neg (fun z => by have := le12.mp z; omega)]
        exact t_reckons (by omega) h s h38 _ _ _ i4 (fun z => z.elim (fun z => absurd z (cs 2 (by omega) (by omega))) fun z => absurd z (cs 3 (by omega) (by omega)))
      · rcases List.mem_append.mp hq with hq | hq
        · unfold reckW at hq
          dsimp only at hq
          rcases List.mem_append.mp hq with hq | hq
          · rcases List.mem_cons.mp hq with rfl | hq
            · show 6 < 108; omega
            · rw [List.mem_singleton.mp hq]; show 5 < 108; omega
          · split at hq
            · exact absurd hq List.not_mem_nil
            · rw [List.mem_singleton.mp hq]
              show nn (Int32.ofNat (12 + r)) < 108
              rw [nn_of (by omega)]; omega
        · rw [List.mem_singleton.mp hq]; show 3 < 108; omega
    by_cases o2 : o ≤ 18
    · have e1 : moveW c (Int32.ofNat o) (Int32.ofNat (12 + r)) (Int32.ofNat y) (c 3 + 2) = .inl (ws, nx) := by
        rw [← hO]; unfold opO; rw [if_neg o1, if_pos o2]
      have B := in_move A C F hM hn h1000 (o := o) (r := r) (y := y) (by omega) r4' y2 e1
      refine ⟨_, go _ fun e he => ?_, B⟩
      obtain ⟨c1, c2⟩ := rg.nat C.2.1
      by_cases o3 : o ≤ 3
      · rw [if_pos fe0, if_neg (fun z => by have := le12.mp z; omega), if_pos o3]
        refine t_reckons (by omega) h s h38 _ _ _ i4 (fun z => ?_)
        have y256 : Int32.ofNat y < 256 := by
          revert fe0
          unfold fltS
          rw [if_pos o26]
          by_cases y' : Int32.ofNat y < 256
          · exact fun _ => y'
          · rw [if_pos ⟨z, y'⟩]; exact fun z => absurd z (by decide)
        have := (i_lt (b := 256) (by omega) (by omega)).mp y256
        rw [show (Int32.ofNat y).toNatClampNeg = y from i_nat (by omega)]
        exact ix_of rfl this (by omega)
      · rw [if_pos fe0, if_pos (le12.mpr (by omega)), if_neg (fun z => by have := le19.mp z; omega), if_neg o3]
        refine t_jumps (by omega) h s h38 _ _ _ ?_ i4 (fun z => ?_) (fun z => ?_)
        · obtain rfl | rfl | rfl | rfl | rfl | rfl | rfl : o = 12 ∨ o = 13 ∨ o = 14 ∨ o = 15 ∨ o = 16 ∨ o = 17 ∨ o = 18 := by omega
          · exact Or.inl rfl
          · exact Or.inr (Or.inl rfl)
          · exact Or.inr (Or.inr (Or.inl rfl))
          · exact Or.inr (Or.inr (Or.inr (Or.inl rfl)))
          · exact Or.inr (Or.inr (Or.inr (Or.inr (Or.inl rfl))))
          · exact Or.inr (Or.inr (Or.inr (Or.inr (Or.inr (Or.inl rfl)))))
          · exact Or.inr (Or.inr (Or.inr (Or.inr (Or.inr (Or.inr rfl)))))
        · have one : ¬ s 28 0 < 1 := by
            intro y'
            revert fe0
            unfold fltS
            rw [if_pos o26]
            rw [if_neg (show ¬ ((Int32.ofNat o = 2 ∨ Int32.ofNat o = 3) ∧ ¬ Int32.ofNat y < 256) from fun z => z.1.elim (cs 2 (by omega) (by omega)) (cs 3 (by omega) (by omega))), if_pos ⟨z, y'⟩]
            exact fun z => absurd z (by decide)
          rw [e28] at one ⊢
          obtain ⟨d1, d2, d3⟩ := rg_dec C.2.1 (Int32.not_lt.mp one)
          refine ⟨?_, d3⟩
          rw [d2]; exact (i_le (a := 0) (by omega) (by omega)).mpr (by omega)
        · have le : s 28 0 + 1 ≤ 256 := by
            revert fe0
            unfold fltS
            rw [if_pos o26, if_pos z]
            have n2 : ¬ ((Int32.ofNat o = 2 ∨ Int32.ofNat o = 3) ∧ ¬ Int32.ofNat y < 256) := fun y => y.1.elim (cs 2 (by omega) (by omega)) (cs 3 (by omega) (by omega))
            have n15 : ¬ ((Int32.ofNat o = 15 ∨ Int32.ofNat o = 17) ∧ s 28 0 < 1) := fun y => by
              rcases z with z | z <;> rw [z] at y <;> exact absurd y.1 (by decide)
            rw [if_neg n2, if_neg n15]
            by_cases y' : s 28 0 + 1 ≤ 256
            · exact fun _ => y'
            · rw [if_neg y']; exact fun z => absurd z (by decide)
          rw [e28, c2, show Int32.ofNat (nn (c 4)) + 1 = Int32.ofNat (nn (c 4) + 1) from i_add _ 1] at le
          have := (i_le (b := 256) (by omega) (by omega)).mp le
          rw [e28]
          exact ix_of c2 (by show nn (c 4) < 256; omega) (by omega)
    · have e1 : serveO K c (Int32.ofNat o) (Int32.ofNat (12 + r)) (Int32.ofNat y) (c 3 + 2) = .inl (ws, nx) := by
        rw [← hO]; unfold opO; rw [if_neg o1, if_neg o2]
      by_cases o26 : o = 26
      · subst o26
        obtain ⟨s', t1, t2⟩ := in_call A hM I (C.2.2.1 1 (by omega)) (y := y) (by omega) (d := d - 2) (by omega) h
        have e2 : serveO K c (Int32.ofNat 26) (Int32.ofNat (12 + r)) (Int32.ofNat y) (c 3 + 2) = .inl ((callO c (Int32.ofNat y)).1, if (callO c (Int32.ofNat y)).2 = 0 then c 3 + 2 - 2 else c 3 + 2) := by
          unfold serveO
          rw [if_neg (by decide), if_neg (by decide), if_neg (by decide), if_neg (by decide), if_neg (by decide), if_neg (by decide), if_neg (by decide)]
        rw [e2] at e1
        cases e1
        refine ⟨s', go _ fun e he => ?_, t2⟩
        obtain ⟨f, rfl⟩ : ∃ f, d = f + 2 := ⟨d - 2, by omega⟩
        obtain rfl : e = f + 1 := by omega
        rw [if_pos fe0, if_pos (le12.mpr (by omega)), if_pos (le19.mpr (by omega))]
        refine dx_app m_X3_others ?_
        rw [if_pos (by decide), if_neg (fun z => z rfl), tw_vn, Option.bind_some]
        have t1' : ax_c f 434 [.ref 417, .int (Int32.ofNat y)] (tw_H h s) = some (.inl none, tw_H h s') := t1
        rw [t1', cV_v]
      · have B := in_other A C F R hM hk (o := o) (r := r) (y := y) (by omega) r4' y2 e1
        refine ⟨_, go _ fun e he => ?_, B⟩
        rw [if_pos fe0, if_pos (le12.mpr (by omega)), if_pos (le19.mpr (by omega))]
        refine t_others (by omega) h s _ _ _ ?_ i4 (fun z => ?_) (fun z => ⟨R.1, R.2.1, fun z2 => ?_⟩) (fun z => ?_)
        · obtain rfl | rfl | rfl | rfl | rfl | rfl | rfl : o = 19 ∨ o = 20 ∨ o = 21 ∨ o = 22 ∨ o = 23 ∨ o = 24 ∨ o = 25 := by omega
          · exact Or.inl rfl
          · exact Or.inr (Or.inl rfl)
          · exact Or.inr (Or.inr (Or.inl rfl))
          · exact Or.inr (Or.inr (Or.inr (Or.inl rfl)))
          · exact Or.inr (Or.inr (Or.inr (Or.inr (Or.inl rfl))))
          · exact Or.inr (Or.inr (Or.inr (Or.inr (Or.inr (Or.inl rfl)))))
          · exact Or.inr (Or.inr (Or.inr (Or.inr (Or.inr (Or.inr rfl)))))
        · obtain ⟨c1, c2⟩ := rg.nat C.2.1
          have le : s 28 0 + 2 ≤ 256 := by
            revert fe0
            unfold fltS
            rw [z]
            rw [if_pos (by decide), if_neg (fun z => absurd z.1 (by decide)), if_neg (fun z => absurd z.1 (by decide)), show (if (21 : Int32) = 16 ∨ (21 : Int32) = 18 then (1 : Int32) else if (21 : Int32) = 21 then 2 else 0) = 2 from by decide]
            by_cases y' : s 28 0 + 2 ≤ 256
            · exact fun _ => y'
            · rw [if_neg y']; exact fun z => absurd z (by decide)
          rw [e28, c2, show Int32.ofNat (nn (c 4)) + 2 = Int32.ofNat (nn (c 4) + 2) from i_add _ 2] at le
          have le := (i_le (b := 256) (by omega) (by omega)).mp le
          have e4 : (c 4 + 1).toNatClampNeg = nn (c 4) + 1 := by
            rw [c2, show Int32.ofNat (nn (c 4)) + 1 = Int32.ofNat (nn (c 4) + 1) from i_add _ 1, nn_of (by omega)]
            exact i_nat (by omega)
          rw [e28]
          refine ⟨ix_of c2 (by show nn (c 4) < 256; omega) (by omega), ?_⟩
          rw [e4]
          exact ix_of (by rw [c2, show Int32.ofNat (nn (c 4)) + 1 = Int32.ofNat (nn (c 4) + 1) from i_add _ 1, nn_of (by omega)]) (by omega) (by omega)
        · obtain ⟨c1, c2⟩ := rg.nat C.2.2.2.1
          have := cntT_le s K.1
          have k20 := R.2.1
          rw [e39] at z2 ⊢
          have lt : ¬ cntT s K.1 ≤ nn (c 16) := fun y => z2 (by rw [c2]; exact (i_le (by omega) (by omega)).mpr y)
          exact ix_of c2 (by show nn (c 16) < 20; omega) (by omega)
        · obtain ⟨c1, c2⟩ := rg.nat C.2.2.2.2.1
          have ne : ¬ s 37 0 = 60 := by
            intro y'
            revert fe0
            unfold fltS
            have s0 : s 28 0 + 0 ≤ 256 := by
              obtain ⟨d1, d2⟩ := rg.nat C.2.1
              rw [Int32.add_zero, e28, d2]; exact (i_le (b := 256) (by omega) (by omega)).mpr d1
            rw [z]
            rw [if_pos (by decide), if_neg (fun z => absurd z.1 (by decide)), if_neg (fun z => absurd z.1 (by decide)), show (if (25 : Int32) = 16 ∨ (25 : Int32) = 18 then (1 : Int32) else if (25 : Int32) = 21 then 2 else 0) = 0 from by decide, if_pos s0, if_pos ⟨rfl, y'⟩]
            exact fun z => absurd z (by decide)
          rw [e37] at ne ⊢
          have : nn (c 17) ≠ 60 := fun y => ne (by rw [c2, y]; rfl)
          exact ix_of c2 (by show nn (c 17) < 60; omega) (by omega)
end INI
