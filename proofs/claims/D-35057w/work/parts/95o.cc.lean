/-! class and twin alike: a file call -/
/- with AR.up AR.reg AR.eqM AR.g AR.eqc RB.dsk RB.reg ansS rdS prepF drS noW resF resA szF plO callO callW MW MW_app FSI.fw remF_ne appS1 appS2 rmvS addS noS -/
theorem MW_lo {ws : ce_W} (h : ∀ q, q ∈ ws → q.1 < 108) : ∀ a, ¬ MW ws a := fun a ⟨x, hx⟩ => by
  have : 108 + a < 108 := h _ hx
  omega
theorem evW_lt {W : Nat → Int32} {o b : Nat} : ∀ (m j : Nat), o + j + m ≤ 48 → ∀ q, q ∈ evW W o b m j → q.1 < 108 := by
  intro m
  induction m with
  | zero => intro j _ q hq; exact absurd hq List.not_mem_nil
  | succ m ih =>
    intro j hj q hq
    rcases List.mem_cons.mp hq with rfl | hq
    · show o + j < 108; omega
    · exact ih (j + 1) (by omega) q hq
theorem plkW_lt {m : Nat} {nb : Nat → Nat} {W : Nat → Int32} : ∀ (i k : Nat), k + i = 3 → ∀ q, q ∈ plkW m nb W i k → q.1 < 108 := by
  intro i
  induction i with
  | zero => intro k _ q hq; exact absurd hq List.not_mem_nil
  | succ i ih =>
    intro k hk q hq
    rcases List.mem_append.mp (show q ∈ ((20 + k, if k < m then Int32.ofNat (nb k) else 0) :: (if k < m then evW W (24 + 8 * k) (nb k) 8 0 else [])) ++ plkW m nb W i (k + 1) from hq) with hq | hq
    · rcases List.mem_cons.mp hq with rfl | hq
      · show 20 + k < 108; omega
      · by_cases z : k < m
        · rw [if_pos z] at hq
          exact evW_lt 8 0 (by omega) q hq
        · rw [if_neg z] at hq
          exact absurd hq List.not_mem_nil
    · exact ih (k + 1) (by omega) q hq
theorem callW_lt {m : Nat} {nb : Nat → Nat} {W : Nat → Int32} : ∀ q, q ∈ callW m nb W → q.1 < 108 := by
  intro q hq
  rcases List.mem_append.mp (show q ∈ [(18, Int32.ofNat m), (19, 0)] ++ plkW m nb W 3 0 from hq) with hq | hq
  · rcases List.mem_cons.mp hq with rfl | hq
    · show 18 < 108; omega
    · rcases List.mem_cons.mp hq with rfl | hq
      · show 19 < 108; omega
      · exact absurd hq List.not_mem_nil
  · exact plkW_lt 3 0 rfl q hq
theorem cnt_noS : ∀ N, cntS noS N = 0 := by
  intro N
  induction N with
  | zero => rfl
  | succ N ih => rw [cntS_n (S := noS) (k := N) (fun z => z)]; exact ih
section CAL
variable {n : Nat} {w : Int32} {s0 s : Nat → Nat → Int32} {M : Nat → Prop} {c : Nat → Int32}
theorem in_call (A : AR n w s0 M c s) (hM : ∀ b, ¬ M b) (I : FSI (ds c)) (C13 : rg 65535 (c 13)) {y : Nat} (hy : y ≤ 65535) {d : Nat} (hd : 5 ≤ d) (h : ax_H) : ∃ s', ax_c d 434 [.ref 417, .int (Int32.ofNat y)] (tw_H h s) = some (.inl none, tw_H h s') ∧ AR n w s0 (MW ((callO c (Int32.ofNat y)).1 ++ [(3, if (callO c (Int32.ofNat y)).2 = 0 then c 3 + 2 - 2 else c 3 + 2)])) (apW c ((callO c (Int32.ofNat y)).1 ++ [(3, if (callO c (Int32.ofNat y)).2 = 0 then c 3 + 2 - 2 else c 3 + 2)])) s' := by
  have e0 : s 26 0 = c 12 := A.1.reg (a := 0) (by omega)
  have e1 : s 26 1 = c 13 := A.1.reg (a := 1) (by omega)
  have e2 : s 26 2 = c 14 := A.1.reg (a := 2) (by omega)
  have e50 : ∀ a, a < 256 → s 50 a = ds c a := fun a ha => A.1.dsk ha
  have ef : ∀ x, findF (s 50) x = findF (ds c) x := fun x => findR_cong (fun a ha => e50 a (by omega)) x 6 0 rfl
  have er : freeF (s 50) = freeF (ds c) := freeR_cong (fun a ha => e50 a (by omega)) 24 8 rfl
  obtain ⟨nf, hnf⟩ : ∃ nf, findF (ds c) (c 12) = -1 ∨ (findF (ds c) (c 12) = Int32.ofNat nf ∧ nf < 6) := by
    rcases findF_nat (ds c) (c 12) with z | ⟨f, f1, f2, f3⟩
    · exact ⟨0, Or.inl z⟩
    · exact ⟨f, Or.inr ⟨f2, f1⟩⟩
  generalize hk : Int32.ofNat y = k
  have lf : ∀ {a b : Prop}, a ∨ b → (a → b) → b := fun h f => h.elim f id
  have no : ∀ (rw0 : ce_W) (res : Int32) (j b r : Nat), plO c k = (rw0, res, noS, ds c) → resF s k (findF (ds c) (c 12)) nf = res → noW s k res → AR n w s0 M (apW c rw0) (rdS s k res nf b r) → apW c rw0 3 = c 3 → (∀ q, q ∈ rw0 → q.1 < 108) → ((k = 3 ∨ k = 4) → res = 0 → findF (ds c) (c 12) = Int32.ofNat nf ∧ nf < 6) → (k = 3 → res = 0 → s 26 1 / 8 = Int32.ofNat j ∧ j < 2 ∧ dx_rem (s 26 1) 8 = Int32.ofNat r ∧ r < 8 ∧ s 50 (40 + 4 * nf + 2 + j) = Int32.ofNat b ∧ b < 32) → ∃ s', ax_c d 434 [.ref 417, .int k] (tw_H h s) = some (.inl none, tw_H h s') ∧ AR n w s0 (MW ((callO c k).1 ++ [(3, if (callO c k).2 = 0 then c 3 + 2 - 2 else c 3 + 2)])) (apW c ((callO c k).1 ++ [(3, if (callO c k).2 = 0 then c 3 + 2 - 2 else c 3 + 2)])) s' := by
    intro rw0 res j b r hp hR hn hA h3 hlo hf' h3'
    have hc : callO c k = (rw0 ++ [(15, res)], 1) := by
      unfold callO
      rw [hp]
      exact if_pos (cnt_noS 32)
    have := t_callsR hd h s k nf j b r (by rw [ef, e0]; exact hnf) (by rw [ef, e0, hR]; exact hn) (by rw [ef, e0, hR]; exact hf') (by rw [ef, e0, hR]; exact h3')
    rw [ef, e0, hR] at this
    refine ⟨_, this, ?_⟩
    rw [hc]
    show AR n w s0 (MW ((rw0 ++ [(15, res)]) ++ [(3, if (1 : Int32) = 0 then c 3 + 2 - 2 else c 3 + 2)])) (apW c ((rw0 ++ [(15, res)]) ++ [(3, if (1 : Int32) = 0 then c 3 + 2 - 2 else c 3 + 2)])) _
    rw [if_neg (show ¬ (1 : Int32) = 0 by decide), apW_app, apW_app]
    refine AR.eqM (M := M) ?_ (fun a => ⟨fun z => absurd z (MW_lo (fun q hq => ?_) a), fun z => absurd z (hM a)⟩)
    · have B := (hA.reg (x := res) (r := 3) (by omega)).up (x := c 3 + 2) (p := 3) (Or.inl (by omega)) rfl rfl
      refine B.eqs ?_
      show tw_up (tw_up (rdS s k res nf b r) 26 3 res) 27 0 (rdS s k res nf b r 27 0 + 2) = _
      rw [show rdS s k res nf b r 27 0 = c 3 from (hA.g (p := 3) (by omega)).trans h3]; rfl
    · rcases List.mem_append.mp hq with hq | hq
      · rcases List.mem_append.mp hq with hq | hq
        · exact hlo q hq
        · rw [List.mem_singleton.mp hq]; show 15 < 108; omega
      · rw [List.mem_singleton.mp hq]; show 3 < 108; omega
  have no0 : ∀ (res : Int32), plO c k = ([], res, noS, ds c) → resF s k (findF (ds c) (c 12)) nf = res → noW s k res → (¬ res = 0 ∨ (¬ k = 3 ∧ ¬ k = 4)) → ∃ s', ax_c d 434 [.ref 417, .int k] (tw_H h s) = some (.inl none, tw_H h s') ∧ AR n w s0 (MW ((callO c k).1 ++ [(3, if (callO c k).2 = 0 then c 3 + 2 - 2 else c 3 + 2)])) (apW c ((callO c k).1 ++ [(3, if (callO c k).2 = 0 then c 3 + 2 - 2 else c 3 + 2)])) s' := by
    intro res hp hR hn h34
    refine no [] res 0 0 0 hp hR hn (A.eqs ?_) rfl (fun q hq => absurd hq List.not_mem_nil) (fun z z0 => h34.elim (fun y => absurd z0 y) fun y => z.elim (fun x => absurd x y.1) fun x => absurd x y.2) (fun z z0 => h34.elim (fun y => absurd z0 y) fun y => absurd z y.1)
    unfold rdS
    by_cases q : res = 0
    · obtain ⟨q3, q4⟩ := h34.resolve_left (fun z => z q)
      rw [if_pos q, if_neg q3, if_neg q4]
    · rw [if_neg q]
  have u51 : ∀ a, a < 256 → drS s 51 a = ds c a := fun a ha => by
    unfold drS
    rw [fl_at, if_pos rfl]
    show (if a < 256 then s 50 a else s 51 a) = _
    rw [if_pos ha]; exact e50 a ha
  have une : ∀ f, f ≠ 51 → drS s f = s f := fun f hf => fl_ne hf
  have yes : ∀ (S : Nat → Prop) (W : Nat → Int32) (x : Int32) (t : Nat → Nat → Int32), plO c k = ([], 0, S, W) → resF s k (findF (ds c) (c 12)) nf = 0 → ¬ noW s k 0 → (1 ≤ cntS S 32 ∧ cntS S 32 ≤ 3) → (∀ k, k < 32 → (onB x k ↔ S k)) → (∀ f, f ≠ 51 → t f = s f) → (∀ a, a < 256 → t 51 a = W a) → (∀ d, 4 ≤ d → (if k = 0 then ax_c d 440 [.ref 417] (tw_H h (drS s)) else if k = 1 then ax_c d 442 [.ref 417, .int (findF (ds c) (c 12))] (tw_H h (drS s)) else if k = 2 then ax_c d 444 [.ref 417, .int (findF (ds c) (c 12))] (tw_H h (drS s)) else if k = 5 then ax_c d 445 [.ref 417, .int (findF (ds c) (c 12))] (tw_H h (drS s)) else ax_c d 446 [.ref 417, .int (findF (ds c) (c 12))] (tw_H h (drS s))) = some (.inl (some (.int x)), tw_H h t)) → ∃ s', ax_c d 434 [.ref 417, .int k] (tw_H h s) = some (.inl none, tw_H h s') ∧ AR n w s0 (MW ((callO c k).1 ++ [(3, if (callO c k).2 = 0 then c 3 + 2 - 2 else c 3 + 2)])) (apW c ((callO c k).1 ++ [(3, if (callO c k).2 = 0 then c 3 + 2 - 2 else c 3 + 2)])) s' := by
    intro S W x t hp hR hn hS hx ht hW hq
    have hc : callO c k = (callW (cntS S 32) (enS S) W, 0) := by
      unfold callO
      rw [hp]
      exact if_neg (by show ¬ cntS S 32 = 0; omega)
    have := t_callsW hd h s t k x nf (by rw [ef, e0]; exact hnf) (by rw [ef, e0, hR]; exact hn) (by rw [cnt_eq hx 32 (by omega)]; exact hS.2) (by rw [ef, e0]; exact hq)
    refine ⟨_, this, ?_⟩
    rw [hc]
    show AR n w s0 (MW (callW (cntS S 32) (enS S) W ++ [(3, if (0 : Int32) = 0 then c 3 + 2 - 2 else c 3 + 2)])) (apW c (callW (cntS S 32) (enS S) W ++ [(3, if (0 : Int32) = 0 then c 3 + 2 - 2 else c 3 + 2)])) _
    rw [if_pos rfl, Int32.add_sub_cancel, apW_app]
    have B := in_prep A hx ht hW rfl hS.1 hS.2
    refine AR.eqM (M := M) (B.eqc ?_) (fun a => ⟨fun z => absurd z (MW_lo (fun q hq => ?_) a), fun z => absurd z (hM a)⟩)
    · show upd (apW c (callW (cntS S 32) (enS S) W)) 3 (c 3) = _
      have c3 : apW c (callW (cntS S 32) (enS S) W) 3 = c 3 := by
        rw [call_at _ _ hS.2, if_neg (by omega), if_neg (by omega), if_neg (by omega), if_neg (by omega)]
      have := upd_same (apW c (callW (cntS S 32) (enS S) W)) 3
      rw [c3] at this
      exact this
    · rcases List.mem_append.mp hq with hq | hq
      · exact callW_lt q hq
      · rw [List.mem_singleton.mp hq]; show 3 < 108; omega
  have ni : ∀ a b : Nat, a < 2 ^ 31 → b < 2 ^ 31 → a ≠ b → Int32.ofNat a ≠ Int32.ofNat b := fun a b ha hb h z => h ((i_eq ha hb).mp z)
  have k6 : k ≤ 6 ↔ y ≤ 6 := by rw [← hk]; exact i_le (b := 6) (by omega) (by omega)
  have kn : ∀ v : Nat, v < 7 → y ≠ v → k ≠ Int32.ofNat v := fun v hv h z => h ((i_eq (by omega) (by omega)).mp (hk.trans z))
  by_cases y6 : ¬ y ≤ 6
  · refine no0 9 ?_ ?_ (Or.inl (by decide)) (Or.inl (by decide))
    · unfold plO
      dsimp only
      rw [if_pos (fun z => y6 (k6.mp z))]
    · unfold resF
      rw [if_neg (show ¬ k = 0 from kn 0 (by omega) (by omega)), if_pos (fun z => y6 (k6.mp z))]
  have y6 : y ≤ 6 := Nat.le_of_not_lt (fun z => y6 (by omega))
  have p6 : ¬ ¬ k ≤ 6 := fun z => z (k6.mpr y6)
  by_cases y0 : y = 0
  · have k0 : k = 0 := by rw [← hk, y0]; rfl
    by_cases q1 : c 12 = 0
    · refine no0 1 ?_ ?_ (Or.inl (by decide)) (Or.inl (by decide))
      · unfold plO
        dsimp only
        rw [if_neg p6, if_pos k0, if_pos q1]
      · unfold resF
        rw [if_pos k0, if_pos (Or.inl (e0.trans q1))]
    rcases hnf with q2 | ⟨q2, n6⟩
    · rcases findF_nat (ds c) 0 with q3 | ⟨g, g1, g2, g3⟩
      · refine no0 2 ?_ ?_ (Or.inl (by decide)) (Or.inl (by decide))
        · unfold plO
          dsimp only
          rw [if_neg p6, if_pos k0, if_neg q1, if_neg q1, if_neg (fun z => z q2), if_pos q3]
        · unfold resF
          rw [if_pos k0, if_neg (fun z => z.elim (fun z => q1 (e0.symm.trans z)) fun z => z q2), ef, if_pos q3]
      · have ng : ¬ Int32.ofNat g = -1 := ofNat_ne_neg (by omega)
        have b := cnt_b (S := addS noS (5 + g / 2)) (t0 := 5 + g / 2) (t1 := 5 + g / 2) (t2 := 5 + g / 2) (fun q hq => hq.elim (fun z => z.elim) Or.inl) (q := 5 + g / 2) (Or.inr rfl) (by omega)
        refine yes (addS noS (5 + g / 2)) (entW (ds c) g 0 (c 12)) (dx_shl 1 (5 + Int32.ofNat g / 2)) (makeFS (drS s) g) ?_ ?_ ?_ b (fun q hq => ?_) (fun f hf => ?_) (will_make u51 I g1 g3 ?_) (fun d hd => ?_)
        · unfold plO
          dsimp only
          rw [if_neg p6, if_pos k0, if_neg q1, if_neg q1, if_neg (fun z => z q2), g2, if_neg ng, nn_of (by omega)]
        · unfold resF
          rw [if_pos k0, if_neg (fun z => z.elim (fun z => q1 (e0.symm.trans z)) fun z => z q2), ef, g2, if_neg ng]
        · exact fun z => z.elim (fun z => z rfl) fun z => z.elim (kn 3 (by omega) (by omega)) fun z => z.elim (kn 4 (by omega) (by omega)) fun z => kn 6 (by omega) (by omega) z.1
        · rw [onB_ent g1 hq]
          exact ⟨Or.inr, fun z => z.elim (fun z => z.elim) id⟩
        · unfold makeFS
          rw [tw_up_at, if_neg hf, tw_up_at, if_neg hf, tw_up_at, if_neg hf, tw_up_at, if_neg hf]; exact une f hf
        · rw [une 26 (by decide)]; exact e0
        · rw [if_pos k0]
          exact t_makesFile (by omega) h (drS s) g g1 (by rw [une 50 (by decide), ef]; exact g2)
    · refine no0 1 ?_ ?_ (Or.inl (by decide)) (Or.inl (by decide))
      · unfold plO
        dsimp only
        rw [if_neg p6, if_pos k0, if_neg q1, if_neg q1, if_pos (show ¬ findF (ds c) (c 12) = -1 by rw [q2]; exact ofNat_ne_neg (by omega))]
      · unfold resF
        rw [if_pos k0, if_pos (Or.inr (show ¬ findF (ds c) (c 12) = -1 by rw [q2]; exact ofNat_ne_neg (by omega)))]
  have k0 : ¬ k = 0 := kn 0 (by omega) y0
  by_cases qn : c 12 = 0 ∨ findF (ds c) (c 12) = -1
  · refine no0 1 ?_ ?_ (Or.inl (by decide)) (Or.inl (by decide))
    · unfold plO
      dsimp only
      rw [if_neg p6, if_neg k0, if_pos (show (if c 12 = 0 then (-1 : Int32) else findF (ds c) (c 12)) = -1 from qn.elim (fun z => if_pos z) (fun z => by rw [z]; split <;> rfl))]
    · unfold resF
      rw [if_neg k0, if_neg p6, if_pos (qn.elim (fun z => Or.inl (e0.trans z)) (fun z => Or.inr (Or.inl z)))]
  obtain ⟨q1, q2⟩ := not_or.mp qn
  obtain ⟨fF1, n6⟩ := hnf.resolve_left q2
  obtain ⟨i1, ⟨z, z1, z2, z3⟩, i3⟩ := I.1 nf n6
  obtain ⟨n13, m13⟩ := rg.nat C13
  have nm1 : ¬ Int32.ofNat nf = -1 := ofNat_ne_neg (by omega)
  have sz : szF s nf = Int32.ofNat z := (e50 _ (by omega)).trans z2
  have pl : plO c k = if k = 1 then (if z = 16 then ([], 2, noS, ds c) else if ¬ z % 8 = 0 then ([], 0, appS1 nf (nn (ds c (40 + 4 * nf + (2 + z / 8)))), appW1 (ds c) nf z (nn (ds c (40 + 4 * nf + (2 + z / 8)))) (c 13)) else if freeF (ds c) = -1 then ([], 3, noS, ds c) else ([], 0, appS2 nf (nn (freeF (ds c))), appW2 (ds c) nf z (nn (freeF (ds c))) (c 13)))
      else if k = 2 then (if c 13 < Int32.ofNat z then ([], 0, addS noS (nn (ds c (40 + 4 * nf + (2 + nn (c 13) / 8)))), upd (ds c) (8 * nn (ds c (40 + 4 * nf + (2 + nn (c 13) / 8))) + nn (c 13) % 8) (c 14)) else ([], 2, noS, ds c))
      else if k = 3 then (if c 13 < Int32.ofNat z then ([(14, ds c (8 * nn (ds c (40 + 4 * nf + (2 + nn (c 13) / 8))) + nn (c 13) % 8))], 0, noS, ds c) else ([], 2, noS, ds c))
      else if k = 4 then ([(13, Int32.ofNat z)], 0, noS, ds c)
      else if k = 5 then ([], 0, rmvS (ds c) nf noS, rmvW (ds c) nf 4 0 (ds c))
      else if c 13 = 0 then ([], 1, noS, ds c)
      else if c 13 = c 12 then ([], 0, noS, ds c)
      else if findF (ds c) (c 13) = -1 then ([], 0, addS noS (5 + nf / 2), entW (ds c) nf 0 (c 13))
      else ([], 0, addS (rmvS (ds c) (nn (findF (ds c) (c 13))) noS) (5 + nf / 2), entW (rmvW (ds c) (nn (findF (ds c) (c 13))) 4 0 (ds c)) nf 0 (c 13)) := by
    unfold plO
    dsimp only
    rw [if_neg p6, if_neg k0, if_neg q1, fF1, if_neg nm1, nn_of (show nf < 2 ^ 31 by omega), z2, nn_of (show z < 2 ^ 31 by omega)]
  have rs : resF s k (findF (ds c) (c 12)) nf = if k = 6 ∧ c 13 = 0 then 1 else if k = 1 then (if Int32.ofNat z = 16 then 2 else if dx_rem (Int32.ofNat z) 8 = 0 ∧ freeF (ds c) = -1 then 3 else 0) else if (k = 2 ∨ k = 3) ∧ ¬ c 13 < Int32.ofNat z then 2 else 0 := by
    unfold resF
    rw [if_neg k0, if_neg p6, e0, e1]
    by_cases q : k = 6 ∧ c 13 = 0
    · rw [if_pos (Or.inr (Or.inr q)), if_pos q]
    · rw [if_neg (fun z => z.elim q1 fun z => z.elim q2 q), if_neg q]
      unfold resA
      rw [sz, er, e1]
  have ltz : c 13 < Int32.ofNat z ↔ nn (c 13) < z := by rw [m13, nn_of (by omega)]; exact i_lt (by omega) (by omega)
  have bk : ∀ j, j < 2 → 8 * j < z → ∃ v, v < 32 ∧ 8 ≤ v ∧ ds c (40 + 4 * nf + (2 + j)) = Int32.ofNat v ∧ ds c (40 + 4 * nf + 2 + j) = Int32.ofNat v := by
    intro j hj hz
    obtain ⟨v, v1, v2, v3⟩ := i3 j hj
    refine ⟨v, v1, (v3 fun v0 => ?_).1, v2, by rw [Nat.add_assoc (40 + 4 * nf) 2 j]; exact v2⟩
    have := (z3 j hj).mp (by rw [v2, v0]; rfl)
    omega
  have dm : ∀ x : Nat, x < 16 → Int32.ofNat x / 8 = Int32.ofNat (x / 8) ∧ dx_rem (Int32.ofNat x) 8 = Int32.ofNat (x % 8) := by decide
  have s51 : ∀ f, f ≠ 51 → drS s f = s f := une
  obtain rfl | rfl | rfl | rfl | rfl | rfl : y = 1 ∨ y = 2 ∨ y = 3 ∨ y = 4 ∨ y = 5 ∨ y = 6 := by omega
  · have k1 : k = 1 := hk.symm
    subst k1
    rw [if_pos rfl] at pl
    rw [if_neg (fun z => absurd z.1 (by decide)), if_pos rfl] at rs
    by_cases w16 : z = 16
    · exact no0 2 (by rw [pl, if_pos w16]) (by rw [rs, if_pos (by rw [w16]; rfl)]) (Or.inl (by decide)) (Or.inl (by decide))
    have nz16 : ¬ Int32.ofNat z = 16 := ni z 16 (by omega) (by omega) w16
    have rz : dx_rem (Int32.ofNat z) 8 = 0 ↔ z % 8 = 0 := by rw [(dm z (by omega)).2]; exact i_eq (b := 0) (by omega) (by omega)
    by_cases w8 : z % 8 = 0
    · rcases freeF_cases (ds c) with k3 | ⟨v, v1, v2, v3⟩
      · exact no0 3 (by rw [pl, if_neg w16, if_neg (fun y => y w8), if_pos k3]) (by rw [rs, if_neg nz16, if_pos ⟨rz.mpr w8, k3⟩]) (Or.inl (by decide)) (Or.inl (by decide))
      · have nv : ¬ freeF (ds c) = -1 := by rw [v3]; exact ofNat_ne_neg (by omega)
        have B := cnt_b (S := appS2 nf v) (t0 := v) (t1 := 4) (t2 := 5 + nf / 2) (fun q hq => hq) (q := 4) (Or.inr (Or.inl rfl)) (by omega)
        have T := fun (d : Nat) (hd : 4 ≤ d) => t_appends (d := d) (by omega) h (drS s) nf z v n6 (by omega) ((u51 _ (by omega)).trans z2) v1 v2 (fun _ => by rw [une 50 (by decide), er]; exact v3) (fun y => absurd w8 y)
        rw [if_pos w8, if_pos w8] at T
        refine yes (appS2 nf v) (appW2 (ds c) nf z v (c 13)) (dx_shl 1 (5 + Int32.ofNat nf / 2) ||| 16 ||| dx_shl 1 (Int32.ofNat v)) (appE (appN (drS s) nf z v) nf z v) (by rw [pl, if_neg w16, if_neg (fun y => y w8), if_neg nv, v3, nn_of (by omega)]) (by rw [rs, if_neg nz16, if_neg (fun z => nv z.2)]) ?_ B (fun q hq => ?_) (fun f hf => ?_) (will_app2 u51 n6 (by omega) v1 v2 (freeF_not v2 v3) (by rw [une 26 (by decide)]; exact e1)) (fun d hd => ?_)
        · exact fun z => z.elim (fun z => z rfl) fun z => z.elim (fun z => absurd z (by decide)) fun z => z.elim (fun z => absurd z (by decide)) fun z => absurd z.1 (by decide)
        · rw [onB_or hq, onB_or hq, onB_ent n6 hq, onB_16 hq, onB_shl v2 hq]
          show _ ↔ q = v ∨ q = 4 ∨ q = 5 + nf / 2
          omega
        · unfold appE appN appT turnS
          rw [tw_up_at, if_neg hf, tw_up_at, if_neg hf, fo_ne hf, tw_up_at, if_neg hf, tw_up_at, if_neg hf]; exact une f hf
        · rw [if_neg (by decide), if_pos rfl, fF1]
          exact T d hd
    · obtain ⟨v, v2, v1, v3, v3'⟩ := bk (z / 8) (by omega) (by omega)
      have B := cnt_b (S := appS1 nf v) (t0 := v) (t1 := 5 + nf / 2) (t2 := 5 + nf / 2) (fun q hq => hq.imp id Or.inl) (q := v) (Or.inl rfl) v2
      have T := fun (d : Nat) (hd : 4 ≤ d) => t_appends (d := d) (by omega) h (drS s) nf z v n6 (by omega) ((u51 _ (by omega)).trans z2) v1 v2 (fun y => absurd y w8) (fun _ => (u51 _ (by omega)).trans v3')
      rw [if_neg w8, if_neg w8] at T
      refine yes (appS1 nf v) (appW1 (ds c) nf z v (c 13)) (dx_shl 1 (5 + Int32.ofNat nf / 2) ||| dx_shl 1 (Int32.ofNat v)) (appE (drS s) nf z v) (by rw [pl, if_neg w16, if_pos w8, v3, nn_of (by omega)]) (by rw [rs, if_neg nz16, if_neg (fun z => w8 (rz.mp z.1))]) ?_ B (fun q hq => ?_) (fun f hf => ?_) (will_app1 u51 (by rw [une 26 (by decide)]; exact e1)) (fun d hd => ?_)
      · exact fun z => z.elim (fun z => z rfl) fun z => z.elim (fun z => absurd z (by decide)) fun z => z.elim (fun z => absurd z (by decide)) fun z => absurd z.1 (by decide)
      · rw [onB_or hq, onB_ent n6 hq, onB_shl v2 hq]
        show _ ↔ q = v ∨ q = 5 + nf / 2
        omega
      · unfold appE
        rw [tw_up_at, if_neg hf, tw_up_at, if_neg hf]; exact une f hf
      · rw [if_neg (by decide), if_pos rfl, fF1]
        exact T d hd
  · have k1 : k = 2 := hk.symm
    subst k1
    rw [if_neg (by decide), if_pos rfl] at pl
    rw [if_neg (fun z => absurd z.1 (by decide)), if_neg (by decide)] at rs
    by_cases q : c 13 < Int32.ofNat z
    · have lz := ltz.mp q
      obtain ⟨v, v2, v1, v3, v3'⟩ := bk (nn (c 13) / 8) (by omega) (by omega)
      obtain ⟨m1, m2⟩ := dm (nn (c 13)) (by omega)
      rw [← m13] at m1 m2
      have B := cnt_b (S := addS noS v) (t0 := v) (t1 := v) (t2 := v) (fun q hq => hq.elim (fun z => z.elim) Or.inl) (q := v) (Or.inr rfl) v2
      refine yes (addS noS v) (upd (ds c) (8 * v + nn (c 13) % 8) (c 14)) (dx_shl 1 (Int32.ofNat v)) (replS (drS s) v (nn (c 13) % 8)) (by rw [pl, if_pos q, v3, nn_of (by omega)]) (by rw [rs, if_neg (fun z => z.2 q)]) ?_ B (fun q hq => ?_) (fun f hf => ?_) (will_repl u51 (by rw [une 26 (by decide)]; exact e2)) (fun d hd => ?_)
      · exact fun z => z.elim (fun z => z rfl) fun z => z.elim (fun z => absurd z (by decide)) fun z => z.elim (fun z => absurd z (by decide)) fun z => absurd z.1 (by decide)
      · rw [onB_shl v2 hq]
        exact ⟨Or.inr, fun z => z.elim (fun z => z.elim) id⟩
      · unfold replS
        rw [tw_up_at, if_neg hf]; exact une f hf
      · rw [if_neg (by decide), if_neg (by decide), if_pos rfl, fF1]
        exact t_replaces (by omega) h (drS s) nf (nn (c 13) / 8) v (nn (c 13) % 8) n6 (by rw [une 26 (by decide), e1]; exact m1) (by omega) (by rw [une 26 (by decide), e1]; exact m2) (by omega) ((u51 _ (by omega)).trans v3') v2
    · exact no0 2 (by rw [pl, if_neg q]) (by rw [rs, if_pos ⟨Or.inl rfl, q⟩]) (Or.inl (by decide)) (Or.inl (by decide))
  · have k1 : k = 3 := hk.symm
    subst k1
    rw [if_neg (by decide), if_neg (by decide), if_pos rfl] at pl
    rw [if_neg (fun z => absurd z.1 (by decide)), if_neg (by decide)] at rs
    by_cases q : c 13 < Int32.ofNat z
    · have lz := ltz.mp q
      obtain ⟨v, v2, v1, v3, v3'⟩ := bk (nn (c 13) / 8) (by omega) (by omega)
      obtain ⟨m1, m2⟩ := dm (nn (c 13)) (by omega)
      rw [← m13] at m1 m2
      refine no [(14, ds c (8 * v + nn (c 13) % 8))] 0 (nn (c 13) / 8) v (nn (c 13) % 8) (by rw [pl, if_pos q, v3, nn_of (by omega)]) (by rw [rs, if_neg (fun z => z.2 q)]) (Or.inr (Or.inl rfl)) ?_ (show upd c 14 (ds c (8 * v + nn (c 13) % 8)) 3 = c 3 from upd_ne _ _ (by omega)) (fun q hq => by rw [List.mem_singleton.mp hq]; show 14 < 108; omega) (fun _ _ => ⟨fF1, n6⟩) (fun _ _ => ⟨by rw [e1]; exact m1, by omega, by rw [e1]; exact m2, by omega, (e50 _ (by omega)).trans v3', v2⟩)
      unfold rdS
      rw [if_pos rfl, if_pos rfl, e50 _ (by omega)]
      exact A.reg (r := 2) (by omega)
    · exact no0 2 (by rw [pl, if_neg q]) (by rw [rs, if_pos ⟨Or.inr rfl, q⟩]) (Or.inl (by decide)) (Or.inl (by decide))
  · have k1 : k = 4 := hk.symm
    subst k1
    rw [if_neg (by decide), if_neg (by decide), if_neg (by decide), if_pos rfl] at pl
    rw [if_neg (fun z => absurd z.1 (by decide)), if_neg (by decide), if_neg (fun z => absurd z.1 (by decide))] at rs
    refine no [(13, Int32.ofNat z)] 0 0 0 0 pl rs (Or.inr (Or.inr (Or.inl rfl))) ?_ (show upd c 13 (Int32.ofNat z) 3 = c 3 from upd_ne _ _ (by omega)) (fun q hq => by rw [List.mem_singleton.mp hq]; show 13 < 108; omega) (fun _ _ => ⟨fF1, n6⟩) (fun z => absurd z (by decide))
    unfold rdS
    rw [if_pos rfl, if_neg (by decide), if_pos rfl, show s 50 (40 + 4 * nf + 1) = Int32.ofNat z from sz]
    exact A.reg (r := 1) (by omega)
  · have k1 : k = 5 := hk.symm
    subst k1
    rw [if_neg (by decide), if_neg (by decide), if_neg (by decide), if_neg (by decide), if_pos rfl] at pl
    rw [if_neg (fun z => absurd z.1 (by decide)), if_neg (by decide), if_neg (fun z => absurd z.1 (by decide))] at rs
    obtain ⟨v0, v01, v02, _⟩ := i3 0 (by omega)
    obtain ⟨v1, v11, v12, _⟩ := i3 1 (by omega)
    have hb32 : ∀ k, k < 2 → (fun k => if k = 0 then v0 else v1) k < 32 := fun k hk => by show (if k = 0 then v0 else v1) < 32; split <;> assumption
    have hb : ∀ k, k < 2 → ds c (40 + 4 * nf + (2 + k)) = Int32.ofNat ((fun k => if k = 0 then v0 else v1) k) := fun k hk => by
      show _ = Int32.ofNat (if k = 0 then v0 else v1)
      obtain rfl | rfl : k = 0 ∨ k = 1 := by omega
      · rw [if_pos rfl]; exact v02
      · rw [if_neg (by omega)]; exact v12
    have B := cnt_b (S := rmvS (ds c) nf noS) (t0 := 5 + nf / 2) (t1 := 4) (t2 := 4) (fun q hq => hq.elim (fun z => z.elim) fun z => z.imp id fun z => Or.inl z.1) (q := 5 + nf / 2) (Or.inr (Or.inl rfl)) (by omega)
    refine yes (rmvS (ds c) nf noS) (rmvW (ds c) nf 4 0 (ds c)) (remA (fun k => if k = 0 then v0 else v1) nf) (remF (drS s) (fun k => if k = 0 then v0 else v1) nf) pl rs ?_ B (fun q hq => ?_) (fun f hf => (remF_ne hf).trans (une f hf)) (will_rem u51 I n6 hb hb32) (fun d hd => ?_)
    · exact fun z => z.elim (fun z => z rfl) fun z => z.elim (fun z => absurd z (by decide)) fun z => z.elim (fun z => absurd z (by decide)) fun z => absurd z.1 (by decide)
    · rw [remA_on n6 hq]
      show _ ↔ noS q ∨ q = 5 + nf / 2 ∨ (q = 4 ∧ (¬ ds c (40 + 4 * nf + 2) = 0 ∨ ¬ ds c (40 + 4 * nf + 3) = 0))
      rw [show ds c (40 + 4 * nf + 2) = Int32.ofNat v0 from v02, show ds c (40 + 4 * nf + 3) = Int32.ofNat v1 from v12, show Int32.ofNat v0 = 0 ↔ v0 = 0 from i_eq (b := 0) (by omega) (by omega), show Int32.ofNat v1 = 0 ↔ v1 = 0 from i_eq (b := 0) (by omega) (by omega)]
      exact ⟨Or.inr, fun z => z.elim (fun z => z.elim) id⟩
    · rw [if_neg (by decide), if_neg (by decide), if_neg (by decide), if_pos rfl, fF1]
      exact t_removes (by omega) h (drS s) nf n6 _ hb32 (fun k hk => (u51 _ (by omega)).trans (hb k hk))
  · have k1 : k = 6 := hk.symm
    subst k1
    rw [if_neg (by decide), if_neg (by decide), if_neg (by decide), if_neg (by decide), if_neg (by decide)] at pl
    by_cases r0 : c 13 = 0
    · exact no0 1 (by rw [pl, if_pos r0]) (by rw [rs, if_pos ⟨rfl, r0⟩]) (Or.inl (by decide)) (Or.inl (by decide))
    rw [if_neg r0] at pl
    rw [if_neg (fun z => r0 z.2), if_neg (by decide), if_neg (fun z => absurd z.1 (by decide))] at rs
    by_cases r1 : c 13 = c 12
    · exact no0 0 (by rw [pl, if_pos r1]) rs (Or.inr (Or.inr (Or.inr ⟨rfl, by rw [e0, e1, r1]⟩))) (Or.inr ⟨by decide, by decide⟩)
    rw [if_neg r1] at pl
    have nn' : ¬ noW s 6 0 := fun z => z.elim (fun z => z rfl) fun z => z.elim (fun z => absurd z (by decide)) fun z => z.elim (fun z => absurd z (by decide)) fun z => r1 (by rw [← e0, ← e1, z.2])
    have hf50 : ∀ x, findF (drS s 50) x = findF (ds c) x := fun x => by rw [une 50 (by decide)]; exact ef x
    rcases findF_nat (ds c) (c 13) with g0 | ⟨g, g1, g2, g3⟩
    · have B := cnt_b (S := addS noS (5 + nf / 2)) (t0 := 5 + nf / 2) (t1 := 5 + nf / 2) (t2 := 5 + nf / 2) (fun q hq => hq.elim (fun z => z.elim) Or.inl) (q := 5 + nf / 2) (Or.inr rfl) (by omega)
      refine yes (addS noS (5 + nf / 2)) (entW (ds c) nf 0 (c 13)) (0 ||| dx_shl 1 (5 + Int32.ofNat nf / 2)) (renS (drS s) nf) (by rw [pl, if_pos g0]) rs nn' B (fun q hq => ?_) (fun f hf => ?_) (will_ren u51 (by rw [une 26 (by decide)]; exact e1)) (fun d hd => ?_)
      · rw [onB_or hq, onB_ent n6 hq]
        exact ⟨fun z => Or.inr (z.elim (fun z => absurd z (onB_0 hq)) id), fun z => z.elim (fun z => z.elim) Or.inr⟩
      · unfold renS
        rw [tw_up_at, if_neg hf]; exact une f hf
      · rw [if_neg (by decide), if_neg (by decide), if_neg (by decide), if_neg (by decide), fF1]
        exact t_renames (by omega) h (drS s) nf n6 none (by rw [hf50, une 26 (by decide), e1]; exact g0) (fun _ => 0) (fun m hm => by cases hm)
    · have ng : ¬ findF (ds c) (c 13) = -1 := by rw [g2]; exact ofNat_ne_neg (by omega)
      rw [if_neg ng, g2, nn_of (show g < 2 ^ 31 by omega)] at pl
      obtain ⟨v0, v01, v02, _⟩ := (I.1 g g1).2.2 0 (by omega)
      obtain ⟨v1, v11, v12, _⟩ := (I.1 g g1).2.2 1 (by omega)
      have hb32 : ∀ k, k < 2 → (fun k => if k = 0 then v0 else v1) k < 32 := fun k hk => by show (if k = 0 then v0 else v1) < 32; split <;> assumption
      have hb : ∀ k, k < 2 → ds c (40 + 4 * g + (2 + k)) = Int32.ofNat ((fun k => if k = 0 then v0 else v1) k) := fun k hk => by
        show _ = Int32.ofNat (if k = 0 then v0 else v1)
        obtain rfl | rfl : k = 0 ∨ k = 1 := by omega
        · rw [if_pos rfl]; exact v02
        · rw [if_neg (by omega)]; exact v12
      have B := cnt_b (S := addS (rmvS (ds c) g noS) (5 + nf / 2)) (t0 := 5 + nf / 2) (t1 := 5 + g / 2) (t2 := 4) (fun q hq => hq.elim (fun z => z.elim (fun z => z.elim) fun z => z.elim (fun z => Or.inr (Or.inl z)) fun z => Or.inr (Or.inr z.1)) Or.inl) (q := 5 + nf / 2) (Or.inr rfl) (by omega)
      refine yes (addS (rmvS (ds c) g noS) (5 + nf / 2)) (entW (rmvW (ds c) g 4 0 (ds c)) nf 0 (c 13)) (remA (fun k => if k = 0 then v0 else v1) g ||| dx_shl 1 (5 + Int32.ofNat nf / 2)) (renS (remF (drS s) (fun k => if k = 0 then v0 else v1) g) nf) pl rs nn' B (fun q hq => ?_) (fun f hf => ?_) (will_ren (will_rem u51 I g1 hb hb32) (by rw [remF_ne (by decide), une 26 (by decide)]; exact e1)) (fun d hd => ?_)
      · rw [onB_or hq, onB_ent n6 hq, remA_on g1 hq]
        show _ ↔ (noS q ∨ q = 5 + g / 2 ∨ (q = 4 ∧ (¬ ds c (40 + 4 * g + 2) = 0 ∨ ¬ ds c (40 + 4 * g + 3) = 0))) ∨ q = 5 + nf / 2
        rw [show ds c (40 + 4 * g + 2) = Int32.ofNat v0 from v02, show ds c (40 + 4 * g + 3) = Int32.ofNat v1 from v12, show Int32.ofNat v0 = 0 ↔ v0 = 0 from i_eq (b := 0) (by omega) (by omega), show Int32.ofNat v1 = 0 ↔ v1 = 0 from i_eq (b := 0) (by omega) (by omega)]
        exact ⟨fun z => z.imp Or.inr id, fun z => z.imp (fun z => z.elim (fun z => z.elim) id) id⟩
      · unfold renS
        rw [tw_up_at, if_neg hf, remF_ne hf]; exact une f hf
      · rw [if_neg (by decide), if_neg (by decide), if_neg (by decide), if_neg (by decide), fF1]
        exact t_renames (by omega) h (drS s) nf n6 (some g) (by rw [hf50, une 26 (by decide), e1]; exact g2) _ (fun m hm => by cases hm; exact ⟨g1, hb32, fun k hk => (u51 _ (by omega)).trans (hb k hk)⟩)
end CAL
