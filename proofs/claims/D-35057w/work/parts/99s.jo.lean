/-! both together: the lines, the tests, the drafts, the image change -/
/- with wld MOK MCH IMG APR ROOM CJ0 CJ TJ FT upR MCH.mn IMG.mn CLW.mn CTW.mn APR.up upR_k upR_ne APR.off APR.ft CJ0.rg MCH.up CLW CTW DRL DRL.mono FrP xR GO IG -/
section JOS
variable {R : Nat → Nat → Prop} {cap cap' i a w k n n' N im T T' p ip : Nat} {W : wld} {H H' : ax_H} {P P' Z : Nat → Prop} {M : mch} {ls ls' : Nat → lnD} {q q' : Nat → tst} {f g : Nat → Int32} {img : Nat → Int32} {S : Nat → Prop}
theorem CJ0.core (C : CJ0 R cap i W H) (F : FrP Z a w H H') (hZ : ∀ q, Z q → ∃ j, S j ∧ R j q) (ha : a ≤ 18000) (hw : w ≤ 80000) (s0 : ¬ S 0) (s1 : ¬ S 1) : OLD H' ∧ MCH W.1 R (R 1) cap H' ∧ IMG W.2.1 (R 0) H' ∧ (¬ S 2 → CLW W.2.2.1.1 W.2.2.1.2 (R 2) H') ∧ (¬ S 3 → CTW W.2.2.2.1.1 W.2.2.2.1.2 (R 3) H') ∧ (¬ S 4 → DRL 415 W.2.2.2.2.1.1 W.2.2.2.2.1.2 (R 4) H') ∧ (¬ S 5 → DRL 416 W.2.2.2.2.2.1 W.2.2.2.2.2.2 (R 5) H') ∧ FT H H' ∧ ROOM (i + 1) cap H' := by
  obtain ⟨c1, c2, c3, c4, c5, c6, c7, c8, c9, c10, r1, r2, r3, r4⟩ := C
  obtain ⟨f1, f2, f3, f4, f5⟩ := F
  have nz : ∀ j q, ¬ S j → R j q → ¬ Z q := fun j q hj h z => by
    obtain ⟨l, l1, l2⟩ := hZ q z
    exact hj (by rw [c10.1 j l q h l2]; exact l1)
  have e : ∀ j q, ¬ S j → R j q → H'.1 q = H.1 q := fun j q hj h => f5 q (c10.2 j q h).2 (nz j q hj h)
  have zr : ∀ q, Z q → (401 ≤ q ∧ q ≤ 416) ∨ 461 ≤ q := fun q z => by
    obtain ⟨l, l1, l2⟩ := hZ q z
    exact (c10.2 l q l2).1
  have eo : ∀ q, q ≤ 400 → H'.1 q = H.1 q := fun q hq => f5 q (by omega) fun z => by have := zr q z; omega
  refine ⟨c1.mono fun q hq => eo q (by omega), ?_, c4.mn (fun q h => e 0 q s0 h) (eo 400 (by omega)), fun s => c6.mn (fun q h => e 2 q s h) (fun q hq => eo q (by omega)) f1, fun s => c7.mn (fun q h => e 3 q s h) (fun q hq => eo q (by omega)) f1, fun s => c8.mono (fun r _ hr => hr.elim (fun h => e 4 r s h) fun z => eo r (by omega)) f1, fun s => c9.mono (fun r _ hr => hr.elim (fun h => e 5 r s h) fun z => eo r (by omega)) f1, ⟨fun q q1 q2 => f5 q (by omega) fun z => by have := zr q z; omega, f1⟩, by omega, r2, by omega, by omega⟩
  -- the machine: its regions are 1 and 0
  have hb : ∀ q, R 1 q → q < 400 + H'.2.1 := fun q hq => by have := (c10.2 1 q hq).2; omega
  revert c3
  cases W.1 with
  | inl z =>
    obtain ⟨N, n, K, ds0, img, v⟩ := z
    rintro ⟨im, J, ⟨ds1, m1, m2, m3, m4, m5, m6, m7⟩, r0⟩
    exact ⟨im, J, ⟨ds1, m1.mono (fun q h => e 1 q s1 h) f1 (fun _ z => z) hb, m2, (e 0 im s0 r0).trans m3, by omega, m5, m6, m7⟩, r0⟩
  | inr c =>
    rintro ⟨im, J, ds1, K, m1, m2⟩
    exact ⟨im, J, ds1, K, m1, m2.mono (fun q h => e 1 q s1 h) f1 (fun _ z => z) hb⟩
theorem xR.new (A : APR R H) {q : Nat} (h : xR (R k) H H' q) : R k q ∨ 400 + H.2.1 ≤ q := h.2
/-- the lines change -/
theorem CJ0.on2 (C : CJ0 R cap i W H) (F : FrP (R 2) a w H H') (ha : a ≤ 18000) (hw : w ≤ 80000) (hn : ∀ q, P' q → R 2 q ∨ 400 + H.2.1 ≤ q) (hb : ∀ q, P' q → q < 400 + H'.2.1) (L : CLW n' ls' P' H') : CJ0 (upR R 2 P') cap (i + 1) (W.1, W.2.1, (n', ls'), W.2.2.2) H' ∧ FT H H' := by
  obtain ⟨x1, x2, x3, x4, x5, x6, x7, x8, x9⟩ := C.core F (S := fun j => j = 2) (fun q h => ⟨2, rfl, h⟩) ha hw (by decide) (by decide)
  obtain ⟨c1, c2, c3, c4, c5, c6, c7, c8, c9, c10, r1, -⟩ := C
  refine ⟨⟨x1, c2, ?_, ?_, c5, ?_, ?_, ?_, ?_, c10.up hn hb r1 x8.2, x9⟩, x8⟩
  · rw [upR_ne (by decide)]; exact x2.up (by decide)
  · rw [upR_ne (by decide)]; exact x3
  · rw [upR_k]; exact L
  · rw [upR_ne (by decide)]; exact x5 (by decide)
  · rw [upR_ne (by decide)]; exact x6 (by decide)
  · rw [upR_ne (by decide)]; exact x7 (by decide)
/-- the tests change -/
theorem CJ0.on3 (C : CJ0 R cap i W H) (F : FrP (R 3) a w H H') (ha : a ≤ 18000) (hw : w ≤ 80000) (L : CTW T' q' (R 3) H') : CJ0 R cap (i + 1) (W.1, W.2.1, W.2.2.1, (T', q'), W.2.2.2.2) H' ∧ FT H H' := by
  obtain ⟨x1, x2, x3, x4, x5, x6, x7, x8, x9⟩ := C.core F (S := fun j => j = 3) (fun q h => ⟨3, rfl, h⟩) ha hw (by decide) (by decide)
  obtain ⟨c1, c2, c3, c4, c5, c6, c7, c8, c9, c10, r1, -⟩ := C
  exact ⟨⟨x1, c2, x2, x3, c5, x4 (by decide), L, x6 (by decide), x7 (by decide), ⟨c10.1, fun i q h => ⟨(c10.2 i q h).1, by have := (c10.2 i q h).2; have := x8.2; omega⟩⟩, x9⟩, x8⟩
/-- the keys drafted change -/
theorem CJ0.on4 (C : CJ0 R cap i W H) (F : FrP (R 4) a w H H') (ha : a ≤ 18000) (hw : w ≤ 80000) (hn : ∀ q, P' q → R 4 q ∨ 400 + H.2.1 ≤ q) (hb : ∀ q, P' q → q < 400 + H'.2.1) (L : DRL 415 n' f P' H') : CJ0 (upR R 4 P') cap (i + 1) (W.1, W.2.1, W.2.2.1, W.2.2.2.1, (n', f), W.2.2.2.2.2) H' ∧ FT H H' := by
  obtain ⟨x1, x2, x3, x4, x5, x6, x7, x8, x9⟩ := C.core F (S := fun j => j = 4) (fun q h => ⟨4, rfl, h⟩) ha hw (by decide) (by decide)
  obtain ⟨c1, c2, c3, c4, c5, c6, c7, c8, c9, c10, r1, -⟩ := C
  refine ⟨⟨x1, c2, ?_, ?_, c5, ?_, ?_, ?_, ?_, c10.up hn hb r1 x8.2, x9⟩, x8⟩
  · rw [upR_ne (by decide)]; exact x2.up (by decide)
  · rw [upR_ne (by decide)]; exact x3
  · rw [upR_ne (by decide)]; exact x4 (by decide)
  · rw [upR_ne (by decide)]; exact x5 (by decide)
  · rw [upR_k]; exact L
  · rw [upR_ne (by decide)]; exact x7 (by decide)
/-- the words drafted change -/
theorem CJ0.on5 (C : CJ0 R cap i W H) (F : FrP (R 5) a w H H') (ha : a ≤ 18000) (hw : w ≤ 80000) (hn : ∀ q, P' q → R 5 q ∨ 400 + H.2.1 ≤ q) (hb : ∀ q, P' q → q < 400 + H'.2.1) (L : DRL 416 n' f P' H') : CJ0 (upR R 5 P') cap (i + 1) (W.1, W.2.1, W.2.2.1, W.2.2.2.1, W.2.2.2.2.1, (n', f)) H' ∧ FT H H' := by
  obtain ⟨x1, x2, x3, x4, x5, x6, x7, x8, x9⟩ := C.core F (S := fun j => j = 5) (fun q h => ⟨5, rfl, h⟩) ha hw (by decide) (by decide)
  obtain ⟨c1, c2, c3, c4, c5, c6, c7, c8, c9, c10, r1, -⟩ := C
  refine ⟨⟨x1, c2, ?_, ?_, c5, ?_, ?_, ?_, ?_, c10.up hn hb r1 x8.2, x9⟩, x8⟩
  · rw [upR_ne (by decide)]; exact x2.up (by decide)
  · rw [upR_ne (by decide)]; exact x3
  · rw [upR_ne (by decide)]; exact x4 (by decide)
  · rw [upR_ne (by decide)]; exact x5 (by decide)
  · rw [upR_ne (by decide)]; exact x6 (by decide)
  · rw [upR_k]; exact L
/-- a test is added out of the drafts -/
theorem CJ0.onA (C : CJ0 R cap i W H) (F : FrP (fun r => R 3 r ∨ R 4 r ∨ R 5 r) a w H H') (ha : a ≤ 18000) (hw : w ≤ 80000) (L : CTW T' q' (xR (R 3) H H') H') (D : DRL 415 0 f (R 4) H') (E : DRL 416 0 g (R 5) H') : CJ0 (upR R 3 (xR (R 3) H H')) cap (i + 1) (W.1, W.2.1, W.2.2.1, (T', q'), (0, f), (0, g)) H' ∧ FT H H' := by
  obtain ⟨x1, x2, x3, x4, x5, x6, x7, x8, x9⟩ := C.core F (S := fun j => j = 3 ∨ j = 4 ∨ j = 5) (fun q h => by
    rcases h with h | h | h
    · exact ⟨3, Or.inl rfl, h⟩
    · exact ⟨4, Or.inr (Or.inl rfl), h⟩
    · exact ⟨5, Or.inr (Or.inr rfl), h⟩) ha hw (by decide) (by decide)
  obtain ⟨c1, c2, c3, c4, c5, c6, c7, c8, c9, c10, r1, -⟩ := C
  refine ⟨⟨x1, c2, ?_, ?_, c5, ?_, ?_, ?_, ?_, c10.up (fun q h => h.2) (fun q h => h.1) r1 x8.2, x9⟩, x8⟩
  · rw [upR_ne (by decide)]; exact x2.up (by decide)
  · rw [upR_ne (by decide)]; exact x3
  · rw [upR_ne (by decide)]; exact x4 (by decide)
  · rw [upR_k]; exact L
  · rw [upR_ne (by decide)]; exact D
  · rw [upR_ne (by decide)]; exact E
/-- the image is another -/
theorem CJ0.on0 (C : CJ0 R cap i W H) (e : ∀ q, q < 400 + H.2.1 → q ≠ 400 → H'.1 q = H.1 q) (s1 : H.2.1 ≤ H'.2.1) (s3 : H'.2.1 ≤ H.2.1 + 18000) (s4 : H'.2.2 ≤ H.2.2 + 80000) (G : GO H' (.ref ip)) (hi : H'.1 ip = .inl (0, 256, .inl img)) (hI : IG img) (b1 : 400 + H.2.1 ≤ ip) (b2 : ip < 400 + H'.2.1) : CJ0 (upR R 0 (fun q => R 0 q ∨ q = ip)) cap (i + 1) (W.1, some img, W.2.2) H' ∧ FT H H' := by
  obtain ⟨c1, c2, c3, c4, c5, c6, c7, c8, c9, c10, r1, r2, r3, r4⟩ := C
  have eR : ∀ j q, R j q → H'.1 q = H.1 q := fun j q h => e q (c10.2 j q h).2 fun z => by have := (c10.2 j q h).1; omega
  have eo : ∀ q, q < 400 → H'.1 q = H.1 q := fun q hq => e q (by omega) (by omega)
  refine ⟨⟨c1.mono eo, c2, ?_, ⟨.ref ip, G, ip, rfl, ⟨?_, by omega⟩, hi⟩, fun im z => (by cases z; exact hI), ?_, ?_, ?_, ?_, c10.up (k := 0) (fun q h => h.elim Or.inl fun z => Or.inr (by omega)) (fun q h => h.elim (fun z => by have := (c10.2 0 q z).2; omega) fun z => by omega) r1 s1, by omega, r2, by omega, by omega⟩, fun q q1 q2 => e q (by omega) (by omega), s1⟩
  · have M := c3.mn c10 eR s1
    rw [upR_ne (by decide)]
    revert M
    cases W.1 with
    | inl z =>
      obtain ⟨N, n, K, ds0, img, v⟩ := z
      rintro ⟨im, J, m, r0⟩
      exact ⟨im, J, m, by rw [upR_k]; exact Or.inl r0⟩
    | inr c => exact id
  · rw [upR_k]; exact Or.inr rfl
  · rw [upR_ne (by decide)]; exact c6.mn (eR 2) eo s1
  · rw [upR_ne (by decide)]; exact c7.mn (eR 3) eo s1
  · rw [upR_ne (by decide)]; exact c8.mono (fun r _ hr => hr.elim (eR 4 r) (eo r)) s1
  · rw [upR_ne (by decide)]; exact c9.mono (fun r _ hr => hr.elim (eR 5 r) (eo r)) s1
end JOS
