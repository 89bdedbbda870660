/-! both together: what always holds between two calls -/
/- with FW ds lnD lnV CLW CTW CT1 tst tsG TTW TT1 DRL DRL.mono DRW TLW GO OLD OLD.mono Ext XP FR FrP xR RG MM.mono CO CO.sz CF ON OF TO TF IG AL.mono LnC LnC.mono TO.cong RA -/
abbrev mch : Type := (Nat × Nat × kk_K × (Nat → Int32) × (Nat → Int32) × Int32) ⊕ (Nat → Int32)
/-- machine, image, lines, tests, keys drafted, words drafted -/
abbrev wld : Type := mch × Option (Nat → Int32) × (Nat × (Nat → lnD)) × (Nat × (Nat → tst)) × (Nat × (Nat → Int32)) × (Nat × (Nat → Int32))
def MOK (M : mch) : Prop := match M with
  | .inl (N, n, K, ds0, img, _) => ON N n K ds0 img
  | .inr c => OF c ∧ FW (ds c)
def MCH (M : mch) (R : Nat → Nat → Prop) (P : Nat → Prop) (cap : Nat) (H : ax_H) : Prop := match M with
  | .inl (N, n, K, ds0, img, v) => ∃ im J, CO N n K ds0 img v im J cap P H ∧ R 0 im
  | .inr c => ∃ im J, CF c im J cap P H
def IMG (I : Option (Nat → Int32)) (P : Nat → Prop) (H : ax_H) : Prop := ∃ iv, GO H iv ∧ match I with
  | none => iv = .null
  | some img => ∃ ip : Nat, iv = .ref ip ∧ (P ip ∧ 461 ≤ ip) ∧ H.1 ip = .inl (0, 256, .inl img)
def APR (R : Nat → Nat → Prop) (H : ax_H) : Prop := (∀ i j q, R i q → R j q → i = j) ∧ ∀ i q, R i q → ((401 ≤ q ∧ q ≤ 416) ∨ 461 ≤ q) ∧ q < 400 + H.2.1
def ROOM (i cap : Nat) (H : ax_H) : Prop := 61 ≤ H.2.1 ∧ cap ≤ 404 ∧ H.2.1 ≤ 100 + 18000 * i + cap ∧ H.2.2 ≤ 10000 + 80000 * i + 4 * cap
def CJ0 (R : Nat → Nat → Prop) (cap i : Nat) (W : wld) (H : ax_H) : Prop := OLD H ∧ MOK W.1 ∧ MCH W.1 R (R 1) cap H ∧ IMG W.2.1 (R 0) H ∧ (∀ img, W.2.1 = some img → IG img) ∧ CLW W.2.2.1.1 W.2.2.1.2 (R 2) H ∧ CTW W.2.2.2.1.1 W.2.2.2.1.2 (R 3) H ∧ DRL 415 W.2.2.2.2.1.1 W.2.2.2.2.1.2 (R 4) H ∧ DRL 416 W.2.2.2.2.2.1 W.2.2.2.2.2.2 (R 5) H ∧ APR R H ∧ ROOM i cap H
def CJ (i : Nat) (W : wld) (H : ax_H) : Prop := ∃ R cap, CJ0 R cap i W H
def TJ (W : wld) (s : Nat → Nat → Int32) : Prop := (match W.1 with
  | .inl (N, n, K, ds0, img, v) => TO N n K ds0 img v s
  | .inr c => TF c s) ∧ (match W.2.1 with
  | none => s 22 0 = 0
  | some img => s 22 0 ≠ 0 ∧ ∀ a, a < 256 → s 21 a = img a) ∧ TLW W.2.2.1.1 W.2.2.1.2 s ∧ TTW W.2.2.2.1.1 W.2.2.2.1.2 s ∧ (∀ j, W.2.2.2.1.1 ≤ j → s 70 j = 0) ∧ DRW W.2.2.2.2.1.1 W.2.2.2.2.2.1 W.2.2.2.2.1.2 W.2.2.2.2.2.2 s
/-- the twin's cells, the row of what comes out, the old things stay -/
def FT (H H' : ax_H) : Prop := (∀ q, q < 461 → (417 ≤ q ∨ q < 400) → H'.1 q = H.1 q) ∧ H.2.1 ≤ H'.2.1
def upR (R : Nat → Nat → Prop) (k : Nat) (P : Nat → Prop) : Nat → Nat → Prop := fun j => if j = k then P else R j
section JJS
variable {R : Nat → Nat → Prop} {cap cap' i a w k n N im T p : Nat} {W : wld} {H H' : ax_H} {P P' : Nat → Prop} {M : mch} {I : Option (Nat → Int32)} {s s' : Nat → Nat → Int32} {ls : Nat → lnD} {q : Nat → tst}
theorem FT.rf : FT H H := ⟨fun _ _ _ => rfl, Nat.le_refl _⟩
theorem MCH.mn (M0 : MCH M R (R 1) cap H) (A : APR R H) (e : ∀ j q, R j q → H'.1 q = H.1 q) (hs : H.2.1 ≤ H'.2.1) : MCH M R (R 1) cap H' := by
  have hb : ∀ q, R 1 q → q < 400 + H'.2.1 := fun q hq => by have := (A.2 1 q hq).2; omega
  cases M with
  | inl z =>
    obtain ⟨N, n, K, ds0, img, v⟩ := z
    obtain ⟨im, J, ⟨ds1, m1, m2, m3, m4, m5, m6, m7⟩, r0⟩ := M0
    exact ⟨im, J, ⟨ds1, m1.mono (e 1) hs (fun _ z => z) hb, m2, (e 0 im r0).trans m3, by omega, m5, m6, m7⟩, r0⟩
  | inr c =>
    obtain ⟨im, J, ds1, K, m1, m2⟩ := M0
    exact ⟨im, J, ds1, K, m1, m2.mono (e 1) hs (fun _ z => z) hb⟩
theorem IMG.mn (I0 : IMG I (R 0) H) (e : ∀ q, R 0 q → H'.1 q = H.1 q) (e4 : H'.1 400 = H.1 400) : IMG I (R 0) H' := by
  obtain ⟨iv, g, z⟩ := I0
  refine ⟨iv, e4.trans g, ?_⟩
  cases I with
  | none => exact z
  | some img =>
    obtain ⟨ip, z1, z2, z3⟩ := z
    exact ⟨ip, z1, z2, (e ip z2.1).trans z3⟩
theorem CLW.mn (C : CLW n ls P H) (e : ∀ q, P q → H'.1 q = H.1 q) (eo : ∀ q, q < 400 → H'.1 q = H.1 q) (hs : H.2.1 ≤ H'.2.1) : CLW n ls P H' := by
  obtain ⟨mc, arr, cap, it, Q, A, c1, c2, c3, c4, c5, c6, c7, c8⟩ := C
  exact ⟨mc, arr, cap, it, Q, A.mono (e _ c7) (c8.elim (eo _) (e _)) hs, c1, fun t ht => ⟨(c2 t ht).1.mono fun r hr => ⟨hr, e r (c3 r hr)⟩, (c2 t ht).2⟩, c3, c4, c5, fun r hr => ⟨(c6 r hr).1, by have := (c6 r hr).2; omega⟩, c7, c8⟩
theorem CTW.mn (C : CTW T q P H) (e : ∀ r, P r → H'.1 r = H.1 r) (eo : ∀ r, r < 400 → H'.1 r = H.1 r) (hs : H.2.1 ≤ H'.2.1) : CTW T q P H' := by
  obtain ⟨mc, arr, cap, it, A, c1, c2, c3, c4, c5, c6⟩ := C
  refine ⟨mc, arr, cap, it, A.mono (e _ c5) (c6.elim (eo _) (e _)) hs, c1, fun t ht => ⟨?_, (c2 t ht).2⟩, c3, fun r hr => ⟨(c4 r hr).1, by have := (c4 r hr).2; omega⟩, c5, c6⟩
  obtain ⟨kp, wp, z1, z2, z3, z4, z5, z6⟩ := (c2 t ht).1
  exact ⟨kp, wp, (e _ z4).trans z1, (e _ z5).trans z2, (e _ z6).trans z3, z4, z5, z6⟩
theorem APR.up (A : APR R H) (hn : ∀ q, P' q → R k q ∨ 400 + H.2.1 ≤ q) (hb : ∀ q, P' q → q < 400 + H'.2.1) (h61 : 61 ≤ H.2.1) (hs : H.2.1 ≤ H'.2.1) : APR (upR R k P') H' := by
  obtain ⟨a1, a2⟩ := A
  have lt : ∀ i q, R i q → q < 400 + H.2.1 := fun i q h => (a2 i q h).2
  have cs : ∀ i q, upR R k P' i q → (i = k ∧ (R k q ∨ 400 + H.2.1 ≤ q)) ∨ (i ≠ k ∧ R i q) := fun i q h => by
    unfold upR at h
    by_cases e : i = k
    · rw [if_pos e] at h; exact Or.inl ⟨e, hn q h⟩
    · rw [if_neg e] at h; exact Or.inr ⟨e, h⟩
  refine ⟨fun i j q hi hj => ?_, fun i q h => ?_⟩
  · rcases cs i q hi with ⟨e1, e2⟩ | ⟨e1, e2⟩
    · rcases cs j q hj with ⟨f1, f2⟩ | ⟨f1, f2⟩
      · rw [e1, f1]
      · rcases e2 with z | z
        · exact absurd (a1 k j q z f2).symm f1
        · have := lt j q f2; omega
    · rcases cs j q hj with ⟨f1, f2⟩ | ⟨f1, f2⟩
      · rcases f2 with z | z
        · exact absurd (a1 i k q e2 z) e1
        · have := lt i q e2; omega
      · exact a1 i j q e2 f2
  · have h0 := h
    rcases cs i q h with ⟨e1, e2⟩ | ⟨e1, e2⟩
    · unfold upR at h0
      rw [if_pos e1] at h0
      refine ⟨?_, hb q h0⟩
      rcases e2 with z | z
      · exact (a2 k q z).1
      · exact Or.inr (by omega)
    · exact ⟨(a2 i q e2).1, by have := lt i q e2; omega⟩
theorem upR_k : upR R k P k = P := if_pos rfl
theorem upR_ne {j : Nat} (h : j ≠ k) : upR R k P j = R j := if_neg h
/-- regions of the others stay where one changes -/
theorem APR.off (A : APR R H) {j : Nat} (hj : j ≠ k) {q : Nat} (h : R j q) : ¬ R k q := fun z => hj (A.1 j k q h z)
theorem APR.ft (A : APR R H) {j q : Nat} (h : R j q) : ¬ (417 ≤ q ∧ q < 461) := fun z => by have := (A.2 j q h).1; omega
theorem CJ0.rg (C : CJ0 R cap i W H) : RG (R 1) := fun q hq => by
  obtain ⟨-, -, -, -, -, c6, -, -, -, c10, -⟩ := C
  obtain ⟨mc, arr, cap, it, Q, A, d1, d2, d3, d4, d5, d6, d7, d8⟩ := c6
  have a := (c10.2 1 q hq).1
  have : q ≠ 401 := fun z => by
    rw [z] at hq
    have := c10.1 1 2 401 hq d7
    omega
  omega
/-- nothing that is looked at changes -/
theorem CJ0.mv (C : CJ0 R cap i W H) (e : ∀ j q, R j q → H'.1 q = H.1 q) (eo : ∀ q, q ≤ 400 → H'.1 q = H.1 q) (hs : H.2.1 ≤ H'.2.1) (h1 : H'.2.1 ≤ H.2.1 + 18000) (h2 : H'.2.2 ≤ H.2.2 + 80000) : CJ0 R cap (i + 1) W H' := by
  obtain ⟨c1, c2, c3, c4, c5, c6, c7, c8, c9, c10, r1, r2, r3, r4⟩ := C
  exact ⟨c1.mono fun q hq => eo q (by omega), c2, c3.mn c10 e hs, c4.mn (e 0) (eo 400 (by omega)), c5, c6.mn (e 2) (fun q hq => eo q (by omega)) hs, c7.mn (e 3) (fun q hq => eo q (by omega)) hs, c8.mono (fun r _ hr => hr.elim (e 4 r) fun z => eo r (by omega)) hs, c9.mono (fun r _ hr => hr.elim (e 5 r) fun z => eo r (by omega)) hs, ⟨c10.1, fun i q h => ⟨(c10.2 i q h).1, by have := (c10.2 i q h).2; omega⟩⟩, by omega, r2, by omega, by omega⟩
theorem CJ0.ext (C : CJ0 R cap i W H) (E : Ext a w H H') (ha : a ≤ 18000) (hw : w ≤ 80000) : CJ0 R cap (i + 1) W H' ∧ FT H H' := by
  have h61 := C.2.2.2.2.2.2.2.2.2.2.1
  have A := C.2.2.2.2.2.2.2.2.2.1
  obtain ⟨e1, e2, e3, e4, e5⟩ := E
  exact ⟨C.mv (fun j q h => e1 q (A.2 j q h).2) (fun q hq => e1 q (by omega)) e2 (by omega) (by omega), fun q q1 q2 => e1 q (by omega), e2⟩
/-- the same room anew -/
theorem CJ0.rf (C : CJ0 R cap i W H) : CJ0 R cap (i + 1) W H := C.mv (fun _ _ _ => rfl) (fun _ _ => rfl) (Nat.le_refl _) (by omega) (by omega)
/-- the machine changes -/
theorem CJ0.on1 (C : CJ0 R cap i W H) (F : FR (R 1) P' cap cap' a w H H') (ha : a ≤ 18000) (hw : w ≤ 80000) (hP : ∀ q, P' q → q < 400 + H'.2.1) (hc : cap' ≤ 404) (hM : MOK M) (M' : MCH M (upR R 1 P') P' cap' H') : CJ0 (upR R 1 P') cap' (i + 1) (M, W.2) H' ∧ FT H H' := by
  have rg := C.rg
  obtain ⟨c1, c2, c3, c4, c5, c6, c7, c8, c9, c10, r1, r2, r3, r4⟩ := C
  obtain ⟨f1, f2, f3, f4, f5, f6, f7⟩ := F
  have e : ∀ j q, j ≠ 1 → R j q → H'.1 q = H.1 q := fun j q hj h => f1 q (c10.2 j q h).2 (c10.off hj h)
  have eo : ∀ q, q ≤ 400 → H'.1 q = H.1 q := fun q hq => f1 q (by omega) fun z => by have := rg q z; omega
  have A' := c10.up (k := 1) (P' := P') (H' := H') f2 hP r1 f3
  refine ⟨⟨c1.mono fun q hq => eo q (by omega), hM, ?_, ?_, c5, ?_, ?_, ?_, ?_, A', by omega, hc, by omega, by omega⟩, fun q q1 q2 => f1 q (by omega) fun z => by have := (c10.2 1 q z).1; omega, f3⟩
  · rw [upR_k]; exact M'
  · rw [upR_ne (by decide)]; exact c4.mn (fun q h => e 0 q (by omega) h) (eo 400 (by omega))
  · rw [upR_ne (by decide)]; exact c6.mn (fun q h => e 2 q (by omega) h) (fun q hq => eo q (by omega)) f3
  · rw [upR_ne (by decide)]; exact c7.mn (fun q h => e 3 q (by omega) h) (fun q hq => eo q (by omega)) f3
  · rw [upR_ne (by decide)]; exact c8.mono (fun r _ hr => hr.elim (fun h => e 4 r (by omega) h) fun z => eo r (by omega)) f3
  · rw [upR_ne (by decide)]; exact c9.mono (fun r _ hr => hr.elim (fun h => e 5 r (by omega) h) fun z => eo r (by omega)) f3
/-- MCH with the regions of another -/
theorem MCH.up (M0 : MCH M R P cap H) (hk : k ≠ 0) : MCH M (upR R k P') P cap H := by
  cases M with
  | inl z =>
    obtain ⟨N, n, K, ds0, img, v⟩ := z
    obtain ⟨im, J, m, r0⟩ := M0
    exact ⟨im, J, m, by rw [upR_ne (Ne.symm hk)]; exact r0⟩
  | inr c => exact M0
end JJS
