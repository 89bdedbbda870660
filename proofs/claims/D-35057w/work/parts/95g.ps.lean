/-! class and twin alike: interrupts, faults, what comes behind a step -/
/- with AR.up AR.mem AR.tap AR.eqc AR.eqs AR.eqM AR.g AR.reg RB.sml RB.mem RB.reg ar_push interS tickS pushS -/
section PSS
variable {n : Nat} {w : Int32} {s0 s : Nat → Nat → Int32} {M : Nat → Prop} {c : Nat → Int32} {K : kk_K}
theorem in_fault (A : AR n w s0 M c s) (hM : ∀ b, ¬ M b) (f : Int32) : AR n w s0 (MW (stopW f)) (apW c (stopW f)) (tw_up (tw_up s 23 0 3) 24 0 f) :=
  ((A.up (p := 0) (x := 3) (Or.inl (by omega)) rfl rfl).up (p := 1) (x := f) (Or.inl (by omega)) rfl rfl).eqM fun a => ⟨fun ⟨x, hx⟩ => by
    have := hx
    simp [stopW] at this
    omega, fun z => absurd z (hM a)⟩
theorem pushS_eq {t : Nat → Nat → Int32} {x v : Int32} (h : t 28 0 = v) : pushS t x = kw (tw_up (tw_up t 28 0 (v - 1)) 25 (v - 1).toNatClampNeg x) (v - 1) := by
  subst h; rfl
theorem in_inter (A : AR n w s0 M c s) (C : WC c) (F : F01 c) (hM : ∀ b, ¬ M b) (hn : c 2 = Int32.ofNat n) (h1000 : n < 1000) (h2 : (2 : Int32) ≤ c 4) : AR n w s0 (MW (interW c)) (apW c (interW c)) (interS s) := by
  have e3 : s 27 0 = c 3 := A.g (p := 3) (by omega)
  have e4 : s 28 0 = c 4 := A.g (p := 4) (by omega)
  have e5 : s 29 0 = c 5 := A.g (p := 5) (by omega)
  have e6 : s 30 0 = c 6 := A.g (p := 6) (by omega)
  have e8 : s 32 0 = c 8 := A.g (p := 8) (by omega)
  have e9 : s 33 0 = c 9 := A.g (p := 9) (by omega)
  obtain ⟨k1, k2⟩ := rg.nat C.2.1
  obtain ⟨k, hk, h4⟩ : ∃ k, k + 2 ≤ 256 ∧ c 4 = Int32.ofNat (k + 1 + 1) := by
    rw [k2] at h2
    have := (i_le (a := 2) (by omega) (by omega)).mp h2
    exact ⟨nn (c 4) - 2, by omega, by rw [show nn (c 4) - 2 + 1 + 1 = nn (c 4) by omega]; exact k2⟩
  -- the sources of both
  have go : ∀ (v : Nat) (c1 : Nat → Int32) (s1 : Nat → Nat → Int32), v < 2 → AR n w s0 M c1 s1 → (∀ p, p < 8 → c1 p = c p) → (∀ f, f ≠ 33 → f ≠ 32 → s1 f = s f) → AR n w s0 (fun b => (M b ∨ b = k + 1) ∨ b = k) (upd (upd (apW (apW c1 (pushW c1 (c1 3))) (pushW (apW c1 (pushW c1 (c1 3))) (c1 5 + 2 * c1 6))) 7 0) 3 (upd (apW (apW c1 (pushW c1 (c1 3))) (pushW (apW c1 (pushW c1 (c1 3))) (c1 5 + 2 * c1 6))) 7 0 (108 + v))) (tw_up (tw_up (pushS (pushS s1 (c 3)) (c 5 + 2 * c 6)) 31 0 0) 27 0 (tw_up (pushS (pushS s1 (c 3)) (c 5 + 2 * c 6)) 31 0 0 25 v)) := by
    intro v c1 s1 hv A1 hc1 hs1
    have q4 : c1 4 = Int32.ofNat (k + 1 + 1) := (hc1 4 (by omega)).trans h4
    have A2 := ar_push A1 (k := k + 1) q4 (by omega) ((hc1 2 (by omega)).trans hn) h1000 (Or.inl hM) (c1 3)
    have q4' : apW c1 (pushW c1 (c1 3)) 4 = Int32.ofNat (k + 1) := by
      show (upd (upd c1 4 (c1 4 - 1)) (108 + nn (c1 4 - 1)) (c1 3)) 4 = _
      rw [upd_ne _ _ (by omega), upd_eq, q4]
      exact i_sub (b := 1) (a := k + 1 + 1) (by omega)
    have q2' : apW c1 (pushW c1 (c1 3)) 2 = Int32.ofNat n := by
      show (upd (upd c1 4 (c1 4 - 1)) (108 + nn (c1 4 - 1)) (c1 3)) 2 = _
      rw [upd_ne _ _ (by omega), upd_ne _ _ (by omega), hc1 2 (by omega), hn]
    have A3 := ar_push A2 (k := k) q4' (by omega) q2' h1000 (Or.inr ⟨k + 1, fun x => ⟨fun z => z.elim (fun y => absurd y (hM x)) id, Or.inr⟩⟩) (c1 5 + 2 * c1 6)
    have A4 := A3.up (p := 7) (x := 0) (Or.inl (by omega)) rfl rfl
    have A5 := A4.up (p := 3) (x := upd (apW (apW c1 (pushW c1 (c1 3))) (pushW (apW c1 (pushW c1 (c1 3))) (c1 5 + 2 * c1 6))) 7 0 (108 + v)) (Or.inl (by omega)) rfl rfl
    refine A5.eqs ?_
    have m := A4.1.mem (a := v) (by omega)
    rw [show fF 7 = 31 from rfl, show fI 7 = 0 from rfl, hc1 3 (by omega), hc1 5 (by omega), hc1 6 (by omega)] at m
    rw [hc1 3 (by omega), hc1 5 (by omega), hc1 6 (by omega), m]
    rfl
  -- the twin's rows
  have tw : ∀ (v : Nat) (x : Int32), v = (if s 32 0 = 0 then 1 else 0) → x = (if s 32 0 = 0 then 0 else if s 33 0 = 0 then 0 else 1) → interS s = tw_up (tw_up (pushS (pushS (tw_up (tw_up s 33 0 x) 32 0 0) (c 3)) (c 5 + 2 * c 6)) 31 0 0) 27 0 (tw_up (pushS (pushS (tw_up (tw_up s 33 0 x) 32 0 0) (c 3)) (c 5 + 2 * c 6)) 31 0 0 25 v) := by
    intro v x hv hx
    unfold interS
    simp only []
    rw [← hv, ← hx, e3, show (if s 29 0 = 0 then (0 : Int32) else 1) + (if s 30 0 = 0 then 0 else 2) = c 5 + 2 * c 6 from by
      rw [e5, e6]
      rcases F 5 (by omega) (by omega) with z | z <;> rcases F 6 (by omega) (by omega) with z2 | z2 <;> rw [z, z2] <;> decide]
    have p1 : kw (tw_up (tw_up (tw_up (tw_up s 33 0 x) 32 0 0) 28 0 (s 28 0 - 1)) 25 (s 28 0 - 1).toNatClampNeg (c 3)) (s 28 0 - 1) = pushS (tw_up (tw_up s 33 0 x) 32 0 0) (c 3) := rfl
    rw [p1]
    have p28 : pushS (tw_up (tw_up s 33 0 x) 32 0 0) (c 3) 28 0 = s 28 0 - 1 := by
      unfold pushS
      rw [kw_at _ _ 28 (by decide) (by decide)]
      rfl
    have p2 : kw (tw_up (tw_up (pushS (tw_up (tw_up s 33 0 x) 32 0 0) (c 3)) 28 0 (s 28 0 - 1 - 1)) 25 (s 28 0 - 1 - 1).toNatClampNeg (c 5 + 2 * c 6)) (s 28 0 - 1 - 1) = pushS (pushS (tw_up (tw_up s 33 0 x) 32 0 0) (c 3)) (c 5 + 2 * c 6) := by
      exact (pushS_eq (t := pushS (tw_up (tw_up s 33 0 x) 32 0 0) (c 3)) p28).symm
    rw [p2]
  have cls : ∀ (v : Nat) (src : Int32) (c1 : Nat → Int32), src = (if c 8 = 1 then 0 else 1) → nn (108 + src) = 108 + v → c1 = upd c (nn (8 + src)) 0 → apW c (interW c) = upd (upd (apW (apW c1 (pushW c1 (c1 3))) (pushW (apW c1 (pushW c1 (c1 3))) (c1 5 + 2 * c1 6))) 7 0) 3 (upd (apW (apW c1 (pushW c1 (c1 3))) (pushW (apW c1 (pushW c1 (c1 3))) (c1 5 + 2 * c1 6))) 7 0 (108 + v)) ∧ ∃ x y z u t, interW c = [(nn (8 + src), 0), (4, y), (108 + nn (c1 4 - 1), z), (4, u), (108 + nn (apW c1 (pushW c1 (c1 3)) 4 - 1), t), (7, 0), (3, x)] := by
    intro v src c1 hs hv hc
    unfold interW
    rw [if_pos h2]
    simp only []
    rw [← hs, hv]
    have w1 : apW c [(nn (8 + src), 0)] = c1 := hc.symm
    rw [w1]
    have w2 : apW c ([(nn (8 + src), 0)] ++ pushW c1 (c1 3)) = apW c1 (pushW c1 (c1 3)) := by rw [apW_app, w1]
    rw [w2]
    have d5 : apW c1 (pushW c1 (c1 3)) 5 = c1 5 := by
      show (upd (upd c1 4 _) (108 + nn (c1 4 - 1)) _) 5 = _
      rw [upd_ne _ _ (by omega), upd_ne _ _ (by omega)]
    have d6 : apW c1 (pushW c1 (c1 3)) 6 = c1 6 := by
      show (upd (upd c1 4 _) (108 + nn (c1 4 - 1)) _) 6 = _
      rw [upd_ne _ _ (by omega), upd_ne _ _ (by omega)]
    rw [d5, d6]
    generalize c1 5 + 2 * c1 6 = y
    generalize eP : pushW c1 (c1 3) = P1 at *
    generalize eQ : pushW (apW c1 P1) y = P2 at *
    have w3 : apW c ([(nn (8 + src), 0)] ++ P1 ++ P2 ++ [(7, 0)]) = upd (apW (apW c1 P1) P2) 7 0 := by
      rw [apW_app, apW_app, w2]; rfl
    rw [apW_app, w3]
    refine ⟨rfl, ?_⟩
    rw [← eQ, ← eP]
    exact ⟨_, _, _, _, _, rfl⟩
  have fin : ∀ (v : Nat) (src : Int32) (x : Int32) (c1 : Nat → Int32), v < 2 → v = (if s 32 0 = 0 then 1 else 0) → x = (if s 32 0 = 0 then 0 else if s 33 0 = 0 then 0 else 1) → src = (if c 8 = 1 then 0 else 1) → nn (108 + src) = 108 + v → nn (8 + src) < 12 → nn (8 + src) ≠ 4 → c1 = upd c (nn (8 + src)) 0 → upd (upd c 9 x) 8 0 = c1 → AR n w s0 (MW (interW c)) (apW c (interW c)) (interS s) := by
    intro v src x c1 v2 hv hx hs h108 h12 hne hc1 he
    obtain ⟨g1, y0, y1, y2, y3, y4, g2⟩ := cls v src c1 hs h108 hc1
    have A1 := (A.up (p := 9) (x := x) (Or.inl (by omega)) rfl rfl).up (p := 8) (x := 0) (Or.inl (by omega)) rfl rfl
    rw [he] at A1
    have lo : ∀ p, p < 8 → c1 p = c p := fun p hp => by rw [← he, upd_ne _ _ (by omega), upd_ne _ _ (by omega)]
    have r1 : nn (c1 4 - 1) = k + 1 := by rw [lo 4 (by omega), h4, show Int32.ofNat (k + 1 + 1) - 1 = Int32.ofNat (k + 1) from i_sub (b := 1) (a := k + 1 + 1) (by omega), nn_of (by omega)]
    have r2 : nn (apW c1 (pushW c1 (c1 3)) 4 - 1) = k := by
      rw [show apW c1 (pushW c1 (c1 3)) 4 = Int32.ofNat (k + 1) from by
        show (upd (upd c1 4 (c1 4 - 1)) (108 + nn (c1 4 - 1)) (c1 3)) 4 = _
        rw [upd_ne _ _ (by omega), upd_eq, lo 4 (by omega), h4]
        exact i_sub (b := 1) (a := k + 1 + 1) (by omega), show Int32.ofNat (k + 1) - 1 = Int32.ofNat k from i_sub (b := 1) (a := k + 1) (by omega), nn_of (by omega)]
    refine ((go v c1 _ v2 A1 lo (fun f f1 f2 => ?_)).eqM (fun a => ?_)).eqs (tw v x hv hx) |>.eqc g1
    · show tw_up (tw_up s 33 0 x) 32 0 0 f = s f; rw [tw_up_at, if_neg f2, tw_up_at, if_neg f1]
    · rw [g2, r1, r2]
      rw [MW_cons, MW_cons, MW_cons, MW_cons, MW_cons, MW_cons, MW_cons]
      constructor
      · rintro (h | h | h | h | h | h | h | h)
        · simp at h; omega
        · simp at h; omega
        · exact Or.inl (Or.inr (by simp at h; omega))
        · simp at h; omega
        · exact Or.inr (by simp at h; omega)
        · simp at h; omega
        · simp at h; omega
        · exact absurd h (MW_nil a)
      · rintro ((h | h) | h)
        · exact absurd h (hM a)
        · exact Or.inr (Or.inr (Or.inl (by rw [h])))
        · exact Or.inr (Or.inr (Or.inr (Or.inr (Or.inl (by rw [h])))))
  rcases F 8 (by omega) (by omega) with z | z
  · refine fin 1 1 0 (upd c 9 0) (by omega) (by rw [e8, z]; rfl) (by rw [e8, z]; rfl) (by rw [z]; rfl) rfl (by decide) (by decide) rfl ?_
    have := upd_same (upd c 9 0) 8
    rw [show (upd c 9 0) 8 = 0 from z] at this
    exact this
  · refine fin 0 0 (c 9) (upd c 8 0) (by omega) (by rw [e8, z]; rfl) ?_ (by rw [z]; rfl) rfl (by decide) (by decide) rfl (by rw [upd_same])
    rw [e8, e9, z, if_neg (by decide)]
    rcases F 9 (by omega) (by omega) with z2 | z2 <;> rw [z2] <;> rfl
/-! behind a step -/
theorem told_any {kt : Nat → Int32} {t : Int32} : ∀ m, toldN kt t t m = 0 ↔ ∀ k, k < m → kt k ≠ t
  | 0 => ⟨fun _ k hk => absurd hk (Nat.not_lt_zero k), fun _ => rfl⟩
  | m + 1 => by
    show toldN kt t t m + (if t ≤ kt m ∧ kt m ≤ t then 1 else 0) = 0 ↔ _
    have ih := told_any (kt := kt) (t := t) m
    constructor
    · intro h k hk
      have h1 : toldN kt t t m = 0 := by omega
      by_cases e : k = m
      · subst e
        intro z
        rw [if_pos ⟨by rw [z]; exact Int32.le_refl _, by rw [z]; exact Int32.le_refl _⟩] at h
        omega
      · exact ih.mp h1 k (by omega)
    · intro h
      rw [ih.mpr (fun k hk => h k (by omega)), if_neg (fun z => h m (by omega) (Int32.le_antisymm z.2 z.1))]
theorem any_k {s : Nat → Nat → Int32} : ∀ m, anyT s m ↔ ∃ k, k < m ∧ s 41 k = s 38 0
  | 0 => ⟨fun h => absurd h (fun z => z), fun ⟨k, hk, _⟩ => absurd hk (Nat.not_lt_zero k)⟩
  | m + 1 => by
    show (anyT s m ∨ s 41 m = s 38 0) ↔ _
    rw [any_k m]
    constructor
    · rintro (⟨k, hk, h⟩ | h)
      · exact ⟨k, by omega, h⟩
      · exact ⟨m, by omega, h⟩
    · rintro ⟨k, hk, h⟩
      by_cases e : k = m
      · exact Or.inr (by rw [← e]; exact h)
      · exact Or.inl ⟨k, by omega, h⟩
theorem in_pass (A : AR n w s0 M c s) (F : F01 c) (R : KR K s) {x : Int32} (hx1 : (s 33 0 = 1 ∨ anyT (tickS s) K.1) → x = 1) (hx0 : ¬ (s 33 0 = 1 ∨ anyT (tickS s) K.1) → x = 0) : AR n w s0 M (apW c (passW K c)) (tw_up (tickS s) 33 0 x) := by
  have e2 : s 38 0 = c 2 := A.g (p := 2) (by omega)
  have e8 : s 32 0 = c 8 := A.g (p := 8) (by omega)
  have e9 : s 33 0 = c 9 := A.g (p := 9) (by omega)
  have e10 : s 34 0 = c 10 := A.g (p := 10) (by omega)
  have e11 : s 35 0 = c 11 := A.g (p := 11) (by omega)
  have t41 : tickS s 41 = s 41 := by
    unfold tickS
    split
    · rfl
    · rfl
  have t38 : tickS s 38 0 = c 2 + 1 := by
    unfold tickS
    rw [← e2]
    split
    · rfl
    · rfl
  have A1 := A.up (p := 2) (x := c 2 + 1) (Or.inl (by omega)) rfl rfl
  -- the timer
  have A2 : AR n w s0 M (apW (upd c 2 (c 2 + 1)) (timeW c)) (tickS s) := by
    unfold tickS timeW
    simp only []
    rw [e10, e11, e8, e2]
    by_cases q : c 10 ≤ 0
    · rw [if_pos q, if_pos q]; exact A1
    · rw [if_neg q, if_neg q]
      refine (((A1.up (p := 11) (x := c 11 + 1) (Or.inl (by omega)) rfl rfl).up (p := 8) (x := if c 8 = 0 ∧ ¬ c 11 + 1 = c 10 then 0 else 1) (Or.inl (by omega)) rfl rfl).up (p := 11) (x := if c 11 + 1 = c 10 then 0 else c 11 + 1) (Or.inl (by omega)) rfl rfl).eqc ?_
      show upd (upd (upd c 2 _) 11 _) 8 _ = upd (upd (upd (upd c 2 _) 11 _) 8 _) 11 _
      rw [upd_comm (upd c 2 (c 2 + 1)) (show 11 ≠ 8 by omega), upd_comm (upd c 2 (c 2 + 1)) (show 11 ≠ 8 by omega), upd_upd]
      congr 2
      by_cases q2 : c 11 + 1 = c 10
      · rw [if_pos q2, if_neg (fun z => z.2 q2)]
      · rw [if_neg q2]
        rcases F 8 (by omega) (by omega) with z | z
        · rw [z, if_pos ⟨rfl, q2⟩]
        · rw [z, if_neg (fun y => absurd y.1 (by decide))]
  -- the keys
  have c9 : apW (upd c 2 (c 2 + 1)) (timeW c) 9 = c 9 := by
    unfold timeW
    split
    · rfl
    · rfl
  have any : anyT (tickS s) K.1 ↔ ¬ toldN K.2.1 (c 2 + 1) (c 2 + 1) K.1 = 0 := by
    rw [told_any, any_k, t41, t38]
    constructor
    · rintro ⟨k, hk, h⟩ z
      exact z k hk ((R.2.2 k hk).1.symm.trans h)
    · intro z
      refine Classical.byContradiction fun y => z fun k hk e => y ⟨k, hk, (R.2.2 k hk).1.trans e⟩
  have A3 := A2.up (p := 9) (x := x) (Or.inl (by omega)) rfl rfl
  refine A3.eqc ?_
  show apW c ([(2, c 2 + 1)] ++ (timeW c ++ comeW K (c 2 + 1))) = _
  rw [apW_app, apW_app]
  show apW (apW (upd c 2 (c 2 + 1)) (timeW c)) (comeW K (c 2 + 1)) = _
  unfold comeW
  by_cases q : toldN K.2.1 (c 2 + 1) (c 2 + 1) K.1 = 0
  · rw [if_pos q]
    have x9 : x = c 9 := by
      rcases F 9 (by omega) (by omega) with z | z
      · rw [z]
        exact hx0 (fun y => y.elim (fun y => by rw [e9, z] at y; exact absurd y (by decide)) (fun y => any.mp y q))
      · rw [z]
        exact hx1 (Or.inl (e9.trans z))
    rw [x9, ← c9, upd_same]
    rfl
  · rw [if_neg q, hx1 (Or.inr (any.mpr q))]
    rfl
end PSS
