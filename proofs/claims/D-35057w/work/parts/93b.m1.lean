/-! the class's machine: a step with a journal -/
section MM1
variable {d b im n cap : Nat} {ds0 c : Nat → Int32} {K : kk_K} {J : mm_J} {P : Nat → Prop} {h : ax_H}
def appJ (J : mm_J) (n : Nat) (x : List (Nat × Int32)) : mm_J := fun i => if i = n then x else J i
/-- the steps that are kept, one more -/
def kpN (n : Nat) : Nat := if n + 1 ≤ 200 then n + 1 else n
def kpJ (J : mm_J) (n : Nat) (x : List (Nat × Int32)) : mm_J := if n + 1 ≤ 200 then appJ J n x else fun i => appJ J n x (i + 1)
theorem c_make1 (hd : 14 ≤ d) (M : MM b 1 im ds0 c K n J cap P h) (O : OLD h) (C : WC c) (F : FW (ds c)) (hk : nn (c 16) ≤ toldN K.2.1 0 (c 2) K.1) (G : WK c) (hn : n ≤ 200) : Ok (ax_c d 316 [.ref b] h) (.inl none) (fun h' => ∃ cap', MM b 1 im ds0 (apW c (stepW K c)) K (kpN n) (kpJ J n (joW c (stepW K c))) cap' (xR P h h') h' ∧ cap ≤ cap' ∧ h.2.1 ≤ h'.2.1 ∧ h.2.2 ≤ h'.2.2 ∧ h'.2.1 + cap ≤ h.2.1 + cap' + (160 + 12 * fE K c) ∧ h'.2.2 + 4 * cap ≤ h.2.2 + 4 * cap' + (340 + 1100 * fE K c) ∧ ∀ q, q < 400 + h.2.1 → ¬ P q → h'.1 q = h.1 q) := by
  obtain ⟨X, arr, a, it, rw', m1, m2, m3, m4, m5, m6, m7, m8, m9, m10, m11, m12, m13, m14, m15, m16⟩ := M
  obtain ⟨d, rfl, he⟩ := d_succ hd
  refine Ok.le m_X2_make ?_
  rw [gI_at m1 rfl rfl, Option.bind_some, if_neg (show ¬ (1 : Int32) = 0 by decide), nw_at]
  -- the new step at st, its row behind it
  obtain ⟨st, est⟩ : ∃ st, st = 400 + h.2.1 := ⟨_, rfl⟩
  have e358 : Ok (ax_c d 358 [.ref (400 + h.2.1)] (ax_new h (.inr (31, [.null, .int 0])) 2)) (.inl none) (fun h' => h'.1 st = .inr (31, [.ref (st + 1), .int 0]) ∧ h'.1 (st + 1) = .inl (0, 16, .inl fun _ => 0) ∧ h'.2.1 = h.2.1 + 2 ∧ h'.2.2 = h.2.2 + 18 ∧ ∀ q, q < st → h'.1 q = h.1 q) := by
    obtain ⟨d2, rfl, he2⟩ := d_succ (k := 12) he
    refine Ok.le m_X21_init ?_
    rw [nn_ref, na_at (k := 16) (n := 16) rfl (by omega), pF_aref ((new_ne _ _ (show 400 + h.2.1 ≠ 400 + (h.2.1 + 1) by omega)).trans (new_eq _ _)) rfl (Nat.le_of_ble_eq_true rfl) (by omega), Option.bind_some]
    subst est
    exact Ok.ret ⟨(set_eq _).trans rfl, (set_ne _ (by omega)).trans (new_eq _ _), rfl, rfl, fun q hq => (set_ne _ (by omega)).trans ((new_ne _ _ (show q ≠ 400 + (h.2.1 + 1) by omega)).trans (new_ne _ _ (by omega)))⟩
  refine Ok.V e358 ?_
  rintro h4 ⟨f1, f2, f3, f4, f5⟩
  have mb := (f5 b (by omega)).trans m1
  rw [pF_oref mb rfl (Nat.le_of_ble_eq_true rfl) (by omega), Option.bind_some, show (Value.ref (400 + h.2.1)) = .ref st by rw [est]]
  obtain ⟨h5, eh5⟩ : ∃ h5, h5 = ax_set h4 b (.inr (29, mo_fs b (h, 1, im) (some st) X.1)) := ⟨_, rfl⟩
  rw [show (mo_fs b (h, 1, im) none X.1).set 4 (.ref st) = mo_fs b (h, 1, im) (some st) X.1 from rfl, ← eh5]
  have g1 : h5.1 b = .inr (29, mo_fs b (h, 1, im) (some st) X.1) := by rw [eh5]; exact set_eq _
  have g2 : h5.2 = h4.2 := by rw [eh5]; rfl
  have g3 : ∀ q, q ≠ b → h5.1 q = h4.1 q := fun q hq => by rw [eh5]; exact set_ne _ hq
  clear eh5
  have D5 : DQ h5 (b + 3) arr cap a n it := m5.mono ((g3 _ (by omega)).trans (f5 _ (by omega))) ((g3 _ (by omega)).trans (f5 _ (by have := m5.2.2.2.2.2.2.2.2; omega))) (by rw [g2, f3]; omega)
  rw [gA_r (p := b + 3) g1 rfl rfl, Option.bind_some, gA_r (p := st) g1 rfl rfl, Option.bind_some, vn_at D5.1]
  show Ok (Option.bind (some 149) _) _ _
  rw [Option.bind_some]
  have s5 : h5.1 st = .inr (31, [.ref (st + 1), .int 0]) := (g3 _ (by omega)).trans f1
  refine Ok.V (dq_addLast (by omega) D5 hn m6 s5 (by decide)) ?_
  rintro h8 ⟨arr', cap', a', D8, c17, ea, ⟨b1, b2, b3, b4, b5⟩, k8⟩
  have st3 : st < 400 + h5.2.1 := by rw [g2, f3]; omega
  have ab : arr < 400 + h.2.1 := m5.2.2.2.2.2.2.2.2
  have keep8 : ∀ q, q < st → q ≠ b → q ≠ b + 3 → q ≠ arr → h8.1 q = h.1 q := fun q hq q1 q2 q3 => (k8 q (by omega) q2 q3).trans ((g3 q q1).trans (f5 q hq))
  have b8 : h8.1 b = .inr (29, mo_fs b (h, 1, im) (some st) X.1) := (k8 b (by omega) (by omega) (by omega)).trans g1
  have s8 : h8.1 st = .inr (31, [.ref (st + 1), .int 0]) := (k8 st (by omega) (by omega) (by omega)).trans s5
  have r8 : h8.1 (st + 1) = .inl (0, 16, .inl fun _ => 0) := (k8 _ (by rw [g2, f3]; omega) (by omega) (by omega)).trans ((g3 _ (by omega)).trans f2)
  have ea' : (arr' = arr ∨ st + 2 ≤ arr') := ea.imp id fun z => by rw [z, g2, f3]; omega
  rw [gA_r (p := b + 3) b8 rfl rfl, Option.bind_some, vn_at D8.1]
  show Ok (Option.bind (some 143) _) _ _
  rw [Option.bind_some, dq_size (by omega) D8, cI_v]
  -- the step itself, behind the prologue
  have main : ∀ (g : ax_H) (n' : Nat) (a2 : Nat) (it2 rw2 : Nat → Nat) (J2 : mm_J), g.2 = h8.2 → (∀ q, q ≠ b + 3 → q ≠ arr' → g.1 q = h8.1 q) → DQ g (b + 3) arr' cap' a2 (n' + 1) it2 → n' + 1 ≤ 200 → it2 n' = st → (∀ i, i < n' → SJ h b (it2 i) (rw2 i) (J2 i) ∧ P (it2 i) ∧ P (rw2 i)) → (∀ i j, i < j → j < n' → it2 i ≠ it2 j ∧ rw2 i ≠ rw2 j) → Ok (B_X2_make_50 (ax_c d) b g) (.inl none) (fun h' => ∃ cap', MM b 1 im ds0 (apW c (stepW K c)) K (n' + 1) (appJ J2 n' (joW c (stepW K c))) cap' (xR P h h') h' ∧ cap ≤ cap' ∧ h.2.1 ≤ h'.2.1 ∧ h.2.2 ≤ h'.2.2 ∧ h'.2.1 + cap ≤ h.2.1 + cap' + (160 + 12 * fE K c) ∧ h'.2.2 + 4 * cap ≤ h.2.2 + 4 * cap' + (340 + 1100 * fE K c) ∧ ∀ q, q < 400 + h.2.1 → ¬ P q → h'.1 q = h.1 q) := by
    intro g n' a2 it2 rw2 J2 gs gk Dg hn' eit sj dj
    have gb3 : ∀ q, q < st → q ≠ b → q ≠ b + 3 → q ≠ arr → g.1 q = h.1 q := fun q hq q1 q2 q3 => (gk q q2 (by omega)).trans (keep8 q hq q1 q2 q3)
    have gm : ∀ q, b < q → q < b + 12 → q ≠ b + 3 → q ≠ b + 4 → g.1 q = h.1 q := fun q q1 q2 q3 q4 => gb3 q (by omega) (by omega) q3 (by omega)
    have gs1 : g.2.1 = h8.2.1 := by rw [gs]
    have gs2 : g.2.2 = h8.2.2 := by rw [gs]
    have b1' : h.2.1 + 2 ≤ h8.2.1 := by rw [g2, f3] at b1; exact b1
    have b2' : h.2.2 + 18 ≤ h8.2.2 := by rw [g2, f4] at b2; exact b2
    have b3' : h8.2.1 + cap ≤ h.2.1 + 2 + cap' := by rw [g2, f3] at b3; exact b3
    have b4' : h8.2.2 + 4 * cap ≤ h.2.2 + 18 + 4 * cap' := by rw [g2, f4] at b4; exact b4
    have gst : g.1 st = .inr (31, [.ref (st + 1), .int 0]) := (gk _ (by omega) (by omega)).trans s8
    have grw : g.1 (st + 1) = .inl (0, 16, .inl fun _ => 0) := (gk _ (by omega) (by omega)).trans r8
    have narr : ∀ q k fs, h.1 q = .inr (k, fs) → q ≠ arr := fun q k fs e z => by
      obtain ⟨-, ⟨f, e2, -⟩, -⟩ := m5
      rw [z, e2] at e
      cases e
    obtain ⟨y1, ⟨gg, y2, y3⟩, y4, y5, y6⟩ := m3
    have R : MR b (g, 1, im) g.2.1 g.2.2 (some st) c [] X g := by
      refine ⟨(gk b (by omega) (by omega)).trans b8, (gm _ (by omega) (by omega) (by omega) (by omega)).trans m2, ⟨(gm _ (by omega) (by omega) (by omega) (by omega)).trans y1, ⟨gg, (gm _ (by omega) (by omega) (by omega) (by omega)).trans y2, y3⟩, fun k hk => (gm _ (by omega) (by omega) (by omega) (by omega)).trans (y4 k hk), y5, y6⟩, ⟨16, ⟨by omega, ⟨by show st + 1 < 400 + g.2.1; omega, by omega⟩, st + 1, fun _ => 0, gst, grw, Or.inl rfl, by omega, by show 2 * 0 ≤ 16; omega, ⟨by omega, by omega⟩, by omega, fun i q hq => by simp at hq⟩, by omega, by omega⟩, fun _ _ _ _ => rfl, Nat.le_refl _, Nat.le_refl _, m11, by show b + 11 < 400 + g.2.1; omega⟩
    have Og : OLD g := O.mono fun q hq => gb3 q (by omega) (by omega) (by omega) (by have := m5.2.2.2.2.2.2.2.1; omega)
    have Bg : SB0 (g, 1, im) (some st) := fun st' e => by cases e; exact ⟨⟨_, gst⟩, _, grw⟩
    have Yg : KYP b g K P := m4.mono (fun q hq hh ⟨k, fs, hk, hk2⟩ _ => gb3 q (by omega) (by omega) (by omega) (narr q k fs hk)) (fun _ _ hp => hp) (by omega)
    refine (c_make50 he R Og Bg Yg.ky C F hk G).imp ?_
    rintro h' ⟨X', h2, ⟨r1, r2, ⟨r3, ⟨g', r4, r5⟩, r6, r7⟩, ⟨n2, ⟨j1, ⟨j2, j3⟩, row, f, j4, j5, j6, j7, j8, j9, j10, j11⟩, r9, r10⟩, r11, r12, r13, r14, r15⟩, rfl⟩
    have hlen := stepW_len K c
    rw [joW_len] at j8 j10
    have r12 : g.2.1 ≤ h2.2.1 := r12
    have r13 : g.2.2 ≤ h2.2.2 := r13
    have r9 : h2.2.1 ≤ g.2.1 + 12 * fE K c + n2 := r9
    have r10 : h2.2.2 ≤ g.2.2 + 1100 * fE K c + 2 * n2 := r10
    have j6' : row = st + 1 ∨ 400 + g.2.1 ≤ row := j6
    have keep : ∀ q, q < 400 + g.2.1 → q ≠ b → ¬ mA b q → q ≠ st → q ≠ st + 1 → (ax_set h2 b (.inr (29, mo_fs b (g, 1, im) none X'.1))).1 q = g.1 q := fun q hq hb hA h1 h3 => (set_ne _ hb).trans (r11 q hq hA (fun z => by obtain ⟨st', e, z⟩ := z; cases e; exact z.elim h1 h3))
    have nA : ∀ q, q < b ∨ (b + 1 < q ∧ q < b + 7) ∨ b + 12 ≤ q → q ≠ b ∧ ¬ mA b q := fun q hq => ⟨by omega, fun z => by rcases z with z | z | z <;> omega⟩
    have k2 : ∀ q, q < 400 + g.2.1 → (q < b ∨ (b + 1 < q ∧ q < b + 7) ∨ b + 12 ≤ q) → q ≠ st → q ≠ st + 1 → (ax_set h2 b (.inr (29, mo_fs b (g, 1, im) none X'.1))).1 q = g.1 q := fun q hq hh => keep q hq (nA q hh).1 (nA q hh).2
    -- what stood before the step
    have k3 : ∀ q, q < st → (q < b ∨ (b + 1 < q ∧ q < b + 7) ∨ b + 12 ≤ q) → q ≠ b + 3 → q ≠ arr → (ax_set h2 b (.inr (29, mo_fs b (g, 1, im) none X'.1))).1 q = h.1 q := fun q hq hh q1 q2 => (k2 q (by omega) hh (by omega) (by omega)).trans (gb3 q hq (by omega) q1 q2)
    have sjn : ∀ i, i < n' → SJ h b (it2 i) (rw2 i) (J2 i) := fun i hi => (sj i hi).1
    have rwarr : ∀ q m f, h.1 q = .inl (0, m, f) → q ≠ arr := fun q m f e z => by
      obtain ⟨-, ⟨f', e2, -⟩, -⟩ := m5
      rw [z, e2] at e
      cases e
    refine ⟨cap', ⟨X', arr', a2, it2, fun i => if i = n' then row else rw2 i, (set_eq _).trans rfl, (set_ne _ (by omega)).trans r2, ⟨(set_ne _ (by omega)).trans r3, ⟨g', (set_ne _ (by omega)).trans r4, r5⟩, fun k hk => (set_ne _ (by omega)).trans (r6 k hk), r7⟩, m4.mono (fun q hq hh ⟨k, fs, hk, hk2⟩ _ => k3 q (by omega) (by omega) (by omega) (narr q k fs hk)) (fun q hq hp => ⟨by show q < 400 + h2.2.1; omega, Or.inl hp⟩) (by show h.2.1 ≤ h2.2.1; omega), Dg.mono (k2 _ (by omega) (by omega) (by omega) (by omega)) (k2 _ Dg.2.2.2.2.2.2.2.2 (by omega) (by omega) (by omega)) r12, c17, by omega, fun i hi => ?_, fun i j hij hj => ?_, ?_, m11, by show b + 11 < 400 + h2.2.1; omega, fun q hq => hq.1, fun q h1 h3 => ⟨by show q < 400 + h2.2.1; omega, Or.inl (m14 q h1 h3)⟩, ⟨by show arr' < 400 + h2.2.1; have := Dg.2.2.2.2.2.2.2.2; omega, ?_⟩, fun i hi => ?_⟩, b5, by show h.2.1 ≤ h2.2.1; omega, by show h.2.2 ≤ h2.2.2; omega, by show h2.2.1 + cap ≤ _; omega, by show h2.2.2 + 4 * cap ≤ _; omega, fun q hq hP => ?_⟩
    · show SJ _ b (it2 i) (if i = n' then row else rw2 i) (if i = n' then joW c (stepW K c) else J2 i)
      by_cases z : i = n'
      · rw [if_pos z, if_pos z, z, eit]
        refine ⟨(set_ne _ (by omega)).trans j4, ⟨j1, by show st < 400 + h2.2.1; omega⟩, ⟨by omega, by show row < 400 + h2.2.1; omega⟩, by rw [joW_len]; omega, f, n2, (set_ne _ (by omega)).trans j5, by rw [joW_len]; exact j8, j9, by rw [joW_len]; exact j10, j11⟩
      · rw [if_neg z, if_neg z]
        have s := sjn i (by omega)
        obtain ⟨f', m', e', -⟩ := s.2.2.2.2
        exact s.mono (k3 _ (by have := s.2.1.2; omega) (Or.inr (Or.inr s.2.1.1)) (by have := s.2.1.1; omega) (narr _ _ _ s.1)) (k3 _ (by have := s.2.2.1.2; omega) (Or.inr (Or.inr s.2.2.1.1)) (by have := s.2.2.1.1; omega) (rwarr _ _ _ e')) (by show h.2.1 ≤ h2.2.1; omega)
    · show it2 i ≠ it2 j ∧ (if i = n' then row else rw2 i) ≠ (if j = n' then row else rw2 j)
      have s := sjn i (by omega)
      rw [if_neg (show ¬ i = n' by omega)]
      by_cases z : j = n'
      · rw [if_pos z, z, eit]
        exact ⟨by have := s.2.1.2; omega, by have := s.2.2.1.2; omega⟩
      · rw [if_neg z]
        exact dj i j hij (by omega)
    · exact (k3 _ (by omega) (by omega) (by omega) (by
        intro z
        exact rwarr _ _ _ m10 z)).trans m10
    · rcases ea' with z | z
      · rw [z]; exact Or.inl m15
      · exact Or.inr (by omega)
    · show xR P h _ (it2 i) ∧ xR P h _ (if i = n' then row else rw2 i)
      by_cases z : i = n'
      · rw [if_pos z, z, eit]
        exact ⟨⟨by show st < 400 + h2.2.1; omega, Or.inr (by omega)⟩, ⟨by show row < 400 + h2.2.1; omega, Or.inr (by omega)⟩⟩
      · rw [if_neg z]
        have s := sj i (by omega)
        exact ⟨⟨by show it2 i < 400 + h2.2.1; have := s.1.2.1.2; omega, Or.inl s.2.1⟩, ⟨by show rw2 i < 400 + h2.2.1; have := s.1.2.2.1.2; omega, Or.inl s.2.2⟩⟩
    · have q1 : ¬ (b ≤ q ∧ q ≤ b + 11) := fun z => hP (m14 q z.1 z.2)
      exact k3 q (by omega) (by omega) (by omega) (fun z => hP (by rw [z]; exact m15))
  by_cases q : n + 1 ≤ 200
  · rw [if_pos (show Int32.ofNat (n + 1) ≤ 200 from (i_le (b := 200) (by omega) (by omega)).mpr q)]
    unfold kpN kpJ
    rw [if_pos q, if_pos q]
    exact main h8 n a' _ rw' J rfl (fun _ _ _ => rfl) D8 q (if_pos rfl) (fun i hi => by rw [if_neg (by omega)]; exact ⟨m8 i hi, m16 i hi⟩) (fun i j hij hj => by rw [if_neg (by omega), if_neg (by omega)]; exact m9 i j hij hj)
  · rw [if_neg (show ¬ Int32.ofNat (n + 1) ≤ 200 from fun z => q ((i_le (b := 200) (by omega) (by omega)).mp z)), gA_r (p := b + 3) b8 rfl rfl, Option.bind_some, vn_at D8.1]
    show Ok (Option.bind (some 153) _) _ _
    rw [Option.bind_some]
    refine Ok.R (dq_removeFirst (by omega) D8) ?_
    rintro g ⟨⟨a2, Dg⟩, x2⟩
    unfold kpN kpJ
    rw [if_neg q, if_neg q]
    obtain ⟨n1, rfl⟩ : ∃ n1, n = n1 + 1 := ⟨n - 1, by omega⟩
    refine (main g n1 a2 _ (fun i => rw' (i + 1)) (fun i => J (i + 1)) x2.1 (fun q q1 q2 => x2.2 q fun z => z.elim q1 q2) Dg (by omega) (if_pos rfl) (fun i hi => by rw [if_neg (by omega)]; exact ⟨m8 (i + 1) (by omega), m16 (i + 1) (by omega)⟩) (fun i j hij hj => by rw [if_neg (by omega), if_neg (by omega)]; exact m9 (i + 1) (j + 1) (by omega) (by omega))).imp ?_
    intro h' hh
    have eJ : (fun i => appJ J (n1 + 1) (joW c (stepW K c)) (i + 1)) = appJ (fun i => J (i + 1)) n1 (joW c (stepW K c)) := by
      funext i
      unfold appJ
      by_cases z : i = n1
      · rw [if_pos (by omega), if_pos z]
      · rw [if_neg (by omega), if_neg z]
    rw [eJ]
    exact hh
end MM1
