/-! the class's machine: the sum made anew by a new machine -/
/- with MM.mv MM.cells MM.sI MM.d6 MM.bd MM.g0 MM.g1 MM.g5 MM.g6 insF_lt DQ.mono SJ.mono FrP.rf -/
section MMA
variable {d b im n cap : Nat} {kp : Int32} {ds0 c : Nat → Int32} {K : kk_K} {J : mm_J} {P P' : Nat → Prop} {h h' : ax_H}
theorem MM.mono (M : MM b kp im ds0 c K n J cap P h) (e : ∀ q, P q → h'.1 q = h.1 q) (hs : h.2.1 ≤ h'.2.1) (hP : ∀ q, P q → P' q) (hP' : ∀ q, P' q → q < 400 + h'.2.1) : MM b kp im ds0 c K n J cap P' h' := by
  obtain ⟨X, arr, a, it, rw', m1, m2, ⟨y1, ⟨g, y2, y3⟩, y4, y5⟩, m4, m5, m6, m7, m8, m9, m10, m11, m12, m13, m14, m15, m16⟩ := M
  have e' : ∀ q, b ≤ q → q ≤ b + 11 → h'.1 q = h.1 q := fun q q1 q2 => e q (m14 q q1 q2)
  refine ⟨X, arr, a, it, rw', (e' _ (by omega) (by omega)).trans m1, (e' _ (by omega) (by omega)).trans m2, ⟨(e' _ (by omega) (by omega)).trans y1, ⟨g, (e' _ (by omega) (by omega)).trans y2, y3⟩, fun k hk => (e' _ (by omega) (by omega)).trans (y4 k hk), y5⟩, ?_, m5.mono (e' _ (by omega) (by omega)) (e _ m15) hs, m6, m7, fun i hi => (m8 i hi).mono (e _ (m16 i hi).1) (e _ (m16 i hi).2) hs, m9, (e' _ (by omega) (by omega)).trans m10, m11, by omega, hP', fun q q1 q2 => hP q (m14 q q1 q2), hP _ m15, fun i hi => ⟨hP _ (m16 i hi).1, hP _ (m16 i hi).2⟩⟩
  exact m4.mono (fun q _ _ _ hq => hq.elim (fun z => by rw [z]; exact e' _ (by omega) (by omega)) (e q)) (fun q _ hq => hP q hq) hs
/-- a key put behind the others; nothing else is kept -/
theorem c_addKey {kt kv : Nat → Int32} {k q : Nat} (hd : 3 ≤ d) (M : MM b kp im ds0 c (k, kt, kv) 0 J cap P h) (hk : k < 20) (hq : h.1 q = .inr (36, [.int (kt k), .int (kv k)])) (hqb : q < b) (hqP : P q) : Ok (ax_c d 139 [.ref (b + 2), .ref q] h) (.inl none) (fun h' => MM b kp im ds0 c (k + 1, kt, kv) 0 J cap (xR P h h') h' ∧ h'.2.1 = h.2.1 + 1 ∧ h'.2.2 = h.2.2 + 3 ∧ ∀ r, r < b + 12 → r ≠ b + 2 → h'.1 r = h.1 r) := by
  have hb := M.bd
  obtain ⟨X, arr, a, it, rw', m1, m2, ⟨y1, ⟨g, y2, y3⟩, y4, y5⟩, ⟨mc, ns, ki, l, n20, yy⟩, m5, m6, m7, m8, m9, m10, m11, m12, m13, m14, m15, m16⟩ := M
  have l : LL h (b + 2) mc k ns ki := l
  have yy : ∀ i, i < k → h.1 (ki i) = .inr (36, [.int (kt i), .int (kv i)]) ∧ ki i < 400 + h.2.1 ∧ (ki i < b ∨ b + 12 ≤ ki i) ∧ b + 12 ≤ ns i ∧ P (ns i) ∧ P (ki i) := yy
  refine (ll_addLast hd l (by omega) q).imp ?_
  rintro h' ⟨l', s1, s2, fr⟩
  have keep : ∀ r, r < b + 12 → r ≠ b + 2 → h'.1 r = h.1 r := fun r r1 r2 => fr r (by omega) r2 (fun i hi z => by have := (yy i hi).2.2.2.1; omega)
  have kty : ∀ r x, h.1 r = x → (∀ fs, x ≠ .inr (1, fs)) → r < 400 + h.2.1 → r ≠ b + 2 → h'.1 r = h.1 r := fun r x e hx q1 q2 => fr r q1 q2 (fun i hi z => by
    have := l.2.1 i hi
    rw [← z, e] at this
    exact hx _ this)
  have xr : ∀ r, P r → xR P h h' r := fun r hr => ⟨by have := m13 r hr; omega, Or.inl hr⟩
  refine ⟨⟨X, arr, a, it, rw', (keep _ (by omega) (by omega)).trans m1, (keep _ (by omega) (by omega)).trans m2, ⟨(keep _ (by omega) (by omega)).trans y1, ⟨g, (keep _ (by omega) (by omega)).trans y2, y3⟩, fun j hj => (keep _ (by omega) (by omega)).trans (y4 j hj), y5⟩, ⟨mc + 1, insF ns k (400 + h.2.1), insF ki k q, l', by show k + 1 ≤ 20; omega, fun i hi => ?_⟩, m5.mono (keep _ (by omega) (by omega)) (by
    have hal := m5.2.2.2.2.2.2.2.2
    obtain ⟨-, ⟨f, e2, -⟩, -⟩ := m5
    exact kty arr _ e2 (fun fs z => by cases z) hal (by
      intro z
      rcases m7 with w | w <;> omega)) (by omega), m6, m7, fun i hi => absurd hi (Nat.not_lt_zero i), m9, (keep _ (by omega) (by omega)).trans m10, m11, by omega, fun r hr => hr.1, fun r r1 r2 => xr r (m14 r r1 r2), xr _ m15, fun i hi => absurd hi (Nat.not_lt_zero i)⟩, s1, s2, keep⟩
  have hi : i < k + 1 := hi
  by_cases z : i < k
  · obtain ⟨w1, w2, w3, w4, w5, w6⟩ := yy i z
    rw [insF_lt z, insF_lt z]
    exact ⟨(kty _ _ w1 (fun fs z => by cases z) w2 (by omega)).trans w1, by omega, w3, w4, xr _ w5, xr _ w6⟩
  · obtain rfl : i = k := by omega
    rw [insF_eq, insF_eq]
    exact ⟨(keep q (by omega) (by omega)).trans hq, by omega, Or.inl hqb, by omega, ⟨by omega, Or.inr (Nat.le_refl _)⟩, xr q hqP⟩
/-- so many steps of a machine whose keys stay -/
noncomputable def itC (K : kk_K) (c : ce_C) : Nat → ce_C
  | 0 => c
  | j + 1 => apW (itC K c j) (stepW K (itC K c j))
noncomputable def itE (K : kk_K) (c : ce_C) : Nat → Nat
  | 0 => 0
  | j + 1 => itE K c j + fE K (itC K c j)
/-- the cells the new machine begins with -/
def saC (ds0 img : ce_C) (K : kk_K) : ce_C := upd (begC (va_cpy ds0 (formC fun _ => 0) 0 365 256) img) 9 (if Int32.ofNat (toldN K.2.1 0 0 K.1) ≤ 0 then 0 else 1)
theorem c_sumAnew (hd : 15 ≤ d) (M : MM b kp im ds0 c K n J cap P h) (O : OLD h) {img : Nat → Int32} (hi : h.1 im = .inl (0, 256, .inl img)) (him : im < 400 + h.2.1) {v : Int32} {N : Nat} (hgo : ∀ j, j < N → ¬ v ≤ itC K (saC ds0 img K) j 2) (hend : v ≤ itC K (saC ds0 img K) N 2) (C : ∀ j, j ≤ N → WC (itC K (saC ds0 img K) j)) (F : ∀ j, j < N → FW (ds (itC K (saC ds0 img K) j))) (T : ∀ j, j < N → nn (itC K (saC ds0 img K) j 16) ≤ toldN K.2.1 0 (itC K (saC ds0 img K) j 2) K.1) (G : ∀ j, j < N → WK (itC K (saC ds0 img K) j)) : Ok (ax_c d 351 [.ref b, .int v] h) (.inl (some (.int (smC (itC K (saC ds0 img K) N))))) (fun h' => (∀ q, q < 400 + h.2.1 → h'.1 q = h.1 q) ∧ h.2.1 ≤ h'.2.1 ∧ h'.2.1 ≤ h.2.1 + 32 + 12 * itE K (saC ds0 img K) N ∧ h.2.2 ≤ h'.2.2 ∧ h'.2.2 ≤ h.2.2 + 1001 + 1100 * itE K (saC ds0 img K) N) := by
  obtain ⟨d, rfl, he⟩ := d_succ hd
  refine Ok.le m_X2_sumAnew ?_
  have bd := M.bd
  obtain ⟨b2, eb2⟩ : ∃ b2, b2 = 400 + h.2.1 := ⟨_, rfl⟩
  rw [nw_at, ← eb2]
  refine Ok.V (c_minit (b := b2) (by omega) (by show b2 + 1 = 400 + (h.2.1 + 1); omega) (by omega) (by rw [eb2]; exact new_eq _ _) (Or.inl rfl) K.2.1 K.2.2 J) ?_
  rintro h3 ⟨M3, s3, w3, k3⟩
  have s3 : h3.2.1 = h.2.1 + 12 := by rw [s3]; rfl
  have w3 : h3.2.2 = h.2.2 + 941 := by rw [w3]; rfl
  have k3 : ∀ q, q < b2 → h3.1 q = h.1 q := fun q hq => (k3 q hq).trans (new_ne _ _ (by omega))
  -- the old machine stays
  have old : ∀ g : ax_H, (∀ q, q < b2 → g.1 q = h.1 q) → h.2.1 ≤ g.2.1 → MM b kp im ds0 c K n J cap P g := fun g kg sg => M.mono (fun q hq => kg q (by have := bd.2.2.1 q hq; omega)) sg (fun q hq => hq) (fun q hq => by have := bd.2.2.1 q hq; omega)
  have Mo := old h3 k3 (by omega)
  rw [Mo.g6, Option.bind_some, M3.mv.g0, Option.bind_some, Option.bind_some, len_at Mo.d6, Option.bind_some, acpI_at (s := 0) (d := 365) (k := 256) (sp := 0) (dp := 365) (kk := Int32.ofNat 256) Mo.d6 M3.mv.2 (by omega) rfl rfl rfl (by omega) (by omega) (by omega) (by omega), Option.bind_some]
  have M4 := M3.cells (va_cpy ds0 (formC fun _ => 0) 0 365 256)
  have k4 : ∀ q, q < b2 → (ax_set h3 (b2 + 1) (.inl (0, 621, .inl (va_cpy ds0 (formC fun _ => 0) 0 365 256)))).1 q = h.1 q := fun q hq => (set_ne _ (by omega)).trans (k3 q hq)
  have Mo4 := old _ k4 (show h.2.1 ≤ h3.2.1 by omega)
  rw [Mo4.g5, Option.bind_some, M4.mv.vn, Option.bind_some]
  refine Ok.V (c_begin (by omega) M4 ((k4 im (by omega)).trans hi)) ?_
  rintro h5 ⟨M5, E5⟩
  have s5 : h5.2.1 = h.2.1 + 12 := by rw [E5.1]; exact s3
  have w5 : h5.2.2 = h.2.2 + 941 := by rw [E5.1]; exact w3
  have k5 : ∀ q, q < b2 → h5.1 q = h.1 q := fun q hq => (E5.2 q (by omega)).trans (k4 q hq)
  obtain ⟨mc, ns, ki, l, n20, yy⟩ := M.key
  -- the keys are copied
  have l2 : ∀ r k : Nat, k + r = K.1 → ∀ (g : ax_H) (P2 : Nat → Prop), MM b2 0 im (fun _ => 0) (begC (va_cpy ds0 (formC fun _ => 0) 0 365 256) img) (k, K.2.1, K.2.2) 0 J 17 P2 g → (∀ i, i < K.1 → P2 (ki i)) → g.2.1 = h.2.1 + 12 + k → g.2.2 = h.2.2 + 941 + 3 * k → (∀ q, q < b2 → g.1 q = h.1 q) → Ok (B_X2_sumAnew_39 (ax_c d) b v b2 (Int32.ofNat k) g) (.inl (some (.int (smC (itC K (saC ds0 img K) N))))) (fun h' => (∀ q, q < 400 + h.2.1 → h'.1 q = h.1 q) ∧ h.2.1 ≤ h'.2.1 ∧ h'.2.1 ≤ h.2.1 + 32 + 12 * itE K (saC ds0 img K) N ∧ h.2.2 ≤ h'.2.2 ∧ h'.2.2 ≤ h.2.2 + 1001 + 1100 * itE K (saC ds0 img K) N) := by
    intro r
    induction r with
    | zero =>
      intro k hk g P2 Mg _ sg wg kg
      obtain rfl : k = K.1 := by omega
      have Mog := old g kg (by omega)
      have lg : LL g (b + 2) mc K.1 ns ki := l.mono (kg _ (by omega)) (fun i hi => kg _ (by have := (l.2.2.1 i hi).2; omega)) (by omega)
      refine Ok.le b_X2_sumAnew_39 ?_
      rw [Mog.g1, Option.bind_some, vn_at lg.1]
      show Ok (Option.bind (some 125) _) _ _
      rw [Option.bind_some, ll_size (by omega) lg, cI_v, if_pos (show Int32.ofNat K.1 ≤ Int32.ofNat K.1 from (i_le (by omega) (by omega)).mpr (Nat.le_refl _)), Mg.mv.g0, Option.bind_some, Mog.mv.vn, Option.bind_some, c_told (by omega) Mog.g1 Mog.key.ky, cI_v]
      -- the steps
      have l3 : ∀ r j : Nat, j + r = N → ∀ (g2 : ax_H) (P3 : Nat → Prop), MM b2 0 im (fun _ => 0) (itC K (saC ds0 img K) j) K 0 J 17 P3 g2 → (∀ q, q < b2 → g2.1 q = h.1 q) → h.2.1 ≤ g2.2.1 → g2.2.1 ≤ h.2.1 + 32 + 12 * itE K (saC ds0 img K) j → h.2.2 ≤ g2.2.2 → g2.2.2 ≤ h.2.2 + 1001 + 1100 * itE K (saC ds0 img K) j → Ok (B_X2_sumAnew_95 (ax_c d) v b2 g2) (.inl (some (.int (smC (itC K (saC ds0 img K) N))))) (fun h' => (∀ q, q < 400 + h.2.1 → h'.1 q = h.1 q) ∧ h.2.1 ≤ h'.2.1 ∧ h'.2.1 ≤ h.2.1 + 32 + 12 * itE K (saC ds0 img K) N ∧ h.2.2 ≤ h'.2.2 ∧ h'.2.2 ≤ h.2.2 + 1001 + 1100 * itE K (saC ds0 img K) N) := by
        intro r
        induction r with
        | zero =>
          intro j hj g2 P3 M6 k6 s6 s6' w6 w6'
          obtain rfl : j = N := by omega
          refine Ok.le b_X2_sumAnew_95 ?_
          rw [M6.mv.g0, Option.bind_some, lI_at M6.mv.2, ix_of (i := 2) (k := 2) rfl (by omega) (by omega), Option.bind_some, Option.bind_some, if_pos hend, M6.mv.vn, Option.bind_some, c_sum (by omega) M6.mv (C j (Nat.le_refl _)).2.2.2.2.1, cI_v]
          exact Ok.ret ⟨fun q hq => k6 q (by omega), s6, s6', w6, w6'⟩
        | succ r ih =>
          intro j hj g2 P3 M6 k6 s6 s6' w6 w6'
          have jN : j < N := by omega
          refine Ok.le b_X2_sumAnew_95 ?_
          rw [M6.mv.g0, Option.bind_some, lI_at M6.mv.2, ix_of (i := 2) (k := 2) rfl (by omega) (by omega), Option.bind_some, Option.bind_some, if_neg (hgo j jN), M6.mv.vn, Option.bind_some]
          refine Ok.V (c_make0 (by omega) M6 (O.mono fun q hq => k6 q (by omega)) (C j (by omega)) (F j jN) (T j jN) (G j jN)) ?_
          rintro g3 ⟨M7, ⟨z1, z2, z3, z4, -⟩, z5⟩
          have e1 : itE K (saC ds0 img K) (j + 1) = itE K (saC ds0 img K) j + fE K (itC K (saC ds0 img K) j) := rfl
          exact ih (j + 1) (by omega) g3 _ M7 (fun q hq => (z5 q (by omega) (Or.inl hq)).trans (k6 q hq)) (by omega) (by omega) (by omega) (by omega)
      have go : ∀ x : Int32, upd (begC (va_cpy ds0 (formC fun _ => 0) 0 365 256) img) 9 x = saC ds0 img K → Ok ((dx_sI 0 (.ref (b2 + 1)) 9 x g).bind fun h7 => B_X2_sumAnew_95 (ax_c d) v b2 h7) (.inl (some (.int (smC (itC K (saC ds0 img K) N))))) (fun h' => (∀ q, q < 400 + h.2.1 → h'.1 q = h.1 q) ∧ h.2.1 ≤ h'.2.1 ∧ h'.2.1 ≤ h.2.1 + 32 + 12 * itE K (saC ds0 img K) N ∧ h.2.2 ≤ h'.2.2 ∧ h'.2.2 ≤ h.2.2 + 1001 + 1100 * itE K (saC ds0 img K) N) := by
        intro x ex
        rw [Mg.sI (i := 9) (k := 9) rfl (by omega), Option.bind_some, ex]
        refine l3 N 0 (by omega) _ P2 (Mg.cells _) (fun q hq => (set_ne _ (by omega)).trans (kg q hq)) ?_ ?_ ?_ ?_
        · show _ ≤ g.2.1; omega
        · show g.2.1 ≤ _; omega
        · show _ ≤ g.2.2; omega
        · show g.2.2 ≤ _; omega
      by_cases z : Int32.ofNat (toldN K.2.1 0 0 K.1) ≤ 0
      · rw [if_pos z]
        exact go 0 (by unfold saC; rw [if_pos z])
      · rw [if_neg z]
        exact go 1 (by unfold saC; rw [if_neg z])
    | succ r ih =>
      intro k hk g P2 Mg hP sg wg kg
      have Mog := old g kg (by omega)
      have lg : LL g (b + 2) mc K.1 ns ki := l.mono (kg _ (by omega)) (fun i hi => kg _ (by have := (l.2.2.1 i hi).2; omega)) (by omega)
      have hkK : k < K.1 := by omega
      have yk := yy k hkK
      have ik : g.1 (ki k) = .inr (36, [.int (K.2.1 k), .int (K.2.2 k)]) := (kg _ (by omega)).trans yk.1
      refine Ok.le b_X2_sumAnew_39 ?_
      have lk := Mg.key
      obtain ⟨mc2, ns2, it2, lk, -⟩ := lk
      rw [Mog.g1, Option.bind_some, vn_at lg.1]
      show Ok (Option.bind (some 125) _) _ _
      rw [Option.bind_some, ll_size (by omega) lg, cI_v, if_neg (show ¬ Int32.ofNat K.1 ≤ Int32.ofNat k from fun z => by have := (i_le (by omega) (by omega)).mp z; omega), Mg.g1, Option.bind_some, Mog.g1, Option.bind_some, vn_at lg.1]
      show Ok (Option.bind (some 127) _) _ _
      rw [Option.bind_some, ll_get (by omega) lg hkK, cR_r, cs_at ik (by decide), vn_at lk.1]
      show Ok (Option.bind (some 139) _) _ _
      rw [Option.bind_some]
      refine Ok.V (c_addKey (by omega) Mg (by omega) ik (by omega) (hP k hkK)) ?_
      rintro g2 ⟨M2, z1, z2, z3⟩
      rw [lt_at, show Int32.ofNat k + 1 = Int32.ofNat (k + 1) from i_add k 1]
      exact ih (k + 1) (by omega) g2 _ M2 (fun i hi => ⟨by have := (yy i hi).2.1; omega, Or.inl (hP i hi)⟩) (by omega) (by omega) (fun q hq => (z3 q (by omega) (by omega)).trans (kg q hq))
  refine (l2 K.1 0 (by omega) h5 (fun q => (b2 ≤ q ∧ q ≤ b2 + 11) ∨ ∃ i, i < K.1 ∧ q = ki i) (M5.mono (fun q hq => rfl) (Nat.le_refl _) (fun q hq => Or.inl hq) ?_) (fun i hi => Or.inr ⟨i, hi, rfl⟩) (by omega) (by omega) k5).imp fun g hg => ⟨fun q hq => hg.1 q (by omega), hg.2⟩
  rintro q (⟨q1, q2⟩ | ⟨i, hi, rfl⟩)
  · omega
  · have := (yy i hi).2.1
    omega
end MMA
