/-! the class's machine at rest: crashed, taken back, what changed -/
section MMB
variable {d b im n cap : Nat} {kp : Int32} {ds0 c : Nat → Int32} {K : kk_K} {J : mm_J} {P : Nat → Prop} {h : ax_H}
theorem c_crash (hd : 3 ≤ d) (M : MM b kp im ds0 c K n J cap P h) : Ok (ax_c d 314 [.ref b] h) (.inl (some (.int (c 2)))) (fun h' => MM b kp im ds0 (zerC c 0 364) (0, K.2) 0 J cap P h' ∧ Ex P h h') := by
  obtain ⟨d, rfl, he⟩ := d_succ hd
  refine Ok.le m_X2_crash ?_
  have V := M.mv
  have b4 := M.bd
  rw [V.g0, Option.bind_some, V.rdn (i := 2) (k := 2) rfl (by decide), Option.bind_some]
  have loop : ∀ k j : Nat, j + k = 364 → ∀ h1, MM b kp im ds0 (zerC c 0 j) K n J cap P h1 → Ex P h h1 → Ok (B_X2_crash_9 (ax_c d) b (c 2) (Int32.ofNat j) h1) (.inl (some (.int (c 2)))) (fun h' => MM b kp im ds0 (zerC c 0 364) (0, K.2) 0 J cap P h' ∧ Ex P h h') := by
    intro k
    induction k with
    | zero =>
      intro j hj h1 M1 E1
      obtain rfl : j = 364 := by omega
      refine Ok.le b_X2_crash_9 ?_
      have g2 := M1.g2
      rw [if_pos (by decide), M1.g1, Option.bind_some]
      obtain ⟨X, arr, a, it, rw', m1, m2, ⟨y1, ⟨g, y2, y3⟩, y4, y5⟩, ⟨mc, ns, ki, l, n20, yy⟩, m5, m6, m7, m8, m9, m10, m11, m12, m13, m14, m15, m16⟩ := M1
      rw [vn_at l.1]
      show Ok (Option.bind (some 126) _) _ _
      rw [Option.bind_some]
      refine Ok.V (ll_clear (by omega) l) ?_
      rintro h2 ⟨l2, E2⟩
      have nk : ∀ q, q ≠ b + 2 → (∀ i, i < K.1 → q ≠ ns i) → h2.1 q = h1.1 q := fun q q1 q2 => E2.2 q fun z => z.elim q1 fun ⟨i, hi, e⟩ => q2 i hi e
      have s2 : h2.2.1 = h1.2.1 := by rw [E2.1]
      -- cells that aren't nodes
      have nty : ∀ q x, h1.1 q = x → (∀ fs, x ≠ .inr (1, fs)) → q ≠ b + 2 → h2.1 q = h1.1 q := fun q x e hx q1 => nk q q1 fun i hi z => by
        have := l.2.1 i hi
        rw [← z, e] at this
        exact hx _ this
      have nlo : ∀ q, q ≤ b + 11 → q ≠ b + 2 → h2.1 q = h1.1 q := fun q q1 q2 => nk q q2 fun i hi z => by have := (yy i hi).2.2.2.1; omega
      have D2 : DQ h2 (b + 3) arr cap a n it := m5.mono (nlo _ (by omega) (by omega)) (by
        obtain ⟨-, ⟨f, e2, -⟩, -⟩ := m5
        exact nty arr _ e2 (fun fs z => by cases z) (by
          intro z
          rcases m7 with w | w <;> omega)) (by omega)
      rw [gA_r (p := b + 3) ((nlo b (by omega) (by omega)).trans m1) rfl rfl, Option.bind_some, vn_at D2.1]
      show Ok (Option.bind (some 147) _) _ _
      rw [Option.bind_some]
      refine Ok.V (dq_clear (by omega) D2) ?_
      rintro h3 ⟨D3, E3⟩
      have s3 : h3.2.1 = h1.2.1 := by rw [E3.1]; exact s2
      have n3 : ∀ q, q ≠ b + 3 → q ≠ arr → h3.1 q = h2.1 q := fun q q1 q2 => E3.2 q fun z => z.elim q1 q2
      have aneq : ∀ q k fs, h2.1 q = .inr (k, fs) → q ≠ arr := fun q k fs e z => by
        obtain ⟨-, ⟨f, e2, -⟩, -⟩ := D2
        rw [z, e2] at e
        cases e
      have l4 : ∀ q, q ≤ b + 11 → q ≠ b + 2 → q ≠ b + 3 → q ≠ b + 4 → h3.1 q = h1.1 q := fun q q1 q2 q3 q4 => (n3 q q3 (by omega)).trans (nlo q q1 q2)
      refine Ok.ret ⟨⟨X, arr, 0, it, rw', (l4 b (by omega) (by omega) (by omega) (by omega)).trans m1, (l4 _ (by omega) (by omega) (by omega) (by omega)).trans m2, ⟨(l4 _ (by omega) (by omega) (by omega) (by omega)).trans y1, ⟨g, (l4 _ (by omega) (by omega) (by omega) (by omega)).trans y2, y3⟩, fun k hk => (l4 _ (by omega) (by omega) (by omega) (by omega)).trans (y4 k hk), y5⟩, ⟨_, ns, ki, l2.mono (n3 _ (by omega) (by omega)) (fun i hi => by omega) (by omega), by omega, fun i hi => absurd hi (Nat.not_lt_zero i)⟩, D3, m6, m7, fun i hi => by omega, fun i j _ hj => by omega, (l4 _ (by omega) (by omega) (by omega) (by omega)).trans m10, m11, by omega, fun q hq => by have := m13 q hq; omega, m14, m15, fun i hi => by omega⟩, E1.tr ((E2.le fun q hq => ?_).tr (E3.le fun q hq => ?_))⟩
      · rcases hq with rfl | ⟨i, hi, rfl⟩
        · exact m14 _ (by omega) (by omega)
        · exact (yy i hi).2.2.2.2.1
      · rcases hq with rfl | rfl
        · exact m14 _ (by omega) (by omega)
        · exact m15
    | succ k ih =>
      intro j hj h1 M1 E1
      refine Ok.le b_X2_crash_9 ?_
      rw [if_neg (show ¬ (364 : Int32) ≤ Int32.ofNat j from i_ge_not (n := 364) (by omega) (by omega)), M1.mv.g0, Option.bind_some, M1.sI rfl (show j < 621 by omega), Option.bind_some, lt_at, show Int32.ofNat j + 1 = Int32.ofNat (j + 1) from i_add j 1]
      have := M1.cells (upd (zerC c 0 j) j 0)
      have ez : upd (zerC c 0 j) j 0 = zerC c 0 (j + 1) := by
        have := zerC_up c 0 j
        rw [Nat.zero_add] at this
        exact this
      rw [ez] at this ⊢
      exact ih (j + 1) (by omega) _ this (E1.tr (Ex.set (b4.2.2.2 _ (by omega) (by omega))))
  exact loop 364 0 rfl h (by rw [zerC_zero]; exact M) Ex.rf
/-- cells as they were k kept steps ago -/
def bkC (c : ce_C) (J : mm_J) (n : Nat) : Nat → ce_C
  | 0 => c
  | k + 1 => unW (bkC c J n k) (J (n - 1 - k))
theorem c_unW' (M : MM b kp im ds0 c K n J cap P h) {st row : Nat} {Q : List (Nat × Int32)} (s : SJ h b st row Q) (v1 v2 : Int32) (w : Option Value ⊕ Nat) (Y : ax_H → Prop) (hY : ∀ h', MM b kp im ds0 (unW c Q) K n J cap P h' → Ex (fun q => q = b + 1) h h' → Ok (B_X2_back_2 (ax_c d) b v1 (v2 + 1) h') w Y) : Ok (B_X2_back_36 (ax_c d) b v1 v2 (.ref st) (Int32.ofNat (2 * Q.length) - 2) h) w Y := by
  obtain ⟨s1, ⟨s2, s3⟩, ⟨s4, s5⟩, s6, f, m, s7, s8, s9, s10, s11⟩ := s
  have b4 := M.bd.1
  have loop : ∀ k : Nat, k ≤ Q.length → ∀ h1 c1, MM b kp im ds0 c1 K n J cap P h1 → Ex (fun q => q = b + 1) h h1 → apW c1 (Q.take k).reverse = unW c Q → Ok (B_X2_back_36 (ax_c d) b v1 v2 (.ref st) (Int32.ofNat (2 * k) - 2) h1) w Y := by
    intro k
    induction k with
    | zero =>
      intro _ h1 c1 M1 E1 e
      refine Ok.le (b_X2_back_36 rfl) ?_
      rw [if_pos (by decide), lt_at]
      have e : c1 = unW c Q := e
      rw [e] at M1
      exact hY h1 M1 E1
    | succ k ih =>
      intro hk h1 c1 M1 E1 e
      refine Ok.le (b_X2_back_36 rfl) ?_
      have nst : st ≠ b + 1 := by omega
      have nrw : row ≠ b + 1 := by omega
      have t1 := (E1.2 st nst).trans s1
      have t2 := (E1.2 row nrw).trans s7
      obtain ⟨q, hq⟩ : ∃ q, Q[k]? = some q := ⟨Q[k], List.getElem?_eq_getElem hk⟩
      obtain ⟨f1, f2, f3⟩ := s11 k q hq
      rw [show Int32.ofNat (2 * (k + 1)) - 2 = Int32.ofNat (2 * k) from by rw [show Int32.ofNat (2 * (k + 1)) - 2 = Int32.ofNat (2 * (k + 1) - 2) from i_sub (b := 2) (by omega)]; congr 1, if_neg (i_neg (by omega)), M1.mv.g0, Option.bind_some, gA_r t1 rfl rfl, Option.bind_some, lI_at t2, ix_of rfl (show 2 * k < m by omega) (by omega), Option.bind_some, Option.bind_some, Option.bind_some, show Int32.ofNat (2 * k) + 1 = Int32.ofNat (2 * k + 1) from i_add _ 1, lI_at t2, ix_of rfl (show 2 * k + 1 < m by omega) (by omega), Option.bind_some, Option.bind_some, f1, f2, M1.sI rfl f3, Option.bind_some, lt_at]
      have e2 : Int32.ofNat (2 * k) + (-2) = Int32.ofNat (2 * k) - 2 := by
        rw [Int32.sub_eq_add_neg]
      rw [e2]
      refine ih (by omega) _ _ (M1.cells _) (E1.tr (Ex.set rfl)) ?_
      rw [← e, List.take_add_one, hq]
      show _ = apW c1 ((Q.take k ++ [q]).reverse)
      rw [List.reverse_append]
      rfl
  exact loop Q.length (Nat.le_refl _) h c M Ex.rf (by rw [List.take_length]; rfl)
theorem c_back (hd : 4 ≤ d) (M : MM b kp im ds0 c K n J cap P h) {s : Nat} (hs : s ≤ 200) (hn : n ≤ 200) : Ok (ax_c d 348 [.ref b, .int (Int32.ofNat s)] h) (.inl (some (.int (Int32.ofNat (if s < n then s else n))))) (fun h' => MM b kp im ds0 (bkC c J n (if s < n then s else n)) K (n - (if s < n then s else n)) J cap P h' ∧ Ex P h h') := by
  obtain ⟨d, rfl, he⟩ := d_succ hd
  refine Ok.le m_X2_back ?_
  have hmin : (if s < n then s else n) ≤ s ∧ (if s < n then s else n) ≤ n := by split <;> omega
  generalize ht : (if s < n then s else n) = t at hmin
  have loop : ∀ m k : Nat, k + m = t → ∀ h1, MM b kp im ds0 (bkC c J n k) K (n - k) J cap P h1 → Ex P h h1 → Ok (B_X2_back_2 (ax_c d) b (Int32.ofNat s) (Int32.ofNat k) h1) (.inl (some (.int (Int32.ofNat t)))) (fun h' => MM b kp im ds0 (bkC c J n t) K (n - t) J cap P h' ∧ Ex P h h') := by
    intro m
    induction m with
    | zero =>
      intro k hk h1 M1 E1
      obtain rfl : k = t := by omega
      refine Ok.le b_X2_back_2 ?_
      by_cases q : s = k
      · rw [if_pos ((i_le (by omega) (by omega)).mpr (by omega))]
        exact Ok.ret ⟨M1, E1⟩
      · have kn : k = n := by
          by_cases w : s < n
          · rw [if_pos w] at ht; omega
          · rw [if_neg w] at ht; omega
        have M1' := M1
        rw [if_neg (i_ge_not (by omega) (by omega)), M1.g2, Option.bind_some]
        obtain ⟨X, arr, a, it, rw', m1, m2, m3, m4, m5, -⟩ := M1
        rw [vn_at m5.1]
        show Ok (Option.bind (some 156) _) _ _
        rw [Option.bind_some, dq_isEmpty (by omega) m5, cI_v, if_pos (show n - k = 0 by omega), if_pos (by decide)]
        exact Ok.ret ⟨M1', E1⟩
    | succ m ih =>
      intro k hk h1 M1 E1
      have b4 := M1.bd
      refine Ok.le b_X2_back_2 ?_
      rw [if_neg (i_ge_not (by omega) (by omega)), M1.g2, Option.bind_some]
      obtain ⟨X, arr, a, it, rw', m1, m2, ⟨y1, ⟨g, y2, y3⟩, y4, y5⟩, m4, m5, m6, m7, m8, m9, m10, m11, m12, m13, m14, m15, m16⟩ := M1
      rw [vn_at m5.1]
      show Ok (Option.bind (some 156) _) _ _
      rw [Option.bind_some, dq_isEmpty (by omega) m5, cI_v, if_neg (show ¬ n - k = 0 by omega), if_neg (by decide), gA_r (p := b + 3) m1 rfl rfl, Option.bind_some, vn_at m5.1]
      show Ok (Option.bind (some 157) _) _ _
      rw [Option.bind_some]
      obtain ⟨z, hz⟩ : ∃ z, n - k = z + 1 := ⟨n - k - 1, by omega⟩
      rw [hz] at m5 m8 m9 m16
      refine Ok.R (dq_removeLast (by omega) m5) ?_
      rintro h2 ⟨D2, E2⟩
      have s2 : h2.2.1 = h1.2.1 := by rw [E2.1]
      have aneq : ∀ q k fs, h1.1 q = .inr (k, fs) → q ≠ arr := fun q k fs e z => by
        obtain ⟨-, ⟨f, e2, -⟩, -⟩ := m5
        rw [z, e2] at e
        cases e
      have rneq : ∀ q m f, h1.1 q = .inl (0, m, f) → q ≠ arr := fun q m f e z => by
        obtain ⟨-, ⟨f', e2, -⟩, -⟩ := m5
        rw [z, e2] at e
        cases e
      have n2 : ∀ q, q ≠ b + 3 → q ≠ arr → h2.1 q = h1.1 q := fun q q1 q2 => E2.2 q fun w => w.elim q1 q2
      have sj : ∀ i, i < z + 1 → SJ h2 b (it i) (rw' i) (J i) := fun i hi => by
        have s := m8 i hi
        obtain ⟨f', m', e', -⟩ := s.2.2.2.2
        exact s.mono (n2 _ (by have := s.2.1.1; omega) (aneq _ _ _ s.1)) (n2 _ (by have := s.2.2.1.1; omega) (rneq _ _ _ e')) (by omega)
      have M2 : MM b kp im ds0 (bkC c J n k) K z J cap P h2 := by
        have lo : ∀ q, q ≤ b + 11 → q ≠ b + 3 → q ≠ b + 4 → h2.1 q = h1.1 q := fun q q1 q2 q3 => n2 q q2 (by omega)
        exact ⟨X, arr, a, it, rw', (lo b (by omega) (by omega) (by omega)).trans m1, (lo _ (by omega) (by omega) (by omega)).trans m2, ⟨(lo _ (by omega) (by omega) (by omega)).trans y1, ⟨g, (lo _ (by omega) (by omega) (by omega)).trans y2, y3⟩, fun k hk => (lo _ (by omega) (by omega) (by omega)).trans (y4 k hk), y5⟩, m4.mono (fun q hq hh ⟨k, fs, hk, hk2⟩ _ => n2 q (by omega) (aneq q k fs hk)) (fun _ _ w => w) (by omega), D2, m6, m7, fun i hi => sj i (by omega), fun i j hij hj => m9 i j hij (by omega), (lo _ (by omega) (by omega) (by omega)).trans m10, m11, by omega, fun q hq => by have := m13 q hq; omega, m14, m15, fun i hi => m16 i (by omega)⟩
      have sz := sj z (by omega)
      rw [cs_at sz.1 (by decide), gI_at sz.1 rfl rfl, Option.bind_some, lt_at]
      have ek : Int32.ofNat (k + 1) = Int32.ofNat k + 1 := (i_add k 1).symm
      have eb : bkC c J n (k + 1) = unW (bkC c J n k) (J z) := by
        show unW (bkC c J n k) (J (n - 1 - k)) = _
        rw [show n - 1 - k = z by omega]
      -- the rows taken back, then on
      have go : ∀ h' , MM b kp im ds0 (unW (bkC c J n k) (J z)) K z J cap P h' → Ex (fun q => q = b + 1) h2 h' → Ok (B_X2_back_2 (ax_c d) b (Int32.ofNat s) (Int32.ofNat (k + 1)) h') (.inl (some (.int (Int32.ofNat t)))) (fun h' => MM b kp im ds0 (bkC c J n t) K (n - t) J cap P h' ∧ Ex P h h') := by
        intro h' M3 E3
        refine ih (k + 1) (by omega) h' ?_ (E1.tr ((E2.le fun q hq => ?_).tr (E3.le fun q hq => ?_)))
        · rw [eb, show n - (k + 1) = z by omega]; exact M3
        · rcases hq with rfl | rfl
          · exact m14 _ (by omega) (by omega)
          · exact m15
        · rw [hq]; exact m14 _ (by omega) (by omega)
      exact c_unW' M2 sz (Int32.ofNat s) (Int32.ofNat k) _ _ (by intro h' a1 a2; rw [← ek]; exact go h' a1 a2)
  exact loop t 0 (by omega) h M Ex.rf
end MMB
