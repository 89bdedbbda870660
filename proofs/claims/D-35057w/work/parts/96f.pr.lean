/-! a key pressed: what was made before stays as it was -/
/- with RA TO TO.g TO.on TO.st TO.t0 ON ON.iv SF SF.t0 t_isMachine IV IV.it IV.start KT KG KR stC_at saC_at itC MA stepW actW passW RB.up inI_val -/
section PRS
variable {N n : Nat} {v : Int32} {s s' : Nat → Nat → Int32} {c ds0 img : Nat → Int32} {K : kk_K} {key : Int32}
theorem ins_lt {f : Nat → Int32} {k i : Nat} {x : Int32} (h : i < k) : insI f k x i = f i := if_pos h
theorem ins_eq {f : Nat → Int32} {k : Nat} {x : Int32} : insI f k x k = x := (if_neg (Nat.lt_irrefl _)).trans (if_pos rfl)
theorem ins_gt {f : Nat → Int32} {k i : Nat} {x : Int32} (h : k < i) : insI f k x i = f (i - 1) := (if_neg (by omega)).trans (if_neg (by omega))
theorem told_lo {f : Nat → Int32} {k : Nat} {x a b : Int32} : ∀ m, m ≤ k → toldN (insI f k x) a b m = toldN f a b m := by
  intro m
  induction m with
  | zero => intro _; rfl
  | succ m ih =>
    intro hm
    show toldN (insI f k x) a b m + (if a ≤ insI f k x m ∧ insI f k x m ≤ b then 1 else 0) = toldN f a b m + (if a ≤ f m ∧ f m ≤ b then 1 else 0)
    rw [ih (by omega), ins_lt (by omega)]
theorem told_ins {f : Nat → Int32} {k : Nat} {x a b : Int32} : ∀ i, toldN (insI f k x) a b (k + i + 1) = toldN f a b (k + i) + (if a ≤ x ∧ x ≤ b then 1 else 0) := by
  intro i
  induction i with
  | zero =>
    show toldN (insI f k x) a b k + (if a ≤ insI f k x k ∧ insI f k x k ≤ b then 1 else 0) = _
    rw [told_lo k (Nat.le_refl _), ins_eq]; rfl
  | succ i ih =>
    show toldN (insI f k x) a b (k + i + 1) + (if a ≤ insI f k x (k + i + 1) ∧ insI f k x (k + i + 1) ≤ b then 1 else 0) = toldN f a b (k + i) + (if a ≤ f (k + i) ∧ f (k + i) ≤ b then 1 else 0) + (if a ≤ x ∧ x ≤ b then 1 else 0)
    rw [ih, ins_gt (by omega), Nat.add_sub_cancel]
    omega
theorem told_pz {f : Nat → Int32} {t b : Int32} (hb : b ≤ t) : ∀ m, toldN f 0 b m ≤ pzF f t m := by
  intro m
  induction m with
  | zero => exact Nat.le_refl _
  | succ m ih =>
    show toldN f 0 b m + (if 0 ≤ f m ∧ f m ≤ b then 1 else 0) ≤ if t < f m then pzF f t m else m + 1
    by_cases q : t < f m
    · rw [if_pos q, if_neg (fun z => Int32.not_lt.mpr (Int32.le_trans z.2 hb) q)]; exact ih
    · rw [if_neg q]
      have := toldN_le f 0 b m
      split <;> omega
theorem told_pr {a b : Int32} {N : Nat} : toldN (prK K (Int32.ofNat N) key).2.1 a b (prK K (Int32.ofNat N) key).1 = toldN K.2.1 a b K.1 + (if a ≤ Int32.ofNat N ∧ Int32.ofNat N ≤ b then 1 else 0) := by
  have hz := pzF_le K.2.1 (Int32.ofNat N) K.1
  have := told_ins (f := K.2.1) (k := pzF K.2.1 (Int32.ofNat N) K.1) (x := Int32.ofNat N) (a := a) (b := b) (K.1 - pzF K.2.1 (Int32.ofNat N) K.1)
  rw [show pzF K.2.1 (Int32.ofNat N) K.1 + (K.1 - pzF K.2.1 (Int32.ofNat N) K.1) = K.1 by omega] at this
  exact this
theorem KT.press (KK : KT K) (h20 : K.1 < 20) (hN : N ≤ 1000) (hk : rg 65535 key) : KT (prK K (Int32.ofNat N) key) := by
  have hz := pzF_le K.2.1 (Int32.ofNat N) K.1
  refine ⟨⟨by show K.1 + 1 ≤ 20; omega, fun k k1 => ?_⟩, fun k k1 => ?_⟩
  · have k1 : k < K.1 + 1 := k1
    show rg 65535 (insI K.2.2 (pzF K.2.1 (Int32.ofNat N) K.1) key k)
    rcases Nat.lt_trichotomy k (pzF K.2.1 (Int32.ofNat N) K.1) with z | z | z
    · rw [ins_lt z]; exact KK.1.2 k (by omega)
    · rw [z, ins_eq]; exact hk
    · rw [ins_gt z]; exact KK.1.2 _ (by omega)
  · have k1 : k < K.1 + 1 := k1
    show ∃ t, t ≤ 1000 ∧ insI K.2.1 (pzF K.2.1 (Int32.ofNat N) K.1) (Int32.ofNat N) k = Int32.ofNat t
    rcases Nat.lt_trichotomy k (pzF K.2.1 (Int32.ofNat N) K.1) with z | z | z
    · rw [ins_lt z]; exact KK.2 k (by omega)
    · rw [z, ins_eq]; exact ⟨N, hN, rfl⟩
    · rw [ins_gt z]; exact KK.2 _ (by omega)
theorem act_eq {K' : kk_K} (h1 : toldN K'.2.1 0 (c 2) K'.1 = toldN K.2.1 0 (c 2) K.1) (h2 : c 16 ≠ Int32.ofNat (toldN K.2.1 0 (c 2) K.1) → K'.2.2 (nn (c 16)) = K.2.2 (nn (c 16))) : actW K' c = actW K c := by
  have r1 : readW K' c = readW K c := by unfold readW; rw [h1]
  have r2 : readV K' c = readV K c := by
    unfold readV
    rw [h1]
    by_cases q : c 16 = Int32.ofNat (toldN K.2.1 0 (c 2) K.1)
    · rw [if_pos q, if_pos q]
    · rw [if_neg q, if_neg q]; exact h2 q
  have hs : serveO K' c = serveO K c := by
    funext op d y nx
    unfold serveO
    rw [r1, r2]
  unfold actW actO instO opO
  rw [hs]
/-- the cells before the press, and at it -/
theorem it_press (KK : KT K) (hI : IG img) (hD : DG ds0) (h20 : K.1 < 20) (hN : N ≤ 1000) (hk : rg 65535 key) : (∀ j, j < N → itC (prK K (Int32.ofNat N) key) (stC ds0 img (prK K (Int32.ofNat N) key) v) j = itC K (stC ds0 img K v) j ∧ ∀ a, MS (stepW (prK K (Int32.ofNat N) key) (itC K (stC ds0 img K v) j)) a ↔ MS (stepW K (itC K (stC ds0 img K v) j)) a) ∧ itC (prK K (Int32.ofNat N) key) (stC ds0 img (prK K (Int32.ofNat N) key) v) N = upd (itC K (stC ds0 img K v) N) 9 1 := by
  have V := IV.start (K := K) (v := v) KK.1.1 hI hD
  have sa : ∀ p, p ≠ 9 → stC ds0 img (prK K (Int32.ofNat N) key) v p = stC ds0 img K v p := fun p hp => by
    by_cases e : p = 364
    · subst e
      show upd _ 364 v 364 = upd _ 364 v 364
      rw [upd_eq, upd_eq]
    · rw [stC_at e, stC_at e, saC_at, saC_at, if_neg hp, if_neg hp]
  have s9 : stC ds0 img (prK K (Int32.ofNat N) key) v 9 = if N = 0 then 1 else stC ds0 img K v 9 := by
    rw [stC_at (by omega), stC_at (by omega), saC_at, saC_at, if_pos rfl, if_pos rfl, told_pr]
    have l := toldN_le K.2.1 0 0 K.1
    have in0 : (if (0 : Int32) ≤ Int32.ofNat N ∧ Int32.ofNat N ≤ 0 then 1 else 0) = if N = 0 then 1 else 0 := by
      by_cases q : N = 0
      · rw [if_pos q, if_pos ⟨by rw [q]; decide, by rw [q]; decide⟩]
      · rw [if_neg q, if_neg (fun z => q (by have := (i_le (b := 0) (by omega) (by omega)).mp z.2; omega))]
    rw [in0]
    by_cases q : N = 0
    · rw [if_pos q, if_pos q, if_neg]
      intro z
      have := (i_le (b := 0) (by omega) (by omega)).mp z
      omega
    · rw [if_neg q, if_neg q, Nat.add_zero]
  have act : ∀ j, j < N → actW (prK K (Int32.ofNat N) key) (itC K (stC ds0 img K v) j) = actW K (itC K (stC ds0 img K v) j) := by
    intro j hj
    have Vj := V.it KK j (by omega)
    have e2 := Vj.2.2.1
    have n16 := (rg.nat (Vj.1 16 _ rfl)).1
    have m16 := (rg.nat (Vj.1 16 _ rfl)).2
    have hle : Int32.ofNat j ≤ Int32.ofNat N := (i_le (by omega) (by omega)).mpr (by omega)
    refine act_eq ?_ fun q => ?_
    · rw [told_pr, if_neg, Nat.add_zero]
      rintro ⟨-, z⟩
      rw [e2] at z
      have := (i_le (by omega) (by omega)).mp z
      omega
    · have lt : nn (itC K (stC ds0 img K v) j 16) < toldN K.2.1 0 (itC K (stC ds0 img K v) j 2) K.1 := by
        have n16' : nn (itC K (stC ds0 img K v) j 16) ≤ toldN K.2.1 0 (itC K (stC ds0 img K v) j 2) K.1 := n16
        rcases Nat.lt_or_ge (nn (itC K (stC ds0 img K v) j 16)) (toldN K.2.1 0 (itC K (stC ds0 img K v) j 2) K.1) with z | z
        · exact z
        · exact absurd (m16.trans (congrArg _ (by omega))) q
      have := told_pz (f := K.2.1) (t := Int32.ofNat N) (b := itC K (stC ds0 img K v) j 2) (by rw [e2]; exact hle) K.1
      exact ins_lt (by omega)
  have ms : ∀ j, j < N → ∀ a, MS (stepW (prK K (Int32.ofNat N) key) (itC K (stC ds0 img K v) j)) a ↔ MS (stepW K (itC K (stC ds0 img K v) j)) a := by
    intro j hj a
    have key' : ∀ (K' : kk_K), MS (actW K (itC K (stC ds0 img K v) j) ++ passW K' (apW (itC K (stC ds0 img K v) j) (actW K (itC K (stC ds0 img K v) j)))) a ↔ MS (actW K (itC K (stC ds0 img K v) j)) a := fun K' => by
      constructor
      · rintro ⟨z1, z2⟩
        exact ⟨z1, (MW_app.mp z2).resolve_right fun y => MW_lo pass_lt a y⟩
      · rintro ⟨z1, z2⟩
        exact ⟨z1, MW_app.mpr (Or.inl z2)⟩
    unfold stepW
    rw [act j hj, key', key']
  -- the cells of a step
  have stp : ∀ j, j < N → apW (itC K (stC ds0 img K v) j) (stepW (prK K (Int32.ofNat N) key) (itC K (stC ds0 img K v) j)) = if j + 1 = N then upd (itC K (stC ds0 img K v) (j + 1)) 9 1 else itC K (stC ds0 img K v) (j + 1) := by
    intro j hj
    have Vj := V.it KK j (by omega)
    obtain ⟨G1, C1, e2, -⟩ := act_ok (K := K) Vj.1 (Vj.b20 KK) rfl KK.1 Vj.2.1
    show apW _ (stepW (prK K (Int32.ofNat N) key) _) = if j + 1 = N then upd (apW _ (stepW K (itC K (stC ds0 img K v) j))) 9 1 else apW _ (stepW K (itC K (stC ds0 img K v) j))
    unfold stepW
    rw [act j hj, apW_app, apW_app]
    generalize hc : apW (itC K (stC ds0 img K v) j) (actW K (itC K (stC ds0 img K v) j)) = c1 at e2
    have c2 : c1 2 + 1 = Int32.ofNat (j + 1) := by rw [e2, Vj.2.2.1]; exact i_add j 1
    unfold passW comeW
    rw [c2, told_pr, apW_app, apW_app, apW_app, apW_app]
    generalize apW (apW c1 [(2, Int32.ofNat (j + 1))]) (timeW c1) = e
    have inN : (if Int32.ofNat (j + 1) ≤ Int32.ofNat N ∧ Int32.ofNat N ≤ Int32.ofNat (j + 1) then 1 else 0) = if j + 1 = N then 1 else 0 := by
      by_cases q : j + 1 = N
      · rw [if_pos q, q, if_pos ⟨Int32.le_refl _, Int32.le_refl _⟩]
      · rw [if_neg q, if_neg]
        rintro ⟨z1, z2⟩
        have := (i_le (by omega) (by omega)).mp z1
        have := (i_le (by omega) (by omega)).mp z2
        omega
    rw [inN]
    by_cases q : j + 1 = N
    · rw [if_pos q, if_pos q, q, if_neg (show ¬ toldN K.2.1 (Int32.ofNat N) (Int32.ofNat N) K.1 + 1 = 0 by omega)]
      by_cases z : toldN K.2.1 (Int32.ofNat N) (Int32.ofNat N) K.1 = 0
      · rw [if_pos z]; rfl
      · rw [if_neg z]
        show upd e 9 1 = upd (upd e 9 1) 9 1
        rw [upd_upd]
    · rw [if_neg q, if_neg q, Nat.add_zero]
  have lo : ∀ j, j < N → itC (prK K (Int32.ofNat N) key) (stC ds0 img (prK K (Int32.ofNat N) key) v) j = itC K (stC ds0 img K v) j := by
    intro j
    induction j with
    | zero =>
      intro hj
      show stC ds0 img (prK K (Int32.ofNat N) key) v = stC ds0 img K v
      funext p
      by_cases e : p = 9
      · rw [e, s9, if_neg (by omega)]
      · exact sa p e
    | succ j ih =>
      intro hj
      show apW (itC (prK K (Int32.ofNat N) key) _ j) (stepW (prK K (Int32.ofNat N) key) (itC (prK K (Int32.ofNat N) key) _ j)) = _
      rw [ih (by omega), stp j (by omega), if_neg (by omega)]
  refine ⟨fun j hj => ⟨lo j hj, ms j hj⟩, ?_⟩
  cases N with
  | zero =>
    show stC ds0 img (prK K (Int32.ofNat 0) key) v = upd (stC ds0 img K v) 9 1
    funext p
    rw [upd_at]
    by_cases e : p = 9
    · rw [if_pos e, e, s9, if_pos rfl]
    · rw [if_neg e]; exact sa p e
  | succ N =>
    show apW (itC (prK K (Int32.ofNat (N + 1)) key) _ N) (stepW (prK K (Int32.ofNat (N + 1)) key) (itC (prK K (Int32.ofNat (N + 1)) key) _ N)) = _
    rw [lo N (by omega), stp N (by omega), if_pos rfl]
end PRS
