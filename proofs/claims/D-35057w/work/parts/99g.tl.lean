/-! the twin goes through all lines, twice -/
/- with lnD lnV TLW skT frT FRK SKI MCK st1 st2 s2T skS goG goG_ends st1_sk st2_sk go1_sk muK TFr TSK TMC TA TG1 TG2 t_goes1 t_goes2 sk_inv top_d TLW.cong FRK.len t_holds t_in -/
def sk0 (n : Nat) : skT := ([(0, n, 0, 5)], fun _ => none, 0, fun _ => 0, 0, 0)
noncomputable def as1 (ls : Nat → lnD) (n : Nat) : (skT × (Nat → Int32)) ⊕ (Nat × Nat) := (goG (st1 ls n) (fun S => S.1.1.length) 604 0 (sk0 n, fun _ => -1)).getD (.inr (0, 0))
noncomputable def as2 (ls : Nat → lnD) (n : Nat) (σ : skT) (lab : Nat → Int32) : s2T ⊕ (Nat × Nat) := (goG (st2 ls n lab (8 + σ.2.2.2.1 0)) (fun S => S.1.1.length) 604 0 (sk0 n, [(0, 0)], fun _ => 0)).getD (.inr (0, 0))
/-- what comes of the source: how many words and what is made, or error and line -/
noncomputable def asR (ls : Nat → lnD) (n : Nat) : (Nat × (Nat → Int32)) ⊕ (Nat × Nat) := match as1 ls n with
  | .inr e => .inr e
  | .inl S => match as2 ls n S.1 S.2 with
    | .inr e => .inr e
    | .inl S2 => .inl (S.1.2.2.2.1 0 + S.1.2.2.2.1 1, S2.2.2)
section TLL
variable {n a t u m k d j us sec g f0 f1 : Nat} {ls : Nat → lnD} {s s' : Nat → Nat → Int32} {h : ax_H} {R : List frT} {mac : Nat → Option (Nat × Nat)} {σ σ' σe : skT} {sz : Nat → Nat} {lab bu : Nat → Int32} {w : Int32}
theorem sk0_inv (n : Nat) : SKI ls n (sk0 n) := ⟨⟨Nat.zero_le _, Nat.le_refl _, by rw [if_pos rfl]; exact ⟨rfl, rfl, rfl⟩, trivial⟩, fun m x y z => (by cases z), by show 0 < 2; omega, by show 0 + 0 ≤ 248; omega, by show 0 ≤ 300; omega, Nat.le_refl _⟩
theorem sk_sz (h : skS ls n σ = .inl σ') : σ.2.2.2.1 0 ≤ σ'.2.2.2.1 0 ∧ σ.2.2.2.1 1 ≤ σ'.2.2.2.1 1 := by
  unfold skS at h
  split at h
  · cases h; exact ⟨Nat.le_refl _, Nat.le_refl _⟩
  · split at h
    · cases h; exact ⟨Nat.le_refl _, Nat.le_refl _⟩
    split at h
    · cases h
    split at h
    · cases h; exact ⟨Nat.le_refl _, Nat.le_refl _⟩
    split at h
    · split at h
      · cases h
      split at h
      · cases h
      · split at h
        · cases h
        · cases h; exact ⟨Nat.le_refl _, Nat.le_refl _⟩
    split at h
    · cases h
    split at h
    · split at h
      · cases h
      · split at h
        · cases h
        · cases h; exact ⟨Nat.le_refl _, Nat.le_refl _⟩
    · cases h
      dsimp only
      constructor
      · split <;> omega
      · split <;> omega
theorem go_sz : ∀ f σ, goG (skS ls n) (fun σ => σ.1.length) f 0 σ = some (.inl σe) → σ.2.2.2.1 0 ≤ σe.2.2.2.1 0 ∧ σ.2.2.2.1 1 ≤ σe.2.2.2.1 1 := by
  intro f
  induction f with
  | zero => intro σ h; exact absurd h (by unfold goG; exact fun z => by cases z)
  | succ f ih =>
    intro σ h
    unfold goG at h
    by_cases e : σ.1.length ≤ 0
    · rw [if_pos e] at h; cases h; exact ⟨Nat.le_refl _, Nat.le_refl _⟩
    · rw [if_neg e] at h
      cases hs : skS ls n σ with
      | inr x => rw [hs] at h; cases h
      | inl x =>
        rw [hs] at h
        have a := sk_sz hs
        have b := ih x h
        exact ⟨by omega, by omega⟩
theorem go2_sk {b : Nat} : ∀ f c (S S' : s2T), goG (st2 ls n lab b) (fun S => S.1.1.length) f c S = some (.inl S') → goG (skS ls n) (fun σ => σ.1.length) f c S.1 = some (.inl S'.1) := by
  intro f
  induction f with
  | zero => intro c S S' h; exact absurd h (by unfold goG; exact fun z => by cases z)
  | succ f ih =>
    intro c S S' h
    unfold goG at h ⊢
    by_cases e : S.1.1.length ≤ c
    · rw [if_pos e] at h ⊢
      cases h; rfl
    · rw [if_neg e] at h ⊢
      cases hs : st2 ls n lab b S with
      | inr x => rw [hs] at h; cases h
      | inl x =>
        rw [hs] at h
        rw [st2_sk hs]
        exact ih c x S' h
theorem TSK.pop (K : TSK ((a, t, u, m) :: R, mac, sec, sz, g, us) s) : TSK (R, mac, sec, sz, g, us) (tw_up s 14 0 (s 14 0 - 1)) := by
  obtain ⟨k1, k2, k3⟩ := K
  exact ⟨by show s 14 0 - 1 = _; rw [top_d k1], k2.2.2.2.cong R fun _ _ => ⟨rfl, rfl, rfl, rfl⟩, k3⟩
theorem TSK.adv (K : TSK ((a, t, u, m) :: R, mac, sec, sz, g, us) s) : TSK ((a + 1, t, u, m) :: R, mac, sec, sz, g, us) (tw_up s 8 R.length (Int32.ofNat (a + 1))) := by
  obtain ⟨k1, ⟨t1, t2, t3, t4⟩, k3⟩ := K
  exact ⟨k1, ⟨if_pos rfl, t2, t3, t4.cong R fun j hj => ⟨if_neg (by omega), rfl, rfl, rfl⟩⟩, k3⟩
theorem TG1.tr {h : ax_H} {s s1 : Nat → Nat → Int32} {r : (skT × (Nat → Int32)) ⊕ (Nat × Nat)} {c : Option ax_R} (X : TG1 h s1 r c) (e : ∀ f, f < 4 ∨ 18 ≤ f → s1 f = s f) : TG1 h s r c := by
  obtain ⟨s', v, a, b, c⟩ := X
  exact ⟨s', v, a, fun f hf => (b f hf).trans (e f hf), c⟩
theorem TG2.tr {h : ax_H} {s s1 : Nat → Nat → Int32} {r : s2T ⊕ (Nat × Nat)} {c : Option ax_R} (X : TG2 h s1 r c) (e : ∀ f, f < 5 ∨ f = 18 ∨ 21 ≤ f → s1 f = s f) : TG2 h s r c := by
  obtain ⟨s', v, a, b, c⟩ := X
  exact ⟨s', v, a, fun f hf => (b f hf).trans (e f hf), c⟩
/-- what the loop does ahead of a line -/
theorem t_headA (I : SKI ls n ((a, t, u, m) :: R, mac, sec, sz, g, us)) (n1 : n ≤ 100) (K : TSK ((a, t, u, m) :: R, mac, sec, sz, g, us) s) {v : Int32} : (a = t → dx_le (B_X3_goesThrough_84 (ax_c d) 417 v (tw_H h (tw_up s 14 0 (s 14 0 - 1)))) (B_X3_goesThrough_84 (ax_c d) 417 v (tw_H h s))) ∧ (a ≠ t → dx_le (dx_cI (ax_c d 391 [.ref 417, .int (Int32.ofNat a), .int v] (tw_H h (tw_up s 8 R.length (Int32.ofNat (a + 1))))) (fun x16 h15 => if x16 = 0 then B_X3_goesThrough_84 (ax_c d) 417 v h15 else some (.inl (some (.int x16)), h15)) dx_x0) (B_X3_goesThrough_84 (ax_c d) 417 v (tw_H h s))) := by
  obtain ⟨f1, f2, f3, f4⟩ := I.1
  have len6 := FRK.len I.1
  rw [List.length_cons] at len6
  have k14 := top_d K.1
  have le := b_X3_goesThrough_84 (K := ax_c d) (v0 := 417) (v1 := v) (h := tw_H h s)
  obtain ⟨k1, ⟨t1, t2, t3, t4⟩, k3⟩ := id K
  have iR : ix 6 (Int32.ofNat R.length) = some R.length := ix_of rfl (by omega) (by omega)
  rw [tg_14, Option.bind_some, k14, if_neg (i_neg (by omega)), tr_8, Option.bind_some, Option.bind_some, tl_8, iR, Option.bind_some, Option.bind_some, t1, tr_9, Option.bind_some, Option.bind_some, tl_9, iR, Option.bind_some, Option.bind_some, t2] at le
  constructor
  · intro e
    rw [if_neg (fun z => z (by rw [e])), Option.bind_some, tp_14, Option.bind_some] at le
    rw [k14]; exact le
  · intro e
    rw [if_pos (fun z => e ((i_eq (by omega) (by omega)).mp z)), Option.bind_some, Option.bind_some, tl_8, iR, Option.bind_some, Option.bind_some, t1, Option.bind_some, Option.bind_some, tl_8, iR, Option.bind_some, Option.bind_some, t1, ts_8, iR, Option.bind_some, Option.bind_some, tw_vn, Option.bind_some, show Int32.ofNat a + 1 = Int32.ofNat (a + 1) from i_add a 1] at le
    exact le
theorem t_loop1 (V : ∀ t, t < n → lnV (ls t)) (hd : 4 ≤ d) : ∀ f (S : skT × (Nat → Int32)) s r, goG (st1 ls n) (fun S => S.1.1.length) f 0 S = some r → SKI ls n S.1 → TSK S.1 s → (∀ i, i < 1220 → s 4 i = S.2 i) → TLW n ls s → TG1 h s r (B_X3_goesThrough_84 (ax_c d) 417 0 (tw_H h s)) := by
  intro f
  induction f with
  | zero => intro S s r hr; exact absurd hr (by unfold goG; exact fun z => by cases z)
  | succ f ih =>
    rintro ⟨⟨F, mac, sec, sz, g, us⟩, lab⟩ s r hr I K hl T
    unfold goG at hr
    cases F with
    | nil =>
      rw [if_pos (show ([] : List frT).length ≤ 0 from Nat.le_refl _)] at hr
      cases hr
      refine TG1.le ⟨s, 0, rfl, fun _ _ => rfl, rfl, K, hl⟩ ?_
      have le := b_X3_goesThrough_84 (K := ax_c d) (v0 := 417) (v1 := 0) (h := tw_H h s)
      rw [tg_14, Option.bind_some, K.1, if_pos (show Int32.ofNat ([] : List frT).length - 1 < 0 by decide)] at le
      exact le
    | cons F R =>
      obtain ⟨a, t, u, m⟩ := F
      rw [if_neg (show ¬ ((a, t, u, m) :: R).length ≤ 0 by rw [List.length_cons]; omega)] at hr
      obtain ⟨P1, P2⟩ := t_headA (h := h) (d := d) (v := 0) I T.2.1 K
      have h0 : 0 < ((a, t, u, m) :: R).length := by rw [List.length_cons]; omega
      cases hs : st1 ls n (((a, t, u, m) :: R, mac, sec, sz, g, us), lab) with
      | inr x =>
        rw [hs] at hr
        cases hr
        have e : a ≠ t := fun e => by
          unfold st1 skS at hs
          dsimp only at hs
          rw [if_pos e] at hs
          dsimp only at hs
          rw [if_neg (fun z => z.1 e)] at hs
          cases hs
        have X := t_goes1 (h := h) (d := d) (s := tw_up s 8 R.length (Int32.ofNat (a + 1))) (T.cong fun f q1 q2 => by rw [tw_up_at, if_neg (by omega)]) V I e K.adv (lab := lab) hl hd
        rw [hs] at X
        obtain ⟨s', v, x1, x2, x3, x4, x5, x6⟩ := X
        have le := P2 e
        rw [x1, cI_v, if_neg (fun z => by
          rw [x3] at z
          have := (i_eq (b := 0) (by omega) (by omega)).mp z
          omega)] at le
        exact TG1.le ⟨s', v, rfl, fun f hf => by rw [x2 f hf, tw_up_at, if_neg (by omega)], x3, x4, x5, x6⟩ le
      | inl S1 =>
        rw [hs] at hr
        dsimp only at hr
        have I1 := (sk_inv V I (st1_sk hs) h0).1
        by_cases e : a = t
        · have e1 : S1 = ((R, mac, sec, sz, g, us), lab) := by
            unfold st1 skS at hs
            dsimp only at hs
            rw [if_pos e] at hs
            dsimp only at hs
            rw [if_neg (fun z => z.1 e)] at hs
            cases hs; rfl
          subst e1
          exact TG1.tr (TG1.le (ih _ _ r hr I1 K.pop hl (T.cong fun f q1 q2 => by rw [tw_up_at, if_neg (by omega)])) (P1 e)) fun f hf => by rw [tw_up_at, if_neg (by omega)]
        · have X := t_goes1 (h := h) (d := d) (s := tw_up s 8 R.length (Int32.ofNat (a + 1))) (T.cong fun f q1 q2 => by rw [tw_up_at, if_neg (by omega)]) V I e K.adv (lab := lab) hl hd
          rw [hs] at X
          obtain ⟨s', v, x1, x2, x3, x4, x5⟩ := X
          have le := P2 e
          rw [x1, cI_v, if_pos x3] at le
          have fr : ∀ f, f < 4 ∨ 18 ≤ f → s' f = s f := fun f hf => by rw [x2 f hf, tw_up_at, if_neg (by omega)]
          exact TG1.tr (TG1.le (ih S1 s' r hr I1 x4 x5 (T.cong fun f q1 q2 => fr f (by omega))) le) fr
theorem t_loop2 (V : ∀ t, t < n → lnV (ls t)) (hd : 5 ≤ d) (hf0 : σe.2.2.2.1 0 = f0) (hf1 : σe.2.2.2.1 1 = f1) (hf : f0 + f1 ≤ 248) : ∀ f (S : s2T) s r, goG (st2 ls n lab (8 + f0)) (fun S => S.1.1.length) f 0 S = some r → (∃ f2, goG (skS ls n) (fun σ => σ.1.length) f2 0 S.1 = some (.inl σe)) → SKI ls n S.1 → TSK S.1 s → TA s S.2.1 → S.2.1.length = S.1.1.length → (∀ i, i < 1220 → s 4 i = lab i) → (∀ i, i < 256 → s 20 i = S.2.2 i) → s 18 0 = Int32.ofNat (8 + f0) → TLW n ls s → TG2 h s r (B_X3_goesThrough_84 (ax_c d) 417 1 (tw_H h s)) := by
  intro f
  induction f with
  | zero => intro S s r hr; exact absurd hr (by unfold goG; exact fun z => by cases z)
  | succ f ih =>
    rintro ⟨⟨F, mac, sec, sz, g, us⟩, A, bu⟩ s r hr ⟨f2, h2⟩ I K hA hAl hl hbu hb T
    unfold goG at hr
    cases F with
    | nil =>
      rw [if_pos (show ([] : List frT).length ≤ 0 from Nat.le_refl _)] at hr
      cases hr
      refine TG2.le ⟨s, 0, rfl, fun _ _ => rfl, rfl, K, hA, hAl, hbu⟩ ?_
      have le := b_X3_goesThrough_84 (K := ax_c d) (v0 := 417) (v1 := 1) (h := tw_H h s)
      rw [tg_14, Option.bind_some, K.1, if_pos (show Int32.ofNat ([] : List frT).length - 1 < 0 by decide)] at le
      exact le
    | cons F R =>
      obtain ⟨a, t, u, m⟩ := F
      rw [if_neg (show ¬ ((a, t, u, m) :: R).length ≤ 0 by rw [List.length_cons]; omega)] at hr
      obtain ⟨P1, P2⟩ := t_headA (h := h) (d := d) (v := 1) I T.2.1 K
      have h0 : 0 < ((a, t, u, m) :: R).length := by rw [List.length_cons]; omega
      cases f2 with
      | zero => exact absurd h2 (by unfold goG; exact fun z => by cases z)
      | succ f2 =>
      unfold goG at h2
      rw [if_neg (show ¬ ((a, t, u, m) :: R).length ≤ 0 by rw [List.length_cons]; omega)] at h2
      dsimp only at h2
      cases A with
      | nil => rw [List.length_cons] at hAl; exact absurd hAl (by show ¬ 0 = _; omega)
      | cons p A =>
      rw [List.length_cons, List.length_cons] at hAl
      have hAl : A.length = R.length := by omega
      cases hk : skS ls n ((a, t, u, m) :: R, mac, sec, sz, g, us) with
      | inr x => rw [hk] at h2; cases h2
      | inl σ1 =>
      rw [hk] at h2
      dsimp only at h2
      have I1 := (sk_inv V I hk h0).1
      have z2 := go_sz f2 σ1 h2
      by_cases e : a = t
      · have e1 : σ1 = (R, mac, sec, sz, g, us) := by
          unfold skS at hk
          dsimp only at hk
          rw [if_pos e] at hk
          cases hk; rfl
        have hs : st2 ls n lab (8 + f0) (((a, t, u, m) :: R, mac, sec, sz, g, us), p :: A, bu) = .inl (σ1, A, bu) := by
          unfold st2
          rw [hk]
          dsimp only
          rw [if_pos e]
        rw [hs] at hr
        subst e1
        exact TG2.tr (TG2.le (ih _ _ r hr ⟨f2, h2⟩ I1 K.pop (hA.2.cong _ fun _ _ => ⟨rfl, rfl⟩) hAl hl hbu hb (T.cong fun f q1 q2 => by rw [tw_up_at, if_neg (by omega)])) (P1 e)) fun f hf => by rw [tw_up_at, if_neg (by omega)]
      · have X := t_goes2 (h := h) (d := d) (s := tw_up s 8 R.length (Int32.ofNat (a + 1))) (T.cong fun f q1 q2 => by rw [tw_up_at, if_neg (by omega)]) V I e K.adv hk (f0 := f0) (f1 := f1) (by omega) (by omega) hf hb (lab := lab) hl (hA.cong _ fun _ _ => ⟨rfl, rfl⟩) hAl hbu hd
        cases hs : st2 ls n lab (8 + f0) (((a, t, u, m) :: R, mac, sec, sz, g, us), p :: A, bu) with
        | inr x =>
          rw [hs] at hr X
          cases hr
          obtain ⟨s', v, x1, x2, x3, x4, x5, x6⟩ := X
          have le := P2 e
          rw [x1, cI_v, if_neg (fun z => by
            rw [x3] at z
            have := (i_eq (b := 0) (by omega) (by omega)).mp z
            omega)] at le
          exact TG2.le ⟨s', v, rfl, fun f hf => by rw [x2 f hf, tw_up_at, if_neg (by omega)], x3, x4, x5, x6⟩ le
        | inl S1 =>
          rw [hs] at hr X
          dsimp only at hr
          have es := st2_sk hs
          rw [hk] at es
          have es : σ1 = S1.1 := Sum.inl.inj es
          obtain ⟨s', v, x1, x2, x3, x4, x5, x6, x7⟩ := X
          have le := P2 e
          rw [x1, cI_v, if_pos x3] at le
          have fr : ∀ f, f < 5 ∨ f = 18 ∨ 21 ≤ f → s' f = s f := fun f hf => by rw [x2 f hf, tw_up_at, if_neg (by omega)]
          exact TG2.tr (TG2.le (ih S1 s' r hr ⟨f2, by rw [← es]; exact h2⟩ (by rw [← es]; exact I1) x4 x5 x6 (fun i hi => by rw [fr 4 (by omega)]; exact hl i hi) x7 (by rw [fr 18 (by omega)]; exact hb) (T.cong fun f q1 q2 => fr f (by omega))) le) fr
/-- ahead of the lines -/
theorem t_goesThrough (T : TLW n ls s) {v : Int32} (hd : 1 ≤ d) : ∃ s1, dx_le (B_X3_goesThrough_84 (ax_c (d - 1)) 417 v (tw_H h s1)) (ax_c d 390 [.ref 417, .int v] (tw_H h s)) ∧ TSK (sk0 n) s1 ∧ s1 18 0 = 8 + s 5 0 ∧ ∀ f, f < 5 ∨ 19 ≤ f → s1 f = s f := by
  obtain ⟨d, rfl, -⟩ := d_succ hd
  rw [show d + 1 - 1 = d from rfl]
  have n1 := T.2.1
  have le := m_X3_goesThrough (d := d) (v0 := 417) (v1 := v) (h := tw_H h s)
  have i20 : ix 2 0 = some 0 := ix_of (k := 0) (n := 2) (i := 0) rfl (by omega) (by omega)
  have i21 : ix 2 1 = some 1 := ix_of (k := 1) (n := 2) (i := 1) rfl (by omega) (by omega)
  have i60 : ix 6 0 = some 0 := ix_of (k := 0) (n := 6) (i := 0) rfl (by omega) (by omega)
  simp only [tr_5, tl_5, ts_5, tp_18, tp_15, tp_16, tp_17, tp_14, tr_8, ts_8, tr_9, ts_9, tg_1, i20, i21, i60, Option.bind_some] at le
  generalize e0 : tw_up (tw_up _ 8 0 0) 9 0 _ = s2 at le
  have a14 : s2 14 0 = 0 := by rw [← e0]; rfl
  have a8 : s2 8 0 = 0 := by rw [← e0]; rfl
  have a9 : s2 9 0 = Int32.ofNat n := by rw [← e0]; exact T.1
  have a15 : s2 15 0 = 0 := by rw [← e0]; rfl
  have a16 : s2 16 0 = 0 := by rw [← e0]; rfl
  have a17 : s2 17 0 = 0 := by rw [← e0]; rfl
  have a18 : s2 18 0 = 8 + s 5 0 := by rw [← e0]; rfl
  have a50 : s2 5 0 = 0 := by rw [← e0]; rfl
  have a51 : s2 5 1 = 0 := by rw [← e0]; rfl
  have fr : ∀ f, f < 5 ∨ 19 ≤ f → s2 f = s f := fun f hf => by
    rw [← e0]
    simp only [tw_up_at]
    rw [if_neg (by omega), if_neg (by omega), if_neg (by omega), if_neg (by omega), if_neg (by omega), if_neg (by omega), if_neg (by omega), if_neg (by omega), if_neg (by omega)]
  clear e0
  have loop : ∀ r k, k + r = 5 → ∀ s3, (∀ f, f ≠ 6 → s3 f = s2 f) → (∀ m, m < k → s3 6 m = -1) → ∃ s1, dx_le (B_X3_goesThrough_84 (ax_c d) 417 v (tw_H h s1)) (B_X3_goesThrough_66 (ax_c d) 417 v (Int32.ofNat k) (tw_H h s3)) ∧ (∀ f, f ≠ 6 → s1 f = s2 f) ∧ ∀ m, m < 5 → s1 6 m = -1 := by
    intro r
    induction r with
    | zero =>
      intro k hk s3 q1 q2
      obtain rfl : k = 5 := by omega
      have lb := b_X3_goesThrough_66 (K := ax_c d) (v0 := 417) (v1 := v) (v2 := Int32.ofNat 5) (h := tw_H h s3)
      rw [if_pos (by decide)] at lb
      exact ⟨s3, lb, q1, q2⟩
    | succ r ih =>
      intro k hk s3 q1 q2
      have lb := b_X3_goesThrough_66 (K := ax_c d) (v0 := 417) (v1 := v) (v2 := Int32.ofNat k) (h := tw_H h s3)
      rw [if_neg (show ¬ (5 : Int32) ≤ Int32.ofNat k from i_ge_not (n := 5) (by omega) (by omega)), tr_6, Option.bind_some, ts_6, ix_of rfl (show k < 5 by omega) (by omega), Option.bind_some, Option.bind_some, lt_at, show Int32.ofNat k + 1 = Int32.ofNat (k + 1) from i_add k 1] at lb
      obtain ⟨s1, x1, x2, x3⟩ := ih (k + 1) (by omega) (tw_up s3 6 k (-1)) (fun f hf => by rw [tw_up_at, if_neg hf]; exact q1 f hf) (fun m hm => by
        show (if m = k then -1 else s3 6 m) = -1
        by_cases e : m = k
        · rw [if_pos e]
        · rw [if_neg e]; exact q2 m (by omega))
      exact ⟨s1, dx_trans x1 lb, x2, x3⟩
  obtain ⟨s1, x1, x2, x3⟩ := loop 5 0 rfl s2 (fun _ _ => rfl) (fun m hm => absurd hm (Nat.not_lt_zero _))
  refine ⟨s1, dx_trans x1 le, ⟨?_, ⟨?_, ?_, fun z => absurd rfl z, trivial⟩, fun m hm => ⟨fun _ => x3 m hm, fun x y z => (by cases z)⟩, ?_, ⟨?_, ?_⟩, ?_, ?_⟩, ?_, fun f hf => by rw [x2 f (by omega)]; exact fr f hf⟩
  · rw [x2 14 (by decide), a14]; exact (show (0 : Int32) = Int32.ofNat 1 - 1 by decide)
  · rw [x2 8 (by decide)]; exact a8
  · rw [x2 9 (by decide)]; exact a9
  · rw [x2 15 (by decide)]; exact a15
  · rw [x2 5 (by decide)]; exact a50
  · rw [x2 5 (by decide)]; exact a51
  · rw [x2 16 (by decide)]; exact a16
  · rw [x2 17 (by decide)]; exact a17
  · rw [x2 18 (by decide)]; exact a18
theorem as1_go (V : ∀ t, t < n → lnV (ls t)) : goG (st1 ls n) (fun S => S.1.1.length) 604 0 (sk0 n, fun _ => -1) = some (as1 ls n) ∧ ∀ S, as1 ls n = .inl S → SKI ls n S.1 ∧ S.1.1.length = 0 := by
  obtain ⟨r, r1, r2⟩ := goG_ends (st := st1 ls n) (ln := fun S => S.1.1.length) (mu := fun S => muK S.1) (Inv := fun S => SKI ls n S.1) (fun S S' I h0 hs => ⟨(sk_inv V I (st1_sk hs) h0).1, (sk_inv V I (st1_sk hs) h0).2.1⟩) 603 (sk0 n, fun _ => -1) (Nat.le_refl _) (sk0_inv n)
  have e : as1 ls n = r := by unfold as1; rw [r1]; rfl
  rw [e]
  exact ⟨r1, r2⟩
theorem as2_go (V : ∀ t, t < n → lnV (ls t)) (σ : skT) : goG (st2 ls n lab (8 + σ.2.2.2.1 0)) (fun S => S.1.1.length) 604 0 (sk0 n, [(0, 0)], fun _ => 0) = some (as2 ls n σ lab) := by
  obtain ⟨r, r1, r2⟩ := goG_ends (st := st2 ls n lab (8 + σ.2.2.2.1 0)) (ln := fun S => S.1.1.length) (mu := fun S => muK S.1) (Inv := fun S => SKI ls n S.1) (fun S S' I h0 hs => ⟨(sk_inv V I (st2_sk hs) h0).1, (sk_inv V I (st2_sk hs) h0).2.1⟩) 603 (sk0 n, [(0, 0)], fun _ => 0) (Nat.le_refl _) (sk0_inv n)
  have e : as2 ls n σ lab = r := by unfold as2; rw [r1]; rfl
  rw [e]
  exact r1
/-- both ways find the same words -/
theorem as2_sk (V : ∀ t, t < n → lnV (ls t)) {S : skT × (Nat → Int32)} {S2 : s2T} (h1 : as1 ls n = .inl S) (h2 : as2 ls n S.1 S.2 = .inl S2) : S2.1 = S.1 := by
  have a := (as1_go V).1
  rw [h1] at a
  have b := as2_go (lab := S.2) V S.1
  rw [h2] at b
  have a' := go1_sk _ _ _ _ a
  have b' := go2_sk _ _ _ _ b
  exact Sum.inl.inj (Option.some.inj (b'.symm.trans a'))
def erC (r : (Nat × (Nat → Int32)) ⊕ (Nat × Nat)) : Int32 := match r with
  | .inl _ => 0
  | .inr e => Int32.ofNat (100 * e.1 + e.2)
theorem t_errorOfSource (T : TLW n ls s) (V : ∀ t, t < n → lnV (ls t)) (hd : 7 ≤ d) : ∃ s', ax_c d 389 [.ref 417] (tw_H h s) = some (.inl (some (.int (erC (asR ls n)))), tw_H h s') ∧ (∀ f, f < 4 ∨ 21 ≤ f → s' f = s f) ∧ (∀ e, asR ls n = .inr e → erC (asR ls n) ≠ 0) ∧ ∀ w bl, asR ls n = .inl (w, bl) → (∀ i, i < 256 → s' 20 i = bl i) ∧ s' 5 0 + s' 5 1 = Int32.ofNat w := by
  obtain ⟨d, rfl, he⟩ := d_succ hd
  have l1 : ∀ r k, k + r = 1220 → ∀ s3, (∀ f, f ≠ 4 → s3 f = s f) → (∀ m, m < k → s3 4 m = -1) → ∃ s1, dx_le (B_X3_errorOfSource_24 (ax_c d) 417 0 (tw_H h s1)) (B_X3_errorOfSource_2 (ax_c d) 417 (Int32.ofNat k) (tw_H h s3)) ∧ (∀ f, f ≠ 4 → s1 f = s f) ∧ ∀ m, m < 1220 → s1 4 m = -1 := by
    intro r
    induction r with
    | zero =>
      intro k hk s3 q1 q2
      obtain rfl : k = 1220 := by omega
      have lb := b_X3_errorOfSource_2 (K := ax_c d) (v0 := 417) (v1 := Int32.ofNat 1220) (h := tw_H h s3)
      rw [if_pos (by decide)] at lb
      exact ⟨s3, lb, q1, q2⟩
    | succ r ih =>
      intro k hk s3 q1 q2
      have lb := b_X3_errorOfSource_2 (K := ax_c d) (v0 := 417) (v1 := Int32.ofNat k) (h := tw_H h s3)
      rw [if_neg (show ¬ (1220 : Int32) ≤ Int32.ofNat k from i_ge_not (n := 1220) (by omega) (by omega)), tr_4, Option.bind_some, ts_4, ix_of rfl (show k < 1220 by omega) (by omega), Option.bind_some, Option.bind_some, lt_at, show Int32.ofNat k + 1 = Int32.ofNat (k + 1) from i_add k 1] at lb
      obtain ⟨s1, x1, x2, x3⟩ := ih (k + 1) (by omega) (tw_up s3 4 k (-1)) (fun f hf => by rw [tw_up_at, if_neg hf]; exact q1 f hf) (fun m hm => by
        show (if m = k then -1 else s3 4 m) = -1
        by_cases e : m = k
        · rw [if_pos e]
        · rw [if_neg e]; exact q2 m (by omega))
      exact ⟨s1, dx_trans x1 lb, x2, x3⟩
  obtain ⟨s1, x1, x2, x3⟩ := l1 1220 0 rfl s (fun _ _ => rfl) (fun m hm => absurd hm (Nat.not_lt_zero _))
  have l2 : ∀ r k, k + r = 256 → ∀ s3, (∀ f, f ≠ 20 → s3 f = s1 f) → (∀ m, m < k → s3 20 m = 0) → ∃ s2, dx_le (B_X3_errorOfSource_24 (ax_c d) 417 256 (tw_H h s2)) (B_X3_errorOfSource_24 (ax_c d) 417 (Int32.ofNat k) (tw_H h s3)) ∧ (∀ f, f ≠ 20 → s2 f = s1 f) ∧ ∀ m, m < 256 → s2 20 m = 0 := by
    intro r
    induction r with
    | zero =>
      intro k hk s3 q1 q2
      obtain rfl : k = 256 := by omega
      exact ⟨s3, dx_refl _, q1, q2⟩
    | succ r ih =>
      intro k hk s3 q1 q2
      have lb := b_X3_errorOfSource_24 (K := ax_c d) (v0 := 417) (v1 := Int32.ofNat k) (h := tw_H h s3)
      rw [if_neg (show ¬ (256 : Int32) ≤ Int32.ofNat k from i_ge_not (n := 256) (by omega) (by omega)), tr_20, Option.bind_some, ts_20, ix_of rfl (show k < 256 by omega) (by omega), Option.bind_some, Option.bind_some, lt_at, show Int32.ofNat k + 1 = Int32.ofNat (k + 1) from i_add k 1] at lb
      obtain ⟨s2, x1, x2, x3⟩ := ih (k + 1) (by omega) (tw_up s3 20 k 0) (fun f hf => by rw [tw_up_at, if_neg hf]; exact q1 f hf) (fun m hm => by
        show (if m = k then 0 else s3 20 m) = 0
        by_cases e : m = k
        · rw [if_pos e]
        · rw [if_neg e]; exact q2 m (by omega))
      exact ⟨s2, dx_trans x1 lb, x2, x3⟩
  obtain ⟨s2, y1, y2, y3⟩ := l2 256 0 rfl s1 (fun _ _ => rfl) (fun m hm => absurd hm (Nat.not_lt_zero _))
  have le := dx_trans b_X3_errorOfSource_24 (dx_trans y1 (dx_trans x1 m_X3_errorOfSource))
  have T2 : TLW n ls s2 := T.cong fun f q1 q2 => by rw [y2 f (by omega), x2 f (by omega)]
  obtain ⟨s3, g1, g2, g3, g4⟩ := t_goesThrough (h := h) (v := 0) (d := d) T2 (by omega)
  have T3 : TLW n ls s3 := T2.cong fun f q1 q2 => g4 f (by omega)
  obtain ⟨a1, a2⟩ := as1_go V
  have X := t_loop1 (h := h) (d := d - 1) V (by omega) _ _ s3 _ a1 (sk0_inv n) g2 (fun i hi => by rw [g4 4 (by omega), y2 4 (by omega)]; exact x3 i hi) T3
  have X := X.le g1
  have fr3 : ∀ f, f < 4 ∨ 21 ≤ f → s3 f = s f := fun f hf => by rw [g4 f (by omega), y2 f (by omega), x2 f (by omega)]
  rw [if_pos (Int32.le_refl _), tw_vn, Option.bind_some] at le
  obtain ⟨s4, v, z1, z2, z3⟩ := X
  rw [z1, cI_v] at le
  cases hr : as1 ls n with
  | inr e =>
    rw [hr] at z3
    obtain ⟨w1, w2, w3, w4⟩ := z3
    have er : asR ls n = .inr e := by unfold asR; rw [hr]
    have ne : v ≠ 0 := fun z => by
      rw [w1] at z
      have := (i_eq (b := 0) (by omega) (by omega)).mp z
      omega
    rw [if_pos ne] at le
    rw [er]
    refine ⟨s4, dx_app le (by rw [w1]; rfl), fun f hf => by rw [z2 f (by omega)]; exact fr3 f hf, fun _ _ => by rw [show erC (.inr e) = v from w1.symm]; exact ne, fun w bl z => by cases z⟩
  | inl S =>
    rw [hr] at z3
    obtain ⟨w1, w2, w3⟩ := z3
    obtain ⟨J1, J2⟩ := a2 S hr
    rw [if_neg (fun z => z w1), tw_vn, Option.bind_some] at le
    have T4 : TLW n ls s4 := T3.cong fun f q1 q2 => z2 f (by omega)
    obtain ⟨s5, g5, g6, g7, g8⟩ := t_goesThrough (h := h) (v := 1) (d := d) T4 (by omega)
    have T5 : TLW n ls s5 := T4.cong fun f q1 q2 => g8 f (by omega)
    have hsk := a1
    rw [hr] at hsk
    have hsk := go1_sk _ _ _ _ hsk
    have Y := t_loop2 (h := h) (d := d - 1) (lab := S.2) (σe := S.1) V (by omega) rfl rfl J1.2.2.2.1 _ _ s5 _ (as2_go (lab := S.2) V S.1) ⟨604, hsk⟩ (sk0_inv n) g6 ⟨fun z => absurd rfl z, trivial⟩ rfl (fun i hi => by rw [g8 4 (by omega)]; exact w3 i hi) (fun i hi => by rw [g8 20 (by omega), z2 20 (by omega), g4 20 (by omega)]; exact y3 i hi) (by rw [g7, w2.2.2.2.2.1.1]; exact i_add 8 _) T5
    have Y := Y.le g5
    obtain ⟨s6, v2, u1, u2, u3⟩ := Y
    rw [u1, cI_v] at le
    have fr6 : ∀ f, f < 4 ∨ 21 ≤ f → s6 f = s f := fun f hf => by rw [u2 f (by omega), g8 f (by omega), z2 f (by omega)]; exact fr3 f hf
    cases hr2 : as2 ls n S.1 S.2 with
    | inr e =>
      rw [hr2] at u3
      obtain ⟨t1, t2, t3, t4⟩ := u3
      have er : asR ls n = .inr e := by unfold asR; rw [hr]; dsimp only; rw [hr2]
      have ne : v2 ≠ 0 := fun z => by
        rw [t1] at z
        have := (i_eq (b := 0) (by omega) (by omega)).mp z
        omega
      rw [er]
      refine ⟨s6, dx_app le (by rw [t1]; rfl), fr6, fun _ _ => by rw [show erC (.inr e) = v2 from t1.symm]; exact ne, fun w bl z => by cases z⟩
    | inl S2 =>
      rw [hr2] at u3
      obtain ⟨t1, t2, t3, t4, t5⟩ := u3
      have er : asR ls n = .inl (S.1.2.2.2.1 0 + S.1.2.2.2.1 1, S2.2.2) := by unfold asR; rw [hr]; dsimp only; rw [hr2]
      rw [er]
      refine ⟨s6, dx_app le (by rw [t1]; rfl), fr6, fun e z => (by cases z), fun w bl z => ?_⟩
      cases z
      have e2 := as2_sk V hr hr2
      refine ⟨t5, ?_⟩
      rw [t2.2.2.2.2.1.1, t2.2.2.2.2.1.2, i_add, e2]
theorem t_error (T : TLW n ls s) (V : ∀ t, t < n → lnV (ls t)) (hd : 8 ≤ d) : ∃ s', ax_c d 388 [.ref 417] (tw_H h s) = some (.inl (some (.int (erC (asR ls n)))), tw_H h s') ∧ (∀ f, f ≠ 0 → f < 4 ∨ 21 ≤ f → s' f = s f) ∧ s' 0 0 = 0 := by
  obtain ⟨d, rfl, he⟩ := d_succ hd
  have T1 : TLW n ls (tw_up s 0 0 0) := T.cong fun f q1 q2 => by rw [tw_up_at, if_neg (by omega)]
  obtain ⟨s', a, b, -⟩ := t_errorOfSource (h := h) (d := d) T1 V (by omega)
  refine ⟨s', dx_app m_X3_error ?_, fun f f0 hf => by rw [b f hf, tw_up_at, if_neg f0], by rw [b 0 (by omega)]; rfl⟩
  rw [tp_0, Option.bind_some, tw_vn, Option.bind_some, a, cI_v]
/-- assembled -/
theorem t_assemble (T : TLW n ls s) (V : ∀ t, t < n → lnV (ls t)) (hd : 8 ≤ d) : (∀ e, asR ls n = .inr e → ∃ s', ax_c d 402 [.ref 417] (tw_H h s) = some (.inl (some (.int 0)), tw_H h s') ∧ (∀ f, f ≠ 0 → f < 4 ∨ 21 ≤ f → s' f = s f) ∧ s' 0 0 = 1) ∧ (∀ w bl, asR ls n = .inl (w, bl) → ∃ s', ax_c d 402 [.ref 417] (tw_H h s) = some (.inl (some (.int (Int32.ofNat w))), tw_H h s') ∧ (∀ f, f ≠ 0 → f < 4 ∨ 23 ≤ f → s' f = s f) ∧ s' 0 0 = 0 ∧ (∀ i, i < 256 → s' 21 i = bl i) ∧ s' 22 0 = 1) := by
  obtain ⟨d, rfl, he⟩ := d_succ hd
  obtain ⟨s1, a, b, c1, c2⟩ := t_errorOfSource (h := h) (d := d) T V (by omega)
  have le := m_X3_assemble (d := d) (v0 := 417) (h := tw_H h s)
  rw [tw_vn, Option.bind_some, a, cI_v] at le
  constructor
  · intro e he
    rw [if_pos (c1 e he), tw_vn, Option.bind_some, t_holds (by omega), cI_v, if_neg (show ¬ (1 : Int32) = 0 by decide), if_neg (fun z => z rfl)] at le
    exact ⟨_, dx_app le rfl, fun f f0 hf => by rw [tw_up_at, if_neg f0]; exact b f hf, rfl⟩
  · intro w bl hr
    obtain ⟨d1, d2⟩ := c2 w bl hr
    have e0 : erC (asR ls n) = 0 := by rw [hr]; rfl
    rw [e0, if_neg (fun z => z rfl), tw_vn, Option.bind_some, t_holds (by omega), cI_v, if_pos rfl, if_pos (by decide)] at le
    have lp : ∀ r k, k + r = 256 → ∀ s3, (∀ f, f ≠ 21 → s3 f = tw_up s1 0 0 0 f) → (∀ m, m < k → s3 21 m = bl m) → ∃ s2, dx_le (B_X3_assemble_23 (ax_c d) 417 256 (tw_H h s2)) (B_X3_assemble_23 (ax_c d) 417 (Int32.ofNat k) (tw_H h s3)) ∧ (∀ f, f ≠ 21 → s2 f = tw_up s1 0 0 0 f) ∧ ∀ m, m < 256 → s2 21 m = bl m := by
      intro r
      induction r with
      | zero =>
        intro k hk s3 q1 q2
        obtain rfl : k = 256 := by omega
        exact ⟨s3, dx_refl _, q1, q2⟩
      | succ r ih =>
        intro k hk s3 q1 q2
        have lb := b_X3_assemble_23 (K := ax_c d) (v0 := 417) (v1 := Int32.ofNat k) (h := tw_H h s3)
        have i1 : ix 256 (Int32.ofNat k) = some k := ix_of rfl (by omega) (by omega)
        rw [if_neg (show ¬ (256 : Int32) ≤ Int32.ofNat k from i_ge_not (n := 256) (by omega) (by omega)), tr_21, Option.bind_some, tr_20, Option.bind_some, tl_20, i1, Option.bind_some, Option.bind_some, ts_21, i1, Option.bind_some, Option.bind_some, lt_at, show Int32.ofNat k + 1 = Int32.ofNat (k + 1) from i_add k 1] at lb
        obtain ⟨s2, x1, x2, x3⟩ := ih (k + 1) (by omega) (tw_up s3 21 k (s3 20 k)) (fun f hf => by rw [tw_up_at, if_neg hf]; exact q1 f hf) (fun m hm => by
          show (if m = k then s3 20 k else s3 21 m) = bl m
          by_cases e : m = k
          · rw [if_pos e, e, q1 20 (by decide)]; exact d1 k (by omega)
          · rw [if_neg e]; exact q2 m (by omega))
        exact ⟨s2, dx_trans x1 lb, x2, x3⟩
    obtain ⟨s2, x1, x2, x3⟩ := lp 256 0 rfl _ (fun _ _ => rfl) (fun m hm => absurd hm (Nat.not_lt_zero _))
    have le := dx_trans b_X3_assemble_23 (dx_trans x1 le)
    have i20 : ix 2 0 = some 0 := ix_of (k := 0) (n := 2) (i := 0) rfl (by omega) (by omega)
    have i21 : ix 2 1 = some 1 := ix_of (k := 1) (n := 2) (i := 1) rfl (by omega) (by omega)
    rw [if_pos (Int32.le_refl _), tp_22, if_pos (by decide), Option.bind_some, tr_5, Option.bind_some, tl_5, i20, Option.bind_some, Option.bind_some, Option.bind_some, tl_5, i21, Option.bind_some, Option.bind_some, show ∀ z, tw_up s2 22 0 1 5 z = s2 5 z from fun _ => rfl, show ∀ z, tw_up s2 22 0 1 5 z = s2 5 z from fun _ => rfl, x2 5 (by decide)] at le
    refine ⟨tw_up s2 22 0 1, dx_app le ?_, fun f f0 hf => by rw [tw_up_at, if_neg (by omega), x2 f (by omega), tw_up_at, if_neg f0]; exact b f (by omega), ?_, x3, rfl⟩
    · rw [← d2]; rfl
    · show s2 0 0 = 0
      rw [x2 0 (by decide)]; rfl
end TLL
