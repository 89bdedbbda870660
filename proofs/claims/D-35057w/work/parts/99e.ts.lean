/-! the twin goes through the lines: one line, the first way -/
/- with lnD lnV lnN TLW skT frT FRK FRK.len SKI MCK nxM wrdN plcN st1 skS rg.nat TFr TSK TMC TFr.cong t_wordsOf t_nextOf t_isGone tnum tkind e5 top_d t_placeOf t_setsLabel t_begins t_push134 pshS sk_inv FRK.fm0 FRK.le5 TLW.cong -/
section TSS
variable {n a t u m k d j x y us sec g e w b : Nat} {ls : Nat → lnD} {s s' : Nat → Nat → Int32} {h : ax_H} {R F : List frT} {mac : Nat → Option (Nat × Nat)} {i p q v z : Int32} {σ σ' : skT} {sz : Nat → Nat} {lab : Nat → Int32}
theorem TSK.gon (K : TSK (F, mac, sec, sz, g, us) s) : TSK (F, mac, sec, sz, g + 1, us) (tw_up s 16 0 (Int32.ofNat (g + 1))) := ⟨K.1, K.2.1.cong F fun _ _ => ⟨rfl, rfl, rfl, rfl⟩, K.2.2.1, K.2.2.2.1, K.2.2.2.2.1, rfl, K.2.2.2.2.2.2⟩
theorem TSK.secd (K : TSK (F, mac, sec, sz, g, us) s) (hx : z = Int32.ofNat x) : TSK (F, mac, x, sz, g, us) (tw_up s 15 0 z) := ⟨K.1, K.2.1.cong F fun _ _ => ⟨rfl, rfl, rfl, rfl⟩, K.2.2.1, hx, K.2.2.2.2.1, K.2.2.2.2.2⟩
theorem TSK.siz (K : TSK (F, mac, sec, sz, g, us) s) (hs : sec < 2) : TSK (F, mac, sec, (fun k => if k = sec then sz k + w else sz k), g, us) (tw_up s 5 sec (Int32.ofNat (sz sec + w))) := by
  refine ⟨K.1, K.2.1.cong F fun _ _ => ⟨rfl, rfl, rfl, rfl⟩, K.2.2.1, K.2.2.2.1, ?_, K.2.2.2.2.2⟩
  obtain ⟨k1, k2⟩ := K.2.2.2.2.1
  have e : ∀ j, tw_up s 5 sec (Int32.ofNat (sz sec + w)) 5 j = if j = sec then Int32.ofNat (sz sec + w) else s 5 j := fun j => rfl
  rw [e, e]
  dsimp only
  constructor
  · by_cases c : 0 = sec
    · rw [if_pos c, if_pos c, c]
    · rw [if_neg c, if_neg c]; exact k1
  · by_cases c : 1 = sec
    · rw [if_pos c, if_pos c, c]
    · rw [if_neg c, if_neg c]; exact k2
theorem TSK.sz5 (K : TSK (F, mac, sec, sz, g, us) s) (hs : sec < 2) : s 5 sec = Int32.ofNat (sz sec) := by
  rcases (show sec = 0 ∨ sec = 1 by omega) with c | c
  · rw [c]; exact K.2.2.2.2.1.1
  · rw [c]; exact K.2.2.2.2.1.2
theorem TSK.mcd (K : TSK ((a, t, u, m) :: R, mac, sec, sz, g, us) s) (hm : mac k = none) : TSK ((e, t, u, m) :: R, (fun j => if j = k then some (x, y) else mac j), sec, sz, g, us) (tw_up (tw_up (tw_up s 6 k (Int32.ofNat x)) 7 k (Int32.ofNat y)) 8 R.length (Int32.ofNat e)) := by
  obtain ⟨k1, ⟨t1, t2, t3, t4⟩, k3, k4, k5, k6, k7⟩ := K
  refine ⟨k1, ⟨if_pos rfl, t2, t3, t4.cong R fun j hj => ⟨if_neg (by omega), rfl, rfl, rfl⟩⟩, fun j hj => ?_, k4, k5, k6, k7⟩
  have e6 : ∀ j, tw_up (tw_up (tw_up s 6 k (Int32.ofNat x)) 7 k (Int32.ofNat y)) 8 R.length (Int32.ofNat e) 6 j = if j = k then Int32.ofNat x else s 6 j := fun j => rfl
  have e7 : ∀ j, tw_up (tw_up (tw_up s 6 k (Int32.ofNat x)) 7 k (Int32.ofNat y)) 8 R.length (Int32.ofNat e) 7 j = if j = k then Int32.ofNat y else s 7 j := fun j => rfl
  rw [e6, e7]
  dsimp only
  by_cases c : j = k
  · rw [if_pos c, if_pos c, if_pos c]
    exact ⟨fun z => (by cases z), fun x' y' z => (by cases z; exact ⟨rfl, rfl⟩)⟩
  · rw [if_neg c, if_neg c, if_neg c]
    exact k3 j hj
theorem TSK.psh (K : TSK (F, mac, sec, sz, g, us) s) (hF : 0 < F.length) : TSK ((x, y, us, m) :: F, mac, sec, sz, g, us + 1) (pshS s F.length x y us m p q) := by
  obtain ⟨k1, k2, k3, k4, k5, k6, k7⟩ := K
  have c8 : ∀ j, pshS s F.length x y us m p q 8 j = if j = F.length then Int32.ofNat x else s 8 j := fun j => rfl
  have c9 : ∀ j, pshS s F.length x y us m p q 9 j = if j = F.length then Int32.ofNat y else s 9 j := fun j => rfl
  have c10 : ∀ j, pshS s F.length x y us m p q 10 j = if j = F.length then Int32.ofNat us else s 10 j := fun j => rfl
  have c11 : ∀ j, pshS s F.length x y us m p q 11 j = if j = F.length then Int32.ofNat m else s 11 j := fun j => rfl
  refine ⟨?_, ⟨?_, ?_, fun _ => ⟨?_, ?_⟩, k2.cong F fun j hj => ⟨?_, ?_, ?_, ?_⟩⟩, k3, k4, k5, k6, rfl⟩
  · show Int32.ofNat F.length = Int32.ofNat (F.length + 1) - 1
    exact (i_sub (a := F.length + 1) (b := 1) (by omega)).symm
  · rw [c8, if_pos rfl]
  · rw [c9, if_pos rfl]
  · rw [c10, if_pos rfl]
  · rw [c11, if_pos rfl]
  · rw [c8, if_neg (by omega)]
  · rw [c9, if_neg (by omega)]
  · rw [c10, if_neg (by omega)]
  · rw [c11, if_neg (by omega)]
theorem pshS_row (f : Nat) (h14 : f ≠ 14) (h8 : f < 8 ∨ 18 ≤ f) : pshS s k x y u m p q f = s f := by
  unfold pshS
  rw [tw_up_at, if_neg (by omega), tw_up_at, if_neg (by omega), tw_up_at, if_neg (by omega), tw_up_at, if_neg (by omega), tw_up_at, if_neg (by omega), tw_up_at, if_neg (by omega), tw_up_at, if_neg (by omega), tw_up_at, if_neg (by omega)]
/-- one line gone through the first way -/
def TG1 (h : ax_H) (s : Nat → Nat → Int32) (r : (skT × (Nat → Int32)) ⊕ (Nat × Nat)) (c : Option ax_R) : Prop := ∃ s' v, c = some (.inl (some (.int v)), tw_H h s') ∧ (∀ f, f < 4 ∨ 18 ≤ f → s' f = s f) ∧ match r with
  | .inr e => v = Int32.ofNat (100 * e.1 + e.2) ∧ 0 < e.1 ∧ e.1 ≤ 7 ∧ e.2 ≤ 100
  | .inl S' => v = 0 ∧ TSK S'.1 s' ∧ ∀ i, i < 1220 → s' 4 i = S'.2 i
theorem TG1.le {c c' : Option ax_R} {r : (skT × (Nat → Int32)) ⊕ (Nat × Nat)} (X : TG1 h s r c) (hl : dx_le c c') : TG1 h s r c' := by
  obtain ⟨s', v, a, b⟩ := X
  exact ⟨s', v, hl _ a, b⟩
theorem t_goes1 (T : TLW n ls s) (V : ∀ t, t < n → lnV (ls t)) (I : SKI ls n ((a, t, u, m) :: R, mac, sec, sz, g, us)) (hat : a ≠ t) (K : TSK ((a + 1, t, u, m) :: R, mac, sec, sz, g, us) s) (hl : ∀ i, i < 1220 → s 4 i = lab i) (hd : 4 ≤ d) : TG1 h s (st1 ls n (((a, t, u, m) :: R, mac, sec, sz, g, us), lab)) (ax_c d 391 [.ref 417, .int (Int32.ofNat a), .int 0] (tw_H h s)) := by
  have I0 := I
  obtain ⟨I1, I2, I3, I4, I5, I6⟩ := I
  dsimp only at I1 I2 I3 I4 I5 I6
  have len6 := FRK.len I1
  rw [List.length_cons] at len6
  obtain ⟨f1, f2, f3, f4⟩ := id I1
  have ha : a < n := by omega
  have n1 := T.2.1
  have Va := V a ha
  obtain ⟨v1, v2, v3, v4, v5, v6, v7, v8, v9⟩ := id Va
  obtain ⟨c0, c1, c2, c3, c4, c5, c6, c7, c8⟩ := kqs _ v1
  obtain ⟨d, rfl, he⟩ := d_succ hd
  have le := m_X3_goes (d := d) (v0 := 417) (v1 := Int32.ofNat a) (v2 := 0) (h := tw_H h s)
  obtain ⟨s1, es1⟩ : ∃ s1, s1 = tw_up s 16 0 (Int32.ofNat (g + 1)) := ⟨_, rfl⟩
  have K1 : TSK ((a + 1, t, u, m) :: R, mac, sec, sz, g + 1, us) s1 := by rw [es1]; exact K.gon
  have r1 : ∀ f, f ≠ 16 → s1 f = s f := fun f hf => by rw [es1, tw_up_at, if_neg hf]
  have T1 : TLW n ls s1 := T.cong fun f q1 q2 => r1 f (by omega)
  have l1 : ∀ i, i < 1220 → s1 4 i = lab i := fun i hi => by rw [r1 4 (by decide)]; exact hl i hi
  have k14 : s1 14 0 = Int32.ofNat R.length := top_d K1.1
  have wb : wrdN (ls a) ≤ 32 := by
    unfold wrdN
    split
    · omega
    split
    · omega
    split
    · rename_i h4; exact (v6 h4).nat.1
    · omega
  rw [tg_16, Option.bind_some, K.2.2.2.2.2.1, show Int32.ofNat (g + 1) = Int32.ofNat g + 1 from (i_add g 1).symm] at *
  rw [tp_16, Option.bind_some, ← es1, tw_vn, Option.bind_some, t_wordsOf T1 Va ha (by omega), cI_v, tr_2, Option.bind_some, tkind T1 ha, Option.bind_some, if_neg (show ¬ ¬ (0 : Int32) = 0 from fun z => z rfl), tg_16, Option.bind_some, K1.2.2.2.2.2.1] at le
  dsimp only at le
  have e100 : 100 + Int32.ofNat a = Int32.ofNat (100 + a) := i_add 100 a
  have sk : skS ls n ((a, t, u, m) :: R, mac, sec, sz, g, us) = skS ls n ((a, t, u, m) :: R, mac, sec, sz, g, us) := rfl
  conv at sk => rhs; unfold skS; dsimp only; rw [if_neg hat]
  by_cases q1 : 300 < g + 1
  · rw [if_pos (Or.inl q1)] at sk
    rw [if_pos (show (300 : Int32) < Int32.ofNat (g + 1) from (i_lt (a := 300) (by omega) (by omega)).mpr q1), e100] at le
    refine TG1.le ⟨s1, _, rfl, fun f hf => r1 f (by omega), ?_⟩ le
    unfold st1; rw [sk]
    exact ⟨rfl, Nat.lt_of_sub_eq_succ rfl, Nat.le_of_ble_eq_true rfl, by show a ≤ 100; omega⟩
  rw [if_neg (show ¬ (300 : Int32) < Int32.ofNat (g + 1) from fun z => q1 ((i_lt (a := 300) (by omega) (by omega)).mp z))] at le
  obtain ⟨z1, z2⟩ := K1.2.2.2.2.1
  have eq2 : (0 < wrdN (ls a) ∧ 248 < sz 0 + sz 1 + wrdN (ls a)) ∨ (wrdN (ls a) = 0 ∨ sz 0 + sz 1 + wrdN (ls a) ≤ 248) := by omega
  rcases eq2 with q2 | q2
  · rw [if_pos (Or.inr q2)] at sk
    rw [if_neg (show ¬ Int32.ofNat (wrdN (ls a)) ≤ 0 from fun z => by have := (i_le (b := 0) (by omega) (by omega)).mp z; omega), tr_5, Option.bind_some, tl_5, ix_of (k := 0) (n := 2) (i := 0) rfl (by omega) (by omega), Option.bind_some, Option.bind_some, Option.bind_some, tl_5, ix_of (k := 1) (n := 2) (i := 1) rfl (by omega) (by omega), Option.bind_some, Option.bind_some, z1, z2, i_add, i_add, if_neg (show ¬ Int32.ofNat (sz 0 + sz 1 + wrdN (ls a)) ≤ 248 from fun z => by have := (i_le (b := 248) (by omega) (by omega)).mp z; omega), e100] at le
    refine TG1.le ⟨s1, _, rfl, fun f hf => r1 f (by omega), ?_⟩ le
    unfold st1; rw [sk]
    exact ⟨rfl, Nat.lt_of_sub_eq_succ rfl, Nat.le_of_ble_eq_true rfl, by show a ≤ 100; omega⟩
  rw [if_neg (show ¬ (300 < g + 1 ∨ (0 < wrdN (ls a) ∧ 248 < sz 0 + sz 1 + wrdN (ls a))) by omega)] at sk
  have le2 : dx_le (B_X3_goes_68 (ax_c d) 417 (Int32.ofNat a) 0 (Int32.ofNat (wrdN (ls a))) (Int32.ofNat (ls a).1) (tw_H h s1)) (ax_c (d + 1) 391 [.ref 417, .int (Int32.ofNat a), .int 0] (tw_H h s)) := by
    by_cases w0 : wrdN (ls a) = 0
    · rw [if_pos (show Int32.ofNat (wrdN (ls a)) ≤ 0 by rw [w0]; decide)] at le
      exact le
    · rw [if_neg (show ¬ Int32.ofNat (wrdN (ls a)) ≤ 0 from fun z => by have := (i_le (b := 0) (by omega) (by omega)).mp z; omega), tr_5, Option.bind_some, tl_5, ix_of (k := 0) (n := 2) (i := 0) rfl (by omega) (by omega), Option.bind_some, Option.bind_some, Option.bind_some, tl_5, ix_of (k := 1) (n := 2) (i := 1) rfl (by omega) (by omega), Option.bind_some, Option.bind_some, z1, z2, i_add, i_add, if_pos (show Int32.ofNat (sz 0 + sz 1 + wrdN (ls a)) ≤ 248 from (i_le (b := 248) (by omega) (by omega)).mpr (by omega))] at le
      exact le
  clear le
  have le := dx_trans b_X3_goes_68 le2
  clear le2
  have fin : ∀ s2 : Nat → Nat → Int32, (∀ f, f < 4 ∨ 18 ≤ f → s2 f = s1 f) → ∀ f, f < 4 ∨ 18 ≤ f → s2 f = s f := fun s2 e f hf => (e f hf).trans (r1 f (by omega))
  by_cases k0 : (ls a).1 = 0
  · rw [if_pos k0] at sk
    rw [if_neg (fun z => z (c0.mpr k0)), tr_3, Option.bind_some, tnum (j := 0) T1 ha (by omega) (e50 a), Option.bind_some, tp_15, Option.bind_some] at le
    refine TG1.le ⟨_, _, rfl, fin _ (fun f hf => by rw [tw_up_at, if_neg (by omega)]), ?_⟩ le
    unfold st1; rw [sk]; dsimp only
    rw [if_neg (show ¬ (a ≠ t ∧ (ls a).1 = 1) by omega)]
    exact ⟨rfl, K1.secd (v2 k0).nat.2, l1⟩
  rw [if_neg k0] at sk
  rw [if_pos (fun z => k0 (c0.mp z))] at le
  by_cases k6 : (ls a).1 = 6
  · rw [if_pos k6] at sk
    rw [if_neg (fun z => z (c6.mpr k6)), tw_vn, Option.bind_some] at le
    obtain ⟨b1, b2⟩ := t_begins (h := h) (d := d) T1 V ha K1.2.2.1 k14 (by omega) k6 (by omega)
    cases hm : mac (nn (ls a).2.1) with
    | some xy =>
      obtain ⟨x, y⟩ := xy
      rw [if_pos (show mac (nn (ls a).2.1) ≠ none by rw [hm]; exact fun z => by cases z)] at sk
      have := I2 _ _ _ hm
      rw [b1 (show mac (nn (ls a).2.1) ≠ none by rw [hm]; exact fun z => by cases z) ⟨x, y, hm, by omega⟩, cI_v] at le
      refine TG1.le ⟨s1, _, rfl, fin _ (fun _ _ => rfl), ?_⟩ le
      unfold st1; rw [sk]
      exact ⟨rfl, Nat.lt_of_sub_eq_succ rfl, Nat.le_of_ble_eq_true rfl, by show a ≤ 100; omega⟩
    | none =>
      rw [if_neg (show ¬ mac (nn (ls a).2.1) ≠ none from fun z => z hm)] at sk
      obtain ⟨b3, b4⟩ := b2 hm
      cases hx : nxM ls (n - (a + 1)) (a + 1) with
      | none =>
        rw [hx] at sk
        rw [b3 hx, cI_v] at le
        refine TG1.le ⟨s1, _, rfl, fin _ (fun _ _ => rfl), ?_⟩ le
        unfold st1; rw [sk]
        exact ⟨rfl, Nat.lt_of_sub_eq_succ rfl, Nat.le_of_ble_eq_true rfl, by show a ≤ 100; omega⟩
      | some e =>
        rw [hx] at sk
        dsimp only at sk
        obtain ⟨b5, b6⟩ := b4 e hx
        have y2 := (nxM_some _ _ _ hx).2.1
        by_cases e6 : (ls e).1 = 6
        · rw [if_pos e6] at sk
          rw [b5 e6, cI_v] at le
          refine TG1.le ⟨s1, _, rfl, fin _ (fun _ _ => rfl), ?_⟩ le
          unfold st1; rw [sk]
          exact ⟨rfl, Nat.lt_of_sub_eq_succ rfl, Nat.le_of_ble_eq_true rfl, by show e ≤ 100; omega⟩
        · rw [if_neg e6] at sk
          rw [b6 e6, cI_v] at le
          refine TG1.le ⟨_, _, rfl, fin _ (fun f hf => by rw [tw_up_at, if_neg (by omega), tw_up_at, if_neg (by omega), tw_up_at, if_neg (by omega)]), ?_⟩ le
          unfold st1; rw [sk]; dsimp only
          rw [if_neg (show ¬ (a ≠ t ∧ (ls a).1 = 1) by omega)]
          exact ⟨rfl, K1.mcd hm, l1⟩
  rw [if_neg k6] at sk
  rw [if_pos (fun z => k6 (c6.mp z))] at le
  by_cases k7 : (ls a).1 = 7
  · rw [if_pos k7] at sk
    rw [if_neg (fun z => z (c7.mpr k7)), show 400 + Int32.ofNat a = Int32.ofNat (400 + a) from i_add 400 a] at le
    refine TG1.le ⟨s1, _, rfl, fin _ (fun _ _ => rfl), ?_⟩ le
    unfold st1; rw [sk]
    exact ⟨rfl, Nat.lt_of_sub_eq_succ rfl, Nat.le_of_ble_eq_true rfl, by show a ≤ 100; omega⟩
  rw [if_neg k7] at sk
  rw [if_pos (fun z => k7 (c7.mp z))] at le
  by_cases k8 : (ls a).1 = 8
  · rw [if_pos k8] at sk
    obtain ⟨m4, me⟩ := (v5 k8).2.nat
    rw [if_neg (fun z => z (c8.mpr k8)), tw_vn, Option.bind_some] at le
    have X : TG1 h s (st1 ls n (((a, t, u, m) :: R, mac, sec, sz, g, us), lab)) (ax_c d 395 [.ref 417, .int (Int32.ofNat a), .int 0] (tw_H h s1)) := by
      obtain ⟨d, rfl, he2⟩ := d_succ (k := 2) (by omega : 3 ≤ d)
      have ml := m_X3_usesMacro (d := d) (v0 := 417) (v1 := Int32.ofNat a) (v2 := 0) (h := tw_H h s1)
      obtain ⟨M1, M2⟩ := K1.2.2.1 (nn (ls a).2.2.2.2.2) (by omega)
      rw [lt_at, tr_3, Option.bind_some, tnum (j := 4) T1 ha (by omega) (show 5 * Int32.ofNat a + 4 = Int32.ofNat (5 * a + 4) from e5 a 4), Option.bind_some, show lnN (ls a) 4 = (ls a).2.2.2.2.2 from rfl, me, if_neg (show ¬ ¬ (0 : Int32) = 0 from fun z => z rfl), tr_6, Option.bind_some, tl_6, ix_of rfl (show nn (ls a).2.2.2.2.2 < 5 by omega) (by omega), Option.bind_some, Option.bind_some] at ml
      have e500 : 500 + Int32.ofNat a = Int32.ofNat (500 + a) := i_add 500 a
      cases hm : mac (nn (ls a).2.2.2.2.2) with
      | none =>
        rw [hm] at sk
        rw [M1 hm, if_pos rfl, e500] at ml
        refine TG1.le ⟨s1, _, rfl, fin _ (fun _ _ => rfl), ?_⟩ ml
        unfold st1; rw [sk]
        exact ⟨rfl, Nat.lt_of_sub_eq_succ rfl, Nat.le_of_ble_eq_true rfl, by show a ≤ 100; omega⟩
      | some xy =>
        obtain ⟨x, y⟩ := xy
        rw [hm] at sk
        dsimp only at sk
        obtain ⟨x1, x2, x3, x4⟩ := I2 _ _ _ hm
        rw [(M2 x y hm).1, if_neg (fun z => by
          have z2 := congrArg Int32.toInt z
          rw [i_toInt (by omega)] at z2
          have : (-1 : Int32).toInt = -1 := rfl
          omega), tw_vn, Option.bind_some, t_isGone (F := (a + 1, t, u, m) :: R) k14 (by rw [List.length_cons]; omega) (by rw [List.length_cons]; omega) K1.2.1 (FRK.fm0 _ _ (FRK.adv I1 (Nat.le_succ a) (by omega)) (by rw [List.length_cons]; omega)) (FRK.le5 _ _ (FRK.adv I1 (Nat.le_succ a) (by omega))) (by omega) (by omega), cI_v] at ml
        have same : (∃ f, f ∈ (a + 1, t, u, m) :: R ∧ f.2.2.2 = nn (ls a).2.2.2.2.2) ↔ ∃ f, f ∈ (a, t, u, m) :: R ∧ f.2.2.2 = nn (ls a).2.2.2.2.2 := by
          constructor
          · rintro ⟨f, f1, f2⟩
            rcases List.mem_cons.mp f1 with z | z
            · exact ⟨_, List.mem_cons_self, by rw [z] at f2; exact f2⟩
            · exact ⟨f, List.mem_cons_of_mem _ z, f2⟩
          · rintro ⟨f, f1, f2⟩
            rcases List.mem_cons.mp f1 with z | z
            · exact ⟨_, List.mem_cons_self, by rw [z] at f2; exact f2⟩
            · exact ⟨f, List.mem_cons_of_mem _ z, f2⟩
        by_cases ex : ∃ f, f ∈ (a, t, u, m) :: R ∧ f.2.2.2 = nn (ls a).2.2.2.2.2
        · rw [if_pos ex] at sk
          rw [if_pos (same.mpr ex), if_neg (show ¬ (1 : Int32) = 0 by decide), e500] at ml
          refine TG1.le ⟨s1, _, rfl, fin _ (fun _ _ => rfl), ?_⟩ ml
          unfold st1; rw [sk]
          exact ⟨rfl, Nat.lt_of_sub_eq_succ rfl, Nat.le_of_ble_eq_true rfl, by show a ≤ 100; omega⟩
        · rw [if_neg ex] at sk
          rw [if_neg (fun z => ex (same.mp z)), if_pos rfl] at ml
          have I' := (sk_inv V I0 sk (by show 0 < ((a, t, u, m) :: R).length; rw [List.length_cons]; omega)).1
          have l6 := FRK.len I'.1
          rw [List.length_cons, List.length_cons] at l6
          have bl := dx_trans b_X3_usesMacro_44 ml
          rw [if_pos rfl] at bl
          have bl := dx_trans b_X3_usesMacro_70 bl
          rw [if_pos rfl] at bl
          have bl := dx_trans b_X3_usesMacro_84 bl
          rw [if_pos rfl] at bl
          have bl := dx_trans b_X3_usesMacro_114 bl
          rw [if_pos rfl] at bl
          rw [t_push134 (us := us) K1.2.2.1 (by omega) hm k14 (by omega) K1.2.2.2.2.2.2 (by omega), if_pos rfl] at bl
          refine TG1.le ⟨_, _, rfl, fin _ (fun f hf => pshS_row f (by omega) (by omega)), ?_⟩ bl
          unfold st1; rw [sk]; dsimp only
          rw [if_neg (show ¬ (a ≠ t ∧ (ls a).1 = 1) by omega)]
          exact ⟨rfl, K1.psh (F := (a + 1, t, u, m) :: R) (by rw [List.length_cons]; omega), fun i hi => by rw [pshS_row 4 (by omega) (by omega)]; exact l1 i hi⟩
    obtain ⟨s', v, e1, e2, e3⟩ := X
    rw [e1, cI_v] at le
    exact TG1.le ⟨s', v, rfl, e2, e3⟩ le
  rw [if_neg k8] at sk
  have s5 := K1.sz5 I3
  rw [if_pos (fun z => k8 (c8.mp z)), if_pos rfl, tr_5, Option.bind_some, tg_15, Option.bind_some, K1.2.2.2.1, tl_5, ix_of rfl I3 (by omega), Option.bind_some, Option.bind_some, s5, i_add, ts_5, ix_of rfl I3 (by omega), Option.bind_some, Option.bind_some] at le
  have K2 := K1.siz (w := wrdN (ls a)) I3
  by_cases k1 : (ls a).1 = 1
  · rw [if_neg (fun z => z (c1.mpr k1)), tw_vn, Option.bind_some] at le
    have T2 : TLW n ls (tw_up s1 5 sec (Int32.ofNat (sz sec + wrdN (ls a)))) := T1.cong fun f q1 q2 => by rw [tw_up_at, if_neg (by omega)]
    have w0 : wrdN (ls a) = 0 := by unfold wrdN; rw [if_neg (by omega), if_neg (by omega), if_neg (by omega)]
    have hu : R ≠ [] → tw_up s1 5 sec (Int32.ofNat (sz sec + wrdN (ls a))) 10 R.length = Int32.ofNat u ∧ u < 300 := fun hR => ⟨(K2.2.1.2.2.1 hR).1, by rw [if_neg hR] at f3; omega⟩
    obtain ⟨L1, L2⟩ := t_setsLabel (h := h) (d := d) (lab := lab) (u := u) (R := R) (z := sz sec) T2 ha I3 (top_d K2.1) (by omega) hu (v3 k1) l1 K2.2.2.2.1 (by
      show (if sec = sec then _ else _) = _
      rw [if_pos rfl, w0, Nat.add_zero]) (by omega)
    by_cases hx : lab (plcN R u (ls a).2.1) = -1
    · rw [L2 hx, cI_v] at le
      refine TG1.le ⟨_, _, rfl, fin _ (fun f hf => by rw [tw_up_at, if_neg (by omega), tw_up_at, if_neg (by omega)]), ?_⟩ le
      unfold st1; rw [sk]; dsimp only
      rw [if_pos ⟨hat, k1⟩, if_neg (fun z => z hx)]
      refine ⟨rfl, ⟨K2.1, K2.2.1.cong _ fun _ _ => ⟨rfl, rfl, rfl, rfl⟩, K2.2.2⟩, fun i hi => ?_⟩
      show (if i = _ then _ else s1 4 i) = (if i = _ then _ else lab i)
      rw [l1 i hi]
    · rw [L1 hx, cI_v] at le
      refine TG1.le ⟨_, _, rfl, fin _ (fun f hf => by rw [tw_up_at, if_neg (by omega)]), ?_⟩ le
      unfold st1; rw [sk]; dsimp only
      rw [if_pos ⟨hat, k1⟩, if_pos hx]
      exact ⟨rfl, Nat.lt_of_sub_eq_succ rfl, Nat.le_of_ble_eq_true rfl, by show a ≤ 100; omega⟩
  · rw [if_pos (fun z => k1 (c1.mp z))] at le
    refine TG1.le ⟨_, _, rfl, fin _ (fun f hf => by rw [tw_up_at, if_neg (by omega)]), ?_⟩ le
    unfold st1; rw [sk]; dsimp only
    rw [if_neg (show ¬ (a ≠ t ∧ (ls a).1 = 1) by omega)]
    exact ⟨rfl, K2, l1⟩
end TSS
