/-! the twin's machine: made anew from the start -/
/- with FSI.fw FSI.cong RA AR.ra IV.step IV.b20 KR.of in_step GD.up GD.wc FSI.ds CK saC begC formC wakeS sleepS itC t_keysCome t_wakes t_copies told_any any_k -/
/-- keys, image and disk at the start are within bounds -/
def IG (img : Nat → Int32) : Prop := ∀ a, a < 256 → rg 65535 (img a)
def DG (D : Nat → Int32) : Prop := (∀ a, a < 256 → rg 65535 (D a)) ∧ D 0 = 0 ∧ FSI D
def stC (ds0 img : Nat → Int32) (K : kk_K) (v : Int32) : Nat → Int32 := upd (saC ds0 img K) 364 v
/-- marks of all steps made -/
def MA (K : kk_K) (c0 : Nat → Int32) (N : Nat) (s : Nat → Nat → Int32) : Prop := ∀ k, k < N → MKm k (MS (stepW K (itC K c0 k))) s
section TMS
variable {n : Nat} {w v : Int32} {s : Nat → Nat → Int32} {c c0 ds0 img : Nat → Int32} {K : kk_K}
theorem saC_at (p : Nat) : saC ds0 img K p = if p = 9 then (if Int32.ofNat (toldN K.2.1 0 0 K.1) ≤ 0 then 0 else 1) else if p = 4 then 256 else if p = 3 then 8 else if p = 0 then 1 else if 108 ≤ p ∧ p < 364 then img (p - 108) else if 365 ≤ p ∧ p < 621 then ds0 (p - 365) else 0 := by
  unfold saC begC
  rw [upd_at, upd_at, upd_at, upd_at]
  by_cases e9 : p = 9
  · rw [if_pos e9, if_pos e9]
  rw [if_neg e9, if_neg e9]
  by_cases e4 : p = 4
  · rw [if_pos e4, if_pos e4]
  rw [if_neg e4, if_neg e4]
  by_cases e3 : p = 3
  · rw [if_pos e3, if_pos e3]
  rw [if_neg e3, if_neg e3]
  by_cases e0 : p = 0
  · rw [if_pos e0, if_pos e0]
  rw [if_neg e0, if_neg e0]
  show (if 108 ≤ p ∧ p < 108 + 256 then img (0 + (p - 108)) else if 365 ≤ p ∧ p < 365 + 256 then ds0 (0 + (p - 365)) else upd (zerC (fun _ => 0) 364 257) 397 255 p) = _
  by_cases e1 : 108 ≤ p ∧ p < 364
  · rw [if_pos e1, if_pos e1, Nat.zero_add]
  rw [if_neg e1, if_neg e1]
  by_cases e2 : 365 ≤ p ∧ p < 621
  · rw [if_pos e2, if_pos e2, Nat.zero_add]
  rw [if_neg e2, if_neg e2, upd_ne _ _ (by omega)]
  unfold zerC
  split <;> rfl
theorem stC_at {p : Nat} (h : p ≠ 364) : stC ds0 img K v p = saC ds0 img K p := upd_ne _ _ h
theorem IV.start (h20 : K.1 ≤ 20) (hI : IG img) (hD : DG ds0) : IV 0 K (stC ds0 img K v) := by
  have c2 : stC ds0 img K v 2 = Int32.ofNat 0 := by rw [stC_at (by omega), saC_at]; rfl
  have dd : ∀ a, a < 256 → ds (stC ds0 img K v) a = ds0 a := fun a ha => by
    show stC ds0 img K v (365 + a) = _
    rw [stC_at (by omega), saC_at, if_neg (by omega), if_neg (by omega), if_neg (by omega), if_neg (by omega), if_neg (by omega), if_pos (by omega), Nat.add_sub_cancel_left]
  refine ⟨fun p => ?_, Or.inl ⟨?_, (dd 0 (by omega)).trans hD.2.1, hD.2.2.cong fun a _ a2 => dd a (by omega)⟩, c2, by rw [stC_at (by omega), saC_at]; exact (show (1 : Int32) ≠ 0 by decide), fun p hp => by rw [stC_at (by omega), saC_at, if_neg (by omega), if_neg (by omega), if_neg (by omega), if_neg (by omega), if_neg (by omega), if_neg (by omega)], (hD.2.2.cong fun a _ a2 => dd a (by omega)).fw⟩
  · by_cases e : p = 364
    · rw [e]; exact gd_no rfl
    rw [stC_at e, saC_at]
    by_cases e9 : p = 9
    · rw [if_pos e9, e9]; exact gd_k (k := 1) rfl (rg_ite (rg0 (by omega)) (rg_1 (by omega) (by omega)))
    rw [if_neg e9]
    by_cases e4 : p = 4
    · rw [if_pos e4, e4]; exact gd_k (k := 256) rfl (rg.of (n := 256) (by omega) (by omega))
    rw [if_neg e4]
    by_cases e3 : p = 3
    · rw [if_pos e3, e3]; exact gd_k (k := 65535) rfl (rg.of (n := 8) (by omega) (by omega))
    rw [if_neg e3]
    by_cases e0 : p = 0
    · rw [if_pos e0, e0]; exact gd_k (k := 3) rfl (rg_1 (by omega) (by omega))
    rw [if_neg e0]
    by_cases e1 : 108 ≤ p ∧ p < 364
    · rw [if_pos e1]
      obtain ⟨a, rfl⟩ : ∃ a, p = 108 + a := ⟨p - 108, by omega⟩
      rw [Nat.add_sub_cancel_left]
      exact gd_mem (by omega) (hI a (by omega))
    rw [if_neg e1]
    by_cases e2 : 365 ≤ p ∧ p < 621
    · rw [if_pos e2]
      obtain ⟨a, rfl⟩ : ∃ a, p = 365 + a := ⟨p - 365, by omega⟩
      rw [Nat.add_sub_cancel_left]
      exact gd_dsk (by omega) (hD.1 a (by omega))
    rw [if_neg e2]
    intro k hk
    have l := toldN_le K.2.1 0 (stC ds0 img K v 2) K.1
    exact rg0 (bn_lt (by show toldN K.2.1 0 (stC ds0 img K v 2) K.1 < 2 ^ 31; omega) (by show 0 < 2 ^ 31; omega) hk)
  · rw [stC_at (by omega), saC_at]; rfl
theorem IV.it (V : IV 0 K c0) (KK : KT K) : ∀ j, j ≤ 1000 → IV j K (itC K c0 j) := by
  intro j
  induction j with
  | zero => intro _; exact V
  | succ j ih => intro hj; exact (ih (by omega)).step KK (by omega)
/-- so many steps of the twin -/
theorem t_its (V : IV 0 K c0) (KK : KT K) (R : RA w c0 s) (KS : KR K s) {N : Nat} (hN : N ≤ 1000) {d : Nat} (hd : 9 ≤ d) (h : ax_H) : ∃ s', B_X3_makesAnew_33 (ax_c d) 417 (Int32.ofNat N) 0 (tw_H h s) = some (.inl none, tw_H h s') ∧ RA w (itC K c0 N) s' ∧ (∀ f, f < 23 ∨ (40 ≤ f ∧ f < 44) ∨ 53 ≤ f → s' f = s f) ∧ MA K c0 N s' := by
  have loop : ∀ m j, j + m = N → ∀ t, RA w (itC K c0 j) t → (∀ f, f < 23 ∨ (40 ≤ f ∧ f < 44) ∨ 53 ≤ f → t f = s f) → MA K c0 j t → ∃ s', B_X3_makesAnew_33 (ax_c d) 417 (Int32.ofNat N) (Int32.ofNat j) (tw_H h t) = some (.inl none, tw_H h s') ∧ RA w (itC K c0 N) s' ∧ (∀ f, f < 23 ∨ (40 ≤ f ∧ f < 44) ∨ 53 ≤ f → s' f = s f) ∧ MA K c0 N s' := by
    intro m
    induction m with
    | zero =>
      intro j hj t R1 F1 M1
      obtain rfl : j = N := by omega
      refine ⟨t, dx_app b_X3_makesAnew_33 ?_, R1, F1, M1⟩
      rw [if_pos (Int32.le_refl _)]
    | succ m ih =>
      intro j hj t R1 F1 M1
      obtain ⟨t', t1, A⟩ := in_step R1 (V.it KK j (by omega)) KK (KS.of fun f f1 f2 => F1 f (by omega)) (by omega) hd h
      obtain ⟨s', i1, i2⟩ := ih (j + 1) (by omega) t' A.ra (fun f hf => (A.2.2.2.2.2.1 f hf).trans (F1 f hf)) (fun k hk => by
        rcases Nat.lt_or_ge k j with z | z
        · have := A.2.2.2.2.2.2 k (by omega)
          exact (M1 k z).cong2 this.1 this.2
        · obtain rfl : k = j := by omega
          exact A.2.2.2.2.1)
      refine ⟨s', dx_app b_X3_makesAnew_33 ?_, i2⟩
      rw [if_neg (i_ge_not (by omega) (by omega)), tw_vn, Option.bind_some, t1, cV_v, lt_at, show Int32.ofNat j + 1 = Int32.ofNat (j + 1) from i_add j 1]
      exact i1
  exact loop N 0 (by omega) s R (fun _ _ => rfl) (fun k hk => absurd hk (Nat.not_lt_zero _))
/-- the rows at the start -/
theorem t_wake0 (KS : KR K s) (h53 : ∀ a, a < 256 → s 53 a = img a) (h54 : ∀ a, a < 256 → s 50 a = ds0 a) (hv : s 52 0 = v + w) {x : Int32} (hx1 : (∃ k, k < K.1 ∧ s 41 k = 0) → x = 1) (hx0 : ¬ (∃ k, k < K.1 ∧ s 41 k = 0) → x = 0) : RA w (stC ds0 img K v) (tw_up (wakeS s (s 53)) 33 0 x) := by
  have ek : ∀ k, k < K.1 → s 41 k = K.2.1 k := fun k hk => (KS.2.2 k hk).1
  have c9 : stC ds0 img K v 9 = x := by
    rw [stC_at (by omega), saC_at, if_pos rfl]
    have h20 := Nat.le_trans (toldN_le K.2.1 0 0 K.1) KS.2.1
    by_cases q : ∃ k, k < K.1 ∧ s 41 k = 0
    · rw [hx1 q, if_neg]
      intro z
      have z0 : toldN K.2.1 0 0 K.1 = 0 := by have := (i_le (b := 0) (by omega) (by omega)).mp z; omega
      obtain ⟨k, k1, k2⟩ := q
      exact (told_any K.1).mp z0 k k1 ((ek k k1).symm.trans k2)
    · rw [hx0 q, if_pos]
      rw [(told_any (t := 0) K.1).mpr fun k hk z => q ⟨k, hk, (ek k hk).trans z⟩]
      decide
  refine ⟨fun p hp => ?_, ⟨by rw [stC_at (by omega), saC_at]; exact Nat.zero_le _, fun i hi => ?_⟩, ⟨?_, fun z => absurd (by rw [stC_at (by omega), saC_at]; rfl) z⟩, ?_⟩
  · unfold pk at hp
    by_cases h18 : p < 18
    · by_cases e9 : p = 9
      · subst e9
        rw [c9]; rfl
      rw [stC_at (by omega), saC_at]
      have : p = 0 ∨ p = 1 ∨ p = 2 ∨ p = 3 ∨ p = 4 ∨ p = 5 ∨ p = 6 ∨ p = 7 ∨ p = 8 ∨ p = 10 ∨ p = 11 ∨ p = 12 ∨ p = 13 ∨ p = 14 ∨ p = 15 ∨ p = 16 ∨ p = 17 := by omega
      rcases this with rfl | rfl | rfl | rfl | rfl | rfl | rfl | rfl | rfl | rfl | rfl | rfl | rfl | rfl | rfl | rfl | rfl <;> rfl
    by_cases h364 : p < 364
    · obtain ⟨a, rfl⟩ : ∃ a, p = 108 + a := ⟨p - 108, by omega⟩
      rw [(fF_mem (by omega)).1, (fF_mem (by omega)).2, stC_at (by omega), saC_at, if_neg (by omega), if_neg (by omega), if_neg (by omega), if_neg (by omega), if_pos (by omega), Nat.add_sub_cancel_left]
      show (if a < 256 then s 53 a else _) = _
      rw [if_pos (by omega)]; exact h53 a (by omega)
    · obtain ⟨a, rfl⟩ : ∃ a, p = 365 + a := ⟨p - 365, by omega⟩
      rw [(fF_dsk (by omega)).1, (fF_dsk (by omega)).2, stC_at (by omega), saC_at, if_neg (by omega), if_neg (by omega), if_neg (by omega), if_neg (by omega), if_neg (by omega), if_pos (by omega), Nat.add_sub_cancel_left]
      exact h54 a (by omega)
  · rw [stC_at (by omega), saC_at] at hi
    exact absurd hi (Nat.not_lt_zero _)
  · show (0 : Int32) = _
    exact (if_pos (by rw [stC_at (by omega), saC_at]; rfl)).symm
  · show s 52 0 = upd (saC ds0 img K) 364 v 364 + w
    rw [upd_eq]; exact hv
theorem t_makesAnew (KK : KT K) (hI : IG img) (hD : DG ds0) (KS : KR K s) (h53 : ∀ a, a < 256 → s 53 a = img a) (h54 : ∀ a, a < 256 → s 54 a = ds0 a) (hv : s 55 0 = v + w) {N : Nat} (hN : N ≤ 1000) {d : Nat} (hd : 10 ≤ d) (h : ax_H) : ∃ s', ax_c d 452 [.ref 417, .int (Int32.ofNat N)] (tw_H h s) = some (.inl none, tw_H h s') ∧ RA w (itC K (stC ds0 img K v) N) s' ∧ (∀ f, f < 23 ∨ (40 ≤ f ∧ f < 44) ∨ 53 ≤ f → s' f = s f) ∧ MA K (stC ds0 img K v) N s' := by
  obtain ⟨d, rfl, he⟩ := d_succ hd
  generalize hu : tw_up (tw_fl s 50 256 (s 54)) 52 0 (s 55 0) = u
  have uf : ∀ f, f ≠ 50 → f ≠ 52 → u f = s f := fun f h1 h2 => by rw [← hu, tw_up_at, if_neg h2, fl_ne h1]
  have u53 : u 53 = s 53 := uf 53 (by decide) (by decide)
  have w53 : wakeS u (u 53) 53 = u 53 := rfl
  have wf : ∀ f, f < 23 ∨ (40 ≤ f ∧ f < 44) ∨ 53 ≤ f → wakeS u (u 53) f = u f := fun f hf => by
    unfold wakeS sleepS
    rw [tw_up_at, if_neg (by omega), tw_up_at, if_neg (by omega), tw_up_at, if_neg (by omega), fl_ne (by omega), tw_up_at, if_neg (by omega), tw_up_at, if_neg (by omega), tw_up_at, if_neg (by omega), tw_up_at, if_neg (by omega), tw_up_at, if_neg (by omega), tw_up_at, if_neg (by omega), tw_up_at, if_neg (by omega), tw_up_at, if_neg (by omega), tw_up_at, if_neg (by omega), tw_up_at, if_neg (by omega), tw_up_at, if_neg (by omega), tw_up_at, if_neg (by omega), tw_up_at, if_neg (by omega), fl_ne (by omega), fl_ne (by omega), tw_up_at, if_neg (by omega), tw_up_at, if_neg (by omega)]
  have KU : KR K u := KS.of fun f f1 f2 => uf f (by omega) (by omega)
  have KW : KR K (wakeS u (u 53)) := KU.of fun f f1 f2 => wf f (by omega)
  obtain ⟨x, kc, k1, k2⟩ := t_keysCome (d := d) (by omega) h (wakeS u (u 53)) KW.1 KW.2.1 (Or.inl rfl)
  have any : (wakeS u (u 53) 33 0 = 1 ∨ anyT (wakeS u (u 53)) K.1) ↔ ∃ k, k < K.1 ∧ u 41 k = 0 := by
    rw [any_k]
    constructor
    · rintro (z | z)
      · exact absurd (show (0 : Int32) = 1 from z) (by decide)
      · obtain ⟨k, z1, z2⟩ := z
        exact ⟨k, z1, by rw [← wf 41 (by omega)]; exact z2⟩
    · rintro ⟨k, z1, z2⟩
      exact Or.inr ⟨k, z1, by rw [wf 41 (by omega)]; exact z2⟩
  rw [any] at k1 k2
  have R0 := t_wake0 (w := w) (v := v) (img := img) (ds0 := ds0) KU (by rw [u53]; exact h53) (fun a ha => by
    rw [← hu, tw_up_at, if_neg (by decide), fl_at, if_pos rfl]
    show (if a < 256 then s 54 a else s 50 a) = _
    rw [if_pos ha]; exact h54 a ha) (by rw [← hu]; exact hv) k1 k2
  have f0 : ∀ f, f < 23 ∨ (40 ≤ f ∧ f < 44) ∨ 53 ≤ f → tw_up (wakeS u (u 53)) 33 0 x f = s f := fun f hf => by
    rw [tw_up_at, if_neg (by omega), wf f hf, uf f (by omega) (by omega)]
  obtain ⟨s', t1, t2, t3, t4⟩ := t_its (IV.start (v := v) KS.2.1 hI hD) KK R0 (KS.of fun f f1 f2 => f0 f (by omega)) hN (d := d) (by omega) h
  refine ⟨s', dx_app m_X3_makesAnew ?_, t2, fun f hf => (t3 f hf).trans (f0 f hf), t4⟩
  rw [tr_54, Option.bind_some, tr_50, Option.bind_some, t_copies (by omega) h s _ _ 54 50 (by decide) (tl_54 h) (ts_50 h), cV_v, tg_55, Option.bind_some, tp_52, Option.bind_some, show tw_fl s 50 256 (s 54) 55 0 = s 55 0 from rfl, hu, tr_53, Option.bind_some, tw_vn, Option.bind_some, t_wakes (by omega) h u _ 53 (by decide) rfl (tl_53 h), cV_v, tw_vn, Option.bind_some, kc, cV_v]
  exact t1
end TMS
