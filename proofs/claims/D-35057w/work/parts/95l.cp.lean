/-! class and twin alike: a call's plan -/
/- with AR.g AR.gen RB.cong prepS prepF wlC wl_val evW plkW callW cntB onB cntS enS -/
theorem onB_or {x y : Int32} {k : Nat} (hk : k < 32) : onB (x ||| y) k ↔ onB x k ∨ onB y k := by
  have h : ∀ x, onB x k ↔ bt x k = true := fun x => (bt_sh (x := x) (k := k) hk).2
  rw [h, h, h, bt_or]
  cases bt x k <;> cases bt y k <;> decide
theorem onB_shl {j k : Nat} (hj : j < 32) (hk : k < 32) : onB (dx_shl 1 (Int32.ofNat j)) k ↔ k = j := by
  rw [show onB (dx_shl 1 (Int32.ofNat j)) k ↔ bt (dx_shl 1 (Int32.ofNat j)) k = true from (bt_sh hk).2, bt_shl1 j hj k hk]
  exact decide_eq_true_iff
theorem onB_16 {k : Nat} (hk : k < 32) : onB 16 k ↔ k = 4 := by
  have := onB_shl (j := 4) (k := k) (by omega) hk
  rw [show dx_shl 1 (Int32.ofNat 4) = 16 by decide] at this
  exact this
theorem onB_0 {k : Nat} (hk : k < 32) : ¬ onB 0 k := by
  rw [show onB 0 k ↔ bt 0 k = true from (bt_sh hk).2, bt_zero k hk]
  decide
theorem i_blk : ∀ n, n < 6 → (5 : Int32) + Int32.ofNat n / 2 = Int32.ofNat (5 + n / 2) := by decide
theorem onB_ent {n k : Nat} (hn : n < 6) (hk : k < 32) : onB (dx_shl 1 (5 + Int32.ofNat n / 2)) k ↔ k = 5 + n / 2 := by
  rw [i_blk n hn]
  exact onB_shl (by omega) hk
theorem cnt_eq {x : Int32} {S : Nat → Prop} (h : ∀ k, k < 32 → (onB x k ↔ S k)) : ∀ k, k ≤ 32 → cntB x k = cntS S k := by
  intro k
  induction k with
  | zero => intro _; rfl
  | succ k ih =>
    intro hk
    show (if onB x k then cntB x k + 1 else cntB x k) = _
    by_cases q : onB x k
    · rw [if_pos q, cntS_y ((h k (by omega)).mp q), ih (by omega)]
    · rw [if_neg q, cntS_n (fun z => q ((h k (by omega)).mpr z)), ih (by omega)]
theorem cnt_ex {S : Nat → Prop} : ∀ N j, j < cntS S N → ∃ q, q < N ∧ S q ∧ cntS S q = j := by
  intro N
  induction N with
  | zero => intro j hj; exact absurd hj (Nat.not_lt_zero _)
  | succ N ih =>
    intro j hj
    by_cases q : S N
    · rw [cntS_y q] at hj
      rcases Nat.lt_or_ge j (cntS S N) with z | z
      · obtain ⟨p, p1, p2⟩ := ih j z
        exact ⟨p, by omega, p2⟩
      · exact ⟨N, by omega, q, by omega⟩
    · rw [cntS_n q] at hj
      obtain ⟨p, p1, p2⟩ := ih j hj
      exact ⟨p, by omega, p2⟩
section PRP
variable {n : Nat} {w : Int32} {s0 s t : Nat → Nat → Int32} {M : Nat → Prop} {c : Nat → Int32}
theorem prep_ne {x : Int32} {f : Nat} (h : f ≠ 47 ∧ f ≠ 48 ∧ f ≠ 49) : ∀ k, prepS t x k f = t f := by
  intro k
  induction k with
  | zero => show tw_up t 47 0 0 f = _; rw [tw_up_at, if_neg h.1]
  | succ k ih =>
    show (if onB x k then prepK (prepS t x k) k (cntB x k) else prepS t x k) f = _
    split
    · unfold prepK
      rw [tw_up_at, if_neg h.1, fo_ne h.2.2, tw_up_at, if_neg h.2.1]; exact ih
    · exact ih
theorem prep_at {x : Int32} : ∀ k q, q < k → onB x q → prepS t x k 48 (cntB x q) = Int32.ofNat q ∧ ∀ j, j < 8 → prepS t x k 49 (8 * cntB x q + j) = t 51 (8 * q + j) := by
  intro k
  induction k with
  | zero => intro q hq; exact absurd hq (Nat.not_lt_zero _)
  | succ k ih =>
    intro q hq hx
    have e : prepS t x (k + 1) = if onB x k then prepK (prepS t x k) k (cntB x k) else prepS t x k := rfl
    rw [e]
    by_cases qk : q = k
    · subst qk
      rw [if_pos hx]
      unfold prepK
      refine ⟨?_, fun j hj => ?_⟩
      · rw [tw_up_at, if_neg (by decide), fo_ne (by decide), tw_up_at, if_pos rfl, upd_eq]
      · rw [tw_up_at, if_neg (by decide), fo_at, if_pos rfl, if_pos (by omega)]
        show prepS t x q 51 (8 * q + (8 * cntB x q + j - 8 * cntB x q)) = _
        rw [prep_ne (by decide), Nat.add_sub_cancel_left]
    · obtain ⟨i1, i2⟩ := ih q (by omega) hx
      by_cases hk : onB x k
      · have lt : cntB x q < cntB x k := by
          have a := cntB_mono x (q + 1) (k - (q + 1))
          rw [show q + 1 + (k - (q + 1)) = k by omega, show cntB x (q + 1) = cntB x q + 1 from if_pos hx] at a
          omega
        rw [if_pos hk]
        unfold prepK
        refine ⟨?_, fun j hj => ?_⟩
        · rw [tw_up_at, if_neg (by decide), fo_ne (by decide), tw_up_at, if_pos rfl, upd_ne _ _ (by omega)]; exact i1
        · rw [tw_up_at, if_neg (by decide), fo_at, if_pos rfl, if_neg (by omega), tw_up_at, if_neg (by decide)]; exact i2 j hj
      · rw [if_neg hk]; exact ⟨i1, i2⟩
theorem evW_at (W : Nat → Int32) (o b : Nat) : ∀ (m j : Nat) (c : ce_C) (q : Nat), apW c (evW W o b m j) q = if o + j ≤ q ∧ q < o + j + m then W (8 * b + (q - o)) else c q := by
  intro m
  induction m with
  | zero => intro j c q; rw [if_neg (by omega)]; rfl
  | succ m ih =>
    intro j c q
    show apW (upd c (o + j) (W (8 * b + j))) (evW W o b m (j + 1)) q = _
    rw [ih, upd_at]
    by_cases e : q = o + j
    · rw [if_neg (by omega), if_pos e, if_pos (by omega), e, Nat.add_sub_cancel_left]
    · by_cases e2 : o + (j + 1) ≤ q ∧ q < o + (j + 1) + m
      · rw [if_pos e2, if_pos (by omega)]
      · rw [if_neg e2, if_neg e, if_neg (by omega)]
theorem plk_at {m : Nat} (nb : Nat → Nat) (W : Nat → Int32) (hm : m ≤ 3) : ∀ (i k : Nat), k + i = 3 → ∀ (c : ce_C) (p : Nat), apW c (plkW m nb W i k) p = if 20 + k ≤ p ∧ p < 23 then (if p - 20 < m then Int32.ofNat (nb (p - 20)) else 0) else if 24 + 8 * k ≤ p ∧ p < 24 + 8 * m then W (8 * nb ((p - 24) / 8) + (p - 24) % 8) else c p := by
  intro i
  induction i with
  | zero => intro k hk c p; rw [if_neg (by omega), if_neg (by omega)]; rfl
  | succ i ih =>
    intro k hk c p
    show apW c (((20 + k, if k < m then Int32.ofNat (nb k) else 0) :: (if k < m then evW W (24 + 8 * k) (nb k) 8 0 else [])) ++ plkW m nb W i (k + 1)) p = _
    rw [apW_app, ih (k + 1) (by omega)]
    have st : ∀ p, apW c ((20 + k, if k < m then Int32.ofNat (nb k) else 0) :: (if k < m then evW W (24 + 8 * k) (nb k) 8 0 else [])) p = if p = 20 + k then (if k < m then Int32.ofNat (nb k) else 0) else if 24 + 8 * k ≤ p ∧ p < 24 + 8 * k + 8 ∧ k < m then W (8 * nb k + (p - (24 + 8 * k))) else c p := by
      intro p
      show apW (upd c (20 + k) (if k < m then Int32.ofNat (nb k) else 0)) (if k < m then evW W (24 + 8 * k) (nb k) 8 0 else []) p = _
      by_cases q : k < m
      · rw [if_pos q, if_pos q, evW_at]
        by_cases e : p = 20 + k
        · rw [if_pos e, if_neg (show ¬ (24 + 8 * k + 0 ≤ p ∧ p < 24 + 8 * k + 0 + 8) by omega), e, upd_eq]
        · rw [if_neg e, upd_ne _ _ e]
          by_cases e4 : 24 + 8 * k ≤ p ∧ p < 24 + 8 * k + 8
          · rw [if_pos (show 24 + 8 * k + 0 ≤ p ∧ p < 24 + 8 * k + 0 + 8 by omega), if_pos ⟨e4.1, e4.2, q⟩]
          · rw [if_neg (show ¬ (24 + 8 * k + 0 ≤ p ∧ p < 24 + 8 * k + 0 + 8) by omega), if_neg (fun z => e4 ⟨z.1, z.2.1⟩)]
      · rw [if_neg q, if_neg q]
        show upd c (20 + k) 0 p = _
        by_cases e : p = 20 + k
        · rw [if_pos e, e, upd_eq]
        · rw [if_neg e, upd_ne _ _ e, if_neg (fun z => q z.2.2)]
    rw [st]
    by_cases e : p = 20 + k
    · rw [if_neg (show ¬ (20 + (k + 1) ≤ p ∧ p < 23) by omega), if_neg (show ¬ (24 + 8 * (k + 1) ≤ p ∧ p < 24 + 8 * m) by omega), if_pos e, if_pos (show 20 + k ≤ p ∧ p < 23 by omega), show p - 20 = k by omega]
    · rw [if_neg e]
      by_cases e2 : 20 + (k + 1) ≤ p ∧ p < 23
      · rw [if_pos e2, if_pos (show 20 + k ≤ p ∧ p < 23 by omega)]
      · rw [if_neg e2, if_neg (show ¬ (20 + k ≤ p ∧ p < 23) by omega)]
        by_cases e3 : 24 + 8 * (k + 1) ≤ p ∧ p < 24 + 8 * m
        · rw [if_pos e3, if_pos (show 24 + 8 * k ≤ p ∧ p < 24 + 8 * m by omega)]
        · rw [if_neg e3]
          by_cases e4 : 24 + 8 * k ≤ p ∧ p < 24 + 8 * k + 8 ∧ k < m
          · rw [if_pos e4, if_pos (show 24 + 8 * k ≤ p ∧ p < 24 + 8 * m by omega), show (p - 24) / 8 = k by omega, show (p - 24) % 8 = p - (24 + 8 * k) by omega]
          · rw [if_neg e4, if_neg (show ¬ (24 + 8 * k ≤ p ∧ p < 24 + 8 * m) by omega)]
theorem call_at {m : Nat} (nb : Nat → Nat) (W : Nat → Int32) (hm : m ≤ 3) (c : ce_C) (p : Nat) : apW c (callW m nb W) p = if p = 18 then Int32.ofNat m else if p = 19 then 0 else if 20 ≤ p ∧ p < 23 then (if p - 20 < m then Int32.ofNat (nb (p - 20)) else 0) else if 24 ≤ p ∧ p < 24 + 8 * m then W (8 * nb ((p - 24) / 8) + (p - 24) % 8) else c p := by
  unfold callW
  rw [apW_app, plk_at nb W hm 3 0 rfl]
  show (if 20 + 0 ≤ p ∧ p < 23 then _ else if 24 + 8 * 0 ≤ p ∧ p < 24 + 8 * m then _ else upd (upd c 18 (Int32.ofNat m)) 19 0 p) = _
  by_cases e1 : p = 18
  · rw [if_neg (by omega), if_neg (by omega), if_pos e1, upd_ne _ _ (by omega), e1, upd_eq]
  by_cases e2 : p = 19
  · rw [if_neg (by omega), if_neg (by omega), if_neg e1, if_pos e2, e2, upd_eq]
  rw [if_neg e1, if_neg e2, upd_ne _ _ e2, upd_ne _ _ e1]
theorem in_prep (A : AR n w s0 M c s) {x : Int32} {S : Nat → Prop} {W : Nat → Int32} (hx : ∀ k, k < 32 → (onB x k ↔ S k)) (ht : ∀ f, f ≠ 51 → t f = s f) (hW : ∀ a, a < 256 → t 51 a = W a) {m : Nat} (hm : cntS S 32 = m) (m1 : 1 ≤ m) (m3 : m ≤ 3) : AR n w s0 M (apW c (callW m (enS S) W)) (prepF t x) := by
  have ca := call_at (enS S) W m3 c
  have cB : cntB x 32 = m := (cnt_eq hx 32 (by omega)).trans hm
  have f47 : prepF t x 47 0 = Int32.ofNat m := by
    unfold prepF
    rw [tw_up_at, if_neg (by decide), prep_c, cB]
  have f46 : prepF t x 46 0 = 2 * Int32.ofNat m + 2 := by
    unfold prepF
    rw [cB]; rfl
  have fo : ∀ f, f ≠ 46 → f ≠ 47 → f ≠ 48 → f ≠ 49 → f ≠ 51 → prepF t x f = s f := fun f h1 h2 h3 h4 h5 => by
    unfold prepF
    rw [tw_up_at, if_neg h1, prep_ne ⟨h2, h3, h4⟩, ht f h5]
  have clo : ∀ p, p < 18 ∨ 48 ≤ p → apW c (callW m (enS S) W) p = c p := fun p hp => by
    rw [ca, if_neg (by omega), if_neg (by omega), if_neg (by omega), if_neg (by omega)]
  have ex : ∀ j, j < m → ∃ q, q < 32 ∧ onB x q ∧ cntB x q = j ∧ enS S j = q := fun j hj => by
    obtain ⟨q, q1, q2, q3⟩ := cnt_ex (S := S) 32 j (by omega)
    exact ⟨q, q1, (hx q q1).mpr q2, (cnt_eq hx q (by omega)).trans q3, enS_eq q2 q3⟩
  have nm : nn (Int32.ofNat m) = m := nn_of (by omega)
  have c18 : apW c (callW m (enS S) W) 18 = Int32.ofNat m := by rw [ca, if_pos rfl]
  have c19 : apW c (callW m (enS S) W) 19 = 0 := by rw [ca, if_neg (by omega), if_pos rfl]
  refine A.gen (fun p hp => ?_) (clo 17 (by omega)) (fun i hi => clo _ (by omega)) (fo 36 (by decide) (by decide) (by decide) (by decide) (by decide)) ⟨?_, fun _ => ?_⟩ ?_ (fo 44 (by decide) (by decide) (by decide) (by decide) (by decide)) (fo 45 (by decide) (by decide) (by decide) (by decide) (by decide)) (fun f hf => ?_)
  · have := fF_fld hp
    rw [fo _ (by omega) (by omega) (by omega) (by omega) (by omega), clo p (by unfold pk at hp; omega)]
    exact A.1 p hp
  · rw [f46, wl_val (k := 0) c18 c19 m1 m3 (by omega), show (2 : Int32) * Int32.ofNat m = Int32.ofNat (2 * m) from i_mul 2 m]
    exact i_add (2 * m) 2
  · rw [c18, nm]
    refine ⟨m3, f47, fun j hj => ?_, fun q hq => ?_⟩
    · obtain ⟨q, q1, q2, q3, q4⟩ := ex j hj
      have := (prep_at (t := t) 32 q q1 q2).1
      rw [q3] at this
      rw [ca, if_neg (by omega), if_neg (by omega), if_pos (by omega), Nat.add_sub_cancel_left, if_pos hj, q4]
      unfold prepF
      rw [tw_up_at, if_neg (by decide)]
      exact this
    · obtain ⟨b, q1, q2, q3, q4⟩ := ex (q / 8) (by omega)
      have := (prep_at (t := t) 32 b q1 q2).2 (q % 8) (by omega)
      rw [q3, show 8 * (q / 8) + q % 8 = q by omega, hW _ (by omega)] at this
      rw [ca, if_neg (by omega), if_neg (by omega), if_neg (by omega), if_pos (by omega), Nat.add_sub_cancel_left, q4]
      unfold prepF
      rw [tw_up_at, if_neg (by decide)]
      exact this
  · rw [fo 52 (by decide) (by decide) (by decide) (by decide) (by decide), clo 364 (by omega)]
    exact A.2.2.2.1
  · exact fo f (by omega) (by omega) (by omega) (by omega) (by omega)
end PRP
