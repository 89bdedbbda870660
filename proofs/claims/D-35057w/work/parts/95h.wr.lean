/-! class and twin alike: a file call's write -/
/- with AR.up AR.eqc AR.eqs AR.eqM AR.g RB.sml RB.up RB.skc RB.sks RB.cong wrtS wrtA endS headS writeO cpW fo_ne fl_ne -/
/-- a file call that goes on, within bounds -/
def CI (c : ce_C) : Prop := c 18 = 0 ∨ ∃ m k, c 18 = Int32.ofNat m ∧ c 19 = Int32.ofNat k ∧ 1 ≤ m ∧ m ≤ 3 ∧ k ≤ 2 * m + 1 ∧ (∀ j, j < m → ∃ v, v < 32 ∧ c (20 + j) = Int32.ofNat v) ∧ (∀ j, m ≤ j → j < 3 → c (20 + j) = 0) ∧ ∀ q, q < 8 * m → rg 65535 (c (24 + q))
theorem cpW_at (c0 : ce_C) (o p : Nat) : ∀ (m j : Nat) (c : ce_C) (q : Nat), apW c (cpW c0 o p m j) q = if o + j ≤ q ∧ q < o + j + m then c0 (p + (q - o)) else c q := by
  intro m
  induction m with
  | zero => intro j c q; rw [if_neg (by omega)]; rfl
  | succ m ih =>
    intro j c q
    show apW (upd c (o + j) (c0 (p + j))) (cpW c0 o p m (j + 1)) q = _
    rw [ih, upd_at]
    by_cases e : q = o + j
    · rw [if_neg (by omega), if_pos e, if_pos (by omega), e, Nat.add_sub_cancel_left]
    · by_cases e2 : o + (j + 1) ≤ q ∧ q < o + (j + 1) + m
      · rw [if_pos e2, if_pos (by omega)]
      · rw [if_neg e2, if_neg e, if_neg (by omega)]
theorem hd8_at (c0 : ce_C) (m : Nat) : ∀ (k p : Nat) (c : ce_C) (q : Nat), apW c (hd8 c0 m k p) q = if 365 + p ≤ q ∧ q < 365 + p + k then hdV c0 m (q - 365) else c q := by
  intro k
  induction k with
  | zero => intro p c q; rw [if_neg (by omega)]; rfl
  | succ k ih =>
    intro p c q
    show apW (upd c (365 + p) (hdV c0 m p)) (hd8 c0 m k (p + 1)) q = _
    rw [ih, upd_at]
    by_cases e : q = 365 + p
    · rw [if_neg (by omega), if_pos e, if_pos (by omega), e, Nat.add_sub_cancel_left]
    · by_cases e2 : 365 + (p + 1) ≤ q ∧ q < 365 + (p + 1) + k
      · rw [if_pos e2, if_pos (by omega)]
      · rw [if_neg e2, if_neg e, if_neg (by omega)]
theorem sumT_nat {g : Nat → Int32} {f : Nat → Nat} {a : Nat} : ∀ n, (∀ k, k < n → g k = Int32.ofNat (f k)) → ∃ r, sumT g (Int32.ofNat a) n = Int32.ofNat r ∧ (∀ B, (∀ k, k < n → f k ≤ B) → r ≤ a + n * B)
  | 0, _ => ⟨a, rfl, fun B _ => by omega⟩
  | n + 1, h => by
    obtain ⟨r, e, b⟩ := sumT_nat (a := a) n (fun k hk => h k (by omega))
    refine ⟨r + f n, ?_, fun B hB => ?_⟩
    · show sumT g (Int32.ofNat a) n + g n = _
      rw [e, h n (by omega)]
      exact i_add _ _
    · have := b B (fun k hk => hB k (by omega))
      have := hB n (by omega)
      rw [Nat.add_mul]
      omega
theorem sumT_congr {g g' : Nat → Int32} {a : Int32} : ∀ n, (∀ k, k < n → g k = g' k) → sumT g a n = sumT g' a n
  | 0, _ => rfl
  | n + 1, h => by
    show sumT g a n + g n = sumT g' a n + g' n
    rw [sumT_congr n (fun k hk => h k (by omega)), h n (by omega)]
section WRS
variable {n : Nat} {w : Int32} {s0 s s' : Nat → Nat → Int32} {M : Nat → Prop} {c c' : Nat → Int32}
theorem RB.dskW (R : RB c s) (hc : ∀ p, pk p → p < 365 → c' p = c p) (hs : ∀ f, 23 ≤ f → f ≤ 39 → f ≠ 36 → s' f = s f) (h : ∀ a, a < 256 → s' 50 a = c' (365 + a)) : RB c' s' := fun p hp => by
  by_cases e : p < 365
  · have ff := fF_fld hp
    have : fF p ≠ 50 := by
      by_cases z : p < 18
      · have : ∀ p, p < 18 → fF p ≠ 50 := by decide
        exact this p z
      · obtain ⟨a, rfl⟩ : ∃ a, p = 108 + a := ⟨p - 108, by unfold pk at hp; omega⟩
        rw [(fF_mem (by unfold pk at hp; omega)).1]; decide
    rw [hc p hp e, hs _ ff.1 (by omega) ff.2.2.1]
    exact R p hp
  · obtain ⟨a, rfl⟩ : ∃ a, p = 365 + a := ⟨p - 365, by omega⟩
    have ha : a < 256 := by unfold pk at hp; omega
    rw [(fF_dsk ha).1, (fF_dsk ha).2]
    exact h a ha
theorem AR.gen (A : AR n w s0 M c s) (hR : RB c' s') (h17 : c' 17 = c 17) (ht : ∀ i, i < 60 → c' (48 + i) = c (48 + i)) (h36 : s' 36 = s 36) (hl : RCl c' s') (hw : s' 52 0 = c' 364 + w) (h44 : s' 44 = s 44) (h45 : s' 45 = s 45) (hr : ∀ f, f < 23 ∨ (40 ≤ f ∧ f < 44) ∨ 53 ≤ f → s' f = s f) : AR n w s0 M c' s' := by
  obtain ⟨a1, ⟨a2, a2'⟩, a3, a4, a5, a6, a7⟩ := A
  refine ⟨hR, ⟨by rw [h17]; exact a2, fun i hi => ?_⟩, hl, hw, a5.cong (by rw [h44]) (by rw [h45]), fun f hf => (hr f hf).trans (a6 f hf), fun k hk => ?_⟩
  · rw [h17] at hi
    rw [h36, ht i (by omega)]
    exact a2' i hi
  · rw [h44, h45]; exact a7 k hk
theorem wl_val {m k : Nat} (h18 : c 18 = Int32.ofNat m) (h19 : c 19 = Int32.ofNat k) (m1 : 1 ≤ m) (m3 : m ≤ 3) (hk : k ≤ 2 * m + 2) : wlC c = Int32.ofNat (2 * m + 2 - k) := by
  unfold wlC
  rw [if_neg (by rw [h18]; exact fun z => by have := (i_eq (b := 0) (by omega) (by omega)).mp z; omega), h18, h19, show (2 : Int32) * Int32.ofNat m = Int32.ofNat (2 * m) from i_mul 2 m, show Int32.ofNat (2 * m) + 2 = Int32.ofNat (2 * m + 2) from i_add _ 2]
  exact i_sub hk
theorem wr_end (A : AR n w s0 M c s) {m k : Nat} (h18 : c 18 = Int32.ofNat m) (h19 : c 19 = Int32.ofNat k) (m1 : 1 ≤ m) (m3 : m ≤ 3) (hk : k ≤ 2 * m + 1) {T : Nat → Nat → Int32} {c1 : Nat → Int32} (hT : ∀ f, f ≠ 50 → T f = wrtA s f) (hT50 : ∀ a, a < 256 → T 50 a = c1 (365 + a)) (hc1 : ∀ p, p < 365 → c1 p = c p) : AR n w s0 M (apW c1 ([(364, c 364 + 1), (19, Int32.ofNat (k + 1))] ++ (if k = 2 * m + 1 then [(18, 0), (15, 0), (3, c 3 + 2)] else []))) (endS T) := by
  have a3 := A.2.2.1
  have a4 := A.2.2.2.1
  have n18 : c 18 ≠ 0 := by rw [h18]; exact fun z => by have := (i_eq (b := 0) (by omega) (by omega)).mp z; omega
  obtain ⟨b0, b1, b2, b3⟩ := a3.2 n18
  have wA : ∀ f, f ≠ 46 → f ≠ 52 → wrtA s f = s f := fun f f1 f2 => by unfold wrtA; rw [tw_up_at, if_neg f2, tw_up_at, if_neg f1]
  have Tf : ∀ f, f ≠ 46 → f ≠ 50 → f ≠ 52 → T f = s f := fun f f1 f2 f3 => (hT f f2).trans (wA f f1 f3)
  have T46 : T 46 0 = Int32.ofNat (2 * m + 1 - k) := by
    rw [hT 46 (by decide)]
    show s 46 0 - 1 = _
    rw [a3.1, wl_val h18 h19 m1 m3 (by omega), show Int32.ofNat (2 * m + 2 - k) - 1 = Int32.ofNat (2 * m + 2 - k - 1) from i_sub (b := 1) (by omega)]
    congr 1
    omega
  have T52 : T 52 0 = s 52 0 + 1 := by rw [hT 52 (by decide)]; rfl
  have R1 : RB (upd (upd c1 364 (c 364 + 1)) 19 (Int32.ofNat (k + 1))) T := by
    refine A.1.dskW (fun p hp h => ?_) (fun f f1 f2 f3 => Tf f (by omega) (by omega) (by omega)) (fun a ha => ?_)
    · rw [upd_ne _ _ (by unfold pk at hp; omega), upd_ne _ _ (by unfold pk at hp; omega), hc1 p h]
    · rw [upd_ne _ _ (by omega), upd_ne _ _ (by omega)]; exact hT50 a ha
  have e0 : T 46 0 = 0 ↔ k = 2 * m + 1 := by
    rw [T46]
    exact ⟨fun z => by have := (i_eq (b := 0) (by omega) (by omega)).mp z; omega, fun z => by rw [z, Nat.sub_self]; rfl⟩
  unfold endS
  by_cases q : k = 2 * m + 1
  · rw [if_pos q, if_pos (e0.mpr q)]
    refine A.gen (((R1.skc (p := 18) (x := 0) (by unfold pk; omega)).up (p := 15) (x := 0) (Or.inl (by omega)) rfl rfl).up (p := 3) (x := c 3 + 2) (Or.inl (by omega)) rfl rfl |>.cong fun f f1 f2 f3 f4 => ?_) ?_ (fun i hi => ?_) ?_ ⟨?_, fun h => ?_⟩ ?_ ?_ ?_ (fun f hf => ?_)
    · show tw_up (tw_up T 26 3 0) 27 0 (T 27 0 + 2) f = tw_up (tw_up T 26 3 0) 27 0 (c 3 + 2) f
      rw [Tf 27 (by decide) (by decide) (by decide), show s 27 0 = c 3 from A.g (p := 3) (by omega)]
    · show (upd (upd (upd (upd (upd c1 364 (c 364 + 1)) 19 (Int32.ofNat (k + 1))) 18 0) 15 0) 3 (c 3 + 2)) 17 = _
      rw [upd_ne _ _ (by omega), upd_ne _ _ (by omega), upd_ne _ _ (by omega), upd_ne _ _ (by omega), upd_ne _ _ (by omega), hc1 _ (by omega)]
    · show (upd (upd (upd (upd (upd c1 364 (c 364 + 1)) 19 (Int32.ofNat (k + 1))) 18 0) 15 0) 3 (c 3 + 2)) (48 + i) = _
      rw [upd_ne _ _ (by omega), upd_ne _ _ (by omega), upd_ne _ _ (by omega), upd_ne _ _ (by omega), upd_ne _ _ (by omega), hc1 _ (by omega)]
    · show tw_up (tw_up T 26 3 0) 27 0 (T 27 0 + 2) 36 = _
      rw [tw_up_at, if_neg (by decide), tw_up_at, if_neg (by decide), Tf 36 (by decide) (by decide) (by decide)]
    · show T 46 0 = wlC (upd (upd (upd (upd (upd c1 364 (c 364 + 1)) 19 (Int32.ofNat (k + 1))) 18 0) 15 0) 3 (c 3 + 2))
      rw [e0.mpr q]
      exact (if_pos rfl).symm
    · exact absurd rfl h
    · show T 52 0 = (c 364 + 1) + w
      rw [T52, a4, Int32.add_assoc, Int32.add_comm w 1, ← Int32.add_assoc]
    · show tw_up (tw_up T 26 3 0) 27 0 (T 27 0 + 2) 44 = _
      rw [tw_up_at, if_neg (by decide), tw_up_at, if_neg (by decide), Tf 44 (by decide) (by decide) (by decide)]
    · show tw_up (tw_up T 26 3 0) 27 0 (T 27 0 + 2) 45 = _
      rw [tw_up_at, if_neg (by decide), tw_up_at, if_neg (by decide), Tf 45 (by decide) (by decide) (by decide)]
    · rw [tw_up_at, if_neg (by omega), tw_up_at, if_neg (by omega), Tf f (by omega) (by omega) (by omega)]
  · rw [if_neg q, if_neg (fun z => q (e0.mp z)), List.append_nil]
    have c18 : (upd (upd c1 364 (c 364 + 1)) 19 (Int32.ofNat (k + 1))) 18 = c 18 := by rw [upd_ne _ _ (by omega), upd_ne _ _ (by omega), hc1 _ (by omega)]
    have lo : ∀ p, p < 364 → p ≠ 19 → (upd (upd c1 364 (c 364 + 1)) 19 (Int32.ofNat (k + 1))) p = c p := fun p hp h => by rw [upd_ne _ _ h, upd_ne _ _ (by omega), hc1 p (by omega)]
    refine A.gen R1 (lo 17 (by omega) (by omega)) (fun i hi => lo _ (by omega) (by omega)) (Tf 36 (by decide) (by decide) (by decide)) ⟨?_, fun h => ?_⟩ ?_ (Tf 44 (by decide) (by decide) (by decide)) (Tf 45 (by decide) (by decide) (by decide)) (fun f hf => Tf f (by omega) (by omega) (by omega))
    · show T 46 0 = wlC (upd (upd c1 364 (c 364 + 1)) 19 (Int32.ofNat (k + 1)))
      rw [T46, wl_val (m := m) (k := k + 1) (c18.trans h18) (upd_eq _ _ _) m1 m3 (by omega)]
      congr 1
      omega
    · show nn ((upd (upd c1 364 (c 364 + 1)) 19 (Int32.ofNat (k + 1))) 18) ≤ 3 ∧ T 47 0 = (upd (upd c1 364 (c 364 + 1)) 19 (Int32.ofNat (k + 1))) 18 ∧ (∀ j, j < nn ((upd (upd c1 364 (c 364 + 1)) 19 (Int32.ofNat (k + 1))) 18) → T 48 j = (upd (upd c1 364 (c 364 + 1)) 19 (Int32.ofNat (k + 1))) (20 + j)) ∧ ∀ q, q < 8 * nn ((upd (upd c1 364 (c 364 + 1)) 19 (Int32.ofNat (k + 1))) 18) → T 49 q = (upd (upd c1 364 (c 364 + 1)) 19 (Int32.ofNat (k + 1))) (24 + q)
      rw [c18]
      exact ⟨b0, by rw [Tf 47 (by decide) (by decide) (by decide)]; exact b1, fun j hj => by rw [lo _ (by omega) (by omega), Tf 48 (by decide) (by decide) (by decide)]; exact b2 j hj, fun q hq => by rw [lo _ (by omega) (by omega), Tf 49 (by decide) (by decide) (by decide)]; exact b3 q hq⟩
    · show T 52 0 = (upd (upd c1 364 (c 364 + 1)) 19 (Int32.ofNat (k + 1))) 364 + w
      rw [upd_ne _ _ (by omega), upd_eq, T52, a4, Int32.add_assoc, Int32.add_comm w 1, ← Int32.add_assoc]
end WRS
