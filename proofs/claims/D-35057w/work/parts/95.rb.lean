/-! class's cells and twin's rows: where each stands -/
def fF (p : Nat) : Nat := if p = 0 then 23 else if p = 1 then 24 else if p = 2 then 38 else if p < 12 then p + 24 else if p < 16 then 26 else if p = 16 then 39 else if p = 17 then 37 else if p < 364 then 25 else 50
def fI (p : Nat) : Nat := if p < 12 then 0 else if p < 16 then p - 12 else if p < 18 then 0 else if p < 364 then p - 108 else p - 365
def unF (f i : Nat) : Nat := if f = 23 then 0 else if f = 24 then 1 else if f = 38 then 2 else if f = 26 then 12 + i else if f = 39 then 16 else if f = 37 then 17 else if f = 25 then 108 + i else if f = 50 then 365 + i else f - 24
def pk (p : Nat) : Prop := p < 18 ∨ (108 ≤ p ∧ p < 364) ∨ (365 ≤ p ∧ p < 621)
theorem un_f {p : Nat} (h : pk p) : unF (fF p) (fI p) = p := by
  unfold pk at h
  by_cases h12 : p < 12
  · have : ∀ p, p < 12 → unF (fF p) (fI p) = p := by decide
    exact this p h12
  by_cases h18 : p < 18
  · have : ∀ p, p < 18 → unF (fF p) (fI p) = p := by decide
    exact this p h18
  by_cases h364 : p < 364
  · have e1 : fF p = 25 := by unfold fF; rw [if_neg (by omega), if_neg (by omega), if_neg (by omega), if_neg (by omega), if_neg (by omega), if_neg (by omega), if_neg (by omega), if_pos h364]
    have e2 : fI p = p - 108 := by unfold fI; rw [if_neg (by omega), if_neg (by omega), if_neg (by omega), if_pos h364]
    rw [e1, e2]
    show 108 + (p - 108) = p
    omega
  · have e1 : fF p = 50 := by unfold fF; rw [if_neg (by omega), if_neg (by omega), if_neg (by omega), if_neg (by omega), if_neg (by omega), if_neg (by omega), if_neg (by omega), if_neg h364]
    have e2 : fI p = p - 365 := by unfold fI; rw [if_neg (by omega), if_neg (by omega), if_neg (by omega), if_neg h364]
    rw [e1, e2]
    show 365 + (p - 365) = p
    omega
theorem fF_mem {a : Nat} (h : a < 256) : fF (108 + a) = 25 ∧ fI (108 + a) = a := by
  constructor
  · unfold fF; rw [if_neg (by omega), if_neg (by omega), if_neg (by omega), if_neg (by omega), if_neg (by omega), if_neg (by omega), if_neg (by omega), if_pos (by omega)]
  · unfold fI; rw [if_neg (by omega), if_neg (by omega), if_neg (by omega), if_pos (by omega)]; omega
theorem fF_dsk {a : Nat} (h : a < 256) : fF (365 + a) = 50 ∧ fI (365 + a) = a := by
  constructor
  · unfold fF; rw [if_neg (by omega), if_neg (by omega), if_neg (by omega), if_neg (by omega), if_neg (by omega), if_neg (by omega), if_neg (by omega), if_neg (by omega)]
  · unfold fI; rw [if_neg (by omega), if_neg (by omega), if_neg (by omega), if_neg (by omega)]; omega
theorem fF_reg {a : Nat} (h : a < 4) : fF (12 + a) = 26 ∧ fI (12 + a) = a := by
  constructor
  · unfold fF; rw [if_neg (by omega), if_neg (by omega), if_neg (by omega), if_neg (by omega), if_pos (by omega)]
  · unfold fI; rw [if_neg (by omega), if_pos (by omega)]; omega
theorem fF_fld {p : Nat} (h : pk p) : 23 ≤ fF p ∧ fF p ≤ 50 ∧ fF p ≠ 36 ∧ (fF p ≤ 39 ∨ fF p = 50) := by
  unfold pk at h
  by_cases h18 : p < 18
  · have : ∀ p, p < 18 → 23 ≤ fF p ∧ fF p ≤ 50 ∧ fF p ≠ 36 ∧ (fF p ≤ 39 ∨ fF p = 50) := by decide
    exact this p h18
  by_cases h364 : p < 364
  · obtain ⟨a, rfl⟩ : ∃ a, p = 108 + a := ⟨p - 108, by omega⟩
    rw [(fF_mem (by omega)).1]; omega
  · obtain ⟨a, rfl⟩ : ∃ a, p = 365 + a := ⟨p - 365, by omega⟩
    rw [(fF_dsk (by omega)).1]; omega
theorem upd_comm (c : Nat → Int32) {p q : Nat} (h : p ≠ q) (x y : Int32) : upd (upd c p x) q y = upd (upd c q y) p x := by
  funext j
  unfold upd
  by_cases e1 : j = q
  · rw [if_pos e1, if_neg (fun e => h (e.symm.trans e1)), if_pos e1]
  · rw [if_neg e1, if_neg e1]
theorem upd_same (c : Nat → Int32) (p : Nat) : upd c p (c p) = c := by
  funext j
  unfold upd
  by_cases e : j = p
  · rw [if_pos e, e]
  · rw [if_neg e]
theorem upd_upd (c : Nat → Int32) (p : Nat) (x y : Int32) : upd (upd c p x) p y = upd c p y := by
  funext j
  unfold upd
  by_cases e : j = p
  · rw [if_pos e, if_pos e]
  · rw [if_neg e, if_neg e, if_neg e]
theorem upd_eq (c : Nat → Int32) (p : Nat) (x : Int32) : upd c p x p = x := if_pos rfl
theorem upd_ne (c : Nat → Int32) {p q : Nat} (x : Int32) (h : q ≠ p) : upd c p x q = c q := if_neg h
/-- the fields stand in the rows as in the cells -/
def RB (c : Nat → Int32) (s : Nat → Nat → Int32) : Prop := ∀ p, pk p → s (fF p) (fI p) = c p
section RBS
variable {c : Nat → Int32} {s : Nat → Nat → Int32} {p f i : Nat} {x : Int32}
theorem RB.up (R : RB c s) (hp : pk p) (hf : fF p = f) (hi : fI p = i) : RB (upd c p x) (tw_up s f i x) := by
  intro q hq
  rw [tw_up_at]
  by_cases e : q = p
  · subst e
    rw [if_pos hf, upd_eq, hi, upd_eq]
  · rw [upd_ne _ _ e]
    by_cases e2 : fF q = f
    · rw [if_pos e2, upd_ne, ← e2]
      · exact R q hq
      · intro e3
        exact e (by rw [← un_f hq, ← un_f hp, e2, e3, hf, hi])
    · rw [if_neg e2]; exact R q hq
theorem RB.skc (R : RB c s) (hp : ¬ pk p) : RB (upd c p x) s := fun q hq => by
  rw [upd_ne _ _ (fun e => hp (by rw [← e]; exact hq))]; exact R q hq
theorem RB.sks (R : RB c s) (hf : f < 23 ∨ f = 36 ∨ (40 ≤ f ∧ f ≠ 50)) : RB c (tw_up s f i x) := fun q hq => by
  have := fF_fld hq
  rw [tw_up_at, if_neg (by omega)]; exact R q hq
theorem RB.cong {s' : Nat → Nat → Int32} (R : RB c s) (h : ∀ f, 23 ≤ f → f ≤ 50 → f ≠ 36 → (f ≤ 39 ∨ f = 50) → s' f = s f) : RB c s' := fun q hq => by
  have := fF_fld hq
  rw [h _ this.1 this.2.1 this.2.2.1 this.2.2.2]; exact R q hq
theorem RB.mem (R : RB c s) {a : Nat} (h : a < 256) : s 25 a = c (108 + a) := by
  have := R (108 + a) (Or.inr (Or.inl ⟨by omega, by omega⟩))
  rw [(fF_mem h).1, (fF_mem h).2] at this; exact this
theorem RB.dsk (R : RB c s) {a : Nat} (h : a < 256) : s 50 a = c (365 + a) := by
  have := R (365 + a) (Or.inr (Or.inr ⟨by omega, by omega⟩))
  rw [(fF_dsk h).1, (fF_dsk h).2] at this; exact this
theorem RB.reg (R : RB c s) {a : Nat} (h : a < 4) : s 26 a = c (12 + a) := by
  have := R (12 + a) (Or.inl (by omega))
  rw [(fF_reg h).1, (fF_reg h).2] at this; exact this
theorem RB.sml (R : RB c s) {p : Nat} (h : p < 18) : s (fF p) (fI p) = c p := R p (Or.inl h)
end RBS
/-! marks of what a step wrote to the memory -/
def MKm (n : Nat) (M : Nat → Prop) (s : Nat → Nat → Int32) : Prop := (s 44 n = -1 ∧ s 45 n = -1 ∧ ∀ a, ¬ M a) ∨ (∃ a, a < 256 ∧ s 44 n = Int32.ofNat a ∧ s 45 n = -1 ∧ ∀ b, M b ↔ b = a) ∨ ∃ a b, a < 256 ∧ b < 256 ∧ s 44 n = Int32.ofNat a ∧ s 45 n = Int32.ofNat b ∧ ∀ x, M x ↔ x = a ∨ x = b
def RTp (c : Nat → Int32) (s : Nat → Nat → Int32) : Prop := nn (c 17) ≤ 60 ∧ ∀ i, i < nn (c 17) → s 36 i = c (48 + i)
def RCl (c : Nat → Int32) (s : Nat → Nat → Int32) : Prop := s 46 0 = wlC c ∧ (c 18 ≠ 0 → nn (c 18) ≤ 3 ∧ s 47 0 = c 18 ∧ (∀ j, j < nn (c 18) → s 48 j = c (20 + j)) ∧ ∀ q, q < 8 * nn (c 18) → s 49 q = c (24 + q))
/-- what a step leaves of the rows -/
def RSt (n : Nat) (s0 s : Nat → Nat → Int32) : Prop := (∀ f, f < 23 ∨ (40 ≤ f ∧ f < 44) ∨ 53 ≤ f → s f = s0 f) ∧ ∀ k, k ≠ n → s 44 k = s0 44 k ∧ s 45 k = s0 45 k
/-- class and twin within a step -/
def AR (n : Nat) (w : Int32) (s0 : Nat → Nat → Int32) (M : Nat → Prop) (c : Nat → Int32) (s : Nat → Nat → Int32) : Prop := RB c s ∧ RTp c s ∧ RCl c s ∧ s 52 0 = c 364 + w ∧ MKm n M s ∧ RSt n s0 s
section ARS
variable {n : Nat} {w : Int32} {s0 s : Nat → Nat → Int32} {M : Nat → Prop} {c : Nat → Int32} {p f i : Nat} {x : Int32}
theorem MKm.cong {s' : Nat → Nat → Int32} (m : MKm n M s) (h : s' 44 n = s 44 n) (h2 : s' 45 n = s 45 n) : MKm n M s' := by
  unfold MKm
  rw [h, h2]; exact m
theorem wlC_ne {y : Int32} (h1 : p ≠ 18) (h2 : p ≠ 19) : wlC (upd c p y) = wlC c := by
  unfold wlC
  rw [upd_ne _ _ (Ne.symm h1), upd_ne _ _ (Ne.symm h2)]
/-- a plain cell is written -/
theorem AR.up (A : AR n w s0 M c s) (hp : p < 17 ∨ (365 ≤ p ∧ p < 621)) (hf : fF p = f) (hi : fI p = i) : AR n w s0 M (upd c p x) (tw_up s f i x) := by
  obtain ⟨a1, ⟨a2, a2'⟩, ⟨a3, a3'⟩, a4, a5, a6, a7⟩ := A
  have hpk : pk p := by unfold pk; omega
  have ff := fF_fld hpk
  rw [hf] at ff
  have ne : ∀ g, g = 36 ∨ (40 ≤ g ∧ g ≠ 50) ∨ g < 23 → tw_up s f i x g = s g := fun g hg => by rw [tw_up_at, if_neg (by omega)]
  refine ⟨a1.up hpk hf hi, ⟨by rw [upd_ne _ _ (by omega)]; exact a2, fun j hj => ?_⟩, ⟨?_, fun h18 => ?_⟩, ?_, a5.cong (by rw [ne 44 (by omega)]) (by rw [ne 45 (by omega)]), fun g hg => ?_, fun k hk => ?_⟩
  · rw [upd_ne _ _ (show 17 ≠ p by omega)] at hj
    rw [ne 36 (by omega), upd_ne _ _ (by omega)]
    exact a2' j hj
  · rw [ne 46 (by omega), wlC_ne (by omega) (by omega)]; exact a3
  · rw [upd_ne _ _ (by omega)] at h18 ⊢
    obtain ⟨b0, b1, b2, b3⟩ := a3' h18
    refine ⟨b0, by rw [ne 47 (by omega)]; exact b1, fun j hj => ?_, fun q hq => ?_⟩
    · rw [ne 48 (by omega), upd_ne _ _ (by omega)]; exact b2 j hj
    · rw [ne 49 (by omega), upd_ne _ _ (by omega)]; exact b3 q hq
  · rw [ne 52 (by omega), upd_ne _ _ (by omega)]; exact a4
  · rw [ne g (by omega)]; exact a6 g hg
  · rw [ne 44 (by omega), ne 45 (by omega)]; exact a7 k hk
theorem AR.eqc {c' : Nat → Int32} (A : AR n w s0 M c s) (h : c' = c) : AR n w s0 M c' s := h ▸ A
theorem AR.eqs {s' : Nat → Nat → Int32} (A : AR n w s0 M c s) (h : s' = s) : AR n w s0 M c s' := h ▸ A
theorem AR.eqM {M' : Nat → Prop} (A : AR n w s0 M c s) (h : ∀ a, M' a ↔ M a) : AR n w s0 M' c s := by
  rw [show M' = M from funext fun a => propext (h a)]; exact A
/-- a word of the memory is written -/
theorem kw_up {a : Nat} (hn : s 38 0 = Int32.ofNat n) (h1000 : n < 1000) (x : Int32) : kw (tw_up s 25 a x) (Int32.ofNat a) = tw_up (tw_up (tw_up s 25 a x) 45 n (if s 44 n = -1 then -1 else Int32.ofNat a)) 44 n (if s 44 n = -1 then Int32.ofNat a else s 44 n) := by
  unfold kw
  have e38 : tw_up s 25 a x 38 = s 38 := by rw [tw_up_at, if_neg (by decide)]
  have e44 : tw_up s 25 a x 44 = s 44 := by rw [tw_up_at, if_neg (by decide)]
  rw [e38, e44, hn, if_pos (show Int32.ofNat n < 1000 from (i_lt (b := 1000) (by omega) (by omega)).mpr h1000), show (Int32.ofNat n).toNatClampNeg = n from i_nat (by omega)]
theorem m1_ne {a : Nat} (h : a < 256) : Int32.ofNat a ≠ -1 := by
  have : ∀ a, a < 256 → Int32.ofNat a ≠ -1 := by decide +kernel
  exact this a h
theorem AR.mem (A : AR n w s0 M c s) {a : Nat} (ha : a < 256) (hn : c 2 = Int32.ofNat n) (h1000 : n < 1000) (h2 : (∀ b, ¬ M b) ∨ ∃ b, ∀ x, M x ↔ x = b) : AR n w s0 (fun b => M b ∨ b = a) (upd c (108 + a) x) (kw (tw_up s 25 a x) (Int32.ofNat a)) := by
  obtain ⟨a1, ⟨a2, a2'⟩, ⟨a3, a3'⟩, a4, a5, a6, a7⟩ := A
  have n38 : s 38 0 = Int32.ofNat n := (show s 38 0 = c 2 from a1.sml (p := 2) (by omega)).trans hn
  rw [kw_up n38 h1000]
  have hpk : pk (108 + a) := Or.inr (Or.inl ⟨by omega, by omega⟩)
  generalize hu : (if s 44 n = -1 then (-1 : Int32) else Int32.ofNat a) = u
  generalize hv : (if s 44 n = -1 then Int32.ofNat a else s 44 n) = v
  have ne : ∀ g, g ≠ 25 → g ≠ 44 → g ≠ 45 → tw_up (tw_up (tw_up s 25 a x) 45 n u) 44 n v g = s g := fun g g1 g2 g3 => by rw [tw_up_at, if_neg g2, tw_up_at, if_neg g3, tw_up_at, if_neg g1]
  have e44 : ∀ k, tw_up (tw_up (tw_up s 25 a x) 45 n u) 44 n v 44 k = if k = n then v else s 44 k := fun k => by
    rw [tw_up_at, if_pos rfl, tw_up_at, if_neg (by decide), tw_up_at, if_neg (by decide), upd_at]
  have e45 : ∀ k, tw_up (tw_up (tw_up s 25 a x) 45 n u) 44 n v 45 k = if k = n then u else s 45 k := fun k => by
    rw [tw_up_at, if_neg (by decide), tw_up_at, if_pos rfl, tw_up_at, if_neg (by decide), upd_at]
  refine ⟨((a1.up hpk (fF_mem ha).1 (fF_mem ha).2).sks (by omega)).sks (by omega), ⟨by rw [upd_ne _ _ (by omega)]; exact a2, fun j hj => ?_⟩, ⟨?_, fun h18 => ?_⟩, ?_, ?_, fun g hg => ?_, fun k hk => ?_⟩
  · rw [upd_ne _ _ (show 17 ≠ 108 + a by omega)] at hj
    rw [ne 36 (by omega) (by omega) (by omega), upd_ne _ _ (by omega)]
    exact a2' j hj
  · rw [ne 46 (by omega) (by omega) (by omega), wlC_ne (by omega) (by omega)]; exact a3
  · rw [upd_ne _ _ (by omega)] at h18 ⊢
    obtain ⟨b0, b1, b2, b3⟩ := a3' h18
    refine ⟨b0, by rw [ne 47 (by omega) (by omega) (by omega)]; exact b1, fun j hj => ?_, fun q hq => ?_⟩
    · rw [ne 48 (by omega) (by omega) (by omega), upd_ne _ _ (by omega)]; exact b2 j hj
    · rw [ne 49 (by omega) (by omega) (by omega), upd_ne _ _ (by omega)]; exact b3 q hq
  · rw [ne 52 (by omega) (by omega) (by omega), upd_ne _ _ (by omega)]; exact a4
  · unfold MKm
    rw [e44, e45, if_pos rfl, if_pos rfl, ← hu, ← hv]
    rcases a5 with ⟨m1, m2, m3⟩ | ⟨b, m0, m1, m2, m3⟩ | ⟨b, b', m0, m0', m1, m2, m3⟩
    · rw [if_pos m1, if_pos m1]
      exact Or.inr (Or.inl ⟨a, ha, rfl, rfl, fun b => ⟨fun z => z.elim (fun y => absurd y (m3 b)) id, Or.inr⟩⟩)
    · rw [if_neg (by rw [m1]; exact m1_ne m0), if_neg (by rw [m1]; exact m1_ne m0)]
      exact Or.inr (Or.inr ⟨b, a, m0, ha, m1, rfl, fun y => by show (M y ∨ y = a) ↔ _; rw [m3 y]⟩)
    · rw [if_neg (by rw [m1]; exact m1_ne m0), if_neg (by rw [m1]; exact m1_ne m0)]
      rcases h2 with z | ⟨y, z⟩
      · exact absurd ((m3 b).mpr (Or.inl rfl)) (z b)
      · have z1 := (z b).mp ((m3 b).mpr (Or.inl rfl))
        exact Or.inr (Or.inr ⟨b, a, m0, ha, m1, rfl, fun y' => by show (M y' ∨ y' = a) ↔ _; rw [z y', z1]⟩)
  · rw [ne g (by omega) (by omega) (by omega)]; exact a6 g hg
  · rw [e44, e45, if_neg hk, if_neg hk]; exact a7 k hk
/-- a word of the tape is written -/
theorem AR.tap (A : AR n w s0 M c s) (h17 : nn (c 17) < 60) (e17 : c 17 = Int32.ofNat (nn (c 17))) : AR n w s0 M (upd (upd c (48 + nn (c 17)) x) 17 (c 17 + 1)) (tw_up (tw_up s 36 (nn (c 17)) x) 37 0 (s 37 0 + 1)) := by
  obtain ⟨a1, ⟨a2, a2'⟩, ⟨a3, a3'⟩, a4, a5, a6, a7⟩ := A
  have n37 : s 37 0 = c 17 := a1.sml (p := 17) (by omega)
  have n1 : nn (c 17 + 1) = nn (c 17) + 1 := by
    rw [e17, show Int32.ofNat (nn (c 17)) + 1 = Int32.ofNat (nn (c 17) + 1) from i_add _ 1, nn_of (by omega), nn_of (by omega)]
  generalize hk : nn (c 17) = k at *
  have ne : ∀ g, g ≠ 36 → g ≠ 37 → tw_up (tw_up s 36 k x) 37 0 (s 37 0 + 1) g = s g := fun g g1 g2 => by rw [tw_up_at, if_neg g2, tw_up_at, if_neg g1]
  refine ⟨?_, ⟨by rw [upd_eq, n1]; omega, fun j hj => ?_⟩, ⟨?_, fun h18 => ?_⟩, ?_, a5.cong (by rw [ne 44 (by omega) (by omega)]) (by rw [ne 45 (by omega) (by omega)]), fun g hg => ?_, fun k hk => ?_⟩
  · rw [n37]
    exact ((a1.sks (f := 36) (i := k) (x := x) (by omega)).skc (p := 48 + k) (x := x) (by unfold pk; omega)).up (p := 17) (Or.inl (by omega)) rfl rfl
  · rw [upd_eq, n1] at hj
    rw [tw_up_at, if_neg (by decide), tw_up_at, if_pos rfl, upd_ne _ _ (show 48 + j ≠ 17 by omega), upd_at, upd_at]
    by_cases e : j = k
    · rw [if_pos e, if_pos (by omega)]
    · rw [if_neg e, if_neg (by omega)]; exact a2' j (by omega)
  · rw [ne 46 (by omega) (by omega), wlC_ne (by omega) (by omega), wlC_ne (by omega) (by omega)]; exact a3
  · rw [upd_ne _ _ (by omega), upd_ne _ _ (by omega)] at h18 ⊢
    obtain ⟨b0, b1, b2, b3⟩ := a3' h18
    refine ⟨b0, by rw [ne 47 (by omega) (by omega)]; exact b1, fun j hj => ?_, fun q hq => ?_⟩
    · rw [ne 48 (by omega) (by omega), upd_ne _ _ (by omega), upd_ne _ _ (by omega)]; exact b2 j hj
    · rw [ne 49 (by omega) (by omega), upd_ne _ _ (by omega), upd_ne _ _ (by omega)]; exact b3 q hq
  · rw [ne 52 (by omega) (by omega), upd_ne _ _ (by omega), upd_ne _ _ (by omega)]; exact a4
  · rw [ne g (by omega) (by omega)]; exact a6 g hg
  · rw [ne 44 (by omega) (by omega), ne 45 (by omega) (by omega)]; exact a7 k hk
end ARS
