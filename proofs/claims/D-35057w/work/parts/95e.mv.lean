/-! class and twin alike: moving, pushing, pulling -/
/- with AR.up AR.mem AR.tap AR.eqc AR.eqs AR.eqM AR.g AR.reg RB.sml RB.mem RB.reg reckS jumpS pushS pushW fF_reg fF_mem -/
/-- the addresses among the places written -/
def MW (ws : ce_W) : Nat → Prop := fun a => ∃ x, (108 + a, x) ∈ ws
theorem MW_nil : ∀ a, ¬ MW [] a := fun a ⟨x, h⟩ => by cases h
theorem MW_cons {q : Nat × Int32} {ws : ce_W} {a : Nat} : MW (q :: ws) a ↔ q.1 = 108 + a ∨ MW ws a := by
  constructor
  · rintro ⟨x, h⟩
    rcases List.mem_cons.mp h with e | h
    · exact Or.inl (by rw [← e])
    · exact Or.inr ⟨x, h⟩
  · rintro (h | ⟨x, h⟩)
    · exact ⟨q.2, by rw [← h]; exact List.mem_cons_self ..⟩
    · exact ⟨x, List.mem_cons_of_mem _ h⟩
theorem MW_app {u v : ce_W} {a : Nat} : MW (u ++ v) a ↔ MW u a ∨ MW v a := by
  constructor
  · rintro ⟨x, h⟩
    exact (List.mem_append.mp h).imp (fun h => ⟨x, h⟩) (fun h => ⟨x, h⟩)
  · rintro (⟨x, h⟩ | ⟨x, h⟩)
    · exact ⟨x, List.mem_append_left _ h⟩
    · exact ⟨x, List.mem_append_right _ h⟩
section MVS
variable {n : Nat} {w : Int32} {s0 s : Nat → Nat → Int32} {M : Nat → Prop} {c : Nat → Int32}
theorem ar_push (A : AR n w s0 M c s) {k : Nat} (h4 : c 4 = Int32.ofNat (k + 1)) (hk : k < 256) (hn : c 2 = Int32.ofNat n) (h1000 : n < 1000) (h2 : (∀ b, ¬ M b) ∨ ∃ b, ∀ x, M x ↔ x = b) (x : Int32) : AR n w s0 (fun b => M b ∨ b = k) (apW c (pushW c x)) (pushS s x) := by
  have e4 : s 28 0 = c 4 := A.g (p := 4) (by omega)
  have k1 : c 4 - 1 = Int32.ofNat k := by rw [h4]; exact i_sub (b := 1) (a := k + 1) (by omega)
  unfold pushS pushW
  rw [e4, k1, show (Int32.ofNat k).toNatClampNeg = k from i_nat (by omega), nn_of (by omega)]
  exact (A.up (p := 4) (x := Int32.ofNat k) (Or.inl (by omega)) rfl rfl).mem hk (by rw [upd_ne _ _ (by omega)]; exact hn) h1000 h2
theorem in_move (A : AR n w s0 M c s) (C : WC c) (F : F01 c) (hM : ∀ b, ¬ M b) (hn : c 2 = Int32.ofNat n) (h1000 : n < 1000) {o r y : Nat} (ho : o ≤ 3 ∨ 12 ≤ o ∧ o ≤ 18) (hr : r < 4) (hy : y < 65536) {ws : ce_W} {nx : Int32} (hw : moveW c (Int32.ofNat o) (Int32.ofNat (12 + r)) (Int32.ofNat y) (c 3 + 2) = .inl (ws, nx)) : AR n w s0 (MW (ws ++ [(3, nx)])) (apW c (ws ++ [(3, nx)])) (if o ≤ 3 then reckS s (Int32.ofNat o) (Int32.ofNat r) (Int32.ofNat y) else jumpS s (Int32.ofNat o) (Int32.ofNat r) (Int32.ofNat y)) := by
  have e3 : s 27 0 = c 3 := A.g (p := 3) (by omega)
  have e4 : s 28 0 = c 4 := A.g (p := 4) (by omega)
  have e5 : s 29 0 = c 5 := A.g (p := 5) (by omega)
  have e6 : s 30 0 = c 6 := A.g (p := 6) (by omega)
  have er : s 26 r = c (12 + r) := A.1.reg hr
  have nr : (Int32.ofNat r).toNatClampNeg = r := i_nat (by omega)
  have nr2 : nn (Int32.ofNat (12 + r)) = 12 + r := nn_of (by omega)
  have ny : (Int32.ofNat y).toNatClampNeg = y := i_nat (by omega)
  obtain ⟨k1, k2⟩ := rg.nat C.2.1
  have y2 : Int32.ofNat y < 256 ↔ y < 256 := i_lt (b := 256) (by omega) (by omega)
  have eM : ∀ ws : ce_W, (∀ q, q ∈ ws → q.1 < 108) → ∀ a, MW ws a ↔ M a := fun ws h a => ⟨fun ⟨x, hx⟩ => by have := h _ hx; simp at this; omega, fun z => absurd z (hM a)⟩
  have y108 : y < 256 → nn (108 + Int32.ofNat y) = 108 + y := fun h => by rw [show (108 : Int32) + Int32.ofNat y = Int32.ofNat (108 + y) from i_add 108 y, nn_of (by omega)]
  have pu : (1 : Int32) ≤ c 4 → ∃ k, k < 256 ∧ c 4 = Int32.ofNat (k + 1) := fun q => by
    rw [k2] at q
    have := (i_le (a := 1) (by omega) (by omega)).mp q
    exact ⟨nn (c 4) - 1, by omega, by rw [show nn (c 4) - 1 + 1 = nn (c 4) by omega]; exact k2⟩
  have pM : ∀ {k : Nat}, c 4 = Int32.ofNat (k + 1) → k < 256 → ∀ (x y : Int32) (a : Nat), MW (pushW c x ++ [(3, y)]) a ↔ M a ∨ a = k := by
    intro k h4 hk x y a
    have k1 : nn (c 4 - 1) = k := by rw [h4, show Int32.ofNat (k + 1) - 1 = Int32.ofNat k from i_sub (b := 1) (a := k + 1) (by omega), nn_of (by omega)]
    show MW [(4, c 4 - 1), (108 + nn (c 4 - 1), x), (3, y)] a ↔ _
    rw [MW_cons, MW_cons, MW_cons, k1]
    constructor
    · rintro (h | h | h | h)
      · simp at h; omega
      · exact Or.inr (by simp at h; omega)
      · simp at h; omega
      · exact absurd h (MW_nil a)
    · rintro (h | h)
      · exact absurd h (hM a)
      · exact Or.inr (Or.inl (by rw [h]))
  obtain rfl | rfl | rfl | rfl | rfl | rfl | rfl | rfl | rfl | rfl | rfl : o = 0 ∨ o = 1 ∨ o = 2 ∨ o = 3 ∨ o = 12 ∨ o = 13 ∨ o = 14 ∨ o = 15 ∨ o = 16 ∨ o = 17 ∨ o = 18 := by omega
  · obtain ⟨rfl, rfl⟩ : [(0, 2)] = ws ∧ c 3 + 2 - 2 = nx := by
      have : Sum.inl ([(0, 2)], c 3 + 2 - 2) = (Sum.inl (ws, nx) : (ce_W × Int32) ⊕ Int32) := hw
      exact ⟨congrArg Prod.fst (Sum.inl.inj this), congrArg Prod.snd (Sum.inl.inj this)⟩
    rw [if_pos (by omega)]
    refine ((A.up (p := 0) (x := 2) (Or.inl (by omega)) rfl rfl).eqM (eM _ (by simp))).eqc ?_
    show upd (upd c 0 2) 3 _ = _
    rw [Int32.add_sub_cancel, upd_comm _ (by omega), upd_same]
  · obtain ⟨rfl, rfl⟩ : [(nn (Int32.ofNat (12 + r)), Int32.ofNat y)] = ws ∧ c 3 + 2 = nx := by
      have : Sum.inl ([(nn (Int32.ofNat (12 + r)), Int32.ofNat y)], c 3 + 2) = (Sum.inl (ws, nx) : (ce_W × Int32) ⊕ Int32) := hw
      exact ⟨congrArg Prod.fst (Sum.inl.inj this), congrArg Prod.snd (Sum.inl.inj this)⟩
    rw [if_pos (by omega), nr2]
    have A1 := (A.up (p := 3) (x := c 3 + 2) (Or.inl (by omega)) rfl rfl).reg hr (x := Int32.ofNat y)
    refine ((A1.eqM (eM _ (by simp; omega))).eqs ?_).eqc ?_
    · show tw_up (tw_up s 27 0 (s 27 0 + 2)) 26 (Int32.ofNat r).toNatClampNeg (Int32.ofNat y) = _
      rw [nr, e3]; rfl
    · exact upd_comm _ (by omega) _ _
  · by_cases q : y < 256
    · obtain ⟨rfl, rfl⟩ : [(nn (Int32.ofNat (12 + r)), c (nn (108 + Int32.ofNat y)))] = ws ∧ c 3 + 2 = nx := by
        have : (if Int32.ofNat y < 256 then Sum.inl ([(nn (Int32.ofNat (12 + r)), c (nn (108 + Int32.ofNat y)))], c 3 + 2) else Sum.inr 1) = (Sum.inl (ws, nx) : (ce_W × Int32) ⊕ Int32) := hw
        rw [if_pos (y2.mpr q)] at this
        exact ⟨congrArg Prod.fst (Sum.inl.inj this), congrArg Prod.snd (Sum.inl.inj this)⟩
      rw [if_pos (by omega), nr2, y108 q]
      have A1 := (A.up (p := 3) (x := c 3 + 2) (Or.inl (by omega)) rfl rfl).reg hr (x := c (108 + y))
      refine ((A1.eqM (eM _ (by simp; omega))).eqs ?_).eqc ?_
      · show tw_up (tw_up s 27 0 (s 27 0 + 2)) 26 (Int32.ofNat r).toNatClampNeg (s 25 (Int32.ofNat y).toNatClampNeg) = _
        rw [nr, e3, ny, A.1.mem q]; rfl
      · exact upd_comm _ (by omega) _ _
    · have : (if Int32.ofNat y < 256 then Sum.inl ([(nn (Int32.ofNat (12 + r)), c (nn (108 + Int32.ofNat y)))], c 3 + 2) else Sum.inr 1) = (Sum.inl (ws, nx) : (ce_W × Int32) ⊕ Int32) := hw
      rw [if_neg (fun z => q (y2.mp z))] at this
      cases this
  · by_cases q : y < 256
    · obtain ⟨rfl, rfl⟩ : [(nn (108 + Int32.ofNat y), c (nn (Int32.ofNat (12 + r))))] = ws ∧ c 3 + 2 = nx := by
        have : (if Int32.ofNat y < 256 then Sum.inl ([(nn (108 + Int32.ofNat y), c (nn (Int32.ofNat (12 + r))))], c 3 + 2) else Sum.inr 1) = (Sum.inl (ws, nx) : (ce_W × Int32) ⊕ Int32) := hw
        rw [if_pos (y2.mpr q)] at this
        exact ⟨congrArg Prod.fst (Sum.inl.inj this), congrArg Prod.snd (Sum.inl.inj this)⟩
      rw [if_pos (by omega), nr2, y108 q]
      have A1 := (A.up (p := 3) (x := c 3 + 2) (Or.inl (by omega)) rfl rfl).mem q (x := c (12 + r)) (by rw [upd_ne _ _ (by omega)]; exact hn) h1000 (Or.inl hM)
      refine ((A1.eqM fun a => ?_).eqs ?_).eqc ?_
      · show MW [(108 + y, _), (3, _)] a ↔ M a ∨ a = y
        rw [MW_cons, MW_cons]
        constructor
        · rintro (h | h | h)
          · exact Or.inr (by simp at h; omega)
          · simp at h; omega
          · exact absurd h (MW_nil a)
        · rintro (h | h)
          · exact absurd h (hM a)
          · exact Or.inl (by rw [h])
      · show kw (tw_up (tw_up s 27 0 (s 27 0 + 2)) 25 (Int32.ofNat y).toNatClampNeg (s 26 (Int32.ofNat r).toNatClampNeg)) (Int32.ofNat y) = _
        rw [nr, e3, ny, er]; rfl
      · exact upd_comm _ (by omega) _ _
    · have : (if Int32.ofNat y < 256 then Sum.inl ([(nn (108 + Int32.ofNat y), c (nn (Int32.ofNat (12 + r))))], c 3 + 2) else Sum.inr 1) = (Sum.inl (ws, nx) : (ce_W × Int32) ⊕ Int32) := hw
      rw [if_neg (fun z => q (y2.mp z))] at this
      cases this
  · obtain ⟨rfl, rfl⟩ : [] = ws ∧ Int32.ofNat y = nx := by
      have : Sum.inl ([], Int32.ofNat y) = (Sum.inl (ws, nx) : (ce_W × Int32) ⊕ Int32) := hw
      exact ⟨congrArg Prod.fst (Sum.inl.inj this), congrArg Prod.snd (Sum.inl.inj this)⟩
    rw [if_neg (by omega)]
    exact (A.up (p := 3) (x := Int32.ofNat y) (Or.inl (by omega)) rfl rfl).eqM (eM _ (by simp))
  · obtain ⟨rfl, rfl⟩ : [] = ws ∧ (if c 5 = 1 then Int32.ofNat y else c 3 + 2) = nx := by
      have : Sum.inl ([], if c 5 = 1 then Int32.ofNat y else c 3 + 2) = (Sum.inl (ws, nx) : (ce_W × Int32) ⊕ Int32) := hw
      exact ⟨congrArg Prod.fst (Sum.inl.inj this), congrArg Prod.snd (Sum.inl.inj this)⟩
    rw [if_neg (show ¬ 13 ≤ 3 by omega)]
    refine ((A.up (p := 3) (x := if c 5 = 1 then Int32.ofNat y else c 3 + 2) (Or.inl (by omega)) rfl rfl).eqM (eM [(3, if c 5 = 1 then Int32.ofNat y else c 3 + 2)] (by simp))).eqs ?_
    show tw_up s 27 0 (if s 29 0 = 0 then s 27 0 + 2 else Int32.ofNat y) = _
    rw [e5, e3]
    rcases F 5 (by omega) (by omega) with z | z <;> rw [z] <;> rfl
  · obtain ⟨rfl, rfl⟩ : [] = ws ∧ (if c 6 = 1 then Int32.ofNat y else c 3 + 2) = nx := by
      have : Sum.inl ([], if c 6 = 1 then Int32.ofNat y else c 3 + 2) = (Sum.inl (ws, nx) : (ce_W × Int32) ⊕ Int32) := hw
      exact ⟨congrArg Prod.fst (Sum.inl.inj this), congrArg Prod.snd (Sum.inl.inj this)⟩
    rw [if_neg (show ¬ 14 ≤ 3 by omega)]
    refine ((A.up (p := 3) (x := if c 6 = 1 then Int32.ofNat y else c 3 + 2) (Or.inl (by omega)) rfl rfl).eqM (eM [(3, if c 6 = 1 then Int32.ofNat y else c 3 + 2)] (by simp))).eqs ?_
    show tw_up s 27 0 (if s 30 0 = 0 then s 27 0 + 2 else Int32.ofNat y) = _
    rw [e6, e3]
    rcases F 6 (by omega) (by omega) with z | z <;> rw [z] <;> rfl
  · by_cases q : (1 : Int32) ≤ c 4
    · obtain ⟨rfl, rfl⟩ : pushW c (c 3 + 2) = ws ∧ Int32.ofNat y = nx := by
        have : (if 1 ≤ c 4 then Sum.inl (pushW c (c 3 + 2), Int32.ofNat y) else Sum.inr 3) = (Sum.inl (ws, nx) : (ce_W × Int32) ⊕ Int32) := hw
        rw [if_pos q] at this
        exact ⟨congrArg Prod.fst (Sum.inl.inj this), congrArg Prod.snd (Sum.inl.inj this)⟩
      obtain ⟨k, hk, h4⟩ := pu q
      rw [if_neg (by omega), apW_app]
      refine (((ar_push A h4 hk hn h1000 (Or.inl hM) (c 3 + 2)).up (p := 3) (x := Int32.ofNat y) (Or.inl (by omega)) rfl rfl).eqM (pM h4 hk _ _)).eqs ?_
      show tw_up (pushS s (s 27 0 + 2)) 27 0 (Int32.ofNat y) = _
      rw [e3]; rfl
    · have : (if 1 ≤ c 4 then Sum.inl (pushW c (c 3 + 2), Int32.ofNat y) else Sum.inr 3) = (Sum.inl (ws, nx) : (ce_W × Int32) ⊕ Int32) := hw
      rw [if_neg q] at this
      cases this
  · by_cases q : c 4 + 1 ≤ 256
    · obtain ⟨rfl, rfl⟩ : pullW c = ws ∧ pullV c = nx := by
        have : (if c 4 + 1 ≤ 256 then Sum.inl (pullW c, pullV c) else Sum.inr 3) = (Sum.inl (ws, nx) : (ce_W × Int32) ⊕ Int32) := hw
        rw [if_pos q] at this
        exact ⟨congrArg Prod.fst (Sum.inl.inj this), congrArg Prod.snd (Sum.inl.inj this)⟩
      have h4 := rg_h1 C.2.1 q
      have hk := (rg.nat h4).1
      rw [if_neg (by omega)]
      refine (((A.up (p := 4) (x := c 4 + 1) (Or.inl (by omega)) rfl rfl).up (p := 3) (x := pullV c) (Or.inl (by omega)) rfl rfl).eqM (eM [(4, c 4 + 1), (3, pullV c)] (by simp))).eqs ?_
      show tw_up (tw_up s 28 0 (s 28 0 + 1)) 27 0 (s 25 (s 28 0).toNatClampNeg) = _
      rw [e4, show s 25 (c 4).toNatClampNeg = pullV c from A.1.mem (a := nn (c 4)) (by omega)]; rfl
    · have : (if c 4 + 1 ≤ 256 then Sum.inl (pullW c, pullV c) else Sum.inr 3) = (Sum.inl (ws, nx) : (ce_W × Int32) ⊕ Int32) := hw
      rw [if_neg q] at this
      cases this
  · by_cases q : (1 : Int32) ≤ c 4
    · obtain ⟨rfl, rfl⟩ : pushW c (Int32.ofNat y) = ws ∧ c 3 + 2 = nx := by
        have : (if 1 ≤ c 4 then Sum.inl (pushW c (Int32.ofNat y), c 3 + 2) else Sum.inr 3) = (Sum.inl (ws, nx) : (ce_W × Int32) ⊕ Int32) := hw
        rw [if_pos q] at this
        exact ⟨congrArg Prod.fst (Sum.inl.inj this), congrArg Prod.snd (Sum.inl.inj this)⟩
      obtain ⟨k, hk, h4⟩ := pu q
      rw [if_neg (by omega), apW_app]
      refine (((ar_push A h4 hk hn h1000 (Or.inl hM) (Int32.ofNat y)).up (p := 3) (x := c 3 + 2) (Or.inl (by omega)) rfl rfl).eqM (pM h4 hk _ _)).eqs ?_
      show tw_up (pushS s (Int32.ofNat y)) 27 0 (s 27 0 + 2) = _
      rw [e3]; rfl
    · have : (if 1 ≤ c 4 then Sum.inl (pushW c (Int32.ofNat y), c 3 + 2) else Sum.inr 3) = (Sum.inl (ws, nx) : (ce_W × Int32) ⊕ Int32) := hw
      rw [if_neg q] at this
      cases this
  · by_cases q : c 4 + 1 ≤ 256
    · obtain ⟨rfl, rfl⟩ : pullW c ++ [(nn (Int32.ofNat (12 + r)), pullV c)] = ws ∧ c 3 + 2 = nx := by
        have : (if c 4 + 1 ≤ 256 then Sum.inl (pullW c ++ [(nn (Int32.ofNat (12 + r)), pullV c)], c 3 + 2) else Sum.inr 3) = (Sum.inl (ws, nx) : (ce_W × Int32) ⊕ Int32) := hw
        rw [if_pos q] at this
        exact ⟨congrArg Prod.fst (Sum.inl.inj this), congrArg Prod.snd (Sum.inl.inj this)⟩
      have h4 := rg_h1 C.2.1 q
      have hk := (rg.nat h4).1
      rw [if_neg (by omega), nr2]
      refine (((((A.up (p := 3) (x := c 3 + 2) (Or.inl (by omega)) rfl rfl).up (p := 4) (x := c 4 + 1) (Or.inl (by omega)) rfl rfl).reg hr (x := pullV c)).eqM (eM [(4, c 4 + 1), (12 + r, pullV c), (3, c 3 + 2)] (by simp; omega))).eqs ?_).eqc ?_
      · show tw_up (tw_up (tw_up s 27 0 (s 27 0 + 2)) 28 0 (s 28 0 + 1)) 26 (Int32.ofNat r).toNatClampNeg (s 25 (s 28 0).toNatClampNeg) = _
        rw [nr, e3, e4, show s 25 (c 4).toNatClampNeg = pullV c from A.1.mem (a := nn (c 4)) (by omega)]; rfl
      · show upd (upd (upd c 4 _) (12 + r) _) 3 _ = _
        rw [upd_comm _ (show 12 + r ≠ 3 by omega), upd_comm _ (show 4 ≠ 3 by omega)]
    · have : (if c 4 + 1 ≤ 256 then Sum.inl (pullW c ++ [(nn (Int32.ofNat (12 + r)), pullV c)], c 3 + 2) else Sum.inr 3) = (Sum.inl (ws, nx) : (ce_W × Int32) ⊕ Int32) := hw
      rw [if_neg q] at this
      cases this
end MVS
