/-! the class's machine as it goes: journals and what they take back; a step -/
/- with ON ON.iv ON.go goP IV IV.b20 GD.wc CK.ci CI.wk MM.mono MM.mv itC MS MW stepW fE kpN kpJ c_make1 OLD.mono -/
/-- the gym: its fields; iv: the image, or null -/
def GO (H : ax_H) (iv : Value) : Prop := H.1 400 = .inr (19, [.ref 401, .ref 402, .ref 414, .ref 415, .ref 416, iv])
/-- what an operation leaves alone, and the room it takes; cap: of the deque's row -/
def FR (P P' : Nat → Prop) (cap cap' a w : Nat) (H H' : ax_H) : Prop := (∀ q, q < 400 + H.2.1 → ¬ P q → H'.1 q = H.1 q) ∧ (∀ q, P' q → P q ∨ 400 + H.2.1 ≤ q) ∧ H.2.1 ≤ H'.2.1 ∧ H.2.2 ≤ H'.2.2 ∧ cap ≤ cap' ∧ H'.2.1 + cap ≤ H.2.1 + cap' + a ∧ H'.2.2 + 4 * cap ≤ H.2.2 + 4 * cap' + w
/-- journals: each takes its step back, and has the addresses that it wrote to -/
def JU (K : kk_K) (c0 : Nat → Int32) (N n : Nat) (J : mm_J) : Prop := ∀ i, i < n → unW (itC K c0 (N - n + i + 1)) (J i) = itC K c0 (N - n + i) ∧ (J i).length ≤ 38 + K.1 ∧ ∀ a, a < 256 → (hasP (J i) (108 + a) = 1 ↔ MS (stepW K (itC K c0 (N - n + i))) a)
/-- the class's machine that is on -/
def CO (N n : Nat) (K : kk_K) (ds0 img : Nat → Int32) (v : Int32) (im : Nat) (J : mm_J) (cap : Nat) (P : Nat → Prop) (H : ax_H) : Prop := ∃ ds1, MM 402 1 im ds1 (itC K (stC ds0 img K v) N) K n J cap P H ∧ (∀ a, a < 256 → ds1 a = ds0 a) ∧ H.1 im = .inl (0, 256, .inl img) ∧ im < 400 + H.2.1 ∧ ¬ P im ∧ JU K (stC ds0 img K v) N n J ∧ ∀ j, j < N → itC K (stC ds0 img K v) j 0 = 1
section CMS
variable {N n im cap cap' cap'' a a' w w' : Nat} {v : Int32} {ds0 img c : Nat → Int32} {K : kk_K} {J : mm_J} {P P' P'' : Nat → Prop} {H H' H'' : ax_H}
theorem FR.rf : FR P P cap cap 0 0 H H := ⟨fun _ _ _ => rfl, fun _ h => Or.inl h, Nat.le_refl _, Nat.le_refl _, Nat.le_refl _, Nat.le_refl _, Nat.le_refl _⟩
theorem FR.tr (A : FR P P' cap cap' a w H H') (B : FR P' P'' cap' cap'' a' w' H' H'') : FR P P'' cap cap'' (a + a') (w + w') H H'' := by
  obtain ⟨a1, a2, a3, a4, a5, a6, a7⟩ := A
  obtain ⟨b1, b2, b3, b4, b5, b6, b7⟩ := B
  refine ⟨fun q hq hp => ?_, fun q hq => ?_, by omega, by omega, by omega, by omega, by omega⟩
  · rw [b1 q (by omega) (fun z => by rcases a2 q z with y | y; exact hp y; omega)]
    exact a1 q hq hp
  · rcases b2 q hq with z | z
    · exact a2 q z
    · exact Or.inr (by omega)
theorem FR.up (A : FR P P' cap cap' a w H H') (ha : a ≤ a') (hw : w ≤ w') : FR P P' cap cap' a' w' H H' := by
  obtain ⟨a1, a2, a3, a4, a5, a6, a7⟩ := A
  exact ⟨a1, a2, a3, a4, a5, by omega, by omega⟩
theorem hasP_mem : ∀ (Q : List (Nat × Int32)) (p : Nat), hasP Q p = 1 ↔ ∃ x, (p, x) ∈ Q := by
  intro Q p
  induction Q with
  | nil => exact ⟨fun z => absurd (show (0 : Int32) = 1 from z) (by decide), fun ⟨x, hx⟩ => absurd hx List.not_mem_nil⟩
  | cons q Q ih =>
    show (if q.1 = p then (1 : Int32) else hasP Q p) = 1 ↔ _
    by_cases e : q.1 = p
    · rw [if_pos e]
      exact ⟨fun _ => ⟨q.2, by rw [← e]; exact List.mem_cons_self⟩, fun _ => rfl⟩
    · rw [if_neg e, ih]
      constructor
      · rintro ⟨x, hx⟩; exact ⟨x, List.mem_cons_of_mem _ hx⟩
      · rintro ⟨x, hx⟩
        rcases List.mem_cons.mp hx with z | z
        · exact absurd (by rw [← z]) e
        · exact ⟨x, z⟩
theorem joW_mem : ∀ (ws : ce_W) (c : Nat → Int32) (p : Nat), (∃ x, (p, x) ∈ joW c ws) ↔ ∃ x, (p, x) ∈ ws := by
  intro ws
  induction ws with
  | nil => intro c p; exact Iff.rfl
  | cons q ws ih =>
    intro c p
    constructor
    · rintro ⟨x, hx⟩
      rcases List.mem_cons.mp hx with z | z
      · exact ⟨q.2, by
          have : p = q.1 := congrArg Prod.fst z
          rw [this]; exact List.mem_cons_self⟩
      · obtain ⟨y, hy⟩ := (ih _ p).mp ⟨x, z⟩
        exact ⟨y, List.mem_cons_of_mem _ hy⟩
    · rintro ⟨x, hx⟩
      rcases List.mem_cons.mp hx with z | z
      · exact ⟨c q.1, by
          have : p = q.1 := congrArg Prod.fst z
          rw [this]; exact List.mem_cons_self⟩
      · obtain ⟨y, hy⟩ := (ih (upd c q.1 q.2) p).mpr ⟨x, z⟩
        exact ⟨y, List.mem_cons_of_mem _ hy⟩
theorem JU.step (U : JU K c N n J) (hn : n ≤ N) (h200 : n ≤ 200) : JU K c (N + 1) (kpN n) (kpJ J n (joW (itC K c N) (stepW K (itC K c N)))) := by
  have new : unW (itC K c (N + 1)) (joW (itC K c N) (stepW K (itC K c N))) = itC K c N ∧ (joW (itC K c N) (stepW K (itC K c N))).length ≤ 38 + K.1 ∧ ∀ a, a < 256 → (hasP (joW (itC K c N) (stepW K (itC K c N))) (108 + a) = 1 ↔ MS (stepW K (itC K c N)) a) := by
    refine ⟨unW_joW _ _, ?_, fun a ha => ?_⟩
    · rw [joW_len]
      have := stepW_len K (itC K c N)
      omega
    · rw [hasP_mem, joW_mem]
      exact ⟨fun z => ⟨ha, z⟩, fun z => z.2⟩
  intro i hi
  unfold kpN at hi ⊢
  unfold kpJ
  by_cases q : n + 1 ≤ 200
  · rw [if_pos q] at hi
    rw [if_pos q, if_pos q, show N + 1 - (n + 1) = N - n by omega]
    unfold appJ
    by_cases e : i = n
    · rw [if_pos e, e, show N - n + n = N by omega]; exact new
    · rw [if_neg e]; exact U i (by omega)
  · rw [if_neg q] at hi
    rw [if_neg q, if_neg q]
    unfold appJ
    show unW _ (if i + 1 = n then _ else J (i + 1)) = _ ∧ List.length (if i + 1 = n then _ else J (i + 1)) ≤ _ ∧ ∀ a, a < 256 → (hasP (if i + 1 = n then _ else J (i + 1)) (108 + a) = 1 ↔ _)
    rw [show N + 1 - n + i = N - n + (i + 1) by omega]
    by_cases e : i + 1 = n
    · rw [if_pos e, e, show N - n + n = N by omega]; exact new
    · rw [if_neg e]; exact U (i + 1) (by omega)
/-- a step of the machine that is on -/
theorem x_make (O : ON N n K ds0 img) (C : CO N n K ds0 img v im J cap P H) (D : OLD H) (hg : goP K (stC ds0 img K v) N) {d : Nat} (hd : 14 ≤ d) : Ok (ax_c d 316 [.ref 402] H) (.inl none) (fun H' => ∃ J' cap' P', CO (N + 1) (kpN n) K ds0 img v im J' cap' P' H' ∧ FR P P' cap cap' (160 + 12 * fE K (itC K (stC ds0 img K v) N)) (340 + 1100 * fE K (itC K (stC ds0 img K v) N)) H H') := by
  obtain ⟨ds1, M, c1, c2, c3, c4, c5, c6⟩ := C
  have V := O.iv (v := v)
  have B20 := V.b20 O.2.2.2.1
  refine (c_make1 hd M D (V.1.wc B20) V.2.2.2.2.2 (rg.nat (V.1 16 _ rfl)).1 (V.2.1.ci V.1).wk O.2.2.1).imp fun H' h => ?_
  obtain ⟨cap', M', h1, h2, h3, h4, h5, h6⟩ := h
  refine ⟨_, cap', _, ⟨ds1, M', c1, ?_, by omega, ?_, c5.step O.1 O.2.2.1, fun j hj => ?_⟩, h6, fun q hq => hq.2, h2, h3, h1, h4, h5⟩
  · rw [h6 im c3 c4]; exact c2
  · rintro ⟨z1, z2⟩
    rcases z2 with z | z
    · exact c4 z
    · omega
  · rcases Nat.lt_or_ge j N with z | z
    · exact c6 j z
    · rw [show j = N by omega]; exact hg.1
/-- a step that throws ends the run -/
theorem fE_end (hf : fE K c ≠ 0) : apW c (stepW K c) 0 = 3 := by
  unfold fE at hf
  unfold stepW actW
  cases hO : actO K c with
  | inl ws => rw [hO] at hf; exact absurd rfl hf
  | inr f =>
    show apW c (stopW f ++ passW K (apW c (stopW f))) 0 = 3
    rw [apW_app, pass_at ⟨by omega, by omega, by omega, by omega⟩]
    rfl
theorem fE_le : fE K c ≤ 1 := by
  unfold fE
  split <;> omega
/-- of the steps of a run that goes on one at most throws -/
theorem itE_le (hr : ∀ j, j < N → itC K c j 0 = 1) : ∀ j, j ≤ N → itE K c j ≤ 1 ∧ (itE K c j ≠ 0 → itC K c j 0 = 3) := by
  intro j
  induction j with
  | zero => intro _; exact ⟨Nat.zero_le _, fun z => absurd rfl z⟩
  | succ j ih =>
    intro hj
    obtain ⟨i1, i2⟩ := ih (by omega)
    have e0 : itE K c j = 0 := Decidable.of_not_not fun z => by
      have := i2 z
      rw [hr j (by omega)] at this
      exact absurd this (by decide)
    have f := fE_le (K := K) (c := itC K c j)
    show itE K c j + fE K (itC K c j) ≤ 1 ∧ (itE K c j + fE K (itC K c j) ≠ 0 → _)
    rw [e0, Nat.zero_add]
    exact ⟨f, fun z => fE_end z⟩
end CMS
