/-! the way through the lines: what always holds, that it ends, that both ways are one -/
/- with lnD lnV skT frT skS nxM wrdN st1 st2 goG goG_mono -/
def FRK (n : Nat) (mac : Nat → Option (Nat × Nat)) (us : Nat) : List frT → Prop
  | [] => True
  | (a, t, u, m) :: R => a ≤ t ∧ t ≤ n ∧ (if R = [] then m = 5 ∧ t = n ∧ u = 0 else m < 5 ∧ u < us ∧ (∃ x, mac m = some (x, t) ∧ x ≤ a) ∧ ∀ f, f ∈ R → f.2.2.2 ≠ m) ∧ FRK n mac us R
def MCK (ls : Nat → lnD) (n : Nat) (mac : Nat → Option (Nat × Nat)) : Prop := ∀ m x y, mac m = some (x, y) → m < 5 ∧ x ≤ y ∧ y < n ∧ ∀ k, x ≤ k → k < y → (ls k).1 ≠ 6 ∧ (ls k).1 ≠ 7
def SKI (ls : Nat → lnD) (n : Nat) (σ : skT) : Prop := FRK n σ.2.1 σ.2.2.2.2.2 σ.1 ∧ MCK ls n σ.2.1 ∧ σ.2.2.1 < 2 ∧ σ.2.2.2.1 0 + σ.2.2.2.1 1 ≤ 248 ∧ σ.2.2.2.2.1 ≤ 300 ∧ σ.2.2.2.2.2 ≤ σ.2.2.2.2.1
def muK (σ : skT) : Nat := 2 * (301 - σ.2.2.2.2.1) + σ.1.length
section SKK
variable {ls : Nat → lnD} {n : Nat} {σ σ' : skT} {R : List frT} {mac mac' : Nat → Option (Nat × Nat)} {us us' : Nat}
theorem nxM_some : ∀ f k e, nxM ls f k = some e → k ≤ e ∧ e < k + f ∧ ((ls e).1 = 7 ∨ (ls e).1 = 6) ∧ ∀ j, k ≤ j → j < e → (ls j).1 ≠ 6 ∧ (ls j).1 ≠ 7 := by
  intro f
  induction f with
  | zero => intro k e h; exact absurd h (by unfold nxM; exact fun z => by cases z)
  | succ f ih =>
    intro k e h
    unfold nxM at h
    by_cases q : (ls k).1 = 7 ∨ (ls k).1 = 6
    · rw [if_pos q] at h
      cases h
      exact ⟨Nat.le_refl _, by omega, q, fun j h1 h2 => by omega⟩
    · rw [if_neg q] at h
      obtain ⟨a, b, c, d⟩ := ih (k + 1) e h
      refine ⟨by omega, by omega, c, fun j h1 h2 => ?_⟩
      by_cases z : j = k
      · rw [z]; exact ⟨fun y => q (Or.inr y), fun y => q (Or.inl y)⟩
      · exact d j (by omega) h2
theorem nxM_none : ∀ f k, nxM ls f k = none → ∀ j, k ≤ j → j < k + f → (ls j).1 ≠ 6 ∧ (ls j).1 ≠ 7 := by
  intro f
  induction f with
  | zero => intro k h j h1 h2; omega
  | succ f ih =>
    intro k h j h1 h2
    unfold nxM at h
    by_cases q : (ls k).1 = 7 ∨ (ls k).1 = 6
    · rw [if_pos q] at h; cases h
    · rw [if_neg q] at h
      by_cases z : j = k
      · rw [z]; exact ⟨fun y => q (Or.inr y), fun y => q (Or.inl y)⟩
      · exact ih (k + 1) h j (by omega) (by omega)
theorem FRK.mono (hm : ∀ m x, mac m = some x → mac' m = some x) (hu : us ≤ us') : ∀ R, FRK n mac us R → FRK n mac' us' R := by
  intro R
  induction R with
  | nil => intro _; trivial
  | cons F R ih =>
    obtain ⟨a, t, u, m⟩ := F
    rintro ⟨h1, h2, h3, h4⟩
    refine ⟨h1, h2, ?_, ih h4⟩
    by_cases e : R = []
    · rw [if_pos e] at h3 ⊢; exact h3
    · rw [if_neg e] at h3 ⊢
      obtain ⟨x1, x2, ⟨x, x3, x4⟩, x5⟩ := h3
      exact ⟨x1, by omega, ⟨x, hm _ _ x3, x4⟩, x5⟩
theorem FRK.adv {a t u m b : Nat} (h : FRK n mac us ((a, t, u, m) :: R)) (hb : a ≤ b) (ht : b ≤ t) : FRK n mac us ((b, t, u, m) :: R) := by
  obtain ⟨h1, h2, h3, h4⟩ := h
  refine ⟨ht, h2, ?_, h4⟩
  by_cases e : R = []
  · rw [if_pos e] at h3 ⊢; exact h3
  · rw [if_neg e] at h3 ⊢
    obtain ⟨x1, x2, ⟨x, x3, x4⟩, x5⟩ := h3
    exact ⟨x1, x2, ⟨x, x3, by omega⟩, x5⟩
theorem nd_len : ∀ (k : Nat) (l : List Nat), l.Nodup → (∀ x, x ∈ l → x < k) → l.length ≤ k := by
  intro k
  induction k with
  | zero =>
    intro l _ h
    cases l with
    | nil => exact Nat.le_refl _
    | cons x l => exact absurd (h x List.mem_cons_self) (Nat.not_lt_zero _)
  | succ k ih =>
    intro l nd h
    by_cases e : k ∈ l
    · have h1 := ih (l.erase k) (nd.erase k) (fun x hx => by
        have h2 := h x (List.mem_of_mem_erase hx)
        have h3 : x ≠ k := fun z => by
          rw [z] at hx
          exact (List.Nodup.not_mem_erase nd) hx
        omega)
      rw [List.length_erase_of_mem e] at h1
      omega
    · have h1 := ih l nd (fun x hx => by
        have h2 := h x hx
        have h3 : x ≠ k := fun z => e (by rw [← z]; exact hx)
        omega)
      omega
theorem FRK.nod : ∀ R, FRK n mac us R → (R.map fun f => f.2.2.2).Nodup ∧ ∀ x, x ∈ R.map (fun f => f.2.2.2) → x < 6 := by
  intro R
  induction R with
  | nil => intro _; exact ⟨List.nodup_nil, fun x hx => absurd hx List.not_mem_nil⟩
  | cons F R ih =>
    obtain ⟨a, t, u, m⟩ := F
    rintro ⟨h1, h2, h3, h4⟩
    obtain ⟨i1, i2⟩ := ih h4
    by_cases e : R = []
    · rw [if_pos e] at h3
      subst e
      exact ⟨List.nodup_cons.mpr ⟨List.not_mem_nil, List.nodup_nil⟩, fun x hx => by
        have : x = m := List.mem_singleton.mp hx
        omega⟩
    · rw [if_neg e] at h3
      obtain ⟨x1, x2, x3, x5⟩ := h3
      refine ⟨List.nodup_cons.mpr ⟨fun z => ?_, i1⟩, fun x hx => ?_⟩
      · obtain ⟨f, f1, f2⟩ := List.mem_map.mp z
        exact x5 f f1 f2
      · rcases List.mem_cons.mp hx with z | z
        · have z : x = m := z
          omega
        · exact i2 x z
theorem FRK.len (h : FRK n mac us R) : R.length ≤ 6 := by
  obtain ⟨a, b⟩ := FRK.nod R h
  have := nd_len 6 _ a b
  rw [List.length_map] at this
  exact this
/-- what always holds is kept by a step -/
theorem sk_inv (V : ∀ t, t < n → lnV (ls t)) (I : SKI ls n σ) (h : skS ls n σ = .inl σ') (h0 : 0 < σ.1.length) : SKI ls n σ' ∧ muK σ' < muK σ ∧ σ.1.length ≤ σ'.1.length + 1 := by
  obtain ⟨F0, mac, sec, sz, g, us⟩ := σ
  obtain ⟨I1, I2, I3, I4, I5, I6⟩ := I
  cases F0 with
  | nil => exact absurd h0 (Nat.not_lt_zero _)
  | cons F R =>
    obtain ⟨a, t, u, m⟩ := F
    unfold skS at h
    dsimp only at h I1 I2 I3 I4 I5 I6
    have I1' := I1
    obtain ⟨f1, f2, f3, f4⟩ := I1'
    by_cases e : a = t
    · rw [if_pos e] at h
      cases h
      exact ⟨⟨f4, I2, I3, I4, I5, I6⟩, by unfold muK; dsimp only; rw [List.length_cons]; omega, by dsimp only; rw [List.length_cons]; omega⟩
    rw [if_neg e] at h
    by_cases e1 : 300 < g + 1 ∨ (0 < wrdN (ls a) ∧ 248 < sz 0 + sz 1 + wrdN (ls a))
    · rw [if_pos e1] at h; cases h
    rw [if_neg e1] at h
    have an : a < n := by omega
    have g3 : g + 1 ≤ 300 := by omega
    have W : wrdN (ls a) = 0 ∨ sz 0 + sz 1 + wrdN (ls a) ≤ 248 := by omega
    obtain ⟨v1, v2, v3, v4, v5, v6, v7, v8, v9⟩ := V a an
    have ad : ∀ us', us ≤ us' → FRK n mac us' ((a + 1, t, u, m) :: R) := fun us' hu => FRK.mono (fun _ _ z => z) hu _ (FRK.adv I1 (by omega) (by omega))
    have mu : ∀ (mac' : Nat → Option (Nat × Nat)) (sec' : Nat) (sz' : Nat → Nat) (us' b : Nat), muK ((b, t, u, m) :: R, mac', sec', sz', g + 1, us') < muK ((a, t, u, m) :: R, mac, sec, sz, g, us) := fun _ _ _ _ _ => by
      unfold muK; dsimp only; rw [List.length_cons, List.length_cons]; omega
    by_cases k0 : (ls a).1 = 0
    · rw [if_pos k0] at h
      cases h
      have := (rg.nat (v2 k0)).1
      exact ⟨⟨ad us (Nat.le_refl _), I2, by show nn (ls a).2.1 < 2; omega, I4, g3, by dsimp only; omega⟩, mu _ _ _ _ _, Nat.le_succ _⟩
    rw [if_neg k0] at h
    by_cases k6 : (ls a).1 = 6
    · rw [if_pos k6] at h
      by_cases e2 : mac (nn (ls a).2.1) ≠ none
      · rw [if_pos e2] at h; cases h
      rw [if_neg e2] at h
      have e2' : mac (nn (ls a).2.1) = none := Classical.not_not.mp e2
      cases hx : nxM ls (n - (a + 1)) (a + 1) with
      | none => rw [hx] at h; cases h
      | some y =>
        rw [hx] at h
        dsimp only at h
        by_cases e3 : (ls y).1 = 6
        · rw [if_pos e3] at h; cases h
        rw [if_neg e3] at h
        cases h
        obtain ⟨y1, y2, y3, y4⟩ := nxM_some _ _ _ hx
        have Re : R = [] := by
          rcases Classical.em (R = []) with z | z
          · exact z
          · rw [if_neg z] at f3
            obtain ⟨x1, x2, ⟨x, x3, x4⟩, x5⟩ := f3
            exact absurd k6 ((I2 _ _ _ x3).2.2.2 a x4 (by omega)).1
        rw [if_pos Re] at f3
        have m5 := (rg.nat (v8 k6)).1
        have hm : ∀ k x, mac k = some x → (fun k => if k = nn (ls a).2.1 then some (a + 1, y) else mac k) k = some x := fun k x hk => by
          dsimp only
          rw [if_neg (fun z => by rw [z, e2'] at hk; cases hk)]; exact hk
        refine ⟨⟨FRK.mono hm (Nat.le_refl _) _ (FRK.adv I1 (by omega) (by omega)), fun k x z hk => ?_, I3, I4, g3, by dsimp only; omega⟩, mu _ _ _ _ _, Nat.le_succ _⟩
        dsimp only at hk
        by_cases e4 : k = nn (ls a).2.1
        · rw [if_pos e4] at hk
          cases hk
          exact ⟨by omega, by omega, by omega, y4⟩
        · rw [if_neg e4] at hk
          exact I2 k x z hk
    rw [if_neg k6] at h
    by_cases k7 : (ls a).1 = 7
    · rw [if_pos k7] at h; cases h
    rw [if_neg k7] at h
    by_cases k8 : (ls a).1 = 8
    · rw [if_pos k8] at h
      cases hx : mac (nn (ls a).2.2.2.2.2) with
      | none => rw [hx] at h; cases h
      | some xy =>
        obtain ⟨x, y⟩ := xy
        rw [hx] at h
        dsimp only at h
        by_cases e3 : ∃ f, f ∈ (a, t, u, m) :: R ∧ f.2.2.2 = nn (ls a).2.2.2.2.2
        · rw [if_pos e3] at h; cases h
        rw [if_neg e3] at h
        cases h
        obtain ⟨x1, x2, x3, x4⟩ := I2 _ _ _ hx
        refine ⟨⟨⟨x2, by omega, ?_, ad (us + 1) (by omega)⟩, I2, I3, I4, g3, by dsimp only; omega⟩, ?_, ?_⟩
        · rw [if_neg (fun z => by cases z)]
          refine ⟨x1, Nat.lt_succ_self us, ⟨x, hx, Nat.le_refl _⟩, fun f hf hz => ?_⟩
          rcases List.mem_cons.mp hf with z | z
          · refine e3 ⟨(a, t, u, m), List.mem_cons_self, ?_⟩
            rw [z] at hz; exact hz
          · exact e3 ⟨f, List.mem_cons_of_mem _ z, hz⟩
        · unfold muK; dsimp only; rw [List.length_cons, List.length_cons, List.length_cons]; omega
        · dsimp only; rw [List.length_cons, List.length_cons, List.length_cons]; omega
    rw [if_neg k8] at h
    cases h
    refine ⟨⟨ad us (Nat.le_refl _), I2, I3, ?_, g3, by dsimp only; omega⟩, mu _ _ _ _ _, Nat.le_succ _⟩
    dsimp only
    by_cases s0 : (0 : Nat) = sec
    · rw [if_pos s0, if_neg (by omega)]; omega
    · rw [if_neg s0]
      split <;> omega
/-- a run ends -/
theorem goG_ends {S E : Type} {st : S → S ⊕ E} {ln mu : S → Nat} {Inv : S → Prop} (hs : ∀ s s', Inv s → 0 < ln s → st s = .inl s' → Inv s' ∧ mu s' < mu s) : ∀ k s, mu s ≤ k → Inv s → ∃ r, goG st ln (k + 1) 0 s = some r ∧ ∀ s', r = .inl s' → Inv s' ∧ ln s' = 0 := by
  intro k
  induction k with
  | zero =>
    intro s hk I
    by_cases e : ln s ≤ 0
    · exact ⟨.inl s, by unfold goG; rw [if_pos e], fun s' z => by cases z; exact ⟨I, by omega⟩⟩
    · cases h : st s with
      | inr x => exact ⟨.inr x, by unfold goG; rw [if_neg e, h], fun s' z => by cases z⟩
      | inl x => have := (hs s x I (by omega) h).2; omega
  | succ k ih =>
    intro s hk I
    by_cases e : ln s ≤ 0
    · exact ⟨.inl s, by unfold goG; rw [if_pos e], fun s' z => by cases z; exact ⟨I, by omega⟩⟩
    · cases h : st s with
      | inr x => exact ⟨.inr x, by unfold goG; rw [if_neg e, h], fun s' z => by cases z⟩
      | inl x =>
        obtain ⟨i1, i2⟩ := hs s x I (by omega) h
        obtain ⟨r, r1, r2⟩ := ih x (by omega) i1
        exact ⟨r, by unfold goG; rw [if_neg e, h]; exact r1, r2⟩
theorem st1_sk {S S' : skT × (Nat → Int32)} (h : st1 ls n S = .inl S') : skS ls n S.1 = .inl S'.1 := by
  unfold st1 at h
  cases hs : skS ls n S.1 with
  | inr e => rw [hs] at h; cases h
  | inl x =>
    rw [hs] at h
    dsimp only at h
    split at h
    · cases h; rfl
    · split at h
      · split at h
        · cases h
        · cases h; rfl
      · cases h; rfl
theorem st2_sk {lab : Nat → Int32} {base : Nat} {S S' : s2T} (h : st2 ls n lab base S = .inl S') : skS ls n S.1 = .inl S'.1 := by
  unfold st2 at h
  cases hs : skS ls n S.1 with
  | inr e => rw [hs] at h; cases h
  | inl x =>
    rw [hs] at h
    dsimp only at h
    split at h
    · split at h
      · cases h; rfl
      · split at h
        · split at h
          · cases h
          · cases h
          · cases h; rfl
        · split at h
          · split at h
            · cases h
            · split at h
              · cases h; rfl
              · split at h <;> (cases h; rfl)
          · cases h; rfl
    · cases h; rfl
/-- the first way without an error is the skeleton's way -/
theorem go1_sk : ∀ f b (S S' : skT × (Nat → Int32)), goG (st1 ls n) (fun S => S.1.1.length) f b S = some (.inl S') → goG (skS ls n) (fun σ => σ.1.length) f b S.1 = some (.inl S'.1) := by
  intro f
  induction f with
  | zero => intro b S S' h; exact absurd h (by unfold goG; exact fun z => by cases z)
  | succ f ih =>
    intro b S S' h
    unfold goG at h ⊢
    by_cases e : S.1.1.length ≤ b
    · rw [if_pos e] at h ⊢
      cases h; rfl
    · rw [if_neg e] at h ⊢
      cases hs : st1 ls n S with
      | inr x => rw [hs] at h; cases h
      | inl x =>
        rw [hs] at h
        rw [st1_sk hs]
        exact ih b x S' h
end SKK
