/-! the way through the lines: frames (at, to, use, macro; macro 5: the source), macros, section, sizes, gone, uses -/
/- with lnD -/
abbrev frT : Type := Nat × Nat × Nat × Nat
abbrev skT : Type := List frT × (Nat → Option (Nat × Nat)) × Nat × (Nat → Nat) × Nat × Nat
/-- the first line from k on, of so many, that begins or ends a macro -/
def nxM (ls : Nat → lnD) : Nat → Nat → Option Nat
  | 0, _ => none
  | f + 1, k => if (ls k).1 = 7 ∨ (ls k).1 = 6 then some k else nxM ls f (k + 1)
/-- so many words a line makes -/
def wrdN (l : lnD) : Nat := if l.1 = 2 then 2 else if l.1 = 3 then 1 else if l.1 = 4 then nn l.2.1 else 0
/-- a step: what is then, or error and line -/
def skS (ls : Nat → lnD) (n : Nat) (σ : skT) : skT ⊕ (Nat × Nat) :=
  match σ.1 with
  | [] => .inl σ
  | (a, t, u, m) :: R =>
    if a = t then .inl (R, σ.2)
    else if 300 < σ.2.2.2.2.1 + 1 ∨ (0 < wrdN (ls a) ∧ 248 < σ.2.2.2.1 0 + σ.2.2.2.1 1 + wrdN (ls a)) then .inr (1, a)
    else if (ls a).1 = 0 then .inl ((a + 1, t, u, m) :: R, σ.2.1, nn (ls a).2.1, σ.2.2.2.1, σ.2.2.2.2.1 + 1, σ.2.2.2.2.2)
    else if (ls a).1 = 6 then
      if σ.2.1 (nn (ls a).2.1) ≠ none then .inr (3, a)
      else match nxM ls (n - (a + 1)) (a + 1) with
        | none => .inr (4, a)
        | some e => if (ls e).1 = 6 then .inr (4, e) else .inl ((e + 1, t, u, m) :: R, (fun k => if k = nn (ls a).2.1 then some (a + 1, e) else σ.2.1 k), σ.2.2.1, σ.2.2.2.1, σ.2.2.2.2.1 + 1, σ.2.2.2.2.2)
    else if (ls a).1 = 7 then .inr (4, a)
    else if (ls a).1 = 8 then
      match σ.2.1 (nn (ls a).2.2.2.2.2) with
        | none => .inr (5, a)
        | some (x, y) => if ∃ f, f ∈ σ.1 ∧ f.2.2.2 = nn (ls a).2.2.2.2.2 then .inr (5, a) else .inl ((x, y, σ.2.2.2.2.2, nn (ls a).2.2.2.2.2) :: (a + 1, t, u, m) :: R, σ.2.1, σ.2.2.1, σ.2.2.2.1, σ.2.2.2.2.1 + 1, σ.2.2.2.2.2 + 1)
    else .inl ((a + 1, t, u, m) :: R, σ.2.1, σ.2.2.1, (fun k => if k = σ.2.2.1 then σ.2.2.2.1 k + wrdN (ls a) else σ.2.2.2.1 k), σ.2.2.2.2.1 + 1, σ.2.2.2.2.2)
/-- where a label lies among all -/
def plcN (R : List frT) (u : Nat) (x : Int32) : Nat := if nn x < 16 ∨ R = [] then nn x else 20 + 4 * u + nn x - 16
/-- the first way's step, with the labels -/
def st1 (ls : Nat → lnD) (n : Nat) (S : skT × (Nat → Int32)) : (skT × (Nat → Int32)) ⊕ (Nat × Nat) :=
  match skS ls n S.1 with
  | .inr e => .inr e
  | .inl σ' => match S.1.1 with
    | [] => .inl (σ', S.2)
    | (a, t, u, _) :: R => if a ≠ t ∧ (ls a).1 = 1 then (if S.2 (plcN R u (ls a).2.1) ≠ -1 then .inr (2, a) else .inl (σ', upd S.2 (plcN R u (ls a).2.1) (1000 * Int32.ofNat S.1.2.2.1 + Int32.ofNat (S.1.2.2.2.1 S.1.2.2.1)))) else .inl (σ', S.2)
/-- an operand's value, or what is wrong with it -/
def valF (lab : Nat → Int32) (base : Nat) (R : List frT) (u : Nat) (p : Int32 × Int32) (k x : Int32) : Int32 ⊕ Nat :=
  if k = 1 then (if lab (plcN R u x) = -1 then .inr 6 else .inl (dx_rem (lab (plcN R u x)) 1000 + (if lab (plcN R u x) < 1000 then 8 else Int32.ofNat base)))
  else if k = 0 then .inl x
  else if R = [] then .inr 7
  else .inl (dx_rem ((if k = 2 then p.1 else p.2) + x) 65536)
abbrev s2T : Type := skT × List (Int32 × Int32) × (Nat → Int32)
/-- the second way's step, with arguments and what is made -/
def st2 (ls : Nat → lnD) (n : Nat) (lab : Nat → Int32) (base : Nat) (S : s2T) : s2T ⊕ (Nat × Nat) :=
  match skS ls n S.1 with
  | .inr e => .inr e
  | .inl σ' => match S.1.1, S.2.1 with
    | (a, t, u, _) :: R, p :: A =>
      if a = t then .inl (σ', A, S.2.2)
      else if (ls a).1 = 8 then
        match valF lab base R u p (ls a).2.1 (ls a).2.2.1, valF lab base R u p (ls a).2.2.2.1 (ls a).2.2.2.2.1 with
          | .inr e, _ => .inr (e, a)
          | .inl _, .inr e => .inr (e, a)
          | .inl x, .inl y => .inl (σ', (x, y) :: p :: A, S.2.2)
      else if (ls a).1 = 2 ∨ (ls a).1 = 3 ∨ (ls a).1 = 5 then
        match valF lab base R u p (ls a).2.1 (ls a).2.2.1 with
          | .inr e => .inr (e, a)
          | .inl x => if (ls a).1 = 5 then .inl (σ', p :: A, upd S.2.2 (nn (ls a).2.2.2.1) x)
            else if (ls a).1 = 3 then .inl (σ', p :: A, upd S.2.2 ((if S.1.2.2.1 = 0 then 8 else base) + S.1.2.2.2.1 S.1.2.2.1) x)
            else .inl (σ', p :: A, upd (upd S.2.2 ((if S.1.2.2.1 = 0 then 8 else base) + S.1.2.2.2.1 S.1.2.2.1) (ls a).2.2.2.1) ((if S.1.2.2.1 = 0 then 8 else base) + S.1.2.2.2.1 S.1.2.2.1 + 1) x)
      else .inl (σ', p :: A, S.2.2)
    | _, _ => .inl (σ', S.2.1, S.2.2)
section GOG
variable {S E : Type} {st : S → S ⊕ E} {ln : S → Nat}
/-- steps until there are no more than b frames -/
def goG (st : S → S ⊕ E) (ln : S → Nat) : Nat → Nat → S → Option (S ⊕ E)
  | 0, _, _ => none
  | f + 1, b, s => if ln s ≤ b then some (.inl s) else match st s with
    | .inr e => some (.inr e)
    | .inl s' => goG st ln f b s'
theorem goG_mono : ∀ f b s r, goG st ln f b s = some r → ∀ g, f ≤ g → goG st ln g b s = some r := by
  intro f
  induction f with
  | zero => intro b s r h; exact absurd h (by unfold goG; exact fun z => by cases z)
  | succ f ih =>
    intro b s r h g hg
    obtain ⟨g, rfl⟩ : ∃ k, g = k + 1 := ⟨g - 1, by omega⟩
    unfold goG at h ⊢
    by_cases e : ln s ≤ b
    · rw [if_pos e] at h ⊢; exact h
    · rw [if_neg e] at h ⊢
      cases hs : st s with
      | inr x => rw [hs] at h; exact h
      | inl x => rw [hs] at h; exact ih b x r h g (by omega)
/-- a run down to b first comes down to b + 1 -/
theorem goG_split : ∀ f b s r, b ≤ ln s → goG st ln f b s = some r → ∃ r1, goG st ln f (b + 1) s = some r1 ∧ (∀ e, r1 = .inr e → r = .inr e) ∧ ∀ s', r1 = .inl s' → goG st ln f b s' = some r := by
  intro f
  induction f with
  | zero => intro b s r _ h; exact absurd h (by unfold goG; exact fun z => by cases z)
  | succ f ih =>
    intro b s r hb h
    by_cases e1 : ln s ≤ b + 1
    · exact ⟨.inl s, by unfold goG; rw [if_pos e1], fun e z => (by cases z), fun s' z => (by cases z; exact h)⟩
    · have h0 := h
      unfold goG at h
      rw [if_neg (show ¬ ln s ≤ b by omega)] at h
      cases hs : st s with
      | inr x =>
        rw [hs] at h
        exact ⟨.inr x, by unfold goG; rw [if_neg e1, hs], fun e z => (by cases z; exact (Option.some.inj h).symm), fun s' z => (by cases z)⟩
      | inl x =>
        rw [hs] at h
        by_cases hx : b ≤ ln x
        · obtain ⟨r1, a1, a2, a3⟩ := ih b x r hx h
          exact ⟨r1, by unfold goG; rw [if_neg e1, hs]; exact a1, a2, fun s' z => goG_mono _ _ _ _ (a3 s' z) _ (Nat.le_succ _)⟩
        · refine ⟨.inl x, ?_, fun e z => (by cases z), fun s' z => ?_⟩
          · unfold goG
            rw [if_neg e1, hs]
            cases f with
            | zero => exact absurd h (by unfold goG; exact fun z => by cases z)
            | succ f => show goG st ln (f + 1) (b + 1) x = _; unfold goG; rw [if_pos (by omega)]
          · cases z
            exact goG_mono _ _ _ _ h _ (Nat.le_succ _)
end GOG
