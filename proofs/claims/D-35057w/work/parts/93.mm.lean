/-! the class's machine at rest -/
/-- a kept step: its journal -/
def SJ (h : ax_H) (b st row : Nat) (J : List (Nat × Int32)) : Prop := h.1 st = .inr (31, [.ref row, .int (Int32.ofNat (2 * J.length))]) ∧ (b + 12 ≤ st ∧ st < 400 + h.2.1) ∧ (b + 12 ≤ row ∧ row < 400 + h.2.1) ∧ J.length ≤ 60 ∧ ∃ (f : Nat → Int32) (m : Nat), h.1 row = .inl (0, m, .inl f) ∧ 2 * J.length ≤ m ∧ (16 ≤ m ∧ m % 2 = 0) ∧ m ≤ 16 + 4 * J.length ∧ ∀ (i : Nat) (q : Nat × Int32), J[i]? = some q → f (2 * i) = Int32.ofNat q.1 ∧ f (2 * i + 1) = q.2 ∧ q.1 < 621
theorem SJ.mono {h h' : ax_H} {b st row : Nat} {J : List (Nat × Int32)} (s : SJ h b st row J) (e1 : h'.1 st = h.1 st) (e2 : h'.1 row = h.1 row) (hh : h.2.1 ≤ h'.2.1) : SJ h' b st row J := by
  obtain ⟨s1, ⟨s2, s3⟩, ⟨s4, s5⟩, s6, f, m, s7, s8⟩ := s
  exact ⟨e1.trans s1, ⟨s2, by omega⟩, ⟨s4, by omega⟩, s6, f, m, e2.trans s7, s8⟩
/-- the keys, their nodes within P -/
def KYP (b : Nat) (h : ax_H) (K : kk_K) (P : Nat → Prop) : Prop := ∃ (mc : Int32) (ns it : Nat → Nat), LL h (b + 2) mc K.1 ns it ∧ K.1 ≤ 20 ∧ ∀ i, i < K.1 → h.1 (it i) = .inr (36, [.int (K.2.1 i), .int (K.2.2 i)]) ∧ it i < 400 + h.2.1 ∧ (it i < b ∨ b + 12 ≤ it i) ∧ b + 12 ≤ ns i ∧ P (ns i) ∧ P (it i)
theorem KYP.ky {b : Nat} {h : ax_H} {K : kk_K} {P : Nat → Prop} (Y : KYP b h K P) : KY b h K := by
  obtain ⟨mc, ns, it, l, n, y⟩ := Y
  exact ⟨mc, ns, it, l, n, fun i hi => ⟨(y i hi).1, (y i hi).2.1, (y i hi).2.2.1, (y i hi).2.2.2.1⟩⟩
theorem KYP.mono {b : Nat} {h h' : ax_H} {K : kk_K} {P P' : Nat → Prop} (Y : KYP b h K P) (hh : ∀ q, q < 400 + h.2.1 → (q < b ∨ q = b + 2 ∨ b + 12 ≤ q) → (∃ k fs, h.1 q = .inr (k, fs) ∧ k ≠ 31) → (q = b + 2 ∨ P q) → h'.1 q = h.1 q) (hp : ∀ q, q < 400 + h.2.1 → P q → P' q) (h1 : h.2.1 ≤ h'.2.1) : KYP b h' K P' := by
  obtain ⟨mc, ns, it, l, n, y⟩ := Y
  refine ⟨mc, ns, it, l.mono (hh _ l.2.2.2.2.2 (by omega) ⟨_, _, l.1, by decide⟩ (Or.inl rfl)) (fun i hi => hh _ (l.2.2.1 i hi).2 (Or.inr (Or.inr (y i hi).2.2.2.1)) ⟨_, _, l.2.1 i hi, by decide⟩ (Or.inr (y i hi).2.2.2.2.1)) h1, n, fun i hi => ?_⟩
  obtain ⟨a1, a2, a3, a4, a5, a6⟩ := y i hi
  exact ⟨(hh _ a2 (by omega) ⟨_, _, a1, by decide⟩ (Or.inr a6)).trans a1, by omega, a3, a4, hp _ (l.2.2.1 i hi).2 a5, hp _ a2 a6⟩
/-- a region, with all that was made since -/
def xR (P : Nat → Prop) (h h' : ax_H) : Nat → Prop := fun q => q < 400 + h'.2.1 ∧ (P q ∨ 400 + h.2.1 ≤ q)
abbrev mm_J : Type := Nat → List (Nat × Int32)
def MM (b : Nat) (kp : Int32) (im : Nat) (ds0 : Nat → Int32) (c : ce_C) (K : kk_K) (n : Nat) (J : mm_J) (cap : Nat) (P : Nat → Prop) (h : ax_H) : Prop :=
  ∃ (X : mr_X) (arr a : Nat) (it rw : Nat → Nat),
    h.1 b = .inr (29, mo_fs b (h, kp, im) none X.1) ∧ h.1 (b + 1) = .inl (0, 621, .inl c) ∧ DX b X h ∧ KYP b h K P ∧ DQ h (b + 3) arr cap a n it ∧ 17 ≤ cap ∧ (arr = b + 4 ∨ b + 12 ≤ arr) ∧ (∀ i, i < n → SJ h b (it i) (rw i) (J i)) ∧ (∀ i j, i < j → j < n → it i ≠ it j ∧ rw i ≠ rw j) ∧ h.1 (b + 6) = .inl (0, 256, .inl ds0) ∧ 402 ≤ b ∧ b + 11 < 400 + h.2.1 ∧ (∀ q, P q → q < 400 + h.2.1) ∧ (∀ q, b ≤ q → q ≤ b + 11 → P q) ∧ P arr ∧ ∀ i, i < n → P (it i) ∧ P (rw i)
section MM0
variable {d b im n cap : Nat} {kp : Int32} {ds0 c : Nat → Int32} {K : kk_K} {J : mm_J} {P : Nat → Prop} {h : ax_H}
/-- what an operation of the machine leaves alone, and the room it takes -/
def FrP (P : Nat → Prop) (a w : Nat) (h h' : ax_H) : Prop := h.2.1 ≤ h'.2.1 ∧ h.2.2 ≤ h'.2.2 ∧ h'.2.1 ≤ h.2.1 + a ∧ h'.2.2 ≤ h.2.2 + w ∧ ∀ q, q < 400 + h.2.1 → ¬ P q → h'.1 q = h.1 q
/-- a step without a journal -/
theorem c_make0 (hd : 14 ≤ d) (M : MM b 0 im ds0 c K n J cap P h) (O : OLD h) (C : WC c) (F : FW (ds c)) (hk : nn (c 16) ≤ toldN K.2.1 0 (c 2) K.1) (G : WK c) : Ok (ax_c d 316 [.ref b] h) (.inl none) (fun h' => MM b 0 im ds0 (apW c (stepW K c)) K n J cap (xR P h h') h' ∧ FrP P (12 * fE K c) (1100 * fE K c) h h' ∧ ∀ q, q < 400 + h.2.1 → (q < b ∨ (b + 1 < q ∧ q < b + 7) ∨ b + 12 ≤ q) → h'.1 q = h.1 q) := by
  obtain ⟨X, arr, a, it, rw', m1, m2, m3, m4, m5, m6, m7, m8, m9, m10, m11, m12, m13, m14, m15, m16⟩ := M
  obtain ⟨d, rfl, he⟩ := d_succ hd
  refine Ok.le m_X2_make ?_
  rw [gI_at m1 rfl rfl, Option.bind_some, if_pos rfl]
  have R : MR b (h, 0, im) h.2.1 h.2.2 none c [] X h := ⟨m1, m2, m3, ⟨0, rfl, by omega, by omega⟩, fun _ _ _ _ => rfl, Nat.le_refl _, Nat.le_refl _, m11, m12⟩
  refine (c_make50 he R O (fun st z => by cases z) m4.ky C F hk G).imp ?_
  rintro h' ⟨X', h2, ⟨r1, r2, ⟨r3, ⟨g, r4, r5⟩, r6, r7⟩, ⟨n2, r8, r9, r10⟩, r11, r12, r13, r14, r15⟩, rfl⟩
  have r8 : n2 = 0 := r8
  have keep : ∀ q, q < 400 + h.2.1 → q ≠ b → ¬ mA b q → (ax_set h2 b (.inr (29, mo_fs b (h, 0, im) none X'.1))).1 q = h.1 q := fun q hq hb hA => (set_ne _ hb).trans (r11 q hq hA (fun z => by obtain ⟨st, e, _⟩ := z; cases e))
  have nA : ∀ q, q < b ∨ (b + 1 < q ∧ q < b + 7) ∨ b + 12 ≤ q → q ≠ b ∧ ¬ mA b q := fun q hq => ⟨by omega, fun z => by rcases z with z | z | z <;> omega⟩
  have k2 : ∀ q, q < 400 + h.2.1 → (q < b ∨ (b + 1 < q ∧ q < b + 7) ∨ b + 12 ≤ q) → (ax_set h2 b (.inr (29, mo_fs b (h, 0, im) none X'.1))).1 q = h.1 q := fun q hq hh => keep q hq (nA q hh).1 (nA q hh).2
  have hs : h.2.1 ≤ h2.2.1 := r12
  have hw : h.2.2 ≤ h2.2.2 := r13
  refine ⟨⟨X', arr, a, it, rw', (set_eq _).trans rfl, (set_ne _ (by omega)).trans r2, ⟨(set_ne _ (by omega)).trans r3, ⟨g, (set_ne _ (by omega)).trans r4, r5⟩, fun k hk => (set_ne _ (by omega)).trans (r6 k hk), r7⟩, m4.mono (fun q hq hh _ _ => k2 q hq (by omega)) (fun q hq hp => ⟨by show q < 400 + h2.2.1; omega, Or.inl hp⟩) hs, m5.mono (k2 _ (by omega) (by omega)) (k2 _ m5.2.2.2.2.2.2.2.2 (by omega)) hs, m6, m7, fun i hi => ?_, m9, (k2 _ (by omega) (by omega)).trans m10, m11, by show b + 11 < 400 + h2.2.1; omega, fun q hq => hq.1, fun q h1 h2' => ⟨by show q < 400 + h2.2.1; omega, Or.inl (m14 q h1 h2')⟩, ⟨by show arr < 400 + h2.2.1; have := m13 _ m15; omega, Or.inl m15⟩, fun i hi => ?_⟩, ⟨hs, hw, ?_, ?_, fun q hq hP => ?_⟩, k2⟩
  · have s := m8 i hi
    exact s.mono (k2 _ s.2.1.2 (Or.inr (Or.inr s.2.1.1))) (k2 _ s.2.2.1.2 (Or.inr (Or.inr s.2.2.1.1))) hs
  · have s := m8 i hi
    exact ⟨⟨by show _ < 400 + h2.2.1; have := s.2.1.2; omega, Or.inl (m16 i hi).1⟩, ⟨by show _ < 400 + h2.2.1; have := s.2.2.1.2; omega, Or.inl (m16 i hi).2⟩⟩
  · show h2.2.1 ≤ _; omega
  · show h2.2.2 ≤ _; omega
  · refine keep q hq (fun z => hP (m14 q (by omega) (by omega))) (fun z => hP (m14 q ?_ ?_)) <;> (rcases z with z | z | z <;> omega)
end MM0
