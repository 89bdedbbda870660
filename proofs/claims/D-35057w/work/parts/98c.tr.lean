/-! a test's result; the twin makes a test, whole -/
/- with RA AR.ra IV IV.it IV.start IV.b20 GD.wc KT KR KR.of t_test68 t_isTapeOf t_wake21 t_formats formS t_keysCome any_k itC tsF tsF_iv t_isWholeNow OkB bo wM wE okE okB sbP sbM wnP usedF form_fsi RB.dsk RB.sml t_wakes sleep_ne wakeS findR_cong -/
/-- what a test's end is worth -/
noncomputable def tsR (c : Nat → Int32) (bl : Int32) (wn : Nat) (wd : Nat → Int32) : Int32 := if c 0 = 3 then 1 else if c 0 = 1 then 2 else if c 364 ≤ bl then @ite _ (nn (c 17) = wn ∧ ∀ i, i < nn (c 17) → c (48 + i) = wd i) (Classical.propDecidable _) (@ite _ (wM (ds c) 32) (Classical.propDecidable _) 0 5) 4 else 3
/-- the keys of a test: all at the start -/
def kT (n : Nat) (kv : Nat → Int32) : kk_K := (n, (fun _ => 0), kv)
/-- a disk formatted -/
def fmD : Nat → Int32 := fun a => if a = 32 then 255 else 0
theorem fm_dg : DG fmD := by
  obtain ⟨f1, f2⟩ := form_fsi (D := fmD) (fun a _ => rfl)
  exact ⟨fun a _ => rg_ite (rg.of (n := 255) (by omega) (by omega)) (rg0 (by omega)), f2, f1⟩
theorem wM_cong {D E : Nat → Int32} (h : ∀ a, a < 256 → E a = D a) : wM E 32 ↔ wM D 32 := by
  have hf : ∀ x, findF E x = findF D x := fun x => findR_cong (fun a ha => h a (by omega)) x 6 0 rfl
  have hs : ∀ f, f ≤ 6 → sbP E f = sbP D f := by
    intro f
    induction f with
    | zero => intro _; rfl
    | succ f ih =>
      intro hf
      unfold sbP sbM
      rw [ih (by omega), h _ (by omega), h _ (by omega)]
  have he : ∀ f, f ≤ 6 → (wE E f ↔ wE D f) := by
    intro f
    induction f with
    | zero => intro _; show E 0 = 0 ↔ D 0 = 0; rw [h 0 (by omega)]
    | succ f ih =>
      intro hf6
      unfold wE okE okB wnP sbM
      rw [ih (by omega), hs f (by omega), h (40 + 4 * f) (by omega), h (40 + 4 * f + 1) (by omega), h (40 + 4 * f + (2 + 0)) (by omega), h (40 + 4 * f + (2 + 1)) (by omega), hf]
  have hu : ∀ b, b < 32 → usedF E b = usedF D b := fun b hb => by unfold usedF; rw [h _ (by omega)]
  have : ∀ k, k ≤ 32 → (wM E k ↔ wM D k) := by
    intro k
    induction k with
    | zero => intro _; exact he 6 (by omega)
    | succ k ih =>
      intro hk
      unfold wM
      rw [ih (by omega), hu k (by omega), hs 6 (by omega)]
  exact this 32 (by omega)
section TRT
variable {img : Nat → Int32} {x n t wn N : Nat} {K : kk_K} {D c : Nat → Int32} {s u : Nat → Nat → Int32} {d : Nat}
theorem t_test132 {wd : Nat → Int32} (V : IV N K c) (KK : KT K) (R : RA 0 c s) (ht : t < 5) (hw : s 64 t = Int32.ofNat wn) (w6 : wn ≤ 6) (hwd : ∀ i, i < wn → s 63 (6 * t + i) = wd i) (hd : 5 ≤ d) (h : ax_H) : B_X3_madeTest_132 (ax_c d) 417 (Int32.ofNat t) (tw_H h s) = some (.inl (some (.int (tsR c (s 66 t) wn wd))), tw_H h s) := by
  have i5 : ix 5 (Int32.ofNat t) = some t := ix_of rfl ht (by omega)
  have e0 : s 23 0 = c 0 := R.1.sml (p := 0) (by omega)
  have e17 : s 37 0 = c 17 := R.1.sml (p := 17) (by omega)
  have e52 : s 52 0 = c 364 := by have := R.2.2.2; rw [Int32.add_zero] at this; exact this
  obtain ⟨n17, m17⟩ := rg.nat (V.1 17 60 rfl)
  have b148 : B_X3_madeTest_148 (ax_c d) 417 (tw_H h s) = some (.inl (some (.int (if c 0 = 3 then 1 else 2))), tw_H h s) := by
    refine dx_app b_X3_madeTest_148 ?_
    rw [tg_23, Option.bind_some, e0]
    by_cases q : c 0 = 3
    · rw [if_neg (fun z => z q), if_pos q]
    · rw [if_pos q, if_neg q]
  refine dx_app b_X3_madeTest_132 ?_
  unfold tsR
  rw [tg_23, Option.bind_some, e0]
  by_cases q3 : c 0 = 3
  · rw [if_pos q3, if_pos q3, b148, if_pos q3]
  rw [if_neg q3, if_neg q3, Option.bind_some]
  by_cases q1 : c 0 = 1
  · rw [if_neg (fun z => z q1), if_pos q1, b148, if_neg q3]
  rw [if_pos q1, if_neg q1, tg_52, Option.bind_some, e52, tr_66, Option.bind_some, tl_66, i5, Option.bind_some, Option.bind_some]
  by_cases qb : c 364 ≤ s 66 t
  · rw [if_pos qb, if_pos qb, tw_vn, Option.bind_some, t_isTapeOf ht (e17.trans m17) n17 hw w6 (by omega) h, cI_v]
    have tp : (nn (c 17) = wn ∧ ∀ i, i < nn (c 17) → s 36 i = s 63 (6 * t + i)) ↔ (nn (c 17) = wn ∧ ∀ i, i < nn (c 17) → c (48 + i) = wd i) := by
      constructor
      · rintro ⟨a, b⟩; exact ⟨a, fun i hi => (R.2.1.2 i hi).symm.trans ((b i hi).trans (hwd i (by omega)))⟩
      · rintro ⟨a, b⟩; exact ⟨a, fun i hi => (R.2.1.2 i hi).trans ((b i hi).trans (hwd i (by omega)).symm)⟩
    by_cases qt : nn (c 17) = wn ∧ ∀ i, i < nn (c 17) → c (48 + i) = wd i
    · rw [@if_pos _ (Classical.propDecidable _) (tp.mpr qt), @if_pos _ (Classical.propDecidable _) qt, if_pos (by decide), tw_vn, Option.bind_some]
      have C : ∀ p, p < 256 → rg 65535 (s 50 p) := fun p hp => by rw [R.1.dsk hp]; exact V.1 (365 + p) _ (bn_mem hp).2
      obtain ⟨r, b1, h', b2, b3⟩ := t_isWholeNow (h := h) (s := s) (d := d) (by omega) C
      subst b3
      rw [b2, cI_v]
      have wm : wM (s 50) 32 ↔ wM (ds c) 32 := wM_cong fun a ha => R.1.dsk ha
      rcases b1 with ⟨z1, z2⟩ | ⟨z1, z2⟩
      · rw [z1, if_neg (by decide), @if_pos _ (Classical.propDecidable _) (wm.mp z2)]
      · rw [z1, if_pos rfl, @if_neg _ (Classical.propDecidable _) (fun y => z2 (wm.mpr y))]
    · rw [@if_neg _ (Classical.propDecidable _) (fun y => qt (tp.mp y)), @if_neg _ (Classical.propDecidable _) qt, if_neg (by decide)]
  · rw [if_neg qb, if_neg qb]
/-- a test is made -/
theorem t_madeTest {kv wd : Nat → Int32} (hI : IG img) (ht : t < 5) {bud : Nat} (hb : bud ≤ 500) (hx : x ≤ 500) (hn : s 62 t = Int32.ofNat n) (n6 : n ≤ 6) (hkv : ∀ k, k < n → s 61 (6 * t + k) = kv k ∧ rg 65535 (kv k)) (hwd : ∀ i, i < wn → s 63 (6 * t + i) = wd i) (h21 : ∀ a, a < 256 → s 21 a = img a) (h65 : s 65 t = Int32.ofNat bud) (h68 : s 68 t = Int32.ofNat x) (hw : s 64 t = Int32.ofNat wn) (w6 : wn ≤ 6) (hd : 12 ≤ d) (h : ax_H) : ∃ s', ax_c d 488 [.ref 417, .int (Int32.ofNat t)] (tw_H h s) = some (.inl (some (.int (tsR (tsF img x bud 0 (kT n kv) fmD 0 0) (s 66 t) wn wd))), tw_H h s') ∧ ∀ f, f < 23 ∨ f = 40 ∨ 53 ≤ f → s' f = s f := by
  obtain ⟨d, rfl, he⟩ := d_succ hd
  have i5 : ix 5 (Int32.ofNat t) = some t := ix_of rfl ht (by omega)
  have KK : KT (kT n kv) := ⟨⟨by show n ≤ 20; omega, fun k hk => (hkv k hk).2⟩, fun k hk => ⟨0, by omega, rfl⟩⟩
  -- the keys are laid
  have loop : ∀ m k, k + m = n → ∀ u : Nat → Nat → Int32, (∀ f, f ≠ 41 → f ≠ 42 → f ≠ 43 → u f = formS s f) → u 43 0 = Int32.ofNat n → (∀ i, i < k → u 41 i = 0 ∧ u 42 i = kv i) → ∃ s', B_X3_madeTest_16 (ax_c d) 417 (Int32.ofNat t) (Int32.ofNat k) (tw_H h u) = some (.inl (some (.int (tsR (tsF img x bud 0 (kT n kv) fmD 0 0) (s 66 t) wn wd))), tw_H h s') ∧ ∀ f, f < 23 ∨ f = 40 ∨ 53 ≤ f → s' f = s f := by
    intro m
    have fF' : ∀ f, f ≠ 50 → f ≠ 52 → formS s f = s f := fun f h1 h2 => by
      unfold formS
      rw [tw_up_at, if_neg h2, tw_up_at, if_neg h1, fl_ne h1]
    induction m with
    | zero =>
      intro k hk u u1 u43 u2
      obtain rfl : k = n := by omega
      have us : ∀ f, f < 23 ∨ f = 40 ∨ 53 ≤ f → u f = s f := fun f hf => (u1 f (by omega) (by omega) (by omega)).trans (fF' f (by omega) (by omega))
      have KU : KR (kT k kv) u := ⟨u43, by show k ≤ 20; omega, fun i hi => ⟨(u2 i hi).1, (u2 i hi).2, 0, by omega, rfl⟩⟩
      have wf : ∀ f, f < 23 ∨ f = 36 ∨ (40 ≤ f ∧ f ≠ 46) → wakeS u (u 21) f = u f := fun f hf => by
        by_cases e0 : f = 0
        · subst e0; rfl
        · unfold wakeS
          rw [tw_up_at, if_neg (by omega), tw_up_at, if_neg (by omega), tw_up_at, if_neg (by omega), fl_ne (by omega)]
          exact sleep_ne (by omega)
      have KW : KR (kT k kv) (wakeS u (u 21)) := KU.of fun f f1 f2 => wf f (by omega)
      obtain ⟨y, kc, k1, k2⟩ := t_keysCome (d := d) (by omega) h (wakeS u (u 21)) KW.1 KW.2.1 (Or.inl rfl)
      have any : (wakeS u (u 21) 33 0 = 1 ∨ anyT (wakeS u (u 21)) (kT k kv).1) ↔ ∃ j, j < (kT k kv).1 ∧ u 41 j = 0 := by
        rw [any_k]
        constructor
        · rintro (z | ⟨j, z1, z2⟩)
          · exact absurd (show (0 : Int32) = 1 from z) (by decide)
          · exact ⟨j, z1, by rw [← wf 41 (by omega)]; exact z2⟩
        · rintro ⟨j, z1, z2⟩
          exact Or.inr ⟨j, z1, by rw [wf 41 (by omega)]; exact z2⟩
      rw [any] at k1 k2
      have R := t_wake21 (w := 0) (v := 0) (ds0 := fmD) (img := img) KU (fun a ha => by rw [us 21 (by omega)]; exact h21 a ha) (fun a ha => by
        rw [u1 50 (by decide) (by decide) (by decide)]
        show upd (fun j => if j < 256 then (0 : Int32) else s 50 j) 32 255 a = _
        rw [upd_at]
        unfold fmD
        by_cases e : a = 32
        · rw [if_pos e, if_pos e]
        · rw [if_neg e, if_neg e]; exact if_pos ha) (by rw [u1 52 (by decide) (by decide) (by decide)]; rfl) k1 k2
      have wf2 : ∀ f, f < 23 ∨ f = 40 ∨ 53 ≤ f → tw_up (wakeS u (u 21)) 33 0 y f = s f := fun f hf => by
        rw [tw_up_at, if_neg (by omega), wf f (by omega)]; exact us f hf
      obtain ⟨s', g1, g2, ⟨K', g3⟩, g4⟩ := t_test68 (x := x) hI ht (d := d) (by omega) h hb hx bud 0 (by omega) (kT k kv) fmD 0 0 _ (Nat.le_refl _) KK fm_dg R (KW.of fun f f1 f2 => by rw [tw_up_at, if_neg (by omega)]) (fun a ha => by rw [wf2 21 (by omega)]; exact h21 a ha) (by rw [wf2 65 (by omega)]; exact h65) (by rw [wf2 68 (by omega)]; exact h68)
      have s'f : ∀ f, f < 23 ∨ f = 40 ∨ 53 ≤ f → s' f = s f := fun f hf => (g4 f hf).trans (wf2 f hf)
      obtain ⟨N', K2, KK2, -, V2⟩ := tsF_iv (img := img) (x := x) hI bud 0 (kT k kv) fmD 0 0 (by omega) KK fm_dg
      have fin := t_test132 V2 KK2 g2 ht (by rw [s'f 64 (by omega)]; exact hw) w6 (wd := wd) (fun i hi => by rw [s'f 63 (by omega)]; exact hwd i hi) (d := d) (by omega) h
      rw [s'f 66 (by omega)] at fin
      refine ⟨s', dx_app b_X3_madeTest_16 ?_, s'f⟩
      rw [tg_43, Option.bind_some, u43, if_pos (Int32.le_refl _), tr_21, Option.bind_some, tw_vn, Option.bind_some, t_wakes (by omega) h u _ 21 (by decide) rfl (tl_21 h), cV_v, tw_vn, Option.bind_some, kc, cV_v]
      exact g1 _ fin
    | succ m ih =>
      intro k hk u u1 u43 u2
      have i20 : ix 20 (Int32.ofNat k) = some k := ix_of rfl (by omega) (by omega)
      have i30 : ix 30 (6 * Int32.ofNat t + Int32.ofNat k) = some (6 * t + k) := ix_of (by rw [show (6 : Int32) * Int32.ofNat t = Int32.ofNat (6 * t) from i_mul 6 t, i_add]) (by omega) (by omega)
      have u61 : u 61 = s 61 := (u1 61 (by decide) (by decide) (by decide)).trans (fF' 61 (by decide) (by decide))
      obtain ⟨s', g1, g2⟩ := ih (k + 1) (by omega) (tw_up (tw_up u 41 k 0) 42 k (kv k)) (fun f f1 f2 f3 => by rw [tw_up_at, if_neg f2, tw_up_at, if_neg f1]; exact u1 f f1 f2 f3) u43 (fun i hi => by
        show upd (u 41) k 0 i = 0 ∧ upd (u 42) k (kv k) i = _
        rw [upd_at, upd_at]
        by_cases e : i = k
        · rw [if_pos e, if_pos e, e]; exact ⟨rfl, rfl⟩
        · rw [if_neg e, if_neg e]; exact u2 i (by omega))
      refine ⟨s', dx_app b_X3_madeTest_16 ?_, g2⟩
      rw [tg_43, Option.bind_some, u43, if_neg (i_ge_not (by omega) (by omega)), tr_41, Option.bind_some, ts_41, i20, Option.bind_some, Option.bind_some, tr_42, Option.bind_some, tr_61, Option.bind_some, tl_61, i30, Option.bind_some, Option.bind_some, show tw_up u 41 k 0 61 = u 61 from rfl, u61, (hkv k (by omega)).1, ts_42, i20, Option.bind_some, Option.bind_some, lt_at, show Int32.ofNat k + 1 = Int32.ofNat (k + 1) from i_add k 1]
      exact g1
  obtain ⟨s', g1, g2⟩ := loop n 0 (by omega) (tw_up (formS s) 43 0 (Int32.ofNat n)) (fun f f1 f2 f3 => by rw [tw_up_at, if_neg f3]) rfl (fun i hi => absurd hi (Nat.not_lt_zero _))
  refine ⟨s', dx_app m_X3_madeTest ?_, g2⟩
  rw [tw_vn, Option.bind_some, t_formats (by omega) h s, cV_v, tr_62, Option.bind_some, tl_62, i5, Option.bind_some, Option.bind_some, show formS s 62 t = s 62 t from rfl, hn, tp_43, Option.bind_some]
  exact g1
end TRT
