/-! tests: the run of a test, and the twin's -/
/- with RA AR.ra IV IV.it IV.start IV.b20 KT KR KR.of in_step t_mendR sleep_ne wakeS beg_eq K0 DK.lg CK.dk OF DG IG stC_at saC_at meD_rg FSI.cong t_wake0 t_wakes zerC itC t_its LC meD -/
/-- the number in a disk's log -/
def tsM (D : Nat → Int32) : Nat := nn (D 0)
/-- the cells a test ends with: m steps are left, j are made; a crash behind the x-th -/
noncomputable def tsF (img : Nat → Int32) (x : Nat) : Nat → Nat → kk_K → (Nat → Int32) → Int32 → Nat → (Nat → Int32)
  | 0, _, K, D, v, N => itC K (stC D img K v) N
  | m + 1, j, K, D, v, N => if itC K (stC D img K v) N 0 = 1 then (if j + 1 = x ∧ itC K (stC D img K v) (N + 1) 0 = 1 then tsF img x m (j + 1) (K0 K) (meD (ds (itC K (stC D img K v) (N + 1))) (tsM (ds (itC K (stC D img K v) (N + 1))))) (mendC (zerC (itC K (stC D img K v) (N + 1)) 0 364) (tsM (ds (itC K (stC D img K v) (N + 1)))) 364) 0 else tsF img x m (j + 1) K D v (N + 1)) else itC K (stC D img K v) N
section TTS
variable {img : Nat → Int32} {x : Nat} {K : kk_K} {D c : Nat → Int32} {v : Int32} {s : Nat → Nat → Int32}
/-- a machine crashed in a step: what a start finds -/
theorem crash_of {N : Nat} (V : IV N K c) : OF (zerC c 0 364) ∧ ds (zerC c 0 364) = ds c := by
  have z2 : ∀ p, 364 ≤ p → zerC c 0 364 p = c p := fun p hp => if_neg (by omega)
  have e : ds (zerC c 0 364) = ds c := funext fun a => z2 _ (by omega)
  refine ⟨⟨fun p hp => ?_, fun a ha => ?_, by rw [e]; exact V.2.1.dk⟩, e⟩
  · rcases hp with z | z
    · exact if_pos (by omega)
    · rw [z2 p (by omega)]; exact V.2.2.2.2.1 p z
  · rw [e]; exact V.1 (365 + a) _ (bn_mem ha).2
theorem DK.lg2 (L : DK D) : tsM D ≤ 3 ∧ D 0 = Int32.ofNat (tsM D) ∧ (tsM D ≠ 0 → LC D (tsM D)) ∧ (∀ j, j < tsM D → ∃ v, 4 ≤ v ∧ v < 32 ∧ D (1 + j) = Int32.ofNat v) ∧ FSI (meD D (tsM D)) ∧ meD D (tsM D) 0 = 0 := by
  obtain ⟨m, m3, m0, m1, m2, m4, m5⟩ := L.lg
  have e : tsM D = m := by unfold tsM; rw [m0, nn_of (by omega)]
  rw [e]
  exact ⟨m3, m0, m1, m2, m4, m5⟩
theorem KT.none (K : kk_K) : KT (K0 K) := ⟨⟨Nat.zero_le _, fun k hk => absurd hk (Nat.not_lt_zero _)⟩, fun k hk => absurd hk (Nat.not_lt_zero _)⟩
theorem IV.dg {N : Nat} (V : IV N K c) : DG (meD (ds c) (tsM (ds c))) := by
  obtain ⟨m3, m0, m1, m2, m4, m5⟩ := V.2.1.dk.lg2
  exact ⟨meD_rg m2 m3 (fun a ha => V.1 (365 + a) _ (bn_mem ha).2), m5, m4⟩
/-- the cells a test ends with are within bounds -/
theorem tsF_iv (hI : IG img) : ∀ m j (K : kk_K) (D : Nat → Int32) (v : Int32) (N : Nat), N + m ≤ 1000 → KT K → DG D → ∃ N' K', KT K' ∧ N' ≤ 1000 ∧ IV N' K' (tsF img x m j K D v N) := by
  intro m
  induction m with
  | zero => intro j K D v N hN KK hD; exact ⟨N, K, KK, by omega, (IV.start KK.1.1 hI hD).it KK N (by omega)⟩
  | succ m ih =>
    intro j K D v N hN KK hD
    have V := (IV.start (v := v) KK.1.1 hI hD).it KK
    show ∃ N' K', KT K' ∧ N' ≤ 1000 ∧ IV N' K' (if itC K (stC D img K v) N 0 = 1 then (if j + 1 = x ∧ itC K (stC D img K v) (N + 1) 0 = 1 then tsF img x m (j + 1) (K0 K) (meD (ds (itC K (stC D img K v) (N + 1))) (tsM (ds (itC K (stC D img K v) (N + 1))))) (mendC (zerC (itC K (stC D img K v) (N + 1)) 0 364) (tsM (ds (itC K (stC D img K v) (N + 1)))) 364) 0 else tsF img x m (j + 1) K D v (N + 1)) else itC K (stC D img K v) N)
    split
    · split
      · exact ih (j + 1) (K0 K) _ _ 0 (by omega) (KT.none K) (V (N + 1) (by omega)).dg
      · exact ih (j + 1) K D v (N + 1) (by omega) KK hD
    · exact ⟨N, K, KK, by omega, V N (by omega)⟩
/-- started anew behind a crash -/
theorem t_again {N : Nat} (V : IV N K c) (R : RA 0 c s) (hI : IG img) (h21 : ∀ a, a < 256 → s 21 a = img a) {d : Nat} (hd : 2 ≤ d) (h : ax_H) : ∃ s1 r, ax_c d 406 [.ref 417] (tw_H h s) = some (.inl (some (.int r)), tw_H h s1) ∧ ax_c d 410 [.ref 417, .ref 431] (tw_H h (tw_up s1 43 0 0)) = some (.inl none, tw_H h (wakeS (tw_up s1 43 0 0) (s1 21))) ∧ RA 0 (itC (K0 K) (stC (meD (ds c) (tsM (ds c))) img (K0 K) (mendC (zerC c 0 364) (tsM (ds c)) 364)) 0) (wakeS (tw_up s1 43 0 0) (s1 21)) ∧ KR (K0 K) (wakeS (tw_up s1 43 0 0) (s1 21)) ∧ ∀ f, f < 23 ∨ (40 ≤ f ∧ f < 43) ∨ 53 ≤ f → wakeS (tw_up s1 43 0 0) (s1 21) f = s f := by
  obtain ⟨F, e⟩ := crash_of V
  obtain ⟨m3, m0, m1, m2, m4, m5⟩ := V.2.1.dk.lg2
  have e364 : s 52 0 = zerC c 0 364 364 := by
    have := R.2.2.2
    rw [Int32.add_zero] at this
    exact this
  obtain ⟨s1, a1, a2, a3, a4⟩ := t_mendR (s := s) F m3 (by rw [e]; exact m0) (by rw [e]; exact m1) (by rw [e]; exact m2) (by rw [e]; exact fun a ha => R.1.dsk ha) e364 hd h
  rw [e] at a2
  generalize hu : tw_up s1 43 0 0 = u
  have uf : ∀ f, f ≠ 43 → u f = s1 f := fun f hf => by rw [← hu, tw_up_at, if_neg hf]
  have KU : KR (K0 K) u := ⟨by rw [← hu]; rfl, Nat.zero_le _, fun k hk => absurd hk (Nat.not_lt_zero _)⟩
  have h21' : s1 21 = u 21 := (uf 21 (by decide)).symm
  have wf : ∀ f, f < 23 ∨ f = 36 ∨ (40 ≤ f ∧ f ≠ 46) → wakeS u (u 21) f = u f := fun f hf => by
    by_cases e0 : f = 0
    · subst e0; rfl
    · unfold wakeS
      rw [tw_up_at, if_neg (by omega), tw_up_at, if_neg (by omega), tw_up_at, if_neg (by omega), fl_ne (by omega)]
      exact sleep_ne (by omega)
  -- the image lies in the row 21: as if it lay in the row 53
  have Rw : RA 0 (stC (meD (ds c) (tsM (ds c))) img (K0 K) (mendC (zerC c 0 364) (tsM (ds c)) 364)) (tw_up (wakeS (fun f => if f = 53 then u 21 else u f) (u 21)) 33 0 0) := by
    refine t_wake0 (s := fun f => if f = 53 then u 21 else u f) (w := 0) (x := 0) (KU.of fun f f1 f2 => if_neg (by omega)) (fun a ha => ?_) (fun a ha => ?_) ?_ (fun ⟨k, k1, _⟩ => absurd k1 (Nat.not_lt_zero _)) (fun _ => rfl)
    · show u 21 a = img a
      rw [uf 21 (by decide), a4 21 (by decide) (by decide)]; exact h21 a ha
    · show u 50 a = _
      rw [uf 50 (by decide)]; exact a2 a ha
    · show u 52 0 = _
      rw [uf 52 (by decide), Int32.add_zero]; exact a3
  have eqw : ∀ f, f ≠ 53 → tw_up (wakeS (fun f => if f = 53 then u 21 else u f) (u 21)) 33 0 0 f = wakeS u (u 21) f := by
    intro f hf
    rw [tw_up_at]
    have same : wakeS (fun f => if f = 53 then u 21 else u f) (u 21) f = wakeS u (u 21) f := by
      unfold wakeS sleepS
      simp only [tw_up_at, fl_at]
      simp only [if_neg hf, show ¬ (26 = 53) by decide, show ¬ (25 = 53) by decide, show ¬ (23 = 53) by decide, show ¬ (24 = 53) by decide, show ¬ (27 = 53) by decide, show ¬ (28 = 53) by decide, show ¬ (29 = 53) by decide, show ¬ (30 = 53) by decide, show ¬ (31 = 53) by decide, show ¬ (32 = 53) by decide, show ¬ (33 = 53) by decide, show ¬ (34 = 53) by decide, show ¬ (35 = 53) by decide, show ¬ (37 = 53) by decide, show ¬ (38 = 53) by decide, show ¬ (39 = 53) by decide, show ¬ (46 = 53) by decide, if_false]
    by_cases e33 : f = 33
    · rw [if_pos e33, e33]
      have z : wakeS (fun f => if f = 53 then u 21 else u f) (u 21) 33 0 = 0 := rfl
      have := upd_same (wakeS (fun f => if f = 53 then u 21 else u f) (u 21) 33) 0
      rw [z] at this
      rw [this]
      rw [e33] at same
      exact same
    · rw [if_neg e33]; exact same
  refine ⟨s1, _, a1, ?_, ?_, ?_, fun f hf => ?_⟩
  · rw [hu, h21']
    exact t_wakes hd h _ 431 21 (by decide) rfl (tl_21 h)
  · rw [hu, h21']
    obtain ⟨r1, r2, r3, r4⟩ := Rw
    exact ⟨r1.cong fun f f1 f2 f3 f4 => (eqw f (by omega)).symm, ⟨r2.1, fun i hi => by rw [← eqw 36 (by decide)]; exact r2.2 i hi⟩, ⟨by rw [← eqw 46 (by decide)]; exact r3.1, fun z => by rw [← eqw 47 (by decide), ← eqw 48 (by decide), ← eqw 49 (by decide)]; exact r3.2 z⟩, by rw [← eqw 52 (by decide)]; exact r4⟩
  · rw [hu, h21']
    exact KU.of fun f f1 f2 => wf f (by omega)
  · rw [hu, h21', wf f (by omega), uf f (by omega), a4 f (by omega) (by omega)]
end TTS
