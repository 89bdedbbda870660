/-! the first cells' written part is of no matter -/
/- with KT KR IG DG RA RB.sml stC -/
theorem zero_eq {K : kk_K} {ds0 img : Nat → Int32} {v : Int32} (KK : KT K) (hI : IG img) (hD : DG ds0) {N : Nat} (hN : N ≤ 1000) : itC K (stC ds0 img K v) N 0 = itC K (stC ds0 img K 0) N 0 := by
  obtain ⟨s, hs⟩ : ∃ s : Nat → Nat → Int32, s = fun f i => if f = 43 then Int32.ofNat K.1 else if f = 41 then K.2.1 i else if f = 42 then K.2.2 i else if f = 53 then img i else if f = 54 then ds0 i else if f = 55 then v else 0 := ⟨_, rfl⟩
  have KS : KR K s := ⟨by rw [hs]; rfl, KK.1.1, fun k hk => by rw [hs]; exact ⟨rfl, rfl, KK.2 k hk⟩⟩
  obtain ⟨h⟩ : Nonempty ax_H := ⟨(fun _ => .inr (0, []), 0, 0)⟩
  obtain ⟨s1, a1, a2, -⟩ := t_makesAnew (w := 0) (v := v) KK hI hD KS (fun a _ => by rw [hs]; rfl) (fun a _ => by rw [hs]; rfl) (by rw [hs, Int32.add_zero]; rfl) hN (d := 10) (Nat.le_refl _) h
  obtain ⟨s2, b1, b2, -⟩ := t_makesAnew (w := v) (v := 0) KK hI hD KS (fun a _ => by rw [hs]; rfl) (fun a _ => by rw [hs]; rfl) (by rw [hs, Int32.zero_add]; rfl) hN (d := 10) (Nat.le_refl _) h
  rw [a1] at b1
  have e : tw_H h s1 = tw_H h s2 := congrArg (fun r : Option ax_R => match r with | some (_, x) => x | none => h) b1
  have t1 : dx_gI [(38, 23)] (.ref 417) (tw_H h s1) = some (s1 23 0) := tg_23 h _
  have t2 : dx_gI [(38, 23)] (.ref 417) (tw_H h s2) = some (s2 23 0) := tg_23 h _
  rw [e, t2] at t1
  have f : s2 23 0 = s1 23 0 := Option.some.inj t1
  have r1 : s1 23 0 = _ := a2.1.sml (p := 0) (by omega)
  have r2 : s2 23 0 = _ := b2.1.sml (p := 0) (by omega)
  rw [← r1, ← r2]; exact f.symm
