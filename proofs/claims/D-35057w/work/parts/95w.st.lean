/-! class and twin alike: a step -/
/- with AR.g AR.eqM RB.cong RB.sml in_instr in_write in_inter in_fault in_pass IV CG.ne CK.fsi act_ok GD.f01 GD.wc GD.pl KT KG MKm RSt -/
/-- class and twin at rest -/
def RA (w : Int32) (c : Nat → Int32) (s : Nat → Nat → Int32) : Prop := RB c s ∧ RTp c s ∧ RCl c s ∧ s 52 0 = c 364 + w
/-- the addresses of the memory among the places written -/
def MS (ws : ce_W) (a : Nat) : Prop := a < 256 ∧ MW ws a
theorem cpW_ge {c0 : ce_C} {o p : Nat} : ∀ (m j : Nat) (q : Nat × Int32), q ∈ cpW c0 o p m j → o ≤ q.1 := by
  intro m
  induction m with
  | zero => intro j q hq; exact absurd hq List.not_mem_nil
  | succ m ih =>
    intro j q hq
    rcases List.mem_cons.mp hq with rfl | hq
    · exact Nat.le_add_right _ _
    · exact ih (j + 1) q hq
theorem hd8_ge {c0 : ce_C} {m : Nat} : ∀ (k p : Nat) (q : Nat × Int32), q ∈ hd8 c0 m k p → 365 ≤ q.1 := by
  intro k
  induction k with
  | zero => intro p q hq; exact absurd hq List.not_mem_nil
  | succ k ih =>
    intro p q hq
    rcases List.mem_cons.mp hq with rfl | hq
    · exact Nat.le_add_right _ _
    · exact ih (p + 1) q hq
theorem write_pl {c : Nat → Int32} : ∀ q, q ∈ writeO c → q.1 < 108 ∨ 364 ≤ q.1 := by
  intro q hq
  unfold writeO at hq
  dsimp only at hq
  rcases List.mem_append.mp hq with hq | hq
  · split at hq
    · exact Or.inr (Nat.le_trans (by omega) (cpW_ge 8 0 q hq))
    · split at hq
      · exact Or.inr (Nat.le_trans (by omega) (cpW_ge 8 0 q hq))
      · unfold hdW at hq
        rcases List.mem_append.mp hq with hq | hq
        · exact Or.inr (Nat.le_trans (by omega) (hd8_ge 8 0 q hq))
        · rw [List.mem_singleton.mp hq]; exact Or.inr (by show 364 ≤ 369; omega)
  · rcases List.mem_append.mp hq with hq | hq
    · rcases List.mem_cons.mp hq with rfl | hq
      · exact Or.inr (by show 364 ≤ 364; omega)
      · rw [List.mem_singleton.mp hq]; exact Or.inl (by show 19 < 108; omega)
    · split at hq
      · rcases List.mem_cons.mp hq with rfl | hq
        · exact Or.inl (by show 18 < 108; omega)
        · rcases List.mem_cons.mp hq with rfl | hq
          · exact Or.inl (by show 15 < 108; omega)
          · rw [List.mem_singleton.mp hq]; exact Or.inl (by show 3 < 108; omega)
      · exact absurd hq List.not_mem_nil
theorem MS_wr {c : Nat → Int32} (a : Nat) : ¬ MS (writeO c) a := fun ⟨h, x, hx⟩ => by
  have : 108 + a < 108 ∨ 364 ≤ 108 + a := write_pl _ hx
  omega
section STP
variable {n : Nat} {w : Int32} {s0 s : Nat → Nat → Int32} {M : Nat → Prop} {c : Nat → Int32} {K : kk_K}
theorem AR.ms {ws : ce_W} (A : AR n w s0 (MW ws) c s) : AR n w s0 (MS ws) c s := by
  refine A.eqM fun a => ⟨fun z => z.2, fun z => ⟨?_, z⟩⟩
  rcases A.2.2.2.2.1 with ⟨-, -, m⟩ | ⟨b, b1, -, -, m⟩ | ⟨b, b', b1, b2, -, -, m⟩
  · exact absurd z (m a)
  · have := (m a).mp z; omega
  · have := (m a).mp z; omega
theorem AR.ra (A : AR n w s0 M c s) : RA w c s := ⟨A.1, A.2.1, A.2.2.1, A.2.2.2.1⟩
theorem MKm.cong2 {s' : Nat → Nat → Int32} (m : MKm n M s) (h : s' 44 n = s 44 n) (h2 : s' 45 n = s 45 n) : MKm n M s' := m.cong h h2
theorem RA.mark (R : RA w c s) (hn : c 2 = Int32.ofNat n) (h1000 : n < 1000) : AR n w s (fun _ => False) c (markS s) := by
  obtain ⟨r1, r2, r3, r4⟩ := R
  have e38 : s 38 0 = Int32.ofNat n := (r1.sml (p := 2) (by omega)).trans hn
  have e : markS s = tw_up (tw_up s 44 n (-1)) 45 n (-1) := by
    unfold markS
    rw [e38, if_pos (show Int32.ofNat n < 1000 from (i_lt (b := 1000) (by omega) (by omega)).mpr h1000), show (Int32.ofNat n).toNatClampNeg = n from i_nat (by omega)]
  rw [e]
  have ne : ∀ f, f ≠ 44 → f ≠ 45 → tw_up (tw_up s 44 n (-1)) 45 n (-1) f = s f := fun f h1 h2 => by rw [tw_up_at, if_neg h2, tw_up_at, if_neg h1]
  have e44 : ∀ k, tw_up (tw_up s 44 n (-1)) 45 n (-1) 44 k = if k = n then -1 else s 44 k := fun k => by
    rw [tw_up_at, if_neg (by decide), tw_up_at, if_pos rfl, upd_at]
  have e45 : ∀ k, tw_up (tw_up s 44 n (-1)) 45 n (-1) 45 k = if k = n then -1 else s 45 k := fun k => by
    rw [tw_up_at, if_pos rfl, upd_at, tw_up_at, if_neg (show ¬ 45 = 44 by decide)]
  refine ⟨r1.cong fun f f1 f2 f3 f4 => ne f (by omega) (by omega), ⟨r2.1, fun i hi => by rw [ne 36 (by decide) (by decide)]; exact r2.2 i hi⟩, ⟨by rw [ne 46 (by decide) (by decide)]; exact r3.1, fun h => ?_⟩, by rw [ne 52 (by decide) (by decide)]; exact r4, Or.inl ⟨by rw [e44, if_pos rfl], by rw [e45, if_pos rfl], fun a z => z⟩, fun f hf => ne f (by omega) (by omega), fun k hk => ⟨by rw [e44, if_neg hk], by rw [e45, if_neg hk]⟩⟩
  rw [ne 47 (by decide) (by decide), ne 48 (by decide) (by decide), ne 49 (by decide) (by decide)]
  exact r3.2 h
theorem t_interF {d : Nat} (hd : 2 ≤ d) (h : ax_H) (s : Nat → Nat → Int32) (h2 : ¬ (2 : Int32) ≤ s 28 0) : ax_c d 421 [.ref 417] (tw_H h s) = some (.inl none, tw_H h (tw_up (tw_up s 23 0 3) 24 0 3)) := by
  obtain ⟨d, rfl, he⟩ := d_succ hd
  refine dx_app m_X3_interrupts ?_
  rw [tg_28, Option.bind_some, if_neg h2, tw_vn, Option.bind_some, t_faults he, cV_v]
theorem pass_lt : ∀ q, q ∈ passW K c → q.1 < 108 := by
  intro q hq
  unfold passW timeW comeW at hq
  rcases List.mem_append.mp hq with hq | hq
  · rw [List.mem_singleton.mp hq]; show 2 < 108; omega
  · rcases List.mem_append.mp hq with hq | hq
    · split at hq
      · exact absurd hq List.not_mem_nil
      · rcases List.mem_cons.mp hq with rfl | hq
        · show 11 < 108; omega
        · rw [List.mem_singleton.mp hq]; show 8 < 108; omega
    · split at hq
      · exact absurd hq List.not_mem_nil
      · rw [List.mem_singleton.mp hq]; show 9 < 108; omega
theorem KR.of {s' : Nat → Nat → Int32} (R : KR K s) (h : ∀ f, 41 ≤ f → f < 44 → s' f = s f) : KR K s' := by
  unfold KR
  rw [h 41 (by omega) (by omega), h 42 (by omega) (by omega), h 43 (by omega) (by omega)]
  exact R
theorem in_act (R : RA w c s) (V : IV n K c) (KK : KT K) (KS : KR K s) (h1000 : n < 1000) {d : Nat} (hd : 8 ≤ d) (h : ax_H) : ∃ s1, (if (markS s) 46 0 ≤ 0 then (if s 31 0 = 0 ∨ (s 32 0 = 0 ∧ s 33 0 = 0) then ax_c d 426 [.ref 417] (tw_H h (markS s)) else ax_c d 421 [.ref 417] (tw_H h (markS s))) else ax_c d 420 [.ref 417] (tw_H h (markS s))) = some (.inl none, tw_H h s1) ∧ AR n w s (MS (actW K c)) (apW c (actW K c)) s1 := by
  obtain ⟨G, C, h2, -⟩ := V
  have hB : toldN K.2.1 0 (c 2) K.1 ≤ 20 := Nat.le_trans (toldN_le _ _ _ _) KK.1.1
  have A := R.mark h2 h1000
  have WCc := G.wc hB
  have F := G.f01
  have hk : nn (c 16) ≤ toldN K.2.1 0 (c 2) K.1 := (rg.nat (G 16 _ rfl)).1
  have KM : KR K (markS s) := KS.of fun f f1 f2 => A.2.2.2.2.2.1 f (by omega)
  have e31 : s 31 0 = c 7 := R.1.sml (p := 7) (by omega)
  have e32 : s 32 0 = c 8 := R.1.sml (p := 8) (by omega)
  have e33 : s 33 0 = c 9 := R.1.sml (p := 9) (by omega)
  have e28 : markS s 28 0 = c 4 := A.g (p := 4) (by omega)
  have e38 : markS s 38 0 = c 2 := A.g (p := 2) (by omega)
  have e46 : markS s 46 0 = wlC c := A.2.2.1.1
  have hM : ∀ b, ¬ (fun _ : Nat => False) b := fun _ z => z
  rcases C with ⟨z1, z2, z3⟩ | ⟨m, k, W, C⟩
  · have eA : actW K c = if c 7 = 1 ∧ ¬ c 8 + c 9 ≤ 0 then (if 2 ≤ c 4 then interW c else stopW 3) else inL (instO K c) := by
      unfold actW actO
      rw [if_pos (show c 18 ≤ 0 by rw [z1]; decide)]
      by_cases q : c 7 = 1 ∧ ¬ c 8 + c 9 ≤ 0
      · rw [if_pos q, if_pos q]
        by_cases q2 : (2 : Int32) ≤ c 4
        · rw [if_pos q2, if_pos q2]
        · rw [if_neg q2, if_neg q2]
      · rw [if_neg q, if_neg q]; rfl
    rw [e46, show wlC c = 0 from if_pos z1, if_pos (by decide), e31, e32, e33]
    have cond : (c 7 = 0 ∨ (c 8 = 0 ∧ c 9 = 0)) ↔ ¬ (c 7 = 1 ∧ ¬ c 8 + c 9 ≤ 0) := by
      rcases F 7 (by omega) (by omega) with x | x <;> rcases F 8 (by omega) (by omega) with y | y <;> rcases F 9 (by omega) (by omega) with z | z <;> rw [x, y, z] <;> decide
    by_cases q : c 7 = 1 ∧ ¬ c 8 + c 9 ≤ 0
    · rw [if_neg (fun z => cond.mp z q), eA, if_pos q]
      by_cases q2 : (2 : Int32) ≤ c 4
      · rw [if_pos q2]
        refine ⟨_, ?_, (in_inter A WCc F hM h2 h1000 q2).ms⟩
        obtain ⟨d1, d2, d3⟩ := rg_dec WCc.2.1 (Int32.le_trans (by decide : (1 : Int32) ≤ 2) q2)
        obtain ⟨k1, k2⟩ := rg.nat WCc.2.1
        have n2 : 2 ≤ nn (c 4) := by rw [k2] at q2; exact (i_le (a := 2) (by omega) (by omega)).mp q2
        have m1 : c 4 - 1 = Int32.ofNat (nn (c 4) - 1) := (congrArg (· - 1) k2).trans (i_sub (b := 1) (by omega))
        have m2 : c 4 - 1 - 1 = Int32.ofNat (nn (c 4) - 1 - 1) := (congrArg (· - 1) m1).trans (i_sub (b := 1) (by omega))
        refine t_interrupts (by omega) h (markS s) ?_ (by rw [e28]; exact q2) ?_ ?_ ?_ ?_
        · rw [e38, h2]; exact (i_le (a := 0) (by omega) (by omega)).mpr (by omega)
        · rw [e28, m1]; exact (i_le (a := 0) (by omega) (by omega)).mpr (by omega)
        · rw [e28, m1, i_nat (by omega)]; omega
        · rw [e28, m2]; exact (i_le (a := 0) (by omega) (by omega)).mpr (by omega)
        · rw [e28, m2, i_nat (by omega)]; omega
      · rw [if_neg q2]
        exact ⟨_, t_interF (by omega) h (markS s) (by rw [e28]; exact q2), (in_fault A hM 3).ms⟩
    · rw [if_pos (cond.mpr q), eA, if_neg q]
      obtain ⟨s', t1, t2⟩ := in_instr A hM WCc F z3 KM h2 h1000 hk hd h
      exact ⟨s', t1, t2.ms⟩
  · have CC : CK c := Or.inr ⟨m, k, W, C⟩
    have n0 := C.ne
    obtain ⟨g1, g2, ⟨m1, m3, k1, c3⟩, g4, g5, g6, -⟩ := C
    have eA : actW K c = writeO c := by
      unfold actW actO
      rw [if_neg]
      rw [g1]; exact fun z => by have := (i_le (b := 0) (by omega) (by omega)).mp z; omega
    have wl : wlC c = Int32.ofNat (2 * m + 2 - k) := wl_val g1 g2 m1 m3 (by omega)
    rw [e46, wl, if_neg (fun z => by have := (i_le (b := 0) (by omega) (by omega)).mp z; omega), eA]
    obtain ⟨b0, b1, b2, b3⟩ := A.2.2.1.2 n0
    have nm : nn (c 18) = m := by rw [g1, nn_of (by omega)]
    rw [nm] at b2
    have W1 := in_write A g1 g2 m1 m3 k1 (fun j hj => ⟨_, (g5 j hj).2.1, (g5 j hj).2.2⟩) g6 (fun q hq => G.pl (by omega))
    refine ⟨_, t_writesBlock (by omega) h (markS s) (b1.trans g1) m3 k1 (e46.trans wl) (fun h1 h2 => ⟨nn (c (20 + (k - m - 1))), (g5 _ (by omega)).2.1, ?_⟩), W1.eqM fun a => ⟨fun z => absurd z (MS_wr a), fun z => z.elim⟩⟩
    rw [b2 _ (by omega)]
    exact (g5 _ (by omega)).2.2
theorem in_step (R : RA w c s) (V : IV n K c) (KK : KT K) (KS : KR K s) (h1000 : n < 1000) {d : Nat} (hd : 9 ≤ d) (h : ax_H) : ∃ s', ax_c d 419 [.ref 417] (tw_H h s) = some (.inl none, tw_H h s') ∧ AR n w s (MS (stepW K c)) (apW c (stepW K c)) s' := by
  have hB : toldN K.2.1 0 (c 2) K.1 ≤ 20 := V.b20 KK
  obtain ⟨s1, t1, A1⟩ := in_act R V KK KS h1000 (d := d - 1) (by omega) h
  obtain ⟨G1, C1, e2⟩ := act_ok (K := K) V.1 hB rfl KK.1 V.2.1
  have K1 : KR K s1 := KS.of fun f f1 f2 => A1.2.2.2.2.2.1 f (by omega)
  have F1 := G1.f01
  have s33 : s1 33 0 = apW c (actW K c) 9 := A1.g (p := 9) (by omega)
  have s32 : s1 32 0 = apW c (actW K c) 8 := A1.g (p := 8) (by omega)
  have e38 : s 38 0 = c 2 := R.1.sml (p := 2) (by omega)
  obtain ⟨x, ts, x1, x0⟩ := t_step (d := d) (by omega) h s s1 (by rw [e38, V.2.2.1]; exact (i_le (a := 0) (by omega) (by omega)).mpr (by omega)) K1.1 K1.2.1 (by rw [s33]; exact F1 9 (by omega) (by omega)) (by rw [s32]; exact F1 8 (by omega) (by omega)) (fun e he => by
    have : e = d - 1 := by omega
    rw [this]; exact t1)
  refine ⟨_, ts, ?_⟩
  unfold stepW
  rw [apW_app]
  refine (in_pass A1 F1 K1 x1 x0).eqM fun a => ?_
  constructor
  · rintro ⟨z1, z2⟩
    refine ⟨z1, (MW_app.mp z2).resolve_right fun y => MW_lo pass_lt a y⟩
  · rintro ⟨z1, z2⟩
    exact ⟨z1, MW_app.mpr (Or.inl z2)⟩
end STP
