/-! the law begins: the gym is made -/
/- with OLD OLD.mono al_init ll_init Ex c_minit MM MM.mono formC form_at form_fsi GO CF CLW CTW DRL AL.mono LL.mono WS WS.o OF FW TF RA RB RTp RCl formS DK FSI.fw rg.of rg0 rg_ite fF_fld fF_mem fF_dsk pk wlC fl_ne mch wld tst lnD -/
section ZIN
variable {h h' H : ax_H} {d : Nat}
/-- the gym, as it is made -/
def GYM (h : ax_H) : Prop := h.2.1 = 17 ∧ h.2.2 ≤ 2000 ∧ GO h .null ∧ MM 402 1 407 (fun _ => 0) (formC fun _ => 0) (0, (fun _ => 0), fun _ => 0) 0 (fun _ => []) 17 (fun q => 402 ≤ q ∧ q ≤ 413) h ∧ AL h 401 0 1 0 0 (fun _ => 0) ∧ AL h 414 0 1 0 0 (fun _ => 0) ∧ LL h 415 0 0 (fun _ => 0) (fun _ => 0) ∧ LL h 416 0 0 (fun _ => 0) (fun _ => 0)
theorem x_ginit (o1 : ∃ f, h.1 1 = .inl (4, 0, objs f)) (hs : h.2.1 = 0) (hw : h.2.2 = 0) (hd : 8 ≤ d) : Ok (ax_c d 209 [.ref 400] (ax_new h (.inr (19, [.null, .null, .null, .null, .null, .null])) 6)) (.inl none) (fun h' => GYM h' ∧ ∀ q, q < 400 → h'.1 q = h.1 q) := by
  obtain ⟨d, rfl, he⟩ := d_succ hd
  obtain ⟨f1, o1⟩ := o1
  refine Ok.le m_X1_init ?_
  obtain ⟨hA, ehA⟩ : ∃ hA, hA = ax_new h (.inr (19, [.null, .null, .null, .null, .null, .null])) 6 := ⟨_, rfl⟩
  have A0 : hA.1 400 = .inr (19, [.null, .null, .null, .null, .null, .null]) := by rw [ehA, show (400 : Nat) = 400 + h.2.1 by omega]; exact new_eq _ _
  have A1 : hA.2.1 = 1 := by rw [ehA]; show h.2.1 + 1 = 1; omega
  have A2 : hA.2.2 = 6 := by rw [ehA]; show h.2.2 + 6 = 6; omega
  have A3 : ∀ q, q < 400 → hA.1 q = h.1 q := fun q hq => by rw [ehA]; exact new_ne _ _ (by omega)
  rw [← ehA]
  clear ehA
  rw [nn_ref, nw_at]
  obtain ⟨hB, ehB⟩ : ∃ hB, hB = ax_new hA (.inr (4, [.int 0, .null, .int 0])) 3 := ⟨_, rfl⟩
  have B0 : hB.1 401 = .inr (4, [.int 0, .null, .int 0]) := by rw [ehB, show (401 : Nat) = 400 + hA.2.1 by omega]; exact new_eq _ _
  have B1 : hB.2.1 = 2 := by rw [ehB]; show hA.2.1 + 1 = 2; omega
  have B2 : hB.2.2 = 9 := by rw [ehB]; show hA.2.2 + 3 = 9; omega
  have B3 : ∀ q, q < 401 → hB.1 q = hA.1 q := fun q hq => by rw [ehB]; exact new_ne _ _ (by omega)
  rw [← ehB, show 400 + hA.2.1 = 401 by omega]
  clear ehB
  refine Ok.V (al_init (by omega) (by omega) (by omega) B0 ⟨f1, (B3 1 (by omega)).trans ((A3 1 (by omega)).trans o1)⟩ (fun _ => 0)) ?_
  rintro hC ⟨AC, C1, C2⟩
  have c400 : hC.1 400 = .inr (19, [.null, .null, .null, .null, .null, .null]) := (C2 _ (by omega)).trans ((B3 _ (by omega)).trans A0)
  have W0 : WS 400 19 [.null, .null, .null, .null, .null, .null] hC hC := ⟨c400, fun _ _ => rfl, rfl⟩
  obtain ⟨hD, D0, WD⟩ := W0.o (j := 0) (s := "java/util/List") (Nat.le_of_ble_eq_true rfl) (by omega) 401
  obtain ⟨d0, d1, d2⟩ := WD
  rw [D0, Option.bind_some, nw_at]
  have D1 : hD.2.1 = 2 := by rw [d2, C1]; exact B1
  have D2 : hD.2.2 = 9 := by rw [d2, C1]; exact B2
  obtain ⟨hE, ehE⟩ : ∃ hE, hE = ax_new hD (.inr (29, [.null, .null, .null, .int 0, .null, .null, .null, .null, .null, .int 0])) 10 := ⟨_, rfl⟩
  have E0 : hE.1 402 = .inr (29, [.null, .null, .null, .int 0, .null, .null, .null, .null, .null, .int 0]) := by rw [ehE, show (402 : Nat) = 400 + hD.2.1 by omega]; exact new_eq _ _
  have E1 : hE.2.1 = 3 := by rw [ehE]; show hD.2.1 + 1 = 3; omega
  have E2 : hE.2.2 = 19 := by rw [ehE]; show hD.2.2 + 10 = 19; omega
  have E3 : ∀ q, q < 402 → hE.1 q = hD.1 q := fun q hq => by rw [ehE]; exact new_ne _ _ (by omega)
  rw [← ehE, show 400 + hD.2.1 = 402 by omega]
  clear ehE
  refine Ok.V (c_minit (b := 402) (kp := 1) (by omega) (by omega) (by omega) E0 (Or.inr rfl) (fun _ => 0) (fun _ => 0) (fun _ => [])) ?_
  rintro hF ⟨MF, F1, F2, F3⟩
  have f400 : hF.1 400 = .inr (19, [.ref 401, .null, .null, .null, .null, .null]) := (F3 _ (by omega)).trans ((E3 _ (by omega)).trans d0)
  have WF : WS 400 19 [.ref 401, .null, .null, .null, .null, .null] hF hF := ⟨f400, fun _ _ => rfl, rfl⟩
  obtain ⟨hG, G0, g0, g1, g2⟩ := WF.o (j := 1) (s := "KernelGym$Machine") (Nat.le_of_ble_eq_true rfl) (by omega) 402
  rw [G0, Option.bind_some, nw_at]
  have G1 : hG.2.1 = 14 := by rw [g2]; omega
  have G2 : hG.2.2 = 950 := by rw [g2]; omega
  obtain ⟨hI, ehI⟩ : ∃ hI, hI = ax_new hG (.inr (4, [.int 0, .null, .int 0])) 3 := ⟨_, rfl⟩
  have I0 : hI.1 414 = .inr (4, [.int 0, .null, .int 0]) := by rw [ehI, show (414 : Nat) = 400 + hG.2.1 by omega]; exact new_eq _ _
  have I1 : hI.2.1 = 15 := by rw [ehI]; show hG.2.1 + 1 = 15; omega
  have I2 : hI.2.2 = 953 := by rw [ehI]; show hG.2.2 + 3 = 953; omega
  have I3 : ∀ q, q < 414 → hI.1 q = hG.1 q := fun q hq => by rw [ehI]; exact new_ne _ _ (by omega)
  rw [← ehI, show 400 + hG.2.1 = 414 by omega]
  clear ehI
  have low : ∀ q, q < 400 → hG.1 q = h.1 q := fun q hq => by
    rw [g1 q (by omega), F3 q (by omega), E3 q (by omega), d1 q (by omega), C2 q (by omega), B3 q (by omega)]; exact A3 q hq
  refine Ok.V (al_init (by omega) (by omega) (by omega) I0 ⟨f1, (I3 1 (by omega)).trans ((low 1 (by omega)).trans o1)⟩ (fun _ => 0)) ?_
  rintro hJ ⟨AJ, J1, J2⟩
  have WJ : WS 400 19 [.ref 401, .ref 402, .null, .null, .null, .null] hJ hJ := ⟨(J2 _ (by omega)).trans ((I3 _ (by omega)).trans g0), fun _ _ => rfl, rfl⟩
  obtain ⟨hK, K0, k0, k1, k2⟩ := WJ.o (j := 2) (s := "java/util/List") (Nat.le_of_ble_eq_true rfl) (by omega) 414
  rw [K0, Option.bind_some, nw_at]
  have K1 : hK.2.1 = 15 := by rw [k2, J1]; exact I1
  have K2 : hK.2.2 = 953 := by rw [k2, J1]; exact I2
  obtain ⟨hL, ehL⟩ : ∃ hL, hL = ax_new hK (.inr (15, [.int 0, .int 0, .null, .null])) 4 := ⟨_, rfl⟩
  have L0 : hL.1 415 = .inr (15, [.int 0, .int 0, .null, .null]) := by rw [ehL, show (415 : Nat) = 400 + hK.2.1 by omega]; exact new_eq _ _
  have L1 : hL.2.1 = 16 := by rw [ehL]; show hK.2.1 + 1 = 16; omega
  have L2 : hL.2.2 = 957 := by rw [ehL]; show hK.2.2 + 4 = 957; omega
  have L3 : ∀ q, q < 415 → hL.1 q = hK.1 q := fun q hq => by rw [ehL]; exact new_ne _ _ (by omega)
  rw [← ehL, show 400 + hK.2.1 = 415 by omega]
  clear ehL
  refine Ok.V (ll_init (by omega) (by omega) (by omega) L0 (fun _ => 0) (fun _ => 0)) ?_
  rintro hM ⟨AM, M1, M2⟩
  have WM : WS 400 19 [.ref 401, .ref 402, .ref 414, .null, .null, .null] hM hM := ⟨(M2 _ (by omega)).trans ((L3 _ (by omega)).trans k0), fun _ _ => rfl, rfl⟩
  obtain ⟨hN, N0, n0, n1, n2⟩ := WM.o (j := 3) (s := "java/util/LinkedList") (Nat.le_of_ble_eq_true rfl) (by omega) 415
  rw [N0, Option.bind_some, nw_at]
  have N1 : hN.2.1 = 16 := by rw [n2, M1]; exact L1
  have N2 : hN.2.2 = 957 := by rw [n2, M1]; exact L2
  obtain ⟨hO, ehO⟩ : ∃ hO, hO = ax_new hN (.inr (15, [.int 0, .int 0, .null, .null])) 4 := ⟨_, rfl⟩
  have O0 : hO.1 416 = .inr (15, [.int 0, .int 0, .null, .null]) := by rw [ehO, show (416 : Nat) = 400 + hN.2.1 by omega]; exact new_eq _ _
  have O1 : hO.2.1 = 17 := by rw [ehO]; show hN.2.1 + 1 = 17; omega
  have O2 : hO.2.2 = 961 := by rw [ehO]; show hN.2.2 + 4 = 961; omega
  have O3 : ∀ q, q < 416 → hO.1 q = hN.1 q := fun q hq => by rw [ehO]; exact new_ne _ _ (by omega)
  rw [← ehO, show 400 + hN.2.1 = 416 by omega]
  clear ehO
  refine Ok.V (ll_init (by omega) (by omega) (by omega) O0 (fun _ => 0) (fun _ => 0)) ?_
  rintro hP ⟨AP, P1, P2⟩
  have WP : WS 400 19 [.ref 401, .ref 402, .ref 414, .ref 415, .null, .null] hP hP := ⟨(P2 _ (by omega)).trans ((O3 _ (by omega)).trans n0), fun _ _ => rfl, rfl⟩
  obtain ⟨hQ, Q0, q0, q1, q2⟩ := WP.o (j := 4) (s := "java/util/LinkedList") (Nat.le_of_ble_eq_true rfl) (by omega) 416
  rw [Q0, Option.bind_some]
  have sQ : hQ.2.1 = 17 := by rw [q2, P1]; exact O1
  have wQ : hQ.2.2 = 961 := by rw [q2, P1]; exact O2
  -- what stays
  have s415 : ∀ q, q < 416 → q ≠ 400 → hQ.1 q = hM.1 q := fun q hq hne => by rw [q1 q hne, P2 q (by omega), O3 q hq, n1 q hne]
  have s414 : ∀ q, q < 415 → q ≠ 400 → hQ.1 q = hJ.1 q := fun q hq hne => by rw [s415 q (by omega) hne, M2 q (by omega), L3 q hq, k1 q hne]
  have s413 : ∀ q, q < 414 → q ≠ 400 → hQ.1 q = hF.1 q := fun q hq hne => by rw [s414 q (by omega) hne, J2 q (by omega), I3 q hq, g1 q hne]
  have s401 : ∀ q, q < 402 → q ≠ 400 → hQ.1 q = hC.1 q := fun q hq hne => by rw [s413 q (by omega) hne, F3 q hq, E3 q hq, d1 q hne]
  refine Ok.ret ⟨⟨sQ, by omega, q0, MF.mono (fun q hq => s413 q (by omega) (by omega)) (by omega) (fun q hq => by omega) (fun q hq => by omega), AC.mono (s401 _ (by omega) (by omega)) (s401 _ (by omega) (by omega)) (by rw [sQ, C1, B1]; omega), AJ.mono (s414 _ (by omega) (by omega)) (s414 _ (by omega) (by omega)) (by rw [sQ, J1, I1]; omega), AM.mono (s415 _ (by omega) (by omega)) (fun i hi => absurd hi (Nat.not_lt_zero _)) (by rw [sQ, M1, L1]; omega), AP.mono (q1 _ (by omega)) (fun i hi => absurd hi (Nat.not_lt_zero _)) (by rw [sQ, P1, O1]; omega)⟩, fun q hq => ?_⟩
  rw [s401 q (by omega) (by omega), C2 q (by omega), B3 q (by omega)]; exact A3 q hq
/-! the first cells -/
theorem form_dd : ∀ a, a < 256 → ds (formC fun _ => 0) a = if a = 32 then 255 else 0 := fun a ha => by
  show formC (fun _ => 0) (365 + a) = _
  rw [form_at]
  by_cases e : a = 32
  · rw [if_pos (by omega), if_pos e]
  · rw [if_neg (by omega), if_pos (by omega), if_neg e]
theorem of_0 : OF (formC fun _ => 0) ∧ FW (ds (formC fun _ => 0)) := by
  obtain ⟨f1, f2⟩ := form_fsi form_dd
  refine ⟨⟨fun p hp => ?_, fun a ha => ?_, Or.inl ⟨f2, f1⟩⟩, f1.fw⟩
  · rw [form_at, if_neg (by omega)]
    split <;> rfl
  · rw [form_dd a ha]; exact rg_ite (rg.of (n := 255) (by omega) (by omega)) (rg0 (by omega))
theorem tf_0 : TF (formC fun _ => 0) (formS fun _ _ => 0) := by
  have z : ∀ p, p < 364 → formC (fun _ => 0) p = 0 := fun p hp => by rw [form_at, if_neg (by omega), if_neg (by omega)]
  refine ⟨⟨fun p hp => ?_, ⟨by rw [z 17 (by omega)]; exact Nat.zero_le _, fun i hi => ?_⟩, ⟨?_, fun y => absurd (z 18 (by omega)) y⟩, ?_⟩, rfl⟩
  · unfold pk at hp
    by_cases h365 : p < 365
    · rw [z p (by omega)]
      have n50 : fF p ≠ 50 := by
        by_cases z : p < 18
        · have : ∀ p, p < 18 → fF p ≠ 50 := by decide
          exact this p z
        · obtain ⟨a, rfl⟩ : ∃ a, p = 108 + a := ⟨p - 108, by omega⟩
          rw [(fF_mem (by omega)).1]; decide
      have ff := fF_fld (p := p) (by unfold pk; omega)
      unfold formS
      rw [tw_up_at, if_neg (by omega), tw_up_at, if_neg n50, fl_ne n50]
    · obtain ⟨a, rfl⟩ : ∃ a, p = 365 + a := ⟨p - 365, by omega⟩
      rw [(fF_dsk (by omega)).1, (fF_dsk (by omega)).2, show formC (fun _ => 0) (365 + a) = ds (formC fun _ => 0) a from rfl, form_dd a (by omega)]
      show upd (fun j => if j < 256 then (0 : Int32) else 0) 32 255 a = _
      rw [upd_at]
      split
      · rfl
      · split <;> rfl
  · rw [z 17 (by omega)] at hi
    exact absurd hi (Nat.not_lt_zero _)
  · show (0 : Int32) = _
    exact (if_pos (z 18 (by omega))).symm
  · show (0 : Int32) = formC (fun _ => 0) 364 + 0
    rw [form_at, if_neg (by omega), if_pos (by omega)]
    rfl
end ZIN
