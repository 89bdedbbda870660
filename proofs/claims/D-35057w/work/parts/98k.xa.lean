/-! the gym adds a test -/
/- with AL.mono AL.ne al_size al_get al_add LL.mono OLD OLD.mono GO GO.g XP XP.x0 Ext x_in x_inX x_must x_mustX lA_at cs_at FrP tsG DRL DRL.re x_taken CTW CT1 CT1.mono pF_int pF_aref -/
section XAT
variable {T n m : Nat} {q : Nat → tst} {P Pk Pw : Nat → Prop} {H H' h0 h : ax_H} {f g : Nat → Int32} {x y z w : Int32} {d : Nat} {iv : Value}
/-- fields of one thing are written -/
def WS (o k : Nat) (fs : List Value) (h0 h : ax_H) : Prop := h.1 o = .inr (k, fs) ∧ (∀ q, q ≠ o → h.1 q = h0.1 q) ∧ h.2 = h0.2
theorem WS.i {o k j : Nat} {fs : List Value} (W : WS o k fs h0 h) (hj : j < fs.length) (h4 : 400 ≤ o) (x : Int32) : ∃ h', dx_pF [(k, j)] .int (.ref o) (.int x) h = some h' ∧ WS o k (fs.set j (.int x)) h0 h' := by
  obtain ⟨a, b, c⟩ := W
  refine ⟨_, pF_int a (by simp [List.lookup]) hj h4, set_eq _, fun q hq => (set_ne _ hq).trans (b q hq), c⟩
theorem WS.a {o k j : Nat} {fs : List Value} {s : FieldType} (W : WS o k fs h0 h) (hj : j < fs.length) (h4 : 400 ≤ o) (x : Nat) : ∃ h', dx_pF [(k, j)] (.array s) (.ref o) (.ref x) h = some h' ∧ WS o k (fs.set j (.ref x)) h0 h' := by
  obtain ⟨a, b, c⟩ := W
  refine ⟨_, pF_aref a (by simp [List.lookup]) hj h4, set_eq _, fun q hq => (set_ne _ hq).trans (b q hq), c⟩
theorem x_newTest {b kp wp : Nat} (e : h.1 b = .inr (37, [.null, .null, .int 0, .int 0, .int 0, .int 0, .int 0, .int 0])) (h4 : 400 ≤ b) (hd : 1 ≤ d) : Ok (ax_c d 367 [.ref b, .ref kp, .ref wp, .int x, .int y, .int z, .int w] h) (.inl none) (WS b 37 [.ref kp, .ref wp, .int x, .int y, .int z, .int w, .int (-1), .int 0] h) := by
  obtain ⟨d, rfl, -⟩ := d_succ hd
  refine Ok.le (m_X27_init rfl rfl) ?_
  have W0 : WS b 37 _ h h := ⟨e, fun _ _ => rfl, rfl⟩
  obtain ⟨h1, e1, W1⟩ := W0.i (j := 6) (Nat.le_of_ble_eq_true rfl) h4 (-1)
  obtain ⟨h2, e2, W2⟩ := W1.a (j := 0) (s := .int) (Nat.le_of_ble_eq_true rfl) h4 kp
  obtain ⟨h3, e3, W3⟩ := W2.a (j := 1) (s := .int) (Nat.le_of_ble_eq_true rfl) h4 wp
  obtain ⟨h4', e4, W4⟩ := W3.i (j := 2) (Nat.le_of_ble_eq_true rfl) h4 x
  obtain ⟨h5, e5, W5⟩ := W4.i (j := 3) (Nat.le_of_ble_eq_true rfl) h4 y
  obtain ⟨h6, e6, W6⟩ := W5.i (j := 4) (Nat.le_of_ble_eq_true rfl) h4 z
  obtain ⟨h7, e7, W7⟩ := W6.i (j := 5) (Nat.le_of_ble_eq_true rfl) h4 w
  rw [nn_ref, e1, Option.bind_some, e2, Option.bind_some, e3, Option.bind_some, e4, Option.bind_some, e5, Option.bind_some, e6, Option.bind_some, e7, Option.bind_some]
  exact Ok.ret W7
theorem DRL.mono {p : Nat} (D : DRL p n f P H) (e : ∀ r, r < 400 + H.2.1 → P r ∨ r < 400 → H'.1 r = H.1 r) (hs : H.2.1 ≤ H'.2.1) : DRL p n f P H' := by
  obtain ⟨mc, ns, it, L, n6, Pp, Pb, I⟩ := D
  refine ⟨mc, ns, it, L.mono (e p (Pb p Pp) (Or.inl Pp)) (fun i hi => e _ (Pb _ (I i hi).2.2.2.1) (Or.inl (I i hi).2.2.2.1)) hs, n6, Pp, fun r hr => by have := Pb r hr; omega, fun i hi => ?_⟩
  obtain ⟨i1, i2, i3, i4, i5, i6, i7⟩ := I i hi
  exact ⟨(e _ i2 i5.symm).trans i1, by omega, i3, i4, i5, i6, i7⟩
/-- a new test -/
def nwT (n m : Nat) (f g : Nat → Int32) (x : Nat) (y z : Int32) (w : Nat) : tst := ((n, fun j => if j < n then f j else 0), (m, fun j => if j < m then g j else 0), x, y, z, w, -1, 0)
theorem x_addTest_bad {p : Nat} (hx : inI x 1 500 = 0 ∨ inI y 0 100 = 0 ∨ inI z 1 20 = 0 ∨ inI w 0 500 = 0) (hd : 2 ≤ d) : OkX (ax_c d 265 [.ref p, .int x, .int y, .int z, .int w] H) (XP 18 (Ext 1 6 H)) := by
  obtain ⟨d, rfl, he⟩ := d_succ hd
  refine OkX.le m_X1_addTest ?_
  by_cases e1 : inI x 1 500 = 0
  · exact OkX.xI (x_inX he e1) fun i h' X => X.x0 rfl
  · rw [x_in he e1, cI_v]
    by_cases e2 : inI y 0 100 = 0
    · exact OkX.xI (x_inX he e2) fun i h' X => X.x0 rfl
    · rw [x_in he e2, cI_v]
      by_cases e3 : inI z 1 20 = 0
      · exact OkX.xI (x_inX he e3) fun i h' X => X.x0 rfl
      · rw [x_in he e3, cI_v]
        refine OkX.xI (x_inX he ?_) fun i h' X => X.x0 rfl
        rcases hx with e | e | e | e
        · exact absurd e e1
        · exact absurd e e2
        · exact absurd e e3
        · exact e
theorem x_addTest_full (C : CTW T q P H) (G : GO H iv) (hx : inI x 1 500 ≠ 0 ∧ inI y 0 100 ≠ 0 ∧ inI z 1 20 ≠ 0 ∧ inI w 0 500 ≠ 0) (hT : T = 5) (hd : 2 ≤ d) : OkX (ax_c d 265 [.ref 400, .int x, .int y, .int z, .int w] H) (XP 0 (Ext 1 6 H)) := by
  obtain ⟨d, rfl, he⟩ := d_succ hd
  obtain ⟨mc, arr, cap, it, A, -⟩ := C
  refine OkX.le m_X1_addTest ?_
  have g2 : dx_gA [(19, 2)] (.ref 400) H = some (.ref 414) := gA_r G rfl rfl
  have v59 : dx_vn [(4, 59)] (.ref 414) H = some 59 := vn_at A.1
  rw [x_in he hx.1, cI_v, x_in he hx.2.1, cI_v, x_in he hx.2.2.1, cI_v, x_in he hx.2.2.2, cI_v, g2, Option.bind_some, v59, Option.bind_some, al_size he A, cI_v, hT, if_pos (show (5 : Int32) ≤ Int32.ofNat 5 from by decide)]
  refine OkX.le b_X1_addTest_53 ?_
  exact OkX.xV (x_mustX he) fun i h' X => X.x0 rfl
theorem x_addTest_yes (C : CTW T q P H) (G : GO H iv) (O : OLD H) (K : DRL 415 n f Pk H) (W : DRL 416 m g Pw H) (rk : RG Pk) (rw' : RG Pw) (d1 : ∀ r, P r → ¬ Pk r ∧ ¬ Pw r) (d2 : ∀ r, Pk r → ¬ Pw r) {k l : Nat} (hx : inI x 1 500 ≠ 0 ∧ inI y 0 100 ≠ 0 ∧ inI z 1 20 ≠ 0 ∧ inI w 0 500 ≠ 0) (hk : x = Int32.ofNat k) (hk5 : k ≤ 500) (hl : w = Int32.ofNat l) (hl5 : l ≤ 500) (hz : rg 20 z) (hT : T < 5) (hd : 7 ≤ d) : Ok (ax_c d 265 [.ref 400, .int x, .int y, .int z, .int w] H) (.inl (some (.int (Int32.ofNat T)))) (fun H' => CTW (T + 1) (fun t => if t = T then nwT n m f g k y z l else q t) (xR P H H') H' ∧ DRL 415 0 f Pk H' ∧ DRL 416 0 g Pw H' ∧ FrP (fun r => P r ∨ Pk r ∨ Pw r) 4 40 H H') := by
  obtain ⟨d, rfl, he⟩ := d_succ hd
  obtain ⟨mc, arr, cap, it, A, T5, ct, inj, PB, P414, Parr⟩ := C
  refine Ok.le m_X1_addTest ?_
  have g2 : dx_gA [(19, 2)] (.ref 400) H = some (.ref 414) := gA_r G rfl rfl
  have v59 : dx_vn [(4, 59)] (.ref 414) H = some 59 := vn_at A.1
  rw [x_in (by omega) hx.1, cI_v, x_in (by omega) hx.2.1, cI_v, x_in (by omega) hx.2.2.1, cI_v, x_in (by omega) hx.2.2.2, cI_v, g2, Option.bind_some, v59, Option.bind_some, al_size (by omega) A, cI_v, if_neg (show ¬ (5 : Int32) ≤ Int32.ofNat T from i_ge_not (n := 5) hT (by omega))]
  refine Ok.le b_X1_addTest_53 ?_
  rw [x_must (by omega) (by decide), cV_v, g2, Option.bind_some, nw_at]
  obtain ⟨b, eb⟩ : ∃ b, b = 400 + H.2.1 := ⟨_, rfl⟩
  rw [← eb]
  have p414 := PB 414 P414
  have arlt : arr < b := by have := A.2.2.2.2.2.2.2.2; omega
  obtain ⟨H1, eH1⟩ : ∃ H1, H1 = ax_new H (.inr (37, [.null, .null, .int 0, .int 0, .int 0, .int 0, .int 0, .int 0])) 8 := ⟨_, rfl⟩
  rw [← eH1]
  have n1 : ∀ r, r < b → H1.1 r = H.1 r := fun r hr => by rw [eH1]; exact new_ne _ _ (by omega)
  have b1 : H1.1 b = .inr (37, [.null, .null, .int 0, .int 0, .int 0, .int 0, .int 0, .int 0]) := by rw [eH1, eb]; exact new_eq _ _
  have s11 : H1.2.1 = H.2.1 + 1 := by rw [eH1]; rfl
  have s12 : H1.2.2 = H.2.2 + 8 := by rw [eH1]; rfl
  have Kb : ∀ r, Pk r → r < b := fun r hr => by
    obtain ⟨mc, ns, it, L, n6, Pp, Pb, I⟩ := K
    have := Pb r hr; omega
  have Wb : ∀ r, Pw r → r < b := fun r hr => by
    obtain ⟨mc, ns, it, L, n6, Pp, Pb, I⟩ := W
    have := Pb r hr; omega
  have k415 : Pk 415 := by obtain ⟨mc, ns, it, L, n6, Pp, Pb, I⟩ := K; exact Pp
  have w416 : Pw 416 := by obtain ⟨mc, ns, it, L, n6, Pp, Pb, I⟩ := W; exact Pp
  have n6 : n ≤ 6 := by obtain ⟨mc, ns, it, L, n6, Pp, Pb, I⟩ := K; exact n6
  have m6 : m ≤ 6 := by obtain ⟨mc, ns, it, L, n6, Pp, Pb, I⟩ := W; exact n6
  have fr : ∀ i, i < n → rg 65535 (f i) := fun i hi => by obtain ⟨mc, ns, it, L, n6, Pp, Pb, I⟩ := K; exact (I i hi).2.2.1
  have K1 : DRL 415 n f Pk H1 := K.mono (fun r hr _ => n1 r (by omega)) (by omega)
  have g3 : dx_gA [(19, 3)] (.ref 400) H1 = some (.ref 415) := gA_r ((n1 400 (by omega)).trans G) rfl rfl
  rw [g3, Option.bind_some]
  refine Ok.R (x_taken K1 (by omega) (by omega)) ?_
  rintro H2 ⟨K2, a2, ⟨f1, f2, f3, f4, f5⟩, s21⟩
  have n2 : ∀ r, r < 400 + H1.2.1 → ¬ Pk r → H2.1 r = H1.1 r := f5
  have W2 : DRL 416 m g Pw H2 := W.mono (fun r hr h => by
    rw [n2 r (by omega) (fun y => by
      rcases h with h | h
      · exact d2 r y h
      · have := rk r y; omega)]
    exact n1 r (by omega)) (by omega)
  have nk400 : ¬ Pk 400 := fun y => by have := rk 400 y; omega
  have nw400 : ¬ Pw 400 := fun y => by have := rw' 400 y; omega
  have g4 : dx_gA [(19, 4)] (.ref 400) H2 = some (.ref 416) := gA_r ((n2 400 (by omega) nk400).trans ((n1 400 (by omega)).trans G)) rfl rfl
  rw [g4, Option.bind_some]
  refine Ok.R (x_taken W2 (by omega) (by omega)) ?_
  rintro H3 ⟨W3, a3, ⟨j1, j2, j3, j4, j5⟩, s31⟩
  have bk : ¬ Pk b := fun y => by have := Kb b y; omega
  have bw : ¬ Pw b := fun y => by have := Wb b y; omega
  have b3 : H3.1 b = .inr (37, [.null, .null, .int 0, .int 0, .int 0, .int 0, .int 0, .int 0]) := by
    rw [j5 b (by omega) bw, n2 b (by omega) bk]; exact b1
  refine Ok.V (x_newTest b3 (by omega) (by omega)) ?_
  rintro H4 ⟨t1, t2, t3⟩
  have s41 : H4.2.1 = H.2.1 + 3 := by rw [t3]; omega
  have s42 : H4.2.2 ≤ H.2.2 + 20 := by rw [t3]; omega
  have s43 : H.2.2 ≤ H4.2.2 := by rw [t3]; omega
  have n4 : ∀ r, r < b → ¬ Pk r → ¬ Pw r → H4.1 r = H.1 r := fun r hr h1 h2 => by
    rw [t2 r (by omega), j5 r (by omega) h2, n2 r (by omega) h1]; exact n1 r hr
  have pn : ∀ r, P r → H4.1 r = H.1 r := fun r hr => n4 r (by have := (PB r hr).2; omega) (d1 r hr).1 (d1 r hr).2
  have en4 : H4.1 arr = H.1 arr := by
    rcases Parr with z | z
    · exact n4 arr arlt (fun y => by have := rk _ y; omega) (fun y => by have := rw' _ y; omega)
    · exact pn arr z
  have A4 : AL H4 414 mc arr cap T it := A.mono (pn 414 P414) en4 (by omega)
  have v63 : dx_vn [(4, 63)] (.ref 414) H4 = some 63 := vn_at A4.1
  rw [v63, Option.bind_some]
  refine Ok.I (al_add (by omega) A4 t1 (by decide) (by omega) T5.2 (by omega) (by omega)) ?_
  rintro H5 ⟨arr', cap', A5, c5, ar5, ⟨u1, u2, u3, u4, u5⟩⟩
  have n5 : ∀ r, r < 400 + H4.2.1 → r ≠ 414 → (r ≠ arr ∨ arr < 400) → H5.1 r = H4.1 r := fun r hr h1 h2 => u5 r hr (fun y => by
    rcases y with y | ⟨y, y2⟩
    · exact h1 y
    · rcases h2 with h2 | h2
      · exact h2 y
      · omega)
  have ark : ∀ r, (Pk r ∨ Pw r) → r ≠ 414 ∧ (r ≠ arr ∨ arr < 400) := fun r hr => by
    refine ⟨fun y => ?_, ?_⟩
    · rw [y] at hr; exact hr.elim (d1 _ P414).1 (d1 _ P414).2
    · rcases Parr with z | z
      · exact Or.inr z
      · exact Or.inl fun y => by rw [y] at hr; exact hr.elim (d1 _ z).1 (d1 _ z).2
  have g5 : dx_gA [(19, 2)] (.ref 400) H5 = some (.ref 414) := by
    refine gA_r ((n5 400 (by omega) (by omega) ?_).trans ((n4 400 (by omega) nk400 nw400).trans G)) rfl rfl
    rcases Parr with z | z
    · exact Or.inr z
    · exact Or.inl fun y => by have := PB arr z; omega
  have v59' : dx_vn [(4, 59)] (.ref 414) H5 = some 59 := vn_at A5.1
  rw [g5, Option.bind_some, v59', Option.bind_some, al_size (by omega) A5, cI_v, show Int32.ofNat (T + 1) - 1 = Int32.ofNat (T + 1 - 1) from i_sub (b := 1) (by omega), Nat.add_sub_cancel]
  have nt : ∀ j, j < T → it j < b ∧ it j ≠ 414 ∧ (it j ≠ arr) := fun j hj => by
    obtain ⟨⟨kp, wp, c1, c2, c3, c4, -⟩, -⟩ := ct j hj
    refine ⟨by have := (PB _ c4).2; omega, fun z => ?_, fun z => ?_⟩
    · rw [z, A.1] at c1; cases c1
    · obtain ⟨f, a2, -⟩ := A.2.1
      rw [z, a2] at c1; cases c1
  have nar : ∀ r, (∃ a b, H.1 r = .inl (0, a, b)) → r ≠ 414 ∧ r ≠ arr := fun r ⟨a, b, hr⟩ => by
    refine ⟨fun z => ?_, fun z => ?_⟩
    · rw [z, A.1] at hr; cases hr
    · obtain ⟨f, a2, -⟩ := A.2.1
      rw [z, a2] at hr; cases hr
  have up : ∀ r, P r → xR P H H5 r := fun r hr => ⟨by have := (PB r hr).2; omega, Or.inl hr⟩
  have nu : ∀ r, b ≤ r → r < 400 + H4.2.1 → xR P H H5 r := fun r h1 h2 => ⟨by omega, Or.inr (by omega)⟩
  have p41 := (PB 414 P414).2
  have hi5 : ∀ r, b ≤ r → r < 400 + H4.2.1 → H5.1 r = H4.1 r := fun r h1 h2 => n5 r h2 (by omega) (Or.inl (by omega))
  refine Ok.ret ⟨⟨mc + 1, arr', cap', _, A5, ⟨by omega, by omega⟩, fun t ht => ?_, fun t u h1 h2 => ?_, fun r hr => ⟨?_, hr.1⟩, up 414 P414, ?_⟩, ?_, ?_, ⟨by omega, by omega, by omega, by omega, fun r hr hp => ?_⟩⟩
  · by_cases e : t = T
    · dsimp only
      rw [if_pos e, if_pos e]
      refine ⟨⟨400 + H1.2.1, 400 + H2.2.1, ?_, ?_, ?_, nu _ (by omega) (by omega), nu _ (by omega) (by omega), nu _ (by omega) (by omega)⟩, ⟨n6, fun j hj => ?_, m6, hk5, hl5, hz, Or.inl rfl⟩⟩
      · rw [hi5 b (by omega) (by omega), t1, hk, hl]; rfl
      · rw [hi5 _ (by omega) (by omega), t2 _ (by omega), j5 _ (by omega) (fun y => by have := Wb _ y; omega), a2]; rfl
      · rw [hi5 _ (by omega) (by omega), t2 _ (by omega), a3]; rfl
      · show rg 65535 (if j < n then f j else 0)
        have hj : j < n := hj
        rw [if_pos hj]; exact fr j hj
    · dsimp only
      rw [if_neg e, if_neg e]
      have ht' : t < T := by omega
      obtain ⟨⟨kp, wp, c1, c2, c3, c4, c5, c6⟩, gq⟩ := ct t ht'
      have same : ∀ r, P r → r ≠ 414 → r ≠ arr → H5.1 r = H.1 r := fun r hr h1 h2 => by
        rw [n5 r (by have := (PB r hr).2; omega) h1 (Or.inl h2)]; exact pn r hr
      exact ⟨⟨kp, wp, by rw [same _ c4 (nt t ht').2.1 (nt t ht').2.2]; exact c1, by rw [same _ c5 (nar kp ⟨_, _, c2⟩).1 (nar kp ⟨_, _, c2⟩).2]; exact c2, by rw [same _ c6 (nar wp ⟨_, _, c3⟩).1 (nar wp ⟨_, _, c3⟩).2]; exact c3, up _ c4, up _ c5, up _ c6⟩, gq⟩
  · rw [if_neg (show ¬ t = T by omega)]
    by_cases e : u = T
    · rw [if_pos e]; have := (nt t (by omega)).1; omega
    · rw [if_neg e]; exact inj t u h1 (by omega)
  · rcases hr.2 with z | z
    · exact (PB r z).1
    · omega
  · rcases ar5 with z | z
    · rw [z]; exact Parr.imp id (up arr)
    · exact Or.inr ⟨by have := A5.2.2.2.2.2.2.2.2; omega, Or.inr (by omega)⟩
  · have K3 : DRL 415 0 f Pk H2 := K2.re k415 (fun r hr => by have := Kb r hr; omega)
    refine K3.mono (fun r hr h => ?_) (by omega)
    have nwr : ¬ Pw r := fun y => by
      rcases h with h | h
      · exact d2 r h y
      · have := rw' r y; omega
    have rb : r < b := by
      rcases h with h | h
      · exact Kb r h
      · omega
    have e5 : H5.1 r = H4.1 r := by
      rcases h with h | h
      · exact n5 r (by omega) (ark r (Or.inl h)).1 (ark r (Or.inl h)).2
      · exact u5 r (by omega) (fun y => by omega)
    rw [e5, t2 r (by omega), j5 r (by omega) nwr]
  · have W4 : DRL 416 0 g Pw H3 := W3.re w416 (fun r hr => by have := Wb r hr; omega)
    refine W4.mono (fun r hr h => ?_) (by omega)
    have rb : r < b := by
      rcases h with h | h
      · exact Wb r h
      · omega
    have e5 : H5.1 r = H4.1 r := by
      rcases h with h | h
      · exact n5 r (by omega) (ark r (Or.inr h)).1 (ark r (Or.inr h)).2
      · exact u5 r (by omega) (fun y => by omega)
    rw [e5, t2 r (by omega)]
  · have e5 : H5.1 r = H4.1 r := n5 r (by omega) (fun y => hp (by rw [y]; exact Or.inl P414)) (by
      rcases Parr with z | z
      · exact Or.inr z
      · exact Or.inl fun y => hp (by rw [y]; exact Or.inl z))
    rw [e5]
    exact n4 r (by omega) (fun y => hp (Or.inr (Or.inl y))) (fun y => hp (Or.inr (Or.inr y)))
end XAT
