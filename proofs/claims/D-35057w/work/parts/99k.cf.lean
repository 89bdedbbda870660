/-! the class goes through all lines the first way: the recursion -/
/- with lnD lnV lnE LnC opK CLW GO OLD Ext CPS CB AP WR useP CB.ext CB.mv CB.set CB.ap1 CB.fs CPS.mv CPS.lk CPS.vn CPS.incG CPS.incU CPS.use1 CPS.use0 WR.x0 x_check0 x_check1 st1 skS st1_sk sk_inv sk_fr go_stk go_inv LIV LIV.st goG goG_split SKI FRK FRK.len OE OE.le R1 hdA goK PRE LNW x_line1 x_begin1 PRE.go PRE.line PRE.size PRE.V lnE_go CPS.at Ok.ret cs_at -/
section CFS
variable {H h h' : ax_H} {q0 nU c1 c2 arr cap pk pb d k p a w e l j u sec g us n t m x y b : Nat} {it : Nat → Nat} {lab bu : Nat → Int32} {bh wd mc v : Int32} {σ σ' : skT} {R F G : List frT} {sz : Nat → Nat} {mac : Nat → Option (Nat × Nat)} {ls : Nat → lnD} {P : Nat → Prop} {iv : Value}
theorem OE.I {α : Type} {r : α ⊕ (Nat × Nat)} {f : α → Option Value} {Q : α → ax_H → Prop} {c : Option ax_R} {x : Int32} {K : Int32 → ax_H → Option ax_R} {X : Nat → ax_H → Option ax_R} {P : ax_H → Prop} (h1 : Ok c (.inl (some (.int x))) P) (h2 : ∀ h', P h' → OE H r f Q (K x h')) : OE H r f Q (dx_cI c K X) := by
  obtain ⟨h', rfl, p⟩ := h1
  exact h2 h' p
theorem OE.V {α : Type} {r : α ⊕ (Nat × Nat)} {f : α → Option Value} {Q : α → ax_H → Prop} {c : Option ax_R} {K : ax_H → Option ax_R} {X : Nat → ax_H → Option ax_R} {P : ax_H → Prop} (h1 : Ok c (.inl none) P) (h2 : ∀ h', P h' → OE H r f Q (K h')) : OE H r f Q (dx_cV c K X) := by
  obtain ⟨h', rfl, p⟩ := h1
  exact h2 h' p
theorem OE.Rf {α : Type} {r : α ⊕ (Nat × Nat)} {f : α → Option Value} {Q : α → ax_H → Prop} {c : Option ax_R} {x : Nat} {K : Value → ax_H → Option ax_R} {X : Nat → ax_H → Option ax_R} {P : ax_H → Prop} (h1 : Ok c (.inl (some (.ref x))) P) (h2 : ∀ h', P h' → OE H r f Q (K (.ref x) h')) : OE H r f Q (dx_cR c K X) := by
  obtain ⟨h', rfl, p⟩ := h1
  exact h2 h' p
theorem useP_eq {it it' : Nat → Nat} (h : R = [] ∨ it' u = it u) : useP q0 it' R u = useP q0 it R u := by
  unfold useP
  by_cases e : R = []
  · rw [if_pos e, if_pos e]
  · rw [if_neg e, if_neg e]; exact h.resolve_left e
/-- the head of the loop -/
theorem x_head (Z : PRE H n ls P iv) (E : Ext (c1 + 3 * nU) w H h) (C : CPS pk q0 pb ((a, t, u, m) :: R, mac, sec, sz, g, us) h) (h4 : 400 ≤ pb) (hd : 4 ≤ d) (ht : t ≤ n) (hat : a < t) (hg : g ≤ 300) {us0 : Nat} (E' : ∀ c, Ext (c1 + 3 * nU) w H (ax_set h pb c)) : ∃ h1 c, h1 = ax_set h pb c ∧ CPS pk q0 pb ((a, t, u, m) :: R, mac, sec, sz, g + 1, us) h1 ∧ (300 < g + 1 → dx_le (B_X17_go_34 (ax_c d) 0 pb (Int32.ofNat t) (.ref us0) (Int32.ofNat a) h1) (B_X17_go_3 (ax_c d) pb (Int32.ofNat t) (.ref us0) (Int32.ofNat a) h)) ∧ (¬ 300 < g + 1 → ∃ p, LNW (ls a) p H ∧ dx_le (dx_cI (ax_c d (goK (ls a).1) [.ref p, .ref pb, .ref us0, .int (Int32.ofNat a)] h1) (fun x7 h6 => B_X17_go_3 (ax_c d) pb (Int32.ofNat t) (.ref us0) x7 h6) dx_x0) (B_X17_go_3 (ax_c d) pb (Int32.ofNat t) (.ref us0) (Int32.ofNat a) h)) := by
  obtain ⟨n1, V⟩ := Z.V
  obtain ⟨h1, x1, C1, cc, x3⟩ := C.incG h4
  refine ⟨h1, cc, x3, C1, ?_⟩
  have E1 : Ext (c1 + 3 * nU) w H h1 := by rw [x3]; exact E' cc
  have le := b_X17_go_3 (K := ax_c d) (v0 := pb) (v2 := Int32.ofNat t) (v3 := .ref us0) (v4 := Int32.ofNat a) (h := h) rfl
  rw [if_neg (i_ge_not (by omega) (by omega)), C.gone, Option.bind_some, show Int32.ofNat ((a, t, u, m) :: R, mac, sec, sz, g, us).2.2.2.2.1 = Int32.ofNat g from rfl, x1, Option.bind_some, C1.gone, Option.bind_some, show Int32.ofNat ((a, t, u, m) :: R, mac, sec, sz, g + 1, us).2.2.2.2.1 = Int32.ofNat (g + 1) from rfl] at le
  constructor
  · intro q
    rw [if_pos (show (300 : Int32) < Int32.ofNat (g + 1) from (i_lt (a := 300) (by omega) (by omega)).mpr q)] at le
    exact le
  · intro q
    rw [if_neg (show ¬ (300 : Int32) < Int32.ofNat (g + 1) from fun z => q ((i_lt (a := 300) (by omega) (by omega)).mp z))] at le
    obtain ⟨lp, v61, s61, L⟩ := Z.line (k := a) (d := d) E1 (by omega) (by omega)
    refine ⟨lp, L, ?_⟩
    obtain ⟨lq, lr, lo, lx, ly, ⟨lpb, l1⟩, l2, l3, l4⟩ := L
    have l1 := (E1.1 lp lpb).trans l1
    obtain ⟨⟨fs, kk, e1, e2⟩, e3⟩ := lnE_go _ _ _ _ _ _ l1
    have g0 : dx_gA [(19, 0)] (.ref 400) h1 = some (.ref 401) := gA_r (Z.go E1) rfl rfl
    have lb := b_X17_go_34 (K := ax_c d) (s0 := 1) (v0 := pb) (v2 := Int32.ofNat t) (v3 := .ref us0) (v4 := Int32.ofNat a) (h := h1) rfl
    rw [x_check1 _ _ (by omega), cV_v, C1.gym, Option.bind_some, g0, Option.bind_some, v61, Option.bind_some, s61, cR_r, cs_at e1 e2, e3, Option.bind_some] at lb
    exact dx_trans lb le
theorem x_go1 (Z : PRE H n ls P iv) : ∀ f a t u m R mac sec sz g us lab it h d r, goG (st1 ls n) (fun S => S.1.1.length) f R.length (((a, t, u, m) :: R, mac, sec, sz, g, us), lab) = some r → SKI ls n ((a, t, u, m) :: R, mac, sec, sz, g, us) → LIV (((a, t, u, m) :: R, mac, sec, sz, g, us), lab) → R1 H q0 it ((a, t, u, m) :: R, mac, sec, sz, g, us) lab h → 4 * (7 - (R.length + 1)) + 40 ≤ d → OE H r (fun _ => none) (fun S h' => S.1.1 = R ∧ ∃ it', (∀ k, k < us → it' k = it k) ∧ us ≤ S.1.2.2.2.2.2 ∧ R1 H q0 it' ((t, t, u, m) :: R, S.1.2) S.2 h') (B_X17_go_3 (ax_c d) (q0 + 6) (Int32.ofNat t) (.ref (useP q0 it R u)) (Int32.ofNat a) h) := by
  obtain ⟨n1, V⟩ := Z.V
  intro f
  induction f with
  | zero => intro a t u m R mac sec sz g us lab it h d r hr; exact absurd hr (by unfold goG; exact fun z => by cases z)
  | succ f ih =>
    intro a t u m R mac sec sz g us lab it h d r hr I L C hd
    unfold goG at hr
    rw [if_neg (show ¬ ((a, t, u, m) :: R).length ≤ R.length by rw [List.length_cons]; omega)] at hr
    have h0 : 0 < ((a, t, u, m) :: R).length := by rw [List.length_cons]; omega
    have I0 := I
    obtain ⟨I1, I2, I3, I4, I5, I6⟩ := I
    dsimp only at I1 I2 I3 I4 I5 I6
    obtain ⟨f1, f2, f3, f4⟩ := id I1
    have len6 := FRK.len I1
    rw [List.length_cons] at len6
    have hR : R = [] ∨ u < us := by
      by_cases e : R = []
      · exact Or.inl e
      · rw [if_neg e] at f3; exact Or.inr f3.2.1
    have CC := C
    obtain ⟨mc, arr, cap, B, C⟩ := C
    dsimp only at B
    have q4 : 400 ≤ q0 + 6 := by have := B.1; omega
    by_cases e : a = t
    · have e1 : st1 ls n (((a, t, u, m) :: R, mac, sec, sz, g, us), lab) = .inl ((R, mac, sec, sz, g, us), lab) := by
        unfold st1 skS
        dsimp only
        rw [if_pos e]
        dsimp only
        rw [if_neg (fun z => z.1 e)]
      rw [e1] at hr
      dsimp only at hr
      cases f with
      | zero => exact absurd hr (by unfold goG; exact fun z => by cases z)
      | succ f =>
        unfold goG at hr
        rw [if_pos (show R.length ≤ R.length from Nat.le_refl _)] at hr
        cases hr
        refine Ok.le (b_X17_go_3 rfl) ?_
        rw [e, if_pos (Int32.le_refl _)]
        refine Ok.ret ⟨rfl, it, fun _ _ => rfl, Nat.le_refl _, ?_⟩
        rw [e] at CC
        exact CC
    obtain ⟨h1, cc, x3, C1, y1, y2⟩ := x_head (us0 := useP q0 it R u) (d := d) Z B.2.1 C q4 (by omega) f2 (by omega) I5 (fun c => (B.set (B.ap1 (p := q0 + 6) (by omega) (by omega)) c).2.1)
    have B1 : CB H q0 us 11 317 it lab (fun _ => 0) 0 0 mc arr cap h1 := by rw [x3]; exact B.set (B.ap1 (by omega) (by omega)) cc
    by_cases q : 300 < g + 1
    · have e1 : st1 ls n (((a, t, u, m) :: R, mac, sec, sz, g, us), lab) = .inr (1, a) := by
        unfold st1 skS
        dsimp only
        rw [if_neg e, if_pos (Or.inl q)]
      rw [e1] at hr
      cases hr
      refine OE.le (OE.le ?_ (b_X17_go_34 rfl)) (y1 q)
      obtain ⟨ea, ew, E, E1, E2⟩ := B1.ext (by omega) (by omega) (by omega)
      exact OkX.xV (x_check0 (e := 1) E E1 E2 Z.1 (by omega) (by omega) (by omega)) fun i h' W => W.x0
    obtain ⟨lp, LN, le⟩ := y2 q
    refine OE.le ?_ le
    by_cases k8 : (ls a).1 ≠ 8
    · have X := x_line1 (d := d) Z I0 e q k8 LN ⟨mc, arr, cap, B1, C1⟩ (by omega)
      cases hs : st1 ls n (((a, t, u, m) :: R, mac, sec, sz, g, us), lab) with
      | inr er =>
        rw [hs] at hr X
        cases hr
        exact OkX.xI X fun i h' W => W.x0
      | inl S1 =>
        rw [hs] at hr X
        dsimp only at hr
        have I1' := (sk_inv V I0 (st1_sk hs) h0).1
        have L1' := LIV.st V I0 L h0 hs
        obtain ⟨⟨F1, mac1, sec1, sz1, g1, us1⟩, lab1⟩ := S1
        rcases sk_fr (st1_sk hs) with ⟨z, -⟩ | ⟨-, -, z1, a', z2⟩ | ⟨-, z, -⟩
        · exact absurd z e
        · dsimp only at z1 z2
          subst z1 z2
          refine OE.I X fun h' Y => ?_
          exact ih a' t u m R _ _ _ _ _ _ it h' d r hr I1' L1' Y hd
        · exact absurd z k8
    have k8 := Classical.not_not.mp k8
    obtain ⟨v1, v2, v3, v4, v5, v6, v7, v8, v9⟩ := V a (by omega)
    obtain ⟨m4, me⟩ := (v5 k8).2.nat
    obtain ⟨lq, lr, lo, lx, ly, ⟨lpb, l1⟩, l2, l3, l4⟩ := LN
    have l1 := (B1.2.1.1 lp lpb).trans l1
    unfold lnE at l1
    rw [if_neg (by omega), if_neg (by omega), if_neg (by omega), if_neg (by omega), if_neg (by omega), if_neg (by omega), if_neg (by omega), if_neg (by omega)] at l1
    have gk : goK (ls a).1 = goK 8 := by rw [k8]
    rw [gk]
    obtain ⟨d1, rfl, he1⟩ := d_succ (k := d - 1) (by omega : d - 1 + 1 ≤ d)
    obtain ⟨d2, rfl, he2⟩ := d_succ (k := d1 - 1) (by omega : d1 - 1 + 1 ≤ d1)
    obtain ⟨d3, rfl, he3⟩ := d_succ (k := d2 - 1) (by omega : d2 - 1 + 1 ≤ d2)
    have le14 := m_X14_go (d := d3 + 1 + 1) (v0 := lp) (v1 := .ref (q0 + 6)) (v2 := .ref (useP q0 it R u)) (v3 := Int32.ofNat a) (h := h1) rfl rfl
    rw [gI_at l1 rfl rfl, Option.bind_some, gA_r l1 rfl rfl, Option.bind_some, gA_r l1 rfl rfl, Option.bind_some, C1.vn, Option.bind_some, if_pos rfl, me] at le14
    have le17 := m_X17_expand (d := d3 + 1) (v0 := q0 + 6) (v1 := Int32.ofNat (nn (ls a).2.2.2.2.2)) (v2 := .ref lq) (v3 := .ref lr) (v4 := .ref (useP q0 it R u)) (v5 := Int32.ofNat a) (h := h1) rfl rfl rfl
    obtain ⟨-, ⟨fb, fe, d4, d5, d6⟩, fu, d7, d8⟩ := id C1.2.2
    have im : ix 5 (Int32.ofNat (nn (ls a).2.2.2.2.2)) = some (nn (ls a).2.2.2.2.2) := ix_of rfl (by omega) (by omega)
    obtain ⟨D1, D2⟩ := d6 (nn (ls a).2.2.2.2.2) (by omega)
    rw [C1.begins, Option.bind_some, lI_at d4, im, Option.bind_some, Option.bind_some, C1.used, Option.bind_some, lI_at d7, im, Option.bind_some, Option.bind_some, d8 _ (by omega)] at le17
    dsimp only at le17 D1 D2
    have bad : st1 ls n (((a, t, u, m) :: R, mac, sec, sz, g, us), lab) = .inr (5, a) → dx_le (B_X17_expand_24 (ax_c (d3 + 1)) 0 (q0 + 6) (Int32.ofNat (nn (ls a).2.2.2.2.2)) (.ref lq) (.ref lr) (.ref (useP q0 it R u)) (Int32.ofNat a) h1) (ax_c (d3 + 1 + 1) 289 [.ref (q0 + 6), .int (Int32.ofNat (nn (ls a).2.2.2.2.2)), .ref lq, .ref lr, .ref (useP q0 it R u), .int (Int32.ofNat a)] h1) → OE H r (fun _ => none) (fun S h' => S.1.1 = R ∧ ∃ it', (∀ k, k < us → it' k = it k) ∧ us ≤ S.1.2.2.2.2.2 ∧ R1 H q0 it' ((t, t, u, m) :: R, S.1.2) S.2 h') (dx_cI (ax_c (d3 + 1 + 1 + 1) (goK 8) [.ref lp, .ref (q0 + 6), .ref (useP q0 it R u), .int (Int32.ofNat a)] h1) (fun x7 h6 => B_X17_go_3 (ax_c (d3 + 1 + 1 + 1)) (q0 + 6) (Int32.ofNat t) (.ref (useP q0 it R u)) x7 h6) dx_x0) := fun e1 lb => by
      rw [e1] at hr
      cases hr
      refine OkX.xI (P := WR H (5, a)) (OkX.le le14 (OkX.xV (P := WR H (5, a)) (OkX.le lb (OkX.le (b_X17_expand_24 rfl rfl rfl) ?_)) fun i h' W => W.x0)) fun i h' W => W.x0
      obtain ⟨ea, ew, E, E1, E2⟩ := B1.ext (by omega) (by omega) (by omega)
      exact OkX.xV (x_check0 (e := 5) E E1 E2 Z.1 (by omega) (by omega) (by omega)) fun i h' W => W.x0
    have w0 : wrdN (ls a) = 0 := by unfold wrdN; rw [if_neg (by omega), if_neg (by omega), if_neg (by omega)]
    have sk : skS ls n ((a, t, u, m) :: R, mac, sec, sz, g, us) = skS ls n ((a, t, u, m) :: R, mac, sec, sz, g, us) := rfl
    conv at sk => rhs; unfold skS; dsimp only; rw [if_neg e, if_neg (show ¬ (300 < g + 1 ∨ (0 < wrdN (ls a) ∧ 248 < sz 0 + sz 1 + wrdN (ls a))) by omega), if_neg (show ¬ (ls a).1 = 0 by omega), if_neg (show ¬ (ls a).1 = 6 by omega), if_neg (show ¬ (ls a).1 = 7 by omega), if_pos k8]
    cases hm : mac (nn (ls a).2.2.2.2.2) with
    | none =>
      rw [hm] at sk
      rw [D1 hm, if_pos rfl] at le17
      exact bad (by unfold st1; rw [sk]) le17
    | some xy =>
    obtain ⟨x, y⟩ := xy
    rw [hm] at sk
    dsimp only at sk
    obtain ⟨M1, M2, M3, M4⟩ := I2 _ _ _ hm
    obtain ⟨B2', B2''⟩ := D2 x y hm
    rw [B2', if_neg (fun z => by
      have z2 := congrArg Int32.toInt z
      rw [i_toInt (by omega)] at z2
      have : (-1 : Int32).toInt = -1 := rfl
      omega)] at le17
    by_cases ex : ∃ f, f ∈ (a, t, u, m) :: R ∧ f.2.2.2 = nn (ls a).2.2.2.2.2
    · rw [if_pos ex] at sk
      rw [if_pos ex, if_pos (by decide)] at le17
      exact bad (by unfold st1; rw [sk]) le17
    rw [if_neg ex] at sk
    rw [if_neg ex, if_neg (fun z => z rfl)] at le17
    clear bad
    have hs : st1 ls n (((a, t, u, m) :: R, mac, sec, sz, g, us), lab) = .inl (((x, y, us, nn (ls a).2.2.2.2.2) :: (a + 1, t, u, m) :: R, mac, sec, sz, g + 1, us + 1), lab) := by
      unfold st1
      rw [sk]
      dsimp only
      rw [if_neg (show ¬ (a ≠ t ∧ (ls a).1 = 1) by omega)]
    rw [hs] at hr
    dsimp only at hr
    have I1' := (sk_inv V I0 (st1_sk hs) h0).1
    have L1' := LIV.st V I0 L h0 hs
    have l6 := FRK.len I1'.1
    rw [List.length_cons, List.length_cons] at l6
    obtain ⟨r1, G1, G2, G3⟩ := goG_split f R.length _ r (by show R.length ≤ ((x, y, us, nn (ls a).2.2.2.2.2) :: (a + 1, t, u, m) :: R).length; rw [List.length_cons, List.length_cons]; omega) hr
    -- the call of the macro
    have lb := b_X17_expand_24 (K := ax_c (d3 + 1)) (s0 := 1) (v0 := q0 + 6) (v1 := Int32.ofNat (nn (ls a).2.2.2.2.2)) (v2 := .ref lq) (v3 := .ref lr) (v4 := .ref (useP q0 it R u)) (v5 := Int32.ofNat a) (h := h1) rfl rfl rfl
    have vv : ∀ z, ax_c (d3 + 1) 293 [.ref (q0 + 6), .ref z, .ref (useP q0 it R u), .int (Int32.ofNat a)] h1 = some (.inl (some (.int 0)), h1) := fun z => dx_app (m_X18_value rfl rfl) rfl
    obtain ⟨h2, u1, C2, cc2, u3⟩ := C1.incU q4
    have B2 : CB H q0 us 11 317 it lab (fun _ => 0) 0 0 mc arr cap h2 := by rw [u3]; exact B1.set (B1.ap1 (by omega) (by omega)) cc2
    rw [x_check1 _ _ (by omega), cV_v, C1.vn, Option.bind_some, if_pos rfl, vv, cI_v, C1.vn, Option.bind_some, if_pos rfl, vv, cI_v, C1.many, Option.bind_some, show Int32.ofNat ((a, t, u, m) :: R, mac, sec, sz, g + 1, us).2.2.2.2.2 = Int32.ofNat us from rfl, u1, Option.bind_some, C2.vn, Option.bind_some, if_pos rfl] at lb
    have lb := dx_trans lb le17
    have inner : OE H r1 (fun _ => none) (fun S h' => S.1.1 = (a + 1, t, u, m) :: R ∧ ∃ it', (∀ k, k < us → it' k = it k) ∧ us ≤ S.1.2.2.2.2.2 ∧ R1 H q0 it' S.1 S.2 h') (ax_c (d3 + 1 + 1) 289 [.ref (q0 + 6), .int (Int32.ofNat (nn (ls a).2.2.2.2.2)), .ref lq, .ref lr, .ref (useP q0 it R u), .int (Int32.ofNat a)] h1) := by
      refine OE.le ?_ lb
      refine OE.Rf (x_begin1 (d := d3 + 1) B2 C2 (fun j hj => L.1 _ (by show 20 + 4 * us ≤ _; omega)) (by omega) (by omega) (by omega)) ?_
      rintro h3 ⟨mc3, arr3, cap3, B3, C3⟩
      obtain ⟨it3, eit⟩ : ∃ it3 : Nat → Nat, it3 = fun i => if i = us then 400 + h2.2.1 else it i := ⟨_, rfl⟩
      rw [← eit] at B3
      have itu : it3 us = 400 + h2.2.1 := by rw [eit]; exact if_pos rfl
      have itk : ∀ k, k < us → it3 k = it k := fun k hk => by rw [eit]; exact if_neg (by omega)
      obtain ⟨h4, h5, mm, w1, w2, B5, -, w4, w5⟩ := B3.fs (k := us) (by omega) 0 0
      have pos3 := (B3.2.2.2.2.2.2.2.2.2.2.1 us (by omega)).1
      rw [itu] at w1 w2 w4 pos3
      have C5 := C3.mv (h' := h5) fun j hj => w4 _ (by omega)
      obtain ⟨h6, v1', C6, cc6, v3'⟩ := (C5.at (a + 1)).use1 (x := x) (y := y) (u := us) q4 (show nn (ls a).2.2.2.2.2 < 5 by omega)
      have B6 : CB H q0 (us + 1) 11 317 it3 lab (fun _ => 0) 0 0 mc3 arr3 cap3 h6 := by rw [v3']; exact B5.set (B5.ap1 (by omega) (by omega)) cc6
      obtain ⟨-, ⟨fb6, fe6, g4, g5, g6⟩, fu6, g7, g8⟩ := id C6.2.2
      obtain ⟨Q1, Q2⟩ := (g6 (nn (ls a).2.2.2.2.2) (by omega)).2 x y hm
      rw [w1, Option.bind_some, w2, Option.bind_some, C5.used, Option.bind_some, v1', Option.bind_some, C6.begins, Option.bind_some, lI_at g4, im, Option.bind_some, Option.bind_some, Q1, C6.ends, Option.bind_some, lI_at g5, im, Option.bind_some, Option.bind_some, Q2, C6.vn, Option.bind_some, if_pos rfl]
      have X := ih x y us (nn (ls a).2.2.2.2.2) ((a + 1, t, u, m) :: R) mac sec sz (g + 1) (us + 1) lab it3 h6 d3 r1 G1 I1' L1' ⟨mc3, arr3, cap3, B6, C6⟩ (by rw [List.length_cons]; omega)
      have up : useP q0 it3 ((a + 1, t, u, m) :: R) us = 400 + h2.2.1 := by
        unfold useP
        rw [if_neg (fun z => by cases z), itu]
      rw [up] at X
      have X := OE.le X (m_X17_go (d := d3) (v0 := q0 + 6) (v1 := Int32.ofNat x) (v2 := Int32.ofNat y) (v3 := .ref (400 + h2.2.1)) (h := h6) rfl)
      cases r1 with
      | inr er => exact OkX.xV X fun i h' W => W.x0
      | inl S2 =>
        refine Ok.V X ?_
        rintro h7 ⟨t1, it7, t2, t3, mc7, arr7, cap7, B7, C7⟩
        obtain ⟨⟨F2, mac2, sec2, sz2, g2, us2⟩, lab2⟩ := S2
        dsimp only at t1 t3 B7 C7
        obtain ⟨h8, z1, C8, cc8, z3⟩ := C7.use0 q4 (show nn (ls a).2.2.2.2.2 < 5 by omega) (fun f hf hz => by
          rcases List.mem_cons.mp hf with w | w
          · exact ex ⟨_, List.mem_cons_self, by rw [w] at hz; exact hz⟩
          · exact ex ⟨f, List.mem_cons_of_mem _ w, hz⟩)
        have B8 : CB H q0 us2 11 317 it7 lab2 (fun _ => 0) 0 0 mc7 arr7 cap7 h8 := by rw [z3]; exact B7.set (B7.ap1 (by omega) (by omega)) cc8
        rw [C7.used, Option.bind_some, z1, Option.bind_some]
        refine Ok.ret ⟨t1, it7, fun k hk => (t2 k (by omega)).trans (itk k hk), by show us ≤ us2; omega, mc7, arr7, cap7, B8, ?_⟩
        rw [t1]
        exact C8
    cases hr1 : r1 with
    | inr er =>
      rw [hr1] at inner
      rw [G2 er hr1]
      exact OkX.xI (P := WR H er) (OkX.le le14 (OkX.xV (P := WR H er) inner fun i h' W => W.x0)) fun i h' W => W.x0
    | inl S2 =>
      rw [hr1] at inner G1
      have hr2 := G3 S2 hr1
      have I2' : SKI ls n S2.1 ∧ LIV S2 := go_inv (Inv := fun S => SKI ls n S.1 ∧ LIV S) (fun S S' J hl hst => ⟨(sk_inv V J.1 (st1_sk hst) hl).1, LIV.st V J.1 J.2 hl hst⟩) _ _ _ _ ⟨I1', L1'⟩ G1
      refine OE.I (x := Int32.ofNat (a + 1)) (P := fun h' => S2.1.1 = (a + 1, t, u, m) :: R ∧ ∃ it', (∀ k, k < us → it' k = it k) ∧ us ≤ S2.1.2.2.2.2.2 ∧ R1 H q0 it' S2.1 S2.2 h') (Ok.le le14 (Ok.V inner fun h' Y => ?_)) ?_
      · rw [show Int32.ofNat a + 1 = Int32.ofNat (a + 1) from i_add a 1]
        exact Ok.ret Y
      · rintro h8 ⟨t1, it8, t2, t3, Y⟩
        obtain ⟨⟨F2, mac2, sec2, sz2, g2, us2⟩, lab2⟩ := S2
        dsimp only at t1 t3
        subst t1
        have X := ih (a + 1) t u m R mac2 sec2 sz2 g2 us2 lab2 it8 h8 (d3 + 1 + 1 + 1) r hr2 I2'.1 I2'.2 Y hd
        rw [useP_eq (it := it) (it' := it8) (hR.imp id fun hu => t2 u hu)] at X
        cases r with
        | inr er => exact X
        | inl S3 =>
          refine Ok.imp X ?_
          rintro h9 ⟨s1, it9, s2, s3, s4⟩
          exact ⟨s1, it9, fun k hk => (s2 k (by omega)).trans (t2 k hk), by omega, s4⟩
end CFS
