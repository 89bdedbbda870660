/-! the class goes through the lines: one line, the second way -/
/- with lnD lnV lnE LnC opK CLW GO OLD Ext CPS CB AP WR useP CB.ext CB.mv CB.set CB.put CB.rowOf CPS.mv CPS.lk CPS.vn CPS.incZ CPS.szS CPS.setS WR.x0 x_check0 x_check1 al_get st2 s2T valF v_err skS st2_sk sk_inv sk_sz go_sz goG SKI FRK FRK.len OE OE.le OE.I OE.V hdA goK PRE LNW PRE.V lnE_go CPS.at x_define CAR CAR.mv CAR.at CAR.set R2 ZB x_value2 x_take2 AP.all w_add w_sum w_eq sk_fr -/
section CWS
variable {H h h' : ax_H} {q0 nU c1 c2 arr cap pk pb d k p a w e l j u sec g us n t m x y b f0 f1 : Nat} {it : Nat → Nat} {lab bu : Nat → Int32} {bh wd mc v : Int32} {σ σ' : skT} {R F G : List frT} {sz : Nat → Nat} {mac : Nat → Option (Nat × Nat)} {ls : Nat → lnD} {P : Nat → Prop} {iv : Value} {q : Int32 × Int32} {A : List (Int32 × Int32)}
theorem R2.at (C : R2 H q0 pb nU it lab b wd mc arr cap (((a, t, u, m) :: R, mac, sec, sz, g, us), q :: A, bu) h) (a' : Nat) : R2 H q0 pb nU it lab b wd mc arr cap (((a', t, u, m) :: R, mac, sec, sz, g, us), q :: A, bu) h := ⟨C.1, C.2.1.at a', C.2.2⟩
theorem upd_id {f : Nat → Int32} {i : Nat} {v : Int32} (h : f i = v) : upd f i v = f := by
  funext j
  rw [upd_at]
  by_cases e : j = i
  · rw [if_pos e, e, h]
  · rw [if_neg e]
theorem x_line2 (Z : PRE H n ls P iv) (I : SKI ls n ((a, t, u, m) :: R, mac, sec, sz, g, us)) (hat : a ≠ t) (h8 : (ls a).1 ≠ 8) (L : LNW (ls a) p H) (hs : skS ls n ((a, t, u, m) :: R, mac, sec, sz, g, us) = .inl σ') (hf0 : σ'.2.2.2.1 0 ≤ f0) (hf1 : σ'.2.2.2.1 1 ≤ f1) (hf : f0 + f1 ≤ 248) (C : R2 H q0 pb nU it lab (8 + f0) wd mc arr cap (((a, t, u, m) :: R, mac, sec, sz, g + 1, us), q :: A, bu) h) (zb : ZB f0 (((a, t, u, m) :: R, mac, sec, sz, g, us), q :: A, bu)) (ap : ∀ j, j < 5 → AP q0 nU it arr (pb + j)) (hu : us ≤ nU) (hn : nU ≤ 300) (hd : 16 ≤ d) : OE H (st2 ls n lab (8 + f0) (((a, t, u, m) :: R, mac, sec, sz, g, us), q :: A, bu)) (fun S => some (.int (Int32.ofNat (hdA S.1)))) (fun S h' => R2 H q0 pb nU it lab (8 + f0) wd mc arr cap S h') (ax_c d (goK (ls a).1) [.ref p, .ref pb, .ref (useP q0 it R u), .int (Int32.ofNat a)] h) := by
  obtain ⟨n1, V⟩ := Z.V
  obtain ⟨I1, I2, I3, I4, I5, I6⟩ := I
  dsimp only at I1 I2 I3 I4 I5 I6
  obtain ⟨f1', f2, f3, f4⟩ := id I1
  have ha : a < n := by omega
  have Va := V a ha
  obtain ⟨v1, v2, v3, v4, v5, v6, v7, v8, v9⟩ := id Va
  obtain ⟨d, rfl, he⟩ := d_succ hd
  obtain ⟨lq, lr, lo, lx, ly, ⟨lp, l1⟩, l2, l3, l4⟩ := L
  have CC := C
  obtain ⟨B, C, K⟩ := C
  dsimp only at B C K
  obtain ⟨p0, p1, p2, p3, p4⟩ := AP.all ap
  have q4 : 400 ≤ pb := by have := B.1; have := p0.1; omega
  have l1 := (B.2.1.1 p lp).trans l1
  have hR : R = [] ∨ u < nU := by
    by_cases e : R = []
    · exact Or.inl e
    · rw [if_neg e] at f3; exact Or.inr (by omega)
  have F1 : ∀ a', a ≤ a' → a' ≤ t → FRK n mac us ((a', t, u, m) :: R) := fun a' z1 z2 => FRK.adv I1 z1 z2
  have na1 : Int32.ofNat a + 1 = Int32.ofNat (a + 1) := i_add a 1
  have sk := hs
  unfold skS at sk
  dsimp only at sk
  rw [if_neg hat] at sk
  by_cases q1 : 300 < g + 1 ∨ (0 < wrdN (ls a) ∧ 248 < sz 0 + sz 1 + wrdN (ls a))
  · rw [if_pos q1] at sk; cases sk
  rw [if_neg q1] at sk
  have opc : ∀ h4, R2 H q0 pb nU it lab (8 + f0) wd mc arr cap (((a, t, u, m) :: R, mac, sec, sz, g + 1, us), q :: A, bu) h4 → True := fun _ _ => trivial
  by_cases k0 : (ls a).1 = 0
  · rw [if_pos k0] at sk
    cases sk
    unfold lnE at l1
    rw [if_pos k0] at l1
    unfold st2; rw [hs]; dsimp only
    rw [if_neg hat, if_neg h8, if_neg (show ¬ ((ls a).1 = 2 ∨ (ls a).1 = 3 ∨ (ls a).1 = 5) by omega), k0]
    refine Ok.le (m_X5_go rfl rfl) ?_
    obtain ⟨h1, x1, C1, cc, x3⟩ := C.setS q4 (v2 k0).nat.2
    rw [gI_at l1 rfl rfl, Option.bind_some, x1, Option.bind_some, na1]
    exact Ok.ret ⟨by rw [x3]; exact B.set p0 cc, C1.at (a + 1), by rw [x3]; exact K.set I1 hu (fun k hk => (p0.2.2 k hk).1) cc⟩
  rw [if_neg k0] at sk
  by_cases k6 : (ls a).1 = 6
  · rw [if_pos k6] at sk
    by_cases hm : mac (nn (ls a).2.1) ≠ none
    · rw [if_pos hm] at sk; cases sk
    rw [if_neg hm] at sk
    have hm := Classical.not_not.mp hm
    cases hx : nxM ls (n - (a + 1)) (a + 1) with
    | none => rw [hx] at sk; cases sk
    | some e =>
      rw [hx] at sk
      dsimp only at sk
      by_cases e6 : (ls e).1 = 6
      · rw [if_pos e6] at sk; cases sk
      rw [if_neg e6] at sk
      cases sk
      unfold lnE at l1
      rw [if_neg k0, if_neg (by omega), if_neg (by omega), if_neg (by omega), if_neg (by omega), if_neg (by omega), if_pos k6] at l1
      have gk : goK (ls a).1 = goK 6 := by rw [k6]
      rw [gk]
      refine OE.le ?_ (m_X12_go (d := d) (v0 := p) (v1 := .ref pb) (v2 := .ref (useP q0 it R u)) (v3 := Int32.ofNat a) (h := h) rfl rfl)
      rw [gI_at l1 rfl rfl, Option.bind_some, C.vn, Option.bind_some, show (if 30 = 27 then 288 else 288) = 288 from rfl]
      obtain ⟨-, D2⟩ := x_define (d := d) Z B hn (by omega) (by omega) ⟨p2, p3⟩ q4 C ha k6 (by omega)
      unfold st2; rw [hs]; dsimp only
      rw [if_neg hat, if_neg h8, if_neg (show ¬ ((ls a).1 = 2 ∨ (ls a).1 = 3 ∨ (ls a).1 = 5) by omega)]
      have X := ((D2 hm).2 e hx).2 e6
      refine Ok.I X fun h' Y => ?_
      refine Ok.ret ⟨Y.1, Y.2.1.at (e + 1), ?_⟩
      have K1 := K.set (p := pb + 2) I1 hu (fun k hk => (p2.2.2 k hk).1) (h'.1 (pb + 2))
      have K2 := K1.set (p := pb + 3) I1 hu (fun k hk => (p3.2.2 k hk).1) (h'.1 (pb + 3))
      refine CAR.mv _ _ K2 fun f _ => ?_
      show h'.1 _ = if it f.2.2.1 = pb + 3 then h'.1 (pb + 3) else if it f.2.2.1 = pb + 2 then h'.1 (pb + 2) else h.1 (it f.2.2.1)
      by_cases z1 : it f.2.2.1 = pb + 3
      · rw [if_pos z1, z1]
      rw [if_neg z1]
      by_cases z2 : it f.2.2.1 = pb + 2
      · rw [if_pos z2, z2]
      · rw [if_neg z2, Y.2.2 _ z2 z1]
  rw [if_neg k6] at sk
  by_cases k7 : (ls a).1 = 7
  · rw [if_pos k7] at sk; cases sk
  rw [if_neg k7, if_neg h8] at sk
  cases sk
  dsimp only at hf0 hf1
  have bound : wrdN (ls a) ≠ 0 → (if sec = 0 then 8 else 8 + f0) + sz sec + wrdN (ls a) ≤ 256 := fun _ => by
    rcases (show sec = 0 ∨ sec = 1 by omega) with c | c
    · subst c; rw [if_pos rfl] at hf0 ⊢; omega
    · subst c; rw [if_pos rfl] at hf1; rw [if_neg (by omega)]; omega
  by_cases k1 : (ls a).1 = 1
  · have w0 : wrdN (ls a) = 0 := by unfold wrdN; rw [if_neg (by omega), if_neg (by omega), if_neg (by omega)]
    unfold lnE at l1
    rw [if_neg k0, if_pos k1] at l1
    have gk : goK (ls a).1 = goK 1 := by rw [k1]
    rw [gk]
    refine OE.le ?_ (m_X6_go (d := d) (v0 := p) (v1 := .ref pb) (v2 := .ref (useP q0 it R u)) (v3 := Int32.ofNat a) (h := h) rfl rfl)
    rw [gI_at l1 rfl rfl, Option.bind_some, C.vn, Option.bind_some, show (if 30 = 27 then 291 else 352) = 352 from rfl, show ax_c d 352 [.ref pb, .int (ls a).2.1, .ref (useP q0 it R u), .int (Int32.ofNat a)] h = some (.inl none, h) from by
      obtain ⟨d, rfl, -⟩ := d_succ (k := 14) (by omega : 15 ≤ d)
      exact dx_app (m_X20_set rfl) rfl, cV_v, na1]
    unfold st2; rw [hs]; dsimp only
    rw [if_neg hat, if_neg h8, if_neg (show ¬ ((ls a).1 = 2 ∨ (ls a).1 = 3 ∨ (ls a).1 = 5) by omega), w0, w_eq]
    exact Ok.ret (CC.at (a + 1))
  by_cases k2 : (ls a).1 = 2
  · have w2 : wrdN (ls a) = 2 := by unfold wrdN; rw [if_pos k2]
    have bd := bound (by omega)
    have g1 := v4 (Or.inl k2)
    obtain ⟨lqb, lqc⟩ := l2 (Or.inl k2)
    unfold lnE at l1
    rw [if_neg k0, if_neg k1, if_pos k2] at l1
    have gk : goK (ls a).1 = goK 2 := by rw [k2]
    rw [gk]
    refine OE.le ?_ (m_X8_go (d := d) (v0 := p) (v1 := .ref pb) (v2 := .ref (useP q0 it R u)) (v3 := Int32.ofNat a) (h := h) rfl rfl)
    rw [gI_at l1 rfl rfl, Option.bind_some, gI_at l1 rfl rfl, Option.bind_some, gI_at l1 rfl rfl, Option.bind_some, C.vn, Option.bind_some, show (if 30 = 27 then 292 else 353) = 353 from rfl, l4 k2]
    unfold st2; rw [hs]; dsimp only
    rw [if_neg hat, if_neg h8, if_pos (Or.inl k2)]
    refine OE.V (x_take2 (d := d) (wv := (ls a).2.2.2.1) (av := Int32.ofNat a) CC ap I1 hu I3 (by omega) (by omega)) fun h4 X => ?_
    have XX := X
    obtain ⟨B4, C4, K4⟩ := X
    dsimp only at B4 C4 K4
    have l1' : h4.1 p = _ := (B4.2.1.1 p lp).trans ((B.2.1.1 p lp).symm.trans l1)
    obtain ⟨X1, X2⟩ := x_value2 (d := d) Z XX hn hR (by omega) g1 ((B4.2.1.1 lq lqb).trans lqc) (by omega)
    rw [gA_r l1' rfl rfl, Option.bind_some, C4.vn, Option.bind_some, show (if 30 = 27 then 293 else 354) = 354 from rfl]
    cases hv : valF lab (8 + f0) R u q (ls a).2.1 (ls a).2.2.1 with
    | inr e => exact OkX.xI (X2 e hv) fun i h' W => W.x0
    | inl x1 =>
      rw [X1 x1 hv, cI_v, C4.vn, Option.bind_some, show (if 30 = 27 then 292 else 353) = 353 from rfl]
      dsimp only
      rw [if_neg (show ¬ (ls a).1 = 5 by omega), if_neg (show ¬ (ls a).1 = 3 by omega)]
      refine Ok.V (x_take2 (d := d) (wv := x1) (av := Int32.ofNat a) XX ap I1 hu I3 (by rw [if_pos rfl]; omega) (by omega)) fun h5 Y => ?_
      rw [if_pos rfl, w_add sz sec 1, ← Nat.add_assoc] at Y
      rw [na1, w2]
      exact Ok.ret (Y.at (a + 1))
  by_cases k3 : (ls a).1 = 3
  · have w1 : wrdN (ls a) = 1 := by unfold wrdN; rw [if_neg k2, if_pos k3]
    have bd := bound (by omega)
    have g1 := v4 (Or.inr (Or.inl k3))
    obtain ⟨lqb, lqc⟩ := l2 (Or.inr (Or.inl k3))
    unfold lnE at l1
    rw [if_neg k0, if_neg k1, if_neg k2, if_pos k3] at l1
    have gk : goK (ls a).1 = goK 3 := by rw [k3]
    rw [gk]
    refine OE.le ?_ (m_X9_go (d := d) (v0 := p) (v1 := .ref pb) (v2 := .ref (useP q0 it R u)) (v3 := Int32.ofNat a) (h := h) rfl rfl)
    obtain ⟨X1, X2⟩ := x_value2 (d := d) Z CC hn hR (by omega) g1 ((B.2.1.1 lq lqb).trans lqc) (by omega)
    rw [gA_r l1 rfl rfl, Option.bind_some, C.vn, Option.bind_some, show (if 30 = 27 then 293 else 354) = 354 from rfl]
    unfold st2; rw [hs]; dsimp only
    rw [if_neg hat, if_neg h8, if_pos (Or.inr (Or.inl k3))]
    cases hv : valF lab (8 + f0) R u q (ls a).2.1 (ls a).2.2.1 with
    | inr e => exact OkX.xI (X2 e hv) fun i h' W => W.x0
    | inl x1 =>
      rw [X1 x1 hv, cI_v, C.vn, Option.bind_some, show (if 30 = 27 then 292 else 353) = 353 from rfl]
      dsimp only
      rw [if_neg (show ¬ (ls a).1 = 5 by omega), if_pos k3]
      refine Ok.V (x_take2 (d := d) (wv := x1) (av := Int32.ofNat a) CC ap I1 hu I3 (by omega) (by omega)) fun h5 Y => ?_
      rw [na1, w1]
      exact Ok.ret (Y.at (a + 1))
  by_cases k4 : (ls a).1 = 4
  · have w4 : wrdN (ls a) = nn (ls a).2.1 := by unfold wrdN; rw [if_neg k2, if_neg k3, if_pos k4]
    obtain ⟨r1, r2⟩ := (v6 k4).nat
    unfold lnE at l1
    rw [if_neg k0, if_neg k1, if_neg k2, if_neg k3, if_pos k4] at l1
    have gk : goK (ls a).1 = goK 4 := by rw [k4]
    rw [gk]
    refine OE.le ?_ (m_X10_go (d := d) (v0 := p) (v1 := .ref pb) (v2 := .ref (useP q0 it R u)) (v3 := Int32.ofNat a) (h := h) rfl rfl)
    unfold st2; rw [hs]; dsimp only
    rw [if_neg hat, if_neg h8, if_neg (show ¬ ((ls a).1 = 2 ∨ (ls a).1 = 3 ∨ (ls a).1 = 5) by omega)]
    rw [w4] at hf0 hf1 bound ⊢
    have l1 := (B.2.1.1 p lp).symm.trans l1
    have loop : ∀ r j h1, j + r = nn (ls a).2.1 → R2 H q0 pb nU it lab (8 + f0) wd mc arr cap (((a, t, u, m) :: R, mac, sec, (fun k => if k = sec then sz k + j else sz k), g + 1, us), q :: A, bu) h1 → Ok (B_X10_go_3 (ax_c d) p (.ref pb) (Int32.ofNat a) (Int32.ofNat j) h1) (.inl (some (.int (Int32.ofNat (a + 1))))) (R2 H q0 pb nU it lab (8 + f0) wd mc arr cap (((a + 1, t, u, m) :: R, mac, sec, (fun k => if k = sec then sz k + nn (ls a).2.1 else sz k), g + 1, us), q :: A, bu)) := by
      intro r
      induction r with
      | zero =>
        intro j h1 hj X
        obtain rfl : j = nn (ls a).2.1 := by omega
        refine Ok.le (b_X10_go_3 rfl) ?_
        have e1 : h1.1 p = _ := (X.1.2.1.1 p lp).trans l1
        rw [gI_at e1 rfl rfl, Option.bind_some, if_pos (show (ls a).2.1 ≤ Int32.ofNat (nn (ls a).2.1) by rw [← r2]; exact Int32.le_refl _), na1]
        exact Ok.ret (X.at (a + 1))
      | succ r ih =>
        intro j h1 hj X
        have e1 : h1.1 p = _ := (X.1.2.1.1 p lp).trans l1
        have lb := b_X10_go_3 (K := ax_c d) (v0 := p) (v1 := .ref pb) (v3 := Int32.ofNat a) (v4 := Int32.ofNat j) (h := h1) rfl
        rw [gI_at e1 rfl rfl, Option.bind_some, if_neg (by rw [r2]; exact i_ge_not (by omega) (by omega)), X.2.1.vn, Option.bind_some, show (if 30 = 27 then 292 else 353) = 353 from rfl] at lb
        have bd := bound (by omega)
        refine Ok.le lb (Ok.V (x_take2 (d := d) (wv := 0) (av := Int32.ofNat a) X ap I1 hu I3 (by rw [if_pos rfl]; omega) (by omega)) fun h2 Y => ?_)
        rw [if_pos rfl, w_add sz sec j, upd_id (zb _ (by
          dsimp only
          rcases (show sec = 0 ∨ sec = 1 by omega) with c | c
          · left
            subst c
            rw [if_pos rfl] at hf0 ⊢
            omega
          · right
            subst c
            rw [if_neg (by omega)]
            omega))] at Y
        rw [lt_at, show Int32.ofNat j + 1 = Int32.ofNat (j + 1) from i_add j 1]
        exact ih (j + 1) h2 (by omega) Y
    exact loop (nn (ls a).2.1) 0 h (by omega) (by rw [w_eq]; exact CC)
  have k5 : (ls a).1 = 5 := by omega
  have w0 : wrdN (ls a) = 0 := by unfold wrdN; rw [if_neg k2, if_neg k3, if_neg k4]
  have g1 := v4 (Or.inr (Or.inr (Or.inl k5)))
  obtain ⟨lqb, lqc⟩ := l2 (Or.inr (Or.inr (Or.inl k5)))
  obtain ⟨r1, r2⟩ := (v7 k5).nat
  unfold lnE at l1
  rw [if_neg k0, if_neg k1, if_neg k2, if_neg k3, if_neg k4, if_pos k5] at l1
  have gk : goK (ls a).1 = goK 5 := by rw [k5]
  rw [gk]
  refine OE.le ?_ (m_X11_go (d := d) (v0 := p) (v1 := .ref pb) (v2 := .ref (useP q0 it R u)) (v3 := Int32.ofNat a) (h := h) rfl rfl)
  obtain ⟨X1, X2⟩ := x_value2 (d := d) Z CC hn hR (by omega) g1 ((B.2.1.1 lq lqb).trans lqc) (by omega)
  rw [gI_at l1 rfl rfl, Option.bind_some, gA_r l1 rfl rfl, Option.bind_some, C.vn, Option.bind_some, show (if 30 = 27 then 293 else 354) = 354 from rfl]
  unfold st2; rw [hs]; dsimp only
  rw [if_neg hat, if_neg h8, if_pos (Or.inr (Or.inr k5))]
  cases hv : valF lab (8 + f0) R u q (ls a).2.1 (ls a).2.2.1 with
  | inr e => exact OkX.xI (X2 e hv) fun i h' W => W.x0
  | inl x1 =>
    rw [X1 x1 hv, cI_v, C.vn, Option.bind_some, show (if 30 = 27 then 294 else 355) = 355 from rfl]
    dsimp only
    rw [if_pos k5, w0, w_eq]
    obtain ⟨h2, y1, B2, cc, y3⟩ := B.put (p := nn (ls a).2.2.2.1) (by omega) x1
    have pt : ax_c d 355 [.ref pb, .int (ls a).2.2.2.1, .int x1] h = some (.inl none, h2) := by
      obtain ⟨d, rfl, -⟩ := d_succ (k := 14) (by omega : 15 ≤ d)
      refine dx_app m_X20_point ?_
      have g8 : dx_gA [(30, 8)] (.ref pb) h = some (.ref q0) := gA_r C.2.1 rfl rfl
      have g3 : dx_gA [(25, 3)] (.ref q0) h = some (.ref (q0 + 5)) := gA_r B.2.2.2.1 rfl rfl
      rw [g8, Option.bind_some, g3, Option.bind_some, r2, y1, Option.bind_some]
    rw [pt, cV_v, na1]
    exact Ok.ret ⟨B2, (C.mv fun j hj => by rw [y3]; exact set_ne _ (by have := (ap j hj).1; omega)).at (a + 1), by rw [y3]; exact K.set I1 hu (fun k hk => by have := (B.2.2.2.2.2.2.2.2.2.2.1 k hk).1; omega) cc⟩
end CWS
