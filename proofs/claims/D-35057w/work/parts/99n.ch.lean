/-! the class goes through all lines the second way: the recursion -/
/- with lnD lnV lnE LnC opK CLW GO OLD Ext CPS CB AP WR useP CB.ext CB.mv CB.set CB.fs CPS.mv CPS.lk CPS.vn CPS.incG CPS.incU CPS.use1 CPS.use0 WR.x0 x_check0 x_check1 st2 s2T valF valF_rg v_err skS st2_sk sk_inv sk_fr sk_sz go_sz go_inv goG goG_split SKI FRK FRK.len FRK.ub OE OE.le OE.I OE.V OE.Rf hdA goK PRE LNW x_line2 x_head PRE.go PRE.line PRE.size PRE.V lnE_go CPS.at Ok.ret cs_at CAR CAR.mv CAR.set R2 R2.at ZB x_value2 AP.all al_get useP_eq -/
/-- what the second way keeps -/
def INV2 (ls : Nat → lnD) (n f0 : Nat) (σe : skT) (S : s2T) : Prop := SKI ls n S.1 ∧ (∃ f2, goG (skS ls n) (fun σ => σ.1.length) f2 0 S.1 = some (.inl σe)) ∧ ZB f0 S ∧ S.2.1.length = S.1.1.length
section CHS
variable {H h h' : ax_H} {q0 nU c1 c2 arr cap pk pb d k p a w e l j u sec g us n t m x y b f0 f1 : Nat} {it : Nat → Nat} {lab bu : Nat → Int32} {bh wd mc v : Int32} {σ σ' σe : skT} {R F G : List frT} {sz : Nat → Nat} {mac : Nat → Option (Nat × Nat)} {ls : Nat → lnD} {P : Nat → Prop} {iv : Value} {q : Int32 × Int32} {A : List (Int32 × Int32)}
theorem go_us : ∀ f σ, goG (skS ls n) (fun σ => σ.1.length) f 0 σ = some (.inl σe) → σ.2.2.2.2.2 ≤ σe.2.2.2.2.2 := by
  intro f
  induction f with
  | zero => intro σ h; exact absurd h (by unfold goG; exact fun z => by cases z)
  | succ f ih =>
    intro σ h
    unfold goG at h
    by_cases e : σ.1.length ≤ 0
    · rw [if_pos e] at h; cases h; exact Nat.le_refl _
    · rw [if_neg e] at h
      cases hs : skS ls n σ with
      | inr x => rw [hs] at h; cases h
      | inl x =>
        rw [hs] at h
        have b := ih x h
        obtain ⟨F, mac, sec, sz, g, us⟩ := σ
        cases F with
        | nil => exact absurd (Nat.zero_le 0) e
        | cons F R =>
          obtain ⟨a, t, u, m⟩ := F
          rcases sk_fr hs with ⟨-, z⟩ | ⟨-, -, z, -⟩ | ⟨-, -, x', y', -, -, z⟩
          · rw [z] at b; exact b
          · rw [z] at b; exact b
          · rw [z] at b; exact Nat.le_trans (Nat.le_succ _) b
/-- the way goes on without an error -/
theorem rc_step (h : ∃ f2, goG (skS ls n) (fun σ => σ.1.length) f2 0 σ = some (.inl σe)) (h0 : 0 < σ.1.length) : ∃ σ', skS ls n σ = .inl σ' ∧ ∃ f2, goG (skS ls n) (fun σ => σ.1.length) f2 0 σ' = some (.inl σe) := by
  obtain ⟨f2, h⟩ := h
  cases f2 with
  | zero => exact absurd h (by unfold goG; exact fun z => by cases z)
  | succ f2 =>
    unfold goG at h
    rw [if_neg (by omega)] at h
    cases hs : skS ls n σ with
    | inr x => rw [hs] at h; cases h
    | inl x => rw [hs] at h; exact ⟨x, rfl, f2, h⟩
theorem INV2.st {S S' : s2T} (V : ∀ t, t < n → lnV (ls t)) (hf0 : σe.2.2.2.1 0 = f0) (I : INV2 ls n f0 σe S) (h0 : 0 < S.1.1.length) (h : st2 ls n lab b S = .inl S') (hb : b = 8 + f0) : INV2 ls n f0 σe S' := by
  obtain ⟨⟨F, mac, sec, sz, g, us⟩, A, bu⟩ := S
  cases F with
  | nil => exact absurd h0 (Nat.not_lt_zero _)
  | cons F R =>
  obtain ⟨a, t, u, m⟩ := F
  obtain ⟨I1, I2, I3, I4⟩ := I
  dsimp only at I1 I2 I3 I4
  cases A with
  | nil => rw [List.length_cons] at I4; exact absurd I4 (by show ¬ 0 = _; omega)
  | cons q A =>
  rw [List.length_cons, List.length_cons] at I4
  have hk := st2_sk h
  obtain ⟨σ1, k1, k2⟩ := rc_step I2 h0
  have es : σ1 = S'.1 := Sum.inl.inj (k1.symm.trans hk)
  rw [es] at k2
  have zz : S'.1.2.2.2.1 0 ≤ f0 := by obtain ⟨f2, k2⟩ := k2; rw [← hf0]; exact (go_sz f2 _ k2).1
  have sz' := sk_sz hk
  have J := I1
  obtain ⟨J1, J2, J3, J4, J5, J6⟩ := J
  dsimp only at J1 J2 J3 J4 J5 J6 sz'
  refine ⟨(sk_inv V I1 hk h0).1, k2, ?_, ?_⟩
  · -- zeros
    unfold st2 at h
    rw [hk] at h
    dsimp only at h
    by_cases e : a = t
    · rw [if_pos e] at h
      have h := Sum.inl.inj h
      intro i hi
      rw [← h]
      exact I3 i (by dsimp only; omega)
    rw [if_neg e] at h
    by_cases k8 : (ls a).1 = 8
    · rw [if_pos k8] at h
      split at h
      · cases h
      · cases h
      · have h := Sum.inl.inj h
        intro i hi
        rw [← h]
        exact I3 i (by dsimp only; omega)
    rw [if_neg k8] at h
    obtain ⟨f1, f2, f3, f4⟩ := id J1
    have v7 := (V a (by omega)).2.2.2.2.2.2.1
    by_cases k235 : (ls a).1 = 2 ∨ (ls a).1 = 3 ∨ (ls a).1 = 5
    · rw [if_pos k235] at h
      split at h
      · cases h
      · rename_i x hx
        by_cases k5 : (ls a).1 = 5
        · rw [if_pos k5] at h
          have h := Sum.inl.inj h
          intro i hi
          have r5 := (v7 k5).nat.1
          rw [← h]; dsimp only; rw [upd_at, if_neg (by omega)]
          exact I3 i (by dsimp only; omega)
        rw [if_neg k5] at h
        -- the sizes behind
        have sk := hk
        unfold skS at sk
        dsimp only at sk
        rw [if_neg e] at sk
        split at sk
        · cases sk
        rw [if_neg (show ¬ (ls a).1 = 0 by omega), if_neg (show ¬ (ls a).1 = 6 by omega), if_neg (show ¬ (ls a).1 = 7 by omega)] at sk
        have sk := Sum.inl.inj sk
        have z0 : S'.1.2.2.2.1 0 = if 0 = sec then sz 0 + wrdN (ls a) else sz 0 := by rw [← sk]
        have z1 : S'.1.2.2.2.1 1 = if 1 = sec then sz 1 + wrdN (ls a) else sz 1 := by rw [← sk]
        by_cases k3 : (ls a).1 = 3
        · have w1 : wrdN (ls a) = 1 := by unfold wrdN; rw [if_neg (by omega), if_pos k3]
          rw [if_pos k3] at h
          have h := Sum.inl.inj h
          intro i hi
          rw [← h]; dsimp only; rw [upd_at, if_neg]
          · exact I3 i (by dsimp only; omega)
          · rw [w1] at z0 z1
            rcases (show sec = 0 ∨ sec = 1 by omega) with c | c
            · subst c
              rw [if_pos rfl] at z0 ⊢
              omega
            · subst c
              rw [if_pos rfl] at z1
              rw [if_neg (by omega)]
              omega
        · have w2 : wrdN (ls a) = 2 := by unfold wrdN; rw [if_pos (by omega)]
          rw [if_neg k3] at h
          have h := Sum.inl.inj h
          intro i hi
          rw [← h]; dsimp only; rw [upd_at, if_neg, upd_at, if_neg]
          · exact I3 i (by dsimp only; omega)
          · rw [w2] at z0 z1
            rcases (show sec = 0 ∨ sec = 1 by omega) with c | c
            · subst c
              rw [if_pos rfl] at z0 ⊢
              omega
            · subst c
              rw [if_pos rfl] at z1
              rw [if_neg (by omega)]
              omega
          · rw [w2] at z0 z1
            rcases (show sec = 0 ∨ sec = 1 by omega) with c | c
            · subst c
              rw [if_pos rfl] at z0 ⊢
              omega
            · subst c
              rw [if_pos rfl] at z1
              rw [if_neg (by omega)]
              omega
    · rw [if_neg k235] at h
      have h := Sum.inl.inj h
      intro i hi
      rw [← h]
      exact I3 i (by dsimp only; omega)
  · -- as many arguments as frames
    unfold st2 at h
    rw [hk] at h
    dsimp only at h
    rcases sk_fr hk with ⟨e, z⟩ | ⟨e, k8, -, a', z⟩ | ⟨e, k8, x', y', -, -, z⟩
    · rw [if_pos e] at h
      have h := Sum.inl.inj h
      rw [z, ← h]; dsimp only; omega
    · rw [if_neg e, if_neg k8] at h
      rw [z, List.length_cons]
      split at h
      · split at h
        · cases h
        · split at h
          · have h := Sum.inl.inj h
            rw [← h]; dsimp only; rw [List.length_cons]; omega
          split at h
          · have h := Sum.inl.inj h
            rw [← h]; dsimp only; rw [List.length_cons]; omega
          · have h := Sum.inl.inj h
            rw [← h]; dsimp only; rw [List.length_cons]; omega
      · have h := Sum.inl.inj h
        rw [← h]; dsimp only; rw [List.length_cons]; omega
    · rw [if_neg e, if_pos k8] at h
      rw [z, List.length_cons, List.length_cons]
      split at h
      · cases h
      · cases h
      · have h := Sum.inl.inj h
        rw [← h]; dsimp only; rw [List.length_cons, List.length_cons]; omega
theorem x_go2 (Z : PRE H n ls P iv) (ap : ∀ j, j < 5 → AP q0 nU it arr (pb + j)) (hn : nU ≤ 300) (hf0 : σe.2.2.2.1 0 = f0) (hf1 : σe.2.2.2.1 1 = f1) (hf : f0 + f1 ≤ 248) (hU : σe.2.2.2.2.2 = nU) (hlab : ∀ i, lab i = -1 ∨ rg 1248 (lab i)) : ∀ f a t u m R mac sec sz g us q A bu h d r, goG (st2 ls n lab (8 + f0)) (fun S => S.1.1.length) f R.length (((a, t, u, m) :: R, mac, sec, sz, g, us), q :: A, bu) = some r → INV2 ls n f0 σe (((a, t, u, m) :: R, mac, sec, sz, g, us), q :: A, bu) → R2 H q0 pb nU it lab (8 + f0) wd mc arr cap (((a, t, u, m) :: R, mac, sec, sz, g, us), q :: A, bu) h → 4 * (7 - (R.length + 1)) + 40 ≤ d → OE H r (fun _ => none) (fun S h' => S.1.1 = R ∧ S.2.1 = A ∧ R2 H q0 pb nU it lab (8 + f0) wd mc arr cap (((t, t, u, m) :: R, S.1.2), q :: A, S.2.2) h') (B_X17_go_3 (ax_c d) pb (Int32.ofNat t) (.ref (useP q0 it R u)) (Int32.ofNat a) h) := by
  obtain ⟨n1, V⟩ := Z.V
  obtain ⟨p0, p1, p2, p3, p4⟩ := AP.all ap
  intro f
  induction f with
  | zero => intro a t u m R mac sec sz g us q A bu h d r hr; exact absurd hr (by unfold goG; exact fun z => by cases z)
  | succ f ih =>
    intro a t u m R mac sec sz g us q A bu h d r hr J C hd
    unfold goG at hr
    rw [if_neg (show ¬ ((a, t, u, m) :: R).length ≤ R.length by rw [List.length_cons]; omega)] at hr
    have h0 : 0 < ((a, t, u, m) :: R).length := by rw [List.length_cons]; omega
    have J0 := J
    obtain ⟨I, rc, zb, Al⟩ := J
    dsimp only at I rc Al
    have I0 := I
    obtain ⟨I1, I2, I3, I4, I5, I6⟩ := I
    dsimp only at I1 I2 I3 I4 I5 I6
    obtain ⟨f1', f2, f3, f4⟩ := id I1
    have len6 := FRK.len I1
    rw [List.length_cons] at len6
    have usn : us ≤ nU := by obtain ⟨f2, z⟩ := rc; rw [← hU]; exact go_us f2 _ z
    have hR : R = [] ∨ u < nU := by
      by_cases e : R = []
      · exact Or.inl e
      · rw [if_neg e] at f3; exact Or.inr (by omega)
    have CC := C
    obtain ⟨B, C, K⟩ := C
    dsimp only at B C K
    have q4 : 400 ≤ pb := by have := B.1; have := p0.1; omega
    obtain ⟨σ1, hk, rc1⟩ := rc_step rc h0
    have s0 : σ1.2.2.2.1 0 ≤ f0 := by obtain ⟨f2, z⟩ := rc1; rw [← hf0]; exact (go_sz f2 _ z).1
    have s1 : σ1.2.2.2.1 1 ≤ f1 := by obtain ⟨f2, z⟩ := rc1; rw [← hf1]; exact (go_sz f2 _ z).2
    by_cases e : a = t
    · have e0 : σ1 = (R, mac, sec, sz, g, us) := by
        rcases sk_fr hk with ⟨-, z⟩ | ⟨z, -⟩ | ⟨z, -⟩
        · exact z
        · exact absurd e z
        · exact absurd e z
      have e1 : st2 ls n lab (8 + f0) (((a, t, u, m) :: R, mac, sec, sz, g, us), q :: A, bu) = .inl ((R, mac, sec, sz, g, us), A, bu) := by
        unfold st2
        rw [hk]
        dsimp only
        rw [if_pos e, e0]
      rw [e1] at hr
      dsimp only at hr
      cases f with
      | zero => exact absurd hr (by unfold goG; exact fun z => by cases z)
      | succ f =>
        unfold goG at hr
        rw [if_pos (show R.length ≤ R.length from Nat.le_refl _)] at hr
        cases hr
        refine Ok.le (b_X17_go_3 rfl) ?_
        rw [e, if_pos (Int32.le_refl _)]
        refine Ok.ret ⟨rfl, rfl, ?_⟩
        rw [e] at CC
        exact CC
    have q300 : ¬ 300 < g + 1 := fun z => by
      unfold skS at hk
      dsimp only at hk
      rw [if_neg e, if_pos (Or.inl z)] at hk
      cases hk
    obtain ⟨h1, cc, x3, C1, -, y2⟩ := x_head (us0 := useP q0 it R u) (d := d) Z B.2.1 C q4 (by omega) f2 (by omega) I5 (fun c => (B.set p0 c).2.1)
    have B1 : CB H q0 nU 16 400 it lab bu (Int32.ofNat (8 + f0)) wd mc arr cap h1 := by rw [x3]; exact B.set p0 cc
    have K1 : CAR h1 it ((a, t, u, m) :: R) (q :: A) := by rw [x3]; exact K.set I1 usn (fun k hk => (p0.2.2 k hk).1) cc
    obtain ⟨lp, LN, le⟩ := y2 q300
    refine OE.le ?_ le
    by_cases k8 : (ls a).1 ≠ 8
    · have X := x_line2 (d := d) Z I0 e k8 LN hk s0 s1 hf ⟨B1, C1, K1⟩ zb ap usn hn (by omega)
      cases hs : st2 ls n lab (8 + f0) (((a, t, u, m) :: R, mac, sec, sz, g, us), q :: A, bu) with
      | inr er =>
        rw [hs] at hr X
        cases hr
        exact OkX.xI X fun i h' W => W.x0
      | inl S1 =>
        rw [hs] at hr X
        dsimp only at hr
        have J1 := INV2.st V hf0 J0 h0 hs rfl
        have ea : S1.2.1 = q :: A := by
          unfold st2 at hs
          rw [hk] at hs
          dsimp only at hs
          rw [if_neg e, if_neg k8] at hs
          split at hs
          · split at hs
            · cases hs
            · split at hs
              · rw [← Sum.inl.inj hs]
              split at hs
              · rw [← Sum.inl.inj hs]
              · rw [← Sum.inl.inj hs]
          · rw [← Sum.inl.inj hs]
        have hk1 := st2_sk hs
        obtain ⟨⟨F1, mac1, sec1, sz1, g1, us1⟩, A1, bu1⟩ := S1
        rcases sk_fr hk1 with ⟨z, -⟩ | ⟨-, -, z1, a', z2⟩ | ⟨-, z, -⟩
        · exact absurd z e
        · dsimp only at z1 z2 ea
          subst z1 z2 ea
          refine OE.I X fun h' Y => ?_
          exact ih a' t u m R _ _ _ _ _ q A _ h' d r hr J1 Y hd
        · exact absurd z k8
    have k8 := Classical.not_not.mp k8
    obtain ⟨v1, v2, v3, v4, v5, v6, v7, v8, v9⟩ := V a (by omega)
    obtain ⟨m4, me⟩ := (v5 k8).2.nat
    obtain ⟨lq, lr, lo, lx, ly, ⟨lpb, l1⟩, l2, l3, l4⟩ := LN
    have l1 := (B1.2.1.1 lp lpb).trans l1
    obtain ⟨lqb, lqc⟩ := l2 (Or.inr (Or.inr (Or.inr k8)))
    obtain ⟨lrb, lrc⟩ := l3 k8
    unfold lnE at l1
    rw [if_neg (by omega), if_neg (by omega), if_neg (by omega), if_neg (by omega), if_neg (by omega), if_neg (by omega), if_neg (by omega), if_neg (by omega)] at l1
    have gk : goK (ls a).1 = goK 8 := by rw [k8]
    rw [gk]
    obtain ⟨d1, rfl, he1⟩ := d_succ (k := d - 1) (by omega : d - 1 + 1 ≤ d)
    obtain ⟨d2, rfl, he2⟩ := d_succ (k := d1 - 1) (by omega : d1 - 1 + 1 ≤ d1)
    obtain ⟨d3, rfl, he3⟩ := d_succ (k := d2 - 1) (by omega : d2 - 1 + 1 ≤ d2)
    have le14 := m_X14_go (d := d3 + 1 + 1) (v0 := lp) (v1 := .ref pb) (v2 := .ref (useP q0 it R u)) (v3 := Int32.ofNat a) (h := h1) rfl rfl
    rw [gI_at l1 rfl rfl, Option.bind_some, gA_r l1 rfl rfl, Option.bind_some, gA_r l1 rfl rfl, Option.bind_some, C1.vn, Option.bind_some, show (if 30 = 27 then 289 else 289) = 289 from rfl, me] at le14
    have le17 := m_X17_expand (d := d3 + 1) (v0 := pb) (v1 := Int32.ofNat (nn (ls a).2.2.2.2.2)) (v2 := .ref lq) (v3 := .ref lr) (v4 := .ref (useP q0 it R u)) (v5 := Int32.ofNat a) (h := h1) rfl rfl rfl
    obtain ⟨-, ⟨fb, fe, d4, d5, d6⟩, fu, d7, d8⟩ := id C1.2.2
    have im : ix 5 (Int32.ofNat (nn (ls a).2.2.2.2.2)) = some (nn (ls a).2.2.2.2.2) := ix_of rfl (by omega) (by omega)
    obtain ⟨D1, D2⟩ := d6 (nn (ls a).2.2.2.2.2) (by omega)
    rcases sk_fr hk with ⟨z, -⟩ | ⟨-, z, -⟩ | ⟨-, -, x, y, hm, ex, hσ⟩
    · exact absurd z e
    · exact absurd k8 z
    obtain ⟨M1, M2, M3, M4⟩ := I2 _ _ _ hm
    obtain ⟨B2', B2''⟩ := D2 x y hm
    rw [C1.begins, Option.bind_some, lI_at d4, im, Option.bind_some, Option.bind_some, C1.used, Option.bind_some, lI_at d7, im, Option.bind_some, Option.bind_some, d8 _ (by omega), B2', if_neg (fun z => by
      have z2 := congrArg Int32.toInt z
      rw [i_toInt (by omega)] at z2
      have : (-1 : Int32).toInt = -1 := rfl
      omega)] at le17
    rw [if_neg ex, if_neg (fun z => z rfl)] at le17
    have I1' := (sk_inv V I0 hk h0).1
    rw [hσ] at I1'
    have l6 := FRK.len I1'.1
    rw [List.length_cons, List.length_cons] at l6
    have us1 : us < nU := by
      obtain ⟨f2, z⟩ := rc1
      have := go_us f2 _ z
      rw [hσ, hU] at this
      exact this
    have R2h1 : R2 H q0 pb nU it lab (8 + f0) wd mc arr cap (((a, t, u, m) :: R, mac, sec, sz, g + 1, us), q :: A, bu) h1 := ⟨B1, C1, K1⟩
    obtain ⟨X1, X2⟩ := x_value2 (d := d3 + 1) Z R2h1 hn hR (by omega) (v4 (Or.inr (Or.inr (Or.inr k8)))) ((B1.2.1.1 lq lqb).trans lqc) (by omega)
    obtain ⟨Y1, Y2⟩ := x_value2 (d := d3 + 1) Z R2h1 hn hR (by omega) (v5 k8).1 ((B1.2.1.1 lr lrb).trans lrc) (by omega)
    have lb := b_X17_expand_24 (K := ax_c (d3 + 1)) (s0 := 1) (v0 := pb) (v1 := Int32.ofNat (nn (ls a).2.2.2.2.2)) (v2 := .ref lq) (v3 := .ref lr) (v4 := .ref (useP q0 it R u)) (v5 := Int32.ofNat a) (h := h1) rfl rfl rfl
    rw [x_check1 _ _ (by omega), cV_v, C1.vn, Option.bind_some, show (if 30 = 27 then 293 else 354) = 354 from rfl] at lb
    have lb := dx_trans lb le17
    have bad : ∀ er, OkX (ax_c (d3 + 1 + 1) 289 [.ref pb, .int (Int32.ofNat (nn (ls a).2.2.2.2.2)), .ref lq, .ref lr, .ref (useP q0 it R u), .int (Int32.ofNat a)] h1) (WR H er) → OkX (dx_cI (ax_c (d3 + 1 + 1 + 1) (goK 8) [.ref lp, .ref pb, .ref (useP q0 it R u), .int (Int32.ofNat a)] h1) (fun x7 h6 => B_X17_go_3 (ax_c (d3 + 1 + 1 + 1)) pb (Int32.ofNat t) (.ref (useP q0 it R u)) x7 h6) dx_x0) (WR H er) := fun er X => OkX.xI (P := WR H er) (OkX.le le14 (OkX.xV (P := WR H er) X fun i h' W => W.x0)) fun i h' W => W.x0
    cases hv1 : valF lab (8 + f0) R u q (ls a).2.1 (ls a).2.2.1 with
    | inr er =>
      have hs : st2 ls n lab (8 + f0) (((a, t, u, m) :: R, mac, sec, sz, g, us), q :: A, bu) = .inr (er, a) := by
        unfold st2
        rw [hk]
        dsimp only
        rw [if_neg e, if_pos k8, hv1]
      rw [hs] at hr
      cases hr
      exact bad (er, a) (OkX.le lb (OkX.xI (X2 er hv1) fun i h' W => W.x0))
    | inl x1 =>
    rw [X1 x1 hv1, cI_v, C1.vn, Option.bind_some, show (if 30 = 27 then 293 else 354) = 354 from rfl] at lb
    cases hv2 : valF lab (8 + f0) R u q (ls a).2.2.2.1 (ls a).2.2.2.2.1 with
    | inr er =>
      have hs : st2 ls n lab (8 + f0) (((a, t, u, m) :: R, mac, sec, sz, g, us), q :: A, bu) = .inr (er, a) := by
        unfold st2
        rw [hk]
        dsimp only
        rw [if_neg e, if_pos k8, hv1, hv2]
      rw [hs] at hr
      cases hr
      exact bad (er, a) (OkX.le lb (OkX.xI (Y2 er hv2) fun i h' W => W.x0))
    | inl x2 =>
    have hs : st2 ls n lab (8 + f0) (((a, t, u, m) :: R, mac, sec, sz, g, us), q :: A, bu) = .inl (((x, y, us, nn (ls a).2.2.2.2.2) :: (a + 1, t, u, m) :: R, mac, sec, sz, g + 1, us + 1), (x1, x2) :: q :: A, bu) := by
      unfold st2
      rw [hk]
      dsimp only
      rw [if_neg e, if_pos k8, hv1, hv2, hσ]
    rw [hs] at hr
    dsimp only at hr
    have J1 := INV2.st V hf0 J0 h0 hs rfl
    obtain ⟨r1, G1, G2, G3⟩ := goG_split f R.length _ r (by show R.length ≤ ((x, y, us, nn (ls a).2.2.2.2.2) :: (a + 1, t, u, m) :: R).length; rw [List.length_cons, List.length_cons]; omega) hr
    -- the call of the macro
    obtain ⟨h2, u1, C2, cc2, u3⟩ := C1.incU q4
    have B2 : CB H q0 nU 16 400 it lab bu (Int32.ofNat (8 + f0)) wd mc arr cap h2 := by rw [u3]; exact B1.set p0 cc2
    have K2 : CAR h2 it ((a, t, u, m) :: R) (q :: A) := by rw [u3]; exact K1.set I1 usn (fun k hk => (p0.2.2 k hk).1) cc2
    have bg : ax_c (d3 + 1) 356 [.ref pb, .int (Int32.ofNat us), .int (Int32.ofNat (nn (ls a).2.2.2.2.2))] h2 = some (.inl (some (.ref (it us))), h2) := by
      refine dx_app m_X20_begin ?_
      have g8 : dx_gA [(30, 8)] (.ref pb) h2 = some (.ref q0) := gA_r C2.2.1 rfl rfl
      have g2 : dx_gA [(25, 2)] (.ref q0) h2 = some (.ref (q0 + 4)) := gA_r B2.2.2.2.1 rfl rfl
      have AL2 := B2.2.2.2.2.2.2.2.2.1
      have v61 : dx_vn [(4, 61)] (.ref (q0 + 4)) h2 = some 61 := vn_at AL2.1
      obtain ⟨-, ⟨mm, xx, yy, mm5, cl⟩, -⟩ := B2.2.2.2.2.2.2.2.2.2.2.1 us us1
      rw [g8, Option.bind_some, g2, Option.bind_some, v61, Option.bind_some, al_get (by omega) AL2 us1, cR_r, cs_at cl (by decide)]
    rw [Y1 x2 hv2, cI_v, C1.many, Option.bind_some, show Int32.ofNat ((a, t, u, m) :: R, mac, sec, sz, g + 1, us).2.2.2.2.2 = Int32.ofNat us from rfl, u1, Option.bind_some, C2.vn, Option.bind_some, show (if 30 = 27 then 295 else 356) = 356 from rfl, bg, cR_r] at lb
    have inner : OE H r1 (fun _ => none) (fun S h' => S.1.1 = (a + 1, t, u, m) :: R ∧ S.2.1 = q :: A ∧ R2 H q0 pb nU it lab (8 + f0) wd mc arr cap S h') (ax_c (d3 + 1 + 1) 289 [.ref pb, .int (Int32.ofNat (nn (ls a).2.2.2.2.2)), .ref lq, .ref lr, .ref (useP q0 it R u), .int (Int32.ofNat a)] h1) := by
      refine OE.le ?_ lb
      obtain ⟨h4, h5, mm, w1, w2, B5, ⟨w3, w3'⟩, w4, w5⟩ := B2.fs (k := us) us1 x1 x2
      have nes : ∀ j, j < 5 → pb + j ≠ it us := fun j hj => ((ap j hj).2.2 us us1).1
      have C5 := C2.mv (h' := h5) fun j hj => w4 _ (nes j hj)
      have ord := B2.2.2.2.2.2.2.2.2.2.2.2
      have K5 : CAR h5 it ((a, t, u, m) :: R) (q :: A) := by
        by_cases eR : R = []
        · subst eR
          exact ⟨fun z => absurd rfl z, by cases A <;> trivial⟩
        · refine CAR.mv _ _ K2 fun f hf => w4 _ fun z => ?_
          rcases FRK.ub _ I1 f hf with y | y
          · have := ord _ _ y us1; omega
          · by_cases u0 : us = 0
            · rw [if_neg eR] at f3; omega
            · have := ord f.2.2.1 us (by omega) us1; omega
      obtain ⟨h6, v1', C6, cc6, v3'⟩ := (C5.at (a + 1)).use1 (x := x) (y := y) (u := us) q4 (show nn (ls a).2.2.2.2.2 < 5 by omega)
      have B6 : CB H q0 nU 16 400 it lab bu (Int32.ofNat (8 + f0)) wd mc arr cap h6 := by rw [v3']; exact B5.set p4 cc6
      have n46 : ∀ k, k < nU → pb + 4 ≠ it k := fun k hk => (p4.2.2 k hk).1
      have K6 : CAR h6 it ((x, y, us, nn (ls a).2.2.2.2.2) :: (a + 1, t, u, m) :: R) ((x1, x2) :: q :: A) := by
        refine ⟨fun _ => ⟨valF_rg hlab (by omega) (fun z => ⟨(K1.1 z).1, (K1.1 z).2.1⟩) (v4 (Or.inr (Or.inr (Or.inr k8)))) hv1, valF_rg hlab (by omega) (fun z => ⟨(K1.1 z).1, (K1.1 z).2.1⟩) (v5 k8).1 hv2, mm, w3, ?_⟩, ?_⟩
        · rw [v3']; exact (set_ne _ (n46 us us1).symm).trans w3'
        · rw [v3']; exact (CAR.set (F := (a, t, u, m) :: R) K5 I1 usn n46 cc6).at (a + 1)
      obtain ⟨-, ⟨fb6, fe6, g4, g5, g6⟩, fu6, g7, g8⟩ := id C6.2.2
      obtain ⟨Q1, Q2⟩ := (g6 (nn (ls a).2.2.2.2.2) (by omega)).2 x y hm
      rw [w1, Option.bind_some, w2, Option.bind_some, C5.used, Option.bind_some, v1', Option.bind_some, C6.begins, Option.bind_some, lI_at g4, im, Option.bind_some, Option.bind_some, Q1, C6.ends, Option.bind_some, lI_at g5, im, Option.bind_some, Option.bind_some, Q2, C6.vn, Option.bind_some, show (if 30 = 27 then 287 else 287) = 287 from rfl]
      have X := ih x y us (nn (ls a).2.2.2.2.2) ((a + 1, t, u, m) :: R) mac sec sz (g + 1) (us + 1) (x1, x2) (q :: A) bu h6 d3 r1 G1 J1 ⟨B6, C6, K6⟩ (by rw [List.length_cons]; omega)
      have up : useP q0 it ((a + 1, t, u, m) :: R) us = it us := by
        unfold useP
        rw [if_neg (fun z => by cases z)]
      rw [up] at X
      have X := OE.le X (m_X17_go (d := d3) (v0 := pb) (v1 := Int32.ofNat x) (v2 := Int32.ofNat y) (v3 := .ref (it us)) (h := h6) rfl)
      cases r1 with
      | inr er => exact OkX.xV X fun i h' W => W.x0
      | inl S2 =>
        refine Ok.V X ?_
        rintro h7 ⟨t1, t2, B7, C7, K7⟩
        obtain ⟨⟨F2, mac2, sec2, sz2, g2, us2⟩, A2, bu2⟩ := S2
        dsimp only at t1 t2 B7 C7 K7
        subst t1 t2
        obtain ⟨h8, z1, C8, cc8, z3⟩ := C7.use0 q4 (show nn (ls a).2.2.2.2.2 < 5 by omega) (fun f hf hz => by
          rcases List.mem_cons.mp hf with w | w
          · exact ex ⟨_, List.mem_cons_self, by rw [w] at hz; exact hz⟩
          · exact ex ⟨f, List.mem_cons_of_mem _ w, hz⟩)
        have B8 : CB H q0 nU 16 400 it lab bu2 (Int32.ofNat (8 + f0)) wd mc arr cap h8 := by rw [z3]; exact B7.set p4 cc8
        have K8 : CAR h8 it ((a + 1, t, u, m) :: R) (q :: A) := by rw [z3]; exact CAR.set (F := (a + 1, t, u, m) :: R) K7.2 (FRK.adv I1 (Nat.le_succ a) (by omega)) usn n46 cc8
        rw [C7.used, Option.bind_some, z1, Option.bind_some]
        exact Ok.ret ⟨rfl, rfl, B8, C8, K8⟩
    cases hr1 : r1 with
    | inr er =>
      rw [hr1] at inner
      rw [G2 er hr1]
      exact bad er inner
    | inl S2 =>
      rw [hr1] at inner G1
      have hr2 := G3 S2 hr1
      have J2 : INV2 ls n f0 σe S2 := go_inv (Inv := fun S => INV2 ls n f0 σe S) (fun S S' J hl hst => INV2.st V hf0 J hl hst rfl) _ _ _ _ J1 G1
      refine OE.I (x := Int32.ofNat (a + 1)) (P := fun h' => S2.1.1 = (a + 1, t, u, m) :: R ∧ S2.2.1 = q :: A ∧ R2 H q0 pb nU it lab (8 + f0) wd mc arr cap S2 h') (Ok.le le14 (Ok.V inner fun h' Y => ?_)) ?_
      · rw [show Int32.ofNat a + 1 = Int32.ofNat (a + 1) from i_add a 1]
        exact Ok.ret Y
      · rintro h8 ⟨t1, t2, Y⟩
        obtain ⟨⟨F2, mac2, sec2, sz2, g2, us2⟩, A2, bu2⟩ := S2
        dsimp only at t1 t2
        subst t1 t2
        exact ih (a + 1) t u m R mac2 sec2 sz2 g2 us2 q A bu2 h8 (d3 + 1 + 1 + 1) r hr2 J2 Y hd
end CHS
