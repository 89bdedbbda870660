/-! the class goes through the lines: values, one line, the second way -/
/- with lnD lnV lnE LnC opK CLW GO OLD Ext CPS CB AP WR useP CB.ext CB.mv CB.set CB.put CB.rowOf CPS.mv CPS.lk CPS.vn CPS.incZ CPS.szS CPS.setS WR.x0 x_check0 x_check1 al_get st2 s2T valF v_err skS st2_sk sk_inv sk_sz go_sz goG SKI FRK FRK.len OE OE.le hdA goK PRE LNW PRE.V lnE_go CPS.at x_define opG opG.kd opG.l opG.wd w_add w_sum w_eq rem_nat i2c_nat -/
/-- the arguments of the uses as they lie -/
def CAR (h : ax_H) (it : Nat → Nat) : List frT → List (Int32 × Int32) → Prop
  | (_, _, u, _) :: R, p :: A => (R ≠ [] → rg 65535 p.1 ∧ rg 65535 p.2 ∧ ∃ mm, mm < 5 ∧ h.1 (it u) = .inr (26, [.int (Int32.ofNat mm), .ref (it u + 1), .int p.1, .int p.2])) ∧ CAR h it R A
  | _, _ => True
/-- the second way's state as it lies -/
def R2 (H : ax_H) (q0 pb nU : Nat) (it : Nat → Nat) (lab : Nat → Int32) (b : Nat) (wd mc : Int32) (arr cap : Nat) (S : s2T) (h : ax_H) : Prop := CB H q0 nU 16 400 it lab S.2.2 (Int32.ofNat b) wd mc arr cap h ∧ CPS 30 q0 pb S.1 h ∧ CAR h it S.1.1 S.2.1
/-- what isn't yet made is 0 -/
def ZB (f0 : Nat) (S : s2T) : Prop := ∀ i, ((8 + S.1.2.2.2.1 0 ≤ i ∧ i < 8 + f0) ∨ 8 + f0 + S.1.2.2.2.1 1 ≤ i) → S.2.2 i = 0
section CVS
variable {H h h' : ax_H} {q0 nU c1 c2 arr cap pk pb d k p a w e l j u sec g us n t m x y b f0 f1 : Nat} {it : Nat → Nat} {lab bu : Nat → Int32} {bh wd mc v : Int32} {σ σ' : skT} {R F G : List frT} {sz : Nat → Nat} {mac : Nat → Option (Nat × Nat)} {ls : Nat → lnD} {P : Nat → Prop} {iv : Value} {q : Int32 × Int32} {A : List (Int32 × Int32)}
theorem CAR.mv : ∀ F A, CAR h it F A → (∀ f, f ∈ F → h'.1 (it f.2.2.1) = h.1 (it f.2.2.1)) → CAR h' it F A := by
  intro F
  induction F with
  | nil => intro A _ _; trivial
  | cons f R ih =>
    obtain ⟨a, t, u, m⟩ := f
    intro A C e
    cases A with
    | nil => trivial
    | cons p A =>
      obtain ⟨c1, c2⟩ := C
      refine ⟨fun z => ?_, ih A c2 fun f hf => e f (List.mem_cons_of_mem _ hf)⟩
      obtain ⟨d1, d2, mm, d3, d4⟩ := c1 z
      exact ⟨d1, d2, mm, d3, (e _ List.mem_cons_self).trans d4⟩
theorem CAR.at {p : Int32 × Int32} (C : CAR h it ((a, t, u, m) :: R) (p :: A)) (b : Nat) : CAR h it ((b, t, u, m) :: R) (p :: A) := C
theorem rem1000 (ha : a < 2 ^ 31) : dx_rem (Int32.ofNat a) 1000 = Int32.ofNat (a % 1000) := rem_nat (b := 1000) ha (by omega)
theorem rem65536 (ha : a < 2 ^ 31) : dx_rem (Int32.ofNat a) 65536 = Int32.ofNat (a % 65536) := rem_nat (b := 65536) ha (by omega)
theorem FRK.ub {mac : Nat → Option (Nat × Nat)} : ∀ F, FRK n mac us F → ∀ f, f ∈ F → f.2.2.1 < us ∨ f.2.2.1 = 0 := by
  intro F
  induction F with
  | nil => intro _ f hf; exact absurd hf List.not_mem_nil
  | cons F R ih =>
    obtain ⟨a, t, u, m⟩ := F
    rintro ⟨h1, h2, h3, h4⟩ f hf
    rcases List.mem_cons.mp hf with z | z
    · rw [z]
      by_cases e : R = []
      · rw [if_pos e] at h3; exact Or.inr h3.2.2
      · rw [if_neg e] at h3; exact Or.inl h3.2.1
    · exact ih h4 f z
theorem valF_rg (hl : ∀ i, lab i = -1 ∨ rg 1248 (lab i)) (hb : b ≤ 256) (hq : R ≠ [] → rg 65535 q.1 ∧ rg 65535 q.2) {k x v : Int32} (g : opG k x) (e : valF lab b R u q k x = .inl v) : rg 65535 v := by
  unfold valF at e
  by_cases k1 : k = 1
  · rw [if_pos k1] at e
    split at e
    · cases e
    · rename_i z
      cases e
      obtain ⟨r1, r2⟩ := ((hl (plcN R u x)).resolve_left z).nat
      rw [r2, rem1000 (by omega)]
      split
      · rw [show (8 : Int32) = Int32.ofNat 8 from rfl, i_add]; exact rg.of (by omega) (by omega)
      · rw [i_add]; exact rg.of (by omega) (by omega)
  rw [if_neg k1] at e
  split at e
  · cases e; exact g.wd k1
  split at e
  · cases e
  · rename_i z
    cases e
    obtain ⟨q1, q2⟩ := hq z
    obtain ⟨x1, x2⟩ := (g.wd k1).nat
    obtain ⟨y1, y2⟩ := q1.nat
    obtain ⟨z1, z2⟩ := q2.nat
    rw [x2]
    split
    · rw [y2, i_add, rem65536 (by omega)]; exact rg.of (by omega) (by omega)
    · rw [z2, i_add, rem65536 (by omega)]; exact rg.of (by omega) (by omega)
/-- an operand's value -/
theorem x_value2 (Z : PRE H n ls P iv) (C : R2 H q0 pb nU it lab b wd mc arr cap (((a, t, u, m) :: R, mac, sec, sz, g, us), q :: A, bu) h) (hn : nU ≤ 300) (hR : R = [] ∨ u < nU) (ha : a ≤ 100) {kk xx : Int32} {lq : Nat} (g0 : opG kk xx) (hq : h.1 lq = .inr (41, [.int kk, .int xx])) (hd : 12 ≤ d) : (∀ v, valF lab b R u q kk xx = .inl v → ax_c d 354 [.ref pb, .ref lq, .ref (useP q0 it R u), .int (Int32.ofNat a)] h = some (.inl (some (.int v)), h)) ∧ ∀ e, valF lab b R u q kk xx = .inr e → OkX (ax_c d 354 [.ref pb, .ref lq, .ref (useP q0 it R u), .int (Int32.ofNat a)] h) (WR H (e, a)) := by
  obtain ⟨B, C, K⟩ := C
  dsimp only at B C K
  obtain ⟨d, rfl, he⟩ := d_succ hd
  have chk : ∀ (e l : Nat), e ≤ 7 → l ≤ 100 → OkX (ax_c d 213 [.int 0, .int (Int32.ofNat e), .int (Int32.ofNat l)] h) (WR H (e, l)) := fun e l he hl => by
    obtain ⟨ea, ew, E, E1, E2⟩ := B.ext hn (by omega) (by omega)
    exact x_check0 E E1 E2 Z.1 he hl (by omega)
  have le := m_X20_value (d := d) (v0 := pb) (v1 := .ref lq) (v2 := .ref (useP q0 it R u)) (v3 := Int32.ofNat a) (h := h) rfl rfl
  have gk : dx_gI [(41, 0)] (.ref lq) h = some kk := gI_at hq rfl rfl
  have gx : dx_gI [(41, 1)] (.ref lq) h = some xx := gI_at hq rfl rfl
  rw [gk, Option.bind_some] at le
  unfold valF
  by_cases k1 : kk = 1
  · rw [if_pos k1]
    have g8 : dx_gA [(30, 8)] (.ref pb) h = some (.ref q0) := gA_r C.2.1 rfl rfl
    have v283 : dx_vn [(25, 283)] (.ref q0) h = some 283 := vn_at B.2.2.2.1
    rw [if_pos (by rw [k1]; decide), Option.bind_some, if_neg (fun z => z k1), g8, Option.bind_some, gx, Option.bind_some, v283, Option.bind_some] at le
    obtain ⟨d, rfl, he2⟩ := d_succ (k := 10) (by omega : 11 ≤ d)
    obtain ⟨rp, rsz, rf, r1, r2, ⟨r3, r3'⟩, r4, r5, r6, r7⟩ := B.rowOf (d := d) hR (g0.l k1) (by omega)
    have le2 := m_X15_address (d := d) (v0 := q0) (v1 := xx) (v2 := .ref (useP q0 it R u)) (v3 := Int32.ofNat a) (h := h) rfl
    have xm : dx_rem xx 16 = Int32.ofNat (nn xx % 16) := by
      have := rem_nat (a := nn xx) (b := 16) (by have := (g0.l k1).nat.1; omega) (by omega)
      rw [← (g0.l k1).nat.2] at this; exact this
    have vb : dx_vn [(25, 282)] (.ref q0) h = some 282 := vn_at B.2.2.2.1
    rw [vb, Option.bind_some, r1, cR_r, xm, lI_at r2, ix_of rfl r3 (by omega), Option.bind_some, Option.bind_some, r4] at le2
    by_cases z : lab (plcN R u xx) = -1
    · rw [if_pos z]
      rw [if_pos z] at le2
      refine ⟨fun v y => (by cases y), fun e y => ?_⟩
      cases y
      exact OkX.le le (OkX.xI (P := WR H (6, a)) (OkX.le le2 (OkX.le b_X15_address_24 (OkX.xV (P := WR H (6, a)) (by
        obtain ⟨ea, ew, E, E1, E2⟩ := B.ext hn (by omega) (by omega)
        exact x_check0 (e := 6) E E1 E2 Z.1 (by omega) ha (by omega)) fun i h' W => W.x0))) fun i h' W => W.x0)
    · rw [if_neg z]
      rw [if_neg z] at le2
      refine ⟨fun v y => ?_, fun e y => (by cases y)⟩
      cases y
      have res : B_X15_address_24 (ax_c d) 1 q0 (Int32.ofNat a) (lab (plcN R u xx)) h = some (.inl (some (.int (dx_rem (lab (plcN R u xx)) 1000 + (if lab (plcN R u xx) < 1000 then 8 else Int32.ofNat b)))), h) := by
        refine dx_app b_X15_address_24 ?_
        rw [x_check1 _ _ (by omega), cV_v]
        by_cases y : lab (plcN R u xx) < 1000
        · rw [if_pos y, if_neg (fun w => by rw [Int32.lt_iff_toInt_lt] at y; rw [Int32.le_iff_toInt_le] at w; omega), Int32.add_comm]
        · rw [if_neg y, if_pos (by rw [Int32.lt_iff_toInt_lt] at y; rw [Int32.le_iff_toInt_le]; omega), gI_at B.2.2.2.1 rfl rfl, Option.bind_some, Int32.add_comm]
      refine dx_app le ?_
      rw [dx_app le2 res, cI_v]
  rw [if_neg k1]
  obtain ⟨e, e3, ek⟩ := g0.kd
  by_cases k0 : kk = 0
  · rw [if_pos k0]
    rw [if_neg (fun z => z k0), gx, Option.bind_some] at le
    exact ⟨fun v y => (by cases y; exact dx_app le rfl), fun e y => (by cases y)⟩
  rw [if_neg k0]
  rw [if_pos k0, Option.bind_some, if_pos k1] at le
  by_cases eR : R = []
  · rw [if_pos eR]
    obtain ⟨sx, sy, a6⟩ := B.2.2.2.2.2.1
    have us2 : useP q0 it R u = q0 + 2 := if_pos eR
    rw [us2] at le ⊢
    rw [gI_at a6 rfl rfl, Option.bind_some, if_pos rfl] at le
    refine ⟨fun v y => (by cases y), fun e y => ?_⟩
    cases y
    exact OkX.le le (OkX.le (b_X20_value_47 rfl rfl) (OkX.xV (chk 7 a (by omega) ha) fun i h' W => W.x0))
  · rw [if_neg eR]
    have us2 : useP q0 it R u = it u := if_neg eR
    rw [us2] at le ⊢
    obtain ⟨q1, q2, mm, q3, q4⟩ := K.1 eR
    obtain ⟨x1, x2⟩ := (g0.wd k1).nat
    obtain ⟨y1, y2⟩ := q1.nat
    obtain ⟨z1, z2⟩ := q2.nat
    rw [gI_at q4 rfl rfl, Option.bind_some, if_neg (fun z => by
      have z2 := congrArg Int32.toInt z
      rw [i_toInt (by omega)] at z2
      have : (-1 : Int32).toInt = -1 := rfl
      omega)] at le
    refine ⟨fun v y => ?_, fun e y => (by cases y)⟩
    cases y
    refine dx_app le (dx_app (b_X20_value_47 rfl rfl) ?_)
    have ct : ∀ z : Int32, ax_c d 214 [.long (Int32.toInt64 z)] h = some (.inl (some (.int (dx_i2c z))), h) := fun z => by
      obtain ⟨d, rfl, he2⟩ := d_succ (k := 10) (by omega : 11 ≤ d)
      refine dx_app m_X1_cut ?_
      rw [show Int64.toInt32 (Int32.toInt64 z) = z from Int32.toInt32_toInt64 z]
    rw [x_check1 _ _ (by omega), cV_v, gk, Option.bind_some]
    by_cases k2 : kk = 2
    · rw [if_neg (fun z => z k2), if_pos k2, gI_at q4 rfl rfl, Option.bind_some, gx, Option.bind_some, ct, cI_v, y2, x2, i_add, i2c_nat, rem65536 (by omega)]
    · rw [if_pos k2, if_neg k2, gI_at q4 rfl rfl, Option.bind_some, gx, Option.bind_some, ct, cI_v, z2, x2, i_add, i2c_nat, rem65536 (by omega)]
theorem AP.all (A : ∀ j, j < 5 → AP q0 nU it arr (pb + j)) : AP q0 nU it arr pb ∧ AP q0 nU it arr (pb + 1) ∧ AP q0 nU it arr (pb + 2) ∧ AP q0 nU it arr (pb + 3) ∧ AP q0 nU it arr (pb + 4) := ⟨A 0 (by omega), A 1 (by omega), A 2 (by omega), A 3 (by omega), A 4 (by omega)⟩
/-- cells of a pass don't bear arguments -/
theorem CAR.set {F : List frT} (C : CAR h it F A) (hF : FRK n mac us F) (hu : us ≤ nU) (hp : ∀ k, k < nU → p ≠ it k) (c : ax_C) : CAR (ax_set h p c) it F A := by
  by_cases e : nU = 0
  · -- no uses: only the source's frame
    cases F with
    | nil => trivial
    | cons f R =>
      obtain ⟨a, t, u, m⟩ := f
      cases A with
      | nil => trivial
      | cons q A =>
        obtain ⟨h1, h2, h3, h4⟩ := hF
        have eR : R = [] := by
          rcases Classical.em (R = []) with z | z
          · exact z
          · rw [if_neg z] at h3; omega
        subst eR
        exact ⟨fun z => absurd rfl z, by cases A <;> trivial⟩
  · refine C.mv F A fun f hf => set_ne _ fun z => ?_
    rcases FRK.ub F hF f hf with y | y
    · exact hp _ (by omega) z.symm
    · exact hp _ (by rw [y]; omega) z.symm
/-- a word is taken -/
theorem x_take2 (C : R2 H q0 pb nU it lab b wd mc arr cap ((F, mac, sec, sz, g, us), A, bu) h) (ap : ∀ j, j < 5 → AP q0 nU it arr (pb + j)) (hF : FRK n mac us F) (hu : us ≤ nU) (hs : sec < 2) (hz : (if sec = 0 then 8 else b) + sz sec < 256) (hd : 1 ≤ d) {wv : Int32} {av : Int32} : Ok (ax_c d 353 [.ref pb, .int wv, .int av] h) (.inl none) (R2 H q0 pb nU it lab b wd mc arr cap ((F, mac, sec, (fun k => if k = sec then sz k + 1 else sz k), g, us), A, upd bu ((if sec = 0 then 8 else b) + sz sec) wv)) := by
  obtain ⟨d, rfl, he⟩ := d_succ hd
  obtain ⟨B, C, K⟩ := C
  dsimp only at B C K
  obtain ⟨p0, p1, p2, p3, p4⟩ := AP.all ap
  have q4 : 400 ≤ pb := by have := B.1; have := p0.1; omega
  have g8 : dx_gA [(30, 8)] (.ref pb) h = some (.ref q0) := gA_r C.2.1 rfl rfl
  have g3 : dx_gA [(25, 3)] (.ref q0) h = some (.ref (q0 + 5)) := gA_r B.2.2.2.1 rfl rfl
  have g4 : dx_gI [(25, 4)] (.ref q0) h = some (Int32.ofNat b) := gI_at B.2.2.2.1 rfl rfl
  have le := m_X20_take (d := d) (v0 := pb) (v1 := wv) (v2 := av) (h := h)
  rw [g8, Option.bind_some, g3, Option.bind_some, C.secI, Option.bind_some] at le
  have fin : ∀ b', b' = (if sec = 0 then 8 else b) → Ok (B_X20_take_26 (ax_c d) (.ref (q0 + 5)) (Int32.ofNat b') pb wv h) (.inl none) (R2 H q0 pb nU it lab b wd mc arr cap ((F, mac, sec, (fun k => if k = sec then sz k + 1 else sz k), g, us), A, upd bu ((if sec = 0 then 8 else b) + sz sec) wv)) := by
    intro b' hb'
    rw [← hb'] at hz ⊢
    refine Ok.le (b_X20_take_26 rfl) ?_
    obtain ⟨h1, x1, B1, c1, x3⟩ := B.put (p := b' + sz sec) hz wv
    have C1 : CPS 30 q0 pb (F, mac, sec, sz, g, us) h1 := C.mv fun j hj => by
      rw [x3]; exact set_ne _ (by have := (ap j hj).1; omega)
    obtain ⟨h2, y1, C2, c2, y3⟩ := C1.incZ q4 hs
    have B2 : CB H q0 nU 16 400 it lab (upd bu (b' + sz sec) wv) (Int32.ofNat b) wd mc arr cap h2 := by rw [y3]; exact B1.set p1 c2
    have K1 : CAR h1 it F A := by
      rw [x3]
      exact K.set hF hu (fun k hk => by have := (B.2.2.2.2.2.2.2.2.2.2.1 k hk).1; omega) c1
    have K2 : CAR h2 it F A := by
      rw [y3]
      exact K1.set hF hu (fun k hk => (p1.2.2 k hk).1) c2
    rw [C.sizes, Option.bind_some, C.secI, Option.bind_some, show Int32.ofNat (F, mac, sec, sz, g, us).2.2.1 = Int32.ofNat sec from rfl, C.szS hs, Option.bind_some, show Int32.ofNat ((F, mac, sec, sz, g, us).2.2.2.1 sec) = Int32.ofNat (sz sec) from rfl, i_add, x1, Option.bind_some, C1.sizes, Option.bind_some, C1.secI, Option.bind_some, show Int32.ofNat (F, mac, sec, sz, g, us).2.2.1 = Int32.ofNat sec from rfl, C1.szS hs, Option.bind_some, show Int32.ofNat ((F, mac, sec, sz, g, us).2.2.2.1 sec) = Int32.ofNat (sz sec) from rfl, y1, Option.bind_some]
    exact Ok.ret ⟨B2, C2, K2⟩
  by_cases c0 : sec = 0
  · rw [if_neg (fun z => z (by rw [c0]; rfl))] at le
    exact Ok.le le (fin 8 (by rw [if_pos c0]))
  · rw [if_pos (show ¬ Int32.ofNat sec = 0 from fun z => c0 ((i_eq (b := 0) (by omega) (by omega)).mp z)), Option.bind_some, g4, Option.bind_some] at le
    exact Ok.le le (fin b (by rw [if_neg c0]))
end CVS
