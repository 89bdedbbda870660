/-! the twin goes through the lines: one line, the second way -/
/- with lnD lnV lnN TLW skT frT FRK FRK.len SKI MCK nxM wrdN plcN valF st2 s2T skS rg.nat TFr TSK TMC TFr.cong t_wordsOf t_nextOf t_isGone tnum tkind e5 top_d t_placeOf t_value t_puts t_begins t_push134 pshS sk_inv TLW.cong TSK.gon TSK.secd TSK.siz TSK.sz5 TSK.mcd TSK.psh pshS_row -/
/-- the arguments of the uses in the rows -/
def TA (s : Nat → Nat → Int32) : List (Int32 × Int32) → Prop
  | [] => True
  | p :: A => (A ≠ [] → s 12 A.length = p.1 ∧ s 13 A.length = p.2) ∧ TA s A
/-- one line gone through the second way -/
def TG2 (h : ax_H) (s : Nat → Nat → Int32) (r : s2T ⊕ (Nat × Nat)) (c : Option ax_R) : Prop := ∃ s' v, c = some (.inl (some (.int v)), tw_H h s') ∧ (∀ f, f < 5 ∨ f = 18 ∨ 21 ≤ f → s' f = s f) ∧ match r with
  | .inr e => v = Int32.ofNat (100 * e.1 + e.2) ∧ 0 < e.1 ∧ e.1 ≤ 7 ∧ e.2 ≤ 100
  | .inl S' => v = 0 ∧ TSK S'.1 s' ∧ TA s' S'.2.1 ∧ S'.2.1.length = S'.1.1.length ∧ ∀ i, i < 256 → s' 20 i = S'.2.2 i
section TVS
variable {n a t u m k d j x y us sec g e w b f0 f1 : Nat} {ls : Nat → lnD} {s s' : Nat → Nat → Int32} {h : ax_H} {R F : List frT} {mac : Nat → Option (Nat × Nat)} {i v z : Int32} {σ σ' : skT} {sz : Nat → Nat} {lab bu : Nat → Int32} {p : Int32 × Int32} {A : List (Int32 × Int32)}
theorem TG2.le {c c' : Option ax_R} {r : s2T ⊕ (Nat × Nat)} (X : TG2 h s r c) (hl : dx_le c c') : TG2 h s r c' := by
  obtain ⟨s', v, a, b⟩ := X
  exact ⟨s', v, hl _ a, b⟩
theorem TA.cong : ∀ A, TA s A → (∀ k, k < A.length → s' 12 k = s 12 k ∧ s' 13 k = s 13 k) → TA s' A := by
  intro A
  induction A with
  | nil => intro _ _; trivial
  | cons f A ih =>
    rintro ⟨h1, h2⟩ e
    obtain ⟨e1, e2⟩ := e A.length (by rw [List.length_cons]; omega)
    exact ⟨fun z => ⟨e1.trans (h1 z).1, e2.trans (h1 z).2⟩, ih h2 fun k hk => e k (by rw [List.length_cons]; omega)⟩
theorem v_err (lab : Nat → Int32) (b : Nat) (R : List frT) (u : Nat) (A : Int32 × Int32) (p q : Int32) (e : Nat) (h : valF lab b R u A p q = .inr e) : e = 6 ∨ e = 7 := by
  unfold valF at h
  split at h
  · split at h
    · cases h; exact Or.inl rfl
    · cases h
  split at h
  · cases h
  split at h
  · cases h; exact Or.inr rfl
  · cases h
theorem TSK.row {f : Nat} (K : TSK σ s) (hf : f < 5 ∨ 12 ≤ f ∧ f < 14 ∨ 18 ≤ f) (e : ∀ g, g ≠ f → s' g = s g) : TSK σ s' := by
  obtain ⟨F, mac, sec, sz, g, us⟩ := σ
  obtain ⟨k1, k2, k3, k4, k5, k6, k7⟩ := K
  refine ⟨(congrFun (e 14 (by omega)) 0).trans k1, k2.cong F fun k _ => ⟨congrFun (e 8 (by omega)) k, congrFun (e 9 (by omega)) k, congrFun (e 10 (by omega)) k, congrFun (e 11 (by omega)) k⟩, fun m hm => ?_, (congrFun (e 15 (by omega)) 0).trans k4, ⟨(congrFun (e 5 (by omega)) 0).trans k5.1, (congrFun (e 5 (by omega)) 1).trans k5.2⟩, (congrFun (e 16 (by omega)) 0).trans k6, (congrFun (e 17 (by omega)) 0).trans k7⟩
  rw [e 6 (by omega), e 7 (by omega)]
  exact k3 m hm
theorem w_eq {f : Nat → Nat} : (fun k => if k = sec then f k + 0 else f k) = f := by
  funext k
  split <;> rfl
/-- a word put down -/
theorem TSK.put (K : TSK (F, mac, sec, sz, g, us) s) (hs : sec < 2) (hb : s 18 0 = Int32.ofNat b) (hz : (if sec = 0 then 8 else b) + sz sec < 256) (hd : 1 ≤ d) : ∃ s', ax_c d 400 [.ref 417, .int v] (tw_H h s) = some (.inl none, tw_H h s') ∧ TSK (F, mac, sec, (fun k => if k = sec then sz k + 1 else sz k), g, us) s' ∧ (∀ f, f ≠ 5 → f ≠ 20 → s' f = s f) ∧ ∀ i, s' 20 i = upd (s 20) ((if sec = 0 then 8 else b) + sz sec) v i := by
  refine ⟨_, t_puts hs K.2.2.2.1 (K.sz5 hs) hb hz hd, ?_, fun f h5 h20 => by rw [tw_up_at, if_neg h5, tw_up_at, if_neg h20], fun i => rfl⟩
  exact TSK.siz (w := 1) (TSK.row (f := 20) K (by omega) fun g hg => by rw [tw_up_at, if_neg hg]) hs
theorem t_goes2 (T : TLW n ls s) (V : ∀ t, t < n → lnV (ls t)) (I : SKI ls n ((a, t, u, m) :: R, mac, sec, sz, g, us)) (hat : a ≠ t) (K : TSK ((a + 1, t, u, m) :: R, mac, sec, sz, g, us) s) (hs : skS ls n ((a, t, u, m) :: R, mac, sec, sz, g, us) = .inl σ') (hf0 : σ'.2.2.2.1 0 ≤ f0) (hf1 : σ'.2.2.2.1 1 ≤ f1) (hf : f0 + f1 ≤ 248) (hb : s 18 0 = Int32.ofNat (8 + f0)) (hl : ∀ i, i < 1220 → s 4 i = lab i) (hA : TA s (p :: A)) (hAl : A.length = R.length) (hbu : ∀ i, i < 256 → s 20 i = bu i) (hd : 5 ≤ d) : TG2 h s (st2 ls n lab (8 + f0) (((a, t, u, m) :: R, mac, sec, sz, g, us), p :: A, bu)) (ax_c d 391 [.ref 417, .int (Int32.ofNat a), .int 1] (tw_H h s)) := by
  have I0 := I
  have I' := (sk_inv V I0 hs (by show 0 < ((a, t, u, m) :: R).length; rw [List.length_cons]; omega)).1
  obtain ⟨I1, I2, I3, I4, I5, I6⟩ := I
  dsimp only at I1 I2 I3 I4 I5 I6
  have len6 := FRK.len I1
  rw [List.length_cons] at len6
  obtain ⟨f1', f2, f3, f4⟩ := id I1
  have ha : a < n := by omega
  have n1 := T.2.1
  have Va := V a ha
  obtain ⟨v1, v2, v3, v4, v5, v6, v7, v8, v9⟩ := id Va
  obtain ⟨c0, c1, c2, c3, c4, c5, c6, c7, c8⟩ := kqs _ v1
  obtain ⟨d, rfl, he⟩ := d_succ hd
  have le := m_X3_goes (d := d) (v0 := 417) (v1 := Int32.ofNat a) (v2 := 1) (h := tw_H h s)
  obtain ⟨s1, es1⟩ : ∃ s1, s1 = tw_up s 16 0 (Int32.ofNat (g + 1)) := ⟨_, rfl⟩
  have K1 : TSK ((a + 1, t, u, m) :: R, mac, sec, sz, g + 1, us) s1 := by rw [es1]; exact K.gon
  have r1 : ∀ f, f ≠ 16 → s1 f = s f := fun f hf => by rw [es1, tw_up_at, if_neg hf]
  have T1 : TLW n ls s1 := T.cong fun f q1 q2 => r1 f (by omega)
  have l1 : ∀ i, i < 1220 → s1 4 i = lab i := fun i hi => by rw [r1 4 (by decide)]; exact hl i hi
  have b1 : ∀ i, i < 256 → s1 20 i = bu i := fun i hi => by rw [r1 20 (by decide)]; exact hbu i hi
  have hb1 : s1 18 0 = Int32.ofNat (8 + f0) := by rw [r1 18 (by decide)]; exact hb
  have A1 : TA s1 (p :: A) := hA.cong _ fun k _ => ⟨by rw [r1 12 (by decide)], by rw [r1 13 (by decide)]⟩
  have k14 : s1 14 0 = Int32.ofNat R.length := top_d K1.1
  have hu : R ≠ [] → s1 10 R.length = Int32.ofNat u ∧ u < 300 := fun hR => ⟨(K1.2.1.2.2.1 hR).1, by rw [if_neg hR] at f3; omega⟩
  have hA1 : R ≠ [] → s1 12 R.length = p.1 ∧ s1 13 R.length = p.2 := fun hR => by
    have := A1.1 (fun z => hR (List.length_eq_zero_iff.mp (by rw [← hAl, z]; rfl)))
    rw [hAl] at this; exact this
  rw [tg_16, Option.bind_some, K.2.2.2.2.2.1, show Int32.ofNat (g + 1) = Int32.ofNat g + 1 from (i_add g 1).symm] at *
  rw [tp_16, Option.bind_some, ← es1, tw_vn, Option.bind_some, t_wordsOf T1 Va ha (by omega), cI_v, tr_2, Option.bind_some, tkind T1 ha, Option.bind_some, if_pos (show ¬ (1 : Int32) = 0 by decide)] at le
  have le := dx_trans b_X3_goes_68 le
  have sk := hs
  unfold skS at sk
  dsimp only at sk
  rw [if_neg hat] at sk
  by_cases q1 : 300 < g + 1 ∨ (0 < wrdN (ls a) ∧ 248 < sz 0 + sz 1 + wrdN (ls a))
  · rw [if_pos q1] at sk; cases sk
  rw [if_neg q1] at sk
  have fin : ∀ s2 : Nat → Nat → Int32, (∀ f, f < 5 ∨ f = 18 ∨ 21 ≤ f → s2 f = s1 f) → ∀ f, f < 5 ∨ f = 18 ∨ 21 ≤ f → s2 f = s f := fun s2 e f hf => (e f hf).trans (r1 f (by omega))
  by_cases k0 : (ls a).1 = 0
  · rw [if_pos k0] at sk
    cases sk
    rw [if_neg (fun z => z (c0.mpr k0)), tr_3, Option.bind_some, tnum (j := 0) T1 ha (by omega) (e50 a), Option.bind_some, tp_15, Option.bind_some] at le
    refine TG2.le ⟨_, _, rfl, fin _ (fun f hf => by rw [tw_up_at, if_neg (by omega)]), ?_⟩ le
    unfold st2; rw [hs]; dsimp only
    rw [if_neg hat, if_neg (show ¬ (ls a).1 = 8 by omega), if_neg (show ¬ ((ls a).1 = 2 ∨ (ls a).1 = 3 ∨ (ls a).1 = 5) by omega)]
    exact ⟨rfl, K1.secd (v2 k0).nat.2, A1.cong _ fun k _ => ⟨rfl, rfl⟩, by dsimp only; rw [List.length_cons, List.length_cons, hAl], b1⟩
  rw [if_neg k0] at sk
  rw [if_pos (fun z => k0 (c0.mp z))] at le
  by_cases k6 : (ls a).1 = 6
  · rw [if_pos k6] at sk
    rw [if_neg (fun z => z (c6.mpr k6)), tw_vn, Option.bind_some] at le
    obtain ⟨-, b2⟩ := t_begins (h := h) (d := d) T1 V ha K1.2.2.1 k14 (by omega) k6 (by omega)
    by_cases hm : mac (nn (ls a).2.1) ≠ none
    · rw [if_pos hm] at sk; cases sk
    rw [if_neg hm] at sk
    have hm := Classical.not_not.mp hm
    obtain ⟨b3, b4⟩ := b2 hm
    cases hx : nxM ls (n - (a + 1)) (a + 1) with
    | none => rw [hx] at sk; cases sk
    | some e =>
      rw [hx] at sk
      dsimp only at sk
      by_cases e6 : (ls e).1 = 6
      · rw [if_pos e6] at sk; cases sk
      rw [if_neg e6] at sk
      cases sk
      rw [(b4 e hx).2 e6, cI_v] at le
      refine TG2.le ⟨_, _, rfl, fin _ (fun f hf => by rw [tw_up_at, if_neg (by omega), tw_up_at, if_neg (by omega), tw_up_at, if_neg (by omega)]), ?_⟩ le
      unfold st2; rw [hs]; dsimp only
      rw [if_neg hat, if_neg (show ¬ (ls a).1 = 8 by omega), if_neg (show ¬ ((ls a).1 = 2 ∨ (ls a).1 = 3 ∨ (ls a).1 = 5) by omega)]
      exact ⟨rfl, K1.mcd hm, A1.cong _ fun k _ => ⟨rfl, rfl⟩, by dsimp only; rw [List.length_cons, List.length_cons, hAl], b1⟩
  rw [if_neg k6] at sk
  rw [if_pos (fun z => k6 (c6.mp z))] at le
  by_cases k7 : (ls a).1 = 7
  · rw [if_pos k7] at sk; cases sk
  rw [if_neg k7] at sk
  rw [if_pos (fun z => k7 (c7.mp z))] at le
  by_cases k8 : (ls a).1 = 8
  · rw [if_pos k8] at sk
    obtain ⟨m4, me⟩ := (v5 k8).2.nat
    have g1 := v4 (Or.inr (Or.inr (Or.inr k8)))
    have g2 := (v5 k8).1
    rw [if_neg (fun z => z (c8.mpr k8)), tw_vn, Option.bind_some] at le
    cases hm : mac (nn (ls a).2.2.2.2.2) with
    | none => rw [hm] at sk; cases sk
    | some xy =>
      obtain ⟨x, y⟩ := xy
      rw [hm] at sk
      dsimp only at sk
      by_cases ex : ∃ f, f ∈ (a, t, u, m) :: R ∧ f.2.2.2 = nn (ls a).2.2.2.2.2
      · rw [if_pos ex] at sk; cases sk
      rw [if_neg ex] at sk
      cases sk
      have l6 := FRK.len I'.1
      rw [List.length_cons, List.length_cons] at l6
      have X : TG2 h s (st2 ls n lab (8 + f0) (((a, t, u, m) :: R, mac, sec, sz, g, us), p :: A, bu)) (ax_c d 395 [.ref 417, .int (Int32.ofNat a), .int 1] (tw_H h s1)) := by
        obtain ⟨d, rfl, he2⟩ := d_succ (k := 3) (by omega : 4 ≤ d)
        have ml := m_X3_usesMacro (d := d) (v0 := 417) (v1 := Int32.ofNat a) (v2 := 1) (h := tw_H h s1)
        rw [lt_at, tr_3, Option.bind_some, tnum (j := 4) T1 ha (by omega) (show 5 * Int32.ofNat a + 4 = Int32.ofNat (5 * a + 4) from e5 a 4), Option.bind_some, show lnN (ls a) 4 = (ls a).2.2.2.2.2 from rfl, me, if_pos (show ¬ (1 : Int32) = 0 by decide)] at ml
        obtain ⟨s2, o1, o2, o3⟩ := t_value (h := h) (d := d) (u := u) (b := 8 + f0) (A := p) (R := R) g1 k14 (by omega) hu hA1 l1 hb1 (by omega)
        have T2 : TLW n ls s2 := T1.cong fun f q1 q2 => o2 f (by omega)
        obtain ⟨s3, o4, o5, o6⟩ := t_value (h := h) (s := s2) (d := d) (u := u) (b := 8 + f0) (lab := lab) (A := p) (R := R) g2 (by rw [o2 14 (by decide)]; exact k14) (by omega) (fun hR => by rw [o2 10 (by decide)]; exact hu hR) (fun hR => by rw [o2 12 (by decide), o2 13 (by decide)]; exact hA1 hR) (fun i hi => by rw [o2 4 (by decide)]; exact l1 i hi) (by rw [o2 18 (by decide)]; exact hb1) (by omega)
        have bl := dx_trans b_X3_usesMacro_44 ml
        rw [if_neg (show ¬ (1 : Int32) = 0 by decide), tr_3, Option.bind_some, tnum (j := 0) T1 ha (by omega) (e50 a), Option.bind_some, Option.bind_some, tnum (j := 1) T1 ha (by omega) (show 5 * Int32.ofNat a + 1 = Int32.ofNat (5 * a + 1) from e5 a 1), Option.bind_some, tw_vn, Option.bind_some, show lnN (ls a) 0 = (ls a).2.1 from rfl, show lnN (ls a) 1 = (ls a).2.2.1 from rfl, o1, cI_v] at bl
        have bl := dx_trans b_X3_usesMacro_70 bl
        rw [if_neg (show ¬ (1 : Int32) = 0 by decide), tg_19, Option.bind_some, o3] at bl
        have bl := dx_trans b_X3_usesMacro_84 bl
        rw [if_neg (show ¬ (1 : Int32) = 0 by decide), tr_3, Option.bind_some, tnum (j := 2) T2 ha (by omega) (show 5 * Int32.ofNat a + 2 = Int32.ofNat (5 * a + 2) from e5 a 2), Option.bind_some, Option.bind_some, tnum (j := 3) T2 ha (by omega) (show 5 * Int32.ofNat a + 3 = Int32.ofNat (5 * a + 3) from e5 a 3), Option.bind_some, tw_vn, Option.bind_some, show lnN (ls a) 2 = (ls a).2.2.2.1 from rfl, show lnN (ls a) 3 = (ls a).2.2.2.2.1 from rfl, o4, cI_v] at bl
        have bl := dx_trans b_X3_usesMacro_114 bl
        rw [if_neg (show ¬ (1 : Int32) = 0 by decide), tg_19, Option.bind_some, o6] at bl
        have K2 : TSK ((a + 1, t, u, m) :: R, mac, sec, sz, g + 1, us) s2 := K1.row (f := 19) (by omega) o2
        have K3 : TSK ((a + 1, t, u, m) :: R, mac, sec, sz, g + 1, us) s3 := K2.row (f := 19) (by omega) o5
        have P : ∀ i p q, B_X3_usesMacro_134 (ax_c d) i 417 (Int32.ofNat a) (Int32.ofNat (nn (ls a).2.2.2.2.2)) p q (tw_H h s3) = some (.inl (some (.int (if i = 0 then 0 else 100 * i + Int32.ofNat a))), tw_H h (pshS s3 (R.length + 1) x y us (nn (ls a).2.2.2.2.2) p q)) := fun i p q => t_push134 (us := us) K3.2.2.1 (by omega) hm (by rw [o5 14 (by decide), o2 14 (by decide)]; exact k14) (by omega) K3.2.2.2.2.2.2 (by omega)
        have fr : ∀ p q f, f < 5 ∨ f = 18 ∨ 21 ≤ f → pshS s3 (R.length + 1) x y us (nn (ls a).2.2.2.2.2) p q f = s1 f := fun p q f hf => by rw [pshS_row f (by omega) (by omega), o5 f (by omega), o2 f (by omega)]
        have err : ∀ e : Nat, e = 6 ∨ e = 7 → (if Int32.ofNat e = 0 then 0 else 100 * Int32.ofNat e + Int32.ofNat a) = Int32.ofNat (100 * e + a) ∧ ¬ Int32.ofNat e = 0 := fun e he => by
          have : ¬ Int32.ofNat e = 0 := fun z => by have := (i_eq (b := 0) (by omega) (by omega)).mp z; omega
          rw [if_neg this, show 100 * Int32.ofNat e = Int32.ofNat (100 * e) from i_mul 100 e, i_add]
          exact ⟨rfl, this⟩
        cases hv1 : valF lab (8 + f0) R u p (ls a).2.1 (ls a).2.2.1 with
        | inr e =>
          have he := v_err _ _ _ _ _ _ _ _ hv1
          rw [hv1] at bl
          dsimp only at bl
          rw [if_pos (err e he).2, P, (err e he).1] at bl
          refine TG2.le ⟨_, _, rfl, fin _ (fr _ _), ?_⟩ bl
          unfold st2; rw [hs]; dsimp only
          rw [if_neg hat, if_pos k8, hv1]
          exact ⟨rfl, by show 0 < e; omega, by show e ≤ 7; omega, by show a ≤ 100; omega⟩
        | inl x1 =>
          rw [hv1] at bl
          dsimp only at bl
          rw [if_neg (fun z => z rfl), P] at bl
          cases hv2 : valF lab (8 + f0) R u p (ls a).2.2.2.1 (ls a).2.2.2.2.1 with
          | inr e =>
            have he := v_err _ _ _ _ _ _ _ _ hv2
            rw [hv2] at bl
            dsimp only at bl
            rw [(err e he).1] at bl
            refine TG2.le ⟨_, _, rfl, fin _ (fr _ _), ?_⟩ bl
            unfold st2; rw [hs]; dsimp only
            rw [if_neg hat, if_pos k8, hv1, hv2]
            exact ⟨rfl, by show 0 < e; omega, by show e ≤ 7; omega, by show a ≤ 100; omega⟩
          | inl x2 =>
            rw [hv2] at bl
            dsimp only at bl
            rw [if_pos rfl] at bl
            refine TG2.le ⟨_, _, rfl, fin _ (fr _ _), ?_⟩ bl
            unfold st2; rw [hs]; dsimp only
            rw [if_neg hat, if_pos k8, hv1, hv2]
            have c12 : ∀ j, pshS s3 (R.length + 1) x y us (nn (ls a).2.2.2.2.2) x1 x2 12 j = if j = R.length + 1 then x1 else s3 12 j := fun j => rfl
            have c13 : ∀ j, pshS s3 (R.length + 1) x y us (nn (ls a).2.2.2.2.2) x1 x2 13 j = if j = R.length + 1 then x2 else s3 13 j := fun j => rfl
            refine ⟨rfl, K3.psh (F := (a + 1, t, u, m) :: R) (by rw [List.length_cons]; omega), ⟨fun _ => ?_, TA.cong (s := s1) _ A1 fun k hk => ?_⟩, by dsimp only; rw [List.length_cons, List.length_cons, List.length_cons, List.length_cons, hAl], fun i hi => by rw [pshS_row 20 (by omega) (by omega), o5 20 (by decide), o2 20 (by decide)]; exact b1 i hi⟩
            · rw [List.length_cons, hAl, c12, c13, if_pos rfl, if_pos rfl]; exact ⟨rfl, rfl⟩
            · rw [List.length_cons, hAl] at hk
              rw [c12, c13, if_neg (by omega), if_neg (by omega), o5 12 (by decide), o2 12 (by decide), o5 13 (by decide), o2 13 (by decide)]; exact ⟨rfl, rfl⟩
      obtain ⟨s', v, e1, e2, e3⟩ := X
      rw [e1, cI_v] at le
      exact TG2.le ⟨s', v, rfl, e2, e3⟩ le
  rw [if_neg k8] at sk
  cases sk
  dsimp only at hf0 hf1
  rw [if_pos (fun z => k8 (c8.mp z)), if_neg (show ¬ (1 : Int32) = 0 by decide), tw_vn, Option.bind_some] at le
  have X : TG2 h s (st2 ls n lab (8 + f0) (((a, t, u, m) :: R, mac, sec, sz, g, us), p :: A, bu)) (ax_c d 399 [.ref 417, .int (Int32.ofNat a)] (tw_H h s1)) := by
    obtain ⟨d, rfl, he2⟩ := d_succ (k := 3) (by omega : 4 ≤ d)
    have ml := m_X3_builds (d := d) (v0 := 417) (v1 := Int32.ofNat a) (h := tw_H h s1)
    rw [lt_at, tr_2, Option.bind_some, tkind T1 ha, Option.bind_some] at ml
    by_cases k4 : (ls a).1 = 4
    · have hw : wrdN (ls a) = nn (ls a).2.1 := by unfold wrdN; rw [if_neg (by omega), if_neg (by omega), if_pos k4]
      have e4 := (v6 k4).nat.2
      rw [if_neg (fun z => z (c4.mpr k4)), tr_5, Option.bind_some, tg_15, Option.bind_some, K1.2.2.2.1, tl_5, ix_of rfl I3 (by omega), Option.bind_some, Option.bind_some, K1.sz5 I3, tr_3, Option.bind_some, tnum (j := 0) T1 ha (by omega) (e50 a), Option.bind_some, show lnN (ls a) 0 = (ls a).2.1 from rfl, e4, i_add, ts_5, ix_of rfl I3 (by omega), Option.bind_some, Option.bind_some] at ml
      refine TG2.le ⟨_, _, rfl, fin _ (fun f hf => by rw [tw_up_at, if_neg (by omega)]), ?_⟩ ml
      unfold st2; rw [hs]; dsimp only
      rw [if_neg hat, if_neg k8, if_neg (show ¬ ((ls a).1 = 2 ∨ (ls a).1 = 3 ∨ (ls a).1 = 5) by omega)]
      have K2 := K1.siz (w := wrdN (ls a)) I3
      refine ⟨rfl, by rw [hw] at K2 ⊢; exact K2, A1.cong _ fun k _ => ⟨rfl, rfl⟩, by dsimp only; rw [List.length_cons, List.length_cons, hAl], b1⟩
    rw [if_pos (fun z => k4 (c4.mp z))] at ml
    by_cases k235 : (ls a).1 = 2 ∨ (ls a).1 = 3 ∨ (ls a).1 = 5
    · have g1 := v4 (show opK (ls a).1 by unfold opK; omega)
      have ml2 : dx_le (B_X3_builds_53 (ax_c d) 417 (Int32.ofNat a) (5 * Int32.ofNat a) (Int32.ofNat (ls a).1) (tw_H h s1)) (ax_c (d + 1) 399 [.ref 417, .int (Int32.ofNat a)] (tw_H h s1)) := by
        by_cases y2 : (ls a).1 = 2
        · rw [if_pos (c2.mpr y2)] at ml; exact ml
        rw [if_neg (fun z => y2 (c2.mp z))] at ml
        by_cases y3 : (ls a).1 = 3
        · rw [if_pos (c3.mpr y3)] at ml; exact ml
        rw [if_neg (fun z => y3 (c3.mp z)), if_pos (c5.mpr (by omega))] at ml
        exact ml
      clear ml
      have ml := dx_trans b_X3_builds_53 ml2
      clear ml2
      obtain ⟨s2, o1, o2, o3⟩ := t_value (h := h) (d := d) (u := u) (b := 8 + f0) (A := p) (R := R) g1 k14 (by omega) hu hA1 l1 hb1 (by omega)
      have T2 : TLW n ls s2 := T1.cong fun f q1 q2 => o2 f (by omega)
      have K2 : TSK ((a + 1, t, u, m) :: R, mac, sec, sz, g + 1, us) s2 := K1.row (f := 19) (by omega) o2
      have hb2 : s2 18 0 = Int32.ofNat (8 + f0) := by rw [o2 18 (by decide)]; exact hb1
      have A2 : TA s2 (p :: A) := A1.cong _ fun k _ => ⟨by rw [o2 12 (by decide)], by rw [o2 13 (by decide)]⟩
      have b2 : ∀ i, i < 256 → s2 20 i = bu i := fun i hi => by rw [o2 20 (by decide)]; exact b1 i hi
      have fin2 : ∀ s3 : Nat → Nat → Int32, (∀ f, f < 5 ∨ f = 18 ∨ 21 ≤ f → s3 f = s2 f) → ∀ f, f < 5 ∨ f = 18 ∨ 21 ≤ f → s3 f = s f := fun s3 e => fin _ fun f hf => (e f hf).trans (o2 f (by omega))
      rw [tr_3, Option.bind_some, tnum (j := 0) T1 ha (by omega) (e50 a), Option.bind_some, Option.bind_some, tnum (j := 1) T1 ha (by omega) (show 5 * Int32.ofNat a + 1 = Int32.ofNat (5 * a + 1) from e5 a 1), Option.bind_some, tw_vn, Option.bind_some, show lnN (ls a) 0 = (ls a).2.1 from rfl, show lnN (ls a) 1 = (ls a).2.2.1 from rfl, o1, cI_v, tg_19, Option.bind_some, o3] at ml
      cases hv1 : valF lab (8 + f0) R u p (ls a).2.1 (ls a).2.2.1 with
      | inr e =>
        have he := v_err _ _ _ _ _ _ _ _ hv1
        have ne0 : ¬ Int32.ofNat e = 0 := fun z => by have := (i_eq (b := 0) (by omega) (by omega)).mp z; omega
        rw [hv1] at ml o3
        dsimp only at ml o3
        rw [if_neg ne0, Option.bind_some, show 100 * Int32.ofNat e = Int32.ofNat (100 * e) from i_mul 100 e, i_add] at ml
        refine TG2.le ⟨s2, _, rfl, fin2 _ (fun _ _ => rfl), ?_⟩ ml
        unfold st2; rw [hs]; dsimp only
        rw [if_neg hat, if_neg k8, if_pos k235, hv1]
        exact ⟨rfl, by show 0 < e; omega, by show e ≤ 7; omega, by show a ≤ 100; omega⟩
      | inl x1 =>
        rw [hv1] at ml
        dsimp only at ml
        rw [if_pos rfl] at ml
        have bound : wrdN (ls a) ≠ 0 → (if sec = 0 then 8 else 8 + f0) + sz sec + wrdN (ls a) ≤ 256 := fun _ => by
          rcases (show sec = 0 ∨ sec = 1 by omega) with c | c
          · subst c; rw [if_pos rfl] at hf0 ⊢; omega
          · subst c; rw [if_pos rfl] at hf1; rw [if_neg (by omega)]; omega
        by_cases y5 : (ls a).1 = 5
        · have w0 : wrdN (ls a) = 0 := by unfold wrdN; rw [if_neg (by omega), if_neg (by omega), if_neg (by omega)]
          obtain ⟨r5, r5e⟩ := (v7 y5).nat
          rw [if_neg (fun z => z (c5.mpr y5)), tr_20, Option.bind_some, tr_3, Option.bind_some, tnum (j := 2) T2 ha (by omega) (show 5 * Int32.ofNat a + 2 = Int32.ofNat (5 * a + 2) from e5 a 2), Option.bind_some, show lnN (ls a) 2 = (ls a).2.2.2.1 from rfl, ts_20, ix_of r5e (show nn (ls a).2.2.2.1 < 256 by omega) (by omega), Option.bind_some, Option.bind_some] at ml
          refine TG2.le ⟨_, _, rfl, fin2 _ (fun f hf => by rw [tw_up_at, if_neg (by omega)]), ?_⟩ ml
          unfold st2; rw [hs]; dsimp only
          rw [if_neg hat, if_neg k8, if_pos k235, hv1]
          dsimp only
          rw [if_pos y5, w0, w_eq]
          refine ⟨rfl, K2.row (f := 20) (by omega) fun g hg => by rw [tw_up_at, if_neg hg], A2.cong _ fun k _ => ⟨rfl, rfl⟩, by dsimp only; rw [List.length_cons, List.length_cons, hAl], fun i hi => ?_⟩
          show (if i = _ then _ else s2 20 i) = (if i = _ then _ else bu i)
          rw [b2 i hi]
        rw [if_pos (fun z => y5 (c5.mp z))] at ml
        by_cases y2 : (ls a).1 = 2
        · have w2 : wrdN (ls a) = 2 := by unfold wrdN; rw [if_pos y2]
          have bd := bound (by omega)
          obtain ⟨s3, p1, p2, p3, p4⟩ := TSK.put (h := h) (v := (ls a).2.2.2.1) (b := 8 + f0) (d := d) K2 I3 hb2 (by omega) (by omega)
          obtain ⟨s4, p5, p6, p7, p8⟩ := TSK.put (h := h) (v := x1) (b := 8 + f0) (d := d) p2 I3 (by rw [p3 18 (by decide) (by decide)]; exact hb2) (by rw [if_pos rfl]; omega) (by omega)
          rw [if_neg (fun z => z (c2.mpr y2)), tr_3, Option.bind_some, tnum (j := 2) T2 ha (by omega) (show 5 * Int32.ofNat a + 2 = Int32.ofNat (5 * a + 2) from e5 a 2), Option.bind_some, show lnN (ls a) 2 = (ls a).2.2.2.1 from rfl, tw_vn, Option.bind_some, p1, cV_v, tw_vn, Option.bind_some, p5, cV_v] at ml
          refine TG2.le ⟨s4, _, rfl, fin2 _ (fun f hf => by rw [p7 f (by omega) (by omega), p3 f (by omega) (by omega)]), ?_⟩ ml
          unfold st2; rw [hs]; dsimp only
          rw [if_neg hat, if_neg k8, if_pos k235, hv1]
          dsimp only
          rw [if_neg y5, if_neg (show ¬ (ls a).1 = 3 by omega), w2]
          rw [if_pos rfl] at p8
          have eqz : (fun k => if k = sec then (if k = sec then sz k + 1 else sz k) + 1 else (if k = sec then sz k + 1 else sz k)) = fun k => if k = sec then sz k + 2 else sz k := by
            funext k
            by_cases c : k = sec
            · rw [if_pos c, if_pos c, if_pos c]
            · rw [if_neg c, if_neg c, if_neg c]
          rw [eqz] at p6
          refine ⟨rfl, p6, A2.cong _ fun k _ => ⟨by rw [p7 12 (by decide) (by decide), p3 12 (by decide) (by decide)], by rw [p7 13 (by decide) (by decide), p3 13 (by decide) (by decide)]⟩, by dsimp only; rw [List.length_cons, List.length_cons, hAl], fun i hi => ?_⟩
          rw [p8, upd_at, p4, upd_at, b2 i hi, Nat.add_assoc]
          rfl
        rw [if_pos (fun z => y2 (c2.mp z))] at ml
        have y3 : (ls a).1 = 3 := by omega
        have w1 : wrdN (ls a) = 1 := by unfold wrdN; rw [if_neg y2, if_pos y3]
        have bd := bound (by omega)
        obtain ⟨s3, p1, p2, p3, p4⟩ := TSK.put (h := h) (v := x1) (b := 8 + f0) (d := d) K2 I3 hb2 (by omega) (by omega)
        rw [tw_vn, Option.bind_some, p1, cV_v] at ml
        refine TG2.le ⟨s3, _, rfl, fin2 _ (fun f hf => by rw [p3 f (by omega) (by omega)]), ?_⟩ ml
        unfold st2; rw [hs]; dsimp only
        rw [if_neg hat, if_neg k8, if_pos k235, hv1]
        dsimp only
        rw [if_neg y5, if_pos y3, w1]
        refine ⟨rfl, p2, A2.cong _ fun k _ => ⟨by rw [p3 12 (by decide) (by decide)], by rw [p3 13 (by decide) (by decide)]⟩, by dsimp only; rw [List.length_cons, List.length_cons, hAl], fun i hi => ?_⟩
        rw [p4, upd_at, b2 i hi]
        rfl
    · have w0 : wrdN (ls a) = 0 := by unfold wrdN; rw [if_neg (by omega), if_neg (by omega), if_neg (by omega)]
      rw [if_neg (fun z => k235 (Or.inl (c2.mp z))), if_neg (fun z => k235 (Or.inr (Or.inl (c3.mp z)))), if_neg (fun z => k235 (Or.inr (Or.inr (c5.mp z))))] at ml
      refine TG2.le ⟨s1, _, rfl, fin _ (fun _ _ => rfl), ?_⟩ ml
      unfold st2; rw [hs]; dsimp only
      rw [if_neg hat, if_neg k8, if_neg k235, w0, w_eq]
      exact ⟨rfl, K1, A1, by dsimp only; rw [List.length_cons, List.length_cons, hAl], b1⟩
  obtain ⟨s', v, e1, e2, e3⟩ := X
  rw [e1, cI_v] at le
  exact TG2.le ⟨s', v, rfl, e2, e3⟩ le
end TVS
