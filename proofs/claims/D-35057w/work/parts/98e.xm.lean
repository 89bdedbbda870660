/-! the gym makes a test, whole -/
/- with MM.mv MM.mono MV.g0 MV.vn MV.rdn OLD.mono c_minit c_start c_press c_isWhole it_press IV IV.it IV.start IV.b20 GD.wc KT beg_eq LC OF K0 meD mendC tsF tsF_iv tsR fm_dg kT kI kI_press kI_end kI_kt FRN FRN.tr FRN.up FRN.rf FrP.frn Ex.frn x_test54 OkB bo wM form_at Ext -/
/-- a place that is no machine's is written -/
theorem mm_lo {b ip n cap p : Nat} {kp : Int32} {ds0 c : Nat → Int32} {K : kk_K} {J : mm_J} {P : Nat → Prop} {h h' : ax_H} (M : MM b kp ip ds0 c K n J cap P h) (e : ∀ q, q ≠ p → h'.1 q = h.1 q) (hp : ¬ P p) (h2 : h'.2 = h.2) : MM b kp ip ds0 c K n J cap P h' := by
  refine M.mono (fun q hq => e q fun z => hp (by rw [← z]; exact hq)) (by rw [h2]; exact Nat.le_refl _) (fun q hq => hq) (fun q hq => ?_)
  obtain ⟨X, arr, a', it, rw', m1, m2, m3, m4, m5, m6, m7, m8, m9, m10, m11, m12, m13, -⟩ := M
  rw [h2]; exact m13 q hq
section XMK
variable {img kv wd : Nat → Int32} {x n wn b ip p kp wp : Nat} {K : kk_K} {c ds1 : Nat → Int32} {P : Nat → Prop} {h H : ax_H} {d : Nat}
theorem fm_eq : ds (formC fun _ => 0) = fmD := by
  funext a
  show formC (fun _ => 0) (365 + a) = _
  rw [form_at]
  unfold fmD
  by_cases e : a = 32
  · rw [if_pos e, if_pos (by omega)]
  · rw [if_neg e, if_neg (by omega)]
    split <;> rfl
theorem fm_of : OF (formC fun _ => 0) := by
  refine ⟨fun p hp => ?_, fun a ha => ?_, ?_⟩
  · rw [form_at, if_neg (by omega), if_neg (by omega)]
  · rw [fm_eq]; exact fm_dg.1 a ha
  · rw [fm_eq]; exact Or.inl fm_dg.2
/-- the result of a test, by a machine that has ended -/
theorem x_resultOf {N cap : Nat} {J : mm_J} {K' : kk_K} {fk : Value} {fs fb fp fc fr fh : Int32} (V : IV N K c) (M : MM b 0 ip ds1 c K' 0 J cap P h) (hp : h.1 p = .inr (37, [fk, .ref wp, .int fs, .int fb, .int fp, .int fc, .int fr, .int fh])) (hw : h.1 wp = .inl (0, wn, .inl wd)) (w6 : wn ≤ 6) (hd : 7 ≤ d) : Ok (ax_c d 369 [.ref p, .ref b] h) (.inl (some (.int (tsR c fb wn wd)))) (Ext 2 4 h) := by
  obtain ⟨d, rfl, he⟩ := d_succ hd
  have VM := M.mv
  obtain ⟨n17, m17⟩ := rg.nat (V.1 17 60 rfl)
  have rf : Ext 2 4 h h := ⟨fun _ _ => rfl, Nat.le_refl _, Nat.le_refl _, Nat.le_add_right _ _, Nat.le_add_right _ _⟩
  have gw : dx_gA [(37, 1)] (.ref p) h = some (.ref wp) := gA_r hp rfl rfl
  have r92 : ∀ f : Int32, B_X27_resultOf_92 (ax_c d) p (.ref b) f h = B_X27_resultOf_92 (ax_c d) p (.ref b) f h := fun _ => rfl
  have o92 : ∀ (f : Int32) (T : Prop), (f = 1 ∧ T ∨ f = 0 ∧ ¬ T) → Ok (B_X27_resultOf_92 (ax_c d) p (.ref b) f h) (.inl (some (.int (if c 364 ≤ fb then @ite _ T (Classical.propDecidable _) (@ite _ (wM (ds c) 32) (Classical.propDecidable _) 0 5) 4 else 3)))) (Ext 2 4 h) := by
    intro f T hf
    refine Ok.le (b_X27_resultOf_92 rfl) ?_
    rw [VM.g0, Option.bind_some, VM.rdn (i := 364) (k := 364) rfl (by decide), Option.bind_some, gI_at hp rfl rfl, Option.bind_some]
    by_cases q : c 364 ≤ fb
    · rw [if_pos q, if_pos q]
      rcases hf with ⟨rfl, t⟩ | ⟨rfl, t⟩
      · rw [if_pos (by decide), VM.vn, Option.bind_some, @if_pos _ (Classical.propDecidable _) t]
        have bh : b + 1 < 400 + h.2.1 := by
          obtain ⟨X, arr, a', it, rw', m1, m2, m3, m4, m5, m6, m7, m8, m9, m10, m11, m12, -⟩ := M
          omega
        obtain ⟨r, b1, o⟩ := c_isWhole (b := b) (d := d) (by omega) VM bh (fun a ha => V.1 (365 + a) _ (bn_mem ha).2)
        refine Ok.I o ?_
        rintro h' ⟨e1, e2, e3⟩
        have ex : Ext 2 4 h h' := ⟨e1, by omega, by omega, by omega, by omega⟩
        rcases b1 with ⟨z1, z2⟩ | ⟨z1, z2⟩
        · rw [z1, if_neg (by decide), @if_pos _ (Classical.propDecidable _) z2]; exact Ok.ret ex
        · rw [z1, if_pos rfl, @if_neg _ (Classical.propDecidable _) z2]; exact Ok.ret ex
      · rw [if_neg (by decide), @if_neg _ (Classical.propDecidable _) t]; exact Ok.ret rf
    · rw [if_neg q, if_neg q]; exact Ok.ret rf
  refine Ok.le (m_X27_resultOf rfl) ?_
  unfold tsR
  rw [VM.g0, Option.bind_some, VM.rdn (i := 0) (k := 0) rfl (by decide), Option.bind_some]
  have c03 := V.1 0 3 rfl
  obtain ⟨z1, z2⟩ := rg.nat c03
  have z0 := V.2.2.2.1
  by_cases q2 : c 0 = 2
  · rw [if_pos q2, if_neg (by rw [q2]; decide), if_neg (by rw [q2]; decide), Option.bind_some, VM.rdn (i := 17) (k := 17) rfl (by decide), Option.bind_some, gw, Option.bind_some, len_at hw, Option.bind_some]
    by_cases ql : c 17 = Int32.ofNat wn
    · have nw : nn (c 17) = wn := by rw [ql, nn_of (by omega)]
      rw [if_neg (fun z => z ql)]
      have loop : ∀ m k, k + m = wn → (∀ i, i < k → c (48 + i) = wd i) → Ok (B_X27_resultOf_49 (ax_c d) p (.ref b) 1 (Int32.ofNat k) h) (.inl (some (.int (if c 364 ≤ fb then @ite _ (nn (c 17) = wn ∧ ∀ i, i < nn (c 17) → c (48 + i) = wd i) (Classical.propDecidable _) (@ite _ (wM (ds c) 32) (Classical.propDecidable _) 0 5) 4 else 3)))) (Ext 2 4 h) := by
        intro m
        induction m with
        | zero =>
          intro k hk hh
          obtain rfl : k = wn := by omega
          refine Ok.le (b_X27_resultOf_49 rfl) ?_
          rw [if_neg (by decide), gw, Option.bind_some, len_at hw, Option.bind_some, if_pos (Int32.le_refl _)]
          exact o92 1 _ (Or.inl ⟨rfl, nw, fun i hi => hh i (by omega)⟩)
        | succ m ih =>
          intro k hk hh
          refine Ok.le (b_X27_resultOf_49 rfl) ?_
          have i6 : ix wn (Int32.ofNat k) = some k := ix_of rfl (by omega) (by omega)
          rw [if_neg (by decide), gw, Option.bind_some, len_at hw, Option.bind_some, if_neg (i_ge_not (by omega) (by omega)), VM.g0, Option.bind_some, VM.rdn (i := 48 + Int32.ofNat k) (k := 48 + k) (i_add 48 k) (by omega), Option.bind_some, Option.bind_some, lI_at hw, i6, Option.bind_some, Option.bind_some]
          by_cases e : c (48 + k) = wd k
          · rw [if_neg (fun z => z e), lt_at, show Int32.ofNat k + 1 = Int32.ofNat (k + 1) from i_add k 1]
            exact ih (k + 1) (by omega) fun i hi => by
              rcases Nat.lt_or_ge i k with z | z
              · exact hh i z
              · rw [show i = k by omega]; exact e
          · rw [if_pos e, lt_at]
            refine Ok.le (b_X27_resultOf_49 rfl) ?_
            rw [if_pos rfl]
            exact o92 0 _ (Or.inr ⟨rfl, fun z => e (z.2 k (by omega))⟩)
      exact loop wn 0 (by omega) fun i hi => absurd hi (Nat.not_lt_zero _)
    · rw [if_pos ql]
      refine Ok.le (b_X27_resultOf_49 rfl) ?_
      rw [if_pos rfl]
      exact o92 0 _ (Or.inr ⟨rfl, fun z => ql (by rw [m17, z.1])⟩)
  · rw [if_neg q2, Option.bind_some, VM.rdn (i := 0) (k := 0) rfl (by decide), Option.bind_some]
    by_cases q3 : c 0 = 3
    · rw [if_neg (fun z => z q3), if_pos q3]; exact Ok.ret rf
    · have q1 : c 0 = 1 := by
        have n0 : nn (c 0) ≠ 0 := fun z => z0 (by rw [z2, z]; rfl)
        have n2 : nn (c 0) ≠ 2 := fun z => q2 (by rw [z2, z]; rfl)
        have n3 : nn (c 0) ≠ 3 := fun z => q3 (by rw [z2, z]; rfl)
        rw [z2, show nn (c 0) = 1 by omega]; rfl
      rw [if_pos q3, if_neg q3, if_pos q1]; exact Ok.ret rf
/-- a test is made: its result and whether it had passed -/
theorem x_testMake {bud : Nat} {fb fp fr fh : Int32} (hI : IG img) (O : OLD H) (hp : H.1 p = .inr (37, [.ref kp, .ref wp, .int (Int32.ofNat bud), .int fb, .int fp, .int (Int32.ofNat x), .int fr, .int fh])) (hk : H.1 kp = .inl (0, n, .inl kv)) (n6 : n ≤ 6) (hkv : ∀ k, k < n → rg 65535 (kv k)) (hw : H.1 wp = .inl (0, wn, .inl wd)) (w6 : wn ≤ 6) (hb5 : bud ≤ 500) (hx : x ≤ 500) (hfh : fh = 0 ∨ fh = 1) (hi : H.1 ip = .inl (0, 256, .inl img)) (h4 : 400 ≤ p) (hpl : p < 400 + H.2.1) (hkl : kp < 400 + H.2.1) (hwl : wp < 400 + H.2.1) (hil : ip < 400 + H.2.1) (hkp : kp ≠ p) (hwp : wp ≠ p) (hs : 2 ≤ H.2.1) (hd : 18 ≤ d) : Ok (ax_c d 368 [.ref p, .ref ip] H) (.inl none) (fun H' => H'.1 p = .inr (37, [.ref kp, .ref wp, .int (Int32.ofNat bud), .int fb, .int fp, .int (Int32.ofNat x), .int (tsR (tsF img x bud 0 (kT n kv) fmD 0 0) fb wn wd), .int (if fr = 0 then 1 else fh)]) ∧ (∀ q, q < 400 + H.2.1 → q ≠ p → H'.1 q = H.1 q) ∧ H.2.1 ≤ H'.2.1 ∧ H.2.2 ≤ H'.2.2 ∧ H'.2.1 ≤ H.2.1 + 1600 ∧ H'.2.2 ≤ H.2.2 + 5300) := by
  obtain ⟨d, rfl, he⟩ := d_succ hd
  refine Ok.le (m_X27_make rfl) ?_
  obtain ⟨b, eb⟩ : ∃ b, b = 400 + H.2.1 := ⟨_, rfl⟩
  rw [nw_at, ← eb]
  refine Ok.V (c_minit (b := b) (kp := 0) (d := d) (by omega) (by show b + 1 = 400 + (H.2.1 + 1); omega) (by omega) (by rw [eb]; exact new_eq _ _) (Or.inl rfl) (fun _ => 0) (gk kv n 0) fun _ => []) ?_
  rintro h1 ⟨M1, s1, w1, k1⟩
  have N1 : FRN b 12 941 H h1 := ⟨fun q hq => (k1 q hq).trans (new_ne _ _ (by omega)), by rw [s1]; exact Nat.le_trans (Nat.le_succ _) (Nat.le_add_right _ _), by rw [w1]; show H.2.2 ≤ H.2.2 + 10 + 931; omega, by rw [s1]; show H.2.1 + 1 + 11 ≤ _; omega, by rw [w1]; show H.2.2 + 10 + 931 ≤ _; omega⟩
  have lg : LG (formC fun _ => 0) 0 := ⟨rfl, by omega, fun z => absurd rfl z, fun j hj => absurd hj (Nat.not_lt_zero _)⟩
  rw [M1.mv.vn, Option.bind_some]
  refine Ok.I (c_start (d := d) (by omega) M1 lg ((N1.1 ip (by omega)).trans hi) (Or.inl (by omega))) ?_
  rintro h2 ⟨ds2, M2, d2, E2⟩
  have N2 := Ex.frn (b := b) E2 fun q z => z.1
  have e0 : begC (mendC (formC fun _ => 0) 0) img = itC (kI kv n 0) (stC fmD img (kI kv n 0) 0) 0 := by
    have := beg_eq (img := img) (K := kI kv n 0) fm_of (m := 0) (by omega) (fun j hj => absurd hj (Nat.not_lt_zero _))
    rw [this, fm_eq]
    rfl
  rw [e0] at M2
  have R0 : ∀ q, (fun q => b ≤ q ∧ q ≤ b + 11) q → b ≤ q := fun q z => z.1
  have N12 := N1.tr N2
  rw [gA_r ((N12.1 p (by omega)).trans hp) rfl rfl, Option.bind_some, len_at ((N12.1 kp (by omega)).trans hk), Option.bind_some]
  -- what comes behind the run
  have fin : ∀ (h' : ax_H) (K' : kk_K) (cap' : Nat) (J' : mm_J) (P' : Nat → Prop) (ds3 : Nat → Int32), MM b 0 ip ds3 (tsF img x bud 0 (kT n kv) fmD 0 0) K' 0 J' cap' P' h' → (∀ q, P' q → b ≤ q) → FRN b (12 + 260 * 6 + 12) (941 + 540 * 6 + 1100) H h' → Ok (B_X27_make_108 (ax_c d) p b h') (.inl none) (fun H' => H'.1 p = .inr (37, [.ref kp, .ref wp, .int (Int32.ofNat bud), .int fb, .int fp, .int (Int32.ofNat x), .int (tsR (tsF img x bud 0 (kT n kv) fmD 0 0) fb wn wd), .int (if fr = 0 then 1 else fh)]) ∧ (∀ q, q < 400 + H.2.1 → q ≠ p → H'.1 q = H.1 q) ∧ H.2.1 ≤ H'.2.1 ∧ H.2.2 ≤ H'.2.2 ∧ H'.2.1 ≤ H.2.1 + 1600 ∧ H'.2.2 ≤ H.2.2 + 5300) := by
    intro h' K' cap' J' P' ds3 M RP F
    obtain ⟨N', K2, KK2, -, V2⟩ := tsF_iv (img := img) (x := x) hI bud 0 (kT n kv) fmD 0 0 (by omega) ⟨⟨by show n ≤ 20; omega, fun k hk => hkv k hk⟩, fun k hk => ⟨0, by omega, rfl⟩⟩ fm_dg
    have hp' := (F.1 p (by omega)).trans hp
    have o125 : ∀ g : Int32, g = (if fr = 0 then 1 else 0) → Ok (B_X27_make_125 (ax_c d) p fh g p b h') (.inl none) (fun H' => H'.1 p = .inr (37, [.ref kp, .ref wp, .int (Int32.ofNat bud), .int fb, .int fp, .int (Int32.ofNat x), .int (tsR (tsF img x bud 0 (kT n kv) fmD 0 0) fb wn wd), .int (if fr = 0 then 1 else fh)]) ∧ (∀ q, q < 400 + H.2.1 → q ≠ p → H'.1 q = H.1 q) ∧ H.2.1 ≤ H'.2.1 ∧ H.2.2 ≤ H'.2.2 ∧ H'.2.1 ≤ H.2.1 + 1600 ∧ H'.2.2 ≤ H.2.2 + 5300) := by
      intro g hg
      have eg : fh ||| g = if fr = 0 then 1 else fh := by
        rw [hg]
        rcases hfh with z | z <;> rw [z] <;> split <;> decide
      have ft : ax_ft .boolean (.int (if fr = 0 then 1 else fh)) = true := by
        split
        · exact ftb1
        · rcases hfh with z | z <;> rw [z]
          · exact ftb0
          · exact ftb1
      refine Ok.le b_X27_make_125 ?_
      rw [eg, pF_at hp' rfl (Nat.le_of_ble_eq_true rfl) ft h4, Option.bind_some]
      obtain ⟨h3, eh3⟩ : ∃ h3, h3 = ax_set h' p (.inr (37, [.ref kp, .ref wp, .int (Int32.ofNat bud), .int fb, .int fp, .int (Int32.ofNat x), .int fr, .int (if fr = 0 then 1 else fh)])) := ⟨_, rfl⟩
      have hp3 : h3.1 p = .inr (37, [.ref kp, .ref wp, .int (Int32.ofNat bud), .int fb, .int fp, .int (Int32.ofNat x), .int fr, .int (if fr = 0 then 1 else fh)]) := by rw [eh3]; exact set_eq _
      have h3n : ∀ q, q ≠ p → h3.1 q = h'.1 q := fun q hq => by rw [eh3]; exact set_ne _ hq
      have h32 : h3.2 = h'.2 := by rw [eh3]; rfl
      have bP : ∀ q, P' q → q < 400 + h'.2.1 := by
        obtain ⟨X, arr, a', it, rw', m1, m2, m3, m4, m5, m6, m7, m8, m9, m10, m11, m12, m13, -⟩ := M
        exact m13
      rw [show ([.ref kp, .ref wp, .int (Int32.ofNat bud), .int fb, .int fp, .int (Int32.ofNat x), .int fr, .int fh] : List Value).set 7 (.int (if fr = 0 then 1 else fh)) = [.ref kp, .ref wp, .int (Int32.ofNat bud), .int fb, .int fp, .int (Int32.ofNat x), .int fr, .int (if fr = 0 then 1 else fh)] from rfl, ← eh3]
      have v3 : dx_vn [(37, 369)] (.ref p) h3 = some 369 := vn_at hp3
      rw [v3, Option.bind_some]
      have nP : ∀ q, P' q ∧ b ≤ q → q ≠ p := fun q z => by omega
      have M3 := mm_lo M h3n (fun z => by have := RP p z; omega) h32
      have hw3 : h3.1 wp = .inl (0, wn, .inl wd) := (h3n wp hwp).trans ((F.1 wp (by omega)).trans hw)
      refine Ok.I (x_resultOf V2 M3 hp3 hw3 w6 (by omega)) ?_
      rintro h5 ⟨x1, x2, x3, x4, x5⟩
      have s5 : h3.2.1 = h'.2.1 ∧ h3.2.2 = h'.2.2 := by rw [h32]; exact ⟨rfl, rfl⟩
      have hp5 : h5.1 p = _ := (x1 p (by have := F.2.1; omega)).trans hp3
      rw [pF_int hp5 rfl (Nat.le_of_ble_eq_true rfl) h4, Option.bind_some]
      have := F.2.1; have := F.2.2.1; have := F.2.2.2.1; have := F.2.2.2.2
      refine Ok.ret ⟨(set_eq _).trans rfl, fun q hq hqp => ?_, ?_, ?_, ?_, ?_⟩
      · rw [set_ne _ hqp, x1 q (by omega), h3n q hqp]; exact F.1 q (by omega)
      · show H.2.1 ≤ h5.2.1; omega
      · show H.2.2 ≤ h5.2.2; omega
      · show h5.2.1 ≤ _; omega
      · show h5.2.2 ≤ _; omega
    refine Ok.le b_X27_make_108 ?_
    rw [gI_at hp' rfl rfl, Option.bind_some, gI_at hp' rfl rfl, Option.bind_some]
    by_cases q : fr = 0
    · rw [if_neg (fun z => z q)]; exact o125 1 (by rw [if_pos q])
    · rw [if_pos q]; exact o125 0 (by rw [if_neg q])
  -- the keys are pressed
  have loop : ∀ m i, i + m = n → ∀ (J : mm_J) (P : Nat → Prop) (h : ax_H), MM b 0 ip ds2 (itC (kI kv n i) (stC fmD img (kI kv n i) 0) 0) (kI kv n i) 0 J 17 P h → (∀ q, P q → b ≤ q) → FRN b (12 + 260 * i) (941 + 540 * i) H h → Ok (B_X27_make_27 (ax_c d) p (.ref ip) b (.ref kp) (Int32.ofNat n) (Int32.ofNat i) h) (.inl none) (fun H' => H'.1 p = .inr (37, [.ref kp, .ref wp, .int (Int32.ofNat bud), .int fb, .int fp, .int (Int32.ofNat x), .int (tsR (tsF img x bud 0 (kT n kv) fmD 0 0) fb wn wd), .int (if fr = 0 then 1 else fh)]) ∧ (∀ q, q < 400 + H.2.1 → q ≠ p → H'.1 q = H.1 q) ∧ H.2.1 ≤ H'.2.1 ∧ H.2.2 ≤ H'.2.2 ∧ H'.2.1 ≤ H.2.1 + 1600 ∧ H'.2.2 ≤ H.2.2 + 5300) := by
    intro m
    induction m with
    | zero =>
      intro i hi2 J P h M R F
      obtain rfl : i = n := by omega
      refine Ok.le (b_X27_make_27 rfl rfl) ?_
      rw [if_pos (Int32.le_refl _)]
      rw [kI_end] at M
      have KK : KT (kT i kv) := ⟨⟨by show i ≤ 20; omega, fun k hk => hkv k hk⟩, fun k hk => ⟨0, by omega, rfl⟩⟩
      exact x_test54 hI (by omega) hb5 hx (by omega) h4 (by omega) (by omega) bud 0 (by omega) (kT i kv) fmD 0 0 17 J P ds2 h (Nat.le_refl _) KK fm_dg M R (O.mono fun q hq => F.1 q (by omega)) ((F.1 ip (by omega)).trans hi) ((F.1 p (by omega)).trans hp) fun h' K' cap' J' P' ds3 M' RR F' => fin h' K' cap' J' P' ds3 M' RR ((F.tr F').up (by omega) (by omega))
    | succ m ih =>
      intro i hi2 J P h M R F
      refine Ok.le (b_X27_make_27 rfl rfl) ?_
      have in' : ix n (Int32.ofNat i) = some i := ix_of rfl (by omega) (by omega)
      rw [if_neg (i_ge_not (by omega) (by omega)), lI_at ((F.1 kp (by omega)).trans hk), in', Option.bind_some, Option.bind_some, M.mv.vn, Option.bind_some]
      have bh : b ≤ 400 + h.2.1 := by have := F.2.1; omega
      refine Ok.V (c_press (d := d) (by omega) M (by show i < 20; omega) (by omega) (fun j hj => absurd hj (Nat.not_lt_zero _)) (kv i)) ?_
      rintro h' ⟨M', F'⟩
      have KKi := kI_kt (i := i) hkv (by omega) (by omega)
      have c20 : itC (kI kv n i) (stC fmD img (kI kv n i) 0) 0 2 = Int32.ofNat 0 := ((IV.start (v := 0) KKi.1.1 hI fm_dg)).2.2.1
      have ip2 := (it_press (v := 0) (N := 0) KKi hI fm_dg (show (kI kv n i).1 < 20 by show i < 20; omega) (by omega) (hkv i (by omega))).2
      rw [c20, ← ip2, kI_press (by omega)] at M'
      rw [lt_at, show Int32.ofNat i + 1 = Int32.ofNat (i + 1) from i_add i 1]
      exact ih (i + 1) (by omega) _ _ h' M' (fun q z => by
        rcases z.2 with y | y
        · exact R q y
        · omega) ((F.tr (F'.frn R bh)).up (by omega) (by omega))
  have L := loop n 0 (by omega) _ _ h2 M2 R0 (N12.up (by omega) (by omega))
  rw [← eb] at L
  exact L
end XMK
