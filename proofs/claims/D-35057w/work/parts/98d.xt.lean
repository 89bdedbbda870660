/-! the gym makes a test: a machine of its own -/
/- with MM.mv MM.mono MV.g0 MV.vn MV.rdn OLD.mono c_minit c_start c_press c_crash c_make0 c_goesOn c_isWhole it_press IV IV.it IV.start IV.b20 IV.dg GD.wc CK.ci CI.wk KT KT.none beg_eq DK.lg2 LC OF K0 meD mendC_ds tsF tsF_iv tsR fm_dg kT crash_of fE_end fE_le Ex.tr -/
/-- the keys as they are put in, one by one: i of n are there -/
def gk (kv : Nat → Int32) (n i : Nat) : Nat → Int32 := fun j => if j < i then kv j else kv (j + n - i)
def kI (kv : Nat → Int32) (n i : Nat) : kk_K := (i, (fun _ => 0), gk kv n i)
section XTS
variable {img kv : Nat → Int32} {x n i b ip cap a w : Nat} {K : kk_K} {D c ds1 : Nat → Int32} {v : Int32} {J : mm_J} {P P' : Nat → Prop} {h h' H : ax_H} {d : Nat}
theorem kI_press (hi : i < n) : prK (kI kv n i) (Int32.ofNat 0) (kv i) = kI kv n (i + 1) := by
  have pz : ∀ m, m ≤ i → pzF (fun _ => (0 : Int32)) 0 m = m := by
    intro m _
    cases m with
    | zero => rfl
    | succ m =>
      show (if (0 : Int32) < 0 then pzF (fun _ => (0 : Int32)) 0 m else m + 1) = m + 1
      exact if_neg (by decide)
  unfold prK kI
  show (i + 1, insI (fun _ => (0 : Int32)) (pzF (fun _ => (0 : Int32)) 0 i) 0, insI (gk kv n i) (pzF (fun _ => (0 : Int32)) 0 i) (kv i)) = _
  rw [pz i (Nat.le_refl _)]
  have e1 : insI (fun _ => (0 : Int32)) i 0 = fun _ => 0 := by
    funext j
    unfold insI
    split
    · rfl
    · split <;> rfl
  have e2 : insI (gk kv n i) i (kv i) = gk kv n (i + 1) := by
    funext j
    unfold gk
    rcases Nat.lt_trichotomy j i with z | z | z
    · rw [ins_lt z, if_pos z, if_pos (by omega)]
    · rw [z, ins_eq, if_pos (by omega)]
    · rw [ins_gt z, if_neg (by omega), if_neg (by omega)]
      congr 1
      omega
  rw [e1, e2]
theorem kI_end : kI kv n n = kT n kv := by
  unfold kI kT gk
  congr 2
  funext j
  by_cases z : j < n
  · rw [if_pos z]
  · rw [if_neg z, Nat.add_sub_cancel]
theorem kI_kt (hk : ∀ k, k < n → rg 65535 (kv k)) (n20 : n ≤ 20) (hi : i ≤ n) : KT (kI kv n i) := by
  refine ⟨⟨by show i ≤ 20; omega, fun k k1 => ?_⟩, fun k _ => ⟨0, by omega, rfl⟩⟩
  have k1 : k < i := k1
  show rg 65535 (if k < i then kv k else kv (k + n - i))
  rw [if_pos k1]; exact hk k (by omega)
/-- a machine of its own, within the new -/
def FRN (b a w : Nat) (h h' : ax_H) : Prop := (∀ q, q < b → h'.1 q = h.1 q) ∧ h.2.1 ≤ h'.2.1 ∧ h.2.2 ≤ h'.2.2 ∧ h'.2.1 ≤ h.2.1 + a ∧ h'.2.2 ≤ h.2.2 + w
theorem FRN.tr {h'' : ax_H} {a' w' : Nat} (A : FRN b a w h h') (B : FRN b a' w' h' h'') : FRN b (a + a') (w + w') h h'' := ⟨fun q hq => (B.1 q hq).trans (A.1 q hq), by have := A.2.1; have := B.2.1; omega, by have := A.2.2.1; have := B.2.2.1; omega, by have := A.2.2.2.1; have := B.2.2.2.1; omega, by have := A.2.2.2.2; have := B.2.2.2.2; omega⟩
theorem FRN.up {a' w' : Nat} (A : FRN b a w h h') (ha : a ≤ a') (hw : w ≤ w') : FRN b a' w' h h' := ⟨A.1, A.2.1, A.2.2.1, by have := A.2.2.2.1; omega, by have := A.2.2.2.2; omega⟩
theorem FRN.rf : FRN b 0 0 h h := ⟨fun _ _ => rfl, Nat.le_refl _, Nat.le_refl _, Nat.le_refl _, Nat.le_refl _⟩
theorem FrP.frn (F : FrP P a w h h') (R : ∀ q, P q → b ≤ q) (hb : b ≤ 400 + h.2.1) : FRN b a w h h' := ⟨fun q hq => F.2.2.2.2 q (by omega) (fun z => by have := R q z; omega), F.1, F.2.1, F.2.2.1, F.2.2.2.1⟩
theorem Ex.frn {A : Nat → Prop} (E : Ex A h h') (R : ∀ q, A q → b ≤ q) : FRN b 0 0 h h' := ⟨fun q hq => E.2 q (fun z => by have := R q z; omega), by rw [E.1]; exact Nat.le_refl _, by rw [E.1]; exact Nat.le_refl _, by rw [E.1]; exact Nat.le_refl _, by rw [E.1]; exact Nat.le_refl _⟩
/-- the steps of a test; then the rest -/
theorem x_test54 {p bud : Nat} (hI : IG img) (hd : 14 ≤ d) (hb5 : bud ≤ 500) (hx : x ≤ 500) {fk fw : Value} {fb fp fr fh : Int32} {v1 : Option Value ⊕ Nat} {Q : ax_H → Prop} (hpb : p < b) (h4 : 400 ≤ p) (hipb : ip < b) (hb : 402 ≤ b) : ∀ m j, j + m = bud → ∀ (K : kk_K) (D : Nat → Int32) (v : Int32) (N cap : Nat) (J : mm_J) (P : Nat → Prop) (ds1 : Nat → Int32) (h : ax_H), N ≤ j → KT K → DG D → MM b 0 ip ds1 (itC K (stC D img K v) N) K 0 J cap P h → (∀ q, P q → b ≤ q) → OLD h → h.1 ip = .inl (0, 256, .inl img) → h.1 p = .inr (37, [fk, fw, .int (Int32.ofNat bud), .int fb, .int fp, .int (Int32.ofNat x), .int fr, .int fh]) → (∀ (h' : ax_H) (K' : kk_K) (cap' : Nat) (J' : mm_J) (P' : Nat → Prop) (ds2 : Nat → Int32), MM b 0 ip ds2 (tsF img x m j K D v N) K' 0 J' cap' P' h' → (∀ q, P' q → b ≤ q) → FRN b 12 1100 h h' → Ok (B_X27_make_108 (ax_c d) p b h') v1 Q) → Ok (B_X27_make_54 (ax_c d) p (.ref ip) b (Int32.ofNat j) h) v1 Q := by
  have key : ∀ m j, j + m = bud → ∀ (K : kk_K) (D : Nat → Int32) (v : Int32) (N cap : Nat) (J : mm_J) (P : Nat → Prop) (ds1 : Nat → Int32) (h : ax_H), N ≤ j → KT K → DG D → MM b 0 ip ds1 (itC K (stC D img K v) N) K 0 J cap P h → (∀ q, P q → b ≤ q) → OLD h → h.1 ip = .inl (0, 256, .inl img) → h.1 p = .inr (37, [fk, fw, .int (Int32.ofNat bud), .int fb, .int fp, .int (Int32.ofNat x), .int fr, .int fh]) → (∀ (h' : ax_H) (K' : kk_K) (cap' : Nat) (J' : mm_J) (P' : Nat → Prop) (ds2 : Nat → Int32) (e : Nat), MM b 0 ip ds2 (tsF img x m j K D v N) K' 0 J' cap' P' h' → (∀ q, P' q → b ≤ q) → FRN b (12 * e) (1100 * e) h h' → e ≤ 1 → (itC K (stC D img K v) N 0 ≠ 1 → e = 0) → Ok (B_X27_make_108 (ax_c d) p b h') v1 Q) → Ok (B_X27_make_54 (ax_c d) p (.ref ip) b (Int32.ofNat j) h) v1 Q := by
    intro m
    induction m with
    | zero =>
      intro j hj K D v N cap J P ds1 h hN KK hD M R O hi hp F
      obtain rfl : j = bud := by omega
      refine Ok.le (b_X27_make_54 rfl) ?_
      have V := M.mv
      have last := F h K cap J P ds1 0 M R FRN.rf (by omega) (fun _ => rfl)
      rw [V.vn, Option.bind_some, c_goesOn (by omega) V, cI_v]
      by_cases q : itC K (stC D img K v) N 0 = 1 ∧ itC K (stC D img K v) N 2 < 1000
      · rw [if_pos q, if_neg (by decide), gI_at hp rfl rfl, Option.bind_some, if_pos (Int32.le_refl _)]; exact last
      · rw [if_neg q, if_pos rfl]; exact last
    | succ m ih =>
      intro j hj K D v N cap J P ds1 h hN KK hD M R O hi hp F
      have Vit := (IV.start (v := v) KK.1.1 hI hD).it KK
      have VN := Vit N (by omega)
      have V := M.mv
      have ef : tsF img x (m + 1) j K D v N = if itC K (stC D img K v) N 0 = 1 then (if j + 1 = x ∧ itC K (stC D img K v) (N + 1) 0 = 1 then tsF img x m (j + 1) (K0 K) (meD (ds (itC K (stC D img K v) (N + 1))) (tsM (ds (itC K (stC D img K v) (N + 1))))) (mendC (zerC (itC K (stC D img K v) (N + 1)) 0 364) (tsM (ds (itC K (stC D img K v) (N + 1)))) 364) 0 else tsF img x m (j + 1) K D v (N + 1)) else itC K (stC D img K v) N := rfl
      have go : (if itC K (stC D img K v) N 0 = 1 ∧ itC K (stC D img K v) N 2 < 1000 then (1 : Int32) else 0) = if itC K (stC D img K v) N 0 = 1 then 1 else 0 := by
        have lt : itC K (stC D img K v) N 2 < 1000 := by rw [VN.2.2.1]; exact (i_lt (b := 1000) (by omega) (by omega)).mpr (by omega)
        by_cases q : itC K (stC D img K v) N 0 = 1
        · rw [if_pos q, if_pos ⟨q, lt⟩]
        · rw [if_neg q, if_neg (fun z => q z.1)]
      refine Ok.le (b_X27_make_54 rfl) ?_
      rw [V.vn, Option.bind_some, c_goesOn (by omega) V, cI_v, go]
      by_cases q : itC K (stC D img K v) N 0 = 1
      · have B20 := VN.b20 KK
        rw [if_pos q, if_neg (by decide), gI_at hp rfl rfl, Option.bind_some, if_neg (i_ge_not (by omega) (by omega)), V.vn, Option.bind_some]
        refine Ok.V (c_make0 hd M O (VN.1.wc B20) VN.2.2.2.2.2 (rg.nat (VN.1 16 _ rfl)).1 (VN.2.1.ci VN.1).wk) ?_
        rintro h1 ⟨M1, F1, -⟩
        have bh : b ≤ 400 + h.2.1 := by
          obtain ⟨X, arr, a', it, rw', m1, m2, m3, m4, m5, m6, m7, m8, m9, m10, m11, m12, -⟩ := M
          omega
        have N1 := F1.frn (b := b) R bh
        have R1 : ∀ q, xR P h h1 q → b ≤ q := fun q z => by
          rcases z.2 with y | y
          · exact R q y
          · omega
        have O1 : OLD h1 := O.mono fun q hq => N1.1 q (by omega)
        have hi1 : h1.1 ip = .inl (0, 256, .inl img) := (N1.1 ip hipb).trans hi
        have hp1 := (N1.1 p hpb).trans hp
        have M1 : MM b 0 ip ds1 (itC K (stC D img K v) (N + 1)) K 0 J cap (xR P h h1) h1 := M1
        have V1 := M1.mv
        have VN1 := Vit (N + 1) (by omega)
        have fl := fE_le (K := K) (c := itC K (stC D img K v) N)
        have fz : fE K (itC K (stC D img K v) N) ≠ 0 → itC K (stC D img K v) (N + 1) 0 = 3 := fun z => fE_end z
        have eqx : Int32.ofNat (j + 1) = Int32.ofNat x ↔ j + 1 = x := i_eq (by omega) (by omega)
        rw [lt_at, show Int32.ofNat j + 1 = Int32.ofNat (j + 1) from i_add j 1, gI_at hp1 rfl rfl, Option.bind_some]
        have rest : ¬ (j + 1 = x ∧ itC K (stC D img K v) (N + 1) 0 = 1) → Ok (B_X27_make_54 (ax_c d) p (.ref ip) b (Int32.ofNat (j + 1)) h1) v1 Q := fun q2 => by
          refine ih (j + 1) (by omega) K D v (N + 1) cap J _ ds1 h1 (by omega) KK hD M1 R1 O1 hi1 hp1 fun h' K' cap' J' P' ds2 e MM' RR FF le ze => ?_
          refine F h' K' cap' J' P' ds2 (fE K (itC K (stC D img K v) N) + e) (by rw [ef, if_pos q, if_neg q2]; exact MM') RR ((N1.tr FF).up (by omega) (by omega)) ?_ (fun z => absurd q z)
          by_cases z : fE K (itC K (stC D img K v) N) = 0
          · omega
          · have := ze (by rw [fz z]; decide); omega
        by_cases q3 : j + 1 = x
        · rw [if_neg (fun z => z (eqx.mpr q3)), M1.mv.g0, Option.bind_some, V1.rdn (i := 0) (k := 0) rfl (by decide), Option.bind_some]
          by_cases q4 : itC K (stC D img K v) (N + 1) 0 = 1
          · have q2 : j + 1 = x ∧ itC K (stC D img K v) (N + 1) 0 = 1 := ⟨q3, q4⟩
            rw [if_neg (fun z => z q4), M1.mv.vn, Option.bind_some]
            refine Ok.I (c_crash (by omega) M1) ?_
            rintro h2 ⟨M2, E2⟩
            obtain ⟨OFc, eD⟩ := crash_of VN1
            obtain ⟨m3, m0, m1, m2, m4, m5⟩ := VN1.2.1.dk.lg2
            have hc : ∀ j', j' < tsM (ds (itC K (stC D img K v) (N + 1))) → ∃ v', 4 ≤ v' ∧ v' < 32 ∧ zerC (itC K (stC D img K v) (N + 1)) 0 364 (366 + j') = Int32.ofNat v' := fun j' hj' => by
              obtain ⟨w1, w2, w3, w4⟩ := m2 j' hj'
              refine ⟨w1, w2, w3, ?_⟩
              rw [← eD] at w4
              exact (congrArg (zerC (itC K (stC D img K v) (N + 1)) 0 364) (show 366 + j' = 365 + (1 + j') by omega)).trans w4
            have lg : LG (zerC (itC K (stC D img K v) (N + 1)) 0 364) (tsM (ds (itC K (stC D img K v) (N + 1)))) := ⟨by
              have := m0; rw [← eD] at this; exact (congrFun eD 0).trans m0, m3, fun z => by
              have := (m1 z).2.1
              rw [← eD] at this
              rw [← eD] at *
              exact this, hc⟩
            have N2 := Ex.frn (b := b) E2 R1
            have hi2 : h2.1 ip = .inl (0, 256, .inl img) := (N2.1 ip hipb).trans hi1
            rw [M2.mv.vn, Option.bind_some]
            refine Ok.I (c_start (by omega) M2 lg hi2 (Or.inl hipb)) ?_
            rintro h3 ⟨ds3, M3, d3, E3⟩
            have N3 := Ex.frn (b := b) E3 fun q z => z.1
            rw [beg_eq (K := K) OFc m3 (by rw [eD]; exact m2), eD] at M3
            refine ih (j + 1) (by omega) (K0 K) _ _ 0 cap J _ ds3 h3 (by omega) (KT.none K) VN1.dg M3 R1 (O1.mono fun q hq => ((N2.tr N3).1 q (by omega))) ((N3.1 ip hipb).trans hi2) (((N2.tr N3).1 p hpb).trans hp1) fun h' K' cap' J' P' ds2 e MM' RR FF le ze => ?_
            have f0 : fE K (itC K (stC D img K v) N) = 0 := Decidable.of_not_not fun z => by
              have := fz z
              rw [q4] at this
              exact absurd this (by decide)
            exact F h' K' cap' J' P' ds2 e (by rw [ef, if_pos q, if_pos q2]; exact MM') RR ((N1.tr (N2.tr (N3.tr FF))).up (by omega) (by omega)) le (fun z => absurd q z)
          · rw [if_pos q4]
            exact rest fun z => q4 z.2
        · rw [if_pos (fun z => q3 (eqx.mp z))]
          exact rest fun z => q3 z.1
      · rw [if_neg q, if_pos rfl]
        exact F h K cap J P ds1 0 (by rw [ef, if_neg q]; exact M) R FRN.rf (by omega) (fun _ => rfl)
  intro m j hj K D v N cap J P ds1 h hN KK hD M R O hi hp F
  exact key m j hj K D v N cap J P ds1 h hN KK hD M R O hi hp fun h' K' cap' J' P' ds2 e MM' RR FF le _ => F h' K' cap' J' P' ds2 MM' RR (FF.up (by omega) (by omega))
end XTS
