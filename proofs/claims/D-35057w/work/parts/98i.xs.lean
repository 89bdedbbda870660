/-! going through a list; the gym submits -/
/- with AL.mono AL.ne al_size al_get OLD OLD.mono GO GO.g XP XP.x0 Ext x_must x_mustX lA_at cs_at FrP x_testMake tsG mkT psN IG tsR tsF kT -/
/-- an iterator at the k-th thing of the list at p -/
def IR (h : ax_H) (i p : Nat) (mc : Int32) (k : Nat) : Prop := ∃ l : Int32, h.1 i = .inr (13, [.int (Int32.ofNat k), .int l, .int mc, .ref p])
section ITR
variable {h : ax_H} {i p arr cap n k : Nat} {mc : Int32} {it : Nat → Nat} {d : Nat}
theorem al_iterator (A : AL h p mc arr cap n it) (hd : 3 ≤ d) : Ok (ax_c d 67 [.ref p] h) (.inl (some (.ref (400 + h.2.1)))) (fun h' => IR h' (400 + h.2.1) p mc 0 ∧ Ext 1 4 h h' ∧ h'.2.1 = h.2.1 + 1) := by
  obtain ⟨d, rfl, he⟩ := d_succ hd
  refine Ok.le m_J2_iterator ?_
  rw [nw_at]
  obtain ⟨b, eb⟩ : ∃ b, b = 400 + h.2.1 := ⟨_, rfl⟩
  rw [← eb]
  have b4 : 400 ≤ b := by omega
  have pl := A.2.2.2.2.2.2.2.1
  have e : Ok (ax_c d 109 [.ref b, .ref p] (ax_new h (.inr (13, [.int 0, .int 0, .int 0, .null])) 4)) (.inl none) (fun h' => IR h' b p mc 0 ∧ Ext 1 4 h h' ∧ h'.2.1 = h.2.1 + 1) := by
    obtain ⟨d2, rfl, he2⟩ := d_succ (k := 1) he
    refine Ok.le (m_J32_init rfl) ?_
    have e0 : (ax_new h (.inr (13, [.int 0, .int 0, .int 0, .null])) 4).1 b = .inr (13, [.int 0, .int 0, .int 0, .null]) := by rw [eb]; exact new_eq _ _
    rw [pF_oref e0 rfl (Nat.le_of_ble_eq_true rfl) b4, Option.bind_some, nn_ref]
    obtain ⟨h1, eh1⟩ : ∃ h1, h1 = ax_set (ax_new h (.inr (13, [.int 0, .int 0, .int 0, .null])) 4) b (.inr (13, ([.int 0, .int 0, .int 0, .null] : List Value).set 3 (.ref p))) := ⟨_, rfl⟩
    have e1 : h1.1 b = .inr (13, [.int 0, .int 0, .int 0, .ref p]) := by rw [eh1]; exact set_eq _
    rw [← eh1, pF_int e1 rfl (Nat.le_of_ble_eq_true rfl) b4, Option.bind_some]
    obtain ⟨h2, eh2⟩ : ∃ h2, h2 = ax_set h1 b (.inr (13, ([.int 0, .int 0, .int 0, .ref p] : List Value).set 1 (.int (-1)))) := ⟨_, rfl⟩
    have e2 : h2.1 b = .inr (13, [.int 0, .int (-1), .int 0, .ref p]) := by rw [eh2]; exact set_eq _
    have pn : h2.1 p = h.1 p := by
      rw [eh2, set_ne _ (by omega), eh1, set_ne _ (by omega)]
      exact new_ne _ _ (by omega)
    have g0 : dx_gI [(4, 0), (15, 0)] (.ref p) h2 = some mc := gI_at (pn.trans A.1) rfl rfl
    rw [← eh2, gA_r e2 rfl rfl, Option.bind_some, g0, Option.bind_some, pF_int e2 rfl (Nat.le_of_ble_eq_true rfl) b4, Option.bind_some]
    refine Ok.ret ⟨⟨-1, set_eq _⟩, ⟨fun q hq => ?_, ?_, ?_, ?_, ?_⟩, ?_⟩
    · rw [set_ne _ (by omega), eh2, set_ne _ (by omega), eh1, set_ne _ (by omega)]
      exact new_ne _ _ (by omega)
    · show h.2.1 ≤ h2.2.1; rw [eh2, eh1]; exact Nat.le_succ _
    · show h.2.2 ≤ h2.2.2; rw [eh2, eh1]; exact Nat.le_add_right _ _
    · show h2.2.1 ≤ _; rw [eh2, eh1]; exact Nat.le_refl _
    · show h2.2.2 ≤ _; rw [eh2, eh1]; exact Nat.le_refl _
    · show h2.2.1 = _; rw [eh2, eh1]; rfl
  refine Ok.V e ?_
  rintro h' hh
  exact Ok.ret hh
theorem ir_hasNext (I : IR h i p mc k) (A : AL h p mc arr cap n it) (hk : k ≤ n) (hd : 1 ≤ d) : ax_c d 110 [.ref i] h = some (.inl (some (.int (if k = n then 0 else 1))), h) := by
  obtain ⟨l, I⟩ := I
  obtain ⟨d, rfl, -⟩ := d_succ hd
  refine dx_app m_J32_hasNext ?_
  have n1 := A.2.2.1
  have n2 := A.2.2.2.1
  rw [gI_at I rfl rfl, Option.bind_some, gA_r I rfl rfl, Option.bind_some, gI_at A.1 rfl rfl, Option.bind_some]
  by_cases q : k = n
  · rw [if_pos q, if_pos (by rw [q])]
  · rw [if_neg q, if_neg (fun z => q ((i_eq (by omega) (by omega)).mp z))]
theorem ir_next (I : IR h i p mc k) (A : AL h p mc arr cap n it) (hk : k < n) (i4 : 400 ≤ i) (hip : i ≠ p) (hia : i ≠ arr) (hd : 2 ≤ d) : Ok (ax_c d 111 [.ref i] h) (.inl (some (.ref (it k)))) (fun h' => IR h' i p mc (k + 1) ∧ (∀ q, q ≠ i → h'.1 q = h.1 q) ∧ h'.2 = h.2) := by
  obtain ⟨l, I⟩ := I
  obtain ⟨d, rfl, he⟩ := d_succ hd
  refine Ok.le m_J32_next ?_
  obtain ⟨a1, ⟨f, a2, a3⟩, a4, a5, a6, a7, a8, a9, a10⟩ := A
  have v112 : dx_vn [(13, 112)] (.ref i) h = some 112 := vn_at I
  have e112 : ax_c d 112 [.ref i] h = some (.inl none, h) := by
    obtain ⟨d2, rfl, -⟩ := d_succ (k := 0) he
    refine dx_app m_J32_checkForComodification ?_
    rw [gA_r I rfl rfl, Option.bind_some, gI_at a1 rfl rfl, Option.bind_some, gI_at I rfl rfl, Option.bind_some, if_pos rfl]
  rw [v112, Option.bind_some, e112, cV_v, gI_at I rfl rfl, Option.bind_some, gA_r I rfl rfl, Option.bind_some, gI_at a1 rfl rfl, Option.bind_some, if_pos ((i_lt (by omega) (by omega)).mpr hk), Option.bind_some, gA_r a1 rfl rfl, Option.bind_some, len_at a2, Option.bind_some, if_pos ((i_lt (by omega) (by omega)).mpr (show k < cap by omega)), show Int32.ofNat k + 1 = Int32.ofNat (k + 1) from i_add k 1, pF_int I rfl (Nat.le_of_ble_eq_true rfl) i4, Option.bind_some]
  obtain ⟨h1, eh1⟩ : ∃ h1, h1 = ax_set h i (.inr (13, ([.int (Int32.ofNat k), .int l, .int mc, .ref p] : List Value).set 0 (.int (Int32.ofNat (k + 1))))) := ⟨_, rfl⟩
  have e1 : h1.1 i = .inr (13, [.int (Int32.ofNat (k + 1)), .int l, .int mc, .ref p]) := by rw [eh1]; exact set_eq _
  rw [← eh1, pF_int e1 rfl (Nat.le_of_ble_eq_true rfl) i4, Option.bind_some]
  have ar : (ax_set h1 i (.inr (13, ([.int (Int32.ofNat (k + 1)), .int l, .int mc, .ref p] : List Value).set 1 (.int (Int32.ofNat k))))).1 arr = .inl (4, cap, objs f) := by
    rw [set_ne _ (Ne.symm hia), eh1, set_ne _ (Ne.symm hia)]; exact a2
  rw [lA_at ar, ix_of (n := cap) (k := k) rfl (by omega) (by omega), Option.bind_some, Option.bind_some, a3 k hk]
  refine Ok.ret ⟨⟨Int32.ofNat k, set_eq _⟩, fun q hq => ?_, ?_⟩
  · rw [set_ne _ hq, eh1, set_ne _ hq]
  · rw [eh1]; rfl
end ITR
/-- a test that lies at a place -/
def CT1 (p : Nat) (q : tst) (P : Nat → Prop) (H : ax_H) : Prop := ∃ kp wp : Nat, H.1 p = .inr (37, [.ref kp, .ref wp, .int (Int32.ofNat q.2.2.1), .int q.2.2.2.1, .int q.2.2.2.2.1, .int (Int32.ofNat q.2.2.2.2.2.1), .int q.2.2.2.2.2.2.1, .int q.2.2.2.2.2.2.2]) ∧ H.1 kp = .inl (0, q.1.1, .inl q.1.2) ∧ H.1 wp = .inl (0, q.2.1.1, .inl q.2.1.2) ∧ P p ∧ P kp ∧ P wp
/-- the gym's tests -/
def CTW (T : Nat) (q : Nat → tst) (P : Nat → Prop) (H : ax_H) : Prop := ∃ (mc : Int32) (arr cap : Nat) (it : Nat → Nat), AL H 414 mc arr cap T it ∧ (T ≤ 5 ∧ cap ≤ 2 * T + 10) ∧ (∀ t, t < T → CT1 (it t) (q t) P H ∧ tsG (q t)) ∧ (∀ t u, t < u → u < T → it t ≠ it u) ∧ (∀ r, P r → 402 ≤ r ∧ r < 400 + H.2.1) ∧ P 414 ∧ (arr < 400 ∨ P arr)
section XSB
variable {T ip : Nat} {q : Nat → tst} {P : Nat → Prop} {H : ax_H} {img : Nat → Int32} {d : Nat}
theorem x_submit12 (hd : 1 ≤ d) : OkX (B_X1_submit_12 (ax_c d) 0 400 H) (XP 0 (Ext 1 6 H)) := by
  refine OkX.le b_X1_submit_12 ?_
  exact OkX.xV (x_mustX hd) fun i h' X => X.x0 rfl
theorem x_submit_no (G : GO H .null) (hd : 2 ≤ d) : OkX (ax_c d 267 [.ref 400] H) (XP 0 (Ext 1 6 H)) := by
  obtain ⟨d, rfl, he⟩ := d_succ hd
  refine OkX.le m_X1_submit ?_
  rw [gA_n (j := 5) G rfl rfl, Option.bind_some, nul_null]
  exact x_submit12 he
theorem x_submit_yes (C : CTW T q P H) (G : GO H (.ref ip)) (hI : IG img) (O : OLD H) (hi : H.1 ip = .inl (0, 256, .inl img)) (hil : ip < 400 + H.2.1) (hiP : ¬ P ip) (hd : 20 ≤ d) : Ok (ax_c d 267 [.ref 400] H) (.inl (some (.int (Int32.ofNat (psN img q T))))) (fun H' => CTW T (fun t => mkT img (q t)) P H' ∧ FrP P 8001 26504 H H') := by
  obtain ⟨d, rfl, he⟩ := d_succ hd
  refine Ok.le m_X1_submit ?_
  rw [gA_r (j := 5) G rfl rfl, Option.bind_some, nul_ref]
  refine Ok.le b_X1_submit_12 ?_
  obtain ⟨mc, arr, cap, it, A, T5, ct, inj, PB, P414, Parr⟩ := C
  have g2 : dx_gA [(19, 2)] (.ref 400) H = some (.ref 414) := gA_r G rfl rfl
  have v67 : dx_vn [(4, 67)] (.ref 414) H = some 67 := vn_at A.1
  have p414 := PB 414 P414
  rw [x_must (by omega) (by decide), cV_v, g2, Option.bind_some, v67, Option.bind_some]
  obtain ⟨b, eb⟩ : ∃ b, b = 400 + H.2.1 := ⟨_, rfl⟩
  have X := al_iterator A (d := d) (by omega)
  rw [← eb] at X
  refine Ok.R X ?_
  rintro H1 ⟨I1, ⟨x1, x2, x3, x4, x5⟩, x6⟩
  have arlt : arr < b := by have := A.2.2.2.2.2.2.2.2; omega
  have loop : ∀ m t, t + m = T → ∀ h : ax_H, IR h b 414 mc t → (∀ r, r < b → (∀ j, j < t → r ≠ it j) → h.1 r = H.1 r) → (∀ j, j < t → CT1 (it j) (mkT img (q j)) P h) → H.2.1 + 1 ≤ h.2.1 → H.2.2 ≤ h.2.2 → h.2.1 ≤ H.2.1 + 1 + 1600 * t → h.2.2 ≤ H.2.2 + 4 + 5300 * t → Ok (B_X1_submit_27 (ax_c d) 400 (Int32.ofNat (psN img q t)) (.ref b) h) (.inl (some (.int (Int32.ofNat (psN img q T))))) (fun H' => CTW T (fun t => mkT img (q t)) P H' ∧ FrP P 8001 26504 H H') := by
    intro m
    induction m with
    | zero =>
      intro t ht h I fr ct' s1 s2 s3 s4
      obtain rfl : t = T := by omega
      refine Ok.le (b_X1_submit_27 rfl) ?_
      obtain ⟨l, I'⟩ := I
      have v110 : dx_vn [(10, 92), (13, 110)] (.ref b) h = some 110 := vn_at I'
      have n414 : ∀ j, j < t → 414 ≠ it j := fun j hj z => by
        obtain ⟨⟨kp, wp, c1, -⟩, -⟩ := ct j hj
        rw [← z, A.1] at c1; cases c1
      have narr : ∀ j, j < t → arr ≠ it j := fun j hj z => by
        obtain ⟨⟨kp, wp, c1, -⟩, -⟩ := ct j hj
        obtain ⟨f, a2, -⟩ := A.2.1
        rw [← z, a2] at c1; cases c1
      have A' : AL h 414 mc arr cap t it := A.mono (fr 414 (by omega) n414) (fr arr arlt narr) (by omega)
      rw [v110, Option.bind_some, ir_hasNext ⟨l, I'⟩ A' (Nat.le_refl _) (by omega), cI_v, if_pos rfl, if_pos rfl]
      refine Ok.ret ⟨⟨mc, arr, cap, it, A', T5, fun j hj => ⟨ct' j hj, ?_⟩, inj, fun r hr => ⟨(PB r hr).1, by have := (PB r hr).2; omega⟩, P414, Parr⟩, ⟨by omega, by omega, by omega, by omega, fun r hr hp => fr r (by omega) (fun j hj z => hp (by rw [z]; obtain ⟨⟨kp, wp, c1, c2, c3, c4, -⟩, -⟩ := ct j hj; exact c4))⟩⟩
      obtain ⟨g1, g2, g3, g4, g5, g6, g7⟩ := (ct j hj).2
      refine ⟨g1, g2, g3, g4, g5, g6, ?_⟩
      show (if (q j).2.2.2.2.2.2.1 = 0 then (1 : Int32) else (q j).2.2.2.2.2.2.2) = 0 ∨ (if (q j).2.2.2.2.2.2.1 = 0 then (1 : Int32) else (q j).2.2.2.2.2.2.2) = 1
      split
      · exact Or.inr rfl
      · exact g7
    | succ m ih =>
      intro t ht h I fr ct' s1 s2 s3 s4
      refine Ok.le (b_X1_submit_27 rfl) ?_
      have I0 := I
      obtain ⟨l, I'⟩ := I
      have v110 : dx_vn [(10, 92), (13, 110)] (.ref b) h = some 110 := vn_at I'
      have v111 : dx_vn [(10, 94), (13, 111)] (.ref b) h = some 111 := vn_at I'
      have n414 : ∀ j, j < T → 414 ≠ it j := fun j hj z => by
        obtain ⟨⟨kp, wp, c1, -⟩, -⟩ := ct j hj
        rw [← z, A.1] at c1; cases c1
      have narr : ∀ j, j < T → arr ≠ it j := fun j hj z => by
        obtain ⟨⟨kp, wp, c1, -⟩, -⟩ := ct j hj
        obtain ⟨f, a2, -⟩ := A.2.1
        rw [← z, a2] at c1; cases c1
      have A' : AL h 414 mc arr cap T it := A.mono (fr 414 (by omega) fun j hj => n414 j (by omega)) (fr arr arlt fun j hj => narr j (by omega)) (by omega)
      rw [v110, Option.bind_some, ir_hasNext I0 A' (by omega) (by omega), cI_v, if_neg (show ¬ t = T by omega), if_neg (by decide), v111, Option.bind_some]
      refine Ok.R (ir_next I0 A' (by omega) (by omega) (by omega) (by omega) (by omega)) ?_
      rintro h2 ⟨I2, k2, e2⟩
      obtain ⟨⟨kp, wp, c1, c2, c3, c4, c5, c6⟩, gq⟩ := ct t (by omega)
      obtain ⟨g1, g2', g3, g4, g5, g6, g7⟩ := gq
      have itl := (PB _ c4).2
      have kpl := (PB _ c5).2
      have wpl := (PB _ c6).2
      have it4 := (PB _ c4).1
      have nit : ∀ j, j < t → it t ≠ it j := fun j hj => Ne.symm (inj j t hj (by omega))
      have kind : ∀ r, (∃ x, H.1 r = .inl x) → ∀ j, j < T → r ≠ it j := fun r hr j hj z => by
        obtain ⟨x, hx⟩ := hr
        obtain ⟨⟨kp, wp, c1, -⟩, -⟩ := ct j hj
        rw [← z, hx] at c1; cases c1
      have H2 : ∀ r, r < b → (∀ j, j < t → r ≠ it j) → h2.1 r = H.1 r := fun r hr hj => (k2 r (by omega)).trans (fr r hr hj)
      have p2 := (H2 (it t) (by omega) nit).trans c1
      have kp2 := (H2 kp (by omega) fun j hj => kind kp ⟨_, c2⟩ j (by omega)).trans c2
      have wp2 := (H2 wp (by omega) fun j hj => kind wp ⟨_, c3⟩ j (by omega)).trans c3
      have ip2 := (H2 ip (by omega) fun j hj => kind ip ⟨_, hi⟩ j (by omega)).trans hi
      have n400 : ∀ j, j < T → 400 ≠ it j := fun j hj z => by
        obtain ⟨⟨kp, wp, c1, c2, c3, c4, -⟩, -⟩ := ct j hj
        have := (PB _ c4).1; omega
      have G2 : GO h2 (.ref ip) := (H2 400 (by omega) fun j hj => n400 j (by omega)).trans G
      have s22 : h2.2.1 = h.2.1 ∧ h2.2.2 = h.2.2 := by rw [e2]; exact ⟨rfl, rfl⟩
      have v368 : dx_vn [(37, 368)] (.ref (it t)) h2 = some 368 := vn_at p2
      rw [cs_at p2 (by decide), gA_r (j := 5) G2 rfl rfl, Option.bind_some, v368, Option.bind_some]
      have M := x_testMake (d := d) (x := (q t).2.2.2.2.2.1) (bud := (q t).2.2.1) (n := (q t).1.1) (wn := (q t).2.1.1) (kv := (q t).1.2) (wd := (q t).2.1.2) (ip := ip) hI (O.mono fun r hr => H2 r (by omega) fun j hj z => by
        obtain ⟨⟨kp, wp, d1, d2, d3, d4, -⟩, -⟩ := ct j (by omega)
        have := (PB _ d4).1; omega) p2 kp2 g1 g2' wp2 g3 g4 g5 g7 ip2 (by omega) (by omega) (by omega) (by omega) (by omega) (kind kp ⟨_, c2⟩ t (by omega)) (kind wp ⟨_, c3⟩ t (by omega)) (by omega) (by omega)
      refine Ok.V M ?_
      rintro h3 ⟨m1, m2, m3, m4, m5, m6⟩
      have em : mkT img (q t) = ((q t).1, (q t).2.1, (q t).2.2.1, (q t).2.2.2.1, (q t).2.2.2.2.1, (q t).2.2.2.2.2.1, tsR (tsF img (q t).2.2.2.2.2.1 (q t).2.2.1 0 (kT (q t).1.1 (q t).1.2) fmD 0 0) (q t).2.2.2.1 (q t).2.1.1 (q t).2.1.2, if (q t).2.2.2.2.2.2.1 = 0 then 1 else (q t).2.2.2.2.2.2.2) := rfl
      have I3 : IR h3 b 414 mc (t + 1) := by
        obtain ⟨l2, I2⟩ := I2
        exact ⟨l2, (m2 b (by omega) (by omega)).trans I2⟩
      have fr3 : ∀ r, r < b → (∀ j, j < t + 1 → r ≠ it j) → h3.1 r = H.1 r := fun r hr hj => (m2 r (by omega) (hj t (by omega))).trans (H2 r hr fun j hj' => hj j (by omega))
      have ct3 : ∀ j, j < t + 1 → CT1 (it j) (mkT img (q j)) P h3 := by
        intro j hj
        by_cases e : j = t
        · subst e
          refine ⟨kp, wp, m1, ?_, ?_, c4, c5, c6⟩
          · rw [fr3 kp (by omega) fun j' hj' => kind kp ⟨_, c2⟩ j' (by omega)]; exact c2
          · rw [fr3 wp (by omega) fun j' hj' => kind wp ⟨_, c3⟩ j' (by omega)]; exact c3
        · obtain ⟨kp', wp', d1, d2, d3, d4, d5, d6⟩ := ct' j (by omega)
          have dl := (PB _ d4).2; have dk := (PB _ d5).2; have dw := (PB _ d6).2
          have ne1 : it j ≠ it t := fun z => nit j (by omega) z.symm
          have nk : kp' ≠ it t := fun z => by
            have := fr (it t) (by omega) nit
            rw [← z, d2, z, c1] at this; cases this
          have nw' : wp' ≠ it t := fun z => by
            have := fr (it t) (by omega) nit
            rw [← z, d3, z, c1] at this; cases this
          exact ⟨kp', wp', by rw [m2 _ (by omega) ne1, k2 _ (by omega)]; exact d1, by rw [m2 _ (by omega) nk, k2 _ (by omega)]; exact d2, by rw [m2 _ (by omega) nw', k2 _ (by omega)]; exact d3, d4, d5, d6⟩
      have q3 : h3.2.1 ≤ H.2.1 + 1 + 1600 * (t + 1) := by
        rw [Nat.mul_add, Nat.mul_one, ← Nat.add_assoc]
        exact Nat.le_trans m5 (Nat.add_le_add_right (by rw [s22.1]; exact s3) _)
      have q4 : h3.2.2 ≤ H.2.2 + 4 + 5300 * (t + 1) := by
        rw [Nat.mul_add, Nat.mul_one, ← Nat.add_assoc]
        exact Nat.le_trans m6 (Nat.add_le_add_right (by rw [s22.2]; exact s4) _)
      have next := ih (t + 1) (by omega) h3 I3 fr3 ct3 (by omega) (by omega) q3 q4
      have ep : psN img q (t + 1) = psN img q t + (if tsR (tsF img (q t).2.2.2.2.2.1 (q t).2.2.1 0 (kT (q t).1.1 (q t).1.2) fmD 0 0) (q t).2.2.2.1 (q t).2.1.1 (q t).2.1.2 = 0 then 1 else 0) := rfl
      rw [gI_at m1 rfl rfl, Option.bind_some]
      by_cases z : tsR (tsF img (q t).2.2.2.2.2.1 (q t).2.2.1 0 (kT (q t).1.1 (q t).1.2) fmD 0 0) (q t).2.2.2.1 (q t).2.1.1 (q t).2.1.2 = 0
      · rw [if_pos z] at ep
        rw [if_neg (fun y => y z), lt_at, show Int32.ofNat (psN img q t) + 1 = Int32.ofNat (psN img q t + 1) from i_add _ 1, ← ep]
        exact next
      · rw [if_neg z] at ep
        have ep : psN img q (t + 1) = psN img q t := ep
        rw [if_pos z, lt_at, Int32.add_zero, ← ep]
        exact next
  exact loop T 0 (by omega) H1 I1 (fun r hr _ => x1 r (by omega)) (fun j hj => absurd hj (Nat.not_lt_zero _)) (by omega) x3 (by omega) (by omega)
end XSB
