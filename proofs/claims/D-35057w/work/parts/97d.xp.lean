/-! the gym: pressing, crashing, starting, formatting, sums, where something changed -/
/- with ON ON.iv ON.go goP IV IV.b20 IV.it IV.start CK.wl CO CO.mv CO.sz FR FR.tr FR.rf FR.up FR.go FR.old FR.rg MM.mv MV.g0 MV.vn MV.rdn MM.mono MM.cells OLD.mono c_isOn inI_val inI_1 XP XP.x0 Ext GO.g x_in x_inX x_must x_mustX it_press KT.press JU unW prJ hasP_app beg_eq DK.lg LC OF K0 IV.sc GD.wc CI.wk CK.ci Ex.fr2 KYP.ky saC_at saC_st itE_le caR chR mendC_ds mendC_364 c_format formC -/
section XPS
variable {N n im cap a w k : Nat} {v x lo hi key : Int32} {ds0 img c : Nat → Int32} {K : kk_K} {J : mm_J} {P P' : Nat → Prop} {H H' : ax_H} {iv : Value}
/-- the class's machine that is off -/
def CF (c : Nat → Int32) (im : Nat) (J : mm_J) (cap : Nat) (P : Nat → Prop) (H : ax_H) : Prop := ∃ (ds1 : Nat → Int32) (K : kk_K), K.1 = 0 ∧ MM 402 1 im ds1 c K 0 J cap P H
theorem CF.mv (C : CF c im J cap P H) : MV 402 c H := by
  obtain ⟨ds1, K, -, M⟩ := C
  exact M.mv
theorem MM.ksz {b : Nat} {kp : Int32} (M : MM b kp im ds0 c K n J cap P H) {d : Nat} (hd : 1 ≤ d) : dx_gA [(29, 1)] (.ref b) H = some (.ref (b + 2)) ∧ dx_vn [(15, 125)] (.ref (b + 2)) H = some 125 ∧ ax_c d 125 [.ref (b + 2)] H = some (.inl (some (.int (Int32.ofNat K.1))), H) := by
  obtain ⟨X, arr, a, it, rw', m1, m2, m3, ⟨mc, ns, it2, l, -⟩, -⟩ := M
  exact ⟨gA_r m1 rfl rfl, vn_at l.1, ll_size hd l⟩
theorem i_key (hk : rg 65535 key) : inI key 0 65535 ≠ 0 := by
  obtain ⟨q1, q2⟩ := rg.nat hk
  rw [q2]
  exact (inI_val (lo := 0) (hi := 65535) (by omega) (by omega)).mpr ⟨_, Nat.zero_le _, q1, rfl⟩
theorem x_press_off (hx : inI key 0 65535 ≠ 0) (G : GO H iv) (M : MM 402 1 im ds0 c K n J cap P H) (h0 : c 0 ≠ 1 ∨ 20 ≤ K.1) {d : Nat} (hd : 2 ≤ d) : OkX (ax_c d 252 [.ref 400, .int key] H) (XP 0 (Ext 1 6 H)) := by
  obtain ⟨d, rfl, he⟩ := d_succ hd
  refine OkX.le m_X1_press ?_
  have V := M.mv
  have s41 : OkX (B_X1_press_41 (ax_c d) 0 400 key H) (XP 0 (Ext 1 6 H)) := by
    refine OkX.le b_X1_press_41 ?_
    exact OkX.xV (x_mustX he) fun i h' X => X.x0 rfl
  have k20 : K.1 ≤ 20 := by
    obtain ⟨X, arr, a, it, rw', m1, m2, m3, ⟨mc, ns, it2, l, n20, -⟩, -⟩ := M
    exact n20
  rw [x_in he hx, cI_v, G.g, Option.bind_some, V.g0, Option.bind_some, V.rdn (i := 0) (k := 0) rfl (by decide), Option.bind_some]
  by_cases q : c 0 = 1
  · obtain ⟨z1, z2, z3⟩ := M.ksz he
    rw [if_neg (fun z => z q), Option.bind_some, z1, Option.bind_some, z2, Option.bind_some, z3, cI_v, if_pos (show (20 : Int32) ≤ Int32.ofNat K.1 from (i_le (a := 20) (by omega) (by omega)).mpr (h0.resolve_left fun z => z q))]
    exact s41
  · rw [if_pos q]; exact s41
theorem x_press_yes (O : ON N n K ds0 img) (C : CO N n K ds0 img v im J cap P H) (R : RG P) (G : GO H iv) (h1 : itC K (stC ds0 img K v) N 0 = 1) (h20 : K.1 < 20) (hk : rg 65535 key) {d : Nat} (hd : 8 ≤ d) : Ok (ax_c d 252 [.ref 400, .int key] H) (.inl (some (.int (Int32.ofNat (K.1 + 1))))) (fun H' => ∃ J' P', CO N n (prK K (Int32.ofNat N) key) ds0 img v im J' cap P' H' ∧ FR P P' cap cap 260 540 H H') := by
  obtain ⟨d, rfl, he⟩ := d_succ hd
  refine Ok.le m_X1_press ?_
  have sz := C.sz
  obtain ⟨ds1, M, c1, c2, c3, c4, c5, c6⟩ := C
  have V := M.mv
  have e2 := (O.iv (v := v)).2.2.1
  obtain ⟨z1, z2, z3⟩ := M.ksz (d := d) (by omega)
  rw [x_in (by omega) (i_key hk), cI_v, G.g, Option.bind_some, V.g0, Option.bind_some, V.rdn (i := 0) (k := 0) rfl (by decide), Option.bind_some, if_neg (fun z => z h1), Option.bind_some, z1, Option.bind_some, z2, Option.bind_some, z3, cI_v, if_neg (show ¬ (20 : Int32) ≤ Int32.ofNat K.1 from fun z => by have := (i_le (a := 20) (by omega) (by omega)).mp z; omega)]
  refine Ok.le b_X1_press_41 ?_
  rw [x_must (by omega) (by decide), cV_v, G.g, Option.bind_some, V.vn, Option.bind_some]
  refine Ok.V (c_press (d := d) (by omega) M h20 O.2.2.1 (fun i hi => by have := (c5 i hi).2.1; omega) key) ?_
  rintro H' ⟨M', F⟩
  rw [e2] at M'
  obtain ⟨p1, p2⟩ := it_press (v := v) O.2.2.2.1 O.2.2.2.2.1 O.2.2.2.2.2 h20 O.2.1 hk
  rw [← p2] at M'
  obtain ⟨f1, f2, f3, f4, f5⟩ := F
  have G' : GO H' iv := (f5 400 (by omega) (fun z => by have := R 400 z; omega)).trans G
  obtain ⟨z1', z2', z3'⟩ := M'.ksz (d := d) (by omega)
  rw [G'.g, Option.bind_some, z1', Option.bind_some, z2', Option.bind_some, z3', cI_v]
  refine Ok.ret ⟨_, _, ⟨ds1, M', c1, by rw [f5 im c3 c4]; exact c2, by omega, ?_, fun i hi => ?_, fun j hj => ?_⟩, f5, fun q hq => hq.2, f1, f2, Nat.le_refl _, by omega, by omega⟩
  · rintro ⟨q1, q2 | q2⟩
    · exact c4 q2
    · omega
  · obtain ⟨u1, u2, u3⟩ := c5 i hi
    have on1 := O.1
    have cj : itC (prK K (Int32.ofNat N) key) (stC ds0 img (prK K (Int32.ofNat N) key) v) (N - n + i) = itC K (stC ds0 img K v) (N - n + i) := (p1 _ (by omega)).1
    show unW _ (if i + 1 = n then J i ++ [(9, itC K (stC ds0 img K v) N 9)] else J i) = _ ∧ List.length (if i + 1 = n then J i ++ [(9, itC K (stC ds0 img K v) N 9)] else J i) ≤ 38 + (K.1 + 1) ∧ ∀ a, a < 256 → (hasP (if i + 1 = n then J i ++ [(9, itC K (stC ds0 img K v) N 9)] else J i) (108 + a) = 1 ↔ _)
    rw [cj]
    by_cases e : i + 1 = n
    · rw [if_pos e]
      refine ⟨?_, by rw [List.length_append]; show (J i).length + 1 ≤ _; omega, fun a ha => ?_⟩
      · rw [show N - n + i + 1 = N by omega, p2]
        unfold unW
        rw [List.reverse_append]
        show apW (upd (upd (itC K (stC ds0 img K v) N) 9 1) 9 (itC K (stC ds0 img K v) N 9)) (J i).reverse = _
        rw [upd_upd, upd_same]
        rw [show N - n + i + 1 = N by omega] at u1
        exact u1
      · rw [hasP_app, (p1 _ (by omega)).2 a]
        have n9 : hasP [(9, itC K (stC ds0 img K v) N 9)] (108 + a) = 0 := by
          show (if 9 = 108 + a then (1 : Int32) else 0) = 0
          rw [if_neg (by omega)]
        rw [n9, ← u3 a ha]
        rcases hasP_01 (J i) (108 + a) with z | z
        · rw [z]; exact ⟨fun y => absurd y (by decide), fun y => absurd y (by decide)⟩
        · rw [z, if_pos rfl]
    · rw [if_neg e]
      refine ⟨?_, by omega, fun a ha => ?_⟩
      · have cj2 : itC (prK K (Int32.ofNat N) key) (stC ds0 img (prK K (Int32.ofNat N) key) v) (N - n + i + 1) = itC K (stC ds0 img K v) (N - n + i + 1) := (p1 _ (by omega)).1
        rw [cj2]; exact u1
      · rw [(p1 _ (by omega)).2 a]; exact u3 a ha
  · rw [(p1 j hj).1]; exact c6 j hj
/-! crashing -/
theorem x_crash_no (G : GO H iv) (M : MV 402 c H) (h0 : c 0 = 0) {d : Nat} (hd : 2 ≤ d) : OkX (ax_c d 247 [.ref 400] H) (XP 0 (Ext 1 6 H)) := by
  obtain ⟨d, rfl, he⟩ := d_succ hd
  refine OkX.le m_X1_crash ?_
  rw [G.g, Option.bind_some, M.vn, Option.bind_some, c_isOn he M, cI_v, if_pos h0]
  exact OkX.xV (x_mustX he) fun i h' X => X.x0 rfl
theorem x_crash_yes (O : ON N n K ds0 img) (C : CO N n K ds0 img v im J cap P H) (G : GO H iv) {d : Nat} (hd : 4 ≤ d) : Ok (ax_c d 247 [.ref 400] H) (.inl (some (.int (Int32.ofNat N)))) (fun H' => CF (zerC (itC K (stC ds0 img K v) N) 0 364) im J cap P H' ∧ FR P P cap cap 0 0 H H') := by
  obtain ⟨d, rfl, he⟩ := d_succ hd
  refine Ok.le m_X1_crash ?_
  have V := O.iv (v := v)
  rw [G.g, Option.bind_some, C.mv.vn, Option.bind_some, c_isOn (by omega) C.mv, cI_v, if_neg V.2.2.2.1, x_must (by omega) (by decide), cV_v, G.g, Option.bind_some, C.mv.vn, Option.bind_some]
  obtain ⟨ds1, M, c1, c2, c3, c4, c5, c6⟩ := C
  rw [← V.2.2.1]
  refine Ok.I (c_crash he M) ?_
  rintro H' ⟨M', E⟩
  exact Ok.ret ⟨⟨ds1, (0, K.2), rfl, M'⟩, Ex.fr2 E fun q z => z⟩
/-! starting -/
theorem x_start22 {d : Nat} (hd : 1 ≤ d) : OkX (B_X1_start_22 (ax_c d) 0 400 H) (XP 0 (Ext 1 6 H)) := by
  refine OkX.le b_X1_start_22 ?_
  exact OkX.xV (x_mustX hd) fun i h' X => X.x0 rfl
theorem x_start_no (G : GO H iv) (M : MV 402 c H) (h0 : c 0 ≠ 0 ∨ iv = .null) {d : Nat} (hd : 2 ≤ d) : OkX (ax_c d 246 [.ref 400] H) (XP 0 (Ext 1 6 H)) := by
  obtain ⟨d, rfl, he⟩ := d_succ hd
  refine OkX.le m_X1_start ?_
  rw [G.g, Option.bind_some, M.vn, Option.bind_some, c_isOn he M, cI_v]
  by_cases q : c 0 = 0
  · obtain rfl := h0.resolve_left (fun z => z q)
    rw [if_pos q, if_neg (fun z => z rfl), gA_n (j := 5) G rfl rfl, Option.bind_some, nul_null]
    exact x_start22 he
  · rw [if_neg q, if_pos (by decide)]
    exact x_start22 he
theorem x_start_yes {ip : Nat} (F : OF c) (C : CF c im J cap P H) (G : GO H (.ref ip)) (R : RG P) (hi : H.1 ip = .inl (0, 256, .inl img)) (hip : ip < 400 + H.2.1) (hiP : ¬ P ip) (hi4 : 414 ≤ ip) {m : Nat} (hm : m ≤ 3) (h0 : ds c 0 = Int32.ofNat m) (L : m ≠ 0 → LC (ds c) m) (hb : ∀ j, j < m → ∃ v, 4 ≤ v ∧ v < 32 ∧ ds c (1 + j) = Int32.ofNat v) {d : Nat} (hd : 5 ≤ d) : Ok (ax_c d 246 [.ref 400] H) (.inl (some (.int (if m = 0 then 0 else Int32.ofNat (1 + m))))) (fun H' => ∃ K : kk_K, CO 0 0 (K0 K) (meD (ds c) m) img (mendC c m 364) ip J cap P H' ∧ FR P P cap cap 0 0 H H') := by
  obtain ⟨d, rfl, he⟩ := d_succ hd
  refine Ok.le m_X1_start ?_
  have V := C.mv
  obtain ⟨ds1, K, k0, M⟩ := C
  have hc : ∀ j, j < m → ∃ v, 4 ≤ v ∧ v < 32 ∧ c (366 + j) = Int32.ofNat v := fun j hj => by
    obtain ⟨v, v1, v2, v3⟩ := hb j hj
    exact ⟨v, v1, v2, (congrArg c (show 366 + j = 365 + (1 + j) by omega)).trans v3⟩
  have lg : LG c m := ⟨h0, hm, fun z => (L z).2.1, hc⟩
  rw [G.g, Option.bind_some, V.vn, Option.bind_some, c_isOn (by omega) V, cI_v, if_pos (F.1 0 (by omega)), if_neg (fun z => z rfl), gA_r (j := 5) G rfl rfl, Option.bind_some, nul_ref]
  refine Ok.le b_X1_start_22 ?_
  rw [x_must (by omega) (by decide), cV_v, G.g, Option.bind_some, gA_r (j := 5) G rfl rfl, Option.bind_some, V.vn, Option.bind_some]
  refine Ok.I (c_start he M lg hi (Or.inr (by omega))) ?_
  rintro H' ⟨ds2, M', d2, E⟩
  have M2 := M'
  rw [beg_eq (K := K) F hm hb] at M'
  have eK : K0 K = K := by unfold K0; rw [← k0]
  obtain ⟨X, arr, a, it, rw', m1, m2, m3, m4, m5, m6, m7, m8, m9, m10, m11, m12, m13, m14, m15, m16⟩ := M2
  refine Ok.ret ⟨K, ⟨ds2, by rw [eK]; rw [eK] at M'; exact M', fun a ha => by rw [d2 a ha]; exact mendC_ds hc hm a, (E.2 ip (by omega)).trans hi, by rw [E.1]; exact hip, hiP, fun i hi => absurd hi (Nat.not_lt_zero _), fun j hj => absurd hj (Nat.not_lt_zero _)⟩, Ex.fr2 E fun q z => m14 q z.1 z.2⟩
/-! formatting -/
theorem x_files {d : Nat} (hd : 2 ≤ d) (G : GO H iv) (M : MV 402 c H) : ax_c d 226 [.ref 400] H = some (.inl (some (.int (Int32.ofNat (filN (ds c) 6)))), H) := by
  obtain ⟨d, rfl, he⟩ := d_succ hd
  refine dx_app m_X1_files ?_
  have loop : ∀ m j, j + m = 6 → B_X1_files_4 (ax_c d) 400 (Int32.ofNat (filN (ds c) j)) (Int32.ofNat j) H = some (.inl (some (.int (Int32.ofNat (filN (ds c) 6)))), H) := by
    intro m
    induction m with
    | zero =>
      intro j hj
      obtain rfl : j = 6 := by omega
      refine dx_app b_X1_files_4 ?_
      rw [if_pos (by decide)]
    | succ m ih =>
      intro j hj
      refine dx_app b_X1_files_4 ?_
      have := c_entry (d := d) he M (show j < 6 by omega) (show 0 < 4 by omega)
      rw [show Int32.ofNat 0 = 0 from rfl] at this
      rw [if_neg (show ¬ (6 : Int32) ≤ Int32.ofNat j from i_ge_not (n := 6) (by omega) (by omega)), G.g, Option.bind_some, M.vn, Option.bind_some, this, cI_v]
      have ih' := ih (j + 1) (by omega)
      have ef : filN (ds c) (j + 1) = filN (ds c) j + (if ds c (40 + 4 * j) = 0 then 0 else 1) := rfl
      by_cases q : ds c (40 + 4 * j) = 0
      · rw [if_pos q] at ef
        have ef : filN (ds c) (j + 1) = filN (ds c) j := ef
        rw [if_neg (fun z => z q), lt_at, Int32.add_zero, lt_at, show Int32.ofNat j + 1 = Int32.ofNat (j + 1) from i_add j 1, ← ef]
        exact ih'
      · rw [if_neg q] at ef
        rw [if_pos (show ¬ ds c (40 + 4 * j + 0) = 0 from q), lt_at, lt_at, show Int32.ofNat (filN (ds c) j) + 1 = Int32.ofNat (filN (ds c) j + 1) from i_add _ 1, show Int32.ofNat j + 1 = Int32.ofNat (j + 1) from i_add j 1, ← ef]
        exact ih'
  exact loop 6 0 rfl
theorem x_format_no (G : GO H iv) (M : MV 402 c H) (h0 : c 0 ≠ 0) {d : Nat} (hd : 2 ≤ d) : OkX (ax_c d 248 [.ref 400] H) (XP 0 (Ext 1 6 H)) := by
  obtain ⟨d, rfl, he⟩ := d_succ hd
  refine OkX.le m_X1_format ?_
  rw [G.g, Option.bind_some, M.vn, Option.bind_some, c_isOn he M, cI_v, if_neg h0, if_pos (by decide)]
  refine OkX.le b_X1_format_15 ?_
  exact OkX.xV (x_mustX he) fun i h' X => X.x0 rfl
theorem x_format_yes (C : CF c im J cap P H) (h0 : c 0 = 0) (G : GO H iv) {d : Nat} (hd : 3 ≤ d) : Ok (ax_c d 248 [.ref 400] H) (.inl (some (.int (Int32.ofNat (filN (ds c) 6))))) (fun H' => CF (formC c) im J cap P H' ∧ FR P P cap cap 0 0 H H') := by
  obtain ⟨d, rfl, he⟩ := d_succ hd
  refine Ok.le m_X1_format ?_
  have V := C.mv
  obtain ⟨ds1, K, k0, M⟩ := C
  rw [G.g, Option.bind_some, V.vn, Option.bind_some, c_isOn (by omega) V, cI_v, if_pos h0, if_neg (fun z => z rfl)]
  refine Ok.le b_X1_format_15 ?_
  have gv : dx_vn [(19, 226)] (.ref 400) H = some 226 := vn_at G
  rw [x_must (by omega) (by decide), cV_v, gv, Option.bind_some, x_files (by omega) G V, cI_v, G.g, Option.bind_some, V.vn, Option.bind_some]
  have M2 := M
  obtain ⟨X, arr, a, it, rw', m1, m2, m3, m4, m5, m6, m7, m8, m9, m10, m11, m12, m13, m14, m15, m16⟩ := M2
  refine Ok.V (c_format (by omega) M) ?_
  rintro H' ⟨M', E⟩
  exact Ok.ret ⟨⟨ds1, K, k0, M'⟩, Ex.fr2 E fun q z => m14 q (by omega) (by omega)⟩
/-! where something changed -/
theorem ch_ca {M : Nat → Prop} {p : Nat} (hJ : ∀ i, i < n → (hasP (J i) p = 1 ↔ M (N - n + i))) (hn : n ≤ N) (hN : N ≤ 1000) : ∀ m, m ≤ n → chR J p m (Int32.ofNat (N - n + m)) = caR M m (N - n + m) := by
  intro m
  induction m with
  | zero => intro _; rfl
  | succ m ih =>
    intro hm
    have e1 : Int32.ofNat (N - n + (m + 1)) + (-1) = Int32.ofNat (N - n + m) := by
      rw [← Int32.sub_eq_add_neg]
      exact i_sub (a := N - n + (m + 1)) (b := 1) (by omega)
    have hj := hJ m (by omega)
    show (if hasP (J m) p = 0 then chR J p m (Int32.ofNat (N - n + (m + 1)) + (-1)) else Int32.ofNat (N - n + (m + 1)) + (-1)) = @ite _ (M (N - n + (m + 1) - 1)) (Classical.propDecidable _) (Int32.ofNat (N - n + (m + 1) - 1)) (caR M m (N - n + (m + 1) - 1))
    rw [e1, show N - n + (m + 1) - 1 = N - n + m by omega]
    by_cases q : M (N - n + m)
    · rw [@if_pos _ (Classical.propDecidable _) q, if_neg (by rw [hj.mpr q]; decide)]
    · have z : hasP (J m) p = 0 := (hasP_01 (J m) p).resolve_right fun y => q (hj.mp y)
      rw [@if_neg _ (Classical.propDecidable _) q, if_pos z]
      exact ih (by omega)
theorem x_changedAt_bad (G : GO H iv) (hx : inI x 0 255 = 0) {d : Nat} (hd : 2 ≤ d) : OkX (ax_c d 255 [.ref 400, .int x] H) (XP 18 (Ext 1 6 H)) := by
  obtain ⟨d, rfl, he⟩ := d_succ hd
  refine OkX.le m_X1_changedAt ?_
  rw [G.g, Option.bind_some]
  exact OkX.xI (x_inX he hx) fun i h' X => X.x0 rfl
theorem i_addr {a : Nat} (ha : a < 256) : inI (Int32.ofNat a) 0 255 ≠ 0 := (inI_val (lo := 0) (hi := 255) (by omega) (by omega)).mpr ⟨a, Nat.zero_le _, by omega, rfl⟩
theorem x_changedAt_mm (M : MM 402 1 im ds0 c K n J cap P H) (G : GO H iv) (hn : n ≤ 200) {a : Nat} (ha : a < 256) {d : Nat} (hd : 8 ≤ d) : Ok (ax_c d 255 [.ref 400, .int (Int32.ofNat a)] H) (.inl (some (.int (chR J (108 + a) n (c 2))))) (Ext 1 5 H) := by
  obtain ⟨d, rfl, he⟩ := d_succ hd
  refine Ok.le m_X1_changedAt ?_
  rw [G.g, Option.bind_some, x_in (by omega) (i_addr ha), cI_v, M.mv.vn, Option.bind_some]
  refine Ok.I (c_changedAt he M ha hn) ?_
  rintro H' ⟨e1, e2, e3⟩
  exact Ok.ret ⟨e1, by omega, by omega, by omega, by omega⟩
theorem x_changedAt_yes (O : ON N n K ds0 img) (C : CO N n K ds0 img v im J cap P H) (G : GO H iv) {a : Nat} (ha : a < 256) {d : Nat} (hd : 8 ≤ d) : Ok (ax_c d 255 [.ref 400, .int (Int32.ofNat a)] H) (.inl (some (.int (caR (fun k => MS (stepW K (itC K (stC ds0 img K v) k)) a) n N)))) (Ext 1 5 H) := by
  obtain ⟨ds1, M, c1, c2, c3, c4, c5, c6⟩ := C
  have := x_changedAt_mm M G O.2.2.1 ha hd
  have on := O.1
  rw [(O.iv (v := v)).2.2.1, show Int32.ofNat N = Int32.ofNat (N - n + n) by rw [show N - n + n = N by omega], ch_ca (M := fun k => MS (stepW K (itC K (stC ds0 img K v) k)) a) (fun i hi => (c5 i hi).2.2 a ha) O.1 O.2.1 n (Nat.le_refl _), show N - n + n = N by omega] at this
  exact this
/-! sums -/
theorem x_sum {d : Nat} (hd : 3 ≤ d) (G : GO H iv) (M : MV 402 c H) (h17 : rg 60 (c 17)) : ax_c d 224 [.ref 400] H = some (.inl (some (.int (smC c))), H) := by
  obtain ⟨d, rfl, he⟩ := d_succ hd
  refine dx_app m_X1_sum ?_
  rw [G.g, Option.bind_some, M.vn, Option.bind_some, c_sum he M h17, cI_v]
theorem saC_cong {ds1 : Nat → Int32} (h : ∀ a, a < 256 → ds1 a = ds0 a) : saC ds1 img K = saC ds0 img K := by
  funext p
  rw [saC_at, saC_at]
  by_cases e : 365 ≤ p ∧ p < 621
  · rw [if_pos e, if_pos e, h _ (by omega)]
  · rw [if_neg e, if_neg e]
theorem x_sumAnew_off (G : GO H iv) (M : MV 402 c H) (h0 : c 0 = 0) {d : Nat} (hd : 2 ≤ d) : OkX (ax_c d 257 [.ref 400, .int x] H) (XP 0 (Ext 1 6 H)) := by
  obtain ⟨d, rfl, he⟩ := d_succ hd
  refine OkX.le m_X1_sumAnew ?_
  rw [G.g, Option.bind_some, M.vn, Option.bind_some, c_isOn he M, cI_v, if_pos h0]
  exact OkX.xV (x_mustX he) fun i h' X => X.x0 rfl
theorem x_sumAnew_bad (G : GO H iv) (M : MV 402 c H) (h0 : c 0 ≠ 0) (hx : inI x 0 (c 2) = 0) {d : Nat} (hd : 2 ≤ d) : OkX (ax_c d 257 [.ref 400, .int x] H) (XP 18 (Ext 1 6 H)) := by
  obtain ⟨d, rfl, he⟩ := d_succ hd
  refine OkX.le m_X1_sumAnew ?_
  rw [G.g, Option.bind_some, M.vn, Option.bind_some, c_isOn he M, cI_v, if_neg h0, x_must he (by decide), cV_v, G.g, Option.bind_some, Option.bind_some, M.g0, Option.bind_some, M.rdn (i := 2) (k := 2) rfl (by decide), Option.bind_some]
  exact OkX.xI (x_inX he hx) fun i h' X => X.x0 rfl
theorem x_sumAnew_yes (O : ON N n K ds0 img) (C : CO N n K ds0 img v im J cap P H) (D : OLD H) (G : GO H iv) (hr : ∀ j, j < N → itC K (stC ds0 img K 0) j 0 = 1) {k : Nat} (hk : k ≤ N) {d : Nat} (hd : 16 ≤ d) : Ok (ax_c d 257 [.ref 400, .int (Int32.ofNat k)] H) (.inl (some (.int (smC (itC K (saC ds0 img K) k))))) (Ext 44 2101 H) := by
  obtain ⟨d, rfl, he⟩ := d_succ hd
  refine Ok.le m_X1_sumAnew ?_
  have V := C.mv
  have Vn := O.iv (v := v)
  have n1 := O.2.1
  obtain ⟨ds1, M, c1, c2, c3, c4, c5, c6⟩ := C
  have ik : inI (Int32.ofNat k) 0 (itC K (stC ds0 img K v) N 2) ≠ 0 := by
    rw [Vn.2.2.1]
    exact (inI_val (lo := 0) (hi := N) (by omega) (by omega)).mpr ⟨k, Nat.zero_le _, hk, rfl⟩
  have e0 : saC ds1 img K = stC ds0 img K 0 := (saC_cong c1).trans saC_st.symm
  have Vj := fun j (hj : j ≤ k) => (IV.start (K := K) (v := 0) O.2.2.2.1.1.1 O.2.2.2.2.1 O.2.2.2.2.2).it O.2.2.2.1 j (by omega)
  have B20 := fun j (hj : j ≤ k) => (Vj j hj).b20 O.2.2.2.1
  rw [G.g, Option.bind_some, V.vn, Option.bind_some, c_isOn (by omega) V, cI_v, if_neg Vn.2.2.2.1, x_must (by omega) (by decide), cV_v, G.g, Option.bind_some, Option.bind_some, V.g0, Option.bind_some, V.rdn (i := 2) (k := 2) rfl (by decide), Option.bind_some, x_in (by omega) ik, cI_v, V.vn, Option.bind_some]
  have S := c_sumAnew he M D (img := img) c2 c3 (v := Int32.ofNat k) (N := k) (fun j hj => by
    rw [e0, (Vj j (by omega)).2.2.1]
    exact fun z => by have := (i_le (by omega) (by omega)).mp z; omega) (by rw [e0, (Vj k (Nat.le_refl _)).2.2.1]; exact Int32.le_refl _) (fun j hj => by rw [e0]; exact (Vj j hj).1.wc (B20 j hj)) (fun j hj => by rw [e0]; exact (Vj j (by omega)).2.2.2.2.2) (fun j hj => by rw [e0]; exact (rg.nat ((Vj j (by omega)).1 16 _ rfl)).1) (fun j hj => by rw [e0]; exact ((Vj j (by omega)).2.1.ci (Vj j (by omega)).1).wk)
  rw [e0] at S
  have l := (itE_le (c := stC ds0 img K 0) (N := k) (fun j hj => hr j (by omega)) k (Nat.le_refl _)).1
  rw [← saC_st (ds0 := ds0) (img := img) (K := K)]
  refine Ok.I S ?_
  rintro H' ⟨s1, s2, s3, s4, s5⟩
  exact Ok.ret ⟨s1, s2, s4, by omega, by omega⟩
end XPS
