/-! the class's error and assemble; what is made are words -/
/- with lnD lnV CLW GO OLD Ext Ext.tr Ext.up WR WR.x0 st1 st2 s2T skS sk0 sk0_inv as1 as2 asR as1_go as2_go LIV SKI OE OE.le PRE PRE.V PRE.old x_assembly sk_fr st2_sk st1_sk sk_inv go_inv LIV.st valF_rg v_err XP XP.x0 erC rg.of rg.mono IG upd_at -/
/-- arguments are words -/
def ARG : List frT → List (Int32 × Int32) → Prop
  | _ :: R, p :: A => (R ≠ [] → rg 65535 p.1 ∧ rg 65535 p.2) ∧ ARG R A
  | _, _ => True
section CES
variable {H h h' : ax_H} {b n a t u m sec g us d : Nat} {lab bu : Nat → Int32} {σ σ' : skT} {R : List frT} {sz : Nat → Nat} {mac : Nat → Option (Nat × Nat)} {ls : Nat → lnD} {P : Nat → Prop} {iv : Value}
theorem st2_img (V : ∀ t, t < n → lnV (ls t)) (hl : ∀ i, lab i = -1 ∨ rg 1248 (lab i)) (hb : b ≤ 256) {S S' : s2T} (I : SKI ls n S.1 ∧ (∀ i, rg 65535 (S.2.2 i)) ∧ ARG S.1.1 S.2.1 ∧ S.2.1.length = S.1.1.length) (h0 : 0 < S.1.1.length) (h : st2 ls n lab b S = .inl S') : SKI ls n S'.1 ∧ (∀ i, rg 65535 (S'.2.2 i)) ∧ ARG S'.1.1 S'.2.1 ∧ S'.2.1.length = S'.1.1.length := by
  obtain ⟨⟨F, mac, sec, sz, g, us⟩, A, bu⟩ := S
  cases F with
  | nil => exact absurd h0 (Nat.not_lt_zero _)
  | cons F R =>
  obtain ⟨a, t, u, m⟩ := F
  obtain ⟨I1, I2, I3, I4⟩ := I
  dsimp only at I1 I2 I3 I4
  cases A with
  | nil => rw [List.length_cons] at I4; exact absurd I4 (by show ¬ 0 = _; omega)
  | cons q A =>
  rw [List.length_cons, List.length_cons] at I4
  have hk := st2_sk h
  refine ⟨(sk_inv V I1 hk h0).1, ?_⟩
  obtain ⟨J1, J2, J3, J4, J5, J6⟩ := I1
  dsimp only at J1 J2 J3 J4 J5 J6
  obtain ⟨f1, f2, f3, f4⟩ := id J1
  unfold st2 at h
  rw [hk] at h
  dsimp only at h
  rcases sk_fr hk with ⟨e, z⟩ | ⟨e, k8, -, a', z⟩ | ⟨e, k8, x', y', -, -, z⟩
  · rw [if_pos e] at h
    have h := Sum.inl.inj h
    rw [z, ← h]
    exact ⟨I2, I3.2, by dsimp only; omega⟩
  · obtain ⟨v1, v2, v3, v4, v5, v6, v7, v8, v9⟩ := V a (by omega)
    rw [if_neg e, if_neg k8] at h
    rw [z]
    have up : ∀ (i : Nat) (x : Int32), rg 65535 x → ∀ f : Nat → Int32, (∀ j, rg 65535 (f j)) → ∀ j, rg 65535 (upd f i x j) := fun i x hx f hf j => by
      rw [upd_at]
      split
      · exact hx
      · exact hf j
    split at h
    · rename_i k235
      split at h
      · cases h
      · rename_i x hx
        have rx := valF_rg hl hb I3.1 (v4 (show opK (ls a).1 by unfold opK; omega)) hx
        split at h
        · rw [← Sum.inl.inj h]
          exact ⟨up _ _ rx _ I2, I3, by dsimp only; rw [List.length_cons, List.length_cons]; omega⟩
        split at h
        · rw [← Sum.inl.inj h]
          exact ⟨up _ _ rx _ I2, I3, by dsimp only; rw [List.length_cons, List.length_cons]; omega⟩
        · rw [← Sum.inl.inj h]
          exact ⟨up _ _ rx _ (up _ _ ((v9 (by omega)).mono (by omega)) _ I2), I3, by dsimp only; rw [List.length_cons, List.length_cons]; omega⟩
    · rw [← Sum.inl.inj h]
      exact ⟨I2, I3, by dsimp only; rw [List.length_cons, List.length_cons]; omega⟩
  · obtain ⟨v1, v2, v3, v4, v5, v6, v7, v8, v9⟩ := V a (by omega)
    rw [if_neg e, if_pos k8] at h
    rw [z]
    split at h
    · cases h
    · cases h
    · rename_i x y hx hy
      rw [← Sum.inl.inj h]
      exact ⟨I2, ⟨fun _ => ⟨valF_rg hl hb I3.1 (v4 (Or.inr (Or.inr (Or.inr k8)))) hx, valF_rg hl hb I3.1 (v5 k8).1 hy⟩, I3⟩, by dsimp only; rw [List.length_cons, List.length_cons, List.length_cons, List.length_cons]; omega⟩
theorem asR_img (V : ∀ t, t < n → lnV (ls t)) {w : Nat} {bl : Nat → Int32} (h : asR ls n = .inl (w, bl)) : IG bl ∧ w ≤ 248 := by
  unfold asR at h
  obtain ⟨G1, G2⟩ := as1_go V
  cases hr : as1 ls n with
  | inr e => rw [hr] at h; cases h
  | inl S =>
    rw [hr] at h G1
    dsimp only at h
    cases hr2 : as2 ls n S.1 S.2 with
    | inr e => rw [hr2] at h; cases h
    | inl S2 =>
      rw [hr2] at h
      cases h
      have L0 : LIV ((sk0 n, fun _ => -1) : skT × (Nat → Int32)) := ⟨fun _ _ => rfl, fun _ => Or.inl rfl⟩
      have LI : SKI ls n S.1 ∧ LIV S := go_inv (Inv := fun S => SKI ls n S.1 ∧ LIV S) (fun S S' J hl hst => ⟨(sk_inv V J.1 (st1_sk hst) hl).1, LIV.st V J.1 J.2 hl hst⟩) _ _ _ _ ⟨sk0_inv n, L0⟩ G1
      have s4 := LI.1.2.2.2.1
      have G3 := as2_go (lab := S.2) V S.1
      rw [hr2] at G3
      have X := go_inv (Inv := fun S' : s2T => SKI ls n S'.1 ∧ (∀ i, rg 65535 (S'.2.2 i)) ∧ ARG S'.1.1 S'.2.1 ∧ S'.2.1.length = S'.1.1.length) (fun S' S'' J hl hst => st2_img V LI.2.2 (by omega) J hl hst) _ _ _ _ ⟨sk0_inv n, fun _ => rg.of (k := 65535) (n := 0) (by omega) (by omega), (show ARG [(0, n, 0, 5)] [(0, 0)] from ⟨fun z => absurd rfl z, trivial⟩), rfl⟩ G3
      exact ⟨fun a _ => X.2.1 a, s4⟩
/-- what catches Wrong -/
theorem wr_xp {pc : Nat} {i : Nat} {er : Nat × Nat} {K : Nat → Option ax_R} (W : WR H er i h) : dx_xp (fun k : Nat => if k ∈ [28] then some (some pc) else if k ∈ [18, 0, 6, 7, 32, 33, 34, 35, 44, 45, 46] then some none else none) i h K = K pc := by
  obtain ⟨w1, w2, w3⟩ := W
  unfold dx_xp
  rw [if_neg (by omega), w2]
  rfl
theorem x_error (Z : PRE H n ls P iv) (hd : 92 ≤ d) : Ok (ax_c d 212 [.ref 400] H) (.inl (some (.int (erC (asR ls n))))) (Ext 1000 7000 H) := by
  obtain ⟨d, rfl, he⟩ := d_succ hd
  refine Ok.le m_X1_error ?_
  rw [nw_at]
  have X := x_assembly (d := d) Z (by omega)
  cases hr : asR ls n with
  | inl r =>
    rw [hr] at X
    have hw := (asR_img Z.V.2 (w := r.1) (bl := r.2) (by rw [hr])).2
    refine Ok.V X ?_
    rintro h' ⟨E, ⟨a, b, c, w1, x1⟩, -⟩
    rw [gI_at x1 rfl rfl, Option.bind_some, if_pos (show (0 : Int32) ≤ Int32.ofNat r.1 from (i_le (a := 0) (by omega) (by omega)).mpr (Nat.zero_le _))]
    exact Ok.ret E
  | inr er =>
    rw [hr] at X
    refine Ok.xV X fun i h' W => ?_
    rw [wr_xp W, if_pos rfl]
    refine Ok.le b_X1_error_20 ?_
    obtain ⟨w1, w2, w3⟩ := W
    have v297 : dx_vn [(28, 297)] (.ref i) h' = some 297 := vn_at w2
    have t297 : ax_c d 297 [.ref i] h' = some (.inl (some (.int (Int32.ofNat (100 * er.1 + er.2)))), h') := by
      obtain ⟨d, rfl, -⟩ := d_succ (k := 10) (by omega : 11 ≤ d)
      refine dx_app m_X19_told ?_
      rw [gI_at w2 rfl rfl, Option.bind_some, gI_at w2 rfl rfl, Option.bind_some, show 100 * Int32.ofNat er.1 = Int32.ofNat (100 * er.1) from i_mul 100 _, i_add]
    rw [v297, Option.bind_some, t297, cI_v]
    exact Ok.ret w3
theorem x_ise2 {a s : Nat} {x : Nat} (h4 : 400 ≤ a) (e : h.1 a = .inr (44, [.null])) (hd : 5 ≤ d) : ax_c d 4 [.ref a, .ref x, .ref s] h = some (.inl none, h) := by
  obtain ⟨d1, rfl, h1⟩ := d_succ hd
  refine dx_app (m_J10_init_2 rfl rfl) ?_
  obtain ⟨d2, rfl, h2⟩ := d_succ h1
  have e3 : ax_c (d2 + 1) 175 [.ref a, .ref x, .ref s] h = some (.inl none, h) := by
    refine dx_app (m_J8_init_4 rfl rfl) ?_
    obtain ⟨d3, rfl, h3⟩ := d_succ h2
    have e2 : ax_c (d3 + 1) 171 [.ref a, .ref x, .ref s] h = some (.inl none, h) := by
      refine dx_app (m_J7_init_4 rfl rfl) ?_
      obtain ⟨d4, rfl, h4'⟩ := d_succ h3
      have e1 : ax_c (d4 + 1) 167 [.ref a, .ref x, .ref s] h = some (.inl none, h) := by
        refine dx_app (m_J6_init_4 rfl rfl) ?_
        show (if a < 400 then none else (ax_gf _ (h.1 a)).bind _) = _
        rw [if_neg (by omega), e]
        rfl
      rw [e1, cV_v]
    rw [e2, cV_v]
  rw [e3, cV_v]
theorem x_assemble_no (Z : PRE H n ls P iv) {er : Nat × Nat} (hr : asR ls n = .inr er) (hd : 92 ≤ d) : OkX (ax_c d 244 [.ref 400] H) (XP 44 (Ext 1001 7006 H)) := by
  obtain ⟨d, rfl, he⟩ := d_succ hd
  refine OkX.le m_X1_assemble ?_
  rw [nw_at]
  have X := x_assembly (d := d) Z (by omega)
  rw [hr] at X
  refine OkX.xV X fun i h' W => ?_
  rw [wr_xp W, if_pos rfl]
  refine OkX.le b_X1_assemble_22 ?_
  obtain ⟨w1, w2, w3⟩ := W
  rw [nw_at, x_ise2 (by omega) (new_eq _ _) (by omega), cV_v]
  exact OkX.x0 (by omega) (new_eq _ _) rfl ⟨by omega, ⟨_, new_eq _ _⟩, (w3.tr (Ext.new (c := 44) (fs := [.null]) (w := 6))).up (by omega) (by omega)⟩
theorem x_assemble_yes (Z : PRE H n ls P iv) {w : Nat} {bl : Nat → Int32} (hr : asR ls n = .inl (w, bl)) (hd : 92 ≤ d) : Ok (ax_c d 244 [.ref 400] H) (.inl (some (.int (Int32.ofNat w)))) (fun h' => ∃ (ip : Nat) (f : Nat → Int32), GO h' (.ref ip) ∧ h'.1 ip = .inl (0, 256, .inl f) ∧ (∀ a, a < 256 → f a = bl a) ∧ 400 + H.2.1 ≤ ip ∧ ip < 400 + h'.2.1 ∧ (∀ q, q < 400 + H.2.1 → q ≠ 400 → h'.1 q = H.1 q) ∧ H.2.1 ≤ h'.2.1 ∧ H.2.2 ≤ h'.2.2 ∧ h'.2.1 ≤ H.2.1 + 1000 ∧ h'.2.2 ≤ H.2.2 + 7000) := by
  obtain ⟨d, rfl, he⟩ := d_succ hd
  have p4 : 400 < 400 + H.2.1 := by
    obtain ⟨-, -, mc, arr, cap, it, Q, A, c1, c2, c3, c4, c5, c6, c7, c8⟩ := Z
    have := (c6 401 c7).2
    omega
  refine Ok.le m_X1_assemble ?_
  rw [nw_at]
  have X := x_assembly (d := d) Z (by omega)
  rw [hr] at X
  refine Ok.V X ?_
  rintro h' ⟨E, ⟨a, b, c, w1, x1⟩, x2, f, x3, x4⟩
  obtain ⟨e1, e2, e3, e4, e5⟩ := E
  have Gh : h'.1 400 = _ := (e1 400 p4).trans Z.2.1
  have x1' : (ax_set h' 400 (.inr (19, [.ref 401, .ref 402, .ref 414, .ref 415, .ref 416, .ref (400 + H.2.1 + 5)]))).1 (400 + H.2.1) = _ := (set_ne _ (by omega)).trans x1
  rw [gA_r x1 rfl rfl, Option.bind_some, pF_aref Gh rfl (Nat.le_of_ble_eq_true rfl) (by omega), Option.bind_some, show ([.ref 401, .ref 402, .ref 414, .ref 415, .ref 416, iv] : List Value).set 5 (.ref (400 + H.2.1 + 5)) = [.ref 401, .ref 402, .ref 414, .ref 415, .ref 416, .ref (400 + H.2.1 + 5)] from rfl, gI_at x1' rfl rfl, Option.bind_some]
  exact Ok.ret ⟨400 + H.2.1 + 5, f, set_eq _, (set_ne _ (by omega)).trans x3, x4, by omega, by show 400 + H.2.1 + 5 < 400 + h'.2.1; omega, fun q hq hne => (set_ne _ hne).trans (e1 q hq), e2, e3, e4, e5⟩
end CES
