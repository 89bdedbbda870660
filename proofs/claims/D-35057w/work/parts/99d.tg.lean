/-! the twin goes through the lines: labels, values, macros -/
/- with lnD lnV lnN TLW skT frT FRK SKI MCK nxM wrdN plcN valF rg.nat TFr TSK TMC TFr.cong t_wordsOf t_nextOf t_isGone tnum tkind e5 opG i_rem -/
/-- a use begins, in the rows: k the place, x y its lines, u its number, m the macro, p q its arguments -/
def pshS (s : Nat → Nat → Int32) (k x y u m : Nat) (p q : Int32) : Nat → Nat → Int32 := tw_up (tw_up (tw_up (tw_up (tw_up (tw_up (tw_up (tw_up s 14 0 (Int32.ofNat k)) 8 k (Int32.ofNat x)) 9 k (Int32.ofNat y)) 10 k (Int32.ofNat u)) 11 k (Int32.ofNat m)) 12 k p) 13 k q) 17 0 (Int32.ofNat (u + 1))
section TGS
variable {n a t u m k d j x y us : Nat} {ls : Nat → lnD} {s s' : Nat → Nat → Int32} {h : ax_H} {R F : List frT} {mac : Nat → Option (Nat × Nat)} {i p q v w : Int32} {σ : skT}
theorem top_d (hs : s 14 0 = Int32.ofNat (k + 1) - 1) : s 14 0 = Int32.ofNat k := hs.trans (i_sub (a := k + 1) (b := 1) (by omega))
theorem opG.kd (g : opG p q) : ∃ e, e ≤ 3 ∧ p = Int32.ofNat e := by
  obtain ⟨e, -, e2, e3⟩ := (inI_val (lo := 0) (hi := 3) (by omega) (by omega)).mp g.1
  exact ⟨e, e2, e3⟩
theorem opG.l (g : opG p q) (h1 : p = 1) : rg 19 q := by
  have := g.2
  rw [if_pos h1] at this
  exact inI_rg (hi := 19) (by omega) this
theorem opG.wd (g : opG p q) (h1 : p ≠ 1) : rg 65535 q := by
  have := g.2
  rw [if_neg h1] at this
  exact inI_rg (hi := 65535) (by omega) this
theorem t_placeOf (hk : s 14 0 = Int32.ofNat R.length) (hR : R.length < 6) (hu : R ≠ [] → s 10 R.length = Int32.ofNat u ∧ u < 300) (hx : rg 19 q) (hd : 1 ≤ d) : ax_c d 398 [.ref 417, .int q] (tw_H h s) = some (.inl (some (.int (Int32.ofNat (plcN R u q)))), tw_H h s) ∧ plcN R u q < 1220 := by
  obtain ⟨d, rfl, -⟩ := d_succ hd
  obtain ⟨q1, q2⟩ := hx.nat
  unfold plcN
  by_cases c : nn q < 16
  · rw [if_pos (Or.inl c)]
    refine ⟨dx_app m_X3_placeOf ?_, by omega⟩
    rw [if_pos (by rw [q2]; exact (i_lt (b := 16) (by omega) (by omega)).mpr c), ← q2]
  have c' : ¬ q < 16 := by rw [q2]; exact fun z => c ((i_lt (b := 16) (by omega) (by omega)).mp z)
  by_cases e : R = []
  · rw [if_pos (Or.inr e)]
    refine ⟨dx_app m_X3_placeOf ?_, by omega⟩
    rw [if_neg c', tg_14, Option.bind_some, hk, e, if_neg (fun z => z rfl), ← q2]
  · rw [if_neg (fun z => z.elim c e)]
    obtain ⟨u1, u2⟩ := hu e
    refine ⟨dx_app m_X3_placeOf ?_, by omega⟩
    have l0 : 0 < R.length := List.length_pos_iff.mpr e
    rw [if_neg c', tg_14, Option.bind_some, hk, if_pos (fun z => by have := (i_eq (b := 0) (by omega) (by omega)).mp z; omega), tr_10, Option.bind_some, Option.bind_some, tl_10, ix_of rfl (show R.length < 6 by omega) (by omega), Option.bind_some, Option.bind_some, u1]
    have e1 : ((20 + 4 * Int32.ofNat u) + q) - 16 = Int32.ofNat (20 + 4 * u + nn q - 16) := by
      conv => lhs; rw [q2]
      rw [show 4 * Int32.ofNat u = Int32.ofNat (4 * u) from i_mul 4 u, show 20 + Int32.ofNat (4 * u) = Int32.ofNat (20 + 4 * u) from i_add 20 _, i_add]
      exact i_sub (b := 16) (by omega)
    rw [e1]
theorem t_value (g : opG p q) {lab : Nat → Int32} {b : Nat} {A : Int32 × Int32} (hk : s 14 0 = Int32.ofNat R.length) (hR : R.length < 6) (hu : R ≠ [] → s 10 R.length = Int32.ofNat u ∧ u < 300) (hA : R ≠ [] → s 12 R.length = A.1 ∧ s 13 R.length = A.2) (hl : ∀ i, i < 1220 → s 4 i = lab i) (hb : s 18 0 = Int32.ofNat b) (hd : 2 ≤ d) : ∃ s', ax_c d 397 [.ref 417, .int p, .int q] (tw_H h s) = some (.inl (some (.int (match valF lab b R u A p q with | .inl v => v | .inr _ => 0))), tw_H h s') ∧ (∀ f, f ≠ 19 → s' f = s f) ∧ s' 19 0 = (match valF lab b R u A p q with | .inl _ => 0 | .inr e => Int32.ofNat e) := by
  obtain ⟨d, rfl, he⟩ := d_succ hd
  have up : ∀ (x : Int32) f, f ≠ 19 → tw_up s 19 0 x f = s f := fun x f hf => by rw [tw_up_at, if_neg hf]
  have up2 : ∀ (x y : Int32) f, f ≠ 19 → tw_up (tw_up s 19 0 x) 19 0 y f = s f := fun x y f hf => by rw [tw_up_at, if_neg hf, tw_up_at, if_neg hf]
  have le := m_X3_value (d := d) (v0 := 417) (v1 := p) (v2 := q) (h := tw_H h s)
  rw [tp_19, Option.bind_some] at le
  unfold valF
  by_cases k1 : p = 1
  · rw [if_pos k1]
    obtain ⟨x1, x2⟩ := t_placeOf (h := h) (s := tw_up s 19 0 0) (u := u) (R := R) hk hR hu (g.l k1) he
    rw [if_neg (fun z => z k1), tr_4, Option.bind_some, tw_vn, Option.bind_some, x1, cI_v, tl_4, ix_of rfl x2 (by omega), Option.bind_some, Option.bind_some, show tw_up s 19 0 0 4 = s 4 from rfl, hl _ x2] at le
    by_cases z : lab (plcN R u q) = -1
    · rw [if_pos z]
      rw [if_neg (fun y => y z)] at le
      refine ⟨_, dx_app le (dx_app b_X3_value_33 ?_), up2 0 6, rfl⟩
      rw [tp_19, Option.bind_some, if_neg (fun y => y z)]
    · rw [if_neg z]
      rw [if_pos z] at le
      refine ⟨_, dx_app le (dx_app b_X3_value_33 ?_), up2 0 0, rfl⟩
      rw [tp_19, Option.bind_some, if_pos z]
      by_cases y : lab (plcN R u q) < 1000
      · rw [if_pos y, if_neg (fun w => by rw [Int32.lt_iff_toInt_lt] at y; rw [Int32.le_iff_toInt_le] at w; omega)]
      · rw [if_neg y, if_pos (by rw [Int32.lt_iff_toInt_lt] at y; rw [Int32.le_iff_toInt_le]; omega), tg_18, Option.bind_some, show tw_up (tw_up s 19 0 0) 19 0 0 18 0 = s 18 0 from rfl, hb]
  rw [if_neg k1]
  rw [if_pos k1] at le
  obtain ⟨e, e3, ek⟩ := g.kd
  by_cases k0 : p = 0
  · rw [if_pos k0]
    rw [if_neg (by rw [k0]; decide)] at le
    exact ⟨_, dx_app le rfl, up 0, rfl⟩
  rw [if_neg k0]
  have e0 : e ≠ 0 := fun z => k0 (by rw [ek, z]; rfl)
  have e1 : e ≠ 1 := fun z => k1 (by rw [ek, z]; rfl)
  rw [if_pos (by rw [ek]; exact (i_le (a := 2) (by omega) (by omega)).mpr (by omega)), tg_14, Option.bind_some, show tw_up s 19 0 0 14 0 = s 14 0 from rfl, hk] at le
  by_cases eR : R = []
  · rw [if_pos eR]
    rw [eR, if_neg (fun z => z rfl)] at le
    refine ⟨_, dx_app le (dx_app b_X3_value_89 ?_), up2 0 7, rfl⟩
    rw [tp_19, Option.bind_some, tg_14, Option.bind_some, show tw_up (tw_up s 19 0 0) 19 0 7 14 0 = s 14 0 from rfl, hk, eR, if_neg (fun z => z rfl)]
  · rw [if_neg eR]
    have l0 : 0 < R.length := List.length_pos_iff.mpr eR
    have ne0 : ¬ Int32.ofNat R.length = 0 := fun z => by have := (i_eq (b := 0) (by omega) (by omega)).mp z; omega
    obtain ⟨a1, a2⟩ := hA eR
    rw [if_pos ne0] at le
    refine ⟨_, dx_app le (dx_app b_X3_value_89 ?_), up2 0 0, rfl⟩
    rw [tp_19, Option.bind_some, tg_14, Option.bind_some, show tw_up (tw_up s 19 0 0) 19 0 0 14 0 = s 14 0 from rfl, hk, if_pos ne0]
    by_cases k2 : p = 2
    · rw [if_neg (fun z => z k2), if_pos k2, tr_12, Option.bind_some, Option.bind_some, tl_12, ix_of rfl hR (by omega), Option.bind_some, Option.bind_some, show tw_up (tw_up s 19 0 0) 19 0 0 12 = s 12 from rfl, a1]
    · rw [if_pos k2, if_neg k2, tr_13, Option.bind_some, Option.bind_some, tl_13, ix_of rfl hR (by omega), Option.bind_some, Option.bind_some, show tw_up (tw_up s 19 0 0) 19 0 0 13 = s 13 from rfl, a2]
theorem t_setsLabel (T : TLW n ls s) (ha : a < n) {lab : Nat → Int32} {c z : Nat} (hc : c < 2) (hk : s 14 0 = Int32.ofNat R.length) (hR : R.length < 6) (hu : R ≠ [] → s 10 R.length = Int32.ofNat u ∧ u < 300) (hx : rg 19 (ls a).2.1) (hl : ∀ i, i < 1220 → s 4 i = lab i) (h15 : s 15 0 = Int32.ofNat c) (h5 : s 5 c = Int32.ofNat z) (hd : 2 ≤ d) : (lab (plcN R u (ls a).2.1) ≠ -1 → ax_c d 401 [.ref 417, .int (Int32.ofNat a)] (tw_H h s) = some (.inl (some (.int (Int32.ofNat (200 + a)))), tw_H h s)) ∧ (lab (plcN R u (ls a).2.1) = -1 → ax_c d 401 [.ref 417, .int (Int32.ofNat a)] (tw_H h s) = some (.inl (some (.int 0)), tw_H h (tw_up s 4 (plcN R u (ls a).2.1) (1000 * Int32.ofNat c + Int32.ofNat z)))) := by
  obtain ⟨d, rfl, he⟩ := d_succ hd
  obtain ⟨x1, x2⟩ := t_placeOf (h := h) (s := s) (u := u) (R := R) hk hR hu hx he
  have le := m_X3_setsLabel (d := d) (v0 := 417) (v1 := Int32.ofNat a) (h := tw_H h s)
  rw [tr_3, Option.bind_some, tnum (j := 0) T ha (by omega) (e50 a), Option.bind_some, tw_vn, Option.bind_some, show lnN (ls a) 0 = (ls a).2.1 from rfl, x1, cI_v, tr_4, Option.bind_some, tl_4, ix_of rfl x2 (by omega), Option.bind_some, Option.bind_some, hl _ x2] at le
  constructor
  · intro w
    rw [if_neg w] at le
    exact dx_app le (by rw [show 200 + Int32.ofNat a = Int32.ofNat (200 + a) from i_add 200 a])
  · intro w
    rw [if_pos w, Option.bind_some, tg_15, Option.bind_some, h15, tr_5, Option.bind_some, Option.bind_some, tl_5, ix_of rfl hc (by omega), Option.bind_some, Option.bind_some, h5, ts_4, ix_of rfl x2 (by omega), Option.bind_some, Option.bind_some] at le
    exact dx_app le rfl
theorem t_puts {c z b : Nat} (hc : c < 2) (h15 : s 15 0 = Int32.ofNat c) (h5 : s 5 c = Int32.ofNat z) (hb : s 18 0 = Int32.ofNat b) (hz : (if c = 0 then 8 else b) + z < 256) (hd : 1 ≤ d) : ax_c d 400 [.ref 417, .int v] (tw_H h s) = some (.inl none, tw_H h (tw_up (tw_up s 20 ((if c = 0 then 8 else b) + z) v) 5 c (Int32.ofNat (z + 1)))) := by
  obtain ⟨d, rfl, he⟩ := d_succ hd
  have le := m_X3_puts (d := d) (v0 := 417) (v1 := v) (h := tw_H h s)
  rw [tr_20, Option.bind_some, tg_15, Option.bind_some, h15] at le
  have fin : ∀ b' : Nat, b' + z < 256 → B_X3_puts_20 (ax_c d) (.ref 430) (Int32.ofNat b') 417 v (tw_H h s) = some (.inl none, tw_H h (tw_up (tw_up s 20 (b' + z) v) 5 c (Int32.ofNat (z + 1)))) := by
    intro b' hb'
    refine dx_app (b_X3_puts_20 rfl) ?_
    rw [tr_5, Option.bind_some, tg_15, Option.bind_some, h15, tl_5, ix_of rfl hc (by omega), Option.bind_some, Option.bind_some, h5, i_add, ts_20, ix_of rfl hb' (by omega), Option.bind_some, Option.bind_some, tr_5, Option.bind_some, tg_15, Option.bind_some, show tw_up s 20 (b' + z) v 15 0 = s 15 0 from rfl, h15, tl_5, ix_of rfl hc (by omega), Option.bind_some, Option.bind_some, show tw_up s 20 (b' + z) v 5 = s 5 from rfl, h5, show Int32.ofNat z + 1 = Int32.ofNat (z + 1) from i_add z 1, ts_5, ix_of rfl hc (by omega), Option.bind_some, Option.bind_some]
  by_cases c0 : c = 0
  · rw [if_pos c0] at hz ⊢
    rw [c0, if_neg (fun z => z rfl)] at le
    exact dx_app le (fin 8 hz)
  · rw [if_neg c0] at hz ⊢
    rw [if_pos (show ¬ Int32.ofNat c = 0 from fun z => c0 ((i_eq (b := 0) (by omega) (by omega)).mp z)), tg_18, Option.bind_some, hb] at le
    exact dx_app le (fin b hz)
theorem t_begins (T : TLW n ls s) (V : ∀ t, t < n → lnV (ls t)) (ha : a < n) (M : TMC mac s) (hk : s 14 0 = Int32.ofNat R.length) (hR : R.length < 6) (h6 : (ls a).1 = 6) (hd : 2 ≤ d) : (mac (nn (ls a).2.1) ≠ none → (∃ x y, mac (nn (ls a).2.1) = some (x, y) ∧ x < 200) → ax_c d 393 [.ref 417, .int (Int32.ofNat a)] (tw_H h s) = some (.inl (some (.int (Int32.ofNat (300 + a)))), tw_H h s)) ∧ (mac (nn (ls a).2.1) = none → (nxM ls (n - (a + 1)) (a + 1) = none → ax_c d 393 [.ref 417, .int (Int32.ofNat a)] (tw_H h s) = some (.inl (some (.int (Int32.ofNat (400 + a)))), tw_H h s)) ∧ ∀ e, nxM ls (n - (a + 1)) (a + 1) = some e → ((ls e).1 = 6 → ax_c d 393 [.ref 417, .int (Int32.ofNat a)] (tw_H h s) = some (.inl (some (.int (Int32.ofNat (400 + e)))), tw_H h s)) ∧ ((ls e).1 ≠ 6 → ax_c d 393 [.ref 417, .int (Int32.ofNat a)] (tw_H h s) = some (.inl (some (.int 0)), tw_H h (tw_up (tw_up (tw_up s 6 (nn (ls a).2.1) (Int32.ofNat (a + 1))) 7 (nn (ls a).2.1) (Int32.ofNat e)) 8 R.length (Int32.ofNat (e + 1)))))) := by
  obtain ⟨d, rfl, he⟩ := d_succ hd
  have V' := V a ha
  obtain ⟨m4, me⟩ := (V'.2.2.2.2.2.2.2.1 h6).nat
  obtain ⟨M1, M2⟩ := M (nn (ls a).2.1) (by omega)
  have n1 := T.2.1
  have le := m_X3_begins (d := d) (v0 := 417) (v1 := Int32.ofNat a) (h := tw_H h s)
  rw [tr_3, Option.bind_some, tnum (j := 0) T ha (by omega) (e50 a), Option.bind_some, tr_6, Option.bind_some, show lnN (ls a) 0 = (ls a).2.1 from rfl, tl_6, ix_of me (show nn (ls a).2.1 < 5 by omega) (by omega), Option.bind_some, Option.bind_some] at le
  refine ⟨fun _ hm => ?_, fun hm => ⟨fun hx => ?_, fun e hx => ⟨fun e6 => ?_, fun e6 => ?_⟩⟩⟩
  · obtain ⟨x, y, hm, hx⟩ := hm
    rw [(M2 x y hm).1, if_neg (fun z => by
      have z2 := congrArg Int32.toInt z
      rw [i_toInt (by omega)] at z2
      have : (-1 : Int32).toInt = -1 := rfl
      omega)] at le
    exact dx_app le (by rw [show 300 + Int32.ofNat a = Int32.ofNat (300 + a) from i_add 300 a])
  all_goals rw [M1 hm, if_pos rfl, tw_vn, Option.bind_some, t_nextOf T V ha he, hx, cI_v] at le
  · dsimp only at le
    rw [if_pos rfl] at le
    refine dx_app le (dx_app b_X3_begins_47 ?_)
    rw [if_neg (fun z => z rfl), show 400 + Int32.ofNat a = Int32.ofNat (400 + a) from i_add 400 a]
  all_goals
    obtain ⟨y1, y2, y3, y4⟩ := nxM_some _ _ _ hx
    have ne1 : ¬ Int32.ofNat e = -1 := fun z => by
      have z2 := congrArg Int32.toInt z
      rw [i_toInt (by omega)] at z2
      have : (-1 : Int32).toInt = -1 := rfl
      omega
    obtain ⟨c0, c1, c2, c3, c4, c5, c6, c7, c8⟩ := kqs _ (V e (by omega)).1
    dsimp only at le
    rw [if_neg ne1, tr_2, Option.bind_some, tkind T (by omega), Option.bind_some] at le
  · rw [if_neg (fun z => z (c6.mpr e6))] at le
    refine dx_app le (dx_app b_X3_begins_47 ?_)
    rw [if_pos ne1, show 400 + Int32.ofNat e = Int32.ofNat (400 + e) from i_add 400 e]
  · have i6 := ix_of me (show nn (ls a).2.1 < 5 by omega) (by omega)
    rw [if_pos (fun z => e6 (c6.mp z)), tr_6, Option.bind_some, ts_6, i6, Option.bind_some, Option.bind_some, tr_7, Option.bind_some, ts_7, i6, Option.bind_some, Option.bind_some, tr_8, Option.bind_some, tg_14, Option.bind_some, show ∀ c e f g z, tw_up (tw_up s 6 c e) 7 f g 14 z = s 14 z from fun _ _ _ _ _ => rfl, hk, ts_8, ix_of rfl hR (by omega), Option.bind_some, Option.bind_some, show Int32.ofNat a + 1 = Int32.ofNat (a + 1) from i_add a 1, show Int32.ofNat e + 1 = Int32.ofNat (e + 1) from i_add e 1] at le
    exact dx_app le rfl
/-- a use begins -/
theorem t_push134 (M : TMC mac s) (hm : m < 5) (hx : mac m = some (x, y)) (hk : s 14 0 = Int32.ofNat k) (hk6 : k + 1 < 6) (hu : s 17 0 = Int32.ofNat us) (hd : 1 ≤ d) : B_X3_usesMacro_134 (ax_c d) i 417 w (Int32.ofNat m) p q (tw_H h s) = some (.inl (some (.int (if i = 0 then 0 else 100 * i + w))), tw_H h (pshS s (k + 1) x y us m p q)) := by
  refine dx_app b_X3_usesMacro_134 ?_
  obtain ⟨m1, m2⟩ := (M m hm).2 x y hx
  have im : ix 5 (Int32.ofNat m) = some m := ix_of rfl hm (by omega)
  have ik : ix 6 (Int32.ofNat (k + 1)) = some (k + 1) := ix_of rfl hk6 (by omega)
  rw [tg_14, Option.bind_some, hk, show Int32.ofNat k + 1 = Int32.ofNat (k + 1) from i_add k 1, tp_14, Option.bind_some, tr_8, Option.bind_some, tg_14, Option.bind_some, show ∀ z, tw_up s 14 0 z 14 0 = z from fun _ => rfl, tr_6, Option.bind_some, tl_6, im, Option.bind_some, Option.bind_some, show ∀ z, tw_up s 14 0 z 6 = s 6 from fun _ => rfl, m1, ts_8, ik, Option.bind_some, Option.bind_some]
  generalize e1 : tw_up (tw_up s 14 0 (Int32.ofNat (k + 1))) 8 (k + 1) (Int32.ofNat x) = s1
  have f14 : s1 14 0 = Int32.ofNat (k + 1) := by rw [← e1]; rfl
  have f7 : s1 7 m = Int32.ofNat y := by rw [← e1]; exact m2
  have f17 : s1 17 0 = Int32.ofNat us := by rw [← e1]; exact hu
  rw [tr_9, Option.bind_some, tg_14, Option.bind_some, f14, tr_7, Option.bind_some, tl_7, im, Option.bind_some, Option.bind_some, f7, ts_9, ik, Option.bind_some, Option.bind_some, tr_10, Option.bind_some, tg_14, Option.bind_some, show ∀ a b z, tw_up s1 9 a z 14 b = s1 14 b from fun _ _ _ => rfl, f14, tg_17, Option.bind_some, show ∀ a b z, tw_up s1 9 a z 17 b = s1 17 b from fun _ _ _ => rfl, f17, ts_10, ik, Option.bind_some, Option.bind_some]
  generalize e2 : tw_up (tw_up s1 9 (k + 1) (Int32.ofNat y)) 10 (k + 1) (Int32.ofNat us) = s2
  have g14 : s2 14 0 = Int32.ofNat (k + 1) := by rw [← e2]; exact f14
  have g17 : s2 17 0 = Int32.ofNat us := by rw [← e2]; exact f17
  rw [tr_11, Option.bind_some, tg_14, Option.bind_some, g14, ts_11, ik, Option.bind_some, Option.bind_some, tr_12, Option.bind_some, tg_14, Option.bind_some, show ∀ a b z, tw_up s2 11 a z 14 b = s2 14 b from fun _ _ _ => rfl, g14, ts_12, ik, Option.bind_some, Option.bind_some, tr_13, Option.bind_some, tg_14, Option.bind_some, show ∀ a b z c w, tw_up (tw_up s2 11 a z) 12 c w 14 b = s2 14 b from fun _ _ _ _ _ => rfl, g14, ts_13, ik, Option.bind_some, Option.bind_some, tg_17, Option.bind_some, show ∀ a b z c w e v, tw_up (tw_up (tw_up s2 11 a z) 12 c w) 13 e v 17 b = s2 17 b from fun _ _ _ _ _ _ _ => rfl, g17, show Int32.ofNat us + 1 = Int32.ofNat (us + 1) from i_add us 1, tp_17, Option.bind_some]
  rw [show tw_up (tw_up (tw_up (tw_up s2 11 (k + 1) (Int32.ofNat m)) 12 (k + 1) p) 13 (k + 1) q) 17 0 (Int32.ofNat (us + 1)) = pshS s (k + 1) x y us m p q from by rw [← e2, ← e1]; rfl]
  by_cases z : i = 0
  · rw [if_neg (fun y => y z), if_pos z]
  · rw [if_pos z, if_neg z]
end TGS
