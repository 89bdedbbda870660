/-! the gym's lines -/
/- with AL.mono AL.ne al_size al_get al_addB al_clear OLD OLD.mono GO GO.g XP XP.x0 Ext x_in x_inX x_must x_mustX FrP WS WS.i pF_oref -/
/-- a line: its kind, five numbers -/
abbrev lnD : Type := Nat × Int32 × Int32 × Int32 × Int32 × Int32
def lnE (l : lnD) (q r : Nat) (o x y : Int32) : ax_C := if l.1 = 0 then .inr (39, [.int l.2.1, .ref 400]) else if l.1 = 1 then .inr (40, [.int l.2.1, .ref 400]) else if l.1 = 2 then .inr (42, [.int o, .int x, .int y, .ref q, .ref 400]) else if l.1 = 3 then .inr (43, [.ref q, .ref 400]) else if l.1 = 4 then .inr (20, [.int l.2.1, .ref 400]) else if l.1 = 5 then .inr (21, [.int l.2.2.2.1, .ref q, .ref 400]) else if l.1 = 6 then .inr (22, [.int l.2.1, .ref 400]) else if l.1 = 7 then .inr (23, [.ref 400]) else .inr (24, [.int l.2.2.2.2.2, .ref q, .ref r, .ref 400])
def opK (k : Nat) : Prop := k = 2 ∨ k = 3 ∨ k = 5 ∨ k = 8
/-- an operand that is as it may be -/
def opG (k n : Int32) : Prop := inI k 0 3 ≠ 0 ∧ inI n 0 (if k = 1 then 19 else 65535) ≠ 0
/-- a line as it lies -/
def LnC (Q : Nat → Prop) (p : Nat) (l : lnD) (H : ax_H) : Prop := ∃ (q r : Nat) (o x y : Int32), H.1 p = lnE l q r o x y ∧ Q p ∧ (opK l.1 → Q q ∧ H.1 q = .inr (41, [.int l.2.1, .int l.2.2.1])) ∧ (l.1 = 8 → Q r ∧ H.1 r = .inr (41, [.int l.2.2.2.1, .int l.2.2.2.2.1])) ∧ (l.1 = 2 → ((dx_shl o 4) ||| (dx_shl x 2)) ||| y = l.2.2.2.1)
def lnV (l : lnD) : Prop := l.1 ≤ 8 ∧ (l.1 = 0 → rg 1 l.2.1) ∧ (l.1 = 1 → rg 19 l.2.1) ∧ (opK l.1 → opG l.2.1 l.2.2.1) ∧ (l.1 = 8 → opG l.2.2.2.1 l.2.2.2.2.1 ∧ rg 4 l.2.2.2.2.2) ∧ (l.1 = 4 → rg 32 l.2.1) ∧ (l.1 = 5 → rg 1 l.2.2.2.1) ∧ (l.1 = 6 → rg 4 l.2.1) ∧ (l.1 = 2 → rg 511 l.2.2.2.1)
/-- the gym's lines -/
def CLW (n : Nat) (ls : Nat → lnD) (P : Nat → Prop) (H : ax_H) : Prop := ∃ (mc : Int32) (arr cap : Nat) (it : Nat → Nat) (Q : Nat → Prop), AL H 401 mc arr cap n it ∧ (n ≤ 100 ∧ cap ≤ 210) ∧ (∀ t, t < n → LnC Q (it t) (ls t) H ∧ lnV (ls t)) ∧ (∀ r, Q r → P r) ∧ ¬ Q 401 ∧ ¬ Q arr ∧ (∀ r, P r → 401 ≤ r ∧ r < 400 + H.2.1) ∧ P 401 ∧ (arr < 400 ∨ P arr)
section SRS
variable {n p a w : Nat} {ls : Nat → lnD} {l : lnD} {P Q Q' : Nat → Prop} {H H' h h0 : ax_H} {k x y z : Int32} {d : Nat} {iv : Value}
theorem Ext.tr {a' w' : Nat} (A : Ext a w H h) (B : Ext a' w' h H') : Ext (a + a') (w + w') H H' := by
  obtain ⟨a1, a2, a3, a4, a5⟩ := A
  obtain ⟨b1, b2, b3, b4, b5⟩ := B
  exact ⟨fun q hq => (b1 q (by omega)).trans (a1 q hq), by omega, by omega, by omega, by omega⟩
theorem Ext.up {a' w' : Nat} (A : Ext a w H h) (ha : a ≤ a') (hw : w ≤ w') : Ext a' w' H h := by
  obtain ⟨a1, a2, a3, a4, a5⟩ := A
  exact ⟨a1, a2, a3, by omega, by omega⟩
theorem LnC.mono (L : LnC Q p l H) (e : ∀ r, Q r → Q' r ∧ H'.1 r = H.1 r) : LnC Q' p l H' := by
  obtain ⟨q, r, o, x, y, l1, l2, l3, l4, l5⟩ := L
  exact ⟨q, r, o, x, y, (e p l2).2.trans l1, (e p l2).1, fun z => ⟨(e q (l3 z).1).1, (e q (l3 z).1).2.trans (l3 z).2⟩, fun z => ⟨(e r (l4 z).1).1, (e r (l4 z).1).2.trans (l4 z).2⟩, l5⟩
theorem lnE_k (l : lnD) (q r : Nat) (o x y : Int32) : ∃ k fs, lnE l q r o x y = .inr (k, fs) ∧ k ∈ ax_objs ∧ k ≠ 4 := by
  unfold lnE
  split
  · exact ⟨_, _, rfl, by decide, by decide⟩
  split
  · exact ⟨_, _, rfl, by decide, by decide⟩
  split
  · exact ⟨_, _, rfl, by decide, by decide⟩
  split
  · exact ⟨_, _, rfl, by decide, by decide⟩
  split
  · exact ⟨_, _, rfl, by decide, by decide⟩
  split
  · exact ⟨_, _, rfl, by decide, by decide⟩
  split
  · exact ⟨_, _, rfl, by decide, by decide⟩
  split
  · exact ⟨_, _, rfl, by decide, by decide⟩
  · exact ⟨_, _, rfl, by decide, by decide⟩
theorem x_operand_bad (hb : ¬ opG k x) (hd : 2 ≤ d) : OkX (ax_c d 237 [.int k, .int x] H) (XP 18 (Ext 2 8 H)) := by
  obtain ⟨d, rfl, he⟩ := d_succ hd
  refine OkX.le m_X1_operand ?_
  by_cases e1 : inI k 0 3 = 0
  · exact OkX.xI (x_inX he e1) fun i h' X => XP.x0 rfl ⟨X.1, X.2.1, X.2.2.up (by omega) (by omega)⟩
  · have e2 : inI x 0 (if k = 1 then 19 else 65535) = 0 := by
      rcases Classical.em (inI x 0 (if k = 1 then 19 else 65535) = 0) with z | z
      · exact z
      · exact absurd ⟨e1, z⟩ hb
    rw [x_in he e1, cI_v, nw_at]
    by_cases e3 : k = 1
    · rw [if_pos e3] at e2
      rw [if_neg (fun z => z e3)]
      exact OkX.xI (x_inX he e2) fun i h' X => XP.x0 rfl ⟨X.1, X.2.1, (Ext.new.tr X.2.2).up (by omega) (by omega)⟩
    · rw [if_neg e3] at e2
      rw [if_pos e3]
      exact OkX.xI (x_inX he e2) fun i h' X => XP.x0 rfl ⟨X.1, X.2.1, (Ext.new.tr X.2.2).up (by omega) (by omega)⟩
theorem x_operand (hb : opG k x) (hd : 2 ≤ d) : Ok (ax_c d 237 [.int k, .int x] H) (.inl (some (.ref (400 + H.2.1)))) (fun H' => H'.1 (400 + H.2.1) = .inr (41, [.int k, .int x]) ∧ Ext 1 2 H H' ∧ H'.2.1 = H.2.1 + 1) := by
  obtain ⟨d, rfl, he⟩ := d_succ hd
  refine Ok.le m_X1_operand ?_
  obtain ⟨e1, e2⟩ := hb
  rw [x_in he e1, cI_v, nw_at]
  have init : Ok (ax_c d 499 [.ref (400 + H.2.1), .int k, .int x] (ax_new H (.inr (41, [.int 0, .int 0])) 2)) (.inl none) (WS (400 + H.2.1) 41 [.int k, .int x] (ax_new H (.inr (41, [.int 0, .int 0])) 2)) := by
    obtain ⟨d, rfl, -⟩ := d_succ he
    refine Ok.le m_X7_init ?_
    have W0 : WS (400 + H.2.1) 41 [.int 0, .int 0] (ax_new H (.inr (41, [.int 0, .int 0])) 2) (ax_new H (.inr (41, [.int 0, .int 0])) 2) := ⟨new_eq _ _, fun _ _ => rfl, rfl⟩
    obtain ⟨h1, e1, W1⟩ := W0.i (j := 0) (Nat.le_of_ble_eq_true rfl) (by omega) k
    obtain ⟨h2, e2, W2⟩ := W1.i (j := 1) (Nat.le_of_ble_eq_true rfl) (by omega) x
    rw [nn_ref, e1, Option.bind_some, e2, Option.bind_some]
    exact Ok.ret W2
  have fin : ∀ h, WS (400 + H.2.1) 41 [.int k, .int x] (ax_new H (.inr (41, [.int 0, .int 0])) 2) h → h.1 (400 + H.2.1) = .inr (41, [.int k, .int x]) ∧ Ext 1 2 H h ∧ h.2.1 = H.2.1 + 1 := by
    rintro h ⟨w1, w2, w3⟩
    have s1 : h.2.1 = H.2.1 + 1 := by rw [w3]; rfl
    have s2 : h.2.2 = H.2.2 + 2 := by rw [w3]; rfl
    exact ⟨w1, ⟨fun q hq => (w2 q (by omega)).trans (new_ne _ _ (by omega)), by omega, by omega, by omega, by omega⟩, s1⟩
  by_cases e3 : k = 1
  · rw [if_pos e3] at e2
    rw [if_neg (fun z => z e3), x_in he e2, cI_v]
    exact Ok.V init fun h hh => Ok.ret (fin h hh)
  · rw [if_neg e3] at e2
    rw [if_pos e3, x_in he e2, cI_v]
    exact Ok.V init fun h hh => Ok.ret (fin h hh)
/-- adding a line that is just made -/
theorem x_addT (C : CLW n ls P H) (G : GO H iv) (E : Ext a w H h) (L : LnC (fun r => 400 + H.2.1 ≤ r ∧ r < 400 + h.2.1) p l h) (V : lnV l) (hd : 8 ≤ d) : (n = 100 → OkX ((dx_vn [(19, 233)] (.ref 400) h).bind fun k => dx_cI (ax_c d k [.ref 400, .ref p] h) (fun x7 h6 => some (.inl (some (.int x7)), h6)) dx_x0) (XP 0 (Ext (a + 1) (w + 6) H))) ∧ (n < 100 → Ok ((dx_vn [(19, 233)] (.ref 400) h).bind fun k => dx_cI (ax_c d k [.ref 400, .ref p] h) (fun x7 h6 => some (.inl (some (.int x7)), h6)) dx_x0) (.inl (some (.int (Int32.ofNat (n + 1))))) (fun H' => CLW (n + 1) (fun t => if t = n then l else ls t) (xR P H H') H' ∧ FrP P (a + 1) (w + 210) H H')) := by
  obtain ⟨d, rfl, he⟩ := d_succ hd
  obtain ⟨mc, arr, cap, it, Q, A, c1, c2, c3, c4, c5, c6, c7, c8⟩ := C
  obtain ⟨e1, e2, e3, e4, e5⟩ := id E
  have p401 := (c6 401 c7).2
  have arlt : arr < 400 + H.2.1 := A.2.2.2.2.2.2.2.2
  have Gh : GO h iv := (e1 400 (by omega)).trans G
  have Ah : AL h 401 mc arr cap n it := A.mono (e1 401 p401) (e1 arr arlt) e2
  have v233 : dx_vn [(19, 233)] (.ref 400) h = some 233 := vn_at Gh
  have g0 : dx_gA [(19, 0)] (.ref 400) h = some (.ref 401) := gA_r Gh rfl rfl
  have v59 : dx_vn [(4, 59)] (.ref 401) h = some 59 := vn_at Ah.1
  rw [v233, Option.bind_some]
  constructor
  · intro hn
    refine OkX.xI (P := XP 0 (Ext (a + 1) (w + 6) H)) ?_ fun i h' X => X.x0 rfl
    refine OkX.le (m_X1_add rfl) ?_
    rw [g0, Option.bind_some, v59, Option.bind_some, al_size (by omega) Ah, cI_v, hn, if_pos (by decide)]
    refine OkX.le (b_X1_add_19 rfl) ?_
    exact OkX.xV (x_mustX (by omega)) fun i h' X => XP.x0 rfl ⟨X.1, X.2.1, E.tr X.2.2⟩
  · intro hn
    refine Ok.I (P := fun H' => CLW (n + 1) (fun t => if t = n then l else ls t) (xR P H H') H' ∧ FrP P (a + 1) (w + 210) H H') ?_ fun h' X => Ok.ret X
    refine Ok.le (m_X1_add rfl) ?_
    rw [g0, Option.bind_some, v59, Option.bind_some, al_size (by omega) Ah, cI_v, if_neg (show ¬ (100 : Int32) ≤ Int32.ofNat n from i_ge_not (n := 100) hn (by omega))]
    refine Ok.le (b_X1_add_19 rfl) ?_
    have v63 : dx_vn [(4, 63)] (.ref 401) h = some 63 := vn_at Ah.1
    rw [x_must (by omega) (by decide), cV_v, g0, Option.bind_some, v63, Option.bind_some]
    obtain ⟨q, r, o, x, y, l1, l2, l3⟩ := id L
    obtain ⟨kk, fs, k1, k2, k3⟩ := lnE_k l q r o x y
    refine Ok.I (al_addB (B := 210) (by omega) (by omega) (by omega) Ah (l1.trans k1) k2 (by omega) c1.2 l2.2 (by omega)) ?_
    rintro H5 ⟨arr', cap', A5, x1, x2, ⟨u1, u2, u3, u4, u5⟩, -⟩
    have n5 : ∀ r, r < 400 + h.2.1 → r ≠ 401 → (r ≠ arr ∨ arr < 400) → H5.1 r = h.1 r := fun r hr h1 h2 => u5 r hr (fun y => by
      rcases y with y | ⟨y, y2⟩
      · exact h1 y
      · rcases h2 with h2 | h2
        · exact h2 y
        · omega)
    have g5 : dx_gA [(19, 0)] (.ref 400) H5 = some (.ref 401) := by
      refine gA_r ((n5 400 (by omega) (by omega) ?_).trans Gh) rfl rfl
      rcases c8 with z | z
      · exact Or.inr z
      · exact Or.inl fun y => by have := c6 arr z; omega
    have v59' : dx_vn [(4, 59)] (.ref 401) H5 = some 59 := vn_at A5.1
    rw [g5, Option.bind_some, v59', Option.bind_some, al_size (by omega) A5, cI_v]
    have up : ∀ r, P r → xR P H H5 r := fun r hr => ⟨by have := (c6 r hr).2; omega, Or.inl hr⟩
    have ar5 := A5.2.2.2.2.2.2.2.2
    refine Ok.ret ⟨⟨mc + 1, arr', cap', _, (fun r => Q r ∨ (400 + H.2.1 ≤ r ∧ r < 400 + h.2.1)), A5, ⟨by omega, x1⟩, fun t ht => ?_, fun r hr => ?_, ?_, ?_, fun r hr => ⟨?_, hr.1⟩, up 401 c7, ?_⟩, ⟨by omega, by omega, by omega, by omega, fun r hr hp => ?_⟩⟩
    · by_cases e : t = n
      · dsimp only
        rw [if_pos e, if_pos e]
        exact ⟨L.mono fun r hr => ⟨Or.inr hr, n5 r (by omega) (by omega) (Or.inl (by omega))⟩, V⟩
      · dsimp only
        rw [if_neg e, if_neg e]
        obtain ⟨b1, b2⟩ := c2 t (by omega)
        refine ⟨b1.mono fun r hr => ⟨Or.inl hr, ?_⟩, b2⟩
        have pr := (c6 r (c3 r hr)).2
        rw [n5 r (by omega) (fun z => c4 (by rw [← z]; exact hr)) (Or.inl fun z => c5 (by rw [← z]; exact hr))]
        exact e1 r pr
    · rcases hr with hr | hr
      · exact up r (c3 r hr)
      · exact ⟨by omega, Or.inr hr.1⟩
    · rintro (z | z)
      · exact c4 z
      · omega
    · rintro (z | z)
      · rcases x2 with y | y
        · rw [y] at z; exact c5 z
        · have := (c6 _ (c3 _ z)).2; omega
      · rcases x2 with y | y <;> omega
    · rcases hr.2 with z | z
      · exact (c6 r z).1
      · omega
    · rcases x2 with z | z
      · rw [z]; exact c8.imp id (up arr)
      · exact Or.inr ⟨ar5, Or.inr (by omega)⟩
    · rw [n5 r (by omega) (fun z => hp (by rw [z]; exact c7)) (by
        rcases c8 with z | z
        · exact Or.inr z
        · exact Or.inl fun y => hp (by rw [y]; exact z))]
      exact e1 r hr
theorem x_lines (C : CLW n ls P H) (G : GO H iv) (hd : 2 ≤ d) : ax_c d 211 [.ref 400] H = some (.inl (some (.int (Int32.ofNat n))), H) := by
  obtain ⟨d, rfl, he⟩ := d_succ hd
  obtain ⟨mc, arr, cap, it, Q, A, -⟩ := C
  refine dx_app m_X1_lines ?_
  have g0 : dx_gA [(19, 0)] (.ref 400) H = some (.ref 401) := gA_r G rfl rfl
  have v59 : dx_vn [(4, 59)] (.ref 401) H = some 59 := vn_at A.1
  rw [g0, Option.bind_some, v59, Option.bind_some, al_size he A, cI_v]
theorem x_clear (C : CLW n ls P H) (G : GO H iv) (hd : 2 ≤ d) : Ok (ax_c d 210 [.ref 400] H) (.inl (some (.int (Int32.ofNat n)))) (fun H' => CLW 0 ls P H' ∧ FrP P 0 0 H H') := by
  obtain ⟨d, rfl, he⟩ := d_succ hd
  obtain ⟨mc, arr, cap, it, Q, A, c1, c2, c3, c4, c5, c6, c7, c8⟩ := C
  refine Ok.le m_X1_clear ?_
  have g0 : dx_gA [(19, 0)] (.ref 400) H = some (.ref 401) := gA_r G rfl rfl
  have v59 : dx_vn [(4, 59)] (.ref 401) H = some 59 := vn_at A.1
  have v60 : dx_vn [(4, 60)] (.ref 401) H = some 60 := vn_at A.1
  rw [g0, Option.bind_some, v59, Option.bind_some, al_size he A, cI_v, g0, Option.bind_some, v60, Option.bind_some]
  refine Ok.V (al_clear he A) ?_
  rintro H1 ⟨A1, ⟨u1, u2, u3, u4, u5⟩⟩
  refine Ok.ret ⟨⟨_, arr, cap, it, Q, A1, ⟨by omega, c1.2⟩, fun t ht => absurd ht (Nat.not_lt_zero _), c3, c4, c5, fun r hr => ⟨(c6 r hr).1, by have := (c6 r hr).2; omega⟩, c7, c8⟩, ⟨u1, u2, u3, u4, fun r hr hp => u5 r hr fun z => ?_⟩⟩
  rcases z with z | ⟨z, z2⟩
  · exact hp (by rw [z]; exact c7)
  · rcases c8 with y | y
    · omega
    · exact hp (by rw [z]; exact y)
end SRS
