/-! the class goes through the lines: one line, the first way -/
/- with lnD lnV lnE LnC opK CLW GO OLD OLD.mono Ext CPS CB AP WR useP CB.ext CB.mv CB.set CB.ap1 CB.rowOf CPS.mv CPS.lk CPS.vn CPS.incZ CPS.szS WR.x0 x_check0 x_check1 al_get al_size AL.mono st1 skS nxM wrdN SKI FRK FRK.len kqs cs_at nxM_some rg.nat w_eq -/
/-- answers or throws Wrong -/
def OE {α : Type} (H : ax_H) (r : α ⊕ (Nat × Nat)) (v : α → Option Value) (P : α → ax_H → Prop) (c : Option ax_R) : Prop := match r with
  | .inr e => OkX c (WR H e)
  | .inl s => Ok c (.inl (v s)) (P s)
/-- the first way's state as it lies -/
def R1 (H : ax_H) (q0 : Nat) (it : Nat → Nat) (σ : skT) (lab : Nat → Int32) (h : ax_H) : Prop := ∃ mc arr cap, CB H q0 σ.2.2.2.2.2 11 317 it lab (fun _ => 0) 0 0 mc arr cap h ∧ CPS 27 q0 (q0 + 6) σ h
def hdA (σ : skT) : Nat := match σ.1 with
  | [] => 0
  | f :: _ => f.1
def goK (k : Nat) : Nat := if k = 0 then 495 else if k = 1 then 497 else if k = 2 then 500 else if k = 3 then 502 else if k = 4 then 269 else if k = 5 then 271 else if k = 6 then 273 else if k = 7 then 277 else 279
/-- what stays ahead of the assembly -/
def PRE (H : ax_H) (n : Nat) (ls : Nat → lnD) (P : Nat → Prop) (iv : Value) : Prop := OLD H ∧ GO H iv ∧ CLW n ls P H
/-- a line as it lies now -/
def LNW (l : lnD) (p : Nat) (H : ax_H) : Prop := ∃ (q r : Nat) (o x y : Int32), (p < 400 + H.2.1 ∧ H.1 p = lnE l q r o x y) ∧ (opK l.1 → q < 400 + H.2.1 ∧ H.1 q = .inr (41, [.int l.2.1, .int l.2.2.1])) ∧ (l.1 = 8 → r < 400 + H.2.1 ∧ H.1 r = .inr (41, [.int l.2.2.2.1, .int l.2.2.2.2.1])) ∧ (l.1 = 2 → ((dx_shl o 4) ||| (dx_shl x 2)) ||| y = l.2.2.2.1)
section CLS
variable {H h h' : ax_H} {q0 nU c1 c2 arr cap pk pb d k p a w e l j u sec g us n t m : Nat} {it : Nat → Nat} {lab bu : Nat → Int32} {bh wd mc x v : Int32} {σ : skT} {R F : List frT} {sz : Nat → Nat} {mac : Nat → Option (Nat × Nat)} {ls : Nat → lnD} {P : Nat → Prop} {iv : Value}
theorem OE.le {α : Type} {r : α ⊕ (Nat × Nat)} {f : α → Option Value} {Q : α → ax_H → Prop} {c c' : Option ax_R} (X : OE H r f Q c) (hl : dx_le c c') : OE H r f Q c' := by
  unfold OE at X ⊢
  cases r with
  | inl s => exact Ok.le hl X
  | inr e => exact OkX.le hl X
theorem PRE.go (Z : PRE H n ls P iv) (E : Ext a w H h) : GO h iv := (E.1 400 (by
  obtain ⟨-, -, mc, arr, cap, it, Q, A, c1, c2, c3, c4, c5, c6, c7, c8⟩ := Z
  have := (c6 401 c7).2
  omega)).trans Z.2.1
theorem PRE.old (Z : PRE H n ls P iv) (E : Ext a w H h) : OLD h := Z.1.mono fun q hq => E.1 q (by omega)
theorem PRE.V (Z : PRE H n ls P iv) : n ≤ 100 ∧ ∀ t, t < n → lnV (ls t) := by
  obtain ⟨-, -, mc, arr, cap, it, Q, A, c1, c2, -⟩ := Z
  exact ⟨c1.1, fun t ht => (c2 t ht).2⟩
theorem PRE.size (Z : PRE H n ls P iv) (E : Ext a w H h) (hd : 1 ≤ d) : dx_vn [(4, 59)] (.ref 401) h = some 59 ∧ ax_c d 59 [.ref 401] h = some (.inl (some (.int (Int32.ofNat n))), h) := by
  obtain ⟨-, -, mc, arr, cap, it, Q, A, c1, c2, c3, c4, c5, c6, c7, c8⟩ := Z
  have p401 := (c6 401 c7).2
  have arlt : arr < 400 + H.2.1 := A.2.2.2.2.2.2.2.2
  have Ah : AL h 401 mc arr cap n it := A.mono (E.1 401 p401) (E.1 arr arlt) E.2.1
  exact ⟨vn_at Ah.1, al_size hd Ah⟩
theorem PRE.line (Z : PRE H n ls P iv) (E : Ext a w H h) (hk : k < n) (hd : 3 ≤ d) : ∃ p : Nat, dx_vn [(4, 61)] (.ref 401) h = some 61 ∧ ax_c d 61 [.ref 401, .int (Int32.ofNat k)] h = some (.inl (some (.ref p)), h) ∧ LNW (ls k) p H := by
  obtain ⟨-, -, mc, arr, cap, it, Q, A, c1, c2, c3, c4, c5, c6, c7, c8⟩ := Z
  have p401 := (c6 401 c7).2
  have arlt : arr < 400 + H.2.1 := A.2.2.2.2.2.2.2.2
  have Ah : AL h 401 mc arr cap n it := A.mono (E.1 401 p401) (E.1 arr arlt) E.2.1
  obtain ⟨⟨q, r, o, x, y, l1, l2, l3, l4, l5⟩, -⟩ := c2 k hk
  exact ⟨it k, vn_at Ah.1, al_get hd Ah hk, q, r, o, x, y, ⟨(c6 _ (c3 _ l2)).2, l1⟩, fun z => ⟨(c6 _ (c3 _ (l3 z).1)).2, (l3 z).2⟩, fun z => ⟨(c6 _ (c3 _ (l4 z).1)).2, (l4 z).2⟩, l5⟩
theorem lnE_go (l : lnD) (q r : Nat) (o x y : Int32) (e : h.1 p = lnE l q r o x y) : (∃ fs kk, h.1 p = .inr (kk, fs) ∧ kk ∈ [20, 21, 22, 23, 24, 39, 40, 42, 43]) ∧ dx_vn [(20, 269), (21, 271), (22, 273), (23, 277), (24, 279), (39, 495), (40, 497), (42, 500), (43, 502)] (.ref p) h = some (goK l.1) := by
  unfold lnE at e
  unfold goK
  split at e
  · exact ⟨⟨_, _, e, by decide⟩, by rw [vn_at e]; (repeat' split) <;> first | rfl | omega⟩
  split at e
  · exact ⟨⟨_, _, e, by decide⟩, by rw [vn_at e]; (repeat' split) <;> first | rfl | omega⟩
  split at e
  · exact ⟨⟨_, _, e, by decide⟩, by rw [vn_at e]; (repeat' split) <;> first | rfl | omega⟩
  split at e
  · exact ⟨⟨_, _, e, by decide⟩, by rw [vn_at e]; (repeat' split) <;> first | rfl | omega⟩
  split at e
  · exact ⟨⟨_, _, e, by decide⟩, by rw [vn_at e]; (repeat' split) <;> first | rfl | omega⟩
  split at e
  · exact ⟨⟨_, _, e, by decide⟩, by rw [vn_at e]; (repeat' split) <;> first | rfl | omega⟩
  split at e
  · exact ⟨⟨_, _, e, by decide⟩, by rw [vn_at e]; (repeat' split) <;> first | rfl | omega⟩
  split at e
  · exact ⟨⟨_, _, e, by decide⟩, by rw [vn_at e]; (repeat' split) <;> first | rfl | omega⟩
  · exact ⟨⟨_, _, e, by decide⟩, by rw [vn_at e]; (repeat' split) <;> first | rfl | omega⟩
theorem CPS.at (C : CPS pk q0 pb ((a, t, u, m) :: R, mac, sec, sz, g, us) h) (b : Nat) : CPS pk q0 pb ((b, t, u, m) :: R, mac, sec, sz, g, us) h := by
  obtain ⟨c1, c2, c3, c4, fu, c5, c6⟩ := C
  refine ⟨c1, c2, c3, c4, fu, c5, fun x hx => ?_⟩
  rw [c6 x hx]
  have same : (∃ f, f ∈ (a, t, u, m) :: R ∧ f.2.2.2 = x) ↔ ∃ f, f ∈ (b, t, u, m) :: R ∧ f.2.2.2 = x := by
    constructor
    · rintro ⟨f, f1, f2⟩
      rcases List.mem_cons.mp f1 with z | z
      · exact ⟨_, List.mem_cons_self, by rw [z] at f2; exact f2⟩
      · exact ⟨f, List.mem_cons_of_mem _ z, f2⟩
    · rintro ⟨f, f1, f2⟩
      rcases List.mem_cons.mp f1 with z | z
      · exact ⟨_, List.mem_cons_self, by rw [z] at f2; exact f2⟩
      · exact ⟨f, List.mem_cons_of_mem _ z, f2⟩
  by_cases e : ∃ f, f ∈ (a, t, u, m) :: R ∧ f.2.2.2 = x
  · rw [if_pos e, if_pos (same.mp e)]
  · rw [if_neg e, if_neg (fun z => e (same.mpr z))]
/-- a word is taken -/
theorem x_take1 (Z : PRE H n ls P iv) (C : R1 H q0 it (F, mac, sec, sz, g, us) lab h) (hs : sec < 2) (hu : us ≤ 300) (ha : a ≤ 100) (hz : sz 0 + sz 1 ≤ 248) (hd : 10 ≤ d) {wv : Int32} : (sz 0 + sz 1 + 1 ≤ 248 → Ok (ax_c d 292 [.ref (q0 + 6), .int wv, .int (Int32.ofNat a)] h) (.inl none) (R1 H q0 it (F, mac, sec, (fun k => if k = sec then sz k + 1 else sz k), g, us) lab)) ∧ (248 < sz 0 + sz 1 + 1 → OkX (ax_c d 292 [.ref (q0 + 6), .int wv, .int (Int32.ofNat a)] h) (WR H (1, a))) := by
  obtain ⟨d, rfl, he⟩ := d_succ hd
  obtain ⟨mc, arr, cap, B, C⟩ := C
  dsimp only at B
  have q4 : 400 ≤ q0 + 6 := by have := B.1; omega
  have le := m_X18_take (d := d) (v0 := q0 + 6) (v1 := wv) (v2 := Int32.ofNat a) (h := h)
  obtain ⟨h1, x1, C1, cc, x3⟩ := C.incZ q4 hs
  have B1 : CB H q0 us 11 317 it lab (fun _ => 0) 0 0 mc arr cap h1 := by rw [x3]; exact B.set (B.ap1 (by omega) (by omega)) cc
  have s0 := C1.szS (j := 0) (by omega)
  have s1 := C1.szS (j := 1) (by omega)
  dsimp only at s0 s1
  rw [C.sizes, Option.bind_some, C.secI, Option.bind_some, show Int32.ofNat (F, mac, sec, sz, g, us).2.2.1 = Int32.ofNat sec from rfl, C.szS hs, Option.bind_some, x1, Option.bind_some, C1.sizes, Option.bind_some, show (0 : Int32) = Int32.ofNat 0 from rfl, s0, Option.bind_some, Option.bind_some, show (1 : Int32) = Int32.ofNat 1 from rfl, s1, Option.bind_some, i_add] at le
  have sum : (if 0 = sec then sz 0 + 1 else sz 0) + (if 1 = sec then sz 1 + 1 else sz 1) = sz 0 + sz 1 + 1 := by
    rcases (show sec = 0 ∨ sec = 1 by omega) with z | z
    · rw [if_pos z.symm, if_neg (by omega)]; omega
    · rw [if_neg (by omega), if_pos z.symm]; omega
  rw [sum] at le
  constructor
  · intro hh
    refine Ok.le le ?_
    rw [if_neg (show ¬ (248 : Int32) < Int32.ofNat (sz 0 + sz 1 + 1) from fun z => by have := (i_lt (a := 248) (by omega) (by omega)).mp z; omega), show Int32.ofNat 1 = 1 from rfl, x_check1 _ _ (by omega), cV_v]
    exact Ok.ret ⟨mc, arr, cap, B1, C1⟩
  · intro hh
    refine OkX.le le ?_
    rw [if_pos (show (248 : Int32) < Int32.ofNat (sz 0 + sz 1 + 1) from (i_lt (a := 248) (by omega) (by omega)).mpr hh)]
    obtain ⟨ea, ew, E, E1, E2⟩ := B1.ext hu (by omega) (by omega)
    exact OkX.xV (x_check0 (e := 1) E E1 E2 Z.1 (by omega) ha (by omega)) fun i h' W => W.x0
theorem w_add (sz : Nat → Nat) (sec j : Nat) : (fun k => if k = sec then (if k = sec then sz k + j else sz k) + 1 else (if k = sec then sz k + j else sz k)) = fun k => if k = sec then sz k + (j + 1) else sz k := by
  funext k
  by_cases c : k = sec
  · rw [if_pos c, if_pos c, if_pos c]; omega
  · rw [if_neg c, if_neg c, if_neg c]
theorem w_sum (sz : Nat → Nat) (hs : sec < 2) (j : Nat) : (fun k => if k = sec then sz k + j else sz k) 0 + (fun k => if k = sec then sz k + j else sz k) 1 = sz 0 + sz 1 + j := by
  dsimp only
  rcases (show sec = 0 ∨ sec = 1 by omega) with z | z
  · rw [if_pos z.symm, if_neg (by omega)]; omega
  · rw [if_neg (by omega), if_pos z.symm]; omega
theorem lnE_end (l : lnD) (q r : Nat) (o x y : Int32) (e : h.1 p = lnE l q r o x y) : dx_vn [(20, 492), (21, 492), (22, 492), (23, 276), (24, 492), (39, 492), (40, 492), (42, 492), (43, 492)] (.ref p) h = some (if l.1 = 7 then 276 else 492) ∧ dx_vn [(20, 493), (21, 493), (22, 274), (23, 493), (24, 493), (39, 493), (40, 493), (42, 493), (43, 493)] (.ref p) h = some (if l.1 = 6 then 274 else 493) := by
  unfold lnE at e
  split at e
  · exact ⟨by rw [vn_at e]; (repeat' split) <;> first | rfl | omega, by rw [vn_at e]; (repeat' split) <;> first | rfl | omega⟩
  split at e
  · exact ⟨by rw [vn_at e]; (repeat' split) <;> first | rfl | omega, by rw [vn_at e]; (repeat' split) <;> first | rfl | omega⟩
  split at e
  · exact ⟨by rw [vn_at e]; (repeat' split) <;> first | rfl | omega, by rw [vn_at e]; (repeat' split) <;> first | rfl | omega⟩
  split at e
  · exact ⟨by rw [vn_at e]; (repeat' split) <;> first | rfl | omega, by rw [vn_at e]; (repeat' split) <;> first | rfl | omega⟩
  split at e
  · exact ⟨by rw [vn_at e]; (repeat' split) <;> first | rfl | omega, by rw [vn_at e]; (repeat' split) <;> first | rfl | omega⟩
  split at e
  · exact ⟨by rw [vn_at e]; (repeat' split) <;> first | rfl | omega, by rw [vn_at e]; (repeat' split) <;> first | rfl | omega⟩
  split at e
  · exact ⟨by rw [vn_at e]; (repeat' split) <;> first | rfl | omega, by rw [vn_at e]; (repeat' split) <;> first | rfl | omega⟩
  split at e
  · exact ⟨by rw [vn_at e]; (repeat' split) <;> first | rfl | omega, by rw [vn_at e]; (repeat' split) <;> first | rfl | omega⟩
  · rename_i h0 h1 h2 h3 h4 h5 h6 h7
    rw [vn_at e, vn_at e, if_neg h7, if_neg h6]
    exact ⟨rfl, rfl⟩
theorem CPS.mcd (C : CPS pk q0 pb (F, mac, sec, sz, g, us) h) (h4 : 400 ≤ pb) (hm : mac k = none) (hk : k < 5) (x y : Nat) : ∃ h1 h2, dx_sI 0 (.ref (pb + 2)) (Int32.ofNat k) (Int32.ofNat x) h = some h1 ∧ dx_gA [(27, 3), (30, 3)] (.ref pb) h1 = some (.ref (pb + 3)) ∧ dx_sI 0 (.ref (pb + 3)) (Int32.ofNat k) (Int32.ofNat y) h1 = some h2 ∧ CPS pk q0 pb (F, (fun j => if j = k then some (x, y) else mac j), sec, sz, g, us) h2 ∧ (∃ c, h1 = ax_set h (pb + 2) c) ∧ ∃ c, h2 = ax_set h1 (pb + 3) c := by
  obtain ⟨c1, c2, c3, ⟨fb, fe, c4, c5, c6⟩, c7⟩ := id C
  have a3 : (ax_set h (pb + 2) (.inl (0, 5, .inl (upd fb k (Int32.ofNat x))))).1 (pb + 3) = .inl (0, 5, .inl fe) := (set_ne _ (by omega)).trans c5
  have a0 : (ax_set h (pb + 2) (.inl (0, 5, .inl (upd fb k (Int32.ofNat x))))).1 pb = _ := (set_ne _ (by omega)).trans c2
  refine ⟨_, _, by rw [sI_at c4 (by omega), ix_of rfl hk (by omega), Option.bind_some], gA_r a0 (C.lk 3) rfl, by rw [sI_at a3 (by omega), ix_of rfl hk (by omega), Option.bind_some], ⟨c1, ?_, ?_, ⟨upd fb k (Int32.ofNat x), upd fe k (Int32.ofNat y), ?_, set_eq _, fun m hm5 => ?_⟩, ?_⟩, ⟨_, rfl⟩, _, rfl⟩
  · exact (set_ne _ (show pb ≠ pb + 3 by omega)).trans a0
  · rw [set_ne _ (show pb + 1 ≠ pb + 3 by omega), set_ne _ (show pb + 1 ≠ pb + 2 by omega)]; exact c3
  · exact (set_ne _ (show pb + 2 ≠ pb + 3 by omega)).trans (set_eq _)
  · rw [upd_at, upd_at]
    dsimp only
    by_cases e : m = k
    · rw [if_pos e, if_pos e, if_pos e]
      exact ⟨fun z => (by cases z), fun x' y' z => (by cases z; exact ⟨rfl, rfl⟩)⟩
    · rw [if_neg e, if_neg e, if_neg e]
      exact c6 m hm5
  · rw [set_ne _ (show pb + 4 ≠ pb + 3 by omega), set_ne _ (show pb + 4 ≠ pb + 2 by omega)]; exact c7
/-- a macro is told -/
theorem x_define (Z : PRE H n ls P iv) (B : CB H q0 nU c1 c2 it lab bu bh wd mc arr cap h) (hn : nU ≤ 300) (h1 : c1 ≤ 16) (h2 : c2 ≤ 400) (A : AP q0 nU it arr (pb + 2) ∧ AP q0 nU it arr (pb + 3)) (h4 : 400 ≤ pb) (C : CPS pk q0 pb (F, mac, sec, sz, g, us) h) (ha : a < n) (h6 : (ls a).1 = 6) (hd : 12 ≤ d) : (mac (nn (ls a).2.1) ≠ none → (∀ x y, mac (nn (ls a).2.1) = some (x, y) → x < 200) → OkX (ax_c d 288 [.ref pb, .int (ls a).2.1, .int (Int32.ofNat a)] h) (WR H (3, a))) ∧ (mac (nn (ls a).2.1) = none → (nxM ls (n - (a + 1)) (a + 1) = none → OkX (ax_c d 288 [.ref pb, .int (ls a).2.1, .int (Int32.ofNat a)] h) (WR H (4, a))) ∧ ∀ e, nxM ls (n - (a + 1)) (a + 1) = some e → ((ls e).1 = 6 → OkX (ax_c d 288 [.ref pb, .int (ls a).2.1, .int (Int32.ofNat a)] h) (WR H (4, e))) ∧ ((ls e).1 ≠ 6 → Ok (ax_c d 288 [.ref pb, .int (ls a).2.1, .int (Int32.ofNat a)] h) (.inl (some (.int (Int32.ofNat (e + 1))))) (fun h' => CB H q0 nU c1 c2 it lab bu bh wd mc arr cap h' ∧ CPS pk q0 pb (F, (fun j => if j = nn (ls a).2.1 then some (a + 1, e) else mac j), sec, sz, g, us) h' ∧ ∀ q, q ≠ pb + 2 → q ≠ pb + 3 → h'.1 q = h.1 q))) := by
  obtain ⟨d, rfl, he⟩ := d_succ hd
  obtain ⟨n1, V⟩ := Z.V
  obtain ⟨m4, me⟩ := ((V a ha).2.2.2.2.2.2.2.1 h6).nat
  obtain ⟨ea, ew, E, E1, E2⟩ := B.ext hn h1 h2
  have Gh := Z.go E
  have g0 : dx_gA [(19, 0)] (.ref 400) h = some (.ref 401) := gA_r Gh rfl rfl
  obtain ⟨v59, s59⟩ := Z.size (d := d) E (by omega)
  obtain ⟨-, ⟨fb, fe, c4, c5, c6⟩, c7⟩ := id C.2.2
  obtain ⟨M1, M2⟩ := c6 _ (show nn (ls a).2.1 < 5 by omega)
  have le := m_X17_define (d := d) (v0 := pb) (v1 := (ls a).2.1) (v2 := Int32.ofNat a) (h := h)
  rw [C.begins, Option.bind_some, lI_at c4, ix_of me (show nn (ls a).2.1 < 5 by omega) (by omega), Option.bind_some, Option.bind_some] at le
  have chk : ∀ (e l : Nat), e ≤ 7 → l ≤ 100 → OkX (ax_c d 213 [.int 0, .int (Int32.ofNat e), .int (Int32.ofNat l)] h) (WR H (e, l)) := fun e l he hl => x_check0 E E1 E2 Z.1 he hl (by omega)
  constructor
  · intro hm hx
    refine OkX.le le ?_
    cases hq : mac (nn (ls a).2.1) with
    | none => exact absurd hq hm
    | some xy =>
      obtain ⟨x, y⟩ := xy
      have := hx x y hq
      rw [(M2 x y hq).1, if_pos (fun z => by
        have z2 := congrArg Int32.toInt z
        rw [i_toInt (by omega)] at z2
        have : (-1 : Int32).toInt = -1 := rfl
        omega)]
      refine OkX.le b_X17_define_15 ?_
      exact OkX.xV (chk 3 a (by omega) (by omega)) fun i h' W => W.x0
  intro hm
  have le15 := b_X17_define_15 (K := ax_c d) (s0 := 1) (v0 := pb) (v1 := (ls a).2.1) (v2 := Int32.ofNat a) (h := h)
  rw [x_check1 _ _ (by omega), cV_v, lt_at, show Int32.ofNat a + 1 = Int32.ofNat (a + 1) from i_add a 1] at le15
  rw [M1 hm, if_neg (fun z => z rfl)] at le
  have le := dx_trans le15 le
  have le100 : ∀ k, k ≤ n → dx_le (B_X17_define_121 (ax_c d) (if n ≤ k then 0 else 1) pb (ls a).2.1 (Int32.ofNat a) (Int32.ofNat k) h) (B_X17_define_100 (ax_c d) pb (ls a).2.1 (Int32.ofNat a) (Int32.ofNat k) h) := fun k hk => by
    have lb := b_X17_define_100 (K := ax_c d) (v0 := pb) (v1 := (ls a).2.1) (v2 := Int32.ofNat a) (v3 := Int32.ofNat k) (h := h)
    rw [C.gym, Option.bind_some, g0, Option.bind_some, v59, Option.bind_some, s59, cI_v] at lb
    by_cases q : n ≤ k
    · rw [if_pos q]
      rw [if_pos ((i_le (by omega) (by omega)).mpr q)] at lb
      exact lb
    · rw [if_neg q]
      rw [if_neg (fun z => q ((i_le (by omega) (by omega)).mp z))] at lb
      exact lb
  have loop : ∀ f k, k + f = n → (nxM ls f k = none → dx_le (B_X17_define_121 (ax_c d) 0 pb (ls a).2.1 (Int32.ofNat a) (Int32.ofNat n) h) (B_X17_define_24 (ax_c d) pb (ls a).2.1 (Int32.ofNat a) (Int32.ofNat k) h)) ∧ ∀ e, nxM ls f k = some e → ((ls e).1 = 6 → OkX (B_X17_define_24 (ax_c d) pb (ls a).2.1 (Int32.ofNat a) (Int32.ofNat k) h) (WR H (4, e))) ∧ ((ls e).1 ≠ 6 → dx_le (B_X17_define_121 (ax_c d) 1 pb (ls a).2.1 (Int32.ofNat a) (Int32.ofNat e) h) (B_X17_define_24 (ax_c d) pb (ls a).2.1 (Int32.ofNat a) (Int32.ofNat k) h)) := by
    intro f
    induction f with
    | zero =>
      intro k hk
      refine ⟨fun _ => ?_, fun e z => (by cases z)⟩
      obtain rfl : k = n := by omega
      have lb := b_X17_define_24 (K := ax_c d) (v0 := pb) (v1 := (ls a).2.1) (v2 := Int32.ofNat a) (v3 := Int32.ofNat k) (h := h)
      rw [C.gym, Option.bind_some, g0, Option.bind_some, v59, Option.bind_some, s59, cI_v, if_pos (Int32.le_refl _)] at lb
      have l1 := le100 k (Nat.le_refl _)
      rw [if_pos (Nat.le_refl _)] at l1
      exact dx_trans l1 lb
    | succ f ih =>
      intro k hk
      have lb := b_X17_define_24 (K := ax_c d) (v0 := pb) (v1 := (ls a).2.1) (v2 := Int32.ofNat a) (v3 := Int32.ofNat k) (h := h)
      obtain ⟨lp, v61, s61, lq, lr, lo, lx, ly, ⟨lpb, l1⟩, l2, l3, l4⟩ := Z.line (k := k) (d := d) E (by omega) (by omega)
      have l1 := (E.1 lp lpb).trans l1
      obtain ⟨⟨fs, kk, e1, e2⟩, -⟩ := lnE_go _ _ _ _ _ _ l1
      obtain ⟨e3, e4⟩ := lnE_end _ _ _ _ _ _ l1
      have l8 := (V k (by omega)).1
      rw [C.gym, Option.bind_some, g0, Option.bind_some, v59, Option.bind_some, s59, cI_v, if_neg (i_ge_not (by omega) (by omega)), C.gym, Option.bind_some, g0, Option.bind_some, v61, Option.bind_some, s61, cR_r, cs_at e1 e2, e3, Option.bind_some] at lb
      have ends : ∀ hq : (ls k).1 = 7 ∨ (ls k).1 = 6, nxM ls (f + 1) k = some k := fun hq => if_pos hq
      by_cases k7 : (ls k).1 = 7
      · rw [ends (Or.inl k7)]
        refine ⟨fun z => (by cases z), fun e z => (by
          cases z
          refine ⟨fun z => by omega, fun _ => ?_⟩
          rw [if_pos k7, show ax_c d 276 [.ref lp] h = some (.inl (some (.int 1)), h) from by
            obtain ⟨d, rfl, -⟩ := d_succ (k := 10) (by omega : 11 ≤ d)
            exact dx_app m_X13_endsMacro rfl, cI_v, if_pos (show ¬ (1 : Int32) = 0 by decide)] at lb
          have l1 := le100 k (by omega)
          rw [if_neg (show ¬ n ≤ k by omega)] at l1
          exact dx_trans l1 lb)⟩
      · rw [if_neg k7, show ax_c d 492 [.ref lp] h = some (.inl (some (.int 0)), h) from by
          obtain ⟨d, rfl, -⟩ := d_succ (k := 10) (by omega : 11 ≤ d)
          exact dx_app m_X4_endsMacro rfl, cI_v, if_neg (fun z => z rfl), C.gym, Option.bind_some, g0, Option.bind_some, v61, Option.bind_some, s61, cR_r, cs_at e1 e2, e4, Option.bind_some] at lb
        by_cases k6 : (ls k).1 = 6
        · rw [ends (Or.inr k6)]
          refine ⟨fun z => (by cases z), fun e z => (by
            cases z
            refine ⟨fun _ => ?_, fun z => absurd k6 z⟩
            rw [if_pos k6, show ax_c d 274 [.ref lp] h = some (.inl (some (.int 1)), h) from by
              obtain ⟨d, rfl, -⟩ := d_succ (k := 10) (by omega : 11 ≤ d)
              exact dx_app m_X12_beginsMacro rfl, cI_v, if_pos (show ¬ (1 : Int32) = 0 by decide)] at lb
            exact OkX.le lb (OkX.xV (chk 4 k (by omega) (by omega)) fun i h' W => W.x0))⟩
        · rw [if_neg k6, show ax_c d 493 [.ref lp] h = some (.inl (some (.int 0)), h) from by
            obtain ⟨d, rfl, -⟩ := d_succ (k := 10) (by omega : 11 ≤ d)
            exact dx_app m_X4_beginsMacro rfl, cI_v, if_neg (fun z => z rfl), x_check1 _ _ (by omega), cV_v, lt_at, show Int32.ofNat k + 1 = Int32.ofNat (k + 1) from i_add k 1] at lb
          rw [show nxM ls (f + 1) k = nxM ls f (k + 1) from if_neg (fun z => z.elim k7 k6)]
          obtain ⟨i1, i2⟩ := ih (k + 1) (by omega)
          exact ⟨fun z => dx_trans (i1 z) lb, fun e z => ⟨fun y => OkX.le lb ((i2 e z).1 y), fun y => dx_trans ((i2 e z).2 y) lb⟩⟩
  obtain ⟨L1, L2⟩ := loop (n - (a + 1)) (a + 1) (by omega)
  refine ⟨fun hx => OkX.le (dx_trans (L1 hx) le) (OkX.le b_X17_define_121 (OkX.xV (chk 4 a (by omega) (by omega)) fun i h' W => W.x0)), fun e hx => ⟨fun e6 => OkX.le le ((L2 e hx).1 e6), fun e6 => Ok.le (dx_trans ((L2 e hx).2 e6) le) (Ok.le b_X17_define_121 ?_)⟩⟩
  obtain ⟨ha1, ha2, y1, y2, y3, y4, ⟨cc1, y5⟩, cc2, y6⟩ := C.mcd h4 hm (show nn (ls a).2.1 < 5 by omega) (a + 1) e
  rw [x_check1 _ _ (by omega), cV_v, C.begins, Option.bind_some, show Int32.ofNat a + 1 = Int32.ofNat (a + 1) from i_add a 1]
  conv in dx_sI 0 (.ref (pb + 2)) _ _ _ => rw [me]
  rw [y1, Option.bind_some, y2, Option.bind_some]
  conv in dx_sI 0 (.ref (pb + 3)) _ _ _ => rw [me]
  rw [y3, Option.bind_some, show Int32.ofNat e + 1 = Int32.ofNat (e + 1) from i_add e 1]
  refine Ok.ret ⟨?_, y4, fun q z1 z2 => by rw [y6, y5]; exact (set_ne _ z2).trans (set_ne _ z1)⟩
  rw [y6, y5]
  exact (B.set A.1 cc1).set A.2 cc2
/-- one line, no use of a macro -/
theorem x_line1 (Z : PRE H n ls P iv) (I : SKI ls n ((a, t, u, m) :: R, mac, sec, sz, g, us)) (hat : a ≠ t) (hg : ¬ 300 < g + 1) (h8 : (ls a).1 ≠ 8) (L : LNW (ls a) p H) (C : R1 H q0 it ((a, t, u, m) :: R, mac, sec, sz, g + 1, us) lab h) (hd : 14 ≤ d) : OE H (st1 ls n (((a, t, u, m) :: R, mac, sec, sz, g, us), lab)) (fun S => some (.int (Int32.ofNat (hdA S.1)))) (fun S h' => R1 H q0 it S.1 S.2 h') (ax_c d (goK (ls a).1) [.ref p, .ref (q0 + 6), .ref (useP q0 it R u), .int (Int32.ofNat a)] h) := by
  obtain ⟨n1, V⟩ := Z.V
  obtain ⟨I1, I2, I3, I4, I5, I6⟩ := I
  dsimp only at I1 I2 I3 I4 I5 I6
  have len6 := FRK.len I1
  rw [List.length_cons] at len6
  obtain ⟨f1, f2, f3, f4⟩ := id I1
  have ha : a < n := by omega
  have Va := V a ha
  obtain ⟨v1, v2, v3, v4, v5, v6, v7, v8, v9⟩ := id Va
  obtain ⟨c0, c1, c2, c3, c4, c5, c6, c7, c8⟩ := kqs _ v1
  obtain ⟨d, rfl, he⟩ := d_succ hd
  obtain ⟨lq, lr, lo, lx, ly, ⟨lp, l1⟩, l2, l3, l4⟩ := L
  have CC := C
  obtain ⟨mc, arr, cap, B, C⟩ := C
  dsimp only at B
  have q4 : 400 ≤ q0 + 6 := by have := B.1; omega
  have lph : h.1 p = H.1 p := B.2.1.1 p lp
  have sk : skS ls n ((a, t, u, m) :: R, mac, sec, sz, g, us) = skS ls n ((a, t, u, m) :: R, mac, sec, sz, g, us) := rfl
  conv at sk => rhs; unfold skS; dsimp only; rw [if_neg hat]
  have na1 : Int32.ofNat a + 1 = Int32.ofNat (a + 1) := i_add a 1
  have upR : ∀ {σ' : skT} {h' : ax_H}, σ'.2.2.2.2.2 = us → CB H q0 us 11 317 it lab (fun _ => 0) 0 0 mc arr cap h' → CPS 27 q0 (q0 + 6) σ' h' → R1 H q0 it σ' lab h' := fun e1 e2 e3 => ⟨mc, arr, cap, by rw [e1]; exact e2, e3⟩
  by_cases k0 : (ls a).1 = 0
  · have w0 : wrdN (ls a) = 0 := by unfold wrdN; rw [if_neg (by omega), if_neg (by omega), if_neg (by omega)]
    rw [if_neg (by omega), if_pos k0] at sk
    unfold lnE at l1
    rw [if_pos k0, ← lph] at l1
    unfold st1; rw [sk]; dsimp only
    rw [if_neg (show ¬ (a ≠ t ∧ (ls a).1 = 1) by omega), k0]
    refine Ok.le (m_X5_go rfl rfl) ?_
    obtain ⟨h1, x1, C1, cc, x3⟩ := C.setS q4 (v2 k0).nat.2
    rw [gI_at l1 rfl rfl, Option.bind_some, x1, Option.bind_some, na1]
    exact Ok.ret (upR rfl (by rw [x3]; exact B.set (B.ap1 (by omega) (by omega)) cc) (C1.at (a + 1)))
  by_cases k1 : (ls a).1 = 1
  · have w0 : wrdN (ls a) = 0 := by unfold wrdN; rw [if_neg (by omega), if_neg (by omega), if_neg (by omega)]
    rw [if_neg (by omega), if_neg k0, if_neg (by omega), if_neg (by omega), if_neg (by omega), w0, w_eq] at sk
    unfold lnE at l1
    rw [if_neg k0, if_pos k1, ← lph] at l1
    have hR : R = [] ∨ u < us := by
      by_cases e : R = []
      · exact Or.inl e
      · rw [if_neg e] at f3; exact Or.inr f3.2.1
    have gk : goK (ls a).1 = goK 1 := by rw [k1]
    rw [gk]
    refine OE.le ?_ (m_X6_go (d := d) (v0 := p) (v1 := .ref (q0 + 6)) (v2 := .ref (useP q0 it R u)) (v3 := Int32.ofNat a) (h := h) rfl rfl)
    rw [gI_at l1 rfl rfl, Option.bind_some, C.vn, Option.bind_some, if_pos rfl]
    obtain ⟨d, rfl, he2⟩ := d_succ (k := 12) (by omega : 13 ≤ d)
    obtain ⟨rp, rsz, rf, r1, r2, ⟨r3, r3'⟩, r4, r5, r6, r7⟩ := B.rowOf (d := d) hR (v3 k1) (by omega)
    have le2 := m_X18_set (d := d) (v0 := q0 + 6) (v1 := (ls a).2.1) (v2 := .ref (useP q0 it R u)) (v3 := Int32.ofNat a) (h := h) rfl
    have xm : dx_rem (ls a).2.1 16 = Int32.ofNat (nn (ls a).2.1 % 16) := by
      have := rem_nat (a := nn (ls a).2.1) (b := 16) (by have := (v3 k1).nat.1; omega) (by omega)
      rw [← (v3 k1).nat.2] at this; exact this
    have g9 : dx_gA [(27, 9)] (.ref (q0 + 6)) h = some (.ref q0) := gA_r C.2.1 rfl rfl
    have vb : dx_vn [(25, 282)] (.ref q0) h = some 282 := vn_at B.2.2.2.1
    rw [g9, Option.bind_some, vb, Option.bind_some, r1, cR_r, xm, lI_at r2, ix_of rfl r3 (by omega), Option.bind_some, Option.bind_some, r4] at le2
    unfold st1; rw [sk]; dsimp only
    rw [if_pos ⟨hat, k1⟩]
    by_cases z : lab (plcN R u (ls a).2.1) = -1
    · rw [if_neg (fun y => y z)]
      rw [if_neg (fun y => y z)] at le2
      refine Ok.V (P := R1 H q0 it ((a, t, u, m) :: R, mac, sec, sz, g + 1, us) (upd lab (plcN R u (ls a).2.1) (1000 * Int32.ofNat sec + Int32.ofNat (sz sec)))) (Ok.le le2 (Ok.le (b_X18_set_27 rfl) ?_)) fun h' X => ?_
      · rw [x_check1 _ _ (by omega), cV_v, C.secI, Option.bind_some, C.sizes, Option.bind_some, Option.bind_some, show Int32.ofNat ((a, t, u, m) :: R, mac, sec, sz, g + 1, us).2.2.1 = Int32.ofNat sec from rfl, C.szS I3, Option.bind_some, xm, sI_at r2 r5, ix_of rfl r3 (by omega), Option.bind_some, Option.bind_some]
        have ap : ∀ j, j < 5 → q0 + 6 + j ≠ rp := fun j hj => by
          rcases r6 with y | y | ⟨k, hk, y⟩
          · omega
          · omega
          · have := (B.2.2.2.2.2.2.2.2.2.2.1 k hk).1; omega
        exact Ok.ret ⟨mc, arr, cap, r7 _, C.mv fun j hj => set_ne _ (ap j hj)⟩
      · obtain ⟨mc', arr', cap', B', C'⟩ := X
        rw [na1]
        exact Ok.ret ⟨mc', arr', cap', B', C'.at (a + 1)⟩
    · rw [if_pos z]
      rw [if_pos z] at le2
      refine OkX.xV (P := WR H (2, a)) (OkX.le le2 (OkX.le (b_X18_set_27 rfl) ?_)) fun i h' W => W.x0
      obtain ⟨ea, ew, E, E1, E2⟩ := B.ext (by omega) (by omega) (by omega)
      exact OkX.xV (x_check0 (e := 2) E E1 E2 Z.1 (by omega) (by omega) (by omega)) fun i h' W => W.x0
  by_cases k2 : (ls a).1 = 2
  · have w2 : wrdN (ls a) = 2 := by unfold wrdN; rw [if_pos k2]
    unfold lnE at l1
    rw [if_neg k0, if_neg k1, if_pos k2, ← lph] at l1
    have gk : goK (ls a).1 = goK 2 := by rw [k2]
    rw [gk]
    refine OE.le ?_ (m_X8_go (d := d) (v0 := p) (v1 := .ref (q0 + 6)) (v2 := .ref (useP q0 it R u)) (v3 := Int32.ofNat a) (h := h) rfl rfl)
    rw [gI_at l1 rfl rfl, Option.bind_some, gI_at l1 rfl rfl, Option.bind_some, gI_at l1 rfl rfl, Option.bind_some, C.vn, Option.bind_some, if_pos rfl, l4 k2]
    obtain ⟨t1, t2⟩ := x_take1 (d := d) (wv := (ls a).2.2.2.1) Z CC I3 (by omega) (by omega) I4 (by omega) (a := a)
    by_cases q1 : sz 0 + sz 1 + 1 ≤ 248
    · refine (show OE H (st1 ls n (((a, t, u, m) :: R, mac, sec, sz, g, us), lab)) _ _ _ from ?_)
      have key : (sz 0 + sz 1 + 2 ≤ 248 → Ok (dx_cV (ax_c d 292 [.ref (q0 + 6), .int (ls a).2.2.2.1, .int (Int32.ofNat a)] h) (fun h4 => (dx_gA [(42, 3)] (.ref p) h4).bind fun r5 => (dx_vn [(27, 293), (30, 354)] (.ref (q0 + 6)) h4).bind fun k => dx_cI ((ax_c d) k [.ref (q0 + 6), r5, .ref (useP q0 it R u), .int (Int32.ofNat a)] h4) (fun x7 h6 => (dx_vn [(27, 292), (30, 353)] (.ref (q0 + 6)) h6).bind fun k => dx_cV ((ax_c d) k [.ref (q0 + 6), .int x7, .int (Int32.ofNat a)] h6) (fun h8 => some (.inl (some (.int (Int32.ofNat a + 1))), h8)) dx_x0) dx_x0) dx_x0) (.inl (some (.int (Int32.ofNat (a + 1))))) (R1 H q0 it ((a + 1, t, u, m) :: R, mac, sec, (fun k => if k = sec then sz k + 2 else sz k), g + 1, us) lab)) ∧ (248 < sz 0 + sz 1 + 2 → OkX (dx_cV (ax_c d 292 [.ref (q0 + 6), .int (ls a).2.2.2.1, .int (Int32.ofNat a)] h) (fun h4 => (dx_gA [(42, 3)] (.ref p) h4).bind fun r5 => (dx_vn [(27, 293), (30, 354)] (.ref (q0 + 6)) h4).bind fun k => dx_cI ((ax_c d) k [.ref (q0 + 6), r5, .ref (useP q0 it R u), .int (Int32.ofNat a)] h4) (fun x7 h6 => (dx_vn [(27, 292), (30, 353)] (.ref (q0 + 6)) h6).bind fun k => dx_cV ((ax_c d) k [.ref (q0 + 6), .int x7, .int (Int32.ofNat a)] h6) (fun h8 => some (.inl (some (.int (Int32.ofNat a + 1))), h8)) dx_x0) dx_x0) dx_x0) (WR H (1, a))) := by
        have mid : ∀ h4, R1 H q0 it ((a, t, u, m) :: R, mac, sec, (fun k => if k = sec then sz k + 1 else sz k), g + 1, us) lab h4 → dx_le ((dx_vn [(27, 292), (30, 353)] (.ref (q0 + 6)) h4).bind fun k => dx_cV ((ax_c d) k [.ref (q0 + 6), .int 0, .int (Int32.ofNat a)] h4) (fun h8 => some (.inl (some (.int (Int32.ofNat a + 1))), h8)) dx_x0) ((dx_gA [(42, 3)] (.ref p) h4).bind fun r5 => (dx_vn [(27, 293), (30, 354)] (.ref (q0 + 6)) h4).bind fun k => dx_cI ((ax_c d) k [.ref (q0 + 6), r5, .ref (useP q0 it R u), .int (Int32.ofNat a)] h4) (fun x7 h6 => (dx_vn [(27, 292), (30, 353)] (.ref (q0 + 6)) h6).bind fun k => dx_cV ((ax_c d) k [.ref (q0 + 6), .int x7, .int (Int32.ofNat a)] h6) (fun h8 => some (.inl (some (.int (Int32.ofNat a + 1))), h8)) dx_x0) dx_x0) := fun h4 ⟨mc', arr', cap', B', C'⟩ => by
          have e4 : h4.1 p = _ := (B'.2.1.1 p lp).trans (lph.symm.trans l1)
          obtain ⟨d, rfl, -⟩ := d_succ (k := 12) (by omega : 13 ≤ d)
          rw [gA_r e4 rfl rfl, Option.bind_some, C'.vn 293 354, Option.bind_some, if_pos rfl, dx_app (m_X18_value rfl rfl) rfl, cI_v]
          exact dx_refl _
        constructor
        · intro hh
          refine Ok.V (t1 q1) fun h4 X => Ok.le (mid h4 X) ?_
          have XX := X
          obtain ⟨mc', arr', cap', B', C'⟩ := X
          rw [C'.vn, Option.bind_some, if_pos rfl]
          refine Ok.V ((x_take1 (d := d) (wv := 0) (a := a) Z XX I3 (by omega) (by omega) (by rw [w_sum sz I3]; omega) (by omega)).1 (by rw [w_sum sz I3]; omega)) fun h5 Y => ?_
          rw [w_add sz sec 1] at Y
          obtain ⟨mc2, arr2, cap2, B2, C2⟩ := Y
          rw [na1]
          exact Ok.ret ⟨mc2, arr2, cap2, B2, C2.at (a + 1)⟩
        · intro hh
          refine OkX.V (t1 q1) fun h4 X => OkX.le (mid h4 X) ?_
          have XX := X
          obtain ⟨mc', arr', cap', B', C'⟩ := X
          rw [C'.vn, Option.bind_some, if_pos rfl]
          exact OkX.xV ((x_take1 (d := d) (wv := 0) (a := a) Z XX I3 (by omega) (by omega) (by rw [w_sum sz I3]; omega) (by omega)).2 (by rw [w_sum sz I3]; omega)) fun i h' W => W.x0
      by_cases q2 : 248 < sz 0 + sz 1 + 2
      · rw [if_pos (by omega)] at sk
        unfold st1; rw [sk]
        exact key.2 q2
      · rw [if_neg (by omega), if_neg k0, if_neg (by omega), if_neg (by omega), if_neg (by omega), w2] at sk
        unfold st1; rw [sk]; dsimp only
        rw [if_neg (show ¬ (a ≠ t ∧ (ls a).1 = 1) by omega)]
        exact key.1 (by omega)
    · rw [if_pos (by omega)] at sk
      unfold st1; rw [sk]
      exact OkX.xV (t2 (by omega)) fun i h' W => W.x0
  by_cases k3 : (ls a).1 = 3
  · have w1 : wrdN (ls a) = 1 := by unfold wrdN; rw [if_neg k2, if_pos k3]
    unfold lnE at l1
    rw [if_neg k0, if_neg k1, if_neg k2, if_pos k3, ← lph] at l1
    have gk : goK (ls a).1 = goK 3 := by rw [k3]
    rw [gk]
    refine OE.le ?_ (m_X9_go (d := d) (v0 := p) (v1 := .ref (q0 + 6)) (v2 := .ref (useP q0 it R u)) (v3 := Int32.ofNat a) (h := h) rfl rfl)
    obtain ⟨t1, t2⟩ := x_take1 (d := d) (wv := 0) Z CC I3 (by omega) (by omega) I4 (by omega) (a := a)
    have vv : ∀ z, ax_c d 293 [.ref (q0 + 6), .ref lq, .ref z, .int (Int32.ofNat a)] h = some (.inl (some (.int 0)), h) := fun z => by
      obtain ⟨d, rfl, -⟩ := d_succ (k := 12) (by omega : 13 ≤ d)
      exact dx_app (m_X18_value rfl rfl) rfl
    rw [gA_r l1 rfl rfl, Option.bind_some, C.vn, Option.bind_some, if_pos rfl, vv, cI_v, C.vn, Option.bind_some, if_pos rfl]
    by_cases q1 : sz 0 + sz 1 + 1 ≤ 248
    · rw [if_neg (by omega), if_neg k0, if_neg (by omega), if_neg (by omega), if_neg (by omega), w1] at sk
      unfold st1; rw [sk]; dsimp only
      rw [if_neg (show ¬ (a ≠ t ∧ (ls a).1 = 1) by omega)]
      refine Ok.V (t1 q1) fun h4 X => ?_
      obtain ⟨mc2, arr2, cap2, B2, C2⟩ := X
      rw [na1]
      exact Ok.ret ⟨mc2, arr2, cap2, B2, C2.at (a + 1)⟩
    · rw [if_pos (by omega)] at sk
      unfold st1; rw [sk]
      exact OkX.xV (t2 (by omega)) fun i h' W => W.x0
  by_cases k4 : (ls a).1 = 4
  · have w4 : wrdN (ls a) = nn (ls a).2.1 := by unfold wrdN; rw [if_neg k2, if_neg k3, if_pos k4]
    obtain ⟨r1, r2⟩ := (v6 k4).nat
    unfold lnE at l1
    rw [if_neg k0, if_neg k1, if_neg k2, if_neg k3, if_pos k4] at l1
    have gk : goK (ls a).1 = goK 4 := by rw [k4]
    rw [gk]
    refine OE.le ?_ (m_X10_go (d := d) (v0 := p) (v1 := .ref (q0 + 6)) (v2 := .ref (useP q0 it R u)) (v3 := Int32.ofNat a) (h := h) rfl rfl)
    have loop : ∀ r j h1, j + r = nn (ls a).2.1 → sz 0 + sz 1 + j ≤ 248 → R1 H q0 it ((a, t, u, m) :: R, mac, sec, (fun k => if k = sec then sz k + j else sz k), g + 1, us) lab h1 → (sz 0 + sz 1 + nn (ls a).2.1 ≤ 248 → Ok (B_X10_go_3 (ax_c d) p (.ref (q0 + 6)) (Int32.ofNat a) (Int32.ofNat j) h1) (.inl (some (.int (Int32.ofNat (a + 1))))) (R1 H q0 it ((a + 1, t, u, m) :: R, mac, sec, (fun k => if k = sec then sz k + nn (ls a).2.1 else sz k), g + 1, us) lab)) ∧ (248 < sz 0 + sz 1 + nn (ls a).2.1 → OkX (B_X10_go_3 (ax_c d) p (.ref (q0 + 6)) (Int32.ofNat a) (Int32.ofNat j) h1) (WR H (1, a))) := by
      intro r
      induction r with
      | zero =>
        intro j h1 hj hz X
        obtain rfl : j = nn (ls a).2.1 := by omega
        refine ⟨fun _ => Ok.le (b_X10_go_3 rfl) ?_, fun z => by omega⟩
        obtain ⟨mc2, arr2, cap2, B2, C2⟩ := X
        have e1 : h1.1 p = _ := (B2.2.1.1 p lp).trans l1
        rw [gI_at e1 rfl rfl, Option.bind_some, if_pos (show (ls a).2.1 ≤ Int32.ofNat (nn (ls a).2.1) by rw [← r2]; exact Int32.le_refl _), na1]
        exact Ok.ret ⟨mc2, arr2, cap2, B2, C2.at (a + 1)⟩
      | succ r ih =>
        intro j h1 hj hz X
        have XX := X
        obtain ⟨mc2, arr2, cap2, B2, C2⟩ := X
        have e1 : h1.1 p = _ := (B2.2.1.1 p lp).trans l1
        have lb := b_X10_go_3 (K := ax_c d) (v0 := p) (v1 := .ref (q0 + 6)) (v3 := Int32.ofNat a) (v4 := Int32.ofNat j) (h := h1) rfl
        rw [gI_at e1 rfl rfl, Option.bind_some, if_neg (by rw [r2]; exact i_ge_not (by omega) (by omega)), C2.vn, Option.bind_some, if_pos rfl] at lb
        obtain ⟨t1, t2⟩ := x_take1 (d := d) (wv := 0) (a := a) Z XX I3 (by omega) (by omega) (by rw [w_sum sz I3]; omega) (by omega)
        rw [w_sum sz I3, w_add sz sec j] at t1
        rw [w_sum sz I3] at t2
        have j1 : Int32.ofNat j + 1 = Int32.ofNat (j + 1) := i_add j 1
        constructor
        · intro hh
          refine Ok.le lb (Ok.V (t1 (by omega)) fun h2 Y => ?_)
          rw [lt_at, j1]
          exact (ih (j + 1) h2 (by omega) (by omega) Y).1 hh
        · intro hh
          by_cases q : 248 < sz 0 + sz 1 + j + 1
          · exact OkX.le lb (OkX.xV (t2 q) fun i h' W => W.x0)
          · refine OkX.le lb (OkX.V (t1 (by omega)) fun h2 Y => ?_)
            rw [lt_at, j1]
            exact (ih (j + 1) h2 (by omega) (by omega) Y).2 hh
    have L := loop (nn (ls a).2.1) 0 h (by omega) (by omega) (by rw [w_eq]; exact CC)
    by_cases q1 : 248 < sz 0 + sz 1 + nn (ls a).2.1
    · rw [if_pos (by omega)] at sk
      unfold st1; rw [sk]
      exact L.2 q1
    · rw [if_neg (by omega), if_neg k0, if_neg (by omega), if_neg (by omega), if_neg (by omega), w4] at sk
      unfold st1; rw [sk]; dsimp only
      rw [if_neg (show ¬ (a ≠ t ∧ (ls a).1 = 1) by omega)]
      exact L.1 (by omega)
  have w0 : wrdN (ls a) = 0 := by unfold wrdN; rw [if_neg k2, if_neg k3, if_neg k4]
  rw [if_neg (by omega), if_neg k0] at sk
  by_cases k5 : (ls a).1 = 5
  · rw [if_neg (by omega), if_neg (by omega), if_neg (by omega), w0, w_eq] at sk
    unfold st1; rw [sk]; dsimp only
    rw [if_neg (show ¬ (a ≠ t ∧ (ls a).1 = 1) by omega)]
    unfold lnE at l1
    rw [if_neg k0, if_neg k1, if_neg k2, if_neg k3, if_neg k4, if_pos k5, ← lph] at l1
    have gk : goK (ls a).1 = goK 5 := by rw [k5]
    rw [gk]
    refine OE.le ?_ (m_X11_go (d := d) (v0 := p) (v1 := .ref (q0 + 6)) (v2 := .ref (useP q0 it R u)) (v3 := Int32.ofNat a) (h := h) rfl rfl)
    obtain ⟨d, rfl, -⟩ := d_succ (k := 12) (by omega : 13 ≤ d)
    have vv : ∀ z, ax_c (d + 1) 293 [.ref (q0 + 6), .ref lq, .ref z, .int (Int32.ofNat a)] h = some (.inl (some (.int 0)), h) := fun z => dx_app (m_X18_value rfl rfl) rfl
    have pp : ∀ z w, ax_c (d + 1) 294 [.ref (q0 + 6), .int z, .int w] h = some (.inl none, h) := fun z w => dx_app m_X18_point rfl
    rw [gI_at l1 rfl rfl, Option.bind_some, gA_r l1 rfl rfl, Option.bind_some, C.vn, Option.bind_some, if_pos rfl, vv, cI_v, C.vn, Option.bind_some, if_pos rfl, pp, cV_v, na1]
    exact Ok.ret ⟨mc, arr, cap, B, C.at (a + 1)⟩
  by_cases k7 : (ls a).1 = 7
  · rw [if_neg (by omega), if_pos k7] at sk
    unfold st1; rw [sk]
    have gk : goK (ls a).1 = goK 7 := by rw [k7]
    rw [gk]
    refine OE.le ?_ (m_X13_go (d := d) (v0 := p) (v1 := .ref (q0 + 6)) (v2 := .ref (useP q0 it R u)) (v3 := Int32.ofNat a) (h := h) rfl rfl)
    obtain ⟨ea, ew, E, E1, E2⟩ := B.ext (by omega) (by omega) (by omega)
    have o1 : OLD (ax_new h (.inr (28, [.int 0, .int 0, .null])) 8) := (Z.old E).mono fun q hq => new_ne _ _ (by omega)
    obtain ⟨e1, e2, e3, e4, e5⟩ := E
    have s1 : (ax_new h (.inr (28, [.int 0, .int 0, .null])) 8).2.1 = h.2.1 + 1 := rfl
    have s2 : (ax_new h (.inr (28, [.int 0, .int 0, .null])) 8).2.2 = h.2.2 + 8 := rfl
    rw [nw_at]
    refine OkX.V (ex_wrong (v := 4) (l := a) (by omega) o1 (a := 400 + h.2.1) (by omega) (by rw [s1]; omega) (new_eq _ _) (by omega) (by omega)) ?_
    rintro h2 ⟨x1, x2, x3, x4, x5, x6⟩
    refine OkX.x0 (by omega) x1 rfl ⟨by omega, x1, fun q hq => ?_, by omega, by omega, by omega, by omega⟩
    exact (x6 q (by omega) (by omega)).trans ((new_ne _ _ (by omega)).trans (e1 q hq))
  have k6 : (ls a).1 = 6 := by omega
  rw [if_pos k6] at sk
  unfold lnE at l1
  rw [if_neg k0, if_neg k1, if_neg k2, if_neg k3, if_neg k4, if_neg k5, if_pos k6, ← lph] at l1
  have gk : goK (ls a).1 = goK 6 := by rw [k6]
  rw [gk]
  refine OE.le ?_ (m_X12_go (d := d) (v0 := p) (v1 := .ref (q0 + 6)) (v2 := .ref (useP q0 it R u)) (v3 := Int32.ofNat a) (h := h) rfl rfl)
  rw [gI_at l1 rfl rfl, Option.bind_some, C.vn, Option.bind_some, if_pos rfl]
  obtain ⟨D1, D2⟩ := x_define (d := d) Z B (by omega) (by omega) (by omega) ⟨B.ap1 (by omega) (by omega), B.ap1 (by omega) (by omega)⟩ q4 C ha k6 (by omega)
  by_cases hm : mac (nn (ls a).2.1) ≠ none
  · rw [if_pos hm] at sk
    unfold st1; rw [sk]
    exact OkX.xI (D1 hm fun x y z => by have := I2 _ _ _ z; omega) fun i h' W => W.x0
  have hm := Classical.not_not.mp hm
  rw [if_neg (show ¬ mac (nn (ls a).2.1) ≠ none from fun z => z hm)] at sk
  obtain ⟨D3, D4⟩ := D2 hm
  cases hx : nxM ls (n - (a + 1)) (a + 1) with
  | none =>
    rw [hx] at sk
    unfold st1; rw [sk]
    exact OkX.xI (D3 hx) fun i h' W => W.x0
  | some e =>
    rw [hx] at sk
    dsimp only at sk
    by_cases e6 : (ls e).1 = 6
    · rw [if_pos e6] at sk
      unfold st1; rw [sk]
      exact OkX.xI ((D4 e hx).1 e6) fun i h' W => W.x0
    · rw [if_neg e6] at sk
      unfold st1; rw [sk]; dsimp only
      rw [if_neg (show ¬ (a ≠ t ∧ (ls a).1 = 1) by omega)]
      refine Ok.I ((D4 e hx).2 e6) fun h' X => ?_
      exact Ok.ret ⟨mc, arr, cap, X.1, X.2.1.at (e + 1)⟩
end CLS
