/-! the cells stay within bounds -/
/- with GD.up GD.app WC reckW moveW serveO interW passW pushW pullW stopW readW -/
/-- bounds of cells; B: of the keys read, of the timer -/
def bn (B : Nat × Nat) (p : Nat) : Option Nat := if p = 0 then some 3 else if p = 1 then some 4 else if p < 3 then none else if p = 3 then some 65535 else if p = 4 then some 256 else if p < 10 then some 1 else if p = 10 then some 65535 else if p < 12 then some B.2 else if p < 16 then some 65535 else if p = 16 then some B.1 else if p = 17 then some 60 else if p < 24 then none else if p < 48 then some 65535 else if p < 108 then some 65535 else if p = 364 then none else if p < 621 then some 65535 else none
def gd (B : Nat × Nat) (p : Nat) (x : Int32) : Prop := ∀ k, bn B p = some k → rg k x
def GD (B : Nat × Nat) (c : Nat → Int32) : Prop := ∀ p, gd B p (c p)
theorem bn_mem {B : Nat × Nat} {a : Nat} (h : a < 256) : bn B (108 + a) = some 65535 ∧ bn B (365 + a) = some 65535 := by
  unfold bn
  constructor <;> simp only [show ¬ 108 + a = 0 by omega, show ¬ 108 + a = 1 by omega, show ¬ 108 + a = 10 by omega, show ¬ 108 + a < 3 by omega, show ¬ 108 + a = 3 by omega, show ¬ 108 + a = 4 by omega, show ¬ 108 + a < 10 by omega, show ¬ 108 + a < 12 by omega, show ¬ 108 + a < 16 by omega, show ¬ 108 + a = 16 by omega, show ¬ 108 + a = 17 by omega, show ¬ 108 + a < 24 by omega, show ¬ 108 + a < 48 by omega, show ¬ 108 + a < 108 by omega, show ¬ 108 + a = 364 by omega, show 108 + a < 621 by omega, show ¬ 365 + a = 0 by omega, show ¬ 365 + a = 1 by omega, show ¬ 365 + a = 10 by omega, show ¬ 365 + a < 3 by omega, show ¬ 365 + a = 3 by omega, show ¬ 365 + a = 4 by omega, show ¬ 365 + a < 10 by omega, show ¬ 365 + a < 12 by omega, show ¬ 365 + a < 16 by omega, show ¬ 365 + a = 16 by omega, show ¬ 365 + a = 17 by omega, show ¬ 365 + a < 24 by omega, show ¬ 365 + a < 48 by omega, show ¬ 365 + a < 108 by omega, show ¬ 365 + a = 364 by omega, show 365 + a < 621 by omega, if_true, if_false]
theorem bn_reg {B : Nat × Nat} {r : Nat} (h : r < 4) : bn B (12 + r) = some 65535 := by
  obtain rfl | rfl | rfl | rfl : r = 0 ∨ r = 1 ∨ r = 2 ∨ r = 3 := by omega
  all_goals rfl
theorem bn_pl {B : Nat × Nat} {q : Nat} (h : q < 24) : bn B (24 + q) = some 65535 := by
  unfold bn
  simp only [show ¬ 24 + q = 0 by omega, show ¬ 24 + q = 1 by omega, show ¬ 24 + q = 10 by omega, show ¬ 24 + q < 3 by omega, show ¬ 24 + q = 3 by omega, show ¬ 24 + q = 4 by omega, show ¬ 24 + q < 10 by omega, show ¬ 24 + q < 12 by omega, show ¬ 24 + q < 16 by omega, show ¬ 24 + q = 16 by omega, show ¬ 24 + q = 17 by omega, show ¬ 24 + q < 24 by omega, show 24 + q < 48 by omega, if_true, if_false]
theorem bn_tp {B : Nat × Nat} {i : Nat} (h : i < 60) : bn B (48 + i) = some 65535 := by
  unfold bn
  simp only [show ¬ 48 + i = 0 by omega, show ¬ 48 + i = 1 by omega, show ¬ 48 + i = 10 by omega, show ¬ 48 + i < 3 by omega, show ¬ 48 + i = 3 by omega, show ¬ 48 + i = 4 by omega, show ¬ 48 + i < 10 by omega, show ¬ 48 + i < 12 by omega, show ¬ 48 + i < 16 by omega, show ¬ 48 + i = 16 by omega, show ¬ 48 + i = 17 by omega, show ¬ 48 + i < 24 by omega, show ¬ 48 + i < 48 by omega, show 48 + i < 108 by omega, if_true, if_false]
theorem bn_lt {B : Nat × Nat} {p k : Nat} (hB : B.1 < 2 ^ 31) (hT : B.2 < 2 ^ 31) (h : bn B p = some k) : k < 2 ^ 31 := by
  have key : ∀ {p : Prop} [Decidable p] {a b : Option Nat}, (a = some k → k < 2 ^ 31) → (b = some k → k < 2 ^ 31) → (if p then a else b) = some k → k < 2 ^ 31 := by
    intro p _ a b ha hb e
    by_cases q : p
    · rw [if_pos q] at e; exact ha e
    · rw [if_neg q] at e; exact hb e
  have no : (none : Option Nat) = some k → k < 2 ^ 31 := fun z => by cases z
  have so : ∀ j, j < 2 ^ 31 → some j = some k → k < 2 ^ 31 := fun j hj z => by cases z; exact hj
  revert h
  unfold bn
  exact key (so _ (by omega)) (key (so _ (by omega)) (key no (key (so _ (by omega)) (key (so _ (by omega)) (key (so _ (by omega)) (key (so _ (by omega)) (key (so _ hT) (key (so _ (by omega)) (key (so _ hB) (key (so _ (by omega)) (key no (key (so _ (by omega)) (key (so _ (by omega)) (key no (key (so _ (by omega)) no)))))))))))))))
theorem rg1 {x : Int32} (h : rg 1 x) : x = 0 ∨ x = 1 := by
  obtain ⟨n1, n2⟩ := rg.nat h
  rcases Nat.lt_or_ge (nn x) 1 with z | z
  · exact Or.inl (by rw [n2, show nn x = 0 by omega]; rfl)
  · exact Or.inr (by rw [n2, show nn x = 1 by omega]; rfl)
theorem rg0 {k : Nat} (hk : k < 2 ^ 31) : rg k 0 := rg.of (n := 0) (by omega) hk
theorem rg0' (k : Nat) : rg k 0 := ⟨by decide, Int.natCast_nonneg k⟩
theorem rg_1 {k : Nat} (h : 1 ≤ k) (hk : k < 2 ^ 31) : rg k 1 := rg.of (n := 1) h hk
theorem rg.of1 {x : Int32} (h : x = 0 ∨ x = 1) : rg 1 x := h.elim (fun z => by rw [z]; exact rg0 (by omega)) (fun z => by rw [z]; exact rg_1 (by omega) (by omega))
theorem rg_ite {k : Nat} {p : Prop} [Decidable p] {a b : Int32} (ha : rg k a) (hb : rg k b) : rg k (if p then a else b) := by
  split
  · exact ha
  · exact hb
theorem i2c_rg (x : Int32) : rg 65535 (dx_i2c x) := by
  have e : x = Int32.ofNat x.toBitVec.toNat := by
    apply Int32.toBitVec_inj.mp
    show x.toBitVec = BitVec.ofNat 32 x.toBitVec.toNat
    rw [BitVec.ofNat_toNat, BitVec.setWidth_eq]
  rw [e, i2c_nat]
  exact rg.of (by omega) (by omega)
section GDS
variable {c : Nat → Int32} {K : kk_K} {B : Nat × Nat} {p : Nat} {x : Int32}
theorem GD.up (G : GD B c) (h : gd B p x) : GD B (upd c p x) := by
  intro q
  rw [upd_at]
  by_cases e : q = p
  · rw [if_pos e, e]; exact h
  · rw [if_neg e]; exact G q
theorem rg.mono {k k' : Nat} (h : rg k x) (hk : k ≤ k') : rg k' x := ⟨h.1, by have := h.2; omega⟩
theorem GD.wc (G : GD B c) (hB : B.1 ≤ 20) : WC c := ⟨G 3 _ rfl, G 4 _ rfl, fun i hi => G (12 + i) _ (bn_reg hi), (G 16 B.1 rfl).mono hB, G 17 _ rfl, fun a ha => G (108 + a) _ (bn_mem ha).1, fun a ha => G (365 + a) _ (bn_mem ha).2⟩
theorem GD.f01 (G : GD B c) : F01 c := fun p h1 h2 => by
  refine rg1 (G p 1 ?_)
  obtain rfl | rfl | rfl | rfl | rfl : p = 5 ∨ p = 6 ∨ p = 7 ∨ p = 8 ∨ p = 9 := by omega
  all_goals rfl
theorem GD.pl (G : GD B c) {q : Nat} (h : q < 24) : rg 65535 (c (24 + q)) := G (24 + q) _ (bn_pl h)
theorem gd_no (h : bn B p = none) : gd B p x := fun k z => by rw [h] at z; cases z
theorem gd_k {k : Nat} (h : bn B p = some k) (hx : rg k x) : gd B p x := fun k' z => by rw [h] at z; cases z; exact hx
theorem gd_mem {a : Nat} (h : a < 256) (hx : rg 65535 x) : gd B (108 + a) x := gd_k (bn_mem h).1 hx
theorem gd_dsk {a : Nat} (h : a < 256) (hx : rg 65535 x) : gd B (365 + a) x := gd_k (bn_mem h).2 hx
theorem gd_reg {r : Nat} (h : r < 4) (hx : rg 65535 x) : gd B (12 + r) x := gd_k (bn_reg h) hx
/-- a place that is no part of a call, no place of the disk -/
def lop (p : Nat) (x : Int32) : Prop := (p < 18 ∧ p ≠ 2 ∧ p ≠ 0) ∨ (48 ≤ p ∧ p < 365) ∨ (p = 0 ∧ x ≠ 0)
def OKW (B : Nat × Nat) (c : Nat → Int32) (ws : ce_W) : Prop := GD B (apW c ws) ∧ ∀ q, q ∈ ws → lop q.1 q.2
theorem OKW.nil (G : GD B c) : OKW B c [] := ⟨G, fun q hq => absurd hq List.not_mem_nil⟩
theorem OKW.cons {ws : ce_W} (h : lop p x) (A : OKW B (upd c p x) ws) : OKW B c ((p, x) :: ws) := ⟨A.1, fun q hq => by
  rcases List.mem_cons.mp hq with rfl | hq
  · exact h
  · exact A.2 q hq⟩
theorem OKW.one (G : GD B c) (h : gd B p x) (l : lop p x) : OKW B c [(p, x)] := OKW.cons l (OKW.nil (G.up h))
theorem OKW.app {u v : ce_W} (A : OKW B c u) (A2 : OKW B (apW c u) v) : OKW B c (u ++ v) := ⟨by rw [apW_app]; exact A2.1, fun q hq => (List.mem_append.mp hq).elim (A.2 q) (A2.2 q)⟩
theorem OKW.at {ws : ce_W} (A : OKW B c ws) (hp : p = 2 ∨ (18 ≤ p ∧ p < 48) ∨ 365 ≤ p) : apW c ws p = c p := by
  obtain ⟨-, A⟩ := A
  revert A
  induction ws generalizing c with
  | nil => intro _; rfl
  | cons a ws ih =>
    intro A
    show apW (upd c a.1 a.2) ws p = _
    have h := A a List.mem_cons_self
    unfold lop at h
    rw [ih (fun q hq => A q (List.mem_cons_of_mem _ hq)), upd_ne _ _ (by omega)]
theorem OKW.at0 {ws : ce_W} (A : OKW B c ws) (h0 : c 0 ≠ 0) : apW c ws 0 ≠ 0 := by
  obtain ⟨-, A⟩ := A
  revert h0
  revert A
  induction ws generalizing c with
  | nil => intro _ h0; exact h0
  | cons a ws ih =>
    intro A h0
    refine ih (fun q hq => A q (List.mem_cons_of_mem _ hq)) ?_
    show upd c a.1 a.2 0 ≠ 0
    rw [upd_at]
    by_cases e : 0 = a.1
    · rw [if_pos e]
      rcases A a List.mem_cons_self with z | z | z
      · omega
      · omega
      · exact z.2
    · rw [if_neg e]; exact h0
theorem stop_ok (G : GD B c) {f : Int32} (hf : rg 4 f) : OKW B c (stopW f) := OKW.cons (Or.inr (Or.inr ⟨rfl, by decide⟩)) (OKW.one (G.up (gd_k (k := 3) rfl (rg.of (n := 3) (by omega) (by omega)))) (gd_k (k := 4) rfl hf) (Or.inl (by omega)))
theorem push_ok (G : GD B c) (hB : B.1 ≤ 20) (h1 : 1 ≤ c 4) {w : Int32} (hw : rg 65535 w) : OKW B c (pushW c w) := by
  obtain ⟨d1, d2, d3⟩ := rg_dec (G.wc hB).2.1 h1
  refine OKW.cons (Or.inl (by omega)) (OKW.one (G.up (gd_k (k := 256) rfl ?_)) (gd_mem d3 hw) (Or.inr (Or.inl (by omega))))
  rw [d2]; exact rg.of (by omega) (by omega)
theorem pull_ok (G : GD B c) (hB : B.1 ≤ 20) (h1 : c 4 + 1 ≤ 256) : OKW B c (pullW c) ∧ rg 65535 (pullV c) := by
  obtain ⟨c1, c2⟩ := rg.nat (rg_h1 (G.wc hB).2.1 h1)
  refine ⟨OKW.one G (gd_k (k := 256) rfl ?_) (Or.inl (by omega)), (G.wc hB).2.2.2.2.2.1 _ (by omega)⟩
  rw [c2, show Int32.ofNat (nn (c 4)) + 1 = Int32.ofNat (nn (c 4) + 1) from i_add _ 1]
  exact rg.of (by omega) (by omega)
theorem less_rg (op : Int32) (its : Int64) : rg 1 (lessOf op its) := by
  unfold lessOf
  exact rg_ite (rg_ite (rg0 (by omega)) (rg_1 (by omega) (by omega))) (rg_ite (rg0 (by omega)) (rg_ite (rg0 (by omega)) (rg_1 (by omega) (by omega))))
theorem bit_rg {x : Int32} (h : rg 65535 x) : rg 1 (x &&& 1) ∧ rg 1 (dx_shr x 1 &&& 1) := by
  obtain ⟨c1, c2⟩ := rg.nat h
  rw [c2]
  constructor
  · rw [and1_nat (by omega)]; exact rg.of (by omega) (by omega)
  · rw [show dx_shr (Int32.ofNat (nn x)) 1 = Int32.ofNat (nn x / 2 ^ 1) from shr_nat (j := 1) (by omega) (by omega), and1_nat (by omega)]; exact rg.of (by omega) (by omega)
/-- keys are words -/
def KG (K : kk_K) : Prop := K.1 ≤ 20 ∧ ∀ k, k < K.1 → rg 65535 (K.2.2 k)
theorem read_ok (G : GD B c) (hB : B.1 ≤ 20) (KK : KG K) (hk : B.1 = toldN K.2.1 0 (c 2) K.1) : OKW B c (readW K c) ∧ rg 65535 (readV K c) := by
  obtain ⟨c1, c2⟩ := rg.nat (G 16 B.1 rfl)
  have hl := toldN_le K.2.1 0 (c 2) K.1
  have h20 := KK.1
  unfold readW readV
  by_cases q : c 16 = Int32.ofNat (toldN K.2.1 0 (c 2) K.1)
  · rw [if_pos q, if_pos q]; exact ⟨OKW.nil G, rg.of (n := 65535) (by omega) (by omega)⟩
  · rw [if_neg q, if_neg q]
    have ne : nn (c 16) ≠ toldN K.2.1 0 (c 2) K.1 := fun z => q (c2.trans (congrArg _ z))
    refine ⟨OKW.one G (gd_k (k := B.1) rfl ?_) (Or.inl (by omega)), KK.2 _ (by omega)⟩
    rw [c2, show Int32.ofNat (nn (c 16)) + 1 = Int32.ofNat (nn (c 16) + 1) from i_add _ 1]
    exact rg.of (by omega) (by omega)
theorem op_ok (G : GD B c) (hB : B.1 ≤ 20) (KK : KG K) (hk : B.1 = toldN K.2.1 0 (c 2) K.1) {o r y : Nat} (ho : o ≤ 25) (hr : r < 4) (hy : y < 65536) (h3 : nn (c 3) + 1 < 256) {ws : ce_W} {nx : Int32} (e : opO K c o (12 + r) y (c 3 + 2) = .inl (ws, nx)) : OKW B c (ws ++ [(3, nx)]) := by
  have W := (G.wc hB)
  obtain ⟨k1, k2⟩ := rg.nat W.1
  have n2 : c 3 + 2 = Int32.ofNat (nn (c 3) + 2) := (congrArg (· + 2) k2).trans (i_add _ 2)
  have rn : rg 65535 (c 3 + 2) := by rw [n2]; exact rg.of (by omega) (by omega)
  have rn2 : rg 65535 (c 3 + 2 - 2) := by rw [Int32.add_sub_cancel]; exact W.1
  have ry : rg 65535 (Int32.ofNat y) := rg.of (by omega) (by omega)
  have nr : nn (Int32.ofNat (12 + r)) = 12 + r := nn_of (by omega)
  have fin : ∀ {ws : ce_W} {nx : Int32}, OKW B c ws → rg 65535 nx → OKW B c (ws ++ [(3, nx)]) := fun A h => A.app (OKW.one A.1 (gd_k (k := 65535) rfl h) (Or.inl (by omega)))
  have key : ∀ {x : (ce_W × Int32) ⊕ Int32}, x = .inl (ws, nx) → (∀ ws' nx', x = .inl (ws', nx') → OKW B c ws' ∧ rg 65535 nx') → OKW B c (ws ++ [(3, nx)]) := fun ex h => by
    have := h _ _ ex
    exact fin this.1 this.2
  have yes : ∀ {ws' ws : ce_W} {nx' nx : Int32}, OKW B c ws → rg 65535 nx → (.inl (ws, nx) : (ce_W × Int32) ⊕ Int32) = .inl (ws', nx') → OKW B c ws' ∧ rg 65535 nx' := fun a b e => by cases e; exact ⟨a, b⟩
  have not : ∀ {f : Int32} {ws' : ce_W} {nx' : Int32}, (.inr f : (ce_W × Int32) ⊕ Int32) = .inl (ws', nx') → OKW B c ws' ∧ rg 65535 nx' := fun e => by cases e
  have ite' : ∀ {p : Prop} [Decidable p] {a b : (ce_W × Int32) ⊕ Int32} {ws' : ce_W} {nx' : Int32}, (p → a = .inl (ws', nx') → OKW B c ws' ∧ rg 65535 nx') → (¬ p → b = .inl (ws', nx') → OKW B c ws' ∧ rg 65535 nx') → (if p then a else b) = .inl (ws', nx') → OKW B c ws' ∧ rg 65535 nx' := by
    intro p _ a b ws' nx' ha hb e
    by_cases q : p
    · rw [if_pos q] at e; exact ha q e
    · rw [if_neg q] at e; exact hb q e
  have reg : ∀ {x : Int32} {c' : Nat → Int32}, GD B c' → rg 65535 x → OKW B c' [(nn (Int32.ofNat (12 + r)), x)] := fun G' h => by rw [nr]; exact OKW.one (p := 12 + r) G' (gd_reg hr h) (Or.inl (show 12 + r < 18 ∧ 12 + r ≠ 2 ∧ 12 + r ≠ 0 by omega))
  refine key e fun ws' nx' => ?_
  unfold opO
  refine ite' (fun q => yes ?_ rn) fun q => ite' (fun q2 => ?_) fun q2 => ?_
  · unfold reckW
    dsimp only
    have G1 : GD B (upd c 6 (lessOf (Int32.ofNat o) (itsOf (Int32.ofNat o) (c (nn (Int32.ofNat (12 + r)))).toInt64 (Int32.ofNat y).toInt64 (Int32.ofNat y)))) := G.up (gd_k (k := 1) rfl (less_rg _ _))
    refine OKW.cons (Or.inl (by omega)) (OKW.cons (Or.inl (by omega)) ?_)
    have G2 := G1.up (p := 5) (x := if cutI (itsOf (Int32.ofNat o) (c (nn (Int32.ofNat (12 + r)))).toInt64 (Int32.ofNat y).toInt64 (Int32.ofNat y)) = 0 then 1 else 0) (gd_k (k := 1) rfl (rg_ite (rg_1 (by omega) (by omega)) (rg0 (by omega))))
    by_cases q : Int32.ofNat o = 11
    · rw [if_pos q]; exact OKW.nil G2
    · rw [if_neg q]; exact reg G2 (i2c_rg _)
  · unfold moveW
    refine ite' (fun _ => yes (OKW.one G (gd_k (k := 3) rfl (rg.of (n := 2) (by omega) (by omega))) (Or.inr (Or.inr ⟨rfl, by decide⟩))) rn2) fun _ => ?_
    refine ite' (fun _ => yes (reg G ry) rn) fun _ => ?_
    refine ite' (fun _ => ite' (fun y2 => yes (reg G ?_) rn) fun _ => not) fun _ => ?_
    · have y3 := (i_lt (b := 256) (by omega) (by omega)).mp y2
      rw [show (108 : Int32) + Int32.ofNat y = Int32.ofNat (108 + y) from i_add 108 y, nn_of (by omega)]
      exact W.2.2.2.2.2.1 y y3
    refine ite' (fun _ => ite' (fun y2 => yes ?_ rn) fun _ => not) fun _ => ?_
    · have y3 := (i_lt (b := 256) (by omega) (by omega)).mp y2
      rw [show (108 : Int32) + Int32.ofNat y = Int32.ofNat (108 + y) from i_add 108 y, nn_of (by omega), nr]
      exact OKW.one G (gd_mem y3 (W.2.2.1 r hr)) (Or.inr (Or.inl (by omega)))
    refine ite' (fun _ => yes (OKW.nil G) ry) fun _ => ?_
    refine ite' (fun _ => yes (OKW.nil G) (rg_ite ry rn)) fun _ => ?_
    refine ite' (fun _ => yes (OKW.nil G) (rg_ite ry rn)) fun _ => ?_
    refine ite' (fun _ => ite' (fun h1 => yes (push_ok G hB h1 rn) ry) fun _ => not) fun _ => ?_
    refine ite' (fun _ => ite' (fun h1 => yes (pull_ok G hB h1).1 (pull_ok G hB h1).2) fun _ => not) fun _ => ?_
    refine ite' (fun _ => ite' (fun h1 => yes (push_ok G hB h1 ry) rn) fun _ => not) fun _ => ?_
    exact ite' (fun h1 => yes ((pull_ok G hB h1).1.app (reg (pull_ok G hB h1).1.1 (pull_ok G hB h1).2)) rn) fun _ => not
  · unfold serveO
    refine ite' (fun _ => yes (OKW.one G (gd_k (k := 1) rfl (rg_1 (by omega) (by omega))) (Or.inl (by omega))) rn) fun h19 => ?_
    refine ite' (fun _ => yes (OKW.one G (gd_k (k := 1) rfl (rg0 (by omega))) (Or.inl (by omega))) rn) fun h20 => ?_
    refine ite' (fun _ => ite' (fun h1 => ?_) fun _ => not) fun h21 => ?_
    · obtain ⟨c1, c2⟩ := rg.nat W.2.1
      rw [c2, show Int32.ofNat (nn (c 4)) + 2 = Int32.ofNat (nn (c 4) + 2) from i_add _ 2] at h1
      have h1 := (i_le (b := 256) (by omega) (by omega)).mp h1
      have ha : c 4 + 1 ≤ 256 := by
        rw [c2, show Int32.ofNat (nn (c 4)) + 1 = Int32.ofNat (nn (c 4) + 1) from i_add _ 1]
        exact (i_le (b := 256) (by omega) (by omega)).mpr (by omega)
      obtain ⟨p1, p2⟩ := pull_ok G hB ha
      obtain ⟨b1, b2⟩ := bit_rg p2
      have w2 : OKW B c (pullW c ++ [(5, pullV c &&& 1), (6, dx_shr (pullV c) 1 &&& 1), (7, 1)]) := p1.app (OKW.cons (Or.inl (by omega)) (OKW.cons (Or.inl (by omega)) (OKW.one ((p1.1.up (gd_k (k := 1) rfl b1)).up (gd_k (k := 1) rfl b2)) (gd_k (k := 1) rfl (rg_1 (by omega) (by omega))) (Or.inl (by omega)))))
      have hb : apW c (pullW c ++ [(5, pullV c &&& 1), (6, dx_shr (pullV c) 1 &&& 1), (7, 1)]) 4 + 1 ≤ 256 := by
        show c 4 + 1 + 1 ≤ 256
        rw [c2, show Int32.ofNat (nn (c 4)) + 1 = Int32.ofNat (nn (c 4) + 1) from i_add _ 1, show Int32.ofNat (nn (c 4) + 1) + 1 = Int32.ofNat (nn (c 4) + 1 + 1) from i_add _ 1]
        exact (i_le (b := 256) (by omega) (by omega)).mpr (by omega)
      obtain ⟨p3, p4⟩ := pull_ok w2.1 hB hb
      exact yes (w2.app p3) p4
    refine ite' (fun _ => yes (OKW.nil G) (rg_ite rn2 rn)) fun h22 => ?_
    refine ite' (fun _ => yes (OKW.cons (Or.inl (by omega)) (OKW.one (G.up (gd_k (k := 65535) rfl ry)) (gd_k (k := B.2) rfl (rg0' _)) (Or.inl (by omega)))) rn) fun h23 => ?_
    refine ite' (fun _ => yes ((read_ok G hB KK hk).1.app (reg (read_ok G hB KK hk).1.1 (read_ok G hB KK hk).2)) rn) fun h24 => ?_
    refine ite' (fun _ => ite' (fun _ => not) fun h60 => yes ?_ rn) fun h25 => ?_
    · obtain ⟨c1, c2⟩ := rg.nat W.2.2.2.2.1
      have : nn (c 17) ≠ 60 := fun z => h60 (by rw [c2, z]; rfl)
      refine OKW.cons (Or.inr (Or.inl (by omega))) (OKW.one (G.up (gd_k (bn_tp (by omega)) ry)) (gd_k (k := 60) rfl ?_) (Or.inl (by omega)))
      rw [c2, show Int32.ofNat (nn (c 17)) + 1 = Int32.ofNat (nn (c 17) + 1) from i_add _ 1]
      exact rg.of (by omega) (by omega)
    · intro _
      exfalso
      have cs : ∀ x, Int32.ofNat o ≠ Int32.ofNat x → o ≠ x := fun x h z => h (by rw [z])
      have := cs 19 h19
      have := cs 20 h20
      have := cs 21 h21
      have := cs 22 h22
      have := cs 23 h23
      have := cs 24 h24
      have := cs 25 h25
      omega
end GDS
