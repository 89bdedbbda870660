/-! the class goes through all lines the first way -/
/- with lnD lnV lnE LnC opK CLW GO OLD Ext CPS CB AP WR useP CB.ext CB.mv CB.set CB.ap1 CPS.mv CPS.lk CPS.vn CPS.incG CPS.incU WR.x0 x_check0 x_check1 al_addB AL.mono st1 skS st1_sk sk_inv goG goG_split SKI FRK FRK.len OE OE.le R1 hdA goK PRE LNW x_line1 PRE.go PRE.line PRE.size PRE.V lnE_go CPS.at Ok.ret -/
/-- the labels that aren't set; the values of those that are -/
def LIV (S : skT × (Nat → Int32)) : Prop := (∀ i, 20 + 4 * S.1.2.2.2.2.2 ≤ i → S.2 i = -1) ∧ ∀ i, S.2 i = -1 ∨ rg 1248 (S.2 i)
section CGS
variable {H h h' : ax_H} {q0 nU c1 c2 arr cap pk pb d k p a w e l j u sec g us n t m x y b : Nat} {it : Nat → Nat} {lab bu : Nat → Int32} {bh wd mc v : Int32} {σ σ' : skT} {R F G : List frT} {sz : Nat → Nat} {mac : Nat → Option (Nat × Nat)} {ls : Nat → lnD} {P : Nat → Prop} {iv : Value}
/-- what a step does to the frames -/
theorem sk_fr (h : skS ls n ((a, t, u, m) :: R, mac, sec, sz, g, us) = .inl σ') : (a = t ∧ σ' = (R, mac, sec, sz, g, us)) ∨ (a ≠ t ∧ (ls a).1 ≠ 8 ∧ σ'.2.2.2.2.2 = us ∧ ∃ a', σ'.1 = (a', t, u, m) :: R) ∨ (a ≠ t ∧ (ls a).1 = 8 ∧ ∃ x y, mac (nn (ls a).2.2.2.2.2) = some (x, y) ∧ (¬ ∃ f, f ∈ (a, t, u, m) :: R ∧ f.2.2.2 = nn (ls a).2.2.2.2.2) ∧ σ' = ((x, y, us, nn (ls a).2.2.2.2.2) :: (a + 1, t, u, m) :: R, mac, sec, sz, g + 1, us + 1)) := by
  unfold skS at h
  dsimp only at h
  by_cases e : a = t
  · rw [if_pos e] at h; cases h; exact Or.inl ⟨e, rfl⟩
  rw [if_neg e] at h
  right
  by_cases e1 : 300 < g + 1 ∨ (0 < wrdN (ls a) ∧ 248 < sz 0 + sz 1 + wrdN (ls a))
  · rw [if_pos e1] at h; cases h
  rw [if_neg e1] at h
  by_cases k0 : (ls a).1 = 0
  · rw [if_pos k0] at h; cases h; exact Or.inl ⟨e, by omega, rfl, _, rfl⟩
  rw [if_neg k0] at h
  by_cases k6 : (ls a).1 = 6
  · rw [if_pos k6] at h
    split at h
    · cases h
    split at h
    · cases h
    · split at h
      · cases h
      · cases h; exact Or.inl ⟨e, by omega, rfl, _, rfl⟩
  rw [if_neg k6] at h
  by_cases k7 : (ls a).1 = 7
  · rw [if_pos k7] at h; cases h
  rw [if_neg k7] at h
  by_cases k8 : (ls a).1 = 8
  · rw [if_pos k8] at h
    cases hm : mac (nn (ls a).2.2.2.2.2) with
    | none => rw [hm] at h; cases h
    | some xy =>
      obtain ⟨x, y⟩ := xy
      rw [hm] at h
      dsimp only at h
      by_cases ex : ∃ f, f ∈ (a, t, u, m) :: R ∧ f.2.2.2 = nn (ls a).2.2.2.2.2
      · rw [if_pos ex] at h; cases h
      rw [if_neg ex] at h
      cases h
      exact Or.inr ⟨e, k8, x, y, rfl, ex, rfl⟩
  rw [if_neg k8] at h
  cases h
  exact Or.inl ⟨e, k8, rfl, _, rfl⟩
theorem sk_tail {f : frT} (h : skS ls n σ = .inl σ') (e : σ.1 = f :: R) : ∃ G, σ'.1 = G ++ R := by
  obtain ⟨F, mac, sec, sz, g, us⟩ := σ
  dsimp only at e
  subst e
  obtain ⟨a, t, u, m⟩ := f
  rcases sk_fr h with ⟨-, z⟩ | ⟨-, -, -, a', z⟩ | ⟨-, -, x, y, -, -, z⟩
  · exact ⟨[], by rw [z]; rfl⟩
  · exact ⟨[(a', t, u, m)], by rw [z]; rfl⟩
  · exact ⟨[(x, y, us, nn (ls a).2.2.2.2.2), (a + 1, t, u, m)], by rw [z]; rfl⟩
/-- the frames below stay -/
theorem go_stk {S : Type} {st : S → S ⊕ (Nat × Nat)} {pr : S → skT} (hs : ∀ s s', st s = .inl s' → skS ls n (pr s) = .inl (pr s')) : ∀ f (s s' : S) G, (pr s).1 = G ++ R → goG st (fun s => (pr s).1.length) f R.length s = some (.inl s') → (pr s').1 = R := by
  intro f
  induction f with
  | zero => intro s s' G e h; exact absurd h (by unfold goG; exact fun z => by cases z)
  | succ f ih =>
    intro s s' G e h
    unfold goG at h
    cases G with
    | nil =>
      rw [if_pos (by rw [e]; exact Nat.le_refl _)] at h
      cases h
      rw [e]; rfl
    | cons F G =>
      rw [if_neg (by rw [e, List.cons_append, List.length_cons, List.length_append]; omega)] at h
      cases hx : st s with
      | inr x => rw [hx] at h; cases h
      | inl x =>
        rw [hx] at h
        obtain ⟨G', e'⟩ := sk_tail (hs s x hx) e
        have e' : (pr x).1 = G' ++ (G ++ R) := e'
        rw [← List.append_assoc] at e'
        exact ih x s' _ e' h
/-- what holds stays -/
theorem go_inv {S E : Type} {st : S → S ⊕ E} {ln : S → Nat} {Inv : S → Prop} (hs : ∀ s s', Inv s → 0 < ln s → st s = .inl s' → Inv s') : ∀ f b (s s' : S), Inv s → goG st ln f b s = some (.inl s') → Inv s' := by
  intro f
  induction f with
  | zero => intro b s s' _ h; exact absurd h (by unfold goG; exact fun z => by cases z)
  | succ f ih =>
    intro b s s' I h
    unfold goG at h
    by_cases e : ln s ≤ b
    · rw [if_pos e] at h; cases h; exact I
    · rw [if_neg e] at h
      cases hx : st s with
      | inr x => rw [hx] at h; cases h
      | inl x => rw [hx] at h; exact ih b x s' (hs s x I (by omega) hx) h
theorem LIV.st {S S' : skT × (Nat → Int32)} (V : ∀ t, t < n → lnV (ls t)) (I : SKI ls n S.1) (L : LIV S) (h0 : 0 < S.1.1.length) (h : st1 ls n S = .inl S') : LIV S' := by
  obtain ⟨⟨F, mac, sec, sz, g, us⟩, lab⟩ := S
  cases F with
  | nil => exact absurd h0 (Nat.not_lt_zero _)
  | cons F R =>
    obtain ⟨a, t, u, m⟩ := F
    have hk := st1_sk h
    have I' := (sk_inv V I hk h0).1
    obtain ⟨L1, L2⟩ := L
    dsimp only at L1 L2
    have us' : us ≤ S'.1.2.2.2.2.2 := by
      rcases sk_fr hk with ⟨-, z⟩ | ⟨-, -, z, -⟩ | ⟨-, -, x, y, -, -, z⟩
      · rw [z]; exact Nat.le_refl _
      · rw [z]; exact Nat.le_refl _
      · rw [z]; exact Nat.le_succ _
    have eqn : S'.2 = lab ∨ ((ls a).1 = 1 ∧ a ≠ t ∧ S'.2 = upd lab (plcN R u (ls a).2.1) (1000 * Int32.ofNat sec + Int32.ofNat (sz sec))) := by
      unfold st1 at h
      rw [hk] at h
      dsimp only at h
      by_cases c : a ≠ t ∧ (ls a).1 = 1
      · rw [if_pos c] at h
        split at h
        · cases h
        · exact Or.inr ⟨c.2, c.1, by rw [← Sum.inl.inj h]⟩
      · rw [if_neg c] at h; exact Or.inl (by rw [← Sum.inl.inj h])
    rcases eqn with e | ⟨k1, hat, e⟩
    · unfold LIV; rw [e]
      exact ⟨fun i hi => L1 i (by omega), L2⟩
    · obtain ⟨I1, I2, I3, I4, I5, I6⟩ := I
      dsimp only at I1 I2 I3 I4 I5 I6
      obtain ⟨f1, f2, f3, f4⟩ := I1
      have hx := ((V a (by omega)).2.2.1 k1).nat.1
      have pl : plcN R u (ls a).2.1 < 20 + 4 * us := by
        unfold plcN
        by_cases c : nn (ls a).2.1 < 16 ∨ R = []
        · rw [if_pos c]; omega
        · rw [if_neg c]
          rw [if_neg (fun z => c (Or.inr z))] at f3
          omega
      have szs : sz sec ≤ 248 := by
        rcases (show sec = 0 ∨ sec = 1 by omega) with z | z
        · rw [z]; omega
        · rw [z]; omega
      unfold LIV; rw [e]
      refine ⟨fun i hi => ?_, fun i => ?_⟩
      · rw [upd_at, if_neg (by omega)]; exact L1 i (by omega)
      · rw [upd_at]
        by_cases c : i = plcN R u (ls a).2.1
        · rw [if_pos c]
          right
          rw [show 1000 * Int32.ofNat sec = Int32.ofNat (1000 * sec) from i_mul 1000 sec, i_add]
          exact rg.of (by omega) (by omega)
        · rw [if_neg c]; exact L2 i
/-- the arguments of a use -/
theorem CB.fs (C : CB H q0 nU c1 c2 it lab bu bh wd mc arr cap h) (hk : k < nU) (xx yy : Int32) : ∃ h1 h2 mm, dx_pF [(26, 2)] .int (.ref (it k)) (.int xx) h = some h1 ∧ dx_pF [(26, 3)] .int (.ref (it k)) (.int yy) h1 = some h2 ∧ CB H q0 nU c1 c2 it lab bu bh wd mc arr cap h2 ∧ (mm < 5 ∧ h2.1 (it k) = .inr (26, [.int (Int32.ofNat mm), .ref (it k + 1), .int xx, .int yy])) ∧ (∀ q, q ≠ it k → h2.1 q = h.1 q) ∧ h2.2 = h.2 := by
  obtain ⟨a1, ⟨b1, b2, b3, b4, b5⟩, a3, a4, ⟨f0, a5, a5'⟩, ⟨sx, sy, a6⟩, ⟨f1, a7, a7'⟩, ⟨fm, a8, a8'⟩, a9, ⟨a10, a10', a10''⟩, a11, a12⟩ := id C
  obtain ⟨y1, ⟨mm, x0, y0, y2, y3⟩, fu, y4, y5⟩ := a11 k hk
  have e1 : (ax_set h (it k) (.inr (26, [.int (Int32.ofNat mm), .ref (it k + 1), .int xx, .int y0]))).1 (it k) = .inr (26, [.int (Int32.ofNat mm), .ref (it k + 1), .int xx, .int y0]) := set_eq _
  have ne : ∀ q, q ≠ it k → (ax_set (ax_set h (it k) (.inr (26, [.int (Int32.ofNat mm), .ref (it k + 1), .int xx, .int y0]))) (it k) (.inr (26, [.int (Int32.ofNat mm), .ref (it k + 1), .int xx, .int yy]))).1 q = h.1 q := fun q hq => (set_ne _ hq).trans (set_ne _ hq)
  refine ⟨_, _, mm, pF_int y3 rfl (Nat.le_of_ble_eq_true rfl) (by omega), pF_int e1 rfl (Nat.le_of_ble_eq_true rfl) (by omega), ⟨a1, ⟨fun q hq => (ne q (by omega)).trans (b1 q hq), b2, b3, b4, b5⟩, a3, (ne _ (by omega)).trans a4, ⟨f0, (ne _ (by omega)).trans a5, a5'⟩, ⟨sx, sy, (ne _ (by omega)).trans a6⟩, ⟨f1, (ne _ (by omega)).trans a7, a7'⟩, ⟨fm, (ne _ (by omega)).trans a8, a8'⟩, a9.mono (ne _ (by omega)) (ne _ (by omega)) (Nat.le_refl _), ⟨a10, a10', a10''⟩, fun j hj => ?_, a12⟩, ⟨y2, set_eq _⟩, ne, rfl⟩
  obtain ⟨z1, ⟨m', xx', yy', z2, z3⟩, f, z4, z5⟩ := a11 j hj
  have lt1 := a12 j k
  have lt2 := a12 k j
  by_cases e : j = k
  · subst e
    exact ⟨z1, ⟨mm, xx, yy, y2, set_eq _⟩, f, (ne _ (by omega)).trans z4, z5⟩
  · have hk' : it j ≠ it k ∧ it j + 1 ≠ it k := by
      rcases Nat.lt_or_gt_of_ne e with z | z
      · have := lt1 z hk; omega
      · have := lt2 z hj; omega
    exact ⟨z1, ⟨m', xx', yy', z2, (ne _ hk'.1).trans z3⟩, f, (ne _ hk'.2).trans z4, z5⟩
/-- a macro in use, and no more -/
theorem CPS.use1 (C : CPS pk q0 pb (F, mac, sec, sz, g, us) h) (h4 : 400 ≤ pb) (hm : m < 5) : ∃ h', dx_sI 2 (.ref (pb + 4)) (Int32.ofNat m) (vp_nar .boolean 1) h = some h' ∧ CPS pk q0 pb ((x, y, u, m) :: F, mac, sec, sz, g, us) h' ∧ ∃ c, h' = ax_set h (pb + 4) c := by
  obtain ⟨c1, c2, c3, c4, fu, c5, c6⟩ := id C
  refine ⟨_, by rw [sI_at c5 (by omega), ix_of rfl hm (by omega), Option.bind_some]; rfl, ⟨c1, ?_, ?_, ?_, upd fu m 1, set_eq _, fun j hj => ?_⟩, _, rfl⟩
  · rw [set_ne _ (show pb ≠ pb + 4 by omega)]; exact c2
  · rw [set_ne _ (show pb + 1 ≠ pb + 4 by omega)]; exact c3
  · rw [set_ne _ (show pb + 2 ≠ pb + 4 by omega), set_ne _ (show pb + 3 ≠ pb + 4 by omega)]; exact c4
  · rw [upd_at]
    by_cases e : j = m
    · rw [if_pos e, if_pos ⟨_, List.mem_cons_self, e.symm⟩]
    · rw [if_neg e, c6 j hj]
      by_cases z : ∃ f, f ∈ F ∧ f.2.2.2 = j
      · obtain ⟨f, f1, f2⟩ := id z
        rw [if_pos z, if_pos ⟨f, List.mem_cons_of_mem _ f1, f2⟩]
      · rw [if_neg z, if_neg]
        rintro ⟨f, f1, f2⟩
        rcases List.mem_cons.mp f1 with w | w
        · rw [w] at f2; exact e f2.symm
        · exact z ⟨f, w, f2⟩
theorem CPS.use0 (C : CPS pk q0 pb ((x, y, u, m) :: F, mac, sec, sz, g, us) h) (h4 : 400 ≤ pb) (hm : m < 5) (hF : ∀ f, f ∈ F → f.2.2.2 ≠ m) : ∃ h', dx_sI 2 (.ref (pb + 4)) (Int32.ofNat m) (vp_nar .boolean 0) h = some h' ∧ CPS pk q0 pb (F, mac, sec, sz, g, us) h' ∧ ∃ c, h' = ax_set h (pb + 4) c := by
  obtain ⟨c1, c2, c3, c4, fu, c5, c6⟩ := id C
  refine ⟨_, by rw [sI_at c5 (by omega), ix_of rfl hm (by omega), Option.bind_some]; rfl, ⟨c1, ?_, ?_, ?_, upd fu m 0, set_eq _, fun j hj => ?_⟩, _, rfl⟩
  · rw [set_ne _ (show pb ≠ pb + 4 by omega)]; exact c2
  · rw [set_ne _ (show pb + 1 ≠ pb + 4 by omega)]; exact c3
  · rw [set_ne _ (show pb + 2 ≠ pb + 4 by omega), set_ne _ (show pb + 3 ≠ pb + 4 by omega)]; exact c4
  · rw [upd_at]
    by_cases e : j = m
    · rw [if_pos e, if_neg]
      rintro ⟨f, f1, f2⟩
      exact hF f f1 (f2.trans e)
    · rw [if_neg e, c6 j hj]
      by_cases z : ∃ f, f ∈ F ∧ f.2.2.2 = j
      · obtain ⟨f, f1, f2⟩ := id z
        rw [if_pos z, if_pos ⟨f, List.mem_cons_of_mem _ f1, f2⟩]
      · rw [if_neg z, if_neg]
        rintro ⟨f, f1, f2⟩
        rcases List.mem_cons.mp f1 with w | w
        · rw [w] at f2; exact e f2.symm
        · exact z ⟨f, w, f2⟩
/-- a new use -/
theorem x_begin1 (B : CB H q0 us c1 c2 it lab bu bh wd mc arr cap h) (C : CPS 27 q0 (q0 + 6) σ h) (hl : ∀ j, j < 4 → lab (20 + 4 * us + j) = -1) (hu : us < 300) (hm : m < 5) (hd : 8 ≤ d) {zz : Int32} : Ok (ax_c d 295 [.ref (q0 + 6), .int zz, .int (Int32.ofNat m)] h) (.inl (some (.ref (400 + h.2.1)))) (fun h' => ∃ mc' arr' cap', CB H q0 (us + 1) c1 c2 (fun i => if i = us then 400 + h.2.1 else it i) lab bu bh wd mc' arr' cap' h' ∧ CPS 27 q0 (q0 + 6) σ h') := by
  obtain ⟨a1, ⟨b1, b2, b3, b4, b5⟩, a3, a4, ⟨f0, a5, a5'⟩, ⟨sx, sy, a6⟩, ⟨f1, a7, a7'⟩, ⟨fm, a8, a8'⟩, a9, ⟨a10, a10', a10''⟩, a11, a12⟩ := id B
  have arlt : arr < 400 + h.2.1 := a9.2.2.2.2.2.2.2.2
  obtain ⟨d, rfl, he⟩ := d_succ hd
  refine Ok.le m_X18_begin ?_
  rw [nw_at]
  have init : Ok (ax_c d 285 [.ref (400 + h.2.1), .int (Int32.ofNat m)] (ax_new h (.inr (26, [.int 0, .null, .int 0, .int 0])) 4)) (.inl none) (fun h5 => h5.2.1 = h.2.1 + 2 ∧ h5.2.2 = h.2.2 + 8 ∧ (∀ q, q < 400 + h.2.1 → h5.1 q = h.1 q) ∧ h5.1 (400 + h.2.1) = .inr (26, [.int (Int32.ofNat m), .ref (400 + h.2.1 + 1), .int 0, .int 0]) ∧ ∃ f, h5.1 (400 + h.2.1 + 1) = .inl (0, 4, .inl f) ∧ ∀ j, j < 4 → f j = -1) := by
    obtain ⟨d, rfl, he2⟩ := d_succ (k := 6) (by omega : 7 ≤ d)
    refine Ok.le m_X16_init ?_
    obtain ⟨hA, ehA⟩ : ∃ hA, hA = ax_new h (.inr (26, [.int 0, .null, .int 0, .int 0])) 4 := ⟨_, rfl⟩
    have A0 : hA.1 (400 + h.2.1) = .inr (26, [.int 0, .null, .int 0, .int 0]) := by rw [ehA]; exact new_eq _ _
    have A1 : hA.2.1 = h.2.1 + 1 := by rw [ehA]; rfl
    have A2 : hA.2.2 = h.2.2 + 4 := by rw [ehA]; rfl
    have A3 : ∀ q, q < 400 + h.2.1 → hA.1 q = h.1 q := fun q hq => by rw [ehA]; exact new_ne _ _ (by omega)
    rw [← ehA]
    clear ehA
    rw [nn_ref, na_at (n := 4) (k := 4) rfl (by omega)]
    obtain ⟨hB, ehB⟩ : ∃ hB, hB = ax_new hA (.inl (0, 4, ax_dat 0)) 4 := ⟨_, rfl⟩
    have B0 : hB.1 (400 + h.2.1) = .inr (26, [.int 0, .null, .int 0, .int 0]) := by rw [ehB]; exact (new_ne _ _ (by omega)).trans A0
    have B1 : hB.2.1 = h.2.1 + 2 := by rw [ehB]; show hA.2.1 + 1 = _; omega
    have B2 : hB.2.2 = h.2.2 + 8 := by rw [ehB]; show hA.2.2 + 4 = _; omega
    have B3 : ∀ q, q < 400 + h.2.1 → hB.1 q = h.1 q := fun q hq => by rw [ehB]; exact (new_ne _ _ (by omega)).trans (A3 q hq)
    have B4 : hB.1 (400 + hA.2.1) = .inl (0, 4, ax_dat 0) := by rw [ehB]; exact new_eq _ _
    rw [← ehB, A1]
    rw [A1] at B4
    clear ehB
    rw [show 400 + (h.2.1 + 1) = 400 + h.2.1 + 1 by omega] at B4 ⊢
    rw [pF_aref (p := 400 + h.2.1 + 1) B0 rfl (Nat.le_of_ble_eq_true rfl) (by omega), Option.bind_some]
    have C0 : (ax_set hB (400 + h.2.1) (.inr (26, [.int 0, .ref (400 + h.2.1 + 1), .int 0, .int 0]))).1 (400 + h.2.1) = .inr (26, [.int 0, .ref (400 + h.2.1 + 1), .int 0, .int 0]) := set_eq _
    rw [show ([.int 0, .null, .int 0, .int 0] : List Value).set 1 (.ref (400 + h.2.1 + 1)) = [.int 0, .ref (400 + h.2.1 + 1), .int 0, .int 0] from rfl, pF_int C0 rfl (Nat.le_of_ble_eq_true rfl) (by omega), Option.bind_some, show ([.int 0, .ref (400 + h.2.1 + 1), .int 0, .int 0] : List Value).set 0 (.int (Int32.ofNat m)) = [.int (Int32.ofNat m), .ref (400 + h.2.1 + 1), .int 0, .int 0] from rfl]
    have loop : ∀ r k (h5 : ax_H), k + r = 4 → h5.2.1 = h.2.1 + 2 → h5.2.2 = h.2.2 + 8 → (∀ q, q < 400 + h.2.1 → h5.1 q = h.1 q) → h5.1 (400 + h.2.1) = .inr (26, [.int (Int32.ofNat m), .ref (400 + h.2.1 + 1), .int 0, .int 0]) → (∃ f, h5.1 (400 + h.2.1 + 1) = .inl (0, 4, .inl f) ∧ ∀ j, j < k → f j = -1) → Ok (B_X16_init_18 (ax_c d) (400 + h.2.1) (Int32.ofNat k) h5) (.inl none) (fun h5 => h5.2.1 = h.2.1 + 2 ∧ h5.2.2 = h.2.2 + 8 ∧ (∀ q, q < 400 + h.2.1 → h5.1 q = h.1 q) ∧ h5.1 (400 + h.2.1) = .inr (26, [.int (Int32.ofNat m), .ref (400 + h.2.1 + 1), .int 0, .int 0]) ∧ ∃ f, h5.1 (400 + h.2.1 + 1) = .inl (0, 4, .inl f) ∧ ∀ j, j < 4 → f j = -1) := by
      intro r
      induction r with
      | zero =>
        rintro k h5 hk e1 e2 e3 e4 ⟨f, e5, e6⟩
        obtain rfl : k = 4 := by omega
        refine Ok.le b_X16_init_18 ?_
        rw [gA_r e4 rfl rfl, Option.bind_some, len_at e5, Option.bind_some, if_pos (Int32.le_refl _)]
        exact Ok.ret ⟨e1, e2, e3, e4, f, e5, e6⟩
      | succ r ih =>
        rintro k h5 hk e1 e2 e3 e4 ⟨f, e5, e6⟩
        refine Ok.le b_X16_init_18 ?_
        rw [gA_r e4 rfl rfl, Option.bind_some, len_at e5, Option.bind_some, if_neg (i_ge_not (by omega) (by omega)), Option.bind_some, sI_at e5 (by omega), ix_of rfl (show k < 4 by omega) (by omega), Option.bind_some, Option.bind_some, lt_at, show Int32.ofNat k + 1 = Int32.ofNat (k + 1) from i_add k 1]
        refine ih (k + 1) _ (by omega) e1 e2 (fun q hq => (set_ne _ (by omega)).trans (e3 q hq)) ((set_ne _ (by omega)).trans e4) ⟨_, set_eq _, fun j hj => ?_⟩
        show (if j = k then -1 else f j) = -1
        by_cases z : j = k
        · rw [if_pos z]
        · rw [if_neg z]; exact e6 j (by omega)
    refine loop 4 0 _ rfl B1 B2 (fun q hq => (set_ne _ (by omega)).trans ((set_ne _ (by omega)).trans (B3 q hq))) (set_eq _) ⟨fun _ => 0, (set_ne _ (by omega)).trans ((set_ne _ (by omega)).trans B4), fun j hj => absurd hj (Nat.not_lt_zero _)⟩
  refine Ok.V init ?_
  rintro h5 ⟨e1, e2, e3, e4, ff, e5, e6⟩
  have C5 : CPS 27 q0 (q0 + 6) σ h5 := C.mv fun j hj => e3 _ (by omega)
  have g9 : dx_gA [(27, 9)] (.ref (q0 + 6)) h5 = some (.ref q0) := gA_r C5.2.1 rfl rfl
  have a45 := (e3 q0 (by omega)).trans a4
  have A5 : AL h5 (q0 + 4) mc arr cap us it := a9.mono (e3 _ (by omega)) (e3 _ arlt) (by omega)
  have v63 : dx_vn [(4, 63)] (.ref (q0 + 4)) h5 = some 63 := vn_at A5.1
  rw [g9, Option.bind_some, gA_r a45 rfl rfl, Option.bind_some, v63, Option.bind_some]
  refine Ok.I (al_addB (B := 610) (by omega) (by omega) (by omega) A5 e4 (by decide) hu a10 (by omega) (by omega)) ?_
  rintro h6 ⟨arr', cap', A6, k1, k2, ⟨u1, u2, u3, u4, u5⟩, k3⟩
  obtain ⟨k4, k5⟩ := k3 a10'
  have ne : ∀ q, q < 400 + h5.2.1 → q ≠ q0 + 4 → (q ≠ arr ∨ arr < 400) → h6.1 q = h5.1 q := fun q hq h1 h2 => u5 q hq fun z => by
    rcases z with z | ⟨z, z2⟩
    · exact h1 z
    · rcases h2 with y | y
      · exact y z
      · omega
  have ne2 : ∀ q, q < 400 + h.2.1 → q ≠ q0 + 4 → (q ≠ arr ∨ arr < 400) → h6.1 q = h.1 q := fun q hq h1 h2 => (ne q (by omega) h1 h2).trans (e3 q hq)
  have arr5 : ∀ q, q < q0 + 11 → q ≠ arr ∨ arr < 400 := fun q hq => by omega
  have al6 : arr' < 400 + h6.2.1 := A6.2.2.2.2.2.2.2.2
  refine Ok.ret ⟨mc + 1, arr', cap', ⟨a1, ⟨fun q hq => (ne2 q (by omega) (by omega) (arr5 _ (by omega))).trans (b1 q hq), by omega, by omega, by omega, by omega⟩, by omega, (ne2 _ (by omega) (by omega) (arr5 _ (by omega))).trans a4, ⟨f0, (ne2 _ (by omega) (by omega) (arr5 _ (by omega))).trans a5, a5'⟩, ⟨sx, sy, (ne2 _ (by omega) (by omega) (arr5 _ (by omega))).trans a6⟩, ⟨f1, (ne2 _ (by omega) (by omega) (arr5 _ (by omega))).trans a7, a7'⟩, ⟨fm, (ne2 _ (by omega) (by omega) (arr5 _ (by omega))).trans a8, a8'⟩, A6, ⟨k1, Or.inr k4, by omega⟩, fun k hk => ?_, fun j k hjk hk => ?_⟩, C5.mv fun j hj => ne _ (by omega) (by omega) (arr5 _ (by omega))⟩
  · dsimp only
    by_cases e : k = us
    · rw [if_pos e]
      have q5 : ∀ q, 400 + h.2.1 ≤ q → q < 400 + h5.2.1 → h6.1 q = h5.1 q := fun q z1 z2 => ne q z2 (by omega) (Or.inl (by omega))
      refine ⟨⟨by omega, by omega, by omega, by omega⟩, ⟨m, 0, 0, hm, (q5 _ (by omega) (by omega)).trans e4⟩, ff, (q5 _ (by omega) (by omega)).trans e5, fun j hj => ?_⟩
      rw [e, hl j hj]; exact e6 j hj
    · rw [if_neg e]
      obtain ⟨z1, ⟨m', xx', yy', z2, z3⟩, f, z4, z5⟩ := a11 k (by omega)
      refine ⟨⟨z1.1, by omega, by omega, by omega⟩, ⟨m', xx', yy', z2, (ne2 _ (by omega) (by omega) (Or.inl (by omega))).trans z3⟩, f, (ne2 _ (by omega) (by omega) (Or.inl (by omega))).trans z4, z5⟩
  · dsimp only
    rw [if_neg (show ¬ j = us by omega)]
    by_cases e : k = us
    · rw [if_pos e]
      have := (a11 j (by omega)).1; omega
    · rw [if_neg e]; exact a12 j k hjk (by omega)
end CGS
