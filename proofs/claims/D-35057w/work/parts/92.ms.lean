/-! the class's machine: what its small methods do -/
def rg (k : Nat) (x : Int32) : Prop := 0 ≤ x.toInt ∧ x.toInt ≤ k
theorem rg.nat {k : Nat} {x : Int32} (h : rg k x) : nn x ≤ k ∧ x = Int32.ofNat (nn x) := by
  obtain ⟨h1, h2⟩ := h
  have e : nn x = x.toInt.toNat := rfl
  refine ⟨by omega, ?_⟩
  rw [← Int32.toInt_inj, e, i_toInt]
  · omega
  · have := Int32.toInt_lt x
    omega
theorem rg.of {k n : Nat} (h : n ≤ k) (hk : k < 2 ^ 31) : rg k (Int32.ofNat n) := by
  unfold rg
  rw [i_toInt (by omega)]
  omega
theorem nn_of {n : Nat} (h : n < 2 ^ 31) : nn (Int32.ofNat n) = n := i_nat h
theorem i_lit (n : Nat) : (OfNat.ofNat n : Int32) = Int32.ofNat n := rfl
theorem ath_0 {a k : Nat} {fs : List Value} {h : ax_H} {H : Nat → Nat → Option ax_R} (h4 : 400 ≤ a) (e : h.1 a = .inr (k, fs)) (hk : hd_0 k = some none) : dx_ath hd_0 (.ref a) h H = some (.inr a, h) := by
  show dx_xp hd_0 a h (H a) = _
  unfold dx_xp
  rw [if_neg (by omega), e]
  show Option.bind (some k) _ = _
  rw [Option.bind_some, hk, Option.bind_some]
theorem pushW_len (c : ce_C) (v : Int32) : (pushW c v).length = 2 := rfl
theorem pullW_len (c : ce_C) : (pullW c).length = 1 := rfl
theorem stopW_len (f : Int32) : (stopW f).length = 2 := rfl
section MSS
variable {d b e w : Nat} {Z : mr_Z} {pr : Option Nat} {c : Nat → Int32} {L : List (Nat × Int32)} {X : mr_X} {h : ax_H}
theorem MR.ext {h' : ax_H} {a v : Nat} (R : MR b Z e w pr c L X h) (hh : ∀ q, q < 400 + h.2.1 → h'.1 q = h.1 q) (h1 : h.2.1 ≤ h'.2.1) (h2 : h.2.2 ≤ h'.2.2) (h3 : h'.2.1 ≤ h.2.1 + a) (h4 : h'.2.2 ≤ h.2.2 + v) : MR b Z (e + a) (w + v) pr c L X h' := by
  obtain ⟨n, j, x1, x2⟩ := R.2.2.2.1
  have hz := R.2.2.2.2.2.1
  refine (R.le (Nat.le_add_right e a) (Nat.le_add_right w v)).jp (n' := n) ?_ (by omega) (by omega) (fun q hq _ => hh q (by omega)) h1 h2
  cases pr with
  | none => exact j
  | some st =>
    obtain ⟨j1, ⟨j21, j2⟩, row, f, j3, j4, j5, j6, j7⟩ := j
    exact ⟨j1, ⟨j21, by omega⟩, row, f, (hh _ j2).trans j3, (hh _ j6).trans j4, j5, by omega, j7⟩
/-- what is thrown out of a step -/
def TX (b : Nat) (Z : mr_Z) (e w : Nat) (pr : Option Nat) (c : Nat → Int32) (L : List (Nat × Int32)) (X : mr_X) (k : Nat) (i : Nat) (h : ax_H) : Prop := MR b Z (e + 12) (w + 1100) pr c L X h ∧ 400 ≤ i ∧ ∃ fs, h.1 i = .inr (k, fs)
theorem TX.x0 {k i : Nat} {h' : ax_H} (hk : hd_0 k = some none) (T : TX b Z e w pr c L X k i h') : OkX (dx_x0 i h') (TX b Z e w pr c L X k) := by
  obtain ⟨fs, e1⟩ := T.2.2
  exact OkX.x0 T.2.1 e1 hk T
/-- an exception of kind k made with a number -/
theorem x_made (R : MR b Z e w pr c L X h) (o : OLD Z.1) {k num v : Nat} (hk : k = 32 ∧ num = 361 ∨ k = 33 ∧ num = 362 ∨ k = 34 ∧ num = 363) (hv : v < 1000000) (hd : 8 ≤ d) : Ok (ax_c d num [.ref (400 + h.2.1), .int (Int32.ofNat v)] (ax_new h (.inr (k, [.null])) 6)) (.inl none) (fun h' => TX b Z e w pr c L X k (400 + h.2.1) h') := by
  have R1 : MR b Z (e + 1) (w + 6) pr c L X (ax_new h (.inr (k, [.null])) 6) := R.ext (fun q hq => new_ne _ _ (by omega)) (Nat.le_succ _) (Nat.le_add_right _ _) (Nat.le_refl _) (Nat.le_refl _)
  have o1 := R1.old o
  have fin : ∀ h', Ms (ax_new h (.inr (k, [.null])) 6) 10 1000 h' → TX b Z e w pr c L X k (400 + h.2.1) h' := by
    rintro h' ⟨m1, m2, m3, m4, m5⟩
    exact ⟨(R1.ext m5 m1 m2 m3 m4).le (by omega) (by omega), by omega, _, (m5 _ (by show _ < 400 + (h.2.1 + 1); omega)).trans (new_eq _ _)⟩
  rcases hk with ⟨rfl, rfl⟩ | ⟨rfl, rfl⟩ | ⟨rfl, rfl⟩
  · exact (ex_stack hd o1 (by omega) (by show _ < 400 + (h.2.1 + 1); omega) (new_eq _ _) hv).imp fin
  · exact (ex_address hd o1 (by omega) (by show _ < 400 + (h.2.1 + 1); omega) (new_eq _ _) hv).imp fin
  · exact (ex_operation hd o1 (by omega) (by show _ < 400 + (h.2.1 + 1); omega) (new_eq _ _) hv).imp fin
theorem TX.ret {k i : Nat} {h' : ax_H} (hk : hd_0 k = some none) (T : TX b Z e w pr c L X k i h') {H : Nat → Nat → Option ax_R} : OkX (dx_ath hd_0 (.ref i) h' H) (TX b Z e w pr c L X k) := by
  obtain ⟨fs, e1⟩ := T.2.2
  rw [ath_0 T.2.1 e1 hk]
  exact OkX.ret T
theorem c_room (hd : 1 ≤ d) (R : MR b Z e w pr c L X h) {n : Int32} (hn : n ≤ c 4) : ax_c d 324 [.ref b, .int n] h = some (.inl none, h) := by
  obtain ⟨d, rfl, he⟩ := d_succ hd
  refine dx_app m_X2_room ?_
  rw [R.g0, Option.bind_some, R.rdn (i := 4) (k := 4) rfl (by decide), Option.bind_some, if_pos hn]
theorem c_roomX (hd : 9 ≤ d) (R : MR b Z e w pr c L X h) (o : OLD Z.1) (hr : rg 256 (c 4)) {n : Int32} (hn : ¬ n ≤ c 4) : OkX (ax_c d 324 [.ref b, .int n] h) (TX b Z e w pr c L X 32) := by
  obtain ⟨d, rfl, he⟩ := d_succ hd
  refine OkX.le m_X2_room ?_
  have b4 := R.2.2.2.2.2.2.2
  have hz := R.2.2.2.2.2.1
  have R1 : MR b Z (e + 1) (w + 6) pr c L X (ax_new h (.inr (32, [.null])) 6) := R.ext (fun q hq => new_ne _ _ (by omega)) (Nat.le_succ _) (Nat.le_add_right _ _) (Nat.le_refl _) (Nat.le_refl _)
  rw [R.g0, Option.bind_some, R.rdn (i := 4) (k := 4) rfl (by decide), Option.bind_some, if_neg hn, nw_at, R1.g0, Option.bind_some, R1.rdn (i := 4) (k := 4) rfl (by decide), Option.bind_some, (rg.nat hr).2]
  exact OkX.V (x_made R o (Or.inl ⟨rfl, rfl⟩) (by have := (rg.nat hr).1; omega) he) fun h' T => T.ret rfl
theorem c_held (hd : 1 ≤ d) (R : MR b Z e w pr c L X h) {n : Int32} (hn : c 4 + n ≤ 256) : ax_c d 330 [.ref b, .int n] h = some (.inl none, h) := by
  obtain ⟨d, rfl, he⟩ := d_succ hd
  refine dx_app m_X2_held ?_
  rw [R.g0, Option.bind_some, R.rdn (i := 4) (k := 4) rfl (by decide), Option.bind_some, if_pos hn]
theorem c_heldX (hd : 9 ≤ d) (R : MR b Z e w pr c L X h) (o : OLD Z.1) (hr : rg 256 (c 4)) {n : Int32} (hn : ¬ c 4 + n ≤ 256) : OkX (ax_c d 330 [.ref b, .int n] h) (TX b Z e w pr c L X 32) := by
  obtain ⟨d, rfl, he⟩ := d_succ hd
  refine OkX.le m_X2_held ?_
  have R1 : MR b Z (e + 1) (w + 6) pr c L X (ax_new h (.inr (32, [.null])) 6) := R.ext (fun q hq => new_ne _ _ (by omega)) (Nat.le_succ _) (Nat.le_add_right _ _) (Nat.le_refl _) (Nat.le_refl _)
  rw [R.g0, Option.bind_some, R.rdn (i := 4) (k := 4) rfl (by decide), Option.bind_some, if_neg hn, nw_at, R1.g0, Option.bind_some, R1.rdn (i := 4) (k := 4) rfl (by decide), Option.bind_some, (rg.nat hr).2]
  exact OkX.V (x_made R o (Or.inl ⟨rfl, rfl⟩) (by have := (rg.nat hr).1; omega) he) fun h' T => T.ret rfl
theorem c_address (hd : 1 ≤ d) {a : Nat} (ha : a < 256) : ax_c d 327 [.int (Int32.ofNat a)] h = some (.inl (some (.int (Int32.ofNat (108 + a)))), h) := by
  obtain ⟨d, rfl, he⟩ := d_succ hd
  refine dx_app m_X2_address ?_
  rw [if_pos (show Int32.ofNat a < 256 from (i_lt (b := 256) (by omega) (by omega)).mpr ha), show (108 : Int32) + Int32.ofNat a = Int32.ofNat (108 + a) from i_add 108 a]
theorem c_addressX (hd : 9 ≤ d) (R : MR b Z e w pr c L X h) (o : OLD Z.1) {a : Nat} (ha : ¬ a < 256) (ha2 : a < 1000000) : OkX (ax_c d 327 [.int (Int32.ofNat a)] h) (TX b Z e w pr c L X 33) := by
  obtain ⟨d, rfl, he⟩ := d_succ hd
  refine OkX.le m_X2_address ?_
  rw [if_neg (show ¬ Int32.ofNat a < 256 from fun z => ha ((i_lt (b := 256) (by omega) (by omega)).mp z)), nw_at]
  exact OkX.V (x_made R o (Or.inr (Or.inl ⟨rfl, rfl⟩)) ha2 he) fun h' T => T.ret rfl
theorem MR.app {a a' : ce_W} (R : MR b Z e w pr (apW (apW c a) a') ((L ++ joW c a) ++ joW (apW c a) a') X h) : MR b Z e w pr (apW c (a ++ a')) (L ++ joW c (a ++ a')) X h := by
  rw [apW_app, joW_app, ← List.append_assoc]
  exact R
theorem rg_dec {x : Int32} (hr : rg 256 x) (h1 : 1 ≤ x) : rg 255 (x - 1) ∧ x - 1 = Int32.ofNat (nn (x - 1)) ∧ nn (x - 1) < 256 := by
  obtain ⟨n1, n2⟩ := rg.nat hr
  have h1 : 1 ≤ nn x := by
    rw [n2] at h1
    exact (i_le (a := 1) (by omega) (by omega)).mp h1
  have e : x - 1 = Int32.ofNat (nn x - 1) := by
    rw [n2]
    rw [show (Int32.ofNat (nn x) - 1) = Int32.ofNat (nn x - 1) from i_sub (b := 1) h1]
    congr 1
    rw [nn_of (by omega)]
  have r : rg 255 (x - 1) := by rw [e]; exact rg.of (by omega) (by omega)
  exact ⟨r, (rg.nat r).2, by have := (rg.nat r).1; omega⟩
theorem c_push (hd : 3 ≤ d) (R : MR b Z e w pr c L X h) (hL : L.length ≤ 190) (hr : rg 256 (c 4)) (h1 : 1 ≤ c 4) (v : Int32) : Ok (ax_c d 325 [.ref b, .int v] h) (.inl none) (MR b Z e w pr (apW c (pushW c v)) (L ++ joW c (pushW c v)) X) := by
  obtain ⟨r1, r2, r3⟩ := rg_dec hr h1
  obtain ⟨d, rfl, he⟩ := d_succ hd
  refine Ok.le m_X2_push ?_
  rw [R.g0, Option.bind_some, R.rdn (i := 4) (k := 4) rfl (by decide), Option.bind_some, R.vn, Option.bind_some]
  refine Ok.V (c_set he R (by omega) (i := 4) (p := 4) rfl (by omega) _) fun h1 R1 => ?_
  rw [R1.g0, Option.bind_some, R1.rdn (i := 4) (k := 4) rfl (by decide), Option.bind_some, R1.vn, Option.bind_some]
  have e4 : upd c 4 (c 4 - 1) 4 = c 4 - 1 := if_pos rfl
  rw [e4]
  refine Ok.V (c_set he R1 (by simp only [List.length_append, joW_len, pushW_len, pullW_len, stopW_len, List.length_cons, List.length_nil]; omega) (i := 108 + (c 4 - 1)) (p := 108 + nn (c 4 - 1)) (by rw [← i_add, ← r2]; rfl) (by omega) v) fun h2 R2 => Ok.ret ?_
  rw [List.append_assoc] at R2
  exact R2
theorem c_pull (hd : 3 ≤ d) (R : MR b Z e w pr c L X h) (hL : L.length ≤ 190) (hr : rg 255 (c 4)) : Ok (ax_c d 331 [.ref b] h) (.inl (some (.int (pullV c)))) (MR b Z e w pr (apW c (pullW c)) (L ++ joW c (pullW c)) X) := by
  obtain ⟨n1, n2⟩ := rg.nat hr
  obtain ⟨d, rfl, he⟩ := d_succ hd
  refine Ok.le m_X2_pull ?_
  rw [R.g0, Option.bind_some, Option.bind_some, R.rdn (i := 4) (k := 4) rfl (by decide), Option.bind_some, R.rdn (k := 108 + nn (c 4)) (by rw [← i_add, ← n2]; rfl) (by omega), Option.bind_some, Option.bind_some, R.rdn (i := 4) (k := 4) rfl (by decide), Option.bind_some, R.vn, Option.bind_some]
  exact Ok.V (c_set he R (by omega) (i := 4) (p := 4) rfl (by omega) _) fun h1 R1 => Ok.ret R1
theorem c_stop (hd : 3 ≤ d) (R : MR b Z e w pr c L X h) (hL : L.length ≤ 190) (f : Int32) : Ok (ax_c d 346 [.ref b, .int f] h) (.inl none) (MR b Z e w pr (apW c (stopW f)) (L ++ joW c (stopW f)) X) := by
  obtain ⟨d, rfl, he⟩ := d_succ hd
  refine Ok.le m_X2_stop ?_
  rw [R.vn, Option.bind_some]
  refine Ok.V (c_set he R (by omega) (i := 0) (p := 0) rfl (by omega) _) fun h1 R1 => ?_
  rw [R1.vn, Option.bind_some]
  refine Ok.V (c_set he R1 (by simp only [List.length_append, joW_len, pushW_len, pullW_len, stopW_len, List.length_cons, List.length_nil]; omega) (i := 1) (p := 1) rfl (by omega) _) fun h2 R2 => Ok.ret ?_
  rw [List.append_assoc] at R2
  exact R2
theorem c_isWaiting (hd : 1 ≤ d) (R : MR b Z e w pr c L X h) : ax_c d 322 [.ref b] h = some (.inl (some (.int (if c 8 + c 9 ≤ 0 then 0 else 1))), h) := by
  obtain ⟨d, rfl, he⟩ := d_succ hd
  refine dx_app m_X2_isWaiting ?_
  rw [R.g0, Option.bind_some, R.rdn (i := 8) (k := 8) rfl (by decide), Option.bind_some, Option.bind_some, R.rdn (i := 9) (k := 9) rfl (by decide), Option.bind_some]
  split <;> rfl
/-- the flags that are 0 or 1 -/
theorem c_interrupt (hd : 4 ≤ d) (R : MR b Z e w pr c L X h) (hL : L.length ≤ 150) (hr : rg 256 (c 4)) (h2 : 2 ≤ c 4) : Ok (ax_c d 323 [.ref b] h) (.inl none) (MR b Z e w pr (apW c (interW c)) (L ++ joW c (interW c)) X) := by
  obtain ⟨n1, n2⟩ := rg.nat hr
  have h2' : 2 ≤ nn (c 4) := by
    rw [n2] at h2
    exact (i_le (a := 2) (by omega) (by omega)).mp h2
  have h1 : (1 : Int32) ≤ c 4 := by
    rw [n2]
    exact (i_le (a := 1) (by omega) (by omega)).mpr (by omega)
  obtain ⟨d, rfl, he⟩ := d_succ hd
  refine Ok.le m_X2_interrupt ?_
  rw [R.vn, Option.bind_some, c_room (by omega) R h2, cV_v, R.g0, Option.bind_some, R.rdn (i := 8) (k := 8) rfl (by decide), Option.bind_some]
  have key : ∀ (src : Int32) (s : Nat), src = Int32.ofNat s → s < 2 → (if c 8 = 1 then (0 : Int32) else 1) = src → Ok (B_X2_interrupt_21 (ax_c d) src b h) (.inl none) (MR b Z e w pr (apW c (interW c)) (L ++ joW c (interW c)) X) := by
    intro src s es hs ec
    have e8 : nn (8 + src) = 8 + s := by rw [es, show (8 : Int32) + Int32.ofNat s = Int32.ofNat (8 + s) from i_add 8 s, nn_of (by omega)]
    have e108 : nn (108 + src) = 108 + s := by rw [es, show (108 : Int32) + Int32.ofNat s = Int32.ofNat (108 + s) from i_add 108 s, nn_of (by omega)]
    refine Ok.le b_X2_interrupt_21 ?_
    rw [R.vn, Option.bind_some]
    refine Ok.V (c_set (by omega) R (by omega) (i := 8 + src) (p := nn (8 + src)) (by rw [e8, es]; exact i_add 8 s) (by rw [e8]; omega) 0) fun h1' R1 => ?_
    obtain ⟨c1, ec1⟩ : ∃ c1, c1 = apW c [(nn (8 + src), 0)] := ⟨_, rfl⟩
    have R1 : MR b Z e w pr c1 (L ++ joW c [(nn (8 + src), 0)]) X h1' := by rw [ec1]; exact R1
    have f4 : c1 4 = c 4 := by rw [ec1]; show (if 4 = nn (8 + src) then 0 else c 4) = _; rw [if_neg (by omega)]
    rw [R1.g0, Option.bind_some, R1.rdn (i := 3) (k := 3) rfl (by decide), Option.bind_some, R1.vn, Option.bind_some]
    refine Ok.V (c_push he R1 (by simp only [List.length_append, joW_len, pushW_len, pullW_len, stopW_len, List.length_cons, List.length_nil]; omega) (by rw [f4]; exact hr) (by rw [f4]; exact h1) _) fun h2' R2 => ?_
    obtain ⟨c2, ec2⟩ : ∃ c2, c2 = apW c1 (pushW c1 (c1 3)) := ⟨_, rfl⟩
    rw [← ec2] at R2
    have f42 : c2 4 = c1 4 - 1 := by
      rw [ec2]
      show (if 4 = 108 + nn (c1 4 - 1) then _ else if 4 = 4 then c1 4 - 1 else c1 4) = _
      rw [if_neg (by omega), if_pos rfl]
    have g2 : c 4 - 1 = Int32.ofNat (nn (c 4) - 1) := by
      rw [n2]
      rw [show (Int32.ofNat (nn (c 4)) - 1) = Int32.ofNat (nn (c 4) - 1) from i_sub (b := 1) (by omega)]
      congr 1
      rw [nn_of (by omega)]
    rw [R2.g0, Option.bind_some, R2.rdn (i := 5) (k := 5) rfl (by decide), Option.bind_some, Option.bind_some, R2.rdn (i := 6) (k := 6) rfl (by decide), Option.bind_some, R2.vn, Option.bind_some]
    refine Ok.V (c_push he R2 (by simp only [List.length_append, joW_len, pushW_len, pullW_len, stopW_len, List.length_cons, List.length_nil]; omega) (by rw [f42, f4, g2]; exact rg.of (by omega) (by omega)) (by rw [f42, f4, g2]; exact (i_le (a := 1) (by omega) (by omega)).mpr (by omega)) _) fun h3' R3 => ?_
    rw [R3.vn, Option.bind_some]
    refine Ok.V (c_set (by omega) R3 (by simp only [List.length_append, joW_len, pushW_len, pullW_len, stopW_len, List.length_cons, List.length_nil]; omega) (i := 7) (p := 7) rfl (by omega) 0) fun h4' R4 => ?_
    rw [R4.g0, Option.bind_some, R4.rdn (i := 108 + src) (k := nn (108 + src)) (by rw [e108, es]; exact i_add 108 s) (by rw [e108]; omega), Option.bind_some, R4.vn, Option.bind_some]
    refine Ok.V (c_set (by omega) R4 (by simp only [List.length_append, joW_len, pushW_len, pullW_len, stopW_len, List.length_cons, List.length_nil]; omega) (i := 3) (p := 3) rfl (by omega) _) fun h5' R5 => Ok.ret ?_
    unfold interW
    rw [if_pos h2, ec]
    dsimp only
    have E1 : apW c ([(nn (8 + src), 0)] ++ pushW c1 (c1 3)) = c2 := by rw [apW_app, ← ec1, ec2]
    rw [← ec1, E1]
    simp only [apW_app, joW_app, ← ec1, ← ec2, List.append_assoc] at R5 ⊢
    exact R5
  by_cases q : c 8 = 1
  · rw [if_neg (fun z => z q)]
    exact key 0 0 rfl (by omega) (if_pos q)
  · rw [if_pos q]
    exact key 1 1 rfl (by omega) (if_neg q)
end MSS
