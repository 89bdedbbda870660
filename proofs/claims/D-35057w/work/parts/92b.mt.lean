/-! the class's machine: keys, what comes behind a step, numbers and jumps -/
theorem tw_in {lo hi : Int} {o : Nat} {Es : List (Option ax_R)} {Ed E : Option ax_R} (ho : o < 2 ^ 31) (h1 : lo ≤ (o : Int)) (h2 : (o : Int) ≤ hi) (he : Es[((o : Int) - lo).toNat]? = some E) : dx_tw lo hi (Int32.ofNat o) Es Ed = E := by
  unfold dx_tw
  rw [i_toInt ho, if_neg (by omega), he, Option.bind_some]
theorem tw_out {lo hi : Int} {o : Nat} {Es : List (Option ax_R)} {Ed : Option ax_R} (ho : o < 2 ^ 31) (h1 : (o : Int) < lo ∨ hi < (o : Int)) : dx_tw lo hi (Int32.ofNat o) Es Ed = Ed := by
  unfold dx_tw
  rw [i_toInt ho, if_pos h1]
theorem cs_at {h : ax_H} {x k : Nat} {fs : List Value} {oks : List Nat} {E : Option ax_R} (e : h.1 x = .inr (k, fs)) (hk : k ∈ oks) : dx_cs oks (.ref x) h E = E := by
  show Option.bind (ax_ci (h.1 x)) _ = _
  rw [e]
  show (if k ∈ oks then E else none) = _
  rw [if_pos hk]
/-- the keys of the machine at b -/
def KY (b : Nat) (h : ax_H) (K : kk_K) : Prop := ∃ (mc : Int32) (ns it : Nat → Nat), LL h (b + 2) mc K.1 ns it ∧ K.1 ≤ 20 ∧ ∀ i, i < K.1 → h.1 (it i) = .inr (36, [.int (K.2.1 i), .int (K.2.2 i)]) ∧ it i < 400 + h.2.1 ∧ (it i < b ∨ b + 12 ≤ it i) ∧ b + 12 ≤ ns i
theorem KY.mono {b : Nat} {h h' : ax_H} {K : kk_K} (Y : KY b h K) (hh : ∀ q, q < 400 + h.2.1 → (q < b ∨ q = b + 2 ∨ b + 12 ≤ q) → (∃ k fs, h.1 q = .inr (k, fs) ∧ k ≠ 31) → h'.1 q = h.1 q) (h1 : h.2.1 ≤ h'.2.1) : KY b h' K := by
  obtain ⟨mc, ns, it, l, n, y⟩ := Y
  refine ⟨mc, ns, it, l.mono (hh _ l.2.2.2.2.2 (by omega) ⟨_, _, l.1, by decide⟩) (fun i hi => hh _ (l.2.2.1 i hi).2 (Or.inr (Or.inr (y i hi).2.2.2)) ⟨_, _, l.2.1 i hi, by decide⟩) h1, n, fun i hi => ?_⟩
  obtain ⟨a1, a2, a3, a4⟩ := y i hi
  exact ⟨(hh _ a2 (by omega) ⟨_, _, a1, by decide⟩).trans a1, by omega, a3, a4⟩
section MST
variable {d b e w : Nat} {Z : mr_Z} {pr : Option Nat} {c : Nat → Int32} {L : List (Nat × Int32)} {X : mr_X} {h : ax_H} {K : kk_K}
/-- the base knows the present step -/
def SB0 (Z : mr_Z) (pr : Option Nat) : Prop := ∀ st, pr = some st → (∃ fs, Z.1.1 st = .inr (31, fs)) ∧ ∃ y, Z.1.1 (st + 1) = .inl y
theorem MR.ky (R : MR b Z e w pr c L X h) (B : SB0 Z pr) (Y : KY b Z.1 K) : KY b h K := Y.mono (fun q hq hA hk => R.2.2.2.2.1 q hq (fun z => by rcases z with z | z | z <;> omega) (fun z => by
  obtain ⟨st, e1, e2⟩ := z
  obtain ⟨⟨fs, b1⟩, ⟨y, b2⟩⟩ := B st e1
  obtain ⟨k, fs2, k1, k2⟩ := hk
  rcases e2 with rfl | rfl
  · rw [b1] at k1; cases k1; exact k2 rfl
  · rw [b2] at k1; cases k1)) R.2.2.2.2.2.1
theorem toldN_le (kt : Nat → Int32) (a b : Int32) : ∀ n, toldN kt a b n ≤ n := by
  intro n
  induction n with
  | zero => exact Nat.le_refl _
  | succ n ih => unfold toldN; split <;> omega
theorem c_told (hd : 4 ≤ d) (g1 : dx_gA [(29, 1)] (.ref b) h = some (.ref (b + 2))) (Y : KY b h K) (x y : Int32) : ax_c d 334 [.ref b, .int x, .int y] h = some (.inl (some (.int (Int32.ofNat (toldN K.2.1 x y K.1)))), h) := by
  obtain ⟨mc, ns, it, l, hn, yy⟩ := Y
  obtain ⟨d, rfl, he⟩ := d_succ hd
  refine dx_app m_X2_told ?_
  have loop : ∀ m k : Nat, k + m = K.1 → B_X2_told_5 (ax_c d) b x y (Int32.ofNat (toldN K.2.1 x y k)) (Int32.ofNat k) h = some (.inl (some (.int (Int32.ofNat (toldN K.2.1 x y K.1)))), h) := by
    intro m
    induction m with
    | zero =>
      intro k hk
      obtain rfl : k = K.1 := by omega
      refine dx_app b_X2_told_5 ?_
      rw [g1, Option.bind_some, vn_at l.1]
      show Option.bind (some 125) _ = _
      rw [Option.bind_some, ll_size (by omega) l, cI_v, if_pos ((i_le (by omega) (by omega)).mpr (Nat.le_refl _))]
    | succ m ih =>
      intro k hk
      have hkk : k < K.1 := by omega
      have hi := ih (k + 1) (by omega)
      refine dx_app b_X2_told_5 ?_
      rw [g1, Option.bind_some, vn_at l.1]
      show Option.bind (some 125) _ = _
      rw [Option.bind_some, ll_size (by omega) l, cI_v, if_neg (i_ge_not hkk (by omega)), g1, Option.bind_some, vn_at l.1]
      show Option.bind (some 127) _ = _
      rw [Option.bind_some, ll_get (by omega) l hkk, cR_r, cs_at (yy k hkk).1 (by decide), gI_at (yy k hkk).1 rfl rfl, Option.bind_some]
      simp only [lt_at]
      rw [show toldN K.2.1 x y (k + 1) = toldN K.2.1 x y k + (if x ≤ K.2.1 k ∧ K.2.1 k ≤ y then 1 else 0) from rfl] at hi
      rw [show Int32.ofNat k + 1 = Int32.ofNat (k + 1) from i_add k 1]
      by_cases q1 : K.2.1 k < x
      · rw [if_pos q1, Int32.add_zero]
        rw [if_neg (fun z => Int32.not_lt.mpr z.1 q1)] at hi
        exact hi
      · rw [if_neg q1]
        by_cases q2 : y < K.2.1 k
        · rw [if_pos q2, Int32.add_zero]
          rw [if_neg (fun z => Int32.not_lt.mpr z.2 q2)] at hi
          exact hi
        · rw [if_neg q2, show Int32.ofNat (toldN K.2.1 x y k) + 1 = Int32.ofNat (toldN K.2.1 x y k + 1) from i_add _ 1]
          rw [if_pos ⟨Int32.not_lt.mp q1, Int32.not_lt.mp q2⟩] at hi
          exact hi
  exact loop K.1 0 (by omega)
theorem c_read (hd : 5 ≤ d) (R : MR b Z e w pr c L X h) (B : SB0 Z pr) (Y : KY b Z.1 K) (hL : L.length ≤ 190) (hr : rg 20 (c 16)) (hk : nn (c 16) ≤ toldN K.2.1 0 (c 2) K.1) : Ok (ax_c d 333 [.ref b] h) (.inl (some (.int (readV K c)))) (MR b Z e w pr (apW c (readW K c)) (L ++ joW c (readW K c)) X) := by
  obtain ⟨n1, n2⟩ := rg.nat hr
  have Yh := R.ky B Y
  have hl := toldN_le K.2.1 0 (c 2) K.1
  obtain ⟨d, rfl, he⟩ := d_succ hd
  refine Ok.le m_X2_read ?_
  rw [R.g0, Option.bind_some, R.rdn (i := 16) (k := 16) rfl (by decide), Option.bind_some, Option.bind_some, R.rdn (i := 2) (k := 2) rfl (by decide), Option.bind_some, R.vn, Option.bind_some, c_told he R.g1 Yh, cI_v]
  unfold readV readW
  by_cases q : c 16 = Int32.ofNat (toldN K.2.1 0 (c 2) K.1)
  · rw [if_neg (fun z => z q), if_pos q, if_pos q]
    refine Ok.ret ?_
    show MR b Z e w pr c (L ++ []) X h
    rw [List.append_nil]
    exact R
  · rw [if_pos q, if_neg q, if_neg q, R.g1, Option.bind_some, R.g0, Option.bind_some, R.rdn (i := 16) (k := 16) rfl (by decide), Option.bind_some]
    obtain ⟨mc, ns, it, l, hn, yy⟩ := Yh
    have hlt : nn (c 16) < K.1 := by
      rcases Nat.lt_or_ge (nn (c 16)) (toldN K.2.1 0 (c 2) K.1) with z | z
      · omega
      · exfalso
        apply q
        rw [n2]
        congr 1
        omega
    have hg := ll_get (d := d) (by omega) l hlt
    rw [← n2] at hg
    rw [vn_at l.1]
    show Ok (Option.bind (some 127) _) _ _
    rw [Option.bind_some, hg, cR_r, cs_at (yy _ hlt).1 (by decide), gI_at (yy _ hlt).1 rfl rfl, Option.bind_some, R.g0, Option.bind_some, R.rdn (i := 16) (k := 16) rfl (by decide), Option.bind_some, R.vn, Option.bind_some]
    exact Ok.V (c_set (by omega) R (by omega) (i := 16) (p := 16) rfl (by omega) _) fun h1 R1 => Ok.ret R1
theorem c_pass (hd : 6 ≤ d) (R : MR b Z e w pr c L X h) (B : SB0 Z pr) (Y : KY b Z.1 K) (hL : L.length ≤ 150) : Ok (ax_c d 347 [.ref b] h) (.inl none) (MR b Z e w pr (apW c (passW K c)) (L ++ joW c (passW K c)) X) := by
  obtain ⟨d, rfl, he⟩ := d_succ hd
  refine Ok.le m_X2_pass ?_
  rw [R.g0, Option.bind_some, R.rdn (i := 2) (k := 2) rfl (by decide), Option.bind_some, R.vn, Option.bind_some]
  refine Ok.V (c_set (by omega) R (by omega) (i := 2) (p := 2) rfl (by omega) _) fun h1 R1 => ?_
  obtain ⟨c1, ec1⟩ : ∃ c1, c1 = apW c [(2, c 2 + 1)] := ⟨_, rfl⟩
  have R1 : MR b Z e w pr c1 (L ++ joW c [(2, c 2 + 1)]) X h1 := by rw [ec1]; exact R1
  have f8 : c1 8 = c 8 := by rw [ec1]; rfl
  have f10 : c1 10 = c 10 := by rw [ec1]; rfl
  have f11 : c1 11 = c 11 := by rw [ec1]; rfl
  have f2 : c1 2 = c 2 + 1 := by rw [ec1]; rfl
  -- the keys of this number of steps
  have h92 : ∀ (a : ce_W) (h2 : ax_H), a.length ≤ 10 → apW c1 a 2 = c1 2 → MR b Z e w pr (apW c1 a) ((L ++ joW c [(2, c 2 + 1)]) ++ joW c1 a) X h2 → Ok (B_X2_pass_92 (ax_c d) b h2) (.inl none) (MR b Z e w pr (apW c1 (a ++ comeW K (c 2 + 1))) ((L ++ joW c [(2, c 2 + 1)]) ++ joW c1 (a ++ comeW K (c 2 + 1))) X) := by
    intro a h2 ha ea R2
    refine Ok.le b_X2_pass_92 ?_
    rw [R2.g0, Option.bind_some, R2.rdn (i := 2) (k := 2) rfl (by decide), Option.bind_some, Option.bind_some, R2.rdn (i := 2) (k := 2) rfl (by decide), Option.bind_some, R2.vn, Option.bind_some, c_told (by omega) R2.g1 (R2.ky B Y), cI_v, ea, f2]
    have hl := toldN_le K.2.1 (c 2 + 1) (c 2 + 1) K.1
    have hn : K.1 ≤ 20 := by obtain ⟨_, _, _, _, hn, _⟩ := Y; exact hn
    unfold comeW
    by_cases q : toldN K.2.1 (c 2 + 1) (c 2 + 1) K.1 = 0
    · rw [q, if_pos (by decide), if_pos rfl, List.append_nil]
      exact Ok.ret R2
    · rw [if_neg (fun z => by have := (i_le (b := 0) (by omega) (by omega)).mp z; omega), if_neg q, R2.vn, Option.bind_some]
      refine Ok.V (c_set (by omega) R2 (by simp only [List.length_append, joW_len, pushW_len, pullW_len, stopW_len, List.length_cons, List.length_nil]; omega) (i := 9) (p := 9) rfl (by omega) 1) fun h3 R3 => Ok.ret ?_
      rw [apW_app, joW_app, ← List.append_assoc]
      exact R3
  have fin : ∀ h', MR b Z e w pr (apW c1 (timeW c ++ comeW K (c 2 + 1))) ((L ++ joW c [(2, c 2 + 1)]) ++ joW c1 (timeW c ++ comeW K (c 2 + 1))) X h' → MR b Z e w pr (apW c (passW K c)) (L ++ joW c (passW K c)) X h' := by
    intro h' R'
    unfold passW
    rw [apW_app, joW_app, ← ec1, ← List.append_assoc]
    exact R'
  rw [R1.g0, Option.bind_some, R1.rdn (i := 10) (k := 10) rfl (by decide), Option.bind_some, f10]
  by_cases q : c 10 ≤ 0
  · rw [if_pos q]
    refine (h92 [] h1 (by simp) rfl (by rw [show joW c1 [] = [] from rfl, List.append_nil]; exact R1)).imp fun h' R' => fin h' ?_
    unfold timeW
    rw [if_pos q]
    exact R'
  · rw [if_neg q, Option.bind_some, R1.rdn (i := 11) (k := 11) rfl (by decide), Option.bind_some, Option.bind_some, R1.rdn (i := 10) (k := 10) rfl (by decide), Option.bind_some, f10, f11]
    have key : ∀ (s0 t z : Int32), (if s0 = 0 then c 11 + 1 else 0) = t → (if s0 = 0 then c 8 else 1) = z → timeW c = [(11, t), (8, z)] → Ok (B_X2_pass_47 (ax_c d) s0 b h1) (.inl none) (MR b Z e w pr (apW c (passW K c)) (L ++ joW c (passW K c)) X) := by
      intro s0 t z et ez ew
      have h68 : Ok (B_X2_pass_68 (ax_c d) b 11 t b s0 h1) (.inl none) (MR b Z e w pr (apW c (passW K c)) (L ++ joW c (passW K c)) X) := by
        refine Ok.le b_X2_pass_68 ?_
        rw [R1.vn, Option.bind_some]
        refine Ok.V (c_set (by omega) R1 (by simp only [List.length_append, joW_len, pushW_len, pullW_len, stopW_len, List.length_cons, List.length_nil]; omega) (i := 11) (p := 11) rfl (by omega) t) fun h2 R2 => ?_
        have g8 : upd c1 11 t 8 = c 8 := f8
        have last : ∀ h3, MR b Z e w pr (upd (upd c1 11 t) 8 z) (((L ++ joW c [(2, c 2 + 1)]) ++ [(11, c1 11)]) ++ [(8, upd c1 11 t 8)]) X h3 → Ok (B_X2_pass_92 (ax_c d) b h3) (.inl none) (MR b Z e w pr (apW c (passW K c)) (L ++ joW c (passW K c)) X) := by
          intro h3 R3
          refine (h92 [(11, t), (8, z)] h3 (by simp) rfl ?_).imp fun h' R' => fin h' (by rw [ew]; exact R')
          rw [List.append_assoc (L ++ joW c [(2, c 2 + 1)])] at R3
          exact R3
        by_cases q0 : s0 = 0
        · rw [if_pos q0, R2.g0, Option.bind_some, R2.rdn (i := 8) (k := 8) rfl (by decide), Option.bind_some, R2.vn, Option.bind_some, g8]
          rw [if_pos q0] at ez
          rw [ez]
          exact Ok.V (c_set (by omega) R2 (by simp only [List.length_append, joW_len, pushW_len, pullW_len, stopW_len, List.length_cons, List.length_nil]; omega) (i := 8) (p := 8) rfl (by omega) z) fun h3 R3 => last h3 R3
        · rw [if_neg q0, R2.vn, Option.bind_some]
          rw [if_neg q0] at ez
          rw [ez]
          exact Ok.V (c_set (by omega) R2 (by simp only [List.length_append, joW_len, pushW_len, pullW_len, stopW_len, List.length_cons, List.length_nil]; omega) (i := 8) (p := 8) rfl (by omega) z) fun h3 R3 => last h3 R3
      refine Ok.le b_X2_pass_47 ?_
      by_cases q0 : s0 = 0
      · rw [if_pos q0, R1.g0, Option.bind_some, R1.rdn (i := 11) (k := 11) rfl (by decide), Option.bind_some, f11]
        rw [if_pos q0] at et
        rw [et]
        exact h68
      · rw [if_neg q0]
        rw [if_neg q0] at et
        rw [et]
        exact h68
    by_cases q2 : c 11 + 1 = c 10
    · rw [if_neg (fun z => z q2)]
      exact key 1 0 1 rfl rfl (by unfold timeW; rw [if_neg q, if_pos q2, if_pos q2])
    · rw [if_pos q2]
      exact key 0 (c 11 + 1) (c 8) rfl rfl (by unfold timeW; rw [if_neg q, if_neg q2, if_neg q2])
theorem c_cut (hd : 1 ≤ d) (v : Int64) : ax_c d 214 [.long v] h = some (.inl (some (.int (cutI v))), h) := by
  obtain ⟨d, rfl, he⟩ := d_succ hd
  exact dx_app m_X1_cut rfl
theorem c_reckon173 (hd : 2 ≤ d) (R : MR b Z e w pr c L X h) (hL : L.length ≤ 150) (op rr : Int32) {r : Nat} (hr : rr = Int32.ofNat r) (hr2 : r < 621) (its : Int64) (less : Int32) (hle : less = 0 ∨ less = 1) : Ok (B_X2_reckon_173 (ax_c d) b op rr its less h) (.inl none) (MR b Z e w pr (apW c ([(6, less), (5, if cutI its = 0 then 1 else 0)] ++ (if op = 11 then [] else [(r, cutI its)]))) (L ++ joW c ([(6, less), (5, if cutI its = 0 then 1 else 0)] ++ (if op = 11 then [] else [(r, cutI its)]))) X) := by
  have h204 : ∀ (x : Int32) (c1 : Nat → Int32) (L1 : List (Nat × Int32)) (h1 : ax_H), L1.length ≤ 160 → MR b Z e w pr c1 L1 X h1 → Ok (B_X2_reckon_204 (ax_c d) b 5 x b op rr its h1) (.inl none) (MR b Z e w pr (apW c1 ([(5, x)] ++ (if op = 11 then [] else [(r, cutI its)]))) (L1 ++ joW c1 ([(5, x)] ++ (if op = 11 then [] else [(r, cutI its)]))) X) := by
    intro x c1 L1 h1 hL1 R1
    refine Ok.le b_X2_reckon_204 ?_
    rw [R1.vn, Option.bind_some]
    refine Ok.V (c_set (by omega) R1 (by omega) (i := 5) (p := 5) rfl (by omega) x) fun h2 R2 => ?_
    by_cases q : op = 11
    · rw [if_pos q, if_pos q]
      exact Ok.ret R2
    · rw [if_neg q, if_neg q, c_cut (by omega), cI_v, R2.vn, Option.bind_some]
      refine Ok.V (c_set (by omega) R2 (by simp only [List.length_append, joW_len, pushW_len, pullW_len, stopW_len, List.length_cons, List.length_nil]; omega) (i := rr) (p := r) hr hr2 _) fun h3 R3 => Ok.ret ?_
      rw [List.append_assoc] at R3
      exact R3
  have h186 : Ok (B_X2_reckon_186 (ax_c d) b 6 less b op rr its h) (.inl none) (MR b Z e w pr (apW c ([(6, less), (5, if cutI its = 0 then 1 else 0)] ++ (if op = 11 then [] else [(r, cutI its)]))) (L ++ joW c ([(6, less), (5, if cutI its = 0 then 1 else 0)] ++ (if op = 11 then [] else [(r, cutI its)]))) X) := by
    refine Ok.le b_X2_reckon_186 ?_
    rw [R.vn, Option.bind_some]
    refine Ok.V (c_set (by omega) R (by omega) (i := 6) (p := 6) rfl (by omega) less) fun h1 R1 => ?_
    rw [c_cut (by omega), cI_v]
    have := fun x => h204 x _ _ h1 (by simp only [List.length_append, List.length_cons, List.length_nil]; omega) R1
    by_cases q : cutI its = 0
    · rw [if_neg (fun z => z q), if_pos q]
      refine (this 1).imp fun h' R' => ?_
      rw [List.append_assoc] at R'
      exact R'
    · rw [if_pos q, if_neg q]
      refine (this 0).imp fun h' R' => ?_
      rw [List.append_assoc] at R'
      exact R'
  refine Ok.le b_X2_reckon_173 ?_
  rcases hle with q | q
  · subst q
    rw [if_pos rfl]
    exact h186
  · subst q
    rw [if_neg (by decide)]
    exact h186
theorem c_reckon (hd : 3 ≤ d) (R : MR b Z e w pr c L X h) (hL : L.length ≤ 150) {o r : Nat} (ho : 4 ≤ o ∧ o ≤ 11) (hr2 : r < 621) (y : Int32) : Ok (ax_c d 328 [.ref b, .int (Int32.ofNat o), .int (Int32.ofNat r), .int y] h) (.inl none) (MR b Z e w pr (apW c (reckW c (Int32.ofNat o) (Int32.ofNat r) y)) (L ++ joW c (reckW c (Int32.ofNat o) (Int32.ofNat r) y)) X) := by
  obtain ⟨d, rfl, he⟩ := d_succ hd
  refine Ok.le m_X2_reckon ?_
  rw [R.g0, Option.bind_some, R.rdn rfl hr2, Option.bind_some, lt_at]
  have er : nn (Int32.ofNat r) = r := nn_of (by omega)
  have key : ∀ (its : Int64) (less : Int32), (less = 0 ∨ less = 1) → itsOf (Int32.ofNat o) (c r).toInt64 y.toInt64 y = its → lessOf (Int32.ofNat o) its = less → Ok (B_X2_reckon_173 (ax_c d) b (Int32.ofNat o) (Int32.ofNat r) its less h) (.inl none) (MR b Z e w pr (apW c (reckW c (Int32.ofNat o) (Int32.ofNat r) y)) (L ++ joW c (reckW c (Int32.ofNat o) (Int32.ofNat r) y)) X) := by
    intro its less hl e1 e2
    refine (c_reckon173 he R hL _ _ rfl hr2 its less hl).imp fun h' R' => ?_
    unfold reckW
    rw [er]
    dsimp only
    rw [e1, e2]
    exact R'
  have k152 : (o = 5 ∨ o = 11) → Ok (B_X2_reckon_152 (ax_c d) b (Int32.ofNat o) (Int32.ofNat r) y (c r).toInt64 h) (.inl none) (MR b Z e w pr (apW c (reckW c (Int32.ofNat o) (Int32.ofNat r) y)) (L ++ joW c (reckW c (Int32.ofNat o) (Int32.ofNat r) y)) X) := by
    intro h5
    refine Ok.le b_X2_reckon_152 ?_
    rw [lt_at]
    have e1 : itsOf (Int32.ofNat o) (c r).toInt64 y.toInt64 y = (c r).toInt64 - y.toInt64 := by rcases h5 with rfl | rfl <;> rfl
    have e2 : ∀ v, lessOf (Int32.ofNat o) v = if 0 ≤ lg_cmp v 0 then 0 else 1 := by rcases h5 with rfl | rfl <;> exact fun _ => rfl
    by_cases q : 0 ≤ lg_cmp ((c r).toInt64 - y.toInt64) 0
    · rw [if_pos q]
      exact key _ 0 (Or.inl rfl) e1 (by rw [e2, if_pos q])
    · rw [if_neg q]
      exact key _ 1 (Or.inr rfl) e1 (by rw [e2, if_neg q])
  obtain rfl | rfl | rfl | rfl | rfl | rfl | rfl | rfl : o = 4 ∨ o = 5 ∨ o = 6 ∨ o = 7 ∨ o = 8 ∨ o = 9 ∨ o = 10 ∨ o = 11 := by omega
  · rw [tw_in (o := 4) (by omega) (by omega) (by omega) rfl]
    refine Ok.le b_X2_reckon_56 ?_
    rw [lt_at]
    by_cases q : lg_cmp ((c r).toInt64 + y.toInt64) 65535 ≤ 0
    · rw [if_pos q]
      exact key _ 0 (Or.inl rfl) rfl (show (if _ then _ else _) = _ from if_pos q)
    · rw [if_neg q]
      exact key _ 1 (Or.inr rfl) rfl (show (if _ then _ else _) = _ from if_neg q)
  · rw [tw_in (o := 5) (by omega) (by omega) (by omega) rfl]
    exact k152 (Or.inl rfl)
  · rw [tw_in (o := 6) (by omega) (by omega) (by omega) rfl]
    refine Ok.le b_X2_reckon_82 ?_
    rw [lt_at]
    by_cases q : lg_cmp ((c r).toInt64 * y.toInt64) 65535 ≤ 0
    · rw [if_pos q]
      exact key _ 0 (Or.inl rfl) rfl (show (if _ then _ else _) = _ from if_pos q)
    · rw [if_neg q]
      exact key _ 1 (Or.inr rfl) rfl (show (if _ then _ else _) = _ from if_neg q)
  · rw [tw_in (o := 7) (by omega) (by omega) (by omega) rfl, lt_at]
    exact key _ 0 (Or.inl rfl) rfl rfl
  · rw [tw_in (o := 8) (by omega) (by omega) (by omega) rfl, lt_at]
    exact key _ 0 (Or.inl rfl) rfl rfl
  · rw [tw_in (o := 9) (by omega) (by omega) (by omega) rfl]
    refine Ok.le b_X2_reckon_128 ?_
    rw [lt_at]
    exact key _ 0 (Or.inl rfl) rfl rfl
  · rw [tw_in (o := 10) (by omega) (by omega) (by omega) rfl]
    refine Ok.le b_X2_reckon_140 ?_
    rw [lt_at]
    exact key _ 0 (Or.inl rfl) rfl rfl
  · rw [tw_out (o := 11) (by omega) (by omega)]
    exact k152 (Or.inr rfl)
end MST
