/-! the class's machine at rest: what changed where; a key pressed -/
/- with MM.mv c_unW' -/
/-- a journal has a place -/
def hasP : List (Nat × Int32) → Nat → Int32
  | [], _ => 0
  | q :: Q, p => if q.1 = p then 1 else hasP Q p
theorem hasP_app (A B : List (Nat × Int32)) (p : Nat) : hasP (A ++ B) p = if hasP A p = 1 then 1 else hasP B p := by
  induction A with
  | nil => show hasP B p = if (0 : Int32) = 1 then 1 else hasP B p; rw [if_neg (by decide)]
  | cons q A ih =>
    show (if q.1 = p then 1 else hasP (A ++ B) p) = if (if q.1 = p then (1 : Int32) else hasP A p) = 1 then 1 else hasP B p
    by_cases z : q.1 = p
    · rw [if_pos z, if_pos z, if_pos rfl]
    · rw [if_neg z, if_neg z, ih]
theorem hasP_01 (A : List (Nat × Int32)) (p : Nat) : hasP A p = 0 ∨ hasP A p = 1 := by
  induction A with
  | nil => exact Or.inl rfl
  | cons q A ih =>
    show (if q.1 = p then (1 : Int32) else hasP A p) = 0 ∨ (if q.1 = p then (1 : Int32) else hasP A p) = 1
    by_cases z : q.1 = p
    · rw [if_pos z]; exact Or.inr rfl
    · rw [if_neg z]; exact ih
/-- the latest of the steps whose journal has the place; t is the number of steps made -/
def chR (J : mm_J) (p : Nat) : Nat → Int32 → Int32
  | 0, _ => -1
  | m + 1, t => if hasP (J m) p = 0 then chR J p m (t + (-1)) else t + (-1)
/-- the place where a key is put in: behind the last one that was told till then -/
def pzF (kt : Nat → Int32) (t : Int32) : Nat → Nat
  | 0 => 0
  | m + 1 => if t < kt m then pzF kt t m else m + 1
theorem pzF_le (kt : Nat → Int32) (t : Int32) : ∀ m, pzF kt t m ≤ m := by
  intro m
  induction m with
  | zero => exact Nat.le_refl _
  | succ m ih => unfold pzF; split <;> omega
def insI (f : Nat → Int32) (k : Nat) (x : Int32) : Nat → Int32 := fun i => if i < k then f i else if i = k then x else f (i - 1)
def prK (K : kk_K) (t key : Int32) : kk_K := (K.1 + 1, insI K.2.1 (pzF K.2.1 t K.1) t, insI K.2.2 (pzF K.2.1 t K.1) key)
/-- the last step's journal notes that keys wait -/
def prJ (J : mm_J) (n : Nat) (x : Int32) : mm_J := fun i => if i + 1 = n then J i ++ [(9, x)] else J i
theorem cs_null {oks : List Nat} {h : ax_H} {E : Option ax_R} : dx_cs oks .null h E = E := rfl
section MMP
variable {d b im n cap : Nat} {kp : Int32} {ds0 c : Nat → Int32} {K : kk_K} {J : mm_J} {P : Nat → Prop} {h : ax_H}
theorem c_has (hd : 1 ≤ d) {st row : Nat} {Q : List (Nat × Int32)} (s : SJ h b st row Q) {p : Nat} (hp : p < 621) : ax_c d 360 [.ref st, .int (Int32.ofNat p)] h = some (.inl (some (.int (hasP Q p))), h) := by
  obtain ⟨s1, s2, s4, s6, f, m, s7, s8, s9, s10, s11⟩ := s
  obtain ⟨d, rfl, he⟩ := d_succ hd
  refine dx_app m_X21_has ?_
  have o0 : ∀ x : Int32, x = 0 ∨ x = 1 → x ||| 0 = x ∧ x ||| 1 = 1 := by
    rintro x (rfl | rfl) <;> exact ⟨by decide, by decide⟩
  have loop : ∀ m2 k : Nat, k + m2 = Q.length → B_X21_has_4 (ax_c d) st (Int32.ofNat p) (hasP (Q.take k) p) (Int32.ofNat (2 * k)) h = some (.inl (some (.int (hasP Q p))), h) := by
    intro m2
    induction m2 with
    | zero =>
      intro k hk
      obtain rfl : k = Q.length := by omega
      refine dx_app b_X21_has_4 ?_
      rw [gI_at s1 rfl rfl, Option.bind_some, if_pos ((i_le (by omega) (by omega)).mpr (Nat.le_refl _)), List.take_length, if_pos (hasP_01 _ _)]
    | succ m2 ih =>
      intro k hk
      obtain ⟨q, hq⟩ : ∃ q, Q[k]? = some q := ⟨Q[k]'(by omega), List.getElem?_eq_getElem (by omega)⟩
      obtain ⟨f1, f2, f3⟩ := s11 k q hq
      have ih := ih (k + 1) (by omega)
      have et : hasP (Q.take (k + 1)) p = if hasP (Q.take k) p = 1 then 1 else (if q.1 = p then 1 else 0) := by
        rw [List.take_add_one, hq]
        exact hasP_app _ _ _
      rw [et] at ih
      obtain ⟨o1, o2⟩ := o0 _ (hasP_01 (Q.take k) p)
      refine dx_app b_X21_has_4 ?_
      rw [gI_at s1 rfl rfl, Option.bind_some, if_neg (i_ge_not (by omega) (by omega)), gA_r s1 rfl rfl, Option.bind_some, lI_at s7, ix_of rfl (show 2 * k < m by omega) (by omega), Option.bind_some, Option.bind_some, f1, o1, o2]
      simp only [lt_at]
      rw [show Int32.ofNat (2 * k) + 2 = Int32.ofNat (2 * (k + 1)) from i_add _ 2]
      by_cases z : q.1 = p
      · rw [if_neg (fun w => w (by rw [z]))]
        rw [if_pos z] at ih
        have : (if hasP (Q.take k) p = 1 then (1 : Int32) else 1) = 1 := by split <;> rfl
        rw [this] at ih
        exact ih
      · rw [if_pos (fun w => z ((i_eq (by omega) (by omega)).mp w))]
        rw [if_neg z] at ih
        rcases hasP_01 (Q.take k) p with w | w
        · rw [w, if_neg (by decide)] at ih
          rw [w]; exact ih
        · rw [w, if_pos rfl] at ih
          rw [w]; exact ih
  exact loop Q.length 0 (by omega)
theorem c_changedAt (hd : 7 ≤ d) (M : MM b kp im ds0 c K n J cap P h) {a : Nat} (ha : a < 256) (hn : n ≤ 200) : Ok (ax_c d 350 [.ref b, .int (Int32.ofNat a)] h) (.inl (some (.int (chR J (108 + a) n (c 2))))) (fun h' => (∀ q, q < 400 + h.2.1 → h'.1 q = h.1 q) ∧ h'.2.1 = h.2.1 + 1 ∧ h'.2.2 = h.2.2 + 5) := by
  obtain ⟨d, rfl, he⟩ := d_succ hd
  refine Ok.le m_X2_changedAt ?_
  have V := M.mv
  rw [V.g0, Option.bind_some, V.rdn (i := 2) (k := 2) rfl (by decide), Option.bind_some, M.g2, Option.bind_some]
  obtain ⟨X, arr, a', it, rw', m1, m2, m3, m4, m5, m6, m7, m8, m9, m10, m11, m12, m13, m14, m15, m16⟩ := M
  rw [vn_at m5.1]
  show Ok (Option.bind (some 160) _) _ _
  rw [Option.bind_some]
  refine Ok.R (di_init (by omega) m5) ?_
  rintro h1 ⟨I1, s1, s2, k1⟩
  have loop : ∀ m : Nat, m ≤ n → ∀ (t : Int32) (h2 : ax_H), DI h2 (400 + h.2.1) (b + 3) cap a' m → Ex (fun q => q = 400 + h.2.1) h1 h2 → Ok (B_X2_changedAt_15 (ax_c d) (Int32.ofNat a) t (.ref (400 + h.2.1)) h2) (.inl (some (.int (chR J (108 + a) m t)))) (fun h' => (∀ q, q < 400 + h.2.1 → h'.1 q = h.1 q) ∧ h'.2.1 = h.2.1 + 1 ∧ h'.2.2 = h.2.2 + 5) := by
    intro m
    induction m with
    | zero =>
      intro hm t h2 I2 E2
      obtain ⟨x, I2'⟩ := id I2
      refine Ok.le (b_X2_changedAt_15 rfl) ?_
      rw [vn_at I2']
      show Ok (Option.bind (some 92) _) _ _
      rw [Option.bind_some, di_hasNext (by omega) I2 (by omega), cI_v, if_pos rfl, if_pos rfl]
      exact Ok.ret ⟨fun q hq => (E2.2 q (by omega)).trans (k1 q hq), by rw [E2.1]; exact s1, by rw [E2.1]; exact s2⟩
    | succ m ih =>
      intro hm t h2 I2 E2
      obtain ⟨x, I2'⟩ := id I2
      refine Ok.le (b_X2_changedAt_15 rfl) ?_
      have kk : ∀ q, q < 400 + h.2.1 → h2.1 q = h.1 q := fun q hq => (E2.2 q (by omega)).trans (k1 q hq)
      have D2 : DQ h2 (b + 3) arr cap a' n it := m5.mono (kk _ (by omega)) (kk _ m5.2.2.2.2.2.2.2.2) (by rw [E2.1]; omega)
      rw [vn_at I2']
      show Ok (Option.bind (some 92) _) _ _
      rw [Option.bind_some, di_hasNext (by omega) I2 (by omega), cI_v, if_neg (Nat.succ_ne_zero m), if_neg (by decide), lt_at, vn_at I2']
      show Ok (Option.bind (some 94) _) _ _
      rw [Option.bind_some]
      refine Ok.R (di_next (by omega) D2 (by omega) I2 (by omega)) ?_
      rintro h3 ⟨I3, E3⟩
      have E3' := E2.tr E3
      have kk3 : ∀ q, q < 400 + h.2.1 → h3.1 q = h.1 q := fun q hq => (E3'.2 q (by omega)).trans (k1 q hq)
      have s := m8 m (by omega)
      have s3 : SJ h3 b (it m) (rw' m) (J m) := s.mono (kk3 _ s.2.1.2) (kk3 _ s.2.2.1.2) (by rw [E3'.1]; omega)
      rw [cs_at s3.1 (by decide), vn_at s3.1]
      show Ok (Option.bind (some 360) _) _ _
      rw [Option.bind_some, show (108 : Int32) + Int32.ofNat a = Int32.ofNat (108 + a) from i_add 108 a, c_has (by omega) s3 (by omega), cI_v]
      rw [show chR J (108 + a) (m + 1) t = if hasP (J m) (108 + a) = 0 then chR J (108 + a) m (t + (-1)) else t + (-1) from rfl]
      by_cases z : hasP (J m) (108 + a) = 0
      · rw [if_pos z, if_pos z]
        exact ih (by omega) _ h3 I3 E3'
      · rw [if_neg z, if_neg z]
        exact Ok.ret ⟨kk3, by rw [E3'.1]; exact s1, by rw [E3'.1]; exact s2⟩
  exact loop n (Nat.le_refl _) (c 2) h1 I1 Ex.rf
theorem insI_lt {f : Nat → Int32} {k i : Nat} {x : Int32} (h : i < k) : insI f k x i = f i := if_pos h
theorem insI_eq {f : Nat → Int32} {k : Nat} {x : Int32} : insI f k x k = x := by unfold insI; rw [if_neg (Nat.lt_irrefl k), if_pos rfl]
theorem insI_gt {f : Nat → Int32} {k i : Nat} {x : Int32} (h : k < i) : insI f k x i = f (i - 1) := by unfold insI; rw [if_neg (by omega), if_neg (by omega)]
theorem c_press (hd : 7 ≤ d) (M : MM b kp im ds0 c K n J cap P h) (hK : K.1 < 20) (hn : n ≤ 200) (hJ : ∀ i, i < n → (J i).length ≤ 59) (key : Int32) : Ok (ax_c d 349 [.ref b, .int key] h) (.inl none) (fun h' => MM b kp im ds0 (upd c 9 1) (prK K (c 2) key) n (prJ J n (c 9)) cap (xR P h h') h' ∧ FrP P 260 540 h h') := by
  obtain ⟨d, rfl, he⟩ := d_succ hd
  refine Ok.le m_X2_press ?_
  have V := M.mv
  have b4 := M.bd
  rw [M.g1, Option.bind_some, Option.bind_some]
  obtain ⟨X, arr, a', it, rw', m1, m2, ⟨y1, ⟨g, y2, y3⟩, y4, y5⟩, ⟨mc, ns, ki, l, n20, yy⟩, m5, m6, m7, m8, m9, m10, m11, m12, m13, m14, m15, m16⟩ := M
  rw [vn_at l.1]
  show Ok (Option.bind (some 125) _) _ _
  rw [Option.bind_some, ll_size (by omega) l, cI_v, vn_at l.1]
  show Ok (Option.bind (some 134) _) _ _
  rw [Option.bind_some]
  refine Ok.R (ll_iter (by omega) l) ?_
  rintro h1 ⟨I1, s1, s2, k1⟩
  obtain ⟨ia, eia⟩ : ∃ ia, ia = 400 + h.2.1 := ⟨_, rfl⟩
  rw [← eia] at I1 ⊢
  have kk1 : ∀ q, q < ia → h1.1 q = h.1 q := fun q hq => k1 q (by omega)
  -- the key is put in at pz, where the iterator stands
  have fin : ∀ (pz : Nat) (lr : Value) (h2 : ax_H), pz ≤ K.1 → pz = pzF K.2.1 (c 2) K.1 → IT h2 ia (b + 2) mc K.1 ns lr pz → Ex (fun q => q = ia) h1 h2 → Ok (B_X2_press_71 (ax_c d) b key (.ref ia) h2) (.inl none) (fun h' => MM b kp im ds0 (upd c 9 1) (prK K (c 2) key) n (prJ J n (c 9)) cap (xR P h h') h' ∧ FrP P 260 540 h h') := by
    intro pz lr h2 hpz epz I2 E2
    have kk2 : ∀ q, q < ia → h2.1 q = h.1 q := fun q hq => (E2.2 q (by omega)).trans (kk1 q hq)
    have s21 : h2.2.1 = h.2.1 + 1 := by rw [E2.1]; exact s1
    have s22 : h2.2.2 = h.2.2 + 5 := by rw [E2.1]; exact s2
    refine Ok.le (b_X2_press_71 rfl) ?_
    have gb : ∀ x, (ax_new h2 x 2).1 b = h.1 b := fun x => (new_ne _ _ (by omega)).trans (kk2 b (by omega))
    have g1 : ∀ x, (ax_new h2 x 2).1 (b + 1) = .inl (0, 621, .inl c) := fun x => (new_ne _ _ (by omega)).trans ((kk2 _ (by omega)).trans m2)
    rw [nw_at, gA_r (p := b + 1) ((gb _).trans m1) rfl rfl, Option.bind_some, lI_at (g1 _), ix_of (i := 2) (k := 2) rfl (by omega) (by omega), Option.bind_some, Option.bind_some]
    obtain ⟨ka, eka⟩ : ∃ ka, ka = 400 + h2.2.1 := ⟨_, rfl⟩
    -- the key itself
    have e365 : Ok (ax_c d 365 [.ref (400 + h2.2.1), .int (c 2), .int key] (ax_new h2 (.inr (36, [.int 0, .int 0])) 2)) (.inl none) (fun h' => h'.1 ka = .inr (36, [.int (c 2), .int key]) ∧ h'.2.1 = h.2.1 + 2 ∧ h'.2.2 = h.2.2 + 7 ∧ (∀ q, q < ka → h'.1 q = h2.1 q)) := by
      obtain ⟨d2, rfl, he2⟩ := d_succ (k := 5) he
      refine Ok.le m_X26_init ?_
      rw [nn_ref, pF_int (new_eq _ _) rfl (Nat.le_of_ble_eq_true rfl) (by omega), Option.bind_some, pF_int (set_eq _) rfl (Nat.le_of_ble_eq_true rfl) (by omega), Option.bind_some]
      subst eka
      exact Ok.ret ⟨(set_eq _).trans rfl, by show h2.2.1 + 1 = _; omega, by show h2.2.2 + 2 = _; omega, fun q hq => (set_ne _ (by omega)).trans ((set_ne _ (by omega)).trans (new_ne _ _ (by omega)))⟩
    refine Ok.V e365 ?_
    rintro h3 ⟨f1, f2, f3, f4⟩
    have kk3 : ∀ q, q < ia → h3.1 q = h.1 q := fun q hq => (f4 q (by omega)).trans (kk2 q hq)
    have I3 : IT h3 ia (b + 2) mc K.1 ns lr pz := (f4 _ (by omega)).trans I2
    have l3 : LL h3 (b + 2) mc K.1 ns ki := l.mono (kk3 _ (by omega)) (fun i hi => kk3 _ (by have := (l.2.2.1 i hi).2; omega)) (by omega)
    rw [vn_at I3, ← eka]
    show Ok (Option.bind (some 90) _) _ _
    rw [Option.bind_some]
    refine Ok.V (it_add (by omega) l3 (by omega) (by omega) I3 hpz (by omega) ka) ?_
    rintro h4 ⟨l4, t1, t2, t3⟩
    have nty : ∀ q x, h.1 q = x → (∀ fs, x ≠ .inr (1, fs)) → q < ia → q ≠ b + 2 → h4.1 q = h.1 q := fun q x e hx q1 q2 => (t3 q (by omega) q2 (fun i hi z => by
      have := l.2.1 i hi
      rw [← z, e] at this
      exact hx _ this) (by omega)).trans (kk3 q q1)
    have nlo : ∀ q, q ≤ b + 11 → q ≠ b + 2 → h4.1 q = h.1 q := fun q q1 q2 => (t3 q (by omega) q2 (fun i hi z => by have := (yy i hi).2.2.2.1; omega) (by omega)).trans (kk3 q (by omega))
    have s4 : h4.2.1 = h.2.1 + 3 := by omega
    have s42 : h4.2.2 = h.2.2 + 10 := by omega
    have D4 : DQ h4 (b + 3) arr cap a' n it := m5.mono (nlo _ (by omega) (by omega)) (by
      have hal := m5.2.2.2.2.2.2.2.2
      obtain ⟨-, ⟨f, e2, -⟩, -⟩ := m5
      exact nty arr _ e2 (fun fs z => by cases z) (by omega) (by
        intro z
        rcases m7 with w | w <;> omega)) (by omega)
    have sj4 : ∀ i, i < n → SJ h4 b (it i) (rw' i) (J i) := fun i hi => by
      have s := m8 i hi
      obtain ⟨f', m', e', -⟩ := s.2.2.2.2
      exact s.mono (nty _ _ s.1 (fun fs z => by cases z) (by have := s.2.1.2; omega) (by have := s.2.1.1; omega)) (nty _ _ e' (fun fs z => by cases z) (by have := s.2.2.1.2; omega) (by have := s.2.2.1.1; omega)) (by omega)
    -- the keys behind
    have Y : ∀ (h5 : ax_H) (P' : Nat → Prop), (∀ q k fs, h4.1 q = .inr (k, fs) → k ≠ 31 → q < 400 + h4.2.1 → h5.1 q = h4.1 q) → h4.2.1 ≤ h5.2.1 → (∀ q, P q → P' q) → (∀ q, ia ≤ q → q < 400 + h4.2.1 → P' q) → KYP b h5 (prK K (c 2) key) P' := by
      intro h5 P' k5 s5 p1 p2
      have a1 := l4.2.2.1
      refine ⟨mc + 1, insF ns pz (400 + h3.2.1), insF ki pz ka, l4.mono (k5 _ _ _ l4.1 (by decide) (by omega)) (fun i hi => k5 _ _ _ (l4.2.1 i hi) (by decide) (a1 i hi).2) s5, by show K.1 + 1 ≤ 20; omega, fun i hi => ?_⟩
      have hi : i < K.1 + 1 := hi
      show h5.1 (insF ki pz ka i) = .inr (36, [.int (insI K.2.1 (pzF K.2.1 (c 2) K.1) (c 2) i), .int (insI K.2.2 (pzF K.2.1 (c 2) K.1) key i)]) ∧ _
      rw [← epz]
      have old : ∀ j, j < K.1 → h5.1 (ki j) = .inr (36, [.int (K.2.1 j), .int (K.2.2 j)]) ∧ ki j < 400 + h5.2.1 ∧ (ki j < b ∨ b + 12 ≤ ki j) ∧ b + 12 ≤ ns j ∧ P' (ns j) ∧ P' (ki j) := fun j hj => by
        obtain ⟨z1, z2, z3, z4, z5, z6⟩ := yy j hj
        have e4 := (nty _ _ z1 (fun fs z => by cases z) (by omega) (by omega)).trans z1
        exact ⟨(k5 _ _ _ e4 (by decide) (by omega)).trans e4, by omega, z3, z4, p1 _ z5, p1 _ z6⟩
      rcases Nat.lt_trichotomy i pz with z | z | z
      · rw [insF_lt z, insF_lt z, insI_lt z, insI_lt z]
        exact old i (by omega)
      · rw [z, insF_eq, insF_eq, insI_eq, insI_eq]
        have ek4 : h4.1 ka = .inr (36, [.int (c 2), .int key]) := (t3 ka (by omega) (by omega) (fun i hi z => by have := (l.2.2.1 i hi).2; omega) (by omega)).trans f1
        exact ⟨(k5 _ _ _ ek4 (by decide) (by omega)).trans ek4, by omega, Or.inr (by omega), by omega, p2 _ (by omega) (by omega), p2 _ (by omega) (by omega)⟩
      · rw [insF_gt z, insF_gt z, insI_gt z, insI_gt z]
        exact old (i - 1) (by omega)
    rw [gA_r (p := b + 3) ((nlo b (by omega) (by omega)).trans m1) rfl rfl, Option.bind_some, vn_at D4.1]
    show Ok (Option.bind (some 159) _) _ _
    rw [Option.bind_some, dq_peekLast (by omega) D4]
    -- the flag is set, and all is put together
    have last : ∀ (h5 : ax_H) (J5 : mm_J) (rw5 : Nat → Nat), J5 = prJ J n (c 9) → (∀ q k fs, h4.1 q = .inr (k, fs) → k ≠ 31 → q < 400 + h4.2.1 → h5.1 q = h4.1 q) → (∀ q, q ≤ b + 11 → h5.1 q = h4.1 q) → h5.1 arr = h4.1 arr → h4.2.1 ≤ h5.2.1 → h4.2.2 ≤ h5.2.2 → h5.2.1 ≤ h4.2.1 + 256 → h5.2.2 ≤ h4.2.2 + 530 → (∀ i, i < n → SJ h5 b (it i) (rw5 i) (J5 i)) → (∀ i j, i < j → j < n → rw5 i ≠ rw5 j) → (∀ i, i < n → P (rw5 i) ∨ 400 + h.2.1 ≤ rw5 i) → (∀ q, q < 400 + h4.2.1 → ¬ P q → h5.1 q = h4.1 q) → Ok ((dx_gA [(29, 0)] (.ref b) h5).bind fun r10 => (dx_sI 0 r10 9 1 h5).bind fun h11 => some (.inl none, h11)) (.inl none) (fun h' => MM b kp im ds0 (upd c 9 1) (prK K (c 2) key) n (prJ J n (c 9)) cap (xR P h h') h' ∧ FrP P 260 540 h h') := by
      rintro h5 J5 rw5 rfl k5 lo5 ar5 s5 s52 s53 s54 sj5 dj5 pr5 fr5
      have lo : ∀ q, q ≤ b + 11 → q ≠ b + 2 → h5.1 q = h.1 q := fun q q1 q2 => (lo5 q q1).trans (nlo q q1 q2)
      rw [gA_r (p := b + 1) ((lo b (by omega) (by omega)).trans m1) rfl rfl, Option.bind_some, sI_at ((lo _ (by omega) (by omega)).trans m2) (by omega), ix_of (i := 9) (k := 9) rfl (by omega) (by omega), Option.bind_some, Option.bind_some]
      have px : ∀ q, P q → xR P h (ax_set h5 (b + 1) (.inl (0, 621, .inl (upd c 9 1)))) q := fun q hq => ⟨by show q < 400 + h5.2.1; have := m13 q hq; omega, Or.inl hq⟩
      have ns1 : ∀ q, q ≠ b + 1 → (ax_set h5 (b + 1) (.inl (0, 621, .inl (upd c 9 1)))).1 q = h5.1 q := fun q hq => set_ne _ hq
      refine Ok.ret ⟨⟨X, arr, a', it, rw5, (ns1 _ (by omega)).trans ((lo b (by omega) (by omega)).trans m1), set_eq _, ⟨(ns1 _ (by omega)).trans ((lo _ (by omega) (by omega)).trans y1), ⟨g, (ns1 _ (by omega)).trans ((lo _ (by omega) (by omega)).trans y2), y3⟩, fun k hk => (ns1 _ (by omega)).trans ((lo _ (by omega) (by omega)).trans (y4 k hk)), y5⟩, (Y h5 _ k5 s5 px (fun q q1 q2 => ⟨by show q < 400 + h5.2.1; omega, Or.inr (by omega)⟩)).mono (fun q _ hh _ _ => ns1 q (by omega)) (fun _ _ z => z) (Nat.le_refl _), D4.mono ((ns1 _ (by omega)).trans (lo5 _ (by omega))) ((ns1 _ (by omega)).trans ar5) s5, m6, m7, fun i hi => (sj5 i hi).mono (ns1 _ (by have := (sj5 i hi).2.1; omega)) (ns1 _ (by have := (sj5 i hi).2.2.1; omega)) (Nat.le_refl _), fun i j hij hj => ⟨(m9 i j hij hj).1, dj5 i j hij hj⟩, (ns1 _ (by omega)).trans ((lo _ (by omega) (by omega)).trans m10), m11, by show b + 11 < 400 + h5.2.1; omega, fun q hq => hq.1, fun q q1 q2 => px q (m14 q q1 q2), px _ m15, fun i hi => ⟨px _ (m16 i hi).1, ⟨by show rw5 i < 400 + h5.2.1; exact (sj5 i hi).2.2.1.2, pr5 i hi⟩⟩⟩, ?_, ?_, ?_, ?_, fun q hq hP => ?_⟩
      · show h.2.1 ≤ h5.2.1; omega
      · show h.2.2 ≤ h5.2.2; omega
      · show h5.2.1 ≤ _; omega
      · show h5.2.2 ≤ _; omega
      · have q1 : ¬ (b ≤ q ∧ q ≤ b + 11) := fun z => hP (m14 q z.1 z.2)
        refine (ns1 q (by omega)).trans ((fr5 q (by omega) hP).trans ((t3 q (by omega) (by omega) (fun i hi z => ?_) (by omega)).trans (kk3 q (by omega))))
        exact hP (by rw [z]; exact (yy i hi).2.2.2.2.1)
    by_cases qn : n = 0
    · subst qn
      rw [if_pos rfl, cR_n]
      rw [cs_null, nul_null]
      exact last h4 (prJ J 0 (c 9)) rw' rfl (fun _ _ _ _ _ _ => rfl) (fun _ _ => rfl) rfl (Nat.le_refl _) (Nat.le_refl _) (by omega) (by omega) (fun i hi => by omega) (fun i j _ hj => by omega) (fun i hi => by omega) (fun _ _ _ => rfl)
    · obtain ⟨z, rfl⟩ : ∃ z, n = z + 1 := ⟨n - 1, by omega⟩
      have sz := sj4 z (by omega)
      have hJz := hJ z (by omega)
      rw [if_neg qn, Nat.add_sub_cancel, cR_r, cs_at sz.1 (by decide), nul_ref, gA_r (p := b + 1) ((nlo b (by omega) (by omega)).trans m1) rfl rfl, Option.bind_some, lI_at ((nlo _ (by omega) (by omega)).trans m2), ix_of (i := 9) (k := 9) rfl (by omega) (by omega), Option.bind_some, Option.bind_some, vn_at sz.1]
      show Ok (Option.bind (some 359) _) _ _
      rw [Option.bind_some]
      obtain ⟨u1, ⟨u2, u3⟩, ⟨u4, u5⟩, u6, f, m, u7, u8, u9, u10, u11⟩ := id sz
      refine Ok.V (c_note (d := d) (p := 9) (v := c 9) (by omega) (by omega) u3 (by omega) u5 u1 u7 u8 u9 u10 (by omega) u11 (by omega)) ?_
      rintro h5 ⟨row', n', f', w1, w2, w3, w4, w5, w6, w7, w8, w9, w10, w11, w12, w13⟩
      have nrow : ∀ q k fs, h4.1 q = .inr (k, fs) → q ≠ rw' z := fun q k fs e w => by rw [w, u7] at e; cases e
      have nst : ∀ q k fs, h4.1 q = .inr (k, fs) → k ≠ 31 → q ≠ it z := fun q k fs e hk w => by rw [w, u1] at e; cases e; exact hk rfl
      have k5 : ∀ q k fs, h4.1 q = .inr (k, fs) → k ≠ 31 → q < 400 + h4.2.1 → h5.1 q = h4.1 q := fun q k fs e hk hq => w13 q hq (nst q k fs e hk) (nrow q k fs e)
      have rneq : ∀ i j, i < z + 1 → j < z + 1 → i ≠ j → it i ≠ it j ∧ rw' i ≠ rw' j := fun i j hi hj hij => by
        rcases Nat.lt_or_ge i j with q | q
        · exact m9 i j q hj
        · have := m9 j i (by omega) hi
          exact ⟨Ne.symm this.1, Ne.symm this.2⟩
      have p16 := m16 z (by omega)
      have Dr := D4.2.1
      have earr : ∃ f, h4.1 arr = .inl (4, cap, objs f) := by
        obtain ⟨f, e2, -⟩ := Dr
        exact ⟨f, e2⟩
      obtain ⟨fa, earr⟩ := earr
      refine last h5 (prJ J (z + 1) (c 9)) (fun i => if i = z then row' else rw' i) rfl k5 (fun q hq => w13 q (by omega) (by omega) (by omega)) (w13 arr (D4.2.2.2.2.2.2.2.2) (fun w => by rw [w, u1] at earr; cases earr) (fun w => by rw [w, u7] at earr; cases earr)) w9 w10 (by omega) (by omega) (fun i hi => ?_) (fun i j hij hj => ?_) (fun i hi => ?_) (fun q hq hP => w13 q hq (fun w => hP (by rw [w]; exact p16.1)) (fun w => hP (by rw [w]; exact p16.2)))
      · show SJ h5 b (it i) (if i = z then row' else rw' i) (if i + 1 = z + 1 then J i ++ [(9, c 9)] else J i)
        by_cases q : i = z
        · rw [if_pos q, if_pos (by omega), q]
          have el : (J z ++ [(9, c 9)]).length = (J z).length + 1 := by rw [List.length_append]; rfl
          exact ⟨w1, ⟨u2, by omega⟩, ⟨by omega, w4⟩, by omega, f', n', w2, by omega, w6, by omega, w8⟩
        · rw [if_neg q, if_neg (by omega)]
          have s := sj4 i hi
          obtain ⟨fi, mi, ei, -⟩ := s.2.2.2.2
          have rn := rneq i z hi (by omega) q
          exact s.mono (w13 _ s.2.1.2 rn.1 (nrow _ _ _ s.1)) (w13 _ s.2.2.1.2 (fun w => by rw [w, u1] at ei; cases ei) rn.2) w9
      · show (if i = z then row' else rw' i) ≠ (if j = z then row' else rw' j)
        have s := sj4 i (by omega)
        rw [if_neg (show ¬ i = z by omega)]
        by_cases q : j = z
        · rw [if_pos q]
          have rn := rneq i z (by omega) (by omega) (by omega)
          rcases w3 with w | w
          · rw [w]; exact rn.2
          · have := s.2.2.1.2; omega
        · rw [if_neg q]
          exact (rneq i j (by omega) hj (by omega)).2
      · show P (if i = z then row' else rw' i) ∨ 400 + h.2.1 ≤ (if i = z then row' else rw' i)
        by_cases q : i = z
        · rw [if_pos q]
          rcases w3 with w | w
          · rw [w]; exact Or.inl p16.2
          · exact Or.inr (by omega)
        · rw [if_neg q]; exact Or.inl (m16 i hi).2
  -- the way back from the end
  have llx : ∀ h2, Ex (fun q => q = ia) h1 h2 → LL h2 (b + 2) mc K.1 ns ki := fun h2 E2 => l.mono ((E2.2 _ (by omega)).trans (kk1 _ (by omega))) (fun i hi => (E2.2 _ (by have := (l.2.2.1 i hi).2; omega)).trans (kk1 _ (by have := (l.2.2.1 i hi).2; omega))) (by rw [E2.1]; omega)
  have loop : ∀ (j : Nat) (lr : Value) (h2 : ax_H), j ≤ K.1 → pzF K.2.1 (c 2) j = pzF K.2.1 (c 2) K.1 → IT h2 ia (b + 2) mc K.1 ns lr j → Ex (fun q => q = ia) h1 h2 → Ok (B_X2_press_17 (ax_c d) b key (.ref ia) 0 h2) (.inl none) (fun h' => MM b kp im ds0 (upd c 9 1) (prK K (c 2) key) n (prJ J n (c 9)) cap (xR P h h') h' ∧ FrP P 260 540 h h') := by
    intro j
    induction j with
    | zero =>
      intro lr h2 hj ep I2 E2
      refine Ok.le (b_X2_press_17 rfl) ?_
      rw [if_neg (fun z => z rfl), vn_at I2]
      show Ok (Option.bind (some 88) _) _ _
      rw [Option.bind_some, it_hasPrev (by omega) I2 (by omega), cI_v, if_pos rfl, if_pos rfl, if_pos rfl]
      exact fin 0 lr h2 (by omega) ep I2 E2
    | succ j ih =>
      intro lr h2 hj ep I2 E2
      refine Ok.le (b_X2_press_17 rfl) ?_
      rw [if_neg (fun z => z rfl), vn_at I2]
      show Ok (Option.bind (some 88) _) _ _
      rw [Option.bind_some, it_hasPrev (by omega) I2 (by omega), cI_v, if_neg (Nat.succ_ne_zero j), if_neg (by decide), vn_at I2]
      show Ok (Option.bind (some 89) _) _ _
      rw [Option.bind_some]
      refine Ok.R (it_prev (by omega) (llx h2 E2) (by omega) I2 (by omega)) ?_
      rintro h3 ⟨I3, E3⟩
      have E3' := E2.tr E3
      obtain ⟨z1, z2, z3, z4, z5, z6⟩ := yy j (by omega)
      have e3 : ∀ q, q < ia → h3.1 q = h.1 q := fun q hq => (E3'.2 q (by omega)).trans (kk1 q hq)
      rw [cs_at ((e3 _ (by omega)).trans z1) (by decide), gI_at ((e3 _ (by omega)).trans z1) rfl rfl, Option.bind_some, gA_r (p := b + 1) ((e3 b (by omega)).trans m1) rfl rfl, Option.bind_some, lI_at ((e3 _ (by omega)).trans m2), ix_of (i := 2) (k := 2) rfl (by omega) (by omega), Option.bind_some, Option.bind_some]
      rw [show pzF K.2.1 (c 2) (j + 1) = if c 2 < K.2.1 j then pzF K.2.1 (c 2) j else j + 1 from rfl] at ep
      by_cases q : c 2 < K.2.1 j
      · rw [if_pos q] at ep ⊢
        exact ih _ h3 (by omega) ep I3 E3'
      · rw [if_neg q] at ep ⊢
        refine Ok.le (b_X2_press_17 rfl) ?_
        rw [if_pos (by decide), if_neg (by decide), vn_at I3]
        show Ok (Option.bind (some 86) _) _ _
        rw [Option.bind_some]
        refine Ok.R (it_next (by omega) (llx h3 E3') (by omega) I3 (by omega)) ?_
        rintro h4 ⟨I4, E4⟩
        exact fin (j + 1) _ h4 (by omega) ep I4 (E3'.tr E4)
  exact loop K.1 .null h1 (Nat.le_refl _) rfl I1 Ex.rf
end MMP
