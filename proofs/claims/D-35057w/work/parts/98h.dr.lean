/-! the gym's drafts; going through a list -/
/- with LL.mono AL.mono al_size al_get ll_size ll_addLast ll_removeFirst OLD GO.g XP XP.x0 Ext x_in x_inX x_must x_mustX inI_val i_key lA_at cs_at insF_lt insF_eq FrP Ex.fr2 -/
/-- words that are drafted, in a list -/
def DRL (p n : Nat) (f : Nat → Int32) (P : Nat → Prop) (H : ax_H) : Prop := ∃ (mc : Int32) (ns it : Nat → Nat), LL H p mc n ns it ∧ n ≤ 6 ∧ P p ∧ (∀ q, P q → q < 400 + H.2.1) ∧ ∀ i, i < n → H.1 (it i) = .inr (5, [.int (f i)]) ∧ it i < 400 + H.2.1 ∧ rg 65535 (f i) ∧ P (ns i) ∧ (it i < 400 ∨ P (it i)) ∧ it i ≠ p ∧ ∀ j, j < n → it i ≠ ns j
section DRS
variable {p n : Nat} {f : Nat → Int32} {P : Nat → Prop} {H H' : ax_H} {x : Int32} {d : Nat}
/-- a number as a thing: an old one, or a new one -/
theorem x_valueOf (O : OLD H) {k : Nat} (hk : k ≤ 65535) (hd : 3 ≤ d) : Ok (ax_c d 76 [.int (Int32.ofNat k)] H) (.inl (some (.ref (if k ≤ 127 then 20 + (k + 128) else 400 + H.2.1)))) (fun H' => H'.1 (if k ≤ 127 then 20 + (k + 128) else 400 + H.2.1) = .inr (5, [.int (Int32.ofNat k)]) ∧ Ext 1 1 H H' ∧ (k ≤ 127 ∨ H'.2.1 = H.2.1 + 1)) := by
  obtain ⟨d, rfl, he⟩ := d_succ hd
  refine Ok.le m_J22_valueOf ?_
  have lo : ¬ Int32.ofNat k < -128 := by
    intro z
    rw [Int32.lt_iff_toInt_lt, i_toInt (by omega)] at z
    have : ((-128 : Int32)).toInt = -128 := rfl
    omega
  rw [if_neg lo]
  by_cases q : k ≤ 127
  · obtain ⟨o1, o2, o3, o4, o5, o6⟩ := O
    rw [if_neg (fun z => by have := (i_lt (a := 127) (by omega) (by omega)).mp z; omega), if_pos q, lA_at o5, show Int32.ofNat k + 128 = Int32.ofNat (k + 128) from i_add k 128, ix_of (n := 256) (k := k + 128) rfl (by omega) (by omega), Option.bind_some, Option.bind_some]
    refine Ok.ret ⟨?_, ⟨fun _ _ => rfl, Nat.le_refl _, Nat.le_refl _, Nat.le_succ _, Nat.le_succ _⟩, Or.inl q⟩
    rw [o6 (k + 128) (by omega), show Int32.ofNat (k + 128) - 128 = Int32.ofNat (k + 128 - 128) from i_sub (b := 128) (by omega), Nat.add_sub_cancel]
  · rw [if_pos (show (127 : Int32) < Int32.ofNat k from (i_lt (a := 127) (by omega) (by omega)).mpr (by omega)), if_neg q, nw_at]
    have e77 : ax_c d 77 [.ref (400 + H.2.1), .int (Int32.ofNat k)] (ax_new H (.inr (5, [.int 0])) 1) = some (.inl none, ax_set (ax_new H (.inr (5, [.int 0])) 1) (400 + H.2.1) (.inr (5, [.int (Int32.ofNat k)]))) := by
      obtain ⟨d2, rfl, he2⟩ := d_succ (k := 1) he
      refine dx_app m_J22_init ?_
      have e73 : ax_c d2 73 [.ref (400 + H.2.1)] (ax_new H (.inr (5, [.int 0])) 1) = some (.inl none, ax_new H (.inr (5, [.int 0])) 1) := by
        obtain ⟨d3, rfl, he3⟩ := d_succ (k := 0) he2
        exact dx_app m_J21_init rfl
      rw [e73, cV_v, pF_int (new_eq _ _) rfl (Nat.le_of_ble_eq_true rfl) (by omega), Option.bind_some]
      rfl
    rw [e77, cV_v]
    exact Ok.ret ⟨set_eq _, ⟨fun q hq => (set_ne _ (by omega)).trans (new_ne _ _ (by omega)), Nat.le_succ _, Nat.le_succ _, Nat.le_refl _, Nat.le_refl _⟩, Or.inr rfl⟩
theorem x_draft_bad (hx : inI x 0 65535 = 0) (hd : 2 ≤ d) : OkX (ax_c d 263 [.ref p, .int x] H) (XP 18 (Ext 1 6 H)) := by
  obtain ⟨d, rfl, he⟩ := d_succ hd
  refine OkX.le (m_X1_draft rfl) ?_
  exact OkX.xI (x_inX he hx) fun i h' X => X.x0 rfl
theorem x_draft_full (D : DRL p n f P H) (hn : n = 6) (hx : inI x 0 65535 ≠ 0) (hd : 2 ≤ d) : OkX (ax_c d 263 [.ref p, .int x] H) (XP 0 (Ext 1 6 H)) := by
  obtain ⟨d, rfl, he⟩ := d_succ hd
  obtain ⟨mc, ns, it, L, -⟩ := D
  refine OkX.le (m_X1_draft rfl) ?_
  have v125 : dx_vn [(15, 125)] (.ref p) H = some 125 := vn_at L.1
  rw [x_in he hx, cI_v, v125, Option.bind_some, ll_size he L, cI_v, hn, if_pos (by decide)]
  refine OkX.le (b_X1_draft_22 rfl) ?_
  exact OkX.xV (x_mustX he) fun i h' X => X.x0 rfl
theorem x_draft_yes (D : DRL p n f P H) (O : OLD H) (hn : n < 6) (hx : rg 65535 x) (hd : 5 ≤ d) : Ok (ax_c d 263 [.ref p, .int x] H) (.inl (some (.int (Int32.ofNat (n + 1))))) (fun H' => DRL p (n + 1) (fun i => if i = n then x else f i) (xR P H H') H' ∧ FrP P 2 4 H H') := by
  obtain ⟨d, rfl, he⟩ := d_succ hd
  obtain ⟨mc, ns, it, L, n6, Pp, Pb, I⟩ := D
  refine Ok.le (m_X1_draft rfl) ?_
  have v125 : dx_vn [(15, 125)] (.ref p) H = some 125 := vn_at L.1
  obtain ⟨k, k1, k2⟩ : ∃ k, k ≤ 65535 ∧ x = Int32.ofNat k := ⟨_, (rg.nat hx).1, (rg.nat hx).2⟩
  rw [x_in (by omega) (i_key hx), cI_v, v125, Option.bind_some, ll_size (by omega) L, cI_v, if_neg (show ¬ (6 : Int32) ≤ Int32.ofNat n from i_ge_not (n := 6) hn (by omega))]
  refine Ok.le (b_X1_draft_22 rfl) ?_
  rw [x_must (by omega) (by decide), cV_v, k2]
  obtain ⟨q, hq⟩ : ∃ q, q = if k ≤ 127 then 20 + (k + 128) else 400 + H.2.1 := ⟨_, rfl⟩
  have X := x_valueOf O k1 (d := d) (by omega)
  rw [← hq] at X
  refine Ok.R X ?_
  rintro H1 ⟨e1, ⟨e2, e3, e4, e5, e6⟩, e7⟩
  have Pl := Pb p Pp
  have nb := fun i (hi : i < n) => (L.2.2.1 i hi)
  have L1 : LL H1 p mc n ns it := L.mono (e2 p Pl) (fun i hi => e2 _ (nb i hi).2) e3
  have v139 : dx_vn [(15, 139)] (.ref p) H1 = some 139 := vn_at L1.1
  rw [v139, Option.bind_some]
  have qlt : q < 400 + H1.2.1 := by
    rw [hq]; split
    · omega
    · rcases e7 with z | z
      · rename_i y; exact absurd z y
      · omega
  have qr : q < 400 ∨ 400 + H.2.1 ≤ q := by
    rw [hq]; split
    · left; omega
    · right; omega
  refine Ok.V (ll_addLast (by omega) L1 (by omega) q) ?_
  rintro H2 ⟨L2, s1, s2, fr⟩
  have v125' : dx_vn [(15, 125)] (.ref p) H2 = some 125 := vn_at L2.1
  rw [v125', Option.bind_some, ll_size (by omega) L2, cI_v]
  have p4 := L.2.2.2.2.1
  have qp : q ≠ p := by rcases qr with z | z <;> omega
  have qn : ∀ i, i < n → q ≠ ns i := fun i hi => by have := nb i hi; rcases qr with z | z <;> omega
  have keep : ∀ r, r < 400 + H.2.1 → ¬ P r → H2.1 r = H.1 r := fun r hr hp => by
    rw [fr r (by omega) (fun z => hp (by rw [z]; exact Pp)) (fun i hi z => hp (by rw [z]; exact (I i hi).2.2.2.1))]
    exact e2 r hr
  refine Ok.ret ⟨⟨mc + 1, _, _, L2, by omega, ⟨by omega, Or.inl Pp⟩, fun r hr => hr.1, fun i hi => ?_⟩, ⟨by omega, by omega, by omega, by omega, keep⟩⟩
  by_cases e : i = n
  · subst e
    dsimp only
    rw [if_pos rfl, insF_eq]
    refine ⟨?_, by omega, by rw [← k2]; exact hx, ⟨by rw [insF_eq]; omega, Or.inr ?_⟩, ?_, qp, fun j hj => ?_⟩
    · rw [fr q qlt qp qn, e1]
    · rw [insF_eq]; omega
    · rcases qr with z | z
      · exact Or.inl z
      · exact Or.inr ⟨by omega, Or.inr z⟩
    · rcases Nat.lt_or_ge j i with z | z
      · rw [insF_lt z]; exact qn j z
      · rw [show j = i by omega, insF_eq]; omega
  · obtain ⟨i1, i2, i3, i4, i5, i6, i7⟩ := I i (by omega)
    dsimp only
    rw [if_neg e, insF_lt (show i < n by omega)]
    refine ⟨?_, by omega, i3, ⟨by rw [insF_lt (show i < n by omega)]; have := nb i (by omega); omega, Or.inl (by rw [insF_lt (show i < n by omega)]; exact i4)⟩, i5.imp id (fun z => ⟨by omega, Or.inl z⟩), i6, fun j hj => ?_⟩
    · rw [fr (it i) (by omega) i6 (fun j hj => i7 j hj), e2 _ i2]; exact i1
    · rcases Nat.lt_or_ge j n with z | z
      · rw [insF_lt z]; exact i7 j z
      · rw [show j = n by omega, insF_eq]; omega
/-- what is drafted is taken -/
theorem x_taken (D : DRL p n f P H) (hp4 : 400 ≤ p) (hd : 4 ≤ d) : Ok (ax_c d 266 [.ref p] H) (.inl (some (.ref (400 + H.2.1)))) (fun H' => DRL p 0 f (xR P H H') H' ∧ H'.1 (400 + H.2.1) = .inl (0, n, .inl fun j => if j < n then f j else 0) ∧ FrP P 1 6 H H' ∧ H'.2.1 = H.2.1 + 1) := by
  obtain ⟨d, rfl, he⟩ := d_succ hd
  obtain ⟨mc, ns, it, L, n6, Pp, Pb, I⟩ := D
  refine Ok.le (m_X1_taken rfl) ?_
  have v125 : dx_vn [(15, 125)] (.ref p) H = some 125 := vn_at L.1
  have Pl := Pb p Pp
  rw [v125, Option.bind_some, ll_size (by omega) L, cI_v, na_at (n := n) rfl (by omega)]
  obtain ⟨b, eb⟩ : ∃ b, b = 400 + H.2.1 := ⟨_, rfl⟩
  rw [← eb]
  have loop : ∀ m k, k + m = n → ∀ (mc : Int32) (h : ax_H), LL h p mc m (fun i => ns (k + i)) (fun i => it (k + i)) → h.1 b = .inl (0, n, .inl fun j => if j < k then f j else 0) → h.2.1 = H.2.1 + 1 → h.2.2 = H.2.2 + n → (∀ q, q < b → q ≠ p → (∀ i, i < n → q ≠ ns i) → h.1 q = H.1 q) → Ok (B_X1_taken_9 (ax_c d) (.ref p) b (Int32.ofNat k) h) (.inl (some (.ref b))) (fun H' => DRL p 0 f (xR P H H') H' ∧ H'.1 b = .inl (0, n, .inl fun j => if j < n then f j else 0) ∧ FrP P 1 6 H H' ∧ H'.2.1 = H.2.1 + 1) := by
    intro m
    induction m with
    | zero =>
      intro k hk mc h Lh hb s1 s2 fr
      obtain rfl : k = n := by omega
      refine Ok.le (b_X1_taken_9 rfl) ?_
      rw [len_at hb, Option.bind_some, if_pos (Int32.le_refl _)]
      refine Ok.ret ⟨⟨mc, _, _, Lh, by omega, ⟨by omega, Or.inl Pp⟩, fun r hr => hr.1, fun i hi => absurd hi (Nat.not_lt_zero _)⟩, hb, ⟨by omega, by omega, by omega, by omega, fun q hq hp => fr q (by omega) (fun z => hp (by rw [z]; exact Pp)) (fun i hi z => hp (by rw [z]; exact (I i hi).2.2.2.1))⟩, s1⟩
    | succ m ih =>
      intro k hk mc h Lh hb s1 s2 fr
      refine Ok.le (b_X1_taken_9 rfl) ?_
      have v140 : dx_vn [(15, 140)] (.ref p) h = some 140 := vn_at Lh.1
      rw [len_at hb, Option.bind_some, if_neg (i_ge_not (by omega) (by omega)), v140, Option.bind_some]
      refine Ok.R (ll_removeFirst (by omega) Lh) ?_
      rintro h2 ⟨L2, E⟩
      obtain ⟨i1, i2, i3, i4, i5, i6, i7⟩ := I k (by omega)
      have h2it : h2.1 (it k) = .inr (5, [.int (f k)]) := by
        rw [E.2 (it k) (fun z => by
          rcases z with z | ⟨j, j1, j2⟩
          · exact i6 z
          · exact i7 (k + j) (by omega) j2), fr (it k) (by omega) i6 (fun j hj => i7 j hj)]
        exact i1
      have nsb : ∀ i, i < n → ns i < b := fun i hi => by have := L.2.2.1 i hi; omega
      have h2b : h2.1 b = h.1 b := E.2 b (fun z => by
        rcases z with z | ⟨j, j1, j2⟩
        · omega
        · have := nsb (k + j) (by omega); omega)
      have c5 : ∀ E : Option ax_R, dx_cs [5] (.ref (it (k + 0))) h2 E = E := fun E => cs_at h2it (by decide)
      have v78 : dx_vn [(5, 78)] (.ref (it (k + 0))) h2 = some 78 := vn_at h2it
      have e78 : ax_c d 78 [.ref (it (k + 0))] h2 = some (.inl (some (.int (f k))), h2) := by
        obtain ⟨d2, rfl, he2⟩ := d_succ (k := 2) he
        refine dx_app m_J22_intValue ?_
        have g5 : dx_gI [(5, 0)] (.ref (it (k + 0))) h2 = some (f k) := gI_at (show h2.1 (it (k + 0)) = _ from h2it) rfl rfl
        rw [g5, Option.bind_some]
      rw [c5, v78, Option.bind_some, e78, cI_v, sI_at (h2b.trans hb) (by omega), ix_of (n := n) (k := k) rfl (by omega) (by omega), Option.bind_some, Option.bind_some, lt_at, show Int32.ofNat k + 1 = Int32.ofNat (k + 1) from i_add k 1]
      have L3 : LL (ax_set h2 b (.inl (0, n, .inl (upd (fun j => if j < k then f j else 0) k (f k))))) p (mc + 1) m (fun i => ns (k + 1 + i)) (fun i => it (k + 1 + i)) := by
        have eqn : (fun i => ns (k + (i + 1))) = fun i => ns (k + 1 + i) := funext fun i => by congr 1; omega
        have eqi : (fun i => it (k + (i + 1))) = fun i => it (k + 1 + i) := funext fun i => by congr 1; omega
        rw [← eqn, ← eqi]
        exact L2.mono (set_ne _ (by omega)) (fun i hi => set_ne _ (by have := nsb (k + (i + 1)) (by omega); show ns (k + (i + 1)) ≠ b; omega)) (Nat.le_refl _)
      refine ih (k + 1) (by omega) (mc + 1) _ L3 ?_ ?_ ?_ fun q hq hqp hqn => ?_
      · rw [set_eq]
        congr 3
        congr 1
        funext j
        rw [upd_at]
        by_cases e : j = k
        · rw [if_pos e, if_pos (by omega), e]
        · rw [if_neg e]
          by_cases z : j < k
          · rw [if_pos z, if_pos (by omega)]
          · rw [if_neg z, if_neg (by omega)]
      · show h2.2.1 = _; rw [E.1]; exact s1
      · show h2.2.2 = _; rw [E.1]; exact s2
      · rw [set_ne _ (by omega), E.2 q (fun z => by
          rcases z with z | ⟨j, j1, j2⟩
          · exact hqp z
          · exact hqn (k + j) (by omega) j2)]
        exact fr q hq hqp hqn
  refine loop n 0 (by omega) mc _ ?_ ?_ rfl rfl (fun q hq _ _ => new_ne _ _ (by omega))
  · have eqn : (fun i => ns (0 + i)) = ns := funext fun i => by rw [Nat.zero_add]
    have eqi : (fun i => it (0 + i)) = it := funext fun i => by rw [Nat.zero_add]
    rw [eqn, eqi]
    exact L.mono (new_ne _ _ (by omega)) (fun i hi => new_ne _ _ (by have := L.2.2.1 i hi; omega)) (Nat.le_succ _)
  · rw [eb]
    rw [new_eq]
    congr 3
end DRS
