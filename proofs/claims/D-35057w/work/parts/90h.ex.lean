/-! the exceptions that the class makes -/
theorem ex_base {d : Nat} (hd : 2 ≤ d) {h : ax_H} {a k j : Nat} {fs : List Value} {v : Value} (hv : ax_rv v = true) (h4 : 400 ≤ a) (e : h.1 a = .inr (k, fs)) (hl : [(28, 2), (32, 0), (33, 0), (34, 0), (35, 0), (44, 0), (45, 0), (46, 0)].lookup k = some j) (hj : fs[j]? = some .null) : ax_c d 168 [.ref a, v] h = some (.inl none, h) := by
  obtain ⟨d, rfl, he⟩ := d_succ hd
  refine dx_app (m_J7_init hv) ?_
  have e1 : ax_c d 162 [.ref a, v] h = some (.inl none, h) := by
    obtain ⟨d2, rfl, he2⟩ := d_succ (k := 0) he
    refine dx_app (m_J6_init_2 hv) ?_
    show (if a < 400 then none else (ax_gf _ (h.1 a)).bind _) = _
    rw [if_neg (by omega), e]
    show (Option.bind (([(28, 2), (32, 0), (33, 0), (34, 0), (35, 0), (44, 0), (45, 0), (46, 0)].lookup k).bind fun j => fs[j]?) _) = _
    rw [hl, Option.bind_some, hj]
    rfl
  rw [e1, cV_v]
theorem vn_sb {h0 h : ax_H} {b c k m w t : Nat} (S : SB h0 b c k m w h) : dx_vn [(2, t)] (.ref b) h = some t := by
  obtain ⟨⟨ar, cap, f, l, s1, _⟩, _⟩ := S
  exact vn_at s1
theorem ex_stack {d : Nat} (hd : 8 ≤ d) {h0 : ax_H} (o : OLD h0) {a v : Nat} (h4 : 400 ≤ a) (ha : a < 400 + h0.2.1) (e : h0.1 a = .inr (32, [.null])) (hv : v < 1000000) : Ok (ax_c d 361 [.ref a, .int (Int32.ofNat v)] h0) (.inl none) (Ms h0 10 1000) := by
  obtain ⟨d, rfl, he⟩ := d_succ hd
  refine Ok.le m_X22_init ?_
  rw [nw_at]
  refine Ok.V (sb_init (by omega)) fun h1 S1 => ?_
  obtain ⟨e1, n, f, hn, e2⟩ := o.2.2.2.1 4 (by omega)
  rw [vn_sb S1, Option.bind_some]
  refine Ok.R (sb_text (by omega) S1 (by omega) (by omega) e1 e2 hn (by omega)) fun h2 S2 => ?_
  rw [vn_sb S2, Option.bind_some]
  refine Ok.R (sb_num (by omega) S2 o hv (by omega)) fun h3 S3 => ?_
  rw [vn_sb S3, Option.bind_some]
  refine Ok.R (sb_str (by omega) S3) fun h4' M => ?_
  obtain ⟨m1, m2, m3, m4, m5⟩ := M
  rw [ex_base (by omega) rfl h4 ((m5 a ha).trans e) rfl rfl, cV_v]
  exact Ok.ret ⟨m1, m2, by omega, by omega, m5⟩
theorem ex_address {d : Nat} (hd : 8 ≤ d) {h0 : ax_H} (o : OLD h0) {a v : Nat} (h4 : 400 ≤ a) (ha : a < 400 + h0.2.1) (e : h0.1 a = .inr (33, [.null])) (hv : v < 1000000) : Ok (ax_c d 362 [.ref a, .int (Int32.ofNat v)] h0) (.inl none) (Ms h0 10 1000) := by
  obtain ⟨d, rfl, he⟩ := d_succ hd
  refine Ok.le m_X23_init ?_
  rw [nw_at]
  refine Ok.V (sb_init (by omega)) fun h1 S1 => ?_
  obtain ⟨e1, n, f, hn, e2⟩ := o.2.2.2.1 2 (by omega)
  rw [vn_sb S1, Option.bind_some]
  refine Ok.R (sb_text (by omega) S1 (by omega) (by omega) e1 e2 hn (by omega)) fun h2 S2 => ?_
  rw [vn_sb S2, Option.bind_some]
  refine Ok.R (sb_num (by omega) S2 o hv (by omega)) fun h3 S3 => ?_
  rw [vn_sb S3, Option.bind_some]
  refine Ok.R (sb_str (by omega) S3) fun h4' M => ?_
  obtain ⟨m1, m2, m3, m4, m5⟩ := M
  rw [ex_base (by omega) rfl h4 ((m5 a ha).trans e) rfl rfl, cV_v]
  exact Ok.ret ⟨m1, m2, by omega, by omega, m5⟩
theorem ex_operation {d : Nat} (hd : 8 ≤ d) {h0 : ax_H} (o : OLD h0) {a v : Nat} (h4 : 400 ≤ a) (ha : a < 400 + h0.2.1) (e : h0.1 a = .inr (34, [.null])) (hv : v < 1000000) : Ok (ax_c d 363 [.ref a, .int (Int32.ofNat v)] h0) (.inl none) (Ms h0 10 1000) := by
  obtain ⟨d, rfl, he⟩ := d_succ hd
  refine Ok.le m_X24_init ?_
  rw [nw_at]
  refine Ok.V (sb_init (by omega)) fun h1 S1 => ?_
  obtain ⟨e1, n, f, hn, e2⟩ := o.2.2.2.1 3 (by omega)
  rw [vn_sb S1, Option.bind_some]
  refine Ok.R (sb_text (by omega) S1 (by omega) (by omega) e1 e2 hn (by omega)) fun h2 S2 => ?_
  rw [vn_sb S2, Option.bind_some]
  refine Ok.R (sb_num (by omega) S2 o hv (by omega)) fun h3 S3 => ?_
  rw [vn_sb S3, Option.bind_some]
  refine Ok.R (sb_str (by omega) S3) fun h4' M => ?_
  obtain ⟨m1, m2, m3, m4, m5⟩ := M
  rw [ex_base (by omega) rfl h4 ((m5 a ha).trans e) rfl rfl, cV_v]
  exact Ok.ret ⟨m1, m2, by omega, by omega, m5⟩
theorem ex_tape {d : Nat} (hd : 3 ≤ d) {h : ax_H} {a : Nat} (h4 : 400 ≤ a) (e : h.1 a = .inr (35, [.null])) : ax_c d 364 [.ref a] h = some (.inl none, h) := by
  obtain ⟨d, rfl, he⟩ := d_succ hd
  refine dx_app m_X25_init ?_
  rw [ex_base (by omega) rfl h4 e rfl rfl, cV_v]
/-- Wrong, with its error and line -/
theorem ex_wrong {d : Nat} (hd : 8 ≤ d) {h0 : ax_H} (o : OLD h0) {a v l : Nat} (h4 : 400 ≤ a) (ha : a < 400 + h0.2.1) (e : h0.1 a = .inr (28, [.int 0, .int 0, .null])) (hv : v < 1000000) (hl : l < 1000000) : Ok (ax_c d 296 [.ref a, .int (Int32.ofNat v), .int (Int32.ofNat l)] h0) (.inl none) (fun h' => h'.1 a = .inr (28, [.int (Int32.ofNat v), .int (Int32.ofNat l), .null]) ∧ Fr2 (fun q => q = a) 12 1500 h0 h') := by
  obtain ⟨d, rfl, he⟩ := d_succ hd
  refine Ok.le m_X19_init ?_
  rw [nw_at]
  refine Ok.V (sb_init (by omega)) fun h1 S1 => ?_
  obtain ⟨e1, n, f, hn, e2⟩ := o.2.2.2.1 0 (by omega)
  obtain ⟨e3, n2, f2, hn2, e4⟩ := o.2.2.2.1 1 (by omega)
  have hlv := dg_le 3 v
  rw [vn_sb S1, Option.bind_some]
  refine Ok.R (sb_text (by omega) S1 (by omega) (by omega) e1 e2 hn (by omega)) fun h2 S2 => ?_
  rw [vn_sb S2, Option.bind_some]
  refine Ok.R (sb_num (by omega) S2 o hv (by omega)) fun h3 S3 => ?_
  rw [vn_sb S3, Option.bind_some]
  refine Ok.R (sb_text (by omega) S3 (by omega) (by omega) e3 e4 hn2 (by omega)) fun h2 S2 => ?_
  rw [vn_sb S2, Option.bind_some]
  refine Ok.R (sb_num (by omega) S2 o hl (by omega)) fun h3 S3 => ?_
  rw [vn_sb S3, Option.bind_some]
  refine Ok.R (sb_str (by omega) S3) fun h4' M => ?_
  obtain ⟨m1, m2, m3, m4, m5⟩ := M
  have ea := (m5 a ha).trans e
  rw [ex_base (by omega) rfl h4 ea rfl rfl, cV_v, pF_int ea rfl (Nat.le_of_ble_eq_true rfl) h4, Option.bind_some, pF_int (set_eq _) rfl (Nat.le_of_ble_eq_true rfl) h4, Option.bind_some]
  exact Ok.ret ⟨(set_eq _).trans rfl, m1, m2, by show h4'.2.1 ≤ _; omega, by show h4'.2.2 ≤ _; omega, fun q hq hq2 => (set_ne _ hq2).trans ((set_ne _ hq2).trans (m5 q hq))⟩
