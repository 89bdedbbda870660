/-! the gym asked: class -/
/- with CO CO.mv MM.mv MV.g0 MV.vn MV.rdn XP XP.x0 Ext GO.g x_in x_inX inI_val dq_size thr_new c_find c_entry c_wordOf c_isUsed c_isWhole OkB bo i_addr -/
section XOS
variable {N n im cap w : Nat} {x y : Int32} {c ds0 : Nat → Int32} {K : kk_K} {J : mm_J} {P : Nat → Prop} {H H' : ax_H} {iv : Value} {d : Nat}
theorem x_state (hd : 1 ≤ d) (G : GO H iv) (M : MV 402 c H) : ax_c d 215 [.ref 400] H = some (.inl (some (.int (c 0))), H) := by
  obtain ⟨d, rfl, -⟩ := d_succ hd
  refine dx_app m_X1_state ?_
  rw [G.g, Option.bind_some, M.g0, Option.bind_some, M.rdn (i := 0) (k := 0) rfl (by decide), Option.bind_some]
theorem x_fault (hd : 1 ≤ d) (G : GO H iv) (M : MV 402 c H) : ax_c d 216 [.ref 400] H = some (.inl (some (.int (c 1))), H) := by
  obtain ⟨d, rfl, -⟩ := d_succ hd
  refine dx_app m_X1_fault ?_
  rw [G.g, Option.bind_some, M.g0, Option.bind_some, M.rdn (i := 1) (k := 1) rfl (by decide), Option.bind_some]
theorem x_steps (hd : 1 ≤ d) (G : GO H iv) (M : MV 402 c H) : ax_c d 217 [.ref 400] H = some (.inl (some (.int (c 2))), H) := by
  obtain ⟨d, rfl, -⟩ := d_succ hd
  refine dx_app m_X1_steps ?_
  rw [G.g, Option.bind_some, M.g0, Option.bind_some, M.rdn (i := 2) (k := 2) rfl (by decide), Option.bind_some]
theorem x_counter (hd : 1 ≤ d) (G : GO H iv) (M : MV 402 c H) : ax_c d 219 [.ref 400] H = some (.inl (some (.int (c 3))), H) := by
  obtain ⟨d, rfl, -⟩ := d_succ hd
  refine dx_app m_X1_counter ?_
  rw [G.g, Option.bind_some, M.g0, Option.bind_some, M.rdn (i := 3) (k := 3) rfl (by decide), Option.bind_some]
theorem x_stack (hd : 1 ≤ d) (G : GO H iv) (M : MV 402 c H) : ax_c d 220 [.ref 400] H = some (.inl (some (.int (c 4))), H) := by
  obtain ⟨d, rfl, -⟩ := d_succ hd
  refine dx_app m_X1_stack ?_
  rw [G.g, Option.bind_some, M.g0, Option.bind_some, M.rdn (i := 4) (k := 4) rfl (by decide), Option.bind_some]
theorem x_tape (hd : 1 ≤ d) (G : GO H iv) (M : MV 402 c H) : ax_c d 223 [.ref 400] H = some (.inl (some (.int (c 17))), H) := by
  obtain ⟨d, rfl, -⟩ := d_succ hd
  refine dx_app m_X1_tape ?_
  rw [G.g, Option.bind_some, M.g0, Option.bind_some, M.rdn (i := 17) (k := 17) rfl (by decide), Option.bind_some]
theorem x_written (hd : 1 ≤ d) (G : GO H iv) (M : MV 402 c H) : ax_c d 225 [.ref 400] H = some (.inl (some (.int (c 364))), H) := by
  obtain ⟨d, rfl, -⟩ := d_succ hd
  refine dx_app m_X1_written ?_
  rw [G.g, Option.bind_some, M.g0, Option.bind_some, M.rdn (i := 364) (k := 364) rfl (by decide), Option.bind_some]
theorem x_flags (hd : 2 ≤ d) (G : GO H iv) (M : MV 402 c H) : ax_c d 221 [.ref 400] H = some (.inl (some (.int (flC c))), H) := by
  obtain ⟨d, rfl, he⟩ := d_succ hd
  refine dx_app m_X1_flags ?_
  rw [G.g, Option.bind_some, M.vn, Option.bind_some, c_flags he M, cI_v]
theorem x_writesLeft (hd : 2 ≤ d) (G : GO H iv) (M : MV 402 c H) : ax_c d 222 [.ref 400] H = some (.inl (some (.int (wlC c))), H) := by
  obtain ⟨d, rfl, he⟩ := d_succ hd
  refine dx_app m_X1_writesLeft ?_
  rw [G.g, Option.bind_some, M.vn, Option.bind_some, c_writesLeft he M, cI_v]
theorem x_kept (hd : 3 ≤ d) (G : GO H iv) (M : MM 402 1 im ds0 c K n J cap P H) : ax_c d 218 [.ref 400] H = some (.inl (some (.int (Int32.ofNat n))), H) := by
  obtain ⟨d, rfl, he⟩ := d_succ hd
  refine dx_app m_X1_kept ?_
  obtain ⟨X, arr, a, it, rw', m1, m2, m3, m4, m5, -⟩ := M
  have g2 : dx_gA [(29, 2)] (.ref 402) H = some (.ref 405) := gA_r m1 rfl rfl
  have v5 : dx_vn [(16, 143)] (.ref 405) H = some 143 := vn_at m5.1
  rw [G.g, Option.bind_some, g2, Option.bind_some, v5, Option.bind_some, dq_size he m5, cI_v]
theorem x_register (hd : 2 ≤ d) (G : GO H iv) (M : MV 402 c H) {k : Nat} (hk : k < 4) : ax_c d 253 [.ref 400, .int (Int32.ofNat k)] H = some (.inl (some (.int (c (12 + k)))), H) := by
  obtain ⟨d, rfl, he⟩ := d_succ hd
  refine dx_app m_X1_register ?_
  rw [G.g, Option.bind_some, M.g0, Option.bind_some, x_in (x := Int32.ofNat k) (lo := 0) (hi := 3) he ((inI_val (lo := 0) (hi := 3) (by omega) (by omega)).mpr ⟨k, Nat.zero_le _, by omega, rfl⟩), cI_v, M.rdn (i := 12 + Int32.ofNat k) (i_add 12 k) (show 12 + k < 621 by omega), Option.bind_some]
theorem x_register_bad (hd : 2 ≤ d) (G : GO H iv) (M : MV 402 c H) (hx : inI x 0 3 = 0) : OkX (ax_c d 253 [.ref 400, .int x] H) (XP 18 (Ext 1 6 H)) := by
  obtain ⟨d, rfl, he⟩ := d_succ hd
  refine OkX.le m_X1_register ?_
  rw [G.g, Option.bind_some, M.g0, Option.bind_some]
  exact OkX.xI (x_inX he hx) fun i h' X => X.x0 rfl
theorem x_memory (hd : 2 ≤ d) (G : GO H iv) (M : MV 402 c H) {k : Nat} (hk : k < 256) : ax_c d 254 [.ref 400, .int (Int32.ofNat k)] H = some (.inl (some (.int (c (108 + k)))), H) := by
  obtain ⟨d, rfl, he⟩ := d_succ hd
  refine dx_app m_X1_memory ?_
  rw [G.g, Option.bind_some, M.g0, Option.bind_some, x_in (x := Int32.ofNat k) (lo := 0) (hi := 255) he (i_addr hk), cI_v, M.rdn (i := 108 + Int32.ofNat k) (i_add 108 k) (show 108 + k < 621 by omega), Option.bind_some]
theorem x_memory_bad (hd : 2 ≤ d) (G : GO H iv) (M : MV 402 c H) (hx : inI x 0 255 = 0) : OkX (ax_c d 254 [.ref 400, .int x] H) (XP 18 (Ext 1 6 H)) := by
  obtain ⟨d, rfl, he⟩ := d_succ hd
  refine OkX.le m_X1_memory ?_
  rw [G.g, Option.bind_some, M.g0, Option.bind_some]
  exact OkX.xI (x_inX he hx) fun i h' X => X.x0 rfl
theorem x_tapeAt (hd : 1 ≤ d) (G : GO H iv) (M : MV 402 c H) {k m : Nat} (hm : c 17 = Int32.ofNat m) (hm60 : m ≤ 60) (hk : k < m) : ax_c d 256 [.ref 400, .int (Int32.ofNat k)] H = some (.inl (some (.int (c (48 + k)))), H) := by
  obtain ⟨d, rfl, -⟩ := d_succ hd
  refine dx_app m_X1_tapeAt ?_
  rw [if_neg (fun z => by have := (i_lt (b := 0) (by omega) (by omega)).mp z; omega), G.g, Option.bind_some, M.g0, Option.bind_some, M.rdn (i := 17) (k := 17) rfl (by decide), Option.bind_some, hm, if_pos ((i_lt (by omega) (by omega)).mpr hk), Option.bind_some, M.g0, Option.bind_some, M.rdn (i := 48 + Int32.ofNat k) (i_add 48 k) (show 48 + k < 621 by omega), Option.bind_some]
theorem x_tapeAt_bad (hd : 1 ≤ d) (G : GO H iv) (M : MV 402 c H) {m : Nat} (hm : c 17 = Int32.ofNat m) (hm60 : m ≤ 60) (hx : inI x 0 (c 17 - 1) = 0) : OkX (ax_c d 256 [.ref 400, .int x] H) (XP 6 (Ext 1 6 H)) := by
  obtain ⟨d, rfl, -⟩ := d_succ hd
  refine OkX.le m_X1_tapeAt ?_
  by_cases q : x < 0
  · rw [if_pos q]; exact thr_new rfl
  · rw [if_neg q, G.g, Option.bind_some, M.g0, Option.bind_some, M.rdn (i := 17) (k := 17) rfl (by decide), Option.bind_some, if_neg]
    · exact thr_new rfl
    · intro z
      unfold inI at hx
      rw [if_neg q, if_neg] at hx
      · exact absurd hx (by decide)
      · refine Int32.not_lt.mpr ?_
        rw [hm] at z ⊢
        have a := Int32.not_lt.mp q
        have r : rg m x := by
          rw [Int32.le_iff_toInt_le] at a
          rw [Int32.lt_iff_toInt_lt] at z
          rw [show (Int32.ofNat m).toInt = m from Int32.toInt_ofNat_of_lt (by omega)] at z
          exact ⟨a, by omega⟩
        obtain ⟨n1, n2⟩ := rg.nat r
        rw [n2] at z ⊢
        have := (i_lt (by omega) (by omega)).mp z
        rw [show Int32.ofNat m - 1 = Int32.ofNat (m - 1) from i_sub (b := 1) (by omega)]
        exact (i_le (by omega) (by omega)).mpr (by omega)
theorem x_disk (hd : 2 ≤ d) (G : GO H iv) (M : MV 402 c H) {k j : Nat} (hk : k < 32) (hj : j < 8) : ax_c d 258 [.ref 400, .int (Int32.ofNat k), .int (Int32.ofNat j)] H = some (.inl (some (.int (ds c (8 * k + j)))), H) := by
  obtain ⟨d, rfl, he⟩ := d_succ hd
  refine dx_app m_X1_disk ?_
  rw [x_in (x := Int32.ofNat k) (lo := 0) (hi := 31) he ((inI_val (lo := 0) (hi := 31) (by omega) (by omega)).mpr ⟨k, Nat.zero_le _, by omega, rfl⟩), cI_v, G.g, Option.bind_some, M.g0, Option.bind_some, x_in (x := Int32.ofNat j) (lo := 0) (hi := 7) he ((inI_val (lo := 0) (hi := 7) (by omega) (by omega)).mpr ⟨j, Nat.zero_le _, by omega, rfl⟩), cI_v, M.rdn (k := 365 + (8 * k + j)) (by rw [show (8 : Int32) * Int32.ofNat k = Int32.ofNat (8 * k) from i_mul 8 k, show (365 : Int32) + Int32.ofNat (8 * k) = Int32.ofNat (365 + 8 * k) from i_add 365 _, i_add, Nat.add_assoc]) (by omega), Option.bind_some]
  rfl
theorem x_disk_bad (hd : 2 ≤ d) (G : GO H iv) (M : MV 402 c H) (hx : inI x 0 31 = 0 ∨ inI y 0 7 = 0) : OkX (ax_c d 258 [.ref 400, .int x, .int y] H) (XP 18 (Ext 1 6 H)) := by
  obtain ⟨d, rfl, he⟩ := d_succ hd
  refine OkX.le m_X1_disk ?_
  by_cases q : inI x 0 31 = 0
  · exact OkX.xI (x_inX he q) fun i h' X => X.x0 rfl
  · rw [x_in he q, cI_v, G.g, Option.bind_some, M.g0, Option.bind_some]
    exact OkX.xI (x_inX he (hx.resolve_left q)) fun i h' X => X.x0 rfl
theorem x_freeBlocks (hd : 2 ≤ d) (G : GO H iv) (M : MV 402 c H) : ax_c d 227 [.ref 400] H = some (.inl (some (.int (Int32.ofNat (freN (ds c) 24)))), H) := by
  obtain ⟨d, rfl, he⟩ := d_succ hd
  refine dx_app m_X1_freeBlocks ?_
  have loop : ∀ m j, j + m = 24 → B_X1_freeBlocks_5 (ax_c d) 400 (Int32.ofNat (freN (ds c) j)) (Int32.ofNat (8 + j)) H = some (.inl (some (.int (Int32.ofNat (freN (ds c) 24)))), H) := by
    intro m
    induction m with
    | zero =>
      intro j hj
      obtain rfl : j = 24 := by omega
      refine dx_app b_X1_freeBlocks_5 ?_
      rw [if_pos (by decide)]
    | succ m ih =>
      intro j hj
      refine dx_app b_X1_freeBlocks_5 ?_
      rw [if_neg (show ¬ (32 : Int32) ≤ Int32.ofNat (8 + j) from i_ge_not (n := 32) (by omega) (by omega)), G.g, Option.bind_some, M.vn, Option.bind_some, c_isUsed he M (k := 8 + j) (by omega), cI_v]
      have ih' := ih (j + 1) (by omega)
      have ef : freN (ds c) (j + 1) = freN (ds c) j + (if usedF (ds c) (8 + j) = 0 then 1 else 0) := rfl
      by_cases q : usedF (ds c) (8 + j) = 0
      · rw [if_pos q] at ef
        rw [if_pos q, lt_at, lt_at, show Int32.ofNat (freN (ds c) j) + 1 = Int32.ofNat (freN (ds c) j + 1) from i_add _ 1, show Int32.ofNat (8 + j) + 1 = Int32.ofNat (8 + (j + 1)) from i_add (8 + j) 1, ← ef]
        exact ih'
      · rw [if_neg q] at ef
        have ef : freN (ds c) (j + 1) = freN (ds c) j := ef
        rw [if_neg q, lt_at, Int32.add_zero, lt_at, show Int32.ofNat (8 + j) + 1 = Int32.ofNat (8 + (j + 1)) from i_add (8 + j) 1, ← ef]
        exact ih'
  exact loop 24 0 rfl
theorem x_isWhole (hd : 6 ≤ d) (G : GO H iv) (M : MV 402 c H) (hs : 3 < H.2.1) (C : ∀ p, p < 256 → rg 65535 (ds c p)) : OkB (ax_c d 228 [.ref 400] H) (wM (ds c) 32) (Ext 2 4 H) := by
  obtain ⟨d, rfl, he⟩ := d_succ hd
  obtain ⟨r, b1, b2⟩ := c_isWhole (b := 402) he M (by omega) C
  refine ⟨r, b1, Ok.le m_X1_isWhole ?_⟩
  rw [G.g, Option.bind_some, M.vn, Option.bind_some]
  refine Ok.I b2 ?_
  rintro H' ⟨e1, e2, e3⟩
  rw [if_pos (b1.elim (fun z => Or.inr z.1) fun z => Or.inl z.1)]
  exact Ok.ret ⟨e1, by omega, by omega, by omega, by omega⟩
end XOS
section XOF
variable {x y : Int32} {c : Nat → Int32} {H H' : ax_H} {iv : Value} {d : Nat}
theorem ex_run (hd : 3 ≤ d) {h : ax_H} {a k j : Nat} {fs : List Value} {v : Value} (hv : ax_rv v = true) (h4 : 400 ≤ a) (e : h.1 a = .inr (k, fs)) (hl : [(28, 2), (32, 0), (33, 0), (34, 0), (35, 0), (44, 0), (45, 0), (46, 0)].lookup k = some j) (hj : fs[j]? = some .null) : ax_c d 172 [.ref a, v] h = some (.inl none, h) := by
  obtain ⟨d, rfl, he⟩ := d_succ hd
  refine dx_app (m_J8_init hv) ?_
  rw [ex_base he hv h4 e hl hj, cV_v]
/-- no such element -/
theorem thr_45 (hd : 4 ≤ d) : OkX (dx_nw H (.inr (45, [.null])) 6 fun a7 h6 => dx_cV (ax_c d 83 [.ref a7, .ref 390] h6) (fun h8 => dx_ath hd_0 (.ref a7) h8 (fun _ _ => none)) dx_x0) (XP 45 (Ext 1 6 H)) := by
  rw [nw_at]
  have e : ax_c d 83 [.ref (400 + H.2.1), .ref 390] (ax_new H (.inr (45, [.null])) 6) = some (.inl none, ax_new H (.inr (45, [.null])) 6) := by
    obtain ⟨d, rfl, he⟩ := d_succ hd
    refine dx_app (m_J25_init_3 rfl) ?_
    rw [ex_run (by omega) rfl (by omega) (new_eq _ _) rfl rfl, cV_v]
  rw [e, cV_v]
  exact OkX.x0 (by omega) (new_eq _ _) rfl ⟨by omega, ⟨_, new_eq _ _⟩, Ext.new⟩
theorem thr_46 (hd : 4 ≤ d) : OkX (dx_nw H (.inr (46, [.null])) 6 fun a7 h6 => dx_cV (ax_c d 80 [.ref a7, .ref 391] h6) (fun h8 => dx_ath hd_0 (.ref a7) h8 (fun _ _ => none)) dx_x0) (XP 46 (Ext 1 6 H)) := by
  rw [nw_at]
  have e : ax_c d 80 [.ref (400 + H.2.1), .ref 391] (ax_new H (.inr (46, [.null])) 6) = some (.inl none, ax_new H (.inr (46, [.null])) 6) := by
    obtain ⟨d, rfl, he⟩ := d_succ hd
    refine dx_app (m_J24_init rfl) ?_
    rw [ex_run (by omega) rfl (by omega) (new_eq _ _) rfl rfl, cV_v]
  rw [e, cV_v]
  exact OkX.x0 (by omega) (new_eq _ _) rfl ⟨by omega, ⟨_, new_eq _ _⟩, Ext.new⟩
theorem i_name {name : Int32} (h : inI name 1 65535 ≠ 0) : ∃ k, 1 ≤ k ∧ k ≤ 65535 ∧ name = Int32.ofNat k := (inI_val (lo := 1) (hi := 65535) (by omega) (by omega)).mp h
theorem x_file_bad (hd : 2 ≤ d) (G : GO H iv) (hx : inI x 1 65535 = 0) : OkX (ax_c d 260 [.ref 400, .int x] H) (XP 18 (Ext 1 6 H)) := by
  obtain ⟨d, rfl, he⟩ := d_succ hd
  refine OkX.le m_X1_file ?_
  rw [G.g, Option.bind_some]
  exact OkX.xI (x_inX he hx) fun i h' X => X.x0 rfl
theorem x_file_no (hd : 5 ≤ d) (G : GO H iv) (M : MV 402 c H) (hx : inI x 1 65535 ≠ 0) (hf : findF (ds c) x = -1) : OkX (ax_c d 260 [.ref 400, .int x] H) (XP 45 (Ext 1 6 H)) := by
  obtain ⟨d, rfl, he⟩ := d_succ hd
  refine OkX.le m_X1_file ?_
  rw [G.g, Option.bind_some, x_in (by omega) hx, cI_v, M.vn, Option.bind_some, c_find (by omega) M, cI_v, hf, if_neg (fun z => z rfl)]
  exact thr_45 he
theorem x_file_yes (hd : 3 ≤ d) (G : GO H iv) (M : MV 402 c H) (hx : inI x 1 65535 ≠ 0) {f : Nat} (f6 : f < 6) (hf : findF (ds c) x = Int32.ofNat f) : ax_c d 260 [.ref 400, .int x] H = some (.inl (some (.int (Int32.ofNat f))), H) := by
  obtain ⟨d, rfl, he⟩ := d_succ hd
  refine dx_app m_X1_file ?_
  rw [G.g, Option.bind_some, x_in (by omega) hx, cI_v, M.vn, Option.bind_some, c_find (by omega) M, cI_v, hf, if_pos (ofNat_ne_neg (by omega))]
theorem GO.vn (G : GO H iv) (t : Nat) : dx_vn [(19, t)] (.ref 400) H = some t := vn_at G
theorem x_size_bad {k : Nat} (hd : 1 ≤ d) (G : GO H iv) (X : OkX (ax_c d 260 [.ref 400, .int x] H) (XP k (Ext 1 6 H))) (hk : hd_0 k = some none) : OkX (ax_c (d + 1) 259 [.ref 400, .int x] H) (XP k (Ext 1 6 H)) := by
  refine OkX.le m_X1_size ?_
  rw [G.g, Option.bind_some, G.vn, Option.bind_some]
  exact OkX.xI X fun i h' X => X.x0 hk
theorem x_size (hd : 4 ≤ d) (G : GO H iv) (M : MV 402 c H) (hx : inI x 1 65535 ≠ 0) {f : Nat} (f6 : f < 6) (hf : findF (ds c) x = Int32.ofNat f) : ax_c d 259 [.ref 400, .int x] H = some (.inl (some (.int (ds c (40 + 4 * f + 1)))), H) := by
  obtain ⟨d, rfl, he⟩ := d_succ hd
  refine dx_app m_X1_size ?_
  have := c_entry (d := d) (by omega) M f6 (show 1 < 4 by omega)
  rw [show Int32.ofNat 1 = 1 from rfl] at this
  rw [G.g, Option.bind_some, G.vn, Option.bind_some, x_file_yes he G M hx f6 hf, cI_v, M.vn, Option.bind_some, this, cI_v]
theorem x_wordOf_bad {k : Nat} (hd : 1 ≤ d) (G : GO H iv) (X : OkX (ax_c d 260 [.ref 400, .int x] H) (XP k (Ext 1 6 H))) (hk : hd_0 k = some none) : OkX (ax_c (d + 1) 261 [.ref 400, .int x, .int y] H) (XP k (Ext 1 6 H)) := by
  refine OkX.le m_X1_wordOf ?_
  rw [G.vn, Option.bind_some]
  exact OkX.xI X fun i h' X => X.x0 hk
theorem x_wordOf_far (hd : 4 ≤ d) (G : GO H iv) (M : MV 402 c H) (hx : inI x 1 65535 ≠ 0) {f z : Nat} (f6 : f < 6) (hf : findF (ds c) x = Int32.ofNat f) (hz : ds c (40 + 4 * f + 1) = Int32.ofNat z) (hz2 : z < 2 ^ 31) (hy : inI y 0 (Int32.ofNat z - 1) = 0) : OkX (ax_c d 261 [.ref 400, .int x, .int y] H) (XP 6 (Ext 1 6 H)) := by
  obtain ⟨d, rfl, he⟩ := d_succ hd
  refine OkX.le m_X1_wordOf ?_
  have := c_entry (d := d) (by omega) M f6 (show 1 < 4 by omega)
  rw [show Int32.ofNat 1 = 1 from rfl] at this
  rw [G.vn, Option.bind_some, x_file_yes he G M hx f6 hf, cI_v]
  by_cases q : y < 0
  · rw [if_pos q]; exact thr_new rfl
  · rw [if_neg q, G.g, Option.bind_some, M.vn, Option.bind_some, this, cI_v, hz, if_neg]
    · exact thr_new rfl
    · intro zz
      unfold inI at hy
      rw [if_neg q, if_neg] at hy
      · exact absurd hy (by decide)
      · refine Int32.not_lt.mpr ?_
        have a := Int32.not_lt.mp q
        have r : rg z y := by
          rw [Int32.le_iff_toInt_le] at a
          rw [Int32.lt_iff_toInt_lt] at zz
          rw [show (Int32.ofNat z).toInt = z from Int32.toInt_ofNat_of_lt hz2] at zz
          exact ⟨a, by omega⟩
        obtain ⟨n1, n2⟩ := rg.nat r
        rw [n2] at zz ⊢
        have := (i_lt (by omega) hz2).mp zz
        rw [show Int32.ofNat z - 1 = Int32.ofNat (z - 1) from i_sub (b := 1) (by omega)]
        exact (i_le (by omega) (by omega)).mpr (by omega)
theorem x_wordOf (hd : 4 ≤ d) (G : GO H iv) (M : MV 402 c H) (hx : inI x 1 65535 ≠ 0) {f p z v : Nat} (f6 : f < 6) (hf : findF (ds c) x = Int32.ofNat f) (hz : ds c (40 + 4 * f + 1) = Int32.ofNat z) (hp : p < z) (hz16 : z ≤ 16) (hv : ds c (40 + 4 * f + (2 + p / 8)) = Int32.ofNat v) (hv2 : v < 32) : ax_c d 261 [.ref 400, .int x, .int (Int32.ofNat p)] H = some (.inl (some (.int (ds c (8 * v + p % 8)))), H) := by
  obtain ⟨d, rfl, he⟩ := d_succ hd
  refine dx_app m_X1_wordOf ?_
  have := c_entry (d := d) (by omega) M f6 (show 1 < 4 by omega)
  rw [show Int32.ofNat 1 = 1 from rfl] at this
  have dm : ∀ x : Nat, x < 16 → Int32.ofNat x / 8 = Int32.ofNat (x / 8) ∧ dx_rem (Int32.ofNat x) 8 = Int32.ofNat (x % 8) := by decide
  obtain ⟨m1, m2⟩ := dm p (by omega)
  rw [G.vn, Option.bind_some, x_file_yes he G M hx f6 hf, cI_v, if_neg (fun y => by have := (i_lt (b := 0) (by omega) (by omega)).mp y; omega), G.g, Option.bind_some, M.vn, Option.bind_some, this, cI_v, hz, if_pos ((i_lt (by omega) (by omega)).mpr hp), G.g, Option.bind_some, M.vn, Option.bind_some, c_wordOf (by omega) M f6 m1 (by omega) m2 (by omega) hv hv2, cI_v]
end XOF
