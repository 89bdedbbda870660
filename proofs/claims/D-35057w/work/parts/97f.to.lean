/-! the twin asked -/
/- with RA RB.sml RB.mem RB.dsk RB.reg RB.sks inI_val t_isAddress i_addr GO x_in x_inX x_must x_mustX XP.x0 Ext XP -/
section TOB
variable {w x y : Int32} {c : Nat → Int32} {s : Nat → Nat → Int32} {d : Nat}
theorem t_register (hd : 2 ≤ d) (h : ax_H) {k : Nat} (hk : k < 4) : ax_c d 463 [.ref 417, .int (Int32.ofNat k)] (tw_H h s) = some (.inl (some (.int (s 26 k))), tw_H h (tw_up s 0 0 0)) := by
  obtain ⟨d, rfl, he⟩ := d_succ hd
  refine dx_app m_X3_register ?_
  rw [t_in he, cI_v, if_neg (show ¬ inI (Int32.ofNat k) 0 3 = 0 from (inI_val (lo := 0) (hi := 3) (by omega) (by omega)).mpr ⟨k, Nat.zero_le _, by omega, rfl⟩)]
  refine dx_app b_X3_register_15 ?_
  rw [tw_vn, Option.bind_some, t_holds he, cI_v, if_pos rfl, if_neg (by decide), tr_26, Option.bind_some, tl_26, ix_of (n := 4) (k := k) rfl hk (by omega), Option.bind_some, Option.bind_some]
  rfl
theorem t_register_bad (hd : 2 ≤ d) (h : ax_H) (hx : inI x 0 3 = 0) : ax_c d 463 [.ref 417, .int x] (tw_H h s) = some (.inl (some (.int 0)), tw_H h (tw_up s 0 0 1)) := by
  obtain ⟨d, rfl, he⟩ := d_succ hd
  refine dx_app m_X3_register ?_
  rw [t_in he, cI_v, if_pos hx]
  refine dx_app b_X3_register_15 ?_
  rw [tw_vn, Option.bind_some, t_holds he, cI_v, if_neg (show ¬ (1 : Int32) = 0 by decide), if_pos rfl]
theorem t_memory (hd : 3 ≤ d) (h : ax_H) {k : Nat} (hk : k < 256) : ax_c d 464 [.ref 417, .int (Int32.ofNat k)] (tw_H h s) = some (.inl (some (.int (s 25 k))), tw_H h (tw_up s 0 0 0)) := by
  obtain ⟨d, rfl, he⟩ := d_succ hd
  refine dx_app m_X3_memory ?_
  rw [t_isAddress he, cI_v, if_neg (i_addr hk)]
  refine dx_app b_X3_memory_13 ?_
  rw [tw_vn, Option.bind_some, t_holds (by omega), cI_v, if_pos rfl, if_neg (by decide), tr_25, Option.bind_some, tl_25, ix_of (n := 256) (k := k) rfl hk (by omega), Option.bind_some, Option.bind_some]
  rfl
theorem t_memory_bad (hd : 3 ≤ d) (h : ax_H) (hx : inI x 0 255 = 0) : ax_c d 464 [.ref 417, .int x] (tw_H h s) = some (.inl (some (.int 0)), tw_H h (tw_up s 0 0 1)) := by
  obtain ⟨d, rfl, he⟩ := d_succ hd
  refine dx_app m_X3_memory ?_
  rw [t_isAddress he, cI_v, if_pos hx]
  refine dx_app b_X3_memory_13 ?_
  rw [tw_vn, Option.bind_some, t_holds (by omega), cI_v, if_neg (show ¬ (1 : Int32) = 0 by decide), if_pos rfl]
theorem t_tapeAt (hd : 2 ≤ d) (h : ax_H) {k m : Nat} (hm : s 37 0 = Int32.ofNat m) (hm60 : m ≤ 60) (hk : k < m) : ax_c d 468 [.ref 417, .int (Int32.ofNat k)] (tw_H h s) = some (.inl (some (.int (s 36 k))), tw_H h (tw_up s 0 0 0)) := by
  obtain ⟨d, rfl, he⟩ := d_succ hd
  refine dx_app m_X3_tapeAt ?_
  rw [tg_37, Option.bind_some, hm, show Int32.ofNat m - 1 = Int32.ofNat (m - 1) from i_sub (b := 1) (by omega), t_in he, cI_v, if_neg (show ¬ inI (Int32.ofNat k) 0 (Int32.ofNat (m - 1)) = 0 from (inI_val (lo := 0) (by omega) (by omega)).mpr ⟨k, Nat.zero_le _, by omega, rfl⟩)]
  refine dx_app b_X3_tapeAt_20 ?_
  rw [tw_vn, Option.bind_some, t_holds he, cI_v, if_pos rfl, if_neg (by decide), tr_36, Option.bind_some, tl_36, ix_of (n := 60) (k := k) rfl (by omega) (by omega), Option.bind_some, Option.bind_some]
  rfl
theorem t_tapeAt_bad (hd : 2 ≤ d) (h : ax_H) (hx : inI x 0 (s 37 0 - 1) = 0) : ax_c d 468 [.ref 417, .int x] (tw_H h s) = some (.inl (some (.int 0)), tw_H h (tw_up s 0 0 1)) := by
  obtain ⟨d, rfl, he⟩ := d_succ hd
  refine dx_app m_X3_tapeAt ?_
  rw [tg_37, Option.bind_some, t_in he, cI_v, if_pos hx]
  refine dx_app b_X3_tapeAt_20 ?_
  rw [tw_vn, Option.bind_some, t_holds he, cI_v, if_neg (show ¬ (1 : Int32) = 0 by decide), if_pos rfl]
theorem t_disk (hd : 2 ≤ d) (h : ax_H) {k j : Nat} (hk : k < 32) (hj : j < 8) : ax_c d 474 [.ref 417, .int (Int32.ofNat k), .int (Int32.ofNat j)] (tw_H h s) = some (.inl (some (.int (s 50 (8 * k + j)))), tw_H h (tw_up s 0 0 0)) := by
  obtain ⟨d, rfl, he⟩ := d_succ hd
  refine dx_app m_X3_disk ?_
  rw [t_in he, cI_v, if_neg (show ¬ inI (Int32.ofNat k) 0 31 = 0 from (inI_val (lo := 0) (hi := 31) (by omega) (by omega)).mpr ⟨k, Nat.zero_le _, by omega, rfl⟩), t_in he, cI_v, if_neg (show ¬ inI (Int32.ofNat j) 0 7 = 0 from (inI_val (lo := 0) (hi := 7) (by omega) (by omega)).mpr ⟨j, Nat.zero_le _, by omega, rfl⟩)]
  refine dx_app b_X3_disk_26 ?_
  rw [tw_vn, Option.bind_some, t_holds he, cI_v, if_pos rfl, if_neg (by decide), tr_50, Option.bind_some, tl_50, ix_of (n := 256) (k := 8 * k + j) (by rw [show (8 : Int32) * Int32.ofNat k = Int32.ofNat (8 * k) from i_mul 8 k, i_add]) (by omega) (by omega), Option.bind_some, Option.bind_some]
  rfl
theorem t_disk_bad (hd : 2 ≤ d) (h : ax_H) (hx : inI x 0 31 = 0 ∨ inI y 0 7 = 0) : ax_c d 474 [.ref 417, .int x, .int y] (tw_H h s) = some (.inl (some (.int 0)), tw_H h (tw_up s 0 0 1)) := by
  obtain ⟨d, rfl, he⟩ := d_succ hd
  have b26 : B_X3_disk_26 (ax_c d) 417 1 417 x y (tw_H h s) = some (.inl (some (.int 0)), tw_H h (tw_up s 0 0 1)) := by
    refine dx_app b_X3_disk_26 ?_
    rw [tw_vn, Option.bind_some, t_holds he, cI_v, if_neg (show ¬ (1 : Int32) = 0 by decide), if_pos rfl]
  refine dx_app m_X3_disk ?_
  rw [t_in he, cI_v]
  by_cases q : inI x 0 31 = 0
  · rw [if_pos q]; exact b26
  · rw [if_neg q, t_in he, cI_v, if_pos (hx.resolve_left q)]; exact b26
theorem t_flags (hd : 3 ≤ d) (h : ax_H) (R : RA w c s) (F : F01 c) : ax_c d 460 [.ref 417] (tw_H h s) = some (.inl (some (.int (flC c))), tw_H h (tw_up s 0 0 0)) := by
  obtain ⟨d, rfl, he⟩ := d_succ hd
  refine dx_app m_X3_flags ?_
  have R' : RA w c (tw_up s 0 0 0) := ⟨R.1.sks (by omega), R.2.1, R.2.2.1, R.2.2.2⟩
  rw [tp_0, Option.bind_some, tw_vn, Option.bind_some, t_flagsOf R' F (by omega) h, cI_v]
theorem t_image (hd : 2 ≤ d) (h : ax_H) {k : Nat} (hk : k < 256) (h22 : s 22 0 ≠ 0) : ax_c d 403 [.ref 417, .int (Int32.ofNat k)] (tw_H h s) = some (.inl (some (.int (s 21 k))), tw_H h (tw_up s 0 0 0)) := by
  obtain ⟨d, rfl, he⟩ := d_succ hd
  refine dx_app m_X3_image ?_
  rw [t_in he, cI_v, if_pos (i_addr hk), tg_22, Option.bind_some, if_neg h22]
  refine dx_app b_X3_image_28 ?_
  rw [tw_vn, Option.bind_some, t_holds he, cI_v, if_pos rfl, if_neg (by decide), tr_21, Option.bind_some, tl_21, ix_of (n := 256) (k := k) rfl hk (by omega), Option.bind_some, Option.bind_some]
  rfl
theorem t_image_no (hd : 2 ≤ d) (h : ax_H) (hx : inI x 0 255 ≠ 0) (h22 : s 22 0 = 0) : ax_c d 403 [.ref 417, .int x] (tw_H h s) = some (.inl (some (.int 0)), tw_H h (tw_up s 0 0 2)) := by
  obtain ⟨d, rfl, he⟩ := d_succ hd
  refine dx_app m_X3_image ?_
  rw [t_in he, cI_v, if_pos hx, tg_22, Option.bind_some, if_pos h22]
  refine dx_app b_X3_image_28 ?_
  rw [tw_vn, Option.bind_some, t_holds he, cI_v, if_neg (show ¬ (2 : Int32) = 0 by decide), if_pos rfl]
theorem t_image_bad (hd : 2 ≤ d) (h : ax_H) (hx : inI x 0 255 = 0) : ax_c d 403 [.ref 417, .int x] (tw_H h s) = some (.inl (some (.int 0)), tw_H h (tw_up s 0 0 1)) := by
  obtain ⟨d, rfl, he⟩ := d_succ hd
  refine dx_app m_X3_image ?_
  rw [t_in he, cI_v, if_neg (fun z => z hx)]
  refine dx_app b_X3_image_28 ?_
  rw [tw_vn, Option.bind_some, t_holds he, cI_v, if_neg (show ¬ (1 : Int32) = 0 by decide), if_pos rfl]
end TOB
/-! the gym's image -/
section XIM
variable {x : Int32} {img : Nat → Int32} {H : ax_H} {d ip : Nat}
theorem x_image (hd : 2 ≤ d) (G : GO H (.ref ip)) (hi : H.1 ip = .inl (0, 256, .inl img)) {k : Nat} (hk : k < 256) : ax_c d 245 [.ref 400, .int (Int32.ofNat k)] H = some (.inl (some (.int (img k))), H) := by
  obtain ⟨d, rfl, he⟩ := d_succ hd
  refine dx_app m_X1_image ?_
  rw [x_in (x := Int32.ofNat k) (lo := 0) (hi := 255) he (i_addr hk), cI_v, gA_r (j := 5) G rfl rfl, Option.bind_some, nul_ref, x_must he (by decide), cV_v, gA_r (j := 5) G rfl rfl, Option.bind_some, lI_at hi, ix_of (n := 256) (k := k) rfl hk (by omega), Option.bind_some, Option.bind_some]
theorem x_image_no (hd : 2 ≤ d) (G : GO H .null) (hx : inI x 0 255 ≠ 0) : OkX (ax_c d 245 [.ref 400, .int x] H) (XP 0 (Ext 1 6 H)) := by
  obtain ⟨d, rfl, he⟩ := d_succ hd
  refine OkX.le m_X1_image ?_
  rw [x_in he hx, cI_v, gA_n (j := 5) G rfl rfl, Option.bind_some, nul_null]
  exact OkX.xV (x_mustX he) fun i h' X => X.x0 rfl
theorem x_image_bad (hd : 2 ≤ d) (hx : inI x 0 255 = 0) : OkX (ax_c d 245 [.ref 400, .int x] H) (XP 18 (Ext 1 6 H)) := by
  obtain ⟨d, rfl, he⟩ := d_succ hd
  refine OkX.le m_X1_image ?_
  exact OkX.xI (x_inX he hx) fun i h' X => X.x0 rfl
end XIM
