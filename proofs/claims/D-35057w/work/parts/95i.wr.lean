/-! class and twin alike: a file call's write, whole -/
/- with AR.up AR.eqc AR.eqs AR.eqM AR.g RB.dsk wr_end wrtS wrtA endS headS writeO cpW fo_ne fl_ne cpW_at hd8_at -/
section WIS
variable {n : Nat} {w : Int32} {s0 s : Nat → Nat → Int32} {M : Nat → Prop} {c : Nat → Int32}
theorem head_sum {m : Nat} (m1 : 1 ≤ m) (m3 : m ≤ 3) (hv : ∀ j, j < m → ∃ v, v < 32 ∧ c (20 + j) = Int32.ofNat v) (hz : ∀ j, m ≤ j → j < 3 → c (20 + j) = 0) (hp : ∀ q, q < 8 * m → rg 65535 (c (24 + q))) {g8 g9 : Nat → Int32} (h8 : ∀ j, j < m → g8 j = c (20 + j)) (h9 : ∀ q, q < 8 * m → g9 q = c (24 + q)) : dx_i2c (sumT (fun k => c (24 + k)) (sumT (hdV c m) 0 8) (8 * m)) = dx_rem (sumT g9 (sumT g8 (Int32.ofNat m) m) (8 * m)) 65536 := by
  have m0 : m ≠ 0 := by omega
  have e1 : sumT (hdV c m) 0 8 = sumT g8 (Int32.ofNat m) m := by
    have h0 : hdV c m 0 = Int32.ofNat m := by unfold hdV; rw [if_neg m0, if_pos (by omega), if_pos rfl]
    have h1 : hdV c m 1 = c 20 := by unfold hdV; rw [if_neg m0, if_pos (by omega), if_neg (by omega)]
    have h2 : hdV c m 2 = c 21 := by unfold hdV; rw [if_neg m0, if_pos (by omega), if_neg (by omega)]
    have h3 : hdV c m 3 = c 22 := by unfold hdV; rw [if_neg m0, if_pos (by omega), if_neg (by omega)]
    have h4 : ∀ p, 4 ≤ p → hdV c m p = 0 := fun p hp => by unfold hdV; rw [if_neg m0, if_neg (by omega)]
    show (((((((0 + hdV c m 0) + hdV c m 1) + hdV c m 2) + hdV c m 3) + hdV c m 4) + hdV c m 5) + hdV c m 6) + hdV c m 7 = _
    rw [h0, h1, h2, h3, h4 4 (by omega), h4 5 (by omega), h4 6 (by omega), h4 7 (by omega), Int32.add_zero, Int32.add_zero, Int32.add_zero, Int32.add_zero, Int32.zero_add]
    obtain rfl | rfl | rfl : m = 1 ∨ m = 2 ∨ m = 3 := by omega
    · rw [show c 21 = 0 from hz 1 (by omega) (by omega), show c 22 = 0 from hz 2 (by omega) (by omega), Int32.add_zero, Int32.add_zero]
      show _ = Int32.ofNat 1 + g8 0
      rw [h8 0 (by omega)]
    · rw [show c 22 = 0 from hz 2 (by omega) (by omega), Int32.add_zero]
      show _ = Int32.ofNat 2 + g8 0 + g8 1
      rw [h8 0 (by omega), h8 1 (by omega)]
    · show _ = Int32.ofNat 3 + g8 0 + g8 1 + g8 2
      rw [h8 0 (by omega), h8 1 (by omega), h8 2 (by omega)]
  rw [e1, sumT_congr (g' := g9) (8 * m) (fun k hk => (h9 k hk).symm)]
  obtain ⟨r1, er1, br1⟩ := sumT_nat (g := g8) (f := fun j => nn (g8 j)) (a := m) m (fun j hj => by
    obtain ⟨v, v1, v2⟩ := hv j hj
    rw [h8 j hj, v2, nn_of (by omega)])
  obtain ⟨r2, er2, br2⟩ := sumT_nat (g := g9) (f := fun j => nn (g9 j)) (a := r1) (8 * m) (fun j hj => by
    rw [h9 j hj]; exact (rg.nat (hp j hj)).2)
  have b1 := br1 32 (fun j hj => by
    obtain ⟨v, v1, v2⟩ := hv j hj
    show nn (g8 j) ≤ 32
    rw [h8 j hj, v2, nn_of (by omega)]; omega)
  have b2 := br2 65535 (fun j hj => by
    show nn (g9 j) ≤ 65535
    rw [h9 j hj]; exact (rg.nat (hp j hj)).1)
  rw [er1, er2, show dx_rem (Int32.ofNat r2) 65536 = Int32.ofNat (r2 % 65536) from rem_nat (b := 65536) (by omega) (by omega), i2c_nat]
theorem in_write (A : AR n w s0 M c s) {m k : Nat} (h18 : c 18 = Int32.ofNat m) (h19 : c 19 = Int32.ofNat k) (m1 : 1 ≤ m) (m3 : m ≤ 3) (hk : k ≤ 2 * m + 1) (hv : ∀ j, j < m → ∃ v, v < 32 ∧ c (20 + j) = Int32.ofNat v) (hz : ∀ j, m ≤ j → j < 3 → c (20 + j) = 0) (hp : ∀ q, q < 8 * m → rg 65535 (c (24 + q))) : AR n w s0 M (apW c (writeO c)) (wrtS s m k) := by
  have n18 : c 18 ≠ 0 := by rw [h18]; exact fun z => by have := (i_eq (b := 0) (by omega) (by omega)).mp z; omega
  obtain ⟨b0, b1, b2, b3⟩ := A.2.2.1.2 n18
  have nm : nn (c 18) = m := by rw [h18, nn_of (by omega)]
  have nk : nn (c 19) = k := by rw [h19, nn_of (by omega)]
  rw [nm] at b2 b3
  have w50 : ∀ a, wrtA s 50 a = s 50 a := fun a => rfl
  have w47 : wrtA s 47 0 = c 18 := b1
  unfold writeO wrtS
  simp only []
  rw [nm, nk, apW_app]
  have blk : ∀ (b p : Nat) (g : Nat → Int32), b < 32 → (∀ j, j < 8 → g j = c (p + j)) → AR n w s0 M (apW (apW c (cpW c (365 + 8 * b) p 8 0)) ([(364, c 364 + 1), (19, Int32.ofNat (k + 1))] ++ (if k = 2 * m + 1 then [(18, 0), (15, 0), (3, c 3 + 2)] else []))) (endS (tw_fo (wrtA s) 50 (8 * b) 8 g)) := by
    intro b p g hb hg
    refine wr_end A h18 h19 m1 m3 hk (fun f hf => fo_ne hf) (fun a ha => ?_) (fun q hq => ?_)
    · rw [fo_at, if_pos rfl, cpW_at]
      show (if 8 * b ≤ a ∧ a < 8 * b + 8 then g (a - 8 * b) else wrtA s 50 a) = _
      by_cases e : 8 * b ≤ a ∧ a < 8 * b + 8
      · rw [if_pos e, if_pos (by omega), hg _ (by omega)]
        congr 2
        omega
      · rw [if_neg e, if_neg (by omega), w50, A.1.dsk ha]
    · rw [cpW_at, if_neg (by omega)]
  by_cases q1 : k = m
  · rw [if_neg (show ¬ k < m by omega), if_neg (show ¬ (m < k ∧ k ≤ 2 * m) by omega), if_pos q1, if_pos q1]
    refine wr_end A h18 h19 m1 m3 hk (fun f hf => ?_) (fun a ha => ?_) (fun q hq => ?_)
    · unfold headS
      rw [tw_up_at, if_neg hf, fo_ne hf, tw_up_at, if_neg hf, fl_ne hf]
    · have hs := head_sum (g8 := s 48) (g9 := s 49) m1 m3 hv hz hp b2 b3
      unfold headS hdW
      rw [apW_app]
      show tw_up (tw_fo (tw_up (tw_fl (wrtA s) 50 8 fun _ => 0) 50 0 (wrtA s 47 0)) 50 1 m (s 48)) 50 4 (dx_rem (sumT (s 49) (sumT (s 48) (wrtA s 47 0) m) (8 * m)) 65536) 50 a = upd (apW c (hd8 c m 8 0)) 369 (dx_i2c (sumT (fun k => c (24 + k)) (sumT (hdV c m) 0 8) (8 * m))) (365 + a)
      rw [hs, w47, h18, tw_up_at, if_pos rfl, upd_at, upd_at]
      by_cases a4 : a = 4
      · rw [if_pos a4, if_pos (by omega)]
      · rw [if_neg a4, if_neg (by omega), hd8_at, fo_at, if_pos rfl]
        show (if 1 ≤ a ∧ a < 1 + m then s 48 (a - 1) else tw_up (tw_fl (wrtA s) 50 8 fun _ => 0) 50 0 (Int32.ofNat m) 50 a) = _
        rw [tw_up_at, if_pos rfl, upd_at, fl_at, if_pos rfl]
        show (if 1 ≤ a ∧ a < 1 + m then s 48 (a - 1) else if a = 0 then Int32.ofNat m else if a < 8 then 0 else wrtA s 50 a) = _
        rw [w50, A.1.dsk ha]
        by_cases a8 : a < 8
        · rw [if_pos (show 365 + 0 ≤ 365 + a ∧ 365 + a < 365 + 0 + 8 by omega), if_pos a8, Nat.add_sub_cancel_left]
          unfold hdV
          rw [if_neg (show ¬ m = 0 by omega)]
          by_cases a0 : a = 0
          · rw [if_neg (by omega), if_pos a0, if_pos (by omega), if_pos a0]
          · by_cases am : a < 1 + m
            · rw [if_pos (by omega), if_pos (by omega), if_neg a0, b2 _ (by omega)]
              congr 1
              omega
            · rw [if_neg (by omega), if_neg a0]
              by_cases a3 : a ≤ 3
              · rw [if_pos a3, if_neg a0]
                have := hz (a - 1) (by omega) (by omega)
                rw [show 20 + (a - 1) = 19 + a by omega] at this
                exact this.symm
              · rw [if_neg a3]
        · rw [if_neg (by omega), if_neg (by omega), if_neg a8, if_neg (by omega)]
    · unfold hdW
      rw [apW_app]
      show upd (apW c (hd8 c m 8 0)) 369 _ q = _
      rw [upd_ne _ _ (by omega), hd8_at, if_neg (by omega)]
  · rw [if_neg q1]
    by_cases q2 : k = 2 * m + 1
    · rw [if_neg (show ¬ k < m by omega), if_neg (show ¬ (m < k ∧ k ≤ 2 * m) by omega), if_neg q1]
      have W := wr_end (T := tw_fl (wrtA s) 50 8 fun _ => 0) (c1 := apW c (hdW c 0)) A h18 h19 m1 m3 hk (fun f hf => fl_ne hf)
      rw [if_pos q2] at W ⊢
      rw [if_pos q2]
      refine W (fun a ha => ?_) (fun q hq => ?_)
      · have z0 : ∀ p, hdV c 0 p = 0 := fun p => if_pos rfl
        unfold hdW
        rw [apW_app]
        show tw_fl (wrtA s) 50 8 (fun _ => 0) 50 a = upd (apW c (hd8 c 0 8 0)) 369 (dx_i2c (sumT (fun k => c (24 + k)) (sumT (hdV c 0) 0 8) (8 * 0))) (365 + a)
        rw [show sumT (fun k => c (24 + k)) (sumT (hdV c 0) 0 8) (8 * 0) = 0 from by
          show (((((((0 + hdV c 0 0) + hdV c 0 1) + hdV c 0 2) + hdV c 0 3) + hdV c 0 4) + hdV c 0 5) + hdV c 0 6) + hdV c 0 7 = 0
          rw [z0, z0, z0, z0, z0, z0, z0, z0]; decide, show dx_i2c 0 = 0 from by decide, fl_at, if_pos rfl, upd_at, hd8_at]
        show (if a < 8 then 0 else wrtA s 50 a) = _
        by_cases a8 : a < 8
        · rw [if_pos a8, if_pos (show 365 + 0 ≤ 365 + a ∧ 365 + a < 365 + 0 + 8 by omega), z0]
          split <;> rfl
        · rw [if_neg a8, if_neg (by omega), if_neg (by omega), w50, A.1.dsk ha]
      · unfold hdW
        rw [apW_app]
        show upd (apW c (hd8 c 0 8 0)) 369 _ q = _
        rw [upd_ne _ _ (by omega), hd8_at, if_neg (by omega)]
    · rw [if_neg q2]
      by_cases q3 : k < m
      · rw [if_pos q3, if_neg q1, if_neg q2, if_pos q3]
        have := blk (1 + k) (24 + 8 * k) (fun j => s 49 (8 * k + j)) (by omega) (fun j hj => by rw [b3 _ (by omega)]; congr 1; omega)
        rw [if_neg q2] at this
        exact this
      · rw [if_neg q3, if_pos (show m < k ∧ k ≤ 2 * m by omega), if_neg q1, if_neg q2, if_neg q3]
        obtain ⟨v, v1, v2⟩ := hv (k - m - 1) (by omega)
        rw [b2 _ (by omega), v2, show (Int32.ofNat v).toNatClampNeg = v from i_nat (by omega), nn_of (by omega)]
        have := blk v (24 + 8 * (k - m - 1)) (fun j => s 49 (8 * (k - m - 1) + j)) v1 (fun j hj => by rw [b3 _ (by omega)]; congr 1; omega)
        rw [if_neg q2] at this
        exact this
end WIS
