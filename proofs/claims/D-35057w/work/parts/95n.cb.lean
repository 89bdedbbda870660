/-! class and twin alike: what a file call makes of the disk -/
/- with FSI.cong makeFS replS remS remF remA remM renS appT appN appE turnS -/
theorem tw51 (u : Nat → Nat → Int32) (i : Nat) (x : Int32) : tw_up u 51 i x 51 = upd (u 51) i x := by rw [tw_up_at, if_pos rfl]
def rmT (D : Nat → Int32) (b : Nat → Nat) : Nat → Nat → Int32
  | 0 => D
  | k + 1 => if b k = 0 then rmT D b k else trnW (rmT D b k) (b k)
theorem trn_hi {D : Nat → Int32} {b a : Nat} (hb : b < 32) (ha : 34 ≤ a) : trnW D b a = D a := upd_ne _ _ (by omega)
theorem rmT_hi {D : Nat → Int32} {b : Nat → Nat} (hb : ∀ k, k < 2 → b k < 32) {a : Nat} (ha : 34 ≤ a ∨ a < 32) : ∀ k, k ≤ 2 → rmT D b k a = D a := by
  intro k
  induction k with
  | zero => intro _; rfl
  | succ k ih =>
    intro hk
    show (if b k = 0 then rmT D b k else trnW (rmT D b k) (b k)) a = _
    split
    · exact ih (by omega)
    · have := hb k (by omega)
      rw [show trnW (rmT D b k) (b k) a = rmT D b k a from upd_ne _ _ (by omega)]; exact ih (by omega)
section WLL
variable {u : Nat → Nat → Int32} {D : Nat → Int32}
theorem will_make (hu : ∀ a, a < 256 → u 51 a = D a) (I : FSI D) {n : Nat} (hn : n < 6) (hz : D (40 + 4 * n) = 0) {x : Int32} (hx : u 26 0 = x) : ∀ a, a < 256 → makeFS u n 51 a = entW D n 0 x a := by
  intro a ha
  have z := (I.1 n hn).1 hz
  unfold makeFS entW
  rw [tw51, tw51, tw51, tw51, hx, upd_at, upd_at, upd_at, upd_at, upd_at, hu a ha]
  by_cases e3 : a = 40 + 4 * n + 3
  · rw [if_pos e3, if_neg (by omega), e3, z 3 (by omega)]
  rw [if_neg e3]
  by_cases e2 : a = 40 + 4 * n + 2
  · rw [if_pos e2, if_neg (by omega), e2, z 2 (by omega)]
  rw [if_neg e2]
  by_cases e1 : a = 40 + 4 * n + 1
  · rw [if_pos e1, if_neg (by omega), e1, z 1 (by omega)]
  rw [if_neg e1]
  rfl
theorem rem_us (I : FSI D) {n : Nat} (hn : n < 6) {b : Nat → Nat} (hb : ∀ k, k < 2 → D (40 + 4 * n + (2 + k)) = Int32.ofNat (b k)) (hb32 : ∀ k, k < 2 → b k < 32) : (b 0 ≠ 0 → usB D (b 0)) ∧ (b 1 ≠ 0 → usB D (b 1) ∧ b 1 ≠ b 0) := by
  have us : ∀ k, k < 2 → b k ≠ 0 → usB D (b k) := by
    intro k hk h0
    obtain ⟨v, v1, v2, v3⟩ := (I.1 n hn).2.2 k hk
    have := (i_eq (by omega) (by have := hb32 k hk; omega)).mp (v2.symm.trans (hb k hk))
    subst this
    exact (v3 h0).2
  refine ⟨us 0 (by omega), fun h => ⟨us 1 (by omega) h, fun e => ?_⟩⟩
  have := I.2 n 1 n 0 hn (by omega) hn (by omega) (by rw [hb 1 (by omega), hb 0 (by omega), e]) (by rw [hb 1 (by omega)]; exact fun z => h ((i_eq (b := 0) (by have := hb32 1 (by omega); omega) (by omega)).mp z))
  omega
theorem rmv_at (I : FSI D) {n : Nat} (hn : n < 6) {b : Nat → Nat} (hb : ∀ k, k < 2 → D (40 + 4 * n + (2 + k)) = Int32.ofNat (b k)) (hb32 : ∀ k, k < 2 → b k < 32) (a : Nat) : rmvW D n 4 0 D a = if 40 + 4 * n ≤ a ∧ a < 40 + 4 * n + 4 then 0 else rmT D b 2 a := by
  obtain ⟨u0, u1⟩ := rem_us I hn hb hb32
  have b0 := hb32 0 (by omega)
  have b1 := hb32 1 (by omega)
  have nz : ∀ k, k < 2 → (D (40 + 4 * n + (2 + k)) = 0 ↔ b k = 0) := fun k hk => by
    rw [hb k hk]
    exact i_eq (b := 0) (by have := hb32 k hk; omega) (by omega)
  have e : rmvW D n 4 0 D = entW (entW (entW (entW (rmT D b 2) n 0 0) n 1 0) n 2 0) n 3 0 := by
    show entW (if 2 ≤ 3 ∧ ¬ D (40 + 4 * n + 3) = 0 then mrkW (entW (if 2 ≤ 2 ∧ ¬ D (40 + 4 * n + 2) = 0 then mrkW (entW (if 2 ≤ 1 ∧ ¬ D (40 + 4 * n + 1) = 0 then mrkW (entW (if 2 ≤ 0 ∧ ¬ D (40 + 4 * n + 0) = 0 then mrkW D (nn (D (40 + 4 * n + 0))) 0 else D) n 0 0) (nn (D (40 + 4 * n + 1))) 0 else entW (if 2 ≤ 0 ∧ ¬ D (40 + 4 * n + 0) = 0 then mrkW D (nn (D (40 + 4 * n + 0))) 0 else D) n 0 0) n 1 0) (nn (D (40 + 4 * n + 2))) 0 else entW (if 2 ≤ 1 ∧ ¬ D (40 + 4 * n + 1) = 0 then mrkW (entW (if 2 ≤ 0 ∧ ¬ D (40 + 4 * n + 0) = 0 then mrkW D (nn (D (40 + 4 * n + 0))) 0 else D) n 0 0) (nn (D (40 + 4 * n + 1))) 0 else entW (if 2 ≤ 0 ∧ ¬ D (40 + 4 * n + 0) = 0 then mrkW D (nn (D (40 + 4 * n + 0))) 0 else D) n 0 0) n 1 0) n 2 0) (nn (D (40 + 4 * n + 3))) 0 else entW (if 2 ≤ 2 ∧ ¬ D (40 + 4 * n + 2) = 0 then mrkW (entW (if 2 ≤ 1 ∧ ¬ D (40 + 4 * n + 1) = 0 then mrkW (entW (if 2 ≤ 0 ∧ ¬ D (40 + 4 * n + 0) = 0 then mrkW D (nn (D (40 + 4 * n + 0))) 0 else D) n 0 0) (nn (D (40 + 4 * n + 1))) 0 else entW (if 2 ≤ 0 ∧ ¬ D (40 + 4 * n + 0) = 0 then mrkW D (nn (D (40 + 4 * n + 0))) 0 else D) n 0 0) n 1 0) (nn (D (40 + 4 * n + 2))) 0 else entW (if 2 ≤ 1 ∧ ¬ D (40 + 4 * n + 1) = 0 then mrkW (entW (if 2 ≤ 0 ∧ ¬ D (40 + 4 * n + 0) = 0 then mrkW D (nn (D (40 + 4 * n + 0))) 0 else D) n 0 0) (nn (D (40 + 4 * n + 1))) 0 else entW (if 2 ≤ 0 ∧ ¬ D (40 + 4 * n + 0) = 0 then mrkW D (nn (D (40 + 4 * n + 0))) 0 else D) n 0 0) n 1 0) n 2 0) n 3 0 = _
    simp only [show ¬ (2 : Nat) ≤ 0 by omega, show ¬ (2 : Nat) ≤ 1 by omega, false_and, if_false]
    have e2 := hb 0 (by omega)
    have e3 := hb 1 (by omega)
    have z2 := nz 0 (by omega)
    have z3 := nz 1 (by omega)
    rw [show 2 + 0 = 2 from rfl] at e2 z2
    rw [show 2 + 1 = 3 from rfl] at e3 z3
    have n2 : nn (Int32.ofNat (b 0)) = b 0 := nn_of (by omega)
    have n3 : nn (Int32.ofNat (b 1)) = b 1 := nn_of (by omega)
    have m0 : (if 2 ≤ 2 ∧ ¬ D (40 + 4 * n + 2) = 0 then mrkW (entW (entW D n 0 0) n 1 0) (nn (D (40 + 4 * n + 2))) 0 else entW (entW D n 0 0) n 1 0) = entW (entW (rmT D b 1) n 0 0) n 1 0 := by
      show _ = entW (entW (if b 0 = 0 then D else trnW D (b 0)) n 0 0) n 1 0
      by_cases q : b 0 = 0
      · rw [if_neg (fun z => z.2 (z2.mpr q)), if_pos q]
      · rw [if_pos ⟨Nat.le_refl _, fun z => q (z2.mp z)⟩, if_neg q, e2, n2, mrk_ent b0, mrk_ent b0, mrk_off (u0 q)]
    rw [m0]
    by_cases q : b 1 = 0
    · rw [if_neg (fun z => z.2 (z3.mpr q)), show rmT D b 2 = rmT D b 1 from if_pos q]
    · have us1 : usB (rmT D b 1) (b 1) := by
        show usB (if b 0 = 0 then D else trnW D (b 0)) (b 1)
        by_cases q0 : b 0 = 0
        · rw [if_pos q0]; exact (u1 q).1
        · rw [if_neg q0, us_trn b0, if_neg (u1 q).2]; exact (u1 q).1
      rw [if_pos ⟨by omega, fun z => q (z3.mp z)⟩, e3, n3, mrk_ent b1, mrk_ent b1, mrk_ent b1, mrk_off us1, show rmT D b 2 = trnW (rmT D b 1) (b 1) from if_neg q]
  rw [e]
  unfold entW
  rw [upd_at, upd_at, upd_at, upd_at]
  by_cases q : 40 + 4 * n ≤ a ∧ a < 40 + 4 * n + 4
  · rw [if_pos q]
    by_cases e3 : a = 40 + 4 * n + 3
    · rw [if_pos e3]
    by_cases e2 : a = 40 + 4 * n + 2
    · rw [if_neg e3, if_pos e2]
    by_cases e1 : a = 40 + 4 * n + 1
    · rw [if_neg e3, if_neg e2, if_pos e1]
    · rw [if_neg e3, if_neg e2, if_neg e1, if_pos (by omega)]
  · rw [if_neg q, if_neg (by omega), if_neg (by omega), if_neg (by omega), if_neg (by omega)]
theorem remS_at (hu : ∀ a, a < 256 → u 51 a = D a) {b : Nat → Nat} (hb32 : ∀ k, k < 2 → b k < 32) : ∀ k, k ≤ 2 → ∀ a, a < 256 → remS u b k 51 a = rmT D b k a := by
  intro k
  induction k with
  | zero => intro _; exact hu
  | succ k ih =>
    intro hk a ha
    have i := ih (by omega)
    have h32 := hb32 k (by omega)
    show (if b k = 0 then remS u b k else turnS (remS u b k) (b k)) 51 a = (if b k = 0 then rmT D b k else trnW (rmT D b k) (b k)) a
    by_cases q : b k = 0
    · rw [if_pos q, if_pos q]; exact i a ha
    · rw [if_neg q, if_neg q]
      unfold turnS trnW bitI
      rw [tw51, upd_at, upd_at, i a ha, i _ (by omega)]
theorem will_rem (hu : ∀ a, a < 256 → u 51 a = D a) (I : FSI D) {n : Nat} (hn : n < 6) {b : Nat → Nat} (hb : ∀ k, k < 2 → D (40 + 4 * n + (2 + k)) = Int32.ofNat (b k)) (hb32 : ∀ k, k < 2 → b k < 32) : ∀ a, a < 256 → remF u b n 51 a = rmvW D n 4 0 D a := by
  intro a ha
  rw [rmv_at I hn hb hb32]
  unfold remF
  rw [fo_at, if_pos rfl]
  show (if 40 + 4 * n ≤ a ∧ a < 40 + 4 * n + 4 then (0 : Int32) else remS u b 2 51 a) = _
  rw [remS_at hu hb32 2 (by omega) a ha]
theorem remS_ne {b : Nat → Nat} {f : Nat} (hf : f ≠ 51) : ∀ k, remS u b k f = u f := by
  intro k
  induction k with
  | zero => rfl
  | succ k ih =>
    show (if b k = 0 then remS u b k else turnS (remS u b k) (b k)) f = _
    split
    · exact ih
    · unfold turnS
      rw [tw_up_at, if_neg hf]; exact ih
theorem remF_ne {b : Nat → Nat} {n f : Nat} (hf : f ≠ 51) : remF u b n f = u f := by
  unfold remF
  rw [fo_ne hf]; exact remS_ne hf 2
theorem remA_on {b : Nat → Nat} {n k : Nat} (hn : n < 6) (hk : k < 32) : onB (remA b n) k ↔ k = 5 + n / 2 ∨ (k = 4 ∧ (b 0 ≠ 0 ∨ b 1 ≠ 0)) := by
  unfold remA
  show onB (if b 1 = 0 then (if b 0 = 0 then dx_shl 1 (5 + Int32.ofNat n / 2) else dx_shl 1 (5 + Int32.ofNat n / 2) ||| 16) else (if b 0 = 0 then dx_shl 1 (5 + Int32.ofNat n / 2) else dx_shl 1 (5 + Int32.ofNat n / 2) ||| 16) ||| 16) k ↔ _
  have e := onB_ent hn hk
  have e16 := onB_16 hk
  by_cases q1 : b 1 = 0 <;> by_cases q0 : b 0 = 0 <;> simp only [q1, q0, if_true, if_false, onB_or hk, e, e16, ne_eq, not_true, not_false_iff, or_false, or_true, and_false, and_true, false_or, or_self]
  rw [or_assoc, or_self]
theorem will_ren {n : Nat} {E : Nat → Int32} (hu : ∀ a, a < 256 → u 51 a = E a) {x : Int32} (hx : u 26 1 = x) : ∀ a, a < 256 → renS u n 51 a = entW E n 0 x a := by
  intro a ha
  unfold renS entW
  rw [tw51, hx, upd_at, upd_at, hu a ha]
  rfl
theorem will_repl (hu : ∀ a, a < 256 → u 51 a = D a) {b r : Nat} {x : Int32} (hx : u 26 2 = x) : ∀ a, a < 256 → replS u b r 51 a = upd D (8 * b + r) x a := by
  intro a ha
  unfold replS
  rw [tw51, hx, upd_at, upd_at, hu a ha]
theorem will_app1 (hu : ∀ a, a < 256 → u 51 a = D a) {n z b : Nat} {x : Int32} (hx : u 26 1 = x) : ∀ a, a < 256 → appE u n z b 51 a = appW1 D n z b x a := by
  intro a ha
  unfold appE appW1 entW
  rw [tw51, tw51, hx, upd_at, upd_at, upd_at, upd_at, hu a ha, show Int32.ofNat z + 1 = Int32.ofNat (z + 1) from i_add z 1]
theorem will_app2 (hu : ∀ a, a < 256 → u 51 a = D a) {n z b : Nat} (hn : n < 6) (hz : z < 16) (b8 : 8 ≤ b) (b32 : b < 32) (hf : ¬ usB D b) {x : Int32} (hx : u 26 1 = x) : ∀ a, a < 256 → appE (appN u n z b) n z b 51 a = appW2 D n z b x a := by
  intro a ha
  have e26 : appN u n z b 26 = u 26 := by
    unfold appN appT turnS
    rw [fo_ne (by decide), tw_up_at, if_neg (by decide), tw_up_at, if_neg (by decide)]
  have nu : ¬ usB (upd (zer8 D b) (8 * b + z % 8) x) b := by
    unfold usB
    rw [upd_ne _ _ (by omega)]
    unfold zer8
    rw [if_neg (by omega)]; exact hf
  have eN : ∀ a, a < 256 → appN u n z b 51 a = if 8 * b ≤ a ∧ a < 8 * b + 8 then 0 else if a = 40 + 4 * n + 2 + z / 8 then Int32.ofNat b else trnW D b a := by
    intro a ha
    unfold appN appT turnS trnW bitI
    rw [fo_at, if_pos rfl]
    show (if 8 * b ≤ a ∧ a < 8 * b + 8 then (0 : Int32) else _) = _
    rw [tw51, tw51, upd_at, upd_at, upd_at, hu a ha, hu _ (by omega)]
  have eW : appW2 D n z b x = upd (upd (trnW (upd (zer8 D b) (8 * b + z % 8) x) b) (40 + 4 * n + (2 + z / 8)) (Int32.ofNat b)) (40 + 4 * n + 1) (Int32.ofNat (z + 1)) := by
    unfold appW2
    rw [mrk_on nu]; rfl
  rw [eW]
  unfold appE
  rw [tw51, tw51, e26, hx, show Int32.ofNat z + 1 = Int32.ofNat (z + 1) from i_add z 1, upd_at, upd_at, upd_at, upd_at, eN a ha]
  by_cases e1 : a = 40 + 4 * n + 1
  · rw [if_pos e1, if_pos e1]
  rw [if_neg e1, if_neg e1]
  unfold trnW zer8
  rw [upd_at, upd_at, upd_at, upd_at]
  by_cases e2 : a = 8 * b + z % 8
  · rw [if_pos e2, if_neg (show ¬ a = 40 + 4 * n + (2 + z / 8) by omega), if_neg (show ¬ a = 32 + b / 16 by omega), if_pos e2]
  rw [if_neg e2, if_neg e2]
  by_cases e3 : 8 * b ≤ a ∧ a < 8 * b + 8
  · rw [if_pos e3, if_neg (show ¬ a = 40 + 4 * n + (2 + z / 8) by omega), if_neg (show ¬ a = 32 + b / 16 by omega), if_pos e3]
  rw [if_neg e3]
  by_cases e4 : a = 40 + 4 * n + 2 + z / 8
  · rw [if_pos e4, if_pos (show a = 40 + 4 * n + (2 + z / 8) by omega)]
  rw [if_neg e4, if_neg (show ¬ a = 40 + 4 * n + (2 + z / 8) by omega)]
  by_cases e5 : a = 32 + b / 16
  · rw [if_pos e5, if_pos e5, if_neg (show ¬ 32 + b / 16 = 8 * b + z % 8 by omega), if_neg (show ¬ (8 * b ≤ 32 + b / 16 ∧ 32 + b / 16 < 8 * b + 8) by omega)]
  · rw [if_neg e5, if_neg e5, if_neg e3]
end WLL
