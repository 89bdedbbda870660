/-! the files stay sound -/
/- with FSI.cong FSI.fw rmT trnW usB -/
theorem ent_at {D : Nat → Int32} {n k f j : Nat} {x : Int32} (hk : k < 4) (hj : j < 4) : entW D n k x (40 + 4 * f + j) = if f = n ∧ j = k then x else D (40 + 4 * f + j) := by
  unfold entW
  rw [upd_at]
  by_cases e : f = n ∧ j = k
  · rw [if_pos e, if_pos (by rw [e.1, e.2])]
  · rw [if_neg e, if_neg (by omega)]
theorem us_ent {D : Nat → Int32} {n k b : Nat} {x : Int32} (hb : b < 32) : usB (entW D n k x) b ↔ usB D b := by
  unfold usB entW
  rw [upd_ne _ _ (by omega)]
theorem trn_ent {D : Nat → Int32} {b a : Nat} (hb : b < 32) (ha : 40 ≤ a) : trnW D b a = D a := upd_ne _ _ (by omega)
section FKS
variable {D : Nat → Int32} {n : Nat}
theorem FSI.name (I : FSI D) (hn : n < 6) {x : Int32} (hx : x ≠ 0) : FSI (entW D n 0 x) := by
  refine ⟨fun f hf => ⟨fun z k hk => ?_, ?_, fun k hk => ?_⟩, fun f k f' k' hf hk hf' hk' => ?_⟩
  · rw [show 40 + 4 * f = 40 + 4 * f + 0 from rfl, ent_at (by omega) (by omega)] at z
    by_cases e : f = n
    · rw [if_pos ⟨e, rfl⟩] at z; exact absurd z hx
    · rw [if_neg (fun y => e y.1)] at z
      rw [ent_at (by omega) hk, if_neg (fun y => e y.1)]
      exact (I.1 f hf).1 z k hk
  · obtain ⟨z, z1, z2, z3⟩ := (I.1 f hf).2.1
    refine ⟨z, z1, by rw [ent_at (by omega) (by omega), if_neg (by omega)]; exact z2, fun k hk => ?_⟩
    rw [ent_at (by omega) (by omega), if_neg (by omega)]; exact z3 k hk
  · obtain ⟨v, v1, v2, v3⟩ := (I.1 f hf).2.2 k hk
    exact ⟨v, v1, by rw [ent_at (by omega) (by omega), if_neg (by omega)]; exact v2, fun v0 => ⟨(v3 v0).1, (us_ent v1).mpr (v3 v0).2⟩⟩
  · rw [ent_at (by omega) (by omega), if_neg (by omega), ent_at (by omega) (by omega), if_neg (by omega)]
    exact I.2 f k f' k' hf hk hf' hk'
theorem FSI.size (I : FSI D) (hn : n < 6) {z : Nat} (hz : D (40 + 4 * n + 1) = Int32.ofNat z) (hz8 : z % 8 ≠ 0) (hz16 : z < 16) : FSI (entW D n 1 (Int32.ofNat (z + 1))) := by
  refine ⟨fun f hf => ⟨fun y k hk => ?_, ?_, fun k hk => ?_⟩, fun f k f' k' hf hk hf' hk' => ?_⟩
  · rw [show 40 + 4 * f = 40 + 4 * f + 0 from rfl, ent_at (by omega) (by omega), if_neg (by omega)] at y
    have := (I.1 f hf).1 y
    rw [ent_at (by omega) hk, if_neg (fun e => ?_)]
    · exact this k hk
    · rw [e.1] at this
      have := (i_eq (b := 0) (by omega) (by omega)).mp (hz.symm.trans (this 1 (by omega)))
      omega
  · by_cases e : f = n
    · subst e
      obtain ⟨z', z1, z2, z3⟩ := (I.1 f hf).2.1
      have := (i_eq (by omega) (by omega)).mp (z2.symm.trans hz)
      subst this
      refine ⟨z' + 1, by omega, by rw [ent_at (by omega) (by omega), if_pos ⟨rfl, rfl⟩], fun k hk => ?_⟩
      rw [ent_at (by omega) (by omega), if_neg (by omega), z3 k hk]
      omega
    · obtain ⟨z', z1, z2, z3⟩ := (I.1 f hf).2.1
      refine ⟨z', z1, by rw [ent_at (by omega) (by omega), if_neg (by omega)]; exact z2, fun k hk => ?_⟩
      rw [ent_at (by omega) (by omega), if_neg (by omega)]; exact z3 k hk
  · obtain ⟨v, v1, v2, v3⟩ := (I.1 f hf).2.2 k hk
    exact ⟨v, v1, by rw [ent_at (by omega) (by omega), if_neg (by omega)]; exact v2, fun v0 => ⟨(v3 v0).1, (us_ent v1).mpr (v3 v0).2⟩⟩
  · rw [ent_at (by omega) (by omega), if_neg (by omega), ent_at (by omega) (by omega), if_neg (by omega)]
    exact I.2 f k f' k' hf hk hf' hk'
theorem FSI.app1 (I : FSI D) (hn : n < 6) {z q : Nat} {x : Int32} (hz : D (40 + 4 * n + 1) = Int32.ofNat z) (hz8 : z % 8 ≠ 0) (hz16 : z < 16) (hq : 8 ≤ q) : FSI (appW1 D n z q x) := by
  refine (I.size hn hz hz8 hz16).cong fun a a1 a2 => ?_
  unfold appW1 entW
  rw [upd_at, upd_at, upd_at, if_neg (show ¬ a = 8 * q + z % 8 by omega)]
theorem FSI.repl (I : FSI D) {q r : Nat} {x : Int32} (hq : 8 ≤ q) : FSI (upd D (8 * q + r) x) := I.cong fun a a1 a2 => upd_ne _ _ (by omega)
theorem app2_at {z b : Nat} {x : Int32} (hn : n < 6) (hz : z < 16) (b8 : 8 ≤ b) (b32 : b < 32) (hf : ¬ usB D b) (a : Nat) : appW2 D n z b x a = if a = 40 + 4 * n + 1 then Int32.ofNat (z + 1) else if a = 40 + 4 * n + (2 + z / 8) then Int32.ofNat b else if a = 8 * b + z % 8 then x else if 8 * b ≤ a ∧ a < 8 * b + 8 then 0 else trnW D b a := by
  have nu : ¬ usB (upd (zer8 D b) (8 * b + z % 8) x) b := by
    unfold usB
    rw [upd_ne _ _ (by omega)]
    unfold zer8
    rw [if_neg (by omega)]; exact hf
  unfold appW2
  rw [mrk_on nu]
  unfold entW trnW
  rw [upd_at, upd_at, upd_at]
  by_cases e1 : a = 40 + 4 * n + 1
  · rw [if_pos e1, if_pos e1]
  rw [if_neg e1, if_neg e1]
  by_cases e2 : a = 40 + 4 * n + (2 + z / 8)
  · rw [if_pos e2, if_pos e2]
  rw [if_neg e2, if_neg e2]
  by_cases e3 : a = 32 + b / 16
  · subst e3
    rw [if_pos rfl, upd_ne _ _ (show 32 + b / 16 ≠ 8 * b + z % 8 by omega), if_neg (show ¬ 32 + b / 16 = 8 * b + z % 8 by omega), if_neg (show ¬ (8 * b ≤ 32 + b / 16 ∧ 32 + b / 16 < 8 * b + 8) by omega), upd_eq]
    unfold zer8
    rw [if_neg (show ¬ (8 * b ≤ 32 + b / 16 ∧ 32 + b / 16 < 8 * b + 8) by omega)]
  · rw [if_neg e3, upd_ne _ _ e3, upd_at]
    rfl
theorem FSI.app2 (I : FSI D) (hn : n < 6) {z b : Nat} {x : Int32} (hz : D (40 + 4 * n + 1) = Int32.ofNat z) (hz8 : z % 8 = 0) (hz16 : z < 16) (b8 : 8 ≤ b) (b32 : b < 32) (hf : ¬ usB D b) (h0 : D (40 + 4 * n) ≠ 0) : FSI (appW2 D n z b x) := by
  have at' := app2_at (x := x) hn hz16 b8 b32 hf
  -- the fields after
  have ea : ∀ f j, f < 6 → j < 4 → appW2 D n z b x (40 + 4 * f + j) = if f = n ∧ j = 1 then Int32.ofNat (z + 1) else if f = n ∧ j = 2 + z / 8 then Int32.ofNat b else D (40 + 4 * f + j) := by
    intro f j hf hj
    rw [at']
    by_cases e1 : f = n ∧ j = 1
    · rw [if_pos e1, if_pos (show 40 + 4 * f + j = 40 + 4 * n + 1 by omega)]
    rw [if_neg e1, if_neg (show ¬ 40 + 4 * f + j = 40 + 4 * n + 1 by omega)]
    by_cases e2 : f = n ∧ j = 2 + z / 8
    · rw [if_pos e2, if_pos (show 40 + 4 * f + j = 40 + 4 * n + (2 + z / 8) by omega)]
    rw [if_neg e2, if_neg (show ¬ 40 + 4 * f + j = 40 + 4 * n + (2 + z / 8) by omega), if_neg (show ¬ 40 + 4 * f + j = 8 * b + z % 8 by omega), if_neg (show ¬ (8 * b ≤ 40 + 4 * f + j ∧ 40 + 4 * f + j < 8 * b + 8) by omega), trn_ent b32 (by omega)]
  have us : ∀ b', b' < 32 → (usB (appW2 D n z b x) b' ↔ if b' = b then ¬ usB D b else usB D b') := by
    intro b' hb'
    rw [← us_trn b32]
    unfold usB
    rw [at', if_neg (show ¬ 32 + b' / 16 = 40 + 4 * n + 1 by omega), if_neg (show ¬ 32 + b' / 16 = 40 + 4 * n + (2 + z / 8) by omega), if_neg (show ¬ 32 + b' / 16 = 8 * b + z % 8 by omega), if_neg (show ¬ (8 * b ≤ 32 + b' / 16 ∧ 32 + b' / 16 < 8 * b + 8) by omega)]
  have nb : ∀ f k, f < 6 → k < 2 → D (40 + 4 * f + (2 + k)) ≠ Int32.ofNat b := by
    intro f k hf' hk e
    obtain ⟨v, v1, v2, v3⟩ := (I.1 f hf').2.2 k hk
    have := (i_eq (by omega) (by omega)).mp (v2.symm.trans e)
    subst this
    exact hf (v3 (by omega)).2
  refine ⟨fun f hf' => ⟨fun y k hk => ?_, ?_, fun k hk => ?_⟩, fun f k f' k' hf1 hk hf2 hk' => ?_⟩
  · rw [show 40 + 4 * f = 40 + 4 * f + 0 from rfl, ea f 0 hf' (by omega), if_neg (by omega), if_neg (by omega)] at y
    have fn : f ≠ n := fun e => h0 (by rw [← e]; exact y)
    rw [ea f k hf' hk, if_neg (fun e => fn e.1), if_neg (fun e => fn e.1)]
    exact (I.1 f hf').1 y k hk
  · obtain ⟨z', z1, z2, z3⟩ := (I.1 f hf').2.1
    by_cases e : f = n
    · subst e
      have := (i_eq (by omega) (by omega)).mp (z2.symm.trans hz)
      subst this
      refine ⟨z' + 1, by omega, by rw [ea f 1 hf' (by omega), if_pos ⟨rfl, rfl⟩], fun k hk => ?_⟩
      rw [ea f (2 + k) hf' (by omega), if_neg (by omega)]
      by_cases e2 : k = z' / 8
      · rw [if_pos ⟨rfl, by omega⟩]
        exact ⟨fun y => by have := (i_eq (b := 0) (by omega) (by omega)).mp y; omega, fun y => by omega⟩
      · rw [if_neg (by omega), z3 k hk]; omega
    · refine ⟨z', z1, by rw [ea f 1 hf' (by omega), if_neg (by omega), if_neg (by omega)]; exact z2, fun k hk => ?_⟩
      rw [ea f (2 + k) hf' (by omega), if_neg (by omega), if_neg (fun y => e y.1)]; exact z3 k hk
  · rw [ea f (2 + k) hf' (by omega), if_neg (by omega)]
    by_cases e : f = n ∧ 2 + k = 2 + z / 8
    · rw [if_pos e]
      exact ⟨b, b32, rfl, fun _ => ⟨b8, (us b b32).mpr (by rw [if_pos rfl]; exact hf)⟩⟩
    · rw [if_neg e]
      obtain ⟨v, v1, v2, v3⟩ := (I.1 f hf').2.2 k hk
      refine ⟨v, v1, v2, fun v0 => ⟨(v3 v0).1, (us v v1).mpr ?_⟩⟩
      rw [if_neg (fun y => nb f k hf' hk (by rw [v2, y]))]
      exact (v3 v0).2
  · rw [ea f (2 + k) hf1 (by omega), if_neg (show ¬ (f = n ∧ 2 + k = 1) by omega), ea f' (2 + k') hf2 (by omega), if_neg (show ¬ (f' = n ∧ 2 + k' = 1) by omega)]
    by_cases e : f = n ∧ 2 + k = 2 + z / 8
    · rw [if_pos e]
      by_cases e' : f' = n ∧ 2 + k' = 2 + z / 8
      · intro _ _; omega
      · rw [if_neg e']
        intro y _
        exact absurd y.symm (nb f' k' hf2 hk')
    · rw [if_neg e]
      by_cases e' : f' = n ∧ 2 + k' = 2 + z / 8
      · rw [if_pos e']
        intro y _
        exact absurd y (nb f k hf1 hk)
      · rw [if_neg e']
        exact I.2 f k f' k' hf1 hk hf2 hk'
theorem rmT_us {b : Nat → Nat} (hb32 : ∀ k, k < 2 → b k < 32) {v : Nat} (h : ∀ k, k < 2 → b k ≠ 0 → v ≠ b k) (hv : usB D v) : ∀ k, k ≤ 2 → usB (rmT D b k) v := by
  intro k
  induction k with
  | zero => intro _; exact hv
  | succ k ih =>
    intro hk
    show usB (if b k = 0 then rmT D b k else trnW (rmT D b k) (b k)) v
    by_cases q : b k = 0
    · rw [if_pos q]; exact ih (by omega)
    · rw [if_neg q, us_trn (hb32 k (by omega)), if_neg (h k (by omega) q)]; exact ih (by omega)
theorem FSI.rmv (I : FSI D) (hn : n < 6) : FSI (rmvW D n 4 0 D) := by
  obtain ⟨v0, v01, v02, v03⟩ := (I.1 n hn).2.2 0 (by omega)
  obtain ⟨v1, v11, v12, v13⟩ := (I.1 n hn).2.2 1 (by omega)
  have hb32 : ∀ k, k < 2 → (fun k => if k = 0 then v0 else v1) k < 32 := fun k hk => by show (if k = 0 then v0 else v1) < 32; split <;> assumption
  have hb : ∀ k, k < 2 → D (40 + 4 * n + (2 + k)) = Int32.ofNat ((fun k => if k = 0 then v0 else v1) k) := fun k hk => by
    show _ = Int32.ofNat (if k = 0 then v0 else v1)
    obtain rfl | rfl : k = 0 ∨ k = 1 := by omega
    · rw [if_pos rfl]; exact v02
    · rw [if_neg (by omega)]; exact v12
  have at' := rmv_at I hn hb hb32
  generalize (fun k => if k = 0 then v0 else v1) = b at hb hb32 at'
  have ea : ∀ f j, f < 6 → j < 4 → rmvW D n 4 0 D (40 + 4 * f + j) = if f = n then 0 else D (40 + 4 * f + j) := by
    intro f j hf hj
    rw [at']
    by_cases e : f = n
    · rw [if_pos e, if_pos (by omega)]
    · rw [if_neg e, if_neg (by omega), rmT_hi hb32 (by omega) 2 (by omega)]
  have us : ∀ v, v < 32 → usB (rmvW D n 4 0 D) v = usB (rmT D b 2) v := by
    intro v hv
    unfold usB
    rw [at', if_neg (by omega)]
  refine ⟨fun f hf => ⟨fun y k hk => ?_, ?_, fun k hk => ?_⟩, fun f k f' k' hf1 hk hf2 hk' => ?_⟩
  · rw [ea f k hf hk]
    by_cases e : f = n
    · rw [if_pos e]
    · rw [if_neg e]
      rw [show 40 + 4 * f = 40 + 4 * f + 0 from rfl, ea f 0 hf (by omega), if_neg e] at y
      exact (I.1 f hf).1 y k hk
  · by_cases e : f = n
    · refine ⟨0, by omega, by rw [ea f 1 hf (by omega), if_pos e]; rfl, fun k hk => ?_⟩
      rw [ea f (2 + k) hf (by omega), if_pos e]
      exact ⟨fun _ => Nat.zero_le _, fun _ => rfl⟩
    · obtain ⟨z', z1, z2, z3⟩ := (I.1 f hf).2.1
      refine ⟨z', z1, by rw [ea f 1 hf (by omega), if_neg e]; exact z2, fun k hk => ?_⟩
      rw [ea f (2 + k) hf (by omega), if_neg e]; exact z3 k hk
  · rw [ea f (2 + k) hf (by omega)]
    by_cases e : f = n
    · rw [if_pos e]
      exact ⟨0, by omega, rfl, fun z => absurd rfl z⟩
    · rw [if_neg e]
      obtain ⟨v, w1, w2, w3⟩ := (I.1 f hf).2.2 k hk
      refine ⟨v, w1, w2, fun v0 => ⟨(w3 v0).1, ?_⟩⟩
      rw [us v w1]
      refine rmT_us hb32 (fun j hj hj0 ev => ?_) (w3 v0).2 2 (by omega)
      have := I.2 f k n j hf hk hn hj (by rw [w2, hb j hj, ev]) (by rw [w2]; exact fun z => v0 ((i_eq (b := 0) (by omega) (by omega)).mp z))
      exact e this.1
  · rw [ea f (2 + k) hf1 (by omega), ea f' (2 + k') hf2 (by omega)]
    by_cases e : f = n
    · rw [if_pos e]; intro _ y; exact absurd rfl y
    · rw [if_neg e]
      by_cases e' : f' = n
      · rw [if_pos e']; intro y z; exact absurd y z
      · rw [if_neg e']
        exact I.2 f k f' k' hf1 hk hf2 hk'
end FKS
