/-! a file call that goes on: what is kept by its writes -/
/- with GD.up GD.wc GD.pl GD.f01 FSI.cong FSI.fw cpW_at hd8_at writeO hdW hdV cpW OKW.at OKW -/
/-- the log on the disk is whole -/
def LC (D : Nat → Int32) (m : Nat) : Prop := D 0 = Int32.ofNat m ∧ dx_i2c (sumT (fun k => D (8 + k)) (sumT D 0 4) (8 * m)) = D 4 ∧ ∀ j, j < m → ∃ v, 4 ≤ v ∧ v < 32 ∧ D (1 + j) = Int32.ofNat v
/-- a disk with a whole log; what it holds when that is written home has sound files -/
def LD (D : Nat → Int32) : Prop := ∃ (m : Nat) (W : Nat → Int32), 1 ≤ m ∧ m ≤ 3 ∧ LC D m ∧ FSI W ∧ (∀ i j, i < j → j < m → nn (D (1 + i)) ≠ nn (D (1 + j))) ∧ (∀ j q, j < m → q < 8 → D (8 * (1 + j) + q) = W (8 * nn (D (1 + j)) + q)) ∧ ∀ a, 32 ≤ a → a < 256 → (∀ j, j < m → a / 8 ≠ nn (D (1 + j))) → D a = W a
def DK (D : Nat → Int32) : Prop := (D 0 = 0 ∧ FSI D) ∨ LD D
/-- a call that goes on: m blocks, k writes are done; W: the disk as it will be -/
def CG (c : Nat → Int32) (m k : Nat) (W : Nat → Int32) : Prop := c 18 = Int32.ofNat m ∧ c 19 = Int32.ofNat k ∧ (1 ≤ m ∧ m ≤ 3 ∧ k ≤ 2 * m + 1 ∧ nn (c 3) ≤ 254) ∧ FSI W ∧ (∀ j, j < m → 4 ≤ nn (c (20 + j)) ∧ nn (c (20 + j)) < 32 ∧ c (20 + j) = Int32.ofNat (nn (c (20 + j)))) ∧ (∀ j, m ≤ j → j < 3 → c (20 + j) = 0) ∧ (∀ i j, i < j → j < m → nn (c (20 + i)) ≠ nn (c (20 + j))) ∧ (∀ j q, j < m → q < 8 → c (24 + 8 * j + q) = W (8 * nn (c (20 + j)) + q)) ∧ (∀ a, 32 ≤ a → a < 256 → (∀ j, j < m → a / 8 ≠ nn (c (20 + j))) → ds c a = W a) ∧ (∀ j q, j < m → j < k → q < 8 → ds c (8 * (1 + j) + q) = c (24 + 8 * j + q)) ∧ ((k ≤ m ∧ ds c 0 = 0 ∧ FSI (ds c)) ∨ (m < k ∧ LC (ds c) m ∧ (∀ j, j < m → ds c (1 + j) = c (20 + j)) ∧ ∀ j q, j < m → j + m + 1 < k → q < 8 → ds c (8 * nn (c (20 + j)) + q) = W (8 * nn (c (20 + j)) + q)))
def CK (c : Nat → Int32) : Prop := (c 18 = 0 ∧ ds c 0 = 0 ∧ FSI (ds c)) ∨ ∃ m k W, CG c m k W
section CKS
variable {c c' : Nat → Int32} {m k : Nat} {B : Nat × Nat} {W : Nat → Int32}
theorem LC.cong {D E : Nat → Int32} (L : LC D m) (hm : m ≤ 3) (h : ∀ a, a < 32 → E a = D a) : LC E m := by
  obtain ⟨l1, l2, l3⟩ := L
  refine ⟨by rw [h 0 (by omega)]; exact l1, ?_, fun j hj => by rw [h _ (by omega)]; exact l3 j hj⟩
  rw [h 4 (by omega), sumT_congr (g' := fun k => D (8 + k)) (8 * m) (fun k hk => h _ (by omega)), sumT_congr (g' := D) 4 (fun k hk => h _ (by omega))]
  exact l2
theorem FSI.ds (I : FSI (ds c)) (h : ∀ a, a < 256 → ds c' a = ds c a) : FSI (ds c') := I.cong fun a _ a2 => h a (by omega)
theorem CG.cong (C : CG c m k W) (h : ∀ p, (18 ≤ p ∧ p < 48) ∨ (365 ≤ p ∧ p < 621) ∨ p = 3 → c' p = c p) : CG c' m k W := by
  obtain ⟨g1, g2, ⟨m1, m3, k1, c3⟩, g4, g5, g6, g7, g8, g9, g10, g11⟩ := C
  have hd : ∀ a, a < 256 → ds c' a = ds c a := fun a ha => h _ (by omega)
  have h20 : ∀ j, j < 3 → c' (20 + j) = c (20 + j) := fun j hj => h _ (by omega)
  refine ⟨(h 18 (by omega)).trans g1, (h 19 (by omega)).trans g2, ⟨m1, m3, k1, by rw [h 3 (by omega)]; exact c3⟩, g4, fun j hj => ?_, fun j h1 h2 => (h20 j h2).trans (g6 j h1 h2), fun i j hij hj => ?_, fun j q hj hq => ?_, fun a a1 a2 ha => ?_, fun j q hj hk hq => ?_, g11.imp (fun ⟨z1, z2, z3⟩ => ⟨z1, (hd 0 (by omega)).trans z2, z3.ds hd⟩) (fun ⟨z1, z2, z3, z4⟩ => ⟨z1, z2.cong m3 (fun a ha => hd a (by omega)), fun j hj => ?_, fun j q hj hk hq => ?_⟩)⟩
  · rw [h20 j (by omega)]; exact g5 j hj
  · rw [h20 i (by omega), h20 j (by omega)]; exact g7 i j hij hj
  · rw [h20 j (by omega), h _ (by omega)]; exact g8 j q hj hq
  · rw [hd a a2]
    exact g9 a a1 a2 fun j hj => by rw [← h20 j (by omega)]; exact ha j hj
  · rw [hd _ (by omega), h _ (by omega)]; exact g10 j q hj hk hq
  · rw [hd _ (by omega), h20 j (by omega)]; exact z3 j hj
  · have := g5 j hj
    rw [h20 j (by omega), hd _ (by omega)]; exact z4 j q hj hk hq
theorem CK.cong (C : CK c) (h : ∀ p, (18 ≤ p ∧ p < 48) ∨ (365 ≤ p ∧ p < 621) ∨ (p = 3 ∧ c 18 ≠ 0) → c' p = c p) : CK c' := by
  have hd : ∀ a, a < 256 → ds c' a = ds c a := fun a ha => h _ (by omega)
  rcases C with ⟨z1, z2, z3⟩ | ⟨m, k, W, G⟩
  · exact Or.inl ⟨(h 18 (by omega)).trans z1, (hd 0 (by omega)).trans z2, z3.ds hd⟩
  · refine Or.inr ⟨m, k, W, G.cong fun p hp => h p ?_⟩
    have n18 : c 18 ≠ 0 := by rw [G.1]; exact fun z => by have := G.2.2.1; have := (i_eq (b := 0) (by omega) (by omega)).mp z; omega
    rcases hp with z | z | z
    · exact Or.inl z
    · exact Or.inr (Or.inl z)
    · exact Or.inr (Or.inr ⟨z, n18⟩)
theorem CG.ne (C : CG c m k W) : c 18 ≠ 0 := by
  rw [C.1]; exact fun z => by have := C.2.2.1; have := (i_eq (b := 0) (by omega) (by omega)).mp z; omega
theorem CK.ci (C : CK c) (G : GD B c) : CI c := by
  rcases C with ⟨z1, -, -⟩ | ⟨m, k, W, g1, g2, ⟨m1, m3, k1, c3⟩, g4, g5, g6, -⟩
  · exact Or.inl z1
  · exact Or.inr ⟨m, k, g1, g2, m1, m3, k1, fun j hj => ⟨_, (g5 j hj).2.1, (g5 j hj).2.2⟩, g6, fun q hq => G.pl (by omega)⟩
theorem CI.wk (C : CI c) : WK c := by
  rcases C with z | ⟨m, k, g1, g2, m1, m3, k1, g5, -⟩
  · exact Or.inl (by rw [z]; decide)
  · exact Or.inr ⟨m, k, g1, g2, m1, m3, k1, g5⟩
theorem CK.dk (C : CK c) : DK (ds c) := by
  rcases C with ⟨-, z2, z3⟩ | ⟨m, k, W, g1, g2, ⟨m1, m3, k1, c3⟩, g4, g5, g6, g7, g8, g9, g10, g11⟩
  · exact Or.inl ⟨z2, z3⟩
  · rcases g11 with ⟨h1, h2, h3⟩ | ⟨h1, h2, h3, h4⟩
    · exact Or.inl ⟨h2, h3⟩
    · refine Or.inr ⟨m, W, m1, m3, h2, g4, fun i j hij hj => ?_, fun j q hj hq => ?_, fun a a1 a2 ha => ?_⟩
      · rw [h3 i (by omega), h3 j hj]; exact g7 i j hij hj
      · rw [h3 j hj, g10 j q hj (by omega) hq]; exact g8 j q hj hq
      · exact g9 a a1 a2 fun j hj => by rw [← h3 j hj]; exact ha j hj
/-- the files are sound where no call goes on -/
theorem CK.fsi (C : CK c) (h : c 18 = 0) : FSI (ds c) := by
  rcases C with ⟨-, -, z⟩ | ⟨m, k, W, G⟩
  · exact z
  · exact absurd h G.ne
/-! a write -/
theorem wr_lo {p : Nat} (h18 : c 18 = Int32.ofNat m) (h19 : c 19 = Int32.ofNat k) (m3 : m ≤ 3) (hk : k ≤ 2 * m + 1) (hp : p < 364) : apW c (writeO c) p = if k = 2 * m + 1 ∧ p = 3 then c 3 + 2 else if k = 2 * m + 1 ∧ (p = 15 ∨ p = 18) then 0 else if p = 19 then Int32.ofNat (k + 1) else c p := by
  have nm : nn (c 18) = m := by rw [h18, nn_of (by omega)]
  have nk : nn (c 19) = k := by rw [h19, nn_of (by omega)]
  unfold writeO
  dsimp only
  rw [nm, nk, apW_app, apW_app]
  have base : apW c (if k < m then cpW c (365 + 8 * (1 + k)) (24 + 8 * k) 8 0 else if m < k ∧ k ≤ 2 * m then cpW c (365 + 8 * nn (c (20 + (k - m - 1)))) (24 + 8 * (k - m - 1)) 8 0 else hdW c (if k = m then m else 0)) p = c p := by
    by_cases q : k < m
    · rw [if_pos q]; exact cpW_lo c (by omega) 8 0 c
    · rw [if_neg q]
      by_cases q2 : m < k ∧ k ≤ 2 * m
      · rw [if_pos q2]; exact cpW_lo c (by omega) 8 0 c
      · rw [if_neg q2]; exact hdW_lo c c (by omega)
  revert base
  generalize apW c (if k < m then cpW c (365 + 8 * (1 + k)) (24 + 8 * k) 8 0 else if m < k ∧ k ≤ 2 * m then cpW c (365 + 8 * nn (c (20 + (k - m - 1)))) (24 + 8 * (k - m - 1)) 8 0 else hdW c (if k = m then m else 0)) = e
  intro base
  by_cases q : k = 2 * m + 1
  · rw [if_pos q]
    show upd (upd (upd (upd (upd e 364 (c 364 + 1)) 19 (Int32.ofNat (k + 1))) 18 0) 15 0) 3 (c 3 + 2) p = _
    rw [upd_at, upd_at, upd_at, upd_at, upd_at, base]
    by_cases e3 : p = 3
    · rw [if_pos e3, if_pos ⟨q, e3⟩]
    rw [if_neg e3, if_neg (show ¬ (k = 2 * m + 1 ∧ p = 3) from fun z => e3 z.2)]
    by_cases e15 : p = 15
    · rw [if_pos e15, if_pos ⟨q, Or.inl e15⟩]
    rw [if_neg e15]
    by_cases e18 : p = 18
    · rw [if_pos e18, if_pos ⟨q, Or.inr e18⟩]
    rw [if_neg e18, if_neg (show ¬ (k = 2 * m + 1 ∧ (p = 15 ∨ p = 18)) from fun z => z.2.elim e15 e18), if_neg (show ¬ p = 364 by omega)]
  · rw [if_neg q, if_neg (fun z => q z.1), if_neg (fun z => q z.1)]
    show upd (upd e 364 (c 364 + 1)) 19 (Int32.ofNat (k + 1)) p = _
    rw [upd_at, upd_at, base, if_neg (show ¬ p = 364 by omega)]
def chkW (c : Nat → Int32) (m : Nat) : Int32 := dx_i2c (sumT (fun k => c (24 + k)) (sumT (hdV c m) 0 8) (8 * m))
theorem wr_ds {a : Nat} (h18 : c 18 = Int32.ofNat m) (h19 : c 19 = Int32.ofNat k) (m1 : 1 ≤ m) (m3 : m ≤ 3) (hk : k ≤ 2 * m + 1) : ds (apW c (writeO c)) a = if k < m then (if 8 * (1 + k) ≤ a ∧ a < 8 * (1 + k) + 8 then c (24 + 8 * k + (a - 8 * (1 + k))) else ds c a) else if k = m then (if a = 4 then chkW c m else if a < 8 then hdV c m a else ds c a) else if k ≤ 2 * m then (if 8 * nn (c (20 + (k - m - 1))) ≤ a ∧ a < 8 * nn (c (20 + (k - m - 1))) + 8 then c (24 + 8 * (k - m - 1) + (a - 8 * nn (c (20 + (k - m - 1))))) else ds c a) else (if a < 8 then 0 else ds c a) := by
  have nm : nn (c 18) = m := by rw [h18, nn_of (by omega)]
  have nk : nn (c 19) = k := by rw [h19, nn_of (by omega)]
  have hi : ∀ e : Nat → Int32, apW e ([(364, c 364 + 1), (19, Int32.ofNat (k + 1))] ++ (if k = 2 * m + 1 then [(18, 0), (15, 0), (3, c 3 + 2)] else [])) (365 + a) = e (365 + a) := by
    intro e
    by_cases q : k = 2 * m + 1
    · rw [if_pos q]
      show upd (upd (upd (upd (upd e 364 (c 364 + 1)) 19 (Int32.ofNat (k + 1))) 18 0) 15 0) 3 (c 3 + 2) (365 + a) = _
      rw [upd_ne _ _ (by omega), upd_ne _ _ (by omega), upd_ne _ _ (by omega), upd_ne _ _ (by omega), upd_ne _ _ (by omega)]
    · rw [if_neg q]
      show upd (upd e 364 (c 364 + 1)) 19 (Int32.ofNat (k + 1)) (365 + a) = _
      rw [upd_ne _ _ (by omega), upd_ne _ _ (by omega)]
  have hw : ∀ j, apW c (hdW c j) (365 + a) = if a = 4 then chkW c j else if a < 8 then hdV c j a else ds c a := by
    intro j
    unfold hdW
    rw [apW_app]
    show upd (apW c (hd8 c j 8 0)) 369 (chkW c j) (365 + a) = _
    rw [upd_at, hd8_at]
    by_cases e : a = 4
    · rw [if_pos e, if_pos (by omega)]
    rw [if_neg e, if_neg (by omega)]
    by_cases e2 : a < 8
    · rw [if_pos e2, if_pos (by omega), Nat.add_sub_cancel_left]
    · rw [if_neg e2, if_neg (by omega)]; rfl
  show apW c (writeO c) (365 + a) = _
  unfold writeO
  dsimp only
  rw [nm, nk, apW_app, hi]
  by_cases q : k < m
  · rw [if_pos q, if_pos q, cpW_at]
    by_cases e : 8 * (1 + k) ≤ a ∧ a < 8 * (1 + k) + 8
    · rw [if_pos e, if_pos (by omega)]
      congr 1
      omega
    · rw [if_neg e, if_neg (by omega)]; rfl
  rw [if_neg q, if_neg q]
  by_cases q2 : k = m
  · rw [if_pos q2, if_neg (show ¬ (m < k ∧ k ≤ 2 * m) by omega), if_pos q2, hw]
  rw [if_neg q2, if_neg q2]
  by_cases q3 : k ≤ 2 * m
  · rw [if_pos q3, if_pos (show m < k ∧ k ≤ 2 * m by omega), cpW_at]
    by_cases e : 8 * nn (c (20 + (k - m - 1))) ≤ a ∧ a < 8 * nn (c (20 + (k - m - 1))) + 8
    · rw [if_pos e, if_pos (by omega)]
      congr 1
      omega
    · rw [if_neg e, if_neg (by omega)]; rfl
  · rw [if_neg q3, if_neg (show ¬ (m < k ∧ k ≤ 2 * m) by omega), hw]
    have z0 : ∀ p, hdV c 0 p = 0 := fun p => if_pos rfl
    have c0 : chkW c 0 = 0 := by
      unfold chkW
      show dx_i2c ((((((((0 + hdV c 0 0) + hdV c 0 1) + hdV c 0 2) + hdV c 0 3) + hdV c 0 4) + hdV c 0 5) + hdV c 0 6) + hdV c 0 7) = 0
      rw [z0, z0, z0, z0, z0, z0, z0, z0]; decide
    rw [c0, z0]
    by_cases e : a < 8
    · rw [if_pos e]; split <;> rfl
    · rw [if_neg e, if_neg (by omega)]
theorem GD.write (G : GD B c) (C : CG c m k W) : GD B (apW c (writeO c)) := by
  obtain ⟨g1, g2, ⟨m1, m3, k1, c3⟩, g4, g5, g6, g7, g8, g9, g10, g11⟩ := C
  intro p
  by_cases e : p < 364
  · rw [wr_lo g1 g2 m3 k1 e]
    by_cases q1 : k = 2 * m + 1 ∧ p = 3
    · rw [if_pos q1, q1.2]
      obtain ⟨n1, n2⟩ := rg.nat (G 3 _ rfl)
      refine gd_k (k := 65535) rfl ?_
      rw [n2, show Int32.ofNat (nn (c 3)) + 2 = Int32.ofNat (nn (c 3) + 2) from i_add _ 2]
      exact rg.of (by omega) (by omega)
    rw [if_neg q1]
    by_cases q2 : k = 2 * m + 1 ∧ (p = 15 ∨ p = 18)
    · rw [if_pos q2]
      rcases q2.2 with z | z
      · rw [z]; exact gd_k (k := 65535) rfl (rg0 (by omega))
      · rw [z]; exact gd_no rfl
    rw [if_neg q2]
    by_cases q3 : p = 19
    · rw [if_pos q3, q3]; exact gd_no rfl
    · rw [if_neg q3]; exact G p
  by_cases e2 : p = 364
  · rw [e2]; exact gd_no rfl
  by_cases e3 : p < 621
  · obtain ⟨a, rfl⟩ : ∃ a, p = 365 + a := ⟨p - 365, by omega⟩
    have ha : a < 256 := by omega
    have old : rg 65535 (ds c a) := G (365 + a) _ (bn_mem ha).2
    have hd : rg 65535 (hdV c m a) := by
      unfold hdV
      refine rg_ite (rg0 (by omega)) ?_
      by_cases z : a ≤ 3
      · rw [if_pos z]
        by_cases z0 : a = 0
        · rw [if_pos z0]; exact rg.of (by omega) (by omega)
        · rw [if_neg z0, show 19 + a = 20 + (a - 1) by omega]
          rcases Nat.lt_or_ge (a - 1) m with y | y
          · obtain ⟨v1, v2, v3⟩ := g5 (a - 1) y
            rw [v3]; exact rg.of (by omega) (by omega)
          · rw [g6 (a - 1) y (by omega)]; exact rg0 (by omega)
      · rw [if_neg z]; exact rg0 (by omega)
    have pl : ∀ q, q < 24 → rg 65535 (c (24 + q)) := fun q hq => G.pl hq
    refine gd_dsk ha ?_
    have := wr_ds (c := c) (a := a) g1 g2 m1 m3 k1
    rw [show apW c (writeO c) (365 + a) = ds (apW c (writeO c)) a from rfl, this]
    by_cases q : k < m
    · rw [if_pos q]
      by_cases e : 8 * (1 + k) ≤ a ∧ a < 8 * (1 + k) + 8
      · rw [if_pos e, show 24 + 8 * k + (a - 8 * (1 + k)) = 24 + (8 * k + (a - 8 * (1 + k))) by omega]; exact pl _ (by omega)
      · rw [if_neg e]; exact old
    rw [if_neg q]
    by_cases q2 : k = m
    · rw [if_pos q2]; exact rg_ite (i2c_rg _) (rg_ite hd old)
    rw [if_neg q2]
    by_cases q3 : k ≤ 2 * m
    · rw [if_pos q3]
      by_cases e : 8 * nn (c (20 + (k - m - 1))) ≤ a ∧ a < 8 * nn (c (20 + (k - m - 1))) + 8
      · rw [if_pos e, show 24 + 8 * (k - m - 1) + (a - 8 * nn (c (20 + (k - m - 1)))) = 24 + (8 * (k - m - 1) + (a - 8 * nn (c (20 + (k - m - 1))))) by omega]; exact pl _ (by omega)
      · rw [if_neg e]; exact old
    · rw [if_neg q3]; exact rg_ite (rg0 (by omega)) old
  · refine gd_no ?_
    unfold bn
    simp only [show ¬ p = 0 by omega, show ¬ p = 1 by omega, show ¬ p = 10 by omega, show ¬ p < 3 by omega, show ¬ p = 3 by omega, show ¬ p = 4 by omega, show ¬ p < 10 by omega, show ¬ p < 12 by omega, show ¬ p < 16 by omega, show ¬ p = 16 by omega, show ¬ p = 17 by omega, show ¬ p < 24 by omega, show ¬ p < 48 by omega, show ¬ p < 108 by omega, e2, e3, if_false]
end CKS
