/-! answers of calls with what holds of the heap behind them -/
/-- the run answers v, and the heap behind it is as P says -/
def Ok (x : Option ax_R) (v : Option Value ⊕ Nat) (P : ax_H → Prop) : Prop := ∃ h', x = some (v, h') ∧ P h'
/-- something is thrown -/
def OkX (x : Option ax_R) (P : Nat → ax_H → Prop) : Prop := ∃ i h', x = some (.inr i, h') ∧ P i h'
section OK
variable {c : Option ax_R} {v : Option Value ⊕ Nat} {P Q : ax_H → Prop} {h : ax_H}
theorem Ok.le {a b : Option ax_R} (hl : dx_le a b) (h1 : Ok a v P) : Ok b v P := by
  obtain ⟨h', e, p⟩ := h1
  exact ⟨h', hl _ e, p⟩
theorem Ok.ret (p : P h) : Ok (some (v, h)) v P := ⟨h, rfl, p⟩
theorem Ok.imp (h1 : Ok c v P) (f : ∀ h', P h' → Q h') : Ok c v Q := by
  obtain ⟨h', e, p⟩ := h1
  exact ⟨h', e, f h' p⟩
theorem Ok.eq (e : c = some (v, h)) (p : P h) : Ok c v P := ⟨h, e, p⟩
theorem Ok.V {F : ax_H → Option ax_R} {X : Nat → ax_H → Option ax_R} (h1 : Ok c (.inl none) P) (f : ∀ h', P h' → Ok (F h') v Q) : Ok (dx_cV c F X) v Q := by
  obtain ⟨h', rfl, p⟩ := h1
  exact f h' p
theorem Ok.I {x : Int32} {F : Int32 → ax_H → Option ax_R} {X : Nat → ax_H → Option ax_R} (h1 : Ok c (.inl (some (.int x))) P) (f : ∀ h', P h' → Ok (F x h') v Q) : Ok (dx_cI c F X) v Q := by
  obtain ⟨h', rfl, p⟩ := h1
  exact f h' p
theorem Ok.J {x : Int64} {F : Int64 → ax_H → Option ax_R} {X : Nat → ax_H → Option ax_R} (h1 : Ok c (.inl (some (.long x))) P) (f : ∀ h', P h' → Ok (F x h') v Q) : Ok (dx_cJ c F X) v Q := by
  obtain ⟨h', rfl, p⟩ := h1
  exact f h' p
theorem Ok.R {x : Nat} {F : Value → ax_H → Option ax_R} {X : Nat → ax_H → Option ax_R} (h1 : Ok c (.inl (some (.ref x))) P) (f : ∀ h', P h' → Ok (F (.ref x) h') v Q) : Ok (dx_cR c F X) v Q := by
  obtain ⟨h', rfl, p⟩ := h1
  exact f h' p
theorem Ok.N {F : Value → ax_H → Option ax_R} {X : Nat → ax_H → Option ax_R} (h1 : Ok c (.inl (some .null)) P) (f : ∀ h', P h' → Ok (F .null h') v Q) : Ok (dx_cR c F X) v Q := by
  obtain ⟨h', rfl, p⟩ := h1
  exact f h' p
theorem Ok.xV {F : ax_H → Option ax_R} {X : Nat → ax_H → Option ax_R} {P : Nat → ax_H → Prop} (h1 : OkX c P) (f : ∀ i h', P i h' → Ok (X i h') v Q) : Ok (dx_cV c F X) v Q := by
  obtain ⟨i, h', rfl, p⟩ := h1
  exact f i h' p
theorem OkX.le {a b : Option ax_R} {P : Nat → ax_H → Prop} (hl : dx_le a b) (h1 : OkX a P) : OkX b P := by
  obtain ⟨i, h', e, p⟩ := h1
  exact ⟨i, h', hl _ e, p⟩
theorem OkX.ret {i : Nat} {P : Nat → ax_H → Prop} (p : P i h) : OkX (some (.inr i, h)) P := ⟨i, h, rfl, p⟩
theorem OkX.imp {P Q : Nat → ax_H → Prop} (h1 : OkX c P) (f : ∀ i h', P i h' → Q i h') : OkX c Q := by
  obtain ⟨i, h', e, p⟩ := h1
  exact ⟨i, h', e, f i h' p⟩
theorem OkX.V {P : ax_H → Prop} {Q : Nat → ax_H → Prop} {F : ax_H → Option ax_R} {X : Nat → ax_H → Option ax_R} (h1 : Ok c (.inl none) P) (f : ∀ h', P h' → OkX (F h') Q) : OkX (dx_cV c F X) Q := by
  obtain ⟨h', rfl, p⟩ := h1
  exact f h' p
theorem OkX.I {x : Int32} {Q : Nat → ax_H → Prop} {F : Int32 → ax_H → Option ax_R} {X : Nat → ax_H → Option ax_R} (h1 : Ok c (.inl (some (.int x))) P) (f : ∀ h', P h' → OkX (F x h') Q) : OkX (dx_cI c F X) Q := by
  obtain ⟨h', rfl, p⟩ := h1
  exact f h' p
theorem OkX.R {x : Nat} {Q : Nat → ax_H → Prop} {F : Value → ax_H → Option ax_R} {X : Nat → ax_H → Option ax_R} (h1 : Ok c (.inl (some (.ref x))) P) (f : ∀ h', P h' → OkX (F (.ref x) h') Q) : OkX (dx_cR c F X) Q := by
  obtain ⟨h', rfl, p⟩ := h1
  exact f h' p
theorem OkX.xV {F : ax_H → Option ax_R} {X : Nat → ax_H → Option ax_R} {P Q : Nat → ax_H → Prop} (h1 : OkX c P) (f : ∀ i h', P i h' → OkX (X i h') Q) : OkX (dx_cV c F X) Q := by
  obtain ⟨i, h', rfl, p⟩ := h1
  exact f i h' p
theorem OkX.xI {F : Int32 → ax_H → Option ax_R} {X : Nat → ax_H → Option ax_R} {P Q : Nat → ax_H → Prop} (h1 : OkX c P) (f : ∀ i h', P i h' → OkX (X i h') Q) : OkX (dx_cI c F X) Q := by
  obtain ⟨i, h', rfl, p⟩ := h1
  exact f i h' p
theorem OkX.xR {F : Value → ax_H → Option ax_R} {X : Nat → ax_H → Option ax_R} {P Q : Nat → ax_H → Prop} (h1 : OkX c P) (f : ∀ i h', P i h' → OkX (X i h') Q) : OkX (dx_cR c F X) Q := by
  obtain ⟨i, h', rfl, p⟩ := h1
  exact f i h' p
theorem Ok.xI {F : Int32 → ax_H → Option ax_R} {X : Nat → ax_H → Option ax_R} {P : Nat → ax_H → Prop} (h1 : OkX c P) (f : ∀ i h', P i h' → Ok (X i h') v Q) : Ok (dx_cI c F X) v Q := by
  obtain ⟨i, h', rfl, p⟩ := h1
  exact f i h' p
theorem Ok.xR {F : Value → ax_H → Option ax_R} {X : Nat → ax_H → Option ax_R} {P : Nat → ax_H → Prop} (h1 : OkX c P) (f : ∀ i h', P i h' → Ok (X i h') v Q) : Ok (dx_cR c F X) v Q := by
  obtain ⟨i, h', rfl, p⟩ := h1
  exact f i h' p
/-- something made and thrown out of the method -/
theorem OkX.x0 {i k : Nat} {fs : List Value} {P : Nat → ax_H → Prop} (h4 : 400 ≤ i) (hi : h.1 i = .inr (k, fs)) (hk : hd_0 k = some none) (p : P i h) : OkX (dx_x0 i h) P := by
  refine ⟨i, h, ?_, p⟩
  unfold dx_x0 dx_xp
  rw [if_neg (by omega), hi]
  show Option.bind (some k) _ = _
  rw [Option.bind_some, hk, Option.bind_some]
end OK
/-- cells outside of A stay; at most a cells and w words are made -/
def Fr2 (A : Nat → Prop) (a w : Nat) (h h' : ax_H) : Prop := h.2.1 ≤ h'.2.1 ∧ h.2.2 ≤ h'.2.2 ∧ h'.2.1 ≤ h.2.1 + a ∧ h'.2.2 ≤ h.2.2 + w ∧ ∀ q, q < 400 + h.2.1 → ¬ A q → h'.1 q = h.1 q
section FR
variable {A B : Nat → Prop} {a w a' w' : Nat} {h h1 h2 h3 : ax_H}
theorem Fr2.rf : Fr2 A 0 0 h h := ⟨Nat.le_refl _, Nat.le_refl _, Nat.le_refl _, Nat.le_refl _, fun _ _ _ => rfl⟩
theorem Fr2.tr (x : Fr2 A a w h1 h2) (y : Fr2 A a' w' h2 h3) : Fr2 A (a + a') (w + w') h1 h3 := by
  obtain ⟨x1, x2, x3, x4, x5⟩ := x
  obtain ⟨y1, y2, y3, y4, y5⟩ := y
  exact ⟨by omega, by omega, by omega, by omega, fun q hq hA => (y5 q (by omega) hA).trans (x5 q hq hA)⟩
theorem Fr2.le (x : Fr2 A a w h1 h2) (hA : ∀ q, A q → B q) (ha : a ≤ a') (hw : w ≤ w') : Fr2 B a' w' h1 h2 := by
  obtain ⟨x1, x2, x3, x4, x5⟩ := x
  exact ⟨x1, x2, by omega, by omega, fun q hq hB => x5 q hq fun z => hB (hA q z)⟩
theorem Fr2.set {p : Nat} {c : ax_C} (hp : A p) : Fr2 A 0 0 h (ax_set h p c) := ⟨Nat.le_refl _, Nat.le_refl _, Nat.le_refl _, Nat.le_refl _, fun q _ hA => set_ne c (fun e => hA (e ▸ hp))⟩
theorem Fr2.new {c : ax_C} {n : Nat} : Fr2 A 1 n h (ax_new h c n) := ⟨Nat.le_succ _, Nat.le_add_right _ _, Nat.le_refl _, Nat.le_refl _, fun q hq _ => new_ne c n (by omega)⟩
/-- what was made since h stood may change, too -/
theorem Fr2.tr2 (x : Fr2 A a w h1 h2) (y : Fr2 (fun q => A q ∨ 400 + h1.2.1 ≤ q) a' w' h2 h3) : Fr2 A (a + a') (w + w') h1 h3 := by
  obtain ⟨x1, x2, x3, x4, x5⟩ := x
  obtain ⟨y1, y2, y3, y4, y5⟩ := y
  exact ⟨by omega, by omega, by omega, by omega, fun q hq hA => (y5 q (by omega) (fun z => z.elim hA (by omega))).trans (x5 q hq hA)⟩
end FR
/-! cells read and written where the cell is known: rows of things, of longs -/
section CE2
variable {h : ax_H} {o a k j n t : Nat} {fs : List Value} {tb : List (Nat × Nat)} {v w : Value} {x y i : Int32}
theorem sA_at {f : Nat → Option Nat} {oks : List Nat} {p k : Nat} {fs : List Value} (ha : h.1 a = .inl (t, n, .inr (.inr (.inr (.inr f))))) (h4 : 400 ≤ a) (hx : h.1 p = .inr (k, fs)) (hk : k ∈ oks) : dx_sA t oks (.ref a) i (.ref p) h = (ix n i).bind fun k => some (ax_set h a (.inl (t, n, .inr (.inr (.inr (.inr (va_up f k (some p)))))))) := by
  show (if a < 400 then none else (ax_ci (h.1 p)).bind fun k => if k ∈ oks then (ax_rs t i (some p) (h.1 a)).bind fun c => some (ax_set h a c) else none) = _
  rw [if_neg (by omega), hx]
  show (if k ∈ oks then (ax_rs t i (some p) (h.1 a)).bind fun c => some (ax_set h a c) else none) = _
  rw [if_pos hk, ha]
  show (Option.bind (if t = t then (if i < 0 ∨ n ≤ i.toNatClampNeg then none else some _) else none) _) = _
  rw [if_pos rfl]
  unfold ix
  by_cases q : i < 0 ∨ n ≤ i.toNatClampNeg
  · rw [if_pos q, if_pos q]; rfl
  · rw [if_neg q, if_neg q]; rfl
theorem sA_null {f : Nat → Option Nat} {oks : List Nat} (ha : h.1 a = .inl (t, n, .inr (.inr (.inr (.inr f))))) (h4 : 400 ≤ a) : dx_sA t oks (.ref a) i .null h = (ix n i).bind fun k => some (ax_set h a (.inl (t, n, .inr (.inr (.inr (.inr (va_up f k none))))))) := by
  show (if a < 400 then none else (ax_rs t i none (h.1 a)).bind fun c => some (ax_set h a c)) = _
  rw [if_neg (by omega), ha]
  show (Option.bind (if t = t then (if i < 0 ∨ n ≤ i.toNatClampNeg then none else some _) else none) _) = _
  rw [if_pos rfl]
  unfold ix
  by_cases q : i < 0 ∨ n ≤ i.toNatClampNeg
  · rw [if_pos q, if_pos q]; rfl
  · rw [if_neg q, if_neg q]; rfl
theorem lJ_at {f : Nat → Int64} (ha : h.1 a = .inl (t, n, .inr (.inl f))) : dx_lJ t (.ref a) i h = (ix n i).bind fun k => some (f k) := by
  show ax_ll t i (h.1 a) = _
  rw [ha]
  show (if t = t then (if i < 0 ∨ n ≤ i.toNatClampNeg then none else some (f i.toNatClampNeg)) else none) = _
  rw [if_pos rfl]
  unfold ix
  by_cases q : i < 0 ∨ n ≤ i.toNatClampNeg
  · rw [if_pos q, if_pos q]; rfl
  · rw [if_neg q, if_neg q]; rfl
theorem sJ_at {f : Nat → Int64} {x : Int64} (ha : h.1 a = .inl (t, n, .inr (.inl f))) (h4 : 400 ≤ a) : dx_sJ t (.ref a) i x h = (ix n i).bind fun k => some (ax_set h a (.inl (t, n, .inr (.inl (vp_updL f k x))))) := by
  show (if a < 400 then none else (ax_ls t i x (h.1 a)).bind fun c => some (ax_set h a c)) = _
  rw [if_neg (by omega), ha]
  show (Option.bind (if t = t then (if i < 0 ∨ n ≤ i.toNatClampNeg then none else some _) else none) _) = _
  rw [if_pos rfl]
  unfold ix
  by_cases q : i < 0 ∨ n ≤ i.toNatClampNeg
  · rw [if_pos q, if_pos q]; rfl
  · rw [if_neg q, if_neg q]; rfl
theorem gA_r {p : Nat} (ho : h.1 o = .inr (k, fs)) (hl : tb.lookup k = some j) (hv : fs[j]? = some (.ref p)) : dx_gA tb (.ref o) h = some (.ref p) := gA_at ho hl hv rfl
theorem gA_n (ho : h.1 o = .inr (k, fs)) (hl : tb.lookup k = some j) (hv : fs[j]? = some .null) : dx_gA tb (.ref o) h = some .null := gA_at ho hl hv rfl
theorem pF_int (ho : h.1 o = .inr (k, fs)) (hl : tb.lookup k = some j) (hj : j < fs.length) (h4 : 400 ≤ o) : dx_pF tb .int (.ref o) (.int x) h = some (ax_set h o (.inr (k, fs.set j (.int x)))) := pF_at ho hl hj (ft_int x) h4
theorem ft_oref (s : String) (p : Nat) : ax_ft (.object s) (.ref p) = true := by unfold ax_ft; simp [narrow, fits]
theorem ft_onull (s : String) : ax_ft (.object s) .null = true := by unfold ax_ft; simp [narrow, fits]
theorem ft_aref (s : FieldType) (p : Nat) : ax_ft (.array s) (.ref p) = true := by unfold ax_ft; simp [narrow, fits]
theorem ft_anull (s : FieldType) : ax_ft (.array s) .null = true := by unfold ax_ft; simp [narrow, fits]
theorem pF_oref {s : String} {p : Nat} (ho : h.1 o = .inr (k, fs)) (hl : tb.lookup k = some j) (hj : j < fs.length) (h4 : 400 ≤ o) : dx_pF tb (.object s) (.ref o) (.ref p) h = some (ax_set h o (.inr (k, fs.set j (.ref p)))) := pF_at ho hl hj (ft_oref s p) h4
theorem pF_onull {s : String} (ho : h.1 o = .inr (k, fs)) (hl : tb.lookup k = some j) (hj : j < fs.length) (h4 : 400 ≤ o) : dx_pF tb (.object s) (.ref o) .null h = some (ax_set h o (.inr (k, fs.set j .null))) := pF_at ho hl hj (ft_onull s) h4
theorem pF_aref {s : FieldType} {p : Nat} (ho : h.1 o = .inr (k, fs)) (hl : tb.lookup k = some j) (hj : j < fs.length) (h4 : 400 ≤ o) : dx_pF tb (.array s) (.ref o) (.ref p) h = some (ax_set h o (.inr (k, fs.set j (.ref p)))) := pF_at ho hl hj (ft_aref s p) h4
theorem na_at {t u n : Nat} {k : Int32} (hk : k = Int32.ofNat n) (hn : n ≤ 1000000) (E : Nat → ax_H → Option ax_R) : dx_na t u k h E = E (400 + h.2.1) (ax_new h (.inl (t, n, ax_dat u)) n) := by
  subst hk
  have h1 : (Int32.ofNat n).toNatClampNeg = n := i_nat (by omega)
  have h0 : ¬ Int32.ofNat n < 0 := by
    rw [Int32.lt_iff_toInt_lt, i_toInt (by omega)]
    have : (0 : Int32).toInt = 0 := rfl
    omega
  unfold dx_na
  have hc : ¬ (Int32.ofNat n < 0 ∨ 1000000 < (Int32.ofNat n).toNatClampNeg) := by
    rintro (z | z)
    · exact h0 z
    · rw [h1] at z; omega
  rw [if_neg hc, h1]
  rfl
theorem nw_at {c : ax_C} {m : Nat} (E : Nat → ax_H → Option ax_R) : dx_nw h c m E = E (400 + h.2.1) (ax_new h c m) := rfl
end CE2
/-- arraycopy of ints -/
theorem acpI_at {h : ax_H} {a b n0 n1 s d k : Nat} {sp dp kk : Int32} {f g : Nat → Int32} (ha : h.1 a = .inl (0, n0, .inl f)) (hb : h.1 b = .inl (0, n1, .inl g)) (h4 : 400 ≤ b) (hs : sp = Int32.ofNat s) (hd : dp = Int32.ofNat d) (hk : kk = Int32.ofNat k) (h1 : s + k ≤ n0) (h2 : d + k ≤ n1) (h3 : n0 < 2 ^ 31) (h5 : n1 < 2 ^ 31) : dx_acp (.ref a) sp (.ref b) dp kk h = some (ax_set h b (.inl (0, n1, .inl (va_cpy f g s d k)))) := by
  subst hs hd hk
  have e : ∀ m : Nat, m < 2 ^ 31 → ¬ Int32.ofNat m < 0 := fun m hm => by
    rw [Int32.lt_iff_toInt_lt, i_toInt hm]
    have : (0 : Int32).toInt = 0 := rfl
    omega
  have nb : ¬ ax_bd (Int32.ofNat s) (Int32.ofNat d) (Int32.ofNat k) n0 n1 := by
    unfold ax_bd
    rw [i_nat (by omega), i_nat (by omega), i_nat (by omega)]
    rintro (z | z | z | z | z)
    · exact e _ (by omega) z
    · exact e _ (by omega) z
    · exact e _ (by omega) z
    · omega
    · omega
  show (if b < 400 then none else (ax_cp _ _ _ (h.1 a) (h.1 b)).bind fun c => some (ax_set h b c)) = _
  rw [if_neg (by omega), ha, hb]
  show Option.bind (if 0 = 0 ∧ (0 = 0 ∨ 0 = 3) then _ else none) _ = _
  rw [if_neg nb, i_nat (by omega), i_nat (by omega), i_nat (by omega)]
  rfl
theorem acpA_at {h : ax_H} {a b n0 n1 s d k : Nat} {sp dp kk : Int32} {f g : Nat → Option Nat} (ha : h.1 a = .inl (4, n0, .inr (.inr (.inr (.inr f))))) (hb : h.1 b = .inl (4, n1, .inr (.inr (.inr (.inr g))))) (h4 : 400 ≤ b) (hs : sp = Int32.ofNat s) (hd : dp = Int32.ofNat d) (hk : kk = Int32.ofNat k) (h1 : s + k ≤ n0) (h2 : d + k ≤ n1) (h3 : n0 < 2 ^ 31) (h5 : n1 < 2 ^ 31) : dx_acp (.ref a) sp (.ref b) dp kk h = some (ax_set h b (.inl (4, n1, .inr (.inr (.inr (.inr (va_cpy f g s d k))))))) := by
  subst hs hd hk
  have e : ∀ m : Nat, m < 2 ^ 31 → ¬ Int32.ofNat m < 0 := fun m hm => by
    rw [Int32.lt_iff_toInt_lt, i_toInt hm]
    have : (0 : Int32).toInt = 0 := rfl
    omega
  have nb : ¬ ax_bd (Int32.ofNat s) (Int32.ofNat d) (Int32.ofNat k) n0 n1 := by
    unfold ax_bd
    rw [i_nat (by omega), i_nat (by omega), i_nat (by omega)]
    rintro (z | z | z | z | z)
    · exact e _ (by omega) z
    · exact e _ (by omega) z
    · exact e _ (by omega) z
    · omega
    · omega
  show (if b < 400 then none else (ax_cp _ _ _ (h.1 a) (h.1 b)).bind fun c => some (ax_set h b c)) = _
  rw [if_neg (by omega), ha, hb]
  show Option.bind (if 4 = 4 ∧ 4 = 4 then _ else none) _ = _
  rw [if_neg nb, i_nat (by omega), i_nat (by omega), i_nat (by omega)]
  rfl
