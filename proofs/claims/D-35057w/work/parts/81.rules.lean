/-! the words of a method's body, and a rule an instruction -/
def dx_gI (tb : List (Nat × Nat)) (v : Value) (h : ax_H) : Option Int32 := match v with
  | .ref o => (match ax_gf tb (h.1 o) with
    | some (.int x) => some x
    | _ => none)
  | _ => none
def dx_gJ (tb : List (Nat × Nat)) (v : Value) (h : ax_H) : Option Int64 := match v with
  | .ref o => (match ax_gf tb (h.1 o) with
    | some (.long x) => some x
    | _ => none)
  | _ => none
def dx_gA (tb : List (Nat × Nat)) (v : Value) (h : ax_H) : Option Value := match v with
  | .ref o => (ax_gf tb (h.1 o)).bind fun w => if ax_rv w = true then some w else none
  | _ => none
def dx_pF (tb : List (Nat × Nat)) (ty : FieldType) (v w : Value) (h : ax_H) : Option ax_H := match v with
  | .ref o => if o < 400 then none else (ax_pf tb ty w (h.1 o)).bind fun c => some (ax_set h o c)
  | _ => none
def dx_lI (t : Nat) (v : Value) (i : Int32) (h : ax_H) : Option Int32 := match v with
  | .ref a => ax_al t i (h.1 a)
  | _ => none
def dx_lJ (t : Nat) (v : Value) (i : Int32) (h : ax_H) : Option Int64 := match v with
  | .ref a => ax_ll t i (h.1 a)
  | _ => none
def dx_lA (t : Nat) (v : Value) (i : Int32) (h : ax_H) : Option Value := match v with
  | .ref a => ax_rl t i (h.1 a)
  | _ => none
def dx_sI (t : Nat) (v : Value) (i x : Int32) (h : ax_H) : Option ax_H := match v with
  | .ref a => if a < 400 then none else (ax_as t i x (h.1 a)).bind fun c => some (ax_set h a c)
  | _ => none
def dx_sJ (t : Nat) (v : Value) (i : Int32) (x : Int64) (h : ax_H) : Option ax_H := match v with
  | .ref a => if a < 400 then none else (ax_ls t i x (h.1 a)).bind fun c => some (ax_set h a c)
  | _ => none
def dx_sA (t : Nat) (oks : List Nat) (v : Value) (i : Int32) (w : Value) (h : ax_H) : Option ax_H := match v, w with
  | .ref a, .ref x => if a < 400 then none else (ax_ci (h.1 x)).bind fun k => if k ∈ oks then (ax_rs t i (some x) (h.1 a)).bind fun c => some (ax_set h a c) else none
  | .ref a, .null => if a < 400 then none else (ax_rs t i none (h.1 a)).bind fun c => some (ax_set h a c)
  | _, _ => none
def dx_sR (v : Value) (i : Int32) (w : Value) (h : ax_H) : Option ax_H := match v, w with
  | .ref a, .ref x => if a < 400 ∨ x < 400 then none else (match h.1 x with
    | .inl (0, _) => (ax_rs 5 i (some x) (h.1 a)).bind fun c => some (ax_set h a c)
    | _ => none)
  | _, _ => none
def dx_len (v : Value) (h : ax_H) : Option Int32 := match v with
  | .ref a => (ax_len (h.1 a)).bind fun k => some (Int32.ofNat k)
  | _ => none
def dx_nw (h : ax_H) (c : ax_C) (w : Nat) (E : Nat → ax_H → Option ax_R) : Option ax_R := E (400 + h.2.1) (ax_new h c w)
def dx_na (t u : Nat) (k : Int32) (h : ax_H) (E : Nat → ax_H → Option ax_R) : Option ax_R := if k < 0 ∨ 1000000 < k.toNatClampNeg then none else dx_nw h (.inl (t, k.toNatClampNeg, ax_dat u)) k.toNatClampNeg E
def dx_naa (x y : Int32) (h : ax_H) (E : Nat → ax_H → Option ax_R) : Option ax_R := if x = 3 ∧ y = 8 then E (400 + h.2.1) (ax_newaa h) else none
def dx_lt {α : Type} (x : α) (E : α → Option ax_R) : Option ax_R := E x
def dx_nul (v : Value) (A B : Option ax_R) : Option ax_R := match v with
  | .null => A
  | .ref _ => B
  | _ => none
def dx_eq (v w : Value) (A B : Option ax_R) : Option ax_R := match v, w with
  | .null, .null => A
  | .null, .ref _ => B
  | .ref _, .null => B
  | .ref a, .ref b => if a = b then A else if (b < 400 ∧ a < 400) ∨ b = 6 ∨ a = 6 then none else B
  | _, _ => none
/-- it isn't null -/
def dx_nn (v : Value) (E : Option ax_R) : Option ax_R := match v with
  | .ref _ => E
  | _ => none
def dx_tw (lo hi : Int) (x : Int32) (Es : List (Option ax_R)) (Ed : Option ax_R) : Option ax_R := if x.toInt < lo ∨ hi < x.toInt then Ed else (Es[(x.toInt - lo).toNat]?).bind fun e => e
def dx_acp (v : Value) (sp : Int32) (w : Value) (dp k : Int32) (h : ax_H) : Option ax_H := match v, w with
  | .ref a, .ref b => if b < 400 then none else (ax_cp sp dp k (h.1 a) (h.1 b)).bind fun c => some (ax_set h b c)
  | _, _ => none
def dx_gcl (v : Value) (h : ax_H) (E : Option ax_R) : Option ax_R := match v with
  | .ref a => if a < 400 then none else (match h.1 a with
    | .inl (4, _) => E
    | _ => none)
  | _ => none
def dx_cln (t : Nat) (v : Value) (h : ax_H) (E : Nat → ax_H → Option ax_R) : Option ax_R := match v with
  | .ref a => if a < 400 then none else (ax_cln t (h.1 a)).bind fun k => dx_nw h (h.1 a) k E
  | _ => none
def dx_cA (t : Nat) (v : Value) (h : ax_H) (E : Option ax_R) : Option ax_R := match v with
  | .ref a => if a < 400 then none else (match h.1 a with
    | .inl (t', _) => if t' = t then E else none
    | _ => none)
  | _ => none
def dx_cs (oks : List Nat) (v : Value) (h : ax_H) (E : Option ax_R) : Option ax_R := match v with
  | .null => E
  | .ref x => (ax_ci (h.1 x)).bind fun k => if k ∈ oks then E else none
  | _ => none
def dx_in (yes no : List Nat) (v : Value) (h : ax_H) (E : Int32 → Option ax_R) : Option ax_R := match v with
  | .ref x => (ax_ci (h.1 x)).bind fun k => if k ∈ yes then E 1 else if k ∈ no then E 0 else none
  | _ => none
def dx_th (tb : List (Nat × Nat)) (v : Value) (h : ax_H) : Option ax_R := match v with
  | .ref o => if o < 400 then none else (ax_gf tb (h.1 o)).bind fun w => match w with
    | .null => some (.inl none, h)
    | _ => none
  | _ => none
/-- something is thrown at a row of a method: 'H' says what the handlers do -/
def dx_xp (hd : Nat → Option (Option Nat)) (i : Nat) (h : ax_H) (H : Nat → Option ax_R) : Option ax_R := if i < 400 then none else (ax_ci (h.1 i)).bind fun k => (hd k).bind fun o => match o with
  | some pc => H pc
  | none => some (.inr i, h)
def dx_x0 (i : Nat) (h : ax_H) : Option ax_R := dx_xp hd_0 i h fun _ => none
def dx_ath (hd : Nat → Option (Option Nat)) (v : Value) (h : ax_H) (H : Nat → Nat → Option ax_R) : Option ax_R := match v with
  | .ref i => dx_xp hd i h (H i)
  | _ => none
def dx_cc (r : Option ax_R) (E : Option Value → ax_H → Option ax_R) (X : Nat → ax_H → Option ax_R) : Option ax_R := match r with
  | none => none
  | some (.inl v, h) => E v h
  | some (.inr i, h) => X i h
def dx_fI (E : Int32 → ax_H → Option ax_R) (v : Option Value) (h : ax_H) : Option ax_R := match v with
  | some (.int x) => E x h
  | _ => none
def dx_fJ (E : Int64 → ax_H → Option ax_R) (v : Option Value) (h : ax_H) : Option ax_R := match v with
  | some (.long x) => E x h
  | _ => none
def dx_fV (E : ax_H → Option ax_R) (v : Option Value) (h : ax_H) : Option ax_R := match v with
  | none => E h
  | _ => none
def dx_fR (E : Value → ax_H → Option ax_R) (v : Option Value) (h : ax_H) : Option ax_R := match v with
  | some v => if ax_rv v = true then E v h else none
  | _ => none
def dx_cI (r : Option ax_R) (E : Int32 → ax_H → Option ax_R) (X : Nat → ax_H → Option ax_R) : Option ax_R := dx_cc r (dx_fI E) X
def dx_cJ (r : Option ax_R) (E : Int64 → ax_H → Option ax_R) (X : Nat → ax_H → Option ax_R) : Option ax_R := dx_cc r (dx_fJ E) X
def dx_cV (r : Option ax_R) (E : ax_H → Option ax_R) (X : Nat → ax_H → Option ax_R) : Option ax_R := dx_cc r (dx_fV E) X
def dx_cR (r : Option ax_R) (E : Value → ax_H → Option ax_R) (X : Nat → ax_H → Option ax_R) : Option ax_R := dx_cc r (dx_fR E) X
abbrev dx_rem (x y : Int32) : Int32 := x - x / y * y
abbrev dx_shl (x y : Int32) : Int32 := x <<< (y &&& 31)
abbrev dx_shr (x y : Int32) : Int32 := x >>> (y &&& 31)
abbrev dx_ushr (x y : Int32) : Int32 := (x.toUInt32 >>> (y.toUInt32 &&& Int32.toUInt32 31)).toInt32
abbrev dx_i2b (x : Int32) : Int32 := x.toInt8.toInt32
abbrev dx_i2c (x : Int32) : Int32 := (x.toUInt32 % 65536).toInt32
abbrev dx_max (x y : Int32) : Int32 := if x < y then y else x
abbrev dx_min (x y : Int32) : Int32 := if y < x then y else x
abbrev dx_lrem (x y : Int64) : Int64 := x - x / y * y
abbrev dx_lshl (x : Int64) (y : Int32) : Int64 := x <<< (y.toInt64 &&& 63)
abbrev dx_lshr (x : Int64) (y : Int32) : Int64 := x >>> (y.toInt64 &&& 63)
abbrev dx_lushr (x : Int64) (y : Int32) : Int64 := (x.toUInt64 >>> (y.toInt64.toUInt64 &&& Int64.toUInt64 63)).toInt64
def dx_vn (tb : List (Nat × Nat)) (v : Value) (h : ax_H) : Option Nat := match v with
  | .ref o => (ax_ci (h.1 o)).bind fun c => tb.lookup c
  | _ => none
section EE
variable {K : ax_K} {code : Nat → ax_S} {pc n t u a k i : Nat} {L L' : ax_L} {st : List Value} {h : ax_H} {E : Option ax_R}
theorem dx_step {S : ax_S} (hc : code pc = S) (hE : dx_le E (ax_go K code (S K L st h))) : dx_le E (ax_run K code pc L st h) := by
  rw [ax_run_eq, hc]; exact hE
theorem dx_gb {α : Type} {x : Option α} {F : α → Option ax_R} {f : α → ax_O} (hE : ∀ a, dx_le (F a) (ax_go K code (f a))) : dx_le (x.bind F) (ax_go K code (x.bind f)) := by
  cases x with
  | none => exact dx_none _
  | some a => exact hE a
theorem dx_gi {c : Prop} {j : Decidable c} {A B : Option ax_R} {f g : ax_O} (h1 : dx_le A (ax_go K code f)) (h2 : dx_le B (ax_go K code g)) : dx_le (@ite _ c j A B) (ax_go K code (@ite _ c j f g)) := by
  by_cases q : c
  · rw [if_pos q, if_pos q]; exact h1
  · rw [if_neg q, if_neg q]; exact h2
theorem e_push {v : Value} (hc : code pc = S_push v n) (hE : dx_le E (ax_run K code n L (v :: st) h)) : dx_le E (ax_run K code pc L st h) := dx_step hc hE
theorem e_iload {x : Int32} (hc : code pc = S_iload i n) (hl : L[i]? = some (some (.int x))) (hE : dx_le E (ax_run K code n L (.int x :: st) h)) : dx_le E (ax_run K code pc L st h) := dx_step hc (by
  unfold S_iload; rw [dx_li_of hl]; exact hE)
theorem e_lload {x : Int64} (hc : code pc = S_lload i n) (hl : L[i]? = some (some (.long x))) (hE : dx_le E (ax_run K code n L (.long x :: st) h)) : dx_le E (ax_run K code pc L st h) := dx_step hc (by
  unfold S_lload; rw [dx_ll2_of hl]; exact hE)
theorem e_aload {v : Value} (hc : code pc = S_aload i n) (hl : L[i]? = some (some v)) (hv : ax_rv v = true) (hE : dx_le E (ax_run K code n L (v :: st) h)) : dx_le E (ax_run K code pc L st h) := dx_step hc (by
  unfold S_aload; rw [dx_la_of hl hv]; exact hE)
theorem e_istore {x : Int32} (hc : code pc = S_istore i n) (hL : ax_sto L i (.int x) = L') (hE : dx_le E (ax_run K code n L' st h)) : dx_le E (ax_run K code pc L (.int x :: st) h) := dx_step hc (by
  subst hL; exact hE)
theorem e_istoreL {x : Int32} {F : Int32 → Option ax_R} {M : Int32 → ax_L} (hc : code pc = S_istore i n) (hL : ∀ y, ax_sto L i (.int y) = M y) (hE : ∀ y, dx_le (F y) (ax_run K code n (M y) st h)) : dx_le (dx_lt x F) (ax_run K code pc L (.int x :: st) h) := e_istore hc (hL x) (hE x)
theorem e_lstore {x : Int64} (hc : code pc = S_lstore i n) (hL : ax_sto2 L i (.long x) = L') (hE : dx_le E (ax_run K code n L' st h)) : dx_le E (ax_run K code pc L (.long x :: st) h) := dx_step hc (by
  subst hL; exact hE)
theorem e_lstoreL {x : Int64} {F : Int64 → Option ax_R} {M : Int64 → ax_L} (hc : code pc = S_lstore i n) (hL : ∀ y, ax_sto2 L i (.long y) = M y) (hE : ∀ y, dx_le (F y) (ax_run K code n (M y) st h)) : dx_le (dx_lt x F) (ax_run K code pc L (.long x :: st) h) := e_lstore hc (hL x) (hE x)
theorem e_astore {v : Value} (hc : code pc = S_astore i n) (hv : ax_rv v = true) (hL : ax_sto L i v = L') (hE : dx_le E (ax_run K code n L' st h)) : dx_le E (ax_run K code pc L (v :: st) h) := dx_step hc (by
  subst hL; rcases dx_rv_cases hv with q | ⟨b, q⟩ <;> (subst q; exact hE))
theorem e_iinc {x y : Int32} {F : Int32 → Option ax_R} {M : Int32 → ax_L} (hc : code pc = S_iinc i y n) (hl : L[i]? = some (some (.int x))) (hL : ∀ z, ax_sto L i (.int z) = M z) (hE : ∀ z, dx_le (F z) (ax_run K code n (M z) st h)) : dx_le (dx_lt (x + y) F) (ax_run K code pc L st h) := dx_step hc (by
  unfold S_iinc; rw [dx_li_of hl]; have := hE (x + y); rw [← hL] at this; exact this)
theorem e_i1 {f : Int32 → Int32} {x : Int32} (hc : code pc = S_i1 f n) (hE : dx_le E (ax_run K code n L (.int (f x) :: st) h)) : dx_le E (ax_run K code pc L (.int x :: st) h) := dx_step hc hE
theorem e_i2 {f : Int32 → Int32 → Int32} {x y : Int32} (hc : code pc = S_i2 f n) (hE : dx_le E (ax_run K code n L (.int (f x y) :: st) h)) : dx_le E (ax_run K code pc L (.int y :: .int x :: st) h) := dx_step hc hE
theorem e_id {f : Int32 → Int32 → Int32} {x y : Int32} (hc : code pc = S_id f n) (hE : dx_le E (ax_run K code n L (.int (f x y) :: st) h)) : dx_le (if y = 0 then none else E) (ax_run K code pc L (.int y :: .int x :: st) h) := dx_step hc (dx_gi (dx_none _) hE)
theorem e_idn {f : Int32 → Int32 → Int32} {x y : Int32} (hc : code pc = S_id f n) (hy : ¬ y = 0) (hE : dx_le E (ax_run K code n L (.int (f x y) :: st) h)) : dx_le E (ax_run K code pc L (.int y :: .int x :: st) h) := dx_step hc (by
  show dx_le E (ax_go K code (if y = 0 then none else _)); rw [if_neg hy]; exact hE)
theorem e_l2 {f : Int64 → Int64 → Int64} {x y : Int64} (hc : code pc = S_l2 f n) (hE : dx_le E (ax_run K code n L (.long (f x y) :: st) h)) : dx_le E (ax_run K code pc L (.long y :: .long x :: st) h) := dx_step hc hE
theorem e_ldn {f : Int64 → Int64 → Int64} {x y : Int64} (hc : code pc = S_ld f n) (hy : ¬ y = 0) (hE : dx_le E (ax_run K code n L (.long (f x y) :: st) h)) : dx_le E (ax_run K code pc L (.long y :: .long x :: st) h) := dx_step hc (by
  show dx_le E (ax_go K code (if y = 0 then none else _)); rw [if_neg hy]; exact hE)
theorem e_lsh {f : Int64 → Int32 → Int64} {x : Int64} {y : Int32} (hc : code pc = S_lsh f n) (hE : dx_le E (ax_run K code n L (.long (f x y) :: st) h)) : dx_le E (ax_run K code pc L (.int y :: .long x :: st) h) := dx_step hc hE
theorem e_lcmp {x y : Int64} (hc : code pc = S_lcmp n) (hE : dx_le E (ax_run K code n L (.int (lg_cmp x y) :: st) h)) : dx_le E (ax_run K code pc L (.long y :: .long x :: st) h) := dx_step hc hE
theorem e_rem {x y : Int32} (hc : code pc = S_id (fun x y => x - x / y * y) n) (hy : ¬ y = 0) (hE : dx_le E (ax_run K code n L (.int (dx_rem x y) :: st) h)) : dx_le E (ax_run K code pc L (.int y :: .int x :: st) h) := e_idn hc hy hE
theorem e_lrem {x y : Int64} (hc : code pc = S_ld (fun x y => x - x / y * y) n) (hy : ¬ y = 0) (hE : dx_le E (ax_run K code n L (.long (dx_lrem x y) :: st) h)) : dx_le E (ax_run K code pc L (.long y :: .long x :: st) h) := e_ldn hc hy hE
theorem e_shl {x y : Int32} (hc : code pc = S_i2 (fun x y => x <<< (y &&& 31)) n) (hE : dx_le E (ax_run K code n L (.int (dx_shl x y) :: st) h)) : dx_le E (ax_run K code pc L (.int y :: .int x :: st) h) := e_i2 hc hE
theorem e_shr {x y : Int32} (hc : code pc = S_i2 (fun x y => x >>> (y &&& 31)) n) (hE : dx_le E (ax_run K code n L (.int (dx_shr x y) :: st) h)) : dx_le E (ax_run K code pc L (.int y :: .int x :: st) h) := e_i2 hc hE
theorem e_ushr {x y : Int32} (hc : code pc = S_i2 (fun x y => (x.toUInt32 >>> (y.toUInt32 &&& Int32.toUInt32 31)).toInt32) n) (hE : dx_le E (ax_run K code n L (.int (dx_ushr x y) :: st) h)) : dx_le E (ax_run K code pc L (.int y :: .int x :: st) h) := e_i2 hc hE
theorem e_i2b {x : Int32} (hc : code pc = S_i1 (fun x => x.toInt8.toInt32) n) (hE : dx_le E (ax_run K code n L (.int (dx_i2b x) :: st) h)) : dx_le E (ax_run K code pc L (.int x :: st) h) := e_i1 hc hE
theorem e_i2c {x : Int32} (hc : code pc = S_i1 (fun x => (x.toUInt32 % 65536).toInt32) n) (hE : dx_le E (ax_run K code n L (.int (dx_i2c x) :: st) h)) : dx_le E (ax_run K code pc L (.int x :: st) h) := e_i1 hc hE
theorem e_lshl {x : Int64} {y : Int32} (hc : code pc = S_lsh (fun x y => x <<< (y.toInt64 &&& 63)) n) (hE : dx_le E (ax_run K code n L (.long (dx_lshl x y) :: st) h)) : dx_le E (ax_run K code pc L (.int y :: .long x :: st) h) := e_lsh hc hE
theorem e_lshr {x : Int64} {y : Int32} (hc : code pc = S_lsh (fun x y => x >>> (y.toInt64 &&& 63)) n) (hE : dx_le E (ax_run K code n L (.long (dx_lshr x y) :: st) h)) : dx_le E (ax_run K code pc L (.int y :: .long x :: st) h) := e_lsh hc hE
theorem e_lushr {x : Int64} {y : Int32} (hc : code pc = S_lsh (fun x y => (x.toUInt64 >>> (y.toInt64.toUInt64 &&& Int64.toUInt64 63)).toInt64) n) (hE : dx_le E (ax_run K code n L (.long (dx_lushr x y) :: st) h)) : dx_le E (ax_run K code pc L (.int y :: .long x :: st) h) := e_lsh hc hE
theorem e_i2l {x : Int32} (hc : code pc = S_i2l n) (hE : dx_le E (ax_run K code n L (.long x.toInt64 :: st) h)) : dx_le E (ax_run K code pc L (.int x :: st) h) := dx_step hc hE
theorem e_l2i {x : Int64} (hc : code pc = S_l2i n) (hE : dx_le E (ax_run K code n L (.int x.toInt32 :: st) h)) : dx_le E (ax_run K code pc L (.long x :: st) h) := dx_step hc hE
theorem e_if1 {c : Int32 → Bool} {x : Int32} {p : Prop} {j : Decidable p} {A B : Option ax_R} (hc : code pc = S_if1 c t n) (hp : c x = @decide p j) (h1 : dx_le A (ax_run K code t L st h)) (h2 : dx_le B (ax_run K code n L st h)) : dx_le (@ite _ p j A B) (ax_run K code pc L (.int x :: st) h) := dx_step hc (by
  show dx_le _ (ax_run K code (if c x = true then t else n) L st h)
  by_cases q : p
  · rw [if_pos q, if_pos (by rw [hp]; exact decide_eq_true q)]; exact h1
  · rw [if_neg q, if_neg (by rw [hp, decide_eq_false q]; exact Bool.false_ne_true)]; exact h2)
theorem e_if2 {c : Int32 → Int32 → Bool} {x y : Int32} {p : Prop} {j : Decidable p} {A B : Option ax_R} (hc : code pc = S_if2 c t n) (hp : c x y = @decide p j) (h1 : dx_le A (ax_run K code t L st h)) (h2 : dx_le B (ax_run K code n L st h)) : dx_le (@ite _ p j A B) (ax_run K code pc L (.int y :: .int x :: st) h) := dx_step hc (by
  show dx_le _ (ax_run K code (if c x y = true then t else n) L st h)
  by_cases q : p
  · rw [if_pos q, if_pos (by rw [hp]; exact decide_eq_true q)]; exact h1
  · rw [if_neg q, if_neg (by rw [hp, decide_eq_false q]; exact Bool.false_ne_true)]; exact h2)
theorem e_null {v : Value} {A B : Option ax_R} (hc : code pc = S_null t n) (h1 : dx_le A (ax_run K code t L st h)) (h2 : dx_le B (ax_run K code n L st h)) : dx_le (dx_nul v A B) (ax_run K code pc L (v :: st) h) := dx_step hc (by
  cases v <;> first | exact h1 | exact h2 | exact dx_none _)
theorem e_acmp {v w : Value} {A B : Option ax_R} (hc : code pc = S_acmp t n) (h1 : dx_le A (ax_run K code t L st h)) (h2 : dx_le B (ax_run K code n L st h)) : dx_le (dx_eq v w A B) (ax_run K code pc L (w :: v :: st) h) := dx_step hc (by
  cases v <;> cases w <;> first | exact dx_none _ | exact h1 | exact h2 | exact dx_gi h1 (dx_gi (dx_none _) h2))
theorem e_goto (hc : code pc = S_goto n) (hE : dx_le E (ax_run K code n L st h)) : dx_le E (ax_run K code pc L st h) := dx_step hc hE
theorem e_dup {v : Value} (hc : code pc = S_dup n) (hv : ax_c1 v = true) (hE : dx_le E (ax_run K code n L (v :: v :: st) h)) : dx_le E (ax_run K code pc L (v :: st) h) := dx_step hc (by
  show dx_le E (ax_go K code (if ax_c1 v = true then _ else _)); rw [if_pos hv]; exact hE)
theorem e_pop {v : Value} (hc : code pc = S_pop n) (hv : ax_c1 v = true) (hE : dx_le E (ax_run K code n L st h)) : dx_le E (ax_run K code pc L (v :: st) h) := dx_step hc (by
  show dx_le E (ax_go K code (if ax_c1 v = true then _ else _)); rw [if_pos hv]; exact hE)
theorem e_dupx1 {v w : Value} (hc : code pc = S_dupx1 n) (hv : ax_c1 v = true) (hw : ax_c1 w = true) (hE : dx_le E (ax_run K code n L (v :: w :: v :: st) h)) : dx_le E (ax_run K code pc L (v :: w :: st) h) := dx_step hc (by
  show dx_le E (ax_go K code (if ax_c1 v = true then (if ax_c1 w = true then _ else _) else _)); rw [if_pos hv, if_pos hw]; exact hE)
theorem e_dup2 {v w : Value} (hc : code pc = S_dup2 n) (hv : ax_c1 v = true) (hw : ax_c1 w = true) (hE : dx_le E (ax_run K code n L (v :: w :: v :: w :: st) h)) : dx_le E (ax_run K code pc L (v :: w :: st) h) := dx_step hc (by
  show dx_le E (ax_go K code (if ax_c1 v = true then (if ax_c1 w = true then _ else _) else _)); rw [if_pos hv, if_pos hw]; exact hE)
theorem e_oin {v : Value} (hc : code pc = S_oin n) (hl : st.length ≤ 4) (hE : dx_le E (ax_run K code n L st h)) : dx_le (dx_nn v E) (ax_run K code pc L (v :: st) h) := dx_step hc (by
  cases v <;> first | exact dx_none _ | (show dx_le E (ax_go K code (if st.length ≤ 4 then _ else _)); rw [if_pos hl]; exact hE))
def dx_fa (K : ax_K) (code : Nat → ax_S) (L : ax_L) (st : List Value) (h : ax_H) : List (Option ax_R) → List Nat → Prop
  | [], [] => True
  | E :: Es, t :: ts => dx_le E (ax_run K code t L st h) ∧ dx_fa K code L st h Es ts
  | _, _ => False
theorem fa_n : dx_fa K code L st h [] [] := trivial
theorem fa_c {Es : List (Option ax_R)} {ts : List Nat} (h1 : dx_le E (ax_run K code t L st h)) (h2 : dx_fa K code L st h Es ts) : dx_fa K code L st h (E :: Es) (t :: ts) := ⟨h1, h2⟩
theorem dx_fa_get : ∀ {Es : List (Option ax_R)} {ts : List Nat}, dx_fa K code L st h Es ts → ∀ j : Nat, dx_le ((Es[j]?).bind fun e => e) (ax_go K code ((ts[j]?).bind fun k => some (.inl (k, L, st, h)))) := by
  intro Es
  induction Es with
  | nil => intro ts _ j; simp; exact dx_none _
  | cons E Es ih =>
    intro ts hf j
    cases ts with
    | nil => exact hf.elim
    | cons t ts =>
      cases j with
      | zero => exact hf.1
      | succ j => simpa using ih hf.2 j
theorem e_tsw {lo hi : Int} {ts : List Nat} {x : Int32} {Es : List (Option ax_R)} {Ed : Option ax_R} (hc : code pc = S_tsw lo hi ts t) (hd : dx_le Ed (ax_run K code t L st h)) (hf : dx_fa K code L st h Es ts) : dx_le (dx_tw lo hi x Es Ed) (ax_run K code pc L (.int x :: st) h) := dx_step hc (dx_gi hd (dx_fa_get hf _))
theorem e_getI {tb : List (Nat × Nat)} {v : Value} {F : Int32 → Option ax_R} (hc : code pc = S_getf tb n) (hE : ∀ x, dx_le (F x) (ax_run K code n L (.int x :: st) h)) : dx_le ((dx_gI tb v h).bind F) (ax_run K code pc L (v :: st) h) := dx_step hc (by
  cases v with
  | ref o =>
    show dx_le (Option.bind (match ax_gf tb (h.1 o) with
      | some (.int x) => some x
      | _ => none) F) (ax_go K code ((ax_gf tb (h.1 o)).bind _))
    cases ax_gf tb (h.1 o) with
    | none => exact dx_none _
    | some w => cases w <;> first | exact hE _ | exact dx_none _
  | _ => exact dx_none _)
theorem e_getJ {tb : List (Nat × Nat)} {v : Value} {F : Int64 → Option ax_R} (hc : code pc = S_getf tb n) (hE : ∀ x, dx_le (F x) (ax_run K code n L (.long x :: st) h)) : dx_le ((dx_gJ tb v h).bind F) (ax_run K code pc L (v :: st) h) := dx_step hc (by
  cases v with
  | ref o =>
    show dx_le (Option.bind (match ax_gf tb (h.1 o) with
      | some (.long x) => some x
      | _ => none) F) (ax_go K code ((ax_gf tb (h.1 o)).bind _))
    cases ax_gf tb (h.1 o) with
    | none => exact dx_none _
    | some w => cases w <;> first | exact hE _ | exact dx_none _
  | _ => exact dx_none _)
theorem e_getA {tb : List (Nat × Nat)} {v : Value} {F : Value → Option ax_R} (hc : code pc = S_getf tb n) (hE : ∀ x, ax_rv x = true → dx_le (F x) (ax_run K code n L (x :: st) h)) : dx_le ((dx_gA tb v h).bind F) (ax_run K code pc L (v :: st) h) := dx_step hc (by
  cases v with
  | ref o =>
    show dx_le (Option.bind ((ax_gf tb (h.1 o)).bind _) F) (ax_go K code ((ax_gf tb (h.1 o)).bind _))
    cases ax_gf tb (h.1 o) with
    | none => exact dx_none _
    | some w =>
      show dx_le (Option.bind (if ax_rv w = true then some w else none) F) _
      by_cases q : ax_rv w = true
      · rw [if_pos q]; exact hE w q
      · rw [if_neg q]; exact dx_none _
  | _ => exact dx_none _)
theorem e_putf {tb : List (Nat × Nat)} {ty : FieldType} {v w : Value} {F : ax_H → Option ax_R} (hc : code pc = S_putf tb ty n) (hE : ∀ h', dx_le (F h') (ax_run K code n L st h')) : dx_le ((dx_pF tb ty v w h).bind F) (ax_run K code pc L (w :: v :: st) h) := dx_step hc (by
  cases v with
  | ref o =>
    show dx_le (Option.bind (if o < 400 then none else _) F) (ax_go K code (if o < 400 then none else _))
    by_cases q : o < 400
    · rw [if_pos q]; exact dx_none _
    · rw [if_neg q, if_neg q]
      cases ax_pf tb ty w (h.1 o) with
      | none => exact dx_none _
      | some c => exact hE _
  | _ => exact dx_none _)
theorem e_iald {v : Value} {x : Int32} {F : Int32 → Option ax_R} (hc : code pc = S_iald t n) (hE : ∀ y, dx_le (F y) (ax_run K code n L (.int y :: st) h)) : dx_le ((dx_lI t v x h).bind F) (ax_run K code pc L (.int x :: v :: st) h) := dx_step hc (by
  cases v <;> first | exact dx_none _ | exact dx_gb hE)
theorem e_lald {v : Value} {x : Int32} {F : Int64 → Option ax_R} (hc : code pc = S_lald t n) (hE : ∀ y, dx_le (F y) (ax_run K code n L (.long y :: st) h)) : dx_le ((dx_lJ t v x h).bind F) (ax_run K code pc L (.int x :: v :: st) h) := dx_step hc (by
  cases v <;> first | exact dx_none _ | exact dx_gb hE)
theorem dx_rl_rv {x : Int32} {c : ax_C} {v : Value} (e : ax_rl t x c = some v) : ax_rv v = true := by
  unfold ax_rl at e
  split at e
  · split at e
    · split at e
      · cases e
      · cases e; exact dx_rv_rf _
    · cases e
  · cases e
theorem e_aald {v : Value} {x : Int32} {F : Value → Option ax_R} (hc : code pc = S_aald t n) (hE : ∀ y, ax_rv y = true → dx_le (F y) (ax_run K code n L (y :: st) h)) : dx_le ((dx_lA t v x h).bind F) (ax_run K code pc L (.int x :: v :: st) h) := dx_step hc (by
  cases v with
  | ref b =>
    show dx_le ((ax_rl t x (h.1 b)).bind F) (ax_go K code ((ax_rl t x (h.1 b)).bind _))
    cases q : ax_rl t x (h.1 b) with
    | none => exact dx_none _
    | some y => exact hE y (dx_rl_rv q)
  | _ => exact dx_none _)
theorem e_iast {v : Value} {x y : Int32} {w : Int32 → Int32} {F : ax_H → Option ax_R} (hc : code pc = S_iast t w n) (hE : ∀ h', dx_le (F h') (ax_run K code n L st h')) : dx_le ((dx_sI t v x (w y) h).bind F) (ax_run K code pc L (.int y :: .int x :: v :: st) h) := dx_step hc (by
  cases v with
  | ref b =>
    show dx_le (Option.bind (if b < 400 then none else _) F) (ax_go K code (if b < 400 then none else _))
    by_cases q : b < 400
    · rw [if_pos q]; exact dx_none _
    · rw [if_neg q, if_neg q]
      cases ax_as t x (w y) (h.1 b) with
      | none => exact dx_none _
      | some c => exact hE _
  | _ => exact dx_none _)
theorem e_iastI {v : Value} {x y : Int32} {F : ax_H → Option ax_R} (hc : code pc = S_iast t (fun x => x) n) (hE : ∀ h', dx_le (F h') (ax_run K code n L st h')) : dx_le ((dx_sI t v x y h).bind F) (ax_run K code pc L (.int y :: .int x :: v :: st) h) := e_iast (w := fun x => x) hc hE
theorem e_last {v : Value} {x : Int32} {y : Int64} {F : ax_H → Option ax_R} (hc : code pc = S_last t n) (hE : ∀ h', dx_le (F h') (ax_run K code n L st h')) : dx_le ((dx_sJ t v x y h).bind F) (ax_run K code pc L (.long y :: .int x :: v :: st) h) := dx_step hc (by
  cases v with
  | ref b =>
    show dx_le (Option.bind (if b < 400 then none else _) F) (ax_go K code (if b < 400 then none else _))
    by_cases q : b < 400
    · rw [if_pos q]; exact dx_none _
    · rw [if_neg q, if_neg q]
      cases ax_ls t x y (h.1 b) with
      | none => exact dx_none _
      | some c => exact hE _
  | _ => exact dx_none _)
theorem e_aast {oks : List Nat} {v w : Value} {x : Int32} {F : ax_H → Option ax_R} (hc : code pc = S_aast t oks n) (hE : ∀ h', dx_le (F h') (ax_run K code n L st h')) : dx_le ((dx_sA t oks v x w h).bind F) (ax_run K code pc L (w :: .int x :: v :: st) h) := dx_step hc (by
  cases v with
  | ref b =>
    cases w with
    | ref c =>
      show dx_le (Option.bind (if b < 400 then none else _) F) (ax_go K code (if b < 400 then none else _))
      by_cases q : b < 400
      · rw [if_pos q]; exact dx_none _
      · rw [if_neg q, if_neg q]
        cases ax_ci (h.1 c) with
        | none => exact dx_none _
        | some j =>
          show dx_le (Option.bind (if j ∈ oks then _ else none) F) (ax_go K code (if j ∈ oks then _ else none))
          by_cases q2 : j ∈ oks
          · rw [if_pos q2, if_pos q2]
            cases ax_rs t x (some c) (h.1 b) with
            | none => exact dx_none _
            | some c => exact hE _
          · rw [if_neg q2]; exact dx_none _
    | null =>
      show dx_le (Option.bind (if b < 400 then none else _) F) (ax_go K code (if b < 400 then none else _))
      by_cases q : b < 400
      · rw [if_pos q]; exact dx_none _
      · rw [if_neg q, if_neg q]
        cases ax_rs t x none (h.1 b) with
        | none => exact dx_none _
        | some c => exact hE _
    | _ => exact dx_none _
  | _ => exact dx_none _)
theorem e_aastA {v w : Value} {x : Int32} {F : ax_H → Option ax_R} (hc : code pc = S_aastA n) (hE : ∀ h', dx_le (F h') (ax_run K code n L st h')) : dx_le ((dx_sR v x w h).bind F) (ax_run K code pc L (w :: .int x :: v :: st) h) := dx_step hc (by
  cases v with
  | ref b =>
    cases w with
    | ref c =>
      show dx_le (Option.bind (if b < 400 ∨ c < 400 then none else _) F) (ax_go K code (if b < 400 ∨ c < 400 then none else _))
      by_cases q : b < 400 ∨ c < 400
      · rw [if_pos q]; exact dx_none _
      · rw [if_neg q, if_neg q]
        generalize h.1 c = cc
        match cc with
        | .inl (0, _) =>
          show dx_le (Option.bind ((ax_rs 5 x (some c) (h.1 b)).bind _) F) (ax_go K code ((ax_rs 5 x (some c) (h.1 b)).bind _))
          cases ax_rs 5 x (some c) (h.1 b) with
          | none => exact dx_none _
          | some c => exact hE _
        | .inl (_ + 1, _) => exact dx_none _
        | .inr _ => exact dx_none _
    | _ => exact dx_none _
  | _ => exact dx_none _)
theorem e_alen {v : Value} {F : Int32 → Option ax_R} (hc : code pc = S_alen n) (hE : ∀ x, dx_le (F x) (ax_run K code n L (.int x :: st) h)) : dx_le ((dx_len v h).bind F) (ax_run K code pc L (v :: st) h) := dx_step hc (by
  cases v with
  | ref b =>
    show dx_le (Option.bind ((ax_len (h.1 b)).bind _) F) (ax_go K code ((ax_len (h.1 b)).bind _))
    cases ax_len (h.1 b) with
    | none => exact dx_none _
    | some y => exact hE _
  | _ => exact dx_none _)
theorem e_new {w : Nat} {fs : List Value} {F : Nat → ax_H → Option ax_R} (hc : code pc = S_new k fs w n) (hE : ∀ a h', dx_le (F a h') (ax_run K code n L (.ref a :: st) h')) : dx_le (dx_nw h (.inr (k, fs)) w F) (ax_run K code pc L st h) := dx_step hc (hE _ _)
theorem e_mk {w : Nat} {F : Nat → ax_H → Option ax_R} (hc : code pc = S_mk k w n) (hl : st.length ≤ 4) (hE : ∀ a h', dx_le (F a h') (ax_run K code n L (.ref a :: st) h')) : dx_le (dx_nw h (.inr (k, [])) w F) (ax_run K code pc L st h) := dx_step hc (by
  unfold S_mk; rw [if_pos hl]; exact hE _ _)
theorem e_newa {x : Int32} {F : Nat → ax_H → Option ax_R} (hc : code pc = S_newa t u n) (hE : ∀ a h', dx_le (F a h') (ax_run K code n L (.ref a :: st) h')) : dx_le (dx_na t u x h F) (ax_run K code pc L (.int x :: st) h) := dx_step hc (dx_gi (dx_none _) (hE _ _))
theorem e_newaa {x y : Int32} {F : Nat → ax_H → Option ax_R} (hc : code pc = S_newaa n) (hE : ∀ a h', dx_le (F a h') (ax_run K code n L (.ref a :: st) h')) : dx_le (dx_naa x y h F) (ax_run K code pc L (.int y :: .int x :: st) h) := dx_step hc (dx_gi (hE _ _) (dx_none _))
theorem e_max {x y : Int32} (hc : code pc = S_max n) (hl : st.length ≤ 4) (hE : dx_le E (ax_run K code n L (.int (dx_max x y) :: st) h)) : dx_le E (ax_run K code pc L (.int y :: .int x :: st) h) := dx_step hc (by
  show dx_le E (ax_go K code (if st.length ≤ 4 then _ else _)); rw [if_pos hl]; exact hE)
theorem e_min {x y : Int32} (hc : code pc = S_min n) (hl : st.length ≤ 4) (hE : dx_le E (ax_run K code n L (.int (dx_min x y) :: st) h)) : dx_le E (ax_run K code pc L (.int y :: .int x :: st) h) := dx_step hc (by
  show dx_le E (ax_go K code (if st.length ≤ 4 then _ else _)); rw [if_pos hl]; exact hE)
theorem e_acp {v w : Value} {x y z : Int32} {F : ax_H → Option ax_R} (hc : code pc = S_acp n) (hl : st.length ≤ 4) (hE : ∀ h', dx_le (F h') (ax_run K code n L st h')) : dx_le ((dx_acp v x w y z h).bind F) (ax_run K code pc L (.int z :: .int y :: w :: .int x :: v :: st) h) := dx_step hc (by
  cases v with
  | ref b =>
    cases w with
    | ref c =>
      show dx_le (Option.bind (if c < 400 then none else _) F) (ax_go K code (if c < 400 ∨ 4 < st.length then none else _))
      by_cases q : c < 400
      · rw [if_pos q]; exact dx_none _
      · rw [if_neg q, if_neg (fun z => z.elim q (Nat.not_lt.mpr hl))]
        cases ax_cp x y z (h.1 b) (h.1 c) with
        | none => exact dx_none _
        | some c => exact hE _
    | _ => exact dx_none _
  | _ => exact dx_none _)
theorem e_gcl {v : Value} (hc : code pc = S_gcl n) (hl : st.length ≤ 4) (hE : dx_le E (ax_run K code n L (.ref 6 :: st) h)) : dx_le (dx_gcl v h E) (ax_run K code pc L (v :: st) h) := dx_step hc (by
  cases v with
  | ref b =>
    show dx_le (if b < 400 then none else _) (ax_go K code (if b < 400 ∨ 4 < st.length then none else _))
    by_cases q : b < 400
    · rw [if_pos q]; exact dx_none _
    · rw [if_neg q, if_neg (fun z => z.elim q (Nat.not_lt.mpr hl))]
      generalize h.1 b = cc
      match cc with
      | .inl (4, _) => exact hE
      | .inl (0, _) => exact dx_none _
      | .inl (1, _) => exact dx_none _
      | .inl (2, _) => exact dx_none _
      | .inl (3, _) => exact dx_none _
      | .inl (_ + 5, _) => exact dx_none _
      | .inr _ => exact dx_none _
  | _ => exact dx_none _)
theorem e_cln {v : Value} {F : Nat → ax_H → Option ax_R} (hc : code pc = S_cln t n) (hl : st.length ≤ 4) (hE : ∀ a h', dx_le (F a h') (ax_run K code n L (.ref a :: st) h')) : dx_le (dx_cln t v h F) (ax_run K code pc L (v :: st) h) := dx_step hc (by
  cases v with
  | ref b =>
    show dx_le (if b < 400 then none else _) (ax_go K code (if b < 400 ∨ 4 < st.length then none else _))
    by_cases q : b < 400
    · rw [if_pos q]; exact dx_none _
    · rw [if_neg q, if_neg (fun z => z.elim q (Nat.not_lt.mpr hl))]
      cases ax_cln t (h.1 b) with
      | none => exact dx_none _
      | some c => exact hE _ _
  | _ => exact dx_none _)
theorem e_castA {v : Value} (hc : code pc = S_castA t n) (hE : dx_le E (ax_run K code n L (v :: st) h)) : dx_le (dx_cA t v h E) (ax_run K code pc L (v :: st) h) := dx_step hc (by
  cases v with
  | ref b =>
    show dx_le (if b < 400 then none else _) (ax_go K code (if b < 400 then none else _))
    by_cases q : b < 400
    · rw [if_pos q]; exact dx_none _
    · rw [if_neg q, if_neg q]
      generalize h.1 b = cc
      match cc with
      | .inl (t', _) =>
        show dx_le (if t' = t then E else none) (ax_go K code (if t' = t then _ else none))
        by_cases q2 : t' = t
        · rw [if_pos q2, if_pos q2]; exact hE
        · rw [if_neg q2]; exact dx_none _
      | .inr _ => exact dx_none _
  | _ => exact dx_none _)
theorem e_cast {oks : List Nat} {v : Value} (hc : code pc = S_cast oks n) (hE : dx_le E (ax_run K code n L (v :: st) h)) : dx_le (dx_cs oks v h E) (ax_run K code pc L (v :: st) h) := dx_step hc (by
  cases v with
  | ref b => exact dx_gb fun j => dx_gi hE (dx_none _)
  | null => exact hE
  | _ => exact dx_none _)
theorem e_inst {yes no : List Nat} {v : Value} {F : Int32 → Option ax_R} (hc : code pc = S_inst yes no n) (hE : ∀ x, dx_le (F x) (ax_run K code n L (.int x :: st) h)) : dx_le (dx_in yes no v h F) (ax_run K code pc L (v :: st) h) := dx_step hc (by
  cases v with
  | ref b => exact dx_gb fun j => dx_gi (hE 1) (dx_gi (hE 0) (dx_none _))
  | _ => exact dx_none _)
theorem e_iret {x : Int32} (hc : code pc = S_iret) : dx_le (some (.inl (some (.int x)), h)) (ax_run K code pc L [.int x] h) := dx_step hc (dx_refl _)
theorem e_zret {x : Int32} (hc : code pc = S_zret) : dx_le (if x = 0 ∨ x = 1 then some (.inl (some (.int x)), h) else none) (ax_run K code pc L [.int x] h) := dx_step hc (dx_gi (dx_refl _) (dx_none _))
theorem e_zret0 (hc : code pc = S_zret) : dx_le (some (.inl (some (.int 0)), h)) (ax_run K code pc L [.int 0] h) := fun r e => e_zret (x := 0) hc r (by rw [if_pos (Or.inl rfl)]; exact e)
theorem e_zret1 (hc : code pc = S_zret) : dx_le (some (.inl (some (.int 1)), h)) (ax_run K code pc L [.int 1] h) := fun r e => e_zret (x := 1) hc r (by rw [if_pos (Or.inr rfl)]; exact e)
theorem e_bret {x : Int32} (hc : code pc = S_bret) : dx_le (if ax_ft .byte (.int x) = true then some (.inl (some (.int x)), h) else none) (ax_run K code pc L [.int x] h) := dx_step hc (dx_gi (dx_refl _) (dx_none _))
theorem e_lret {x : Int64} (hc : code pc = S_lret) : dx_le (some (.inl (some (.long x)), h)) (ax_run K code pc L [.long x] h) := dx_step hc (dx_refl _)
theorem e_aret {v : Value} (hc : code pc = S_aret) (hv : ax_rv v = true) : dx_le (some (.inl (some v), h)) (ax_run K code pc L [v] h) := dx_step hc (by
  rcases dx_rv_cases hv with q | ⟨b, q⟩ <;> (subst q; exact dx_refl _))
theorem e_ret (hc : code pc = S_ret) : dx_le (some (.inl none, h)) (ax_run K code pc L [] h) := dx_step hc (dx_refl _)
theorem e_thr1 {tb : List (Nat × Nat)} {v w : Value} {L : ax_L} (hc : code pc = S_thr1 tb) (hw : ax_rv w = true) : dx_le (dx_th tb v h) (ax_run K code pc (some v :: some w :: L) [] h) := dx_step hc (by
  cases v with
  | ref o =>
    show dx_le (if o < 400 then none else _) (ax_go K code (if o < 400 ∨ ax_rv w = false then none else _))
    by_cases q : o < 400
    · rw [if_pos q]; exact dx_none _
    · rw [if_neg q, if_neg (by rw [hw]; intro z; rcases z with z | z; exact q z; cases z)]
      refine dx_gb fun b => ?_
      cases b <;> first | exact dx_refl _ | exact dx_none _
  | _ => exact dx_none _)
theorem e_thr2 {tb : List (Nat × Nat)} {v w x : Value} {L : ax_L} (hc : code pc = S_thr2 tb) (hw : ax_rv w = true) (hx : ax_rv x = true) : dx_le (dx_th tb v h) (ax_run K code pc (some v :: some w :: some x :: L) [] h) := dx_step hc (by
  cases v with
  | ref o =>
    show dx_le (if o < 400 then none else _) (ax_go K code (if o < 400 ∨ ax_rv w = false ∨ ax_rv x = false then none else _))
    by_cases q : o < 400
    · rw [if_pos q]; exact dx_none _
    · rw [if_neg q, if_neg (by rw [hw, hx]; intro z; rcases z with z | z | z; exact q z; cases z; cases z)]
      refine dx_gb fun b => ?_
      cases b <;> first | exact dx_refl _ | exact dx_none _
  | _ => exact dx_none _)
/-! what is thrown -/
theorem e_xp {hd : Nat → Option (Option Nat)} {i : Nat} {H : Nat → Option ax_R} (hH : ∀ pc, dx_le (H pc) (ax_run K code pc L [.ref i] h)) : dx_le (dx_xp hd i h H) (ax_go K code (ax_th L hd i h)) := by
  unfold dx_xp ax_th
  refine dx_gi (dx_none _) (dx_gb fun k => dx_gb fun o => ?_)
  cases o with
  | none => exact dx_refl _
  | some pc => exact hH pc
theorem e_x0 {i : Nat} : dx_le (dx_x0 i h) (ax_go K code (ax_th L hd_0 i h)) := e_xp fun _ => dx_none _
theorem e_hn (i : Nat) : ∀ pc, dx_le ((fun _ => none : Nat → Option ax_R) pc) (ax_run K code pc L [.ref i] h) := fun _ => dx_none _
theorem e_hc {i p : Nat} {A : Option ax_R} {H : Nat → Option ax_R} (h1 : dx_le A (ax_run K code p L [.ref i] h)) (h2 : ∀ pc, dx_le (H pc) (ax_run K code pc L [.ref i] h)) : ∀ pc, dx_le ((fun pc => if pc = p then A else H pc) pc) (ax_run K code pc L [.ref i] h) := by
  intro pc
  show dx_le (if pc = p then A else H pc) _
  by_cases q : pc = p
  · rw [if_pos q, q]; exact h1
  · rw [if_neg q]; exact h2 pc
theorem e_athrow {hd : Nat → Option (Option Nat)} {v : Value} {H : Nat → Nat → Option ax_R} (hc : code pc = S_athrow hd) (hH : ∀ i pc, dx_le (H i pc) (ax_run K code pc L [.ref i] h)) : dx_le (dx_ath hd v h H) (ax_run K code pc L (v :: st) h) := dx_step hc (by
  cases v <;> first | exact dx_none _ | exact e_xp (hH _))
theorem dx_ccbk {rest : List Value} {hd : Nat → Option (Option Nat)} {x : Option ax_R} {F : Option Value → ax_H → Option ax_R} {X : Nat → ax_H → Option ax_R} (hE : ∀ v h', dx_le (F v h') (ax_run K code n L (v.toList ++ rest) h')) (hX : ∀ i h', dx_le (X i h') (ax_go K code (ax_th L hd i h'))) : dx_le (dx_cc x F X) (ax_go K code (x.bind (ax_bk n L rest hd))) := by
  cases x with
  | none => exact dx_none _
  | some r =>
    obtain ⟨r1, r2⟩ := r
    cases r1 with
    | inl v => exact hE v r2
    | inr i => exact hX i r2
theorem e_is {hd : Nat → Option (Option Nat)} {as rest : List Value} {F : Option Value → ax_H → Option ax_R} {X : Nat → ax_H → Option ax_R} (hc : code pc = S_is k a n hd) (hz : a ≤ st.length) (ha : (st.take a).reverse = as) (hr : st.drop a = rest) (hl : rest.length ≤ 4) (hX : ∀ i h', dx_le (X i h') (ax_go K code (ax_th L hd i h'))) (hE : ∀ v h', dx_le (F v h') (ax_run K code n L (v.toList ++ rest) h')) : dx_le (dx_cc (K k as h) F X) (ax_run K code pc L st h) := dx_step hc (by
  subst ha hr
  unfold S_is
  rw [if_pos ⟨hz, hl⟩]
  exact dx_ccbk hE hX)
theorem e_isp {hd : Nat → Option (Option Nat)} {as rest : List Value} {v : Value} {F : Option Value → ax_H → Option ax_R} {X : Nat → ax_H → Option ax_R} (hc : code pc = S_isp k a n hd) (ha : (st.take a).reverse = as) (hr : st.drop a = v :: rest) (hl : rest.length ≤ 4) (hX : ∀ i h', dx_le (X i h') (ax_go K code (ax_th L hd i h'))) (hE : ∀ v h', dx_le (F v h') (ax_run K code n L (v.toList ++ rest) h')) : dx_le (dx_nn v (dx_cc (K k (v :: as) h) F X)) (ax_run K code pc L st h) := dx_step hc (by
  subst ha
  unfold S_isp
  rw [hr]
  cases v with
  | ref o =>
    show dx_le _ (ax_go K code (if rest.length ≤ 4 then _ else none))
    rw [if_pos hl]
    exact dx_ccbk hE hX
  | _ => exact dx_none _)
theorem e_iv {tb : List (Nat × Nat)} {hd : Nat → Option (Option Nat)} {as rest : List Value} {v : Value} {F : Option Value → ax_H → Option ax_R} {X : Nat → ax_H → Option ax_R} (hc : code pc = S_iv tb a n hd) (ha : (st.take a).reverse = as) (hr : st.drop a = v :: rest) (hl : rest.length ≤ 4) (hX : ∀ i h', dx_le (X i h') (ax_go K code (ax_th L hd i h'))) (hE : ∀ v h', dx_le (F v h') (ax_run K code n L (v.toList ++ rest) h')) : dx_le ((dx_vn tb v h).bind fun k => dx_cc (K k (v :: as) h) F X) (ax_run K code pc L st h) := dx_step hc (by
  subst ha
  unfold S_iv
  rw [hr]
  cases v with
  | ref o =>
    show dx_le (Option.bind ((ax_ci (h.1 o)).bind fun c => tb.lookup c) _) (ax_go K code (if rest.length ≤ 4 then _ else none))
    rw [if_pos hl]
    cases ax_ci (h.1 o) with
    | none => exact dx_none _
    | some c =>
      show dx_le (Option.bind (tb.lookup c) _) (ax_go K code ((tb.lookup c).bind _))
      cases tb.lookup c with
      | none => exact dx_none _
      | some k => exact dx_ccbk hE hX
  | _ => exact dx_none _)
/-! typed answers -/
theorem e_tI {rest : List Value} {F : Int32 → ax_H → Option ax_R} (hE : ∀ x h', dx_le (F x h') (ax_run K code n L (.int x :: rest) h')) : ∀ (v : Option Value) (h' : ax_H), dx_le (dx_fI F v h') (ax_run K code n L (v.toList ++ rest) h') := by
  intro v h'
  cases v with
  | none => exact dx_none _
  | some v => cases v <;> first | exact hE _ _ | exact dx_none _
theorem e_tJ {rest : List Value} {F : Int64 → ax_H → Option ax_R} (hE : ∀ x h', dx_le (F x h') (ax_run K code n L (.long x :: rest) h')) : ∀ (v : Option Value) (h' : ax_H), dx_le (dx_fJ F v h') (ax_run K code n L (v.toList ++ rest) h') := by
  intro v h'
  cases v with
  | none => exact dx_none _
  | some v => cases v <;> first | exact hE _ _ | exact dx_none _
theorem e_tV {rest : List Value} {F : ax_H → Option ax_R} (hE : ∀ h', dx_le (F h') (ax_run K code n L rest h')) : ∀ (v : Option Value) (h' : ax_H), dx_le (dx_fV F v h') (ax_run K code n L (v.toList ++ rest) h') := by
  intro v h'
  cases v with
  | none => exact hE _
  | some v => exact dx_none _
theorem e_tR {rest : List Value} {F : Value → ax_H → Option ax_R} (hE : ∀ x h', ax_rv x = true → dx_le (F x h') (ax_run K code n L (x :: rest) h')) : ∀ (v : Option Value) (h' : ax_H), dx_le (dx_fR F v h') (ax_run K code n L (v.toList ++ rest) h') := by
  intro v h'
  cases v with
  | none => exact dx_none _
  | some v =>
    show dx_le (if ax_rv v = true then F v h' else none) _
    by_cases q : ax_rv v = true
    · rw [if_pos q]; exact hE _ _ q
    · rw [if_neg q]; exact dx_none _
theorem e_isI {hd : Nat → Option (Option Nat)} {as rest : List Value} {F : Int32 → ax_H → Option ax_R} {X : Nat → ax_H → Option ax_R} (hc : code pc = S_is k a n hd) (hz : a ≤ st.length) (ha : (st.take a).reverse = as) (hr : st.drop a = rest) (hl : rest.length ≤ 4) (hX : ∀ i h', dx_le (X i h') (ax_go K code (ax_th L hd i h'))) (hE : ∀ x h', dx_le (F x h') (ax_run K code n L (.int x :: rest) h')) : dx_le (dx_cI (K k as h) F X) (ax_run K code pc L st h) := e_is hc hz ha hr hl hX (e_tI hE)
theorem e_ispI {hd : Nat → Option (Option Nat)} {as rest : List Value} {v : Value} {F : Int32 → ax_H → Option ax_R} {X : Nat → ax_H → Option ax_R} (hc : code pc = S_isp k a n hd) (ha : (st.take a).reverse = as) (hr : st.drop a = v :: rest) (hl : rest.length ≤ 4) (hX : ∀ i h', dx_le (X i h') (ax_go K code (ax_th L hd i h'))) (hE : ∀ x h', dx_le (F x h') (ax_run K code n L (.int x :: rest) h')) : dx_le (dx_nn v (dx_cI (K k (v :: as) h) F X)) (ax_run K code pc L st h) := e_isp hc ha hr hl hX (e_tI hE)
theorem e_isprI {hd : Nat → Option (Option Nat)} {as rest : List Value} {o : Nat} {F : Int32 → ax_H → Option ax_R} {X : Nat → ax_H → Option ax_R} (hc : code pc = S_isp k a n hd) (ha : (st.take a).reverse = as) (hr : st.drop a = .ref o :: rest) (hl : rest.length ≤ 4) (hX : ∀ i h', dx_le (X i h') (ax_go K code (ax_th L hd i h'))) (hE : ∀ x h', dx_le (F x h') (ax_run K code n L (.int x :: rest) h')) : dx_le (dx_cI (K k (.ref o :: as) h) F X) (ax_run K code pc L st h) := e_isp (v := .ref o) hc ha hr hl hX (e_tI hE)
theorem e_ivI {tb : List (Nat × Nat)} {hd : Nat → Option (Option Nat)} {as rest : List Value} {v : Value} {F : Int32 → ax_H → Option ax_R} {X : Nat → ax_H → Option ax_R} (hc : code pc = S_iv tb a n hd) (ha : (st.take a).reverse = as) (hr : st.drop a = v :: rest) (hl : rest.length ≤ 4) (hX : ∀ i h', dx_le (X i h') (ax_go K code (ax_th L hd i h'))) (hE : ∀ x h', dx_le (F x h') (ax_run K code n L (.int x :: rest) h')) : dx_le ((dx_vn tb v h).bind fun k => dx_cI (K k (v :: as) h) F X) (ax_run K code pc L st h) := e_iv hc ha hr hl hX (e_tI hE)
theorem e_isJ {hd : Nat → Option (Option Nat)} {as rest : List Value} {F : Int64 → ax_H → Option ax_R} {X : Nat → ax_H → Option ax_R} (hc : code pc = S_is k a n hd) (hz : a ≤ st.length) (ha : (st.take a).reverse = as) (hr : st.drop a = rest) (hl : rest.length ≤ 4) (hX : ∀ i h', dx_le (X i h') (ax_go K code (ax_th L hd i h'))) (hE : ∀ x h', dx_le (F x h') (ax_run K code n L (.long x :: rest) h')) : dx_le (dx_cJ (K k as h) F X) (ax_run K code pc L st h) := e_is hc hz ha hr hl hX (e_tJ hE)
theorem e_ispJ {hd : Nat → Option (Option Nat)} {as rest : List Value} {v : Value} {F : Int64 → ax_H → Option ax_R} {X : Nat → ax_H → Option ax_R} (hc : code pc = S_isp k a n hd) (ha : (st.take a).reverse = as) (hr : st.drop a = v :: rest) (hl : rest.length ≤ 4) (hX : ∀ i h', dx_le (X i h') (ax_go K code (ax_th L hd i h'))) (hE : ∀ x h', dx_le (F x h') (ax_run K code n L (.long x :: rest) h')) : dx_le (dx_nn v (dx_cJ (K k (v :: as) h) F X)) (ax_run K code pc L st h) := e_isp hc ha hr hl hX (e_tJ hE)
theorem e_isprJ {hd : Nat → Option (Option Nat)} {as rest : List Value} {o : Nat} {F : Int64 → ax_H → Option ax_R} {X : Nat → ax_H → Option ax_R} (hc : code pc = S_isp k a n hd) (ha : (st.take a).reverse = as) (hr : st.drop a = .ref o :: rest) (hl : rest.length ≤ 4) (hX : ∀ i h', dx_le (X i h') (ax_go K code (ax_th L hd i h'))) (hE : ∀ x h', dx_le (F x h') (ax_run K code n L (.long x :: rest) h')) : dx_le (dx_cJ (K k (.ref o :: as) h) F X) (ax_run K code pc L st h) := e_isp (v := .ref o) hc ha hr hl hX (e_tJ hE)
theorem e_ivJ {tb : List (Nat × Nat)} {hd : Nat → Option (Option Nat)} {as rest : List Value} {v : Value} {F : Int64 → ax_H → Option ax_R} {X : Nat → ax_H → Option ax_R} (hc : code pc = S_iv tb a n hd) (ha : (st.take a).reverse = as) (hr : st.drop a = v :: rest) (hl : rest.length ≤ 4) (hX : ∀ i h', dx_le (X i h') (ax_go K code (ax_th L hd i h'))) (hE : ∀ x h', dx_le (F x h') (ax_run K code n L (.long x :: rest) h')) : dx_le ((dx_vn tb v h).bind fun k => dx_cJ (K k (v :: as) h) F X) (ax_run K code pc L st h) := e_iv hc ha hr hl hX (e_tJ hE)
theorem e_isV {hd : Nat → Option (Option Nat)} {as rest : List Value} {F : ax_H → Option ax_R} {X : Nat → ax_H → Option ax_R} (hc : code pc = S_is k a n hd) (hz : a ≤ st.length) (ha : (st.take a).reverse = as) (hr : st.drop a = rest) (hl : rest.length ≤ 4) (hX : ∀ i h', dx_le (X i h') (ax_go K code (ax_th L hd i h'))) (hE : ∀ h', dx_le (F h') (ax_run K code n L rest h')) : dx_le (dx_cV (K k as h) F X) (ax_run K code pc L st h) := e_is hc hz ha hr hl hX (e_tV hE)
theorem e_ispV {hd : Nat → Option (Option Nat)} {as rest : List Value} {v : Value} {F : ax_H → Option ax_R} {X : Nat → ax_H → Option ax_R} (hc : code pc = S_isp k a n hd) (ha : (st.take a).reverse = as) (hr : st.drop a = v :: rest) (hl : rest.length ≤ 4) (hX : ∀ i h', dx_le (X i h') (ax_go K code (ax_th L hd i h'))) (hE : ∀ h', dx_le (F h') (ax_run K code n L rest h')) : dx_le (dx_nn v (dx_cV (K k (v :: as) h) F X)) (ax_run K code pc L st h) := e_isp hc ha hr hl hX (e_tV hE)
theorem e_isprV {hd : Nat → Option (Option Nat)} {as rest : List Value} {o : Nat} {F : ax_H → Option ax_R} {X : Nat → ax_H → Option ax_R} (hc : code pc = S_isp k a n hd) (ha : (st.take a).reverse = as) (hr : st.drop a = .ref o :: rest) (hl : rest.length ≤ 4) (hX : ∀ i h', dx_le (X i h') (ax_go K code (ax_th L hd i h'))) (hE : ∀ h', dx_le (F h') (ax_run K code n L rest h')) : dx_le (dx_cV (K k (.ref o :: as) h) F X) (ax_run K code pc L st h) := e_isp (v := .ref o) hc ha hr hl hX (e_tV hE)
theorem e_ivV {tb : List (Nat × Nat)} {hd : Nat → Option (Option Nat)} {as rest : List Value} {v : Value} {F : ax_H → Option ax_R} {X : Nat → ax_H → Option ax_R} (hc : code pc = S_iv tb a n hd) (ha : (st.take a).reverse = as) (hr : st.drop a = v :: rest) (hl : rest.length ≤ 4) (hX : ∀ i h', dx_le (X i h') (ax_go K code (ax_th L hd i h'))) (hE : ∀ h', dx_le (F h') (ax_run K code n L rest h')) : dx_le ((dx_vn tb v h).bind fun k => dx_cV (K k (v :: as) h) F X) (ax_run K code pc L st h) := e_iv hc ha hr hl hX (e_tV hE)
theorem e_isR {hd : Nat → Option (Option Nat)} {as rest : List Value} {F : Value → ax_H → Option ax_R} {X : Nat → ax_H → Option ax_R} (hc : code pc = S_is k a n hd) (hz : a ≤ st.length) (ha : (st.take a).reverse = as) (hr : st.drop a = rest) (hl : rest.length ≤ 4) (hX : ∀ i h', dx_le (X i h') (ax_go K code (ax_th L hd i h'))) (hE : ∀ x h', ax_rv x = true → dx_le (F x h') (ax_run K code n L (x :: rest) h')) : dx_le (dx_cR (K k as h) F X) (ax_run K code pc L st h) := e_is hc hz ha hr hl hX (e_tR hE)
theorem e_ispR {hd : Nat → Option (Option Nat)} {as rest : List Value} {v : Value} {F : Value → ax_H → Option ax_R} {X : Nat → ax_H → Option ax_R} (hc : code pc = S_isp k a n hd) (ha : (st.take a).reverse = as) (hr : st.drop a = v :: rest) (hl : rest.length ≤ 4) (hX : ∀ i h', dx_le (X i h') (ax_go K code (ax_th L hd i h'))) (hE : ∀ x h', ax_rv x = true → dx_le (F x h') (ax_run K code n L (x :: rest) h')) : dx_le (dx_nn v (dx_cR (K k (v :: as) h) F X)) (ax_run K code pc L st h) := e_isp hc ha hr hl hX (e_tR hE)
theorem e_isprR {hd : Nat → Option (Option Nat)} {as rest : List Value} {o : Nat} {F : Value → ax_H → Option ax_R} {X : Nat → ax_H → Option ax_R} (hc : code pc = S_isp k a n hd) (ha : (st.take a).reverse = as) (hr : st.drop a = .ref o :: rest) (hl : rest.length ≤ 4) (hX : ∀ i h', dx_le (X i h') (ax_go K code (ax_th L hd i h'))) (hE : ∀ x h', ax_rv x = true → dx_le (F x h') (ax_run K code n L (x :: rest) h')) : dx_le (dx_cR (K k (.ref o :: as) h) F X) (ax_run K code pc L st h) := e_isp (v := .ref o) hc ha hr hl hX (e_tR hE)
theorem e_ivR {tb : List (Nat × Nat)} {hd : Nat → Option (Option Nat)} {as rest : List Value} {v : Value} {F : Value → ax_H → Option ax_R} {X : Nat → ax_H → Option ax_R} (hc : code pc = S_iv tb a n hd) (ha : (st.take a).reverse = as) (hr : st.drop a = v :: rest) (hl : rest.length ≤ 4) (hX : ∀ i h', dx_le (X i h') (ax_go K code (ax_th L hd i h'))) (hE : ∀ x h', ax_rv x = true → dx_le (F x h') (ax_run K code n L (x :: rest) h')) : dx_le ((dx_vn tb v h).bind fun k => dx_cR (K k (v :: as) h) F X) (ax_run K code pc L st h) := e_iv hc ha hr hl hX (e_tR hE)
/-- the head of a block that is come to: its locals may know less -/
theorem e_wk {L0 : ax_L} (hm : ∀ pc, dx_mn (code pc)) (hL : dx_ll L0 L) : dx_le (ax_run K code pc L0 st h) (ax_run K code pc L st h) := dx_run_mono hm (fun _ _ _ _ e => e) hL
end EE
theorem ll_n : dx_ll [] [] := trivial
theorem ll_0 {A B : ax_L} {b : Option Value} (h : dx_ll A B) : dx_ll (none :: A) (b :: B) := ⟨Or.inl rfl, h⟩
theorem ll_1 {A B : ax_L} {b : Option Value} (h : dx_ll A B) : dx_ll (b :: A) (b :: B) := ⟨Or.inr rfl, h⟩
/-! a method's entry -/
def dx_ag (as : List Value) (L : ax_L) : Prop := ax_arg as = L ∧ (lg_sl as).length = L.length
theorem ag_n : dx_ag [] [] := ⟨rfl, rfl⟩
theorem ag_I {x : Int32} {as : List Value} {L : ax_L} (h : dx_ag as L) : dx_ag (.int x :: as) (some (.int x) :: L) := by
  refine ⟨by rw [← h.1]; rfl, ?_⟩
  have := h.2
  simp [lg_sl, Value.category] at this ⊢
  omega
theorem ag_J {x : Int64} {as : List Value} {L : ax_L} (h : dx_ag as L) : dx_ag (.long x :: as) (some (.long x) :: none :: L) := by
  refine ⟨by rw [← h.1]; rfl, ?_⟩
  have := h.2
  simp [lg_sl, Value.category] at this ⊢
  omega
theorem ag_A {v : Value} {as : List Value} {L : ax_L} (hv : ax_rv v = true) (h : dx_ag as L) : dx_ag (v :: as) (some v :: L) := by
  rcases dx_rv_cases hv with q | ⟨b, q⟩ <;> subst q
  · refine ⟨by rw [← h.1]; rfl, ?_⟩
    have := h.2
    simp [lg_sl, Value.category] at this ⊢
    omega
  · refine ⟨by rw [← h.1]; rfl, ?_⟩
    have := h.2
    simp [lg_sl, Value.category] at this ⊢
    omega
theorem e_entry {d k n : Nat} {code : Nat → ax_S} {as : List Value} {L L' : ax_L} {h : ax_H} {E : Option ax_R} (e : ax_P k = (n, code)) (ha : dx_ag as L) (hn : L.length ≤ n) (hL : L ++ List.replicate (n - L.length) none = L') (hE : dx_le E (ax_run (ax_c d) code 0 L' [] h)) : dx_le E (ax_c (d + 1) k as h) := by
  have h1 : ax_args n as = L' := by
    unfold ax_args
    rw [ha.1]
    exact hL
  have h2 : ax_c (d + 1) k as h = ax_run (ax_c d) code 0 (ax_args n as) [] h := ax_call_eq e (by rw [ha.2]; exact hn)
  rw [h2, h1]
  exact hE
