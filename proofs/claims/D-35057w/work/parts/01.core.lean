/-! A small pure machine: its heap, its instructions, its runs. Cells lie at positions: below 400 what was there before the law began, from 400 on what it makes. -/
abbrev ax_C : Type := va_E
abbrev ax_H : Type := (Nat → ax_C) × Nat × Nat
abbrev ax_R : Type := (Option Value ⊕ Nat) × ax_H
abbrev ax_L : Type := List (Option Value)
abbrev ax_F : Type := Nat × ax_L × List Value × ax_H
abbrev ax_O : Type := Option (ax_F ⊕ ax_R)
abbrev ax_K : Type := Nat → List Value → ax_H → Option ax_R
abbrev ax_S : Type := ax_K → ax_L → List Value → ax_H → ax_O
abbrev ax_T : Type := Nat → Nat × (Nat → ax_S)
def ax_set (h : ax_H) (i : Nat) (c : ax_C) : ax_H := (fun j => if j = i then c else h.1 j, h.2)
def ax_new (h : ax_H) (c : ax_C) (w : Nat) : ax_H := (fun j => if j = 400 + h.2.1 then c else h.1 j, h.2.1 + 1, h.2.2 + w)
def ax_ci (c : ax_C) : Option Nat := match c with
  | .inr o => some o.1
  | .inl _ => none
def ax_gf (tb : List (Nat × Nat)) (c : ax_C) : Option Value := match c with
  | .inr o => (tb.lookup o.1).bind fun j => o.2[j]?
  | .inl _ => none
def ax_ft (ty : FieldType) (v : Value) : Bool := decide (narrow ty v = v) && fits ty v
def ax_pf (tb : List (Nat × Nat)) (ty : FieldType) (v : Value) (c : ax_C) : Option ax_C := match c with
  | .inr o => (tb.lookup o.1).bind fun j => if j < o.2.length then (if ax_ft ty v = true then some (.inr (o.1, o.2.set j v)) else none) else none
  | .inl _ => none
/-- an element of an array of ints (booleans, bytes, chars) -/
def ax_al (t : Nat) (i : Int32) (c : ax_C) : Option Int32 := match c with
  | .inl (t', n, .inl f) => if t' = t then (if i < 0 ∨ n ≤ i.toNatClampNeg then none else some (f i.toNatClampNeg)) else none
  | _ => none
def ax_ll (t : Nat) (i : Int32) (c : ax_C) : Option Int64 := match c with
  | .inl (t', n, .inr (.inl f)) => if t' = t then (if i < 0 ∨ n ≤ i.toNatClampNeg then none else some (f i.toNatClampNeg)) else none
  | _ => none
def ax_rl (t : Nat) (i : Int32) (c : ax_C) : Option Value := match c with
  | .inl (t', n, .inr (.inr (.inr (.inr f)))) => if t' = t then (if i < 0 ∨ n ≤ i.toNatClampNeg then none else some (va_rf (f i.toNatClampNeg))) else none
  | _ => none
def ax_as (t : Nat) (i x : Int32) (c : ax_C) : Option ax_C := match c with
  | .inl (t', n, .inl f) => if t' = t then (if i < 0 ∨ n ≤ i.toNatClampNeg then none else some (.inl (t', n, .inl (upd f i.toNatClampNeg x)))) else none
  | _ => none
def ax_ls (t : Nat) (i : Int32) (x : Int64) (c : ax_C) : Option ax_C := match c with
  | .inl (t', n, .inr (.inl f)) => if t' = t then (if i < 0 ∨ n ≤ i.toNatClampNeg then none else some (.inl (t', n, .inr (.inl (vp_updL f i.toNatClampNeg x))))) else none
  | _ => none
def ax_rs (t : Nat) (i : Int32) (x : Option Nat) (c : ax_C) : Option ax_C := match c with
  | .inl (t', n, .inr (.inr (.inr (.inr f)))) => if t' = t then (if i < 0 ∨ n ≤ i.toNatClampNeg then none else some (.inl (t', n, .inr (.inr (.inr (.inr (va_up f i.toNatClampNeg x))))))) else none
  | _ => none
def ax_len (c : ax_C) : Option Nat := match c with
  | .inl a => some a.2.1
  | .inr _ => none
/-- locals -/
def ax_li : ax_L → Nat → Option Int32
  | some (.int x) :: _, 0 => some x
  | _ :: L, i + 1 => ax_li L i
  | _, _ => none
def ax_ll2 : ax_L → Nat → Option Int64
  | some (.long x) :: _, 0 => some x
  | _ :: L, i + 1 => ax_ll2 L i
  | _, _ => none
def ax_la : ax_L → Nat → Option Value
  | some (.ref x) :: _, 0 => some (.ref x)
  | some .null :: _, 0 => some .null
  | _ :: L, i + 1 => ax_la L i
  | _, _ => none
def ax_nl (a : Option Value) : Option Value := match a with
  | some (.long _) => none
  | some (.double _) => none
  | b => b
def ax_sto : ax_L → Nat → Value → ax_L
  | [], _, _ => []
  | _ :: L, 0, v => some v :: L
  | [_], 1, _ => []
  | a :: _ :: L, 1, v => ax_nl a :: some v :: L
  | a :: L, i + 2, v => a :: ax_sto L (i + 1) v
def ax_sto2 : ax_L → Nat → Value → ax_L
  | [], _, _ => []
  | [_], 0, _ => []
  | _ :: _ :: L, 0, v => some v :: none :: L
  | a :: _ :: _ :: L, 1, v => ax_nl a :: some v :: none :: L
  | _ :: _, 1, _ => []
  | a :: L, i + 2, v => a :: ax_sto2 L (i + 1) v
def ax_arg : List Value → ax_L
  | [] => []
  | .long x :: r => some (.long x) :: none :: ax_arg r
  | .int x :: r => some (.int x) :: ax_arg r
  | .ref x :: r => some (.ref x) :: ax_arg r
  | .null :: r => some .null :: ax_arg r
  | _ :: _ => []
def ax_args (n : Nat) (as : List Value) : ax_L := ax_arg as ++ List.replicate (n - (ax_arg as).length) none
def ax_rv (v : Value) : Bool := match v with
  | .ref _ => true
  | .null => true
  | _ => false
def ax_c1 (v : Value) : Bool := match v with
  | .ref _ => true
  | .null => true
  | .int _ => true
  | _ => false
/-- instructions -/
def S_stop : ax_S := fun _ _ _ _ => none
def S_push (v : Value) (n : Nat) : ax_S := fun _ L st h => some (.inl (n, L, v :: st, h))
def S_iload (i n : Nat) : ax_S := fun _ L st h => (ax_li L i).bind fun x => some (.inl (n, L, .int x :: st, h))
def S_lload (i n : Nat) : ax_S := fun _ L st h => (ax_ll2 L i).bind fun x => some (.inl (n, L, .long x :: st, h))
def S_aload (i n : Nat) : ax_S := fun _ L st h => (ax_la L i).bind fun x => some (.inl (n, L, x :: st, h))
def S_istore (i n : Nat) : ax_S := fun _ L st h => match st with
  | .int x :: st => some (.inl (n, ax_sto L i (.int x), st, h))
  | _ => none
def S_lstore (i n : Nat) : ax_S := fun _ L st h => match st with
  | .long x :: st => some (.inl (n, ax_sto2 L i (.long x), st, h))
  | _ => none
def S_astore (i n : Nat) : ax_S := fun _ L st h => match st with
  | .ref x :: st => some (.inl (n, ax_sto L i (.ref x), st, h))
  | .null :: st => some (.inl (n, ax_sto L i .null, st, h))
  | _ => none
def S_iinc (i : Nat) (k : Int32) (n : Nat) : ax_S := fun _ L st h => (ax_li L i).bind fun x => some (.inl (n, ax_sto L i (.int (x + k)), st, h))
def S_i1 (f : Int32 → Int32) (n : Nat) : ax_S := fun _ L st h => match st with
  | .int x :: st => some (.inl (n, L, .int (f x) :: st, h))
  | _ => none
def S_i2 (f : Int32 → Int32 → Int32) (n : Nat) : ax_S := fun _ L st h => match st with
  | .int y :: .int x :: st => some (.inl (n, L, .int (f x y) :: st, h))
  | _ => none
def S_id (f : Int32 → Int32 → Int32) (n : Nat) : ax_S := fun _ L st h => match st with
  | .int y :: .int x :: st => if y = 0 then none else some (.inl (n, L, .int (f x y) :: st, h))
  | _ => none
def S_l2 (f : Int64 → Int64 → Int64) (n : Nat) : ax_S := fun _ L st h => match st with
  | .long y :: .long x :: st => some (.inl (n, L, .long (f x y) :: st, h))
  | _ => none
def S_ld (f : Int64 → Int64 → Int64) (n : Nat) : ax_S := fun _ L st h => match st with
  | .long y :: .long x :: st => if y = 0 then none else some (.inl (n, L, .long (f x y) :: st, h))
  | _ => none
def S_lsh (f : Int64 → Int32 → Int64) (n : Nat) : ax_S := fun _ L st h => match st with
  | .int y :: .long x :: st => some (.inl (n, L, .long (f x y) :: st, h))
  | _ => none
def S_lcmp (n : Nat) : ax_S := fun _ L st h => match st with
  | .long y :: .long x :: st => some (.inl (n, L, .int (lg_cmp x y) :: st, h))
  | _ => none
def S_i2l (n : Nat) : ax_S := fun _ L st h => match st with
  | .int x :: st => some (.inl (n, L, .long x.toInt64 :: st, h))
  | _ => none
def S_l2i (n : Nat) : ax_S := fun _ L st h => match st with
  | .long x :: st => some (.inl (n, L, .int x.toInt32 :: st, h))
  | _ => none
def S_if1 (c : Int32 → Bool) (t n : Nat) : ax_S := fun _ L st h => match st with
  | .int x :: st => some (.inl (if c x = true then t else n, L, st, h))
  | _ => none
def S_if2 (c : Int32 → Int32 → Bool) (t n : Nat) : ax_S := fun _ L st h => match st with
  | .int y :: .int x :: st => some (.inl (if c x y = true then t else n, L, st, h))
  | _ => none
def S_null (t n : Nat) : ax_S := fun _ L st h => match st with
  | .null :: st => some (.inl (t, L, st, h))
  | .ref _ :: st => some (.inl (n, L, st, h))
  | _ => none
def S_acmp (t n : Nat) : ax_S := fun _ L st h => match st with
  | .null :: .null :: st => some (.inl (t, L, st, h))
  | .ref _ :: .null :: st => some (.inl (n, L, st, h))
  | .null :: .ref _ :: st => some (.inl (n, L, st, h))
  | .ref a :: .ref b :: st => if b = a then some (.inl (t, L, st, h)) else if (a < 400 ∧ b < 400) ∨ a = 6 ∨ b = 6 then none else some (.inl (n, L, st, h))
  | _ => none
def S_goto (n : Nat) : ax_S := fun _ L st h => some (.inl (n, L, st, h))
def S_dup (n : Nat) : ax_S := fun _ L st h => match st with
  | v :: st => if ax_c1 v = true then some (.inl (n, L, v :: v :: st, h)) else none
  | _ => none
def S_pop (n : Nat) : ax_S := fun _ L st h => match st with
  | v :: st => if ax_c1 v = true then some (.inl (n, L, st, h)) else none
  | _ => none
/-- Object's own constructor -/
def S_oin (n : Nat) : ax_S := fun _ L st h => match st with
  | .ref _ :: st => if st.length ≤ 4 then some (.inl (n, L, st, h)) else none
  | _ => none
def S_dupx1 (n : Nat) : ax_S := fun _ L st h => match st with
  | v :: w :: st => if ax_c1 v = true then (if ax_c1 w = true then some (.inl (n, L, v :: w :: v :: st, h)) else none) else none
  | _ => none
def S_dup2 (n : Nat) : ax_S := fun _ L st h => match st with
  | v :: w :: st => if ax_c1 v = true then (if ax_c1 w = true then some (.inl (n, L, v :: w :: v :: w :: st, h)) else none) else none
  | _ => none
def S_tsw (lo hi : Int) (ts : List Nat) (t : Nat) : ax_S := fun _ L st h => match st with
  | .int x :: st => if x.toInt < lo ∨ hi < x.toInt then some (.inl (t, L, st, h)) else (ts[(x.toInt - lo).toNat]?).bind fun k => some (.inl (k, L, st, h))
  | _ => none
def S_getf (tb : List (Nat × Nat)) (n : Nat) : ax_S := fun _ L st h => match st with
  | .ref o :: st => (ax_gf tb (h.1 o)).bind fun v => some (.inl (n, L, v :: st, h))
  | _ => none
def S_putf (tb : List (Nat × Nat)) (ty : FieldType) (n : Nat) : ax_S := fun _ L st h => match st with
  | v :: .ref o :: st => if o < 400 then none else (ax_pf tb ty v (h.1 o)).bind fun c => some (.inl (n, L, st, ax_set h o c))
  | _ => none
def S_iald (t n : Nat) : ax_S := fun _ L st h => match st with
  | .int i :: .ref a :: st => (ax_al t i (h.1 a)).bind fun x => some (.inl (n, L, .int x :: st, h))
  | _ => none
def S_lald (t n : Nat) : ax_S := fun _ L st h => match st with
  | .int i :: .ref a :: st => (ax_ll t i (h.1 a)).bind fun x => some (.inl (n, L, .long x :: st, h))
  | _ => none
def S_aald (t n : Nat) : ax_S := fun _ L st h => match st with
  | .int i :: .ref a :: st => (ax_rl t i (h.1 a)).bind fun x => some (.inl (n, L, x :: st, h))
  | _ => none
def S_iast (t : Nat) (w : Int32 → Int32) (n : Nat) : ax_S := fun _ L st h => match st with
  | .int x :: .int i :: .ref a :: st => if a < 400 then none else (ax_as t i (w x) (h.1 a)).bind fun c => some (.inl (n, L, st, ax_set h a c))
  | _ => none
def S_last (t n : Nat) : ax_S := fun _ L st h => match st with
  | .long x :: .int i :: .ref a :: st => if a < 400 then none else (ax_ls t i x (h.1 a)).bind fun c => some (.inl (n, L, st, ax_set h a c))
  | _ => none
/-- 'oks': the numbers of the kinds of things that may be stored -/
def S_aast (t : Nat) (oks : List Nat) (n : Nat) : ax_S := fun _ L st h => match st with
  | .ref x :: .int i :: .ref a :: st => if a < 400 then none else (ax_ci (h.1 x)).bind fun k => if k ∈ oks then (ax_rs t i (some x) (h.1 a)).bind fun c => some (.inl (n, L, st, ax_set h a c)) else none
  | .null :: .int i :: .ref a :: st => if a < 400 then none else (ax_rs t i none (h.1 a)).bind fun c => some (.inl (n, L, st, ax_set h a c))
  | _ => none
def S_alen (n : Nat) : ax_S := fun _ L st h => match st with
  | .ref a :: st => (ax_len (h.1 a)).bind fun k => some (.inl (n, L, .int (Int32.ofNat k) :: st, h))
  | _ => none
def S_new (k : Nat) (fs : List Value) (w n : Nat) : ax_S := fun _ L st h => some (.inl (n, L, .ref (400 + h.2.1) :: st, ax_new h (.inr (k, fs)) w))
def ax_dat (u : Nat) : (Nat → Int32) ⊕ (Nat → Int64) ⊕ (Nat → UInt32) ⊕ (Nat → UInt64) ⊕ (Nat → Option Nat) := match u with
  | 0 => .inl (fun _ => 0)
  | 1 => .inr (.inl (fun _ => 0))
  | _ => .inr (.inr (.inr (.inr (fun _ => none))))
def S_newa (t u n : Nat) : ax_S := fun _ L st h => match st with
  | .int k :: st => if k < 0 ∨ 1000000 < k.toNatClampNeg then none else some (.inl (n, L, .ref (400 + h.2.1) :: st, ax_new h (.inl (t, k.toNatClampNeg, ax_dat u)) k.toNatClampNeg))
  | _ => none
/-- 'new X; dup; ldc text; invokespecial X(String)' of an exception of the JDK: one step -/
def S_mk (k w n : Nat) : ax_S := fun _ L st h => if st.length ≤ 4 then some (.inl (n, L, .ref (400 + h.2.1) :: st, ax_new h (.inr (k, [])) w)) else none
def S_max (n : Nat) : ax_S := fun _ L st h => match st with
  | .int y :: .int x :: st => if st.length ≤ 4 then some (.inl (n, L, .int (if x < y then y else x) :: st, h)) else none
  | _ => none
def S_min (n : Nat) : ax_S := fun _ L st h => match st with
  | .int y :: .int x :: st => if st.length ≤ 4 then some (.inl (n, L, .int (if y < x then y else x) :: st, h)) else none
  | _ => none
/-- System.arraycopy, rows of one kind -/
def ax_bd (sp dp k : Int32) (n0 n1 : Nat) : Prop := sp < 0 ∨ dp < 0 ∨ k < 0 ∨ n0 < sp.toNatClampNeg + k.toNatClampNeg ∨ n1 < dp.toNatClampNeg + k.toNatClampNeg
def ax_bdd (sp dp k : Int32) (n0 n1 : Nat) : Decidable (ax_bd sp dp k n0 n1) := by unfold ax_bd; exact inferInstance
def ax_cp (sp dp k : Int32) (a b : ax_C) : Option ax_C := match a, b with
  | .inl (t0, n0, .inl f), .inl (t1, n1, .inl g) => if t0 = t1 ∧ (t0 = 0 ∨ t0 = 3) then (@ite _ (ax_bd sp dp k n0 n1) (ax_bdd sp dp k n0 n1) none (some (.inl (t1, n1, .inl (va_cpy f g sp.toNatClampNeg dp.toNatClampNeg k.toNatClampNeg))))) else none
  | .inl (t0, n0, .inr (.inl f)), .inl (t1, n1, .inr (.inl g)) => if t0 = t1 ∧ t0 = 1 then (@ite _ (ax_bd sp dp k n0 n1) (ax_bdd sp dp k n0 n1) none (some (.inl (t1, n1, .inr (.inl (va_cpy f g sp.toNatClampNeg dp.toNatClampNeg k.toNatClampNeg)))))) else none
  | .inl (t0, n0, .inr (.inr (.inr (.inr f)))), .inl (t1, n1, .inr (.inr (.inr (.inr g)))) => if t0 = t1 ∧ t0 = 4 then (@ite _ (ax_bd sp dp k n0 n1) (ax_bdd sp dp k n0 n1) none (some (.inl (t1, n1, .inr (.inr (.inr (.inr (va_cpy f g sp.toNatClampNeg dp.toNatClampNeg k.toNatClampNeg)))))))) else none
  | _, _ => none
def S_acp (n : Nat) : ax_S := fun _ L st h => match st with
  | .int k :: .int dp :: .ref b :: .int sp :: .ref a :: st => if b < 400 ∨ 4 < st.length then none else (ax_cp sp dp k (h.1 a) (h.1 b)).bind fun c => some (.inl (n, L, st, ax_set h b c))
  | _ => none
/-- getClass of an Object[]: its mirror is the thing 6 -/
def S_gcl (n : Nat) : ax_S := fun _ L st h => match st with
  | .ref a :: st => if a < 400 ∨ 4 < st.length then none else (match h.1 a with
    | .inl (4, _) => some (.inl (n, L, .ref 6 :: st, h))
    | _ => none)
  | _ => none
/-- clone of bytes or longs -/
def ax_cln (t : Nat) (c : ax_C) : Option Nat := match c with
  | .inl (t', n, .inl _) => if t' = t ∧ t = 3 then some n else none
  | .inl (t', n, .inr (.inl _)) => if t' = t ∧ t = 1 then some n else none
  | _ => none
def S_cln (t n : Nat) : ax_S := fun _ L st h => match st with
  | .ref a :: st => if a < 400 ∨ 4 < st.length then none else (ax_cln t (h.1 a)).bind fun k => some (.inl (n, L, .ref (400 + h.2.1) :: st, ax_new h (h.1 a) k))
  | _ => none
def S_castA (t n : Nat) : ax_S := fun _ L st h => match st with
  | .ref a :: st => if a < 400 then none else (match h.1 a with
    | .inl (t', _) => if t' = t then some (.inl (n, L, .ref a :: st, h)) else none
    | _ => none)
  | _ => none
/-- new int[3][8] -/
def ax_newaa (h : ax_H) : ax_H := ax_new (ax_new (ax_new (ax_new h (.inl (5, 3, .inr (.inr (.inr (.inr (fun j => if j < 3 then some (400 + h.2.1 + 1 + j) else none)))))) 3) (.inl (0, 8, .inl (fun _ => 0))) 8) (.inl (0, 8, .inl (fun _ => 0))) 8) (.inl (0, 8, .inl (fun _ => 0))) 8
def S_newaa (n : Nat) : ax_S := fun _ L st h => match st with
  | .int y :: .int x :: st => if x = 3 ∧ y = 8 then some (.inl (n, L, .ref (400 + h.2.1) :: st, ax_newaa h)) else none
  | _ => none
/-- a row of ints into a row of rows -/
def S_aastA (n : Nat) : ax_S := fun _ L st h => match st with
  | .ref x :: .int i :: .ref a :: st => if a < 400 ∨ x < 400 then none else (match h.1 x with
    | .inl (0, _) => (ax_rs 5 i (some x) (h.1 a)).bind fun c => some (.inl (n, L, st, ax_set h a c))
    | _ => none)
  | _ => none
/-- the whole of Throwable's own constructor: nothing that is looked at later changes -/
def S_thr1 (tb : List (Nat × Nat)) : ax_S := fun _ L st h => match st, L with
  | [], some (.ref o) :: some w :: _ => if o < 400 ∨ ax_rv w = false then none else (ax_gf tb (h.1 o)).bind fun v => match v with
    | .null => some (.inr (.inl none, h))
    | _ => none
  | _, _ => none
def S_thr2 (tb : List (Nat × Nat)) : ax_S := fun _ L st h => match st, L with
  | [], some (.ref o) :: some w :: some x :: _ => if o < 400 ∨ ax_rv w = false ∨ ax_rv x = false then none else (ax_gf tb (h.1 o)).bind fun v => match v with
    | .null => some (.inr (.inl none, h))
    | _ => none
  | _, _ => none
def ax_th (L : ax_L) (hd : Nat → Option (Option Nat)) (i : Nat) (h : ax_H) : ax_O := if i < 400 then none else (ax_ci (h.1 i)).bind fun k => (hd k).bind fun o => match o with
  | some pc => some (.inl (pc, L, [.ref i], h))
  | none => some (.inr (.inr i, h))
def ax_bk (n : Nat) (L : ax_L) (st : List Value) (hd : Nat → Option (Option Nat)) (r : ax_R) : ax_O := match r.1 with
  | .inl v => some (.inl (n, L, v.toList ++ st, r.2))
  | .inr i => ax_th L hd i r.2
def S_is (k a n : Nat) (hd : Nat → Option (Option Nat)) : ax_S := fun K L st h => if a ≤ st.length ∧ (st.drop a).length ≤ 4 then (K k (st.take a).reverse h).bind (ax_bk n L (st.drop a) hd) else none
def S_isp (k a n : Nat) (hd : Nat → Option (Option Nat)) : ax_S := fun K L st h => match st.drop a with
  | .ref o :: rest => if rest.length ≤ 4 then (K k (.ref o :: (st.take a).reverse) h).bind (ax_bk n L rest hd) else none
  | _ => none
def S_iv (tb : List (Nat × Nat)) (a n : Nat) (hd : Nat → Option (Option Nat)) : ax_S := fun K L st h => match st.drop a with
  | .ref o :: rest => if rest.length ≤ 4 then (ax_ci (h.1 o)).bind fun c => (tb.lookup c).bind fun k => (K k (.ref o :: (st.take a).reverse) h).bind (ax_bk n L rest hd) else none
  | _ => none
def S_iret : ax_S := fun _ _ st h => match st with
  | [.int x] => some (.inr (.inl (some (.int x)), h))
  | _ => none
def S_zret : ax_S := fun _ _ st h => match st with
  | [.int x] => if x = 0 ∨ x = 1 then some (.inr (.inl (some (.int x)), h)) else none
  | _ => none
def S_bret : ax_S := fun _ _ st h => match st with
  | [.int x] => if ax_ft .byte (.int x) = true then some (.inr (.inl (some (.int x)), h)) else none
  | _ => none
def S_lret : ax_S := fun _ _ st h => match st with
  | [.long x] => some (.inr (.inl (some (.long x)), h))
  | _ => none
def S_aret : ax_S := fun _ _ st h => match st with
  | [.ref x] => some (.inr (.inl (some (.ref x)), h))
  | [.null] => some (.inr (.inl (some .null), h))
  | _ => none
def S_ret : ax_S := fun _ _ st h => match st with
  | [] => some (.inr (.inl none, h))
  | _ => none
def S_athrow (hd : Nat → Option (Option Nat)) : ax_S := fun _ L st h => match st with
  | .ref i :: _ => ax_th L hd i h
  | _ => none
def S_cast (oks : List Nat) (n : Nat) : ax_S := fun _ L st h => match st with
  | .null :: st => some (.inl (n, L, .null :: st, h))
  | .ref x :: st => (ax_ci (h.1 x)).bind fun k => if k ∈ oks then some (.inl (n, L, .ref x :: st, h)) else none
  | _ => none
def S_inst (yes no : List Nat) (n : Nat) : ax_S := fun _ L st h => match st with
  | .ref x :: st => (ax_ci (h.1 x)).bind fun k => if k ∈ yes then some (.inl (n, L, .int 1 :: st, h)) else if k ∈ no then some (.inl (n, L, .int 0 :: st, h)) else none
  | _ => none
/-- a leaf of a method's code: the instruction S at a, nothing elsewhere -/
def ax_at (a : Nat) (S : ax_S) (pc : Nat) : ax_S := cond (Nat.beq pc a) S S_stop
/-! runs -/
def ax_it (F : ax_F → ax_O) : Nat → ax_F → Option ax_R
  | 0, _ => none
  | n + 1, s => match F s with
    | none => none
    | some (.inl s') => ax_it F n s'
    | some (.inr r) => some r
theorem ax_it_mono {F : ax_F → ax_O} : ∀ (n : Nat) (s : ax_F) (r : ax_R), ax_it F n s = some r → ∀ k, n ≤ k → ax_it F k s = some r := by
  intro n
  induction n with
  | zero => intro s r h; cases h
  | succ n ih =>
    intro s r h k hk
    obtain ⟨k, rfl⟩ : ∃ j, k = j + 1 := ⟨k - 1, by omega⟩
    unfold ax_it at h ⊢
    cases hF : F s with
    | none => rw [hF] at h; cases h
    | some o =>
      rw [hF] at h
      cases o with
      | inl s' => exact ih s' r h k (by omega)
      | inr r' => exact h
noncomputable def ax_lim (F : ax_F → ax_O) (s : ax_F) : Option ax_R :=
  @dite _ (∃ r : ax_R, ∃ n : Nat, ax_it F n s = some r) (Classical.propDecidable _) (fun h => some h.choose) (fun _ => none)
theorem ax_lim_some {F : ax_F → ax_O} {s : ax_F} {r : ax_R} : ax_lim F s = some r ↔ ∃ n : Nat, ax_it F n s = some r := by
  unfold ax_lim
  constructor
  · intro h
    by_cases hx : ∃ r : ax_R, ∃ n : Nat, ax_it F n s = some r
    · rw [dif_pos hx] at h
      cases h
      exact hx.choose_spec
    · rw [dif_neg hx] at h
      cases h
  · intro h
    have hx : ∃ r : ax_R, ∃ n : Nat, ax_it F n s = some r := ⟨r, h⟩
    rw [dif_pos hx]
    obtain ⟨n, hn⟩ := h
    obtain ⟨k, hk⟩ := hx.choose_spec
    have h1 := ax_it_mono _ _ _ hn (n + k) (by omega)
    have h2 := ax_it_mono _ _ _ hk (n + k) (by omega)
    rw [h1] at h2
    exact h2.symm
theorem ax_lim_eq (F : ax_F → ax_O) (s : ax_F) : ax_lim F s = match F s with
    | none => none
    | some (.inl s') => ax_lim F s'
    | some (.inr r) => some r := by
  apply Option.ext
  intro r
  rw [ax_lim_some]
  cases hF : F s with
  | none =>
    refine ⟨fun ⟨n, h⟩ => ?_, fun h => by cases h⟩
    cases n with
    | zero => cases h
    | succ n => unfold ax_it at h; rw [hF] at h; cases h
  | some o =>
    cases o with
    | inl s' =>
      show _ ↔ ax_lim F s' = some r
      rw [ax_lim_some]
      constructor
      · intro ⟨n, h⟩
        cases n with
        | zero => cases h
        | succ n => unfold ax_it at h; rw [hF] at h; exact ⟨n, h⟩
      · intro ⟨n, h⟩
        exact ⟨n + 1, by unfold ax_it; rw [hF]; exact h⟩
    | inr r' =>
      constructor
      · intro ⟨n, h⟩
        cases n with
        | zero => cases h
        | succ n => unfold ax_it at h; rw [hF] at h; exact h
      · intro h
        exact ⟨1, by unfold ax_it; rw [hF]; exact h⟩
def ax_fr (code : Nat → ax_S) (K : ax_K) : ax_F → ax_O := fun s => code s.1 K s.2.1 s.2.2.1 s.2.2.2
noncomputable def ax_call (P : ax_T) : Nat → ax_K
  | 0 => fun _ _ _ => none
  | d + 1 => fun k as h => if (lg_sl as).length ≤ (P k).1 then ax_lim (ax_fr (P k).2 (ax_call P d)) (0, ax_args (P k).1 as, [], h) else none
noncomputable def ax_run (K : ax_K) (code : Nat → ax_S) (pc : Nat) (L : ax_L) (st : List Value) (h : ax_H) : Option ax_R := ax_lim (ax_fr code K) (pc, L, st, h)
theorem ax_call_eq {P : ax_T} {d k n : Nat} {code : Nat → ax_S} {as : List Value} {h : ax_H} (e : P k = (n, code)) (hl : (lg_sl as).length ≤ n) : ax_call P (d + 1) k as h = ax_run (ax_call P d) code 0 (ax_args n as) [] h := by
  show (if (lg_sl as).length ≤ (P k).1 then ax_lim _ _ else none) = _
  rw [e, if_pos hl]
  rfl
noncomputable def ax_go (K : ax_K) (code : Nat → ax_S) (o : ax_O) : Option ax_R := match o with
  | none => none
  | some (.inl s) => ax_run K code s.1 s.2.1 s.2.2.1 s.2.2.2
  | some (.inr r) => some r
section RUN
variable {K : ax_K} {code : Nat → ax_S} {pc : Nat} {L : ax_L} {st : List Value} {h : ax_H}
theorem ax_run_eq : ax_run K code pc L st h = ax_go K code (code pc K L st h) := by
  unfold ax_run
  rw [ax_lim_eq]
  rfl
theorem ax_go_bind {α : Type} (x : Option α) (f : α → ax_O) : ax_go K code (x.bind f) = x.bind fun a => ax_go K code (f a) := by cases x <;> rfl
theorem ax_go_ite (c : Prop) (i : Decidable c) (a b : ax_O) : ax_go K code (@ite _ c i a b) = @ite _ c i (ax_go K code a) (ax_go K code b) := by
  by_cases h : c
  · rw [if_pos h, if_pos h]
  · rw [if_neg h, if_neg h]
theorem ax_go_l {s : ax_F} : ax_go K code (some (.inl s)) = ax_run K code s.1 s.2.1 s.2.2.1 s.2.2.2 := rfl
theorem ax_go_r {r : ax_R} : ax_go K code (some (.inr r)) = some r := rfl
end RUN
