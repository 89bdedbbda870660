/-! a step of the machine on its cells, as a list of what is written (out of the class's text) -/
abbrev ce_C : Type := Nat → Int32
abbrev ce_W : Type := List (Nat × Int32)
abbrev kk_K : Type := Nat × (Nat → Int32) × (Nat → Int32)
def nn (x : Int32) : Nat := x.toNatClampNeg
def apW (c : ce_C) : ce_W → ce_C
  | [] => c
  | q :: ws => apW (upd c q.1 q.2) ws
/-- what was there before, place by place -/
def joW (c : ce_C) : ce_W → ce_W
  | [] => []
  | q :: ws => (q.1, c q.1) :: joW (upd c q.1 q.2) ws
theorem apW_app (c : ce_C) (a b : ce_W) : apW c (a ++ b) = apW (apW c a) b := by
  induction a generalizing c with
  | nil => rfl
  | cons q a ih => exact ih _
theorem joW_app (c : ce_C) (a b : ce_W) : joW c (a ++ b) = joW c a ++ joW (apW c a) b := by
  induction a generalizing c with
  | nil => rfl
  | cons q a ih => show _ :: joW _ (a ++ b) = _; rw [ih]; rfl
theorem joW_len (c : ce_C) (a : ce_W) : (joW c a).length = a.length := by
  induction a generalizing c with
  | nil => rfl
  | cons q a ih => show (joW _ a).length + 1 = _; rw [ih]; rfl
/-- taken back, last first -/
def unW (c : ce_C) (J : ce_W) : ce_C := apW c J.reverse
theorem unW_joW (c : ce_C) (ws : ce_W) : unW (apW c ws) (joW c ws) = c := by
  induction ws generalizing c with
  | nil => rfl
  | cons q ws ih =>
    show apW (apW (upd c q.1 q.2) ws) (((q.1, c q.1) :: joW (upd c q.1 q.2) ws).reverse) = c
    rw [List.reverse_cons, apW_app]
    have := ih (upd c q.1 q.2)
    unfold unW at this
    rw [this]
    show upd (upd c q.1 q.2) q.1 (c q.1) = c
    funext j
    unfold upd
    by_cases e : j = q.1
    · rw [if_pos e, e]
    · rw [if_neg e, if_neg e]
/-- how many of the first n keys were told for numbers of steps from a to b -/
def toldN (kt : Nat → Int32) (a b : Int32) : Nat → Nat
  | 0 => 0
  | n + 1 => toldN kt a b n + (if a ≤ kt n ∧ kt n ≤ b then 1 else 0)
def readV (K : kk_K) (c : ce_C) : Int32 := if c 16 = Int32.ofNat (toldN K.2.1 0 (c 2) K.1) then 65535 else K.2.2 (nn (c 16))
def readW (K : kk_K) (c : ce_C) : ce_W := if c 16 = Int32.ofNat (toldN K.2.1 0 (c 2) K.1) then [] else [(16, c 16 + 1)]
def timeW (c : ce_C) : ce_W := if c 10 ≤ 0 then [] else [(11, if c 11 + 1 = c 10 then 0 else c 11 + 1), (8, if c 11 + 1 = c 10 then 1 else c 8)]
def comeW (K : kk_K) (t : Int32) : ce_W := if toldN K.2.1 t t K.1 = 0 then [] else [(9, 1)]
/-- what comes behind each step -/
def passW (K : kk_K) (c : ce_C) : ce_W := [(2, c 2 + 1)] ++ (timeW c ++ comeW K (c 2 + 1))
def cutI (v : Int64) : Int32 := dx_i2c (Int64.toInt32 v)
def stopW (f : Int32) : ce_W := [(0, 3), (1, f)]
def pushW (c : ce_C) (w : Int32) : ce_W := [(4, c 4 - 1), (108 + nn (c 4 - 1), w)]
def pullW (c : ce_C) : ce_W := [(4, c 4 + 1)]
def pullV (c : ce_C) : Int32 := c (108 + nn (c 4))
def waits (c : ce_C) : Prop := ¬ c 8 + c 9 ≤ 0
def interW (c : ce_C) : ce_W :=
  if 2 ≤ c 4 then
    let src : Int32 := if c 8 = 1 then 0 else 1
    let w1 : ce_W := [(nn (8 + src), 0)]
    let c1 := apW c w1
    let w2 := w1 ++ pushW c1 (c1 3)
    let c2 := apW c w2
    let w3 := w2 ++ pushW c2 (c2 5 + 2 * c2 6) ++ [(7, 0)]
    w3 ++ [(3, apW c w3 (nn (108 + src)))]
  else stopW 3
def itsOf (op : Int32) (a y : Int64) (y0 : Int32) : Int64 := if op = 4 then a + y else if op = 6 then a * y else if op = 7 then a &&& y else if op = 8 then a ^^^ y else if op = 9 then dx_lshl a (dx_rem y0 16) else if op = 10 then dx_lshr a (dx_rem y0 16) else a - y
def lessOf (op : Int32) (its : Int64) : Int32 := if op = 4 ∨ op = 6 then (if lg_cmp its 65535 ≤ 0 then 0 else 1) else if op = 7 ∨ op = 8 ∨ op = 9 ∨ op = 10 then 0 else (if 0 ≤ lg_cmp its 0 then 0 else 1)
def reckW (c : ce_C) (op d y : Int32) : ce_W :=
  let its := itsOf op (c (nn d)).toInt64 y.toInt64 y
  [(6, lessOf op its), (5, if cutI its = 0 then 1 else 0)] ++ (if op = 11 then [] else [(nn d, cutI its)])
/-- operations 0..3, 12..18: what is written, and the counter after; a fault: .inr -/
def moveW (c : ce_C) (op d y nx : Int32) : (ce_W × Int32) ⊕ Int32 :=
  if op = 0 then .inl ([(0, 2)], nx - 2)
  else if op = 1 then .inl ([(nn d, y)], nx)
  else if op = 2 then (if y < 256 then .inl ([(nn d, c (nn (108 + y)))], nx) else .inr 1)
  else if op = 3 then (if y < 256 then .inl ([(nn (108 + y), c (nn d))], nx) else .inr 1)
  else if op = 12 then .inl ([], y)
  else if op = 13 then .inl ([], if c 5 = 1 then y else nx)
  else if op = 14 then .inl ([], if c 6 = 1 then y else nx)
  else if op = 15 then (if 1 ≤ c 4 then .inl (pushW c nx, y) else .inr 3)
  else if op = 16 then (if c 4 + 1 ≤ 256 then .inl (pullW c, pullV c) else .inr 3)
  else if op = 17 then (if 1 ≤ c 4 then .inl (pushW c y, nx) else .inr 3)
  else (if c 4 + 1 ≤ 256 then .inl (pullW c ++ [(nn d, pullV c)], nx) else .inr 3)
