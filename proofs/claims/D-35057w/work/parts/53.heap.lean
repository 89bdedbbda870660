/-! instructions that look at the heap or change it -/
/-- the field name of the kind ci is its k-th -/
def ax_fe (G : ax_G) (ref name desc : String) (ci k : Nat) : Prop := ∃ r : vw_C, G.2.2.1[ci]? = some r ∧ k < r.2.2 ∧ (∀ w ∈ u_ws r.1 r.2.1 r.2.2, w ∈ lw_all) ∧ (r.2.1 k).2.1 = name ∧ (r.2.1 k).2.2.1 = desc ∧ ((r.2.1 k).1 = ref ∨ Cond.sameField ref (r.2.1 k).1 name desc ∈ lw_all)
def ax_fes (G : ax_G) (ref name desc : String) (tb : List (Nat × Nat)) : Prop := ∀ ci k, tb.lookup ci = some k → ax_fe G ref name desc ci k
theorem ax_fes_nil {G : ax_G} {ref name desc : String} : ax_fes G ref name desc [] := fun _ _ h => by cases h
theorem ax_fes_cons {G : ax_G} {ref name desc : String} {ci k : Nat} {tb : List (Nat × Nat)} (h : ax_fe G ref name desc ci k) (t : ax_fes G ref name desc tb) : ax_fes G ref name desc ((ci, k) :: tb) := by
  intro i j e
  rw [List.lookup_cons] at e
  by_cases z : (i == ci) = true
  · rw [z] at e
    cases e
    rw [beq_iff_eq.mp z]
    exact h
  · rw [Bool.not_eq_true] at z
    rw [z] at e
    exact t i j e
/-- a field that may be set: its type, whether it is final -/
def ax_fp (G : ax_G) (ty : FieldType) (fin : Bool) (own : String) (ci k : Nat) : Prop := ∃ r : vw_C, G.2.2.1[ci]? = some r ∧ parseFieldDescriptor (r.2.1 k).2.2.1 = some ty ∧ (r.2.1 k).2.2.2 = fin ∧ (fin = true → (r.2.1 k).1 = own)
def ax_fps (G : ax_G) (ty : FieldType) (fin : Bool) (own : String) (tb : List (Nat × Nat)) : Prop := ∀ ci k, tb.lookup ci = some k → ax_fp G ty fin own ci k
theorem ax_fps_nil {G : ax_G} {ty : FieldType} {fin : Bool} {own : String} : ax_fps G ty fin own [] := fun _ _ h => by cases h
theorem ax_fps_cons {G : ax_G} {ty : FieldType} {fin : Bool} {own : String} {ci k : Nat} {tb : List (Nat × Nat)} (h : ax_fp G ty fin own ci k) (t : ax_fps G ty fin own tb) : ax_fps G ty fin own ((ci, k) :: tb) := by
  intro i j e
  rw [List.lookup_cons] at e
  by_cases z : (i == ci) = true
  · rw [z] at e
    cases e
    rw [beq_iff_eq.mp z]
    exact h
  · rw [Bool.not_eq_true] at z
    rw [z] at e
    exact t i j e
/-- the slots of a kind's fields are apart -/
def ax_AP (G : ax_G) : Prop := ∀ (ci : Nat) (r : vw_C), G.2.2.1[ci]? = some r → ∀ x y, x < r.2.2 → y < r.2.2 → x ≠ y → G.2.1.2 ci x ≠ G.2.1.2 ci y
/-- the tables' words at the start -/
def ax_TB (G : ax_G) : Prop := ∃ A0 : Array Value, ∀ w ∈ lw_tbl, w.before A0 G.1 = true
theorem ax_TB.nw {G : ax_G} (h : ax_TB G) {w : Cond} (hw : w ∈ lw_tbl) (ho : w.onTables = true) : va_Nw w G.1 := by
  obtain ⟨A0, h⟩ := h
  exact va_Nw.of ho (h w hw)
theorem ax_ft_v {G : ax_G} {ty : FieldType} {v : Value} (h : ax_ft ty v = true) : narrow ty (ax_v G v) = ax_v G v ∧ fits ty (ax_v G v) = true := by
  unfold ax_ft at h
  rw [Bool.and_eq_true, decide_eq_true_eq] at h
  obtain ⟨h1, h2⟩ := h
  cases v with
  | ref i =>
    cases ty <;> first | exact ⟨rfl, rfl⟩ | (simp [fits] at h2)
  | _ => exact ⟨h1, h2⟩
theorem ax_len_lt {G : ax_G} (F : ax_FA G) {k : Nat} {r : vw_C} (h : G.2.2.1[k]? = some r) : k ≠ 9999 := by
  have h1 := (List.getElem?_eq_some_iff.mp h).1
  have h2 := F.2.2.1
  omega
theorem ax_getD {G : ax_G} {fs : List Value} {j : Nat} {v : Value} (h : fs[j]? = some v) : vp_V (fs.map (ax_v G)) j = ax_v G v := by
  simp [vp_V, List.getD_eq_getElem?_getD, h]
section HEAP
variable {G : ax_G} {l : Launch} {Y : ax_Y} {M : ax_M} {pc : Nat}
/-- what a getfield reads -/
theorem ax_gf_read (F : ax_FA G) {ref name desc : String} {tb : List (Nat × Nat)} (htb : ax_fes G ref name desc tb) {s : State} {args : Array Value} (hs : ax_GD G s) (hts : ∀ w ∈ lw_all, w.before args s = true) {h : ax_H} {H : Heap} {locs : List Loc} (X : ax_RL G s h H locs) {o : Nat} {v : Value} (hv : ax_gf tb (h.1 o) = some v) :
    ∃ (cf i : Nat) (k : Class) (f : Field) (cell : Cell), s.fieldFound? ref name desc = some (cf, k, i, f) ∧ f.isStatic = false ∧ H[ax_ad G o]? = some cell ∧ cell.vm ≠ .unknown ∧ cell.slots[f.slot]? = some (ax_v G v) := by
  cases hc : h.1 o with
  | inl a => rw [hc] at hv; cases hv
  | inr w =>
    obtain ⟨kk, fs⟩ := w
    rw [hc] at hv
    obtain ⟨j, hj, hf⟩ := Option.bind_eq_some_iff.mp hv
    obtain ⟨r, g1, g2, g3, rfl, rfl, g6⟩ := htb _ _ hj
    rcases ax_read F hs X o with hdd | hr
    · rw [hc] at hdd
      cases hdd
      exact absurd rfl (ax_len_lt F g1)
    · rw [hc] at hr
      obtain ⟨r', cell, f1, f2, f3, f4, f5, f6, f7⟩ := hr
      cases Option.some.inj (f1.symm.trans g1)
      have hK := ax_K_at F hs
      obtain ⟨hS, hfc, kC, hkC, hkind⟩ := hK.1 kk _ g1
      obtain ⟨cf, kf, fi, f, hi, hsl⟩ := hS j g2
      refine ⟨cf, fi, kf, f, cell, ?_, (u_facts hfc hkC (u_lays hts g3 g2) hi).1, f3, f5, ?_⟩
      · rcases g6 with e | e
        · rw [← e]; exact hi
        · exact u_same (hts _ e) _ hi
      · rw [hsl, f7 j g2, ax_getD hf]
theorem k_getf (F : ax_FA G) {tb : List (Nat × Nat)} {index : Nat} {ref name desc : String} (htb : ax_fes G ref name desc tb) (hl : Cond.fieldLink M.1 index ref name desc ∈ lw_all) (hd : decode M.2.1 pc = .ok (.getfield index, 3)) : ax_Snd G l Y M pc (S_getf tb (pc + 3)) := by
  refine ax_snd_simple fun K L st h o ho => ?_
  unfold S_getf at ho
  split at ho
  · obtain ⟨v, hv, hy⟩ := Option.bind_eq_some_iff.mp ho
    cases hy
    refine ⟨_, _, _, rfl, fun p e R s m args below meth c CX hRl hRf H locs ls cells slots Q X V _ _ k => ?_⟩
    obtain ⟨cf, i, kc, f, cell, q1, q2, q3, q4, q5⟩ := ax_gf_read F htb CX.2.2.2.2.2.2.2.2.2 CX.2.2.2.2.1 X hv
    exact W.getf CX.1 CX.2.1 CX.2.2.2.1 (CX.2.2.2.2.1 _ hl) q1 q2 q3 q4 q5 rfl rfl hd (k ls V)
  · cases ho
theorem k_getfN (F : ax_FA G) (B : ax_TB G) {tb : List (Nat × Nat)} {index : Nat} {ref name desc host : String} (htb : ax_fes G ref name desc tb) (hl : Cond.fieldLinkNest M.1 index ref name desc host ∈ lw_tbl) (hd : decode M.2.1 pc = .ok (.getfield index, 3)) : ax_Snd G l Y M pc (S_getf tb (pc + 3)) := by
  refine ax_snd_simple fun K L st h o ho => ?_
  unfold S_getf at ho
  split at ho
  · obtain ⟨v, hv, hy⟩ := Option.bind_eq_some_iff.mp ho
    cases hy
    refine ⟨_, _, _, rfl, fun p e R s m args below meth c CX hRl hRf H locs ls cells slots Q X V _ _ k => ?_⟩
    have hs := CX.2.2.2.2.2.2.2.2.2
    obtain ⟨cf, i, kc, f, cell, q1, q2, q3, q4, q5⟩ := ax_gf_read F htb hs CX.2.2.2.2.1 X hv
    exact va_Wgetf CX.1 CX.2.1 CX.2.2.2.1 (va_Nw.use rfl (va_Nw.warmF hs.1 (B.nw hl rfl))) q1 q2 q3 q4 q5 rfl rfl hd (k ls V)
  · cases ho
/-- what a putfield does -/
theorem ax_pf_put (F : ax_FA G) (AP : ax_AP G) {ref name desc : String} {tb : List (Nat × Nat)} (htb : ax_fes G ref name desc tb) {ty : FieldType} {fin : Bool} {own : String} (hty : ax_fps G ty fin own tb) {s : State} {args : Array Value} (hs : ax_GD G s) (hts : ∀ w ∈ lw_all, w.before args s = true) {h : ax_H} {H : Heap} {locs : List Loc} (X : ax_RL G s h H locs) {o : Nat} (hlo : ¬ o < 400) {v : Value} {c' : ax_C} (hv : ax_pf tb ty v (h.1 o) = some c') :
    ∃ (cf i : Nat) (k : Class) (f : Field) (cell : Cell), s.fieldFound? ref name desc = some (cf, k, i, f) ∧ f.isStatic = false ∧ H[ax_ad G o]? = some cell ∧ cell.vm = .none ∧ f.slot < cell.slots.size ∧
      (fin = false → k2_Sd s f cell.cls (ax_v G v)) ∧ (narrow f.type (ax_v G v) = ax_v G v ∧ s.fitsSlot cell.cls .none f.slot (ax_v G v) = true) ∧ (fin = true → ∀ mc : Nat, s.vm.findClass own = some mc → mc = cf) ∧
      ∀ H' : Heap, H'[ax_ad G o]? = some (cell.setSlot f.slot (ax_v G v)) → H'.size = H.size → (∀ q, q ≠ ax_ad G o → H'[q]? = H[q]?) → ax_RL G s (ax_set h o c') H' (locs ++ [⟨ax_ad G o, f.slot⟩]) := by
  cases hc : h.1 o with
  | inl a => rw [hc] at hv; cases hv
  | inr w =>
    obtain ⟨kk, fs⟩ := w
    rw [hc] at hv
    obtain ⟨j, hj, hf⟩ := Option.bind_eq_some_iff.mp hv
    split at hf
    · rename_i hjl
      split at hf
      · rename_i hft
        cases hf
        obtain ⟨r, g1, g2, g3, rfl, rfl, g6⟩ := htb _ _ hj
        obtain ⟨r2, t1, t2, t3, t4⟩ := hty _ _ hj
        cases Option.some.inj (t1.symm.trans g1)
        rcases ax_new_at X hlo with hdd | ⟨hn, hlt⟩
        · rw [hc] at hdd
          cases hdd
          exact absurd rfl (ax_len_lt F g1)
        · rw [hc] at hn
          obtain ⟨r', f1, f2, ⟨cell, q1, q2, q3, q4⟩, q5⟩ := hn
          cases Option.some.inj (f1.symm.trans g1)
          have hK := ax_K_at F hs
          obtain ⟨hS, hfc, kC, hkC, hkind⟩ := hK.1 kk _ g1
          obtain ⟨cf, kf, fi, f, hi, hsl⟩ := hS j g2
          obtain ⟨w1, w2⟩ := ax_ft_v (G := G) hft
          refine ⟨cf, fi, kf, f, cell, ?_, (u_facts hfc hkC (u_lays hts g3 g2) hi).1, q1, q3, by rw [hsl]; exact k2_hasslot (q4 j g2), fun hfin => ?_, ?_, fun hfin mc hmc => ?_, fun H' e1 e2 e3 => ?_⟩
          · rcases g6 with e | e
            · rw [← e]; exact hi
            · exact u_same (hts _ e) _ hi
          · have hlay := hts _ (g3 _ (u_in_lay g2))
            unfold u_lay at hlay
            rw [if_neg (by rw [t3, hfin]; decide)] at hlay
            rw [q2]
            exact u_store hfc hkC hkind hlay hi t2 w1 w2
          · rw [q2]
            exact u_fits hfc hkC hkind (u_lays hts g3 g2) hi t2 w1 w2
          · have hlay := hts _ (g3 _ (u_in_lay g2))
            unfold u_lay at hlay
            rw [if_pos (by rw [t3]; exact hfin)] at hlay
            obtain ⟨_, _, c', _, _, _, -, -, hf', -, -, -, hown2, -⟩ := Cond.laysFinal_spec hlay
            have e1 : c' = cf := by have := hi.symm.trans hf'; simp at this; exact this.1.symm
            rw [t4 hfin] at hown2
            rw [← e1]; exact Option.some.inj (hmc.symm.trans hown2)
          · rw [hsl] at e1 ⊢
            refine ax_RL_set X hlo hlt ⟨_, g1, by rw [List.length_set]; exact f2, ?_, fun hk9 cell9 hc9 => ?_⟩ e2 e3 (ax_IV_set X.2.2.2.2.2 (by rw [hc]; rfl) (fun _ _ e => by cases e) (fun _ _ e => by cases e))
            rw [List.map_set]
            exact t_OB.to (V := updV (vp_V (fs.map (ax_v G))) j (ax_v G v)) ⟨_, e1, q2, q3, t_set q4 (AP kk _ g1) g2 (ax_v G v)⟩ (fun i _ => vp_updV_set (by rw [List.length_map]; exact hjl) (ax_v G v) i)
            cases Option.some.inj (e1.symm.trans hc9)
            obtain ⟨m1, m2, m3⟩ := q5 hk9 cell q1
            exact ⟨m1, m2, fun kG hkG => (Array.size_setIfInBounds ..).trans (m3 kG hkG)⟩
      · cases hf
    · cases hf
theorem k_putf (F : ax_FA G) (AP : ax_AP G) {tb : List (Nat × Nat)} {index : Nat} {ref name desc : String} (htb : ax_fes G ref name desc tb) {ty : FieldType} (hty : ax_fps G ty false M.1 tb) (hl : Cond.fieldLink M.1 index ref name desc ∈ lw_all) (hd : decode M.2.1 pc = .ok (.putfield index, 3)) : ax_Snd G l Y M pc (S_putf tb ty (pc + 3)) := by
  intro d K _ L st h o ho
  unfold S_putf at ho
  split at ho
  · split at ho
    · cases ho
    · rename_i hlo
      obtain ⟨c', hc', hy⟩ := Option.bind_eq_some_iff.mp ho
      cases hy
      refine ⟨⟨Nat.le_refl _, Nat.le_refl _⟩, fun p e R s m args below meth c CX hRf hRl h0 Q b1 b2 KO H locs ls g1 g2 X V => ?_⟩
      obtain ⟨cf, i, kc, f, cell, q1, q2, q3, q4, q5, q6, -, -, q9⟩ := ax_pf_put F AP htb hty CX.2.2.2.2.2.2.2.2.2 CX.2.2.2.2.1 X hlo hc'
      exact W.putK CX.1 CX.2.1 ⟨CX.2.2.2.1, CX.2.2.2.2.1 _ hl, ⟨_, _, _, q1⟩, q2⟩ (q6 rfl) q3 q4 q5 rfl rfl hd fun H' e1 e2 e3 => KO H' _ ls g1 g2 (q9 H' e1 e2 e3) V
  · cases ho
theorem k_putfN (F : ax_FA G) (AP : ax_AP G) (B : ax_TB G) {tb : List (Nat × Nat)} {index : Nat} {ref name desc host : String} (htb : ax_fes G ref name desc tb) {ty : FieldType} (hty : ax_fps G ty false M.1 tb) (hl : Cond.fieldLinkNest M.1 index ref name desc host ∈ lw_tbl) (hd : decode M.2.1 pc = .ok (.putfield index, 3)) : ax_Snd G l Y M pc (S_putf tb ty (pc + 3)) := by
  intro d K _ L st h o ho
  unfold S_putf at ho
  split at ho
  · split at ho
    · cases ho
    · rename_i hlo
      obtain ⟨c', hc', hy⟩ := Option.bind_eq_some_iff.mp ho
      cases hy
      refine ⟨⟨Nat.le_refl _, Nat.le_refl _⟩, fun p e R s m args below meth c CX hRf hRl h0 Q b1 b2 KO H locs ls g1 g2 X V => ?_⟩
      have hs := CX.2.2.2.2.2.2.2.2.2
      obtain ⟨cf, i, kc, f, cell, q1, q2, q3, q4, q5, q6, -, -, q9⟩ := ax_pf_put F AP htb hty hs CX.2.2.2.2.1 X hlo hc'
      exact va_WputK CX.1 CX.2.1 CX.2.2.2.1 (va_Nw.use rfl (va_Nw.warmF hs.1 (B.nw hl rfl))) q1 q2 (q6 rfl) q3 q4 q5 rfl rfl hd fun H' e1 e2 e3 => KO H' _ ls g1 g2 (q9 H' e1 e2 e3) V
  · cases ho
theorem k_putfF (F : ax_FA G) (AP : ax_AP G) {tb : List (Nat × Nat)} {index : Nat} {ref name desc : String} (htb : ax_fes G ref name desc tb) {ty : FieldType} (hty : ax_fps G ty true M.1 tb) (hin : M.2.2.2.2.1 = true) (hl : Cond.fieldLink M.1 index ref name desc ∈ lw_all) (hd : decode M.2.1 pc = .ok (.putfield index, 3)) : ax_Snd G l Y M pc (S_putf tb ty (pc + 3)) := by
  intro d K _ L st h o ho
  unfold S_putf at ho
  split at ho
  · split at ho
    · cases ho
    · rename_i hlo
      obtain ⟨c', hc', hy⟩ := Option.bind_eq_some_iff.mp ho
      cases hy
      refine ⟨⟨Nat.le_refl _, Nat.le_refl _⟩, fun p e R s m args below meth c CX hRf hRl h0 Q b1 b2 KO H locs ls g1 g2 X V => ?_⟩
      obtain ⟨cf, i, kc, f, cell, q1, q2, q3, q4, q5, -, q7, q8, q9⟩ := ax_pf_put F AP htb hty CX.2.2.2.2.2.2.2.2.2 CX.2.2.2.2.1 X hlo hc'
      exact W.putFinK CX.1 CX.2.1 CX.2.2.2.1 (CX.2.2.2.2.1 _ hl) q1 q2 (q8 rfl _ CX.2.2.2.1) (CX.2.2.2.2.2.2.2.1 hin) q7 q3 q4 q5 rfl rfl hd fun H' e1 e2 e3 => KO H' _ ls g1 g2 (q9 H' e1 e2 e3) V
  · cases ho
/-! arrays -/
theorem ax_rd_arr (F : ax_FA G) {s : State} (hs : ax_GD G s) {h : ax_H} {H : Heap} {locs : List Loc} (X : ax_RL G s h H locs) {a t n : Nat} {x : ax_D} (hc : h.1 a = .inl (t, n, x)) : ∃ cell : Cell, H[ax_ad G a]? = some cell ∧ s.isArrayOf cell (ax_ty t) ∧ cell.vm ≠ .unknown ∧ n ≤ cell.slots.size ∧ cell.slots.size.toInt32 = Int32.ofNat n ∧ ∀ j, j < n → cell.slots[j]? = some (ax_el G x j) := by
  rcases ax_read F hs X a with hdd | hr
  · rw [hc] at hdd; cases hdd
  · rw [hc] at hr; exact hr
theorem ax_nin {i : Int32} {n z : Nat} (h : n ≤ z) (hn : ¬ (i < 0 ∨ n ≤ i.toNatClampNeg)) : ¬ (i < 0 ∨ z ≤ i.toNatClampNeg) := fun q => hn (q.imp id (Nat.le_trans h))
theorem ax_al_spec {t : Nat} {i : Int32} {c : ax_C} {x : Int32} (h : ax_al t i c = some x) : ∃ (n : Nat) (f : Nat → Int32), c = .inl (t, n, .inl f) ∧ ¬ (i < 0 ∨ n ≤ i.toNatClampNeg) ∧ x = f i.toNatClampNeg := by
  unfold ax_al at h
  split at h
  · split at h
    · rename_i e
      subst e
      split at h
      · cases h
      · rename_i hn
        cases h
        exact ⟨_, _, rfl, hn, rfl⟩
    · cases h
  · cases h
theorem ax_ll_spec {t : Nat} {i : Int32} {c : ax_C} {x : Int64} (h : ax_ll t i c = some x) : ∃ (n : Nat) (f : Nat → Int64), c = .inl (t, n, .inr (.inl f)) ∧ ¬ (i < 0 ∨ n ≤ i.toNatClampNeg) ∧ x = f i.toNatClampNeg := by
  unfold ax_ll at h
  split at h
  · split at h
    · rename_i e
      subst e
      split at h
      · cases h
      · rename_i hn
        cases h
        exact ⟨_, _, rfl, hn, rfl⟩
    · cases h
  · cases h
theorem ax_rl_spec {t : Nat} {i : Int32} {c : ax_C} {x : Value} (h : ax_rl t i c = some x) : ∃ (n : Nat) (f : Nat → Option Nat), c = .inl (t, n, .inr (.inr (.inr (.inr f)))) ∧ ¬ (i < 0 ∨ n ≤ i.toNatClampNeg) ∧ x = va_rf (f i.toNatClampNeg) := by
  unfold ax_rl at h
  split at h
  · split at h
    · rename_i e
      subst e
      split at h
      · cases h
      · rename_i hn
        cases h
        exact ⟨_, _, rfl, hn, rfl⟩
    · cases h
  · cases h
theorem ax_as_spec {t : Nat} {i x : Int32} {c c' : ax_C} (h : ax_as t i x c = some c') : ∃ (n : Nat) (f : Nat → Int32), c = .inl (t, n, .inl f) ∧ ¬ (i < 0 ∨ n ≤ i.toNatClampNeg) ∧ c' = .inl (t, n, .inl (upd f i.toNatClampNeg x)) := by
  unfold ax_as at h
  split at h
  · split at h
    · rename_i e
      subst e
      split at h
      · cases h
      · rename_i hn
        cases h
        exact ⟨_, _, rfl, hn, rfl⟩
    · cases h
  · cases h
theorem ax_ls_spec {t : Nat} {i : Int32} {x : Int64} {c c' : ax_C} (h : ax_ls t i x c = some c') : ∃ (n : Nat) (f : Nat → Int64), c = .inl (t, n, .inr (.inl f)) ∧ ¬ (i < 0 ∨ n ≤ i.toNatClampNeg) ∧ c' = .inl (t, n, .inr (.inl (vp_updL f i.toNatClampNeg x))) := by
  unfold ax_ls at h
  split at h
  · split at h
    · rename_i e
      subst e
      split at h
      · cases h
      · rename_i hn
        cases h
        exact ⟨_, _, rfl, hn, rfl⟩
    · cases h
  · cases h
theorem ax_rs_spec {t : Nat} {i : Int32} {x : Option Nat} {c c' : ax_C} (h : ax_rs t i x c = some c') : ∃ (n : Nat) (f : Nat → Option Nat), c = .inl (t, n, .inr (.inr (.inr (.inr f)))) ∧ ¬ (i < 0 ∨ n ≤ i.toNatClampNeg) ∧ c' = .inl (t, n, .inr (.inr (.inr (.inr (va_up f i.toNatClampNeg x))))) := by
  unfold ax_rs at h
  split at h
  · split at h
    · rename_i e
      subst e
      split at h
      · cases h
      · rename_i hn
        cases h
        exact ⟨_, _, rfl, hn, rfl⟩
    · cases h
  · cases h
theorem ax_v_rf (G : ax_G) (x : Option Nat) : ax_v G (va_rf x) = va_rf (x.map (ax_ad G)) := by cases x <;> rfl
theorem k_iald (F : ax_FA G) (hd : decode M.2.1 pc = .ok (.iaload, 1)) : ax_Snd G l Y M pc (S_iald 0 (pc + 1)) := by
  refine ax_snd_simple fun K L st h o ho => ?_
  unfold S_iald at ho
  split at ho
  · obtain ⟨x, hx, hy⟩ := Option.bind_eq_some_iff.mp ho
    cases hy
    refine ⟨_, _, _, rfl, fun p e R s m args below meth c CX hRl hRf H locs ls cells slots Q X V _ _ k => ?_⟩
    obtain ⟨n, f, hc, hn, rfl⟩ := ax_al_spec hx
    obtain ⟨cell, q1, q2, q3, q4, -, q6⟩ := ax_rd_arr F CX.2.2.2.2.2.2.2.2.2 X hc
    exact W.iald CX.1 CX.2.1 q1 q2 q3 (ax_nin q4 hn) (q6 _ (Nat.not_le.mp fun z => hn (Or.inr z))) rfl rfl hd (k ls V)
  · cases ho
theorem k_zald (F : ax_FA G) (hd : decode M.2.1 pc = .ok (.baload, 1)) : ax_Snd G l Y M pc (S_iald 2 (pc + 1)) := by
  refine ax_snd_simple fun K L st h o ho => ?_
  unfold S_iald at ho
  split at ho
  · obtain ⟨x, hx, hy⟩ := Option.bind_eq_some_iff.mp ho
    cases hy
    refine ⟨_, _, _, rfl, fun p e R s m args below meth c CX hRl hRf H locs ls cells slots Q X V _ _ k => ?_⟩
    obtain ⟨n, f, hc, hn, rfl⟩ := ax_al_spec hx
    obtain ⟨cell, q1, q2, q3, q4, -, q6⟩ := ax_rd_arr F CX.2.2.2.2.2.2.2.2.2 X hc
    exact W.zald CX.1 CX.2.1 q1 q2 q3 (ax_nin q4 hn) (q6 _ (Nat.not_le.mp fun z => hn (Or.inr z))) rfl rfl hd (k ls V)
  · cases ho
theorem k_bald (F : ax_FA G) (hd : decode M.2.1 pc = .ok (.baload, 1)) : ax_Snd G l Y M pc (S_iald 3 (pc + 1)) := by
  refine ax_snd_simple fun K L st h o ho => ?_
  unfold S_iald at ho
  split at ho
  · obtain ⟨x, hx, hy⟩ := Option.bind_eq_some_iff.mp ho
    cases hy
    refine ⟨_, _, _, rfl, fun p e R s m args below meth c CX hRl hRf H locs ls cells slots Q X V _ _ k => ?_⟩
    obtain ⟨n, f, hc, hn, rfl⟩ := ax_al_spec hx
    obtain ⟨cell, q1, q2, q3, q4, -, q6⟩ := ax_rd_arr F CX.2.2.2.2.2.2.2.2.2 X hc
    exact W.bald CX.1 CX.2.1 q1 q2 q3 (ax_nin q4 hn) (q6 _ (Nat.not_le.mp fun z => hn (Or.inr z))) rfl rfl hd (k ls V)
  · cases ho
theorem k_lald (F : ax_FA G) (hd : decode M.2.1 pc = .ok (.laload, 1)) : ax_Snd G l Y M pc (S_lald 1 (pc + 1)) := by
  refine ax_snd_simple fun K L st h o ho => ?_
  unfold S_lald at ho
  split at ho
  · obtain ⟨x, hx, hy⟩ := Option.bind_eq_some_iff.mp ho
    cases hy
    refine ⟨_, _, _, rfl, fun p e R s m args below meth c CX hRl hRf H locs ls cells slots Q X V _ _ k => ?_⟩
    obtain ⟨n, f, hc, hn, rfl⟩ := ax_ll_spec hx
    obtain ⟨cell, q1, q2, q3, q4, -, q6⟩ := ax_rd_arr F CX.2.2.2.2.2.2.2.2.2 X hc
    exact W.lald CX.1 CX.2.1 q1 q2 q3 (ax_nin q4 hn) (q6 _ (Nat.not_le.mp fun z => hn (Or.inr z))) rfl rfl hd (k ls V)
  · cases ho
theorem k_aald (F : ax_FA G) {t : Nat} (ht : (ax_ty t).isReference = true) (hd : decode M.2.1 pc = .ok (.aaload, 1)) : ax_Snd G l Y M pc (S_aald t (pc + 1)) := by
  refine ax_snd_simple fun K L st h o ho => ?_
  unfold S_aald at ho
  split at ho
  · obtain ⟨x, hx, hy⟩ := Option.bind_eq_some_iff.mp ho
    cases hy
    refine ⟨_, _, _, rfl, fun p e R s m args below meth c CX hRl hRf H locs ls cells slots Q X V _ _ k => ?_⟩
    obtain ⟨n, f, hc, hn, rfl⟩ := ax_rl_spec hx
    obtain ⟨cell, q1, q2, q3, q4, -, q6⟩ := ax_rd_arr F CX.2.2.2.2.2.2.2.2.2 X hc
    have k9 := k ls V
    rw [List.map_cons, ax_v_rf] at k9
    exact W.aald CX.1 CX.2.1 q1 q2 ht q3 (ax_nin q4 hn) (q6 _ (Nat.not_le.mp fun z => hn (Or.inr z))) rfl rfl hd k9
  · cases ho
theorem k_alen (F : ax_FA G) (hd : decode M.2.1 pc = .ok (.arraylength, 1)) : ax_Snd G l Y M pc (S_alen (pc + 1)) := by
  refine ax_snd_simple fun K L st h o ho => ?_
  unfold S_alen at ho
  split at ho
  · obtain ⟨x, hx, hy⟩ := Option.bind_eq_some_iff.mp ho
    cases hy
    refine ⟨_, _, _, rfl, fun p e R s m args below meth c CX hRl hRf H locs ls cells slots Q X V _ _ k => ?_⟩
    unfold ax_len at hx
    split at hx
    · rename_i a hc
      cases hx
      obtain ⟨t, n, y⟩ := a
      obtain ⟨cell, q1, q2, q3, q4, q5, q6⟩ := ax_rd_arr F CX.2.2.2.2.2.2.2.2.2 X hc
      exact W.alen CX.1 CX.2.1 q1 q2 q5 rfl rfl hd (k ls V)
    · cases hx
  · cases ho
end HEAP
