/-! instructions that store into arrays, or make things -/
section STO
variable {G : ax_G} {l : Launch} {Y : ax_Y} {M : ax_M} {pc : Nat}
/-- behind a store into an array of the run's own -/
theorem ax_arr_set {s : State} {h : ax_H} {H H1 : Heap} {locs : List Loc} {a t n j : Nat} {x x' : ax_D} {v : Value} (X : ax_RL G s h H locs) (hlo : ¬ a < 400) (hc : h.1 a = .inl (t, n, x)) (he : H1[ax_ad G a]? = some ((arrV (G.2.2.2.1 t) n (ax_el G x)).setSlot j v)) (hz : H1.size = H.size) (hq : ∀ q : Nat, q ≠ ax_ad G a → H1[q]? = H[q]?)
    (hx : ax_el G x' = updV (ax_el G x) j v)
    (h4 : ∀ (n' : Nat) (f : Nat → Option Nat), (Sum.inl (t, n, x') : ax_C) = .inl (4, n', .inr (.inr (.inr (.inr f)))) → ∀ i, i < n' → ∀ y, f i = some y → ∃ k, k ∈ ax_objs ∧ ax_ci (h.1 y) = some k)
    (h3 : ∀ (n' : Nat) (f : Nat → Int32), (Sum.inl (t, n, x') : ax_C) = .inl (3, n', .inl f) → ∀ i, i < n' → fits .byte (.int (f i)) = true) : ax_RL G s (ax_set h a (.inl (t, n, x'))) H1 (locs ++ [⟨ax_ad G a, j⟩]) := by
  rcases ax_new_at X hlo with hdd | ⟨hn, hlt⟩
  · rw [hc] at hdd; cases hdd
  · rw [hc] at hn
    exact ax_RL_set X hlo hlt ⟨by rw [he, arrV_store, hx], hn.2⟩ hz hq (ax_IV_set X.2.2.2.2.2 (by rw [hc]; rfl) h4 h3)
theorem ax_arr_cell (F : ax_FA G) {s : State} (hs : ax_GD G s) {h : ax_H} {H : Heap} {locs : List Loc} {a t n : Nat} {x : ax_D} (X : ax_RL G s h H locs) (hlo : ¬ a < 400) (hc : h.1 a = .inl (t, n, x)) : H[ax_ad G a]? = some (arrV (G.2.2.2.1 t) n (ax_el G x)) ∧ t ≤ 5 ∧ s.isArrayOf (arrV (G.2.2.2.1 t) n (ax_el G x)) (ax_ty t) := by
  rcases ax_new_at X hlo with hdd | ⟨hn, -⟩
  · rw [hc] at hdd; cases hdd
  · rw [hc] at hn
    exact ⟨hn.1, hn.2.2, ax_arr_at F hs hn.2.2 n (ax_el G x)⟩
theorem ax_el_i (f : Nat → Int32) (j : Nat) (x : Int32) : ax_el G (.inl (upd f j x)) = updV (ax_el G (.inl f)) j (.int x) := by
  funext q
  show Value.int (if q = j then x else f q) = if q = j then Value.int x else Value.int (f q)
  split <;> rfl
theorem ax_el_l (f : Nat → Int64) (j : Nat) (x : Int64) : ax_el G (.inr (.inl (vp_updL f j x))) = updV (ax_el G (.inr (.inl f))) j (.long x) := by
  funext q
  show Value.long (if q = j then x else f q) = if q = j then Value.long x else Value.long (f q)
  split <;> rfl
theorem ax_el_r (f : Nat → Option Nat) (j : Nat) (x : Option Nat) : ax_el G (.inr (.inr (.inr (.inr (va_up f j x))))) = updV (ax_el G (.inr (.inr (.inr (.inr f))))) j (va_rf (x.map (ax_ad G))) := by
  funext q
  show va_rf ((if q = j then x else f q).map (ax_ad G)) = if q = j then va_rf (x.map (ax_ad G)) else va_rf ((f q).map (ax_ad G))
  split <;> rfl
theorem k_iast (F : ax_FA G) (hd : decode M.2.1 pc = .ok (.iastore, 1)) : ax_Snd G l Y M pc (S_iast 0 (fun x => x) (pc + 1)) := by
  intro d K _ L st h o ho
  unfold S_iast at ho
  split at ho
  · split at ho
    · cases ho
    · rename_i hlo
      obtain ⟨c', hc', hy⟩ := Option.bind_eq_some_iff.mp ho
      cases hy
      obtain ⟨n, f, hc, hn, rfl⟩ := ax_as_spec hc'
      refine ⟨⟨Nat.le_refl _, Nat.le_refl _⟩, fun p e R s m args below meth c CX hRf hRl h0 Q b1 b2 KO H locs ls g1 g2 X V => ?_⟩
      obtain ⟨q1, q2, q3⟩ := ax_arr_cell F CX.2.2.2.2.2.2.2.2.2 X hlo hc
      exact W.iast CX.1 CX.2.1 q1 q3 (fun q => by cases q) (by rw [arrV_size]; exact hn) rfl rfl hd fun H' e1 e2 e3 => KO H' _ ls g1 g2 (ax_arr_set X hlo hc e1 e2 e3 (ax_el_i _ _ _) (fun _ _ e => by cases e) (fun _ _ e => by cases e)) V
  · cases ho
theorem k_zast (F : ax_FA G) (hd : decode M.2.1 pc = .ok (.bastore, 1)) : ax_Snd G l Y M pc (S_iast 2 (fun x => vp_nar .boolean x) (pc + 1)) := by
  intro d K _ L st h o ho
  unfold S_iast at ho
  split at ho
  · split at ho
    · cases ho
    · rename_i x i a rest hlo
      obtain ⟨c', hc', hy⟩ := Option.bind_eq_some_iff.mp ho
      cases hy
      obtain ⟨n, f, hc, hn, rfl⟩ := ax_as_spec hc'
      refine ⟨⟨Nat.le_refl _, Nat.le_refl _⟩, fun p e R s m args below meth c CX hRf hRl h0 Q b1 b2 KO H locs ls g1 g2 X V => ?_⟩
      obtain ⟨q1, q2, q3⟩ := ax_arr_cell F CX.2.2.2.2.2.2.2.2.2 X hlo hc
      exact W.zast CX.1 CX.2.1 q1 q3 (fun q => by cases q) (by rw [arrV_size]; exact hn) rfl rfl hd fun H' e1 e2 e3 => KO H' _ ls g1 g2 (ax_arr_set X hlo hc e1 e2 e3 (ax_el_i _ _ _) (fun _ _ e => by cases e) (fun _ _ e => by cases e)) V
  · cases ho
theorem k_bast (F : ax_FA G) (hd : decode M.2.1 pc = .ok (.bastore, 1)) : ax_Snd G l Y M pc (S_iast 3 (fun x => vp_nar .byte x) (pc + 1)) := by
  intro d K _ L st h o ho
  unfold S_iast at ho
  split at ho
  · split at ho
    · cases ho
    · rename_i x i a rest hlo
      obtain ⟨c', hc', hy⟩ := Option.bind_eq_some_iff.mp ho
      cases hy
      obtain ⟨n, f, hc, hn, rfl⟩ := ax_as_spec hc'
      refine ⟨⟨Nat.le_refl _, Nat.le_refl _⟩, fun p e R s m args below meth c CX hRf hRl h0 Q b1 b2 KO H locs ls g1 g2 X V => ?_⟩
      obtain ⟨q1, q2, q3⟩ := ax_arr_cell F CX.2.2.2.2.2.2.2.2.2 X hlo hc
      refine W.bast CX.1 CX.2.1 q1 q3 (fun q => by cases q) (by rw [arrV_size]; exact hn) rfl rfl hd fun H' e1 e2 e3 => KO H' _ ls g1 g2 (ax_arr_set X hlo hc e1 e2 e3 (ax_el_i _ _ _) (fun _ _ e => by cases e) (fun n' f' e j hj => ?_)) V
      cases e
      show fits .byte (.int (if j = i.toNatClampNeg then vp_nar .byte x else f j)) = true
      split
      · exact pk_fb x
      · exact X.2.2.2.2.2.2 _ _ _ hc j hj
  · cases ho
theorem k_last (F : ax_FA G) (hd : decode M.2.1 pc = .ok (.lastore, 1)) : ax_Snd G l Y M pc (S_last 1 (pc + 1)) := by
  intro d K _ L st h o ho
  unfold S_last at ho
  split at ho
  · split at ho
    · cases ho
    · rename_i hlo
      obtain ⟨c', hc', hy⟩ := Option.bind_eq_some_iff.mp ho
      cases hy
      obtain ⟨n, f, hc, hn, rfl⟩ := ax_ls_spec hc'
      refine ⟨⟨Nat.le_refl _, Nat.le_refl _⟩, fun p e R s m args below meth c CX hRf hRl h0 Q b1 b2 KO H locs ls g1 g2 X V => ?_⟩
      obtain ⟨q1, q2, q3⟩ := ax_arr_cell F CX.2.2.2.2.2.2.2.2.2 X hlo hc
      exact W.last CX.1 CX.2.1 q1 q3 (fun q => by cases q) (by rw [arrV_size]; exact hn) rfl rfl hd fun H' e1 e2 e3 => KO H' _ ls g1 g2 (ax_arr_set X hlo hc e1 e2 e3 (ax_el_l _ _ _) (fun _ _ e => by cases e) (fun _ _ e => by cases e)) V
  · cases ho
/-- a made thing or an old one, as a receiver -/
theorem ax_recv (F : ax_FA G) {s : State} (hs : ax_GD G s) {h : ax_H} {H : Heap} {locs : List Loc} (X : ax_RL G s h H locs) {o k : Nat} {r : vw_C} (hk : ax_ci (h.1 o) = some k) (hr : G.2.2.1[k]? = some r) : ∃ cell : Cell, H[ax_ad G o]? = some cell ∧ cell.vm.isStatics = false ∧ s.vm.findClass r.1 = some cell.cls := by
  cases hc : h.1 o with
  | inl a => rw [hc] at hk; cases hk
  | inr w =>
    obtain ⟨kk, fs⟩ := w
    rw [hc] at hk
    cases hk
    rcases ax_read F hs X o with hdd | hq
    · rw [hc] at hdd
      cases hdd
      exact absurd rfl (ax_len_lt F hr)
    · rw [hc] at hq
      obtain ⟨r', cell, f1, f2, f3, f4, f5, f6, f7⟩ := hq
      cases Option.some.inj (f1.symm.trans hr)
      exact ⟨cell, f3, f6, by rw [f4]; exact ((ax_K_at F hs).1 kk _ hr).2.1⟩
/-- the kinds of ks may be cast to the class nm -/
def ax_cas (G : ax_G) (nm : String) (ks : List Nat) : Prop := ∀ k ∈ ks, ∃ r : vw_C, G.2.2.1[k]? = some r ∧ (r.1 = nm ∨ Cond.castable r.1 nm ∈ lw_tbl)
theorem ax_cas_nil {nm : String} : ax_cas G nm [] := fun _ h => nomatch h
theorem ax_cas_cons {nm : String} {k : Nat} {ks : List Nat} {r : vw_C} (h : G.2.2.1[k]? = some r) (h2 : Cond.castable r.1 nm ∈ lw_tbl) (t : ax_cas G nm ks) : ax_cas G nm (k :: ks) := by
  intro q hq
  rcases List.mem_cons.mp hq with e | e
  · rw [e]; exact ⟨r, h, Or.inr h2⟩
  · exact t q e
theorem ax_cas_self {nm : String} {k : Nat} {ks : List Nat} {r : vw_C} (h : G.2.2.1[k]? = some r) (h2 : r.1 = nm) (t : ax_cas G nm ks) : ax_cas G nm (k :: ks) := by
  intro q hq
  rcases List.mem_cons.mp hq with e | e
  · rw [e]; exact ⟨r, h, Or.inl h2⟩
  · exact t q e
theorem k_aast (F : ax_FA G) (B : ax_TB G) {oks : List Nat} (hoks : ax_cas G "java/lang/Object" oks) (hobj : ∀ k ∈ oks, k ∈ ax_objs) (hd : decode M.2.1 pc = .ok (.aastore, 1)) : ax_Snd G l Y M pc (S_aast 4 oks (pc + 1)) := by
  intro d K _ L st h o ho
  unfold S_aast at ho
  split at ho
  · split at ho
    · cases ho
    · rename_i x i a rest hlo
      obtain ⟨k, hk, hz⟩ := Option.bind_eq_some_iff.mp ho
      split at hz
      · rename_i hin
        obtain ⟨c', hc', hy⟩ := Option.bind_eq_some_iff.mp hz
        cases hy
        obtain ⟨n, f, hc, hn, rfl⟩ := ax_rs_spec hc'
        refine ⟨⟨Nat.le_refl _, Nat.le_refl _⟩, fun p e R s m args below meth c CX hRf hRl h0 Q b1 b2 KO H locs ls g1 g2 X V => ?_⟩
        have hs := CX.2.2.2.2.2.2.2.2.2
        obtain ⟨q1, q2, q3⟩ := ax_arr_cell F hs X hlo hc
        obtain ⟨r, hr, hcast⟩ := hoks k hin
        obtain ⟨cv, v1, v2, v3⟩ := ax_recv F hs X hk hr
        obtain ⟨kA, comp, r1, r2, r3, r4⟩ := ax_arr_RA F hs (t := 4) (by decide)
        obtain ⟨kcomp, p1, -⟩ := Vm.findClass_spec r3
        obtain ⟨kv, p2, -⟩ := Vm.findClass_spec v3
        have hasg : s.vm.assignable cv.cls comp = true := by
          rcases hcast with e | e
          · rw [e] at v3
            cases Option.some.inj (v3.symm.trans r3)
            exact va_asg _ _
          · obtain ⟨c0, t0, w1, w2, w3⟩ := Cond.castable_spec (va_Nw.use (A := args) rfl (va_Nw.warmC hs.1 (B.nw e rfl)))
            cases Option.some.inj (w1.symm.trans v3)
            cases Option.some.inj (w2.symm.trans r3)
            exact w3
        refine W.aast CX.1 CX.2.1 q1 (fun q z => by cases z) (fun z => by cases z) r1 r2 rfl p1 ⟨fun z => hn (Or.inl z), by rw [arrV_size]; exact Nat.not_le.mp fun z => hn (Or.inr z)⟩ v1 (fun q z => by rw [z] at v2; cases v2) p2 hasg rfl rfl hd fun H' e1 e2 e3 => KO H' _ ls g1 g2 (ax_arr_set X hlo hc e1 e2 e3 (ax_el_r _ _ _) (fun n' f' e j hj y hy => ?_) (fun _ _ e => by cases e)) V
        cases e
        have hy' : (if j = i.toNatClampNeg then some x else f j) = some y := hy
        split at hy'
        · cases hy'
          exact ⟨k, hobj k hin, hk⟩
        · exact X.2.2.2.2.2.1 _ _ _ hc j hj y hy'
      · cases hz
  · split at ho
    · cases ho
    · rename_i i a rest hlo
      obtain ⟨c', hc', hy⟩ := Option.bind_eq_some_iff.mp ho
      cases hy
      obtain ⟨n, f, hc, hn, rfl⟩ := ax_rs_spec hc'
      refine ⟨⟨Nat.le_refl _, Nat.le_refl _⟩, fun p e R s m args below meth c CX hRf hRl h0 Q b1 b2 KO H locs ls g1 g2 X V => ?_⟩
      have hs := CX.2.2.2.2.2.2.2.2.2
      obtain ⟨q1, q2, q3⟩ := ax_arr_cell F hs X hlo hc
      refine va_WaastN (C := "java/lang/Object") CX.1 CX.2.1 q1 q3 (fun q => by cases q) (by rw [arrV_size]; exact hn) rfl rfl hd fun H' e1 e2 e3 => KO H' _ ls g1 g2 (ax_arr_set X hlo hc e1 e2 e3 (ax_el_r _ _ _) (fun n' f' e j hj y hy => ?_) (fun _ _ e => by cases e)) V
      cases e
      have hy' : (if j = i.toNatClampNeg then none else f j) = some y := hy
      split at hy'
      · cases hy'
      · exact X.2.2.2.2.2.1 _ _ _ hc j hj y hy'
  · cases ho
/-! making things -/
theorem ax_RL_dead {s : State} {h : ax_H} {H : Heap} {locs : List Loc} (X : ax_RL G s h H locs) : h.1 (400 + h.2.1) = ax_dead := X.2.2.1 _ (Nat.le_refl _)
theorem ax_ad_new {s : State} {h : ax_H} {H : Heap} {locs : List Loc} (X : ax_RL G s h H locs) : ax_ad G (400 + h.2.1) = H.size := by
  rw [ax_ad_hi (by omega), X.1]
  omega
/-- a kind of thing that may be made -/
def ax_mk (G : ax_G) (C : String) (k w : Nat) (fs : List Value) : Prop := ∃ r : vw_C, G.2.2.1[k]? = some r ∧ r.1 = C ∧ fs.length = r.2.2 ∧ (∀ z ∈ u_ws r.1 r.2.1 r.2.2, z ∈ lw_all) ∧ Cond.instantiable C w ∈ lw_all ∧ Cond.initialized C ∈ lw_all ∧ ∃ ty : Nat → FieldType, (∀ j, j < r.2.2 → parseFieldDescriptor (r.2.1 j).2.2.1 = some (ty j) ∧ ax_v G (fs.getD j .null) = defaultValue (ty j))
theorem k_new (F : ax_FA G) {C : String} {k w index : Nat} {fs : List Value} (hm : ax_mk G C k w fs) (hl : Cond.classLink M.1 index C ∈ lw_all) (hd : decode M.2.1 pc = .ok (.new index, 3)) : ax_Snd G l Y M pc (S_new k fs w (pc + 3)) := by
  intro d K _ L st h o ho
  cases ho
  refine ⟨⟨Nat.le_succ _, Nat.le_add_right _ _⟩, fun p e R s m args below meth c CX hRf hRl h0 Q b1 b2 KO H locs ls g1 g2 X V => ?_⟩
  have hs := CX.2.2.2.2.2.2.2.2.2
  have hts := CX.2.2.2.2.1
  have b1 : h.2.1 + 1 ≤ h0.2.1 + R.cells := b1
  have b2 : h.2.2 + w ≤ h0.2.2 + R.slots := b2
  have g1 : h0.2.1 ≤ h.2.1 := g1
  have g2 : h0.2.2 ≤ h.2.2 := g2
  obtain ⟨r, f1, rfl, f3, f4, f5, f6, ty, f7⟩ := hm
  have hKn := (ax_K_at F hs).1 k _ f1
  refine W.newcK CX.1 CX.2.1 CX.2.2.2.1 (hts _ hl) (hts _ f5) (hts _ f6) rfl hd (by show h.2.1 - h0.2.1 + 1 ≤ _; omega) (by show h.2.2 - h0.2.2 + w ≤ _; omega) hKn.2.1 rfl fun H1 kC hkC e1 z1 o1 => ?_
  have X' : ax_RL G s (ax_new h (.inr (k, fs)) w) H1 locs := by
    refine ax_RL_new X ⟨r, f1, f3, (u_born ty hts f4 hKn hkC e1 (fun j hj => (f7 j hj).1)).to fun j hj => ?_, fun _ cell9 hc9 => ?_⟩ z1 o1 (ax_IV_new X.2.2.2.2.2 (ax_RL_dead X) (fun _ _ e => by cases e) (fun _ _ e => by cases e))
    rw [← (f7 j hj).2]
    have hlt : j < fs.length := by omega
    simp [vp_V, List.getD_eq_getElem?_getD, hlt]
    cases Option.some.inj (e1.symm.trans hc9)
    refine ⟨rfl, rfl, fun kG hkG => ?_⟩
    obtain ⟨k', hk', he⟩ := hs.1.alike.2.2 _ _ hkG
    show (kC.instanceTypes.map defaultValue).size = _
    rw [Array.size_map, Option.some.inj (hkC.symm.trans hk'), he]
  have k9 := KO H1 locs ls (by show h0.2.1 ≤ h.2.1 + 1; omega) (by show h0.2.2 ≤ h.2.2 + w; omega) X' V
  have k8 : W p l e R s m args below meth c H1 locs (h.2.1 + 1 - h0.2.1) (h.2.2 + w - h0.2.2) Q (F0 m (pc + 3) ls (.ref (ax_ad G (400 + h.2.1)) :: st.map (ax_v G))) := k9
  rw [ax_ad_new X, show h.2.1 + 1 - h0.2.1 = h.2.1 - h0.2.1 + 1 by omega, show h.2.2 + w - h0.2.2 = h.2.2 - h0.2.2 + w by omega] at k8
  exact k8
theorem ax_RL_newarr (F : ax_FA G) {s : State} (hs : ax_GD G s) {h : ax_H} {H H1 : Heap} {locs : List Loc} {t n w : Nat} {x : ax_D} {cA : ClassId} (ht : t ≤ 5) (hn : n < 2 ^ 31) (X : ax_RL G s h H locs) (hc : s.vm.findClass ("[" ++ (ax_ty t).toString) = some cA) (e1 : H1[H.size]? = some (arrV cA n (ax_el G x))) (hz : H1.size = H.size + 1) (hq : ∀ q : Nat, q < H.size → H1[q]? = H[q]?)
    (h4 : ∀ (n' : Nat) (f : Nat → Option Nat), (Sum.inl (t, n, x) : ax_C) = .inl (4, n', .inr (.inr (.inr (.inr f)))) → ∀ i, i < n' → ∀ y, f i = some y → ∃ k, k ∈ ax_objs ∧ ax_ci (h.1 y) = some k)
    (h3 : ∀ (n' : Nat) (f : Nat → Int32), (Sum.inl (t, n, x) : ax_C) = .inl (3, n', .inl f) → ∀ i, i < n' → fits .byte (.int (f i)) = true) : ax_RL G s (ax_new h (.inl (t, n, x)) w) H1 locs := by
  have e0 : cA = G.2.2.2.1 t := Option.some.inj (hc.symm.trans (ax_arr_find F hs ht))
  subst e0
  exact ax_RL_new X ⟨e1, hn, ht⟩ hz hq (ax_IV_new X.2.2.2.2.2 (ax_RL_dead X) h4 h3)
/-- newarray: t the kind, u the sort of its data -/
theorem k_newa (F : ax_FA G) {atype : ArrayType} {t u : Nat} (ht : t ≤ 3) (hty : newarray.typeOf atype = ax_ty t) (hdat : ∀ j, ax_el G (ax_dat u) j = defaultValue (ax_ty t)) (hw : Cond.arrayClass (newarray.typeOf atype) ∈ lw_all ∨ ∀ s : State, ax_GD G s → ∀ args : Array Value, (Cond.arrayClass (newarray.typeOf atype)).before args s = true) (hcb : componentBytes (ax_ty t) ≤ 8)
    (h3 : t = 3 → u = 0) (hd : decode M.2.1 pc = .ok (.newarray atype, 2)) : ax_Snd G l Y M pc (S_newa t u (pc + 2)) := by
  intro d K _ L st h o ho
  unfold S_newa at ho
  split at ho
  · split at ho
    · cases ho
    · rename_i n rest hn
      cases ho
      refine ⟨⟨Nat.le_succ _, Nat.le_add_right _ _⟩, fun p e R s m args below meth c CX hRf hRl h0 Q b1 b2 KO H locs ls g1 g2 X V => ?_⟩
      have hs := CX.2.2.2.2.2.2.2.2.2
      have hts := CX.2.2.2.2.1
      have b1 : h.2.1 + 1 ≤ h0.2.1 + R.cells := b1
      have b2 : h.2.2 + n.toNatClampNeg ≤ h0.2.2 + R.slots := b2
      have g1 : h0.2.1 ≤ h.2.1 := g1
      have g2 : h0.2.2 ≤ h.2.2 := g2
      have hk : n.toNatClampNeg ≤ 1000000 := by omega
      have hmul : n.toNatClampNeg * componentBytes (ax_ty t) ≤ 1000000 * 8 := Nat.mul_le_mul hk hcb
      refine W.newa CX.1 CX.2.1 (by rcases hw with q | q; exact hts _ q; exact q s hs args) rfl hd rfl (fun z => hn (Or.inl z)) (by rw [hty]; omega) (by show h.2.1 - h0.2.1 + 1 ≤ _; omega) (by show h.2.2 - h0.2.2 + n.toNatClampNeg ≤ _; omega) fun cA kA comp w1 w2 w3 => ?_
      rw [hty] at w1
      have X' : ax_RL G s (ax_new h (.inl (t, n.toNatClampNeg, ax_dat u)) n.toNatClampNeg) (H.push { cls := cA, slots := Array.replicate n.toNatClampNeg (defaultValue (newarray.typeOf atype)), vm := .none }) locs := by
        refine ax_RL_newarr F hs (by omega) (by omega) X w1 ?_ (by rw [Array.size_push]) (fun q hq => by rw [Array.getElem?_push, if_neg (Nat.ne_of_lt hq)]) (fun n' f e => ?_) (fun n' f e i hi => ?_)
        · rw [Array.getElem?_push_size, arrV_new, hty]
          congr 2
          funext j
          exact (hdat j).symm
        · simp only [Sum.inl.injEq, Prod.mk.injEq] at e
          have e1 : t = 4 := e.1
          omega
        · have e1 : t = 3 := by
            simp only [Sum.inl.injEq, Prod.mk.injEq] at e
            exact e.1
          rw [h3 e1] at e
          simp only [Sum.inl.injEq, Prod.mk.injEq, ax_dat] at e
          rw [← e.2.2]
          rfl
      have k9 := KO _ locs ls (by show h0.2.1 ≤ h.2.1 + 1; omega) (by show h0.2.2 ≤ h.2.2 + n.toNatClampNeg; omega) X' V
      have k8 : W p l e R s m args below meth c (H.push { cls := cA, slots := Array.replicate n.toNatClampNeg (defaultValue (newarray.typeOf atype)), vm := .none }) locs (h.2.1 + 1 - h0.2.1) (h.2.2 + n.toNatClampNeg - h0.2.2) Q (F0 m (pc + 2) ls (.ref (ax_ad G (400 + h.2.1)) :: rest.map (ax_v G))) := k9
      rw [ax_ad_new X, show h.2.1 + 1 - h0.2.1 = h.2.1 - h0.2.1 + 1 by omega, show h.2.2 + n.toNatClampNeg - h0.2.2 = h.2.2 - h0.2.2 + n.toNatClampNeg by omega] at k8
      exact k8
  · cases ho
theorem k_anewa (F : ax_FA G) (B : ax_TB G) {index : Nat} (hl : Cond.classLink M.1 index "java/lang/Object" ∈ lw_all) (hw : Cond.arrayOver (.object "java/lang/Object") ∈ lw_tbl) (hd : decode M.2.1 pc = .ok (.anewarray index, 3)) : ax_Snd G l Y M pc (S_newa 4 2 (pc + 3)) := by
  intro d K _ L st h o ho
  unfold S_newa at ho
  split at ho
  · split at ho
    · cases ho
    · rename_i n rest hn
      cases ho
      refine ⟨⟨Nat.le_succ _, Nat.le_add_right _ _⟩, fun p e R s m args below meth c CX hRf hRl h0 Q b1 b2 KO H locs ls g1 g2 X V => ?_⟩
      have hs := CX.2.2.2.2.2.2.2.2.2
      have hts := CX.2.2.2.2.1
      have b1 : h.2.1 + 1 ≤ h0.2.1 + R.cells := b1
      have b2 : h.2.2 + n.toNatClampNeg ≤ h0.2.2 + R.slots := b2
      have g1 : h0.2.1 ≤ h.2.1 := g1
      have g2 : h0.2.2 ≤ h.2.2 := g2
      obtain ⟨A0, B0⟩ := B
      refine W.anew CX.1 CX.2.1 CX.2.2.2.1 (hts _ hl) (va_AO.use (va_AO.moved hs.1.alike (va_AO.of (B0 _ hw)))) rfl hd rfl (fun z => hn (Or.inl z)) (by omega) (by show h.2.1 - h0.2.1 + 1 ≤ _; omega) (by show h.2.2 - h0.2.2 + n.toNatClampNeg ≤ _; omega) fun cA kA comp w1 w2 w3 w4 => ?_
      have X' : ax_RL G s (ax_new h (.inl (4, n.toNatClampNeg, ax_dat 2)) n.toNatClampNeg) (H.push { cls := cA, slots := Array.replicate n.toNatClampNeg .null, vm := .none }) locs := by
        refine ax_RL_newarr F hs (by omega) (by omega) X w1 ?_ (by rw [Array.size_push]) (fun q hq => by rw [Array.getElem?_push, if_neg (Nat.ne_of_lt hq)]) (fun n' f e i hi y hy => ?_) (fun n' f e => by cases e)
        · rw [Array.getElem?_push_size, arrV_new]
          rfl
        · cases e; cases hy
      have k9 := KO _ locs ls (by show h0.2.1 ≤ h.2.1 + 1; omega) (by show h0.2.2 ≤ h.2.2 + n.toNatClampNeg; omega) X' V
      have k8 : W p l e R s m args below meth c (H.push { cls := cA, slots := Array.replicate n.toNatClampNeg .null, vm := .none }) locs (h.2.1 + 1 - h0.2.1) (h.2.2 + n.toNatClampNeg - h0.2.2) Q (F0 m (pc + 3) ls (.ref (ax_ad G (400 + h.2.1)) :: rest.map (ax_v G))) := k9
      rw [ax_ad_new X, show h.2.1 + 1 - h0.2.1 = h.2.1 - h0.2.1 + 1 by omega, show h.2.2 + n.toNatClampNeg - h0.2.2 = h.2.2 - h0.2.2 + n.toNatClampNeg by omega] at k8
      exact k8
  · cases ho
end STO
