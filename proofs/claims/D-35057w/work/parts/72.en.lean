/-! the start's things put together (printed by gen/emit90.py) -/
set_option maxRecDepth 100000
theorem st_fits : ∀ k, k < 5 → ∀ j, j < st_len.getD k 0 → fits .byte (.int ((st_byt.getD k []).getD j 0)) = true := by decide +kernel
theorem st_fit (k : Nat) (hk : k < 5) {n : Nat} {f : Nat → Int32} (h : (.inl (3, st_len.getD k 0, .inl fun j => (st_byt.getD k []).getD j 0) : ax_C) = .inl (3, n, .inl f)) {j : Nat} (hj : j < n) : fits .byte (.int (f j)) = true := by
  injection h with h
  injection h with _ h
  injection h with e1 e2
  injection e2 with e2
  subst e1 e2
  exact st_fits k hk j hj
def st_ad (b a1 a3 a4 a5 mi : Nat) (ci ta tv x : Nat → Nat) (i : Nat) : Nat := if i = 0 then b else if i = 1 then a1 else if i = 3 then a3 else if i = 4 then a4 else if i = 5 then a5 else if i = 6 then mi else if 20 ≤ i ∧ i < 276 then ci (i - 20) else if 280 ≤ i ∧ i < 290 then (if i % 2 = 0 then ta ((i - 280) / 2) else tv ((i - 280) / 2)) else x i
def st_x (b y0 y1 y2 y3 y4 y5 y6 y7 y8 i : Nat) : Nat := if i = 360 then y0 else if i = 361 then y1 else if i = 362 then y2 else if i = 292 then y3 else if i = 364 then y4 else if i = 390 then y5 else if i = 366 then y6 else if i = 391 then y7 else if i = 290 then y8 else b
section ST
variable {s : State} {A0 : Array Value}
theorem st_obj {D : va_G} {k : Nat} {C : String} {T : u_T} {N a : Nat} {V : Nat → Value} {A : Nat → Prop} (hK : u_Kn s C T N (D.1 k) (D.2 k)) (hO : va_O C a A s s.heap) (hF : ∀ j, j < N → va_OF (T j).1 (T j).2.1 (T j).2.2.1 (V j) a A s s.heap) (hN : 0 < N) : ∃ cell : Cell, s.heap[a]? = some cell ∧ cell.cls = D.1 k ∧ cell.vm ≠ .unknown ∧ cell.vm.isStatics = false ∧ ∀ j, j < N → cell.slots[D.2 k j]? = some (V j) := by
  obtain ⟨cell, h1, h2, h3, -⟩ := hO
  obtain ⟨hS, hfc, -⟩ := hK
  have key : ∀ j, j < N → cell.vm ≠ .unknown ∧ cell.slots[D.2 k j]? = some (V j) := by
    intro j hj
    obtain ⟨cf, kf, i, f, cell', g1, g2, g3, g4, g5, -⟩ := hF j hj
    obtain ⟨cf', kf', i', f', e1, e2⟩ := hS j hj
    cases g1.symm.trans e1
    cases h1.symm.trans g3
    exact ⟨g4, by rw [← e2]; exact g5⟩
  exact ⟨cell, h1, Option.some.inj (h3.symm.trans hfc), (key 0 hN).1, h2, fun j hj => (key j hj).2⟩
theorem st_old_int (L : Nat) (xs : Nat → Int32) (j : Nat) (hj : j < 256) : old_c L xs (20 + j) = .inr (5, [.int (Int32.ofNat j - 128)]) := by
  unfold old_c
  rw [if_neg (by omega), if_neg (by omega), if_neg (by omega), if_neg (by omega), if_neg (by omega), if_pos (by omega), Nat.add_sub_cancel_left]
theorem st_ad_int (b a1 a3 a4 a5 mi : Nat) (ci ta tv x : Nat → Nat) (j : Nat) (hj : j < 256) : st_ad b a1 a3 a4 a5 mi ci ta tv x (20 + j) = ci j := by
  unfold st_ad
  rw [if_neg (by omega), if_neg (by omega), if_neg (by omega), if_neg (by omega), if_neg (by omega), if_neg (by omega), if_pos (by omega), Nat.add_sub_cancel_left]
theorem st_old_dead (L : Nat) (xs : Nat → Int32) (i : Nat) (h0 : i ≠ 0) (h1 : i ≠ 1) (h3 : i ≠ 3) (h4 : i ≠ 4) (h5 : i ≠ 5) (h6 : ¬ (20 ≤ i ∧ i < 276)) (h7 : ¬ (280 ≤ i ∧ i < 290)) : old_c L xs i = ax_dead := by
  unfold old_c
  rw [if_neg h0, if_neg h1, if_neg h3, if_neg h4, if_neg h5, if_neg h6, if_neg h7]
theorem st_IV (L : Nat) (xs : Nat → Int32) : ax_IV (st_h L xs) := by
  have key : ∀ i : Nat, (∃ (n : Nat) (x : ax_D), (st_h L xs).1 i = .inl (3, n, x) ∨ (st_h L xs).1 i = .inl (4, n, x)) → i = 1 ∨ i = 4 ∨ i = 5 ∨ (280 ≤ i ∧ i < 290) := by
    intro i ⟨n, x, h⟩
    by_cases q0 : i = 0
    · subst q0; rcases h with h | h <;> (have h' : (.inl (0, L, .inl xs) : ax_C) = .inl _ := h; injection h' with h'; injection h' with h' _; cases h')
    by_cases q1 : i = 1
    · exact Or.inl q1
    by_cases q3 : i = 3
    · subst q3; rcases h with h | h <;> (have h' : (.inl (6, 256, .inr (.inr (.inr (.inr fun j => some (20 + j))))) : ax_C) = .inl _ := h; injection h' with h'; injection h' with h' _; cases h')
    by_cases q4 : i = 4
    · exact Or.inr (Or.inl q4)
    by_cases q5 : i = 5
    · exact Or.inr (Or.inr (Or.inl q5))
    by_cases q7 : 280 ≤ i ∧ i < 290
    · exact Or.inr (Or.inr (Or.inr q7))
    exfalso
    by_cases q8 : i < 400
    · have e : (st_h L xs).1 i = old_c L xs i := if_pos q8
      rw [e] at h
      by_cases q6 : 20 ≤ i ∧ i < 276
      · obtain ⟨j, rfl⟩ : ∃ j, i = 20 + j := ⟨i - 20, by omega⟩
        rw [st_old_int L xs j (by omega)] at h
        rcases h with h | h <;> cases h
      · rw [st_old_dead L xs i q0 q1 q3 q4 q5 q6 q7] at h
        rcases h with h | h <;> cases h
    · have e : (st_h L xs).1 i = ax_dead := if_neg q8
      rw [e] at h
      rcases h with h | h <;> cases h
  refine ⟨fun i n f h j hj => ?_, fun i n f h j hj => ?_⟩
  · rcases key i ⟨n, _, Or.inr h⟩ with q | q | q | q
    · subst q
      have h' : (.inl (4, 0, .inr (.inr (.inr (.inr fun _ => none)))) : ax_C) = .inl (4, n, .inr (.inr (.inr (.inr f)))) := h
      injection h' with h'
      injection h' with _ h'
      injection h' with h' _
      omega
    · subst q
      have h' : (.inl (3, 100, .inl fun j => Int32.ofNat (48 + j / 10)) : ax_C) = .inl (4, n, .inr (.inr (.inr (.inr f)))) := h
      injection h' with h'
      injection h' with h' _
      cases h'
    · subst q
      have h' : (.inl (3, 100, .inl fun j => Int32.ofNat (48 + j % 10)) : ax_C) = .inl (4, n, .inr (.inr (.inr (.inr f)))) := h
      injection h' with h'
      injection h' with h' _
      cases h'
    · exfalso
      rcases (show i = 280 ∨ i = 281 ∨ i = 282 ∨ i = 283 ∨ i = 284 ∨ i = 285 ∨ i = 286 ∨ i = 287 ∨ i = 288 ∨ i = 289 by omega) with e | e | e | e | e | e | e | e | e | e <;> subst e
      all_goals first
        | (have h' : (.inr (3, [.ref _, .int 0]) : ax_C) = .inl (4, n, .inr (.inr (.inr (.inr f)))) := h
           cases h')
        | (have h' : (.inl (3, _, .inl _) : ax_C) = .inl (4, n, .inr (.inr (.inr (.inr f)))) := h
           injection h' with h'
           injection h' with h' _
           cases h')
  · rcases key i ⟨n, _, Or.inl h⟩ with q | q | q | q
    · subst q
      have h' : (.inl (4, 0, .inr (.inr (.inr (.inr fun _ => none)))) : ax_C) = .inl (3, n, .inl f) := h
      injection h' with h'
      injection h' with h' _
      cases h'
    · subst q
      have h' : (.inl (3, 100, .inl fun j => Int32.ofNat (48 + j / 10)) : ax_C) = .inl (3, n, .inl f) := h
      injection h' with h'
      injection h' with _ h'
      injection h' with e1 e2
      injection e2 with e2
      subst e1 e2
      exact (show ∀ j, j < 100 → fits .byte (.int (Int32.ofNat (48 + j / 10))) = true by decide +kernel) j hj
    · subst q
      have h' : (.inl (3, 100, .inl fun j => Int32.ofNat (48 + j % 10)) : ax_C) = .inl (3, n, .inl f) := h
      injection h' with h'
      injection h' with _ h'
      injection h' with e1 e2
      injection e2 with e2
      subst e1 e2
      exact (show ∀ j, j < 100 → fits .byte (.int (Int32.ofNat (48 + j % 10))) = true by decide +kernel) j hj
    · rcases (show i = 280 ∨ i = 281 ∨ i = 282 ∨ i = 283 ∨ i = 284 ∨ i = 285 ∨ i = 286 ∨ i = 287 ∨ i = 288 ∨ i = 289 by omega) with e | e | e | e | e | e | e | e | e | e <;> subst e
      · cases (show (.inr (3, [.ref 281, .int 0]) : ax_C) = .inl (3, n, .inl f) from h)
      · exact st_fit 0 (by decide) h hj
      · cases (show (.inr (3, [.ref 283, .int 0]) : ax_C) = .inl (3, n, .inl f) from h)
      · exact st_fit 1 (by decide) h hj
      · cases (show (.inr (3, [.ref 285, .int 0]) : ax_C) = .inl (3, n, .inl f) from h)
      · exact st_fit 2 (by decide) h hj
      · cases (show (.inr (3, [.ref 287, .int 0]) : ax_C) = .inl (3, n, .inl f) from h)
      · exact st_fit 3 (by decide) h hj
      · cases (show (.inr (3, [.ref 289, .int 0]) : ax_C) = .inl (3, n, .inl f) from h)
      · exact st_fit 4 (by decide) h hj
theorem st_mem_tens (hgv : (Jvm.Cond.and given_1 narrow_1).before A0 s = true) : ∀ j, j < 100 → (Cond.eq (.elem (.static "java/lang/Intege\x72" "DigitTens" "[B") (.int (Int32.ofNat j))) (.int (Int32.ofNat (48 + j / 10)))).before A0 s = true := (st_cs (st_cs (st_cs (st_cs (st_cs (st_cs (st_cs (st_cs (st_cs (st_cs (st_cs (st_cs (st_cs (st_cs (st_cs (st_cs (st_cs (st_cs (st_cs (st_cs (st_cs (st_cs (st_cs (st_cs (st_cs (st_cs (st_cs (st_cs (st_cs (st_cs (st_cs (st_cs (st_cs (st_cs (st_cs (st_cs (st_cs (st_cs (st_cs (st_cs (st_cs (st_cs (st_cs (st_cs (st_cs (st_cs (st_cs (st_cs (st_cs (st_cs (st_cs (st_cs (st_cs (st_cs (st_cs (st_cs (st_cs (st_cs (st_cs (st_cs (st_cs (st_cs (st_cs (st_cs (st_cs (st_cs (st_cs (st_cs (st_cs (st_cs (st_cs (st_cs (st_cs (st_cs (st_cs (st_cs (st_cs (st_cs (st_cs (st_cs (st_cs (st_cs (st_cs (st_cs (st_cs (st_cs (st_cs (st_cs (st_cs (st_cs (st_cs (st_cs (st_cs (st_cs (st_cs (st_cs (st_cs (st_cs (st_cs (st_cs st_c0 (st_l (st_r (st_l (st_r (st_r (st_l (st_l (st_r (st_l (st_l (st_l (st_r hgv))))))))))))) (st_r (st_r (st_l (st_r (st_r (st_l (st_l (st_r (st_l (st_l (st_l (st_r hgv))))))))))))) (st_l (st_l (st_r (st_r (st_r (st_l (st_l (st_r (st_l (st_l (st_l (st_r hgv))))))))))))) (st_r (st_l (st_r (st_r (st_r (st_l (st_l (st_r (st_l (st_l (st_l (st_r hgv))))))))))))) (st_l (st_r (st_r (st_r (st_r (st_l (st_l (st_r (st_l (st_l (st_l (st_r hgv))))))))))))) (st_r (st_r (st_r (st_r (st_r (st_l (st_l (st_r (st_l (st_l (st_l (st_r hgv))))))))))))) (st_l (st_l (st_l (st_l (st_r (st_l (st_r (st_l (st_l (st_l (st_r hgv)))))))))))) (st_l (st_r (st_l (st_l (st_l (st_r (st_l (st_r (st_l (st_l (st_l (st_r hgv))))))))))))) (st_r (st_r (st_l (st_l (st_l (st_r (st_l (st_r (st_l (st_l (st_l (st_r hgv))))))))))))) (st_l (st_r (st_l (st_l (st_r (st_l (st_r (st_l (st_l (st_l (st_r hgv)))))))))))) (st_l (st_r (st_r (st_l (st_l (st_r (st_l (st_r (st_l (st_l (st_l (st_r hgv))))))))))))) (st_r (st_r (st_r (st_l (st_l (st_r (st_l (st_r (st_l (st_l (st_l (st_r hgv))))))))))))) (st_l (st_l (st_r (st_l (st_r (st_l (st_r (st_l (st_l (st_l (st_r hgv)))))))))))) (st_l (st_r (st_l (st_r (st_l (st_r (st_l (st_r (st_l (st_l (st_l (st_r hgv))))))))))))) (st_r (st_r (st_l (st_r (st_l (st_r (st_l (st_r (st_l (st_l (st_l (st_r hgv))))))))))))) (st_l (st_r (st_r (st_l (st_r (st_l (st_r (st_l (st_l (st_l (st_r hgv)))))))))))) (st_l (st_r (st_r (st_r (st_l (st_r (st_l (st_r (st_l (st_l (st_l (st_r hgv))))))))))))) (st_r (st_r (st_r (st_r (st_l (st_r (st_l (st_r (st_l (st_l (st_l (st_r hgv))))))))))))) (st_l (st_l (st_l (st_r (st_r (st_l (st_r (st_l (st_l (st_l (st_r hgv)))))))))))) (st_l (st_r (st_l (st_l (st_r (st_r (st_l (st_r (st_l (st_l (st_l (st_r hgv))))))))))))) (st_r (st_r (st_l (st_l (st_r (st_r (st_l (st_r (st_l (st_l (st_l (st_r hgv))))))))))))) (st_l (st_r (st_l (st_r (st_r (st_l (st_r (st_l (st_l (st_l (st_r hgv)))))))))))) (st_l (st_r (st_r (st_l (st_r (st_r (st_l (st_r (st_l (st_l (st_l (st_r hgv))))))))))))) (st_r (st_r (st_r (st_l (st_r (st_r (st_l (st_r (st_l (st_l (st_l (st_r hgv))))))))))))) (st_l (st_l (st_r (st_r (st_r (st_l (st_r (st_l (st_l (st_l (st_r hgv)))))))))))) (st_l (st_r (st_l (st_r (st_r (st_r (st_l (st_r (st_l (st_l (st_l (st_r hgv))))))))))))) (st_r (st_r (st_l (st_r (st_r (st_r (st_l (st_r (st_l (st_l (st_l (st_r hgv))))))))))))) (st_l (st_l (st_r (st_r (st_r (st_r (st_l (st_r (st_l (st_l (st_l (st_r hgv))))))))))))) (st_r (st_l (st_r (st_r (st_r (st_r (st_l (st_r (st_l (st_l (st_l (st_r hgv))))))))))))) (st_l (st_r (st_r (st_r (st_r (st_r (st_l (st_r (st_l (st_l (st_l (st_r hgv))))))))))))) (st_r (st_r (st_r (st_r (st_r (st_r (st_l (st_r (st_l (st_l (st_l (st_r hgv))))))))))))) (st_l (st_l (st_l (st_l (st_l (st_r (st_r (st_l (st_l (st_l (st_r hgv)))))))))))) (st_l (st_r (st_l (st_l (st_l (st_l (st_r (st_r (st_l (st_l (st_l (st_r hgv))))))))))))) (st_r (st_r (st_l (st_l (st_l (st_l (st_r (st_r (st_l (st_l (st_l (st_r hgv))))))))))))) (st_l (st_r (st_l (st_l (st_l (st_r (st_r (st_l (st_l (st_l (st_r hgv)))))))))))) (st_l (st_r (st_r (st_l (st_l (st_l (st_r (st_r (st_l (st_l (st_l (st_r hgv))))))))))))) (st_r (st_r (st_r (st_l (st_l (st_l (st_r (st_r (st_l (st_l (st_l (st_r hgv))))))))))))) (st_l (st_l (st_r (st_l (st_l (st_r (st_r (st_l (st_l (st_l (st_r hgv)))))))))))) (st_l (st_r (st_l (st_r (st_l (st_l (st_r (st_r (st_l (st_l (st_l (st_r hgv))))))))))))) (st_r (st_r (st_l (st_r (st_l (st_l (st_r (st_r (st_l (st_l (st_l (st_r hgv))))))))))))) (st_l (st_r (st_r (st_l (st_l (st_r (st_r (st_l (st_l (st_l (st_r hgv)))))))))))) (st_l (st_r (st_r (st_r (st_l (st_l (st_r (st_r (st_l (st_l (st_l (st_r hgv))))))))))))) (st_r (st_r (st_r (st_r (st_l (st_l (st_r (st_r (st_l (st_l (st_l (st_r hgv))))))))))))) (st_l (st_l (st_l (st_r (st_l (st_r (st_r (st_l (st_l (st_l (st_r hgv)))))))))))) (st_l (st_r (st_l (st_l (st_r (st_l (st_r (st_r (st_l (st_l (st_l (st_r hgv))))))))))))) (st_r (st_r (st_l (st_l (st_r (st_l (st_r (st_r (st_l (st_l (st_l (st_r hgv))))))))))))) (st_l (st_r (st_l (st_r (st_l (st_r (st_r (st_l (st_l (st_l (st_r hgv)))))))))))) (st_l (st_r (st_r (st_l (st_r (st_l (st_r (st_r (st_l (st_l (st_l (st_r hgv))))))))))))) (st_r (st_r (st_r (st_l (st_r (st_l (st_r (st_r (st_l (st_l (st_l (st_r hgv))))))))))))) (st_l (st_l (st_r (st_r (st_l (st_r (st_r (st_l (st_l (st_l (st_r hgv)))))))))))) (st_l (st_r (st_l (st_r (st_r (st_l (st_r (st_r (st_l (st_l (st_l (st_r hgv))))))))))))) (st_r (st_r (st_l (st_r (st_r (st_l (st_r (st_r (st_l (st_l (st_l (st_r hgv))))))))))))) (st_l (st_l (st_r (st_r (st_r (st_l (st_r (st_r (st_l (st_l (st_l (st_r hgv))))))))))))) (st_r (st_l (st_r (st_r (st_r (st_l (st_r (st_r (st_l (st_l (st_l (st_r hgv))))))))))))) (st_l (st_r (st_r (st_r (st_r (st_l (st_r (st_r (st_l (st_l (st_l (st_r hgv))))))))))))) (st_r (st_r (st_r (st_r (st_r (st_l (st_r (st_r (st_l (st_l (st_l (st_r hgv))))))))))))) (st_l (st_l (st_l (st_l (st_r (st_r (st_r (st_l (st_l (st_l (st_r hgv)))))))))))) (st_l (st_r (st_l (st_l (st_l (st_r (st_r (st_r (st_l (st_l (st_l (st_r hgv))))))))))))) (st_r (st_r (st_l (st_l (st_l (st_r (st_r (st_r (st_l (st_l (st_l (st_r hgv))))))))))))) (st_l (st_r (st_l (st_l (st_r (st_r (st_r (st_l (st_l (st_l (st_r hgv)))))))))))) (st_l (st_r (st_r (st_l (st_l (st_r (st_r (st_r (st_l (st_l (st_l (st_r hgv))))))))))))) (st_r (st_r (st_r (st_l (st_l (st_r (st_r (st_r (st_l (st_l (st_l (st_r hgv))))))))))))) (st_l (st_l (st_r (st_l (st_r (st_r (st_r (st_l (st_l (st_l (st_r hgv)))))))))))) (st_l (st_r (st_l (st_r (st_l (st_r (st_r (st_r (st_l (st_l (st_l (st_r hgv))))))))))))) (st_r (st_r (st_l (st_r (st_l (st_r (st_r (st_r (st_l (st_l (st_l (st_r hgv))))))))))))) (st_l (st_r (st_r (st_l (st_r (st_r (st_r (st_l (st_l (st_l (st_r hgv)))))))))))) (st_l (st_r (st_r (st_r (st_l (st_r (st_r (st_r (st_l (st_l (st_l (st_r hgv))))))))))))) (st_r (st_r (st_r (st_r (st_l (st_r (st_r (st_r (st_l (st_l (st_l (st_r hgv))))))))))))) (st_l (st_l (st_l (st_r (st_r (st_r (st_r (st_l (st_l (st_l (st_r hgv)))))))))))) (st_l (st_r (st_l (st_l (st_r (st_r (st_r (st_r (st_l (st_l (st_l (st_r hgv))))))))))))) (st_r (st_r (st_l (st_l (st_r (st_r (st_r (st_r (st_l (st_l (st_l (st_r hgv))))))))))))) (st_l (st_r (st_l (st_r (st_r (st_r (st_r (st_l (st_l (st_l (st_r hgv)))))))))))) (st_l (st_r (st_r (st_l (st_r (st_r (st_r (st_r (st_l (st_l (st_l (st_r hgv))))))))))))) (st_r (st_r (st_r (st_l (st_r (st_r (st_r (st_r (st_l (st_l (st_l (st_r hgv))))))))))))) (st_l (st_l (st_r (st_r (st_r (st_r (st_r (st_l (st_l (st_l (st_r hgv)))))))))))) (st_l (st_r (st_l (st_r (st_r (st_r (st_r (st_r (st_l (st_l (st_l (st_r hgv))))))))))))) (st_r (st_r (st_l (st_r (st_r (st_r (st_r (st_r (st_l (st_l (st_l (st_r hgv))))))))))))) (st_l (st_l (st_r (st_r (st_r (st_r (st_r (st_r (st_l (st_l (st_l (st_r hgv))))))))))))) (st_r (st_l (st_r (st_r (st_r (st_r (st_r (st_r (st_l (st_l (st_l (st_r hgv))))))))))))) (st_l (st_r (st_r (st_r (st_r (st_r (st_r (st_r (st_l (st_l (st_l (st_r hgv))))))))))))) (st_r (st_r (st_r (st_r (st_r (st_r (st_r (st_r (st_l (st_l (st_l (st_r hgv))))))))))))) (st_l (st_l (st_l (st_l (st_l (st_l (st_l (st_r (st_l (st_l (st_r hgv)))))))))))) (st_l (st_r (st_l (st_l (st_l (st_l (st_l (st_l (st_r (st_l (st_l (st_r hgv))))))))))))) (st_r (st_r (st_l (st_l (st_l (st_l (st_l (st_l (st_r (st_l (st_l (st_r hgv))))))))))))) (st_l (st_r (st_l (st_l (st_l (st_l (st_l (st_r (st_l (st_l (st_r hgv)))))))))))) (st_l (st_r (st_r (st_l (st_l (st_l (st_l (st_l (st_r (st_l (st_l (st_r hgv))))))))))))) (st_r (st_r (st_r (st_l (st_l (st_l (st_l (st_l (st_r (st_l (st_l (st_r hgv))))))))))))) (st_l (st_l (st_r (st_l (st_l (st_l (st_l (st_r (st_l (st_l (st_r hgv)))))))))))) (st_l (st_r (st_l (st_r (st_l (st_l (st_l (st_l (st_r (st_l (st_l (st_r hgv))))))))))))) (st_r (st_r (st_l (st_r (st_l (st_l (st_l (st_l (st_r (st_l (st_l (st_r hgv))))))))))))) (st_l (st_r (st_r (st_l (st_l (st_l (st_l (st_r (st_l (st_l (st_r hgv)))))))))))) (st_l (st_r (st_r (st_r (st_l (st_l (st_l (st_l (st_r (st_l (st_l (st_r hgv))))))))))))) (st_r (st_r (st_r (st_r (st_l (st_l (st_l (st_l (st_r (st_l (st_l (st_r hgv))))))))))))) (st_l (st_l (st_l (st_r (st_l (st_l (st_l (st_r (st_l (st_l (st_r hgv)))))))))))) (st_l (st_r (st_l (st_l (st_r (st_l (st_l (st_l (st_r (st_l (st_l (st_r hgv))))))))))))) (st_r (st_r (st_l (st_l (st_r (st_l (st_l (st_l (st_r (st_l (st_l (st_r hgv))))))))))))) (st_l (st_r (st_l (st_r (st_l (st_l (st_l (st_r (st_l (st_l (st_r hgv)))))))))))) (st_l (st_r (st_r (st_l (st_r (st_l (st_l (st_l (st_r (st_l (st_l (st_r hgv))))))))))))) (st_r (st_r (st_r (st_l (st_r (st_l (st_l (st_l (st_r (st_l (st_l (st_r hgv))))))))))))) (st_l (st_l (st_r (st_r (st_l (st_l (st_l (st_r (st_l (st_l (st_r hgv))))))))))))
theorem st_mem_ones (hgv : (Jvm.Cond.and given_1 narrow_1).before A0 s = true) : ∀ j, j < 100 → (Cond.eq (.elem (.static "java/lang/Intege\x72" "DigitOnes" "[B") (.int (Int32.ofNat j))) (.int (Int32.ofNat (48 + j % 10)))).before A0 s = true := (st_cs (st_cs (st_cs (st_cs (st_cs (st_cs (st_cs (st_cs (st_cs (st_cs (st_cs (st_cs (st_cs (st_cs (st_cs (st_cs (st_cs (st_cs (st_cs (st_cs (st_cs (st_cs (st_cs (st_cs (st_cs (st_cs (st_cs (st_cs (st_cs (st_cs (st_cs (st_cs (st_cs (st_cs (st_cs (st_cs (st_cs (st_cs (st_cs (st_cs (st_cs (st_cs (st_cs (st_cs (st_cs (st_cs (st_cs (st_cs (st_cs (st_cs (st_cs (st_cs (st_cs (st_cs (st_cs (st_cs (st_cs (st_cs (st_cs (st_cs (st_cs (st_cs (st_cs (st_cs (st_cs (st_cs (st_cs (st_cs (st_cs (st_cs (st_cs (st_cs (st_cs (st_cs (st_cs (st_cs (st_cs (st_cs (st_cs (st_cs (st_cs (st_cs (st_cs (st_cs (st_cs (st_cs (st_cs (st_cs (st_cs (st_cs (st_cs (st_cs (st_cs (st_cs (st_cs (st_cs (st_cs (st_cs (st_cs (st_cs st_c0 (st_l (st_r (st_r (st_l (st_r (st_l (st_l (st_l (st_l (st_l (st_l (st_r hgv))))))))))))) (st_r (st_r (st_r (st_l (st_r (st_l (st_l (st_l (st_l (st_l (st_l (st_r hgv))))))))))))) (st_l (st_l (st_r (st_r (st_l (st_l (st_l (st_l (st_l (st_l (st_r hgv)))))))))))) (st_l (st_r (st_l (st_r (st_r (st_l (st_l (st_l (st_l (st_l (st_l (st_r hgv))))))))))))) (st_r (st_r (st_l (st_r (st_r (st_l (st_l (st_l (st_l (st_l (st_l (st_r hgv))))))))))))) (st_l (st_l (st_r (st_r (st_r (st_l (st_l (st_l (st_l (st_l (st_l (st_r hgv))))))))))))) (st_r (st_l (st_r (st_r (st_r (st_l (st_l (st_l (st_l (st_l (st_l (st_r hgv))))))))))))) (st_l (st_r (st_r (st_r (st_r (st_l (st_l (st_l (st_l (st_l (st_l (st_r hgv))))))))))))) (st_r (st_r (st_r (st_r (st_r (st_l (st_l (st_l (st_l (st_l (st_l (st_r hgv))))))))))))) (st_l (st_l (st_l (st_l (st_r (st_l (st_l (st_l (st_l (st_l (st_r hgv)))))))))))) (st_l (st_r (st_l (st_l (st_l (st_r (st_l (st_l (st_l (st_l (st_l (st_r hgv))))))))))))) (st_r (st_r (st_l (st_l (st_l (st_r (st_l (st_l (st_l (st_l (st_l (st_r hgv))))))))))))) (st_l (st_r (st_l (st_l (st_r (st_l (st_l (st_l (st_l (st_l (st_r hgv)))))))))))) (st_l (st_r (st_r (st_l (st_l (st_r (st_l (st_l (st_l (st_l (st_l (st_r hgv))))))))))))) (st_r (st_r (st_r (st_l (st_l (st_r (st_l (st_l (st_l (st_l (st_l (st_r hgv))))))))))))) (st_l (st_l (st_r (st_l (st_r (st_l (st_l (st_l (st_l (st_l (st_r hgv)))))))))))) (st_l (st_r (st_l (st_r (st_l (st_r (st_l (st_l (st_l (st_l (st_l (st_r hgv))))))))))))) (st_r (st_r (st_l (st_r (st_l (st_r (st_l (st_l (st_l (st_l (st_l (st_r hgv))))))))))))) (st_l (st_r (st_r (st_l (st_r (st_l (st_l (st_l (st_l (st_l (st_r hgv)))))))))))) (st_l (st_r (st_r (st_r (st_l (st_r (st_l (st_l (st_l (st_l (st_l (st_r hgv))))))))))))) (st_r (st_r (st_r (st_r (st_l (st_r (st_l (st_l (st_l (st_l (st_l (st_r hgv))))))))))))) (st_l (st_l (st_l (st_r (st_r (st_l (st_l (st_l (st_l (st_l (st_r hgv)))))))))))) (st_l (st_r (st_l (st_l (st_r (st_r (st_l (st_l (st_l (st_l (st_l (st_r hgv))))))))))))) (st_r (st_r (st_l (st_l (st_r (st_r (st_l (st_l (st_l (st_l (st_l (st_r hgv))))))))))))) (st_l (st_r (st_l (st_r (st_r (st_l (st_l (st_l (st_l (st_l (st_r hgv)))))))))))) (st_l (st_r (st_r (st_l (st_r (st_r (st_l (st_l (st_l (st_l (st_l (st_r hgv))))))))))))) (st_r (st_r (st_r (st_l (st_r (st_r (st_l (st_l (st_l (st_l (st_l (st_r hgv))))))))))))) (st_l (st_l (st_r (st_r (st_r (st_l (st_l (st_l (st_l (st_l (st_r hgv)))))))))))) (st_l (st_r (st_l (st_r (st_r (st_r (st_l (st_l (st_l (st_l (st_l (st_r hgv))))))))))))) (st_r (st_r (st_l (st_r (st_r (st_r (st_l (st_l (st_l (st_l (st_l (st_r hgv))))))))))))) (st_l (st_l (st_r (st_r (st_r (st_r (st_l (st_l (st_l (st_l (st_l (st_r hgv))))))))))))) (st_r (st_l (st_r (st_r (st_r (st_r (st_l (st_l (st_l (st_l (st_l (st_r hgv))))))))))))) (st_l (st_r (st_r (st_r (st_r (st_r (st_l (st_l (st_l (st_l (st_l (st_r hgv))))))))))))) (st_r (st_r (st_r (st_r (st_r (st_r (st_l (st_l (st_l (st_l (st_l (st_r hgv))))))))))))) (st_l (st_l (st_l (st_l (st_l (st_r (st_l (st_l (st_l (st_l (st_r hgv)))))))))))) (st_l (st_r (st_l (st_l (st_l (st_l (st_r (st_l (st_l (st_l (st_l (st_r hgv))))))))))))) (st_r (st_r (st_l (st_l (st_l (st_l (st_r (st_l (st_l (st_l (st_l (st_r hgv))))))))))))) (st_l (st_r (st_l (st_l (st_l (st_r (st_l (st_l (st_l (st_l (st_r hgv)))))))))))) (st_l (st_r (st_r (st_l (st_l (st_l (st_r (st_l (st_l (st_l (st_l (st_r hgv))))))))))))) (st_r (st_r (st_r (st_l (st_l (st_l (st_r (st_l (st_l (st_l (st_l (st_r hgv))))))))))))) (st_l (st_l (st_r (st_l (st_l (st_r (st_l (st_l (st_l (st_l (st_r hgv)))))))))))) (st_l (st_r (st_l (st_r (st_l (st_l (st_r (st_l (st_l (st_l (st_l (st_r hgv))))))))))))) (st_r (st_r (st_l (st_r (st_l (st_l (st_r (st_l (st_l (st_l (st_l (st_r hgv))))))))))))) (st_l (st_r (st_r (st_l (st_l (st_r (st_l (st_l (st_l (st_l (st_r hgv)))))))))))) (st_l (st_r (st_r (st_r (st_l (st_l (st_r (st_l (st_l (st_l (st_l (st_r hgv))))))))))))) (st_r (st_r (st_r (st_r (st_l (st_l (st_r (st_l (st_l (st_l (st_l (st_r hgv))))))))))))) (st_l (st_l (st_l (st_r (st_l (st_r (st_l (st_l (st_l (st_l (st_r hgv)))))))))))) (st_l (st_r (st_l (st_l (st_r (st_l (st_r (st_l (st_l (st_l (st_l (st_r hgv))))))))))))) (st_r (st_r (st_l (st_l (st_r (st_l (st_r (st_l (st_l (st_l (st_l (st_r hgv))))))))))))) (st_l (st_r (st_l (st_r (st_l (st_r (st_l (st_l (st_l (st_l (st_r hgv)))))))))))) (st_l (st_r (st_r (st_l (st_r (st_l (st_r (st_l (st_l (st_l (st_l (st_r hgv))))))))))))) (st_r (st_r (st_r (st_l (st_r (st_l (st_r (st_l (st_l (st_l (st_l (st_r hgv))))))))))))) (st_l (st_l (st_r (st_r (st_l (st_r (st_l (st_l (st_l (st_l (st_r hgv)))))))))))) (st_l (st_r (st_l (st_r (st_r (st_l (st_r (st_l (st_l (st_l (st_l (st_r hgv))))))))))))) (st_r (st_r (st_l (st_r (st_r (st_l (st_r (st_l (st_l (st_l (st_l (st_r hgv))))))))))))) (st_l (st_l (st_r (st_r (st_r (st_l (st_r (st_l (st_l (st_l (st_l (st_r hgv))))))))))))) (st_r (st_l (st_r (st_r (st_r (st_l (st_r (st_l (st_l (st_l (st_l (st_r hgv))))))))))))) (st_l (st_r (st_r (st_r (st_r (st_l (st_r (st_l (st_l (st_l (st_l (st_r hgv))))))))))))) (st_r (st_r (st_r (st_r (st_r (st_l (st_r (st_l (st_l (st_l (st_l (st_r hgv))))))))))))) (st_l (st_l (st_l (st_l (st_r (st_r (st_l (st_l (st_l (st_l (st_r hgv)))))))))))) (st_l (st_r (st_l (st_l (st_l (st_r (st_r (st_l (st_l (st_l (st_l (st_r hgv))))))))))))) (st_r (st_r (st_l (st_l (st_l (st_r (st_r (st_l (st_l (st_l (st_l (st_r hgv))))))))))))) (st_l (st_r (st_l (st_l (st_r (st_r (st_l (st_l (st_l (st_l (st_r hgv)))))))))))) (st_l (st_r (st_r (st_l (st_l (st_r (st_r (st_l (st_l (st_l (st_l (st_r hgv))))))))))))) (st_r (st_r (st_r (st_l (st_l (st_r (st_r (st_l (st_l (st_l (st_l (st_r hgv))))))))))))) (st_l (st_l (st_r (st_l (st_r (st_r (st_l (st_l (st_l (st_l (st_r hgv)))))))))))) (st_l (st_r (st_l (st_r (st_l (st_r (st_r (st_l (st_l (st_l (st_l (st_r hgv))))))))))))) (st_r (st_r (st_l (st_r (st_l (st_r (st_r (st_l (st_l (st_l (st_l (st_r hgv))))))))))))) (st_l (st_r (st_r (st_l (st_r (st_r (st_l (st_l (st_l (st_l (st_r hgv)))))))))))) (st_l (st_r (st_r (st_r (st_l (st_r (st_r (st_l (st_l (st_l (st_l (st_r hgv))))))))))))) (st_r (st_r (st_r (st_r (st_l (st_r (st_r (st_l (st_l (st_l (st_l (st_r hgv))))))))))))) (st_l (st_l (st_l (st_r (st_r (st_r (st_l (st_l (st_l (st_l (st_r hgv)))))))))))) (st_l (st_r (st_l (st_l (st_r (st_r (st_r (st_l (st_l (st_l (st_l (st_r hgv))))))))))))) (st_r (st_r (st_l (st_l (st_r (st_r (st_r (st_l (st_l (st_l (st_l (st_r hgv))))))))))))) (st_l (st_r (st_l (st_r (st_r (st_r (st_l (st_l (st_l (st_l (st_r hgv)))))))))))) (st_l (st_r (st_r (st_l (st_r (st_r (st_r (st_l (st_l (st_l (st_l (st_r hgv))))))))))))) (st_r (st_r (st_r (st_l (st_r (st_r (st_r (st_l (st_l (st_l (st_l (st_r hgv))))))))))))) (st_l (st_l (st_r (st_r (st_r (st_r (st_l (st_l (st_l (st_l (st_r hgv)))))))))))) (st_l (st_r (st_l (st_r (st_r (st_r (st_r (st_l (st_l (st_l (st_l (st_r hgv))))))))))))) (st_r (st_r (st_l (st_r (st_r (st_r (st_r (st_l (st_l (st_l (st_l (st_r hgv))))))))))))) (st_l (st_l (st_r (st_r (st_r (st_r (st_r (st_l (st_l (st_l (st_l (st_r hgv))))))))))))) (st_r (st_l (st_r (st_r (st_r (st_r (st_r (st_l (st_l (st_l (st_l (st_r hgv))))))))))))) (st_l (st_r (st_r (st_r (st_r (st_r (st_r (st_l (st_l (st_l (st_l (st_r hgv))))))))))))) (st_r (st_r (st_r (st_r (st_r (st_r (st_r (st_l (st_l (st_l (st_l (st_r hgv))))))))))))) (st_l (st_l (st_l (st_l (st_l (st_l (st_r (st_l (st_l (st_l (st_r hgv)))))))))))) (st_l (st_r (st_l (st_l (st_l (st_l (st_l (st_r (st_l (st_l (st_l (st_r hgv))))))))))))) (st_r (st_r (st_l (st_l (st_l (st_l (st_l (st_r (st_l (st_l (st_l (st_r hgv))))))))))))) (st_l (st_r (st_l (st_l (st_l (st_l (st_r (st_l (st_l (st_l (st_r hgv)))))))))))) (st_l (st_r (st_r (st_l (st_l (st_l (st_l (st_r (st_l (st_l (st_l (st_r hgv))))))))))))) (st_r (st_r (st_r (st_l (st_l (st_l (st_l (st_r (st_l (st_l (st_l (st_r hgv))))))))))))) (st_l (st_l (st_r (st_l (st_l (st_l (st_r (st_l (st_l (st_l (st_r hgv)))))))))))) (st_l (st_r (st_l (st_r (st_l (st_l (st_l (st_r (st_l (st_l (st_l (st_r hgv))))))))))))) (st_r (st_r (st_l (st_r (st_l (st_l (st_l (st_r (st_l (st_l (st_l (st_r hgv))))))))))))) (st_l (st_r (st_r (st_l (st_l (st_l (st_r (st_l (st_l (st_l (st_r hgv)))))))))))) (st_l (st_r (st_r (st_r (st_l (st_l (st_l (st_r (st_l (st_l (st_l (st_r hgv))))))))))))) (st_r (st_r (st_r (st_r (st_l (st_l (st_l (st_r (st_l (st_l (st_l (st_r hgv))))))))))))) (st_l (st_l (st_l (st_r (st_l (st_l (st_r (st_l (st_l (st_l (st_r hgv)))))))))))) (st_l (st_r (st_l (st_l (st_r (st_l (st_l (st_r (st_l (st_l (st_l (st_r hgv))))))))))))) (st_r (st_r (st_l (st_l (st_r (st_l (st_l (st_r (st_l (st_l (st_l (st_r hgv))))))))))))) (st_l (st_r (st_l (st_r (st_l (st_l (st_r (st_l (st_l (st_l (st_r hgv))))))))))))
theorem st_mem_nc (hgv : (Jvm.Cond.and given_1 narrow_1).before A0 s = true) : ∀ q ∈ ax_ncl, (Cond.not (.castable q.1 q.2)).before A0 s = true := by
  unfold ax_ncl
  exact List.forall_mem_cons.mpr ⟨(st_r (st_r (st_l (st_l (st_l (st_r (st_l (st_l (st_l (st_r (st_l (st_r hgv)))))))))))), List.forall_mem_cons.mpr ⟨(st_l (st_r (st_l (st_r (st_r (st_l (st_r (st_l (st_l (st_r (st_l (st_r hgv)))))))))))), List.forall_mem_cons.mpr ⟨(st_l (st_r (st_l (st_l (st_r (st_l (st_l (st_r (st_l (st_r (st_l (st_r hgv)))))))))))), List.forall_mem_cons.mpr ⟨(st_l (st_r (st_r (st_l (st_l (st_l (st_r (st_l (st_r (st_l (st_l (st_r hgv)))))))))))), List.forall_mem_cons.mpr ⟨(st_r (st_l (st_r (st_r (st_r (st_r (st_r (st_l (st_r (st_l (st_l (st_r hgv)))))))))))), List.forall_mem_cons.mpr ⟨(st_l (st_r (st_l (st_r (st_r (st_l (st_r (st_r (st_l (st_l (st_r hgv))))))))))), List.forall_mem_cons.mpr ⟨(st_r (st_r (st_r (st_l (st_l (st_l (st_r (st_r (st_l (st_r (st_l (st_r hgv)))))))))))), List.forall_mem_cons.mpr ⟨(st_r (st_l (st_r (st_r (st_r (st_r (st_r (st_r (st_l (st_r (st_l (st_r hgv)))))))))))), List.forall_mem_cons.mpr ⟨(st_l (st_r (st_r (st_l (st_r (st_r (st_r (st_r (st_l (st_l (st_r hgv))))))))))), List.forall_mem_cons.mpr ⟨(st_r (st_r (st_l (st_r (st_r (st_l (st_r (st_l (st_l (st_r (st_l (st_r hgv)))))))))))), List.forall_mem_cons.mpr ⟨(st_r (st_r (st_l (st_l (st_r (st_l (st_l (st_r (st_l (st_r (st_l (st_r hgv)))))))))))), List.forall_mem_cons.mpr ⟨(st_r (st_r (st_r (st_l (st_l (st_l (st_r (st_l (st_r (st_l (st_l (st_r hgv)))))))))))), List.forall_mem_cons.mpr ⟨(st_l (st_r (st_r (st_r (st_r (st_r (st_r (st_l (st_r (st_l (st_l (st_r hgv)))))))))))), List.forall_mem_cons.mpr ⟨(st_l (st_r (st_r (st_l (st_r (st_r (st_l (st_r (st_r (st_l (st_l (st_r hgv)))))))))))), List.forall_mem_cons.mpr ⟨(st_l (st_l (st_r (st_l (st_l (st_r (st_r (st_l (st_r (st_l (st_r hgv))))))))))), List.forall_mem_cons.mpr ⟨(st_l (st_r (st_r (st_r (st_r (st_r (st_r (st_r (st_l (st_r (st_l (st_r hgv)))))))))))), List.forall_mem_cons.mpr ⟨(st_r (st_r (st_l (st_r (st_l (st_r (st_r (st_r (st_r (st_l (st_l (st_r hgv)))))))))))), List.forall_mem_cons.mpr ⟨(st_l (st_r (st_l (st_l (st_l (st_r (st_l (st_l (st_l (st_r (st_l (st_r hgv)))))))))))), List.forall_mem_cons.mpr ⟨(st_l (st_l (st_l (st_r (st_l (st_l (st_r (st_l (st_r (st_l (st_r hgv))))))))))), List.forall_mem_cons.mpr ⟨(st_l (st_r (st_l (st_l (st_l (st_r (st_l (st_r (st_l (st_l (st_r hgv))))))))))), List.forall_mem_cons.mpr ⟨(st_l (st_l (st_r (st_r (st_r (st_r (st_r (st_l (st_r (st_l (st_l (st_r hgv)))))))))))), List.forall_mem_cons.mpr ⟨(st_r (st_r (st_l (st_l (st_r (st_r (st_l (st_r (st_r (st_l (st_l (st_r hgv)))))))))))), List.forall_mem_cons.mpr ⟨(st_l (st_r (st_r (st_l (st_l (st_l (st_r (st_r (st_l (st_r (st_l (st_r hgv)))))))))))), List.forall_mem_cons.mpr ⟨(st_l (st_l (st_r (st_r (st_r (st_r (st_r (st_r (st_l (st_r (st_l (st_r hgv)))))))))))), List.forall_mem_cons.mpr ⟨(st_l (st_r (st_r (st_r (st_l (st_r (st_r (st_r (st_r (st_l (st_l (st_r hgv)))))))))))), List.forall_mem_cons.mpr ⟨(st_l (st_r (st_l (st_l (st_r (st_l (st_l (st_l (st_r (st_l (st_r hgv))))))))))), List.forall_mem_cons.mpr ⟨(st_l (st_l (st_r (st_r (st_r (st_l (st_r (st_l (st_l (st_r (st_l (st_r hgv)))))))))))), List.forall_mem_cons.mpr ⟨(st_l (st_l (st_r (st_l (st_l (st_r (st_l (st_r (st_l (st_l (st_r hgv))))))))))), List.forall_mem_cons.mpr ⟨(st_r (st_r (st_r (st_r (st_r (st_r (st_r (st_l (st_r (st_l (st_l (st_r hgv)))))))))))), List.forall_mem_cons.mpr ⟨(st_r (st_r (st_r (st_l (st_r (st_r (st_l (st_r (st_r (st_l (st_l (st_r hgv)))))))))))), List.forall_mem_cons.mpr ⟨(st_l (st_r (st_l (st_r (st_l (st_l (st_r (st_r (st_l (st_r (st_l (st_r hgv)))))))))))), List.forall_mem_cons.mpr ⟨(st_r (st_r (st_r (st_r (st_r (st_r (st_r (st_r (st_l (st_r (st_l (st_r hgv)))))))))))), List.forall_mem_cons.mpr ⟨(st_l (st_r (st_l (st_l (st_l (st_r (st_r (st_r (st_r (st_l (st_l (st_r hgv)))))))))))), List.forall_mem_cons.mpr ⟨(st_l (st_r (st_l (st_r (st_r (st_l (st_l (st_l (st_l (st_r (st_l (st_r hgv)))))))))))), List.forall_mem_cons.mpr ⟨(st_l (st_l (st_l (st_r (st_l (st_r (st_l (st_l (st_r (st_l (st_r hgv))))))))))), List.forall_mem_cons.mpr ⟨(st_r (st_r (st_r (st_l (st_l (st_l (st_l (st_r (st_l (st_r (st_l (st_r hgv)))))))))))), List.forall_mem_cons.mpr ⟨(st_r (st_r (st_l (st_l (st_r (st_r (st_r (st_l (st_r (st_l (st_l (st_r hgv)))))))))))), List.forall_mem_cons.mpr ⟨(st_l (st_r (st_l (st_r (st_l (st_r (st_l (st_r (st_r (st_l (st_l (st_r hgv)))))))))))), List.forall_mem_cons.mpr ⟨(st_l (st_r (st_r (st_r (st_r (st_r (st_l (st_r (st_l (st_r (st_l (st_r hgv)))))))))))), List.forall_mem_cons.mpr ⟨(st_l (st_r (st_l (st_r (st_r (st_r (st_r (st_l (st_r (st_l (st_r hgv))))))))))), List.forall_mem_cons.mpr ⟨(st_l (st_r (st_r (st_r (st_l (st_l (st_r (st_r (st_r (st_l (st_l (st_r hgv)))))))))))), List.forall_mem_cons.mpr ⟨(st_l (st_r (st_l (st_l (st_l (st_l (st_l (st_l (st_r (st_l (st_r hgv))))))))))), List.forall_mem_cons.mpr ⟨(st_l (st_l (st_r (st_r (st_r (st_r (st_l (st_l (st_l (st_r (st_l (st_r hgv)))))))))))), List.forall_mem_cons.mpr ⟨(st_r (st_r (st_l (st_l (st_r (st_r (st_r (st_l (st_l (st_r (st_l (st_r hgv)))))))))))), List.forall_mem_cons.mpr ⟨(st_l (st_l (st_r (st_l (st_r (st_l (st_l (st_r (st_l (st_l (st_r hgv))))))))))), List.forall_mem_cons.mpr ⟨(st_r (st_r (st_r (st_l (st_r (st_l (st_l (st_r (st_r (st_l (st_l (st_r hgv)))))))))))), List.forall_mem_cons.mpr ⟨(st_l (st_r (st_l (st_r (st_l (st_r (st_l (st_r (st_l (st_r (st_l (st_r hgv)))))))))))), List.forall_mem_cons.mpr ⟨(st_r (st_r (st_r (st_r (st_r (st_l (st_r (st_r (st_l (st_r (st_l (st_r hgv)))))))))))), List.forall_mem_cons.mpr ⟨(st_l (st_l (st_l (st_r (st_l (st_r (st_r (st_r (st_l (st_l (st_r hgv))))))))))), List.forall_mem_cons.mpr ⟨(st_r (st_r (st_r (st_l (st_l (st_l (st_l (st_l (st_l (st_r (st_l (st_r hgv)))))))))))), List.forall_mem_cons.mpr ⟨(st_l (st_r (st_r (st_r (st_r (st_r (st_l (st_l (st_l (st_r (st_l (st_r hgv)))))))))))), List.forall_mem_cons.mpr ⟨(st_l (st_r (st_r (st_l (st_r (st_r (st_r (st_l (st_l (st_r (st_l (st_r hgv)))))))))))), List.forall_mem_cons.mpr ⟨(st_r (st_r (st_l (st_r (st_l (st_r (st_l (st_l (st_r (st_l (st_l (st_r hgv)))))))))))), List.forall_mem_cons.mpr ⟨(st_l (st_l (st_l (st_l (st_r (st_r (st_l (st_r (st_l (st_l (st_r hgv))))))))))), List.forall_mem_cons.mpr ⟨(st_l (st_r (st_r (st_l (st_r (st_l (st_r (st_l (st_r (st_l (st_r hgv))))))))))), List.forall_mem_cons.mpr ⟨(st_l (st_r (st_l (st_l (st_l (st_r (st_r (st_r (st_l (st_r (st_l (st_r hgv)))))))))))), List.forall_mem_cons.mpr ⟨(st_l (st_r (st_r (st_l (st_l (st_r (st_r (st_r (st_r (st_l (st_l (st_r hgv)))))))))))), List.forall_mem_cons.mpr ⟨(st_r (st_l (st_r (st_r (st_r (st_l (st_l (st_l (st_l (st_r (st_l (st_r hgv)))))))))))), List.forall_mem_cons.mpr ⟨(st_l (st_r (st_l (st_r (st_l (st_r (st_l (st_l (st_r (st_l (st_r hgv))))))))))), List.forall_mem_cons.mpr ⟨(st_r (st_r (st_l (st_r (st_l (st_l (st_l (st_r (st_l (st_r (st_l (st_r hgv)))))))))))), List.forall_mem_cons.mpr ⟨(st_r (st_r (st_r (st_r (st_r (st_r (st_l (st_l (st_r (st_l (st_l (st_r hgv)))))))))))), List.forall_mem_cons.mpr ⟨(st_r (st_r (st_r (st_l (st_r (st_r (st_r (st_l (st_r (st_l (st_l (st_r hgv)))))))))))), List.forall_mem_cons.mpr ⟨(st_l (st_r (st_r (st_r (st_l (st_r (st_l (st_r (st_r (st_l (st_l (st_r hgv)))))))))))), List.forall_mem_cons.mpr ⟨(st_l (st_l (st_r (st_r (st_r (st_r (st_r (st_l (st_r (st_l (st_r hgv))))))))))), List.forall_mem_cons.mpr ⟨(st_l (st_r (st_l (st_r (st_l (st_r (st_r (st_r (st_r (st_l (st_l (st_r hgv)))))))))))), List.forall_mem_cons.mpr ⟨(st_l (st_l (st_l (st_l (st_r (st_l (st_l (st_l (st_r (st_l (st_r hgv))))))))))), List.forall_mem_cons.mpr ⟨(st_l (st_l (st_r (st_r (st_l (st_r (st_l (st_l (st_r (st_l (st_r hgv))))))))))), List.forall_mem_cons.mpr ⟨(st_r (st_r (st_r (st_r (st_l (st_l (st_l (st_r (st_l (st_r (st_l (st_r hgv)))))))))))), List.forall_mem_cons.mpr ⟨(st_r (st_r (st_l (st_l (st_l (st_l (st_r (st_l (st_r (st_l (st_l (st_r hgv)))))))))))), List.forall_mem_cons.mpr ⟨(st_r (st_r (st_l (st_r (st_r (st_r (st_r (st_l (st_r (st_l (st_l (st_r hgv)))))))))))), List.forall_mem_cons.mpr ⟨(st_l (st_r (st_l (st_l (st_r (st_r (st_l (st_r (st_r (st_l (st_l (st_r hgv)))))))))))), List.forall_mem_cons.mpr ⟨(st_l (st_r (st_l (st_l (st_l (st_r (st_r (st_l (st_r (st_l (st_r hgv))))))))))), List.forall_mem_nil _⟩⟩⟩⟩⟩⟩⟩⟩⟩⟩⟩⟩⟩⟩⟩⟩⟩⟩⟩⟩⟩⟩⟩⟩⟩⟩⟩⟩⟩⟩⟩⟩⟩⟩⟩⟩⟩⟩⟩⟩⟩⟩⟩⟩⟩⟩⟩⟩⟩⟩⟩⟩⟩⟩⟩⟩⟩⟩⟩⟩⟩⟩⟩⟩⟩⟩⟩⟩⟩⟩⟩⟩
theorem st_mem_t0 (hgv : (Jvm.Cond.and given_1 narrow_1).before A0 s = true) : ∀ j, j < st_len.getD 0 0 → (Cond.eq (.elem (.field (.string "KernelGym$Wrong" 7) "java/lang/String" "value" "[B") (.int (Int32.ofNat j))) (.int ((st_byt.getD 0 []).getD j 0))).before A0 s = true := (st_cs (st_cs (st_cs (st_cs (st_cs (st_cs st_c0 (st_l (st_r (st_r (st_l (st_l (st_l (st_l (st_r (st_r (st_r (st_l (st_r hgv))))))))))))) (st_r (st_r (st_r (st_l (st_l (st_l (st_l (st_r (st_r (st_r (st_l (st_r hgv))))))))))))) (st_l (st_l (st_r (st_l (st_l (st_l (st_r (st_r (st_r (st_l (st_r hgv)))))))))))) (st_l (st_r (st_l (st_r (st_l (st_l (st_l (st_r (st_r (st_r (st_l (st_r hgv))))))))))))) (st_r (st_r (st_l (st_r (st_l (st_l (st_l (st_r (st_r (st_r (st_l (st_r hgv))))))))))))) (st_l (st_r (st_r (st_l (st_l (st_l (st_r (st_r (st_r (st_l (st_r hgv))))))))))))
theorem st_mem_t1 (hgv : (Jvm.Cond.and given_1 narrow_1).before A0 s = true) : ∀ j, j < st_len.getD 1 0 → (Cond.eq (.elem (.field (.string "KernelGym$Wrong" 16) "java/lang/String" "value" "[B") (.int (Int32.ofNat j))) (.int ((st_byt.getD 1 []).getD j 0))).before A0 s = true := (st_cs (st_cs (st_cs (st_cs (st_cs (st_cs (st_cs (st_cs (st_cs (st_cs (st_cs (st_cs (st_cs st_c0 (st_r (st_r (st_l (st_l (st_r (st_l (st_l (st_r (st_r (st_r (st_l (st_r hgv))))))))))))) (st_l (st_r (st_l (st_r (st_l (st_l (st_r (st_r (st_r (st_l (st_r hgv)))))))))))) (st_l (st_r (st_r (st_l (st_r (st_l (st_l (st_r (st_r (st_r (st_l (st_r hgv))))))))))))) (st_r (st_r (st_r (st_l (st_r (st_l (st_l (st_r (st_r (st_r (st_l (st_r hgv))))))))))))) (st_l (st_l (st_r (st_r (st_l (st_l (st_r (st_r (st_r (st_l (st_r hgv)))))))))))) (st_l (st_r (st_l (st_r (st_r (st_l (st_l (st_r (st_r (st_r (st_l (st_r hgv))))))))))))) (st_r (st_r (st_l (st_r (st_r (st_l (st_l (st_r (st_r (st_r (st_l (st_r hgv))))))))))))) (st_l (st_l (st_r (st_r (st_r (st_l (st_l (st_r (st_r (st_r (st_l (st_r hgv))))))))))))) (st_r (st_l (st_r (st_r (st_r (st_l (st_l (st_r (st_r (st_r (st_l (st_r hgv))))))))))))) (st_l (st_r (st_r (st_r (st_r (st_l (st_l (st_r (st_r (st_r (st_l (st_r hgv))))))))))))) (st_r (st_r (st_r (st_r (st_r (st_l (st_l (st_r (st_r (st_r (st_l (st_r hgv))))))))))))) (st_l (st_l (st_l (st_l (st_r (st_l (st_r (st_r (st_r (st_l (st_r hgv)))))))))))) (st_l (st_r (st_l (st_l (st_l (st_r (st_l (st_r (st_r (st_r (st_l (st_r hgv)))))))))))))
theorem st_mem_t2 (hgv : (Jvm.Cond.and given_1 narrow_1).before A0 s = true) : ∀ j, j < st_len.getD 2 0 → (Cond.eq (.elem (.field (.string "KernelGym$NoAddress" 7) "java/lang/String" "value" "[B") (.int (Int32.ofNat j))) (.int ((st_byt.getD 2 []).getD j 0))).before A0 s = true := (st_cs (st_cs (st_cs (st_cs (st_cs (st_cs (st_cs (st_cs (st_cs (st_cs (st_cs st_c0 (st_l (st_l (st_r (st_l (st_r (st_l (st_r (st_r (st_l (st_r (st_r hgv)))))))))))) (st_l (st_r (st_l (st_r (st_l (st_r (st_l (st_r (st_r (st_l (st_r (st_r hgv))))))))))))) (st_r (st_r (st_l (st_r (st_l (st_r (st_l (st_r (st_r (st_l (st_r (st_r hgv))))))))))))) (st_l (st_r (st_r (st_l (st_r (st_l (st_r (st_r (st_l (st_r (st_r hgv)))))))))))) (st_l (st_r (st_r (st_r (st_l (st_r (st_l (st_r (st_r (st_l (st_r (st_r hgv))))))))))))) (st_r (st_r (st_r (st_r (st_l (st_r (st_l (st_r (st_r (st_l (st_r (st_r hgv))))))))))))) (st_l (st_l (st_l (st_r (st_r (st_l (st_r (st_r (st_l (st_r (st_r hgv)))))))))))) (st_l (st_r (st_l (st_l (st_r (st_r (st_l (st_r (st_r (st_l (st_r (st_r hgv))))))))))))) (st_r (st_r (st_l (st_l (st_r (st_r (st_l (st_r (st_r (st_l (st_r (st_r hgv))))))))))))) (st_l (st_r (st_l (st_r (st_r (st_l (st_r (st_r (st_l (st_r (st_r hgv)))))))))))) (st_l (st_r (st_r (st_l (st_r (st_r (st_l (st_r (st_r (st_l (st_r (st_r hgv)))))))))))))
theorem st_mem_t3 (hgv : (Jvm.Cond.and given_1 narrow_1).before A0 s = true) : ∀ j, j < st_len.getD 3 0 → (Cond.eq (.elem (.field (.string "KernelGym$NoOperation" 7) "java/lang/String" "value" "[B") (.int (Int32.ofNat j))) (.int ((st_byt.getD 3 []).getD j 0))).before A0 s = true := (st_cs (st_cs (st_cs (st_cs (st_cs (st_cs (st_cs (st_cs (st_cs (st_cs (st_cs (st_cs (st_cs st_c0 (st_r (st_r (st_l (st_l (st_r (st_l (st_r (st_r (st_r (st_l (st_r (st_r hgv))))))))))))) (st_l (st_r (st_l (st_r (st_l (st_r (st_r (st_r (st_l (st_r (st_r hgv)))))))))))) (st_l (st_r (st_r (st_l (st_r (st_l (st_r (st_r (st_r (st_l (st_r (st_r hgv))))))))))))) (st_r (st_r (st_r (st_l (st_r (st_l (st_r (st_r (st_r (st_l (st_r (st_r hgv))))))))))))) (st_l (st_l (st_r (st_r (st_l (st_r (st_r (st_r (st_l (st_r (st_r hgv)))))))))))) (st_l (st_r (st_l (st_r (st_r (st_l (st_r (st_r (st_r (st_l (st_r (st_r hgv))))))))))))) (st_r (st_r (st_l (st_r (st_r (st_l (st_r (st_r (st_r (st_l (st_r (st_r hgv))))))))))))) (st_l (st_l (st_r (st_r (st_r (st_l (st_r (st_r (st_r (st_l (st_r (st_r hgv))))))))))))) (st_r (st_l (st_r (st_r (st_r (st_l (st_r (st_r (st_r (st_l (st_r (st_r hgv))))))))))))) (st_l (st_r (st_r (st_r (st_r (st_l (st_r (st_r (st_r (st_l (st_r (st_r hgv))))))))))))) (st_r (st_r (st_r (st_r (st_r (st_l (st_r (st_r (st_r (st_l (st_r (st_r hgv))))))))))))) (st_l (st_l (st_l (st_l (st_r (st_r (st_r (st_r (st_l (st_r (st_r hgv)))))))))))) (st_l (st_r (st_l (st_l (st_l (st_r (st_r (st_r (st_r (st_l (st_r (st_r hgv)))))))))))))
theorem st_mem_t4 (hgv : (Jvm.Cond.and given_1 narrow_1).before A0 s = true) : ∀ j, j < st_len.getD 4 0 → (Cond.eq (.elem (.field (.string "KernelGym$NoStack" 7) "java/lang/String" "value" "[B") (.int (Int32.ofNat j))) (.int ((st_byt.getD 4 []).getD j 0))).before A0 s = true := (st_cs (st_cs (st_cs (st_cs (st_cs (st_cs (st_cs (st_cs (st_cs (st_cs (st_cs (st_cs (st_cs (st_cs (st_cs (st_cs (st_cs (st_cs (st_cs (st_cs (st_cs st_c0 (st_r (st_r (st_l (st_l (st_r (st_r (st_r (st_l (st_r (st_l (st_r (st_r hgv))))))))))))) (st_l (st_r (st_l (st_r (st_r (st_r (st_l (st_r (st_l (st_r (st_r hgv)))))))))))) (st_l (st_r (st_r (st_l (st_r (st_r (st_r (st_l (st_r (st_l (st_r (st_r hgv))))))))))))) (st_r (st_r (st_r (st_l (st_r (st_r (st_r (st_l (st_r (st_l (st_r (st_r hgv))))))))))))) (st_l (st_l (st_r (st_r (st_r (st_r (st_l (st_r (st_l (st_r (st_r hgv)))))))))))) (st_l (st_r (st_l (st_r (st_r (st_r (st_r (st_l (st_r (st_l (st_r (st_r hgv))))))))))))) (st_r (st_r (st_l (st_r (st_r (st_r (st_r (st_l (st_r (st_l (st_r (st_r hgv))))))))))))) (st_l (st_l (st_r (st_r (st_r (st_r (st_r (st_l (st_r (st_l (st_r (st_r hgv))))))))))))) (st_r (st_l (st_r (st_r (st_r (st_r (st_r (st_l (st_r (st_l (st_r (st_r hgv))))))))))))) (st_l (st_r (st_r (st_r (st_r (st_r (st_r (st_l (st_r (st_l (st_r (st_r hgv))))))))))))) (st_r (st_r (st_r (st_r (st_r (st_r (st_r (st_l (st_r (st_l (st_r (st_r hgv))))))))))))) (st_l (st_l (st_l (st_l (st_l (st_l (st_r (st_r (st_l (st_r (st_r hgv)))))))))))) (st_l (st_r (st_l (st_l (st_l (st_l (st_l (st_r (st_r (st_l (st_r (st_r hgv))))))))))))) (st_r (st_r (st_l (st_l (st_l (st_l (st_l (st_r (st_r (st_l (st_r (st_r hgv))))))))))))) (st_l (st_r (st_l (st_l (st_l (st_l (st_r (st_r (st_l (st_r (st_r hgv)))))))))))) (st_l (st_r (st_r (st_l (st_l (st_l (st_l (st_r (st_r (st_l (st_r (st_r hgv))))))))))))) (st_r (st_r (st_r (st_l (st_l (st_l (st_l (st_r (st_r (st_l (st_r (st_r hgv))))))))))))) (st_l (st_l (st_r (st_l (st_l (st_l (st_r (st_r (st_l (st_r (st_r hgv)))))))))))) (st_l (st_r (st_l (st_r (st_l (st_l (st_l (st_r (st_r (st_l (st_r (st_r hgv))))))))))))) (st_r (st_r (st_l (st_r (st_l (st_l (st_l (st_r (st_r (st_l (st_r (st_r hgv))))))))))))) (st_l (st_r (st_r (st_l (st_l (st_l (st_r (st_r (st_l (st_r (st_r hgv))))))))))))
theorem st_EN {l : Launch} {b L : Nat} {xs : Nat → Int32} (hts : ∀ w ∈ lw_tbl, w.before #[.ref b] s = true) (hX : va_X b L xs s s.heap) (hb : b < s.heap.size) (hgv : (Jvm.Cond.and given_1 narrow_1).before #[.ref b] s = true) (hL : L < 2 ^ 31) (hst : l.stackTraces = false) : ∃ G : ax_G, ax_EN G l ∧ G.1 = s ∧ ax_ad G 0 = b ∧ ax_RL G s (st_h L xs) s.heap [] := by
  have hta := st_lift hts
  have hA : ∀ a : Nat, a < s.heap.size → ¬ (fun q => s.heap.size ≤ q) a := fun a h => Nat.not_le.mpr h
  obtain ⟨a1, cell1, e1, at1, z1, n1⟩ := st_len_of (n := 0) (st_r (st_r (st_r (st_l (st_l (st_l (st_l (st_l (st_l (st_l (st_l (st_r hgv)))))))))))) (by decide)
  obtain ⟨c1, kn1, -, -⟩ := State.arrayAt?_spec at1
  obtain ⟨of1, -⟩ := Cond.arrayOf_spec (st_l (st_r (st_l (st_l (st_l (st_l (st_l (st_l (st_l (st_l (st_r hgv))))))))))) e1 c1
  have l1 : a1 < s.heap.size := (Array.getElem?_eq_some_iff.mp c1).1
  obtain ⟨a3, ci, e3, l3, cell3, hci⟩ := st_cache (tm := (.static "java/lang/Integer$IntegerCache" "cache" "[Ljava/lang/Integer;")) (st_r (st_l (st_r (st_r (st_r (st_l (st_l (st_l (st_r (st_l (st_l (st_r hgv)))))))))))) (st_l (st_r (st_r (st_r (st_r (st_l (st_l (st_l (st_r (st_l (st_l (st_r hgv)))))))))))) (st_r (st_r (st_r (st_r (st_r (st_l (st_l (st_l (st_r (st_l (st_l (st_r hgv)))))))))))) (fun _ => rfl)
  obtain ⟨a4, e4, l4, rd4⟩ := st_bytes (tm := (.static "java/lang/Intege\x72" "DigitTens" "[B")) (n := 100) (f := fun j => Int32.ofNat (48 + j / 10)) (by decide) (st_r (st_r (st_r (st_l (st_r (st_l (st_l (st_r (st_l (st_l (st_l (st_r hgv)))))))))))) (st_l (st_l (st_r (st_r (st_l (st_l (st_r (st_l (st_l (st_l (st_r hgv))))))))))) (st_mem_tens hgv)
  obtain ⟨a5, e5, l5, rd5⟩ := st_bytes (tm := (.static "java/lang/Intege\x72" "DigitOnes" "[B")) (n := 100) (f := fun j => Int32.ofNat (48 + j % 10)) (by decide) (st_r (st_r (st_l (st_l (st_r (st_l (st_l (st_l (st_l (st_l (st_l (st_r hgv)))))))))))) (st_l (st_r (st_l (st_r (st_l (st_l (st_l (st_l (st_l (st_l (st_r hgv))))))))))) (st_mem_ones hgv)
  obtain ⟨mi, hmi⟩ := va_Mi.of (st_l (st_l (st_l (st_l (st_r (st_r (st_l (st_r (st_r (st_l (st_r hgv)))))))))))
  obtain ⟨ta0, tv0, te0, tl0, ul0, to0, tc0, tf0, tr0⟩ := st_text (tm := (.string "KernelGym$Wrong" 7)) (n := st_len.getD 0 0) (f := fun j => (st_byt.getD 0 []).getD j 0) (by decide) (st_l (st_l (st_l (st_l (st_l (st_l (st_r (st_r (st_r (st_l (st_r hgv))))))))))) (st_l (st_r (st_l (st_l (st_l (st_l (st_l (st_r (st_r (st_r (st_l (st_r hgv)))))))))))) (st_r (st_r (st_l (st_l (st_l (st_l (st_l (st_r (st_r (st_r (st_l (st_r hgv)))))))))))) (st_l (st_r (st_l (st_l (st_l (st_l (st_r (st_r (st_r (st_l (st_r hgv))))))))))) (st_mem_t0 hgv)
  obtain ⟨ta1, tv1, te1, tl1, ul1, to1, tc1, tf1, tr1⟩ := st_text (tm := (.string "KernelGym$Wrong" 16)) (n := st_len.getD 1 0) (f := fun j => (st_byt.getD 1 []).getD j 0) (by decide) (st_l (st_r (st_r (st_r (st_l (st_l (st_l (st_r (st_r (st_r (st_l (st_r hgv)))))))))))) (st_r (st_r (st_r (st_r (st_l (st_l (st_l (st_r (st_r (st_r (st_l (st_r hgv)))))))))))) (st_l (st_l (st_l (st_r (st_l (st_l (st_r (st_r (st_r (st_l (st_r hgv))))))))))) (st_l (st_r (st_l (st_l (st_r (st_l (st_l (st_r (st_r (st_r (st_l (st_r hgv)))))))))))) (st_mem_t1 hgv)
  obtain ⟨ta2, tv2, te2, tl2, ul2, to2, tc2, tf2, tr2⟩ := st_text (tm := (.string "KernelGym$NoAddress" 7)) (n := st_len.getD 2 0) (f := fun j => (st_byt.getD 2 []).getD j 0) (by decide) (st_r (st_r (st_l (st_l (st_l (st_r (st_l (st_r (st_r (st_l (st_r (st_r hgv)))))))))))) (st_l (st_r (st_l (st_l (st_r (st_l (st_r (st_r (st_l (st_r (st_r hgv))))))))))) (st_l (st_r (st_r (st_l (st_l (st_r (st_l (st_r (st_r (st_l (st_r (st_r hgv)))))))))))) (st_r (st_r (st_r (st_l (st_l (st_r (st_l (st_r (st_r (st_l (st_r (st_r hgv)))))))))))) (st_mem_t2 hgv)
  obtain ⟨ta3, tv3, te3, tl3, ul3, to3, tc3, tf3, tr3⟩ := st_text (tm := (.string "KernelGym$NoOperation" 7)) (n := st_len.getD 3 0) (f := fun j => (st_byt.getD 3 []).getD j 0) (by decide) (st_l (st_r (st_r (st_r (st_l (st_l (st_r (st_r (st_r (st_l (st_r (st_r hgv)))))))))))) (st_r (st_r (st_r (st_r (st_l (st_l (st_r (st_r (st_r (st_l (st_r (st_r hgv)))))))))))) (st_l (st_l (st_l (st_r (st_l (st_r (st_r (st_r (st_l (st_r (st_r hgv))))))))))) (st_l (st_r (st_l (st_l (st_r (st_l (st_r (st_r (st_r (st_l (st_r (st_r hgv)))))))))))) (st_mem_t3 hgv)
  obtain ⟨ta4, tv4, te4, tl4, ul4, to4, tc4, tf4, tr4⟩ := st_text (tm := (.string "KernelGym$NoStack" 7)) (n := st_len.getD 4 0) (f := fun j => (st_byt.getD 4 []).getD j 0) (by decide) (st_l (st_r (st_r (st_r (st_l (st_r (st_r (st_l (st_r (st_l (st_r (st_r hgv)))))))))))) (st_r (st_r (st_r (st_r (st_l (st_r (st_r (st_l (st_r (st_l (st_r (st_r hgv)))))))))))) (st_l (st_l (st_l (st_r (st_r (st_r (st_l (st_r (st_l (st_r (st_r hgv))))))))))) (st_l (st_r (st_l (st_l (st_r (st_r (st_r (st_l (st_r (st_l (st_r (st_r hgv)))))))))))) (st_mem_t4 hgv)
  obtain ⟨y0, ye0, yl0⟩ := st_ref (tm := .string "java/util/ArrayDeque" 35) (st_r (st_r (st_l (st_r (st_r (st_r (st_l (st_l (st_r (st_l (st_r (st_r hgv))))))))))))
  obtain ⟨y1, ye1, yl1⟩ := st_ref (tm := .string "KernelGym" 45) (st_r (st_r (st_r (st_r (st_r (st_r (st_l (st_r (st_l (st_l (st_r (st_r hgv))))))))))))
  obtain ⟨y2, ye2, yl2⟩ := st_ref (tm := .string "KernelGym" 52) (st_l (st_r (st_l (st_l (st_r (st_r (st_r (st_l (st_l (st_r (st_r hgv)))))))))))
  obtain ⟨y3, ye3, yl3⟩ := st_ref (tm := .string "KernelGym" 142) (st_l (st_r (st_l (st_l (st_l (st_l (st_l (st_r (st_l (st_r (st_r hgv)))))))))))
  obtain ⟨y4, ye4, yl4⟩ := st_ref (tm := .string "KernelGym" 203) (st_r (st_r (st_l (st_r (st_l (st_r (st_l (st_l (st_r (st_r (st_r hgv)))))))))))
  obtain ⟨y5, ye5, yl5⟩ := st_ref (tm := .string "KernelGym" 221) (st_r (st_r (st_l (st_r (st_r (st_l (st_r (st_l (st_r (st_r (st_r hgv)))))))))))
  obtain ⟨y6, ye6, yl6⟩ := st_ref (tm := .string "KernelGym" 227) (st_r (st_r (st_r (st_l (st_l (st_l (st_l (st_r (st_r (st_r (st_r hgv)))))))))))
  obtain ⟨y7, ye7, yl7⟩ := st_ref (tm := .string "KernelGym" 287) (st_l (st_l (st_r (st_l (st_r (st_r (st_l (st_r (st_r (st_r (st_r hgv)))))))))))
  obtain ⟨y8, ye8, yl8⟩ := st_ref (tm := .string "KernelGym$NoTape" 1) (st_l (st_l (st_r (st_r (st_r (st_r (st_r (st_r (st_r (st_l (st_r (st_r hgv))))))))))))
  have hkn : ∀ k : Nat, ∃ D : ClassId × (Nat → Nat), ∀ q : vw_C, ax_cl[k]? = some q → u_Kn s q.1 q.2.1 q.2.2 D.1 D.2 := by
    intro k
    cases hq : ax_cl[k]? with
    | none => exact ⟨(0, fun _ => 0), fun q h => by cases h⟩
    | some q =>
      obtain ⟨c, i, h⟩ := st_knl hta q (List.mem_of_getElem? hq)
      exact ⟨(c, i), fun q' h' => by cases h'; exact h⟩
  obtain ⟨D, hD⟩ := Classical.axiomOfChoice hkn
  have har : ∀ t : Nat, ∃ cA : ClassId, t ≤ 5 → ArrOfT s cA (ax_ty t) ∧ va_RA s cA (ax_ty t) := by
    intro t
    by_cases ht : t ≤ 5
    · obtain ⟨c, h⟩ := st_arr hts t ht
      exact ⟨c, fun _ => h⟩
    · exact ⟨0, fun h => absurd h ht⟩
  obtain ⟨aT, hT⟩ := Classical.axiomOfChoice har
  obtain ⟨ta, hta0⟩ : ∃ ta : Nat → Nat, ta = fun k => [ta0, ta1, ta2, ta3, ta4].getD k 0 := ⟨_, rfl⟩
  obtain ⟨tv, htv0⟩ : ∃ tv : Nat → Nat, tv = fun k => [tv0, tv1, tv2, tv3, tv4].getD k 0 := ⟨_, rfl⟩
  obtain ⟨ad, had⟩ : ∃ ad : Nat → Nat, ad = st_ad b a1 a3 a4 a5 mi ci ta tv (st_x b y0 y1 y2 y3 y4 y5 y6 y7 y8) := ⟨_, rfl⟩
  obtain ⟨G, hG⟩ : ∃ G : ax_G, G = (s, (fun k => (D k).1, fun k => (D k).2), ax_cl, aT, ad, old_c L xs) := ⟨_, rfl⟩
  have hKn : ∀ (k : Nat) (q : vw_C), ax_cl[k]? = some q → u_Kn s q.1 q.2.1 q.2.2 (D k).1 (D k).2 := fun k q h => hD k q h
  have hx : ∀ i, st_x b y0 y1 y2 y3 y4 y5 y6 y7 y8 i < s.heap.size := by
    intro i
    unfold st_x
    repeat' split
    all_goals assumption
  have hlt : ∀ i, i < 400 → i ≠ 6 → ad i < s.heap.size := by
    intro i hi h6
    rw [had]
    unfold st_ad
    by_cases q0 : i = 0
    · rw [if_pos q0]; exact hb
    rw [if_neg q0]
    by_cases q1 : i = 1
    · rw [if_pos q1]; exact l1
    rw [if_neg q1]
    by_cases q3 : i = 3
    · rw [if_pos q3]; exact l3
    rw [if_neg q3]
    by_cases q4 : i = 4
    · rw [if_pos q4]; exact l4
    rw [if_neg q4]
    by_cases q5 : i = 5
    · rw [if_pos q5]; exact l5
    rw [if_neg q5, if_neg h6]
    by_cases q7 : 20 ≤ i ∧ i < 276
    · rw [if_pos q7]; exact (hci _ (by omega)).1
    rw [if_neg q7]
    by_cases q8 : 280 ≤ i ∧ i < 290
    · rw [if_pos q8]
      rcases (show (i - 280) / 2 = 0 ∨ (i - 280) / 2 = 1 ∨ (i - 280) / 2 = 2 ∨ (i - 280) / 2 = 3 ∨ (i - 280) / 2 = 4 by omega) with e | e | e | e | e <;> rw [e, hta0, htv0] <;> split <;> assumption
    · rw [if_neg q8]; exact hx i
  have hold : ∀ i, i < 400 → old_c L xs i = ax_dead ∨ (ad i < s.heap.size ∧ ax_rd G s s.heap (ad i) (old_c L xs i)) := by
    intro i hi
    by_cases q0 : i = 0
    · subst q0
      refine Or.inr ⟨hlt 0 hi (by decide), ?_⟩
      obtain ⟨scr, x1, x2, x3, x4, x5⟩ := hX
      have e : ad 0 = b := by rw [had]; rfl
      rw [e]
      exact ⟨scr, x1, x2, x3, Nat.le_of_eq x4.symm, (by rw [x4]), x5⟩
    by_cases q1 : i = 1
    · subst q1
      refine Or.inr ⟨hlt 1 hi (by decide), ?_⟩
      have e : ad 1 = a1 := by rw [had]; rfl
      rw [e]
      exact ⟨cell1, c1, of1, kn1, n1, z1, fun j hj => absurd hj (Nat.not_lt_zero _)⟩
    by_cases q3 : i = 3
    · subst q3
      refine Or.inr ⟨hlt 3 hi (by decide), ?_⟩
      have e : ad 3 = a3 := by rw [had]; rfl
      rw [e]
      obtain ⟨cell, x1, x2, x3, x4, x5, x6⟩ := cell3
      refine ⟨cell, x1, x2, x3, x4, x5, fun j hj => ?_⟩
      rw [x6 j hj]
      show _ = some (Value.ref (ax_ad G (20 + j)))
      have e2 : ax_ad G (20 + j) = ci j := by
        rw [ax_ad_lo (show 20 + j < 400 by omega), hG]
        show ad (20 + j) = _
        rw [had]
        exact st_ad_int _ _ _ _ _ _ _ _ _ _ j hj
      rw [e2]
    by_cases q4 : i = 4
    · subst q4
      refine Or.inr ⟨hlt 4 hi (by decide), ?_⟩
      have e : ad 4 = a4 := by rw [had]; rfl
      rw [e]
      exact rd4
    by_cases q5 : i = 5
    · subst q5
      refine Or.inr ⟨hlt 5 hi (by decide), ?_⟩
      have e : ad 5 = a5 := by rw [had]; rfl
      rw [e]
      exact rd5
    by_cases q6 : 20 ≤ i ∧ i < 276
    · obtain ⟨j, rfl⟩ : ∃ j, i = 20 + j := ⟨i - 20, by omega⟩
      have hj : j < 256 := by omega
      refine Or.inr ⟨hlt _ hi (by omega), ?_⟩
      rw [st_old_int L xs j hj]
      have e : ad (20 + j) = ci j := by rw [had]; exact st_ad_int _ _ _ _ _ _ _ _ _ _ j hj
      rw [e]
      obtain ⟨x1, x2, x3⟩ := hci j hj
      obtain ⟨cell, g1, g2, g3, g4, g5⟩ := st_obj (D := G.2.1) (k := 5) (C := RJ22) (T := TJ22) (N := 1) (V := fun _ => .int (Int32.ofNat j - 128)) (by rw [hG]; exact hKn 5 _ rfl) x2 (fun k hk => by
        obtain rfl : k = 0 := by omega
        exact x3) (by decide)
      refine ⟨_, cell, by rw [hG]; rfl, rfl, g1, g2, g3, g4, fun k hk => ?_⟩
      have hk : k < 1 := hk
      obtain rfl : k = 0 := by omega
      exact g5 0 hk
    by_cases q7 : 280 ≤ i ∧ i < 290
    · refine Or.inr ⟨hlt _ hi (by omega), ?_⟩
      have tx : ∀ (a t p : Nat), ax_ad G p = t → va_O "java/lang/String" a (fun q => s.heap.size ≤ q) s s.heap → va_OF "java/lang/String" "code\x72" "B" (.int 0) a (fun q => s.heap.size ≤ q) s s.heap → va_OF "java/lang/String" "value" "[B" (.ref t) a (fun q => s.heap.size ≤ q) s s.heap → ax_rd G s s.heap a (.inr (3, [.ref p, .int 0])) := by
        intro a t p hp w1 w2 w3
        obtain ⟨cell, g1, g2, g3, g4, g5⟩ := st_obj (D := G.2.1) (k := 3) (C := RJ17) (T := TE3) (N := 2) (V := fun k => if k = 0 then .ref t else .int 0) (by rw [hG]; exact hKn 3 _ rfl) w1 (fun k hk => by
          rcases (show k = 0 ∨ k = 1 by omega) with e | e <;> subst e
          · exact w3
          · exact w2) (by decide)
        refine ⟨_, cell, by rw [hG]; rfl, rfl, g1, g2, g3, g4, fun k hk => ?_⟩
        have hk : k < 2 := hk
        rw [g5 k hk]
        rcases (show k = 0 ∨ k = 1 by omega) with e | e <;> subst e
        · show some (Value.ref t) = some (Value.ref (ax_ad G p)); rw [hp]
        · rfl
      have hp : ∀ p, p < 400 → ax_ad G p = ad p := fun p h => by rw [ax_ad_lo h, hG]
      rcases (show i = 280 ∨ i = 281 ∨ i = 282 ∨ i = 283 ∨ i = 284 ∨ i = 285 ∨ i = 286 ∨ i = 287 ∨ i = 288 ∨ i = 289 by omega) with e | e | e | e | e | e | e | e | e | e <;> subst e
      · rw [show ad 280 = ta0 by rw [had, hta0]; rfl]
        exact tx _ _ 281 (by rw [hp _ (by decide), had, htv0]; rfl) to0 tc0 tf0
      · rw [show ad 281 = tv0 by rw [had, htv0]; rfl]
        exact tr0
      · rw [show ad 282 = ta1 by rw [had, hta0]; rfl]
        exact tx _ _ 283 (by rw [hp _ (by decide), had, htv0]; rfl) to1 tc1 tf1
      · rw [show ad 283 = tv1 by rw [had, htv0]; rfl]
        exact tr1
      · rw [show ad 284 = ta2 by rw [had, hta0]; rfl]
        exact tx _ _ 285 (by rw [hp _ (by decide), had, htv0]; rfl) to2 tc2 tf2
      · rw [show ad 285 = tv2 by rw [had, htv0]; rfl]
        exact tr2
      · rw [show ad 286 = ta3 by rw [had, hta0]; rfl]
        exact tx _ _ 287 (by rw [hp _ (by decide), had, htv0]; rfl) to3 tc3 tf3
      · rw [show ad 287 = tv3 by rw [had, htv0]; rfl]
        exact tr3
      · rw [show ad 288 = ta4 by rw [had, hta0]; rfl]
        exact tx _ _ 289 (by rw [hp _ (by decide), had, htv0]; rfl) to4 tc4 tf4
      · rw [show ad 289 = tv4 by rw [had, htv0]; rfl]
        exact tr4
    exact Or.inl (st_old_dead L xs i q0 q1 q3 q4 q5 q6 q7)
  have hp : ∀ p, p < 400 → ax_ad G p = ad p := fun p h => by rw [ax_ad_lo h, hG]
  have hs1 : G.1 = s := by rw [hG]
  have F : ax_FA G := by
    refine ⟨?_, ?_, ?_, ?_⟩
    · rw [hG]; exact ⟨fun k q h => hKn k q h, fun k q h => by simp at h⟩
    · rw [hG]; exact hT
    · rw [hG]; exact (Nat.le_of_ble_eq_true rfl : ax_cl.length ≤ 9999)
    · intro i hi
      have e1 : G.2.2.2.2.1 = ad := by rw [hG]
      have e2 : G.2.2.2.2.2 = old_c L xs := by rw [hG]
      rw [e1, e2, hs1]
      exact ⟨hlt i hi, hold i hi⟩
  have E : ax_EN G l := by
    refine ⟨F, ?_, ⟨#[.ref b], by rw [hs1]; exact hts⟩, ?_, hst, by rw [hG], ?_, ?_, ?_, ?_⟩
    · intro k r hr
      have hr' : ax_cl[k]? = some r := by rw [hG] at hr; exact hr
      have e : G.2.1.2 k = (D k).2 := by rw [hG]
      rw [e]
      exact st_apl hta r (List.mem_of_getElem? hr') _ _ (hKn k r hr')
    · show vx_Zq _ _ _ (fun q => G.1.heap.size ≤ q) G.1 G.1.heap ∧ vx_Zq _ _ _ (fun q => G.1.heap.size ≤ q) G.1 G.1.heap
      rw [hs1]
      exact ⟨vx_Zqof (hts _ q500) (hts _ (lw_all_tbl q127)) (st_l (st_l (st_r (st_l (st_l (st_l (st_l (st_l (st_l (st_l (st_r hgv))))))))))) hA, vx_Zqof (hts _ q502) (hts _ (lw_all_tbl q127)) (st_l (st_r (st_l (st_r (st_l (st_l (st_l (st_l (st_l (st_l (st_l (st_r hgv)))))))))))) hA⟩
    · show ∀ q ∈ ax_sts, va_Z q.1 q.2.1 q.2.2.1 (ax_v G q.2.2.2) (fun q => G.1.heap.size ≤ q) G.1 G.1.heap
      rw [hs1]
      unfold ax_sts
      exact List.forall_mem_cons.mpr ⟨va_Zof (hts _ q535) (hts _ (lw_all_tbl q155)) (va_eqt (st_r (st_r (st_l (st_r (st_l (st_l (st_l (st_l (st_l (st_l (st_l (st_r hgv))))))))))))) hA, List.forall_mem_cons.mpr ⟨va_Zof (hts _ q2630) (hts _ (lw_all_tbl q177)) (va_eqt (st_r (st_r (st_l (st_r (st_r (st_l (st_l (st_l (st_r (st_l (st_l (st_r hgv))))))))))))) hA, List.forall_mem_cons.mpr ⟨va_Zof (hts _ q1354) (hts _ (lw_all_tbl q176)) (va_eqt (st_l (st_r (st_l (st_r (st_r (st_l (st_l (st_l (st_r (st_l (st_l (st_r hgv))))))))))))) hA, List.forall_mem_cons.mpr ⟨(by rw [show (ax_v G (.ref 1)) = .ref a1 from congrArg Value.ref (by rw [hp _ (by decide), had]; rfl)]; exact va_Zof (hts _ q204) (hts _ (lw_all_tbl q121)) e1 hA), List.forall_mem_cons.mpr ⟨(by rw [show (ax_v G (.ref 3)) = .ref a3 from congrArg Value.ref (by rw [hp _ (by decide), had]; rfl)]; exact va_Zof (hts _ q2632) (hts _ (lw_all_tbl q177)) e3 hA), List.forall_mem_cons.mpr ⟨(by rw [show (ax_v G (.ref 4)) = .ref a4 from congrArg Value.ref (by rw [hp _ (by decide), had]; rfl)]; exact va_Zof (hts _ q694) (hts _ (lw_all_tbl q160)) e4 hA), List.forall_mem_cons.mpr ⟨(by rw [show (ax_v G (.ref 5)) = .ref a5 from congrArg Value.ref (by rw [hp _ (by decide), had]; rfl)]; exact va_Zof (hts _ q692) (hts _ (lw_all_tbl q160)) e5 hA), List.forall_mem_nil _⟩⟩⟩⟩⟩⟩⟩
    · rw [hs1]
      unfold ax_txs
      exact List.forall_mem_cons.mpr ⟨(by rw [show ax_ad G 360 = y0 by rw [hp _ (by decide), had]; rfl]; exact vk_R.of (hts _ q2064) ye0), List.forall_mem_cons.mpr ⟨(by rw [show ax_ad G 361 = y1 by rw [hp _ (by decide), had]; rfl]; exact vk_R.of (hts _ q1692) ye1), List.forall_mem_cons.mpr ⟨(by rw [show ax_ad G 362 = y2 by rw [hp _ (by decide), had]; rfl]; exact vk_R.of (hts _ q1726) ye2), List.forall_mem_cons.mpr ⟨(by rw [show ax_ad G 292 = y3 by rw [hp _ (by decide), had]; rfl]; exact vk_R.of (hts _ q1936) ye3), List.forall_mem_cons.mpr ⟨(by rw [show ax_ad G 364 = y4 by rw [hp _ (by decide), had]; rfl]; exact vk_R.of (hts _ q2560) ye4), List.forall_mem_cons.mpr ⟨(by rw [show ax_ad G 390 = y5 by rw [hp _ (by decide), had]; rfl]; exact vk_R.of (hts _ q2602) ye5), List.forall_mem_cons.mpr ⟨(by rw [show ax_ad G 366 = y6 by rw [hp _ (by decide), had]; rfl]; exact vk_R.of (hts _ q2614) ye6), List.forall_mem_cons.mpr ⟨(by rw [show ax_ad G 391 = y7 by rw [hp _ (by decide), had]; rfl]; exact vk_R.of (hts _ q2740) ye7), List.forall_mem_cons.mpr ⟨(by rw [show ax_ad G 280 = ta0 by rw [hp _ (by decide), had, hta0]; rfl]; exact vk_R.of (hts _ q557) te0), List.forall_mem_cons.mpr ⟨(by rw [show ax_ad G 282 = ta1 by rw [hp _ (by decide), had, hta0]; rfl]; exact vk_R.of (hts _ q703) te1), List.forall_mem_cons.mpr ⟨(by rw [show ax_ad G 288 = ta4 by rw [hp _ (by decide), had, hta0]; rfl]; exact vk_R.of (hts _ q2133) te4), List.forall_mem_cons.mpr ⟨(by rw [show ax_ad G 284 = ta2 by rw [hp _ (by decide), had, hta0]; rfl]; exact vk_R.of (hts _ q2164) te2), List.forall_mem_cons.mpr ⟨(by rw [show ax_ad G 286 = ta3 by rw [hp _ (by decide), had, hta0]; rfl]; exact vk_R.of (hts _ q2184) te3), List.forall_mem_cons.mpr ⟨(by rw [show ax_ad G 290 = y8 by rw [hp _ (by decide), had]; rfl]; exact vk_R.of (hts _ q2235) ye8), List.forall_mem_nil _⟩⟩⟩⟩⟩⟩⟩⟩⟩⟩⟩⟩⟩⟩
    · rw [hs1, show ax_ad G 6 = mi by rw [hp _ (by decide), had]; rfl]
      exact hmi
    · rw [hs1]
      exact fun q hq => va_Nc.of (st_mem_nc hgv q hq)
  refine ⟨G, E, hs1, by rw [hp _ (by decide), had]; rfl, ?_⟩
  refine ⟨by rw [hs1]; rfl, fun j hj => absurd hj (Nat.not_lt_zero _), fun j _ => if_neg (by omega), fun i hi => ?_, va_S.rf, st_IV L xs⟩
  rw [hG]
  exact if_pos hi
end ST
