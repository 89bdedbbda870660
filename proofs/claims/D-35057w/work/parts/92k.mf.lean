/-! the class's machine: make -/
section MSF
variable {d b e w : Nat} {Z : mr_Z} {pr : Option Nat} {c : Nat → Int32} {L : List (Nat × Int32)} {X : mr_X} {h : ax_H} {K : kk_K}
theorem in_at {h : ax_H} {x k : Nat} {fs : List Value} {yes no : List Nat} {E : Int32 → Option ax_R} (e : h.1 x = .inr (k, fs)) : dx_in yes no (.ref x) h E = if k ∈ yes then E 1 else if k ∈ no then E 0 else none := by
  show Option.bind (ax_ci (h.1 x)) _ = _
  rw [e]
  rfl
theorem instO_len (K : kk_K) (c : ce_C) {ws : ce_W} (e1 : instO K c = .inl ws) : ws.length ≤ 31 := by
  unfold instO at e1
  dsimp only at e1
  split at e1
  · cases e1
  · split at e1
    · cases e1
    · split at e1
      · rename_i ws2 nx h2
        cases e1
        have := opO_len K c _ _ _ _ h2
        rw [List.length_append]
        simp only [List.length_cons, List.length_nil]
        omega
      · cases e1
theorem interW_len (c : ce_C) : (interW c).length ≤ 10 := by
  unfold interW
  split
  · dsimp only
    simp [pushW_len]
  · simp [stopW_len]
theorem writeO_len (c : ce_C) : (writeO c).length ≤ 20 := by
  unfold writeO
  dsimp only
  rw [List.length_append, List.length_append]
  have h1 : ∀ (p : Prop) [Decidable p] (a b : ce_W), a.length ≤ 9 → b.length ≤ 9 → (if p then a else b).length ≤ 9 := by
    intro p _ a b ha hb
    split
    · exact ha
    · exact hb
  have a1 := h1 (nn (c 19) < nn (c 18)) (cpW c (365 + 8 * (1 + nn (c 19))) (24 + 8 * nn (c 19)) 8 0) (if nn (c 18) < nn (c 19) ∧ nn (c 19) ≤ 2 * nn (c 18) then cpW c (365 + 8 * nn (c (20 + (nn (c 19) - nn (c 18) - 1)))) (24 + 8 * (nn (c 19) - nn (c 18) - 1)) 8 0 else hdW c (if nn (c 19) = nn (c 18) then nn (c 18) else 0)) (by rw [cpW_len]; omega) (h1 _ _ _ (by rw [cpW_len]; omega) (by rw [hdW_len]; omega))
  have a2 := h1 (nn (c 19) = 2 * nn (c 18) + 1) [(18, 0), (15, 0), (3, c 3 + 2)] [] (by simp) (by simp)
  simp only [List.length_cons, List.length_nil]
  omega
theorem actW_len (K : kk_K) (c : ce_C) : (actW K c).length ≤ 31 := by
  unfold actW
  split
  · rename_i ws h1
    unfold actO at h1
    split at h1
    · split at h1
      · split at h1
        · cases h1; have := interW_len c; omega
        · cases h1
      · exact instO_len K c h1
    · cases h1; have := writeO_len c; omega
  · rw [stopW_len]; omega
theorem passW_len (K : kk_K) (c : ce_C) : (passW K c).length ≤ 4 := by
  have a1 : (timeW c).length ≤ 2 := by unfold timeW; split <;> simp
  have a2 : (comeW K (c 2 + 1)).length ≤ 1 := by unfold comeW; split <;> simp
  unfold passW
  rw [List.length_append, List.length_append]
  simp only [List.length_cons, List.length_nil]
  omega
theorem stepW_len (K : kk_K) (c : ce_C) : (stepW K c).length ≤ 35 := by
  have h1 := actW_len K c
  have h2 := passW_len K (apW c (actW K c))
  unfold stepW
  rw [List.length_append]
  omega
/-- 1 where a step ends in a fault -/
noncomputable def fE (K : kk_K) (c : ce_C) : Nat := match actO K c with
  | .inl _ => 0
  | .inr _ => 1
/-- the present step is put away -/
theorem mk_end (R : MR b Z e w pr c L X h) : Ok ((dx_pF [(29, 4)] (.object "KernelGym$Step") (.ref b) .null h).bind fun h3 => some (.inl none, h3)) (.inl none) (fun h' => h' = ax_set h b (.inr (29, mo_fs b Z none X.1))) := by
  rw [pF_onull R.1 rfl (Nat.le_of_ble_eq_true rfl) (by have := R.2.2.2.2.2.2.2.1; omega), Option.bind_some]
  exact Ok.ret rfl
theorem c_make50 (hd : 13 ≤ d) (R : MR b Z e w pr c [] X h) (O : OLD Z.1) (B : SB0 Z pr) (Y : KY b Z.1 K) (C : WC c) (F : FW (ds c)) (hk : nn (c 16) ≤ toldN K.2.1 0 (c 2) K.1) (G : WK c) : Ok (B_X2_make_50 (ax_c d) b h) (.inl none) (fun h' => ∃ X' h2, MR b Z (e + 12 * fE K c) (w + 1100 * fE K c) pr (apW c (stepW K c)) (joW c (stepW K c)) X' h2 ∧ h' = ax_set h2 b (.inr (29, mo_fs b Z none X'.1))) := by
  refine Ok.le b_X2_make_50 ?_
  rw [R.vn, Option.bind_some]
  have hal := actW_len K c
  obtain ⟨X1, r⟩ := c_act (d := d) (by omega) R O B Y (Nat.zero_le _) C F hk G
  -- behind the act
  have tail : ∀ (X2 : mr_X) (h2 : ax_H), MR b Z (e + 12 * fE K c) (w + 1100 * fE K c) pr (apW c (actW K c)) (joW c (actW K c)) X2 h2 → Ok ((dx_vn [(29, 347)] (.ref b) h2).bind fun k => dx_cV (ax_c d k [.ref b] h2) (fun h2 => (dx_pF [(29, 4)] (.object "KernelGym$Step") (.ref b) .null h2).bind fun h3 => some (.inl none, h3)) dx_x0) (.inl none) (fun h' => ∃ X' h2, MR b Z (e + 12 * fE K c) (w + 1100 * fE K c) pr (apW c (stepW K c)) (joW c (stepW K c)) X' h2 ∧ h' = ax_set h2 b (.inr (29, mo_fs b Z none X'.1))) := by
    intro X2 h2 R2
    rw [R2.vn, Option.bind_some]
    refine Ok.V (c_pass (by omega) R2 B Y (by rw [joW_len]; omega)) fun h3 R3 => ?_
    refine (mk_end R3).imp fun h' eh => ⟨X2, h3, ?_, eh⟩
    unfold stepW
    rw [apW_app, joW_app]
    exact R3
  generalize ho : actO K c = o at r
  match o, r, ho with
  | .inl ws, r, ho =>
    have ea : actW K c = ws := by unfold actW; rw [ho]
    refine Ok.V r fun h1 R1 => ?_
    rw [← ea] at R1
    exact tail X1 h1 (R1.le (Nat.le_add_right _ _) (Nat.le_add_right _ _))
  | .inr f, ⟨k, hk2, r⟩, ho =>
    have ea : actW K c = stopW f := by unfold actW; rw [ho]
    have ef : fE K c = 1 := by unfold fE; rw [ho]
    refine Ok.xV r fun i h1 T => ?_
    obtain ⟨R1, i4, fs, ei⟩ := T
    -- the fault is written
    have stop : ∀ (x : Option ax_R), (∀ Q : ax_H → Prop, Ok ((dx_vn [(29, 346)] (.ref b) h1).bind fun k => dx_cV (ax_c d k [.ref b, .int f] h1) (fun h1 => (dx_vn [(29, 347)] (.ref b) h1).bind fun k => dx_cV (ax_c d k [.ref b] h1) (fun h2 => (dx_pF [(29, 4)] (.object "KernelGym$Step") (.ref b) .null h2).bind fun h3 => some (.inl none, h3)) dx_x0) dx_x0) (.inl none) Q → Ok x (.inl none) Q) → Ok x (.inl none) (fun h' => ∃ X' h2, MR b Z (e + 12 * fE K c) (w + 1100 * fE K c) pr (apW c (stepW K c)) (joW c (stepW K c)) X' h2 ∧ h' = ax_set h2 b (.inr (29, mo_fs b Z none X'.1))) := by
      intro x hx
      refine hx _ ?_
      rw [R1.vn, Option.bind_some]
      refine Ok.V (c_stop (by omega) R1 (Nat.zero_le _) f) fun h2 R2 => ?_
      exact tail X1 h2 (by rw [ea, ef]; exact R2)
    show Ok (dx_xp _ i h1 _) _ _
    unfold dx_xp
    rw [if_neg (by omega), ei]
    show Ok (Option.bind (some k) _) _ _
    rw [Option.bind_some]
    rcases hk2 with ⟨rfl, rfl⟩ | ⟨rfl, rfl⟩ | ⟨rfl, rfl⟩ | ⟨rfl, rfl⟩
    · show Ok (B_X2_make_57 (ax_c d) i b h1) _ _
      refine stop _ fun Q q => ?_
      refine Ok.le b_X2_make_57 ?_
      rw [in_at ei, if_pos (by decide), if_neg (by decide)]
      exact Ok.le b_X2_make_71 q
    · show Ok (B_X2_make_57 (ax_c d) i b h1) _ _
      refine stop _ fun Q q => ?_
      refine Ok.le b_X2_make_57 ?_
      rw [in_at ei, if_neg (by decide), if_pos (by decide), if_pos rfl]
      exact Ok.le b_X2_make_71 q
    · show Ok (B_X2_make_77 (ax_c d) i b h1) _ _
      refine stop _ fun Q q => ?_
      refine Ok.le b_X2_make_77 ?_
      rw [in_at ei, if_pos (by decide), if_neg (by decide)]
      exact Ok.le b_X2_make_91 q
    · show Ok (B_X2_make_77 (ax_c d) i b h1) _ _
      refine stop _ fun Q q => ?_
      refine Ok.le b_X2_make_77 ?_
      rw [in_at ei, if_neg (by decide), if_pos (by decide), if_pos rfl]
      exact Ok.le b_X2_make_91 q
end MSF
