/-! the twin's machine: starting -/
/- with RA TO ON SF SF.t0 SF.tr t_isMachine OF TF DK LD LC LC.chk DK.lg DG IG stC_at saC_at FSI.cong FSI.ds mendS mndS mendC cpB zerC begC t_mends t_copies t_wakes t_wake0 sleep_ne formC meD_rg mndS_hm wakeS sleepS RB.dsk itC MA -/
section STA
variable {N n : Nat} {v : Int32} {s s' : Nat → Nat → Int32} {c ds0 img : Nat → Int32} {K : kk_K}
theorem t_start20 {e : Int32} (he : e ≠ 0) {d : Nat} (hd : 1 ≤ d) (h : ax_H) : B_X3_start_20 (ax_c d) 417 e 417 (tw_H h s) = some (.inl (some (.int 0)), tw_H h (tw_up s 0 0 e)) := by
  refine dx_app b_X3_start_20 ?_
  rw [tw_vn, Option.bind_some, t_holds hd, cI_v, if_neg he, if_neg (fun z => z rfl)]
theorem t_start_no (h0 : s 23 0 ≠ 0 ∨ s 22 0 = 0) {d : Nat} (hd : 2 ≤ d) (h : ax_H) : ax_c d 404 [.ref 417] (tw_H h s) = some (.inl (some (.int 0)), tw_H h (tw_up s 0 0 1)) := by
  obtain ⟨d, rfl, he⟩ := d_succ hd
  refine dx_app m_X3_start ?_
  rw [tw_vn, Option.bind_some, t_isMachine he, cI_v]
  by_cases q : s 23 0 = 0
  · rw [if_pos q, if_neg (fun z => z rfl), tg_22, Option.bind_some, if_neg (fun z => z (h0.resolve_left (fun y => y q)))]
    exact t_start20 (by decide) he h
  · rw [if_neg q, if_pos (by decide)]
    exact t_start20 (by decide) he h
/-- the disk mended in the rows: the state all else as it was -/
theorem t_mendR (F : OF c) {m : Nat} (hm : m ≤ 3) (h0 : ds c 0 = Int32.ofNat m) (L : m ≠ 0 → LC (ds c) m) (hb : ∀ j, j < m → ∃ v, 4 ≤ v ∧ v < 32 ∧ ds c (1 + j) = Int32.ofNat v) (h50 : ∀ a, a < 256 → s 50 a = ds c a) (h52 : s 52 0 = c 364) {d : Nat} (hd : 2 ≤ d) (h : ax_H) : ∃ s', ax_c d 406 [.ref 417] (tw_H h s) = some (.inl (some (.int (if m = 0 then 0 else Int32.ofNat (1 + m)))), tw_H h s') ∧ (∀ a, a < 256 → s' 50 a = meD (ds c) m a) ∧ s' 52 0 = mendC c m 364 ∧ ∀ f, f ≠ 50 → f ≠ 52 → s' f = s f := by
  have hb' : ∀ j, j < m → ∃ v, 4 ≤ v ∧ v < 32 ∧ s 50 (1 + j) = Int32.ofNat v := fun j hj => by rw [h50 _ (by omega)]; exact hb j hj
  have hc : ∀ j, j < m → ∃ v, 4 ≤ v ∧ v < 32 ∧ c (366 + j) = Int32.ofNat v := fun j hj => by
    obtain ⟨v, v1, v2, v3⟩ := hb j hj
    exact ⟨v, v1, v2, (congrArg c (show 366 + j = 365 + (1 + j) by omega)).trans v3⟩
  refine ⟨_, t_mends hd h s (by rw [h50 0 (by omega)]; exact h0) hm (fun z => (L z).chk hm F.2.1 h50) hb', ?_, ?_, ?_⟩
  · intro a ha
    by_cases q : m = 0
    · rw [if_pos q]
      unfold meD
      rw [if_pos q]; exact h50 a ha
    · rw [if_neg q]
      unfold mendS meD
      rw [if_neg q, tw_up_at, if_neg (by decide), fl_at, if_pos rfl]
      show (if a < 8 then (0 : Int32) else mndS s (8 * m) 50 a) = if a < 8 then 0 else hmD (ds c) m a
      by_cases e : a < 8
      · rw [if_pos e, if_pos e]
      · rw [if_neg e, if_neg e, mndS_hm hb' hm (8 * m) (Nat.le_refl _) a ha, if_pos (by omega), show 8 * m / 8 = m by omega]
        exact hmD_cong h50 hb hm m (Nat.le_refl _) a ha
  · rw [mendC_364 hc]
    by_cases q : m = 0
    · rw [if_pos q, if_pos q]; exact h52
    · rw [if_neg q, if_neg q, ← h52]
      rfl
  · intro f f1 f2
    by_cases q : m = 0
    · rw [if_pos q]
    · rw [if_neg q]
      unfold mendS
      rw [tw_up_at, if_neg f2, fl_ne f1, mndS_ne s f1]
/-- the keys there are none of -/
def K0 (K : kk_K) : kk_K := (0, K.2)
/-- cells at a start -/
theorem beg_eq (F : OF c) {m : Nat} (hm : m ≤ 3) (hb : ∀ j, j < m → ∃ v, 4 ≤ v ∧ v < 32 ∧ ds c (1 + j) = Int32.ofNat v) : begC (mendC c m) img = stC (meD (ds c) m) img (K0 K) (mendC c m 364) := by
  have hc : ∀ j, j < m → ∃ v, 4 ≤ v ∧ v < 32 ∧ c (366 + j) = Int32.ofNat v := fun j hj => by
    obtain ⟨v, v1, v2, v3⟩ := hb j hj
    exact ⟨v, v1, v2, (congrArg c (show 366 + j = 365 + (1 + j) by omega)).trans v3⟩
  funext p
  unfold begC
  rw [upd_at, upd_at, upd_at]
  by_cases e364 : p = 364
  · subst e364
    rw [if_neg (by omega), if_neg (by omega), if_neg (by omega)]
    show (if 108 ≤ 364 ∧ 364 < 108 + 256 then _ else mendC c m 364) = upd _ 364 (mendC c m 364) 364
    rw [upd_eq, if_neg (by omega)]
  rw [stC_at e364, saC_at]
  by_cases e4 : p = 4
  · rw [if_pos e4, if_neg (by omega), if_pos e4]
  rw [if_neg e4]
  by_cases e3 : p = 3
  · rw [if_pos e3, if_neg (by omega), if_neg (by omega), if_pos e3]
  rw [if_neg e3]
  by_cases e0 : p = 0
  · rw [if_pos e0, if_neg (by omega), if_neg (by omega), if_neg (by omega), if_pos e0]
  rw [if_neg e0]
  show (if 108 ≤ p ∧ p < 108 + 256 then img (0 + (p - 108)) else mendC c m p) = _
  by_cases e9 : p = 9
  · rw [if_pos e9, if_neg (by omega), e9, mendC_lo hc (by omega), F.1 9 (by omega)]
    exact (if_pos (show Int32.ofNat 0 ≤ 0 by decide)).symm
  rw [if_neg e9, if_neg e4, if_neg e3, if_neg e0]
  by_cases e1 : 108 ≤ p ∧ p < 364
  · rw [if_pos e1, if_pos e1, Nat.zero_add]
  rw [if_neg e1, if_neg e1]
  by_cases e2 : 365 ≤ p ∧ p < 621
  · rw [if_pos e2]
    have := mendC_ds hc hm (p - 365)
    rw [← this]
    show mendC c m p = mendC c m (365 + (p - 365))
    rw [show 365 + (p - 365) = p by omega]
  · rw [if_neg e2]
    by_cases e5 : p < 364
    · rw [mendC_lo hc e5, F.1 p (by omega)]
    · have := mendC_ds hc hm (p - 365)
      have e6 : mendC c m p = mendC c m (365 + (p - 365)) := by rw [show 365 + (p - 365) = p by omega]
      rw [e6]
      refine this.trans ?_
      unfold meD
      have z : ds c (p - 365) = 0 := by
        show c (365 + (p - 365)) = 0
        rw [show 365 + (p - 365) = p by omega]; exact F.1 p (by omega)
      split
      · exact z
      · show (if p - 365 < 8 then 0 else hmD (ds c) m (p - 365)) = 0
        rw [if_neg (by omega), hmD_lo hb m (Nat.le_refl _) _ (by omega)]; exact z
theorem t_start_yes (F : OF c) (T : TF c s) (h22 : s 22 0 ≠ 0) (hI : IG img) (h21 : ∀ a, a < 256 → s 21 a = img a) {m : Nat} (hm : m ≤ 3) (h0 : ds c 0 = Int32.ofNat m) (L : m ≠ 0 → LC (ds c) m) (hb : ∀ j, j < m → ∃ v, 4 ≤ v ∧ v < 32 ∧ ds c (1 + j) = Int32.ofNat v) (I : FSI (meD (ds c) m)) (I0 : meD (ds c) m 0 = 0) {d : Nat} (hd : 4 ≤ d) (h : ax_H) : ∃ s', ax_c d 404 [.ref 417] (tw_H h s) = some (.inl (some (.int (if m = 0 then 0 else Int32.ofNat (1 + m)))), tw_H h s') ∧ ON 0 0 (K0 K) (meD (ds c) m) img ∧ TO 0 0 (K0 K) (meD (ds c) m) img (mendC c m 364) s' ∧ SF s s' ∧ s' 0 0 = 0 := by
  obtain ⟨d, rfl, he⟩ := d_succ hd
  have h23 : s 23 0 = 0 := (T.1.1.sml (p := 0) (by omega)).trans (F.1 0 (by omega))
  obtain ⟨s1, m1, m2, m3, m4⟩ := t_mendR (s := tw_up s 0 0 0) F hm h0 L hb (fun a ha => T.1.1.dsk ha) (by have := T.1.2.2.2; rw [Int32.add_zero] at this; exact this) (d := d) (by omega) h
  generalize hu : tw_up (tw_up (tw_up (tw_fl (tw_fl s1 54 256 (s1 50)) 53 256 (tw_fl s1 54 256 (s1 50) 21)) 55 0 (s1 52 0)) 43 0 0) 40 0 0 = u
  have uf : ∀ f, f ≠ 54 → f ≠ 53 → f ≠ 55 → f ≠ 43 → f ≠ 40 → u f = s1 f := fun f a1 a2 a3 a4 a5 => by rw [← hu, tw_up_at, if_neg a5, tw_up_at, if_neg a4, tw_up_at, if_neg a3, fl_ne a2, fl_ne a1]
  have u53 : ∀ a, a < 256 → u 53 a = img a := fun a ha => by
    rw [← hu, tw_up_at, if_neg (by decide), tw_up_at, if_neg (by decide), tw_up_at, if_neg (by decide), fl_at, if_pos rfl]
    show (if a < 256 then tw_fl s1 54 256 (s1 50) 21 a else _) = _
    rw [if_pos ha, fl_ne (by decide), m4 21 (by decide) (by decide)]
    exact h21 a ha
  have u54 : ∀ a, a < 256 → u 54 a = meD (ds c) m a := fun a ha => by
    rw [← hu, tw_up_at, if_neg (by decide), tw_up_at, if_neg (by decide), tw_up_at, if_neg (by decide), fl_ne (by decide), fl_at, if_pos rfl]
    show (if a < 256 then s1 50 a else _) = _
    rw [if_pos ha]; exact m2 a ha
  have u55 : u 55 0 = mendC c m 364 := by rw [← hu]; exact m3
  have KU : KR (K0 K) u := ⟨by rw [← hu]; rfl, Nat.zero_le _, fun k hk => absurd hk (Nat.not_lt_zero _)⟩
  have R := t_wake0 (w := 0) (v := mendC c m 364) (img := img) (ds0 := meD (ds c) m) (x := 0) KU u53 (fun a ha => by rw [uf 50 (by decide) (by decide) (by decide) (by decide) (by decide)]; exact m2 a ha) (by rw [uf 52 (by decide) (by decide) (by decide) (by decide) (by decide), Int32.add_zero]; exact m3) (fun ⟨k, k1, _⟩ => absurd k1 (Nat.not_lt_zero _)) (fun _ => rfl)
  have hcb : ∀ j, j < m → ∃ v, 4 ≤ v ∧ v < 32 ∧ ds c (1 + j) = Int32.ofNat v := hb
  have e33 : tw_up (wakeS u (u 53)) 33 0 0 = wakeS u (u 53) := by
    funext f
    rw [tw_up_at]
    by_cases e : f = 33
    · rw [if_pos e, e]
      exact upd_same (wakeS u (u 53) 33) 0
    · rw [if_neg e]
  rw [e33] at R
  have wf : ∀ f, (f ≠ 0 ∧ f < 23) ∨ f = 36 ∨ (40 ≤ f ∧ f ≠ 46) ∨ f = 0 → wakeS u (u 53) f = u f := fun f hf => by
    by_cases e : f = 0
    · subst e; rfl
    · unfold wakeS
      rw [tw_up_at, if_neg (by omega), tw_up_at, if_neg (by omega), tw_up_at, if_neg (by omega), fl_ne (by omega)]
      exact sleep_ne (by omega)
  refine ⟨wakeS u (u 53), dx_app m_X3_start ?_, ⟨Nat.le_refl _, by omega, by omega, ⟨⟨Nat.zero_le _, fun k hk => absurd hk (Nat.not_lt_zero _)⟩, fun k hk => absurd hk (Nat.not_lt_zero _)⟩, hI, meD_rg hb hm F.2.1, I0, I⟩, ⟨R, KU.of fun f f1 f2 => wf f (by omega), ?_, fun a ha => ?_, fun a ha => ?_, ?_, fun k hk => absurd hk (Nat.not_lt_zero _)⟩, fun f hf => ?_, ?_⟩
  · rw [tw_vn, Option.bind_some, t_isMachine (by omega), cI_v, if_pos h23, if_neg (fun z => z rfl), tg_22, Option.bind_some, if_pos h22]
    refine dx_app b_X3_start_20 ?_
    rw [tw_vn, Option.bind_some, t_holds (by omega), cI_v, if_pos rfl, if_pos (by decide), tw_vn, Option.bind_some, m1, cI_v, tr_50, Option.bind_some, tr_54, Option.bind_some, t_copies (by omega) h s1 _ _ 50 54 (by decide) (tl_50 h) (ts_54 h), cV_v, tr_21, Option.bind_some, tr_53, Option.bind_some, t_copies (by omega) h _ _ _ 21 53 (by decide) (tl_21 h) (ts_53 h), cV_v, tg_52, Option.bind_some, tp_55, Option.bind_some, tp_43, Option.bind_some, tp_40, Option.bind_some, show tw_fl (tw_fl s1 54 256 (s1 50)) 53 256 (tw_fl s1 54 256 (s1 50) 21) 52 0 = s1 52 0 from rfl, hu, tr_53, Option.bind_some, tw_vn, Option.bind_some, t_wakes (by omega) h u _ 53 (by decide) rfl (tl_53 h), cV_v]
  · rw [wf 40 (by omega), ← hu]; rfl
  · rw [wf 53 (by omega)]; exact u53 a ha
  · rw [wf 54 (by omega)]; exact u54 a ha
  · rw [wf 55 (by omega)]; exact u55
  · rw [wf f (by omega), uf f (by omega) (by omega) (by omega) (by omega) (by omega), m4 f (by omega) (by omega), tw_up_at, if_neg (by omega)]
  · rw [wf 0 (by omega), uf 0 (by decide) (by decide) (by decide) (by decide) (by decide), m4 0 (by decide) (by decide)]; rfl
end STA
