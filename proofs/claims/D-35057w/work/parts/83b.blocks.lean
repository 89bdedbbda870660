/-! printed by gen/emit82.py -/
set_option maxRecDepth 100000
noncomputable def B_L_law_23 (K : ax_K) (v0 : Value) (v1 : Nat) (v2 : Nat) (v3 : Nat) (v4 : Int32) (h : ax_H) : Option ax_R := ax_run K P_L_law 23 [some (v0), some (.ref v1), some (.ref v2), some (.ref v3), some (.int v4), none, none] [] h
noncomputable def B_L_law_256 (K : ax_K) (v0 : Value) (v1 : Nat) (v2 : Nat) (v3 : Nat) (v4 : Int32) (h : ax_H) : Option ax_R := ax_run K P_L_law 256 [some (v0), some (.ref v1), some (.ref v2), some (.ref v3), some (.int v4), none, none] [] h
noncomputable def B_L_law_269 (K : ax_K) (v0 : Value) (v1 : Nat) (v2 : Nat) (v3 : Nat) (v4 : Int32) (h : ax_H) : Option ax_R := ax_run K P_L_law 269 [some (v0), some (.ref v1), some (.ref v2), some (.ref v3), some (.int v4), none, none] [] h
noncomputable def B_L_law_282 (K : ax_K) (v0 : Value) (v1 : Nat) (v2 : Nat) (v3 : Nat) (v4 : Int32) (h : ax_H) : Option ax_R := ax_run K P_L_law 282 [some (v0), some (.ref v1), some (.ref v2), some (.ref v3), some (.int v4), none, none] [] h
noncomputable def B_L_law_338 (K : ax_K) (v0 : Value) (v1 : Nat) (v2 : Nat) (v3 : Nat) (v4 : Int32) (h : ax_H) : Option ax_R := ax_run K P_L_law 338 [some (v0), some (.ref v1), some (.ref v2), some (.ref v3), some (.int v4), none, none] [] h
noncomputable def B_L_law_394 (K : ax_K) (v0 : Value) (v1 : Nat) (v2 : Nat) (v3 : Nat) (v4 : Int32) (h : ax_H) : Option ax_R := ax_run K P_L_law 394 [some (v0), some (.ref v1), some (.ref v2), some (.ref v3), some (.int v4), none, none] [] h
noncomputable def B_L_law_498 (K : ax_K) (v0 : Value) (v1 : Nat) (v2 : Nat) (v3 : Nat) (v4 : Int32) (h : ax_H) : Option ax_R := ax_run K P_L_law 498 [some (v0), some (.ref v1), some (.ref v2), some (.ref v3), some (.int v4), none, none] [] h
noncomputable def B_L_law_566 (K : ax_K) (v0 : Value) (v1 : Nat) (v2 : Nat) (v3 : Nat) (v4 : Int32) (h : ax_H) : Option ax_R := ax_run K P_L_law 566 [some (v0), some (.ref v1), some (.ref v2), some (.ref v3), some (.int v4), none, none] [] h
noncomputable def B_L_law_622 (K : ax_K) (v0 : Value) (v1 : Nat) (v2 : Nat) (v3 : Nat) (v4 : Int32) (h : ax_H) : Option ax_R := ax_run K P_L_law 622 [some (v0), some (.ref v1), some (.ref v2), some (.ref v3), some (.int v4), none, none] [] h
noncomputable def B_L_law_702 (K : ax_K) (v0 : Value) (v1 : Nat) (v2 : Nat) (v3 : Nat) (v4 : Int32) (h : ax_H) : Option ax_R := ax_run K P_L_law 702 [some (v0), some (.ref v1), some (.ref v2), some (.ref v3), some (.int v4), none, none] [] h
noncomputable def B_L_law_758 (K : ax_K) (v0 : Value) (v1 : Nat) (v2 : Nat) (v3 : Nat) (v4 : Int32) (h : ax_H) : Option ax_R := ax_run K P_L_law 758 [some (v0), some (.ref v1), some (.ref v2), some (.ref v3), some (.int v4), none, none] [] h
noncomputable def B_L_law_802 (K : ax_K) (v0 : Value) (v1 : Nat) (v2 : Nat) (v3 : Nat) (v4 : Int32) (h : ax_H) : Option ax_R := ax_run K P_L_law 802 [some (v0), some (.ref v1), some (.ref v2), some (.ref v3), some (.int v4), none, none] [] h
noncomputable def B_L_law_906 (K : ax_K) (v0 : Value) (v1 : Nat) (v2 : Nat) (v3 : Nat) (v4 : Int32) (h : ax_H) : Option ax_R := ax_run K P_L_law 906 [some (v0), some (.ref v1), some (.ref v2), some (.ref v3), some (.int v4), none, none] [] h
noncomputable def B_L_law_919 (K : ax_K) (v0 : Value) (v1 : Nat) (v2 : Nat) (v3 : Nat) (v4 : Int32) (h : ax_H) : Option ax_R := ax_run K P_L_law 919 [some (v0), some (.ref v1), some (.ref v2), some (.ref v3), some (.int v4), none, none] [] h
noncomputable def B_L_law_963 (K : ax_K) (v0 : Value) (v1 : Nat) (v2 : Nat) (v3 : Nat) (v4 : Int32) (h : ax_H) : Option ax_R := ax_run K P_L_law 963 [some (v0), some (.ref v1), some (.ref v2), some (.ref v3), some (.int v4), none, none] [] h
noncomputable def B_L_law_1019 (K : ax_K) (v0 : Value) (v1 : Nat) (v2 : Nat) (v3 : Nat) (v4 : Int32) (h : ax_H) : Option ax_R := ax_run K P_L_law 1019 [some (v0), some (.ref v1), some (.ref v2), some (.ref v3), some (.int v4), none, none] [] h
noncomputable def B_L_law_1063 (K : ax_K) (v0 : Value) (v1 : Nat) (v2 : Nat) (v3 : Nat) (v4 : Int32) (h : ax_H) : Option ax_R := ax_run K P_L_law 1063 [some (v0), some (.ref v1), some (.ref v2), some (.ref v3), some (.int v4), none, none] [] h
noncomputable def B_L_law_1107 (K : ax_K) (v0 : Value) (v1 : Nat) (v2 : Nat) (v3 : Nat) (v4 : Int32) (h : ax_H) : Option ax_R := ax_run K P_L_law 1107 [some (v0), some (.ref v1), some (.ref v2), some (.ref v3), some (.int v4), none, none] [] h
noncomputable def B_L_law_1151 (K : ax_K) (v0 : Value) (v1 : Nat) (v2 : Nat) (v3 : Nat) (v4 : Int32) (h : ax_H) : Option ax_R := ax_run K P_L_law 1151 [some (v0), some (.ref v1), some (.ref v2), some (.ref v3), some (.int v4), none, none] [] h
noncomputable def B_L_law_1207 (K : ax_K) (v0 : Value) (v1 : Nat) (v2 : Nat) (v3 : Nat) (v4 : Int32) (h : ax_H) : Option ax_R := ax_run K P_L_law 1207 [some (v0), some (.ref v1), some (.ref v2), some (.ref v3), some (.int v4), none, none] [] h
noncomputable def B_L_law_1275 (K : ax_K) (v0 : Value) (v1 : Nat) (v2 : Nat) (v3 : Nat) (v4 : Int32) (h : ax_H) : Option ax_R := ax_run K P_L_law 1275 [some (v0), some (.ref v1), some (.ref v2), some (.ref v3), some (.int v4), none, none] [] h
noncomputable def B_L_law_1331 (K : ax_K) (v0 : Value) (v1 : Nat) (v2 : Nat) (v3 : Nat) (v4 : Int32) (h : ax_H) : Option ax_R := ax_run K P_L_law 1331 [some (v0), some (.ref v1), some (.ref v2), some (.ref v3), some (.int v4), none, none] [] h
noncomputable def B_L_law_1387 (K : ax_K) (v0 : Value) (v1 : Nat) (v2 : Nat) (v3 : Nat) (v4 : Int32) (h : ax_H) : Option ax_R := ax_run K P_L_law 1387 [some (v0), some (.ref v1), some (.ref v2), some (.ref v3), some (.int v4), none, none] [] h
noncomputable def B_L_law_1400 (K : ax_K) (v0 : Value) (v1 : Nat) (v2 : Nat) (v3 : Nat) (v4 : Int32) (h : ax_H) : Option ax_R := ax_run K P_L_law 1400 [some (v0), some (.ref v1), some (.ref v2), some (.ref v3), some (.int v4), none, none] [] h
noncomputable def B_L_law_1413 (K : ax_K) (v0 : Value) (v1 : Nat) (v2 : Nat) (v3 : Nat) (v4 : Int32) (h : ax_H) : Option ax_R := ax_run K P_L_law 1413 [some (v0), some (.ref v1), some (.ref v2), some (.ref v3), some (.int v4), none, none] [] h
noncomputable def B_L_law_1426 (K : ax_K) (v0 : Value) (v1 : Nat) (v2 : Nat) (v3 : Nat) (v4 : Int32) (h : ax_H) : Option ax_R := ax_run K P_L_law 1426 [some (v0), some (.ref v1), some (.ref v2), some (.ref v3), some (.int v4), none, none] [] h
noncomputable def B_L_law_1439 (K : ax_K) (v0 : Value) (v1 : Nat) (v2 : Nat) (v3 : Nat) (v4 : Int32) (h : ax_H) : Option ax_R := ax_run K P_L_law 1439 [some (v0), some (.ref v1), some (.ref v2), some (.ref v3), some (.int v4), none, none] [] h
noncomputable def B_L_law_1452 (K : ax_K) (v0 : Value) (v1 : Nat) (v2 : Nat) (v3 : Nat) (v4 : Int32) (h : ax_H) : Option ax_R := ax_run K P_L_law 1452 [some (v0), some (.ref v1), some (.ref v2), some (.ref v3), some (.int v4), none, none] [] h
noncomputable def B_L_law_1465 (K : ax_K) (v0 : Value) (v1 : Nat) (v2 : Nat) (v3 : Nat) (v4 : Int32) (h : ax_H) : Option ax_R := ax_run K P_L_law 1465 [some (v0), some (.ref v1), some (.ref v2), some (.ref v3), some (.int v4), none, none] [] h
noncomputable def B_L_law_1478 (K : ax_K) (v0 : Value) (v1 : Nat) (v2 : Nat) (v3 : Nat) (v4 : Int32) (h : ax_H) : Option ax_R := ax_run K P_L_law 1478 [some (v0), some (.ref v1), some (.ref v2), some (.ref v3), some (.int v4), none, none] [] h
noncomputable def B_L_law_1491 (K : ax_K) (v0 : Value) (v1 : Nat) (v2 : Nat) (v3 : Nat) (v4 : Int32) (h : ax_H) : Option ax_R := ax_run K P_L_law 1491 [some (v0), some (.ref v1), some (.ref v2), some (.ref v3), some (.int v4), none, none] [] h
noncomputable def B_L_law_1547 (K : ax_K) (v0 : Value) (v1 : Nat) (v2 : Nat) (v3 : Nat) (v4 : Int32) (h : ax_H) : Option ax_R := ax_run K P_L_law 1547 [some (v0), some (.ref v1), some (.ref v2), some (.ref v3), some (.int v4), none, none] [] h
noncomputable def B_L_law_1603 (K : ax_K) (v0 : Value) (v1 : Nat) (v2 : Nat) (v3 : Nat) (v4 : Int32) (h : ax_H) : Option ax_R := ax_run K P_L_law 1603 [some (v0), some (.ref v1), some (.ref v2), some (.ref v3), some (.int v4), none, none] [] h
noncomputable def B_L_law_1659 (K : ax_K) (v0 : Value) (v1 : Nat) (v2 : Nat) (v3 : Nat) (v4 : Int32) (h : ax_H) : Option ax_R := ax_run K P_L_law 1659 [some (v0), some (.ref v1), some (.ref v2), some (.ref v3), some (.int v4), none, none] [] h
noncomputable def B_L_law_1672 (K : ax_K) (v0 : Value) (v1 : Nat) (v2 : Nat) (v3 : Nat) (v4 : Int32) (h : ax_H) : Option ax_R := ax_run K P_L_law 1672 [some (v0), some (.ref v1), some (.ref v2), some (.ref v3), some (.int v4), none, none] [] h
noncomputable def B_L_law_1728 (K : ax_K) (v0 : Value) (v1 : Nat) (v2 : Nat) (v3 : Nat) (v4 : Int32) (h : ax_H) : Option ax_R := ax_run K P_L_law 1728 [some (v0), some (.ref v1), some (.ref v2), some (.ref v3), some (.int v4), none, none] [] h
noncomputable def B_L_law_1741 (K : ax_K) (v0 : Value) (v1 : Nat) (v2 : Nat) (v3 : Nat) (v4 : Int32) (h : ax_H) : Option ax_R := ax_run K P_L_law 1741 [some (v0), some (.ref v1), some (.ref v2), some (.ref v3), some (.int v4), none, none] [] h
noncomputable def B_L_law_1797 (K : ax_K) (v0 : Value) (v1 : Nat) (v2 : Nat) (v3 : Nat) (v4 : Int32) (h : ax_H) : Option ax_R := ax_run K P_L_law 1797 [some (v0), some (.ref v1), some (.ref v2), some (.ref v3), some (.int v4), none, none] [] h
noncomputable def B_L_law_1810 (K : ax_K) (v0 : Value) (v1 : Nat) (v2 : Nat) (v3 : Nat) (v4 : Int32) (h : ax_H) : Option ax_R := ax_run K P_L_law 1810 [some (v0), some (.ref v1), some (.ref v2), some (.ref v3), some (.int v4), none, none] [] h
noncomputable def B_L_law_1878 (K : ax_K) (v0 : Value) (v1 : Nat) (v2 : Nat) (v3 : Nat) (v4 : Int32) (h : ax_H) : Option ax_R := ax_run K P_L_law 1878 [some (v0), some (.ref v1), some (.ref v2), some (.ref v3), some (.int v4), none, none] [] h
noncomputable def B_L_law_1891 (K : ax_K) (v0 : Value) (v1 : Nat) (v2 : Nat) (v3 : Nat) (v4 : Int32) (h : ax_H) : Option ax_R := ax_run K P_L_law 1891 [some (v0), some (.ref v1), some (.ref v2), some (.ref v3), some (.int v4), none, none] [] h
noncomputable def B_L_law_1947 (K : ax_K) (v0 : Value) (v1 : Nat) (v2 : Nat) (v3 : Nat) (v4 : Int32) (h : ax_H) : Option ax_R := ax_run K P_L_law 1947 [some (v0), some (.ref v1), some (.ref v2), some (.ref v3), some (.int v4), none, none] [] h
noncomputable def B_L_law_2015 (K : ax_K) (v0 : Value) (v1 : Nat) (v2 : Nat) (v3 : Nat) (v4 : Int32) (h : ax_H) : Option ax_R := ax_run K P_L_law 2015 [some (v0), some (.ref v1), some (.ref v2), some (.ref v3), some (.int v4), none, none] [] h
noncomputable def B_L_law_2028 (K : ax_K) (v0 : Value) (v1 : Nat) (v2 : Nat) (v3 : Nat) (v4 : Int32) (h : ax_H) : Option ax_R := ax_run K P_L_law 2028 [some (v0), some (.ref v1), some (.ref v2), some (.ref v3), some (.int v4), none, none] [] h
noncomputable def B_L_law_2041 (K : ax_K) (v0 : Value) (v1 : Nat) (v2 : Nat) (v3 : Nat) (v4 : Int32) (h : ax_H) : Option ax_R := ax_run K P_L_law 2041 [some (v0), some (.ref v1), some (.ref v2), some (.ref v3), some (.int v4), none, none] [] h
noncomputable def B_L_law_2097 (K : ax_K) (v0 : Value) (v1 : Nat) (v2 : Nat) (v3 : Nat) (v4 : Int32) (h : ax_H) : Option ax_R := ax_run K P_L_law 2097 [some (v0), some (.ref v1), some (.ref v2), some (.ref v3), some (.int v4), none, none] [] h
noncomputable def B_L_law_2153 (K : ax_K) (v0 : Value) (v1 : Nat) (v2 : Nat) (v3 : Nat) (v4 : Int32) (h : ax_H) : Option ax_R := ax_run K P_L_law 2153 [some (v0), some (.ref v1), some (.ref v2), some (.ref v3), some (.int v4), none, none] [] h
noncomputable def B_L_law_2245 (K : ax_K) (v0 : Value) (v1 : Nat) (v2 : Nat) (v3 : Nat) (v4 : Int32) (h : ax_H) : Option ax_R := ax_run K P_L_law 2245 [some (v0), some (.ref v1), some (.ref v2), some (.ref v3), some (.int v4), none, none] [] h
noncomputable def B_L_law_2258 (K : ax_K) (v0 : Value) (v1 : Nat) (v2 : Nat) (v3 : Nat) (v4 : Int32) (h : ax_H) : Option ax_R := ax_run K P_L_law 2258 [some (v0), some (.ref v1), some (.ref v2), some (.ref v3), some (.int v4), none, none] [] h
noncomputable def B_L_law_2302 (K : ax_K) (v0 : Value) (v1 : Nat) (v2 : Nat) (v3 : Nat) (v4 : Int32) (h : ax_H) : Option ax_R := ax_run K P_L_law 2302 [some (v0), some (.ref v1), some (.ref v2), some (.ref v3), some (.int v4), none, none] [] h
noncomputable def B_L_law_2358 (K : ax_K) (v0 : Value) (v1 : Nat) (v2 : Nat) (v3 : Nat) (v4 : Int32) (h : ax_H) : Option ax_R := ax_run K P_L_law 2358 [some (v0), some (.ref v1), some (.ref v2), some (.ref v3), some (.int v4), none, none] [] h
theorem b_L_law_23 {K : ax_K} {v0 : Value} {v1 : Nat} {v2 : Nat} {v3 : Nat} {v4 : Int32} {h : ax_H} (hv0 : ax_rv v0 = true) : dx_le ((dx_len v0 h).bind fun x1 => if (x1 - 6) < v4 then some (.inl (some (.int 1)), h) else (dx_lI 0 v0 v4 h).bind fun x2 => dx_tw (0) (49) (x2 &&& 63) [B_L_law_256 K v0 v1 v2 v3 v4 h, B_L_law_269 K v0 v1 v2 v3 v4 h, B_L_law_282 K v0 v1 v2 v3 v4 h, B_L_law_338 K v0 v1 v2 v3 v4 h, B_L_law_394 K v0 v1 v2 v3 v4 h, B_L_law_498 K v0 v1 v2 v3 v4 h, B_L_law_566 K v0 v1 v2 v3 v4 h, B_L_law_622 K v0 v1 v2 v3 v4 h, B_L_law_702 K v0 v1 v2 v3 v4 h, B_L_law_758 K v0 v1 v2 v3 v4 h, B_L_law_802 K v0 v1 v2 v3 v4 h, B_L_law_906 K v0 v1 v2 v3 v4 h, B_L_law_919 K v0 v1 v2 v3 v4 h, B_L_law_963 K v0 v1 v2 v3 v4 h, B_L_law_1019 K v0 v1 v2 v3 v4 h, B_L_law_1063 K v0 v1 v2 v3 v4 h, B_L_law_1107 K v0 v1 v2 v3 v4 h, B_L_law_1151 K v0 v1 v2 v3 v4 h, B_L_law_1207 K v0 v1 v2 v3 v4 h, B_L_law_1275 K v0 v1 v2 v3 v4 h, B_L_law_1331 K v0 v1 v2 v3 v4 h, B_L_law_1387 K v0 v1 v2 v3 v4 h, B_L_law_1400 K v0 v1 v2 v3 v4 h, B_L_law_1413 K v0 v1 v2 v3 v4 h, B_L_law_1426 K v0 v1 v2 v3 v4 h, B_L_law_1439 K v0 v1 v2 v3 v4 h, B_L_law_1452 K v0 v1 v2 v3 v4 h, B_L_law_1465 K v0 v1 v2 v3 v4 h, B_L_law_1478 K v0 v1 v2 v3 v4 h, B_L_law_1491 K v0 v1 v2 v3 v4 h, B_L_law_1547 K v0 v1 v2 v3 v4 h, B_L_law_1603 K v0 v1 v2 v3 v4 h, B_L_law_1659 K v0 v1 v2 v3 v4 h, B_L_law_1672 K v0 v1 v2 v3 v4 h, B_L_law_1728 K v0 v1 v2 v3 v4 h, B_L_law_1741 K v0 v1 v2 v3 v4 h, B_L_law_1797 K v0 v1 v2 v3 v4 h, B_L_law_1810 K v0 v1 v2 v3 v4 h, B_L_law_1878 K v0 v1 v2 v3 v4 h, B_L_law_1891 K v0 v1 v2 v3 v4 h, B_L_law_1947 K v0 v1 v2 v3 v4 h, B_L_law_2015 K v0 v1 v2 v3 v4 h, B_L_law_2028 K v0 v1 v2 v3 v4 h, B_L_law_2041 K v0 v1 v2 v3 v4 h, B_L_law_2097 K v0 v1 v2 v3 v4 h, B_L_law_2153 K v0 v1 v2 v3 v4 h, B_L_law_2245 K v0 v1 v2 v3 v4 h, B_L_law_2258 K v0 v1 v2 v3 v4 h, B_L_law_2302 K v0 v1 v2 v3 v4 h, B_L_law_2358 K v0 v1 v2 v3 v4 h] (dx_lt (v4 + 6) fun x3 => B_L_law_23 K v0 v1 v2 v3 x3 h)) (B_L_law_23 K v0 v1 v2 v3 v4 h) := by
  show dx_le _ (ax_run K P_L_law 23 [some (v0), some (.ref v1), some (.ref v2), some (.ref v3), some (.int v4), none, none] [] h)
  refine e_iload rfl rfl ?_
  refine e_aload rfl rfl hv0 ?_
  refine e_alen rfl fun x1 => ?_
  refine e_push rfl ?_
  refine e_i2 rfl ?_
  refine e_if2 rfl rfl ?_ ?_
  · refine e_push rfl ?_
    exact e_zret1 rfl
  · refine e_aload rfl rfl hv0 ?_
    refine e_iload rfl rfl ?_
    refine e_iald rfl fun x2 => ?_
    refine e_push rfl ?_
    refine e_i2 rfl ?_
    refine e_tsw rfl ?_ (fa_c ?_ (fa_c ?_ (fa_c ?_ (fa_c ?_ (fa_c ?_ (fa_c ?_ (fa_c ?_ (fa_c ?_ (fa_c ?_ (fa_c ?_ (fa_c ?_ (fa_c ?_ (fa_c ?_ (fa_c ?_ (fa_c ?_ (fa_c ?_ (fa_c ?_ (fa_c ?_ (fa_c ?_ (fa_c ?_ (fa_c ?_ (fa_c ?_ (fa_c ?_ (fa_c ?_ (fa_c ?_ (fa_c ?_ (fa_c ?_ (fa_c ?_ (fa_c ?_ (fa_c ?_ (fa_c ?_ (fa_c ?_ (fa_c ?_ (fa_c ?_ (fa_c ?_ (fa_c ?_ (fa_c ?_ (fa_c ?_ (fa_c ?_ (fa_c ?_ (fa_c ?_ (fa_c ?_ (fa_c ?_ (fa_c ?_ (fa_c ?_ (fa_c ?_ (fa_c ?_ (fa_c ?_ (fa_c ?_ (fa_c ?_ fa_n))))))))))))))))))))))))))))))))))))))))))))))))))
    · refine e_iinc (M := fun x3 => [some (v0), some (.ref v1), some (.ref v2), some (.ref v3), some (.int x3), none, none]) rfl rfl (fun _ => dx_sto (Nat.le_of_ble_eq_true rfl) (Or.inr ⟨_, rfl, rfl⟩) rfl) fun x3 => ?_
      refine e_goto rfl ?_
      exact e_wk mP_L_law (ll_1 (ll_1 (ll_1 (ll_1 (ll_1 (ll_0 (ll_0 ll_n)))))))
    · exact e_wk mP_L_law (ll_1 (ll_1 (ll_1 (ll_1 (ll_1 (ll_0 (ll_0 ll_n)))))))
    · exact e_wk mP_L_law (ll_1 (ll_1 (ll_1 (ll_1 (ll_1 (ll_0 (ll_0 ll_n)))))))
    · exact e_wk mP_L_law (ll_1 (ll_1 (ll_1 (ll_1 (ll_1 (ll_0 (ll_0 ll_n)))))))
    · exact e_wk mP_L_law (ll_1 (ll_1 (ll_1 (ll_1 (ll_1 (ll_0 (ll_0 ll_n)))))))
    · exact e_wk mP_L_law (ll_1 (ll_1 (ll_1 (ll_1 (ll_1 (ll_0 (ll_0 ll_n)))))))
    · exact e_wk mP_L_law (ll_1 (ll_1 (ll_1 (ll_1 (ll_1 (ll_0 (ll_0 ll_n)))))))
    · exact e_wk mP_L_law (ll_1 (ll_1 (ll_1 (ll_1 (ll_1 (ll_0 (ll_0 ll_n)))))))
    · exact e_wk mP_L_law (ll_1 (ll_1 (ll_1 (ll_1 (ll_1 (ll_0 (ll_0 ll_n)))))))
    · exact e_wk mP_L_law (ll_1 (ll_1 (ll_1 (ll_1 (ll_1 (ll_0 (ll_0 ll_n)))))))
    · exact e_wk mP_L_law (ll_1 (ll_1 (ll_1 (ll_1 (ll_1 (ll_0 (ll_0 ll_n)))))))
    · exact e_wk mP_L_law (ll_1 (ll_1 (ll_1 (ll_1 (ll_1 (ll_0 (ll_0 ll_n)))))))
    · exact e_wk mP_L_law (ll_1 (ll_1 (ll_1 (ll_1 (ll_1 (ll_0 (ll_0 ll_n)))))))
    · exact e_wk mP_L_law (ll_1 (ll_1 (ll_1 (ll_1 (ll_1 (ll_0 (ll_0 ll_n)))))))
    · exact e_wk mP_L_law (ll_1 (ll_1 (ll_1 (ll_1 (ll_1 (ll_0 (ll_0 ll_n)))))))
    · exact e_wk mP_L_law (ll_1 (ll_1 (ll_1 (ll_1 (ll_1 (ll_0 (ll_0 ll_n)))))))
    · exact e_wk mP_L_law (ll_1 (ll_1 (ll_1 (ll_1 (ll_1 (ll_0 (ll_0 ll_n)))))))
    · exact e_wk mP_L_law (ll_1 (ll_1 (ll_1 (ll_1 (ll_1 (ll_0 (ll_0 ll_n)))))))
    · exact e_wk mP_L_law (ll_1 (ll_1 (ll_1 (ll_1 (ll_1 (ll_0 (ll_0 ll_n)))))))
    · exact e_wk mP_L_law (ll_1 (ll_1 (ll_1 (ll_1 (ll_1 (ll_0 (ll_0 ll_n)))))))
    · exact e_wk mP_L_law (ll_1 (ll_1 (ll_1 (ll_1 (ll_1 (ll_0 (ll_0 ll_n)))))))
    · exact e_wk mP_L_law (ll_1 (ll_1 (ll_1 (ll_1 (ll_1 (ll_0 (ll_0 ll_n)))))))
    · exact e_wk mP_L_law (ll_1 (ll_1 (ll_1 (ll_1 (ll_1 (ll_0 (ll_0 ll_n)))))))
    · exact e_wk mP_L_law (ll_1 (ll_1 (ll_1 (ll_1 (ll_1 (ll_0 (ll_0 ll_n)))))))
    · exact e_wk mP_L_law (ll_1 (ll_1 (ll_1 (ll_1 (ll_1 (ll_0 (ll_0 ll_n)))))))
    · exact e_wk mP_L_law (ll_1 (ll_1 (ll_1 (ll_1 (ll_1 (ll_0 (ll_0 ll_n)))))))
    · exact e_wk mP_L_law (ll_1 (ll_1 (ll_1 (ll_1 (ll_1 (ll_0 (ll_0 ll_n)))))))
    · exact e_wk mP_L_law (ll_1 (ll_1 (ll_1 (ll_1 (ll_1 (ll_0 (ll_0 ll_n)))))))
    · exact e_wk mP_L_law (ll_1 (ll_1 (ll_1 (ll_1 (ll_1 (ll_0 (ll_0 ll_n)))))))
    · exact e_wk mP_L_law (ll_1 (ll_1 (ll_1 (ll_1 (ll_1 (ll_0 (ll_0 ll_n)))))))
    · exact e_wk mP_L_law (ll_1 (ll_1 (ll_1 (ll_1 (ll_1 (ll_0 (ll_0 ll_n)))))))
    · exact e_wk mP_L_law (ll_1 (ll_1 (ll_1 (ll_1 (ll_1 (ll_0 (ll_0 ll_n)))))))
    · exact e_wk mP_L_law (ll_1 (ll_1 (ll_1 (ll_1 (ll_1 (ll_0 (ll_0 ll_n)))))))
    · exact e_wk mP_L_law (ll_1 (ll_1 (ll_1 (ll_1 (ll_1 (ll_0 (ll_0 ll_n)))))))
    · exact e_wk mP_L_law (ll_1 (ll_1 (ll_1 (ll_1 (ll_1 (ll_0 (ll_0 ll_n)))))))
    · exact e_wk mP_L_law (ll_1 (ll_1 (ll_1 (ll_1 (ll_1 (ll_0 (ll_0 ll_n)))))))
    · exact e_wk mP_L_law (ll_1 (ll_1 (ll_1 (ll_1 (ll_1 (ll_0 (ll_0 ll_n)))))))
    · exact e_wk mP_L_law (ll_1 (ll_1 (ll_1 (ll_1 (ll_1 (ll_0 (ll_0 ll_n)))))))
    · exact e_wk mP_L_law (ll_1 (ll_1 (ll_1 (ll_1 (ll_1 (ll_0 (ll_0 ll_n)))))))
    · exact e_wk mP_L_law (ll_1 (ll_1 (ll_1 (ll_1 (ll_1 (ll_0 (ll_0 ll_n)))))))
    · exact e_wk mP_L_law (ll_1 (ll_1 (ll_1 (ll_1 (ll_1 (ll_0 (ll_0 ll_n)))))))
    · exact e_wk mP_L_law (ll_1 (ll_1 (ll_1 (ll_1 (ll_1 (ll_0 (ll_0 ll_n)))))))
    · exact e_wk mP_L_law (ll_1 (ll_1 (ll_1 (ll_1 (ll_1 (ll_0 (ll_0 ll_n)))))))
    · exact e_wk mP_L_law (ll_1 (ll_1 (ll_1 (ll_1 (ll_1 (ll_0 (ll_0 ll_n)))))))
    · exact e_wk mP_L_law (ll_1 (ll_1 (ll_1 (ll_1 (ll_1 (ll_0 (ll_0 ll_n)))))))
    · exact e_wk mP_L_law (ll_1 (ll_1 (ll_1 (ll_1 (ll_1 (ll_0 (ll_0 ll_n)))))))
    · exact e_wk mP_L_law (ll_1 (ll_1 (ll_1 (ll_1 (ll_1 (ll_0 (ll_0 ll_n)))))))
    · exact e_wk mP_L_law (ll_1 (ll_1 (ll_1 (ll_1 (ll_1 (ll_0 (ll_0 ll_n)))))))
    · exact e_wk mP_L_law (ll_1 (ll_1 (ll_1 (ll_1 (ll_1 (ll_0 (ll_0 ll_n)))))))
    · exact e_wk mP_L_law (ll_1 (ll_1 (ll_1 (ll_1 (ll_1 (ll_0 (ll_0 ll_n)))))))
    · exact e_wk mP_L_law (ll_1 (ll_1 (ll_1 (ll_1 (ll_1 (ll_0 (ll_0 ll_n)))))))
theorem b_L_law_256 {K : ax_K} {v0 : Value} {v1 : Nat} {v2 : Nat} {v3 : Nat} {v4 : Int32} {h : ax_H} (hv0 : ax_rv v0 = true) : dx_le ((dx_vn [(19, 210)] (.ref v1) h).bind fun k => dx_cI (K k [.ref v1] h) (fun x2 h1 => (dx_vn [(38, 373)] (.ref v2) h1).bind fun k => dx_cI (K k [.ref v2] h1) (fun x4 h3 => if x2 = x4 then dx_lt (v4 + 6) fun x5 => B_L_law_23 K v0 v1 v2 v3 x5 h3 else some (.inl (some (.int 0)), h3)) dx_x0) dx_x0) (B_L_law_256 K v0 v1 v2 v3 v4 h) := by
  show dx_le _ (ax_run K P_L_law 256 [some (v0), some (.ref v1), some (.ref v2), some (.ref v3), some (.int v4), none, none] [] h)
  refine e_aload rfl rfl rfl ?_
  refine e_ivI rfl rfl rfl (Nat.le_of_ble_eq_true rfl) (fun _ _ => e_x0) fun x2 h1 => ?_
  refine e_aload rfl rfl rfl ?_
  refine e_ivI rfl rfl rfl (Nat.le_of_ble_eq_true rfl) (fun _ _ => e_x0) fun x4 h3 => ?_
  refine e_if2 rfl rfl ?_ ?_
  · refine e_iinc (M := fun x5 => [some (v0), some (.ref v1), some (.ref v2), some (.ref v3), some (.int x5), none, none]) rfl rfl (fun _ => dx_sto (Nat.le_of_ble_eq_true rfl) (Or.inr ⟨_, rfl, rfl⟩) rfl) fun x5 => ?_
    refine e_goto rfl ?_
    exact e_wk mP_L_law (ll_1 (ll_1 (ll_1 (ll_1 (ll_1 (ll_0 (ll_0 ll_n)))))))
  · refine e_push rfl ?_
    exact e_zret0 rfl
theorem b_L_law_269 {K : ax_K} {v0 : Value} {v1 : Nat} {v2 : Nat} {v3 : Nat} {v4 : Int32} {h : ax_H} (hv0 : ax_rv v0 = true) : dx_le ((dx_vn [(19, 211)] (.ref v1) h).bind fun k => dx_cI (K k [.ref v1] h) (fun x2 h1 => (dx_vn [(38, 374)] (.ref v2) h1).bind fun k => dx_cI (K k [.ref v2] h1) (fun x4 h3 => if x2 = x4 then dx_lt (v4 + 6) fun x5 => B_L_law_23 K v0 v1 v2 v3 x5 h3 else some (.inl (some (.int 0)), h3)) dx_x0) dx_x0) (B_L_law_269 K v0 v1 v2 v3 v4 h) := by
  show dx_le _ (ax_run K P_L_law 269 [some (v0), some (.ref v1), some (.ref v2), some (.ref v3), some (.int v4), none, none] [] h)
  refine e_aload rfl rfl rfl ?_
  refine e_ivI rfl rfl rfl (Nat.le_of_ble_eq_true rfl) (fun _ _ => e_x0) fun x2 h1 => ?_
  refine e_aload rfl rfl rfl ?_
  refine e_ivI rfl rfl rfl (Nat.le_of_ble_eq_true rfl) (fun _ _ => e_x0) fun x4 h3 => ?_
  refine e_if2 rfl rfl ?_ ?_
  · refine e_iinc (M := fun x5 => [some (v0), some (.ref v1), some (.ref v2), some (.ref v3), some (.int x5), none, none]) rfl rfl (fun _ => dx_sto (Nat.le_of_ble_eq_true rfl) (Or.inr ⟨_, rfl, rfl⟩) rfl) fun x5 => ?_
    refine e_goto rfl ?_
    exact e_wk mP_L_law (ll_1 (ll_1 (ll_1 (ll_1 (ll_1 (ll_0 (ll_0 ll_n)))))))
  · refine e_push rfl ?_
    exact e_zret0 rfl
theorem b_L_law_282 {K : ax_K} {v0 : Value} {v1 : Nat} {v2 : Nat} {v3 : Nat} {v4 : Int32} {h : ax_H} (hv0 : ax_rv v0 = true) : dx_le ((dx_lI 0 v0 (v4 + 1) h).bind fun x1 => dx_cI (K 178 [.ref v1, .int x1, .ref v3] h) (fun x3 h2 => (dx_lI 0 v0 (v4 + 1) h2).bind fun x4 => (dx_vn [(38, 375)] (.ref v2) h2).bind fun k => dx_cI (K k [.ref v2, .int x4] h2) (fun x6 h5 => (dx_vn [(38, 372)] (.ref v2) h5).bind fun k => dx_cI (K k [.ref v2] h5) (fun x8 h7 => if x8 = x3 then if ¬ x3 = 0 then dx_lt (v4 + 6) fun x9 => B_L_law_23 K v0 v1 v2 v3 x9 h7 else (dx_lJ 1 (.ref v3) 0 h7).bind fun j10 => if (lg_cmp j10 (Int32.toInt64 x6)) = 0 then dx_lt (v4 + 6) fun x11 => B_L_law_23 K v0 v1 v2 v3 x11 h7 else some (.inl (some (.int 0)), h7) else some (.inl (some (.int 0)), h7)) dx_x0) dx_x0) dx_x0) (B_L_law_282 K v0 v1 v2 v3 v4 h) := by
  show dx_le _ (ax_run K P_L_law 282 [some (v0), some (.ref v1), some (.ref v2), some (.ref v3), some (.int v4), none, none] [] h)
  refine e_aload rfl rfl rfl ?_
  refine e_aload rfl rfl hv0 ?_
  refine e_iload rfl rfl ?_
  refine e_push rfl ?_
  refine e_i2 rfl ?_
  refine e_iald rfl fun x1 => ?_
  refine e_aload rfl rfl rfl ?_
  refine e_isI rfl (Nat.le_of_ble_eq_true rfl) rfl rfl (Nat.le_of_ble_eq_true rfl) (fun _ _ => e_x0) fun x3 h2 => ?_
  refine e_istore (L' := [some (v0), some (.ref v1), some (.ref v2), some (.ref v3), some (.int v4), some (.int x3), none]) rfl (dx_sto (Nat.le_of_ble_eq_true rfl) (Or.inr ⟨_, rfl, rfl⟩) rfl) ?_
  refine e_aload rfl rfl rfl ?_
  refine e_aload rfl rfl hv0 ?_
  refine e_iload rfl rfl ?_
  refine e_push rfl ?_
  refine e_i2 rfl ?_
  refine e_iald rfl fun x4 => ?_
  refine e_ivI rfl rfl rfl (Nat.le_of_ble_eq_true rfl) (fun _ _ => e_x0) fun x6 h5 => ?_
  refine e_istore (L' := [some (v0), some (.ref v1), some (.ref v2), some (.ref v3), some (.int v4), some (.int x3), some (.int x6)]) rfl (dx_sto (Nat.le_of_ble_eq_true rfl) (Or.inr ⟨_, rfl, rfl⟩) rfl) ?_
  refine e_aload rfl rfl rfl ?_
  refine e_ivI rfl rfl rfl (Nat.le_of_ble_eq_true rfl) (fun _ _ => e_x0) fun x8 h7 => ?_
  refine e_iload rfl rfl ?_
  refine e_if2 rfl rfl ?_ ?_
  · refine e_iload rfl rfl ?_
    refine e_if1 rfl rfl ?_ ?_
    · refine e_goto rfl ?_
      refine e_iinc (M := fun x9 => [some (v0), some (.ref v1), some (.ref v2), some (.ref v3), some (.int x9), some (.int x3), some (.int x6)]) rfl rfl (fun _ => dx_sto (Nat.le_of_ble_eq_true rfl) (Or.inr ⟨_, rfl, rfl⟩) rfl) fun x9 => ?_
      refine e_goto rfl ?_
      exact e_wk mP_L_law (ll_1 (ll_1 (ll_1 (ll_1 (ll_1 (ll_0 (ll_0 ll_n)))))))
    · refine e_aload rfl rfl rfl ?_
      refine e_push rfl ?_
      refine e_lald rfl fun j10 => ?_
      refine e_iload rfl rfl ?_
      refine e_i2l rfl ?_
      refine e_lcmp rfl ?_
      refine e_if1 rfl rfl ?_ ?_
      · refine e_goto rfl ?_
        refine e_iinc (M := fun x11 => [some (v0), some (.ref v1), some (.ref v2), some (.ref v3), some (.int x11), some (.int x3), some (.int x6)]) rfl rfl (fun _ => dx_sto (Nat.le_of_ble_eq_true rfl) (Or.inr ⟨_, rfl, rfl⟩) rfl) fun x11 => ?_
        refine e_goto rfl ?_
        exact e_wk mP_L_law (ll_1 (ll_1 (ll_1 (ll_1 (ll_1 (ll_0 (ll_0 ll_n)))))))
      · refine e_push rfl ?_
        exact e_zret0 rfl
  · refine e_push rfl ?_
    exact e_zret0 rfl
theorem b_L_law_338 {K : ax_K} {v0 : Value} {v1 : Nat} {v2 : Nat} {v3 : Nat} {v4 : Int32} {h : ax_H} (hv0 : ax_rv v0 = true) : dx_le ((dx_lI 0 v0 (v4 + 1) h).bind fun x1 => dx_cI (K 179 [.ref v1, .int x1, .ref v3] h) (fun x3 h2 => (dx_lI 0 v0 (v4 + 1) h2).bind fun x4 => (dx_vn [(38, 379)] (.ref v2) h2).bind fun k => dx_cI (K k [.ref v2, .int x4] h2) (fun x6 h5 => (dx_vn [(38, 372)] (.ref v2) h5).bind fun k => dx_cI (K k [.ref v2] h5) (fun x8 h7 => if x8 = x3 then if ¬ x3 = 0 then dx_lt (v4 + 6) fun x9 => B_L_law_23 K v0 v1 v2 v3 x9 h7 else (dx_lJ 1 (.ref v3) 0 h7).bind fun j10 => if (lg_cmp j10 (Int32.toInt64 x6)) = 0 then dx_lt (v4 + 6) fun x11 => B_L_law_23 K v0 v1 v2 v3 x11 h7 else some (.inl (some (.int 0)), h7) else some (.inl (some (.int 0)), h7)) dx_x0) dx_x0) dx_x0) (B_L_law_338 K v0 v1 v2 v3 v4 h) := by
  show dx_le _ (ax_run K P_L_law 338 [some (v0), some (.ref v1), some (.ref v2), some (.ref v3), some (.int v4), none, none] [] h)
  refine e_aload rfl rfl rfl ?_
  refine e_aload rfl rfl hv0 ?_
  refine e_iload rfl rfl ?_
  refine e_push rfl ?_
  refine e_i2 rfl ?_
  refine e_iald rfl fun x1 => ?_
  refine e_aload rfl rfl rfl ?_
  refine e_isI rfl (Nat.le_of_ble_eq_true rfl) rfl rfl (Nat.le_of_ble_eq_true rfl) (fun _ _ => e_x0) fun x3 h2 => ?_
  refine e_istore (L' := [some (v0), some (.ref v1), some (.ref v2), some (.ref v3), some (.int v4), some (.int x3), none]) rfl (dx_sto (Nat.le_of_ble_eq_true rfl) (Or.inr ⟨_, rfl, rfl⟩) rfl) ?_
  refine e_aload rfl rfl rfl ?_
  refine e_aload rfl rfl hv0 ?_
  refine e_iload rfl rfl ?_
  refine e_push rfl ?_
  refine e_i2 rfl ?_
  refine e_iald rfl fun x4 => ?_
  refine e_ivI rfl rfl rfl (Nat.le_of_ble_eq_true rfl) (fun _ _ => e_x0) fun x6 h5 => ?_
  refine e_istore (L' := [some (v0), some (.ref v1), some (.ref v2), some (.ref v3), some (.int v4), some (.int x3), some (.int x6)]) rfl (dx_sto (Nat.le_of_ble_eq_true rfl) (Or.inr ⟨_, rfl, rfl⟩) rfl) ?_
  refine e_aload rfl rfl rfl ?_
  refine e_ivI rfl rfl rfl (Nat.le_of_ble_eq_true rfl) (fun _ _ => e_x0) fun x8 h7 => ?_
  refine e_iload rfl rfl ?_
  refine e_if2 rfl rfl ?_ ?_
  · refine e_iload rfl rfl ?_
    refine e_if1 rfl rfl ?_ ?_
    · refine e_goto rfl ?_
      refine e_iinc (M := fun x9 => [some (v0), some (.ref v1), some (.ref v2), some (.ref v3), some (.int x9), some (.int x3), some (.int x6)]) rfl rfl (fun _ => dx_sto (Nat.le_of_ble_eq_true rfl) (Or.inr ⟨_, rfl, rfl⟩) rfl) fun x9 => ?_
      refine e_goto rfl ?_
      exact e_wk mP_L_law (ll_1 (ll_1 (ll_1 (ll_1 (ll_1 (ll_0 (ll_0 ll_n)))))))
    · refine e_aload rfl rfl rfl ?_
      refine e_push rfl ?_
      refine e_lald rfl fun j10 => ?_
      refine e_iload rfl rfl ?_
      refine e_i2l rfl ?_
      refine e_lcmp rfl ?_
      refine e_if1 rfl rfl ?_ ?_
      · refine e_goto rfl ?_
        refine e_iinc (M := fun x11 => [some (v0), some (.ref v1), some (.ref v2), some (.ref v3), some (.int x11), some (.int x3), some (.int x6)]) rfl rfl (fun _ => dx_sto (Nat.le_of_ble_eq_true rfl) (Or.inr ⟨_, rfl, rfl⟩) rfl) fun x11 => ?_
        refine e_goto rfl ?_
        exact e_wk mP_L_law (ll_1 (ll_1 (ll_1 (ll_1 (ll_1 (ll_0 (ll_0 ll_n)))))))
      · refine e_push rfl ?_
        exact e_zret0 rfl
  · refine e_push rfl ?_
    exact e_zret0 rfl
theorem b_L_law_394 {K : ax_K} {v0 : Value} {v1 : Nat} {v2 : Nat} {v3 : Nat} {v4 : Int32} {h : ax_H} (hv0 : ax_rv v0 = true) : dx_le ((dx_lI 0 v0 (v4 + 1) h).bind fun x1 => (dx_lI 0 v0 (v4 + 2) h).bind fun x2 => (dx_lI 0 v0 (v4 + 3) h).bind fun x3 => (dx_lI 0 v0 (v4 + 4) h).bind fun x4 => (dx_lI 0 v0 (v4 + 5) h).bind fun x5 => dx_cI (K 180 [.ref v1, .int x1, .int x2, .int x3, .int x4, .int x5, .ref v3] h) (fun x7 h6 => (dx_lI 0 v0 (v4 + 1) h6).bind fun x8 => (dx_lI 0 v0 (v4 + 2) h6).bind fun x9 => (dx_lI 0 v0 (v4 + 3) h6).bind fun x10 => (dx_lI 0 v0 (v4 + 4) h6).bind fun x11 => (dx_lI 0 v0 (v4 + 5) h6).bind fun x12 => (dx_vn [(38, 380)] (.ref v2) h6).bind fun k => dx_cI (K k [.ref v2, .int x8, .int x9, .int x10, .int x11, .int x12] h6) (fun x14 h13 => (dx_vn [(38, 372)] (.ref v2) h13).bind fun k => dx_cI (K k [.ref v2] h13) (fun x16 h15 => if x16 = x7 then if ¬ x7 = 0 then dx_lt (v4 + 6) fun x17 => B_L_law_23 K v0 v1 v2 v3 x17 h15 else (dx_lJ 1 (.ref v3) 0 h15).bind fun j18 => if (lg_cmp j18 (Int32.toInt64 x14)) = 0 then dx_lt (v4 + 6) fun x19 => B_L_law_23 K v0 v1 v2 v3 x19 h15 else some (.inl (some (.int 0)), h15) else some (.inl (some (.int 0)), h15)) dx_x0) dx_x0) dx_x0) (B_L_law_394 K v0 v1 v2 v3 v4 h) := by
  show dx_le _ (ax_run K P_L_law 394 [some (v0), some (.ref v1), some (.ref v2), some (.ref v3), some (.int v4), none, none] [] h)
  refine e_aload rfl rfl rfl ?_
  refine e_aload rfl rfl hv0 ?_
  refine e_iload rfl rfl ?_
  refine e_push rfl ?_
  refine e_i2 rfl ?_
  refine e_iald rfl fun x1 => ?_
  refine e_aload rfl rfl hv0 ?_
  refine e_iload rfl rfl ?_
  refine e_push rfl ?_
  refine e_i2 rfl ?_
  refine e_iald rfl fun x2 => ?_
  refine e_aload rfl rfl hv0 ?_
  refine e_iload rfl rfl ?_
  refine e_push rfl ?_
  refine e_i2 rfl ?_
  refine e_iald rfl fun x3 => ?_
  refine e_aload rfl rfl hv0 ?_
  refine e_iload rfl rfl ?_
  refine e_push rfl ?_
  refine e_i2 rfl ?_
  refine e_iald rfl fun x4 => ?_
  refine e_aload rfl rfl hv0 ?_
  refine e_iload rfl rfl ?_
  refine e_push rfl ?_
  refine e_i2 rfl ?_
  refine e_iald rfl fun x5 => ?_
  refine e_aload rfl rfl rfl ?_
  refine e_isI rfl (Nat.le_of_ble_eq_true rfl) rfl rfl (Nat.le_of_ble_eq_true rfl) (fun _ _ => e_x0) fun x7 h6 => ?_
  refine e_istore (L' := [some (v0), some (.ref v1), some (.ref v2), some (.ref v3), some (.int v4), some (.int x7), none]) rfl (dx_sto (Nat.le_of_ble_eq_true rfl) (Or.inr ⟨_, rfl, rfl⟩) rfl) ?_
  refine e_aload rfl rfl rfl ?_
  refine e_aload rfl rfl hv0 ?_
  refine e_iload rfl rfl ?_
  refine e_push rfl ?_
  refine e_i2 rfl ?_
  refine e_iald rfl fun x8 => ?_
  refine e_aload rfl rfl hv0 ?_
  refine e_iload rfl rfl ?_
  refine e_push rfl ?_
  refine e_i2 rfl ?_
  refine e_iald rfl fun x9 => ?_
  refine e_aload rfl rfl hv0 ?_
  refine e_iload rfl rfl ?_
  refine e_push rfl ?_
  refine e_i2 rfl ?_
  refine e_iald rfl fun x10 => ?_
  refine e_aload rfl rfl hv0 ?_
  refine e_iload rfl rfl ?_
  refine e_push rfl ?_
  refine e_i2 rfl ?_
  refine e_iald rfl fun x11 => ?_
  refine e_aload rfl rfl hv0 ?_
  refine e_iload rfl rfl ?_
  refine e_push rfl ?_
  refine e_i2 rfl ?_
  refine e_iald rfl fun x12 => ?_
  refine e_ivI rfl rfl rfl (Nat.le_of_ble_eq_true rfl) (fun _ _ => e_x0) fun x14 h13 => ?_
  refine e_istore (L' := [some (v0), some (.ref v1), some (.ref v2), some (.ref v3), some (.int v4), some (.int x7), some (.int x14)]) rfl (dx_sto (Nat.le_of_ble_eq_true rfl) (Or.inr ⟨_, rfl, rfl⟩) rfl) ?_
  refine e_aload rfl rfl rfl ?_
  refine e_ivI rfl rfl rfl (Nat.le_of_ble_eq_true rfl) (fun _ _ => e_x0) fun x16 h15 => ?_
  refine e_iload rfl rfl ?_
  refine e_if2 rfl rfl ?_ ?_
  · refine e_iload rfl rfl ?_
    refine e_if1 rfl rfl ?_ ?_
    · refine e_goto rfl ?_
      refine e_iinc (M := fun x17 => [some (v0), some (.ref v1), some (.ref v2), some (.ref v3), some (.int x17), some (.int x7), some (.int x14)]) rfl rfl (fun _ => dx_sto (Nat.le_of_ble_eq_true rfl) (Or.inr ⟨_, rfl, rfl⟩) rfl) fun x17 => ?_
      refine e_goto rfl ?_
      exact e_wk mP_L_law (ll_1 (ll_1 (ll_1 (ll_1 (ll_1 (ll_0 (ll_0 ll_n)))))))
    · refine e_aload rfl rfl rfl ?_
      refine e_push rfl ?_
      refine e_lald rfl fun j18 => ?_
      refine e_iload rfl rfl ?_
      refine e_i2l rfl ?_
      refine e_lcmp rfl ?_
      refine e_if1 rfl rfl ?_ ?_
      · refine e_goto rfl ?_
        refine e_iinc (M := fun x19 => [some (v0), some (.ref v1), some (.ref v2), some (.ref v3), some (.int x19), some (.int x7), some (.int x14)]) rfl rfl (fun _ => dx_sto (Nat.le_of_ble_eq_true rfl) (Or.inr ⟨_, rfl, rfl⟩) rfl) fun x19 => ?_
        refine e_goto rfl ?_
        exact e_wk mP_L_law (ll_1 (ll_1 (ll_1 (ll_1 (ll_1 (ll_0 (ll_0 ll_n)))))))
      · refine e_push rfl ?_
        exact e_zret0 rfl
  · refine e_push rfl ?_
    exact e_zret0 rfl
theorem b_L_law_498 {K : ax_K} {v0 : Value} {v1 : Nat} {v2 : Nat} {v3 : Nat} {v4 : Int32} {h : ax_H} (hv0 : ax_rv v0 = true) : dx_le ((dx_lI 0 v0 (v4 + 1) h).bind fun x1 => (dx_lI 0 v0 (v4 + 2) h).bind fun x2 => dx_cI (K 181 [.ref v1, .int x1, .int x2, .ref v3] h) (fun x4 h3 => (dx_lI 0 v0 (v4 + 1) h3).bind fun x5 => (dx_lI 0 v0 (v4 + 2) h3).bind fun x6 => (dx_vn [(38, 382)] (.ref v2) h3).bind fun k => dx_cI (K k [.ref v2, .int x5, .int x6] h3) (fun x8 h7 => (dx_vn [(38, 372)] (.ref v2) h7).bind fun k => dx_cI (K k [.ref v2] h7) (fun x10 h9 => if x10 = x4 then if ¬ x4 = 0 then dx_lt (v4 + 6) fun x11 => B_L_law_23 K v0 v1 v2 v3 x11 h9 else (dx_lJ 1 (.ref v3) 0 h9).bind fun j12 => if (lg_cmp j12 (Int32.toInt64 x8)) = 0 then dx_lt (v4 + 6) fun x13 => B_L_law_23 K v0 v1 v2 v3 x13 h9 else some (.inl (some (.int 0)), h9) else some (.inl (some (.int 0)), h9)) dx_x0) dx_x0) dx_x0) (B_L_law_498 K v0 v1 v2 v3 v4 h) := by
  show dx_le _ (ax_run K P_L_law 498 [some (v0), some (.ref v1), some (.ref v2), some (.ref v3), some (.int v4), none, none] [] h)
  refine e_aload rfl rfl rfl ?_
  refine e_aload rfl rfl hv0 ?_
  refine e_iload rfl rfl ?_
  refine e_push rfl ?_
  refine e_i2 rfl ?_
  refine e_iald rfl fun x1 => ?_
  refine e_aload rfl rfl hv0 ?_
  refine e_iload rfl rfl ?_
  refine e_push rfl ?_
  refine e_i2 rfl ?_
  refine e_iald rfl fun x2 => ?_
  refine e_aload rfl rfl rfl ?_
  refine e_isI rfl (Nat.le_of_ble_eq_true rfl) rfl rfl (Nat.le_of_ble_eq_true rfl) (fun _ _ => e_x0) fun x4 h3 => ?_
  refine e_istore (L' := [some (v0), some (.ref v1), some (.ref v2), some (.ref v3), some (.int v4), some (.int x4), none]) rfl (dx_sto (Nat.le_of_ble_eq_true rfl) (Or.inr ⟨_, rfl, rfl⟩) rfl) ?_
  refine e_aload rfl rfl rfl ?_
  refine e_aload rfl rfl hv0 ?_
  refine e_iload rfl rfl ?_
  refine e_push rfl ?_
  refine e_i2 rfl ?_
  refine e_iald rfl fun x5 => ?_
  refine e_aload rfl rfl hv0 ?_
  refine e_iload rfl rfl ?_
  refine e_push rfl ?_
  refine e_i2 rfl ?_
  refine e_iald rfl fun x6 => ?_
  refine e_ivI rfl rfl rfl (Nat.le_of_ble_eq_true rfl) (fun _ _ => e_x0) fun x8 h7 => ?_
  refine e_istore (L' := [some (v0), some (.ref v1), some (.ref v2), some (.ref v3), some (.int v4), some (.int x4), some (.int x8)]) rfl (dx_sto (Nat.le_of_ble_eq_true rfl) (Or.inr ⟨_, rfl, rfl⟩) rfl) ?_
  refine e_aload rfl rfl rfl ?_
  refine e_ivI rfl rfl rfl (Nat.le_of_ble_eq_true rfl) (fun _ _ => e_x0) fun x10 h9 => ?_
  refine e_iload rfl rfl ?_
  refine e_if2 rfl rfl ?_ ?_
  · refine e_iload rfl rfl ?_
    refine e_if1 rfl rfl ?_ ?_
    · refine e_goto rfl ?_
      refine e_iinc (M := fun x11 => [some (v0), some (.ref v1), some (.ref v2), some (.ref v3), some (.int x11), some (.int x4), some (.int x8)]) rfl rfl (fun _ => dx_sto (Nat.le_of_ble_eq_true rfl) (Or.inr ⟨_, rfl, rfl⟩) rfl) fun x11 => ?_
      refine e_goto rfl ?_
      exact e_wk mP_L_law (ll_1 (ll_1 (ll_1 (ll_1 (ll_1 (ll_0 (ll_0 ll_n)))))))
    · refine e_aload rfl rfl rfl ?_
      refine e_push rfl ?_
      refine e_lald rfl fun j12 => ?_
      refine e_iload rfl rfl ?_
      refine e_i2l rfl ?_
      refine e_lcmp rfl ?_
      refine e_if1 rfl rfl ?_ ?_
      · refine e_goto rfl ?_
        refine e_iinc (M := fun x13 => [some (v0), some (.ref v1), some (.ref v2), some (.ref v3), some (.int x13), some (.int x4), some (.int x8)]) rfl rfl (fun _ => dx_sto (Nat.le_of_ble_eq_true rfl) (Or.inr ⟨_, rfl, rfl⟩) rfl) fun x13 => ?_
        refine e_goto rfl ?_
        exact e_wk mP_L_law (ll_1 (ll_1 (ll_1 (ll_1 (ll_1 (ll_0 (ll_0 ll_n)))))))
      · refine e_push rfl ?_
        exact e_zret0 rfl
  · refine e_push rfl ?_
    exact e_zret0 rfl
theorem b_L_law_566 {K : ax_K} {v0 : Value} {v1 : Nat} {v2 : Nat} {v3 : Nat} {v4 : Int32} {h : ax_H} (hv0 : ax_rv v0 = true) : dx_le ((dx_lI 0 v0 (v4 + 1) h).bind fun x1 => dx_cI (K 182 [.ref v1, .int x1, .ref v3] h) (fun x3 h2 => (dx_lI 0 v0 (v4 + 1) h2).bind fun x4 => (dx_vn [(38, 383)] (.ref v2) h2).bind fun k => dx_cI (K k [.ref v2, .int x4] h2) (fun x6 h5 => (dx_vn [(38, 372)] (.ref v2) h5).bind fun k => dx_cI (K k [.ref v2] h5) (fun x8 h7 => if x8 = x3 then if ¬ x3 = 0 then dx_lt (v4 + 6) fun x9 => B_L_law_23 K v0 v1 v2 v3 x9 h7 else (dx_lJ 1 (.ref v3) 0 h7).bind fun j10 => if (lg_cmp j10 (Int32.toInt64 x6)) = 0 then dx_lt (v4 + 6) fun x11 => B_L_law_23 K v0 v1 v2 v3 x11 h7 else some (.inl (some (.int 0)), h7) else some (.inl (some (.int 0)), h7)) dx_x0) dx_x0) dx_x0) (B_L_law_566 K v0 v1 v2 v3 v4 h) := by
  show dx_le _ (ax_run K P_L_law 566 [some (v0), some (.ref v1), some (.ref v2), some (.ref v3), some (.int v4), none, none] [] h)
  refine e_aload rfl rfl rfl ?_
  refine e_aload rfl rfl hv0 ?_
  refine e_iload rfl rfl ?_
  refine e_push rfl ?_
  refine e_i2 rfl ?_
  refine e_iald rfl fun x1 => ?_
  refine e_aload rfl rfl rfl ?_
  refine e_isI rfl (Nat.le_of_ble_eq_true rfl) rfl rfl (Nat.le_of_ble_eq_true rfl) (fun _ _ => e_x0) fun x3 h2 => ?_
  refine e_istore (L' := [some (v0), some (.ref v1), some (.ref v2), some (.ref v3), some (.int v4), some (.int x3), none]) rfl (dx_sto (Nat.le_of_ble_eq_true rfl) (Or.inr ⟨_, rfl, rfl⟩) rfl) ?_
  refine e_aload rfl rfl rfl ?_
  refine e_aload rfl rfl hv0 ?_
  refine e_iload rfl rfl ?_
  refine e_push rfl ?_
  refine e_i2 rfl ?_
  refine e_iald rfl fun x4 => ?_
  refine e_ivI rfl rfl rfl (Nat.le_of_ble_eq_true rfl) (fun _ _ => e_x0) fun x6 h5 => ?_
  refine e_istore (L' := [some (v0), some (.ref v1), some (.ref v2), some (.ref v3), some (.int v4), some (.int x3), some (.int x6)]) rfl (dx_sto (Nat.le_of_ble_eq_true rfl) (Or.inr ⟨_, rfl, rfl⟩) rfl) ?_
  refine e_aload rfl rfl rfl ?_
  refine e_ivI rfl rfl rfl (Nat.le_of_ble_eq_true rfl) (fun _ _ => e_x0) fun x8 h7 => ?_
  refine e_iload rfl rfl ?_
  refine e_if2 rfl rfl ?_ ?_
  · refine e_iload rfl rfl ?_
    refine e_if1 rfl rfl ?_ ?_
    · refine e_goto rfl ?_
      refine e_iinc (M := fun x9 => [some (v0), some (.ref v1), some (.ref v2), some (.ref v3), some (.int x9), some (.int x3), some (.int x6)]) rfl rfl (fun _ => dx_sto (Nat.le_of_ble_eq_true rfl) (Or.inr ⟨_, rfl, rfl⟩) rfl) fun x9 => ?_
      refine e_goto rfl ?_
      exact e_wk mP_L_law (ll_1 (ll_1 (ll_1 (ll_1 (ll_1 (ll_0 (ll_0 ll_n)))))))
    · refine e_aload rfl rfl rfl ?_
      refine e_push rfl ?_
      refine e_lald rfl fun j10 => ?_
      refine e_iload rfl rfl ?_
      refine e_i2l rfl ?_
      refine e_lcmp rfl ?_
      refine e_if1 rfl rfl ?_ ?_
      · refine e_goto rfl ?_
        refine e_iinc (M := fun x11 => [some (v0), some (.ref v1), some (.ref v2), some (.ref v3), some (.int x11), some (.int x3), some (.int x6)]) rfl rfl (fun _ => dx_sto (Nat.le_of_ble_eq_true rfl) (Or.inr ⟨_, rfl, rfl⟩) rfl) fun x11 => ?_
        refine e_goto rfl ?_
        exact e_wk mP_L_law (ll_1 (ll_1 (ll_1 (ll_1 (ll_1 (ll_0 (ll_0 ll_n)))))))
      · refine e_push rfl ?_
        exact e_zret0 rfl
  · refine e_push rfl ?_
    exact e_zret0 rfl
theorem b_L_law_622 {K : ax_K} {v0 : Value} {v1 : Nat} {v2 : Nat} {v3 : Nat} {v4 : Int32} {h : ax_H} (hv0 : ax_rv v0 = true) : dx_le ((dx_lI 0 v0 (v4 + 1) h).bind fun x1 => (dx_lI 0 v0 (v4 + 2) h).bind fun x2 => (dx_lI 0 v0 (v4 + 3) h).bind fun x3 => dx_cI (K 183 [.ref v1, .int x1, .int x2, .int x3, .ref v3] h) (fun x5 h4 => (dx_lI 0 v0 (v4 + 1) h4).bind fun x6 => (dx_lI 0 v0 (v4 + 2) h4).bind fun x7 => (dx_lI 0 v0 (v4 + 3) h4).bind fun x8 => (dx_vn [(38, 384)] (.ref v2) h4).bind fun k => dx_cI (K k [.ref v2, .int x6, .int x7, .int x8] h4) (fun x10 h9 => (dx_vn [(38, 372)] (.ref v2) h9).bind fun k => dx_cI (K k [.ref v2] h9) (fun x12 h11 => if x12 = x5 then if ¬ x5 = 0 then dx_lt (v4 + 6) fun x13 => B_L_law_23 K v0 v1 v2 v3 x13 h11 else (dx_lJ 1 (.ref v3) 0 h11).bind fun j14 => if (lg_cmp j14 (Int32.toInt64 x10)) = 0 then dx_lt (v4 + 6) fun x15 => B_L_law_23 K v0 v1 v2 v3 x15 h11 else some (.inl (some (.int 0)), h11) else some (.inl (some (.int 0)), h11)) dx_x0) dx_x0) dx_x0) (B_L_law_622 K v0 v1 v2 v3 v4 h) := by
  show dx_le _ (ax_run K P_L_law 622 [some (v0), some (.ref v1), some (.ref v2), some (.ref v3), some (.int v4), none, none] [] h)
  refine e_aload rfl rfl rfl ?_
  refine e_aload rfl rfl hv0 ?_
  refine e_iload rfl rfl ?_
  refine e_push rfl ?_
  refine e_i2 rfl ?_
  refine e_iald rfl fun x1 => ?_
  refine e_aload rfl rfl hv0 ?_
  refine e_iload rfl rfl ?_
  refine e_push rfl ?_
  refine e_i2 rfl ?_
  refine e_iald rfl fun x2 => ?_
  refine e_aload rfl rfl hv0 ?_
  refine e_iload rfl rfl ?_
  refine e_push rfl ?_
  refine e_i2 rfl ?_
  refine e_iald rfl fun x3 => ?_
  refine e_aload rfl rfl rfl ?_
  refine e_isI rfl (Nat.le_of_ble_eq_true rfl) rfl rfl (Nat.le_of_ble_eq_true rfl) (fun _ _ => e_x0) fun x5 h4 => ?_
  refine e_istore (L' := [some (v0), some (.ref v1), some (.ref v2), some (.ref v3), some (.int v4), some (.int x5), none]) rfl (dx_sto (Nat.le_of_ble_eq_true rfl) (Or.inr ⟨_, rfl, rfl⟩) rfl) ?_
  refine e_aload rfl rfl rfl ?_
  refine e_aload rfl rfl hv0 ?_
  refine e_iload rfl rfl ?_
  refine e_push rfl ?_
  refine e_i2 rfl ?_
  refine e_iald rfl fun x6 => ?_
  refine e_aload rfl rfl hv0 ?_
  refine e_iload rfl rfl ?_
  refine e_push rfl ?_
  refine e_i2 rfl ?_
  refine e_iald rfl fun x7 => ?_
  refine e_aload rfl rfl hv0 ?_
  refine e_iload rfl rfl ?_
  refine e_push rfl ?_
  refine e_i2 rfl ?_
  refine e_iald rfl fun x8 => ?_
  refine e_ivI rfl rfl rfl (Nat.le_of_ble_eq_true rfl) (fun _ _ => e_x0) fun x10 h9 => ?_
  refine e_istore (L' := [some (v0), some (.ref v1), some (.ref v2), some (.ref v3), some (.int v4), some (.int x5), some (.int x10)]) rfl (dx_sto (Nat.le_of_ble_eq_true rfl) (Or.inr ⟨_, rfl, rfl⟩) rfl) ?_
  refine e_aload rfl rfl rfl ?_
  refine e_ivI rfl rfl rfl (Nat.le_of_ble_eq_true rfl) (fun _ _ => e_x0) fun x12 h11 => ?_
  refine e_iload rfl rfl ?_
  refine e_if2 rfl rfl ?_ ?_
  · refine e_iload rfl rfl ?_
    refine e_if1 rfl rfl ?_ ?_
    · refine e_goto rfl ?_
      refine e_iinc (M := fun x13 => [some (v0), some (.ref v1), some (.ref v2), some (.ref v3), some (.int x13), some (.int x5), some (.int x10)]) rfl rfl (fun _ => dx_sto (Nat.le_of_ble_eq_true rfl) (Or.inr ⟨_, rfl, rfl⟩) rfl) fun x13 => ?_
      refine e_goto rfl ?_
      exact e_wk mP_L_law (ll_1 (ll_1 (ll_1 (ll_1 (ll_1 (ll_0 (ll_0 ll_n)))))))
    · refine e_aload rfl rfl rfl ?_
      refine e_push rfl ?_
      refine e_lald rfl fun j14 => ?_
      refine e_iload rfl rfl ?_
      refine e_i2l rfl ?_
      refine e_lcmp rfl ?_
      refine e_if1 rfl rfl ?_ ?_
      · refine e_goto rfl ?_
        refine e_iinc (M := fun x15 => [some (v0), some (.ref v1), some (.ref v2), some (.ref v3), some (.int x15), some (.int x5), some (.int x10)]) rfl rfl (fun _ => dx_sto (Nat.le_of_ble_eq_true rfl) (Or.inr ⟨_, rfl, rfl⟩) rfl) fun x15 => ?_
        refine e_goto rfl ?_
        exact e_wk mP_L_law (ll_1 (ll_1 (ll_1 (ll_1 (ll_1 (ll_0 (ll_0 ll_n)))))))
      · refine e_push rfl ?_
        exact e_zret0 rfl
  · refine e_push rfl ?_
    exact e_zret0 rfl
theorem b_L_law_702 {K : ax_K} {v0 : Value} {v1 : Nat} {v2 : Nat} {v3 : Nat} {v4 : Int32} {h : ax_H} (hv0 : ax_rv v0 = true) : dx_le ((dx_lI 0 v0 (v4 + 1) h).bind fun x1 => dx_cI (K 184 [.ref v1, .int x1, .ref v3] h) (fun x3 h2 => (dx_lI 0 v0 (v4 + 1) h2).bind fun x4 => (dx_vn [(38, 385)] (.ref v2) h2).bind fun k => dx_cI (K k [.ref v2, .int x4] h2) (fun x6 h5 => (dx_vn [(38, 372)] (.ref v2) h5).bind fun k => dx_cI (K k [.ref v2] h5) (fun x8 h7 => if x8 = x3 then if ¬ x3 = 0 then dx_lt (v4 + 6) fun x9 => B_L_law_23 K v0 v1 v2 v3 x9 h7 else (dx_lJ 1 (.ref v3) 0 h7).bind fun j10 => if (lg_cmp j10 (Int32.toInt64 x6)) = 0 then dx_lt (v4 + 6) fun x11 => B_L_law_23 K v0 v1 v2 v3 x11 h7 else some (.inl (some (.int 0)), h7) else some (.inl (some (.int 0)), h7)) dx_x0) dx_x0) dx_x0) (B_L_law_702 K v0 v1 v2 v3 v4 h) := by
  show dx_le _ (ax_run K P_L_law 702 [some (v0), some (.ref v1), some (.ref v2), some (.ref v3), some (.int v4), none, none] [] h)
  refine e_aload rfl rfl rfl ?_
  refine e_aload rfl rfl hv0 ?_
  refine e_iload rfl rfl ?_
  refine e_push rfl ?_
  refine e_i2 rfl ?_
  refine e_iald rfl fun x1 => ?_
  refine e_aload rfl rfl rfl ?_
  refine e_isI rfl (Nat.le_of_ble_eq_true rfl) rfl rfl (Nat.le_of_ble_eq_true rfl) (fun _ _ => e_x0) fun x3 h2 => ?_
  refine e_istore (L' := [some (v0), some (.ref v1), some (.ref v2), some (.ref v3), some (.int v4), some (.int x3), none]) rfl (dx_sto (Nat.le_of_ble_eq_true rfl) (Or.inr ⟨_, rfl, rfl⟩) rfl) ?_
  refine e_aload rfl rfl rfl ?_
  refine e_aload rfl rfl hv0 ?_
  refine e_iload rfl rfl ?_
  refine e_push rfl ?_
  refine e_i2 rfl ?_
  refine e_iald rfl fun x4 => ?_
  refine e_ivI rfl rfl rfl (Nat.le_of_ble_eq_true rfl) (fun _ _ => e_x0) fun x6 h5 => ?_
  refine e_istore (L' := [some (v0), some (.ref v1), some (.ref v2), some (.ref v3), some (.int v4), some (.int x3), some (.int x6)]) rfl (dx_sto (Nat.le_of_ble_eq_true rfl) (Or.inr ⟨_, rfl, rfl⟩) rfl) ?_
  refine e_aload rfl rfl rfl ?_
  refine e_ivI rfl rfl rfl (Nat.le_of_ble_eq_true rfl) (fun _ _ => e_x0) fun x8 h7 => ?_
  refine e_iload rfl rfl ?_
  refine e_if2 rfl rfl ?_ ?_
  · refine e_iload rfl rfl ?_
    refine e_if1 rfl rfl ?_ ?_
    · refine e_goto rfl ?_
      refine e_iinc (M := fun x9 => [some (v0), some (.ref v1), some (.ref v2), some (.ref v3), some (.int x9), some (.int x3), some (.int x6)]) rfl rfl (fun _ => dx_sto (Nat.le_of_ble_eq_true rfl) (Or.inr ⟨_, rfl, rfl⟩) rfl) fun x9 => ?_
      refine e_goto rfl ?_
      exact e_wk mP_L_law (ll_1 (ll_1 (ll_1 (ll_1 (ll_1 (ll_0 (ll_0 ll_n)))))))
    · refine e_aload rfl rfl rfl ?_
      refine e_push rfl ?_
      refine e_lald rfl fun j10 => ?_
      refine e_iload rfl rfl ?_
      refine e_i2l rfl ?_
      refine e_lcmp rfl ?_
      refine e_if1 rfl rfl ?_ ?_
      · refine e_goto rfl ?_
        refine e_iinc (M := fun x11 => [some (v0), some (.ref v1), some (.ref v2), some (.ref v3), some (.int x11), some (.int x3), some (.int x6)]) rfl rfl (fun _ => dx_sto (Nat.le_of_ble_eq_true rfl) (Or.inr ⟨_, rfl, rfl⟩) rfl) fun x11 => ?_
        refine e_goto rfl ?_
        exact e_wk mP_L_law (ll_1 (ll_1 (ll_1 (ll_1 (ll_1 (ll_0 (ll_0 ll_n)))))))
      · refine e_push rfl ?_
        exact e_zret0 rfl
  · refine e_push rfl ?_
    exact e_zret0 rfl
theorem b_L_law_758 {K : ax_K} {v0 : Value} {v1 : Nat} {v2 : Nat} {v3 : Nat} {v4 : Int32} {h : ax_H} (hv0 : ax_rv v0 = true) : dx_le (dx_cI (K 185 [.ref v1, .ref v3] h) (fun x2 h1 => (dx_vn [(38, 386)] (.ref v2) h1).bind fun k => dx_cI (K k [.ref v2] h1) (fun x4 h3 => (dx_vn [(38, 372)] (.ref v2) h3).bind fun k => dx_cI (K k [.ref v2] h3) (fun x6 h5 => if x6 = x2 then if ¬ x2 = 0 then dx_lt (v4 + 6) fun x7 => B_L_law_23 K v0 v1 v2 v3 x7 h5 else (dx_lJ 1 (.ref v3) 0 h5).bind fun j8 => if (lg_cmp j8 (Int32.toInt64 x4)) = 0 then dx_lt (v4 + 6) fun x9 => B_L_law_23 K v0 v1 v2 v3 x9 h5 else some (.inl (some (.int 0)), h5) else some (.inl (some (.int 0)), h5)) dx_x0) dx_x0) dx_x0) (B_L_law_758 K v0 v1 v2 v3 v4 h) := by
  show dx_le _ (ax_run K P_L_law 758 [some (v0), some (.ref v1), some (.ref v2), some (.ref v3), some (.int v4), none, none] [] h)
  refine e_aload rfl rfl rfl ?_
  refine e_aload rfl rfl rfl ?_
  refine e_isI rfl (Nat.le_of_ble_eq_true rfl) rfl rfl (Nat.le_of_ble_eq_true rfl) (fun _ _ => e_x0) fun x2 h1 => ?_
  refine e_istore (L' := [some (v0), some (.ref v1), some (.ref v2), some (.ref v3), some (.int v4), some (.int x2), none]) rfl (dx_sto (Nat.le_of_ble_eq_true rfl) (Or.inr ⟨_, rfl, rfl⟩) rfl) ?_
  refine e_aload rfl rfl rfl ?_
  refine e_ivI rfl rfl rfl (Nat.le_of_ble_eq_true rfl) (fun _ _ => e_x0) fun x4 h3 => ?_
  refine e_istore (L' := [some (v0), some (.ref v1), some (.ref v2), some (.ref v3), some (.int v4), some (.int x2), some (.int x4)]) rfl (dx_sto (Nat.le_of_ble_eq_true rfl) (Or.inr ⟨_, rfl, rfl⟩) rfl) ?_
  refine e_aload rfl rfl rfl ?_
  refine e_ivI rfl rfl rfl (Nat.le_of_ble_eq_true rfl) (fun _ _ => e_x0) fun x6 h5 => ?_
  refine e_iload rfl rfl ?_
  refine e_if2 rfl rfl ?_ ?_
  · refine e_iload rfl rfl ?_
    refine e_if1 rfl rfl ?_ ?_
    · refine e_goto rfl ?_
      refine e_iinc (M := fun x7 => [some (v0), some (.ref v1), some (.ref v2), some (.ref v3), some (.int x7), some (.int x2), some (.int x4)]) rfl rfl (fun _ => dx_sto (Nat.le_of_ble_eq_true rfl) (Or.inr ⟨_, rfl, rfl⟩) rfl) fun x7 => ?_
      refine e_goto rfl ?_
      exact e_wk mP_L_law (ll_1 (ll_1 (ll_1 (ll_1 (ll_1 (ll_0 (ll_0 ll_n)))))))
    · refine e_aload rfl rfl rfl ?_
      refine e_push rfl ?_
      refine e_lald rfl fun j8 => ?_
      refine e_iload rfl rfl ?_
      refine e_i2l rfl ?_
      refine e_lcmp rfl ?_
      refine e_if1 rfl rfl ?_ ?_
      · refine e_goto rfl ?_
        refine e_iinc (M := fun x9 => [some (v0), some (.ref v1), some (.ref v2), some (.ref v3), some (.int x9), some (.int x2), some (.int x4)]) rfl rfl (fun _ => dx_sto (Nat.le_of_ble_eq_true rfl) (Or.inr ⟨_, rfl, rfl⟩) rfl) fun x9 => ?_
        refine e_goto rfl ?_
        exact e_wk mP_L_law (ll_1 (ll_1 (ll_1 (ll_1 (ll_1 (ll_0 (ll_0 ll_n)))))))
      · refine e_push rfl ?_
        exact e_zret0 rfl
  · refine e_push rfl ?_
    exact e_zret0 rfl
theorem b_L_law_802 {K : ax_K} {v0 : Value} {v1 : Nat} {v2 : Nat} {v3 : Nat} {v4 : Int32} {h : ax_H} (hv0 : ax_rv v0 = true) : dx_le ((dx_lI 0 v0 (v4 + 1) h).bind fun x1 => (dx_lI 0 v0 (v4 + 2) h).bind fun x2 => (dx_lI 0 v0 (v4 + 3) h).bind fun x3 => (dx_lI 0 v0 (v4 + 4) h).bind fun x4 => (dx_lI 0 v0 (v4 + 5) h).bind fun x5 => dx_cI (K 186 [.ref v1, .int x1, .int x2, .int x3, .int x4, .int x5, .ref v3] h) (fun x7 h6 => (dx_lI 0 v0 (v4 + 1) h6).bind fun x8 => (dx_lI 0 v0 (v4 + 2) h6).bind fun x9 => (dx_lI 0 v0 (v4 + 3) h6).bind fun x10 => (dx_lI 0 v0 (v4 + 4) h6).bind fun x11 => (dx_lI 0 v0 (v4 + 5) h6).bind fun x12 => (dx_vn [(38, 387)] (.ref v2) h6).bind fun k => dx_cI (K k [.ref v2, .int x8, .int x9, .int x10, .int x11, .int x12] h6) (fun x14 h13 => (dx_vn [(38, 372)] (.ref v2) h13).bind fun k => dx_cI (K k [.ref v2] h13) (fun x16 h15 => if x16 = x7 then if ¬ x7 = 0 then dx_lt (v4 + 6) fun x17 => B_L_law_23 K v0 v1 v2 v3 x17 h15 else (dx_lJ 1 (.ref v3) 0 h15).bind fun j18 => if (lg_cmp j18 (Int32.toInt64 x14)) = 0 then dx_lt (v4 + 6) fun x19 => B_L_law_23 K v0 v1 v2 v3 x19 h15 else some (.inl (some (.int 0)), h15) else some (.inl (some (.int 0)), h15)) dx_x0) dx_x0) dx_x0) (B_L_law_802 K v0 v1 v2 v3 v4 h) := by
  show dx_le _ (ax_run K P_L_law 802 [some (v0), some (.ref v1), some (.ref v2), some (.ref v3), some (.int v4), none, none] [] h)
  refine e_aload rfl rfl rfl ?_
  refine e_aload rfl rfl hv0 ?_
  refine e_iload rfl rfl ?_
  refine e_push rfl ?_
  refine e_i2 rfl ?_
  refine e_iald rfl fun x1 => ?_
  refine e_aload rfl rfl hv0 ?_
  refine e_iload rfl rfl ?_
  refine e_push rfl ?_
  refine e_i2 rfl ?_
  refine e_iald rfl fun x2 => ?_
  refine e_aload rfl rfl hv0 ?_
  refine e_iload rfl rfl ?_
  refine e_push rfl ?_
  refine e_i2 rfl ?_
  refine e_iald rfl fun x3 => ?_
  refine e_aload rfl rfl hv0 ?_
  refine e_iload rfl rfl ?_
  refine e_push rfl ?_
  refine e_i2 rfl ?_
  refine e_iald rfl fun x4 => ?_
  refine e_aload rfl rfl hv0 ?_
  refine e_iload rfl rfl ?_
  refine e_push rfl ?_
  refine e_i2 rfl ?_
  refine e_iald rfl fun x5 => ?_
  refine e_aload rfl rfl rfl ?_
  refine e_isI rfl (Nat.le_of_ble_eq_true rfl) rfl rfl (Nat.le_of_ble_eq_true rfl) (fun _ _ => e_x0) fun x7 h6 => ?_
  refine e_istore (L' := [some (v0), some (.ref v1), some (.ref v2), some (.ref v3), some (.int v4), some (.int x7), none]) rfl (dx_sto (Nat.le_of_ble_eq_true rfl) (Or.inr ⟨_, rfl, rfl⟩) rfl) ?_
  refine e_aload rfl rfl rfl ?_
  refine e_aload rfl rfl hv0 ?_
  refine e_iload rfl rfl ?_
  refine e_push rfl ?_
  refine e_i2 rfl ?_
  refine e_iald rfl fun x8 => ?_
  refine e_aload rfl rfl hv0 ?_
  refine e_iload rfl rfl ?_
  refine e_push rfl ?_
  refine e_i2 rfl ?_
  refine e_iald rfl fun x9 => ?_
  refine e_aload rfl rfl hv0 ?_
  refine e_iload rfl rfl ?_
  refine e_push rfl ?_
  refine e_i2 rfl ?_
  refine e_iald rfl fun x10 => ?_
  refine e_aload rfl rfl hv0 ?_
  refine e_iload rfl rfl ?_
  refine e_push rfl ?_
  refine e_i2 rfl ?_
  refine e_iald rfl fun x11 => ?_
  refine e_aload rfl rfl hv0 ?_
  refine e_iload rfl rfl ?_
  refine e_push rfl ?_
  refine e_i2 rfl ?_
  refine e_iald rfl fun x12 => ?_
  refine e_ivI rfl rfl rfl (Nat.le_of_ble_eq_true rfl) (fun _ _ => e_x0) fun x14 h13 => ?_
  refine e_istore (L' := [some (v0), some (.ref v1), some (.ref v2), some (.ref v3), some (.int v4), some (.int x7), some (.int x14)]) rfl (dx_sto (Nat.le_of_ble_eq_true rfl) (Or.inr ⟨_, rfl, rfl⟩) rfl) ?_
  refine e_aload rfl rfl rfl ?_
  refine e_ivI rfl rfl rfl (Nat.le_of_ble_eq_true rfl) (fun _ _ => e_x0) fun x16 h15 => ?_
  refine e_iload rfl rfl ?_
  refine e_if2 rfl rfl ?_ ?_
  · refine e_iload rfl rfl ?_
    refine e_if1 rfl rfl ?_ ?_
    · refine e_goto rfl ?_
      refine e_iinc (M := fun x17 => [some (v0), some (.ref v1), some (.ref v2), some (.ref v3), some (.int x17), some (.int x7), some (.int x14)]) rfl rfl (fun _ => dx_sto (Nat.le_of_ble_eq_true rfl) (Or.inr ⟨_, rfl, rfl⟩) rfl) fun x17 => ?_
      refine e_goto rfl ?_
      exact e_wk mP_L_law (ll_1 (ll_1 (ll_1 (ll_1 (ll_1 (ll_0 (ll_0 ll_n)))))))
    · refine e_aload rfl rfl rfl ?_
      refine e_push rfl ?_
      refine e_lald rfl fun j18 => ?_
      refine e_iload rfl rfl ?_
      refine e_i2l rfl ?_
      refine e_lcmp rfl ?_
      refine e_if1 rfl rfl ?_ ?_
      · refine e_goto rfl ?_
        refine e_iinc (M := fun x19 => [some (v0), some (.ref v1), some (.ref v2), some (.ref v3), some (.int x19), some (.int x7), some (.int x14)]) rfl rfl (fun _ => dx_sto (Nat.le_of_ble_eq_true rfl) (Or.inr ⟨_, rfl, rfl⟩) rfl) fun x19 => ?_
        refine e_goto rfl ?_
        exact e_wk mP_L_law (ll_1 (ll_1 (ll_1 (ll_1 (ll_1 (ll_0 (ll_0 ll_n)))))))
      · refine e_push rfl ?_
        exact e_zret0 rfl
  · refine e_push rfl ?_
    exact e_zret0 rfl
theorem b_L_law_906 {K : ax_K} {v0 : Value} {v1 : Nat} {v2 : Nat} {v3 : Nat} {v4 : Int32} {h : ax_H} (hv0 : ax_rv v0 = true) : dx_le ((dx_vn [(19, 212)] (.ref v1) h).bind fun k => dx_cI (K k [.ref v1] h) (fun x2 h1 => (dx_vn [(38, 388)] (.ref v2) h1).bind fun k => dx_cI (K k [.ref v2] h1) (fun x4 h3 => if x2 = x4 then dx_lt (v4 + 6) fun x5 => B_L_law_23 K v0 v1 v2 v3 x5 h3 else some (.inl (some (.int 0)), h3)) dx_x0) dx_x0) (B_L_law_906 K v0 v1 v2 v3 v4 h) := by
  show dx_le _ (ax_run K P_L_law 906 [some (v0), some (.ref v1), some (.ref v2), some (.ref v3), some (.int v4), none, none] [] h)
  refine e_aload rfl rfl rfl ?_
  refine e_ivI rfl rfl rfl (Nat.le_of_ble_eq_true rfl) (fun _ _ => e_x0) fun x2 h1 => ?_
  refine e_aload rfl rfl rfl ?_
  refine e_ivI rfl rfl rfl (Nat.le_of_ble_eq_true rfl) (fun _ _ => e_x0) fun x4 h3 => ?_
  refine e_if2 rfl rfl ?_ ?_
  · refine e_iinc (M := fun x5 => [some (v0), some (.ref v1), some (.ref v2), some (.ref v3), some (.int x5), none, none]) rfl rfl (fun _ => dx_sto (Nat.le_of_ble_eq_true rfl) (Or.inr ⟨_, rfl, rfl⟩) rfl) fun x5 => ?_
    refine e_goto rfl ?_
    exact e_wk mP_L_law (ll_1 (ll_1 (ll_1 (ll_1 (ll_1 (ll_0 (ll_0 ll_n)))))))
  · refine e_push rfl ?_
    exact e_zret0 rfl
theorem b_L_law_919 {K : ax_K} {v0 : Value} {v1 : Nat} {v2 : Nat} {v3 : Nat} {v4 : Int32} {h : ax_H} (hv0 : ax_rv v0 = true) : dx_le (dx_cI (K 187 [.ref v1, .ref v3] h) (fun x2 h1 => (dx_vn [(38, 402)] (.ref v2) h1).bind fun k => dx_cI (K k [.ref v2] h1) (fun x4 h3 => (dx_vn [(38, 372)] (.ref v2) h3).bind fun k => dx_cI (K k [.ref v2] h3) (fun x6 h5 => if x6 = x2 then if ¬ x2 = 0 then dx_lt (v4 + 6) fun x7 => B_L_law_23 K v0 v1 v2 v3 x7 h5 else (dx_lJ 1 (.ref v3) 0 h5).bind fun j8 => if (lg_cmp j8 (Int32.toInt64 x4)) = 0 then dx_lt (v4 + 6) fun x9 => B_L_law_23 K v0 v1 v2 v3 x9 h5 else some (.inl (some (.int 0)), h5) else some (.inl (some (.int 0)), h5)) dx_x0) dx_x0) dx_x0) (B_L_law_919 K v0 v1 v2 v3 v4 h) := by
  show dx_le _ (ax_run K P_L_law 919 [some (v0), some (.ref v1), some (.ref v2), some (.ref v3), some (.int v4), none, none] [] h)
  refine e_aload rfl rfl rfl ?_
  refine e_aload rfl rfl rfl ?_
  refine e_isI rfl (Nat.le_of_ble_eq_true rfl) rfl rfl (Nat.le_of_ble_eq_true rfl) (fun _ _ => e_x0) fun x2 h1 => ?_
  refine e_istore (L' := [some (v0), some (.ref v1), some (.ref v2), some (.ref v3), some (.int v4), some (.int x2), none]) rfl (dx_sto (Nat.le_of_ble_eq_true rfl) (Or.inr ⟨_, rfl, rfl⟩) rfl) ?_
  refine e_aload rfl rfl rfl ?_
  refine e_ivI rfl rfl rfl (Nat.le_of_ble_eq_true rfl) (fun _ _ => e_x0) fun x4 h3 => ?_
  refine e_istore (L' := [some (v0), some (.ref v1), some (.ref v2), some (.ref v3), some (.int v4), some (.int x2), some (.int x4)]) rfl (dx_sto (Nat.le_of_ble_eq_true rfl) (Or.inr ⟨_, rfl, rfl⟩) rfl) ?_
  refine e_aload rfl rfl rfl ?_
  refine e_ivI rfl rfl rfl (Nat.le_of_ble_eq_true rfl) (fun _ _ => e_x0) fun x6 h5 => ?_
  refine e_iload rfl rfl ?_
  refine e_if2 rfl rfl ?_ ?_
  · refine e_iload rfl rfl ?_
    refine e_if1 rfl rfl ?_ ?_
    · refine e_goto rfl ?_
      refine e_iinc (M := fun x7 => [some (v0), some (.ref v1), some (.ref v2), some (.ref v3), some (.int x7), some (.int x2), some (.int x4)]) rfl rfl (fun _ => dx_sto (Nat.le_of_ble_eq_true rfl) (Or.inr ⟨_, rfl, rfl⟩) rfl) fun x7 => ?_
      refine e_goto rfl ?_
      exact e_wk mP_L_law (ll_1 (ll_1 (ll_1 (ll_1 (ll_1 (ll_0 (ll_0 ll_n)))))))
    · refine e_aload rfl rfl rfl ?_
      refine e_push rfl ?_
      refine e_lald rfl fun j8 => ?_
      refine e_iload rfl rfl ?_
      refine e_i2l rfl ?_
      refine e_lcmp rfl ?_
      refine e_if1 rfl rfl ?_ ?_
      · refine e_goto rfl ?_
        refine e_iinc (M := fun x9 => [some (v0), some (.ref v1), some (.ref v2), some (.ref v3), some (.int x9), some (.int x2), some (.int x4)]) rfl rfl (fun _ => dx_sto (Nat.le_of_ble_eq_true rfl) (Or.inr ⟨_, rfl, rfl⟩) rfl) fun x9 => ?_
        refine e_goto rfl ?_
        exact e_wk mP_L_law (ll_1 (ll_1 (ll_1 (ll_1 (ll_1 (ll_0 (ll_0 ll_n)))))))
      · refine e_push rfl ?_
        exact e_zret0 rfl
  · refine e_push rfl ?_
    exact e_zret0 rfl
theorem b_L_law_963 {K : ax_K} {v0 : Value} {v1 : Nat} {v2 : Nat} {v3 : Nat} {v4 : Int32} {h : ax_H} (hv0 : ax_rv v0 = true) : dx_le ((dx_lI 0 v0 (v4 + 1) h).bind fun x1 => dx_cI (K 188 [.ref v1, .int x1, .ref v3] h) (fun x3 h2 => (dx_lI 0 v0 (v4 + 1) h2).bind fun x4 => (dx_vn [(38, 403)] (.ref v2) h2).bind fun k => dx_cI (K k [.ref v2, .int x4] h2) (fun x6 h5 => (dx_vn [(38, 372)] (.ref v2) h5).bind fun k => dx_cI (K k [.ref v2] h5) (fun x8 h7 => if x8 = x3 then if ¬ x3 = 0 then dx_lt (v4 + 6) fun x9 => B_L_law_23 K v0 v1 v2 v3 x9 h7 else (dx_lJ 1 (.ref v3) 0 h7).bind fun j10 => if (lg_cmp j10 (Int32.toInt64 x6)) = 0 then dx_lt (v4 + 6) fun x11 => B_L_law_23 K v0 v1 v2 v3 x11 h7 else some (.inl (some (.int 0)), h7) else some (.inl (some (.int 0)), h7)) dx_x0) dx_x0) dx_x0) (B_L_law_963 K v0 v1 v2 v3 v4 h) := by
  show dx_le _ (ax_run K P_L_law 963 [some (v0), some (.ref v1), some (.ref v2), some (.ref v3), some (.int v4), none, none] [] h)
  refine e_aload rfl rfl rfl ?_
  refine e_aload rfl rfl hv0 ?_
  refine e_iload rfl rfl ?_
  refine e_push rfl ?_
  refine e_i2 rfl ?_
  refine e_iald rfl fun x1 => ?_
  refine e_aload rfl rfl rfl ?_
  refine e_isI rfl (Nat.le_of_ble_eq_true rfl) rfl rfl (Nat.le_of_ble_eq_true rfl) (fun _ _ => e_x0) fun x3 h2 => ?_
  refine e_istore (L' := [some (v0), some (.ref v1), some (.ref v2), some (.ref v3), some (.int v4), some (.int x3), none]) rfl (dx_sto (Nat.le_of_ble_eq_true rfl) (Or.inr ⟨_, rfl, rfl⟩) rfl) ?_
  refine e_aload rfl rfl rfl ?_
  refine e_aload rfl rfl hv0 ?_
  refine e_iload rfl rfl ?_
  refine e_push rfl ?_
  refine e_i2 rfl ?_
  refine e_iald rfl fun x4 => ?_
  refine e_ivI rfl rfl rfl (Nat.le_of_ble_eq_true rfl) (fun _ _ => e_x0) fun x6 h5 => ?_
  refine e_istore (L' := [some (v0), some (.ref v1), some (.ref v2), some (.ref v3), some (.int v4), some (.int x3), some (.int x6)]) rfl (dx_sto (Nat.le_of_ble_eq_true rfl) (Or.inr ⟨_, rfl, rfl⟩) rfl) ?_
  refine e_aload rfl rfl rfl ?_
  refine e_ivI rfl rfl rfl (Nat.le_of_ble_eq_true rfl) (fun _ _ => e_x0) fun x8 h7 => ?_
  refine e_iload rfl rfl ?_
  refine e_if2 rfl rfl ?_ ?_
  · refine e_iload rfl rfl ?_
    refine e_if1 rfl rfl ?_ ?_
    · refine e_goto rfl ?_
      refine e_iinc (M := fun x9 => [some (v0), some (.ref v1), some (.ref v2), some (.ref v3), some (.int x9), some (.int x3), some (.int x6)]) rfl rfl (fun _ => dx_sto (Nat.le_of_ble_eq_true rfl) (Or.inr ⟨_, rfl, rfl⟩) rfl) fun x9 => ?_
      refine e_goto rfl ?_
      exact e_wk mP_L_law (ll_1 (ll_1 (ll_1 (ll_1 (ll_1 (ll_0 (ll_0 ll_n)))))))
    · refine e_aload rfl rfl rfl ?_
      refine e_push rfl ?_
      refine e_lald rfl fun j10 => ?_
      refine e_iload rfl rfl ?_
      refine e_i2l rfl ?_
      refine e_lcmp rfl ?_
      refine e_if1 rfl rfl ?_ ?_
      · refine e_goto rfl ?_
        refine e_iinc (M := fun x11 => [some (v0), some (.ref v1), some (.ref v2), some (.ref v3), some (.int x11), some (.int x3), some (.int x6)]) rfl rfl (fun _ => dx_sto (Nat.le_of_ble_eq_true rfl) (Or.inr ⟨_, rfl, rfl⟩) rfl) fun x11 => ?_
        refine e_goto rfl ?_
        exact e_wk mP_L_law (ll_1 (ll_1 (ll_1 (ll_1 (ll_1 (ll_0 (ll_0 ll_n)))))))
      · refine e_push rfl ?_
        exact e_zret0 rfl
  · refine e_push rfl ?_
    exact e_zret0 rfl
theorem b_L_law_1019 {K : ax_K} {v0 : Value} {v1 : Nat} {v2 : Nat} {v3 : Nat} {v4 : Int32} {h : ax_H} (hv0 : ax_rv v0 = true) : dx_le (dx_cI (K 189 [.ref v1, .ref v3] h) (fun x2 h1 => (dx_vn [(38, 404)] (.ref v2) h1).bind fun k => dx_cI (K k [.ref v2] h1) (fun x4 h3 => (dx_vn [(38, 372)] (.ref v2) h3).bind fun k => dx_cI (K k [.ref v2] h3) (fun x6 h5 => if x6 = x2 then if ¬ x2 = 0 then dx_lt (v4 + 6) fun x7 => B_L_law_23 K v0 v1 v2 v3 x7 h5 else (dx_lJ 1 (.ref v3) 0 h5).bind fun j8 => if (lg_cmp j8 (Int32.toInt64 x4)) = 0 then dx_lt (v4 + 6) fun x9 => B_L_law_23 K v0 v1 v2 v3 x9 h5 else some (.inl (some (.int 0)), h5) else some (.inl (some (.int 0)), h5)) dx_x0) dx_x0) dx_x0) (B_L_law_1019 K v0 v1 v2 v3 v4 h) := by
  show dx_le _ (ax_run K P_L_law 1019 [some (v0), some (.ref v1), some (.ref v2), some (.ref v3), some (.int v4), none, none] [] h)
  refine e_aload rfl rfl rfl ?_
  refine e_aload rfl rfl rfl ?_
  refine e_isI rfl (Nat.le_of_ble_eq_true rfl) rfl rfl (Nat.le_of_ble_eq_true rfl) (fun _ _ => e_x0) fun x2 h1 => ?_
  refine e_istore (L' := [some (v0), some (.ref v1), some (.ref v2), some (.ref v3), some (.int v4), some (.int x2), none]) rfl (dx_sto (Nat.le_of_ble_eq_true rfl) (Or.inr ⟨_, rfl, rfl⟩) rfl) ?_
  refine e_aload rfl rfl rfl ?_
  refine e_ivI rfl rfl rfl (Nat.le_of_ble_eq_true rfl) (fun _ _ => e_x0) fun x4 h3 => ?_
  refine e_istore (L' := [some (v0), some (.ref v1), some (.ref v2), some (.ref v3), some (.int v4), some (.int x2), some (.int x4)]) rfl (dx_sto (Nat.le_of_ble_eq_true rfl) (Or.inr ⟨_, rfl, rfl⟩) rfl) ?_
  refine e_aload rfl rfl rfl ?_
  refine e_ivI rfl rfl rfl (Nat.le_of_ble_eq_true rfl) (fun _ _ => e_x0) fun x6 h5 => ?_
  refine e_iload rfl rfl ?_
  refine e_if2 rfl rfl ?_ ?_
  · refine e_iload rfl rfl ?_
    refine e_if1 rfl rfl ?_ ?_
    · refine e_goto rfl ?_
      refine e_iinc (M := fun x7 => [some (v0), some (.ref v1), some (.ref v2), some (.ref v3), some (.int x7), some (.int x2), some (.int x4)]) rfl rfl (fun _ => dx_sto (Nat.le_of_ble_eq_true rfl) (Or.inr ⟨_, rfl, rfl⟩) rfl) fun x7 => ?_
      refine e_goto rfl ?_
      exact e_wk mP_L_law (ll_1 (ll_1 (ll_1 (ll_1 (ll_1 (ll_0 (ll_0 ll_n)))))))
    · refine e_aload rfl rfl rfl ?_
      refine e_push rfl ?_
      refine e_lald rfl fun j8 => ?_
      refine e_iload rfl rfl ?_
      refine e_i2l rfl ?_
      refine e_lcmp rfl ?_
      refine e_if1 rfl rfl ?_ ?_
      · refine e_goto rfl ?_
        refine e_iinc (M := fun x9 => [some (v0), some (.ref v1), some (.ref v2), some (.ref v3), some (.int x9), some (.int x2), some (.int x4)]) rfl rfl (fun _ => dx_sto (Nat.le_of_ble_eq_true rfl) (Or.inr ⟨_, rfl, rfl⟩) rfl) fun x9 => ?_
        refine e_goto rfl ?_
        exact e_wk mP_L_law (ll_1 (ll_1 (ll_1 (ll_1 (ll_1 (ll_0 (ll_0 ll_n)))))))
      · refine e_push rfl ?_
        exact e_zret0 rfl
  · refine e_push rfl ?_
    exact e_zret0 rfl
theorem b_L_law_1063 {K : ax_K} {v0 : Value} {v1 : Nat} {v2 : Nat} {v3 : Nat} {v4 : Int32} {h : ax_H} (hv0 : ax_rv v0 = true) : dx_le (dx_cI (K 190 [.ref v1, .ref v3] h) (fun x2 h1 => (dx_vn [(38, 412)] (.ref v2) h1).bind fun k => dx_cI (K k [.ref v2] h1) (fun x4 h3 => (dx_vn [(38, 372)] (.ref v2) h3).bind fun k => dx_cI (K k [.ref v2] h3) (fun x6 h5 => if x6 = x2 then if ¬ x2 = 0 then dx_lt (v4 + 6) fun x7 => B_L_law_23 K v0 v1 v2 v3 x7 h5 else (dx_lJ 1 (.ref v3) 0 h5).bind fun j8 => if (lg_cmp j8 (Int32.toInt64 x4)) = 0 then dx_lt (v4 + 6) fun x9 => B_L_law_23 K v0 v1 v2 v3 x9 h5 else some (.inl (some (.int 0)), h5) else some (.inl (some (.int 0)), h5)) dx_x0) dx_x0) dx_x0) (B_L_law_1063 K v0 v1 v2 v3 v4 h) := by
  show dx_le _ (ax_run K P_L_law 1063 [some (v0), some (.ref v1), some (.ref v2), some (.ref v3), some (.int v4), none, none] [] h)
  refine e_aload rfl rfl rfl ?_
  refine e_aload rfl rfl rfl ?_
  refine e_isI rfl (Nat.le_of_ble_eq_true rfl) rfl rfl (Nat.le_of_ble_eq_true rfl) (fun _ _ => e_x0) fun x2 h1 => ?_
  refine e_istore (L' := [some (v0), some (.ref v1), some (.ref v2), some (.ref v3), some (.int v4), some (.int x2), none]) rfl (dx_sto (Nat.le_of_ble_eq_true rfl) (Or.inr ⟨_, rfl, rfl⟩) rfl) ?_
  refine e_aload rfl rfl rfl ?_
  refine e_ivI rfl rfl rfl (Nat.le_of_ble_eq_true rfl) (fun _ _ => e_x0) fun x4 h3 => ?_
  refine e_istore (L' := [some (v0), some (.ref v1), some (.ref v2), some (.ref v3), some (.int v4), some (.int x2), some (.int x4)]) rfl (dx_sto (Nat.le_of_ble_eq_true rfl) (Or.inr ⟨_, rfl, rfl⟩) rfl) ?_
  refine e_aload rfl rfl rfl ?_
  refine e_ivI rfl rfl rfl (Nat.le_of_ble_eq_true rfl) (fun _ _ => e_x0) fun x6 h5 => ?_
  refine e_iload rfl rfl ?_
  refine e_if2 rfl rfl ?_ ?_
  · refine e_iload rfl rfl ?_
    refine e_if1 rfl rfl ?_ ?_
    · refine e_goto rfl ?_
      refine e_iinc (M := fun x7 => [some (v0), some (.ref v1), some (.ref v2), some (.ref v3), some (.int x7), some (.int x2), some (.int x4)]) rfl rfl (fun _ => dx_sto (Nat.le_of_ble_eq_true rfl) (Or.inr ⟨_, rfl, rfl⟩) rfl) fun x7 => ?_
      refine e_goto rfl ?_
      exact e_wk mP_L_law (ll_1 (ll_1 (ll_1 (ll_1 (ll_1 (ll_0 (ll_0 ll_n)))))))
    · refine e_aload rfl rfl rfl ?_
      refine e_push rfl ?_
      refine e_lald rfl fun j8 => ?_
      refine e_iload rfl rfl ?_
      refine e_i2l rfl ?_
      refine e_lcmp rfl ?_
      refine e_if1 rfl rfl ?_ ?_
      · refine e_goto rfl ?_
        refine e_iinc (M := fun x9 => [some (v0), some (.ref v1), some (.ref v2), some (.ref v3), some (.int x9), some (.int x2), some (.int x4)]) rfl rfl (fun _ => dx_sto (Nat.le_of_ble_eq_true rfl) (Or.inr ⟨_, rfl, rfl⟩) rfl) fun x9 => ?_
        refine e_goto rfl ?_
        exact e_wk mP_L_law (ll_1 (ll_1 (ll_1 (ll_1 (ll_1 (ll_0 (ll_0 ll_n)))))))
      · refine e_push rfl ?_
        exact e_zret0 rfl
  · refine e_push rfl ?_
    exact e_zret0 rfl
theorem b_L_law_1107 {K : ax_K} {v0 : Value} {v1 : Nat} {v2 : Nat} {v3 : Nat} {v4 : Int32} {h : ax_H} (hv0 : ax_rv v0 = true) : dx_le (dx_cI (K 191 [.ref v1, .ref v3] h) (fun x2 h1 => (dx_vn [(38, 413)] (.ref v2) h1).bind fun k => dx_cI (K k [.ref v2] h1) (fun x4 h3 => (dx_vn [(38, 372)] (.ref v2) h3).bind fun k => dx_cI (K k [.ref v2] h3) (fun x6 h5 => if x6 = x2 then if ¬ x2 = 0 then dx_lt (v4 + 6) fun x7 => B_L_law_23 K v0 v1 v2 v3 x7 h5 else (dx_lJ 1 (.ref v3) 0 h5).bind fun j8 => if (lg_cmp j8 (Int32.toInt64 x4)) = 0 then dx_lt (v4 + 6) fun x9 => B_L_law_23 K v0 v1 v2 v3 x9 h5 else some (.inl (some (.int 0)), h5) else some (.inl (some (.int 0)), h5)) dx_x0) dx_x0) dx_x0) (B_L_law_1107 K v0 v1 v2 v3 v4 h) := by
  show dx_le _ (ax_run K P_L_law 1107 [some (v0), some (.ref v1), some (.ref v2), some (.ref v3), some (.int v4), none, none] [] h)
  refine e_aload rfl rfl rfl ?_
  refine e_aload rfl rfl rfl ?_
  refine e_isI rfl (Nat.le_of_ble_eq_true rfl) rfl rfl (Nat.le_of_ble_eq_true rfl) (fun _ _ => e_x0) fun x2 h1 => ?_
  refine e_istore (L' := [some (v0), some (.ref v1), some (.ref v2), some (.ref v3), some (.int v4), some (.int x2), none]) rfl (dx_sto (Nat.le_of_ble_eq_true rfl) (Or.inr ⟨_, rfl, rfl⟩) rfl) ?_
  refine e_aload rfl rfl rfl ?_
  refine e_ivI rfl rfl rfl (Nat.le_of_ble_eq_true rfl) (fun _ _ => e_x0) fun x4 h3 => ?_
  refine e_istore (L' := [some (v0), some (.ref v1), some (.ref v2), some (.ref v3), some (.int v4), some (.int x2), some (.int x4)]) rfl (dx_sto (Nat.le_of_ble_eq_true rfl) (Or.inr ⟨_, rfl, rfl⟩) rfl) ?_
  refine e_aload rfl rfl rfl ?_
  refine e_ivI rfl rfl rfl (Nat.le_of_ble_eq_true rfl) (fun _ _ => e_x0) fun x6 h5 => ?_
  refine e_iload rfl rfl ?_
  refine e_if2 rfl rfl ?_ ?_
  · refine e_iload rfl rfl ?_
    refine e_if1 rfl rfl ?_ ?_
    · refine e_goto rfl ?_
      refine e_iinc (M := fun x7 => [some (v0), some (.ref v1), some (.ref v2), some (.ref v3), some (.int x7), some (.int x2), some (.int x4)]) rfl rfl (fun _ => dx_sto (Nat.le_of_ble_eq_true rfl) (Or.inr ⟨_, rfl, rfl⟩) rfl) fun x7 => ?_
      refine e_goto rfl ?_
      exact e_wk mP_L_law (ll_1 (ll_1 (ll_1 (ll_1 (ll_1 (ll_0 (ll_0 ll_n)))))))
    · refine e_aload rfl rfl rfl ?_
      refine e_push rfl ?_
      refine e_lald rfl fun j8 => ?_
      refine e_iload rfl rfl ?_
      refine e_i2l rfl ?_
      refine e_lcmp rfl ?_
      refine e_if1 rfl rfl ?_ ?_
      · refine e_goto rfl ?_
        refine e_iinc (M := fun x9 => [some (v0), some (.ref v1), some (.ref v2), some (.ref v3), some (.int x9), some (.int x2), some (.int x4)]) rfl rfl (fun _ => dx_sto (Nat.le_of_ble_eq_true rfl) (Or.inr ⟨_, rfl, rfl⟩) rfl) fun x9 => ?_
        refine e_goto rfl ?_
        exact e_wk mP_L_law (ll_1 (ll_1 (ll_1 (ll_1 (ll_1 (ll_0 (ll_0 ll_n)))))))
      · refine e_push rfl ?_
        exact e_zret0 rfl
  · refine e_push rfl ?_
    exact e_zret0 rfl
theorem b_L_law_1151 {K : ax_K} {v0 : Value} {v1 : Nat} {v2 : Nat} {v3 : Nat} {v4 : Int32} {h : ax_H} (hv0 : ax_rv v0 = true) : dx_le ((dx_lI 0 v0 (v4 + 1) h).bind fun x1 => dx_cI (K 192 [.ref v1, .int x1, .ref v3] h) (fun x3 h2 => (dx_lI 0 v0 (v4 + 1) h2).bind fun x4 => (dx_vn [(38, 416)] (.ref v2) h2).bind fun k => dx_cI (K k [.ref v2, .int x4] h2) (fun x6 h5 => (dx_vn [(38, 372)] (.ref v2) h5).bind fun k => dx_cI (K k [.ref v2] h5) (fun x8 h7 => if x8 = x3 then if ¬ x3 = 0 then dx_lt (v4 + 6) fun x9 => B_L_law_23 K v0 v1 v2 v3 x9 h7 else (dx_lJ 1 (.ref v3) 0 h7).bind fun j10 => if (lg_cmp j10 (Int32.toInt64 x6)) = 0 then dx_lt (v4 + 6) fun x11 => B_L_law_23 K v0 v1 v2 v3 x11 h7 else some (.inl (some (.int 0)), h7) else some (.inl (some (.int 0)), h7)) dx_x0) dx_x0) dx_x0) (B_L_law_1151 K v0 v1 v2 v3 v4 h) := by
  show dx_le _ (ax_run K P_L_law 1151 [some (v0), some (.ref v1), some (.ref v2), some (.ref v3), some (.int v4), none, none] [] h)
  refine e_aload rfl rfl rfl ?_
  refine e_aload rfl rfl hv0 ?_
  refine e_iload rfl rfl ?_
  refine e_push rfl ?_
  refine e_i2 rfl ?_
  refine e_iald rfl fun x1 => ?_
  refine e_aload rfl rfl rfl ?_
  refine e_isI rfl (Nat.le_of_ble_eq_true rfl) rfl rfl (Nat.le_of_ble_eq_true rfl) (fun _ _ => e_x0) fun x3 h2 => ?_
  refine e_istore (L' := [some (v0), some (.ref v1), some (.ref v2), some (.ref v3), some (.int v4), some (.int x3), none]) rfl (dx_sto (Nat.le_of_ble_eq_true rfl) (Or.inr ⟨_, rfl, rfl⟩) rfl) ?_
  refine e_aload rfl rfl rfl ?_
  refine e_aload rfl rfl hv0 ?_
  refine e_iload rfl rfl ?_
  refine e_push rfl ?_
  refine e_i2 rfl ?_
  refine e_iald rfl fun x4 => ?_
  refine e_ivI rfl rfl rfl (Nat.le_of_ble_eq_true rfl) (fun _ _ => e_x0) fun x6 h5 => ?_
  refine e_istore (L' := [some (v0), some (.ref v1), some (.ref v2), some (.ref v3), some (.int v4), some (.int x3), some (.int x6)]) rfl (dx_sto (Nat.le_of_ble_eq_true rfl) (Or.inr ⟨_, rfl, rfl⟩) rfl) ?_
  refine e_aload rfl rfl rfl ?_
  refine e_ivI rfl rfl rfl (Nat.le_of_ble_eq_true rfl) (fun _ _ => e_x0) fun x8 h7 => ?_
  refine e_iload rfl rfl ?_
  refine e_if2 rfl rfl ?_ ?_
  · refine e_iload rfl rfl ?_
    refine e_if1 rfl rfl ?_ ?_
    · refine e_goto rfl ?_
      refine e_iinc (M := fun x9 => [some (v0), some (.ref v1), some (.ref v2), some (.ref v3), some (.int x9), some (.int x3), some (.int x6)]) rfl rfl (fun _ => dx_sto (Nat.le_of_ble_eq_true rfl) (Or.inr ⟨_, rfl, rfl⟩) rfl) fun x9 => ?_
      refine e_goto rfl ?_
      exact e_wk mP_L_law (ll_1 (ll_1 (ll_1 (ll_1 (ll_1 (ll_0 (ll_0 ll_n)))))))
    · refine e_aload rfl rfl rfl ?_
      refine e_push rfl ?_
      refine e_lald rfl fun j10 => ?_
      refine e_iload rfl rfl ?_
      refine e_i2l rfl ?_
      refine e_lcmp rfl ?_
      refine e_if1 rfl rfl ?_ ?_
      · refine e_goto rfl ?_
        refine e_iinc (M := fun x11 => [some (v0), some (.ref v1), some (.ref v2), some (.ref v3), some (.int x11), some (.int x3), some (.int x6)]) rfl rfl (fun _ => dx_sto (Nat.le_of_ble_eq_true rfl) (Or.inr ⟨_, rfl, rfl⟩) rfl) fun x11 => ?_
        refine e_goto rfl ?_
        exact e_wk mP_L_law (ll_1 (ll_1 (ll_1 (ll_1 (ll_1 (ll_0 (ll_0 ll_n)))))))
      · refine e_push rfl ?_
        exact e_zret0 rfl
  · refine e_push rfl ?_
    exact e_zret0 rfl
theorem b_L_law_1207 {K : ax_K} {v0 : Value} {v1 : Nat} {v2 : Nat} {v3 : Nat} {v4 : Int32} {h : ax_H} (hv0 : ax_rv v0 = true) : dx_le ((dx_lI 0 v0 (v4 + 1) h).bind fun x1 => (dx_lI 0 v0 (v4 + 2) h).bind fun x2 => dx_cI (K 193 [.ref v1, .int x1, .int x2, .ref v3] h) (fun x4 h3 => (dx_lI 0 v0 (v4 + 1) h3).bind fun x5 => (dx_lI 0 v0 (v4 + 2) h3).bind fun x6 => (dx_vn [(38, 450)] (.ref v2) h3).bind fun k => dx_cI (K k [.ref v2, .int x5, .int x6] h3) (fun x8 h7 => (dx_vn [(38, 372)] (.ref v2) h7).bind fun k => dx_cI (K k [.ref v2] h7) (fun x10 h9 => if x10 = x4 then if ¬ x4 = 0 then dx_lt (v4 + 6) fun x11 => B_L_law_23 K v0 v1 v2 v3 x11 h9 else (dx_lJ 1 (.ref v3) 0 h9).bind fun j12 => if (lg_cmp j12 (Int32.toInt64 x8)) = 0 then dx_lt (v4 + 6) fun x13 => B_L_law_23 K v0 v1 v2 v3 x13 h9 else some (.inl (some (.int 0)), h9) else some (.inl (some (.int 0)), h9)) dx_x0) dx_x0) dx_x0) (B_L_law_1207 K v0 v1 v2 v3 v4 h) := by
  show dx_le _ (ax_run K P_L_law 1207 [some (v0), some (.ref v1), some (.ref v2), some (.ref v3), some (.int v4), none, none] [] h)
  refine e_aload rfl rfl rfl ?_
  refine e_aload rfl rfl hv0 ?_
  refine e_iload rfl rfl ?_
  refine e_push rfl ?_
  refine e_i2 rfl ?_
  refine e_iald rfl fun x1 => ?_
  refine e_aload rfl rfl hv0 ?_
  refine e_iload rfl rfl ?_
  refine e_push rfl ?_
  refine e_i2 rfl ?_
  refine e_iald rfl fun x2 => ?_
  refine e_aload rfl rfl rfl ?_
  refine e_isI rfl (Nat.le_of_ble_eq_true rfl) rfl rfl (Nat.le_of_ble_eq_true rfl) (fun _ _ => e_x0) fun x4 h3 => ?_
  refine e_istore (L' := [some (v0), some (.ref v1), some (.ref v2), some (.ref v3), some (.int v4), some (.int x4), none]) rfl (dx_sto (Nat.le_of_ble_eq_true rfl) (Or.inr ⟨_, rfl, rfl⟩) rfl) ?_
  refine e_aload rfl rfl rfl ?_
  refine e_aload rfl rfl hv0 ?_
  refine e_iload rfl rfl ?_
  refine e_push rfl ?_
  refine e_i2 rfl ?_
  refine e_iald rfl fun x5 => ?_
  refine e_aload rfl rfl hv0 ?_
  refine e_iload rfl rfl ?_
  refine e_push rfl ?_
  refine e_i2 rfl ?_
  refine e_iald rfl fun x6 => ?_
  refine e_ivI rfl rfl rfl (Nat.le_of_ble_eq_true rfl) (fun _ _ => e_x0) fun x8 h7 => ?_
  refine e_istore (L' := [some (v0), some (.ref v1), some (.ref v2), some (.ref v3), some (.int v4), some (.int x4), some (.int x8)]) rfl (dx_sto (Nat.le_of_ble_eq_true rfl) (Or.inr ⟨_, rfl, rfl⟩) rfl) ?_
  refine e_aload rfl rfl rfl ?_
  refine e_ivI rfl rfl rfl (Nat.le_of_ble_eq_true rfl) (fun _ _ => e_x0) fun x10 h9 => ?_
  refine e_iload rfl rfl ?_
  refine e_if2 rfl rfl ?_ ?_
  · refine e_iload rfl rfl ?_
    refine e_if1 rfl rfl ?_ ?_
    · refine e_goto rfl ?_
      refine e_iinc (M := fun x11 => [some (v0), some (.ref v1), some (.ref v2), some (.ref v3), some (.int x11), some (.int x4), some (.int x8)]) rfl rfl (fun _ => dx_sto (Nat.le_of_ble_eq_true rfl) (Or.inr ⟨_, rfl, rfl⟩) rfl) fun x11 => ?_
      refine e_goto rfl ?_
      exact e_wk mP_L_law (ll_1 (ll_1 (ll_1 (ll_1 (ll_1 (ll_0 (ll_0 ll_n)))))))
    · refine e_aload rfl rfl rfl ?_
      refine e_push rfl ?_
      refine e_lald rfl fun j12 => ?_
      refine e_iload rfl rfl ?_
      refine e_i2l rfl ?_
      refine e_lcmp rfl ?_
      refine e_if1 rfl rfl ?_ ?_
      · refine e_goto rfl ?_
        refine e_iinc (M := fun x13 => [some (v0), some (.ref v1), some (.ref v2), some (.ref v3), some (.int x13), some (.int x4), some (.int x8)]) rfl rfl (fun _ => dx_sto (Nat.le_of_ble_eq_true rfl) (Or.inr ⟨_, rfl, rfl⟩) rfl) fun x13 => ?_
        refine e_goto rfl ?_
        exact e_wk mP_L_law (ll_1 (ll_1 (ll_1 (ll_1 (ll_1 (ll_0 (ll_0 ll_n)))))))
      · refine e_push rfl ?_
        exact e_zret0 rfl
  · refine e_push rfl ?_
    exact e_zret0 rfl
theorem b_L_law_1275 {K : ax_K} {v0 : Value} {v1 : Nat} {v2 : Nat} {v3 : Nat} {v4 : Int32} {h : ax_H} (hv0 : ax_rv v0 = true) : dx_le ((dx_lI 0 v0 (v4 + 1) h).bind fun x1 => dx_cI (K 194 [.ref v1, .int x1, .ref v3] h) (fun x3 h2 => (dx_lI 0 v0 (v4 + 1) h2).bind fun x4 => (dx_vn [(38, 451)] (.ref v2) h2).bind fun k => dx_cI (K k [.ref v2, .int x4] h2) (fun x6 h5 => (dx_vn [(38, 372)] (.ref v2) h5).bind fun k => dx_cI (K k [.ref v2] h5) (fun x8 h7 => if x8 = x3 then if ¬ x3 = 0 then dx_lt (v4 + 6) fun x9 => B_L_law_23 K v0 v1 v2 v3 x9 h7 else (dx_lJ 1 (.ref v3) 0 h7).bind fun j10 => if (lg_cmp j10 (Int32.toInt64 x6)) = 0 then dx_lt (v4 + 6) fun x11 => B_L_law_23 K v0 v1 v2 v3 x11 h7 else some (.inl (some (.int 0)), h7) else some (.inl (some (.int 0)), h7)) dx_x0) dx_x0) dx_x0) (B_L_law_1275 K v0 v1 v2 v3 v4 h) := by
  show dx_le _ (ax_run K P_L_law 1275 [some (v0), some (.ref v1), some (.ref v2), some (.ref v3), some (.int v4), none, none] [] h)
  refine e_aload rfl rfl rfl ?_
  refine e_aload rfl rfl hv0 ?_
  refine e_iload rfl rfl ?_
  refine e_push rfl ?_
  refine e_i2 rfl ?_
  refine e_iald rfl fun x1 => ?_
  refine e_aload rfl rfl rfl ?_
  refine e_isI rfl (Nat.le_of_ble_eq_true rfl) rfl rfl (Nat.le_of_ble_eq_true rfl) (fun _ _ => e_x0) fun x3 h2 => ?_
  refine e_istore (L' := [some (v0), some (.ref v1), some (.ref v2), some (.ref v3), some (.int v4), some (.int x3), none]) rfl (dx_sto (Nat.le_of_ble_eq_true rfl) (Or.inr ⟨_, rfl, rfl⟩) rfl) ?_
  refine e_aload rfl rfl rfl ?_
  refine e_aload rfl rfl hv0 ?_
  refine e_iload rfl rfl ?_
  refine e_push rfl ?_
  refine e_i2 rfl ?_
  refine e_iald rfl fun x4 => ?_
  refine e_ivI rfl rfl rfl (Nat.le_of_ble_eq_true rfl) (fun _ _ => e_x0) fun x6 h5 => ?_
  refine e_istore (L' := [some (v0), some (.ref v1), some (.ref v2), some (.ref v3), some (.int v4), some (.int x3), some (.int x6)]) rfl (dx_sto (Nat.le_of_ble_eq_true rfl) (Or.inr ⟨_, rfl, rfl⟩) rfl) ?_
  refine e_aload rfl rfl rfl ?_
  refine e_ivI rfl rfl rfl (Nat.le_of_ble_eq_true rfl) (fun _ _ => e_x0) fun x8 h7 => ?_
  refine e_iload rfl rfl ?_
  refine e_if2 rfl rfl ?_ ?_
  · refine e_iload rfl rfl ?_
    refine e_if1 rfl rfl ?_ ?_
    · refine e_goto rfl ?_
      refine e_iinc (M := fun x9 => [some (v0), some (.ref v1), some (.ref v2), some (.ref v3), some (.int x9), some (.int x3), some (.int x6)]) rfl rfl (fun _ => dx_sto (Nat.le_of_ble_eq_true rfl) (Or.inr ⟨_, rfl, rfl⟩) rfl) fun x9 => ?_
      refine e_goto rfl ?_
      exact e_wk mP_L_law (ll_1 (ll_1 (ll_1 (ll_1 (ll_1 (ll_0 (ll_0 ll_n)))))))
    · refine e_aload rfl rfl rfl ?_
      refine e_push rfl ?_
      refine e_lald rfl fun j10 => ?_
      refine e_iload rfl rfl ?_
      refine e_i2l rfl ?_
      refine e_lcmp rfl ?_
      refine e_if1 rfl rfl ?_ ?_
      · refine e_goto rfl ?_
        refine e_iinc (M := fun x11 => [some (v0), some (.ref v1), some (.ref v2), some (.ref v3), some (.int x11), some (.int x3), some (.int x6)]) rfl rfl (fun _ => dx_sto (Nat.le_of_ble_eq_true rfl) (Or.inr ⟨_, rfl, rfl⟩) rfl) fun x11 => ?_
        refine e_goto rfl ?_
        exact e_wk mP_L_law (ll_1 (ll_1 (ll_1 (ll_1 (ll_1 (ll_0 (ll_0 ll_n)))))))
      · refine e_push rfl ?_
        exact e_zret0 rfl
  · refine e_push rfl ?_
    exact e_zret0 rfl
theorem b_L_law_1331 {K : ax_K} {v0 : Value} {v1 : Nat} {v2 : Nat} {v3 : Nat} {v4 : Int32} {h : ax_H} (hv0 : ax_rv v0 = true) : dx_le ((dx_lI 0 v0 (v4 + 1) h).bind fun x1 => dx_cI (K 195 [.ref v1, .int x1, .ref v3] h) (fun x3 h2 => (dx_lI 0 v0 (v4 + 1) h2).bind fun x4 => (dx_vn [(38, 453)] (.ref v2) h2).bind fun k => dx_cI (K k [.ref v2, .int x4] h2) (fun x6 h5 => (dx_vn [(38, 372)] (.ref v2) h5).bind fun k => dx_cI (K k [.ref v2] h5) (fun x8 h7 => if x8 = x3 then if ¬ x3 = 0 then dx_lt (v4 + 6) fun x9 => B_L_law_23 K v0 v1 v2 v3 x9 h7 else (dx_lJ 1 (.ref v3) 0 h7).bind fun j10 => if (lg_cmp j10 (Int32.toInt64 x6)) = 0 then dx_lt (v4 + 6) fun x11 => B_L_law_23 K v0 v1 v2 v3 x11 h7 else some (.inl (some (.int 0)), h7) else some (.inl (some (.int 0)), h7)) dx_x0) dx_x0) dx_x0) (B_L_law_1331 K v0 v1 v2 v3 v4 h) := by
  show dx_le _ (ax_run K P_L_law 1331 [some (v0), some (.ref v1), some (.ref v2), some (.ref v3), some (.int v4), none, none] [] h)
  refine e_aload rfl rfl rfl ?_
  refine e_aload rfl rfl hv0 ?_
  refine e_iload rfl rfl ?_
  refine e_push rfl ?_
  refine e_i2 rfl ?_
  refine e_iald rfl fun x1 => ?_
  refine e_aload rfl rfl rfl ?_
  refine e_isI rfl (Nat.le_of_ble_eq_true rfl) rfl rfl (Nat.le_of_ble_eq_true rfl) (fun _ _ => e_x0) fun x3 h2 => ?_
  refine e_istore (L' := [some (v0), some (.ref v1), some (.ref v2), some (.ref v3), some (.int v4), some (.int x3), none]) rfl (dx_sto (Nat.le_of_ble_eq_true rfl) (Or.inr ⟨_, rfl, rfl⟩) rfl) ?_
  refine e_aload rfl rfl rfl ?_
  refine e_aload rfl rfl hv0 ?_
  refine e_iload rfl rfl ?_
  refine e_push rfl ?_
  refine e_i2 rfl ?_
  refine e_iald rfl fun x4 => ?_
  refine e_ivI rfl rfl rfl (Nat.le_of_ble_eq_true rfl) (fun _ _ => e_x0) fun x6 h5 => ?_
  refine e_istore (L' := [some (v0), some (.ref v1), some (.ref v2), some (.ref v3), some (.int v4), some (.int x3), some (.int x6)]) rfl (dx_sto (Nat.le_of_ble_eq_true rfl) (Or.inr ⟨_, rfl, rfl⟩) rfl) ?_
  refine e_aload rfl rfl rfl ?_
  refine e_ivI rfl rfl rfl (Nat.le_of_ble_eq_true rfl) (fun _ _ => e_x0) fun x8 h7 => ?_
  refine e_iload rfl rfl ?_
  refine e_if2 rfl rfl ?_ ?_
  · refine e_iload rfl rfl ?_
    refine e_if1 rfl rfl ?_ ?_
    · refine e_goto rfl ?_
      refine e_iinc (M := fun x9 => [some (v0), some (.ref v1), some (.ref v2), some (.ref v3), some (.int x9), some (.int x3), some (.int x6)]) rfl rfl (fun _ => dx_sto (Nat.le_of_ble_eq_true rfl) (Or.inr ⟨_, rfl, rfl⟩) rfl) fun x9 => ?_
      refine e_goto rfl ?_
      exact e_wk mP_L_law (ll_1 (ll_1 (ll_1 (ll_1 (ll_1 (ll_0 (ll_0 ll_n)))))))
    · refine e_aload rfl rfl rfl ?_
      refine e_push rfl ?_
      refine e_lald rfl fun j10 => ?_
      refine e_iload rfl rfl ?_
      refine e_i2l rfl ?_
      refine e_lcmp rfl ?_
      refine e_if1 rfl rfl ?_ ?_
      · refine e_goto rfl ?_
        refine e_iinc (M := fun x11 => [some (v0), some (.ref v1), some (.ref v2), some (.ref v3), some (.int x11), some (.int x3), some (.int x6)]) rfl rfl (fun _ => dx_sto (Nat.le_of_ble_eq_true rfl) (Or.inr ⟨_, rfl, rfl⟩) rfl) fun x11 => ?_
        refine e_goto rfl ?_
        exact e_wk mP_L_law (ll_1 (ll_1 (ll_1 (ll_1 (ll_1 (ll_0 (ll_0 ll_n)))))))
      · refine e_push rfl ?_
        exact e_zret0 rfl
  · refine e_push rfl ?_
    exact e_zret0 rfl
theorem b_L_law_1387 {K : ax_K} {v0 : Value} {v1 : Nat} {v2 : Nat} {v3 : Nat} {v4 : Int32} {h : ax_H} (hv0 : ax_rv v0 = true) : dx_le ((dx_vn [(19, 215)] (.ref v1) h).bind fun k => dx_cI (K k [.ref v1] h) (fun x2 h1 => (dx_vn [(38, 454)] (.ref v2) h1).bind fun k => dx_cI (K k [.ref v2] h1) (fun x4 h3 => if x2 = x4 then dx_lt (v4 + 6) fun x5 => B_L_law_23 K v0 v1 v2 v3 x5 h3 else some (.inl (some (.int 0)), h3)) dx_x0) dx_x0) (B_L_law_1387 K v0 v1 v2 v3 v4 h) := by
  show dx_le _ (ax_run K P_L_law 1387 [some (v0), some (.ref v1), some (.ref v2), some (.ref v3), some (.int v4), none, none] [] h)
  refine e_aload rfl rfl rfl ?_
  refine e_ivI rfl rfl rfl (Nat.le_of_ble_eq_true rfl) (fun _ _ => e_x0) fun x2 h1 => ?_
  refine e_aload rfl rfl rfl ?_
  refine e_ivI rfl rfl rfl (Nat.le_of_ble_eq_true rfl) (fun _ _ => e_x0) fun x4 h3 => ?_
  refine e_if2 rfl rfl ?_ ?_
  · refine e_iinc (M := fun x5 => [some (v0), some (.ref v1), some (.ref v2), some (.ref v3), some (.int x5), none, none]) rfl rfl (fun _ => dx_sto (Nat.le_of_ble_eq_true rfl) (Or.inr ⟨_, rfl, rfl⟩) rfl) fun x5 => ?_
    refine e_goto rfl ?_
    exact e_wk mP_L_law (ll_1 (ll_1 (ll_1 (ll_1 (ll_1 (ll_0 (ll_0 ll_n)))))))
  · refine e_push rfl ?_
    exact e_zret0 rfl
theorem b_L_law_1400 {K : ax_K} {v0 : Value} {v1 : Nat} {v2 : Nat} {v3 : Nat} {v4 : Int32} {h : ax_H} (hv0 : ax_rv v0 = true) : dx_le ((dx_vn [(19, 216)] (.ref v1) h).bind fun k => dx_cI (K k [.ref v1] h) (fun x2 h1 => (dx_vn [(38, 455)] (.ref v2) h1).bind fun k => dx_cI (K k [.ref v2] h1) (fun x4 h3 => if x2 = x4 then dx_lt (v4 + 6) fun x5 => B_L_law_23 K v0 v1 v2 v3 x5 h3 else some (.inl (some (.int 0)), h3)) dx_x0) dx_x0) (B_L_law_1400 K v0 v1 v2 v3 v4 h) := by
  show dx_le _ (ax_run K P_L_law 1400 [some (v0), some (.ref v1), some (.ref v2), some (.ref v3), some (.int v4), none, none] [] h)
  refine e_aload rfl rfl rfl ?_
  refine e_ivI rfl rfl rfl (Nat.le_of_ble_eq_true rfl) (fun _ _ => e_x0) fun x2 h1 => ?_
  refine e_aload rfl rfl rfl ?_
  refine e_ivI rfl rfl rfl (Nat.le_of_ble_eq_true rfl) (fun _ _ => e_x0) fun x4 h3 => ?_
  refine e_if2 rfl rfl ?_ ?_
  · refine e_iinc (M := fun x5 => [some (v0), some (.ref v1), some (.ref v2), some (.ref v3), some (.int x5), none, none]) rfl rfl (fun _ => dx_sto (Nat.le_of_ble_eq_true rfl) (Or.inr ⟨_, rfl, rfl⟩) rfl) fun x5 => ?_
    refine e_goto rfl ?_
    exact e_wk mP_L_law (ll_1 (ll_1 (ll_1 (ll_1 (ll_1 (ll_0 (ll_0 ll_n)))))))
  · refine e_push rfl ?_
    exact e_zret0 rfl
theorem b_L_law_1413 {K : ax_K} {v0 : Value} {v1 : Nat} {v2 : Nat} {v3 : Nat} {v4 : Int32} {h : ax_H} (hv0 : ax_rv v0 = true) : dx_le ((dx_vn [(19, 217)] (.ref v1) h).bind fun k => dx_cI (K k [.ref v1] h) (fun x2 h1 => (dx_vn [(38, 456)] (.ref v2) h1).bind fun k => dx_cI (K k [.ref v2] h1) (fun x4 h3 => if x2 = x4 then dx_lt (v4 + 6) fun x5 => B_L_law_23 K v0 v1 v2 v3 x5 h3 else some (.inl (some (.int 0)), h3)) dx_x0) dx_x0) (B_L_law_1413 K v0 v1 v2 v3 v4 h) := by
  show dx_le _ (ax_run K P_L_law 1413 [some (v0), some (.ref v1), some (.ref v2), some (.ref v3), some (.int v4), none, none] [] h)
  refine e_aload rfl rfl rfl ?_
  refine e_ivI rfl rfl rfl (Nat.le_of_ble_eq_true rfl) (fun _ _ => e_x0) fun x2 h1 => ?_
  refine e_aload rfl rfl rfl ?_
  refine e_ivI rfl rfl rfl (Nat.le_of_ble_eq_true rfl) (fun _ _ => e_x0) fun x4 h3 => ?_
  refine e_if2 rfl rfl ?_ ?_
  · refine e_iinc (M := fun x5 => [some (v0), some (.ref v1), some (.ref v2), some (.ref v3), some (.int x5), none, none]) rfl rfl (fun _ => dx_sto (Nat.le_of_ble_eq_true rfl) (Or.inr ⟨_, rfl, rfl⟩) rfl) fun x5 => ?_
    refine e_goto rfl ?_
    exact e_wk mP_L_law (ll_1 (ll_1 (ll_1 (ll_1 (ll_1 (ll_0 (ll_0 ll_n)))))))
  · refine e_push rfl ?_
    exact e_zret0 rfl
theorem b_L_law_1426 {K : ax_K} {v0 : Value} {v1 : Nat} {v2 : Nat} {v3 : Nat} {v4 : Int32} {h : ax_H} (hv0 : ax_rv v0 = true) : dx_le ((dx_vn [(19, 218)] (.ref v1) h).bind fun k => dx_cI (K k [.ref v1] h) (fun x2 h1 => (dx_vn [(38, 457)] (.ref v2) h1).bind fun k => dx_cI (K k [.ref v2] h1) (fun x4 h3 => if x2 = x4 then dx_lt (v4 + 6) fun x5 => B_L_law_23 K v0 v1 v2 v3 x5 h3 else some (.inl (some (.int 0)), h3)) dx_x0) dx_x0) (B_L_law_1426 K v0 v1 v2 v3 v4 h) := by
  show dx_le _ (ax_run K P_L_law 1426 [some (v0), some (.ref v1), some (.ref v2), some (.ref v3), some (.int v4), none, none] [] h)
  refine e_aload rfl rfl rfl ?_
  refine e_ivI rfl rfl rfl (Nat.le_of_ble_eq_true rfl) (fun _ _ => e_x0) fun x2 h1 => ?_
  refine e_aload rfl rfl rfl ?_
  refine e_ivI rfl rfl rfl (Nat.le_of_ble_eq_true rfl) (fun _ _ => e_x0) fun x4 h3 => ?_
  refine e_if2 rfl rfl ?_ ?_
  · refine e_iinc (M := fun x5 => [some (v0), some (.ref v1), some (.ref v2), some (.ref v3), some (.int x5), none, none]) rfl rfl (fun _ => dx_sto (Nat.le_of_ble_eq_true rfl) (Or.inr ⟨_, rfl, rfl⟩) rfl) fun x5 => ?_
    refine e_goto rfl ?_
    exact e_wk mP_L_law (ll_1 (ll_1 (ll_1 (ll_1 (ll_1 (ll_0 (ll_0 ll_n)))))))
  · refine e_push rfl ?_
    exact e_zret0 rfl
theorem b_L_law_1439 {K : ax_K} {v0 : Value} {v1 : Nat} {v2 : Nat} {v3 : Nat} {v4 : Int32} {h : ax_H} (hv0 : ax_rv v0 = true) : dx_le ((dx_vn [(19, 219)] (.ref v1) h).bind fun k => dx_cI (K k [.ref v1] h) (fun x2 h1 => (dx_vn [(38, 458)] (.ref v2) h1).bind fun k => dx_cI (K k [.ref v2] h1) (fun x4 h3 => if x2 = x4 then dx_lt (v4 + 6) fun x5 => B_L_law_23 K v0 v1 v2 v3 x5 h3 else some (.inl (some (.int 0)), h3)) dx_x0) dx_x0) (B_L_law_1439 K v0 v1 v2 v3 v4 h) := by
  show dx_le _ (ax_run K P_L_law 1439 [some (v0), some (.ref v1), some (.ref v2), some (.ref v3), some (.int v4), none, none] [] h)
  refine e_aload rfl rfl rfl ?_
  refine e_ivI rfl rfl rfl (Nat.le_of_ble_eq_true rfl) (fun _ _ => e_x0) fun x2 h1 => ?_
  refine e_aload rfl rfl rfl ?_
  refine e_ivI rfl rfl rfl (Nat.le_of_ble_eq_true rfl) (fun _ _ => e_x0) fun x4 h3 => ?_
  refine e_if2 rfl rfl ?_ ?_
  · refine e_iinc (M := fun x5 => [some (v0), some (.ref v1), some (.ref v2), some (.ref v3), some (.int x5), none, none]) rfl rfl (fun _ => dx_sto (Nat.le_of_ble_eq_true rfl) (Or.inr ⟨_, rfl, rfl⟩) rfl) fun x5 => ?_
    refine e_goto rfl ?_
    exact e_wk mP_L_law (ll_1 (ll_1 (ll_1 (ll_1 (ll_1 (ll_0 (ll_0 ll_n)))))))
  · refine e_push rfl ?_
    exact e_zret0 rfl
theorem b_L_law_1452 {K : ax_K} {v0 : Value} {v1 : Nat} {v2 : Nat} {v3 : Nat} {v4 : Int32} {h : ax_H} (hv0 : ax_rv v0 = true) : dx_le ((dx_vn [(19, 220)] (.ref v1) h).bind fun k => dx_cI (K k [.ref v1] h) (fun x2 h1 => (dx_vn [(38, 459)] (.ref v2) h1).bind fun k => dx_cI (K k [.ref v2] h1) (fun x4 h3 => if x2 = x4 then dx_lt (v4 + 6) fun x5 => B_L_law_23 K v0 v1 v2 v3 x5 h3 else some (.inl (some (.int 0)), h3)) dx_x0) dx_x0) (B_L_law_1452 K v0 v1 v2 v3 v4 h) := by
  show dx_le _ (ax_run K P_L_law 1452 [some (v0), some (.ref v1), some (.ref v2), some (.ref v3), some (.int v4), none, none] [] h)
  refine e_aload rfl rfl rfl ?_
  refine e_ivI rfl rfl rfl (Nat.le_of_ble_eq_true rfl) (fun _ _ => e_x0) fun x2 h1 => ?_
  refine e_aload rfl rfl rfl ?_
  refine e_ivI rfl rfl rfl (Nat.le_of_ble_eq_true rfl) (fun _ _ => e_x0) fun x4 h3 => ?_
  refine e_if2 rfl rfl ?_ ?_
  · refine e_iinc (M := fun x5 => [some (v0), some (.ref v1), some (.ref v2), some (.ref v3), some (.int x5), none, none]) rfl rfl (fun _ => dx_sto (Nat.le_of_ble_eq_true rfl) (Or.inr ⟨_, rfl, rfl⟩) rfl) fun x5 => ?_
    refine e_goto rfl ?_
    exact e_wk mP_L_law (ll_1 (ll_1 (ll_1 (ll_1 (ll_1 (ll_0 (ll_0 ll_n)))))))
  · refine e_push rfl ?_
    exact e_zret0 rfl
theorem b_L_law_1465 {K : ax_K} {v0 : Value} {v1 : Nat} {v2 : Nat} {v3 : Nat} {v4 : Int32} {h : ax_H} (hv0 : ax_rv v0 = true) : dx_le ((dx_vn [(19, 221)] (.ref v1) h).bind fun k => dx_cI (K k [.ref v1] h) (fun x2 h1 => (dx_vn [(38, 460)] (.ref v2) h1).bind fun k => dx_cI (K k [.ref v2] h1) (fun x4 h3 => if x2 = x4 then dx_lt (v4 + 6) fun x5 => B_L_law_23 K v0 v1 v2 v3 x5 h3 else some (.inl (some (.int 0)), h3)) dx_x0) dx_x0) (B_L_law_1465 K v0 v1 v2 v3 v4 h) := by
  show dx_le _ (ax_run K P_L_law 1465 [some (v0), some (.ref v1), some (.ref v2), some (.ref v3), some (.int v4), none, none] [] h)
  refine e_aload rfl rfl rfl ?_
  refine e_ivI rfl rfl rfl (Nat.le_of_ble_eq_true rfl) (fun _ _ => e_x0) fun x2 h1 => ?_
  refine e_aload rfl rfl rfl ?_
  refine e_ivI rfl rfl rfl (Nat.le_of_ble_eq_true rfl) (fun _ _ => e_x0) fun x4 h3 => ?_
  refine e_if2 rfl rfl ?_ ?_
  · refine e_iinc (M := fun x5 => [some (v0), some (.ref v1), some (.ref v2), some (.ref v3), some (.int x5), none, none]) rfl rfl (fun _ => dx_sto (Nat.le_of_ble_eq_true rfl) (Or.inr ⟨_, rfl, rfl⟩) rfl) fun x5 => ?_
    refine e_goto rfl ?_
    exact e_wk mP_L_law (ll_1 (ll_1 (ll_1 (ll_1 (ll_1 (ll_0 (ll_0 ll_n)))))))
  · refine e_push rfl ?_
    exact e_zret0 rfl
theorem b_L_law_1478 {K : ax_K} {v0 : Value} {v1 : Nat} {v2 : Nat} {v3 : Nat} {v4 : Int32} {h : ax_H} (hv0 : ax_rv v0 = true) : dx_le ((dx_vn [(19, 222)] (.ref v1) h).bind fun k => dx_cI (K k [.ref v1] h) (fun x2 h1 => (dx_vn [(38, 462)] (.ref v2) h1).bind fun k => dx_cI (K k [.ref v2] h1) (fun x4 h3 => if x2 = x4 then dx_lt (v4 + 6) fun x5 => B_L_law_23 K v0 v1 v2 v3 x5 h3 else some (.inl (some (.int 0)), h3)) dx_x0) dx_x0) (B_L_law_1478 K v0 v1 v2 v3 v4 h) := by
  show dx_le _ (ax_run K P_L_law 1478 [some (v0), some (.ref v1), some (.ref v2), some (.ref v3), some (.int v4), none, none] [] h)
  refine e_aload rfl rfl rfl ?_
  refine e_ivI rfl rfl rfl (Nat.le_of_ble_eq_true rfl) (fun _ _ => e_x0) fun x2 h1 => ?_
  refine e_aload rfl rfl rfl ?_
  refine e_ivI rfl rfl rfl (Nat.le_of_ble_eq_true rfl) (fun _ _ => e_x0) fun x4 h3 => ?_
  refine e_if2 rfl rfl ?_ ?_
  · refine e_iinc (M := fun x5 => [some (v0), some (.ref v1), some (.ref v2), some (.ref v3), some (.int x5), none, none]) rfl rfl (fun _ => dx_sto (Nat.le_of_ble_eq_true rfl) (Or.inr ⟨_, rfl, rfl⟩) rfl) fun x5 => ?_
    refine e_goto rfl ?_
    exact e_wk mP_L_law (ll_1 (ll_1 (ll_1 (ll_1 (ll_1 (ll_0 (ll_0 ll_n)))))))
  · refine e_push rfl ?_
    exact e_zret0 rfl
theorem b_L_law_1491 {K : ax_K} {v0 : Value} {v1 : Nat} {v2 : Nat} {v3 : Nat} {v4 : Int32} {h : ax_H} (hv0 : ax_rv v0 = true) : dx_le ((dx_lI 0 v0 (v4 + 1) h).bind fun x1 => dx_cI (K 196 [.ref v1, .int x1, .ref v3] h) (fun x3 h2 => (dx_lI 0 v0 (v4 + 1) h2).bind fun x4 => (dx_vn [(38, 463)] (.ref v2) h2).bind fun k => dx_cI (K k [.ref v2, .int x4] h2) (fun x6 h5 => (dx_vn [(38, 372)] (.ref v2) h5).bind fun k => dx_cI (K k [.ref v2] h5) (fun x8 h7 => if x8 = x3 then if ¬ x3 = 0 then dx_lt (v4 + 6) fun x9 => B_L_law_23 K v0 v1 v2 v3 x9 h7 else (dx_lJ 1 (.ref v3) 0 h7).bind fun j10 => if (lg_cmp j10 (Int32.toInt64 x6)) = 0 then dx_lt (v4 + 6) fun x11 => B_L_law_23 K v0 v1 v2 v3 x11 h7 else some (.inl (some (.int 0)), h7) else some (.inl (some (.int 0)), h7)) dx_x0) dx_x0) dx_x0) (B_L_law_1491 K v0 v1 v2 v3 v4 h) := by
  show dx_le _ (ax_run K P_L_law 1491 [some (v0), some (.ref v1), some (.ref v2), some (.ref v3), some (.int v4), none, none] [] h)
  refine e_aload rfl rfl rfl ?_
  refine e_aload rfl rfl hv0 ?_
  refine e_iload rfl rfl ?_
  refine e_push rfl ?_
  refine e_i2 rfl ?_
  refine e_iald rfl fun x1 => ?_
  refine e_aload rfl rfl rfl ?_
  refine e_isI rfl (Nat.le_of_ble_eq_true rfl) rfl rfl (Nat.le_of_ble_eq_true rfl) (fun _ _ => e_x0) fun x3 h2 => ?_
  refine e_istore (L' := [some (v0), some (.ref v1), some (.ref v2), some (.ref v3), some (.int v4), some (.int x3), none]) rfl (dx_sto (Nat.le_of_ble_eq_true rfl) (Or.inr ⟨_, rfl, rfl⟩) rfl) ?_
  refine e_aload rfl rfl rfl ?_
  refine e_aload rfl rfl hv0 ?_
  refine e_iload rfl rfl ?_
  refine e_push rfl ?_
  refine e_i2 rfl ?_
  refine e_iald rfl fun x4 => ?_
  refine e_ivI rfl rfl rfl (Nat.le_of_ble_eq_true rfl) (fun _ _ => e_x0) fun x6 h5 => ?_
  refine e_istore (L' := [some (v0), some (.ref v1), some (.ref v2), some (.ref v3), some (.int v4), some (.int x3), some (.int x6)]) rfl (dx_sto (Nat.le_of_ble_eq_true rfl) (Or.inr ⟨_, rfl, rfl⟩) rfl) ?_
  refine e_aload rfl rfl rfl ?_
  refine e_ivI rfl rfl rfl (Nat.le_of_ble_eq_true rfl) (fun _ _ => e_x0) fun x8 h7 => ?_
  refine e_iload rfl rfl ?_
  refine e_if2 rfl rfl ?_ ?_
  · refine e_iload rfl rfl ?_
    refine e_if1 rfl rfl ?_ ?_
    · refine e_goto rfl ?_
      refine e_iinc (M := fun x9 => [some (v0), some (.ref v1), some (.ref v2), some (.ref v3), some (.int x9), some (.int x3), some (.int x6)]) rfl rfl (fun _ => dx_sto (Nat.le_of_ble_eq_true rfl) (Or.inr ⟨_, rfl, rfl⟩) rfl) fun x9 => ?_
      refine e_goto rfl ?_
      exact e_wk mP_L_law (ll_1 (ll_1 (ll_1 (ll_1 (ll_1 (ll_0 (ll_0 ll_n)))))))
    · refine e_aload rfl rfl rfl ?_
      refine e_push rfl ?_
      refine e_lald rfl fun j10 => ?_
      refine e_iload rfl rfl ?_
      refine e_i2l rfl ?_
      refine e_lcmp rfl ?_
      refine e_if1 rfl rfl ?_ ?_
      · refine e_goto rfl ?_
        refine e_iinc (M := fun x11 => [some (v0), some (.ref v1), some (.ref v2), some (.ref v3), some (.int x11), some (.int x3), some (.int x6)]) rfl rfl (fun _ => dx_sto (Nat.le_of_ble_eq_true rfl) (Or.inr ⟨_, rfl, rfl⟩) rfl) fun x11 => ?_
        refine e_goto rfl ?_
        exact e_wk mP_L_law (ll_1 (ll_1 (ll_1 (ll_1 (ll_1 (ll_0 (ll_0 ll_n)))))))
      · refine e_push rfl ?_
        exact e_zret0 rfl
  · refine e_push rfl ?_
    exact e_zret0 rfl
theorem b_L_law_1547 {K : ax_K} {v0 : Value} {v1 : Nat} {v2 : Nat} {v3 : Nat} {v4 : Int32} {h : ax_H} (hv0 : ax_rv v0 = true) : dx_le ((dx_lI 0 v0 (v4 + 1) h).bind fun x1 => dx_cI (K 197 [.ref v1, .int x1, .ref v3] h) (fun x3 h2 => (dx_lI 0 v0 (v4 + 1) h2).bind fun x4 => (dx_vn [(38, 464)] (.ref v2) h2).bind fun k => dx_cI (K k [.ref v2, .int x4] h2) (fun x6 h5 => (dx_vn [(38, 372)] (.ref v2) h5).bind fun k => dx_cI (K k [.ref v2] h5) (fun x8 h7 => if x8 = x3 then if ¬ x3 = 0 then dx_lt (v4 + 6) fun x9 => B_L_law_23 K v0 v1 v2 v3 x9 h7 else (dx_lJ 1 (.ref v3) 0 h7).bind fun j10 => if (lg_cmp j10 (Int32.toInt64 x6)) = 0 then dx_lt (v4 + 6) fun x11 => B_L_law_23 K v0 v1 v2 v3 x11 h7 else some (.inl (some (.int 0)), h7) else some (.inl (some (.int 0)), h7)) dx_x0) dx_x0) dx_x0) (B_L_law_1547 K v0 v1 v2 v3 v4 h) := by
  show dx_le _ (ax_run K P_L_law 1547 [some (v0), some (.ref v1), some (.ref v2), some (.ref v3), some (.int v4), none, none] [] h)
  refine e_aload rfl rfl rfl ?_
  refine e_aload rfl rfl hv0 ?_
  refine e_iload rfl rfl ?_
  refine e_push rfl ?_
  refine e_i2 rfl ?_
  refine e_iald rfl fun x1 => ?_
  refine e_aload rfl rfl rfl ?_
  refine e_isI rfl (Nat.le_of_ble_eq_true rfl) rfl rfl (Nat.le_of_ble_eq_true rfl) (fun _ _ => e_x0) fun x3 h2 => ?_
  refine e_istore (L' := [some (v0), some (.ref v1), some (.ref v2), some (.ref v3), some (.int v4), some (.int x3), none]) rfl (dx_sto (Nat.le_of_ble_eq_true rfl) (Or.inr ⟨_, rfl, rfl⟩) rfl) ?_
  refine e_aload rfl rfl rfl ?_
  refine e_aload rfl rfl hv0 ?_
  refine e_iload rfl rfl ?_
  refine e_push rfl ?_
  refine e_i2 rfl ?_
  refine e_iald rfl fun x4 => ?_
  refine e_ivI rfl rfl rfl (Nat.le_of_ble_eq_true rfl) (fun _ _ => e_x0) fun x6 h5 => ?_
  refine e_istore (L' := [some (v0), some (.ref v1), some (.ref v2), some (.ref v3), some (.int v4), some (.int x3), some (.int x6)]) rfl (dx_sto (Nat.le_of_ble_eq_true rfl) (Or.inr ⟨_, rfl, rfl⟩) rfl) ?_
  refine e_aload rfl rfl rfl ?_
  refine e_ivI rfl rfl rfl (Nat.le_of_ble_eq_true rfl) (fun _ _ => e_x0) fun x8 h7 => ?_
  refine e_iload rfl rfl ?_
  refine e_if2 rfl rfl ?_ ?_
  · refine e_iload rfl rfl ?_
    refine e_if1 rfl rfl ?_ ?_
    · refine e_goto rfl ?_
      refine e_iinc (M := fun x9 => [some (v0), some (.ref v1), some (.ref v2), some (.ref v3), some (.int x9), some (.int x3), some (.int x6)]) rfl rfl (fun _ => dx_sto (Nat.le_of_ble_eq_true rfl) (Or.inr ⟨_, rfl, rfl⟩) rfl) fun x9 => ?_
      refine e_goto rfl ?_
      exact e_wk mP_L_law (ll_1 (ll_1 (ll_1 (ll_1 (ll_1 (ll_0 (ll_0 ll_n)))))))
    · refine e_aload rfl rfl rfl ?_
      refine e_push rfl ?_
      refine e_lald rfl fun j10 => ?_
      refine e_iload rfl rfl ?_
      refine e_i2l rfl ?_
      refine e_lcmp rfl ?_
      refine e_if1 rfl rfl ?_ ?_
      · refine e_goto rfl ?_
        refine e_iinc (M := fun x11 => [some (v0), some (.ref v1), some (.ref v2), some (.ref v3), some (.int x11), some (.int x3), some (.int x6)]) rfl rfl (fun _ => dx_sto (Nat.le_of_ble_eq_true rfl) (Or.inr ⟨_, rfl, rfl⟩) rfl) fun x11 => ?_
        refine e_goto rfl ?_
        exact e_wk mP_L_law (ll_1 (ll_1 (ll_1 (ll_1 (ll_1 (ll_0 (ll_0 ll_n)))))))
      · refine e_push rfl ?_
        exact e_zret0 rfl
  · refine e_push rfl ?_
    exact e_zret0 rfl
theorem b_L_law_1603 {K : ax_K} {v0 : Value} {v1 : Nat} {v2 : Nat} {v3 : Nat} {v4 : Int32} {h : ax_H} (hv0 : ax_rv v0 = true) : dx_le ((dx_lI 0 v0 (v4 + 1) h).bind fun x1 => dx_cI (K 198 [.ref v1, .int x1, .ref v3] h) (fun x3 h2 => (dx_lI 0 v0 (v4 + 1) h2).bind fun x4 => (dx_vn [(38, 466)] (.ref v2) h2).bind fun k => dx_cI (K k [.ref v2, .int x4] h2) (fun x6 h5 => (dx_vn [(38, 372)] (.ref v2) h5).bind fun k => dx_cI (K k [.ref v2] h5) (fun x8 h7 => if x8 = x3 then if ¬ x3 = 0 then dx_lt (v4 + 6) fun x9 => B_L_law_23 K v0 v1 v2 v3 x9 h7 else (dx_lJ 1 (.ref v3) 0 h7).bind fun j10 => if (lg_cmp j10 (Int32.toInt64 x6)) = 0 then dx_lt (v4 + 6) fun x11 => B_L_law_23 K v0 v1 v2 v3 x11 h7 else some (.inl (some (.int 0)), h7) else some (.inl (some (.int 0)), h7)) dx_x0) dx_x0) dx_x0) (B_L_law_1603 K v0 v1 v2 v3 v4 h) := by
  show dx_le _ (ax_run K P_L_law 1603 [some (v0), some (.ref v1), some (.ref v2), some (.ref v3), some (.int v4), none, none] [] h)
  refine e_aload rfl rfl rfl ?_
  refine e_aload rfl rfl hv0 ?_
  refine e_iload rfl rfl ?_
  refine e_push rfl ?_
  refine e_i2 rfl ?_
  refine e_iald rfl fun x1 => ?_
  refine e_aload rfl rfl rfl ?_
  refine e_isI rfl (Nat.le_of_ble_eq_true rfl) rfl rfl (Nat.le_of_ble_eq_true rfl) (fun _ _ => e_x0) fun x3 h2 => ?_
  refine e_istore (L' := [some (v0), some (.ref v1), some (.ref v2), some (.ref v3), some (.int v4), some (.int x3), none]) rfl (dx_sto (Nat.le_of_ble_eq_true rfl) (Or.inr ⟨_, rfl, rfl⟩) rfl) ?_
  refine e_aload rfl rfl rfl ?_
  refine e_aload rfl rfl hv0 ?_
  refine e_iload rfl rfl ?_
  refine e_push rfl ?_
  refine e_i2 rfl ?_
  refine e_iald rfl fun x4 => ?_
  refine e_ivI rfl rfl rfl (Nat.le_of_ble_eq_true rfl) (fun _ _ => e_x0) fun x6 h5 => ?_
  refine e_istore (L' := [some (v0), some (.ref v1), some (.ref v2), some (.ref v3), some (.int v4), some (.int x3), some (.int x6)]) rfl (dx_sto (Nat.le_of_ble_eq_true rfl) (Or.inr ⟨_, rfl, rfl⟩) rfl) ?_
  refine e_aload rfl rfl rfl ?_
  refine e_ivI rfl rfl rfl (Nat.le_of_ble_eq_true rfl) (fun _ _ => e_x0) fun x8 h7 => ?_
  refine e_iload rfl rfl ?_
  refine e_if2 rfl rfl ?_ ?_
  · refine e_iload rfl rfl ?_
    refine e_if1 rfl rfl ?_ ?_
    · refine e_goto rfl ?_
      refine e_iinc (M := fun x9 => [some (v0), some (.ref v1), some (.ref v2), some (.ref v3), some (.int x9), some (.int x3), some (.int x6)]) rfl rfl (fun _ => dx_sto (Nat.le_of_ble_eq_true rfl) (Or.inr ⟨_, rfl, rfl⟩) rfl) fun x9 => ?_
      refine e_goto rfl ?_
      exact e_wk mP_L_law (ll_1 (ll_1 (ll_1 (ll_1 (ll_1 (ll_0 (ll_0 ll_n)))))))
    · refine e_aload rfl rfl rfl ?_
      refine e_push rfl ?_
      refine e_lald rfl fun j10 => ?_
      refine e_iload rfl rfl ?_
      refine e_i2l rfl ?_
      refine e_lcmp rfl ?_
      refine e_if1 rfl rfl ?_ ?_
      · refine e_goto rfl ?_
        refine e_iinc (M := fun x11 => [some (v0), some (.ref v1), some (.ref v2), some (.ref v3), some (.int x11), some (.int x3), some (.int x6)]) rfl rfl (fun _ => dx_sto (Nat.le_of_ble_eq_true rfl) (Or.inr ⟨_, rfl, rfl⟩) rfl) fun x11 => ?_
        refine e_goto rfl ?_
        exact e_wk mP_L_law (ll_1 (ll_1 (ll_1 (ll_1 (ll_1 (ll_0 (ll_0 ll_n)))))))
      · refine e_push rfl ?_
        exact e_zret0 rfl
  · refine e_push rfl ?_
    exact e_zret0 rfl
theorem b_L_law_1659 {K : ax_K} {v0 : Value} {v1 : Nat} {v2 : Nat} {v3 : Nat} {v4 : Int32} {h : ax_H} (hv0 : ax_rv v0 = true) : dx_le ((dx_vn [(19, 223)] (.ref v1) h).bind fun k => dx_cI (K k [.ref v1] h) (fun x2 h1 => (dx_vn [(38, 467)] (.ref v2) h1).bind fun k => dx_cI (K k [.ref v2] h1) (fun x4 h3 => if x2 = x4 then dx_lt (v4 + 6) fun x5 => B_L_law_23 K v0 v1 v2 v3 x5 h3 else some (.inl (some (.int 0)), h3)) dx_x0) dx_x0) (B_L_law_1659 K v0 v1 v2 v3 v4 h) := by
  show dx_le _ (ax_run K P_L_law 1659 [some (v0), some (.ref v1), some (.ref v2), some (.ref v3), some (.int v4), none, none] [] h)
  refine e_aload rfl rfl rfl ?_
  refine e_ivI rfl rfl rfl (Nat.le_of_ble_eq_true rfl) (fun _ _ => e_x0) fun x2 h1 => ?_
  refine e_aload rfl rfl rfl ?_
  refine e_ivI rfl rfl rfl (Nat.le_of_ble_eq_true rfl) (fun _ _ => e_x0) fun x4 h3 => ?_
  refine e_if2 rfl rfl ?_ ?_
  · refine e_iinc (M := fun x5 => [some (v0), some (.ref v1), some (.ref v2), some (.ref v3), some (.int x5), none, none]) rfl rfl (fun _ => dx_sto (Nat.le_of_ble_eq_true rfl) (Or.inr ⟨_, rfl, rfl⟩) rfl) fun x5 => ?_
    refine e_goto rfl ?_
    exact e_wk mP_L_law (ll_1 (ll_1 (ll_1 (ll_1 (ll_1 (ll_0 (ll_0 ll_n)))))))
  · refine e_push rfl ?_
    exact e_zret0 rfl
theorem b_L_law_1672 {K : ax_K} {v0 : Value} {v1 : Nat} {v2 : Nat} {v3 : Nat} {v4 : Int32} {h : ax_H} (hv0 : ax_rv v0 = true) : dx_le ((dx_lI 0 v0 (v4 + 1) h).bind fun x1 => dx_cI (K 199 [.ref v1, .int x1, .ref v3] h) (fun x3 h2 => (dx_lI 0 v0 (v4 + 1) h2).bind fun x4 => (dx_vn [(38, 468)] (.ref v2) h2).bind fun k => dx_cI (K k [.ref v2, .int x4] h2) (fun x6 h5 => (dx_vn [(38, 372)] (.ref v2) h5).bind fun k => dx_cI (K k [.ref v2] h5) (fun x8 h7 => if x8 = x3 then if ¬ x3 = 0 then dx_lt (v4 + 6) fun x9 => B_L_law_23 K v0 v1 v2 v3 x9 h7 else (dx_lJ 1 (.ref v3) 0 h7).bind fun j10 => if (lg_cmp j10 (Int32.toInt64 x6)) = 0 then dx_lt (v4 + 6) fun x11 => B_L_law_23 K v0 v1 v2 v3 x11 h7 else some (.inl (some (.int 0)), h7) else some (.inl (some (.int 0)), h7)) dx_x0) dx_x0) dx_x0) (B_L_law_1672 K v0 v1 v2 v3 v4 h) := by
  show dx_le _ (ax_run K P_L_law 1672 [some (v0), some (.ref v1), some (.ref v2), some (.ref v3), some (.int v4), none, none] [] h)
  refine e_aload rfl rfl rfl ?_
  refine e_aload rfl rfl hv0 ?_
  refine e_iload rfl rfl ?_
  refine e_push rfl ?_
  refine e_i2 rfl ?_
  refine e_iald rfl fun x1 => ?_
  refine e_aload rfl rfl rfl ?_
  refine e_isI rfl (Nat.le_of_ble_eq_true rfl) rfl rfl (Nat.le_of_ble_eq_true rfl) (fun _ _ => e_x0) fun x3 h2 => ?_
  refine e_istore (L' := [some (v0), some (.ref v1), some (.ref v2), some (.ref v3), some (.int v4), some (.int x3), none]) rfl (dx_sto (Nat.le_of_ble_eq_true rfl) (Or.inr ⟨_, rfl, rfl⟩) rfl) ?_
  refine e_aload rfl rfl rfl ?_
  refine e_aload rfl rfl hv0 ?_
  refine e_iload rfl rfl ?_
  refine e_push rfl ?_
  refine e_i2 rfl ?_
  refine e_iald rfl fun x4 => ?_
  refine e_ivI rfl rfl rfl (Nat.le_of_ble_eq_true rfl) (fun _ _ => e_x0) fun x6 h5 => ?_
  refine e_istore (L' := [some (v0), some (.ref v1), some (.ref v2), some (.ref v3), some (.int v4), some (.int x3), some (.int x6)]) rfl (dx_sto (Nat.le_of_ble_eq_true rfl) (Or.inr ⟨_, rfl, rfl⟩) rfl) ?_
  refine e_aload rfl rfl rfl ?_
  refine e_ivI rfl rfl rfl (Nat.le_of_ble_eq_true rfl) (fun _ _ => e_x0) fun x8 h7 => ?_
  refine e_iload rfl rfl ?_
  refine e_if2 rfl rfl ?_ ?_
  · refine e_iload rfl rfl ?_
    refine e_if1 rfl rfl ?_ ?_
    · refine e_goto rfl ?_
      refine e_iinc (M := fun x9 => [some (v0), some (.ref v1), some (.ref v2), some (.ref v3), some (.int x9), some (.int x3), some (.int x6)]) rfl rfl (fun _ => dx_sto (Nat.le_of_ble_eq_true rfl) (Or.inr ⟨_, rfl, rfl⟩) rfl) fun x9 => ?_
      refine e_goto rfl ?_
      exact e_wk mP_L_law (ll_1 (ll_1 (ll_1 (ll_1 (ll_1 (ll_0 (ll_0 ll_n)))))))
    · refine e_aload rfl rfl rfl ?_
      refine e_push rfl ?_
      refine e_lald rfl fun j10 => ?_
      refine e_iload rfl rfl ?_
      refine e_i2l rfl ?_
      refine e_lcmp rfl ?_
      refine e_if1 rfl rfl ?_ ?_
      · refine e_goto rfl ?_
        refine e_iinc (M := fun x11 => [some (v0), some (.ref v1), some (.ref v2), some (.ref v3), some (.int x11), some (.int x3), some (.int x6)]) rfl rfl (fun _ => dx_sto (Nat.le_of_ble_eq_true rfl) (Or.inr ⟨_, rfl, rfl⟩) rfl) fun x11 => ?_
        refine e_goto rfl ?_
        exact e_wk mP_L_law (ll_1 (ll_1 (ll_1 (ll_1 (ll_1 (ll_0 (ll_0 ll_n)))))))
      · refine e_push rfl ?_
        exact e_zret0 rfl
  · refine e_push rfl ?_
    exact e_zret0 rfl
theorem b_L_law_1728 {K : ax_K} {v0 : Value} {v1 : Nat} {v2 : Nat} {v3 : Nat} {v4 : Int32} {h : ax_H} (hv0 : ax_rv v0 = true) : dx_le ((dx_vn [(19, 224)] (.ref v1) h).bind fun k => dx_cI (K k [.ref v1] h) (fun x2 h1 => (dx_vn [(38, 469)] (.ref v2) h1).bind fun k => dx_cI (K k [.ref v2] h1) (fun x4 h3 => if x2 = x4 then dx_lt (v4 + 6) fun x5 => B_L_law_23 K v0 v1 v2 v3 x5 h3 else some (.inl (some (.int 0)), h3)) dx_x0) dx_x0) (B_L_law_1728 K v0 v1 v2 v3 v4 h) := by
  show dx_le _ (ax_run K P_L_law 1728 [some (v0), some (.ref v1), some (.ref v2), some (.ref v3), some (.int v4), none, none] [] h)
  refine e_aload rfl rfl rfl ?_
  refine e_ivI rfl rfl rfl (Nat.le_of_ble_eq_true rfl) (fun _ _ => e_x0) fun x2 h1 => ?_
  refine e_aload rfl rfl rfl ?_
  refine e_ivI rfl rfl rfl (Nat.le_of_ble_eq_true rfl) (fun _ _ => e_x0) fun x4 h3 => ?_
  refine e_if2 rfl rfl ?_ ?_
  · refine e_iinc (M := fun x5 => [some (v0), some (.ref v1), some (.ref v2), some (.ref v3), some (.int x5), none, none]) rfl rfl (fun _ => dx_sto (Nat.le_of_ble_eq_true rfl) (Or.inr ⟨_, rfl, rfl⟩) rfl) fun x5 => ?_
    refine e_goto rfl ?_
    exact e_wk mP_L_law (ll_1 (ll_1 (ll_1 (ll_1 (ll_1 (ll_0 (ll_0 ll_n)))))))
  · refine e_push rfl ?_
    exact e_zret0 rfl
theorem b_L_law_1741 {K : ax_K} {v0 : Value} {v1 : Nat} {v2 : Nat} {v3 : Nat} {v4 : Int32} {h : ax_H} (hv0 : ax_rv v0 = true) : dx_le ((dx_lI 0 v0 (v4 + 1) h).bind fun x1 => dx_cI (K 200 [.ref v1, .int x1, .ref v3] h) (fun x3 h2 => (dx_lI 0 v0 (v4 + 1) h2).bind fun x4 => (dx_vn [(38, 472)] (.ref v2) h2).bind fun k => dx_cI (K k [.ref v2, .int x4] h2) (fun x6 h5 => (dx_vn [(38, 372)] (.ref v2) h5).bind fun k => dx_cI (K k [.ref v2] h5) (fun x8 h7 => if x8 = x3 then if ¬ x3 = 0 then dx_lt (v4 + 6) fun x9 => B_L_law_23 K v0 v1 v2 v3 x9 h7 else (dx_lJ 1 (.ref v3) 0 h7).bind fun j10 => if (lg_cmp j10 (Int32.toInt64 x6)) = 0 then dx_lt (v4 + 6) fun x11 => B_L_law_23 K v0 v1 v2 v3 x11 h7 else some (.inl (some (.int 0)), h7) else some (.inl (some (.int 0)), h7)) dx_x0) dx_x0) dx_x0) (B_L_law_1741 K v0 v1 v2 v3 v4 h) := by
  show dx_le _ (ax_run K P_L_law 1741 [some (v0), some (.ref v1), some (.ref v2), some (.ref v3), some (.int v4), none, none] [] h)
  refine e_aload rfl rfl rfl ?_
  refine e_aload rfl rfl hv0 ?_
  refine e_iload rfl rfl ?_
  refine e_push rfl ?_
  refine e_i2 rfl ?_
  refine e_iald rfl fun x1 => ?_
  refine e_aload rfl rfl rfl ?_
  refine e_isI rfl (Nat.le_of_ble_eq_true rfl) rfl rfl (Nat.le_of_ble_eq_true rfl) (fun _ _ => e_x0) fun x3 h2 => ?_
  refine e_istore (L' := [some (v0), some (.ref v1), some (.ref v2), some (.ref v3), some (.int v4), some (.int x3), none]) rfl (dx_sto (Nat.le_of_ble_eq_true rfl) (Or.inr ⟨_, rfl, rfl⟩) rfl) ?_
  refine e_aload rfl rfl rfl ?_
  refine e_aload rfl rfl hv0 ?_
  refine e_iload rfl rfl ?_
  refine e_push rfl ?_
  refine e_i2 rfl ?_
  refine e_iald rfl fun x4 => ?_
  refine e_ivI rfl rfl rfl (Nat.le_of_ble_eq_true rfl) (fun _ _ => e_x0) fun x6 h5 => ?_
  refine e_istore (L' := [some (v0), some (.ref v1), some (.ref v2), some (.ref v3), some (.int v4), some (.int x3), some (.int x6)]) rfl (dx_sto (Nat.le_of_ble_eq_true rfl) (Or.inr ⟨_, rfl, rfl⟩) rfl) ?_
  refine e_aload rfl rfl rfl ?_
  refine e_ivI rfl rfl rfl (Nat.le_of_ble_eq_true rfl) (fun _ _ => e_x0) fun x8 h7 => ?_
  refine e_iload rfl rfl ?_
  refine e_if2 rfl rfl ?_ ?_
  · refine e_iload rfl rfl ?_
    refine e_if1 rfl rfl ?_ ?_
    · refine e_goto rfl ?_
      refine e_iinc (M := fun x9 => [some (v0), some (.ref v1), some (.ref v2), some (.ref v3), some (.int x9), some (.int x3), some (.int x6)]) rfl rfl (fun _ => dx_sto (Nat.le_of_ble_eq_true rfl) (Or.inr ⟨_, rfl, rfl⟩) rfl) fun x9 => ?_
      refine e_goto rfl ?_
      exact e_wk mP_L_law (ll_1 (ll_1 (ll_1 (ll_1 (ll_1 (ll_0 (ll_0 ll_n)))))))
    · refine e_aload rfl rfl rfl ?_
      refine e_push rfl ?_
      refine e_lald rfl fun j10 => ?_
      refine e_iload rfl rfl ?_
      refine e_i2l rfl ?_
      refine e_lcmp rfl ?_
      refine e_if1 rfl rfl ?_ ?_
      · refine e_goto rfl ?_
        refine e_iinc (M := fun x11 => [some (v0), some (.ref v1), some (.ref v2), some (.ref v3), some (.int x11), some (.int x3), some (.int x6)]) rfl rfl (fun _ => dx_sto (Nat.le_of_ble_eq_true rfl) (Or.inr ⟨_, rfl, rfl⟩) rfl) fun x11 => ?_
        refine e_goto rfl ?_
        exact e_wk mP_L_law (ll_1 (ll_1 (ll_1 (ll_1 (ll_1 (ll_0 (ll_0 ll_n)))))))
      · refine e_push rfl ?_
        exact e_zret0 rfl
  · refine e_push rfl ?_
    exact e_zret0 rfl
theorem b_L_law_1797 {K : ax_K} {v0 : Value} {v1 : Nat} {v2 : Nat} {v3 : Nat} {v4 : Int32} {h : ax_H} (hv0 : ax_rv v0 = true) : dx_le ((dx_vn [(19, 225)] (.ref v1) h).bind fun k => dx_cI (K k [.ref v1] h) (fun x2 h1 => (dx_vn [(38, 473)] (.ref v2) h1).bind fun k => dx_cI (K k [.ref v2] h1) (fun x4 h3 => if x2 = x4 then dx_lt (v4 + 6) fun x5 => B_L_law_23 K v0 v1 v2 v3 x5 h3 else some (.inl (some (.int 0)), h3)) dx_x0) dx_x0) (B_L_law_1797 K v0 v1 v2 v3 v4 h) := by
  show dx_le _ (ax_run K P_L_law 1797 [some (v0), some (.ref v1), some (.ref v2), some (.ref v3), some (.int v4), none, none] [] h)
  refine e_aload rfl rfl rfl ?_
  refine e_ivI rfl rfl rfl (Nat.le_of_ble_eq_true rfl) (fun _ _ => e_x0) fun x2 h1 => ?_
  refine e_aload rfl rfl rfl ?_
  refine e_ivI rfl rfl rfl (Nat.le_of_ble_eq_true rfl) (fun _ _ => e_x0) fun x4 h3 => ?_
  refine e_if2 rfl rfl ?_ ?_
  · refine e_iinc (M := fun x5 => [some (v0), some (.ref v1), some (.ref v2), some (.ref v3), some (.int x5), none, none]) rfl rfl (fun _ => dx_sto (Nat.le_of_ble_eq_true rfl) (Or.inr ⟨_, rfl, rfl⟩) rfl) fun x5 => ?_
    refine e_goto rfl ?_
    exact e_wk mP_L_law (ll_1 (ll_1 (ll_1 (ll_1 (ll_1 (ll_0 (ll_0 ll_n)))))))
  · refine e_push rfl ?_
    exact e_zret0 rfl
theorem b_L_law_1810 {K : ax_K} {v0 : Value} {v1 : Nat} {v2 : Nat} {v3 : Nat} {v4 : Int32} {h : ax_H} (hv0 : ax_rv v0 = true) : dx_le ((dx_lI 0 v0 (v4 + 1) h).bind fun x1 => (dx_lI 0 v0 (v4 + 2) h).bind fun x2 => dx_cI (K 201 [.ref v1, .int x1, .int x2, .ref v3] h) (fun x4 h3 => (dx_lI 0 v0 (v4 + 1) h3).bind fun x5 => (dx_lI 0 v0 (v4 + 2) h3).bind fun x6 => (dx_vn [(38, 474)] (.ref v2) h3).bind fun k => dx_cI (K k [.ref v2, .int x5, .int x6] h3) (fun x8 h7 => (dx_vn [(38, 372)] (.ref v2) h7).bind fun k => dx_cI (K k [.ref v2] h7) (fun x10 h9 => if x10 = x4 then if ¬ x4 = 0 then dx_lt (v4 + 6) fun x11 => B_L_law_23 K v0 v1 v2 v3 x11 h9 else (dx_lJ 1 (.ref v3) 0 h9).bind fun j12 => if (lg_cmp j12 (Int32.toInt64 x8)) = 0 then dx_lt (v4 + 6) fun x13 => B_L_law_23 K v0 v1 v2 v3 x13 h9 else some (.inl (some (.int 0)), h9) else some (.inl (some (.int 0)), h9)) dx_x0) dx_x0) dx_x0) (B_L_law_1810 K v0 v1 v2 v3 v4 h) := by
  show dx_le _ (ax_run K P_L_law 1810 [some (v0), some (.ref v1), some (.ref v2), some (.ref v3), some (.int v4), none, none] [] h)
  refine e_aload rfl rfl rfl ?_
  refine e_aload rfl rfl hv0 ?_
  refine e_iload rfl rfl ?_
  refine e_push rfl ?_
  refine e_i2 rfl ?_
  refine e_iald rfl fun x1 => ?_
  refine e_aload rfl rfl hv0 ?_
  refine e_iload rfl rfl ?_
  refine e_push rfl ?_
  refine e_i2 rfl ?_
  refine e_iald rfl fun x2 => ?_
  refine e_aload rfl rfl rfl ?_
  refine e_isI rfl (Nat.le_of_ble_eq_true rfl) rfl rfl (Nat.le_of_ble_eq_true rfl) (fun _ _ => e_x0) fun x4 h3 => ?_
  refine e_istore (L' := [some (v0), some (.ref v1), some (.ref v2), some (.ref v3), some (.int v4), some (.int x4), none]) rfl (dx_sto (Nat.le_of_ble_eq_true rfl) (Or.inr ⟨_, rfl, rfl⟩) rfl) ?_
  refine e_aload rfl rfl rfl ?_
  refine e_aload rfl rfl hv0 ?_
  refine e_iload rfl rfl ?_
  refine e_push rfl ?_
  refine e_i2 rfl ?_
  refine e_iald rfl fun x5 => ?_
  refine e_aload rfl rfl hv0 ?_
  refine e_iload rfl rfl ?_
  refine e_push rfl ?_
  refine e_i2 rfl ?_
  refine e_iald rfl fun x6 => ?_
  refine e_ivI rfl rfl rfl (Nat.le_of_ble_eq_true rfl) (fun _ _ => e_x0) fun x8 h7 => ?_
  refine e_istore (L' := [some (v0), some (.ref v1), some (.ref v2), some (.ref v3), some (.int v4), some (.int x4), some (.int x8)]) rfl (dx_sto (Nat.le_of_ble_eq_true rfl) (Or.inr ⟨_, rfl, rfl⟩) rfl) ?_
  refine e_aload rfl rfl rfl ?_
  refine e_ivI rfl rfl rfl (Nat.le_of_ble_eq_true rfl) (fun _ _ => e_x0) fun x10 h9 => ?_
  refine e_iload rfl rfl ?_
  refine e_if2 rfl rfl ?_ ?_
  · refine e_iload rfl rfl ?_
    refine e_if1 rfl rfl ?_ ?_
    · refine e_goto rfl ?_
      refine e_iinc (M := fun x11 => [some (v0), some (.ref v1), some (.ref v2), some (.ref v3), some (.int x11), some (.int x4), some (.int x8)]) rfl rfl (fun _ => dx_sto (Nat.le_of_ble_eq_true rfl) (Or.inr ⟨_, rfl, rfl⟩) rfl) fun x11 => ?_
      refine e_goto rfl ?_
      exact e_wk mP_L_law (ll_1 (ll_1 (ll_1 (ll_1 (ll_1 (ll_0 (ll_0 ll_n)))))))
    · refine e_aload rfl rfl rfl ?_
      refine e_push rfl ?_
      refine e_lald rfl fun j12 => ?_
      refine e_iload rfl rfl ?_
      refine e_i2l rfl ?_
      refine e_lcmp rfl ?_
      refine e_if1 rfl rfl ?_ ?_
      · refine e_goto rfl ?_
        refine e_iinc (M := fun x13 => [some (v0), some (.ref v1), some (.ref v2), some (.ref v3), some (.int x13), some (.int x4), some (.int x8)]) rfl rfl (fun _ => dx_sto (Nat.le_of_ble_eq_true rfl) (Or.inr ⟨_, rfl, rfl⟩) rfl) fun x13 => ?_
        refine e_goto rfl ?_
        exact e_wk mP_L_law (ll_1 (ll_1 (ll_1 (ll_1 (ll_1 (ll_0 (ll_0 ll_n)))))))
      · refine e_push rfl ?_
        exact e_zret0 rfl
  · refine e_push rfl ?_
    exact e_zret0 rfl
theorem b_L_law_1878 {K : ax_K} {v0 : Value} {v1 : Nat} {v2 : Nat} {v3 : Nat} {v4 : Int32} {h : ax_H} (hv0 : ax_rv v0 = true) : dx_le ((dx_vn [(19, 226)] (.ref v1) h).bind fun k => dx_cI (K k [.ref v1] h) (fun x2 h1 => (dx_vn [(38, 475)] (.ref v2) h1).bind fun k => dx_cI (K k [.ref v2] h1) (fun x4 h3 => if x2 = x4 then dx_lt (v4 + 6) fun x5 => B_L_law_23 K v0 v1 v2 v3 x5 h3 else some (.inl (some (.int 0)), h3)) dx_x0) dx_x0) (B_L_law_1878 K v0 v1 v2 v3 v4 h) := by
  show dx_le _ (ax_run K P_L_law 1878 [some (v0), some (.ref v1), some (.ref v2), some (.ref v3), some (.int v4), none, none] [] h)
  refine e_aload rfl rfl rfl ?_
  refine e_ivI rfl rfl rfl (Nat.le_of_ble_eq_true rfl) (fun _ _ => e_x0) fun x2 h1 => ?_
  refine e_aload rfl rfl rfl ?_
  refine e_ivI rfl rfl rfl (Nat.le_of_ble_eq_true rfl) (fun _ _ => e_x0) fun x4 h3 => ?_
  refine e_if2 rfl rfl ?_ ?_
  · refine e_iinc (M := fun x5 => [some (v0), some (.ref v1), some (.ref v2), some (.ref v3), some (.int x5), none, none]) rfl rfl (fun _ => dx_sto (Nat.le_of_ble_eq_true rfl) (Or.inr ⟨_, rfl, rfl⟩) rfl) fun x5 => ?_
    refine e_goto rfl ?_
    exact e_wk mP_L_law (ll_1 (ll_1 (ll_1 (ll_1 (ll_1 (ll_0 (ll_0 ll_n)))))))
  · refine e_push rfl ?_
    exact e_zret0 rfl
theorem b_L_law_1891 {K : ax_K} {v0 : Value} {v1 : Nat} {v2 : Nat} {v3 : Nat} {v4 : Int32} {h : ax_H} (hv0 : ax_rv v0 = true) : dx_le ((dx_lI 0 v0 (v4 + 1) h).bind fun x1 => dx_cI (K 202 [.ref v1, .int x1, .ref v3] h) (fun x3 h2 => (dx_lI 0 v0 (v4 + 1) h2).bind fun x4 => (dx_vn [(38, 476)] (.ref v2) h2).bind fun k => dx_cI (K k [.ref v2, .int x4] h2) (fun x6 h5 => (dx_vn [(38, 372)] (.ref v2) h5).bind fun k => dx_cI (K k [.ref v2] h5) (fun x8 h7 => if x8 = x3 then if ¬ x3 = 0 then dx_lt (v4 + 6) fun x9 => B_L_law_23 K v0 v1 v2 v3 x9 h7 else (dx_lJ 1 (.ref v3) 0 h7).bind fun j10 => if (lg_cmp j10 (Int32.toInt64 x6)) = 0 then dx_lt (v4 + 6) fun x11 => B_L_law_23 K v0 v1 v2 v3 x11 h7 else some (.inl (some (.int 0)), h7) else some (.inl (some (.int 0)), h7)) dx_x0) dx_x0) dx_x0) (B_L_law_1891 K v0 v1 v2 v3 v4 h) := by
  show dx_le _ (ax_run K P_L_law 1891 [some (v0), some (.ref v1), some (.ref v2), some (.ref v3), some (.int v4), none, none] [] h)
  refine e_aload rfl rfl rfl ?_
  refine e_aload rfl rfl hv0 ?_
  refine e_iload rfl rfl ?_
  refine e_push rfl ?_
  refine e_i2 rfl ?_
  refine e_iald rfl fun x1 => ?_
  refine e_aload rfl rfl rfl ?_
  refine e_isI rfl (Nat.le_of_ble_eq_true rfl) rfl rfl (Nat.le_of_ble_eq_true rfl) (fun _ _ => e_x0) fun x3 h2 => ?_
  refine e_istore (L' := [some (v0), some (.ref v1), some (.ref v2), some (.ref v3), some (.int v4), some (.int x3), none]) rfl (dx_sto (Nat.le_of_ble_eq_true rfl) (Or.inr ⟨_, rfl, rfl⟩) rfl) ?_
  refine e_aload rfl rfl rfl ?_
  refine e_aload rfl rfl hv0 ?_
  refine e_iload rfl rfl ?_
  refine e_push rfl ?_
  refine e_i2 rfl ?_
  refine e_iald rfl fun x4 => ?_
  refine e_ivI rfl rfl rfl (Nat.le_of_ble_eq_true rfl) (fun _ _ => e_x0) fun x6 h5 => ?_
  refine e_istore (L' := [some (v0), some (.ref v1), some (.ref v2), some (.ref v3), some (.int v4), some (.int x3), some (.int x6)]) rfl (dx_sto (Nat.le_of_ble_eq_true rfl) (Or.inr ⟨_, rfl, rfl⟩) rfl) ?_
  refine e_aload rfl rfl rfl ?_
  refine e_ivI rfl rfl rfl (Nat.le_of_ble_eq_true rfl) (fun _ _ => e_x0) fun x8 h7 => ?_
  refine e_iload rfl rfl ?_
  refine e_if2 rfl rfl ?_ ?_
  · refine e_iload rfl rfl ?_
    refine e_if1 rfl rfl ?_ ?_
    · refine e_goto rfl ?_
      refine e_iinc (M := fun x9 => [some (v0), some (.ref v1), some (.ref v2), some (.ref v3), some (.int x9), some (.int x3), some (.int x6)]) rfl rfl (fun _ => dx_sto (Nat.le_of_ble_eq_true rfl) (Or.inr ⟨_, rfl, rfl⟩) rfl) fun x9 => ?_
      refine e_goto rfl ?_
      exact e_wk mP_L_law (ll_1 (ll_1 (ll_1 (ll_1 (ll_1 (ll_0 (ll_0 ll_n)))))))
    · refine e_aload rfl rfl rfl ?_
      refine e_push rfl ?_
      refine e_lald rfl fun j10 => ?_
      refine e_iload rfl rfl ?_
      refine e_i2l rfl ?_
      refine e_lcmp rfl ?_
      refine e_if1 rfl rfl ?_ ?_
      · refine e_goto rfl ?_
        refine e_iinc (M := fun x11 => [some (v0), some (.ref v1), some (.ref v2), some (.ref v3), some (.int x11), some (.int x3), some (.int x6)]) rfl rfl (fun _ => dx_sto (Nat.le_of_ble_eq_true rfl) (Or.inr ⟨_, rfl, rfl⟩) rfl) fun x11 => ?_
        refine e_goto rfl ?_
        exact e_wk mP_L_law (ll_1 (ll_1 (ll_1 (ll_1 (ll_1 (ll_0 (ll_0 ll_n)))))))
      · refine e_push rfl ?_
        exact e_zret0 rfl
  · refine e_push rfl ?_
    exact e_zret0 rfl
theorem b_L_law_1947 {K : ax_K} {v0 : Value} {v1 : Nat} {v2 : Nat} {v3 : Nat} {v4 : Int32} {h : ax_H} (hv0 : ax_rv v0 = true) : dx_le ((dx_lI 0 v0 (v4 + 1) h).bind fun x1 => (dx_lI 0 v0 (v4 + 2) h).bind fun x2 => dx_cI (K 203 [.ref v1, .int x1, .int x2, .ref v3] h) (fun x4 h3 => (dx_lI 0 v0 (v4 + 1) h3).bind fun x5 => (dx_lI 0 v0 (v4 + 2) h3).bind fun x6 => (dx_vn [(38, 478)] (.ref v2) h3).bind fun k => dx_cI (K k [.ref v2, .int x5, .int x6] h3) (fun x8 h7 => (dx_vn [(38, 372)] (.ref v2) h7).bind fun k => dx_cI (K k [.ref v2] h7) (fun x10 h9 => if x10 = x4 then if ¬ x4 = 0 then dx_lt (v4 + 6) fun x11 => B_L_law_23 K v0 v1 v2 v3 x11 h9 else (dx_lJ 1 (.ref v3) 0 h9).bind fun j12 => if (lg_cmp j12 (Int32.toInt64 x8)) = 0 then dx_lt (v4 + 6) fun x13 => B_L_law_23 K v0 v1 v2 v3 x13 h9 else some (.inl (some (.int 0)), h9) else some (.inl (some (.int 0)), h9)) dx_x0) dx_x0) dx_x0) (B_L_law_1947 K v0 v1 v2 v3 v4 h) := by
  show dx_le _ (ax_run K P_L_law 1947 [some (v0), some (.ref v1), some (.ref v2), some (.ref v3), some (.int v4), none, none] [] h)
  refine e_aload rfl rfl rfl ?_
  refine e_aload rfl rfl hv0 ?_
  refine e_iload rfl rfl ?_
  refine e_push rfl ?_
  refine e_i2 rfl ?_
  refine e_iald rfl fun x1 => ?_
  refine e_aload rfl rfl hv0 ?_
  refine e_iload rfl rfl ?_
  refine e_push rfl ?_
  refine e_i2 rfl ?_
  refine e_iald rfl fun x2 => ?_
  refine e_aload rfl rfl rfl ?_
  refine e_isI rfl (Nat.le_of_ble_eq_true rfl) rfl rfl (Nat.le_of_ble_eq_true rfl) (fun _ _ => e_x0) fun x4 h3 => ?_
  refine e_istore (L' := [some (v0), some (.ref v1), some (.ref v2), some (.ref v3), some (.int v4), some (.int x4), none]) rfl (dx_sto (Nat.le_of_ble_eq_true rfl) (Or.inr ⟨_, rfl, rfl⟩) rfl) ?_
  refine e_aload rfl rfl rfl ?_
  refine e_aload rfl rfl hv0 ?_
  refine e_iload rfl rfl ?_
  refine e_push rfl ?_
  refine e_i2 rfl ?_
  refine e_iald rfl fun x5 => ?_
  refine e_aload rfl rfl hv0 ?_
  refine e_iload rfl rfl ?_
  refine e_push rfl ?_
  refine e_i2 rfl ?_
  refine e_iald rfl fun x6 => ?_
  refine e_ivI rfl rfl rfl (Nat.le_of_ble_eq_true rfl) (fun _ _ => e_x0) fun x8 h7 => ?_
  refine e_istore (L' := [some (v0), some (.ref v1), some (.ref v2), some (.ref v3), some (.int v4), some (.int x4), some (.int x8)]) rfl (dx_sto (Nat.le_of_ble_eq_true rfl) (Or.inr ⟨_, rfl, rfl⟩) rfl) ?_
  refine e_aload rfl rfl rfl ?_
  refine e_ivI rfl rfl rfl (Nat.le_of_ble_eq_true rfl) (fun _ _ => e_x0) fun x10 h9 => ?_
  refine e_iload rfl rfl ?_
  refine e_if2 rfl rfl ?_ ?_
  · refine e_iload rfl rfl ?_
    refine e_if1 rfl rfl ?_ ?_
    · refine e_goto rfl ?_
      refine e_iinc (M := fun x11 => [some (v0), some (.ref v1), some (.ref v2), some (.ref v3), some (.int x11), some (.int x4), some (.int x8)]) rfl rfl (fun _ => dx_sto (Nat.le_of_ble_eq_true rfl) (Or.inr ⟨_, rfl, rfl⟩) rfl) fun x11 => ?_
      refine e_goto rfl ?_
      exact e_wk mP_L_law (ll_1 (ll_1 (ll_1 (ll_1 (ll_1 (ll_0 (ll_0 ll_n)))))))
    · refine e_aload rfl rfl rfl ?_
      refine e_push rfl ?_
      refine e_lald rfl fun j12 => ?_
      refine e_iload rfl rfl ?_
      refine e_i2l rfl ?_
      refine e_lcmp rfl ?_
      refine e_if1 rfl rfl ?_ ?_
      · refine e_goto rfl ?_
        refine e_iinc (M := fun x13 => [some (v0), some (.ref v1), some (.ref v2), some (.ref v3), some (.int x13), some (.int x4), some (.int x8)]) rfl rfl (fun _ => dx_sto (Nat.le_of_ble_eq_true rfl) (Or.inr ⟨_, rfl, rfl⟩) rfl) fun x13 => ?_
        refine e_goto rfl ?_
        exact e_wk mP_L_law (ll_1 (ll_1 (ll_1 (ll_1 (ll_1 (ll_0 (ll_0 ll_n)))))))
      · refine e_push rfl ?_
        exact e_zret0 rfl
  · refine e_push rfl ?_
    exact e_zret0 rfl
theorem b_L_law_2015 {K : ax_K} {v0 : Value} {v1 : Nat} {v2 : Nat} {v3 : Nat} {v4 : Int32} {h : ax_H} (hv0 : ax_rv v0 = true) : dx_le ((dx_vn [(19, 227)] (.ref v1) h).bind fun k => dx_cI (K k [.ref v1] h) (fun x2 h1 => (dx_vn [(38, 479)] (.ref v2) h1).bind fun k => dx_cI (K k [.ref v2] h1) (fun x4 h3 => if x2 = x4 then dx_lt (v4 + 6) fun x5 => B_L_law_23 K v0 v1 v2 v3 x5 h3 else some (.inl (some (.int 0)), h3)) dx_x0) dx_x0) (B_L_law_2015 K v0 v1 v2 v3 v4 h) := by
  show dx_le _ (ax_run K P_L_law 2015 [some (v0), some (.ref v1), some (.ref v2), some (.ref v3), some (.int v4), none, none] [] h)
  refine e_aload rfl rfl rfl ?_
  refine e_ivI rfl rfl rfl (Nat.le_of_ble_eq_true rfl) (fun _ _ => e_x0) fun x2 h1 => ?_
  refine e_aload rfl rfl rfl ?_
  refine e_ivI rfl rfl rfl (Nat.le_of_ble_eq_true rfl) (fun _ _ => e_x0) fun x4 h3 => ?_
  refine e_if2 rfl rfl ?_ ?_
  · refine e_iinc (M := fun x5 => [some (v0), some (.ref v1), some (.ref v2), some (.ref v3), some (.int x5), none, none]) rfl rfl (fun _ => dx_sto (Nat.le_of_ble_eq_true rfl) (Or.inr ⟨_, rfl, rfl⟩) rfl) fun x5 => ?_
    refine e_goto rfl ?_
    exact e_wk mP_L_law (ll_1 (ll_1 (ll_1 (ll_1 (ll_1 (ll_0 (ll_0 ll_n)))))))
  · refine e_push rfl ?_
    exact e_zret0 rfl
theorem b_L_law_2028 {K : ax_K} {v0 : Value} {v1 : Nat} {v2 : Nat} {v3 : Nat} {v4 : Int32} {h : ax_H} (hv0 : ax_rv v0 = true) : dx_le ((dx_vn [(19, 228)] (.ref v1) h).bind fun k => dx_cI (K k [.ref v1] h) (fun x2 h1 => (dx_vn [(38, 480)] (.ref v2) h1).bind fun k => dx_cI (K k [.ref v2] h1) (fun x4 h3 => if x2 = x4 then dx_lt (v4 + 6) fun x5 => B_L_law_23 K v0 v1 v2 v3 x5 h3 else some (.inl (some (.int 0)), h3)) dx_x0) dx_x0) (B_L_law_2028 K v0 v1 v2 v3 v4 h) := by
  show dx_le _ (ax_run K P_L_law 2028 [some (v0), some (.ref v1), some (.ref v2), some (.ref v3), some (.int v4), none, none] [] h)
  refine e_aload rfl rfl rfl ?_
  refine e_ivI rfl rfl rfl (Nat.le_of_ble_eq_true rfl) (fun _ _ => e_x0) fun x2 h1 => ?_
  refine e_aload rfl rfl rfl ?_
  refine e_ivI rfl rfl rfl (Nat.le_of_ble_eq_true rfl) (fun _ _ => e_x0) fun x4 h3 => ?_
  refine e_if2 rfl rfl ?_ ?_
  · refine e_iinc (M := fun x5 => [some (v0), some (.ref v1), some (.ref v2), some (.ref v3), some (.int x5), none, none]) rfl rfl (fun _ => dx_sto (Nat.le_of_ble_eq_true rfl) (Or.inr ⟨_, rfl, rfl⟩) rfl) fun x5 => ?_
    refine e_goto rfl ?_
    exact e_wk mP_L_law (ll_1 (ll_1 (ll_1 (ll_1 (ll_1 (ll_0 (ll_0 ll_n)))))))
  · refine e_push rfl ?_
    exact e_zret0 rfl
theorem b_L_law_2041 {K : ax_K} {v0 : Value} {v1 : Nat} {v2 : Nat} {v3 : Nat} {v4 : Int32} {h : ax_H} (hv0 : ax_rv v0 = true) : dx_le ((dx_lI 0 v0 (v4 + 1) h).bind fun x1 => dx_cI (K 204 [.ref v1, .int x1, .ref v3] h) (fun x3 h2 => (dx_lI 0 v0 (v4 + 1) h2).bind fun x4 => (dx_vn [(38, 483)] (.ref v2) h2).bind fun k => dx_cI (K k [.ref v2, .int x4] h2) (fun x6 h5 => (dx_vn [(38, 372)] (.ref v2) h5).bind fun k => dx_cI (K k [.ref v2] h5) (fun x8 h7 => if x8 = x3 then if ¬ x3 = 0 then dx_lt (v4 + 6) fun x9 => B_L_law_23 K v0 v1 v2 v3 x9 h7 else (dx_lJ 1 (.ref v3) 0 h7).bind fun j10 => if (lg_cmp j10 (Int32.toInt64 x6)) = 0 then dx_lt (v4 + 6) fun x11 => B_L_law_23 K v0 v1 v2 v3 x11 h7 else some (.inl (some (.int 0)), h7) else some (.inl (some (.int 0)), h7)) dx_x0) dx_x0) dx_x0) (B_L_law_2041 K v0 v1 v2 v3 v4 h) := by
  show dx_le _ (ax_run K P_L_law 2041 [some (v0), some (.ref v1), some (.ref v2), some (.ref v3), some (.int v4), none, none] [] h)
  refine e_aload rfl rfl rfl ?_
  refine e_aload rfl rfl hv0 ?_
  refine e_iload rfl rfl ?_
  refine e_push rfl ?_
  refine e_i2 rfl ?_
  refine e_iald rfl fun x1 => ?_
  refine e_aload rfl rfl rfl ?_
  refine e_isI rfl (Nat.le_of_ble_eq_true rfl) rfl rfl (Nat.le_of_ble_eq_true rfl) (fun _ _ => e_x0) fun x3 h2 => ?_
  refine e_istore (L' := [some (v0), some (.ref v1), some (.ref v2), some (.ref v3), some (.int v4), some (.int x3), none]) rfl (dx_sto (Nat.le_of_ble_eq_true rfl) (Or.inr ⟨_, rfl, rfl⟩) rfl) ?_
  refine e_aload rfl rfl rfl ?_
  refine e_aload rfl rfl hv0 ?_
  refine e_iload rfl rfl ?_
  refine e_push rfl ?_
  refine e_i2 rfl ?_
  refine e_iald rfl fun x4 => ?_
  refine e_ivI rfl rfl rfl (Nat.le_of_ble_eq_true rfl) (fun _ _ => e_x0) fun x6 h5 => ?_
  refine e_istore (L' := [some (v0), some (.ref v1), some (.ref v2), some (.ref v3), some (.int v4), some (.int x3), some (.int x6)]) rfl (dx_sto (Nat.le_of_ble_eq_true rfl) (Or.inr ⟨_, rfl, rfl⟩) rfl) ?_
  refine e_aload rfl rfl rfl ?_
  refine e_ivI rfl rfl rfl (Nat.le_of_ble_eq_true rfl) (fun _ _ => e_x0) fun x8 h7 => ?_
  refine e_iload rfl rfl ?_
  refine e_if2 rfl rfl ?_ ?_
  · refine e_iload rfl rfl ?_
    refine e_if1 rfl rfl ?_ ?_
    · refine e_goto rfl ?_
      refine e_iinc (M := fun x9 => [some (v0), some (.ref v1), some (.ref v2), some (.ref v3), some (.int x9), some (.int x3), some (.int x6)]) rfl rfl (fun _ => dx_sto (Nat.le_of_ble_eq_true rfl) (Or.inr ⟨_, rfl, rfl⟩) rfl) fun x9 => ?_
      refine e_goto rfl ?_
      exact e_wk mP_L_law (ll_1 (ll_1 (ll_1 (ll_1 (ll_1 (ll_0 (ll_0 ll_n)))))))
    · refine e_aload rfl rfl rfl ?_
      refine e_push rfl ?_
      refine e_lald rfl fun j10 => ?_
      refine e_iload rfl rfl ?_
      refine e_i2l rfl ?_
      refine e_lcmp rfl ?_
      refine e_if1 rfl rfl ?_ ?_
      · refine e_goto rfl ?_
        refine e_iinc (M := fun x11 => [some (v0), some (.ref v1), some (.ref v2), some (.ref v3), some (.int x11), some (.int x3), some (.int x6)]) rfl rfl (fun _ => dx_sto (Nat.le_of_ble_eq_true rfl) (Or.inr ⟨_, rfl, rfl⟩) rfl) fun x11 => ?_
        refine e_goto rfl ?_
        exact e_wk mP_L_law (ll_1 (ll_1 (ll_1 (ll_1 (ll_1 (ll_0 (ll_0 ll_n)))))))
      · refine e_push rfl ?_
        exact e_zret0 rfl
  · refine e_push rfl ?_
    exact e_zret0 rfl
theorem b_L_law_2097 {K : ax_K} {v0 : Value} {v1 : Nat} {v2 : Nat} {v3 : Nat} {v4 : Int32} {h : ax_H} (hv0 : ax_rv v0 = true) : dx_le ((dx_lI 0 v0 (v4 + 1) h).bind fun x1 => dx_cI (K 205 [.ref v1, .int x1, .ref v3] h) (fun x3 h2 => (dx_lI 0 v0 (v4 + 1) h2).bind fun x4 => (dx_vn [(38, 484)] (.ref v2) h2).bind fun k => dx_cI (K k [.ref v2, .int x4] h2) (fun x6 h5 => (dx_vn [(38, 372)] (.ref v2) h5).bind fun k => dx_cI (K k [.ref v2] h5) (fun x8 h7 => if x8 = x3 then if ¬ x3 = 0 then dx_lt (v4 + 6) fun x9 => B_L_law_23 K v0 v1 v2 v3 x9 h7 else (dx_lJ 1 (.ref v3) 0 h7).bind fun j10 => if (lg_cmp j10 (Int32.toInt64 x6)) = 0 then dx_lt (v4 + 6) fun x11 => B_L_law_23 K v0 v1 v2 v3 x11 h7 else some (.inl (some (.int 0)), h7) else some (.inl (some (.int 0)), h7)) dx_x0) dx_x0) dx_x0) (B_L_law_2097 K v0 v1 v2 v3 v4 h) := by
  show dx_le _ (ax_run K P_L_law 2097 [some (v0), some (.ref v1), some (.ref v2), some (.ref v3), some (.int v4), none, none] [] h)
  refine e_aload rfl rfl rfl ?_
  refine e_aload rfl rfl hv0 ?_
  refine e_iload rfl rfl ?_
  refine e_push rfl ?_
  refine e_i2 rfl ?_
  refine e_iald rfl fun x1 => ?_
  refine e_aload rfl rfl rfl ?_
  refine e_isI rfl (Nat.le_of_ble_eq_true rfl) rfl rfl (Nat.le_of_ble_eq_true rfl) (fun _ _ => e_x0) fun x3 h2 => ?_
  refine e_istore (L' := [some (v0), some (.ref v1), some (.ref v2), some (.ref v3), some (.int v4), some (.int x3), none]) rfl (dx_sto (Nat.le_of_ble_eq_true rfl) (Or.inr ⟨_, rfl, rfl⟩) rfl) ?_
  refine e_aload rfl rfl rfl ?_
  refine e_aload rfl rfl hv0 ?_
  refine e_iload rfl rfl ?_
  refine e_push rfl ?_
  refine e_i2 rfl ?_
  refine e_iald rfl fun x4 => ?_
  refine e_ivI rfl rfl rfl (Nat.le_of_ble_eq_true rfl) (fun _ _ => e_x0) fun x6 h5 => ?_
  refine e_istore (L' := [some (v0), some (.ref v1), some (.ref v2), some (.ref v3), some (.int v4), some (.int x3), some (.int x6)]) rfl (dx_sto (Nat.le_of_ble_eq_true rfl) (Or.inr ⟨_, rfl, rfl⟩) rfl) ?_
  refine e_aload rfl rfl rfl ?_
  refine e_ivI rfl rfl rfl (Nat.le_of_ble_eq_true rfl) (fun _ _ => e_x0) fun x8 h7 => ?_
  refine e_iload rfl rfl ?_
  refine e_if2 rfl rfl ?_ ?_
  · refine e_iload rfl rfl ?_
    refine e_if1 rfl rfl ?_ ?_
    · refine e_goto rfl ?_
      refine e_iinc (M := fun x9 => [some (v0), some (.ref v1), some (.ref v2), some (.ref v3), some (.int x9), some (.int x3), some (.int x6)]) rfl rfl (fun _ => dx_sto (Nat.le_of_ble_eq_true rfl) (Or.inr ⟨_, rfl, rfl⟩) rfl) fun x9 => ?_
      refine e_goto rfl ?_
      exact e_wk mP_L_law (ll_1 (ll_1 (ll_1 (ll_1 (ll_1 (ll_0 (ll_0 ll_n)))))))
    · refine e_aload rfl rfl rfl ?_
      refine e_push rfl ?_
      refine e_lald rfl fun j10 => ?_
      refine e_iload rfl rfl ?_
      refine e_i2l rfl ?_
      refine e_lcmp rfl ?_
      refine e_if1 rfl rfl ?_ ?_
      · refine e_goto rfl ?_
        refine e_iinc (M := fun x11 => [some (v0), some (.ref v1), some (.ref v2), some (.ref v3), some (.int x11), some (.int x3), some (.int x6)]) rfl rfl (fun _ => dx_sto (Nat.le_of_ble_eq_true rfl) (Or.inr ⟨_, rfl, rfl⟩) rfl) fun x11 => ?_
        refine e_goto rfl ?_
        exact e_wk mP_L_law (ll_1 (ll_1 (ll_1 (ll_1 (ll_1 (ll_0 (ll_0 ll_n)))))))
      · refine e_push rfl ?_
        exact e_zret0 rfl
  · refine e_push rfl ?_
    exact e_zret0 rfl
theorem b_L_law_2153 {K : ax_K} {v0 : Value} {v1 : Nat} {v2 : Nat} {v3 : Nat} {v4 : Int32} {h : ax_H} (hv0 : ax_rv v0 = true) : dx_le ((dx_lI 0 v0 (v4 + 1) h).bind fun x1 => (dx_lI 0 v0 (v4 + 2) h).bind fun x2 => (dx_lI 0 v0 (v4 + 3) h).bind fun x3 => (dx_lI 0 v0 (v4 + 4) h).bind fun x4 => dx_cI (K 206 [.ref v1, .int x1, .int x2, .int x3, .int x4, .ref v3] h) (fun x6 h5 => (dx_lI 0 v0 (v4 + 1) h5).bind fun x7 => (dx_lI 0 v0 (v4 + 2) h5).bind fun x8 => (dx_lI 0 v0 (v4 + 3) h5).bind fun x9 => (dx_lI 0 v0 (v4 + 4) h5).bind fun x10 => (dx_vn [(38, 485)] (.ref v2) h5).bind fun k => dx_cI (K k [.ref v2, .int x7, .int x8, .int x9, .int x10] h5) (fun x12 h11 => (dx_vn [(38, 372)] (.ref v2) h11).bind fun k => dx_cI (K k [.ref v2] h11) (fun x14 h13 => if x14 = x6 then if ¬ x6 = 0 then dx_lt (v4 + 6) fun x15 => B_L_law_23 K v0 v1 v2 v3 x15 h13 else (dx_lJ 1 (.ref v3) 0 h13).bind fun j16 => if (lg_cmp j16 (Int32.toInt64 x12)) = 0 then dx_lt (v4 + 6) fun x17 => B_L_law_23 K v0 v1 v2 v3 x17 h13 else some (.inl (some (.int 0)), h13) else some (.inl (some (.int 0)), h13)) dx_x0) dx_x0) dx_x0) (B_L_law_2153 K v0 v1 v2 v3 v4 h) := by
  show dx_le _ (ax_run K P_L_law 2153 [some (v0), some (.ref v1), some (.ref v2), some (.ref v3), some (.int v4), none, none] [] h)
  refine e_aload rfl rfl rfl ?_
  refine e_aload rfl rfl hv0 ?_
  refine e_iload rfl rfl ?_
  refine e_push rfl ?_
  refine e_i2 rfl ?_
  refine e_iald rfl fun x1 => ?_
  refine e_aload rfl rfl hv0 ?_
  refine e_iload rfl rfl ?_
  refine e_push rfl ?_
  refine e_i2 rfl ?_
  refine e_iald rfl fun x2 => ?_
  refine e_aload rfl rfl hv0 ?_
  refine e_iload rfl rfl ?_
  refine e_push rfl ?_
  refine e_i2 rfl ?_
  refine e_iald rfl fun x3 => ?_
  refine e_aload rfl rfl hv0 ?_
  refine e_iload rfl rfl ?_
  refine e_push rfl ?_
  refine e_i2 rfl ?_
  refine e_iald rfl fun x4 => ?_
  refine e_aload rfl rfl rfl ?_
  refine e_isI rfl (Nat.le_of_ble_eq_true rfl) rfl rfl (Nat.le_of_ble_eq_true rfl) (fun _ _ => e_x0) fun x6 h5 => ?_
  refine e_istore (L' := [some (v0), some (.ref v1), some (.ref v2), some (.ref v3), some (.int v4), some (.int x6), none]) rfl (dx_sto (Nat.le_of_ble_eq_true rfl) (Or.inr ⟨_, rfl, rfl⟩) rfl) ?_
  refine e_aload rfl rfl rfl ?_
  refine e_aload rfl rfl hv0 ?_
  refine e_iload rfl rfl ?_
  refine e_push rfl ?_
  refine e_i2 rfl ?_
  refine e_iald rfl fun x7 => ?_
  refine e_aload rfl rfl hv0 ?_
  refine e_iload rfl rfl ?_
  refine e_push rfl ?_
  refine e_i2 rfl ?_
  refine e_iald rfl fun x8 => ?_
  refine e_aload rfl rfl hv0 ?_
  refine e_iload rfl rfl ?_
  refine e_push rfl ?_
  refine e_i2 rfl ?_
  refine e_iald rfl fun x9 => ?_
  refine e_aload rfl rfl hv0 ?_
  refine e_iload rfl rfl ?_
  refine e_push rfl ?_
  refine e_i2 rfl ?_
  refine e_iald rfl fun x10 => ?_
  refine e_ivI rfl rfl rfl (Nat.le_of_ble_eq_true rfl) (fun _ _ => e_x0) fun x12 h11 => ?_
  refine e_istore (L' := [some (v0), some (.ref v1), some (.ref v2), some (.ref v3), some (.int v4), some (.int x6), some (.int x12)]) rfl (dx_sto (Nat.le_of_ble_eq_true rfl) (Or.inr ⟨_, rfl, rfl⟩) rfl) ?_
  refine e_aload rfl rfl rfl ?_
  refine e_ivI rfl rfl rfl (Nat.le_of_ble_eq_true rfl) (fun _ _ => e_x0) fun x14 h13 => ?_
  refine e_iload rfl rfl ?_
  refine e_if2 rfl rfl ?_ ?_
  · refine e_iload rfl rfl ?_
    refine e_if1 rfl rfl ?_ ?_
    · refine e_goto rfl ?_
      refine e_iinc (M := fun x15 => [some (v0), some (.ref v1), some (.ref v2), some (.ref v3), some (.int x15), some (.int x6), some (.int x12)]) rfl rfl (fun _ => dx_sto (Nat.le_of_ble_eq_true rfl) (Or.inr ⟨_, rfl, rfl⟩) rfl) fun x15 => ?_
      refine e_goto rfl ?_
      exact e_wk mP_L_law (ll_1 (ll_1 (ll_1 (ll_1 (ll_1 (ll_0 (ll_0 ll_n)))))))
    · refine e_aload rfl rfl rfl ?_
      refine e_push rfl ?_
      refine e_lald rfl fun j16 => ?_
      refine e_iload rfl rfl ?_
      refine e_i2l rfl ?_
      refine e_lcmp rfl ?_
      refine e_if1 rfl rfl ?_ ?_
      · refine e_goto rfl ?_
        refine e_iinc (M := fun x17 => [some (v0), some (.ref v1), some (.ref v2), some (.ref v3), some (.int x17), some (.int x6), some (.int x12)]) rfl rfl (fun _ => dx_sto (Nat.le_of_ble_eq_true rfl) (Or.inr ⟨_, rfl, rfl⟩) rfl) fun x17 => ?_
        refine e_goto rfl ?_
        exact e_wk mP_L_law (ll_1 (ll_1 (ll_1 (ll_1 (ll_1 (ll_0 (ll_0 ll_n)))))))
      · refine e_push rfl ?_
        exact e_zret0 rfl
  · refine e_push rfl ?_
    exact e_zret0 rfl
theorem b_L_law_2245 {K : ax_K} {v0 : Value} {v1 : Nat} {v2 : Nat} {v3 : Nat} {v4 : Int32} {h : ax_H} (hv0 : ax_rv v0 = true) : dx_le ((dx_vn [(19, 229)] (.ref v1) h).bind fun k => dx_cI (K k [.ref v1] h) (fun x2 h1 => (dx_vn [(38, 486)] (.ref v2) h1).bind fun k => dx_cI (K k [.ref v2] h1) (fun x4 h3 => if x2 = x4 then dx_lt (v4 + 6) fun x5 => B_L_law_23 K v0 v1 v2 v3 x5 h3 else some (.inl (some (.int 0)), h3)) dx_x0) dx_x0) (B_L_law_2245 K v0 v1 v2 v3 v4 h) := by
  show dx_le _ (ax_run K P_L_law 2245 [some (v0), some (.ref v1), some (.ref v2), some (.ref v3), some (.int v4), none, none] [] h)
  refine e_aload rfl rfl rfl ?_
  refine e_ivI rfl rfl rfl (Nat.le_of_ble_eq_true rfl) (fun _ _ => e_x0) fun x2 h1 => ?_
  refine e_aload rfl rfl rfl ?_
  refine e_ivI rfl rfl rfl (Nat.le_of_ble_eq_true rfl) (fun _ _ => e_x0) fun x4 h3 => ?_
  refine e_if2 rfl rfl ?_ ?_
  · refine e_iinc (M := fun x5 => [some (v0), some (.ref v1), some (.ref v2), some (.ref v3), some (.int x5), none, none]) rfl rfl (fun _ => dx_sto (Nat.le_of_ble_eq_true rfl) (Or.inr ⟨_, rfl, rfl⟩) rfl) fun x5 => ?_
    refine e_goto rfl ?_
    exact e_wk mP_L_law (ll_1 (ll_1 (ll_1 (ll_1 (ll_1 (ll_0 (ll_0 ll_n)))))))
  · refine e_push rfl ?_
    exact e_zret0 rfl
theorem b_L_law_2258 {K : ax_K} {v0 : Value} {v1 : Nat} {v2 : Nat} {v3 : Nat} {v4 : Int32} {h : ax_H} (hv0 : ax_rv v0 = true) : dx_le (dx_cI (K 207 [.ref v1, .ref v3] h) (fun x2 h1 => (dx_vn [(38, 487)] (.ref v2) h1).bind fun k => dx_cI (K k [.ref v2] h1) (fun x4 h3 => (dx_vn [(38, 372)] (.ref v2) h3).bind fun k => dx_cI (K k [.ref v2] h3) (fun x6 h5 => if x6 = x2 then if ¬ x2 = 0 then dx_lt (v4 + 6) fun x7 => B_L_law_23 K v0 v1 v2 v3 x7 h5 else (dx_lJ 1 (.ref v3) 0 h5).bind fun j8 => if (lg_cmp j8 (Int32.toInt64 x4)) = 0 then dx_lt (v4 + 6) fun x9 => B_L_law_23 K v0 v1 v2 v3 x9 h5 else some (.inl (some (.int 0)), h5) else some (.inl (some (.int 0)), h5)) dx_x0) dx_x0) dx_x0) (B_L_law_2258 K v0 v1 v2 v3 v4 h) := by
  show dx_le _ (ax_run K P_L_law 2258 [some (v0), some (.ref v1), some (.ref v2), some (.ref v3), some (.int v4), none, none] [] h)
  refine e_aload rfl rfl rfl ?_
  refine e_aload rfl rfl rfl ?_
  refine e_isI rfl (Nat.le_of_ble_eq_true rfl) rfl rfl (Nat.le_of_ble_eq_true rfl) (fun _ _ => e_x0) fun x2 h1 => ?_
  refine e_istore (L' := [some (v0), some (.ref v1), some (.ref v2), some (.ref v3), some (.int v4), some (.int x2), none]) rfl (dx_sto (Nat.le_of_ble_eq_true rfl) (Or.inr ⟨_, rfl, rfl⟩) rfl) ?_
  refine e_aload rfl rfl rfl ?_
  refine e_ivI rfl rfl rfl (Nat.le_of_ble_eq_true rfl) (fun _ _ => e_x0) fun x4 h3 => ?_
  refine e_istore (L' := [some (v0), some (.ref v1), some (.ref v2), some (.ref v3), some (.int v4), some (.int x2), some (.int x4)]) rfl (dx_sto (Nat.le_of_ble_eq_true rfl) (Or.inr ⟨_, rfl, rfl⟩) rfl) ?_
  refine e_aload rfl rfl rfl ?_
  refine e_ivI rfl rfl rfl (Nat.le_of_ble_eq_true rfl) (fun _ _ => e_x0) fun x6 h5 => ?_
  refine e_iload rfl rfl ?_
  refine e_if2 rfl rfl ?_ ?_
  · refine e_iload rfl rfl ?_
    refine e_if1 rfl rfl ?_ ?_
    · refine e_goto rfl ?_
      refine e_iinc (M := fun x7 => [some (v0), some (.ref v1), some (.ref v2), some (.ref v3), some (.int x7), some (.int x2), some (.int x4)]) rfl rfl (fun _ => dx_sto (Nat.le_of_ble_eq_true rfl) (Or.inr ⟨_, rfl, rfl⟩) rfl) fun x7 => ?_
      refine e_goto rfl ?_
      exact e_wk mP_L_law (ll_1 (ll_1 (ll_1 (ll_1 (ll_1 (ll_0 (ll_0 ll_n)))))))
    · refine e_aload rfl rfl rfl ?_
      refine e_push rfl ?_
      refine e_lald rfl fun j8 => ?_
      refine e_iload rfl rfl ?_
      refine e_i2l rfl ?_
      refine e_lcmp rfl ?_
      refine e_if1 rfl rfl ?_ ?_
      · refine e_goto rfl ?_
        refine e_iinc (M := fun x9 => [some (v0), some (.ref v1), some (.ref v2), some (.ref v3), some (.int x9), some (.int x2), some (.int x4)]) rfl rfl (fun _ => dx_sto (Nat.le_of_ble_eq_true rfl) (Or.inr ⟨_, rfl, rfl⟩) rfl) fun x9 => ?_
        refine e_goto rfl ?_
        exact e_wk mP_L_law (ll_1 (ll_1 (ll_1 (ll_1 (ll_1 (ll_0 (ll_0 ll_n)))))))
      · refine e_push rfl ?_
        exact e_zret0 rfl
  · refine e_push rfl ?_
    exact e_zret0 rfl
theorem b_L_law_2302 {K : ax_K} {v0 : Value} {v1 : Nat} {v2 : Nat} {v3 : Nat} {v4 : Int32} {h : ax_H} (hv0 : ax_rv v0 = true) : dx_le ((dx_lI 0 v0 (v4 + 1) h).bind fun x1 => dx_cI (K 208 [.ref v1, .int x1, .ref v3] h) (fun x3 h2 => (dx_lI 0 v0 (v4 + 1) h2).bind fun x4 => (dx_vn [(38, 490)] (.ref v2) h2).bind fun k => dx_cI (K k [.ref v2, .int x4] h2) (fun x6 h5 => (dx_vn [(38, 372)] (.ref v2) h5).bind fun k => dx_cI (K k [.ref v2] h5) (fun x8 h7 => if x8 = x3 then if ¬ x3 = 0 then dx_lt (v4 + 6) fun x9 => B_L_law_23 K v0 v1 v2 v3 x9 h7 else (dx_lJ 1 (.ref v3) 0 h7).bind fun j10 => if (lg_cmp j10 (Int32.toInt64 x6)) = 0 then dx_lt (v4 + 6) fun x11 => B_L_law_23 K v0 v1 v2 v3 x11 h7 else some (.inl (some (.int 0)), h7) else some (.inl (some (.int 0)), h7)) dx_x0) dx_x0) dx_x0) (B_L_law_2302 K v0 v1 v2 v3 v4 h) := by
  show dx_le _ (ax_run K P_L_law 2302 [some (v0), some (.ref v1), some (.ref v2), some (.ref v3), some (.int v4), none, none] [] h)
  refine e_aload rfl rfl rfl ?_
  refine e_aload rfl rfl hv0 ?_
  refine e_iload rfl rfl ?_
  refine e_push rfl ?_
  refine e_i2 rfl ?_
  refine e_iald rfl fun x1 => ?_
  refine e_aload rfl rfl rfl ?_
  refine e_isI rfl (Nat.le_of_ble_eq_true rfl) rfl rfl (Nat.le_of_ble_eq_true rfl) (fun _ _ => e_x0) fun x3 h2 => ?_
  refine e_istore (L' := [some (v0), some (.ref v1), some (.ref v2), some (.ref v3), some (.int v4), some (.int x3), none]) rfl (dx_sto (Nat.le_of_ble_eq_true rfl) (Or.inr ⟨_, rfl, rfl⟩) rfl) ?_
  refine e_aload rfl rfl rfl ?_
  refine e_aload rfl rfl hv0 ?_
  refine e_iload rfl rfl ?_
  refine e_push rfl ?_
  refine e_i2 rfl ?_
  refine e_iald rfl fun x4 => ?_
  refine e_ivI rfl rfl rfl (Nat.le_of_ble_eq_true rfl) (fun _ _ => e_x0) fun x6 h5 => ?_
  refine e_istore (L' := [some (v0), some (.ref v1), some (.ref v2), some (.ref v3), some (.int v4), some (.int x3), some (.int x6)]) rfl (dx_sto (Nat.le_of_ble_eq_true rfl) (Or.inr ⟨_, rfl, rfl⟩) rfl) ?_
  refine e_aload rfl rfl rfl ?_
  refine e_ivI rfl rfl rfl (Nat.le_of_ble_eq_true rfl) (fun _ _ => e_x0) fun x8 h7 => ?_
  refine e_iload rfl rfl ?_
  refine e_if2 rfl rfl ?_ ?_
  · refine e_iload rfl rfl ?_
    refine e_if1 rfl rfl ?_ ?_
    · refine e_goto rfl ?_
      refine e_iinc (M := fun x9 => [some (v0), some (.ref v1), some (.ref v2), some (.ref v3), some (.int x9), some (.int x3), some (.int x6)]) rfl rfl (fun _ => dx_sto (Nat.le_of_ble_eq_true rfl) (Or.inr ⟨_, rfl, rfl⟩) rfl) fun x9 => ?_
      refine e_goto rfl ?_
      exact e_wk mP_L_law (ll_1 (ll_1 (ll_1 (ll_1 (ll_1 (ll_0 (ll_0 ll_n)))))))
    · refine e_aload rfl rfl rfl ?_
      refine e_push rfl ?_
      refine e_lald rfl fun j10 => ?_
      refine e_iload rfl rfl ?_
      refine e_i2l rfl ?_
      refine e_lcmp rfl ?_
      refine e_if1 rfl rfl ?_ ?_
      · refine e_goto rfl ?_
        refine e_iinc (M := fun x11 => [some (v0), some (.ref v1), some (.ref v2), some (.ref v3), some (.int x11), some (.int x3), some (.int x6)]) rfl rfl (fun _ => dx_sto (Nat.le_of_ble_eq_true rfl) (Or.inr ⟨_, rfl, rfl⟩) rfl) fun x11 => ?_
        refine e_goto rfl ?_
        exact e_wk mP_L_law (ll_1 (ll_1 (ll_1 (ll_1 (ll_1 (ll_0 (ll_0 ll_n)))))))
      · refine e_push rfl ?_
        exact e_zret0 rfl
  · refine e_push rfl ?_
    exact e_zret0 rfl
theorem b_L_law_2358 {K : ax_K} {v0 : Value} {v1 : Nat} {v2 : Nat} {v3 : Nat} {v4 : Int32} {h : ax_H} (hv0 : ax_rv v0 = true) : dx_le ((dx_vn [(19, 230)] (.ref v1) h).bind fun k => dx_cI (K k [.ref v1] h) (fun x2 h1 => (dx_vn [(38, 491)] (.ref v2) h1).bind fun k => dx_cI (K k [.ref v2] h1) (fun x4 h3 => if x2 = x4 then dx_lt (v4 + 6) fun x5 => B_L_law_23 K v0 v1 v2 v3 x5 h3 else some (.inl (some (.int 0)), h3)) dx_x0) dx_x0) (B_L_law_2358 K v0 v1 v2 v3 v4 h) := by
  show dx_le _ (ax_run K P_L_law 2358 [some (v0), some (.ref v1), some (.ref v2), some (.ref v3), some (.int v4), none, none] [] h)
  refine e_aload rfl rfl rfl ?_
  refine e_ivI rfl rfl rfl (Nat.le_of_ble_eq_true rfl) (fun _ _ => e_x0) fun x2 h1 => ?_
  refine e_aload rfl rfl rfl ?_
  refine e_ivI rfl rfl rfl (Nat.le_of_ble_eq_true rfl) (fun _ _ => e_x0) fun x4 h3 => ?_
  refine e_if2 rfl rfl ?_ ?_
  · refine e_iinc (M := fun x5 => [some (v0), some (.ref v1), some (.ref v2), some (.ref v3), some (.int x5), none, none]) rfl rfl (fun _ => dx_sto (Nat.le_of_ble_eq_true rfl) (Or.inr ⟨_, rfl, rfl⟩) rfl) fun x5 => ?_
    refine e_goto rfl ?_
    exact e_wk mP_L_law (ll_1 (ll_1 (ll_1 (ll_1 (ll_1 (ll_0 (ll_0 ll_n)))))))
  · refine e_push rfl ?_
    exact e_zret0 rfl
theorem m_L_law {d : Nat} {v0 : Value} {h : ax_H} (hv0 : ax_rv v0 = true) : dx_le (dx_nw h (.inr (19, [.null, .null, .null, .null, .null, .null])) 6 fun a2 h1 => dx_cV ((ax_c d) 209 [.ref a2] h1) (fun h3 => dx_nw h3 (.inr (38, [.int 0, .int 0, .null, .null, .null, .null, .null, .null, .null, .null, .null, .null, .null, .null, .int 0, .int 0, .int 0, .int 0, .int 0, .int 0, .null, .null, .int 0, .int 0, .int 0, .null, .null, .int 0, .int 0, .int 0, .int 0, .int 0, .int 0, .int 0, .int 0, .int 0, .null, .int 0, .int 0, .int 0, .int 0, .null, .null, .int 0, .null, .null, .int 0, .int 0, .null, .null, .null, .null, .int 0, .null, .null, .int 0, .null, .null, .int 0, .int 0, .int 0, .null, .null, .null, .null, .null, .null, .null, .null, .null, .null, .null, .null, .null])) 74 fun a5 h4 => dx_cV ((ax_c d) 370 [.ref a5] h4) (fun h6 => dx_na 1 1 1 h6 fun a8 h7 => B_L_law_23 (ax_c d) v0 a2 a5 a8 0 h7) dx_x0) dx_x0) (ax_run (ax_c d) P_L_law 0 [some (v0), none, none, none, none, none, none] [] h) := by
  refine e_new rfl fun a2 h1 => ?_
  refine e_dup rfl rfl ?_
  refine e_isprV rfl rfl rfl (Nat.le_of_ble_eq_true rfl) (fun _ _ => e_x0) fun h3 => ?_
  refine e_astore (L' := [some (v0), some (.ref a2), none, none, none, none, none]) rfl rfl (dx_sto (Nat.le_of_ble_eq_true rfl) (Or.inr ⟨_, rfl, dx_nl hv0⟩) rfl) ?_
  refine e_new rfl fun a5 h4 => ?_
  refine e_dup rfl rfl ?_
  refine e_isprV rfl rfl rfl (Nat.le_of_ble_eq_true rfl) (fun _ _ => e_x0) fun h6 => ?_
  refine e_astore (L' := [some (v0), some (.ref a2), some (.ref a5), none, none, none, none]) rfl rfl (dx_sto (Nat.le_of_ble_eq_true rfl) (Or.inr ⟨_, rfl, rfl⟩) rfl) ?_
  refine e_push rfl ?_
  refine e_newa rfl fun a8 h7 => ?_
  refine e_astore (L' := [some (v0), some (.ref a2), some (.ref a5), some (.ref a8), none, none, none]) rfl rfl (dx_sto (Nat.le_of_ble_eq_true rfl) (Or.inr ⟨_, rfl, rfl⟩) rfl) ?_
  refine e_push rfl ?_
  refine e_istore (L' := [some (v0), some (.ref a2), some (.ref a5), some (.ref a8), some (.int 0), none, none]) rfl (dx_sto (Nat.le_of_ble_eq_true rfl) (Or.inr ⟨_, rfl, rfl⟩) rfl) ?_
  exact e_wk mP_L_law (ll_1 (ll_1 (ll_1 (ll_1 (ll_1 (ll_0 (ll_0 ll_n)))))))
noncomputable def B_X0_section_12 (K : ax_K) (s0 : Nat) (h : ax_H) : Option ax_R := ax_run K P_X0_section 12 [none, none, none, none] [.ref s0] h
noncomputable def B_X0_section_15 (K : ax_K) (s0 : Nat) (h : ax_H) : Option ax_R := ax_run K P_X0_section 15 [none, none, none, none] [.ref s0] h
theorem b_X0_section_12 {K : ax_K} {s0 : Nat} {h : ax_H}  : dx_le (some (.inl (some (.int 1)), h)) (B_X0_section_12 K s0 h) := by
  show dx_le _ (ax_run K P_X0_section 12 [none, none, none, none] [.ref s0] h)
  refine e_astore (L' := [none, none, none, some (.ref s0)]) rfl rfl (dx_sto (Nat.le_of_ble_eq_true rfl) (Or.inr ⟨_, rfl, rfl⟩) rfl) ?_
  refine e_push rfl ?_
  exact e_iret rfl
theorem b_X0_section_15 {K : ax_K} {s0 : Nat} {h : ax_H}  : dx_le (some (.inl (some (.int 2)), h)) (B_X0_section_15 K s0 h) := by
  show dx_le _ (ax_run K P_X0_section 15 [none, none, none, none] [.ref s0] h)
  refine e_astore (L' := [none, none, none, some (.ref s0)]) rfl rfl (dx_sto (Nat.le_of_ble_eq_true rfl) (Or.inr ⟨_, rfl, rfl⟩) rfl) ?_
  refine e_push rfl ?_
  exact e_iret rfl
theorem m_X0_section {d : Nat} {v0 : Value} {v1 : Int32} {v2 : Value} {h : ax_H} (hv0 : ax_rv v0 = true) (hv2 : ax_rv v2 = true) : dx_le ((dx_vn [(19, 231)] v0 h).bind fun k => dx_cI ((ax_c d) k [v0, .int v1] h) (fun x2 h1 => (dx_sJ 1 v2 0 (Int32.toInt64 x2) h1).bind fun h3 => some (.inl (some (.int 0)), h3)) (fun i hx => dx_xp (fun k : Nat => if k ∈ [0, 44] then some (some 15) else if k ∈ [18] then some (some 12) else if k ∈ [6, 7, 28, 32, 33, 34, 35, 45, 46] then some none else none) i hx (fun pc => if pc = 12 then B_X0_section_12 (ax_c d) i hx else (fun pc => if pc = 15 then B_X0_section_15 (ax_c d) i hx else none) pc))) (ax_c (d + 1) 178 [v0, .int v1, v2] h) := by
  refine e_entry (L' := [some (v0), some (.int v1), some (v2), none]) rfl (ag_A hv0 (ag_I (ag_A hv2 ag_n))) (Nat.le_of_ble_eq_true rfl) rfl ?_
  refine e_aload rfl rfl hv2 ?_
  refine e_push rfl ?_
  refine e_aload rfl rfl hv0 ?_
  refine e_iload rfl rfl ?_
  refine e_ivI rfl rfl rfl (Nat.le_of_ble_eq_true rfl) (fun i _ => e_xp (e_hc (e_wk mP_X0_section (ll_0 (ll_0 (ll_0 (ll_0 ll_n))))) (e_hc (e_wk mP_X0_section (ll_0 (ll_0 (ll_0 (ll_0 ll_n))))) (e_hn i)))) fun x2 h1 => ?_
  refine e_i2l rfl ?_
  refine e_last rfl fun h3 => ?_
  refine e_goto rfl ?_
  refine e_push rfl ?_
  exact e_iret rfl
noncomputable def B_X0_label_12 (K : ax_K) (s0 : Nat) (h : ax_H) : Option ax_R := ax_run K P_X0_label 12 [none, none, none, none] [.ref s0] h
noncomputable def B_X0_label_15 (K : ax_K) (s0 : Nat) (h : ax_H) : Option ax_R := ax_run K P_X0_label 15 [none, none, none, none] [.ref s0] h
theorem b_X0_label_12 {K : ax_K} {s0 : Nat} {h : ax_H}  : dx_le (some (.inl (some (.int 1)), h)) (B_X0_label_12 K s0 h) := by
  show dx_le _ (ax_run K P_X0_label 12 [none, none, none, none] [.ref s0] h)
  refine e_astore (L' := [none, none, none, some (.ref s0)]) rfl rfl (dx_sto (Nat.le_of_ble_eq_true rfl) (Or.inr ⟨_, rfl, rfl⟩) rfl) ?_
  refine e_push rfl ?_
  exact e_iret rfl
theorem b_X0_label_15 {K : ax_K} {s0 : Nat} {h : ax_H}  : dx_le (some (.inl (some (.int 2)), h)) (B_X0_label_15 K s0 h) := by
  show dx_le _ (ax_run K P_X0_label 15 [none, none, none, none] [.ref s0] h)
  refine e_astore (L' := [none, none, none, some (.ref s0)]) rfl rfl (dx_sto (Nat.le_of_ble_eq_true rfl) (Or.inr ⟨_, rfl, rfl⟩) rfl) ?_
  refine e_push rfl ?_
  exact e_iret rfl
theorem m_X0_label {d : Nat} {v0 : Value} {v1 : Int32} {v2 : Value} {h : ax_H} (hv0 : ax_rv v0 = true) (hv2 : ax_rv v2 = true) : dx_le ((dx_vn [(19, 235)] v0 h).bind fun k => dx_cI ((ax_c d) k [v0, .int v1] h) (fun x2 h1 => (dx_sJ 1 v2 0 (Int32.toInt64 x2) h1).bind fun h3 => some (.inl (some (.int 0)), h3)) (fun i hx => dx_xp (fun k : Nat => if k ∈ [0, 44] then some (some 15) else if k ∈ [18] then some (some 12) else if k ∈ [6, 7, 28, 32, 33, 34, 35, 45, 46] then some none else none) i hx (fun pc => if pc = 12 then B_X0_label_12 (ax_c d) i hx else (fun pc => if pc = 15 then B_X0_label_15 (ax_c d) i hx else none) pc))) (ax_c (d + 1) 179 [v0, .int v1, v2] h) := by
  refine e_entry (L' := [some (v0), some (.int v1), some (v2), none]) rfl (ag_A hv0 (ag_I (ag_A hv2 ag_n))) (Nat.le_of_ble_eq_true rfl) rfl ?_
  refine e_aload rfl rfl hv2 ?_
  refine e_push rfl ?_
  refine e_aload rfl rfl hv0 ?_
  refine e_iload rfl rfl ?_
  refine e_ivI rfl rfl rfl (Nat.le_of_ble_eq_true rfl) (fun i _ => e_xp (e_hc (e_wk mP_X0_label (ll_0 (ll_0 (ll_0 (ll_0 ll_n))))) (e_hc (e_wk mP_X0_label (ll_0 (ll_0 (ll_0 (ll_0 ll_n))))) (e_hn i)))) fun x2 h1 => ?_
  refine e_i2l rfl ?_
  refine e_last rfl fun h3 => ?_
  refine e_goto rfl ?_
  refine e_push rfl ?_
  exact e_iret rfl
noncomputable def B_X0_code_19 (K : ax_K) (s0 : Nat) (h : ax_H) : Option ax_R := ax_run K P_X0_code 19 [none, none, none, none, none, none, none, none] [.ref s0] h
noncomputable def B_X0_code_23 (K : ax_K) (s0 : Nat) (h : ax_H) : Option ax_R := ax_run K P_X0_code 23 [none, none, none, none, none, none, none, none] [.ref s0] h
theorem b_X0_code_19 {K : ax_K} {s0 : Nat} {h : ax_H}  : dx_le (some (.inl (some (.int 1)), h)) (B_X0_code_19 K s0 h) := by
  show dx_le _ (ax_run K P_X0_code 19 [none, none, none, none, none, none, none, none] [.ref s0] h)
  refine e_astore (L' := [none, none, none, none, none, none, none, some (.ref s0)]) rfl rfl (dx_sto (Nat.le_of_ble_eq_true rfl) (Or.inr ⟨_, rfl, rfl⟩) rfl) ?_
  refine e_push rfl ?_
  exact e_iret rfl
theorem b_X0_code_23 {K : ax_K} {s0 : Nat} {h : ax_H}  : dx_le (some (.inl (some (.int 2)), h)) (B_X0_code_23 K s0 h) := by
  show dx_le _ (ax_run K P_X0_code 23 [none, none, none, none, none, none, none, none] [.ref s0] h)
  refine e_astore (L' := [none, none, none, none, none, none, none, some (.ref s0)]) rfl rfl (dx_sto (Nat.le_of_ble_eq_true rfl) (Or.inr ⟨_, rfl, rfl⟩) rfl) ?_
  refine e_push rfl ?_
  exact e_iret rfl
theorem m_X0_code {d : Nat} {v0 : Value} {v1 : Int32} {v2 : Int32} {v3 : Int32} {v4 : Int32} {v5 : Int32} {v6 : Value} {h : ax_H} (hv0 : ax_rv v0 = true) (hv6 : ax_rv v6 = true) : dx_le ((dx_vn [(19, 236)] v0 h).bind fun k => dx_cI ((ax_c d) k [v0, .int v1, .int v2, .int v3, .int v4, .int v5] h) (fun x2 h1 => (dx_sJ 1 v6 0 (Int32.toInt64 x2) h1).bind fun h3 => some (.inl (some (.int 0)), h3)) (fun i hx => dx_xp (fun k : Nat => if k ∈ [0, 44] then some (some 23) else if k ∈ [18] then some (some 19) else if k ∈ [6, 7, 28, 32, 33, 34, 35, 45, 46] then some none else none) i hx (fun pc => if pc = 19 then B_X0_code_19 (ax_c d) i hx else (fun pc => if pc = 23 then B_X0_code_23 (ax_c d) i hx else none) pc))) (ax_c (d + 1) 180 [v0, .int v1, .int v2, .int v3, .int v4, .int v5, v6] h) := by
  refine e_entry (L' := [some (v0), some (.int v1), some (.int v2), some (.int v3), some (.int v4), some (.int v5), some (v6), none]) rfl (ag_A hv0 (ag_I (ag_I (ag_I (ag_I (ag_I (ag_A hv6 ag_n))))))) (Nat.le_of_ble_eq_true rfl) rfl ?_
  refine e_aload rfl rfl hv6 ?_
  refine e_push rfl ?_
  refine e_aload rfl rfl hv0 ?_
  refine e_iload rfl rfl ?_
  refine e_iload rfl rfl ?_
  refine e_iload rfl rfl ?_
  refine e_iload rfl rfl ?_
  refine e_iload rfl rfl ?_
  refine e_ivI rfl rfl rfl (Nat.le_of_ble_eq_true rfl) (fun i _ => e_xp (e_hc (e_wk mP_X0_code (ll_0 (ll_0 (ll_0 (ll_0 (ll_0 (ll_0 (ll_0 (ll_0 ll_n))))))))) (e_hc (e_wk mP_X0_code (ll_0 (ll_0 (ll_0 (ll_0 (ll_0 (ll_0 (ll_0 (ll_0 ll_n))))))))) (e_hn i)))) fun x2 h1 => ?_
  refine e_i2l rfl ?_
  refine e_last rfl fun h3 => ?_
  refine e_goto rfl ?_
  refine e_push rfl ?_
  exact e_iret rfl
noncomputable def B_X0_word_13 (K : ax_K) (s0 : Nat) (h : ax_H) : Option ax_R := ax_run K P_X0_word 13 [none, none, none, none, none] [.ref s0] h
noncomputable def B_X0_word_17 (K : ax_K) (s0 : Nat) (h : ax_H) : Option ax_R := ax_run K P_X0_word 17 [none, none, none, none, none] [.ref s0] h
theorem b_X0_word_13 {K : ax_K} {s0 : Nat} {h : ax_H}  : dx_le (some (.inl (some (.int 1)), h)) (B_X0_word_13 K s0 h) := by
  show dx_le _ (ax_run K P_X0_word 13 [none, none, none, none, none] [.ref s0] h)
  refine e_astore (L' := [none, none, none, none, some (.ref s0)]) rfl rfl (dx_sto (Nat.le_of_ble_eq_true rfl) (Or.inr ⟨_, rfl, rfl⟩) rfl) ?_
  refine e_push rfl ?_
  exact e_iret rfl
theorem b_X0_word_17 {K : ax_K} {s0 : Nat} {h : ax_H}  : dx_le (some (.inl (some (.int 2)), h)) (B_X0_word_17 K s0 h) := by
  show dx_le _ (ax_run K P_X0_word 17 [none, none, none, none, none] [.ref s0] h)
  refine e_astore (L' := [none, none, none, none, some (.ref s0)]) rfl rfl (dx_sto (Nat.le_of_ble_eq_true rfl) (Or.inr ⟨_, rfl, rfl⟩) rfl) ?_
  refine e_push rfl ?_
  exact e_iret rfl
theorem m_X0_word {d : Nat} {v0 : Value} {v1 : Int32} {v2 : Int32} {v3 : Value} {h : ax_H} (hv0 : ax_rv v0 = true) (hv3 : ax_rv v3 = true) : dx_le ((dx_vn [(19, 238)] v0 h).bind fun k => dx_cI ((ax_c d) k [v0, .int v1, .int v2] h) (fun x2 h1 => (dx_sJ 1 v3 0 (Int32.toInt64 x2) h1).bind fun h3 => some (.inl (some (.int 0)), h3)) (fun i hx => dx_xp (fun k : Nat => if k ∈ [0, 44] then some (some 17) else if k ∈ [18] then some (some 13) else if k ∈ [6, 7, 28, 32, 33, 34, 35, 45, 46] then some none else none) i hx (fun pc => if pc = 13 then B_X0_word_13 (ax_c d) i hx else (fun pc => if pc = 17 then B_X0_word_17 (ax_c d) i hx else none) pc))) (ax_c (d + 1) 181 [v0, .int v1, .int v2, v3] h) := by
  refine e_entry (L' := [some (v0), some (.int v1), some (.int v2), some (v3), none]) rfl (ag_A hv0 (ag_I (ag_I (ag_A hv3 ag_n)))) (Nat.le_of_ble_eq_true rfl) rfl ?_
  refine e_aload rfl rfl hv3 ?_
  refine e_push rfl ?_
  refine e_aload rfl rfl hv0 ?_
  refine e_iload rfl rfl ?_
  refine e_iload rfl rfl ?_
  refine e_ivI rfl rfl rfl (Nat.le_of_ble_eq_true rfl) (fun i _ => e_xp (e_hc (e_wk mP_X0_word (ll_0 (ll_0 (ll_0 (ll_0 (ll_0 ll_n)))))) (e_hc (e_wk mP_X0_word (ll_0 (ll_0 (ll_0 (ll_0 (ll_0 ll_n)))))) (e_hn i)))) fun x2 h1 => ?_
  refine e_i2l rfl ?_
  refine e_last rfl fun h3 => ?_
  refine e_goto rfl ?_
  refine e_push rfl ?_
  exact e_iret rfl
noncomputable def B_X0_space_12 (K : ax_K) (s0 : Nat) (h : ax_H) : Option ax_R := ax_run K P_X0_space 12 [none, none, none, none] [.ref s0] h
noncomputable def B_X0_space_15 (K : ax_K) (s0 : Nat) (h : ax_H) : Option ax_R := ax_run K P_X0_space 15 [none, none, none, none] [.ref s0] h
theorem b_X0_space_12 {K : ax_K} {s0 : Nat} {h : ax_H}  : dx_le (some (.inl (some (.int 1)), h)) (B_X0_space_12 K s0 h) := by
  show dx_le _ (ax_run K P_X0_space 12 [none, none, none, none] [.ref s0] h)
  refine e_astore (L' := [none, none, none, some (.ref s0)]) rfl rfl (dx_sto (Nat.le_of_ble_eq_true rfl) (Or.inr ⟨_, rfl, rfl⟩) rfl) ?_
  refine e_push rfl ?_
  exact e_iret rfl
theorem b_X0_space_15 {K : ax_K} {s0 : Nat} {h : ax_H}  : dx_le (some (.inl (some (.int 2)), h)) (B_X0_space_15 K s0 h) := by
  show dx_le _ (ax_run K P_X0_space 15 [none, none, none, none] [.ref s0] h)
  refine e_astore (L' := [none, none, none, some (.ref s0)]) rfl rfl (dx_sto (Nat.le_of_ble_eq_true rfl) (Or.inr ⟨_, rfl, rfl⟩) rfl) ?_
  refine e_push rfl ?_
  exact e_iret rfl
theorem m_X0_space {d : Nat} {v0 : Value} {v1 : Int32} {v2 : Value} {h : ax_H} (hv0 : ax_rv v0 = true) (hv2 : ax_rv v2 = true) : dx_le ((dx_vn [(19, 239)] v0 h).bind fun k => dx_cI ((ax_c d) k [v0, .int v1] h) (fun x2 h1 => (dx_sJ 1 v2 0 (Int32.toInt64 x2) h1).bind fun h3 => some (.inl (some (.int 0)), h3)) (fun i hx => dx_xp (fun k : Nat => if k ∈ [0, 44] then some (some 15) else if k ∈ [18] then some (some 12) else if k ∈ [6, 7, 28, 32, 33, 34, 35, 45, 46] then some none else none) i hx (fun pc => if pc = 12 then B_X0_space_12 (ax_c d) i hx else (fun pc => if pc = 15 then B_X0_space_15 (ax_c d) i hx else none) pc))) (ax_c (d + 1) 182 [v0, .int v1, v2] h) := by
  refine e_entry (L' := [some (v0), some (.int v1), some (v2), none]) rfl (ag_A hv0 (ag_I (ag_A hv2 ag_n))) (Nat.le_of_ble_eq_true rfl) rfl ?_
  refine e_aload rfl rfl hv2 ?_
  refine e_push rfl ?_
  refine e_aload rfl rfl hv0 ?_
  refine e_iload rfl rfl ?_
  refine e_ivI rfl rfl rfl (Nat.le_of_ble_eq_true rfl) (fun i _ => e_xp (e_hc (e_wk mP_X0_space (ll_0 (ll_0 (ll_0 (ll_0 ll_n))))) (e_hc (e_wk mP_X0_space (ll_0 (ll_0 (ll_0 (ll_0 ll_n))))) (e_hn i)))) fun x2 h1 => ?_
  refine e_i2l rfl ?_
  refine e_last rfl fun h3 => ?_
  refine e_goto rfl ?_
  refine e_push rfl ?_
  exact e_iret rfl
noncomputable def B_X0_vector_15 (K : ax_K) (s0 : Nat) (h : ax_H) : Option ax_R := ax_run K P_X0_vector 15 [none, none, none, none, none, none] [.ref s0] h
noncomputable def B_X0_vector_19 (K : ax_K) (s0 : Nat) (h : ax_H) : Option ax_R := ax_run K P_X0_vector 19 [none, none, none, none, none, none] [.ref s0] h
theorem b_X0_vector_15 {K : ax_K} {s0 : Nat} {h : ax_H}  : dx_le (some (.inl (some (.int 1)), h)) (B_X0_vector_15 K s0 h) := by
  show dx_le _ (ax_run K P_X0_vector 15 [none, none, none, none, none, none] [.ref s0] h)
  refine e_astore (L' := [none, none, none, none, none, some (.ref s0)]) rfl rfl (dx_sto (Nat.le_of_ble_eq_true rfl) (Or.inr ⟨_, rfl, rfl⟩) rfl) ?_
  refine e_push rfl ?_
  exact e_iret rfl
theorem b_X0_vector_19 {K : ax_K} {s0 : Nat} {h : ax_H}  : dx_le (some (.inl (some (.int 2)), h)) (B_X0_vector_19 K s0 h) := by
  show dx_le _ (ax_run K P_X0_vector 19 [none, none, none, none, none, none] [.ref s0] h)
  refine e_astore (L' := [none, none, none, none, none, some (.ref s0)]) rfl rfl (dx_sto (Nat.le_of_ble_eq_true rfl) (Or.inr ⟨_, rfl, rfl⟩) rfl) ?_
  refine e_push rfl ?_
  exact e_iret rfl
theorem m_X0_vector {d : Nat} {v0 : Value} {v1 : Int32} {v2 : Int32} {v3 : Int32} {v4 : Value} {h : ax_H} (hv0 : ax_rv v0 = true) (hv4 : ax_rv v4 = true) : dx_le ((dx_vn [(19, 240)] v0 h).bind fun k => dx_cI ((ax_c d) k [v0, .int v1, .int v2, .int v3] h) (fun x2 h1 => (dx_sJ 1 v4 0 (Int32.toInt64 x2) h1).bind fun h3 => some (.inl (some (.int 0)), h3)) (fun i hx => dx_xp (fun k : Nat => if k ∈ [0, 44] then some (some 19) else if k ∈ [18] then some (some 15) else if k ∈ [6, 7, 28, 32, 33, 34, 35, 45, 46] then some none else none) i hx (fun pc => if pc = 15 then B_X0_vector_15 (ax_c d) i hx else (fun pc => if pc = 19 then B_X0_vector_19 (ax_c d) i hx else none) pc))) (ax_c (d + 1) 183 [v0, .int v1, .int v2, .int v3, v4] h) := by
  refine e_entry (L' := [some (v0), some (.int v1), some (.int v2), some (.int v3), some (v4), none]) rfl (ag_A hv0 (ag_I (ag_I (ag_I (ag_A hv4 ag_n))))) (Nat.le_of_ble_eq_true rfl) rfl ?_
  refine e_aload rfl rfl hv4 ?_
  refine e_push rfl ?_
  refine e_aload rfl rfl hv0 ?_
  refine e_iload rfl rfl ?_
  refine e_iload rfl rfl ?_
  refine e_iload rfl rfl ?_
  refine e_ivI rfl rfl rfl (Nat.le_of_ble_eq_true rfl) (fun i _ => e_xp (e_hc (e_wk mP_X0_vector (ll_0 (ll_0 (ll_0 (ll_0 (ll_0 (ll_0 ll_n))))))) (e_hc (e_wk mP_X0_vector (ll_0 (ll_0 (ll_0 (ll_0 (ll_0 (ll_0 ll_n))))))) (e_hn i)))) fun x2 h1 => ?_
  refine e_i2l rfl ?_
  refine e_last rfl fun h3 => ?_
  refine e_goto rfl ?_
  refine e_push rfl ?_
  exact e_iret rfl
noncomputable def B_X0_macro_12 (K : ax_K) (s0 : Nat) (h : ax_H) : Option ax_R := ax_run K P_X0_macro 12 [none, none, none, none] [.ref s0] h
noncomputable def B_X0_macro_15 (K : ax_K) (s0 : Nat) (h : ax_H) : Option ax_R := ax_run K P_X0_macro 15 [none, none, none, none] [.ref s0] h
theorem b_X0_macro_12 {K : ax_K} {s0 : Nat} {h : ax_H}  : dx_le (some (.inl (some (.int 1)), h)) (B_X0_macro_12 K s0 h) := by
  show dx_le _ (ax_run K P_X0_macro 12 [none, none, none, none] [.ref s0] h)
  refine e_astore (L' := [none, none, none, some (.ref s0)]) rfl rfl (dx_sto (Nat.le_of_ble_eq_true rfl) (Or.inr ⟨_, rfl, rfl⟩) rfl) ?_
  refine e_push rfl ?_
  exact e_iret rfl
theorem b_X0_macro_15 {K : ax_K} {s0 : Nat} {h : ax_H}  : dx_le (some (.inl (some (.int 2)), h)) (B_X0_macro_15 K s0 h) := by
  show dx_le _ (ax_run K P_X0_macro 15 [none, none, none, none] [.ref s0] h)
  refine e_astore (L' := [none, none, none, some (.ref s0)]) rfl rfl (dx_sto (Nat.le_of_ble_eq_true rfl) (Or.inr ⟨_, rfl, rfl⟩) rfl) ?_
  refine e_push rfl ?_
  exact e_iret rfl
theorem m_X0_macro {d : Nat} {v0 : Value} {v1 : Int32} {v2 : Value} {h : ax_H} (hv0 : ax_rv v0 = true) (hv2 : ax_rv v2 = true) : dx_le ((dx_vn [(19, 241)] v0 h).bind fun k => dx_cI ((ax_c d) k [v0, .int v1] h) (fun x2 h1 => (dx_sJ 1 v2 0 (Int32.toInt64 x2) h1).bind fun h3 => some (.inl (some (.int 0)), h3)) (fun i hx => dx_xp (fun k : Nat => if k ∈ [0, 44] then some (some 15) else if k ∈ [18] then some (some 12) else if k ∈ [6, 7, 28, 32, 33, 34, 35, 45, 46] then some none else none) i hx (fun pc => if pc = 12 then B_X0_macro_12 (ax_c d) i hx else (fun pc => if pc = 15 then B_X0_macro_15 (ax_c d) i hx else none) pc))) (ax_c (d + 1) 184 [v0, .int v1, v2] h) := by
  refine e_entry (L' := [some (v0), some (.int v1), some (v2), none]) rfl (ag_A hv0 (ag_I (ag_A hv2 ag_n))) (Nat.le_of_ble_eq_true rfl) rfl ?_
  refine e_aload rfl rfl hv2 ?_
  refine e_push rfl ?_
  refine e_aload rfl rfl hv0 ?_
  refine e_iload rfl rfl ?_
  refine e_ivI rfl rfl rfl (Nat.le_of_ble_eq_true rfl) (fun i _ => e_xp (e_hc (e_wk mP_X0_macro (ll_0 (ll_0 (ll_0 (ll_0 ll_n))))) (e_hc (e_wk mP_X0_macro (ll_0 (ll_0 (ll_0 (ll_0 ll_n))))) (e_hn i)))) fun x2 h1 => ?_
  refine e_i2l rfl ?_
  refine e_last rfl fun h3 => ?_
  refine e_goto rfl ?_
  refine e_push rfl ?_
  exact e_iret rfl
noncomputable def B_X0_endMacro_11 (K : ax_K) (s0 : Nat) (h : ax_H) : Option ax_R := ax_run K P_X0_endMacro 11 [none, none, none] [.ref s0] h
theorem b_X0_endMacro_11 {K : ax_K} {s0 : Nat} {h : ax_H}  : dx_le (some (.inl (some (.int 1)), h)) (B_X0_endMacro_11 K s0 h) := by
  show dx_le _ (ax_run K P_X0_endMacro 11 [none, none, none] [.ref s0] h)
  refine e_astore (L' := [none, none, some (.ref s0)]) rfl rfl (dx_sto (Nat.le_of_ble_eq_true rfl) (Or.inr ⟨_, rfl, rfl⟩) rfl) ?_
  refine e_push rfl ?_
  exact e_iret rfl
theorem m_X0_endMacro {d : Nat} {v0 : Value} {v1 : Value} {h : ax_H} (hv0 : ax_rv v0 = true) (hv1 : ax_rv v1 = true) : dx_le ((dx_vn [(19, 242)] v0 h).bind fun k => dx_cI ((ax_c d) k [v0] h) (fun x2 h1 => (dx_sJ 1 v1 0 (Int32.toInt64 x2) h1).bind fun h3 => some (.inl (some (.int 0)), h3)) (fun i hx => dx_xp (fun k : Nat => if k ∈ [0, 44] then some (some 11) else if k ∈ [18, 6, 7, 28, 32, 33, 34, 35, 45, 46] then some none else none) i hx (fun pc => if pc = 11 then B_X0_endMacro_11 (ax_c d) i hx else none))) (ax_c (d + 1) 185 [v0, v1] h) := by
  refine e_entry (L' := [some (v0), some (v1), none]) rfl (ag_A hv0 (ag_A hv1 ag_n)) (Nat.le_of_ble_eq_true rfl) rfl ?_
  refine e_aload rfl rfl hv1 ?_
  refine e_push rfl ?_
  refine e_aload rfl rfl hv0 ?_
  refine e_ivI rfl rfl rfl (Nat.le_of_ble_eq_true rfl) (fun i _ => e_xp (e_hc (e_wk mP_X0_endMacro (ll_0 (ll_0 (ll_0 ll_n)))) (e_hn i))) fun x2 h1 => ?_
  refine e_i2l rfl ?_
  refine e_last rfl fun h3 => ?_
  refine e_goto rfl ?_
  refine e_push rfl ?_
  exact e_iret rfl
noncomputable def B_X0_use_19 (K : ax_K) (s0 : Nat) (h : ax_H) : Option ax_R := ax_run K P_X0_use 19 [none, none, none, none, none, none, none, none] [.ref s0] h
noncomputable def B_X0_use_23 (K : ax_K) (s0 : Nat) (h : ax_H) : Option ax_R := ax_run K P_X0_use 23 [none, none, none, none, none, none, none, none] [.ref s0] h
theorem b_X0_use_19 {K : ax_K} {s0 : Nat} {h : ax_H}  : dx_le (some (.inl (some (.int 1)), h)) (B_X0_use_19 K s0 h) := by
  show dx_le _ (ax_run K P_X0_use 19 [none, none, none, none, none, none, none, none] [.ref s0] h)
  refine e_astore (L' := [none, none, none, none, none, none, none, some (.ref s0)]) rfl rfl (dx_sto (Nat.le_of_ble_eq_true rfl) (Or.inr ⟨_, rfl, rfl⟩) rfl) ?_
  refine e_push rfl ?_
  exact e_iret rfl
theorem b_X0_use_23 {K : ax_K} {s0 : Nat} {h : ax_H}  : dx_le (some (.inl (some (.int 2)), h)) (B_X0_use_23 K s0 h) := by
  show dx_le _ (ax_run K P_X0_use 23 [none, none, none, none, none, none, none, none] [.ref s0] h)
  refine e_astore (L' := [none, none, none, none, none, none, none, some (.ref s0)]) rfl rfl (dx_sto (Nat.le_of_ble_eq_true rfl) (Or.inr ⟨_, rfl, rfl⟩) rfl) ?_
  refine e_push rfl ?_
  exact e_iret rfl
theorem m_X0_use {d : Nat} {v0 : Value} {v1 : Int32} {v2 : Int32} {v3 : Int32} {v4 : Int32} {v5 : Int32} {v6 : Value} {h : ax_H} (hv0 : ax_rv v0 = true) (hv6 : ax_rv v6 = true) : dx_le ((dx_vn [(19, 243)] v0 h).bind fun k => dx_cI ((ax_c d) k [v0, .int v1, .int v2, .int v3, .int v4, .int v5] h) (fun x2 h1 => (dx_sJ 1 v6 0 (Int32.toInt64 x2) h1).bind fun h3 => some (.inl (some (.int 0)), h3)) (fun i hx => dx_xp (fun k : Nat => if k ∈ [0, 44] then some (some 23) else if k ∈ [18] then some (some 19) else if k ∈ [6, 7, 28, 32, 33, 34, 35, 45, 46] then some none else none) i hx (fun pc => if pc = 19 then B_X0_use_19 (ax_c d) i hx else (fun pc => if pc = 23 then B_X0_use_23 (ax_c d) i hx else none) pc))) (ax_c (d + 1) 186 [v0, .int v1, .int v2, .int v3, .int v4, .int v5, v6] h) := by
  refine e_entry (L' := [some (v0), some (.int v1), some (.int v2), some (.int v3), some (.int v4), some (.int v5), some (v6), none]) rfl (ag_A hv0 (ag_I (ag_I (ag_I (ag_I (ag_I (ag_A hv6 ag_n))))))) (Nat.le_of_ble_eq_true rfl) rfl ?_
  refine e_aload rfl rfl hv6 ?_
  refine e_push rfl ?_
  refine e_aload rfl rfl hv0 ?_
  refine e_iload rfl rfl ?_
  refine e_iload rfl rfl ?_
  refine e_iload rfl rfl ?_
  refine e_iload rfl rfl ?_
  refine e_iload rfl rfl ?_
  refine e_ivI rfl rfl rfl (Nat.le_of_ble_eq_true rfl) (fun i _ => e_xp (e_hc (e_wk mP_X0_use (ll_0 (ll_0 (ll_0 (ll_0 (ll_0 (ll_0 (ll_0 (ll_0 ll_n))))))))) (e_hc (e_wk mP_X0_use (ll_0 (ll_0 (ll_0 (ll_0 (ll_0 (ll_0 (ll_0 (ll_0 ll_n))))))))) (e_hn i)))) fun x2 h1 => ?_
  refine e_i2l rfl ?_
  refine e_last rfl fun h3 => ?_
  refine e_goto rfl ?_
  refine e_push rfl ?_
  exact e_iret rfl
noncomputable def B_X0_assemble_11 (K : ax_K) (s0 : Nat) (h : ax_H) : Option ax_R := ax_run K P_X0_assemble 11 [none, none, none] [.ref s0] h
theorem b_X0_assemble_11 {K : ax_K} {s0 : Nat} {h : ax_H}  : dx_le (some (.inl (some (.int 1)), h)) (B_X0_assemble_11 K s0 h) := by
  show dx_le _ (ax_run K P_X0_assemble 11 [none, none, none] [.ref s0] h)
  refine e_astore (L' := [none, none, some (.ref s0)]) rfl rfl (dx_sto (Nat.le_of_ble_eq_true rfl) (Or.inr ⟨_, rfl, rfl⟩) rfl) ?_
  refine e_push rfl ?_
  exact e_iret rfl
theorem m_X0_assemble {d : Nat} {v0 : Value} {v1 : Value} {h : ax_H} (hv0 : ax_rv v0 = true) (hv1 : ax_rv v1 = true) : dx_le ((dx_vn [(19, 244)] v0 h).bind fun k => dx_cI ((ax_c d) k [v0] h) (fun x2 h1 => (dx_sJ 1 v1 0 (Int32.toInt64 x2) h1).bind fun h3 => some (.inl (some (.int 0)), h3)) (fun i hx => dx_xp (fun k : Nat => if k ∈ [0, 44] then some (some 11) else if k ∈ [18, 6, 7, 28, 32, 33, 34, 35, 45, 46] then some none else none) i hx (fun pc => if pc = 11 then B_X0_assemble_11 (ax_c d) i hx else none))) (ax_c (d + 1) 187 [v0, v1] h) := by
  refine e_entry (L' := [some (v0), some (v1), none]) rfl (ag_A hv0 (ag_A hv1 ag_n)) (Nat.le_of_ble_eq_true rfl) rfl ?_
  refine e_aload rfl rfl hv1 ?_
  refine e_push rfl ?_
  refine e_aload rfl rfl hv0 ?_
  refine e_ivI rfl rfl rfl (Nat.le_of_ble_eq_true rfl) (fun i _ => e_xp (e_hc (e_wk mP_X0_assemble (ll_0 (ll_0 (ll_0 ll_n)))) (e_hn i))) fun x2 h1 => ?_
  refine e_i2l rfl ?_
  refine e_last rfl fun h3 => ?_
  refine e_goto rfl ?_
  refine e_push rfl ?_
  exact e_iret rfl
noncomputable def B_X0_image_12 (K : ax_K) (s0 : Nat) (h : ax_H) : Option ax_R := ax_run K P_X0_image 12 [none, none, none, none] [.ref s0] h
noncomputable def B_X0_image_15 (K : ax_K) (s0 : Nat) (h : ax_H) : Option ax_R := ax_run K P_X0_image 15 [none, none, none, none] [.ref s0] h
theorem b_X0_image_12 {K : ax_K} {s0 : Nat} {h : ax_H}  : dx_le (some (.inl (some (.int 1)), h)) (B_X0_image_12 K s0 h) := by
  show dx_le _ (ax_run K P_X0_image 12 [none, none, none, none] [.ref s0] h)
  refine e_astore (L' := [none, none, none, some (.ref s0)]) rfl rfl (dx_sto (Nat.le_of_ble_eq_true rfl) (Or.inr ⟨_, rfl, rfl⟩) rfl) ?_
  refine e_push rfl ?_
  exact e_iret rfl
theorem b_X0_image_15 {K : ax_K} {s0 : Nat} {h : ax_H}  : dx_le (some (.inl (some (.int 2)), h)) (B_X0_image_15 K s0 h) := by
  show dx_le _ (ax_run K P_X0_image 15 [none, none, none, none] [.ref s0] h)
  refine e_astore (L' := [none, none, none, some (.ref s0)]) rfl rfl (dx_sto (Nat.le_of_ble_eq_true rfl) (Or.inr ⟨_, rfl, rfl⟩) rfl) ?_
  refine e_push rfl ?_
  exact e_iret rfl
theorem m_X0_image {d : Nat} {v0 : Value} {v1 : Int32} {v2 : Value} {h : ax_H} (hv0 : ax_rv v0 = true) (hv2 : ax_rv v2 = true) : dx_le ((dx_vn [(19, 245)] v0 h).bind fun k => dx_cI ((ax_c d) k [v0, .int v1] h) (fun x2 h1 => (dx_sJ 1 v2 0 (Int32.toInt64 x2) h1).bind fun h3 => some (.inl (some (.int 0)), h3)) (fun i hx => dx_xp (fun k : Nat => if k ∈ [0, 44] then some (some 15) else if k ∈ [18] then some (some 12) else if k ∈ [6, 7, 28, 32, 33, 34, 35, 45, 46] then some none else none) i hx (fun pc => if pc = 12 then B_X0_image_12 (ax_c d) i hx else (fun pc => if pc = 15 then B_X0_image_15 (ax_c d) i hx else none) pc))) (ax_c (d + 1) 188 [v0, .int v1, v2] h) := by
  refine e_entry (L' := [some (v0), some (.int v1), some (v2), none]) rfl (ag_A hv0 (ag_I (ag_A hv2 ag_n))) (Nat.le_of_ble_eq_true rfl) rfl ?_
  refine e_aload rfl rfl hv2 ?_
  refine e_push rfl ?_
  refine e_aload rfl rfl hv0 ?_
  refine e_iload rfl rfl ?_
  refine e_ivI rfl rfl rfl (Nat.le_of_ble_eq_true rfl) (fun i _ => e_xp (e_hc (e_wk mP_X0_image (ll_0 (ll_0 (ll_0 (ll_0 ll_n))))) (e_hc (e_wk mP_X0_image (ll_0 (ll_0 (ll_0 (ll_0 ll_n))))) (e_hn i)))) fun x2 h1 => ?_
  refine e_i2l rfl ?_
  refine e_last rfl fun h3 => ?_
  refine e_goto rfl ?_
  refine e_push rfl ?_
  exact e_iret rfl
noncomputable def B_X0_start_11 (K : ax_K) (s0 : Nat) (h : ax_H) : Option ax_R := ax_run K P_X0_start 11 [none, none, none] [.ref s0] h
theorem b_X0_start_11 {K : ax_K} {s0 : Nat} {h : ax_H}  : dx_le (some (.inl (some (.int 1)), h)) (B_X0_start_11 K s0 h) := by
  show dx_le _ (ax_run K P_X0_start 11 [none, none, none] [.ref s0] h)
  refine e_astore (L' := [none, none, some (.ref s0)]) rfl rfl (dx_sto (Nat.le_of_ble_eq_true rfl) (Or.inr ⟨_, rfl, rfl⟩) rfl) ?_
  refine e_push rfl ?_
  exact e_iret rfl
theorem m_X0_start {d : Nat} {v0 : Value} {v1 : Value} {h : ax_H} (hv0 : ax_rv v0 = true) (hv1 : ax_rv v1 = true) : dx_le ((dx_vn [(19, 246)] v0 h).bind fun k => dx_cI ((ax_c d) k [v0] h) (fun x2 h1 => (dx_sJ 1 v1 0 (Int32.toInt64 x2) h1).bind fun h3 => some (.inl (some (.int 0)), h3)) (fun i hx => dx_xp (fun k : Nat => if k ∈ [0, 44] then some (some 11) else if k ∈ [18, 6, 7, 28, 32, 33, 34, 35, 45, 46] then some none else none) i hx (fun pc => if pc = 11 then B_X0_start_11 (ax_c d) i hx else none))) (ax_c (d + 1) 189 [v0, v1] h) := by
  refine e_entry (L' := [some (v0), some (v1), none]) rfl (ag_A hv0 (ag_A hv1 ag_n)) (Nat.le_of_ble_eq_true rfl) rfl ?_
  refine e_aload rfl rfl hv1 ?_
  refine e_push rfl ?_
  refine e_aload rfl rfl hv0 ?_
  refine e_ivI rfl rfl rfl (Nat.le_of_ble_eq_true rfl) (fun i _ => e_xp (e_hc (e_wk mP_X0_start (ll_0 (ll_0 (ll_0 ll_n)))) (e_hn i))) fun x2 h1 => ?_
  refine e_i2l rfl ?_
  refine e_last rfl fun h3 => ?_
  refine e_goto rfl ?_
  refine e_push rfl ?_
  exact e_iret rfl
noncomputable def B_X0_crash_11 (K : ax_K) (s0 : Nat) (h : ax_H) : Option ax_R := ax_run K P_X0_crash 11 [none, none, none] [.ref s0] h
theorem b_X0_crash_11 {K : ax_K} {s0 : Nat} {h : ax_H}  : dx_le (some (.inl (some (.int 1)), h)) (B_X0_crash_11 K s0 h) := by
  show dx_le _ (ax_run K P_X0_crash 11 [none, none, none] [.ref s0] h)
  refine e_astore (L' := [none, none, some (.ref s0)]) rfl rfl (dx_sto (Nat.le_of_ble_eq_true rfl) (Or.inr ⟨_, rfl, rfl⟩) rfl) ?_
  refine e_push rfl ?_
  exact e_iret rfl
theorem m_X0_crash {d : Nat} {v0 : Value} {v1 : Value} {h : ax_H} (hv0 : ax_rv v0 = true) (hv1 : ax_rv v1 = true) : dx_le ((dx_vn [(19, 247)] v0 h).bind fun k => dx_cI ((ax_c d) k [v0] h) (fun x2 h1 => (dx_sJ 1 v1 0 (Int32.toInt64 x2) h1).bind fun h3 => some (.inl (some (.int 0)), h3)) (fun i hx => dx_xp (fun k : Nat => if k ∈ [0, 44] then some (some 11) else if k ∈ [18, 6, 7, 28, 32, 33, 34, 35, 45, 46] then some none else none) i hx (fun pc => if pc = 11 then B_X0_crash_11 (ax_c d) i hx else none))) (ax_c (d + 1) 190 [v0, v1] h) := by
  refine e_entry (L' := [some (v0), some (v1), none]) rfl (ag_A hv0 (ag_A hv1 ag_n)) (Nat.le_of_ble_eq_true rfl) rfl ?_
  refine e_aload rfl rfl hv1 ?_
  refine e_push rfl ?_
  refine e_aload rfl rfl hv0 ?_
  refine e_ivI rfl rfl rfl (Nat.le_of_ble_eq_true rfl) (fun i _ => e_xp (e_hc (e_wk mP_X0_crash (ll_0 (ll_0 (ll_0 ll_n)))) (e_hn i))) fun x2 h1 => ?_
  refine e_i2l rfl ?_
  refine e_last rfl fun h3 => ?_
  refine e_goto rfl ?_
  refine e_push rfl ?_
  exact e_iret rfl
noncomputable def B_X0_format_11 (K : ax_K) (s0 : Nat) (h : ax_H) : Option ax_R := ax_run K P_X0_format 11 [none, none, none] [.ref s0] h
theorem b_X0_format_11 {K : ax_K} {s0 : Nat} {h : ax_H}  : dx_le (some (.inl (some (.int 1)), h)) (B_X0_format_11 K s0 h) := by
  show dx_le _ (ax_run K P_X0_format 11 [none, none, none] [.ref s0] h)
  refine e_astore (L' := [none, none, some (.ref s0)]) rfl rfl (dx_sto (Nat.le_of_ble_eq_true rfl) (Or.inr ⟨_, rfl, rfl⟩) rfl) ?_
  refine e_push rfl ?_
  exact e_iret rfl
theorem m_X0_format {d : Nat} {v0 : Value} {v1 : Value} {h : ax_H} (hv0 : ax_rv v0 = true) (hv1 : ax_rv v1 = true) : dx_le ((dx_vn [(19, 248)] v0 h).bind fun k => dx_cI ((ax_c d) k [v0] h) (fun x2 h1 => (dx_sJ 1 v1 0 (Int32.toInt64 x2) h1).bind fun h3 => some (.inl (some (.int 0)), h3)) (fun i hx => dx_xp (fun k : Nat => if k ∈ [0, 44] then some (some 11) else if k ∈ [18, 6, 7, 28, 32, 33, 34, 35, 45, 46] then some none else none) i hx (fun pc => if pc = 11 then B_X0_format_11 (ax_c d) i hx else none))) (ax_c (d + 1) 191 [v0, v1] h) := by
  refine e_entry (L' := [some (v0), some (v1), none]) rfl (ag_A hv0 (ag_A hv1 ag_n)) (Nat.le_of_ble_eq_true rfl) rfl ?_
  refine e_aload rfl rfl hv1 ?_
  refine e_push rfl ?_
  refine e_aload rfl rfl hv0 ?_
  refine e_ivI rfl rfl rfl (Nat.le_of_ble_eq_true rfl) (fun i _ => e_xp (e_hc (e_wk mP_X0_format (ll_0 (ll_0 (ll_0 ll_n)))) (e_hn i))) fun x2 h1 => ?_
  refine e_i2l rfl ?_
  refine e_last rfl fun h3 => ?_
  refine e_goto rfl ?_
  refine e_push rfl ?_
  exact e_iret rfl
noncomputable def B_X0_step_12 (K : ax_K) (s0 : Nat) (h : ax_H) : Option ax_R := ax_run K P_X0_step 12 [none, none, none, none] [.ref s0] h
noncomputable def B_X0_step_15 (K : ax_K) (s0 : Nat) (h : ax_H) : Option ax_R := ax_run K P_X0_step 15 [none, none, none, none] [.ref s0] h
theorem b_X0_step_12 {K : ax_K} {s0 : Nat} {h : ax_H}  : dx_le (some (.inl (some (.int 1)), h)) (B_X0_step_12 K s0 h) := by
  show dx_le _ (ax_run K P_X0_step 12 [none, none, none, none] [.ref s0] h)
  refine e_astore (L' := [none, none, none, some (.ref s0)]) rfl rfl (dx_sto (Nat.le_of_ble_eq_true rfl) (Or.inr ⟨_, rfl, rfl⟩) rfl) ?_
  refine e_push rfl ?_
  exact e_iret rfl
theorem b_X0_step_15 {K : ax_K} {s0 : Nat} {h : ax_H}  : dx_le (some (.inl (some (.int 2)), h)) (B_X0_step_15 K s0 h) := by
  show dx_le _ (ax_run K P_X0_step 15 [none, none, none, none] [.ref s0] h)
  refine e_astore (L' := [none, none, none, some (.ref s0)]) rfl rfl (dx_sto (Nat.le_of_ble_eq_true rfl) (Or.inr ⟨_, rfl, rfl⟩) rfl) ?_
  refine e_push rfl ?_
  exact e_iret rfl
theorem m_X0_step {d : Nat} {v0 : Value} {v1 : Int32} {v2 : Value} {h : ax_H} (hv0 : ax_rv v0 = true) (hv2 : ax_rv v2 = true) : dx_le ((dx_vn [(19, 249)] v0 h).bind fun k => dx_cI ((ax_c d) k [v0, .int v1] h) (fun x2 h1 => (dx_sJ 1 v2 0 (Int32.toInt64 x2) h1).bind fun h3 => some (.inl (some (.int 0)), h3)) (fun i hx => dx_xp (fun k : Nat => if k ∈ [0, 44] then some (some 15) else if k ∈ [18] then some (some 12) else if k ∈ [6, 7, 28, 32, 33, 34, 35, 45, 46] then some none else none) i hx (fun pc => if pc = 12 then B_X0_step_12 (ax_c d) i hx else (fun pc => if pc = 15 then B_X0_step_15 (ax_c d) i hx else none) pc))) (ax_c (d + 1) 192 [v0, .int v1, v2] h) := by
  refine e_entry (L' := [some (v0), some (.int v1), some (v2), none]) rfl (ag_A hv0 (ag_I (ag_A hv2 ag_n))) (Nat.le_of_ble_eq_true rfl) rfl ?_
  refine e_aload rfl rfl hv2 ?_
  refine e_push rfl ?_
  refine e_aload rfl rfl hv0 ?_
  refine e_iload rfl rfl ?_
  refine e_ivI rfl rfl rfl (Nat.le_of_ble_eq_true rfl) (fun i _ => e_xp (e_hc (e_wk mP_X0_step (ll_0 (ll_0 (ll_0 (ll_0 ll_n))))) (e_hc (e_wk mP_X0_step (ll_0 (ll_0 (ll_0 (ll_0 ll_n))))) (e_hn i)))) fun x2 h1 => ?_
  refine e_i2l rfl ?_
  refine e_last rfl fun h3 => ?_
  refine e_goto rfl ?_
  refine e_push rfl ?_
  exact e_iret rfl
noncomputable def B_X0_runTo_13 (K : ax_K) (s0 : Nat) (h : ax_H) : Option ax_R := ax_run K P_X0_runTo 13 [none, none, none, none, none] [.ref s0] h
noncomputable def B_X0_runTo_17 (K : ax_K) (s0 : Nat) (h : ax_H) : Option ax_R := ax_run K P_X0_runTo 17 [none, none, none, none, none] [.ref s0] h
theorem b_X0_runTo_13 {K : ax_K} {s0 : Nat} {h : ax_H}  : dx_le (some (.inl (some (.int 1)), h)) (B_X0_runTo_13 K s0 h) := by
  show dx_le _ (ax_run K P_X0_runTo 13 [none, none, none, none, none] [.ref s0] h)
  refine e_astore (L' := [none, none, none, none, some (.ref s0)]) rfl rfl (dx_sto (Nat.le_of_ble_eq_true rfl) (Or.inr ⟨_, rfl, rfl⟩) rfl) ?_
  refine e_push rfl ?_
  exact e_iret rfl
theorem b_X0_runTo_17 {K : ax_K} {s0 : Nat} {h : ax_H}  : dx_le (some (.inl (some (.int 2)), h)) (B_X0_runTo_17 K s0 h) := by
  show dx_le _ (ax_run K P_X0_runTo 17 [none, none, none, none, none] [.ref s0] h)
  refine e_astore (L' := [none, none, none, none, some (.ref s0)]) rfl rfl (dx_sto (Nat.le_of_ble_eq_true rfl) (Or.inr ⟨_, rfl, rfl⟩) rfl) ?_
  refine e_push rfl ?_
  exact e_iret rfl
theorem m_X0_runTo {d : Nat} {v0 : Value} {v1 : Int32} {v2 : Int32} {v3 : Value} {h : ax_H} (hv0 : ax_rv v0 = true) (hv3 : ax_rv v3 = true) : dx_le ((dx_vn [(19, 250)] v0 h).bind fun k => dx_cI ((ax_c d) k [v0, .int v1, .int v2] h) (fun x2 h1 => (dx_sJ 1 v3 0 (Int32.toInt64 x2) h1).bind fun h3 => some (.inl (some (.int 0)), h3)) (fun i hx => dx_xp (fun k : Nat => if k ∈ [0, 44] then some (some 17) else if k ∈ [18] then some (some 13) else if k ∈ [6, 7, 28, 32, 33, 34, 35, 45, 46] then some none else none) i hx (fun pc => if pc = 13 then B_X0_runTo_13 (ax_c d) i hx else (fun pc => if pc = 17 then B_X0_runTo_17 (ax_c d) i hx else none) pc))) (ax_c (d + 1) 193 [v0, .int v1, .int v2, v3] h) := by
  refine e_entry (L' := [some (v0), some (.int v1), some (.int v2), some (v3), none]) rfl (ag_A hv0 (ag_I (ag_I (ag_A hv3 ag_n)))) (Nat.le_of_ble_eq_true rfl) rfl ?_
  refine e_aload rfl rfl hv3 ?_
  refine e_push rfl ?_
  refine e_aload rfl rfl hv0 ?_
  refine e_iload rfl rfl ?_
  refine e_iload rfl rfl ?_
  refine e_ivI rfl rfl rfl (Nat.le_of_ble_eq_true rfl) (fun i _ => e_xp (e_hc (e_wk mP_X0_runTo (ll_0 (ll_0 (ll_0 (ll_0 (ll_0 ll_n)))))) (e_hc (e_wk mP_X0_runTo (ll_0 (ll_0 (ll_0 (ll_0 (ll_0 ll_n)))))) (e_hn i)))) fun x2 h1 => ?_
  refine e_i2l rfl ?_
  refine e_last rfl fun h3 => ?_
  refine e_goto rfl ?_
  refine e_push rfl ?_
  exact e_iret rfl
noncomputable def B_X0_back_12 (K : ax_K) (s0 : Nat) (h : ax_H) : Option ax_R := ax_run K P_X0_back 12 [none, none, none, none] [.ref s0] h
noncomputable def B_X0_back_15 (K : ax_K) (s0 : Nat) (h : ax_H) : Option ax_R := ax_run K P_X0_back 15 [none, none, none, none] [.ref s0] h
theorem b_X0_back_12 {K : ax_K} {s0 : Nat} {h : ax_H}  : dx_le (some (.inl (some (.int 1)), h)) (B_X0_back_12 K s0 h) := by
  show dx_le _ (ax_run K P_X0_back 12 [none, none, none, none] [.ref s0] h)
  refine e_astore (L' := [none, none, none, some (.ref s0)]) rfl rfl (dx_sto (Nat.le_of_ble_eq_true rfl) (Or.inr ⟨_, rfl, rfl⟩) rfl) ?_
  refine e_push rfl ?_
  exact e_iret rfl
theorem b_X0_back_15 {K : ax_K} {s0 : Nat} {h : ax_H}  : dx_le (some (.inl (some (.int 2)), h)) (B_X0_back_15 K s0 h) := by
  show dx_le _ (ax_run K P_X0_back 15 [none, none, none, none] [.ref s0] h)
  refine e_astore (L' := [none, none, none, some (.ref s0)]) rfl rfl (dx_sto (Nat.le_of_ble_eq_true rfl) (Or.inr ⟨_, rfl, rfl⟩) rfl) ?_
  refine e_push rfl ?_
  exact e_iret rfl
theorem m_X0_back {d : Nat} {v0 : Value} {v1 : Int32} {v2 : Value} {h : ax_H} (hv0 : ax_rv v0 = true) (hv2 : ax_rv v2 = true) : dx_le ((dx_vn [(19, 251)] v0 h).bind fun k => dx_cI ((ax_c d) k [v0, .int v1] h) (fun x2 h1 => (dx_sJ 1 v2 0 (Int32.toInt64 x2) h1).bind fun h3 => some (.inl (some (.int 0)), h3)) (fun i hx => dx_xp (fun k : Nat => if k ∈ [0, 44] then some (some 15) else if k ∈ [18] then some (some 12) else if k ∈ [6, 7, 28, 32, 33, 34, 35, 45, 46] then some none else none) i hx (fun pc => if pc = 12 then B_X0_back_12 (ax_c d) i hx else (fun pc => if pc = 15 then B_X0_back_15 (ax_c d) i hx else none) pc))) (ax_c (d + 1) 194 [v0, .int v1, v2] h) := by
  refine e_entry (L' := [some (v0), some (.int v1), some (v2), none]) rfl (ag_A hv0 (ag_I (ag_A hv2 ag_n))) (Nat.le_of_ble_eq_true rfl) rfl ?_
  refine e_aload rfl rfl hv2 ?_
  refine e_push rfl ?_
  refine e_aload rfl rfl hv0 ?_
  refine e_iload rfl rfl ?_
  refine e_ivI rfl rfl rfl (Nat.le_of_ble_eq_true rfl) (fun i _ => e_xp (e_hc (e_wk mP_X0_back (ll_0 (ll_0 (ll_0 (ll_0 ll_n))))) (e_hc (e_wk mP_X0_back (ll_0 (ll_0 (ll_0 (ll_0 ll_n))))) (e_hn i)))) fun x2 h1 => ?_
  refine e_i2l rfl ?_
  refine e_last rfl fun h3 => ?_
  refine e_goto rfl ?_
  refine e_push rfl ?_
  exact e_iret rfl
noncomputable def B_X0_press_12 (K : ax_K) (s0 : Nat) (h : ax_H) : Option ax_R := ax_run K P_X0_press 12 [none, none, none, none] [.ref s0] h
noncomputable def B_X0_press_15 (K : ax_K) (s0 : Nat) (h : ax_H) : Option ax_R := ax_run K P_X0_press 15 [none, none, none, none] [.ref s0] h
theorem b_X0_press_12 {K : ax_K} {s0 : Nat} {h : ax_H}  : dx_le (some (.inl (some (.int 1)), h)) (B_X0_press_12 K s0 h) := by
  show dx_le _ (ax_run K P_X0_press 12 [none, none, none, none] [.ref s0] h)
  refine e_astore (L' := [none, none, none, some (.ref s0)]) rfl rfl (dx_sto (Nat.le_of_ble_eq_true rfl) (Or.inr ⟨_, rfl, rfl⟩) rfl) ?_
  refine e_push rfl ?_
  exact e_iret rfl
theorem b_X0_press_15 {K : ax_K} {s0 : Nat} {h : ax_H}  : dx_le (some (.inl (some (.int 2)), h)) (B_X0_press_15 K s0 h) := by
  show dx_le _ (ax_run K P_X0_press 15 [none, none, none, none] [.ref s0] h)
  refine e_astore (L' := [none, none, none, some (.ref s0)]) rfl rfl (dx_sto (Nat.le_of_ble_eq_true rfl) (Or.inr ⟨_, rfl, rfl⟩) rfl) ?_
  refine e_push rfl ?_
  exact e_iret rfl
theorem m_X0_press {d : Nat} {v0 : Value} {v1 : Int32} {v2 : Value} {h : ax_H} (hv0 : ax_rv v0 = true) (hv2 : ax_rv v2 = true) : dx_le ((dx_vn [(19, 252)] v0 h).bind fun k => dx_cI ((ax_c d) k [v0, .int v1] h) (fun x2 h1 => (dx_sJ 1 v2 0 (Int32.toInt64 x2) h1).bind fun h3 => some (.inl (some (.int 0)), h3)) (fun i hx => dx_xp (fun k : Nat => if k ∈ [0, 44] then some (some 15) else if k ∈ [18] then some (some 12) else if k ∈ [6, 7, 28, 32, 33, 34, 35, 45, 46] then some none else none) i hx (fun pc => if pc = 12 then B_X0_press_12 (ax_c d) i hx else (fun pc => if pc = 15 then B_X0_press_15 (ax_c d) i hx else none) pc))) (ax_c (d + 1) 195 [v0, .int v1, v2] h) := by
  refine e_entry (L' := [some (v0), some (.int v1), some (v2), none]) rfl (ag_A hv0 (ag_I (ag_A hv2 ag_n))) (Nat.le_of_ble_eq_true rfl) rfl ?_
  refine e_aload rfl rfl hv2 ?_
  refine e_push rfl ?_
  refine e_aload rfl rfl hv0 ?_
  refine e_iload rfl rfl ?_
  refine e_ivI rfl rfl rfl (Nat.le_of_ble_eq_true rfl) (fun i _ => e_xp (e_hc (e_wk mP_X0_press (ll_0 (ll_0 (ll_0 (ll_0 ll_n))))) (e_hc (e_wk mP_X0_press (ll_0 (ll_0 (ll_0 (ll_0 ll_n))))) (e_hn i)))) fun x2 h1 => ?_
  refine e_i2l rfl ?_
  refine e_last rfl fun h3 => ?_
  refine e_goto rfl ?_
  refine e_push rfl ?_
  exact e_iret rfl
noncomputable def B_X0_register_12 (K : ax_K) (s0 : Nat) (h : ax_H) : Option ax_R := ax_run K P_X0_register 12 [none, none, none, none] [.ref s0] h
theorem b_X0_register_12 {K : ax_K} {s0 : Nat} {h : ax_H}  : dx_le (some (.inl (some (.int 1)), h)) (B_X0_register_12 K s0 h) := by
  show dx_le _ (ax_run K P_X0_register 12 [none, none, none, none] [.ref s0] h)
  refine e_astore (L' := [none, none, none, some (.ref s0)]) rfl rfl (dx_sto (Nat.le_of_ble_eq_true rfl) (Or.inr ⟨_, rfl, rfl⟩) rfl) ?_
  refine e_push rfl ?_
  exact e_iret rfl
theorem m_X0_register {d : Nat} {v0 : Value} {v1 : Int32} {v2 : Value} {h : ax_H} (hv0 : ax_rv v0 = true) (hv2 : ax_rv v2 = true) : dx_le ((dx_vn [(19, 253)] v0 h).bind fun k => dx_cI ((ax_c d) k [v0, .int v1] h) (fun x2 h1 => (dx_sJ 1 v2 0 (Int32.toInt64 x2) h1).bind fun h3 => some (.inl (some (.int 0)), h3)) (fun i hx => dx_xp (fun k : Nat => if k ∈ [18] then some (some 12) else if k ∈ [0, 6, 7, 28, 32, 33, 34, 35, 44, 45, 46] then some none else none) i hx (fun pc => if pc = 12 then B_X0_register_12 (ax_c d) i hx else none))) (ax_c (d + 1) 196 [v0, .int v1, v2] h) := by
  refine e_entry (L' := [some (v0), some (.int v1), some (v2), none]) rfl (ag_A hv0 (ag_I (ag_A hv2 ag_n))) (Nat.le_of_ble_eq_true rfl) rfl ?_
  refine e_aload rfl rfl hv2 ?_
  refine e_push rfl ?_
  refine e_aload rfl rfl hv0 ?_
  refine e_iload rfl rfl ?_
  refine e_ivI rfl rfl rfl (Nat.le_of_ble_eq_true rfl) (fun i _ => e_xp (e_hc (e_wk mP_X0_register (ll_0 (ll_0 (ll_0 (ll_0 ll_n))))) (e_hn i))) fun x2 h1 => ?_
  refine e_i2l rfl ?_
  refine e_last rfl fun h3 => ?_
  refine e_goto rfl ?_
  refine e_push rfl ?_
  exact e_iret rfl
noncomputable def B_X0_memory_12 (K : ax_K) (s0 : Nat) (h : ax_H) : Option ax_R := ax_run K P_X0_memory 12 [none, none, none, none] [.ref s0] h
theorem b_X0_memory_12 {K : ax_K} {s0 : Nat} {h : ax_H}  : dx_le (some (.inl (some (.int 1)), h)) (B_X0_memory_12 K s0 h) := by
  show dx_le _ (ax_run K P_X0_memory 12 [none, none, none, none] [.ref s0] h)
  refine e_astore (L' := [none, none, none, some (.ref s0)]) rfl rfl (dx_sto (Nat.le_of_ble_eq_true rfl) (Or.inr ⟨_, rfl, rfl⟩) rfl) ?_
  refine e_push rfl ?_
  exact e_iret rfl
theorem m_X0_memory {d : Nat} {v0 : Value} {v1 : Int32} {v2 : Value} {h : ax_H} (hv0 : ax_rv v0 = true) (hv2 : ax_rv v2 = true) : dx_le ((dx_vn [(19, 254)] v0 h).bind fun k => dx_cI ((ax_c d) k [v0, .int v1] h) (fun x2 h1 => (dx_sJ 1 v2 0 (Int32.toInt64 x2) h1).bind fun h3 => some (.inl (some (.int 0)), h3)) (fun i hx => dx_xp (fun k : Nat => if k ∈ [18] then some (some 12) else if k ∈ [0, 6, 7, 28, 32, 33, 34, 35, 44, 45, 46] then some none else none) i hx (fun pc => if pc = 12 then B_X0_memory_12 (ax_c d) i hx else none))) (ax_c (d + 1) 197 [v0, .int v1, v2] h) := by
  refine e_entry (L' := [some (v0), some (.int v1), some (v2), none]) rfl (ag_A hv0 (ag_I (ag_A hv2 ag_n))) (Nat.le_of_ble_eq_true rfl) rfl ?_
  refine e_aload rfl rfl hv2 ?_
  refine e_push rfl ?_
  refine e_aload rfl rfl hv0 ?_
  refine e_iload rfl rfl ?_
  refine e_ivI rfl rfl rfl (Nat.le_of_ble_eq_true rfl) (fun i _ => e_xp (e_hc (e_wk mP_X0_memory (ll_0 (ll_0 (ll_0 (ll_0 ll_n))))) (e_hn i))) fun x2 h1 => ?_
  refine e_i2l rfl ?_
  refine e_last rfl fun h3 => ?_
  refine e_goto rfl ?_
  refine e_push rfl ?_
  exact e_iret rfl
noncomputable def B_X0_changedAt_12 (K : ax_K) (s0 : Nat) (h : ax_H) : Option ax_R := ax_run K P_X0_changedAt 12 [none, none, none, none] [.ref s0] h
theorem b_X0_changedAt_12 {K : ax_K} {s0 : Nat} {h : ax_H}  : dx_le (some (.inl (some (.int 1)), h)) (B_X0_changedAt_12 K s0 h) := by
  show dx_le _ (ax_run K P_X0_changedAt 12 [none, none, none, none] [.ref s0] h)
  refine e_astore (L' := [none, none, none, some (.ref s0)]) rfl rfl (dx_sto (Nat.le_of_ble_eq_true rfl) (Or.inr ⟨_, rfl, rfl⟩) rfl) ?_
  refine e_push rfl ?_
  exact e_iret rfl
theorem m_X0_changedAt {d : Nat} {v0 : Value} {v1 : Int32} {v2 : Value} {h : ax_H} (hv0 : ax_rv v0 = true) (hv2 : ax_rv v2 = true) : dx_le ((dx_vn [(19, 255)] v0 h).bind fun k => dx_cI ((ax_c d) k [v0, .int v1] h) (fun x2 h1 => (dx_sJ 1 v2 0 (Int32.toInt64 x2) h1).bind fun h3 => some (.inl (some (.int 0)), h3)) (fun i hx => dx_xp (fun k : Nat => if k ∈ [18] then some (some 12) else if k ∈ [0, 6, 7, 28, 32, 33, 34, 35, 44, 45, 46] then some none else none) i hx (fun pc => if pc = 12 then B_X0_changedAt_12 (ax_c d) i hx else none))) (ax_c (d + 1) 198 [v0, .int v1, v2] h) := by
  refine e_entry (L' := [some (v0), some (.int v1), some (v2), none]) rfl (ag_A hv0 (ag_I (ag_A hv2 ag_n))) (Nat.le_of_ble_eq_true rfl) rfl ?_
  refine e_aload rfl rfl hv2 ?_
  refine e_push rfl ?_
  refine e_aload rfl rfl hv0 ?_
  refine e_iload rfl rfl ?_
  refine e_ivI rfl rfl rfl (Nat.le_of_ble_eq_true rfl) (fun i _ => e_xp (e_hc (e_wk mP_X0_changedAt (ll_0 (ll_0 (ll_0 (ll_0 ll_n))))) (e_hn i))) fun x2 h1 => ?_
  refine e_i2l rfl ?_
  refine e_last rfl fun h3 => ?_
  refine e_goto rfl ?_
  refine e_push rfl ?_
  exact e_iret rfl
noncomputable def B_X0_tapeAt_12 (K : ax_K) (s0 : Nat) (h : ax_H) : Option ax_R := ax_run K P_X0_tapeAt 12 [none, none, none, none] [.ref s0] h
theorem b_X0_tapeAt_12 {K : ax_K} {s0 : Nat} {h : ax_H}  : dx_le (some (.inl (some (.int 1)), h)) (B_X0_tapeAt_12 K s0 h) := by
  show dx_le _ (ax_run K P_X0_tapeAt 12 [none, none, none, none] [.ref s0] h)
  refine e_astore (L' := [none, none, none, some (.ref s0)]) rfl rfl (dx_sto (Nat.le_of_ble_eq_true rfl) (Or.inr ⟨_, rfl, rfl⟩) rfl) ?_
  refine e_push rfl ?_
  exact e_iret rfl
theorem m_X0_tapeAt {d : Nat} {v0 : Value} {v1 : Int32} {v2 : Value} {h : ax_H} (hv0 : ax_rv v0 = true) (hv2 : ax_rv v2 = true) : dx_le ((dx_vn [(19, 256)] v0 h).bind fun k => dx_cI ((ax_c d) k [v0, .int v1] h) (fun x2 h1 => (dx_sJ 1 v2 0 (Int32.toInt64 x2) h1).bind fun h3 => some (.inl (some (.int 0)), h3)) (fun i hx => dx_xp (fun k : Nat => if k ∈ [6, 46] then some (some 12) else if k ∈ [18, 0, 7, 28, 32, 33, 34, 35, 44, 45] then some none else none) i hx (fun pc => if pc = 12 then B_X0_tapeAt_12 (ax_c d) i hx else none))) (ax_c (d + 1) 199 [v0, .int v1, v2] h) := by
  refine e_entry (L' := [some (v0), some (.int v1), some (v2), none]) rfl (ag_A hv0 (ag_I (ag_A hv2 ag_n))) (Nat.le_of_ble_eq_true rfl) rfl ?_
  refine e_aload rfl rfl hv2 ?_
  refine e_push rfl ?_
  refine e_aload rfl rfl hv0 ?_
  refine e_iload rfl rfl ?_
  refine e_ivI rfl rfl rfl (Nat.le_of_ble_eq_true rfl) (fun i _ => e_xp (e_hc (e_wk mP_X0_tapeAt (ll_0 (ll_0 (ll_0 (ll_0 ll_n))))) (e_hn i))) fun x2 h1 => ?_
  refine e_i2l rfl ?_
  refine e_last rfl fun h3 => ?_
  refine e_goto rfl ?_
  refine e_push rfl ?_
  exact e_iret rfl
noncomputable def B_X0_sumAnew_12 (K : ax_K) (s0 : Nat) (h : ax_H) : Option ax_R := ax_run K P_X0_sumAnew 12 [none, none, none, none] [.ref s0] h
noncomputable def B_X0_sumAnew_15 (K : ax_K) (s0 : Nat) (h : ax_H) : Option ax_R := ax_run K P_X0_sumAnew 15 [none, none, none, none] [.ref s0] h
theorem b_X0_sumAnew_12 {K : ax_K} {s0 : Nat} {h : ax_H}  : dx_le (some (.inl (some (.int 1)), h)) (B_X0_sumAnew_12 K s0 h) := by
  show dx_le _ (ax_run K P_X0_sumAnew 12 [none, none, none, none] [.ref s0] h)
  refine e_astore (L' := [none, none, none, some (.ref s0)]) rfl rfl (dx_sto (Nat.le_of_ble_eq_true rfl) (Or.inr ⟨_, rfl, rfl⟩) rfl) ?_
  refine e_push rfl ?_
  exact e_iret rfl
theorem b_X0_sumAnew_15 {K : ax_K} {s0 : Nat} {h : ax_H}  : dx_le (some (.inl (some (.int 2)), h)) (B_X0_sumAnew_15 K s0 h) := by
  show dx_le _ (ax_run K P_X0_sumAnew 15 [none, none, none, none] [.ref s0] h)
  refine e_astore (L' := [none, none, none, some (.ref s0)]) rfl rfl (dx_sto (Nat.le_of_ble_eq_true rfl) (Or.inr ⟨_, rfl, rfl⟩) rfl) ?_
  refine e_push rfl ?_
  exact e_iret rfl
theorem m_X0_sumAnew {d : Nat} {v0 : Value} {v1 : Int32} {v2 : Value} {h : ax_H} (hv0 : ax_rv v0 = true) (hv2 : ax_rv v2 = true) : dx_le ((dx_vn [(19, 257)] v0 h).bind fun k => dx_cI ((ax_c d) k [v0, .int v1] h) (fun x2 h1 => (dx_sJ 1 v2 0 (Int32.toInt64 x2) h1).bind fun h3 => some (.inl (some (.int 0)), h3)) (fun i hx => dx_xp (fun k : Nat => if k ∈ [18] then some (some 15) else if k ∈ [0, 44] then some (some 12) else if k ∈ [6, 7, 28, 32, 33, 34, 35, 45, 46] then some none else none) i hx (fun pc => if pc = 12 then B_X0_sumAnew_12 (ax_c d) i hx else (fun pc => if pc = 15 then B_X0_sumAnew_15 (ax_c d) i hx else none) pc))) (ax_c (d + 1) 200 [v0, .int v1, v2] h) := by
  refine e_entry (L' := [some (v0), some (.int v1), some (v2), none]) rfl (ag_A hv0 (ag_I (ag_A hv2 ag_n))) (Nat.le_of_ble_eq_true rfl) rfl ?_
  refine e_aload rfl rfl hv2 ?_
  refine e_push rfl ?_
  refine e_aload rfl rfl hv0 ?_
  refine e_iload rfl rfl ?_
  refine e_ivI rfl rfl rfl (Nat.le_of_ble_eq_true rfl) (fun i _ => e_xp (e_hc (e_wk mP_X0_sumAnew (ll_0 (ll_0 (ll_0 (ll_0 ll_n))))) (e_hc (e_wk mP_X0_sumAnew (ll_0 (ll_0 (ll_0 (ll_0 ll_n))))) (e_hn i)))) fun x2 h1 => ?_
  refine e_i2l rfl ?_
  refine e_last rfl fun h3 => ?_
  refine e_goto rfl ?_
  refine e_push rfl ?_
  exact e_iret rfl
noncomputable def B_X0_disk_13 (K : ax_K) (s0 : Nat) (h : ax_H) : Option ax_R := ax_run K P_X0_disk 13 [none, none, none, none, none] [.ref s0] h
theorem b_X0_disk_13 {K : ax_K} {s0 : Nat} {h : ax_H}  : dx_le (some (.inl (some (.int 1)), h)) (B_X0_disk_13 K s0 h) := by
  show dx_le _ (ax_run K P_X0_disk 13 [none, none, none, none, none] [.ref s0] h)
  refine e_astore (L' := [none, none, none, none, some (.ref s0)]) rfl rfl (dx_sto (Nat.le_of_ble_eq_true rfl) (Or.inr ⟨_, rfl, rfl⟩) rfl) ?_
  refine e_push rfl ?_
  exact e_iret rfl
theorem m_X0_disk {d : Nat} {v0 : Value} {v1 : Int32} {v2 : Int32} {v3 : Value} {h : ax_H} (hv0 : ax_rv v0 = true) (hv3 : ax_rv v3 = true) : dx_le ((dx_vn [(19, 258)] v0 h).bind fun k => dx_cI ((ax_c d) k [v0, .int v1, .int v2] h) (fun x2 h1 => (dx_sJ 1 v3 0 (Int32.toInt64 x2) h1).bind fun h3 => some (.inl (some (.int 0)), h3)) (fun i hx => dx_xp (fun k : Nat => if k ∈ [18] then some (some 13) else if k ∈ [0, 6, 7, 28, 32, 33, 34, 35, 44, 45, 46] then some none else none) i hx (fun pc => if pc = 13 then B_X0_disk_13 (ax_c d) i hx else none))) (ax_c (d + 1) 201 [v0, .int v1, .int v2, v3] h) := by
  refine e_entry (L' := [some (v0), some (.int v1), some (.int v2), some (v3), none]) rfl (ag_A hv0 (ag_I (ag_I (ag_A hv3 ag_n)))) (Nat.le_of_ble_eq_true rfl) rfl ?_
  refine e_aload rfl rfl hv3 ?_
  refine e_push rfl ?_
  refine e_aload rfl rfl hv0 ?_
  refine e_iload rfl rfl ?_
  refine e_iload rfl rfl ?_
  refine e_ivI rfl rfl rfl (Nat.le_of_ble_eq_true rfl) (fun i _ => e_xp (e_hc (e_wk mP_X0_disk (ll_0 (ll_0 (ll_0 (ll_0 (ll_0 ll_n)))))) (e_hn i))) fun x2 h1 => ?_
  refine e_i2l rfl ?_
  refine e_last rfl fun h3 => ?_
  refine e_goto rfl ?_
  refine e_push rfl ?_
  exact e_iret rfl
noncomputable def B_X0_size_12 (K : ax_K) (s0 : Nat) (h : ax_H) : Option ax_R := ax_run K P_X0_size 12 [none, none, none, none] [.ref s0] h
noncomputable def B_X0_size_15 (K : ax_K) (s0 : Nat) (h : ax_H) : Option ax_R := ax_run K P_X0_size 15 [none, none, none, none] [.ref s0] h
theorem b_X0_size_12 {K : ax_K} {s0 : Nat} {h : ax_H}  : dx_le (some (.inl (some (.int 1)), h)) (B_X0_size_12 K s0 h) := by
  show dx_le _ (ax_run K P_X0_size 12 [none, none, none, none] [.ref s0] h)
  refine e_astore (L' := [none, none, none, some (.ref s0)]) rfl rfl (dx_sto (Nat.le_of_ble_eq_true rfl) (Or.inr ⟨_, rfl, rfl⟩) rfl) ?_
  refine e_push rfl ?_
  exact e_iret rfl
theorem b_X0_size_15 {K : ax_K} {s0 : Nat} {h : ax_H}  : dx_le (some (.inl (some (.int 2)), h)) (B_X0_size_15 K s0 h) := by
  show dx_le _ (ax_run K P_X0_size 15 [none, none, none, none] [.ref s0] h)
  refine e_astore (L' := [none, none, none, some (.ref s0)]) rfl rfl (dx_sto (Nat.le_of_ble_eq_true rfl) (Or.inr ⟨_, rfl, rfl⟩) rfl) ?_
  refine e_push rfl ?_
  exact e_iret rfl
theorem m_X0_size {d : Nat} {v0 : Value} {v1 : Int32} {v2 : Value} {h : ax_H} (hv0 : ax_rv v0 = true) (hv2 : ax_rv v2 = true) : dx_le ((dx_vn [(19, 259)] v0 h).bind fun k => dx_cI ((ax_c d) k [v0, .int v1] h) (fun x2 h1 => (dx_sJ 1 v2 0 (Int32.toInt64 x2) h1).bind fun h3 => some (.inl (some (.int 0)), h3)) (fun i hx => dx_xp (fun k : Nat => if k ∈ [7, 45] then some (some 15) else if k ∈ [18] then some (some 12) else if k ∈ [0, 6, 28, 32, 33, 34, 35, 44, 46] then some none else none) i hx (fun pc => if pc = 12 then B_X0_size_12 (ax_c d) i hx else (fun pc => if pc = 15 then B_X0_size_15 (ax_c d) i hx else none) pc))) (ax_c (d + 1) 202 [v0, .int v1, v2] h) := by
  refine e_entry (L' := [some (v0), some (.int v1), some (v2), none]) rfl (ag_A hv0 (ag_I (ag_A hv2 ag_n))) (Nat.le_of_ble_eq_true rfl) rfl ?_
  refine e_aload rfl rfl hv2 ?_
  refine e_push rfl ?_
  refine e_aload rfl rfl hv0 ?_
  refine e_iload rfl rfl ?_
  refine e_ivI rfl rfl rfl (Nat.le_of_ble_eq_true rfl) (fun i _ => e_xp (e_hc (e_wk mP_X0_size (ll_0 (ll_0 (ll_0 (ll_0 ll_n))))) (e_hc (e_wk mP_X0_size (ll_0 (ll_0 (ll_0 (ll_0 ll_n))))) (e_hn i)))) fun x2 h1 => ?_
  refine e_i2l rfl ?_
  refine e_last rfl fun h3 => ?_
  refine e_goto rfl ?_
  refine e_push rfl ?_
  exact e_iret rfl
noncomputable def B_X0_wordOf_13 (K : ax_K) (s0 : Nat) (h : ax_H) : Option ax_R := ax_run K P_X0_wordOf 13 [none, none, none, none, none] [.ref s0] h
noncomputable def B_X0_wordOf_17 (K : ax_K) (s0 : Nat) (h : ax_H) : Option ax_R := ax_run K P_X0_wordOf 17 [none, none, none, none, none] [.ref s0] h
noncomputable def B_X0_wordOf_21 (K : ax_K) (s0 : Nat) (h : ax_H) : Option ax_R := ax_run K P_X0_wordOf 21 [none, none, none, none, none] [.ref s0] h
theorem b_X0_wordOf_13 {K : ax_K} {s0 : Nat} {h : ax_H}  : dx_le (some (.inl (some (.int 1)), h)) (B_X0_wordOf_13 K s0 h) := by
  show dx_le _ (ax_run K P_X0_wordOf 13 [none, none, none, none, none] [.ref s0] h)
  refine e_astore (L' := [none, none, none, none, some (.ref s0)]) rfl rfl (dx_sto (Nat.le_of_ble_eq_true rfl) (Or.inr ⟨_, rfl, rfl⟩) rfl) ?_
  refine e_push rfl ?_
  exact e_iret rfl
theorem b_X0_wordOf_17 {K : ax_K} {s0 : Nat} {h : ax_H}  : dx_le (some (.inl (some (.int 2)), h)) (B_X0_wordOf_17 K s0 h) := by
  show dx_le _ (ax_run K P_X0_wordOf 17 [none, none, none, none, none] [.ref s0] h)
  refine e_astore (L' := [none, none, none, none, some (.ref s0)]) rfl rfl (dx_sto (Nat.le_of_ble_eq_true rfl) (Or.inr ⟨_, rfl, rfl⟩) rfl) ?_
  refine e_push rfl ?_
  exact e_iret rfl
theorem b_X0_wordOf_21 {K : ax_K} {s0 : Nat} {h : ax_H}  : dx_le (some (.inl (some (.int 3)), h)) (B_X0_wordOf_21 K s0 h) := by
  show dx_le _ (ax_run K P_X0_wordOf 21 [none, none, none, none, none] [.ref s0] h)
  refine e_astore (L' := [none, none, none, none, some (.ref s0)]) rfl rfl (dx_sto (Nat.le_of_ble_eq_true rfl) (Or.inr ⟨_, rfl, rfl⟩) rfl) ?_
  refine e_push rfl ?_
  exact e_iret rfl
theorem m_X0_wordOf {d : Nat} {v0 : Value} {v1 : Int32} {v2 : Int32} {v3 : Value} {h : ax_H} (hv0 : ax_rv v0 = true) (hv3 : ax_rv v3 = true) : dx_le ((dx_vn [(19, 261)] v0 h).bind fun k => dx_cI ((ax_c d) k [v0, .int v1, .int v2] h) (fun x2 h1 => (dx_sJ 1 v3 0 (Int32.toInt64 x2) h1).bind fun h3 => some (.inl (some (.int 0)), h3)) (fun i hx => dx_xp (fun k : Nat => if k ∈ [6, 46] then some (some 21) else if k ∈ [7, 45] then some (some 17) else if k ∈ [18] then some (some 13) else if k ∈ [0, 28, 32, 33, 34, 35, 44] then some none else none) i hx (fun pc => if pc = 13 then B_X0_wordOf_13 (ax_c d) i hx else (fun pc => if pc = 17 then B_X0_wordOf_17 (ax_c d) i hx else (fun pc => if pc = 21 then B_X0_wordOf_21 (ax_c d) i hx else none) pc) pc))) (ax_c (d + 1) 203 [v0, .int v1, .int v2, v3] h) := by
  refine e_entry (L' := [some (v0), some (.int v1), some (.int v2), some (v3), none]) rfl (ag_A hv0 (ag_I (ag_I (ag_A hv3 ag_n)))) (Nat.le_of_ble_eq_true rfl) rfl ?_
  refine e_aload rfl rfl hv3 ?_
  refine e_push rfl ?_
  refine e_aload rfl rfl hv0 ?_
  refine e_iload rfl rfl ?_
  refine e_iload rfl rfl ?_
  refine e_ivI rfl rfl rfl (Nat.le_of_ble_eq_true rfl) (fun i _ => e_xp (e_hc (e_wk mP_X0_wordOf (ll_0 (ll_0 (ll_0 (ll_0 (ll_0 ll_n)))))) (e_hc (e_wk mP_X0_wordOf (ll_0 (ll_0 (ll_0 (ll_0 (ll_0 ll_n)))))) (e_hc (e_wk mP_X0_wordOf (ll_0 (ll_0 (ll_0 (ll_0 (ll_0 ll_n)))))) (e_hn i))))) fun x2 h1 => ?_
  refine e_i2l rfl ?_
  refine e_last rfl fun h3 => ?_
  refine e_goto rfl ?_
  refine e_push rfl ?_
  exact e_iret rfl
noncomputable def B_X0_testKey_12 (K : ax_K) (s0 : Nat) (h : ax_H) : Option ax_R := ax_run K P_X0_testKey 12 [none, none, none, none] [.ref s0] h
noncomputable def B_X0_testKey_15 (K : ax_K) (s0 : Nat) (h : ax_H) : Option ax_R := ax_run K P_X0_testKey 15 [none, none, none, none] [.ref s0] h
theorem b_X0_testKey_12 {K : ax_K} {s0 : Nat} {h : ax_H}  : dx_le (some (.inl (some (.int 1)), h)) (B_X0_testKey_12 K s0 h) := by
  show dx_le _ (ax_run K P_X0_testKey 12 [none, none, none, none] [.ref s0] h)
  refine e_astore (L' := [none, none, none, some (.ref s0)]) rfl rfl (dx_sto (Nat.le_of_ble_eq_true rfl) (Or.inr ⟨_, rfl, rfl⟩) rfl) ?_
  refine e_push rfl ?_
  exact e_iret rfl
theorem b_X0_testKey_15 {K : ax_K} {s0 : Nat} {h : ax_H}  : dx_le (some (.inl (some (.int 2)), h)) (B_X0_testKey_15 K s0 h) := by
  show dx_le _ (ax_run K P_X0_testKey 15 [none, none, none, none] [.ref s0] h)
  refine e_astore (L' := [none, none, none, some (.ref s0)]) rfl rfl (dx_sto (Nat.le_of_ble_eq_true rfl) (Or.inr ⟨_, rfl, rfl⟩) rfl) ?_
  refine e_push rfl ?_
  exact e_iret rfl
theorem m_X0_testKey {d : Nat} {v0 : Value} {v1 : Int32} {v2 : Value} {h : ax_H} (hv0 : ax_rv v0 = true) (hv2 : ax_rv v2 = true) : dx_le ((dx_vn [(19, 262)] v0 h).bind fun k => dx_cI ((ax_c d) k [v0, .int v1] h) (fun x2 h1 => (dx_sJ 1 v2 0 (Int32.toInt64 x2) h1).bind fun h3 => some (.inl (some (.int 0)), h3)) (fun i hx => dx_xp (fun k : Nat => if k ∈ [0, 44] then some (some 15) else if k ∈ [18] then some (some 12) else if k ∈ [6, 7, 28, 32, 33, 34, 35, 45, 46] then some none else none) i hx (fun pc => if pc = 12 then B_X0_testKey_12 (ax_c d) i hx else (fun pc => if pc = 15 then B_X0_testKey_15 (ax_c d) i hx else none) pc))) (ax_c (d + 1) 204 [v0, .int v1, v2] h) := by
  refine e_entry (L' := [some (v0), some (.int v1), some (v2), none]) rfl (ag_A hv0 (ag_I (ag_A hv2 ag_n))) (Nat.le_of_ble_eq_true rfl) rfl ?_
  refine e_aload rfl rfl hv2 ?_
  refine e_push rfl ?_
  refine e_aload rfl rfl hv0 ?_
  refine e_iload rfl rfl ?_
  refine e_ivI rfl rfl rfl (Nat.le_of_ble_eq_true rfl) (fun i _ => e_xp (e_hc (e_wk mP_X0_testKey (ll_0 (ll_0 (ll_0 (ll_0 ll_n))))) (e_hc (e_wk mP_X0_testKey (ll_0 (ll_0 (ll_0 (ll_0 ll_n))))) (e_hn i)))) fun x2 h1 => ?_
  refine e_i2l rfl ?_
  refine e_last rfl fun h3 => ?_
  refine e_goto rfl ?_
  refine e_push rfl ?_
  exact e_iret rfl
noncomputable def B_X0_testWord_12 (K : ax_K) (s0 : Nat) (h : ax_H) : Option ax_R := ax_run K P_X0_testWord 12 [none, none, none, none] [.ref s0] h
noncomputable def B_X0_testWord_15 (K : ax_K) (s0 : Nat) (h : ax_H) : Option ax_R := ax_run K P_X0_testWord 15 [none, none, none, none] [.ref s0] h
theorem b_X0_testWord_12 {K : ax_K} {s0 : Nat} {h : ax_H}  : dx_le (some (.inl (some (.int 1)), h)) (B_X0_testWord_12 K s0 h) := by
  show dx_le _ (ax_run K P_X0_testWord 12 [none, none, none, none] [.ref s0] h)
  refine e_astore (L' := [none, none, none, some (.ref s0)]) rfl rfl (dx_sto (Nat.le_of_ble_eq_true rfl) (Or.inr ⟨_, rfl, rfl⟩) rfl) ?_
  refine e_push rfl ?_
  exact e_iret rfl
theorem b_X0_testWord_15 {K : ax_K} {s0 : Nat} {h : ax_H}  : dx_le (some (.inl (some (.int 2)), h)) (B_X0_testWord_15 K s0 h) := by
  show dx_le _ (ax_run K P_X0_testWord 15 [none, none, none, none] [.ref s0] h)
  refine e_astore (L' := [none, none, none, some (.ref s0)]) rfl rfl (dx_sto (Nat.le_of_ble_eq_true rfl) (Or.inr ⟨_, rfl, rfl⟩) rfl) ?_
  refine e_push rfl ?_
  exact e_iret rfl
theorem m_X0_testWord {d : Nat} {v0 : Value} {v1 : Int32} {v2 : Value} {h : ax_H} (hv0 : ax_rv v0 = true) (hv2 : ax_rv v2 = true) : dx_le ((dx_vn [(19, 264)] v0 h).bind fun k => dx_cI ((ax_c d) k [v0, .int v1] h) (fun x2 h1 => (dx_sJ 1 v2 0 (Int32.toInt64 x2) h1).bind fun h3 => some (.inl (some (.int 0)), h3)) (fun i hx => dx_xp (fun k : Nat => if k ∈ [0, 44] then some (some 15) else if k ∈ [18] then some (some 12) else if k ∈ [6, 7, 28, 32, 33, 34, 35, 45, 46] then some none else none) i hx (fun pc => if pc = 12 then B_X0_testWord_12 (ax_c d) i hx else (fun pc => if pc = 15 then B_X0_testWord_15 (ax_c d) i hx else none) pc))) (ax_c (d + 1) 205 [v0, .int v1, v2] h) := by
  refine e_entry (L' := [some (v0), some (.int v1), some (v2), none]) rfl (ag_A hv0 (ag_I (ag_A hv2 ag_n))) (Nat.le_of_ble_eq_true rfl) rfl ?_
  refine e_aload rfl rfl hv2 ?_
  refine e_push rfl ?_
  refine e_aload rfl rfl hv0 ?_
  refine e_iload rfl rfl ?_
  refine e_ivI rfl rfl rfl (Nat.le_of_ble_eq_true rfl) (fun i _ => e_xp (e_hc (e_wk mP_X0_testWord (ll_0 (ll_0 (ll_0 (ll_0 ll_n))))) (e_hc (e_wk mP_X0_testWord (ll_0 (ll_0 (ll_0 (ll_0 ll_n))))) (e_hn i)))) fun x2 h1 => ?_
  refine e_i2l rfl ?_
  refine e_last rfl fun h3 => ?_
  refine e_goto rfl ?_
  refine e_push rfl ?_
  exact e_iret rfl
noncomputable def B_X0_addTest_17 (K : ax_K) (s0 : Nat) (h : ax_H) : Option ax_R := ax_run K P_X0_addTest 17 [none, none, none, none, none, none, none] [.ref s0] h
noncomputable def B_X0_addTest_21 (K : ax_K) (s0 : Nat) (h : ax_H) : Option ax_R := ax_run K P_X0_addTest 21 [none, none, none, none, none, none, none] [.ref s0] h
theorem b_X0_addTest_17 {K : ax_K} {s0 : Nat} {h : ax_H}  : dx_le (some (.inl (some (.int 1)), h)) (B_X0_addTest_17 K s0 h) := by
  show dx_le _ (ax_run K P_X0_addTest 17 [none, none, none, none, none, none, none] [.ref s0] h)
  refine e_astore (L' := [none, none, none, none, none, none, some (.ref s0)]) rfl rfl (dx_sto (Nat.le_of_ble_eq_true rfl) (Or.inr ⟨_, rfl, rfl⟩) rfl) ?_
  refine e_push rfl ?_
  exact e_iret rfl
theorem b_X0_addTest_21 {K : ax_K} {s0 : Nat} {h : ax_H}  : dx_le (some (.inl (some (.int 2)), h)) (B_X0_addTest_21 K s0 h) := by
  show dx_le _ (ax_run K P_X0_addTest 21 [none, none, none, none, none, none, none] [.ref s0] h)
  refine e_astore (L' := [none, none, none, none, none, none, some (.ref s0)]) rfl rfl (dx_sto (Nat.le_of_ble_eq_true rfl) (Or.inr ⟨_, rfl, rfl⟩) rfl) ?_
  refine e_push rfl ?_
  exact e_iret rfl
theorem m_X0_addTest {d : Nat} {v0 : Value} {v1 : Int32} {v2 : Int32} {v3 : Int32} {v4 : Int32} {v5 : Value} {h : ax_H} (hv0 : ax_rv v0 = true) (hv5 : ax_rv v5 = true) : dx_le ((dx_vn [(19, 265)] v0 h).bind fun k => dx_cI ((ax_c d) k [v0, .int v1, .int v2, .int v3, .int v4] h) (fun x2 h1 => (dx_sJ 1 v5 0 (Int32.toInt64 x2) h1).bind fun h3 => some (.inl (some (.int 0)), h3)) (fun i hx => dx_xp (fun k : Nat => if k ∈ [0, 44] then some (some 21) else if k ∈ [18] then some (some 17) else if k ∈ [6, 7, 28, 32, 33, 34, 35, 45, 46] then some none else none) i hx (fun pc => if pc = 17 then B_X0_addTest_17 (ax_c d) i hx else (fun pc => if pc = 21 then B_X0_addTest_21 (ax_c d) i hx else none) pc))) (ax_c (d + 1) 206 [v0, .int v1, .int v2, .int v3, .int v4, v5] h) := by
  refine e_entry (L' := [some (v0), some (.int v1), some (.int v2), some (.int v3), some (.int v4), some (v5), none]) rfl (ag_A hv0 (ag_I (ag_I (ag_I (ag_I (ag_A hv5 ag_n)))))) (Nat.le_of_ble_eq_true rfl) rfl ?_
  refine e_aload rfl rfl hv5 ?_
  refine e_push rfl ?_
  refine e_aload rfl rfl hv0 ?_
  refine e_iload rfl rfl ?_
  refine e_iload rfl rfl ?_
  refine e_iload rfl rfl ?_
  refine e_iload rfl rfl ?_
  refine e_ivI rfl rfl rfl (Nat.le_of_ble_eq_true rfl) (fun i _ => e_xp (e_hc (e_wk mP_X0_addTest (ll_0 (ll_0 (ll_0 (ll_0 (ll_0 (ll_0 (ll_0 ll_n)))))))) (e_hc (e_wk mP_X0_addTest (ll_0 (ll_0 (ll_0 (ll_0 (ll_0 (ll_0 (ll_0 ll_n)))))))) (e_hn i)))) fun x2 h1 => ?_
  refine e_i2l rfl ?_
  refine e_last rfl fun h3 => ?_
  refine e_goto rfl ?_
  refine e_push rfl ?_
  exact e_iret rfl
noncomputable def B_X0_submit_11 (K : ax_K) (s0 : Nat) (h : ax_H) : Option ax_R := ax_run K P_X0_submit 11 [none, none, none] [.ref s0] h
theorem b_X0_submit_11 {K : ax_K} {s0 : Nat} {h : ax_H}  : dx_le (some (.inl (some (.int 1)), h)) (B_X0_submit_11 K s0 h) := by
  show dx_le _ (ax_run K P_X0_submit 11 [none, none, none] [.ref s0] h)
  refine e_astore (L' := [none, none, some (.ref s0)]) rfl rfl (dx_sto (Nat.le_of_ble_eq_true rfl) (Or.inr ⟨_, rfl, rfl⟩) rfl) ?_
  refine e_push rfl ?_
  exact e_iret rfl
theorem m_X0_submit {d : Nat} {v0 : Value} {v1 : Value} {h : ax_H} (hv0 : ax_rv v0 = true) (hv1 : ax_rv v1 = true) : dx_le ((dx_vn [(19, 267)] v0 h).bind fun k => dx_cI ((ax_c d) k [v0] h) (fun x2 h1 => (dx_sJ 1 v1 0 (Int32.toInt64 x2) h1).bind fun h3 => some (.inl (some (.int 0)), h3)) (fun i hx => dx_xp (fun k : Nat => if k ∈ [0, 44] then some (some 11) else if k ∈ [18, 6, 7, 28, 32, 33, 34, 35, 45, 46] then some none else none) i hx (fun pc => if pc = 11 then B_X0_submit_11 (ax_c d) i hx else none))) (ax_c (d + 1) 207 [v0, v1] h) := by
  refine e_entry (L' := [some (v0), some (v1), none]) rfl (ag_A hv0 (ag_A hv1 ag_n)) (Nat.le_of_ble_eq_true rfl) rfl ?_
  refine e_aload rfl rfl hv1 ?_
  refine e_push rfl ?_
  refine e_aload rfl rfl hv0 ?_
  refine e_ivI rfl rfl rfl (Nat.le_of_ble_eq_true rfl) (fun i _ => e_xp (e_hc (e_wk mP_X0_submit (ll_0 (ll_0 (ll_0 ll_n)))) (e_hn i))) fun x2 h1 => ?_
  refine e_i2l rfl ?_
  refine e_last rfl fun h3 => ?_
  refine e_goto rfl ?_
  refine e_push rfl ?_
  exact e_iret rfl
noncomputable def B_X0_result_12 (K : ax_K) (s0 : Nat) (h : ax_H) : Option ax_R := ax_run K P_X0_result 12 [none, none, none, none] [.ref s0] h
theorem b_X0_result_12 {K : ax_K} {s0 : Nat} {h : ax_H}  : dx_le (some (.inl (some (.int 1)), h)) (B_X0_result_12 K s0 h) := by
  show dx_le _ (ax_run K P_X0_result 12 [none, none, none, none] [.ref s0] h)
  refine e_astore (L' := [none, none, none, some (.ref s0)]) rfl rfl (dx_sto (Nat.le_of_ble_eq_true rfl) (Or.inr ⟨_, rfl, rfl⟩) rfl) ?_
  refine e_push rfl ?_
  exact e_iret rfl
theorem m_X0_result {d : Nat} {v0 : Value} {v1 : Int32} {v2 : Value} {h : ax_H} (hv0 : ax_rv v0 = true) (hv2 : ax_rv v2 = true) : dx_le ((dx_vn [(19, 268)] v0 h).bind fun k => dx_cI ((ax_c d) k [v0, .int v1] h) (fun x2 h1 => (dx_sJ 1 v2 0 (Int32.toInt64 x2) h1).bind fun h3 => some (.inl (some (.int 0)), h3)) (fun i hx => dx_xp (fun k : Nat => if k ∈ [6, 46] then some (some 12) else if k ∈ [18, 0, 7, 28, 32, 33, 34, 35, 44, 45] then some none else none) i hx (fun pc => if pc = 12 then B_X0_result_12 (ax_c d) i hx else none))) (ax_c (d + 1) 208 [v0, .int v1, v2] h) := by
  refine e_entry (L' := [some (v0), some (.int v1), some (v2), none]) rfl (ag_A hv0 (ag_I (ag_A hv2 ag_n))) (Nat.le_of_ble_eq_true rfl) rfl ?_
  refine e_aload rfl rfl hv2 ?_
  refine e_push rfl ?_
  refine e_aload rfl rfl hv0 ?_
  refine e_iload rfl rfl ?_
  refine e_ivI rfl rfl rfl (Nat.le_of_ble_eq_true rfl) (fun i _ => e_xp (e_hc (e_wk mP_X0_result (ll_0 (ll_0 (ll_0 (ll_0 ll_n))))) (e_hn i))) fun x2 h1 => ?_
  refine e_i2l rfl ?_
  refine e_last rfl fun h3 => ?_
  refine e_goto rfl ?_
  refine e_push rfl ?_
  exact e_iret rfl
theorem m_X1_init {d : Nat} {v0 : Nat} {h : ax_H}  : dx_le (dx_nn (.ref v0) (dx_nw h (.inr (4, [.int 0, .null, .int 0])) 3 fun a2 h1 => dx_cV ((ax_c d) 58 [.ref a2] h1) (fun h3 => (dx_pF [(19, 0)] (.object "java/util/List") (.ref v0) (.ref a2) h3).bind fun h4 => dx_nw h4 (.inr (29, [.null, .null, .null, .int 0, .null, .null, .null, .null, .null, .int 0])) 10 fun a6 h5 => dx_cV ((ax_c d) 298 [.ref a6, .int 1] h5) (fun h7 => (dx_pF [(19, 1)] (.object "KernelGym$Machine") (.ref v0) (.ref a6) h7).bind fun h8 => dx_nw h8 (.inr (4, [.int 0, .null, .int 0])) 3 fun a10 h9 => dx_cV ((ax_c d) 58 [.ref a10] h9) (fun h11 => (dx_pF [(19, 2)] (.object "java/util/List") (.ref v0) (.ref a10) h11).bind fun h12 => dx_nw h12 (.inr (15, [.int 0, .int 0, .null, .null])) 4 fun a14 h13 => dx_cV ((ax_c d) 124 [.ref a14] h13) (fun h15 => (dx_pF [(19, 3)] (.object "java/util/LinkedList") (.ref v0) (.ref a14) h15).bind fun h16 => dx_nw h16 (.inr (15, [.int 0, .int 0, .null, .null])) 4 fun a18 h17 => dx_cV ((ax_c d) 124 [.ref a18] h17) (fun h19 => (dx_pF [(19, 4)] (.object "java/util/LinkedList") (.ref v0) (.ref a18) h19).bind fun h20 => some (.inl none, h20)) dx_x0) dx_x0) dx_x0) dx_x0) dx_x0)) (ax_c (d + 1) 209 [.ref v0] h) := by
  refine e_entry (L' := [some (.ref v0)]) rfl (ag_A rfl ag_n) (Nat.le_of_ble_eq_true rfl) rfl ?_
  refine e_aload rfl rfl rfl ?_
  refine e_oin rfl (Nat.le_of_ble_eq_true rfl) ?_
  refine e_aload rfl rfl rfl ?_
  refine e_new rfl fun a2 h1 => ?_
  refine e_dup rfl rfl ?_
  refine e_isprV rfl rfl rfl (Nat.le_of_ble_eq_true rfl) (fun _ _ => e_x0) fun h3 => ?_
  refine e_putf rfl fun h4 => ?_
  refine e_aload rfl rfl rfl ?_
  refine e_new rfl fun a6 h5 => ?_
  refine e_dup rfl rfl ?_
  refine e_push rfl ?_
  refine e_isprV rfl rfl rfl (Nat.le_of_ble_eq_true rfl) (fun _ _ => e_x0) fun h7 => ?_
  refine e_putf rfl fun h8 => ?_
  refine e_aload rfl rfl rfl ?_
  refine e_new rfl fun a10 h9 => ?_
  refine e_dup rfl rfl ?_
  refine e_isprV rfl rfl rfl (Nat.le_of_ble_eq_true rfl) (fun _ _ => e_x0) fun h11 => ?_
  refine e_putf rfl fun h12 => ?_
  refine e_aload rfl rfl rfl ?_
  refine e_new rfl fun a14 h13 => ?_
  refine e_dup rfl rfl ?_
  refine e_isprV rfl rfl rfl (Nat.le_of_ble_eq_true rfl) (fun _ _ => e_x0) fun h15 => ?_
  refine e_putf rfl fun h16 => ?_
  refine e_aload rfl rfl rfl ?_
  refine e_new rfl fun a18 h17 => ?_
  refine e_dup rfl rfl ?_
  refine e_isprV rfl rfl rfl (Nat.le_of_ble_eq_true rfl) (fun _ _ => e_x0) fun h19 => ?_
  refine e_putf rfl fun h20 => ?_
  exact e_ret rfl
theorem m_X1_clear {d : Nat} {v0 : Nat} {h : ax_H}  : dx_le ((dx_gA [(19, 0)] (.ref v0) h).bind fun r1 => (dx_vn [(4, 59)] r1 h).bind fun k => dx_cI ((ax_c d) k [r1] h) (fun x3 h2 => (dx_gA [(19, 0)] (.ref v0) h2).bind fun r4 => (dx_vn [(4, 60)] r4 h2).bind fun k => dx_cV ((ax_c d) k [r4] h2) (fun h5 => some (.inl (some (.int x3)), h5)) dx_x0) dx_x0) (ax_c (d + 1) 210 [.ref v0] h) := by
  refine e_entry (L' := [some (.ref v0), none]) rfl (ag_A rfl ag_n) (Nat.le_of_ble_eq_true rfl) rfl ?_
  refine e_aload rfl rfl rfl ?_
  refine e_getA rfl fun r1 hr1 => ?_
  refine e_ivI rfl rfl rfl (Nat.le_of_ble_eq_true rfl) (fun _ _ => e_x0) fun x3 h2 => ?_
  refine e_istore (L' := [some (.ref v0), some (.int x3)]) rfl (dx_sto (Nat.le_of_ble_eq_true rfl) (Or.inr ⟨_, rfl, rfl⟩) rfl) ?_
  refine e_aload rfl rfl rfl ?_
  refine e_getA rfl fun r4 hr4 => ?_
  refine e_ivV rfl rfl rfl (Nat.le_of_ble_eq_true rfl) (fun _ _ => e_x0) fun h5 => ?_
  refine e_iload rfl rfl ?_
  exact e_iret rfl
theorem m_X1_lines {d : Nat} {v0 : Nat} {h : ax_H}  : dx_le ((dx_gA [(19, 0)] (.ref v0) h).bind fun r1 => (dx_vn [(4, 59)] r1 h).bind fun k => dx_cI ((ax_c d) k [r1] h) (fun x3 h2 => some (.inl (some (.int x3)), h2)) dx_x0) (ax_c (d + 1) 211 [.ref v0] h) := by
  refine e_entry (L' := [some (.ref v0)]) rfl (ag_A rfl ag_n) (Nat.le_of_ble_eq_true rfl) rfl ?_
  refine e_aload rfl rfl rfl ?_
  refine e_getA rfl fun r1 hr1 => ?_
  refine e_ivI rfl rfl rfl (Nat.le_of_ble_eq_true rfl) (fun _ _ => e_x0) fun x3 h2 => ?_
  exact e_iret rfl
noncomputable def B_X1_error_20 (K : ax_K) (s0 : Nat) (h : ax_H) : Option ax_R := ax_run K P_X1_error 20 [none, none] [.ref s0] h
theorem b_X1_error_20 {K : ax_K} {s0 : Nat} {h : ax_H}  : dx_le ((dx_vn [(28, 297)] (.ref s0) h).bind fun k => dx_cI (K k [.ref s0] h) (fun x2 h1 => some (.inl (some (.int x2)), h1)) dx_x0) (B_X1_error_20 K s0 h) := by
  show dx_le _ (ax_run K P_X1_error 20 [none, none] [.ref s0] h)
  refine e_astore (L' := [none, some (.ref s0)]) rfl rfl (dx_sto (Nat.le_of_ble_eq_true rfl) (Or.inr ⟨_, rfl, rfl⟩) rfl) ?_
  refine e_aload rfl rfl rfl ?_
  refine e_ivI rfl rfl rfl (Nat.le_of_ble_eq_true rfl) (fun _ _ => e_x0) fun x2 h1 => ?_
  exact e_iret rfl
theorem m_X1_error {d : Nat} {v0 : Nat} {h : ax_H}  : dx_le (dx_nw h (.inr (25, [.null, .null, .null, .null, .int 0, .int 0, .null])) 7 fun a2 h1 => dx_cV ((ax_c d) 281 [.ref a2, .ref v0] h1) (fun h3 => (dx_gI [(25, 5)] (.ref a2) h3).bind fun x4 => if (0 : Int32) ≤ x4 then some (.inl (some (.int 0)), h3) else some (.inl (some (.int (-1))), h3)) (fun i hx => dx_xp (fun k : Nat => if k ∈ [28] then some (some 20) else if k ∈ [18, 0, 6, 7, 32, 33, 34, 35, 44, 45, 46] then some none else none) i hx (fun pc => if pc = 20 then B_X1_error_20 (ax_c d) i hx else none))) (ax_c (d + 1) 212 [.ref v0] h) := by
  refine e_entry (L' := [some (.ref v0), none]) rfl (ag_A rfl ag_n) (Nat.le_of_ble_eq_true rfl) rfl ?_
  refine e_new rfl fun a2 h1 => ?_
  refine e_dup rfl rfl ?_
  refine e_aload rfl rfl rfl ?_
  refine e_isprV rfl rfl rfl (Nat.le_of_ble_eq_true rfl) (fun i _ => e_xp (e_hc (e_wk mP_X1_error (ll_0 (ll_0 ll_n))) (e_hn i))) fun h3 => ?_
  refine e_getI rfl fun x4 => ?_
  refine e_if1 rfl rfl ?_ ?_
  · refine e_push rfl ?_
    exact e_iret rfl
  · refine e_push rfl ?_
    refine e_goto rfl ?_
    exact e_iret rfl
theorem m_X1_check {d : Nat} {v0 : Int32} {v1 : Int32} {v2 : Int32} {h : ax_H}  : dx_le (if ¬ v0 = 0 then some (.inl none, h) else dx_nw h (.inr (28, [.int 0, .int 0, .null])) 8 fun a2 h1 => dx_cV ((ax_c d) 296 [.ref a2, .int v1, .int v2] h1) (fun h3 => dx_ath hd_0 (.ref a2) h3 (fun _ _ => none)) dx_x0) (ax_c (d + 1) 213 [.int v0, .int v1, .int v2] h) := by
  refine e_entry (L' := [some (.int v0), some (.int v1), some (.int v2)]) rfl (ag_I (ag_I (ag_I ag_n))) (Nat.le_of_ble_eq_true rfl) rfl ?_
  refine e_iload rfl rfl ?_
  refine e_if1 rfl rfl ?_ ?_
  · exact e_ret rfl
  · refine e_new rfl fun a2 h1 => ?_
    refine e_dup rfl rfl ?_
    refine e_iload rfl rfl ?_
    refine e_iload rfl rfl ?_
    refine e_isprV rfl rfl rfl (Nat.le_of_ble_eq_true rfl) (fun _ _ => e_x0) fun h3 => ?_
    exact e_athrow rfl e_hn
theorem m_X1_cut {d : Nat} {v0 : Int64} {h : ax_H}  : dx_le (some (.inl (some (.int (dx_i2c (Int64.toInt32 v0)))), h)) (ax_c (d + 1) 214 [.long v0] h) := by
  refine e_entry (L' := [some (.long v0), none]) rfl (ag_J ag_n) (Nat.le_of_ble_eq_true rfl) rfl ?_
  refine e_lload rfl rfl ?_
  refine e_l2i rfl ?_
  refine e_i2c rfl ?_
  exact e_iret rfl
theorem m_X1_state {d : Nat} {v0 : Nat} {h : ax_H}  : dx_le ((dx_gA [(19, 1)] (.ref v0) h).bind fun r1 => (dx_gA [(29, 0)] r1 h).bind fun r2 => (dx_lI 0 r2 0 h).bind fun x3 => some (.inl (some (.int x3)), h)) (ax_c (d + 1) 215 [.ref v0] h) := by
  refine e_entry (L' := [some (.ref v0)]) rfl (ag_A rfl ag_n) (Nat.le_of_ble_eq_true rfl) rfl ?_
  refine e_aload rfl rfl rfl ?_
  refine e_getA rfl fun r1 hr1 => ?_
  refine e_getA rfl fun r2 hr2 => ?_
  refine e_push rfl ?_
  refine e_iald rfl fun x3 => ?_
  exact e_iret rfl
theorem m_X1_fault {d : Nat} {v0 : Nat} {h : ax_H}  : dx_le ((dx_gA [(19, 1)] (.ref v0) h).bind fun r1 => (dx_gA [(29, 0)] r1 h).bind fun r2 => (dx_lI 0 r2 1 h).bind fun x3 => some (.inl (some (.int x3)), h)) (ax_c (d + 1) 216 [.ref v0] h) := by
  refine e_entry (L' := [some (.ref v0)]) rfl (ag_A rfl ag_n) (Nat.le_of_ble_eq_true rfl) rfl ?_
  refine e_aload rfl rfl rfl ?_
  refine e_getA rfl fun r1 hr1 => ?_
  refine e_getA rfl fun r2 hr2 => ?_
  refine e_push rfl ?_
  refine e_iald rfl fun x3 => ?_
  exact e_iret rfl
theorem m_X1_steps {d : Nat} {v0 : Nat} {h : ax_H}  : dx_le ((dx_gA [(19, 1)] (.ref v0) h).bind fun r1 => (dx_gA [(29, 0)] r1 h).bind fun r2 => (dx_lI 0 r2 2 h).bind fun x3 => some (.inl (some (.int x3)), h)) (ax_c (d + 1) 217 [.ref v0] h) := by
  refine e_entry (L' := [some (.ref v0)]) rfl (ag_A rfl ag_n) (Nat.le_of_ble_eq_true rfl) rfl ?_
  refine e_aload rfl rfl rfl ?_
  refine e_getA rfl fun r1 hr1 => ?_
  refine e_getA rfl fun r2 hr2 => ?_
  refine e_push rfl ?_
  refine e_iald rfl fun x3 => ?_
  exact e_iret rfl
theorem m_X1_kept {d : Nat} {v0 : Nat} {h : ax_H}  : dx_le ((dx_gA [(19, 1)] (.ref v0) h).bind fun r1 => (dx_gA [(29, 2)] r1 h).bind fun r2 => (dx_vn [(16, 143)] r2 h).bind fun k => dx_cI ((ax_c d) k [r2] h) (fun x4 h3 => some (.inl (some (.int x4)), h3)) dx_x0) (ax_c (d + 1) 218 [.ref v0] h) := by
  refine e_entry (L' := [some (.ref v0)]) rfl (ag_A rfl ag_n) (Nat.le_of_ble_eq_true rfl) rfl ?_
  refine e_aload rfl rfl rfl ?_
  refine e_getA rfl fun r1 hr1 => ?_
  refine e_getA rfl fun r2 hr2 => ?_
  refine e_ivI rfl rfl rfl (Nat.le_of_ble_eq_true rfl) (fun _ _ => e_x0) fun x4 h3 => ?_
  exact e_iret rfl
theorem m_X1_counter {d : Nat} {v0 : Nat} {h : ax_H}  : dx_le ((dx_gA [(19, 1)] (.ref v0) h).bind fun r1 => (dx_gA [(29, 0)] r1 h).bind fun r2 => (dx_lI 0 r2 3 h).bind fun x3 => some (.inl (some (.int x3)), h)) (ax_c (d + 1) 219 [.ref v0] h) := by
  refine e_entry (L' := [some (.ref v0)]) rfl (ag_A rfl ag_n) (Nat.le_of_ble_eq_true rfl) rfl ?_
  refine e_aload rfl rfl rfl ?_
  refine e_getA rfl fun r1 hr1 => ?_
  refine e_getA rfl fun r2 hr2 => ?_
  refine e_push rfl ?_
  refine e_iald rfl fun x3 => ?_
  exact e_iret rfl
theorem m_X1_stack {d : Nat} {v0 : Nat} {h : ax_H}  : dx_le ((dx_gA [(19, 1)] (.ref v0) h).bind fun r1 => (dx_gA [(29, 0)] r1 h).bind fun r2 => (dx_lI 0 r2 4 h).bind fun x3 => some (.inl (some (.int x3)), h)) (ax_c (d + 1) 220 [.ref v0] h) := by
  refine e_entry (L' := [some (.ref v0)]) rfl (ag_A rfl ag_n) (Nat.le_of_ble_eq_true rfl) rfl ?_
  refine e_aload rfl rfl rfl ?_
  refine e_getA rfl fun r1 hr1 => ?_
  refine e_getA rfl fun r2 hr2 => ?_
  refine e_push rfl ?_
  refine e_iald rfl fun x3 => ?_
  exact e_iret rfl
theorem m_X1_flags {d : Nat} {v0 : Nat} {h : ax_H}  : dx_le ((dx_gA [(19, 1)] (.ref v0) h).bind fun r1 => (dx_vn [(29, 300)] r1 h).bind fun k => dx_cI ((ax_c d) k [r1] h) (fun x3 h2 => some (.inl (some (.int x3)), h2)) dx_x0) (ax_c (d + 1) 221 [.ref v0] h) := by
  refine e_entry (L' := [some (.ref v0)]) rfl (ag_A rfl ag_n) (Nat.le_of_ble_eq_true rfl) rfl ?_
  refine e_aload rfl rfl rfl ?_
  refine e_getA rfl fun r1 hr1 => ?_
  refine e_ivI rfl rfl rfl (Nat.le_of_ble_eq_true rfl) (fun _ _ => e_x0) fun x3 h2 => ?_
  exact e_iret rfl
theorem m_X1_writesLeft {d : Nat} {v0 : Nat} {h : ax_H}  : dx_le ((dx_gA [(19, 1)] (.ref v0) h).bind fun r1 => (dx_vn [(29, 301)] r1 h).bind fun k => dx_cI ((ax_c d) k [r1] h) (fun x3 h2 => some (.inl (some (.int x3)), h2)) dx_x0) (ax_c (d + 1) 222 [.ref v0] h) := by
  refine e_entry (L' := [some (.ref v0)]) rfl (ag_A rfl ag_n) (Nat.le_of_ble_eq_true rfl) rfl ?_
  refine e_aload rfl rfl rfl ?_
  refine e_getA rfl fun r1 hr1 => ?_
  refine e_ivI rfl rfl rfl (Nat.le_of_ble_eq_true rfl) (fun _ _ => e_x0) fun x3 h2 => ?_
  exact e_iret rfl
theorem m_X1_tape {d : Nat} {v0 : Nat} {h : ax_H}  : dx_le ((dx_gA [(19, 1)] (.ref v0) h).bind fun r1 => (dx_gA [(29, 0)] r1 h).bind fun r2 => (dx_lI 0 r2 17 h).bind fun x3 => some (.inl (some (.int x3)), h)) (ax_c (d + 1) 223 [.ref v0] h) := by
  refine e_entry (L' := [some (.ref v0)]) rfl (ag_A rfl ag_n) (Nat.le_of_ble_eq_true rfl) rfl ?_
  refine e_aload rfl rfl rfl ?_
  refine e_getA rfl fun r1 hr1 => ?_
  refine e_getA rfl fun r2 hr2 => ?_
  refine e_push rfl ?_
  refine e_iald rfl fun x3 => ?_
  exact e_iret rfl
theorem m_X1_sum {d : Nat} {v0 : Nat} {h : ax_H}  : dx_le ((dx_gA [(19, 1)] (.ref v0) h).bind fun r1 => (dx_vn [(29, 302)] r1 h).bind fun k => dx_cI ((ax_c d) k [r1] h) (fun x3 h2 => some (.inl (some (.int x3)), h2)) dx_x0) (ax_c (d + 1) 224 [.ref v0] h) := by
  refine e_entry (L' := [some (.ref v0)]) rfl (ag_A rfl ag_n) (Nat.le_of_ble_eq_true rfl) rfl ?_
  refine e_aload rfl rfl rfl ?_
  refine e_getA rfl fun r1 hr1 => ?_
  refine e_ivI rfl rfl rfl (Nat.le_of_ble_eq_true rfl) (fun _ _ => e_x0) fun x3 h2 => ?_
  exact e_iret rfl
theorem m_X1_written {d : Nat} {v0 : Nat} {h : ax_H}  : dx_le ((dx_gA [(19, 1)] (.ref v0) h).bind fun r1 => (dx_gA [(29, 0)] r1 h).bind fun r2 => (dx_lI 0 r2 364 h).bind fun x3 => some (.inl (some (.int x3)), h)) (ax_c (d + 1) 225 [.ref v0] h) := by
  refine e_entry (L' := [some (.ref v0)]) rfl (ag_A rfl ag_n) (Nat.le_of_ble_eq_true rfl) rfl ?_
  refine e_aload rfl rfl rfl ?_
  refine e_getA rfl fun r1 hr1 => ?_
  refine e_getA rfl fun r2 hr2 => ?_
  refine e_push rfl ?_
  refine e_iald rfl fun x3 => ?_
  exact e_iret rfl
noncomputable def B_X1_files_4 (K : ax_K) (v0 : Nat) (v1 : Int32) (v2 : Int32) (h : ax_H) : Option ax_R := ax_run K P_X1_files 4 [some (.ref v0), some (.int v1), some (.int v2)] [] h
theorem b_X1_files_4 {K : ax_K} {v0 : Nat} {v1 : Int32} {v2 : Int32} {h : ax_H}  : dx_le (if (6 : Int32) ≤ v2 then some (.inl (some (.int v1)), h) else (dx_gA [(19, 1)] (.ref v0) h).bind fun r1 => (dx_vn [(29, 305)] r1 h).bind fun k => dx_cI (K k [r1, .int v2, .int 0] h) (fun x3 h2 => if ¬ x3 = 0 then dx_lt (v1 + 1) fun x4 => dx_lt (v2 + 1) fun x5 => B_X1_files_4 K v0 x4 x5 h2 else dx_lt (v1 + 0) fun x6 => dx_lt (v2 + 1) fun x7 => B_X1_files_4 K v0 x6 x7 h2) dx_x0) (B_X1_files_4 K v0 v1 v2 h) := by
  show dx_le _ (ax_run K P_X1_files 4 [some (.ref v0), some (.int v1), some (.int v2)] [] h)
  refine e_iload rfl rfl ?_
  refine e_push rfl ?_
  refine e_if2 rfl rfl ?_ ?_
  · refine e_iload rfl rfl ?_
    exact e_iret rfl
  · refine e_iload rfl rfl ?_
    refine e_aload rfl rfl rfl ?_
    refine e_getA rfl fun r1 hr1 => ?_
    refine e_iload rfl rfl ?_
    refine e_push rfl ?_
    refine e_ivI rfl rfl rfl (Nat.le_of_ble_eq_true rfl) (fun _ _ => e_x0) fun x3 h2 => ?_
    refine e_if1 rfl rfl ?_ ?_
    · refine e_push rfl ?_
      refine e_i2 rfl ?_
      refine e_istoreL (M := fun x4 => [some (.ref v0), some (.int x4), some (.int v2)]) rfl (fun _ => dx_sto (Nat.le_of_ble_eq_true rfl) (Or.inr ⟨_, rfl, rfl⟩) rfl) fun x4 => ?_
      refine e_iinc (M := fun x5 => [some (.ref v0), some (.int x4), some (.int x5)]) rfl rfl (fun _ => dx_sto (Nat.le_of_ble_eq_true rfl) (Or.inr ⟨_, rfl, rfl⟩) rfl) fun x5 => ?_
      refine e_goto rfl ?_
      exact e_wk mP_X1_files (ll_1 (ll_1 (ll_1 ll_n)))
    · refine e_push rfl ?_
      refine e_goto rfl ?_
      refine e_i2 rfl ?_
      refine e_istoreL (M := fun x6 => [some (.ref v0), some (.int x6), some (.int v2)]) rfl (fun _ => dx_sto (Nat.le_of_ble_eq_true rfl) (Or.inr ⟨_, rfl, rfl⟩) rfl) fun x6 => ?_
      refine e_iinc (M := fun x7 => [some (.ref v0), some (.int x6), some (.int x7)]) rfl rfl (fun _ => dx_sto (Nat.le_of_ble_eq_true rfl) (Or.inr ⟨_, rfl, rfl⟩) rfl) fun x7 => ?_
      refine e_goto rfl ?_
      exact e_wk mP_X1_files (ll_1 (ll_1 (ll_1 ll_n)))
theorem m_X1_files {d : Nat} {v0 : Nat} {h : ax_H}  : dx_le (B_X1_files_4 (ax_c d) v0 0 0 h) (ax_c (d + 1) 226 [.ref v0] h) := by
  refine e_entry (L' := [some (.ref v0), none, none]) rfl (ag_A rfl ag_n) (Nat.le_of_ble_eq_true rfl) rfl ?_
  refine e_push rfl ?_
  refine e_istore (L' := [some (.ref v0), some (.int 0), none]) rfl (dx_sto (Nat.le_of_ble_eq_true rfl) (Or.inr ⟨_, rfl, rfl⟩) rfl) ?_
  refine e_push rfl ?_
  refine e_istore (L' := [some (.ref v0), some (.int 0), some (.int 0)]) rfl (dx_sto (Nat.le_of_ble_eq_true rfl) (Or.inr ⟨_, rfl, rfl⟩) rfl) ?_
  exact e_wk mP_X1_files (ll_1 (ll_1 (ll_1 ll_n)))
noncomputable def B_X1_freeBlocks_5 (K : ax_K) (v0 : Nat) (v1 : Int32) (v2 : Int32) (h : ax_H) : Option ax_R := ax_run K P_X1_freeBlocks 5 [some (.ref v0), some (.int v1), some (.int v2)] [] h
theorem b_X1_freeBlocks_5 {K : ax_K} {v0 : Nat} {v1 : Int32} {v2 : Int32} {h : ax_H}  : dx_le (if (32 : Int32) ≤ v2 then some (.inl (some (.int v1)), h) else (dx_gA [(19, 1)] (.ref v0) h).bind fun r1 => (dx_vn [(29, 306)] r1 h).bind fun k => dx_cI (K k [r1, .int v2] h) (fun x3 h2 => if x3 = 0 then dx_lt (v1 + 1) fun x4 => dx_lt (v2 + 1) fun x5 => B_X1_freeBlocks_5 K v0 x4 x5 h2 else dx_lt (v1 + 0) fun x6 => dx_lt (v2 + 1) fun x7 => B_X1_freeBlocks_5 K v0 x6 x7 h2) dx_x0) (B_X1_freeBlocks_5 K v0 v1 v2 h) := by
  show dx_le _ (ax_run K P_X1_freeBlocks 5 [some (.ref v0), some (.int v1), some (.int v2)] [] h)
  refine e_iload rfl rfl ?_
  refine e_push rfl ?_
  refine e_if2 rfl rfl ?_ ?_
  · refine e_iload rfl rfl ?_
    exact e_iret rfl
  · refine e_iload rfl rfl ?_
    refine e_aload rfl rfl rfl ?_
    refine e_getA rfl fun r1 hr1 => ?_
    refine e_iload rfl rfl ?_
    refine e_ivI rfl rfl rfl (Nat.le_of_ble_eq_true rfl) (fun _ _ => e_x0) fun x3 h2 => ?_
    refine e_if1 rfl rfl ?_ ?_
    · refine e_push rfl ?_
      refine e_i2 rfl ?_
      refine e_istoreL (M := fun x4 => [some (.ref v0), some (.int x4), some (.int v2)]) rfl (fun _ => dx_sto (Nat.le_of_ble_eq_true rfl) (Or.inr ⟨_, rfl, rfl⟩) rfl) fun x4 => ?_
      refine e_iinc (M := fun x5 => [some (.ref v0), some (.int x4), some (.int x5)]) rfl rfl (fun _ => dx_sto (Nat.le_of_ble_eq_true rfl) (Or.inr ⟨_, rfl, rfl⟩) rfl) fun x5 => ?_
      refine e_goto rfl ?_
      exact e_wk mP_X1_freeBlocks (ll_1 (ll_1 (ll_1 ll_n)))
    · refine e_push rfl ?_
      refine e_goto rfl ?_
      refine e_i2 rfl ?_
      refine e_istoreL (M := fun x6 => [some (.ref v0), some (.int x6), some (.int v2)]) rfl (fun _ => dx_sto (Nat.le_of_ble_eq_true rfl) (Or.inr ⟨_, rfl, rfl⟩) rfl) fun x6 => ?_
      refine e_iinc (M := fun x7 => [some (.ref v0), some (.int x6), some (.int x7)]) rfl rfl (fun _ => dx_sto (Nat.le_of_ble_eq_true rfl) (Or.inr ⟨_, rfl, rfl⟩) rfl) fun x7 => ?_
      refine e_goto rfl ?_
      exact e_wk mP_X1_freeBlocks (ll_1 (ll_1 (ll_1 ll_n)))
theorem m_X1_freeBlocks {d : Nat} {v0 : Nat} {h : ax_H}  : dx_le (B_X1_freeBlocks_5 (ax_c d) v0 0 8 h) (ax_c (d + 1) 227 [.ref v0] h) := by
  refine e_entry (L' := [some (.ref v0), none, none]) rfl (ag_A rfl ag_n) (Nat.le_of_ble_eq_true rfl) rfl ?_
  refine e_push rfl ?_
  refine e_istore (L' := [some (.ref v0), some (.int 0), none]) rfl (dx_sto (Nat.le_of_ble_eq_true rfl) (Or.inr ⟨_, rfl, rfl⟩) rfl) ?_
  refine e_push rfl ?_
  refine e_istore (L' := [some (.ref v0), some (.int 0), some (.int 8)]) rfl (dx_sto (Nat.le_of_ble_eq_true rfl) (Or.inr ⟨_, rfl, rfl⟩) rfl) ?_
  exact e_wk mP_X1_freeBlocks (ll_1 (ll_1 (ll_1 ll_n)))
theorem m_X1_isWhole {d : Nat} {v0 : Nat} {h : ax_H}  : dx_le ((dx_gA [(19, 1)] (.ref v0) h).bind fun r1 => (dx_vn [(29, 307)] r1 h).bind fun k => dx_cI ((ax_c d) k [r1] h) (fun x3 h2 => if x3 = 0 ∨ x3 = 1 then some (.inl (some (.int x3)), h2) else none) dx_x0) (ax_c (d + 1) 228 [.ref v0] h) := by
  refine e_entry (L' := [some (.ref v0)]) rfl (ag_A rfl ag_n) (Nat.le_of_ble_eq_true rfl) rfl ?_
  refine e_aload rfl rfl rfl ?_
  refine e_getA rfl fun r1 hr1 => ?_
  refine e_ivI rfl rfl rfl (Nat.le_of_ble_eq_true rfl) (fun _ _ => e_x0) fun x3 h2 => ?_
  exact e_zret rfl
theorem m_X1_tests {d : Nat} {v0 : Nat} {h : ax_H}  : dx_le ((dx_gA [(19, 2)] (.ref v0) h).bind fun r1 => (dx_vn [(4, 59)] r1 h).bind fun k => dx_cI ((ax_c d) k [r1] h) (fun x3 h2 => some (.inl (some (.int x3)), h2)) dx_x0) (ax_c (d + 1) 229 [.ref v0] h) := by
  refine e_entry (L' := [some (.ref v0)]) rfl (ag_A rfl ag_n) (Nat.le_of_ble_eq_true rfl) rfl ?_
  refine e_aload rfl rfl rfl ?_
  refine e_getA rfl fun r1 hr1 => ?_
  refine e_ivI rfl rfl rfl (Nat.le_of_ble_eq_true rfl) (fun _ _ => e_x0) fun x3 h2 => ?_
  exact e_iret rfl
noncomputable def B_X1_mark_12 (K : ax_K) (v1 : Int32) (v2 : Value) (h : ax_H) : Option ax_R := ax_run K P_X1_mark 12 [none, some (.int v1), some (v2), none] [] h
theorem b_X1_mark_12 {K : ax_K} {v1 : Int32} {v2 : Value} {h : ax_H} (hv2 : ax_rv v2 = true) : dx_le ((dx_vn [(10, 92), (13, 110)] v2 h).bind fun k => dx_cI (K k [v2] h) (fun x2 h1 => if x2 = 0 then some (.inl (some (.int (dx_max 0 v1))), h1) else (dx_vn [(10, 94), (13, 111)] v2 h1).bind fun k => dx_cR (K k [v2] h1) (fun r4 h3 => dx_cs [37] r4 h3 ((dx_vn [(37, 366)] r4 h3).bind fun k => dx_cI (K k [r4] h3) (fun x6 h5 => dx_lt (v1 + x6) fun x7 => B_X1_mark_12 K x7 v2 h5) dx_x0)) dx_x0) dx_x0) (B_X1_mark_12 K v1 v2 h) := by
  show dx_le _ (ax_run K P_X1_mark 12 [none, some (.int v1), some (v2), none] [] h)
  refine e_aload rfl rfl hv2 ?_
  refine e_ivI rfl rfl rfl (Nat.le_of_ble_eq_true rfl) (fun _ _ => e_x0) fun x2 h1 => ?_
  refine e_if1 rfl rfl ?_ ?_
  · refine e_push rfl ?_
    refine e_iload rfl rfl ?_
    refine e_max rfl (Nat.le_of_ble_eq_true rfl) ?_
    exact e_iret rfl
  · refine e_aload rfl rfl hv2 ?_
    refine e_ivR rfl rfl rfl (Nat.le_of_ble_eq_true rfl) (fun _ _ => e_x0) fun r4 h3 hr4 => ?_
    refine e_cast rfl ?_
    refine e_astore (L' := [none, some (.int v1), some (v2), some (r4)]) rfl hr4 (dx_sto (Nat.le_of_ble_eq_true rfl) (Or.inr ⟨_, rfl, dx_nl hv2⟩) rfl) ?_
    refine e_iload rfl rfl ?_
    refine e_aload rfl rfl hr4 ?_
    refine e_ivI rfl rfl rfl (Nat.le_of_ble_eq_true rfl) (fun _ _ => e_x0) fun x6 h5 => ?_
    refine e_i2 rfl ?_
    refine e_istoreL (M := fun x7 => [none, some (.int x7), some (v2), some (r4)]) rfl (fun _ => dx_sto (Nat.le_of_ble_eq_true rfl) (Or.inr ⟨_, rfl, rfl⟩) rfl) fun x7 => ?_
    refine e_goto rfl ?_
    exact e_wk mP_X1_mark (ll_0 (ll_1 (ll_1 (ll_0 ll_n))))
theorem m_X1_mark {d : Nat} {v0 : Nat} {h : ax_H}  : dx_le ((dx_gA [(19, 2)] (.ref v0) h).bind fun r1 => (dx_vn [(4, 67)] r1 h).bind fun k => dx_cR ((ax_c d) k [r1] h) (fun r3 h2 => B_X1_mark_12 (ax_c d) 0 r3 h2) dx_x0) (ax_c (d + 1) 230 [.ref v0] h) := by
  refine e_entry (L' := [some (.ref v0), none, none, none]) rfl (ag_A rfl ag_n) (Nat.le_of_ble_eq_true rfl) rfl ?_
  refine e_push rfl ?_
  refine e_istore (L' := [some (.ref v0), some (.int 0), none, none]) rfl (dx_sto (Nat.le_of_ble_eq_true rfl) (Or.inr ⟨_, rfl, rfl⟩) rfl) ?_
  refine e_aload rfl rfl rfl ?_
  refine e_getA rfl fun r1 hr1 => ?_
  refine e_ivR rfl rfl rfl (Nat.le_of_ble_eq_true rfl) (fun _ _ => e_x0) fun r3 h2 hr3 => ?_
  refine e_astore (L' := [some (.ref v0), some (.int 0), some (r3), none]) rfl hr3 (dx_sto (Nat.le_of_ble_eq_true rfl) (Or.inr ⟨_, rfl, rfl⟩) rfl) ?_
  exact e_wk mP_X1_mark (ll_0 (ll_1 (ll_1 (ll_0 ll_n))))
theorem m_X1_section {d : Nat} {v0 : Nat} {v1 : Int32} {h : ax_H}  : dx_le (dx_cI ((ax_c d) 232 [.int v1, .int 0, .int 1] h) (fun x2 h1 => dx_nw h1 (.inr (39, [.int 0, .null])) 2 fun a4 h3 => dx_cV ((ax_c d) 496 [.ref a4, .ref v0, .int v1] h3) (fun h5 => (dx_vn [(19, 233)] (.ref v0) h5).bind fun k => dx_cI ((ax_c d) k [.ref v0, .ref a4] h5) (fun x7 h6 => some (.inl (some (.int x7)), h6)) dx_x0) dx_x0) dx_x0) (ax_c (d + 1) 231 [.ref v0, .int v1] h) := by
  refine e_entry (L' := [some (.ref v0), some (.int v1)]) rfl (ag_A rfl (ag_I ag_n)) (Nat.le_of_ble_eq_true rfl) rfl ?_
  refine e_iload rfl rfl ?_
  refine e_push rfl ?_
  refine e_push rfl ?_
  refine e_isI rfl (Nat.le_of_ble_eq_true rfl) rfl rfl (Nat.le_of_ble_eq_true rfl) (fun _ _ => e_x0) fun x2 h1 => ?_
  refine e_pop rfl rfl ?_
  refine e_aload rfl rfl rfl ?_
  refine e_new rfl fun a4 h3 => ?_
  refine e_dup rfl rfl ?_
  refine e_aload rfl rfl rfl ?_
  refine e_iload rfl rfl ?_
  refine e_isprV rfl rfl rfl (Nat.le_of_ble_eq_true rfl) (fun _ _ => e_x0) fun h5 => ?_
  refine e_ivI rfl rfl rfl (Nat.le_of_ble_eq_true rfl) (fun _ _ => e_x0) fun x7 h6 => ?_
  exact e_iret rfl
theorem m_X1_in {d : Nat} {v0 : Int32} {v1 : Int32} {v2 : Int32} {h : ax_H}  : dx_le (if v0 < v1 then dx_nw h (.inr (18, [])) 6 fun a2 h1 => dx_ath hd_0 (.ref a2) h1 (fun _ _ => none) else if v0 ≤ v2 then some (.inl (some (.int v0)), h) else dx_nw h (.inr (18, [])) 6 fun a4 h3 => dx_ath hd_0 (.ref a4) h3 (fun _ _ => none)) (ax_c (d + 1) 232 [.int v0, .int v1, .int v2] h) := by
  refine e_entry (L' := [some (.int v0), some (.int v1), some (.int v2)]) rfl (ag_I (ag_I (ag_I ag_n))) (Nat.le_of_ble_eq_true rfl) rfl ?_
  refine e_iload rfl rfl ?_
  refine e_iload rfl rfl ?_
  refine e_if2 rfl rfl ?_ ?_
  · refine e_mk rfl (Nat.le_of_ble_eq_true rfl) fun a2 h1 => ?_
    exact e_athrow rfl e_hn
  · refine e_iload rfl rfl ?_
    refine e_iload rfl rfl ?_
    refine e_if2 rfl rfl ?_ ?_
    · refine e_iload rfl rfl ?_
      exact e_iret rfl
    · refine e_mk rfl (Nat.le_of_ble_eq_true rfl) fun a4 h3 => ?_
      exact e_athrow rfl e_hn
noncomputable def B_X1_add_19 (K : ax_K) (s0 : Int32) (v0 : Nat) (v1 : Value) (h : ax_H) : Option ax_R := ax_run K P_X1_add 19 [some (.ref v0), some (v1)] [.int s0] h
theorem b_X1_add_19 {K : ax_K} {s0 : Int32} {v0 : Nat} {v1 : Value} {h : ax_H} (hv1 : ax_rv v1 = true) : dx_le (dx_cV (K 234 [.int s0] h) (fun h1 => (dx_gA [(19, 0)] (.ref v0) h1).bind fun r2 => (dx_vn [(4, 63)] r2 h1).bind fun k => dx_cI (K k [r2, v1] h1) (fun x4 h3 => (dx_gA [(19, 0)] (.ref v0) h3).bind fun r5 => (dx_vn [(4, 59)] r5 h3).bind fun k => dx_cI (K k [r5] h3) (fun x7 h6 => some (.inl (some (.int x7)), h6)) dx_x0) dx_x0) dx_x0) (B_X1_add_19 K s0 v0 v1 h) := by
  show dx_le _ (ax_run K P_X1_add 19 [some (.ref v0), some (v1)] [.int s0] h)
  refine e_isV rfl (Nat.le_of_ble_eq_true rfl) rfl rfl (Nat.le_of_ble_eq_true rfl) (fun _ _ => e_x0) fun h1 => ?_
  refine e_aload rfl rfl rfl ?_
  refine e_getA rfl fun r2 hr2 => ?_
  refine e_aload rfl rfl hv1 ?_
  refine e_ivI rfl rfl rfl (Nat.le_of_ble_eq_true rfl) (fun _ _ => e_x0) fun x4 h3 => ?_
  refine e_pop rfl rfl ?_
  refine e_aload rfl rfl rfl ?_
  refine e_getA rfl fun r5 hr5 => ?_
  refine e_ivI rfl rfl rfl (Nat.le_of_ble_eq_true rfl) (fun _ _ => e_x0) fun x7 h6 => ?_
  exact e_iret rfl
theorem m_X1_add {d : Nat} {v0 : Nat} {v1 : Value} {h : ax_H} (hv1 : ax_rv v1 = true) : dx_le ((dx_gA [(19, 0)] (.ref v0) h).bind fun r1 => (dx_vn [(4, 59)] r1 h).bind fun k => dx_cI ((ax_c d) k [r1] h) (fun x3 h2 => if (100 : Int32) ≤ x3 then B_X1_add_19 (ax_c d) 0 v0 v1 h2 else B_X1_add_19 (ax_c d) 1 v0 v1 h2) dx_x0) (ax_c (d + 1) 233 [.ref v0, v1] h) := by
  refine e_entry (L' := [some (.ref v0), some (v1)]) rfl (ag_A rfl (ag_A hv1 ag_n)) (Nat.le_of_ble_eq_true rfl) rfl ?_
  refine e_aload rfl rfl rfl ?_
  refine e_getA rfl fun r1 hr1 => ?_
  refine e_ivI rfl rfl rfl (Nat.le_of_ble_eq_true rfl) (fun _ _ => e_x0) fun x3 h2 => ?_
  refine e_push rfl ?_
  refine e_if2 rfl rfl ?_ ?_
  · refine e_push rfl ?_
    exact e_wk mP_X1_add (ll_1 (ll_1 ll_n))
  · refine e_push rfl ?_
    refine e_goto rfl ?_
    exact e_wk mP_X1_add (ll_1 (ll_1 ll_n))
theorem m_X1_must {d : Nat} {v0 : Int32} {h : ax_H}  : dx_le (if ¬ v0 = 0 then some (.inl none, h) else dx_nw h (.inr (0, [])) 6 fun a2 h1 => dx_ath hd_0 (.ref a2) h1 (fun _ _ => none)) (ax_c (d + 1) 234 [.int v0] h) := by
  refine e_entry (L' := [some (.int v0)]) rfl (ag_I ag_n) (Nat.le_of_ble_eq_true rfl) rfl ?_
  refine e_iload rfl rfl ?_
  refine e_if1 rfl rfl ?_ ?_
  · exact e_ret rfl
  · refine e_mk rfl (Nat.le_of_ble_eq_true rfl) fun a2 h1 => ?_
    exact e_athrow rfl e_hn
theorem m_X1_label {d : Nat} {v0 : Nat} {v1 : Int32} {h : ax_H}  : dx_le (dx_cI ((ax_c d) 232 [.int v1, .int 0, .int 19] h) (fun x2 h1 => dx_nw h1 (.inr (40, [.int 0, .null])) 2 fun a4 h3 => dx_cV ((ax_c d) 498 [.ref a4, .ref v0, .int v1] h3) (fun h5 => (dx_vn [(19, 233)] (.ref v0) h5).bind fun k => dx_cI ((ax_c d) k [.ref v0, .ref a4] h5) (fun x7 h6 => some (.inl (some (.int x7)), h6)) dx_x0) dx_x0) dx_x0) (ax_c (d + 1) 235 [.ref v0, .int v1] h) := by
  refine e_entry (L' := [some (.ref v0), some (.int v1)]) rfl (ag_A rfl (ag_I ag_n)) (Nat.le_of_ble_eq_true rfl) rfl ?_
  refine e_iload rfl rfl ?_
  refine e_push rfl ?_
  refine e_push rfl ?_
  refine e_isI rfl (Nat.le_of_ble_eq_true rfl) rfl rfl (Nat.le_of_ble_eq_true rfl) (fun _ _ => e_x0) fun x2 h1 => ?_
  refine e_pop rfl rfl ?_
  refine e_aload rfl rfl rfl ?_
  refine e_new rfl fun a4 h3 => ?_
  refine e_dup rfl rfl ?_
  refine e_aload rfl rfl rfl ?_
  refine e_iload rfl rfl ?_
  refine e_isprV rfl rfl rfl (Nat.le_of_ble_eq_true rfl) (fun _ _ => e_x0) fun h5 => ?_
  refine e_ivI rfl rfl rfl (Nat.le_of_ble_eq_true rfl) (fun _ _ => e_x0) fun x7 h6 => ?_
  exact e_iret rfl
theorem m_X1_code {d : Nat} {v0 : Nat} {v1 : Int32} {v2 : Int32} {v3 : Int32} {v4 : Int32} {v5 : Int32} {h : ax_H}  : dx_le (dx_cI ((ax_c d) 232 [.int v1, .int 0, .int 26] h) (fun x2 h1 => dx_cI ((ax_c d) 232 [.int v2, .int 0, .int 3] h1) (fun x4 h3 => dx_cI ((ax_c d) 232 [.int v3, .int 0, .int 3] h3) (fun x6 h5 => dx_cR ((ax_c d) 237 [.int v4, .int v5] h5) (fun r8 h7 => dx_nw h7 (.inr (42, [.int 0, .int 0, .int 0, .null, .null])) 5 fun a10 h9 => dx_cV ((ax_c d) 501 [.ref a10, .ref v0, .int v1, .int v2, .int v3, r8] h9) (fun h11 => (dx_vn [(19, 233)] (.ref v0) h11).bind fun k => dx_cI ((ax_c d) k [.ref v0, .ref a10] h11) (fun x13 h12 => some (.inl (some (.int x13)), h12)) dx_x0) dx_x0) dx_x0) dx_x0) dx_x0) dx_x0) (ax_c (d + 1) 236 [.ref v0, .int v1, .int v2, .int v3, .int v4, .int v5] h) := by
  refine e_entry (L' := [some (.ref v0), some (.int v1), some (.int v2), some (.int v3), some (.int v4), some (.int v5), none]) rfl (ag_A rfl (ag_I (ag_I (ag_I (ag_I (ag_I ag_n)))))) (Nat.le_of_ble_eq_true rfl) rfl ?_
  refine e_iload rfl rfl ?_
  refine e_push rfl ?_
  refine e_push rfl ?_
  refine e_isI rfl (Nat.le_of_ble_eq_true rfl) rfl rfl (Nat.le_of_ble_eq_true rfl) (fun _ _ => e_x0) fun x2 h1 => ?_
  refine e_pop rfl rfl ?_
  refine e_iload rfl rfl ?_
  refine e_push rfl ?_
  refine e_push rfl ?_
  refine e_isI rfl (Nat.le_of_ble_eq_true rfl) rfl rfl (Nat.le_of_ble_eq_true rfl) (fun _ _ => e_x0) fun x4 h3 => ?_
  refine e_pop rfl rfl ?_
  refine e_iload rfl rfl ?_
  refine e_push rfl ?_
  refine e_push rfl ?_
  refine e_isI rfl (Nat.le_of_ble_eq_true rfl) rfl rfl (Nat.le_of_ble_eq_true rfl) (fun _ _ => e_x0) fun x6 h5 => ?_
  refine e_pop rfl rfl ?_
  refine e_iload rfl rfl ?_
  refine e_iload rfl rfl ?_
  refine e_isR rfl (Nat.le_of_ble_eq_true rfl) rfl rfl (Nat.le_of_ble_eq_true rfl) (fun _ _ => e_x0) fun r8 h7 hr8 => ?_
  refine e_astore (L' := [some (.ref v0), some (.int v1), some (.int v2), some (.int v3), some (.int v4), some (.int v5), some (r8)]) rfl hr8 (dx_sto (Nat.le_of_ble_eq_true rfl) (Or.inr ⟨_, rfl, rfl⟩) rfl) ?_
  refine e_aload rfl rfl rfl ?_
  refine e_new rfl fun a10 h9 => ?_
  refine e_dup rfl rfl ?_
  refine e_aload rfl rfl rfl ?_
  refine e_iload rfl rfl ?_
  refine e_iload rfl rfl ?_
  refine e_iload rfl rfl ?_
  refine e_aload rfl rfl hr8 ?_
  refine e_isprV rfl rfl rfl (Nat.le_of_ble_eq_true rfl) (fun _ _ => e_x0) fun h11 => ?_
  refine e_ivI rfl rfl rfl (Nat.le_of_ble_eq_true rfl) (fun _ _ => e_x0) fun x13 h12 => ?_
  exact e_iret rfl
theorem m_X1_operand {d : Nat} {v0 : Int32} {v1 : Int32} {h : ax_H}  : dx_le (dx_cI ((ax_c d) 232 [.int v0, .int 0, .int 3] h) (fun x2 h1 => dx_nw h1 (.inr (41, [.int 0, .int 0])) 2 fun a4 h3 => if ¬ v0 = 1 then dx_cI ((ax_c d) 232 [.int v1, .int 0, .int 65535] h3) (fun x6 h5 => dx_cV ((ax_c d) 499 [.ref a4, .int v0, .int x6] h5) (fun h7 => some (.inl (some (.ref a4)), h7)) dx_x0) dx_x0 else dx_cI ((ax_c d) 232 [.int v1, .int 0, .int 19] h3) (fun x9 h8 => dx_cV ((ax_c d) 499 [.ref a4, .int v0, .int x9] h8) (fun h10 => some (.inl (some (.ref a4)), h10)) dx_x0) dx_x0) dx_x0) (ax_c (d + 1) 237 [.int v0, .int v1] h) := by
  refine e_entry (L' := [some (.int v0), some (.int v1)]) rfl (ag_I (ag_I ag_n)) (Nat.le_of_ble_eq_true rfl) rfl ?_
  refine e_iload rfl rfl ?_
  refine e_push rfl ?_
  refine e_push rfl ?_
  refine e_isI rfl (Nat.le_of_ble_eq_true rfl) rfl rfl (Nat.le_of_ble_eq_true rfl) (fun _ _ => e_x0) fun x2 h1 => ?_
  refine e_pop rfl rfl ?_
  refine e_new rfl fun a4 h3 => ?_
  refine e_dup rfl rfl ?_
  refine e_iload rfl rfl ?_
  refine e_iload rfl rfl ?_
  refine e_push rfl ?_
  refine e_iload rfl rfl ?_
  refine e_push rfl ?_
  refine e_if2 rfl rfl ?_ ?_
  · refine e_push rfl ?_
    refine e_isI rfl (Nat.le_of_ble_eq_true rfl) rfl rfl (Nat.le_of_ble_eq_true rfl) (fun _ _ => e_x0) fun x6 h5 => ?_
    refine e_isprV rfl rfl rfl (Nat.le_of_ble_eq_true rfl) (fun _ _ => e_x0) fun h7 => ?_
    exact e_aret rfl rfl
  · refine e_push rfl ?_
    refine e_goto rfl ?_
    refine e_isI rfl (Nat.le_of_ble_eq_true rfl) rfl rfl (Nat.le_of_ble_eq_true rfl) (fun _ _ => e_x0) fun x9 h8 => ?_
    refine e_isprV rfl rfl rfl (Nat.le_of_ble_eq_true rfl) (fun _ _ => e_x0) fun h10 => ?_
    exact e_aret rfl rfl
