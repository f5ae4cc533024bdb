theorem uX0_four_0 {d : Nat} {μ0 μ : tm_M} {K : tm_M → Prop} {v1 : Int} (hs : tFr (tWs [5] [(4, 1)]) μ0 μ)
    (h : hV (tWs [5] [(4, 1)]) μ0 mX0_four d K 3 [(0, 2, 1), (1, 0, v1), (2, 0, 24)] [] μ) :
    hV (tWs [5] [(4, 1)]) μ0 mX0_four d K 0 [(0, 2, 1), (1, 0, v1)] [] μ := by
  refine g_bipush dX0_four_0 ⟨by decide, by decide, rfl⟩ ?_
  refine g_istore_n (L' := [(0, 2, 1), (1, 0, v1), (2, 0, 24)]) dX0_four_2 rfl (by decide) [1, 2, 0] rfl ?_
  exact h
theorem uX0_four_3 {d : Nat} {μ0 μ : tm_M} {K : tm_M → Prop} {v1 v2 : Int} (hs : tFr (tWs [5] [(4, 1)]) μ0 μ)
    (h : (v2 < 0 → K μ) ∧ (0 ≤ v2 → (0 ≤ tm_v μ 4 1 ∧ tm_v μ 4 1 < 500) ∧ ((∀ μ4, μ4 = tm_w μ 5 (tm_v μ 4 1) (w8 (i_shr v1 v2)) → (∀ μ5, μ5 = tm_w μ4 4 1 (w32 ((tm_v μ4 4 1) + 1)) → hV (tWs [5] [(4, 1)]) μ0 mX0_four d K 3 [(0, 2, 1), (1, 0, v1), (2, 0, w32 (v2 + -8))] [] μ5))))) :
    hV (tWs [5] [(4, 1)]) μ0 mX0_four d K 3 [(0, 2, 1), (1, 0, v1), (2, 0, v2)] [] μ := by
  refine g_iload_n (q := 2) dX0_four_3 rfl rfl ?_
  refine g_if_lt (tgt := 45) dX0_four_4 (by decide) (fun c1 => ?_) (fun c2 => ?_)
  · have h := h.1 c1
    exact g_vret dX0_four_45 rfl (Nat.le_refl _) (Nat.le_refl _) ⟨rfl, hs, h⟩
  · have h := h.2 c2
    refine g_aload_n (q := 0) dX0_four_7 rfl rfl ?_
    refine g_getC (x := 4) 2 dX0_four_8 fX0_27 rfl (by decide) (sk_1 hs.S) (sv_1_2 hs.S) ?_
    refine g_getC (x := 5) 2 dX0_four_11 fX0_216 rfl (by decide) (sk_4 hs.S) (sv_4_0 hs.S) ?_
    refine g_aload_n (q := 0) dX0_four_14 rfl rfl ?_
    refine g_getC (x := 4) 2 dX0_four_15 fX0_27 rfl (by decide) (sk_1 hs.S) (sv_1_2 hs.S) ?_
    refine g_get 0 dX0_four_18 fX0_209 rfl (by decide) (sk_4 hs.S) ?_
    refine g_iload_n (q := 1) dX0_four_21 rfl rfl ?_
    refine g_iload_n (q := 2) dX0_four_22 rfl rfl ?_
    refine g_ishr dX0_four_23 ?_
    refine g_i2b dX0_four_24 ?_
    obtain ⟨c3, h⟩ := h
    refine g_bastore dX0_four_25 (by decide) (sk_5 hs.S) c3.1 (t_lt (sn_5 hs.S) c3.2) (w8_in _) (p_w hs sf_5 (tWs_in _ rfl) fun μ4 eμ4 hs => ?_)
    have h := h μ4 eμ4
    refine g_aload_n (q := 0) dX0_four_26 rfl rfl ?_
    refine g_getC (x := 4) 2 dX0_four_27 fX0_27 rfl (by decide) (sk_1 hs.S) (sv_1_2 hs.S) ?_
    refine g_dup dX0_four_30 (by decide) ?_
    refine g_get 0 dX0_four_31 fX0_209 rfl (by decide) (sk_4 hs.S) ?_
    refine g_iconst dX0_four_34 (by decide) ?_
    refine g_iadd dX0_four_35 ?_
    refine g_put dX0_four_36 fX0_209 rfl (by decide) (sk_4 hs.S) (fun e => absurd e (by decide)) (p_wj hs (by decide) (tWs_inF rfl) fun μ5 eμ5 hs => ?_)
    have h := h μ5 eμ5
    refine g_iinc (q := 2) dX0_four_39 (by decide) rfl [1, 2, 0] rfl ?_
    refine g_goto (tgt := 3) dX0_four_42 (by decide) ?_
    exact h
theorem uX0_feed_0 {d : Nat} {μ0 μ : tm_M} {K : Int → tm_M → Prop} {v1 v2 v3 v4 v5 : Int} (hd : 1 ≤ d) (hs : tFr (tWs [5] [(4, 1)]) μ0 μ)
    (h : (w32 ((tm_v μ 4 1) + 20) ≤ 500 → cV (tWs [5] [(4, 1)]) mX0_four (d - 1) [(2, 1), (0, v1)] μ (fun μ3 => cV (tWs [5] [(4, 1)]) mX0_four (d - 1) [(2, 1), (0, v2)] μ3 (fun μ4 => cV (tWs [5] [(4, 1)]) mX0_four (d - 1) [(2, 1), (0, v3)] μ4 (fun μ5 => cV (tWs [5] [(4, 1)]) mX0_four (d - 1) [(2, 1), (0, v4)] μ5 (fun μ6 => cV (tWs [5] [(4, 1)]) mX0_four (d - 1) [(2, 1), (0, v5)] μ6 (fun μ7 => K (tm_v μ7 4 1) μ7)))))) ∧ (500 < w32 ((tm_v μ 4 1) + 20) → K (-1) μ)) :
    hI (tWs [5] [(4, 1)]) μ0 mX0_feed d K 0 [(0, 2, 1), (1, 0, v1), (2, 0, v2), (3, 0, v3), (4, 0, v4), (5, 0, v5)] [] μ := by
  refine g_aload_n (q := 0) dX0_feed_0 rfl rfl ?_
  refine g_getC (x := 4) 2 dX0_feed_1 fX0_27 rfl (by decide) (sk_1 hs.S) (sv_1_2 hs.S) ?_
  refine g_get 0 dX0_feed_4 fX0_209 rfl (by decide) (sk_4 hs.S) ?_
  refine g_bipush dX0_feed_7 ⟨by decide, by decide, rfl⟩ ?_
  refine g_iadd dX0_feed_9 ?_
  refine g_sipush dX0_feed_10 ⟨by decide, by decide, rfl⟩ ?_
  refine g_icmp_le (tgt := 18) dX0_feed_13 (by decide) (fun c1 => ?_) (fun c2 => ?_)
  · have h := h.1 c1
    refine g_aload_n (q := 0) dX0_feed_18 rfl rfl ?_
    refine g_iload_n (q := 1) dX0_feed_19 rfl rfl ?_
    refine g_callV1 dX0_feed_20 kX0_four q657 q659 qs4 (ci := 0) rfl (by decide) rfl (by omega) (by decide) (sk_1 hs.S) (Nat.le_of_ble_eq_true rfl) (Nat.le_refl _) (Nat.le_refl _) (t_kV hs (tWs_sub rfl) h (fun μ3 hs h => ?_))
    refine g_aload_n (q := 0) dX0_feed_23 rfl rfl ?_
    refine g_iload_n (q := 2) dX0_feed_24 rfl rfl ?_
    refine g_callV1 dX0_feed_25 kX0_four q657 q659 qs4 (ci := 0) rfl (by decide) rfl (by omega) (by decide) (sk_1 hs.S) (Nat.le_of_ble_eq_true rfl) (Nat.le_refl _) (Nat.le_refl _) (t_kV hs (tWs_sub rfl) h (fun μ4 hs h => ?_))
    refine g_aload_n (q := 0) dX0_feed_28 rfl rfl ?_
    refine g_iload_n (q := 3) dX0_feed_29 rfl rfl ?_
    refine g_callV1 dX0_feed_30 kX0_four q657 q659 qs4 (ci := 0) rfl (by decide) rfl (by omega) (by decide) (sk_1 hs.S) (Nat.le_of_ble_eq_true rfl) (Nat.le_refl _) (Nat.le_refl _) (t_kV hs (tWs_sub rfl) h (fun μ5 hs h => ?_))
    refine g_aload_n (q := 0) dX0_feed_33 rfl rfl ?_
    refine g_iload (q := 4) dX0_feed_34 rfl ?_
    refine g_callV1 dX0_feed_36 kX0_four q657 q659 qs4 (ci := 0) rfl (by decide) rfl (by omega) (by decide) (sk_1 hs.S) (Nat.le_of_ble_eq_true rfl) (Nat.le_refl _) (Nat.le_refl _) (t_kV hs (tWs_sub rfl) h (fun μ6 hs h => ?_))
    refine g_aload_n (q := 0) dX0_feed_39 rfl rfl ?_
    refine g_iload (q := 5) dX0_feed_40 rfl ?_
    refine g_callV1 dX0_feed_42 kX0_four q657 q659 qs4 (ci := 0) rfl (by decide) rfl (by omega) (by decide) (sk_1 hs.S) (Nat.le_of_ble_eq_true rfl) (Nat.le_refl _) (Nat.le_refl _) (t_kV hs (tWs_sub rfl) h (fun μ7 hs h => ?_))
    refine g_aload_n (q := 0) dX0_feed_45 rfl rfl ?_
    refine g_getC (x := 4) 2 dX0_feed_46 fX0_27 rfl (by decide) (sk_1 hs.S) (sv_1_2 hs.S) ?_
    refine g_get 0 dX0_feed_49 fX0_209 rfl (by decide) (sk_4 hs.S) ?_
    exact g_iret dX0_feed_52 rfl (Nat.le_refl _) (Nat.le_refl _) ⟨_, rfl, hs, h⟩
  · have h := h.2 c2
    refine g_iconst dX0_feed_16 (by decide) ?_
    exact g_iret dX0_feed_17 rfl (Nat.le_refl _) (Nat.le_refl _) ⟨_, rfl, hs, h⟩
