theorem uX9_goesOn_0 {d : Nat} {μ0 μ : tm_M} {K : tm_M → Prop} {v0 v1 : Int} (hw : 7 ≤ v1 ∧ v1 ≤ 9) (hs : tFr (tWs [v1] []) μ0 μ)
    (h : (1 ≤ v1 ∧ tm_k μ0 v1 = 3) ∧ ((∀ μ2, μ2 = tm_w μ v1 2 (w32 ((tm_v μ v1 2) + 1)) → K μ2))) :
    hV (tWs [v1] []) μ0 mX9_goesOn d K 0 [(0, 2, v0), (1, 2, v1)] [] μ := by
  refine g_aload_n (q := 1) dX9_goesOn_0 rfl rfl ?_
  refine g_dup dX9_goesOn_1 (by decide) ?_
  obtain ⟨c1, h⟩ := h
  refine g_get 0 dX9_goesOn_2 fX9_13 rfl c1.1 (hs.k ▸ c1.2) ?_
  refine g_iconst dX9_goesOn_5 (by decide) ?_
  refine g_iadd dX9_goesOn_6 ?_
  refine g_put dX9_goesOn_7 fX9_13 rfl c1.1 (hs.k ▸ c1.2) (fun e => absurd e (by decide)) (p_w hs (tW1_fr hw) (Or.inl (List.mem_singleton.mpr rfl)) fun μ2 eμ2 hs => ?_)
  have h := h μ2 eμ2
  exact g_vret dX9_goesOn_10 rfl (Nat.le_refl _) (Nat.le_refl _) ⟨rfl, hs, h⟩
theorem uX10_step_0_9 {d : Nat} {μ0 μ : tm_M} {K : Int → tm_M → Prop} {v0 v1 : Int} (hs : tFr (tWs [] []) μ0 μ)
    (h : (1 ≤ v1 ∧ tm_k μ0 v1 = 3) ∧ ((ob μ0 v0 9) ∧ ((ob μ0 (tm_v μ0 v0 0) 20) ∧ ((tm_n μ (tm_v μ0 v0 0) ≤ tm_v μ0 v1 2 → K 0 μ) ∧ (tm_v μ0 v1 2 < tm_n μ (tm_v μ0 v0 0) → (0 ≤ tm_v μ0 v1 2 ∧ tm_v μ0 v1 2 < tm_n μ0 (tm_v μ0 v0 0)) ∧ (K (tm_v μ0 (tm_v μ0 v0 0) (tm_v μ0 v1 2)) μ)))))) :
    hI (tWs [] []) μ0 mX10_step d K 0 [(0, 2, v0), (1, 2, v1)] [] μ := by
  refine g_aload_n (q := 1) dX10_step_0 rfl rfl ?_
  obtain ⟨c1, h⟩ := h
  refine g_getC (x := tm_v μ0 v1 2) 0 dX10_step_1 fX10_7 rfl c1.1 (hs.k ▸ c1.2) (hs.v (tWs_no _ rfl)) ?_
  refine g_aload_n (q := 0) dX10_step_4 rfl rfl ?_
  obtain ⟨c2, h⟩ := h
  refine g_getC (x := tm_v μ0 v0 0) 2 dX10_step_5 fX10_13_9 rfl c2.1.1 (hs.k ▸ c2.1.2) (hs.v (tWs_ob rfl c2)) ?_
  obtain ⟨c3, h⟩ := h
  refine g_alen dX10_step_8 c3.1.1 (hs.k ▸ c3.1.2) (by decide) ?_
  refine g_icmp_ge (tgt := 24) dX10_step_9 (by decide) (fun c4 => ?_) (fun c5 => ?_)
  · have h := h.1 c4
    refine g_iconst dX10_step_24 (by decide) ?_
    exact g_iret dX10_step_25 rfl (Nat.le_refl _) (Nat.le_refl _) ⟨_, rfl, hs, h⟩
  · have h := h.2 c5
    refine g_aload_n (q := 0) dX10_step_12 rfl rfl ?_
    refine g_getC (x := tm_v μ0 v0 0) 2 dX10_step_13 fX10_13_9 rfl c2.1.1 (hs.k ▸ c2.1.2) (hs.v (tWs_ob rfl c2)) ?_
    refine g_aload_n (q := 1) dX10_step_16 rfl rfl ?_
    refine g_getC (x := tm_v μ0 v1 2) 0 dX10_step_17 fX10_7 rfl c1.1 (hs.k ▸ c1.2) (hs.v (tWs_no _ rfl)) ?_
    obtain ⟨c6, h⟩ := h
    refine g_ialoadC (x := tm_v μ0 (tm_v μ0 v0 0) (tm_v μ0 v1 2)) dX10_step_20 c3.1.1 (hs.k ▸ c3.1.2) c6.1 (hs.n ▸ c6.2) (hs.v (tWs_ob rfl c3)) ?_
    refine g_goto (tgt := 25) dX10_step_21 (by decide) ?_
    exact g_iret dX10_step_25 rfl (Nat.le_refl _) (Nat.le_refl _) ⟨_, rfl, hs, h⟩
theorem uX10_step_0_10 {d : Nat} {μ0 μ : tm_M} {K : Int → tm_M → Prop} {v0 v1 : Int} (hs : tFr (tWs [] []) μ0 μ)
    (h : (1 ≤ v1 ∧ tm_k μ0 v1 = 3) ∧ ((ob μ0 v0 10) ∧ ((ob μ0 (tm_v μ0 v0 0) 20) ∧ ((tm_n μ (tm_v μ0 v0 0) ≤ tm_v μ0 v1 2 → K 0 μ) ∧ (tm_v μ0 v1 2 < tm_n μ (tm_v μ0 v0 0) → (0 ≤ tm_v μ0 v1 2 ∧ tm_v μ0 v1 2 < tm_n μ0 (tm_v μ0 v0 0)) ∧ (K (tm_v μ0 (tm_v μ0 v0 0) (tm_v μ0 v1 2)) μ)))))) :
    hI (tWs [] []) μ0 mX10_step d K 0 [(0, 2, v0), (1, 2, v1)] [] μ := by
  refine g_aload_n (q := 1) dX10_step_0 rfl rfl ?_
  obtain ⟨c1, h⟩ := h
  refine g_getC (x := tm_v μ0 v1 2) 0 dX10_step_1 fX10_7 rfl c1.1 (hs.k ▸ c1.2) (hs.v (tWs_no _ rfl)) ?_
  refine g_aload_n (q := 0) dX10_step_4 rfl rfl ?_
  obtain ⟨c2, h⟩ := h
  refine g_getC (x := tm_v μ0 v0 0) 2 dX10_step_5 fX10_13_10 rfl c2.1.1 (hs.k ▸ c2.1.2) (hs.v (tWs_ob rfl c2)) ?_
  obtain ⟨c3, h⟩ := h
  refine g_alen dX10_step_8 c3.1.1 (hs.k ▸ c3.1.2) (by decide) ?_
  refine g_icmp_ge (tgt := 24) dX10_step_9 (by decide) (fun c4 => ?_) (fun c5 => ?_)
  · have h := h.1 c4
    refine g_iconst dX10_step_24 (by decide) ?_
    exact g_iret dX10_step_25 rfl (Nat.le_refl _) (Nat.le_refl _) ⟨_, rfl, hs, h⟩
  · have h := h.2 c5
    refine g_aload_n (q := 0) dX10_step_12 rfl rfl ?_
    refine g_getC (x := tm_v μ0 v0 0) 2 dX10_step_13 fX10_13_10 rfl c2.1.1 (hs.k ▸ c2.1.2) (hs.v (tWs_ob rfl c2)) ?_
    refine g_aload_n (q := 1) dX10_step_16 rfl rfl ?_
    refine g_getC (x := tm_v μ0 v1 2) 0 dX10_step_17 fX10_7 rfl c1.1 (hs.k ▸ c1.2) (hs.v (tWs_no _ rfl)) ?_
    obtain ⟨c6, h⟩ := h
    refine g_ialoadC (x := tm_v μ0 (tm_v μ0 v0 0) (tm_v μ0 v1 2)) dX10_step_20 c3.1.1 (hs.k ▸ c3.1.2) c6.1 (hs.n ▸ c6.2) (hs.v (tWs_ob rfl c3)) ?_
    refine g_goto (tgt := 25) dX10_step_21 (by decide) ?_
    exact g_iret dX10_step_25 rfl (Nat.le_refl _) (Nat.le_refl _) ⟨_, rfl, hs, h⟩
theorem uX12_told_0 {d : Nat} {μ0 μ : tm_M} {K : Int → tm_M → Prop} {v0 v1 : Int} (hs : tFr (tWs [] []) μ0 μ)
    (h : (ob μ0 v0 11) ∧ ((1 ≤ v1 ∧ tm_k μ0 v1 = 3) ∧ ((ob μ0 (tm_v μ0 v1 1) 7) ∧ ((ob μ0 (tm_v μ0 v0 0) 20) ∧ ((0 ≤ w32 ((w32 (6 * (tm_v μ0 v1 3))) + (tm_v μ0 (tm_v μ0 v1 1) 2)) ∧ w32 ((w32 (6 * (tm_v μ0 v1 3))) + (tm_v μ0 (tm_v μ0 v1 1) 2)) < tm_n μ0 (tm_v μ0 v0 0)) ∧ (K (tm_v μ0 (tm_v μ0 v0 0) (w32 ((w32 (6 * (tm_v μ0 v1 3))) + (tm_v μ0 (tm_v μ0 v1 1) 2)))) μ)))))) :
    hI (tWs [] []) μ0 mX12_told d K 0 [(0, 2, v0), (1, 2, v1)] [] μ := by
  refine g_aload_n (q := 0) dX12_told_0 rfl rfl ?_
  obtain ⟨c1, h⟩ := h
  refine g_getC (x := tm_v μ0 v0 0) 2 dX12_told_1 fX12_9 rfl c1.1.1 (hs.k ▸ c1.1.2) (hs.v (tWs_ob rfl c1)) ?_
  refine g_bipush dX12_told_4 ⟨by decide, by decide, rfl⟩ ?_
  refine g_aload_n (q := 1) dX12_told_6 rfl rfl ?_
  obtain ⟨c2, h⟩ := h
  refine g_getC (x := tm_v μ0 v1 3) 0 dX12_told_7 fX12_15 rfl c2.1 (hs.k ▸ c2.2) (hs.v (tWs_no _ rfl)) ?_
  refine g_imul dX12_told_10 ?_
  refine g_aload_n (q := 1) dX12_told_11 rfl rfl ?_
  refine g_getC (x := tm_v μ0 v1 1) 2 dX12_told_12 fX12_21 rfl c2.1 (hs.k ▸ c2.2) (hs.v (tWs_no _ rfl)) ?_
  obtain ⟨c3, h⟩ := h
  refine g_getC (x := tm_v μ0 (tm_v μ0 v1 1) 2) 0 dX12_told_15 fX12_25 rfl c3.1.1 (hs.k ▸ c3.1.2) (hs.v (tWs_ob rfl c3)) ?_
  refine g_iadd dX12_told_18 ?_
  obtain ⟨c4, h⟩ := h
  obtain ⟨c5, h⟩ := h
  refine g_ialoadC (x := tm_v μ0 (tm_v μ0 v0 0) (w32 ((w32 (6 * (tm_v μ0 v1 3))) + (tm_v μ0 (tm_v μ0 v1 1) 2)))) dX12_told_19 c4.1.1 (hs.k ▸ c4.1.2) c5.1 (hs.n ▸ c5.2) (hs.v (tWs_ob rfl c4)) ?_
  exact g_iret dX12_told_20 rfl (Nat.le_refl _) (Nat.le_refl _) ⟨_, rfl, hs, h⟩
theorem uX12_step_0 {d : Nat} {μ0 μ : tm_M} {K : Int → tm_M → Prop} {v0 v1 : Int} (hd : 1 ≤ d) (hs : tFr (tWs [] []) μ0 μ)
    (h : (ob μ0 v0 11) ∧ (cI (tWs [] []) mX12_told (d - 1) [(2, v0), (2, v1)] μ (fun r3 μ2 => K (r3.tmod 5) μ2))) :
    hI (tWs [] []) μ0 mX12_step d K 0 [(0, 2, v0), (1, 2, v1)] [] μ := by
  refine g_aload_n (q := 0) dX12_step_0 rfl rfl ?_
  refine g_aload_n (q := 1) dX12_step_1 rfl rfl ?_
  obtain ⟨c1, h⟩ := h
  refine g_callV1 dX12_step_2 kX12_told q995 q997 qs26 (ci := 11) rfl (by decide) rfl (by omega) c1.1.1 (hs.k ▸ c1.1.2) (Nat.le_of_ble_eq_true rfl) (Nat.le_refl _) (Nat.le_refl _) (t_kI hs (tWs_sub rfl) h (fun r3 μ2 hs h => ?_))
  refine g_iconst dX12_step_5 (by decide) ?_
  refine g_irem dX12_step_6 (by decide) ?_
  exact g_iret dX12_step_7 rfl (Nat.le_refl _) (Nat.le_refl _) ⟨_, rfl, hs, h⟩
theorem uX11_goesOn_0 {d : Nat} {μ0 μ : tm_M} {K : tm_M → Prop} {v0 v1 : Int} (hd : 1 ≤ d) (hw : 7 ≤ v1 ∧ v1 ≤ 9) (hs : tFr (tWs [v1] []) μ0 μ)
    (h : (ob μ0 v0 10) ∧ (cV (tWs [v1] []) mX9_goesOn (d - 1) [(2, v0), (2, v1)] μ (fun μ2 => (1 ≤ v1 ∧ tm_k μ0 v1 = 3) ∧ ((ob μ0 (tm_v μ0 v0 0) 20) ∧ ((tm_v μ2 v1 2 ≠ tm_n μ2 (tm_v μ0 v0 0) → K μ2) ∧ (tm_v μ2 v1 2 = tm_n μ2 (tm_v μ0 v0 0) → (∀ μ7, μ7 = tm_w μ2 v1 2 0 → K μ7))))))) :
    hV (tWs [v1] []) μ0 mX11_goesOn d K 0 [(0, 2, v0), (1, 2, v1)] [] μ := by
  refine g_aload_n (q := 0) dX11_goesOn_0 rfl rfl ?_
  refine g_aload_n (q := 1) dX11_goesOn_1 rfl rfl ?_
  obtain ⟨c1, h⟩ := h
  refine g_superA dX11_goesOn_2 (by omega) (Nat.le_of_ble_eq_true rfl) hs (fun _ => Or.inl (List.mem_singleton.mpr rfl)) c1.1.1 (hs.k ▸ c1.1.2) h (fun μ2 hs h => ?_)
  refine g_aload_n (q := 1) dX11_goesOn_5 rfl rfl ?_
  obtain ⟨c3, h⟩ := h
  refine g_get 0 dX11_goesOn_6 fX11_11 rfl c3.1 (hs.k ▸ c3.2) ?_
  refine g_aload_n (q := 0) dX11_goesOn_9 rfl rfl ?_
  refine g_getC (x := tm_v μ0 v0 0) 2 dX11_goesOn_10 fX11_17 rfl c1.1.1 (hs.k ▸ c1.1.2) (hs.v (tW1_ob hw c1)) ?_
  obtain ⟨c4, h⟩ := h
  refine g_alen dX11_goesOn_13 c4.1.1 (hs.k ▸ c4.1.2) (by decide) ?_
  refine g_icmp_ne (tgt := 22) dX11_goesOn_14 (by decide) (fun c5 => ?_) (fun c6 => ?_)
  · have h := h.1 c5
    exact g_vret dX11_goesOn_22 rfl (Nat.le_refl _) (Nat.le_refl _) ⟨rfl, hs, h⟩
  · have h := h.2 c6
    refine g_aload_n (q := 1) dX11_goesOn_17 rfl rfl ?_
    refine g_iconst dX11_goesOn_18 (by decide) ?_
    refine g_put dX11_goesOn_19 fX11_11 rfl c3.1 (hs.k ▸ c3.2) (fun e => absurd e (by decide)) (p_w hs (tW1_fr hw) (Or.inl (List.mem_singleton.mpr rfl)) fun μ7 eμ7 hs => ?_)
    have h := h μ7 eμ7
    exact g_vret dX11_goesOn_22 rfl (Nat.le_refl _) (Nat.le_refl _) ⟨rfl, hs, h⟩
theorem uX12_goesOn_0 {d : Nat} {μ0 μ : tm_M} {K : tm_M → Prop} {v0 v1 : Int} (hd : 1 ≤ d) (hw : 7 ≤ v1 ∧ v1 ≤ 9) (hs : tFr (tWs [v1] []) μ0 μ)
    (h : (ob μ0 v0 11) ∧ (cV (tWs [v1] []) mX9_goesOn (d - 1) [(2, v0), (2, v1)] μ (fun μ2 => cI (tWs [] []) mX12_told (d - 1) [(2, v0), (2, v1)] μ2 (fun r4 μ3 => (1 ≤ v1 ∧ tm_k μ0 v1 = 3) ∧ ((∀ μ6, μ6 = tm_w μ3 v1 3 (w32 (r4.tdiv 5)) → K μ6)))))) :
    hV (tWs [v1] []) μ0 mX12_goesOn d K 0 [(0, 2, v0), (1, 2, v1)] [] μ := by
  refine g_aload_n (q := 0) dX12_goesOn_0 rfl rfl ?_
  refine g_aload_n (q := 1) dX12_goesOn_1 rfl rfl ?_
  obtain ⟨c1, h⟩ := h
  refine g_superS dX12_goesOn_2 (by omega) (Nat.le_of_ble_eq_true rfl) hs (fun _ => Or.inl (List.mem_singleton.mpr rfl)) c1.1.1 (hs.k ▸ c1.1.2) h (fun μ2 hs h => ?_)
  refine g_aload_n (q := 1) dX12_goesOn_5 rfl rfl ?_
  refine g_aload_n (q := 0) dX12_goesOn_6 rfl rfl ?_
  refine g_aload_n (q := 1) dX12_goesOn_7 rfl rfl ?_
  refine g_callV1 dX12_goesOn_8 kX12_told q995 q997 qs26 (ci := 11) rfl (by decide) rfl (by omega) c1.1.1 (hs.k ▸ c1.1.2) (Nat.le_of_ble_eq_true rfl) (Nat.le_refl _) (Nat.le_refl _) (t_kI hs (tWs_sub rfl) h (fun r4 μ3 hs h => ?_))
  refine g_iconst dX12_goesOn_11 (by decide) ?_
  refine g_idiv dX12_goesOn_12 (by decide) ?_
  obtain ⟨c5, h⟩ := h
  refine g_put dX12_goesOn_13 fX12_15 rfl c5.1 (hs.k ▸ c5.2) (fun e => absurd e (by decide)) (p_w hs (tW1_fr hw) (Or.inl (List.mem_singleton.mpr rfl)) fun μ6 eμ6 hs => ?_)
  have h := h μ6 eμ6
  exact g_vret dX12_goesOn_16 rfl (Nat.le_refl _) (Nat.le_refl _) ⟨rfl, hs, h⟩
theorem uX3_begin_0 {d : Nat} {μ0 μ : tm_M} {K : tm_M → Prop} {v0 v1 v2 : Int} (hw : 7 ≤ v0 ∧ v0 ≤ 9) (hs : tFr (tWs [v0] []) μ0 μ)
    (h : (1 ≤ v0 ∧ tm_k μ0 v0 = 3) ∧ ((∀ μ2, μ2 = tm_w μ v0 0 v1 → (∀ μ3, μ3 = tm_w μ2 v0 1 v2 → (∀ μ4, μ4 = tm_w μ3 v0 2 0 → (∀ μ5, μ5 = tm_w μ4 v0 3 0 → K μ5)))))) :
    hV (tWs [v0] []) μ0 mX3_begin d K 0 [(0, 2, v0), (1, 2, v1), (2, 2, v2)] [] μ := by
  refine g_aload_n (q := 0) dX3_begin_0 rfl rfl ?_
  refine g_aload_n (q := 1) dX3_begin_1 rfl rfl ?_
  obtain ⟨c1, h⟩ := h
  refine g_put dX3_begin_2 fX3_7 rfl c1.1 (hs.k ▸ c1.2) (fun e => absurd e (by decide)) (p_w hs (tW1_fr hw) (Or.inl (List.mem_singleton.mpr rfl)) fun μ2 eμ2 hs => ?_)
  have h := h μ2 eμ2
  refine g_aload_n (q := 0) dX3_begin_5 rfl rfl ?_
  refine g_aload_n (q := 2) dX3_begin_6 rfl rfl ?_
  refine g_put dX3_begin_7 fX3_13 rfl c1.1 (hs.k ▸ c1.2) (fun e => absurd e (by decide)) (p_w hs (tW1_fr hw) (Or.inl (List.mem_singleton.mpr rfl)) fun μ3 eμ3 hs => ?_)
  have h := h μ3 eμ3
  refine g_aload_n (q := 0) dX3_begin_10 rfl rfl ?_
  refine g_iconst dX3_begin_11 (by decide) ?_
  refine g_put dX3_begin_12 fX3_17 rfl c1.1 (hs.k ▸ c1.2) (fun e => absurd e (by decide)) (p_w hs (tW1_fr hw) (Or.inl (List.mem_singleton.mpr rfl)) fun μ4 eμ4 hs => ?_)
  have h := h μ4 eμ4
  refine g_aload_n (q := 0) dX3_begin_15 rfl rfl ?_
  refine g_iconst dX3_begin_16 (by decide) ?_
  refine g_put dX3_begin_17 fX3_21 rfl c1.1 (hs.k ▸ c1.2) (fun e => absurd e (by decide)) (p_w hs (tW1_fr hw) (Or.inl (List.mem_singleton.mpr rfl)) fun μ5 eμ5 hs => ?_)
  have h := h μ5 eμ5
  exact g_vret dX3_begin_20 rfl (Nat.le_refl _) (Nat.le_refl _) ⟨rfl, hs, h⟩
theorem uX3_next_0 {d : Nat} {μ0 μ : tm_M} {K : Int → tm_M → Prop} {ν : tm_M} {v0 : Int} (hd : 2 ≤ d) (hw : 7 ≤ v0 ∧ v0 ≤ 9) (hs : tFr (tWs [v0] []) μ0 μ)
    (h : (1 ≤ v0 ∧ tm_k μ0 v0 = 3) ∧ (vStep (d - 1) (tm_v μ v0 0) v0 μ (fun r3 μ2 => (ob μ0 (tm_v μ v0 1) 7) ∧ ((JU μ0 ν ∧ isP μ0 ν (tm_v μ v0 1)) ∧ ((∀ x6, x6 = c_P μ0 (y_go ν (tm_v μ0 (tm_v μ v0 1) 1) r3) → vGoes (d - 1) (tm_v μ2 v0 0) v0 μ2 (fun μ7 => K x6 μ7))))))) :
    hRe (tWs [v0] []) μ0 mX3_next d K 0 [(0, 2, v0)] [] μ := by
  refine g_aload_n (q := 0) dX3_next_0 rfl rfl ?_
  obtain ⟨c1, h⟩ := h
  refine g_get 2 dX3_next_1 fX3_13 rfl c1.1 (hs.k ▸ c1.2) ?_
  refine g_aload_n (q := 0) dX3_next_4 rfl rfl ?_
  refine g_get 2 dX3_next_5 fX3_7 rfl c1.1 (hs.k ▸ c1.2) ?_
  refine g_aload_n (q := 0) dX3_next_8 rfl rfl ?_
  refine g_vStep dX3_next_9 tw_step3 (by omega) (Nat.le_of_ble_eq_true rfl) hs h (fun r3 μ2 hs h => ?_)
  obtain ⟨c4, h⟩ := h
  obtain ⟨c5, h⟩ := h
  refine g_callV1 dX3_next_12 kX7_by q1003 q898 q899 (ci := 7) rfl (by decide) rfl (by omega) c4.1.1 (hs.k ▸ c4.1.2) (Nat.le_of_ble_eq_true rfl) (Nat.le_refl _) (Nat.le_refl _) (t_pR hs (pX7_by (by omega) hs (tW1_TC hw) c5) ?_)
  refine g_astore_nN (fun z => [(0, 2, v0), (1, 2, z)]) dX3_next_15 rfl (by decide) [1, 0] (fun _ => rfl) (fun x6 ex6 => ?_)
  have h := h x6 ex6
  refine g_aload_n (q := 0) dX3_next_16 rfl rfl ?_
  refine g_get 2 dX3_next_17 fX3_7 rfl c1.1 (hs.k ▸ c1.2) ?_
  refine g_aload_n (q := 0) dX3_next_20 rfl rfl ?_
  refine g_vGoes dX3_next_21 (Or.inl q1004) (by omega) (Nat.le_of_ble_eq_true rfl) hs (fun _ => Or.inl (List.mem_singleton.mpr rfl)) h (fun μ7 hs h => ?_)
  refine g_aload_n (q := 1) dX3_next_24 rfl rfl ?_
  exact g_aret dX3_next_25 rfl rfl (Nat.le_refl _) (Nat.le_refl _) ⟨_, rfl, hs, h⟩
theorem uX4_spread_0 {d : Nat} {μ0 μ : tm_M} {K : tm_M → Prop} {v0 v1 : Int} (hf : dyA (c_FA μ0) ∧ tm_k μ0 (c_FA μ0) = 20) (hs : tFr (tWf [] [] (c_FA μ0)) μ0 μ)
    (h : hV (tWf [] [] (c_FA μ0)) μ0 mX4_spread d K 2 [(0, 2, v0), (1, 2, v1), (2, 0, 0)] [] μ) :
    hV (tWf [] [] (c_FA μ0)) μ0 mX4_spread d K 0 [(0, 2, v0), (1, 2, v1)] [] μ := by
  refine g_iconst dX4_spread_0 (by decide) ?_
  refine g_istore_n (L' := [(0, 2, v0), (1, 2, v1), (2, 0, 0)]) dX4_spread_1 rfl (by decide) [1, 2, 0] rfl ?_
  exact h
theorem uX4_spread_2 {d : Nat} {μ0 μ : tm_M} {K : tm_M → Prop} {v0 v1 v2 : Int} (hf : dyA (c_FA μ0) ∧ tm_k μ0 (c_FA μ0) = 20) (hs : tFr (tWf [] [] (c_FA μ0)) μ0 μ)
    (h : (8 ≤ v2 → hV (tWf [] [] (c_FA μ0)) μ0 mX4_spread d K 35 [(0, 2, v0), (2, 0, 0)] [] μ) ∧ (v2 < 8 → (ob μ0 v0 4) ∧ ((ob μ0 v1 7) ∧ ((v2 ≠ tm_v μ0 v1 1 → (ob μ0 (tm_v μ0 v0 7) 20) ∧ ((0 ≤ v2 ∧ v2 < tm_n μ0 (tm_v μ0 v0 7)) ∧ ((tm_v μ0 v0 7 = c_FA μ0) ∧ ((∀ μ9, μ9 = tm_w μ (tm_v μ0 v0 7) v2 (-1) → hV (tWf [] [] (c_FA μ0)) μ0 mX4_spread d K 2 [(0, 2, v0), (1, 2, v1), (2, 0, w32 (v2 + 1))] [] μ9))))) ∧ (v2 = tm_v μ0 v1 1 → (ob μ0 (tm_v μ0 v0 7) 20) ∧ ((0 ≤ v2 ∧ v2 < tm_n μ0 (tm_v μ0 v0 7)) ∧ ((tm_v μ0 v0 7 = c_FA μ0) ∧ ((∀ μ13, μ13 = tm_w μ (tm_v μ0 v0 7) v2 0 → hV (tWf [] [] (c_FA μ0)) μ0 mX4_spread d K 2 [(0, 2, v0), (1, 2, v1), (2, 0, w32 (v2 + 1))] [] μ13))))))))) :
    hV (tWf [] [] (c_FA μ0)) μ0 mX4_spread d K 2 [(0, 2, v0), (1, 2, v1), (2, 0, v2)] [] μ := by
  refine g_iload_n (q := 2) dX4_spread_2 rfl rfl ?_
  refine g_bipush dX4_spread_3 ⟨by decide, by decide, rfl⟩ ?_
  refine g_icmp_ge (tgt := 33) dX4_spread_5 (by decide) (fun c1 => ?_) (fun c2 => ?_)
  · have h := h.1 c1
    refine g_iconst dX4_spread_33 (by decide) ?_
    refine g_istore_n (L' := [(0, 2, v0), (1, 2, v1), (2, 0, 0)]) dX4_spread_34 rfl (by decide) [1, 2, 0] rfl ?_
    exact g_less [0, 2] rfl h
  · have h := h.2 c2
    refine g_aload_n (q := 0) dX4_spread_8 rfl rfl ?_
    obtain ⟨c3, h⟩ := h
    refine g_getC (x := tm_v μ0 v0 7) 2 dX4_spread_9 fX4_27 rfl c3.1.1 (hs.k ▸ c3.1.2) (hs.v (tWf_ob rfl hf c3 (by decide))) ?_
    refine g_iload_n (q := 2) dX4_spread_12 rfl rfl ?_
    refine g_iload_n (q := 2) dX4_spread_13 rfl rfl ?_
    refine g_aload_n (q := 1) dX4_spread_14 rfl rfl ?_
    obtain ⟨c4, h⟩ := h
    refine g_getC (x := tm_v μ0 v1 1) 0 dX4_spread_15 fX4_38 rfl c4.1.1 (hs.k ▸ c4.1.2) (hs.v (tWf_ob rfl hf c4 (by decide))) ?_
    refine g_icmp_ne (tgt := 25) dX4_spread_18 (by decide) (fun c5 => ?_) (fun c6 => ?_)
    · have h := h.1 c5
      refine g_iconst dX4_spread_25 (by decide) ?_
      obtain ⟨c7, h⟩ := h
      obtain ⟨c8, h⟩ := h
      obtain ⟨c10, h⟩ := h
      refine g_iastore dX4_spread_26 c7.1.1 (hs.k ▸ c7.1.2) c8.1 (hs.n ▸ c8.2) (p_w hs (dyA_fr c7.2) (Or.inr c10) fun μ9 eμ9 hs => ?_)
      have h := h μ9 eμ9
      refine g_iinc (q := 2) dX4_spread_27 (by decide) rfl [1, 2, 0] rfl ?_
      refine g_goto (tgt := 2) dX4_spread_30 (by decide) ?_
      exact h
    · have h := h.2 c6
      refine g_iconst dX4_spread_21 (by decide) ?_
      refine g_goto (tgt := 26) dX4_spread_22 (by decide) ?_
      obtain ⟨c11, h⟩ := h
      obtain ⟨c12, h⟩ := h
      obtain ⟨c14, h⟩ := h
      refine g_iastore dX4_spread_26 c11.1.1 (hs.k ▸ c11.1.2) c12.1 (hs.n ▸ c12.2) (p_w hs (dyA_fr c11.2) (Or.inr c14) fun μ13 eμ13 hs => ?_)
      have h := h μ13 eμ13
      refine g_iinc (q := 2) dX4_spread_27 (by decide) rfl [1, 2, 0] rfl ?_
      refine g_goto (tgt := 2) dX4_spread_30 (by decide) ?_
      exact h
theorem uX4_spread_35 {d : Nat} {μ0 μ : tm_M} {K : tm_M → Prop} {v0 v2 : Int} (hf : dyA (c_FA μ0) ∧ tm_k μ0 (c_FA μ0) = 20) (hs : tFr (tWf [] [] (c_FA μ0)) μ0 μ)
    (h : (ob μ0 v0 4) ∧ ((tm_v μ0 v0 2 ≤ v2 → K μ) ∧ (v2 < tm_v μ0 v0 2 → hV (tWf [] [] (c_FA μ0)) μ0 mX4_spread d K 45 [(0, 2, v0), (2, 0, v2), (3, 0, 0)] [] μ))) :
    hV (tWf [] [] (c_FA μ0)) μ0 mX4_spread d K 35 [(0, 2, v0), (2, 0, v2)] [] μ := by
  refine g_iload_n (q := 1) dX4_spread_35 rfl rfl ?_
  refine g_aload_n (q := 0) dX4_spread_36 rfl rfl ?_
  obtain ⟨c1, h⟩ := h
  refine g_getC (x := tm_v μ0 v0 2) 0 dX4_spread_37 fX4_31 rfl c1.1.1 (hs.k ▸ c1.1.2) (hs.v (tWf_ob rfl hf c1 (by decide))) ?_
  refine g_icmp_ge (tgt := 135) dX4_spread_40 (by decide) (fun c2 => ?_) (fun c3 => ?_)
  · have h := h.1 c2
    exact g_vret dX4_spread_135 rfl (Nat.le_refl _) (Nat.le_refl _) ⟨rfl, hs, h⟩
  · have h := h.2 c3
    refine g_iconst dX4_spread_43 (by decide) ?_
    refine g_istore_n (L' := [(0, 2, v0), (2, 0, v2), (3, 0, 0)]) dX4_spread_44 rfl (by decide) [1, 2, 0] rfl ?_
    exact h
theorem uX4_spread_45 {d : Nat} {μ0 μ : tm_M} {K : tm_M → Prop} {v0 v2 v3 : Int} (hf : dyA (c_FA μ0) ∧ tm_k μ0 (c_FA μ0) = 20) (hs : tFr (tWf [] [] (c_FA μ0)) μ0 μ)
    (h : (ob μ0 v0 4) ∧ ((tm_v μ0 v0 2 ≤ v3 → hV (tWf [] [] (c_FA μ0)) μ0 mX4_spread d K 35 [(0, 2, v0), (2, 0, w32 (v2 + 1))] [] μ) ∧ (v3 < tm_v μ0 v0 2 → hV (tWf [] [] (c_FA μ0)) μ0 mX4_spread d K 56 [(0, 2, v0), (2, 0, v2), (3, 0, v3), (4, 0, 1)] [] μ))) :
    hV (tWf [] [] (c_FA μ0)) μ0 mX4_spread d K 45 [(0, 2, v0), (2, 0, v2), (3, 0, v3)] [] μ := by
  refine g_iload_n (q := 2) dX4_spread_45 rfl rfl ?_
  refine g_aload_n (q := 0) dX4_spread_46 rfl rfl ?_
  obtain ⟨c1, h⟩ := h
  refine g_getC (x := tm_v μ0 v0 2) 0 dX4_spread_47 fX4_31 rfl c1.1.1 (hs.k ▸ c1.1.2) (hs.v (tWf_ob rfl hf c1 (by decide))) ?_
  refine g_icmp_ge (tgt := 129) dX4_spread_50 (by decide) (fun c2 => ?_) (fun c3 => ?_)
  · have h := h.1 c2
    refine g_iinc (q := 1) dX4_spread_129 (by decide) rfl [1, 0, 2] rfl ?_
    refine g_goto (tgt := 35) dX4_spread_132 (by decide) ?_
    exact g_less [0, 1] rfl h
  · have h := h.2 c3
    refine g_iconst dX4_spread_53 (by decide) ?_
    refine g_istore (L' := [(0, 2, v0), (2, 0, v2), (3, 0, v3), (4, 0, 1)]) dX4_spread_54 (by decide) [1, 2, 3, 0] rfl ?_
    exact h
theorem uX4_spread_56 {d : Nat} {μ0 μ : tm_M} {K : tm_M → Prop} {ν : tm_M} {v0 v2 v3 v4 : Int} (hd : 2 ≤ d) (hf : dyA (c_FA μ0) ∧ tm_k μ0 (c_FA μ0) = 20) (hs : tFr (tWf [] [] (c_FA μ0)) μ0 μ)
    (h : (ob μ0 v0 4) ∧ ((ob μ0 (tm_v μ0 v0 0) 26) ∧ ((0 ≤ v3 ∧ v3 < tm_n μ0 (tm_v μ0 v0 0)) ∧ ((ob μ0 (tm_v μ0 (tm_v μ0 v0 0) v3) 7) ∧ ((tm_v μ0 (tm_v μ0 (tm_v μ0 v0 0) v3) 5 < v4 → hV (tWf [] [] (c_FA μ0)) μ0 mX4_spread d K 45 [(0, 2, v0), (2, 0, v2), (3, 0, w32 (v3 + 1))] [] μ) ∧ (v4 ≤ tm_v μ0 (tm_v μ0 (tm_v μ0 v0 0) v3) 5 → (ob μ0 (tm_v μ0 v0 7) 20) ∧ ((0 ≤ v3 ∧ v3 < tm_n μ0 (tm_v μ0 v0 7)) ∧ ((tm_v μ (tm_v μ0 v0 7) v3 ≠ v2 → hV (tWf [] [] (c_FA μ0)) μ0 mX4_spread d K 45 [(0, 2, v0), (2, 0, v2), (3, 0, w32 (v3 + 1))] [] μ) ∧ (tm_v μ (tm_v μ0 v0 7) v3 = v2 → (JU μ0 ν ∧ isP μ0 ν (tm_v μ0 (tm_v μ0 v0 0) v3)) ∧ ((ob μ0 (c_P μ0 (y_go ν (tm_v μ0 (tm_v μ0 (tm_v μ0 v0 0) v3) 1) v4)) 7) ∧ ((∀ x13, x13 = tm_v μ0 (c_P μ0 (y_go ν (tm_v μ0 (tm_v μ0 (tm_v μ0 v0 0) v3) 1) v4)) 1 → (0 ≤ x13 ∧ x13 < tm_n μ0 (tm_v μ0 v0 7)) ∧ ((tm_v μ (tm_v μ0 v0 7) x13 ≠ -1 → hV (tWf [] [] (c_FA μ0)) μ0 mX4_spread d K 56 [(0, 2, v0), (2, 0, v2), (3, 0, v3), (4, 0, w32 (v4 + 1))] [] μ) ∧ (tm_v μ (tm_v μ0 v0 7) x13 = -1 → (tm_v μ0 v0 7 = c_FA μ0) ∧ ((∀ μ17, μ17 = tm_w μ (tm_v μ0 v0 7) x13 (w32 (v2 + 1)) → hV (tWf [] [] (c_FA μ0)) μ0 mX4_spread d K 56 [(0, 2, v0), (2, 0, v2), (3, 0, v3), (4, 0, w32 (v4 + 1))] [] μ17)))))))))))))))) :
    hV (tWf [] [] (c_FA μ0)) μ0 mX4_spread d K 56 [(0, 2, v0), (2, 0, v2), (3, 0, v3), (4, 0, v4)] [] μ := by
  refine g_iload (q := 3) dX4_spread_56 rfl ?_
  refine g_aload_n (q := 0) dX4_spread_58 rfl rfl ?_
  obtain ⟨c1, h⟩ := h
  refine g_getC (x := tm_v μ0 v0 0) 2 dX4_spread_59 fX4_11 rfl c1.1.1 (hs.k ▸ c1.1.2) (hs.v (tWf_ob rfl hf c1 (by decide))) ?_
  refine g_iload_n (q := 2) dX4_spread_62 rfl rfl ?_
  obtain ⟨c2, h⟩ := h
  obtain ⟨c3, h⟩ := h
  refine g_aaloadC (x := tm_v μ0 (tm_v μ0 v0 0) v3) dX4_spread_63 c2.1.1 (hs.k ▸ c2.1.2) (by decide) c3.1 (hs.n ▸ c3.2) (hs.v (tWf_ob rfl hf c2 (by decide))) ?_
  obtain ⟨c4, h⟩ := h
  refine g_getC (x := tm_v μ0 (tm_v μ0 (tm_v μ0 v0 0) v3) 5) 0 dX4_spread_64 fX4_41 rfl c4.1.1 (hs.k ▸ c4.1.2) (hs.v (tWf_ob rfl hf c4 (by decide))) ?_
  refine g_icmp_gt (tgt := 123) dX4_spread_67 (by decide) (fun c5 => ?_) (fun c6 => ?_)
  · have h := h.1 c5
    refine g_iinc (q := 2) dX4_spread_123 (by decide) rfl [1, 2, 0, 3] rfl ?_
    refine g_goto (tgt := 45) dX4_spread_126 (by decide) ?_
    exact g_less [0, 1, 2] rfl h
  · have h := h.2 c6
    refine g_aload_n (q := 0) dX4_spread_70 rfl rfl ?_
    refine g_getC (x := tm_v μ0 v0 7) 2 dX4_spread_71 fX4_27 rfl c1.1.1 (hs.k ▸ c1.1.2) (hs.v (tWf_ob rfl hf c1 (by decide))) ?_
    refine g_iload_n (q := 2) dX4_spread_74 rfl rfl ?_
    obtain ⟨c7, h⟩ := h
    obtain ⟨c8, h⟩ := h
    refine g_iaload dX4_spread_75 c7.1.1 (hs.k ▸ c7.1.2) c8.1 (hs.n ▸ c8.2) ?_
    refine g_iload_n (q := 1) dX4_spread_76 rfl rfl ?_
    refine g_icmp_ne (tgt := 123) dX4_spread_77 (by decide) (fun c9 => ?_) (fun c10 => ?_)
    · have h := h.1 c9
      refine g_iinc (q := 2) dX4_spread_123 (by decide) rfl [1, 2, 0, 3] rfl ?_
      refine g_goto (tgt := 45) dX4_spread_126 (by decide) ?_
      exact g_less [0, 1, 2] rfl h
    · have h := h.2 c10
      refine g_aload_n (q := 0) dX4_spread_80 rfl rfl ?_
      refine g_getC (x := tm_v μ0 v0 0) 2 dX4_spread_81 fX4_11 rfl c1.1.1 (hs.k ▸ c1.1.2) (hs.v (tWf_ob rfl hf c1 (by decide))) ?_
      refine g_iload_n (q := 2) dX4_spread_84 rfl rfl ?_
      refine g_aaloadC (x := tm_v μ0 (tm_v μ0 v0 0) v3) dX4_spread_85 c2.1.1 (hs.k ▸ c2.1.2) (by decide) c3.1 (hs.n ▸ c3.2) (hs.v (tWf_ob rfl hf c2 (by decide))) ?_
      refine g_iload (q := 3) dX4_spread_86 rfl ?_
      obtain ⟨c11, h⟩ := h
      refine g_callV1 dX4_spread_88 kX7_by q897 q898 q899 (ci := 7) rfl (by decide) rfl (by omega) c4.1.1 (hs.k ▸ c4.1.2) (Nat.le_of_ble_eq_true rfl) (Nat.le_refl _) (Nat.le_refl _) (t_pR hs (pX7_by (by omega) hs (tWf_TC hf.1 ⟨rfl, rfl⟩) c11) ?_)
      obtain ⟨c12, h⟩ := h
      refine g_getC (x := tm_v μ0 (c_P μ0 (y_go ν (tm_v μ0 (tm_v μ0 (tm_v μ0 v0 0) v3) 1) v4)) 1) 0 dX4_spread_91 fX4_38 rfl c12.1.1 (hs.k ▸ c12.1.2) (hs.v (tWf_ob rfl hf c12 (by decide))) ?_
      refine g_istoreN (fun z => [(0, 2, v0), (2, 0, v2), (3, 0, v3), (4, 0, v4), (5, 0, z)]) dX4_spread_94 (by decide) [1, 2, 3, 4, 0] (fun _ => rfl) (fun x13 ex13 => ?_)
      have h := h x13 ex13
      refine g_aload_n (q := 0) dX4_spread_96 rfl rfl ?_
      refine g_getC (x := tm_v μ0 v0 7) 2 dX4_spread_97 fX4_27 rfl c1.1.1 (hs.k ▸ c1.1.2) (hs.v (tWf_ob rfl hf c1 (by decide))) ?_
      refine g_iload (q := 4) dX4_spread_100 rfl ?_
      obtain ⟨c14, h⟩ := h
      refine g_iaload dX4_spread_102 c7.1.1 (hs.k ▸ c7.1.2) c14.1 (hs.n ▸ c14.2) ?_
      refine g_iconst dX4_spread_103 (by decide) ?_
      refine g_icmp_ne (tgt := 117) dX4_spread_104 (by decide) (fun c15 => ?_) (fun c16 => ?_)
      · have h := h.1 c15
        refine g_iinc (q := 3) dX4_spread_117 (by decide) rfl [1, 2, 3, 0, 4] rfl ?_
        refine g_goto (tgt := 56) dX4_spread_120 (by decide) ?_
        exact g_less [0, 1, 2, 3] rfl h
      · have h := h.2 c16
        refine g_aload_n (q := 0) dX4_spread_107 rfl rfl ?_
        refine g_getC (x := tm_v μ0 v0 7) 2 dX4_spread_108 fX4_27 rfl c1.1.1 (hs.k ▸ c1.1.2) (hs.v (tWf_ob rfl hf c1 (by decide))) ?_
        refine g_iload (q := 4) dX4_spread_111 rfl ?_
        refine g_iload_n (q := 1) dX4_spread_113 rfl rfl ?_
        refine g_iconst dX4_spread_114 (by decide) ?_
        refine g_iadd dX4_spread_115 ?_
        obtain ⟨c18, h⟩ := h
        refine g_iastore dX4_spread_116 c7.1.1 (hs.k ▸ c7.1.2) c14.1 (hs.n ▸ c14.2) (p_w hs (dyA_fr c7.2) (Or.inr c18) fun μ17 eμ17 hs => ?_)
        have h := h μ17 eμ17
        refine g_iinc (q := 3) dX4_spread_117 (by decide) rfl [1, 2, 3, 0, 4] rfl ?_
        refine g_goto (tgt := 56) dX4_spread_120 (by decide) ?_
        exact g_less [0, 1, 2, 3] rfl h
theorem uX0_meets_0 {d : Nat} {μ0 μ : tm_M} {K : Int → tm_M → Prop} {v1 v2 : Int} (hs : tFr (tWs [] []) μ0 μ)
    (h : (tm_v μ0 7 1 = tm_v μ0 8 1 → K 1 μ) ∧ (tm_v μ0 7 1 ≠ tm_v μ0 8 1 → (ob μ0 (tm_v μ0 1 8) 4) ∧ ((tm_v μ0 (tm_v μ0 1 8) 6 = 0 → K 0 μ) ∧ (tm_v μ0 (tm_v μ0 1 8) 6 ≠ 0 → (tm_v μ0 7 1 ≠ v2 → K 0 μ) ∧ (tm_v μ0 7 1 = v2 → (tm_v μ0 8 1 ≠ v1 → K 0 μ) ∧ (tm_v μ0 8 1 = v1 → K 1 μ)))))) :
    hI (tWs [] []) μ0 mX0_meets d K 0 [(0, 2, 1), (1, 2, v1), (2, 2, v2)] [] μ := by
  refine g_aload_n (q := 0) dX0_meets_0 rfl rfl ?_
  refine g_getC (x := 7) 2 dX0_meets_1 fX0_40 rfl (by decide) (sk_1 hs.S) (sv_1_4 hs.S) ?_
  refine g_getC (x := tm_v μ0 7 1) 2 dX0_meets_4 fX0_311 rfl (by decide) (sk_7 hs.S) (hs.v (tWs_noF rfl)) ?_
  refine g_aload_n (q := 0) dX0_meets_7 rfl rfl ?_
  refine g_getC (x := 8) 2 dX0_meets_8 fX0_44 rfl (by decide) (sk_1 hs.S) (sv_1_5 hs.S) ?_
  refine g_getC (x := tm_v μ0 8 1) 2 dX0_meets_11 fX0_311 rfl (by decide) (sk_8 hs.S) (hs.v (tWs_noF rfl)) ?_
  refine g_acmp_eq (tgt := 49) dX0_meets_14 (by decide) (fun c1 => ?_) (fun c2 => ?_)
  · have h := h.1 c1
    refine g_iconst dX0_meets_49 (by decide) ?_
    refine g_goto (tgt := 54) dX0_meets_50 (by decide) ?_
    exact g_zret dX0_meets_54 rfl (by decide) (Nat.le_refl _) (Nat.le_refl _) ⟨_, rfl, hs, h⟩
  · have h := h.2 c2
    refine g_aload_n (q := 0) dX0_meets_17 rfl rfl ?_
    refine g_getC (x := tm_v μ0 1 8) 2 dX0_meets_18 fX0_57 rfl (by decide) (sk_1 hs.S) (hs.v (tWs_noF rfl)) ?_
    obtain ⟨c3, h⟩ := h
    refine g_getC (x := tm_v μ0 (tm_v μ0 1 8) 6) 0 dX0_meets_21 fX0_314 rfl c3.1.1 (hs.k ▸ c3.1.2) (hs.v (tWs_ob rfl c3)) ?_
    refine g_if_eq (tgt := 53) dX0_meets_24 (by decide) (fun c4 => ?_) (fun c5 => ?_)
    · have h := h.1 c4
      refine g_iconst dX0_meets_53 (by decide) ?_
      exact g_zret dX0_meets_54 rfl (by decide) (Nat.le_refl _) (Nat.le_refl _) ⟨_, rfl, hs, h⟩
    · have h := h.2 c5
      refine g_aload_n (q := 0) dX0_meets_27 rfl rfl ?_
      refine g_getC (x := 7) 2 dX0_meets_28 fX0_40 rfl (by decide) (sk_1 hs.S) (sv_1_4 hs.S) ?_
      refine g_getC (x := tm_v μ0 7 1) 2 dX0_meets_31 fX0_311 rfl (by decide) (sk_7 hs.S) (hs.v (tWs_noF rfl)) ?_
      refine g_aload_n (q := 2) dX0_meets_34 rfl rfl ?_
      refine g_acmp_ne (tgt := 53) dX0_meets_35 (by decide) (fun c6 => ?_) (fun c7 => ?_)
      · have h := h.1 c6
        refine g_iconst dX0_meets_53 (by decide) ?_
        exact g_zret dX0_meets_54 rfl (by decide) (Nat.le_refl _) (Nat.le_refl _) ⟨_, rfl, hs, h⟩
      · have h := h.2 c7
        refine g_aload_n (q := 0) dX0_meets_38 rfl rfl ?_
        refine g_getC (x := 8) 2 dX0_meets_39 fX0_44 rfl (by decide) (sk_1 hs.S) (sv_1_5 hs.S) ?_
        refine g_getC (x := tm_v μ0 8 1) 2 dX0_meets_42 fX0_311 rfl (by decide) (sk_8 hs.S) (hs.v (tWs_noF rfl)) ?_
        refine g_aload_n (q := 1) dX0_meets_45 rfl rfl ?_
        refine g_acmp_ne (tgt := 53) dX0_meets_46 (by decide) (fun c8 => ?_) (fun c9 => ?_)
        · have h := h.1 c8
          refine g_iconst dX0_meets_53 (by decide) ?_
          exact g_zret dX0_meets_54 rfl (by decide) (Nat.le_refl _) (Nat.le_refl _) ⟨_, rfl, hs, h⟩
        · have h := h.2 c9
          refine g_iconst dX0_meets_49 (by decide) ?_
          refine g_goto (tgt := 54) dX0_meets_50 (by decide) ?_
          exact g_zret dX0_meets_54 rfl (by decide) (Nat.le_refl _) (Nat.le_refl _) ⟨_, rfl, hs, h⟩
theorem uX0_nearer_0 {d : Nat} {μ0 μ : tm_M} {K : Int → tm_M → Prop} {v1 : Int} (hs : tFr (tWs [] []) μ0 μ)
    (h : hRe (tWs [] []) μ0 mX0_nearer d K 2 [(0, 2, 1), (1, 2, v1), (2, 0, 1)] [] μ) :
    hRe (tWs [] []) μ0 mX0_nearer d K 0 [(0, 2, 1), (1, 2, v1)] [] μ := by
  refine g_iconst dX0_nearer_0 (by decide) ?_
  refine g_istore_n (L' := [(0, 2, 1), (1, 2, v1), (2, 0, 1)]) dX0_nearer_1 rfl (by decide) [1, 2, 0] rfl ?_
  exact h
theorem uX0_nearer_2 {d : Nat} {μ0 μ : tm_M} {K : Int → tm_M → Prop} {ν : tm_M} {v1 v2 : Int} (hd : 2 ≤ d) (hs : tFr (tWs [] []) μ0 μ)
    (h : (ob μ0 v1 7) ∧ ((tm_v μ0 v1 5 < v2 → K v1 μ) ∧ (v2 ≤ tm_v μ0 v1 5 → (JU μ0 ν ∧ isP μ0 ν v1) ∧ ((ob μ0 (c_P μ0 (y_go ν (tm_v μ0 v1 1) v2)) 7) ∧ ((∀ x6, x6 = tm_v μ0 (c_P μ0 (y_go ν (tm_v μ0 v1 1) v2)) 1 → (ob μ0 (tm_v μ0 1 8) 4) ∧ ((ob μ0 (tm_v μ0 (tm_v μ0 1 8) 7) 20) ∧ ((0 ≤ x6 ∧ x6 < tm_n μ0 (tm_v μ0 (tm_v μ0 1 8) 7)) ∧ ((tm_v μ0 (tm_v μ0 (tm_v μ0 1 8) 7) x6 = -1 → hRe (tWs [] []) μ0 mX0_nearer d K 2 [(0, 2, 1), (1, 2, v1), (2, 0, w32 (v2 + 1))] [] μ) ∧ (tm_v μ0 (tm_v μ0 (tm_v μ0 1 8) 7) x6 ≠ -1 → (0 ≤ tm_v μ0 v1 1 ∧ tm_v μ0 v1 1 < tm_n μ0 (tm_v μ0 (tm_v μ0 1 8) 7)) ∧ ((tm_v μ0 (tm_v μ0 (tm_v μ0 1 8) 7) (tm_v μ0 v1 1) ≤ tm_v μ0 (tm_v μ0 (tm_v μ0 1 8) 7) x6 → hRe (tWs [] []) μ0 mX0_nearer d K 2 [(0, 2, 1), (1, 2, v1), (2, 0, w32 (v2 + 1))] [] μ) ∧ (tm_v μ0 (tm_v μ0 (tm_v μ0 1 8) 7) x6 < tm_v μ0 (tm_v μ0 (tm_v μ0 1 8) 7) (tm_v μ0 v1 1) → K (c_P μ0 (y_go ν (tm_v μ0 v1 1) v2)) μ)))))))))))) :
    hRe (tWs [] []) μ0 mX0_nearer d K 2 [(0, 2, 1), (1, 2, v1), (2, 0, v2)] [] μ := by
  refine g_iload_n (q := 2) dX0_nearer_2 rfl rfl ?_
  refine g_aload_n (q := 1) dX0_nearer_3 rfl rfl ?_
  obtain ⟨c1, h⟩ := h
  refine g_getC (x := tm_v μ0 v1 5) 0 dX0_nearer_4 fX0_249 rfl c1.1.1 (hs.k ▸ c1.1.2) (hs.v (tWs_ob rfl c1)) ?_
  refine g_icmp_gt (tgt := 68) dX0_nearer_7 (by decide) (fun c2 => ?_) (fun c3 => ?_)
  · have h := h.1 c2
    refine g_aload_n (q := 1) dX0_nearer_68 rfl rfl ?_
    exact g_aret dX0_nearer_69 rfl rfl (Nat.le_refl _) (Nat.le_refl _) ⟨_, rfl, hs, h⟩
  · have h := h.2 c3
    refine g_aload_n (q := 1) dX0_nearer_10 rfl rfl ?_
    refine g_iload_n (q := 2) dX0_nearer_11 rfl rfl ?_
    obtain ⟨c4, h⟩ := h
    refine g_callV1 dX0_nearer_12 kX7_by q985 q898 q899 (ci := 7) rfl (by decide) rfl (by omega) c1.1.1 (hs.k ▸ c1.1.2) (Nat.le_of_ble_eq_true rfl) (Nat.le_refl _) (Nat.le_refl _) (t_pR hs (pX7_by (by omega) hs (tWs_TC ⟨rfl, rfl⟩) c4) ?_)
    obtain ⟨c5, h⟩ := h
    refine g_getC (x := tm_v μ0 (c_P μ0 (y_go ν (tm_v μ0 v1 1) v2)) 1) 0 dX0_nearer_15 fX0_260 rfl c5.1.1 (hs.k ▸ c5.1.2) (hs.v (tWs_ob rfl c5)) ?_
    refine g_istore_nN (fun z => [(0, 2, 1), (1, 2, v1), (2, 0, v2), (3, 0, z)]) dX0_nearer_18 rfl (by decide) [1, 2, 3, 0] (fun _ => rfl) (fun x6 ex6 => ?_)
    have h := h x6 ex6
    refine g_aload_n (q := 0) dX0_nearer_19 rfl rfl ?_
    refine g_getC (x := tm_v μ0 1 8) 2 dX0_nearer_20 fX0_57 rfl (by decide) (sk_1 hs.S) (hs.v (tWs_noF rfl)) ?_
    obtain ⟨c7, h⟩ := h
    refine g_getC (x := tm_v μ0 (tm_v μ0 1 8) 7) 2 dX0_nearer_23 fX0_274 rfl c7.1.1 (hs.k ▸ c7.1.2) (hs.v (tWs_ob rfl c7)) ?_
    refine g_iload_n (q := 3) dX0_nearer_26 rfl rfl ?_
    obtain ⟨c8, h⟩ := h
    obtain ⟨c9, h⟩ := h
    refine g_ialoadC (x := tm_v μ0 (tm_v μ0 (tm_v μ0 1 8) 7) x6) dX0_nearer_27 c8.1.1 (hs.k ▸ c8.1.2) c9.1 (hs.n ▸ c9.2) (hs.v (tWs_ob rfl c8)) ?_
    refine g_iconst dX0_nearer_28 (by decide) ?_
    refine g_icmp_eq (tgt := 62) dX0_nearer_29 (by decide) (fun c10 => ?_) (fun c11 => ?_)
    · have h := h.1 c10
      refine g_iinc (q := 2) dX0_nearer_62 (by decide) rfl [1, 2, 0, 3] rfl ?_
      refine g_goto (tgt := 2) dX0_nearer_65 (by decide) ?_
      exact g_less [0, 1, 2] rfl h
    · have h := h.2 c11
      refine g_aload_n (q := 0) dX0_nearer_32 rfl rfl ?_
      refine g_getC (x := tm_v μ0 1 8) 2 dX0_nearer_33 fX0_57 rfl (by decide) (sk_1 hs.S) (hs.v (tWs_noF rfl)) ?_
      refine g_getC (x := tm_v μ0 (tm_v μ0 1 8) 7) 2 dX0_nearer_36 fX0_274 rfl c7.1.1 (hs.k ▸ c7.1.2) (hs.v (tWs_ob rfl c7)) ?_
      refine g_iload_n (q := 3) dX0_nearer_39 rfl rfl ?_
      refine g_ialoadC (x := tm_v μ0 (tm_v μ0 (tm_v μ0 1 8) 7) x6) dX0_nearer_40 c8.1.1 (hs.k ▸ c8.1.2) c9.1 (hs.n ▸ c9.2) (hs.v (tWs_ob rfl c8)) ?_
      refine g_aload_n (q := 0) dX0_nearer_41 rfl rfl ?_
      refine g_getC (x := tm_v μ0 1 8) 2 dX0_nearer_42 fX0_57 rfl (by decide) (sk_1 hs.S) (hs.v (tWs_noF rfl)) ?_
      refine g_getC (x := tm_v μ0 (tm_v μ0 1 8) 7) 2 dX0_nearer_45 fX0_274 rfl c7.1.1 (hs.k ▸ c7.1.2) (hs.v (tWs_ob rfl c7)) ?_
      refine g_aload_n (q := 1) dX0_nearer_48 rfl rfl ?_
      refine g_getC (x := tm_v μ0 v1 1) 0 dX0_nearer_49 fX0_260 rfl c1.1.1 (hs.k ▸ c1.1.2) (hs.v (tWs_ob rfl c1)) ?_
      obtain ⟨c12, h⟩ := h
      refine g_ialoadC (x := tm_v μ0 (tm_v μ0 (tm_v μ0 1 8) 7) (tm_v μ0 v1 1)) dX0_nearer_52 c8.1.1 (hs.k ▸ c8.1.2) c12.1 (hs.n ▸ c12.2) (hs.v (tWs_ob rfl c8)) ?_
      refine g_icmp_ge (tgt := 62) dX0_nearer_53 (by decide) (fun c13 => ?_) (fun c14 => ?_)
      · have h := h.1 c13
        refine g_iinc (q := 2) dX0_nearer_62 (by decide) rfl [1, 2, 0, 3] rfl ?_
        refine g_goto (tgt := 2) dX0_nearer_65 (by decide) ?_
        exact g_less [0, 1, 2] rfl h
      · have h := h.2 c14
        refine g_aload_n (q := 1) dX0_nearer_56 rfl rfl ?_
        refine g_iload_n (q := 2) dX0_nearer_57 rfl rfl ?_
        refine g_callV1 dX0_nearer_58 kX7_by q985 q898 q899 (ci := 7) rfl (by decide) rfl (by omega) c1.1.1 (hs.k ▸ c1.1.2) (Nat.le_of_ble_eq_true rfl) (Nat.le_refl _) (Nat.le_refl _) (t_pR hs (pX7_by (by omega) hs (tWs_TC ⟨rfl, rfl⟩) c4) ?_)
        exact g_aret dX0_nearer_61 rfl rfl (Nat.le_refl _) (Nat.le_refl _) ⟨_, rfl, hs, h⟩
