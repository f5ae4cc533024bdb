theorem uX8_other_0 {d : Nat} {μ0 μ : tm_M} {K : Int → tm_M → Prop} {v0 v1 : Int} (hs : tFr (tWs [] []) μ0 μ)
    (h : (ob μ0 v0 8) ∧ ((v1 ≠ tm_v μ0 v0 0 → K (tm_v μ0 v0 0) μ) ∧ (v1 = tm_v μ0 v0 0 → K (tm_v μ0 v0 1) μ))) :
    hRe (tWs [] []) μ0 mX8_other d K 0 [(0, 2, v0), (1, 2, v1)] [] μ := by
  refine g_aload_n (q := 1) dX8_other_0 rfl rfl ?_
  refine g_aload_n (q := 0) dX8_other_1 rfl rfl ?_
  obtain ⟨c1, h⟩ := h
  refine g_getC (x := tm_v μ0 v0 0) 2 dX8_other_2 fX8_7 rfl c1.1.1 (hs.k ▸ c1.1.2) (hs.v (tWs_ob rfl c1)) ?_
  refine g_acmp_ne (tgt := 15) dX8_other_5 (by decide) (fun c2 => ?_) (fun c3 => ?_)
  · have h := h.1 c2
    refine g_aload_n (q := 0) dX8_other_15 rfl rfl ?_
    refine g_getC (x := tm_v μ0 v0 0) 2 dX8_other_16 fX8_7 rfl c1.1.1 (hs.k ▸ c1.1.2) (hs.v (tWs_ob rfl c1)) ?_
    exact g_aret dX8_other_19 rfl rfl (Nat.le_refl _) (Nat.le_refl _) ⟨_, rfl, hs, h⟩
  · have h := h.2 c3
    refine g_aload_n (q := 0) dX8_other_8 rfl rfl ?_
    refine g_getC (x := tm_v μ0 v0 1) 2 dX8_other_9 fX8_13 rfl c1.1.1 (hs.k ▸ c1.1.2) (hs.v (tWs_ob rfl c1)) ?_
    refine g_goto (tgt := 19) dX8_other_12 (by decide) ?_
    exact g_aret dX8_other_19 rfl rfl (Nat.le_refl _) (Nat.le_refl _) ⟨_, rfl, hs, h⟩
theorem uX0_status_0 {d : Nat} {μ0 μ : tm_M} {K : Int → tm_M → Prop} (hs : tFr (tWs [] []) μ0 μ)
    (h : K (tm_v μ0 1 10) μ) :
    hI (tWs [] []) μ0 mX0_status d K 0 [(0, 2, 1)] [] μ := by
  refine g_aload_n (q := 0) dX0_status_0 rfl rfl ?_
  refine g_getC (x := tm_v μ0 1 10) 0 dX0_status_1 fX0_149 rfl (by decide) (sk_1 hs.S) (hs.v (tWs_noF rfl)) ?_
  exact g_iret dX0_status_4 rfl (Nat.le_refl _) (Nat.le_refl _) ⟨_, rfl, hs, h⟩
theorem uX0_top_0 {d : Nat} {μ0 μ : tm_M} {K : Int → tm_M → Prop} (hs : tFr (tWs [] []) μ0 μ)
    (h : K (tm_v μ0 1 14) μ) :
    hLo (tWs [] []) μ0 mX0_top d K 0 [(0, 2, 1)] [] μ := by
  refine g_aload_n (q := 0) dX0_top_0 rfl rfl ?_
  refine g_getC (x := tm_v μ0 1 14) 1 dX0_top_1 fX0_152 rfl (by decide) (sk_1 hs.S) (hs.v (tWs_noF rfl)) ?_
  exact g_lret dX0_top_4 rfl (Nat.le_refl _) (Nat.le_refl _) ⟨_, rfl, hs, h⟩
theorem uX0_bottom_0 {d : Nat} {μ0 μ : tm_M} {K : Int → tm_M → Prop} (hs : tFr (tWs [] []) μ0 μ)
    (h : K (tm_v μ0 1 15) μ) :
    hLo (tWs [] []) μ0 mX0_bottom d K 0 [(0, 2, 1)] [] μ := by
  refine g_aload_n (q := 0) dX0_bottom_0 rfl rfl ?_
  refine g_getC (x := tm_v μ0 1 15) 1 dX0_bottom_1 fX0_68 rfl (by decide) (sk_1 hs.S) (hs.v (tWs_noF rfl)) ?_
  exact g_lret dX0_bottom_4 rfl (Nat.le_refl _) (Nat.le_refl _) ⟨_, rfl, hs, h⟩
theorem uX0_fault_0 {d : Nat} {μ0 μ : tm_M} {K : Int → tm_M → Prop} {v1 : Int} (hs : tFr (tWs [] []) μ0 μ)
    (h : (v1 ≠ 0 → (v1 ≠ 1 → K (-1) μ) ∧ (v1 = 1 → K (tm_v μ0 1 12) μ)) ∧ (v1 = 0 → K (tm_v μ0 1 11) μ)) :
    hI (tWs [] []) μ0 mX0_fault d K 0 [(0, 2, 1), (1, 0, v1)] [] μ := by
  refine g_iload_n (q := 1) dX0_fault_0 rfl rfl ?_
  refine g_if_ne (tgt := 11) dX0_fault_1 (by decide) (fun c1 => ?_) (fun c2 => ?_)
  · have h := h.1 c1
    refine g_iload_n (q := 1) dX0_fault_11 rfl rfl ?_
    refine g_iconst dX0_fault_12 (by decide) ?_
    refine g_icmp_ne (tgt := 23) dX0_fault_13 (by decide) (fun c3 => ?_) (fun c4 => ?_)
    · have h := h.1 c3
      refine g_iconst dX0_fault_23 (by decide) ?_
      exact g_iret dX0_fault_24 rfl (Nat.le_refl _) (Nat.le_refl _) ⟨_, rfl, hs, h⟩
    · have h := h.2 c4
      refine g_aload_n (q := 0) dX0_fault_16 rfl rfl ?_
      refine g_getC (x := tm_v μ0 1 12) 0 dX0_fault_17 fX0_65 rfl (by decide) (sk_1 hs.S) (hs.v (tWs_noF rfl)) ?_
      refine g_goto (tgt := 24) dX0_fault_20 (by decide) ?_
      exact g_iret dX0_fault_24 rfl (Nat.le_refl _) (Nat.le_refl _) ⟨_, rfl, hs, h⟩
  · have h := h.2 c2
    refine g_aload_n (q := 0) dX0_fault_4 rfl rfl ?_
    refine g_getC (x := tm_v μ0 1 11) 0 dX0_fault_5 fX0_61 rfl (by decide) (sk_1 hs.S) (hs.v (tWs_noF rfl)) ?_
    refine g_goto (tgt := 24) dX0_fault_8 (by decide) ?_
    exact g_iret dX0_fault_24 rfl (Nat.le_refl _) (Nat.le_refl _) ⟨_, rfl, hs, h⟩
theorem uX0_isTray_0 {d : Nat} {μ0 μ : tm_M} {K : Int → tm_M → Prop} {v0 : Int} (hs : tFr (tWs [] []) μ0 μ)
    (h : (v0 < 0 → K 0 μ) ∧ (0 ≤ v0 → (4 ≤ v0 → K 0 μ) ∧ (v0 < 4 → K 1 μ))) :
    hI (tWs [] []) μ0 mX0_isTray d K 0 [(0, 0, v0)] [] μ := by
  refine g_iload_n (q := 0) dX0_isTray_0 rfl rfl ?_
  refine g_if_lt (tgt := 13) dX0_isTray_1 (by decide) (fun c1 => ?_) (fun c2 => ?_)
  · have h := h.1 c1
    refine g_iconst dX0_isTray_13 (by decide) ?_
    exact g_zret dX0_isTray_14 rfl (by decide) (Nat.le_refl _) (Nat.le_refl _) ⟨_, rfl, hs, h⟩
  · have h := h.2 c2
    refine g_iload_n (q := 0) dX0_isTray_4 rfl rfl ?_
    refine g_iconst dX0_isTray_5 (by decide) ?_
    refine g_icmp_ge (tgt := 13) dX0_isTray_6 (by decide) (fun c3 => ?_) (fun c4 => ?_)
    · have h := h.1 c3
      refine g_iconst dX0_isTray_13 (by decide) ?_
      exact g_zret dX0_isTray_14 rfl (by decide) (Nat.le_refl _) (Nat.le_refl _) ⟨_, rfl, hs, h⟩
    · have h := h.2 c4
      refine g_iconst dX0_isTray_9 (by decide) ?_
      refine g_goto (tgt := 14) dX0_isTray_10 (by decide) ?_
      exact g_zret dX0_isTray_14 rfl (by decide) (Nat.le_refl _) (Nat.le_refl _) ⟨_, rfl, hs, h⟩
theorem uX0_isFrom_0 {d : Nat} {μ0 μ : tm_M} {K : Int → tm_M → Prop} {v0 v2 v4 : Int} (hs : tFr (tWs [] []) μ0 μ)
    (h : (v0 < v2 → K 0 μ) ∧ (v2 ≤ v0 → (v4 < v0 → K 0 μ) ∧ (v0 ≤ v4 → K 1 μ))) :
    hI (tWs [] []) μ0 mX0_isFrom d K 0 [(0, 1, v0), (2, 1, v2), (4, 1, v4)] [] μ := by
  refine g_lload_n (q := 0) dX0_isFrom_0 rfl rfl ?_
  refine g_lload_n (q := 1) dX0_isFrom_1 rfl rfl ?_
  refine g_lcmp_lt (tgt := 17) dX0_isFrom_2 dX0_isFrom_3 (by decide) (fun c1 => ?_) (fun c2 => ?_)
  · have h := h.1 c1
    refine g_iconst dX0_isFrom_17 (by decide) ?_
    exact g_zret dX0_isFrom_18 rfl (by decide) (Nat.le_refl _) (Nat.le_refl _) ⟨_, rfl, hs, h⟩
  · have h := h.2 c2
    refine g_lload_n (q := 0) dX0_isFrom_6 rfl rfl ?_
    refine g_lload (q := 2) dX0_isFrom_7 rfl ?_
    refine g_lcmp_gt (tgt := 17) dX0_isFrom_9 dX0_isFrom_10 (by decide) (fun c3 => ?_) (fun c4 => ?_)
    · have h := h.1 c3
      refine g_iconst dX0_isFrom_17 (by decide) ?_
      exact g_zret dX0_isFrom_18 rfl (by decide) (Nat.le_refl _) (Nat.le_refl _) ⟨_, rfl, hs, h⟩
    · have h := h.2 c4
      refine g_iconst dX0_isFrom_13 (by decide) ?_
      refine g_goto (tgt := 18) dX0_isFrom_14 (by decide) ?_
      exact g_zret dX0_isFrom_18 rfl (by decide) (Nat.le_refl _) (Nat.le_refl _) ⟨_, rfl, hs, h⟩
theorem uX0_isPlace_0 {d : Nat} {μ0 μ : tm_M} {K : Int → tm_M → Prop} {v1 : Int} (hs : tFr (tWs [] []) μ0 μ)
    (h : (v1 < 0 → K 0 μ) ∧ (0 ≤ v1 → (ob μ0 (tm_v μ0 1 8) 4) ∧ ((tm_v μ0 (tm_v μ0 1 8) 2 ≤ v1 → K 0 μ) ∧ (v1 < tm_v μ0 (tm_v μ0 1 8) 2 → K 1 μ)))) :
    hI (tWs [] []) μ0 mX0_isPlace d K 0 [(0, 2, 1), (1, 0, v1)] [] μ := by
  refine g_iload_n (q := 1) dX0_isPlace_0 rfl rfl ?_
  refine g_if_lt (tgt := 19) dX0_isPlace_1 (by decide) (fun c1 => ?_) (fun c2 => ?_)
  · have h := h.1 c1
    refine g_iconst dX0_isPlace_19 (by decide) ?_
    exact g_zret dX0_isPlace_20 rfl (by decide) (Nat.le_refl _) (Nat.le_refl _) ⟨_, rfl, hs, h⟩
  · have h := h.2 c2
    refine g_iload_n (q := 1) dX0_isPlace_4 rfl rfl ?_
    refine g_aload_n (q := 0) dX0_isPlace_5 rfl rfl ?_
    refine g_getC (x := tm_v μ0 1 8) 2 dX0_isPlace_6 fX0_57 rfl (by decide) (sk_1 hs.S) (hs.v (tWs_noF rfl)) ?_
    obtain ⟨c3, h⟩ := h
    refine g_getC (x := tm_v μ0 (tm_v μ0 1 8) 2) 0 dX0_isPlace_9 fX0_200 rfl c3.1.1 (hs.k ▸ c3.1.2) (hs.v (tWs_ob rfl c3)) ?_
    refine g_icmp_ge (tgt := 19) dX0_isPlace_12 (by decide) (fun c4 => ?_) (fun c5 => ?_)
    · have h := h.1 c4
      refine g_iconst dX0_isPlace_19 (by decide) ?_
      exact g_zret dX0_isPlace_20 rfl (by decide) (Nat.le_refl _) (Nat.le_refl _) ⟨_, rfl, hs, h⟩
    · have h := h.2 c5
      refine g_iconst dX0_isPlace_15 (by decide) ?_
      refine g_goto (tgt := 20) dX0_isPlace_16 (by decide) ?_
      exact g_zret dX0_isPlace_20 rfl (by decide) (Nat.le_refl _) (Nat.le_refl _) ⟨_, rfl, hs, h⟩
theorem uX0_isLane_0 {d : Nat} {μ0 μ : tm_M} {K : Int → tm_M → Prop} {v1 : Int} (hs : tFr (tWs [] []) μ0 μ)
    (h : (v1 < 0 → K 0 μ) ∧ (0 ≤ v1 → (ob μ0 (tm_v μ0 1 8) 4) ∧ ((tm_v μ0 (tm_v μ0 1 8) 3 ≤ v1 → K 0 μ) ∧ (v1 < tm_v μ0 (tm_v μ0 1 8) 3 → K 1 μ)))) :
    hI (tWs [] []) μ0 mX0_isLane d K 0 [(0, 2, 1), (1, 0, v1)] [] μ := by
  refine g_iload_n (q := 1) dX0_isLane_0 rfl rfl ?_
  refine g_if_lt (tgt := 19) dX0_isLane_1 (by decide) (fun c1 => ?_) (fun c2 => ?_)
  · have h := h.1 c1
    refine g_iconst dX0_isLane_19 (by decide) ?_
    exact g_zret dX0_isLane_20 rfl (by decide) (Nat.le_refl _) (Nat.le_refl _) ⟨_, rfl, hs, h⟩
  · have h := h.2 c2
    refine g_iload_n (q := 1) dX0_isLane_4 rfl rfl ?_
    refine g_aload_n (q := 0) dX0_isLane_5 rfl rfl ?_
    refine g_getC (x := tm_v μ0 1 8) 2 dX0_isLane_6 fX0_57 rfl (by decide) (sk_1 hs.S) (hs.v (tWs_noF rfl)) ?_
    obtain ⟨c3, h⟩ := h
    refine g_getC (x := tm_v μ0 (tm_v μ0 1 8) 3) 0 dX0_isLane_9 fX0_203 rfl c3.1.1 (hs.k ▸ c3.1.2) (hs.v (tWs_ob rfl c3)) ?_
    refine g_icmp_ge (tgt := 19) dX0_isLane_12 (by decide) (fun c4 => ?_) (fun c5 => ?_)
    · have h := h.1 c4
      refine g_iconst dX0_isLane_19 (by decide) ?_
      exact g_zret dX0_isLane_20 rfl (by decide) (Nat.le_refl _) (Nat.le_refl _) ⟨_, rfl, hs, h⟩
    · have h := h.2 c5
      refine g_iconst dX0_isLane_15 (by decide) ?_
      refine g_goto (tgt := 20) dX0_isLane_16 (by decide) ?_
      exact g_zret dX0_isLane_20 rfl (by decide) (Nat.le_refl _) (Nat.le_refl _) ⟨_, rfl, hs, h⟩
theorem uX0_isWay_0 {d : Nat} {μ0 μ : tm_M} {K : Int → tm_M → Prop} {v1 : Int} (hs : tFr (tWs [] []) μ0 μ)
    (h : (v1 < 0 → K 0 μ) ∧ (0 ≤ v1 → (tm_v μ0 1 9 ≤ v1 → K 0 μ) ∧ (v1 < tm_v μ0 1 9 → K 1 μ))) :
    hI (tWs [] []) μ0 mX0_isWay d K 0 [(0, 2, 1), (1, 1, v1)] [] μ := by
  refine g_lload_n (q := 1) dX0_isWay_0 rfl rfl ?_
  refine g_lconst0 dX0_isWay_1 ?_
  refine g_lcmp_lt (tgt := 20) dX0_isWay_2 dX0_isWay_3 (by decide) (fun c1 => ?_) (fun c2 => ?_)
  · have h := h.1 c1
    refine g_iconst dX0_isWay_20 (by decide) ?_
    exact g_zret dX0_isWay_21 rfl (by decide) (Nat.le_refl _) (Nat.le_refl _) ⟨_, rfl, hs, h⟩
  · have h := h.2 c2
    refine g_lload_n (q := 1) dX0_isWay_6 rfl rfl ?_
    refine g_aload_n (q := 0) dX0_isWay_7 rfl rfl ?_
    refine g_getC (x := tm_v μ0 1 9) 0 dX0_isWay_8 fX0_206 rfl (by decide) (sk_1 hs.S) (hs.v (tWs_noF rfl)) ?_
    refine g_i2l dX0_isWay_11 ?_
    refine g_lcmp_ge (tgt := 20) dX0_isWay_12 dX0_isWay_13 (by decide) (fun c3 => ?_) (fun c4 => ?_)
    · have h := h.1 c3
      refine g_iconst dX0_isWay_20 (by decide) ?_
      exact g_zret dX0_isWay_21 rfl (by decide) (Nat.le_refl _) (Nat.le_refl _) ⟨_, rfl, hs, h⟩
    · have h := h.2 c4
      refine g_iconst dX0_isWay_16 (by decide) ?_
      refine g_goto (tgt := 21) dX0_isWay_17 (by decide) ?_
      exact g_zret dX0_isWay_21 rfl (by decide) (Nat.le_refl _) (Nat.le_refl _) ⟨_, rfl, hs, h⟩
theorem uX0_likely_0 {d : Nat} {μ0 μ : tm_M} {K : Int → tm_M → Prop} {v1 v2 : Int} (hs : tFr (tWs [] []) μ0 μ)
    (h : (ob μ0 (tm_v μ0 1 8) 4) ∧ ((ob μ0 (tm_v μ0 (tm_v μ0 1 8) 0) 26) ∧ ((0 ≤ v1 ∧ v1 < tm_n μ0 (tm_v μ0 (tm_v μ0 1 8) 0)) ∧ ((ob μ0 (tm_v μ0 (tm_v μ0 (tm_v μ0 1 8) 0) v1) 7) ∧ ((0 ≤ v2 ∧ v2 < tm_n μ0 (tm_v μ0 (tm_v μ0 1 8) 0)) ∧ ((ob μ0 (tm_v μ0 (tm_v μ0 (tm_v μ0 1 8) 0) v2) 7) ∧ (K (w64 ((tm_v μ0 (tm_v μ0 (tm_v μ0 (tm_v μ0 1 8) 0) v1) 3) * (tm_v μ0 (tm_v μ0 (tm_v μ0 (tm_v μ0 1 8) 0) v2) 4))) μ))))))) :
    hLo (tWs [] []) μ0 mX0_likely d K 0 [(0, 2, 1), (1, 0, v1), (2, 0, v2)] [] μ := by
  refine g_aload_n (q := 0) dX0_likely_0 rfl rfl ?_
  refine g_getC (x := tm_v μ0 1 8) 2 dX0_likely_1 fX0_57 rfl (by decide) (sk_1 hs.S) (hs.v (tWs_noF rfl)) ?_
  obtain ⟨c1, h⟩ := h
  refine g_getC (x := tm_v μ0 (tm_v μ0 1 8) 0) 2 dX0_likely_4 fX0_240 rfl c1.1.1 (hs.k ▸ c1.1.2) (hs.v (tWs_ob rfl c1)) ?_
  refine g_iload_n (q := 1) dX0_likely_7 rfl rfl ?_
  obtain ⟨c2, h⟩ := h
  obtain ⟨c3, h⟩ := h
  refine g_aaloadC (x := tm_v μ0 (tm_v μ0 (tm_v μ0 1 8) 0) v1) dX0_likely_8 c2.1.1 (hs.k ▸ c2.1.2) (by decide) c3.1 (hs.n ▸ c3.2) (hs.v (tWs_ob rfl c2)) ?_
  obtain ⟨c4, h⟩ := h
  refine g_getC (x := tm_v μ0 (tm_v μ0 (tm_v μ0 (tm_v μ0 1 8) 0) v1) 3) 0 dX0_likely_9 fX0_357 rfl c4.1.1 (hs.k ▸ c4.1.2) (hs.v (tWs_ob rfl c4)) ?_
  refine g_i2l dX0_likely_12 ?_
  refine g_aload_n (q := 0) dX0_likely_13 rfl rfl ?_
  refine g_getC (x := tm_v μ0 1 8) 2 dX0_likely_14 fX0_57 rfl (by decide) (sk_1 hs.S) (hs.v (tWs_noF rfl)) ?_
  refine g_getC (x := tm_v μ0 (tm_v μ0 1 8) 0) 2 dX0_likely_17 fX0_240 rfl c1.1.1 (hs.k ▸ c1.1.2) (hs.v (tWs_ob rfl c1)) ?_
  refine g_iload_n (q := 2) dX0_likely_20 rfl rfl ?_
  obtain ⟨c5, h⟩ := h
  refine g_aaloadC (x := tm_v μ0 (tm_v μ0 (tm_v μ0 1 8) 0) v2) dX0_likely_21 c2.1.1 (hs.k ▸ c2.1.2) (by decide) c5.1 (hs.n ▸ c5.2) (hs.v (tWs_ob rfl c2)) ?_
  obtain ⟨c6, h⟩ := h
  refine g_getC (x := tm_v μ0 (tm_v μ0 (tm_v μ0 (tm_v μ0 1 8) 0) v2) 4) 0 dX0_likely_22 fX0_359 rfl c6.1.1 (hs.k ▸ c6.1.2) (hs.v (tWs_ob rfl c6)) ?_
  refine g_i2l dX0_likely_25 ?_
  refine g_lmul dX0_likely_26 ?_
  exact g_lret dX0_likely_27 rfl (Nat.le_refl _) (Nat.le_refl _) ⟨_, rfl, hs, h⟩
theorem uX0_is_0 {d : Nat} {μ0 μ : tm_M} {K : Int → tm_M → Prop} {v1 : Int} (hs : tFr (tWs [] [(1, 10)]) μ0 μ)
    (h : (∀ μ1, μ1 = tm_w μ 1 10 v1 → (v1 ≠ 0 → K 0 μ1) ∧ (v1 = 0 → K 1 μ1))) :
    hI (tWs [] [(1, 10)]) μ0 mX0_is d K 0 [(0, 2, 1), (1, 0, v1)] [] μ := by
  refine g_aload_n (q := 0) dX0_is_0 rfl rfl ?_
  refine g_iload_n (q := 1) dX0_is_1 rfl rfl ?_
  refine g_put dX0_is_2 fX0_149 rfl (by decide) (sk_1 hs.S) (fun e => absurd e (by decide)) (p_wj hs (by decide) (tWs_inF rfl) fun μ1 eμ1 hs => ?_)
  have h := h μ1 eμ1
  refine g_iload_n (q := 1) dX0_is_5 rfl rfl ?_
  refine g_if_ne (tgt := 13) dX0_is_6 (by decide) (fun c2 => ?_) (fun c3 => ?_)
  · have h := h.1 c2
    refine g_iconst dX0_is_13 (by decide) ?_
    exact g_zret dX0_is_14 rfl (by decide) (Nat.le_refl _) (Nat.le_refl _) ⟨_, rfl, hs, h⟩
  · have h := h.2 c3
    refine g_iconst dX0_is_9 (by decide) ?_
    refine g_goto (tgt := 14) dX0_is_10 (by decide) ?_
    exact g_zret dX0_is_14 rfl (by decide) (Nat.le_refl _) (Nat.le_refl _) ⟨_, rfl, hs, h⟩
theorem uX0_none_0 {d : Nat} {μ0 μ : tm_M} {K : Int → tm_M → Prop} {v1 : Int} (hs : tFr (tWs [] [(1, 10)]) μ0 μ)
    (h : (∀ μ1, μ1 = tm_w μ 1 10 v1 → K (-1) μ1)) :
    hI (tWs [] [(1, 10)]) μ0 mX0_none d K 0 [(0, 2, 1), (1, 0, v1)] [] μ := by
  refine g_aload_n (q := 0) dX0_none_0 rfl rfl ?_
  refine g_iload_n (q := 1) dX0_none_1 rfl rfl ?_
  refine g_put dX0_none_2 fX0_149 rfl (by decide) (sk_1 hs.S) (fun e => absurd e (by decide)) (p_wj hs (by decide) (tWs_inF rfl) fun μ1 eμ1 hs => ?_)
  have h := h μ1 eμ1
  refine g_iconst dX0_none_5 (by decide) ?_
  exact g_iret dX0_none_6 rfl (Nat.le_refl _) (Nat.le_refl _) ⟨_, rfl, hs, h⟩
theorem uX0_gives_0 {d : Nat} {μ0 μ : tm_M} {K : Int → tm_M → Prop} {v1 : Int} (hs : tFr (tWs [] [(1, 10)]) μ0 μ)
    (h : (∀ μ1, μ1 = tm_w μ 1 10 0 → K v1 μ1)) :
    hI (tWs [] [(1, 10)]) μ0 mX0_gives d K 0 [(0, 2, 1), (1, 0, v1)] [] μ := by
  refine g_aload_n (q := 0) dX0_gives_0 rfl rfl ?_
  refine g_iconst dX0_gives_1 (by decide) ?_
  refine g_put dX0_gives_2 fX0_149 rfl (by decide) (sk_1 hs.S) (fun e => absurd e (by decide)) (p_wj hs (by decide) (tWs_inF rfl) fun μ1 eμ1 hs => ?_)
  have h := h μ1 eμ1
  refine g_iload_n (q := 1) dX0_gives_5 rfl rfl ?_
  exact g_iret dX0_gives_6 rfl (Nat.le_refl _) (Nat.le_refl _) ⟨_, rfl, hs, h⟩
