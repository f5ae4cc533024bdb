theorem uX5_many_0 {d : Nat} {μ0 μ : tm_M} {K : Int → tm_M → Prop} {v0 : Int} (hs : tFr (tWs [] []) μ0 μ)
    (h : (1 ≤ v0 ∧ tm_k μ0 v0 = 5) ∧ ((tm_v μ0 v0 1 ≠ 0 → (tm_v μ0 v0 1 ≠ 1 → (tm_v μ0 v0 1 ≠ 2 → (ob μ0 (tm_v μ0 v0 0) 21) ∧ (K (tm_n μ (tm_v μ0 v0 0)) μ)) ∧ (tm_v μ0 v0 1 = 2 → (ob μ0 (tm_v μ0 v0 0) 20) ∧ (K (tm_n μ (tm_v μ0 v0 0)) μ))) ∧ (tm_v μ0 v0 1 = 1 → (ob μ0 (tm_v μ0 v0 0) 23) ∧ (K (tm_n μ (tm_v μ0 v0 0)) μ))) ∧ (tm_v μ0 v0 1 = 0 → (ob μ0 (tm_v μ0 v0 0) 22) ∧ (K (tm_n μ (tm_v μ0 v0 0)) μ)))) :
    hI (tWs [] []) μ0 mX5_many d K 0 [(0, 2, v0)] [] μ := by
  refine g_aload_n (q := 0) dX5_many_0 rfl rfl ?_
  obtain ⟨c1, h⟩ := h
  refine g_getC (x := tm_v μ0 v0 1) 0 dX5_many_1 fX5_13 rfl c1.1 (hs.k ▸ c1.2) (hs.v (tWs_none _ _)) ?_
  refine g_if_ne (tgt := 18) dX5_many_4 (by decide) (fun c2 => ?_) (fun c3 => ?_)
  · have h := h.1 c2
    refine g_aload_n (q := 0) dX5_many_18 rfl rfl ?_
    refine g_getC (x := tm_v μ0 v0 1) 0 dX5_many_19 fX5_13 rfl c1.1 (hs.k ▸ c1.2) (hs.v (tWs_none _ _)) ?_
    refine g_iconst dX5_many_22 (by decide) ?_
    refine g_icmp_ne (tgt := 37) dX5_many_23 (by decide) (fun c4 => ?_) (fun c5 => ?_)
    · have h := h.1 c4
      refine g_aload_n (q := 0) dX5_many_37 rfl rfl ?_
      refine g_getC (x := tm_v μ0 v0 1) 0 dX5_many_38 fX5_13 rfl c1.1 (hs.k ▸ c1.2) (hs.v (tWs_none _ _)) ?_
      refine g_iconst dX5_many_41 (by decide) ?_
      refine g_icmp_ne (tgt := 56) dX5_many_42 (by decide) (fun c6 => ?_) (fun c7 => ?_)
      · have h := h.1 c6
        refine g_aload_n (q := 0) dX5_many_56 rfl rfl ?_
        refine g_getC (x := tm_v μ0 v0 0) 2 dX5_many_57 fX5_7 rfl c1.1 (hs.k ▸ c1.2) (hs.v (tWs_none _ _)) ?_
        obtain ⟨c8, h⟩ := h
        refine g_castA (k := 21) dX5_many_60 q631 (by decide) (by decide +kernel) c8.1.1 (hs.k ▸ c8.1.2) ?_
        refine g_alen dX5_many_63 c8.1.1 (hs.k ▸ c8.1.2) (by decide) ?_
        exact g_iret dX5_many_64 rfl (Nat.le_refl _) (Nat.le_refl _) ⟨_, rfl, hs, h⟩
      · have h := h.2 c7
        refine g_aload_n (q := 0) dX5_many_45 rfl rfl ?_
        refine g_getC (x := tm_v μ0 v0 0) 2 dX5_many_46 fX5_7 rfl c1.1 (hs.k ▸ c1.2) (hs.v (tWs_none _ _)) ?_
        obtain ⟨c9, h⟩ := h
        refine g_castA (k := 20) dX5_many_49 q630 (by decide) (by decide +kernel) c9.1.1 (hs.k ▸ c9.1.2) ?_
        refine g_alen dX5_many_52 c9.1.1 (hs.k ▸ c9.1.2) (by decide) ?_
        refine g_goto (tgt := 64) dX5_many_53 (by decide) ?_
        exact g_iret dX5_many_64 rfl (Nat.le_refl _) (Nat.le_refl _) ⟨_, rfl, hs, h⟩
    · have h := h.2 c5
      refine g_aload_n (q := 0) dX5_many_26 rfl rfl ?_
      refine g_getC (x := tm_v μ0 v0 0) 2 dX5_many_27 fX5_7 rfl c1.1 (hs.k ▸ c1.2) (hs.v (tWs_none _ _)) ?_
      obtain ⟨c10, h⟩ := h
      refine g_castA (k := 23) dX5_many_30 q629 (by decide) (by decide +kernel) c10.1.1 (hs.k ▸ c10.1.2) ?_
      refine g_alen dX5_many_33 c10.1.1 (hs.k ▸ c10.1.2) (by decide) ?_
      refine g_goto (tgt := 64) dX5_many_34 (by decide) ?_
      exact g_iret dX5_many_64 rfl (Nat.le_refl _) (Nat.le_refl _) ⟨_, rfl, hs, h⟩
  · have h := h.2 c3
    refine g_aload_n (q := 0) dX5_many_7 rfl rfl ?_
    refine g_getC (x := tm_v μ0 v0 0) 2 dX5_many_8 fX5_7 rfl c1.1 (hs.k ▸ c1.2) (hs.v (tWs_none _ _)) ?_
    obtain ⟨c11, h⟩ := h
    refine g_castA (k := 22) dX5_many_11 q628 (by decide) (by decide +kernel) c11.1.1 (hs.k ▸ c11.1.2) ?_
    refine g_alen dX5_many_14 c11.1.1 (hs.k ▸ c11.1.2) (by decide) ?_
    refine g_goto (tgt := 64) dX5_many_15 (by decide) ?_
    exact g_iret dX5_many_64 rfl (Nat.le_refl _) (Nat.le_refl _) ⟨_, rfl, hs, h⟩
theorem uX5_get_0 {d : Nat} {μ0 μ : tm_M} {K : Int → tm_M → Prop} {v0 v1 : Int} (hs : tFr (tWs [] []) μ0 μ)
    (h : (1 ≤ v0 ∧ tm_k μ0 v0 = 5) ∧ ((tm_v μ0 v0 1 ≠ 0 → (tm_v μ0 v0 1 ≠ 1 → (tm_v μ0 v0 1 ≠ 2 → (ob μ0 (tm_v μ0 v0 0) 21) ∧ ((0 ≤ v1 ∧ v1 < tm_n μ0 (tm_v μ0 v0 0)) ∧ (K (tm_v μ0 (tm_v μ0 v0 0) v1) μ))) ∧ (tm_v μ0 v0 1 = 2 → (ob μ0 (tm_v μ0 v0 0) 20) ∧ ((0 ≤ v1 ∧ v1 < tm_n μ0 (tm_v μ0 v0 0)) ∧ (K (tm_v μ0 (tm_v μ0 v0 0) v1) μ)))) ∧ (tm_v μ0 v0 1 = 1 → (ob μ0 (tm_v μ0 v0 0) 23) ∧ ((0 ≤ v1 ∧ v1 < tm_n μ0 (tm_v μ0 v0 0)) ∧ (K (tm_v μ0 (tm_v μ0 v0 0) v1) μ)))) ∧ (tm_v μ0 v0 1 = 0 → (ob μ0 (tm_v μ0 v0 0) 22) ∧ ((0 ≤ v1 ∧ v1 < tm_n μ0 (tm_v μ0 v0 0)) ∧ (K (tm_v μ0 (tm_v μ0 v0 0) v1) μ))))) :
    hLo (tWs [] []) μ0 mX5_get d K 0 [(0, 2, v0), (1, 0, v1)] [] μ := by
  refine g_aload_n (q := 0) dX5_get_0 rfl rfl ?_
  obtain ⟨c1, h⟩ := h
  refine g_getC (x := tm_v μ0 v0 1) 0 dX5_get_1 fX5_13 rfl c1.1 (hs.k ▸ c1.2) (hs.v (tWs_none _ _)) ?_
  refine g_if_ne (tgt := 20) dX5_get_4 (by decide) (fun c2 => ?_) (fun c3 => ?_)
  · have h := h.1 c2
    refine g_aload_n (q := 0) dX5_get_20 rfl rfl ?_
    refine g_getC (x := tm_v μ0 v0 1) 0 dX5_get_21 fX5_13 rfl c1.1 (hs.k ▸ c1.2) (hs.v (tWs_none _ _)) ?_
    refine g_iconst dX5_get_24 (by decide) ?_
    refine g_icmp_ne (tgt := 41) dX5_get_25 (by decide) (fun c4 => ?_) (fun c5 => ?_)
    · have h := h.1 c4
      refine g_aload_n (q := 0) dX5_get_41 rfl rfl ?_
      refine g_getC (x := tm_v μ0 v0 1) 0 dX5_get_42 fX5_13 rfl c1.1 (hs.k ▸ c1.2) (hs.v (tWs_none _ _)) ?_
      refine g_iconst dX5_get_45 (by decide) ?_
      refine g_icmp_ne (tgt := 62) dX5_get_46 (by decide) (fun c6 => ?_) (fun c7 => ?_)
      · have h := h.1 c6
        refine g_aload_n (q := 0) dX5_get_62 rfl rfl ?_
        refine g_getC (x := tm_v μ0 v0 0) 2 dX5_get_63 fX5_7 rfl c1.1 (hs.k ▸ c1.2) (hs.v (tWs_none _ _)) ?_
        obtain ⟨c8, h⟩ := h
        refine g_castA (k := 21) dX5_get_66 q631 (by decide) (by decide +kernel) c8.1.1 (hs.k ▸ c8.1.2) ?_
        refine g_iload_n (q := 1) dX5_get_69 rfl rfl ?_
        obtain ⟨c9, h⟩ := h
        refine g_laloadC (x := tm_v μ0 (tm_v μ0 v0 0) v1) dX5_get_70 c8.1.1 (hs.k ▸ c8.1.2) c9.1 (hs.n ▸ c9.2) (hs.v (tWs_ob rfl c8)) ?_
        exact g_lret dX5_get_71 rfl (Nat.le_refl _) (Nat.le_refl _) ⟨_, rfl, hs, h⟩
      · have h := h.2 c7
        refine g_aload_n (q := 0) dX5_get_49 rfl rfl ?_
        refine g_getC (x := tm_v μ0 v0 0) 2 dX5_get_50 fX5_7 rfl c1.1 (hs.k ▸ c1.2) (hs.v (tWs_none _ _)) ?_
        obtain ⟨c10, h⟩ := h
        refine g_castA (k := 20) dX5_get_53 q630 (by decide) (by decide +kernel) c10.1.1 (hs.k ▸ c10.1.2) ?_
        refine g_iload_n (q := 1) dX5_get_56 rfl rfl ?_
        obtain ⟨c11, h⟩ := h
        refine g_ialoadC (x := tm_v μ0 (tm_v μ0 v0 0) v1) dX5_get_57 c10.1.1 (hs.k ▸ c10.1.2) c11.1 (hs.n ▸ c11.2) (hs.v (tWs_ob rfl c10)) ?_
        refine g_i2l dX5_get_58 ?_
        refine g_goto (tgt := 71) dX5_get_59 (by decide) ?_
        exact g_lret dX5_get_71 rfl (Nat.le_refl _) (Nat.le_refl _) ⟨_, rfl, hs, h⟩
    · have h := h.2 c5
      refine g_aload_n (q := 0) dX5_get_28 rfl rfl ?_
      refine g_getC (x := tm_v μ0 v0 0) 2 dX5_get_29 fX5_7 rfl c1.1 (hs.k ▸ c1.2) (hs.v (tWs_none _ _)) ?_
      obtain ⟨c12, h⟩ := h
      refine g_castA (k := 23) dX5_get_32 q629 (by decide) (by decide +kernel) c12.1.1 (hs.k ▸ c12.1.2) ?_
      refine g_iload_n (q := 1) dX5_get_35 rfl rfl ?_
      obtain ⟨c13, h⟩ := h
      refine g_saloadC (x := tm_v μ0 (tm_v μ0 v0 0) v1) dX5_get_36 c12.1.1 (hs.k ▸ c12.1.2) c13.1 (hs.n ▸ c13.2) (hs.v (tWs_ob rfl c12)) ?_
      refine g_i2l dX5_get_37 ?_
      refine g_goto (tgt := 71) dX5_get_38 (by decide) ?_
      exact g_lret dX5_get_71 rfl (Nat.le_refl _) (Nat.le_refl _) ⟨_, rfl, hs, h⟩
  · have h := h.2 c3
    refine g_aload_n (q := 0) dX5_get_7 rfl rfl ?_
    refine g_getC (x := tm_v μ0 v0 0) 2 dX5_get_8 fX5_7 rfl c1.1 (hs.k ▸ c1.2) (hs.v (tWs_none _ _)) ?_
    obtain ⟨c14, h⟩ := h
    refine g_castA (k := 22) dX5_get_11 q628 (by decide) (by decide +kernel) c14.1.1 (hs.k ▸ c14.1.2) ?_
    refine g_iload_n (q := 1) dX5_get_14 rfl rfl ?_
    obtain ⟨c15, h⟩ := h
    refine g_baloadC (x := tm_v μ0 (tm_v μ0 v0 0) v1) dX5_get_15 c14.1.1 (hs.k ▸ c14.1.2) c15.1 (hs.n ▸ c15.2) (hs.v (tWs_ob rfl c14)) ?_
    refine g_i2l dX5_get_16 ?_
    refine g_goto (tgt := 71) dX5_get_17 (by decide) ?_
    exact g_lret dX5_get_71 rfl (Nat.le_refl _) (Nat.le_refl _) ⟨_, rfl, hs, h⟩
