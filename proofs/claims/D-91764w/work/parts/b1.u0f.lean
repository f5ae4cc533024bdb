theorem uX0_times_0 {d : Nat} {μ0 μ : tm_M} {K : Int → tm_M → Prop} {v1 v2 : Int} (hf : dyA (c_FA μ0) ∧ tm_k μ0 (c_FA μ0) = 20) (hs : tFr (tWf [7, 8, 10] [(1, 16)] (c_FA μ0)) μ0 μ)
    (h : (∀ μ1, μ1 = tm_w μ 1 16 0 → hLo (tWf [7, 8, 10] [(1, 16)] (c_FA μ0)) μ0 mX0_times d K 13 [(0, 2, 1), (1, 0, v1), (2, 0, v2), (3, 1, 0), (5, 0, 0), (6, 0, 0)] [] μ1)) :
    hLo (tWf [7, 8, 10] [(1, 16)] (c_FA μ0)) μ0 mX0_times d K 0 [(0, 2, 1), (1, 0, v1), (2, 0, v2)] [] μ := by
  refine g_lconst0 dX0_times_0 ?_
  refine g_lstore_n (L' := [(0, 2, 1), (1, 0, v1), (2, 0, v2), (3, 1, 0)]) dX0_times_1 rfl (by decide) [1, 2, 3, 0] rfl ?_
  refine g_aload_n (q := 0) dX0_times_2 rfl rfl ?_
  refine g_iconst dX0_times_3 (by decide) ?_
  refine g_put dX0_times_4 fX0_365 rfl (by decide) (sk_1 hs.S) (fun e => absurd e (by decide)) (p_wj hs (by decide) (Or.inl (tWs_inF rfl)) fun μ1 eμ1 hs => ?_)
  have h := h μ1 eμ1
  refine g_iconst dX0_times_7 (by decide) ?_
  refine g_istore (L' := [(0, 2, 1), (1, 0, v1), (2, 0, v2), (3, 1, 0), (5, 0, 0)]) dX0_times_8 (by decide) [1, 2, 3, 4, 0] rfl ?_
  refine g_iconst dX0_times_10 (by decide) ?_
  refine g_istore (L' := [(0, 2, 1), (1, 0, v1), (2, 0, v2), (3, 1, 0), (5, 0, 0), (6, 0, 0)]) dX0_times_11 (by decide) [1, 2, 3, 4, 5, 0] rfl ?_
  exact h
theorem uX0_times_13 {d : Nat} {μ0 μ : tm_M} {K : Int → tm_M → Prop} {v1 v2 v3 v5 v6 : Int} (hf : dyA (c_FA μ0) ∧ tm_k μ0 (c_FA μ0) = 20) (hs : tFr (tWf [7, 8, 10] [(1, 16)] (c_FA μ0)) μ0 μ)
    (h : (ob μ0 (tm_v μ0 1 8) 4) ∧ ((tm_v μ0 (tm_v μ0 1 8) 2 ≤ v6 → (v5 = 0 → K (-1) μ) ∧ (v5 ≠ 0 → K v3 μ)) ∧ (v6 < tm_v μ0 (tm_v μ0 1 8) 2 → hLo (tWf [7, 8, 10] [(1, 16)] (c_FA μ0)) μ0 mX0_times d K 28 [(0, 2, 1), (1, 0, v1), (2, 0, v2), (3, 1, v3), (5, 0, v5), (6, 0, v6), (7, 0, 0)] [] μ))) :
    hLo (tWf [7, 8, 10] [(1, 16)] (c_FA μ0)) μ0 mX0_times d K 13 [(0, 2, 1), (1, 0, v1), (2, 0, v2), (3, 1, v3), (5, 0, v5), (6, 0, v6)] [] μ := by
  refine g_iload (q := 5) dX0_times_13 rfl ?_
  refine g_aload_n (q := 0) dX0_times_15 rfl rfl ?_
  refine g_getC (x := tm_v μ0 1 8) 2 dX0_times_16 fX0_57 rfl (by decide) (sk_1 hs.S) (hs.v (tWf_no hf (by decide) (tWs_noF rfl))) ?_
  obtain ⟨c1, h⟩ := h
  refine g_getC (x := tm_v μ0 (tm_v μ0 1 8) 2) 0 dX0_times_19 fX0_200 rfl c1.1.1 (hs.k ▸ c1.1.2) (hs.v (tWf_ob rfl hf c1 (by decide))) ?_
  refine g_icmp_ge (tgt := 121) dX0_times_22 (by decide) (fun c2 => ?_) (fun c3 => ?_)
  · have h := h.1 c2
    refine g_iload (q := 4) dX0_times_121 rfl ?_
    refine g_if_eq (tgt := 130) dX0_times_123 (by decide) (fun c4 => ?_) (fun c5 => ?_)
    · have h := h.1 c4
      refine g_ldc2 (v := -1) (by decide) q644c dX0_times_130 ?_
      exact g_lret dX0_times_133 rfl (Nat.le_refl _) (Nat.le_refl _) ⟨_, rfl, hs, h⟩
    · have h := h.2 c5
      refine g_lload_n (q := 3) dX0_times_126 rfl rfl ?_
      refine g_goto (tgt := 133) dX0_times_127 (by decide) ?_
      exact g_lret dX0_times_133 rfl (Nat.le_refl _) (Nat.le_refl _) ⟨_, rfl, hs, h⟩
  · have h := h.2 c3
    refine g_iconst dX0_times_25 (by decide) ?_
    refine g_istore (L' := [(0, 2, 1), (1, 0, v1), (2, 0, v2), (3, 1, v3), (5, 0, v5), (6, 0, v6), (7, 0, 0)]) dX0_times_26 (by decide) [1, 2, 3, 4, 5, 6, 0] rfl ?_
    exact h
theorem uX0_times_28 {d : Nat} {μ0 μ : tm_M} {K : Int → tm_M → Prop} {ν : tm_M} {v1 v2 v3 v5 v6 v7 : Int} (hd : 1 ≤ d) (hf : dyA (c_FA μ0) ∧ tm_k μ0 (c_FA μ0) = 20) (hs : tFr (tWf [7, 8, 10] [(1, 16)] (c_FA μ0)) μ0 μ)
    (h : (ob μ0 (tm_v μ0 1 8) 4) ∧ ((tm_v μ0 (tm_v μ0 1 8) 2 ≤ v7 → hLo (tWf [7, 8, 10] [(1, 16)] (c_FA μ0)) μ0 mX0_times d K 13 [(0, 2, 1), (1, 0, v1), (2, 0, v2), (3, 1, v3), (5, 0, v5), (6, 0, w32 (v6 + 1))] [] μ) ∧ (v7 < tm_v μ0 (tm_v μ0 1 8) 2 → (JU μ0 ν ∧ y_p ν v6 ∧ y_p ν v7) ∧ ((y_likely ν v6 v7 ≠ 0 → cI (tWf [7, 8, 10] [] (c_FA μ0)) mX0_meet (d - 1) [(2, 1), (0, v1), (0, v2), (0, v6), (0, v7)] μ (fun r8 μ7 => (r8 ≠ -1 → (∀ μ14, μ14 = tm_w μ7 1 16 (max (tm_v μ7 1 16) r8) → (∀ x15, x15 = w64 (v3 + (w64 ((y_likely ν v6 v7) * r8))) → hLo (tWf [7, 8, 10] [(1, 16)] (c_FA μ0)) μ0 mX0_times d K 28 [(0, 2, 1), (1, 0, v1), (2, 0, v2), (3, 1, x15), (5, 0, 1), (6, 0, v6), (7, 0, w32 (v7 + 1))] [] μ14))) ∧ (r8 = -1 → K (-1) μ7))) ∧ (y_likely ν v6 v7 = 0 → hLo (tWf [7, 8, 10] [(1, 16)] (c_FA μ0)) μ0 mX0_times d K 28 [(0, 2, 1), (1, 0, v1), (2, 0, v2), (3, 1, v3), (5, 0, v5), (6, 0, v6), (7, 0, w32 (v7 + 1))] [] μ))))) :
    hLo (tWf [7, 8, 10] [(1, 16)] (c_FA μ0)) μ0 mX0_times d K 28 [(0, 2, 1), (1, 0, v1), (2, 0, v2), (3, 1, v3), (5, 0, v5), (6, 0, v6), (7, 0, v7)] [] μ := by
  refine g_iload (q := 6) dX0_times_28 rfl ?_
  refine g_aload_n (q := 0) dX0_times_30 rfl rfl ?_
  refine g_getC (x := tm_v μ0 1 8) 2 dX0_times_31 fX0_57 rfl (by decide) (sk_1 hs.S) (hs.v (tWf_no hf (by decide) (tWs_noF rfl))) ?_
  obtain ⟨c1, h⟩ := h
  refine g_getC (x := tm_v μ0 (tm_v μ0 1 8) 2) 0 dX0_times_34 fX0_200 rfl c1.1.1 (hs.k ▸ c1.1.2) (hs.v (tWf_ob rfl hf c1 (by decide))) ?_
  refine g_icmp_ge (tgt := 115) dX0_times_37 (by decide) (fun c2 => ?_) (fun c3 => ?_)
  · have h := h.1 c2
    refine g_iinc (q := 5) dX0_times_115 (by decide) rfl [1, 2, 3, 4, 5, 0, 6] rfl ?_
    refine g_goto (tgt := 13) dX0_times_118 (by decide) ?_
    exact g_less [0, 1, 2, 3, 4, 5] rfl h
  · have h := h.2 c3
    refine g_aload_n (q := 0) dX0_times_40 rfl rfl ?_
    refine g_iload (q := 5) dX0_times_41 rfl ?_
    refine g_iload (q := 6) dX0_times_43 rfl ?_
    obtain ⟨c4, h⟩ := h
    refine g_callV2 dX0_times_45 kX0_likely q1035 q1037 qs29 (ci := 0) rfl (by decide) rfl (by omega) (by decide) (sk_1 hs.S) (Nat.le_of_ble_eq_true rfl) (Nat.le_refl _) (Nat.le_refl _) (t_pL hs (pX0_likely hs (tWf_TC hf.1 ⟨rfl, rfl⟩) c4) ?_)
    refine g_lconst0 dX0_times_48 ?_
    refine g_lcmp_ne (tgt := 56) dX0_times_49 dX0_times_50 (by decide) (fun c5 => ?_) (fun c6 => ?_)
    · have h := h.1 c5
      refine g_aload_n (q := 0) dX0_times_56 rfl rfl ?_
      refine g_iload_n (q := 1) dX0_times_57 rfl rfl ?_
      refine g_iload_n (q := 2) dX0_times_58 rfl rfl ?_
      refine g_iload (q := 5) dX0_times_59 rfl ?_
      refine g_iload (q := 6) dX0_times_61 rfl ?_
      refine g_callV4 dX0_times_63 kX0_meet q973 q975 qs24 (ci := 0) rfl (by decide) rfl (by omega) (by decide) (sk_1 hs.S) (Nat.le_of_ble_eq_true rfl) (Nat.le_refl _) (Nat.le_refl _) (t_kI hs (tWf_sub rfl) h (fun r8 μ7 hs h => ?_))
      refine g_istore (L' := [(0, 2, 1), (1, 0, v1), (2, 0, v2), (3, 1, v3), (5, 0, v5), (6, 0, v6), (7, 0, v7), (8, 0, r8)]) dX0_times_66 (by decide) [1, 2, 3, 4, 5, 6, 7, 0] rfl ?_
      refine g_iload (q := 7) dX0_times_68 rfl ?_
      refine g_iconst dX0_times_70 (by decide) ?_
      refine g_icmp_ne (tgt := 78) dX0_times_71 (by decide) (fun c9 => ?_) (fun c10 => ?_)
      · have h := h.1 c9
        refine g_iconst dX0_times_78 (by decide) ?_
        refine g_istore (L' := [(0, 2, 1), (1, 0, v1), (2, 0, v2), (3, 1, v3), (5, 0, 1), (6, 0, v6), (7, 0, v7), (8, 0, r8)]) dX0_times_79 (by decide) [1, 2, 3, 4, 0, 5, 6, 7] rfl ?_
        refine g_aload_n (q := 0) dX0_times_81 rfl rfl ?_
        refine g_aload_n (q := 0) dX0_times_82 rfl rfl ?_
        refine g_get 0 dX0_times_83 fX0_365 rfl (by decide) (sk_1 hs.S) ?_
        refine g_iload (q := 7) dX0_times_86 rfl ?_
        refine g_callS2 dX0_times_88 kJ8_max q1039 q1040 rfl (by omega) (Nat.le_of_ble_eq_true rfl) (Nat.le_refl _) (Nat.le_refl _) (t_pI hs (pJ8_max hs.S) ?_)
        refine g_put dX0_times_91 fX0_365 rfl (by decide) (sk_1 hs.S) (fun e => absurd e (by decide)) (p_wj hs (by decide) (Or.inl (tWs_inF rfl)) fun μ14 eμ14 hs => ?_)
        have h := h μ14 eμ14
        refine g_lload_n (q := 3) dX0_times_94 rfl rfl ?_
        refine g_aload_n (q := 0) dX0_times_95 rfl rfl ?_
        refine g_iload (q := 5) dX0_times_96 rfl ?_
        refine g_iload (q := 6) dX0_times_98 rfl ?_
        refine g_callV2 dX0_times_100 kX0_likely q1035 q1037 qs29 (ci := 0) rfl (by decide) rfl (by omega) (by decide) (sk_1 hs.S) (Nat.le_of_ble_eq_true rfl) (Nat.le_refl _) (Nat.le_refl _) (t_pL hs (pX0_likely hs (tWf_TC hf.1 ⟨rfl, rfl⟩) c4) ?_)
        refine g_iload (q := 7) dX0_times_103 rfl ?_
        refine g_i2l dX0_times_105 ?_
        refine g_lmul dX0_times_106 ?_
        refine g_ladd dX0_times_107 ?_
        refine g_lstore_nN (fun z => [(0, 2, 1), (1, 0, v1), (2, 0, v2), (3, 1, z), (5, 0, 1), (6, 0, v6), (7, 0, v7), (8, 0, r8)]) dX0_times_108 rfl (by decide) [1, 2, 3, 0, 4, 5, 6, 7] (fun _ => rfl) (fun x15 ex15 => ?_)
        have h := h x15 ex15
        refine g_iinc (q := 6) dX0_times_109 (by decide) rfl [1, 2, 3, 4, 5, 6, 0, 7] rfl ?_
        refine g_goto (tgt := 28) dX0_times_112 (by decide) ?_
        exact g_less [0, 1, 2, 3, 4, 5, 6] rfl h
      · have h := h.2 c10
        refine g_ldc2 (v := -1) (by decide) q644c dX0_times_74 ?_
        exact g_lret dX0_times_77 rfl (Nat.le_refl _) (Nat.le_refl _) ⟨_, rfl, hs, h⟩
    · have h := h.2 c6
      refine g_goto (tgt := 109) dX0_times_53 (by decide) ?_
      refine g_iinc (q := 6) dX0_times_109 (by decide) rfl [1, 2, 3, 4, 5, 6, 0] rfl ?_
      refine g_goto (tgt := 28) dX0_times_112 (by decide) ?_
      exact h
theorem uX0_mean_0 {d : Nat} {μ0 μ : tm_M} {K : Int → tm_M → Prop} {ν : tm_M} {v1 v2 : Int} (hd : 2 ≤ d) (hf : dyA (c_FA μ0) ∧ tm_k μ0 (c_FA μ0) = 20) (hs : tFr (tWf [7, 8, 10] [(1, 10), (1, 14), (1, 15), (1, 16)] (c_FA μ0)) μ0 μ)
    (h : (JV μ0 ν) ∧ ((¬ (0 ≤ v1 ∧ v1 < tm_v ν 65 43) → (∀ μ4, μ4 = tm_w μ 1 10 2 → K 0 μ4)) ∧ (0 ≤ v1 ∧ v1 < tm_v ν 65 43 → (0 ≤ v2 ∧ v2 < tm_v ν 65 43 → cL (tWf [7, 8, 10] [(1, 16)] (c_FA μ0)) mX0_times (d - 1) [(2, 1), (0, v1), (0, v2)] μ (fun r10 μ9 => (r10 ≠ -1 → (JU μ0 ν) ∧ (cI (tWs [] [(1, 10), (1, 14), (1, 15)]) mX0_tell (d - 1) [(2, 1), (1, r10), (1, y_all ν)] μ9 (fun r15 μ14 => (0 ≤ r15 ∧ r15 ≤ 1) ∧ (K r15 μ14)))) ∧ (r10 = -1 → (∀ μ17, μ17 = tm_w μ9 1 10 9 → K 0 μ17)))) ∧ (¬ (0 ≤ v2 ∧ v2 < tm_v ν 65 43) → (∀ μ20, μ20 = tm_w μ 1 10 2 → K 0 μ20))))) :
    hI (tWf [7, 8, 10] [(1, 10), (1, 14), (1, 15), (1, 16)] (c_FA μ0)) μ0 mX0_mean d K 0 [(0, 2, 1), (1, 0, v1), (2, 0, v2)] [] μ := by
  refine g_aload_n (q := 0) dX0_mean_0 rfl rfl ?_
  refine g_iload_n (q := 1) dX0_mean_1 rfl rfl ?_
  refine g_i2l dX0_mean_2 ?_
  obtain ⟨c1, h⟩ := h
  refine g_callV1 dX0_mean_3 kX0_isWay q969 q971 qs23 (ci := 0) rfl (by decide) rfl (by omega) (by decide) (sk_1 hs.S) (Nat.le_of_ble_eq_true rfl) (Nat.le_refl _) (Nat.le_refl _) (t_pI hs (pX0_isWay hs (tWf_TC hf.1 ⟨rfl, rfl⟩) c1) ?_)
  refine g_if_eq (tgt := 18) dX0_mean_6 (by decide) (fun c2 => ?_) (fun c3 => ?_)
  · have h := h.1 (b2i_0.mp c2)
    refine g_aload_n (q := 0) dX0_mean_18 rfl rfl ?_
    refine g_iconst dX0_mean_19 (by decide) ?_
    refine g_callV1 dX0_mean_20 kX0_is q567 q569 qs2 (ci := 0) rfl (by decide) rfl (by omega) (by decide) (sk_1 hs.S) (Nat.le_of_ble_eq_true rfl) (Nat.le_refl _) (Nat.le_refl _) (t_kI hs (tWf_subL rfl) (pX0_is hs.S) (fun r6 μ4 hs e5 => ?_))
    obtain ⟨rfl, e5⟩ := e5
    have h := h μ4 e5
    exact g_zret dX0_mean_23 rfl (by decide) (Nat.le_refl _) (Nat.le_refl _) ⟨_, rfl, hs, h⟩
  · have h := h.2 (b2i_1.mp c3)
    refine g_aload_n (q := 0) dX0_mean_9 rfl rfl ?_
    refine g_iload_n (q := 2) dX0_mean_10 rfl rfl ?_
    refine g_i2l dX0_mean_11 ?_
    refine g_callV1 dX0_mean_12 kX0_isWay q969 q971 qs23 (ci := 0) rfl (by decide) rfl (by omega) (by decide) (sk_1 hs.S) (Nat.le_of_ble_eq_true rfl) (Nat.le_refl _) (Nat.le_refl _) (t_pI hs (pX0_isWay hs (tWf_TC hf.1 ⟨rfl, rfl⟩) c1) ?_)
    refine g_if_ne (tgt := 24) dX0_mean_15 (by decide) (fun c7 => ?_) (fun c8 => ?_)
    · have h := h.1 (b2i_1.mp c7)
      refine g_aload_n (q := 0) dX0_mean_24 rfl rfl ?_
      refine g_iload_n (q := 1) dX0_mean_25 rfl rfl ?_
      refine g_iload_n (q := 2) dX0_mean_26 rfl rfl ?_
      refine g_callV2 dX0_mean_27 kX0_times q1031 q1033 qs28 (ci := 0) rfl (by decide) rfl (by omega) (by decide) (sk_1 hs.S) (Nat.le_of_ble_eq_true rfl) (Nat.le_refl _) (Nat.le_refl _) (t_kL hs (tWf_sub rfl) h (fun r10 μ9 hs h => ?_))
      refine g_lstore_n (L' := [(0, 2, 1), (1, 0, v1), (2, 0, v2), (3, 1, r10)]) dX0_mean_30 rfl (by decide) [1, 2, 3, 0] rfl ?_
      refine g_lload_n (q := 3) dX0_mean_31 rfl rfl ?_
      refine g_ldc2 (v := -1) (by decide) q644c dX0_mean_32 ?_
      refine g_lcmp_ne (tgt := 48) dX0_mean_35 dX0_mean_36 (by decide) (fun c11 => ?_) (fun c12 => ?_)
      · have h := h.1 c11
        refine g_aload_n (q := 0) dX0_mean_48 rfl rfl ?_
        refine g_lload_n (q := 3) dX0_mean_49 rfl rfl ?_
        refine g_aload_n (q := 0) dX0_mean_50 rfl rfl ?_
        obtain ⟨c13, h⟩ := h
        refine g_callV0 dX0_mean_51 kX0_allLikely q1042 q1044 qs30 (ci := 0) rfl (by decide) rfl (by omega) (by decide) (sk_1 hs.S) (Nat.le_of_ble_eq_true rfl) (Nat.le_refl _) (Nat.le_refl _) (t_pL hs (pX0_allLikely (by omega) hs (tWf_TC hf.1 ⟨rfl, rfl⟩) c13) ?_)
        refine g_callV2 dX0_mean_54 kX0_tell q1046 q1048 qs31 (ci := 0) rfl (by decide) rfl (by omega) (by decide) (sk_1 hs.S) (Nat.le_of_ble_eq_true rfl) (Nat.le_refl _) (Nat.le_refl _) (t_kI hs (tWf_subL rfl) h (fun r15 μ14 hs h => ?_))
        obtain ⟨c16, h⟩ := h
        exact g_zret dX0_mean_57 rfl c16 (Nat.le_refl _) (Nat.le_refl _) ⟨_, rfl, hs, h⟩
      · have h := h.2 c12
        refine g_aload_n (q := 0) dX0_mean_39 rfl rfl ?_
        refine g_bipush dX0_mean_40 ⟨by decide, by decide, rfl⟩ ?_
        refine g_callV1 dX0_mean_42 kX0_is q567 q569 qs2 (ci := 0) rfl (by decide) rfl (by omega) (by decide) (sk_1 hs.S) (Nat.le_of_ble_eq_true rfl) (Nat.le_refl _) (Nat.le_refl _) (t_kI hs (tWf_subL rfl) (pX0_is hs.S) (fun r19 μ17 hs e18 => ?_))
        obtain ⟨rfl, e18⟩ := e18
        have h := h μ17 e18
        refine g_goto (tgt := 57) dX0_mean_45 (by decide) ?_
        exact g_zret dX0_mean_57 rfl (by decide) (Nat.le_refl _) (Nat.le_refl _) ⟨_, rfl, hs, h⟩
    · have h := h.2 (b2i_0.mp c8)
      refine g_aload_n (q := 0) dX0_mean_18 rfl rfl ?_
      refine g_iconst dX0_mean_19 (by decide) ?_
      refine g_callV1 dX0_mean_20 kX0_is q567 q569 qs2 (ci := 0) rfl (by decide) rfl (by omega) (by decide) (sk_1 hs.S) (Nat.le_of_ble_eq_true rfl) (Nat.le_refl _) (Nat.le_refl _) (t_kI hs (tWf_subL rfl) (pX0_is hs.S) (fun r22 μ20 hs e21 => ?_))
      obtain ⟨rfl, e21⟩ := e21
      have h := h μ20 e21
      exact g_zret dX0_mean_23 rfl (by decide) (Nat.le_refl _) (Nat.le_refl _) ⟨_, rfl, hs, h⟩
theorem uX0_worst_0 {d : Nat} {μ0 μ : tm_M} {K : Int → tm_M → Prop} {ν : tm_M} {v1 v2 : Int} (hd : 1 ≤ d) (hf : dyA (c_FA μ0) ∧ tm_k μ0 (c_FA μ0) = 20) (hs : tFr (tWf [7, 8, 10] [(1, 10), (1, 16)] (c_FA μ0)) μ0 μ)
    (h : (JV μ0 ν) ∧ ((¬ (0 ≤ v1 ∧ v1 < tm_v ν 65 43) → (∀ μ4, μ4 = tm_w μ 1 10 2 → K (-1) μ4)) ∧ (0 ≤ v1 ∧ v1 < tm_v ν 65 43 → (0 ≤ v2 ∧ v2 < tm_v ν 65 43 → cL (tWf [7, 8, 10] [(1, 16)] (c_FA μ0)) mX0_times (d - 1) [(2, 1), (0, v1), (0, v2)] μ (fun r10 μ9 => (r10 ≠ -1 → (∀ μ13, μ13 = tm_w μ9 1 10 0 → K (tm_v μ9 1 16) μ13)) ∧ (r10 = -1 → (∀ μ16, μ16 = tm_w μ9 1 10 9 → K (-1) μ16)))) ∧ (¬ (0 ≤ v2 ∧ v2 < tm_v ν 65 43) → (∀ μ19, μ19 = tm_w μ 1 10 2 → K (-1) μ19))))) :
    hI (tWf [7, 8, 10] [(1, 10), (1, 16)] (c_FA μ0)) μ0 mX0_worst d K 0 [(0, 2, 1), (1, 0, v1), (2, 0, v2)] [] μ := by
  refine g_aload_n (q := 0) dX0_worst_0 rfl rfl ?_
  refine g_iload_n (q := 1) dX0_worst_1 rfl rfl ?_
  refine g_i2l dX0_worst_2 ?_
  obtain ⟨c1, h⟩ := h
  refine g_callV1 dX0_worst_3 kX0_isWay q969 q971 qs23 (ci := 0) rfl (by decide) rfl (by omega) (by decide) (sk_1 hs.S) (Nat.le_of_ble_eq_true rfl) (Nat.le_refl _) (Nat.le_refl _) (t_pI hs (pX0_isWay hs (tWf_TC hf.1 ⟨rfl, rfl⟩) c1) ?_)
  refine g_if_eq (tgt := 18) dX0_worst_6 (by decide) (fun c2 => ?_) (fun c3 => ?_)
  · have h := h.1 (b2i_0.mp c2)
    refine g_aload_n (q := 0) dX0_worst_18 rfl rfl ?_
    refine g_iconst dX0_worst_19 (by decide) ?_
    refine g_callV1 dX0_worst_20 kX0_none q636 q638 qs3 (ci := 0) rfl (by decide) rfl (by omega) (by decide) (sk_1 hs.S) (Nat.le_of_ble_eq_true rfl) (Nat.le_refl _) (Nat.le_refl _) (t_kI hs (tWf_subL rfl) (pX0_none hs.S) (fun r6 μ4 hs e5 => ?_))
    obtain ⟨rfl, e5⟩ := e5
    have h := h μ4 e5
    exact g_iret dX0_worst_23 rfl (Nat.le_refl _) (Nat.le_refl _) ⟨_, rfl, hs, h⟩
  · have h := h.2 (b2i_1.mp c3)
    refine g_aload_n (q := 0) dX0_worst_9 rfl rfl ?_
    refine g_iload_n (q := 2) dX0_worst_10 rfl rfl ?_
    refine g_i2l dX0_worst_11 ?_
    refine g_callV1 dX0_worst_12 kX0_isWay q969 q971 qs23 (ci := 0) rfl (by decide) rfl (by omega) (by decide) (sk_1 hs.S) (Nat.le_of_ble_eq_true rfl) (Nat.le_refl _) (Nat.le_refl _) (t_pI hs (pX0_isWay hs (tWf_TC hf.1 ⟨rfl, rfl⟩) c1) ?_)
    refine g_if_ne (tgt := 24) dX0_worst_15 (by decide) (fun c7 => ?_) (fun c8 => ?_)
    · have h := h.1 (b2i_1.mp c7)
      refine g_aload_n (q := 0) dX0_worst_24 rfl rfl ?_
      refine g_iload_n (q := 1) dX0_worst_25 rfl rfl ?_
      refine g_iload_n (q := 2) dX0_worst_26 rfl rfl ?_
      refine g_callV2 dX0_worst_27 kX0_times q1031 q1033 qs28 (ci := 0) rfl (by decide) rfl (by omega) (by decide) (sk_1 hs.S) (Nat.le_of_ble_eq_true rfl) (Nat.le_refl _) (Nat.le_refl _) (t_kL hs (tWf_sub rfl) h (fun r10 μ9 hs h => ?_))
      refine g_ldc2 (v := -1) (by decide) q644c dX0_worst_30 ?_
      refine g_lcmp_ne (tgt := 46) dX0_worst_33 dX0_worst_34 (by decide) (fun c11 => ?_) (fun c12 => ?_)
      · have h := h.1 c11
        refine g_aload_n (q := 0) dX0_worst_46 rfl rfl ?_
        refine g_aload_n (q := 0) dX0_worst_47 rfl rfl ?_
        refine g_get 0 dX0_worst_48 fX0_365 rfl (by decide) (sk_1 hs.S) ?_
        refine g_callV1 dX0_worst_51 kX0_gives q856 q858 qs17 (ci := 0) rfl (by decide) rfl (by omega) (by decide) (sk_1 hs.S) (Nat.le_of_ble_eq_true rfl) (Nat.le_refl _) (Nat.le_refl _) (t_kI hs (tWf_subL rfl) (pX0_gives hs.S) (fun r15 μ13 hs e14 => ?_))
        obtain ⟨rfl, e14⟩ := e14
        have h := h μ13 e14
        exact g_iret dX0_worst_54 rfl (Nat.le_refl _) (Nat.le_refl _) ⟨_, rfl, hs, h⟩
      · have h := h.2 c12
        refine g_aload_n (q := 0) dX0_worst_37 rfl rfl ?_
        refine g_bipush dX0_worst_38 ⟨by decide, by decide, rfl⟩ ?_
        refine g_callV1 dX0_worst_40 kX0_none q636 q638 qs3 (ci := 0) rfl (by decide) rfl (by omega) (by decide) (sk_1 hs.S) (Nat.le_of_ble_eq_true rfl) (Nat.le_refl _) (Nat.le_refl _) (t_kI hs (tWf_subL rfl) (pX0_none hs.S) (fun r18 μ16 hs e17 => ?_))
        obtain ⟨rfl, e17⟩ := e17
        have h := h μ16 e17
        refine g_goto (tgt := 54) dX0_worst_43 (by decide) ?_
        exact g_iret dX0_worst_54 rfl (Nat.le_refl _) (Nat.le_refl _) ⟨_, rfl, hs, h⟩
    · have h := h.2 (b2i_0.mp c8)
      refine g_aload_n (q := 0) dX0_worst_18 rfl rfl ?_
      refine g_iconst dX0_worst_19 (by decide) ?_
      refine g_callV1 dX0_worst_20 kX0_none q636 q638 qs3 (ci := 0) rfl (by decide) rfl (by omega) (by decide) (sk_1 hs.S) (Nat.le_of_ble_eq_true rfl) (Nat.le_refl _) (Nat.le_refl _) (t_kI hs (tWf_subL rfl) (pX0_none hs.S) (fun r21 μ19 hs e20 => ?_))
      obtain ⟨rfl, e20⟩ := e20
      have h := h μ19 e20
      exact g_iret dX0_worst_23 rfl (Nat.le_refl _) (Nat.le_refl _) ⟨_, rfl, hs, h⟩
theorem uX0_walks_0 {d : Nat} {μ0 μ : tm_M} {K : Int → tm_M → Prop} {v1 v2 v3 v4 : Int} (hd : 1 ≤ d) (hs : tFr (tWs [7, 8] []) μ0 μ)
    (h : (0 ≤ v1 ∧ v1 < 12) ∧ ((ob μ0 (tm_v μ0 1 8) 4) ∧ ((ob μ0 (tm_v μ0 (tm_v μ0 1 8) 0) 26) ∧ ((0 ≤ w32 (v3.tdiv 8) ∧ w32 (v3.tdiv 8) < tm_n μ0 (tm_v μ0 (tm_v μ0 1 8) 0)) ∧ (cV (tWs [7] []) mX3_begin (d - 1) [(2, 7), (2, tm_v μ0 6 v1), (2, tm_v μ0 (tm_v μ0 (tm_v μ0 1 8) 0) (w32 (v3.tdiv 8)))] μ (fun μ5 => (0 ≤ v2 ∧ v2 < 12) ∧ ((0 ≤ v3.tmod 8 ∧ v3.tmod 8 < tm_n μ0 (tm_v μ0 (tm_v μ0 1 8) 0)) ∧ (cV (tWs [8] []) mX3_begin (d - 1) [(2, 8), (2, tm_v μ0 6 v2), (2, tm_v μ0 (tm_v μ0 (tm_v μ0 1 8) 0) (v3.tmod 8))] μ5 (fun μ8 => hI (tWs [7, 8] []) μ0 mX0_walks d K 53 [(0, 2, 1), (4, 0, v4), (5, 0, 0)] [] μ8))))))))) :
    hI (tWs [7, 8] []) μ0 mX0_walks d K 0 [(0, 2, 1), (1, 0, v1), (2, 0, v2), (3, 0, v3), (4, 0, v4)] [] μ := by
  refine g_aload_n (q := 0) dX0_walks_0 rfl rfl ?_
  refine g_getC (x := 7) 2 dX0_walks_1 fX0_40 rfl (by decide) (sk_1 hs.S) (sv_1_4 hs.S) ?_
  refine g_aload_n (q := 0) dX0_walks_4 rfl rfl ?_
  refine g_getC (x := 6) 2 dX0_walks_5 fX0_33 rfl (by decide) (sk_1 hs.S) (sv_1_3 hs.S) ?_
  refine g_iload_n (q := 1) dX0_walks_8 rfl rfl ?_
  obtain ⟨c1, h⟩ := h
  refine g_aaloadC (x := tm_v μ0 6 v1) dX0_walks_9 (by decide) (sk_6 hs.S) (by decide) c1.1 (t_lt (sn_6 hs.S) c1.2) (hs.v (tWs_no _ rfl)) ?_
  refine g_aload_n (q := 0) dX0_walks_10 rfl rfl ?_
  refine g_getC (x := tm_v μ0 1 8) 2 dX0_walks_11 fX0_57 rfl (by decide) (sk_1 hs.S) (hs.v (tWs_noF rfl)) ?_
  obtain ⟨c2, h⟩ := h
  refine g_getC (x := tm_v μ0 (tm_v μ0 1 8) 0) 2 dX0_walks_14 fX0_240 rfl c2.1.1 (hs.k ▸ c2.1.2) (hs.v (tWs_ob rfl c2)) ?_
  refine g_iload_n (q := 3) dX0_walks_17 rfl rfl ?_
  refine g_bipush dX0_walks_18 ⟨by decide, by decide, rfl⟩ ?_
  refine g_idiv dX0_walks_20 (by decide) ?_
  obtain ⟨c3, h⟩ := h
  obtain ⟨c4, h⟩ := h
  refine g_aaloadC (x := tm_v μ0 (tm_v μ0 (tm_v μ0 1 8) 0) (w32 (v3.tdiv 8))) dX0_walks_21 c3.1.1 (hs.k ▸ c3.1.2) (by decide) c4.1 (hs.n ▸ c4.2) (hs.v (tWs_ob rfl c3)) ?_
  refine g_callV2 dX0_walks_22 kX3_begin q977 q978 q979 (ci := 3) rfl (by decide) rfl (by omega) (by decide) (sk_7 hs.S) (Nat.le_of_ble_eq_true rfl) (Nat.le_refl _) (Nat.le_refl _) (t_kV hs (tWs_sub rfl) h (fun μ5 hs h => ?_))
  refine g_aload_n (q := 0) dX0_walks_25 rfl rfl ?_
  refine g_getC (x := 8) 2 dX0_walks_26 fX0_44 rfl (by decide) (sk_1 hs.S) (sv_1_5 hs.S) ?_
  refine g_aload_n (q := 0) dX0_walks_29 rfl rfl ?_
  refine g_getC (x := 6) 2 dX0_walks_30 fX0_33 rfl (by decide) (sk_1 hs.S) (sv_1_3 hs.S) ?_
  refine g_iload_n (q := 2) dX0_walks_33 rfl rfl ?_
  obtain ⟨c6, h⟩ := h
  refine g_aaloadC (x := tm_v μ0 6 v2) dX0_walks_34 (by decide) (sk_6 hs.S) (by decide) c6.1 (t_lt (sn_6 hs.S) c6.2) (hs.v (tWs_no _ rfl)) ?_
  refine g_aload_n (q := 0) dX0_walks_35 rfl rfl ?_
  refine g_getC (x := tm_v μ0 1 8) 2 dX0_walks_36 fX0_57 rfl (by decide) (sk_1 hs.S) (hs.v (tWs_noF rfl)) ?_
  refine g_getC (x := tm_v μ0 (tm_v μ0 1 8) 0) 2 dX0_walks_39 fX0_240 rfl c2.1.1 (hs.k ▸ c2.1.2) (hs.v (tWs_ob rfl c2)) ?_
  refine g_iload_n (q := 3) dX0_walks_42 rfl rfl ?_
  refine g_bipush dX0_walks_43 ⟨by decide, by decide, rfl⟩ ?_
  refine g_irem dX0_walks_45 (by decide) ?_
  obtain ⟨c7, h⟩ := h
  refine g_aaloadC (x := tm_v μ0 (tm_v μ0 (tm_v μ0 1 8) 0) (v3.tmod 8)) dX0_walks_46 c3.1.1 (hs.k ▸ c3.1.2) (by decide) c7.1 (hs.n ▸ c7.2) (hs.v (tWs_ob rfl c3)) ?_
  refine g_callV2 dX0_walks_47 kX3_begin q977 q978 q979 (ci := 3) rfl (by decide) rfl (by omega) (by decide) (sk_8 hs.S) (Nat.le_of_ble_eq_true rfl) (Nat.le_refl _) (Nat.le_refl _) (t_kV hs (tWs_sub rfl) h (fun μ8 hs h => ?_))
  refine g_iconst dX0_walks_50 (by decide) ?_
  refine g_istore (L' := [(0, 2, 1), (1, 0, v1), (2, 0, v2), (3, 0, v3), (4, 0, v4), (5, 0, 0)]) dX0_walks_51 (by decide) [1, 2, 3, 4, 5, 0] rfl ?_
  exact g_less [0, 4, 5] rfl h
theorem uX0_walks_53 {d : Nat} {μ0 μ : tm_M} {K : Int → tm_M → Prop} {ν : tm_M} {v4 v5 : Int} (hd : 1 ≤ d) (hs : tFr (tWs [7, 8] []) μ0 μ)
    (h : (v4 ≤ v5 → (ob μ0 (tm_v μ 7 1) 7) ∧ ((ob μ0 (tm_v μ 8 1) 7) ∧ (K (w32 ((w32 (8 * (tm_v μ0 (tm_v μ 7 1) 1))) + (tm_v μ0 (tm_v μ 8 1) 1))) μ))) ∧ (v5 < v4 → (∀ x5, x5 = tm_v μ 7 1 → (∀ x6, x6 = tm_v μ 8 1 → cR (tWs [7] []) mX3_next (d - 1) [(2, 7)] μ (fun r8 μ7 => (∀ μ9, μ9 = tm_w μ7 7 1 r8 → cR (tWs [8] []) mX3_next (d - 1) [(2, 8)] μ9 (fun r11 μ10 => (∀ μ12, μ12 = tm_w μ10 8 1 r11 → (JU μ0 ν) ∧ ((¬ (tm_v μ12 7 1 = tm_v μ12 8 1 ∨ (tm_v ν 65 28 ≠ 0 ∧ tm_v μ12 7 1 = x6 ∧ tm_v μ12 8 1 = x5)) → hI (tWs [7, 8] []) μ0 mX0_walks d K 53 [(0, 2, 1), (4, 0, v4), (5, 0, w32 (v5 + 1))] [] μ12) ∧ (tm_v μ12 7 1 = tm_v μ12 8 1 ∨ (tm_v ν 65 28 ≠ 0 ∧ tm_v μ12 7 1 = x6 ∧ tm_v μ12 8 1 = x5) → K (-1) μ12)))))))))) :
    hI (tWs [7, 8] []) μ0 mX0_walks d K 53 [(0, 2, 1), (4, 0, v4), (5, 0, v5)] [] μ := by
  refine g_iload (q := 2) dX0_walks_53 rfl ?_
  refine g_iload (q := 1) dX0_walks_55 rfl ?_
  refine g_icmp_ge (tgt := 125) dX0_walks_57 (by decide) (fun c1 => ?_) (fun c2 => ?_)
  · have h := h.1 c1
    refine g_bipush dX0_walks_125 ⟨by decide, by decide, rfl⟩ ?_
    refine g_aload_n (q := 0) dX0_walks_127 rfl rfl ?_
    refine g_getC (x := 7) 2 dX0_walks_128 fX0_40 rfl (by decide) (sk_1 hs.S) (sv_1_4 hs.S) ?_
    refine g_get 2 dX0_walks_131 fX0_311 rfl (by decide) (sk_7 hs.S) ?_
    obtain ⟨c3, h⟩ := h
    refine g_getC (x := tm_v μ0 (tm_v μ 7 1) 1) 0 dX0_walks_134 fX0_260 rfl c3.1.1 (hs.k ▸ c3.1.2) (hs.v (tWs_ob rfl c3)) ?_
    refine g_imul dX0_walks_137 ?_
    refine g_aload_n (q := 0) dX0_walks_138 rfl rfl ?_
    refine g_getC (x := 8) 2 dX0_walks_139 fX0_44 rfl (by decide) (sk_1 hs.S) (sv_1_5 hs.S) ?_
    refine g_get 2 dX0_walks_142 fX0_311 rfl (by decide) (sk_8 hs.S) ?_
    obtain ⟨c4, h⟩ := h
    refine g_getC (x := tm_v μ0 (tm_v μ 8 1) 1) 0 dX0_walks_145 fX0_260 rfl c4.1.1 (hs.k ▸ c4.1.2) (hs.v (tWs_ob rfl c4)) ?_
    refine g_iadd dX0_walks_148 ?_
    exact g_iret dX0_walks_149 rfl (Nat.le_refl _) (Nat.le_refl _) ⟨_, rfl, hs, h⟩
  · have h := h.2 c2
    refine g_aload_n (q := 0) dX0_walks_60 rfl rfl ?_
    refine g_getC (x := 7) 2 dX0_walks_61 fX0_40 rfl (by decide) (sk_1 hs.S) (sv_1_4 hs.S) ?_
    refine g_get 2 dX0_walks_64 fX0_311 rfl (by decide) (sk_7 hs.S) ?_
    refine g_astoreN (fun z => [(0, 2, 1), (4, 0, v4), (5, 0, v5), (6, 2, z)]) dX0_walks_67 (by decide) [1, 2, 3, 0] (fun _ => rfl) (fun x5 ex5 => ?_)
    have h := h x5 ex5
    refine g_aload_n (q := 0) dX0_walks_69 rfl rfl ?_
    refine g_getC (x := 8) 2 dX0_walks_70 fX0_44 rfl (by decide) (sk_1 hs.S) (sv_1_5 hs.S) ?_
    refine g_get 2 dX0_walks_73 fX0_311 rfl (by decide) (sk_8 hs.S) ?_
    refine g_astoreN (fun z => [(0, 2, 1), (4, 0, v4), (5, 0, v5), (6, 2, x5), (7, 2, z)]) dX0_walks_76 (by decide) [1, 2, 3, 4, 0] (fun _ => rfl) (fun x6 ex6 => ?_)
    have h := h x6 ex6
    refine g_aload_n (q := 0) dX0_walks_78 rfl rfl ?_
    refine g_getC (x := 7) 2 dX0_walks_79 fX0_40 rfl (by decide) (sk_1 hs.S) (sv_1_4 hs.S) ?_
    refine g_aload_n (q := 0) dX0_walks_82 rfl rfl ?_
    refine g_getC (x := 7) 2 dX0_walks_83 fX0_40 rfl (by decide) (sk_1 hs.S) (sv_1_4 hs.S) ?_
    refine g_callV0 dX0_walks_86 kX3_next q999 q1000 q1001 (ci := 3) rfl (by decide) rfl (by omega) (by decide) (sk_7 hs.S) (Nat.le_of_ble_eq_true rfl) (Nat.le_refl _) (Nat.le_refl _) (t_kR hs (tWs_sub rfl) h (fun r8 μ7 hs h => ?_))
    refine g_put dX0_walks_89 fX0_311 rfl (by decide) (sk_7 hs.S) (fun e => absurd e (by decide)) (p_w hs sf_7 (tWs_in _ rfl) fun μ9 eμ9 hs => ?_)
    have h := h μ9 eμ9
    refine g_aload_n (q := 0) dX0_walks_92 rfl rfl ?_
    refine g_getC (x := 8) 2 dX0_walks_93 fX0_44 rfl (by decide) (sk_1 hs.S) (sv_1_5 hs.S) ?_
    refine g_aload_n (q := 0) dX0_walks_96 rfl rfl ?_
    refine g_getC (x := 8) 2 dX0_walks_97 fX0_44 rfl (by decide) (sk_1 hs.S) (sv_1_5 hs.S) ?_
    refine g_callV0 dX0_walks_100 kX3_next q999 q1000 q1001 (ci := 3) rfl (by decide) rfl (by omega) (by decide) (sk_8 hs.S) (Nat.le_of_ble_eq_true rfl) (Nat.le_refl _) (Nat.le_refl _) (t_kR hs (tWs_sub rfl) h (fun r11 μ10 hs h => ?_))
    refine g_put dX0_walks_103 fX0_311 rfl (by decide) (sk_8 hs.S) (fun e => absurd e (by decide)) (p_w hs sf_8 (tWs_in _ rfl) fun μ12 eμ12 hs => ?_)
    have h := h μ12 eμ12
    refine g_aload_n (q := 0) dX0_walks_106 rfl rfl ?_
    refine g_aload (q := 3) dX0_walks_107 rfl ?_
    refine g_aload (q := 4) dX0_walks_109 rfl ?_
    obtain ⟨c13, h⟩ := h
    refine g_callV2 dX0_walks_111 kX0_meets q1019 q1021 qs27 (ci := 0) rfl (by decide) rfl (by omega) (by decide) (sk_1 hs.S) (Nat.le_of_ble_eq_true rfl) (Nat.le_refl _) (Nat.le_refl _) (t_pI hs (pX0_meets hs (tWs_TC ⟨rfl, rfl⟩) c13) ?_)
    refine g_if_eq (tgt := 119) dX0_walks_114 (by decide) (fun c14 => ?_) (fun c15 => ?_)
    · have h := h.1 (b2i_0.mp c14)
      refine g_iinc (q := 2) dX0_walks_119 (by decide) rfl [1, 2, 0, 3, 4] rfl ?_
      refine g_goto (tgt := 53) dX0_walks_122 (by decide) ?_
      exact g_less [0, 1, 2] rfl h
    · have h := h.2 (b2i_1.mp c15)
      refine g_iconst dX0_walks_117 (by decide) ?_
      exact g_iret dX0_walks_118 rfl (Nat.le_refl _) (Nat.le_refl _) ⟨_, rfl, hs, h⟩
theorem uX0_wander_0 {d : Nat} {μ0 μ : tm_M} {K : Int → tm_M → Prop} {ν : tm_M} {v1 v2 v3 : Int} (hd : 1 ≤ d) (hs : tFr (tWs [7, 8] [(1, 10)]) μ0 μ)
    (h : (JU μ0 ν) ∧ ((¬ (0 ≤ v2 ∧ v2 < tm_v ν 65 20) → (∀ μ4, μ4 = tm_w μ 1 10 2 → K (-1) μ4)) ∧ (0 ≤ v2 ∧ v2 < tm_v ν 65 20 → (0 ≤ v3 ∧ v3 < tm_v ν 65 20 → (0 ≤ v1 → (ob μ0 (tm_v μ0 1 8) 4) ∧ ((ob μ0 (tm_v μ0 (tm_v μ0 1 8) 0) 26) ∧ ((0 ≤ v2 ∧ v2 < tm_n μ0 (tm_v μ0 (tm_v μ0 1 8) 0)) ∧ ((∀ μ14, μ14 = tm_w μ 7 1 (tm_v μ0 (tm_v μ0 (tm_v μ0 1 8) 0) v2) → (0 ≤ v3 ∧ v3 < tm_n μ0 (tm_v μ0 (tm_v μ0 1 8) 0)) ∧ ((∀ μ16, μ16 = tm_w μ14 8 1 (tm_v μ0 (tm_v μ0 (tm_v μ0 1 8) 0) v3) → hI (tWs [7, 8] [(1, 10)]) μ0 mX0_wander d K 70 [(0, 2, 1), (4, 0, v1), (5, 0, 0)] [] μ16))))))) ∧ (v1 < 0 → (∀ μ17, μ17 = tm_w μ 1 10 5 → K (-1) μ17))) ∧ (¬ (0 ≤ v3 ∧ v3 < tm_v ν 65 20) → (∀ μ20, μ20 = tm_w μ 1 10 2 → K (-1) μ20))))) :
    hI (tWs [7, 8] [(1, 10)]) μ0 mX0_wander d K 0 [(0, 2, 1), (1, 0, v1), (2, 0, v2), (3, 0, v3)] [] μ := by
  refine g_aload_n (q := 0) dX0_wander_0 rfl rfl ?_
  refine g_iload_n (q := 2) dX0_wander_1 rfl rfl ?_
  obtain ⟨c1, h⟩ := h
  refine g_callV1 dX0_wander_2 kX0_isPlace q872 q874 qs18 (ci := 0) rfl (by decide) rfl (by omega) (by decide) (sk_1 hs.S) (Nat.le_of_ble_eq_true rfl) (Nat.le_refl _) (Nat.le_refl _) (t_pI hs (pX0_isPlace hs (tWs_TC ⟨rfl, rfl⟩) c1) ?_)
  refine g_if_eq (tgt := 16) dX0_wander_5 (by decide) (fun c2 => ?_) (fun c3 => ?_)
  · have h := h.1 (b2i_0.mp c2)
    refine g_aload_n (q := 0) dX0_wander_16 rfl rfl ?_
    refine g_iconst dX0_wander_17 (by decide) ?_
    refine g_callV1 dX0_wander_18 kX0_none q636 q638 qs3 (ci := 0) rfl (by decide) rfl (by omega) (by decide) (sk_1 hs.S) (Nat.le_of_ble_eq_true rfl) (Nat.le_refl _) (Nat.le_refl _) (t_kI hs (tWs_sub rfl) (pX0_none hs.S) (fun r6 μ4 hs e5 => ?_))
    obtain ⟨rfl, e5⟩ := e5
    have h := h μ4 e5
    exact g_iret dX0_wander_21 rfl (Nat.le_refl _) (Nat.le_refl _) ⟨_, rfl, hs, h⟩
  · have h := h.2 (b2i_1.mp c3)
    refine g_aload_n (q := 0) dX0_wander_8 rfl rfl ?_
    refine g_iload_n (q := 3) dX0_wander_9 rfl rfl ?_
    refine g_callV1 dX0_wander_10 kX0_isPlace q872 q874 qs18 (ci := 0) rfl (by decide) rfl (by omega) (by decide) (sk_1 hs.S) (Nat.le_of_ble_eq_true rfl) (Nat.le_refl _) (Nat.le_refl _) (t_pI hs (pX0_isPlace hs (tWs_TC ⟨rfl, rfl⟩) c1) ?_)
    refine g_if_ne (tgt := 22) dX0_wander_13 (by decide) (fun c7 => ?_) (fun c8 => ?_)
    · have h := h.1 (b2i_1.mp c7)
      refine g_iload_n (q := 1) dX0_wander_22 rfl rfl ?_
      refine g_if_ge (tgt := 32) dX0_wander_23 (by decide) (fun c9 => ?_) (fun c10 => ?_)
      · have h := h.1 c9
        refine g_aload_n (q := 0) dX0_wander_32 rfl rfl ?_
        refine g_getC (x := 7) 2 dX0_wander_33 fX0_40 rfl (by decide) (sk_1 hs.S) (sv_1_4 hs.S) ?_
        refine g_aload_n (q := 0) dX0_wander_36 rfl rfl ?_
        refine g_getC (x := tm_v μ0 1 8) 2 dX0_wander_37 fX0_57 rfl (by decide) (sk_1 hs.S) (hs.v (tWs_noF rfl)) ?_
        obtain ⟨c11, h⟩ := h
        refine g_getC (x := tm_v μ0 (tm_v μ0 1 8) 0) 2 dX0_wander_40 fX0_240 rfl c11.1.1 (hs.k ▸ c11.1.2) (hs.v (tWs_ob rfl c11)) ?_
        refine g_iload_n (q := 2) dX0_wander_43 rfl rfl ?_
        obtain ⟨c12, h⟩ := h
        obtain ⟨c13, h⟩ := h
        refine g_aaloadC (x := tm_v μ0 (tm_v μ0 (tm_v μ0 1 8) 0) v2) dX0_wander_44 c12.1.1 (hs.k ▸ c12.1.2) (by decide) c13.1 (hs.n ▸ c13.2) (hs.v (tWs_ob rfl c12)) ?_
        refine g_put dX0_wander_45 fX0_311 rfl (by decide) (sk_7 hs.S) (fun e => absurd e (by decide)) (p_w hs sf_7 (tWs_in _ rfl) fun μ14 eμ14 hs => ?_)
        have h := h μ14 eμ14
        refine g_aload_n (q := 0) dX0_wander_48 rfl rfl ?_
        refine g_getC (x := 8) 2 dX0_wander_49 fX0_44 rfl (by decide) (sk_1 hs.S) (sv_1_5 hs.S) ?_
        refine g_aload_n (q := 0) dX0_wander_52 rfl rfl ?_
        refine g_getC (x := tm_v μ0 1 8) 2 dX0_wander_53 fX0_57 rfl (by decide) (sk_1 hs.S) (hs.v (tWs_noF rfl)) ?_
        refine g_getC (x := tm_v μ0 (tm_v μ0 1 8) 0) 2 dX0_wander_56 fX0_240 rfl c11.1.1 (hs.k ▸ c11.1.2) (hs.v (tWs_ob rfl c11)) ?_
        refine g_iload_n (q := 3) dX0_wander_59 rfl rfl ?_
        obtain ⟨c15, h⟩ := h
        refine g_aaloadC (x := tm_v μ0 (tm_v μ0 (tm_v μ0 1 8) 0) v3) dX0_wander_60 c12.1.1 (hs.k ▸ c12.1.2) (by decide) c15.1 (hs.n ▸ c15.2) (hs.v (tWs_ob rfl c12)) ?_
        refine g_put dX0_wander_61 fX0_311 rfl (by decide) (sk_8 hs.S) (fun e => absurd e (by decide)) (p_w hs sf_8 (tWs_in _ rfl) fun μ16 eμ16 hs => ?_)
        have h := h μ16 eμ16
        refine g_iload_n (q := 1) dX0_wander_64 rfl rfl ?_
        refine g_istore (L' := [(0, 2, 1), (1, 0, v1), (2, 0, v2), (3, 0, v3), (4, 0, v1)]) dX0_wander_65 (by decide) [1, 2, 3, 4, 0] rfl ?_
        refine g_iconst dX0_wander_67 (by decide) ?_
        refine g_istore (L' := [(0, 2, 1), (1, 0, v1), (2, 0, v2), (3, 0, v3), (4, 0, v1), (5, 0, 0)]) dX0_wander_68 (by decide) [1, 2, 3, 4, 5, 0] rfl ?_
        exact g_less [0, 4, 5] rfl h
      · have h := h.2 c10
        refine g_aload_n (q := 0) dX0_wander_26 rfl rfl ?_
        refine g_iconst dX0_wander_27 (by decide) ?_
        refine g_callV1 dX0_wander_28 kX0_none q636 q638 qs3 (ci := 0) rfl (by decide) rfl (by omega) (by decide) (sk_1 hs.S) (Nat.le_of_ble_eq_true rfl) (Nat.le_refl _) (Nat.le_refl _) (t_kI hs (tWs_sub rfl) (pX0_none hs.S) (fun r19 μ17 hs e18 => ?_))
        obtain ⟨rfl, e18⟩ := e18
        have h := h μ17 e18
        exact g_iret dX0_wander_31 rfl (Nat.le_refl _) (Nat.le_refl _) ⟨_, rfl, hs, h⟩
    · have h := h.2 (b2i_0.mp c8)
      refine g_aload_n (q := 0) dX0_wander_16 rfl rfl ?_
      refine g_iconst dX0_wander_17 (by decide) ?_
      refine g_callV1 dX0_wander_18 kX0_none q636 q638 qs3 (ci := 0) rfl (by decide) rfl (by omega) (by decide) (sk_1 hs.S) (Nat.le_of_ble_eq_true rfl) (Nat.le_refl _) (Nat.le_refl _) (t_kI hs (tWs_sub rfl) (pX0_none hs.S) (fun r22 μ20 hs e21 => ?_))
      obtain ⟨rfl, e21⟩ := e21
      have h := h μ20 e21
      exact g_iret dX0_wander_21 rfl (Nat.le_refl _) (Nat.le_refl _) ⟨_, rfl, hs, h⟩
theorem uX0_wander_70 {d : Nat} {μ0 μ : tm_M} {K : Int → tm_M → Prop} {ν : tm_M} {v4 v5 : Int} (hd : 2 ≤ d) (hs : tFr (tWs [7, 8] [(1, 10)]) μ0 μ)
    (h : (1000 < v5 → (∀ μ3, μ3 = tm_w μ 1 10 8 → K (-1) μ3)) ∧ (v5 ≤ 1000 → (tm_v μ 7 1 ≠ tm_v μ 8 1 → (v5 ≠ 1000 → (∀ x10, x10 = tm_v μ 7 1 → (∀ x11, x11 = tm_v μ 8 1 → (∀ x12, x12 = i_and (w32 ((w32 (v4 * 1103515245)) + 12345)) 2147483647 → (ob μ0 x10 7) ∧ ((JU μ0 ν ∧ isP μ0 ν x10) ∧ ((∀ μ15, μ15 = tm_w μ 7 1 (c_P μ0 (y_go ν (tm_v μ0 x10 1) ((w32 (x12.tdiv 65536)).tmod 5))) → (∀ x16, x16 = i_and (w32 ((w32 (x12 * 1103515245)) + 12345)) 2147483647 → (ob μ0 x11 7) ∧ ((JU μ0 ν ∧ isP μ0 ν x11) ∧ ((∀ μ19, μ19 = tm_w μ15 8 1 (c_P μ0 (y_go ν (tm_v μ0 x11 1) ((w32 (x16.tdiv 65536)).tmod 5))) → (JU μ0 ν) ∧ ((¬ (tm_v μ19 7 1 = tm_v μ19 8 1 ∨ (tm_v ν 65 28 ≠ 0 ∧ tm_v μ19 7 1 = x11 ∧ tm_v μ19 8 1 = x10)) → hI (tWs [7, 8] [(1, 10)]) μ0 mX0_wander d K 70 [(0, 2, 1), (4, 0, x16), (5, 0, w32 (v5 + 1))] [] μ19) ∧ (tm_v μ19 7 1 = tm_v μ19 8 1 ∨ (tm_v ν 65 28 ≠ 0 ∧ tm_v μ19 7 1 = x11 ∧ tm_v μ19 8 1 = x10) → (∀ μ23, μ23 = tm_w μ19 1 10 0 → K (w32 (v5 + 1)) μ23)))))))))))))) ∧ (v5 = 1000 → (∀ μ26, μ26 = tm_w μ 1 10 8 → K (-1) μ26))) ∧ (tm_v μ 7 1 = tm_v μ 8 1 → (∀ μ29, μ29 = tm_w μ 1 10 0 → K v5 μ29)))) :
    hI (tWs [7, 8] [(1, 10)]) μ0 mX0_wander d K 70 [(0, 2, 1), (4, 0, v4), (5, 0, v5)] [] μ := by
  refine g_iload (q := 2) dX0_wander_70 rfl ?_
  refine g_sipush dX0_wander_72 ⟨by decide, by decide, rfl⟩ ?_
  refine g_icmp_gt (tgt := 229) dX0_wander_75 (by decide) (fun c1 => ?_) (fun c2 => ?_)
  · have h := h.1 c1
    refine g_aload_n (q := 0) dX0_wander_229 rfl rfl ?_
    refine g_bipush dX0_wander_230 ⟨by decide, by decide, rfl⟩ ?_
    refine g_callV1 dX0_wander_232 kX0_none q636 q638 qs3 (ci := 0) rfl (by decide) rfl (by omega) (by decide) (sk_1 hs.S) (Nat.le_of_ble_eq_true rfl) (Nat.le_refl _) (Nat.le_refl _) (t_kI hs (tWs_sub rfl) (pX0_none hs.S) (fun r5 μ3 hs e4 => ?_))
    obtain ⟨rfl, e4⟩ := e4
    have h := h μ3 e4
    exact g_iret dX0_wander_235 rfl (Nat.le_refl _) (Nat.le_refl _) ⟨_, rfl, hs, h⟩
  · have h := h.2 c2
    refine g_aload_n (q := 0) dX0_wander_78 rfl rfl ?_
    refine g_getC (x := 7) 2 dX0_wander_79 fX0_40 rfl (by decide) (sk_1 hs.S) (sv_1_4 hs.S) ?_
    refine g_get 2 dX0_wander_82 fX0_311 rfl (by decide) (sk_7 hs.S) ?_
    refine g_aload_n (q := 0) dX0_wander_85 rfl rfl ?_
    refine g_getC (x := 8) 2 dX0_wander_86 fX0_44 rfl (by decide) (sk_1 hs.S) (sv_1_5 hs.S) ?_
    refine g_get 2 dX0_wander_89 fX0_311 rfl (by decide) (sk_8 hs.S) ?_
    refine g_acmp_ne (tgt := 102) dX0_wander_92 (by decide) (fun c6 => ?_) (fun c7 => ?_)
    · have h := h.1 c6
      refine g_iload (q := 2) dX0_wander_102 rfl ?_
      refine g_sipush dX0_wander_104 ⟨by decide, by decide, rfl⟩ ?_
      refine g_icmp_ne (tgt := 113) dX0_wander_107 (by decide) (fun c8 => ?_) (fun c9 => ?_)
      · have h := h.1 c8
        refine g_aload_n (q := 0) dX0_wander_113 rfl rfl ?_
        refine g_getC (x := 7) 2 dX0_wander_114 fX0_40 rfl (by decide) (sk_1 hs.S) (sv_1_4 hs.S) ?_
        refine g_get 2 dX0_wander_117 fX0_311 rfl (by decide) (sk_7 hs.S) ?_
        refine g_astoreN (fun z => [(0, 2, 1), (4, 0, v4), (5, 0, v5), (6, 2, z)]) dX0_wander_120 (by decide) [1, 2, 3, 0] (fun _ => rfl) (fun x10 ex10 => ?_)
        have h := h x10 ex10
        refine g_aload_n (q := 0) dX0_wander_122 rfl rfl ?_
        refine g_getC (x := 8) 2 dX0_wander_123 fX0_44 rfl (by decide) (sk_1 hs.S) (sv_1_5 hs.S) ?_
        refine g_get 2 dX0_wander_126 fX0_311 rfl (by decide) (sk_8 hs.S) ?_
        refine g_astoreN (fun z => [(0, 2, 1), (4, 0, v4), (5, 0, v5), (6, 2, x10), (7, 2, z)]) dX0_wander_129 (by decide) [1, 2, 3, 4, 0] (fun _ => rfl) (fun x11 ex11 => ?_)
        have h := h x11 ex11
        refine g_iload (q := 1) dX0_wander_131 rfl ?_
        refine g_ldcw (v := 1103515245) (by decide) q1181c dX0_wander_133 ?_
        refine g_imul dX0_wander_136 ?_
        refine g_sipush dX0_wander_137 ⟨by decide, by decide, rfl⟩ ?_
        refine g_iadd dX0_wander_140 ?_
        refine g_ldcw (v := 2147483647) (by decide) q1182c dX0_wander_141 ?_
        refine g_iand dX0_wander_144 ?_
        refine g_istoreN (fun z => [(0, 2, 1), (4, 0, z), (5, 0, v5), (6, 2, x10), (7, 2, x11)]) dX0_wander_145 (by decide) [1, 0, 2, 3, 4] (fun _ => rfl) (fun x12 ex12 => ?_)
        have h := h x12 ex12
        refine g_aload_n (q := 0) dX0_wander_147 rfl rfl ?_
        refine g_getC (x := 7) 2 dX0_wander_148 fX0_40 rfl (by decide) (sk_1 hs.S) (sv_1_4 hs.S) ?_
        refine g_aload (q := 3) dX0_wander_151 rfl ?_
        refine g_iload (q := 1) dX0_wander_153 rfl ?_
        refine g_ldcw (v := 65536) (by decide) q1183c dX0_wander_155 ?_
        refine g_idiv dX0_wander_158 (by decide) ?_
        refine g_iconst dX0_wander_159 (by decide) ?_
        refine g_irem dX0_wander_160 (by decide) ?_
        obtain ⟨c13, h⟩ := h
        obtain ⟨c14, h⟩ := h
        refine g_callV1 dX0_wander_161 kX7_by q985 q898 q899 (ci := 7) rfl (by decide) rfl (by omega) c13.1.1 (hs.k ▸ c13.1.2) (Nat.le_of_ble_eq_true rfl) (Nat.le_refl _) (Nat.le_refl _) (t_pR hs (pX7_by (by omega) hs (tWs_TC ⟨rfl, rfl⟩) c14) ?_)
        refine g_put dX0_wander_164 fX0_311 rfl (by decide) (sk_7 hs.S) (fun e => absurd e (by decide)) (p_w hs sf_7 (tWs_in _ rfl) fun μ15 eμ15 hs => ?_)
        have h := h μ15 eμ15
        refine g_iload (q := 1) dX0_wander_167 rfl ?_
        refine g_ldcw (v := 1103515245) (by decide) q1181c dX0_wander_169 ?_
        refine g_imul dX0_wander_172 ?_
        refine g_sipush dX0_wander_173 ⟨by decide, by decide, rfl⟩ ?_
        refine g_iadd dX0_wander_176 ?_
        refine g_ldcw (v := 2147483647) (by decide) q1182c dX0_wander_177 ?_
        refine g_iand dX0_wander_180 ?_
        refine g_istoreN (fun z => [(0, 2, 1), (4, 0, z), (5, 0, v5), (6, 2, x10), (7, 2, x11)]) dX0_wander_181 (by decide) [1, 0, 2, 3, 4] (fun _ => rfl) (fun x16 ex16 => ?_)
        have h := h x16 ex16
        refine g_aload_n (q := 0) dX0_wander_183 rfl rfl ?_
        refine g_getC (x := 8) 2 dX0_wander_184 fX0_44 rfl (by decide) (sk_1 hs.S) (sv_1_5 hs.S) ?_
        refine g_aload (q := 4) dX0_wander_187 rfl ?_
        refine g_iload (q := 1) dX0_wander_189 rfl ?_
        refine g_ldcw (v := 65536) (by decide) q1183c dX0_wander_191 ?_
        refine g_idiv dX0_wander_194 (by decide) ?_
        refine g_iconst dX0_wander_195 (by decide) ?_
        refine g_irem dX0_wander_196 (by decide) ?_
        obtain ⟨c17, h⟩ := h
        obtain ⟨c18, h⟩ := h
        refine g_callV1 dX0_wander_197 kX7_by q985 q898 q899 (ci := 7) rfl (by decide) rfl (by omega) c17.1.1 (hs.k ▸ c17.1.2) (Nat.le_of_ble_eq_true rfl) (Nat.le_refl _) (Nat.le_refl _) (t_pR hs (pX7_by (by omega) hs (tWs_TC ⟨rfl, rfl⟩) c18) ?_)
        refine g_put dX0_wander_200 fX0_311 rfl (by decide) (sk_8 hs.S) (fun e => absurd e (by decide)) (p_w hs sf_8 (tWs_in _ rfl) fun μ19 eμ19 hs => ?_)
        have h := h μ19 eμ19
        refine g_aload_n (q := 0) dX0_wander_203 rfl rfl ?_
        refine g_aload (q := 3) dX0_wander_204 rfl ?_
        refine g_aload (q := 4) dX0_wander_206 rfl ?_
        obtain ⟨c20, h⟩ := h
        refine g_callV2 dX0_wander_208 kX0_meets q1019 q1021 qs27 (ci := 0) rfl (by decide) rfl (by omega) (by decide) (sk_1 hs.S) (Nat.le_of_ble_eq_true rfl) (Nat.le_refl _) (Nat.le_refl _) (t_pI hs (pX0_meets hs (tWs_TC ⟨rfl, rfl⟩) c20) ?_)
        refine g_if_eq (tgt := 223) dX0_wander_211 (by decide) (fun c21 => ?_) (fun c22 => ?_)
        · have h := h.1 (b2i_0.mp c21)
          refine g_iinc (q := 2) dX0_wander_223 (by decide) rfl [1, 2, 0, 3, 4] rfl ?_
          refine g_goto (tgt := 70) dX0_wander_226 (by decide) ?_
          exact g_less [0, 1, 2] rfl h
        · have h := h.2 (b2i_1.mp c22)
          refine g_aload_n (q := 0) dX0_wander_214 rfl rfl ?_
          refine g_iload (q := 2) dX0_wander_215 rfl ?_
          refine g_iconst dX0_wander_217 (by decide) ?_
          refine g_iadd dX0_wander_218 ?_
          refine g_callV1 dX0_wander_219 kX0_gives q856 q858 qs17 (ci := 0) rfl (by decide) rfl (by omega) (by decide) (sk_1 hs.S) (Nat.le_of_ble_eq_true rfl) (Nat.le_refl _) (Nat.le_refl _) (t_kI hs (tWs_sub rfl) (pX0_gives hs.S) (fun r25 μ23 hs e24 => ?_))
          obtain ⟨rfl, e24⟩ := e24
          have h := h μ23 e24
          exact g_iret dX0_wander_222 rfl (Nat.le_refl _) (Nat.le_refl _) ⟨_, rfl, hs, h⟩
      · have h := h.2 c9
        refine g_goto (tgt := 229) dX0_wander_110 (by decide) ?_
        refine g_aload_n (q := 0) dX0_wander_229 rfl rfl ?_
        refine g_bipush dX0_wander_230 ⟨by decide, by decide, rfl⟩ ?_
        refine g_callV1 dX0_wander_232 kX0_none q636 q638 qs3 (ci := 0) rfl (by decide) rfl (by omega) (by decide) (sk_1 hs.S) (Nat.le_of_ble_eq_true rfl) (Nat.le_refl _) (Nat.le_refl _) (t_kI hs (tWs_sub rfl) (pX0_none hs.S) (fun r28 μ26 hs e27 => ?_))
        obtain ⟨rfl, e27⟩ := e27
        have h := h μ26 e27
        exact g_iret dX0_wander_235 rfl (Nat.le_refl _) (Nat.le_refl _) ⟨_, rfl, hs, h⟩
    · have h := h.2 c7
      refine g_aload_n (q := 0) dX0_wander_95 rfl rfl ?_
      refine g_iload (q := 2) dX0_wander_96 rfl ?_
      refine g_callV1 dX0_wander_98 kX0_gives q856 q858 qs17 (ci := 0) rfl (by decide) rfl (by omega) (by decide) (sk_1 hs.S) (Nat.le_of_ble_eq_true rfl) (Nat.le_refl _) (Nat.le_refl _) (t_kI hs (tWs_sub rfl) (pX0_gives hs.S) (fun r31 μ29 hs e30 => ?_))
      obtain ⟨rfl, e30⟩ := e30
      have h := h μ29 e30
      exact g_iret dX0_wander_101 rfl (Nat.le_refl _) (Nat.le_refl _) ⟨_, rfl, hs, h⟩
