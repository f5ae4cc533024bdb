theorem uX0_value_0 {d : Nat} {μ0 μ : tm_M} {K : Int → tm_M → Prop} {ν : tm_M} {v1 v2 v3 v4 v5 v6 v7 : Int} (hd : 1 ≤ d) (hf : dyA (c_FA μ0) ∧ tm_k μ0 (c_FA μ0) = 20) (hs : tFr (tWf [7, 8, 10, 53, 54, 55, 56, 57, 58, 59, 60] [(1, 10), (1, 14), (1, 15), (1, 45), (1, 46), (1, 47)] (c_FA μ0)) μ0 μ)
    (h : (¬ (0 ≤ v1 ∧ v1 < 4) → hI (tWf [7, 8, 10, 53, 54, 55, 56, 57, 58, 59, 60] [(1, 10), (1, 14), (1, 15), (1, 45), (1, 46), (1, 47)] (c_FA μ0)) μ0 mX0_value d K 14 [(0, 2, 1)] [] μ) ∧ (0 ≤ v1 ∧ v1 < 4 → (0 ≤ v3 ∧ v3 < 4 → (JU μ0 ν) ∧ ((¬ (0 ≤ v5 ∧ v5 < tm_v ν 65 20) → hI (tWf [7, 8, 10, 53, 54, 55, 56, 57, 58, 59, 60] [(1, 10), (1, 14), (1, 15), (1, 45), (1, 46), (1, 47)] (c_FA μ0)) μ0 mX0_value d K 38 [(0, 2, 1)] [] μ) ∧ (0 ≤ v5 ∧ v5 < tm_v ν 65 20 → (0 ≤ v6 ∧ v6 < tm_v ν 65 20 → (0 ≤ v1 ∧ v1 < 4) ∧ ((0 ≤ v3 ∧ v3 < 4) ∧ ((tm_v μ (61 + v1) 0 = 0 → hI (tWf [7, 8, 10, 53, 54, 55, 56, 57, 58, 59, 60] [(1, 10), (1, 14), (1, 15), (1, 45), (1, 46), (1, 47)] (c_FA μ0)) μ0 mX0_value d K 76 [(0, 2, 1)] [] μ) ∧ (1 ≤ tm_v μ (61 + v1) 0 → (1 ≤ tm_v μ (61 + v3) 0 → (v2 < 1 → hI (tWf [7, 8, 10, 53, 54, 55, 56, 57, 58, 59, 60] [(1, 10), (1, 14), (1, 15), (1, 45), (1, 46), (1, 47)] (c_FA μ0)) μ0 mX0_value d K 117 [(0, 2, 1)] [] μ) ∧ (1 ≤ v2 → (3 < v2 → hI (tWf [7, 8, 10, 53, 54, 55, 56, 57, 58, 59, 60] [(1, 10), (1, 14), (1, 15), (1, 45), (1, 46), (1, 47)] (c_FA μ0)) μ0 mX0_value d K 117 [(0, 2, 1)] [] μ) ∧ (v2 ≤ 3 → (v4 < 1 → hI (tWf [7, 8, 10, 53, 54, 55, 56, 57, 58, 59, 60] [(1, 10), (1, 14), (1, 15), (1, 45), (1, 46), (1, 47)] (c_FA μ0)) μ0 mX0_value d K 117 [(0, 2, 1)] [] μ) ∧ (1 ≤ v4 → (3 < v4 → hI (tWf [7, 8, 10, 53, 54, 55, 56, 57, 58, 59, 60] [(1, 10), (1, 14), (1, 15), (1, 45), (1, 46), (1, 47)] (c_FA μ0)) μ0 mX0_value d K 117 [(0, 2, 1)] [] μ) ∧ (v4 ≤ 3 → (v7 < 1 → hI (tWf [7, 8, 10, 53, 54, 55, 56, 57, 58, 59, 60] [(1, 10), (1, 14), (1, 15), (1, 45), (1, 46), (1, 47)] (c_FA μ0)) μ0 mX0_value d K 117 [(0, 2, 1)] [] μ) ∧ (1 ≤ v7 → (v7 ≤ 100 → ((JU μ0 ν ∧ JY μ0 ν) ∧ isY ν (61 + v1)) ∧ ((tm_v ν 67 ((61 + v1) - 61) < v2 → hI (tWf [7, 8, 10, 53, 54, 55, 56, 57, 58, 59, 60] [(1, 10), (1, 14), (1, 15), (1, 45), (1, 46), (1, 47)] (c_FA μ0)) μ0 mX0_value d K 142 [(0, 2, 1)] [] μ) ∧ (v2 ≤ tm_v ν 67 ((61 + v1) - 61) → ((JU μ0 ν ∧ JY μ0 ν) ∧ isY ν (61 + v3)) ∧ ((v4 ≤ tm_v ν 67 ((61 + v3) - 61) → cI (tWs [] []) mX0_areWays (d - 1) [(2, 1), (2, 61 + v1), (0, v2)] μ (fun r35 μ34 => (r35 = 0 → hI (tWf [7, 8, 10, 53, 54, 55, 56, 57, 58, 59, 60] [(1, 10), (1, 14), (1, 15), (1, 45), (1, 46), (1, 47)] (c_FA μ0)) μ0 mX0_value d K 169 [(0, 2, 1)] [] μ34) ∧ (r35 ≠ 0 → cI (tWs [] []) mX0_areWays (d - 1) [(2, 1), (2, 61 + v3), (0, v4)] μ34 (fun r39 μ38 => (r39 ≠ 0 → hI (tWf [7, 8, 10, 53, 54, 55, 56, 57, 58, 59, 60] [(1, 10), (1, 14), (1, 15), (1, 45), (1, 46), (1, 47)] (c_FA μ0)) μ0 mX0_value d K 178 [(0, 2, 1), (2, 0, v2), (4, 0, v4), (5, 0, v5), (6, 0, v6), (7, 0, v7), (8, 2, 61 + v1), (9, 2, 61 + v3), (10, 0, 0)] [] μ38) ∧ (r39 = 0 → hI (tWf [7, 8, 10, 53, 54, 55, 56, 57, 58, 59, 60] [(1, 10), (1, 14), (1, 15), (1, 45), (1, 46), (1, 47)] (c_FA μ0)) μ0 mX0_value d K 169 [(0, 2, 1)] [] μ38))))) ∧ (tm_v ν 67 ((61 + v3) - 61) < v4 → hI (tWf [7, 8, 10, 53, 54, 55, 56, 57, 58, 59, 60] [(1, 10), (1, 14), (1, 15), (1, 45), (1, 46), (1, 47)] (c_FA μ0)) μ0 mX0_value d K 142 [(0, 2, 1)] [] μ))))) ∧ (100 < v7 → hI (tWf [7, 8, 10, 53, 54, 55, 56, 57, 58, 59, 60] [(1, 10), (1, 14), (1, 15), (1, 45), (1, 46), (1, 47)] (c_FA μ0)) μ0 mX0_value d K 117 [(0, 2, 1)] [] μ))))))) ∧ (tm_v μ (61 + v3) 0 = 0 → hI (tWf [7, 8, 10, 53, 54, 55, 56, 57, 58, 59, 60] [(1, 10), (1, 14), (1, 15), (1, 45), (1, 46), (1, 47)] (c_FA μ0)) μ0 mX0_value d K 76 [(0, 2, 1)] [] μ))))) ∧ (¬ (0 ≤ v6 ∧ v6 < tm_v ν 65 20) → hI (tWf [7, 8, 10, 53, 54, 55, 56, 57, 58, 59, 60] [(1, 10), (1, 14), (1, 15), (1, 45), (1, 46), (1, 47)] (c_FA μ0)) μ0 mX0_value d K 38 [(0, 2, 1)] [] μ)))) ∧ (¬ (0 ≤ v3 ∧ v3 < 4) → hI (tWf [7, 8, 10, 53, 54, 55, 56, 57, 58, 59, 60] [(1, 10), (1, 14), (1, 15), (1, 45), (1, 46), (1, 47)] (c_FA μ0)) μ0 mX0_value d K 14 [(0, 2, 1)] [] μ))) :
    hI (tWf [7, 8, 10, 53, 54, 55, 56, 57, 58, 59, 60] [(1, 10), (1, 14), (1, 15), (1, 45), (1, 46), (1, 47)] (c_FA μ0)) μ0 mX0_value d K 0 [(0, 2, 1), (1, 0, v1), (2, 0, v2), (3, 0, v3), (4, 0, v4), (5, 0, v5), (6, 0, v6), (7, 0, v7)] [] μ := by
  refine g_iload_n (q := 1) dX0_value_0 rfl rfl ?_
  refine g_callS1 dX0_value_1 kX0_isTray q564 q565 rfl (by omega) (Nat.le_of_ble_eq_true rfl) (Nat.le_refl _) (Nat.le_refl _) (t_pI hs (pX0_isTray hs (tWf_TC hf.1 ⟨rfl, rfl⟩)) ?_)
  refine g_if_eq (tgt := 14) dX0_value_4 (by decide) (fun c1 => ?_) (fun c2 => ?_)
  · have h := h.1 (b2i_0.mp c1)
    exact g_less [0] rfl h
  · have h := h.2 (b2i_1.mp c2)
    refine g_iload_n (q := 3) dX0_value_7 rfl rfl ?_
    refine g_callS1 dX0_value_8 kX0_isTray q564 q565 rfl (by omega) (Nat.le_of_ble_eq_true rfl) (Nat.le_refl _) (Nat.le_refl _) (t_pI hs (pX0_isTray hs (tWf_TC hf.1 ⟨rfl, rfl⟩)) ?_)
    refine g_if_ne (tgt := 20) dX0_value_11 (by decide) (fun c3 => ?_) (fun c4 => ?_)
    · have h := h.1 (b2i_1.mp c3)
      refine g_aload_n (q := 0) dX0_value_20 rfl rfl ?_
      refine g_iload (q := 5) dX0_value_21 rfl ?_
      obtain ⟨c5, h⟩ := h
      refine g_callV1 dX0_value_23 kX0_isPlace q872 q874 qs18 (ci := 0) rfl (by decide) rfl (by omega) (by decide) (sk_1 hs.S) (Nat.le_of_ble_eq_true rfl) (Nat.le_refl _) (Nat.le_refl _) (t_pI hs (pX0_isPlace hs (tWf_TC hf.1 ⟨rfl, rfl⟩) c5) ?_)
      refine g_if_eq (tgt := 38) dX0_value_26 (by decide) (fun c6 => ?_) (fun c7 => ?_)
      · have h := h.1 (b2i_0.mp c6)
        exact g_less [0] rfl h
      · have h := h.2 (b2i_1.mp c7)
        refine g_aload_n (q := 0) dX0_value_29 rfl rfl ?_
        refine g_iload (q := 6) dX0_value_30 rfl ?_
        refine g_callV1 dX0_value_32 kX0_isPlace q872 q874 qs18 (ci := 0) rfl (by decide) rfl (by omega) (by decide) (sk_1 hs.S) (Nat.le_of_ble_eq_true rfl) (Nat.le_refl _) (Nat.le_refl _) (t_pI hs (pX0_isPlace hs (tWf_TC hf.1 ⟨rfl, rfl⟩) c5) ?_)
        refine g_if_ne (tgt := 44) dX0_value_35 (by decide) (fun c8 => ?_) (fun c9 => ?_)
        · have h := h.1 (b2i_1.mp c8)
          refine g_aload_n (q := 0) dX0_value_44 rfl rfl ?_
          refine g_getC (x := 2) 2 dX0_value_45 fX0_11 rfl (by decide) (sk_1 hs.S) (sv_1_0 hs.S) ?_
          refine g_iload_n (q := 1) dX0_value_48 rfl rfl ?_
          obtain ⟨c10, h⟩ := h
          refine g_aaloadC (x := 61 + v1) dX0_value_49 (by decide) (sk_2 hs.S) (by decide) c10.1 (t_lt (sn_2 hs.S) c10.2) (sa_2 hs.S c10.1 c10.2) ?_
          refine g_astore (L' := [(0, 2, 1), (1, 0, v1), (2, 0, v2), (3, 0, v3), (4, 0, v4), (5, 0, v5), (6, 0, v6), (7, 0, v7), (8, 2, 61 + v1)]) dX0_value_50 (by decide) [1, 2, 3, 4, 5, 6, 7, 8, 0] rfl ?_
          refine g_aload_n (q := 0) dX0_value_52 rfl rfl ?_
          refine g_getC (x := 2) 2 dX0_value_53 fX0_11 rfl (by decide) (sk_1 hs.S) (sv_1_0 hs.S) ?_
          refine g_iload_n (q := 3) dX0_value_56 rfl rfl ?_
          obtain ⟨c11, h⟩ := h
          refine g_aaloadC (x := 61 + v3) dX0_value_57 (by decide) (sk_2 hs.S) (by decide) c11.1 (t_lt (sn_2 hs.S) c11.2) (sa_2 hs.S c11.1 c11.2) ?_
          refine g_astore (L' := [(0, 2, 1), (1, 0, v1), (2, 0, v2), (3, 0, v3), (4, 0, v4), (5, 0, v5), (6, 0, v6), (7, 0, v7), (8, 2, 61 + v1), (9, 2, 61 + v3)]) dX0_value_58 (by decide) [1, 2, 3, 4, 5, 6, 7, 8, 9, 0] rfl ?_
          refine g_aload (q := 8) dX0_value_60 rfl ?_
          refine g_get 2 dX0_value_62 fX0_186 rfl (by have := c10; omega) (sak_2 hs.S c10.1 c10.2) ?_
          refine g_ifnull (tgt := 76) dX0_value_65 (by decide) (fun c12 => ?_) (fun c13 => ?_)
          · have h := h.1 c12
            exact g_less [0] rfl h
          · have h := h.2 c13
            refine g_aload (q := 9) dX0_value_68 rfl ?_
            refine g_get 2 dX0_value_70 fX0_186 rfl (by have := c11; omega) (sak_2 hs.S c11.1 c11.2) ?_
            refine g_ifnonnull (tgt := 82) dX0_value_73 (by decide) (fun c14 => ?_) (fun c15 => ?_)
            · have h := h.1 c14
              refine g_iload_n (q := 2) dX0_value_82 rfl rfl ?_
              refine g_iconst dX0_value_83 (by decide) ?_
              refine g_icmp_lt (tgt := 117) dX0_value_84 (by decide) (fun c16 => ?_) (fun c17 => ?_)
              · have h := h.1 c16
                exact g_less [0] rfl h
              · have h := h.2 c17
                refine g_iload_n (q := 2) dX0_value_87 rfl rfl ?_
                refine g_iconst dX0_value_88 (by decide) ?_
                refine g_icmp_gt (tgt := 117) dX0_value_89 (by decide) (fun c18 => ?_) (fun c19 => ?_)
                · have h := h.1 c18
                  exact g_less [0] rfl h
                · have h := h.2 c19
                  refine g_iload (q := 4) dX0_value_92 rfl ?_
                  refine g_iconst dX0_value_94 (by decide) ?_
                  refine g_icmp_lt (tgt := 117) dX0_value_95 (by decide) (fun c20 => ?_) (fun c21 => ?_)
                  · have h := h.1 c20
                    exact g_less [0] rfl h
                  · have h := h.2 c21
                    refine g_iload (q := 4) dX0_value_98 rfl ?_
                    refine g_iconst dX0_value_100 (by decide) ?_
                    refine g_icmp_gt (tgt := 117) dX0_value_101 (by decide) (fun c22 => ?_) (fun c23 => ?_)
                    · have h := h.1 c22
                      exact g_less [0] rfl h
                    · have h := h.2 c23
                      refine g_iload (q := 7) dX0_value_104 rfl ?_
                      refine g_iconst dX0_value_106 (by decide) ?_
                      refine g_icmp_lt (tgt := 117) dX0_value_107 (by decide) (fun c24 => ?_) (fun c25 => ?_)
                      · have h := h.1 c24
                        exact g_less [0] rfl h
                      · have h := h.2 c25
                        refine g_iload (q := 7) dX0_value_110 rfl ?_
                        refine g_bipush dX0_value_112 ⟨by decide, by decide, rfl⟩ ?_
                        refine g_icmp_le (tgt := 123) dX0_value_114 (by decide) (fun c26 => ?_) (fun c27 => ?_)
                        · have h := h.1 c26
                          refine g_aload (q := 8) dX0_value_123 rfl ?_
                          obtain ⟨c28, h⟩ := h
                          refine g_callV0 dX0_value_125 kX5_many q905 q906 q907 (ci := 5) rfl (by decide) rfl (by omega) (by have := c10; omega) (sak_2 hs.S c10.1 c10.2) (Nat.le_of_ble_eq_true rfl) (Nat.le_refl _) (Nat.le_refl _) (t_pI hs (pX5_many hs (tWf_TC hf.1 ⟨rfl, rfl⟩) c28) ?_)
                          refine g_iload_n (q := 2) dX0_value_128 rfl rfl ?_
                          refine g_icmp_lt (tgt := 142) dX0_value_129 (by decide) (fun c29 => ?_) (fun c30 => ?_)
                          · have h := h.1 c29
                            exact g_less [0] rfl h
                          · have h := h.2 c30
                            refine g_aload (q := 9) dX0_value_132 rfl ?_
                            obtain ⟨c31, h⟩ := h
                            refine g_callV0 dX0_value_134 kX5_many q905 q906 q907 (ci := 5) rfl (by decide) rfl (by omega) (by have := c11; omega) (sak_2 hs.S c11.1 c11.2) (Nat.le_of_ble_eq_true rfl) (Nat.le_refl _) (Nat.le_refl _) (t_pI hs (pX5_many hs (tWf_TC hf.1 ⟨rfl, rfl⟩) c31) ?_)
                            refine g_iload (q := 4) dX0_value_137 rfl ?_
                            refine g_icmp_ge (tgt := 148) dX0_value_139 (by decide) (fun c32 => ?_) (fun c33 => ?_)
                            · have h := h.1 c32
                              refine g_aload_n (q := 0) dX0_value_148 rfl rfl ?_
                              refine g_aload (q := 8) dX0_value_149 rfl ?_
                              refine g_iload_n (q := 2) dX0_value_151 rfl rfl ?_
                              refine g_callV2 dX0_value_152 kX0_areWays q1146 q1148 qs45 (ci := 0) rfl (by decide) rfl (by omega) (by decide) (sk_1 hs.S) (Nat.le_of_ble_eq_true rfl) (Nat.le_refl _) (Nat.le_refl _) (t_kI hs (tWf_subL rfl) h (fun r35 μ34 hs h => ?_))
                              refine g_if_eq (tgt := 169) dX0_value_155 (by decide) (fun c36 => ?_) (fun c37 => ?_)
                              · have h := h.1 c36
                                exact g_less [0] rfl h
                              · have h := h.2 c37
                                refine g_aload_n (q := 0) dX0_value_158 rfl rfl ?_
                                refine g_aload (q := 9) dX0_value_159 rfl ?_
                                refine g_iload (q := 4) dX0_value_161 rfl ?_
                                refine g_callV2 dX0_value_163 kX0_areWays q1146 q1148 qs45 (ci := 0) rfl (by decide) rfl (by omega) (by decide) (sk_1 hs.S) (Nat.le_of_ble_eq_true rfl) (Nat.le_refl _) (Nat.le_refl _) (t_kI hs (tWf_subL rfl) h (fun r39 μ38 hs h => ?_))
                                refine g_if_ne (tgt := 175) dX0_value_166 (by decide) (fun c40 => ?_) (fun c41 => ?_)
                                · have h := h.1 c40
                                  refine g_iconst dX0_value_175 (by decide) ?_
                                  refine g_istore (L' := [(0, 2, 1), (1, 0, v1), (2, 0, v2), (3, 0, v3), (4, 0, v4), (5, 0, v5), (6, 0, v6), (7, 0, v7), (8, 2, 61 + v1), (9, 2, 61 + v3), (10, 0, 0)]) dX0_value_176 (by decide) [1, 2, 3, 4, 5, 6, 7, 8, 9, 10, 0] rfl ?_
                                  exact g_less [0, 2, 4, 5, 6, 7, 8, 9, 10] rfl h
                                · have h := h.2 c41
                                  exact g_less [0] rfl h
                            · have h := h.2 c33
                              exact g_less [0] rfl h
                        · have h := h.2 c27
                          exact g_less [0] rfl h
            · have h := h.2 c15
              exact g_less [0] rfl h
        · have h := h.2 (b2i_0.mp c9)
          exact g_less [0] rfl h
    · have h := h.2 (b2i_0.mp c4)
      exact g_less [0] rfl h
theorem uX0_value_14 {d : Nat} {μ0 μ : tm_M} {K : Int → tm_M → Prop} (hd : 1 ≤ d) (hf : dyA (c_FA μ0) ∧ tm_k μ0 (c_FA μ0) = 20) (hs : tFr (tWf [7, 8, 10, 53, 54, 55, 56, 57, 58, 59, 60] [(1, 10), (1, 14), (1, 15), (1, 45), (1, 46), (1, 47)] (c_FA μ0)) μ0 μ)
    (h : (∀ μ1, μ1 = tm_w μ 1 10 1 → K 0 μ1)) :
    hI (tWf [7, 8, 10, 53, 54, 55, 56, 57, 58, 59, 60] [(1, 10), (1, 14), (1, 15), (1, 45), (1, 46), (1, 47)] (c_FA μ0)) μ0 mX0_value d K 14 [(0, 2, 1)] [] μ := by
  refine g_aload_n (q := 0) dX0_value_14 rfl rfl ?_
  refine g_iconst dX0_value_15 (by decide) ?_
  refine g_callV1 dX0_value_16 kX0_is q567 q569 qs2 (ci := 0) rfl (by decide) rfl (by omega) (by decide) (sk_1 hs.S) (Nat.le_of_ble_eq_true rfl) (Nat.le_refl _) (Nat.le_refl _) (t_kI hs (tWf_subL rfl) (pX0_is hs.S) (fun r3 μ1 hs e2 => ?_))
  obtain ⟨rfl, e2⟩ := e2
  have h := h μ1 e2
  exact g_zret dX0_value_19 rfl (by decide) (Nat.le_refl _) (Nat.le_refl _) ⟨_, rfl, hs, h⟩
theorem uX0_value_38 {d : Nat} {μ0 μ : tm_M} {K : Int → tm_M → Prop} (hd : 1 ≤ d) (hf : dyA (c_FA μ0) ∧ tm_k μ0 (c_FA μ0) = 20) (hs : tFr (tWf [7, 8, 10, 53, 54, 55, 56, 57, 58, 59, 60] [(1, 10), (1, 14), (1, 15), (1, 45), (1, 46), (1, 47)] (c_FA μ0)) μ0 μ)
    (h : (∀ μ1, μ1 = tm_w μ 1 10 2 → K 0 μ1)) :
    hI (tWf [7, 8, 10, 53, 54, 55, 56, 57, 58, 59, 60] [(1, 10), (1, 14), (1, 15), (1, 45), (1, 46), (1, 47)] (c_FA μ0)) μ0 mX0_value d K 38 [(0, 2, 1)] [] μ := by
  refine g_aload_n (q := 0) dX0_value_38 rfl rfl ?_
  refine g_iconst dX0_value_39 (by decide) ?_
  refine g_callV1 dX0_value_40 kX0_is q567 q569 qs2 (ci := 0) rfl (by decide) rfl (by omega) (by decide) (sk_1 hs.S) (Nat.le_of_ble_eq_true rfl) (Nat.le_refl _) (Nat.le_refl _) (t_kI hs (tWf_subL rfl) (pX0_is hs.S) (fun r3 μ1 hs e2 => ?_))
  obtain ⟨rfl, e2⟩ := e2
  have h := h μ1 e2
  exact g_zret dX0_value_43 rfl (by decide) (Nat.le_refl _) (Nat.le_refl _) ⟨_, rfl, hs, h⟩
theorem uX0_value_76 {d : Nat} {μ0 μ : tm_M} {K : Int → tm_M → Prop} (hd : 1 ≤ d) (hf : dyA (c_FA μ0) ∧ tm_k μ0 (c_FA μ0) = 20) (hs : tFr (tWf [7, 8, 10, 53, 54, 55, 56, 57, 58, 59, 60] [(1, 10), (1, 14), (1, 15), (1, 45), (1, 46), (1, 47)] (c_FA μ0)) μ0 μ)
    (h : (∀ μ1, μ1 = tm_w μ 1 10 3 → K 0 μ1)) :
    hI (tWf [7, 8, 10, 53, 54, 55, 56, 57, 58, 59, 60] [(1, 10), (1, 14), (1, 15), (1, 45), (1, 46), (1, 47)] (c_FA μ0)) μ0 mX0_value d K 76 [(0, 2, 1)] [] μ := by
  refine g_aload_n (q := 0) dX0_value_76 rfl rfl ?_
  refine g_iconst dX0_value_77 (by decide) ?_
  refine g_callV1 dX0_value_78 kX0_is q567 q569 qs2 (ci := 0) rfl (by decide) rfl (by omega) (by decide) (sk_1 hs.S) (Nat.le_of_ble_eq_true rfl) (Nat.le_refl _) (Nat.le_refl _) (t_kI hs (tWf_subL rfl) (pX0_is hs.S) (fun r3 μ1 hs e2 => ?_))
  obtain ⟨rfl, e2⟩ := e2
  have h := h μ1 e2
  exact g_zret dX0_value_81 rfl (by decide) (Nat.le_refl _) (Nat.le_refl _) ⟨_, rfl, hs, h⟩
theorem uX0_value_117 {d : Nat} {μ0 μ : tm_M} {K : Int → tm_M → Prop} (hd : 1 ≤ d) (hf : dyA (c_FA μ0) ∧ tm_k μ0 (c_FA μ0) = 20) (hs : tFr (tWf [7, 8, 10, 53, 54, 55, 56, 57, 58, 59, 60] [(1, 10), (1, 14), (1, 15), (1, 45), (1, 46), (1, 47)] (c_FA μ0)) μ0 μ)
    (h : (∀ μ1, μ1 = tm_w μ 1 10 5 → K 0 μ1)) :
    hI (tWf [7, 8, 10, 53, 54, 55, 56, 57, 58, 59, 60] [(1, 10), (1, 14), (1, 15), (1, 45), (1, 46), (1, 47)] (c_FA μ0)) μ0 mX0_value d K 117 [(0, 2, 1)] [] μ := by
  refine g_aload_n (q := 0) dX0_value_117 rfl rfl ?_
  refine g_iconst dX0_value_118 (by decide) ?_
  refine g_callV1 dX0_value_119 kX0_is q567 q569 qs2 (ci := 0) rfl (by decide) rfl (by omega) (by decide) (sk_1 hs.S) (Nat.le_of_ble_eq_true rfl) (Nat.le_refl _) (Nat.le_refl _) (t_kI hs (tWf_subL rfl) (pX0_is hs.S) (fun r3 μ1 hs e2 => ?_))
  obtain ⟨rfl, e2⟩ := e2
  have h := h μ1 e2
  exact g_zret dX0_value_122 rfl (by decide) (Nat.le_refl _) (Nat.le_refl _) ⟨_, rfl, hs, h⟩
theorem uX0_value_142 {d : Nat} {μ0 μ : tm_M} {K : Int → tm_M → Prop} (hd : 1 ≤ d) (hf : dyA (c_FA μ0) ∧ tm_k μ0 (c_FA μ0) = 20) (hs : tFr (tWf [7, 8, 10, 53, 54, 55, 56, 57, 58, 59, 60] [(1, 10), (1, 14), (1, 15), (1, 45), (1, 46), (1, 47)] (c_FA μ0)) μ0 μ)
    (h : (∀ μ1, μ1 = tm_w μ 1 10 4 → K 0 μ1)) :
    hI (tWf [7, 8, 10, 53, 54, 55, 56, 57, 58, 59, 60] [(1, 10), (1, 14), (1, 15), (1, 45), (1, 46), (1, 47)] (c_FA μ0)) μ0 mX0_value d K 142 [(0, 2, 1)] [] μ := by
  refine g_aload_n (q := 0) dX0_value_142 rfl rfl ?_
  refine g_iconst dX0_value_143 (by decide) ?_
  refine g_callV1 dX0_value_144 kX0_is q567 q569 qs2 (ci := 0) rfl (by decide) rfl (by omega) (by decide) (sk_1 hs.S) (Nat.le_of_ble_eq_true rfl) (Nat.le_refl _) (Nat.le_refl _) (t_kI hs (tWf_subL rfl) (pX0_is hs.S) (fun r3 μ1 hs e2 => ?_))
  obtain ⟨rfl, e2⟩ := e2
  have h := h μ1 e2
  exact g_zret dX0_value_147 rfl (by decide) (Nat.le_refl _) (Nat.le_refl _) ⟨_, rfl, hs, h⟩
theorem uX0_value_169 {d : Nat} {μ0 μ : tm_M} {K : Int → tm_M → Prop} (hd : 1 ≤ d) (hf : dyA (c_FA μ0) ∧ tm_k μ0 (c_FA μ0) = 20) (hs : tFr (tWf [7, 8, 10, 53, 54, 55, 56, 57, 58, 59, 60] [(1, 10), (1, 14), (1, 15), (1, 45), (1, 46), (1, 47)] (c_FA μ0)) μ0 μ)
    (h : (∀ μ1, μ1 = tm_w μ 1 10 2 → K 0 μ1)) :
    hI (tWf [7, 8, 10, 53, 54, 55, 56, 57, 58, 59, 60] [(1, 10), (1, 14), (1, 15), (1, 45), (1, 46), (1, 47)] (c_FA μ0)) μ0 mX0_value d K 169 [(0, 2, 1)] [] μ := by
  refine g_aload_n (q := 0) dX0_value_169 rfl rfl ?_
  refine g_iconst dX0_value_170 (by decide) ?_
  refine g_callV1 dX0_value_171 kX0_is q567 q569 qs2 (ci := 0) rfl (by decide) rfl (by omega) (by decide) (sk_1 hs.S) (Nat.le_of_ble_eq_true rfl) (Nat.le_refl _) (Nat.le_refl _) (t_kI hs (tWf_subL rfl) (pX0_is hs.S) (fun r3 μ1 hs e2 => ?_))
  obtain ⟨rfl, e2⟩ := e2
  have h := h μ1 e2
  exact g_zret dX0_value_174 rfl (by decide) (Nat.le_refl _) (Nat.le_refl _) ⟨_, rfl, hs, h⟩
theorem uX0_value_178 {d : Nat} {μ0 μ : tm_M} {K : Int → tm_M → Prop} {v2 v4 v5 v6 v7 v8 v9 v10 : Int} (hf : dyA (c_FA μ0) ∧ tm_k μ0 (c_FA μ0) = 20) (hs : tFr (tWf [7, 8, 10, 53, 54, 55, 56, 57, 58, 59, 60] [(1, 10), (1, 14), (1, 15), (1, 45), (1, 46), (1, 47)] (c_FA μ0)) μ0 μ)
    (h : (3 ≤ v10 → (∀ μ3, μ3 = tm_w μ 1 46 0 → hI (tWf [7, 8, 10, 53, 54, 55, 56, 57, 58, 59, 60] [(1, 10), (1, 14), (1, 15), (1, 45), (1, 46), (1, 47)] (c_FA μ0)) μ0 mX0_value d K 286 [(0, 2, 1), (2, 0, v2), (4, 0, v4), (10, 0, 0)] [] μ3)) ∧ (v10 < 3 → hI (tWf [7, 8, 10, 53, 54, 55, 56, 57, 58, 59, 60] [(1, 10), (1, 14), (1, 15), (1, 45), (1, 46), (1, 47)] (c_FA μ0)) μ0 mX0_value d K 187 [(0, 2, 1), (2, 0, v2), (4, 0, v4), (5, 0, v5), (6, 0, v6), (7, 0, v7), (8, 2, v8), (9, 2, v9), (10, 0, v10), (11, 0, 0)] [] μ)) :
    hI (tWf [7, 8, 10, 53, 54, 55, 56, 57, 58, 59, 60] [(1, 10), (1, 14), (1, 15), (1, 45), (1, 46), (1, 47)] (c_FA μ0)) μ0 mX0_value d K 178 [(0, 2, 1), (2, 0, v2), (4, 0, v4), (5, 0, v5), (6, 0, v6), (7, 0, v7), (8, 2, v8), (9, 2, v9), (10, 0, v10)] [] μ := by
  refine g_iload (q := 8) dX0_value_178 rfl ?_
  refine g_iconst dX0_value_180 (by decide) ?_
  refine g_icmp_ge (tgt := 278) dX0_value_181 (by decide) (fun c1 => ?_) (fun c2 => ?_)
  · have h := h.1 c1
    refine g_aload_n (q := 0) dX0_value_278 rfl rfl ?_
    refine g_lconst0 dX0_value_279 ?_
    refine g_put dX0_value_280 fX0_455 rfl (by decide) (sk_1 hs.S) (fun e => absurd e (by decide)) (p_wj hs (by decide) (Or.inl (tWs_inF rfl)) fun μ3 eμ3 hs => ?_)
    have h := h μ3 eμ3
    refine g_iconst dX0_value_283 (by decide) ?_
    refine g_istore (L' := [(0, 2, 1), (2, 0, v2), (4, 0, v4), (5, 0, v5), (6, 0, v6), (7, 0, v7), (8, 2, v8), (9, 2, v9), (10, 0, 0)]) dX0_value_284 (by decide) [1, 2, 3, 4, 5, 6, 7, 8, 0] rfl ?_
    exact g_less [0, 1, 2, 8] rfl h
  · have h := h.2 c2
    refine g_iconst dX0_value_184 (by decide) ?_
    refine g_istore (L' := [(0, 2, 1), (2, 0, v2), (4, 0, v4), (5, 0, v5), (6, 0, v6), (7, 0, v7), (8, 2, v8), (9, 2, v9), (10, 0, v10), (11, 0, 0)]) dX0_value_185 (by decide) [1, 2, 3, 4, 5, 6, 7, 8, 9, 0] rfl ?_
    exact h
theorem uX0_value_187 {d : Nat} {μ0 μ : tm_M} {K : Int → tm_M → Prop} {ν : tm_M} {v2 v4 v5 v6 v7 v8 v9 v10 v11 : Int} (hd : 1 ≤ d) (hf : dyA (c_FA μ0) ∧ tm_k μ0 (c_FA μ0) = 20) (hs : tFr (tWf [7, 8, 10, 53, 54, 55, 56, 57, 58, 59, 60] [(1, 10), (1, 14), (1, 15), (1, 45), (1, 46), (1, 47)] (c_FA μ0)) μ0 μ)
    (h : (3 ≤ v11 → hI (tWf [7, 8, 10, 53, 54, 55, 56, 57, 58, 59, 60] [(1, 10), (1, 14), (1, 15), (1, 45), (1, 46), (1, 47)] (c_FA μ0)) μ0 mX0_value d K 178 [(0, 2, 1), (2, 0, v2), (4, 0, v4), (5, 0, v5), (6, 0, v6), (7, 0, v7), (8, 2, v8), (9, 2, v9), (10, 0, w32 (v10 + 1))] [] μ) ∧ (v11 < 3 → (v2 ≤ v10 → hI (tWf [7, 8, 10, 53, 54, 55, 56, 57, 58, 59, 60] [(1, 10), (1, 14), (1, 15), (1, 45), (1, 46), (1, 47)] (c_FA μ0)) μ0 mX0_value d K 233 [(0, 2, 1), (2, 0, v2), (4, 0, v4), (5, 0, v5), (6, 0, v6), (7, 0, v7), (8, 2, v8), (9, 2, v9), (10, 0, v10), (11, 0, v11)] [] μ) ∧ (v10 < v2 → (v4 ≤ v11 → hI (tWf [7, 8, 10, 53, 54, 55, 56, 57, 58, 59, 60] [(1, 10), (1, 14), (1, 15), (1, 45), (1, 46), (1, 47)] (c_FA μ0)) μ0 mX0_value d K 233 [(0, 2, 1), (2, 0, v2), (4, 0, v4), (5, 0, v5), (6, 0, v6), (7, 0, v7), (8, 2, v8), (9, 2, v9), (10, 0, v10), (11, 0, v11)] [] μ) ∧ (v11 < v4 → (1 ≤ v8 ∧ tm_k μ0 v8 = 5) ∧ (((JU μ0 ν ∧ JY μ0 ν) ∧ isY ν v8 ∧ 0 ≤ v10 ∧ v10 < tm_v ν 67 (v8 - 61)) ∧ ((1 ≤ v9 ∧ tm_k μ0 v9 = 5) ∧ (((JU μ0 ν ∧ JY μ0 ν) ∧ isY ν v9 ∧ 0 ≤ v11 ∧ v11 < tm_v ν 67 (v9 - 61)) ∧ (cI (tWf [7, 8, 10] [] (c_FA μ0)) mX0_meet (d - 1) [(2, 1), (0, w32 (tm_v ν 68 (64 * (v8 - 61) + v10))), (0, w32 (tm_v ν 68 (64 * (v9 - 61) + v11))), (0, v5), (0, v6)] μ (fun r12 μ11 => (0 ≤ v10 ∧ v10 < 3) ∧ ((r12 ≠ -1 → (0 ≤ v11 ∧ v11 < 3) ∧ ((∀ μ20, μ20 = tm_w μ11 (53 + v10) v11 (min v7 r12) → hI (tWf [7, 8, 10, 53, 54, 55, 56, 57, 58, 59, 60] [(1, 10), (1, 14), (1, 15), (1, 45), (1, 46), (1, 47)] (c_FA μ0)) μ0 mX0_value d K 187 [(0, 2, 1), (2, 0, v2), (4, 0, v4), (5, 0, v5), (6, 0, v6), (7, 0, v7), (8, 2, v8), (9, 2, v9), (10, 0, v10), (11, 0, w32 (v11 + 1))] [] μ20))) ∧ (r12 = -1 → (0 ≤ v11 ∧ v11 < 3) ∧ ((∀ μ22, μ22 = tm_w μ11 (53 + v10) v11 v7 → hI (tWf [7, 8, 10, 53, 54, 55, 56, 57, 58, 59, 60] [(1, 10), (1, 14), (1, 15), (1, 45), (1, 46), (1, 47)] (c_FA μ0)) μ0 mX0_value d K 187 [(0, 2, 1), (2, 0, v2), (4, 0, v4), (5, 0, v5), (6, 0, v6), (7, 0, v7), (8, 2, v8), (9, 2, v9), (10, 0, v10), (11, 0, w32 (v11 + 1))] [] μ22))))))))))))) :
    hI (tWf [7, 8, 10, 53, 54, 55, 56, 57, 58, 59, 60] [(1, 10), (1, 14), (1, 15), (1, 45), (1, 46), (1, 47)] (c_FA μ0)) μ0 mX0_value d K 187 [(0, 2, 1), (2, 0, v2), (4, 0, v4), (5, 0, v5), (6, 0, v6), (7, 0, v7), (8, 2, v8), (9, 2, v9), (10, 0, v10), (11, 0, v11)] [] μ := by
  refine g_iload (q := 9) dX0_value_187 rfl ?_
  refine g_iconst dX0_value_189 (by decide) ?_
  refine g_icmp_ge (tgt := 272) dX0_value_190 (by decide) (fun c1 => ?_) (fun c2 => ?_)
  · have h := h.1 c1
    refine g_iinc (q := 8) dX0_value_272 (by decide) rfl [1, 2, 3, 4, 5, 6, 7, 8, 0, 9] rfl ?_
    refine g_goto (tgt := 178) dX0_value_275 (by decide) ?_
    exact g_less [0, 1, 2, 3, 4, 5, 6, 7, 8] rfl h
  · have h := h.2 c2
    refine g_iload (q := 8) dX0_value_193 rfl ?_
    refine g_iload_n (q := 1) dX0_value_195 rfl rfl ?_
    refine g_icmp_ge (tgt := 233) dX0_value_196 (by decide) (fun c3 => ?_) (fun c4 => ?_)
    · have h := h.1 c3
      exact h
    · have h := h.2 c4
      refine g_iload (q := 9) dX0_value_199 rfl ?_
      refine g_iload (q := 2) dX0_value_201 rfl ?_
      refine g_icmp_ge (tgt := 233) dX0_value_203 (by decide) (fun c5 => ?_) (fun c6 => ?_)
      · have h := h.1 c5
        exact h
      · have h := h.2 c6
        refine g_aload_n (q := 0) dX0_value_206 rfl rfl ?_
        refine g_aload (q := 6) dX0_value_207 rfl ?_
        refine g_iload (q := 8) dX0_value_209 rfl ?_
        obtain ⟨c7, h⟩ := h
        obtain ⟨c8, h⟩ := h
        refine g_callV1 dX0_value_211 kX5_get q640 q641 q642 (ci := 5) rfl (by decide) rfl (by omega) c7.1 (hs.k ▸ c7.2) (Nat.le_of_ble_eq_true rfl) (Nat.le_refl _) (Nat.le_refl _) (t_pL hs (pX5_get hs (tWf_TC hf.1 ⟨rfl, rfl⟩) c8) ?_)
        refine g_l2i dX0_value_214 ?_
        refine g_aload (q := 7) dX0_value_215 rfl ?_
        refine g_iload (q := 9) dX0_value_217 rfl ?_
        obtain ⟨c9, h⟩ := h
        obtain ⟨c10, h⟩ := h
        refine g_callV1 dX0_value_219 kX5_get q640 q641 q642 (ci := 5) rfl (by decide) rfl (by omega) c9.1 (hs.k ▸ c9.2) (Nat.le_of_ble_eq_true rfl) (Nat.le_refl _) (Nat.le_refl _) (t_pL hs (pX5_get hs (tWf_TC hf.1 ⟨rfl, rfl⟩) c10) ?_)
        refine g_l2i dX0_value_222 ?_
        refine g_iload (q := 3) dX0_value_223 rfl ?_
        refine g_iload (q := 4) dX0_value_225 rfl ?_
        refine g_callV4 dX0_value_227 kX0_meet q973 q975 qs24 (ci := 0) rfl (by decide) rfl (by omega) (by decide) (sk_1 hs.S) (Nat.le_of_ble_eq_true rfl) (Nat.le_refl _) (Nat.le_refl _) (t_kI hs (tWf_sub rfl) h (fun r12 μ11 hs h => ?_))
        refine g_goto (tgt := 234) dX0_value_230 (by decide) ?_
        refine g_istore (L' := [(0, 2, 1), (2, 0, v2), (4, 0, v4), (5, 0, v5), (6, 0, v6), (7, 0, v7), (8, 2, v8), (9, 2, v9), (10, 0, v10), (11, 0, v11), (12, 0, r12)]) dX0_value_234 (by decide) [1, 2, 3, 4, 5, 6, 7, 8, 9, 10, 0] rfl ?_
        refine g_aload_n (q := 0) dX0_value_236 rfl rfl ?_
        refine g_getC (x := 52) 2 dX0_value_237 fX0_130 rfl (by decide) (sk_1 hs.S) (sv_1_39 hs.S) ?_
        refine g_iload (q := 8) dX0_value_240 rfl ?_
        obtain ⟨c13, h⟩ := h
        refine g_aaloadC (x := 53 + v10) dX0_value_242 (by decide) (sk_52 hs.S) (by decide) c13.1 (t_lt (sn_52 hs.S) c13.2) (sa_52 hs.S c13.1 c13.2) ?_
        refine g_iload (q := 9) dX0_value_243 rfl ?_
        refine g_iload (q := 10) dX0_value_245 rfl ?_
        refine g_iconst dX0_value_247 (by decide) ?_
        refine g_icmp_ne (tgt := 257) dX0_value_248 (by decide) (fun c14 => ?_) (fun c15 => ?_)
        · have h := h.1 c14
          refine g_iload (q := 5) dX0_value_257 rfl ?_
          refine g_iload (q := 10) dX0_value_259 rfl ?_
          refine g_callS2 dX0_value_261 kJ8_min q1150 q686 rfl (by omega) (Nat.le_of_ble_eq_true rfl) (Nat.le_refl _) (Nat.le_refl _) (t_pI hs (pJ8_min hs.S) ?_)
          refine g_i2l dX0_value_264 ?_
          obtain ⟨c19, h⟩ := h
          refine g_lastore dX0_value_265 (by have := c13; omega) (sak_52 hs.S c13.1 c13.2) c19.1 (t_lt (san_52 hs.S c13.1 c13.2) c19.2) (p_w hs (by have := c13; unfold tfr; omega) (Or.inl (tWs_r (lo := 53) (n := 3) rfl (by have := c13; omega))) fun μ20 eμ20 hs => ?_)
          have h := h μ20 eμ20
          refine g_iinc (q := 9) dX0_value_266 (by decide) rfl [1, 2, 3, 4, 5, 6, 7, 8, 9, 0, 10] rfl ?_
          refine g_goto (tgt := 187) dX0_value_269 (by decide) ?_
          exact g_less [0, 1, 2, 3, 4, 5, 6, 7, 8, 9] rfl h
        · have h := h.2 c15
          refine g_iload (q := 5) dX0_value_251 rfl ?_
          refine g_i2l dX0_value_253 ?_
          refine g_goto (tgt := 265) dX0_value_254 (by decide) ?_
          obtain ⟨c21, h⟩ := h
          refine g_lastore dX0_value_265 (by have := c13; omega) (sak_52 hs.S c13.1 c13.2) c21.1 (t_lt (san_52 hs.S c13.1 c13.2) c21.2) (p_w hs (by have := c13; unfold tfr; omega) (Or.inl (tWs_r (lo := 53) (n := 3) rfl (by have := c13; omega))) fun μ22 eμ22 hs => ?_)
          have h := h μ22 eμ22
          refine g_iinc (q := 9) dX0_value_266 (by decide) rfl [1, 2, 3, 4, 5, 6, 7, 8, 9, 0, 10] rfl ?_
          refine g_goto (tgt := 187) dX0_value_269 (by decide) ?_
          exact g_less [0, 1, 2, 3, 4, 5, 6, 7, 8, 9] rfl h
theorem uX0_value_233 {d : Nat} {μ0 μ : tm_M} {K : Int → tm_M → Prop} {v2 v4 v5 v6 v7 v8 v9 v10 v11 : Int} (hd : 1 ≤ d) (hf : dyA (c_FA μ0) ∧ tm_k μ0 (c_FA μ0) = 20) (hs : tFr (tWf [7, 8, 10, 53, 54, 55, 56, 57, 58, 59, 60] [(1, 10), (1, 14), (1, 15), (1, 45), (1, 46), (1, 47)] (c_FA μ0)) μ0 μ)
    (h : (0 ≤ v10 ∧ v10 < 3) ∧ ((0 ≤ v11 ∧ v11 < 3) ∧ ((∀ μ8, μ8 = tm_w μ (53 + v10) v11 (min v7 0) → hI (tWf [7, 8, 10, 53, 54, 55, 56, 57, 58, 59, 60] [(1, 10), (1, 14), (1, 15), (1, 45), (1, 46), (1, 47)] (c_FA μ0)) μ0 mX0_value d K 187 [(0, 2, 1), (2, 0, v2), (4, 0, v4), (5, 0, v5), (6, 0, v6), (7, 0, v7), (8, 2, v8), (9, 2, v9), (10, 0, v10), (11, 0, w32 (v11 + 1))] [] μ8)))) :
    hI (tWf [7, 8, 10, 53, 54, 55, 56, 57, 58, 59, 60] [(1, 10), (1, 14), (1, 15), (1, 45), (1, 46), (1, 47)] (c_FA μ0)) μ0 mX0_value d K 233 [(0, 2, 1), (2, 0, v2), (4, 0, v4), (5, 0, v5), (6, 0, v6), (7, 0, v7), (8, 2, v8), (9, 2, v9), (10, 0, v10), (11, 0, v11)] [] μ := by
  refine g_iconst dX0_value_233 (by decide) ?_
  refine g_istore (L' := [(0, 2, 1), (2, 0, v2), (4, 0, v4), (5, 0, v5), (6, 0, v6), (7, 0, v7), (8, 2, v8), (9, 2, v9), (10, 0, v10), (11, 0, v11), (12, 0, 0)]) dX0_value_234 (by decide) [1, 2, 3, 4, 5, 6, 7, 8, 9, 10, 0] rfl ?_
  refine g_aload_n (q := 0) dX0_value_236 rfl rfl ?_
  refine g_getC (x := 52) 2 dX0_value_237 fX0_130 rfl (by decide) (sk_1 hs.S) (sv_1_39 hs.S) ?_
  refine g_iload (q := 8) dX0_value_240 rfl ?_
  obtain ⟨c1, h⟩ := h
  refine g_aaloadC (x := 53 + v10) dX0_value_242 (by decide) (sk_52 hs.S) (by decide) c1.1 (t_lt (sn_52 hs.S) c1.2) (sa_52 hs.S c1.1 c1.2) ?_
  refine g_iload (q := 9) dX0_value_243 rfl ?_
  refine g_iload (q := 10) dX0_value_245 rfl ?_
  refine g_iconst dX0_value_247 (by decide) ?_
  refine g_icmp_ne (tgt := 257) dX0_value_248 (by decide) (fun c2 => ?_) (fun c3 => ?_)
  · refine g_iload (q := 5) dX0_value_257 rfl ?_
    refine g_iload (q := 10) dX0_value_259 rfl ?_
    refine g_callS2 dX0_value_261 kJ8_min q1150 q686 rfl (by omega) (Nat.le_of_ble_eq_true rfl) (Nat.le_refl _) (Nat.le_refl _) (t_pI hs (pJ8_min hs.S) ?_)
    refine g_i2l dX0_value_264 ?_
    obtain ⟨c7, h⟩ := h
    refine g_lastore dX0_value_265 (by have := c1; omega) (sak_52 hs.S c1.1 c1.2) c7.1 (t_lt (san_52 hs.S c1.1 c1.2) c7.2) (p_w hs (by have := c1; unfold tfr; omega) (Or.inl (tWs_r (lo := 53) (n := 3) rfl (by have := c1; omega))) fun μ8 eμ8 hs => ?_)
    have h := h μ8 eμ8
    refine g_iinc (q := 9) dX0_value_266 (by decide) rfl [1, 2, 3, 4, 5, 6, 7, 8, 9, 0, 10] rfl ?_
    refine g_goto (tgt := 187) dX0_value_269 (by decide) ?_
    exact g_less [0, 1, 2, 3, 4, 5, 6, 7, 8, 9] rfl h
  · exact absurd c3 (by decide)
theorem uX0_value_286 {d : Nat} {μ0 μ : tm_M} {K : Int → tm_M → Prop} {v2 v4 v10 : Int} (hd : 1 ≤ d) (hf : dyA (c_FA μ0) ∧ tm_k μ0 (c_FA μ0) = 20) (hs : tFr (tWf [7, 8, 10, 53, 54, 55, 56, 57, 58, 59, 60] [(1, 10), (1, 14), (1, 15), (1, 45), (1, 46), (1, 47)] (c_FA μ0)) μ0 μ)
    (h : (6 ≤ v10 → (∀ μ3, μ3 = tm_c μ 59 0 60 0 3 → (∀ μ4, μ4 = tm_w μ3 1 47 v2 → cI (tWs [] [(1, 10), (1, 14), (1, 15)]) mX0_tell (d - 1) [(2, 1), (1, tm_v μ4 1 45), (1, tm_v μ4 1 46)] μ4 (fun r6 μ5 => (0 ≤ r6 ∧ r6 ≤ 1) ∧ (K r6 μ5))))) ∧ (v10 < 6 → hI (tWf [7, 8, 10, 53, 54, 55, 56, 57, 58, 59, 60] [(1, 10), (1, 14), (1, 15), (1, 45), (1, 46), (1, 47)] (c_FA μ0)) μ0 mX0_value d K 296 [(0, 2, 1), (2, 0, v2), (4, 0, v4), (10, 0, v10), (11, 0, 0)] [] μ)) :
    hI (tWf [7, 8, 10, 53, 54, 55, 56, 57, 58, 59, 60] [(1, 10), (1, 14), (1, 15), (1, 45), (1, 46), (1, 47)] (c_FA μ0)) μ0 mX0_value d K 286 [(0, 2, 1), (2, 0, v2), (4, 0, v4), (10, 0, v10)] [] μ := by
  refine g_iload (q := 3) dX0_value_286 rfl ?_
  refine g_bipush dX0_value_288 ⟨by decide, by decide, rfl⟩ ?_
  refine g_icmp_ge (tgt := 342) dX0_value_290 (by decide) (fun c1 => ?_) (fun c2 => ?_)
  · have h := h.1 c1
    refine g_aload_n (q := 0) dX0_value_342 rfl rfl ?_
    refine g_getC (x := 59) 2 dX0_value_343 fX0_142 rfl (by decide) (sk_1 hs.S) (sv_1_43 hs.S) ?_
    refine g_iconst dX0_value_346 (by decide) ?_
    refine g_aload_n (q := 0) dX0_value_347 rfl rfl ?_
    refine g_getC (x := 60) 2 dX0_value_348 fX0_145 rfl (by decide) (sk_1 hs.S) (sv_1_44 hs.S) ?_
    refine g_iconst dX0_value_351 (by decide) ?_
    refine g_iconst dX0_value_352 (by decide) ?_
    refine g_copyL dX0_value_353 q650 (by decide) (sk_59 hs.S) (by decide) (sk_60 hs.S) (by decide) (by decide) (by decide) (by rw [(sn_59 hs.S)]; decide) (by rw [(sn_60 hs.S)]; decide) (Nat.le_of_ble_eq_true rfl) (p_c hs sf_60 (fun z => Or.inl (tWs_in z rfl)) fun μ3 eμ3 hs => ?_)
    have h := h μ3 eμ3
    refine g_aload_n (q := 0) dX0_value_356 rfl rfl ?_
    refine g_iload_n (q := 1) dX0_value_357 rfl rfl ?_
    refine g_put dX0_value_358 fX0_478 rfl (by decide) (sk_1 hs.S) (fun e => absurd e (by decide)) (p_wj hs (by decide) (Or.inl (tWs_inF rfl)) fun μ4 eμ4 hs => ?_)
    have h := h μ4 eμ4
    refine g_aload_n (q := 0) dX0_value_361 rfl rfl ?_
    refine g_aload_n (q := 0) dX0_value_362 rfl rfl ?_
    refine g_get 1 dX0_value_363 fX0_458 rfl (by decide) (sk_1 hs.S) ?_
    refine g_aload_n (q := 0) dX0_value_366 rfl rfl ?_
    refine g_get 1 dX0_value_367 fX0_455 rfl (by decide) (sk_1 hs.S) ?_
    refine g_callV2 dX0_value_370 kX0_tell q1046 q1048 qs31 (ci := 0) rfl (by decide) rfl (by omega) (by decide) (sk_1 hs.S) (Nat.le_of_ble_eq_true rfl) (Nat.le_refl _) (Nat.le_refl _) (t_kI hs (tWf_subL rfl) h (fun r6 μ5 hs h => ?_))
    obtain ⟨c7, h⟩ := h
    exact g_zret dX0_value_373 rfl c7 (Nat.le_refl _) (Nat.le_refl _) ⟨_, rfl, hs, h⟩
  · have h := h.2 c2
    refine g_iconst dX0_value_293 (by decide) ?_
    refine g_istore (L' := [(0, 2, 1), (2, 0, v2), (4, 0, v4), (10, 0, v10), (11, 0, 0)]) dX0_value_294 (by decide) [1, 2, 3, 4, 0] rfl ?_
    exact h
theorem uX0_value_296 {d : Nat} {μ0 μ : tm_M} {K : Int → tm_M → Prop} {v2 v4 v10 v11 : Int} (hd : 1 ≤ d) (hf : dyA (c_FA μ0) ∧ tm_k μ0 (c_FA μ0) = 20) (hs : tFr (tWf [7, 8, 10, 53, 54, 55, 56, 57, 58, 59, 60] [(1, 10), (1, 14), (1, 15), (1, 45), (1, 46), (1, 47)] (c_FA μ0)) μ0 μ)
    (h : (v10 ≤ v11 → hI (tWf [7, 8, 10, 53, 54, 55, 56, 57, 58, 59, 60] [(1, 10), (1, 14), (1, 15), (1, 45), (1, 46), (1, 47)] (c_FA μ0)) μ0 mX0_value d K 286 [(0, 2, 1), (2, 0, v2), (4, 0, v4), (10, 0, w32 (v10 + 1))] [] μ) ∧ (v11 < v10 → cV (tWs [56] []) mX0_line (d - 1) [(2, 1), (0, v10), (2, 56)] μ (fun μ3 => cV (tWs [57] []) mX0_line (d - 1) [(2, 1), (0, v11), (2, 57)] μ3 (fun μ4 => cV (tWs [58, 59] [(1, 45), (1, 46)]) mX0_cross (d - 1) [(2, 1), (0, v2), (0, v4)] μ4 (fun μ5 => hI (tWf [7, 8, 10, 53, 54, 55, 56, 57, 58, 59, 60] [(1, 10), (1, 14), (1, 15), (1, 45), (1, 46), (1, 47)] (c_FA μ0)) μ0 mX0_value d K 296 [(0, 2, 1), (2, 0, v2), (4, 0, v4), (10, 0, v10), (11, 0, w32 (v11 + 1))] [] μ5))))) :
    hI (tWf [7, 8, 10, 53, 54, 55, 56, 57, 58, 59, 60] [(1, 10), (1, 14), (1, 15), (1, 45), (1, 46), (1, 47)] (c_FA μ0)) μ0 mX0_value d K 296 [(0, 2, 1), (2, 0, v2), (4, 0, v4), (10, 0, v10), (11, 0, v11)] [] μ := by
  refine g_iload (q := 4) dX0_value_296 rfl ?_
  refine g_iload (q := 3) dX0_value_298 rfl ?_
  refine g_icmp_ge (tgt := 336) dX0_value_300 (by decide) (fun c1 => ?_) (fun c2 => ?_)
  · have h := h.1 c1
    refine g_iinc (q := 3) dX0_value_336 (by decide) rfl [1, 2, 3, 0, 4] rfl ?_
    refine g_goto (tgt := 286) dX0_value_339 (by decide) ?_
    exact g_less [0, 1, 2, 3] rfl h
  · have h := h.2 c2
    refine g_aload_n (q := 0) dX0_value_303 rfl rfl ?_
    refine g_iload (q := 3) dX0_value_304 rfl ?_
    refine g_aload_n (q := 0) dX0_value_306 rfl rfl ?_
    refine g_getC (x := 56) 2 dX0_value_307 fX0_133 rfl (by decide) (sk_1 hs.S) (sv_1_40 hs.S) ?_
    refine g_callV2 dX0_value_310 kX0_line q1151 q1153 qs46 (ci := 0) rfl (by decide) rfl (by omega) (by decide) (sk_1 hs.S) (Nat.le_of_ble_eq_true rfl) (Nat.le_refl _) (Nat.le_refl _) (t_kV hs (tWf_subL rfl) h (fun μ3 hs h => ?_))
    refine g_aload_n (q := 0) dX0_value_313 rfl rfl ?_
    refine g_iload (q := 4) dX0_value_314 rfl ?_
    refine g_aload_n (q := 0) dX0_value_316 rfl rfl ?_
    refine g_getC (x := 57) 2 dX0_value_317 fX0_136 rfl (by decide) (sk_1 hs.S) (sv_1_41 hs.S) ?_
    refine g_callV2 dX0_value_320 kX0_line q1151 q1153 qs46 (ci := 0) rfl (by decide) rfl (by omega) (by decide) (sk_1 hs.S) (Nat.le_of_ble_eq_true rfl) (Nat.le_refl _) (Nat.le_refl _) (t_kV hs (tWf_subL rfl) h (fun μ4 hs h => ?_))
    refine g_aload_n (q := 0) dX0_value_323 rfl rfl ?_
    refine g_iload_n (q := 1) dX0_value_324 rfl rfl ?_
    refine g_iload (q := 2) dX0_value_325 rfl ?_
    refine g_callV2 dX0_value_327 kX0_cross q1155 q1157 qs47 (ci := 0) rfl (by decide) rfl (by omega) (by decide) (sk_1 hs.S) (Nat.le_of_ble_eq_true rfl) (Nat.le_refl _) (Nat.le_refl _) (t_kV hs (tWf_subL rfl) h (fun μ5 hs h => ?_))
    refine g_iinc (q := 4) dX0_value_330 (by decide) rfl [1, 2, 3, 4, 0] rfl ?_
    refine g_goto (tgt := 296) dX0_value_333 (by decide) ?_
    exact h
