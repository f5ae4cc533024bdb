theorem uX0_beginRows_0 {d : Nat} {μ0 μ : tm_M} {K : tm_M → Prop} {v1 : Int} (hs : tFr (tWs [18, 28] [(1, 27), (1, 30)]) μ0 μ)
    (h : (∀ μ1, μ1 = tm_w μ 1 27 v1 → (∀ μ2, μ2 = tm_w μ1 1 30 (-1) → hV (tWs [18, 28] [(1, 27), (1, 30)]) μ0 mX0_beginRows d K 14 [(0, 2, 1), (2, 0, 0)] [] μ2))) :
    hV (tWs [18, 28] [(1, 27), (1, 30)]) μ0 mX0_beginRows d K 0 [(0, 2, 1), (1, 0, v1)] [] μ := by
  refine g_aload_n (q := 0) dX0_beginRows_0 rfl rfl ?_
  refine g_iload_n (q := 1) dX0_beginRows_1 rfl rfl ?_
  refine g_put dX0_beginRows_2 fX0_389 rfl (by decide) (sk_1 hs.S) (fun e => absurd e (by decide)) (p_wj hs (by decide) (tWs_inF rfl) fun μ1 eμ1 hs => ?_)
  have h := h μ1 eμ1
  refine g_aload_n (q := 0) dX0_beginRows_5 rfl rfl ?_
  refine g_ldc2 (v := -1) (by decide) q644c dX0_beginRows_6 ?_
  refine g_put dX0_beginRows_9 fX0_392 rfl (by decide) (sk_1 hs.S) (fun e => absurd e (by decide)) (p_wj hs (by decide) (tWs_inF rfl) fun μ2 eμ2 hs => ?_)
  have h := h μ2 eμ2
  refine g_iconst dX0_beginRows_12 (by decide) ?_
  refine g_istore_n (L' := [(0, 2, 1), (1, 0, v1), (2, 0, 0)]) dX0_beginRows_13 rfl (by decide) [1, 2, 0] rfl ?_
  exact g_less [0, 2] rfl h
theorem uX0_beginRows_14 {d : Nat} {μ0 μ : tm_M} {K : tm_M → Prop} {ν : tm_M} {v2 : Int} (hd : 1 ≤ d) (hs : tFr (tWs [18, 28] [(1, 27), (1, 30)]) μ0 μ)
    (h : (64 ≤ v2 → K μ) ∧ (v2 < 64 → (∀ x3, x3 = w32 (v2.tdiv 8) → (∀ x4, x4 = v2.tmod 8 → (JU μ0 ν) ∧ ((¬ (0 ≤ x3 ∧ x3 < tm_v ν 65 20) → hV (tWs [18, 28] [(1, 27), (1, 30)]) μ0 mX0_beginRows d K 70 [(0, 2, 1), (2, 0, v2), (3, 0, x3), (4, 0, x4)] [] μ) ∧ (0 ≤ x3 ∧ x3 < tm_v ν 65 20 → (¬ (0 ≤ x4 ∧ x4 < tm_v ν 65 20) → hV (tWs [18, 28] [(1, 27), (1, 30)]) μ0 mX0_beginRows d K 70 [(0, 2, 1), (2, 0, v2), (3, 0, x3), (4, 0, x4)] [] μ) ∧ (0 ≤ x4 ∧ x4 < tm_v ν 65 20 → (x3 = x4 → hV (tWs [18, 28] [(1, 27), (1, 30)]) μ0 mX0_beginRows d K 70 [(0, 2, 1), (2, 0, v2), (3, 0, x3), (4, 0, x4)] [] μ) ∧ (x3 ≠ x4 → (JU μ0 ν ∧ y_p ν x3 ∧ y_p ν x4) ∧ ((y_likely ν x3 x4 ≤ 0 → hV (tWs [18, 28] [(1, 27), (1, 30)]) μ0 mX0_beginRows d K 70 [(0, 2, 1), (2, 0, v2), (3, 0, x3), (4, 0, x4)] [] μ) ∧ (0 < y_likely ν x3 x4 → (0 ≤ v2 ∧ v2 < 64) ∧ ((∀ μ18, μ18 = tm_w μ 18 v2 x3 → (∀ μ19, μ19 = tm_w μ18 28 v2 x4 → hV (tWs [18, 28] [(1, 27), (1, 30)]) μ0 mX0_beginRows d K 14 [(0, 2, 1), (2, 0, w32 (v2 + 1))] [] μ19))))))))))))) :
    hV (tWs [18, 28] [(1, 27), (1, 30)]) μ0 mX0_beginRows d K 14 [(0, 2, 1), (2, 0, v2)] [] μ := by
  refine g_iload_n (q := 1) dX0_beginRows_14 rfl rfl ?_
  refine g_bipush dX0_beginRows_15 ⟨by decide, by decide, rfl⟩ ?_
  refine g_icmp_ge (tgt := 107) dX0_beginRows_17 (by decide) (fun c1 => ?_) (fun c2 => ?_)
  · have h := h.1 c1
    exact g_vret dX0_beginRows_107 rfl (Nat.le_refl _) (Nat.le_refl _) ⟨rfl, hs, h⟩
  · have h := h.2 c2
    refine g_iload_n (q := 1) dX0_beginRows_20 rfl rfl ?_
    refine g_bipush dX0_beginRows_21 ⟨by decide, by decide, rfl⟩ ?_
    refine g_idiv dX0_beginRows_23 (by decide) ?_
    refine g_istore_nN (fun z => [(0, 2, 1), (2, 0, v2), (3, 0, z)]) dX0_beginRows_24 rfl (by decide) [1, 2, 0] (fun _ => rfl) (fun x3 ex3 => ?_)
    have h := h x3 ex3
    refine g_iload_n (q := 1) dX0_beginRows_25 rfl rfl ?_
    refine g_bipush dX0_beginRows_26 ⟨by decide, by decide, rfl⟩ ?_
    refine g_irem dX0_beginRows_28 (by decide) ?_
    refine g_istoreN (fun z => [(0, 2, 1), (2, 0, v2), (3, 0, x3), (4, 0, z)]) dX0_beginRows_29 (by decide) [1, 2, 3, 0] (fun _ => rfl) (fun x4 ex4 => ?_)
    have h := h x4 ex4
    refine g_aload_n (q := 0) dX0_beginRows_31 rfl rfl ?_
    refine g_iload_n (q := 2) dX0_beginRows_32 rfl rfl ?_
    obtain ⟨c5, h⟩ := h
    refine g_callV1 dX0_beginRows_33 kX0_isPlace q872 q874 qs18 (ci := 0) rfl (by decide) rfl (by omega) (by decide) (sk_1 hs.S) (Nat.le_of_ble_eq_true rfl) (Nat.le_refl _) (Nat.le_refl _) (t_pI hs (pX0_isPlace hs (tWs_TC ⟨rfl, rfl⟩) c5) ?_)
    refine g_if_eq (tgt := 70) dX0_beginRows_36 (by decide) (fun c6 => ?_) (fun c7 => ?_)
    · have h := h.1 (b2i_0.mp c6)
      exact h
    · have h := h.2 (b2i_1.mp c7)
      refine g_aload_n (q := 0) dX0_beginRows_39 rfl rfl ?_
      refine g_iload (q := 3) dX0_beginRows_40 rfl ?_
      refine g_callV1 dX0_beginRows_42 kX0_isPlace q872 q874 qs18 (ci := 0) rfl (by decide) rfl (by omega) (by decide) (sk_1 hs.S) (Nat.le_of_ble_eq_true rfl) (Nat.le_refl _) (Nat.le_refl _) (t_pI hs (pX0_isPlace hs (tWs_TC ⟨rfl, rfl⟩) c5) ?_)
      refine g_if_eq (tgt := 70) dX0_beginRows_45 (by decide) (fun c8 => ?_) (fun c9 => ?_)
      · have h := h.1 (b2i_0.mp c8)
        exact h
      · have h := h.2 (b2i_1.mp c9)
        refine g_iload_n (q := 2) dX0_beginRows_48 rfl rfl ?_
        refine g_iload (q := 3) dX0_beginRows_49 rfl ?_
        refine g_icmp_eq (tgt := 70) dX0_beginRows_51 (by decide) (fun c10 => ?_) (fun c11 => ?_)
        · have h := h.1 c10
          exact h
        · have h := h.2 c11
          refine g_aload_n (q := 0) dX0_beginRows_54 rfl rfl ?_
          refine g_iload_n (q := 2) dX0_beginRows_55 rfl rfl ?_
          refine g_iload (q := 3) dX0_beginRows_56 rfl ?_
          obtain ⟨c12, h⟩ := h
          refine g_callV2 dX0_beginRows_58 kX0_likely q1035 q1037 qs29 (ci := 0) rfl (by decide) rfl (by omega) (by decide) (sk_1 hs.S) (Nat.le_of_ble_eq_true rfl) (Nat.le_refl _) (Nat.le_refl _) (t_pL hs (pX0_likely hs (tWs_TC ⟨rfl, rfl⟩) c12) ?_)
          refine g_lconst0 dX0_beginRows_61 ?_
          refine g_lcmp_le (tgt := 70) dX0_beginRows_62 dX0_beginRows_63 (by decide) (fun c13 => ?_) (fun c14 => ?_)
          · have h := h.1 c13
            exact h
          · have h := h.2 c14
            refine g_iconst dX0_beginRows_66 (by decide) ?_
            refine g_goto (tgt := 71) dX0_beginRows_67 (by decide) ?_
            refine g_istore (L' := [(0, 2, 1), (2, 0, v2), (3, 0, x3), (4, 0, x4), (5, 0, 1)]) dX0_beginRows_71 (by decide) [1, 2, 3, 4, 0] rfl ?_
            refine g_aload_n (q := 0) dX0_beginRows_73 rfl rfl ?_
            refine g_getC (x := 17) 2 dX0_beginRows_74 fX0_80 rfl (by decide) (sk_1 hs.S) (sv_1_19 hs.S) ?_
            refine g_iconst dX0_beginRows_77 (by decide) ?_
            refine g_aaloadC (x := 18) dX0_beginRows_78 (by decide) (sk_17 hs.S) (by decide) (by decide) (t_lt (sn_17 hs.S) (by decide)) (sv_17_0 hs.S) ?_
            refine g_iload_n (q := 1) dX0_beginRows_79 rfl rfl ?_
            refine g_iload (q := 4) dX0_beginRows_80 rfl ?_
            refine g_if_eq (tgt := 89) dX0_beginRows_82 (by decide) (fun c15 => ?_) (fun c16 => ?_)
            · exact absurd c15 (by decide)
            · refine g_iload_n (q := 2) dX0_beginRows_85 rfl rfl ?_
              refine g_goto (tgt := 90) dX0_beginRows_86 (by decide) ?_
              obtain ⟨c17, h⟩ := h
              refine g_iastore dX0_beginRows_90 (by decide) (sk_18 hs.S) c17.1 (t_lt (sn_18 hs.S) c17.2) (p_w hs sf_18 (tWs_in _ rfl) fun μ18 eμ18 hs => ?_)
              have h := h μ18 eμ18
              refine g_aload_n (q := 0) dX0_beginRows_91 rfl rfl ?_
              refine g_getC (x := 27) 2 dX0_beginRows_92 fX0_83 rfl (by decide) (sk_1 hs.S) (sv_1_20 hs.S) ?_
              refine g_iconst dX0_beginRows_95 (by decide) ?_
              refine g_aaloadC (x := 28) dX0_beginRows_96 (by decide) (sk_27 hs.S) (by decide) (by decide) (t_lt (sn_27 hs.S) (by decide)) (sv_27_0 hs.S) ?_
              refine g_iload_n (q := 1) dX0_beginRows_97 rfl rfl ?_
              refine g_iload (q := 3) dX0_beginRows_98 rfl ?_
              refine g_iastore dX0_beginRows_100 (by decide) (sk_28 hs.S) c17.1 (t_lt (sn_28 hs.S) c17.2) (p_w hs sf_28 (tWs_in _ rfl) fun μ19 eμ19 hs => ?_)
              have h := h μ19 eμ19
              refine g_iinc (q := 1) dX0_beginRows_101 (by decide) rfl [1, 0, 2, 3, 4] rfl ?_
              refine g_goto (tgt := 14) dX0_beginRows_104 (by decide) ?_
              exact g_less [0, 1] rfl h
theorem uX0_beginRows_70 {d : Nat} {μ0 μ : tm_M} {K : tm_M → Prop} {v2 v3 v4 : Int} (hs : tFr (tWs [18, 28] [(1, 27), (1, 30)]) μ0 μ)
    (h : (0 ≤ v2 ∧ v2 < 64) ∧ ((∀ μ4, μ4 = tm_w μ 18 v2 (-1) → (∀ μ5, μ5 = tm_w μ4 28 v2 v4 → hV (tWs [18, 28] [(1, 27), (1, 30)]) μ0 mX0_beginRows d K 14 [(0, 2, 1), (2, 0, w32 (v2 + 1))] [] μ5)))) :
    hV (tWs [18, 28] [(1, 27), (1, 30)]) μ0 mX0_beginRows d K 70 [(0, 2, 1), (2, 0, v2), (3, 0, v3), (4, 0, v4)] [] μ := by
  refine g_iconst dX0_beginRows_70 (by decide) ?_
  refine g_istore (L' := [(0, 2, 1), (2, 0, v2), (3, 0, v3), (4, 0, v4), (5, 0, 0)]) dX0_beginRows_71 (by decide) [1, 2, 3, 4, 0] rfl ?_
  refine g_aload_n (q := 0) dX0_beginRows_73 rfl rfl ?_
  refine g_getC (x := 17) 2 dX0_beginRows_74 fX0_80 rfl (by decide) (sk_1 hs.S) (sv_1_19 hs.S) ?_
  refine g_iconst dX0_beginRows_77 (by decide) ?_
  refine g_aaloadC (x := 18) dX0_beginRows_78 (by decide) (sk_17 hs.S) (by decide) (by decide) (t_lt (sn_17 hs.S) (by decide)) (sv_17_0 hs.S) ?_
  refine g_iload_n (q := 1) dX0_beginRows_79 rfl rfl ?_
  refine g_iload (q := 4) dX0_beginRows_80 rfl ?_
  refine g_if_eq (tgt := 89) dX0_beginRows_82 (by decide) (fun c1 => ?_) (fun c2 => ?_)
  · refine g_iconst dX0_beginRows_89 (by decide) ?_
    obtain ⟨c3, h⟩ := h
    refine g_iastore dX0_beginRows_90 (by decide) (sk_18 hs.S) c3.1 (t_lt (sn_18 hs.S) c3.2) (p_w hs sf_18 (tWs_in _ rfl) fun μ4 eμ4 hs => ?_)
    have h := h μ4 eμ4
    refine g_aload_n (q := 0) dX0_beginRows_91 rfl rfl ?_
    refine g_getC (x := 27) 2 dX0_beginRows_92 fX0_83 rfl (by decide) (sk_1 hs.S) (sv_1_20 hs.S) ?_
    refine g_iconst dX0_beginRows_95 (by decide) ?_
    refine g_aaloadC (x := 28) dX0_beginRows_96 (by decide) (sk_27 hs.S) (by decide) (by decide) (t_lt (sn_27 hs.S) (by decide)) (sv_27_0 hs.S) ?_
    refine g_iload_n (q := 1) dX0_beginRows_97 rfl rfl ?_
    refine g_iload (q := 3) dX0_beginRows_98 rfl ?_
    refine g_iastore dX0_beginRows_100 (by decide) (sk_28 hs.S) c3.1 (t_lt (sn_28 hs.S) c3.2) (p_w hs sf_28 (tWs_in _ rfl) fun μ5 eμ5 hs => ?_)
    have h := h μ5 eμ5
    refine g_iinc (q := 1) dX0_beginRows_101 (by decide) rfl [1, 0, 2, 3, 4] rfl ?_
    refine g_goto (tgt := 14) dX0_beginRows_104 (by decide) ?_
    exact g_less [0, 1] rfl h
  · exact absurd c2 (by decide)
theorem uX0_doesStep_0 {d : Nat} {μ0 μ : tm_M} {K : Int → tm_M → Prop} {v1 v2 v3 : Int} (hs : tFr (tWs [18, 19, 20, 21, 22, 23, 24, 25, 26, 28, 29, 30, 31, 32, 33, 34, 35, 36] []) μ0 μ)
    (h : (ob μ0 (tm_v μ0 1 8) 4) ∧ ((tm_v μ0 (tm_v μ0 1 8) 4 ≠ 0) ∧ ((v1.tmod (tm_v μ0 (tm_v μ0 1 8) 4) ≠ 0 → hLo (tWs [18, 19, 20, 21, 22, 23, 24, 25, 26, 28, 29, 30, 31, 32, 33, 34, 35, 36] []) μ0 mX0_doesStep d K 25 [(0, 2, 1), (1, 0, v1), (2, 0, v2), (4, 1, 0), (6, 0, 0), (7, 0, 0)] [] μ) ∧ (v1.tmod (tm_v μ0 (tm_v μ0 1 8) 4) = 0 → hLo (tWs [18, 19, 20, 21, 22, 23, 24, 25, 26, 28, 29, 30, 31, 32, 33, 34, 35, 36] []) μ0 mX0_doesStep d K 25 [(0, 2, 1), (1, 0, v1), (2, 0, v2), (4, 1, 0), (6, 0, v3), (7, 0, 0)] [] μ)))) :
    hLo (tWs [18, 19, 20, 21, 22, 23, 24, 25, 26, 28, 29, 30, 31, 32, 33, 34, 35, 36] []) μ0 mX0_doesStep d K 0 [(0, 2, 1), (1, 0, v1), (2, 0, v2), (3, 0, v3)] [] μ := by
  refine g_lconst0 dX0_doesStep_0 ?_
  refine g_lstore (L' := [(0, 2, 1), (1, 0, v1), (2, 0, v2), (3, 0, v3), (4, 1, 0)]) dX0_doesStep_1 (by decide) [1, 2, 3, 4, 0] rfl ?_
  refine g_iload_n (q := 1) dX0_doesStep_3 rfl rfl ?_
  refine g_aload_n (q := 0) dX0_doesStep_4 rfl rfl ?_
  refine g_getC (x := tm_v μ0 1 8) 2 dX0_doesStep_5 fX0_57 rfl (by decide) (sk_1 hs.S) (hs.v (tWs_noF rfl)) ?_
  obtain ⟨c1, h⟩ := h
  refine g_getC (x := tm_v μ0 (tm_v μ0 1 8) 4) 0 dX0_doesStep_8 fX0_325 rfl c1.1.1 (hs.k ▸ c1.1.2) (hs.v (tWs_ob rfl c1)) ?_
  obtain ⟨c2, h⟩ := h
  refine g_irem dX0_doesStep_11 c2 ?_
  refine g_if_ne (tgt := 19) dX0_doesStep_12 (by decide) (fun c3 => ?_) (fun c4 => ?_)
  · have h := h.1 c3
    refine g_iconst dX0_doesStep_19 (by decide) ?_
    refine g_istore (L' := [(0, 2, 1), (1, 0, v1), (2, 0, v2), (3, 0, v3), (4, 1, 0), (6, 0, 0)]) dX0_doesStep_20 (by decide) [1, 2, 3, 4, 5, 0] rfl ?_
    refine g_iconst dX0_doesStep_22 (by decide) ?_
    refine g_istore (L' := [(0, 2, 1), (1, 0, v1), (2, 0, v2), (3, 0, v3), (4, 1, 0), (6, 0, 0), (7, 0, 0)]) dX0_doesStep_23 (by decide) [1, 2, 3, 4, 5, 6, 0] rfl ?_
    exact g_less [0, 1, 2, 4, 5, 6] rfl h
  · have h := h.2 c4
    refine g_iload_n (q := 3) dX0_doesStep_15 rfl rfl ?_
    refine g_goto (tgt := 20) dX0_doesStep_16 (by decide) ?_
    refine g_istore (L' := [(0, 2, 1), (1, 0, v1), (2, 0, v2), (3, 0, v3), (4, 1, 0), (6, 0, v3)]) dX0_doesStep_20 (by decide) [1, 2, 3, 4, 5, 0] rfl ?_
    refine g_iconst dX0_doesStep_22 (by decide) ?_
    refine g_istore (L' := [(0, 2, 1), (1, 0, v1), (2, 0, v2), (3, 0, v3), (4, 1, 0), (6, 0, v3), (7, 0, 0)]) dX0_doesStep_23 (by decide) [1, 2, 3, 4, 5, 6, 0] rfl ?_
    exact g_less [0, 1, 2, 4, 5, 6] rfl h
theorem uX0_doesStep_25 {d : Nat} {μ0 μ : tm_M} {K : Int → tm_M → Prop} {ν : tm_M} {v1 v2 v4 v6 v7 : Int} (hd : 2 ≤ d) (hs : tFr (tWs [18, 19, 20, 21, 22, 23, 24, 25, 26, 28, 29, 30, 31, 32, 33, 34, 35, 36] []) μ0 μ)
    (h : (64 ≤ v7 → K v4 μ) ∧ (v7 < 64 → (0 ≤ w32 (v1 + 1) ∧ w32 (v1 + 1) < 9) ∧ ((0 ≤ v1 ∧ v1 < 9) ∧ ((0 ≤ v7 ∧ v7 < 64) ∧ ((∀ μ6, μ6 = tm_w μ (18 + (w32 (v1 + 1))) v7 (tm_v μ (18 + v1) v7) → (tm_v μ6 (18 + v1) v7 ≠ -1 → (ob μ0 (tm_v μ0 1 8) 4) ∧ ((ob μ0 (tm_v μ0 (tm_v μ0 1 8) 0) 26) ∧ ((0 ≤ tm_v μ6 (18 + v1) v7 ∧ tm_v μ6 (18 + v1) v7 < tm_n μ0 (tm_v μ0 (tm_v μ0 1 8) 0)) ∧ ((∀ x12, x12 = tm_v μ0 (tm_v μ0 (tm_v μ0 1 8) 0) (tm_v μ6 (18 + v1) v7) → (0 ≤ tm_v μ6 (28 + v1) v7 ∧ tm_v μ6 (28 + v1) v7 < tm_n μ0 (tm_v μ0 (tm_v μ0 1 8) 0)) ∧ ((∀ x14, x14 = tm_v μ0 (tm_v μ0 (tm_v μ0 1 8) 0) (tm_v μ6 (28 + v1) v7) → (ob μ0 x12 7) ∧ ((JU μ0 ν ∧ isP μ0 ν x12) ∧ ((∀ x17, x17 = c_P μ0 (y_go ν (tm_v μ0 x12 1) v2) → (ob μ0 x14 7) ∧ ((JU μ0 ν ∧ isP μ0 ν x14) ∧ ((∀ x20, x20 = c_P μ0 (y_go ν (tm_v μ0 x14 1) v6) → (x17 = x20 → hLo (tWs [18, 19, 20, 21, 22, 23, 24, 25, 26, 28, 29, 30, 31, 32, 33, 34, 35, 36] []) μ0 mX0_doesStep d K 154 [(0, 2, 1), (1, 0, v1), (2, 0, v2), (4, 1, v4), (6, 0, v6), (7, 0, v7), (10, 2, x17), (11, 2, x20)] [] μ6) ∧ (x17 ≠ x20 → (tm_v μ0 (tm_v μ0 1 8) 6 = 0 → hLo (tWs [18, 19, 20, 21, 22, 23, 24, 25, 26, 28, 29, 30, 31, 32, 33, 34, 35, 36] []) μ0 mX0_doesStep d K 158 [(0, 2, 1), (1, 0, v1), (2, 0, v2), (4, 1, v4), (6, 0, v6), (7, 0, v7), (10, 2, x17), (11, 2, x20)] [] μ6) ∧ (tm_v μ0 (tm_v μ0 1 8) 6 ≠ 0 → (x17 ≠ x14 → hLo (tWs [18, 19, 20, 21, 22, 23, 24, 25, 26, 28, 29, 30, 31, 32, 33, 34, 35, 36] []) μ0 mX0_doesStep d K 158 [(0, 2, 1), (1, 0, v1), (2, 0, v2), (4, 1, v4), (6, 0, v6), (7, 0, v7), (10, 2, x17), (11, 2, x20)] [] μ6) ∧ (x17 = x14 → (x20 ≠ x12 → hLo (tWs [18, 19, 20, 21, 22, 23, 24, 25, 26, 28, 29, 30, 31, 32, 33, 34, 35, 36] []) μ0 mX0_doesStep d K 158 [(0, 2, 1), (1, 0, v1), (2, 0, v2), (4, 1, v4), (6, 0, v6), (7, 0, v7), (10, 2, x17), (11, 2, x20)] [] μ6) ∧ (x20 = x12 → hLo (tWs [18, 19, 20, 21, 22, 23, 24, 25, 26, 28, 29, 30, 31, 32, 33, 34, 35, 36] []) μ0 mX0_doesStep d K 154 [(0, 2, 1), (1, 0, v1), (2, 0, v2), (4, 1, v4), (6, 0, v6), (7, 0, v7), (10, 2, x17), (11, 2, x20)] [] μ6))))))))))))))))) ∧ (tm_v μ6 (18 + v1) v7 = -1 → hLo (tWs [18, 19, 20, 21, 22, 23, 24, 25, 26, 28, 29, 30, 31, 32, 33, 34, 35, 36] []) μ0 mX0_doesStep d K 231 [(0, 2, 1), (1, 0, v1), (2, 0, v2), (4, 1, v4), (6, 0, v6), (7, 0, v7)] [] μ6))))))) :
    hLo (tWs [18, 19, 20, 21, 22, 23, 24, 25, 26, 28, 29, 30, 31, 32, 33, 34, 35, 36] []) μ0 mX0_doesStep d K 25 [(0, 2, 1), (1, 0, v1), (2, 0, v2), (4, 1, v4), (6, 0, v6), (7, 0, v7)] [] μ := by
  refine g_iload (q := 5) dX0_doesStep_25 rfl ?_
  refine g_bipush dX0_doesStep_27 ⟨by decide, by decide, rfl⟩ ?_
  refine g_icmp_ge (tgt := 237) dX0_doesStep_29 (by decide) (fun c1 => ?_) (fun c2 => ?_)
  · have h := h.1 c1
    refine g_lload (q := 3) dX0_doesStep_237 rfl ?_
    exact g_lret dX0_doesStep_239 rfl (Nat.le_refl _) (Nat.le_refl _) ⟨_, rfl, hs, h⟩
  · have h := h.2 c2
    refine g_aload_n (q := 0) dX0_doesStep_32 rfl rfl ?_
    refine g_getC (x := 17) 2 dX0_doesStep_33 fX0_80 rfl (by decide) (sk_1 hs.S) (sv_1_19 hs.S) ?_
    refine g_iload_n (q := 1) dX0_doesStep_36 rfl rfl ?_
    refine g_iconst dX0_doesStep_37 (by decide) ?_
    refine g_iadd dX0_doesStep_38 ?_
    obtain ⟨c3, h⟩ := h
    refine g_aaloadC (x := 18 + w32 (v1 + 1)) dX0_doesStep_39 (by decide) (sk_17 hs.S) (by decide) c3.1 (t_lt (sn_17 hs.S) c3.2) (sa_17 hs.S c3.1 c3.2) ?_
    refine g_iload (q := 5) dX0_doesStep_40 rfl ?_
    refine g_aload_n (q := 0) dX0_doesStep_42 rfl rfl ?_
    refine g_getC (x := 17) 2 dX0_doesStep_43 fX0_80 rfl (by decide) (sk_1 hs.S) (sv_1_19 hs.S) ?_
    refine g_iload_n (q := 1) dX0_doesStep_46 rfl rfl ?_
    obtain ⟨c4, h⟩ := h
    refine g_aaloadC (x := 18 + v1) dX0_doesStep_47 (by decide) (sk_17 hs.S) (by decide) c4.1 (t_lt (sn_17 hs.S) c4.2) (sa_17 hs.S c4.1 c4.2) ?_
    refine g_iload (q := 5) dX0_doesStep_48 rfl ?_
    obtain ⟨c5, h⟩ := h
    refine g_iaload dX0_doesStep_50 (by have := c4; omega) (sak_17 hs.S c4.1 c4.2) c5.1 (t_lt (san_17 hs.S c4.1 c4.2) c5.2) ?_
    refine g_iastore dX0_doesStep_51 (by have := c3; omega) (sak_17 hs.S c3.1 c3.2) c5.1 (t_lt (san_17 hs.S c3.1 c3.2) c5.2) (p_w hs (by have := c3; unfold tfr; omega) (tWs_r (lo := 18) (n := 9) rfl (by have := c3; omega)) fun μ6 eμ6 hs => ?_)
    have h := h μ6 eμ6
    refine g_aload_n (q := 0) dX0_doesStep_52 rfl rfl ?_
    refine g_getC (x := 17) 2 dX0_doesStep_53 fX0_80 rfl (by decide) (sk_1 hs.S) (sv_1_19 hs.S) ?_
    refine g_iload_n (q := 1) dX0_doesStep_56 rfl rfl ?_
    refine g_aaloadC (x := 18 + v1) dX0_doesStep_57 (by decide) (sk_17 hs.S) (by decide) c4.1 (t_lt (sn_17 hs.S) c4.2) (sa_17 hs.S c4.1 c4.2) ?_
    refine g_iload (q := 5) dX0_doesStep_58 rfl ?_
    refine g_iaload dX0_doesStep_60 (by have := c4; omega) (sak_17 hs.S c4.1 c4.2) c5.1 (t_lt (san_17 hs.S c4.1 c4.2) c5.2) ?_
    refine g_iconst dX0_doesStep_61 (by decide) ?_
    refine g_icmp_ne (tgt := 68) dX0_doesStep_62 (by decide) (fun c7 => ?_) (fun c8 => ?_)
    · have h := h.1 c7
      refine g_aload_n (q := 0) dX0_doesStep_68 rfl rfl ?_
      refine g_getC (x := tm_v μ0 1 8) 2 dX0_doesStep_69 fX0_57 rfl (by decide) (sk_1 hs.S) (hs.v (tWs_noF rfl)) ?_
      obtain ⟨c9, h⟩ := h
      refine g_getC (x := tm_v μ0 (tm_v μ0 1 8) 0) 2 dX0_doesStep_72 fX0_240 rfl c9.1.1 (hs.k ▸ c9.1.2) (hs.v (tWs_ob rfl c9)) ?_
      refine g_aload_n (q := 0) dX0_doesStep_75 rfl rfl ?_
      refine g_getC (x := 17) 2 dX0_doesStep_76 fX0_80 rfl (by decide) (sk_1 hs.S) (sv_1_19 hs.S) ?_
      refine g_iload_n (q := 1) dX0_doesStep_79 rfl rfl ?_
      refine g_aaloadC (x := 18 + v1) dX0_doesStep_80 (by decide) (sk_17 hs.S) (by decide) c4.1 (t_lt (sn_17 hs.S) c4.2) (sa_17 hs.S c4.1 c4.2) ?_
      refine g_iload (q := 5) dX0_doesStep_81 rfl ?_
      refine g_iaload dX0_doesStep_83 (by have := c4; omega) (sak_17 hs.S c4.1 c4.2) c5.1 (t_lt (san_17 hs.S c4.1 c4.2) c5.2) ?_
      obtain ⟨c10, h⟩ := h
      obtain ⟨c11, h⟩ := h
      refine g_aaloadC (x := tm_v μ0 (tm_v μ0 (tm_v μ0 1 8) 0) (tm_v μ6 (18 + v1) v7)) dX0_doesStep_84 c10.1.1 (hs.k ▸ c10.1.2) (by decide) c11.1 (hs.n ▸ c11.2) (hs.v (tWs_ob rfl c10)) ?_
      refine g_astoreN (fun z => [(0, 2, 1), (1, 0, v1), (2, 0, v2), (4, 1, v4), (6, 0, v6), (7, 0, v7), (8, 2, z)]) dX0_doesStep_85 (by decide) [1, 2, 3, 4, 5, 6, 0] (fun _ => rfl) (fun x12 ex12 => ?_)
      have h := h x12 ex12
      refine g_aload_n (q := 0) dX0_doesStep_87 rfl rfl ?_
      refine g_getC (x := tm_v μ0 1 8) 2 dX0_doesStep_88 fX0_57 rfl (by decide) (sk_1 hs.S) (hs.v (tWs_noF rfl)) ?_
      refine g_getC (x := tm_v μ0 (tm_v μ0 1 8) 0) 2 dX0_doesStep_91 fX0_240 rfl c9.1.1 (hs.k ▸ c9.1.2) (hs.v (tWs_ob rfl c9)) ?_
      refine g_aload_n (q := 0) dX0_doesStep_94 rfl rfl ?_
      refine g_getC (x := 27) 2 dX0_doesStep_95 fX0_83 rfl (by decide) (sk_1 hs.S) (sv_1_20 hs.S) ?_
      refine g_iload_n (q := 1) dX0_doesStep_98 rfl rfl ?_
      refine g_aaloadC (x := 28 + v1) dX0_doesStep_99 (by decide) (sk_27 hs.S) (by decide) c4.1 (t_lt (sn_27 hs.S) c4.2) (sa_27 hs.S c4.1 c4.2) ?_
      refine g_iload (q := 5) dX0_doesStep_100 rfl ?_
      refine g_iaload dX0_doesStep_102 (by have := c4; omega) (sak_27 hs.S c4.1 c4.2) c5.1 (t_lt (san_27 hs.S c4.1 c4.2) c5.2) ?_
      obtain ⟨c13, h⟩ := h
      refine g_aaloadC (x := tm_v μ0 (tm_v μ0 (tm_v μ0 1 8) 0) (tm_v μ6 (28 + v1) v7)) dX0_doesStep_103 c10.1.1 (hs.k ▸ c10.1.2) (by decide) c13.1 (hs.n ▸ c13.2) (hs.v (tWs_ob rfl c10)) ?_
      refine g_astoreN (fun z => [(0, 2, 1), (1, 0, v1), (2, 0, v2), (4, 1, v4), (6, 0, v6), (7, 0, v7), (8, 2, x12), (9, 2, z)]) dX0_doesStep_104 (by decide) [1, 2, 3, 4, 5, 6, 7, 0] (fun _ => rfl) (fun x14 ex14 => ?_)
      have h := h x14 ex14
      refine g_aload (q := 6) dX0_doesStep_106 rfl ?_
      refine g_iload_n (q := 2) dX0_doesStep_108 rfl rfl ?_
      obtain ⟨c15, h⟩ := h
      obtain ⟨c16, h⟩ := h
      refine g_callV1 dX0_doesStep_109 kX7_by q985 q898 q899 (ci := 7) rfl (by decide) rfl (by omega) c15.1.1 (hs.k ▸ c15.1.2) (Nat.le_of_ble_eq_true rfl) (Nat.le_refl _) (Nat.le_refl _) (t_pR hs (pX7_by (by omega) hs (tWs_TC ⟨rfl, rfl⟩) c16) ?_)
      refine g_astoreN (fun z => [(0, 2, 1), (1, 0, v1), (2, 0, v2), (4, 1, v4), (6, 0, v6), (7, 0, v7), (8, 2, x12), (9, 2, x14), (10, 2, z)]) dX0_doesStep_112 (by decide) [1, 2, 3, 4, 5, 6, 7, 8, 0] (fun _ => rfl) (fun x17 ex17 => ?_)
      have h := h x17 ex17
      refine g_aload (q := 7) dX0_doesStep_114 rfl ?_
      refine g_iload (q := 4) dX0_doesStep_116 rfl ?_
      obtain ⟨c18, h⟩ := h
      obtain ⟨c19, h⟩ := h
      refine g_callV1 dX0_doesStep_118 kX7_by q985 q898 q899 (ci := 7) rfl (by decide) rfl (by omega) c18.1.1 (hs.k ▸ c18.1.2) (Nat.le_of_ble_eq_true rfl) (Nat.le_refl _) (Nat.le_refl _) (t_pR hs (pX7_by (by omega) hs (tWs_TC ⟨rfl, rfl⟩) c19) ?_)
      refine g_astoreN (fun z => [(0, 2, 1), (1, 0, v1), (2, 0, v2), (4, 1, v4), (6, 0, v6), (7, 0, v7), (8, 2, x12), (9, 2, x14), (10, 2, x17), (11, 2, z)]) dX0_doesStep_121 (by decide) [1, 2, 3, 4, 5, 6, 7, 8, 9, 0] (fun _ => rfl) (fun x20 ex20 => ?_)
      have h := h x20 ex20
      refine g_aload (q := 8) dX0_doesStep_123 rfl ?_
      refine g_aload (q := 9) dX0_doesStep_125 rfl ?_
      refine g_acmp_eq (tgt := 154) dX0_doesStep_127 (by decide) (fun c21 => ?_) (fun c22 => ?_)
      · have h := h.1 c21
        exact g_less [0, 1, 2, 3, 4, 5, 8, 9] rfl h
      · have h := h.2 c22
        refine g_aload_n (q := 0) dX0_doesStep_130 rfl rfl ?_
        refine g_getC (x := tm_v μ0 1 8) 2 dX0_doesStep_131 fX0_57 rfl (by decide) (sk_1 hs.S) (hs.v (tWs_noF rfl)) ?_
        refine g_getC (x := tm_v μ0 (tm_v μ0 1 8) 6) 0 dX0_doesStep_134 fX0_314 rfl c9.1.1 (hs.k ▸ c9.1.2) (hs.v (tWs_ob rfl c9)) ?_
        refine g_if_eq (tgt := 158) dX0_doesStep_137 (by decide) (fun c23 => ?_) (fun c24 => ?_)
        · have h := h.1 c23
          exact g_less [0, 1, 2, 3, 4, 5, 8, 9] rfl h
        · have h := h.2 c24
          refine g_aload (q := 8) dX0_doesStep_140 rfl ?_
          refine g_aload (q := 7) dX0_doesStep_142 rfl ?_
          refine g_acmp_ne (tgt := 158) dX0_doesStep_144 (by decide) (fun c25 => ?_) (fun c26 => ?_)
          · have h := h.1 c25
            exact g_less [0, 1, 2, 3, 4, 5, 8, 9] rfl h
          · have h := h.2 c26
            refine g_aload (q := 9) dX0_doesStep_147 rfl ?_
            refine g_aload (q := 6) dX0_doesStep_149 rfl ?_
            refine g_acmp_ne (tgt := 158) dX0_doesStep_151 (by decide) (fun c27 => ?_) (fun c28 => ?_)
            · have h := h.1 c27
              exact g_less [0, 1, 2, 3, 4, 5, 8, 9] rfl h
            · have h := h.2 c28
              exact g_less [0, 1, 2, 3, 4, 5, 8, 9] rfl h
    · have h := h.2 c8
      refine g_goto (tgt := 231) dX0_doesStep_65 (by decide) ?_
      exact h
theorem uX0_doesStep_154 {d : Nat} {μ0 μ : tm_M} {K : Int → tm_M → Prop} {ν : tm_M} {v1 v2 v4 v6 v7 v10 v11 : Int} (hd : 1 ≤ d) (hs : tFr (tWs [18, 19, 20, 21, 22, 23, 24, 25, 26, 28, 29, 30, 31, 32, 33, 34, 35, 36] []) μ0 μ)
    (h : (0 ≤ w32 (v1 + 1) ∧ w32 (v1 + 1) < 9) ∧ ((0 ≤ v7 ∧ v7 < 64) ∧ ((∀ μ5, μ5 = tm_w μ (18 + (w32 (v1 + 1))) v7 (-1) → (ob μ0 v11 7) ∧ ((∀ μ7, μ7 = tm_w μ5 (28 + (w32 (v1 + 1))) v7 (tm_v μ0 v11 1) → (JU μ0 ν ∧ y_p ν (w32 (v7.tdiv 8)) ∧ y_p ν (v7.tmod 8)) ∧ ((∀ x11, x11 = w64 (v4 + (w64 ((y_likely ν (w32 (v7.tdiv 8)) (v7.tmod 8)) * (w64 (v1 + 1))))) → hLo (tWs [18, 19, 20, 21, 22, 23, 24, 25, 26, 28, 29, 30, 31, 32, 33, 34, 35, 36] []) μ0 mX0_doesStep d K 231 [(0, 2, 1), (1, 0, v1), (2, 0, v2), (4, 1, x11), (6, 0, v6), (7, 0, v7)] [] μ7)))))))) :
    hLo (tWs [18, 19, 20, 21, 22, 23, 24, 25, 26, 28, 29, 30, 31, 32, 33, 34, 35, 36] []) μ0 mX0_doesStep d K 154 [(0, 2, 1), (1, 0, v1), (2, 0, v2), (4, 1, v4), (6, 0, v6), (7, 0, v7), (10, 2, v10), (11, 2, v11)] [] μ := by
  refine g_iconst dX0_doesStep_154 (by decide) ?_
  refine g_goto (tgt := 159) dX0_doesStep_155 (by decide) ?_
  refine g_istore (L' := [(0, 2, 1), (1, 0, v1), (2, 0, v2), (4, 1, v4), (6, 0, v6), (7, 0, v7), (10, 2, v10), (11, 2, v11), (12, 0, 1)]) dX0_doesStep_159 (by decide) [1, 2, 3, 4, 5, 6, 7, 8, 0] rfl ?_
  refine g_aload_n (q := 0) dX0_doesStep_161 rfl rfl ?_
  refine g_getC (x := 17) 2 dX0_doesStep_162 fX0_80 rfl (by decide) (sk_1 hs.S) (sv_1_19 hs.S) ?_
  refine g_iload_n (q := 1) dX0_doesStep_165 rfl rfl ?_
  refine g_iconst dX0_doesStep_166 (by decide) ?_
  refine g_iadd dX0_doesStep_167 ?_
  obtain ⟨c1, h⟩ := h
  refine g_aaloadC (x := 18 + w32 (v1 + 1)) dX0_doesStep_168 (by decide) (sk_17 hs.S) (by decide) c1.1 (t_lt (sn_17 hs.S) c1.2) (sa_17 hs.S c1.1 c1.2) ?_
  refine g_iload (q := 5) dX0_doesStep_169 rfl ?_
  refine g_iload (q := 8) dX0_doesStep_171 rfl ?_
  refine g_if_eq (tgt := 180) dX0_doesStep_173 (by decide) (fun c2 => ?_) (fun c3 => ?_)
  · exact absurd c2 (by decide)
  · refine g_iconst dX0_doesStep_176 (by decide) ?_
    refine g_goto (tgt := 185) dX0_doesStep_177 (by decide) ?_
    obtain ⟨c4, h⟩ := h
    refine g_iastore dX0_doesStep_185 (by have := c1; omega) (sak_17 hs.S c1.1 c1.2) c4.1 (t_lt (san_17 hs.S c1.1 c1.2) c4.2) (p_w hs (by have := c1; unfold tfr; omega) (tWs_r (lo := 18) (n := 9) rfl (by have := c1; omega)) fun μ5 eμ5 hs => ?_)
    have h := h μ5 eμ5
    refine g_aload_n (q := 0) dX0_doesStep_186 rfl rfl ?_
    refine g_getC (x := 27) 2 dX0_doesStep_187 fX0_83 rfl (by decide) (sk_1 hs.S) (sv_1_20 hs.S) ?_
    refine g_iload_n (q := 1) dX0_doesStep_190 rfl rfl ?_
    refine g_iconst dX0_doesStep_191 (by decide) ?_
    refine g_iadd dX0_doesStep_192 ?_
    refine g_aaloadC (x := 28 + w32 (v1 + 1)) dX0_doesStep_193 (by decide) (sk_27 hs.S) (by decide) c1.1 (t_lt (sn_27 hs.S) c1.2) (sa_27 hs.S c1.1 c1.2) ?_
    refine g_iload (q := 5) dX0_doesStep_194 rfl ?_
    refine g_aload (q := 7) dX0_doesStep_196 rfl ?_
    obtain ⟨c6, h⟩ := h
    refine g_getC (x := tm_v μ0 v11 1) 0 dX0_doesStep_198 fX0_260 rfl c6.1.1 (hs.k ▸ c6.1.2) (hs.v (tWs_ob rfl c6)) ?_
    refine g_iastore dX0_doesStep_201 (by have := c1; omega) (sak_27 hs.S c1.1 c1.2) c4.1 (t_lt (san_27 hs.S c1.1 c1.2) c4.2) (p_w hs (by have := c1; unfold tfr; omega) (tWs_r (lo := 28) (n := 9) rfl (by have := c1; omega)) fun μ7 eμ7 hs => ?_)
    have h := h μ7 eμ7
    refine g_iload (q := 8) dX0_doesStep_202 rfl ?_
    refine g_if_eq (tgt := 231) dX0_doesStep_204 (by decide) (fun c8 => ?_) (fun c9 => ?_)
    · exact absurd c8 (by decide)
    · refine g_lload (q := 3) dX0_doesStep_207 rfl ?_
      refine g_aload_n (q := 0) dX0_doesStep_209 rfl rfl ?_
      refine g_iload (q := 5) dX0_doesStep_210 rfl ?_
      refine g_bipush dX0_doesStep_212 ⟨by decide, by decide, rfl⟩ ?_
      refine g_idiv dX0_doesStep_214 (by decide) ?_
      refine g_iload (q := 5) dX0_doesStep_215 rfl ?_
      refine g_bipush dX0_doesStep_217 ⟨by decide, by decide, rfl⟩ ?_
      refine g_irem dX0_doesStep_219 (by decide) ?_
      obtain ⟨c10, h⟩ := h
      refine g_callV2 dX0_doesStep_220 kX0_likely q1035 q1037 qs29 (ci := 0) rfl (by decide) rfl (by omega) (by decide) (sk_1 hs.S) (Nat.le_of_ble_eq_true rfl) (Nat.le_refl _) (Nat.le_refl _) (t_pL hs (pX0_likely hs (tWs_TC ⟨rfl, rfl⟩) c10) ?_)
      refine g_iload_n (q := 1) dX0_doesStep_223 rfl rfl ?_
      refine g_i2l dX0_doesStep_224 ?_
      refine g_lconst1 dX0_doesStep_225 ?_
      refine g_ladd dX0_doesStep_226 ?_
      refine g_lmul dX0_doesStep_227 ?_
      refine g_ladd dX0_doesStep_228 ?_
      refine g_lstoreN (fun z => [(0, 2, 1), (1, 0, v1), (2, 0, v2), (4, 1, z), (6, 0, v6), (7, 0, v7), (10, 2, v10), (11, 2, v11), (12, 0, 1)]) dX0_doesStep_229 (by decide) [1, 2, 3, 0, 4, 5, 6, 7, 8] (fun _ => rfl) (fun x11 ex11 => ?_)
      have h := h x11 ex11
      exact g_less [0, 1, 2, 3, 4, 5] rfl h
theorem uX0_doesStep_158 {d : Nat} {μ0 μ : tm_M} {K : Int → tm_M → Prop} {v1 v2 v4 v6 v7 v10 v11 : Int} (hs : tFr (tWs [18, 19, 20, 21, 22, 23, 24, 25, 26, 28, 29, 30, 31, 32, 33, 34, 35, 36] []) μ0 μ)
    (h : (0 ≤ w32 (v1 + 1) ∧ w32 (v1 + 1) < 9) ∧ ((ob μ0 v10 7) ∧ ((0 ≤ v7 ∧ v7 < 64) ∧ ((∀ μ6, μ6 = tm_w μ (18 + (w32 (v1 + 1))) v7 (tm_v μ0 v10 1) → (ob μ0 v11 7) ∧ ((∀ μ8, μ8 = tm_w μ6 (28 + (w32 (v1 + 1))) v7 (tm_v μ0 v11 1) → hLo (tWs [18, 19, 20, 21, 22, 23, 24, 25, 26, 28, 29, 30, 31, 32, 33, 34, 35, 36] []) μ0 mX0_doesStep d K 231 [(0, 2, 1), (1, 0, v1), (2, 0, v2), (4, 1, v4), (6, 0, v6), (7, 0, v7)] [] μ8))))))) :
    hLo (tWs [18, 19, 20, 21, 22, 23, 24, 25, 26, 28, 29, 30, 31, 32, 33, 34, 35, 36] []) μ0 mX0_doesStep d K 158 [(0, 2, 1), (1, 0, v1), (2, 0, v2), (4, 1, v4), (6, 0, v6), (7, 0, v7), (10, 2, v10), (11, 2, v11)] [] μ := by
  refine g_iconst dX0_doesStep_158 (by decide) ?_
  refine g_istore (L' := [(0, 2, 1), (1, 0, v1), (2, 0, v2), (4, 1, v4), (6, 0, v6), (7, 0, v7), (10, 2, v10), (11, 2, v11), (12, 0, 0)]) dX0_doesStep_159 (by decide) [1, 2, 3, 4, 5, 6, 7, 8, 0] rfl ?_
  refine g_aload_n (q := 0) dX0_doesStep_161 rfl rfl ?_
  refine g_getC (x := 17) 2 dX0_doesStep_162 fX0_80 rfl (by decide) (sk_1 hs.S) (sv_1_19 hs.S) ?_
  refine g_iload_n (q := 1) dX0_doesStep_165 rfl rfl ?_
  refine g_iconst dX0_doesStep_166 (by decide) ?_
  refine g_iadd dX0_doesStep_167 ?_
  obtain ⟨c1, h⟩ := h
  refine g_aaloadC (x := 18 + w32 (v1 + 1)) dX0_doesStep_168 (by decide) (sk_17 hs.S) (by decide) c1.1 (t_lt (sn_17 hs.S) c1.2) (sa_17 hs.S c1.1 c1.2) ?_
  refine g_iload (q := 5) dX0_doesStep_169 rfl ?_
  refine g_iload (q := 8) dX0_doesStep_171 rfl ?_
  refine g_if_eq (tgt := 180) dX0_doesStep_173 (by decide) (fun c2 => ?_) (fun c3 => ?_)
  · refine g_aload (q := 6) dX0_doesStep_180 rfl ?_
    obtain ⟨c4, h⟩ := h
    refine g_getC (x := tm_v μ0 v10 1) 0 dX0_doesStep_182 fX0_260 rfl c4.1.1 (hs.k ▸ c4.1.2) (hs.v (tWs_ob rfl c4)) ?_
    obtain ⟨c5, h⟩ := h
    refine g_iastore dX0_doesStep_185 (by have := c1; omega) (sak_17 hs.S c1.1 c1.2) c5.1 (t_lt (san_17 hs.S c1.1 c1.2) c5.2) (p_w hs (by have := c1; unfold tfr; omega) (tWs_r (lo := 18) (n := 9) rfl (by have := c1; omega)) fun μ6 eμ6 hs => ?_)
    have h := h μ6 eμ6
    refine g_aload_n (q := 0) dX0_doesStep_186 rfl rfl ?_
    refine g_getC (x := 27) 2 dX0_doesStep_187 fX0_83 rfl (by decide) (sk_1 hs.S) (sv_1_20 hs.S) ?_
    refine g_iload_n (q := 1) dX0_doesStep_190 rfl rfl ?_
    refine g_iconst dX0_doesStep_191 (by decide) ?_
    refine g_iadd dX0_doesStep_192 ?_
    refine g_aaloadC (x := 28 + w32 (v1 + 1)) dX0_doesStep_193 (by decide) (sk_27 hs.S) (by decide) c1.1 (t_lt (sn_27 hs.S) c1.2) (sa_27 hs.S c1.1 c1.2) ?_
    refine g_iload (q := 5) dX0_doesStep_194 rfl ?_
    refine g_aload (q := 7) dX0_doesStep_196 rfl ?_
    obtain ⟨c7, h⟩ := h
    refine g_getC (x := tm_v μ0 v11 1) 0 dX0_doesStep_198 fX0_260 rfl c7.1.1 (hs.k ▸ c7.1.2) (hs.v (tWs_ob rfl c7)) ?_
    refine g_iastore dX0_doesStep_201 (by have := c1; omega) (sak_27 hs.S c1.1 c1.2) c5.1 (t_lt (san_27 hs.S c1.1 c1.2) c5.2) (p_w hs (by have := c1; unfold tfr; omega) (tWs_r (lo := 28) (n := 9) rfl (by have := c1; omega)) fun μ8 eμ8 hs => ?_)
    have h := h μ8 eμ8
    refine g_iload (q := 8) dX0_doesStep_202 rfl ?_
    refine g_if_eq (tgt := 231) dX0_doesStep_204 (by decide) (fun c9 => ?_) (fun c10 => ?_)
    · exact g_less [0, 1, 2, 3, 4, 5] rfl h
    · exact absurd c10 (by decide)
  · exact absurd c3 (by decide)
theorem uX0_doesStep_231 {d : Nat} {μ0 μ : tm_M} {K : Int → tm_M → Prop} {v1 v2 v4 v6 v7 : Int} (hs : tFr (tWs [18, 19, 20, 21, 22, 23, 24, 25, 26, 28, 29, 30, 31, 32, 33, 34, 35, 36] []) μ0 μ)
    (h : hLo (tWs [18, 19, 20, 21, 22, 23, 24, 25, 26, 28, 29, 30, 31, 32, 33, 34, 35, 36] []) μ0 mX0_doesStep d K 25 [(0, 2, 1), (1, 0, v1), (2, 0, v2), (4, 1, v4), (6, 0, v6), (7, 0, w32 (v7 + 1))] [] μ) :
    hLo (tWs [18, 19, 20, 21, 22, 23, 24, 25, 26, 28, 29, 30, 31, 32, 33, 34, 35, 36] []) μ0 mX0_doesStep d K 231 [(0, 2, 1), (1, 0, v1), (2, 0, v2), (4, 1, v4), (6, 0, v6), (7, 0, v7)] [] μ := by
  refine g_iinc (q := 5) dX0_doesStep_231 (by decide) rfl [1, 2, 3, 4, 5, 0] rfl ?_
  refine g_goto (tgt := 25) dX0_doesStep_234 (by decide) ?_
  exact h
theorem uX0_endRows_0 {d : Nat} {μ0 μ : tm_M} {K : tm_M → Prop} {v1 : Int} (hs : tFr (tWs [39, 40] [(1, 30), (1, 31)]) μ0 μ)
    (h : hV (tWs [39, 40] [(1, 30), (1, 31)]) μ0 mX0_endRows d K 5 [(0, 2, 1), (1, 1, v1), (3, 1, 0), (5, 0, 0)] [] μ) :
    hV (tWs [39, 40] [(1, 30), (1, 31)]) μ0 mX0_endRows d K 0 [(0, 2, 1), (1, 1, v1)] [] μ := by
  refine g_lconst0 dX0_endRows_0 ?_
  refine g_lstore_n (L' := [(0, 2, 1), (1, 1, v1), (3, 1, 0)]) dX0_endRows_1 rfl (by decide) [1, 2, 0] rfl ?_
  refine g_iconst dX0_endRows_2 (by decide) ?_
  refine g_istore (L' := [(0, 2, 1), (1, 1, v1), (3, 1, 0), (5, 0, 0)]) dX0_endRows_3 (by decide) [1, 2, 3, 0] rfl ?_
  exact h
theorem uX0_endRows_5 {d : Nat} {μ0 μ : tm_M} {K : tm_M → Prop} {ν : tm_M} {v1 v3 v5 : Int} (hd : 1 ≤ d) (hs : tFr (tWs [39, 40] [(1, 30), (1, 31)]) μ0 μ)
    (h : (64 ≤ v5 → (∀ x3, x3 = w64 (v1 + (w64 (v3 * (w64 ((tm_v μ0 1 27) + 1))))) → (tm_v μ 1 30 = -1 → hV (tWs [39, 40] [(1, 30), (1, 31)]) μ0 mX0_endRows d K 104 [(0, 2, 1), (3, 1, v3), (5, 1, x3)] [] μ) ∧ (tm_v μ 1 30 ≠ -1 → (tm_v μ 1 30 < v3 → hV (tWs [39, 40] [(1, 30), (1, 31)]) μ0 mX0_endRows d K 103 [] [] μ) ∧ (v3 ≤ tm_v μ 1 30 → (v3 ≠ tm_v μ 1 30 → hV (tWs [39, 40] [(1, 30), (1, 31)]) μ0 mX0_endRows d K 104 [(0, 2, 1), (3, 1, v3), (5, 1, x3)] [] μ) ∧ (v3 = tm_v μ 1 30 → (x3 < tm_v μ 1 31 → hV (tWs [39, 40] [(1, 30), (1, 31)]) μ0 mX0_endRows d K 104 [(0, 2, 1), (3, 1, v3), (5, 1, x3)] [] μ) ∧ (tm_v μ 1 31 ≤ x3 → hV (tWs [39, 40] [(1, 30), (1, 31)]) μ0 mX0_endRows d K 103 [] [] μ)))))) ∧ (v5 < 64 → (0 ≤ tm_v μ0 1 27 ∧ tm_v μ0 1 27 < 9) ∧ ((0 ≤ v5 ∧ v5 < 64) ∧ ((tm_v μ0 (18 + (tm_v μ0 1 27)) v5 = -1 → hV (tWs [39, 40] [(1, 30), (1, 31)]) μ0 mX0_endRows d K 45 [(0, 2, 1), (1, 1, v1), (3, 1, v3), (5, 0, v5)] [] μ) ∧ (tm_v μ0 (18 + (tm_v μ0 1 27)) v5 ≠ -1 → (JU μ0 ν ∧ y_p ν (w32 (v5.tdiv 8)) ∧ y_p ν (v5.tmod 8)) ∧ ((∀ x17, x17 = w64 (v3 + (y_likely ν (w32 (v5.tdiv 8)) (v5.tmod 8))) → hV (tWs [39, 40] [(1, 30), (1, 31)]) μ0 mX0_endRows d K 45 [(0, 2, 1), (1, 1, v1), (3, 1, x17), (5, 0, v5)] [] μ))))))) :
    hV (tWs [39, 40] [(1, 30), (1, 31)]) μ0 mX0_endRows d K 5 [(0, 2, 1), (1, 1, v1), (3, 1, v3), (5, 0, v5)] [] μ := by
  refine g_iload (q := 3) dX0_endRows_5 rfl ?_
  refine g_bipush dX0_endRows_7 ⟨by decide, by decide, rfl⟩ ?_
  refine g_icmp_ge (tgt := 51) dX0_endRows_9 (by decide) (fun c1 => ?_) (fun c2 => ?_)
  · have h := h.1 c1
    refine g_lload_n (q := 1) dX0_endRows_51 rfl rfl ?_
    refine g_lload_n (q := 2) dX0_endRows_52 rfl rfl ?_
    refine g_aload_n (q := 0) dX0_endRows_53 rfl rfl ?_
    refine g_getC (x := tm_v μ0 1 27) 0 dX0_endRows_54 fX0_389 rfl (by decide) (sk_1 hs.S) (hs.v (tWs_noF rfl)) ?_
    refine g_i2l dX0_endRows_57 ?_
    refine g_lconst1 dX0_endRows_58 ?_
    refine g_ladd dX0_endRows_59 ?_
    refine g_lmul dX0_endRows_60 ?_
    refine g_ladd dX0_endRows_61 ?_
    refine g_lstoreN (fun z => [(0, 2, 1), (1, 1, v1), (3, 1, v3), (5, 1, z)]) dX0_endRows_62 (by decide) [1, 2, 3, 0] (fun _ => rfl) (fun x3 ex3 => ?_)
    have h := h x3 ex3
    refine g_aload_n (q := 0) dX0_endRows_64 rfl rfl ?_
    refine g_get 1 dX0_endRows_65 fX0_392 rfl (by decide) (sk_1 hs.S) ?_
    refine g_ldc2 (v := -1) (by decide) q644c dX0_endRows_68 ?_
    refine g_lcmp_eq (tgt := 104) dX0_endRows_71 dX0_endRows_72 (by decide) (fun c4 => ?_) (fun c5 => ?_)
    · have h := h.1 c4
      exact g_less [0, 2, 3] rfl h
    · have h := h.2 c5
      refine g_lload_n (q := 2) dX0_endRows_75 rfl rfl ?_
      refine g_aload_n (q := 0) dX0_endRows_76 rfl rfl ?_
      refine g_get 1 dX0_endRows_77 fX0_392 rfl (by decide) (sk_1 hs.S) ?_
      refine g_lcmp_gt (tgt := 103) dX0_endRows_80 dX0_endRows_81 (by decide) (fun c6 => ?_) (fun c7 => ?_)
      · have h := h.1 c6
        exact g_less [] rfl h
      · have h := h.2 c7
        refine g_lload_n (q := 2) dX0_endRows_84 rfl rfl ?_
        refine g_aload_n (q := 0) dX0_endRows_85 rfl rfl ?_
        refine g_get 1 dX0_endRows_86 fX0_392 rfl (by decide) (sk_1 hs.S) ?_
        refine g_lcmp_ne (tgt := 104) dX0_endRows_89 dX0_endRows_90 (by decide) (fun c8 => ?_) (fun c9 => ?_)
        · have h := h.1 c8
          exact g_less [0, 2, 3] rfl h
        · have h := h.2 c9
          refine g_lload (q := 3) dX0_endRows_93 rfl ?_
          refine g_aload_n (q := 0) dX0_endRows_95 rfl rfl ?_
          refine g_get 1 dX0_endRows_96 fX0_395 rfl (by decide) (sk_1 hs.S) ?_
          refine g_lcmp_lt (tgt := 104) dX0_endRows_99 dX0_endRows_100 (by decide) (fun c10 => ?_) (fun c11 => ?_)
          · have h := h.1 c10
            exact g_less [0, 2, 3] rfl h
          · have h := h.2 c11
            exact g_less [] rfl h
  · have h := h.2 c2
    refine g_aload_n (q := 0) dX0_endRows_12 rfl rfl ?_
    refine g_getC (x := 17) 2 dX0_endRows_13 fX0_80 rfl (by decide) (sk_1 hs.S) (sv_1_19 hs.S) ?_
    refine g_aload_n (q := 0) dX0_endRows_16 rfl rfl ?_
    refine g_getC (x := tm_v μ0 1 27) 0 dX0_endRows_17 fX0_389 rfl (by decide) (sk_1 hs.S) (hs.v (tWs_noF rfl)) ?_
    obtain ⟨c12, h⟩ := h
    refine g_aaloadC (x := 18 + tm_v μ0 1 27) dX0_endRows_20 (by decide) (sk_17 hs.S) (by decide) c12.1 (t_lt (sn_17 hs.S) c12.2) (sa_17 hs.S c12.1 c12.2) ?_
    refine g_iload (q := 3) dX0_endRows_21 rfl ?_
    obtain ⟨c13, h⟩ := h
    refine g_ialoadC (x := tm_v μ0 (18 + (tm_v μ0 1 27)) v5) dX0_endRows_23 (by have := c12; omega) (sak_17 hs.S c12.1 c12.2) c13.1 (t_lt (san_17 hs.S c12.1 c12.2) c13.2) (hs.v (tWs_nr (lo := 18) (n := 9) rfl (by have := c12; omega))) ?_
    refine g_iconst dX0_endRows_24 (by decide) ?_
    refine g_icmp_eq (tgt := 45) dX0_endRows_25 (by decide) (fun c14 => ?_) (fun c15 => ?_)
    · have h := h.1 c14
      exact h
    · have h := h.2 c15
      refine g_lload_n (q := 2) dX0_endRows_28 rfl rfl ?_
      refine g_aload_n (q := 0) dX0_endRows_29 rfl rfl ?_
      refine g_iload (q := 3) dX0_endRows_30 rfl ?_
      refine g_bipush dX0_endRows_32 ⟨by decide, by decide, rfl⟩ ?_
      refine g_idiv dX0_endRows_34 (by decide) ?_
      refine g_iload (q := 3) dX0_endRows_35 rfl ?_
      refine g_bipush dX0_endRows_37 ⟨by decide, by decide, rfl⟩ ?_
      refine g_irem dX0_endRows_39 (by decide) ?_
      obtain ⟨c16, h⟩ := h
      refine g_callV2 dX0_endRows_40 kX0_likely q1035 q1037 qs29 (ci := 0) rfl (by decide) rfl (by omega) (by decide) (sk_1 hs.S) (Nat.le_of_ble_eq_true rfl) (Nat.le_refl _) (Nat.le_refl _) (t_pL hs (pX0_likely hs (tWs_TC ⟨rfl, rfl⟩) c16) ?_)
      refine g_ladd dX0_endRows_43 ?_
      refine g_lstore_nN (fun z => [(0, 2, 1), (1, 1, v1), (3, 1, z), (5, 0, v5)]) dX0_endRows_44 rfl (by decide) [1, 2, 0, 3] (fun _ => rfl) (fun x17 ex17 => ?_)
      have h := h x17 ex17
      exact h
theorem uX0_endRows_45 {d : Nat} {μ0 μ : tm_M} {K : tm_M → Prop} {v1 v3 v5 : Int} (hs : tFr (tWs [39, 40] [(1, 30), (1, 31)]) μ0 μ)
    (h : hV (tWs [39, 40] [(1, 30), (1, 31)]) μ0 mX0_endRows d K 5 [(0, 2, 1), (1, 1, v1), (3, 1, v3), (5, 0, w32 (v5 + 1))] [] μ) :
    hV (tWs [39, 40] [(1, 30), (1, 31)]) μ0 mX0_endRows d K 45 [(0, 2, 1), (1, 1, v1), (3, 1, v3), (5, 0, v5)] [] μ := by
  refine g_iinc (q := 3) dX0_endRows_45 (by decide) rfl [1, 2, 3, 0] rfl ?_
  refine g_goto (tgt := 5) dX0_endRows_48 (by decide) ?_
  exact h
theorem uX0_endRows_103 {d : Nat} {μ0 μ : tm_M} {K : tm_M → Prop} (hs : tFr (tWs [39, 40] [(1, 30), (1, 31)]) μ0 μ)
    (h : K μ) :
    hV (tWs [39, 40] [(1, 30), (1, 31)]) μ0 mX0_endRows d K 103 [] [] μ := by
  exact g_vret dX0_endRows_103 rfl (Nat.le_refl _) (Nat.le_refl _) ⟨rfl, hs, h⟩
theorem uX0_endRows_104 {d : Nat} {μ0 μ : tm_M} {K : tm_M → Prop} {v3 v5 : Int} (hs : tFr (tWs [39, 40] [(1, 30), (1, 31)]) μ0 μ)
    (h : (∀ μ1, μ1 = tm_w μ 1 30 v3 → (∀ μ2, μ2 = tm_w μ1 1 31 v5 → (∀ μ3, μ3 = tm_c μ2 37 0 39 0 5 → (∀ μ4, μ4 = tm_c μ3 38 0 40 0 5 → K μ4))))) :
    hV (tWs [39, 40] [(1, 30), (1, 31)]) μ0 mX0_endRows d K 104 [(0, 2, 1), (3, 1, v3), (5, 1, v5)] [] μ := by
  refine g_aload_n (q := 0) dX0_endRows_104 rfl rfl ?_
  refine g_lload_n (q := 1) dX0_endRows_105 rfl rfl ?_
  refine g_put dX0_endRows_106 fX0_392 rfl (by decide) (sk_1 hs.S) (fun e => absurd e (by decide)) (p_wj hs (by decide) (tWs_inF rfl) fun μ1 eμ1 hs => ?_)
  have h := h μ1 eμ1
  refine g_aload_n (q := 0) dX0_endRows_109 rfl rfl ?_
  refine g_lload (q := 2) dX0_endRows_110 rfl ?_
  refine g_put dX0_endRows_112 fX0_395 rfl (by decide) (sk_1 hs.S) (fun e => absurd e (by decide)) (p_wj hs (by decide) (tWs_inF rfl) fun μ2 eμ2 hs => ?_)
  have h := h μ2 eμ2
  refine g_aload_n (q := 0) dX0_endRows_115 rfl rfl ?_
  refine g_getC (x := 37) 2 dX0_endRows_116 fX0_86 rfl (by decide) (sk_1 hs.S) (sv_1_21 hs.S) ?_
  refine g_iconst dX0_endRows_119 (by decide) ?_
  refine g_aload_n (q := 0) dX0_endRows_120 rfl rfl ?_
  refine g_getC (x := 39) 2 dX0_endRows_121 fX0_92 rfl (by decide) (sk_1 hs.S) (sv_1_23 hs.S) ?_
  refine g_iconst dX0_endRows_124 (by decide) ?_
  refine g_iconst dX0_endRows_125 (by decide) ?_
  refine g_copy dX0_endRows_126 q650 (Or.inl rfl) (by decide) (sk_37 hs.S) (by decide) (sk_39 hs.S) (by decide) (by decide) (by decide) (by rw [(sn_37 hs.S)]; decide) (by rw [(sn_39 hs.S)]; decide) (Nat.le_of_ble_eq_true rfl) (p_c hs sf_39 (fun z => tWs_in z rfl) fun μ3 eμ3 hs => ?_)
  have h := h μ3 eμ3
  refine g_aload_n (q := 0) dX0_endRows_129 rfl rfl ?_
  refine g_getC (x := 38) 2 dX0_endRows_130 fX0_89 rfl (by decide) (sk_1 hs.S) (sv_1_22 hs.S) ?_
  refine g_iconst dX0_endRows_133 (by decide) ?_
  refine g_aload_n (q := 0) dX0_endRows_134 rfl rfl ?_
  refine g_getC (x := 40) 2 dX0_endRows_135 fX0_95 rfl (by decide) (sk_1 hs.S) (sv_1_24 hs.S) ?_
  refine g_iconst dX0_endRows_138 (by decide) ?_
  refine g_iconst dX0_endRows_139 (by decide) ?_
  refine g_copy dX0_endRows_140 q650 (Or.inl rfl) (by decide) (sk_38 hs.S) (by decide) (sk_40 hs.S) (by decide) (by decide) (by decide) (by rw [(sn_38 hs.S)]; decide) (by rw [(sn_40 hs.S)]; decide) (Nat.le_of_ble_eq_true rfl) (p_c hs sf_40 (fun z => tWs_in z rfl) fun μ4 eμ4 hs => ?_)
  have h := h μ4 eμ4
  exact g_vret dX0_endRows_143 rfl (Nat.le_refl _) (Nat.le_refl _) ⟨rfl, hs, h⟩
theorem uX0_goRows_0 {d : Nat} {μ0 μ : tm_M} {K : tm_M → Prop} {v1 v2 v4 : Int} (hd : 1 ≤ d) (hs : tFr (tWs [18, 19, 20, 21, 22, 23, 24, 25, 26, 28, 29, 30, 31, 32, 33, 34, 35, 36, 37, 38, 39, 40] [(1, 30), (1, 31)]) μ0 μ)
    (h : (v1 ≠ tm_v μ0 1 27 → hV (tWs [18, 19, 20, 21, 22, 23, 24, 25, 26, 28, 29, 30, 31, 32, 33, 34, 35, 36, 37, 38, 39, 40] [(1, 30), (1, 31)]) μ0 mX0_goRows d K 17 [(0, 2, 1), (1, 0, v1), (2, 1, v2), (4, 0, v4), (5, 0, 0)] [] μ) ∧ (v1 = tm_v μ0 1 27 → cV (tWs [39, 40] [(1, 30), (1, 31)]) mX0_endRows (d - 1) [(2, 1), (1, v2)] μ (fun μ3 => K μ3))) :
    hV (tWs [18, 19, 20, 21, 22, 23, 24, 25, 26, 28, 29, 30, 31, 32, 33, 34, 35, 36, 37, 38, 39, 40] [(1, 30), (1, 31)]) μ0 mX0_goRows d K 0 [(0, 2, 1), (1, 0, v1), (2, 1, v2), (4, 0, v4)] [] μ := by
  refine g_iload_n (q := 1) dX0_goRows_0 rfl rfl ?_
  refine g_aload_n (q := 0) dX0_goRows_1 rfl rfl ?_
  refine g_getC (x := tm_v μ0 1 27) 0 dX0_goRows_2 fX0_389 rfl (by decide) (sk_1 hs.S) (hs.v (tWs_noF rfl)) ?_
  refine g_icmp_ne (tgt := 14) dX0_goRows_5 (by decide) (fun c1 => ?_) (fun c2 => ?_)
  · have h := h.1 c1
    refine g_iconst dX0_goRows_14 (by decide) ?_
    refine g_istore (L' := [(0, 2, 1), (1, 0, v1), (2, 1, v2), (4, 0, v4), (5, 0, 0)]) dX0_goRows_15 (by decide) [1, 2, 3, 4, 0] rfl ?_
    exact h
  · have h := h.2 c2
    refine g_aload_n (q := 0) dX0_goRows_8 rfl rfl ?_
    refine g_lload_n (q := 2) dX0_goRows_9 rfl rfl ?_
    refine g_callV1 dX0_goRows_10 kX0_endRows q1074 q1076 qs35 (ci := 0) rfl (by decide) rfl (by omega) (by decide) (sk_1 hs.S) (Nat.le_of_ble_eq_true rfl) (Nat.le_refl _) (Nat.le_refl _) (t_kV hs (tWs_sub rfl) h (fun μ3 hs h => ?_))
    exact g_vret dX0_goRows_13 rfl (Nat.le_refl _) (Nat.le_refl _) ⟨rfl, hs, h⟩
theorem uX0_goRows_17 {d : Nat} {μ0 μ : tm_M} {K : tm_M → Prop} {v1 v2 v4 v5 : Int} (hs : tFr (tWs [18, 19, 20, 21, 22, 23, 24, 25, 26, 28, 29, 30, 31, 32, 33, 34, 35, 36, 37, 38, 39, 40] [(1, 30), (1, 31)]) μ0 μ)
    (h : (5 ≤ v5 → K μ) ∧ (v5 < 5 → (v4 = 0 → hV (tWs [18, 19, 20, 21, 22, 23, 24, 25, 26, 28, 29, 30, 31, 32, 33, 34, 35, 36, 37, 38, 39, 40] [(1, 30), (1, 31)]) μ0 mX0_goRows d K 36 [(0, 2, 1), (1, 0, v1), (2, 1, v2), (4, 0, v4), (5, 0, v5), (6, 0, 0)] [] μ) ∧ (v4 ≠ 0 → hV (tWs [18, 19, 20, 21, 22, 23, 24, 25, 26, 28, 29, 30, 31, 32, 33, 34, 35, 36, 37, 38, 39, 40] [(1, 30), (1, 31)]) μ0 mX0_goRows d K 36 [(0, 2, 1), (1, 0, v1), (2, 1, v2), (4, 0, v4), (5, 0, v5), (6, 0, v5)] [] μ))) :
    hV (tWs [18, 19, 20, 21, 22, 23, 24, 25, 26, 28, 29, 30, 31, 32, 33, 34, 35, 36, 37, 38, 39, 40] [(1, 30), (1, 31)]) μ0 mX0_goRows d K 17 [(0, 2, 1), (1, 0, v1), (2, 1, v2), (4, 0, v4), (5, 0, v5)] [] μ := by
  refine g_iload (q := 4) dX0_goRows_17 rfl ?_
  refine g_iconst dX0_goRows_19 (by decide) ?_
  refine g_icmp_ge (tgt := 102) dX0_goRows_20 (by decide) (fun c1 => ?_) (fun c2 => ?_)
  · have h := h.1 c1
    exact g_vret dX0_goRows_102 rfl (Nat.le_refl _) (Nat.le_refl _) ⟨rfl, hs, h⟩
  · have h := h.2 c2
    refine g_iload (q := 3) dX0_goRows_23 rfl ?_
    refine g_if_eq (tgt := 33) dX0_goRows_25 (by decide) (fun c3 => ?_) (fun c4 => ?_)
    · have h := h.1 c3
      refine g_iconst dX0_goRows_33 (by decide) ?_
      refine g_istore (L' := [(0, 2, 1), (1, 0, v1), (2, 1, v2), (4, 0, v4), (5, 0, v5), (6, 0, 0)]) dX0_goRows_34 (by decide) [1, 2, 3, 4, 5, 0] rfl ?_
      exact h
    · have h := h.2 c4
      refine g_iload (q := 4) dX0_goRows_28 rfl ?_
      refine g_goto (tgt := 34) dX0_goRows_30 (by decide) ?_
      refine g_istore (L' := [(0, 2, 1), (1, 0, v1), (2, 1, v2), (4, 0, v4), (5, 0, v5), (6, 0, v5)]) dX0_goRows_34 (by decide) [1, 2, 3, 4, 5, 0] rfl ?_
      exact h
theorem uX0_goRows_36 {d : Nat} {μ0 μ : tm_M} {K : tm_M → Prop} {v1 v2 v4 v5 v6 : Int} (hd : 1 ≤ d) (hs : tFr (tWs [18, 19, 20, 21, 22, 23, 24, 25, 26, 28, 29, 30, 31, 32, 33, 34, 35, 36, 37, 38, 39, 40] [(1, 30), (1, 31)]) μ0 μ)
    (h : (v4 = 0 → (5 ≤ v6 → hV (tWs [18, 19, 20, 21, 22, 23, 24, 25, 26, 28, 29, 30, 31, 32, 33, 34, 35, 36, 37, 38, 39, 40] [(1, 30), (1, 31)]) μ0 mX0_goRows d K 17 [(0, 2, 1), (1, 0, v1), (2, 1, v2), (4, 0, v4), (5, 0, w32 (v5 + 1))] [] μ) ∧ (v6 < 5 → (0 ≤ v1 ∧ v1 < 5) ∧ ((∀ μ6, μ6 = tm_w μ 37 v1 v5 → (∀ μ7, μ7 = tm_w μ6 38 v1 v6 → cL (tWs [18, 19, 20, 21, 22, 23, 24, 25, 26, 28, 29, 30, 31, 32, 33, 34, 35, 36] []) mX0_doesStep (d - 1) [(2, 1), (0, v1), (0, v5), (0, v6)] μ7 (fun r9 μ8 => cV (tWs [18, 19, 20, 21, 22, 23, 24, 25, 26, 28, 29, 30, 31, 32, 33, 34, 35, 36, 37, 38, 39, 40] [(1, 30), (1, 31)]) mX0_goRows (d - 1) [(2, 1), (0, w32 (v1 + 1)), (1, w64 (v2 + r9)), (0, v4)] μ8 (fun μ10 => hV (tWs [18, 19, 20, 21, 22, 23, 24, 25, 26, 28, 29, 30, 31, 32, 33, 34, 35, 36, 37, 38, 39, 40] [(1, 30), (1, 31)]) μ0 mX0_goRows d K 36 [(0, 2, 1), (1, 0, v1), (2, 1, v2), (4, 0, v4), (5, 0, v5), (6, 0, w32 (v6 + 1))] [] μ10))))))) ∧ (v4 ≠ 0 → (w32 (v5 + 1) ≤ v6 → hV (tWs [18, 19, 20, 21, 22, 23, 24, 25, 26, 28, 29, 30, 31, 32, 33, 34, 35, 36, 37, 38, 39, 40] [(1, 30), (1, 31)]) μ0 mX0_goRows d K 17 [(0, 2, 1), (1, 0, v1), (2, 1, v2), (4, 0, v4), (5, 0, w32 (v5 + 1))] [] μ) ∧ (v6 < w32 (v5 + 1) → (0 ≤ v1 ∧ v1 < 5) ∧ ((∀ μ14, μ14 = tm_w μ 37 v1 v5 → (∀ μ15, μ15 = tm_w μ14 38 v1 v6 → cL (tWs [18, 19, 20, 21, 22, 23, 24, 25, 26, 28, 29, 30, 31, 32, 33, 34, 35, 36] []) mX0_doesStep (d - 1) [(2, 1), (0, v1), (0, v5), (0, v6)] μ15 (fun r17 μ16 => cV (tWs [18, 19, 20, 21, 22, 23, 24, 25, 26, 28, 29, 30, 31, 32, 33, 34, 35, 36, 37, 38, 39, 40] [(1, 30), (1, 31)]) mX0_goRows (d - 1) [(2, 1), (0, w32 (v1 + 1)), (1, w64 (v2 + r17)), (0, v4)] μ16 (fun μ18 => hV (tWs [18, 19, 20, 21, 22, 23, 24, 25, 26, 28, 29, 30, 31, 32, 33, 34, 35, 36, 37, 38, 39, 40] [(1, 30), (1, 31)]) μ0 mX0_goRows d K 36 [(0, 2, 1), (1, 0, v1), (2, 1, v2), (4, 0, v4), (5, 0, v5), (6, 0, w32 (v6 + 1))] [] μ18)))))))) :
    hV (tWs [18, 19, 20, 21, 22, 23, 24, 25, 26, 28, 29, 30, 31, 32, 33, 34, 35, 36, 37, 38, 39, 40] [(1, 30), (1, 31)]) μ0 mX0_goRows d K 36 [(0, 2, 1), (1, 0, v1), (2, 1, v2), (4, 0, v4), (5, 0, v5), (6, 0, v6)] [] μ := by
  refine g_iload (q := 5) dX0_goRows_36 rfl ?_
  refine g_iload (q := 3) dX0_goRows_38 rfl ?_
  refine g_if_eq (tgt := 50) dX0_goRows_40 (by decide) (fun c1 => ?_) (fun c2 => ?_)
  · have h := h.1 c1
    refine g_iconst dX0_goRows_50 (by decide) ?_
    refine g_icmp_ge (tgt := 96) dX0_goRows_51 (by decide) (fun c3 => ?_) (fun c4 => ?_)
    · have h := h.1 c3
      refine g_iinc (q := 4) dX0_goRows_96 (by decide) rfl [1, 2, 3, 4, 0, 5] rfl ?_
      refine g_goto (tgt := 17) dX0_goRows_99 (by decide) ?_
      exact g_less [0, 1, 2, 3, 4] rfl h
    · have h := h.2 c4
      refine g_aload_n (q := 0) dX0_goRows_54 rfl rfl ?_
      refine g_getC (x := 37) 2 dX0_goRows_55 fX0_86 rfl (by decide) (sk_1 hs.S) (sv_1_21 hs.S) ?_
      refine g_iload_n (q := 1) dX0_goRows_58 rfl rfl ?_
      refine g_iload (q := 4) dX0_goRows_59 rfl ?_
      obtain ⟨c5, h⟩ := h
      refine g_iastore dX0_goRows_61 (by decide) (sk_37 hs.S) c5.1 (t_lt (sn_37 hs.S) c5.2) (p_w hs sf_37 (tWs_in _ rfl) fun μ6 eμ6 hs => ?_)
      have h := h μ6 eμ6
      refine g_aload_n (q := 0) dX0_goRows_62 rfl rfl ?_
      refine g_getC (x := 38) 2 dX0_goRows_63 fX0_89 rfl (by decide) (sk_1 hs.S) (sv_1_22 hs.S) ?_
      refine g_iload_n (q := 1) dX0_goRows_66 rfl rfl ?_
      refine g_iload (q := 5) dX0_goRows_67 rfl ?_
      refine g_iastore dX0_goRows_69 (by decide) (sk_38 hs.S) c5.1 (t_lt (sn_38 hs.S) c5.2) (p_w hs sf_38 (tWs_in _ rfl) fun μ7 eμ7 hs => ?_)
      have h := h μ7 eμ7
      refine g_aload_n (q := 0) dX0_goRows_70 rfl rfl ?_
      refine g_iload_n (q := 1) dX0_goRows_71 rfl rfl ?_
      refine g_iconst dX0_goRows_72 (by decide) ?_
      refine g_iadd dX0_goRows_73 ?_
      refine g_lload_n (q := 2) dX0_goRows_74 rfl rfl ?_
      refine g_aload_n (q := 0) dX0_goRows_75 rfl rfl ?_
      refine g_iload_n (q := 1) dX0_goRows_76 rfl rfl ?_
      refine g_iload (q := 4) dX0_goRows_77 rfl ?_
      refine g_iload (q := 5) dX0_goRows_79 rfl ?_
      refine g_callV3 dX0_goRows_81 kX0_doesStep q1078 q1080 qs36 (ci := 0) rfl (by decide) rfl (by omega) (by decide) (sk_1 hs.S) (Nat.le_of_ble_eq_true rfl) (Nat.le_refl _) (Nat.le_refl _) (t_kL hs (tWs_sub rfl) h (fun r9 μ8 hs h => ?_))
      refine g_ladd dX0_goRows_84 ?_
      refine g_iload (q := 3) dX0_goRows_85 rfl ?_
      refine g_callV3 dX0_goRows_87 kX0_goRows q1070 q1072 qs34 (ci := 0) rfl (by decide) rfl (by omega) (by decide) (sk_1 hs.S) (Nat.le_of_ble_eq_true rfl) (Nat.le_refl _) (Nat.le_refl _) (t_kV hs (tWs_sub rfl) h (fun μ10 hs h => ?_))
      refine g_iinc (q := 5) dX0_goRows_90 (by decide) rfl [1, 2, 3, 4, 5, 0] rfl ?_
      refine g_goto (tgt := 36) dX0_goRows_93 (by decide) ?_
      exact h
  · have h := h.2 c2
    refine g_iload (q := 4) dX0_goRows_43 rfl ?_
    refine g_iconst dX0_goRows_45 (by decide) ?_
    refine g_iadd dX0_goRows_46 ?_
    refine g_goto (tgt := 51) dX0_goRows_47 (by decide) ?_
    refine g_icmp_ge (tgt := 96) dX0_goRows_51 (by decide) (fun c11 => ?_) (fun c12 => ?_)
    · have h := h.1 c11
      refine g_iinc (q := 4) dX0_goRows_96 (by decide) rfl [1, 2, 3, 4, 0, 5] rfl ?_
      refine g_goto (tgt := 17) dX0_goRows_99 (by decide) ?_
      exact g_less [0, 1, 2, 3, 4] rfl h
    · have h := h.2 c12
      refine g_aload_n (q := 0) dX0_goRows_54 rfl rfl ?_
      refine g_getC (x := 37) 2 dX0_goRows_55 fX0_86 rfl (by decide) (sk_1 hs.S) (sv_1_21 hs.S) ?_
      refine g_iload_n (q := 1) dX0_goRows_58 rfl rfl ?_
      refine g_iload (q := 4) dX0_goRows_59 rfl ?_
      obtain ⟨c13, h⟩ := h
      refine g_iastore dX0_goRows_61 (by decide) (sk_37 hs.S) c13.1 (t_lt (sn_37 hs.S) c13.2) (p_w hs sf_37 (tWs_in _ rfl) fun μ14 eμ14 hs => ?_)
      have h := h μ14 eμ14
      refine g_aload_n (q := 0) dX0_goRows_62 rfl rfl ?_
      refine g_getC (x := 38) 2 dX0_goRows_63 fX0_89 rfl (by decide) (sk_1 hs.S) (sv_1_22 hs.S) ?_
      refine g_iload_n (q := 1) dX0_goRows_66 rfl rfl ?_
      refine g_iload (q := 5) dX0_goRows_67 rfl ?_
      refine g_iastore dX0_goRows_69 (by decide) (sk_38 hs.S) c13.1 (t_lt (sn_38 hs.S) c13.2) (p_w hs sf_38 (tWs_in _ rfl) fun μ15 eμ15 hs => ?_)
      have h := h μ15 eμ15
      refine g_aload_n (q := 0) dX0_goRows_70 rfl rfl ?_
      refine g_iload_n (q := 1) dX0_goRows_71 rfl rfl ?_
      refine g_iconst dX0_goRows_72 (by decide) ?_
      refine g_iadd dX0_goRows_73 ?_
      refine g_lload_n (q := 2) dX0_goRows_74 rfl rfl ?_
      refine g_aload_n (q := 0) dX0_goRows_75 rfl rfl ?_
      refine g_iload_n (q := 1) dX0_goRows_76 rfl rfl ?_
      refine g_iload (q := 4) dX0_goRows_77 rfl ?_
      refine g_iload (q := 5) dX0_goRows_79 rfl ?_
      refine g_callV3 dX0_goRows_81 kX0_doesStep q1078 q1080 qs36 (ci := 0) rfl (by decide) rfl (by omega) (by decide) (sk_1 hs.S) (Nat.le_of_ble_eq_true rfl) (Nat.le_refl _) (Nat.le_refl _) (t_kL hs (tWs_sub rfl) h (fun r17 μ16 hs h => ?_))
      refine g_ladd dX0_goRows_84 ?_
      refine g_iload (q := 3) dX0_goRows_85 rfl ?_
      refine g_callV3 dX0_goRows_87 kX0_goRows q1070 q1072 qs34 (ci := 0) rfl (by decide) rfl (by omega) (by decide) (sk_1 hs.S) (Nat.le_of_ble_eq_true rfl) (Nat.le_refl _) (Nat.le_refl _) (t_kV hs (tWs_sub rfl) h (fun μ18 hs h => ?_))
      refine g_iinc (q := 5) dX0_goRows_90 (by decide) rfl [1, 2, 3, 4, 5, 0] rfl ?_
      refine g_goto (tgt := 36) dX0_goRows_93 (by decide) ?_
      exact h
theorem uX0_agreed_0 {d : Nat} {μ0 μ : tm_M} {K : Int → tm_M → Prop} {ν : tm_M} {v1 : Int} (hd : 2 ≤ d) (hs : tFr (tWs [18, 19, 20, 21, 22, 23, 24, 25, 26, 28, 29, 30, 31, 32, 33, 34, 35, 36, 37, 38, 39, 40, 42, 43] [(1, 10), (1, 14), (1, 15), (1, 27), (1, 28), (1, 30), (1, 31)]) μ0 μ)
    (h : (v1 < 1 → (∀ μ3, μ3 = tm_w μ 1 10 5 → K (-1) μ3)) ∧ (1 ≤ v1 → (v1 ≤ 3 → (JU μ0 ν) ∧ ((y_all ν ≠ 0 → cV (tWs [18, 28] [(1, 27), (1, 30)]) mX0_beginRows (d - 1) [(2, 1), (0, v1)] μ (fun μ11 => cV (tWs [18, 19, 20, 21, 22, 23, 24, 25, 26, 28, 29, 30, 31, 32, 33, 34, 35, 36, 37, 38, 39, 40] [(1, 30), (1, 31)]) mX0_goRows (d - 1) [(2, 1), (0, 0), (1, 0), (0, 0)] μ11 (fun μ12 => (∀ μ13, μ13 = tm_c μ12 39 0 42 0 3 → (∀ μ14, μ14 = tm_c μ13 40 0 43 0 3 → (∀ μ15, μ15 = tm_w μ14 1 28 v1 → cI (tWs [] [(1, 10), (1, 14), (1, 15)]) mX0_tell (d - 1) [(2, 1), (1, tm_v μ15 1 31), (1, y_all ν)] μ15 (fun r17 μ16 => (∀ μ18, μ18 = tm_w μ16 1 10 0 → K (w32 (tm_v μ16 1 30)) μ18)))))))) ∧ (y_all ν = 0 → (∀ μ21, μ21 = tm_w μ 1 10 9 → K (-1) μ21)))) ∧ (3 < v1 → (∀ μ24, μ24 = tm_w μ 1 10 5 → K (-1) μ24)))) :
    hI (tWs [18, 19, 20, 21, 22, 23, 24, 25, 26, 28, 29, 30, 31, 32, 33, 34, 35, 36, 37, 38, 39, 40, 42, 43] [(1, 10), (1, 14), (1, 15), (1, 27), (1, 28), (1, 30), (1, 31)]) μ0 mX0_agreed d K 0 [(0, 2, 1), (1, 0, v1)] [] μ := by
  refine g_iload_n (q := 1) dX0_agreed_0 rfl rfl ?_
  refine g_iconst dX0_agreed_1 (by decide) ?_
  refine g_icmp_lt (tgt := 10) dX0_agreed_2 (by decide) (fun c1 => ?_) (fun c2 => ?_)
  · have h := h.1 c1
    refine g_aload_n (q := 0) dX0_agreed_10 rfl rfl ?_
    refine g_iconst dX0_agreed_11 (by decide) ?_
    refine g_callV1 dX0_agreed_12 kX0_none q636 q638 qs3 (ci := 0) rfl (by decide) rfl (by omega) (by decide) (sk_1 hs.S) (Nat.le_of_ble_eq_true rfl) (Nat.le_refl _) (Nat.le_refl _) (t_kI hs (tWs_sub rfl) (pX0_none hs.S) (fun r5 μ3 hs e4 => ?_))
    obtain ⟨rfl, e4⟩ := e4
    have h := h μ3 e4
    exact g_iret dX0_agreed_15 rfl (Nat.le_refl _) (Nat.le_refl _) ⟨_, rfl, hs, h⟩
  · have h := h.2 c2
    refine g_iload_n (q := 1) dX0_agreed_5 rfl rfl ?_
    refine g_iconst dX0_agreed_6 (by decide) ?_
    refine g_icmp_le (tgt := 16) dX0_agreed_7 (by decide) (fun c6 => ?_) (fun c7 => ?_)
    · have h := h.1 c6
      refine g_aload_n (q := 0) dX0_agreed_16 rfl rfl ?_
      obtain ⟨c8, h⟩ := h
      refine g_callV0 dX0_agreed_17 kX0_allLikely q1042 q1044 qs30 (ci := 0) rfl (by decide) rfl (by omega) (by decide) (sk_1 hs.S) (Nat.le_of_ble_eq_true rfl) (Nat.le_refl _) (Nat.le_refl _) (t_pL hs (pX0_allLikely (by omega) hs (tWs_TC ⟨rfl, rfl⟩) c8) ?_)
      refine g_lconst0 dX0_agreed_20 ?_
      refine g_lcmp_ne (tgt := 32) dX0_agreed_21 dX0_agreed_22 (by decide) (fun c9 => ?_) (fun c10 => ?_)
      · have h := h.1 c9
        refine g_aload_n (q := 0) dX0_agreed_32 rfl rfl ?_
        refine g_iload_n (q := 1) dX0_agreed_33 rfl rfl ?_
        refine g_callV1 dX0_agreed_34 kX0_beginRows q1066 q1068 qs33 (ci := 0) rfl (by decide) rfl (by omega) (by decide) (sk_1 hs.S) (Nat.le_of_ble_eq_true rfl) (Nat.le_refl _) (Nat.le_refl _) (t_kV hs (tWs_sub rfl) h (fun μ11 hs h => ?_))
        refine g_aload_n (q := 0) dX0_agreed_37 rfl rfl ?_
        refine g_iconst dX0_agreed_38 (by decide) ?_
        refine g_lconst0 dX0_agreed_39 ?_
        refine g_iconst dX0_agreed_40 (by decide) ?_
        refine g_callV3 dX0_agreed_41 kX0_goRows q1070 q1072 qs34 (ci := 0) rfl (by decide) rfl (by omega) (by decide) (sk_1 hs.S) (Nat.le_of_ble_eq_true rfl) (Nat.le_refl _) (Nat.le_refl _) (t_kV hs (tWs_sub rfl) h (fun μ12 hs h => ?_))
        refine g_aload_n (q := 0) dX0_agreed_44 rfl rfl ?_
        refine g_getC (x := 39) 2 dX0_agreed_45 fX0_92 rfl (by decide) (sk_1 hs.S) (sv_1_23 hs.S) ?_
        refine g_iconst dX0_agreed_48 (by decide) ?_
        refine g_aload_n (q := 0) dX0_agreed_49 rfl rfl ?_
        refine g_getC (x := 41) 2 dX0_agreed_50 fX0_98 rfl (by decide) (sk_1 hs.S) (sv_1_25 hs.S) ?_
        refine g_iconst dX0_agreed_53 (by decide) ?_
        refine g_aaloadC (x := 42) dX0_agreed_54 (by decide) (sk_41 hs.S) (by decide) (by decide) (t_lt (sn_41 hs.S) (by decide)) (sv_41_0 hs.S) ?_
        refine g_iconst dX0_agreed_55 (by decide) ?_
        refine g_iconst dX0_agreed_56 (by decide) ?_
        refine g_copy dX0_agreed_57 q650 (Or.inl rfl) (by decide) (sk_39 hs.S) (by decide) (sk_42 hs.S) (by decide) (by decide) (by decide) (by rw [(sn_39 hs.S)]; decide) (by rw [(sn_42 hs.S)]; decide) (Nat.le_of_ble_eq_true rfl) (p_c hs sf_42 (fun z => tWs_in z rfl) fun μ13 eμ13 hs => ?_)
        have h := h μ13 eμ13
        refine g_aload_n (q := 0) dX0_agreed_60 rfl rfl ?_
        refine g_getC (x := 40) 2 dX0_agreed_61 fX0_95 rfl (by decide) (sk_1 hs.S) (sv_1_24 hs.S) ?_
        refine g_iconst dX0_agreed_64 (by decide) ?_
        refine g_aload_n (q := 0) dX0_agreed_65 rfl rfl ?_
        refine g_getC (x := 41) 2 dX0_agreed_66 fX0_98 rfl (by decide) (sk_1 hs.S) (sv_1_25 hs.S) ?_
        refine g_iconst dX0_agreed_69 (by decide) ?_
        refine g_aaloadC (x := 43) dX0_agreed_70 (by decide) (sk_41 hs.S) (by decide) (by decide) (t_lt (sn_41 hs.S) (by decide)) (sv_41_1 hs.S) ?_
        refine g_iconst dX0_agreed_71 (by decide) ?_
        refine g_iconst dX0_agreed_72 (by decide) ?_
        refine g_copy dX0_agreed_73 q650 (Or.inl rfl) (by decide) (sk_40 hs.S) (by decide) (sk_43 hs.S) (by decide) (by decide) (by decide) (by rw [(sn_40 hs.S)]; decide) (by rw [(sn_43 hs.S)]; decide) (Nat.le_of_ble_eq_true rfl) (p_c hs sf_43 (fun z => tWs_in z rfl) fun μ14 eμ14 hs => ?_)
        have h := h μ14 eμ14
        refine g_aload_n (q := 0) dX0_agreed_76 rfl rfl ?_
        refine g_iload_n (q := 1) dX0_agreed_77 rfl rfl ?_
        refine g_put dX0_agreed_78 fX0_413 rfl (by decide) (sk_1 hs.S) (fun e => absurd e (by decide)) (p_wj hs (by decide) (tWs_inF rfl) fun μ15 eμ15 hs => ?_)
        have h := h μ15 eμ15
        refine g_aload_n (q := 0) dX0_agreed_81 rfl rfl ?_
        refine g_aload_n (q := 0) dX0_agreed_82 rfl rfl ?_
        refine g_get 1 dX0_agreed_83 fX0_395 rfl (by decide) (sk_1 hs.S) ?_
        refine g_aload_n (q := 0) dX0_agreed_86 rfl rfl ?_
        refine g_callV0 dX0_agreed_87 kX0_allLikely q1042 q1044 qs30 (ci := 0) rfl (by decide) rfl (by omega) (by decide) (sk_1 hs.S) (Nat.le_of_ble_eq_true rfl) (Nat.le_refl _) (Nat.le_refl _) (t_pL hs (pX0_allLikely (by omega) hs (tWs_TC ⟨rfl, rfl⟩) c8) ?_)
        refine g_callV2 dX0_agreed_90 kX0_tell q1046 q1048 qs31 (ci := 0) rfl (by decide) rfl (by omega) (by decide) (sk_1 hs.S) (Nat.le_of_ble_eq_true rfl) (Nat.le_refl _) (Nat.le_refl _) (t_kI hs (tWs_sub rfl) h (fun r17 μ16 hs h => ?_))
        refine g_pop dX0_agreed_93 (by decide) ?_
        refine g_aload_n (q := 0) dX0_agreed_94 rfl rfl ?_
        refine g_aload_n (q := 0) dX0_agreed_95 rfl rfl ?_
        refine g_get 1 dX0_agreed_96 fX0_392 rfl (by decide) (sk_1 hs.S) ?_
        refine g_l2i dX0_agreed_99 ?_
        refine g_callV1 dX0_agreed_100 kX0_gives q856 q858 qs17 (ci := 0) rfl (by decide) rfl (by omega) (by decide) (sk_1 hs.S) (Nat.le_of_ble_eq_true rfl) (Nat.le_refl _) (Nat.le_refl _) (t_kI hs (tWs_sub rfl) (pX0_gives hs.S) (fun r20 μ18 hs e19 => ?_))
        obtain ⟨rfl, e19⟩ := e19
        have h := h μ18 e19
        exact g_iret dX0_agreed_103 rfl (Nat.le_refl _) (Nat.le_refl _) ⟨_, rfl, hs, h⟩
      · have h := h.2 c10
        refine g_aload_n (q := 0) dX0_agreed_25 rfl rfl ?_
        refine g_bipush dX0_agreed_26 ⟨by decide, by decide, rfl⟩ ?_
        refine g_callV1 dX0_agreed_28 kX0_none q636 q638 qs3 (ci := 0) rfl (by decide) rfl (by omega) (by decide) (sk_1 hs.S) (Nat.le_of_ble_eq_true rfl) (Nat.le_refl _) (Nat.le_refl _) (t_kI hs (tWs_sub rfl) (pX0_none hs.S) (fun r23 μ21 hs e22 => ?_))
        obtain ⟨rfl, e22⟩ := e22
        have h := h μ21 e22
        exact g_iret dX0_agreed_31 rfl (Nat.le_refl _) (Nat.le_refl _) ⟨_, rfl, hs, h⟩
    · have h := h.2 c7
      refine g_aload_n (q := 0) dX0_agreed_10 rfl rfl ?_
      refine g_iconst dX0_agreed_11 (by decide) ?_
      refine g_callV1 dX0_agreed_12 kX0_none q636 q638 qs3 (ci := 0) rfl (by decide) rfl (by omega) (by decide) (sk_1 hs.S) (Nat.le_of_ble_eq_true rfl) (Nat.le_refl _) (Nat.le_refl _) (t_kI hs (tWs_sub rfl) (pX0_none hs.S) (fun r26 μ24 hs e25 => ?_))
      obtain ⟨rfl, e25⟩ := e25
      have h := h μ24 e25
      exact g_iret dX0_agreed_15 rfl (Nat.le_refl _) (Nat.le_refl _) ⟨_, rfl, hs, h⟩
theorem uX0_alike_0 {d : Nat} {μ0 μ : tm_M} {K : Int → tm_M → Prop} {ν : tm_M} {v1 : Int} (hd : 2 ≤ d) (hs : tFr (tWs [18, 19, 20, 21, 22, 23, 24, 25, 26, 28, 29, 30, 31, 32, 33, 34, 35, 36, 37, 38, 39, 40, 44] [(1, 10), (1, 14), (1, 15), (1, 27), (1, 29), (1, 30), (1, 31)]) μ0 μ)
    (h : (v1 < 1 → (∀ μ3, μ3 = tm_w μ 1 10 5 → K (-1) μ3)) ∧ (1 ≤ v1 → (v1 ≤ 5 → (JU μ0 ν) ∧ ((y_all ν ≠ 0 → cV (tWs [18, 28] [(1, 27), (1, 30)]) mX0_beginRows (d - 1) [(2, 1), (0, v1)] μ (fun μ11 => cV (tWs [18, 19, 20, 21, 22, 23, 24, 25, 26, 28, 29, 30, 31, 32, 33, 34, 35, 36, 37, 38, 39, 40] [(1, 30), (1, 31)]) mX0_goRows (d - 1) [(2, 1), (0, 0), (1, 0), (0, 1)] μ11 (fun μ12 => (∀ μ13, μ13 = tm_c μ12 39 0 44 0 5 → (∀ μ14, μ14 = tm_w μ13 1 29 v1 → cI (tWs [] [(1, 10), (1, 14), (1, 15)]) mX0_tell (d - 1) [(2, 1), (1, tm_v μ14 1 31), (1, y_all ν)] μ14 (fun r16 μ15 => (∀ μ17, μ17 = tm_w μ15 1 10 0 → K (w32 (tm_v μ15 1 30)) μ17))))))) ∧ (y_all ν = 0 → (∀ μ20, μ20 = tm_w μ 1 10 9 → K (-1) μ20)))) ∧ (5 < v1 → (∀ μ23, μ23 = tm_w μ 1 10 5 → K (-1) μ23)))) :
    hI (tWs [18, 19, 20, 21, 22, 23, 24, 25, 26, 28, 29, 30, 31, 32, 33, 34, 35, 36, 37, 38, 39, 40, 44] [(1, 10), (1, 14), (1, 15), (1, 27), (1, 29), (1, 30), (1, 31)]) μ0 mX0_alike d K 0 [(0, 2, 1), (1, 0, v1)] [] μ := by
  refine g_iload_n (q := 1) dX0_alike_0 rfl rfl ?_
  refine g_iconst dX0_alike_1 (by decide) ?_
  refine g_icmp_lt (tgt := 10) dX0_alike_2 (by decide) (fun c1 => ?_) (fun c2 => ?_)
  · have h := h.1 c1
    refine g_aload_n (q := 0) dX0_alike_10 rfl rfl ?_
    refine g_iconst dX0_alike_11 (by decide) ?_
    refine g_callV1 dX0_alike_12 kX0_none q636 q638 qs3 (ci := 0) rfl (by decide) rfl (by omega) (by decide) (sk_1 hs.S) (Nat.le_of_ble_eq_true rfl) (Nat.le_refl _) (Nat.le_refl _) (t_kI hs (tWs_sub rfl) (pX0_none hs.S) (fun r5 μ3 hs e4 => ?_))
    obtain ⟨rfl, e4⟩ := e4
    have h := h μ3 e4
    exact g_iret dX0_alike_15 rfl (Nat.le_refl _) (Nat.le_refl _) ⟨_, rfl, hs, h⟩
  · have h := h.2 c2
    refine g_iload_n (q := 1) dX0_alike_5 rfl rfl ?_
    refine g_iconst dX0_alike_6 (by decide) ?_
    refine g_icmp_le (tgt := 16) dX0_alike_7 (by decide) (fun c6 => ?_) (fun c7 => ?_)
    · have h := h.1 c6
      refine g_aload_n (q := 0) dX0_alike_16 rfl rfl ?_
      obtain ⟨c8, h⟩ := h
      refine g_callV0 dX0_alike_17 kX0_allLikely q1042 q1044 qs30 (ci := 0) rfl (by decide) rfl (by omega) (by decide) (sk_1 hs.S) (Nat.le_of_ble_eq_true rfl) (Nat.le_refl _) (Nat.le_refl _) (t_pL hs (pX0_allLikely (by omega) hs (tWs_TC ⟨rfl, rfl⟩) c8) ?_)
      refine g_lconst0 dX0_alike_20 ?_
      refine g_lcmp_ne (tgt := 32) dX0_alike_21 dX0_alike_22 (by decide) (fun c9 => ?_) (fun c10 => ?_)
      · have h := h.1 c9
        refine g_aload_n (q := 0) dX0_alike_32 rfl rfl ?_
        refine g_iload_n (q := 1) dX0_alike_33 rfl rfl ?_
        refine g_callV1 dX0_alike_34 kX0_beginRows q1066 q1068 qs33 (ci := 0) rfl (by decide) rfl (by omega) (by decide) (sk_1 hs.S) (Nat.le_of_ble_eq_true rfl) (Nat.le_refl _) (Nat.le_refl _) (t_kV hs (tWs_sub rfl) h (fun μ11 hs h => ?_))
        refine g_aload_n (q := 0) dX0_alike_37 rfl rfl ?_
        refine g_iconst dX0_alike_38 (by decide) ?_
        refine g_lconst0 dX0_alike_39 ?_
        refine g_iconst dX0_alike_40 (by decide) ?_
        refine g_callV3 dX0_alike_41 kX0_goRows q1070 q1072 qs34 (ci := 0) rfl (by decide) rfl (by omega) (by decide) (sk_1 hs.S) (Nat.le_of_ble_eq_true rfl) (Nat.le_refl _) (Nat.le_refl _) (t_kV hs (tWs_sub rfl) h (fun μ12 hs h => ?_))
        refine g_aload_n (q := 0) dX0_alike_44 rfl rfl ?_
        refine g_getC (x := 39) 2 dX0_alike_45 fX0_92 rfl (by decide) (sk_1 hs.S) (sv_1_23 hs.S) ?_
        refine g_iconst dX0_alike_48 (by decide) ?_
        refine g_aload_n (q := 0) dX0_alike_49 rfl rfl ?_
        refine g_getC (x := 44) 2 dX0_alike_50 fX0_101 rfl (by decide) (sk_1 hs.S) (sv_1_26 hs.S) ?_
        refine g_iconst dX0_alike_53 (by decide) ?_
        refine g_iconst dX0_alike_54 (by decide) ?_
        refine g_copy dX0_alike_55 q650 (Or.inl rfl) (by decide) (sk_39 hs.S) (by decide) (sk_44 hs.S) (by decide) (by decide) (by decide) (by rw [(sn_39 hs.S)]; decide) (by rw [(sn_44 hs.S)]; decide) (Nat.le_of_ble_eq_true rfl) (p_c hs sf_44 (fun z => tWs_in z rfl) fun μ13 eμ13 hs => ?_)
        have h := h μ13 eμ13
        refine g_aload_n (q := 0) dX0_alike_58 rfl rfl ?_
        refine g_iload_n (q := 1) dX0_alike_59 rfl rfl ?_
        refine g_put dX0_alike_60 fX0_416 rfl (by decide) (sk_1 hs.S) (fun e => absurd e (by decide)) (p_wj hs (by decide) (tWs_inF rfl) fun μ14 eμ14 hs => ?_)
        have h := h μ14 eμ14
        refine g_aload_n (q := 0) dX0_alike_63 rfl rfl ?_
        refine g_aload_n (q := 0) dX0_alike_64 rfl rfl ?_
        refine g_get 1 dX0_alike_65 fX0_395 rfl (by decide) (sk_1 hs.S) ?_
        refine g_aload_n (q := 0) dX0_alike_68 rfl rfl ?_
        refine g_callV0 dX0_alike_69 kX0_allLikely q1042 q1044 qs30 (ci := 0) rfl (by decide) rfl (by omega) (by decide) (sk_1 hs.S) (Nat.le_of_ble_eq_true rfl) (Nat.le_refl _) (Nat.le_refl _) (t_pL hs (pX0_allLikely (by omega) hs (tWs_TC ⟨rfl, rfl⟩) c8) ?_)
        refine g_callV2 dX0_alike_72 kX0_tell q1046 q1048 qs31 (ci := 0) rfl (by decide) rfl (by omega) (by decide) (sk_1 hs.S) (Nat.le_of_ble_eq_true rfl) (Nat.le_refl _) (Nat.le_refl _) (t_kI hs (tWs_sub rfl) h (fun r16 μ15 hs h => ?_))
        refine g_pop dX0_alike_75 (by decide) ?_
        refine g_aload_n (q := 0) dX0_alike_76 rfl rfl ?_
        refine g_aload_n (q := 0) dX0_alike_77 rfl rfl ?_
        refine g_get 1 dX0_alike_78 fX0_392 rfl (by decide) (sk_1 hs.S) ?_
        refine g_l2i dX0_alike_81 ?_
        refine g_callV1 dX0_alike_82 kX0_gives q856 q858 qs17 (ci := 0) rfl (by decide) rfl (by omega) (by decide) (sk_1 hs.S) (Nat.le_of_ble_eq_true rfl) (Nat.le_refl _) (Nat.le_refl _) (t_kI hs (tWs_sub rfl) (pX0_gives hs.S) (fun r19 μ17 hs e18 => ?_))
        obtain ⟨rfl, e18⟩ := e18
        have h := h μ17 e18
        exact g_iret dX0_alike_85 rfl (Nat.le_refl _) (Nat.le_refl _) ⟨_, rfl, hs, h⟩
      · have h := h.2 c10
        refine g_aload_n (q := 0) dX0_alike_25 rfl rfl ?_
        refine g_bipush dX0_alike_26 ⟨by decide, by decide, rfl⟩ ?_
        refine g_callV1 dX0_alike_28 kX0_none q636 q638 qs3 (ci := 0) rfl (by decide) rfl (by omega) (by decide) (sk_1 hs.S) (Nat.le_of_ble_eq_true rfl) (Nat.le_refl _) (Nat.le_refl _) (t_kI hs (tWs_sub rfl) (pX0_none hs.S) (fun r22 μ20 hs e21 => ?_))
        obtain ⟨rfl, e21⟩ := e21
        have h := h μ20 e21
        exact g_iret dX0_alike_31 rfl (Nat.le_refl _) (Nat.le_refl _) ⟨_, rfl, hs, h⟩
    · have h := h.2 c7
      refine g_aload_n (q := 0) dX0_alike_10 rfl rfl ?_
      refine g_iconst dX0_alike_11 (by decide) ?_
      refine g_callV1 dX0_alike_12 kX0_none q636 q638 qs3 (ci := 0) rfl (by decide) rfl (by omega) (by decide) (sk_1 hs.S) (Nat.le_of_ble_eq_true rfl) (Nat.le_refl _) (Nat.le_refl _) (t_kI hs (tWs_sub rfl) (pX0_none hs.S) (fun r25 μ23 hs e24 => ?_))
      obtain ⟨rfl, e24⟩ := e24
      have h := h μ23 e24
      exact g_iret dX0_alike_15 rfl (Nat.le_refl _) (Nat.le_refl _) ⟨_, rfl, hs, h⟩
