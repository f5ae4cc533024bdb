theorem uX0_areFrom_0 {d : Nat} {μ0 μ : tm_M} {K : Int → tm_M → Prop} {v1 v2 v3 v5 : Int} (hs : tFr (tWs [] []) μ0 μ)
    (h : hI (tWs [] []) μ0 mX0_areFrom d K 3 [(0, 2, 1), (1, 0, v1), (2, 0, v2), (3, 1, v3), (5, 1, v5), (7, 0, 0)] [] μ) :
    hI (tWs [] []) μ0 mX0_areFrom d K 0 [(0, 2, 1), (1, 0, v1), (2, 0, v2), (3, 1, v3), (5, 1, v5)] [] μ := by
  refine g_iconst dX0_areFrom_0 (by decide) ?_
  refine g_istore (L' := [(0, 2, 1), (1, 0, v1), (2, 0, v2), (3, 1, v3), (5, 1, v5), (7, 0, 0)]) dX0_areFrom_1 (by decide) [1, 2, 3, 4, 5, 0] rfl ?_
  exact h
theorem uX0_areFrom_3 {d : Nat} {μ0 μ : tm_M} {K : Int → tm_M → Prop} {ν : tm_M} {v1 v2 v3 v5 v7 : Int} (hd : 1 ≤ d) (hs : tFr (tWs [] []) μ0 μ)
    (h : (v2 ≤ v7 → K 1 μ) ∧ (v7 < v2 → (0 ≤ v1 ∧ v1 < 4) ∧ (((JU μ0 ν ∧ JY μ0 ν) ∧ isY ν (61 + v1) ∧ 0 ≤ v7 ∧ v7 < tm_v ν 67 ((61 + v1) - 61)) ∧ ((v3 ≤ (tm_v ν 68 (64 * ((61 + v1) - 61) + v7)) ∧ (tm_v ν 68 (64 * ((61 + v1) - 61) + v7)) ≤ v5 → hI (tWs [] []) μ0 mX0_areFrom d K 3 [(0, 2, 1), (1, 0, v1), (2, 0, v2), (3, 1, v3), (5, 1, v5), (7, 0, w32 (v7 + 1))] [] μ) ∧ (¬ (v3 ≤ (tm_v ν 68 (64 * ((61 + v1) - 61) + v7)) ∧ (tm_v ν 68 (64 * ((61 + v1) - 61) + v7)) ≤ v5) → K 0 μ))))) :
    hI (tWs [] []) μ0 mX0_areFrom d K 3 [(0, 2, 1), (1, 0, v1), (2, 0, v2), (3, 1, v3), (5, 1, v5), (7, 0, v7)] [] μ := by
  refine g_iload (q := 5) dX0_areFrom_3 rfl ?_
  refine g_iload_n (q := 2) dX0_areFrom_5 rfl rfl ?_
  refine g_icmp_ge (tgt := 37) dX0_areFrom_6 (by decide) (fun c1 => ?_) (fun c2 => ?_)
  · have h := h.1 c1
    refine g_iconst dX0_areFrom_37 (by decide) ?_
    exact g_zret dX0_areFrom_38 rfl (by decide) (Nat.le_refl _) (Nat.le_refl _) ⟨_, rfl, hs, h⟩
  · have h := h.2 c2
    refine g_aload_n (q := 0) dX0_areFrom_9 rfl rfl ?_
    refine g_getC (x := 2) 2 dX0_areFrom_10 fX0_11 rfl (by decide) (sk_1 hs.S) (sv_1_0 hs.S) ?_
    refine g_iload_n (q := 1) dX0_areFrom_13 rfl rfl ?_
    obtain ⟨c3, h⟩ := h
    refine g_aaloadC (x := 61 + v1) dX0_areFrom_14 (by decide) (sk_2 hs.S) (by decide) c3.1 (t_lt (sn_2 hs.S) c3.2) (sa_2 hs.S c3.1 c3.2) ?_
    refine g_iload (q := 5) dX0_areFrom_15 rfl ?_
    obtain ⟨c4, h⟩ := h
    refine g_callV1 dX0_areFrom_17 kX5_get q640 q641 q642 (ci := 5) rfl (by decide) rfl (by omega) (by have := c3; omega) (sak_2 hs.S c3.1 c3.2) (Nat.le_of_ble_eq_true rfl) (Nat.le_refl _) (Nat.le_refl _) (t_pL hs (pX5_get hs (tWs_TC ⟨rfl, rfl⟩) c4) ?_)
    refine g_lload_n (q := 3) dX0_areFrom_20 rfl rfl ?_
    refine g_lload (q := 4) dX0_areFrom_21 rfl ?_
    refine g_callS3 dX0_areFrom_23 kX0_isFrom q914 q915 rfl (by omega) (Nat.le_of_ble_eq_true rfl) (Nat.le_refl _) (Nat.le_refl _) (t_pI hs (pX0_isFrom hs (tWs_TC ⟨rfl, rfl⟩)) ?_)
    refine g_if_ne (tgt := 31) dX0_areFrom_26 (by decide) (fun c5 => ?_) (fun c6 => ?_)
    · have h := h.1 (b2i_1.mp c5)
      refine g_iinc (q := 5) dX0_areFrom_31 (by decide) rfl [1, 2, 3, 4, 5, 0] rfl ?_
      refine g_goto (tgt := 3) dX0_areFrom_34 (by decide) ?_
      exact h
    · have h := h.2 (b2i_0.mp c6)
      refine g_iconst dX0_areFrom_29 (by decide) ?_
      exact g_zret dX0_areFrom_30 rfl (by decide) (Nat.le_refl _) (Nat.le_refl _) ⟨_, rfl, hs, h⟩
theorem uX0_areWays_0 {d : Nat} {μ0 μ : tm_M} {K : Int → tm_M → Prop} {v1 v2 : Int} (hs : tFr (tWs [] []) μ0 μ)
    (h : hI (tWs [] []) μ0 mX0_areWays d K 2 [(0, 2, 1), (1, 2, v1), (2, 0, v2), (3, 0, 0)] [] μ) :
    hI (tWs [] []) μ0 mX0_areWays d K 0 [(0, 2, 1), (1, 2, v1), (2, 0, v2)] [] μ := by
  refine g_iconst dX0_areWays_0 (by decide) ?_
  refine g_istore_n (L' := [(0, 2, 1), (1, 2, v1), (2, 0, v2), (3, 0, 0)]) dX0_areWays_1 rfl (by decide) [1, 2, 3, 0] rfl ?_
  exact h
theorem uX0_areWays_2 {d : Nat} {μ0 μ : tm_M} {K : Int → tm_M → Prop} {ν : tm_M} {v1 v2 v3 : Int} (hd : 1 ≤ d) (hs : tFr (tWs [] []) μ0 μ)
    (h : (v2 ≤ v3 → K 1 μ) ∧ (v3 < v2 → (1 ≤ v1 ∧ tm_k μ0 v1 = 5) ∧ (((JU μ0 ν ∧ JY μ0 ν) ∧ isY ν v1 ∧ 0 ≤ v3 ∧ v3 < tm_v ν 67 (v1 - 61)) ∧ ((JV μ0 ν) ∧ ((0 ≤ (tm_v ν 68 (64 * (v1 - 61) + v3)) ∧ (tm_v ν 68 (64 * (v1 - 61) + v3)) < tm_v ν 65 43 → hI (tWs [] []) μ0 mX0_areWays d K 2 [(0, 2, 1), (1, 2, v1), (2, 0, v2), (3, 0, w32 (v3 + 1))] [] μ) ∧ (¬ (0 ≤ (tm_v ν 68 (64 * (v1 - 61) + v3)) ∧ (tm_v ν 68 (64 * (v1 - 61) + v3)) < tm_v ν 65 43) → K 0 μ)))))) :
    hI (tWs [] []) μ0 mX0_areWays d K 2 [(0, 2, 1), (1, 2, v1), (2, 0, v2), (3, 0, v3)] [] μ := by
  refine g_iload_n (q := 3) dX0_areWays_2 rfl rfl ?_
  refine g_iload_n (q := 2) dX0_areWays_3 rfl rfl ?_
  refine g_icmp_ge (tgt := 27) dX0_areWays_4 (by decide) (fun c1 => ?_) (fun c2 => ?_)
  · have h := h.1 c1
    refine g_iconst dX0_areWays_27 (by decide) ?_
    exact g_zret dX0_areWays_28 rfl (by decide) (Nat.le_refl _) (Nat.le_refl _) ⟨_, rfl, hs, h⟩
  · have h := h.2 c2
    refine g_aload_n (q := 0) dX0_areWays_7 rfl rfl ?_
    refine g_aload_n (q := 1) dX0_areWays_8 rfl rfl ?_
    refine g_iload_n (q := 3) dX0_areWays_9 rfl rfl ?_
    obtain ⟨c3, h⟩ := h
    obtain ⟨c4, h⟩ := h
    refine g_callV1 dX0_areWays_10 kX5_get q640 q641 q642 (ci := 5) rfl (by decide) rfl (by omega) c3.1 (hs.k ▸ c3.2) (Nat.le_of_ble_eq_true rfl) (Nat.le_refl _) (Nat.le_refl _) (t_pL hs (pX5_get hs (tWs_TC ⟨rfl, rfl⟩) c4) ?_)
    obtain ⟨c5, h⟩ := h
    refine g_callV1 dX0_areWays_13 kX0_isWay q969 q971 qs23 (ci := 0) rfl (by decide) rfl (by omega) (by decide) (sk_1 hs.S) (Nat.le_of_ble_eq_true rfl) (Nat.le_refl _) (Nat.le_refl _) (t_pI hs (pX0_isWay hs (tWs_TC ⟨rfl, rfl⟩) c5) ?_)
    refine g_if_ne (tgt := 21) dX0_areWays_16 (by decide) (fun c6 => ?_) (fun c7 => ?_)
    · have h := h.1 (b2i_1.mp c6)
      refine g_iinc (q := 3) dX0_areWays_21 (by decide) rfl [1, 2, 3, 0] rfl ?_
      refine g_goto (tgt := 2) dX0_areWays_24 (by decide) ?_
      exact h
    · have h := h.2 (b2i_0.mp c7)
      refine g_iconst dX0_areWays_19 (by decide) ?_
      exact g_zret dX0_areWays_20 rfl (by decide) (Nat.le_refl _) (Nat.le_refl _) ⟨_, rfl, hs, h⟩
theorem uX0_judge_0 {d : Nat} {μ0 μ : tm_M} {K : Int → tm_M → Prop} {ν : tm_M} {v1 v2 v3 : Int} (hd : 1 ≤ d) (hf : dyA (c_FA μ0) ∧ tm_k μ0 (c_FA μ0) = 20) (hs : tFr (tWf [7, 8, 10] [(1, 10)] (c_FA μ0)) μ0 μ)
    (h : (0 ≤ v3 ∧ v3 < 4 → (JV μ0 ν) ∧ ((¬ (0 ≤ v1 ∧ v1 < tm_v ν 65 43) → (∀ μ6, μ6 = tm_w μ 1 10 2 → K (-1) μ6)) ∧ (0 ≤ v1 ∧ v1 < tm_v ν 65 43 → (0 ≤ v2 ∧ v2 < tm_v ν 65 43 → (0 ≤ v3 ∧ v3 < 4) ∧ ((1 ≤ tm_v μ (61 + v3) 0 → (ob μ0 (tm_v μ0 1 8) 4) ∧ ((∀ x15, x15 = tm_v μ0 (tm_v μ0 1 8) 2 → ((JU μ0 ν ∧ JY μ0 ν) ∧ isY ν (61 + v3)) ∧ ((w32 (x15 * x15) ≤ tm_v ν 67 ((61 + v3) - 61) → hI (tWf [7, 8, 10] [(1, 10)] (c_FA μ0)) μ0 mX0_judge d K 90 [(0, 2, 1), (1, 0, v1), (2, 0, v2), (4, 2, 61 + v3), (5, 0, x15), (6, 0, 0)] [] μ) ∧ (tm_v ν 67 ((61 + v3) - 61) < w32 (x15 * x15) → (∀ μ19, μ19 = tm_w μ 1 10 4 → K (-1) μ19)))))) ∧ (tm_v μ (61 + v3) 0 = 0 → (∀ μ22, μ22 = tm_w μ 1 10 3 → K (-1) μ22)))) ∧ (¬ (0 ≤ v2 ∧ v2 < tm_v ν 65 43) → (∀ μ25, μ25 = tm_w μ 1 10 2 → K (-1) μ25))))) ∧ (¬ (0 ≤ v3 ∧ v3 < 4) → (∀ μ28, μ28 = tm_w μ 1 10 1 → K (-1) μ28))) :
    hI (tWf [7, 8, 10] [(1, 10)] (c_FA μ0)) μ0 mX0_judge d K 0 [(0, 2, 1), (1, 0, v1), (2, 0, v2), (3, 0, v3)] [] μ := by
  refine g_iload_n (q := 3) dX0_judge_0 rfl rfl ?_
  refine g_callS1 dX0_judge_1 kX0_isTray q564 q565 rfl (by omega) (Nat.le_of_ble_eq_true rfl) (Nat.le_refl _) (Nat.le_refl _) (t_pI hs (pX0_isTray hs (tWf_TC hf.1 ⟨rfl, rfl⟩)) ?_)
  refine g_if_ne (tgt := 13) dX0_judge_4 (by decide) (fun c1 => ?_) (fun c2 => ?_)
  · have h := h.1 (b2i_1.mp c1)
    refine g_aload_n (q := 0) dX0_judge_13 rfl rfl ?_
    refine g_iload_n (q := 1) dX0_judge_14 rfl rfl ?_
    refine g_i2l dX0_judge_15 ?_
    obtain ⟨c3, h⟩ := h
    refine g_callV1 dX0_judge_16 kX0_isWay q969 q971 qs23 (ci := 0) rfl (by decide) rfl (by omega) (by decide) (sk_1 hs.S) (Nat.le_of_ble_eq_true rfl) (Nat.le_refl _) (Nat.le_refl _) (t_pI hs (pX0_isWay hs (tWf_TC hf.1 ⟨rfl, rfl⟩) c3) ?_)
    refine g_if_eq (tgt := 31) dX0_judge_19 (by decide) (fun c4 => ?_) (fun c5 => ?_)
    · have h := h.1 (b2i_0.mp c4)
      refine g_aload_n (q := 0) dX0_judge_31 rfl rfl ?_
      refine g_iconst dX0_judge_32 (by decide) ?_
      refine g_callV1 dX0_judge_33 kX0_none q636 q638 qs3 (ci := 0) rfl (by decide) rfl (by omega) (by decide) (sk_1 hs.S) (Nat.le_of_ble_eq_true rfl) (Nat.le_refl _) (Nat.le_refl _) (t_kI hs (tWf_subL rfl) (pX0_none hs.S) (fun r8 μ6 hs e7 => ?_))
      obtain ⟨rfl, e7⟩ := e7
      have h := h μ6 e7
      exact g_iret dX0_judge_36 rfl (Nat.le_refl _) (Nat.le_refl _) ⟨_, rfl, hs, h⟩
    · have h := h.2 (b2i_1.mp c5)
      refine g_aload_n (q := 0) dX0_judge_22 rfl rfl ?_
      refine g_iload_n (q := 2) dX0_judge_23 rfl rfl ?_
      refine g_i2l dX0_judge_24 ?_
      refine g_callV1 dX0_judge_25 kX0_isWay q969 q971 qs23 (ci := 0) rfl (by decide) rfl (by omega) (by decide) (sk_1 hs.S) (Nat.le_of_ble_eq_true rfl) (Nat.le_refl _) (Nat.le_refl _) (t_pI hs (pX0_isWay hs (tWf_TC hf.1 ⟨rfl, rfl⟩) c3) ?_)
      refine g_if_ne (tgt := 37) dX0_judge_28 (by decide) (fun c9 => ?_) (fun c10 => ?_)
      · have h := h.1 (b2i_1.mp c9)
        refine g_aload_n (q := 0) dX0_judge_37 rfl rfl ?_
        refine g_getC (x := 2) 2 dX0_judge_38 fX0_11 rfl (by decide) (sk_1 hs.S) (sv_1_0 hs.S) ?_
        refine g_iload_n (q := 3) dX0_judge_41 rfl rfl ?_
        obtain ⟨c11, h⟩ := h
        refine g_aaloadC (x := 61 + v3) dX0_judge_42 (by decide) (sk_2 hs.S) (by decide) c11.1 (t_lt (sn_2 hs.S) c11.2) (sa_2 hs.S c11.1 c11.2) ?_
        refine g_astore (L' := [(0, 2, 1), (1, 0, v1), (2, 0, v2), (3, 0, v3), (4, 2, 61 + v3)]) dX0_judge_43 (by decide) [1, 2, 3, 4, 0] rfl ?_
        refine g_aload (q := 4) dX0_judge_45 rfl ?_
        refine g_get 2 dX0_judge_47 fX0_186 rfl (by have := c11; omega) (sak_2 hs.S c11.1 c11.2) ?_
        refine g_ifnonnull (tgt := 59) dX0_judge_50 (by decide) (fun c12 => ?_) (fun c13 => ?_)
        · have h := h.1 c12
          refine g_aload_n (q := 0) dX0_judge_59 rfl rfl ?_
          refine g_getC (x := tm_v μ0 1 8) 2 dX0_judge_60 fX0_57 rfl (by decide) (sk_1 hs.S) (hs.v (tWf_no hf (by decide) (tWs_noF rfl))) ?_
          obtain ⟨c14, h⟩ := h
          refine g_getC (x := tm_v μ0 (tm_v μ0 1 8) 2) 0 dX0_judge_63 fX0_200 rfl c14.1.1 (hs.k ▸ c14.1.2) (hs.v (tWf_ob rfl hf c14 (by decide))) ?_
          refine g_istoreN (fun z => [(0, 2, 1), (1, 0, v1), (2, 0, v2), (3, 0, v3), (4, 2, 61 + v3), (5, 0, z)]) dX0_judge_66 (by decide) [1, 2, 3, 4, 5, 0] (fun _ => rfl) (fun x15 ex15 => ?_)
          have h := h x15 ex15
          refine g_aload (q := 4) dX0_judge_68 rfl ?_
          obtain ⟨c16, h⟩ := h
          refine g_callV0 dX0_judge_70 kX5_many q905 q906 q907 (ci := 5) rfl (by decide) rfl (by omega) (by have := c11; omega) (sak_2 hs.S c11.1 c11.2) (Nat.le_of_ble_eq_true rfl) (Nat.le_refl _) (Nat.le_refl _) (t_pI hs (pX5_many hs (tWf_TC hf.1 ⟨rfl, rfl⟩) c16) ?_)
          refine g_iload (q := 5) dX0_judge_73 rfl ?_
          refine g_iload (q := 5) dX0_judge_75 rfl ?_
          refine g_imul dX0_judge_77 ?_
          refine g_icmp_ge (tgt := 87) dX0_judge_78 (by decide) (fun c17 => ?_) (fun c18 => ?_)
          · have h := h.1 c17
            refine g_iconst dX0_judge_87 (by decide) ?_
            refine g_istore (L' := [(0, 2, 1), (1, 0, v1), (2, 0, v2), (3, 0, v3), (4, 2, 61 + v3), (5, 0, x15), (6, 0, 0)]) dX0_judge_88 (by decide) [1, 2, 3, 4, 5, 6, 0] rfl ?_
            exact g_less [0, 1, 2, 4, 5, 6] rfl h
          · have h := h.2 c18
            refine g_aload_n (q := 0) dX0_judge_81 rfl rfl ?_
            refine g_iconst dX0_judge_82 (by decide) ?_
            refine g_callV1 dX0_judge_83 kX0_none q636 q638 qs3 (ci := 0) rfl (by decide) rfl (by omega) (by decide) (sk_1 hs.S) (Nat.le_of_ble_eq_true rfl) (Nat.le_refl _) (Nat.le_refl _) (t_kI hs (tWf_subL rfl) (pX0_none hs.S) (fun r21 μ19 hs e20 => ?_))
            obtain ⟨rfl, e20⟩ := e20
            have h := h μ19 e20
            exact g_iret dX0_judge_86 rfl (Nat.le_refl _) (Nat.le_refl _) ⟨_, rfl, hs, h⟩
        · have h := h.2 c13
          refine g_aload_n (q := 0) dX0_judge_53 rfl rfl ?_
          refine g_iconst dX0_judge_54 (by decide) ?_
          refine g_callV1 dX0_judge_55 kX0_none q636 q638 qs3 (ci := 0) rfl (by decide) rfl (by omega) (by decide) (sk_1 hs.S) (Nat.le_of_ble_eq_true rfl) (Nat.le_refl _) (Nat.le_refl _) (t_kI hs (tWf_subL rfl) (pX0_none hs.S) (fun r24 μ22 hs e23 => ?_))
          obtain ⟨rfl, e23⟩ := e23
          have h := h μ22 e23
          exact g_iret dX0_judge_58 rfl (Nat.le_refl _) (Nat.le_refl _) ⟨_, rfl, hs, h⟩
      · have h := h.2 (b2i_0.mp c10)
        refine g_aload_n (q := 0) dX0_judge_31 rfl rfl ?_
        refine g_iconst dX0_judge_32 (by decide) ?_
        refine g_callV1 dX0_judge_33 kX0_none q636 q638 qs3 (ci := 0) rfl (by decide) rfl (by omega) (by decide) (sk_1 hs.S) (Nat.le_of_ble_eq_true rfl) (Nat.le_refl _) (Nat.le_refl _) (t_kI hs (tWf_subL rfl) (pX0_none hs.S) (fun r27 μ25 hs e26 => ?_))
        obtain ⟨rfl, e26⟩ := e26
        have h := h μ25 e26
        exact g_iret dX0_judge_36 rfl (Nat.le_refl _) (Nat.le_refl _) ⟨_, rfl, hs, h⟩
  · have h := h.2 (b2i_0.mp c2)
    refine g_aload_n (q := 0) dX0_judge_7 rfl rfl ?_
    refine g_iconst dX0_judge_8 (by decide) ?_
    refine g_callV1 dX0_judge_9 kX0_none q636 q638 qs3 (ci := 0) rfl (by decide) rfl (by omega) (by decide) (sk_1 hs.S) (Nat.le_of_ble_eq_true rfl) (Nat.le_refl _) (Nat.le_refl _) (t_kI hs (tWf_subL rfl) (pX0_none hs.S) (fun r30 μ28 hs e29 => ?_))
    obtain ⟨rfl, e29⟩ := e29
    have h := h μ28 e29
    exact g_iret dX0_judge_12 rfl (Nat.le_refl _) (Nat.le_refl _) ⟨_, rfl, hs, h⟩
theorem uX0_judge_90 {d : Nat} {μ0 μ : tm_M} {K : Int → tm_M → Prop} {v1 v2 v4 v5 v6 : Int} (hd : 1 ≤ d) (hf : dyA (c_FA μ0) ∧ tm_k μ0 (c_FA μ0) = 20) (hs : tFr (tWf [7, 8, 10] [(1, 10)] (c_FA μ0)) μ0 μ)
    (h : (v5 ≤ v6 → (∀ μ3, μ3 = tm_w μ 1 10 0 → K (-1) μ3)) ∧ (v6 < v5 → hI (tWf [7, 8, 10] [(1, 10)] (c_FA μ0)) μ0 mX0_judge d K 100 [(0, 2, 1), (1, 0, v1), (2, 0, v2), (4, 2, v4), (5, 0, v5), (6, 0, v6), (7, 0, 0)] [] μ)) :
    hI (tWf [7, 8, 10] [(1, 10)] (c_FA μ0)) μ0 mX0_judge d K 90 [(0, 2, 1), (1, 0, v1), (2, 0, v2), (4, 2, v4), (5, 0, v5), (6, 0, v6)] [] μ := by
  refine g_iload (q := 5) dX0_judge_90 rfl ?_
  refine g_iload (q := 4) dX0_judge_92 rfl ?_
  refine g_icmp_ge (tgt := 160) dX0_judge_94 (by decide) (fun c1 => ?_) (fun c2 => ?_)
  · have h := h.1 c1
    refine g_aload_n (q := 0) dX0_judge_160 rfl rfl ?_
    refine g_iconst dX0_judge_161 (by decide) ?_
    refine g_callV1 dX0_judge_162 kX0_gives q856 q858 qs17 (ci := 0) rfl (by decide) rfl (by omega) (by decide) (sk_1 hs.S) (Nat.le_of_ble_eq_true rfl) (Nat.le_refl _) (Nat.le_refl _) (t_kI hs (tWf_subL rfl) (pX0_gives hs.S) (fun r5 μ3 hs e4 => ?_))
    obtain ⟨rfl, e4⟩ := e4
    have h := h μ3 e4
    exact g_iret dX0_judge_165 rfl (Nat.le_refl _) (Nat.le_refl _) ⟨_, rfl, hs, h⟩
  · have h := h.2 c2
    refine g_iconst dX0_judge_97 (by decide) ?_
    refine g_istore (L' := [(0, 2, 1), (1, 0, v1), (2, 0, v2), (4, 2, v4), (5, 0, v5), (6, 0, v6), (7, 0, 0)]) dX0_judge_98 (by decide) [1, 2, 3, 4, 5, 6, 0] rfl ?_
    exact h
theorem uX0_judge_100 {d : Nat} {μ0 μ : tm_M} {K : Int → tm_M → Prop} {ν : tm_M} {v1 v2 v4 v5 v6 v7 : Int} (hd : 1 ≤ d) (hf : dyA (c_FA μ0) ∧ tm_k μ0 (c_FA μ0) = 20) (hs : tFr (tWf [7, 8, 10] [(1, 10)] (c_FA μ0)) μ0 μ)
    (h : (v5 ≤ v7 → hI (tWf [7, 8, 10] [(1, 10)] (c_FA μ0)) μ0 mX0_judge d K 90 [(0, 2, 1), (1, 0, v1), (2, 0, v2), (4, 2, v4), (5, 0, v5), (6, 0, w32 (v6 + 1))] [] μ) ∧ (v7 < v5 → (1 ≤ v4 ∧ tm_k μ0 v4 = 5) ∧ (((JU μ0 ν ∧ JY μ0 ν) ∧ isY ν v4 ∧ 0 ≤ (w32 ((w32 (v5 * v6)) + v7)) ∧ (w32 ((w32 (v5 * v6)) + v7)) < tm_v ν 67 (v4 - 61)) ∧ (cI (tWf [7, 8, 10] [] (c_FA μ0)) mX0_meet (d - 1) [(2, 1), (0, v1), (0, v2), (0, v6), (0, v7)] μ (fun r6 μ5 => (tm_v ν 68 (64 * (v4 - 61) + (w32 ((w32 (v5 * v6)) + v7))) = r6 → hI (tWf [7, 8, 10] [(1, 10)] (c_FA μ0)) μ0 mX0_judge d K 100 [(0, 2, 1), (1, 0, v1), (2, 0, v2), (4, 2, v4), (5, 0, v5), (6, 0, v6), (7, 0, w32 (v7 + 1))] [] μ5) ∧ (tm_v ν 68 (64 * (v4 - 61) + (w32 ((w32 (v5 * v6)) + v7))) ≠ r6 → (∀ μ9, μ9 = tm_w μ5 1 10 0 → K (w32 ((w32 (8 * v6)) + v7)) μ9))))))) :
    hI (tWf [7, 8, 10] [(1, 10)] (c_FA μ0)) μ0 mX0_judge d K 100 [(0, 2, 1), (1, 0, v1), (2, 0, v2), (4, 2, v4), (5, 0, v5), (6, 0, v6), (7, 0, v7)] [] μ := by
  refine g_iload (q := 6) dX0_judge_100 rfl ?_
  refine g_iload (q := 4) dX0_judge_102 rfl ?_
  refine g_icmp_ge (tgt := 154) dX0_judge_104 (by decide) (fun c1 => ?_) (fun c2 => ?_)
  · have h := h.1 c1
    refine g_iinc (q := 5) dX0_judge_154 (by decide) rfl [1, 2, 3, 4, 5, 0, 6] rfl ?_
    refine g_goto (tgt := 90) dX0_judge_157 (by decide) ?_
    exact g_less [0, 1, 2, 3, 4, 5] rfl h
  · have h := h.2 c2
    refine g_aload (q := 3) dX0_judge_107 rfl ?_
    refine g_iload (q := 4) dX0_judge_109 rfl ?_
    refine g_iload (q := 5) dX0_judge_111 rfl ?_
    refine g_imul dX0_judge_113 ?_
    refine g_iload (q := 6) dX0_judge_114 rfl ?_
    refine g_iadd dX0_judge_116 ?_
    obtain ⟨c3, h⟩ := h
    obtain ⟨c4, h⟩ := h
    refine g_callV1 dX0_judge_117 kX5_get q640 q641 q642 (ci := 5) rfl (by decide) rfl (by omega) c3.1 (hs.k ▸ c3.2) (Nat.le_of_ble_eq_true rfl) (Nat.le_refl _) (Nat.le_refl _) (t_pL hs (pX5_get hs (tWf_TC hf.1 ⟨rfl, rfl⟩) c4) ?_)
    refine g_aload_n (q := 0) dX0_judge_120 rfl rfl ?_
    refine g_iload_n (q := 1) dX0_judge_121 rfl rfl ?_
    refine g_iload_n (q := 2) dX0_judge_122 rfl rfl ?_
    refine g_iload (q := 5) dX0_judge_123 rfl ?_
    refine g_iload (q := 6) dX0_judge_125 rfl ?_
    refine g_callV4 dX0_judge_127 kX0_meet q973 q975 qs24 (ci := 0) rfl (by decide) rfl (by omega) (by decide) (sk_1 hs.S) (Nat.le_of_ble_eq_true rfl) (Nat.le_refl _) (Nat.le_refl _) (t_kI hs (tWf_sub rfl) h (fun r6 μ5 hs h => ?_))
    refine g_i2l dX0_judge_130 ?_
    refine g_lcmp_eq (tgt := 148) dX0_judge_131 dX0_judge_132 (by decide) (fun c7 => ?_) (fun c8 => ?_)
    · have h := h.1 c7
      refine g_iinc (q := 6) dX0_judge_148 (by decide) rfl [1, 2, 3, 4, 5, 6, 0] rfl ?_
      refine g_goto (tgt := 100) dX0_judge_151 (by decide) ?_
      exact h
    · have h := h.2 c8
      refine g_aload_n (q := 0) dX0_judge_135 rfl rfl ?_
      refine g_bipush dX0_judge_136 ⟨by decide, by decide, rfl⟩ ?_
      refine g_iload (q := 5) dX0_judge_138 rfl ?_
      refine g_imul dX0_judge_140 ?_
      refine g_iload (q := 6) dX0_judge_141 rfl ?_
      refine g_iadd dX0_judge_143 ?_
      refine g_callV1 dX0_judge_144 kX0_gives q856 q858 qs17 (ci := 0) rfl (by decide) rfl (by omega) (by decide) (sk_1 hs.S) (Nat.le_of_ble_eq_true rfl) (Nat.le_refl _) (Nat.le_refl _) (t_kI hs (tWf_subL rfl) (pX0_gives hs.S) (fun r11 μ9 hs e10 => ?_))
      obtain ⟨rfl, e10⟩ := e10
      have h := h μ9 e10
      exact g_iret dX0_judge_147 rfl (Nat.le_refl _) (Nat.le_refl _) ⟨_, rfl, hs, h⟩
