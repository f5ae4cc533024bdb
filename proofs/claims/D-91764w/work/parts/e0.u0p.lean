theorem uX0_shut_0 {d : Nat} {μ0 μ : tm_M} {K : Int → tm_M → Prop} {ν : tm_M} {v1 v2 : Int} (hd : 1 ≤ d) (hs : tFr (tWd [] [(1, 10)] (c_FA μ0) μ0) μ0 μ)
    (h : (JU μ ν) ∧ ((0 ≤ v1 ∧ v1 < tm_v ν 65 21 → (ob μ0 (tm_v μ 1 8) 4) ∧ ((ob μ0 (tm_v μ (tm_v μ 1 8) 1) 27) ∧ ((0 ≤ v1 ∧ v1 < tm_n μ0 (tm_v μ (tm_v μ 1 8) 1)) ∧ ((ob μ0 (tm_v μ (tm_v μ (tm_v μ 1 8) 1) v1) 8) ∧ ((0 ≤ v2 ∧ v2 ≤ 1) ∧ ((∀ μ9, μ9 = tm_w μ (tm_v μ (tm_v μ (tm_v μ 1 8) 1) v1) 2 v2 → (∀ μ10, μ10 = tm_w μ9 1 10 0 → K 1 μ10)))))))) ∧ (¬ (0 ≤ v1 ∧ v1 < tm_v ν 65 21) → (∀ μ13, μ13 = tm_w μ 1 10 2 → K 0 μ13)))) :
    hI (tWd [] [(1, 10)] (c_FA μ0) μ0) μ0 mX0_shut d K 0 [(0, 2, 1), (1, 0, v1), (2, 0, v2)] [] μ := by
  refine g_aload_n (q := 0) dX0_shut_0 rfl rfl ?_
  refine g_iload_n (q := 1) dX0_shut_1 rfl rfl ?_
  obtain ⟨c1, h⟩ := h
  refine g_callV1 dX0_shut_2 kX0_isLane q881 q883 qs19 (ci := 0) rfl (by decide) rfl (by omega) (by decide) (sk_1 hs.S) (Nat.le_of_ble_eq_true rfl) (Nat.le_refl _) (Nat.le_refl _) (t_pI hs (pX0_isLane (tFr.rf (W := tWs [] []) hs.S) (tWs_TC ⟨rfl, rfl⟩) c1) ?_)
  refine g_if_ne (tgt := 14) dX0_shut_5 (by decide) (fun c2 => ?_) (fun c3 => ?_)
  · have h := h.1 (b2i_1.mp c2)
    refine g_aload_n (q := 0) dX0_shut_14 rfl rfl ?_
    refine g_get 2 dX0_shut_15 fX0_57 rfl (by decide) (sk_1 hs.S) ?_
    obtain ⟨c4, h⟩ := h
    refine g_get 2 dX0_shut_18 fX0_266 rfl c4.1.1 (hs.k ▸ c4.1.2) ?_
    refine g_iload_n (q := 1) dX0_shut_21 rfl rfl ?_
    obtain ⟨c5, h⟩ := h
    obtain ⟨c6, h⟩ := h
    refine g_aaload dX0_shut_22 c5.1.1 (hs.k ▸ c5.1.2) (by decide) c6.1 (hs.n ▸ c6.2) ?_
    refine g_iload_n (q := 2) dX0_shut_23 rfl rfl ?_
    obtain ⟨c7, h⟩ := h
    obtain ⟨c8, h⟩ := h
    refine g_put dX0_shut_24 fX0_267 rfl c7.1.1 (hs.k ▸ c7.1.2) (fun _ => c8) (p_w hs (dyA_fr c7.2) (Or.inr ⟨c7, rfl⟩) fun μ9 eμ9 hs => ?_)
    have h := h μ9 eμ9
    refine g_aload_n (q := 0) dX0_shut_27 rfl rfl ?_
    refine g_iconst dX0_shut_28 (by decide) ?_
    refine g_callV1 dX0_shut_29 kX0_is q567 q569 qs2 (ci := 0) rfl (by decide) rfl (by omega) (by decide) (sk_1 hs.S) (Nat.le_of_ble_eq_true rfl) (Nat.le_refl _) (Nat.le_refl _) (t_kI hs (tWd_subL rfl) (pX0_is hs.S) (fun r12 μ10 hs e11 => ?_))
    obtain ⟨rfl, e11⟩ := e11
    have h := h μ10 e11
    exact g_zret dX0_shut_32 rfl (by decide) (Nat.le_refl _) (Nat.le_refl _) ⟨_, rfl, hs, h⟩
  · have h := h.2 (b2i_0.mp c3)
    refine g_aload_n (q := 0) dX0_shut_8 rfl rfl ?_
    refine g_iconst dX0_shut_9 (by decide) ?_
    refine g_callV1 dX0_shut_10 kX0_is q567 q569 qs2 (ci := 0) rfl (by decide) rfl (by omega) (by decide) (sk_1 hs.S) (Nat.le_of_ble_eq_true rfl) (Nat.le_refl _) (Nat.le_refl _) (t_kI hs (tWd_subL rfl) (pX0_is hs.S) (fun r15 μ13 hs e14 => ?_))
    obtain ⟨rfl, e14⟩ := e14
    have h := h μ13 e14
    exact g_zret dX0_shut_13 rfl (by decide) (Nat.le_refl _) (Nat.le_refl _) ⟨_, rfl, hs, h⟩
theorem uX0_door_0 {d : Nat} {μ0 μ : tm_M} {K : Int → tm_M → Prop} {ν : tm_M} {v1 v2 : Int} (hd : 1 ≤ d) (hs : tFr (tWd [7, 8, 10] [(1, 10), (1, 14), (1, 15), (1, 16)] (c_FA μ0) μ0) μ0 μ)
    (h : (JV μ ν) ∧ ((¬ (0 ≤ v1 ∧ v1 < tm_v ν 65 43) → hI (tWd [7, 8, 10] [(1, 10), (1, 14), (1, 15), (1, 16)] (c_FA μ0) μ0) μ0 mX0_door d K 18 [(0, 2, 1)] [] μ) ∧ (0 ≤ v1 ∧ v1 < tm_v ν 65 43 → (0 ≤ v2 ∧ v2 < tm_v ν 65 43 → cL (tWf [7, 8, 10] [(1, 16)] (c_FA μ0)) mX0_times (d - 1) [(2, 1), (0, v1), (0, v2)] μ (fun r7 μ6 => hI (tWd [7, 8, 10] [(1, 10), (1, 14), (1, 15), (1, 16)] (c_FA μ0) μ0) μ0 mX0_door d K 37 [(0, 2, 1), (1, 0, v1), (2, 0, v2), (3, 0, -1), (4, 1, r7), (6, 0, 0)] [] μ6)) ∧ (¬ (0 ≤ v2 ∧ v2 < tm_v ν 65 43) → hI (tWd [7, 8, 10] [(1, 10), (1, 14), (1, 15), (1, 16)] (c_FA μ0) μ0) μ0 mX0_door d K 18 [(0, 2, 1)] [] μ)))) :
    hI (tWd [7, 8, 10] [(1, 10), (1, 14), (1, 15), (1, 16)] (c_FA μ0) μ0) μ0 mX0_door d K 0 [(0, 2, 1), (1, 0, v1), (2, 0, v2)] [] μ := by
  refine g_aload_n (q := 0) dX0_door_0 rfl rfl ?_
  refine g_iload_n (q := 1) dX0_door_1 rfl rfl ?_
  refine g_i2l dX0_door_2 ?_
  obtain ⟨c1, h⟩ := h
  refine g_callV1 dX0_door_3 kX0_isWay q969 q971 qs23 (ci := 0) rfl (by decide) rfl (by omega) (by decide) (sk_1 hs.S) (Nat.le_of_ble_eq_true rfl) (Nat.le_refl _) (Nat.le_refl _) (t_pI hs (pX0_isWay (tFr.rf (W := tWs [] []) hs.S) (tWs_TC ⟨rfl, rfl⟩) c1) ?_)
  refine g_if_eq (tgt := 18) dX0_door_6 (by decide) (fun c2 => ?_) (fun c3 => ?_)
  · have h := h.1 (b2i_0.mp c2)
    exact g_less [0] rfl h
  · have h := h.2 (b2i_1.mp c3)
    refine g_aload_n (q := 0) dX0_door_9 rfl rfl ?_
    refine g_iload_n (q := 2) dX0_door_10 rfl rfl ?_
    refine g_i2l dX0_door_11 ?_
    refine g_callV1 dX0_door_12 kX0_isWay q969 q971 qs23 (ci := 0) rfl (by decide) rfl (by omega) (by decide) (sk_1 hs.S) (Nat.le_of_ble_eq_true rfl) (Nat.le_refl _) (Nat.le_refl _) (t_pI hs (pX0_isWay (tFr.rf (W := tWs [] []) hs.S) (tWs_TC ⟨rfl, rfl⟩) c1) ?_)
    refine g_if_ne (tgt := 24) dX0_door_15 (by decide) (fun c4 => ?_) (fun c5 => ?_)
    · have h := h.1 (b2i_1.mp c4)
      refine g_iconst dX0_door_24 (by decide) ?_
      refine g_istore_n (L' := [(0, 2, 1), (1, 0, v1), (2, 0, v2), (3, 0, -1)]) dX0_door_25 rfl (by decide) [1, 2, 3, 0] rfl ?_
      refine g_aload_n (q := 0) dX0_door_26 rfl rfl ?_
      refine g_iload_n (q := 1) dX0_door_27 rfl rfl ?_
      refine g_iload_n (q := 2) dX0_door_28 rfl rfl ?_
      refine g_callV2 dX0_door_29 kX0_times q1031 q1033 qs28 (ci := 0) rfl (by decide) rfl (by omega) (by decide) (sk_1 hs.S) (Nat.le_of_ble_eq_true rfl) (Nat.le_refl _) (Nat.le_refl _) (t_kL hs (tWd_sub rfl) h (fun r7 μ6 hs h => ?_))
      refine g_lstore (L' := [(0, 2, 1), (1, 0, v1), (2, 0, v2), (3, 0, -1), (4, 1, r7)]) dX0_door_32 (by decide) [1, 2, 3, 4, 0] rfl ?_
      refine g_iconst dX0_door_34 (by decide) ?_
      refine g_istore (L' := [(0, 2, 1), (1, 0, v1), (2, 0, v2), (3, 0, -1), (4, 1, r7), (6, 0, 0)]) dX0_door_35 (by decide) [1, 2, 3, 4, 5, 0] rfl ?_
      exact h
    · have h := h.2 (b2i_0.mp c5)
      exact g_less [0] rfl h
theorem uX0_door_18 {d : Nat} {μ0 μ : tm_M} {K : Int → tm_M → Prop} (hd : 1 ≤ d) (hs : tFr (tWd [7, 8, 10] [(1, 10), (1, 14), (1, 15), (1, 16)] (c_FA μ0) μ0) μ0 μ)
    (h : (∀ μ1, μ1 = tm_w μ 1 10 2 → K (-1) μ1)) :
    hI (tWd [7, 8, 10] [(1, 10), (1, 14), (1, 15), (1, 16)] (c_FA μ0) μ0) μ0 mX0_door d K 18 [(0, 2, 1)] [] μ := by
  refine g_aload_n (q := 0) dX0_door_18 rfl rfl ?_
  refine g_iconst dX0_door_19 (by decide) ?_
  refine g_callV1 dX0_door_20 kX0_none q636 q638 qs3 (ci := 0) rfl (by decide) rfl (by omega) (by decide) (sk_1 hs.S) (Nat.le_of_ble_eq_true rfl) (Nat.le_refl _) (Nat.le_refl _) (t_kI hs (tWd_subL rfl) (pX0_none hs.S) (fun r3 μ1 hs e2 => ?_))
  obtain ⟨rfl, e2⟩ := e2
  have h := h μ1 e2
  exact g_iret dX0_door_23 rfl (Nat.le_refl _) (Nat.le_refl _) ⟨_, rfl, hs, h⟩
theorem uX0_door_37 {d : Nat} {μ0 μ : tm_M} {K : Int → tm_M → Prop} {ν : tm_M} {v1 v2 v3 v4 v6 : Int} (hd : 2 ≤ d) (hs : tFr (tWd [7, 8, 10] [(1, 10), (1, 14), (1, 15), (1, 16)] (c_FA μ0) μ0) μ0 μ)
    (h : (ob μ0 (tm_v μ 1 8) 4) ∧ ((tm_v μ (tm_v μ 1 8) 3 ≤ v6 → (v4 ≠ -1 → (JU μ ν) ∧ (cI (tWs [] [(1, 10), (1, 14), (1, 15)]) mX0_tell (d - 1) [(2, 1), (1, v4), (1, y_all ν)] μ (fun r8 μ7 => (∀ μ9, μ9 = tm_w μ7 1 10 0 → K v3 μ9)))) ∧ (v4 = -1 → (∀ μ12, μ12 = tm_w μ 1 10 9 → K (-1) μ12))) ∧ (v6 < tm_v μ (tm_v μ 1 8) 3 → (ob μ0 (tm_v μ (tm_v μ 1 8) 1) 27) ∧ ((0 ≤ v6 ∧ v6 < tm_n μ0 (tm_v μ (tm_v μ 1 8) 1)) ∧ ((ob μ0 (tm_v μ (tm_v μ (tm_v μ 1 8) 1) v6) 8) ∧ ((tm_v μ (tm_v μ (tm_v μ (tm_v μ 1 8) 1) v6) 2 = 0 → (∀ μ20, μ20 = tm_w μ (tm_v μ (tm_v μ (tm_v μ 1 8) 1) v6) 2 1 → cL (tWf [7, 8, 10] [(1, 16)] (c_FA μ0)) mX0_times (d - 1) [(2, 1), (0, v1), (0, v2)] μ20 (fun r22 μ21 => (ob μ0 (tm_v μ21 1 8) 4) ∧ ((ob μ0 (tm_v μ21 (tm_v μ21 1 8) 1) 27) ∧ ((0 ≤ v6 ∧ v6 < tm_n μ0 (tm_v μ21 (tm_v μ21 1 8) 1)) ∧ ((ob μ0 (tm_v μ21 (tm_v μ21 (tm_v μ21 1 8) 1) v6) 8) ∧ ((∀ μ27, μ27 = tm_w μ21 (tm_v μ21 (tm_v μ21 (tm_v μ21 1 8) 1) v6) 2 0 → (r22 = -1 → hI (tWd [7, 8, 10] [(1, 10), (1, 14), (1, 15), (1, 16)] (c_FA μ0) μ0) μ0 mX0_door d K 140 [(0, 2, 1), (1, 0, v1), (2, 0, v2), (3, 0, v3), (4, 1, v4), (6, 0, v6)] [] μ27) ∧ (r22 ≠ -1 → (v4 = -1 → hI (tWd [7, 8, 10] [(1, 10), (1, 14), (1, 15), (1, 16)] (c_FA μ0) μ0) μ0 mX0_door d K 133 [(0, 2, 1), (1, 0, v1), (2, 0, v2), (6, 0, v6), (7, 1, r22)] [] μ27) ∧ (v4 ≠ -1 → (r22 < v4 → hI (tWd [7, 8, 10] [(1, 10), (1, 14), (1, 15), (1, 16)] (c_FA μ0) μ0) μ0 mX0_door d K 133 [(0, 2, 1), (1, 0, v1), (2, 0, v2), (6, 0, v6), (7, 1, r22)] [] μ27) ∧ (v4 ≤ r22 → hI (tWd [7, 8, 10] [(1, 10), (1, 14), (1, 15), (1, 16)] (c_FA μ0) μ0) μ0 mX0_door d K 140 [(0, 2, 1), (1, 0, v1), (2, 0, v2), (3, 0, v3), (4, 1, v4), (6, 0, v6)] [] μ27))))))))))) ∧ (tm_v μ (tm_v μ (tm_v μ (tm_v μ 1 8) 1) v6) 2 ≠ 0 → hI (tWd [7, 8, 10] [(1, 10), (1, 14), (1, 15), (1, 16)] (c_FA μ0) μ0) μ0 mX0_door d K 140 [(0, 2, 1), (1, 0, v1), (2, 0, v2), (3, 0, v3), (4, 1, v4), (6, 0, v6)] [] μ))))))) :
    hI (tWd [7, 8, 10] [(1, 10), (1, 14), (1, 15), (1, 16)] (c_FA μ0) μ0) μ0 mX0_door d K 37 [(0, 2, 1), (1, 0, v1), (2, 0, v2), (3, 0, v3), (4, 1, v4), (6, 0, v6)] [] μ := by
  refine g_iload (q := 5) dX0_door_37 rfl ?_
  refine g_aload_n (q := 0) dX0_door_39 rfl rfl ?_
  refine g_get 2 dX0_door_40 fX0_57 rfl (by decide) (sk_1 hs.S) ?_
  obtain ⟨c1, h⟩ := h
  refine g_get 0 dX0_door_43 fX0_203 rfl c1.1.1 (hs.k ▸ c1.1.2) ?_
  refine g_icmp_ge (tgt := 146) dX0_door_46 (by decide) (fun c2 => ?_) (fun c3 => ?_)
  · have h := h.1 c2
    refine g_lload (q := 4) dX0_door_146 rfl ?_
    refine g_ldc2 (v := -1) (by decide) q644c dX0_door_148 ?_
    refine g_lcmp_ne (tgt := 162) dX0_door_151 dX0_door_152 (by decide) (fun c4 => ?_) (fun c5 => ?_)
    · have h := h.1 c4
      refine g_aload_n (q := 0) dX0_door_162 rfl rfl ?_
      refine g_lload (q := 4) dX0_door_163 rfl ?_
      refine g_aload_n (q := 0) dX0_door_165 rfl rfl ?_
      obtain ⟨c6, h⟩ := h
      refine g_callV0 dX0_door_166 kX0_allLikely q1042 q1044 qs30 (ci := 0) rfl (by decide) rfl (by omega) (by decide) (sk_1 hs.S) (Nat.le_of_ble_eq_true rfl) (Nat.le_refl _) (Nat.le_refl _) (t_pL hs (pX0_allLikely (by omega) (tFr.rf (W := tWs [] []) hs.S) (tWs_TC ⟨rfl, rfl⟩) c6) ?_)
      refine g_callV2 dX0_door_169 kX0_tell q1046 q1048 qs31 (ci := 0) rfl (by decide) rfl (by omega) (by decide) (sk_1 hs.S) (Nat.le_of_ble_eq_true rfl) (Nat.le_refl _) (Nat.le_refl _) (t_kI hs (tWd_subL rfl) h (fun r8 μ7 hs h => ?_))
      refine g_pop dX0_door_172 (by decide) ?_
      refine g_aload_n (q := 0) dX0_door_173 rfl rfl ?_
      refine g_iload_n (q := 3) dX0_door_174 rfl rfl ?_
      refine g_callV1 dX0_door_175 kX0_gives q856 q858 qs17 (ci := 0) rfl (by decide) rfl (by omega) (by decide) (sk_1 hs.S) (Nat.le_of_ble_eq_true rfl) (Nat.le_refl _) (Nat.le_refl _) (t_kI hs (tWd_subL rfl) (pX0_gives hs.S) (fun r11 μ9 hs e10 => ?_))
      obtain ⟨rfl, e10⟩ := e10
      have h := h μ9 e10
      exact g_iret dX0_door_178 rfl (Nat.le_refl _) (Nat.le_refl _) ⟨_, rfl, hs, h⟩
    · have h := h.2 c5
      refine g_aload_n (q := 0) dX0_door_155 rfl rfl ?_
      refine g_bipush dX0_door_156 ⟨by decide, by decide, rfl⟩ ?_
      refine g_callV1 dX0_door_158 kX0_none q636 q638 qs3 (ci := 0) rfl (by decide) rfl (by omega) (by decide) (sk_1 hs.S) (Nat.le_of_ble_eq_true rfl) (Nat.le_refl _) (Nat.le_refl _) (t_kI hs (tWd_subL rfl) (pX0_none hs.S) (fun r14 μ12 hs e13 => ?_))
      obtain ⟨rfl, e13⟩ := e13
      have h := h μ12 e13
      exact g_iret dX0_door_161 rfl (Nat.le_refl _) (Nat.le_refl _) ⟨_, rfl, hs, h⟩
  · have h := h.2 c3
    refine g_aload_n (q := 0) dX0_door_49 rfl rfl ?_
    refine g_get 2 dX0_door_50 fX0_57 rfl (by decide) (sk_1 hs.S) ?_
    refine g_get 2 dX0_door_53 fX0_266 rfl c1.1.1 (hs.k ▸ c1.1.2) ?_
    refine g_iload (q := 5) dX0_door_56 rfl ?_
    obtain ⟨c15, h⟩ := h
    obtain ⟨c16, h⟩ := h
    refine g_aaload dX0_door_58 c15.1.1 (hs.k ▸ c15.1.2) (by decide) c16.1 (hs.n ▸ c16.2) ?_
    obtain ⟨c17, h⟩ := h
    refine g_get 0 dX0_door_59 fX0_267 rfl c17.1.1 (hs.k ▸ c17.1.2) ?_
    refine g_if_eq (tgt := 68) dX0_door_62 (by decide) (fun c18 => ?_) (fun c19 => ?_)
    · have h := h.1 c18
      refine g_aload_n (q := 0) dX0_door_68 rfl rfl ?_
      refine g_get 2 dX0_door_69 fX0_57 rfl (by decide) (sk_1 hs.S) ?_
      refine g_get 2 dX0_door_72 fX0_266 rfl c1.1.1 (hs.k ▸ c1.1.2) ?_
      refine g_iload (q := 5) dX0_door_75 rfl ?_
      refine g_aaload dX0_door_77 c15.1.1 (hs.k ▸ c15.1.2) (by decide) c16.1 (hs.n ▸ c16.2) ?_
      refine g_iconst dX0_door_78 (by decide) ?_
      refine g_put dX0_door_79 fX0_267 rfl c17.1.1 (hs.k ▸ c17.1.2) (fun _ => by decide) (p_w hs (dyA_fr c17.2) (Or.inr ⟨c17, rfl⟩) fun μ20 eμ20 hs => ?_)
      have h := h μ20 eμ20
      refine g_aload_n (q := 0) dX0_door_82 rfl rfl ?_
      refine g_iload_n (q := 1) dX0_door_83 rfl rfl ?_
      refine g_iload_n (q := 2) dX0_door_84 rfl rfl ?_
      refine g_callV2 dX0_door_85 kX0_times q1031 q1033 qs28 (ci := 0) rfl (by decide) rfl (by omega) (by decide) (sk_1 hs.S) (Nat.le_of_ble_eq_true rfl) (Nat.le_refl _) (Nat.le_refl _) (t_kL hs (tWd_sub rfl) h (fun r22 μ21 hs h => ?_))
      refine g_lstore (L' := [(0, 2, 1), (1, 0, v1), (2, 0, v2), (3, 0, v3), (4, 1, v4), (6, 0, v6), (7, 1, r22)]) dX0_door_88 (by decide) [1, 2, 3, 4, 5, 6, 0] rfl ?_
      refine g_aload_n (q := 0) dX0_door_90 rfl rfl ?_
      refine g_get 2 dX0_door_91 fX0_57 rfl (by decide) (sk_1 hs.S) ?_
      obtain ⟨c23, h⟩ := h
      refine g_get 2 dX0_door_94 fX0_266 rfl c23.1.1 (hs.k ▸ c23.1.2) ?_
      refine g_iload (q := 5) dX0_door_97 rfl ?_
      obtain ⟨c24, h⟩ := h
      obtain ⟨c25, h⟩ := h
      refine g_aaload dX0_door_99 c24.1.1 (hs.k ▸ c24.1.2) (by decide) c25.1 (hs.n ▸ c25.2) ?_
      refine g_iconst dX0_door_100 (by decide) ?_
      obtain ⟨c26, h⟩ := h
      refine g_put dX0_door_101 fX0_267 rfl c26.1.1 (hs.k ▸ c26.1.2) (fun _ => by decide) (p_w hs (dyA_fr c26.2) (Or.inr ⟨c26, rfl⟩) fun μ27 eμ27 hs => ?_)
      have h := h μ27 eμ27
      refine g_lload (q := 6) dX0_door_104 rfl ?_
      refine g_ldc2 (v := -1) (by decide) q644c dX0_door_106 ?_
      refine g_lcmp_eq (tgt := 140) dX0_door_109 dX0_door_110 (by decide) (fun c28 => ?_) (fun c29 => ?_)
      · have h := h.1 c28
        exact g_less [0, 1, 2, 3, 4, 5] rfl h
      · have h := h.2 c29
        refine g_lload (q := 4) dX0_door_113 rfl ?_
        refine g_ldc2 (v := -1) (by decide) q644c dX0_door_115 ?_
        refine g_lcmp_eq (tgt := 133) dX0_door_118 dX0_door_119 (by decide) (fun c30 => ?_) (fun c31 => ?_)
        · have h := h.1 c30
          exact g_less [0, 1, 2, 5, 6] rfl h
        · have h := h.2 c31
          refine g_lload (q := 6) dX0_door_122 rfl ?_
          refine g_lload (q := 4) dX0_door_124 rfl ?_
          refine g_lcmp_lt (tgt := 133) dX0_door_126 dX0_door_127 (by decide) (fun c32 => ?_) (fun c33 => ?_)
          · have h := h.1 c32
            exact g_less [0, 1, 2, 5, 6] rfl h
          · have h := h.2 c33
            refine g_goto (tgt := 140) dX0_door_130 (by decide) ?_
            exact g_less [0, 1, 2, 3, 4, 5] rfl h
    · have h := h.2 c19
      refine g_goto (tgt := 140) dX0_door_65 (by decide) ?_
      exact h
theorem uX0_door_133 {d : Nat} {μ0 μ : tm_M} {K : Int → tm_M → Prop} {v1 v2 v6 v7 : Int} (hs : tFr (tWd [7, 8, 10] [(1, 10), (1, 14), (1, 15), (1, 16)] (c_FA μ0) μ0) μ0 μ)
    (h : hI (tWd [7, 8, 10] [(1, 10), (1, 14), (1, 15), (1, 16)] (c_FA μ0) μ0) μ0 mX0_door d K 140 [(0, 2, 1), (1, 0, v1), (2, 0, v2), (3, 0, v6), (4, 1, v7), (6, 0, v6)] [] μ) :
    hI (tWd [7, 8, 10] [(1, 10), (1, 14), (1, 15), (1, 16)] (c_FA μ0) μ0) μ0 mX0_door d K 133 [(0, 2, 1), (1, 0, v1), (2, 0, v2), (6, 0, v6), (7, 1, v7)] [] μ := by
  refine g_lload (q := 4) dX0_door_133 rfl ?_
  refine g_lstore (L' := [(0, 2, 1), (1, 0, v1), (2, 0, v2), (4, 1, v7), (6, 0, v6), (7, 1, v7)]) dX0_door_135 (by decide) [1, 2, 3, 0, 4, 5] rfl ?_
  refine g_iload (q := 4) dX0_door_137 rfl ?_
  refine g_istore_n (L' := [(0, 2, 1), (1, 0, v1), (2, 0, v2), (3, 0, v6), (4, 1, v7), (6, 0, v6), (7, 1, v7)]) dX0_door_139 rfl (by decide) [1, 2, 3, 0, 4, 5, 6] rfl ?_
  exact g_less [0, 1, 2, 3, 4, 5] rfl h
theorem uX0_door_140 {d : Nat} {μ0 μ : tm_M} {K : Int → tm_M → Prop} {v1 v2 v3 v4 v6 : Int} (hs : tFr (tWd [7, 8, 10] [(1, 10), (1, 14), (1, 15), (1, 16)] (c_FA μ0) μ0) μ0 μ)
    (h : hI (tWd [7, 8, 10] [(1, 10), (1, 14), (1, 15), (1, 16)] (c_FA μ0) μ0) μ0 mX0_door d K 37 [(0, 2, 1), (1, 0, v1), (2, 0, v2), (3, 0, v3), (4, 1, v4), (6, 0, w32 (v6 + 1))] [] μ) :
    hI (tWd [7, 8, 10] [(1, 10), (1, 14), (1, 15), (1, 16)] (c_FA μ0) μ0) μ0 mX0_door d K 140 [(0, 2, 1), (1, 0, v1), (2, 0, v2), (3, 0, v3), (4, 1, v4), (6, 0, v6)] [] μ := by
  refine g_iinc (q := 5) dX0_door_140 (by decide) rfl [1, 2, 3, 4, 5, 0] rfl ?_
  refine g_goto (tgt := 37) dX0_door_143 (by decide) ?_
  exact h
