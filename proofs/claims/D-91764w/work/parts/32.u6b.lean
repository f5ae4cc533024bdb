theorem uX6_leads_0 {d : Nat} {μ0 μ : tm_M} {K : Int → tm_M → Prop} {v1 v2 : Int} (hd : 1 ≤ d) (hs : tFr wX6_leads μ0 μ)
    (h : (v2 < 0 → K (-1) μ) ∧ (0 ≤ v2 → (0 ≤ v1 ∧ v1 < 8) ∧ ((tm_v μ0 72 v1 ≤ v2 → K (-1) μ) ∧ (v2 < tm_v μ0 72 v1 → (0 ≤ w32 ((w32 (4 * v1)) + v2) ∧ w32 ((w32 (4 * v1)) + v2) < 32) ∧ ((0 ≤ (tm_v μ0 74 (w32 ((w32 (4 * v1)) + v2))) ∧ (tm_v μ0 74 (w32 ((w32 (4 * v1)) + v2))) < 12) ∧ (K (y_over μ0 (tm_v μ0 74 (w32 ((w32 (4 * v1)) + v2))) v1) μ)))))) :
    hI wX6_leads μ0 mX6_leads d K 0 [(0, 2, 65), (1, 0, v1), (2, 0, v2)] [] μ := by
  refine g_iload_n (q := 2) dX6_leads_0 rfl rfl ?_
  refine g_if_lt (tgt := 32) dX6_leads_1 (by decide) (fun c1 => ?_) (fun c2 => ?_)
  · have h := h.1 c1
    refine g_iconst dX6_leads_32 (by decide) ?_
    exact g_iret dX6_leads_33 rfl (Nat.le_refl _) (Nat.le_refl _) ⟨_, rfl, hs, h⟩
  · have h := h.2 c2
    refine g_iload_n (q := 2) dX6_leads_4 rfl rfl ?_
    refine g_aload_n (q := 0) dX6_leads_5 rfl rfl ?_
    refine g_getC (x := 72) 2 dX6_leads_6 fX6_44 rfl (by decide) (sk_65 hs.S) (sv_65_33 hs.S) ?_
    refine g_iload_n (q := 1) dX6_leads_9 rfl rfl ?_
    obtain ⟨c3, h⟩ := h
    refine g_ialoadC (x := tm_v μ0 72 v1) dX6_leads_10 (by decide) (sk_72 hs.S) c3.1 (t_lt (sn_72 hs.S) c3.2) (hs.v (tWs_no _ rfl)) ?_
    refine g_icmp_ge (tgt := 32) dX6_leads_11 (by decide) (fun c4 => ?_) (fun c5 => ?_)
    · have h := h.1 c4
      refine g_iconst dX6_leads_32 (by decide) ?_
      exact g_iret dX6_leads_33 rfl (Nat.le_refl _) (Nat.le_refl _) ⟨_, rfl, hs, h⟩
    · have h := h.2 c5
      refine g_aload_n (q := 0) dX6_leads_14 rfl rfl ?_
      refine g_aload_n (q := 0) dX6_leads_15 rfl rfl ?_
      refine g_getC (x := 74) 2 dX6_leads_16 fX6_50 rfl (by decide) (sk_65 hs.S) (sv_65_35 hs.S) ?_
      refine g_iconst dX6_leads_19 (by decide) ?_
      refine g_iload_n (q := 1) dX6_leads_20 rfl rfl ?_
      refine g_imul dX6_leads_21 ?_
      refine g_iload_n (q := 2) dX6_leads_22 rfl rfl ?_
      refine g_iadd dX6_leads_23 ?_
      obtain ⟨c6, h⟩ := h
      refine g_ialoadC (x := tm_v μ0 74 (w32 ((w32 (4 * v1)) + v2))) dX6_leads_24 (by decide) (sk_74 hs.S) c6.1 (t_lt (sn_74 hs.S) c6.2) (hs.v (tWs_no _ rfl)) ?_
      refine g_iload_n (q := 1) dX6_leads_25 rfl rfl ?_
      obtain ⟨c7, h⟩ := h
      refine g_callV2 dX6_leads_26 kX6_over q1607 q1609 qs77 (ci := 6) rfl (by decide) rfl (by omega) (by decide) (sk_65 hs.S) (Nat.le_of_ble_eq_true rfl) (Nat.le_refl _) (Nat.le_refl _) (t_pI hs (pX6_overF hs (tWs_T rfl) c7) ?_)
      refine g_goto (tgt := 33) dX6_leads_29 (by decide) ?_
      exact g_iret dX6_leads_33 rfl (Nat.le_refl _) (Nat.le_refl _) ⟨_, rfl, hs, h⟩
theorem uX6_isPlace_0 {d : Nat} {μ0 μ : tm_M} {K : Int → tm_M → Prop} {v1 : Int} (hd : 1 ≤ d) (hs : tFr wX6_isPlace μ0 μ)
    (h : K (b2i (0 ≤ v1 ∧ v1 ≤ (w32 ((tm_v μ0 65 20) - 1)))) μ) :
    hI wX6_isPlace μ0 mX6_isPlace d K 0 [(0, 2, 65), (1, 0, v1)] [] μ := by
  refine g_iload_n (q := 1) dX6_isPlace_0 rfl rfl ?_
  refine g_i2l dX6_isPlace_1 ?_
  refine g_lconst0 dX6_isPlace_2 ?_
  refine g_aload_n (q := 0) dX6_isPlace_3 rfl rfl ?_
  refine g_getC (x := tm_v μ0 65 20) 0 dX6_isPlace_4 fX6_326 rfl (by decide) (sk_65 hs.S) (hs.v (tWs_noF rfl)) ?_
  refine g_iconst dX6_isPlace_7 (by decide) ?_
  refine g_isub dX6_isPlace_8 ?_
  refine g_i2l dX6_isPlace_9 ?_
  refine g_callS3 dX6_isPlace_10 kX6_isIn q1563 q1564 rfl (by omega) (Nat.le_of_ble_eq_true rfl) (Nat.le_refl _) (Nat.le_refl _) (t_pI hs (pX6_isIn hs.S) ?_)
  exact g_zret dX6_isPlace_13 rfl (b2i_in _) (Nat.le_refl _) (Nat.le_refl _) ⟨_, rfl, hs, h⟩
theorem uX6_isWay_0 {d : Nat} {μ0 μ : tm_M} {K : Int → tm_M → Prop} {v1 : Int} (hd : 1 ≤ d) (hs : tFr wX6_isWay μ0 μ)
    (h : K (b2i (0 ≤ v1 ∧ v1 ≤ (w32 ((tm_v μ0 65 43) - 1)))) μ) :
    hI wX6_isWay μ0 mX6_isWay d K 0 [(0, 2, 65), (1, 0, v1)] [] μ := by
  refine g_iload_n (q := 1) dX6_isWay_0 rfl rfl ?_
  refine g_i2l dX6_isWay_1 ?_
  refine g_lconst0 dX6_isWay_2 ?_
  refine g_aload_n (q := 0) dX6_isWay_3 rfl rfl ?_
  refine g_getC (x := tm_v μ0 65 43) 0 dX6_isWay_4 fX6_341 rfl (by decide) (sk_65 hs.S) (hs.v (tWs_noF rfl)) ?_
  refine g_iconst dX6_isWay_7 (by decide) ?_
  refine g_isub dX6_isWay_8 ?_
  refine g_i2l dX6_isWay_9 ?_
  refine g_callS3 dX6_isWay_10 kX6_isIn q1563 q1564 rfl (by omega) (Nat.le_of_ble_eq_true rfl) (Nat.le_refl _) (Nat.le_refl _) (t_pI hs (pX6_isIn hs.S) ?_)
  exact g_zret dX6_isWay_13 rfl (b2i_in _) (Nat.le_refl _) (Nat.le_refl _) ⟨_, rfl, hs, h⟩
theorem uX6_placed_0 {d : Nat} {μ0 μ : tm_M} {K : Int → tm_M → Prop} {v1 v2 : Int} (hd : 1 ≤ d) (hs : tFr wX6_placed μ0 μ)
    (h : (∀ x4, x4 = y_trayed μ v1 → (x4 ≤ 0 → (v2 < 0 → K 4 μ) ∧ (0 ≤ v2 → (0 ≤ v1 ∧ v1 < 4) ∧ ((v2 < tm_v μ0 67 v1 → K 0 μ) ∧ (tm_v μ0 67 v1 ≤ v2 → K 4 μ)))) ∧ (0 < x4 → K x4 μ))) :
    hI wX6_placed μ0 mX6_placed d K 0 [(0, 2, 65), (1, 0, v1), (2, 0, v2)] [] μ := by
  refine g_aload_n (q := 0) dX6_placed_0 rfl rfl ?_
  refine g_iload_n (q := 1) dX6_placed_1 rfl rfl ?_
  refine g_callV1 dX6_placed_2 kX6_trayed q1456 q1458 qs51 (ci := 6) rfl (by decide) rfl (by omega) (by decide) (sk_65 hs.S) (Nat.le_of_ble_eq_true rfl) (Nat.le_refl _) (Nat.le_refl _) (t_pI hs (pX6_trayed hs.S) ?_)
  refine g_istore_nN (fun z => [(0, 2, 65), (1, 0, v1), (2, 0, v2), (3, 0, z)]) dX6_placed_5 rfl (by decide) [1, 2, 3, 0] (fun _ => rfl) (fun x4 ex4 => ?_)
  have h := h x4 ex4
  refine g_iload_n (q := 3) dX6_placed_6 rfl rfl ?_
  refine g_if_le (tgt := 14) dX6_placed_7 (by decide) (fun c5 => ?_) (fun c6 => ?_)
  · have h := h.1 c5
    refine g_iload_n (q := 2) dX6_placed_14 rfl rfl ?_
    refine g_if_lt (tgt := 28) dX6_placed_15 (by decide) (fun c7 => ?_) (fun c8 => ?_)
    · have h := h.1 c7
      refine g_iconst dX6_placed_28 (by decide) ?_
      refine g_goto (tgt := 33) dX6_placed_29 (by decide) ?_
      exact g_iret dX6_placed_33 rfl (Nat.le_refl _) (Nat.le_refl _) ⟨_, rfl, hs, h⟩
    · have h := h.2 c8
      refine g_iload_n (q := 2) dX6_placed_18 rfl rfl ?_
      refine g_aload_n (q := 0) dX6_placed_19 rfl rfl ?_
      refine g_getC (x := 67) 2 dX6_placed_20 fX6_17 rfl (by decide) (sk_65 hs.S) (sv_65_5 hs.S) ?_
      refine g_iload_n (q := 1) dX6_placed_23 rfl rfl ?_
      obtain ⟨c9, h⟩ := h
      refine g_ialoadC (x := tm_v μ0 67 v1) dX6_placed_24 (by decide) (sk_67 hs.S) c9.1 (t_lt (sn_67 hs.S) c9.2) (hs.v (tWs_no _ rfl)) ?_
      refine g_icmp_lt (tgt := 32) dX6_placed_25 (by decide) (fun c10 => ?_) (fun c11 => ?_)
      · have h := h.1 c10
        refine g_iconst dX6_placed_32 (by decide) ?_
        exact g_iret dX6_placed_33 rfl (Nat.le_refl _) (Nat.le_refl _) ⟨_, rfl, hs, h⟩
      · have h := h.2 c11
        refine g_iconst dX6_placed_28 (by decide) ?_
        refine g_goto (tgt := 33) dX6_placed_29 (by decide) ?_
        exact g_iret dX6_placed_33 rfl (Nat.le_refl _) (Nat.le_refl _) ⟨_, rfl, hs, h⟩
  · have h := h.2 c6
    refine g_iload_n (q := 3) dX6_placed_10 rfl rfl ?_
    refine g_goto (tgt := 33) dX6_placed_11 (by decide) ?_
    exact g_iret dX6_placed_33 rfl (Nat.le_refl _) (Nat.le_refl _) ⟨_, rfl, hs, h⟩
theorem uX6_feature_0 {d : Nat} {μ0 μ : tm_M} {K : Int → tm_M → Prop} (hd : 1 ≤ d) (hs : tFr wX6_feature μ0 μ)
    (h : (¬ (tm_v μ 65 14 = 1 ∧ tm_v μ 65 19 = 627891) → (¬ (tm_v μ 65 14 = 1 ∧ tm_v μ 65 19 = 6605428) → (¬ (tm_v μ 65 14 = 1 ∧ tm_v μ 65 19 = 642891204) → K (-1) μ) ∧ (tm_v μ 65 14 = 1 ∧ tm_v μ 65 19 = 642891204 → K 2 μ)) ∧ (tm_v μ 65 14 = 1 ∧ tm_v μ 65 19 = 6605428 → K 1 μ)) ∧ (tm_v μ 65 14 = 1 ∧ tm_v μ 65 19 = 627891 → K 0 μ)) :
    hI wX6_feature μ0 mX6_feature d K 0 [(0, 2, 65)] [] μ := by
  refine g_aload_n (q := 0) dX6_feature_0 rfl rfl ?_
  refine g_bipush dX6_feature_1 ⟨by decide, by decide, rfl⟩ ?_
  refine g_bipush dX6_feature_3 ⟨by decide, by decide, rfl⟩ ?_
  refine g_bipush dX6_feature_5 ⟨by decide, by decide, rfl⟩ ?_
  refine g_bipush dX6_feature_7 ⟨by decide, by decide, rfl⟩ ?_
  refine g_iconst dX6_feature_9 (by decide) ?_
  refine g_iconst dX6_feature_10 (by decide) ?_
  refine g_callS6 dX6_feature_11 kX6_spelled q1508 q1509 rfl (by omega) (Nat.le_of_ble_eq_true rfl) (Nat.le_refl _) (Nat.le_refl _) (t_pL hs (pX6_sp_sees hs.S) ?_)
  refine g_callV1 dX6_feature_14 kX6_isWord q1511 q1513 qs57 (ci := 6) rfl (by decide) rfl (by omega) (by decide) (sk_65 hs.S) (Nat.le_of_ble_eq_true rfl) (Nat.le_refl _) (Nat.le_refl _) (t_pI hs (pX6_isWord hs.S) ?_)
  refine g_if_eq (tgt := 22) dX6_feature_17 (by decide) (fun c4 => ?_) (fun c5 => ?_)
  · have h := h.1 (b2i_0.mp c4)
    refine g_aload_n (q := 0) dX6_feature_22 rfl rfl ?_
    refine g_bipush dX6_feature_23 ⟨by decide, by decide, rfl⟩ ?_
    refine g_bipush dX6_feature_25 ⟨by decide, by decide, rfl⟩ ?_
    refine g_bipush dX6_feature_27 ⟨by decide, by decide, rfl⟩ ?_
    refine g_bipush dX6_feature_29 ⟨by decide, by decide, rfl⟩ ?_
    refine g_bipush dX6_feature_31 ⟨by decide, by decide, rfl⟩ ?_
    refine g_iconst dX6_feature_33 (by decide) ?_
    refine g_callS6 dX6_feature_34 kX6_spelled q1508 q1509 rfl (by omega) (Nat.le_of_ble_eq_true rfl) (Nat.le_refl _) (Nat.le_refl _) (t_pL hs (pX6_sp_first hs.S) ?_)
    refine g_callV1 dX6_feature_37 kX6_isWord q1511 q1513 qs57 (ci := 6) rfl (by decide) rfl (by omega) (by decide) (sk_65 hs.S) (Nat.le_of_ble_eq_true rfl) (Nat.le_refl _) (Nat.le_refl _) (t_pI hs (pX6_isWord hs.S) ?_)
    refine g_if_eq (tgt := 45) dX6_feature_40 (by decide) (fun c9 => ?_) (fun c10 => ?_)
    · have h := h.1 (b2i_0.mp c9)
      refine g_aload_n (q := 0) dX6_feature_45 rfl rfl ?_
      refine g_bipush dX6_feature_46 ⟨by decide, by decide, rfl⟩ ?_
      refine g_bipush dX6_feature_48 ⟨by decide, by decide, rfl⟩ ?_
      refine g_bipush dX6_feature_50 ⟨by decide, by decide, rfl⟩ ?_
      refine g_bipush dX6_feature_52 ⟨by decide, by decide, rfl⟩ ?_
      refine g_bipush dX6_feature_54 ⟨by decide, by decide, rfl⟩ ?_
      refine g_bipush dX6_feature_56 ⟨by decide, by decide, rfl⟩ ?_
      refine g_callS6 dX6_feature_58 kX6_spelled q1508 q1509 rfl (by omega) (Nat.le_of_ble_eq_true rfl) (Nat.le_refl _) (Nat.le_refl _) (t_pL hs (pX6_sp_second hs.S) ?_)
      refine g_callV1 dX6_feature_61 kX6_isWord q1511 q1513 qs57 (ci := 6) rfl (by decide) rfl (by omega) (by decide) (sk_65 hs.S) (Nat.le_of_ble_eq_true rfl) (Nat.le_refl _) (Nat.le_refl _) (t_pI hs (pX6_isWord hs.S) ?_)
      refine g_if_eq (tgt := 71) dX6_feature_64 (by decide) (fun c14 => ?_) (fun c15 => ?_)
      · have h := h.1 (b2i_0.mp c14)
        refine g_iconst dX6_feature_71 (by decide) ?_
        exact g_iret dX6_feature_72 rfl (Nat.le_refl _) (Nat.le_refl _) ⟨_, rfl, hs, h⟩
      · have h := h.2 (b2i_1.mp c15)
        refine g_iconst dX6_feature_67 (by decide) ?_
        refine g_goto (tgt := 72) dX6_feature_68 (by decide) ?_
        exact g_iret dX6_feature_72 rfl (Nat.le_refl _) (Nat.le_refl _) ⟨_, rfl, hs, h⟩
    · have h := h.2 (b2i_1.mp c10)
      refine g_iconst dX6_feature_43 (by decide) ?_
      exact g_iret dX6_feature_44 rfl (Nat.le_refl _) (Nat.le_refl _) ⟨_, rfl, hs, h⟩
  · have h := h.2 (b2i_1.mp c5)
    refine g_iconst dX6_feature_20 (by decide) ?_
    exact g_iret dX6_feature_21 rfl (Nat.le_refl _) (Nat.le_refl _) ⟨_, rfl, hs, h⟩
theorem uX6_isPlaceWord_0 {d : Nat} {μ0 μ : tm_M} {K : Int → tm_M → Prop} (hd : 1 ≤ d) (hs : tFr wX6_isPlaceWord μ0 μ)
    (h : K (b2i (tm_v μ 65 14 = 1 ∧ tm_v μ 65 19 = 17171557)) μ) :
    hI wX6_isPlaceWord μ0 mX6_isPlaceWord d K 0 [(0, 2, 65)] [] μ := by
  refine g_aload_n (q := 0) dX6_isPlaceWord_0 rfl rfl ?_
  refine g_bipush dX6_isPlaceWord_1 ⟨by decide, by decide, rfl⟩ ?_
  refine g_bipush dX6_isPlaceWord_3 ⟨by decide, by decide, rfl⟩ ?_
  refine g_bipush dX6_isPlaceWord_5 ⟨by decide, by decide, rfl⟩ ?_
  refine g_bipush dX6_isPlaceWord_7 ⟨by decide, by decide, rfl⟩ ?_
  refine g_bipush dX6_isPlaceWord_9 ⟨by decide, by decide, rfl⟩ ?_
  refine g_iconst dX6_isPlaceWord_11 (by decide) ?_
  refine g_callS6 dX6_isPlaceWord_12 kX6_spelled q1508 q1509 rfl (by omega) (Nat.le_of_ble_eq_true rfl) (Nat.le_refl _) (Nat.le_refl _) (t_pL hs (pX6_sp_place hs.S) ?_)
  refine g_callV1 dX6_isPlaceWord_15 kX6_isWord q1511 q1513 qs57 (ci := 6) rfl (by decide) rfl (by omega) (by decide) (sk_65 hs.S) (Nat.le_of_ble_eq_true rfl) (Nat.le_refl _) (Nat.le_refl _) (t_pI hs (pX6_isWord hs.S) ?_)
  exact g_zret dX6_isPlaceWord_18 rfl (b2i_in _) (Nat.le_refl _) (Nat.le_refl _) ⟨_, rfl, hs, h⟩
theorem uX6_isLane_0 {d : Nat} {μ0 μ : tm_M} {K : Int → tm_M → Prop} (hd : 1 ≤ d) (hs : tFr wX6_isLane μ0 μ)
    (h : K (b2i (tm_v μ 65 14 = 1 ∧ tm_v μ 65 19 = 394693)) μ) :
    hI wX6_isLane μ0 mX6_isLane d K 0 [(0, 2, 65)] [] μ := by
  refine g_aload_n (q := 0) dX6_isLane_0 rfl rfl ?_
  refine g_bipush dX6_isLane_1 ⟨by decide, by decide, rfl⟩ ?_
  refine g_bipush dX6_isLane_3 ⟨by decide, by decide, rfl⟩ ?_
  refine g_bipush dX6_isLane_5 ⟨by decide, by decide, rfl⟩ ?_
  refine g_bipush dX6_isLane_7 ⟨by decide, by decide, rfl⟩ ?_
  refine g_iconst dX6_isLane_9 (by decide) ?_
  refine g_iconst dX6_isLane_10 (by decide) ?_
  refine g_callS6 dX6_isLane_11 kX6_spelled q1508 q1509 rfl (by omega) (Nat.le_of_ble_eq_true rfl) (Nat.le_refl _) (Nat.le_refl _) (t_pL hs (pX6_sp_lane hs.S) ?_)
  refine g_callV1 dX6_isLane_14 kX6_isWord q1511 q1513 qs57 (ci := 6) rfl (by decide) rfl (by omega) (by decide) (sk_65 hs.S) (Nat.le_of_ble_eq_true rfl) (Nat.le_refl _) (Nat.le_refl _) (t_pI hs (pX6_isWord hs.S) ?_)
  exact g_zret dX6_isLane_17 rfl (b2i_in _) (Nat.le_refl _) (Nat.le_refl _) ⟨_, rfl, hs, h⟩
theorem uX6_isTo_0 {d : Nat} {μ0 μ : tm_M} {K : Int → tm_M → Prop} (hd : 1 ≤ d) (hs : tFr wX6_isTo μ0 μ)
    (h : K (b2i (tm_v μ 65 14 = 1 ∧ tm_v μ 65 19 = 655)) μ) :
    hI wX6_isTo μ0 mX6_isTo d K 0 [(0, 2, 65)] [] μ := by
  refine g_aload_n (q := 0) dX6_isTo_0 rfl rfl ?_
  refine g_bipush dX6_isTo_1 ⟨by decide, by decide, rfl⟩ ?_
  refine g_bipush dX6_isTo_3 ⟨by decide, by decide, rfl⟩ ?_
  refine g_iconst dX6_isTo_5 (by decide) ?_
  refine g_iconst dX6_isTo_6 (by decide) ?_
  refine g_iconst dX6_isTo_7 (by decide) ?_
  refine g_iconst dX6_isTo_8 (by decide) ?_
  refine g_callS6 dX6_isTo_9 kX6_spelled q1508 q1509 rfl (by omega) (Nat.le_of_ble_eq_true rfl) (Nat.le_refl _) (Nat.le_refl _) (t_pL hs (pX6_sp_to hs.S) ?_)
  refine g_callV1 dX6_isTo_12 kX6_isWord q1511 q1513 qs57 (ci := 6) rfl (by decide) rfl (by omega) (by decide) (sk_65 hs.S) (Nat.le_of_ble_eq_true rfl) (Nat.le_refl _) (Nat.le_refl _) (t_pI hs (pX6_isWord hs.S) ?_)
  exact g_zret dX6_isTo_15 rfl (b2i_in _) (Nat.le_refl _) (Nat.le_refl _) ⟨_, rfl, hs, h⟩
theorem uX6_isCross_0 {d : Nat} {μ0 μ : tm_M} {K : Int → tm_M → Prop} (hd : 1 ≤ d) (hs : tFr wX6_isCross μ0 μ)
    (h : K (b2i (tm_v μ 65 14 = 1 ∧ tm_v μ 65 19 = 3751539)) μ) :
    hI wX6_isCross μ0 mX6_isCross d K 0 [(0, 2, 65)] [] μ := by
  refine g_aload_n (q := 0) dX6_isCross_0 rfl rfl ?_
  refine g_bipush dX6_isCross_1 ⟨by decide, by decide, rfl⟩ ?_
  refine g_bipush dX6_isCross_3 ⟨by decide, by decide, rfl⟩ ?_
  refine g_bipush dX6_isCross_5 ⟨by decide, by decide, rfl⟩ ?_
  refine g_bipush dX6_isCross_7 ⟨by decide, by decide, rfl⟩ ?_
  refine g_bipush dX6_isCross_9 ⟨by decide, by decide, rfl⟩ ?_
  refine g_iconst dX6_isCross_11 (by decide) ?_
  refine g_callS6 dX6_isCross_12 kX6_spelled q1508 q1509 rfl (by omega) (Nat.le_of_ble_eq_true rfl) (Nat.le_refl _) (Nat.le_refl _) (t_pL hs (pX6_sp_cross hs.S) ?_)
  refine g_callV1 dX6_isCross_15 kX6_isWord q1511 q1513 qs57 (ci := 6) rfl (by decide) rfl (by omega) (by decide) (sk_65 hs.S) (Nat.le_of_ble_eq_true rfl) (Nat.le_refl _) (Nat.le_refl _) (t_pI hs (pX6_isWord hs.S) ?_)
  exact g_zret dX6_isCross_18 rfl (b2i_in _) (Nat.le_refl _) (Nat.le_refl _) ⟨_, rfl, hs, h⟩
theorem uX6_isSlow_0 {d : Nat} {μ0 μ : tm_M} {K : Int → tm_M → Prop} (hd : 1 ≤ d) (hs : tFr wX6_isSlow μ0 μ)
    (h : K (b2i (tm_v μ 65 14 = 1 ∧ tm_v μ 65 19 = 635383)) μ) :
    hI wX6_isSlow μ0 mX6_isSlow d K 0 [(0, 2, 65)] [] μ := by
  refine g_aload_n (q := 0) dX6_isSlow_0 rfl rfl ?_
  refine g_bipush dX6_isSlow_1 ⟨by decide, by decide, rfl⟩ ?_
  refine g_bipush dX6_isSlow_3 ⟨by decide, by decide, rfl⟩ ?_
  refine g_bipush dX6_isSlow_5 ⟨by decide, by decide, rfl⟩ ?_
  refine g_bipush dX6_isSlow_7 ⟨by decide, by decide, rfl⟩ ?_
  refine g_iconst dX6_isSlow_9 (by decide) ?_
  refine g_iconst dX6_isSlow_10 (by decide) ?_
  refine g_callS6 dX6_isSlow_11 kX6_spelled q1508 q1509 rfl (by omega) (Nat.le_of_ble_eq_true rfl) (Nat.le_refl _) (Nat.le_refl _) (t_pL hs (pX6_sp_slow hs.S) ?_)
  refine g_callV1 dX6_isSlow_14 kX6_isWord q1511 q1513 qs57 (ci := 6) rfl (by decide) rfl (by omega) (by decide) (sk_65 hs.S) (Nat.le_of_ble_eq_true rfl) (Nat.le_refl _) (Nat.le_refl _) (t_pI hs (pX6_isWord hs.S) ?_)
  exact g_zret dX6_isSlow_17 rfl (b2i_in _) (Nat.le_refl _) (Nat.le_refl _) ⟨_, rfl, hs, h⟩
theorem uX6_isHears_0 {d : Nat} {μ0 μ : tm_M} {K : Int → tm_M → Prop} (hd : 1 ≤ d) (hs : tFr wX6_isHears μ0 μ)
    (h : K (b2i (tm_v μ 65 14 = 1 ∧ tm_v μ 65 19 = 8554067)) μ) :
    hI wX6_isHears μ0 mX6_isHears d K 0 [(0, 2, 65)] [] μ := by
  refine g_aload_n (q := 0) dX6_isHears_0 rfl rfl ?_
  refine g_bipush dX6_isHears_1 ⟨by decide, by decide, rfl⟩ ?_
  refine g_bipush dX6_isHears_3 ⟨by decide, by decide, rfl⟩ ?_
  refine g_bipush dX6_isHears_5 ⟨by decide, by decide, rfl⟩ ?_
  refine g_bipush dX6_isHears_7 ⟨by decide, by decide, rfl⟩ ?_
  refine g_bipush dX6_isHears_9 ⟨by decide, by decide, rfl⟩ ?_
  refine g_iconst dX6_isHears_11 (by decide) ?_
  refine g_callS6 dX6_isHears_12 kX6_spelled q1508 q1509 rfl (by omega) (Nat.le_of_ble_eq_true rfl) (Nat.le_refl _) (Nat.le_refl _) (t_pL hs (pX6_sp_hears hs.S) ?_)
  refine g_callV1 dX6_isHears_15 kX6_isWord q1511 q1513 qs57 (ci := 6) rfl (by decide) rfl (by omega) (by decide) (sk_65 hs.S) (Nat.le_of_ble_eq_true rfl) (Nat.le_refl _) (Nat.le_refl _) (t_pI hs (pX6_isWord hs.S) ?_)
  exact g_zret dX6_isHears_18 rfl (b2i_in _) (Nat.le_refl _) (Nat.le_refl _) ⟨_, rfl, hs, h⟩
theorem uX6_allLikely_0 {d : Nat} {μ0 μ : tm_M} {K : Int → tm_M → Prop} (hs : tFr wX6_allLikely μ0 μ)
    (h : hLo wX6_allLikely μ0 mX6_allLikely d K 4 [(0, 2, 65), (1, 1, 0), (3, 0, 0)] [] μ) :
    hLo wX6_allLikely μ0 mX6_allLikely d K 0 [(0, 2, 65)] [] μ := by
  refine g_lconst0 dX6_allLikely_0 ?_
  refine g_lstore_n (L' := [(0, 2, 65), (1, 1, 0)]) dX6_allLikely_1 rfl (by decide) [1, 0] rfl ?_
  refine g_iconst dX6_allLikely_2 (by decide) ?_
  refine g_istore_n (L' := [(0, 2, 65), (1, 1, 0), (3, 0, 0)]) dX6_allLikely_3 rfl (by decide) [1, 2, 0] rfl ?_
  exact h
theorem uX6_allLikely_4 {d : Nat} {μ0 μ : tm_M} {K : Int → tm_M → Prop} {v1 v3 : Int} (hs : tFr wX6_allLikely μ0 μ)
    (h : (tm_v μ0 65 20 ≤ v3 → K v1 μ) ∧ (v3 < tm_v μ0 65 20 → hLo wX6_allLikely μ0 mX6_allLikely d K 15 [(0, 2, 65), (1, 1, v1), (3, 0, v3), (4, 0, 0)] [] μ)) :
    hLo wX6_allLikely μ0 mX6_allLikely d K 4 [(0, 2, 65), (1, 1, v1), (3, 0, v3)] [] μ := by
  refine g_iload_n (q := 2) dX6_allLikely_4 rfl rfl ?_
  refine g_aload_n (q := 0) dX6_allLikely_5 rfl rfl ?_
  refine g_getC (x := tm_v μ0 65 20) 0 dX6_allLikely_6 fX6_326 rfl (by decide) (sk_65 hs.S) (hs.v (tWs_noF rfl)) ?_
  refine g_icmp_ge (tgt := 46) dX6_allLikely_9 (by decide) (fun c1 => ?_) (fun c2 => ?_)
  · have h := h.1 c1
    refine g_lload_n (q := 1) dX6_allLikely_46 rfl rfl ?_
    exact g_lret dX6_allLikely_47 rfl (Nat.le_refl _) (Nat.le_refl _) ⟨_, rfl, hs, h⟩
  · have h := h.2 c2
    refine g_iconst dX6_allLikely_12 (by decide) ?_
    refine g_istore (L' := [(0, 2, 65), (1, 1, v1), (3, 0, v3), (4, 0, 0)]) dX6_allLikely_13 (by decide) [1, 2, 3, 0] rfl ?_
    exact h
theorem uX6_allLikely_15 {d : Nat} {μ0 μ : tm_M} {K : Int → tm_M → Prop} {v1 v3 v4 : Int} (hd : 1 ≤ d) (hs : tFr wX6_allLikely μ0 μ)
    (h : (tm_v μ0 65 20 ≤ v4 → hLo wX6_allLikely μ0 mX6_allLikely d K 4 [(0, 2, 65), (1, 1, v1), (3, 0, w32 (v3 + 1))] [] μ) ∧ (v4 < tm_v μ0 65 20 → (y_p μ0 v3 ∧ y_p μ0 v4) ∧ ((∀ x7, x7 = w64 (v1 + (y_likely μ0 v3 v4)) → hLo wX6_allLikely μ0 mX6_allLikely d K 15 [(0, 2, 65), (1, 1, x7), (3, 0, v3), (4, 0, w32 (v4 + 1))] [] μ)))) :
    hLo wX6_allLikely μ0 mX6_allLikely d K 15 [(0, 2, 65), (1, 1, v1), (3, 0, v3), (4, 0, v4)] [] μ := by
  refine g_iload (q := 3) dX6_allLikely_15 rfl ?_
  refine g_aload_n (q := 0) dX6_allLikely_17 rfl rfl ?_
  refine g_getC (x := tm_v μ0 65 20) 0 dX6_allLikely_18 fX6_326 rfl (by decide) (sk_65 hs.S) (hs.v (tWs_noF rfl)) ?_
  refine g_icmp_ge (tgt := 40) dX6_allLikely_21 (by decide) (fun c1 => ?_) (fun c2 => ?_)
  · have h := h.1 c1
    refine g_iinc (q := 2) dX6_allLikely_40 (by decide) rfl [1, 2, 0, 3] rfl ?_
    refine g_goto (tgt := 4) dX6_allLikely_43 (by decide) ?_
    exact g_less [0, 1, 2] rfl h
  · have h := h.2 c2
    refine g_lload_n (q := 1) dX6_allLikely_24 rfl rfl ?_
    refine g_aload_n (q := 0) dX6_allLikely_25 rfl rfl ?_
    refine g_iload_n (q := 2) dX6_allLikely_26 rfl rfl ?_
    refine g_iload (q := 3) dX6_allLikely_27 rfl ?_
    obtain ⟨c3, h⟩ := h
    refine g_callV2 dX6_allLikely_29 kX6_likely q1704 q1706 qs92 (ci := 6) rfl (by decide) rfl (by omega) (by decide) (sk_65 hs.S) (Nat.le_of_ble_eq_true rfl) (Nat.le_refl _) (Nat.le_refl _) (t_pL hs (pX6_likelyF hs (tWs_T rfl) c3) ?_)
    refine g_ladd dX6_allLikely_32 ?_
    refine g_lstore_nN (fun z => [(0, 2, 65), (1, 1, z), (3, 0, v3), (4, 0, v4)]) dX6_allLikely_33 rfl (by decide) [1, 0, 2, 3] (fun _ => rfl) (fun x7 ex7 => ?_)
    have h := h x7 ex7
    refine g_iinc (q := 3) dX6_allLikely_34 (by decide) rfl [1, 2, 3, 0] rfl ?_
    refine g_goto (tgt := 15) dX6_allLikely_37 (by decide) ?_
    exact h
theorem uX6_named_0 {d : Nat} {μ0 μ : tm_M} {K : Int → tm_M → Prop} (hs : tFr wX6_named μ0 μ)
    (h : hI wX6_named μ0 mX6_named d K 2 [(0, 2, 65), (1, 0, 0)] [] μ) :
    hI wX6_named μ0 mX6_named d K 0 [(0, 2, 65)] [] μ := by
  refine g_iconst dX6_named_0 (by decide) ?_
  refine g_istore_n (L' := [(0, 2, 65), (1, 0, 0)]) dX6_named_1 rfl (by decide) [1, 0] rfl ?_
  exact h
theorem uX6_named_2 {d : Nat} {μ0 μ : tm_M} {K : Int → tm_M → Prop} {v1 : Int} (hs : tFr wX6_named μ0 μ)
    (h : (tm_v μ0 65 22 ≤ v1 → K (-1) μ) ∧ (v1 < tm_v μ0 65 22 → (0 ≤ v1 ∧ v1 < 8) ∧ ((tm_v μ0 81 v1 ≠ tm_v μ0 65 19 → hI wX6_named μ0 mX6_named d K 2 [(0, 2, 65), (1, 0, w32 (v1 + 1))] [] μ) ∧ (tm_v μ0 81 v1 = tm_v μ0 65 19 → K v1 μ)))) :
    hI wX6_named μ0 mX6_named d K 2 [(0, 2, 65), (1, 0, v1)] [] μ := by
  refine g_iload_n (q := 1) dX6_named_2 rfl rfl ?_
  refine g_aload_n (q := 0) dX6_named_3 rfl rfl ?_
  refine g_getC (x := tm_v μ0 65 22) 0 dX6_named_4 fX6_266 rfl (by decide) (sk_65 hs.S) (hs.v (tWs_noF rfl)) ?_
  refine g_icmp_ge (tgt := 32) dX6_named_7 (by decide) (fun c1 => ?_) (fun c2 => ?_)
  · have h := h.1 c1
    refine g_iconst dX6_named_32 (by decide) ?_
    exact g_iret dX6_named_33 rfl (Nat.le_refl _) (Nat.le_refl _) ⟨_, rfl, hs, h⟩
  · have h := h.2 c2
    refine g_aload_n (q := 0) dX6_named_10 rfl rfl ?_
    refine g_getC (x := 81) 2 dX6_named_11 fX6_72 rfl (by decide) (sk_65 hs.S) (sv_65_42 hs.S) ?_
    refine g_iload_n (q := 1) dX6_named_14 rfl rfl ?_
    obtain ⟨c3, h⟩ := h
    refine g_laloadC (x := tm_v μ0 81 v1) dX6_named_15 (by decide) (sk_81 hs.S) c3.1 (t_lt (sn_81 hs.S) c3.2) (hs.v (tWs_no _ rfl)) ?_
    refine g_aload_n (q := 0) dX6_named_16 rfl rfl ?_
    refine g_getC (x := tm_v μ0 65 19) 1 dX6_named_17 fX6_199 rfl (by decide) (sk_65 hs.S) (hs.v (tWs_noF rfl)) ?_
    refine g_lcmp_ne (tgt := 26) dX6_named_20 dX6_named_21 (by decide) (fun c4 => ?_) (fun c5 => ?_)
    · have h := h.1 c4
      refine g_iinc (q := 1) dX6_named_26 (by decide) rfl [1, 0] rfl ?_
      refine g_goto (tgt := 2) dX6_named_29 (by decide) ?_
      exact h
    · have h := h.2 c5
      refine g_iload_n (q := 1) dX6_named_24 rfl rfl ?_
      exact g_iret dX6_named_25 rfl (Nat.le_refl _) (Nat.le_refl _) ⟨_, rfl, hs, h⟩
theorem uX6_wholeOf_0 {d : Nat} {μ0 μ : tm_M} {K : Int → tm_M → Prop} {v1 : Int} (hd : 1 ≤ d) (hs : tFr wX6_wholeOf μ0 μ)
    (h : cL wX6_allLikely mX6_allLikely (d - 1) [(2, 65)] μ (fun r2 μ1 => hLo wX6_wholeOf μ0 mX6_wholeOf d K 8 [(1, 0, v1), (2, 1, r2), (4, 0, 0)] [] μ1)) :
    hLo wX6_wholeOf μ0 mX6_wholeOf d K 0 [(0, 2, 65), (1, 0, v1)] [] μ := by
  refine g_aload_n (q := 0) dX6_wholeOf_0 rfl rfl ?_
  refine g_callV0 dX6_wholeOf_1 kX6_allLikely q1700 q1702 qs91 (ci := 6) rfl (by decide) rfl (by omega) (by decide) (sk_65 hs.S) (Nat.le_of_ble_eq_true rfl) (Nat.le_refl _) (Nat.le_refl _) (t_kL hs (tWs_sub rfl) h (fun r2 μ1 hs h => ?_))
  refine g_lstore_n (L' := [(0, 2, 65), (1, 0, v1), (2, 1, r2)]) dX6_wholeOf_4 rfl (by decide) [1, 2, 0] rfl ?_
  refine g_iconst dX6_wholeOf_5 (by decide) ?_
  refine g_istore (L' := [(0, 2, 65), (1, 0, v1), (2, 1, r2), (4, 0, 0)]) dX6_wholeOf_6 (by decide) [1, 2, 3, 0] rfl ?_
  exact g_less [1, 2, 3] rfl h
theorem uX6_wholeOf_8 {d : Nat} {μ0 μ : tm_M} {K : Int → tm_M → Prop} {v1 v2 v4 : Int} (hs : tFr wX6_wholeOf μ0 μ)
    (h : (v1 ≤ v4 → K v2 μ) ∧ (v4 < v1 → (∀ x3, x3 = w64 (v2 * 256) → hLo wX6_wholeOf μ0 mX6_wholeOf d K 8 [(1, 0, v1), (2, 1, x3), (4, 0, w32 (v4 + 1))] [] μ))) :
    hLo wX6_wholeOf μ0 mX6_wholeOf d K 8 [(1, 0, v1), (2, 1, v2), (4, 0, v4)] [] μ := by
  refine g_iload (q := 2) dX6_wholeOf_8 rfl ?_
  refine g_iload_n (q := 0) dX6_wholeOf_10 rfl rfl ?_
  refine g_icmp_ge (tgt := 26) dX6_wholeOf_11 (by decide) (fun c1 => ?_) (fun c2 => ?_)
  · have h := h.1 c1
    refine g_lload_n (q := 1) dX6_wholeOf_26 rfl rfl ?_
    exact g_lret dX6_wholeOf_27 rfl (Nat.le_refl _) (Nat.le_refl _) ⟨_, rfl, hs, h⟩
  · have h := h.2 c2
    refine g_lload_n (q := 1) dX6_wholeOf_14 rfl rfl ?_
    refine g_ldc2 (v := 256) (by decide) q1778c dX6_wholeOf_15 ?_
    refine g_lmul dX6_wholeOf_18 ?_
    refine g_lstore_nN (fun z => [(1, 0, v1), (2, 1, z), (4, 0, v4)]) dX6_wholeOf_19 rfl (by decide) [1, 0, 2] (fun _ => rfl) (fun x3 ex3 => ?_)
    have h := h x3 ex3
    refine g_iinc (q := 2) dX6_wholeOf_20 (by decide) rfl [1, 2, 0] rfl ?_
    refine g_goto (tgt := 8) dX6_wholeOf_23 (by decide) ?_
    exact h
theorem uX6_fraction_0 {d : Nat} {μ0 μ : tm_M} {K : tm_M → Prop} {v1 v3 : Int} (hd : 1 ≤ d) (hs : tFr wX6_fraction μ0 μ)
    (h : cL wX6_common mX6_common (d - 1) [(1, v1), (1, v3)] μ (fun r2 μ1 => (r2 ≠ 0) ∧ ((∀ μ4, μ4 = tm_w μ1 65 2 (w64 (v1.tdiv r2)) → (r2 ≠ 0) ∧ ((∀ μ6, μ6 = tm_w μ4 65 3 (w64 (v3.tdiv r2)) → K μ6)))))) :
    hV wX6_fraction μ0 mX6_fraction d K 0 [(0, 2, 65), (1, 1, v1), (3, 1, v3)] [] μ := by
  refine g_lload_n (q := 1) dX6_fraction_0 rfl rfl ?_
  refine g_lload_n (q := 2) dX6_fraction_1 rfl rfl ?_
  refine g_callS2 dX6_fraction_2 kX6_common q1712 q1713 rfl (by omega) (Nat.le_of_ble_eq_true rfl) (Nat.le_refl _) (Nat.le_refl _) (t_kL hs (tWs_sub rfl) h (fun r2 μ1 hs h => ?_))
  refine g_lstore (L' := [(0, 2, 65), (1, 1, v1), (3, 1, v3), (5, 1, r2)]) dX6_fraction_5 (by decide) [1, 2, 3, 0] rfl ?_
  refine g_aload_n (q := 0) dX6_fraction_7 rfl rfl ?_
  refine g_lload_n (q := 1) dX6_fraction_8 rfl rfl ?_
  refine g_lload (q := 3) dX6_fraction_9 rfl ?_
  obtain ⟨c3, h⟩ := h
  refine g_ldiv dX6_fraction_11 c3 ?_
  refine g_put dX6_fraction_12 fX6_150 rfl (by decide) (sk_65 hs.S) (fun e => absurd e (by decide)) (p_wj hs (by decide) (tWs_inF rfl) fun μ4 eμ4 hs => ?_)
  have h := h μ4 eμ4
  refine g_aload_n (q := 0) dX6_fraction_15 rfl rfl ?_
  refine g_lload_n (q := 2) dX6_fraction_16 rfl rfl ?_
  refine g_lload (q := 3) dX6_fraction_17 rfl ?_
  obtain ⟨c5, h⟩ := h
  refine g_ldiv dX6_fraction_19 c5 ?_
  refine g_put dX6_fraction_20 fX6_7 rfl (by decide) (sk_65 hs.S) (fun e => absurd e (by decide)) (p_wj hs (by decide) (tWs_inF rfl) fun μ6 eμ6 hs => ?_)
  have h := h μ6 eμ6
  exact g_vret dX6_fraction_23 rfl (Nat.le_refl _) (Nat.le_refl _) ⟨rfl, hs, h⟩
theorem uX6_lay_0 {d : Nat} {μ0 μ : tm_M} {K : tm_M → Prop} {v1 : Int} (hs : tFr wX6_lay μ0 μ)
    (h : hV wX6_lay μ0 mX6_lay d K 2 [(0, 2, 65), (1, 0, v1), (2, 0, 3)] [] μ) :
    hV wX6_lay μ0 mX6_lay d K 0 [(0, 2, 65), (1, 0, v1)] [] μ := by
  refine g_iconst dX6_lay_0 (by decide) ?_
  refine g_istore_n (L' := [(0, 2, 65), (1, 0, v1), (2, 0, 3)]) dX6_lay_1 rfl (by decide) [1, 2, 0] rfl ?_
  exact h
theorem uX6_lay_2 {d : Nat} {μ0 μ : tm_M} {K : tm_M → Prop} {v1 v2 : Int} (hs : tFr wX6_lay μ0 μ)
    (h : (v2 < 0 → K μ) ∧ (0 ≤ v2 → (0 ≤ tm_v μ 65 8 ∧ tm_v μ 65 8 < 500) ∧ ((∀ μ4, μ4 = tm_w μ 69 (tm_v μ 65 8) (w8 (i_shr v1 (w32 (8 * v2)))) → (∀ μ5, μ5 = tm_w μ4 65 8 (w32 ((tm_v μ4 65 8) + 1)) → hV wX6_lay μ0 mX6_lay d K 2 [(0, 2, 65), (1, 0, v1), (2, 0, w32 (v2 + -1))] [] μ5))))) :
    hV wX6_lay μ0 mX6_lay d K 2 [(0, 2, 65), (1, 0, v1), (2, 0, v2)] [] μ := by
  refine g_iload_n (q := 2) dX6_lay_2 rfl rfl ?_
  refine g_if_lt (tgt := 38) dX6_lay_3 (by decide) (fun c1 => ?_) (fun c2 => ?_)
  · have h := h.1 c1
    exact g_vret dX6_lay_38 rfl (Nat.le_refl _) (Nat.le_refl _) ⟨rfl, hs, h⟩
  · have h := h.2 c2
    refine g_aload_n (q := 0) dX6_lay_6 rfl rfl ?_
    refine g_getC (x := 69) 2 dX6_lay_7 fX6_24 rfl (by decide) (sk_65 hs.S) (sv_65_7 hs.S) ?_
    refine g_aload_n (q := 0) dX6_lay_10 rfl rfl ?_
    refine g_get 0 dX6_lay_11 fX6_304 rfl (by decide) (sk_65 hs.S) ?_
    refine g_iload_n (q := 1) dX6_lay_14 rfl rfl ?_
    refine g_bipush dX6_lay_15 ⟨by decide, by decide, rfl⟩ ?_
    refine g_iload_n (q := 2) dX6_lay_17 rfl rfl ?_
    refine g_imul dX6_lay_18 ?_
    refine g_ishr dX6_lay_19 ?_
    refine g_i2b dX6_lay_20 ?_
    obtain ⟨c3, h⟩ := h
    refine g_bastore dX6_lay_21 (by decide) (sk_69 hs.S) c3.1 (t_lt (sn_69 hs.S) c3.2) (w8_in _) (p_w hs sf_69 (tWs_in _ rfl) fun μ4 eμ4 hs => ?_)
    have h := h μ4 eμ4
    refine g_aload_n (q := 0) dX6_lay_22 rfl rfl ?_
    refine g_dup dX6_lay_23 (by decide) ?_
    refine g_get 0 dX6_lay_24 fX6_304 rfl (by decide) (sk_65 hs.S) ?_
    refine g_iconst dX6_lay_27 (by decide) ?_
    refine g_iadd dX6_lay_28 ?_
    refine g_put dX6_lay_29 fX6_304 rfl (by decide) (sk_65 hs.S) (fun e => absurd e (by decide)) (p_wj hs (by decide) (tWs_inF rfl) fun μ5 eμ5 hs => ?_)
    have h := h μ5 eμ5
    refine g_iinc (q := 2) dX6_lay_32 (by decide) rfl [1, 2, 0] rfl ?_
    refine g_goto (tgt := 2) dX6_lay_35 (by decide) ?_
    exact h
theorem uX6_tray_0 {d : Nat} {μ0 μ : tm_M} {K : Int → tm_M → Prop} {v1 v2 v3 : Int} (hd : 1 ≤ d) (hs : tFr wX6_tray μ0 μ)
    (h : (∀ μ1, μ1 = tm_w μ 65 1 0 → (∀ μ2, μ2 = tm_w μ1 65 0 0 → (v1 < 0 → (∀ μ5, μ5 = tm_w μ2 65 0 1 → K 0 μ5)) ∧ (0 ≤ v1 → (4 ≤ v1 → (∀ μ10, μ10 = tm_w μ2 65 0 1 → K 0 μ10)) ∧ (v1 < 4 → (v2 < 0 → (∀ μ15, μ15 = tm_w μ2 65 0 1 → K 0 μ15)) ∧ (0 ≤ v2 → (v2 ≤ 3 → (v3 ≤ 64 → (0 ≤ v3 → (0 ≤ v1 ∧ v1 < 4) ∧ ((∀ μ25, μ25 = tm_w μ2 66 v1 v2 → (∀ μ26, μ26 = tm_w μ25 67 v1 v3 → hI wX6_tray μ0 mX6_tray d K 74 [(0, 2, 65), (1, 0, v1), (3, 0, v3), (4, 0, 0)] [] μ26)))) ∧ (v3 < 0 → (∀ μ27, μ27 = tm_w μ2 65 0 6 → K 0 μ27))) ∧ (64 < v3 → (∀ μ30, μ30 = tm_w μ2 65 0 5 → K 0 μ30))) ∧ (3 < v2 → (∀ μ33, μ33 = tm_w μ2 65 0 1 → K 0 μ33)))))))) :
    hI wX6_tray μ0 mX6_tray d K 0 [(0, 2, 65), (1, 0, v1), (2, 0, v2), (3, 0, v3)] [] μ := by
  refine g_aload_n (q := 0) dX6_tray_0 rfl rfl ?_
  refine g_iconst dX6_tray_1 (by decide) ?_
  refine g_put dX6_tray_2 fX6_144 rfl (by decide) (sk_65 hs.S) (fun e => absurd e (by decide)) (p_wj hs (by decide) (tWs_inF rfl) fun μ1 eμ1 hs => ?_)
  have h := h μ1 eμ1
  refine g_aload_n (q := 0) dX6_tray_5 rfl rfl ?_
  refine g_iconst dX6_tray_6 (by decide) ?_
  refine g_put dX6_tray_7 fX6_147 rfl (by decide) (sk_65 hs.S) (fun e => absurd e (by decide)) (p_wj hs (by decide) (tWs_inF rfl) fun μ2 eμ2 hs => ?_)
  have h := h μ2 eμ2
  refine g_iload_n (q := 1) dX6_tray_10 rfl rfl ?_
  refine g_if_lt (tgt := 28) dX6_tray_11 (by decide) (fun c3 => ?_) (fun c4 => ?_)
  · have h := h.1 c3
    refine g_aload_n (q := 0) dX6_tray_28 rfl rfl ?_
    refine g_iconst dX6_tray_29 (by decide) ?_
    refine g_callV1 dX6_tray_30 kX6_no q1444 q1446 qs49 (ci := 6) rfl (by decide) rfl (by omega) (by decide) (sk_65 hs.S) (Nat.le_of_ble_eq_true rfl) (Nat.le_refl _) (Nat.le_refl _) (t_kI hs (tWs_sub rfl) (pX6_no hs.S) (fun r7 μ5 hs e6 => ?_))
    obtain ⟨rfl, e6⟩ := e6
    have h := h μ5 e6
    exact g_zret dX6_tray_33 rfl (by decide) (Nat.le_refl _) (Nat.le_refl _) ⟨_, rfl, hs, h⟩
  · have h := h.2 c4
    refine g_iload_n (q := 1) dX6_tray_14 rfl rfl ?_
    refine g_iconst dX6_tray_15 (by decide) ?_
    refine g_icmp_ge (tgt := 28) dX6_tray_16 (by decide) (fun c8 => ?_) (fun c9 => ?_)
    · have h := h.1 c8
      refine g_aload_n (q := 0) dX6_tray_28 rfl rfl ?_
      refine g_iconst dX6_tray_29 (by decide) ?_
      refine g_callV1 dX6_tray_30 kX6_no q1444 q1446 qs49 (ci := 6) rfl (by decide) rfl (by omega) (by decide) (sk_65 hs.S) (Nat.le_of_ble_eq_true rfl) (Nat.le_refl _) (Nat.le_refl _) (t_kI hs (tWs_sub rfl) (pX6_no hs.S) (fun r12 μ10 hs e11 => ?_))
      obtain ⟨rfl, e11⟩ := e11
      have h := h μ10 e11
      exact g_zret dX6_tray_33 rfl (by decide) (Nat.le_refl _) (Nat.le_refl _) ⟨_, rfl, hs, h⟩
    · have h := h.2 c9
      refine g_iload_n (q := 2) dX6_tray_19 rfl rfl ?_
      refine g_if_lt (tgt := 28) dX6_tray_20 (by decide) (fun c13 => ?_) (fun c14 => ?_)
      · have h := h.1 c13
        refine g_aload_n (q := 0) dX6_tray_28 rfl rfl ?_
        refine g_iconst dX6_tray_29 (by decide) ?_
        refine g_callV1 dX6_tray_30 kX6_no q1444 q1446 qs49 (ci := 6) rfl (by decide) rfl (by omega) (by decide) (sk_65 hs.S) (Nat.le_of_ble_eq_true rfl) (Nat.le_refl _) (Nat.le_refl _) (t_kI hs (tWs_sub rfl) (pX6_no hs.S) (fun r17 μ15 hs e16 => ?_))
        obtain ⟨rfl, e16⟩ := e16
        have h := h μ15 e16
        exact g_zret dX6_tray_33 rfl (by decide) (Nat.le_refl _) (Nat.le_refl _) ⟨_, rfl, hs, h⟩
      · have h := h.2 c14
        refine g_iload_n (q := 2) dX6_tray_23 rfl rfl ?_
        refine g_iconst dX6_tray_24 (by decide) ?_
        refine g_icmp_le (tgt := 34) dX6_tray_25 (by decide) (fun c18 => ?_) (fun c19 => ?_)
        · have h := h.1 c18
          refine g_iload_n (q := 3) dX6_tray_34 rfl rfl ?_
          refine g_bipush dX6_tray_35 ⟨by decide, by decide, rfl⟩ ?_
          refine g_icmp_le (tgt := 46) dX6_tray_37 (by decide) (fun c20 => ?_) (fun c21 => ?_)
          · have h := h.1 c20
            refine g_iload_n (q := 3) dX6_tray_46 rfl rfl ?_
            refine g_if_ge (tgt := 57) dX6_tray_47 (by decide) (fun c22 => ?_) (fun c23 => ?_)
            · have h := h.1 c22
              refine g_aload_n (q := 0) dX6_tray_57 rfl rfl ?_
              refine g_getC (x := 66) 2 dX6_tray_58 fX6_13 rfl (by decide) (sk_65 hs.S) (sv_65_4 hs.S) ?_
              refine g_iload_n (q := 1) dX6_tray_61 rfl rfl ?_
              refine g_iload_n (q := 2) dX6_tray_62 rfl rfl ?_
              obtain ⟨c24, h⟩ := h
              refine g_iastore dX6_tray_63 (by decide) (sk_66 hs.S) c24.1 (t_lt (sn_66 hs.S) c24.2) (p_w hs sf_66 (tWs_in _ rfl) fun μ25 eμ25 hs => ?_)
              have h := h μ25 eμ25
              refine g_aload_n (q := 0) dX6_tray_64 rfl rfl ?_
              refine g_getC (x := 67) 2 dX6_tray_65 fX6_17 rfl (by decide) (sk_65 hs.S) (sv_65_5 hs.S) ?_
              refine g_iload_n (q := 1) dX6_tray_68 rfl rfl ?_
              refine g_iload_n (q := 3) dX6_tray_69 rfl rfl ?_
              refine g_iastore dX6_tray_70 (by decide) (sk_67 hs.S) c24.1 (t_lt (sn_67 hs.S) c24.2) (p_w hs sf_67 (tWs_in _ rfl) fun μ26 eμ26 hs => ?_)
              have h := h μ26 eμ26
              refine g_iconst dX6_tray_71 (by decide) ?_
              refine g_istore (L' := [(0, 2, 65), (1, 0, v1), (2, 0, v2), (3, 0, v3), (4, 0, 0)]) dX6_tray_72 (by decide) [1, 2, 3, 4, 0] rfl ?_
              exact g_less [0, 1, 3, 4] rfl h
            · have h := h.2 c23
              refine g_aload_n (q := 0) dX6_tray_50 rfl rfl ?_
              refine g_bipush dX6_tray_51 ⟨by decide, by decide, rfl⟩ ?_
              refine g_callV1 dX6_tray_53 kX6_no q1444 q1446 qs49 (ci := 6) rfl (by decide) rfl (by omega) (by decide) (sk_65 hs.S) (Nat.le_of_ble_eq_true rfl) (Nat.le_refl _) (Nat.le_refl _) (t_kI hs (tWs_sub rfl) (pX6_no hs.S) (fun r29 μ27 hs e28 => ?_))
              obtain ⟨rfl, e28⟩ := e28
              have h := h μ27 e28
              exact g_zret dX6_tray_56 rfl (by decide) (Nat.le_refl _) (Nat.le_refl _) ⟨_, rfl, hs, h⟩
          · have h := h.2 c21
            refine g_aload_n (q := 0) dX6_tray_40 rfl rfl ?_
            refine g_iconst dX6_tray_41 (by decide) ?_
            refine g_callV1 dX6_tray_42 kX6_no q1444 q1446 qs49 (ci := 6) rfl (by decide) rfl (by omega) (by decide) (sk_65 hs.S) (Nat.le_of_ble_eq_true rfl) (Nat.le_refl _) (Nat.le_refl _) (t_kI hs (tWs_sub rfl) (pX6_no hs.S) (fun r32 μ30 hs e31 => ?_))
            obtain ⟨rfl, e31⟩ := e31
            have h := h μ30 e31
            exact g_zret dX6_tray_45 rfl (by decide) (Nat.le_refl _) (Nat.le_refl _) ⟨_, rfl, hs, h⟩
        · have h := h.2 c19
          refine g_aload_n (q := 0) dX6_tray_28 rfl rfl ?_
          refine g_iconst dX6_tray_29 (by decide) ?_
          refine g_callV1 dX6_tray_30 kX6_no q1444 q1446 qs49 (ci := 6) rfl (by decide) rfl (by omega) (by decide) (sk_65 hs.S) (Nat.le_of_ble_eq_true rfl) (Nat.le_refl _) (Nat.le_refl _) (t_kI hs (tWs_sub rfl) (pX6_no hs.S) (fun r35 μ33 hs e34 => ?_))
          obtain ⟨rfl, e34⟩ := e34
          have h := h μ33 e34
          exact g_zret dX6_tray_33 rfl (by decide) (Nat.le_refl _) (Nat.le_refl _) ⟨_, rfl, hs, h⟩
theorem uX6_tray_74 {d : Nat} {μ0 μ : tm_M} {K : Int → tm_M → Prop} {v1 v3 v4 : Int} (hs : tFr wX6_tray μ0 μ)
    (h : (v3 ≤ v4 → K 1 μ) ∧ (v4 < v3 → (0 ≤ w32 ((w32 (64 * v1)) + v4) ∧ w32 ((w32 (64 * v1)) + v4) < 256) ∧ ((∀ μ4, μ4 = tm_w μ 68 (w32 ((w32 (64 * v1)) + v4)) 0 → hI wX6_tray μ0 mX6_tray d K 74 [(0, 2, 65), (1, 0, v1), (3, 0, v3), (4, 0, w32 (v4 + 1))] [] μ4)))) :
    hI wX6_tray μ0 mX6_tray d K 74 [(0, 2, 65), (1, 0, v1), (3, 0, v3), (4, 0, v4)] [] μ := by
  refine g_iload (q := 3) dX6_tray_74 rfl ?_
  refine g_iload_n (q := 2) dX6_tray_76 rfl rfl ?_
  refine g_icmp_ge (tgt := 99) dX6_tray_77 (by decide) (fun c1 => ?_) (fun c2 => ?_)
  · have h := h.1 c1
    refine g_iconst dX6_tray_99 (by decide) ?_
    exact g_zret dX6_tray_100 rfl (by decide) (Nat.le_refl _) (Nat.le_refl _) ⟨_, rfl, hs, h⟩
  · have h := h.2 c2
    refine g_aload_n (q := 0) dX6_tray_80 rfl rfl ?_
    refine g_getC (x := 68) 2 dX6_tray_81 fX6_20 rfl (by decide) (sk_65 hs.S) (sv_65_6 hs.S) ?_
    refine g_bipush dX6_tray_84 ⟨by decide, by decide, rfl⟩ ?_
    refine g_iload_n (q := 1) dX6_tray_86 rfl rfl ?_
    refine g_imul dX6_tray_87 ?_
    refine g_iload (q := 3) dX6_tray_88 rfl ?_
    refine g_iadd dX6_tray_90 ?_
    refine g_lconst0 dX6_tray_91 ?_
    obtain ⟨c3, h⟩ := h
    refine g_lastore dX6_tray_92 (by decide) (sk_68 hs.S) c3.1 (t_lt (sn_68 hs.S) c3.2) (p_w hs sf_68 (tWs_in _ rfl) fun μ4 eμ4 hs => ?_)
    have h := h μ4 eμ4
    refine g_iinc (q := 3) dX6_tray_93 (by decide) rfl [1, 2, 3, 0] rfl ?_
    refine g_goto (tgt := 74) dX6_tray_96 (by decide) ?_
    exact h
theorem uX6_write_0 {d : Nat} {μ0 μ : tm_M} {K : Int → tm_M → Prop} {v1 v2 v3 : Int} (hd : 1 ≤ d) (hs : tFr wX6_write μ0 μ)
    (h : (∀ μ1, μ1 = tm_w μ 65 1 0 → cI wX6_placed mX6_placed (d - 1) [(2, 65), (0, v1), (0, v2)] μ1 (fun r3 μ2 => (∀ μ4, μ4 = tm_w μ2 65 0 r3 → (tm_v μ4 65 0 ≤ 0 → (0 ≤ v1 ∧ v1 < 4) ∧ ((0 ≤ w32 ((w32 (64 * v1)) + v2) ∧ w32 ((w32 (64 * v1)) + v2) < 256) ∧ ((∀ μ12, μ12 = tm_w μ4 68 (w32 ((w32 (64 * v1)) + v2)) (y_cut (tm_v μ0 66 v1) v3) → K 1 μ12)))) ∧ (0 < tm_v μ4 65 0 → K 0 μ4))))) :
    hI wX6_write μ0 mX6_write d K 0 [(0, 2, 65), (1, 0, v1), (2, 0, v2), (3, 1, v3)] [] μ := by
  refine g_aload_n (q := 0) dX6_write_0 rfl rfl ?_
  refine g_iconst dX6_write_1 (by decide) ?_
  refine g_put dX6_write_2 fX6_144 rfl (by decide) (sk_65 hs.S) (fun e => absurd e (by decide)) (p_wj hs (by decide) (tWs_inF rfl) fun μ1 eμ1 hs => ?_)
  have h := h μ1 eμ1
  refine g_aload_n (q := 0) dX6_write_5 rfl rfl ?_
  refine g_aload_n (q := 0) dX6_write_6 rfl rfl ?_
  refine g_iload_n (q := 1) dX6_write_7 rfl rfl ?_
  refine g_iload_n (q := 2) dX6_write_8 rfl rfl ?_
  refine g_callV2 dX6_write_9 kX6_placed q1452 q1454 qs50 (ci := 6) rfl (by decide) rfl (by omega) (by decide) (sk_65 hs.S) (Nat.le_of_ble_eq_true rfl) (Nat.le_refl _) (Nat.le_refl _) (t_kI hs (tWs_sub rfl) h (fun r3 μ2 hs h => ?_))
  refine g_put dX6_write_12 fX6_147 rfl (by decide) (sk_65 hs.S) (fun e => absurd e (by decide)) (p_wj hs (by decide) (tWs_inF rfl) fun μ4 eμ4 hs => ?_)
  have h := h μ4 eμ4
  refine g_aload_n (q := 0) dX6_write_15 rfl rfl ?_
  refine g_get 0 dX6_write_16 fX6_147 rfl (by decide) (sk_65 hs.S) ?_
  refine g_if_le (tgt := 24) dX6_write_19 (by decide) (fun c5 => ?_) (fun c6 => ?_)
  · have h := h.1 c5
    refine g_aload_n (q := 0) dX6_write_24 rfl rfl ?_
    refine g_getC (x := 68) 2 dX6_write_25 fX6_20 rfl (by decide) (sk_65 hs.S) (sv_65_6 hs.S) ?_
    refine g_bipush dX6_write_28 ⟨by decide, by decide, rfl⟩ ?_
    refine g_iload_n (q := 1) dX6_write_30 rfl rfl ?_
    refine g_imul dX6_write_31 ?_
    refine g_iload_n (q := 2) dX6_write_32 rfl rfl ?_
    refine g_iadd dX6_write_33 ?_
    refine g_aload_n (q := 0) dX6_write_34 rfl rfl ?_
    refine g_getC (x := 66) 2 dX6_write_35 fX6_13 rfl (by decide) (sk_65 hs.S) (sv_65_4 hs.S) ?_
    refine g_iload_n (q := 1) dX6_write_38 rfl rfl ?_
    obtain ⟨c7, h⟩ := h
    refine g_ialoadC (x := tm_v μ0 66 v1) dX6_write_39 (by decide) (sk_66 hs.S) c7.1 (t_lt (sn_66 hs.S) c7.2) (hs.v (tWs_no _ rfl)) ?_
    refine g_lload_n (q := 3) dX6_write_40 rfl rfl ?_
    refine g_callS2 dX6_write_41 kX6_cut q1460 q1461 rfl (by omega) (Nat.le_of_ble_eq_true rfl) (Nat.le_refl _) (Nat.le_refl _) (t_pL hs (pX6_cut hs.S) ?_)
    obtain ⟨c11, h⟩ := h
    refine g_lastore dX6_write_44 (by decide) (sk_68 hs.S) c11.1 (t_lt (sn_68 hs.S) c11.2) (p_w hs sf_68 (tWs_in _ rfl) fun μ12 eμ12 hs => ?_)
    have h := h μ12 eμ12
    refine g_iconst dX6_write_45 (by decide) ?_
    exact g_zret dX6_write_46 rfl (by decide) (Nat.le_refl _) (Nat.le_refl _) ⟨_, rfl, hs, h⟩
  · have h := h.2 c6
    refine g_iconst dX6_write_22 (by decide) ?_
    exact g_zret dX6_write_23 rfl (by decide) (Nat.le_refl _) (Nat.le_refl _) ⟨_, rfl, hs, h⟩
theorem uX6_read_0 {d : Nat} {μ0 μ : tm_M} {K : Int → tm_M → Prop} {v1 v2 : Int} (hd : 1 ≤ d) (hs : tFr wX6_read μ0 μ)
    (h : (∀ μ1, μ1 = tm_w μ 65 1 0 → cI wX6_placed mX6_placed (d - 1) [(2, 65), (0, v1), (0, v2)] μ1 (fun r3 μ2 => (∀ μ4, μ4 = tm_w μ2 65 0 r3 → (tm_v μ4 65 0 ≤ 0 → (0 ≤ w32 ((w32 (64 * v1)) + v2) ∧ w32 ((w32 (64 * v1)) + v2) < 256) ∧ (K (tm_v μ0 68 (w32 ((w32 (64 * v1)) + v2))) μ4)) ∧ (0 < tm_v μ4 65 0 → K (-1) μ4))))) :
    hLo wX6_read μ0 mX6_read d K 0 [(0, 2, 65), (1, 0, v1), (2, 0, v2)] [] μ := by
  refine g_aload_n (q := 0) dX6_read_0 rfl rfl ?_
  refine g_iconst dX6_read_1 (by decide) ?_
  refine g_put dX6_read_2 fX6_144 rfl (by decide) (sk_65 hs.S) (fun e => absurd e (by decide)) (p_wj hs (by decide) (tWs_inF rfl) fun μ1 eμ1 hs => ?_)
  have h := h μ1 eμ1
  refine g_aload_n (q := 0) dX6_read_5 rfl rfl ?_
  refine g_aload_n (q := 0) dX6_read_6 rfl rfl ?_
  refine g_iload_n (q := 1) dX6_read_7 rfl rfl ?_
  refine g_iload_n (q := 2) dX6_read_8 rfl rfl ?_
  refine g_callV2 dX6_read_9 kX6_placed q1452 q1454 qs50 (ci := 6) rfl (by decide) rfl (by omega) (by decide) (sk_65 hs.S) (Nat.le_of_ble_eq_true rfl) (Nat.le_refl _) (Nat.le_refl _) (t_kI hs (tWs_sub rfl) h (fun r3 μ2 hs h => ?_))
  refine g_put dX6_read_12 fX6_147 rfl (by decide) (sk_65 hs.S) (fun e => absurd e (by decide)) (p_wj hs (by decide) (tWs_inF rfl) fun μ4 eμ4 hs => ?_)
  have h := h μ4 eμ4
  refine g_aload_n (q := 0) dX6_read_15 rfl rfl ?_
  refine g_get 0 dX6_read_16 fX6_147 rfl (by decide) (sk_65 hs.S) ?_
  refine g_if_le (tgt := 28) dX6_read_19 (by decide) (fun c5 => ?_) (fun c6 => ?_)
  · have h := h.1 c5
    refine g_aload_n (q := 0) dX6_read_28 rfl rfl ?_
    refine g_getC (x := 68) 2 dX6_read_29 fX6_20 rfl (by decide) (sk_65 hs.S) (sv_65_6 hs.S) ?_
    refine g_bipush dX6_read_32 ⟨by decide, by decide, rfl⟩ ?_
    refine g_iload_n (q := 1) dX6_read_34 rfl rfl ?_
    refine g_imul dX6_read_35 ?_
    refine g_iload_n (q := 2) dX6_read_36 rfl rfl ?_
    refine g_iadd dX6_read_37 ?_
    obtain ⟨c7, h⟩ := h
    refine g_laloadC (x := tm_v μ0 68 (w32 ((w32 (64 * v1)) + v2))) dX6_read_38 (by decide) (sk_68 hs.S) c7.1 (t_lt (sn_68 hs.S) c7.2) (hs.v (tWs_no _ rfl)) ?_
    exact g_lret dX6_read_39 rfl (Nat.le_refl _) (Nat.le_refl _) ⟨_, rfl, hs, h⟩
  · have h := h.2 c6
    refine g_ldc2 (v := -1) (by decide) q1467c dX6_read_22 ?_
    refine g_goto (tgt := 39) dX6_read_25 (by decide) ?_
    exact g_lret dX6_read_39 rfl (Nat.le_refl _) (Nat.le_refl _) ⟨_, rfl, hs, h⟩
theorem uX6_mostOf_0 {d : Nat} {μ0 μ : tm_M} {K : Int → tm_M → Prop} (hs : tFr wX6_mostOf μ0 μ)
    (h : hLo wX6_mostOf μ0 mX6_mostOf d K 6 [(0, 2, 65), (1, 1, -1), (3, 0, 0)] [] μ) :
    hLo wX6_mostOf μ0 mX6_mostOf d K 0 [(0, 2, 65)] [] μ := by
  refine g_ldc2 (v := -1) (by decide) q1467c dX6_mostOf_0 ?_
  refine g_lstore_n (L' := [(0, 2, 65), (1, 1, -1)]) dX6_mostOf_3 rfl (by decide) [1, 0] rfl ?_
  refine g_iconst dX6_mostOf_4 (by decide) ?_
  refine g_istore_n (L' := [(0, 2, 65), (1, 1, -1), (3, 0, 0)]) dX6_mostOf_5 rfl (by decide) [1, 2, 0] rfl ?_
  exact h
theorem uX6_mostOf_6 {d : Nat} {μ0 μ : tm_M} {K : Int → tm_M → Prop} {v1 v3 : Int} (hs : tFr wX6_mostOf μ0 μ)
    (h : (tm_v μ0 65 73 ≤ v3 → K v1 μ) ∧ (v3 < tm_v μ0 65 73 → hLo wX6_mostOf μ0 mX6_mostOf d K 20 [(0, 2, 65), (1, 1, v1), (3, 0, v3), (4, 1, 0), (6, 0, 0)] [] μ)) :
    hLo wX6_mostOf μ0 mX6_mostOf d K 6 [(0, 2, 65), (1, 1, v1), (3, 0, v3)] [] μ := by
  refine g_iload_n (q := 2) dX6_mostOf_6 rfl rfl ?_
  refine g_aload_n (q := 0) dX6_mostOf_7 rfl rfl ?_
  refine g_getC (x := tm_v μ0 65 73) 0 dX6_mostOf_8 fX6_483 rfl (by decide) (sk_65 hs.S) (hs.v (tWs_noF rfl)) ?_
  refine g_icmp_ge (tgt := 73) dX6_mostOf_11 (by decide) (fun c1 => ?_) (fun c2 => ?_)
  · have h := h.1 c1
    refine g_lload_n (q := 1) dX6_mostOf_73 rfl rfl ?_
    exact g_lret dX6_mostOf_74 rfl (Nat.le_refl _) (Nat.le_refl _) ⟨_, rfl, hs, h⟩
  · have h := h.2 c2
    refine g_lconst0 dX6_mostOf_14 ?_
    refine g_lstore (L' := [(0, 2, 65), (1, 1, v1), (3, 0, v3), (4, 1, 0)]) dX6_mostOf_15 (by decide) [1, 2, 3, 0] rfl ?_
    refine g_iconst dX6_mostOf_17 (by decide) ?_
    refine g_istore (L' := [(0, 2, 65), (1, 1, v1), (3, 0, v3), (4, 1, 0), (6, 0, 0)]) dX6_mostOf_18 (by decide) [1, 2, 3, 4, 0] rfl ?_
    exact h
theorem uX6_mostOf_20 {d : Nat} {μ0 μ : tm_M} {K : Int → tm_M → Prop} {v1 v3 v4 v6 : Int} (hd : 1 ≤ d) (hs : tFr wX6_mostOf μ0 μ)
    (h : (tm_v μ0 65 72 ≤ v6 → (∀ x6, x6 = max v1 v4 → hLo wX6_mostOf μ0 mX6_mostOf d K 6 [(0, 2, 65), (1, 1, x6), (3, 0, w32 (v3 + 1))] [] μ)) ∧ (v6 < tm_v μ0 65 72 → (0 ≤ v6 ∧ v6 < 3) ∧ ((0 ≤ w32 ((w32 (3 * v6)) + v3) ∧ w32 ((w32 (3 * v6)) + v3) < 9) ∧ ((∀ x9, x9 = w64 (v4 + (w64 ((tm_v μ0 102 v6) * (tm_v μ0 101 (w32 ((w32 (3 * v6)) + v3)))))) → hLo wX6_mostOf μ0 mX6_mostOf d K 20 [(0, 2, 65), (1, 1, v1), (3, 0, v3), (4, 1, x9), (6, 0, w32 (v6 + 1))] [] μ))))) :
    hLo wX6_mostOf μ0 mX6_mostOf d K 20 [(0, 2, 65), (1, 1, v1), (3, 0, v3), (4, 1, v4), (6, 0, v6)] [] μ := by
  refine g_iload (q := 4) dX6_mostOf_20 rfl ?_
  refine g_aload_n (q := 0) dX6_mostOf_22 rfl rfl ?_
  refine g_getC (x := tm_v μ0 65 72) 0 dX6_mostOf_23 fX6_477 rfl (by decide) (sk_65 hs.S) (hs.v (tWs_noF rfl)) ?_
  refine g_icmp_ge (tgt := 60) dX6_mostOf_26 (by decide) (fun c1 => ?_) (fun c2 => ?_)
  · have h := h.1 c1
    refine g_lload_n (q := 1) dX6_mostOf_60 rfl rfl ?_
    refine g_lload (q := 3) dX6_mostOf_61 rfl ?_
    refine g_callS2 dX6_mostOf_63 kJ8_max_2 q1825 q1163 rfl (by omega) (Nat.le_of_ble_eq_true rfl) (Nat.le_refl _) (Nat.le_refl _) (t_pL hs (pJ8_max_2 hs.S) ?_)
    refine g_lstore_nN (fun z => [(0, 2, 65), (1, 1, z), (3, 0, v3), (4, 1, v4), (6, 0, v6)]) dX6_mostOf_66 rfl (by decide) [1, 0, 2, 3, 4] (fun _ => rfl) (fun x6 ex6 => ?_)
    have h := h x6 ex6
    refine g_iinc (q := 2) dX6_mostOf_67 (by decide) rfl [1, 2, 0, 3, 4] rfl ?_
    refine g_goto (tgt := 6) dX6_mostOf_70 (by decide) ?_
    exact g_less [0, 1, 2] rfl h
  · have h := h.2 c2
    refine g_lload (q := 3) dX6_mostOf_29 rfl ?_
    refine g_aload_n (q := 0) dX6_mostOf_31 rfl rfl ?_
    refine g_getC (x := 102) 2 dX6_mostOf_32 fX6_138 rfl (by decide) (sk_65 hs.S) (sv_65_74 hs.S) ?_
    refine g_iload (q := 4) dX6_mostOf_35 rfl ?_
    obtain ⟨c7, h⟩ := h
    refine g_laloadC (x := tm_v μ0 102 v6) dX6_mostOf_37 (by decide) (sk_102 hs.S) c7.1 (t_lt (sn_102 hs.S) c7.2) (hs.v (tWs_no _ rfl)) ?_
    refine g_aload_n (q := 0) dX6_mostOf_38 rfl rfl ?_
    refine g_getC (x := 101) 2 dX6_mostOf_39 fX6_135 rfl (by decide) (sk_65 hs.S) (sv_65_71 hs.S) ?_
    refine g_iconst dX6_mostOf_42 (by decide) ?_
    refine g_iload (q := 4) dX6_mostOf_43 rfl ?_
    refine g_imul dX6_mostOf_45 ?_
    refine g_iload_n (q := 2) dX6_mostOf_46 rfl rfl ?_
    refine g_iadd dX6_mostOf_47 ?_
    obtain ⟨c8, h⟩ := h
    refine g_ialoadC (x := tm_v μ0 101 (w32 ((w32 (3 * v6)) + v3))) dX6_mostOf_48 (by decide) (sk_101 hs.S) c8.1 (t_lt (sn_101 hs.S) c8.2) (hs.v (tWs_no _ rfl)) ?_
    refine g_i2l dX6_mostOf_49 ?_
    refine g_lmul dX6_mostOf_50 ?_
    refine g_ladd dX6_mostOf_51 ?_
    refine g_lstoreN (fun z => [(0, 2, 65), (1, 1, v1), (3, 0, v3), (4, 1, z), (6, 0, v6)]) dX6_mostOf_52 (by decide) [1, 2, 3, 0, 4] (fun _ => rfl) (fun x9 ex9 => ?_)
    have h := h x9 ex9
    refine g_iinc (q := 4) dX6_mostOf_54 (by decide) rfl [1, 2, 3, 4, 0] rfl ?_
    refine g_goto (tgt := 20) dX6_mostOf_57 (by decide) ?_
    exact h
