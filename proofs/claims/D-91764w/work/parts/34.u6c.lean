theorem uX6_go_0 {d : Nat} {μ0 μ : tm_M} {K : Int → tm_M → Prop} {v1 v2 : Int} (hd : 2 ≤ d) (hs : tFr wX6_go μ0 μ)
    (h : (y_p μ0 v1) ∧ ((¬ (0 ≤ (w32 (v2 - 1)) ∧ (w32 (v2 - 1)) < tm_v μ0 72 v1 ∧ tm_v μ0 80 (tm_v μ0 74 (4 * v1 + (w32 (v2 - 1)))) = 0) → K v1 μ) ∧ (0 ≤ (w32 (v2 - 1)) ∧ (w32 (v2 - 1)) < tm_v μ0 72 v1 ∧ tm_v μ0 80 (tm_v μ0 74 (4 * v1 + (w32 (v2 - 1)))) = 0 → K (y_leads μ0 v1 (w32 (v2 - 1))) μ))) :
    hI wX6_go μ0 mX6_go d K 0 [(0, 2, 65), (1, 0, v1), (2, 0, v2)] [] μ := by
  refine g_aload_n (q := 0) dX6_go_0 rfl rfl ?_
  refine g_iload_n (q := 1) dX6_go_1 rfl rfl ?_
  refine g_iload_n (q := 2) dX6_go_2 rfl rfl ?_
  refine g_iconst dX6_go_3 (by decide) ?_
  refine g_isub dX6_go_4 ?_
  obtain ⟨c1, h⟩ := h
  refine g_callV2 dX6_go_5 kX6_isOpen q1667 q1669 qs85 (ci := 6) rfl (by decide) rfl (by omega) (by decide) (sk_65 hs.S) (Nat.le_of_ble_eq_true rfl) (Nat.le_refl _) (Nat.le_refl _) (t_pI hs (pX6_isOpenF hs (tWs_T rfl) c1) ?_)
  refine g_if_eq (tgt := 22) dX6_go_8 (by decide) (fun c5 => ?_) (fun c6 => ?_)
  · have h := h.1 (b2i_0.mp c5)
    refine g_iload_n (q := 1) dX6_go_22 rfl rfl ?_
    exact g_iret dX6_go_23 rfl (Nat.le_refl _) (Nat.le_refl _) ⟨_, rfl, hs, h⟩
  · have h := h.2 (b2i_1.mp c6)
    refine g_aload_n (q := 0) dX6_go_11 rfl rfl ?_
    refine g_iload_n (q := 1) dX6_go_12 rfl rfl ?_
    refine g_iload_n (q := 2) dX6_go_13 rfl rfl ?_
    refine g_iconst dX6_go_14 (by decide) ?_
    refine g_isub dX6_go_15 ?_
    refine g_callV2 dX6_go_16 kX6_leads q1603 q1605 qs76 (ci := 6) rfl (by decide) rfl (by omega) (by decide) (sk_65 hs.S) (Nat.le_of_ble_eq_true rfl) (Nat.le_refl _) (Nat.le_refl _) (t_pI hs (pX6_leadsF (by omega) hs (tWs_T rfl) c1) ?_)
    refine g_goto (tgt := 23) dX6_go_19 (by decide) ?_
    exact g_iret dX6_go_23 rfl (Nat.le_refl _) (Nat.le_refl _) ⟨_, rfl, hs, h⟩
theorem uX6_goesBy_0 {d : Nat} {μ0 μ : tm_M} {K : Int → tm_M → Prop} {v1 v2 : Int} (hd : 1 ≤ d) (hs : tFr wX6_goesBy μ0 μ)
    (h : (0 ≤ v2 ∧ v2 < 12) ∧ ((tm_v μ0 80 v2 = 0 → (0 ≤ v2 ∧ v2 < 12) ∧ (K (y_over μ0 v2 v1) μ)) ∧ (tm_v μ0 80 v2 ≠ 0 → K v1 μ))) :
    hI wX6_goesBy μ0 mX6_goesBy d K 0 [(0, 2, 65), (1, 0, v1), (2, 0, v2)] [] μ := by
  refine g_aload_n (q := 0) dX6_goesBy_0 rfl rfl ?_
  refine g_getC (x := 80) 2 dX6_goesBy_1 fX6_68 rfl (by decide) (sk_65 hs.S) (sv_65_41 hs.S) ?_
  refine g_iload_n (q := 2) dX6_goesBy_4 rfl rfl ?_
  obtain ⟨c1, h⟩ := h
  refine g_zaloadC (x := tm_v μ0 80 v2) dX6_goesBy_5 (by decide) (sk_80 hs.S) c1.1 (t_lt (sn_80 hs.S) c1.2) (hs.v (tWs_no _ rfl)) ?_
  refine g_if_eq (tgt := 13) dX6_goesBy_6 (by decide) (fun c2 => ?_) (fun c3 => ?_)
  · have h := h.1 c2
    refine g_aload_n (q := 0) dX6_goesBy_13 rfl rfl ?_
    refine g_iload_n (q := 2) dX6_goesBy_14 rfl rfl ?_
    refine g_iload_n (q := 1) dX6_goesBy_15 rfl rfl ?_
    obtain ⟨c4, h⟩ := h
    refine g_callV2 dX6_goesBy_16 kX6_over q1607 q1609 qs77 (ci := 6) rfl (by decide) rfl (by omega) (by decide) (sk_65 hs.S) (Nat.le_of_ble_eq_true rfl) (Nat.le_refl _) (Nat.le_refl _) (t_pI hs (pX6_overF hs (tWs_T rfl) c4) ?_)
    exact g_iret dX6_goesBy_19 rfl (Nat.le_refl _) (Nat.le_refl _) ⟨_, rfl, hs, h⟩
  · have h := h.2 c3
    refine g_iload_n (q := 1) dX6_goesBy_9 rfl rfl ?_
    refine g_goto (tgt := 19) dX6_goesBy_10 (by decide) ?_
    exact g_iret dX6_goesBy_19 rfl (Nat.le_refl _) (Nat.le_refl _) ⟨_, rfl, hs, h⟩
theorem uX6_nearer_0 {d : Nat} {μ0 μ : tm_M} {K : Int → tm_M → Prop} {v1 : Int} (hs : tFr wX6_nearer μ0 μ)
    (h : hI wX6_nearer μ0 mX6_nearer d K 2 [(0, 2, 65), (1, 0, v1), (2, 0, 0)] [] μ) :
    hI wX6_nearer μ0 mX6_nearer d K 0 [(0, 2, 65), (1, 0, v1)] [] μ := by
  refine g_iconst dX6_nearer_0 (by decide) ?_
  refine g_istore_n (L' := [(0, 2, 65), (1, 0, v1), (2, 0, 0)]) dX6_nearer_1 rfl (by decide) [1, 2, 0] rfl ?_
  exact h
theorem uX6_nearer_2 {d : Nat} {μ0 μ : tm_M} {K : Int → tm_M → Prop} {v1 v2 : Int} (hd : 2 ≤ d) (hs : tFr wX6_nearer μ0 μ)
    (h : (0 ≤ v1 ∧ v1 < 8) ∧ ((tm_v μ0 72 v1 ≤ v2 → K v1 μ) ∧ (v2 < tm_v μ0 72 v1 → (y_p μ0 v1) ∧ ((¬ (0 ≤ v2 ∧ v2 < tm_v μ0 72 v1 ∧ tm_v μ0 80 (tm_v μ0 74 (4 * v1 + v2)) = 0) → hI wX6_nearer μ0 mX6_nearer d K 2 [(0, 2, 65), (1, 0, v1), (2, 0, w32 (v2 + 1))] [] μ) ∧ (0 ≤ v2 ∧ v2 < tm_v μ0 72 v1 ∧ tm_v μ0 80 (tm_v μ0 74 (4 * v1 + v2)) = 0 → (0 ≤ y_leads μ0 v1 v2 ∧ y_leads μ0 v1 v2 < 8) ∧ ((tm_v μ0 89 v1 ≤ tm_v μ0 89 (y_leads μ0 v1 v2) → hI wX6_nearer μ0 mX6_nearer d K 2 [(0, 2, 65), (1, 0, v1), (2, 0, w32 (v2 + 1))] [] μ) ∧ (tm_v μ0 89 (y_leads μ0 v1 v2) < tm_v μ0 89 v1 → K (y_leads μ0 v1 v2) μ))))))) :
    hI wX6_nearer μ0 mX6_nearer d K 2 [(0, 2, 65), (1, 0, v1), (2, 0, v2)] [] μ := by
  refine g_iload_n (q := 2) dX6_nearer_2 rfl rfl ?_
  refine g_aload_n (q := 0) dX6_nearer_3 rfl rfl ?_
  refine g_getC (x := 72) 2 dX6_nearer_4 fX6_44 rfl (by decide) (sk_65 hs.S) (sv_65_33 hs.S) ?_
  refine g_iload_n (q := 1) dX6_nearer_7 rfl rfl ?_
  obtain ⟨c1, h⟩ := h
  refine g_ialoadC (x := tm_v μ0 72 v1) dX6_nearer_8 (by decide) (sk_72 hs.S) c1.1 (t_lt (sn_72 hs.S) c1.2) (hs.v (tWs_no _ rfl)) ?_
  refine g_icmp_ge (tgt := 54) dX6_nearer_9 (by decide) (fun c2 => ?_) (fun c3 => ?_)
  · have h := h.1 c2
    refine g_iload_n (q := 1) dX6_nearer_54 rfl rfl ?_
    exact g_iret dX6_nearer_55 rfl (Nat.le_refl _) (Nat.le_refl _) ⟨_, rfl, hs, h⟩
  · have h := h.2 c3
    refine g_aload_n (q := 0) dX6_nearer_12 rfl rfl ?_
    refine g_iload_n (q := 1) dX6_nearer_13 rfl rfl ?_
    refine g_iload_n (q := 2) dX6_nearer_14 rfl rfl ?_
    obtain ⟨c4, h⟩ := h
    refine g_callV2 dX6_nearer_15 kX6_isOpen q1667 q1669 qs85 (ci := 6) rfl (by decide) rfl (by omega) (by decide) (sk_65 hs.S) (Nat.le_of_ble_eq_true rfl) (Nat.le_refl _) (Nat.le_refl _) (t_pI hs (pX6_isOpenF hs (tWs_T rfl) c4) ?_)
    refine g_if_eq (tgt := 48) dX6_nearer_18 (by decide) (fun c8 => ?_) (fun c9 => ?_)
    · have h := h.1 (b2i_0.mp c8)
      refine g_iinc (q := 2) dX6_nearer_48 (by decide) rfl [1, 2, 0] rfl ?_
      refine g_goto (tgt := 2) dX6_nearer_51 (by decide) ?_
      exact h
    · have h := h.2 (b2i_1.mp c9)
      refine g_aload_n (q := 0) dX6_nearer_21 rfl rfl ?_
      refine g_getC (x := 89) 2 dX6_nearer_22 fX6_96 rfl (by decide) (sk_65 hs.S) (sv_65_51 hs.S) ?_
      refine g_aload_n (q := 0) dX6_nearer_25 rfl rfl ?_
      refine g_iload_n (q := 1) dX6_nearer_26 rfl rfl ?_
      refine g_iload_n (q := 2) dX6_nearer_27 rfl rfl ?_
      refine g_callV2 dX6_nearer_28 kX6_leads q1603 q1605 qs76 (ci := 6) rfl (by decide) rfl (by omega) (by decide) (sk_65 hs.S) (Nat.le_of_ble_eq_true rfl) (Nat.le_refl _) (Nat.le_refl _) (t_pI hs (pX6_leadsF (by omega) hs (tWs_T rfl) c4) ?_)
      obtain ⟨c13, h⟩ := h
      refine g_ialoadC (x := tm_v μ0 89 (y_leads μ0 v1 v2)) dX6_nearer_31 (by decide) (sk_89 hs.S) c13.1 (t_lt (sn_89 hs.S) c13.2) (hs.v (tWs_no _ rfl)) ?_
      refine g_aload_n (q := 0) dX6_nearer_32 rfl rfl ?_
      refine g_getC (x := 89) 2 dX6_nearer_33 fX6_96 rfl (by decide) (sk_65 hs.S) (sv_65_51 hs.S) ?_
      refine g_iload_n (q := 1) dX6_nearer_36 rfl rfl ?_
      refine g_ialoadC (x := tm_v μ0 89 v1) dX6_nearer_37 (by decide) (sk_89 hs.S) c1.1 (t_lt (sn_89 hs.S) c1.2) (hs.v (tWs_no _ rfl)) ?_
      refine g_icmp_ge (tgt := 48) dX6_nearer_38 (by decide) (fun c14 => ?_) (fun c15 => ?_)
      · have h := h.1 c14
        refine g_iinc (q := 2) dX6_nearer_48 (by decide) rfl [1, 2, 0] rfl ?_
        refine g_goto (tgt := 2) dX6_nearer_51 (by decide) ?_
        exact h
      · have h := h.2 c15
        refine g_aload_n (q := 0) dX6_nearer_41 rfl rfl ?_
        refine g_iload_n (q := 1) dX6_nearer_42 rfl rfl ?_
        refine g_iload_n (q := 2) dX6_nearer_43 rfl rfl ?_
        refine g_callV2 dX6_nearer_44 kX6_leads q1603 q1605 qs76 (ci := 6) rfl (by decide) rfl (by omega) (by decide) (sk_65 hs.S) (Nat.le_of_ble_eq_true rfl) (Nat.le_refl _) (Nat.le_refl _) (t_pI hs (pX6_leadsF (by omega) hs (tWs_T rfl) c4) ?_)
        exact g_iret dX6_nearer_47 rfl (Nat.le_refl _) (Nat.le_refl _) ⟨_, rfl, hs, h⟩
theorem uX6_isName_0 {d : Nat} {μ0 μ : tm_M} {K : Int → tm_M → Prop} (hd : 3 ≤ d) (hs : tFr wX6_isName μ0 μ)
    (h : (tm_v μ0 65 14 ≠ 1 → K 0 μ) ∧ (tm_v μ0 65 14 = 1 → (8 < tm_v μ0 65 18 → K 0 μ) ∧ (tm_v μ0 65 18 ≤ 8 → (0 ≤ y_feature μ → K 0 μ) ∧ (y_feature μ < 0 → (tm_v μ 65 14 = 1 ∧ tm_v μ 65 19 = 17171557 → K 0 μ) ∧ (¬ (tm_v μ 65 14 = 1 ∧ tm_v μ 65 19 = 17171557) → (tm_v μ 65 14 = 1 ∧ tm_v μ 65 19 = 394693 → K 0 μ) ∧ (¬ (tm_v μ 65 14 = 1 ∧ tm_v μ 65 19 = 394693) → (tm_v μ 65 14 = 1 ∧ tm_v μ 65 19 = 655 → K 0 μ) ∧ (¬ (tm_v μ 65 14 = 1 ∧ tm_v μ 65 19 = 655) → (tm_v μ 65 14 = 1 ∧ tm_v μ 65 19 = 3751539 → K 0 μ) ∧ (¬ (tm_v μ 65 14 = 1 ∧ tm_v μ 65 19 = 3751539) → (tm_v μ 65 14 = 1 ∧ tm_v μ 65 19 = 635383 → K 0 μ) ∧ (¬ (tm_v μ 65 14 = 1 ∧ tm_v μ 65 19 = 635383) → (tm_v μ 65 14 = 1 ∧ tm_v μ 65 19 = 8554067 → K 0 μ) ∧ (¬ (tm_v μ 65 14 = 1 ∧ tm_v μ 65 19 = 8554067) → K 1 μ)))))))))) :
    hI wX6_isName μ0 mX6_isName d K 0 [(0, 2, 65)] [] μ := by
  refine g_aload_n (q := 0) dX6_isName_0 rfl rfl ?_
  refine g_getC (x := tm_v μ0 65 14) 0 dX6_isName_1 fX6_193 rfl (by decide) (sk_65 hs.S) (hs.v (tWs_noF rfl)) ?_
  refine g_iconst dX6_isName_4 (by decide) ?_
  refine g_icmp_ne (tgt := 70) dX6_isName_5 (by decide) (fun c1 => ?_) (fun c2 => ?_)
  · have h := h.1 c1
    refine g_iconst dX6_isName_70 (by decide) ?_
    exact g_zret dX6_isName_71 rfl (by decide) (Nat.le_refl _) (Nat.le_refl _) ⟨_, rfl, hs, h⟩
  · have h := h.2 c2
    refine g_aload_n (q := 0) dX6_isName_8 rfl rfl ?_
    refine g_getC (x := tm_v μ0 65 18) 0 dX6_isName_9 fX6_206 rfl (by decide) (sk_65 hs.S) (hs.v (tWs_noF rfl)) ?_
    refine g_bipush dX6_isName_12 ⟨by decide, by decide, rfl⟩ ?_
    refine g_icmp_gt (tgt := 70) dX6_isName_14 (by decide) (fun c3 => ?_) (fun c4 => ?_)
    · have h := h.1 c3
      refine g_iconst dX6_isName_70 (by decide) ?_
      exact g_zret dX6_isName_71 rfl (by decide) (Nat.le_refl _) (Nat.le_refl _) ⟨_, rfl, hs, h⟩
    · have h := h.2 c4
      refine g_aload_n (q := 0) dX6_isName_17 rfl rfl ?_
      refine g_callV0 dX6_isName_18 kX6_feature q1523 q1525 qs60 (ci := 6) rfl (by decide) rfl (by omega) (by decide) (sk_65 hs.S) (Nat.le_of_ble_eq_true rfl) (Nat.le_refl _) (Nat.le_refl _) (t_pI hs (pX6_feature (by omega) hs.S) ?_)
      refine g_if_ge (tgt := 70) dX6_isName_21 (by decide) (fun c8 => ?_) (fun c9 => ?_)
      · have h := h.1 c8
        refine g_iconst dX6_isName_70 (by decide) ?_
        exact g_zret dX6_isName_71 rfl (by decide) (Nat.le_refl _) (Nat.le_refl _) ⟨_, rfl, hs, h⟩
      · have h := h.2 c9
        refine g_aload_n (q := 0) dX6_isName_24 rfl rfl ?_
        refine g_callV0 dX6_isName_25 kX6_isPlaceWord q1504 q1506 qs56 (ci := 6) rfl (by decide) rfl (by omega) (by decide) (sk_65 hs.S) (Nat.le_of_ble_eq_true rfl) (Nat.le_refl _) (Nat.le_refl _) (t_pI hs (pX6_isPlaceWord (by omega) hs.S) ?_)
        refine g_if_ne (tgt := 70) dX6_isName_28 (by decide) (fun c13 => ?_) (fun c14 => ?_)
        · have h := h.1 (b2i_1.mp c13)
          refine g_iconst dX6_isName_70 (by decide) ?_
          exact g_zret dX6_isName_71 rfl (by decide) (Nat.le_refl _) (Nat.le_refl _) ⟨_, rfl, hs, h⟩
        · have h := h.2 (b2i_0.mp c14)
          refine g_aload_n (q := 0) dX6_isName_31 rfl rfl ?_
          refine g_callV0 dX6_isName_32 kX6_isLane q1527 q1529 qs61 (ci := 6) rfl (by decide) rfl (by omega) (by decide) (sk_65 hs.S) (Nat.le_of_ble_eq_true rfl) (Nat.le_refl _) (Nat.le_refl _) (t_pI hs (pX6_isLane (by omega) hs.S) ?_)
          refine g_if_ne (tgt := 70) dX6_isName_35 (by decide) (fun c18 => ?_) (fun c19 => ?_)
          · have h := h.1 (b2i_1.mp c18)
            refine g_iconst dX6_isName_70 (by decide) ?_
            exact g_zret dX6_isName_71 rfl (by decide) (Nat.le_refl _) (Nat.le_refl _) ⟨_, rfl, hs, h⟩
          · have h := h.2 (b2i_0.mp c19)
            refine g_aload_n (q := 0) dX6_isName_38 rfl rfl ?_
            refine g_callV0 dX6_isName_39 kX6_isTo q1531 q1533 qs62 (ci := 6) rfl (by decide) rfl (by omega) (by decide) (sk_65 hs.S) (Nat.le_of_ble_eq_true rfl) (Nat.le_refl _) (Nat.le_refl _) (t_pI hs (pX6_isTo (by omega) hs.S) ?_)
            refine g_if_ne (tgt := 70) dX6_isName_42 (by decide) (fun c23 => ?_) (fun c24 => ?_)
            · have h := h.1 (b2i_1.mp c23)
              refine g_iconst dX6_isName_70 (by decide) ?_
              exact g_zret dX6_isName_71 rfl (by decide) (Nat.le_refl _) (Nat.le_refl _) ⟨_, rfl, hs, h⟩
            · have h := h.2 (b2i_0.mp c24)
              refine g_aload_n (q := 0) dX6_isName_45 rfl rfl ?_
              refine g_callV0 dX6_isName_46 kX6_isCross q1535 q1537 qs63 (ci := 6) rfl (by decide) rfl (by omega) (by decide) (sk_65 hs.S) (Nat.le_of_ble_eq_true rfl) (Nat.le_refl _) (Nat.le_refl _) (t_pI hs (pX6_isCross (by omega) hs.S) ?_)
              refine g_if_ne (tgt := 70) dX6_isName_49 (by decide) (fun c28 => ?_) (fun c29 => ?_)
              · have h := h.1 (b2i_1.mp c28)
                refine g_iconst dX6_isName_70 (by decide) ?_
                exact g_zret dX6_isName_71 rfl (by decide) (Nat.le_refl _) (Nat.le_refl _) ⟨_, rfl, hs, h⟩
              · have h := h.2 (b2i_0.mp c29)
                refine g_aload_n (q := 0) dX6_isName_52 rfl rfl ?_
                refine g_callV0 dX6_isName_53 kX6_isSlow q1539 q1541 qs64 (ci := 6) rfl (by decide) rfl (by omega) (by decide) (sk_65 hs.S) (Nat.le_of_ble_eq_true rfl) (Nat.le_refl _) (Nat.le_refl _) (t_pI hs (pX6_isSlow (by omega) hs.S) ?_)
                refine g_if_ne (tgt := 70) dX6_isName_56 (by decide) (fun c33 => ?_) (fun c34 => ?_)
                · have h := h.1 (b2i_1.mp c33)
                  refine g_iconst dX6_isName_70 (by decide) ?_
                  exact g_zret dX6_isName_71 rfl (by decide) (Nat.le_refl _) (Nat.le_refl _) ⟨_, rfl, hs, h⟩
                · have h := h.2 (b2i_0.mp c34)
                  refine g_aload_n (q := 0) dX6_isName_59 rfl rfl ?_
                  refine g_callV0 dX6_isName_60 kX6_isHears q1543 q1545 qs65 (ci := 6) rfl (by decide) rfl (by omega) (by decide) (sk_65 hs.S) (Nat.le_of_ble_eq_true rfl) (Nat.le_refl _) (Nat.le_refl _) (t_pI hs (pX6_isHears (by omega) hs.S) ?_)
                  refine g_if_ne (tgt := 70) dX6_isName_63 (by decide) (fun c38 => ?_) (fun c39 => ?_)
                  · have h := h.1 (b2i_1.mp c38)
                    refine g_iconst dX6_isName_70 (by decide) ?_
                    exact g_zret dX6_isName_71 rfl (by decide) (Nat.le_refl _) (Nat.le_refl _) ⟨_, rfl, hs, h⟩
                  · have h := h.2 (b2i_0.mp c39)
                    refine g_iconst dX6_isName_66 (by decide) ?_
                    refine g_goto (tgt := 71) dX6_isName_67 (by decide) ?_
                    exact g_zret dX6_isName_71 rfl (by decide) (Nat.le_refl _) (Nat.le_refl _) ⟨_, rfl, hs, h⟩
