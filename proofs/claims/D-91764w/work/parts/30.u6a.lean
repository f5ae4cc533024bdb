theorem uJ8_min_0 {d : Nat} {μ0 μ : tm_M} {K : Int → tm_M → Prop} {v0 v1 : Int} (hs : tFr wJ8_min μ0 μ)
    (h : (v1 < v0 → K v1 μ) ∧ (v0 ≤ v1 → K v0 μ)) :
    hI wJ8_min μ0 mJ8_min d K 0 [(0, 0, v0), (1, 0, v1)] [] μ := by
  refine g_iload_n (q := 0) dJ8_min_0 rfl rfl ?_
  refine g_iload_n (q := 1) dJ8_min_1 rfl rfl ?_
  refine g_icmp_gt (tgt := 9) dJ8_min_2 (by decide) (fun c1 => ?_) (fun c2 => ?_)
  · have h := h.1 c1
    refine g_iload_n (q := 1) dJ8_min_9 rfl rfl ?_
    exact g_iret dJ8_min_10 rfl (Nat.le_refl _) (Nat.le_refl _) ⟨_, rfl, hs, h⟩
  · have h := h.2 c2
    refine g_iload_n (q := 0) dJ8_min_5 rfl rfl ?_
    refine g_goto (tgt := 10) dJ8_min_6 (by decide) ?_
    exact g_iret dJ8_min_10 rfl (Nat.le_refl _) (Nat.le_refl _) ⟨_, rfl, hs, h⟩
theorem uJ8_max_0 {d : Nat} {μ0 μ : tm_M} {K : Int → tm_M → Prop} {v0 v1 : Int} (hs : tFr wJ8_max μ0 μ)
    (h : (v0 < v1 → K v1 μ) ∧ (v1 ≤ v0 → K v0 μ)) :
    hI wJ8_max μ0 mJ8_max d K 0 [(0, 0, v0), (1, 0, v1)] [] μ := by
  refine g_iload_n (q := 0) dJ8_max_0 rfl rfl ?_
  refine g_iload_n (q := 1) dJ8_max_1 rfl rfl ?_
  refine g_icmp_lt (tgt := 9) dJ8_max_2 (by decide) (fun c1 => ?_) (fun c2 => ?_)
  · have h := h.1 c1
    refine g_iload_n (q := 1) dJ8_max_9 rfl rfl ?_
    exact g_iret dJ8_max_10 rfl (Nat.le_refl _) (Nat.le_refl _) ⟨_, rfl, hs, h⟩
  · have h := h.2 c2
    refine g_iload_n (q := 0) dJ8_max_5 rfl rfl ?_
    refine g_goto (tgt := 10) dJ8_max_6 (by decide) ?_
    exact g_iret dJ8_max_10 rfl (Nat.le_refl _) (Nat.le_refl _) ⟨_, rfl, hs, h⟩
theorem uJ8_max_2_0 {d : Nat} {μ0 μ : tm_M} {K : Int → tm_M → Prop} {v0 v2 : Int} (hs : tFr wJ8_max_2 μ0 μ)
    (h : (v0 < v2 → K v2 μ) ∧ (v2 ≤ v0 → K v0 μ)) :
    hLo wJ8_max_2 μ0 mJ8_max_2 d K 0 [(0, 1, v0), (2, 1, v2)] [] μ := by
  refine g_lload_n (q := 0) dJ8_max_2_0 rfl rfl ?_
  refine g_lload_n (q := 1) dJ8_max_2_1 rfl rfl ?_
  refine g_lcmp_lt (tgt := 10) dJ8_max_2_2 dJ8_max_2_3 (by decide) (fun c1 => ?_) (fun c2 => ?_)
  · have h := h.1 c1
    refine g_lload_n (q := 1) dJ8_max_2_10 rfl rfl ?_
    exact g_lret dJ8_max_2_11 rfl (Nat.le_refl _) (Nat.le_refl _) ⟨_, rfl, hs, h⟩
  · have h := h.2 c2
    refine g_lload_n (q := 0) dJ8_max_2_6 rfl rfl ?_
    refine g_goto (tgt := 11) dJ8_max_2_7 (by decide) ?_
    exact g_lret dJ8_max_2_11 rfl (Nat.le_refl _) (Nat.le_refl _) ⟨_, rfl, hs, h⟩
theorem uJ8_abs_0 {d : Nat} {μ0 μ : tm_M} {K : Int → tm_M → Prop} {v0 : Int} (hs : tFr wJ8_abs μ0 μ)
    (h : (0 ≤ v0 → K v0 μ) ∧ (v0 < 0 → K (w64 (-v0)) μ)) :
    hLo wJ8_abs μ0 mJ8_abs d K 0 [(0, 1, v0)] [] μ := by
  refine g_lload_n (q := 0) dJ8_abs_0 rfl rfl ?_
  refine g_lconst0 dJ8_abs_1 ?_
  refine g_lcmp_ge (tgt := 11) dJ8_abs_2 dJ8_abs_3 (by decide) (fun c1 => ?_) (fun c2 => ?_)
  · have h := h.1 c1
    refine g_lload_n (q := 0) dJ8_abs_11 rfl rfl ?_
    exact g_lret dJ8_abs_12 rfl (Nat.le_refl _) (Nat.le_refl _) ⟨_, rfl, hs, h⟩
  · have h := h.2 c2
    refine g_lload_n (q := 0) dJ8_abs_6 rfl rfl ?_
    refine g_lneg dJ8_abs_7 ?_
    refine g_goto (tgt := 12) dJ8_abs_8 (by decide) ?_
    exact g_lret dJ8_abs_12 rfl (Nat.le_refl _) (Nat.le_refl _) ⟨_, rfl, hs, h⟩
theorem uX6_isIn_0 {d : Nat} {μ0 μ : tm_M} {K : Int → tm_M → Prop} {v0 v2 v4 : Int} (hs : tFr wX6_isIn μ0 μ)
    (h : (v0 < v2 → K 0 μ) ∧ (v2 ≤ v0 → (v4 < v0 → K 0 μ) ∧ (v0 ≤ v4 → K 1 μ))) :
    hI wX6_isIn μ0 mX6_isIn d K 0 [(0, 1, v0), (2, 1, v2), (4, 1, v4)] [] μ := by
  refine g_lload_n (q := 0) dX6_isIn_0 rfl rfl ?_
  refine g_lload_n (q := 1) dX6_isIn_1 rfl rfl ?_
  refine g_lcmp_lt (tgt := 17) dX6_isIn_2 dX6_isIn_3 (by decide) (fun c1 => ?_) (fun c2 => ?_)
  · have h := h.1 c1
    refine g_iconst dX6_isIn_17 (by decide) ?_
    exact g_zret dX6_isIn_18 rfl (by decide) (Nat.le_refl _) (Nat.le_refl _) ⟨_, rfl, hs, h⟩
  · have h := h.2 c2
    refine g_lload_n (q := 0) dX6_isIn_6 rfl rfl ?_
    refine g_lload (q := 2) dX6_isIn_7 rfl ?_
    refine g_lcmp_gt (tgt := 17) dX6_isIn_9 dX6_isIn_10 (by decide) (fun c3 => ?_) (fun c4 => ?_)
    · have h := h.1 c3
      refine g_iconst dX6_isIn_17 (by decide) ?_
      exact g_zret dX6_isIn_18 rfl (by decide) (Nat.le_refl _) (Nat.le_refl _) ⟨_, rfl, hs, h⟩
    · have h := h.2 c4
      refine g_iconst dX6_isIn_13 (by decide) ?_
      refine g_goto (tgt := 18) dX6_isIn_14 (by decide) ?_
      exact g_zret dX6_isIn_18 rfl (by decide) (Nat.le_refl _) (Nat.le_refl _) ⟨_, rfl, hs, h⟩
theorem uX6_cut_0 {d : Nat} {μ0 μ : tm_M} {K : Int → tm_M → Prop} {v0 v1 : Int} (hs : tFr wX6_cut μ0 μ)
    (h : (v0 ≠ 0 → (v0 ≠ 1 → (v0 ≠ 2 → K v1 μ) ∧ (v0 = 2 → K (w32 v1) μ)) ∧ (v0 = 1 → K (w16 (w32 v1)) μ)) ∧ (v0 = 0 → K (w8 (w32 v1)) μ)) :
    hLo wX6_cut μ0 mX6_cut d K 0 [(0, 0, v0), (1, 1, v1)] [] μ := by
  refine g_iload_n (q := 0) dX6_cut_0 rfl rfl ?_
  refine g_if_ne (tgt := 11) dX6_cut_1 (by decide) (fun c1 => ?_) (fun c2 => ?_)
  · have h := h.1 c1
    refine g_iload_n (q := 0) dX6_cut_11 rfl rfl ?_
    refine g_iconst dX6_cut_12 (by decide) ?_
    refine g_icmp_ne (tgt := 23) dX6_cut_13 (by decide) (fun c3 => ?_) (fun c4 => ?_)
    · have h := h.1 c3
      refine g_iload_n (q := 0) dX6_cut_23 rfl rfl ?_
      refine g_iconst dX6_cut_24 (by decide) ?_
      refine g_icmp_ne (tgt := 34) dX6_cut_25 (by decide) (fun c5 => ?_) (fun c6 => ?_)
      · have h := h.1 c5
        refine g_lload_n (q := 1) dX6_cut_34 rfl rfl ?_
        exact g_lret dX6_cut_35 rfl (Nat.le_refl _) (Nat.le_refl _) ⟨_, rfl, hs, h⟩
      · have h := h.2 c6
        refine g_lload_n (q := 1) dX6_cut_28 rfl rfl ?_
        refine g_l2i dX6_cut_29 ?_
        refine g_i2l dX6_cut_30 ?_
        refine g_goto (tgt := 35) dX6_cut_31 (by decide) ?_
        exact g_lret dX6_cut_35 rfl (Nat.le_refl _) (Nat.le_refl _) ⟨_, rfl, hs, h⟩
    · have h := h.2 c4
      refine g_lload_n (q := 1) dX6_cut_16 rfl rfl ?_
      refine g_l2i dX6_cut_17 ?_
      refine g_i2s dX6_cut_18 ?_
      refine g_i2l dX6_cut_19 ?_
      refine g_goto (tgt := 35) dX6_cut_20 (by decide) ?_
      exact g_lret dX6_cut_35 rfl (Nat.le_refl _) (Nat.le_refl _) ⟨_, rfl, hs, h⟩
  · have h := h.2 c2
    refine g_lload_n (q := 1) dX6_cut_4 rfl rfl ?_
    refine g_l2i dX6_cut_5 ?_
    refine g_i2b dX6_cut_6 ?_
    refine g_i2l dX6_cut_7 ?_
    refine g_goto (tgt := 35) dX6_cut_8 (by decide) ?_
    exact g_lret dX6_cut_35 rfl (Nat.le_refl _) (Nat.le_refl _) ⟨_, rfl, hs, h⟩
theorem uX6_trayed_0 {d : Nat} {μ0 μ : tm_M} {K : Int → tm_M → Prop} {v1 : Int} (hs : tFr wX6_trayed μ0 μ)
    (h : (v1 < 0 → K 1 μ) ∧ (0 ≤ v1 → (v1 < 4 → (0 ≤ v1 ∧ v1 < 4) ∧ ((0 ≤ tm_v μ0 67 v1 → K 0 μ) ∧ (tm_v μ0 67 v1 < 0 → K 3 μ))) ∧ (4 ≤ v1 → K 1 μ))) :
    hI wX6_trayed μ0 mX6_trayed d K 0 [(0, 2, 65), (1, 0, v1)] [] μ := by
  refine g_iload_n (q := 1) dX6_trayed_0 rfl rfl ?_
  refine g_if_lt (tgt := 9) dX6_trayed_1 (by decide) (fun c1 => ?_) (fun c2 => ?_)
  · have h := h.1 c1
    refine g_iconst dX6_trayed_9 (by decide) ?_
    refine g_goto (tgt := 27) dX6_trayed_10 (by decide) ?_
    exact g_iret dX6_trayed_27 rfl (Nat.le_refl _) (Nat.le_refl _) ⟨_, rfl, hs, h⟩
  · have h := h.2 c2
    refine g_iload_n (q := 1) dX6_trayed_4 rfl rfl ?_
    refine g_iconst dX6_trayed_5 (by decide) ?_
    refine g_icmp_lt (tgt := 13) dX6_trayed_6 (by decide) (fun c3 => ?_) (fun c4 => ?_)
    · have h := h.1 c3
      refine g_aload_n (q := 0) dX6_trayed_13 rfl rfl ?_
      refine g_getC (x := 67) 2 dX6_trayed_14 fX6_17 rfl (by decide) (sk_65 hs.S) (sv_65_5 hs.S) ?_
      refine g_iload_n (q := 1) dX6_trayed_17 rfl rfl ?_
      obtain ⟨c5, h⟩ := h
      refine g_ialoadC (x := tm_v μ0 67 v1) dX6_trayed_18 (by decide) (sk_67 hs.S) c5.1 (t_lt (sn_67 hs.S) c5.2) (hs.v (tWs_no _ rfl)) ?_
      refine g_if_ge (tgt := 26) dX6_trayed_19 (by decide) (fun c6 => ?_) (fun c7 => ?_)
      · have h := h.1 c6
        refine g_iconst dX6_trayed_26 (by decide) ?_
        exact g_iret dX6_trayed_27 rfl (Nat.le_refl _) (Nat.le_refl _) ⟨_, rfl, hs, h⟩
      · have h := h.2 c7
        refine g_iconst dX6_trayed_22 (by decide) ?_
        refine g_goto (tgt := 27) dX6_trayed_23 (by decide) ?_
        exact g_iret dX6_trayed_27 rfl (Nat.le_refl _) (Nat.le_refl _) ⟨_, rfl, hs, h⟩
    · have h := h.2 c4
      refine g_iconst dX6_trayed_9 (by decide) ?_
      refine g_goto (tgt := 27) dX6_trayed_10 (by decide) ?_
      exact g_iret dX6_trayed_27 rfl (Nat.le_refl _) (Nat.le_refl _) ⟨_, rfl, hs, h⟩
theorem uX6_numberOf_0 {d : Nat} {μ0 μ : tm_M} {K : Int → tm_M → Prop} {v1 v2 : Int} (hs : tFr wX6_numberOf μ0 μ)
    (h : (0 ≤ w32 ((w32 (64 * v1)) + v2) ∧ w32 ((w32 (64 * v1)) + v2) < 256) ∧ (K (tm_v μ0 68 (w32 ((w32 (64 * v1)) + v2))) μ)) :
    hLo wX6_numberOf μ0 mX6_numberOf d K 0 [(0, 2, 65), (1, 0, v1), (2, 0, v2)] [] μ := by
  refine g_aload_n (q := 0) dX6_numberOf_0 rfl rfl ?_
  refine g_getC (x := 68) 2 dX6_numberOf_1 fX6_20 rfl (by decide) (sk_65 hs.S) (sv_65_6 hs.S) ?_
  refine g_bipush dX6_numberOf_4 ⟨by decide, by decide, rfl⟩ ?_
  refine g_iload_n (q := 1) dX6_numberOf_6 rfl rfl ?_
  refine g_imul dX6_numberOf_7 ?_
  refine g_iload_n (q := 2) dX6_numberOf_8 rfl rfl ?_
  refine g_iadd dX6_numberOf_9 ?_
  obtain ⟨c1, h⟩ := h
  refine g_laloadC (x := tm_v μ0 68 (w32 ((w32 (64 * v1)) + v2))) dX6_numberOf_10 (by decide) (sk_68 hs.S) c1.1 (t_lt (sn_68 hs.S) c1.2) (hs.v (tWs_no _ rfl)) ?_
  exact g_lret dX6_numberOf_11 rfl (Nat.le_refl _) (Nat.le_refl _) ⟨_, rfl, hs, h⟩
theorem uX6_look_0 {d : Nat} {μ0 μ : tm_M} {K : Int → tm_M → Prop} {v1 : Int} (hs : tFr wX6_look μ0 μ)
    (h : (tm_v μ0 65 9 ≤ v1 → K 0 μ) ∧ (v1 < tm_v μ0 65 9 → (0 ≤ v1 ∧ v1 < 500) ∧ (K (i_and (tm_v μ0 69 v1) 255) μ))) :
    hI wX6_look μ0 mX6_look d K 0 [(0, 2, 65), (1, 0, v1)] [] μ := by
  refine g_iload_n (q := 1) dX6_look_0 rfl rfl ?_
  refine g_aload_n (q := 0) dX6_look_1 rfl rfl ?_
  refine g_getC (x := tm_v μ0 65 9) 0 dX6_look_2 fX6_181 rfl (by decide) (sk_65 hs.S) (hs.v (tWs_noF rfl)) ?_
  refine g_icmp_ge (tgt := 21) dX6_look_5 (by decide) (fun c1 => ?_) (fun c2 => ?_)
  · have h := h.1 c1
    refine g_iconst dX6_look_21 (by decide) ?_
    exact g_iret dX6_look_22 rfl (Nat.le_refl _) (Nat.le_refl _) ⟨_, rfl, hs, h⟩
  · have h := h.2 c2
    refine g_aload_n (q := 0) dX6_look_8 rfl rfl ?_
    refine g_getC (x := 69) 2 dX6_look_9 fX6_24 rfl (by decide) (sk_65 hs.S) (sv_65_7 hs.S) ?_
    refine g_iload_n (q := 1) dX6_look_12 rfl rfl ?_
    obtain ⟨c3, h⟩ := h
    refine g_baloadC (x := tm_v μ0 69 v1) dX6_look_13 (by decide) (sk_69 hs.S) c3.1 (t_lt (sn_69 hs.S) c3.2) (hs.v (tWs_no _ rfl)) ?_
    refine g_sipush dX6_look_14 ⟨by decide, by decide, rfl⟩ ?_
    refine g_iand dX6_look_17 ?_
    refine g_goto (tgt := 22) dX6_look_18 (by decide) ?_
    exact g_iret dX6_look_22 rfl (Nat.le_refl _) (Nat.le_refl _) ⟨_, rfl, hs, h⟩
theorem uX6_isLetter_0 {d : Nat} {μ0 μ : tm_M} {K : Int → tm_M → Prop} {v0 : Int} (hs : tFr wX6_isLetter μ0 μ)
    (h : (v0 < 97 → K 0 μ) ∧ (97 ≤ v0 → (122 < v0 → K 0 μ) ∧ (v0 ≤ 122 → K 1 μ))) :
    hI wX6_isLetter μ0 mX6_isLetter d K 0 [(0, 0, v0)] [] μ := by
  refine g_iload_n (q := 0) dX6_isLetter_0 rfl rfl ?_
  refine g_bipush dX6_isLetter_1 ⟨by decide, by decide, rfl⟩ ?_
  refine g_icmp_lt (tgt := 16) dX6_isLetter_3 (by decide) (fun c1 => ?_) (fun c2 => ?_)
  · have h := h.1 c1
    refine g_iconst dX6_isLetter_16 (by decide) ?_
    exact g_zret dX6_isLetter_17 rfl (by decide) (Nat.le_refl _) (Nat.le_refl _) ⟨_, rfl, hs, h⟩
  · have h := h.2 c2
    refine g_iload_n (q := 0) dX6_isLetter_6 rfl rfl ?_
    refine g_bipush dX6_isLetter_7 ⟨by decide, by decide, rfl⟩ ?_
    refine g_icmp_gt (tgt := 16) dX6_isLetter_9 (by decide) (fun c3 => ?_) (fun c4 => ?_)
    · have h := h.1 c3
      refine g_iconst dX6_isLetter_16 (by decide) ?_
      exact g_zret dX6_isLetter_17 rfl (by decide) (Nat.le_refl _) (Nat.le_refl _) ⟨_, rfl, hs, h⟩
    · have h := h.2 c4
      refine g_iconst dX6_isLetter_12 (by decide) ?_
      refine g_goto (tgt := 17) dX6_isLetter_13 (by decide) ?_
      exact g_zret dX6_isLetter_17 rfl (by decide) (Nat.le_refl _) (Nat.le_refl _) ⟨_, rfl, hs, h⟩
theorem uX6_isDigit_0 {d : Nat} {μ0 μ : tm_M} {K : Int → tm_M → Prop} {v0 : Int} (hs : tFr wX6_isDigit μ0 μ)
    (h : (v0 < 48 → K 0 μ) ∧ (48 ≤ v0 → (57 < v0 → K 0 μ) ∧ (v0 ≤ 57 → K 1 μ))) :
    hI wX6_isDigit μ0 mX6_isDigit d K 0 [(0, 0, v0)] [] μ := by
  refine g_iload_n (q := 0) dX6_isDigit_0 rfl rfl ?_
  refine g_bipush dX6_isDigit_1 ⟨by decide, by decide, rfl⟩ ?_
  refine g_icmp_lt (tgt := 16) dX6_isDigit_3 (by decide) (fun c1 => ?_) (fun c2 => ?_)
  · have h := h.1 c1
    refine g_iconst dX6_isDigit_16 (by decide) ?_
    exact g_zret dX6_isDigit_17 rfl (by decide) (Nat.le_refl _) (Nat.le_refl _) ⟨_, rfl, hs, h⟩
  · have h := h.2 c2
    refine g_iload_n (q := 0) dX6_isDigit_6 rfl rfl ?_
    refine g_bipush dX6_isDigit_7 ⟨by decide, by decide, rfl⟩ ?_
    refine g_icmp_gt (tgt := 16) dX6_isDigit_9 (by decide) (fun c3 => ?_) (fun c4 => ?_)
    · have h := h.1 c3
      refine g_iconst dX6_isDigit_16 (by decide) ?_
      exact g_zret dX6_isDigit_17 rfl (by decide) (Nat.le_refl _) (Nat.le_refl _) ⟨_, rfl, hs, h⟩
    · have h := h.2 c4
      refine g_iconst dX6_isDigit_12 (by decide) ?_
      refine g_goto (tgt := 17) dX6_isDigit_13 (by decide) ?_
      exact g_zret dX6_isDigit_17 rfl (by decide) (Nat.le_refl _) (Nat.le_refl _) ⟨_, rfl, hs, h⟩
theorem uX6_spelled_0 {d : Nat} {μ0 μ : tm_M} {K : Int → tm_M → Prop} {v0 v1 v2 v3 v4 v5 : Int} (hs : tFr wX6_spelled μ0 μ)
    (h : (∀ x1, x1 = w64 (v0 - 96) → (∀ x2, x2 = w64 ((w64 ((w64 (x1 * 32)) + v1)) - 96) → (v2 ≤ 0 → (v3 ≤ 0 → (v4 ≤ 0 → (v5 ≤ 0 → K x2 μ) ∧ (0 < v5 → K (w64 ((w64 ((w64 (x2 * 32)) + v5)) - 96)) μ)) ∧ (0 < v4 → (∀ x11, x11 = w64 ((w64 ((w64 (x2 * 32)) + v4)) - 96) → (v5 ≤ 0 → K x11 μ) ∧ (0 < v5 → K (w64 ((w64 ((w64 (x11 * 32)) + v5)) - 96)) μ)))) ∧ (0 < v3 → (∀ x14, x14 = w64 ((w64 ((w64 (x2 * 32)) + v3)) - 96) → (v4 ≤ 0 → (v5 ≤ 0 → K x14 μ) ∧ (0 < v5 → K (w64 ((w64 ((w64 (x14 * 32)) + v5)) - 96)) μ)) ∧ (0 < v4 → (∀ x19, x19 = w64 ((w64 ((w64 (x14 * 32)) + v4)) - 96) → (v5 ≤ 0 → K x19 μ) ∧ (0 < v5 → K (w64 ((w64 ((w64 (x19 * 32)) + v5)) - 96)) μ)))))) ∧ (0 < v2 → (∀ x22, x22 = w64 ((w64 ((w64 (x2 * 32)) + v2)) - 96) → (v3 ≤ 0 → (v4 ≤ 0 → (v5 ≤ 0 → K x22 μ) ∧ (0 < v5 → K (w64 ((w64 ((w64 (x22 * 32)) + v5)) - 96)) μ)) ∧ (0 < v4 → (∀ x29, x29 = w64 ((w64 ((w64 (x22 * 32)) + v4)) - 96) → (v5 ≤ 0 → K x29 μ) ∧ (0 < v5 → K (w64 ((w64 ((w64 (x29 * 32)) + v5)) - 96)) μ)))) ∧ (0 < v3 → (∀ x32, x32 = w64 ((w64 ((w64 (x22 * 32)) + v3)) - 96) → (v4 ≤ 0 → (v5 ≤ 0 → K x32 μ) ∧ (0 < v5 → K (w64 ((w64 ((w64 (x32 * 32)) + v5)) - 96)) μ)) ∧ (0 < v4 → (∀ x37, x37 = w64 ((w64 ((w64 (x32 * 32)) + v4)) - 96) → (v5 ≤ 0 → K x37 μ) ∧ (0 < v5 → K (w64 ((w64 ((w64 (x37 * 32)) + v5)) - 96)) μ)))))))))) :
    hLo wX6_spelled μ0 mX6_spelled d K 0 [(0, 0, v0), (1, 0, v1), (2, 0, v2), (3, 0, v3), (4, 0, v4), (5, 0, v5)] [] μ := by
  refine g_iload_n (q := 0) dX6_spelled_0 rfl rfl ?_
  refine g_i2l dX6_spelled_1 ?_
  refine g_ldc2 (v := 96) (by decide) q1500c dX6_spelled_2 ?_
  refine g_lsub dX6_spelled_5 ?_
  refine g_lstoreN (fun z => [(0, 0, v0), (1, 0, v1), (2, 0, v2), (3, 0, v3), (4, 0, v4), (5, 0, v5), (6, 1, z)]) dX6_spelled_6 (by decide) [1, 2, 3, 4, 5, 6, 0] (fun _ => rfl) (fun x1 ex1 => ?_)
  have h := h x1 ex1
  refine g_lload (q := 6) dX6_spelled_8 rfl ?_
  refine g_ldc2 (v := 32) (by decide) q1499c dX6_spelled_10 ?_
  refine g_lmul dX6_spelled_13 ?_
  refine g_iload_n (q := 1) dX6_spelled_14 rfl rfl ?_
  refine g_i2l dX6_spelled_15 ?_
  refine g_ladd dX6_spelled_16 ?_
  refine g_ldc2 (v := 96) (by decide) q1500c dX6_spelled_17 ?_
  refine g_lsub dX6_spelled_20 ?_
  refine g_lstoreN (fun z => [(0, 0, v0), (1, 0, v1), (2, 0, v2), (3, 0, v3), (4, 0, v4), (5, 0, v5), (6, 1, z)]) dX6_spelled_21 (by decide) [1, 2, 3, 4, 5, 6, 0] (fun _ => rfl) (fun x2 ex2 => ?_)
  have h := h x2 ex2
  refine g_iload_n (q := 2) dX6_spelled_23 rfl rfl ?_
  refine g_if_le (tgt := 43) dX6_spelled_24 (by decide) (fun c3 => ?_) (fun c4 => ?_)
  · have h := h.1 c3
    refine g_lload (q := 6) dX6_spelled_43 rfl ?_
    refine g_lstore (L' := [(0, 0, v0), (1, 0, v1), (2, 0, v2), (3, 0, v3), (4, 0, v4), (5, 0, v5), (6, 1, x2)]) dX6_spelled_45 (by decide) [1, 2, 3, 4, 5, 6, 0] rfl ?_
    refine g_iload_n (q := 3) dX6_spelled_47 rfl rfl ?_
    refine g_if_le (tgt := 67) dX6_spelled_48 (by decide) (fun c5 => ?_) (fun c6 => ?_)
    · have h := h.1 c5
      refine g_lload (q := 6) dX6_spelled_67 rfl ?_
      refine g_lstore (L' := [(0, 0, v0), (1, 0, v1), (2, 0, v2), (3, 0, v3), (4, 0, v4), (5, 0, v5), (6, 1, x2)]) dX6_spelled_69 (by decide) [1, 2, 3, 4, 5, 6, 0] rfl ?_
      refine g_iload (q := 4) dX6_spelled_71 rfl ?_
      refine g_if_le (tgt := 93) dX6_spelled_73 (by decide) (fun c7 => ?_) (fun c8 => ?_)
      · have h := h.1 c7
        refine g_lload (q := 6) dX6_spelled_93 rfl ?_
        refine g_lstore (L' := [(0, 0, v0), (1, 0, v1), (2, 0, v2), (3, 0, v3), (4, 0, v4), (5, 0, v5), (6, 1, x2)]) dX6_spelled_95 (by decide) [1, 2, 3, 4, 5, 6, 0] rfl ?_
        refine g_iload (q := 5) dX6_spelled_97 rfl ?_
        refine g_if_le (tgt := 119) dX6_spelled_99 (by decide) (fun c9 => ?_) (fun c10 => ?_)
        · have h := h.1 c9
          refine g_lload (q := 6) dX6_spelled_119 rfl ?_
          exact g_lret dX6_spelled_121 rfl (Nat.le_refl _) (Nat.le_refl _) ⟨_, rfl, hs, h⟩
        · have h := h.2 c10
          refine g_lload (q := 6) dX6_spelled_102 rfl ?_
          refine g_ldc2 (v := 32) (by decide) q1499c dX6_spelled_104 ?_
          refine g_lmul dX6_spelled_107 ?_
          refine g_iload (q := 5) dX6_spelled_108 rfl ?_
          refine g_i2l dX6_spelled_110 ?_
          refine g_ladd dX6_spelled_111 ?_
          refine g_ldc2 (v := 96) (by decide) q1500c dX6_spelled_112 ?_
          refine g_lsub dX6_spelled_115 ?_
          refine g_goto (tgt := 121) dX6_spelled_116 (by decide) ?_
          exact g_lret dX6_spelled_121 rfl (Nat.le_refl _) (Nat.le_refl _) ⟨_, rfl, hs, h⟩
      · have h := h.2 c8
        refine g_lload (q := 6) dX6_spelled_76 rfl ?_
        refine g_ldc2 (v := 32) (by decide) q1499c dX6_spelled_78 ?_
        refine g_lmul dX6_spelled_81 ?_
        refine g_iload (q := 4) dX6_spelled_82 rfl ?_
        refine g_i2l dX6_spelled_84 ?_
        refine g_ladd dX6_spelled_85 ?_
        refine g_ldc2 (v := 96) (by decide) q1500c dX6_spelled_86 ?_
        refine g_lsub dX6_spelled_89 ?_
        refine g_goto (tgt := 95) dX6_spelled_90 (by decide) ?_
        refine g_lstoreN (fun z => [(0, 0, v0), (1, 0, v1), (2, 0, v2), (3, 0, v3), (4, 0, v4), (5, 0, v5), (6, 1, z)]) dX6_spelled_95 (by decide) [1, 2, 3, 4, 5, 6, 0] (fun _ => rfl) (fun x11 ex11 => ?_)
        have h := h x11 ex11
        refine g_iload (q := 5) dX6_spelled_97 rfl ?_
        refine g_if_le (tgt := 119) dX6_spelled_99 (by decide) (fun c12 => ?_) (fun c13 => ?_)
        · have h := h.1 c12
          refine g_lload (q := 6) dX6_spelled_119 rfl ?_
          exact g_lret dX6_spelled_121 rfl (Nat.le_refl _) (Nat.le_refl _) ⟨_, rfl, hs, h⟩
        · have h := h.2 c13
          refine g_lload (q := 6) dX6_spelled_102 rfl ?_
          refine g_ldc2 (v := 32) (by decide) q1499c dX6_spelled_104 ?_
          refine g_lmul dX6_spelled_107 ?_
          refine g_iload (q := 5) dX6_spelled_108 rfl ?_
          refine g_i2l dX6_spelled_110 ?_
          refine g_ladd dX6_spelled_111 ?_
          refine g_ldc2 (v := 96) (by decide) q1500c dX6_spelled_112 ?_
          refine g_lsub dX6_spelled_115 ?_
          refine g_goto (tgt := 121) dX6_spelled_116 (by decide) ?_
          exact g_lret dX6_spelled_121 rfl (Nat.le_refl _) (Nat.le_refl _) ⟨_, rfl, hs, h⟩
    · have h := h.2 c6
      refine g_lload (q := 6) dX6_spelled_51 rfl ?_
      refine g_ldc2 (v := 32) (by decide) q1499c dX6_spelled_53 ?_
      refine g_lmul dX6_spelled_56 ?_
      refine g_iload_n (q := 3) dX6_spelled_57 rfl rfl ?_
      refine g_i2l dX6_spelled_58 ?_
      refine g_ladd dX6_spelled_59 ?_
      refine g_ldc2 (v := 96) (by decide) q1500c dX6_spelled_60 ?_
      refine g_lsub dX6_spelled_63 ?_
      refine g_goto (tgt := 69) dX6_spelled_64 (by decide) ?_
      refine g_lstoreN (fun z => [(0, 0, v0), (1, 0, v1), (2, 0, v2), (3, 0, v3), (4, 0, v4), (5, 0, v5), (6, 1, z)]) dX6_spelled_69 (by decide) [1, 2, 3, 4, 5, 6, 0] (fun _ => rfl) (fun x14 ex14 => ?_)
      have h := h x14 ex14
      refine g_iload (q := 4) dX6_spelled_71 rfl ?_
      refine g_if_le (tgt := 93) dX6_spelled_73 (by decide) (fun c15 => ?_) (fun c16 => ?_)
      · have h := h.1 c15
        refine g_lload (q := 6) dX6_spelled_93 rfl ?_
        refine g_lstore (L' := [(0, 0, v0), (1, 0, v1), (2, 0, v2), (3, 0, v3), (4, 0, v4), (5, 0, v5), (6, 1, x14)]) dX6_spelled_95 (by decide) [1, 2, 3, 4, 5, 6, 0] rfl ?_
        refine g_iload (q := 5) dX6_spelled_97 rfl ?_
        refine g_if_le (tgt := 119) dX6_spelled_99 (by decide) (fun c17 => ?_) (fun c18 => ?_)
        · have h := h.1 c17
          refine g_lload (q := 6) dX6_spelled_119 rfl ?_
          exact g_lret dX6_spelled_121 rfl (Nat.le_refl _) (Nat.le_refl _) ⟨_, rfl, hs, h⟩
        · have h := h.2 c18
          refine g_lload (q := 6) dX6_spelled_102 rfl ?_
          refine g_ldc2 (v := 32) (by decide) q1499c dX6_spelled_104 ?_
          refine g_lmul dX6_spelled_107 ?_
          refine g_iload (q := 5) dX6_spelled_108 rfl ?_
          refine g_i2l dX6_spelled_110 ?_
          refine g_ladd dX6_spelled_111 ?_
          refine g_ldc2 (v := 96) (by decide) q1500c dX6_spelled_112 ?_
          refine g_lsub dX6_spelled_115 ?_
          refine g_goto (tgt := 121) dX6_spelled_116 (by decide) ?_
          exact g_lret dX6_spelled_121 rfl (Nat.le_refl _) (Nat.le_refl _) ⟨_, rfl, hs, h⟩
      · have h := h.2 c16
        refine g_lload (q := 6) dX6_spelled_76 rfl ?_
        refine g_ldc2 (v := 32) (by decide) q1499c dX6_spelled_78 ?_
        refine g_lmul dX6_spelled_81 ?_
        refine g_iload (q := 4) dX6_spelled_82 rfl ?_
        refine g_i2l dX6_spelled_84 ?_
        refine g_ladd dX6_spelled_85 ?_
        refine g_ldc2 (v := 96) (by decide) q1500c dX6_spelled_86 ?_
        refine g_lsub dX6_spelled_89 ?_
        refine g_goto (tgt := 95) dX6_spelled_90 (by decide) ?_
        refine g_lstoreN (fun z => [(0, 0, v0), (1, 0, v1), (2, 0, v2), (3, 0, v3), (4, 0, v4), (5, 0, v5), (6, 1, z)]) dX6_spelled_95 (by decide) [1, 2, 3, 4, 5, 6, 0] (fun _ => rfl) (fun x19 ex19 => ?_)
        have h := h x19 ex19
        refine g_iload (q := 5) dX6_spelled_97 rfl ?_
        refine g_if_le (tgt := 119) dX6_spelled_99 (by decide) (fun c20 => ?_) (fun c21 => ?_)
        · have h := h.1 c20
          refine g_lload (q := 6) dX6_spelled_119 rfl ?_
          exact g_lret dX6_spelled_121 rfl (Nat.le_refl _) (Nat.le_refl _) ⟨_, rfl, hs, h⟩
        · have h := h.2 c21
          refine g_lload (q := 6) dX6_spelled_102 rfl ?_
          refine g_ldc2 (v := 32) (by decide) q1499c dX6_spelled_104 ?_
          refine g_lmul dX6_spelled_107 ?_
          refine g_iload (q := 5) dX6_spelled_108 rfl ?_
          refine g_i2l dX6_spelled_110 ?_
          refine g_ladd dX6_spelled_111 ?_
          refine g_ldc2 (v := 96) (by decide) q1500c dX6_spelled_112 ?_
          refine g_lsub dX6_spelled_115 ?_
          refine g_goto (tgt := 121) dX6_spelled_116 (by decide) ?_
          exact g_lret dX6_spelled_121 rfl (Nat.le_refl _) (Nat.le_refl _) ⟨_, rfl, hs, h⟩
  · have h := h.2 c4
    refine g_lload (q := 6) dX6_spelled_27 rfl ?_
    refine g_ldc2 (v := 32) (by decide) q1499c dX6_spelled_29 ?_
    refine g_lmul dX6_spelled_32 ?_
    refine g_iload_n (q := 2) dX6_spelled_33 rfl rfl ?_
    refine g_i2l dX6_spelled_34 ?_
    refine g_ladd dX6_spelled_35 ?_
    refine g_ldc2 (v := 96) (by decide) q1500c dX6_spelled_36 ?_
    refine g_lsub dX6_spelled_39 ?_
    refine g_goto (tgt := 45) dX6_spelled_40 (by decide) ?_
    refine g_lstoreN (fun z => [(0, 0, v0), (1, 0, v1), (2, 0, v2), (3, 0, v3), (4, 0, v4), (5, 0, v5), (6, 1, z)]) dX6_spelled_45 (by decide) [1, 2, 3, 4, 5, 6, 0] (fun _ => rfl) (fun x22 ex22 => ?_)
    have h := h x22 ex22
    refine g_iload_n (q := 3) dX6_spelled_47 rfl rfl ?_
    refine g_if_le (tgt := 67) dX6_spelled_48 (by decide) (fun c23 => ?_) (fun c24 => ?_)
    · have h := h.1 c23
      refine g_lload (q := 6) dX6_spelled_67 rfl ?_
      refine g_lstore (L' := [(0, 0, v0), (1, 0, v1), (2, 0, v2), (3, 0, v3), (4, 0, v4), (5, 0, v5), (6, 1, x22)]) dX6_spelled_69 (by decide) [1, 2, 3, 4, 5, 6, 0] rfl ?_
      refine g_iload (q := 4) dX6_spelled_71 rfl ?_
      refine g_if_le (tgt := 93) dX6_spelled_73 (by decide) (fun c25 => ?_) (fun c26 => ?_)
      · have h := h.1 c25
        refine g_lload (q := 6) dX6_spelled_93 rfl ?_
        refine g_lstore (L' := [(0, 0, v0), (1, 0, v1), (2, 0, v2), (3, 0, v3), (4, 0, v4), (5, 0, v5), (6, 1, x22)]) dX6_spelled_95 (by decide) [1, 2, 3, 4, 5, 6, 0] rfl ?_
        refine g_iload (q := 5) dX6_spelled_97 rfl ?_
        refine g_if_le (tgt := 119) dX6_spelled_99 (by decide) (fun c27 => ?_) (fun c28 => ?_)
        · have h := h.1 c27
          refine g_lload (q := 6) dX6_spelled_119 rfl ?_
          exact g_lret dX6_spelled_121 rfl (Nat.le_refl _) (Nat.le_refl _) ⟨_, rfl, hs, h⟩
        · have h := h.2 c28
          refine g_lload (q := 6) dX6_spelled_102 rfl ?_
          refine g_ldc2 (v := 32) (by decide) q1499c dX6_spelled_104 ?_
          refine g_lmul dX6_spelled_107 ?_
          refine g_iload (q := 5) dX6_spelled_108 rfl ?_
          refine g_i2l dX6_spelled_110 ?_
          refine g_ladd dX6_spelled_111 ?_
          refine g_ldc2 (v := 96) (by decide) q1500c dX6_spelled_112 ?_
          refine g_lsub dX6_spelled_115 ?_
          refine g_goto (tgt := 121) dX6_spelled_116 (by decide) ?_
          exact g_lret dX6_spelled_121 rfl (Nat.le_refl _) (Nat.le_refl _) ⟨_, rfl, hs, h⟩
      · have h := h.2 c26
        refine g_lload (q := 6) dX6_spelled_76 rfl ?_
        refine g_ldc2 (v := 32) (by decide) q1499c dX6_spelled_78 ?_
        refine g_lmul dX6_spelled_81 ?_
        refine g_iload (q := 4) dX6_spelled_82 rfl ?_
        refine g_i2l dX6_spelled_84 ?_
        refine g_ladd dX6_spelled_85 ?_
        refine g_ldc2 (v := 96) (by decide) q1500c dX6_spelled_86 ?_
        refine g_lsub dX6_spelled_89 ?_
        refine g_goto (tgt := 95) dX6_spelled_90 (by decide) ?_
        refine g_lstoreN (fun z => [(0, 0, v0), (1, 0, v1), (2, 0, v2), (3, 0, v3), (4, 0, v4), (5, 0, v5), (6, 1, z)]) dX6_spelled_95 (by decide) [1, 2, 3, 4, 5, 6, 0] (fun _ => rfl) (fun x29 ex29 => ?_)
        have h := h x29 ex29
        refine g_iload (q := 5) dX6_spelled_97 rfl ?_
        refine g_if_le (tgt := 119) dX6_spelled_99 (by decide) (fun c30 => ?_) (fun c31 => ?_)
        · have h := h.1 c30
          refine g_lload (q := 6) dX6_spelled_119 rfl ?_
          exact g_lret dX6_spelled_121 rfl (Nat.le_refl _) (Nat.le_refl _) ⟨_, rfl, hs, h⟩
        · have h := h.2 c31
          refine g_lload (q := 6) dX6_spelled_102 rfl ?_
          refine g_ldc2 (v := 32) (by decide) q1499c dX6_spelled_104 ?_
          refine g_lmul dX6_spelled_107 ?_
          refine g_iload (q := 5) dX6_spelled_108 rfl ?_
          refine g_i2l dX6_spelled_110 ?_
          refine g_ladd dX6_spelled_111 ?_
          refine g_ldc2 (v := 96) (by decide) q1500c dX6_spelled_112 ?_
          refine g_lsub dX6_spelled_115 ?_
          refine g_goto (tgt := 121) dX6_spelled_116 (by decide) ?_
          exact g_lret dX6_spelled_121 rfl (Nat.le_refl _) (Nat.le_refl _) ⟨_, rfl, hs, h⟩
    · have h := h.2 c24
      refine g_lload (q := 6) dX6_spelled_51 rfl ?_
      refine g_ldc2 (v := 32) (by decide) q1499c dX6_spelled_53 ?_
      refine g_lmul dX6_spelled_56 ?_
      refine g_iload_n (q := 3) dX6_spelled_57 rfl rfl ?_
      refine g_i2l dX6_spelled_58 ?_
      refine g_ladd dX6_spelled_59 ?_
      refine g_ldc2 (v := 96) (by decide) q1500c dX6_spelled_60 ?_
      refine g_lsub dX6_spelled_63 ?_
      refine g_goto (tgt := 69) dX6_spelled_64 (by decide) ?_
      refine g_lstoreN (fun z => [(0, 0, v0), (1, 0, v1), (2, 0, v2), (3, 0, v3), (4, 0, v4), (5, 0, v5), (6, 1, z)]) dX6_spelled_69 (by decide) [1, 2, 3, 4, 5, 6, 0] (fun _ => rfl) (fun x32 ex32 => ?_)
      have h := h x32 ex32
      refine g_iload (q := 4) dX6_spelled_71 rfl ?_
      refine g_if_le (tgt := 93) dX6_spelled_73 (by decide) (fun c33 => ?_) (fun c34 => ?_)
      · have h := h.1 c33
        refine g_lload (q := 6) dX6_spelled_93 rfl ?_
        refine g_lstore (L' := [(0, 0, v0), (1, 0, v1), (2, 0, v2), (3, 0, v3), (4, 0, v4), (5, 0, v5), (6, 1, x32)]) dX6_spelled_95 (by decide) [1, 2, 3, 4, 5, 6, 0] rfl ?_
        refine g_iload (q := 5) dX6_spelled_97 rfl ?_
        refine g_if_le (tgt := 119) dX6_spelled_99 (by decide) (fun c35 => ?_) (fun c36 => ?_)
        · have h := h.1 c35
          refine g_lload (q := 6) dX6_spelled_119 rfl ?_
          exact g_lret dX6_spelled_121 rfl (Nat.le_refl _) (Nat.le_refl _) ⟨_, rfl, hs, h⟩
        · have h := h.2 c36
          refine g_lload (q := 6) dX6_spelled_102 rfl ?_
          refine g_ldc2 (v := 32) (by decide) q1499c dX6_spelled_104 ?_
          refine g_lmul dX6_spelled_107 ?_
          refine g_iload (q := 5) dX6_spelled_108 rfl ?_
          refine g_i2l dX6_spelled_110 ?_
          refine g_ladd dX6_spelled_111 ?_
          refine g_ldc2 (v := 96) (by decide) q1500c dX6_spelled_112 ?_
          refine g_lsub dX6_spelled_115 ?_
          refine g_goto (tgt := 121) dX6_spelled_116 (by decide) ?_
          exact g_lret dX6_spelled_121 rfl (Nat.le_refl _) (Nat.le_refl _) ⟨_, rfl, hs, h⟩
      · have h := h.2 c34
        refine g_lload (q := 6) dX6_spelled_76 rfl ?_
        refine g_ldc2 (v := 32) (by decide) q1499c dX6_spelled_78 ?_
        refine g_lmul dX6_spelled_81 ?_
        refine g_iload (q := 4) dX6_spelled_82 rfl ?_
        refine g_i2l dX6_spelled_84 ?_
        refine g_ladd dX6_spelled_85 ?_
        refine g_ldc2 (v := 96) (by decide) q1500c dX6_spelled_86 ?_
        refine g_lsub dX6_spelled_89 ?_
        refine g_goto (tgt := 95) dX6_spelled_90 (by decide) ?_
        refine g_lstoreN (fun z => [(0, 0, v0), (1, 0, v1), (2, 0, v2), (3, 0, v3), (4, 0, v4), (5, 0, v5), (6, 1, z)]) dX6_spelled_95 (by decide) [1, 2, 3, 4, 5, 6, 0] (fun _ => rfl) (fun x37 ex37 => ?_)
        have h := h x37 ex37
        refine g_iload (q := 5) dX6_spelled_97 rfl ?_
        refine g_if_le (tgt := 119) dX6_spelled_99 (by decide) (fun c38 => ?_) (fun c39 => ?_)
        · have h := h.1 c38
          refine g_lload (q := 6) dX6_spelled_119 rfl ?_
          exact g_lret dX6_spelled_121 rfl (Nat.le_refl _) (Nat.le_refl _) ⟨_, rfl, hs, h⟩
        · have h := h.2 c39
          refine g_lload (q := 6) dX6_spelled_102 rfl ?_
          refine g_ldc2 (v := 32) (by decide) q1499c dX6_spelled_104 ?_
          refine g_lmul dX6_spelled_107 ?_
          refine g_iload (q := 5) dX6_spelled_108 rfl ?_
          refine g_i2l dX6_spelled_110 ?_
          refine g_ladd dX6_spelled_111 ?_
          refine g_ldc2 (v := 96) (by decide) q1500c dX6_spelled_112 ?_
          refine g_lsub dX6_spelled_115 ?_
          refine g_goto (tgt := 121) dX6_spelled_116 (by decide) ?_
          exact g_lret dX6_spelled_121 rfl (Nat.le_refl _) (Nat.le_refl _) ⟨_, rfl, hs, h⟩
theorem uX6_isWord_0 {d : Nat} {μ0 μ : tm_M} {K : Int → tm_M → Prop} {v1 : Int} (hs : tFr wX6_isWord μ0 μ)
    (h : (tm_v μ0 65 14 ≠ 1 → K 0 μ) ∧ (tm_v μ0 65 14 = 1 → (tm_v μ0 65 19 ≠ v1 → K 0 μ) ∧ (tm_v μ0 65 19 = v1 → K 1 μ))) :
    hI wX6_isWord μ0 mX6_isWord d K 0 [(0, 2, 65), (1, 1, v1)] [] μ := by
  refine g_aload_n (q := 0) dX6_isWord_0 rfl rfl ?_
  refine g_getC (x := tm_v μ0 65 14) 0 dX6_isWord_1 fX6_193 rfl (by decide) (sk_65 hs.S) (hs.v (tWs_noF rfl)) ?_
  refine g_iconst dX6_isWord_4 (by decide) ?_
  refine g_icmp_ne (tgt := 21) dX6_isWord_5 (by decide) (fun c1 => ?_) (fun c2 => ?_)
  · have h := h.1 c1
    refine g_iconst dX6_isWord_21 (by decide) ?_
    exact g_zret dX6_isWord_22 rfl (by decide) (Nat.le_refl _) (Nat.le_refl _) ⟨_, rfl, hs, h⟩
  · have h := h.2 c2
    refine g_aload_n (q := 0) dX6_isWord_8 rfl rfl ?_
    refine g_getC (x := tm_v μ0 65 19) 1 dX6_isWord_9 fX6_199 rfl (by decide) (sk_65 hs.S) (hs.v (tWs_noF rfl)) ?_
    refine g_lload_n (q := 1) dX6_isWord_12 rfl rfl ?_
    refine g_lcmp_ne (tgt := 21) dX6_isWord_13 dX6_isWord_14 (by decide) (fun c3 => ?_) (fun c4 => ?_)
    · have h := h.1 c3
      refine g_iconst dX6_isWord_21 (by decide) ?_
      exact g_zret dX6_isWord_22 rfl (by decide) (Nat.le_refl _) (Nat.le_refl _) ⟨_, rfl, hs, h⟩
    · have h := h.2 c4
      refine g_iconst dX6_isWord_17 (by decide) ?_
      refine g_goto (tgt := 22) dX6_isWord_18 (by decide) ?_
      exact g_zret dX6_isWord_22 rfl (by decide) (Nat.le_refl _) (Nat.le_refl _) ⟨_, rfl, hs, h⟩
theorem uX6_likely_0 {d : Nat} {μ0 μ : tm_M} {K : Int → tm_M → Prop} {v1 v2 : Int} (hs : tFr wX6_likely μ0 μ)
    (h : (0 ≤ w32 ((w32 (3 * v1)) + 1) ∧ w32 ((w32 (3 * v1)) + 1) < 24) ∧ ((0 ≤ w32 ((w32 (3 * v2)) + 2) ∧ w32 ((w32 (3 * v2)) + 2) < 24) ∧ (K (w64 ((tm_v μ0 70 (w32 ((w32 (3 * v1)) + 1))) * (tm_v μ0 70 (w32 ((w32 (3 * v2)) + 2))))) μ))) :
    hLo wX6_likely μ0 mX6_likely d K 0 [(0, 2, 65), (1, 0, v1), (2, 0, v2)] [] μ := by
  refine g_aload_n (q := 0) dX6_likely_0 rfl rfl ?_
  refine g_getC (x := 70) 2 dX6_likely_1 fX6_38 rfl (by decide) (sk_65 hs.S) (sv_65_31 hs.S) ?_
  refine g_iconst dX6_likely_4 (by decide) ?_
  refine g_iload_n (q := 1) dX6_likely_5 rfl rfl ?_
  refine g_imul dX6_likely_6 ?_
  refine g_iconst dX6_likely_7 (by decide) ?_
  refine g_iadd dX6_likely_8 ?_
  obtain ⟨c1, h⟩ := h
  refine g_ialoadC (x := tm_v μ0 70 (w32 ((w32 (3 * v1)) + 1))) dX6_likely_9 (by decide) (sk_70 hs.S) c1.1 (t_lt (sn_70 hs.S) c1.2) (hs.v (tWs_no _ rfl)) ?_
  refine g_i2l dX6_likely_10 ?_
  refine g_aload_n (q := 0) dX6_likely_11 rfl rfl ?_
  refine g_getC (x := 70) 2 dX6_likely_12 fX6_38 rfl (by decide) (sk_65 hs.S) (sv_65_31 hs.S) ?_
  refine g_iconst dX6_likely_15 (by decide) ?_
  refine g_iload_n (q := 2) dX6_likely_16 rfl rfl ?_
  refine g_imul dX6_likely_17 ?_
  refine g_iconst dX6_likely_18 (by decide) ?_
  refine g_iadd dX6_likely_19 ?_
  obtain ⟨c2, h⟩ := h
  refine g_ialoadC (x := tm_v μ0 70 (w32 ((w32 (3 * v2)) + 2))) dX6_likely_20 (by decide) (sk_70 hs.S) c2.1 (t_lt (sn_70 hs.S) c2.2) (hs.v (tWs_no _ rfl)) ?_
  refine g_i2l dX6_likely_21 ?_
  refine g_lmul dX6_likely_22 ?_
  exact g_lret dX6_likely_23 rfl (Nat.le_refl _) (Nat.le_refl _) ⟨_, rfl, hs, h⟩
theorem uX6_over_0 {d : Nat} {μ0 μ : tm_M} {K : Int → tm_M → Prop} {v1 v2 : Int} (hs : tFr wX6_over μ0 μ)
    (h : (0 ≤ v1 ∧ v1 < 12) ∧ ((tm_v μ0 76 v1 ≠ v2 → K (tm_v μ0 76 v1) μ) ∧ (tm_v μ0 76 v1 = v2 → K (tm_v μ0 77 v1) μ))) :
    hI wX6_over μ0 mX6_over d K 0 [(0, 2, 65), (1, 0, v1), (2, 0, v2)] [] μ := by
  refine g_aload_n (q := 0) dX6_over_0 rfl rfl ?_
  refine g_getC (x := 76) 2 dX6_over_1 fX6_56 rfl (by decide) (sk_65 hs.S) (sv_65_37 hs.S) ?_
  refine g_iload_n (q := 1) dX6_over_4 rfl rfl ?_
  obtain ⟨c1, h⟩ := h
  refine g_ialoadC (x := tm_v μ0 76 v1) dX6_over_5 (by decide) (sk_76 hs.S) c1.1 (t_lt (sn_76 hs.S) c1.2) (hs.v (tWs_no _ rfl)) ?_
  refine g_iload_n (q := 2) dX6_over_6 rfl rfl ?_
  refine g_icmp_ne (tgt := 19) dX6_over_7 (by decide) (fun c2 => ?_) (fun c3 => ?_)
  · have h := h.1 c2
    refine g_aload_n (q := 0) dX6_over_19 rfl rfl ?_
    refine g_getC (x := 76) 2 dX6_over_20 fX6_56 rfl (by decide) (sk_65 hs.S) (sv_65_37 hs.S) ?_
    refine g_iload_n (q := 1) dX6_over_23 rfl rfl ?_
    refine g_ialoadC (x := tm_v μ0 76 v1) dX6_over_24 (by decide) (sk_76 hs.S) c1.1 (t_lt (sn_76 hs.S) c1.2) (hs.v (tWs_no _ rfl)) ?_
    exact g_iret dX6_over_25 rfl (Nat.le_refl _) (Nat.le_refl _) ⟨_, rfl, hs, h⟩
  · have h := h.2 c3
    refine g_aload_n (q := 0) dX6_over_10 rfl rfl ?_
    refine g_getC (x := 77) 2 dX6_over_11 fX6_59 rfl (by decide) (sk_65 hs.S) (sv_65_38 hs.S) ?_
    refine g_iload_n (q := 1) dX6_over_14 rfl rfl ?_
    refine g_ialoadC (x := tm_v μ0 77 v1) dX6_over_15 (by decide) (sk_77 hs.S) c1.1 (t_lt (sn_77 hs.S) c1.2) (hs.v (tWs_no _ rfl)) ?_
    refine g_goto (tgt := 25) dX6_over_16 (by decide) ?_
    exact g_iret dX6_over_25 rfl (Nat.le_refl _) (Nat.le_refl _) ⟨_, rfl, hs, h⟩
theorem uX6_isOpen_0 {d : Nat} {μ0 μ : tm_M} {K : Int → tm_M → Prop} {v1 v2 : Int} (hs : tFr wX6_isOpen μ0 μ)
    (h : (v2 < 0 → K 0 μ) ∧ (0 ≤ v2 → (0 ≤ v1 ∧ v1 < 8) ∧ ((tm_v μ0 72 v1 ≤ v2 → K 0 μ) ∧ (v2 < tm_v μ0 72 v1 → (0 ≤ w32 ((w32 (4 * v1)) + v2) ∧ w32 ((w32 (4 * v1)) + v2) < 32) ∧ ((0 ≤ tm_v μ0 74 (w32 ((w32 (4 * v1)) + v2)) ∧ tm_v μ0 74 (w32 ((w32 (4 * v1)) + v2)) < 12) ∧ ((tm_v μ0 80 (tm_v μ0 74 (w32 ((w32 (4 * v1)) + v2))) ≠ 0 → K 0 μ) ∧ (tm_v μ0 80 (tm_v μ0 74 (w32 ((w32 (4 * v1)) + v2))) = 0 → K 1 μ))))))) :
    hI wX6_isOpen μ0 mX6_isOpen d K 0 [(0, 2, 65), (1, 0, v1), (2, 0, v2)] [] μ := by
  refine g_iload_n (q := 2) dX6_isOpen_0 rfl rfl ?_
  refine g_if_lt (tgt := 36) dX6_isOpen_1 (by decide) (fun c1 => ?_) (fun c2 => ?_)
  · have h := h.1 c1
    refine g_iconst dX6_isOpen_36 (by decide) ?_
    exact g_zret dX6_isOpen_37 rfl (by decide) (Nat.le_refl _) (Nat.le_refl _) ⟨_, rfl, hs, h⟩
  · have h := h.2 c2
    refine g_iload_n (q := 2) dX6_isOpen_4 rfl rfl ?_
    refine g_aload_n (q := 0) dX6_isOpen_5 rfl rfl ?_
    refine g_getC (x := 72) 2 dX6_isOpen_6 fX6_44 rfl (by decide) (sk_65 hs.S) (sv_65_33 hs.S) ?_
    refine g_iload_n (q := 1) dX6_isOpen_9 rfl rfl ?_
    obtain ⟨c3, h⟩ := h
    refine g_ialoadC (x := tm_v μ0 72 v1) dX6_isOpen_10 (by decide) (sk_72 hs.S) c3.1 (t_lt (sn_72 hs.S) c3.2) (hs.v (tWs_no _ rfl)) ?_
    refine g_icmp_ge (tgt := 36) dX6_isOpen_11 (by decide) (fun c4 => ?_) (fun c5 => ?_)
    · have h := h.1 c4
      refine g_iconst dX6_isOpen_36 (by decide) ?_
      exact g_zret dX6_isOpen_37 rfl (by decide) (Nat.le_refl _) (Nat.le_refl _) ⟨_, rfl, hs, h⟩
    · have h := h.2 c5
      refine g_aload_n (q := 0) dX6_isOpen_14 rfl rfl ?_
      refine g_getC (x := 80) 2 dX6_isOpen_15 fX6_68 rfl (by decide) (sk_65 hs.S) (sv_65_41 hs.S) ?_
      refine g_aload_n (q := 0) dX6_isOpen_18 rfl rfl ?_
      refine g_getC (x := 74) 2 dX6_isOpen_19 fX6_50 rfl (by decide) (sk_65 hs.S) (sv_65_35 hs.S) ?_
      refine g_iconst dX6_isOpen_22 (by decide) ?_
      refine g_iload_n (q := 1) dX6_isOpen_23 rfl rfl ?_
      refine g_imul dX6_isOpen_24 ?_
      refine g_iload_n (q := 2) dX6_isOpen_25 rfl rfl ?_
      refine g_iadd dX6_isOpen_26 ?_
      obtain ⟨c6, h⟩ := h
      refine g_ialoadC (x := tm_v μ0 74 (w32 ((w32 (4 * v1)) + v2))) dX6_isOpen_27 (by decide) (sk_74 hs.S) c6.1 (t_lt (sn_74 hs.S) c6.2) (hs.v (tWs_no _ rfl)) ?_
      obtain ⟨c7, h⟩ := h
      refine g_zaloadC (x := tm_v μ0 80 (tm_v μ0 74 (w32 ((w32 (4 * v1)) + v2)))) dX6_isOpen_28 (by decide) (sk_80 hs.S) c7.1 (t_lt (sn_80 hs.S) c7.2) (hs.v (tWs_no _ rfl)) ?_
      refine g_if_ne (tgt := 36) dX6_isOpen_29 (by decide) (fun c8 => ?_) (fun c9 => ?_)
      · have h := h.1 c8
        refine g_iconst dX6_isOpen_36 (by decide) ?_
        exact g_zret dX6_isOpen_37 rfl (by decide) (Nat.le_refl _) (Nat.le_refl _) ⟨_, rfl, hs, h⟩
      · have h := h.2 c9
        refine g_iconst dX6_isOpen_32 (by decide) ?_
        refine g_goto (tgt := 37) dX6_isOpen_33 (by decide) ?_
        exact g_zret dX6_isOpen_37 rfl (by decide) (Nat.le_refl _) (Nat.le_refl _) ⟨_, rfl, hs, h⟩
theorem uX6_meets_0 {d : Nat} {μ0 μ : tm_M} {K : Int → tm_M → Prop} {v1 v2 v3 v4 : Int} (hs : tFr wX6_meets μ0 μ)
    (h : (v1 = v2 → K 1 μ) ∧ (v1 ≠ v2 → (tm_v μ0 65 28 = 0 → K 0 μ) ∧ (tm_v μ0 65 28 ≠ 0 → (v1 ≠ v4 → K 0 μ) ∧ (v1 = v4 → (v2 ≠ v3 → K 0 μ) ∧ (v2 = v3 → K 1 μ))))) :
    hI wX6_meets μ0 mX6_meets d K 0 [(0, 2, 65), (1, 0, v1), (2, 0, v2), (3, 0, v3), (4, 0, v4)] [] μ := by
  refine g_iload_n (q := 1) dX6_meets_0 rfl rfl ?_
  refine g_iload_n (q := 2) dX6_meets_1 rfl rfl ?_
  refine g_icmp_eq (tgt := 23) dX6_meets_2 (by decide) (fun c1 => ?_) (fun c2 => ?_)
  · have h := h.1 c1
    refine g_iconst dX6_meets_23 (by decide) ?_
    refine g_goto (tgt := 28) dX6_meets_24 (by decide) ?_
    exact g_zret dX6_meets_28 rfl (by decide) (Nat.le_refl _) (Nat.le_refl _) ⟨_, rfl, hs, h⟩
  · have h := h.2 c2
    refine g_aload_n (q := 0) dX6_meets_5 rfl rfl ?_
    refine g_getC (x := tm_v μ0 65 28) 0 dX6_meets_6 fX6_332 rfl (by decide) (sk_65 hs.S) (hs.v (tWs_noF rfl)) ?_
    refine g_if_eq (tgt := 27) dX6_meets_9 (by decide) (fun c3 => ?_) (fun c4 => ?_)
    · have h := h.1 c3
      refine g_iconst dX6_meets_27 (by decide) ?_
      exact g_zret dX6_meets_28 rfl (by decide) (Nat.le_refl _) (Nat.le_refl _) ⟨_, rfl, hs, h⟩
    · have h := h.2 c4
      refine g_iload_n (q := 1) dX6_meets_12 rfl rfl ?_
      refine g_iload (q := 4) dX6_meets_13 rfl ?_
      refine g_icmp_ne (tgt := 27) dX6_meets_15 (by decide) (fun c5 => ?_) (fun c6 => ?_)
      · have h := h.1 c5
        refine g_iconst dX6_meets_27 (by decide) ?_
        exact g_zret dX6_meets_28 rfl (by decide) (Nat.le_refl _) (Nat.le_refl _) ⟨_, rfl, hs, h⟩
      · have h := h.2 c6
        refine g_iload_n (q := 2) dX6_meets_18 rfl rfl ?_
        refine g_iload_n (q := 3) dX6_meets_19 rfl rfl ?_
        refine g_icmp_ne (tgt := 27) dX6_meets_20 (by decide) (fun c7 => ?_) (fun c8 => ?_)
        · have h := h.1 c7
          refine g_iconst dX6_meets_27 (by decide) ?_
          exact g_zret dX6_meets_28 rfl (by decide) (Nat.le_refl _) (Nat.le_refl _) ⟨_, rfl, hs, h⟩
        · have h := h.2 c8
          refine g_iconst dX6_meets_23 (by decide) ?_
          refine g_goto (tgt := 28) dX6_meets_24 (by decide) ?_
          exact g_zret dX6_meets_28 rfl (by decide) (Nat.le_refl _) (Nat.le_refl _) ⟨_, rfl, hs, h⟩
theorem uX6_no_0 {d : Nat} {μ0 μ : tm_M} {K : Int → tm_M → Prop} {v1 : Int} (hs : tFr wX6_no μ0 μ)
    (h : (∀ μ1, μ1 = tm_w μ 65 0 v1 → K 0 μ1)) :
    hI wX6_no μ0 mX6_no d K 0 [(0, 2, 65), (1, 0, v1)] [] μ := by
  refine g_aload_n (q := 0) dX6_no_0 rfl rfl ?_
  refine g_iload_n (q := 1) dX6_no_1 rfl rfl ?_
  refine g_put dX6_no_2 fX6_147 rfl (by decide) (sk_65 hs.S) (fun e => absurd e (by decide)) (p_wj hs (by decide) (tWs_inF rfl) fun μ1 eμ1 hs => ?_)
  have h := h μ1 eμ1
  refine g_iconst dX6_no_5 (by decide) ?_
  exact g_zret dX6_no_6 rfl (by decide) (Nat.le_refl _) (Nat.le_refl _) ⟨_, rfl, hs, h⟩
theorem uX6_refuse_0 {d : Nat} {μ0 μ : tm_M} {K : Int → tm_M → Prop} {v1 : Int} (hs : tFr wX6_refuse μ0 μ)
    (h : (∀ μ1, μ1 = tm_w μ 65 0 v1 → K (-1) μ1)) :
    hI wX6_refuse μ0 mX6_refuse d K 0 [(0, 2, 65), (1, 0, v1)] [] μ := by
  refine g_aload_n (q := 0) dX6_refuse_0 rfl rfl ?_
  refine g_iload_n (q := 1) dX6_refuse_1 rfl rfl ?_
  refine g_put dX6_refuse_2 fX6_147 rfl (by decide) (sk_65 hs.S) (fun e => absurd e (by decide)) (p_wj hs (by decide) (tWs_inF rfl) fun μ1 eμ1 hs => ?_)
  have h := h μ1 eμ1
  refine g_iconst dX6_refuse_5 (by decide) ?_
  exact g_iret dX6_refuse_6 rfl (Nat.le_refl _) (Nat.le_refl _) ⟨_, rfl, hs, h⟩
theorem uX6_status_0 {d : Nat} {μ0 μ : tm_M} {K : Int → tm_M → Prop} (hs : tFr wX6_status μ0 μ)
    (h : (∀ μ1, μ1 = tm_w μ 65 1 0 → K (tm_v μ0 65 0) μ1)) :
    hI wX6_status μ0 mX6_status d K 0 [(0, 2, 65)] [] μ := by
  refine g_aload_n (q := 0) dX6_status_0 rfl rfl ?_
  refine g_iconst dX6_status_1 (by decide) ?_
  refine g_put dX6_status_2 fX6_144 rfl (by decide) (sk_65 hs.S) (fun e => absurd e (by decide)) (p_wj hs (by decide) (tWs_inF rfl) fun μ1 eμ1 hs => ?_)
  have h := h μ1 eμ1
  refine g_aload_n (q := 0) dX6_status_5 rfl rfl ?_
  refine g_getC (x := tm_v μ0 65 0) 0 dX6_status_6 fX6_147 rfl (by decide) (sk_65 hs.S) (hs.v (tWs_noF rfl)) ?_
  exact g_iret dX6_status_9 rfl (Nat.le_refl _) (Nat.le_refl _) ⟨_, rfl, hs, h⟩
theorem uX6_top_0 {d : Nat} {μ0 μ : tm_M} {K : Int → tm_M → Prop} (hs : tFr wX6_top μ0 μ)
    (h : (∀ μ1, μ1 = tm_w μ 65 1 0 → K (tm_v μ0 65 2) μ1)) :
    hLo wX6_top μ0 mX6_top d K 0 [(0, 2, 65)] [] μ := by
  refine g_aload_n (q := 0) dX6_top_0 rfl rfl ?_
  refine g_iconst dX6_top_1 (by decide) ?_
  refine g_put dX6_top_2 fX6_144 rfl (by decide) (sk_65 hs.S) (fun e => absurd e (by decide)) (p_wj hs (by decide) (tWs_inF rfl) fun μ1 eμ1 hs => ?_)
  have h := h μ1 eμ1
  refine g_aload_n (q := 0) dX6_top_5 rfl rfl ?_
  refine g_getC (x := tm_v μ0 65 2) 1 dX6_top_6 fX6_150 rfl (by decide) (sk_65 hs.S) (hs.v (tWs_noF rfl)) ?_
  exact g_lret dX6_top_9 rfl (Nat.le_refl _) (Nat.le_refl _) ⟨_, rfl, hs, h⟩
theorem uX6_bottom_0 {d : Nat} {μ0 μ : tm_M} {K : Int → tm_M → Prop} (hs : tFr wX6_bottom μ0 μ)
    (h : (∀ μ1, μ1 = tm_w μ 65 1 0 → K (tm_v μ0 65 3) μ1)) :
    hLo wX6_bottom μ0 mX6_bottom d K 0 [(0, 2, 65)] [] μ := by
  refine g_aload_n (q := 0) dX6_bottom_0 rfl rfl ?_
  refine g_iconst dX6_bottom_1 (by decide) ?_
  refine g_put dX6_bottom_2 fX6_144 rfl (by decide) (sk_65 hs.S) (fun e => absurd e (by decide)) (p_wj hs (by decide) (tWs_inF rfl) fun μ1 eμ1 hs => ?_)
  have h := h μ1 eμ1
  refine g_aload_n (q := 0) dX6_bottom_5 rfl rfl ?_
  refine g_getC (x := tm_v μ0 65 3) 1 dX6_bottom_6 fX6_7 rfl (by decide) (sk_65 hs.S) (hs.v (tWs_noF rfl)) ?_
  exact g_lret dX6_bottom_9 rfl (Nat.le_refl _) (Nat.le_refl _) ⟨_, rfl, hs, h⟩
theorem uX6_begin_0 {d : Nat} {μ0 μ : tm_M} {K : tm_M → Prop} {v1 v2 : Int} (hs : tFr wX6_begin μ0 μ)
    (h : (0 ≤ v1 ∧ v1 < 3) ∧ ((∀ μ2, μ2 = tm_w μ 85 v1 v2 → (∀ μ3, μ3 = tm_w μ2 86 v1 0 → (∀ μ4, μ4 = tm_w μ3 87 v1 0 → K μ4))))) :
    hV wX6_begin μ0 mX6_begin d K 0 [(0, 2, 65), (1, 0, v1), (2, 0, v2)] [] μ := by
  refine g_aload_n (q := 0) dX6_begin_0 rfl rfl ?_
  refine g_getC (x := 85) 2 dX6_begin_1 fX6_84 rfl (by decide) (sk_65 hs.S) (sv_65_47 hs.S) ?_
  refine g_iload_n (q := 1) dX6_begin_4 rfl rfl ?_
  refine g_iload_n (q := 2) dX6_begin_5 rfl rfl ?_
  obtain ⟨c1, h⟩ := h
  refine g_iastore dX6_begin_6 (by decide) (sk_85 hs.S) c1.1 (t_lt (sn_85 hs.S) c1.2) (p_w hs sf_85 (tWs_in _ rfl) fun μ2 eμ2 hs => ?_)
  have h := h μ2 eμ2
  refine g_aload_n (q := 0) dX6_begin_7 rfl rfl ?_
  refine g_getC (x := 86) 2 dX6_begin_8 fX6_87 rfl (by decide) (sk_65 hs.S) (sv_65_48 hs.S) ?_
  refine g_iload_n (q := 1) dX6_begin_11 rfl rfl ?_
  refine g_iconst dX6_begin_12 (by decide) ?_
  refine g_iastore dX6_begin_13 (by decide) (sk_86 hs.S) c1.1 (t_lt (sn_86 hs.S) c1.2) (p_w hs sf_86 (tWs_in _ rfl) fun μ3 eμ3 hs => ?_)
  have h := h μ3 eμ3
  refine g_aload_n (q := 0) dX6_begin_14 rfl rfl ?_
  refine g_getC (x := 87) 2 dX6_begin_15 fX6_90 rfl (by decide) (sk_65 hs.S) (sv_65_49 hs.S) ?_
  refine g_iload_n (q := 1) dX6_begin_18 rfl rfl ?_
  refine g_iconst dX6_begin_19 (by decide) ?_
  refine g_iastore dX6_begin_20 (by decide) (sk_87 hs.S) c1.1 (t_lt (sn_87 hs.S) c1.2) (p_w hs sf_87 (tWs_in _ rfl) fun μ4 eμ4 hs => ?_)
  have h := h μ4 eμ4
  exact g_vret dX6_begin_21 rfl (Nat.le_refl _) (Nat.le_refl _) ⟨rfl, hs, h⟩
theorem uX6_fail_0 {d : Nat} {μ0 μ : tm_M} {K : tm_M → Prop} {v1 v2 : Int} (hs : tFr wX6_fail μ0 μ)
    (h : (tm_v μ 65 12 ≤ 0 → (∀ μ3, μ3 = tm_w μ 65 12 v1 → (∀ μ4, μ4 = tm_w μ3 65 13 v2 → K μ4))) ∧ (0 < tm_v μ 65 12 → K μ)) :
    hV wX6_fail μ0 mX6_fail d K 0 [(0, 2, 65), (1, 0, v1), (2, 0, v2)] [] μ := by
  refine g_aload_n (q := 0) dX6_fail_0 rfl rfl ?_
  refine g_get 0 dX6_fail_1 fX6_246 rfl (by decide) (sk_65 hs.S) ?_
  refine g_if_le (tgt := 8) dX6_fail_4 (by decide) (fun c1 => ?_) (fun c2 => ?_)
  · have h := h.1 c1
    refine g_aload_n (q := 0) dX6_fail_8 rfl rfl ?_
    refine g_iload_n (q := 1) dX6_fail_9 rfl rfl ?_
    refine g_put dX6_fail_10 fX6_246 rfl (by decide) (sk_65 hs.S) (fun e => absurd e (by decide)) (p_wj hs (by decide) (tWs_inF rfl) fun μ3 eμ3 hs => ?_)
    have h := h μ3 eμ3
    refine g_aload_n (q := 0) dX6_fail_13 rfl rfl ?_
    refine g_iload_n (q := 2) dX6_fail_14 rfl rfl ?_
    refine g_put dX6_fail_15 fX6_249 rfl (by decide) (sk_65 hs.S) (fun e => absurd e (by decide)) (p_wj hs (by decide) (tWs_inF rfl) fun μ4 eμ4 hs => ?_)
    have h := h μ4 eμ4
    exact g_vret dX6_fail_18 rfl (Nat.le_refl _) (Nat.le_refl _) ⟨rfl, hs, h⟩
  · have h := h.2 c2
    exact g_vret dX6_fail_7 rfl (Nat.le_refl _) (Nat.le_refl _) ⟨rfl, hs, h⟩
theorem uX6_common_0 {d : Nat} {μ0 μ : tm_M} {K : Int → tm_M → Prop} {v0 v2 : Int} (hd : 1 ≤ d) (hs : tFr wX6_common μ0 μ)
    (h : cL wJ8_abs mJ8_abs (d - 1) [(1, v0)] μ (fun r2 μ1 => cL wJ8_abs mJ8_abs (d - 1) [(1, v2)] μ1 (fun r4 μ3 => hLo wX6_common μ0 mX6_common d K 12 [(4, 1, r2), (6, 1, r4)] [] μ3))) :
    hLo wX6_common μ0 mX6_common d K 0 [(0, 1, v0), (2, 1, v2)] [] μ := by
  refine g_lload_n (q := 0) dX6_common_0 rfl rfl ?_
  refine g_callS1 dX6_common_1 kJ8_abs q1715 q1160 rfl (by omega) (Nat.le_of_ble_eq_true rfl) (Nat.le_refl _) (Nat.le_refl _) (t_kL hs (tWs_sub rfl) h (fun r2 μ1 hs h => ?_))
  refine g_lstore (L' := [(0, 1, v0), (2, 1, v2), (4, 1, r2)]) dX6_common_4 (by decide) [1, 2, 0] rfl ?_
  refine g_lload_n (q := 1) dX6_common_6 rfl rfl ?_
  refine g_callS1 dX6_common_7 kJ8_abs q1715 q1160 rfl (by omega) (Nat.le_of_ble_eq_true rfl) (Nat.le_refl _) (Nat.le_refl _) (t_kL hs (tWs_sub rfl) h (fun r4 μ3 hs h => ?_))
  refine g_lstore (L' := [(0, 1, v0), (2, 1, v2), (4, 1, r2), (6, 1, r4)]) dX6_common_10 (by decide) [1, 2, 3, 0] rfl ?_
  exact g_less [2, 3] rfl h
theorem uX6_common_12 {d : Nat} {μ0 μ : tm_M} {K : Int → tm_M → Prop} {v4 v6 : Int} (hs : tFr wX6_common μ0 μ)
    (h : (v6 = 0 → K v4 μ) ∧ (v6 ≠ 0 → (v6 ≠ 0) ∧ ((∀ x4, x4 = v4.tmod v6 → hLo wX6_common μ0 mX6_common d K 12 [(4, 1, v6), (6, 1, x4)] [] μ)))) :
    hLo wX6_common μ0 mX6_common d K 12 [(4, 1, v4), (6, 1, v6)] [] μ := by
  refine g_lload (q := 1) dX6_common_12 rfl ?_
  refine g_lconst0 dX6_common_14 ?_
  refine g_lcmp_eq (tgt := 37) dX6_common_15 dX6_common_16 (by decide) (fun c1 => ?_) (fun c2 => ?_)
  · have h := h.1 c1
    refine g_lload (q := 0) dX6_common_37 rfl ?_
    exact g_lret dX6_common_39 rfl (Nat.le_refl _) (Nat.le_refl _) ⟨_, rfl, hs, h⟩
  · have h := h.2 c2
    refine g_lload (q := 0) dX6_common_19 rfl ?_
    refine g_lload (q := 1) dX6_common_21 rfl ?_
    obtain ⟨c3, h⟩ := h
    refine g_lrem dX6_common_23 c3 ?_
    refine g_lstoreN (fun z => [(4, 1, v4), (6, 1, v6), (8, 1, z)]) dX6_common_24 (by decide) [1, 2, 0] (fun _ => rfl) (fun x4 ex4 => ?_)
    have h := h x4 ex4
    refine g_lload (q := 1) dX6_common_26 rfl ?_
    refine g_lstore (L' := [(4, 1, v6), (6, 1, v6), (8, 1, x4)]) dX6_common_28 (by decide) [0, 1, 2] rfl ?_
    refine g_lload (q := 2) dX6_common_30 rfl ?_
    refine g_lstore (L' := [(4, 1, v6), (6, 1, x4), (8, 1, x4)]) dX6_common_32 (by decide) [1, 0, 2] rfl ?_
    refine g_goto (tgt := 12) dX6_common_34 (by decide) ?_
    exact g_less [0, 1] rfl h
