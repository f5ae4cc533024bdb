theorem uX6_must_0 {d : Nat} {μ0 μ : tm_M} {K : tm_M → Prop} {v1 : Int} (hd : 1 ≤ d) (hs : tFr wX6_must μ0 μ)
    (h : (tm_v μ 65 12 ≤ 0 → (v1 = 0 → cV wX6_wrong mX6_wrong (d - 1) [(2, 65)] μ (fun μ5 => K μ5)) ∧ (v1 ≠ 0 → cV wX6_next mX6_next (d - 1) [(2, 65)] μ (fun μ6 => K μ6))) ∧ (0 < tm_v μ 65 12 → K μ)) :
    hV wX6_must μ0 mX6_must d K 0 [(0, 2, 65), (1, 0, v1)] [] μ := by
  refine g_aload_n (q := 0) dX6_must_0 rfl rfl ?_
  refine g_get 0 dX6_must_1 fX6_246 rfl (by decide) (sk_65 hs.S) ?_
  refine g_if_le (tgt := 8) dX6_must_4 (by decide) (fun c1 => ?_) (fun c2 => ?_)
  · have h := h.1 c1
    refine g_iload_n (q := 1) dX6_must_8 rfl rfl ?_
    refine g_if_eq (tgt := 19) dX6_must_9 (by decide) (fun c3 => ?_) (fun c4 => ?_)
    · have h := h.1 c3
      refine g_aload_n (q := 0) dX6_must_19 rfl rfl ?_
      refine g_callV0 dX6_must_20 kX6_wrong q1547 q1549 qs66 (ci := 6) rfl (by decide) rfl (by omega) (by decide) (sk_65 hs.S) (Nat.le_of_ble_eq_true rfl) (Nat.le_refl _) (Nat.le_refl _) (t_kV hs (tWs_sub rfl) h (fun μ5 hs h => ?_))
      exact g_vret dX6_must_23 rfl (Nat.le_refl _) (Nat.le_refl _) ⟨rfl, hs, h⟩
    · have h := h.2 c4
      refine g_aload_n (q := 0) dX6_must_12 rfl rfl ?_
      refine g_callV0 dX6_must_13 kX6_next q1488 q1490 qs54 (ci := 6) rfl (by decide) rfl (by omega) (by decide) (sk_65 hs.S) (Nat.le_of_ble_eq_true rfl) (Nat.le_refl _) (Nat.le_refl _) (t_kV hs (tWs_sub rfl) h (fun μ6 hs h => ?_))
      refine g_goto (tgt := 23) dX6_must_16 (by decide) ?_
      exact g_vret dX6_must_23 rfl (Nat.le_refl _) (Nat.le_refl _) ⟨rfl, hs, h⟩
  · have h := h.2 c2
    exact g_vret dX6_must_7 rfl (Nat.le_refl _) (Nat.le_refl _) ⟨rfl, hs, h⟩
theorem uX6_next_0 {d : Nat} {μ0 μ : tm_M} {K : tm_M → Prop} (hs : tFr wX6_next μ0 μ)
    (h : (∀ μ1, μ1 = tm_w μ 65 15 (tm_v μ 65 16) → hV wX6_next μ0 mX6_next d K 8 [(0, 2, 65)] [] μ1)) :
    hV wX6_next μ0 mX6_next d K 0 [(0, 2, 65)] [] μ := by
  refine g_aload_n (q := 0) dX6_next_0 rfl rfl ?_
  refine g_aload_n (q := 0) dX6_next_1 rfl rfl ?_
  refine g_get 0 dX6_next_2 fX6_184 rfl (by decide) (sk_65 hs.S) ?_
  refine g_put dX6_next_5 fX6_187 rfl (by decide) (sk_65 hs.S) (fun e => absurd e (by decide)) (p_wj hs (by decide) (tWs_inF rfl) fun μ1 eμ1 hs => ?_)
  have h := h μ1 eμ1
  exact h
theorem uX6_next_8 {d : Nat} {μ0 μ : tm_M} {K : tm_M → Prop} (hd : 1 ≤ d) (hs : tFr wX6_next μ0 μ)
    (h : (tm_v μ0 65 9 ≤ tm_v μ 65 15 → hV wX6_next μ0 mX6_next d K 58 [(0, 2, 65)] [] μ) ∧ (tm_v μ 65 15 < tm_v μ0 65 9 → (0 ≤ (tm_v μ 65 15) ∧ tm_v μ 65 9 ≤ 500 ∧ -128 ≤ tm_v μ 69 (tm_v μ 65 15) ∧ tm_v μ 69 (tm_v μ 65 15) ≤ 127) ∧ ((y_look μ (tm_v μ 65 15) = 10 → hV wX6_next μ0 mX6_next d K 45 [(0, 2, 65)] [] μ) ∧ (y_look μ (tm_v μ 65 15) ≠ 10 → (y_look μ (tm_v μ 65 15) ≠ 32 → hV wX6_next μ0 mX6_next d K 58 [(0, 2, 65)] [] μ) ∧ (y_look μ (tm_v μ 65 15) = 32 → hV wX6_next μ0 mX6_next d K 45 [(0, 2, 65)] [] μ))))) :
    hV wX6_next μ0 mX6_next d K 8 [(0, 2, 65)] [] μ := by
  refine g_aload_n (q := 0) dX6_next_8 rfl rfl ?_
  refine g_get 0 dX6_next_9 fX6_187 rfl (by decide) (sk_65 hs.S) ?_
  refine g_aload_n (q := 0) dX6_next_12 rfl rfl ?_
  refine g_getC (x := tm_v μ0 65 9) 0 dX6_next_13 fX6_181 rfl (by decide) (sk_65 hs.S) (hs.v (tWs_noF rfl)) ?_
  refine g_icmp_ge (tgt := 58) dX6_next_16 (by decide) (fun c1 => ?_) (fun c2 => ?_)
  · have h := h.1 c1
    exact h
  · have h := h.2 c2
    refine g_aload_n (q := 0) dX6_next_19 rfl rfl ?_
    refine g_aload_n (q := 0) dX6_next_20 rfl rfl ?_
    refine g_get 0 dX6_next_21 fX6_187 rfl (by decide) (sk_65 hs.S) ?_
    obtain ⟨c3, h⟩ := h
    refine g_callV1 dX6_next_24 kX6_look q1492 q1494 qs55 (ci := 6) rfl (by decide) rfl (by omega) (by decide) (sk_65 hs.S) (Nat.le_of_ble_eq_true rfl) (Nat.le_refl _) (Nat.le_refl _) (t_pI hs (pX6_look hs.S c3) ?_)
    refine g_bipush dX6_next_27 ⟨by decide, by decide, rfl⟩ ?_
    refine g_icmp_eq (tgt := 45) dX6_next_29 (by decide) (fun c7 => ?_) (fun c8 => ?_)
    · have h := h.1 c7
      exact h
    · have h := h.2 c8
      refine g_aload_n (q := 0) dX6_next_32 rfl rfl ?_
      refine g_aload_n (q := 0) dX6_next_33 rfl rfl ?_
      refine g_get 0 dX6_next_34 fX6_187 rfl (by decide) (sk_65 hs.S) ?_
      refine g_callV1 dX6_next_37 kX6_look q1492 q1494 qs55 (ci := 6) rfl (by decide) rfl (by omega) (by decide) (sk_65 hs.S) (Nat.le_of_ble_eq_true rfl) (Nat.le_refl _) (Nat.le_refl _) (t_pI hs (pX6_look hs.S c3) ?_)
      refine g_bipush dX6_next_40 ⟨by decide, by decide, rfl⟩ ?_
      refine g_icmp_ne (tgt := 58) dX6_next_42 (by decide) (fun c12 => ?_) (fun c13 => ?_)
      · have h := h.1 c12
        exact h
      · have h := h.2 c13
        exact h
theorem uX6_next_45 {d : Nat} {μ0 μ : tm_M} {K : tm_M → Prop} (hs : tFr wX6_next μ0 μ)
    (h : (∀ μ1, μ1 = tm_w μ 65 15 (w32 ((tm_v μ 65 15) + 1)) → hV wX6_next μ0 mX6_next d K 8 [(0, 2, 65)] [] μ1)) :
    hV wX6_next μ0 mX6_next d K 45 [(0, 2, 65)] [] μ := by
  refine g_aload_n (q := 0) dX6_next_45 rfl rfl ?_
  refine g_dup dX6_next_46 (by decide) ?_
  refine g_get 0 dX6_next_47 fX6_187 rfl (by decide) (sk_65 hs.S) ?_
  refine g_iconst dX6_next_50 (by decide) ?_
  refine g_iadd dX6_next_51 ?_
  refine g_put dX6_next_52 fX6_187 rfl (by decide) (sk_65 hs.S) (fun e => absurd e (by decide)) (p_wj hs (by decide) (tWs_inF rfl) fun μ1 eμ1 hs => ?_)
  have h := h μ1 eμ1
  refine g_goto (tgt := 8) dX6_next_55 (by decide) ?_
  exact h
theorem uX6_next_58 {d : Nat} {μ0 μ : tm_M} {K : tm_M → Prop} (hd : 1 ≤ d) (hs : tFr wX6_next μ0 μ)
    (h : (∀ μ1, μ1 = tm_w μ 65 16 (tm_v μ 65 15) → (tm_v μ1 65 15 < tm_v μ0 65 9 → (0 ≤ (tm_v μ1 65 15) ∧ tm_v μ1 65 9 ≤ 500 ∧ -128 ≤ tm_v μ1 69 (tm_v μ1 65 15) ∧ tm_v μ1 69 (tm_v μ1 65 15) ≤ 127) ∧ ((∀ x8, x8 = y_look μ1 (tm_v μ1 65 15) → (¬ (97 ≤ x8 ∧ x8 ≤ 122) → (¬ (48 ≤ x8 ∧ x8 ≤ 57) → (∀ μ19, μ19 = tm_w μ1 65 16 (w32 ((tm_v μ1 65 15) + 1)) → (∀ μ20, μ20 = tm_w μ19 65 17 x8 → (x8 ≠ 59 → (∀ μ23, μ23 = tm_w μ20 65 14 4 → hV wX6_next μ0 mX6_next d K 328 [] [] μ23)) ∧ (x8 = 59 → (∀ μ24, μ24 = tm_w μ20 65 14 3 → hV wX6_next μ0 mX6_next d K 328 [] [] μ24))))) ∧ (48 ≤ x8 ∧ x8 ≤ 57 → (∀ μ25, μ25 = tm_w μ1 65 17 0 → hV wX6_next μ0 mX6_next d K 210 [(0, 2, 65)] [] μ25))) ∧ (97 ≤ x8 ∧ x8 ≤ 122 → (∀ μ26, μ26 = tm_w μ1 65 14 1 → (∀ μ27, μ27 = tm_w μ26 65 19 0 → hV wX6_next μ0 mX6_next d K 109 [(0, 2, 65)] [] μ27)))))) ∧ (tm_v μ0 65 9 ≤ tm_v μ1 65 15 → (∀ μ28, μ28 = tm_w μ1 65 14 0 → K μ28)))) :
    hV wX6_next μ0 mX6_next d K 58 [(0, 2, 65)] [] μ := by
  refine g_aload_n (q := 0) dX6_next_58 rfl rfl ?_
  refine g_aload_n (q := 0) dX6_next_59 rfl rfl ?_
  refine g_get 0 dX6_next_60 fX6_187 rfl (by decide) (sk_65 hs.S) ?_
  refine g_put dX6_next_63 fX6_184 rfl (by decide) (sk_65 hs.S) (fun e => absurd e (by decide)) (p_wj hs (by decide) (tWs_inF rfl) fun μ1 eμ1 hs => ?_)
  have h := h μ1 eμ1
  refine g_aload_n (q := 0) dX6_next_66 rfl rfl ?_
  refine g_get 0 dX6_next_67 fX6_187 rfl (by decide) (sk_65 hs.S) ?_
  refine g_aload_n (q := 0) dX6_next_70 rfl rfl ?_
  refine g_getC (x := tm_v μ0 65 9) 0 dX6_next_71 fX6_181 rfl (by decide) (sk_65 hs.S) (hs.v (tWs_noF rfl)) ?_
  refine g_icmp_lt (tgt := 83) dX6_next_74 (by decide) (fun c2 => ?_) (fun c3 => ?_)
  · have h := h.1 c2
    refine g_aload_n (q := 0) dX6_next_83 rfl rfl ?_
    refine g_aload_n (q := 0) dX6_next_84 rfl rfl ?_
    refine g_get 0 dX6_next_85 fX6_187 rfl (by decide) (sk_65 hs.S) ?_
    obtain ⟨c4, h⟩ := h
    refine g_callV1 dX6_next_88 kX6_look q1492 q1494 qs55 (ci := 6) rfl (by decide) rfl (by omega) (by decide) (sk_65 hs.S) (Nat.le_of_ble_eq_true rfl) (Nat.le_refl _) (Nat.le_refl _) (t_pI hs (pX6_look hs.S c4) ?_)
    refine g_istore_nN (fun z => [(0, 2, 65), (1, 0, z)]) dX6_next_91 rfl (by decide) [1, 0] (fun _ => rfl) (fun x8 ex8 => ?_)
    have h := h x8 ex8
    refine g_iload_n (q := 1) dX6_next_92 rfl rfl ?_
    refine g_callS1 dX6_next_93 kX6_isLetter q1496 q1497 rfl (by omega) (Nat.le_of_ble_eq_true rfl) (Nat.le_refl _) (Nat.le_refl _) (t_pI hs (pX6_isLetter hs.S) ?_)
    refine g_if_eq (tgt := 198) dX6_next_96 (by decide) (fun c12 => ?_) (fun c13 => ?_)
    · have h := h.1 (b2i_0.mp c12)
      refine g_iload_n (q := 1) dX6_next_198 rfl rfl ?_
      refine g_callS1 dX6_next_199 kX6_isDigit q1501 q1502 rfl (by omega) (Nat.le_of_ble_eq_true rfl) (Nat.le_refl _) (Nat.le_refl _) (t_pI hs (pX6_isDigit hs.S) ?_)
      refine g_if_eq (tgt := 298) dX6_next_202 (by decide) (fun c17 => ?_) (fun c18 => ?_)
      · have h := h.1 (b2i_0.mp c17)
        refine g_aload_n (q := 0) dX6_next_298 rfl rfl ?_
        refine g_aload_n (q := 0) dX6_next_299 rfl rfl ?_
        refine g_get 0 dX6_next_300 fX6_187 rfl (by decide) (sk_65 hs.S) ?_
        refine g_iconst dX6_next_303 (by decide) ?_
        refine g_iadd dX6_next_304 ?_
        refine g_put dX6_next_305 fX6_184 rfl (by decide) (sk_65 hs.S) (fun e => absurd e (by decide)) (p_wj hs (by decide) (tWs_inF rfl) fun μ19 eμ19 hs => ?_)
        have h := h μ19 eμ19
        refine g_aload_n (q := 0) dX6_next_308 rfl rfl ?_
        refine g_iload_n (q := 1) dX6_next_309 rfl rfl ?_
        refine g_put dX6_next_310 fX6_212 rfl (by decide) (sk_65 hs.S) (fun e => absurd e (by decide)) (p_wj hs (by decide) (tWs_inF rfl) fun μ20 eμ20 hs => ?_)
        have h := h μ20 eμ20
        refine g_aload_n (q := 0) dX6_next_313 rfl rfl ?_
        refine g_iload_n (q := 1) dX6_next_314 rfl rfl ?_
        refine g_bipush dX6_next_315 ⟨by decide, by decide, rfl⟩ ?_
        refine g_icmp_ne (tgt := 324) dX6_next_317 (by decide) (fun c21 => ?_) (fun c22 => ?_)
        · have h := h.1 c21
          refine g_iconst dX6_next_324 (by decide) ?_
          refine g_put dX6_next_325 fX6_193 rfl (by decide) (sk_65 hs.S) (fun e => absurd e (by decide)) (p_wj hs (by decide) (tWs_inF rfl) fun μ23 eμ23 hs => ?_)
          have h := h μ23 eμ23
          exact g_less [] rfl h
        · have h := h.2 c22
          refine g_iconst dX6_next_320 (by decide) ?_
          refine g_goto (tgt := 325) dX6_next_321 (by decide) ?_
          refine g_put dX6_next_325 fX6_193 rfl (by decide) (sk_65 hs.S) (fun e => absurd e (by decide)) (p_wj hs (by decide) (tWs_inF rfl) fun μ24 eμ24 hs => ?_)
          have h := h μ24 eμ24
          exact g_less [] rfl h
      · have h := h.2 (b2i_1.mp c18)
        refine g_aload_n (q := 0) dX6_next_205 rfl rfl ?_
        refine g_iconst dX6_next_206 (by decide) ?_
        refine g_put dX6_next_207 fX6_212 rfl (by decide) (sk_65 hs.S) (fun e => absurd e (by decide)) (p_wj hs (by decide) (tWs_inF rfl) fun μ25 eμ25 hs => ?_)
        have h := h μ25 eμ25
        exact g_less [0] rfl h
    · have h := h.2 (b2i_1.mp c13)
      refine g_aload_n (q := 0) dX6_next_99 rfl rfl ?_
      refine g_iconst dX6_next_100 (by decide) ?_
      refine g_put dX6_next_101 fX6_193 rfl (by decide) (sk_65 hs.S) (fun e => absurd e (by decide)) (p_wj hs (by decide) (tWs_inF rfl) fun μ26 eμ26 hs => ?_)
      have h := h μ26 eμ26
      refine g_aload_n (q := 0) dX6_next_104 rfl rfl ?_
      refine g_lconst0 dX6_next_105 ?_
      refine g_put dX6_next_106 fX6_199 rfl (by decide) (sk_65 hs.S) (fun e => absurd e (by decide)) (p_wj hs (by decide) (tWs_inF rfl) fun μ27 eμ27 hs => ?_)
      have h := h μ27 eμ27
      exact g_less [0] rfl h
  · have h := h.2 c3
    refine g_aload_n (q := 0) dX6_next_77 rfl rfl ?_
    refine g_iconst dX6_next_78 (by decide) ?_
    refine g_put dX6_next_79 fX6_193 rfl (by decide) (sk_65 hs.S) (fun e => absurd e (by decide)) (p_wj hs (by decide) (tWs_inF rfl) fun μ28 eμ28 hs => ?_)
    have h := h μ28 eμ28
    exact g_vret dX6_next_82 rfl (Nat.le_refl _) (Nat.le_refl _) ⟨rfl, hs, h⟩
theorem uX6_next_109 {d : Nat} {μ0 μ : tm_M} {K : tm_M → Prop} (hd : 1 ≤ d) (hs : tFr wX6_next μ0 μ)
    (h : (0 ≤ (tm_v μ 65 16) ∧ tm_v μ 65 9 ≤ 500 ∧ -128 ≤ tm_v μ 69 (tm_v μ 65 16) ∧ tm_v μ 69 (tm_v μ 65 16) ≤ 127) ∧ ((¬ (97 ≤ (y_look μ (tm_v μ 65 16)) ∧ (y_look μ (tm_v μ 65 16)) ≤ 122) → (∀ μ10, μ10 = tm_w μ 65 18 (w32 ((tm_v μ 65 16) - (tm_v μ 65 15))) → hV wX6_next μ0 mX6_next d K 328 [] [] μ10)) ∧ (97 ≤ (y_look μ (tm_v μ 65 16)) ∧ (y_look μ (tm_v μ 65 16)) ≤ 122 → (8 ≤ w32 ((tm_v μ 65 16) - (tm_v μ 65 15)) → (∀ μ13, μ13 = tm_w μ 65 19 (-1) → (∀ μ14, μ14 = tm_w μ13 65 16 (w32 ((tm_v μ13 65 16) + 1)) → hV wX6_next μ0 mX6_next d K 109 [(0, 2, 65)] [] μ14))) ∧ (w32 ((tm_v μ 65 16) - (tm_v μ 65 15)) < 8 → (∀ μ18, μ18 = tm_w μ 65 19 (w64 ((w64 ((w64 ((tm_v μ 65 19) * 32)) + (y_look μ (tm_v μ 65 16)))) - 96)) → (∀ μ19, μ19 = tm_w μ18 65 16 (w32 ((tm_v μ18 65 16) + 1)) → hV wX6_next μ0 mX6_next d K 109 [(0, 2, 65)] [] μ19)))))) :
    hV wX6_next μ0 mX6_next d K 109 [(0, 2, 65)] [] μ := by
  refine g_aload_n (q := 0) dX6_next_109 rfl rfl ?_
  refine g_aload_n (q := 0) dX6_next_110 rfl rfl ?_
  refine g_get 0 dX6_next_111 fX6_184 rfl (by decide) (sk_65 hs.S) ?_
  obtain ⟨c1, h⟩ := h
  refine g_callV1 dX6_next_114 kX6_look q1492 q1494 qs55 (ci := 6) rfl (by decide) rfl (by omega) (by decide) (sk_65 hs.S) (Nat.le_of_ble_eq_true rfl) (Nat.le_refl _) (Nat.le_refl _) (t_pI hs (pX6_look hs.S c1) ?_)
  refine g_callS1 dX6_next_117 kX6_isLetter q1496 q1497 rfl (by omega) (Nat.le_of_ble_eq_true rfl) (Nat.le_refl _) (Nat.le_refl _) (t_pI hs (pX6_isLetter hs.S) ?_)
  refine g_if_eq (tgt := 182) dX6_next_120 (by decide) (fun c8 => ?_) (fun c9 => ?_)
  · have h := h.1 (b2i_0.mp c8)
    refine g_aload_n (q := 0) dX6_next_182 rfl rfl ?_
    refine g_aload_n (q := 0) dX6_next_183 rfl rfl ?_
    refine g_get 0 dX6_next_184 fX6_184 rfl (by decide) (sk_65 hs.S) ?_
    refine g_aload_n (q := 0) dX6_next_187 rfl rfl ?_
    refine g_get 0 dX6_next_188 fX6_187 rfl (by decide) (sk_65 hs.S) ?_
    refine g_isub dX6_next_191 ?_
    refine g_put dX6_next_192 fX6_206 rfl (by decide) (sk_65 hs.S) (fun e => absurd e (by decide)) (p_wj hs (by decide) (tWs_inF rfl) fun μ10 eμ10 hs => ?_)
    have h := h μ10 eμ10
    refine g_goto (tgt := 328) dX6_next_195 (by decide) ?_
    exact g_less [] rfl h
  · have h := h.2 (b2i_1.mp c9)
    refine g_aload_n (q := 0) dX6_next_123 rfl rfl ?_
    refine g_aload_n (q := 0) dX6_next_124 rfl rfl ?_
    refine g_get 0 dX6_next_125 fX6_184 rfl (by decide) (sk_65 hs.S) ?_
    refine g_aload_n (q := 0) dX6_next_128 rfl rfl ?_
    refine g_get 0 dX6_next_129 fX6_187 rfl (by decide) (sk_65 hs.S) ?_
    refine g_isub dX6_next_132 ?_
    refine g_bipush dX6_next_133 ⟨by decide, by decide, rfl⟩ ?_
    refine g_icmp_ge (tgt := 163) dX6_next_135 (by decide) (fun c11 => ?_) (fun c12 => ?_)
    · have h := h.1 c11
      refine g_ldc2 (v := -1) (by decide) q1467c dX6_next_163 ?_
      refine g_put dX6_next_166 fX6_199 rfl (by decide) (sk_65 hs.S) (fun e => absurd e (by decide)) (p_wj hs (by decide) (tWs_inF rfl) fun μ13 eμ13 hs => ?_)
      have h := h μ13 eμ13
      refine g_aload_n (q := 0) dX6_next_169 rfl rfl ?_
      refine g_dup dX6_next_170 (by decide) ?_
      refine g_get 0 dX6_next_171 fX6_184 rfl (by decide) (sk_65 hs.S) ?_
      refine g_iconst dX6_next_174 (by decide) ?_
      refine g_iadd dX6_next_175 ?_
      refine g_put dX6_next_176 fX6_184 rfl (by decide) (sk_65 hs.S) (fun e => absurd e (by decide)) (p_wj hs (by decide) (tWs_inF rfl) fun μ14 eμ14 hs => ?_)
      have h := h μ14 eμ14
      refine g_goto (tgt := 109) dX6_next_179 (by decide) ?_
      exact h
    · have h := h.2 c12
      refine g_aload_n (q := 0) dX6_next_138 rfl rfl ?_
      refine g_get 1 dX6_next_139 fX6_199 rfl (by decide) (sk_65 hs.S) ?_
      refine g_ldc2 (v := 32) (by decide) q1499c dX6_next_142 ?_
      refine g_lmul dX6_next_145 ?_
      refine g_aload_n (q := 0) dX6_next_146 rfl rfl ?_
      refine g_aload_n (q := 0) dX6_next_147 rfl rfl ?_
      refine g_get 0 dX6_next_148 fX6_184 rfl (by decide) (sk_65 hs.S) ?_
      refine g_callV1 dX6_next_151 kX6_look q1492 q1494 qs55 (ci := 6) rfl (by decide) rfl (by omega) (by decide) (sk_65 hs.S) (Nat.le_of_ble_eq_true rfl) (Nat.le_refl _) (Nat.le_refl _) (t_pI hs (pX6_look hs.S c1) ?_)
      refine g_i2l dX6_next_154 ?_
      refine g_ladd dX6_next_155 ?_
      refine g_ldc2 (v := 96) (by decide) q1500c dX6_next_156 ?_
      refine g_lsub dX6_next_159 ?_
      refine g_goto (tgt := 166) dX6_next_160 (by decide) ?_
      refine g_put dX6_next_166 fX6_199 rfl (by decide) (sk_65 hs.S) (fun e => absurd e (by decide)) (p_wj hs (by decide) (tWs_inF rfl) fun μ18 eμ18 hs => ?_)
      have h := h μ18 eμ18
      refine g_aload_n (q := 0) dX6_next_169 rfl rfl ?_
      refine g_dup dX6_next_170 (by decide) ?_
      refine g_get 0 dX6_next_171 fX6_184 rfl (by decide) (sk_65 hs.S) ?_
      refine g_iconst dX6_next_174 (by decide) ?_
      refine g_iadd dX6_next_175 ?_
      refine g_put dX6_next_176 fX6_184 rfl (by decide) (sk_65 hs.S) (fun e => absurd e (by decide)) (p_wj hs (by decide) (tWs_inF rfl) fun μ19 eμ19 hs => ?_)
      have h := h μ19 eμ19
      refine g_goto (tgt := 109) dX6_next_179 (by decide) ?_
      exact h
theorem uX6_next_210 {d : Nat} {μ0 μ : tm_M} {K : tm_M → Prop} (hd : 1 ≤ d) (hs : tFr wX6_next μ0 μ)
    (h : (0 ≤ (tm_v μ 65 16) ∧ tm_v μ 65 9 ≤ 500 ∧ -128 ≤ tm_v μ 69 (tm_v μ 65 16) ∧ tm_v μ 69 (tm_v μ 65 16) ≤ 127) ∧ ((¬ (48 ≤ (y_look μ (tm_v μ 65 16)) ∧ (y_look μ (tm_v μ 65 16)) ≤ 57) → (w32 ((tm_v μ 65 16) - (tm_v μ 65 15)) ≤ 2 → (∀ μ12, μ12 = tm_w μ 65 14 2 → hV wX6_next μ0 mX6_next d K 328 [] [] μ12)) ∧ (2 < w32 ((tm_v μ 65 16) - (tm_v μ 65 15)) → (∀ μ13, μ13 = tm_w μ 65 14 4 → hV wX6_next μ0 mX6_next d K 328 [] [] μ13))) ∧ (48 ≤ (y_look μ (tm_v μ 65 16)) ∧ (y_look μ (tm_v μ 65 16)) ≤ 57 → (2 ≤ w32 ((tm_v μ 65 16) - (tm_v μ 65 15)) → hV wX6_next μ0 mX6_next d K 260 [(0, 2, 65)] [] μ) ∧ (w32 ((tm_v μ 65 16) - (tm_v μ 65 15)) < 2 → (∀ μ19, μ19 = tm_w μ 65 17 (w32 ((w32 ((w32 (10 * (tm_v μ 65 17))) + (y_look μ (tm_v μ 65 16)))) - 48)) → hV wX6_next μ0 mX6_next d K 260 [(0, 2, 65)] [] μ19))))) :
    hV wX6_next μ0 mX6_next d K 210 [(0, 2, 65)] [] μ := by
  refine g_aload_n (q := 0) dX6_next_210 rfl rfl ?_
  refine g_aload_n (q := 0) dX6_next_211 rfl rfl ?_
  refine g_get 0 dX6_next_212 fX6_184 rfl (by decide) (sk_65 hs.S) ?_
  obtain ⟨c1, h⟩ := h
  refine g_callV1 dX6_next_215 kX6_look q1492 q1494 qs55 (ci := 6) rfl (by decide) rfl (by omega) (by decide) (sk_65 hs.S) (Nat.le_of_ble_eq_true rfl) (Nat.le_refl _) (Nat.le_refl _) (t_pI hs (pX6_look hs.S c1) ?_)
  refine g_callS1 dX6_next_218 kX6_isDigit q1501 q1502 rfl (by omega) (Nat.le_of_ble_eq_true rfl) (Nat.le_refl _) (Nat.le_refl _) (t_pI hs (pX6_isDigit hs.S) ?_)
  refine g_if_eq (tgt := 273) dX6_next_221 (by decide) (fun c8 => ?_) (fun c9 => ?_)
  · have h := h.1 (b2i_0.mp c8)
    refine g_aload_n (q := 0) dX6_next_273 rfl rfl ?_
    refine g_aload_n (q := 0) dX6_next_274 rfl rfl ?_
    refine g_get 0 dX6_next_275 fX6_184 rfl (by decide) (sk_65 hs.S) ?_
    refine g_aload_n (q := 0) dX6_next_278 rfl rfl ?_
    refine g_get 0 dX6_next_279 fX6_187 rfl (by decide) (sk_65 hs.S) ?_
    refine g_isub dX6_next_282 ?_
    refine g_iconst dX6_next_283 (by decide) ?_
    refine g_icmp_le (tgt := 291) dX6_next_284 (by decide) (fun c10 => ?_) (fun c11 => ?_)
    · have h := h.1 c10
      refine g_iconst dX6_next_291 (by decide) ?_
      refine g_put dX6_next_292 fX6_193 rfl (by decide) (sk_65 hs.S) (fun e => absurd e (by decide)) (p_wj hs (by decide) (tWs_inF rfl) fun μ12 eμ12 hs => ?_)
      have h := h μ12 eμ12
      refine g_goto (tgt := 328) dX6_next_295 (by decide) ?_
      exact g_less [] rfl h
    · have h := h.2 c11
      refine g_iconst dX6_next_287 (by decide) ?_
      refine g_goto (tgt := 292) dX6_next_288 (by decide) ?_
      refine g_put dX6_next_292 fX6_193 rfl (by decide) (sk_65 hs.S) (fun e => absurd e (by decide)) (p_wj hs (by decide) (tWs_inF rfl) fun μ13 eμ13 hs => ?_)
      have h := h μ13 eμ13
      refine g_goto (tgt := 328) dX6_next_295 (by decide) ?_
      exact g_less [] rfl h
  · have h := h.2 (b2i_1.mp c9)
    refine g_aload_n (q := 0) dX6_next_224 rfl rfl ?_
    refine g_get 0 dX6_next_225 fX6_184 rfl (by decide) (sk_65 hs.S) ?_
    refine g_aload_n (q := 0) dX6_next_228 rfl rfl ?_
    refine g_get 0 dX6_next_229 fX6_187 rfl (by decide) (sk_65 hs.S) ?_
    refine g_isub dX6_next_232 ?_
    refine g_iconst dX6_next_233 (by decide) ?_
    refine g_icmp_ge (tgt := 260) dX6_next_234 (by decide) (fun c14 => ?_) (fun c15 => ?_)
    · have h := h.1 c14
      exact h
    · have h := h.2 c15
      refine g_aload_n (q := 0) dX6_next_237 rfl rfl ?_
      refine g_bipush dX6_next_238 ⟨by decide, by decide, rfl⟩ ?_
      refine g_aload_n (q := 0) dX6_next_240 rfl rfl ?_
      refine g_get 0 dX6_next_241 fX6_212 rfl (by decide) (sk_65 hs.S) ?_
      refine g_imul dX6_next_244 ?_
      refine g_aload_n (q := 0) dX6_next_245 rfl rfl ?_
      refine g_aload_n (q := 0) dX6_next_246 rfl rfl ?_
      refine g_get 0 dX6_next_247 fX6_184 rfl (by decide) (sk_65 hs.S) ?_
      refine g_callV1 dX6_next_250 kX6_look q1492 q1494 qs55 (ci := 6) rfl (by decide) rfl (by omega) (by decide) (sk_65 hs.S) (Nat.le_of_ble_eq_true rfl) (Nat.le_refl _) (Nat.le_refl _) (t_pI hs (pX6_look hs.S c1) ?_)
      refine g_iadd dX6_next_253 ?_
      refine g_bipush dX6_next_254 ⟨by decide, by decide, rfl⟩ ?_
      refine g_isub dX6_next_256 ?_
      refine g_put dX6_next_257 fX6_212 rfl (by decide) (sk_65 hs.S) (fun e => absurd e (by decide)) (p_wj hs (by decide) (tWs_inF rfl) fun μ19 eμ19 hs => ?_)
      have h := h μ19 eμ19
      exact h
theorem uX6_next_260 {d : Nat} {μ0 μ : tm_M} {K : tm_M → Prop} (hs : tFr wX6_next μ0 μ)
    (h : (∀ μ1, μ1 = tm_w μ 65 16 (w32 ((tm_v μ 65 16) + 1)) → hV wX6_next μ0 mX6_next d K 210 [(0, 2, 65)] [] μ1)) :
    hV wX6_next μ0 mX6_next d K 260 [(0, 2, 65)] [] μ := by
  refine g_aload_n (q := 0) dX6_next_260 rfl rfl ?_
  refine g_dup dX6_next_261 (by decide) ?_
  refine g_get 0 dX6_next_262 fX6_184 rfl (by decide) (sk_65 hs.S) ?_
  refine g_iconst dX6_next_265 (by decide) ?_
  refine g_iadd dX6_next_266 ?_
  refine g_put dX6_next_267 fX6_184 rfl (by decide) (sk_65 hs.S) (fun e => absurd e (by decide)) (p_wj hs (by decide) (tWs_inF rfl) fun μ1 eμ1 hs => ?_)
  have h := h μ1 eμ1
  refine g_goto (tgt := 210) dX6_next_270 (by decide) ?_
  exact h
theorem uX6_next_328 {d : Nat} {μ0 μ : tm_M} {K : tm_M → Prop} (hs : tFr wX6_next μ0 μ)
    (h : K μ) :
    hV wX6_next μ0 mX6_next d K 328 [] [] μ := by
  exact g_vret dX6_next_328 rfl (Nat.le_refl _) (Nat.le_refl _) ⟨rfl, hs, h⟩
theorem uX6_count_0 {d : Nat} {μ0 μ : tm_M} {K : Int → tm_M → Prop} {v1 v2 : Int} (hd : 1 ≤ d) (hs : tFr wX6_count μ0 μ)
    (h : (tm_v μ 65 12 ≠ 0 → hI wX6_count μ0 mX6_count d K 19 [(0, 2, 65), (1, 0, v1), (2, 0, v2)] [] μ) ∧ (tm_v μ 65 12 = 0 → (tm_v μ 65 14 = 2 → hI wX6_count μ0 mX6_count d K 19 [(0, 2, 65), (1, 0, v1), (2, 0, v2)] [] μ) ∧ (tm_v μ 65 14 ≠ 2 → cV wX6_wrong mX6_wrong (d - 1) [(2, 65)] μ (fun μ5 => hI wX6_count μ0 mX6_count d K 19 [(0, 2, 65), (1, 0, v1), (2, 0, v2)] [] μ5)))) :
    hI wX6_count μ0 mX6_count d K 0 [(0, 2, 65), (1, 0, v1), (2, 0, v2)] [] μ := by
  refine g_aload_n (q := 0) dX6_count_0 rfl rfl ?_
  refine g_get 0 dX6_count_1 fX6_246 rfl (by decide) (sk_65 hs.S) ?_
  refine g_if_ne (tgt := 19) dX6_count_4 (by decide) (fun c1 => ?_) (fun c2 => ?_)
  · have h := h.1 c1
    exact h
  · have h := h.2 c2
    refine g_aload_n (q := 0) dX6_count_7 rfl rfl ?_
    refine g_get 0 dX6_count_8 fX6_193 rfl (by decide) (sk_65 hs.S) ?_
    refine g_iconst dX6_count_11 (by decide) ?_
    refine g_icmp_eq (tgt := 19) dX6_count_12 (by decide) (fun c3 => ?_) (fun c4 => ?_)
    · have h := h.1 c3
      exact h
    · have h := h.2 c4
      refine g_aload_n (q := 0) dX6_count_15 rfl rfl ?_
      refine g_callV0 dX6_count_16 kX6_wrong q1547 q1549 qs66 (ci := 6) rfl (by decide) rfl (by omega) (by decide) (sk_65 hs.S) (Nat.le_of_ble_eq_true rfl) (Nat.le_refl _) (Nat.le_refl _) (t_kV hs (tWs_sub rfl) h (fun μ5 hs h => ?_))
      exact h
theorem uX6_count_19 {d : Nat} {μ0 μ : tm_M} {K : Int → tm_M → Prop} {v1 v2 : Int} (hd : 1 ≤ d) (hs : tFr wX6_count μ0 μ)
    (h : (tm_v μ 65 12 ≠ 0 → hI wX6_count μ0 mX6_count d K 50 [(0, 2, 65)] [] μ) ∧ (tm_v μ 65 12 = 0 → (v1 ≤ (tm_v μ 65 17) ∧ (tm_v μ 65 17) ≤ v2 → hI wX6_count μ0 mX6_count d K 50 [(0, 2, 65)] [] μ) ∧ (¬ (v1 ≤ (tm_v μ 65 17) ∧ (tm_v μ 65 17) ≤ v2) → cV wX6_fail mX6_fail (d - 1) [(2, 65), (0, 4), (0, tm_v μ 65 15)] μ (fun μ8 => hI wX6_count μ0 mX6_count d K 50 [(0, 2, 65)] [] μ8)))) :
    hI wX6_count μ0 mX6_count d K 19 [(0, 2, 65), (1, 0, v1), (2, 0, v2)] [] μ := by
  refine g_aload_n (q := 0) dX6_count_19 rfl rfl ?_
  refine g_get 0 dX6_count_20 fX6_246 rfl (by decide) (sk_65 hs.S) ?_
  refine g_if_ne (tgt := 50) dX6_count_23 (by decide) (fun c1 => ?_) (fun c2 => ?_)
  · have h := h.1 c1
    exact g_less [0] rfl h
  · have h := h.2 c2
    refine g_aload_n (q := 0) dX6_count_26 rfl rfl ?_
    refine g_get 0 dX6_count_27 fX6_212 rfl (by decide) (sk_65 hs.S) ?_
    refine g_i2l dX6_count_30 ?_
    refine g_iload_n (q := 1) dX6_count_31 rfl rfl ?_
    refine g_i2l dX6_count_32 ?_
    refine g_iload_n (q := 2) dX6_count_33 rfl rfl ?_
    refine g_i2l dX6_count_34 ?_
    refine g_callS3 dX6_count_35 kX6_isIn q1563 q1564 rfl (by omega) (Nat.le_of_ble_eq_true rfl) (Nat.le_refl _) (Nat.le_refl _) (t_pI hs (pX6_isIn hs.S) ?_)
    refine g_if_ne (tgt := 50) dX6_count_38 (by decide) (fun c6 => ?_) (fun c7 => ?_)
    · have h := h.1 (b2i_1.mp c6)
      exact g_less [0] rfl h
    · have h := h.2 (b2i_0.mp c7)
      refine g_aload_n (q := 0) dX6_count_41 rfl rfl ?_
      refine g_iconst dX6_count_42 (by decide) ?_
      refine g_aload_n (q := 0) dX6_count_43 rfl rfl ?_
      refine g_get 0 dX6_count_44 fX6_187 rfl (by decide) (sk_65 hs.S) ?_
      refine g_callV2 dX6_count_47 kX6_fail q1551 q1553 qs67 (ci := 6) rfl (by decide) rfl (by omega) (by decide) (sk_65 hs.S) (Nat.le_of_ble_eq_true rfl) (Nat.le_refl _) (Nat.le_refl _) (t_kV hs (tWs_sub rfl) h (fun μ8 hs h => ?_))
      exact g_less [0] rfl h
theorem uX6_count_50 {d : Nat} {μ0 μ : tm_M} {K : Int → tm_M → Prop} (hd : 1 ≤ d) (hs : tFr wX6_count μ0 μ)
    (h : (tm_v μ 65 12 ≤ 0 → (∀ x3, x3 = tm_v μ 65 17 → cV wX6_next mX6_next (d - 1) [(2, 65)] μ (fun μ4 => K x3 μ4))) ∧ (0 < tm_v μ 65 12 → K 0 μ)) :
    hI wX6_count μ0 mX6_count d K 50 [(0, 2, 65)] [] μ := by
  refine g_aload_n (q := 0) dX6_count_50 rfl rfl ?_
  refine g_get 0 dX6_count_51 fX6_246 rfl (by decide) (sk_65 hs.S) ?_
  refine g_if_le (tgt := 59) dX6_count_54 (by decide) (fun c1 => ?_) (fun c2 => ?_)
  · have h := h.1 c1
    refine g_aload_n (q := 0) dX6_count_59 rfl rfl ?_
    refine g_get 0 dX6_count_60 fX6_212 rfl (by decide) (sk_65 hs.S) ?_
    refine g_istore_nN (fun z => [(0, 2, 65), (3, 0, z)]) dX6_count_63 rfl (by decide) [1, 0] (fun _ => rfl) (fun x3 ex3 => ?_)
    have h := h x3 ex3
    refine g_aload_n (q := 0) dX6_count_64 rfl rfl ?_
    refine g_callV0 dX6_count_65 kX6_next q1488 q1490 qs54 (ci := 6) rfl (by decide) rfl (by omega) (by decide) (sk_65 hs.S) (Nat.le_of_ble_eq_true rfl) (Nat.le_refl _) (Nat.le_refl _) (t_kV hs (tWs_sub rfl) h (fun μ4 hs h => ?_))
    refine g_iload_n (q := 1) dX6_count_68 rfl rfl ?_
    exact g_iret dX6_count_69 rfl (Nat.le_refl _) (Nat.le_refl _) ⟨_, rfl, hs, h⟩
  · have h := h.2 c2
    refine g_iconst dX6_count_57 (by decide) ?_
    exact g_iret dX6_count_58 rfl (Nat.le_refl _) (Nat.le_refl _) ⟨_, rfl, hs, h⟩
theorem uX6_told_0 {d : Nat} {μ0 μ : tm_M} {K : Int → tm_M → Prop} (hd : 4 ≤ d) (hs : tFr wX6_told μ0 μ)
    (h : (tm_v μ 65 12 ≠ 0 → hI wX6_told μ0 mX6_told d K 18 [(0, 2, 65)] [] μ) ∧ (tm_v μ 65 12 = 0 → (y_isName μ → hI wX6_told μ0 mX6_told d K 18 [(0, 2, 65)] [] μ) ∧ (¬ (y_isName μ) → cV wX6_wrong mX6_wrong (d - 1) [(2, 65)] μ (fun μ8 => hI wX6_told μ0 mX6_told d K 18 [(0, 2, 65)] [] μ8)))) :
    hI wX6_told μ0 mX6_told d K 0 [(0, 2, 65)] [] μ := by
  refine g_aload_n (q := 0) dX6_told_0 rfl rfl ?_
  refine g_get 0 dX6_told_1 fX6_246 rfl (by decide) (sk_65 hs.S) ?_
  refine g_if_ne (tgt := 18) dX6_told_4 (by decide) (fun c1 => ?_) (fun c2 => ?_)
  · have h := h.1 c1
    exact h
  · have h := h.2 c2
    refine g_aload_n (q := 0) dX6_told_7 rfl rfl ?_
    refine g_callV0 dX6_told_8 kX6_isName q1519 q1521 qs59 (ci := 6) rfl (by decide) rfl (by omega) (by decide) (sk_65 hs.S) (Nat.le_of_ble_eq_true rfl) (Nat.le_refl _) (Nat.le_refl _) (t_pI hs (pX6_isName (by omega) hs.S) ?_)
    refine g_if_ne (tgt := 18) dX6_told_11 (by decide) (fun c6 => ?_) (fun c7 => ?_)
    · have h := h.1 (b2i_1.mp c6)
      exact h
    · have h := h.2 (b2i_0.mp c7)
      refine g_aload_n (q := 0) dX6_told_14 rfl rfl ?_
      refine g_callV0 dX6_told_15 kX6_wrong q1547 q1549 qs66 (ci := 6) rfl (by decide) rfl (by omega) (by decide) (sk_65 hs.S) (Nat.le_of_ble_eq_true rfl) (Nat.le_refl _) (Nat.le_refl _) (t_kV hs (tWs_sub rfl) h (fun μ8 hs h => ?_))
      exact h
theorem uX6_told_18 {d : Nat} {μ0 μ : tm_M} {K : Int → tm_M → Prop} (hd : 1 ≤ d) (hs : tFr wX6_told μ0 μ)
    (h : (tm_v μ 65 12 ≠ 0 → hI wX6_told μ0 mX6_told d K 41 [(0, 2, 65)] [] μ) ∧ (tm_v μ 65 12 = 0 → (0 ≤ tm_v μ 65 22 ∧ tm_v μ 65 22 ≤ 8) ∧ ((0 ≤ y_named μ → hI wX6_told μ0 mX6_told d K 41 [(0, 2, 65)] [] μ) ∧ (y_named μ < 0 → cV wX6_fail mX6_fail (d - 1) [(2, 65), (0, 3), (0, tm_v μ0 65 15)] μ (fun μ9 => hI wX6_told μ0 mX6_told d K 41 [(0, 2, 65)] [] μ9))))) :
    hI wX6_told μ0 mX6_told d K 18 [(0, 2, 65)] [] μ := by
  refine g_aload_n (q := 0) dX6_told_18 rfl rfl ?_
  refine g_get 0 dX6_told_19 fX6_246 rfl (by decide) (sk_65 hs.S) ?_
  refine g_if_ne (tgt := 41) dX6_told_22 (by decide) (fun c1 => ?_) (fun c2 => ?_)
  · have h := h.1 c1
    exact h
  · have h := h.2 c2
    refine g_aload_n (q := 0) dX6_told_25 rfl rfl ?_
    obtain ⟨c3, h⟩ := h
    refine g_callV0 dX6_told_26 kX6_named q1555 q1557 qs68 (ci := 6) rfl (by decide) rfl (by omega) (by decide) (sk_65 hs.S) (Nat.le_of_ble_eq_true rfl) (Nat.le_refl _) (Nat.le_refl _) (t_pI hs (pX6_named hs.S c3) ?_)
    refine g_if_ge (tgt := 41) dX6_told_29 (by decide) (fun c7 => ?_) (fun c8 => ?_)
    · have h := h.1 c7
      exact h
    · have h := h.2 c8
      refine g_aload_n (q := 0) dX6_told_32 rfl rfl ?_
      refine g_iconst dX6_told_33 (by decide) ?_
      refine g_aload_n (q := 0) dX6_told_34 rfl rfl ?_
      refine g_getC (x := tm_v μ0 65 15) 0 dX6_told_35 fX6_187 rfl (by decide) (sk_65 hs.S) (hs.v (tWs_noF rfl)) ?_
      refine g_callV2 dX6_told_38 kX6_fail q1551 q1553 qs67 (ci := 6) rfl (by decide) rfl (by omega) (by decide) (sk_65 hs.S) (Nat.le_of_ble_eq_true rfl) (Nat.le_refl _) (Nat.le_refl _) (t_kV hs (tWs_sub rfl) h (fun μ9 hs h => ?_))
      exact h
theorem uX6_told_41 {d : Nat} {μ0 μ : tm_M} {K : Int → tm_M → Prop} (hd : 1 ≤ d) (hs : tFr wX6_told μ0 μ)
    (h : (tm_v μ 65 12 ≠ 0 → K 0 μ) ∧ (tm_v μ 65 12 = 0 → (0 ≤ tm_v μ 65 22 ∧ tm_v μ 65 22 ≤ 8) ∧ (K (y_named μ) μ))) :
    hI wX6_told μ0 mX6_told d K 41 [(0, 2, 65)] [] μ := by
  refine g_aload_n (q := 0) dX6_told_41 rfl rfl ?_
  refine g_get 0 dX6_told_42 fX6_246 rfl (by decide) (sk_65 hs.S) ?_
  refine g_if_ne (tgt := 55) dX6_told_45 (by decide) (fun c1 => ?_) (fun c2 => ?_)
  · have h := h.1 c1
    refine g_iconst dX6_told_55 (by decide) ?_
    exact g_iret dX6_told_56 rfl (Nat.le_refl _) (Nat.le_refl _) ⟨_, rfl, hs, h⟩
  · have h := h.2 c2
    refine g_aload_n (q := 0) dX6_told_48 rfl rfl ?_
    obtain ⟨c3, h⟩ := h
    refine g_callV0 dX6_told_49 kX6_named q1555 q1557 qs68 (ci := 6) rfl (by decide) rfl (by omega) (by decide) (sk_65 hs.S) (Nat.le_of_ble_eq_true rfl) (Nat.le_refl _) (Nat.le_refl _) (t_pI hs (pX6_named hs.S c3) ?_)
    refine g_goto (tgt := 56) dX6_told_52 (by decide) ?_
    exact g_iret dX6_told_56 rfl (Nat.le_refl _) (Nat.le_refl _) ⟨_, rfl, hs, h⟩
theorem uX6_readPlace_0 {d : Nat} {μ0 μ : tm_M} {K : tm_M → Prop} (hd : 4 ≤ d) (hs : tFr wX6_readPlace μ0 μ)
    (h : cV wX6_next mX6_next (d - 1) [(2, 65)] μ (fun μ1 => (y_isName μ1 → hV wX6_readPlace μ0 mX6_readPlace d K 15 [(0, 2, 65)] [] μ1) ∧ (¬ (y_isName μ1) → cV wX6_wrong mX6_wrong (d - 1) [(2, 65)] μ1 (fun μ7 => hV wX6_readPlace μ0 mX6_readPlace d K 15 [(0, 2, 65)] [] μ7)))) :
    hV wX6_readPlace μ0 mX6_readPlace d K 0 [(0, 2, 65)] [] μ := by
  refine g_aload_n (q := 0) dX6_readPlace_0 rfl rfl ?_
  refine g_callV0 dX6_readPlace_1 kX6_next q1488 q1490 qs54 (ci := 6) rfl (by decide) rfl (by omega) (by decide) (sk_65 hs.S) (Nat.le_of_ble_eq_true rfl) (Nat.le_refl _) (Nat.le_refl _) (t_kV hs (tWs_sub rfl) h (fun μ1 hs h => ?_))
  refine g_aload_n (q := 0) dX6_readPlace_4 rfl rfl ?_
  refine g_callV0 dX6_readPlace_5 kX6_isName q1519 q1521 qs59 (ci := 6) rfl (by decide) rfl (by omega) (by decide) (sk_65 hs.S) (Nat.le_of_ble_eq_true rfl) (Nat.le_refl _) (Nat.le_refl _) (t_pI hs (pX6_isName (by omega) hs.S) ?_)
  refine g_if_ne (tgt := 15) dX6_readPlace_8 (by decide) (fun c5 => ?_) (fun c6 => ?_)
  · have h := h.1 (b2i_1.mp c5)
    exact h
  · have h := h.2 (b2i_0.mp c6)
    refine g_aload_n (q := 0) dX6_readPlace_11 rfl rfl ?_
    refine g_callV0 dX6_readPlace_12 kX6_wrong q1547 q1549 qs66 (ci := 6) rfl (by decide) rfl (by omega) (by decide) (sk_65 hs.S) (Nat.le_of_ble_eq_true rfl) (Nat.le_refl _) (Nat.le_refl _) (t_kV hs (tWs_sub rfl) h (fun μ7 hs h => ?_))
    exact h
theorem uX6_readPlace_15 {d : Nat} {μ0 μ : tm_M} {K : tm_M → Prop} (hd : 1 ≤ d) (hs : tFr wX6_readPlace μ0 μ)
    (h : (tm_v μ 65 12 ≠ 0 → hV wX6_readPlace μ0 mX6_readPlace d K 38 [(0, 2, 65)] [] μ) ∧ (tm_v μ 65 12 = 0 → (0 ≤ tm_v μ 65 22 ∧ tm_v μ 65 22 ≤ 8) ∧ ((y_named μ < 0 → hV wX6_readPlace μ0 mX6_readPlace d K 38 [(0, 2, 65)] [] μ) ∧ (0 ≤ y_named μ → cV wX6_fail mX6_fail (d - 1) [(2, 65), (0, 3), (0, tm_v μ 65 15)] μ (fun μ9 => hV wX6_readPlace μ0 mX6_readPlace d K 38 [(0, 2, 65)] [] μ9))))) :
    hV wX6_readPlace μ0 mX6_readPlace d K 15 [(0, 2, 65)] [] μ := by
  refine g_aload_n (q := 0) dX6_readPlace_15 rfl rfl ?_
  refine g_get 0 dX6_readPlace_16 fX6_246 rfl (by decide) (sk_65 hs.S) ?_
  refine g_if_ne (tgt := 38) dX6_readPlace_19 (by decide) (fun c1 => ?_) (fun c2 => ?_)
  · have h := h.1 c1
    exact h
  · have h := h.2 c2
    refine g_aload_n (q := 0) dX6_readPlace_22 rfl rfl ?_
    obtain ⟨c3, h⟩ := h
    refine g_callV0 dX6_readPlace_23 kX6_named q1555 q1557 qs68 (ci := 6) rfl (by decide) rfl (by omega) (by decide) (sk_65 hs.S) (Nat.le_of_ble_eq_true rfl) (Nat.le_refl _) (Nat.le_refl _) (t_pI hs (pX6_named hs.S c3) ?_)
    refine g_if_lt (tgt := 38) dX6_readPlace_26 (by decide) (fun c7 => ?_) (fun c8 => ?_)
    · have h := h.1 c7
      exact h
    · have h := h.2 c8
      refine g_aload_n (q := 0) dX6_readPlace_29 rfl rfl ?_
      refine g_iconst dX6_readPlace_30 (by decide) ?_
      refine g_aload_n (q := 0) dX6_readPlace_31 rfl rfl ?_
      refine g_get 0 dX6_readPlace_32 fX6_187 rfl (by decide) (sk_65 hs.S) ?_
      refine g_callV2 dX6_readPlace_35 kX6_fail q1551 q1553 qs67 (ci := 6) rfl (by decide) rfl (by omega) (by decide) (sk_65 hs.S) (Nat.le_of_ble_eq_true rfl) (Nat.le_refl _) (Nat.le_refl _) (t_kV hs (tWs_sub rfl) h (fun μ9 hs h => ?_))
      exact h
theorem uX6_readPlace_38 {d : Nat} {μ0 μ : tm_M} {K : tm_M → Prop} (hd : 1 ≤ d) (hs : tFr wX6_readPlace μ0 μ)
    (h : (tm_v μ 65 12 ≠ 0 → hV wX6_readPlace μ0 mX6_readPlace d K 64 [(0, 2, 65)] [] μ) ∧ (tm_v μ 65 12 = 0 → (tm_v μ 65 22 ≠ 8 → hV wX6_readPlace μ0 mX6_readPlace d K 64 [(0, 2, 65)] [] μ) ∧ (tm_v μ 65 22 = 8 → cV wX6_fail mX6_fail (d - 1) [(2, 65), (0, 6), (0, tm_v μ 65 15)] μ (fun μ5 => hV wX6_readPlace μ0 mX6_readPlace d K 64 [(0, 2, 65)] [] μ5)))) :
    hV wX6_readPlace μ0 mX6_readPlace d K 38 [(0, 2, 65)] [] μ := by
  refine g_aload_n (q := 0) dX6_readPlace_38 rfl rfl ?_
  refine g_get 0 dX6_readPlace_39 fX6_246 rfl (by decide) (sk_65 hs.S) ?_
  refine g_if_ne (tgt := 64) dX6_readPlace_42 (by decide) (fun c1 => ?_) (fun c2 => ?_)
  · have h := h.1 c1
    exact h
  · have h := h.2 c2
    refine g_aload_n (q := 0) dX6_readPlace_45 rfl rfl ?_
    refine g_get 0 dX6_readPlace_46 fX6_266 rfl (by decide) (sk_65 hs.S) ?_
    refine g_bipush dX6_readPlace_49 ⟨by decide, by decide, rfl⟩ ?_
    refine g_icmp_ne (tgt := 64) dX6_readPlace_51 (by decide) (fun c3 => ?_) (fun c4 => ?_)
    · have h := h.1 c3
      exact h
    · have h := h.2 c4
      refine g_aload_n (q := 0) dX6_readPlace_54 rfl rfl ?_
      refine g_bipush dX6_readPlace_55 ⟨by decide, by decide, rfl⟩ ?_
      refine g_aload_n (q := 0) dX6_readPlace_57 rfl rfl ?_
      refine g_get 0 dX6_readPlace_58 fX6_187 rfl (by decide) (sk_65 hs.S) ?_
      refine g_callV2 dX6_readPlace_61 kX6_fail q1551 q1553 qs67 (ci := 6) rfl (by decide) rfl (by omega) (by decide) (sk_65 hs.S) (Nat.le_of_ble_eq_true rfl) (Nat.le_refl _) (Nat.le_refl _) (t_kV hs (tWs_sub rfl) h (fun μ5 hs h => ?_))
      exact h
theorem uX6_readPlace_64 {d : Nat} {μ0 μ : tm_M} {K : tm_M → Prop} (hd : 1 ≤ d) (hs : tFr wX6_readPlace μ0 μ)
    (h : (tm_v μ 65 12 ≤ 0 → (∀ x3, x3 = tm_v μ 65 22 → (0 ≤ x3 ∧ x3 < 8) ∧ ((∀ μ5, μ5 = tm_w μ 81 x3 (tm_v μ 65 19) → (0 ≤ w32 (3 * x3) ∧ w32 (3 * x3) < 24) ∧ ((∀ μ7, μ7 = tm_w μ5 71 (w32 (3 * x3)) 0 → (0 ≤ w32 ((w32 (3 * x3)) + 1) ∧ w32 ((w32 (3 * x3)) + 1) < 24) ∧ ((∀ μ9, μ9 = tm_w μ7 71 (w32 ((w32 (3 * x3)) + 1)) 1 → (0 ≤ w32 ((w32 (3 * x3)) + 2) ∧ w32 ((w32 (3 * x3)) + 2) < 24) ∧ ((∀ μ11, μ11 = tm_w μ9 71 (w32 ((w32 (3 * x3)) + 2)) 1 → (∀ μ12, μ12 = tm_w μ11 73 x3 0 → cV wX6_next mX6_next (d - 1) [(2, 65)] μ12 (fun μ13 => hV wX6_readPlace μ0 mX6_readPlace d K 131 [(0, 2, 65), (1, 0, x3), (2, 0, 0)] [] μ13)))))))))))) ∧ (0 < tm_v μ 65 12 → K μ)) :
    hV wX6_readPlace μ0 mX6_readPlace d K 64 [(0, 2, 65)] [] μ := by
  refine g_aload_n (q := 0) dX6_readPlace_64 rfl rfl ?_
  refine g_get 0 dX6_readPlace_65 fX6_246 rfl (by decide) (sk_65 hs.S) ?_
  refine g_if_le (tgt := 72) dX6_readPlace_68 (by decide) (fun c1 => ?_) (fun c2 => ?_)
  · have h := h.1 c1
    refine g_aload_n (q := 0) dX6_readPlace_72 rfl rfl ?_
    refine g_get 0 dX6_readPlace_73 fX6_266 rfl (by decide) (sk_65 hs.S) ?_
    refine g_istore_nN (fun z => [(0, 2, 65), (1, 0, z)]) dX6_readPlace_76 rfl (by decide) [1, 0] (fun _ => rfl) (fun x3 ex3 => ?_)
    have h := h x3 ex3
    refine g_aload_n (q := 0) dX6_readPlace_77 rfl rfl ?_
    refine g_getC (x := 81) 2 dX6_readPlace_78 fX6_72 rfl (by decide) (sk_65 hs.S) (sv_65_42 hs.S) ?_
    refine g_iload_n (q := 1) dX6_readPlace_81 rfl rfl ?_
    refine g_aload_n (q := 0) dX6_readPlace_82 rfl rfl ?_
    refine g_get 1 dX6_readPlace_83 fX6_199 rfl (by decide) (sk_65 hs.S) ?_
    obtain ⟨c4, h⟩ := h
    refine g_lastore dX6_readPlace_86 (by decide) (sk_81 hs.S) c4.1 (t_lt (sn_81 hs.S) c4.2) (p_w hs sf_81 (tWs_in _ rfl) fun μ5 eμ5 hs => ?_)
    have h := h μ5 eμ5
    refine g_aload_n (q := 0) dX6_readPlace_87 rfl rfl ?_
    refine g_getC (x := 71) 2 dX6_readPlace_88 fX6_41 rfl (by decide) (sk_65 hs.S) (sv_65_32 hs.S) ?_
    refine g_iconst dX6_readPlace_91 (by decide) ?_
    refine g_iload_n (q := 1) dX6_readPlace_92 rfl rfl ?_
    refine g_imul dX6_readPlace_93 ?_
    refine g_iconst dX6_readPlace_94 (by decide) ?_
    obtain ⟨c6, h⟩ := h
    refine g_iastore dX6_readPlace_95 (by decide) (sk_71 hs.S) c6.1 (t_lt (sn_71 hs.S) c6.2) (p_w hs sf_71 (tWs_in _ rfl) fun μ7 eμ7 hs => ?_)
    have h := h μ7 eμ7
    refine g_aload_n (q := 0) dX6_readPlace_96 rfl rfl ?_
    refine g_getC (x := 71) 2 dX6_readPlace_97 fX6_41 rfl (by decide) (sk_65 hs.S) (sv_65_32 hs.S) ?_
    refine g_iconst dX6_readPlace_100 (by decide) ?_
    refine g_iload_n (q := 1) dX6_readPlace_101 rfl rfl ?_
    refine g_imul dX6_readPlace_102 ?_
    refine g_iconst dX6_readPlace_103 (by decide) ?_
    refine g_iadd dX6_readPlace_104 ?_
    refine g_iconst dX6_readPlace_105 (by decide) ?_
    obtain ⟨c8, h⟩ := h
    refine g_iastore dX6_readPlace_106 (by decide) (sk_71 hs.S) c8.1 (t_lt (sn_71 hs.S) c8.2) (p_w hs sf_71 (tWs_in _ rfl) fun μ9 eμ9 hs => ?_)
    have h := h μ9 eμ9
    refine g_aload_n (q := 0) dX6_readPlace_107 rfl rfl ?_
    refine g_getC (x := 71) 2 dX6_readPlace_108 fX6_41 rfl (by decide) (sk_65 hs.S) (sv_65_32 hs.S) ?_
    refine g_iconst dX6_readPlace_111 (by decide) ?_
    refine g_iload_n (q := 1) dX6_readPlace_112 rfl rfl ?_
    refine g_imul dX6_readPlace_113 ?_
    refine g_iconst dX6_readPlace_114 (by decide) ?_
    refine g_iadd dX6_readPlace_115 ?_
    refine g_iconst dX6_readPlace_116 (by decide) ?_
    obtain ⟨c10, h⟩ := h
    refine g_iastore dX6_readPlace_117 (by decide) (sk_71 hs.S) c10.1 (t_lt (sn_71 hs.S) c10.2) (p_w hs sf_71 (tWs_in _ rfl) fun μ11 eμ11 hs => ?_)
    have h := h μ11 eμ11
    refine g_aload_n (q := 0) dX6_readPlace_118 rfl rfl ?_
    refine g_getC (x := 73) 2 dX6_readPlace_119 fX6_47 rfl (by decide) (sk_65 hs.S) (sv_65_34 hs.S) ?_
    refine g_iload_n (q := 1) dX6_readPlace_122 rfl rfl ?_
    refine g_iconst dX6_readPlace_123 (by decide) ?_
    refine g_iastore dX6_readPlace_124 (by decide) (sk_73 hs.S) c4.1 (t_lt (sn_73 hs.S) c4.2) (p_w hs sf_73 (tWs_in _ rfl) fun μ12 eμ12 hs => ?_)
    have h := h μ12 eμ12
    refine g_aload_n (q := 0) dX6_readPlace_125 rfl rfl ?_
    refine g_callV0 dX6_readPlace_126 kX6_next q1488 q1490 qs54 (ci := 6) rfl (by decide) rfl (by omega) (by decide) (sk_65 hs.S) (Nat.le_of_ble_eq_true rfl) (Nat.le_refl _) (Nat.le_refl _) (t_kV hs (tWs_sub rfl) h (fun μ13 hs h => ?_))
    refine g_iconst dX6_readPlace_129 (by decide) ?_
    refine g_istore_n (L' := [(0, 2, 65), (1, 0, x3), (2, 0, 0)]) dX6_readPlace_130 rfl (by decide) [1, 2, 0] rfl ?_
    exact h
  · have h := h.2 c2
    exact g_vret dX6_readPlace_71 rfl (Nat.le_refl _) (Nat.le_refl _) ⟨rfl, hs, h⟩
theorem uX6_readPlace_131 {d : Nat} {μ0 μ : tm_M} {K : tm_M → Prop} {v1 v2 : Int} (hd : 3 ≤ d) (hs : tFr wX6_readPlace μ0 μ)
    (h : (tm_v μ 65 12 ≠ 0 → hV wX6_readPlace μ0 mX6_readPlace d K 214 [(0, 2, 65)] [] μ) ∧ (tm_v μ 65 12 = 0 → (y_feature μ < 0 → hV wX6_readPlace μ0 mX6_readPlace d K 214 [(0, 2, 65)] [] μ) ∧ (0 ≤ y_feature μ → (∀ x11, x11 = y_feature μ → (i_and (i_shr v2 x11) 1 ≠ 1 → hV wX6_readPlace μ0 mX6_readPlace d K 168 [(0, 2, 65), (1, 0, v1), (2, 0, v2), (3, 0, x11)] [] μ) ∧ (i_and (i_shr v2 x11) 1 = 1 → cV wX6_fail mX6_fail (d - 1) [(2, 65), (0, 5), (0, tm_v μ 65 15)] μ (fun μ14 => hV wX6_readPlace μ0 mX6_readPlace d K 168 [(0, 2, 65), (1, 0, v1), (2, 0, v2), (3, 0, x11)] [] μ14)))))) :
    hV wX6_readPlace μ0 mX6_readPlace d K 131 [(0, 2, 65), (1, 0, v1), (2, 0, v2)] [] μ := by
  refine g_aload_n (q := 0) dX6_readPlace_131 rfl rfl ?_
  refine g_get 0 dX6_readPlace_132 fX6_246 rfl (by decide) (sk_65 hs.S) ?_
  refine g_if_ne (tgt := 214) dX6_readPlace_135 (by decide) (fun c1 => ?_) (fun c2 => ?_)
  · have h := h.1 c1
    exact g_less [0] rfl h
  · have h := h.2 c2
    refine g_aload_n (q := 0) dX6_readPlace_138 rfl rfl ?_
    refine g_callV0 dX6_readPlace_139 kX6_feature q1523 q1525 qs60 (ci := 6) rfl (by decide) rfl (by omega) (by decide) (sk_65 hs.S) (Nat.le_of_ble_eq_true rfl) (Nat.le_refl _) (Nat.le_refl _) (t_pI hs (pX6_feature (by omega) hs.S) ?_)
    refine g_if_lt (tgt := 214) dX6_readPlace_142 (by decide) (fun c6 => ?_) (fun c7 => ?_)
    · have h := h.1 c6
      exact g_less [0] rfl h
    · have h := h.2 c7
      refine g_aload_n (q := 0) dX6_readPlace_145 rfl rfl ?_
      refine g_callV0 dX6_readPlace_146 kX6_feature q1523 q1525 qs60 (ci := 6) rfl (by decide) rfl (by omega) (by decide) (sk_65 hs.S) (Nat.le_of_ble_eq_true rfl) (Nat.le_refl _) (Nat.le_refl _) (t_pI hs (pX6_feature (by omega) hs.S) ?_)
      refine g_istore_nN (fun z => [(0, 2, 65), (1, 0, v1), (2, 0, v2), (3, 0, z)]) dX6_readPlace_149 rfl (by decide) [1, 2, 3, 0] (fun _ => rfl) (fun x11 ex11 => ?_)
      have h := h x11 ex11
      refine g_iload_n (q := 2) dX6_readPlace_150 rfl rfl ?_
      refine g_iload_n (q := 3) dX6_readPlace_151 rfl rfl ?_
      refine g_ishr dX6_readPlace_152 ?_
      refine g_iconst dX6_readPlace_153 (by decide) ?_
      refine g_iand dX6_readPlace_154 ?_
      refine g_iconst dX6_readPlace_155 (by decide) ?_
      refine g_icmp_ne (tgt := 168) dX6_readPlace_156 (by decide) (fun c12 => ?_) (fun c13 => ?_)
      · have h := h.1 c12
        exact h
      · have h := h.2 c13
        refine g_aload_n (q := 0) dX6_readPlace_159 rfl rfl ?_
        refine g_iconst dX6_readPlace_160 (by decide) ?_
        refine g_aload_n (q := 0) dX6_readPlace_161 rfl rfl ?_
        refine g_get 0 dX6_readPlace_162 fX6_187 rfl (by decide) (sk_65 hs.S) ?_
        refine g_callV2 dX6_readPlace_165 kX6_fail q1551 q1553 qs67 (ci := 6) rfl (by decide) rfl (by omega) (by decide) (sk_65 hs.S) (Nat.le_of_ble_eq_true rfl) (Nat.le_refl _) (Nat.le_refl _) (t_kV hs (tWs_sub rfl) h (fun μ14 hs h => ?_))
        exact h
theorem uX6_readPlace_168 {d : Nat} {μ0 μ : tm_M} {K : tm_M → Prop} {v1 v2 v3 : Int} (hd : 1 ≤ d) (hs : tFr wX6_readPlace μ0 μ)
    (h : (tm_v μ 65 12 ≤ 0 → (∀ x3, x3 = i_or v2 (i_shl 1 v3) → cV wX6_next mX6_next (d - 1) [(2, 65)] μ (fun μ4 => (v3 ≠ 0 → cI wX6_count mX6_count (d - 1) [(2, 65), (0, 0), (0, 9)] μ4 (fun r8 μ7 => (0 ≤ w32 ((w32 (3 * v1)) + v3) ∧ w32 ((w32 (3 * v1)) + v3) < 24) ∧ ((∀ μ10, μ10 = tm_w μ7 71 (w32 ((w32 (3 * v1)) + v3)) r8 → hV wX6_readPlace μ0 mX6_readPlace d K 131 [(0, 2, 65), (1, 0, v1), (2, 0, x3)] [] μ10)))) ∧ (v3 = 0 → cI wX6_count mX6_count (d - 1) [(2, 65), (0, 0), (0, 5)] μ4 (fun r12 μ11 => (0 ≤ w32 ((w32 (3 * v1)) + v3) ∧ w32 ((w32 (3 * v1)) + v3) < 24) ∧ ((∀ μ14, μ14 = tm_w μ11 71 (w32 ((w32 (3 * v1)) + v3)) r12 → hV wX6_readPlace μ0 mX6_readPlace d K 131 [(0, 2, 65), (1, 0, v1), (2, 0, x3)] [] μ14))))))) ∧ (0 < tm_v μ 65 12 → K μ)) :
    hV wX6_readPlace μ0 mX6_readPlace d K 168 [(0, 2, 65), (1, 0, v1), (2, 0, v2), (3, 0, v3)] [] μ := by
  refine g_aload_n (q := 0) dX6_readPlace_168 rfl rfl ?_
  refine g_get 0 dX6_readPlace_169 fX6_246 rfl (by decide) (sk_65 hs.S) ?_
  refine g_if_le (tgt := 176) dX6_readPlace_172 (by decide) (fun c1 => ?_) (fun c2 => ?_)
  · have h := h.1 c1
    refine g_iload_n (q := 2) dX6_readPlace_176 rfl rfl ?_
    refine g_iconst dX6_readPlace_177 (by decide) ?_
    refine g_iload_n (q := 3) dX6_readPlace_178 rfl rfl ?_
    refine g_ishl dX6_readPlace_179 ?_
    refine g_ior dX6_readPlace_180 ?_
    refine g_istore_nN (fun z => [(0, 2, 65), (1, 0, v1), (2, 0, z), (3, 0, v3)]) dX6_readPlace_181 rfl (by decide) [1, 2, 0, 3] (fun _ => rfl) (fun x3 ex3 => ?_)
    have h := h x3 ex3
    refine g_aload_n (q := 0) dX6_readPlace_182 rfl rfl ?_
    refine g_callV0 dX6_readPlace_183 kX6_next q1488 q1490 qs54 (ci := 6) rfl (by decide) rfl (by omega) (by decide) (sk_65 hs.S) (Nat.le_of_ble_eq_true rfl) (Nat.le_refl _) (Nat.le_refl _) (t_kV hs (tWs_sub rfl) h (fun μ4 hs h => ?_))
    refine g_aload_n (q := 0) dX6_readPlace_186 rfl rfl ?_
    refine g_getC (x := 71) 2 dX6_readPlace_187 fX6_41 rfl (by decide) (sk_65 hs.S) (sv_65_32 hs.S) ?_
    refine g_iconst dX6_readPlace_190 (by decide) ?_
    refine g_iload_n (q := 1) dX6_readPlace_191 rfl rfl ?_
    refine g_imul dX6_readPlace_192 ?_
    refine g_iload_n (q := 3) dX6_readPlace_193 rfl rfl ?_
    refine g_iadd dX6_readPlace_194 ?_
    refine g_aload_n (q := 0) dX6_readPlace_195 rfl rfl ?_
    refine g_iconst dX6_readPlace_196 (by decide) ?_
    refine g_iload_n (q := 3) dX6_readPlace_197 rfl rfl ?_
    refine g_if_ne (tgt := 205) dX6_readPlace_198 (by decide) (fun c5 => ?_) (fun c6 => ?_)
    · have h := h.1 c5
      refine g_bipush dX6_readPlace_205 ⟨by decide, by decide, rfl⟩ ?_
      refine g_callV2 dX6_readPlace_207 kX6_count q1559 q1561 qs69 (ci := 6) rfl (by decide) rfl (by omega) (by decide) (sk_65 hs.S) (Nat.le_of_ble_eq_true rfl) (Nat.le_refl _) (Nat.le_refl _) (t_kI hs (tWs_sub rfl) h (fun r8 μ7 hs h => ?_))
      obtain ⟨c9, h⟩ := h
      refine g_iastore dX6_readPlace_210 (by decide) (sk_71 hs.S) c9.1 (t_lt (sn_71 hs.S) c9.2) (p_w hs sf_71 (tWs_in _ rfl) fun μ10 eμ10 hs => ?_)
      have h := h μ10 eμ10
      refine g_goto (tgt := 131) dX6_readPlace_211 (by decide) ?_
      exact g_less [0, 1, 2] rfl h
    · have h := h.2 c6
      refine g_iconst dX6_readPlace_201 (by decide) ?_
      refine g_goto (tgt := 207) dX6_readPlace_202 (by decide) ?_
      refine g_callV2 dX6_readPlace_207 kX6_count q1559 q1561 qs69 (ci := 6) rfl (by decide) rfl (by omega) (by decide) (sk_65 hs.S) (Nat.le_of_ble_eq_true rfl) (Nat.le_refl _) (Nat.le_refl _) (t_kI hs (tWs_sub rfl) h (fun r12 μ11 hs h => ?_))
      obtain ⟨c13, h⟩ := h
      refine g_iastore dX6_readPlace_210 (by decide) (sk_71 hs.S) c13.1 (t_lt (sn_71 hs.S) c13.2) (p_w hs sf_71 (tWs_in _ rfl) fun μ14 eμ14 hs => ?_)
      have h := h μ14 eμ14
      refine g_goto (tgt := 131) dX6_readPlace_211 (by decide) ?_
      exact g_less [0, 1, 2] rfl h
  · have h := h.2 c2
    exact g_vret dX6_readPlace_175 rfl (Nat.le_refl _) (Nat.le_refl _) ⟨rfl, hs, h⟩
theorem uX6_readPlace_214 {d : Nat} {μ0 μ : tm_M} {K : tm_M → Prop} (hd : 1 ≤ d) (hs : tFr wX6_readPlace μ0 μ)
    (h : (tm_v μ 65 14 ≠ 3 → cV wX6_must mX6_must (d - 1) [(2, 65), (0, 0)] μ (fun μ3 => (tm_v μ3 65 12 ≠ 0 → hV wX6_readPlace μ0 mX6_readPlace d K 248 [] [] μ3) ∧ (tm_v μ3 65 12 = 0 → (∀ μ6, μ6 = tm_w μ3 65 22 (w32 ((tm_v μ3 65 22) + 1)) → hV wX6_readPlace μ0 mX6_readPlace d K 248 [] [] μ6)))) ∧ (tm_v μ 65 14 = 3 → cV wX6_must mX6_must (d - 1) [(2, 65), (0, 1)] μ (fun μ7 => (tm_v μ7 65 12 ≠ 0 → hV wX6_readPlace μ0 mX6_readPlace d K 248 [] [] μ7) ∧ (tm_v μ7 65 12 = 0 → (∀ μ10, μ10 = tm_w μ7 65 22 (w32 ((tm_v μ7 65 22) + 1)) → hV wX6_readPlace μ0 mX6_readPlace d K 248 [] [] μ10))))) :
    hV wX6_readPlace μ0 mX6_readPlace d K 214 [(0, 2, 65)] [] μ := by
  refine g_aload_n (q := 0) dX6_readPlace_214 rfl rfl ?_
  refine g_aload_n (q := 0) dX6_readPlace_215 rfl rfl ?_
  refine g_get 0 dX6_readPlace_216 fX6_193 rfl (by decide) (sk_65 hs.S) ?_
  refine g_iconst dX6_readPlace_219 (by decide) ?_
  refine g_icmp_ne (tgt := 227) dX6_readPlace_220 (by decide) (fun c1 => ?_) (fun c2 => ?_)
  · have h := h.1 c1
    refine g_iconst dX6_readPlace_227 (by decide) ?_
    refine g_callV1 dX6_readPlace_228 kX6_must q1566 q1568 qs70 (ci := 6) rfl (by decide) rfl (by omega) (by decide) (sk_65 hs.S) (Nat.le_of_ble_eq_true rfl) (Nat.le_refl _) (Nat.le_refl _) (t_kV hs (tWs_sub rfl) h (fun μ3 hs h => ?_))
    refine g_aload_n (q := 0) dX6_readPlace_231 rfl rfl ?_
    refine g_get 0 dX6_readPlace_232 fX6_246 rfl (by decide) (sk_65 hs.S) ?_
    refine g_if_ne (tgt := 248) dX6_readPlace_235 (by decide) (fun c4 => ?_) (fun c5 => ?_)
    · have h := h.1 c4
      exact g_less [] rfl h
    · have h := h.2 c5
      refine g_aload_n (q := 0) dX6_readPlace_238 rfl rfl ?_
      refine g_dup dX6_readPlace_239 (by decide) ?_
      refine g_get 0 dX6_readPlace_240 fX6_266 rfl (by decide) (sk_65 hs.S) ?_
      refine g_iconst dX6_readPlace_243 (by decide) ?_
      refine g_iadd dX6_readPlace_244 ?_
      refine g_put dX6_readPlace_245 fX6_266 rfl (by decide) (sk_65 hs.S) (fun e => absurd e (by decide)) (p_wj hs (by decide) (tWs_inF rfl) fun μ6 eμ6 hs => ?_)
      have h := h μ6 eμ6
      exact g_less [] rfl h
  · have h := h.2 c2
    refine g_iconst dX6_readPlace_223 (by decide) ?_
    refine g_goto (tgt := 228) dX6_readPlace_224 (by decide) ?_
    refine g_callV1 dX6_readPlace_228 kX6_must q1566 q1568 qs70 (ci := 6) rfl (by decide) rfl (by omega) (by decide) (sk_65 hs.S) (Nat.le_of_ble_eq_true rfl) (Nat.le_refl _) (Nat.le_refl _) (t_kV hs (tWs_sub rfl) h (fun μ7 hs h => ?_))
    refine g_aload_n (q := 0) dX6_readPlace_231 rfl rfl ?_
    refine g_get 0 dX6_readPlace_232 fX6_246 rfl (by decide) (sk_65 hs.S) ?_
    refine g_if_ne (tgt := 248) dX6_readPlace_235 (by decide) (fun c8 => ?_) (fun c9 => ?_)
    · have h := h.1 c8
      exact g_less [] rfl h
    · have h := h.2 c9
      refine g_aload_n (q := 0) dX6_readPlace_238 rfl rfl ?_
      refine g_dup dX6_readPlace_239 (by decide) ?_
      refine g_get 0 dX6_readPlace_240 fX6_266 rfl (by decide) (sk_65 hs.S) ?_
      refine g_iconst dX6_readPlace_243 (by decide) ?_
      refine g_iadd dX6_readPlace_244 ?_
      refine g_put dX6_readPlace_245 fX6_266 rfl (by decide) (sk_65 hs.S) (fun e => absurd e (by decide)) (p_wj hs (by decide) (tWs_inF rfl) fun μ10 eμ10 hs => ?_)
      have h := h μ10 eμ10
      exact g_less [] rfl h
theorem uX6_readPlace_248 {d : Nat} {μ0 μ : tm_M} {K : tm_M → Prop} (hs : tFr wX6_readPlace μ0 μ)
    (h : K μ) :
    hV wX6_readPlace μ0 mX6_readPlace d K 248 [] [] μ := by
  exact g_vret dX6_readPlace_248 rfl (Nat.le_refl _) (Nat.le_refl _) ⟨rfl, hs, h⟩
theorem uX6_readLane_0 {d : Nat} {μ0 μ : tm_M} {K : tm_M → Prop} (hd : 1 ≤ d) (hs : tFr wX6_readLane μ0 μ)
    (h : (tm_v μ 65 23 ≠ 12 → hV wX6_readLane μ0 mX6_readLane d K 19 [(0, 2, 65)] [] μ) ∧ (tm_v μ 65 23 = 12 → cV wX6_fail mX6_fail (d - 1) [(2, 65), (0, 6), (0, tm_v μ 65 15)] μ (fun μ3 => hV wX6_readLane μ0 mX6_readLane d K 19 [(0, 2, 65)] [] μ3))) :
    hV wX6_readLane μ0 mX6_readLane d K 0 [(0, 2, 65)] [] μ := by
  refine g_aload_n (q := 0) dX6_readLane_0 rfl rfl ?_
  refine g_get 0 dX6_readLane_1 fX6_282 rfl (by decide) (sk_65 hs.S) ?_
  refine g_bipush dX6_readLane_4 ⟨by decide, by decide, rfl⟩ ?_
  refine g_icmp_ne (tgt := 19) dX6_readLane_6 (by decide) (fun c1 => ?_) (fun c2 => ?_)
  · have h := h.1 c1
    exact h
  · have h := h.2 c2
    refine g_aload_n (q := 0) dX6_readLane_9 rfl rfl ?_
    refine g_bipush dX6_readLane_10 ⟨by decide, by decide, rfl⟩ ?_
    refine g_aload_n (q := 0) dX6_readLane_12 rfl rfl ?_
    refine g_get 0 dX6_readLane_13 fX6_187 rfl (by decide) (sk_65 hs.S) ?_
    refine g_callV2 dX6_readLane_16 kX6_fail q1551 q1553 qs67 (ci := 6) rfl (by decide) rfl (by omega) (by decide) (sk_65 hs.S) (Nat.le_of_ble_eq_true rfl) (Nat.le_refl _) (Nat.le_refl _) (t_kV hs (tWs_sub rfl) h (fun μ3 hs h => ?_))
    exact h
theorem uX6_readLane_19 {d : Nat} {μ0 μ : tm_M} {K : tm_M → Prop} (hd : 1 ≤ d) (hs : tFr wX6_readLane μ0 μ)
    (h : (tm_v μ 65 12 ≤ 0 → cV wX6_next mX6_next (d - 1) [(2, 65)] μ (fun μ3 => cI wX6_told mX6_told (d - 1) [(2, 65)] μ3 (fun r5 μ4 => (tm_v μ4 65 12 ≠ 0 → hV wX6_readLane μ0 mX6_readLane d K 63 [(0, 2, 65), (1, 0, r5)] [] μ4) ∧ (tm_v μ4 65 12 = 0 → (0 ≤ r5 ∧ r5 < 8) ∧ ((tm_v μ4 73 r5 ≠ 4 → hV wX6_readLane μ0 mX6_readLane d K 63 [(0, 2, 65), (1, 0, r5)] [] μ4) ∧ (tm_v μ4 73 r5 = 4 → cV wX6_fail mX6_fail (d - 1) [(2, 65), (0, 6), (0, tm_v μ4 65 15)] μ4 (fun μ11 => hV wX6_readLane μ0 mX6_readLane d K 63 [(0, 2, 65), (1, 0, r5)] [] μ11))))))) ∧ (0 < tm_v μ 65 12 → K μ)) :
    hV wX6_readLane μ0 mX6_readLane d K 19 [(0, 2, 65)] [] μ := by
  refine g_aload_n (q := 0) dX6_readLane_19 rfl rfl ?_
  refine g_get 0 dX6_readLane_20 fX6_246 rfl (by decide) (sk_65 hs.S) ?_
  refine g_if_le (tgt := 27) dX6_readLane_23 (by decide) (fun c1 => ?_) (fun c2 => ?_)
  · have h := h.1 c1
    refine g_aload_n (q := 0) dX6_readLane_27 rfl rfl ?_
    refine g_callV0 dX6_readLane_28 kX6_next q1488 q1490 qs54 (ci := 6) rfl (by decide) rfl (by omega) (by decide) (sk_65 hs.S) (Nat.le_of_ble_eq_true rfl) (Nat.le_refl _) (Nat.le_refl _) (t_kV hs (tWs_sub rfl) h (fun μ3 hs h => ?_))
    refine g_aload_n (q := 0) dX6_readLane_31 rfl rfl ?_
    refine g_callV0 dX6_readLane_32 kX6_told q1574 q1576 qs72 (ci := 6) rfl (by decide) rfl (by omega) (by decide) (sk_65 hs.S) (Nat.le_of_ble_eq_true rfl) (Nat.le_refl _) (Nat.le_refl _) (t_kI hs (tWs_sub rfl) h (fun r5 μ4 hs h => ?_))
    refine g_istore_n (L' := [(0, 2, 65), (1, 0, r5)]) dX6_readLane_35 rfl (by decide) [1, 0] rfl ?_
    refine g_aload_n (q := 0) dX6_readLane_36 rfl rfl ?_
    refine g_get 0 dX6_readLane_37 fX6_246 rfl (by decide) (sk_65 hs.S) ?_
    refine g_if_ne (tgt := 63) dX6_readLane_40 (by decide) (fun c6 => ?_) (fun c7 => ?_)
    · have h := h.1 c6
      exact h
    · have h := h.2 c7
      refine g_aload_n (q := 0) dX6_readLane_43 rfl rfl ?_
      refine g_getC (x := 73) 2 dX6_readLane_44 fX6_47 rfl (by decide) (sk_65 hs.S) (sv_65_34 hs.S) ?_
      refine g_iload_n (q := 1) dX6_readLane_47 rfl rfl ?_
      obtain ⟨c8, h⟩ := h
      refine g_iaload dX6_readLane_48 (by decide) (sk_73 hs.S) c8.1 (t_lt (sn_73 hs.S) c8.2) ?_
      refine g_iconst dX6_readLane_49 (by decide) ?_
      refine g_icmp_ne (tgt := 63) dX6_readLane_50 (by decide) (fun c9 => ?_) (fun c10 => ?_)
      · have h := h.1 c9
        exact h
      · have h := h.2 c10
        refine g_aload_n (q := 0) dX6_readLane_53 rfl rfl ?_
        refine g_bipush dX6_readLane_54 ⟨by decide, by decide, rfl⟩ ?_
        refine g_aload_n (q := 0) dX6_readLane_56 rfl rfl ?_
        refine g_get 0 dX6_readLane_57 fX6_187 rfl (by decide) (sk_65 hs.S) ?_
        refine g_callV2 dX6_readLane_60 kX6_fail q1551 q1553 qs67 (ci := 6) rfl (by decide) rfl (by omega) (by decide) (sk_65 hs.S) (Nat.le_of_ble_eq_true rfl) (Nat.le_refl _) (Nat.le_refl _) (t_kV hs (tWs_sub rfl) h (fun μ11 hs h => ?_))
        exact h
  · have h := h.2 c2
    exact g_vret dX6_readLane_26 rfl (Nat.le_refl _) (Nat.le_refl _) ⟨rfl, hs, h⟩
theorem uX6_readLane_63 {d : Nat} {μ0 μ : tm_M} {K : tm_M → Prop} {v1 : Int} (hd : 1 ≤ d) (hs : tFr wX6_readLane μ0 μ)
    (h : (tm_v μ 65 12 ≠ 0 → hV wX6_readLane μ0 mX6_readLane d K 74 [(0, 2, 65), (1, 0, v1)] [] μ) ∧ (tm_v μ 65 12 = 0 → cV wX6_next mX6_next (d - 1) [(2, 65)] μ (fun μ3 => hV wX6_readLane μ0 mX6_readLane d K 74 [(0, 2, 65), (1, 0, v1)] [] μ3))) :
    hV wX6_readLane μ0 mX6_readLane d K 63 [(0, 2, 65), (1, 0, v1)] [] μ := by
  refine g_aload_n (q := 0) dX6_readLane_63 rfl rfl ?_
  refine g_get 0 dX6_readLane_64 fX6_246 rfl (by decide) (sk_65 hs.S) ?_
  refine g_if_ne (tgt := 74) dX6_readLane_67 (by decide) (fun c1 => ?_) (fun c2 => ?_)
  · have h := h.1 c1
    exact h
  · have h := h.2 c2
    refine g_aload_n (q := 0) dX6_readLane_70 rfl rfl ?_
    refine g_callV0 dX6_readLane_71 kX6_next q1488 q1490 qs54 (ci := 6) rfl (by decide) rfl (by omega) (by decide) (sk_65 hs.S) (Nat.le_of_ble_eq_true rfl) (Nat.le_refl _) (Nat.le_refl _) (t_kV hs (tWs_sub rfl) h (fun μ3 hs h => ?_))
    exact h
theorem uX6_readLane_74 {d : Nat} {μ0 μ : tm_M} {K : tm_M → Prop} {v1 : Int} (hd : 3 ≤ d) (hs : tFr wX6_readLane μ0 μ)
    (h : cV wX6_must mX6_must (d - 1) [(2, 65), (0, b2i (tm_v μ 65 14 = 1 ∧ tm_v μ 65 19 = 655))] μ (fun μ4 => cI wX6_told mX6_told (d - 1) [(2, 65)] μ4 (fun r6 μ5 => (tm_v μ5 65 12 ≠ 0 → hV wX6_readLane μ0 mX6_readLane d K 108 [(0, 2, 65), (1, 0, v1), (2, 0, r6)] [] μ5) ∧ (tm_v μ5 65 12 = 0 → (v1 ≠ r6 → hV wX6_readLane μ0 mX6_readLane d K 108 [(0, 2, 65), (1, 0, v1), (2, 0, r6)] [] μ5) ∧ (v1 = r6 → cV wX6_fail mX6_fail (d - 1) [(2, 65), (0, 5), (0, tm_v μ5 65 15)] μ5 (fun μ11 => hV wX6_readLane μ0 mX6_readLane d K 108 [(0, 2, 65), (1, 0, v1), (2, 0, r6)] [] μ11)))))) :
    hV wX6_readLane μ0 mX6_readLane d K 74 [(0, 2, 65), (1, 0, v1)] [] μ := by
  refine g_aload_n (q := 0) dX6_readLane_74 rfl rfl ?_
  refine g_aload_n (q := 0) dX6_readLane_75 rfl rfl ?_
  refine g_callV0 dX6_readLane_76 kX6_isTo q1531 q1533 qs62 (ci := 6) rfl (by decide) rfl (by omega) (by decide) (sk_65 hs.S) (Nat.le_of_ble_eq_true rfl) (Nat.le_refl _) (Nat.le_refl _) (t_pI hs (pX6_isTo (by omega) hs.S) ?_)
  refine g_callV1 dX6_readLane_79 kX6_must q1566 q1568 qs70 (ci := 6) rfl (by decide) rfl (by omega) (by decide) (sk_65 hs.S) (Nat.le_of_ble_eq_true rfl) (Nat.le_refl _) (Nat.le_refl _) (t_kV hs (tWs_sub rfl) h (fun μ4 hs h => ?_))
  refine g_aload_n (q := 0) dX6_readLane_82 rfl rfl ?_
  refine g_callV0 dX6_readLane_83 kX6_told q1574 q1576 qs72 (ci := 6) rfl (by decide) rfl (by omega) (by decide) (sk_65 hs.S) (Nat.le_of_ble_eq_true rfl) (Nat.le_refl _) (Nat.le_refl _) (t_kI hs (tWs_sub rfl) h (fun r6 μ5 hs h => ?_))
  refine g_istore_n (L' := [(0, 2, 65), (1, 0, v1), (2, 0, r6)]) dX6_readLane_86 rfl (by decide) [1, 2, 0] rfl ?_
  refine g_aload_n (q := 0) dX6_readLane_87 rfl rfl ?_
  refine g_get 0 dX6_readLane_88 fX6_246 rfl (by decide) (sk_65 hs.S) ?_
  refine g_if_ne (tgt := 108) dX6_readLane_91 (by decide) (fun c7 => ?_) (fun c8 => ?_)
  · have h := h.1 c7
    exact h
  · have h := h.2 c8
    refine g_iload_n (q := 1) dX6_readLane_94 rfl rfl ?_
    refine g_iload_n (q := 2) dX6_readLane_95 rfl rfl ?_
    refine g_icmp_ne (tgt := 108) dX6_readLane_96 (by decide) (fun c9 => ?_) (fun c10 => ?_)
    · have h := h.1 c9
      exact h
    · have h := h.2 c10
      refine g_aload_n (q := 0) dX6_readLane_99 rfl rfl ?_
      refine g_iconst dX6_readLane_100 (by decide) ?_
      refine g_aload_n (q := 0) dX6_readLane_101 rfl rfl ?_
      refine g_get 0 dX6_readLane_102 fX6_187 rfl (by decide) (sk_65 hs.S) ?_
      refine g_callV2 dX6_readLane_105 kX6_fail q1551 q1553 qs67 (ci := 6) rfl (by decide) rfl (by omega) (by decide) (sk_65 hs.S) (Nat.le_of_ble_eq_true rfl) (Nat.le_refl _) (Nat.le_refl _) (t_kV hs (tWs_sub rfl) h (fun μ11 hs h => ?_))
      exact h
theorem uX6_readLane_108 {d : Nat} {μ0 μ : tm_M} {K : tm_M → Prop} {v1 v2 : Int} (hd : 1 ≤ d) (hs : tFr wX6_readLane μ0 μ)
    (h : (tm_v μ 65 12 ≠ 0 → hV wX6_readLane μ0 mX6_readLane d K 135 [(0, 2, 65), (1, 0, v1), (2, 0, v2)] [] μ) ∧ (tm_v μ 65 12 = 0 → (0 ≤ v2 ∧ v2 < 8) ∧ ((tm_v μ 73 v2 ≠ 4 → hV wX6_readLane μ0 mX6_readLane d K 135 [(0, 2, 65), (1, 0, v1), (2, 0, v2)] [] μ) ∧ (tm_v μ 73 v2 = 4 → cV wX6_fail mX6_fail (d - 1) [(2, 65), (0, 6), (0, tm_v μ 65 15)] μ (fun μ6 => hV wX6_readLane μ0 mX6_readLane d K 135 [(0, 2, 65), (1, 0, v1), (2, 0, v2)] [] μ6))))) :
    hV wX6_readLane μ0 mX6_readLane d K 108 [(0, 2, 65), (1, 0, v1), (2, 0, v2)] [] μ := by
  refine g_aload_n (q := 0) dX6_readLane_108 rfl rfl ?_
  refine g_get 0 dX6_readLane_109 fX6_246 rfl (by decide) (sk_65 hs.S) ?_
  refine g_if_ne (tgt := 135) dX6_readLane_112 (by decide) (fun c1 => ?_) (fun c2 => ?_)
  · have h := h.1 c1
    exact h
  · have h := h.2 c2
    refine g_aload_n (q := 0) dX6_readLane_115 rfl rfl ?_
    refine g_getC (x := 73) 2 dX6_readLane_116 fX6_47 rfl (by decide) (sk_65 hs.S) (sv_65_34 hs.S) ?_
    refine g_iload_n (q := 2) dX6_readLane_119 rfl rfl ?_
    obtain ⟨c3, h⟩ := h
    refine g_iaload dX6_readLane_120 (by decide) (sk_73 hs.S) c3.1 (t_lt (sn_73 hs.S) c3.2) ?_
    refine g_iconst dX6_readLane_121 (by decide) ?_
    refine g_icmp_ne (tgt := 135) dX6_readLane_122 (by decide) (fun c4 => ?_) (fun c5 => ?_)
    · have h := h.1 c4
      exact h
    · have h := h.2 c5
      refine g_aload_n (q := 0) dX6_readLane_125 rfl rfl ?_
      refine g_bipush dX6_readLane_126 ⟨by decide, by decide, rfl⟩ ?_
      refine g_aload_n (q := 0) dX6_readLane_128 rfl rfl ?_
      refine g_get 0 dX6_readLane_129 fX6_187 rfl (by decide) (sk_65 hs.S) ?_
      refine g_callV2 dX6_readLane_132 kX6_fail q1551 q1553 qs67 (ci := 6) rfl (by decide) rfl (by omega) (by decide) (sk_65 hs.S) (Nat.le_of_ble_eq_true rfl) (Nat.le_refl _) (Nat.le_refl _) (t_kV hs (tWs_sub rfl) h (fun μ6 hs h => ?_))
      exact h
theorem uX6_readLane_135 {d : Nat} {μ0 μ : tm_M} {K : tm_M → Prop} {v1 v2 : Int} (hs : tFr wX6_readLane μ0 μ)
    (h : hV wX6_readLane μ0 mX6_readLane d K 137 [(0, 2, 65), (1, 0, v1), (2, 0, v2), (3, 0, 0)] [] μ) :
    hV wX6_readLane μ0 mX6_readLane d K 135 [(0, 2, 65), (1, 0, v1), (2, 0, v2)] [] μ := by
  refine g_iconst dX6_readLane_135 (by decide) ?_
  refine g_istore_n (L' := [(0, 2, 65), (1, 0, v1), (2, 0, v2), (3, 0, 0)]) dX6_readLane_136 rfl (by decide) [1, 2, 3, 0] rfl ?_
  exact h
theorem uX6_readLane_137 {d : Nat} {μ0 μ : tm_M} {K : tm_M → Prop} {v1 v2 v3 : Int} (hs : tFr wX6_readLane μ0 μ)
    (h : (tm_v μ 65 23 ≤ v3 → hV wX6_readLane μ0 mX6_readLane d K 208 [(0, 2, 65), (1, 0, v1), (2, 0, v2)] [] μ) ∧ (v3 < tm_v μ 65 23 → (tm_v μ 65 12 ≠ 0 → hV wX6_readLane μ0 mX6_readLane d K 208 [(0, 2, 65), (1, 0, v1), (2, 0, v2)] [] μ) ∧ (tm_v μ 65 12 = 0 → (0 ≤ v3 ∧ v3 < 12) ∧ ((tm_v μ 78 v3 ≠ v1 → hV wX6_readLane μ0 mX6_readLane d K 172 [(0, 2, 65), (1, 0, v1), (2, 0, v2), (3, 0, v3)] [] μ) ∧ (tm_v μ 78 v3 = v1 → (tm_v μ 79 v3 = v2 → hV wX6_readLane μ0 mX6_readLane d K 192 [(0, 2, 65), (1, 0, v1), (2, 0, v2), (3, 0, v3)] [] μ) ∧ (tm_v μ 79 v3 ≠ v2 → hV wX6_readLane μ0 mX6_readLane d K 172 [(0, 2, 65), (1, 0, v1), (2, 0, v2), (3, 0, v3)] [] μ)))))) :
    hV wX6_readLane μ0 mX6_readLane d K 137 [(0, 2, 65), (1, 0, v1), (2, 0, v2), (3, 0, v3)] [] μ := by
  refine g_iload_n (q := 3) dX6_readLane_137 rfl rfl ?_
  refine g_aload_n (q := 0) dX6_readLane_138 rfl rfl ?_
  refine g_get 0 dX6_readLane_139 fX6_282 rfl (by decide) (sk_65 hs.S) ?_
  refine g_icmp_ge (tgt := 208) dX6_readLane_142 (by decide) (fun c1 => ?_) (fun c2 => ?_)
  · have h := h.1 c1
    exact g_less [0, 1, 2] rfl h
  · have h := h.2 c2
    refine g_aload_n (q := 0) dX6_readLane_145 rfl rfl ?_
    refine g_get 0 dX6_readLane_146 fX6_246 rfl (by decide) (sk_65 hs.S) ?_
    refine g_if_ne (tgt := 208) dX6_readLane_149 (by decide) (fun c3 => ?_) (fun c4 => ?_)
    · have h := h.1 c3
      exact g_less [0, 1, 2] rfl h
    · have h := h.2 c4
      refine g_aload_n (q := 0) dX6_readLane_152 rfl rfl ?_
      refine g_getC (x := 78) 2 dX6_readLane_153 fX6_62 rfl (by decide) (sk_65 hs.S) (sv_65_39 hs.S) ?_
      refine g_iload_n (q := 3) dX6_readLane_156 rfl rfl ?_
      obtain ⟨c5, h⟩ := h
      refine g_iaload dX6_readLane_157 (by decide) (sk_78 hs.S) c5.1 (t_lt (sn_78 hs.S) c5.2) ?_
      refine g_iload_n (q := 1) dX6_readLane_158 rfl rfl ?_
      refine g_icmp_ne (tgt := 172) dX6_readLane_159 (by decide) (fun c6 => ?_) (fun c7 => ?_)
      · have h := h.1 c6
        exact h
      · have h := h.2 c7
        refine g_aload_n (q := 0) dX6_readLane_162 rfl rfl ?_
        refine g_getC (x := 79) 2 dX6_readLane_163 fX6_65 rfl (by decide) (sk_65 hs.S) (sv_65_40 hs.S) ?_
        refine g_iload_n (q := 3) dX6_readLane_166 rfl rfl ?_
        refine g_iaload dX6_readLane_167 (by decide) (sk_79 hs.S) c5.1 (t_lt (sn_79 hs.S) c5.2) ?_
        refine g_iload_n (q := 2) dX6_readLane_168 rfl rfl ?_
        refine g_icmp_eq (tgt := 192) dX6_readLane_169 (by decide) (fun c8 => ?_) (fun c9 => ?_)
        · have h := h.1 c8
          exact h
        · have h := h.2 c9
          exact h
theorem uX6_readLane_172 {d : Nat} {μ0 μ : tm_M} {K : tm_M → Prop} {v1 v2 v3 : Int} (hs : tFr wX6_readLane μ0 μ)
    (h : (0 ≤ v3 ∧ v3 < 12) ∧ ((tm_v μ 78 v3 ≠ v2 → hV wX6_readLane μ0 mX6_readLane d K 202 [(0, 2, 65), (1, 0, v1), (2, 0, v2), (3, 0, v3)] [] μ) ∧ (tm_v μ 78 v3 = v2 → (tm_v μ 79 v3 ≠ v1 → hV wX6_readLane μ0 mX6_readLane d K 202 [(0, 2, 65), (1, 0, v1), (2, 0, v2), (3, 0, v3)] [] μ) ∧ (tm_v μ 79 v3 = v1 → hV wX6_readLane μ0 mX6_readLane d K 192 [(0, 2, 65), (1, 0, v1), (2, 0, v2), (3, 0, v3)] [] μ)))) :
    hV wX6_readLane μ0 mX6_readLane d K 172 [(0, 2, 65), (1, 0, v1), (2, 0, v2), (3, 0, v3)] [] μ := by
  refine g_aload_n (q := 0) dX6_readLane_172 rfl rfl ?_
  refine g_getC (x := 78) 2 dX6_readLane_173 fX6_62 rfl (by decide) (sk_65 hs.S) (sv_65_39 hs.S) ?_
  refine g_iload_n (q := 3) dX6_readLane_176 rfl rfl ?_
  obtain ⟨c1, h⟩ := h
  refine g_iaload dX6_readLane_177 (by decide) (sk_78 hs.S) c1.1 (t_lt (sn_78 hs.S) c1.2) ?_
  refine g_iload_n (q := 2) dX6_readLane_178 rfl rfl ?_
  refine g_icmp_ne (tgt := 202) dX6_readLane_179 (by decide) (fun c2 => ?_) (fun c3 => ?_)
  · have h := h.1 c2
    exact h
  · have h := h.2 c3
    refine g_aload_n (q := 0) dX6_readLane_182 rfl rfl ?_
    refine g_getC (x := 79) 2 dX6_readLane_183 fX6_65 rfl (by decide) (sk_65 hs.S) (sv_65_40 hs.S) ?_
    refine g_iload_n (q := 3) dX6_readLane_186 rfl rfl ?_
    refine g_iaload dX6_readLane_187 (by decide) (sk_79 hs.S) c1.1 (t_lt (sn_79 hs.S) c1.2) ?_
    refine g_iload_n (q := 1) dX6_readLane_188 rfl rfl ?_
    refine g_icmp_ne (tgt := 202) dX6_readLane_189 (by decide) (fun c4 => ?_) (fun c5 => ?_)
    · have h := h.1 c4
      exact h
    · have h := h.2 c5
      exact h
theorem uX6_readLane_192 {d : Nat} {μ0 μ : tm_M} {K : tm_M → Prop} {v1 v2 v3 : Int} (hd : 1 ≤ d) (hs : tFr wX6_readLane μ0 μ)
    (h : cV wX6_fail mX6_fail (d - 1) [(2, 65), (0, 6), (0, tm_v μ 65 15)] μ (fun μ1 => hV wX6_readLane μ0 mX6_readLane d K 202 [(0, 2, 65), (1, 0, v1), (2, 0, v2), (3, 0, v3)] [] μ1)) :
    hV wX6_readLane μ0 mX6_readLane d K 192 [(0, 2, 65), (1, 0, v1), (2, 0, v2), (3, 0, v3)] [] μ := by
  refine g_aload_n (q := 0) dX6_readLane_192 rfl rfl ?_
  refine g_bipush dX6_readLane_193 ⟨by decide, by decide, rfl⟩ ?_
  refine g_aload_n (q := 0) dX6_readLane_195 rfl rfl ?_
  refine g_get 0 dX6_readLane_196 fX6_187 rfl (by decide) (sk_65 hs.S) ?_
  refine g_callV2 dX6_readLane_199 kX6_fail q1551 q1553 qs67 (ci := 6) rfl (by decide) rfl (by omega) (by decide) (sk_65 hs.S) (Nat.le_of_ble_eq_true rfl) (Nat.le_refl _) (Nat.le_refl _) (t_kV hs (tWs_sub rfl) h (fun μ1 hs h => ?_))
  exact h
theorem uX6_readLane_202 {d : Nat} {μ0 μ : tm_M} {K : tm_M → Prop} {v1 v2 v3 : Int} (hs : tFr wX6_readLane μ0 μ)
    (h : hV wX6_readLane μ0 mX6_readLane d K 137 [(0, 2, 65), (1, 0, v1), (2, 0, v2), (3, 0, w32 (v3 + 1))] [] μ) :
    hV wX6_readLane μ0 mX6_readLane d K 202 [(0, 2, 65), (1, 0, v1), (2, 0, v2), (3, 0, v3)] [] μ := by
  refine g_iinc (q := 3) dX6_readLane_202 (by decide) rfl [1, 2, 3, 0] rfl ?_
  refine g_goto (tgt := 137) dX6_readLane_205 (by decide) ?_
  exact h
theorem uX6_readLane_208 {d : Nat} {μ0 μ : tm_M} {K : tm_M → Prop} {v1 v2 : Int} (hd : 1 ≤ d) (hs : tFr wX6_readLane μ0 μ)
    (h : (tm_v μ 65 12 ≠ 0 → hV wX6_readLane μ0 mX6_readLane d K 219 [(0, 2, 65), (1, 0, v1), (2, 0, v2)] [] μ) ∧ (tm_v μ 65 12 = 0 → cV wX6_next mX6_next (d - 1) [(2, 65)] μ (fun μ3 => hV wX6_readLane μ0 mX6_readLane d K 219 [(0, 2, 65), (1, 0, v1), (2, 0, v2)] [] μ3))) :
    hV wX6_readLane μ0 mX6_readLane d K 208 [(0, 2, 65), (1, 0, v1), (2, 0, v2)] [] μ := by
  refine g_aload_n (q := 0) dX6_readLane_208 rfl rfl ?_
  refine g_get 0 dX6_readLane_209 fX6_246 rfl (by decide) (sk_65 hs.S) ?_
  refine g_if_ne (tgt := 219) dX6_readLane_212 (by decide) (fun c1 => ?_) (fun c2 => ?_)
  · have h := h.1 c1
    exact h
  · have h := h.2 c2
    refine g_aload_n (q := 0) dX6_readLane_215 rfl rfl ?_
    refine g_callV0 dX6_readLane_216 kX6_next q1488 q1490 qs54 (ci := 6) rfl (by decide) rfl (by omega) (by decide) (sk_65 hs.S) (Nat.le_of_ble_eq_true rfl) (Nat.le_refl _) (Nat.le_refl _) (t_kV hs (tWs_sub rfl) h (fun μ3 hs h => ?_))
    exact h
theorem uX6_readLane_219 {d : Nat} {μ0 μ : tm_M} {K : tm_M → Prop} {v1 v2 : Int} (hd : 1 ≤ d) (hs : tFr wX6_readLane μ0 μ)
    (h : (tm_v μ 65 14 ≠ 3 → cV wX6_must mX6_must (d - 1) [(2, 65), (0, 0)] μ (fun μ3 => (tm_v μ3 65 12 ≤ 0 → (0 ≤ tm_v μ3 65 23 ∧ tm_v μ3 65 23 < 12) ∧ ((∀ μ7, μ7 = tm_w μ3 78 (tm_v μ3 65 23) v1 → (0 ≤ tm_v μ7 65 23 ∧ tm_v μ7 65 23 < 12) ∧ ((∀ μ9, μ9 = tm_w μ7 79 (tm_v μ7 65 23) v2 → (0 ≤ v1 ∧ v1 < 8) ∧ ((0 ≤ w32 ((w32 (4 * v1)) + (tm_v μ9 73 v1)) ∧ w32 ((w32 (4 * v1)) + (tm_v μ9 73 v1)) < 32) ∧ ((∀ μ12, μ12 = tm_w μ9 75 (w32 ((w32 (4 * v1)) + (tm_v μ9 73 v1))) (tm_v μ9 65 23) → (0 ≤ v2 ∧ v2 < 8) ∧ ((0 ≤ w32 ((w32 (4 * v2)) + (tm_v μ12 73 v2)) ∧ w32 ((w32 (4 * v2)) + (tm_v μ12 73 v2)) < 32) ∧ ((∀ μ15, μ15 = tm_w μ12 75 (w32 ((w32 (4 * v2)) + (tm_v μ12 73 v2))) (tm_v μ12 65 23) → (∀ μ16, μ16 = tm_w μ15 73 v1 (w32 ((tm_v μ15 73 v1) + 1)) → (∀ μ17, μ17 = tm_w μ16 73 v2 (w32 ((tm_v μ16 73 v2) + 1)) → (∀ μ18, μ18 = tm_w μ17 65 23 (w32 ((tm_v μ17 65 23) + 1)) → K μ18)))))))))))))) ∧ (0 < tm_v μ3 65 12 → K μ3))) ∧ (tm_v μ 65 14 = 3 → cV wX6_must mX6_must (d - 1) [(2, 65), (0, 1)] μ (fun μ19 => (tm_v μ19 65 12 ≤ 0 → (0 ≤ tm_v μ19 65 23 ∧ tm_v μ19 65 23 < 12) ∧ ((∀ μ23, μ23 = tm_w μ19 78 (tm_v μ19 65 23) v1 → (0 ≤ tm_v μ23 65 23 ∧ tm_v μ23 65 23 < 12) ∧ ((∀ μ25, μ25 = tm_w μ23 79 (tm_v μ23 65 23) v2 → (0 ≤ v1 ∧ v1 < 8) ∧ ((0 ≤ w32 ((w32 (4 * v1)) + (tm_v μ25 73 v1)) ∧ w32 ((w32 (4 * v1)) + (tm_v μ25 73 v1)) < 32) ∧ ((∀ μ28, μ28 = tm_w μ25 75 (w32 ((w32 (4 * v1)) + (tm_v μ25 73 v1))) (tm_v μ25 65 23) → (0 ≤ v2 ∧ v2 < 8) ∧ ((0 ≤ w32 ((w32 (4 * v2)) + (tm_v μ28 73 v2)) ∧ w32 ((w32 (4 * v2)) + (tm_v μ28 73 v2)) < 32) ∧ ((∀ μ31, μ31 = tm_w μ28 75 (w32 ((w32 (4 * v2)) + (tm_v μ28 73 v2))) (tm_v μ28 65 23) → (∀ μ32, μ32 = tm_w μ31 73 v1 (w32 ((tm_v μ31 73 v1) + 1)) → (∀ μ33, μ33 = tm_w μ32 73 v2 (w32 ((tm_v μ32 73 v2) + 1)) → (∀ μ34, μ34 = tm_w μ33 65 23 (w32 ((tm_v μ33 65 23) + 1)) → K μ34)))))))))))))) ∧ (0 < tm_v μ19 65 12 → K μ19)))) :
    hV wX6_readLane μ0 mX6_readLane d K 219 [(0, 2, 65), (1, 0, v1), (2, 0, v2)] [] μ := by
  refine g_aload_n (q := 0) dX6_readLane_219 rfl rfl ?_
  refine g_aload_n (q := 0) dX6_readLane_220 rfl rfl ?_
  refine g_get 0 dX6_readLane_221 fX6_193 rfl (by decide) (sk_65 hs.S) ?_
  refine g_iconst dX6_readLane_224 (by decide) ?_
  refine g_icmp_ne (tgt := 232) dX6_readLane_225 (by decide) (fun c1 => ?_) (fun c2 => ?_)
  · have h := h.1 c1
    refine g_iconst dX6_readLane_232 (by decide) ?_
    refine g_callV1 dX6_readLane_233 kX6_must q1566 q1568 qs70 (ci := 6) rfl (by decide) rfl (by omega) (by decide) (sk_65 hs.S) (Nat.le_of_ble_eq_true rfl) (Nat.le_refl _) (Nat.le_refl _) (t_kV hs (tWs_sub rfl) h (fun μ3 hs h => ?_))
    refine g_aload_n (q := 0) dX6_readLane_236 rfl rfl ?_
    refine g_get 0 dX6_readLane_237 fX6_246 rfl (by decide) (sk_65 hs.S) ?_
    refine g_if_le (tgt := 244) dX6_readLane_240 (by decide) (fun c4 => ?_) (fun c5 => ?_)
    · have h := h.1 c4
      refine g_aload_n (q := 0) dX6_readLane_244 rfl rfl ?_
      refine g_getC (x := 78) 2 dX6_readLane_245 fX6_62 rfl (by decide) (sk_65 hs.S) (sv_65_39 hs.S) ?_
      refine g_aload_n (q := 0) dX6_readLane_248 rfl rfl ?_
      refine g_get 0 dX6_readLane_249 fX6_282 rfl (by decide) (sk_65 hs.S) ?_
      refine g_iload_n (q := 1) dX6_readLane_252 rfl rfl ?_
      obtain ⟨c6, h⟩ := h
      refine g_iastore dX6_readLane_253 (by decide) (sk_78 hs.S) c6.1 (t_lt (sn_78 hs.S) c6.2) (p_w hs sf_78 (tWs_in _ rfl) fun μ7 eμ7 hs => ?_)
      have h := h μ7 eμ7
      refine g_aload_n (q := 0) dX6_readLane_254 rfl rfl ?_
      refine g_getC (x := 79) 2 dX6_readLane_255 fX6_65 rfl (by decide) (sk_65 hs.S) (sv_65_40 hs.S) ?_
      refine g_aload_n (q := 0) dX6_readLane_258 rfl rfl ?_
      refine g_get 0 dX6_readLane_259 fX6_282 rfl (by decide) (sk_65 hs.S) ?_
      refine g_iload_n (q := 2) dX6_readLane_262 rfl rfl ?_
      obtain ⟨c8, h⟩ := h
      refine g_iastore dX6_readLane_263 (by decide) (sk_79 hs.S) c8.1 (t_lt (sn_79 hs.S) c8.2) (p_w hs sf_79 (tWs_in _ rfl) fun μ9 eμ9 hs => ?_)
      have h := h μ9 eμ9
      refine g_aload_n (q := 0) dX6_readLane_264 rfl rfl ?_
      refine g_getC (x := 75) 2 dX6_readLane_265 fX6_53 rfl (by decide) (sk_65 hs.S) (sv_65_36 hs.S) ?_
      refine g_iconst dX6_readLane_268 (by decide) ?_
      refine g_iload_n (q := 1) dX6_readLane_269 rfl rfl ?_
      refine g_imul dX6_readLane_270 ?_
      refine g_aload_n (q := 0) dX6_readLane_271 rfl rfl ?_
      refine g_getC (x := 73) 2 dX6_readLane_272 fX6_47 rfl (by decide) (sk_65 hs.S) (sv_65_34 hs.S) ?_
      refine g_iload_n (q := 1) dX6_readLane_275 rfl rfl ?_
      obtain ⟨c10, h⟩ := h
      refine g_iaload dX6_readLane_276 (by decide) (sk_73 hs.S) c10.1 (t_lt (sn_73 hs.S) c10.2) ?_
      refine g_iadd dX6_readLane_277 ?_
      refine g_aload_n (q := 0) dX6_readLane_278 rfl rfl ?_
      refine g_get 0 dX6_readLane_279 fX6_282 rfl (by decide) (sk_65 hs.S) ?_
      obtain ⟨c11, h⟩ := h
      refine g_iastore dX6_readLane_282 (by decide) (sk_75 hs.S) c11.1 (t_lt (sn_75 hs.S) c11.2) (p_w hs sf_75 (tWs_in _ rfl) fun μ12 eμ12 hs => ?_)
      have h := h μ12 eμ12
      refine g_aload_n (q := 0) dX6_readLane_283 rfl rfl ?_
      refine g_getC (x := 75) 2 dX6_readLane_284 fX6_53 rfl (by decide) (sk_65 hs.S) (sv_65_36 hs.S) ?_
      refine g_iconst dX6_readLane_287 (by decide) ?_
      refine g_iload_n (q := 2) dX6_readLane_288 rfl rfl ?_
      refine g_imul dX6_readLane_289 ?_
      refine g_aload_n (q := 0) dX6_readLane_290 rfl rfl ?_
      refine g_getC (x := 73) 2 dX6_readLane_291 fX6_47 rfl (by decide) (sk_65 hs.S) (sv_65_34 hs.S) ?_
      refine g_iload_n (q := 2) dX6_readLane_294 rfl rfl ?_
      obtain ⟨c13, h⟩ := h
      refine g_iaload dX6_readLane_295 (by decide) (sk_73 hs.S) c13.1 (t_lt (sn_73 hs.S) c13.2) ?_
      refine g_iadd dX6_readLane_296 ?_
      refine g_aload_n (q := 0) dX6_readLane_297 rfl rfl ?_
      refine g_get 0 dX6_readLane_298 fX6_282 rfl (by decide) (sk_65 hs.S) ?_
      obtain ⟨c14, h⟩ := h
      refine g_iastore dX6_readLane_301 (by decide) (sk_75 hs.S) c14.1 (t_lt (sn_75 hs.S) c14.2) (p_w hs sf_75 (tWs_in _ rfl) fun μ15 eμ15 hs => ?_)
      have h := h μ15 eμ15
      refine g_aload_n (q := 0) dX6_readLane_302 rfl rfl ?_
      refine g_getC (x := 73) 2 dX6_readLane_303 fX6_47 rfl (by decide) (sk_65 hs.S) (sv_65_34 hs.S) ?_
      refine g_iload_n (q := 1) dX6_readLane_306 rfl rfl ?_
      refine g_dup2_11 dX6_readLane_307 (by decide) (by decide) ?_
      refine g_iaload dX6_readLane_308 (by decide) (sk_73 hs.S) c10.1 (t_lt (sn_73 hs.S) c10.2) ?_
      refine g_iconst dX6_readLane_309 (by decide) ?_
      refine g_iadd dX6_readLane_310 ?_
      refine g_iastore dX6_readLane_311 (by decide) (sk_73 hs.S) c10.1 (t_lt (sn_73 hs.S) c10.2) (p_w hs sf_73 (tWs_in _ rfl) fun μ16 eμ16 hs => ?_)
      have h := h μ16 eμ16
      refine g_aload_n (q := 0) dX6_readLane_312 rfl rfl ?_
      refine g_getC (x := 73) 2 dX6_readLane_313 fX6_47 rfl (by decide) (sk_65 hs.S) (sv_65_34 hs.S) ?_
      refine g_iload_n (q := 2) dX6_readLane_316 rfl rfl ?_
      refine g_dup2_11 dX6_readLane_317 (by decide) (by decide) ?_
      refine g_iaload dX6_readLane_318 (by decide) (sk_73 hs.S) c13.1 (t_lt (sn_73 hs.S) c13.2) ?_
      refine g_iconst dX6_readLane_319 (by decide) ?_
      refine g_iadd dX6_readLane_320 ?_
      refine g_iastore dX6_readLane_321 (by decide) (sk_73 hs.S) c13.1 (t_lt (sn_73 hs.S) c13.2) (p_w hs sf_73 (tWs_in _ rfl) fun μ17 eμ17 hs => ?_)
      have h := h μ17 eμ17
      refine g_aload_n (q := 0) dX6_readLane_322 rfl rfl ?_
      refine g_dup dX6_readLane_323 (by decide) ?_
      refine g_get 0 dX6_readLane_324 fX6_282 rfl (by decide) (sk_65 hs.S) ?_
      refine g_iconst dX6_readLane_327 (by decide) ?_
      refine g_iadd dX6_readLane_328 ?_
      refine g_put dX6_readLane_329 fX6_282 rfl (by decide) (sk_65 hs.S) (fun e => absurd e (by decide)) (p_wj hs (by decide) (tWs_inF rfl) fun μ18 eμ18 hs => ?_)
      have h := h μ18 eμ18
      exact g_vret dX6_readLane_332 rfl (Nat.le_refl _) (Nat.le_refl _) ⟨rfl, hs, h⟩
    · have h := h.2 c5
      exact g_vret dX6_readLane_243 rfl (Nat.le_refl _) (Nat.le_refl _) ⟨rfl, hs, h⟩
  · have h := h.2 c2
    refine g_iconst dX6_readLane_228 (by decide) ?_
    refine g_goto (tgt := 233) dX6_readLane_229 (by decide) ?_
    refine g_callV1 dX6_readLane_233 kX6_must q1566 q1568 qs70 (ci := 6) rfl (by decide) rfl (by omega) (by decide) (sk_65 hs.S) (Nat.le_of_ble_eq_true rfl) (Nat.le_refl _) (Nat.le_refl _) (t_kV hs (tWs_sub rfl) h (fun μ19 hs h => ?_))
    refine g_aload_n (q := 0) dX6_readLane_236 rfl rfl ?_
    refine g_get 0 dX6_readLane_237 fX6_246 rfl (by decide) (sk_65 hs.S) ?_
    refine g_if_le (tgt := 244) dX6_readLane_240 (by decide) (fun c20 => ?_) (fun c21 => ?_)
    · have h := h.1 c20
      refine g_aload_n (q := 0) dX6_readLane_244 rfl rfl ?_
      refine g_getC (x := 78) 2 dX6_readLane_245 fX6_62 rfl (by decide) (sk_65 hs.S) (sv_65_39 hs.S) ?_
      refine g_aload_n (q := 0) dX6_readLane_248 rfl rfl ?_
      refine g_get 0 dX6_readLane_249 fX6_282 rfl (by decide) (sk_65 hs.S) ?_
      refine g_iload_n (q := 1) dX6_readLane_252 rfl rfl ?_
      obtain ⟨c22, h⟩ := h
      refine g_iastore dX6_readLane_253 (by decide) (sk_78 hs.S) c22.1 (t_lt (sn_78 hs.S) c22.2) (p_w hs sf_78 (tWs_in _ rfl) fun μ23 eμ23 hs => ?_)
      have h := h μ23 eμ23
      refine g_aload_n (q := 0) dX6_readLane_254 rfl rfl ?_
      refine g_getC (x := 79) 2 dX6_readLane_255 fX6_65 rfl (by decide) (sk_65 hs.S) (sv_65_40 hs.S) ?_
      refine g_aload_n (q := 0) dX6_readLane_258 rfl rfl ?_
      refine g_get 0 dX6_readLane_259 fX6_282 rfl (by decide) (sk_65 hs.S) ?_
      refine g_iload_n (q := 2) dX6_readLane_262 rfl rfl ?_
      obtain ⟨c24, h⟩ := h
      refine g_iastore dX6_readLane_263 (by decide) (sk_79 hs.S) c24.1 (t_lt (sn_79 hs.S) c24.2) (p_w hs sf_79 (tWs_in _ rfl) fun μ25 eμ25 hs => ?_)
      have h := h μ25 eμ25
      refine g_aload_n (q := 0) dX6_readLane_264 rfl rfl ?_
      refine g_getC (x := 75) 2 dX6_readLane_265 fX6_53 rfl (by decide) (sk_65 hs.S) (sv_65_36 hs.S) ?_
      refine g_iconst dX6_readLane_268 (by decide) ?_
      refine g_iload_n (q := 1) dX6_readLane_269 rfl rfl ?_
      refine g_imul dX6_readLane_270 ?_
      refine g_aload_n (q := 0) dX6_readLane_271 rfl rfl ?_
      refine g_getC (x := 73) 2 dX6_readLane_272 fX6_47 rfl (by decide) (sk_65 hs.S) (sv_65_34 hs.S) ?_
      refine g_iload_n (q := 1) dX6_readLane_275 rfl rfl ?_
      obtain ⟨c26, h⟩ := h
      refine g_iaload dX6_readLane_276 (by decide) (sk_73 hs.S) c26.1 (t_lt (sn_73 hs.S) c26.2) ?_
      refine g_iadd dX6_readLane_277 ?_
      refine g_aload_n (q := 0) dX6_readLane_278 rfl rfl ?_
      refine g_get 0 dX6_readLane_279 fX6_282 rfl (by decide) (sk_65 hs.S) ?_
      obtain ⟨c27, h⟩ := h
      refine g_iastore dX6_readLane_282 (by decide) (sk_75 hs.S) c27.1 (t_lt (sn_75 hs.S) c27.2) (p_w hs sf_75 (tWs_in _ rfl) fun μ28 eμ28 hs => ?_)
      have h := h μ28 eμ28
      refine g_aload_n (q := 0) dX6_readLane_283 rfl rfl ?_
      refine g_getC (x := 75) 2 dX6_readLane_284 fX6_53 rfl (by decide) (sk_65 hs.S) (sv_65_36 hs.S) ?_
      refine g_iconst dX6_readLane_287 (by decide) ?_
      refine g_iload_n (q := 2) dX6_readLane_288 rfl rfl ?_
      refine g_imul dX6_readLane_289 ?_
      refine g_aload_n (q := 0) dX6_readLane_290 rfl rfl ?_
      refine g_getC (x := 73) 2 dX6_readLane_291 fX6_47 rfl (by decide) (sk_65 hs.S) (sv_65_34 hs.S) ?_
      refine g_iload_n (q := 2) dX6_readLane_294 rfl rfl ?_
      obtain ⟨c29, h⟩ := h
      refine g_iaload dX6_readLane_295 (by decide) (sk_73 hs.S) c29.1 (t_lt (sn_73 hs.S) c29.2) ?_
      refine g_iadd dX6_readLane_296 ?_
      refine g_aload_n (q := 0) dX6_readLane_297 rfl rfl ?_
      refine g_get 0 dX6_readLane_298 fX6_282 rfl (by decide) (sk_65 hs.S) ?_
      obtain ⟨c30, h⟩ := h
      refine g_iastore dX6_readLane_301 (by decide) (sk_75 hs.S) c30.1 (t_lt (sn_75 hs.S) c30.2) (p_w hs sf_75 (tWs_in _ rfl) fun μ31 eμ31 hs => ?_)
      have h := h μ31 eμ31
      refine g_aload_n (q := 0) dX6_readLane_302 rfl rfl ?_
      refine g_getC (x := 73) 2 dX6_readLane_303 fX6_47 rfl (by decide) (sk_65 hs.S) (sv_65_34 hs.S) ?_
      refine g_iload_n (q := 1) dX6_readLane_306 rfl rfl ?_
      refine g_dup2_11 dX6_readLane_307 (by decide) (by decide) ?_
      refine g_iaload dX6_readLane_308 (by decide) (sk_73 hs.S) c26.1 (t_lt (sn_73 hs.S) c26.2) ?_
      refine g_iconst dX6_readLane_309 (by decide) ?_
      refine g_iadd dX6_readLane_310 ?_
      refine g_iastore dX6_readLane_311 (by decide) (sk_73 hs.S) c26.1 (t_lt (sn_73 hs.S) c26.2) (p_w hs sf_73 (tWs_in _ rfl) fun μ32 eμ32 hs => ?_)
      have h := h μ32 eμ32
      refine g_aload_n (q := 0) dX6_readLane_312 rfl rfl ?_
      refine g_getC (x := 73) 2 dX6_readLane_313 fX6_47 rfl (by decide) (sk_65 hs.S) (sv_65_34 hs.S) ?_
      refine g_iload_n (q := 2) dX6_readLane_316 rfl rfl ?_
      refine g_dup2_11 dX6_readLane_317 (by decide) (by decide) ?_
      refine g_iaload dX6_readLane_318 (by decide) (sk_73 hs.S) c29.1 (t_lt (sn_73 hs.S) c29.2) ?_
      refine g_iconst dX6_readLane_319 (by decide) ?_
      refine g_iadd dX6_readLane_320 ?_
      refine g_iastore dX6_readLane_321 (by decide) (sk_73 hs.S) c29.1 (t_lt (sn_73 hs.S) c29.2) (p_w hs sf_73 (tWs_in _ rfl) fun μ33 eμ33 hs => ?_)
      have h := h μ33 eμ33
      refine g_aload_n (q := 0) dX6_readLane_322 rfl rfl ?_
      refine g_dup dX6_readLane_323 (by decide) ?_
      refine g_get 0 dX6_readLane_324 fX6_282 rfl (by decide) (sk_65 hs.S) ?_
      refine g_iconst dX6_readLane_327 (by decide) ?_
      refine g_iadd dX6_readLane_328 ?_
      refine g_put dX6_readLane_329 fX6_282 rfl (by decide) (sk_65 hs.S) (fun e => absurd e (by decide)) (p_wj hs (by decide) (tWs_inF rfl) fun μ34 eμ34 hs => ?_)
      have h := h μ34 eμ34
      exact g_vret dX6_readLane_332 rfl (Nat.le_refl _) (Nat.le_refl _) ⟨rfl, hs, h⟩
    · have h := h.2 c21
      exact g_vret dX6_readLane_243 rfl (Nat.le_refl _) (Nat.le_refl _) ⟨rfl, hs, h⟩
theorem uX6_readRest_0 {d : Nat} {μ0 μ : tm_M} {K : tm_M → Prop} (hd : 3 ≤ d) (hs : tFr wX6_readRest μ0 μ)
    (h : (∀ x4, x4 = b2i (tm_v μ 65 14 = 1 ∧ tm_v μ 65 19 = 635383) → (∀ x8, x8 = b2i (tm_v μ 65 14 = 1 ∧ tm_v μ 65 19 = 8554067) → (x4 ≠ 0 → hV wX6_readRest μ0 mX6_readRest d K 29 [(0, 2, 65), (1, 0, x4), (2, 0, x8)] [] μ) ∧ (x4 = 0 → (x8 ≠ 0 → hV wX6_readRest μ0 mX6_readRest d K 29 [(0, 2, 65), (1, 0, x4), (2, 0, x8)] [] μ) ∧ (x8 = 0 → (tm_v μ 65 14 = 1 ∧ tm_v μ 65 19 = 3751539 → hV wX6_readRest μ0 mX6_readRest d K 29 [(0, 2, 65), (1, 0, x4), (2, 0, x8)] [] μ) ∧ (¬ (tm_v μ 65 14 = 1 ∧ tm_v μ 65 19 = 3751539) → cV wX6_wrong mX6_wrong (d - 1) [(2, 65)] μ (fun μ18 => hV wX6_readRest μ0 mX6_readRest d K 29 [(0, 2, 65), (1, 0, x4), (2, 0, x8)] [] μ18))))))) :
    hV wX6_readRest μ0 mX6_readRest d K 0 [(0, 2, 65)] [] μ := by
  refine g_aload_n (q := 0) dX6_readRest_0 rfl rfl ?_
  refine g_callV0 dX6_readRest_1 kX6_isSlow q1539 q1541 qs64 (ci := 6) rfl (by decide) rfl (by omega) (by decide) (sk_65 hs.S) (Nat.le_of_ble_eq_true rfl) (Nat.le_refl _) (Nat.le_refl _) (t_pI hs (pX6_isSlow (by omega) hs.S) ?_)
  refine g_istore_nN (fun z => [(0, 2, 65), (1, 0, z)]) dX6_readRest_4 rfl (by decide) [1, 0] (fun _ => rfl) (fun x4 ex4 => ?_)
  have h := h x4 ex4
  refine g_aload_n (q := 0) dX6_readRest_5 rfl rfl ?_
  refine g_callV0 dX6_readRest_6 kX6_isHears q1543 q1545 qs65 (ci := 6) rfl (by decide) rfl (by omega) (by decide) (sk_65 hs.S) (Nat.le_of_ble_eq_true rfl) (Nat.le_refl _) (Nat.le_refl _) (t_pI hs (pX6_isHears (by omega) hs.S) ?_)
  refine g_istore_nN (fun z => [(0, 2, 65), (1, 0, x4), (2, 0, z)]) dX6_readRest_9 rfl (by decide) [1, 2, 0] (fun _ => rfl) (fun x8 ex8 => ?_)
  have h := h x8 ex8
  refine g_iload_n (q := 1) dX6_readRest_10 rfl rfl ?_
  refine g_if_ne (tgt := 29) dX6_readRest_11 (by decide) (fun c9 => ?_) (fun c10 => ?_)
  · have h := h.1 c9
    exact h
  · have h := h.2 c10
    refine g_iload_n (q := 2) dX6_readRest_14 rfl rfl ?_
    refine g_if_ne (tgt := 29) dX6_readRest_15 (by decide) (fun c11 => ?_) (fun c12 => ?_)
    · have h := h.1 c11
      exact h
    · have h := h.2 c12
      refine g_aload_n (q := 0) dX6_readRest_18 rfl rfl ?_
      refine g_callV0 dX6_readRest_19 kX6_isCross q1535 q1537 qs63 (ci := 6) rfl (by decide) rfl (by omega) (by decide) (sk_65 hs.S) (Nat.le_of_ble_eq_true rfl) (Nat.le_refl _) (Nat.le_refl _) (t_pI hs (pX6_isCross (by omega) hs.S) ?_)
      refine g_if_ne (tgt := 29) dX6_readRest_22 (by decide) (fun c16 => ?_) (fun c17 => ?_)
      · have h := h.1 (b2i_1.mp c16)
        exact h
      · have h := h.2 (b2i_0.mp c17)
        refine g_aload_n (q := 0) dX6_readRest_25 rfl rfl ?_
        refine g_callV0 dX6_readRest_26 kX6_wrong q1547 q1549 qs66 (ci := 6) rfl (by decide) rfl (by omega) (by decide) (sk_65 hs.S) (Nat.le_of_ble_eq_true rfl) (Nat.le_refl _) (Nat.le_refl _) (t_kV hs (tWs_sub rfl) h (fun μ18 hs h => ?_))
        exact h
theorem uX6_readRest_29 {d : Nat} {μ0 μ : tm_M} {K : tm_M → Prop} {v1 v2 : Int} (hs : tFr wX6_readRest μ0 μ)
    (h : (tm_v μ 65 12 ≠ 0 → hV wX6_readRest μ0 mX6_readRest d K 80 [(0, 2, 65), (1, 0, v1), (2, 0, v2)] [] μ) ∧ (tm_v μ 65 12 = 0 → (v1 = 0 → (v2 = 0 → (tm_v μ 65 29 = 0 → hV wX6_readRest μ0 mX6_readRest d K 80 [(0, 2, 65), (1, 0, v1), (2, 0, v2)] [] μ) ∧ (tm_v μ 65 29 ≠ 0 → hV wX6_readRest μ0 mX6_readRest d K 71 [(0, 2, 65), (1, 0, v1), (2, 0, v2)] [] μ)) ∧ (v2 ≠ 0 → (tm_v μ 65 61 = 0 → hV wX6_readRest μ0 mX6_readRest d K 80 [(0, 2, 65), (1, 0, v1), (2, 0, v2)] [] μ) ∧ (tm_v μ 65 61 ≠ 0 → hV wX6_readRest μ0 mX6_readRest d K 71 [(0, 2, 65), (1, 0, v1), (2, 0, v2)] [] μ))) ∧ (v1 ≠ 0 → (tm_v μ 65 60 = 0 → hV wX6_readRest μ0 mX6_readRest d K 80 [(0, 2, 65), (1, 0, v1), (2, 0, v2)] [] μ) ∧ (tm_v μ 65 60 ≠ 0 → hV wX6_readRest μ0 mX6_readRest d K 71 [(0, 2, 65), (1, 0, v1), (2, 0, v2)] [] μ)))) :
    hV wX6_readRest μ0 mX6_readRest d K 29 [(0, 2, 65), (1, 0, v1), (2, 0, v2)] [] μ := by
  refine g_aload_n (q := 0) dX6_readRest_29 rfl rfl ?_
  refine g_get 0 dX6_readRest_30 fX6_246 rfl (by decide) (sk_65 hs.S) ?_
  refine g_if_ne (tgt := 80) dX6_readRest_33 (by decide) (fun c1 => ?_) (fun c2 => ?_)
  · have h := h.1 c1
    exact h
  · have h := h.2 c2
    refine g_iload_n (q := 1) dX6_readRest_36 rfl rfl ?_
    refine g_if_eq (tgt := 50) dX6_readRest_37 (by decide) (fun c3 => ?_) (fun c4 => ?_)
    · have h := h.1 c3
      refine g_iload_n (q := 2) dX6_readRest_50 rfl rfl ?_
      refine g_if_eq (tgt := 64) dX6_readRest_51 (by decide) (fun c5 => ?_) (fun c6 => ?_)
      · have h := h.1 c5
        refine g_aload_n (q := 0) dX6_readRest_64 rfl rfl ?_
        refine g_get 0 dX6_readRest_65 fX6_295 rfl (by decide) (sk_65 hs.S) ?_
        refine g_if_eq (tgt := 80) dX6_readRest_68 (by decide) (fun c7 => ?_) (fun c8 => ?_)
        · have h := h.1 c7
          exact h
        · have h := h.2 c8
          exact h
      · have h := h.2 c6
        refine g_aload_n (q := 0) dX6_readRest_54 rfl rfl ?_
        refine g_get 0 dX6_readRest_55 fX6_292 rfl (by decide) (sk_65 hs.S) ?_
        refine g_if_eq (tgt := 80) dX6_readRest_58 (by decide) (fun c9 => ?_) (fun c10 => ?_)
        · have h := h.1 c9
          exact h
        · have h := h.2 c10
          refine g_goto (tgt := 71) dX6_readRest_61 (by decide) ?_
          exact h
    · have h := h.2 c4
      refine g_aload_n (q := 0) dX6_readRest_40 rfl rfl ?_
      refine g_get 0 dX6_readRest_41 fX6_288 rfl (by decide) (sk_65 hs.S) ?_
      refine g_if_eq (tgt := 80) dX6_readRest_44 (by decide) (fun c11 => ?_) (fun c12 => ?_)
      · have h := h.1 c11
        exact h
      · have h := h.2 c12
        refine g_goto (tgt := 71) dX6_readRest_47 (by decide) ?_
        exact h
theorem uX6_readRest_71 {d : Nat} {μ0 μ : tm_M} {K : tm_M → Prop} {v1 v2 : Int} (hd : 1 ≤ d) (hs : tFr wX6_readRest μ0 μ)
    (h : cV wX6_fail mX6_fail (d - 1) [(2, 65), (0, 5), (0, tm_v μ 65 15)] μ (fun μ1 => hV wX6_readRest μ0 mX6_readRest d K 80 [(0, 2, 65), (1, 0, v1), (2, 0, v2)] [] μ1)) :
    hV wX6_readRest μ0 mX6_readRest d K 71 [(0, 2, 65), (1, 0, v1), (2, 0, v2)] [] μ := by
  refine g_aload_n (q := 0) dX6_readRest_71 rfl rfl ?_
  refine g_iconst dX6_readRest_72 (by decide) ?_
  refine g_aload_n (q := 0) dX6_readRest_73 rfl rfl ?_
  refine g_get 0 dX6_readRest_74 fX6_187 rfl (by decide) (sk_65 hs.S) ?_
  refine g_callV2 dX6_readRest_77 kX6_fail q1551 q1553 qs67 (ci := 6) rfl (by decide) rfl (by omega) (by decide) (sk_65 hs.S) (Nat.le_of_ble_eq_true rfl) (Nat.le_refl _) (Nat.le_refl _) (t_kV hs (tWs_sub rfl) h (fun μ1 hs h => ?_))
  exact h
theorem uX6_readRest_80 {d : Nat} {μ0 μ : tm_M} {K : tm_M → Prop} {v1 v2 : Int} (hd : 1 ≤ d) (hs : tFr wX6_readRest μ0 μ)
    (h : (tm_v μ 65 12 ≤ 0 → cV wX6_next mX6_next (d - 1) [(2, 65)] μ (fun μ3 => (v1 = 0 → (v2 = 0 → (∀ μ8, μ8 = tm_w μ3 65 29 1 → hV wX6_readRest μ0 mX6_readRest d K 141 [(0, 2, 65)] [] μ8)) ∧ (v2 ≠ 0 → cI wX6_count mX6_count (d - 1) [(2, 65), (0, 0), (0, 3)] μ3 (fun r10 μ9 => (∀ μ11, μ11 = tm_w μ9 65 27 r10 → (∀ μ12, μ12 = tm_w μ11 65 61 1 → hV wX6_readRest μ0 mX6_readRest d K 141 [(0, 2, 65)] [] μ12))))) ∧ (v1 ≠ 0 → cI wX6_count mX6_count (d - 1) [(2, 65), (0, 1), (0, 4)] μ3 (fun r14 μ13 => (∀ μ15, μ15 = tm_w μ13 65 26 r14 → (∀ μ16, μ16 = tm_w μ15 65 60 1 → hV wX6_readRest μ0 mX6_readRest d K 141 [(0, 2, 65)] [] μ16)))))) ∧ (0 < tm_v μ 65 12 → K μ)) :
    hV wX6_readRest μ0 mX6_readRest d K 80 [(0, 2, 65), (1, 0, v1), (2, 0, v2)] [] μ := by
  refine g_aload_n (q := 0) dX6_readRest_80 rfl rfl ?_
  refine g_get 0 dX6_readRest_81 fX6_246 rfl (by decide) (sk_65 hs.S) ?_
  refine g_if_le (tgt := 88) dX6_readRest_84 (by decide) (fun c1 => ?_) (fun c2 => ?_)
  · have h := h.1 c1
    refine g_aload_n (q := 0) dX6_readRest_88 rfl rfl ?_
    refine g_callV0 dX6_readRest_89 kX6_next q1488 q1490 qs54 (ci := 6) rfl (by decide) rfl (by omega) (by decide) (sk_65 hs.S) (Nat.le_of_ble_eq_true rfl) (Nat.le_refl _) (Nat.le_refl _) (t_kV hs (tWs_sub rfl) h (fun μ3 hs h => ?_))
    refine g_iload_n (q := 1) dX6_readRest_92 rfl rfl ?_
    refine g_if_eq (tgt := 114) dX6_readRest_93 (by decide) (fun c4 => ?_) (fun c5 => ?_)
    · have h := h.1 c4
      refine g_iload_n (q := 2) dX6_readRest_114 rfl rfl ?_
      refine g_if_eq (tgt := 136) dX6_readRest_115 (by decide) (fun c6 => ?_) (fun c7 => ?_)
      · have h := h.1 c6
        refine g_aload_n (q := 0) dX6_readRest_136 rfl rfl ?_
        refine g_iconst dX6_readRest_137 (by decide) ?_
        refine g_put dX6_readRest_138 fX6_295 rfl (by decide) (sk_65 hs.S) (fun _ => by decide) (p_wj hs (by decide) (tWs_inF rfl) fun μ8 eμ8 hs => ?_)
        have h := h μ8 eμ8
        exact g_less [0] rfl h
      · have h := h.2 c7
        refine g_aload_n (q := 0) dX6_readRest_118 rfl rfl ?_
        refine g_aload_n (q := 0) dX6_readRest_119 rfl rfl ?_
        refine g_iconst dX6_readRest_120 (by decide) ?_
        refine g_iconst dX6_readRest_121 (by decide) ?_
        refine g_callV2 dX6_readRest_122 kX6_count q1559 q1561 qs69 (ci := 6) rfl (by decide) rfl (by omega) (by decide) (sk_65 hs.S) (Nat.le_of_ble_eq_true rfl) (Nat.le_refl _) (Nat.le_refl _) (t_kI hs (tWs_sub rfl) h (fun r10 μ9 hs h => ?_))
        refine g_put dX6_readRest_125 fX6_301 rfl (by decide) (sk_65 hs.S) (fun e => absurd e (by decide)) (p_wj hs (by decide) (tWs_inF rfl) fun μ11 eμ11 hs => ?_)
        have h := h μ11 eμ11
        refine g_aload_n (q := 0) dX6_readRest_128 rfl rfl ?_
        refine g_iconst dX6_readRest_129 (by decide) ?_
        refine g_put dX6_readRest_130 fX6_292 rfl (by decide) (sk_65 hs.S) (fun _ => by decide) (p_wj hs (by decide) (tWs_inF rfl) fun μ12 eμ12 hs => ?_)
        have h := h μ12 eμ12
        refine g_goto (tgt := 141) dX6_readRest_133 (by decide) ?_
        exact g_less [0] rfl h
    · have h := h.2 c5
      refine g_aload_n (q := 0) dX6_readRest_96 rfl rfl ?_
      refine g_aload_n (q := 0) dX6_readRest_97 rfl rfl ?_
      refine g_iconst dX6_readRest_98 (by decide) ?_
      refine g_iconst dX6_readRest_99 (by decide) ?_
      refine g_callV2 dX6_readRest_100 kX6_count q1559 q1561 qs69 (ci := 6) rfl (by decide) rfl (by omega) (by decide) (sk_65 hs.S) (Nat.le_of_ble_eq_true rfl) (Nat.le_refl _) (Nat.le_refl _) (t_kI hs (tWs_sub rfl) h (fun r14 μ13 hs h => ?_))
      refine g_put dX6_readRest_103 fX6_298 rfl (by decide) (sk_65 hs.S) (fun e => absurd e (by decide)) (p_wj hs (by decide) (tWs_inF rfl) fun μ15 eμ15 hs => ?_)
      have h := h μ15 eμ15
      refine g_aload_n (q := 0) dX6_readRest_106 rfl rfl ?_
      refine g_iconst dX6_readRest_107 (by decide) ?_
      refine g_put dX6_readRest_108 fX6_288 rfl (by decide) (sk_65 hs.S) (fun _ => by decide) (p_wj hs (by decide) (tWs_inF rfl) fun μ16 eμ16 hs => ?_)
      have h := h μ16 eμ16
      refine g_goto (tgt := 141) dX6_readRest_111 (by decide) ?_
      exact g_less [0] rfl h
  · have h := h.2 c2
    exact g_vret dX6_readRest_87 rfl (Nat.le_refl _) (Nat.le_refl _) ⟨rfl, hs, h⟩
theorem uX6_readRest_141 {d : Nat} {μ0 μ : tm_M} {K : tm_M → Prop} (hd : 1 ≤ d) (hs : tFr wX6_readRest μ0 μ)
    (h : (tm_v μ 65 14 ≠ 3 → cV wX6_must mX6_must (d - 1) [(2, 65), (0, 0)] μ (fun μ3 => K μ3)) ∧ (tm_v μ 65 14 = 3 → cV wX6_must mX6_must (d - 1) [(2, 65), (0, 1)] μ (fun μ4 => K μ4))) :
    hV wX6_readRest μ0 mX6_readRest d K 141 [(0, 2, 65)] [] μ := by
  refine g_aload_n (q := 0) dX6_readRest_141 rfl rfl ?_
  refine g_aload_n (q := 0) dX6_readRest_142 rfl rfl ?_
  refine g_get 0 dX6_readRest_143 fX6_193 rfl (by decide) (sk_65 hs.S) ?_
  refine g_iconst dX6_readRest_146 (by decide) ?_
  refine g_icmp_ne (tgt := 154) dX6_readRest_147 (by decide) (fun c1 => ?_) (fun c2 => ?_)
  · have h := h.1 c1
    refine g_iconst dX6_readRest_154 (by decide) ?_
    refine g_callV1 dX6_readRest_155 kX6_must q1566 q1568 qs70 (ci := 6) rfl (by decide) rfl (by omega) (by decide) (sk_65 hs.S) (Nat.le_of_ble_eq_true rfl) (Nat.le_refl _) (Nat.le_refl _) (t_kV hs (tWs_sub rfl) h (fun μ3 hs h => ?_))
    exact g_vret dX6_readRest_158 rfl (Nat.le_refl _) (Nat.le_refl _) ⟨rfl, hs, h⟩
  · have h := h.2 c2
    refine g_iconst dX6_readRest_150 (by decide) ?_
    refine g_goto (tgt := 155) dX6_readRest_151 (by decide) ?_
    refine g_callV1 dX6_readRest_155 kX6_must q1566 q1568 qs70 (ci := 6) rfl (by decide) rfl (by omega) (by decide) (sk_65 hs.S) (Nat.le_of_ble_eq_true rfl) (Nat.le_refl _) (Nat.le_refl _) (t_kV hs (tWs_sub rfl) h (fun μ4 hs h => ?_))
    exact g_vret dX6_readRest_158 rfl (Nat.le_refl _) (Nat.le_refl _) ⟨rfl, hs, h⟩
theorem uX6_town_0 {d : Nat} {μ0 μ : tm_M} {K : Int → tm_M → Prop} {v1 : Int} (hd : 1 ≤ d) (hs : tFr wX6_town μ0 μ)
    (h : (∀ μ1, μ1 = tm_w μ 65 1 0 → (∀ μ2, μ2 = tm_w μ1 65 0 0 → (v1 < 0 → (∀ μ5, μ5 = tm_w μ2 65 0 5 → K (-1) μ5)) ∧ (0 ≤ v1 → (v1 ≤ tm_v μ2 65 8 → (∀ μ10, μ10 = tm_w μ2 65 9 v1 → (∀ μ11, μ11 = tm_w μ10 65 8 0 → (∀ μ12, μ12 = tm_w μ11 65 16 0 → (∀ μ13, μ13 = tm_w μ12 65 12 0 → (∀ μ14, μ14 = tm_w μ13 65 22 0 → (∀ μ15, μ15 = tm_w μ14 65 23 0 → (∀ μ16, μ16 = tm_w μ15 65 29 0 → (∀ μ17, μ17 = tm_w μ16 65 60 0 → (∀ μ18, μ18 = tm_w μ17 65 61 0 → (∀ μ19, μ19 = tm_w μ18 65 26 1 → (∀ μ20, μ20 = tm_w μ19 65 27 0 → cV wX6_next mX6_next (d - 1) [(2, 65)] μ20 (fun μ21 => hI wX6_town μ0 mX6_town d K 87 [(0, 2, 65)] [] μ21))))))))))))) ∧ (tm_v μ2 65 8 < v1 → (∀ μ22, μ22 = tm_w μ2 65 0 5 → K (-1) μ22)))))) :
    hI wX6_town μ0 mX6_town d K 0 [(0, 2, 65), (1, 0, v1)] [] μ := by
  refine g_aload_n (q := 0) dX6_town_0 rfl rfl ?_
  refine g_iconst dX6_town_1 (by decide) ?_
  refine g_put dX6_town_2 fX6_144 rfl (by decide) (sk_65 hs.S) (fun e => absurd e (by decide)) (p_wj hs (by decide) (tWs_inF rfl) fun μ1 eμ1 hs => ?_)
  have h := h μ1 eμ1
  refine g_aload_n (q := 0) dX6_town_5 rfl rfl ?_
  refine g_iconst dX6_town_6 (by decide) ?_
  refine g_put dX6_town_7 fX6_147 rfl (by decide) (sk_65 hs.S) (fun e => absurd e (by decide)) (p_wj hs (by decide) (tWs_inF rfl) fun μ2 eμ2 hs => ?_)
  have h := h μ2 eμ2
  refine g_iload_n (q := 1) dX6_town_10 rfl rfl ?_
  refine g_if_lt (tgt := 22) dX6_town_11 (by decide) (fun c3 => ?_) (fun c4 => ?_)
  · have h := h.1 c3
    refine g_aload_n (q := 0) dX6_town_22 rfl rfl ?_
    refine g_iconst dX6_town_23 (by decide) ?_
    refine g_callV1 dX6_town_24 kX6_refuse q1484 q1486 qs53 (ci := 6) rfl (by decide) rfl (by omega) (by decide) (sk_65 hs.S) (Nat.le_of_ble_eq_true rfl) (Nat.le_refl _) (Nat.le_refl _) (t_kI hs (tWs_sub rfl) (pX6_refuse hs.S) (fun r7 μ5 hs e6 => ?_))
    obtain ⟨rfl, e6⟩ := e6
    have h := h μ5 e6
    exact g_iret dX6_town_27 rfl (Nat.le_refl _) (Nat.le_refl _) ⟨_, rfl, hs, h⟩
  · have h := h.2 c4
    refine g_iload_n (q := 1) dX6_town_14 rfl rfl ?_
    refine g_aload_n (q := 0) dX6_town_15 rfl rfl ?_
    refine g_get 0 dX6_town_16 fX6_304 rfl (by decide) (sk_65 hs.S) ?_
    refine g_icmp_le (tgt := 28) dX6_town_19 (by decide) (fun c8 => ?_) (fun c9 => ?_)
    · have h := h.1 c8
      refine g_aload_n (q := 0) dX6_town_28 rfl rfl ?_
      refine g_iload_n (q := 1) dX6_town_29 rfl rfl ?_
      refine g_put dX6_town_30 fX6_181 rfl (by decide) (sk_65 hs.S) (fun e => absurd e (by decide)) (p_wj hs (by decide) (tWs_inF rfl) fun μ10 eμ10 hs => ?_)
      have h := h μ10 eμ10
      refine g_aload_n (q := 0) dX6_town_33 rfl rfl ?_
      refine g_iconst dX6_town_34 (by decide) ?_
      refine g_put dX6_town_35 fX6_304 rfl (by decide) (sk_65 hs.S) (fun e => absurd e (by decide)) (p_wj hs (by decide) (tWs_inF rfl) fun μ11 eμ11 hs => ?_)
      have h := h μ11 eμ11
      refine g_aload_n (q := 0) dX6_town_38 rfl rfl ?_
      refine g_iconst dX6_town_39 (by decide) ?_
      refine g_put dX6_town_40 fX6_184 rfl (by decide) (sk_65 hs.S) (fun e => absurd e (by decide)) (p_wj hs (by decide) (tWs_inF rfl) fun μ12 eμ12 hs => ?_)
      have h := h μ12 eμ12
      refine g_aload_n (q := 0) dX6_town_43 rfl rfl ?_
      refine g_iconst dX6_town_44 (by decide) ?_
      refine g_put dX6_town_45 fX6_246 rfl (by decide) (sk_65 hs.S) (fun e => absurd e (by decide)) (p_wj hs (by decide) (tWs_inF rfl) fun μ13 eμ13 hs => ?_)
      have h := h μ13 eμ13
      refine g_aload_n (q := 0) dX6_town_48 rfl rfl ?_
      refine g_iconst dX6_town_49 (by decide) ?_
      refine g_put dX6_town_50 fX6_266 rfl (by decide) (sk_65 hs.S) (fun e => absurd e (by decide)) (p_wj hs (by decide) (tWs_inF rfl) fun μ14 eμ14 hs => ?_)
      have h := h μ14 eμ14
      refine g_aload_n (q := 0) dX6_town_53 rfl rfl ?_
      refine g_iconst dX6_town_54 (by decide) ?_
      refine g_put dX6_town_55 fX6_282 rfl (by decide) (sk_65 hs.S) (fun e => absurd e (by decide)) (p_wj hs (by decide) (tWs_inF rfl) fun μ15 eμ15 hs => ?_)
      have h := h μ15 eμ15
      refine g_aload_n (q := 0) dX6_town_58 rfl rfl ?_
      refine g_iconst dX6_town_59 (by decide) ?_
      refine g_put dX6_town_60 fX6_295 rfl (by decide) (sk_65 hs.S) (fun _ => by decide) (p_wj hs (by decide) (tWs_inF rfl) fun μ16 eμ16 hs => ?_)
      have h := h μ16 eμ16
      refine g_aload_n (q := 0) dX6_town_63 rfl rfl ?_
      refine g_iconst dX6_town_64 (by decide) ?_
      refine g_put dX6_town_65 fX6_288 rfl (by decide) (sk_65 hs.S) (fun _ => by decide) (p_wj hs (by decide) (tWs_inF rfl) fun μ17 eμ17 hs => ?_)
      have h := h μ17 eμ17
      refine g_aload_n (q := 0) dX6_town_68 rfl rfl ?_
      refine g_iconst dX6_town_69 (by decide) ?_
      refine g_put dX6_town_70 fX6_292 rfl (by decide) (sk_65 hs.S) (fun _ => by decide) (p_wj hs (by decide) (tWs_inF rfl) fun μ18 eμ18 hs => ?_)
      have h := h μ18 eμ18
      refine g_aload_n (q := 0) dX6_town_73 rfl rfl ?_
      refine g_iconst dX6_town_74 (by decide) ?_
      refine g_put dX6_town_75 fX6_298 rfl (by decide) (sk_65 hs.S) (fun e => absurd e (by decide)) (p_wj hs (by decide) (tWs_inF rfl) fun μ19 eμ19 hs => ?_)
      have h := h μ19 eμ19
      refine g_aload_n (q := 0) dX6_town_78 rfl rfl ?_
      refine g_iconst dX6_town_79 (by decide) ?_
      refine g_put dX6_town_80 fX6_301 rfl (by decide) (sk_65 hs.S) (fun e => absurd e (by decide)) (p_wj hs (by decide) (tWs_inF rfl) fun μ20 eμ20 hs => ?_)
      have h := h μ20 eμ20
      refine g_aload_n (q := 0) dX6_town_83 rfl rfl ?_
      refine g_callV0 dX6_town_84 kX6_next q1488 q1490 qs54 (ci := 6) rfl (by decide) rfl (by omega) (by decide) (sk_65 hs.S) (Nat.le_of_ble_eq_true rfl) (Nat.le_refl _) (Nat.le_refl _) (t_kV hs (tWs_sub rfl) h (fun μ21 hs h => ?_))
      exact g_less [0] rfl h
    · have h := h.2 c9
      refine g_aload_n (q := 0) dX6_town_22 rfl rfl ?_
      refine g_iconst dX6_town_23 (by decide) ?_
      refine g_callV1 dX6_town_24 kX6_refuse q1484 q1486 qs53 (ci := 6) rfl (by decide) rfl (by omega) (by decide) (sk_65 hs.S) (Nat.le_of_ble_eq_true rfl) (Nat.le_refl _) (Nat.le_refl _) (t_kI hs (tWs_sub rfl) (pX6_refuse hs.S) (fun r24 μ22 hs e23 => ?_))
      obtain ⟨rfl, e23⟩ := e23
      have h := h μ22 e23
      exact g_iret dX6_town_27 rfl (Nat.le_refl _) (Nat.le_refl _) ⟨_, rfl, hs, h⟩
theorem uX6_town_87 {d : Nat} {μ0 μ : tm_M} {K : Int → tm_M → Prop} (hd : 3 ≤ d) (hs : tFr wX6_town μ0 μ)
    (h : (tm_v μ 65 12 ≠ 0 → (∀ μ3, μ3 = tm_w μ 65 10 (tm_v μ 65 12) → (tm_v μ3 65 12 ≠ 0 → (∀ μ6, μ6 = tm_w μ3 65 11 (tm_v μ3 65 13) → (tm_v μ6 65 12 ≤ 0 → cI wX6_taken mX6_taken (d - 1) [(2, 65)] μ6 (fun r10 μ9 => K r10 μ9)) ∧ (0 < tm_v μ6 65 12 → (∀ μ11, μ11 = tm_w μ6 65 0 10 → K (-1) μ11)))) ∧ (tm_v μ3 65 12 = 0 → (∀ μ14, μ14 = tm_w μ3 65 11 (-1) → (tm_v μ14 65 12 ≤ 0 → cI wX6_taken mX6_taken (d - 1) [(2, 65)] μ14 (fun r18 μ17 => K r18 μ17)) ∧ (0 < tm_v μ14 65 12 → (∀ μ19, μ19 = tm_w μ14 65 0 10 → K (-1) μ19)))))) ∧ (tm_v μ 65 12 = 0 → (tm_v μ 65 14 = 0 → (∀ μ24, μ24 = tm_w μ 65 10 (tm_v μ 65 12) → (tm_v μ24 65 12 ≠ 0 → (∀ μ27, μ27 = tm_w μ24 65 11 (tm_v μ24 65 13) → (tm_v μ27 65 12 ≤ 0 → cI wX6_taken mX6_taken (d - 1) [(2, 65)] μ27 (fun r31 μ30 => K r31 μ30)) ∧ (0 < tm_v μ27 65 12 → (∀ μ32, μ32 = tm_w μ27 65 0 10 → K (-1) μ32)))) ∧ (tm_v μ24 65 12 = 0 → (∀ μ35, μ35 = tm_w μ24 65 11 (-1) → (tm_v μ35 65 12 ≤ 0 → cI wX6_taken mX6_taken (d - 1) [(2, 65)] μ35 (fun r39 μ38 => K r39 μ38)) ∧ (0 < tm_v μ35 65 12 → (∀ μ40, μ40 = tm_w μ35 65 0 10 → K (-1) μ40)))))) ∧ (tm_v μ 65 14 ≠ 0 → (¬ (tm_v μ 65 14 = 1 ∧ tm_v μ 65 19 = 17171557) → (¬ (tm_v μ 65 14 = 1 ∧ tm_v μ 65 19 = 394693) → cV wX6_readRest mX6_readRest (d - 1) [(2, 65)] μ (fun μ53 => hI wX6_town μ0 mX6_town d K 87 [(0, 2, 65)] [] μ53)) ∧ (tm_v μ 65 14 = 1 ∧ tm_v μ 65 19 = 394693 → cV wX6_readLane mX6_readLane (d - 1) [(2, 65)] μ (fun μ54 => hI wX6_town μ0 mX6_town d K 87 [(0, 2, 65)] [] μ54))) ∧ (tm_v μ 65 14 = 1 ∧ tm_v μ 65 19 = 17171557 → cV wX6_readPlace mX6_readPlace (d - 1) [(2, 65)] μ (fun μ55 => hI wX6_town μ0 mX6_town d K 87 [(0, 2, 65)] [] μ55))))) :
    hI wX6_town μ0 mX6_town d K 87 [(0, 2, 65)] [] μ := by
  refine g_aload_n (q := 0) dX6_town_87 rfl rfl ?_
  refine g_get 0 dX6_town_88 fX6_246 rfl (by decide) (sk_65 hs.S) ?_
  refine g_if_ne (tgt := 136) dX6_town_91 (by decide) (fun c1 => ?_) (fun c2 => ?_)
  · have h := h.1 c1
    refine g_aload_n (q := 0) dX6_town_136 rfl rfl ?_
    refine g_aload_n (q := 0) dX6_town_137 rfl rfl ?_
    refine g_get 0 dX6_town_138 fX6_246 rfl (by decide) (sk_65 hs.S) ?_
    refine g_put dX6_town_141 fX6_28 rfl (by decide) (sk_65 hs.S) (fun e => absurd e (by decide)) (p_wj hs (by decide) (tWs_inF rfl) fun μ3 eμ3 hs => ?_)
    have h := h μ3 eμ3
    refine g_aload_n (q := 0) dX6_town_144 rfl rfl ?_
    refine g_aload_n (q := 0) dX6_town_145 rfl rfl ?_
    refine g_get 0 dX6_town_146 fX6_246 rfl (by decide) (sk_65 hs.S) ?_
    refine g_if_ne (tgt := 156) dX6_town_149 (by decide) (fun c4 => ?_) (fun c5 => ?_)
    · have h := h.1 c4
      refine g_aload_n (q := 0) dX6_town_156 rfl rfl ?_
      refine g_get 0 dX6_town_157 fX6_249 rfl (by decide) (sk_65 hs.S) ?_
      refine g_put dX6_town_160 fX6_32 rfl (by decide) (sk_65 hs.S) (fun e => absurd e (by decide)) (p_wj hs (by decide) (tWs_inF rfl) fun μ6 eμ6 hs => ?_)
      have h := h μ6 eμ6
      refine g_aload_n (q := 0) dX6_town_163 rfl rfl ?_
      refine g_get 0 dX6_town_164 fX6_246 rfl (by decide) (sk_65 hs.S) ?_
      refine g_if_le (tgt := 179) dX6_town_167 (by decide) (fun c7 => ?_) (fun c8 => ?_)
      · have h := h.1 c7
        refine g_aload_n (q := 0) dX6_town_179 rfl rfl ?_
        refine g_callV0 dX6_town_180 kX6_taken q1582 q1584 qs74 (ci := 6) rfl (by decide) rfl (by omega) (by decide) (sk_65 hs.S) (Nat.le_of_ble_eq_true rfl) (Nat.le_refl _) (Nat.le_refl _) (t_kI hs (tWs_sub rfl) h (fun r10 μ9 hs h => ?_))
        exact g_iret dX6_town_183 rfl (Nat.le_refl _) (Nat.le_refl _) ⟨_, rfl, hs, h⟩
      · have h := h.2 c8
        refine g_aload_n (q := 0) dX6_town_170 rfl rfl ?_
        refine g_bipush dX6_town_171 ⟨by decide, by decide, rfl⟩ ?_
        refine g_callV1 dX6_town_173 kX6_refuse q1484 q1486 qs53 (ci := 6) rfl (by decide) rfl (by omega) (by decide) (sk_65 hs.S) (Nat.le_of_ble_eq_true rfl) (Nat.le_refl _) (Nat.le_refl _) (t_kI hs (tWs_sub rfl) (pX6_refuse hs.S) (fun r13 μ11 hs e12 => ?_))
        obtain ⟨rfl, e12⟩ := e12
        have h := h μ11 e12
        refine g_goto (tgt := 183) dX6_town_176 (by decide) ?_
        exact g_iret dX6_town_183 rfl (Nat.le_refl _) (Nat.le_refl _) ⟨_, rfl, hs, h⟩
    · have h := h.2 c5
      refine g_iconst dX6_town_152 (by decide) ?_
      refine g_goto (tgt := 160) dX6_town_153 (by decide) ?_
      refine g_put dX6_town_160 fX6_32 rfl (by decide) (sk_65 hs.S) (fun e => absurd e (by decide)) (p_wj hs (by decide) (tWs_inF rfl) fun μ14 eμ14 hs => ?_)
      have h := h μ14 eμ14
      refine g_aload_n (q := 0) dX6_town_163 rfl rfl ?_
      refine g_get 0 dX6_town_164 fX6_246 rfl (by decide) (sk_65 hs.S) ?_
      refine g_if_le (tgt := 179) dX6_town_167 (by decide) (fun c15 => ?_) (fun c16 => ?_)
      · have h := h.1 c15
        refine g_aload_n (q := 0) dX6_town_179 rfl rfl ?_
        refine g_callV0 dX6_town_180 kX6_taken q1582 q1584 qs74 (ci := 6) rfl (by decide) rfl (by omega) (by decide) (sk_65 hs.S) (Nat.le_of_ble_eq_true rfl) (Nat.le_refl _) (Nat.le_refl _) (t_kI hs (tWs_sub rfl) h (fun r18 μ17 hs h => ?_))
        exact g_iret dX6_town_183 rfl (Nat.le_refl _) (Nat.le_refl _) ⟨_, rfl, hs, h⟩
      · have h := h.2 c16
        refine g_aload_n (q := 0) dX6_town_170 rfl rfl ?_
        refine g_bipush dX6_town_171 ⟨by decide, by decide, rfl⟩ ?_
        refine g_callV1 dX6_town_173 kX6_refuse q1484 q1486 qs53 (ci := 6) rfl (by decide) rfl (by omega) (by decide) (sk_65 hs.S) (Nat.le_of_ble_eq_true rfl) (Nat.le_refl _) (Nat.le_refl _) (t_kI hs (tWs_sub rfl) (pX6_refuse hs.S) (fun r21 μ19 hs e20 => ?_))
        obtain ⟨rfl, e20⟩ := e20
        have h := h μ19 e20
        refine g_goto (tgt := 183) dX6_town_176 (by decide) ?_
        exact g_iret dX6_town_183 rfl (Nat.le_refl _) (Nat.le_refl _) ⟨_, rfl, hs, h⟩
  · have h := h.2 c2
    refine g_aload_n (q := 0) dX6_town_94 rfl rfl ?_
    refine g_get 0 dX6_town_95 fX6_193 rfl (by decide) (sk_65 hs.S) ?_
    refine g_if_eq (tgt := 136) dX6_town_98 (by decide) (fun c22 => ?_) (fun c23 => ?_)
    · have h := h.1 c22
      refine g_aload_n (q := 0) dX6_town_136 rfl rfl ?_
      refine g_aload_n (q := 0) dX6_town_137 rfl rfl ?_
      refine g_get 0 dX6_town_138 fX6_246 rfl (by decide) (sk_65 hs.S) ?_
      refine g_put dX6_town_141 fX6_28 rfl (by decide) (sk_65 hs.S) (fun e => absurd e (by decide)) (p_wj hs (by decide) (tWs_inF rfl) fun μ24 eμ24 hs => ?_)
      have h := h μ24 eμ24
      refine g_aload_n (q := 0) dX6_town_144 rfl rfl ?_
      refine g_aload_n (q := 0) dX6_town_145 rfl rfl ?_
      refine g_get 0 dX6_town_146 fX6_246 rfl (by decide) (sk_65 hs.S) ?_
      refine g_if_ne (tgt := 156) dX6_town_149 (by decide) (fun c25 => ?_) (fun c26 => ?_)
      · have h := h.1 c25
        refine g_aload_n (q := 0) dX6_town_156 rfl rfl ?_
        refine g_get 0 dX6_town_157 fX6_249 rfl (by decide) (sk_65 hs.S) ?_
        refine g_put dX6_town_160 fX6_32 rfl (by decide) (sk_65 hs.S) (fun e => absurd e (by decide)) (p_wj hs (by decide) (tWs_inF rfl) fun μ27 eμ27 hs => ?_)
        have h := h μ27 eμ27
        refine g_aload_n (q := 0) dX6_town_163 rfl rfl ?_
        refine g_get 0 dX6_town_164 fX6_246 rfl (by decide) (sk_65 hs.S) ?_
        refine g_if_le (tgt := 179) dX6_town_167 (by decide) (fun c28 => ?_) (fun c29 => ?_)
        · have h := h.1 c28
          refine g_aload_n (q := 0) dX6_town_179 rfl rfl ?_
          refine g_callV0 dX6_town_180 kX6_taken q1582 q1584 qs74 (ci := 6) rfl (by decide) rfl (by omega) (by decide) (sk_65 hs.S) (Nat.le_of_ble_eq_true rfl) (Nat.le_refl _) (Nat.le_refl _) (t_kI hs (tWs_sub rfl) h (fun r31 μ30 hs h => ?_))
          exact g_iret dX6_town_183 rfl (Nat.le_refl _) (Nat.le_refl _) ⟨_, rfl, hs, h⟩
        · have h := h.2 c29
          refine g_aload_n (q := 0) dX6_town_170 rfl rfl ?_
          refine g_bipush dX6_town_171 ⟨by decide, by decide, rfl⟩ ?_
          refine g_callV1 dX6_town_173 kX6_refuse q1484 q1486 qs53 (ci := 6) rfl (by decide) rfl (by omega) (by decide) (sk_65 hs.S) (Nat.le_of_ble_eq_true rfl) (Nat.le_refl _) (Nat.le_refl _) (t_kI hs (tWs_sub rfl) (pX6_refuse hs.S) (fun r34 μ32 hs e33 => ?_))
          obtain ⟨rfl, e33⟩ := e33
          have h := h μ32 e33
          refine g_goto (tgt := 183) dX6_town_176 (by decide) ?_
          exact g_iret dX6_town_183 rfl (Nat.le_refl _) (Nat.le_refl _) ⟨_, rfl, hs, h⟩
      · have h := h.2 c26
        refine g_iconst dX6_town_152 (by decide) ?_
        refine g_goto (tgt := 160) dX6_town_153 (by decide) ?_
        refine g_put dX6_town_160 fX6_32 rfl (by decide) (sk_65 hs.S) (fun e => absurd e (by decide)) (p_wj hs (by decide) (tWs_inF rfl) fun μ35 eμ35 hs => ?_)
        have h := h μ35 eμ35
        refine g_aload_n (q := 0) dX6_town_163 rfl rfl ?_
        refine g_get 0 dX6_town_164 fX6_246 rfl (by decide) (sk_65 hs.S) ?_
        refine g_if_le (tgt := 179) dX6_town_167 (by decide) (fun c36 => ?_) (fun c37 => ?_)
        · have h := h.1 c36
          refine g_aload_n (q := 0) dX6_town_179 rfl rfl ?_
          refine g_callV0 dX6_town_180 kX6_taken q1582 q1584 qs74 (ci := 6) rfl (by decide) rfl (by omega) (by decide) (sk_65 hs.S) (Nat.le_of_ble_eq_true rfl) (Nat.le_refl _) (Nat.le_refl _) (t_kI hs (tWs_sub rfl) h (fun r39 μ38 hs h => ?_))
          exact g_iret dX6_town_183 rfl (Nat.le_refl _) (Nat.le_refl _) ⟨_, rfl, hs, h⟩
        · have h := h.2 c37
          refine g_aload_n (q := 0) dX6_town_170 rfl rfl ?_
          refine g_bipush dX6_town_171 ⟨by decide, by decide, rfl⟩ ?_
          refine g_callV1 dX6_town_173 kX6_refuse q1484 q1486 qs53 (ci := 6) rfl (by decide) rfl (by omega) (by decide) (sk_65 hs.S) (Nat.le_of_ble_eq_true rfl) (Nat.le_refl _) (Nat.le_refl _) (t_kI hs (tWs_sub rfl) (pX6_refuse hs.S) (fun r42 μ40 hs e41 => ?_))
          obtain ⟨rfl, e41⟩ := e41
          have h := h μ40 e41
          refine g_goto (tgt := 183) dX6_town_176 (by decide) ?_
          exact g_iret dX6_town_183 rfl (Nat.le_refl _) (Nat.le_refl _) ⟨_, rfl, hs, h⟩
    · have h := h.2 c23
      refine g_aload_n (q := 0) dX6_town_101 rfl rfl ?_
      refine g_callV0 dX6_town_102 kX6_isPlaceWord q1504 q1506 qs56 (ci := 6) rfl (by decide) rfl (by omega) (by decide) (sk_65 hs.S) (Nat.le_of_ble_eq_true rfl) (Nat.le_refl _) (Nat.le_refl _) (t_pI hs (pX6_isPlaceWord (by omega) hs.S) ?_)
      refine g_if_eq (tgt := 115) dX6_town_105 (by decide) (fun c46 => ?_) (fun c47 => ?_)
      · have h := h.1 (b2i_0.mp c46)
        refine g_aload_n (q := 0) dX6_town_115 rfl rfl ?_
        refine g_callV0 dX6_town_116 kX6_isLane q1527 q1529 qs61 (ci := 6) rfl (by decide) rfl (by omega) (by decide) (sk_65 hs.S) (Nat.le_of_ble_eq_true rfl) (Nat.le_refl _) (Nat.le_refl _) (t_pI hs (pX6_isLane (by omega) hs.S) ?_)
        refine g_if_eq (tgt := 129) dX6_town_119 (by decide) (fun c51 => ?_) (fun c52 => ?_)
        · have h := h.1 (b2i_0.mp c51)
          refine g_aload_n (q := 0) dX6_town_129 rfl rfl ?_
          refine g_callV0 dX6_town_130 kX6_readRest q1578 q1580 qs73 (ci := 6) rfl (by decide) rfl (by omega) (by decide) (sk_65 hs.S) (Nat.le_of_ble_eq_true rfl) (Nat.le_refl _) (Nat.le_refl _) (t_kV hs (tWs_sub rfl) h (fun μ53 hs h => ?_))
          refine g_goto (tgt := 87) dX6_town_133 (by decide) ?_
          exact h
        · have h := h.2 (b2i_1.mp c52)
          refine g_aload_n (q := 0) dX6_town_122 rfl rfl ?_
          refine g_callV0 dX6_town_123 kX6_readLane q1570 q1572 qs71 (ci := 6) rfl (by decide) rfl (by omega) (by decide) (sk_65 hs.S) (Nat.le_of_ble_eq_true rfl) (Nat.le_refl _) (Nat.le_refl _) (t_kV hs (tWs_sub rfl) h (fun μ54 hs h => ?_))
          refine g_goto (tgt := 87) dX6_town_126 (by decide) ?_
          exact h
      · have h := h.2 (b2i_1.mp c47)
        refine g_aload_n (q := 0) dX6_town_108 rfl rfl ?_
        refine g_callV0 dX6_town_109 kX6_readPlace q1515 q1517 qs58 (ci := 6) rfl (by decide) rfl (by omega) (by decide) (sk_65 hs.S) (Nat.le_of_ble_eq_true rfl) (Nat.le_refl _) (Nat.le_refl _) (t_kV hs (tWs_sub rfl) h (fun μ55 hs h => ?_))
        refine g_goto (tgt := 87) dX6_town_112 (by decide) ?_
        exact h
