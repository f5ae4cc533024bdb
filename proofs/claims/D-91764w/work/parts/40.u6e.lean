theorem uX6_walk_0 {d : Nat} {μ0 μ : tm_M} {K : Int → tm_M → Prop} {v1 v2 v3 v4 : Int} (hd : 1 ≤ d) (hs : tFr wX6_walk μ0 μ)
    (h : (v3 ≠ v4 → (∀ μ3, μ3 = tm_w (tm_w (tm_w μ 85 0 v3) 86 0 0) 87 0 0 → (∀ μ5, μ5 = tm_w (tm_w (tm_w μ3 85 1 v4) 86 1 0) 87 1 0 → hI wX6_walk μ0 mX6_walk d K 24 [(0, 2, 65), (1, 0, v1), (2, 0, v2), (5, 0, 0)] [] μ5))) ∧ (v3 = v4 → K 0 μ)) :
    hI wX6_walk μ0 mX6_walk d K 0 [(0, 2, 65), (1, 0, v1), (2, 0, v2), (3, 0, v3), (4, 0, v4)] [] μ := by
  refine g_iload_n (q := 3) dX6_walk_0 rfl rfl ?_
  refine g_iload (q := 4) dX6_walk_1 rfl ?_
  refine g_icmp_ne (tgt := 8) dX6_walk_3 (by decide) (fun c1 => ?_) (fun c2 => ?_)
  · have h := h.1 c1
    refine g_aload_n (q := 0) dX6_walk_8 rfl rfl ?_
    refine g_iconst dX6_walk_9 (by decide) ?_
    refine g_iload_n (q := 3) dX6_walk_10 rfl rfl ?_
    refine g_callV2 dX6_walk_11 kX6_begin q1659 q1661 qs83 (ci := 6) rfl (by decide) rfl (by omega) (by decide) (sk_65 hs.S) (Nat.le_of_ble_eq_true rfl) (Nat.le_refl _) (Nat.le_refl _) (t_kV hs (tWs_sub rfl) (pX6_begin (by decide) hs.S) (fun μ3 hs e4 => ?_))
    have h := h μ3 e4
    refine g_aload_n (q := 0) dX6_walk_14 rfl rfl ?_
    refine g_iconst dX6_walk_15 (by decide) ?_
    refine g_iload (q := 4) dX6_walk_16 rfl ?_
    refine g_callV2 dX6_walk_18 kX6_begin q1659 q1661 qs83 (ci := 6) rfl (by decide) rfl (by omega) (by decide) (sk_65 hs.S) (Nat.le_of_ble_eq_true rfl) (Nat.le_refl _) (Nat.le_refl _) (t_kV hs (tWs_sub rfl) (pX6_begin (by decide) hs.S) (fun μ5 hs e6 => ?_))
    have h := h μ5 e6
    refine g_iconst dX6_walk_21 (by decide) ?_
    refine g_istore (L' := [(0, 2, 65), (1, 0, v1), (2, 0, v2), (3, 0, v3), (4, 0, v4), (5, 0, 0)]) dX6_walk_22 (by decide) [1, 2, 3, 4, 5, 0] rfl ?_
    exact g_less [0, 1, 2, 5] rfl h
  · have h := h.2 c2
    refine g_iconst dX6_walk_6 (by decide) ?_
    exact g_iret dX6_walk_7 rfl (Nat.le_refl _) (Nat.le_refl _) ⟨_, rfl, hs, h⟩
theorem uX6_walk_24 {d : Nat} {μ0 μ : tm_M} {K : Int → tm_M → Prop} {v1 v2 v5 : Int} (hs : tFr wX6_walk μ0 μ)
    (h : (8 ≤ v5 → hI wX6_walk μ0 mX6_walk d K 48 [(0, 2, 65), (1, 0, v1), (2, 0, v2), (5, 0, 0)] [] μ) ∧ (v5 < 8 → (0 ≤ v5 ∧ v5 < 8) ∧ ((∀ μ4, μ4 = tm_w μ 88 v5 (-1) → hI wX6_walk μ0 mX6_walk d K 24 [(0, 2, 65), (1, 0, v1), (2, 0, v2), (5, 0, w32 (v5 + 1))] [] μ4)))) :
    hI wX6_walk μ0 mX6_walk d K 24 [(0, 2, 65), (1, 0, v1), (2, 0, v2), (5, 0, v5)] [] μ := by
  refine g_iload (q := 3) dX6_walk_24 rfl ?_
  refine g_bipush dX6_walk_26 ⟨by decide, by decide, rfl⟩ ?_
  refine g_icmp_ge (tgt := 45) dX6_walk_28 (by decide) (fun c1 => ?_) (fun c2 => ?_)
  · have h := h.1 c1
    refine g_iconst dX6_walk_45 (by decide) ?_
    refine g_istore (L' := [(0, 2, 65), (1, 0, v1), (2, 0, v2), (5, 0, 0)]) dX6_walk_46 (by decide) [1, 2, 3, 0] rfl ?_
    exact h
  · have h := h.2 c2
    refine g_aload_n (q := 0) dX6_walk_31 rfl rfl ?_
    refine g_getC (x := 88) 2 dX6_walk_32 fX6_93 rfl (by decide) (sk_65 hs.S) (sv_65_50 hs.S) ?_
    refine g_iload (q := 3) dX6_walk_35 rfl ?_
    refine g_iconst dX6_walk_37 (by decide) ?_
    obtain ⟨c3, h⟩ := h
    refine g_iastore dX6_walk_38 (by decide) (sk_88 hs.S) c3.1 (t_lt (sn_88 hs.S) c3.2) (p_w hs sf_88 (tWs_in _ rfl) fun μ4 eμ4 hs => ?_)
    have h := h μ4 eμ4
    refine g_iinc (q := 3) dX6_walk_39 (by decide) rfl [1, 2, 3, 0] rfl ?_
    refine g_goto (tgt := 24) dX6_walk_42 (by decide) ?_
    exact h
theorem uX6_walk_48 {d : Nat} {μ0 μ : tm_M} {K : Int → tm_M → Prop} {v1 v2 v5 : Int} (hs : tFr wX6_walk μ0 μ)
    (h : (200 ≤ v5 → K (-1) μ) ∧ (v5 < 200 → (∀ x3, x3 = tm_v μ 85 0 → (∀ x4, x4 = tm_v μ 85 1 → (tm_v μ0 65 24 ≠ 0) ∧ ((v5.tmod (tm_v μ0 65 24) = 0 → hI wX6_walk μ0 mX6_walk d K 89 [(0, 2, 65), (1, 0, v1), (2, 0, v2), (5, 0, v5), (6, 0, x3), (7, 0, x4), (8, 0, 0)] [] μ) ∧ (v5.tmod (tm_v μ0 65 24) ≠ 0 → hI wX6_walk μ0 mX6_walk d K 89 [(0, 2, 65), (1, 0, v1), (2, 0, v2), (5, 0, v5), (6, 0, x3), (7, 0, x4), (8, 0, 1)] [] μ)))))) :
    hI wX6_walk μ0 mX6_walk d K 48 [(0, 2, 65), (1, 0, v1), (2, 0, v2), (5, 0, v5)] [] μ := by
  refine g_iload (q := 3) dX6_walk_48 rfl ?_
  refine g_sipush dX6_walk_50 ⟨by decide, by decide, rfl⟩ ?_
  refine g_icmp_ge (tgt := 282) dX6_walk_53 (by decide) (fun c1 => ?_) (fun c2 => ?_)
  · have h := h.1 c1
    refine g_iconst dX6_walk_282 (by decide) ?_
    exact g_iret dX6_walk_283 rfl (Nat.le_refl _) (Nat.le_refl _) ⟨_, rfl, hs, h⟩
  · have h := h.2 c2
    refine g_aload_n (q := 0) dX6_walk_56 rfl rfl ?_
    refine g_getC (x := 85) 2 dX6_walk_57 fX6_84 rfl (by decide) (sk_65 hs.S) (sv_65_47 hs.S) ?_
    refine g_iconst dX6_walk_60 (by decide) ?_
    refine g_iaload dX6_walk_61 (by decide) (sk_85 hs.S) (by decide) (t_lt (sn_85 hs.S) (by decide)) ?_
    refine g_istoreN (fun z => [(0, 2, 65), (1, 0, v1), (2, 0, v2), (5, 0, v5), (6, 0, z)]) dX6_walk_62 (by decide) [1, 2, 3, 4, 0] (fun _ => rfl) (fun x3 ex3 => ?_)
    have h := h x3 ex3
    refine g_aload_n (q := 0) dX6_walk_64 rfl rfl ?_
    refine g_getC (x := 85) 2 dX6_walk_65 fX6_84 rfl (by decide) (sk_65 hs.S) (sv_65_47 hs.S) ?_
    refine g_iconst dX6_walk_68 (by decide) ?_
    refine g_iaload dX6_walk_69 (by decide) (sk_85 hs.S) (by decide) (t_lt (sn_85 hs.S) (by decide)) ?_
    refine g_istoreN (fun z => [(0, 2, 65), (1, 0, v1), (2, 0, v2), (5, 0, v5), (6, 0, x3), (7, 0, z)]) dX6_walk_70 (by decide) [1, 2, 3, 4, 5, 0] (fun _ => rfl) (fun x4 ex4 => ?_)
    have h := h x4 ex4
    refine g_iload (q := 3) dX6_walk_72 rfl ?_
    refine g_aload_n (q := 0) dX6_walk_74 rfl rfl ?_
    refine g_getC (x := tm_v μ0 65 24) 0 dX6_walk_75 fX6_35 rfl (by decide) (sk_65 hs.S) (hs.v (tWs_noF rfl)) ?_
    obtain ⟨c5, h⟩ := h
    refine g_irem dX6_walk_78 c5 ?_
    refine g_if_eq (tgt := 86) dX6_walk_79 (by decide) (fun c6 => ?_) (fun c7 => ?_)
    · have h := h.1 c6
      refine g_iconst dX6_walk_86 (by decide) ?_
      refine g_istore (L' := [(0, 2, 65), (1, 0, v1), (2, 0, v2), (5, 0, v5), (6, 0, x3), (7, 0, x4), (8, 0, 0)]) dX6_walk_87 (by decide) [1, 2, 3, 4, 5, 6, 0] rfl ?_
      exact h
    · have h := h.2 c7
      refine g_iconst dX6_walk_82 (by decide) ?_
      refine g_goto (tgt := 87) dX6_walk_83 (by decide) ?_
      refine g_istore (L' := [(0, 2, 65), (1, 0, v1), (2, 0, v2), (5, 0, v5), (6, 0, x3), (7, 0, x4), (8, 0, 1)]) dX6_walk_87 (by decide) [1, 2, 3, 4, 5, 6, 0] rfl ?_
      exact h
theorem uX6_walk_89 {d : Nat} {μ0 μ : tm_M} {K : Int → tm_M → Prop} {v1 v2 v5 v6 v7 v8 : Int} (hd : 3 ≤ d) (hs : tFr wX6_walk μ0 μ)
    (h : cV wX6_findFar mX6_findFar (d - 1) [(2, 65), (0, v6)] μ (fun μ1 => (0 ≤ v7 ∧ v7 < 8) ∧ ((tm_v μ0 65 25 < tm_v μ1 89 v7 → cI wX6_stepOf mX6_stepOf (d - 1) [(2, 65), (0, v1), (0, 0), (0, v6)] μ1 (fun r6 μ5 => (y_p μ0 v6 ∧ 0 ≤ r6 ∧ r6 ≤ 4) ∧ ((∀ μ11, μ11 = tm_w μ5 85 0 (y_go μ0 v6 r6) → (v8 ≠ 0 → hI wX6_walk μ0 mX6_walk d K 216 [(0, 2, 65), (1, 0, v1), (2, 0, v2), (5, 0, v5), (6, 0, v6), (7, 0, v7), (9, 0, r6)] [] μ11) ∧ (v8 = 0 → (tm_v μ0 65 30 = 0 → cI wX6_stepOf mX6_stepOf (d - 1) [(2, 65), (0, v2), (0, 1), (0, v7)] μ11 (fun r17 μ16 => (y_p μ0 v7 ∧ 0 ≤ r17 ∧ r17 ≤ 4) ∧ ((∀ μ22, μ22 = tm_w μ16 85 1 (y_go μ0 v7 r17) → hI wX6_walk μ0 mX6_walk d K 216 [(0, 2, 65), (1, 0, v1), (2, 0, v2), (5, 0, v5), (6, 0, v6), (7, 0, v7), (9, 0, r6)] [] μ22)))) ∧ (tm_v μ0 65 30 ≠ 0 → (tm_v μ11 88 v7 < 0 → cI wX6_stepOf mX6_stepOf (d - 1) [(2, 65), (0, v2), (0, 1), (0, v7)] μ11 (fun r26 μ25 => (y_p μ0 v7 ∧ 0 ≤ r26 ∧ r26 ≤ 4) ∧ ((∀ μ31, μ31 = tm_w μ25 85 1 (y_go μ0 v7 r26) → hI wX6_walk μ0 mX6_walk d K 216 [(0, 2, 65), (1, 0, v1), (2, 0, v2), (5, 0, v5), (6, 0, v6), (7, 0, v7), (9, 0, r6)] [] μ31)))) ∧ (0 ≤ tm_v μ11 88 v7 → (0 ≤ (tm_v μ11 88 v7) ∧ (tm_v μ11 88 v7) < 12) ∧ ((∀ μ36, μ36 = tm_w μ11 85 1 (y_goesBy μ0 v7 (tm_v μ11 88 v7)) → hI wX6_walk μ0 mX6_walk d K 216 [(0, 2, 65), (1, 0, v1), (2, 0, v2), (5, 0, v5), (6, 0, v6), (7, 0, v7), (9, 0, r6)] [] μ36))))))))) ∧ (tm_v μ1 89 v7 ≤ tm_v μ0 65 25 → (v8 = 0 → (y_p μ0 v7) ∧ ((∀ μ43, μ43 = tm_w μ1 85 1 (y_nearer μ0 (tm_v μ1 89) v7) → hI wX6_walk μ0 mX6_walk d K 248 [(0, 2, 65), (1, 0, v1), (2, 0, v2), (5, 0, v5), (6, 0, v6), (7, 0, v7)] [] μ43))) ∧ (v8 ≠ 0 → (∀ μ44, μ44 = tm_w μ1 85 1 v7 → hI wX6_walk μ0 mX6_walk d K 248 [(0, 2, 65), (1, 0, v1), (2, 0, v2), (5, 0, v5), (6, 0, v6), (7, 0, v7)] [] μ44)))))) :
    hI wX6_walk μ0 mX6_walk d K 89 [(0, 2, 65), (1, 0, v1), (2, 0, v2), (5, 0, v5), (6, 0, v6), (7, 0, v7), (8, 0, v8)] [] μ := by
  refine g_aload_n (q := 0) dX6_walk_89 rfl rfl ?_
  refine g_iload (q := 4) dX6_walk_90 rfl ?_
  refine g_callV1 dX6_walk_92 kX6_findFar q1623 q1625 qs78 (ci := 6) rfl (by decide) rfl (by omega) (by decide) (sk_65 hs.S) (Nat.le_of_ble_eq_true rfl) (Nat.le_refl _) (Nat.le_refl _) (t_kV hs (tWs_sub rfl) h (fun μ1 hs h => ?_))
  refine g_aload_n (q := 0) dX6_walk_95 rfl rfl ?_
  refine g_getC (x := 89) 2 dX6_walk_96 fX6_96 rfl (by decide) (sk_65 hs.S) (sv_65_51 hs.S) ?_
  refine g_iload (q := 5) dX6_walk_99 rfl ?_
  obtain ⟨c2, h⟩ := h
  refine g_iaload dX6_walk_101 (by decide) (sk_89 hs.S) c2.1 (t_lt (sn_89 hs.S) c2.2) ?_
  refine g_aload_n (q := 0) dX6_walk_102 rfl rfl ?_
  refine g_getC (x := tm_v μ0 65 25) 0 dX6_walk_103 fX6_335 rfl (by decide) (sk_65 hs.S) (hs.v (tWs_noF rfl)) ?_
  refine g_icmp_gt (tgt := 134) dX6_walk_106 (by decide) (fun c3 => ?_) (fun c4 => ?_)
  · have h := h.1 c3
    refine g_aload_n (q := 0) dX6_walk_134 rfl rfl ?_
    refine g_iload_n (q := 1) dX6_walk_135 rfl rfl ?_
    refine g_iconst dX6_walk_136 (by decide) ?_
    refine g_iload (q := 4) dX6_walk_137 rfl ?_
    refine g_callV3 dX6_walk_139 kX6_stepOf q1671 q1673 qs86 (ci := 6) rfl (by decide) rfl (by omega) (by decide) (sk_65 hs.S) (Nat.le_of_ble_eq_true rfl) (Nat.le_refl _) (Nat.le_refl _) (t_kI hs (tWs_sub rfl) h (fun r6 μ5 hs h => ?_))
    refine g_istore (L' := [(0, 2, 65), (1, 0, v1), (2, 0, v2), (5, 0, v5), (6, 0, v6), (7, 0, v7), (8, 0, v8), (9, 0, r6)]) dX6_walk_142 (by decide) [1, 2, 3, 4, 5, 6, 7, 0] rfl ?_
    refine g_aload_n (q := 0) dX6_walk_144 rfl rfl ?_
    refine g_getC (x := 85) 2 dX6_walk_145 fX6_84 rfl (by decide) (sk_65 hs.S) (sv_65_47 hs.S) ?_
    refine g_iconst dX6_walk_148 (by decide) ?_
    refine g_aload_n (q := 0) dX6_walk_149 rfl rfl ?_
    refine g_iload (q := 4) dX6_walk_150 rfl ?_
    refine g_iload (q := 7) dX6_walk_152 rfl ?_
    obtain ⟨c7, h⟩ := h
    refine g_callV2 dX6_walk_154 kX6_go q1675 q1677 qs87 (ci := 6) rfl (by decide) rfl (by omega) (by decide) (sk_65 hs.S) (Nat.le_of_ble_eq_true rfl) (Nat.le_refl _) (Nat.le_refl _) (t_pI hs (pX6_goF (by omega) hs (tWs_T rfl) c7) ?_)
    refine g_iastore dX6_walk_157 (by decide) (sk_85 hs.S) (by decide) (t_lt (sn_85 hs.S) (by decide)) (p_w hs sf_85 (tWs_in _ rfl) fun μ11 eμ11 hs => ?_)
    have h := h μ11 eμ11
    refine g_iload (q := 6) dX6_walk_158 rfl ?_
    refine g_if_ne (tgt := 216) dX6_walk_160 (by decide) (fun c12 => ?_) (fun c13 => ?_)
    · have h := h.1 c12
      exact g_less [0, 1, 2, 3, 4, 5, 7] rfl h
    · have h := h.2 c13
      refine g_aload_n (q := 0) dX6_walk_163 rfl rfl ?_
      refine g_getC (x := 85) 2 dX6_walk_164 fX6_84 rfl (by decide) (sk_65 hs.S) (sv_65_47 hs.S) ?_
      refine g_iconst dX6_walk_167 (by decide) ?_
      refine g_aload_n (q := 0) dX6_walk_168 rfl rfl ?_
      refine g_getC (x := tm_v μ0 65 30) 0 dX6_walk_169 fX6_338 rfl (by decide) (sk_65 hs.S) (hs.v (tWs_noF rfl)) ?_
      refine g_if_eq (tgt := 201) dX6_walk_172 (by decide) (fun c14 => ?_) (fun c15 => ?_)
      · have h := h.1 c14
        refine g_aload_n (q := 0) dX6_walk_201 rfl rfl ?_
        refine g_iload (q := 5) dX6_walk_202 rfl ?_
        refine g_aload_n (q := 0) dX6_walk_204 rfl rfl ?_
        refine g_iload_n (q := 2) dX6_walk_205 rfl rfl ?_
        refine g_iconst dX6_walk_206 (by decide) ?_
        refine g_iload (q := 5) dX6_walk_207 rfl ?_
        refine g_callV3 dX6_walk_209 kX6_stepOf q1671 q1673 qs86 (ci := 6) rfl (by decide) rfl (by omega) (by decide) (sk_65 hs.S) (Nat.le_of_ble_eq_true rfl) (Nat.le_refl _) (Nat.le_refl _) (t_kI hs (tWs_sub rfl) h (fun r17 μ16 hs h => ?_))
        obtain ⟨c18, h⟩ := h
        refine g_callV2 dX6_walk_212 kX6_go q1675 q1677 qs87 (ci := 6) rfl (by decide) rfl (by omega) (by decide) (sk_65 hs.S) (Nat.le_of_ble_eq_true rfl) (Nat.le_refl _) (Nat.le_refl _) (t_pI hs (pX6_goF (by omega) hs (tWs_T rfl) c18) ?_)
        refine g_iastore dX6_walk_215 (by decide) (sk_85 hs.S) (by decide) (t_lt (sn_85 hs.S) (by decide)) (p_w hs sf_85 (tWs_in _ rfl) fun μ22 eμ22 hs => ?_)
        have h := h μ22 eμ22
        exact g_less [0, 1, 2, 3, 4, 5, 7] rfl h
      · have h := h.2 c15
        refine g_aload_n (q := 0) dX6_walk_175 rfl rfl ?_
        refine g_getC (x := 88) 2 dX6_walk_176 fX6_93 rfl (by decide) (sk_65 hs.S) (sv_65_50 hs.S) ?_
        refine g_iload (q := 5) dX6_walk_179 rfl ?_
        refine g_iaload dX6_walk_181 (by decide) (sk_88 hs.S) c2.1 (t_lt (sn_88 hs.S) c2.2) ?_
        refine g_if_lt (tgt := 201) dX6_walk_182 (by decide) (fun c23 => ?_) (fun c24 => ?_)
        · have h := h.1 c23
          refine g_aload_n (q := 0) dX6_walk_201 rfl rfl ?_
          refine g_iload (q := 5) dX6_walk_202 rfl ?_
          refine g_aload_n (q := 0) dX6_walk_204 rfl rfl ?_
          refine g_iload_n (q := 2) dX6_walk_205 rfl rfl ?_
          refine g_iconst dX6_walk_206 (by decide) ?_
          refine g_iload (q := 5) dX6_walk_207 rfl ?_
          refine g_callV3 dX6_walk_209 kX6_stepOf q1671 q1673 qs86 (ci := 6) rfl (by decide) rfl (by omega) (by decide) (sk_65 hs.S) (Nat.le_of_ble_eq_true rfl) (Nat.le_refl _) (Nat.le_refl _) (t_kI hs (tWs_sub rfl) h (fun r26 μ25 hs h => ?_))
          obtain ⟨c27, h⟩ := h
          refine g_callV2 dX6_walk_212 kX6_go q1675 q1677 qs87 (ci := 6) rfl (by decide) rfl (by omega) (by decide) (sk_65 hs.S) (Nat.le_of_ble_eq_true rfl) (Nat.le_refl _) (Nat.le_refl _) (t_pI hs (pX6_goF (by omega) hs (tWs_T rfl) c27) ?_)
          refine g_iastore dX6_walk_215 (by decide) (sk_85 hs.S) (by decide) (t_lt (sn_85 hs.S) (by decide)) (p_w hs sf_85 (tWs_in _ rfl) fun μ31 eμ31 hs => ?_)
          have h := h μ31 eμ31
          exact g_less [0, 1, 2, 3, 4, 5, 7] rfl h
        · have h := h.2 c24
          refine g_aload_n (q := 0) dX6_walk_185 rfl rfl ?_
          refine g_iload (q := 5) dX6_walk_186 rfl ?_
          refine g_aload_n (q := 0) dX6_walk_188 rfl rfl ?_
          refine g_getC (x := 88) 2 dX6_walk_189 fX6_93 rfl (by decide) (sk_65 hs.S) (sv_65_50 hs.S) ?_
          refine g_iload (q := 5) dX6_walk_192 rfl ?_
          refine g_iaload dX6_walk_194 (by decide) (sk_88 hs.S) c2.1 (t_lt (sn_88 hs.S) c2.2) ?_
          obtain ⟨c32, h⟩ := h
          refine g_callV2 dX6_walk_195 kX6_goesBy q1679 q1681 qs88 (ci := 6) rfl (by decide) rfl (by omega) (by decide) (sk_65 hs.S) (Nat.le_of_ble_eq_true rfl) (Nat.le_refl _) (Nat.le_refl _) (t_pI hs (pX6_goesByF (by omega) hs (tWs_T rfl) c32) ?_)
          refine g_goto (tgt := 215) dX6_walk_198 (by decide) ?_
          refine g_iastore dX6_walk_215 (by decide) (sk_85 hs.S) (by decide) (t_lt (sn_85 hs.S) (by decide)) (p_w hs sf_85 (tWs_in _ rfl) fun μ36 eμ36 hs => ?_)
          have h := h μ36 eμ36
          exact g_less [0, 1, 2, 3, 4, 5, 7] rfl h
  · have h := h.2 c4
    refine g_aload_n (q := 0) dX6_walk_109 rfl rfl ?_
    refine g_getC (x := 85) 2 dX6_walk_110 fX6_84 rfl (by decide) (sk_65 hs.S) (sv_65_47 hs.S) ?_
    refine g_iconst dX6_walk_113 (by decide) ?_
    refine g_iload (q := 6) dX6_walk_114 rfl ?_
    refine g_if_eq (tgt := 124) dX6_walk_116 (by decide) (fun c37 => ?_) (fun c38 => ?_)
    · have h := h.1 c37
      refine g_aload_n (q := 0) dX6_walk_124 rfl rfl ?_
      refine g_iload (q := 5) dX6_walk_125 rfl ?_
      obtain ⟨c39, h⟩ := h
      refine g_callV1 dX6_walk_127 kX6_nearer q1663 q1665 qs84 (ci := 6) rfl (by decide) rfl (by omega) (by decide) (sk_65 hs.S) (Nat.le_of_ble_eq_true rfl) (Nat.le_refl _) (Nat.le_refl _) (t_pI hs (pX6_nearerF (by omega) hs (tWs_T rfl) c39) ?_)
      refine g_iastore dX6_walk_130 (by decide) (sk_85 hs.S) (by decide) (t_lt (sn_85 hs.S) (by decide)) (p_w hs sf_85 (tWs_in _ rfl) fun μ43 eμ43 hs => ?_)
      have h := h μ43 eμ43
      refine g_goto (tgt := 248) dX6_walk_131 (by decide) ?_
      exact g_less [0, 1, 2, 3, 4, 5] rfl h
    · have h := h.2 c38
      refine g_iload (q := 5) dX6_walk_119 rfl ?_
      refine g_goto (tgt := 130) dX6_walk_121 (by decide) ?_
      refine g_iastore dX6_walk_130 (by decide) (sk_85 hs.S) (by decide) (t_lt (sn_85 hs.S) (by decide)) (p_w hs sf_85 (tWs_in _ rfl) fun μ44 eμ44 hs => ?_)
      have h := h μ44 eμ44
      refine g_goto (tgt := 248) dX6_walk_131 (by decide) ?_
      exact g_less [0, 1, 2, 3, 4, 5] rfl h
theorem uX6_walk_216 {d : Nat} {μ0 μ : tm_M} {K : Int → tm_M → Prop} {v1 v2 v5 v6 v7 v9 : Int} (hs : tFr wX6_walk μ0 μ)
    (h : (tm_v μ 85 0 = v6 → hI wX6_walk μ0 mX6_walk d K 248 [(0, 2, 65), (1, 0, v1), (2, 0, v2), (5, 0, v5), (6, 0, v6), (7, 0, v7)] [] μ) ∧ (tm_v μ 85 0 ≠ v6 → (0 ≤ w32 ((w32 ((w32 (4 * v6)) + v9)) - 1) ∧ w32 ((w32 ((w32 (4 * v6)) + v9)) - 1) < 32) ∧ ((0 ≤ v6 ∧ v6 < 8) ∧ ((∀ μ5, μ5 = tm_w μ 88 v6 (tm_v μ0 74 (w32 ((w32 ((w32 (4 * v6)) + v9)) - 1))) → hI wX6_walk μ0 mX6_walk d K 248 [(0, 2, 65), (1, 0, v1), (2, 0, v2), (5, 0, v5), (6, 0, v6), (7, 0, v7)] [] μ5))))) :
    hI wX6_walk μ0 mX6_walk d K 216 [(0, 2, 65), (1, 0, v1), (2, 0, v2), (5, 0, v5), (6, 0, v6), (7, 0, v7), (9, 0, v9)] [] μ := by
  refine g_aload_n (q := 0) dX6_walk_216 rfl rfl ?_
  refine g_getC (x := 85) 2 dX6_walk_217 fX6_84 rfl (by decide) (sk_65 hs.S) (sv_65_47 hs.S) ?_
  refine g_iconst dX6_walk_220 (by decide) ?_
  refine g_iaload dX6_walk_221 (by decide) (sk_85 hs.S) (by decide) (t_lt (sn_85 hs.S) (by decide)) ?_
  refine g_iload (q := 4) dX6_walk_222 rfl ?_
  refine g_icmp_eq (tgt := 248) dX6_walk_224 (by decide) (fun c1 => ?_) (fun c2 => ?_)
  · have h := h.1 c1
    exact g_less [0, 1, 2, 3, 4, 5] rfl h
  · have h := h.2 c2
    refine g_aload_n (q := 0) dX6_walk_227 rfl rfl ?_
    refine g_getC (x := 88) 2 dX6_walk_228 fX6_93 rfl (by decide) (sk_65 hs.S) (sv_65_50 hs.S) ?_
    refine g_iload (q := 4) dX6_walk_231 rfl ?_
    refine g_aload_n (q := 0) dX6_walk_233 rfl rfl ?_
    refine g_getC (x := 74) 2 dX6_walk_234 fX6_50 rfl (by decide) (sk_65 hs.S) (sv_65_35 hs.S) ?_
    refine g_iconst dX6_walk_237 (by decide) ?_
    refine g_iload (q := 4) dX6_walk_238 rfl ?_
    refine g_imul dX6_walk_240 ?_
    refine g_iload (q := 6) dX6_walk_241 rfl ?_
    refine g_iadd dX6_walk_243 ?_
    refine g_iconst dX6_walk_244 (by decide) ?_
    refine g_isub dX6_walk_245 ?_
    obtain ⟨c3, h⟩ := h
    refine g_ialoadC (x := tm_v μ0 74 (w32 ((w32 ((w32 (4 * v6)) + v9)) - 1))) dX6_walk_246 (by decide) (sk_74 hs.S) c3.1 (t_lt (sn_74 hs.S) c3.2) (hs.v (tWs_no _ rfl)) ?_
    obtain ⟨c4, h⟩ := h
    refine g_iastore dX6_walk_247 (by decide) (sk_88 hs.S) c4.1 (t_lt (sn_88 hs.S) c4.2) (p_w hs sf_88 (tWs_in _ rfl) fun μ5 eμ5 hs => ?_)
    have h := h μ5 eμ5
    exact g_less [0, 1, 2, 3, 4, 5] rfl h
theorem uX6_walk_248 {d : Nat} {μ0 μ : tm_M} {K : Int → tm_M → Prop} {v1 v2 v5 v6 v7 : Int} (hd : 1 ≤ d) (hs : tFr wX6_walk μ0 μ)
    (h : (¬ ((tm_v μ 85 0) = (tm_v μ 85 1) ∨ (tm_v μ0 65 28 ≠ 0 ∧ (tm_v μ 85 0) = v7 ∧ (tm_v μ 85 1) = v6)) → hI wX6_walk μ0 mX6_walk d K 48 [(0, 2, 65), (1, 0, v1), (2, 0, v2), (5, 0, w32 (v5 + 1))] [] μ) ∧ ((tm_v μ 85 0) = (tm_v μ 85 1) ∨ (tm_v μ0 65 28 ≠ 0 ∧ (tm_v μ 85 0) = v7 ∧ (tm_v μ 85 1) = v6) → K (w32 (v5 + 1)) μ)) :
    hI wX6_walk μ0 mX6_walk d K 248 [(0, 2, 65), (1, 0, v1), (2, 0, v2), (5, 0, v5), (6, 0, v6), (7, 0, v7)] [] μ := by
  refine g_aload_n (q := 0) dX6_walk_248 rfl rfl ?_
  refine g_aload_n (q := 0) dX6_walk_249 rfl rfl ?_
  refine g_getC (x := 85) 2 dX6_walk_250 fX6_84 rfl (by decide) (sk_65 hs.S) (sv_65_47 hs.S) ?_
  refine g_iconst dX6_walk_253 (by decide) ?_
  refine g_iaload dX6_walk_254 (by decide) (sk_85 hs.S) (by decide) (t_lt (sn_85 hs.S) (by decide)) ?_
  refine g_aload_n (q := 0) dX6_walk_255 rfl rfl ?_
  refine g_getC (x := 85) 2 dX6_walk_256 fX6_84 rfl (by decide) (sk_65 hs.S) (sv_65_47 hs.S) ?_
  refine g_iconst dX6_walk_259 (by decide) ?_
  refine g_iaload dX6_walk_260 (by decide) (sk_85 hs.S) (by decide) (t_lt (sn_85 hs.S) (by decide)) ?_
  refine g_iload (q := 4) dX6_walk_261 rfl ?_
  refine g_iload (q := 5) dX6_walk_263 rfl ?_
  refine g_callV4 dX6_walk_265 kX6_meets q1683 q1685 qs89 (ci := 6) rfl (by decide) rfl (by omega) (by decide) (sk_65 hs.S) (Nat.le_of_ble_eq_true rfl) (Nat.le_refl _) (Nat.le_refl _) (t_pI hs (pX6_meetsF hs (tWs_T rfl)) ?_)
  refine g_if_eq (tgt := 276) dX6_walk_268 (by decide) (fun c4 => ?_) (fun c5 => ?_)
  · have h := h.1 (b2i_0.mp c4)
    refine g_iinc (q := 3) dX6_walk_276 (by decide) rfl [1, 2, 3, 0, 4, 5] rfl ?_
    refine g_goto (tgt := 48) dX6_walk_279 (by decide) ?_
    exact g_less [0, 1, 2, 3] rfl h
  · have h := h.2 (b2i_1.mp c5)
    refine g_iload (q := 3) dX6_walk_271 rfl ?_
    refine g_iconst dX6_walk_273 (by decide) ?_
    refine g_iadd dX6_walk_274 ?_
    exact g_iret dX6_walk_275 rfl (Nat.le_refl _) (Nat.le_refl _) ⟨_, rfl, hs, h⟩
theorem uX6_distance_0 {d : Nat} {μ0 μ : tm_M} {K : Int → tm_M → Prop} {v1 v2 : Int} (hd : 2 ≤ d) (hs : tFr wX6_distance μ0 μ)
    (h : (∀ μ1, μ1 = tm_w μ 65 1 0 → (∀ μ2, μ2 = tm_w μ1 65 0 0 → (y_W μ0) ∧ ((¬ (0 ≤ v1 ∧ v1 < tm_v μ0 65 20) → (∀ μ9, μ9 = tm_w μ2 65 0 2 → K (-1) μ9)) ∧ (0 ≤ v1 ∧ v1 < tm_v μ0 65 20 → (0 ≤ v2 ∧ v2 < tm_v μ0 65 20 → cV wX6_findFar mX6_findFar (d - 1) [(2, 65), (0, v1)] μ2 (fun μ17 => (0 ≤ v2 ∧ v2 < 8) ∧ ((tm_v μ17 89 v2 < 100 → K (tm_v μ17 89 v2) μ17) ∧ (100 ≤ tm_v μ17 89 v2 → (∀ μ21, μ21 = tm_w μ17 65 0 8 → K (-1) μ21))))) ∧ (¬ (0 ≤ v2 ∧ v2 < tm_v μ0 65 20) → (∀ μ24, μ24 = tm_w μ2 65 0 2 → K (-1) μ24))))))) :
    hI wX6_distance μ0 mX6_distance d K 0 [(0, 2, 65), (1, 0, v1), (2, 0, v2)] [] μ := by
  refine g_aload_n (q := 0) dX6_distance_0 rfl rfl ?_
  refine g_iconst dX6_distance_1 (by decide) ?_
  refine g_put dX6_distance_2 fX6_144 rfl (by decide) (sk_65 hs.S) (fun e => absurd e (by decide)) (p_wj hs (by decide) (tWs_inF rfl) fun μ1 eμ1 hs => ?_)
  have h := h μ1 eμ1
  refine g_aload_n (q := 0) dX6_distance_5 rfl rfl ?_
  refine g_iconst dX6_distance_6 (by decide) ?_
  refine g_put dX6_distance_7 fX6_147 rfl (by decide) (sk_65 hs.S) (fun e => absurd e (by decide)) (p_wj hs (by decide) (tWs_inF rfl) fun μ2 eμ2 hs => ?_)
  have h := h μ2 eμ2
  refine g_aload_n (q := 0) dX6_distance_10 rfl rfl ?_
  refine g_iload_n (q := 1) dX6_distance_11 rfl rfl ?_
  obtain ⟨c3, h⟩ := h
  refine g_callV1 dX6_distance_12 kX6_isPlace q1598 q1600 qs75 (ci := 6) rfl (by decide) rfl (by omega) (by decide) (sk_65 hs.S) (Nat.le_of_ble_eq_true rfl) (Nat.le_refl _) (Nat.le_refl _) (t_pI hs (pX6_isPlaceF (by omega) hs (tWs_T rfl) c3) ?_)
  refine g_if_eq (tgt := 26) dX6_distance_15 (by decide) (fun c7 => ?_) (fun c8 => ?_)
  · have h := h.1 (b2i_0.mp c7)
    refine g_aload_n (q := 0) dX6_distance_26 rfl rfl ?_
    refine g_iconst dX6_distance_27 (by decide) ?_
    refine g_callV1 dX6_distance_28 kX6_refuse q1484 q1486 qs53 (ci := 6) rfl (by decide) rfl (by omega) (by decide) (sk_65 hs.S) (Nat.le_of_ble_eq_true rfl) (Nat.le_refl _) (Nat.le_refl _) (t_kI hs (tWs_sub rfl) (pX6_refuse hs.S) (fun r11 μ9 hs e10 => ?_))
    obtain ⟨rfl, e10⟩ := e10
    have h := h μ9 e10
    exact g_iret dX6_distance_31 rfl (Nat.le_refl _) (Nat.le_refl _) ⟨_, rfl, hs, h⟩
  · have h := h.2 (b2i_1.mp c8)
    refine g_aload_n (q := 0) dX6_distance_18 rfl rfl ?_
    refine g_iload_n (q := 2) dX6_distance_19 rfl rfl ?_
    refine g_callV1 dX6_distance_20 kX6_isPlace q1598 q1600 qs75 (ci := 6) rfl (by decide) rfl (by omega) (by decide) (sk_65 hs.S) (Nat.le_of_ble_eq_true rfl) (Nat.le_refl _) (Nat.le_refl _) (t_pI hs (pX6_isPlaceF (by omega) hs (tWs_T rfl) c3) ?_)
    refine g_if_ne (tgt := 32) dX6_distance_23 (by decide) (fun c15 => ?_) (fun c16 => ?_)
    · have h := h.1 (b2i_1.mp c15)
      refine g_aload_n (q := 0) dX6_distance_32 rfl rfl ?_
      refine g_iload_n (q := 1) dX6_distance_33 rfl rfl ?_
      refine g_callV1 dX6_distance_34 kX6_findFar q1623 q1625 qs78 (ci := 6) rfl (by decide) rfl (by omega) (by decide) (sk_65 hs.S) (Nat.le_of_ble_eq_true rfl) (Nat.le_refl _) (Nat.le_refl _) (t_kV hs (tWs_sub rfl) h (fun μ17 hs h => ?_))
      refine g_aload_n (q := 0) dX6_distance_37 rfl rfl ?_
      refine g_getC (x := 89) 2 dX6_distance_38 fX6_96 rfl (by decide) (sk_65 hs.S) (sv_65_51 hs.S) ?_
      refine g_iload_n (q := 2) dX6_distance_41 rfl rfl ?_
      obtain ⟨c18, h⟩ := h
      refine g_iaload dX6_distance_42 (by decide) (sk_89 hs.S) c18.1 (t_lt (sn_89 hs.S) c18.2) ?_
      refine g_bipush dX6_distance_43 ⟨by decide, by decide, rfl⟩ ?_
      refine g_icmp_lt (tgt := 57) dX6_distance_45 (by decide) (fun c19 => ?_) (fun c20 => ?_)
      · have h := h.1 c19
        refine g_aload_n (q := 0) dX6_distance_57 rfl rfl ?_
        refine g_getC (x := 89) 2 dX6_distance_58 fX6_96 rfl (by decide) (sk_65 hs.S) (sv_65_51 hs.S) ?_
        refine g_iload_n (q := 2) dX6_distance_61 rfl rfl ?_
        refine g_iaload dX6_distance_62 (by decide) (sk_89 hs.S) c18.1 (t_lt (sn_89 hs.S) c18.2) ?_
        exact g_iret dX6_distance_63 rfl (Nat.le_refl _) (Nat.le_refl _) ⟨_, rfl, hs, h⟩
      · have h := h.2 c20
        refine g_aload_n (q := 0) dX6_distance_48 rfl rfl ?_
        refine g_bipush dX6_distance_49 ⟨by decide, by decide, rfl⟩ ?_
        refine g_callV1 dX6_distance_51 kX6_refuse q1484 q1486 qs53 (ci := 6) rfl (by decide) rfl (by omega) (by decide) (sk_65 hs.S) (Nat.le_of_ble_eq_true rfl) (Nat.le_refl _) (Nat.le_refl _) (t_kI hs (tWs_sub rfl) (pX6_refuse hs.S) (fun r23 μ21 hs e22 => ?_))
        obtain ⟨rfl, e22⟩ := e22
        have h := h μ21 e22
        refine g_goto (tgt := 63) dX6_distance_54 (by decide) ?_
        exact g_iret dX6_distance_63 rfl (Nat.le_refl _) (Nat.le_refl _) ⟨_, rfl, hs, h⟩
    · have h := h.2 (b2i_0.mp c16)
      refine g_aload_n (q := 0) dX6_distance_26 rfl rfl ?_
      refine g_iconst dX6_distance_27 (by decide) ?_
      refine g_callV1 dX6_distance_28 kX6_refuse q1484 q1486 qs53 (ci := 6) rfl (by decide) rfl (by omega) (by decide) (sk_65 hs.S) (Nat.le_of_ble_eq_true rfl) (Nat.le_refl _) (Nat.le_refl _) (t_kI hs (tWs_sub rfl) (pX6_refuse hs.S) (fun r26 μ24 hs e25 => ?_))
      obtain ⟨rfl, e25⟩ := e25
      have h := h μ24 e25
      exact g_iret dX6_distance_31 rfl (Nat.le_refl _) (Nat.le_refl _) ⟨_, rfl, hs, h⟩
theorem uX6_when_0 {d : Nat} {μ0 μ : tm_M} {K : Int → tm_M → Prop} {v1 v2 v3 v4 : Int} (hd : 2 ≤ d) (hs : tFr wX6_when μ0 μ)
    (h : (∀ μ1, μ1 = tm_w μ 65 1 0 → (∀ μ2, μ2 = tm_w μ1 65 0 0 → (y_V μ0) ∧ ((¬ (0 ≤ v1 ∧ v1 < tm_v μ0 65 43) → (∀ μ9, μ9 = tm_w μ2 65 0 2 → K (-1) μ9)) ∧ (0 ≤ v1 ∧ v1 < tm_v μ0 65 43 → (¬ (0 ≤ v2 ∧ v2 < tm_v μ0 65 43) → (∀ μ17, μ17 = tm_w μ2 65 0 2 → K (-1) μ17)) ∧ (0 ≤ v2 ∧ v2 < tm_v μ0 65 43 → (y_W μ0) ∧ ((¬ (0 ≤ v3 ∧ v3 < tm_v μ0 65 20) → (∀ μ26, μ26 = tm_w μ2 65 0 2 → K (-1) μ26)) ∧ (0 ≤ v3 ∧ v3 < tm_v μ0 65 20 → (0 ≤ v4 ∧ v4 < tm_v μ0 65 20 → cI wX6_walk mX6_walk (d - 1) [(2, 65), (0, v1), (0, v2), (0, v3), (0, v4)] μ2 (fun r35 μ34 => (0 ≤ r35 → K r35 μ34) ∧ (r35 < 0 → (∀ μ38, μ38 = tm_w μ34 65 0 8 → K (-1) μ38)))) ∧ (¬ (0 ≤ v4 ∧ v4 < tm_v μ0 65 20) → (∀ μ41, μ41 = tm_w μ2 65 0 2 → K (-1) μ41)))))))))) :
    hI wX6_when μ0 mX6_when d K 0 [(0, 2, 65), (1, 0, v1), (2, 0, v2), (3, 0, v3), (4, 0, v4)] [] μ := by
  refine g_aload_n (q := 0) dX6_when_0 rfl rfl ?_
  refine g_iconst dX6_when_1 (by decide) ?_
  refine g_put dX6_when_2 fX6_144 rfl (by decide) (sk_65 hs.S) (fun e => absurd e (by decide)) (p_wj hs (by decide) (tWs_inF rfl) fun μ1 eμ1 hs => ?_)
  have h := h μ1 eμ1
  refine g_aload_n (q := 0) dX6_when_5 rfl rfl ?_
  refine g_iconst dX6_when_6 (by decide) ?_
  refine g_put dX6_when_7 fX6_147 rfl (by decide) (sk_65 hs.S) (fun e => absurd e (by decide)) (p_wj hs (by decide) (tWs_inF rfl) fun μ2 eμ2 hs => ?_)
  have h := h μ2 eμ2
  refine g_aload_n (q := 0) dX6_when_10 rfl rfl ?_
  refine g_iload_n (q := 1) dX6_when_11 rfl rfl ?_
  obtain ⟨c3, h⟩ := h
  refine g_callV1 dX6_when_12 kX6_isWay q1651 q1653 qs81 (ci := 6) rfl (by decide) rfl (by omega) (by decide) (sk_65 hs.S) (Nat.le_of_ble_eq_true rfl) (Nat.le_refl _) (Nat.le_refl _) (t_pI hs (pX6_isWayF (by omega) hs (tWs_T rfl) c3) ?_)
  refine g_if_eq (tgt := 43) dX6_when_15 (by decide) (fun c7 => ?_) (fun c8 => ?_)
  · have h := h.1 (b2i_0.mp c7)
    refine g_aload_n (q := 0) dX6_when_43 rfl rfl ?_
    refine g_iconst dX6_when_44 (by decide) ?_
    refine g_callV1 dX6_when_45 kX6_refuse q1484 q1486 qs53 (ci := 6) rfl (by decide) rfl (by omega) (by decide) (sk_65 hs.S) (Nat.le_of_ble_eq_true rfl) (Nat.le_refl _) (Nat.le_refl _) (t_kI hs (tWs_sub rfl) (pX6_refuse hs.S) (fun r11 μ9 hs e10 => ?_))
    obtain ⟨rfl, e10⟩ := e10
    have h := h μ9 e10
    exact g_iret dX6_when_48 rfl (Nat.le_refl _) (Nat.le_refl _) ⟨_, rfl, hs, h⟩
  · have h := h.2 (b2i_1.mp c8)
    refine g_aload_n (q := 0) dX6_when_18 rfl rfl ?_
    refine g_iload_n (q := 2) dX6_when_19 rfl rfl ?_
    refine g_callV1 dX6_when_20 kX6_isWay q1651 q1653 qs81 (ci := 6) rfl (by decide) rfl (by omega) (by decide) (sk_65 hs.S) (Nat.le_of_ble_eq_true rfl) (Nat.le_refl _) (Nat.le_refl _) (t_pI hs (pX6_isWayF (by omega) hs (tWs_T rfl) c3) ?_)
    refine g_if_eq (tgt := 43) dX6_when_23 (by decide) (fun c15 => ?_) (fun c16 => ?_)
    · have h := h.1 (b2i_0.mp c15)
      refine g_aload_n (q := 0) dX6_when_43 rfl rfl ?_
      refine g_iconst dX6_when_44 (by decide) ?_
      refine g_callV1 dX6_when_45 kX6_refuse q1484 q1486 qs53 (ci := 6) rfl (by decide) rfl (by omega) (by decide) (sk_65 hs.S) (Nat.le_of_ble_eq_true rfl) (Nat.le_refl _) (Nat.le_refl _) (t_kI hs (tWs_sub rfl) (pX6_refuse hs.S) (fun r19 μ17 hs e18 => ?_))
      obtain ⟨rfl, e18⟩ := e18
      have h := h μ17 e18
      exact g_iret dX6_when_48 rfl (Nat.le_refl _) (Nat.le_refl _) ⟨_, rfl, hs, h⟩
    · have h := h.2 (b2i_1.mp c16)
      refine g_aload_n (q := 0) dX6_when_26 rfl rfl ?_
      refine g_iload_n (q := 3) dX6_when_27 rfl rfl ?_
      obtain ⟨c20, h⟩ := h
      refine g_callV1 dX6_when_28 kX6_isPlace q1598 q1600 qs75 (ci := 6) rfl (by decide) rfl (by omega) (by decide) (sk_65 hs.S) (Nat.le_of_ble_eq_true rfl) (Nat.le_refl _) (Nat.le_refl _) (t_pI hs (pX6_isPlaceF (by omega) hs (tWs_T rfl) c20) ?_)
      refine g_if_eq (tgt := 43) dX6_when_31 (by decide) (fun c24 => ?_) (fun c25 => ?_)
      · have h := h.1 (b2i_0.mp c24)
        refine g_aload_n (q := 0) dX6_when_43 rfl rfl ?_
        refine g_iconst dX6_when_44 (by decide) ?_
        refine g_callV1 dX6_when_45 kX6_refuse q1484 q1486 qs53 (ci := 6) rfl (by decide) rfl (by omega) (by decide) (sk_65 hs.S) (Nat.le_of_ble_eq_true rfl) (Nat.le_refl _) (Nat.le_refl _) (t_kI hs (tWs_sub rfl) (pX6_refuse hs.S) (fun r28 μ26 hs e27 => ?_))
        obtain ⟨rfl, e27⟩ := e27
        have h := h μ26 e27
        exact g_iret dX6_when_48 rfl (Nat.le_refl _) (Nat.le_refl _) ⟨_, rfl, hs, h⟩
      · have h := h.2 (b2i_1.mp c25)
        refine g_aload_n (q := 0) dX6_when_34 rfl rfl ?_
        refine g_iload (q := 4) dX6_when_35 rfl ?_
        refine g_callV1 dX6_when_37 kX6_isPlace q1598 q1600 qs75 (ci := 6) rfl (by decide) rfl (by omega) (by decide) (sk_65 hs.S) (Nat.le_of_ble_eq_true rfl) (Nat.le_refl _) (Nat.le_refl _) (t_pI hs (pX6_isPlaceF (by omega) hs (tWs_T rfl) c20) ?_)
        refine g_if_ne (tgt := 49) dX6_when_40 (by decide) (fun c32 => ?_) (fun c33 => ?_)
        · have h := h.1 (b2i_1.mp c32)
          refine g_aload_n (q := 0) dX6_when_49 rfl rfl ?_
          refine g_iload_n (q := 1) dX6_when_50 rfl rfl ?_
          refine g_iload_n (q := 2) dX6_when_51 rfl rfl ?_
          refine g_iload_n (q := 3) dX6_when_52 rfl rfl ?_
          refine g_iload (q := 4) dX6_when_53 rfl ?_
          refine g_callV4 dX6_when_55 kX6_walk q1655 q1657 qs82 (ci := 6) rfl (by decide) rfl (by omega) (by decide) (sk_65 hs.S) (Nat.le_of_ble_eq_true rfl) (Nat.le_refl _) (Nat.le_refl _) (t_kI hs (tWs_sub rfl) h (fun r35 μ34 hs h => ?_))
          refine g_istore (L' := [(0, 2, 65), (1, 0, v1), (2, 0, v2), (3, 0, v3), (4, 0, v4), (5, 0, r35)]) dX6_when_58 (by decide) [1, 2, 3, 4, 5, 0] rfl ?_
          refine g_iload (q := 5) dX6_when_60 rfl ?_
          refine g_if_ge (tgt := 74) dX6_when_62 (by decide) (fun c36 => ?_) (fun c37 => ?_)
          · have h := h.1 c36
            refine g_iload (q := 5) dX6_when_74 rfl ?_
            exact g_iret dX6_when_76 rfl (Nat.le_refl _) (Nat.le_refl _) ⟨_, rfl, hs, h⟩
          · have h := h.2 c37
            refine g_aload_n (q := 0) dX6_when_65 rfl rfl ?_
            refine g_bipush dX6_when_66 ⟨by decide, by decide, rfl⟩ ?_
            refine g_callV1 dX6_when_68 kX6_refuse q1484 q1486 qs53 (ci := 6) rfl (by decide) rfl (by omega) (by decide) (sk_65 hs.S) (Nat.le_of_ble_eq_true rfl) (Nat.le_refl _) (Nat.le_refl _) (t_kI hs (tWs_sub rfl) (pX6_refuse hs.S) (fun r40 μ38 hs e39 => ?_))
            obtain ⟨rfl, e39⟩ := e39
            have h := h μ38 e39
            refine g_goto (tgt := 76) dX6_when_71 (by decide) ?_
            exact g_iret dX6_when_76 rfl (Nat.le_refl _) (Nat.le_refl _) ⟨_, rfl, hs, h⟩
        · have h := h.2 (b2i_0.mp c33)
          refine g_aload_n (q := 0) dX6_when_43 rfl rfl ?_
          refine g_iconst dX6_when_44 (by decide) ?_
          refine g_callV1 dX6_when_45 kX6_refuse q1484 q1486 qs53 (ci := 6) rfl (by decide) rfl (by omega) (by decide) (sk_65 hs.S) (Nat.le_of_ble_eq_true rfl) (Nat.le_refl _) (Nat.le_refl _) (t_kI hs (tWs_sub rfl) (pX6_refuse hs.S) (fun r43 μ41 hs e42 => ?_))
          obtain ⟨rfl, e42⟩ := e42
          have h := h μ41 e42
          exact g_iret dX6_when_48 rfl (Nat.le_refl _) (Nat.le_refl _) ⟨_, rfl, hs, h⟩
theorem uX6_judge_0 {d : Nat} {μ0 μ : tm_M} {K : Int → tm_M → Prop} {v1 v2 v3 : Int} (hd : 2 ≤ d) (hs : tFr wX6_judge μ0 μ)
    (h : (∀ μ1, μ1 = tm_w μ 65 1 0 → (∀ μ2, μ2 = tm_w μ1 65 0 0 → (0 ≤ v3 ∧ v3 ≤ 3 → (y_V μ0) ∧ ((¬ (0 ≤ v1 ∧ v1 < tm_v μ0 65 43) → (∀ μ14, μ14 = tm_w μ2 65 0 2 → K (-1) μ14)) ∧ (0 ≤ v1 ∧ v1 < tm_v μ0 65 43 → (0 ≤ v2 ∧ v2 < tm_v μ0 65 43 → (0 ≤ v3 ∧ v3 < 4) ∧ ((0 ≤ tm_v μ0 67 v3 → (w32 ((tm_v μ0 65 20) * (tm_v μ0 65 20)) ≤ tm_v μ0 67 v3 → hI wX6_judge μ0 mX6_judge d K 92 [(0, 2, 65), (1, 0, v1), (2, 0, v2), (3, 0, v3), (4, 0, 0)] [] μ2) ∧ (tm_v μ0 67 v3 < w32 ((tm_v μ0 65 20) * (tm_v μ0 65 20)) → (∀ μ27, μ27 = tm_w μ2 65 0 4 → K (-1) μ27))) ∧ (tm_v μ0 67 v3 < 0 → (∀ μ30, μ30 = tm_w μ2 65 0 3 → K (-1) μ30)))) ∧ (¬ (0 ≤ v2 ∧ v2 < tm_v μ0 65 43) → (∀ μ33, μ33 = tm_w μ2 65 0 2 → K (-1) μ33))))) ∧ (¬ (0 ≤ v3 ∧ v3 ≤ 3) → (∀ μ36, μ36 = tm_w μ2 65 0 1 → K (-1) μ36))))) :
    hI wX6_judge μ0 mX6_judge d K 0 [(0, 2, 65), (1, 0, v1), (2, 0, v2), (3, 0, v3)] [] μ := by
  refine g_aload_n (q := 0) dX6_judge_0 rfl rfl ?_
  refine g_iconst dX6_judge_1 (by decide) ?_
  refine g_put dX6_judge_2 fX6_144 rfl (by decide) (sk_65 hs.S) (fun e => absurd e (by decide)) (p_wj hs (by decide) (tWs_inF rfl) fun μ1 eμ1 hs => ?_)
  have h := h μ1 eμ1
  refine g_aload_n (q := 0) dX6_judge_5 rfl rfl ?_
  refine g_iconst dX6_judge_6 (by decide) ?_
  refine g_put dX6_judge_7 fX6_147 rfl (by decide) (sk_65 hs.S) (fun e => absurd e (by decide)) (p_wj hs (by decide) (tWs_inF rfl) fun μ2 eμ2 hs => ?_)
  have h := h μ2 eμ2
  refine g_iload_n (q := 3) dX6_judge_10 rfl rfl ?_
  refine g_i2l dX6_judge_11 ?_
  refine g_lconst0 dX6_judge_12 ?_
  refine g_ldc2 (v := 3) (by decide) q1691c dX6_judge_13 ?_
  refine g_callS3 dX6_judge_16 kX6_isIn q1563 q1564 rfl (by omega) (Nat.le_of_ble_eq_true rfl) (Nat.le_refl _) (Nat.le_refl _) (t_pI hs (pX6_isIn hs.S) ?_)
  refine g_if_ne (tgt := 28) dX6_judge_19 (by decide) (fun c6 => ?_) (fun c7 => ?_)
  · have h := h.1 (b2i_1.mp c6)
    refine g_aload_n (q := 0) dX6_judge_28 rfl rfl ?_
    refine g_iload_n (q := 1) dX6_judge_29 rfl rfl ?_
    obtain ⟨c8, h⟩ := h
    refine g_callV1 dX6_judge_30 kX6_isWay q1651 q1653 qs81 (ci := 6) rfl (by decide) rfl (by omega) (by decide) (sk_65 hs.S) (Nat.le_of_ble_eq_true rfl) (Nat.le_refl _) (Nat.le_refl _) (t_pI hs (pX6_isWayF (by omega) hs (tWs_T rfl) c8) ?_)
    refine g_if_eq (tgt := 44) dX6_judge_33 (by decide) (fun c12 => ?_) (fun c13 => ?_)
    · have h := h.1 (b2i_0.mp c12)
      refine g_aload_n (q := 0) dX6_judge_44 rfl rfl ?_
      refine g_iconst dX6_judge_45 (by decide) ?_
      refine g_callV1 dX6_judge_46 kX6_refuse q1484 q1486 qs53 (ci := 6) rfl (by decide) rfl (by omega) (by decide) (sk_65 hs.S) (Nat.le_of_ble_eq_true rfl) (Nat.le_refl _) (Nat.le_refl _) (t_kI hs (tWs_sub rfl) (pX6_refuse hs.S) (fun r16 μ14 hs e15 => ?_))
      obtain ⟨rfl, e15⟩ := e15
      have h := h μ14 e15
      exact g_iret dX6_judge_49 rfl (Nat.le_refl _) (Nat.le_refl _) ⟨_, rfl, hs, h⟩
    · have h := h.2 (b2i_1.mp c13)
      refine g_aload_n (q := 0) dX6_judge_36 rfl rfl ?_
      refine g_iload_n (q := 2) dX6_judge_37 rfl rfl ?_
      refine g_callV1 dX6_judge_38 kX6_isWay q1651 q1653 qs81 (ci := 6) rfl (by decide) rfl (by omega) (by decide) (sk_65 hs.S) (Nat.le_of_ble_eq_true rfl) (Nat.le_refl _) (Nat.le_refl _) (t_pI hs (pX6_isWayF (by omega) hs (tWs_T rfl) c8) ?_)
      refine g_if_ne (tgt := 50) dX6_judge_41 (by decide) (fun c20 => ?_) (fun c21 => ?_)
      · have h := h.1 (b2i_1.mp c20)
        refine g_aload_n (q := 0) dX6_judge_50 rfl rfl ?_
        refine g_getC (x := 67) 2 dX6_judge_51 fX6_17 rfl (by decide) (sk_65 hs.S) (sv_65_5 hs.S) ?_
        refine g_iload_n (q := 3) dX6_judge_54 rfl rfl ?_
        obtain ⟨c22, h⟩ := h
        refine g_ialoadC (x := tm_v μ0 67 v3) dX6_judge_55 (by decide) (sk_67 hs.S) c22.1 (t_lt (sn_67 hs.S) c22.2) (hs.v (tWs_no _ rfl)) ?_
        refine g_if_ge (tgt := 65) dX6_judge_56 (by decide) (fun c23 => ?_) (fun c24 => ?_)
        · have h := h.1 c23
          refine g_aload_n (q := 0) dX6_judge_65 rfl rfl ?_
          refine g_getC (x := 67) 2 dX6_judge_66 fX6_17 rfl (by decide) (sk_65 hs.S) (sv_65_5 hs.S) ?_
          refine g_iload_n (q := 3) dX6_judge_69 rfl rfl ?_
          refine g_ialoadC (x := tm_v μ0 67 v3) dX6_judge_70 (by decide) (sk_67 hs.S) c22.1 (t_lt (sn_67 hs.S) c22.2) (hs.v (tWs_no _ rfl)) ?_
          refine g_aload_n (q := 0) dX6_judge_71 rfl rfl ?_
          refine g_getC (x := tm_v μ0 65 20) 0 dX6_judge_72 fX6_326 rfl (by decide) (sk_65 hs.S) (hs.v (tWs_noF rfl)) ?_
          refine g_aload_n (q := 0) dX6_judge_75 rfl rfl ?_
          refine g_getC (x := tm_v μ0 65 20) 0 dX6_judge_76 fX6_326 rfl (by decide) (sk_65 hs.S) (hs.v (tWs_noF rfl)) ?_
          refine g_imul dX6_judge_79 ?_
          refine g_icmp_ge (tgt := 89) dX6_judge_80 (by decide) (fun c25 => ?_) (fun c26 => ?_)
          · have h := h.1 c25
            refine g_iconst dX6_judge_89 (by decide) ?_
            refine g_istore (L' := [(0, 2, 65), (1, 0, v1), (2, 0, v2), (3, 0, v3), (4, 0, 0)]) dX6_judge_90 (by decide) [1, 2, 3, 4, 0] rfl ?_
            exact h
          · have h := h.2 c26
            refine g_aload_n (q := 0) dX6_judge_83 rfl rfl ?_
            refine g_iconst dX6_judge_84 (by decide) ?_
            refine g_callV1 dX6_judge_85 kX6_refuse q1484 q1486 qs53 (ci := 6) rfl (by decide) rfl (by omega) (by decide) (sk_65 hs.S) (Nat.le_of_ble_eq_true rfl) (Nat.le_refl _) (Nat.le_refl _) (t_kI hs (tWs_sub rfl) (pX6_refuse hs.S) (fun r29 μ27 hs e28 => ?_))
            obtain ⟨rfl, e28⟩ := e28
            have h := h μ27 e28
            exact g_iret dX6_judge_88 rfl (Nat.le_refl _) (Nat.le_refl _) ⟨_, rfl, hs, h⟩
        · have h := h.2 c24
          refine g_aload_n (q := 0) dX6_judge_59 rfl rfl ?_
          refine g_iconst dX6_judge_60 (by decide) ?_
          refine g_callV1 dX6_judge_61 kX6_refuse q1484 q1486 qs53 (ci := 6) rfl (by decide) rfl (by omega) (by decide) (sk_65 hs.S) (Nat.le_of_ble_eq_true rfl) (Nat.le_refl _) (Nat.le_refl _) (t_kI hs (tWs_sub rfl) (pX6_refuse hs.S) (fun r32 μ30 hs e31 => ?_))
          obtain ⟨rfl, e31⟩ := e31
          have h := h μ30 e31
          exact g_iret dX6_judge_64 rfl (Nat.le_refl _) (Nat.le_refl _) ⟨_, rfl, hs, h⟩
      · have h := h.2 (b2i_0.mp c21)
        refine g_aload_n (q := 0) dX6_judge_44 rfl rfl ?_
        refine g_iconst dX6_judge_45 (by decide) ?_
        refine g_callV1 dX6_judge_46 kX6_refuse q1484 q1486 qs53 (ci := 6) rfl (by decide) rfl (by omega) (by decide) (sk_65 hs.S) (Nat.le_of_ble_eq_true rfl) (Nat.le_refl _) (Nat.le_refl _) (t_kI hs (tWs_sub rfl) (pX6_refuse hs.S) (fun r35 μ33 hs e34 => ?_))
        obtain ⟨rfl, e34⟩ := e34
        have h := h μ33 e34
        exact g_iret dX6_judge_49 rfl (Nat.le_refl _) (Nat.le_refl _) ⟨_, rfl, hs, h⟩
  · have h := h.2 (b2i_0.mp c7)
    refine g_aload_n (q := 0) dX6_judge_22 rfl rfl ?_
    refine g_iconst dX6_judge_23 (by decide) ?_
    refine g_callV1 dX6_judge_24 kX6_refuse q1484 q1486 qs53 (ci := 6) rfl (by decide) rfl (by omega) (by decide) (sk_65 hs.S) (Nat.le_of_ble_eq_true rfl) (Nat.le_refl _) (Nat.le_refl _) (t_kI hs (tWs_sub rfl) (pX6_refuse hs.S) (fun r38 μ36 hs e37 => ?_))
    obtain ⟨rfl, e37⟩ := e37
    have h := h μ36 e37
    exact g_iret dX6_judge_27 rfl (Nat.le_refl _) (Nat.le_refl _) ⟨_, rfl, hs, h⟩
theorem uX6_judge_92 {d : Nat} {μ0 μ : tm_M} {K : Int → tm_M → Prop} {v1 v2 v3 v4 : Int} (hs : tFr wX6_judge μ0 μ)
    (h : (tm_v μ0 65 20 ≤ v4 → K (-1) μ) ∧ (v4 < tm_v μ0 65 20 → hI wX6_judge μ0 mX6_judge d K 104 [(0, 2, 65), (1, 0, v1), (2, 0, v2), (3, 0, v3), (4, 0, v4), (5, 0, 0)] [] μ)) :
    hI wX6_judge μ0 mX6_judge d K 92 [(0, 2, 65), (1, 0, v1), (2, 0, v2), (3, 0, v3), (4, 0, v4)] [] μ := by
  refine g_iload (q := 4) dX6_judge_92 rfl ?_
  refine g_aload_n (q := 0) dX6_judge_94 rfl rfl ?_
  refine g_getC (x := tm_v μ0 65 20) 0 dX6_judge_95 fX6_326 rfl (by decide) (sk_65 hs.S) (hs.v (tWs_noF rfl)) ?_
  refine g_icmp_ge (tgt := 164) dX6_judge_98 (by decide) (fun c1 => ?_) (fun c2 => ?_)
  · have h := h.1 c1
    refine g_iconst dX6_judge_164 (by decide) ?_
    exact g_iret dX6_judge_165 rfl (Nat.le_refl _) (Nat.le_refl _) ⟨_, rfl, hs, h⟩
  · have h := h.2 c2
    refine g_iconst dX6_judge_101 (by decide) ?_
    refine g_istore (L' := [(0, 2, 65), (1, 0, v1), (2, 0, v2), (3, 0, v3), (4, 0, v4), (5, 0, 0)]) dX6_judge_102 (by decide) [1, 2, 3, 4, 5, 0] rfl ?_
    exact h
theorem uX6_judge_104 {d : Nat} {μ0 μ : tm_M} {K : Int → tm_M → Prop} {v1 v2 v3 v4 v5 : Int} (hd : 1 ≤ d) (hs : tFr wX6_judge μ0 μ)
    (h : (tm_v μ0 65 20 ≤ v5 → hI wX6_judge μ0 mX6_judge d K 92 [(0, 2, 65), (1, 0, v1), (2, 0, v2), (3, 0, v3), (4, 0, w32 (v4 + 1))] [] μ) ∧ (v5 < tm_v μ0 65 20 → (0 ≤ v3 ∧ v3 < 4 ∧ 0 ≤ (w32 ((w32 ((tm_v μ0 65 20) * v4)) + v5)) ∧ (w32 ((w32 ((tm_v μ0 65 20) * v4)) + v5)) < 64) ∧ (cI wX6_walk mX6_walk (d - 1) [(2, 65), (0, v1), (0, v2), (0, v4), (0, v5)] μ (fun r8 μ7 => (tm_v μ 68 (64 * v3 + (w32 ((w32 ((tm_v μ0 65 20) * v4)) + v5))) = r8 → hI wX6_judge μ0 mX6_judge d K 104 [(0, 2, 65), (1, 0, v1), (2, 0, v2), (3, 0, v3), (4, 0, v4), (5, 0, w32 (v5 + 1))] [] μ7) ∧ (tm_v μ 68 (64 * v3 + (w32 ((w32 ((tm_v μ0 65 20) * v4)) + v5))) ≠ r8 → K (w32 ((w32 (8 * v4)) + v5)) μ7))))) :
    hI wX6_judge μ0 mX6_judge d K 104 [(0, 2, 65), (1, 0, v1), (2, 0, v2), (3, 0, v3), (4, 0, v4), (5, 0, v5)] [] μ := by
  refine g_iload (q := 5) dX6_judge_104 rfl ?_
  refine g_aload_n (q := 0) dX6_judge_106 rfl rfl ?_
  refine g_getC (x := tm_v μ0 65 20) 0 dX6_judge_107 fX6_326 rfl (by decide) (sk_65 hs.S) (hs.v (tWs_noF rfl)) ?_
  refine g_icmp_ge (tgt := 158) dX6_judge_110 (by decide) (fun c1 => ?_) (fun c2 => ?_)
  · have h := h.1 c1
    refine g_iinc (q := 4) dX6_judge_158 (by decide) rfl [1, 2, 3, 4, 0, 5] rfl ?_
    refine g_goto (tgt := 92) dX6_judge_161 (by decide) ?_
    exact g_less [0, 1, 2, 3, 4] rfl h
  · have h := h.2 c2
    refine g_aload_n (q := 0) dX6_judge_113 rfl rfl ?_
    refine g_iload_n (q := 3) dX6_judge_114 rfl rfl ?_
    refine g_aload_n (q := 0) dX6_judge_115 rfl rfl ?_
    refine g_getC (x := tm_v μ0 65 20) 0 dX6_judge_116 fX6_326 rfl (by decide) (sk_65 hs.S) (hs.v (tWs_noF rfl)) ?_
    refine g_iload (q := 4) dX6_judge_119 rfl ?_
    refine g_imul dX6_judge_121 ?_
    refine g_iload (q := 5) dX6_judge_122 rfl ?_
    refine g_iadd dX6_judge_124 ?_
    obtain ⟨c3, h⟩ := h
    refine g_callV2 dX6_judge_125 kX6_numberOf q1633 q1635 qs79 (ci := 6) rfl (by decide) rfl (by omega) (by decide) (sk_65 hs.S) (Nat.le_of_ble_eq_true rfl) (Nat.le_refl _) (Nat.le_refl _) (t_pL hs (pX6_numberOf hs.S c3) ?_)
    refine g_aload_n (q := 0) dX6_judge_128 rfl rfl ?_
    refine g_iload_n (q := 1) dX6_judge_129 rfl rfl ?_
    refine g_iload_n (q := 2) dX6_judge_130 rfl rfl ?_
    refine g_iload (q := 4) dX6_judge_131 rfl ?_
    refine g_iload (q := 5) dX6_judge_133 rfl ?_
    refine g_callV4 dX6_judge_135 kX6_walk q1655 q1657 qs82 (ci := 6) rfl (by decide) rfl (by omega) (by decide) (sk_65 hs.S) (Nat.le_of_ble_eq_true rfl) (Nat.le_refl _) (Nat.le_refl _) (t_kI hs (tWs_sub rfl) h (fun r8 μ7 hs h => ?_))
    refine g_i2l dX6_judge_138 ?_
    refine g_lcmp_eq (tgt := 152) dX6_judge_139 dX6_judge_140 (by decide) (fun c9 => ?_) (fun c10 => ?_)
    · have h := h.1 c9
      refine g_iinc (q := 5) dX6_judge_152 (by decide) rfl [1, 2, 3, 4, 5, 0] rfl ?_
      refine g_goto (tgt := 104) dX6_judge_155 (by decide) ?_
      exact h
    · have h := h.2 c10
      refine g_bipush dX6_judge_143 ⟨by decide, by decide, rfl⟩ ?_
      refine g_iload (q := 4) dX6_judge_145 rfl ?_
      refine g_imul dX6_judge_147 ?_
      refine g_iload (q := 5) dX6_judge_148 rfl ?_
      refine g_iadd dX6_judge_150 ?_
      exact g_iret dX6_judge_151 rfl (Nat.le_refl _) (Nat.le_refl _) ⟨_, rfl, hs, h⟩
theorem uX6_sumOf_0 {d : Nat} {μ0 μ : tm_M} {K : Int → tm_M → Prop} {v1 v2 : Int} (hd : 2 ≤ d) (hs : tFr wX6_sumOf μ0 μ)
    (h : (y_W μ0) ∧ ((y_all μ0 ≠ 0 → hLo wX6_sumOf μ0 mX6_sumOf d K 18 [(0, 2, 65), (1, 0, v1), (2, 0, v2), (3, 1, 0), (5, 0, 0)] [] μ) ∧ (y_all μ0 = 0 → K (-1) μ))) :
    hLo wX6_sumOf μ0 mX6_sumOf d K 0 [(0, 2, 65), (1, 0, v1), (2, 0, v2)] [] μ := by
  refine g_aload_n (q := 0) dX6_sumOf_0 rfl rfl ?_
  obtain ⟨c1, h⟩ := h
  refine g_callV0 dX6_sumOf_1 kX6_allLikely q1700 q1702 qs91 (ci := 6) rfl (by decide) rfl (by omega) (by decide) (sk_65 hs.S) (Nat.le_of_ble_eq_true rfl) (Nat.le_refl _) (Nat.le_refl _) (t_pL hs (pX6_allLikelyF (by omega) hs (tWs_T rfl) c1) ?_)
  refine g_lconst0 dX6_sumOf_4 ?_
  refine g_lcmp_ne (tgt := 13) dX6_sumOf_5 dX6_sumOf_6 (by decide) (fun c5 => ?_) (fun c6 => ?_)
  · have h := h.1 c5
    refine g_lconst0 dX6_sumOf_13 ?_
    refine g_lstore_n (L' := [(0, 2, 65), (1, 0, v1), (2, 0, v2), (3, 1, 0)]) dX6_sumOf_14 rfl (by decide) [1, 2, 3, 0] rfl ?_
    refine g_iconst dX6_sumOf_15 (by decide) ?_
    refine g_istore (L' := [(0, 2, 65), (1, 0, v1), (2, 0, v2), (3, 1, 0), (5, 0, 0)]) dX6_sumOf_16 (by decide) [1, 2, 3, 4, 0] rfl ?_
    exact h
  · have h := h.2 c6
    refine g_ldc2 (v := -1) (by decide) q1467c dX6_sumOf_9 ?_
    exact g_lret dX6_sumOf_12 rfl (Nat.le_refl _) (Nat.le_refl _) ⟨_, rfl, hs, h⟩
theorem uX6_sumOf_18 {d : Nat} {μ0 μ : tm_M} {K : Int → tm_M → Prop} {v1 v2 v3 v5 : Int} (hs : tFr wX6_sumOf μ0 μ)
    (h : (tm_v μ0 65 20 ≤ v5 → K v3 μ) ∧ (v5 < tm_v μ0 65 20 → hLo wX6_sumOf μ0 mX6_sumOf d K 30 [(0, 2, 65), (1, 0, v1), (2, 0, v2), (3, 1, v3), (5, 0, v5), (6, 0, 0)] [] μ)) :
    hLo wX6_sumOf μ0 mX6_sumOf d K 18 [(0, 2, 65), (1, 0, v1), (2, 0, v2), (3, 1, v3), (5, 0, v5)] [] μ := by
  refine g_iload (q := 4) dX6_sumOf_18 rfl ?_
  refine g_aload_n (q := 0) dX6_sumOf_20 rfl rfl ?_
  refine g_getC (x := tm_v μ0 65 20) 0 dX6_sumOf_21 fX6_326 rfl (by decide) (sk_65 hs.S) (hs.v (tWs_noF rfl)) ?_
  refine g_icmp_ge (tgt := 103) dX6_sumOf_24 (by decide) (fun c1 => ?_) (fun c2 => ?_)
  · have h := h.1 c1
    refine g_lload_n (q := 3) dX6_sumOf_103 rfl rfl ?_
    exact g_lret dX6_sumOf_104 rfl (Nat.le_refl _) (Nat.le_refl _) ⟨_, rfl, hs, h⟩
  · have h := h.2 c2
    refine g_iconst dX6_sumOf_27 (by decide) ?_
    refine g_istore (L' := [(0, 2, 65), (1, 0, v1), (2, 0, v2), (3, 1, v3), (5, 0, v5), (6, 0, 0)]) dX6_sumOf_28 (by decide) [1, 2, 3, 4, 5, 0] rfl ?_
    exact h
theorem uX6_sumOf_30 {d : Nat} {μ0 μ : tm_M} {K : Int → tm_M → Prop} {v1 v2 v3 v5 v6 : Int} (hd : 1 ≤ d) (hs : tFr wX6_sumOf μ0 μ)
    (h : (tm_v μ0 65 20 ≤ v6 → hLo wX6_sumOf μ0 mX6_sumOf d K 18 [(0, 2, 65), (1, 0, v1), (2, 0, v2), (3, 1, v3), (5, 0, w32 (v5 + 1))] [] μ) ∧ (v6 < tm_v μ0 65 20 → (y_p μ0 v5 ∧ y_p μ0 v6) ∧ ((y_likely μ0 v5 v6 ≠ 0 → cI wX6_walk mX6_walk (d - 1) [(2, 65), (0, v1), (0, v2), (0, v5), (0, v6)] μ (fun r10 μ9 => (0 ≤ r10 → (∀ x16, x16 = w64 (v3 + (w64 ((y_likely μ0 v5 v6) * r10))) → hLo wX6_sumOf μ0 mX6_sumOf d K 30 [(0, 2, 65), (1, 0, v1), (2, 0, v2), (3, 1, x16), (5, 0, v5), (6, 0, w32 (v6 + 1))] [] μ9)) ∧ (r10 < 0 → K (-1) μ9))) ∧ (y_likely μ0 v5 v6 = 0 → hLo wX6_sumOf μ0 mX6_sumOf d K 30 [(0, 2, 65), (1, 0, v1), (2, 0, v2), (3, 1, v3), (5, 0, v5), (6, 0, w32 (v6 + 1))] [] μ)))) :
    hLo wX6_sumOf μ0 mX6_sumOf d K 30 [(0, 2, 65), (1, 0, v1), (2, 0, v2), (3, 1, v3), (5, 0, v5), (6, 0, v6)] [] μ := by
  refine g_iload (q := 5) dX6_sumOf_30 rfl ?_
  refine g_aload_n (q := 0) dX6_sumOf_32 rfl rfl ?_
  refine g_getC (x := tm_v μ0 65 20) 0 dX6_sumOf_33 fX6_326 rfl (by decide) (sk_65 hs.S) (hs.v (tWs_noF rfl)) ?_
  refine g_icmp_ge (tgt := 97) dX6_sumOf_36 (by decide) (fun c1 => ?_) (fun c2 => ?_)
  · have h := h.1 c1
    refine g_iinc (q := 4) dX6_sumOf_97 (by decide) rfl [1, 2, 3, 4, 0, 5] rfl ?_
    refine g_goto (tgt := 18) dX6_sumOf_100 (by decide) ?_
    exact g_less [0, 1, 2, 3, 4] rfl h
  · have h := h.2 c2
    refine g_aload_n (q := 0) dX6_sumOf_39 rfl rfl ?_
    refine g_iload (q := 4) dX6_sumOf_40 rfl ?_
    refine g_iload (q := 5) dX6_sumOf_42 rfl ?_
    obtain ⟨c3, h⟩ := h
    refine g_callV2 dX6_sumOf_44 kX6_likely q1704 q1706 qs92 (ci := 6) rfl (by decide) rfl (by omega) (by decide) (sk_65 hs.S) (Nat.le_of_ble_eq_true rfl) (Nat.le_refl _) (Nat.le_refl _) (t_pL hs (pX6_likelyF hs (tWs_T rfl) c3) ?_)
    refine g_lconst0 dX6_sumOf_47 ?_
    refine g_lcmp_ne (tgt := 55) dX6_sumOf_48 dX6_sumOf_49 (by decide) (fun c7 => ?_) (fun c8 => ?_)
    · have h := h.1 c7
      refine g_aload_n (q := 0) dX6_sumOf_55 rfl rfl ?_
      refine g_iload_n (q := 1) dX6_sumOf_56 rfl rfl ?_
      refine g_iload_n (q := 2) dX6_sumOf_57 rfl rfl ?_
      refine g_iload (q := 4) dX6_sumOf_58 rfl ?_
      refine g_iload (q := 5) dX6_sumOf_60 rfl ?_
      refine g_callV4 dX6_sumOf_62 kX6_walk q1655 q1657 qs82 (ci := 6) rfl (by decide) rfl (by omega) (by decide) (sk_65 hs.S) (Nat.le_of_ble_eq_true rfl) (Nat.le_refl _) (Nat.le_refl _) (t_kI hs (tWs_sub rfl) h (fun r10 μ9 hs h => ?_))
      refine g_istore (L' := [(0, 2, 65), (1, 0, v1), (2, 0, v2), (3, 1, v3), (5, 0, v5), (6, 0, v6), (7, 0, r10)]) dX6_sumOf_65 (by decide) [1, 2, 3, 4, 5, 6, 0] rfl ?_
      refine g_iload (q := 6) dX6_sumOf_67 rfl ?_
      refine g_if_ge (tgt := 76) dX6_sumOf_69 (by decide) (fun c11 => ?_) (fun c12 => ?_)
      · have h := h.1 c11
        refine g_lload_n (q := 3) dX6_sumOf_76 rfl rfl ?_
        refine g_aload_n (q := 0) dX6_sumOf_77 rfl rfl ?_
        refine g_iload (q := 4) dX6_sumOf_78 rfl ?_
        refine g_iload (q := 5) dX6_sumOf_80 rfl ?_
        refine g_callV2 dX6_sumOf_82 kX6_likely q1704 q1706 qs92 (ci := 6) rfl (by decide) rfl (by omega) (by decide) (sk_65 hs.S) (Nat.le_of_ble_eq_true rfl) (Nat.le_refl _) (Nat.le_refl _) (t_pL hs (pX6_likelyF hs (tWs_T rfl) c3) ?_)
        refine g_iload (q := 6) dX6_sumOf_85 rfl ?_
        refine g_i2l dX6_sumOf_87 ?_
        refine g_lmul dX6_sumOf_88 ?_
        refine g_ladd dX6_sumOf_89 ?_
        refine g_lstore_nN (fun z => [(0, 2, 65), (1, 0, v1), (2, 0, v2), (3, 1, z), (5, 0, v5), (6, 0, v6), (7, 0, r10)]) dX6_sumOf_90 rfl (by decide) [1, 2, 3, 0, 4, 5, 6] (fun _ => rfl) (fun x16 ex16 => ?_)
        have h := h x16 ex16
        refine g_iinc (q := 5) dX6_sumOf_91 (by decide) rfl [1, 2, 3, 4, 5, 0, 6] rfl ?_
        refine g_goto (tgt := 30) dX6_sumOf_94 (by decide) ?_
        exact g_less [0, 1, 2, 3, 4, 5] rfl h
      · have h := h.2 c12
        refine g_ldc2 (v := -1) (by decide) q1467c dX6_sumOf_72 ?_
        exact g_lret dX6_sumOf_75 rfl (Nat.le_refl _) (Nat.le_refl _) ⟨_, rfl, hs, h⟩
    · have h := h.2 c8
      refine g_goto (tgt := 91) dX6_sumOf_52 (by decide) ?_
      refine g_iinc (q := 5) dX6_sumOf_91 (by decide) rfl [1, 2, 3, 4, 5, 0] rfl ?_
      refine g_goto (tgt := 30) dX6_sumOf_94 (by decide) ?_
      exact h
theorem uX6_mean_0 {d : Nat} {μ0 μ : tm_M} {K : Int → tm_M → Prop} {v1 v2 : Int} (hd : 2 ≤ d) (hs : tFr wX6_mean μ0 μ)
    (h : (∀ μ1, μ1 = tm_w μ 65 1 0 → (∀ μ2, μ2 = tm_w μ1 65 0 0 → (y_V μ0) ∧ ((¬ (0 ≤ v1 ∧ v1 < tm_v μ0 65 43) → (∀ μ9, μ9 = tm_w μ2 65 0 2 → K 0 μ9)) ∧ (0 ≤ v1 ∧ v1 < tm_v μ0 65 43 → (0 ≤ v2 ∧ v2 < tm_v μ0 65 43 → cL wX6_sumOf mX6_sumOf (d - 1) [(2, 65), (0, v1), (0, v2)] μ2 (fun r18 μ17 => (0 ≤ r18 → (y_W μ0) ∧ (cV wX6_fraction mX6_fraction (d - 1) [(2, 65), (1, r18), (1, y_all μ0)] μ17 (fun μ25 => K 1 μ25))) ∧ (r18 < 0 → (∀ μ26, μ26 = tm_w μ17 65 0 9 → K 0 μ26)))) ∧ (¬ (0 ≤ v2 ∧ v2 < tm_v μ0 65 43) → (∀ μ29, μ29 = tm_w μ2 65 0 2 → K 0 μ29))))))) :
    hI wX6_mean μ0 mX6_mean d K 0 [(0, 2, 65), (1, 0, v1), (2, 0, v2)] [] μ := by
  refine g_aload_n (q := 0) dX6_mean_0 rfl rfl ?_
  refine g_iconst dX6_mean_1 (by decide) ?_
  refine g_put dX6_mean_2 fX6_144 rfl (by decide) (sk_65 hs.S) (fun e => absurd e (by decide)) (p_wj hs (by decide) (tWs_inF rfl) fun μ1 eμ1 hs => ?_)
  have h := h μ1 eμ1
  refine g_aload_n (q := 0) dX6_mean_5 rfl rfl ?_
  refine g_iconst dX6_mean_6 (by decide) ?_
  refine g_put dX6_mean_7 fX6_147 rfl (by decide) (sk_65 hs.S) (fun e => absurd e (by decide)) (p_wj hs (by decide) (tWs_inF rfl) fun μ2 eμ2 hs => ?_)
  have h := h μ2 eμ2
  refine g_aload_n (q := 0) dX6_mean_10 rfl rfl ?_
  refine g_iload_n (q := 1) dX6_mean_11 rfl rfl ?_
  obtain ⟨c3, h⟩ := h
  refine g_callV1 dX6_mean_12 kX6_isWay q1651 q1653 qs81 (ci := 6) rfl (by decide) rfl (by omega) (by decide) (sk_65 hs.S) (Nat.le_of_ble_eq_true rfl) (Nat.le_refl _) (Nat.le_refl _) (t_pI hs (pX6_isWayF (by omega) hs (tWs_T rfl) c3) ?_)
  refine g_if_eq (tgt := 26) dX6_mean_15 (by decide) (fun c7 => ?_) (fun c8 => ?_)
  · have h := h.1 (b2i_0.mp c7)
    refine g_aload_n (q := 0) dX6_mean_26 rfl rfl ?_
    refine g_iconst dX6_mean_27 (by decide) ?_
    refine g_callV1 dX6_mean_28 kX6_no q1444 q1446 qs49 (ci := 6) rfl (by decide) rfl (by omega) (by decide) (sk_65 hs.S) (Nat.le_of_ble_eq_true rfl) (Nat.le_refl _) (Nat.le_refl _) (t_kI hs (tWs_sub rfl) (pX6_no hs.S) (fun r11 μ9 hs e10 => ?_))
    obtain ⟨rfl, e10⟩ := e10
    have h := h μ9 e10
    exact g_zret dX6_mean_31 rfl (by decide) (Nat.le_refl _) (Nat.le_refl _) ⟨_, rfl, hs, h⟩
  · have h := h.2 (b2i_1.mp c8)
    refine g_aload_n (q := 0) dX6_mean_18 rfl rfl ?_
    refine g_iload_n (q := 2) dX6_mean_19 rfl rfl ?_
    refine g_callV1 dX6_mean_20 kX6_isWay q1651 q1653 qs81 (ci := 6) rfl (by decide) rfl (by omega) (by decide) (sk_65 hs.S) (Nat.le_of_ble_eq_true rfl) (Nat.le_refl _) (Nat.le_refl _) (t_pI hs (pX6_isWayF (by omega) hs (tWs_T rfl) c3) ?_)
    refine g_if_ne (tgt := 32) dX6_mean_23 (by decide) (fun c15 => ?_) (fun c16 => ?_)
    · have h := h.1 (b2i_1.mp c15)
      refine g_aload_n (q := 0) dX6_mean_32 rfl rfl ?_
      refine g_iload_n (q := 1) dX6_mean_33 rfl rfl ?_
      refine g_iload_n (q := 2) dX6_mean_34 rfl rfl ?_
      refine g_callV2 dX6_mean_35 kX6_sumOf q1696 q1698 qs90 (ci := 6) rfl (by decide) rfl (by omega) (by decide) (sk_65 hs.S) (Nat.le_of_ble_eq_true rfl) (Nat.le_refl _) (Nat.le_refl _) (t_kL hs (tWs_sub rfl) h (fun r18 μ17 hs h => ?_))
      refine g_lstore_n (L' := [(0, 2, 65), (1, 0, v1), (2, 0, v2), (3, 1, r18)]) dX6_mean_38 rfl (by decide) [1, 2, 3, 0] rfl ?_
      refine g_lload_n (q := 3) dX6_mean_39 rfl rfl ?_
      refine g_lconst0 dX6_mean_40 ?_
      refine g_lcmp_ge (tgt := 52) dX6_mean_41 dX6_mean_42 (by decide) (fun c19 => ?_) (fun c20 => ?_)
      · have h := h.1 c19
        refine g_aload_n (q := 0) dX6_mean_52 rfl rfl ?_
        refine g_lload_n (q := 3) dX6_mean_53 rfl rfl ?_
        refine g_aload_n (q := 0) dX6_mean_54 rfl rfl ?_
        obtain ⟨c21, h⟩ := h
        refine g_callV0 dX6_mean_55 kX6_allLikely q1700 q1702 qs91 (ci := 6) rfl (by decide) rfl (by omega) (by decide) (sk_65 hs.S) (Nat.le_of_ble_eq_true rfl) (Nat.le_refl _) (Nat.le_refl _) (t_pL hs (pX6_allLikelyF (by omega) hs (tWs_T rfl) c21) ?_)
        refine g_callV2 dX6_mean_58 kX6_fraction q1708 q1710 qs93 (ci := 6) rfl (by decide) rfl (by omega) (by decide) (sk_65 hs.S) (Nat.le_of_ble_eq_true rfl) (Nat.le_refl _) (Nat.le_refl _) (t_kV hs (tWs_sub rfl) h (fun μ25 hs h => ?_))
        refine g_iconst dX6_mean_61 (by decide) ?_
        exact g_zret dX6_mean_62 rfl (by decide) (Nat.le_refl _) (Nat.le_refl _) ⟨_, rfl, hs, h⟩
      · have h := h.2 c20
        refine g_aload_n (q := 0) dX6_mean_45 rfl rfl ?_
        refine g_bipush dX6_mean_46 ⟨by decide, by decide, rfl⟩ ?_
        refine g_callV1 dX6_mean_48 kX6_no q1444 q1446 qs49 (ci := 6) rfl (by decide) rfl (by omega) (by decide) (sk_65 hs.S) (Nat.le_of_ble_eq_true rfl) (Nat.le_refl _) (Nat.le_refl _) (t_kI hs (tWs_sub rfl) (pX6_no hs.S) (fun r28 μ26 hs e27 => ?_))
        obtain ⟨rfl, e27⟩ := e27
        have h := h μ26 e27
        exact g_zret dX6_mean_51 rfl (by decide) (Nat.le_refl _) (Nat.le_refl _) ⟨_, rfl, hs, h⟩
    · have h := h.2 (b2i_0.mp c16)
      refine g_aload_n (q := 0) dX6_mean_26 rfl rfl ?_
      refine g_iconst dX6_mean_27 (by decide) ?_
      refine g_callV1 dX6_mean_28 kX6_no q1444 q1446 qs49 (ci := 6) rfl (by decide) rfl (by omega) (by decide) (sk_65 hs.S) (Nat.le_of_ble_eq_true rfl) (Nat.le_refl _) (Nat.le_refl _) (t_kI hs (tWs_sub rfl) (pX6_no hs.S) (fun r31 μ29 hs e30 => ?_))
      obtain ⟨rfl, e30⟩ := e30
      have h := h μ29 e30
      exact g_zret dX6_mean_31 rfl (by decide) (Nat.le_refl _) (Nat.le_refl _) ⟨_, rfl, hs, h⟩
theorem uX6_worst_0 {d : Nat} {μ0 μ : tm_M} {K : Int → tm_M → Prop} {v1 v2 : Int} (hd : 2 ≤ d) (hs : tFr wX6_worst μ0 μ)
    (h : (∀ μ1, μ1 = tm_w μ 65 1 0 → (∀ μ2, μ2 = tm_w μ1 65 0 0 → (y_V μ0) ∧ ((¬ (0 ≤ v1 ∧ v1 < tm_v μ0 65 43) → (∀ μ9, μ9 = tm_w μ2 65 0 2 → K (-1) μ9)) ∧ (0 ≤ v1 ∧ v1 < tm_v μ0 65 43 → (0 ≤ v2 ∧ v2 < tm_v μ0 65 43 → cL wX6_sumOf mX6_sumOf (d - 1) [(2, 65), (0, v1), (0, v2)] μ2 (fun r18 μ17 => (0 ≤ r18 → hI wX6_worst μ0 mX6_worst d K 55 [(0, 2, 65), (1, 0, v1), (2, 0, v2), (3, 0, 0), (4, 0, 0)] [] μ17) ∧ (r18 < 0 → (∀ μ21, μ21 = tm_w μ17 65 0 9 → K (-1) μ21)))) ∧ (¬ (0 ≤ v2 ∧ v2 < tm_v μ0 65 43) → (∀ μ24, μ24 = tm_w μ2 65 0 2 → K (-1) μ24))))))) :
    hI wX6_worst μ0 mX6_worst d K 0 [(0, 2, 65), (1, 0, v1), (2, 0, v2)] [] μ := by
  refine g_aload_n (q := 0) dX6_worst_0 rfl rfl ?_
  refine g_iconst dX6_worst_1 (by decide) ?_
  refine g_put dX6_worst_2 fX6_144 rfl (by decide) (sk_65 hs.S) (fun e => absurd e (by decide)) (p_wj hs (by decide) (tWs_inF rfl) fun μ1 eμ1 hs => ?_)
  have h := h μ1 eμ1
  refine g_aload_n (q := 0) dX6_worst_5 rfl rfl ?_
  refine g_iconst dX6_worst_6 (by decide) ?_
  refine g_put dX6_worst_7 fX6_147 rfl (by decide) (sk_65 hs.S) (fun e => absurd e (by decide)) (p_wj hs (by decide) (tWs_inF rfl) fun μ2 eμ2 hs => ?_)
  have h := h μ2 eμ2
  refine g_aload_n (q := 0) dX6_worst_10 rfl rfl ?_
  refine g_iload_n (q := 1) dX6_worst_11 rfl rfl ?_
  obtain ⟨c3, h⟩ := h
  refine g_callV1 dX6_worst_12 kX6_isWay q1651 q1653 qs81 (ci := 6) rfl (by decide) rfl (by omega) (by decide) (sk_65 hs.S) (Nat.le_of_ble_eq_true rfl) (Nat.le_refl _) (Nat.le_refl _) (t_pI hs (pX6_isWayF (by omega) hs (tWs_T rfl) c3) ?_)
  refine g_if_eq (tgt := 26) dX6_worst_15 (by decide) (fun c7 => ?_) (fun c8 => ?_)
  · have h := h.1 (b2i_0.mp c7)
    refine g_aload_n (q := 0) dX6_worst_26 rfl rfl ?_
    refine g_iconst dX6_worst_27 (by decide) ?_
    refine g_callV1 dX6_worst_28 kX6_refuse q1484 q1486 qs53 (ci := 6) rfl (by decide) rfl (by omega) (by decide) (sk_65 hs.S) (Nat.le_of_ble_eq_true rfl) (Nat.le_refl _) (Nat.le_refl _) (t_kI hs (tWs_sub rfl) (pX6_refuse hs.S) (fun r11 μ9 hs e10 => ?_))
    obtain ⟨rfl, e10⟩ := e10
    have h := h μ9 e10
    exact g_iret dX6_worst_31 rfl (Nat.le_refl _) (Nat.le_refl _) ⟨_, rfl, hs, h⟩
  · have h := h.2 (b2i_1.mp c8)
    refine g_aload_n (q := 0) dX6_worst_18 rfl rfl ?_
    refine g_iload_n (q := 2) dX6_worst_19 rfl rfl ?_
    refine g_callV1 dX6_worst_20 kX6_isWay q1651 q1653 qs81 (ci := 6) rfl (by decide) rfl (by omega) (by decide) (sk_65 hs.S) (Nat.le_of_ble_eq_true rfl) (Nat.le_refl _) (Nat.le_refl _) (t_pI hs (pX6_isWayF (by omega) hs (tWs_T rfl) c3) ?_)
    refine g_if_ne (tgt := 32) dX6_worst_23 (by decide) (fun c15 => ?_) (fun c16 => ?_)
    · have h := h.1 (b2i_1.mp c15)
      refine g_aload_n (q := 0) dX6_worst_32 rfl rfl ?_
      refine g_iload_n (q := 1) dX6_worst_33 rfl rfl ?_
      refine g_iload_n (q := 2) dX6_worst_34 rfl rfl ?_
      refine g_callV2 dX6_worst_35 kX6_sumOf q1696 q1698 qs90 (ci := 6) rfl (by decide) rfl (by omega) (by decide) (sk_65 hs.S) (Nat.le_of_ble_eq_true rfl) (Nat.le_refl _) (Nat.le_refl _) (t_kL hs (tWs_sub rfl) h (fun r18 μ17 hs h => ?_))
      refine g_lconst0 dX6_worst_38 ?_
      refine g_lcmp_ge (tgt := 50) dX6_worst_39 dX6_worst_40 (by decide) (fun c19 => ?_) (fun c20 => ?_)
      · have h := h.1 c19
        refine g_iconst dX6_worst_50 (by decide) ?_
        refine g_istore_n (L' := [(0, 2, 65), (1, 0, v1), (2, 0, v2), (3, 0, 0)]) dX6_worst_51 rfl (by decide) [1, 2, 3, 0] rfl ?_
        refine g_iconst dX6_worst_52 (by decide) ?_
        refine g_istore (L' := [(0, 2, 65), (1, 0, v1), (2, 0, v2), (3, 0, 0), (4, 0, 0)]) dX6_worst_53 (by decide) [1, 2, 3, 4, 0] rfl ?_
        exact h
      · have h := h.2 c20
        refine g_aload_n (q := 0) dX6_worst_43 rfl rfl ?_
        refine g_bipush dX6_worst_44 ⟨by decide, by decide, rfl⟩ ?_
        refine g_callV1 dX6_worst_46 kX6_refuse q1484 q1486 qs53 (ci := 6) rfl (by decide) rfl (by omega) (by decide) (sk_65 hs.S) (Nat.le_of_ble_eq_true rfl) (Nat.le_refl _) (Nat.le_refl _) (t_kI hs (tWs_sub rfl) (pX6_refuse hs.S) (fun r23 μ21 hs e22 => ?_))
        obtain ⟨rfl, e22⟩ := e22
        have h := h μ21 e22
        exact g_iret dX6_worst_49 rfl (Nat.le_refl _) (Nat.le_refl _) ⟨_, rfl, hs, h⟩
    · have h := h.2 (b2i_0.mp c16)
      refine g_aload_n (q := 0) dX6_worst_26 rfl rfl ?_
      refine g_iconst dX6_worst_27 (by decide) ?_
      refine g_callV1 dX6_worst_28 kX6_refuse q1484 q1486 qs53 (ci := 6) rfl (by decide) rfl (by omega) (by decide) (sk_65 hs.S) (Nat.le_of_ble_eq_true rfl) (Nat.le_refl _) (Nat.le_refl _) (t_kI hs (tWs_sub rfl) (pX6_refuse hs.S) (fun r26 μ24 hs e25 => ?_))
      obtain ⟨rfl, e25⟩ := e25
      have h := h μ24 e25
      exact g_iret dX6_worst_31 rfl (Nat.le_refl _) (Nat.le_refl _) ⟨_, rfl, hs, h⟩
theorem uX6_worst_55 {d : Nat} {μ0 μ : tm_M} {K : Int → tm_M → Prop} {v1 v2 v3 v4 : Int} (hs : tFr wX6_worst μ0 μ)
    (h : (tm_v μ0 65 20 ≤ v4 → K v3 μ) ∧ (v4 < tm_v μ0 65 20 → hI wX6_worst μ0 mX6_worst d K 67 [(0, 2, 65), (1, 0, v1), (2, 0, v2), (3, 0, v3), (4, 0, v4), (5, 0, 0)] [] μ)) :
    hI wX6_worst μ0 mX6_worst d K 55 [(0, 2, 65), (1, 0, v1), (2, 0, v2), (3, 0, v3), (4, 0, v4)] [] μ := by
  refine g_iload (q := 4) dX6_worst_55 rfl ?_
  refine g_aload_n (q := 0) dX6_worst_57 rfl rfl ?_
  refine g_getC (x := tm_v μ0 65 20) 0 dX6_worst_58 fX6_326 rfl (by decide) (sk_65 hs.S) (hs.v (tWs_noF rfl)) ?_
  refine g_icmp_ge (tgt := 116) dX6_worst_61 (by decide) (fun c1 => ?_) (fun c2 => ?_)
  · have h := h.1 c1
    refine g_iload_n (q := 3) dX6_worst_116 rfl rfl ?_
    exact g_iret dX6_worst_117 rfl (Nat.le_refl _) (Nat.le_refl _) ⟨_, rfl, hs, h⟩
  · have h := h.2 c2
    refine g_iconst dX6_worst_64 (by decide) ?_
    refine g_istore (L' := [(0, 2, 65), (1, 0, v1), (2, 0, v2), (3, 0, v3), (4, 0, v4), (5, 0, 0)]) dX6_worst_65 (by decide) [1, 2, 3, 4, 5, 0] rfl ?_
    exact h
theorem uX6_worst_67 {d : Nat} {μ0 μ : tm_M} {K : Int → tm_M → Prop} {v1 v2 v3 v4 v5 : Int} (hd : 1 ≤ d) (hs : tFr wX6_worst μ0 μ)
    (h : (tm_v μ0 65 20 ≤ v5 → hI wX6_worst μ0 mX6_worst d K 55 [(0, 2, 65), (1, 0, v1), (2, 0, v2), (3, 0, v3), (4, 0, w32 (v4 + 1))] [] μ) ∧ (v5 < tm_v μ0 65 20 → (y_p μ0 v4 ∧ y_p μ0 v5) ∧ ((y_likely μ0 v4 v5 ≤ 0 → hI wX6_worst μ0 mX6_worst d K 67 [(0, 2, 65), (1, 0, v1), (2, 0, v2), (3, 0, v3), (4, 0, v4), (5, 0, w32 (v5 + 1))] [] μ) ∧ (0 < y_likely μ0 v4 v5 → cI wX6_walk mX6_walk (d - 1) [(2, 65), (0, v1), (0, v2), (0, v4), (0, v5)] μ (fun r10 μ9 => (∀ x14, x14 = max v3 r10 → hI wX6_worst μ0 mX6_worst d K 67 [(0, 2, 65), (1, 0, v1), (2, 0, v2), (3, 0, x14), (4, 0, v4), (5, 0, w32 (v5 + 1))] [] μ9)))))) :
    hI wX6_worst μ0 mX6_worst d K 67 [(0, 2, 65), (1, 0, v1), (2, 0, v2), (3, 0, v3), (4, 0, v4), (5, 0, v5)] [] μ := by
  refine g_iload (q := 5) dX6_worst_67 rfl ?_
  refine g_aload_n (q := 0) dX6_worst_69 rfl rfl ?_
  refine g_getC (x := tm_v μ0 65 20) 0 dX6_worst_70 fX6_326 rfl (by decide) (sk_65 hs.S) (hs.v (tWs_noF rfl)) ?_
  refine g_icmp_ge (tgt := 110) dX6_worst_73 (by decide) (fun c1 => ?_) (fun c2 => ?_)
  · have h := h.1 c1
    refine g_iinc (q := 4) dX6_worst_110 (by decide) rfl [1, 2, 3, 4, 0, 5] rfl ?_
    refine g_goto (tgt := 55) dX6_worst_113 (by decide) ?_
    exact g_less [0, 1, 2, 3, 4] rfl h
  · have h := h.2 c2
    refine g_aload_n (q := 0) dX6_worst_76 rfl rfl ?_
    refine g_iload (q := 4) dX6_worst_77 rfl ?_
    refine g_iload (q := 5) dX6_worst_79 rfl ?_
    obtain ⟨c3, h⟩ := h
    refine g_callV2 dX6_worst_81 kX6_likely q1704 q1706 qs92 (ci := 6) rfl (by decide) rfl (by omega) (by decide) (sk_65 hs.S) (Nat.le_of_ble_eq_true rfl) (Nat.le_refl _) (Nat.le_refl _) (t_pL hs (pX6_likelyF hs (tWs_T rfl) c3) ?_)
    refine g_lconst0 dX6_worst_84 ?_
    refine g_lcmp_le (tgt := 104) dX6_worst_85 dX6_worst_86 (by decide) (fun c7 => ?_) (fun c8 => ?_)
    · have h := h.1 c7
      refine g_iinc (q := 5) dX6_worst_104 (by decide) rfl [1, 2, 3, 4, 5, 0] rfl ?_
      refine g_goto (tgt := 67) dX6_worst_107 (by decide) ?_
      exact h
    · have h := h.2 c8
      refine g_iload_n (q := 3) dX6_worst_89 rfl rfl ?_
      refine g_aload_n (q := 0) dX6_worst_90 rfl rfl ?_
      refine g_iload_n (q := 1) dX6_worst_91 rfl rfl ?_
      refine g_iload_n (q := 2) dX6_worst_92 rfl rfl ?_
      refine g_iload (q := 4) dX6_worst_93 rfl ?_
      refine g_iload (q := 5) dX6_worst_95 rfl ?_
      refine g_callV4 dX6_worst_97 kX6_walk q1655 q1657 qs82 (ci := 6) rfl (by decide) rfl (by omega) (by decide) (sk_65 hs.S) (Nat.le_of_ble_eq_true rfl) (Nat.le_refl _) (Nat.le_refl _) (t_kI hs (tWs_sub rfl) h (fun r10 μ9 hs h => ?_))
      refine g_callS2 dX6_worst_100 kJ8_max q1720 q1040 rfl (by omega) (Nat.le_of_ble_eq_true rfl) (Nat.le_refl _) (Nat.le_refl _) (t_pI hs (pJ8_max hs.S) ?_)
      refine g_istore_nN (fun z => [(0, 2, 65), (1, 0, v1), (2, 0, v2), (3, 0, z), (4, 0, v4), (5, 0, v5)]) dX6_worst_103 rfl (by decide) [1, 2, 3, 0, 4, 5] (fun _ => rfl) (fun x14 ex14 => ?_)
      have h := h x14 ex14
      refine g_iinc (q := 5) dX6_worst_104 (by decide) rfl [1, 2, 3, 4, 5, 0] rfl ?_
      refine g_goto (tgt := 67) dX6_worst_107 (by decide) ?_
      exact h
theorem uX6_door_0 {d : Nat} {μ0 μ : tm_M} {K : Int → tm_M → Prop} {v1 v2 : Int} (hd : 2 ≤ d) (hs : tFr wX6_door μ0 μ)
    (h : (∀ μ1, μ1 = tm_w μ 65 1 0 → (∀ μ2, μ2 = tm_w μ1 65 0 0 → (y_V μ2) ∧ ((¬ (0 ≤ v1 ∧ v1 < tm_v μ2 65 43) → (∀ μ9, μ9 = tm_w μ2 65 0 2 → K (-1) μ9)) ∧ (0 ≤ v1 ∧ v1 < tm_v μ2 65 43 → (0 ≤ v2 ∧ v2 < tm_v μ2 65 43 → cL wX6_sumOf mX6_sumOf (d - 1) [(2, 65), (0, v1), (0, v2)] μ2 (fun r18 μ17 => hI wX6_door μ0 mX6_door d K 45 [(0, 2, 65), (1, 0, v1), (2, 0, v2), (3, 0, -1), (4, 1, r18), (6, 0, 0)] [] μ17)) ∧ (¬ (0 ≤ v2 ∧ v2 < tm_v μ2 65 43) → (∀ μ19, μ19 = tm_w μ2 65 0 2 → K (-1) μ19))))))) :
    hI wX6_door μ0 mX6_door d K 0 [(0, 2, 65), (1, 0, v1), (2, 0, v2)] [] μ := by
  refine g_aload_n (q := 0) dX6_door_0 rfl rfl ?_
  refine g_iconst dX6_door_1 (by decide) ?_
  refine g_put dX6_door_2 fX6_144 rfl (by decide) (sk_65 hs.S) (fun e => absurd e (by decide)) (p_wj hs (by decide) (tWs_inF rfl) fun μ1 eμ1 hs => ?_)
  have h := h μ1 eμ1
  refine g_aload_n (q := 0) dX6_door_5 rfl rfl ?_
  refine g_iconst dX6_door_6 (by decide) ?_
  refine g_put dX6_door_7 fX6_147 rfl (by decide) (sk_65 hs.S) (fun e => absurd e (by decide)) (p_wj hs (by decide) (tWs_inF rfl) fun μ2 eμ2 hs => ?_)
  have h := h μ2 eμ2
  refine g_aload_n (q := 0) dX6_door_10 rfl rfl ?_
  refine g_iload_n (q := 1) dX6_door_11 rfl rfl ?_
  obtain ⟨c3, h⟩ := h
  refine g_callV1 dX6_door_12 kX6_isWay q1651 q1653 qs81 (ci := 6) rfl (by decide) rfl (by omega) (by decide) (sk_65 hs.S) (Nat.le_of_ble_eq_true rfl) (Nat.le_refl _) (Nat.le_refl _) (t_pI hs (pX6_isWay (by omega) hs.S c3) ?_)
  refine g_if_eq (tgt := 26) dX6_door_15 (by decide) (fun c7 => ?_) (fun c8 => ?_)
  · have h := h.1 (b2i_0.mp c7)
    refine g_aload_n (q := 0) dX6_door_26 rfl rfl ?_
    refine g_iconst dX6_door_27 (by decide) ?_
    refine g_callV1 dX6_door_28 kX6_refuse q1484 q1486 qs53 (ci := 6) rfl (by decide) rfl (by omega) (by decide) (sk_65 hs.S) (Nat.le_of_ble_eq_true rfl) (Nat.le_refl _) (Nat.le_refl _) (t_kI hs (tWs_sub rfl) (pX6_refuse hs.S) (fun r11 μ9 hs e10 => ?_))
    obtain ⟨rfl, e10⟩ := e10
    have h := h μ9 e10
    exact g_iret dX6_door_31 rfl (Nat.le_refl _) (Nat.le_refl _) ⟨_, rfl, hs, h⟩
  · have h := h.2 (b2i_1.mp c8)
    refine g_aload_n (q := 0) dX6_door_18 rfl rfl ?_
    refine g_iload_n (q := 2) dX6_door_19 rfl rfl ?_
    refine g_callV1 dX6_door_20 kX6_isWay q1651 q1653 qs81 (ci := 6) rfl (by decide) rfl (by omega) (by decide) (sk_65 hs.S) (Nat.le_of_ble_eq_true rfl) (Nat.le_refl _) (Nat.le_refl _) (t_pI hs (pX6_isWay (by omega) hs.S c3) ?_)
    refine g_if_ne (tgt := 32) dX6_door_23 (by decide) (fun c15 => ?_) (fun c16 => ?_)
    · have h := h.1 (b2i_1.mp c15)
      refine g_iconst dX6_door_32 (by decide) ?_
      refine g_istore_n (L' := [(0, 2, 65), (1, 0, v1), (2, 0, v2), (3, 0, -1)]) dX6_door_33 rfl (by decide) [1, 2, 3, 0] rfl ?_
      refine g_aload_n (q := 0) dX6_door_34 rfl rfl ?_
      refine g_iload_n (q := 1) dX6_door_35 rfl rfl ?_
      refine g_iload_n (q := 2) dX6_door_36 rfl rfl ?_
      refine g_callV2 dX6_door_37 kX6_sumOf q1696 q1698 qs90 (ci := 6) rfl (by decide) rfl (by omega) (by decide) (sk_65 hs.S) (Nat.le_of_ble_eq_true rfl) (Nat.le_refl _) (Nat.le_refl _) (t_kL hs (tWs_sub rfl) h (fun r18 μ17 hs h => ?_))
      refine g_lstore (L' := [(0, 2, 65), (1, 0, v1), (2, 0, v2), (3, 0, -1), (4, 1, r18)]) dX6_door_40 (by decide) [1, 2, 3, 4, 0] rfl ?_
      refine g_iconst dX6_door_42 (by decide) ?_
      refine g_istore (L' := [(0, 2, 65), (1, 0, v1), (2, 0, v2), (3, 0, -1), (4, 1, r18), (6, 0, 0)]) dX6_door_43 (by decide) [1, 2, 3, 4, 5, 0] rfl ?_
      exact h
    · have h := h.2 (b2i_0.mp c16)
      refine g_aload_n (q := 0) dX6_door_26 rfl rfl ?_
      refine g_iconst dX6_door_27 (by decide) ?_
      refine g_callV1 dX6_door_28 kX6_refuse q1484 q1486 qs53 (ci := 6) rfl (by decide) rfl (by omega) (by decide) (sk_65 hs.S) (Nat.le_of_ble_eq_true rfl) (Nat.le_refl _) (Nat.le_refl _) (t_kI hs (tWs_sub rfl) (pX6_refuse hs.S) (fun r21 μ19 hs e20 => ?_))
      obtain ⟨rfl, e20⟩ := e20
      have h := h μ19 e20
      exact g_iret dX6_door_31 rfl (Nat.le_refl _) (Nat.le_refl _) ⟨_, rfl, hs, h⟩
theorem uX6_door_45 {d : Nat} {μ0 μ : tm_M} {K : Int → tm_M → Prop} {v1 v2 v3 v4 v6 : Int} (hd : 2 ≤ d) (hs : tFr wX6_door μ0 μ)
    (h : (tm_v μ0 65 21 ≤ v6 → (0 ≤ v4 → (y_W μ) ∧ (cV wX6_fraction mX6_fraction (d - 1) [(2, 65), (1, v4), (1, y_all μ)] μ (fun μ9 => K v3 μ9))) ∧ (v4 < 0 → (∀ μ10, μ10 = tm_w μ 65 0 9 → K (-1) μ10))) ∧ (v6 < tm_v μ0 65 21 → (0 ≤ v6 ∧ v6 < 12) ∧ ((tm_v μ 80 v6 = 0 → (∀ μ16, μ16 = tm_w μ 80 v6 1 → cL wX6_sumOf mX6_sumOf (d - 1) [(2, 65), (0, v1), (0, v2)] μ16 (fun r18 μ17 => (∀ μ19, μ19 = tm_w μ17 80 v6 0 → (r18 < 0 → hI wX6_door μ0 mX6_door d K 45 [(0, 2, 65), (1, 0, v1), (2, 0, v2), (3, 0, v3), (4, 1, v4), (6, 0, w32 (v6 + 1))] [] μ19) ∧ (0 ≤ r18 → (v4 < 0 → hI wX6_door μ0 mX6_door d K 45 [(0, 2, 65), (1, 0, v1), (2, 0, v2), (3, 0, v6), (4, 1, r18), (6, 0, w32 (v6 + 1))] [] μ19) ∧ (0 ≤ v4 → (r18 < v4 → hI wX6_door μ0 mX6_door d K 45 [(0, 2, 65), (1, 0, v1), (2, 0, v2), (3, 0, v6), (4, 1, r18), (6, 0, w32 (v6 + 1))] [] μ19) ∧ (v4 ≤ r18 → hI wX6_door μ0 mX6_door d K 45 [(0, 2, 65), (1, 0, v1), (2, 0, v2), (3, 0, v3), (4, 1, v4), (6, 0, w32 (v6 + 1))] [] μ19))))))) ∧ (tm_v μ 80 v6 ≠ 0 → hI wX6_door μ0 mX6_door d K 45 [(0, 2, 65), (1, 0, v1), (2, 0, v2), (3, 0, v3), (4, 1, v4), (6, 0, w32 (v6 + 1))] [] μ)))) :
    hI wX6_door μ0 mX6_door d K 45 [(0, 2, 65), (1, 0, v1), (2, 0, v2), (3, 0, v3), (4, 1, v4), (6, 0, v6)] [] μ := by
  refine g_iload (q := 5) dX6_door_45 rfl ?_
  refine g_aload_n (q := 0) dX6_door_47 rfl rfl ?_
  refine g_getC (x := tm_v μ0 65 21) 0 dX6_door_48 fX6_329 rfl (by decide) (sk_65 hs.S) (hs.v (tWs_noF rfl)) ?_
  refine g_icmp_ge (tgt := 129) dX6_door_51 (by decide) (fun c1 => ?_) (fun c2 => ?_)
  · have h := h.1 c1
    refine g_lload (q := 4) dX6_door_129 rfl ?_
    refine g_lconst0 dX6_door_131 ?_
    refine g_lcmp_ge (tgt := 143) dX6_door_132 dX6_door_133 (by decide) (fun c3 => ?_) (fun c4 => ?_)
    · have h := h.1 c3
      refine g_aload_n (q := 0) dX6_door_143 rfl rfl ?_
      refine g_lload (q := 4) dX6_door_144 rfl ?_
      refine g_aload_n (q := 0) dX6_door_146 rfl rfl ?_
      obtain ⟨c5, h⟩ := h
      refine g_callV0 dX6_door_147 kX6_allLikely q1700 q1702 qs91 (ci := 6) rfl (by decide) rfl (by omega) (by decide) (sk_65 hs.S) (Nat.le_of_ble_eq_true rfl) (Nat.le_refl _) (Nat.le_refl _) (t_pL hs (pX6_allLikely (by omega) hs.S c5) ?_)
      refine g_callV2 dX6_door_150 kX6_fraction q1708 q1710 qs93 (ci := 6) rfl (by decide) rfl (by omega) (by decide) (sk_65 hs.S) (Nat.le_of_ble_eq_true rfl) (Nat.le_refl _) (Nat.le_refl _) (t_kV hs (tWs_sub rfl) h (fun μ9 hs h => ?_))
      refine g_iload_n (q := 3) dX6_door_153 rfl rfl ?_
      exact g_iret dX6_door_154 rfl (Nat.le_refl _) (Nat.le_refl _) ⟨_, rfl, hs, h⟩
    · have h := h.2 c4
      refine g_aload_n (q := 0) dX6_door_136 rfl rfl ?_
      refine g_bipush dX6_door_137 ⟨by decide, by decide, rfl⟩ ?_
      refine g_callV1 dX6_door_139 kX6_refuse q1484 q1486 qs53 (ci := 6) rfl (by decide) rfl (by omega) (by decide) (sk_65 hs.S) (Nat.le_of_ble_eq_true rfl) (Nat.le_refl _) (Nat.le_refl _) (t_kI hs (tWs_sub rfl) (pX6_refuse hs.S) (fun r12 μ10 hs e11 => ?_))
      obtain ⟨rfl, e11⟩ := e11
      have h := h μ10 e11
      exact g_iret dX6_door_142 rfl (Nat.le_refl _) (Nat.le_refl _) ⟨_, rfl, hs, h⟩
  · have h := h.2 c2
    refine g_aload_n (q := 0) dX6_door_54 rfl rfl ?_
    refine g_getC (x := 80) 2 dX6_door_55 fX6_68 rfl (by decide) (sk_65 hs.S) (sv_65_41 hs.S) ?_
    refine g_iload (q := 5) dX6_door_58 rfl ?_
    obtain ⟨c13, h⟩ := h
    refine g_zaload dX6_door_60 (by decide) (sk_80 hs.S) c13.1 (t_lt (sn_80 hs.S) c13.2) ?_
    refine g_if_eq (tgt := 67) dX6_door_61 (by decide) (fun c14 => ?_) (fun c15 => ?_)
    · have h := h.1 c14
      refine g_aload_n (q := 0) dX6_door_67 rfl rfl ?_
      refine g_getC (x := 80) 2 dX6_door_68 fX6_68 rfl (by decide) (sk_65 hs.S) (sv_65_41 hs.S) ?_
      refine g_iload (q := 5) dX6_door_71 rfl ?_
      refine g_iconst dX6_door_73 (by decide) ?_
      refine g_zastore dX6_door_74 (by decide) (sk_80 hs.S) c13.1 (t_lt (sn_80 hs.S) c13.2) (by decide) (p_w hs sf_80 (tWs_in _ rfl) fun μ16 eμ16 hs => ?_)
      have h := h μ16 eμ16
      refine g_aload_n (q := 0) dX6_door_75 rfl rfl ?_
      refine g_iload_n (q := 1) dX6_door_76 rfl rfl ?_
      refine g_iload_n (q := 2) dX6_door_77 rfl rfl ?_
      refine g_callV2 dX6_door_78 kX6_sumOf q1696 q1698 qs90 (ci := 6) rfl (by decide) rfl (by omega) (by decide) (sk_65 hs.S) (Nat.le_of_ble_eq_true rfl) (Nat.le_refl _) (Nat.le_refl _) (t_kL hs (tWs_sub rfl) h (fun r18 μ17 hs h => ?_))
      refine g_lstore (L' := [(0, 2, 65), (1, 0, v1), (2, 0, v2), (3, 0, v3), (4, 1, v4), (6, 0, v6), (7, 1, r18)]) dX6_door_81 (by decide) [1, 2, 3, 4, 5, 6, 0] rfl ?_
      refine g_aload_n (q := 0) dX6_door_83 rfl rfl ?_
      refine g_getC (x := 80) 2 dX6_door_84 fX6_68 rfl (by decide) (sk_65 hs.S) (sv_65_41 hs.S) ?_
      refine g_iload (q := 5) dX6_door_87 rfl ?_
      refine g_iconst dX6_door_89 (by decide) ?_
      refine g_zastore dX6_door_90 (by decide) (sk_80 hs.S) c13.1 (t_lt (sn_80 hs.S) c13.2) (by decide) (p_w hs sf_80 (tWs_in _ rfl) fun μ19 eμ19 hs => ?_)
      have h := h μ19 eμ19
      refine g_lload (q := 6) dX6_door_91 rfl ?_
      refine g_lconst0 dX6_door_93 ?_
      refine g_lcmp_lt (tgt := 123) dX6_door_94 dX6_door_95 (by decide) (fun c20 => ?_) (fun c21 => ?_)
      · have h := h.1 c20
        refine g_iinc (q := 5) dX6_door_123 (by decide) rfl [1, 2, 3, 4, 5, 0, 6] rfl ?_
        refine g_goto (tgt := 45) dX6_door_126 (by decide) ?_
        exact g_less [0, 1, 2, 3, 4, 5] rfl h
      · have h := h.2 c21
        refine g_lload (q := 4) dX6_door_98 rfl ?_
        refine g_lconst0 dX6_door_100 ?_
        refine g_lcmp_lt (tgt := 116) dX6_door_101 dX6_door_102 (by decide) (fun c22 => ?_) (fun c23 => ?_)
        · have h := h.1 c22
          refine g_lload (q := 6) dX6_door_116 rfl ?_
          refine g_lstore (L' := [(0, 2, 65), (1, 0, v1), (2, 0, v2), (3, 0, v3), (4, 1, r18), (6, 0, v6), (7, 1, r18)]) dX6_door_118 (by decide) [1, 2, 3, 4, 0, 5, 6] rfl ?_
          refine g_iload (q := 5) dX6_door_120 rfl ?_
          refine g_istore_n (L' := [(0, 2, 65), (1, 0, v1), (2, 0, v2), (3, 0, v6), (4, 1, r18), (6, 0, v6), (7, 1, r18)]) dX6_door_122 rfl (by decide) [1, 2, 3, 0, 4, 5, 6] rfl ?_
          refine g_iinc (q := 5) dX6_door_123 (by decide) rfl [1, 2, 3, 4, 5, 0, 6] rfl ?_
          refine g_goto (tgt := 45) dX6_door_126 (by decide) ?_
          exact g_less [0, 1, 2, 3, 4, 5] rfl h
        · have h := h.2 c23
          refine g_lload (q := 6) dX6_door_105 rfl ?_
          refine g_lload (q := 4) dX6_door_107 rfl ?_
          refine g_lcmp_lt (tgt := 116) dX6_door_109 dX6_door_110 (by decide) (fun c24 => ?_) (fun c25 => ?_)
          · have h := h.1 c24
            refine g_lload (q := 6) dX6_door_116 rfl ?_
            refine g_lstore (L' := [(0, 2, 65), (1, 0, v1), (2, 0, v2), (3, 0, v3), (4, 1, r18), (6, 0, v6), (7, 1, r18)]) dX6_door_118 (by decide) [1, 2, 3, 4, 0, 5, 6] rfl ?_
            refine g_iload (q := 5) dX6_door_120 rfl ?_
            refine g_istore_n (L' := [(0, 2, 65), (1, 0, v1), (2, 0, v2), (3, 0, v6), (4, 1, r18), (6, 0, v6), (7, 1, r18)]) dX6_door_122 rfl (by decide) [1, 2, 3, 0, 4, 5, 6] rfl ?_
            refine g_iinc (q := 5) dX6_door_123 (by decide) rfl [1, 2, 3, 4, 5, 0, 6] rfl ?_
            refine g_goto (tgt := 45) dX6_door_126 (by decide) ?_
            exact g_less [0, 1, 2, 3, 4, 5] rfl h
          · have h := h.2 c25
            refine g_goto (tgt := 123) dX6_door_113 (by decide) ?_
            refine g_iinc (q := 5) dX6_door_123 (by decide) rfl [1, 2, 3, 4, 5, 0, 6] rfl ?_
            refine g_goto (tgt := 45) dX6_door_126 (by decide) ?_
            exact g_less [0, 1, 2, 3, 4, 5] rfl h
    · have h := h.2 c15
      refine g_goto (tgt := 123) dX6_door_64 (by decide) ?_
      refine g_iinc (q := 5) dX6_door_123 (by decide) rfl [1, 2, 3, 4, 5, 0] rfl ?_
      refine g_goto (tgt := 45) dX6_door_126 (by decide) ?_
      exact h
theorem uX6_clock_0 {d : Nat} {μ0 μ : tm_M} {K : Int → tm_M → Prop} {v1 v2 v3 : Int} (hd : 1 ≤ d) (hs : tFr wX6_clock μ0 μ)
    (h : (∀ μ1, μ1 = tm_w μ 65 1 0 → (∀ μ5, μ5 = tm_w μ1 65 0 (y_trayed μ1 v1) → (tm_v μ5 65 0 ≤ 0 → (1 ≤ v2 ∧ v2 ≤ 24 → (0 ≤ v1 ∧ v1 < 4) ∧ ((v2 ≤ tm_v μ0 67 v1 → hI wX6_clock μ0 mX6_clock d K 60 [(0, 2, 65), (1, 0, v1), (2, 0, v2), (3, 0, v3), (4, 0, 0)] [] μ5) ∧ (tm_v μ0 67 v1 < v2 → (∀ μ16, μ16 = tm_w μ5 65 0 4 → K (-1) μ16)))) ∧ (¬ (1 ≤ v2 ∧ v2 ≤ 24) → (∀ μ19, μ19 = tm_w μ5 65 0 5 → K (-1) μ19))) ∧ (0 < tm_v μ5 65 0 → K (-1) μ5)))) :
    hI wX6_clock μ0 mX6_clock d K 0 [(0, 2, 65), (1, 0, v1), (2, 0, v2), (3, 0, v3)] [] μ := by
  refine g_aload_n (q := 0) dX6_clock_0 rfl rfl ?_
  refine g_iconst dX6_clock_1 (by decide) ?_
  refine g_put dX6_clock_2 fX6_144 rfl (by decide) (sk_65 hs.S) (fun e => absurd e (by decide)) (p_wj hs (by decide) (tWs_inF rfl) fun μ1 eμ1 hs => ?_)
  have h := h μ1 eμ1
  refine g_aload_n (q := 0) dX6_clock_5 rfl rfl ?_
  refine g_aload_n (q := 0) dX6_clock_6 rfl rfl ?_
  refine g_iload_n (q := 1) dX6_clock_7 rfl rfl ?_
  refine g_callV1 dX6_clock_8 kX6_trayed q1456 q1458 qs51 (ci := 6) rfl (by decide) rfl (by omega) (by decide) (sk_65 hs.S) (Nat.le_of_ble_eq_true rfl) (Nat.le_refl _) (Nat.le_refl _) (t_pI hs (pX6_trayed hs.S) ?_)
  refine g_put dX6_clock_11 fX6_147 rfl (by decide) (sk_65 hs.S) (fun e => absurd e (by decide)) (p_wj hs (by decide) (tWs_inF rfl) fun μ5 eμ5 hs => ?_)
  have h := h μ5 eμ5
  refine g_aload_n (q := 0) dX6_clock_14 rfl rfl ?_
  refine g_get 0 dX6_clock_15 fX6_147 rfl (by decide) (sk_65 hs.S) ?_
  refine g_if_le (tgt := 23) dX6_clock_18 (by decide) (fun c6 => ?_) (fun c7 => ?_)
  · have h := h.1 c6
    refine g_iload_n (q := 2) dX6_clock_23 rfl rfl ?_
    refine g_i2l dX6_clock_24 ?_
    refine g_lconst1 dX6_clock_25 ?_
    refine g_ldc2 (v := 24) (by decide) q1632c dX6_clock_26 ?_
    refine g_callS3 dX6_clock_29 kX6_isIn q1563 q1564 rfl (by omega) (Nat.le_of_ble_eq_true rfl) (Nat.le_refl _) (Nat.le_refl _) (t_pI hs (pX6_isIn hs.S) ?_)
    refine g_if_ne (tgt := 41) dX6_clock_32 (by decide) (fun c11 => ?_) (fun c12 => ?_)
    · have h := h.1 (b2i_1.mp c11)
      refine g_aload_n (q := 0) dX6_clock_41 rfl rfl ?_
      refine g_getC (x := 67) 2 dX6_clock_42 fX6_17 rfl (by decide) (sk_65 hs.S) (sv_65_5 hs.S) ?_
      refine g_iload_n (q := 1) dX6_clock_45 rfl rfl ?_
      obtain ⟨c13, h⟩ := h
      refine g_ialoadC (x := tm_v μ0 67 v1) dX6_clock_46 (by decide) (sk_67 hs.S) c13.1 (t_lt (sn_67 hs.S) c13.2) (hs.v (tWs_no _ rfl)) ?_
      refine g_iload_n (q := 2) dX6_clock_47 rfl rfl ?_
      refine g_icmp_ge (tgt := 57) dX6_clock_48 (by decide) (fun c14 => ?_) (fun c15 => ?_)
      · have h := h.1 c14
        refine g_iconst dX6_clock_57 (by decide) ?_
        refine g_istore (L' := [(0, 2, 65), (1, 0, v1), (2, 0, v2), (3, 0, v3), (4, 0, 0)]) dX6_clock_58 (by decide) [1, 2, 3, 4, 0] rfl ?_
        exact h
      · have h := h.2 c15
        refine g_aload_n (q := 0) dX6_clock_51 rfl rfl ?_
        refine g_iconst dX6_clock_52 (by decide) ?_
        refine g_callV1 dX6_clock_53 kX6_refuse q1484 q1486 qs53 (ci := 6) rfl (by decide) rfl (by omega) (by decide) (sk_65 hs.S) (Nat.le_of_ble_eq_true rfl) (Nat.le_refl _) (Nat.le_refl _) (t_kI hs (tWs_sub rfl) (pX6_refuse hs.S) (fun r18 μ16 hs e17 => ?_))
        obtain ⟨rfl, e17⟩ := e17
        have h := h μ16 e17
        exact g_iret dX6_clock_56 rfl (Nat.le_refl _) (Nat.le_refl _) ⟨_, rfl, hs, h⟩
    · have h := h.2 (b2i_0.mp c12)
      refine g_aload_n (q := 0) dX6_clock_35 rfl rfl ?_
      refine g_iconst dX6_clock_36 (by decide) ?_
      refine g_callV1 dX6_clock_37 kX6_refuse q1484 q1486 qs53 (ci := 6) rfl (by decide) rfl (by omega) (by decide) (sk_65 hs.S) (Nat.le_of_ble_eq_true rfl) (Nat.le_refl _) (Nat.le_refl _) (t_kI hs (tWs_sub rfl) (pX6_refuse hs.S) (fun r21 μ19 hs e20 => ?_))
      obtain ⟨rfl, e20⟩ := e20
      have h := h μ19 e20
      exact g_iret dX6_clock_40 rfl (Nat.le_refl _) (Nat.le_refl _) ⟨_, rfl, hs, h⟩
  · have h := h.2 c7
    refine g_iconst dX6_clock_21 (by decide) ?_
    exact g_iret dX6_clock_22 rfl (Nat.le_refl _) (Nat.le_refl _) ⟨_, rfl, hs, h⟩
theorem uX6_clock_60 {d : Nat} {μ0 μ : tm_M} {K : Int → tm_M → Prop} {v1 v2 v3 v4 : Int} (hd : 1 ≤ d) (hs : tFr wX6_clock μ0 μ)
    (h : (v2 ≤ v4 → cI wX6_addWay mX6_addWay (d - 1) [(2, 65), (0, v1), (0, v2), (0, v2), (0, v3)] μ (fun r4 μ3 => K r4 μ3)) ∧ (v4 < v2 → (0 ≤ v1 ∧ v1 < 4 ∧ 0 ≤ v4 ∧ v4 < 64) ∧ ((0 ≤ (tm_v μ 68 (64 * v1 + v4)) ∧ (tm_v μ 68 (64 * v1 + v4)) ≤ 4 → hI wX6_clock μ0 mX6_clock d K 60 [(0, 2, 65), (1, 0, v1), (2, 0, v2), (3, 0, v3), (4, 0, w32 (v4 + 1))] [] μ) ∧ (¬ (0 ≤ (tm_v μ 68 (64 * v1 + v4)) ∧ (tm_v μ 68 (64 * v1 + v4)) ≤ 4) → (∀ μ14, μ14 = tm_w μ 65 0 5 → K (-1) μ14))))) :
    hI wX6_clock μ0 mX6_clock d K 60 [(0, 2, 65), (1, 0, v1), (2, 0, v2), (3, 0, v3), (4, 0, v4)] [] μ := by
  refine g_iload (q := 4) dX6_clock_60 rfl ?_
  refine g_iload_n (q := 2) dX6_clock_62 rfl rfl ?_
  refine g_icmp_ge (tgt := 95) dX6_clock_63 (by decide) (fun c1 => ?_) (fun c2 => ?_)
  · have h := h.1 c1
    refine g_aload_n (q := 0) dX6_clock_95 rfl rfl ?_
    refine g_iload_n (q := 1) dX6_clock_96 rfl rfl ?_
    refine g_iload_n (q := 2) dX6_clock_97 rfl rfl ?_
    refine g_iload_n (q := 2) dX6_clock_98 rfl rfl ?_
    refine g_iload_n (q := 3) dX6_clock_99 rfl rfl ?_
    refine g_callV4 dX6_clock_100 kX6_addWay q1638 q1640 qs80 (ci := 6) rfl (by decide) rfl (by omega) (by decide) (sk_65 hs.S) (Nat.le_of_ble_eq_true rfl) (Nat.le_refl _) (Nat.le_refl _) (t_kI hs (tWs_sub rfl) h (fun r4 μ3 hs h => ?_))
    exact g_iret dX6_clock_103 rfl (Nat.le_refl _) (Nat.le_refl _) ⟨_, rfl, hs, h⟩
  · have h := h.2 c2
    refine g_aload_n (q := 0) dX6_clock_66 rfl rfl ?_
    refine g_iload_n (q := 1) dX6_clock_67 rfl rfl ?_
    refine g_iload (q := 4) dX6_clock_68 rfl ?_
    obtain ⟨c5, h⟩ := h
    refine g_callV2 dX6_clock_70 kX6_numberOf q1633 q1635 qs79 (ci := 6) rfl (by decide) rfl (by omega) (by decide) (sk_65 hs.S) (Nat.le_of_ble_eq_true rfl) (Nat.le_refl _) (Nat.le_refl _) (t_pL hs (pX6_numberOf hs.S c5) ?_)
    refine g_lconst0 dX6_clock_73 ?_
    refine g_ldc2 (v := 4) (by decide) q1637c dX6_clock_74 ?_
    refine g_callS3 dX6_clock_77 kX6_isIn q1563 q1564 rfl (by omega) (Nat.le_of_ble_eq_true rfl) (Nat.le_refl _) (Nat.le_refl _) (t_pI hs (pX6_isIn hs.S) ?_)
    refine g_if_ne (tgt := 89) dX6_clock_80 (by decide) (fun c12 => ?_) (fun c13 => ?_)
    · have h := h.1 (b2i_1.mp c12)
      refine g_iinc (q := 4) dX6_clock_89 (by decide) rfl [1, 2, 3, 4, 0] rfl ?_
      refine g_goto (tgt := 60) dX6_clock_92 (by decide) ?_
      exact h
    · have h := h.2 (b2i_0.mp c13)
      refine g_aload_n (q := 0) dX6_clock_83 rfl rfl ?_
      refine g_iconst dX6_clock_84 (by decide) ?_
      refine g_callV1 dX6_clock_85 kX6_refuse q1484 q1486 qs53 (ci := 6) rfl (by decide) rfl (by omega) (by decide) (sk_65 hs.S) (Nat.le_of_ble_eq_true rfl) (Nat.le_refl _) (Nat.le_refl _) (t_kI hs (tWs_sub rfl) (pX6_refuse hs.S) (fun r16 μ14 hs e15 => ?_))
      obtain ⟨rfl, e15⟩ := e15
      have h := h μ14 e15
      exact g_iret dX6_clock_88 rfl (Nat.le_refl _) (Nat.le_refl _) ⟨_, rfl, hs, h⟩
theorem uX6_sight_0 {d : Nat} {μ0 μ : tm_M} {K : Int → tm_M → Prop} {v1 : Int} (hd : 1 ≤ d) (hs : tFr wX6_sight μ0 μ)
    (h : (∀ μ1, μ1 = tm_w μ 65 1 0 → (∀ μ5, μ5 = tm_w μ1 65 0 (y_trayed μ1 v1) → (tm_v μ5 65 0 ≤ 0 → (0 ≤ v1 ∧ v1 < 4) ∧ ((18 ≤ tm_v μ0 67 v1 → hI wX6_sight μ0 mX6_sight d K 42 [(0, 2, 65), (1, 0, v1), (2, 0, 0)] [] μ5) ∧ (tm_v μ0 67 v1 < 18 → (∀ μ11, μ11 = tm_w μ5 65 0 4 → K (-1) μ11)))) ∧ (0 < tm_v μ5 65 0 → K (-1) μ5)))) :
    hI wX6_sight μ0 mX6_sight d K 0 [(0, 2, 65), (1, 0, v1)] [] μ := by
  refine g_aload_n (q := 0) dX6_sight_0 rfl rfl ?_
  refine g_iconst dX6_sight_1 (by decide) ?_
  refine g_put dX6_sight_2 fX6_144 rfl (by decide) (sk_65 hs.S) (fun e => absurd e (by decide)) (p_wj hs (by decide) (tWs_inF rfl) fun μ1 eμ1 hs => ?_)
  have h := h μ1 eμ1
  refine g_aload_n (q := 0) dX6_sight_5 rfl rfl ?_
  refine g_aload_n (q := 0) dX6_sight_6 rfl rfl ?_
  refine g_iload_n (q := 1) dX6_sight_7 rfl rfl ?_
  refine g_callV1 dX6_sight_8 kX6_trayed q1456 q1458 qs51 (ci := 6) rfl (by decide) rfl (by omega) (by decide) (sk_65 hs.S) (Nat.le_of_ble_eq_true rfl) (Nat.le_refl _) (Nat.le_refl _) (t_pI hs (pX6_trayed hs.S) ?_)
  refine g_put dX6_sight_11 fX6_147 rfl (by decide) (sk_65 hs.S) (fun e => absurd e (by decide)) (p_wj hs (by decide) (tWs_inF rfl) fun μ5 eμ5 hs => ?_)
  have h := h μ5 eμ5
  refine g_aload_n (q := 0) dX6_sight_14 rfl rfl ?_
  refine g_get 0 dX6_sight_15 fX6_147 rfl (by decide) (sk_65 hs.S) ?_
  refine g_if_le (tgt := 23) dX6_sight_18 (by decide) (fun c6 => ?_) (fun c7 => ?_)
  · have h := h.1 c6
    refine g_aload_n (q := 0) dX6_sight_23 rfl rfl ?_
    refine g_getC (x := 67) 2 dX6_sight_24 fX6_17 rfl (by decide) (sk_65 hs.S) (sv_65_5 hs.S) ?_
    refine g_iload_n (q := 1) dX6_sight_27 rfl rfl ?_
    obtain ⟨c8, h⟩ := h
    refine g_ialoadC (x := tm_v μ0 67 v1) dX6_sight_28 (by decide) (sk_67 hs.S) c8.1 (t_lt (sn_67 hs.S) c8.2) (hs.v (tWs_no _ rfl)) ?_
    refine g_bipush dX6_sight_29 ⟨by decide, by decide, rfl⟩ ?_
    refine g_icmp_ge (tgt := 40) dX6_sight_31 (by decide) (fun c9 => ?_) (fun c10 => ?_)
    · have h := h.1 c9
      refine g_iconst dX6_sight_40 (by decide) ?_
      refine g_istore_n (L' := [(0, 2, 65), (1, 0, v1), (2, 0, 0)]) dX6_sight_41 rfl (by decide) [1, 2, 0] rfl ?_
      exact h
    · have h := h.2 c10
      refine g_aload_n (q := 0) dX6_sight_34 rfl rfl ?_
      refine g_iconst dX6_sight_35 (by decide) ?_
      refine g_callV1 dX6_sight_36 kX6_refuse q1484 q1486 qs53 (ci := 6) rfl (by decide) rfl (by omega) (by decide) (sk_65 hs.S) (Nat.le_of_ble_eq_true rfl) (Nat.le_refl _) (Nat.le_refl _) (t_kI hs (tWs_sub rfl) (pX6_refuse hs.S) (fun r13 μ11 hs e12 => ?_))
      obtain ⟨rfl, e12⟩ := e12
      have h := h μ11 e12
      exact g_iret dX6_sight_39 rfl (Nat.le_refl _) (Nat.le_refl _) ⟨_, rfl, hs, h⟩
  · have h := h.2 c7
    refine g_iconst dX6_sight_21 (by decide) ?_
    exact g_iret dX6_sight_22 rfl (Nat.le_refl _) (Nat.le_refl _) ⟨_, rfl, hs, h⟩
theorem uX6_sight_42 {d : Nat} {μ0 μ : tm_M} {K : Int → tm_M → Prop} {v1 v2 : Int} (hd : 1 ≤ d) (hs : tFr wX6_sight μ0 μ)
    (h : (18 ≤ v2 → cI wX6_addWay mX6_addWay (d - 1) [(2, 65), (0, v1), (0, 18), (0, 0), (0, 0)] μ (fun r4 μ3 => K r4 μ3)) ∧ (v2 < 18 → (0 ≤ v1 ∧ v1 < 4 ∧ 0 ≤ v2 ∧ v2 < 64) ∧ ((0 ≤ (tm_v μ 68 (64 * v1 + v2)) ∧ (tm_v μ 68 (64 * v1 + v2)) ≤ 14 → hI wX6_sight μ0 mX6_sight d K 42 [(0, 2, 65), (1, 0, v1), (2, 0, w32 (v2 + 1))] [] μ) ∧ (¬ (0 ≤ (tm_v μ 68 (64 * v1 + v2)) ∧ (tm_v μ 68 (64 * v1 + v2)) ≤ 14) → (∀ μ14, μ14 = tm_w μ 65 0 5 → K (-1) μ14))))) :
    hI wX6_sight μ0 mX6_sight d K 42 [(0, 2, 65), (1, 0, v1), (2, 0, v2)] [] μ := by
  refine g_iload_n (q := 2) dX6_sight_42 rfl rfl ?_
  refine g_bipush dX6_sight_43 ⟨by decide, by decide, rfl⟩ ?_
  refine g_icmp_ge (tgt := 76) dX6_sight_45 (by decide) (fun c1 => ?_) (fun c2 => ?_)
  · have h := h.1 c1
    refine g_aload_n (q := 0) dX6_sight_76 rfl rfl ?_
    refine g_iload_n (q := 1) dX6_sight_77 rfl rfl ?_
    refine g_bipush dX6_sight_78 ⟨by decide, by decide, rfl⟩ ?_
    refine g_iconst dX6_sight_80 (by decide) ?_
    refine g_iconst dX6_sight_81 (by decide) ?_
    refine g_callV4 dX6_sight_82 kX6_addWay q1638 q1640 qs80 (ci := 6) rfl (by decide) rfl (by omega) (by decide) (sk_65 hs.S) (Nat.le_of_ble_eq_true rfl) (Nat.le_refl _) (Nat.le_refl _) (t_kI hs (tWs_sub rfl) h (fun r4 μ3 hs h => ?_))
    exact g_iret dX6_sight_85 rfl (Nat.le_refl _) (Nat.le_refl _) ⟨_, rfl, hs, h⟩
  · have h := h.2 c2
    refine g_aload_n (q := 0) dX6_sight_48 rfl rfl ?_
    refine g_iload_n (q := 1) dX6_sight_49 rfl rfl ?_
    refine g_iload_n (q := 2) dX6_sight_50 rfl rfl ?_
    obtain ⟨c5, h⟩ := h
    refine g_callV2 dX6_sight_51 kX6_numberOf q1633 q1635 qs79 (ci := 6) rfl (by decide) rfl (by omega) (by decide) (sk_65 hs.S) (Nat.le_of_ble_eq_true rfl) (Nat.le_refl _) (Nat.le_refl _) (t_pL hs (pX6_numberOf hs.S c5) ?_)
    refine g_lconst0 dX6_sight_54 ?_
    refine g_ldc2 (v := 14) (by decide) q1646c dX6_sight_55 ?_
    refine g_callS3 dX6_sight_58 kX6_isIn q1563 q1564 rfl (by omega) (Nat.le_of_ble_eq_true rfl) (Nat.le_refl _) (Nat.le_refl _) (t_pI hs (pX6_isIn hs.S) ?_)
    refine g_if_ne (tgt := 70) dX6_sight_61 (by decide) (fun c12 => ?_) (fun c13 => ?_)
    · have h := h.1 (b2i_1.mp c12)
      refine g_iinc (q := 2) dX6_sight_70 (by decide) rfl [1, 2, 0] rfl ?_
      refine g_goto (tgt := 42) dX6_sight_73 (by decide) ?_
      exact h
    · have h := h.2 (b2i_0.mp c13)
      refine g_aload_n (q := 0) dX6_sight_64 rfl rfl ?_
      refine g_iconst dX6_sight_65 (by decide) ?_
      refine g_callV1 dX6_sight_66 kX6_refuse q1484 q1486 qs53 (ci := 6) rfl (by decide) rfl (by omega) (by decide) (sk_65 hs.S) (Nat.le_of_ble_eq_true rfl) (Nat.le_refl _) (Nat.le_refl _) (t_kI hs (tWs_sub rfl) (pX6_refuse hs.S) (fun r16 μ14 hs e15 => ?_))
      obtain ⟨rfl, e15⟩ := e15
      have h := h μ14 e15
      exact g_iret dX6_sight_69 rfl (Nat.le_refl _) (Nat.le_refl _) ⟨_, rfl, hs, h⟩
theorem uX6_pour_0 {d : Nat} {μ0 μ : tm_M} {K : Int → tm_M → Prop} {v1 v2 v3 v4 v5 : Int} (hd : 1 ≤ d) (hs : tFr wX6_pour μ0 μ)
    (h : (∀ μ1, μ1 = tm_w μ 65 1 0 → (∀ μ2, μ2 = tm_w μ1 65 0 0 → (v1 < 0 → (∀ μ5, μ5 = tm_w μ2 65 0 1 → K 0 μ5)) ∧ (0 ≤ v1 → (4 ≤ v1 → (∀ μ10, μ10 = tm_w μ2 65 0 1 → K 0 μ10)) ∧ (v1 < 4 → (v3 < 0 → (∀ μ15, μ15 = tm_w μ2 65 0 1 → K 0 μ15)) ∧ (0 ≤ v3 → (v3 < 4 → (0 ≤ v1 ∧ v1 < 4) ∧ ((tm_v μ0 67 v1 < 0 → (∀ μ23, μ23 = tm_w μ2 65 0 3 → K 0 μ23)) ∧ (0 ≤ tm_v μ0 67 v1 → (0 ≤ v3 ∧ v3 < 4) ∧ ((0 ≤ tm_v μ0 67 v3 → (tm_v μ0 66 v1 = tm_v μ0 66 v3 → (0 ≤ v5 → (v2 < 0 → (∀ μ35, μ35 = tm_w μ2 65 0 4 → K 0 μ35)) ∧ (0 ≤ v2 → (v4 < 0 → (∀ μ40, μ40 = tm_w μ2 65 0 4 → K 0 μ40)) ∧ (0 ≤ v4 → (tm_v μ0 67 v1 < w64 (v2 + v5) → (∀ μ45, μ45 = tm_w μ2 65 0 4 → K 0 μ45)) ∧ (w64 (v2 + v5) ≤ tm_v μ0 67 v1 → (w64 (v4 + v5) ≤ tm_v μ0 67 v3 → (v4 ≤ v2 → hI wX6_pour μ0 mX6_pour d K 158 [(0, 2, 65), (1, 0, v1), (2, 0, v2), (3, 0, v3), (4, 0, v4), (5, 0, v5), (6, 0, 0), (7, 0, 0)] [] μ2) ∧ (v2 < v4 → hI wX6_pour μ0 mX6_pour d K 158 [(0, 2, 65), (1, 0, v1), (2, 0, v2), (3, 0, v3), (4, 0, v4), (5, 0, v5), (6, 0, 1), (7, 0, 0)] [] μ2)) ∧ (tm_v μ0 67 v3 < w64 (v4 + v5) → (∀ μ52, μ52 = tm_w μ2 65 0 4 → K 0 μ52)))))) ∧ (v5 < 0 → (∀ μ55, μ55 = tm_w μ2 65 0 6 → K 0 μ55))) ∧ (tm_v μ0 66 v1 ≠ tm_v μ0 66 v3 → (∀ μ58, μ58 = tm_w μ2 65 0 11 → K 0 μ58))) ∧ (tm_v μ0 67 v3 < 0 → (∀ μ61, μ61 = tm_w μ2 65 0 3 → K 0 μ61)))))) ∧ (4 ≤ v3 → (∀ μ64, μ64 = tm_w μ2 65 0 1 → K 0 μ64)))))))) :
    hI wX6_pour μ0 mX6_pour d K 0 [(0, 2, 65), (1, 0, v1), (2, 0, v2), (3, 0, v3), (4, 0, v4), (5, 0, v5)] [] μ := by
  refine g_aload_n (q := 0) dX6_pour_0 rfl rfl ?_
  refine g_iconst dX6_pour_1 (by decide) ?_
  refine g_put dX6_pour_2 fX6_144 rfl (by decide) (sk_65 hs.S) (fun e => absurd e (by decide)) (p_wj hs (by decide) (tWs_inF rfl) fun μ1 eμ1 hs => ?_)
  have h := h μ1 eμ1
  refine g_aload_n (q := 0) dX6_pour_5 rfl rfl ?_
  refine g_iconst dX6_pour_6 (by decide) ?_
  refine g_put dX6_pour_7 fX6_147 rfl (by decide) (sk_65 hs.S) (fun e => absurd e (by decide)) (p_wj hs (by decide) (tWs_inF rfl) fun μ2 eμ2 hs => ?_)
  have h := h μ2 eμ2
  refine g_iload_n (q := 1) dX6_pour_10 rfl rfl ?_
  refine g_if_lt (tgt := 28) dX6_pour_11 (by decide) (fun c3 => ?_) (fun c4 => ?_)
  · have h := h.1 c3
    refine g_aload_n (q := 0) dX6_pour_28 rfl rfl ?_
    refine g_iconst dX6_pour_29 (by decide) ?_
    refine g_callV1 dX6_pour_30 kX6_no q1444 q1446 qs49 (ci := 6) rfl (by decide) rfl (by omega) (by decide) (sk_65 hs.S) (Nat.le_of_ble_eq_true rfl) (Nat.le_refl _) (Nat.le_refl _) (t_kI hs (tWs_sub rfl) (pX6_no hs.S) (fun r7 μ5 hs e6 => ?_))
    obtain ⟨rfl, e6⟩ := e6
    have h := h μ5 e6
    exact g_zret dX6_pour_33 rfl (by decide) (Nat.le_refl _) (Nat.le_refl _) ⟨_, rfl, hs, h⟩
  · have h := h.2 c4
    refine g_iload_n (q := 1) dX6_pour_14 rfl rfl ?_
    refine g_iconst dX6_pour_15 (by decide) ?_
    refine g_icmp_ge (tgt := 28) dX6_pour_16 (by decide) (fun c8 => ?_) (fun c9 => ?_)
    · have h := h.1 c8
      refine g_aload_n (q := 0) dX6_pour_28 rfl rfl ?_
      refine g_iconst dX6_pour_29 (by decide) ?_
      refine g_callV1 dX6_pour_30 kX6_no q1444 q1446 qs49 (ci := 6) rfl (by decide) rfl (by omega) (by decide) (sk_65 hs.S) (Nat.le_of_ble_eq_true rfl) (Nat.le_refl _) (Nat.le_refl _) (t_kI hs (tWs_sub rfl) (pX6_no hs.S) (fun r12 μ10 hs e11 => ?_))
      obtain ⟨rfl, e11⟩ := e11
      have h := h μ10 e11
      exact g_zret dX6_pour_33 rfl (by decide) (Nat.le_refl _) (Nat.le_refl _) ⟨_, rfl, hs, h⟩
    · have h := h.2 c9
      refine g_iload_n (q := 3) dX6_pour_19 rfl rfl ?_
      refine g_if_lt (tgt := 28) dX6_pour_20 (by decide) (fun c13 => ?_) (fun c14 => ?_)
      · have h := h.1 c13
        refine g_aload_n (q := 0) dX6_pour_28 rfl rfl ?_
        refine g_iconst dX6_pour_29 (by decide) ?_
        refine g_callV1 dX6_pour_30 kX6_no q1444 q1446 qs49 (ci := 6) rfl (by decide) rfl (by omega) (by decide) (sk_65 hs.S) (Nat.le_of_ble_eq_true rfl) (Nat.le_refl _) (Nat.le_refl _) (t_kI hs (tWs_sub rfl) (pX6_no hs.S) (fun r17 μ15 hs e16 => ?_))
        obtain ⟨rfl, e16⟩ := e16
        have h := h μ15 e16
        exact g_zret dX6_pour_33 rfl (by decide) (Nat.le_refl _) (Nat.le_refl _) ⟨_, rfl, hs, h⟩
      · have h := h.2 c14
        refine g_iload_n (q := 3) dX6_pour_23 rfl rfl ?_
        refine g_iconst dX6_pour_24 (by decide) ?_
        refine g_icmp_lt (tgt := 34) dX6_pour_25 (by decide) (fun c18 => ?_) (fun c19 => ?_)
        · have h := h.1 c18
          refine g_aload_n (q := 0) dX6_pour_34 rfl rfl ?_
          refine g_getC (x := 67) 2 dX6_pour_35 fX6_17 rfl (by decide) (sk_65 hs.S) (sv_65_5 hs.S) ?_
          refine g_iload_n (q := 1) dX6_pour_38 rfl rfl ?_
          obtain ⟨c20, h⟩ := h
          refine g_ialoadC (x := tm_v μ0 67 v1) dX6_pour_39 (by decide) (sk_67 hs.S) c20.1 (t_lt (sn_67 hs.S) c20.2) (hs.v (tWs_no _ rfl)) ?_
          refine g_if_lt (tgt := 52) dX6_pour_40 (by decide) (fun c21 => ?_) (fun c22 => ?_)
          · have h := h.1 c21
            refine g_aload_n (q := 0) dX6_pour_52 rfl rfl ?_
            refine g_iconst dX6_pour_53 (by decide) ?_
            refine g_callV1 dX6_pour_54 kX6_no q1444 q1446 qs49 (ci := 6) rfl (by decide) rfl (by omega) (by decide) (sk_65 hs.S) (Nat.le_of_ble_eq_true rfl) (Nat.le_refl _) (Nat.le_refl _) (t_kI hs (tWs_sub rfl) (pX6_no hs.S) (fun r25 μ23 hs e24 => ?_))
            obtain ⟨rfl, e24⟩ := e24
            have h := h μ23 e24
            exact g_zret dX6_pour_57 rfl (by decide) (Nat.le_refl _) (Nat.le_refl _) ⟨_, rfl, hs, h⟩
          · have h := h.2 c22
            refine g_aload_n (q := 0) dX6_pour_43 rfl rfl ?_
            refine g_getC (x := 67) 2 dX6_pour_44 fX6_17 rfl (by decide) (sk_65 hs.S) (sv_65_5 hs.S) ?_
            refine g_iload_n (q := 3) dX6_pour_47 rfl rfl ?_
            obtain ⟨c26, h⟩ := h
            refine g_ialoadC (x := tm_v μ0 67 v3) dX6_pour_48 (by decide) (sk_67 hs.S) c26.1 (t_lt (sn_67 hs.S) c26.2) (hs.v (tWs_no _ rfl)) ?_
            refine g_if_ge (tgt := 58) dX6_pour_49 (by decide) (fun c27 => ?_) (fun c28 => ?_)
            · have h := h.1 c27
              refine g_aload_n (q := 0) dX6_pour_58 rfl rfl ?_
              refine g_getC (x := 66) 2 dX6_pour_59 fX6_13 rfl (by decide) (sk_65 hs.S) (sv_65_4 hs.S) ?_
              refine g_iload_n (q := 1) dX6_pour_62 rfl rfl ?_
              refine g_ialoadC (x := tm_v μ0 66 v1) dX6_pour_63 (by decide) (sk_66 hs.S) c20.1 (t_lt (sn_66 hs.S) c20.2) (hs.v (tWs_no _ rfl)) ?_
              refine g_aload_n (q := 0) dX6_pour_64 rfl rfl ?_
              refine g_getC (x := 66) 2 dX6_pour_65 fX6_13 rfl (by decide) (sk_65 hs.S) (sv_65_4 hs.S) ?_
              refine g_iload_n (q := 3) dX6_pour_68 rfl rfl ?_
              refine g_ialoadC (x := tm_v μ0 66 v3) dX6_pour_69 (by decide) (sk_66 hs.S) c26.1 (t_lt (sn_66 hs.S) c26.2) (hs.v (tWs_no _ rfl)) ?_
              refine g_icmp_eq (tgt := 80) dX6_pour_70 (by decide) (fun c29 => ?_) (fun c30 => ?_)
              · have h := h.1 c29
                refine g_iload (q := 5) dX6_pour_80 rfl ?_
                refine g_if_ge (tgt := 92) dX6_pour_82 (by decide) (fun c31 => ?_) (fun c32 => ?_)
                · have h := h.1 c31
                  refine g_iload_n (q := 2) dX6_pour_92 rfl rfl ?_
                  refine g_if_lt (tgt := 136) dX6_pour_93 (by decide) (fun c33 => ?_) (fun c34 => ?_)
                  · have h := h.1 c33
                    refine g_aload_n (q := 0) dX6_pour_136 rfl rfl ?_
                    refine g_iconst dX6_pour_137 (by decide) ?_
                    refine g_callV1 dX6_pour_138 kX6_no q1444 q1446 qs49 (ci := 6) rfl (by decide) rfl (by omega) (by decide) (sk_65 hs.S) (Nat.le_of_ble_eq_true rfl) (Nat.le_refl _) (Nat.le_refl _) (t_kI hs (tWs_sub rfl) (pX6_no hs.S) (fun r37 μ35 hs e36 => ?_))
                    obtain ⟨rfl, e36⟩ := e36
                    have h := h μ35 e36
                    exact g_zret dX6_pour_141 rfl (by decide) (Nat.le_refl _) (Nat.le_refl _) ⟨_, rfl, hs, h⟩
                  · have h := h.2 c34
                    refine g_iload (q := 4) dX6_pour_96 rfl ?_
                    refine g_if_lt (tgt := 136) dX6_pour_98 (by decide) (fun c38 => ?_) (fun c39 => ?_)
                    · have h := h.1 c38
                      refine g_aload_n (q := 0) dX6_pour_136 rfl rfl ?_
                      refine g_iconst dX6_pour_137 (by decide) ?_
                      refine g_callV1 dX6_pour_138 kX6_no q1444 q1446 qs49 (ci := 6) rfl (by decide) rfl (by omega) (by decide) (sk_65 hs.S) (Nat.le_of_ble_eq_true rfl) (Nat.le_refl _) (Nat.le_refl _) (t_kI hs (tWs_sub rfl) (pX6_no hs.S) (fun r42 μ40 hs e41 => ?_))
                      obtain ⟨rfl, e41⟩ := e41
                      have h := h μ40 e41
                      exact g_zret dX6_pour_141 rfl (by decide) (Nat.le_refl _) (Nat.le_refl _) ⟨_, rfl, hs, h⟩
                    · have h := h.2 c39
                      refine g_iload_n (q := 2) dX6_pour_101 rfl rfl ?_
                      refine g_i2l dX6_pour_102 ?_
                      refine g_iload (q := 5) dX6_pour_103 rfl ?_
                      refine g_i2l dX6_pour_105 ?_
                      refine g_ladd dX6_pour_106 ?_
                      refine g_aload_n (q := 0) dX6_pour_107 rfl rfl ?_
                      refine g_getC (x := 67) 2 dX6_pour_108 fX6_17 rfl (by decide) (sk_65 hs.S) (sv_65_5 hs.S) ?_
                      refine g_iload_n (q := 1) dX6_pour_111 rfl rfl ?_
                      refine g_ialoadC (x := tm_v μ0 67 v1) dX6_pour_112 (by decide) (sk_67 hs.S) c20.1 (t_lt (sn_67 hs.S) c20.2) (hs.v (tWs_no _ rfl)) ?_
                      refine g_i2l dX6_pour_113 ?_
                      refine g_lcmp_gt (tgt := 136) dX6_pour_114 dX6_pour_115 (by decide) (fun c43 => ?_) (fun c44 => ?_)
                      · have h := h.1 c43
                        refine g_aload_n (q := 0) dX6_pour_136 rfl rfl ?_
                        refine g_iconst dX6_pour_137 (by decide) ?_
                        refine g_callV1 dX6_pour_138 kX6_no q1444 q1446 qs49 (ci := 6) rfl (by decide) rfl (by omega) (by decide) (sk_65 hs.S) (Nat.le_of_ble_eq_true rfl) (Nat.le_refl _) (Nat.le_refl _) (t_kI hs (tWs_sub rfl) (pX6_no hs.S) (fun r47 μ45 hs e46 => ?_))
                        obtain ⟨rfl, e46⟩ := e46
                        have h := h μ45 e46
                        exact g_zret dX6_pour_141 rfl (by decide) (Nat.le_refl _) (Nat.le_refl _) ⟨_, rfl, hs, h⟩
                      · have h := h.2 c44
                        refine g_iload (q := 4) dX6_pour_118 rfl ?_
                        refine g_i2l dX6_pour_120 ?_
                        refine g_iload (q := 5) dX6_pour_121 rfl ?_
                        refine g_i2l dX6_pour_123 ?_
                        refine g_ladd dX6_pour_124 ?_
                        refine g_aload_n (q := 0) dX6_pour_125 rfl rfl ?_
                        refine g_getC (x := 67) 2 dX6_pour_126 fX6_17 rfl (by decide) (sk_65 hs.S) (sv_65_5 hs.S) ?_
                        refine g_iload_n (q := 3) dX6_pour_129 rfl rfl ?_
                        refine g_ialoadC (x := tm_v μ0 67 v3) dX6_pour_130 (by decide) (sk_67 hs.S) c26.1 (t_lt (sn_67 hs.S) c26.2) (hs.v (tWs_no _ rfl)) ?_
                        refine g_i2l dX6_pour_131 ?_
                        refine g_lcmp_le (tgt := 142) dX6_pour_132 dX6_pour_133 (by decide) (fun c48 => ?_) (fun c49 => ?_)
                        · have h := h.1 c48
                          refine g_iload_n (q := 2) dX6_pour_142 rfl rfl ?_
                          refine g_iload (q := 4) dX6_pour_143 rfl ?_
                          refine g_icmp_ge (tgt := 152) dX6_pour_145 (by decide) (fun c50 => ?_) (fun c51 => ?_)
                          · have h := h.1 c50
                            refine g_iconst dX6_pour_152 (by decide) ?_
                            refine g_istore (L' := [(0, 2, 65), (1, 0, v1), (2, 0, v2), (3, 0, v3), (4, 0, v4), (5, 0, v5), (6, 0, 0)]) dX6_pour_153 (by decide) [1, 2, 3, 4, 5, 6, 0] rfl ?_
                            refine g_iconst dX6_pour_155 (by decide) ?_
                            refine g_istore (L' := [(0, 2, 65), (1, 0, v1), (2, 0, v2), (3, 0, v3), (4, 0, v4), (5, 0, v5), (6, 0, 0), (7, 0, 0)]) dX6_pour_156 (by decide) [1, 2, 3, 4, 5, 6, 7, 0] rfl ?_
                            exact h
                          · have h := h.2 c51
                            refine g_iconst dX6_pour_148 (by decide) ?_
                            refine g_goto (tgt := 153) dX6_pour_149 (by decide) ?_
                            refine g_istore (L' := [(0, 2, 65), (1, 0, v1), (2, 0, v2), (3, 0, v3), (4, 0, v4), (5, 0, v5), (6, 0, 1)]) dX6_pour_153 (by decide) [1, 2, 3, 4, 5, 6, 0] rfl ?_
                            refine g_iconst dX6_pour_155 (by decide) ?_
                            refine g_istore (L' := [(0, 2, 65), (1, 0, v1), (2, 0, v2), (3, 0, v3), (4, 0, v4), (5, 0, v5), (6, 0, 1), (7, 0, 0)]) dX6_pour_156 (by decide) [1, 2, 3, 4, 5, 6, 7, 0] rfl ?_
                            exact h
                        · have h := h.2 c49
                          refine g_aload_n (q := 0) dX6_pour_136 rfl rfl ?_
                          refine g_iconst dX6_pour_137 (by decide) ?_
                          refine g_callV1 dX6_pour_138 kX6_no q1444 q1446 qs49 (ci := 6) rfl (by decide) rfl (by omega) (by decide) (sk_65 hs.S) (Nat.le_of_ble_eq_true rfl) (Nat.le_refl _) (Nat.le_refl _) (t_kI hs (tWs_sub rfl) (pX6_no hs.S) (fun r54 μ52 hs e53 => ?_))
                          obtain ⟨rfl, e53⟩ := e53
                          have h := h μ52 e53
                          exact g_zret dX6_pour_141 rfl (by decide) (Nat.le_refl _) (Nat.le_refl _) ⟨_, rfl, hs, h⟩
                · have h := h.2 c32
                  refine g_aload_n (q := 0) dX6_pour_85 rfl rfl ?_
                  refine g_bipush dX6_pour_86 ⟨by decide, by decide, rfl⟩ ?_
                  refine g_callV1 dX6_pour_88 kX6_no q1444 q1446 qs49 (ci := 6) rfl (by decide) rfl (by omega) (by decide) (sk_65 hs.S) (Nat.le_of_ble_eq_true rfl) (Nat.le_refl _) (Nat.le_refl _) (t_kI hs (tWs_sub rfl) (pX6_no hs.S) (fun r57 μ55 hs e56 => ?_))
                  obtain ⟨rfl, e56⟩ := e56
                  have h := h μ55 e56
                  exact g_zret dX6_pour_91 rfl (by decide) (Nat.le_refl _) (Nat.le_refl _) ⟨_, rfl, hs, h⟩
              · have h := h.2 c30
                refine g_aload_n (q := 0) dX6_pour_73 rfl rfl ?_
                refine g_bipush dX6_pour_74 ⟨by decide, by decide, rfl⟩ ?_
                refine g_callV1 dX6_pour_76 kX6_no q1444 q1446 qs49 (ci := 6) rfl (by decide) rfl (by omega) (by decide) (sk_65 hs.S) (Nat.le_of_ble_eq_true rfl) (Nat.le_refl _) (Nat.le_refl _) (t_kI hs (tWs_sub rfl) (pX6_no hs.S) (fun r60 μ58 hs e59 => ?_))
                obtain ⟨rfl, e59⟩ := e59
                have h := h μ58 e59
                exact g_zret dX6_pour_79 rfl (by decide) (Nat.le_refl _) (Nat.le_refl _) ⟨_, rfl, hs, h⟩
            · have h := h.2 c28
              refine g_aload_n (q := 0) dX6_pour_52 rfl rfl ?_
              refine g_iconst dX6_pour_53 (by decide) ?_
              refine g_callV1 dX6_pour_54 kX6_no q1444 q1446 qs49 (ci := 6) rfl (by decide) rfl (by omega) (by decide) (sk_65 hs.S) (Nat.le_of_ble_eq_true rfl) (Nat.le_refl _) (Nat.le_refl _) (t_kI hs (tWs_sub rfl) (pX6_no hs.S) (fun r63 μ61 hs e62 => ?_))
              obtain ⟨rfl, e62⟩ := e62
              have h := h μ61 e62
              exact g_zret dX6_pour_57 rfl (by decide) (Nat.le_refl _) (Nat.le_refl _) ⟨_, rfl, hs, h⟩
        · have h := h.2 c19
          refine g_aload_n (q := 0) dX6_pour_28 rfl rfl ?_
          refine g_iconst dX6_pour_29 (by decide) ?_
          refine g_callV1 dX6_pour_30 kX6_no q1444 q1446 qs49 (ci := 6) rfl (by decide) rfl (by omega) (by decide) (sk_65 hs.S) (Nat.le_of_ble_eq_true rfl) (Nat.le_refl _) (Nat.le_refl _) (t_kI hs (tWs_sub rfl) (pX6_no hs.S) (fun r66 μ64 hs e65 => ?_))
          obtain ⟨rfl, e65⟩ := e65
          have h := h μ64 e65
          exact g_zret dX6_pour_33 rfl (by decide) (Nat.le_refl _) (Nat.le_refl _) ⟨_, rfl, hs, h⟩
theorem uX6_pour_158 {d : Nat} {μ0 μ : tm_M} {K : Int → tm_M → Prop} {v1 v2 v3 v4 v5 v6 v7 : Int} (hs : tFr wX6_pour μ0 μ)
    (h : (v5 ≤ v7 → K 1 μ) ∧ (v7 < v5 → (v6 = 0 → (0 ≤ w32 ((w32 ((w32 (64 * v1)) + v2)) + v7) ∧ w32 ((w32 ((w32 (64 * v1)) + v2)) + v7) < 256) ∧ ((0 ≤ w32 ((w32 ((w32 (64 * v3)) + v4)) + v7) ∧ w32 ((w32 ((w32 (64 * v3)) + v4)) + v7) < 256) ∧ ((∀ μ7, μ7 = tm_w μ 68 (w32 ((w32 ((w32 (64 * v3)) + v4)) + v7)) (tm_v μ 68 (w32 ((w32 ((w32 (64 * v1)) + v2)) + v7))) → hI wX6_pour μ0 mX6_pour d K 158 [(0, 2, 65), (1, 0, v1), (2, 0, v2), (3, 0, v3), (4, 0, v4), (5, 0, v5), (6, 0, v6), (7, 0, w32 (v7 + 1))] [] μ7)))) ∧ (v6 ≠ 0 → (∀ x8, x8 = w32 ((w32 (v5 - 1)) - v7) → (0 ≤ w32 ((w32 ((w32 (64 * v1)) + v2)) + x8) ∧ w32 ((w32 ((w32 (64 * v1)) + v2)) + x8) < 256) ∧ ((0 ≤ w32 ((w32 ((w32 (64 * v3)) + v4)) + x8) ∧ w32 ((w32 ((w32 (64 * v3)) + v4)) + x8) < 256) ∧ ((∀ μ11, μ11 = tm_w μ 68 (w32 ((w32 ((w32 (64 * v3)) + v4)) + x8)) (tm_v μ 68 (w32 ((w32 ((w32 (64 * v1)) + v2)) + x8))) → hI wX6_pour μ0 mX6_pour d K 158 [(0, 2, 65), (1, 0, v1), (2, 0, v2), (3, 0, v3), (4, 0, v4), (5, 0, v5), (6, 0, v6), (7, 0, w32 (v7 + 1))] [] μ11))))))) :
    hI wX6_pour μ0 mX6_pour d K 158 [(0, 2, 65), (1, 0, v1), (2, 0, v2), (3, 0, v3), (4, 0, v4), (5, 0, v5), (6, 0, v6), (7, 0, v7)] [] μ := by
  refine g_iload (q := 7) dX6_pour_158 rfl ?_
  refine g_iload (q := 5) dX6_pour_160 rfl ?_
  refine g_icmp_ge (tgt := 219) dX6_pour_162 (by decide) (fun c1 => ?_) (fun c2 => ?_)
  · have h := h.1 c1
    refine g_iconst dX6_pour_219 (by decide) ?_
    exact g_zret dX6_pour_220 rfl (by decide) (Nat.le_refl _) (Nat.le_refl _) ⟨_, rfl, hs, h⟩
  · have h := h.2 c2
    refine g_iload (q := 6) dX6_pour_165 rfl ?_
    refine g_if_eq (tgt := 180) dX6_pour_167 (by decide) (fun c3 => ?_) (fun c4 => ?_)
    · have h := h.1 c3
      refine g_iload (q := 7) dX6_pour_180 rfl ?_
      refine g_istore (L' := [(0, 2, 65), (1, 0, v1), (2, 0, v2), (3, 0, v3), (4, 0, v4), (5, 0, v5), (6, 0, v6), (7, 0, v7), (8, 0, v7)]) dX6_pour_182 (by decide) [1, 2, 3, 4, 5, 6, 7, 8, 0] rfl ?_
      refine g_aload_n (q := 0) dX6_pour_184 rfl rfl ?_
      refine g_getC (x := 68) 2 dX6_pour_185 fX6_20 rfl (by decide) (sk_65 hs.S) (sv_65_6 hs.S) ?_
      refine g_bipush dX6_pour_188 ⟨by decide, by decide, rfl⟩ ?_
      refine g_iload_n (q := 3) dX6_pour_190 rfl rfl ?_
      refine g_imul dX6_pour_191 ?_
      refine g_iload (q := 4) dX6_pour_192 rfl ?_
      refine g_iadd dX6_pour_194 ?_
      refine g_iload (q := 8) dX6_pour_195 rfl ?_
      refine g_iadd dX6_pour_197 ?_
      refine g_aload_n (q := 0) dX6_pour_198 rfl rfl ?_
      refine g_getC (x := 68) 2 dX6_pour_199 fX6_20 rfl (by decide) (sk_65 hs.S) (sv_65_6 hs.S) ?_
      refine g_bipush dX6_pour_202 ⟨by decide, by decide, rfl⟩ ?_
      refine g_iload_n (q := 1) dX6_pour_204 rfl rfl ?_
      refine g_imul dX6_pour_205 ?_
      refine g_iload_n (q := 2) dX6_pour_206 rfl rfl ?_
      refine g_iadd dX6_pour_207 ?_
      refine g_iload (q := 8) dX6_pour_208 rfl ?_
      refine g_iadd dX6_pour_210 ?_
      obtain ⟨c5, h⟩ := h
      refine g_laload dX6_pour_211 (by decide) (sk_68 hs.S) c5.1 (t_lt (sn_68 hs.S) c5.2) ?_
      obtain ⟨c6, h⟩ := h
      refine g_lastore dX6_pour_212 (by decide) (sk_68 hs.S) c6.1 (t_lt (sn_68 hs.S) c6.2) (p_w hs sf_68 (tWs_in _ rfl) fun μ7 eμ7 hs => ?_)
      have h := h μ7 eμ7
      refine g_iinc (q := 7) dX6_pour_213 (by decide) rfl [1, 2, 3, 4, 5, 6, 7, 0, 8] rfl ?_
      refine g_goto (tgt := 158) dX6_pour_216 (by decide) ?_
      exact g_less [0, 1, 2, 3, 4, 5, 6, 7] rfl h
    · have h := h.2 c4
      refine g_iload (q := 5) dX6_pour_170 rfl ?_
      refine g_iconst dX6_pour_172 (by decide) ?_
      refine g_isub dX6_pour_173 ?_
      refine g_iload (q := 7) dX6_pour_174 rfl ?_
      refine g_isub dX6_pour_176 ?_
      refine g_goto (tgt := 182) dX6_pour_177 (by decide) ?_
      refine g_istoreN (fun z => [(0, 2, 65), (1, 0, v1), (2, 0, v2), (3, 0, v3), (4, 0, v4), (5, 0, v5), (6, 0, v6), (7, 0, v7), (8, 0, z)]) dX6_pour_182 (by decide) [1, 2, 3, 4, 5, 6, 7, 8, 0] (fun _ => rfl) (fun x8 ex8 => ?_)
      have h := h x8 ex8
      refine g_aload_n (q := 0) dX6_pour_184 rfl rfl ?_
      refine g_getC (x := 68) 2 dX6_pour_185 fX6_20 rfl (by decide) (sk_65 hs.S) (sv_65_6 hs.S) ?_
      refine g_bipush dX6_pour_188 ⟨by decide, by decide, rfl⟩ ?_
      refine g_iload_n (q := 3) dX6_pour_190 rfl rfl ?_
      refine g_imul dX6_pour_191 ?_
      refine g_iload (q := 4) dX6_pour_192 rfl ?_
      refine g_iadd dX6_pour_194 ?_
      refine g_iload (q := 8) dX6_pour_195 rfl ?_
      refine g_iadd dX6_pour_197 ?_
      refine g_aload_n (q := 0) dX6_pour_198 rfl rfl ?_
      refine g_getC (x := 68) 2 dX6_pour_199 fX6_20 rfl (by decide) (sk_65 hs.S) (sv_65_6 hs.S) ?_
      refine g_bipush dX6_pour_202 ⟨by decide, by decide, rfl⟩ ?_
      refine g_iload_n (q := 1) dX6_pour_204 rfl rfl ?_
      refine g_imul dX6_pour_205 ?_
      refine g_iload_n (q := 2) dX6_pour_206 rfl rfl ?_
      refine g_iadd dX6_pour_207 ?_
      refine g_iload (q := 8) dX6_pour_208 rfl ?_
      refine g_iadd dX6_pour_210 ?_
      obtain ⟨c9, h⟩ := h
      refine g_laload dX6_pour_211 (by decide) (sk_68 hs.S) c9.1 (t_lt (sn_68 hs.S) c9.2) ?_
      obtain ⟨c10, h⟩ := h
      refine g_lastore dX6_pour_212 (by decide) (sk_68 hs.S) c10.1 (t_lt (sn_68 hs.S) c10.2) (p_w hs sf_68 (tWs_in _ rfl) fun μ11 eμ11 hs => ?_)
      have h := h μ11 eμ11
      refine g_iinc (q := 7) dX6_pour_213 (by decide) rfl [1, 2, 3, 4, 5, 6, 7, 0, 8] rfl ?_
      refine g_goto (tgt := 158) dX6_pour_216 (by decide) ?_
      exact g_less [0, 1, 2, 3, 4, 5, 6, 7] rfl h
theorem uX6_same_0 {d : Nat} {μ0 μ : tm_M} {K : Int → tm_M → Prop} {v1 v2 : Int} (hd : 2 ≤ d) (hs : tFr wX6_same μ0 μ)
    (h : (∀ μ1, μ1 = tm_w μ 65 1 0 → (∀ μ2, μ2 = tm_w μ1 65 0 0 → (y_W μ0) ∧ ((¬ (0 ≤ v1 ∧ v1 < tm_v μ0 65 20) → (∀ μ9, μ9 = tm_w μ2 65 0 2 → K (-1) μ9)) ∧ (0 ≤ v1 ∧ v1 < tm_v μ0 65 20 → (0 ≤ v2 ∧ v2 < tm_v μ0 65 20 → hI wX6_same μ0 mX6_same d K 34 [(0, 2, 65), (1, 0, v1), (2, 0, v2), (3, 0, 0)] [] μ2) ∧ (¬ (0 ≤ v2 ∧ v2 < tm_v μ0 65 20) → (∀ μ17, μ17 = tm_w μ2 65 0 2 → K (-1) μ17))))))) :
    hI wX6_same μ0 mX6_same d K 0 [(0, 2, 65), (1, 0, v1), (2, 0, v2)] [] μ := by
  refine g_aload_n (q := 0) dX6_same_0 rfl rfl ?_
  refine g_iconst dX6_same_1 (by decide) ?_
  refine g_put dX6_same_2 fX6_144 rfl (by decide) (sk_65 hs.S) (fun e => absurd e (by decide)) (p_wj hs (by decide) (tWs_inF rfl) fun μ1 eμ1 hs => ?_)
  have h := h μ1 eμ1
  refine g_aload_n (q := 0) dX6_same_5 rfl rfl ?_
  refine g_iconst dX6_same_6 (by decide) ?_
  refine g_put dX6_same_7 fX6_147 rfl (by decide) (sk_65 hs.S) (fun e => absurd e (by decide)) (p_wj hs (by decide) (tWs_inF rfl) fun μ2 eμ2 hs => ?_)
  have h := h μ2 eμ2
  refine g_aload_n (q := 0) dX6_same_10 rfl rfl ?_
  refine g_iload_n (q := 1) dX6_same_11 rfl rfl ?_
  obtain ⟨c3, h⟩ := h
  refine g_callV1 dX6_same_12 kX6_isPlace q1598 q1600 qs75 (ci := 6) rfl (by decide) rfl (by omega) (by decide) (sk_65 hs.S) (Nat.le_of_ble_eq_true rfl) (Nat.le_refl _) (Nat.le_refl _) (t_pI hs (pX6_isPlaceF (by omega) hs (tWs_T rfl) c3) ?_)
  refine g_if_eq (tgt := 26) dX6_same_15 (by decide) (fun c7 => ?_) (fun c8 => ?_)
  · have h := h.1 (b2i_0.mp c7)
    refine g_aload_n (q := 0) dX6_same_26 rfl rfl ?_
    refine g_iconst dX6_same_27 (by decide) ?_
    refine g_callV1 dX6_same_28 kX6_refuse q1484 q1486 qs53 (ci := 6) rfl (by decide) rfl (by omega) (by decide) (sk_65 hs.S) (Nat.le_of_ble_eq_true rfl) (Nat.le_refl _) (Nat.le_refl _) (t_kI hs (tWs_sub rfl) (pX6_refuse hs.S) (fun r11 μ9 hs e10 => ?_))
    obtain ⟨rfl, e10⟩ := e10
    have h := h μ9 e10
    exact g_iret dX6_same_31 rfl (Nat.le_refl _) (Nat.le_refl _) ⟨_, rfl, hs, h⟩
  · have h := h.2 (b2i_1.mp c8)
    refine g_aload_n (q := 0) dX6_same_18 rfl rfl ?_
    refine g_iload_n (q := 2) dX6_same_19 rfl rfl ?_
    refine g_callV1 dX6_same_20 kX6_isPlace q1598 q1600 qs75 (ci := 6) rfl (by decide) rfl (by omega) (by decide) (sk_65 hs.S) (Nat.le_of_ble_eq_true rfl) (Nat.le_refl _) (Nat.le_refl _) (t_pI hs (pX6_isPlaceF (by omega) hs (tWs_T rfl) c3) ?_)
    refine g_if_ne (tgt := 32) dX6_same_23 (by decide) (fun c15 => ?_) (fun c16 => ?_)
    · have h := h.1 (b2i_1.mp c15)
      refine g_iconst dX6_same_32 (by decide) ?_
      refine g_istore_n (L' := [(0, 2, 65), (1, 0, v1), (2, 0, v2), (3, 0, 0)]) dX6_same_33 rfl (by decide) [1, 2, 3, 0] rfl ?_
      exact h
    · have h := h.2 (b2i_0.mp c16)
      refine g_aload_n (q := 0) dX6_same_26 rfl rfl ?_
      refine g_iconst dX6_same_27 (by decide) ?_
      refine g_callV1 dX6_same_28 kX6_refuse q1484 q1486 qs53 (ci := 6) rfl (by decide) rfl (by omega) (by decide) (sk_65 hs.S) (Nat.le_of_ble_eq_true rfl) (Nat.le_refl _) (Nat.le_refl _) (t_kI hs (tWs_sub rfl) (pX6_refuse hs.S) (fun r19 μ17 hs e18 => ?_))
      obtain ⟨rfl, e18⟩ := e18
      have h := h μ17 e18
      exact g_iret dX6_same_31 rfl (Nat.le_refl _) (Nat.le_refl _) ⟨_, rfl, hs, h⟩
theorem uX6_same_34 {d : Nat} {μ0 μ : tm_M} {K : Int → tm_M → Prop} {v1 v2 v3 : Int} (hs : tFr wX6_same μ0 μ)
    (h : (tm_v μ0 65 20 ≤ v3 → hI wX6_same μ0 mX6_same d K 121 [(0, 2, 65), (1, 0, v1), (2, 0, v2), (3, 0, 1)] [] μ) ∧ (v3 < tm_v μ0 65 20 → hI wX6_same μ0 mX6_same d K 45 [(0, 2, 65), (1, 0, v1), (2, 0, v2), (3, 0, v3), (4, 0, 0)] [] μ)) :
    hI wX6_same μ0 mX6_same d K 34 [(0, 2, 65), (1, 0, v1), (2, 0, v2), (3, 0, v3)] [] μ := by
  refine g_iload_n (q := 3) dX6_same_34 rfl rfl ?_
  refine g_aload_n (q := 0) dX6_same_35 rfl rfl ?_
  refine g_getC (x := tm_v μ0 65 20) 0 dX6_same_36 fX6_326 rfl (by decide) (sk_65 hs.S) (hs.v (tWs_noF rfl)) ?_
  refine g_icmp_ge (tgt := 119) dX6_same_39 (by decide) (fun c1 => ?_) (fun c2 => ?_)
  · have h := h.1 c1
    refine g_iconst dX6_same_119 (by decide) ?_
    refine g_istore_n (L' := [(0, 2, 65), (1, 0, v1), (2, 0, v2), (3, 0, 1)]) dX6_same_120 rfl (by decide) [1, 2, 3, 0] rfl ?_
    exact h
  · have h := h.2 c2
    refine g_iconst dX6_same_42 (by decide) ?_
    refine g_istore (L' := [(0, 2, 65), (1, 0, v1), (2, 0, v2), (3, 0, v3), (4, 0, 0)]) dX6_same_43 (by decide) [1, 2, 3, 4, 0] rfl ?_
    exact h
theorem uX6_same_45 {d : Nat} {μ0 μ : tm_M} {K : Int → tm_M → Prop} {v1 v2 v3 v4 : Int} (hs : tFr wX6_same μ0 μ)
    (h : (tm_v μ0 65 20 ≤ v4 → hI wX6_same μ0 mX6_same d K 34 [(0, 2, 65), (1, 0, v1), (2, 0, v2), (3, 0, w32 (v3 + 1))] [] μ) ∧ (v4 < tm_v μ0 65 20 → (0 ≤ w32 (3 * v3) ∧ w32 (3 * v3) < 24) ∧ ((0 ≤ w32 (3 * v4) ∧ w32 (3 * v4) < 24) ∧ ((tm_v μ0 70 (w32 (3 * v3)) ≠ tm_v μ0 70 (w32 (3 * v4)) → (0 ≤ w32 ((w32 (8 * v3)) + v4) ∧ w32 ((w32 (8 * v3)) + v4) < 64) ∧ ((∀ μ8, μ8 = tm_w μ 94 (w32 ((w32 (8 * v3)) + v4)) 0 → hI wX6_same μ0 mX6_same d K 45 [(0, 2, 65), (1, 0, v1), (2, 0, v2), (3, 0, v3), (4, 0, w32 (v4 + 1))] [] μ8))) ∧ (tm_v μ0 70 (w32 (3 * v3)) = tm_v μ0 70 (w32 (3 * v4)) → (0 ≤ v3 ∧ v3 < 8) ∧ ((0 ≤ v4 ∧ v4 < 8) ∧ ((tm_v μ0 72 v3 ≠ tm_v μ0 72 v4 → (0 ≤ w32 ((w32 (8 * v3)) + v4) ∧ w32 ((w32 (8 * v3)) + v4) < 64) ∧ ((∀ μ14, μ14 = tm_w μ 94 (w32 ((w32 (8 * v3)) + v4)) 0 → hI wX6_same μ0 mX6_same d K 45 [(0, 2, 65), (1, 0, v1), (2, 0, v2), (3, 0, v3), (4, 0, w32 (v4 + 1))] [] μ14))) ∧ (tm_v μ0 72 v3 = tm_v μ0 72 v4 → (0 ≤ w32 ((w32 (8 * v3)) + v4) ∧ w32 ((w32 (8 * v3)) + v4) < 64) ∧ ((∀ μ16, μ16 = tm_w μ 94 (w32 ((w32 (8 * v3)) + v4)) 1 → hI wX6_same μ0 mX6_same d K 45 [(0, 2, 65), (1, 0, v1), (2, 0, v2), (3, 0, v3), (4, 0, w32 (v4 + 1))] [] μ16)))))))))) :
    hI wX6_same μ0 mX6_same d K 45 [(0, 2, 65), (1, 0, v1), (2, 0, v2), (3, 0, v3), (4, 0, v4)] [] μ := by
  refine g_iload (q := 4) dX6_same_45 rfl ?_
  refine g_aload_n (q := 0) dX6_same_47 rfl rfl ?_
  refine g_getC (x := tm_v μ0 65 20) 0 dX6_same_48 fX6_326 rfl (by decide) (sk_65 hs.S) (hs.v (tWs_noF rfl)) ?_
  refine g_icmp_ge (tgt := 113) dX6_same_51 (by decide) (fun c1 => ?_) (fun c2 => ?_)
  · have h := h.1 c1
    refine g_iinc (q := 3) dX6_same_113 (by decide) rfl [1, 2, 3, 0, 4] rfl ?_
    refine g_goto (tgt := 34) dX6_same_116 (by decide) ?_
    exact g_less [0, 1, 2, 3] rfl h
  · have h := h.2 c2
    refine g_aload_n (q := 0) dX6_same_54 rfl rfl ?_
    refine g_getC (x := 94) 2 dX6_same_55 fX6_114 rfl (by decide) (sk_65 hs.S) (sv_65_62 hs.S) ?_
    refine g_bipush dX6_same_58 ⟨by decide, by decide, rfl⟩ ?_
    refine g_iload_n (q := 3) dX6_same_60 rfl rfl ?_
    refine g_imul dX6_same_61 ?_
    refine g_iload (q := 4) dX6_same_62 rfl ?_
    refine g_iadd dX6_same_64 ?_
    refine g_aload_n (q := 0) dX6_same_65 rfl rfl ?_
    refine g_getC (x := 70) 2 dX6_same_66 fX6_38 rfl (by decide) (sk_65 hs.S) (sv_65_31 hs.S) ?_
    refine g_iconst dX6_same_69 (by decide) ?_
    refine g_iload_n (q := 3) dX6_same_70 rfl rfl ?_
    refine g_imul dX6_same_71 ?_
    obtain ⟨c3, h⟩ := h
    refine g_ialoadC (x := tm_v μ0 70 (w32 (3 * v3))) dX6_same_72 (by decide) (sk_70 hs.S) c3.1 (t_lt (sn_70 hs.S) c3.2) (hs.v (tWs_no _ rfl)) ?_
    refine g_aload_n (q := 0) dX6_same_73 rfl rfl ?_
    refine g_getC (x := 70) 2 dX6_same_74 fX6_38 rfl (by decide) (sk_65 hs.S) (sv_65_31 hs.S) ?_
    refine g_iconst dX6_same_77 (by decide) ?_
    refine g_iload (q := 4) dX6_same_78 rfl ?_
    refine g_imul dX6_same_80 ?_
    obtain ⟨c4, h⟩ := h
    refine g_ialoadC (x := tm_v μ0 70 (w32 (3 * v4))) dX6_same_81 (by decide) (sk_70 hs.S) c4.1 (t_lt (sn_70 hs.S) c4.2) (hs.v (tWs_no _ rfl)) ?_
    refine g_icmp_ne (tgt := 105) dX6_same_82 (by decide) (fun c5 => ?_) (fun c6 => ?_)
    · have h := h.1 c5
      refine g_iconst dX6_same_105 (by decide) ?_
      obtain ⟨c7, h⟩ := h
      refine g_zastore dX6_same_106 (by decide) (sk_94 hs.S) c7.1 (t_lt (sn_94 hs.S) c7.2) (by decide) (p_w hs sf_94 (tWs_in _ rfl) fun μ8 eμ8 hs => ?_)
      have h := h μ8 eμ8
      refine g_iinc (q := 4) dX6_same_107 (by decide) rfl [1, 2, 3, 4, 0] rfl ?_
      refine g_goto (tgt := 45) dX6_same_110 (by decide) ?_
      exact h
    · have h := h.2 c6
      refine g_aload_n (q := 0) dX6_same_85 rfl rfl ?_
      refine g_getC (x := 72) 2 dX6_same_86 fX6_44 rfl (by decide) (sk_65 hs.S) (sv_65_33 hs.S) ?_
      refine g_iload_n (q := 3) dX6_same_89 rfl rfl ?_
      obtain ⟨c9, h⟩ := h
      refine g_ialoadC (x := tm_v μ0 72 v3) dX6_same_90 (by decide) (sk_72 hs.S) c9.1 (t_lt (sn_72 hs.S) c9.2) (hs.v (tWs_no _ rfl)) ?_
      refine g_aload_n (q := 0) dX6_same_91 rfl rfl ?_
      refine g_getC (x := 72) 2 dX6_same_92 fX6_44 rfl (by decide) (sk_65 hs.S) (sv_65_33 hs.S) ?_
      refine g_iload (q := 4) dX6_same_95 rfl ?_
      obtain ⟨c10, h⟩ := h
      refine g_ialoadC (x := tm_v μ0 72 v4) dX6_same_97 (by decide) (sk_72 hs.S) c10.1 (t_lt (sn_72 hs.S) c10.2) (hs.v (tWs_no _ rfl)) ?_
      refine g_icmp_ne (tgt := 105) dX6_same_98 (by decide) (fun c11 => ?_) (fun c12 => ?_)
      · have h := h.1 c11
        refine g_iconst dX6_same_105 (by decide) ?_
        obtain ⟨c13, h⟩ := h
        refine g_zastore dX6_same_106 (by decide) (sk_94 hs.S) c13.1 (t_lt (sn_94 hs.S) c13.2) (by decide) (p_w hs sf_94 (tWs_in _ rfl) fun μ14 eμ14 hs => ?_)
        have h := h μ14 eμ14
        refine g_iinc (q := 4) dX6_same_107 (by decide) rfl [1, 2, 3, 4, 0] rfl ?_
        refine g_goto (tgt := 45) dX6_same_110 (by decide) ?_
        exact h
      · have h := h.2 c12
        refine g_iconst dX6_same_101 (by decide) ?_
        refine g_goto (tgt := 106) dX6_same_102 (by decide) ?_
        obtain ⟨c15, h⟩ := h
        refine g_zastore dX6_same_106 (by decide) (sk_94 hs.S) c15.1 (t_lt (sn_94 hs.S) c15.2) (by decide) (p_w hs sf_94 (tWs_in _ rfl) fun μ16 eμ16 hs => ?_)
        have h := h μ16 eμ16
        refine g_iinc (q := 4) dX6_same_107 (by decide) rfl [1, 2, 3, 4, 0] rfl ?_
        refine g_goto (tgt := 45) dX6_same_110 (by decide) ?_
        exact h
theorem uX6_same_121 {d : Nat} {μ0 μ : tm_M} {K : Int → tm_M → Prop} {v1 v2 v3 : Int} (hs : tFr wX6_same μ0 μ)
    (h : (v3 = 0 → (0 ≤ w32 ((w32 (8 * v1)) + v2) ∧ w32 ((w32 (8 * v1)) + v2) < 64) ∧ ((tm_v μ 94 (w32 ((w32 (8 * v1)) + v2)) = 0 → K 0 μ) ∧ (tm_v μ 94 (w32 ((w32 (8 * v1)) + v2)) ≠ 0 → K 1 μ))) ∧ (v3 ≠ 0 → hI wX6_same μ0 mX6_same d K 130 [(0, 2, 65), (1, 0, v1), (2, 0, v2), (3, 0, 0), (4, 0, 0)] [] μ)) :
    hI wX6_same μ0 mX6_same d K 121 [(0, 2, 65), (1, 0, v1), (2, 0, v2), (3, 0, v3)] [] μ := by
  refine g_iload_n (q := 3) dX6_same_121 rfl rfl ?_
  refine g_if_eq (tgt := 279) dX6_same_122 (by decide) (fun c1 => ?_) (fun c2 => ?_)
  · have h := h.1 c1
    refine g_aload_n (q := 0) dX6_same_279 rfl rfl ?_
    refine g_getC (x := 94) 2 dX6_same_280 fX6_114 rfl (by decide) (sk_65 hs.S) (sv_65_62 hs.S) ?_
    refine g_bipush dX6_same_283 ⟨by decide, by decide, rfl⟩ ?_
    refine g_iload_n (q := 1) dX6_same_285 rfl rfl ?_
    refine g_imul dX6_same_286 ?_
    refine g_iload_n (q := 2) dX6_same_287 rfl rfl ?_
    refine g_iadd dX6_same_288 ?_
    obtain ⟨c3, h⟩ := h
    refine g_zaload dX6_same_289 (by decide) (sk_94 hs.S) c3.1 (t_lt (sn_94 hs.S) c3.2) ?_
    refine g_if_eq (tgt := 297) dX6_same_290 (by decide) (fun c4 => ?_) (fun c5 => ?_)
    · have h := h.1 c4
      refine g_iconst dX6_same_297 (by decide) ?_
      exact g_iret dX6_same_298 rfl (Nat.le_refl _) (Nat.le_refl _) ⟨_, rfl, hs, h⟩
    · have h := h.2 c5
      refine g_iconst dX6_same_293 (by decide) ?_
      refine g_goto (tgt := 298) dX6_same_294 (by decide) ?_
      exact g_iret dX6_same_298 rfl (Nat.le_refl _) (Nat.le_refl _) ⟨_, rfl, hs, h⟩
  · have h := h.2 c2
    refine g_iconst dX6_same_125 (by decide) ?_
    refine g_istore_n (L' := [(0, 2, 65), (1, 0, v1), (2, 0, v2), (3, 0, 0)]) dX6_same_126 rfl (by decide) [1, 2, 3, 0] rfl ?_
    refine g_iconst dX6_same_127 (by decide) ?_
    refine g_istore (L' := [(0, 2, 65), (1, 0, v1), (2, 0, v2), (3, 0, 0), (4, 0, 0)]) dX6_same_128 (by decide) [1, 2, 3, 4, 0] rfl ?_
    exact h
theorem uX6_same_130 {d : Nat} {μ0 μ : tm_M} {K : Int → tm_M → Prop} {v1 v2 v3 v4 : Int} (hs : tFr wX6_same μ0 μ)
    (h : (tm_v μ0 65 20 ≤ v4 → hI wX6_same μ0 mX6_same d K 121 [(0, 2, 65), (1, 0, v1), (2, 0, v2), (3, 0, v3)] [] μ) ∧ (v4 < tm_v μ0 65 20 → hI wX6_same μ0 mX6_same d K 142 [(0, 2, 65), (1, 0, v1), (2, 0, v2), (3, 0, v3), (4, 0, v4), (5, 0, 0)] [] μ)) :
    hI wX6_same μ0 mX6_same d K 130 [(0, 2, 65), (1, 0, v1), (2, 0, v2), (3, 0, v3), (4, 0, v4)] [] μ := by
  refine g_iload (q := 4) dX6_same_130 rfl ?_
  refine g_aload_n (q := 0) dX6_same_132 rfl rfl ?_
  refine g_getC (x := tm_v μ0 65 20) 0 dX6_same_133 fX6_326 rfl (by decide) (sk_65 hs.S) (hs.v (tWs_noF rfl)) ?_
  refine g_icmp_ge (tgt := 276) dX6_same_136 (by decide) (fun c1 => ?_) (fun c2 => ?_)
  · have h := h.1 c1
    refine g_goto (tgt := 121) dX6_same_276 (by decide) ?_
    exact g_less [0, 1, 2, 3] rfl h
  · have h := h.2 c2
    refine g_iconst dX6_same_139 (by decide) ?_
    refine g_istore (L' := [(0, 2, 65), (1, 0, v1), (2, 0, v2), (3, 0, v3), (4, 0, v4), (5, 0, 0)]) dX6_same_140 (by decide) [1, 2, 3, 4, 5, 0] rfl ?_
    exact h
theorem uX6_same_142 {d : Nat} {μ0 μ : tm_M} {K : Int → tm_M → Prop} {v1 v2 v3 v4 v5 : Int} (hs : tFr wX6_same μ0 μ)
    (h : (tm_v μ0 65 20 ≤ v5 → hI wX6_same μ0 mX6_same d K 130 [(0, 2, 65), (1, 0, v1), (2, 0, v2), (3, 0, v3), (4, 0, w32 (v4 + 1))] [] μ) ∧ (v5 < tm_v μ0 65 20 → (0 ≤ w32 ((w32 (8 * v4)) + v5) ∧ w32 ((w32 (8 * v4)) + v5) < 64) ∧ ((tm_v μ 94 (w32 ((w32 (8 * v4)) + v5)) ≠ 0 → hI wX6_same μ0 mX6_same d K 176 [(0, 2, 65), (1, 0, v1), (2, 0, v2), (3, 0, v3), (4, 0, v4), (5, 0, v5), (6, 0, 1), (7, 0, 0)] [] μ) ∧ (tm_v μ 94 (w32 ((w32 (8 * v4)) + v5)) = 0 → hI wX6_same μ0 mX6_same d K 142 [(0, 2, 65), (1, 0, v1), (2, 0, v2), (3, 0, v3), (4, 0, v4), (5, 0, w32 (v5 + 1))] [] μ)))) :
    hI wX6_same μ0 mX6_same d K 142 [(0, 2, 65), (1, 0, v1), (2, 0, v2), (3, 0, v3), (4, 0, v4), (5, 0, v5)] [] μ := by
  refine g_iload (q := 5) dX6_same_142 rfl ?_
  refine g_aload_n (q := 0) dX6_same_144 rfl rfl ?_
  refine g_getC (x := tm_v μ0 65 20) 0 dX6_same_145 fX6_326 rfl (by decide) (sk_65 hs.S) (hs.v (tWs_noF rfl)) ?_
  refine g_icmp_ge (tgt := 270) dX6_same_148 (by decide) (fun c1 => ?_) (fun c2 => ?_)
  · have h := h.1 c1
    refine g_iinc (q := 4) dX6_same_270 (by decide) rfl [1, 2, 3, 4, 0, 5] rfl ?_
    refine g_goto (tgt := 130) dX6_same_273 (by decide) ?_
    exact g_less [0, 1, 2, 3, 4] rfl h
  · have h := h.2 c2
    refine g_aload_n (q := 0) dX6_same_151 rfl rfl ?_
    refine g_getC (x := 94) 2 dX6_same_152 fX6_114 rfl (by decide) (sk_65 hs.S) (sv_65_62 hs.S) ?_
    refine g_bipush dX6_same_155 ⟨by decide, by decide, rfl⟩ ?_
    refine g_iload (q := 4) dX6_same_157 rfl ?_
    refine g_imul dX6_same_159 ?_
    refine g_iload (q := 5) dX6_same_160 rfl ?_
    refine g_iadd dX6_same_162 ?_
    obtain ⟨c3, h⟩ := h
    refine g_zaload dX6_same_163 (by decide) (sk_94 hs.S) c3.1 (t_lt (sn_94 hs.S) c3.2) ?_
    refine g_if_ne (tgt := 170) dX6_same_164 (by decide) (fun c4 => ?_) (fun c5 => ?_)
    · have h := h.1 c4
      refine g_iconst dX6_same_170 (by decide) ?_
      refine g_istore (L' := [(0, 2, 65), (1, 0, v1), (2, 0, v2), (3, 0, v3), (4, 0, v4), (5, 0, v5), (6, 0, 1)]) dX6_same_171 (by decide) [1, 2, 3, 4, 5, 6, 0] rfl ?_
      refine g_iconst dX6_same_173 (by decide) ?_
      refine g_istore (L' := [(0, 2, 65), (1, 0, v1), (2, 0, v2), (3, 0, v3), (4, 0, v4), (5, 0, v5), (6, 0, 1), (7, 0, 0)]) dX6_same_174 (by decide) [1, 2, 3, 4, 5, 6, 7, 0] rfl ?_
      exact h
    · have h := h.2 c5
      refine g_goto (tgt := 264) dX6_same_167 (by decide) ?_
      refine g_iinc (q := 5) dX6_same_264 (by decide) rfl [1, 2, 3, 4, 5, 0] rfl ?_
      refine g_goto (tgt := 142) dX6_same_267 (by decide) ?_
      exact h
theorem uX6_same_176 {d : Nat} {μ0 μ : tm_M} {K : Int → tm_M → Prop} {v1 v2 v3 v4 v5 v6 v7 : Int} (hd : 2 ≤ d) (hs : tFr wX6_same μ0 μ)
    (h : (0 ≤ v4 ∧ v4 < 8) ∧ ((tm_v μ0 72 v4 ≤ v7 → (0 ≤ w32 ((w32 (8 * v4)) + v5) ∧ w32 ((w32 (8 * v4)) + v5) < 64) ∧ ((0 ≤ v6 ∧ v6 ≤ 1) ∧ ((∀ μ6, μ6 = tm_w μ 94 (w32 ((w32 (8 * v4)) + v5)) v6 → (v3 ≠ 0 → hI wX6_same μ0 mX6_same d K 142 [(0, 2, 65), (1, 0, v1), (2, 0, v2), (3, 0, 1), (4, 0, v4), (5, 0, w32 (v5 + 1))] [] μ6) ∧ (v3 = 0 → (v6 ≠ 0 → hI wX6_same μ0 mX6_same d K 142 [(0, 2, 65), (1, 0, v1), (2, 0, v2), (3, 0, 0), (4, 0, v4), (5, 0, w32 (v5 + 1))] [] μ6) ∧ (v6 = 0 → hI wX6_same μ0 mX6_same d K 142 [(0, 2, 65), (1, 0, v1), (2, 0, v2), (3, 0, 1), (4, 0, v4), (5, 0, w32 (v5 + 1))] [] μ6)))))) ∧ (v7 < tm_v μ0 72 v4 → (v6 = 0 → hI wX6_same μ0 mX6_same d K 176 [(0, 2, 65), (1, 0, v1), (2, 0, v2), (3, 0, v3), (4, 0, v4), (5, 0, v5), (6, 0, 0), (7, 0, w32 (v7 + 1))] [] μ) ∧ (v6 ≠ 0 → (y_p μ0 v4) ∧ ((y_p μ0 v5) ∧ ((0 ≤ w32 ((w32 (8 * (y_leads μ0 v4 v7))) + (y_leads μ0 v5 v7)) ∧ w32 ((w32 (8 * (y_leads μ0 v4 v7))) + (y_leads μ0 v5 v7)) < 64) ∧ ((tm_v μ 94 (w32 ((w32 (8 * (y_leads μ0 v4 v7))) + (y_leads μ0 v5 v7))) = 0 → hI wX6_same μ0 mX6_same d K 176 [(0, 2, 65), (1, 0, v1), (2, 0, v2), (3, 0, v3), (4, 0, v4), (5, 0, v5), (6, 0, 0), (7, 0, w32 (v7 + 1))] [] μ) ∧ (tm_v μ 94 (w32 ((w32 (8 * (y_leads μ0 v4 v7))) + (y_leads μ0 v5 v7))) ≠ 0 → hI wX6_same μ0 mX6_same d K 176 [(0, 2, 65), (1, 0, v1), (2, 0, v2), (3, 0, v3), (4, 0, v4), (5, 0, v5), (6, 0, 1), (7, 0, w32 (v7 + 1))] [] μ)))))))) :
    hI wX6_same μ0 mX6_same d K 176 [(0, 2, 65), (1, 0, v1), (2, 0, v2), (3, 0, v3), (4, 0, v4), (5, 0, v5), (6, 0, v6), (7, 0, v7)] [] μ := by
  refine g_iload (q := 7) dX6_same_176 rfl ?_
  refine g_aload_n (q := 0) dX6_same_178 rfl rfl ?_
  refine g_getC (x := 72) 2 dX6_same_179 fX6_44 rfl (by decide) (sk_65 hs.S) (sv_65_33 hs.S) ?_
  refine g_iload (q := 4) dX6_same_182 rfl ?_
  obtain ⟨c1, h⟩ := h
  refine g_ialoadC (x := tm_v μ0 72 v4) dX6_same_184 (by decide) (sk_72 hs.S) c1.1 (t_lt (sn_72 hs.S) c1.2) (hs.v (tWs_no _ rfl)) ?_
  refine g_icmp_ge (tgt := 234) dX6_same_185 (by decide) (fun c2 => ?_) (fun c3 => ?_)
  · have h := h.1 c2
    refine g_aload_n (q := 0) dX6_same_234 rfl rfl ?_
    refine g_getC (x := 94) 2 dX6_same_235 fX6_114 rfl (by decide) (sk_65 hs.S) (sv_65_62 hs.S) ?_
    refine g_bipush dX6_same_238 ⟨by decide, by decide, rfl⟩ ?_
    refine g_iload (q := 4) dX6_same_240 rfl ?_
    refine g_imul dX6_same_242 ?_
    refine g_iload (q := 5) dX6_same_243 rfl ?_
    refine g_iadd dX6_same_245 ?_
    refine g_iload (q := 6) dX6_same_246 rfl ?_
    obtain ⟨c4, h⟩ := h
    obtain ⟨c5, h⟩ := h
    refine g_zastore dX6_same_248 (by decide) (sk_94 hs.S) c4.1 (t_lt (sn_94 hs.S) c4.2) c5 (p_w hs sf_94 (tWs_in _ rfl) fun μ6 eμ6 hs => ?_)
    have h := h μ6 eμ6
    refine g_iload_n (q := 3) dX6_same_249 rfl rfl ?_
    refine g_if_ne (tgt := 258) dX6_same_250 (by decide) (fun c7 => ?_) (fun c8 => ?_)
    · have h := h.1 c7
      refine g_iconst dX6_same_258 (by decide) ?_
      refine g_goto (tgt := 263) dX6_same_259 (by decide) ?_
      refine g_istore_n (L' := [(0, 2, 65), (1, 0, v1), (2, 0, v2), (3, 0, 1), (4, 0, v4), (5, 0, v5), (6, 0, v6), (7, 0, v7)]) dX6_same_263 rfl (by decide) [1, 2, 3, 0, 4, 5, 6, 7] rfl ?_
      refine g_iinc (q := 5) dX6_same_264 (by decide) rfl [1, 2, 3, 4, 5, 0, 6, 7] rfl ?_
      refine g_goto (tgt := 142) dX6_same_267 (by decide) ?_
      exact g_less [0, 1, 2, 3, 4, 5] rfl h
    · have h := h.2 c8
      refine g_iload (q := 6) dX6_same_253 rfl ?_
      refine g_if_ne (tgt := 262) dX6_same_255 (by decide) (fun c9 => ?_) (fun c10 => ?_)
      · have h := h.1 c9
        refine g_iconst dX6_same_262 (by decide) ?_
        refine g_istore_n (L' := [(0, 2, 65), (1, 0, v1), (2, 0, v2), (3, 0, 0), (4, 0, v4), (5, 0, v5), (6, 0, v6), (7, 0, v7)]) dX6_same_263 rfl (by decide) [1, 2, 3, 0, 4, 5, 6, 7] rfl ?_
        refine g_iinc (q := 5) dX6_same_264 (by decide) rfl [1, 2, 3, 4, 5, 0, 6, 7] rfl ?_
        refine g_goto (tgt := 142) dX6_same_267 (by decide) ?_
        exact g_less [0, 1, 2, 3, 4, 5] rfl h
      · have h := h.2 c10
        refine g_iconst dX6_same_258 (by decide) ?_
        refine g_goto (tgt := 263) dX6_same_259 (by decide) ?_
        refine g_istore_n (L' := [(0, 2, 65), (1, 0, v1), (2, 0, v2), (3, 0, 1), (4, 0, v4), (5, 0, v5), (6, 0, v6), (7, 0, v7)]) dX6_same_263 rfl (by decide) [1, 2, 3, 0, 4, 5, 6, 7] rfl ?_
        refine g_iinc (q := 5) dX6_same_264 (by decide) rfl [1, 2, 3, 4, 5, 0, 6, 7] rfl ?_
        refine g_goto (tgt := 142) dX6_same_267 (by decide) ?_
        exact g_less [0, 1, 2, 3, 4, 5] rfl h
  · have h := h.2 c3
    refine g_iload (q := 6) dX6_same_188 rfl ?_
    refine g_if_eq (tgt := 225) dX6_same_190 (by decide) (fun c11 => ?_) (fun c12 => ?_)
    · have h := h.1 c11
      refine g_iconst dX6_same_225 (by decide) ?_
      refine g_istore (L' := [(0, 2, 65), (1, 0, v1), (2, 0, v2), (3, 0, v3), (4, 0, v4), (5, 0, v5), (6, 0, 0), (7, 0, v7)]) dX6_same_226 (by decide) [1, 2, 3, 4, 5, 6, 0, 7] rfl ?_
      refine g_iinc (q := 7) dX6_same_228 (by decide) rfl [1, 2, 3, 4, 5, 6, 7, 0] rfl ?_
      refine g_goto (tgt := 176) dX6_same_231 (by decide) ?_
      exact h
    · have h := h.2 c12
      refine g_aload_n (q := 0) dX6_same_193 rfl rfl ?_
      refine g_getC (x := 94) 2 dX6_same_194 fX6_114 rfl (by decide) (sk_65 hs.S) (sv_65_62 hs.S) ?_
      refine g_bipush dX6_same_197 ⟨by decide, by decide, rfl⟩ ?_
      refine g_aload_n (q := 0) dX6_same_199 rfl rfl ?_
      refine g_iload (q := 4) dX6_same_200 rfl ?_
      refine g_iload (q := 7) dX6_same_202 rfl ?_
      obtain ⟨c13, h⟩ := h
      refine g_callV2 dX6_same_204 kX6_leads q1603 q1605 qs76 (ci := 6) rfl (by decide) rfl (by omega) (by decide) (sk_65 hs.S) (Nat.le_of_ble_eq_true rfl) (Nat.le_refl _) (Nat.le_refl _) (t_pI hs (pX6_leadsF (by omega) hs (tWs_T rfl) c13) ?_)
      refine g_imul dX6_same_207 ?_
      refine g_aload_n (q := 0) dX6_same_208 rfl rfl ?_
      refine g_iload (q := 5) dX6_same_209 rfl ?_
      refine g_iload (q := 7) dX6_same_211 rfl ?_
      obtain ⟨c17, h⟩ := h
      refine g_callV2 dX6_same_213 kX6_leads q1603 q1605 qs76 (ci := 6) rfl (by decide) rfl (by omega) (by decide) (sk_65 hs.S) (Nat.le_of_ble_eq_true rfl) (Nat.le_refl _) (Nat.le_refl _) (t_pI hs (pX6_leadsF (by omega) hs (tWs_T rfl) c17) ?_)
      refine g_iadd dX6_same_216 ?_
      obtain ⟨c21, h⟩ := h
      refine g_zaload dX6_same_217 (by decide) (sk_94 hs.S) c21.1 (t_lt (sn_94 hs.S) c21.2) ?_
      refine g_if_eq (tgt := 225) dX6_same_218 (by decide) (fun c22 => ?_) (fun c23 => ?_)
      · have h := h.1 c22
        refine g_iconst dX6_same_225 (by decide) ?_
        refine g_istore (L' := [(0, 2, 65), (1, 0, v1), (2, 0, v2), (3, 0, v3), (4, 0, v4), (5, 0, v5), (6, 0, 0), (7, 0, v7)]) dX6_same_226 (by decide) [1, 2, 3, 4, 5, 6, 0, 7] rfl ?_
        refine g_iinc (q := 7) dX6_same_228 (by decide) rfl [1, 2, 3, 4, 5, 6, 7, 0] rfl ?_
        refine g_goto (tgt := 176) dX6_same_231 (by decide) ?_
        exact h
      · have h := h.2 c23
        refine g_iconst dX6_same_221 (by decide) ?_
        refine g_goto (tgt := 226) dX6_same_222 (by decide) ?_
        refine g_istore (L' := [(0, 2, 65), (1, 0, v1), (2, 0, v2), (3, 0, v3), (4, 0, v4), (5, 0, v5), (6, 0, 1), (7, 0, v7)]) dX6_same_226 (by decide) [1, 2, 3, 4, 5, 6, 0, 7] rfl ?_
        refine g_iinc (q := 7) dX6_same_228 (by decide) rfl [1, 2, 3, 4, 5, 6, 7, 0] rfl ?_
        refine g_goto (tgt := 176) dX6_same_231 (by decide) ?_
        exact h
theorem uX6_findRows_0 {d : Nat} {μ0 μ : tm_M} {K : tm_M → Prop} {v1 v2 v3 : Int} (hs : tFr wX6_findRows μ0 μ)
    (h : hV wX6_findRows μ0 mX6_findRows d K 6 [(0, 2, 65), (1, 0, v1), (2, 0, v2), (3, 0, v3), (4, 0, 1), (5, 0, 0)] [] μ) :
    hV wX6_findRows μ0 mX6_findRows d K 0 [(0, 2, 65), (1, 0, v1), (2, 0, v2), (3, 0, v3)] [] μ := by
  refine g_iconst dX6_findRows_0 (by decide) ?_
  refine g_istore (L' := [(0, 2, 65), (1, 0, v1), (2, 0, v2), (3, 0, v3), (4, 0, 1)]) dX6_findRows_1 (by decide) [1, 2, 3, 4, 0] rfl ?_
  refine g_iconst dX6_findRows_3 (by decide) ?_
  refine g_istore (L' := [(0, 2, 65), (1, 0, v1), (2, 0, v2), (3, 0, v3), (4, 0, 1), (5, 0, 0)]) dX6_findRows_4 (by decide) [1, 2, 3, 4, 5, 0] rfl ?_
  exact h
theorem uX6_findRows_6 {d : Nat} {μ0 μ : tm_M} {K : tm_M → Prop} {v1 v2 v3 v4 v5 : Int} (hs : tFr wX6_findRows μ0 μ)
    (h : (v2 ≤ v5 → (∀ μ3, μ3 = tm_w μ 65 63 (-1) → hV wX6_findRows μ0 mX6_findRows d K 34 [(0, 2, 65), (1, 0, v1), (2, 0, v2), (3, 0, v3), (4, 0, v4), (5, 0, 0)] [] μ3)) ∧ (v5 < v2 → (∀ x4, x4 = w32 (v4 * 5) → hV wX6_findRows μ0 mX6_findRows d K 6 [(0, 2, 65), (1, 0, v1), (2, 0, v2), (3, 0, v3), (4, 0, x4), (5, 0, w32 (v5 + 1))] [] μ))) :
    hV wX6_findRows μ0 mX6_findRows d K 6 [(0, 2, 65), (1, 0, v1), (2, 0, v2), (3, 0, v3), (4, 0, v4), (5, 0, v5)] [] μ := by
  refine g_iload (q := 5) dX6_findRows_6 rfl ?_
  refine g_iload_n (q := 2) dX6_findRows_8 rfl rfl ?_
  refine g_icmp_ge (tgt := 24) dX6_findRows_9 (by decide) (fun c1 => ?_) (fun c2 => ?_)
  · have h := h.1 c1
    refine g_aload_n (q := 0) dX6_findRows_24 rfl rfl ?_
    refine g_ldc2 (v := -1) (by decide) q1467c dX6_findRows_25 ?_
    refine g_put dX6_findRows_28 fX6_425 rfl (by decide) (sk_65 hs.S) (fun e => absurd e (by decide)) (p_wj hs (by decide) (tWs_inF rfl) fun μ3 eμ3 hs => ?_)
    have h := h μ3 eμ3
    refine g_iconst dX6_findRows_31 (by decide) ?_
    refine g_istore (L' := [(0, 2, 65), (1, 0, v1), (2, 0, v2), (3, 0, v3), (4, 0, v4), (5, 0, 0)]) dX6_findRows_32 (by decide) [1, 2, 3, 4, 5, 0] rfl ?_
    exact h
  · have h := h.2 c2
    refine g_iload (q := 4) dX6_findRows_12 rfl ?_
    refine g_iconst dX6_findRows_14 (by decide) ?_
    refine g_imul dX6_findRows_15 ?_
    refine g_istoreN (fun z => [(0, 2, 65), (1, 0, v1), (2, 0, v2), (3, 0, v3), (4, 0, z), (5, 0, v5)]) dX6_findRows_16 (by decide) [1, 2, 3, 4, 0, 5] (fun _ => rfl) (fun x4 ex4 => ?_)
    have h := h x4 ex4
    refine g_iinc (q := 5) dX6_findRows_18 (by decide) rfl [1, 2, 3, 4, 5, 0] rfl ?_
    refine g_goto (tgt := 6) dX6_findRows_21 (by decide) ?_
    exact h
theorem uX6_findRows_34 {d : Nat} {μ0 μ : tm_M} {K : tm_M → Prop} {v1 v2 v3 v4 v5 : Int} (hs : tFr wX6_findRows μ0 μ)
    (h : (v4 ≤ v5 → K μ) ∧ (v5 < v4 → (∀ x3, x3 = w32 (v2 - 1) → hV wX6_findRows μ0 mX6_findRows d K 50 [(0, 2, 65), (1, 0, v1), (2, 0, v2), (3, 0, v3), (4, 0, v4), (5, 0, v5), (6, 0, v5), (7, 0, x3)] [] μ))) :
    hV wX6_findRows μ0 mX6_findRows d K 34 [(0, 2, 65), (1, 0, v1), (2, 0, v2), (3, 0, v3), (4, 0, v4), (5, 0, v5)] [] μ := by
  refine g_iload (q := 5) dX6_findRows_34 rfl ?_
  refine g_iload (q := 4) dX6_findRows_36 rfl ?_
  refine g_icmp_ge (tgt := 309) dX6_findRows_38 (by decide) (fun c1 => ?_) (fun c2 => ?_)
  · have h := h.1 c1
    exact g_vret dX6_findRows_309 rfl (Nat.le_refl _) (Nat.le_refl _) ⟨rfl, hs, h⟩
  · have h := h.2 c2
    refine g_iload (q := 5) dX6_findRows_41 rfl ?_
    refine g_istore (L' := [(0, 2, 65), (1, 0, v1), (2, 0, v2), (3, 0, v3), (4, 0, v4), (5, 0, v5), (6, 0, v5)]) dX6_findRows_43 (by decide) [1, 2, 3, 4, 5, 6, 0] rfl ?_
    refine g_iload_n (q := 2) dX6_findRows_45 rfl rfl ?_
    refine g_iconst dX6_findRows_46 (by decide) ?_
    refine g_isub dX6_findRows_47 ?_
    refine g_istoreN (fun z => [(0, 2, 65), (1, 0, v1), (2, 0, v2), (3, 0, v3), (4, 0, v4), (5, 0, v5), (6, 0, v5), (7, 0, z)]) dX6_findRows_48 (by decide) [1, 2, 3, 4, 5, 6, 7, 0] (fun _ => rfl) (fun x3 ex3 => ?_)
    have h := h x3 ex3
    exact h
theorem uX6_findRows_50 {d : Nat} {μ0 μ : tm_M} {K : tm_M → Prop} {v1 v2 v3 v4 v5 v6 v7 : Int} (hs : tFr wX6_findRows μ0 μ)
    (h : (v7 < 0 → hV wX6_findRows μ0 mX6_findRows d K 87 [(0, 2, 65), (1, 0, v1), (2, 0, v2), (3, 0, v3), (4, 0, v4), (5, 0, v5), (7, 1, 0), (9, 1, 0), (11, 0, 0)] [] μ) ∧ (0 ≤ v7 → (0 ≤ v7 ∧ v7 < 6) ∧ ((∀ μ4, μ4 = tm_w μ 92 v7 (v6.tmod 5) → (∀ x5, x5 = w32 (v6.tdiv 5) → hV wX6_findRows μ0 mX6_findRows d K 50 [(0, 2, 65), (1, 0, v1), (2, 0, v2), (3, 0, v3), (4, 0, v4), (5, 0, v5), (6, 0, x5), (7, 0, w32 (v7 + -1))] [] μ4))))) :
    hV wX6_findRows μ0 mX6_findRows d K 50 [(0, 2, 65), (1, 0, v1), (2, 0, v2), (3, 0, v3), (4, 0, v4), (5, 0, v5), (6, 0, v6), (7, 0, v7)] [] μ := by
  refine g_iload (q := 7) dX6_findRows_50 rfl ?_
  refine g_if_lt (tgt := 78) dX6_findRows_52 (by decide) (fun c1 => ?_) (fun c2 => ?_)
  · have h := h.1 c1
    refine g_lconst0 dX6_findRows_78 ?_
    refine g_lstore (L' := [(0, 2, 65), (1, 0, v1), (2, 0, v2), (3, 0, v3), (4, 0, v4), (5, 0, v5), (6, 0, v6), (7, 1, 0)]) dX6_findRows_79 (by decide) [1, 2, 3, 4, 5, 6, 7, 0] rfl ?_
    refine g_lconst0 dX6_findRows_81 ?_
    refine g_lstore (L' := [(0, 2, 65), (1, 0, v1), (2, 0, v2), (3, 0, v3), (4, 0, v4), (5, 0, v5), (6, 0, v6), (7, 1, 0), (9, 1, 0)]) dX6_findRows_82 (by decide) [1, 2, 3, 4, 5, 6, 7, 8, 0] rfl ?_
    refine g_iconst dX6_findRows_84 (by decide) ?_
    refine g_istore (L' := [(0, 2, 65), (1, 0, v1), (2, 0, v2), (3, 0, v3), (4, 0, v4), (5, 0, v5), (6, 0, v6), (7, 1, 0), (9, 1, 0), (11, 0, 0)]) dX6_findRows_85 (by decide) [1, 2, 3, 4, 5, 6, 7, 8, 9, 0] rfl ?_
    exact g_less [0, 1, 2, 3, 4, 5, 7, 8, 9] rfl h
  · have h := h.2 c2
    refine g_aload_n (q := 0) dX6_findRows_55 rfl rfl ?_
    refine g_getC (x := 92) 2 dX6_findRows_56 fX6_105 rfl (by decide) (sk_65 hs.S) (sv_65_57 hs.S) ?_
    refine g_iload (q := 7) dX6_findRows_59 rfl ?_
    refine g_iload (q := 6) dX6_findRows_61 rfl ?_
    refine g_iconst dX6_findRows_63 (by decide) ?_
    refine g_irem dX6_findRows_64 (by decide) ?_
    obtain ⟨c3, h⟩ := h
    refine g_iastore dX6_findRows_65 (by decide) (sk_92 hs.S) c3.1 (t_lt (sn_92 hs.S) c3.2) (p_w hs sf_92 (tWs_in _ rfl) fun μ4 eμ4 hs => ?_)
    have h := h μ4 eμ4
    refine g_iload (q := 6) dX6_findRows_66 rfl ?_
    refine g_iconst dX6_findRows_68 (by decide) ?_
    refine g_idiv dX6_findRows_69 (by decide) ?_
    refine g_istoreN (fun z => [(0, 2, 65), (1, 0, v1), (2, 0, v2), (3, 0, v3), (4, 0, v4), (5, 0, v5), (6, 0, z), (7, 0, v7)]) dX6_findRows_70 (by decide) [1, 2, 3, 4, 5, 6, 0, 7] (fun _ => rfl) (fun x5 ex5 => ?_)
    have h := h x5 ex5
    refine g_iinc (q := 7) dX6_findRows_72 (by decide) rfl [1, 2, 3, 4, 5, 6, 7, 0] rfl ?_
    refine g_goto (tgt := 50) dX6_findRows_75 (by decide) ?_
    exact h
theorem uX6_findRows_87 {d : Nat} {μ0 μ : tm_M} {K : tm_M → Prop} {v1 v2 v3 v4 v5 v7 v9 v11 : Int} (hs : tFr wX6_findRows μ0 μ)
    (h : (tm_v μ0 65 20 ≤ v11 → (tm_v μ 65 63 < 0 → (∀ μ5, μ5 = tm_w μ 65 63 v7 → (∀ μ6, μ6 = tm_w μ5 65 64 v9 → hV wX6_findRows μ0 mX6_findRows d K 256 [(0, 2, 65), (1, 0, v1), (2, 0, v2), (3, 0, v3), (4, 0, v4), (5, 0, v5), (11, 0, 0)] [] μ6))) ∧ (0 ≤ tm_v μ 65 63 → (tm_v μ 65 63 < v7 → hV wX6_findRows μ0 mX6_findRows d K 34 [(0, 2, 65), (1, 0, v1), (2, 0, v2), (3, 0, v3), (4, 0, v4), (5, 0, w32 (v5 + 1))] [] μ) ∧ (v7 ≤ tm_v μ 65 63 → (v7 ≠ tm_v μ 65 63 → (∀ μ11, μ11 = tm_w μ 65 63 v7 → (∀ μ12, μ12 = tm_w μ11 65 64 v9 → hV wX6_findRows μ0 mX6_findRows d K 256 [(0, 2, 65), (1, 0, v1), (2, 0, v2), (3, 0, v3), (4, 0, v4), (5, 0, v5), (11, 0, 0)] [] μ12))) ∧ (v7 = tm_v μ 65 63 → (v9 < tm_v μ 65 64 → (∀ μ15, μ15 = tm_w μ 65 63 v7 → (∀ μ16, μ16 = tm_w μ15 65 64 v9 → hV wX6_findRows μ0 mX6_findRows d K 256 [(0, 2, 65), (1, 0, v1), (2, 0, v2), (3, 0, v3), (4, 0, v4), (5, 0, v5), (11, 0, 0)] [] μ16))) ∧ (tm_v μ 65 64 ≤ v9 → hV wX6_findRows μ0 mX6_findRows d K 34 [(0, 2, 65), (1, 0, v1), (2, 0, v2), (3, 0, v3), (4, 0, v4), (5, 0, w32 (v5 + 1))] [] μ))))) ∧ (v11 < tm_v μ0 65 20 → hV wX6_findRows μ0 mX6_findRows d K 99 [(0, 2, 65), (1, 0, v1), (2, 0, v2), (3, 0, v3), (4, 0, v4), (5, 0, v5), (7, 1, v7), (9, 1, v9), (11, 0, v11), (12, 0, 0)] [] μ)) :
    hV wX6_findRows μ0 mX6_findRows d K 87 [(0, 2, 65), (1, 0, v1), (2, 0, v2), (3, 0, v3), (4, 0, v4), (5, 0, v5), (7, 1, v7), (9, 1, v9), (11, 0, v11)] [] μ := by
  refine g_iload (q := 8) dX6_findRows_87 rfl ?_
  refine g_aload_n (q := 0) dX6_findRows_89 rfl rfl ?_
  refine g_getC (x := tm_v μ0 65 20) 0 dX6_findRows_90 fX6_326 rfl (by decide) (sk_65 hs.S) (hs.v (tWs_noF rfl)) ?_
  refine g_icmp_ge (tgt := 199) dX6_findRows_93 (by decide) (fun c1 => ?_) (fun c2 => ?_)
  · have h := h.1 c1
    refine g_aload_n (q := 0) dX6_findRows_199 rfl rfl ?_
    refine g_get 1 dX6_findRows_200 fX6_425 rfl (by decide) (sk_65 hs.S) ?_
    refine g_lconst0 dX6_findRows_203 ?_
    refine g_lcmp_lt (tgt := 241) dX6_findRows_204 dX6_findRows_205 (by decide) (fun c3 => ?_) (fun c4 => ?_)
    · have h := h.1 c3
      refine g_aload_n (q := 0) dX6_findRows_241 rfl rfl ?_
      refine g_lload (q := 6) dX6_findRows_242 rfl ?_
      refine g_put dX6_findRows_244 fX6_425 rfl (by decide) (sk_65 hs.S) (fun e => absurd e (by decide)) (p_wj hs (by decide) (tWs_inF rfl) fun μ5 eμ5 hs => ?_)
      have h := h μ5 eμ5
      refine g_aload_n (q := 0) dX6_findRows_247 rfl rfl ?_
      refine g_lload (q := 7) dX6_findRows_248 rfl ?_
      refine g_put dX6_findRows_250 fX6_431 rfl (by decide) (sk_65 hs.S) (fun e => absurd e (by decide)) (p_wj hs (by decide) (tWs_inF rfl) fun μ6 eμ6 hs => ?_)
      have h := h μ6 eμ6
      refine g_iconst dX6_findRows_253 (by decide) ?_
      refine g_istore (L' := [(0, 2, 65), (1, 0, v1), (2, 0, v2), (3, 0, v3), (4, 0, v4), (5, 0, v5), (7, 1, v7), (9, 1, v9), (11, 0, 0)]) dX6_findRows_254 (by decide) [1, 2, 3, 4, 5, 6, 7, 8, 0] rfl ?_
      exact g_less [0, 1, 2, 3, 4, 5, 8] rfl h
    · have h := h.2 c4
      refine g_lload (q := 6) dX6_findRows_208 rfl ?_
      refine g_aload_n (q := 0) dX6_findRows_210 rfl rfl ?_
      refine g_get 1 dX6_findRows_211 fX6_425 rfl (by decide) (sk_65 hs.S) ?_
      refine g_lcmp_gt (tgt := 303) dX6_findRows_214 dX6_findRows_215 (by decide) (fun c7 => ?_) (fun c8 => ?_)
      · have h := h.1 c7
        refine g_iinc (q := 5) dX6_findRows_303 (by decide) rfl [1, 2, 3, 4, 5, 0, 6, 7, 8] rfl ?_
        refine g_goto (tgt := 34) dX6_findRows_306 (by decide) ?_
        exact g_less [0, 1, 2, 3, 4, 5] rfl h
      · have h := h.2 c8
        refine g_lload (q := 6) dX6_findRows_218 rfl ?_
        refine g_aload_n (q := 0) dX6_findRows_220 rfl rfl ?_
        refine g_get 1 dX6_findRows_221 fX6_425 rfl (by decide) (sk_65 hs.S) ?_
        refine g_lcmp_ne (tgt := 241) dX6_findRows_224 dX6_findRows_225 (by decide) (fun c9 => ?_) (fun c10 => ?_)
        · have h := h.1 c9
          refine g_aload_n (q := 0) dX6_findRows_241 rfl rfl ?_
          refine g_lload (q := 6) dX6_findRows_242 rfl ?_
          refine g_put dX6_findRows_244 fX6_425 rfl (by decide) (sk_65 hs.S) (fun e => absurd e (by decide)) (p_wj hs (by decide) (tWs_inF rfl) fun μ11 eμ11 hs => ?_)
          have h := h μ11 eμ11
          refine g_aload_n (q := 0) dX6_findRows_247 rfl rfl ?_
          refine g_lload (q := 7) dX6_findRows_248 rfl ?_
          refine g_put dX6_findRows_250 fX6_431 rfl (by decide) (sk_65 hs.S) (fun e => absurd e (by decide)) (p_wj hs (by decide) (tWs_inF rfl) fun μ12 eμ12 hs => ?_)
          have h := h μ12 eμ12
          refine g_iconst dX6_findRows_253 (by decide) ?_
          refine g_istore (L' := [(0, 2, 65), (1, 0, v1), (2, 0, v2), (3, 0, v3), (4, 0, v4), (5, 0, v5), (7, 1, v7), (9, 1, v9), (11, 0, 0)]) dX6_findRows_254 (by decide) [1, 2, 3, 4, 5, 6, 7, 8, 0] rfl ?_
          exact g_less [0, 1, 2, 3, 4, 5, 8] rfl h
        · have h := h.2 c10
          refine g_lload (q := 7) dX6_findRows_228 rfl ?_
          refine g_aload_n (q := 0) dX6_findRows_230 rfl rfl ?_
          refine g_get 1 dX6_findRows_231 fX6_431 rfl (by decide) (sk_65 hs.S) ?_
          refine g_lcmp_lt (tgt := 241) dX6_findRows_234 dX6_findRows_235 (by decide) (fun c13 => ?_) (fun c14 => ?_)
          · have h := h.1 c13
            refine g_aload_n (q := 0) dX6_findRows_241 rfl rfl ?_
            refine g_lload (q := 6) dX6_findRows_242 rfl ?_
            refine g_put dX6_findRows_244 fX6_425 rfl (by decide) (sk_65 hs.S) (fun e => absurd e (by decide)) (p_wj hs (by decide) (tWs_inF rfl) fun μ15 eμ15 hs => ?_)
            have h := h μ15 eμ15
            refine g_aload_n (q := 0) dX6_findRows_247 rfl rfl ?_
            refine g_lload (q := 7) dX6_findRows_248 rfl ?_
            refine g_put dX6_findRows_250 fX6_431 rfl (by decide) (sk_65 hs.S) (fun e => absurd e (by decide)) (p_wj hs (by decide) (tWs_inF rfl) fun μ16 eμ16 hs => ?_)
            have h := h μ16 eμ16
            refine g_iconst dX6_findRows_253 (by decide) ?_
            refine g_istore (L' := [(0, 2, 65), (1, 0, v1), (2, 0, v2), (3, 0, v3), (4, 0, v4), (5, 0, v5), (7, 1, v7), (9, 1, v9), (11, 0, 0)]) dX6_findRows_254 (by decide) [1, 2, 3, 4, 5, 6, 7, 8, 0] rfl ?_
            exact g_less [0, 1, 2, 3, 4, 5, 8] rfl h
          · have h := h.2 c14
            refine g_goto (tgt := 303) dX6_findRows_238 (by decide) ?_
            refine g_iinc (q := 5) dX6_findRows_303 (by decide) rfl [1, 2, 3, 4, 5, 0, 6, 7, 8] rfl ?_
            refine g_goto (tgt := 34) dX6_findRows_306 (by decide) ?_
            exact g_less [0, 1, 2, 3, 4, 5] rfl h
  · have h := h.2 c2
    refine g_iconst dX6_findRows_96 (by decide) ?_
    refine g_istore (L' := [(0, 2, 65), (1, 0, v1), (2, 0, v2), (3, 0, v3), (4, 0, v4), (5, 0, v5), (7, 1, v7), (9, 1, v9), (11, 0, v11), (12, 0, 0)]) dX6_findRows_97 (by decide) [1, 2, 3, 4, 5, 6, 7, 8, 9, 0] rfl ?_
    exact h
theorem uX6_findRows_99 {d : Nat} {μ0 μ : tm_M} {K : tm_M → Prop} {v1 v2 v3 v4 v5 v7 v9 v11 v12 : Int} (hd : 1 ≤ d) (hs : tFr wX6_findRows μ0 μ)
    (h : (tm_v μ0 65 20 ≤ v12 → hV wX6_findRows μ0 mX6_findRows d K 87 [(0, 2, 65), (1, 0, v1), (2, 0, v2), (3, 0, v3), (4, 0, v4), (5, 0, v5), (7, 1, v7), (9, 1, v9), (11, 0, w32 (v11 + 1))] [] μ) ∧ (v12 < tm_v μ0 65 20 → (y_p μ0 v11 ∧ y_p μ0 v12) ∧ ((y_likely μ0 v11 v12 ≠ 0 → cI wX6_byRows mX6_byRows (d - 1) [(2, 65), (0, v11), (0, v12), (0, v1), (0, v3)] μ (fun r10 μ9 => (0 ≤ r10 → (∀ x13, x13 = w64 (v7 + 0) → (0 ≤ r10 → (∀ x19, x19 = w64 (v9 + (w64 ((y_likely μ0 v11 v12) * r10))) → hV wX6_findRows μ0 mX6_findRows d K 99 [(0, 2, 65), (1, 0, v1), (2, 0, v2), (3, 0, v3), (4, 0, v4), (5, 0, v5), (7, 1, x13), (9, 1, x19), (11, 0, v11), (12, 0, w32 (v12 + 1))] [] μ9)) ∧ (r10 < 0 → (∀ x20, x20 = w64 (v9 + (w64 ((y_likely μ0 v11 v12) * (w32 (v1 + 1))))) → hV wX6_findRows μ0 mX6_findRows d K 99 [(0, 2, 65), (1, 0, v1), (2, 0, v2), (3, 0, v3), (4, 0, v4), (5, 0, v5), (7, 1, x13), (9, 1, x20), (11, 0, v11), (12, 0, w32 (v12 + 1))] [] μ9)))) ∧ (r10 < 0 → (∀ x24, x24 = w64 (v7 + (y_likely μ0 v11 v12)) → (0 ≤ r10 → (∀ x30, x30 = w64 (v9 + (w64 ((y_likely μ0 v11 v12) * r10))) → hV wX6_findRows μ0 mX6_findRows d K 99 [(0, 2, 65), (1, 0, v1), (2, 0, v2), (3, 0, v3), (4, 0, v4), (5, 0, v5), (7, 1, x24), (9, 1, x30), (11, 0, v11), (12, 0, w32 (v12 + 1))] [] μ9)) ∧ (r10 < 0 → (∀ x31, x31 = w64 (v9 + (w64 ((y_likely μ0 v11 v12) * (w32 (v1 + 1))))) → hV wX6_findRows μ0 mX6_findRows d K 99 [(0, 2, 65), (1, 0, v1), (2, 0, v2), (3, 0, v3), (4, 0, v4), (5, 0, v5), (7, 1, x24), (9, 1, x31), (11, 0, v11), (12, 0, w32 (v12 + 1))] [] μ9)))))) ∧ (y_likely μ0 v11 v12 = 0 → (∀ x34, x34 = w64 (v7 + 0) → (∀ x40, x40 = w64 (v9 + (w64 ((y_likely μ0 v11 v12) * 0))) → hV wX6_findRows μ0 mX6_findRows d K 99 [(0, 2, 65), (1, 0, v1), (2, 0, v2), (3, 0, v3), (4, 0, v4), (5, 0, v5), (7, 1, x34), (9, 1, x40), (11, 0, v11), (12, 0, w32 (v12 + 1))] [] μ)))))) :
    hV wX6_findRows μ0 mX6_findRows d K 99 [(0, 2, 65), (1, 0, v1), (2, 0, v2), (3, 0, v3), (4, 0, v4), (5, 0, v5), (7, 1, v7), (9, 1, v9), (11, 0, v11), (12, 0, v12)] [] μ := by
  refine g_iload (q := 9) dX6_findRows_99 rfl ?_
  refine g_aload_n (q := 0) dX6_findRows_101 rfl rfl ?_
  refine g_getC (x := tm_v μ0 65 20) 0 dX6_findRows_102 fX6_326 rfl (by decide) (sk_65 hs.S) (hs.v (tWs_noF rfl)) ?_
  refine g_icmp_ge (tgt := 193) dX6_findRows_105 (by decide) (fun c1 => ?_) (fun c2 => ?_)
  · have h := h.1 c1
    refine g_iinc (q := 8) dX6_findRows_193 (by decide) rfl [1, 2, 3, 4, 5, 6, 7, 8, 0, 9] rfl ?_
    refine g_goto (tgt := 87) dX6_findRows_196 (by decide) ?_
    exact g_less [0, 1, 2, 3, 4, 5, 6, 7, 8] rfl h
  · have h := h.2 c2
    refine g_aload_n (q := 0) dX6_findRows_108 rfl rfl ?_
    refine g_iload (q := 8) dX6_findRows_109 rfl ?_
    refine g_iload (q := 9) dX6_findRows_111 rfl ?_
    obtain ⟨c3, h⟩ := h
    refine g_callV2 dX6_findRows_113 kX6_likely q1704 q1706 qs92 (ci := 6) rfl (by decide) rfl (by omega) (by decide) (sk_65 hs.S) (Nat.le_of_ble_eq_true rfl) (Nat.le_refl _) (Nat.le_refl _) (t_pL hs (pX6_likelyF hs (tWs_T rfl) c3) ?_)
    refine g_lconst0 dX6_findRows_116 ?_
    refine g_lcmp_ne (tgt := 125) dX6_findRows_117 dX6_findRows_118 (by decide) (fun c7 => ?_) (fun c8 => ?_)
    · have h := h.1 c7
      refine g_aload_n (q := 0) dX6_findRows_125 rfl rfl ?_
      refine g_iload (q := 8) dX6_findRows_126 rfl ?_
      refine g_iload (q := 9) dX6_findRows_128 rfl ?_
      refine g_iload_n (q := 1) dX6_findRows_130 rfl rfl ?_
      refine g_iload_n (q := 3) dX6_findRows_131 rfl rfl ?_
      refine g_callV4 dX6_findRows_132 kX6_byRows q1733 q1735 qs95 (ci := 6) rfl (by decide) rfl (by omega) (by decide) (sk_65 hs.S) (Nat.le_of_ble_eq_true rfl) (Nat.le_refl _) (Nat.le_refl _) (t_kI hs (tWs_sub rfl) h (fun r10 μ9 hs h => ?_))
      refine g_istore (L' := [(0, 2, 65), (1, 0, v1), (2, 0, v2), (3, 0, v3), (4, 0, v4), (5, 0, v5), (7, 1, v7), (9, 1, v9), (11, 0, v11), (12, 0, v12), (13, 0, r10)]) dX6_findRows_135 (by decide) [1, 2, 3, 4, 5, 6, 7, 8, 9, 10, 0] rfl ?_
      refine g_lload (q := 6) dX6_findRows_137 rfl ?_
      refine g_iload (q := 10) dX6_findRows_139 rfl ?_
      refine g_if_ge (tgt := 155) dX6_findRows_141 (by decide) (fun c11 => ?_) (fun c12 => ?_)
      · have h := h.1 c11
        refine g_lconst0 dX6_findRows_155 ?_
        refine g_ladd dX6_findRows_156 ?_
        refine g_lstoreN (fun z => [(0, 2, 65), (1, 0, v1), (2, 0, v2), (3, 0, v3), (4, 0, v4), (5, 0, v5), (7, 1, z), (9, 1, v9), (11, 0, v11), (12, 0, v12), (13, 0, r10)]) dX6_findRows_157 (by decide) [1, 2, 3, 4, 5, 6, 0, 7, 8, 9, 10] (fun _ => rfl) (fun x13 ex13 => ?_)
        have h := h x13 ex13
        refine g_lload (q := 7) dX6_findRows_159 rfl ?_
        refine g_aload_n (q := 0) dX6_findRows_161 rfl rfl ?_
        refine g_iload (q := 8) dX6_findRows_162 rfl ?_
        refine g_iload (q := 9) dX6_findRows_164 rfl ?_
        refine g_callV2 dX6_findRows_166 kX6_likely q1704 q1706 qs92 (ci := 6) rfl (by decide) rfl (by omega) (by decide) (sk_65 hs.S) (Nat.le_of_ble_eq_true rfl) (Nat.le_refl _) (Nat.le_refl _) (t_pL hs (pX6_likelyF hs (tWs_T rfl) c3) ?_)
        refine g_iload (q := 10) dX6_findRows_169 rfl ?_
        refine g_if_ge (tgt := 180) dX6_findRows_171 (by decide) (fun c17 => ?_) (fun c18 => ?_)
        · have h := h.1 c17
          refine g_iload (q := 10) dX6_findRows_180 rfl ?_
          refine g_i2l dX6_findRows_182 ?_
          refine g_lmul dX6_findRows_183 ?_
          refine g_ladd dX6_findRows_184 ?_
          refine g_lstoreN (fun z => [(0, 2, 65), (1, 0, v1), (2, 0, v2), (3, 0, v3), (4, 0, v4), (5, 0, v5), (7, 1, x13), (9, 1, z), (11, 0, v11), (12, 0, v12), (13, 0, r10)]) dX6_findRows_185 (by decide) [1, 2, 3, 4, 5, 6, 7, 0, 8, 9, 10] (fun _ => rfl) (fun x19 ex19 => ?_)
          have h := h x19 ex19
          refine g_iinc (q := 9) dX6_findRows_187 (by decide) rfl [1, 2, 3, 4, 5, 6, 7, 8, 9, 0, 10] rfl ?_
          refine g_goto (tgt := 99) dX6_findRows_190 (by decide) ?_
          exact g_less [0, 1, 2, 3, 4, 5, 6, 7, 8, 9] rfl h
        · have h := h.2 c18
          refine g_iload_n (q := 1) dX6_findRows_174 rfl rfl ?_
          refine g_iconst dX6_findRows_175 (by decide) ?_
          refine g_iadd dX6_findRows_176 ?_
          refine g_goto (tgt := 182) dX6_findRows_177 (by decide) ?_
          refine g_i2l dX6_findRows_182 ?_
          refine g_lmul dX6_findRows_183 ?_
          refine g_ladd dX6_findRows_184 ?_
          refine g_lstoreN (fun z => [(0, 2, 65), (1, 0, v1), (2, 0, v2), (3, 0, v3), (4, 0, v4), (5, 0, v5), (7, 1, x13), (9, 1, z), (11, 0, v11), (12, 0, v12), (13, 0, r10)]) dX6_findRows_185 (by decide) [1, 2, 3, 4, 5, 6, 7, 0, 8, 9, 10] (fun _ => rfl) (fun x20 ex20 => ?_)
          have h := h x20 ex20
          refine g_iinc (q := 9) dX6_findRows_187 (by decide) rfl [1, 2, 3, 4, 5, 6, 7, 8, 9, 0, 10] rfl ?_
          refine g_goto (tgt := 99) dX6_findRows_190 (by decide) ?_
          exact g_less [0, 1, 2, 3, 4, 5, 6, 7, 8, 9] rfl h
      · have h := h.2 c12
        refine g_aload_n (q := 0) dX6_findRows_144 rfl rfl ?_
        refine g_iload (q := 8) dX6_findRows_145 rfl ?_
        refine g_iload (q := 9) dX6_findRows_147 rfl ?_
        refine g_callV2 dX6_findRows_149 kX6_likely q1704 q1706 qs92 (ci := 6) rfl (by decide) rfl (by omega) (by decide) (sk_65 hs.S) (Nat.le_of_ble_eq_true rfl) (Nat.le_refl _) (Nat.le_refl _) (t_pL hs (pX6_likelyF hs (tWs_T rfl) c3) ?_)
        refine g_goto (tgt := 156) dX6_findRows_152 (by decide) ?_
        refine g_ladd dX6_findRows_156 ?_
        refine g_lstoreN (fun z => [(0, 2, 65), (1, 0, v1), (2, 0, v2), (3, 0, v3), (4, 0, v4), (5, 0, v5), (7, 1, z), (9, 1, v9), (11, 0, v11), (12, 0, v12), (13, 0, r10)]) dX6_findRows_157 (by decide) [1, 2, 3, 4, 5, 6, 0, 7, 8, 9, 10] (fun _ => rfl) (fun x24 ex24 => ?_)
        have h := h x24 ex24
        refine g_lload (q := 7) dX6_findRows_159 rfl ?_
        refine g_aload_n (q := 0) dX6_findRows_161 rfl rfl ?_
        refine g_iload (q := 8) dX6_findRows_162 rfl ?_
        refine g_iload (q := 9) dX6_findRows_164 rfl ?_
        refine g_callV2 dX6_findRows_166 kX6_likely q1704 q1706 qs92 (ci := 6) rfl (by decide) rfl (by omega) (by decide) (sk_65 hs.S) (Nat.le_of_ble_eq_true rfl) (Nat.le_refl _) (Nat.le_refl _) (t_pL hs (pX6_likelyF hs (tWs_T rfl) c3) ?_)
        refine g_iload (q := 10) dX6_findRows_169 rfl ?_
        refine g_if_ge (tgt := 180) dX6_findRows_171 (by decide) (fun c28 => ?_) (fun c29 => ?_)
        · have h := h.1 c28
          refine g_iload (q := 10) dX6_findRows_180 rfl ?_
          refine g_i2l dX6_findRows_182 ?_
          refine g_lmul dX6_findRows_183 ?_
          refine g_ladd dX6_findRows_184 ?_
          refine g_lstoreN (fun z => [(0, 2, 65), (1, 0, v1), (2, 0, v2), (3, 0, v3), (4, 0, v4), (5, 0, v5), (7, 1, x24), (9, 1, z), (11, 0, v11), (12, 0, v12), (13, 0, r10)]) dX6_findRows_185 (by decide) [1, 2, 3, 4, 5, 6, 7, 0, 8, 9, 10] (fun _ => rfl) (fun x30 ex30 => ?_)
          have h := h x30 ex30
          refine g_iinc (q := 9) dX6_findRows_187 (by decide) rfl [1, 2, 3, 4, 5, 6, 7, 8, 9, 0, 10] rfl ?_
          refine g_goto (tgt := 99) dX6_findRows_190 (by decide) ?_
          exact g_less [0, 1, 2, 3, 4, 5, 6, 7, 8, 9] rfl h
        · have h := h.2 c29
          refine g_iload_n (q := 1) dX6_findRows_174 rfl rfl ?_
          refine g_iconst dX6_findRows_175 (by decide) ?_
          refine g_iadd dX6_findRows_176 ?_
          refine g_goto (tgt := 182) dX6_findRows_177 (by decide) ?_
          refine g_i2l dX6_findRows_182 ?_
          refine g_lmul dX6_findRows_183 ?_
          refine g_ladd dX6_findRows_184 ?_
          refine g_lstoreN (fun z => [(0, 2, 65), (1, 0, v1), (2, 0, v2), (3, 0, v3), (4, 0, v4), (5, 0, v5), (7, 1, x24), (9, 1, z), (11, 0, v11), (12, 0, v12), (13, 0, r10)]) dX6_findRows_185 (by decide) [1, 2, 3, 4, 5, 6, 7, 0, 8, 9, 10] (fun _ => rfl) (fun x31 ex31 => ?_)
          have h := h x31 ex31
          refine g_iinc (q := 9) dX6_findRows_187 (by decide) rfl [1, 2, 3, 4, 5, 6, 7, 8, 9, 0, 10] rfl ?_
          refine g_goto (tgt := 99) dX6_findRows_190 (by decide) ?_
          exact g_less [0, 1, 2, 3, 4, 5, 6, 7, 8, 9] rfl h
    · have h := h.2 c8
      refine g_iconst dX6_findRows_121 (by decide) ?_
      refine g_goto (tgt := 135) dX6_findRows_122 (by decide) ?_
      refine g_istore (L' := [(0, 2, 65), (1, 0, v1), (2, 0, v2), (3, 0, v3), (4, 0, v4), (5, 0, v5), (7, 1, v7), (9, 1, v9), (11, 0, v11), (12, 0, v12), (13, 0, 0)]) dX6_findRows_135 (by decide) [1, 2, 3, 4, 5, 6, 7, 8, 9, 10, 0] rfl ?_
      refine g_lload (q := 6) dX6_findRows_137 rfl ?_
      refine g_iload (q := 10) dX6_findRows_139 rfl ?_
      refine g_if_ge (tgt := 155) dX6_findRows_141 (by decide) (fun c32 => ?_) (fun c33 => ?_)
      · refine g_lconst0 dX6_findRows_155 ?_
        refine g_ladd dX6_findRows_156 ?_
        refine g_lstoreN (fun z => [(0, 2, 65), (1, 0, v1), (2, 0, v2), (3, 0, v3), (4, 0, v4), (5, 0, v5), (7, 1, z), (9, 1, v9), (11, 0, v11), (12, 0, v12), (13, 0, 0)]) dX6_findRows_157 (by decide) [1, 2, 3, 4, 5, 6, 0, 7, 8, 9, 10] (fun _ => rfl) (fun x34 ex34 => ?_)
        have h := h x34 ex34
        refine g_lload (q := 7) dX6_findRows_159 rfl ?_
        refine g_aload_n (q := 0) dX6_findRows_161 rfl rfl ?_
        refine g_iload (q := 8) dX6_findRows_162 rfl ?_
        refine g_iload (q := 9) dX6_findRows_164 rfl ?_
        refine g_callV2 dX6_findRows_166 kX6_likely q1704 q1706 qs92 (ci := 6) rfl (by decide) rfl (by omega) (by decide) (sk_65 hs.S) (Nat.le_of_ble_eq_true rfl) (Nat.le_refl _) (Nat.le_refl _) (t_pL hs (pX6_likelyF hs (tWs_T rfl) c3) ?_)
        refine g_iload (q := 10) dX6_findRows_169 rfl ?_
        refine g_if_ge (tgt := 180) dX6_findRows_171 (by decide) (fun c38 => ?_) (fun c39 => ?_)
        · refine g_iload (q := 10) dX6_findRows_180 rfl ?_
          refine g_i2l dX6_findRows_182 ?_
          refine g_lmul dX6_findRows_183 ?_
          refine g_ladd dX6_findRows_184 ?_
          refine g_lstoreN (fun z => [(0, 2, 65), (1, 0, v1), (2, 0, v2), (3, 0, v3), (4, 0, v4), (5, 0, v5), (7, 1, x34), (9, 1, z), (11, 0, v11), (12, 0, v12), (13, 0, 0)]) dX6_findRows_185 (by decide) [1, 2, 3, 4, 5, 6, 7, 0, 8, 9, 10] (fun _ => rfl) (fun x40 ex40 => ?_)
          have h := h x40 ex40
          refine g_iinc (q := 9) dX6_findRows_187 (by decide) rfl [1, 2, 3, 4, 5, 6, 7, 8, 9, 0, 10] rfl ?_
          refine g_goto (tgt := 99) dX6_findRows_190 (by decide) ?_
          exact g_less [0, 1, 2, 3, 4, 5, 6, 7, 8, 9] rfl h
        · exact absurd c39 (by decide)
      · exact absurd c33 (by decide)
theorem uX6_findRows_256 {d : Nat} {μ0 μ : tm_M} {K : tm_M → Prop} {v1 v2 v3 v4 v5 v11 : Int} (hs : tFr wX6_findRows μ0 μ)
    (h : (v2 ≤ v11 → hV wX6_findRows μ0 mX6_findRows d K 34 [(0, 2, 65), (1, 0, v1), (2, 0, v2), (3, 0, v3), (4, 0, v4), (5, 0, w32 (v5 + 1))] [] μ) ∧ (v11 < v2 → (v3 = 0 → (0 ≤ v11 ∧ v11 < 6) ∧ ((∀ μ6, μ6 = tm_w μ 90 v11 (tm_v μ 92 v11) → hV wX6_findRows μ0 mX6_findRows d K 256 [(0, 2, 65), (1, 0, v1), (2, 0, v2), (3, 0, v3), (4, 0, v4), (5, 0, v5), (11, 0, w32 (v11 + 1))] [] μ6))) ∧ (v3 ≠ 0 → (0 ≤ v11 ∧ v11 < 6) ∧ ((0 ≤ v11 ∧ v11 < 5) ∧ ((∀ μ9, μ9 = tm_w μ 91 v11 (tm_v μ 92 v11) → hV wX6_findRows μ0 mX6_findRows d K 256 [(0, 2, 65), (1, 0, v1), (2, 0, v2), (3, 0, v3), (4, 0, v4), (5, 0, v5), (11, 0, w32 (v11 + 1))] [] μ9)))))) :
    hV wX6_findRows μ0 mX6_findRows d K 256 [(0, 2, 65), (1, 0, v1), (2, 0, v2), (3, 0, v3), (4, 0, v4), (5, 0, v5), (11, 0, v11)] [] μ := by
  refine g_iload (q := 6) dX6_findRows_256 rfl ?_
  refine g_iload_n (q := 2) dX6_findRows_258 rfl rfl ?_
  refine g_icmp_ge (tgt := 303) dX6_findRows_259 (by decide) (fun c1 => ?_) (fun c2 => ?_)
  · have h := h.1 c1
    refine g_iinc (q := 5) dX6_findRows_303 (by decide) rfl [1, 2, 3, 4, 5, 0, 6] rfl ?_
    refine g_goto (tgt := 34) dX6_findRows_306 (by decide) ?_
    exact g_less [0, 1, 2, 3, 4, 5] rfl h
  · have h := h.2 c2
    refine g_iload_n (q := 3) dX6_findRows_262 rfl rfl ?_
    refine g_if_eq (tgt := 283) dX6_findRows_263 (by decide) (fun c3 => ?_) (fun c4 => ?_)
    · have h := h.1 c3
      refine g_aload_n (q := 0) dX6_findRows_283 rfl rfl ?_
      refine g_getC (x := 90) 2 dX6_findRows_284 fX6_99 rfl (by decide) (sk_65 hs.S) (sv_65_55 hs.S) ?_
      refine g_iload (q := 6) dX6_findRows_287 rfl ?_
      refine g_aload_n (q := 0) dX6_findRows_289 rfl rfl ?_
      refine g_getC (x := 92) 2 dX6_findRows_290 fX6_105 rfl (by decide) (sk_65 hs.S) (sv_65_57 hs.S) ?_
      refine g_iload (q := 6) dX6_findRows_293 rfl ?_
      obtain ⟨c5, h⟩ := h
      refine g_iaload dX6_findRows_295 (by decide) (sk_92 hs.S) c5.1 (t_lt (sn_92 hs.S) c5.2) ?_
      refine g_iastore dX6_findRows_296 (by decide) (sk_90 hs.S) c5.1 (t_lt (sn_90 hs.S) c5.2) (p_w hs sf_90 (tWs_in _ rfl) fun μ6 eμ6 hs => ?_)
      have h := h μ6 eμ6
      refine g_iinc (q := 6) dX6_findRows_297 (by decide) rfl [1, 2, 3, 4, 5, 6, 0] rfl ?_
      refine g_goto (tgt := 256) dX6_findRows_300 (by decide) ?_
      exact h
    · have h := h.2 c4
      refine g_aload_n (q := 0) dX6_findRows_266 rfl rfl ?_
      refine g_getC (x := 91) 2 dX6_findRows_267 fX6_102 rfl (by decide) (sk_65 hs.S) (sv_65_56 hs.S) ?_
      refine g_iload (q := 6) dX6_findRows_270 rfl ?_
      refine g_aload_n (q := 0) dX6_findRows_272 rfl rfl ?_
      refine g_getC (x := 92) 2 dX6_findRows_273 fX6_105 rfl (by decide) (sk_65 hs.S) (sv_65_57 hs.S) ?_
      refine g_iload (q := 6) dX6_findRows_276 rfl ?_
      obtain ⟨c7, h⟩ := h
      refine g_iaload dX6_findRows_278 (by decide) (sk_92 hs.S) c7.1 (t_lt (sn_92 hs.S) c7.2) ?_
      obtain ⟨c8, h⟩ := h
      refine g_iastore dX6_findRows_279 (by decide) (sk_91 hs.S) c8.1 (t_lt (sn_91 hs.S) c8.2) (p_w hs sf_91 (tWs_in _ rfl) fun μ9 eμ9 hs => ?_)
      have h := h μ9 eμ9
      refine g_goto (tgt := 297) dX6_findRows_280 (by decide) ?_
      refine g_iinc (q := 6) dX6_findRows_297 (by decide) rfl [1, 2, 3, 4, 5, 6, 0] rfl ?_
      refine g_goto (tgt := 256) dX6_findRows_300 (by decide) ?_
      exact h
theorem uX6_agreed_0 {d : Nat} {μ0 μ : tm_M} {K : Int → tm_M → Prop} {v1 : Int} (hd : 2 ≤ d) (hs : tFr wX6_agreed μ0 μ)
    (h : (∀ μ1, μ1 = tm_w μ 65 1 0 → (∀ μ2, μ2 = tm_w μ1 65 0 0 → (1 ≤ v1 ∧ v1 ≤ 3 → (y_W μ0) ∧ ((y_all μ0 ≠ 0 → cV wX6_findRows mX6_findRows (d - 1) [(2, 65), (0, v1), (0, w32 (2 * v1)), (0, 0)] μ2 (fun μ14 => (∀ μ15, μ15 = tm_w μ14 65 52 v1 → cV wX6_fraction mX6_fraction (d - 1) [(2, 65), (1, tm_v μ15 65 64), (1, y_all μ0)] μ15 (fun μ19 => K (w32 (tm_v μ19 65 63)) μ19)))) ∧ (y_all μ0 = 0 → (∀ μ20, μ20 = tm_w μ2 65 0 9 → K (-1) μ20)))) ∧ (¬ (1 ≤ v1 ∧ v1 ≤ 3) → (∀ μ23, μ23 = tm_w μ2 65 0 5 → K (-1) μ23))))) :
    hI wX6_agreed μ0 mX6_agreed d K 0 [(0, 2, 65), (1, 0, v1)] [] μ := by
  refine g_aload_n (q := 0) dX6_agreed_0 rfl rfl ?_
  refine g_iconst dX6_agreed_1 (by decide) ?_
  refine g_put dX6_agreed_2 fX6_144 rfl (by decide) (sk_65 hs.S) (fun e => absurd e (by decide)) (p_wj hs (by decide) (tWs_inF rfl) fun μ1 eμ1 hs => ?_)
  have h := h μ1 eμ1
  refine g_aload_n (q := 0) dX6_agreed_5 rfl rfl ?_
  refine g_iconst dX6_agreed_6 (by decide) ?_
  refine g_put dX6_agreed_7 fX6_147 rfl (by decide) (sk_65 hs.S) (fun e => absurd e (by decide)) (p_wj hs (by decide) (tWs_inF rfl) fun μ2 eμ2 hs => ?_)
  have h := h μ2 eμ2
  refine g_iload_n (q := 1) dX6_agreed_10 rfl rfl ?_
  refine g_i2l dX6_agreed_11 ?_
  refine g_lconst1 dX6_agreed_12 ?_
  refine g_ldc2 (v := 3) (by decide) q1691c dX6_agreed_13 ?_
  refine g_callS3 dX6_agreed_16 kX6_isIn q1563 q1564 rfl (by omega) (Nat.le_of_ble_eq_true rfl) (Nat.le_refl _) (Nat.le_refl _) (t_pI hs (pX6_isIn hs.S) ?_)
  refine g_if_ne (tgt := 28) dX6_agreed_19 (by decide) (fun c6 => ?_) (fun c7 => ?_)
  · have h := h.1 (b2i_1.mp c6)
    refine g_aload_n (q := 0) dX6_agreed_28 rfl rfl ?_
    obtain ⟨c8, h⟩ := h
    refine g_callV0 dX6_agreed_29 kX6_allLikely q1700 q1702 qs91 (ci := 6) rfl (by decide) rfl (by omega) (by decide) (sk_65 hs.S) (Nat.le_of_ble_eq_true rfl) (Nat.le_refl _) (Nat.le_refl _) (t_pL hs (pX6_allLikelyF (by omega) hs (tWs_T rfl) c8) ?_)
    refine g_lconst0 dX6_agreed_32 ?_
    refine g_lcmp_ne (tgt := 44) dX6_agreed_33 dX6_agreed_34 (by decide) (fun c12 => ?_) (fun c13 => ?_)
    · have h := h.1 c12
      refine g_aload_n (q := 0) dX6_agreed_44 rfl rfl ?_
      refine g_iload_n (q := 1) dX6_agreed_45 rfl rfl ?_
      refine g_iconst dX6_agreed_46 (by decide) ?_
      refine g_iload_n (q := 1) dX6_agreed_47 rfl rfl ?_
      refine g_imul dX6_agreed_48 ?_
      refine g_iconst dX6_agreed_49 (by decide) ?_
      refine g_callV3 dX6_agreed_50 kX6_findRows q1729 q1731 qs94 (ci := 6) rfl (by decide) rfl (by omega) (by decide) (sk_65 hs.S) (Nat.le_of_ble_eq_true rfl) (Nat.le_refl _) (Nat.le_refl _) (t_kV hs (tWs_sub rfl) h (fun μ14 hs h => ?_))
      refine g_aload_n (q := 0) dX6_agreed_53 rfl rfl ?_
      refine g_iload_n (q := 1) dX6_agreed_54 rfl rfl ?_
      refine g_put dX6_agreed_55 fX6_438 rfl (by decide) (sk_65 hs.S) (fun e => absurd e (by decide)) (p_wj hs (by decide) (tWs_inF rfl) fun μ15 eμ15 hs => ?_)
      have h := h μ15 eμ15
      refine g_aload_n (q := 0) dX6_agreed_58 rfl rfl ?_
      refine g_aload_n (q := 0) dX6_agreed_59 rfl rfl ?_
      refine g_get 1 dX6_agreed_60 fX6_431 rfl (by decide) (sk_65 hs.S) ?_
      refine g_aload_n (q := 0) dX6_agreed_63 rfl rfl ?_
      refine g_callV0 dX6_agreed_64 kX6_allLikely q1700 q1702 qs91 (ci := 6) rfl (by decide) rfl (by omega) (by decide) (sk_65 hs.S) (Nat.le_of_ble_eq_true rfl) (Nat.le_refl _) (Nat.le_refl _) (t_pL hs (pX6_allLikelyF (by omega) hs (tWs_T rfl) c8) ?_)
      refine g_callV2 dX6_agreed_67 kX6_fraction q1708 q1710 qs93 (ci := 6) rfl (by decide) rfl (by omega) (by decide) (sk_65 hs.S) (Nat.le_of_ble_eq_true rfl) (Nat.le_refl _) (Nat.le_refl _) (t_kV hs (tWs_sub rfl) h (fun μ19 hs h => ?_))
      refine g_aload_n (q := 0) dX6_agreed_70 rfl rfl ?_
      refine g_get 1 dX6_agreed_71 fX6_425 rfl (by decide) (sk_65 hs.S) ?_
      refine g_l2i dX6_agreed_74 ?_
      exact g_iret dX6_agreed_75 rfl (Nat.le_refl _) (Nat.le_refl _) ⟨_, rfl, hs, h⟩
    · have h := h.2 c13
      refine g_aload_n (q := 0) dX6_agreed_37 rfl rfl ?_
      refine g_bipush dX6_agreed_38 ⟨by decide, by decide, rfl⟩ ?_
      refine g_callV1 dX6_agreed_40 kX6_refuse q1484 q1486 qs53 (ci := 6) rfl (by decide) rfl (by omega) (by decide) (sk_65 hs.S) (Nat.le_of_ble_eq_true rfl) (Nat.le_refl _) (Nat.le_refl _) (t_kI hs (tWs_sub rfl) (pX6_refuse hs.S) (fun r22 μ20 hs e21 => ?_))
      obtain ⟨rfl, e21⟩ := e21
      have h := h μ20 e21
      exact g_iret dX6_agreed_43 rfl (Nat.le_refl _) (Nat.le_refl _) ⟨_, rfl, hs, h⟩
  · have h := h.2 (b2i_0.mp c7)
    refine g_aload_n (q := 0) dX6_agreed_22 rfl rfl ?_
    refine g_iconst dX6_agreed_23 (by decide) ?_
    refine g_callV1 dX6_agreed_24 kX6_refuse q1484 q1486 qs53 (ci := 6) rfl (by decide) rfl (by omega) (by decide) (sk_65 hs.S) (Nat.le_of_ble_eq_true rfl) (Nat.le_refl _) (Nat.le_refl _) (t_kI hs (tWs_sub rfl) (pX6_refuse hs.S) (fun r25 μ23 hs e24 => ?_))
    obtain ⟨rfl, e24⟩ := e24
    have h := h μ23 e24
    exact g_iret dX6_agreed_27 rfl (Nat.le_refl _) (Nat.le_refl _) ⟨_, rfl, hs, h⟩
theorem uX6_alike_0 {d : Nat} {μ0 μ : tm_M} {K : Int → tm_M → Prop} {v1 : Int} (hd : 2 ≤ d) (hs : tFr wX6_alike μ0 μ)
    (h : (∀ μ1, μ1 = tm_w μ 65 1 0 → (∀ μ2, μ2 = tm_w μ1 65 0 0 → (1 ≤ v1 ∧ v1 ≤ 5 → (y_W μ0) ∧ ((y_all μ0 ≠ 0 → cV wX6_findRows mX6_findRows (d - 1) [(2, 65), (0, v1), (0, v1), (0, 1)] μ2 (fun μ14 => (∀ μ15, μ15 = tm_w μ14 65 53 v1 → cV wX6_fraction mX6_fraction (d - 1) [(2, 65), (1, tm_v μ15 65 64), (1, y_all μ0)] μ15 (fun μ19 => K (w32 (tm_v μ19 65 63)) μ19)))) ∧ (y_all μ0 = 0 → (∀ μ20, μ20 = tm_w μ2 65 0 9 → K (-1) μ20)))) ∧ (¬ (1 ≤ v1 ∧ v1 ≤ 5) → (∀ μ23, μ23 = tm_w μ2 65 0 5 → K (-1) μ23))))) :
    hI wX6_alike μ0 mX6_alike d K 0 [(0, 2, 65), (1, 0, v1)] [] μ := by
  refine g_aload_n (q := 0) dX6_alike_0 rfl rfl ?_
  refine g_iconst dX6_alike_1 (by decide) ?_
  refine g_put dX6_alike_2 fX6_144 rfl (by decide) (sk_65 hs.S) (fun e => absurd e (by decide)) (p_wj hs (by decide) (tWs_inF rfl) fun μ1 eμ1 hs => ?_)
  have h := h μ1 eμ1
  refine g_aload_n (q := 0) dX6_alike_5 rfl rfl ?_
  refine g_iconst dX6_alike_6 (by decide) ?_
  refine g_put dX6_alike_7 fX6_147 rfl (by decide) (sk_65 hs.S) (fun e => absurd e (by decide)) (p_wj hs (by decide) (tWs_inF rfl) fun μ2 eμ2 hs => ?_)
  have h := h μ2 eμ2
  refine g_iload_n (q := 1) dX6_alike_10 rfl rfl ?_
  refine g_i2l dX6_alike_11 ?_
  refine g_lconst1 dX6_alike_12 ?_
  refine g_ldc2 (v := 5) (by decide) q1602c dX6_alike_13 ?_
  refine g_callS3 dX6_alike_16 kX6_isIn q1563 q1564 rfl (by omega) (Nat.le_of_ble_eq_true rfl) (Nat.le_refl _) (Nat.le_refl _) (t_pI hs (pX6_isIn hs.S) ?_)
  refine g_if_ne (tgt := 28) dX6_alike_19 (by decide) (fun c6 => ?_) (fun c7 => ?_)
  · have h := h.1 (b2i_1.mp c6)
    refine g_aload_n (q := 0) dX6_alike_28 rfl rfl ?_
    obtain ⟨c8, h⟩ := h
    refine g_callV0 dX6_alike_29 kX6_allLikely q1700 q1702 qs91 (ci := 6) rfl (by decide) rfl (by omega) (by decide) (sk_65 hs.S) (Nat.le_of_ble_eq_true rfl) (Nat.le_refl _) (Nat.le_refl _) (t_pL hs (pX6_allLikelyF (by omega) hs (tWs_T rfl) c8) ?_)
    refine g_lconst0 dX6_alike_32 ?_
    refine g_lcmp_ne (tgt := 44) dX6_alike_33 dX6_alike_34 (by decide) (fun c12 => ?_) (fun c13 => ?_)
    · have h := h.1 c12
      refine g_aload_n (q := 0) dX6_alike_44 rfl rfl ?_
      refine g_iload_n (q := 1) dX6_alike_45 rfl rfl ?_
      refine g_iload_n (q := 1) dX6_alike_46 rfl rfl ?_
      refine g_iconst dX6_alike_47 (by decide) ?_
      refine g_callV3 dX6_alike_48 kX6_findRows q1729 q1731 qs94 (ci := 6) rfl (by decide) rfl (by omega) (by decide) (sk_65 hs.S) (Nat.le_of_ble_eq_true rfl) (Nat.le_refl _) (Nat.le_refl _) (t_kV hs (tWs_sub rfl) h (fun μ14 hs h => ?_))
      refine g_aload_n (q := 0) dX6_alike_51 rfl rfl ?_
      refine g_iload_n (q := 1) dX6_alike_52 rfl rfl ?_
      refine g_put dX6_alike_53 fX6_441 rfl (by decide) (sk_65 hs.S) (fun e => absurd e (by decide)) (p_wj hs (by decide) (tWs_inF rfl) fun μ15 eμ15 hs => ?_)
      have h := h μ15 eμ15
      refine g_aload_n (q := 0) dX6_alike_56 rfl rfl ?_
      refine g_aload_n (q := 0) dX6_alike_57 rfl rfl ?_
      refine g_get 1 dX6_alike_58 fX6_431 rfl (by decide) (sk_65 hs.S) ?_
      refine g_aload_n (q := 0) dX6_alike_61 rfl rfl ?_
      refine g_callV0 dX6_alike_62 kX6_allLikely q1700 q1702 qs91 (ci := 6) rfl (by decide) rfl (by omega) (by decide) (sk_65 hs.S) (Nat.le_of_ble_eq_true rfl) (Nat.le_refl _) (Nat.le_refl _) (t_pL hs (pX6_allLikelyF (by omega) hs (tWs_T rfl) c8) ?_)
      refine g_callV2 dX6_alike_65 kX6_fraction q1708 q1710 qs93 (ci := 6) rfl (by decide) rfl (by omega) (by decide) (sk_65 hs.S) (Nat.le_of_ble_eq_true rfl) (Nat.le_refl _) (Nat.le_refl _) (t_kV hs (tWs_sub rfl) h (fun μ19 hs h => ?_))
      refine g_aload_n (q := 0) dX6_alike_68 rfl rfl ?_
      refine g_get 1 dX6_alike_69 fX6_425 rfl (by decide) (sk_65 hs.S) ?_
      refine g_l2i dX6_alike_72 ?_
      exact g_iret dX6_alike_73 rfl (Nat.le_refl _) (Nat.le_refl _) ⟨_, rfl, hs, h⟩
    · have h := h.2 c13
      refine g_aload_n (q := 0) dX6_alike_37 rfl rfl ?_
      refine g_bipush dX6_alike_38 ⟨by decide, by decide, rfl⟩ ?_
      refine g_callV1 dX6_alike_40 kX6_refuse q1484 q1486 qs53 (ci := 6) rfl (by decide) rfl (by omega) (by decide) (sk_65 hs.S) (Nat.le_of_ble_eq_true rfl) (Nat.le_refl _) (Nat.le_refl _) (t_kI hs (tWs_sub rfl) (pX6_refuse hs.S) (fun r22 μ20 hs e21 => ?_))
      obtain ⟨rfl, e21⟩ := e21
      have h := h μ20 e21
      exact g_iret dX6_alike_43 rfl (Nat.le_refl _) (Nat.le_refl _) ⟨_, rfl, hs, h⟩
  · have h := h.2 (b2i_0.mp c7)
    refine g_aload_n (q := 0) dX6_alike_22 rfl rfl ?_
    refine g_iconst dX6_alike_23 (by decide) ?_
    refine g_callV1 dX6_alike_24 kX6_refuse q1484 q1486 qs53 (ci := 6) rfl (by decide) rfl (by omega) (by decide) (sk_65 hs.S) (Nat.le_of_ble_eq_true rfl) (Nat.le_refl _) (Nat.le_refl _) (t_kI hs (tWs_sub rfl) (pX6_refuse hs.S) (fun r25 μ23 hs e24 => ?_))
    obtain ⟨rfl, e24⟩ := e24
    have h := h μ23 e24
    exact g_iret dX6_alike_27 rfl (Nat.le_refl _) (Nat.le_refl _) ⟨_, rfl, hs, h⟩
