theorem uX6_isCorner_0 {d : Nat} {μ0 μ : tm_M} {K : Int → tm_M → Prop} (hs : tFr wX6_isCorner μ0 μ)
    (h : (tm_v μ0 65 72 ≠ 1 → (tm_v μ0 65 72 ≠ 2 → (∀ x5, x5 = w64 ((w64 ((tm_v μ0 103 0) * (tm_v μ0 103 4))) - (w64 ((tm_v μ0 103 1) * (tm_v μ0 103 3)))) → (∀ x6, x6 = w64 ((w64 ((tm_v μ0 103 2) * (tm_v μ0 103 4))) - (w64 ((tm_v μ0 103 1) * (tm_v μ0 103 5)))) → (∀ x7, x7 = w64 ((w64 ((tm_v μ0 103 0) * (tm_v μ0 103 5))) - (w64 ((tm_v μ0 103 2) * (tm_v μ0 103 3)))) → hI wX6_isCorner μ0 mX6_isCorner d K 129 [(0, 2, 65), (1, 1, x6), (3, 1, x7), (5, 1, x5)] [] μ)))) ∧ (tm_v μ0 65 72 = 2 → (∀ x8, x8 = tm_v μ0 103 0 → (∀ x9, x9 = tm_v μ0 103 2 → hI wX6_isCorner μ0 mX6_isCorner d K 129 [(0, 2, 65), (1, 1, x9), (3, 1, 0), (5, 1, x8)] [] μ)))) ∧ (tm_v μ0 65 72 = 1 → hI wX6_isCorner μ0 mX6_isCorner d K 129 [(0, 2, 65), (1, 1, 1), (3, 1, 0), (5, 1, 1)] [] μ)) :
    hI wX6_isCorner μ0 mX6_isCorner d K 0 [(0, 2, 65)] [] μ := by
  refine g_lconst0 dX6_isCorner_0 ?_
  refine g_lstore_n (L' := [(0, 2, 65), (3, 1, 0)]) dX6_isCorner_1 rfl (by decide) [1, 0] rfl ?_
  refine g_lconst1 dX6_isCorner_2 ?_
  refine g_lstore (L' := [(0, 2, 65), (3, 1, 0), (5, 1, 1)]) dX6_isCorner_3 (by decide) [1, 2, 0] rfl ?_
  refine g_aload_n (q := 0) dX6_isCorner_5 rfl rfl ?_
  refine g_getC (x := tm_v μ0 65 72) 0 dX6_isCorner_6 fX6_477 rfl (by decide) (sk_65 hs.S) (hs.v (tWs_noF rfl)) ?_
  refine g_iconst dX6_isCorner_9 (by decide) ?_
  refine g_icmp_ne (tgt := 18) dX6_isCorner_10 (by decide) (fun c1 => ?_) (fun c2 => ?_)
  · have h := h.1 c1
    refine g_aload_n (q := 0) dX6_isCorner_18 rfl rfl ?_
    refine g_getC (x := tm_v μ0 65 72) 0 dX6_isCorner_19 fX6_477 rfl (by decide) (sk_65 hs.S) (hs.v (tWs_noF rfl)) ?_
    refine g_iconst dX6_isCorner_22 (by decide) ?_
    refine g_icmp_ne (tgt := 44) dX6_isCorner_23 (by decide) (fun c3 => ?_) (fun c4 => ?_)
    · have h := h.1 c3
      refine g_aload_n (q := 0) dX6_isCorner_44 rfl rfl ?_
      refine g_getC (x := 103) 2 dX6_isCorner_45 fX6_141 rfl (by decide) (sk_65 hs.S) (sv_65_75 hs.S) ?_
      refine g_iconst dX6_isCorner_48 (by decide) ?_
      refine g_laloadC (x := tm_v μ0 103 0) dX6_isCorner_49 (by decide) (sk_103 hs.S) (by decide) (t_lt (sn_103 hs.S) (by decide)) (hs.v (tWs_no _ rfl)) ?_
      refine g_aload_n (q := 0) dX6_isCorner_50 rfl rfl ?_
      refine g_getC (x := 103) 2 dX6_isCorner_51 fX6_141 rfl (by decide) (sk_65 hs.S) (sv_65_75 hs.S) ?_
      refine g_iconst dX6_isCorner_54 (by decide) ?_
      refine g_laloadC (x := tm_v μ0 103 4) dX6_isCorner_55 (by decide) (sk_103 hs.S) (by decide) (t_lt (sn_103 hs.S) (by decide)) (hs.v (tWs_no _ rfl)) ?_
      refine g_lmul dX6_isCorner_56 ?_
      refine g_aload_n (q := 0) dX6_isCorner_57 rfl rfl ?_
      refine g_getC (x := 103) 2 dX6_isCorner_58 fX6_141 rfl (by decide) (sk_65 hs.S) (sv_65_75 hs.S) ?_
      refine g_iconst dX6_isCorner_61 (by decide) ?_
      refine g_laloadC (x := tm_v μ0 103 1) dX6_isCorner_62 (by decide) (sk_103 hs.S) (by decide) (t_lt (sn_103 hs.S) (by decide)) (hs.v (tWs_no _ rfl)) ?_
      refine g_aload_n (q := 0) dX6_isCorner_63 rfl rfl ?_
      refine g_getC (x := 103) 2 dX6_isCorner_64 fX6_141 rfl (by decide) (sk_65 hs.S) (sv_65_75 hs.S) ?_
      refine g_iconst dX6_isCorner_67 (by decide) ?_
      refine g_laloadC (x := tm_v μ0 103 3) dX6_isCorner_68 (by decide) (sk_103 hs.S) (by decide) (t_lt (sn_103 hs.S) (by decide)) (hs.v (tWs_no _ rfl)) ?_
      refine g_lmul dX6_isCorner_69 ?_
      refine g_lsub dX6_isCorner_70 ?_
      refine g_lstoreN (fun z => [(0, 2, 65), (3, 1, 0), (5, 1, z)]) dX6_isCorner_71 (by decide) [1, 2, 0] (fun _ => rfl) (fun x5 ex5 => ?_)
      have h := h x5 ex5
      refine g_aload_n (q := 0) dX6_isCorner_73 rfl rfl ?_
      refine g_getC (x := 103) 2 dX6_isCorner_74 fX6_141 rfl (by decide) (sk_65 hs.S) (sv_65_75 hs.S) ?_
      refine g_iconst dX6_isCorner_77 (by decide) ?_
      refine g_laloadC (x := tm_v μ0 103 2) dX6_isCorner_78 (by decide) (sk_103 hs.S) (by decide) (t_lt (sn_103 hs.S) (by decide)) (hs.v (tWs_no _ rfl)) ?_
      refine g_aload_n (q := 0) dX6_isCorner_79 rfl rfl ?_
      refine g_getC (x := 103) 2 dX6_isCorner_80 fX6_141 rfl (by decide) (sk_65 hs.S) (sv_65_75 hs.S) ?_
      refine g_iconst dX6_isCorner_83 (by decide) ?_
      refine g_laloadC (x := tm_v μ0 103 4) dX6_isCorner_84 (by decide) (sk_103 hs.S) (by decide) (t_lt (sn_103 hs.S) (by decide)) (hs.v (tWs_no _ rfl)) ?_
      refine g_lmul dX6_isCorner_85 ?_
      refine g_aload_n (q := 0) dX6_isCorner_86 rfl rfl ?_
      refine g_getC (x := 103) 2 dX6_isCorner_87 fX6_141 rfl (by decide) (sk_65 hs.S) (sv_65_75 hs.S) ?_
      refine g_iconst dX6_isCorner_90 (by decide) ?_
      refine g_laloadC (x := tm_v μ0 103 1) dX6_isCorner_91 (by decide) (sk_103 hs.S) (by decide) (t_lt (sn_103 hs.S) (by decide)) (hs.v (tWs_no _ rfl)) ?_
      refine g_aload_n (q := 0) dX6_isCorner_92 rfl rfl ?_
      refine g_getC (x := 103) 2 dX6_isCorner_93 fX6_141 rfl (by decide) (sk_65 hs.S) (sv_65_75 hs.S) ?_
      refine g_iconst dX6_isCorner_96 (by decide) ?_
      refine g_laloadC (x := tm_v μ0 103 5) dX6_isCorner_97 (by decide) (sk_103 hs.S) (by decide) (t_lt (sn_103 hs.S) (by decide)) (hs.v (tWs_no _ rfl)) ?_
      refine g_lmul dX6_isCorner_98 ?_
      refine g_lsub dX6_isCorner_99 ?_
      refine g_lstore_nN (fun z => [(0, 2, 65), (1, 1, z), (3, 1, 0), (5, 1, x5)]) dX6_isCorner_100 rfl (by decide) [1, 0, 2, 3] (fun _ => rfl) (fun x6 ex6 => ?_)
      have h := h x6 ex6
      refine g_aload_n (q := 0) dX6_isCorner_101 rfl rfl ?_
      refine g_getC (x := 103) 2 dX6_isCorner_102 fX6_141 rfl (by decide) (sk_65 hs.S) (sv_65_75 hs.S) ?_
      refine g_iconst dX6_isCorner_105 (by decide) ?_
      refine g_laloadC (x := tm_v μ0 103 0) dX6_isCorner_106 (by decide) (sk_103 hs.S) (by decide) (t_lt (sn_103 hs.S) (by decide)) (hs.v (tWs_no _ rfl)) ?_
      refine g_aload_n (q := 0) dX6_isCorner_107 rfl rfl ?_
      refine g_getC (x := 103) 2 dX6_isCorner_108 fX6_141 rfl (by decide) (sk_65 hs.S) (sv_65_75 hs.S) ?_
      refine g_iconst dX6_isCorner_111 (by decide) ?_
      refine g_laloadC (x := tm_v μ0 103 5) dX6_isCorner_112 (by decide) (sk_103 hs.S) (by decide) (t_lt (sn_103 hs.S) (by decide)) (hs.v (tWs_no _ rfl)) ?_
      refine g_lmul dX6_isCorner_113 ?_
      refine g_aload_n (q := 0) dX6_isCorner_114 rfl rfl ?_
      refine g_getC (x := 103) 2 dX6_isCorner_115 fX6_141 rfl (by decide) (sk_65 hs.S) (sv_65_75 hs.S) ?_
      refine g_iconst dX6_isCorner_118 (by decide) ?_
      refine g_laloadC (x := tm_v μ0 103 2) dX6_isCorner_119 (by decide) (sk_103 hs.S) (by decide) (t_lt (sn_103 hs.S) (by decide)) (hs.v (tWs_no _ rfl)) ?_
      refine g_aload_n (q := 0) dX6_isCorner_120 rfl rfl ?_
      refine g_getC (x := 103) 2 dX6_isCorner_121 fX6_141 rfl (by decide) (sk_65 hs.S) (sv_65_75 hs.S) ?_
      refine g_iconst dX6_isCorner_124 (by decide) ?_
      refine g_laloadC (x := tm_v μ0 103 3) dX6_isCorner_125 (by decide) (sk_103 hs.S) (by decide) (t_lt (sn_103 hs.S) (by decide)) (hs.v (tWs_no _ rfl)) ?_
      refine g_lmul dX6_isCorner_126 ?_
      refine g_lsub dX6_isCorner_127 ?_
      refine g_lstore_nN (fun z => [(0, 2, 65), (1, 1, x6), (3, 1, z), (5, 1, x5)]) dX6_isCorner_128 rfl (by decide) [1, 2, 0, 3] (fun _ => rfl) (fun x7 ex7 => ?_)
      have h := h x7 ex7
      exact h
    · have h := h.2 c4
      refine g_aload_n (q := 0) dX6_isCorner_26 rfl rfl ?_
      refine g_getC (x := 103) 2 dX6_isCorner_27 fX6_141 rfl (by decide) (sk_65 hs.S) (sv_65_75 hs.S) ?_
      refine g_iconst dX6_isCorner_30 (by decide) ?_
      refine g_laloadC (x := tm_v μ0 103 0) dX6_isCorner_31 (by decide) (sk_103 hs.S) (by decide) (t_lt (sn_103 hs.S) (by decide)) (hs.v (tWs_no _ rfl)) ?_
      refine g_lstoreN (fun z => [(0, 2, 65), (3, 1, 0), (5, 1, z)]) dX6_isCorner_32 (by decide) [1, 2, 0] (fun _ => rfl) (fun x8 ex8 => ?_)
      have h := h x8 ex8
      refine g_aload_n (q := 0) dX6_isCorner_34 rfl rfl ?_
      refine g_getC (x := 103) 2 dX6_isCorner_35 fX6_141 rfl (by decide) (sk_65 hs.S) (sv_65_75 hs.S) ?_
      refine g_iconst dX6_isCorner_38 (by decide) ?_
      refine g_laloadC (x := tm_v μ0 103 2) dX6_isCorner_39 (by decide) (sk_103 hs.S) (by decide) (t_lt (sn_103 hs.S) (by decide)) (hs.v (tWs_no _ rfl)) ?_
      refine g_lstore_nN (fun z => [(0, 2, 65), (1, 1, z), (3, 1, 0), (5, 1, x8)]) dX6_isCorner_40 rfl (by decide) [1, 0, 2, 3] (fun _ => rfl) (fun x9 ex9 => ?_)
      have h := h x9 ex9
      refine g_goto (tgt := 129) dX6_isCorner_41 (by decide) ?_
      exact h
  · have h := h.2 c2
    refine g_lconst1 dX6_isCorner_13 ?_
    refine g_lstore_n (L' := [(0, 2, 65), (1, 1, 1), (3, 1, 0), (5, 1, 1)]) dX6_isCorner_14 rfl (by decide) [1, 0, 2, 3] rfl ?_
    refine g_goto (tgt := 129) dX6_isCorner_15 (by decide) ?_
    exact h
theorem uX6_isCorner_129 {d : Nat} {μ0 μ : tm_M} {K : Int → tm_M → Prop} {v1 v3 v5 : Int} (hs : tFr wX6_isCorner μ0 μ)
    (h : (v5 ≠ 0 → (0 ≤ v5 → hI wX6_isCorner μ0 mX6_isCorner d K 156 [(0, 2, 65), (1, 1, v1), (3, 1, v3), (5, 1, v5)] [] μ) ∧ (v5 < 0 → (∀ x5, x5 = w64 (-v5) → (∀ x6, x6 = w64 (-v1) → (∀ x7, x7 = w64 (-v3) → hI wX6_isCorner μ0 mX6_isCorner d K 156 [(0, 2, 65), (1, 1, x6), (3, 1, x7), (5, 1, x5)] [] μ))))) ∧ (v5 = 0 → K 0 μ)) :
    hI wX6_isCorner μ0 mX6_isCorner d K 129 [(0, 2, 65), (1, 1, v1), (3, 1, v3), (5, 1, v5)] [] μ := by
  refine g_lload (q := 3) dX6_isCorner_129 rfl ?_
  refine g_lconst0 dX6_isCorner_131 ?_
  refine g_lcmp_ne (tgt := 138) dX6_isCorner_132 dX6_isCorner_133 (by decide) (fun c1 => ?_) (fun c2 => ?_)
  · have h := h.1 c1
    refine g_lload (q := 3) dX6_isCorner_138 rfl ?_
    refine g_lconst0 dX6_isCorner_140 ?_
    refine g_lcmp_ge (tgt := 156) dX6_isCorner_141 dX6_isCorner_142 (by decide) (fun c3 => ?_) (fun c4 => ?_)
    · have h := h.1 c3
      exact h
    · have h := h.2 c4
      refine g_lload (q := 3) dX6_isCorner_145 rfl ?_
      refine g_lneg dX6_isCorner_147 ?_
      refine g_lstoreN (fun z => [(0, 2, 65), (1, 1, v1), (3, 1, v3), (5, 1, z)]) dX6_isCorner_148 (by decide) [1, 2, 3, 0] (fun _ => rfl) (fun x5 ex5 => ?_)
      have h := h x5 ex5
      refine g_lload_n (q := 1) dX6_isCorner_150 rfl rfl ?_
      refine g_lneg dX6_isCorner_151 ?_
      refine g_lstore_nN (fun z => [(0, 2, 65), (1, 1, z), (3, 1, v3), (5, 1, x5)]) dX6_isCorner_152 rfl (by decide) [1, 0, 2, 3] (fun _ => rfl) (fun x6 ex6 => ?_)
      have h := h x6 ex6
      refine g_lload_n (q := 2) dX6_isCorner_153 rfl rfl ?_
      refine g_lneg dX6_isCorner_154 ?_
      refine g_lstore_nN (fun z => [(0, 2, 65), (1, 1, x6), (3, 1, z), (5, 1, x5)]) dX6_isCorner_155 rfl (by decide) [1, 2, 0, 3] (fun _ => rfl) (fun x7 ex7 => ?_)
      have h := h x7 ex7
      exact h
  · have h := h.2 c2
    refine g_iconst dX6_isCorner_136 (by decide) ?_
    exact g_zret dX6_isCorner_137 rfl (by decide) (Nat.le_refl _) (Nat.le_refl _) ⟨_, rfl, hs, h⟩
theorem uX6_isCorner_156 {d : Nat} {μ0 μ : tm_M} {K : Int → tm_M → Prop} {v1 v3 v5 : Int} (hd : 2 ≤ d) (hs : tFr wX6_isCorner μ0 μ)
    (h : (-9223372036854775808 < v1 ∧ v1 ≤ 9223372036854775807 ∧ -9223372036854775808 < v3 ∧ v3 ≤ 9223372036854775807) ∧ ((-9223372036854775808 < ((Int.gcd v1 v3 : Int)) ∧ ((Int.gcd v1 v3 : Int)) ≤ 9223372036854775807 ∧ -9223372036854775808 < v5 ∧ v5 ≤ 9223372036854775807) ∧ ((∀ x9, x9 = (Int.gcd ((Int.gcd v1 v3 : Int)) v5 : Int) → (x9 ≠ 0) ∧ ((∀ μ11, μ11 = tm_w μ 102 0 (w64 (v1.tdiv x9)) → (x9 ≠ 0) ∧ ((∀ μ13, μ13 = tm_w μ11 102 1 (w64 (v3.tdiv x9)) → (∀ μ14, μ14 = tm_w μ13 102 2 0 → (x9 ≠ 0) ∧ ((∀ μ16, μ16 = tm_w μ14 65 76 (w64 (v5.tdiv x9)) → (tm_v μ0 65 72 ≤ 1 → hI wX6_isCorner μ0 mX6_isCorner d K 253 [(0, 2, 65)] [] μ16) ∧ (1 < tm_v μ0 65 72 → (tm_v μ0 65 72 ≠ 3 → (0 ≤ w32 ((tm_v μ0 65 72) - 1) ∧ w32 ((tm_v μ0 65 72) - 1) < 3) ∧ ((∀ μ22, μ22 = tm_w μ16 102 (w32 ((tm_v μ0 65 72) - 1)) (w64 ((w64 ((tm_v μ16 65 76) - (tm_v μ16 102 0))) - 0)) → hI wX6_isCorner μ0 mX6_isCorner d K 253 [(0, 2, 65)] [] μ22))) ∧ (tm_v μ0 65 72 = 3 → (0 ≤ w32 ((tm_v μ0 65 72) - 1) ∧ w32 ((tm_v μ0 65 72) - 1) < 3) ∧ ((∀ μ24, μ24 = tm_w μ16 102 (w32 ((tm_v μ0 65 72) - 1)) (w64 ((w64 ((tm_v μ16 65 76) - (tm_v μ16 102 0))) - (tm_v μ16 102 1))) → hI wX6_isCorner μ0 mX6_isCorner d K 253 [(0, 2, 65)] [] μ24))))))))))))))) :
    hI wX6_isCorner μ0 mX6_isCorner d K 156 [(0, 2, 65), (1, 1, v1), (3, 1, v3), (5, 1, v5)] [] μ := by
  refine g_lload_n (q := 1) dX6_isCorner_156 rfl rfl ?_
  refine g_lload_n (q := 2) dX6_isCorner_157 rfl rfl ?_
  obtain ⟨c1, h⟩ := h
  refine g_callS2 dX6_isCorner_158 kX6_common q1712 q1713 rfl (by omega) (Nat.le_of_ble_eq_true rfl) (Nat.le_refl _) (Nat.le_refl _) (t_pL hs (pX6_common (by omega) hs.S c1) ?_)
  refine g_lload (q := 3) dX6_isCorner_161 rfl ?_
  obtain ⟨c5, h⟩ := h
  refine g_callS2 dX6_isCorner_163 kX6_common q1712 q1713 rfl (by omega) (Nat.le_of_ble_eq_true rfl) (Nat.le_refl _) (Nat.le_refl _) (t_pL hs (pX6_common (by omega) hs.S c5) ?_)
  refine g_lstoreN (fun z => [(0, 2, 65), (1, 1, v1), (3, 1, v3), (5, 1, v5), (7, 1, z)]) dX6_isCorner_166 (by decide) [1, 2, 3, 4, 0] (fun _ => rfl) (fun x9 ex9 => ?_)
  have h := h x9 ex9
  refine g_aload_n (q := 0) dX6_isCorner_168 rfl rfl ?_
  refine g_getC (x := 102) 2 dX6_isCorner_169 fX6_138 rfl (by decide) (sk_65 hs.S) (sv_65_74 hs.S) ?_
  refine g_iconst dX6_isCorner_172 (by decide) ?_
  refine g_lload_n (q := 1) dX6_isCorner_173 rfl rfl ?_
  refine g_lload (q := 4) dX6_isCorner_174 rfl ?_
  obtain ⟨c10, h⟩ := h
  refine g_ldiv dX6_isCorner_176 c10 ?_
  refine g_lastore dX6_isCorner_177 (by decide) (sk_102 hs.S) (by decide) (t_lt (sn_102 hs.S) (by decide)) (p_w hs sf_102 (tWs_in _ rfl) fun μ11 eμ11 hs => ?_)
  have h := h μ11 eμ11
  refine g_aload_n (q := 0) dX6_isCorner_178 rfl rfl ?_
  refine g_getC (x := 102) 2 dX6_isCorner_179 fX6_138 rfl (by decide) (sk_65 hs.S) (sv_65_74 hs.S) ?_
  refine g_iconst dX6_isCorner_182 (by decide) ?_
  refine g_lload_n (q := 2) dX6_isCorner_183 rfl rfl ?_
  refine g_lload (q := 4) dX6_isCorner_184 rfl ?_
  obtain ⟨c12, h⟩ := h
  refine g_ldiv dX6_isCorner_186 c12 ?_
  refine g_lastore dX6_isCorner_187 (by decide) (sk_102 hs.S) (by decide) (t_lt (sn_102 hs.S) (by decide)) (p_w hs sf_102 (tWs_in _ rfl) fun μ13 eμ13 hs => ?_)
  have h := h μ13 eμ13
  refine g_aload_n (q := 0) dX6_isCorner_188 rfl rfl ?_
  refine g_getC (x := 102) 2 dX6_isCorner_189 fX6_138 rfl (by decide) (sk_65 hs.S) (sv_65_74 hs.S) ?_
  refine g_iconst dX6_isCorner_192 (by decide) ?_
  refine g_lconst0 dX6_isCorner_193 ?_
  refine g_lastore dX6_isCorner_194 (by decide) (sk_102 hs.S) (by decide) (t_lt (sn_102 hs.S) (by decide)) (p_w hs sf_102 (tWs_in _ rfl) fun μ14 eμ14 hs => ?_)
  have h := h μ14 eμ14
  refine g_aload_n (q := 0) dX6_isCorner_195 rfl rfl ?_
  refine g_lload (q := 3) dX6_isCorner_196 rfl ?_
  refine g_lload (q := 4) dX6_isCorner_198 rfl ?_
  obtain ⟨c15, h⟩ := h
  refine g_ldiv dX6_isCorner_200 c15 ?_
  refine g_put dX6_isCorner_201 fX6_480 rfl (by decide) (sk_65 hs.S) (fun e => absurd e (by decide)) (p_wj hs (by decide) (tWs_inF rfl) fun μ16 eμ16 hs => ?_)
  have h := h μ16 eμ16
  refine g_aload_n (q := 0) dX6_isCorner_204 rfl rfl ?_
  refine g_getC (x := tm_v μ0 65 72) 0 dX6_isCorner_205 fX6_477 rfl (by decide) (sk_65 hs.S) (hs.v (tWs_noF rfl)) ?_
  refine g_iconst dX6_isCorner_208 (by decide) ?_
  refine g_icmp_le (tgt := 253) dX6_isCorner_209 (by decide) (fun c17 => ?_) (fun c18 => ?_)
  · have h := h.1 c17
    exact g_less [0] rfl h
  · have h := h.2 c18
    refine g_aload_n (q := 0) dX6_isCorner_212 rfl rfl ?_
    refine g_getC (x := 102) 2 dX6_isCorner_213 fX6_138 rfl (by decide) (sk_65 hs.S) (sv_65_74 hs.S) ?_
    refine g_aload_n (q := 0) dX6_isCorner_216 rfl rfl ?_
    refine g_getC (x := tm_v μ0 65 72) 0 dX6_isCorner_217 fX6_477 rfl (by decide) (sk_65 hs.S) (hs.v (tWs_noF rfl)) ?_
    refine g_iconst dX6_isCorner_220 (by decide) ?_
    refine g_isub dX6_isCorner_221 ?_
    refine g_aload_n (q := 0) dX6_isCorner_222 rfl rfl ?_
    refine g_get 1 dX6_isCorner_223 fX6_480 rfl (by decide) (sk_65 hs.S) ?_
    refine g_aload_n (q := 0) dX6_isCorner_226 rfl rfl ?_
    refine g_getC (x := 102) 2 dX6_isCorner_227 fX6_138 rfl (by decide) (sk_65 hs.S) (sv_65_74 hs.S) ?_
    refine g_iconst dX6_isCorner_230 (by decide) ?_
    refine g_laload dX6_isCorner_231 (by decide) (sk_102 hs.S) (by decide) (t_lt (sn_102 hs.S) (by decide)) ?_
    refine g_lsub dX6_isCorner_232 ?_
    refine g_aload_n (q := 0) dX6_isCorner_233 rfl rfl ?_
    refine g_getC (x := tm_v μ0 65 72) 0 dX6_isCorner_234 fX6_477 rfl (by decide) (sk_65 hs.S) (hs.v (tWs_noF rfl)) ?_
    refine g_iconst dX6_isCorner_237 (by decide) ?_
    refine g_icmp_ne (tgt := 250) dX6_isCorner_238 (by decide) (fun c19 => ?_) (fun c20 => ?_)
    · have h := h.1 c19
      refine g_lconst0 dX6_isCorner_250 ?_
      refine g_lsub dX6_isCorner_251 ?_
      obtain ⟨c21, h⟩ := h
      refine g_lastore dX6_isCorner_252 (by decide) (sk_102 hs.S) c21.1 (t_lt (sn_102 hs.S) c21.2) (p_w hs sf_102 (tWs_in _ rfl) fun μ22 eμ22 hs => ?_)
      have h := h μ22 eμ22
      exact g_less [0] rfl h
    · have h := h.2 c20
      refine g_aload_n (q := 0) dX6_isCorner_241 rfl rfl ?_
      refine g_getC (x := 102) 2 dX6_isCorner_242 fX6_138 rfl (by decide) (sk_65 hs.S) (sv_65_74 hs.S) ?_
      refine g_iconst dX6_isCorner_245 (by decide) ?_
      refine g_laload dX6_isCorner_246 (by decide) (sk_102 hs.S) (by decide) (t_lt (sn_102 hs.S) (by decide)) ?_
      refine g_goto (tgt := 251) dX6_isCorner_247 (by decide) ?_
      refine g_lsub dX6_isCorner_251 ?_
      obtain ⟨c23, h⟩ := h
      refine g_lastore dX6_isCorner_252 (by decide) (sk_102 hs.S) c23.1 (t_lt (sn_102 hs.S) c23.2) (p_w hs sf_102 (tWs_in _ rfl) fun μ24 eμ24 hs => ?_)
      have h := h μ24 eμ24
      exact g_less [0] rfl h
theorem uX6_isCorner_253 {d : Nat} {μ0 μ : tm_M} {K : Int → tm_M → Prop} (hs : tFr wX6_isCorner μ0 μ)
    (h : (tm_v μ 102 0 < 0 → hI wX6_isCorner μ0 mX6_isCorner d K 290 [] [] μ) ∧ (0 ≤ tm_v μ 102 0 → (tm_v μ 102 1 < 0 → hI wX6_isCorner μ0 mX6_isCorner d K 290 [] [] μ) ∧ (0 ≤ tm_v μ 102 1 → (tm_v μ 102 2 < 0 → hI wX6_isCorner μ0 mX6_isCorner d K 290 [] [] μ) ∧ (0 ≤ tm_v μ 102 2 → K 1 μ)))) :
    hI wX6_isCorner μ0 mX6_isCorner d K 253 [(0, 2, 65)] [] μ := by
  refine g_aload_n (q := 0) dX6_isCorner_253 rfl rfl ?_
  refine g_getC (x := 102) 2 dX6_isCorner_254 fX6_138 rfl (by decide) (sk_65 hs.S) (sv_65_74 hs.S) ?_
  refine g_iconst dX6_isCorner_257 (by decide) ?_
  refine g_laload dX6_isCorner_258 (by decide) (sk_102 hs.S) (by decide) (t_lt (sn_102 hs.S) (by decide)) ?_
  refine g_lconst0 dX6_isCorner_259 ?_
  refine g_lcmp_lt (tgt := 290) dX6_isCorner_260 dX6_isCorner_261 (by decide) (fun c1 => ?_) (fun c2 => ?_)
  · have h := h.1 c1
    exact g_less [] rfl h
  · have h := h.2 c2
    refine g_aload_n (q := 0) dX6_isCorner_264 rfl rfl ?_
    refine g_getC (x := 102) 2 dX6_isCorner_265 fX6_138 rfl (by decide) (sk_65 hs.S) (sv_65_74 hs.S) ?_
    refine g_iconst dX6_isCorner_268 (by decide) ?_
    refine g_laload dX6_isCorner_269 (by decide) (sk_102 hs.S) (by decide) (t_lt (sn_102 hs.S) (by decide)) ?_
    refine g_lconst0 dX6_isCorner_270 ?_
    refine g_lcmp_lt (tgt := 290) dX6_isCorner_271 dX6_isCorner_272 (by decide) (fun c3 => ?_) (fun c4 => ?_)
    · have h := h.1 c3
      exact g_less [] rfl h
    · have h := h.2 c4
      refine g_aload_n (q := 0) dX6_isCorner_275 rfl rfl ?_
      refine g_getC (x := 102) 2 dX6_isCorner_276 fX6_138 rfl (by decide) (sk_65 hs.S) (sv_65_74 hs.S) ?_
      refine g_iconst dX6_isCorner_279 (by decide) ?_
      refine g_laload dX6_isCorner_280 (by decide) (sk_102 hs.S) (by decide) (t_lt (sn_102 hs.S) (by decide)) ?_
      refine g_lconst0 dX6_isCorner_281 ?_
      refine g_lcmp_lt (tgt := 290) dX6_isCorner_282 dX6_isCorner_283 (by decide) (fun c5 => ?_) (fun c6 => ?_)
      · have h := h.1 c5
        exact g_less [] rfl h
      · have h := h.2 c6
        refine g_iconst dX6_isCorner_286 (by decide) ?_
        refine g_goto (tgt := 291) dX6_isCorner_287 (by decide) ?_
        exact g_zret dX6_isCorner_291 rfl (by decide) (Nat.le_refl _) (Nat.le_refl _) ⟨_, rfl, hs, h⟩
theorem uX6_isCorner_290 {d : Nat} {μ0 μ : tm_M} {K : Int → tm_M → Prop} (hs : tFr wX6_isCorner μ0 μ)
    (h : K 0 μ) :
    hI wX6_isCorner μ0 mX6_isCorner d K 290 [] [] μ := by
  refine g_iconst dX6_isCorner_290 (by decide) ?_
  exact g_zret dX6_isCorner_291 rfl (by decide) (Nat.le_refl _) (Nat.le_refl _) ⟨_, rfl, hs, h⟩
theorem uX6_equate_0 {d : Nat} {μ0 μ : tm_M} {K : tm_M → Prop} {v1 v2 v3 v5 : Int} (hs : tFr wX6_equate μ0 μ)
    (h : (∀ x1, x1 = w32 ((tm_v μ0 65 72) - 1) → (3 ≤ v2 → (∀ x4, x4 = w32 (v2 - 3) → (0 ≤ x4 ∧ x4 < 9) ∧ ((0 ≤ w32 ((w32 (3 * x1)) + x4) ∧ w32 ((w32 (3 * x1)) + x4) < 9) ∧ ((0 ≤ w32 (3 * v1) ∧ w32 (3 * v1) < 6) ∧ ((∀ μ8, μ8 = tm_w μ 103 (w32 (3 * v1)) (w64 (v5 * (w32 ((tm_v μ0 101 x4) - (tm_v μ0 101 (w32 ((w32 (3 * x1)) + x4))))))) → (3 ≤ tm_v μ0 65 72 → (0 ≤ w32 (3 + x4) ∧ w32 (3 + x4) < 9) ∧ ((0 ≤ w32 ((w32 (3 * v1)) + 1) ∧ w32 ((w32 (3 * v1)) + 1) < 6) ∧ ((∀ μ13, μ13 = tm_w μ8 103 (w32 ((w32 (3 * v1)) + 1)) (w64 (v5 * (w32 ((tm_v μ0 101 (w32 (3 + x4))) - (tm_v μ0 101 (w32 ((w32 (3 * x1)) + x4))))))) → (0 ≤ w32 ((w32 (3 * v1)) + 2) ∧ w32 ((w32 (3 * v1)) + 2) < 6) ∧ ((∀ μ15, μ15 = tm_w μ13 103 (w32 ((w32 (3 * v1)) + 2)) (w64 (v3 - (w64 (v5 * (tm_v μ0 101 (w32 ((w32 (3 * x1)) + x4))))))) → K μ15)))))) ∧ (tm_v μ0 65 72 < 3 → (0 ≤ w32 ((w32 (3 * v1)) + 1) ∧ w32 ((w32 (3 * v1)) + 1) < 6) ∧ ((∀ μ17, μ17 = tm_w μ8 103 (w32 ((w32 (3 * v1)) + 1)) 0 → (0 ≤ w32 ((w32 (3 * v1)) + 2) ∧ w32 ((w32 (3 * v1)) + 2) < 6) ∧ ((∀ μ19, μ19 = tm_w μ17 103 (w32 ((w32 (3 * v1)) + 2)) (w64 (v3 - (w64 (v5 * (tm_v μ0 101 (w32 ((w32 (3 * x1)) + x4))))))) → K μ19))))))))))) ∧ (v2 < 3 → (v2 ≠ x1 → (v2 ≠ 0 → (0 ≤ w32 (3 * v1) ∧ w32 (3 * v1) < 6) ∧ ((∀ μ25, μ25 = tm_w μ 103 (w32 (3 * v1)) 0 → (v2 ≠ x1 → (v2 ≠ 1 → (0 ≤ w32 ((w32 (3 * v1)) + 1) ∧ w32 ((w32 (3 * v1)) + 1) < 6) ∧ ((∀ μ31, μ31 = tm_w μ25 103 (w32 ((w32 (3 * v1)) + 1)) 0 → (v2 ≠ x1 → (0 ≤ w32 ((w32 (3 * v1)) + 2) ∧ w32 ((w32 (3 * v1)) + 2) < 6) ∧ ((∀ μ35, μ35 = tm_w μ31 103 (w32 ((w32 (3 * v1)) + 2)) 0 → K μ35))) ∧ (v2 = x1 → (0 ≤ w32 ((w32 (3 * v1)) + 2) ∧ w32 ((w32 (3 * v1)) + 2) < 6) ∧ ((∀ μ37, μ37 = tm_w μ31 103 (w32 ((w32 (3 * v1)) + 2)) 1 → K μ37)))))) ∧ (v2 = 1 → (0 ≤ w32 ((w32 (3 * v1)) + 1) ∧ w32 ((w32 (3 * v1)) + 1) < 6) ∧ ((∀ μ39, μ39 = tm_w μ25 103 (w32 ((w32 (3 * v1)) + 1)) 1 → (v2 ≠ x1 → (0 ≤ w32 ((w32 (3 * v1)) + 2) ∧ w32 ((w32 (3 * v1)) + 2) < 6) ∧ ((∀ μ43, μ43 = tm_w μ39 103 (w32 ((w32 (3 * v1)) + 2)) 0 → K μ43))) ∧ (v2 = x1 → (0 ≤ w32 ((w32 (3 * v1)) + 2) ∧ w32 ((w32 (3 * v1)) + 2) < 6) ∧ ((∀ μ45, μ45 = tm_w μ39 103 (w32 ((w32 (3 * v1)) + 2)) 1 → K μ45))))))) ∧ (v2 = x1 → (0 ≤ w32 ((w32 (3 * v1)) + 1) ∧ w32 ((w32 (3 * v1)) + 1) < 6) ∧ ((∀ μ47, μ47 = tm_w μ25 103 (w32 ((w32 (3 * v1)) + 1)) 1 → (v2 ≠ x1 → (0 ≤ w32 ((w32 (3 * v1)) + 2) ∧ w32 ((w32 (3 * v1)) + 2) < 6) ∧ ((∀ μ51, μ51 = tm_w μ47 103 (w32 ((w32 (3 * v1)) + 2)) 0 → K μ51))) ∧ (v2 = x1 → (0 ≤ w32 ((w32 (3 * v1)) + 2) ∧ w32 ((w32 (3 * v1)) + 2) < 6) ∧ ((∀ μ53, μ53 = tm_w μ47 103 (w32 ((w32 (3 * v1)) + 2)) 1 → K μ53))))))))) ∧ (v2 = 0 → (0 ≤ w32 (3 * v1) ∧ w32 (3 * v1) < 6) ∧ ((∀ μ55, μ55 = tm_w μ 103 (w32 (3 * v1)) 1 → (v2 ≠ x1 → (v2 ≠ 1 → (0 ≤ w32 ((w32 (3 * v1)) + 1) ∧ w32 ((w32 (3 * v1)) + 1) < 6) ∧ ((∀ μ61, μ61 = tm_w μ55 103 (w32 ((w32 (3 * v1)) + 1)) 0 → (v2 ≠ x1 → (0 ≤ w32 ((w32 (3 * v1)) + 2) ∧ w32 ((w32 (3 * v1)) + 2) < 6) ∧ ((∀ μ65, μ65 = tm_w μ61 103 (w32 ((w32 (3 * v1)) + 2)) 0 → K μ65))) ∧ (v2 = x1 → (0 ≤ w32 ((w32 (3 * v1)) + 2) ∧ w32 ((w32 (3 * v1)) + 2) < 6) ∧ ((∀ μ67, μ67 = tm_w μ61 103 (w32 ((w32 (3 * v1)) + 2)) 1 → K μ67)))))) ∧ (v2 = 1 → (0 ≤ w32 ((w32 (3 * v1)) + 1) ∧ w32 ((w32 (3 * v1)) + 1) < 6) ∧ ((∀ μ69, μ69 = tm_w μ55 103 (w32 ((w32 (3 * v1)) + 1)) 1 → (v2 ≠ x1 → (0 ≤ w32 ((w32 (3 * v1)) + 2) ∧ w32 ((w32 (3 * v1)) + 2) < 6) ∧ ((∀ μ73, μ73 = tm_w μ69 103 (w32 ((w32 (3 * v1)) + 2)) 0 → K μ73))) ∧ (v2 = x1 → (0 ≤ w32 ((w32 (3 * v1)) + 2) ∧ w32 ((w32 (3 * v1)) + 2) < 6) ∧ ((∀ μ75, μ75 = tm_w μ69 103 (w32 ((w32 (3 * v1)) + 2)) 1 → K μ75))))))) ∧ (v2 = x1 → (0 ≤ w32 ((w32 (3 * v1)) + 1) ∧ w32 ((w32 (3 * v1)) + 1) < 6) ∧ ((∀ μ77, μ77 = tm_w μ55 103 (w32 ((w32 (3 * v1)) + 1)) 1 → (v2 ≠ x1 → (0 ≤ w32 ((w32 (3 * v1)) + 2) ∧ w32 ((w32 (3 * v1)) + 2) < 6) ∧ ((∀ μ81, μ81 = tm_w μ77 103 (w32 ((w32 (3 * v1)) + 2)) 0 → K μ81))) ∧ (v2 = x1 → (0 ≤ w32 ((w32 (3 * v1)) + 2) ∧ w32 ((w32 (3 * v1)) + 2) < 6) ∧ ((∀ μ83, μ83 = tm_w μ77 103 (w32 ((w32 (3 * v1)) + 2)) 1 → K μ83)))))))))) ∧ (v2 = x1 → (0 ≤ w32 (3 * v1) ∧ w32 (3 * v1) < 6) ∧ ((∀ μ85, μ85 = tm_w μ 103 (w32 (3 * v1)) 1 → (v2 ≠ x1 → (v2 ≠ 1 → (0 ≤ w32 ((w32 (3 * v1)) + 1) ∧ w32 ((w32 (3 * v1)) + 1) < 6) ∧ ((∀ μ91, μ91 = tm_w μ85 103 (w32 ((w32 (3 * v1)) + 1)) 0 → (v2 ≠ x1 → (0 ≤ w32 ((w32 (3 * v1)) + 2) ∧ w32 ((w32 (3 * v1)) + 2) < 6) ∧ ((∀ μ95, μ95 = tm_w μ91 103 (w32 ((w32 (3 * v1)) + 2)) 0 → K μ95))) ∧ (v2 = x1 → (0 ≤ w32 ((w32 (3 * v1)) + 2) ∧ w32 ((w32 (3 * v1)) + 2) < 6) ∧ ((∀ μ97, μ97 = tm_w μ91 103 (w32 ((w32 (3 * v1)) + 2)) 1 → K μ97)))))) ∧ (v2 = 1 → (0 ≤ w32 ((w32 (3 * v1)) + 1) ∧ w32 ((w32 (3 * v1)) + 1) < 6) ∧ ((∀ μ99, μ99 = tm_w μ85 103 (w32 ((w32 (3 * v1)) + 1)) 1 → (v2 ≠ x1 → (0 ≤ w32 ((w32 (3 * v1)) + 2) ∧ w32 ((w32 (3 * v1)) + 2) < 6) ∧ ((∀ μ103, μ103 = tm_w μ99 103 (w32 ((w32 (3 * v1)) + 2)) 0 → K μ103))) ∧ (v2 = x1 → (0 ≤ w32 ((w32 (3 * v1)) + 2) ∧ w32 ((w32 (3 * v1)) + 2) < 6) ∧ ((∀ μ105, μ105 = tm_w μ99 103 (w32 ((w32 (3 * v1)) + 2)) 1 → K μ105))))))) ∧ (v2 = x1 → (0 ≤ w32 ((w32 (3 * v1)) + 1) ∧ w32 ((w32 (3 * v1)) + 1) < 6) ∧ ((∀ μ107, μ107 = tm_w μ85 103 (w32 ((w32 (3 * v1)) + 1)) 1 → (v2 ≠ x1 → (0 ≤ w32 ((w32 (3 * v1)) + 2) ∧ w32 ((w32 (3 * v1)) + 2) < 6) ∧ ((∀ μ111, μ111 = tm_w μ107 103 (w32 ((w32 (3 * v1)) + 2)) 0 → K μ111))) ∧ (v2 = x1 → (0 ≤ w32 ((w32 (3 * v1)) + 2) ∧ w32 ((w32 (3 * v1)) + 2) < 6) ∧ ((∀ μ113, μ113 = tm_w μ107 103 (w32 ((w32 (3 * v1)) + 2)) 1 → K μ113)))))))))))) :
    hV wX6_equate μ0 mX6_equate d K 0 [(0, 2, 65), (1, 0, v1), (2, 0, v2), (3, 1, v3), (5, 1, v5)] [] μ := by
  refine g_aload_n (q := 0) dX6_equate_0 rfl rfl ?_
  refine g_getC (x := tm_v μ0 65 72) 0 dX6_equate_1 fX6_477 rfl (by decide) (sk_65 hs.S) (hs.v (tWs_noF rfl)) ?_
  refine g_iconst dX6_equate_4 (by decide) ?_
  refine g_isub dX6_equate_5 ?_
  refine g_istoreN (fun z => [(0, 2, 65), (1, 0, v1), (2, 0, v2), (3, 1, v3), (5, 1, v5), (7, 0, z)]) dX6_equate_6 (by decide) [1, 2, 3, 4, 5, 0] (fun _ => rfl) (fun x1 ex1 => ?_)
  have h := h x1 ex1
  refine g_iload_n (q := 2) dX6_equate_8 rfl rfl ?_
  refine g_iconst dX6_equate_9 (by decide) ?_
  refine g_icmp_ge (tgt := 92) dX6_equate_10 (by decide) (fun c2 => ?_) (fun c3 => ?_)
  · have h := h.1 c2
    refine g_iload_n (q := 2) dX6_equate_92 rfl rfl ?_
    refine g_iconst dX6_equate_93 (by decide) ?_
    refine g_isub dX6_equate_94 ?_
    refine g_istoreN (fun z => [(0, 2, 65), (1, 0, v1), (2, 0, v2), (3, 1, v3), (5, 1, v5), (7, 0, x1), (8, 0, z)]) dX6_equate_95 (by decide) [1, 2, 3, 4, 5, 6, 0] (fun _ => rfl) (fun x4 ex4 => ?_)
    have h := h x4 ex4
    refine g_aload_n (q := 0) dX6_equate_97 rfl rfl ?_
    refine g_getC (x := 103) 2 dX6_equate_98 fX6_141 rfl (by decide) (sk_65 hs.S) (sv_65_75 hs.S) ?_
    refine g_iconst dX6_equate_101 (by decide) ?_
    refine g_iload_n (q := 1) dX6_equate_102 rfl rfl ?_
    refine g_imul dX6_equate_103 ?_
    refine g_lload (q := 4) dX6_equate_104 rfl ?_
    refine g_aload_n (q := 0) dX6_equate_106 rfl rfl ?_
    refine g_getC (x := 101) 2 dX6_equate_107 fX6_135 rfl (by decide) (sk_65 hs.S) (sv_65_71 hs.S) ?_
    refine g_iload (q := 6) dX6_equate_110 rfl ?_
    obtain ⟨c5, h⟩ := h
    refine g_ialoadC (x := tm_v μ0 101 x4) dX6_equate_112 (by decide) (sk_101 hs.S) c5.1 (t_lt (sn_101 hs.S) c5.2) (hs.v (tWs_no _ rfl)) ?_
    refine g_aload_n (q := 0) dX6_equate_113 rfl rfl ?_
    refine g_getC (x := 101) 2 dX6_equate_114 fX6_135 rfl (by decide) (sk_65 hs.S) (sv_65_71 hs.S) ?_
    refine g_iconst dX6_equate_117 (by decide) ?_
    refine g_iload (q := 5) dX6_equate_118 rfl ?_
    refine g_imul dX6_equate_120 ?_
    refine g_iload (q := 6) dX6_equate_121 rfl ?_
    refine g_iadd dX6_equate_123 ?_
    obtain ⟨c6, h⟩ := h
    refine g_ialoadC (x := tm_v μ0 101 (w32 ((w32 (3 * x1)) + x4))) dX6_equate_124 (by decide) (sk_101 hs.S) c6.1 (t_lt (sn_101 hs.S) c6.2) (hs.v (tWs_no _ rfl)) ?_
    refine g_isub dX6_equate_125 ?_
    refine g_i2l dX6_equate_126 ?_
    refine g_lmul dX6_equate_127 ?_
    obtain ⟨c7, h⟩ := h
    refine g_lastore dX6_equate_128 (by decide) (sk_103 hs.S) c7.1 (t_lt (sn_103 hs.S) c7.2) (p_w hs sf_103 (tWs_in _ rfl) fun μ8 eμ8 hs => ?_)
    have h := h μ8 eμ8
    refine g_aload_n (q := 0) dX6_equate_129 rfl rfl ?_
    refine g_getC (x := 103) 2 dX6_equate_130 fX6_141 rfl (by decide) (sk_65 hs.S) (sv_65_75 hs.S) ?_
    refine g_iconst dX6_equate_133 (by decide) ?_
    refine g_iload_n (q := 1) dX6_equate_134 rfl rfl ?_
    refine g_imul dX6_equate_135 ?_
    refine g_iconst dX6_equate_136 (by decide) ?_
    refine g_iadd dX6_equate_137 ?_
    refine g_aload_n (q := 0) dX6_equate_138 rfl rfl ?_
    refine g_getC (x := tm_v μ0 65 72) 0 dX6_equate_139 fX6_477 rfl (by decide) (sk_65 hs.S) (hs.v (tWs_noF rfl)) ?_
    refine g_iconst dX6_equate_142 (by decide) ?_
    refine g_icmp_ge (tgt := 150) dX6_equate_143 (by decide) (fun c9 => ?_) (fun c10 => ?_)
    · have h := h.1 c9
      refine g_lload (q := 4) dX6_equate_150 rfl ?_
      refine g_aload_n (q := 0) dX6_equate_152 rfl rfl ?_
      refine g_getC (x := 101) 2 dX6_equate_153 fX6_135 rfl (by decide) (sk_65 hs.S) (sv_65_71 hs.S) ?_
      refine g_iconst dX6_equate_156 (by decide) ?_
      refine g_iload (q := 6) dX6_equate_157 rfl ?_
      refine g_iadd dX6_equate_159 ?_
      obtain ⟨c11, h⟩ := h
      refine g_ialoadC (x := tm_v μ0 101 (w32 (3 + x4))) dX6_equate_160 (by decide) (sk_101 hs.S) c11.1 (t_lt (sn_101 hs.S) c11.2) (hs.v (tWs_no _ rfl)) ?_
      refine g_aload_n (q := 0) dX6_equate_161 rfl rfl ?_
      refine g_getC (x := 101) 2 dX6_equate_162 fX6_135 rfl (by decide) (sk_65 hs.S) (sv_65_71 hs.S) ?_
      refine g_iconst dX6_equate_165 (by decide) ?_
      refine g_iload (q := 5) dX6_equate_166 rfl ?_
      refine g_imul dX6_equate_168 ?_
      refine g_iload (q := 6) dX6_equate_169 rfl ?_
      refine g_iadd dX6_equate_171 ?_
      refine g_ialoadC (x := tm_v μ0 101 (w32 ((w32 (3 * x1)) + x4))) dX6_equate_172 (by decide) (sk_101 hs.S) c6.1 (t_lt (sn_101 hs.S) c6.2) (hs.v (tWs_no _ rfl)) ?_
      refine g_isub dX6_equate_173 ?_
      refine g_i2l dX6_equate_174 ?_
      refine g_lmul dX6_equate_175 ?_
      obtain ⟨c12, h⟩ := h
      refine g_lastore dX6_equate_176 (by decide) (sk_103 hs.S) c12.1 (t_lt (sn_103 hs.S) c12.2) (p_w hs sf_103 (tWs_in _ rfl) fun μ13 eμ13 hs => ?_)
      have h := h μ13 eμ13
      refine g_aload_n (q := 0) dX6_equate_177 rfl rfl ?_
      refine g_getC (x := 103) 2 dX6_equate_178 fX6_141 rfl (by decide) (sk_65 hs.S) (sv_65_75 hs.S) ?_
      refine g_iconst dX6_equate_181 (by decide) ?_
      refine g_iload_n (q := 1) dX6_equate_182 rfl rfl ?_
      refine g_imul dX6_equate_183 ?_
      refine g_iconst dX6_equate_184 (by decide) ?_
      refine g_iadd dX6_equate_185 ?_
      refine g_lload_n (q := 3) dX6_equate_186 rfl rfl ?_
      refine g_lload (q := 4) dX6_equate_187 rfl ?_
      refine g_aload_n (q := 0) dX6_equate_189 rfl rfl ?_
      refine g_getC (x := 101) 2 dX6_equate_190 fX6_135 rfl (by decide) (sk_65 hs.S) (sv_65_71 hs.S) ?_
      refine g_iconst dX6_equate_193 (by decide) ?_
      refine g_iload (q := 5) dX6_equate_194 rfl ?_
      refine g_imul dX6_equate_196 ?_
      refine g_iload (q := 6) dX6_equate_197 rfl ?_
      refine g_iadd dX6_equate_199 ?_
      refine g_ialoadC (x := tm_v μ0 101 (w32 ((w32 (3 * x1)) + x4))) dX6_equate_200 (by decide) (sk_101 hs.S) c6.1 (t_lt (sn_101 hs.S) c6.2) (hs.v (tWs_no _ rfl)) ?_
      refine g_i2l dX6_equate_201 ?_
      refine g_lmul dX6_equate_202 ?_
      refine g_lsub dX6_equate_203 ?_
      obtain ⟨c14, h⟩ := h
      refine g_lastore dX6_equate_204 (by decide) (sk_103 hs.S) c14.1 (t_lt (sn_103 hs.S) c14.2) (p_w hs sf_103 (tWs_in _ rfl) fun μ15 eμ15 hs => ?_)
      have h := h μ15 eμ15
      exact g_vret dX6_equate_205 rfl (Nat.le_refl _) (Nat.le_refl _) ⟨rfl, hs, h⟩
    · have h := h.2 c10
      refine g_lconst0 dX6_equate_146 ?_
      refine g_goto (tgt := 176) dX6_equate_147 (by decide) ?_
      obtain ⟨c16, h⟩ := h
      refine g_lastore dX6_equate_176 (by decide) (sk_103 hs.S) c16.1 (t_lt (sn_103 hs.S) c16.2) (p_w hs sf_103 (tWs_in _ rfl) fun μ17 eμ17 hs => ?_)
      have h := h μ17 eμ17
      refine g_aload_n (q := 0) dX6_equate_177 rfl rfl ?_
      refine g_getC (x := 103) 2 dX6_equate_178 fX6_141 rfl (by decide) (sk_65 hs.S) (sv_65_75 hs.S) ?_
      refine g_iconst dX6_equate_181 (by decide) ?_
      refine g_iload_n (q := 1) dX6_equate_182 rfl rfl ?_
      refine g_imul dX6_equate_183 ?_
      refine g_iconst dX6_equate_184 (by decide) ?_
      refine g_iadd dX6_equate_185 ?_
      refine g_lload_n (q := 3) dX6_equate_186 rfl rfl ?_
      refine g_lload (q := 4) dX6_equate_187 rfl ?_
      refine g_aload_n (q := 0) dX6_equate_189 rfl rfl ?_
      refine g_getC (x := 101) 2 dX6_equate_190 fX6_135 rfl (by decide) (sk_65 hs.S) (sv_65_71 hs.S) ?_
      refine g_iconst dX6_equate_193 (by decide) ?_
      refine g_iload (q := 5) dX6_equate_194 rfl ?_
      refine g_imul dX6_equate_196 ?_
      refine g_iload (q := 6) dX6_equate_197 rfl ?_
      refine g_iadd dX6_equate_199 ?_
      refine g_ialoadC (x := tm_v μ0 101 (w32 ((w32 (3 * x1)) + x4))) dX6_equate_200 (by decide) (sk_101 hs.S) c6.1 (t_lt (sn_101 hs.S) c6.2) (hs.v (tWs_no _ rfl)) ?_
      refine g_i2l dX6_equate_201 ?_
      refine g_lmul dX6_equate_202 ?_
      refine g_lsub dX6_equate_203 ?_
      obtain ⟨c18, h⟩ := h
      refine g_lastore dX6_equate_204 (by decide) (sk_103 hs.S) c18.1 (t_lt (sn_103 hs.S) c18.2) (p_w hs sf_103 (tWs_in _ rfl) fun μ19 eμ19 hs => ?_)
      have h := h μ19 eμ19
      exact g_vret dX6_equate_205 rfl (Nat.le_refl _) (Nat.le_refl _) ⟨rfl, hs, h⟩
  · have h := h.2 c3
    refine g_aload_n (q := 0) dX6_equate_13 rfl rfl ?_
    refine g_getC (x := 103) 2 dX6_equate_14 fX6_141 rfl (by decide) (sk_65 hs.S) (sv_65_75 hs.S) ?_
    refine g_iconst dX6_equate_17 (by decide) ?_
    refine g_iload_n (q := 1) dX6_equate_18 rfl rfl ?_
    refine g_imul dX6_equate_19 ?_
    refine g_iload_n (q := 2) dX6_equate_20 rfl rfl ?_
    refine g_iload (q := 5) dX6_equate_21 rfl ?_
    refine g_icmp_ne (tgt := 30) dX6_equate_23 (by decide) (fun c20 => ?_) (fun c21 => ?_)
    · have h := h.1 c20
      refine g_iload_n (q := 2) dX6_equate_30 rfl rfl ?_
      refine g_if_ne (tgt := 38) dX6_equate_31 (by decide) (fun c22 => ?_) (fun c23 => ?_)
      · have h := h.1 c22
        refine g_lconst0 dX6_equate_38 ?_
        obtain ⟨c24, h⟩ := h
        refine g_lastore dX6_equate_39 (by decide) (sk_103 hs.S) c24.1 (t_lt (sn_103 hs.S) c24.2) (p_w hs sf_103 (tWs_in _ rfl) fun μ25 eμ25 hs => ?_)
        have h := h μ25 eμ25
        refine g_aload_n (q := 0) dX6_equate_40 rfl rfl ?_
        refine g_getC (x := 103) 2 dX6_equate_41 fX6_141 rfl (by decide) (sk_65 hs.S) (sv_65_75 hs.S) ?_
        refine g_iconst dX6_equate_44 (by decide) ?_
        refine g_iload_n (q := 1) dX6_equate_45 rfl rfl ?_
        refine g_imul dX6_equate_46 ?_
        refine g_iconst dX6_equate_47 (by decide) ?_
        refine g_iadd dX6_equate_48 ?_
        refine g_iload_n (q := 2) dX6_equate_49 rfl rfl ?_
        refine g_iload (q := 5) dX6_equate_50 rfl ?_
        refine g_icmp_ne (tgt := 59) dX6_equate_52 (by decide) (fun c26 => ?_) (fun c27 => ?_)
        · have h := h.1 c26
          refine g_iload_n (q := 2) dX6_equate_59 rfl rfl ?_
          refine g_iconst dX6_equate_60 (by decide) ?_
          refine g_icmp_ne (tgt := 68) dX6_equate_61 (by decide) (fun c28 => ?_) (fun c29 => ?_)
          · have h := h.1 c28
            refine g_lconst0 dX6_equate_68 ?_
            obtain ⟨c30, h⟩ := h
            refine g_lastore dX6_equate_69 (by decide) (sk_103 hs.S) c30.1 (t_lt (sn_103 hs.S) c30.2) (p_w hs sf_103 (tWs_in _ rfl) fun μ31 eμ31 hs => ?_)
            have h := h μ31 eμ31
            refine g_aload_n (q := 0) dX6_equate_70 rfl rfl ?_
            refine g_getC (x := 103) 2 dX6_equate_71 fX6_141 rfl (by decide) (sk_65 hs.S) (sv_65_75 hs.S) ?_
            refine g_iconst dX6_equate_74 (by decide) ?_
            refine g_iload_n (q := 1) dX6_equate_75 rfl rfl ?_
            refine g_imul dX6_equate_76 ?_
            refine g_iconst dX6_equate_77 (by decide) ?_
            refine g_iadd dX6_equate_78 ?_
            refine g_iload_n (q := 2) dX6_equate_79 rfl rfl ?_
            refine g_iload (q := 5) dX6_equate_80 rfl ?_
            refine g_icmp_ne (tgt := 89) dX6_equate_82 (by decide) (fun c32 => ?_) (fun c33 => ?_)
            · have h := h.1 c32
              refine g_lconst0 dX6_equate_89 ?_
              obtain ⟨c34, h⟩ := h
              refine g_lastore dX6_equate_90 (by decide) (sk_103 hs.S) c34.1 (t_lt (sn_103 hs.S) c34.2) (p_w hs sf_103 (tWs_in _ rfl) fun μ35 eμ35 hs => ?_)
              have h := h μ35 eμ35
              exact g_vret dX6_equate_91 rfl (Nat.le_refl _) (Nat.le_refl _) ⟨rfl, hs, h⟩
            · have h := h.2 c33
              refine g_lconst1 dX6_equate_85 ?_
              refine g_goto (tgt := 90) dX6_equate_86 (by decide) ?_
              obtain ⟨c36, h⟩ := h
              refine g_lastore dX6_equate_90 (by decide) (sk_103 hs.S) c36.1 (t_lt (sn_103 hs.S) c36.2) (p_w hs sf_103 (tWs_in _ rfl) fun μ37 eμ37 hs => ?_)
              have h := h μ37 eμ37
              exact g_vret dX6_equate_91 rfl (Nat.le_refl _) (Nat.le_refl _) ⟨rfl, hs, h⟩
          · have h := h.2 c29
            refine g_lconst1 dX6_equate_64 ?_
            refine g_goto (tgt := 69) dX6_equate_65 (by decide) ?_
            obtain ⟨c38, h⟩ := h
            refine g_lastore dX6_equate_69 (by decide) (sk_103 hs.S) c38.1 (t_lt (sn_103 hs.S) c38.2) (p_w hs sf_103 (tWs_in _ rfl) fun μ39 eμ39 hs => ?_)
            have h := h μ39 eμ39
            refine g_aload_n (q := 0) dX6_equate_70 rfl rfl ?_
            refine g_getC (x := 103) 2 dX6_equate_71 fX6_141 rfl (by decide) (sk_65 hs.S) (sv_65_75 hs.S) ?_
            refine g_iconst dX6_equate_74 (by decide) ?_
            refine g_iload_n (q := 1) dX6_equate_75 rfl rfl ?_
            refine g_imul dX6_equate_76 ?_
            refine g_iconst dX6_equate_77 (by decide) ?_
            refine g_iadd dX6_equate_78 ?_
            refine g_iload_n (q := 2) dX6_equate_79 rfl rfl ?_
            refine g_iload (q := 5) dX6_equate_80 rfl ?_
            refine g_icmp_ne (tgt := 89) dX6_equate_82 (by decide) (fun c40 => ?_) (fun c41 => ?_)
            · have h := h.1 c40
              refine g_lconst0 dX6_equate_89 ?_
              obtain ⟨c42, h⟩ := h
              refine g_lastore dX6_equate_90 (by decide) (sk_103 hs.S) c42.1 (t_lt (sn_103 hs.S) c42.2) (p_w hs sf_103 (tWs_in _ rfl) fun μ43 eμ43 hs => ?_)
              have h := h μ43 eμ43
              exact g_vret dX6_equate_91 rfl (Nat.le_refl _) (Nat.le_refl _) ⟨rfl, hs, h⟩
            · have h := h.2 c41
              refine g_lconst1 dX6_equate_85 ?_
              refine g_goto (tgt := 90) dX6_equate_86 (by decide) ?_
              obtain ⟨c44, h⟩ := h
              refine g_lastore dX6_equate_90 (by decide) (sk_103 hs.S) c44.1 (t_lt (sn_103 hs.S) c44.2) (p_w hs sf_103 (tWs_in _ rfl) fun μ45 eμ45 hs => ?_)
              have h := h μ45 eμ45
              exact g_vret dX6_equate_91 rfl (Nat.le_refl _) (Nat.le_refl _) ⟨rfl, hs, h⟩
        · have h := h.2 c27
          refine g_lconst1 dX6_equate_55 ?_
          refine g_goto (tgt := 69) dX6_equate_56 (by decide) ?_
          obtain ⟨c46, h⟩ := h
          refine g_lastore dX6_equate_69 (by decide) (sk_103 hs.S) c46.1 (t_lt (sn_103 hs.S) c46.2) (p_w hs sf_103 (tWs_in _ rfl) fun μ47 eμ47 hs => ?_)
          have h := h μ47 eμ47
          refine g_aload_n (q := 0) dX6_equate_70 rfl rfl ?_
          refine g_getC (x := 103) 2 dX6_equate_71 fX6_141 rfl (by decide) (sk_65 hs.S) (sv_65_75 hs.S) ?_
          refine g_iconst dX6_equate_74 (by decide) ?_
          refine g_iload_n (q := 1) dX6_equate_75 rfl rfl ?_
          refine g_imul dX6_equate_76 ?_
          refine g_iconst dX6_equate_77 (by decide) ?_
          refine g_iadd dX6_equate_78 ?_
          refine g_iload_n (q := 2) dX6_equate_79 rfl rfl ?_
          refine g_iload (q := 5) dX6_equate_80 rfl ?_
          refine g_icmp_ne (tgt := 89) dX6_equate_82 (by decide) (fun c48 => ?_) (fun c49 => ?_)
          · have h := h.1 c48
            refine g_lconst0 dX6_equate_89 ?_
            obtain ⟨c50, h⟩ := h
            refine g_lastore dX6_equate_90 (by decide) (sk_103 hs.S) c50.1 (t_lt (sn_103 hs.S) c50.2) (p_w hs sf_103 (tWs_in _ rfl) fun μ51 eμ51 hs => ?_)
            have h := h μ51 eμ51
            exact g_vret dX6_equate_91 rfl (Nat.le_refl _) (Nat.le_refl _) ⟨rfl, hs, h⟩
          · have h := h.2 c49
            refine g_lconst1 dX6_equate_85 ?_
            refine g_goto (tgt := 90) dX6_equate_86 (by decide) ?_
            obtain ⟨c52, h⟩ := h
            refine g_lastore dX6_equate_90 (by decide) (sk_103 hs.S) c52.1 (t_lt (sn_103 hs.S) c52.2) (p_w hs sf_103 (tWs_in _ rfl) fun μ53 eμ53 hs => ?_)
            have h := h μ53 eμ53
            exact g_vret dX6_equate_91 rfl (Nat.le_refl _) (Nat.le_refl _) ⟨rfl, hs, h⟩
      · have h := h.2 c23
        refine g_lconst1 dX6_equate_34 ?_
        refine g_goto (tgt := 39) dX6_equate_35 (by decide) ?_
        obtain ⟨c54, h⟩ := h
        refine g_lastore dX6_equate_39 (by decide) (sk_103 hs.S) c54.1 (t_lt (sn_103 hs.S) c54.2) (p_w hs sf_103 (tWs_in _ rfl) fun μ55 eμ55 hs => ?_)
        have h := h μ55 eμ55
        refine g_aload_n (q := 0) dX6_equate_40 rfl rfl ?_
        refine g_getC (x := 103) 2 dX6_equate_41 fX6_141 rfl (by decide) (sk_65 hs.S) (sv_65_75 hs.S) ?_
        refine g_iconst dX6_equate_44 (by decide) ?_
        refine g_iload_n (q := 1) dX6_equate_45 rfl rfl ?_
        refine g_imul dX6_equate_46 ?_
        refine g_iconst dX6_equate_47 (by decide) ?_
        refine g_iadd dX6_equate_48 ?_
        refine g_iload_n (q := 2) dX6_equate_49 rfl rfl ?_
        refine g_iload (q := 5) dX6_equate_50 rfl ?_
        refine g_icmp_ne (tgt := 59) dX6_equate_52 (by decide) (fun c56 => ?_) (fun c57 => ?_)
        · have h := h.1 c56
          refine g_iload_n (q := 2) dX6_equate_59 rfl rfl ?_
          refine g_iconst dX6_equate_60 (by decide) ?_
          refine g_icmp_ne (tgt := 68) dX6_equate_61 (by decide) (fun c58 => ?_) (fun c59 => ?_)
          · have h := h.1 c58
            refine g_lconst0 dX6_equate_68 ?_
            obtain ⟨c60, h⟩ := h
            refine g_lastore dX6_equate_69 (by decide) (sk_103 hs.S) c60.1 (t_lt (sn_103 hs.S) c60.2) (p_w hs sf_103 (tWs_in _ rfl) fun μ61 eμ61 hs => ?_)
            have h := h μ61 eμ61
            refine g_aload_n (q := 0) dX6_equate_70 rfl rfl ?_
            refine g_getC (x := 103) 2 dX6_equate_71 fX6_141 rfl (by decide) (sk_65 hs.S) (sv_65_75 hs.S) ?_
            refine g_iconst dX6_equate_74 (by decide) ?_
            refine g_iload_n (q := 1) dX6_equate_75 rfl rfl ?_
            refine g_imul dX6_equate_76 ?_
            refine g_iconst dX6_equate_77 (by decide) ?_
            refine g_iadd dX6_equate_78 ?_
            refine g_iload_n (q := 2) dX6_equate_79 rfl rfl ?_
            refine g_iload (q := 5) dX6_equate_80 rfl ?_
            refine g_icmp_ne (tgt := 89) dX6_equate_82 (by decide) (fun c62 => ?_) (fun c63 => ?_)
            · have h := h.1 c62
              refine g_lconst0 dX6_equate_89 ?_
              obtain ⟨c64, h⟩ := h
              refine g_lastore dX6_equate_90 (by decide) (sk_103 hs.S) c64.1 (t_lt (sn_103 hs.S) c64.2) (p_w hs sf_103 (tWs_in _ rfl) fun μ65 eμ65 hs => ?_)
              have h := h μ65 eμ65
              exact g_vret dX6_equate_91 rfl (Nat.le_refl _) (Nat.le_refl _) ⟨rfl, hs, h⟩
            · have h := h.2 c63
              refine g_lconst1 dX6_equate_85 ?_
              refine g_goto (tgt := 90) dX6_equate_86 (by decide) ?_
              obtain ⟨c66, h⟩ := h
              refine g_lastore dX6_equate_90 (by decide) (sk_103 hs.S) c66.1 (t_lt (sn_103 hs.S) c66.2) (p_w hs sf_103 (tWs_in _ rfl) fun μ67 eμ67 hs => ?_)
              have h := h μ67 eμ67
              exact g_vret dX6_equate_91 rfl (Nat.le_refl _) (Nat.le_refl _) ⟨rfl, hs, h⟩
          · have h := h.2 c59
            refine g_lconst1 dX6_equate_64 ?_
            refine g_goto (tgt := 69) dX6_equate_65 (by decide) ?_
            obtain ⟨c68, h⟩ := h
            refine g_lastore dX6_equate_69 (by decide) (sk_103 hs.S) c68.1 (t_lt (sn_103 hs.S) c68.2) (p_w hs sf_103 (tWs_in _ rfl) fun μ69 eμ69 hs => ?_)
            have h := h μ69 eμ69
            refine g_aload_n (q := 0) dX6_equate_70 rfl rfl ?_
            refine g_getC (x := 103) 2 dX6_equate_71 fX6_141 rfl (by decide) (sk_65 hs.S) (sv_65_75 hs.S) ?_
            refine g_iconst dX6_equate_74 (by decide) ?_
            refine g_iload_n (q := 1) dX6_equate_75 rfl rfl ?_
            refine g_imul dX6_equate_76 ?_
            refine g_iconst dX6_equate_77 (by decide) ?_
            refine g_iadd dX6_equate_78 ?_
            refine g_iload_n (q := 2) dX6_equate_79 rfl rfl ?_
            refine g_iload (q := 5) dX6_equate_80 rfl ?_
            refine g_icmp_ne (tgt := 89) dX6_equate_82 (by decide) (fun c70 => ?_) (fun c71 => ?_)
            · have h := h.1 c70
              refine g_lconst0 dX6_equate_89 ?_
              obtain ⟨c72, h⟩ := h
              refine g_lastore dX6_equate_90 (by decide) (sk_103 hs.S) c72.1 (t_lt (sn_103 hs.S) c72.2) (p_w hs sf_103 (tWs_in _ rfl) fun μ73 eμ73 hs => ?_)
              have h := h μ73 eμ73
              exact g_vret dX6_equate_91 rfl (Nat.le_refl _) (Nat.le_refl _) ⟨rfl, hs, h⟩
            · have h := h.2 c71
              refine g_lconst1 dX6_equate_85 ?_
              refine g_goto (tgt := 90) dX6_equate_86 (by decide) ?_
              obtain ⟨c74, h⟩ := h
              refine g_lastore dX6_equate_90 (by decide) (sk_103 hs.S) c74.1 (t_lt (sn_103 hs.S) c74.2) (p_w hs sf_103 (tWs_in _ rfl) fun μ75 eμ75 hs => ?_)
              have h := h μ75 eμ75
              exact g_vret dX6_equate_91 rfl (Nat.le_refl _) (Nat.le_refl _) ⟨rfl, hs, h⟩
        · have h := h.2 c57
          refine g_lconst1 dX6_equate_55 ?_
          refine g_goto (tgt := 69) dX6_equate_56 (by decide) ?_
          obtain ⟨c76, h⟩ := h
          refine g_lastore dX6_equate_69 (by decide) (sk_103 hs.S) c76.1 (t_lt (sn_103 hs.S) c76.2) (p_w hs sf_103 (tWs_in _ rfl) fun μ77 eμ77 hs => ?_)
          have h := h μ77 eμ77
          refine g_aload_n (q := 0) dX6_equate_70 rfl rfl ?_
          refine g_getC (x := 103) 2 dX6_equate_71 fX6_141 rfl (by decide) (sk_65 hs.S) (sv_65_75 hs.S) ?_
          refine g_iconst dX6_equate_74 (by decide) ?_
          refine g_iload_n (q := 1) dX6_equate_75 rfl rfl ?_
          refine g_imul dX6_equate_76 ?_
          refine g_iconst dX6_equate_77 (by decide) ?_
          refine g_iadd dX6_equate_78 ?_
          refine g_iload_n (q := 2) dX6_equate_79 rfl rfl ?_
          refine g_iload (q := 5) dX6_equate_80 rfl ?_
          refine g_icmp_ne (tgt := 89) dX6_equate_82 (by decide) (fun c78 => ?_) (fun c79 => ?_)
          · have h := h.1 c78
            refine g_lconst0 dX6_equate_89 ?_
            obtain ⟨c80, h⟩ := h
            refine g_lastore dX6_equate_90 (by decide) (sk_103 hs.S) c80.1 (t_lt (sn_103 hs.S) c80.2) (p_w hs sf_103 (tWs_in _ rfl) fun μ81 eμ81 hs => ?_)
            have h := h μ81 eμ81
            exact g_vret dX6_equate_91 rfl (Nat.le_refl _) (Nat.le_refl _) ⟨rfl, hs, h⟩
          · have h := h.2 c79
            refine g_lconst1 dX6_equate_85 ?_
            refine g_goto (tgt := 90) dX6_equate_86 (by decide) ?_
            obtain ⟨c82, h⟩ := h
            refine g_lastore dX6_equate_90 (by decide) (sk_103 hs.S) c82.1 (t_lt (sn_103 hs.S) c82.2) (p_w hs sf_103 (tWs_in _ rfl) fun μ83 eμ83 hs => ?_)
            have h := h μ83 eμ83
            exact g_vret dX6_equate_91 rfl (Nat.le_refl _) (Nat.le_refl _) ⟨rfl, hs, h⟩
    · have h := h.2 c21
      refine g_lconst1 dX6_equate_26 ?_
      refine g_goto (tgt := 39) dX6_equate_27 (by decide) ?_
      obtain ⟨c84, h⟩ := h
      refine g_lastore dX6_equate_39 (by decide) (sk_103 hs.S) c84.1 (t_lt (sn_103 hs.S) c84.2) (p_w hs sf_103 (tWs_in _ rfl) fun μ85 eμ85 hs => ?_)
      have h := h μ85 eμ85
      refine g_aload_n (q := 0) dX6_equate_40 rfl rfl ?_
      refine g_getC (x := 103) 2 dX6_equate_41 fX6_141 rfl (by decide) (sk_65 hs.S) (sv_65_75 hs.S) ?_
      refine g_iconst dX6_equate_44 (by decide) ?_
      refine g_iload_n (q := 1) dX6_equate_45 rfl rfl ?_
      refine g_imul dX6_equate_46 ?_
      refine g_iconst dX6_equate_47 (by decide) ?_
      refine g_iadd dX6_equate_48 ?_
      refine g_iload_n (q := 2) dX6_equate_49 rfl rfl ?_
      refine g_iload (q := 5) dX6_equate_50 rfl ?_
      refine g_icmp_ne (tgt := 59) dX6_equate_52 (by decide) (fun c86 => ?_) (fun c87 => ?_)
      · have h := h.1 c86
        refine g_iload_n (q := 2) dX6_equate_59 rfl rfl ?_
        refine g_iconst dX6_equate_60 (by decide) ?_
        refine g_icmp_ne (tgt := 68) dX6_equate_61 (by decide) (fun c88 => ?_) (fun c89 => ?_)
        · have h := h.1 c88
          refine g_lconst0 dX6_equate_68 ?_
          obtain ⟨c90, h⟩ := h
          refine g_lastore dX6_equate_69 (by decide) (sk_103 hs.S) c90.1 (t_lt (sn_103 hs.S) c90.2) (p_w hs sf_103 (tWs_in _ rfl) fun μ91 eμ91 hs => ?_)
          have h := h μ91 eμ91
          refine g_aload_n (q := 0) dX6_equate_70 rfl rfl ?_
          refine g_getC (x := 103) 2 dX6_equate_71 fX6_141 rfl (by decide) (sk_65 hs.S) (sv_65_75 hs.S) ?_
          refine g_iconst dX6_equate_74 (by decide) ?_
          refine g_iload_n (q := 1) dX6_equate_75 rfl rfl ?_
          refine g_imul dX6_equate_76 ?_
          refine g_iconst dX6_equate_77 (by decide) ?_
          refine g_iadd dX6_equate_78 ?_
          refine g_iload_n (q := 2) dX6_equate_79 rfl rfl ?_
          refine g_iload (q := 5) dX6_equate_80 rfl ?_
          refine g_icmp_ne (tgt := 89) dX6_equate_82 (by decide) (fun c92 => ?_) (fun c93 => ?_)
          · have h := h.1 c92
            refine g_lconst0 dX6_equate_89 ?_
            obtain ⟨c94, h⟩ := h
            refine g_lastore dX6_equate_90 (by decide) (sk_103 hs.S) c94.1 (t_lt (sn_103 hs.S) c94.2) (p_w hs sf_103 (tWs_in _ rfl) fun μ95 eμ95 hs => ?_)
            have h := h μ95 eμ95
            exact g_vret dX6_equate_91 rfl (Nat.le_refl _) (Nat.le_refl _) ⟨rfl, hs, h⟩
          · have h := h.2 c93
            refine g_lconst1 dX6_equate_85 ?_
            refine g_goto (tgt := 90) dX6_equate_86 (by decide) ?_
            obtain ⟨c96, h⟩ := h
            refine g_lastore dX6_equate_90 (by decide) (sk_103 hs.S) c96.1 (t_lt (sn_103 hs.S) c96.2) (p_w hs sf_103 (tWs_in _ rfl) fun μ97 eμ97 hs => ?_)
            have h := h μ97 eμ97
            exact g_vret dX6_equate_91 rfl (Nat.le_refl _) (Nat.le_refl _) ⟨rfl, hs, h⟩
        · have h := h.2 c89
          refine g_lconst1 dX6_equate_64 ?_
          refine g_goto (tgt := 69) dX6_equate_65 (by decide) ?_
          obtain ⟨c98, h⟩ := h
          refine g_lastore dX6_equate_69 (by decide) (sk_103 hs.S) c98.1 (t_lt (sn_103 hs.S) c98.2) (p_w hs sf_103 (tWs_in _ rfl) fun μ99 eμ99 hs => ?_)
          have h := h μ99 eμ99
          refine g_aload_n (q := 0) dX6_equate_70 rfl rfl ?_
          refine g_getC (x := 103) 2 dX6_equate_71 fX6_141 rfl (by decide) (sk_65 hs.S) (sv_65_75 hs.S) ?_
          refine g_iconst dX6_equate_74 (by decide) ?_
          refine g_iload_n (q := 1) dX6_equate_75 rfl rfl ?_
          refine g_imul dX6_equate_76 ?_
          refine g_iconst dX6_equate_77 (by decide) ?_
          refine g_iadd dX6_equate_78 ?_
          refine g_iload_n (q := 2) dX6_equate_79 rfl rfl ?_
          refine g_iload (q := 5) dX6_equate_80 rfl ?_
          refine g_icmp_ne (tgt := 89) dX6_equate_82 (by decide) (fun c100 => ?_) (fun c101 => ?_)
          · have h := h.1 c100
            refine g_lconst0 dX6_equate_89 ?_
            obtain ⟨c102, h⟩ := h
            refine g_lastore dX6_equate_90 (by decide) (sk_103 hs.S) c102.1 (t_lt (sn_103 hs.S) c102.2) (p_w hs sf_103 (tWs_in _ rfl) fun μ103 eμ103 hs => ?_)
            have h := h μ103 eμ103
            exact g_vret dX6_equate_91 rfl (Nat.le_refl _) (Nat.le_refl _) ⟨rfl, hs, h⟩
          · have h := h.2 c101
            refine g_lconst1 dX6_equate_85 ?_
            refine g_goto (tgt := 90) dX6_equate_86 (by decide) ?_
            obtain ⟨c104, h⟩ := h
            refine g_lastore dX6_equate_90 (by decide) (sk_103 hs.S) c104.1 (t_lt (sn_103 hs.S) c104.2) (p_w hs sf_103 (tWs_in _ rfl) fun μ105 eμ105 hs => ?_)
            have h := h μ105 eμ105
            exact g_vret dX6_equate_91 rfl (Nat.le_refl _) (Nat.le_refl _) ⟨rfl, hs, h⟩
      · have h := h.2 c87
        refine g_lconst1 dX6_equate_55 ?_
        refine g_goto (tgt := 69) dX6_equate_56 (by decide) ?_
        obtain ⟨c106, h⟩ := h
        refine g_lastore dX6_equate_69 (by decide) (sk_103 hs.S) c106.1 (t_lt (sn_103 hs.S) c106.2) (p_w hs sf_103 (tWs_in _ rfl) fun μ107 eμ107 hs => ?_)
        have h := h μ107 eμ107
        refine g_aload_n (q := 0) dX6_equate_70 rfl rfl ?_
        refine g_getC (x := 103) 2 dX6_equate_71 fX6_141 rfl (by decide) (sk_65 hs.S) (sv_65_75 hs.S) ?_
        refine g_iconst dX6_equate_74 (by decide) ?_
        refine g_iload_n (q := 1) dX6_equate_75 rfl rfl ?_
        refine g_imul dX6_equate_76 ?_
        refine g_iconst dX6_equate_77 (by decide) ?_
        refine g_iadd dX6_equate_78 ?_
        refine g_iload_n (q := 2) dX6_equate_79 rfl rfl ?_
        refine g_iload (q := 5) dX6_equate_80 rfl ?_
        refine g_icmp_ne (tgt := 89) dX6_equate_82 (by decide) (fun c108 => ?_) (fun c109 => ?_)
        · have h := h.1 c108
          refine g_lconst0 dX6_equate_89 ?_
          obtain ⟨c110, h⟩ := h
          refine g_lastore dX6_equate_90 (by decide) (sk_103 hs.S) c110.1 (t_lt (sn_103 hs.S) c110.2) (p_w hs sf_103 (tWs_in _ rfl) fun μ111 eμ111 hs => ?_)
          have h := h μ111 eμ111
          exact g_vret dX6_equate_91 rfl (Nat.le_refl _) (Nat.le_refl _) ⟨rfl, hs, h⟩
        · have h := h.2 c109
          refine g_lconst1 dX6_equate_85 ?_
          refine g_goto (tgt := 90) dX6_equate_86 (by decide) ?_
          obtain ⟨c112, h⟩ := h
          refine g_lastore dX6_equate_90 (by decide) (sk_103 hs.S) c112.1 (t_lt (sn_103 hs.S) c112.2) (p_w hs sf_103 (tWs_in _ rfl) fun μ113 eμ113 hs => ?_)
          have h := h μ113 eμ113
          exact g_vret dX6_equate_91 rfl (Nat.le_refl _) (Nat.le_refl _) ⟨rfl, hs, h⟩
theorem uX6_balance_0 {d : Nat} {μ0 μ : tm_M} {K : tm_M → Prop} {v1 v2 v3 : Int} (hs : tFr wX6_balance μ0 μ)
    (h : (∀ x1, x1 = w32 ((tm_v μ0 65 72) - 1) → (0 ≤ w32 ((w32 (3 * x1)) + v2) ∧ w32 ((w32 (3 * x1)) + v2) < 9) ∧ ((0 ≤ w32 ((w32 (3 * x1)) + v3) ∧ w32 ((w32 (3 * x1)) + v3) < 9) ∧ ((∀ x4, x4 = w32 ((tm_v μ0 101 (w32 ((w32 (3 * x1)) + v2))) - (tm_v μ0 101 (w32 ((w32 (3 * x1)) + v3)))) → (0 ≤ v2 ∧ v2 < 9) ∧ ((0 ≤ v3 ∧ v3 < 9) ∧ ((0 ≤ w32 (3 * v1) ∧ w32 (3 * v1) < 6) ∧ ((∀ μ8, μ8 = tm_w μ 103 (w32 (3 * v1)) (w64 ((w32 ((tm_v μ0 101 v2) - (tm_v μ0 101 v3))) - x4)) → (3 ≤ tm_v μ0 65 72 → (0 ≤ w32 (3 + v2) ∧ w32 (3 + v2) < 9) ∧ ((0 ≤ w32 (3 + v3) ∧ w32 (3 + v3) < 9) ∧ ((0 ≤ w32 ((w32 (3 * v1)) + 1) ∧ w32 ((w32 (3 * v1)) + 1) < 6) ∧ ((∀ μ14, μ14 = tm_w μ8 103 (w32 ((w32 (3 * v1)) + 1)) (w64 ((w32 ((tm_v μ0 101 (w32 (3 + v2))) - (tm_v μ0 101 (w32 (3 + v3))))) - x4)) → (0 ≤ w32 ((w32 (3 * v1)) + 2) ∧ w32 ((w32 (3 * v1)) + 2) < 6) ∧ ((∀ μ16, μ16 = tm_w μ14 103 (w32 ((w32 (3 * v1)) + 2)) (w64 (-x4)) → K μ16))))))) ∧ (tm_v μ0 65 72 < 3 → (0 ≤ w32 ((w32 (3 * v1)) + 1) ∧ w32 ((w32 (3 * v1)) + 1) < 6) ∧ ((∀ μ18, μ18 = tm_w μ8 103 (w32 ((w32 (3 * v1)) + 1)) 0 → (0 ≤ w32 ((w32 (3 * v1)) + 2) ∧ w32 ((w32 (3 * v1)) + 2) < 6) ∧ ((∀ μ20, μ20 = tm_w μ18 103 (w32 ((w32 (3 * v1)) + 2)) (w64 (-x4)) → K μ20)))))))))))))) :
    hV wX6_balance μ0 mX6_balance d K 0 [(0, 2, 65), (1, 0, v1), (2, 0, v2), (3, 0, v3)] [] μ := by
  refine g_aload_n (q := 0) dX6_balance_0 rfl rfl ?_
  refine g_getC (x := tm_v μ0 65 72) 0 dX6_balance_1 fX6_477 rfl (by decide) (sk_65 hs.S) (hs.v (tWs_noF rfl)) ?_
  refine g_iconst dX6_balance_4 (by decide) ?_
  refine g_isub dX6_balance_5 ?_
  refine g_istoreN (fun z => [(0, 2, 65), (1, 0, v1), (2, 0, v2), (3, 0, v3), (4, 0, z)]) dX6_balance_6 (by decide) [1, 2, 3, 4, 0] (fun _ => rfl) (fun x1 ex1 => ?_)
  have h := h x1 ex1
  refine g_aload_n (q := 0) dX6_balance_8 rfl rfl ?_
  refine g_getC (x := 101) 2 dX6_balance_9 fX6_135 rfl (by decide) (sk_65 hs.S) (sv_65_71 hs.S) ?_
  refine g_iconst dX6_balance_12 (by decide) ?_
  refine g_iload (q := 4) dX6_balance_13 rfl ?_
  refine g_imul dX6_balance_15 ?_
  refine g_iload_n (q := 2) dX6_balance_16 rfl rfl ?_
  refine g_iadd dX6_balance_17 ?_
  obtain ⟨c2, h⟩ := h
  refine g_ialoadC (x := tm_v μ0 101 (w32 ((w32 (3 * x1)) + v2))) dX6_balance_18 (by decide) (sk_101 hs.S) c2.1 (t_lt (sn_101 hs.S) c2.2) (hs.v (tWs_no _ rfl)) ?_
  refine g_aload_n (q := 0) dX6_balance_19 rfl rfl ?_
  refine g_getC (x := 101) 2 dX6_balance_20 fX6_135 rfl (by decide) (sk_65 hs.S) (sv_65_71 hs.S) ?_
  refine g_iconst dX6_balance_23 (by decide) ?_
  refine g_iload (q := 4) dX6_balance_24 rfl ?_
  refine g_imul dX6_balance_26 ?_
  refine g_iload_n (q := 3) dX6_balance_27 rfl rfl ?_
  refine g_iadd dX6_balance_28 ?_
  obtain ⟨c3, h⟩ := h
  refine g_ialoadC (x := tm_v μ0 101 (w32 ((w32 (3 * x1)) + v3))) dX6_balance_29 (by decide) (sk_101 hs.S) c3.1 (t_lt (sn_101 hs.S) c3.2) (hs.v (tWs_no _ rfl)) ?_
  refine g_isub dX6_balance_30 ?_
  refine g_i2l dX6_balance_31 ?_
  refine g_lstoreN (fun z => [(0, 2, 65), (1, 0, v1), (2, 0, v2), (3, 0, v3), (4, 0, x1), (5, 1, z)]) dX6_balance_32 (by decide) [1, 2, 3, 4, 5, 0] (fun _ => rfl) (fun x4 ex4 => ?_)
  have h := h x4 ex4
  refine g_aload_n (q := 0) dX6_balance_34 rfl rfl ?_
  refine g_getC (x := 103) 2 dX6_balance_35 fX6_141 rfl (by decide) (sk_65 hs.S) (sv_65_75 hs.S) ?_
  refine g_iconst dX6_balance_38 (by decide) ?_
  refine g_iload_n (q := 1) dX6_balance_39 rfl rfl ?_
  refine g_imul dX6_balance_40 ?_
  refine g_aload_n (q := 0) dX6_balance_41 rfl rfl ?_
  refine g_getC (x := 101) 2 dX6_balance_42 fX6_135 rfl (by decide) (sk_65 hs.S) (sv_65_71 hs.S) ?_
  refine g_iload_n (q := 2) dX6_balance_45 rfl rfl ?_
  obtain ⟨c5, h⟩ := h
  refine g_ialoadC (x := tm_v μ0 101 v2) dX6_balance_46 (by decide) (sk_101 hs.S) c5.1 (t_lt (sn_101 hs.S) c5.2) (hs.v (tWs_no _ rfl)) ?_
  refine g_aload_n (q := 0) dX6_balance_47 rfl rfl ?_
  refine g_getC (x := 101) 2 dX6_balance_48 fX6_135 rfl (by decide) (sk_65 hs.S) (sv_65_71 hs.S) ?_
  refine g_iload_n (q := 3) dX6_balance_51 rfl rfl ?_
  obtain ⟨c6, h⟩ := h
  refine g_ialoadC (x := tm_v μ0 101 v3) dX6_balance_52 (by decide) (sk_101 hs.S) c6.1 (t_lt (sn_101 hs.S) c6.2) (hs.v (tWs_no _ rfl)) ?_
  refine g_isub dX6_balance_53 ?_
  refine g_i2l dX6_balance_54 ?_
  refine g_lload (q := 5) dX6_balance_55 rfl ?_
  refine g_lsub dX6_balance_57 ?_
  obtain ⟨c7, h⟩ := h
  refine g_lastore dX6_balance_58 (by decide) (sk_103 hs.S) c7.1 (t_lt (sn_103 hs.S) c7.2) (p_w hs sf_103 (tWs_in _ rfl) fun μ8 eμ8 hs => ?_)
  have h := h μ8 eμ8
  refine g_aload_n (q := 0) dX6_balance_59 rfl rfl ?_
  refine g_getC (x := 103) 2 dX6_balance_60 fX6_141 rfl (by decide) (sk_65 hs.S) (sv_65_75 hs.S) ?_
  refine g_iconst dX6_balance_63 (by decide) ?_
  refine g_iload_n (q := 1) dX6_balance_64 rfl rfl ?_
  refine g_imul dX6_balance_65 ?_
  refine g_iconst dX6_balance_66 (by decide) ?_
  refine g_iadd dX6_balance_67 ?_
  refine g_aload_n (q := 0) dX6_balance_68 rfl rfl ?_
  refine g_getC (x := tm_v μ0 65 72) 0 dX6_balance_69 fX6_477 rfl (by decide) (sk_65 hs.S) (hs.v (tWs_noF rfl)) ?_
  refine g_iconst dX6_balance_72 (by decide) ?_
  refine g_icmp_ge (tgt := 80) dX6_balance_73 (by decide) (fun c9 => ?_) (fun c10 => ?_)
  · have h := h.1 c9
    refine g_aload_n (q := 0) dX6_balance_80 rfl rfl ?_
    refine g_getC (x := 101) 2 dX6_balance_81 fX6_135 rfl (by decide) (sk_65 hs.S) (sv_65_71 hs.S) ?_
    refine g_iconst dX6_balance_84 (by decide) ?_
    refine g_iload_n (q := 2) dX6_balance_85 rfl rfl ?_
    refine g_iadd dX6_balance_86 ?_
    obtain ⟨c11, h⟩ := h
    refine g_ialoadC (x := tm_v μ0 101 (w32 (3 + v2))) dX6_balance_87 (by decide) (sk_101 hs.S) c11.1 (t_lt (sn_101 hs.S) c11.2) (hs.v (tWs_no _ rfl)) ?_
    refine g_aload_n (q := 0) dX6_balance_88 rfl rfl ?_
    refine g_getC (x := 101) 2 dX6_balance_89 fX6_135 rfl (by decide) (sk_65 hs.S) (sv_65_71 hs.S) ?_
    refine g_iconst dX6_balance_92 (by decide) ?_
    refine g_iload_n (q := 3) dX6_balance_93 rfl rfl ?_
    refine g_iadd dX6_balance_94 ?_
    obtain ⟨c12, h⟩ := h
    refine g_ialoadC (x := tm_v μ0 101 (w32 (3 + v3))) dX6_balance_95 (by decide) (sk_101 hs.S) c12.1 (t_lt (sn_101 hs.S) c12.2) (hs.v (tWs_no _ rfl)) ?_
    refine g_isub dX6_balance_96 ?_
    refine g_i2l dX6_balance_97 ?_
    refine g_lload (q := 5) dX6_balance_98 rfl ?_
    refine g_lsub dX6_balance_100 ?_
    obtain ⟨c13, h⟩ := h
    refine g_lastore dX6_balance_101 (by decide) (sk_103 hs.S) c13.1 (t_lt (sn_103 hs.S) c13.2) (p_w hs sf_103 (tWs_in _ rfl) fun μ14 eμ14 hs => ?_)
    have h := h μ14 eμ14
    refine g_aload_n (q := 0) dX6_balance_102 rfl rfl ?_
    refine g_getC (x := 103) 2 dX6_balance_103 fX6_141 rfl (by decide) (sk_65 hs.S) (sv_65_75 hs.S) ?_
    refine g_iconst dX6_balance_106 (by decide) ?_
    refine g_iload_n (q := 1) dX6_balance_107 rfl rfl ?_
    refine g_imul dX6_balance_108 ?_
    refine g_iconst dX6_balance_109 (by decide) ?_
    refine g_iadd dX6_balance_110 ?_
    refine g_lload (q := 5) dX6_balance_111 rfl ?_
    refine g_lneg dX6_balance_113 ?_
    obtain ⟨c15, h⟩ := h
    refine g_lastore dX6_balance_114 (by decide) (sk_103 hs.S) c15.1 (t_lt (sn_103 hs.S) c15.2) (p_w hs sf_103 (tWs_in _ rfl) fun μ16 eμ16 hs => ?_)
    have h := h μ16 eμ16
    exact g_vret dX6_balance_115 rfl (Nat.le_refl _) (Nat.le_refl _) ⟨rfl, hs, h⟩
  · have h := h.2 c10
    refine g_lconst0 dX6_balance_76 ?_
    refine g_goto (tgt := 101) dX6_balance_77 (by decide) ?_
    obtain ⟨c17, h⟩ := h
    refine g_lastore dX6_balance_101 (by decide) (sk_103 hs.S) c17.1 (t_lt (sn_103 hs.S) c17.2) (p_w hs sf_103 (tWs_in _ rfl) fun μ18 eμ18 hs => ?_)
    have h := h μ18 eμ18
    refine g_aload_n (q := 0) dX6_balance_102 rfl rfl ?_
    refine g_getC (x := 103) 2 dX6_balance_103 fX6_141 rfl (by decide) (sk_65 hs.S) (sv_65_75 hs.S) ?_
    refine g_iconst dX6_balance_106 (by decide) ?_
    refine g_iload_n (q := 1) dX6_balance_107 rfl rfl ?_
    refine g_imul dX6_balance_108 ?_
    refine g_iconst dX6_balance_109 (by decide) ?_
    refine g_iadd dX6_balance_110 ?_
    refine g_lload (q := 5) dX6_balance_111 rfl ?_
    refine g_lneg dX6_balance_113 ?_
    obtain ⟨c19, h⟩ := h
    refine g_lastore dX6_balance_114 (by decide) (sk_103 hs.S) c19.1 (t_lt (sn_103 hs.S) c19.2) (p_w hs sf_103 (tWs_in _ rfl) fun μ20 eμ20 hs => ?_)
    have h := h μ20 eμ20
    exact g_vret dX6_balance_115 rfl (Nat.le_refl _) (Nat.le_refl _) ⟨rfl, hs, h⟩
theorem uX6_valued_0 {d : Nat} {μ0 μ : tm_M} {K : tm_M → Prop} (hd : 2 ≤ d) (hs : tFr wX6_valued μ0 μ)
    (h : cI wX6_isCorner mX6_isCorner (d - 1) [(2, 65)] μ (fun r2 μ1 => (r2 ≠ 0 → cL wX6_mostOf mX6_mostOf (d - 1) [(2, 65)] μ1 (fun r6 μ5 => (tm_v μ5 65 78 ≤ 0 → (-9223372036854775808 < r6 ∧ r6 ≤ 9223372036854775807 ∧ -9223372036854775808 < (tm_v μ5 65 76) ∧ (tm_v μ5 65 76) ≤ 9223372036854775807) ∧ ((∀ x13, x13 = (Int.gcd r6 (tm_v μ5 65 76) : Int) → (x13 ≠ 0) ∧ ((∀ μ15, μ15 = tm_w μ5 65 77 (w64 (r6.tdiv x13)) → (x13 ≠ 0) ∧ ((∀ μ17, μ17 = tm_w μ15 65 78 (w64 ((tm_v μ15 65 76).tdiv x13)) → K μ17))))))) ∧ (0 < tm_v μ5 65 78 → (w64 (r6 * (tm_v μ5 65 78)) < w64 ((tm_v μ5 65 77) * (tm_v μ5 65 76)) → (-9223372036854775808 < r6 ∧ r6 ≤ 9223372036854775807 ∧ -9223372036854775808 < (tm_v μ5 65 76) ∧ (tm_v μ5 65 76) ≤ 9223372036854775807) ∧ ((∀ x24, x24 = (Int.gcd r6 (tm_v μ5 65 76) : Int) → (x24 ≠ 0) ∧ ((∀ μ26, μ26 = tm_w μ5 65 77 (w64 (r6.tdiv x24)) → (x24 ≠ 0) ∧ ((∀ μ28, μ28 = tm_w μ26 65 78 (w64 ((tm_v μ26 65 76).tdiv x24)) → K μ28))))))) ∧ (w64 ((tm_v μ5 65 77) * (tm_v μ5 65 76)) ≤ w64 (r6 * (tm_v μ5 65 78)) → K μ5)))) ∧ (r2 = 0 → K μ1))) :
    hV wX6_valued μ0 mX6_valued d K 0 [(0, 2, 65)] [] μ := by
  refine g_aload_n (q := 0) dX6_valued_0 rfl rfl ?_
  refine g_callV0 dX6_valued_1 kX6_isCorner q1817 q1819 qs107 (ci := 6) rfl (by decide) rfl (by omega) (by decide) (sk_65 hs.S) (Nat.le_of_ble_eq_true rfl) (Nat.le_refl _) (Nat.le_refl _) (t_kI hs (tWs_sub rfl) h (fun r2 μ1 hs h => ?_))
  refine g_if_ne (tgt := 8) dX6_valued_4 (by decide) (fun c3 => ?_) (fun c4 => ?_)
  · have h := h.1 c3
    refine g_aload_n (q := 0) dX6_valued_8 rfl rfl ?_
    refine g_callV0 dX6_valued_9 kX6_mostOf q1821 q1823 qs108 (ci := 6) rfl (by decide) rfl (by omega) (by decide) (sk_65 hs.S) (Nat.le_of_ble_eq_true rfl) (Nat.le_refl _) (Nat.le_refl _) (t_kL hs (tWs_sub rfl) h (fun r6 μ5 hs h => ?_))
    refine g_lstore_n (L' := [(0, 2, 65), (1, 1, r6)]) dX6_valued_12 rfl (by decide) [1, 0] rfl ?_
    refine g_aload_n (q := 0) dX6_valued_13 rfl rfl ?_
    refine g_get 1 dX6_valued_14 fX6_494 rfl (by decide) (sk_65 hs.S) ?_
    refine g_lconst0 dX6_valued_17 ?_
    refine g_lcmp_le (tgt := 42) dX6_valued_18 dX6_valued_19 (by decide) (fun c7 => ?_) (fun c8 => ?_)
    · have h := h.1 c7
      refine g_lload_n (q := 1) dX6_valued_42 rfl rfl ?_
      refine g_aload_n (q := 0) dX6_valued_43 rfl rfl ?_
      refine g_get 1 dX6_valued_44 fX6_480 rfl (by decide) (sk_65 hs.S) ?_
      obtain ⟨c9, h⟩ := h
      refine g_callS2 dX6_valued_47 kX6_common q1712 q1713 rfl (by omega) (Nat.le_of_ble_eq_true rfl) (Nat.le_refl _) (Nat.le_refl _) (t_pL hs (pX6_common (by omega) hs.S c9) ?_)
      refine g_lstore_nN (fun z => [(0, 2, 65), (1, 1, r6), (3, 1, z)]) dX6_valued_50 rfl (by decide) [1, 2, 0] (fun _ => rfl) (fun x13 ex13 => ?_)
      have h := h x13 ex13
      refine g_aload_n (q := 0) dX6_valued_51 rfl rfl ?_
      refine g_lload_n (q := 1) dX6_valued_52 rfl rfl ?_
      refine g_lload_n (q := 2) dX6_valued_53 rfl rfl ?_
      obtain ⟨c14, h⟩ := h
      refine g_ldiv dX6_valued_54 c14 ?_
      refine g_put dX6_valued_55 fX6_497 rfl (by decide) (sk_65 hs.S) (fun e => absurd e (by decide)) (p_wj hs (by decide) (tWs_inF rfl) fun μ15 eμ15 hs => ?_)
      have h := h μ15 eμ15
      refine g_aload_n (q := 0) dX6_valued_58 rfl rfl ?_
      refine g_aload_n (q := 0) dX6_valued_59 rfl rfl ?_
      refine g_get 1 dX6_valued_60 fX6_480 rfl (by decide) (sk_65 hs.S) ?_
      refine g_lload_n (q := 2) dX6_valued_63 rfl rfl ?_
      obtain ⟨c16, h⟩ := h
      refine g_ldiv dX6_valued_64 c16 ?_
      refine g_put dX6_valued_65 fX6_494 rfl (by decide) (sk_65 hs.S) (fun e => absurd e (by decide)) (p_wj hs (by decide) (tWs_inF rfl) fun μ17 eμ17 hs => ?_)
      have h := h μ17 eμ17
      exact g_vret dX6_valued_68 rfl (Nat.le_refl _) (Nat.le_refl _) ⟨rfl, hs, h⟩
    · have h := h.2 c8
      refine g_lload_n (q := 1) dX6_valued_22 rfl rfl ?_
      refine g_aload_n (q := 0) dX6_valued_23 rfl rfl ?_
      refine g_get 1 dX6_valued_24 fX6_494 rfl (by decide) (sk_65 hs.S) ?_
      refine g_lmul dX6_valued_27 ?_
      refine g_aload_n (q := 0) dX6_valued_28 rfl rfl ?_
      refine g_get 1 dX6_valued_29 fX6_497 rfl (by decide) (sk_65 hs.S) ?_
      refine g_aload_n (q := 0) dX6_valued_32 rfl rfl ?_
      refine g_get 1 dX6_valued_33 fX6_480 rfl (by decide) (sk_65 hs.S) ?_
      refine g_lmul dX6_valued_36 ?_
      refine g_lcmp_lt (tgt := 42) dX6_valued_37 dX6_valued_38 (by decide) (fun c18 => ?_) (fun c19 => ?_)
      · have h := h.1 c18
        refine g_lload_n (q := 1) dX6_valued_42 rfl rfl ?_
        refine g_aload_n (q := 0) dX6_valued_43 rfl rfl ?_
        refine g_get 1 dX6_valued_44 fX6_480 rfl (by decide) (sk_65 hs.S) ?_
        obtain ⟨c20, h⟩ := h
        refine g_callS2 dX6_valued_47 kX6_common q1712 q1713 rfl (by omega) (Nat.le_of_ble_eq_true rfl) (Nat.le_refl _) (Nat.le_refl _) (t_pL hs (pX6_common (by omega) hs.S c20) ?_)
        refine g_lstore_nN (fun z => [(0, 2, 65), (1, 1, r6), (3, 1, z)]) dX6_valued_50 rfl (by decide) [1, 2, 0] (fun _ => rfl) (fun x24 ex24 => ?_)
        have h := h x24 ex24
        refine g_aload_n (q := 0) dX6_valued_51 rfl rfl ?_
        refine g_lload_n (q := 1) dX6_valued_52 rfl rfl ?_
        refine g_lload_n (q := 2) dX6_valued_53 rfl rfl ?_
        obtain ⟨c25, h⟩ := h
        refine g_ldiv dX6_valued_54 c25 ?_
        refine g_put dX6_valued_55 fX6_497 rfl (by decide) (sk_65 hs.S) (fun e => absurd e (by decide)) (p_wj hs (by decide) (tWs_inF rfl) fun μ26 eμ26 hs => ?_)
        have h := h μ26 eμ26
        refine g_aload_n (q := 0) dX6_valued_58 rfl rfl ?_
        refine g_aload_n (q := 0) dX6_valued_59 rfl rfl ?_
        refine g_get 1 dX6_valued_60 fX6_480 rfl (by decide) (sk_65 hs.S) ?_
        refine g_lload_n (q := 2) dX6_valued_63 rfl rfl ?_
        obtain ⟨c27, h⟩ := h
        refine g_ldiv dX6_valued_64 c27 ?_
        refine g_put dX6_valued_65 fX6_494 rfl (by decide) (sk_65 hs.S) (fun e => absurd e (by decide)) (p_wj hs (by decide) (tWs_inF rfl) fun μ28 eμ28 hs => ?_)
        have h := h μ28 eμ28
        exact g_vret dX6_valued_68 rfl (Nat.le_refl _) (Nat.le_refl _) ⟨rfl, hs, h⟩
      · have h := h.2 c19
        exact g_vret dX6_valued_41 rfl (Nat.le_refl _) (Nat.le_refl _) ⟨rfl, hs, h⟩
  · have h := h.2 c4
    exact g_vret dX6_valued_7 rfl (Nat.le_refl _) (Nat.le_refl _) ⟨rfl, hs, h⟩
theorem uX6_isSet_0 {d : Nat} {μ0 μ : tm_M} {K : Int → tm_M → Prop} {v1 v2 : Int} (hd : 1 ≤ d) (hs : tFr wX6_isSet μ0 μ)
    (h : (3 ≤ v2 → (v2 ≠ 5 → (v2 ≠ 3 → (2 < tm_v μ0 65 73 → cV wX6_balance mX6_balance (d - 1) [(2, 65), (0, v1), (0, 0), (0, 2)] μ (fun μ9 => K 1 μ9)) ∧ (tm_v μ0 65 73 ≤ 2 → K 0 μ)) ∧ (v2 = 3 → (1 < tm_v μ0 65 73 → cV wX6_balance mX6_balance (d - 1) [(2, 65), (0, v1), (0, 0), (0, 1)] μ (fun μ12 => K 1 μ12)) ∧ (tm_v μ0 65 73 ≤ 1 → K 0 μ))) ∧ (v2 = 5 → (v2 ≠ 3 → (2 < tm_v μ0 65 73 → cV wX6_balance mX6_balance (d - 1) [(2, 65), (0, v1), (0, 1), (0, 2)] μ (fun μ17 => K 1 μ17)) ∧ (tm_v μ0 65 73 ≤ 2 → K 0 μ)) ∧ (v2 = 3 → (1 < tm_v μ0 65 73 → cV wX6_balance mX6_balance (d - 1) [(2, 65), (0, v1), (0, 1), (0, 1)] μ (fun μ20 => K 1 μ20)) ∧ (tm_v μ0 65 73 ≤ 1 → K 0 μ)))) ∧ (v2 < 3 → (v2 < tm_v μ0 65 72 → cV wX6_equate mX6_equate (d - 1) [(2, 65), (0, v1), (0, v2), (1, 0), (1, 1)] μ (fun μ23 => K 1 μ23)) ∧ (tm_v μ0 65 72 ≤ v2 → K 0 μ))) :
    hI wX6_isSet μ0 mX6_isSet d K 0 [(0, 2, 65), (1, 0, v1), (2, 0, v2)] [] μ := by
  refine g_iload_n (q := 2) dX6_isSet_0 rfl rfl ?_
  refine g_iconst dX6_isSet_1 (by decide) ?_
  refine g_icmp_ge (tgt := 25) dX6_isSet_2 (by decide) (fun c1 => ?_) (fun c2 => ?_)
  · have h := h.1 c1
    refine g_iload_n (q := 2) dX6_isSet_25 rfl rfl ?_
    refine g_iconst dX6_isSet_26 (by decide) ?_
    refine g_icmp_ne (tgt := 34) dX6_isSet_27 (by decide) (fun c3 => ?_) (fun c4 => ?_)
    · have h := h.1 c3
      refine g_iconst dX6_isSet_34 (by decide) ?_
      refine g_istore_n (L' := [(0, 2, 65), (1, 0, v1), (2, 0, v2), (3, 0, 0)]) dX6_isSet_35 rfl (by decide) [1, 2, 3, 0] rfl ?_
      refine g_iload_n (q := 2) dX6_isSet_36 rfl rfl ?_
      refine g_iconst dX6_isSet_37 (by decide) ?_
      refine g_icmp_ne (tgt := 45) dX6_isSet_38 (by decide) (fun c5 => ?_) (fun c6 => ?_)
      · have h := h.1 c5
        refine g_iconst dX6_isSet_45 (by decide) ?_
        refine g_istore (L' := [(0, 2, 65), (1, 0, v1), (2, 0, v2), (3, 0, 0), (4, 0, 2)]) dX6_isSet_46 (by decide) [1, 2, 3, 4, 0] rfl ?_
        refine g_iload (q := 4) dX6_isSet_48 rfl ?_
        refine g_aload_n (q := 0) dX6_isSet_50 rfl rfl ?_
        refine g_getC (x := tm_v μ0 65 73) 0 dX6_isSet_51 fX6_483 rfl (by decide) (sk_65 hs.S) (hs.v (tWs_noF rfl)) ?_
        refine g_icmp_lt (tgt := 59) dX6_isSet_54 (by decide) (fun c7 => ?_) (fun c8 => ?_)
        · have h := h.1 c7
          refine g_aload_n (q := 0) dX6_isSet_59 rfl rfl ?_
          refine g_iload_n (q := 1) dX6_isSet_60 rfl rfl ?_
          refine g_iload_n (q := 3) dX6_isSet_61 rfl rfl ?_
          refine g_iload (q := 4) dX6_isSet_62 rfl ?_
          refine g_callV3 dX6_isSet_64 kX6_balance q1834 q1836 qs111 (ci := 6) rfl (by decide) rfl (by omega) (by decide) (sk_65 hs.S) (Nat.le_of_ble_eq_true rfl) (Nat.le_refl _) (Nat.le_refl _) (t_kV hs (tWs_sub rfl) h (fun μ9 hs h => ?_))
          refine g_iconst dX6_isSet_67 (by decide) ?_
          exact g_zret dX6_isSet_68 rfl (by decide) (Nat.le_refl _) (Nat.le_refl _) ⟨_, rfl, hs, h⟩
        · have h := h.2 c8
          refine g_iconst dX6_isSet_57 (by decide) ?_
          exact g_zret dX6_isSet_58 rfl (by decide) (Nat.le_refl _) (Nat.le_refl _) ⟨_, rfl, hs, h⟩
      · have h := h.2 c6
        refine g_iconst dX6_isSet_41 (by decide) ?_
        refine g_goto (tgt := 46) dX6_isSet_42 (by decide) ?_
        refine g_istore (L' := [(0, 2, 65), (1, 0, v1), (2, 0, v2), (3, 0, 0), (4, 0, 1)]) dX6_isSet_46 (by decide) [1, 2, 3, 4, 0] rfl ?_
        refine g_iload (q := 4) dX6_isSet_48 rfl ?_
        refine g_aload_n (q := 0) dX6_isSet_50 rfl rfl ?_
        refine g_getC (x := tm_v μ0 65 73) 0 dX6_isSet_51 fX6_483 rfl (by decide) (sk_65 hs.S) (hs.v (tWs_noF rfl)) ?_
        refine g_icmp_lt (tgt := 59) dX6_isSet_54 (by decide) (fun c10 => ?_) (fun c11 => ?_)
        · have h := h.1 c10
          refine g_aload_n (q := 0) dX6_isSet_59 rfl rfl ?_
          refine g_iload_n (q := 1) dX6_isSet_60 rfl rfl ?_
          refine g_iload_n (q := 3) dX6_isSet_61 rfl rfl ?_
          refine g_iload (q := 4) dX6_isSet_62 rfl ?_
          refine g_callV3 dX6_isSet_64 kX6_balance q1834 q1836 qs111 (ci := 6) rfl (by decide) rfl (by omega) (by decide) (sk_65 hs.S) (Nat.le_of_ble_eq_true rfl) (Nat.le_refl _) (Nat.le_refl _) (t_kV hs (tWs_sub rfl) h (fun μ12 hs h => ?_))
          refine g_iconst dX6_isSet_67 (by decide) ?_
          exact g_zret dX6_isSet_68 rfl (by decide) (Nat.le_refl _) (Nat.le_refl _) ⟨_, rfl, hs, h⟩
        · have h := h.2 c11
          refine g_iconst dX6_isSet_57 (by decide) ?_
          exact g_zret dX6_isSet_58 rfl (by decide) (Nat.le_refl _) (Nat.le_refl _) ⟨_, rfl, hs, h⟩
    · have h := h.2 c4
      refine g_iconst dX6_isSet_30 (by decide) ?_
      refine g_goto (tgt := 35) dX6_isSet_31 (by decide) ?_
      refine g_istore_n (L' := [(0, 2, 65), (1, 0, v1), (2, 0, v2), (3, 0, 1)]) dX6_isSet_35 rfl (by decide) [1, 2, 3, 0] rfl ?_
      refine g_iload_n (q := 2) dX6_isSet_36 rfl rfl ?_
      refine g_iconst dX6_isSet_37 (by decide) ?_
      refine g_icmp_ne (tgt := 45) dX6_isSet_38 (by decide) (fun c13 => ?_) (fun c14 => ?_)
      · have h := h.1 c13
        refine g_iconst dX6_isSet_45 (by decide) ?_
        refine g_istore (L' := [(0, 2, 65), (1, 0, v1), (2, 0, v2), (3, 0, 1), (4, 0, 2)]) dX6_isSet_46 (by decide) [1, 2, 3, 4, 0] rfl ?_
        refine g_iload (q := 4) dX6_isSet_48 rfl ?_
        refine g_aload_n (q := 0) dX6_isSet_50 rfl rfl ?_
        refine g_getC (x := tm_v μ0 65 73) 0 dX6_isSet_51 fX6_483 rfl (by decide) (sk_65 hs.S) (hs.v (tWs_noF rfl)) ?_
        refine g_icmp_lt (tgt := 59) dX6_isSet_54 (by decide) (fun c15 => ?_) (fun c16 => ?_)
        · have h := h.1 c15
          refine g_aload_n (q := 0) dX6_isSet_59 rfl rfl ?_
          refine g_iload_n (q := 1) dX6_isSet_60 rfl rfl ?_
          refine g_iload_n (q := 3) dX6_isSet_61 rfl rfl ?_
          refine g_iload (q := 4) dX6_isSet_62 rfl ?_
          refine g_callV3 dX6_isSet_64 kX6_balance q1834 q1836 qs111 (ci := 6) rfl (by decide) rfl (by omega) (by decide) (sk_65 hs.S) (Nat.le_of_ble_eq_true rfl) (Nat.le_refl _) (Nat.le_refl _) (t_kV hs (tWs_sub rfl) h (fun μ17 hs h => ?_))
          refine g_iconst dX6_isSet_67 (by decide) ?_
          exact g_zret dX6_isSet_68 rfl (by decide) (Nat.le_refl _) (Nat.le_refl _) ⟨_, rfl, hs, h⟩
        · have h := h.2 c16
          refine g_iconst dX6_isSet_57 (by decide) ?_
          exact g_zret dX6_isSet_58 rfl (by decide) (Nat.le_refl _) (Nat.le_refl _) ⟨_, rfl, hs, h⟩
      · have h := h.2 c14
        refine g_iconst dX6_isSet_41 (by decide) ?_
        refine g_goto (tgt := 46) dX6_isSet_42 (by decide) ?_
        refine g_istore (L' := [(0, 2, 65), (1, 0, v1), (2, 0, v2), (3, 0, 1), (4, 0, 1)]) dX6_isSet_46 (by decide) [1, 2, 3, 4, 0] rfl ?_
        refine g_iload (q := 4) dX6_isSet_48 rfl ?_
        refine g_aload_n (q := 0) dX6_isSet_50 rfl rfl ?_
        refine g_getC (x := tm_v μ0 65 73) 0 dX6_isSet_51 fX6_483 rfl (by decide) (sk_65 hs.S) (hs.v (tWs_noF rfl)) ?_
        refine g_icmp_lt (tgt := 59) dX6_isSet_54 (by decide) (fun c18 => ?_) (fun c19 => ?_)
        · have h := h.1 c18
          refine g_aload_n (q := 0) dX6_isSet_59 rfl rfl ?_
          refine g_iload_n (q := 1) dX6_isSet_60 rfl rfl ?_
          refine g_iload_n (q := 3) dX6_isSet_61 rfl rfl ?_
          refine g_iload (q := 4) dX6_isSet_62 rfl ?_
          refine g_callV3 dX6_isSet_64 kX6_balance q1834 q1836 qs111 (ci := 6) rfl (by decide) rfl (by omega) (by decide) (sk_65 hs.S) (Nat.le_of_ble_eq_true rfl) (Nat.le_refl _) (Nat.le_refl _) (t_kV hs (tWs_sub rfl) h (fun μ20 hs h => ?_))
          refine g_iconst dX6_isSet_67 (by decide) ?_
          exact g_zret dX6_isSet_68 rfl (by decide) (Nat.le_refl _) (Nat.le_refl _) ⟨_, rfl, hs, h⟩
        · have h := h.2 c19
          refine g_iconst dX6_isSet_57 (by decide) ?_
          exact g_zret dX6_isSet_58 rfl (by decide) (Nat.le_refl _) (Nat.le_refl _) ⟨_, rfl, hs, h⟩
  · have h := h.2 c2
    refine g_iload_n (q := 2) dX6_isSet_5 rfl rfl ?_
    refine g_aload_n (q := 0) dX6_isSet_6 rfl rfl ?_
    refine g_getC (x := tm_v μ0 65 72) 0 dX6_isSet_7 fX6_477 rfl (by decide) (sk_65 hs.S) (hs.v (tWs_noF rfl)) ?_
    refine g_icmp_lt (tgt := 15) dX6_isSet_10 (by decide) (fun c21 => ?_) (fun c22 => ?_)
    · have h := h.1 c21
      refine g_aload_n (q := 0) dX6_isSet_15 rfl rfl ?_
      refine g_iload_n (q := 1) dX6_isSet_16 rfl rfl ?_
      refine g_iload_n (q := 2) dX6_isSet_17 rfl rfl ?_
      refine g_lconst0 dX6_isSet_18 ?_
      refine g_lconst1 dX6_isSet_19 ?_
      refine g_callV4 dX6_isSet_20 kX6_equate q1830 q1832 qs110 (ci := 6) rfl (by decide) rfl (by omega) (by decide) (sk_65 hs.S) (Nat.le_of_ble_eq_true rfl) (Nat.le_refl _) (Nat.le_refl _) (t_kV hs (tWs_sub rfl) h (fun μ23 hs h => ?_))
      refine g_iconst dX6_isSet_23 (by decide) ?_
      exact g_zret dX6_isSet_24 rfl (by decide) (Nat.le_refl _) (Nat.le_refl _) ⟨_, rfl, hs, h⟩
    · have h := h.2 c22
      refine g_iconst dX6_isSet_13 (by decide) ?_
      exact g_zret dX6_isSet_14 rfl (by decide) (Nat.le_refl _) (Nat.le_refl _) ⟨_, rfl, hs, h⟩
theorem uX6_findValue_0 {d : Nat} {μ0 μ : tm_M} {K : tm_M → Prop} (hd : 1 ≤ d) (hs : tFr wX6_findValue μ0 μ)
    (h : (∀ μ1, μ1 = tm_w μ 65 78 0 → (tm_v μ0 65 72 ≠ 1 → hV wX6_findValue μ0 mX6_findValue d K 19 [(0, 2, 65), (1, 0, 0)] [] μ1) ∧ (tm_v μ0 65 72 = 1 → cV wX6_valued mX6_valued (d - 1) [(2, 65)] μ1 (fun μ4 => hV wX6_findValue μ0 mX6_findValue d K 19 [(0, 2, 65), (1, 0, 0)] [] μ4)))) :
    hV wX6_findValue μ0 mX6_findValue d K 0 [(0, 2, 65)] [] μ := by
  refine g_aload_n (q := 0) dX6_findValue_0 rfl rfl ?_
  refine g_lconst0 dX6_findValue_1 ?_
  refine g_put dX6_findValue_2 fX6_494 rfl (by decide) (sk_65 hs.S) (fun e => absurd e (by decide)) (p_wj hs (by decide) (tWs_inF rfl) fun μ1 eμ1 hs => ?_)
  have h := h μ1 eμ1
  refine g_aload_n (q := 0) dX6_findValue_5 rfl rfl ?_
  refine g_getC (x := tm_v μ0 65 72) 0 dX6_findValue_6 fX6_477 rfl (by decide) (sk_65 hs.S) (hs.v (tWs_noF rfl)) ?_
  refine g_iconst dX6_findValue_9 (by decide) ?_
  refine g_icmp_ne (tgt := 17) dX6_findValue_10 (by decide) (fun c2 => ?_) (fun c3 => ?_)
  · have h := h.1 c2
    refine g_iconst dX6_findValue_17 (by decide) ?_
    refine g_istore_n (L' := [(0, 2, 65), (1, 0, 0)]) dX6_findValue_18 rfl (by decide) [1, 0] rfl ?_
    exact h
  · have h := h.2 c3
    refine g_aload_n (q := 0) dX6_findValue_13 rfl rfl ?_
    refine g_callV0 dX6_findValue_14 kX6_valued q1813 q1815 qs106 (ci := 6) rfl (by decide) rfl (by omega) (by decide) (sk_65 hs.S) (Nat.le_of_ble_eq_true rfl) (Nat.le_refl _) (Nat.le_refl _) (t_kV hs (tWs_sub rfl) h (fun μ4 hs h => ?_))
    refine g_iconst dX6_findValue_17 (by decide) ?_
    refine g_istore_n (L' := [(0, 2, 65), (1, 0, 0)]) dX6_findValue_18 rfl (by decide) [1, 0] rfl ?_
    exact h
theorem uX6_findValue_19 {d : Nat} {μ0 μ : tm_M} {K : tm_M → Prop} {v1 : Int} (hd : 1 ≤ d) (hs : tFr wX6_findValue μ0 μ)
    (h : (6 ≤ v1 → K μ) ∧ (v1 < 6 → (tm_v μ0 65 72 ≤ 1 → K μ) ∧ (1 < tm_v μ0 65 72 → cI wX6_isSet mX6_isSet (d - 1) [(2, 65), (0, 0), (0, v1)] μ (fun r6 μ5 => (r6 ≠ 0 → (tm_v μ0 65 72 ≠ 2 → (∀ x11, x11 = w32 (v1 + 1) → hV wX6_findValue μ0 mX6_findValue d K 61 [(0, 2, 65), (1, 0, v1), (2, 0, x11)] [] μ5)) ∧ (tm_v μ0 65 72 = 2 → cV wX6_valued mX6_valued (d - 1) [(2, 65)] μ5 (fun μ12 => (∀ x13, x13 = w32 (v1 + 1) → hV wX6_findValue μ0 mX6_findValue d K 61 [(0, 2, 65), (1, 0, v1), (2, 0, x13)] [] μ12)))) ∧ (r6 = 0 → hV wX6_findValue μ0 mX6_findValue d K 19 [(0, 2, 65), (1, 0, w32 (v1 + 1))] [] μ5))))) :
    hV wX6_findValue μ0 mX6_findValue d K 19 [(0, 2, 65), (1, 0, v1)] [] μ := by
  refine g_iload_n (q := 1) dX6_findValue_19 rfl rfl ?_
  refine g_bipush dX6_findValue_20 ⟨by decide, by decide, rfl⟩ ?_
  refine g_icmp_ge (tgt := 112) dX6_findValue_22 (by decide) (fun c1 => ?_) (fun c2 => ?_)
  · have h := h.1 c1
    exact g_vret dX6_findValue_112 rfl (Nat.le_refl _) (Nat.le_refl _) ⟨rfl, hs, h⟩
  · have h := h.2 c2
    refine g_aload_n (q := 0) dX6_findValue_25 rfl rfl ?_
    refine g_getC (x := tm_v μ0 65 72) 0 dX6_findValue_26 fX6_477 rfl (by decide) (sk_65 hs.S) (hs.v (tWs_noF rfl)) ?_
    refine g_iconst dX6_findValue_29 (by decide) ?_
    refine g_icmp_le (tgt := 112) dX6_findValue_30 (by decide) (fun c3 => ?_) (fun c4 => ?_)
    · have h := h.1 c3
      exact g_vret dX6_findValue_112 rfl (Nat.le_refl _) (Nat.le_refl _) ⟨rfl, hs, h⟩
    · have h := h.2 c4
      refine g_aload_n (q := 0) dX6_findValue_33 rfl rfl ?_
      refine g_iconst dX6_findValue_34 (by decide) ?_
      refine g_iload_n (q := 1) dX6_findValue_35 rfl rfl ?_
      refine g_callV2 dX6_findValue_36 kX6_isSet q1826 q1828 qs109 (ci := 6) rfl (by decide) rfl (by omega) (by decide) (sk_65 hs.S) (Nat.le_of_ble_eq_true rfl) (Nat.le_refl _) (Nat.le_refl _) (t_kI hs (tWs_sub rfl) h (fun r6 μ5 hs h => ?_))
      refine g_if_ne (tgt := 45) dX6_findValue_39 (by decide) (fun c7 => ?_) (fun c8 => ?_)
      · have h := h.1 c7
        refine g_aload_n (q := 0) dX6_findValue_45 rfl rfl ?_
        refine g_getC (x := tm_v μ0 65 72) 0 dX6_findValue_46 fX6_477 rfl (by decide) (sk_65 hs.S) (hs.v (tWs_noF rfl)) ?_
        refine g_iconst dX6_findValue_49 (by decide) ?_
        refine g_icmp_ne (tgt := 57) dX6_findValue_50 (by decide) (fun c9 => ?_) (fun c10 => ?_)
        · have h := h.1 c9
          refine g_iload_n (q := 1) dX6_findValue_57 rfl rfl ?_
          refine g_iconst dX6_findValue_58 (by decide) ?_
          refine g_iadd dX6_findValue_59 ?_
          refine g_istore_nN (fun z => [(0, 2, 65), (1, 0, v1), (2, 0, z)]) dX6_findValue_60 rfl (by decide) [1, 2, 0] (fun _ => rfl) (fun x11 ex11 => ?_)
          have h := h x11 ex11
          exact h
        · have h := h.2 c10
          refine g_aload_n (q := 0) dX6_findValue_53 rfl rfl ?_
          refine g_callV0 dX6_findValue_54 kX6_valued q1813 q1815 qs106 (ci := 6) rfl (by decide) rfl (by omega) (by decide) (sk_65 hs.S) (Nat.le_of_ble_eq_true rfl) (Nat.le_refl _) (Nat.le_refl _) (t_kV hs (tWs_sub rfl) h (fun μ12 hs h => ?_))
          refine g_iload_n (q := 1) dX6_findValue_57 rfl rfl ?_
          refine g_iconst dX6_findValue_58 (by decide) ?_
          refine g_iadd dX6_findValue_59 ?_
          refine g_istore_nN (fun z => [(0, 2, 65), (1, 0, v1), (2, 0, z)]) dX6_findValue_60 rfl (by decide) [1, 2, 0] (fun _ => rfl) (fun x13 ex13 => ?_)
          have h := h x13 ex13
          exact h
      · have h := h.2 c8
        refine g_goto (tgt := 106) dX6_findValue_42 (by decide) ?_
        refine g_iinc (q := 1) dX6_findValue_106 (by decide) rfl [1, 0] rfl ?_
        refine g_goto (tgt := 19) dX6_findValue_109 (by decide) ?_
        exact h
theorem uX6_findValue_61 {d : Nat} {μ0 μ : tm_M} {K : tm_M → Prop} {v1 v2 : Int} (hd : 1 ≤ d) (hs : tFr wX6_findValue μ0 μ)
    (h : (6 ≤ v2 → hV wX6_findValue μ0 mX6_findValue d K 19 [(0, 2, 65), (1, 0, w32 (v1 + 1))] [] μ) ∧ (v2 < 6 → (tm_v μ0 65 72 ≠ 3 → hV wX6_findValue μ0 mX6_findValue d K 19 [(0, 2, 65), (1, 0, w32 (v1 + 1))] [] μ) ∧ (tm_v μ0 65 72 = 3 → cI wX6_isSet mX6_isSet (d - 1) [(2, 65), (0, 1), (0, v2)] μ (fun r6 μ5 => (r6 = 0 → hV wX6_findValue μ0 mX6_findValue d K 61 [(0, 2, 65), (1, 0, v1), (2, 0, w32 (v2 + 1))] [] μ5) ∧ (r6 ≠ 0 → cI wX6_isSet mX6_isSet (d - 1) [(2, 65), (0, 0), (0, v1)] μ5 (fun r10 μ9 => (r10 ≠ 0 → cV wX6_valued mX6_valued (d - 1) [(2, 65)] μ9 (fun μ13 => hV wX6_findValue μ0 mX6_findValue d K 61 [(0, 2, 65), (1, 0, v1), (2, 0, w32 (v2 + 1))] [] μ13)) ∧ (r10 = 0 → hV wX6_findValue μ0 mX6_findValue d K 61 [(0, 2, 65), (1, 0, v1), (2, 0, w32 (v2 + 1))] [] μ9))))))) :
    hV wX6_findValue μ0 mX6_findValue d K 61 [(0, 2, 65), (1, 0, v1), (2, 0, v2)] [] μ := by
  refine g_iload_n (q := 2) dX6_findValue_61 rfl rfl ?_
  refine g_bipush dX6_findValue_62 ⟨by decide, by decide, rfl⟩ ?_
  refine g_icmp_ge (tgt := 106) dX6_findValue_64 (by decide) (fun c1 => ?_) (fun c2 => ?_)
  · have h := h.1 c1
    refine g_iinc (q := 1) dX6_findValue_106 (by decide) rfl [1, 0, 2] rfl ?_
    refine g_goto (tgt := 19) dX6_findValue_109 (by decide) ?_
    exact g_less [0, 1] rfl h
  · have h := h.2 c2
    refine g_aload_n (q := 0) dX6_findValue_67 rfl rfl ?_
    refine g_getC (x := tm_v μ0 65 72) 0 dX6_findValue_68 fX6_477 rfl (by decide) (sk_65 hs.S) (hs.v (tWs_noF rfl)) ?_
    refine g_iconst dX6_findValue_71 (by decide) ?_
    refine g_icmp_ne (tgt := 106) dX6_findValue_72 (by decide) (fun c3 => ?_) (fun c4 => ?_)
    · have h := h.1 c3
      refine g_iinc (q := 1) dX6_findValue_106 (by decide) rfl [1, 0, 2] rfl ?_
      refine g_goto (tgt := 19) dX6_findValue_109 (by decide) ?_
      exact g_less [0, 1] rfl h
    · have h := h.2 c4
      refine g_aload_n (q := 0) dX6_findValue_75 rfl rfl ?_
      refine g_iconst dX6_findValue_76 (by decide) ?_
      refine g_iload_n (q := 2) dX6_findValue_77 rfl rfl ?_
      refine g_callV2 dX6_findValue_78 kX6_isSet q1826 q1828 qs109 (ci := 6) rfl (by decide) rfl (by omega) (by decide) (sk_65 hs.S) (Nat.le_of_ble_eq_true rfl) (Nat.le_refl _) (Nat.le_refl _) (t_kI hs (tWs_sub rfl) h (fun r6 μ5 hs h => ?_))
      refine g_if_eq (tgt := 100) dX6_findValue_81 (by decide) (fun c7 => ?_) (fun c8 => ?_)
      · have h := h.1 c7
        refine g_iinc (q := 2) dX6_findValue_100 (by decide) rfl [1, 2, 0] rfl ?_
        refine g_goto (tgt := 61) dX6_findValue_103 (by decide) ?_
        exact h
      · have h := h.2 c8
        refine g_aload_n (q := 0) dX6_findValue_84 rfl rfl ?_
        refine g_iconst dX6_findValue_85 (by decide) ?_
        refine g_iload_n (q := 1) dX6_findValue_86 rfl rfl ?_
        refine g_callV2 dX6_findValue_87 kX6_isSet q1826 q1828 qs109 (ci := 6) rfl (by decide) rfl (by omega) (by decide) (sk_65 hs.S) (Nat.le_of_ble_eq_true rfl) (Nat.le_refl _) (Nat.le_refl _) (t_kI hs (tWs_sub rfl) h (fun r10 μ9 hs h => ?_))
        refine g_if_ne (tgt := 96) dX6_findValue_90 (by decide) (fun c11 => ?_) (fun c12 => ?_)
        · have h := h.1 c11
          refine g_aload_n (q := 0) dX6_findValue_96 rfl rfl ?_
          refine g_callV0 dX6_findValue_97 kX6_valued q1813 q1815 qs106 (ci := 6) rfl (by decide) rfl (by omega) (by decide) (sk_65 hs.S) (Nat.le_of_ble_eq_true rfl) (Nat.le_refl _) (Nat.le_refl _) (t_kV hs (tWs_sub rfl) h (fun μ13 hs h => ?_))
          refine g_iinc (q := 2) dX6_findValue_100 (by decide) rfl [1, 2, 0] rfl ?_
          refine g_goto (tgt := 61) dX6_findValue_103 (by decide) ?_
          exact h
        · have h := h.2 c12
          refine g_goto (tgt := 100) dX6_findValue_93 (by decide) ?_
          refine g_iinc (q := 2) dX6_findValue_100 (by decide) rfl [1, 2, 0] rfl ?_
          refine g_goto (tgt := 61) dX6_findValue_103 (by decide) ?_
          exact h
theorem uX6_chosen_0 {d : Nat} {μ0 μ : tm_M} {K : tm_M → Prop} (hd : 1 ≤ d) (hs : tFr wX6_chosen μ0 μ)
    (h : cI wX6_isCorner mX6_isCorner (d - 1) [(2, 65)] μ (fun r2 μ1 => (r2 = 0 → K μ1) ∧ (r2 ≠ 0 → cL wX6_mostOf mX6_mostOf (d - 1) [(2, 65)] μ1 (fun r6 μ5 => (w64 (r6 * (tm_v μ0 65 78)) ≤ w64 ((tm_v μ0 65 77) * (tm_v μ5 65 76)) → (tm_v μ5 65 54 = 0 → (∀ μ13, μ13 = tm_w μ5 65 54 (tm_v μ0 65 72) → (∀ μ14, μ14 = tm_w μ13 65 59 (tm_v μ13 65 76) → hV wX6_chosen μ0 mX6_chosen d K 144 [(0, 2, 65), (2, 0, 0)] [] μ14))) ∧ (tm_v μ5 65 54 ≠ 0 → (w64 ((tm_v μ5 93 0) * (tm_v μ5 65 76)) < w64 ((tm_v μ5 102 0) * (tm_v μ5 65 59)) → (∀ μ19, μ19 = tm_w μ5 65 54 (tm_v μ0 65 72) → (∀ μ20, μ20 = tm_w μ19 65 59 (tm_v μ19 65 76) → hV wX6_chosen μ0 mX6_chosen d K 144 [(0, 2, 65), (2, 0, 0)] [] μ20))) ∧ (w64 ((tm_v μ5 102 0) * (tm_v μ5 65 59)) ≤ w64 ((tm_v μ5 93 0) * (tm_v μ5 65 76)) → (w64 ((tm_v μ5 102 0) * (tm_v μ5 65 59)) ≠ w64 ((tm_v μ5 93 0) * (tm_v μ5 65 76)) → K μ5) ∧ (w64 ((tm_v μ5 102 0) * (tm_v μ5 65 59)) = w64 ((tm_v μ5 93 0) * (tm_v μ5 65 76)) → (w64 ((tm_v μ5 102 1) * (tm_v μ5 65 59)) ≤ w64 ((tm_v μ5 93 1) * (tm_v μ5 65 76)) → K μ5) ∧ (w64 ((tm_v μ5 93 1) * (tm_v μ5 65 76)) < w64 ((tm_v μ5 102 1) * (tm_v μ5 65 59)) → (∀ μ31, μ31 = tm_w μ5 65 54 (tm_v μ0 65 72) → (∀ μ32, μ32 = tm_w μ31 65 59 (tm_v μ31 65 76) → hV wX6_chosen μ0 mX6_chosen d K 144 [(0, 2, 65), (2, 0, 0)] [] μ32))))))) ∧ (w64 ((tm_v μ0 65 77) * (tm_v μ5 65 76)) < w64 (r6 * (tm_v μ0 65 78)) → K μ5))))) :
    hV wX6_chosen μ0 mX6_chosen d K 0 [(0, 2, 65)] [] μ := by
  refine g_aload_n (q := 0) dX6_chosen_0 rfl rfl ?_
  refine g_callV0 dX6_chosen_1 kX6_isCorner q1817 q1819 qs107 (ci := 6) rfl (by decide) rfl (by omega) (by decide) (sk_65 hs.S) (Nat.le_of_ble_eq_true rfl) (Nat.le_refl _) (Nat.le_refl _) (t_kI hs (tWs_sub rfl) h (fun r2 μ1 hs h => ?_))
  refine g_if_eq (tgt := 29) dX6_chosen_4 (by decide) (fun c3 => ?_) (fun c4 => ?_)
  · have h := h.1 c3
    exact g_vret dX6_chosen_29 rfl (Nat.le_refl _) (Nat.le_refl _) ⟨rfl, hs, h⟩
  · have h := h.2 c4
    refine g_aload_n (q := 0) dX6_chosen_7 rfl rfl ?_
    refine g_callV0 dX6_chosen_8 kX6_mostOf q1821 q1823 qs108 (ci := 6) rfl (by decide) rfl (by omega) (by decide) (sk_65 hs.S) (Nat.le_of_ble_eq_true rfl) (Nat.le_refl _) (Nat.le_refl _) (t_kL hs (tWs_sub rfl) h (fun r6 μ5 hs h => ?_))
    refine g_aload_n (q := 0) dX6_chosen_11 rfl rfl ?_
    refine g_getC (x := tm_v μ0 65 78) 1 dX6_chosen_12 fX6_494 rfl (by decide) (sk_65 hs.S) (hs.v (tWs_noF rfl)) ?_
    refine g_lmul dX6_chosen_15 ?_
    refine g_aload_n (q := 0) dX6_chosen_16 rfl rfl ?_
    refine g_getC (x := tm_v μ0 65 77) 1 dX6_chosen_17 fX6_497 rfl (by decide) (sk_65 hs.S) (hs.v (tWs_noF rfl)) ?_
    refine g_aload_n (q := 0) dX6_chosen_20 rfl rfl ?_
    refine g_get 1 dX6_chosen_21 fX6_480 rfl (by decide) (sk_65 hs.S) ?_
    refine g_lmul dX6_chosen_24 ?_
    refine g_lcmp_le (tgt := 30) dX6_chosen_25 dX6_chosen_26 (by decide) (fun c7 => ?_) (fun c8 => ?_)
    · have h := h.1 c7
      refine g_aload_n (q := 0) dX6_chosen_30 rfl rfl ?_
      refine g_get 0 dX6_chosen_31 fX6_514 rfl (by decide) (sk_65 hs.S) ?_
      refine g_if_eq (tgt := 115) dX6_chosen_34 (by decide) (fun c9 => ?_) (fun c10 => ?_)
      · have h := h.1 c9
        refine g_iconst dX6_chosen_115 (by decide) ?_
        refine g_goto (tgt := 120) dX6_chosen_116 (by decide) ?_
        refine g_istore_n (L' := [(0, 2, 65), (1, 0, 1)]) dX6_chosen_120 rfl (by decide) [1, 0] rfl ?_
        refine g_iload_n (q := 1) dX6_chosen_121 rfl rfl ?_
        refine g_if_ne (tgt := 126) dX6_chosen_122 (by decide) (fun c11 => ?_) (fun c12 => ?_)
        · refine g_aload_n (q := 0) dX6_chosen_126 rfl rfl ?_
          refine g_aload_n (q := 0) dX6_chosen_127 rfl rfl ?_
          refine g_getC (x := tm_v μ0 65 72) 0 dX6_chosen_128 fX6_477 rfl (by decide) (sk_65 hs.S) (hs.v (tWs_noF rfl)) ?_
          refine g_put dX6_chosen_131 fX6_514 rfl (by decide) (sk_65 hs.S) (fun e => absurd e (by decide)) (p_wj hs (by decide) (tWs_inF rfl) fun μ13 eμ13 hs => ?_)
          have h := h μ13 eμ13
          refine g_aload_n (q := 0) dX6_chosen_134 rfl rfl ?_
          refine g_aload_n (q := 0) dX6_chosen_135 rfl rfl ?_
          refine g_get 1 dX6_chosen_136 fX6_480 rfl (by decide) (sk_65 hs.S) ?_
          refine g_put dX6_chosen_139 fX6_111 rfl (by decide) (sk_65 hs.S) (fun e => absurd e (by decide)) (p_wj hs (by decide) (tWs_inF rfl) fun μ14 eμ14 hs => ?_)
          have h := h μ14 eμ14
          refine g_iconst dX6_chosen_142 (by decide) ?_
          refine g_istore_n (L' := [(0, 2, 65), (1, 0, 1), (2, 0, 0)]) dX6_chosen_143 rfl (by decide) [1, 2, 0] rfl ?_
          exact g_less [0, 2] rfl h
        · exact absurd c12 (by decide)
      · have h := h.2 c10
        refine g_aload_n (q := 0) dX6_chosen_37 rfl rfl ?_
        refine g_getC (x := 102) 2 dX6_chosen_38 fX6_138 rfl (by decide) (sk_65 hs.S) (sv_65_74 hs.S) ?_
        refine g_iconst dX6_chosen_41 (by decide) ?_
        refine g_laload dX6_chosen_42 (by decide) (sk_102 hs.S) (by decide) (t_lt (sn_102 hs.S) (by decide)) ?_
        refine g_aload_n (q := 0) dX6_chosen_43 rfl rfl ?_
        refine g_get 1 dX6_chosen_44 fX6_111 rfl (by decide) (sk_65 hs.S) ?_
        refine g_lmul dX6_chosen_47 ?_
        refine g_aload_n (q := 0) dX6_chosen_48 rfl rfl ?_
        refine g_getC (x := 93) 2 dX6_chosen_49 fX6_108 rfl (by decide) (sk_65 hs.S) (sv_65_58 hs.S) ?_
        refine g_iconst dX6_chosen_52 (by decide) ?_
        refine g_laload dX6_chosen_53 (by decide) (sk_93 hs.S) (by decide) (t_lt (sn_93 hs.S) (by decide)) ?_
        refine g_aload_n (q := 0) dX6_chosen_54 rfl rfl ?_
        refine g_get 1 dX6_chosen_55 fX6_480 rfl (by decide) (sk_65 hs.S) ?_
        refine g_lmul dX6_chosen_58 ?_
        refine g_lcmp_gt (tgt := 115) dX6_chosen_59 dX6_chosen_60 (by decide) (fun c15 => ?_) (fun c16 => ?_)
        · have h := h.1 c15
          refine g_iconst dX6_chosen_115 (by decide) ?_
          refine g_goto (tgt := 120) dX6_chosen_116 (by decide) ?_
          refine g_istore_n (L' := [(0, 2, 65), (1, 0, 1)]) dX6_chosen_120 rfl (by decide) [1, 0] rfl ?_
          refine g_iload_n (q := 1) dX6_chosen_121 rfl rfl ?_
          refine g_if_ne (tgt := 126) dX6_chosen_122 (by decide) (fun c17 => ?_) (fun c18 => ?_)
          · refine g_aload_n (q := 0) dX6_chosen_126 rfl rfl ?_
            refine g_aload_n (q := 0) dX6_chosen_127 rfl rfl ?_
            refine g_getC (x := tm_v μ0 65 72) 0 dX6_chosen_128 fX6_477 rfl (by decide) (sk_65 hs.S) (hs.v (tWs_noF rfl)) ?_
            refine g_put dX6_chosen_131 fX6_514 rfl (by decide) (sk_65 hs.S) (fun e => absurd e (by decide)) (p_wj hs (by decide) (tWs_inF rfl) fun μ19 eμ19 hs => ?_)
            have h := h μ19 eμ19
            refine g_aload_n (q := 0) dX6_chosen_134 rfl rfl ?_
            refine g_aload_n (q := 0) dX6_chosen_135 rfl rfl ?_
            refine g_get 1 dX6_chosen_136 fX6_480 rfl (by decide) (sk_65 hs.S) ?_
            refine g_put dX6_chosen_139 fX6_111 rfl (by decide) (sk_65 hs.S) (fun e => absurd e (by decide)) (p_wj hs (by decide) (tWs_inF rfl) fun μ20 eμ20 hs => ?_)
            have h := h μ20 eμ20
            refine g_iconst dX6_chosen_142 (by decide) ?_
            refine g_istore_n (L' := [(0, 2, 65), (1, 0, 1), (2, 0, 0)]) dX6_chosen_143 rfl (by decide) [1, 2, 0] rfl ?_
            exact g_less [0, 2] rfl h
          · exact absurd c18 (by decide)
        · have h := h.2 c16
          refine g_aload_n (q := 0) dX6_chosen_63 rfl rfl ?_
          refine g_getC (x := 102) 2 dX6_chosen_64 fX6_138 rfl (by decide) (sk_65 hs.S) (sv_65_74 hs.S) ?_
          refine g_iconst dX6_chosen_67 (by decide) ?_
          refine g_laload dX6_chosen_68 (by decide) (sk_102 hs.S) (by decide) (t_lt (sn_102 hs.S) (by decide)) ?_
          refine g_aload_n (q := 0) dX6_chosen_69 rfl rfl ?_
          refine g_get 1 dX6_chosen_70 fX6_111 rfl (by decide) (sk_65 hs.S) ?_
          refine g_lmul dX6_chosen_73 ?_
          refine g_aload_n (q := 0) dX6_chosen_74 rfl rfl ?_
          refine g_getC (x := 93) 2 dX6_chosen_75 fX6_108 rfl (by decide) (sk_65 hs.S) (sv_65_58 hs.S) ?_
          refine g_iconst dX6_chosen_78 (by decide) ?_
          refine g_laload dX6_chosen_79 (by decide) (sk_93 hs.S) (by decide) (t_lt (sn_93 hs.S) (by decide)) ?_
          refine g_aload_n (q := 0) dX6_chosen_80 rfl rfl ?_
          refine g_get 1 dX6_chosen_81 fX6_480 rfl (by decide) (sk_65 hs.S) ?_
          refine g_lmul dX6_chosen_84 ?_
          refine g_lcmp_ne (tgt := 119) dX6_chosen_85 dX6_chosen_86 (by decide) (fun c21 => ?_) (fun c22 => ?_)
          · have h := h.1 c21
            refine g_iconst dX6_chosen_119 (by decide) ?_
            refine g_istore_n (L' := [(0, 2, 65), (1, 0, 0)]) dX6_chosen_120 rfl (by decide) [1, 0] rfl ?_
            refine g_iload_n (q := 1) dX6_chosen_121 rfl rfl ?_
            refine g_if_ne (tgt := 126) dX6_chosen_122 (by decide) (fun c23 => ?_) (fun c24 => ?_)
            · exact absurd c23 (by decide)
            · exact g_vret dX6_chosen_125 rfl (Nat.le_refl _) (Nat.le_refl _) ⟨rfl, hs, h⟩
          · have h := h.2 c22
            refine g_aload_n (q := 0) dX6_chosen_89 rfl rfl ?_
            refine g_getC (x := 102) 2 dX6_chosen_90 fX6_138 rfl (by decide) (sk_65 hs.S) (sv_65_74 hs.S) ?_
            refine g_iconst dX6_chosen_93 (by decide) ?_
            refine g_laload dX6_chosen_94 (by decide) (sk_102 hs.S) (by decide) (t_lt (sn_102 hs.S) (by decide)) ?_
            refine g_aload_n (q := 0) dX6_chosen_95 rfl rfl ?_
            refine g_get 1 dX6_chosen_96 fX6_111 rfl (by decide) (sk_65 hs.S) ?_
            refine g_lmul dX6_chosen_99 ?_
            refine g_aload_n (q := 0) dX6_chosen_100 rfl rfl ?_
            refine g_getC (x := 93) 2 dX6_chosen_101 fX6_108 rfl (by decide) (sk_65 hs.S) (sv_65_58 hs.S) ?_
            refine g_iconst dX6_chosen_104 (by decide) ?_
            refine g_laload dX6_chosen_105 (by decide) (sk_93 hs.S) (by decide) (t_lt (sn_93 hs.S) (by decide)) ?_
            refine g_aload_n (q := 0) dX6_chosen_106 rfl rfl ?_
            refine g_get 1 dX6_chosen_107 fX6_480 rfl (by decide) (sk_65 hs.S) ?_
            refine g_lmul dX6_chosen_110 ?_
            refine g_lcmp_le (tgt := 119) dX6_chosen_111 dX6_chosen_112 (by decide) (fun c25 => ?_) (fun c26 => ?_)
            · have h := h.1 c25
              refine g_iconst dX6_chosen_119 (by decide) ?_
              refine g_istore_n (L' := [(0, 2, 65), (1, 0, 0)]) dX6_chosen_120 rfl (by decide) [1, 0] rfl ?_
              refine g_iload_n (q := 1) dX6_chosen_121 rfl rfl ?_
              refine g_if_ne (tgt := 126) dX6_chosen_122 (by decide) (fun c27 => ?_) (fun c28 => ?_)
              · exact absurd c27 (by decide)
              · exact g_vret dX6_chosen_125 rfl (Nat.le_refl _) (Nat.le_refl _) ⟨rfl, hs, h⟩
            · have h := h.2 c26
              refine g_iconst dX6_chosen_115 (by decide) ?_
              refine g_goto (tgt := 120) dX6_chosen_116 (by decide) ?_
              refine g_istore_n (L' := [(0, 2, 65), (1, 0, 1)]) dX6_chosen_120 rfl (by decide) [1, 0] rfl ?_
              refine g_iload_n (q := 1) dX6_chosen_121 rfl rfl ?_
              refine g_if_ne (tgt := 126) dX6_chosen_122 (by decide) (fun c29 => ?_) (fun c30 => ?_)
              · refine g_aload_n (q := 0) dX6_chosen_126 rfl rfl ?_
                refine g_aload_n (q := 0) dX6_chosen_127 rfl rfl ?_
                refine g_getC (x := tm_v μ0 65 72) 0 dX6_chosen_128 fX6_477 rfl (by decide) (sk_65 hs.S) (hs.v (tWs_noF rfl)) ?_
                refine g_put dX6_chosen_131 fX6_514 rfl (by decide) (sk_65 hs.S) (fun e => absurd e (by decide)) (p_wj hs (by decide) (tWs_inF rfl) fun μ31 eμ31 hs => ?_)
                have h := h μ31 eμ31
                refine g_aload_n (q := 0) dX6_chosen_134 rfl rfl ?_
                refine g_aload_n (q := 0) dX6_chosen_135 rfl rfl ?_
                refine g_get 1 dX6_chosen_136 fX6_480 rfl (by decide) (sk_65 hs.S) ?_
                refine g_put dX6_chosen_139 fX6_111 rfl (by decide) (sk_65 hs.S) (fun e => absurd e (by decide)) (p_wj hs (by decide) (tWs_inF rfl) fun μ32 eμ32 hs => ?_)
                have h := h μ32 eμ32
                refine g_iconst dX6_chosen_142 (by decide) ?_
                refine g_istore_n (L' := [(0, 2, 65), (1, 0, 1), (2, 0, 0)]) dX6_chosen_143 rfl (by decide) [1, 2, 0] rfl ?_
                exact g_less [0, 2] rfl h
              · exact absurd c30 (by decide)
    · have h := h.2 c8
      exact g_vret dX6_chosen_29 rfl (Nat.le_refl _) (Nat.le_refl _) ⟨rfl, hs, h⟩
theorem uX6_chosen_144 {d : Nat} {μ0 μ : tm_M} {K : tm_M → Prop} {v2 : Int} (hs : tFr wX6_chosen μ0 μ)
    (h : (3 ≤ v2 → K μ) ∧ (v2 < 3 → (0 ≤ v2 ∧ v2 < 3) ∧ ((∀ μ4, μ4 = tm_w μ 93 v2 (tm_v μ 102 v2) → hV wX6_chosen μ0 mX6_chosen d K 144 [(0, 2, 65), (2, 0, w32 (v2 + 1))] [] μ4)))) :
    hV wX6_chosen μ0 mX6_chosen d K 144 [(0, 2, 65), (2, 0, v2)] [] μ := by
  refine g_iload_n (q := 1) dX6_chosen_144 rfl rfl ?_
  refine g_iconst dX6_chosen_145 (by decide) ?_
  refine g_icmp_ge (tgt := 167) dX6_chosen_146 (by decide) (fun c1 => ?_) (fun c2 => ?_)
  · have h := h.1 c1
    exact g_vret dX6_chosen_167 rfl (Nat.le_refl _) (Nat.le_refl _) ⟨rfl, hs, h⟩
  · have h := h.2 c2
    refine g_aload_n (q := 0) dX6_chosen_149 rfl rfl ?_
    refine g_getC (x := 93) 2 dX6_chosen_150 fX6_108 rfl (by decide) (sk_65 hs.S) (sv_65_58 hs.S) ?_
    refine g_iload_n (q := 1) dX6_chosen_153 rfl rfl ?_
    refine g_aload_n (q := 0) dX6_chosen_154 rfl rfl ?_
    refine g_getC (x := 102) 2 dX6_chosen_155 fX6_138 rfl (by decide) (sk_65 hs.S) (sv_65_74 hs.S) ?_
    refine g_iload_n (q := 1) dX6_chosen_158 rfl rfl ?_
    obtain ⟨c3, h⟩ := h
    refine g_laload dX6_chosen_159 (by decide) (sk_102 hs.S) c3.1 (t_lt (sn_102 hs.S) c3.2) ?_
    refine g_lastore dX6_chosen_160 (by decide) (sk_93 hs.S) c3.1 (t_lt (sn_93 hs.S) c3.2) (p_w hs sf_93 (tWs_in _ rfl) fun μ4 eμ4 hs => ?_)
    have h := h μ4 eμ4
    refine g_iinc (q := 1) dX6_chosen_161 (by decide) rfl [1, 0] rfl ?_
    refine g_goto (tgt := 144) dX6_chosen_164 (by decide) ?_
    exact h
theorem uX6_isTight_0 {d : Nat} {μ0 μ : tm_M} {K : Int → tm_M → Prop} {v1 v2 : Int} (hd : 1 ≤ d) (hs : tFr wX6_isTight μ0 μ)
    (h : (3 ≤ v2 → (w32 (v2 - 3) < tm_v μ0 65 73 → cV wX6_equate mX6_equate (d - 1) [(2, 65), (0, v1), (0, v2), (1, tm_v μ0 65 77), (1, tm_v μ0 65 78)] μ (fun μ5 => K 1 μ5)) ∧ (tm_v μ0 65 73 ≤ w32 (v2 - 3) → K 0 μ)) ∧ (v2 < 3 → (v2 < tm_v μ0 65 72 → cV wX6_equate mX6_equate (d - 1) [(2, 65), (0, v1), (0, v2), (1, tm_v μ0 65 77), (1, tm_v μ0 65 78)] μ (fun μ8 => K 1 μ8)) ∧ (tm_v μ0 65 72 ≤ v2 → K 0 μ))) :
    hI wX6_isTight μ0 mX6_isTight d K 0 [(0, 2, 65), (1, 0, v1), (2, 0, v2)] [] μ := by
  refine g_iload_n (q := 2) dX6_isTight_0 rfl rfl ?_
  refine g_iconst dX6_isTight_1 (by decide) ?_
  refine g_icmp_ge (tgt := 16) dX6_isTight_2 (by decide) (fun c1 => ?_) (fun c2 => ?_)
  · have h := h.1 c1
    refine g_iload_n (q := 2) dX6_isTight_16 rfl rfl ?_
    refine g_iconst dX6_isTight_17 (by decide) ?_
    refine g_isub dX6_isTight_18 ?_
    refine g_aload_n (q := 0) dX6_isTight_19 rfl rfl ?_
    refine g_getC (x := tm_v μ0 65 73) 0 dX6_isTight_20 fX6_483 rfl (by decide) (sk_65 hs.S) (hs.v (tWs_noF rfl)) ?_
    refine g_icmp_lt (tgt := 28) dX6_isTight_23 (by decide) (fun c3 => ?_) (fun c4 => ?_)
    · have h := h.1 c3
      refine g_aload_n (q := 0) dX6_isTight_28 rfl rfl ?_
      refine g_iload_n (q := 1) dX6_isTight_29 rfl rfl ?_
      refine g_iload_n (q := 2) dX6_isTight_30 rfl rfl ?_
      refine g_aload_n (q := 0) dX6_isTight_31 rfl rfl ?_
      refine g_getC (x := tm_v μ0 65 77) 1 dX6_isTight_32 fX6_497 rfl (by decide) (sk_65 hs.S) (hs.v (tWs_noF rfl)) ?_
      refine g_aload_n (q := 0) dX6_isTight_35 rfl rfl ?_
      refine g_getC (x := tm_v μ0 65 78) 1 dX6_isTight_36 fX6_494 rfl (by decide) (sk_65 hs.S) (hs.v (tWs_noF rfl)) ?_
      refine g_callV4 dX6_isTight_39 kX6_equate q1830 q1832 qs110 (ci := 6) rfl (by decide) rfl (by omega) (by decide) (sk_65 hs.S) (Nat.le_of_ble_eq_true rfl) (Nat.le_refl _) (Nat.le_refl _) (t_kV hs (tWs_sub rfl) h (fun μ5 hs h => ?_))
      refine g_iconst dX6_isTight_42 (by decide) ?_
      exact g_zret dX6_isTight_43 rfl (by decide) (Nat.le_refl _) (Nat.le_refl _) ⟨_, rfl, hs, h⟩
    · have h := h.2 c4
      refine g_iconst dX6_isTight_26 (by decide) ?_
      exact g_zret dX6_isTight_27 rfl (by decide) (Nat.le_refl _) (Nat.le_refl _) ⟨_, rfl, hs, h⟩
  · have h := h.2 c2
    refine g_iload_n (q := 2) dX6_isTight_5 rfl rfl ?_
    refine g_aload_n (q := 0) dX6_isTight_6 rfl rfl ?_
    refine g_getC (x := tm_v μ0 65 72) 0 dX6_isTight_7 fX6_477 rfl (by decide) (sk_65 hs.S) (hs.v (tWs_noF rfl)) ?_
    refine g_icmp_lt (tgt := 28) dX6_isTight_10 (by decide) (fun c6 => ?_) (fun c7 => ?_)
    · have h := h.1 c6
      refine g_aload_n (q := 0) dX6_isTight_28 rfl rfl ?_
      refine g_iload_n (q := 1) dX6_isTight_29 rfl rfl ?_
      refine g_iload_n (q := 2) dX6_isTight_30 rfl rfl ?_
      refine g_aload_n (q := 0) dX6_isTight_31 rfl rfl ?_
      refine g_getC (x := tm_v μ0 65 77) 1 dX6_isTight_32 fX6_497 rfl (by decide) (sk_65 hs.S) (hs.v (tWs_noF rfl)) ?_
      refine g_aload_n (q := 0) dX6_isTight_35 rfl rfl ?_
      refine g_getC (x := tm_v μ0 65 78) 1 dX6_isTight_36 fX6_494 rfl (by decide) (sk_65 hs.S) (hs.v (tWs_noF rfl)) ?_
      refine g_callV4 dX6_isTight_39 kX6_equate q1830 q1832 qs110 (ci := 6) rfl (by decide) rfl (by omega) (by decide) (sk_65 hs.S) (Nat.le_of_ble_eq_true rfl) (Nat.le_refl _) (Nat.le_refl _) (t_kV hs (tWs_sub rfl) h (fun μ8 hs h => ?_))
      refine g_iconst dX6_isTight_42 (by decide) ?_
      exact g_zret dX6_isTight_43 rfl (by decide) (Nat.le_refl _) (Nat.le_refl _) ⟨_, rfl, hs, h⟩
    · have h := h.2 c7
      refine g_goto (tgt := 26) dX6_isTight_13 (by decide) ?_
      refine g_iconst dX6_isTight_26 (by decide) ?_
      exact g_zret dX6_isTight_27 rfl (by decide) (Nat.le_refl _) (Nat.le_refl _) ⟨_, rfl, hs, h⟩
theorem uX6_findChances_0 {d : Nat} {μ0 μ : tm_M} {K : tm_M → Prop} (hd : 1 ≤ d) (hs : tFr wX6_findChances μ0 μ)
    (h : (∀ μ1, μ1 = tm_w μ 65 54 0 → (tm_v μ0 65 72 ≠ 1 → hV wX6_findChances μ0 mX6_findChances d K 19 [(0, 2, 65), (1, 0, 0)] [] μ1) ∧ (tm_v μ0 65 72 = 1 → cV wX6_chosen mX6_chosen (d - 1) [(2, 65)] μ1 (fun μ4 => hV wX6_findChances μ0 mX6_findChances d K 19 [(0, 2, 65), (1, 0, 0)] [] μ4)))) :
    hV wX6_findChances μ0 mX6_findChances d K 0 [(0, 2, 65)] [] μ := by
  refine g_aload_n (q := 0) dX6_findChances_0 rfl rfl ?_
  refine g_iconst dX6_findChances_1 (by decide) ?_
  refine g_put dX6_findChances_2 fX6_514 rfl (by decide) (sk_65 hs.S) (fun e => absurd e (by decide)) (p_wj hs (by decide) (tWs_inF rfl) fun μ1 eμ1 hs => ?_)
  have h := h μ1 eμ1
  refine g_aload_n (q := 0) dX6_findChances_5 rfl rfl ?_
  refine g_getC (x := tm_v μ0 65 72) 0 dX6_findChances_6 fX6_477 rfl (by decide) (sk_65 hs.S) (hs.v (tWs_noF rfl)) ?_
  refine g_iconst dX6_findChances_9 (by decide) ?_
  refine g_icmp_ne (tgt := 17) dX6_findChances_10 (by decide) (fun c2 => ?_) (fun c3 => ?_)
  · have h := h.1 c2
    refine g_iconst dX6_findChances_17 (by decide) ?_
    refine g_istore_n (L' := [(0, 2, 65), (1, 0, 0)]) dX6_findChances_18 rfl (by decide) [1, 0] rfl ?_
    exact h
  · have h := h.2 c3
    refine g_aload_n (q := 0) dX6_findChances_13 rfl rfl ?_
    refine g_callV0 dX6_findChances_14 kX6_chosen q1842 q1844 qs113 (ci := 6) rfl (by decide) rfl (by omega) (by decide) (sk_65 hs.S) (Nat.le_of_ble_eq_true rfl) (Nat.le_refl _) (Nat.le_refl _) (t_kV hs (tWs_sub rfl) h (fun μ4 hs h => ?_))
    refine g_iconst dX6_findChances_17 (by decide) ?_
    refine g_istore_n (L' := [(0, 2, 65), (1, 0, 0)]) dX6_findChances_18 rfl (by decide) [1, 0] rfl ?_
    exact h
theorem uX6_findChances_19 {d : Nat} {μ0 μ : tm_M} {K : tm_M → Prop} {v1 : Int} (hd : 1 ≤ d) (hs : tFr wX6_findChances μ0 μ)
    (h : (6 ≤ v1 → K μ) ∧ (v1 < 6 → (tm_v μ0 65 72 ≤ 1 → K μ) ∧ (1 < tm_v μ0 65 72 → cI wX6_isTight mX6_isTight (d - 1) [(2, 65), (0, 0), (0, v1)] μ (fun r6 μ5 => (r6 ≠ 0 → (tm_v μ0 65 72 ≠ 2 → (∀ x11, x11 = w32 (v1 + 1) → hV wX6_findChances μ0 mX6_findChances d K 61 [(0, 2, 65), (1, 0, v1), (2, 0, x11)] [] μ5)) ∧ (tm_v μ0 65 72 = 2 → cV wX6_chosen mX6_chosen (d - 1) [(2, 65)] μ5 (fun μ12 => (∀ x13, x13 = w32 (v1 + 1) → hV wX6_findChances μ0 mX6_findChances d K 61 [(0, 2, 65), (1, 0, v1), (2, 0, x13)] [] μ12)))) ∧ (r6 = 0 → hV wX6_findChances μ0 mX6_findChances d K 19 [(0, 2, 65), (1, 0, w32 (v1 + 1))] [] μ5))))) :
    hV wX6_findChances μ0 mX6_findChances d K 19 [(0, 2, 65), (1, 0, v1)] [] μ := by
  refine g_iload_n (q := 1) dX6_findChances_19 rfl rfl ?_
  refine g_bipush dX6_findChances_20 ⟨by decide, by decide, rfl⟩ ?_
  refine g_icmp_ge (tgt := 100) dX6_findChances_22 (by decide) (fun c1 => ?_) (fun c2 => ?_)
  · have h := h.1 c1
    exact g_vret dX6_findChances_100 rfl (Nat.le_refl _) (Nat.le_refl _) ⟨rfl, hs, h⟩
  · have h := h.2 c2
    refine g_aload_n (q := 0) dX6_findChances_25 rfl rfl ?_
    refine g_getC (x := tm_v μ0 65 72) 0 dX6_findChances_26 fX6_477 rfl (by decide) (sk_65 hs.S) (hs.v (tWs_noF rfl)) ?_
    refine g_iconst dX6_findChances_29 (by decide) ?_
    refine g_icmp_le (tgt := 100) dX6_findChances_30 (by decide) (fun c3 => ?_) (fun c4 => ?_)
    · have h := h.1 c3
      exact g_vret dX6_findChances_100 rfl (Nat.le_refl _) (Nat.le_refl _) ⟨rfl, hs, h⟩
    · have h := h.2 c4
      refine g_aload_n (q := 0) dX6_findChances_33 rfl rfl ?_
      refine g_iconst dX6_findChances_34 (by decide) ?_
      refine g_iload_n (q := 1) dX6_findChances_35 rfl rfl ?_
      refine g_callV2 dX6_findChances_36 kX6_isTight q1846 q1848 qs114 (ci := 6) rfl (by decide) rfl (by omega) (by decide) (sk_65 hs.S) (Nat.le_of_ble_eq_true rfl) (Nat.le_refl _) (Nat.le_refl _) (t_kI hs (tWs_sub rfl) h (fun r6 μ5 hs h => ?_))
      refine g_if_ne (tgt := 45) dX6_findChances_39 (by decide) (fun c7 => ?_) (fun c8 => ?_)
      · have h := h.1 c7
        refine g_aload_n (q := 0) dX6_findChances_45 rfl rfl ?_
        refine g_getC (x := tm_v μ0 65 72) 0 dX6_findChances_46 fX6_477 rfl (by decide) (sk_65 hs.S) (hs.v (tWs_noF rfl)) ?_
        refine g_iconst dX6_findChances_49 (by decide) ?_
        refine g_icmp_ne (tgt := 57) dX6_findChances_50 (by decide) (fun c9 => ?_) (fun c10 => ?_)
        · have h := h.1 c9
          refine g_iload_n (q := 1) dX6_findChances_57 rfl rfl ?_
          refine g_iconst dX6_findChances_58 (by decide) ?_
          refine g_iadd dX6_findChances_59 ?_
          refine g_istore_nN (fun z => [(0, 2, 65), (1, 0, v1), (2, 0, z)]) dX6_findChances_60 rfl (by decide) [1, 2, 0] (fun _ => rfl) (fun x11 ex11 => ?_)
          have h := h x11 ex11
          exact h
        · have h := h.2 c10
          refine g_aload_n (q := 0) dX6_findChances_53 rfl rfl ?_
          refine g_callV0 dX6_findChances_54 kX6_chosen q1842 q1844 qs113 (ci := 6) rfl (by decide) rfl (by omega) (by decide) (sk_65 hs.S) (Nat.le_of_ble_eq_true rfl) (Nat.le_refl _) (Nat.le_refl _) (t_kV hs (tWs_sub rfl) h (fun μ12 hs h => ?_))
          refine g_iload_n (q := 1) dX6_findChances_57 rfl rfl ?_
          refine g_iconst dX6_findChances_58 (by decide) ?_
          refine g_iadd dX6_findChances_59 ?_
          refine g_istore_nN (fun z => [(0, 2, 65), (1, 0, v1), (2, 0, z)]) dX6_findChances_60 rfl (by decide) [1, 2, 0] (fun _ => rfl) (fun x13 ex13 => ?_)
          have h := h x13 ex13
          exact h
      · have h := h.2 c8
        refine g_goto (tgt := 94) dX6_findChances_42 (by decide) ?_
        refine g_iinc (q := 1) dX6_findChances_94 (by decide) rfl [1, 0] rfl ?_
        refine g_goto (tgt := 19) dX6_findChances_97 (by decide) ?_
        exact h
theorem uX6_findChances_61 {d : Nat} {μ0 μ : tm_M} {K : tm_M → Prop} {v1 v2 : Int} (hd : 1 ≤ d) (hs : tFr wX6_findChances μ0 μ)
    (h : (6 ≤ v2 → hV wX6_findChances μ0 mX6_findChances d K 19 [(0, 2, 65), (1, 0, w32 (v1 + 1))] [] μ) ∧ (v2 < 6 → (tm_v μ0 65 72 ≠ 3 → hV wX6_findChances μ0 mX6_findChances d K 19 [(0, 2, 65), (1, 0, w32 (v1 + 1))] [] μ) ∧ (tm_v μ0 65 72 = 3 → cI wX6_isTight mX6_isTight (d - 1) [(2, 65), (0, 1), (0, v2)] μ (fun r6 μ5 => (r6 = 0 → hV wX6_findChances μ0 mX6_findChances d K 61 [(0, 2, 65), (1, 0, v1), (2, 0, w32 (v2 + 1))] [] μ5) ∧ (r6 ≠ 0 → cV wX6_chosen mX6_chosen (d - 1) [(2, 65)] μ5 (fun μ9 => hV wX6_findChances μ0 mX6_findChances d K 61 [(0, 2, 65), (1, 0, v1), (2, 0, w32 (v2 + 1))] [] μ9)))))) :
    hV wX6_findChances μ0 mX6_findChances d K 61 [(0, 2, 65), (1, 0, v1), (2, 0, v2)] [] μ := by
  refine g_iload_n (q := 2) dX6_findChances_61 rfl rfl ?_
  refine g_bipush dX6_findChances_62 ⟨by decide, by decide, rfl⟩ ?_
  refine g_icmp_ge (tgt := 94) dX6_findChances_64 (by decide) (fun c1 => ?_) (fun c2 => ?_)
  · have h := h.1 c1
    refine g_iinc (q := 1) dX6_findChances_94 (by decide) rfl [1, 0, 2] rfl ?_
    refine g_goto (tgt := 19) dX6_findChances_97 (by decide) ?_
    exact g_less [0, 1] rfl h
  · have h := h.2 c2
    refine g_aload_n (q := 0) dX6_findChances_67 rfl rfl ?_
    refine g_getC (x := tm_v μ0 65 72) 0 dX6_findChances_68 fX6_477 rfl (by decide) (sk_65 hs.S) (hs.v (tWs_noF rfl)) ?_
    refine g_iconst dX6_findChances_71 (by decide) ?_
    refine g_icmp_ne (tgt := 94) dX6_findChances_72 (by decide) (fun c3 => ?_) (fun c4 => ?_)
    · have h := h.1 c3
      refine g_iinc (q := 1) dX6_findChances_94 (by decide) rfl [1, 0, 2] rfl ?_
      refine g_goto (tgt := 19) dX6_findChances_97 (by decide) ?_
      exact g_less [0, 1] rfl h
    · have h := h.2 c4
      refine g_aload_n (q := 0) dX6_findChances_75 rfl rfl ?_
      refine g_iconst dX6_findChances_76 (by decide) ?_
      refine g_iload_n (q := 2) dX6_findChances_77 rfl rfl ?_
      refine g_callV2 dX6_findChances_78 kX6_isTight q1846 q1848 qs114 (ci := 6) rfl (by decide) rfl (by omega) (by decide) (sk_65 hs.S) (Nat.le_of_ble_eq_true rfl) (Nat.le_refl _) (Nat.le_refl _) (t_kI hs (tWs_sub rfl) h (fun r6 μ5 hs h => ?_))
      refine g_if_eq (tgt := 88) dX6_findChances_81 (by decide) (fun c7 => ?_) (fun c8 => ?_)
      · have h := h.1 c7
        refine g_iinc (q := 2) dX6_findChances_88 (by decide) rfl [1, 2, 0] rfl ?_
        refine g_goto (tgt := 61) dX6_findChances_91 (by decide) ?_
        exact h
      · have h := h.2 c8
        refine g_aload_n (q := 0) dX6_findChances_84 rfl rfl ?_
        refine g_callV0 dX6_findChances_85 kX6_chosen q1842 q1844 qs113 (ci := 6) rfl (by decide) rfl (by omega) (by decide) (sk_65 hs.S) (Nat.le_of_ble_eq_true rfl) (Nat.le_refl _) (Nat.le_refl _) (t_kV hs (tWs_sub rfl) h (fun μ9 hs h => ?_))
        refine g_iinc (q := 2) dX6_findChances_88 (by decide) rfl [1, 2, 0] rfl ?_
        refine g_goto (tgt := 61) dX6_findChances_91 (by decide) ?_
        exact h
theorem uX6_asksValue_0 {d : Nat} {μ0 μ : tm_M} {K : Int → tm_M → Prop} {v1 v2 v3 v4 v5 v6 v7 : Int} (hd : 2 ≤ d) (hs : tFr wX6_asksValue μ0 μ)
    (h : (y_trayed μ v1 = 1 → K 1 μ) ∧ (y_trayed μ v1 ≠ 1 → (y_trayed μ v3 ≠ 1 → (y_W μ0) ∧ ((¬ (0 ≤ v5 ∧ v5 < tm_v μ0 65 20) → K 2 μ) ∧ (0 ≤ v5 ∧ v5 < tm_v μ0 65 20 → (0 ≤ v6 ∧ v6 < tm_v μ0 65 20 → (0 < y_trayed μ v1 → K 3 μ) ∧ (y_trayed μ v1 ≤ 0 → (y_trayed μ v3 ≤ 0 → (¬ (1 ≤ v2 ∧ v2 ≤ 3) → K 5 μ) ∧ (1 ≤ v2 ∧ v2 ≤ 3 → (¬ (1 ≤ v4 ∧ v4 ≤ 3) → K 5 μ) ∧ (1 ≤ v4 ∧ v4 ≤ 3 → (1 ≤ v7 ∧ v7 ≤ 100 → (0 ≤ v1 ∧ v1 < 4) ∧ ((tm_v μ0 67 v1 < v2 → K 4 μ) ∧ (v2 ≤ tm_v μ0 67 v1 → (0 ≤ v3 ∧ v3 < 4) ∧ ((v4 ≤ tm_v μ0 67 v3 → hI wX6_asksValue μ0 mX6_asksValue d K 124 [(0, 2, 65), (1, 0, v1), (2, 0, v2), (3, 0, v3), (4, 0, v4), (8, 0, 0)] [] μ) ∧ (tm_v μ0 67 v3 < v4 → K 4 μ))))) ∧ (¬ (1 ≤ v7 ∧ v7 ≤ 100) → K 5 μ)))) ∧ (0 < y_trayed μ v3 → K 3 μ))) ∧ (¬ (0 ≤ v6 ∧ v6 < tm_v μ0 65 20) → K 2 μ)))) ∧ (y_trayed μ v3 = 1 → K 1 μ))) :
    hI wX6_asksValue μ0 mX6_asksValue d K 0 [(0, 2, 65), (1, 0, v1), (2, 0, v2), (3, 0, v3), (4, 0, v4), (5, 0, v5), (6, 0, v6), (7, 0, v7)] [] μ := by
  refine g_aload_n (q := 0) dX6_asksValue_0 rfl rfl ?_
  refine g_iload_n (q := 1) dX6_asksValue_1 rfl rfl ?_
  refine g_callV1 dX6_asksValue_2 kX6_trayed q1456 q1458 qs51 (ci := 6) rfl (by decide) rfl (by omega) (by decide) (sk_65 hs.S) (Nat.le_of_ble_eq_true rfl) (Nat.le_refl _) (Nat.le_refl _) (t_pI hs (pX6_trayed hs.S) ?_)
  refine g_iconst dX6_asksValue_5 (by decide) ?_
  refine g_icmp_eq (tgt := 18) dX6_asksValue_6 (by decide) (fun c4 => ?_) (fun c5 => ?_)
  · have h := h.1 c4
    refine g_iconst dX6_asksValue_18 (by decide) ?_
    exact g_iret dX6_asksValue_19 rfl (Nat.le_refl _) (Nat.le_refl _) ⟨_, rfl, hs, h⟩
  · have h := h.2 c5
    refine g_aload_n (q := 0) dX6_asksValue_9 rfl rfl ?_
    refine g_iload_n (q := 3) dX6_asksValue_10 rfl rfl ?_
    refine g_callV1 dX6_asksValue_11 kX6_trayed q1456 q1458 qs51 (ci := 6) rfl (by decide) rfl (by omega) (by decide) (sk_65 hs.S) (Nat.le_of_ble_eq_true rfl) (Nat.le_refl _) (Nat.le_refl _) (t_pI hs (pX6_trayed hs.S) ?_)
    refine g_iconst dX6_asksValue_14 (by decide) ?_
    refine g_icmp_ne (tgt := 20) dX6_asksValue_15 (by decide) (fun c9 => ?_) (fun c10 => ?_)
    · have h := h.1 c9
      refine g_aload_n (q := 0) dX6_asksValue_20 rfl rfl ?_
      refine g_iload (q := 5) dX6_asksValue_21 rfl ?_
      obtain ⟨c11, h⟩ := h
      refine g_callV1 dX6_asksValue_23 kX6_isPlace q1598 q1600 qs75 (ci := 6) rfl (by decide) rfl (by omega) (by decide) (sk_65 hs.S) (Nat.le_of_ble_eq_true rfl) (Nat.le_refl _) (Nat.le_refl _) (t_pI hs (pX6_isPlaceF (by omega) hs (tWs_T rfl) c11) ?_)
      refine g_if_eq (tgt := 38) dX6_asksValue_26 (by decide) (fun c15 => ?_) (fun c16 => ?_)
      · have h := h.1 (b2i_0.mp c15)
        refine g_iconst dX6_asksValue_38 (by decide) ?_
        exact g_iret dX6_asksValue_39 rfl (Nat.le_refl _) (Nat.le_refl _) ⟨_, rfl, hs, h⟩
      · have h := h.2 (b2i_1.mp c16)
        refine g_aload_n (q := 0) dX6_asksValue_29 rfl rfl ?_
        refine g_iload (q := 6) dX6_asksValue_30 rfl ?_
        refine g_callV1 dX6_asksValue_32 kX6_isPlace q1598 q1600 qs75 (ci := 6) rfl (by decide) rfl (by omega) (by decide) (sk_65 hs.S) (Nat.le_of_ble_eq_true rfl) (Nat.le_refl _) (Nat.le_refl _) (t_pI hs (pX6_isPlaceF (by omega) hs (tWs_T rfl) c11) ?_)
        refine g_if_ne (tgt := 40) dX6_asksValue_35 (by decide) (fun c20 => ?_) (fun c21 => ?_)
        · have h := h.1 (b2i_1.mp c20)
          refine g_aload_n (q := 0) dX6_asksValue_40 rfl rfl ?_
          refine g_iload_n (q := 1) dX6_asksValue_41 rfl rfl ?_
          refine g_callV1 dX6_asksValue_42 kX6_trayed q1456 q1458 qs51 (ci := 6) rfl (by decide) rfl (by omega) (by decide) (sk_65 hs.S) (Nat.le_of_ble_eq_true rfl) (Nat.le_refl _) (Nat.le_refl _) (t_pI hs (pX6_trayed hs.S) ?_)
          refine g_if_gt (tgt := 56) dX6_asksValue_45 (by decide) (fun c25 => ?_) (fun c26 => ?_)
          · have h := h.1 c25
            refine g_iconst dX6_asksValue_56 (by decide) ?_
            exact g_iret dX6_asksValue_57 rfl (Nat.le_refl _) (Nat.le_refl _) ⟨_, rfl, hs, h⟩
          · have h := h.2 c26
            refine g_aload_n (q := 0) dX6_asksValue_48 rfl rfl ?_
            refine g_iload_n (q := 3) dX6_asksValue_49 rfl rfl ?_
            refine g_callV1 dX6_asksValue_50 kX6_trayed q1456 q1458 qs51 (ci := 6) rfl (by decide) rfl (by omega) (by decide) (sk_65 hs.S) (Nat.le_of_ble_eq_true rfl) (Nat.le_refl _) (Nat.le_refl _) (t_pI hs (pX6_trayed hs.S) ?_)
            refine g_if_le (tgt := 58) dX6_asksValue_53 (by decide) (fun c30 => ?_) (fun c31 => ?_)
            · have h := h.1 c30
              refine g_iload_n (q := 2) dX6_asksValue_58 rfl rfl ?_
              refine g_i2l dX6_asksValue_59 ?_
              refine g_lconst1 dX6_asksValue_60 ?_
              refine g_ldc2 (v := 3) (by decide) q1691c dX6_asksValue_61 ?_
              refine g_callS3 dX6_asksValue_64 kX6_isIn q1563 q1564 rfl (by omega) (Nat.le_of_ble_eq_true rfl) (Nat.le_refl _) (Nat.le_refl _) (t_pI hs (pX6_isIn hs.S) ?_)
              refine g_if_eq (tgt := 96) dX6_asksValue_67 (by decide) (fun c35 => ?_) (fun c36 => ?_)
              · have h := h.1 (b2i_0.mp c35)
                refine g_iconst dX6_asksValue_96 (by decide) ?_
                exact g_iret dX6_asksValue_97 rfl (Nat.le_refl _) (Nat.le_refl _) ⟨_, rfl, hs, h⟩
              · have h := h.2 (b2i_1.mp c36)
                refine g_iload (q := 4) dX6_asksValue_70 rfl ?_
                refine g_i2l dX6_asksValue_72 ?_
                refine g_lconst1 dX6_asksValue_73 ?_
                refine g_ldc2 (v := 3) (by decide) q1691c dX6_asksValue_74 ?_
                refine g_callS3 dX6_asksValue_77 kX6_isIn q1563 q1564 rfl (by omega) (Nat.le_of_ble_eq_true rfl) (Nat.le_refl _) (Nat.le_refl _) (t_pI hs (pX6_isIn hs.S) ?_)
                refine g_if_eq (tgt := 96) dX6_asksValue_80 (by decide) (fun c40 => ?_) (fun c41 => ?_)
                · have h := h.1 (b2i_0.mp c40)
                  refine g_iconst dX6_asksValue_96 (by decide) ?_
                  exact g_iret dX6_asksValue_97 rfl (Nat.le_refl _) (Nat.le_refl _) ⟨_, rfl, hs, h⟩
                · have h := h.2 (b2i_1.mp c41)
                  refine g_iload (q := 7) dX6_asksValue_83 rfl ?_
                  refine g_i2l dX6_asksValue_85 ?_
                  refine g_lconst1 dX6_asksValue_86 ?_
                  refine g_ldc2 (v := 100) (by decide) q1808c dX6_asksValue_87 ?_
                  refine g_callS3 dX6_asksValue_90 kX6_isIn q1563 q1564 rfl (by omega) (Nat.le_of_ble_eq_true rfl) (Nat.le_refl _) (Nat.le_refl _) (t_pI hs (pX6_isIn hs.S) ?_)
                  refine g_if_ne (tgt := 98) dX6_asksValue_93 (by decide) (fun c45 => ?_) (fun c46 => ?_)
                  · have h := h.1 (b2i_1.mp c45)
                    refine g_aload_n (q := 0) dX6_asksValue_98 rfl rfl ?_
                    refine g_getC (x := 67) 2 dX6_asksValue_99 fX6_17 rfl (by decide) (sk_65 hs.S) (sv_65_5 hs.S) ?_
                    refine g_iload_n (q := 1) dX6_asksValue_102 rfl rfl ?_
                    obtain ⟨c47, h⟩ := h
                    refine g_ialoadC (x := tm_v μ0 67 v1) dX6_asksValue_103 (by decide) (sk_67 hs.S) c47.1 (t_lt (sn_67 hs.S) c47.2) (hs.v (tWs_no _ rfl)) ?_
                    refine g_iload_n (q := 2) dX6_asksValue_104 rfl rfl ?_
                    refine g_icmp_lt (tgt := 119) dX6_asksValue_105 (by decide) (fun c48 => ?_) (fun c49 => ?_)
                    · have h := h.1 c48
                      refine g_iconst dX6_asksValue_119 (by decide) ?_
                      exact g_iret dX6_asksValue_120 rfl (Nat.le_refl _) (Nat.le_refl _) ⟨_, rfl, hs, h⟩
                    · have h := h.2 c49
                      refine g_aload_n (q := 0) dX6_asksValue_108 rfl rfl ?_
                      refine g_getC (x := 67) 2 dX6_asksValue_109 fX6_17 rfl (by decide) (sk_65 hs.S) (sv_65_5 hs.S) ?_
                      refine g_iload_n (q := 3) dX6_asksValue_112 rfl rfl ?_
                      obtain ⟨c50, h⟩ := h
                      refine g_ialoadC (x := tm_v μ0 67 v3) dX6_asksValue_113 (by decide) (sk_67 hs.S) c50.1 (t_lt (sn_67 hs.S) c50.2) (hs.v (tWs_no _ rfl)) ?_
                      refine g_iload (q := 4) dX6_asksValue_114 rfl ?_
                      refine g_icmp_ge (tgt := 121) dX6_asksValue_116 (by decide) (fun c51 => ?_) (fun c52 => ?_)
                      · have h := h.1 c51
                        refine g_iconst dX6_asksValue_121 (by decide) ?_
                        refine g_istore (L' := [(0, 2, 65), (1, 0, v1), (2, 0, v2), (3, 0, v3), (4, 0, v4), (5, 0, v5), (6, 0, v6), (7, 0, v7), (8, 0, 0)]) dX6_asksValue_122 (by decide) [1, 2, 3, 4, 5, 6, 7, 8, 0] rfl ?_
                        exact g_less [0, 1, 2, 3, 4, 8] rfl h
                      · have h := h.2 c52
                        refine g_iconst dX6_asksValue_119 (by decide) ?_
                        exact g_iret dX6_asksValue_120 rfl (Nat.le_refl _) (Nat.le_refl _) ⟨_, rfl, hs, h⟩
                  · have h := h.2 (b2i_0.mp c46)
                    refine g_iconst dX6_asksValue_96 (by decide) ?_
                    exact g_iret dX6_asksValue_97 rfl (Nat.le_refl _) (Nat.le_refl _) ⟨_, rfl, hs, h⟩
            · have h := h.2 c31
              refine g_iconst dX6_asksValue_56 (by decide) ?_
              exact g_iret dX6_asksValue_57 rfl (Nat.le_refl _) (Nat.le_refl _) ⟨_, rfl, hs, h⟩
        · have h := h.2 (b2i_0.mp c21)
          refine g_iconst dX6_asksValue_38 (by decide) ?_
          exact g_iret dX6_asksValue_39 rfl (Nat.le_refl _) (Nat.le_refl _) ⟨_, rfl, hs, h⟩
    · have h := h.2 c10
      refine g_iconst dX6_asksValue_18 (by decide) ?_
      exact g_iret dX6_asksValue_19 rfl (Nat.le_refl _) (Nat.le_refl _) ⟨_, rfl, hs, h⟩
theorem uX6_asksValue_124 {d : Nat} {μ0 μ : tm_M} {K : Int → tm_M → Prop} {v1 v2 v3 v4 v8 : Int} (hd : 1 ≤ d) (hs : tFr wX6_asksValue μ0 μ)
    (h : (v2 ≤ v8 → hI wX6_asksValue μ0 mX6_asksValue d K 162 [(0, 2, 65), (3, 0, v3), (4, 0, v4), (8, 0, 0)] [] μ) ∧ (v8 < v2 → (0 ≤ v1 ∧ v1 < 4 ∧ 0 ≤ v8 ∧ v8 < 64) ∧ ((0 ≤ (tm_v μ 68 (64 * v1 + v8)) ∧ (tm_v μ 68 (64 * v1 + v8)) ≤ (w32 ((tm_v μ0 65 43) - 1)) → hI wX6_asksValue μ0 mX6_asksValue d K 124 [(0, 2, 65), (1, 0, v1), (2, 0, v2), (3, 0, v3), (4, 0, v4), (8, 0, w32 (v8 + 1))] [] μ) ∧ (¬ (0 ≤ (tm_v μ 68 (64 * v1 + v8)) ∧ (tm_v μ 68 (64 * v1 + v8)) ≤ (w32 ((tm_v μ0 65 43) - 1))) → K 2 μ)))) :
    hI wX6_asksValue μ0 mX6_asksValue d K 124 [(0, 2, 65), (1, 0, v1), (2, 0, v2), (3, 0, v3), (4, 0, v4), (8, 0, v8)] [] μ := by
  refine g_iload (q := 5) dX6_asksValue_124 rfl ?_
  refine g_iload_n (q := 2) dX6_asksValue_126 rfl rfl ?_
  refine g_icmp_ge (tgt := 159) dX6_asksValue_127 (by decide) (fun c1 => ?_) (fun c2 => ?_)
  · have h := h.1 c1
    refine g_iconst dX6_asksValue_159 (by decide) ?_
    refine g_istore (L' := [(0, 2, 65), (1, 0, v1), (2, 0, v2), (3, 0, v3), (4, 0, v4), (8, 0, 0)]) dX6_asksValue_160 (by decide) [1, 2, 3, 4, 5, 0] rfl ?_
    exact g_less [0, 3, 4, 5] rfl h
  · have h := h.2 c2
    refine g_aload_n (q := 0) dX6_asksValue_130 rfl rfl ?_
    refine g_iload_n (q := 1) dX6_asksValue_131 rfl rfl ?_
    refine g_iload (q := 5) dX6_asksValue_132 rfl ?_
    obtain ⟨c3, h⟩ := h
    refine g_callV2 dX6_asksValue_134 kX6_numberOf q1633 q1635 qs79 (ci := 6) rfl (by decide) rfl (by omega) (by decide) (sk_65 hs.S) (Nat.le_of_ble_eq_true rfl) (Nat.le_refl _) (Nat.le_refl _) (t_pL hs (pX6_numberOf hs.S c3) ?_)
    refine g_lconst0 dX6_asksValue_137 ?_
    refine g_aload_n (q := 0) dX6_asksValue_138 rfl rfl ?_
    refine g_getC (x := tm_v μ0 65 43) 0 dX6_asksValue_139 fX6_341 rfl (by decide) (sk_65 hs.S) (hs.v (tWs_noF rfl)) ?_
    refine g_iconst dX6_asksValue_142 (by decide) ?_
    refine g_isub dX6_asksValue_143 ?_
    refine g_i2l dX6_asksValue_144 ?_
    refine g_callS3 dX6_asksValue_145 kX6_isIn q1563 q1564 rfl (by omega) (Nat.le_of_ble_eq_true rfl) (Nat.le_refl _) (Nat.le_refl _) (t_pI hs (pX6_isIn hs.S) ?_)
    refine g_if_ne (tgt := 153) dX6_asksValue_148 (by decide) (fun c10 => ?_) (fun c11 => ?_)
    · have h := h.1 (b2i_1.mp c10)
      refine g_iinc (q := 5) dX6_asksValue_153 (by decide) rfl [1, 2, 3, 4, 5, 0] rfl ?_
      refine g_goto (tgt := 124) dX6_asksValue_156 (by decide) ?_
      exact h
    · have h := h.2 (b2i_0.mp c11)
      refine g_iconst dX6_asksValue_151 (by decide) ?_
      exact g_iret dX6_asksValue_152 rfl (Nat.le_refl _) (Nat.le_refl _) ⟨_, rfl, hs, h⟩
theorem uX6_asksValue_162 {d : Nat} {μ0 μ : tm_M} {K : Int → tm_M → Prop} {v3 v4 v8 : Int} (hd : 1 ≤ d) (hs : tFr wX6_asksValue μ0 μ)
    (h : (v4 ≤ v8 → K 0 μ) ∧ (v8 < v4 → (0 ≤ v3 ∧ v3 < 4 ∧ 0 ≤ v8 ∧ v8 < 64) ∧ ((0 ≤ (tm_v μ 68 (64 * v3 + v8)) ∧ (tm_v μ 68 (64 * v3 + v8)) ≤ (w32 ((tm_v μ0 65 43) - 1)) → hI wX6_asksValue μ0 mX6_asksValue d K 162 [(0, 2, 65), (3, 0, v3), (4, 0, v4), (8, 0, w32 (v8 + 1))] [] μ) ∧ (¬ (0 ≤ (tm_v μ 68 (64 * v3 + v8)) ∧ (tm_v μ 68 (64 * v3 + v8)) ≤ (w32 ((tm_v μ0 65 43) - 1))) → K 2 μ)))) :
    hI wX6_asksValue μ0 mX6_asksValue d K 162 [(0, 2, 65), (3, 0, v3), (4, 0, v4), (8, 0, v8)] [] μ := by
  refine g_iload (q := 3) dX6_asksValue_162 rfl ?_
  refine g_iload (q := 2) dX6_asksValue_164 rfl ?_
  refine g_icmp_ge (tgt := 198) dX6_asksValue_166 (by decide) (fun c1 => ?_) (fun c2 => ?_)
  · have h := h.1 c1
    refine g_iconst dX6_asksValue_198 (by decide) ?_
    exact g_iret dX6_asksValue_199 rfl (Nat.le_refl _) (Nat.le_refl _) ⟨_, rfl, hs, h⟩
  · have h := h.2 c2
    refine g_aload_n (q := 0) dX6_asksValue_169 rfl rfl ?_
    refine g_iload_n (q := 1) dX6_asksValue_170 rfl rfl ?_
    refine g_iload (q := 3) dX6_asksValue_171 rfl ?_
    obtain ⟨c3, h⟩ := h
    refine g_callV2 dX6_asksValue_173 kX6_numberOf q1633 q1635 qs79 (ci := 6) rfl (by decide) rfl (by omega) (by decide) (sk_65 hs.S) (Nat.le_of_ble_eq_true rfl) (Nat.le_refl _) (Nat.le_refl _) (t_pL hs (pX6_numberOf hs.S c3) ?_)
    refine g_lconst0 dX6_asksValue_176 ?_
    refine g_aload_n (q := 0) dX6_asksValue_177 rfl rfl ?_
    refine g_getC (x := tm_v μ0 65 43) 0 dX6_asksValue_178 fX6_341 rfl (by decide) (sk_65 hs.S) (hs.v (tWs_noF rfl)) ?_
    refine g_iconst dX6_asksValue_181 (by decide) ?_
    refine g_isub dX6_asksValue_182 ?_
    refine g_i2l dX6_asksValue_183 ?_
    refine g_callS3 dX6_asksValue_184 kX6_isIn q1563 q1564 rfl (by omega) (Nat.le_of_ble_eq_true rfl) (Nat.le_refl _) (Nat.le_refl _) (t_pI hs (pX6_isIn hs.S) ?_)
    refine g_if_ne (tgt := 192) dX6_asksValue_187 (by decide) (fun c10 => ?_) (fun c11 => ?_)
    · have h := h.1 (b2i_1.mp c10)
      refine g_iinc (q := 3) dX6_asksValue_192 (by decide) rfl [1, 2, 3, 0] rfl ?_
      refine g_goto (tgt := 162) dX6_asksValue_195 (by decide) ?_
      exact h
    · have h := h.2 (b2i_0.mp c11)
      refine g_iconst dX6_asksValue_190 (by decide) ?_
      exact g_iret dX6_asksValue_191 rfl (Nat.le_refl _) (Nat.le_refl _) ⟨_, rfl, hs, h⟩
theorem uX6_value_0 {d : Nat} {μ0 μ : tm_M} {K : Int → tm_M → Prop} {v1 v2 v3 v4 v5 v6 v7 : Int} (hd : 1 ≤ d) (hs : tFr wX6_value μ0 μ)
    (h : (∀ μ1, μ1 = tm_w μ 65 1 0 → cI wX6_asksValue mX6_asksValue (d - 1) [(2, 65), (0, v1), (0, v2), (0, v3), (0, v4), (0, v5), (0, v6), (0, v7)] μ1 (fun r3 μ2 => (∀ μ4, μ4 = tm_w μ2 65 0 r3 → (tm_v μ4 65 0 ≤ 0 → (∀ μ7, μ7 = tm_w μ4 65 72 v2 → (∀ μ8, μ8 = tm_w μ7 65 73 v4 → hI wX6_value μ0 mX6_value d K 47 [(0, 2, 65), (1, 0, v1), (2, 0, v2), (3, 0, v3), (4, 0, v4), (5, 0, v5), (6, 0, v6), (7, 0, v7), (8, 0, 0)] [] μ8))) ∧ (0 < tm_v μ4 65 0 → K 0 μ4))))) :
    hI wX6_value μ0 mX6_value d K 0 [(0, 2, 65), (1, 0, v1), (2, 0, v2), (3, 0, v3), (4, 0, v4), (5, 0, v5), (6, 0, v6), (7, 0, v7)] [] μ := by
  refine g_aload_n (q := 0) dX6_value_0 rfl rfl ?_
  refine g_iconst dX6_value_1 (by decide) ?_
  refine g_put dX6_value_2 fX6_144 rfl (by decide) (sk_65 hs.S) (fun e => absurd e (by decide)) (p_wj hs (by decide) (tWs_inF rfl) fun μ1 eμ1 hs => ?_)
  have h := h μ1 eμ1
  refine g_aload_n (q := 0) dX6_value_5 rfl rfl ?_
  refine g_aload_n (q := 0) dX6_value_6 rfl rfl ?_
  refine g_iload_n (q := 1) dX6_value_7 rfl rfl ?_
  refine g_iload_n (q := 2) dX6_value_8 rfl rfl ?_
  refine g_iload_n (q := 3) dX6_value_9 rfl rfl ?_
  refine g_iload (q := 4) dX6_value_10 rfl ?_
  refine g_iload (q := 5) dX6_value_12 rfl ?_
  refine g_iload (q := 6) dX6_value_14 rfl ?_
  refine g_iload (q := 7) dX6_value_16 rfl ?_
  refine g_callV7 dX6_value_18 kX6_asksValue q1804 q1806 qs104 (ci := 6) rfl (by decide) rfl (by omega) (by decide) (sk_65 hs.S) (Nat.le_of_ble_eq_true rfl) (Nat.le_refl _) (Nat.le_refl _) (t_kI hs (tWs_sub rfl) h (fun r3 μ2 hs h => ?_))
  refine g_put dX6_value_21 fX6_147 rfl (by decide) (sk_65 hs.S) (fun e => absurd e (by decide)) (p_wj hs (by decide) (tWs_inF rfl) fun μ4 eμ4 hs => ?_)
  have h := h μ4 eμ4
  refine g_aload_n (q := 0) dX6_value_24 rfl rfl ?_
  refine g_get 0 dX6_value_25 fX6_147 rfl (by decide) (sk_65 hs.S) ?_
  refine g_if_le (tgt := 33) dX6_value_28 (by decide) (fun c5 => ?_) (fun c6 => ?_)
  · have h := h.1 c5
    refine g_aload_n (q := 0) dX6_value_33 rfl rfl ?_
    refine g_iload_n (q := 2) dX6_value_34 rfl rfl ?_
    refine g_put dX6_value_35 fX6_477 rfl (by decide) (sk_65 hs.S) (fun e => absurd e (by decide)) (p_wj hs (by decide) (tWs_inF rfl) fun μ7 eμ7 hs => ?_)
    have h := h μ7 eμ7
    refine g_aload_n (q := 0) dX6_value_38 rfl rfl ?_
    refine g_iload (q := 4) dX6_value_39 rfl ?_
    refine g_put dX6_value_41 fX6_483 rfl (by decide) (sk_65 hs.S) (fun e => absurd e (by decide)) (p_wj hs (by decide) (tWs_inF rfl) fun μ8 eμ8 hs => ?_)
    have h := h μ8 eμ8
    refine g_iconst dX6_value_44 (by decide) ?_
    refine g_istore (L' := [(0, 2, 65), (1, 0, v1), (2, 0, v2), (3, 0, v3), (4, 0, v4), (5, 0, v5), (6, 0, v6), (7, 0, v7), (8, 0, 0)]) dX6_value_45 (by decide) [1, 2, 3, 4, 5, 6, 7, 8, 0] rfl ?_
    exact h
  · have h := h.2 c6
    refine g_iconst dX6_value_31 (by decide) ?_
    exact g_zret dX6_value_32 rfl (by decide) (Nat.le_refl _) (Nat.le_refl _) ⟨_, rfl, hs, h⟩
theorem uX6_value_47 {d : Nat} {μ0 μ : tm_M} {K : Int → tm_M → Prop} {v1 v2 v3 v4 v5 v6 v7 v8 : Int} (hd : 1 ≤ d) (hs : tFr wX6_value μ0 μ)
    (h : (v2 ≤ v8 → cV wX6_findValue mX6_findValue (d - 1) [(2, 65)] μ (fun μ3 => cV wX6_findChances mX6_findChances (d - 1) [(2, 65)] μ3 (fun μ4 => cV wX6_fraction mX6_fraction (d - 1) [(2, 65), (1, tm_v μ4 65 77), (1, tm_v μ4 65 78)] μ4 (fun μ5 => K 1 μ5)))) ∧ (v8 < v2 → hI wX6_value μ0 mX6_value d K 56 [(0, 2, 65), (1, 0, v1), (2, 0, v2), (3, 0, v3), (4, 0, v4), (5, 0, v5), (6, 0, v6), (7, 0, v7), (8, 0, v8), (9, 0, 0)] [] μ)) :
    hI wX6_value μ0 mX6_value d K 47 [(0, 2, 65), (1, 0, v1), (2, 0, v2), (3, 0, v3), (4, 0, v4), (5, 0, v5), (6, 0, v6), (7, 0, v7), (8, 0, v8)] [] μ := by
  refine g_iload (q := 8) dX6_value_47 rfl ?_
  refine g_iload_n (q := 2) dX6_value_49 rfl rfl ?_
  refine g_icmp_ge (tgt := 130) dX6_value_50 (by decide) (fun c1 => ?_) (fun c2 => ?_)
  · have h := h.1 c1
    refine g_aload_n (q := 0) dX6_value_130 rfl rfl ?_
    refine g_callV0 dX6_value_131 kX6_findValue q1809 q1811 qs105 (ci := 6) rfl (by decide) rfl (by omega) (by decide) (sk_65 hs.S) (Nat.le_of_ble_eq_true rfl) (Nat.le_refl _) (Nat.le_refl _) (t_kV hs (tWs_sub rfl) h (fun μ3 hs h => ?_))
    refine g_aload_n (q := 0) dX6_value_134 rfl rfl ?_
    refine g_callV0 dX6_value_135 kX6_findChances q1838 q1840 qs112 (ci := 6) rfl (by decide) rfl (by omega) (by decide) (sk_65 hs.S) (Nat.le_of_ble_eq_true rfl) (Nat.le_refl _) (Nat.le_refl _) (t_kV hs (tWs_sub rfl) h (fun μ4 hs h => ?_))
    refine g_aload_n (q := 0) dX6_value_138 rfl rfl ?_
    refine g_aload_n (q := 0) dX6_value_139 rfl rfl ?_
    refine g_get 1 dX6_value_140 fX6_497 rfl (by decide) (sk_65 hs.S) ?_
    refine g_aload_n (q := 0) dX6_value_143 rfl rfl ?_
    refine g_get 1 dX6_value_144 fX6_494 rfl (by decide) (sk_65 hs.S) ?_
    refine g_callV2 dX6_value_147 kX6_fraction q1708 q1710 qs93 (ci := 6) rfl (by decide) rfl (by omega) (by decide) (sk_65 hs.S) (Nat.le_of_ble_eq_true rfl) (Nat.le_refl _) (Nat.le_refl _) (t_kV hs (tWs_sub rfl) h (fun μ5 hs h => ?_))
    refine g_iconst dX6_value_150 (by decide) ?_
    exact g_zret dX6_value_151 rfl (by decide) (Nat.le_refl _) (Nat.le_refl _) ⟨_, rfl, hs, h⟩
  · have h := h.2 c2
    refine g_iconst dX6_value_53 (by decide) ?_
    refine g_istore (L' := [(0, 2, 65), (1, 0, v1), (2, 0, v2), (3, 0, v3), (4, 0, v4), (5, 0, v5), (6, 0, v6), (7, 0, v7), (8, 0, v8), (9, 0, 0)]) dX6_value_54 (by decide) [1, 2, 3, 4, 5, 6, 7, 8, 9, 0] rfl ?_
    exact h
theorem uX6_value_56 {d : Nat} {μ0 μ : tm_M} {K : Int → tm_M → Prop} {v1 v2 v3 v4 v5 v6 v7 v8 v9 : Int} (hd : 1 ≤ d) (hs : tFr wX6_value μ0 μ)
    (h : (v4 ≤ v9 → hI wX6_value μ0 mX6_value d K 47 [(0, 2, 65), (1, 0, v1), (2, 0, v2), (3, 0, v3), (4, 0, v4), (5, 0, v5), (6, 0, v6), (7, 0, v7), (8, 0, w32 (v8 + 1))] [] μ) ∧ (v9 < v4 → (0 ≤ v1 ∧ v1 < 4 ∧ 0 ≤ v8 ∧ v8 < 64) ∧ ((0 ≤ v3 ∧ v3 < 4 ∧ 0 ≤ v9 ∧ v9 < 64) ∧ (cI wX6_walk mX6_walk (d - 1) [(2, 65), (0, w32 (tm_v μ 68 (64 * v1 + v8))), (0, w32 (tm_v μ 68 (64 * v3 + v9))), (0, v5), (0, v6)] μ (fun r12 μ11 => (0 ≤ r12 → (0 ≤ w32 ((w32 (3 * v8)) + v9) ∧ w32 ((w32 (3 * v8)) + v9) < 9) ∧ ((∀ μ19, μ19 = tm_w μ11 101 (w32 ((w32 (3 * v8)) + v9)) (min v7 r12) → hI wX6_value μ0 mX6_value d K 56 [(0, 2, 65), (1, 0, v1), (2, 0, v2), (3, 0, v3), (4, 0, v4), (5, 0, v5), (6, 0, v6), (7, 0, v7), (8, 0, v8), (9, 0, w32 (v9 + 1))] [] μ19))) ∧ (r12 < 0 → (0 ≤ w32 ((w32 (3 * v8)) + v9) ∧ w32 ((w32 (3 * v8)) + v9) < 9) ∧ ((∀ μ21, μ21 = tm_w μ11 101 (w32 ((w32 (3 * v8)) + v9)) v7 → hI wX6_value μ0 mX6_value d K 56 [(0, 2, 65), (1, 0, v1), (2, 0, v2), (3, 0, v3), (4, 0, v4), (5, 0, v5), (6, 0, v6), (7, 0, v7), (8, 0, v8), (9, 0, w32 (v9 + 1))] [] μ21)))))))) :
    hI wX6_value μ0 mX6_value d K 56 [(0, 2, 65), (1, 0, v1), (2, 0, v2), (3, 0, v3), (4, 0, v4), (5, 0, v5), (6, 0, v6), (7, 0, v7), (8, 0, v8), (9, 0, v9)] [] μ := by
  refine g_iload (q := 9) dX6_value_56 rfl ?_
  refine g_iload (q := 4) dX6_value_58 rfl ?_
  refine g_icmp_ge (tgt := 124) dX6_value_60 (by decide) (fun c1 => ?_) (fun c2 => ?_)
  · have h := h.1 c1
    refine g_iinc (q := 8) dX6_value_124 (by decide) rfl [1, 2, 3, 4, 5, 6, 7, 8, 0, 9] rfl ?_
    refine g_goto (tgt := 47) dX6_value_127 (by decide) ?_
    exact g_less [0, 1, 2, 3, 4, 5, 6, 7, 8] rfl h
  · have h := h.2 c2
    refine g_aload_n (q := 0) dX6_value_63 rfl rfl ?_
    refine g_aload_n (q := 0) dX6_value_64 rfl rfl ?_
    refine g_iload_n (q := 1) dX6_value_65 rfl rfl ?_
    refine g_iload (q := 8) dX6_value_66 rfl ?_
    obtain ⟨c3, h⟩ := h
    refine g_callV2 dX6_value_68 kX6_numberOf q1633 q1635 qs79 (ci := 6) rfl (by decide) rfl (by omega) (by decide) (sk_65 hs.S) (Nat.le_of_ble_eq_true rfl) (Nat.le_refl _) (Nat.le_refl _) (t_pL hs (pX6_numberOf hs.S c3) ?_)
    refine g_l2i dX6_value_71 ?_
    refine g_aload_n (q := 0) dX6_value_72 rfl rfl ?_
    refine g_iload_n (q := 3) dX6_value_73 rfl rfl ?_
    refine g_iload (q := 9) dX6_value_74 rfl ?_
    obtain ⟨c7, h⟩ := h
    refine g_callV2 dX6_value_76 kX6_numberOf q1633 q1635 qs79 (ci := 6) rfl (by decide) rfl (by omega) (by decide) (sk_65 hs.S) (Nat.le_of_ble_eq_true rfl) (Nat.le_refl _) (Nat.le_refl _) (t_pL hs (pX6_numberOf hs.S c7) ?_)
    refine g_l2i dX6_value_79 ?_
    refine g_iload (q := 5) dX6_value_80 rfl ?_
    refine g_iload (q := 6) dX6_value_82 rfl ?_
    refine g_callV4 dX6_value_84 kX6_walk q1655 q1657 qs82 (ci := 6) rfl (by decide) rfl (by omega) (by decide) (sk_65 hs.S) (Nat.le_of_ble_eq_true rfl) (Nat.le_refl _) (Nat.le_refl _) (t_kI hs (tWs_sub rfl) h (fun r12 μ11 hs h => ?_))
    refine g_istore (L' := [(0, 2, 65), (1, 0, v1), (2, 0, v2), (3, 0, v3), (4, 0, v4), (5, 0, v5), (6, 0, v6), (7, 0, v7), (8, 0, v8), (9, 0, v9), (10, 0, r12)]) dX6_value_87 (by decide) [1, 2, 3, 4, 5, 6, 7, 8, 9, 10, 0] rfl ?_
    refine g_aload_n (q := 0) dX6_value_89 rfl rfl ?_
    refine g_getC (x := 101) 2 dX6_value_90 fX6_135 rfl (by decide) (sk_65 hs.S) (sv_65_71 hs.S) ?_
    refine g_iconst dX6_value_93 (by decide) ?_
    refine g_iload (q := 8) dX6_value_94 rfl ?_
    refine g_imul dX6_value_96 ?_
    refine g_iload (q := 9) dX6_value_97 rfl ?_
    refine g_iadd dX6_value_99 ?_
    refine g_iload (q := 10) dX6_value_100 rfl ?_
    refine g_if_ge (tgt := 110) dX6_value_102 (by decide) (fun c13 => ?_) (fun c14 => ?_)
    · have h := h.1 c13
      refine g_iload (q := 7) dX6_value_110 rfl ?_
      refine g_iload (q := 10) dX6_value_112 rfl ?_
      refine g_callS2 dX6_value_114 kJ8_min q1627 q686 rfl (by omega) (Nat.le_of_ble_eq_true rfl) (Nat.le_refl _) (Nat.le_refl _) (t_pI hs (pJ8_min hs.S) ?_)
      obtain ⟨c18, h⟩ := h
      refine g_iastore dX6_value_117 (by decide) (sk_101 hs.S) c18.1 (t_lt (sn_101 hs.S) c18.2) (p_w hs sf_101 (tWs_in _ rfl) fun μ19 eμ19 hs => ?_)
      have h := h μ19 eμ19
      refine g_iinc (q := 9) dX6_value_118 (by decide) rfl [1, 2, 3, 4, 5, 6, 7, 8, 9, 0, 10] rfl ?_
      refine g_goto (tgt := 56) dX6_value_121 (by decide) ?_
      exact g_less [0, 1, 2, 3, 4, 5, 6, 7, 8, 9] rfl h
    · have h := h.2 c14
      refine g_iload (q := 7) dX6_value_105 rfl ?_
      refine g_goto (tgt := 117) dX6_value_107 (by decide) ?_
      obtain ⟨c20, h⟩ := h
      refine g_iastore dX6_value_117 (by decide) (sk_101 hs.S) c20.1 (t_lt (sn_101 hs.S) c20.2) (p_w hs sf_101 (tWs_in _ rfl) fun μ21 eμ21 hs => ?_)
      have h := h μ21 eμ21
      refine g_iinc (q := 9) dX6_value_118 (by decide) rfl [1, 2, 3, 4, 5, 6, 7, 8, 9, 0, 10] rfl ?_
      refine g_goto (tgt := 56) dX6_value_121 (by decide) ?_
      exact g_less [0, 1, 2, 3, 4, 5, 6, 7, 8, 9] rfl h
