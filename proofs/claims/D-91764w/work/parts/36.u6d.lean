theorem uX6_stepOf_0 {d : Nat} {μ0 μ : tm_M} {K : Int → tm_M → Prop} {v1 v2 v3 : Int} (hs : tFr wX6_stepOf μ0 μ)
    (h : (0 ≤ v2 ∧ v2 < 3) ∧ ((∀ x2, x2 = tm_v μ 86 v2 → (∀ μ3, μ3 = tm_w μ 86 v2 (w32 ((tm_v μ 86 v2) + 1)) → (0 ≤ v1 ∧ v1 < 12) ∧ ((tm_v μ0 82 v1 ≤ 0 → (0 ≤ w32 (3 * v3) ∧ w32 (3 * v3) < 24) ∧ ((0 ≤ w32 ((w32 ((w32 (24 * v1)) + (w32 (6 * (tm_v μ3 87 v2))))) + (tm_v μ0 70 (w32 (3 * v3)))) ∧ w32 ((w32 ((w32 (24 * v1)) + (w32 (6 * (tm_v μ3 87 v2))))) + (tm_v μ0 70 (w32 (3 * v3)))) < 288) ∧ ((∀ x9, x9 = tm_v μ0 83 (w32 ((w32 ((w32 (24 * v1)) + (w32 (6 * (tm_v μ3 87 v2))))) + (tm_v μ0 70 (w32 (3 * v3))))) → (∀ μ10, μ10 = tm_w μ3 87 v2 (w32 (x9.tdiv 5)) → K (x9.tmod 5) μ10))))) ∧ (0 < tm_v μ0 82 v1 → (x2 < tm_v μ0 82 v1 → (tm_v μ0 82 v1 ≠ 0) ∧ ((0 ≤ w32 ((w32 (24 * v1)) + (x2.tmod (tm_v μ0 82 v1))) ∧ w32 ((w32 (24 * v1)) + (x2.tmod (tm_v μ0 82 v1))) < 288) ∧ (K (tm_v μ0 83 (w32 ((w32 (24 * v1)) + (x2.tmod (tm_v μ0 82 v1))))) μ3))) ∧ (tm_v μ0 82 v1 ≤ x2 → (tm_v μ0 84 v1 = 0 → K 0 μ3) ∧ (tm_v μ0 84 v1 ≠ 0 → (tm_v μ0 82 v1 ≠ 0) ∧ ((0 ≤ w32 ((w32 (24 * v1)) + (x2.tmod (tm_v μ0 82 v1))) ∧ w32 ((w32 (24 * v1)) + (x2.tmod (tm_v μ0 82 v1))) < 288) ∧ (K (tm_v μ0 83 (w32 ((w32 (24 * v1)) + (x2.tmod (tm_v μ0 82 v1))))) μ3)))))))))) :
    hI wX6_stepOf μ0 mX6_stepOf d K 0 [(0, 2, 65), (1, 0, v1), (2, 0, v2), (3, 0, v3)] [] μ := by
  refine g_aload_n (q := 0) dX6_stepOf_0 rfl rfl ?_
  refine g_getC (x := 86) 2 dX6_stepOf_1 fX6_87 rfl (by decide) (sk_65 hs.S) (sv_65_48 hs.S) ?_
  refine g_iload_n (q := 2) dX6_stepOf_4 rfl rfl ?_
  obtain ⟨c1, h⟩ := h
  refine g_iaload dX6_stepOf_5 (by decide) (sk_86 hs.S) c1.1 (t_lt (sn_86 hs.S) c1.2) ?_
  refine g_istoreN (fun z => [(0, 2, 65), (1, 0, v1), (2, 0, v2), (3, 0, v3), (4, 0, z)]) dX6_stepOf_6 (by decide) [1, 2, 3, 4, 0] (fun _ => rfl) (fun x2 ex2 => ?_)
  have h := h x2 ex2
  refine g_aload_n (q := 0) dX6_stepOf_8 rfl rfl ?_
  refine g_getC (x := 86) 2 dX6_stepOf_9 fX6_87 rfl (by decide) (sk_65 hs.S) (sv_65_48 hs.S) ?_
  refine g_iload_n (q := 2) dX6_stepOf_12 rfl rfl ?_
  refine g_dup2_11 dX6_stepOf_13 (by decide) (by decide) ?_
  refine g_iaload dX6_stepOf_14 (by decide) (sk_86 hs.S) c1.1 (t_lt (sn_86 hs.S) c1.2) ?_
  refine g_iconst dX6_stepOf_15 (by decide) ?_
  refine g_iadd dX6_stepOf_16 ?_
  refine g_iastore dX6_stepOf_17 (by decide) (sk_86 hs.S) c1.1 (t_lt (sn_86 hs.S) c1.2) (p_w hs sf_86 (tWs_in _ rfl) fun μ3 eμ3 hs => ?_)
  have h := h μ3 eμ3
  refine g_aload_n (q := 0) dX6_stepOf_18 rfl rfl ?_
  refine g_getC (x := 82) 2 dX6_stepOf_19 fX6_75 rfl (by decide) (sk_65 hs.S) (sv_65_44 hs.S) ?_
  refine g_iload_n (q := 1) dX6_stepOf_22 rfl rfl ?_
  obtain ⟨c4, h⟩ := h
  refine g_ialoadC (x := tm_v μ0 82 v1) dX6_stepOf_23 (by decide) (sk_82 hs.S) c4.1 (t_lt (sn_82 hs.S) c4.2) (hs.v (tWs_no _ rfl)) ?_
  refine g_if_le (tgt := 71) dX6_stepOf_24 (by decide) (fun c5 => ?_) (fun c6 => ?_)
  · have h := h.1 c5
    refine g_aload_n (q := 0) dX6_stepOf_71 rfl rfl ?_
    refine g_getC (x := 83) 2 dX6_stepOf_72 fX6_78 rfl (by decide) (sk_65 hs.S) (sv_65_45 hs.S) ?_
    refine g_bipush dX6_stepOf_75 ⟨by decide, by decide, rfl⟩ ?_
    refine g_iload_n (q := 1) dX6_stepOf_77 rfl rfl ?_
    refine g_imul dX6_stepOf_78 ?_
    refine g_bipush dX6_stepOf_79 ⟨by decide, by decide, rfl⟩ ?_
    refine g_aload_n (q := 0) dX6_stepOf_81 rfl rfl ?_
    refine g_getC (x := 87) 2 dX6_stepOf_82 fX6_90 rfl (by decide) (sk_65 hs.S) (sv_65_49 hs.S) ?_
    refine g_iload_n (q := 2) dX6_stepOf_85 rfl rfl ?_
    refine g_iaload dX6_stepOf_86 (by decide) (sk_87 hs.S) c1.1 (t_lt (sn_87 hs.S) c1.2) ?_
    refine g_imul dX6_stepOf_87 ?_
    refine g_iadd dX6_stepOf_88 ?_
    refine g_aload_n (q := 0) dX6_stepOf_89 rfl rfl ?_
    refine g_getC (x := 70) 2 dX6_stepOf_90 fX6_38 rfl (by decide) (sk_65 hs.S) (sv_65_31 hs.S) ?_
    refine g_iconst dX6_stepOf_93 (by decide) ?_
    refine g_iload_n (q := 3) dX6_stepOf_94 rfl rfl ?_
    refine g_imul dX6_stepOf_95 ?_
    obtain ⟨c7, h⟩ := h
    refine g_ialoadC (x := tm_v μ0 70 (w32 (3 * v3))) dX6_stepOf_96 (by decide) (sk_70 hs.S) c7.1 (t_lt (sn_70 hs.S) c7.2) (hs.v (tWs_no _ rfl)) ?_
    refine g_iadd dX6_stepOf_97 ?_
    obtain ⟨c8, h⟩ := h
    refine g_ialoadC (x := tm_v μ0 83 (w32 ((w32 ((w32 (24 * v1)) + (w32 (6 * (tm_v μ3 87 v2))))) + (tm_v μ0 70 (w32 (3 * v3)))))) dX6_stepOf_98 (by decide) (sk_83 hs.S) c8.1 (t_lt (sn_83 hs.S) c8.2) (hs.v (tWs_no _ rfl)) ?_
    refine g_istoreN (fun z => [(0, 2, 65), (1, 0, v1), (2, 0, v2), (3, 0, v3), (4, 0, x2), (5, 0, z)]) dX6_stepOf_99 (by decide) [1, 2, 3, 4, 5, 0] (fun _ => rfl) (fun x9 ex9 => ?_)
    have h := h x9 ex9
    refine g_aload_n (q := 0) dX6_stepOf_101 rfl rfl ?_
    refine g_getC (x := 87) 2 dX6_stepOf_102 fX6_90 rfl (by decide) (sk_65 hs.S) (sv_65_49 hs.S) ?_
    refine g_iload_n (q := 2) dX6_stepOf_105 rfl rfl ?_
    refine g_iload (q := 5) dX6_stepOf_106 rfl ?_
    refine g_iconst dX6_stepOf_108 (by decide) ?_
    refine g_idiv dX6_stepOf_109 (by decide) ?_
    refine g_iastore dX6_stepOf_110 (by decide) (sk_87 hs.S) c1.1 (t_lt (sn_87 hs.S) c1.2) (p_w hs sf_87 (tWs_in _ rfl) fun μ10 eμ10 hs => ?_)
    have h := h μ10 eμ10
    refine g_iload (q := 5) dX6_stepOf_111 rfl ?_
    refine g_iconst dX6_stepOf_113 (by decide) ?_
    refine g_irem dX6_stepOf_114 (by decide) ?_
    exact g_iret dX6_stepOf_115 rfl (Nat.le_refl _) (Nat.le_refl _) ⟨_, rfl, hs, h⟩
  · have h := h.2 c6
    refine g_iload (q := 4) dX6_stepOf_27 rfl ?_
    refine g_aload_n (q := 0) dX6_stepOf_29 rfl rfl ?_
    refine g_getC (x := 82) 2 dX6_stepOf_30 fX6_75 rfl (by decide) (sk_65 hs.S) (sv_65_44 hs.S) ?_
    refine g_iload_n (q := 1) dX6_stepOf_33 rfl rfl ?_
    refine g_ialoadC (x := tm_v μ0 82 v1) dX6_stepOf_34 (by decide) (sk_82 hs.S) c4.1 (t_lt (sn_82 hs.S) c4.2) (hs.v (tWs_no _ rfl)) ?_
    refine g_icmp_lt (tgt := 47) dX6_stepOf_35 (by decide) (fun c11 => ?_) (fun c12 => ?_)
    · have h := h.1 c11
      refine g_aload_n (q := 0) dX6_stepOf_47 rfl rfl ?_
      refine g_getC (x := 83) 2 dX6_stepOf_48 fX6_78 rfl (by decide) (sk_65 hs.S) (sv_65_45 hs.S) ?_
      refine g_bipush dX6_stepOf_51 ⟨by decide, by decide, rfl⟩ ?_
      refine g_iload_n (q := 1) dX6_stepOf_53 rfl rfl ?_
      refine g_imul dX6_stepOf_54 ?_
      refine g_iload (q := 4) dX6_stepOf_55 rfl ?_
      refine g_aload_n (q := 0) dX6_stepOf_57 rfl rfl ?_
      refine g_getC (x := 82) 2 dX6_stepOf_58 fX6_75 rfl (by decide) (sk_65 hs.S) (sv_65_44 hs.S) ?_
      refine g_iload_n (q := 1) dX6_stepOf_61 rfl rfl ?_
      refine g_ialoadC (x := tm_v μ0 82 v1) dX6_stepOf_62 (by decide) (sk_82 hs.S) c4.1 (t_lt (sn_82 hs.S) c4.2) (hs.v (tWs_no _ rfl)) ?_
      obtain ⟨c13, h⟩ := h
      refine g_irem dX6_stepOf_63 c13 ?_
      refine g_iadd dX6_stepOf_64 ?_
      obtain ⟨c14, h⟩ := h
      refine g_ialoadC (x := tm_v μ0 83 (w32 ((w32 (24 * v1)) + (x2.tmod (tm_v μ0 82 v1))))) dX6_stepOf_65 (by decide) (sk_83 hs.S) c14.1 (t_lt (sn_83 hs.S) c14.2) (hs.v (tWs_no _ rfl)) ?_
      refine g_goto (tgt := 70) dX6_stepOf_66 (by decide) ?_
      exact g_iret dX6_stepOf_70 rfl (Nat.le_refl _) (Nat.le_refl _) ⟨_, rfl, hs, h⟩
    · have h := h.2 c12
      refine g_aload_n (q := 0) dX6_stepOf_38 rfl rfl ?_
      refine g_getC (x := 84) 2 dX6_stepOf_39 fX6_81 rfl (by decide) (sk_65 hs.S) (sv_65_46 hs.S) ?_
      refine g_iload_n (q := 1) dX6_stepOf_42 rfl rfl ?_
      refine g_zaloadC (x := tm_v μ0 84 v1) dX6_stepOf_43 (by decide) (sk_84 hs.S) c4.1 (t_lt (sn_84 hs.S) c4.2) (hs.v (tWs_no _ rfl)) ?_
      refine g_if_eq (tgt := 69) dX6_stepOf_44 (by decide) (fun c15 => ?_) (fun c16 => ?_)
      · have h := h.1 c15
        refine g_iconst dX6_stepOf_69 (by decide) ?_
        exact g_iret dX6_stepOf_70 rfl (Nat.le_refl _) (Nat.le_refl _) ⟨_, rfl, hs, h⟩
      · have h := h.2 c16
        refine g_aload_n (q := 0) dX6_stepOf_47 rfl rfl ?_
        refine g_getC (x := 83) 2 dX6_stepOf_48 fX6_78 rfl (by decide) (sk_65 hs.S) (sv_65_45 hs.S) ?_
        refine g_bipush dX6_stepOf_51 ⟨by decide, by decide, rfl⟩ ?_
        refine g_iload_n (q := 1) dX6_stepOf_53 rfl rfl ?_
        refine g_imul dX6_stepOf_54 ?_
        refine g_iload (q := 4) dX6_stepOf_55 rfl ?_
        refine g_aload_n (q := 0) dX6_stepOf_57 rfl rfl ?_
        refine g_getC (x := 82) 2 dX6_stepOf_58 fX6_75 rfl (by decide) (sk_65 hs.S) (sv_65_44 hs.S) ?_
        refine g_iload_n (q := 1) dX6_stepOf_61 rfl rfl ?_
        refine g_ialoadC (x := tm_v μ0 82 v1) dX6_stepOf_62 (by decide) (sk_82 hs.S) c4.1 (t_lt (sn_82 hs.S) c4.2) (hs.v (tWs_no _ rfl)) ?_
        obtain ⟨c17, h⟩ := h
        refine g_irem dX6_stepOf_63 c17 ?_
        refine g_iadd dX6_stepOf_64 ?_
        obtain ⟨c18, h⟩ := h
        refine g_ialoadC (x := tm_v μ0 83 (w32 ((w32 (24 * v1)) + (x2.tmod (tm_v μ0 82 v1))))) dX6_stepOf_65 (by decide) (sk_83 hs.S) c18.1 (t_lt (sn_83 hs.S) c18.2) (hs.v (tWs_no _ rfl)) ?_
        refine g_goto (tgt := 70) dX6_stepOf_66 (by decide) ?_
        exact g_iret dX6_stepOf_70 rfl (Nat.le_refl _) (Nat.le_refl _) ⟨_, rfl, hs, h⟩
theorem uX6_findFar_0 {d : Nat} {μ0 μ : tm_M} {K : tm_M → Prop} {v1 : Int} (hs : tFr wX6_findFar μ0 μ)
    (h : hV wX6_findFar μ0 mX6_findFar d K 2 [(0, 2, 65), (1, 0, v1), (2, 0, 0)] [] μ) :
    hV wX6_findFar μ0 mX6_findFar d K 0 [(0, 2, 65), (1, 0, v1)] [] μ := by
  refine g_iconst dX6_findFar_0 (by decide) ?_
  refine g_istore_n (L' := [(0, 2, 65), (1, 0, v1), (2, 0, 0)]) dX6_findFar_1 rfl (by decide) [1, 2, 0] rfl ?_
  exact h
theorem uX6_findFar_2 {d : Nat} {μ0 μ : tm_M} {K : tm_M → Prop} {v1 v2 : Int} (hs : tFr wX6_findFar μ0 μ)
    (h : (tm_v μ0 65 20 ≤ v2 → hV wX6_findFar μ0 mX6_findFar d K 35 [(0, 2, 65), (2, 0, 0)] [] μ) ∧ (v2 < tm_v μ0 65 20 → (v2 ≠ v1 → (0 ≤ v2 ∧ v2 < 8) ∧ ((∀ μ6, μ6 = tm_w μ 89 v2 100 → hV wX6_findFar μ0 mX6_findFar d K 2 [(0, 2, 65), (1, 0, v1), (2, 0, w32 (v2 + 1))] [] μ6))) ∧ (v2 = v1 → (0 ≤ v2 ∧ v2 < 8) ∧ ((∀ μ8, μ8 = tm_w μ 89 v2 0 → hV wX6_findFar μ0 mX6_findFar d K 2 [(0, 2, 65), (1, 0, v1), (2, 0, w32 (v2 + 1))] [] μ8))))) :
    hV wX6_findFar μ0 mX6_findFar d K 2 [(0, 2, 65), (1, 0, v1), (2, 0, v2)] [] μ := by
  refine g_iload_n (q := 2) dX6_findFar_2 rfl rfl ?_
  refine g_aload_n (q := 0) dX6_findFar_3 rfl rfl ?_
  refine g_getC (x := tm_v μ0 65 20) 0 dX6_findFar_4 fX6_326 rfl (by decide) (sk_65 hs.S) (hs.v (tWs_noF rfl)) ?_
  refine g_icmp_ge (tgt := 33) dX6_findFar_7 (by decide) (fun c1 => ?_) (fun c2 => ?_)
  · have h := h.1 c1
    refine g_iconst dX6_findFar_33 (by decide) ?_
    refine g_istore_n (L' := [(0, 2, 65), (1, 0, v1), (2, 0, 0)]) dX6_findFar_34 rfl (by decide) [1, 2, 0] rfl ?_
    exact g_less [0, 2] rfl h
  · have h := h.2 c2
    refine g_aload_n (q := 0) dX6_findFar_10 rfl rfl ?_
    refine g_getC (x := 89) 2 dX6_findFar_11 fX6_96 rfl (by decide) (sk_65 hs.S) (sv_65_51 hs.S) ?_
    refine g_iload_n (q := 2) dX6_findFar_14 rfl rfl ?_
    refine g_iload_n (q := 2) dX6_findFar_15 rfl rfl ?_
    refine g_iload_n (q := 1) dX6_findFar_16 rfl rfl ?_
    refine g_icmp_ne (tgt := 24) dX6_findFar_17 (by decide) (fun c3 => ?_) (fun c4 => ?_)
    · have h := h.1 c3
      refine g_bipush dX6_findFar_24 ⟨by decide, by decide, rfl⟩ ?_
      obtain ⟨c5, h⟩ := h
      refine g_iastore dX6_findFar_26 (by decide) (sk_89 hs.S) c5.1 (t_lt (sn_89 hs.S) c5.2) (p_w hs sf_89 (tWs_in _ rfl) fun μ6 eμ6 hs => ?_)
      have h := h μ6 eμ6
      refine g_iinc (q := 2) dX6_findFar_27 (by decide) rfl [1, 2, 0] rfl ?_
      refine g_goto (tgt := 2) dX6_findFar_30 (by decide) ?_
      exact h
    · have h := h.2 c4
      refine g_iconst dX6_findFar_20 (by decide) ?_
      refine g_goto (tgt := 26) dX6_findFar_21 (by decide) ?_
      obtain ⟨c7, h⟩ := h
      refine g_iastore dX6_findFar_26 (by decide) (sk_89 hs.S) c7.1 (t_lt (sn_89 hs.S) c7.2) (p_w hs sf_89 (tWs_in _ rfl) fun μ8 eμ8 hs => ?_)
      have h := h μ8 eμ8
      refine g_iinc (q := 2) dX6_findFar_27 (by decide) rfl [1, 2, 0] rfl ?_
      refine g_goto (tgt := 2) dX6_findFar_30 (by decide) ?_
      exact h
theorem uX6_findFar_35 {d : Nat} {μ0 μ : tm_M} {K : tm_M → Prop} {v2 : Int} (hs : tFr wX6_findFar μ0 μ)
    (h : (tm_v μ0 65 20 ≤ v2 → K μ) ∧ (v2 < tm_v μ0 65 20 → hV wX6_findFar μ0 mX6_findFar d K 45 [(0, 2, 65), (2, 0, v2), (3, 0, 0)] [] μ)) :
    hV wX6_findFar μ0 mX6_findFar d K 35 [(0, 2, 65), (2, 0, v2)] [] μ := by
  refine g_iload_n (q := 1) dX6_findFar_35 rfl rfl ?_
  refine g_aload_n (q := 0) dX6_findFar_36 rfl rfl ?_
  refine g_getC (x := tm_v μ0 65 20) 0 dX6_findFar_37 fX6_326 rfl (by decide) (sk_65 hs.S) (hs.v (tWs_noF rfl)) ?_
  refine g_icmp_ge (tgt := 153) dX6_findFar_40 (by decide) (fun c1 => ?_) (fun c2 => ?_)
  · have h := h.1 c1
    exact g_vret dX6_findFar_153 rfl (Nat.le_refl _) (Nat.le_refl _) ⟨rfl, hs, h⟩
  · have h := h.2 c2
    refine g_iconst dX6_findFar_43 (by decide) ?_
    refine g_istore_n (L' := [(0, 2, 65), (2, 0, v2), (3, 0, 0)]) dX6_findFar_44 rfl (by decide) [1, 2, 0] rfl ?_
    exact h
theorem uX6_findFar_45 {d : Nat} {μ0 μ : tm_M} {K : tm_M → Prop} {v2 v3 : Int} (hd : 1 ≤ d) (hs : tFr wX6_findFar μ0 μ)
    (h : (tm_v μ0 65 21 ≤ v3 → hV wX6_findFar μ0 mX6_findFar d K 35 [(0, 2, 65), (2, 0, w32 (v2 + 1))] [] μ) ∧ (v3 < tm_v μ0 65 21 → (0 ≤ v3 ∧ v3 < 12) ∧ ((tm_v μ0 80 v3 = 0 → (0 ≤ tm_v μ0 76 v3 ∧ tm_v μ0 76 v3 < 8) ∧ ((0 ≤ tm_v μ0 77 v3 ∧ tm_v μ0 77 v3 < 8) ∧ ((∀ μ11, μ11 = tm_w μ 89 (tm_v μ0 76 v3) (min (tm_v μ 89 (tm_v μ0 76 v3)) (w32 ((tm_v μ 89 (tm_v μ0 77 v3)) + 1))) → (∀ μ15, μ15 = tm_w μ11 89 (tm_v μ0 77 v3) (min (tm_v μ11 89 (tm_v μ0 77 v3)) (w32 ((tm_v μ11 89 (tm_v μ0 76 v3)) + 1))) → hV wX6_findFar μ0 mX6_findFar d K 45 [(0, 2, 65), (2, 0, v2), (3, 0, w32 (v3 + 1))] [] μ15))))) ∧ (tm_v μ0 80 v3 ≠ 0 → hV wX6_findFar μ0 mX6_findFar d K 45 [(0, 2, 65), (2, 0, v2), (3, 0, w32 (v3 + 1))] [] μ)))) :
    hV wX6_findFar μ0 mX6_findFar d K 45 [(0, 2, 65), (2, 0, v2), (3, 0, v3)] [] μ := by
  refine g_iload_n (q := 2) dX6_findFar_45 rfl rfl ?_
  refine g_aload_n (q := 0) dX6_findFar_46 rfl rfl ?_
  refine g_getC (x := tm_v μ0 65 21) 0 dX6_findFar_47 fX6_329 rfl (by decide) (sk_65 hs.S) (hs.v (tWs_noF rfl)) ?_
  refine g_icmp_ge (tgt := 147) dX6_findFar_50 (by decide) (fun c1 => ?_) (fun c2 => ?_)
  · have h := h.1 c1
    refine g_iinc (q := 1) dX6_findFar_147 (by decide) rfl [1, 0, 2] rfl ?_
    refine g_goto (tgt := 35) dX6_findFar_150 (by decide) ?_
    exact g_less [0, 1] rfl h
  · have h := h.2 c2
    refine g_aload_n (q := 0) dX6_findFar_53 rfl rfl ?_
    refine g_getC (x := 80) 2 dX6_findFar_54 fX6_68 rfl (by decide) (sk_65 hs.S) (sv_65_41 hs.S) ?_
    refine g_iload_n (q := 2) dX6_findFar_57 rfl rfl ?_
    obtain ⟨c3, h⟩ := h
    refine g_zaloadC (x := tm_v μ0 80 v3) dX6_findFar_58 (by decide) (sk_80 hs.S) c3.1 (t_lt (sn_80 hs.S) c3.2) (hs.v (tWs_no _ rfl)) ?_
    refine g_if_eq (tgt := 65) dX6_findFar_59 (by decide) (fun c4 => ?_) (fun c5 => ?_)
    · have h := h.1 c4
      refine g_aload_n (q := 0) dX6_findFar_65 rfl rfl ?_
      refine g_getC (x := 89) 2 dX6_findFar_66 fX6_96 rfl (by decide) (sk_65 hs.S) (sv_65_51 hs.S) ?_
      refine g_aload_n (q := 0) dX6_findFar_69 rfl rfl ?_
      refine g_getC (x := 76) 2 dX6_findFar_70 fX6_56 rfl (by decide) (sk_65 hs.S) (sv_65_37 hs.S) ?_
      refine g_iload_n (q := 2) dX6_findFar_73 rfl rfl ?_
      refine g_ialoadC (x := tm_v μ0 76 v3) dX6_findFar_74 (by decide) (sk_76 hs.S) c3.1 (t_lt (sn_76 hs.S) c3.2) (hs.v (tWs_no _ rfl)) ?_
      refine g_aload_n (q := 0) dX6_findFar_75 rfl rfl ?_
      refine g_getC (x := 89) 2 dX6_findFar_76 fX6_96 rfl (by decide) (sk_65 hs.S) (sv_65_51 hs.S) ?_
      refine g_aload_n (q := 0) dX6_findFar_79 rfl rfl ?_
      refine g_getC (x := 76) 2 dX6_findFar_80 fX6_56 rfl (by decide) (sk_65 hs.S) (sv_65_37 hs.S) ?_
      refine g_iload_n (q := 2) dX6_findFar_83 rfl rfl ?_
      refine g_ialoadC (x := tm_v μ0 76 v3) dX6_findFar_84 (by decide) (sk_76 hs.S) c3.1 (t_lt (sn_76 hs.S) c3.2) (hs.v (tWs_no _ rfl)) ?_
      obtain ⟨c6, h⟩ := h
      refine g_iaload dX6_findFar_85 (by decide) (sk_89 hs.S) c6.1 (t_lt (sn_89 hs.S) c6.2) ?_
      refine g_aload_n (q := 0) dX6_findFar_86 rfl rfl ?_
      refine g_getC (x := 89) 2 dX6_findFar_87 fX6_96 rfl (by decide) (sk_65 hs.S) (sv_65_51 hs.S) ?_
      refine g_aload_n (q := 0) dX6_findFar_90 rfl rfl ?_
      refine g_getC (x := 77) 2 dX6_findFar_91 fX6_59 rfl (by decide) (sk_65 hs.S) (sv_65_38 hs.S) ?_
      refine g_iload_n (q := 2) dX6_findFar_94 rfl rfl ?_
      refine g_ialoadC (x := tm_v μ0 77 v3) dX6_findFar_95 (by decide) (sk_77 hs.S) c3.1 (t_lt (sn_77 hs.S) c3.2) (hs.v (tWs_no _ rfl)) ?_
      obtain ⟨c7, h⟩ := h
      refine g_iaload dX6_findFar_96 (by decide) (sk_89 hs.S) c7.1 (t_lt (sn_89 hs.S) c7.2) ?_
      refine g_iconst dX6_findFar_97 (by decide) ?_
      refine g_iadd dX6_findFar_98 ?_
      refine g_callS2 dX6_findFar_99 kJ8_min q1627 q686 rfl (by omega) (Nat.le_of_ble_eq_true rfl) (Nat.le_refl _) (Nat.le_refl _) (t_pI hs (pJ8_min hs.S) ?_)
      refine g_iastore dX6_findFar_102 (by decide) (sk_89 hs.S) c6.1 (t_lt (sn_89 hs.S) c6.2) (p_w hs sf_89 (tWs_in _ rfl) fun μ11 eμ11 hs => ?_)
      have h := h μ11 eμ11
      refine g_aload_n (q := 0) dX6_findFar_103 rfl rfl ?_
      refine g_getC (x := 89) 2 dX6_findFar_104 fX6_96 rfl (by decide) (sk_65 hs.S) (sv_65_51 hs.S) ?_
      refine g_aload_n (q := 0) dX6_findFar_107 rfl rfl ?_
      refine g_getC (x := 77) 2 dX6_findFar_108 fX6_59 rfl (by decide) (sk_65 hs.S) (sv_65_38 hs.S) ?_
      refine g_iload_n (q := 2) dX6_findFar_111 rfl rfl ?_
      refine g_ialoadC (x := tm_v μ0 77 v3) dX6_findFar_112 (by decide) (sk_77 hs.S) c3.1 (t_lt (sn_77 hs.S) c3.2) (hs.v (tWs_no _ rfl)) ?_
      refine g_aload_n (q := 0) dX6_findFar_113 rfl rfl ?_
      refine g_getC (x := 89) 2 dX6_findFar_114 fX6_96 rfl (by decide) (sk_65 hs.S) (sv_65_51 hs.S) ?_
      refine g_aload_n (q := 0) dX6_findFar_117 rfl rfl ?_
      refine g_getC (x := 77) 2 dX6_findFar_118 fX6_59 rfl (by decide) (sk_65 hs.S) (sv_65_38 hs.S) ?_
      refine g_iload_n (q := 2) dX6_findFar_121 rfl rfl ?_
      refine g_ialoadC (x := tm_v μ0 77 v3) dX6_findFar_122 (by decide) (sk_77 hs.S) c3.1 (t_lt (sn_77 hs.S) c3.2) (hs.v (tWs_no _ rfl)) ?_
      refine g_iaload dX6_findFar_123 (by decide) (sk_89 hs.S) c7.1 (t_lt (sn_89 hs.S) c7.2) ?_
      refine g_aload_n (q := 0) dX6_findFar_124 rfl rfl ?_
      refine g_getC (x := 89) 2 dX6_findFar_125 fX6_96 rfl (by decide) (sk_65 hs.S) (sv_65_51 hs.S) ?_
      refine g_aload_n (q := 0) dX6_findFar_128 rfl rfl ?_
      refine g_getC (x := 76) 2 dX6_findFar_129 fX6_56 rfl (by decide) (sk_65 hs.S) (sv_65_37 hs.S) ?_
      refine g_iload_n (q := 2) dX6_findFar_132 rfl rfl ?_
      refine g_ialoadC (x := tm_v μ0 76 v3) dX6_findFar_133 (by decide) (sk_76 hs.S) c3.1 (t_lt (sn_76 hs.S) c3.2) (hs.v (tWs_no _ rfl)) ?_
      refine g_iaload dX6_findFar_134 (by decide) (sk_89 hs.S) c6.1 (t_lt (sn_89 hs.S) c6.2) ?_
      refine g_iconst dX6_findFar_135 (by decide) ?_
      refine g_iadd dX6_findFar_136 ?_
      refine g_callS2 dX6_findFar_137 kJ8_min q1627 q686 rfl (by omega) (Nat.le_of_ble_eq_true rfl) (Nat.le_refl _) (Nat.le_refl _) (t_pI hs (pJ8_min hs.S) ?_)
      refine g_iastore dX6_findFar_140 (by decide) (sk_89 hs.S) c7.1 (t_lt (sn_89 hs.S) c7.2) (p_w hs sf_89 (tWs_in _ rfl) fun μ15 eμ15 hs => ?_)
      have h := h μ15 eμ15
      refine g_iinc (q := 2) dX6_findFar_141 (by decide) rfl [1, 2, 0] rfl ?_
      refine g_goto (tgt := 45) dX6_findFar_144 (by decide) ?_
      exact h
    · have h := h.2 c5
      refine g_goto (tgt := 141) dX6_findFar_62 (by decide) ?_
      refine g_iinc (q := 2) dX6_findFar_141 (by decide) rfl [1, 2, 0] rfl ?_
      refine g_goto (tgt := 45) dX6_findFar_144 (by decide) ?_
      exact h
theorem uX6_wrong_0 {d : Nat} {μ0 μ : tm_M} {K : tm_M → Prop} (hd : 1 ≤ d) (hs : tFr wX6_wrong μ0 μ)
    (h : (tm_v μ0 65 14 ≠ 4 → cV wX6_fail mX6_fail (d - 1) [(2, 65), (0, 2), (0, tm_v μ0 65 15)] μ (fun μ3 => K μ3)) ∧ (tm_v μ0 65 14 = 4 → cV wX6_fail mX6_fail (d - 1) [(2, 65), (0, 1), (0, tm_v μ0 65 15)] μ (fun μ4 => K μ4))) :
    hV wX6_wrong μ0 mX6_wrong d K 0 [(0, 2, 65)] [] μ := by
  refine g_aload_n (q := 0) dX6_wrong_0 rfl rfl ?_
  refine g_aload_n (q := 0) dX6_wrong_1 rfl rfl ?_
  refine g_getC (x := tm_v μ0 65 14) 0 dX6_wrong_2 fX6_193 rfl (by decide) (sk_65 hs.S) (hs.v (tWs_noF rfl)) ?_
  refine g_iconst dX6_wrong_5 (by decide) ?_
  refine g_icmp_ne (tgt := 13) dX6_wrong_6 (by decide) (fun c1 => ?_) (fun c2 => ?_)
  · have h := h.1 c1
    refine g_iconst dX6_wrong_13 (by decide) ?_
    refine g_aload_n (q := 0) dX6_wrong_14 rfl rfl ?_
    refine g_getC (x := tm_v μ0 65 15) 0 dX6_wrong_15 fX6_187 rfl (by decide) (sk_65 hs.S) (hs.v (tWs_noF rfl)) ?_
    refine g_callV2 dX6_wrong_18 kX6_fail q1551 q1553 qs67 (ci := 6) rfl (by decide) rfl (by omega) (by decide) (sk_65 hs.S) (Nat.le_of_ble_eq_true rfl) (Nat.le_refl _) (Nat.le_refl _) (t_kV hs (tWs_sub rfl) h (fun μ3 hs h => ?_))
    exact g_vret dX6_wrong_21 rfl (Nat.le_refl _) (Nat.le_refl _) ⟨rfl, hs, h⟩
  · have h := h.2 c2
    refine g_iconst dX6_wrong_9 (by decide) ?_
    refine g_goto (tgt := 14) dX6_wrong_10 (by decide) ?_
    refine g_aload_n (q := 0) dX6_wrong_14 rfl rfl ?_
    refine g_getC (x := tm_v μ0 65 15) 0 dX6_wrong_15 fX6_187 rfl (by decide) (sk_65 hs.S) (hs.v (tWs_noF rfl)) ?_
    refine g_callV2 dX6_wrong_18 kX6_fail q1551 q1553 qs67 (ci := 6) rfl (by decide) rfl (by omega) (by decide) (sk_65 hs.S) (Nat.le_of_ble_eq_true rfl) (Nat.le_refl _) (Nat.le_refl _) (t_kV hs (tWs_sub rfl) h (fun μ4 hs h => ?_))
    exact g_vret dX6_wrong_21 rfl (Nat.le_refl _) (Nat.le_refl _) ⟨rfl, hs, h⟩
theorem uX6_byRows_0 {d : Nat} {μ0 μ : tm_M} {K : Int → tm_M → Prop} {v1 v2 v3 v4 : Int} (hs : tFr wX6_byRows μ0 μ)
    (h : (v1 ≠ v2 → hI wX6_byRows μ0 mX6_byRows d K 18 [(0, 2, 65), (3, 0, v3), (4, 0, v4), (5, 0, v1), (6, 0, v2), (7, 0, 0)] [] μ) ∧ (v1 = v2 → K 0 μ)) :
    hI wX6_byRows μ0 mX6_byRows d K 0 [(0, 2, 65), (1, 0, v1), (2, 0, v2), (3, 0, v3), (4, 0, v4)] [] μ := by
  refine g_iload_n (q := 1) dX6_byRows_0 rfl rfl ?_
  refine g_istore (L' := [(0, 2, 65), (1, 0, v1), (2, 0, v2), (3, 0, v3), (4, 0, v4), (5, 0, v1)]) dX6_byRows_1 (by decide) [1, 2, 3, 4, 5, 0] rfl ?_
  refine g_iload_n (q := 2) dX6_byRows_3 rfl rfl ?_
  refine g_istore (L' := [(0, 2, 65), (1, 0, v1), (2, 0, v2), (3, 0, v3), (4, 0, v4), (5, 0, v1), (6, 0, v2)]) dX6_byRows_4 (by decide) [1, 2, 3, 4, 5, 6, 0] rfl ?_
  refine g_iload (q := 5) dX6_byRows_6 rfl ?_
  refine g_iload (q := 6) dX6_byRows_8 rfl ?_
  refine g_icmp_ne (tgt := 15) dX6_byRows_10 (by decide) (fun c1 => ?_) (fun c2 => ?_)
  · have h := h.1 c1
    refine g_iconst dX6_byRows_15 (by decide) ?_
    refine g_istore (L' := [(0, 2, 65), (1, 0, v1), (2, 0, v2), (3, 0, v3), (4, 0, v4), (5, 0, v1), (6, 0, v2), (7, 0, 0)]) dX6_byRows_16 (by decide) [1, 2, 3, 4, 5, 6, 7, 0] rfl ?_
    exact g_less [0, 3, 4, 5, 6, 7] rfl h
  · have h := h.2 c2
    refine g_iconst dX6_byRows_13 (by decide) ?_
    exact g_iret dX6_byRows_14 rfl (Nat.le_refl _) (Nat.le_refl _) ⟨_, rfl, hs, h⟩
theorem uX6_byRows_18 {d : Nat} {μ0 μ : tm_M} {K : Int → tm_M → Prop} {v3 v4 v5 v6 v7 : Int} (hd : 3 ≤ d) (hs : tFr wX6_byRows μ0 μ)
    (h : (v3 ≤ v7 → K (-1) μ) ∧ (v7 < v3 → (v4 = 0 → (0 ≤ w32 (2 * v7) ∧ w32 (2 * v7) < 6) ∧ ((y_p μ0 v5 ∧ 0 ≤ (tm_v μ0 92 (w32 (2 * v7))) ∧ (tm_v μ0 92 (w32 (2 * v7))) ≤ 4) ∧ ((∀ x10, x10 = y_go μ0 v5 (tm_v μ0 92 (w32 (2 * v7))) → (tm_v μ0 65 24 ≠ 0) ∧ ((v7.tmod (tm_v μ0 65 24) ≠ 0 → (¬ (x10 = v6 ∨ (tm_v μ0 65 28 ≠ 0 ∧ x10 = v6 ∧ v6 = v5)) → hI wX6_byRows μ0 mX6_byRows d K 18 [(0, 2, 65), (3, 0, v3), (4, 0, v4), (5, 0, x10), (6, 0, v6), (7, 0, w32 (v7 + 1))] [] μ) ∧ (x10 = v6 ∨ (tm_v μ0 65 28 ≠ 0 ∧ x10 = v6 ∧ v6 = v5) → K (w32 (v7 + 1)) μ)) ∧ (v7.tmod (tm_v μ0 65 24) = 0 → (v4 = 0 → (0 ≤ w32 ((w32 (2 * v7)) + 1) ∧ w32 ((w32 (2 * v7)) + 1) < 6) ∧ ((y_p μ0 v6 ∧ 0 ≤ (tm_v μ0 92 (w32 ((w32 (2 * v7)) + 1))) ∧ (tm_v μ0 92 (w32 ((w32 (2 * v7)) + 1))) ≤ 4) ∧ ((∀ x26, x26 = y_go μ0 v6 (tm_v μ0 92 (w32 ((w32 (2 * v7)) + 1))) → (¬ (x10 = x26 ∨ (tm_v μ0 65 28 ≠ 0 ∧ x10 = v6 ∧ x26 = v5)) → hI wX6_byRows μ0 mX6_byRows d K 18 [(0, 2, 65), (3, 0, v3), (4, 0, v4), (5, 0, x10), (6, 0, x26), (7, 0, w32 (v7 + 1))] [] μ) ∧ (x10 = x26 ∨ (tm_v μ0 65 28 ≠ 0 ∧ x10 = v6 ∧ x26 = v5) → K (w32 (v7 + 1)) μ))))) ∧ (v4 ≠ 0 → (0 ≤ v7 ∧ v7 < 6) ∧ ((y_p μ0 v6 ∧ 0 ≤ (tm_v μ0 92 v7) ∧ (tm_v μ0 92 v7) ≤ 4) ∧ ((∀ x37, x37 = y_go μ0 v6 (tm_v μ0 92 v7) → (¬ (x10 = x37 ∨ (tm_v μ0 65 28 ≠ 0 ∧ x10 = v6 ∧ x37 = v5)) → hI wX6_byRows μ0 mX6_byRows d K 18 [(0, 2, 65), (3, 0, v3), (4, 0, v4), (5, 0, x10), (6, 0, x37), (7, 0, w32 (v7 + 1))] [] μ) ∧ (x10 = x37 ∨ (tm_v μ0 65 28 ≠ 0 ∧ x10 = v6 ∧ x37 = v5) → K (w32 (v7 + 1)) μ))))))))))) ∧ (v4 ≠ 0 → (0 ≤ v7 ∧ v7 < 6) ∧ ((y_p μ0 v5 ∧ 0 ≤ (tm_v μ0 92 v7) ∧ (tm_v μ0 92 v7) ≤ 4) ∧ ((∀ x48, x48 = y_go μ0 v5 (tm_v μ0 92 v7) → (tm_v μ0 65 24 ≠ 0) ∧ ((v7.tmod (tm_v μ0 65 24) ≠ 0 → (¬ (x48 = v6 ∨ (tm_v μ0 65 28 ≠ 0 ∧ x48 = v6 ∧ v6 = v5)) → hI wX6_byRows μ0 mX6_byRows d K 18 [(0, 2, 65), (3, 0, v3), (4, 0, v4), (5, 0, x48), (6, 0, v6), (7, 0, w32 (v7 + 1))] [] μ) ∧ (x48 = v6 ∨ (tm_v μ0 65 28 ≠ 0 ∧ x48 = v6 ∧ v6 = v5) → K (w32 (v7 + 1)) μ)) ∧ (v7.tmod (tm_v μ0 65 24) = 0 → (v4 = 0 → (0 ≤ w32 ((w32 (2 * v7)) + 1) ∧ w32 ((w32 (2 * v7)) + 1) < 6) ∧ ((y_p μ0 v6 ∧ 0 ≤ (tm_v μ0 92 (w32 ((w32 (2 * v7)) + 1))) ∧ (tm_v μ0 92 (w32 ((w32 (2 * v7)) + 1))) ≤ 4) ∧ ((∀ x64, x64 = y_go μ0 v6 (tm_v μ0 92 (w32 ((w32 (2 * v7)) + 1))) → (¬ (x48 = x64 ∨ (tm_v μ0 65 28 ≠ 0 ∧ x48 = v6 ∧ x64 = v5)) → hI wX6_byRows μ0 mX6_byRows d K 18 [(0, 2, 65), (3, 0, v3), (4, 0, v4), (5, 0, x48), (6, 0, x64), (7, 0, w32 (v7 + 1))] [] μ) ∧ (x48 = x64 ∨ (tm_v μ0 65 28 ≠ 0 ∧ x48 = v6 ∧ x64 = v5) → K (w32 (v7 + 1)) μ))))) ∧ (v4 ≠ 0 → (y_p μ0 v6 ∧ 0 ≤ (tm_v μ0 92 v7) ∧ (tm_v μ0 92 v7) ≤ 4) ∧ ((∀ x74, x74 = y_go μ0 v6 (tm_v μ0 92 v7) → (¬ (x48 = x74 ∨ (tm_v μ0 65 28 ≠ 0 ∧ x48 = v6 ∧ x74 = v5)) → hI wX6_byRows μ0 mX6_byRows d K 18 [(0, 2, 65), (3, 0, v3), (4, 0, v4), (5, 0, x48), (6, 0, x74), (7, 0, w32 (v7 + 1))] [] μ) ∧ (x48 = x74 ∨ (tm_v μ0 65 28 ≠ 0 ∧ x48 = v6 ∧ x74 = v5) → K (w32 (v7 + 1)) μ)))))))))))) :
    hI wX6_byRows μ0 mX6_byRows d K 18 [(0, 2, 65), (3, 0, v3), (4, 0, v4), (5, 0, v5), (6, 0, v6), (7, 0, v7)] [] μ := by
  refine g_iload (q := 5) dX6_byRows_18 rfl ?_
  refine g_iload_n (q := 1) dX6_byRows_20 rfl rfl ?_
  refine g_icmp_ge (tgt := 124) dX6_byRows_21 (by decide) (fun c1 => ?_) (fun c2 => ?_)
  · have h := h.1 c1
    refine g_iconst dX6_byRows_124 (by decide) ?_
    exact g_iret dX6_byRows_125 rfl (Nat.le_refl _) (Nat.le_refl _) ⟨_, rfl, hs, h⟩
  · have h := h.2 c2
    refine g_iload (q := 3) dX6_byRows_24 rfl ?_
    refine g_istore (L' := [(0, 2, 65), (3, 0, v3), (4, 0, v4), (5, 0, v5), (6, 0, v6), (7, 0, v7), (8, 0, v5)]) dX6_byRows_26 (by decide) [1, 2, 3, 4, 5, 6, 0] rfl ?_
    refine g_iload (q := 4) dX6_byRows_28 rfl ?_
    refine g_istore (L' := [(0, 2, 65), (3, 0, v3), (4, 0, v4), (5, 0, v5), (6, 0, v6), (7, 0, v7), (8, 0, v5), (9, 0, v6)]) dX6_byRows_30 (by decide) [1, 2, 3, 4, 5, 6, 7, 0] rfl ?_
    refine g_aload_n (q := 0) dX6_byRows_32 rfl rfl ?_
    refine g_iload (q := 3) dX6_byRows_33 rfl ?_
    refine g_aload_n (q := 0) dX6_byRows_35 rfl rfl ?_
    refine g_getC (x := 92) 2 dX6_byRows_36 fX6_105 rfl (by decide) (sk_65 hs.S) (sv_65_57 hs.S) ?_
    refine g_iload (q := 2) dX6_byRows_39 rfl ?_
    refine g_if_eq (tgt := 49) dX6_byRows_41 (by decide) (fun c3 => ?_) (fun c4 => ?_)
    · have h := h.1 c3
      refine g_iconst dX6_byRows_49 (by decide) ?_
      refine g_iload (q := 5) dX6_byRows_50 rfl ?_
      refine g_imul dX6_byRows_52 ?_
      obtain ⟨c5, h⟩ := h
      refine g_ialoadC (x := tm_v μ0 92 (w32 (2 * v7))) dX6_byRows_53 (by decide) (sk_92 hs.S) c5.1 (t_lt (sn_92 hs.S) c5.2) (hs.v (tWs_no _ rfl)) ?_
      obtain ⟨c6, h⟩ := h
      refine g_callV2 dX6_byRows_54 kX6_go q1675 q1677 qs87 (ci := 6) rfl (by decide) rfl (by omega) (by decide) (sk_65 hs.S) (Nat.le_of_ble_eq_true rfl) (Nat.le_refl _) (Nat.le_refl _) (t_pI hs (pX6_goF (by omega) hs (tWs_T rfl) c6) ?_)
      refine g_istoreN (fun z => [(0, 2, 65), (3, 0, v3), (4, 0, v4), (5, 0, z), (6, 0, v6), (7, 0, v7), (8, 0, v5), (9, 0, v6)]) dX6_byRows_57 (by decide) [1, 2, 3, 0, 4, 5, 6, 7] (fun _ => rfl) (fun x10 ex10 => ?_)
      have h := h x10 ex10
      refine g_iload (q := 5) dX6_byRows_59 rfl ?_
      refine g_aload_n (q := 0) dX6_byRows_61 rfl rfl ?_
      refine g_getC (x := tm_v μ0 65 24) 0 dX6_byRows_62 fX6_35 rfl (by decide) (sk_65 hs.S) (hs.v (tWs_noF rfl)) ?_
      obtain ⟨c11, h⟩ := h
      refine g_irem dX6_byRows_65 c11 ?_
      refine g_if_ne (tgt := 98) dX6_byRows_66 (by decide) (fun c12 => ?_) (fun c13 => ?_)
      · have h := h.1 c12
        refine g_aload_n (q := 0) dX6_byRows_98 rfl rfl ?_
        refine g_iload (q := 3) dX6_byRows_99 rfl ?_
        refine g_iload (q := 4) dX6_byRows_101 rfl ?_
        refine g_iload (q := 6) dX6_byRows_103 rfl ?_
        refine g_iload (q := 7) dX6_byRows_105 rfl ?_
        refine g_callV4 dX6_byRows_107 kX6_meets q1683 q1685 qs89 (ci := 6) rfl (by decide) rfl (by omega) (by decide) (sk_65 hs.S) (Nat.le_of_ble_eq_true rfl) (Nat.le_refl _) (Nat.le_refl _) (t_pI hs (pX6_meetsF hs (tWs_T rfl)) ?_)
        refine g_if_eq (tgt := 118) dX6_byRows_110 (by decide) (fun c17 => ?_) (fun c18 => ?_)
        · have h := h.1 (b2i_0.mp c17)
          refine g_iinc (q := 5) dX6_byRows_118 (by decide) rfl [1, 2, 3, 4, 5, 0, 6, 7] rfl ?_
          refine g_goto (tgt := 18) dX6_byRows_121 (by decide) ?_
          exact g_less [0, 1, 2, 3, 4, 5] rfl h
        · have h := h.2 (b2i_1.mp c18)
          refine g_iload (q := 5) dX6_byRows_113 rfl ?_
          refine g_iconst dX6_byRows_115 (by decide) ?_
          refine g_iadd dX6_byRows_116 ?_
          exact g_iret dX6_byRows_117 rfl (Nat.le_refl _) (Nat.le_refl _) ⟨_, rfl, hs, h⟩
      · have h := h.2 c13
        refine g_aload_n (q := 0) dX6_byRows_69 rfl rfl ?_
        refine g_iload (q := 4) dX6_byRows_70 rfl ?_
        refine g_aload_n (q := 0) dX6_byRows_72 rfl rfl ?_
        refine g_getC (x := 92) 2 dX6_byRows_73 fX6_105 rfl (by decide) (sk_65 hs.S) (sv_65_57 hs.S) ?_
        refine g_iload (q := 2) dX6_byRows_76 rfl ?_
        refine g_if_eq (tgt := 86) dX6_byRows_78 (by decide) (fun c19 => ?_) (fun c20 => ?_)
        · have h := h.1 c19
          refine g_iconst dX6_byRows_86 (by decide) ?_
          refine g_iload (q := 5) dX6_byRows_87 rfl ?_
          refine g_imul dX6_byRows_89 ?_
          refine g_iconst dX6_byRows_90 (by decide) ?_
          refine g_iadd dX6_byRows_91 ?_
          obtain ⟨c21, h⟩ := h
          refine g_ialoadC (x := tm_v μ0 92 (w32 ((w32 (2 * v7)) + 1))) dX6_byRows_92 (by decide) (sk_92 hs.S) c21.1 (t_lt (sn_92 hs.S) c21.2) (hs.v (tWs_no _ rfl)) ?_
          obtain ⟨c22, h⟩ := h
          refine g_callV2 dX6_byRows_93 kX6_go q1675 q1677 qs87 (ci := 6) rfl (by decide) rfl (by omega) (by decide) (sk_65 hs.S) (Nat.le_of_ble_eq_true rfl) (Nat.le_refl _) (Nat.le_refl _) (t_pI hs (pX6_goF (by omega) hs (tWs_T rfl) c22) ?_)
          refine g_istoreN (fun z => [(0, 2, 65), (3, 0, v3), (4, 0, v4), (5, 0, x10), (6, 0, z), (7, 0, v7), (8, 0, v5), (9, 0, v6)]) dX6_byRows_96 (by decide) [1, 2, 3, 4, 0, 5, 6, 7] (fun _ => rfl) (fun x26 ex26 => ?_)
          have h := h x26 ex26
          refine g_aload_n (q := 0) dX6_byRows_98 rfl rfl ?_
          refine g_iload (q := 3) dX6_byRows_99 rfl ?_
          refine g_iload (q := 4) dX6_byRows_101 rfl ?_
          refine g_iload (q := 6) dX6_byRows_103 rfl ?_
          refine g_iload (q := 7) dX6_byRows_105 rfl ?_
          refine g_callV4 dX6_byRows_107 kX6_meets q1683 q1685 qs89 (ci := 6) rfl (by decide) rfl (by omega) (by decide) (sk_65 hs.S) (Nat.le_of_ble_eq_true rfl) (Nat.le_refl _) (Nat.le_refl _) (t_pI hs (pX6_meetsF hs (tWs_T rfl)) ?_)
          refine g_if_eq (tgt := 118) dX6_byRows_110 (by decide) (fun c30 => ?_) (fun c31 => ?_)
          · have h := h.1 (b2i_0.mp c30)
            refine g_iinc (q := 5) dX6_byRows_118 (by decide) rfl [1, 2, 3, 4, 5, 0, 6, 7] rfl ?_
            refine g_goto (tgt := 18) dX6_byRows_121 (by decide) ?_
            exact g_less [0, 1, 2, 3, 4, 5] rfl h
          · have h := h.2 (b2i_1.mp c31)
            refine g_iload (q := 5) dX6_byRows_113 rfl ?_
            refine g_iconst dX6_byRows_115 (by decide) ?_
            refine g_iadd dX6_byRows_116 ?_
            exact g_iret dX6_byRows_117 rfl (Nat.le_refl _) (Nat.le_refl _) ⟨_, rfl, hs, h⟩
        · have h := h.2 c20
          refine g_iload (q := 5) dX6_byRows_81 rfl ?_
          refine g_goto (tgt := 92) dX6_byRows_83 (by decide) ?_
          obtain ⟨c32, h⟩ := h
          refine g_ialoadC (x := tm_v μ0 92 v7) dX6_byRows_92 (by decide) (sk_92 hs.S) c32.1 (t_lt (sn_92 hs.S) c32.2) (hs.v (tWs_no _ rfl)) ?_
          obtain ⟨c33, h⟩ := h
          refine g_callV2 dX6_byRows_93 kX6_go q1675 q1677 qs87 (ci := 6) rfl (by decide) rfl (by omega) (by decide) (sk_65 hs.S) (Nat.le_of_ble_eq_true rfl) (Nat.le_refl _) (Nat.le_refl _) (t_pI hs (pX6_goF (by omega) hs (tWs_T rfl) c33) ?_)
          refine g_istoreN (fun z => [(0, 2, 65), (3, 0, v3), (4, 0, v4), (5, 0, x10), (6, 0, z), (7, 0, v7), (8, 0, v5), (9, 0, v6)]) dX6_byRows_96 (by decide) [1, 2, 3, 4, 0, 5, 6, 7] (fun _ => rfl) (fun x37 ex37 => ?_)
          have h := h x37 ex37
          refine g_aload_n (q := 0) dX6_byRows_98 rfl rfl ?_
          refine g_iload (q := 3) dX6_byRows_99 rfl ?_
          refine g_iload (q := 4) dX6_byRows_101 rfl ?_
          refine g_iload (q := 6) dX6_byRows_103 rfl ?_
          refine g_iload (q := 7) dX6_byRows_105 rfl ?_
          refine g_callV4 dX6_byRows_107 kX6_meets q1683 q1685 qs89 (ci := 6) rfl (by decide) rfl (by omega) (by decide) (sk_65 hs.S) (Nat.le_of_ble_eq_true rfl) (Nat.le_refl _) (Nat.le_refl _) (t_pI hs (pX6_meetsF hs (tWs_T rfl)) ?_)
          refine g_if_eq (tgt := 118) dX6_byRows_110 (by decide) (fun c41 => ?_) (fun c42 => ?_)
          · have h := h.1 (b2i_0.mp c41)
            refine g_iinc (q := 5) dX6_byRows_118 (by decide) rfl [1, 2, 3, 4, 5, 0, 6, 7] rfl ?_
            refine g_goto (tgt := 18) dX6_byRows_121 (by decide) ?_
            exact g_less [0, 1, 2, 3, 4, 5] rfl h
          · have h := h.2 (b2i_1.mp c42)
            refine g_iload (q := 5) dX6_byRows_113 rfl ?_
            refine g_iconst dX6_byRows_115 (by decide) ?_
            refine g_iadd dX6_byRows_116 ?_
            exact g_iret dX6_byRows_117 rfl (Nat.le_refl _) (Nat.le_refl _) ⟨_, rfl, hs, h⟩
    · have h := h.2 c4
      refine g_iload (q := 5) dX6_byRows_44 rfl ?_
      refine g_goto (tgt := 53) dX6_byRows_46 (by decide) ?_
      obtain ⟨c43, h⟩ := h
      refine g_ialoadC (x := tm_v μ0 92 v7) dX6_byRows_53 (by decide) (sk_92 hs.S) c43.1 (t_lt (sn_92 hs.S) c43.2) (hs.v (tWs_no _ rfl)) ?_
      obtain ⟨c44, h⟩ := h
      refine g_callV2 dX6_byRows_54 kX6_go q1675 q1677 qs87 (ci := 6) rfl (by decide) rfl (by omega) (by decide) (sk_65 hs.S) (Nat.le_of_ble_eq_true rfl) (Nat.le_refl _) (Nat.le_refl _) (t_pI hs (pX6_goF (by omega) hs (tWs_T rfl) c44) ?_)
      refine g_istoreN (fun z => [(0, 2, 65), (3, 0, v3), (4, 0, v4), (5, 0, z), (6, 0, v6), (7, 0, v7), (8, 0, v5), (9, 0, v6)]) dX6_byRows_57 (by decide) [1, 2, 3, 0, 4, 5, 6, 7] (fun _ => rfl) (fun x48 ex48 => ?_)
      have h := h x48 ex48
      refine g_iload (q := 5) dX6_byRows_59 rfl ?_
      refine g_aload_n (q := 0) dX6_byRows_61 rfl rfl ?_
      refine g_getC (x := tm_v μ0 65 24) 0 dX6_byRows_62 fX6_35 rfl (by decide) (sk_65 hs.S) (hs.v (tWs_noF rfl)) ?_
      obtain ⟨c49, h⟩ := h
      refine g_irem dX6_byRows_65 c49 ?_
      refine g_if_ne (tgt := 98) dX6_byRows_66 (by decide) (fun c50 => ?_) (fun c51 => ?_)
      · have h := h.1 c50
        refine g_aload_n (q := 0) dX6_byRows_98 rfl rfl ?_
        refine g_iload (q := 3) dX6_byRows_99 rfl ?_
        refine g_iload (q := 4) dX6_byRows_101 rfl ?_
        refine g_iload (q := 6) dX6_byRows_103 rfl ?_
        refine g_iload (q := 7) dX6_byRows_105 rfl ?_
        refine g_callV4 dX6_byRows_107 kX6_meets q1683 q1685 qs89 (ci := 6) rfl (by decide) rfl (by omega) (by decide) (sk_65 hs.S) (Nat.le_of_ble_eq_true rfl) (Nat.le_refl _) (Nat.le_refl _) (t_pI hs (pX6_meetsF hs (tWs_T rfl)) ?_)
        refine g_if_eq (tgt := 118) dX6_byRows_110 (by decide) (fun c55 => ?_) (fun c56 => ?_)
        · have h := h.1 (b2i_0.mp c55)
          refine g_iinc (q := 5) dX6_byRows_118 (by decide) rfl [1, 2, 3, 4, 5, 0, 6, 7] rfl ?_
          refine g_goto (tgt := 18) dX6_byRows_121 (by decide) ?_
          exact g_less [0, 1, 2, 3, 4, 5] rfl h
        · have h := h.2 (b2i_1.mp c56)
          refine g_iload (q := 5) dX6_byRows_113 rfl ?_
          refine g_iconst dX6_byRows_115 (by decide) ?_
          refine g_iadd dX6_byRows_116 ?_
          exact g_iret dX6_byRows_117 rfl (Nat.le_refl _) (Nat.le_refl _) ⟨_, rfl, hs, h⟩
      · have h := h.2 c51
        refine g_aload_n (q := 0) dX6_byRows_69 rfl rfl ?_
        refine g_iload (q := 4) dX6_byRows_70 rfl ?_
        refine g_aload_n (q := 0) dX6_byRows_72 rfl rfl ?_
        refine g_getC (x := 92) 2 dX6_byRows_73 fX6_105 rfl (by decide) (sk_65 hs.S) (sv_65_57 hs.S) ?_
        refine g_iload (q := 2) dX6_byRows_76 rfl ?_
        refine g_if_eq (tgt := 86) dX6_byRows_78 (by decide) (fun c57 => ?_) (fun c58 => ?_)
        · have h := h.1 c57
          refine g_iconst dX6_byRows_86 (by decide) ?_
          refine g_iload (q := 5) dX6_byRows_87 rfl ?_
          refine g_imul dX6_byRows_89 ?_
          refine g_iconst dX6_byRows_90 (by decide) ?_
          refine g_iadd dX6_byRows_91 ?_
          obtain ⟨c59, h⟩ := h
          refine g_ialoadC (x := tm_v μ0 92 (w32 ((w32 (2 * v7)) + 1))) dX6_byRows_92 (by decide) (sk_92 hs.S) c59.1 (t_lt (sn_92 hs.S) c59.2) (hs.v (tWs_no _ rfl)) ?_
          obtain ⟨c60, h⟩ := h
          refine g_callV2 dX6_byRows_93 kX6_go q1675 q1677 qs87 (ci := 6) rfl (by decide) rfl (by omega) (by decide) (sk_65 hs.S) (Nat.le_of_ble_eq_true rfl) (Nat.le_refl _) (Nat.le_refl _) (t_pI hs (pX6_goF (by omega) hs (tWs_T rfl) c60) ?_)
          refine g_istoreN (fun z => [(0, 2, 65), (3, 0, v3), (4, 0, v4), (5, 0, x48), (6, 0, z), (7, 0, v7), (8, 0, v5), (9, 0, v6)]) dX6_byRows_96 (by decide) [1, 2, 3, 4, 0, 5, 6, 7] (fun _ => rfl) (fun x64 ex64 => ?_)
          have h := h x64 ex64
          refine g_aload_n (q := 0) dX6_byRows_98 rfl rfl ?_
          refine g_iload (q := 3) dX6_byRows_99 rfl ?_
          refine g_iload (q := 4) dX6_byRows_101 rfl ?_
          refine g_iload (q := 6) dX6_byRows_103 rfl ?_
          refine g_iload (q := 7) dX6_byRows_105 rfl ?_
          refine g_callV4 dX6_byRows_107 kX6_meets q1683 q1685 qs89 (ci := 6) rfl (by decide) rfl (by omega) (by decide) (sk_65 hs.S) (Nat.le_of_ble_eq_true rfl) (Nat.le_refl _) (Nat.le_refl _) (t_pI hs (pX6_meetsF hs (tWs_T rfl)) ?_)
          refine g_if_eq (tgt := 118) dX6_byRows_110 (by decide) (fun c68 => ?_) (fun c69 => ?_)
          · have h := h.1 (b2i_0.mp c68)
            refine g_iinc (q := 5) dX6_byRows_118 (by decide) rfl [1, 2, 3, 4, 5, 0, 6, 7] rfl ?_
            refine g_goto (tgt := 18) dX6_byRows_121 (by decide) ?_
            exact g_less [0, 1, 2, 3, 4, 5] rfl h
          · have h := h.2 (b2i_1.mp c69)
            refine g_iload (q := 5) dX6_byRows_113 rfl ?_
            refine g_iconst dX6_byRows_115 (by decide) ?_
            refine g_iadd dX6_byRows_116 ?_
            exact g_iret dX6_byRows_117 rfl (Nat.le_refl _) (Nat.le_refl _) ⟨_, rfl, hs, h⟩
        · have h := h.2 c58
          refine g_iload (q := 5) dX6_byRows_81 rfl ?_
          refine g_goto (tgt := 92) dX6_byRows_83 (by decide) ?_
          refine g_ialoadC (x := tm_v μ0 92 v7) dX6_byRows_92 (by decide) (sk_92 hs.S) c43.1 (t_lt (sn_92 hs.S) c43.2) (hs.v (tWs_no _ rfl)) ?_
          obtain ⟨c70, h⟩ := h
          refine g_callV2 dX6_byRows_93 kX6_go q1675 q1677 qs87 (ci := 6) rfl (by decide) rfl (by omega) (by decide) (sk_65 hs.S) (Nat.le_of_ble_eq_true rfl) (Nat.le_refl _) (Nat.le_refl _) (t_pI hs (pX6_goF (by omega) hs (tWs_T rfl) c70) ?_)
          refine g_istoreN (fun z => [(0, 2, 65), (3, 0, v3), (4, 0, v4), (5, 0, x48), (6, 0, z), (7, 0, v7), (8, 0, v5), (9, 0, v6)]) dX6_byRows_96 (by decide) [1, 2, 3, 4, 0, 5, 6, 7] (fun _ => rfl) (fun x74 ex74 => ?_)
          have h := h x74 ex74
          refine g_aload_n (q := 0) dX6_byRows_98 rfl rfl ?_
          refine g_iload (q := 3) dX6_byRows_99 rfl ?_
          refine g_iload (q := 4) dX6_byRows_101 rfl ?_
          refine g_iload (q := 6) dX6_byRows_103 rfl ?_
          refine g_iload (q := 7) dX6_byRows_105 rfl ?_
          refine g_callV4 dX6_byRows_107 kX6_meets q1683 q1685 qs89 (ci := 6) rfl (by decide) rfl (by omega) (by decide) (sk_65 hs.S) (Nat.le_of_ble_eq_true rfl) (Nat.le_refl _) (Nat.le_refl _) (t_pI hs (pX6_meetsF hs (tWs_T rfl)) ?_)
          refine g_if_eq (tgt := 118) dX6_byRows_110 (by decide) (fun c78 => ?_) (fun c79 => ?_)
          · have h := h.1 (b2i_0.mp c78)
            refine g_iinc (q := 5) dX6_byRows_118 (by decide) rfl [1, 2, 3, 4, 5, 0, 6, 7] rfl ?_
            refine g_goto (tgt := 18) dX6_byRows_121 (by decide) ?_
            exact g_less [0, 1, 2, 3, 4, 5] rfl h
          · have h := h.2 (b2i_1.mp c79)
            refine g_iload (q := 5) dX6_byRows_113 rfl ?_
            refine g_iconst dX6_byRows_115 (by decide) ?_
            refine g_iadd dX6_byRows_116 ?_
            exact g_iret dX6_byRows_117 rfl (Nat.le_refl _) (Nat.le_refl _) ⟨_, rfl, hs, h⟩
theorem uX6_fitsTurn_0 {d : Nat} {μ0 μ : tm_M} {K : Int → tm_M → Prop} {v1 : Int} (hs : tFr wX6_fitsTurn μ0 μ)
    (h : (0 ≤ w32 (3 * v1) ∧ w32 (3 * v1) < 24) ∧ ((0 ≤ v1 ∧ v1 < 8) ∧ ((0 ≤ w32 (3 * (tm_v μ0 96 v1)) ∧ w32 (3 * (tm_v μ0 96 v1)) < 24) ∧ ((tm_v μ0 70 (w32 (3 * v1)) = tm_v μ0 70 (w32 (3 * (tm_v μ0 96 v1))) → hI wX6_fitsTurn μ0 mX6_fitsTurn d K 28 [(0, 2, 65), (1, 0, v1), (2, 0, 0)] [] μ) ∧ (tm_v μ0 70 (w32 (3 * v1)) ≠ tm_v μ0 70 (w32 (3 * (tm_v μ0 96 v1))) → K 0 μ))))) :
    hI wX6_fitsTurn μ0 mX6_fitsTurn d K 0 [(0, 2, 65), (1, 0, v1)] [] μ := by
  refine g_aload_n (q := 0) dX6_fitsTurn_0 rfl rfl ?_
  refine g_getC (x := 70) 2 dX6_fitsTurn_1 fX6_38 rfl (by decide) (sk_65 hs.S) (sv_65_31 hs.S) ?_
  refine g_iconst dX6_fitsTurn_4 (by decide) ?_
  refine g_iload_n (q := 1) dX6_fitsTurn_5 rfl rfl ?_
  refine g_imul dX6_fitsTurn_6 ?_
  obtain ⟨c1, h⟩ := h
  refine g_ialoadC (x := tm_v μ0 70 (w32 (3 * v1))) dX6_fitsTurn_7 (by decide) (sk_70 hs.S) c1.1 (t_lt (sn_70 hs.S) c1.2) (hs.v (tWs_no _ rfl)) ?_
  refine g_aload_n (q := 0) dX6_fitsTurn_8 rfl rfl ?_
  refine g_getC (x := 70) 2 dX6_fitsTurn_9 fX6_38 rfl (by decide) (sk_65 hs.S) (sv_65_31 hs.S) ?_
  refine g_iconst dX6_fitsTurn_12 (by decide) ?_
  refine g_aload_n (q := 0) dX6_fitsTurn_13 rfl rfl ?_
  refine g_getC (x := 96) 2 dX6_fitsTurn_14 fX6_120 rfl (by decide) (sk_65 hs.S) (sv_65_66 hs.S) ?_
  refine g_iload_n (q := 1) dX6_fitsTurn_17 rfl rfl ?_
  obtain ⟨c2, h⟩ := h
  refine g_ialoadC (x := tm_v μ0 96 v1) dX6_fitsTurn_18 (by decide) (sk_96 hs.S) c2.1 (t_lt (sn_96 hs.S) c2.2) (hs.v (tWs_no _ rfl)) ?_
  refine g_imul dX6_fitsTurn_19 ?_
  obtain ⟨c3, h⟩ := h
  refine g_ialoadC (x := tm_v μ0 70 (w32 (3 * (tm_v μ0 96 v1)))) dX6_fitsTurn_20 (by decide) (sk_70 hs.S) c3.1 (t_lt (sn_70 hs.S) c3.2) (hs.v (tWs_no _ rfl)) ?_
  refine g_icmp_eq (tgt := 26) dX6_fitsTurn_21 (by decide) (fun c4 => ?_) (fun c5 => ?_)
  · have h := h.1 c4
    refine g_iconst dX6_fitsTurn_26 (by decide) ?_
    refine g_istore_n (L' := [(0, 2, 65), (1, 0, v1), (2, 0, 0)]) dX6_fitsTurn_27 rfl (by decide) [1, 2, 0] rfl ?_
    exact h
  · have h := h.2 c5
    refine g_iconst dX6_fitsTurn_24 (by decide) ?_
    exact g_zret dX6_fitsTurn_25 rfl (by decide) (Nat.le_refl _) (Nat.le_refl _) ⟨_, rfl, hs, h⟩
theorem uX6_fitsTurn_28 {d : Nat} {μ0 μ : tm_M} {K : Int → tm_M → Prop} {v1 v2 : Int} (hd : 2 ≤ d) (hs : tFr wX6_fitsTurn μ0 μ)
    (h : (4 ≤ v2 → K 1 μ) ∧ (v2 < 4 → (y_p μ0 v1) ∧ ((0 ≤ v1 ∧ v1 < 8) ∧ ((y_p μ0 (tm_v μ0 96 v1)) ∧ ((b2i (0 ≤ v2 ∧ v2 < tm_v μ0 72 v1 ∧ tm_v μ0 80 (tm_v μ0 74 (4 * v1 + v2)) = 0) = b2i (0 ≤ v2 ∧ v2 < tm_v μ0 72 (tm_v μ0 96 v1) ∧ tm_v μ0 80 (tm_v μ0 74 (4 * (tm_v μ0 96 v1) + v2)) = 0) → (¬ (0 ≤ v2 ∧ v2 < tm_v μ0 72 v1 ∧ tm_v μ0 80 (tm_v μ0 74 (4 * v1 + v2)) = 0) → hI wX6_fitsTurn μ0 mX6_fitsTurn d K 28 [(0, 2, 65), (1, 0, v1), (2, 0, w32 (v2 + 1))] [] μ) ∧ (0 ≤ v2 ∧ v2 < tm_v μ0 72 v1 ∧ tm_v μ0 80 (tm_v μ0 74 (4 * v1 + v2)) = 0 → (0 ≤ y_leads μ0 v1 v2 ∧ y_leads μ0 v1 v2 < 8) ∧ ((tm_v μ0 96 (y_leads μ0 v1 v2) < 0 → hI wX6_fitsTurn μ0 mX6_fitsTurn d K 28 [(0, 2, 65), (1, 0, v1), (2, 0, w32 (v2 + 1))] [] μ) ∧ (0 ≤ tm_v μ0 96 (y_leads μ0 v1 v2) → (tm_v μ0 96 (y_leads μ0 v1 v2) = y_leads μ0 (tm_v μ0 96 v1) v2 → hI wX6_fitsTurn μ0 mX6_fitsTurn d K 28 [(0, 2, 65), (1, 0, v1), (2, 0, w32 (v2 + 1))] [] μ) ∧ (tm_v μ0 96 (y_leads μ0 v1 v2) ≠ y_leads μ0 (tm_v μ0 96 v1) v2 → K 0 μ))))) ∧ (b2i (0 ≤ v2 ∧ v2 < tm_v μ0 72 v1 ∧ tm_v μ0 80 (tm_v μ0 74 (4 * v1 + v2)) = 0) ≠ b2i (0 ≤ v2 ∧ v2 < tm_v μ0 72 (tm_v μ0 96 v1) ∧ tm_v μ0 80 (tm_v μ0 74 (4 * (tm_v μ0 96 v1) + v2)) = 0) → K 0 μ)))))) :
    hI wX6_fitsTurn μ0 mX6_fitsTurn d K 28 [(0, 2, 65), (1, 0, v1), (2, 0, v2)] [] μ := by
  refine g_iload_n (q := 2) dX6_fitsTurn_28 rfl rfl ?_
  refine g_iconst dX6_fitsTurn_29 (by decide) ?_
  refine g_icmp_ge (tgt := 111) dX6_fitsTurn_30 (by decide) (fun c1 => ?_) (fun c2 => ?_)
  · have h := h.1 c1
    refine g_iconst dX6_fitsTurn_111 (by decide) ?_
    exact g_zret dX6_fitsTurn_112 rfl (by decide) (Nat.le_refl _) (Nat.le_refl _) ⟨_, rfl, hs, h⟩
  · have h := h.2 c2
    refine g_aload_n (q := 0) dX6_fitsTurn_33 rfl rfl ?_
    refine g_iload_n (q := 1) dX6_fitsTurn_34 rfl rfl ?_
    refine g_iload_n (q := 2) dX6_fitsTurn_35 rfl rfl ?_
    obtain ⟨c3, h⟩ := h
    refine g_callV2 dX6_fitsTurn_36 kX6_isOpen q1667 q1669 qs85 (ci := 6) rfl (by decide) rfl (by omega) (by decide) (sk_65 hs.S) (Nat.le_of_ble_eq_true rfl) (Nat.le_refl _) (Nat.le_refl _) (t_pI hs (pX6_isOpenF hs (tWs_T rfl) c3) ?_)
    refine g_aload_n (q := 0) dX6_fitsTurn_39 rfl rfl ?_
    refine g_aload_n (q := 0) dX6_fitsTurn_40 rfl rfl ?_
    refine g_getC (x := 96) 2 dX6_fitsTurn_41 fX6_120 rfl (by decide) (sk_65 hs.S) (sv_65_66 hs.S) ?_
    refine g_iload_n (q := 1) dX6_fitsTurn_44 rfl rfl ?_
    obtain ⟨c7, h⟩ := h
    refine g_ialoadC (x := tm_v μ0 96 v1) dX6_fitsTurn_45 (by decide) (sk_96 hs.S) c7.1 (t_lt (sn_96 hs.S) c7.2) (hs.v (tWs_no _ rfl)) ?_
    refine g_iload_n (q := 2) dX6_fitsTurn_46 rfl rfl ?_
    obtain ⟨c8, h⟩ := h
    refine g_callV2 dX6_fitsTurn_47 kX6_isOpen q1667 q1669 qs85 (ci := 6) rfl (by decide) rfl (by omega) (by decide) (sk_65 hs.S) (Nat.le_of_ble_eq_true rfl) (Nat.le_refl _) (Nat.le_refl _) (t_pI hs (pX6_isOpenF hs (tWs_T rfl) c8) ?_)
    refine g_icmp_eq (tgt := 55) dX6_fitsTurn_50 (by decide) (fun c12 => ?_) (fun c13 => ?_)
    · have h := h.1 c12
      refine g_aload_n (q := 0) dX6_fitsTurn_55 rfl rfl ?_
      refine g_iload_n (q := 1) dX6_fitsTurn_56 rfl rfl ?_
      refine g_iload_n (q := 2) dX6_fitsTurn_57 rfl rfl ?_
      refine g_callV2 dX6_fitsTurn_58 kX6_isOpen q1667 q1669 qs85 (ci := 6) rfl (by decide) rfl (by omega) (by decide) (sk_65 hs.S) (Nat.le_of_ble_eq_true rfl) (Nat.le_refl _) (Nat.le_refl _) (t_pI hs (pX6_isOpenF hs (tWs_T rfl) c3) ?_)
      refine g_if_eq (tgt := 105) dX6_fitsTurn_61 (by decide) (fun c17 => ?_) (fun c18 => ?_)
      · have h := h.1 (b2i_0.mp c17)
        refine g_iinc (q := 2) dX6_fitsTurn_105 (by decide) rfl [1, 2, 0] rfl ?_
        refine g_goto (tgt := 28) dX6_fitsTurn_108 (by decide) ?_
        exact h
      · have h := h.2 (b2i_1.mp c18)
        refine g_aload_n (q := 0) dX6_fitsTurn_64 rfl rfl ?_
        refine g_getC (x := 96) 2 dX6_fitsTurn_65 fX6_120 rfl (by decide) (sk_65 hs.S) (sv_65_66 hs.S) ?_
        refine g_aload_n (q := 0) dX6_fitsTurn_68 rfl rfl ?_
        refine g_iload_n (q := 1) dX6_fitsTurn_69 rfl rfl ?_
        refine g_iload_n (q := 2) dX6_fitsTurn_70 rfl rfl ?_
        refine g_callV2 dX6_fitsTurn_71 kX6_leads q1603 q1605 qs76 (ci := 6) rfl (by decide) rfl (by omega) (by decide) (sk_65 hs.S) (Nat.le_of_ble_eq_true rfl) (Nat.le_refl _) (Nat.le_refl _) (t_pI hs (pX6_leadsF (by omega) hs (tWs_T rfl) c3) ?_)
        obtain ⟨c22, h⟩ := h
        refine g_ialoadC (x := tm_v μ0 96 (y_leads μ0 v1 v2)) dX6_fitsTurn_74 (by decide) (sk_96 hs.S) c22.1 (t_lt (sn_96 hs.S) c22.2) (hs.v (tWs_no _ rfl)) ?_
        refine g_if_lt (tgt := 105) dX6_fitsTurn_75 (by decide) (fun c23 => ?_) (fun c24 => ?_)
        · have h := h.1 c23
          refine g_iinc (q := 2) dX6_fitsTurn_105 (by decide) rfl [1, 2, 0] rfl ?_
          refine g_goto (tgt := 28) dX6_fitsTurn_108 (by decide) ?_
          exact h
        · have h := h.2 c24
          refine g_aload_n (q := 0) dX6_fitsTurn_78 rfl rfl ?_
          refine g_getC (x := 96) 2 dX6_fitsTurn_79 fX6_120 rfl (by decide) (sk_65 hs.S) (sv_65_66 hs.S) ?_
          refine g_aload_n (q := 0) dX6_fitsTurn_82 rfl rfl ?_
          refine g_iload_n (q := 1) dX6_fitsTurn_83 rfl rfl ?_
          refine g_iload_n (q := 2) dX6_fitsTurn_84 rfl rfl ?_
          refine g_callV2 dX6_fitsTurn_85 kX6_leads q1603 q1605 qs76 (ci := 6) rfl (by decide) rfl (by omega) (by decide) (sk_65 hs.S) (Nat.le_of_ble_eq_true rfl) (Nat.le_refl _) (Nat.le_refl _) (t_pI hs (pX6_leadsF (by omega) hs (tWs_T rfl) c3) ?_)
          refine g_ialoadC (x := tm_v μ0 96 (y_leads μ0 v1 v2)) dX6_fitsTurn_88 (by decide) (sk_96 hs.S) c22.1 (t_lt (sn_96 hs.S) c22.2) (hs.v (tWs_no _ rfl)) ?_
          refine g_aload_n (q := 0) dX6_fitsTurn_89 rfl rfl ?_
          refine g_aload_n (q := 0) dX6_fitsTurn_90 rfl rfl ?_
          refine g_getC (x := 96) 2 dX6_fitsTurn_91 fX6_120 rfl (by decide) (sk_65 hs.S) (sv_65_66 hs.S) ?_
          refine g_iload_n (q := 1) dX6_fitsTurn_94 rfl rfl ?_
          refine g_ialoadC (x := tm_v μ0 96 v1) dX6_fitsTurn_95 (by decide) (sk_96 hs.S) c7.1 (t_lt (sn_96 hs.S) c7.2) (hs.v (tWs_no _ rfl)) ?_
          refine g_iload_n (q := 2) dX6_fitsTurn_96 rfl rfl ?_
          refine g_callV2 dX6_fitsTurn_97 kX6_leads q1603 q1605 qs76 (ci := 6) rfl (by decide) rfl (by omega) (by decide) (sk_65 hs.S) (Nat.le_of_ble_eq_true rfl) (Nat.le_refl _) (Nat.le_refl _) (t_pI hs (pX6_leadsF (by omega) hs (tWs_T rfl) c8) ?_)
          refine g_icmp_eq (tgt := 105) dX6_fitsTurn_100 (by decide) (fun c31 => ?_) (fun c32 => ?_)
          · have h := h.1 c31
            refine g_iinc (q := 2) dX6_fitsTurn_105 (by decide) rfl [1, 2, 0] rfl ?_
            refine g_goto (tgt := 28) dX6_fitsTurn_108 (by decide) ?_
            exact h
          · have h := h.2 c32
            refine g_iconst dX6_fitsTurn_103 (by decide) ?_
            exact g_zret dX6_fitsTurn_104 rfl (by decide) (Nat.le_refl _) (Nat.le_refl _) ⟨_, rfl, hs, h⟩
    · have h := h.2 c13
      refine g_iconst dX6_fitsTurn_53 (by decide) ?_
      exact g_zret dX6_fitsTurn_54 rfl (by decide) (Nat.le_refl _) (Nat.le_refl _) ⟨_, rfl, hs, h⟩
theorem uX6_asksDrawn_0 {d : Nat} {μ0 μ : tm_M} {K : Int → tm_M → Prop} {v1 v2 v3 v4 v5 : Int} (hd : 2 ≤ d) (hs : tFr wX6_asksDrawn μ0 μ)
    (h : (y_V μ0) ∧ ((¬ (0 ≤ v1 ∧ v1 < tm_v μ0 65 43) → K 2 μ) ∧ (0 ≤ v1 ∧ v1 < tm_v μ0 65 43 → (0 ≤ v2 ∧ v2 < tm_v μ0 65 43 → (¬ (0 ≤ v3 ∧ v3 ≤ 16) → K 5 μ) ∧ (0 ≤ v3 ∧ v3 ≤ 16 → (¬ (1 ≤ v4 ∧ v4 ≤ 24) → K 5 μ) ∧ (1 ≤ v4 ∧ v4 ≤ 24 → (1 ≤ v5 ∧ v5 ≤ 5 → (y_W μ0) ∧ ((y_all μ0 ≠ 0 → K 0 μ) ∧ (y_all μ0 = 0 → K 9 μ))) ∧ (¬ (1 ≤ v5 ∧ v5 ≤ 5) → K 5 μ)))) ∧ (¬ (0 ≤ v2 ∧ v2 < tm_v μ0 65 43) → K 2 μ)))) :
    hI wX6_asksDrawn μ0 mX6_asksDrawn d K 0 [(0, 2, 65), (1, 0, v1), (2, 0, v2), (3, 0, v3), (4, 0, v4), (5, 0, v5)] [] μ := by
  refine g_aload_n (q := 0) dX6_asksDrawn_0 rfl rfl ?_
  refine g_iload_n (q := 1) dX6_asksDrawn_1 rfl rfl ?_
  obtain ⟨c1, h⟩ := h
  refine g_callV1 dX6_asksDrawn_2 kX6_isWay q1651 q1653 qs81 (ci := 6) rfl (by decide) rfl (by omega) (by decide) (sk_65 hs.S) (Nat.le_of_ble_eq_true rfl) (Nat.le_refl _) (Nat.le_refl _) (t_pI hs (pX6_isWayF (by omega) hs (tWs_T rfl) c1) ?_)
  refine g_if_eq (tgt := 16) dX6_asksDrawn_5 (by decide) (fun c5 => ?_) (fun c6 => ?_)
  · have h := h.1 (b2i_0.mp c5)
    refine g_iconst dX6_asksDrawn_16 (by decide) ?_
    exact g_iret dX6_asksDrawn_17 rfl (Nat.le_refl _) (Nat.le_refl _) ⟨_, rfl, hs, h⟩
  · have h := h.2 (b2i_1.mp c6)
    refine g_aload_n (q := 0) dX6_asksDrawn_8 rfl rfl ?_
    refine g_iload_n (q := 2) dX6_asksDrawn_9 rfl rfl ?_
    refine g_callV1 dX6_asksDrawn_10 kX6_isWay q1651 q1653 qs81 (ci := 6) rfl (by decide) rfl (by omega) (by decide) (sk_65 hs.S) (Nat.le_of_ble_eq_true rfl) (Nat.le_refl _) (Nat.le_refl _) (t_pI hs (pX6_isWayF (by omega) hs (tWs_T rfl) c1) ?_)
    refine g_if_ne (tgt := 18) dX6_asksDrawn_13 (by decide) (fun c10 => ?_) (fun c11 => ?_)
    · have h := h.1 (b2i_1.mp c10)
      refine g_iload_n (q := 3) dX6_asksDrawn_18 rfl rfl ?_
      refine g_i2l dX6_asksDrawn_19 ?_
      refine g_lconst0 dX6_asksDrawn_20 ?_
      refine g_ldc2 (v := 16) (by decide) q1773c dX6_asksDrawn_21 ?_
      refine g_callS3 dX6_asksDrawn_24 kX6_isIn q1563 q1564 rfl (by omega) (Nat.le_of_ble_eq_true rfl) (Nat.le_refl _) (Nat.le_refl _) (t_pI hs (pX6_isIn hs.S) ?_)
      refine g_if_eq (tgt := 56) dX6_asksDrawn_27 (by decide) (fun c15 => ?_) (fun c16 => ?_)
      · have h := h.1 (b2i_0.mp c15)
        refine g_iconst dX6_asksDrawn_56 (by decide) ?_
        exact g_iret dX6_asksDrawn_57 rfl (Nat.le_refl _) (Nat.le_refl _) ⟨_, rfl, hs, h⟩
      · have h := h.2 (b2i_1.mp c16)
        refine g_iload (q := 4) dX6_asksDrawn_30 rfl ?_
        refine g_i2l dX6_asksDrawn_32 ?_
        refine g_lconst1 dX6_asksDrawn_33 ?_
        refine g_ldc2 (v := 24) (by decide) q1632c dX6_asksDrawn_34 ?_
        refine g_callS3 dX6_asksDrawn_37 kX6_isIn q1563 q1564 rfl (by omega) (Nat.le_of_ble_eq_true rfl) (Nat.le_refl _) (Nat.le_refl _) (t_pI hs (pX6_isIn hs.S) ?_)
        refine g_if_eq (tgt := 56) dX6_asksDrawn_40 (by decide) (fun c20 => ?_) (fun c21 => ?_)
        · have h := h.1 (b2i_0.mp c20)
          refine g_iconst dX6_asksDrawn_56 (by decide) ?_
          exact g_iret dX6_asksDrawn_57 rfl (Nat.le_refl _) (Nat.le_refl _) ⟨_, rfl, hs, h⟩
        · have h := h.2 (b2i_1.mp c21)
          refine g_iload (q := 5) dX6_asksDrawn_43 rfl ?_
          refine g_i2l dX6_asksDrawn_45 ?_
          refine g_lconst1 dX6_asksDrawn_46 ?_
          refine g_ldc2 (v := 5) (by decide) q1602c dX6_asksDrawn_47 ?_
          refine g_callS3 dX6_asksDrawn_50 kX6_isIn q1563 q1564 rfl (by omega) (Nat.le_of_ble_eq_true rfl) (Nat.le_refl _) (Nat.le_refl _) (t_pI hs (pX6_isIn hs.S) ?_)
          refine g_if_ne (tgt := 58) dX6_asksDrawn_53 (by decide) (fun c25 => ?_) (fun c26 => ?_)
          · have h := h.1 (b2i_1.mp c25)
            refine g_aload_n (q := 0) dX6_asksDrawn_58 rfl rfl ?_
            obtain ⟨c27, h⟩ := h
            refine g_callV0 dX6_asksDrawn_59 kX6_allLikely q1700 q1702 qs91 (ci := 6) rfl (by decide) rfl (by omega) (by decide) (sk_65 hs.S) (Nat.le_of_ble_eq_true rfl) (Nat.le_refl _) (Nat.le_refl _) (t_pL hs (pX6_allLikelyF (by omega) hs (tWs_T rfl) c27) ?_)
            refine g_lconst0 dX6_asksDrawn_62 ?_
            refine g_lcmp_ne (tgt := 72) dX6_asksDrawn_63 dX6_asksDrawn_64 (by decide) (fun c31 => ?_) (fun c32 => ?_)
            · have h := h.1 c31
              refine g_iconst dX6_asksDrawn_72 (by decide) ?_
              exact g_iret dX6_asksDrawn_73 rfl (Nat.le_refl _) (Nat.le_refl _) ⟨_, rfl, hs, h⟩
            · have h := h.2 c32
              refine g_bipush dX6_asksDrawn_67 ⟨by decide, by decide, rfl⟩ ?_
              refine g_goto (tgt := 73) dX6_asksDrawn_69 (by decide) ?_
              exact g_iret dX6_asksDrawn_73 rfl (Nat.le_refl _) (Nat.le_refl _) ⟨_, rfl, hs, h⟩
          · have h := h.2 (b2i_0.mp c26)
            refine g_iconst dX6_asksDrawn_56 (by decide) ?_
            exact g_iret dX6_asksDrawn_57 rfl (Nat.le_refl _) (Nat.le_refl _) ⟨_, rfl, hs, h⟩
    · have h := h.2 (b2i_0.mp c11)
      refine g_iconst dX6_asksDrawn_16 (by decide) ?_
      exact g_iret dX6_asksDrawn_17 rfl (Nat.le_refl _) (Nat.le_refl _) ⟨_, rfl, hs, h⟩
theorem uX6_holds_0 {d : Nat} {μ0 μ : tm_M} {K : Int → tm_M → Prop} (hs : tFr wX6_holds μ0 μ)
    (h : hI wX6_holds μ0 mX6_holds d K 2 [(0, 2, 65), (1, 0, 0)] [] μ) :
    hI wX6_holds μ0 mX6_holds d K 0 [(0, 2, 65)] [] μ := by
  refine g_iconst dX6_holds_0 (by decide) ?_
  refine g_istore_n (L' := [(0, 2, 65), (1, 0, 0)]) dX6_holds_1 rfl (by decide) [1, 0] rfl ?_
  exact h
theorem uX6_holds_2 {d : Nat} {μ0 μ : tm_M} {K : Int → tm_M → Prop} {v1 : Int} (hs : tFr wX6_holds μ0 μ)
    (h : (3 ≤ v1 → (tm_v μ0 85 0 ≠ tm_v μ0 85 1 → K 0 μ) ∧ (tm_v μ0 85 0 = tm_v μ0 85 1 → (tm_v μ0 85 1 ≠ tm_v μ0 85 2 → K 0 μ) ∧ (tm_v μ0 85 1 = tm_v μ0 85 2 → K 1 μ))) ∧ (v1 < 3 → (∀ x7, x7 = w32 (v1 + 1) → hI wX6_holds μ0 mX6_holds d K 11 [(0, 2, 65), (1, 0, v1), (2, 0, x7)] [] μ))) :
    hI wX6_holds μ0 mX6_holds d K 2 [(0, 2, 65), (1, 0, v1)] [] μ := by
  refine g_iload_n (q := 1) dX6_holds_2 rfl rfl ?_
  refine g_iconst dX6_holds_3 (by decide) ?_
  refine g_icmp_ge (tgt := 55) dX6_holds_4 (by decide) (fun c1 => ?_) (fun c2 => ?_)
  · have h := h.1 c1
    refine g_aload_n (q := 0) dX6_holds_55 rfl rfl ?_
    refine g_getC (x := 85) 2 dX6_holds_56 fX6_84 rfl (by decide) (sk_65 hs.S) (sv_65_47 hs.S) ?_
    refine g_iconst dX6_holds_59 (by decide) ?_
    refine g_ialoadC (x := tm_v μ0 85 0) dX6_holds_60 (by decide) (sk_85 hs.S) (by decide) (t_lt (sn_85 hs.S) (by decide)) (hs.v (tWs_no _ rfl)) ?_
    refine g_aload_n (q := 0) dX6_holds_61 rfl rfl ?_
    refine g_getC (x := 85) 2 dX6_holds_62 fX6_84 rfl (by decide) (sk_65 hs.S) (sv_65_47 hs.S) ?_
    refine g_iconst dX6_holds_65 (by decide) ?_
    refine g_ialoadC (x := tm_v μ0 85 1) dX6_holds_66 (by decide) (sk_85 hs.S) (by decide) (t_lt (sn_85 hs.S) (by decide)) (hs.v (tWs_no _ rfl)) ?_
    refine g_icmp_ne (tgt := 89) dX6_holds_67 (by decide) (fun c3 => ?_) (fun c4 => ?_)
    · have h := h.1 c3
      refine g_iconst dX6_holds_89 (by decide) ?_
      exact g_zret dX6_holds_90 rfl (by decide) (Nat.le_refl _) (Nat.le_refl _) ⟨_, rfl, hs, h⟩
    · have h := h.2 c4
      refine g_aload_n (q := 0) dX6_holds_70 rfl rfl ?_
      refine g_getC (x := 85) 2 dX6_holds_71 fX6_84 rfl (by decide) (sk_65 hs.S) (sv_65_47 hs.S) ?_
      refine g_iconst dX6_holds_74 (by decide) ?_
      refine g_ialoadC (x := tm_v μ0 85 1) dX6_holds_75 (by decide) (sk_85 hs.S) (by decide) (t_lt (sn_85 hs.S) (by decide)) (hs.v (tWs_no _ rfl)) ?_
      refine g_aload_n (q := 0) dX6_holds_76 rfl rfl ?_
      refine g_getC (x := 85) 2 dX6_holds_77 fX6_84 rfl (by decide) (sk_65 hs.S) (sv_65_47 hs.S) ?_
      refine g_iconst dX6_holds_80 (by decide) ?_
      refine g_ialoadC (x := tm_v μ0 85 2) dX6_holds_81 (by decide) (sk_85 hs.S) (by decide) (t_lt (sn_85 hs.S) (by decide)) (hs.v (tWs_no _ rfl)) ?_
      refine g_icmp_ne (tgt := 89) dX6_holds_82 (by decide) (fun c5 => ?_) (fun c6 => ?_)
      · have h := h.1 c5
        refine g_iconst dX6_holds_89 (by decide) ?_
        exact g_zret dX6_holds_90 rfl (by decide) (Nat.le_refl _) (Nat.le_refl _) ⟨_, rfl, hs, h⟩
      · have h := h.2 c6
        refine g_iconst dX6_holds_85 (by decide) ?_
        refine g_goto (tgt := 90) dX6_holds_86 (by decide) ?_
        exact g_zret dX6_holds_90 rfl (by decide) (Nat.le_refl _) (Nat.le_refl _) ⟨_, rfl, hs, h⟩
  · have h := h.2 c2
    refine g_iload_n (q := 1) dX6_holds_7 rfl rfl ?_
    refine g_iconst dX6_holds_8 (by decide) ?_
    refine g_iadd dX6_holds_9 ?_
    refine g_istore_nN (fun z => [(0, 2, 65), (1, 0, v1), (2, 0, z)]) dX6_holds_10 rfl (by decide) [1, 2, 0] (fun _ => rfl) (fun x7 ex7 => ?_)
    have h := h x7 ex7
    exact h
theorem uX6_holds_11 {d : Nat} {μ0 μ : tm_M} {K : Int → tm_M → Prop} {v1 v2 : Int} (hs : tFr wX6_holds μ0 μ)
    (h : (3 ≤ v2 → hI wX6_holds μ0 mX6_holds d K 2 [(0, 2, 65), (1, 0, w32 (v1 + 1))] [] μ) ∧ (v2 < 3 → (0 ≤ v1 ∧ v1 < 3) ∧ ((0 ≤ v2 ∧ v2 < 3) ∧ ((tm_v μ0 85 v1 ≠ tm_v μ0 85 v2 → hI wX6_holds μ0 mX6_holds d K 11 [(0, 2, 65), (1, 0, v1), (2, 0, w32 (v2 + 1))] [] μ) ∧ (tm_v μ0 85 v1 = tm_v μ0 85 v2 → (∀ μ7, μ7 = tm_w μ 99 v2 (tm_v μ 99 v1) → hI wX6_holds μ0 mX6_holds d K 11 [(0, 2, 65), (1, 0, v1), (2, 0, w32 (v2 + 1))] [] μ7)))))) :
    hI wX6_holds μ0 mX6_holds d K 11 [(0, 2, 65), (1, 0, v1), (2, 0, v2)] [] μ := by
  refine g_iload_n (q := 2) dX6_holds_11 rfl rfl ?_
  refine g_iconst dX6_holds_12 (by decide) ?_
  refine g_icmp_ge (tgt := 49) dX6_holds_13 (by decide) (fun c1 => ?_) (fun c2 => ?_)
  · have h := h.1 c1
    refine g_iinc (q := 1) dX6_holds_49 (by decide) rfl [1, 0, 2] rfl ?_
    refine g_goto (tgt := 2) dX6_holds_52 (by decide) ?_
    exact g_less [0, 1] rfl h
  · have h := h.2 c2
    refine g_aload_n (q := 0) dX6_holds_16 rfl rfl ?_
    refine g_getC (x := 85) 2 dX6_holds_17 fX6_84 rfl (by decide) (sk_65 hs.S) (sv_65_47 hs.S) ?_
    refine g_iload_n (q := 1) dX6_holds_20 rfl rfl ?_
    obtain ⟨c3, h⟩ := h
    refine g_ialoadC (x := tm_v μ0 85 v1) dX6_holds_21 (by decide) (sk_85 hs.S) c3.1 (t_lt (sn_85 hs.S) c3.2) (hs.v (tWs_no _ rfl)) ?_
    refine g_aload_n (q := 0) dX6_holds_22 rfl rfl ?_
    refine g_getC (x := 85) 2 dX6_holds_23 fX6_84 rfl (by decide) (sk_65 hs.S) (sv_65_47 hs.S) ?_
    refine g_iload_n (q := 2) dX6_holds_26 rfl rfl ?_
    obtain ⟨c4, h⟩ := h
    refine g_ialoadC (x := tm_v μ0 85 v2) dX6_holds_27 (by decide) (sk_85 hs.S) c4.1 (t_lt (sn_85 hs.S) c4.2) (hs.v (tWs_no _ rfl)) ?_
    refine g_icmp_ne (tgt := 43) dX6_holds_28 (by decide) (fun c5 => ?_) (fun c6 => ?_)
    · have h := h.1 c5
      refine g_iinc (q := 2) dX6_holds_43 (by decide) rfl [1, 2, 0] rfl ?_
      refine g_goto (tgt := 11) dX6_holds_46 (by decide) ?_
      exact h
    · have h := h.2 c6
      refine g_aload_n (q := 0) dX6_holds_31 rfl rfl ?_
      refine g_getC (x := 99) 2 dX6_holds_32 fX6_129 rfl (by decide) (sk_65 hs.S) (sv_65_69 hs.S) ?_
      refine g_iload_n (q := 2) dX6_holds_35 rfl rfl ?_
      refine g_aload_n (q := 0) dX6_holds_36 rfl rfl ?_
      refine g_getC (x := 99) 2 dX6_holds_37 fX6_129 rfl (by decide) (sk_65 hs.S) (sv_65_69 hs.S) ?_
      refine g_iload_n (q := 1) dX6_holds_40 rfl rfl ?_
      refine g_iaload dX6_holds_41 (by decide) (sk_99 hs.S) c3.1 (t_lt (sn_99 hs.S) c3.2) ?_
      refine g_iastore dX6_holds_42 (by decide) (sk_99 hs.S) c4.1 (t_lt (sn_99 hs.S) c4.2) (p_w hs sf_99 (tWs_in _ rfl) fun μ7 eμ7 hs => ?_)
      have h := h μ7 eμ7
      refine g_iinc (q := 2) dX6_holds_43 (by decide) rfl [1, 2, 0] rfl ?_
      refine g_goto (tgt := 11) dX6_holds_46 (by decide) ?_
      exact h
theorem uX6_addWay_0 {d : Nat} {μ0 μ : tm_M} {K : Int → tm_M → Prop} {v1 v2 v3 v4 : Int} (hd : 1 ≤ d) (hs : tFr wX6_addWay μ0 μ)
    (h : (tm_v μ 65 43 ≠ 12 → hI wX6_addWay μ0 mX6_addWay d K 19 [(0, 2, 65), (1, 0, v1), (2, 0, v2), (3, 0, v3), (4, 0, v4), (5, 0, 0)] [] μ) ∧ (tm_v μ 65 43 = 12 → (∀ μ3, μ3 = tm_w μ 65 0 7 → K (-1) μ3))) :
    hI wX6_addWay μ0 mX6_addWay d K 0 [(0, 2, 65), (1, 0, v1), (2, 0, v2), (3, 0, v3), (4, 0, v4)] [] μ := by
  refine g_aload_n (q := 0) dX6_addWay_0 rfl rfl ?_
  refine g_get 0 dX6_addWay_1 fX6_341 rfl (by decide) (sk_65 hs.S) ?_
  refine g_bipush dX6_addWay_4 ⟨by decide, by decide, rfl⟩ ?_
  refine g_icmp_ne (tgt := 16) dX6_addWay_6 (by decide) (fun c1 => ?_) (fun c2 => ?_)
  · have h := h.1 c1
    refine g_iconst dX6_addWay_16 (by decide) ?_
    refine g_istore (L' := [(0, 2, 65), (1, 0, v1), (2, 0, v2), (3, 0, v3), (4, 0, v4), (5, 0, 0)]) dX6_addWay_17 (by decide) [1, 2, 3, 4, 5, 0] rfl ?_
    exact h
  · have h := h.2 c2
    refine g_aload_n (q := 0) dX6_addWay_9 rfl rfl ?_
    refine g_bipush dX6_addWay_10 ⟨by decide, by decide, rfl⟩ ?_
    refine g_callV1 dX6_addWay_12 kX6_refuse q1484 q1486 qs53 (ci := 6) rfl (by decide) rfl (by omega) (by decide) (sk_65 hs.S) (Nat.le_of_ble_eq_true rfl) (Nat.le_refl _) (Nat.le_refl _) (t_kI hs (tWs_sub rfl) (pX6_refuse hs.S) (fun r5 μ3 hs e4 => ?_))
    obtain ⟨rfl, e4⟩ := e4
    have h := h μ3 e4
    exact g_iret dX6_addWay_15 rfl (Nat.le_refl _) (Nat.le_refl _) ⟨_, rfl, hs, h⟩
theorem uX6_addWay_19 {d : Nat} {μ0 μ : tm_M} {K : Int → tm_M → Prop} {v1 v2 v3 v4 v5 : Int} (hd : 1 ≤ d) (hs : tFr wX6_addWay μ0 μ)
    (h : (v2 ≤ v5 → (0 ≤ tm_v μ 65 43 ∧ tm_v μ 65 43 < 12) ∧ ((∀ μ4, μ4 = tm_w μ 82 (tm_v μ 65 43) v3 → (0 ≤ tm_v μ4 65 43 ∧ tm_v μ4 65 43 < 12) ∧ ((0 ≤ v4 ∧ v4 ≤ 1) ∧ ((∀ μ7, μ7 = tm_w μ4 84 (tm_v μ4 65 43) v4 → (∀ μ8, μ8 = tm_w μ7 65 43 (w32 ((tm_v μ7 65 43) + 1)) → K (w32 ((tm_v μ8 65 43) - 1)) μ8))))))) ∧ (v5 < v2 → (0 ≤ v1 ∧ v1 < 4 ∧ 0 ≤ v5 ∧ v5 < 64) ∧ ((0 ≤ w32 ((w32 (24 * (tm_v μ 65 43))) + v5) ∧ w32 ((w32 (24 * (tm_v μ 65 43))) + v5) < 288) ∧ ((∀ μ14, μ14 = tm_w μ 83 (w32 ((w32 (24 * (tm_v μ 65 43))) + v5)) (w32 (tm_v μ 68 (64 * v1 + v5))) → hI wX6_addWay μ0 mX6_addWay d K 19 [(0, 2, 65), (1, 0, v1), (2, 0, v2), (3, 0, v3), (4, 0, v4), (5, 0, w32 (v5 + 1))] [] μ14))))) :
    hI wX6_addWay μ0 mX6_addWay d K 19 [(0, 2, 65), (1, 0, v1), (2, 0, v2), (3, 0, v3), (4, 0, v4), (5, 0, v5)] [] μ := by
  refine g_iload (q := 5) dX6_addWay_19 rfl ?_
  refine g_iload_n (q := 2) dX6_addWay_21 rfl rfl ?_
  refine g_icmp_ge (tgt := 54) dX6_addWay_22 (by decide) (fun c1 => ?_) (fun c2 => ?_)
  · have h := h.1 c1
    refine g_aload_n (q := 0) dX6_addWay_54 rfl rfl ?_
    refine g_getC (x := 82) 2 dX6_addWay_55 fX6_75 rfl (by decide) (sk_65 hs.S) (sv_65_44 hs.S) ?_
    refine g_aload_n (q := 0) dX6_addWay_58 rfl rfl ?_
    refine g_get 0 dX6_addWay_59 fX6_341 rfl (by decide) (sk_65 hs.S) ?_
    refine g_iload_n (q := 3) dX6_addWay_62 rfl rfl ?_
    obtain ⟨c3, h⟩ := h
    refine g_iastore dX6_addWay_63 (by decide) (sk_82 hs.S) c3.1 (t_lt (sn_82 hs.S) c3.2) (p_w hs sf_82 (tWs_in _ rfl) fun μ4 eμ4 hs => ?_)
    have h := h μ4 eμ4
    refine g_aload_n (q := 0) dX6_addWay_64 rfl rfl ?_
    refine g_getC (x := 84) 2 dX6_addWay_65 fX6_81 rfl (by decide) (sk_65 hs.S) (sv_65_46 hs.S) ?_
    refine g_aload_n (q := 0) dX6_addWay_68 rfl rfl ?_
    refine g_get 0 dX6_addWay_69 fX6_341 rfl (by decide) (sk_65 hs.S) ?_
    refine g_iload (q := 4) dX6_addWay_72 rfl ?_
    obtain ⟨c5, h⟩ := h
    obtain ⟨c6, h⟩ := h
    refine g_zastore dX6_addWay_74 (by decide) (sk_84 hs.S) c5.1 (t_lt (sn_84 hs.S) c5.2) c6 (p_w hs sf_84 (tWs_in _ rfl) fun μ7 eμ7 hs => ?_)
    have h := h μ7 eμ7
    refine g_aload_n (q := 0) dX6_addWay_75 rfl rfl ?_
    refine g_dup dX6_addWay_76 (by decide) ?_
    refine g_get 0 dX6_addWay_77 fX6_341 rfl (by decide) (sk_65 hs.S) ?_
    refine g_iconst dX6_addWay_80 (by decide) ?_
    refine g_iadd dX6_addWay_81 ?_
    refine g_put dX6_addWay_82 fX6_341 rfl (by decide) (sk_65 hs.S) (fun e => absurd e (by decide)) (p_wj hs (by decide) (tWs_inF rfl) fun μ8 eμ8 hs => ?_)
    have h := h μ8 eμ8
    refine g_aload_n (q := 0) dX6_addWay_85 rfl rfl ?_
    refine g_get 0 dX6_addWay_86 fX6_341 rfl (by decide) (sk_65 hs.S) ?_
    refine g_iconst dX6_addWay_89 (by decide) ?_
    refine g_isub dX6_addWay_90 ?_
    exact g_iret dX6_addWay_91 rfl (Nat.le_refl _) (Nat.le_refl _) ⟨_, rfl, hs, h⟩
  · have h := h.2 c2
    refine g_aload_n (q := 0) dX6_addWay_25 rfl rfl ?_
    refine g_getC (x := 83) 2 dX6_addWay_26 fX6_78 rfl (by decide) (sk_65 hs.S) (sv_65_45 hs.S) ?_
    refine g_bipush dX6_addWay_29 ⟨by decide, by decide, rfl⟩ ?_
    refine g_aload_n (q := 0) dX6_addWay_31 rfl rfl ?_
    refine g_get 0 dX6_addWay_32 fX6_341 rfl (by decide) (sk_65 hs.S) ?_
    refine g_imul dX6_addWay_35 ?_
    refine g_iload (q := 5) dX6_addWay_36 rfl ?_
    refine g_iadd dX6_addWay_38 ?_
    refine g_aload_n (q := 0) dX6_addWay_39 rfl rfl ?_
    refine g_iload_n (q := 1) dX6_addWay_40 rfl rfl ?_
    refine g_iload (q := 5) dX6_addWay_41 rfl ?_
    obtain ⟨c9, h⟩ := h
    refine g_callV2 dX6_addWay_43 kX6_numberOf q1633 q1635 qs79 (ci := 6) rfl (by decide) rfl (by omega) (by decide) (sk_65 hs.S) (Nat.le_of_ble_eq_true rfl) (Nat.le_refl _) (Nat.le_refl _) (t_pL hs (pX6_numberOf hs.S c9) ?_)
    refine g_l2i dX6_addWay_46 ?_
    obtain ⟨c13, h⟩ := h
    refine g_iastore dX6_addWay_47 (by decide) (sk_83 hs.S) c13.1 (t_lt (sn_83 hs.S) c13.2) (p_w hs sf_83 (tWs_in _ rfl) fun μ14 eμ14 hs => ?_)
    have h := h μ14 eμ14
    refine g_iinc (q := 5) dX6_addWay_48 (by decide) rfl [1, 2, 3, 4, 5, 0] rfl ?_
    refine g_goto (tgt := 19) dX6_addWay_51 (by decide) ?_
    exact h
theorem uX6_taken_0 {d : Nat} {μ0 μ : tm_M} {K : Int → tm_M → Prop} (hs : tFr wX6_taken μ0 μ)
    (h : (∀ μ1, μ1 = tm_w μ 65 20 (tm_v μ0 65 22) → (∀ μ2, μ2 = tm_w μ1 65 21 (tm_v μ0 65 23) → (0 ≤ tm_v μ0 65 29 ∧ tm_v μ0 65 29 ≤ 1) ∧ ((∀ μ4, μ4 = tm_w μ2 65 28 (tm_v μ0 65 29) → (∀ μ5, μ5 = tm_w μ4 65 24 (tm_v μ0 65 26) → (∀ μ6, μ6 = tm_w μ5 65 25 (tm_v μ0 65 27) → (∀ μ7, μ7 = tm_w μ6 65 30 0 → hI wX6_taken μ0 mX6_taken d K 47 [(0, 2, 65), (1, 0, 0)] [] μ7)))))))) :
    hI wX6_taken μ0 mX6_taken d K 0 [(0, 2, 65)] [] μ := by
  refine g_aload_n (q := 0) dX6_taken_0 rfl rfl ?_
  refine g_aload_n (q := 0) dX6_taken_1 rfl rfl ?_
  refine g_getC (x := tm_v μ0 65 22) 0 dX6_taken_2 fX6_266 rfl (by decide) (sk_65 hs.S) (hs.v (tWs_noF rfl)) ?_
  refine g_put dX6_taken_5 fX6_326 rfl (by decide) (sk_65 hs.S) (fun e => absurd e (by decide)) (p_wj hs (by decide) (tWs_inF rfl) fun μ1 eμ1 hs => ?_)
  have h := h μ1 eμ1
  refine g_aload_n (q := 0) dX6_taken_8 rfl rfl ?_
  refine g_aload_n (q := 0) dX6_taken_9 rfl rfl ?_
  refine g_getC (x := tm_v μ0 65 23) 0 dX6_taken_10 fX6_282 rfl (by decide) (sk_65 hs.S) (hs.v (tWs_noF rfl)) ?_
  refine g_put dX6_taken_13 fX6_329 rfl (by decide) (sk_65 hs.S) (fun e => absurd e (by decide)) (p_wj hs (by decide) (tWs_inF rfl) fun μ2 eμ2 hs => ?_)
  have h := h μ2 eμ2
  refine g_aload_n (q := 0) dX6_taken_16 rfl rfl ?_
  refine g_aload_n (q := 0) dX6_taken_17 rfl rfl ?_
  refine g_getC (x := tm_v μ0 65 29) 0 dX6_taken_18 fX6_295 rfl (by decide) (sk_65 hs.S) (hs.v (tWs_noF rfl)) ?_
  obtain ⟨c3, h⟩ := h
  refine g_put dX6_taken_21 fX6_332 rfl (by decide) (sk_65 hs.S) (fun _ => c3) (p_wj hs (by decide) (tWs_inF rfl) fun μ4 eμ4 hs => ?_)
  have h := h μ4 eμ4
  refine g_aload_n (q := 0) dX6_taken_24 rfl rfl ?_
  refine g_aload_n (q := 0) dX6_taken_25 rfl rfl ?_
  refine g_getC (x := tm_v μ0 65 26) 0 dX6_taken_26 fX6_298 rfl (by decide) (sk_65 hs.S) (hs.v (tWs_noF rfl)) ?_
  refine g_put dX6_taken_29 fX6_35 rfl (by decide) (sk_65 hs.S) (fun e => absurd e (by decide)) (p_wj hs (by decide) (tWs_inF rfl) fun μ5 eμ5 hs => ?_)
  have h := h μ5 eμ5
  refine g_aload_n (q := 0) dX6_taken_32 rfl rfl ?_
  refine g_aload_n (q := 0) dX6_taken_33 rfl rfl ?_
  refine g_getC (x := tm_v μ0 65 27) 0 dX6_taken_34 fX6_301 rfl (by decide) (sk_65 hs.S) (hs.v (tWs_noF rfl)) ?_
  refine g_put dX6_taken_37 fX6_335 rfl (by decide) (sk_65 hs.S) (fun e => absurd e (by decide)) (p_wj hs (by decide) (tWs_inF rfl) fun μ6 eμ6 hs => ?_)
  have h := h μ6 eμ6
  refine g_aload_n (q := 0) dX6_taken_40 rfl rfl ?_
  refine g_iconst dX6_taken_41 (by decide) ?_
  refine g_put dX6_taken_42 fX6_338 rfl (by decide) (sk_65 hs.S) (fun _ => by decide) (p_wj hs (by decide) (tWs_inF rfl) fun μ7 eμ7 hs => ?_)
  have h := h μ7 eμ7
  refine g_iconst dX6_taken_45 (by decide) ?_
  refine g_istore_n (L' := [(0, 2, 65), (1, 0, 0)]) dX6_taken_46 rfl (by decide) [1, 0] rfl ?_
  exact h
theorem uX6_taken_47 {d : Nat} {μ0 μ : tm_M} {K : Int → tm_M → Prop} {v1 : Int} (hs : tFr wX6_taken μ0 μ)
    (h : (24 ≤ v1 → hI wX6_taken μ0 mX6_taken d K 73 [(0, 2, 65), (1, 0, 0)] [] μ) ∧ (v1 < 24 → (0 ≤ v1 ∧ v1 < 24) ∧ ((∀ μ4, μ4 = tm_w μ 70 v1 (tm_v μ0 71 v1) → hI wX6_taken μ0 mX6_taken d K 47 [(0, 2, 65), (1, 0, w32 (v1 + 1))] [] μ4)))) :
    hI wX6_taken μ0 mX6_taken d K 47 [(0, 2, 65), (1, 0, v1)] [] μ := by
  refine g_iload_n (q := 1) dX6_taken_47 rfl rfl ?_
  refine g_bipush dX6_taken_48 ⟨by decide, by decide, rfl⟩ ?_
  refine g_icmp_ge (tgt := 71) dX6_taken_50 (by decide) (fun c1 => ?_) (fun c2 => ?_)
  · have h := h.1 c1
    refine g_iconst dX6_taken_71 (by decide) ?_
    refine g_istore_n (L' := [(0, 2, 65), (1, 0, 0)]) dX6_taken_72 rfl (by decide) [1, 0] rfl ?_
    exact h
  · have h := h.2 c2
    refine g_aload_n (q := 0) dX6_taken_53 rfl rfl ?_
    refine g_getC (x := 70) 2 dX6_taken_54 fX6_38 rfl (by decide) (sk_65 hs.S) (sv_65_31 hs.S) ?_
    refine g_iload_n (q := 1) dX6_taken_57 rfl rfl ?_
    refine g_aload_n (q := 0) dX6_taken_58 rfl rfl ?_
    refine g_getC (x := 71) 2 dX6_taken_59 fX6_41 rfl (by decide) (sk_65 hs.S) (sv_65_32 hs.S) ?_
    refine g_iload_n (q := 1) dX6_taken_62 rfl rfl ?_
    obtain ⟨c3, h⟩ := h
    refine g_ialoadC (x := tm_v μ0 71 v1) dX6_taken_63 (by decide) (sk_71 hs.S) c3.1 (t_lt (sn_71 hs.S) c3.2) (hs.v (tWs_no _ rfl)) ?_
    refine g_iastore dX6_taken_64 (by decide) (sk_70 hs.S) c3.1 (t_lt (sn_70 hs.S) c3.2) (p_w hs sf_70 (tWs_in _ rfl) fun μ4 eμ4 hs => ?_)
    have h := h μ4 eμ4
    refine g_iinc (q := 1) dX6_taken_65 (by decide) rfl [1, 0] rfl ?_
    refine g_goto (tgt := 47) dX6_taken_68 (by decide) ?_
    exact h
theorem uX6_taken_73 {d : Nat} {μ0 μ : tm_M} {K : Int → tm_M → Prop} {v1 : Int} (hs : tFr wX6_taken μ0 μ)
    (h : (8 ≤ v1 → hI wX6_taken μ0 mX6_taken d K 99 [(0, 2, 65), (1, 0, 0)] [] μ) ∧ (v1 < 8 → (0 ≤ v1 ∧ v1 < 8) ∧ ((∀ μ4, μ4 = tm_w μ 72 v1 (tm_v μ0 73 v1) → hI wX6_taken μ0 mX6_taken d K 73 [(0, 2, 65), (1, 0, w32 (v1 + 1))] [] μ4)))) :
    hI wX6_taken μ0 mX6_taken d K 73 [(0, 2, 65), (1, 0, v1)] [] μ := by
  refine g_iload_n (q := 1) dX6_taken_73 rfl rfl ?_
  refine g_bipush dX6_taken_74 ⟨by decide, by decide, rfl⟩ ?_
  refine g_icmp_ge (tgt := 97) dX6_taken_76 (by decide) (fun c1 => ?_) (fun c2 => ?_)
  · have h := h.1 c1
    refine g_iconst dX6_taken_97 (by decide) ?_
    refine g_istore_n (L' := [(0, 2, 65), (1, 0, 0)]) dX6_taken_98 rfl (by decide) [1, 0] rfl ?_
    exact h
  · have h := h.2 c2
    refine g_aload_n (q := 0) dX6_taken_79 rfl rfl ?_
    refine g_getC (x := 72) 2 dX6_taken_80 fX6_44 rfl (by decide) (sk_65 hs.S) (sv_65_33 hs.S) ?_
    refine g_iload_n (q := 1) dX6_taken_83 rfl rfl ?_
    refine g_aload_n (q := 0) dX6_taken_84 rfl rfl ?_
    refine g_getC (x := 73) 2 dX6_taken_85 fX6_47 rfl (by decide) (sk_65 hs.S) (sv_65_34 hs.S) ?_
    refine g_iload_n (q := 1) dX6_taken_88 rfl rfl ?_
    obtain ⟨c3, h⟩ := h
    refine g_ialoadC (x := tm_v μ0 73 v1) dX6_taken_89 (by decide) (sk_73 hs.S) c3.1 (t_lt (sn_73 hs.S) c3.2) (hs.v (tWs_no _ rfl)) ?_
    refine g_iastore dX6_taken_90 (by decide) (sk_72 hs.S) c3.1 (t_lt (sn_72 hs.S) c3.2) (p_w hs sf_72 (tWs_in _ rfl) fun μ4 eμ4 hs => ?_)
    have h := h μ4 eμ4
    refine g_iinc (q := 1) dX6_taken_91 (by decide) rfl [1, 0] rfl ?_
    refine g_goto (tgt := 73) dX6_taken_94 (by decide) ?_
    exact h
theorem uX6_taken_99 {d : Nat} {μ0 μ : tm_M} {K : Int → tm_M → Prop} {v1 : Int} (hs : tFr wX6_taken μ0 μ)
    (h : (32 ≤ v1 → hI wX6_taken μ0 mX6_taken d K 125 [(0, 2, 65), (1, 0, 0)] [] μ) ∧ (v1 < 32 → (0 ≤ v1 ∧ v1 < 32) ∧ ((∀ μ4, μ4 = tm_w μ 74 v1 (tm_v μ0 75 v1) → hI wX6_taken μ0 mX6_taken d K 99 [(0, 2, 65), (1, 0, w32 (v1 + 1))] [] μ4)))) :
    hI wX6_taken μ0 mX6_taken d K 99 [(0, 2, 65), (1, 0, v1)] [] μ := by
  refine g_iload_n (q := 1) dX6_taken_99 rfl rfl ?_
  refine g_bipush dX6_taken_100 ⟨by decide, by decide, rfl⟩ ?_
  refine g_icmp_ge (tgt := 123) dX6_taken_102 (by decide) (fun c1 => ?_) (fun c2 => ?_)
  · have h := h.1 c1
    refine g_iconst dX6_taken_123 (by decide) ?_
    refine g_istore_n (L' := [(0, 2, 65), (1, 0, 0)]) dX6_taken_124 rfl (by decide) [1, 0] rfl ?_
    exact h
  · have h := h.2 c2
    refine g_aload_n (q := 0) dX6_taken_105 rfl rfl ?_
    refine g_getC (x := 74) 2 dX6_taken_106 fX6_50 rfl (by decide) (sk_65 hs.S) (sv_65_35 hs.S) ?_
    refine g_iload_n (q := 1) dX6_taken_109 rfl rfl ?_
    refine g_aload_n (q := 0) dX6_taken_110 rfl rfl ?_
    refine g_getC (x := 75) 2 dX6_taken_111 fX6_53 rfl (by decide) (sk_65 hs.S) (sv_65_36 hs.S) ?_
    refine g_iload_n (q := 1) dX6_taken_114 rfl rfl ?_
    obtain ⟨c3, h⟩ := h
    refine g_ialoadC (x := tm_v μ0 75 v1) dX6_taken_115 (by decide) (sk_75 hs.S) c3.1 (t_lt (sn_75 hs.S) c3.2) (hs.v (tWs_no _ rfl)) ?_
    refine g_iastore dX6_taken_116 (by decide) (sk_74 hs.S) c3.1 (t_lt (sn_74 hs.S) c3.2) (p_w hs sf_74 (tWs_in _ rfl) fun μ4 eμ4 hs => ?_)
    have h := h μ4 eμ4
    refine g_iinc (q := 1) dX6_taken_117 (by decide) rfl [1, 0] rfl ?_
    refine g_goto (tgt := 99) dX6_taken_120 (by decide) ?_
    exact h
theorem uX6_taken_125 {d : Nat} {μ0 μ : tm_M} {K : Int → tm_M → Prop} {v1 : Int} (hs : tFr wX6_taken μ0 μ)
    (h : (12 ≤ v1 → K (tm_v μ 65 20) μ) ∧ (v1 < 12 → (0 ≤ v1 ∧ v1 < 12) ∧ ((∀ μ4, μ4 = tm_w μ 76 v1 (tm_v μ0 78 v1) → (∀ μ5, μ5 = tm_w μ4 77 v1 (tm_v μ0 79 v1) → (∀ μ6, μ6 = tm_w μ5 80 v1 0 → hI wX6_taken μ0 mX6_taken d K 125 [(0, 2, 65), (1, 0, w32 (v1 + 1))] [] μ6)))))) :
    hI wX6_taken μ0 mX6_taken d K 125 [(0, 2, 65), (1, 0, v1)] [] μ := by
  refine g_iload_n (q := 1) dX6_taken_125 rfl rfl ?_
  refine g_bipush dX6_taken_126 ⟨by decide, by decide, rfl⟩ ?_
  refine g_icmp_ge (tgt := 168) dX6_taken_128 (by decide) (fun c1 => ?_) (fun c2 => ?_)
  · have h := h.1 c1
    refine g_aload_n (q := 0) dX6_taken_168 rfl rfl ?_
    refine g_get 0 dX6_taken_169 fX6_326 rfl (by decide) (sk_65 hs.S) ?_
    exact g_iret dX6_taken_172 rfl (Nat.le_refl _) (Nat.le_refl _) ⟨_, rfl, hs, h⟩
  · have h := h.2 c2
    refine g_aload_n (q := 0) dX6_taken_131 rfl rfl ?_
    refine g_getC (x := 76) 2 dX6_taken_132 fX6_56 rfl (by decide) (sk_65 hs.S) (sv_65_37 hs.S) ?_
    refine g_iload_n (q := 1) dX6_taken_135 rfl rfl ?_
    refine g_aload_n (q := 0) dX6_taken_136 rfl rfl ?_
    refine g_getC (x := 78) 2 dX6_taken_137 fX6_62 rfl (by decide) (sk_65 hs.S) (sv_65_39 hs.S) ?_
    refine g_iload_n (q := 1) dX6_taken_140 rfl rfl ?_
    obtain ⟨c3, h⟩ := h
    refine g_ialoadC (x := tm_v μ0 78 v1) dX6_taken_141 (by decide) (sk_78 hs.S) c3.1 (t_lt (sn_78 hs.S) c3.2) (hs.v (tWs_no _ rfl)) ?_
    refine g_iastore dX6_taken_142 (by decide) (sk_76 hs.S) c3.1 (t_lt (sn_76 hs.S) c3.2) (p_w hs sf_76 (tWs_in _ rfl) fun μ4 eμ4 hs => ?_)
    have h := h μ4 eμ4
    refine g_aload_n (q := 0) dX6_taken_143 rfl rfl ?_
    refine g_getC (x := 77) 2 dX6_taken_144 fX6_59 rfl (by decide) (sk_65 hs.S) (sv_65_38 hs.S) ?_
    refine g_iload_n (q := 1) dX6_taken_147 rfl rfl ?_
    refine g_aload_n (q := 0) dX6_taken_148 rfl rfl ?_
    refine g_getC (x := 79) 2 dX6_taken_149 fX6_65 rfl (by decide) (sk_65 hs.S) (sv_65_40 hs.S) ?_
    refine g_iload_n (q := 1) dX6_taken_152 rfl rfl ?_
    refine g_ialoadC (x := tm_v μ0 79 v1) dX6_taken_153 (by decide) (sk_79 hs.S) c3.1 (t_lt (sn_79 hs.S) c3.2) (hs.v (tWs_no _ rfl)) ?_
    refine g_iastore dX6_taken_154 (by decide) (sk_77 hs.S) c3.1 (t_lt (sn_77 hs.S) c3.2) (p_w hs sf_77 (tWs_in _ rfl) fun μ5 eμ5 hs => ?_)
    have h := h μ5 eμ5
    refine g_aload_n (q := 0) dX6_taken_155 rfl rfl ?_
    refine g_getC (x := 80) 2 dX6_taken_156 fX6_68 rfl (by decide) (sk_65 hs.S) (sv_65_41 hs.S) ?_
    refine g_iload_n (q := 1) dX6_taken_159 rfl rfl ?_
    refine g_iconst dX6_taken_160 (by decide) ?_
    refine g_zastore dX6_taken_161 (by decide) (sk_80 hs.S) c3.1 (t_lt (sn_80 hs.S) c3.2) (by decide) (p_w hs sf_80 (tWs_in _ rfl) fun μ6 eμ6 hs => ?_)
    have h := h μ6 eμ6
    refine g_iinc (q := 1) dX6_taken_162 (by decide) rfl [1, 0] rfl ?_
    refine g_goto (tgt := 125) dX6_taken_165 (by decide) ?_
    exact h
theorem uX6_fault_0 {d : Nat} {μ0 μ : tm_M} {K : Int → tm_M → Prop} {v1 : Int} (hs : tFr wX6_fault μ0 μ)
    (h : (∀ μ1, μ1 = tm_w μ 65 1 0 → (v1 ≠ 0 → (v1 ≠ 1 → K (-1) μ1) ∧ (v1 = 1 → K (tm_v μ0 65 11) μ1)) ∧ (v1 = 0 → K (tm_v μ0 65 10) μ1))) :
    hI wX6_fault μ0 mX6_fault d K 0 [(0, 2, 65), (1, 0, v1)] [] μ := by
  refine g_aload_n (q := 0) dX6_fault_0 rfl rfl ?_
  refine g_iconst dX6_fault_1 (by decide) ?_
  refine g_put dX6_fault_2 fX6_144 rfl (by decide) (sk_65 hs.S) (fun e => absurd e (by decide)) (p_wj hs (by decide) (tWs_inF rfl) fun μ1 eμ1 hs => ?_)
  have h := h μ1 eμ1
  refine g_iload_n (q := 1) dX6_fault_5 rfl rfl ?_
  refine g_if_ne (tgt := 16) dX6_fault_6 (by decide) (fun c2 => ?_) (fun c3 => ?_)
  · have h := h.1 c2
    refine g_iload_n (q := 1) dX6_fault_16 rfl rfl ?_
    refine g_iconst dX6_fault_17 (by decide) ?_
    refine g_icmp_ne (tgt := 28) dX6_fault_18 (by decide) (fun c4 => ?_) (fun c5 => ?_)
    · have h := h.1 c4
      refine g_iconst dX6_fault_28 (by decide) ?_
      exact g_iret dX6_fault_29 rfl (Nat.le_refl _) (Nat.le_refl _) ⟨_, rfl, hs, h⟩
    · have h := h.2 c5
      refine g_aload_n (q := 0) dX6_fault_21 rfl rfl ?_
      refine g_getC (x := tm_v μ0 65 11) 0 dX6_fault_22 fX6_32 rfl (by decide) (sk_65 hs.S) (hs.v (tWs_noF rfl)) ?_
      refine g_goto (tgt := 29) dX6_fault_25 (by decide) ?_
      exact g_iret dX6_fault_29 rfl (Nat.le_refl _) (Nat.le_refl _) ⟨_, rfl, hs, h⟩
  · have h := h.2 c3
    refine g_aload_n (q := 0) dX6_fault_9 rfl rfl ?_
    refine g_getC (x := tm_v μ0 65 10) 0 dX6_fault_10 fX6_28 rfl (by decide) (sk_65 hs.S) (hs.v (tWs_noF rfl)) ?_
    refine g_goto (tgt := 29) dX6_fault_13 (by decide) ?_
    exact g_iret dX6_fault_29 rfl (Nat.le_refl _) (Nat.le_refl _) ⟨_, rfl, hs, h⟩
theorem uX6_many_0 {d : Nat} {μ0 μ : tm_M} {K : Int → tm_M → Prop} {v1 : Int} (hd : 1 ≤ d) (hs : tFr wX6_many μ0 μ)
    (h : (∀ μ1, μ1 = tm_w μ 65 1 0 → (∀ μ2, μ2 = tm_w μ1 65 0 0 → (v1 ≠ 0 → (v1 ≠ 1 → (v1 ≠ 2 → (∀ μ9, μ9 = tm_w μ2 65 0 5 → K (-1) μ9)) ∧ (v1 = 2 → K (tm_v μ0 65 43) μ2)) ∧ (v1 = 1 → K (tm_v μ0 65 21) μ2)) ∧ (v1 = 0 → K (tm_v μ0 65 20) μ2)))) :
    hI wX6_many μ0 mX6_many d K 0 [(0, 2, 65), (1, 0, v1)] [] μ := by
  refine g_aload_n (q := 0) dX6_many_0 rfl rfl ?_
  refine g_iconst dX6_many_1 (by decide) ?_
  refine g_put dX6_many_2 fX6_144 rfl (by decide) (sk_65 hs.S) (fun e => absurd e (by decide)) (p_wj hs (by decide) (tWs_inF rfl) fun μ1 eμ1 hs => ?_)
  have h := h μ1 eμ1
  refine g_aload_n (q := 0) dX6_many_5 rfl rfl ?_
  refine g_iconst dX6_many_6 (by decide) ?_
  refine g_put dX6_many_7 fX6_147 rfl (by decide) (sk_65 hs.S) (fun e => absurd e (by decide)) (p_wj hs (by decide) (tWs_inF rfl) fun μ2 eμ2 hs => ?_)
  have h := h μ2 eμ2
  refine g_iload_n (q := 1) dX6_many_10 rfl rfl ?_
  refine g_if_ne (tgt := 21) dX6_many_11 (by decide) (fun c3 => ?_) (fun c4 => ?_)
  · have h := h.1 c3
    refine g_iload_n (q := 1) dX6_many_21 rfl rfl ?_
    refine g_iconst dX6_many_22 (by decide) ?_
    refine g_icmp_ne (tgt := 33) dX6_many_23 (by decide) (fun c5 => ?_) (fun c6 => ?_)
    · have h := h.1 c5
      refine g_iload_n (q := 1) dX6_many_33 rfl rfl ?_
      refine g_iconst dX6_many_34 (by decide) ?_
      refine g_icmp_ne (tgt := 45) dX6_many_35 (by decide) (fun c7 => ?_) (fun c8 => ?_)
      · have h := h.1 c7
        refine g_aload_n (q := 0) dX6_many_45 rfl rfl ?_
        refine g_iconst dX6_many_46 (by decide) ?_
        refine g_callV1 dX6_many_47 kX6_refuse q1484 q1486 qs53 (ci := 6) rfl (by decide) rfl (by omega) (by decide) (sk_65 hs.S) (Nat.le_of_ble_eq_true rfl) (Nat.le_refl _) (Nat.le_refl _) (t_kI hs (tWs_sub rfl) (pX6_refuse hs.S) (fun r11 μ9 hs e10 => ?_))
        obtain ⟨rfl, e10⟩ := e10
        have h := h μ9 e10
        exact g_iret dX6_many_50 rfl (Nat.le_refl _) (Nat.le_refl _) ⟨_, rfl, hs, h⟩
      · have h := h.2 c8
        refine g_aload_n (q := 0) dX6_many_38 rfl rfl ?_
        refine g_getC (x := tm_v μ0 65 43) 0 dX6_many_39 fX6_341 rfl (by decide) (sk_65 hs.S) (hs.v (tWs_noF rfl)) ?_
        refine g_goto (tgt := 50) dX6_many_42 (by decide) ?_
        exact g_iret dX6_many_50 rfl (Nat.le_refl _) (Nat.le_refl _) ⟨_, rfl, hs, h⟩
    · have h := h.2 c6
      refine g_aload_n (q := 0) dX6_many_26 rfl rfl ?_
      refine g_getC (x := tm_v μ0 65 21) 0 dX6_many_27 fX6_329 rfl (by decide) (sk_65 hs.S) (hs.v (tWs_noF rfl)) ?_
      refine g_goto (tgt := 50) dX6_many_30 (by decide) ?_
      exact g_iret dX6_many_50 rfl (Nat.le_refl _) (Nat.le_refl _) ⟨_, rfl, hs, h⟩
  · have h := h.2 c4
    refine g_aload_n (q := 0) dX6_many_14 rfl rfl ?_
    refine g_getC (x := tm_v μ0 65 20) 0 dX6_many_15 fX6_326 rfl (by decide) (sk_65 hs.S) (hs.v (tWs_noF rfl)) ?_
    refine g_goto (tgt := 50) dX6_many_18 (by decide) ?_
    exact g_iret dX6_many_50 rfl (Nat.le_refl _) (Nat.le_refl _) ⟨_, rfl, hs, h⟩
theorem uX6_place_0 {d : Nat} {μ0 μ : tm_M} {K : Int → tm_M → Prop} {v1 v2 : Int} (hd : 2 ≤ d) (hs : tFr wX6_place μ0 μ)
    (h : (∀ μ1, μ1 = tm_w μ 65 1 0 → (∀ μ2, μ2 = tm_w μ1 65 0 0 → (y_W μ0) ∧ ((0 ≤ v1 ∧ v1 < tm_v μ0 65 20 → (0 ≤ v2 ∧ v2 ≤ 5 → (v2 ≤ 1 → (v2 ≠ 0 → (v2 ≠ 1 → (y_p μ0 v1) ∧ (K (y_leads μ0 v1 (w32 (v2 - 2))) μ2)) ∧ (v2 = 1 → (0 ≤ v1 ∧ v1 < 8) ∧ (K (tm_v μ0 72 v1) μ2))) ∧ (v2 = 0 → (0 ≤ w32 (3 * v1) ∧ w32 (3 * v1) < 24) ∧ (K (tm_v μ0 70 (w32 (3 * v1))) μ2))) ∧ (1 < v2 → (0 ≤ v1 ∧ v1 < 8) ∧ ((w32 (v2 - 2) < tm_v μ0 72 v1 → (v2 ≠ 0 → (v2 ≠ 1 → (y_p μ0 v1) ∧ (K (y_leads μ0 v1 (w32 (v2 - 2))) μ2)) ∧ (v2 = 1 → K (tm_v μ0 72 v1) μ2)) ∧ (v2 = 0 → (0 ≤ w32 (3 * v1) ∧ w32 (3 * v1) < 24) ∧ (K (tm_v μ0 70 (w32 (3 * v1))) μ2))) ∧ (tm_v μ0 72 v1 ≤ w32 (v2 - 2) → (∀ μ38, μ38 = tm_w μ2 65 0 8 → K (-1) μ38))))) ∧ (¬ (0 ≤ v2 ∧ v2 ≤ 5) → (∀ μ41, μ41 = tm_w μ2 65 0 5 → K (-1) μ41))) ∧ (¬ (0 ≤ v1 ∧ v1 < tm_v μ0 65 20) → (∀ μ44, μ44 = tm_w μ2 65 0 2 → K (-1) μ44)))))) :
    hI wX6_place μ0 mX6_place d K 0 [(0, 2, 65), (1, 0, v1), (2, 0, v2)] [] μ := by
  refine g_aload_n (q := 0) dX6_place_0 rfl rfl ?_
  refine g_iconst dX6_place_1 (by decide) ?_
  refine g_put dX6_place_2 fX6_144 rfl (by decide) (sk_65 hs.S) (fun e => absurd e (by decide)) (p_wj hs (by decide) (tWs_inF rfl) fun μ1 eμ1 hs => ?_)
  have h := h μ1 eμ1
  refine g_aload_n (q := 0) dX6_place_5 rfl rfl ?_
  refine g_iconst dX6_place_6 (by decide) ?_
  refine g_put dX6_place_7 fX6_147 rfl (by decide) (sk_65 hs.S) (fun e => absurd e (by decide)) (p_wj hs (by decide) (tWs_inF rfl) fun μ2 eμ2 hs => ?_)
  have h := h μ2 eμ2
  refine g_aload_n (q := 0) dX6_place_10 rfl rfl ?_
  refine g_iload_n (q := 1) dX6_place_11 rfl rfl ?_
  obtain ⟨c3, h⟩ := h
  refine g_callV1 dX6_place_12 kX6_isPlace q1598 q1600 qs75 (ci := 6) rfl (by decide) rfl (by omega) (by decide) (sk_65 hs.S) (Nat.le_of_ble_eq_true rfl) (Nat.le_refl _) (Nat.le_refl _) (t_pI hs (pX6_isPlaceF (by omega) hs (tWs_T rfl) c3) ?_)
  refine g_if_ne (tgt := 24) dX6_place_15 (by decide) (fun c7 => ?_) (fun c8 => ?_)
  · have h := h.1 (b2i_1.mp c7)
    refine g_iload_n (q := 2) dX6_place_24 rfl rfl ?_
    refine g_i2l dX6_place_25 ?_
    refine g_lconst0 dX6_place_26 ?_
    refine g_ldc2 (v := 5) (by decide) q1602c dX6_place_27 ?_
    refine g_callS3 dX6_place_30 kX6_isIn q1563 q1564 rfl (by omega) (Nat.le_of_ble_eq_true rfl) (Nat.le_refl _) (Nat.le_refl _) (t_pI hs (pX6_isIn hs.S) ?_)
    refine g_if_ne (tgt := 42) dX6_place_33 (by decide) (fun c12 => ?_) (fun c13 => ?_)
    · have h := h.1 (b2i_1.mp c12)
      refine g_iload_n (q := 2) dX6_place_42 rfl rfl ?_
      refine g_iconst dX6_place_43 (by decide) ?_
      refine g_icmp_le (tgt := 66) dX6_place_44 (by decide) (fun c14 => ?_) (fun c15 => ?_)
      · have h := h.1 c14
        refine g_iload_n (q := 2) dX6_place_66 rfl rfl ?_
        refine g_if_ne (tgt := 81) dX6_place_67 (by decide) (fun c16 => ?_) (fun c17 => ?_)
        · have h := h.1 c16
          refine g_iload_n (q := 2) dX6_place_81 rfl rfl ?_
          refine g_iconst dX6_place_82 (by decide) ?_
          refine g_icmp_ne (tgt := 95) dX6_place_83 (by decide) (fun c18 => ?_) (fun c19 => ?_)
          · have h := h.1 c18
            refine g_aload_n (q := 0) dX6_place_95 rfl rfl ?_
            refine g_iload_n (q := 1) dX6_place_96 rfl rfl ?_
            refine g_iload_n (q := 2) dX6_place_97 rfl rfl ?_
            refine g_iconst dX6_place_98 (by decide) ?_
            refine g_isub dX6_place_99 ?_
            obtain ⟨c20, h⟩ := h
            refine g_callV2 dX6_place_100 kX6_leads q1603 q1605 qs76 (ci := 6) rfl (by decide) rfl (by omega) (by decide) (sk_65 hs.S) (Nat.le_of_ble_eq_true rfl) (Nat.le_refl _) (Nat.le_refl _) (t_pI hs (pX6_leadsF (by omega) hs (tWs_T rfl) c20) ?_)
            exact g_iret dX6_place_103 rfl (Nat.le_refl _) (Nat.le_refl _) ⟨_, rfl, hs, h⟩
          · have h := h.2 c19
            refine g_aload_n (q := 0) dX6_place_86 rfl rfl ?_
            refine g_getC (x := 72) 2 dX6_place_87 fX6_44 rfl (by decide) (sk_65 hs.S) (sv_65_33 hs.S) ?_
            refine g_iload_n (q := 1) dX6_place_90 rfl rfl ?_
            obtain ⟨c24, h⟩ := h
            refine g_ialoadC (x := tm_v μ0 72 v1) dX6_place_91 (by decide) (sk_72 hs.S) c24.1 (t_lt (sn_72 hs.S) c24.2) (hs.v (tWs_no _ rfl)) ?_
            refine g_goto (tgt := 103) dX6_place_92 (by decide) ?_
            exact g_iret dX6_place_103 rfl (Nat.le_refl _) (Nat.le_refl _) ⟨_, rfl, hs, h⟩
        · have h := h.2 c17
          refine g_aload_n (q := 0) dX6_place_70 rfl rfl ?_
          refine g_getC (x := 70) 2 dX6_place_71 fX6_38 rfl (by decide) (sk_65 hs.S) (sv_65_31 hs.S) ?_
          refine g_iconst dX6_place_74 (by decide) ?_
          refine g_iload_n (q := 1) dX6_place_75 rfl rfl ?_
          refine g_imul dX6_place_76 ?_
          obtain ⟨c25, h⟩ := h
          refine g_ialoadC (x := tm_v μ0 70 (w32 (3 * v1))) dX6_place_77 (by decide) (sk_70 hs.S) c25.1 (t_lt (sn_70 hs.S) c25.2) (hs.v (tWs_no _ rfl)) ?_
          refine g_goto (tgt := 103) dX6_place_78 (by decide) ?_
          exact g_iret dX6_place_103 rfl (Nat.le_refl _) (Nat.le_refl _) ⟨_, rfl, hs, h⟩
      · have h := h.2 c15
        refine g_iload_n (q := 2) dX6_place_47 rfl rfl ?_
        refine g_iconst dX6_place_48 (by decide) ?_
        refine g_isub dX6_place_49 ?_
        refine g_aload_n (q := 0) dX6_place_50 rfl rfl ?_
        refine g_getC (x := 72) 2 dX6_place_51 fX6_44 rfl (by decide) (sk_65 hs.S) (sv_65_33 hs.S) ?_
        refine g_iload_n (q := 1) dX6_place_54 rfl rfl ?_
        obtain ⟨c26, h⟩ := h
        refine g_ialoadC (x := tm_v μ0 72 v1) dX6_place_55 (by decide) (sk_72 hs.S) c26.1 (t_lt (sn_72 hs.S) c26.2) (hs.v (tWs_no _ rfl)) ?_
        refine g_icmp_lt (tgt := 66) dX6_place_56 (by decide) (fun c27 => ?_) (fun c28 => ?_)
        · have h := h.1 c27
          refine g_iload_n (q := 2) dX6_place_66 rfl rfl ?_
          refine g_if_ne (tgt := 81) dX6_place_67 (by decide) (fun c29 => ?_) (fun c30 => ?_)
          · have h := h.1 c29
            refine g_iload_n (q := 2) dX6_place_81 rfl rfl ?_
            refine g_iconst dX6_place_82 (by decide) ?_
            refine g_icmp_ne (tgt := 95) dX6_place_83 (by decide) (fun c31 => ?_) (fun c32 => ?_)
            · have h := h.1 c31
              refine g_aload_n (q := 0) dX6_place_95 rfl rfl ?_
              refine g_iload_n (q := 1) dX6_place_96 rfl rfl ?_
              refine g_iload_n (q := 2) dX6_place_97 rfl rfl ?_
              refine g_iconst dX6_place_98 (by decide) ?_
              refine g_isub dX6_place_99 ?_
              obtain ⟨c33, h⟩ := h
              refine g_callV2 dX6_place_100 kX6_leads q1603 q1605 qs76 (ci := 6) rfl (by decide) rfl (by omega) (by decide) (sk_65 hs.S) (Nat.le_of_ble_eq_true rfl) (Nat.le_refl _) (Nat.le_refl _) (t_pI hs (pX6_leadsF (by omega) hs (tWs_T rfl) c33) ?_)
              exact g_iret dX6_place_103 rfl (Nat.le_refl _) (Nat.le_refl _) ⟨_, rfl, hs, h⟩
            · have h := h.2 c32
              refine g_aload_n (q := 0) dX6_place_86 rfl rfl ?_
              refine g_getC (x := 72) 2 dX6_place_87 fX6_44 rfl (by decide) (sk_65 hs.S) (sv_65_33 hs.S) ?_
              refine g_iload_n (q := 1) dX6_place_90 rfl rfl ?_
              refine g_ialoadC (x := tm_v μ0 72 v1) dX6_place_91 (by decide) (sk_72 hs.S) c26.1 (t_lt (sn_72 hs.S) c26.2) (hs.v (tWs_no _ rfl)) ?_
              refine g_goto (tgt := 103) dX6_place_92 (by decide) ?_
              exact g_iret dX6_place_103 rfl (Nat.le_refl _) (Nat.le_refl _) ⟨_, rfl, hs, h⟩
          · have h := h.2 c30
            refine g_aload_n (q := 0) dX6_place_70 rfl rfl ?_
            refine g_getC (x := 70) 2 dX6_place_71 fX6_38 rfl (by decide) (sk_65 hs.S) (sv_65_31 hs.S) ?_
            refine g_iconst dX6_place_74 (by decide) ?_
            refine g_iload_n (q := 1) dX6_place_75 rfl rfl ?_
            refine g_imul dX6_place_76 ?_
            obtain ⟨c37, h⟩ := h
            refine g_ialoadC (x := tm_v μ0 70 (w32 (3 * v1))) dX6_place_77 (by decide) (sk_70 hs.S) c37.1 (t_lt (sn_70 hs.S) c37.2) (hs.v (tWs_no _ rfl)) ?_
            refine g_goto (tgt := 103) dX6_place_78 (by decide) ?_
            exact g_iret dX6_place_103 rfl (Nat.le_refl _) (Nat.le_refl _) ⟨_, rfl, hs, h⟩
        · have h := h.2 c28
          refine g_aload_n (q := 0) dX6_place_59 rfl rfl ?_
          refine g_bipush dX6_place_60 ⟨by decide, by decide, rfl⟩ ?_
          refine g_callV1 dX6_place_62 kX6_refuse q1484 q1486 qs53 (ci := 6) rfl (by decide) rfl (by omega) (by decide) (sk_65 hs.S) (Nat.le_of_ble_eq_true rfl) (Nat.le_refl _) (Nat.le_refl _) (t_kI hs (tWs_sub rfl) (pX6_refuse hs.S) (fun r40 μ38 hs e39 => ?_))
          obtain ⟨rfl, e39⟩ := e39
          have h := h μ38 e39
          exact g_iret dX6_place_65 rfl (Nat.le_refl _) (Nat.le_refl _) ⟨_, rfl, hs, h⟩
    · have h := h.2 (b2i_0.mp c13)
      refine g_aload_n (q := 0) dX6_place_36 rfl rfl ?_
      refine g_iconst dX6_place_37 (by decide) ?_
      refine g_callV1 dX6_place_38 kX6_refuse q1484 q1486 qs53 (ci := 6) rfl (by decide) rfl (by omega) (by decide) (sk_65 hs.S) (Nat.le_of_ble_eq_true rfl) (Nat.le_refl _) (Nat.le_refl _) (t_kI hs (tWs_sub rfl) (pX6_refuse hs.S) (fun r43 μ41 hs e42 => ?_))
      obtain ⟨rfl, e42⟩ := e42
      have h := h μ41 e42
      exact g_iret dX6_place_41 rfl (Nat.le_refl _) (Nat.le_refl _) ⟨_, rfl, hs, h⟩
  · have h := h.2 (b2i_0.mp c8)
    refine g_aload_n (q := 0) dX6_place_18 rfl rfl ?_
    refine g_iconst dX6_place_19 (by decide) ?_
    refine g_callV1 dX6_place_20 kX6_refuse q1484 q1486 qs53 (ci := 6) rfl (by decide) rfl (by omega) (by decide) (sk_65 hs.S) (Nat.le_of_ble_eq_true rfl) (Nat.le_refl _) (Nat.le_refl _) (t_kI hs (tWs_sub rfl) (pX6_refuse hs.S) (fun r46 μ44 hs e45 => ?_))
    obtain ⟨rfl, e45⟩ := e45
    have h := h μ44 e45
    exact g_iret dX6_place_23 rfl (Nat.le_refl _) (Nat.le_refl _) ⟨_, rfl, hs, h⟩
theorem uX6_shut_0 {d : Nat} {μ0 μ : tm_M} {K : Int → tm_M → Prop} {v1 v2 : Int} (hd : 1 ≤ d) (hs : tFr wX6_shut μ0 μ)
    (h : (∀ μ1, μ1 = tm_w μ 65 1 0 → (∀ μ2, μ2 = tm_w μ1 65 0 0 → (0 ≤ v1 ∧ v1 ≤ (w32 ((tm_v μ0 65 21) - 1)) → (0 ≤ v1 ∧ v1 < 12) ∧ ((0 ≤ v2 ∧ v2 ≤ 1) ∧ ((∀ μ10, μ10 = tm_w μ2 80 v1 v2 → K 1 μ10)))) ∧ (¬ (0 ≤ v1 ∧ v1 ≤ (w32 ((tm_v μ0 65 21) - 1))) → (∀ μ11, μ11 = tm_w μ2 65 0 2 → K 0 μ11))))) :
    hI wX6_shut μ0 mX6_shut d K 0 [(0, 2, 65), (1, 0, v1), (2, 0, v2)] [] μ := by
  refine g_aload_n (q := 0) dX6_shut_0 rfl rfl ?_
  refine g_iconst dX6_shut_1 (by decide) ?_
  refine g_put dX6_shut_2 fX6_144 rfl (by decide) (sk_65 hs.S) (fun e => absurd e (by decide)) (p_wj hs (by decide) (tWs_inF rfl) fun μ1 eμ1 hs => ?_)
  have h := h μ1 eμ1
  refine g_aload_n (q := 0) dX6_shut_5 rfl rfl ?_
  refine g_iconst dX6_shut_6 (by decide) ?_
  refine g_put dX6_shut_7 fX6_147 rfl (by decide) (sk_65 hs.S) (fun e => absurd e (by decide)) (p_wj hs (by decide) (tWs_inF rfl) fun μ2 eμ2 hs => ?_)
  have h := h μ2 eμ2
  refine g_iload_n (q := 1) dX6_shut_10 rfl rfl ?_
  refine g_i2l dX6_shut_11 ?_
  refine g_lconst0 dX6_shut_12 ?_
  refine g_aload_n (q := 0) dX6_shut_13 rfl rfl ?_
  refine g_getC (x := tm_v μ0 65 21) 0 dX6_shut_14 fX6_329 rfl (by decide) (sk_65 hs.S) (hs.v (tWs_noF rfl)) ?_
  refine g_iconst dX6_shut_17 (by decide) ?_
  refine g_isub dX6_shut_18 ?_
  refine g_i2l dX6_shut_19 ?_
  refine g_callS3 dX6_shut_20 kX6_isIn q1563 q1564 rfl (by omega) (Nat.le_of_ble_eq_true rfl) (Nat.le_refl _) (Nat.le_refl _) (t_pI hs (pX6_isIn hs.S) ?_)
  refine g_if_ne (tgt := 32) dX6_shut_23 (by decide) (fun c6 => ?_) (fun c7 => ?_)
  · have h := h.1 (b2i_1.mp c6)
    refine g_aload_n (q := 0) dX6_shut_32 rfl rfl ?_
    refine g_getC (x := 80) 2 dX6_shut_33 fX6_68 rfl (by decide) (sk_65 hs.S) (sv_65_41 hs.S) ?_
    refine g_iload_n (q := 1) dX6_shut_36 rfl rfl ?_
    refine g_iload_n (q := 2) dX6_shut_37 rfl rfl ?_
    obtain ⟨c8, h⟩ := h
    obtain ⟨c9, h⟩ := h
    refine g_zastore dX6_shut_38 (by decide) (sk_80 hs.S) c8.1 (t_lt (sn_80 hs.S) c8.2) c9 (p_w hs sf_80 (tWs_in _ rfl) fun μ10 eμ10 hs => ?_)
    have h := h μ10 eμ10
    refine g_iconst dX6_shut_39 (by decide) ?_
    exact g_zret dX6_shut_40 rfl (by decide) (Nat.le_refl _) (Nat.le_refl _) ⟨_, rfl, hs, h⟩
  · have h := h.2 (b2i_0.mp c7)
    refine g_aload_n (q := 0) dX6_shut_26 rfl rfl ?_
    refine g_iconst dX6_shut_27 (by decide) ?_
    refine g_callV1 dX6_shut_28 kX6_no q1444 q1446 qs49 (ci := 6) rfl (by decide) rfl (by omega) (by decide) (sk_65 hs.S) (Nat.le_of_ble_eq_true rfl) (Nat.le_refl _) (Nat.le_refl _) (t_kI hs (tWs_sub rfl) (pX6_no hs.S) (fun r13 μ11 hs e12 => ?_))
    obtain ⟨rfl, e12⟩ := e12
    have h := h μ11 e12
    exact g_zret dX6_shut_31 rfl (by decide) (Nat.le_refl _) (Nat.le_refl _) ⟨_, rfl, hs, h⟩
theorem uX6_marks_0 {d : Nat} {μ0 μ : tm_M} {K : Int → tm_M → Prop} {v1 : Int} (hs : tFr wX6_marks μ0 μ)
    (h : (∀ μ1, μ1 = tm_w μ 65 1 0 → (∀ μ2, μ2 = tm_w μ1 65 0 0 → (0 ≤ v1 ∧ v1 ≤ 1) ∧ ((∀ μ4, μ4 = tm_w μ2 65 30 v1 → K 1 μ4))))) :
    hI wX6_marks μ0 mX6_marks d K 0 [(0, 2, 65), (1, 0, v1)] [] μ := by
  refine g_aload_n (q := 0) dX6_marks_0 rfl rfl ?_
  refine g_iconst dX6_marks_1 (by decide) ?_
  refine g_put dX6_marks_2 fX6_144 rfl (by decide) (sk_65 hs.S) (fun e => absurd e (by decide)) (p_wj hs (by decide) (tWs_inF rfl) fun μ1 eμ1 hs => ?_)
  have h := h μ1 eμ1
  refine g_aload_n (q := 0) dX6_marks_5 rfl rfl ?_
  refine g_iconst dX6_marks_6 (by decide) ?_
  refine g_put dX6_marks_7 fX6_147 rfl (by decide) (sk_65 hs.S) (fun e => absurd e (by decide)) (p_wj hs (by decide) (tWs_inF rfl) fun μ2 eμ2 hs => ?_)
  have h := h μ2 eμ2
  refine g_aload_n (q := 0) dX6_marks_10 rfl rfl ?_
  refine g_iload_n (q := 1) dX6_marks_11 rfl rfl ?_
  obtain ⟨c3, h⟩ := h
  refine g_put dX6_marks_12 fX6_338 rfl (by decide) (sk_65 hs.S) (fun _ => c3) (p_wj hs (by decide) (tWs_inF rfl) fun μ4 eμ4 hs => ?_)
  have h := h μ4 eμ4
  refine g_iconst dX6_marks_15 (by decide) ?_
  exact g_zret dX6_marks_16 rfl (by decide) (Nat.le_refl _) (Nat.le_refl _) ⟨_, rfl, hs, h⟩
theorem uX6_step_0 {d : Nat} {μ0 μ : tm_M} {K : Int → tm_M → Prop} {v1 v2 : Int} (hd : 1 ≤ d) (hs : tFr wX6_step μ0 μ)
    (h : (∀ μ1, μ1 = tm_w μ 65 1 0 → (∀ μ2, μ2 = tm_w μ1 65 0 0 → (0 ≤ v1 ∧ v1 ≤ 1 → (¬ (0 ≤ v2 ∧ v2 ≤ (w32 ((tm_v μ0 65 52) - 1))) → (∀ μ13, μ13 = tm_w μ2 65 0 8 → K (-1) μ13)) ∧ (0 ≤ v2 ∧ v2 ≤ (w32 ((tm_v μ0 65 52) - 1)) → (0 ≤ w32 ((w32 (2 * v2)) + v1) ∧ w32 ((w32 (2 * v2)) + v1) < 6) ∧ (K (tm_v μ0 90 (w32 ((w32 (2 * v2)) + v1))) μ2))) ∧ (¬ (0 ≤ v1 ∧ v1 ≤ 1) → (∀ μ17, μ17 = tm_w μ2 65 0 5 → K (-1) μ17))))) :
    hI wX6_step μ0 mX6_step d K 0 [(0, 2, 65), (1, 0, v1), (2, 0, v2)] [] μ := by
  refine g_aload_n (q := 0) dX6_step_0 rfl rfl ?_
  refine g_iconst dX6_step_1 (by decide) ?_
  refine g_put dX6_step_2 fX6_144 rfl (by decide) (sk_65 hs.S) (fun e => absurd e (by decide)) (p_wj hs (by decide) (tWs_inF rfl) fun μ1 eμ1 hs => ?_)
  have h := h μ1 eμ1
  refine g_aload_n (q := 0) dX6_step_5 rfl rfl ?_
  refine g_iconst dX6_step_6 (by decide) ?_
  refine g_put dX6_step_7 fX6_147 rfl (by decide) (sk_65 hs.S) (fun e => absurd e (by decide)) (p_wj hs (by decide) (tWs_inF rfl) fun μ2 eμ2 hs => ?_)
  have h := h μ2 eμ2
  refine g_iload_n (q := 1) dX6_step_10 rfl rfl ?_
  refine g_i2l dX6_step_11 ?_
  refine g_lconst0 dX6_step_12 ?_
  refine g_lconst1 dX6_step_13 ?_
  refine g_callS3 dX6_step_14 kX6_isIn q1563 q1564 rfl (by omega) (Nat.le_of_ble_eq_true rfl) (Nat.le_refl _) (Nat.le_refl _) (t_pI hs (pX6_isIn hs.S) ?_)
  refine g_if_ne (tgt := 26) dX6_step_17 (by decide) (fun c6 => ?_) (fun c7 => ?_)
  · have h := h.1 (b2i_1.mp c6)
    refine g_iload_n (q := 2) dX6_step_26 rfl rfl ?_
    refine g_i2l dX6_step_27 ?_
    refine g_lconst0 dX6_step_28 ?_
    refine g_aload_n (q := 0) dX6_step_29 rfl rfl ?_
    refine g_getC (x := tm_v μ0 65 52) 0 dX6_step_30 fX6_438 rfl (by decide) (sk_65 hs.S) (hs.v (tWs_noF rfl)) ?_
    refine g_iconst dX6_step_33 (by decide) ?_
    refine g_isub dX6_step_34 ?_
    refine g_i2l dX6_step_35 ?_
    refine g_callS3 dX6_step_36 kX6_isIn q1563 q1564 rfl (by omega) (Nat.le_of_ble_eq_true rfl) (Nat.le_refl _) (Nat.le_refl _) (t_pI hs (pX6_isIn hs.S) ?_)
    refine g_if_eq (tgt := 55) dX6_step_39 (by decide) (fun c11 => ?_) (fun c12 => ?_)
    · have h := h.1 (b2i_0.mp c11)
      refine g_aload_n (q := 0) dX6_step_55 rfl rfl ?_
      refine g_bipush dX6_step_56 ⟨by decide, by decide, rfl⟩ ?_
      refine g_callV1 dX6_step_58 kX6_refuse q1484 q1486 qs53 (ci := 6) rfl (by decide) rfl (by omega) (by decide) (sk_65 hs.S) (Nat.le_of_ble_eq_true rfl) (Nat.le_refl _) (Nat.le_refl _) (t_kI hs (tWs_sub rfl) (pX6_refuse hs.S) (fun r15 μ13 hs e14 => ?_))
      obtain ⟨rfl, e14⟩ := e14
      have h := h μ13 e14
      exact g_iret dX6_step_61 rfl (Nat.le_refl _) (Nat.le_refl _) ⟨_, rfl, hs, h⟩
    · have h := h.2 (b2i_1.mp c12)
      refine g_aload_n (q := 0) dX6_step_42 rfl rfl ?_
      refine g_getC (x := 90) 2 dX6_step_43 fX6_99 rfl (by decide) (sk_65 hs.S) (sv_65_55 hs.S) ?_
      refine g_iconst dX6_step_46 (by decide) ?_
      refine g_iload_n (q := 2) dX6_step_47 rfl rfl ?_
      refine g_imul dX6_step_48 ?_
      refine g_iload_n (q := 1) dX6_step_49 rfl rfl ?_
      refine g_iadd dX6_step_50 ?_
      obtain ⟨c16, h⟩ := h
      refine g_ialoadC (x := tm_v μ0 90 (w32 ((w32 (2 * v2)) + v1))) dX6_step_51 (by decide) (sk_90 hs.S) c16.1 (t_lt (sn_90 hs.S) c16.2) (hs.v (tWs_no _ rfl)) ?_
      refine g_goto (tgt := 61) dX6_step_52 (by decide) ?_
      exact g_iret dX6_step_61 rfl (Nat.le_refl _) (Nat.le_refl _) ⟨_, rfl, hs, h⟩
  · have h := h.2 (b2i_0.mp c7)
    refine g_aload_n (q := 0) dX6_step_20 rfl rfl ?_
    refine g_iconst dX6_step_21 (by decide) ?_
    refine g_callV1 dX6_step_22 kX6_refuse q1484 q1486 qs53 (ci := 6) rfl (by decide) rfl (by omega) (by decide) (sk_65 hs.S) (Nat.le_of_ble_eq_true rfl) (Nat.le_refl _) (Nat.le_refl _) (t_kI hs (tWs_sub rfl) (pX6_refuse hs.S) (fun r19 μ17 hs e18 => ?_))
    obtain ⟨rfl, e18⟩ := e18
    have h := h μ17 e18
    exact g_iret dX6_step_25 rfl (Nat.le_refl _) (Nat.le_refl _) ⟨_, rfl, hs, h⟩
theorem uX6_alikeStep_0 {d : Nat} {μ0 μ : tm_M} {K : Int → tm_M → Prop} {v1 : Int} (hd : 1 ≤ d) (hs : tFr wX6_alikeStep μ0 μ)
    (h : (∀ μ1, μ1 = tm_w μ 65 1 0 → (∀ μ2, μ2 = tm_w μ1 65 0 0 → (¬ (0 ≤ v1 ∧ v1 ≤ (w32 ((tm_v μ0 65 53) - 1))) → (∀ μ8, μ8 = tm_w μ2 65 0 8 → K (-1) μ8)) ∧ (0 ≤ v1 ∧ v1 ≤ (w32 ((tm_v μ0 65 53) - 1)) → (0 ≤ v1 ∧ v1 < 5) ∧ (K (tm_v μ0 91 v1) μ2))))) :
    hI wX6_alikeStep μ0 mX6_alikeStep d K 0 [(0, 2, 65), (1, 0, v1)] [] μ := by
  refine g_aload_n (q := 0) dX6_alikeStep_0 rfl rfl ?_
  refine g_iconst dX6_alikeStep_1 (by decide) ?_
  refine g_put dX6_alikeStep_2 fX6_144 rfl (by decide) (sk_65 hs.S) (fun e => absurd e (by decide)) (p_wj hs (by decide) (tWs_inF rfl) fun μ1 eμ1 hs => ?_)
  have h := h μ1 eμ1
  refine g_aload_n (q := 0) dX6_alikeStep_5 rfl rfl ?_
  refine g_iconst dX6_alikeStep_6 (by decide) ?_
  refine g_put dX6_alikeStep_7 fX6_147 rfl (by decide) (sk_65 hs.S) (fun e => absurd e (by decide)) (p_wj hs (by decide) (tWs_inF rfl) fun μ2 eμ2 hs => ?_)
  have h := h μ2 eμ2
  refine g_iload_n (q := 1) dX6_alikeStep_10 rfl rfl ?_
  refine g_i2l dX6_alikeStep_11 ?_
  refine g_lconst0 dX6_alikeStep_12 ?_
  refine g_aload_n (q := 0) dX6_alikeStep_13 rfl rfl ?_
  refine g_getC (x := tm_v μ0 65 53) 0 dX6_alikeStep_14 fX6_441 rfl (by decide) (sk_65 hs.S) (hs.v (tWs_noF rfl)) ?_
  refine g_iconst dX6_alikeStep_17 (by decide) ?_
  refine g_isub dX6_alikeStep_18 ?_
  refine g_i2l dX6_alikeStep_19 ?_
  refine g_callS3 dX6_alikeStep_20 kX6_isIn q1563 q1564 rfl (by omega) (Nat.le_of_ble_eq_true rfl) (Nat.le_refl _) (Nat.le_refl _) (t_pI hs (pX6_isIn hs.S) ?_)
  refine g_if_eq (tgt := 35) dX6_alikeStep_23 (by decide) (fun c6 => ?_) (fun c7 => ?_)
  · have h := h.1 (b2i_0.mp c6)
    refine g_aload_n (q := 0) dX6_alikeStep_35 rfl rfl ?_
    refine g_bipush dX6_alikeStep_36 ⟨by decide, by decide, rfl⟩ ?_
    refine g_callV1 dX6_alikeStep_38 kX6_refuse q1484 q1486 qs53 (ci := 6) rfl (by decide) rfl (by omega) (by decide) (sk_65 hs.S) (Nat.le_of_ble_eq_true rfl) (Nat.le_refl _) (Nat.le_refl _) (t_kI hs (tWs_sub rfl) (pX6_refuse hs.S) (fun r10 μ8 hs e9 => ?_))
    obtain ⟨rfl, e9⟩ := e9
    have h := h μ8 e9
    exact g_iret dX6_alikeStep_41 rfl (Nat.le_refl _) (Nat.le_refl _) ⟨_, rfl, hs, h⟩
  · have h := h.2 (b2i_1.mp c7)
    refine g_aload_n (q := 0) dX6_alikeStep_26 rfl rfl ?_
    refine g_getC (x := 91) 2 dX6_alikeStep_27 fX6_102 rfl (by decide) (sk_65 hs.S) (sv_65_56 hs.S) ?_
    refine g_iload_n (q := 1) dX6_alikeStep_30 rfl rfl ?_
    obtain ⟨c11, h⟩ := h
    refine g_ialoadC (x := tm_v μ0 91 v1) dX6_alikeStep_31 (by decide) (sk_91 hs.S) c11.1 (t_lt (sn_91 hs.S) c11.2) (hs.v (tWs_no _ rfl)) ?_
    refine g_goto (tgt := 41) dX6_alikeStep_32 (by decide) ?_
    exact g_iret dX6_alikeStep_41 rfl (Nat.le_refl _) (Nat.le_refl _) ⟨_, rfl, hs, h⟩
theorem uX6_feed_0 {d : Nat} {μ0 μ : tm_M} {K : Int → tm_M → Prop} {v1 v2 v3 v4 v5 : Int} (hd : 1 ≤ d) (hs : tFr wX6_feed μ0 μ)
    (h : (∀ μ1, μ1 = tm_w μ 65 1 0 → (w32 ((tm_v μ1 65 8) + 20) ≤ 500 → cV wX6_lay mX6_lay (d - 1) [(2, 65), (0, v1)] μ1 (fun μ4 => cV wX6_lay mX6_lay (d - 1) [(2, 65), (0, v2)] μ4 (fun μ5 => cV wX6_lay mX6_lay (d - 1) [(2, 65), (0, v3)] μ5 (fun μ6 => cV wX6_lay mX6_lay (d - 1) [(2, 65), (0, v4)] μ6 (fun μ7 => cV wX6_lay mX6_lay (d - 1) [(2, 65), (0, v5)] μ7 (fun μ8 => K (tm_v μ8 65 8) μ8)))))) ∧ (500 < w32 ((tm_v μ1 65 8) + 20) → K (-1) μ1))) :
    hI wX6_feed μ0 mX6_feed d K 0 [(0, 2, 65), (1, 0, v1), (2, 0, v2), (3, 0, v3), (4, 0, v4), (5, 0, v5)] [] μ := by
  refine g_aload_n (q := 0) dX6_feed_0 rfl rfl ?_
  refine g_iconst dX6_feed_1 (by decide) ?_
  refine g_put dX6_feed_2 fX6_144 rfl (by decide) (sk_65 hs.S) (fun e => absurd e (by decide)) (p_wj hs (by decide) (tWs_inF rfl) fun μ1 eμ1 hs => ?_)
  have h := h μ1 eμ1
  refine g_aload_n (q := 0) dX6_feed_5 rfl rfl ?_
  refine g_get 0 dX6_feed_6 fX6_304 rfl (by decide) (sk_65 hs.S) ?_
  refine g_bipush dX6_feed_9 ⟨by decide, by decide, rfl⟩ ?_
  refine g_iadd dX6_feed_11 ?_
  refine g_sipush dX6_feed_12 ⟨by decide, by decide, rfl⟩ ?_
  refine g_icmp_le (tgt := 20) dX6_feed_15 (by decide) (fun c2 => ?_) (fun c3 => ?_)
  · have h := h.1 c2
    refine g_aload_n (q := 0) dX6_feed_20 rfl rfl ?_
    refine g_iload_n (q := 1) dX6_feed_21 rfl rfl ?_
    refine g_callV1 dX6_feed_22 kX6_lay q1476 q1478 qs52 (ci := 6) rfl (by decide) rfl (by omega) (by decide) (sk_65 hs.S) (Nat.le_of_ble_eq_true rfl) (Nat.le_refl _) (Nat.le_refl _) (t_kV hs (tWs_sub rfl) h (fun μ4 hs h => ?_))
    refine g_aload_n (q := 0) dX6_feed_25 rfl rfl ?_
    refine g_iload_n (q := 2) dX6_feed_26 rfl rfl ?_
    refine g_callV1 dX6_feed_27 kX6_lay q1476 q1478 qs52 (ci := 6) rfl (by decide) rfl (by omega) (by decide) (sk_65 hs.S) (Nat.le_of_ble_eq_true rfl) (Nat.le_refl _) (Nat.le_refl _) (t_kV hs (tWs_sub rfl) h (fun μ5 hs h => ?_))
    refine g_aload_n (q := 0) dX6_feed_30 rfl rfl ?_
    refine g_iload_n (q := 3) dX6_feed_31 rfl rfl ?_
    refine g_callV1 dX6_feed_32 kX6_lay q1476 q1478 qs52 (ci := 6) rfl (by decide) rfl (by omega) (by decide) (sk_65 hs.S) (Nat.le_of_ble_eq_true rfl) (Nat.le_refl _) (Nat.le_refl _) (t_kV hs (tWs_sub rfl) h (fun μ6 hs h => ?_))
    refine g_aload_n (q := 0) dX6_feed_35 rfl rfl ?_
    refine g_iload (q := 4) dX6_feed_36 rfl ?_
    refine g_callV1 dX6_feed_38 kX6_lay q1476 q1478 qs52 (ci := 6) rfl (by decide) rfl (by omega) (by decide) (sk_65 hs.S) (Nat.le_of_ble_eq_true rfl) (Nat.le_refl _) (Nat.le_refl _) (t_kV hs (tWs_sub rfl) h (fun μ7 hs h => ?_))
    refine g_aload_n (q := 0) dX6_feed_41 rfl rfl ?_
    refine g_iload (q := 5) dX6_feed_42 rfl ?_
    refine g_callV1 dX6_feed_44 kX6_lay q1476 q1478 qs52 (ci := 6) rfl (by decide) rfl (by omega) (by decide) (sk_65 hs.S) (Nat.le_of_ble_eq_true rfl) (Nat.le_refl _) (Nat.le_refl _) (t_kV hs (tWs_sub rfl) h (fun μ8 hs h => ?_))
    refine g_aload_n (q := 0) dX6_feed_47 rfl rfl ?_
    refine g_get 0 dX6_feed_48 fX6_304 rfl (by decide) (sk_65 hs.S) ?_
    exact g_iret dX6_feed_51 rfl (Nat.le_refl _) (Nat.le_refl _) ⟨_, rfl, hs, h⟩
  · have h := h.2 c3
    refine g_iconst dX6_feed_18 (by decide) ?_
    exact g_iret dX6_feed_19 rfl (Nat.le_refl _) (Nat.le_refl _) ⟨_, rfl, hs, h⟩
