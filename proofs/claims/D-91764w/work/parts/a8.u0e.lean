theorem uX0_meet_0 {d : Nat} {μ0 μ : tm_M} {K : Int → tm_M → Prop} {v1 v2 v3 v4 : Int} (hd : 1 ≤ d) (hf : dyA (c_FA μ0) ∧ tm_k μ0 (c_FA μ0) = 20) (hs : tFr (tWf [7, 8, 10] [] (c_FA μ0)) μ0 μ)
    (h : (0 ≤ v1 ∧ v1 < 12) ∧ ((ob μ0 (tm_v μ0 1 8) 4) ∧ ((ob μ0 (tm_v μ0 (tm_v μ0 1 8) 0) 26) ∧ ((0 ≤ v3 ∧ v3 < tm_n μ0 (tm_v μ0 (tm_v μ0 1 8) 0)) ∧ (cV (tWs [7] []) mX3_begin (d - 1) [(2, 7), (2, tm_v μ0 6 v1), (2, tm_v μ0 (tm_v μ0 (tm_v μ0 1 8) 0) v3)] μ (fun μ5 => (0 ≤ v2 ∧ v2 < 12) ∧ ((0 ≤ v4 ∧ v4 < tm_n μ0 (tm_v μ0 (tm_v μ0 1 8) 0)) ∧ (cV (tWs [8] []) mX3_begin (d - 1) [(2, 8), (2, tm_v μ0 6 v2), (2, tm_v μ0 (tm_v μ0 (tm_v μ0 1 8) 0) v4)] μ5 (fun μ8 => hI (tWf [7, 8, 10] [] (c_FA μ0)) μ0 mX0_meet d K 48 [(0, 2, 1), (3, 0, v3), (4, 0, v4), (5, 0, 0)] [] μ8))))))))) :
    hI (tWf [7, 8, 10] [] (c_FA μ0)) μ0 mX0_meet d K 0 [(0, 2, 1), (1, 0, v1), (2, 0, v2), (3, 0, v3), (4, 0, v4)] [] μ := by
  refine g_aload_n (q := 0) dX0_meet_0 rfl rfl ?_
  refine g_getC (x := 7) 2 dX0_meet_1 fX0_40 rfl (by decide) (sk_1 hs.S) (sv_1_4 hs.S) ?_
  refine g_aload_n (q := 0) dX0_meet_4 rfl rfl ?_
  refine g_getC (x := 6) 2 dX0_meet_5 fX0_33 rfl (by decide) (sk_1 hs.S) (sv_1_3 hs.S) ?_
  refine g_iload_n (q := 1) dX0_meet_8 rfl rfl ?_
  obtain ⟨c1, h⟩ := h
  refine g_aaloadC (x := tm_v μ0 6 v1) dX0_meet_9 (by decide) (sk_6 hs.S) (by decide) c1.1 (t_lt (sn_6 hs.S) c1.2) (hs.v (tWf_no hf (by decide) (tWs_no _ rfl))) ?_
  refine g_aload_n (q := 0) dX0_meet_10 rfl rfl ?_
  refine g_getC (x := tm_v μ0 1 8) 2 dX0_meet_11 fX0_57 rfl (by decide) (sk_1 hs.S) (hs.v (tWf_no hf (by decide) (tWs_noF rfl))) ?_
  obtain ⟨c2, h⟩ := h
  refine g_getC (x := tm_v μ0 (tm_v μ0 1 8) 0) 2 dX0_meet_14 fX0_240 rfl c2.1.1 (hs.k ▸ c2.1.2) (hs.v (tWf_ob rfl hf c2 (by decide))) ?_
  refine g_iload_n (q := 3) dX0_meet_17 rfl rfl ?_
  obtain ⟨c3, h⟩ := h
  obtain ⟨c4, h⟩ := h
  refine g_aaloadC (x := tm_v μ0 (tm_v μ0 (tm_v μ0 1 8) 0) v3) dX0_meet_18 c3.1.1 (hs.k ▸ c3.1.2) (by decide) c4.1 (hs.n ▸ c4.2) (hs.v (tWf_ob rfl hf c3 (by decide))) ?_
  refine g_callV2 dX0_meet_19 kX3_begin q977 q978 q979 (ci := 3) rfl (by decide) rfl (by omega) (by decide) (sk_7 hs.S) (Nat.le_of_ble_eq_true rfl) (Nat.le_refl _) (Nat.le_refl _) (t_kV hs (tWf_subL rfl) h (fun μ5 hs h => ?_))
  refine g_aload_n (q := 0) dX0_meet_22 rfl rfl ?_
  refine g_getC (x := 8) 2 dX0_meet_23 fX0_44 rfl (by decide) (sk_1 hs.S) (sv_1_5 hs.S) ?_
  refine g_aload_n (q := 0) dX0_meet_26 rfl rfl ?_
  refine g_getC (x := 6) 2 dX0_meet_27 fX0_33 rfl (by decide) (sk_1 hs.S) (sv_1_3 hs.S) ?_
  refine g_iload_n (q := 2) dX0_meet_30 rfl rfl ?_
  obtain ⟨c6, h⟩ := h
  refine g_aaloadC (x := tm_v μ0 6 v2) dX0_meet_31 (by decide) (sk_6 hs.S) (by decide) c6.1 (t_lt (sn_6 hs.S) c6.2) (hs.v (tWf_no hf (by decide) (tWs_no _ rfl))) ?_
  refine g_aload_n (q := 0) dX0_meet_32 rfl rfl ?_
  refine g_getC (x := tm_v μ0 1 8) 2 dX0_meet_33 fX0_57 rfl (by decide) (sk_1 hs.S) (hs.v (tWf_no hf (by decide) (tWs_noF rfl))) ?_
  refine g_getC (x := tm_v μ0 (tm_v μ0 1 8) 0) 2 dX0_meet_36 fX0_240 rfl c2.1.1 (hs.k ▸ c2.1.2) (hs.v (tWf_ob rfl hf c2 (by decide))) ?_
  refine g_iload (q := 4) dX0_meet_39 rfl ?_
  obtain ⟨c7, h⟩ := h
  refine g_aaloadC (x := tm_v μ0 (tm_v μ0 (tm_v μ0 1 8) 0) v4) dX0_meet_41 c3.1.1 (hs.k ▸ c3.1.2) (by decide) c7.1 (hs.n ▸ c7.2) (hs.v (tWf_ob rfl hf c3 (by decide))) ?_
  refine g_callV2 dX0_meet_42 kX3_begin q977 q978 q979 (ci := 3) rfl (by decide) rfl (by omega) (by decide) (sk_8 hs.S) (Nat.le_of_ble_eq_true rfl) (Nat.le_refl _) (Nat.le_refl _) (t_kV hs (tWf_subL rfl) h (fun μ8 hs h => ?_))
  refine g_iconst dX0_meet_45 (by decide) ?_
  refine g_istore (L' := [(0, 2, 1), (1, 0, v1), (2, 0, v2), (3, 0, v3), (4, 0, v4), (5, 0, 0)]) dX0_meet_46 (by decide) [1, 2, 3, 4, 5, 0] rfl ?_
  exact g_less [0, 3, 4, 5] rfl h
theorem uX0_meet_48 {d : Nat} {μ0 μ : tm_M} {K : Int → tm_M → Prop} {v3 v4 v5 : Int} (hf : dyA (c_FA μ0) ∧ tm_k μ0 (c_FA μ0) = 20) (hs : tFr (tWf [7, 8, 10] [] (c_FA μ0)) μ0 μ)
    (h : (8 ≤ v5 → (v3 ≠ v4 → hI (tWf [7, 8, 10] [] (c_FA μ0)) μ0 mX0_meet d K 80 [(0, 2, 1), (5, 0, 0)] [] μ) ∧ (v3 = v4 → K 0 μ)) ∧ (v5 < 8 → (0 ≤ v5 ∧ v5 < 8) ∧ ((∀ μ6, μ6 = tm_w μ 10 v5 0 → hI (tWf [7, 8, 10] [] (c_FA μ0)) μ0 mX0_meet d K 48 [(0, 2, 1), (3, 0, v3), (4, 0, v4), (5, 0, w32 (v5 + 1))] [] μ6)))) :
    hI (tWf [7, 8, 10] [] (c_FA μ0)) μ0 mX0_meet d K 48 [(0, 2, 1), (3, 0, v3), (4, 0, v4), (5, 0, v5)] [] μ := by
  refine g_iload (q := 3) dX0_meet_48 rfl ?_
  refine g_bipush dX0_meet_50 ⟨by decide, by decide, rfl⟩ ?_
  refine g_icmp_ge (tgt := 69) dX0_meet_52 (by decide) (fun c1 => ?_) (fun c2 => ?_)
  · have h := h.1 c1
    refine g_iload_n (q := 1) dX0_meet_69 rfl rfl ?_
    refine g_iload (q := 2) dX0_meet_70 rfl ?_
    refine g_icmp_ne (tgt := 77) dX0_meet_72 (by decide) (fun c3 => ?_) (fun c4 => ?_)
    · have h := h.1 c3
      refine g_iconst dX0_meet_77 (by decide) ?_
      refine g_istore (L' := [(0, 2, 1), (3, 0, v3), (4, 0, v4), (5, 0, 0)]) dX0_meet_78 (by decide) [1, 2, 3, 0] rfl ?_
      exact g_less [0, 3] rfl h
    · have h := h.2 c4
      refine g_iconst dX0_meet_75 (by decide) ?_
      exact g_iret dX0_meet_76 rfl (Nat.le_refl _) (Nat.le_refl _) ⟨_, rfl, hs, h⟩
  · have h := h.2 c2
    refine g_aload_n (q := 0) dX0_meet_55 rfl rfl ?_
    refine g_getC (x := 10) 2 dX0_meet_56 fX0_50 rfl (by decide) (sk_1 hs.S) (sv_1_7 hs.S) ?_
    refine g_iload (q := 3) dX0_meet_59 rfl ?_
    refine g_iconst dX0_meet_61 (by decide) ?_
    obtain ⟨c5, h⟩ := h
    refine g_iastore dX0_meet_62 (by decide) (sk_10 hs.S) c5.1 (t_lt (sn_10 hs.S) c5.2) (p_w hs sf_10 (Or.inl (tWs_in _ rfl)) fun μ6 eμ6 hs => ?_)
    have h := h μ6 eμ6
    refine g_iinc (q := 3) dX0_meet_63 (by decide) rfl [1, 2, 3, 0] rfl ?_
    refine g_goto (tgt := 48) dX0_meet_66 (by decide) ?_
    exact h
theorem uX0_meet_80 {d : Nat} {μ0 μ : tm_M} {K : Int → tm_M → Prop} {v5 : Int} (hd : 1 ≤ d) (hf : dyA (c_FA μ0) ∧ tm_k μ0 (c_FA μ0) = 20) (hs : tFr (tWf [7, 8, 10] [] (c_FA μ0)) μ0 μ)
    (h : (200 ≤ v5 → K (-1) μ) ∧ (v5 < 200 → (∀ x3, x3 = tm_v μ 7 1 → (∀ x4, x4 = tm_v μ 8 1 → (ob μ0 (tm_v μ0 1 8) 4) ∧ ((tm_v μ0 (tm_v μ0 1 8) 4 ≠ 0) ∧ ((v5.tmod (tm_v μ0 (tm_v μ0 1 8) 4) = 0 → cV (tWf [] [] (c_FA μ0)) mX4_spread (d - 1) [(2, tm_v μ0 1 8), (2, x3)] μ (fun μ9 => (ob μ0 x4 7) ∧ ((ob μ0 (tm_v μ0 (tm_v μ0 1 8) 7) 20) ∧ ((0 ≤ tm_v μ0 x4 1 ∧ tm_v μ0 x4 1 < tm_n μ0 (tm_v μ0 (tm_v μ0 1 8) 7)) ∧ ((tm_v μ9 (tm_v μ0 (tm_v μ0 1 8) 7) (tm_v μ0 x4 1) = -1 → hI (tWf [7, 8, 10] [] (c_FA μ0)) μ0 mX0_meet d K 196 [(0, 2, 1), (5, 0, v5), (6, 2, x3), (7, 2, x4), (8, 0, 0)] [] μ9) ∧ (tm_v μ9 (tm_v μ0 (tm_v μ0 1 8) 7) (tm_v μ0 x4 1) ≠ -1 → (tm_v μ0 (tm_v μ0 1 8) 5 < tm_v μ9 (tm_v μ0 (tm_v μ0 1 8) 7) (tm_v μ0 x4 1) → hI (tWf [7, 8, 10] [] (c_FA μ0)) μ0 mX0_meet d K 196 [(0, 2, 1), (5, 0, v5), (6, 2, x3), (7, 2, x4), (8, 0, 0)] [] μ9) ∧ (tm_v μ9 (tm_v μ0 (tm_v μ0 1 8) 7) (tm_v μ0 x4 1) ≤ tm_v μ0 (tm_v μ0 1 8) 5 → cR (tWs [] []) mX0_nearer (d - 1) [(2, 1), (2, x4)] μ9 (fun r20 μ19 => (∀ μ21, μ21 = tm_w μ19 8 1 r20 → hI (tWf [7, 8, 10] [] (c_FA μ0)) μ0 mX0_meet d K 328 [(0, 2, 1), (5, 0, v5), (6, 2, x3), (7, 2, x4)] [] μ21))))))))) ∧ (v5.tmod (tm_v μ0 (tm_v μ0 1 8) 4) ≠ 0 → cV (tWf [] [] (c_FA μ0)) mX4_spread (d - 1) [(2, tm_v μ0 1 8), (2, x3)] μ (fun μ22 => (ob μ0 x4 7) ∧ ((ob μ0 (tm_v μ0 (tm_v μ0 1 8) 7) 20) ∧ ((0 ≤ tm_v μ0 x4 1 ∧ tm_v μ0 x4 1 < tm_n μ0 (tm_v μ0 (tm_v μ0 1 8) 7)) ∧ ((tm_v μ22 (tm_v μ0 (tm_v μ0 1 8) 7) (tm_v μ0 x4 1) = -1 → hI (tWf [7, 8, 10] [] (c_FA μ0)) μ0 mX0_meet d K 196 [(0, 2, 1), (5, 0, v5), (6, 2, x3), (7, 2, x4), (8, 0, 1)] [] μ22) ∧ (tm_v μ22 (tm_v μ0 (tm_v μ0 1 8) 7) (tm_v μ0 x4 1) ≠ -1 → (tm_v μ0 (tm_v μ0 1 8) 5 < tm_v μ22 (tm_v μ0 (tm_v μ0 1 8) 7) (tm_v μ0 x4 1) → hI (tWf [7, 8, 10] [] (c_FA μ0)) μ0 mX0_meet d K 196 [(0, 2, 1), (5, 0, v5), (6, 2, x3), (7, 2, x4), (8, 0, 1)] [] μ22) ∧ (tm_v μ22 (tm_v μ0 (tm_v μ0 1 8) 7) (tm_v μ0 x4 1) ≤ tm_v μ0 (tm_v μ0 1 8) 5 → hI (tWf [7, 8, 10] [] (c_FA μ0)) μ0 mX0_meet d K 328 [(0, 2, 1), (5, 0, v5), (6, 2, x3), (7, 2, x4)] [] μ22))))))))))))) :
    hI (tWf [7, 8, 10] [] (c_FA μ0)) μ0 mX0_meet d K 80 [(0, 2, 1), (5, 0, v5)] [] μ := by
  refine g_iload (q := 1) dX0_meet_80 rfl ?_
  refine g_sipush dX0_meet_82 ⟨by decide, by decide, rfl⟩ ?_
  refine g_icmp_ge (tgt := 350) dX0_meet_85 (by decide) (fun c1 => ?_) (fun c2 => ?_)
  · have h := h.1 c1
    refine g_iconst dX0_meet_350 (by decide) ?_
    exact g_iret dX0_meet_351 rfl (Nat.le_refl _) (Nat.le_refl _) ⟨_, rfl, hs, h⟩
  · have h := h.2 c2
    refine g_aload_n (q := 0) dX0_meet_88 rfl rfl ?_
    refine g_getC (x := 7) 2 dX0_meet_89 fX0_40 rfl (by decide) (sk_1 hs.S) (sv_1_4 hs.S) ?_
    refine g_get 2 dX0_meet_92 fX0_311 rfl (by decide) (sk_7 hs.S) ?_
    refine g_astoreN (fun z => [(0, 2, 1), (5, 0, v5), (6, 2, z)]) dX0_meet_95 (by decide) [1, 2, 0] (fun _ => rfl) (fun x3 ex3 => ?_)
    have h := h x3 ex3
    refine g_aload_n (q := 0) dX0_meet_97 rfl rfl ?_
    refine g_getC (x := 8) 2 dX0_meet_98 fX0_44 rfl (by decide) (sk_1 hs.S) (sv_1_5 hs.S) ?_
    refine g_get 2 dX0_meet_101 fX0_311 rfl (by decide) (sk_8 hs.S) ?_
    refine g_astoreN (fun z => [(0, 2, 1), (5, 0, v5), (6, 2, x3), (7, 2, z)]) dX0_meet_104 (by decide) [1, 2, 3, 0] (fun _ => rfl) (fun x4 ex4 => ?_)
    have h := h x4 ex4
    refine g_iload (q := 1) dX0_meet_106 rfl ?_
    refine g_aload_n (q := 0) dX0_meet_108 rfl rfl ?_
    refine g_getC (x := tm_v μ0 1 8) 2 dX0_meet_109 fX0_57 rfl (by decide) (sk_1 hs.S) (hs.v (tWf_no hf (by decide) (tWs_noF rfl))) ?_
    obtain ⟨c5, h⟩ := h
    refine g_getC (x := tm_v μ0 (tm_v μ0 1 8) 4) 0 dX0_meet_112 fX0_325 rfl c5.1.1 (hs.k ▸ c5.1.2) (hs.v (tWf_ob rfl hf c5 (by decide))) ?_
    obtain ⟨c6, h⟩ := h
    refine g_irem dX0_meet_115 c6 ?_
    refine g_if_eq (tgt := 123) dX0_meet_116 (by decide) (fun c7 => ?_) (fun c8 => ?_)
    · have h := h.1 c7
      refine g_iconst dX0_meet_123 (by decide) ?_
      refine g_istore (L' := [(0, 2, 1), (5, 0, v5), (6, 2, x3), (7, 2, x4), (8, 0, 0)]) dX0_meet_124 (by decide) [1, 2, 3, 4, 0] rfl ?_
      refine g_aload_n (q := 0) dX0_meet_126 rfl rfl ?_
      refine g_getC (x := tm_v μ0 1 8) 2 dX0_meet_127 fX0_57 rfl (by decide) (sk_1 hs.S) (hs.v (tWf_no hf (by decide) (tWs_noF rfl))) ?_
      refine g_aload (q := 2) dX0_meet_130 rfl ?_
      refine g_callV1 dX0_meet_132 kX4_spread q893 q894 q895 (ci := 4) rfl (by decide) rfl (by omega) c5.1.1 (hs.k ▸ c5.1.2) (Nat.le_of_ble_eq_true rfl) (Nat.le_refl _) (Nat.le_refl _) (t_kV hs (tWf_sub rfl) h (fun μ9 hs h => ?_))
      refine g_aload_n (q := 0) dX0_meet_135 rfl rfl ?_
      refine g_getC (x := tm_v μ0 1 8) 2 dX0_meet_136 fX0_57 rfl (by decide) (sk_1 hs.S) (hs.v (tWf_no hf (by decide) (tWs_noF rfl))) ?_
      refine g_getC (x := tm_v μ0 (tm_v μ0 1 8) 7) 2 dX0_meet_139 fX0_274 rfl c5.1.1 (hs.k ▸ c5.1.2) (hs.v (tWf_ob rfl hf c5 (by decide))) ?_
      refine g_aload (q := 3) dX0_meet_142 rfl ?_
      obtain ⟨c10, h⟩ := h
      refine g_getC (x := tm_v μ0 x4 1) 0 dX0_meet_144 fX0_260 rfl c10.1.1 (hs.k ▸ c10.1.2) (hs.v (tWf_ob rfl hf c10 (by decide))) ?_
      obtain ⟨c11, h⟩ := h
      obtain ⟨c12, h⟩ := h
      refine g_iaload dX0_meet_147 c11.1.1 (hs.k ▸ c11.1.2) c12.1 (hs.n ▸ c12.2) ?_
      refine g_iconst dX0_meet_148 (by decide) ?_
      refine g_icmp_eq (tgt := 196) dX0_meet_149 (by decide) (fun c13 => ?_) (fun c14 => ?_)
      · have h := h.1 c13
        exact h
      · have h := h.2 c14
        refine g_aload_n (q := 0) dX0_meet_152 rfl rfl ?_
        refine g_getC (x := tm_v μ0 1 8) 2 dX0_meet_153 fX0_57 rfl (by decide) (sk_1 hs.S) (hs.v (tWf_no hf (by decide) (tWs_noF rfl))) ?_
        refine g_getC (x := tm_v μ0 (tm_v μ0 1 8) 7) 2 dX0_meet_156 fX0_274 rfl c5.1.1 (hs.k ▸ c5.1.2) (hs.v (tWf_ob rfl hf c5 (by decide))) ?_
        refine g_aload (q := 3) dX0_meet_159 rfl ?_
        refine g_getC (x := tm_v μ0 x4 1) 0 dX0_meet_161 fX0_260 rfl c10.1.1 (hs.k ▸ c10.1.2) (hs.v (tWf_ob rfl hf c10 (by decide))) ?_
        refine g_iaload dX0_meet_164 c11.1.1 (hs.k ▸ c11.1.2) c12.1 (hs.n ▸ c12.2) ?_
        refine g_aload_n (q := 0) dX0_meet_165 rfl rfl ?_
        refine g_getC (x := tm_v μ0 1 8) 2 dX0_meet_166 fX0_57 rfl (by decide) (sk_1 hs.S) (hs.v (tWf_no hf (by decide) (tWs_noF rfl))) ?_
        refine g_getC (x := tm_v μ0 (tm_v μ0 1 8) 5) 0 dX0_meet_169 fX0_328 rfl c5.1.1 (hs.k ▸ c5.1.2) (hs.v (tWf_ob rfl hf c5 (by decide))) ?_
        refine g_icmp_gt (tgt := 196) dX0_meet_172 (by decide) (fun c15 => ?_) (fun c16 => ?_)
        · have h := h.1 c15
          exact h
        · have h := h.2 c16
          refine g_iload (q := 4) dX0_meet_175 rfl ?_
          refine g_if_ne (tgt := 328) dX0_meet_177 (by decide) (fun c17 => ?_) (fun c18 => ?_)
          · exact absurd c17 (by decide)
          · refine g_aload_n (q := 0) dX0_meet_180 rfl rfl ?_
            refine g_getC (x := 8) 2 dX0_meet_181 fX0_44 rfl (by decide) (sk_1 hs.S) (sv_1_5 hs.S) ?_
            refine g_aload_n (q := 0) dX0_meet_184 rfl rfl ?_
            refine g_aload (q := 3) dX0_meet_185 rfl ?_
            refine g_callV1 dX0_meet_187 kX0_nearer q981 q983 qs25 (ci := 0) rfl (by decide) rfl (by omega) (by decide) (sk_1 hs.S) (Nat.le_of_ble_eq_true rfl) (Nat.le_refl _) (Nat.le_refl _) (t_kR hs (tWf_subL rfl) h (fun r20 μ19 hs h => ?_))
            refine g_put dX0_meet_190 fX0_311 rfl (by decide) (sk_8 hs.S) (fun e => absurd e (by decide)) (p_w hs sf_8 (Or.inl (tWs_in _ rfl)) fun μ21 eμ21 hs => ?_)
            have h := h μ21 eμ21
            refine g_goto (tgt := 328) dX0_meet_193 (by decide) ?_
            exact g_less [0, 1, 2, 3] rfl h
    · have h := h.2 c8
      refine g_iconst dX0_meet_119 (by decide) ?_
      refine g_goto (tgt := 124) dX0_meet_120 (by decide) ?_
      refine g_istore (L' := [(0, 2, 1), (5, 0, v5), (6, 2, x3), (7, 2, x4), (8, 0, 1)]) dX0_meet_124 (by decide) [1, 2, 3, 4, 0] rfl ?_
      refine g_aload_n (q := 0) dX0_meet_126 rfl rfl ?_
      refine g_getC (x := tm_v μ0 1 8) 2 dX0_meet_127 fX0_57 rfl (by decide) (sk_1 hs.S) (hs.v (tWf_no hf (by decide) (tWs_noF rfl))) ?_
      refine g_aload (q := 2) dX0_meet_130 rfl ?_
      refine g_callV1 dX0_meet_132 kX4_spread q893 q894 q895 (ci := 4) rfl (by decide) rfl (by omega) c5.1.1 (hs.k ▸ c5.1.2) (Nat.le_of_ble_eq_true rfl) (Nat.le_refl _) (Nat.le_refl _) (t_kV hs (tWf_sub rfl) h (fun μ22 hs h => ?_))
      refine g_aload_n (q := 0) dX0_meet_135 rfl rfl ?_
      refine g_getC (x := tm_v μ0 1 8) 2 dX0_meet_136 fX0_57 rfl (by decide) (sk_1 hs.S) (hs.v (tWf_no hf (by decide) (tWs_noF rfl))) ?_
      refine g_getC (x := tm_v μ0 (tm_v μ0 1 8) 7) 2 dX0_meet_139 fX0_274 rfl c5.1.1 (hs.k ▸ c5.1.2) (hs.v (tWf_ob rfl hf c5 (by decide))) ?_
      refine g_aload (q := 3) dX0_meet_142 rfl ?_
      obtain ⟨c23, h⟩ := h
      refine g_getC (x := tm_v μ0 x4 1) 0 dX0_meet_144 fX0_260 rfl c23.1.1 (hs.k ▸ c23.1.2) (hs.v (tWf_ob rfl hf c23 (by decide))) ?_
      obtain ⟨c24, h⟩ := h
      obtain ⟨c25, h⟩ := h
      refine g_iaload dX0_meet_147 c24.1.1 (hs.k ▸ c24.1.2) c25.1 (hs.n ▸ c25.2) ?_
      refine g_iconst dX0_meet_148 (by decide) ?_
      refine g_icmp_eq (tgt := 196) dX0_meet_149 (by decide) (fun c26 => ?_) (fun c27 => ?_)
      · have h := h.1 c26
        exact h
      · have h := h.2 c27
        refine g_aload_n (q := 0) dX0_meet_152 rfl rfl ?_
        refine g_getC (x := tm_v μ0 1 8) 2 dX0_meet_153 fX0_57 rfl (by decide) (sk_1 hs.S) (hs.v (tWf_no hf (by decide) (tWs_noF rfl))) ?_
        refine g_getC (x := tm_v μ0 (tm_v μ0 1 8) 7) 2 dX0_meet_156 fX0_274 rfl c5.1.1 (hs.k ▸ c5.1.2) (hs.v (tWf_ob rfl hf c5 (by decide))) ?_
        refine g_aload (q := 3) dX0_meet_159 rfl ?_
        refine g_getC (x := tm_v μ0 x4 1) 0 dX0_meet_161 fX0_260 rfl c23.1.1 (hs.k ▸ c23.1.2) (hs.v (tWf_ob rfl hf c23 (by decide))) ?_
        refine g_iaload dX0_meet_164 c24.1.1 (hs.k ▸ c24.1.2) c25.1 (hs.n ▸ c25.2) ?_
        refine g_aload_n (q := 0) dX0_meet_165 rfl rfl ?_
        refine g_getC (x := tm_v μ0 1 8) 2 dX0_meet_166 fX0_57 rfl (by decide) (sk_1 hs.S) (hs.v (tWf_no hf (by decide) (tWs_noF rfl))) ?_
        refine g_getC (x := tm_v μ0 (tm_v μ0 1 8) 5) 0 dX0_meet_169 fX0_328 rfl c5.1.1 (hs.k ▸ c5.1.2) (hs.v (tWf_ob rfl hf c5 (by decide))) ?_
        refine g_icmp_gt (tgt := 196) dX0_meet_172 (by decide) (fun c28 => ?_) (fun c29 => ?_)
        · have h := h.1 c28
          exact h
        · have h := h.2 c29
          refine g_iload (q := 4) dX0_meet_175 rfl ?_
          refine g_if_ne (tgt := 328) dX0_meet_177 (by decide) (fun c30 => ?_) (fun c31 => ?_)
          · exact g_less [0, 1, 2, 3] rfl h
          · exact absurd c31 (by decide)
theorem uX0_meet_196 {d : Nat} {μ0 μ : tm_M} {K : Int → tm_M → Prop} {ν : tm_M} {v5 v6 v7 v8 : Int} (hd : 2 ≤ d) (hf : dyA (c_FA μ0) ∧ tm_k μ0 (c_FA μ0) = 20) (hs : tFr (tWf [7, 8, 10] [] (c_FA μ0)) μ0 μ)
    (h : vStep (d - 1) (tm_v μ 7 0) 7 μ (fun r2 μ1 => (ob μ0 v6 7) ∧ ((JU μ0 ν ∧ isP μ0 ν v6) ∧ ((c_P μ0 (y_go ν (tm_v μ0 v6 1) r2) ≠ v6 → vStep (d - 1) (tm_v μ1 7 0) 7 μ1 (fun r8 μ7 => (tm_v μ0 1 13 = 0 → cR (tWs [7] []) mX3_next (d - 1) [(2, 7)] μ7 (fun r12 μ11 => (∀ μ13, μ13 = tm_w μ11 7 1 r12 → (v8 ≠ 0 → hI (tWf [7, 8, 10] [] (c_FA μ0)) μ0 mX0_meet d K 311 [(0, 2, 1), (5, 0, v5), (6, 2, v6), (7, 2, v7), (9, 0, r8)] [] μ13) ∧ (v8 = 0 → cR (tWs [8] []) mX3_next (d - 1) [(2, 8)] μ13 (fun r19 μ18 => (∀ μ20, μ20 = tm_w μ18 8 1 r19 → hI (tWf [7, 8, 10] [] (c_FA μ0)) μ0 mX0_meet d K 311 [(0, 2, 1), (5, 0, v5), (6, 2, v6), (7, 2, v7), (9, 0, r8)] [] μ20)))))) ∧ (tm_v μ0 1 13 ≠ 0 → (ob μ0 v7 7) ∧ ((0 ≤ tm_v μ0 v7 1 ∧ tm_v μ0 v7 1 < 8) ∧ ((∀ x23, x23 = tm_v μ7 10 (tm_v μ0 v7 1) → cR (tWs [7] []) mX3_next (d - 1) [(2, 7)] μ7 (fun r25 μ24 => (∀ μ26, μ26 = tm_w μ24 7 1 r25 → (v8 ≠ 0 → hI (tWf [7, 8, 10] [] (c_FA μ0)) μ0 mX0_meet d K 311 [(0, 2, 1), (5, 0, v5), (6, 2, v6), (7, 2, v7), (9, 0, r8)] [] μ26) ∧ (v8 = 0 → (x23 ≤ 0 → cR (tWs [8] []) mX3_next (d - 1) [(2, 8)] μ26 (fun r32 μ31 => (∀ μ33, μ33 = tm_w μ31 8 1 r32 → hI (tWf [7, 8, 10] [] (c_FA μ0)) μ0 mX0_meet d K 311 [(0, 2, 1), (5, 0, v5), (6, 2, v6), (7, 2, v7), (9, 0, r8)] [] μ33))) ∧ (0 < x23 → (JU μ0 ν ∧ isP μ0 ν v7) ∧ ((∀ μ35, μ35 = tm_w μ26 8 1 (c_P μ0 (y_go ν (tm_v μ0 v7 1) x23)) → hI (tWf [7, 8, 10] [] (c_FA μ0)) μ0 mX0_meet d K 311 [(0, 2, 1), (5, 0, v5), (6, 2, v6), (7, 2, v7), (9, 0, r8)] [] μ35)))))))))))) ∧ (c_P μ0 (y_go ν (tm_v μ0 v6 1) r2) = v6 → (tm_v μ0 1 13 = 0 → cR (tWs [7] []) mX3_next (d - 1) [(2, 7)] μ1 (fun r39 μ38 => (∀ μ40, μ40 = tm_w μ38 7 1 r39 → (v8 ≠ 0 → hI (tWf [7, 8, 10] [] (c_FA μ0)) μ0 mX0_meet d K 311 [(0, 2, 1), (5, 0, v5), (6, 2, v6), (7, 2, v7), (9, 0, 0)] [] μ40) ∧ (v8 = 0 → cR (tWs [8] []) mX3_next (d - 1) [(2, 8)] μ40 (fun r46 μ45 => (∀ μ47, μ47 = tm_w μ45 8 1 r46 → hI (tWf [7, 8, 10] [] (c_FA μ0)) μ0 mX0_meet d K 311 [(0, 2, 1), (5, 0, v5), (6, 2, v6), (7, 2, v7), (9, 0, 0)] [] μ47)))))) ∧ (tm_v μ0 1 13 ≠ 0 → (ob μ0 v7 7) ∧ ((0 ≤ tm_v μ0 v7 1 ∧ tm_v μ0 v7 1 < 8) ∧ ((∀ x50, x50 = tm_v μ1 10 (tm_v μ0 v7 1) → cR (tWs [7] []) mX3_next (d - 1) [(2, 7)] μ1 (fun r52 μ51 => (∀ μ53, μ53 = tm_w μ51 7 1 r52 → (v8 ≠ 0 → hI (tWf [7, 8, 10] [] (c_FA μ0)) μ0 mX0_meet d K 311 [(0, 2, 1), (5, 0, v5), (6, 2, v6), (7, 2, v7), (9, 0, 0)] [] μ53) ∧ (v8 = 0 → (x50 ≤ 0 → cR (tWs [8] []) mX3_next (d - 1) [(2, 8)] μ53 (fun r59 μ58 => (∀ μ60, μ60 = tm_w μ58 8 1 r59 → hI (tWf [7, 8, 10] [] (c_FA μ0)) μ0 mX0_meet d K 311 [(0, 2, 1), (5, 0, v5), (6, 2, v6), (7, 2, v7), (9, 0, 0)] [] μ60))) ∧ (0 < x50 → (JU μ0 ν ∧ isP μ0 ν v7) ∧ ((∀ μ62, μ62 = tm_w μ53 8 1 (c_P μ0 (y_go ν (tm_v μ0 v7 1) x50)) → hI (tWf [7, 8, 10] [] (c_FA μ0)) μ0 mX0_meet d K 311 [(0, 2, 1), (5, 0, v5), (6, 2, v6), (7, 2, v7), (9, 0, 0)] [] μ62))))))))))))))) :
    hI (tWf [7, 8, 10] [] (c_FA μ0)) μ0 mX0_meet d K 196 [(0, 2, 1), (5, 0, v5), (6, 2, v6), (7, 2, v7), (8, 0, v8)] [] μ := by
  refine g_aload (q := 2) dX0_meet_196 rfl ?_
  refine g_aload_n (q := 0) dX0_meet_198 rfl rfl ?_
  refine g_getC (x := 7) 2 dX0_meet_199 fX0_40 rfl (by decide) (sk_1 hs.S) (sv_1_4 hs.S) ?_
  refine g_get 2 dX0_meet_202 fX0_334 rfl (by decide) (sk_7 hs.S) ?_
  refine g_aload_n (q := 0) dX0_meet_205 rfl rfl ?_
  refine g_getC (x := 7) 2 dX0_meet_206 fX0_40 rfl (by decide) (sk_1 hs.S) (sv_1_4 hs.S) ?_
  refine g_vStep dX0_meet_209 tw_step0 (by omega) (Nat.le_of_ble_eq_true rfl) hs h (fun r2 μ1 hs h => ?_)
  obtain ⟨c3, h⟩ := h
  obtain ⟨c4, h⟩ := h
  refine g_callV1 dX0_meet_212 kX7_by q985 q898 q899 (ci := 7) rfl (by decide) rfl (by omega) c3.1.1 (hs.k ▸ c3.1.2) (Nat.le_of_ble_eq_true rfl) (Nat.le_refl _) (Nat.le_refl _) (t_pR hs (pX7_by (by omega) hs (tWf_TC hf.1 ⟨rfl, rfl⟩) c4) ?_)
  refine g_aload (q := 2) dX0_meet_215 rfl ?_
  refine g_acmp_ne (tgt := 224) dX0_meet_217 (by decide) (fun c5 => ?_) (fun c6 => ?_)
  · have h := h.1 c5
    refine g_aload_n (q := 0) dX0_meet_224 rfl rfl ?_
    refine g_getC (x := 7) 2 dX0_meet_225 fX0_40 rfl (by decide) (sk_1 hs.S) (sv_1_4 hs.S) ?_
    refine g_get 2 dX0_meet_228 fX0_334 rfl (by decide) (sk_7 hs.S) ?_
    refine g_aload_n (q := 0) dX0_meet_231 rfl rfl ?_
    refine g_getC (x := 7) 2 dX0_meet_232 fX0_40 rfl (by decide) (sk_1 hs.S) (sv_1_4 hs.S) ?_
    refine g_vStep dX0_meet_235 tw_step0 (by omega) (Nat.le_of_ble_eq_true rfl) hs h (fun r8 μ7 hs h => ?_)
    refine g_istore (L' := [(0, 2, 1), (5, 0, v5), (6, 2, v6), (7, 2, v7), (8, 0, v8), (9, 0, r8)]) dX0_meet_238 (by decide) [1, 2, 3, 4, 5, 0] rfl ?_
    refine g_aload_n (q := 0) dX0_meet_240 rfl rfl ?_
    refine g_getC (x := tm_v μ0 1 13) 0 dX0_meet_241 fX0_230 rfl (by decide) (sk_1 hs.S) (hs.v (tWf_no hf (by decide) (tWs_noF rfl))) ?_
    refine g_if_eq (tgt := 260) dX0_meet_244 (by decide) (fun c9 => ?_) (fun c10 => ?_)
    · have h := h.1 c9
      refine g_iconst dX0_meet_260 (by decide) ?_
      refine g_istore (L' := [(0, 2, 1), (5, 0, v5), (6, 2, v6), (7, 2, v7), (8, 0, v8), (9, 0, r8), (10, 0, 0)]) dX0_meet_261 (by decide) [1, 2, 3, 4, 5, 6, 0] rfl ?_
      refine g_aload_n (q := 0) dX0_meet_263 rfl rfl ?_
      refine g_getC (x := 7) 2 dX0_meet_264 fX0_40 rfl (by decide) (sk_1 hs.S) (sv_1_4 hs.S) ?_
      refine g_aload_n (q := 0) dX0_meet_267 rfl rfl ?_
      refine g_getC (x := 7) 2 dX0_meet_268 fX0_40 rfl (by decide) (sk_1 hs.S) (sv_1_4 hs.S) ?_
      refine g_callV0 dX0_meet_271 kX3_next q999 q1000 q1001 (ci := 3) rfl (by decide) rfl (by omega) (by decide) (sk_7 hs.S) (Nat.le_of_ble_eq_true rfl) (Nat.le_refl _) (Nat.le_refl _) (t_kR hs (tWf_subL rfl) h (fun r12 μ11 hs h => ?_))
      refine g_put dX0_meet_274 fX0_311 rfl (by decide) (sk_7 hs.S) (fun e => absurd e (by decide)) (p_w hs sf_7 (Or.inl (tWs_in _ rfl)) fun μ13 eμ13 hs => ?_)
      have h := h μ13 eμ13
      refine g_iload (q := 4) dX0_meet_277 rfl ?_
      refine g_if_ne (tgt := 311) dX0_meet_279 (by decide) (fun c14 => ?_) (fun c15 => ?_)
      · have h := h.1 c14
        exact g_less [0, 1, 2, 3, 5] rfl h
      · have h := h.2 c15
        refine g_aload_n (q := 0) dX0_meet_282 rfl rfl ?_
        refine g_getC (x := 8) 2 dX0_meet_283 fX0_44 rfl (by decide) (sk_1 hs.S) (sv_1_5 hs.S) ?_
        refine g_iload (q := 6) dX0_meet_286 rfl ?_
        refine g_if_le (tgt := 301) dX0_meet_288 (by decide) (fun c16 => ?_) (fun c17 => ?_)
        · refine g_aload_n (q := 0) dX0_meet_301 rfl rfl ?_
          refine g_getC (x := 8) 2 dX0_meet_302 fX0_44 rfl (by decide) (sk_1 hs.S) (sv_1_5 hs.S) ?_
          refine g_callV0 dX0_meet_305 kX3_next q999 q1000 q1001 (ci := 3) rfl (by decide) rfl (by omega) (by decide) (sk_8 hs.S) (Nat.le_of_ble_eq_true rfl) (Nat.le_refl _) (Nat.le_refl _) (t_kR hs (tWf_subL rfl) h (fun r19 μ18 hs h => ?_))
          refine g_put dX0_meet_308 fX0_311 rfl (by decide) (sk_8 hs.S) (fun e => absurd e (by decide)) (p_w hs sf_8 (Or.inl (tWs_in _ rfl)) fun μ20 eμ20 hs => ?_)
          have h := h μ20 eμ20
          exact g_less [0, 1, 2, 3, 5] rfl h
        · exact absurd c17 (by decide)
    · have h := h.2 c10
      refine g_aload_n (q := 0) dX0_meet_247 rfl rfl ?_
      refine g_getC (x := 10) 2 dX0_meet_248 fX0_50 rfl (by decide) (sk_1 hs.S) (sv_1_7 hs.S) ?_
      refine g_aload (q := 3) dX0_meet_251 rfl ?_
      obtain ⟨c21, h⟩ := h
      refine g_getC (x := tm_v μ0 v7 1) 0 dX0_meet_253 fX0_260 rfl c21.1.1 (hs.k ▸ c21.1.2) (hs.v (tWf_ob rfl hf c21 (by decide))) ?_
      obtain ⟨c22, h⟩ := h
      refine g_iaload dX0_meet_256 (by decide) (sk_10 hs.S) c22.1 (t_lt (sn_10 hs.S) c22.2) ?_
      refine g_goto (tgt := 261) dX0_meet_257 (by decide) ?_
      refine g_istoreN (fun z => [(0, 2, 1), (5, 0, v5), (6, 2, v6), (7, 2, v7), (8, 0, v8), (9, 0, r8), (10, 0, z)]) dX0_meet_261 (by decide) [1, 2, 3, 4, 5, 6, 0] (fun _ => rfl) (fun x23 ex23 => ?_)
      have h := h x23 ex23
      refine g_aload_n (q := 0) dX0_meet_263 rfl rfl ?_
      refine g_getC (x := 7) 2 dX0_meet_264 fX0_40 rfl (by decide) (sk_1 hs.S) (sv_1_4 hs.S) ?_
      refine g_aload_n (q := 0) dX0_meet_267 rfl rfl ?_
      refine g_getC (x := 7) 2 dX0_meet_268 fX0_40 rfl (by decide) (sk_1 hs.S) (sv_1_4 hs.S) ?_
      refine g_callV0 dX0_meet_271 kX3_next q999 q1000 q1001 (ci := 3) rfl (by decide) rfl (by omega) (by decide) (sk_7 hs.S) (Nat.le_of_ble_eq_true rfl) (Nat.le_refl _) (Nat.le_refl _) (t_kR hs (tWf_subL rfl) h (fun r25 μ24 hs h => ?_))
      refine g_put dX0_meet_274 fX0_311 rfl (by decide) (sk_7 hs.S) (fun e => absurd e (by decide)) (p_w hs sf_7 (Or.inl (tWs_in _ rfl)) fun μ26 eμ26 hs => ?_)
      have h := h μ26 eμ26
      refine g_iload (q := 4) dX0_meet_277 rfl ?_
      refine g_if_ne (tgt := 311) dX0_meet_279 (by decide) (fun c27 => ?_) (fun c28 => ?_)
      · have h := h.1 c27
        exact g_less [0, 1, 2, 3, 5] rfl h
      · have h := h.2 c28
        refine g_aload_n (q := 0) dX0_meet_282 rfl rfl ?_
        refine g_getC (x := 8) 2 dX0_meet_283 fX0_44 rfl (by decide) (sk_1 hs.S) (sv_1_5 hs.S) ?_
        refine g_iload (q := 6) dX0_meet_286 rfl ?_
        refine g_if_le (tgt := 301) dX0_meet_288 (by decide) (fun c29 => ?_) (fun c30 => ?_)
        · have h := h.1 c29
          refine g_aload_n (q := 0) dX0_meet_301 rfl rfl ?_
          refine g_getC (x := 8) 2 dX0_meet_302 fX0_44 rfl (by decide) (sk_1 hs.S) (sv_1_5 hs.S) ?_
          refine g_callV0 dX0_meet_305 kX3_next q999 q1000 q1001 (ci := 3) rfl (by decide) rfl (by omega) (by decide) (sk_8 hs.S) (Nat.le_of_ble_eq_true rfl) (Nat.le_refl _) (Nat.le_refl _) (t_kR hs (tWf_subL rfl) h (fun r32 μ31 hs h => ?_))
          refine g_put dX0_meet_308 fX0_311 rfl (by decide) (sk_8 hs.S) (fun e => absurd e (by decide)) (p_w hs sf_8 (Or.inl (tWs_in _ rfl)) fun μ33 eμ33 hs => ?_)
          have h := h μ33 eμ33
          exact g_less [0, 1, 2, 3, 5] rfl h
        · have h := h.2 c30
          refine g_aload (q := 3) dX0_meet_291 rfl ?_
          refine g_iload (q := 6) dX0_meet_293 rfl ?_
          obtain ⟨c34, h⟩ := h
          refine g_callV1 dX0_meet_295 kX7_by q985 q898 q899 (ci := 7) rfl (by decide) rfl (by omega) c21.1.1 (hs.k ▸ c21.1.2) (Nat.le_of_ble_eq_true rfl) (Nat.le_refl _) (Nat.le_refl _) (t_pR hs (pX7_by (by omega) hs (tWf_TC hf.1 ⟨rfl, rfl⟩) c34) ?_)
          refine g_goto (tgt := 308) dX0_meet_298 (by decide) ?_
          refine g_put dX0_meet_308 fX0_311 rfl (by decide) (sk_8 hs.S) (fun e => absurd e (by decide)) (p_w hs sf_8 (Or.inl (tWs_in _ rfl)) fun μ35 eμ35 hs => ?_)
          have h := h μ35 eμ35
          exact g_less [0, 1, 2, 3, 5] rfl h
  · have h := h.2 c6
    refine g_iconst dX0_meet_220 (by decide) ?_
    refine g_goto (tgt := 238) dX0_meet_221 (by decide) ?_
    refine g_istore (L' := [(0, 2, 1), (5, 0, v5), (6, 2, v6), (7, 2, v7), (8, 0, v8), (9, 0, 0)]) dX0_meet_238 (by decide) [1, 2, 3, 4, 5, 0] rfl ?_
    refine g_aload_n (q := 0) dX0_meet_240 rfl rfl ?_
    refine g_getC (x := tm_v μ0 1 13) 0 dX0_meet_241 fX0_230 rfl (by decide) (sk_1 hs.S) (hs.v (tWf_no hf (by decide) (tWs_noF rfl))) ?_
    refine g_if_eq (tgt := 260) dX0_meet_244 (by decide) (fun c36 => ?_) (fun c37 => ?_)
    · have h := h.1 c36
      refine g_iconst dX0_meet_260 (by decide) ?_
      refine g_istore (L' := [(0, 2, 1), (5, 0, v5), (6, 2, v6), (7, 2, v7), (8, 0, v8), (9, 0, 0), (10, 0, 0)]) dX0_meet_261 (by decide) [1, 2, 3, 4, 5, 6, 0] rfl ?_
      refine g_aload_n (q := 0) dX0_meet_263 rfl rfl ?_
      refine g_getC (x := 7) 2 dX0_meet_264 fX0_40 rfl (by decide) (sk_1 hs.S) (sv_1_4 hs.S) ?_
      refine g_aload_n (q := 0) dX0_meet_267 rfl rfl ?_
      refine g_getC (x := 7) 2 dX0_meet_268 fX0_40 rfl (by decide) (sk_1 hs.S) (sv_1_4 hs.S) ?_
      refine g_callV0 dX0_meet_271 kX3_next q999 q1000 q1001 (ci := 3) rfl (by decide) rfl (by omega) (by decide) (sk_7 hs.S) (Nat.le_of_ble_eq_true rfl) (Nat.le_refl _) (Nat.le_refl _) (t_kR hs (tWf_subL rfl) h (fun r39 μ38 hs h => ?_))
      refine g_put dX0_meet_274 fX0_311 rfl (by decide) (sk_7 hs.S) (fun e => absurd e (by decide)) (p_w hs sf_7 (Or.inl (tWs_in _ rfl)) fun μ40 eμ40 hs => ?_)
      have h := h μ40 eμ40
      refine g_iload (q := 4) dX0_meet_277 rfl ?_
      refine g_if_ne (tgt := 311) dX0_meet_279 (by decide) (fun c41 => ?_) (fun c42 => ?_)
      · have h := h.1 c41
        exact g_less [0, 1, 2, 3, 5] rfl h
      · have h := h.2 c42
        refine g_aload_n (q := 0) dX0_meet_282 rfl rfl ?_
        refine g_getC (x := 8) 2 dX0_meet_283 fX0_44 rfl (by decide) (sk_1 hs.S) (sv_1_5 hs.S) ?_
        refine g_iload (q := 6) dX0_meet_286 rfl ?_
        refine g_if_le (tgt := 301) dX0_meet_288 (by decide) (fun c43 => ?_) (fun c44 => ?_)
        · refine g_aload_n (q := 0) dX0_meet_301 rfl rfl ?_
          refine g_getC (x := 8) 2 dX0_meet_302 fX0_44 rfl (by decide) (sk_1 hs.S) (sv_1_5 hs.S) ?_
          refine g_callV0 dX0_meet_305 kX3_next q999 q1000 q1001 (ci := 3) rfl (by decide) rfl (by omega) (by decide) (sk_8 hs.S) (Nat.le_of_ble_eq_true rfl) (Nat.le_refl _) (Nat.le_refl _) (t_kR hs (tWf_subL rfl) h (fun r46 μ45 hs h => ?_))
          refine g_put dX0_meet_308 fX0_311 rfl (by decide) (sk_8 hs.S) (fun e => absurd e (by decide)) (p_w hs sf_8 (Or.inl (tWs_in _ rfl)) fun μ47 eμ47 hs => ?_)
          have h := h μ47 eμ47
          exact g_less [0, 1, 2, 3, 5] rfl h
        · exact absurd c44 (by decide)
    · have h := h.2 c37
      refine g_aload_n (q := 0) dX0_meet_247 rfl rfl ?_
      refine g_getC (x := 10) 2 dX0_meet_248 fX0_50 rfl (by decide) (sk_1 hs.S) (sv_1_7 hs.S) ?_
      refine g_aload (q := 3) dX0_meet_251 rfl ?_
      obtain ⟨c48, h⟩ := h
      refine g_getC (x := tm_v μ0 v7 1) 0 dX0_meet_253 fX0_260 rfl c48.1.1 (hs.k ▸ c48.1.2) (hs.v (tWf_ob rfl hf c48 (by decide))) ?_
      obtain ⟨c49, h⟩ := h
      refine g_iaload dX0_meet_256 (by decide) (sk_10 hs.S) c49.1 (t_lt (sn_10 hs.S) c49.2) ?_
      refine g_goto (tgt := 261) dX0_meet_257 (by decide) ?_
      refine g_istoreN (fun z => [(0, 2, 1), (5, 0, v5), (6, 2, v6), (7, 2, v7), (8, 0, v8), (9, 0, 0), (10, 0, z)]) dX0_meet_261 (by decide) [1, 2, 3, 4, 5, 6, 0] (fun _ => rfl) (fun x50 ex50 => ?_)
      have h := h x50 ex50
      refine g_aload_n (q := 0) dX0_meet_263 rfl rfl ?_
      refine g_getC (x := 7) 2 dX0_meet_264 fX0_40 rfl (by decide) (sk_1 hs.S) (sv_1_4 hs.S) ?_
      refine g_aload_n (q := 0) dX0_meet_267 rfl rfl ?_
      refine g_getC (x := 7) 2 dX0_meet_268 fX0_40 rfl (by decide) (sk_1 hs.S) (sv_1_4 hs.S) ?_
      refine g_callV0 dX0_meet_271 kX3_next q999 q1000 q1001 (ci := 3) rfl (by decide) rfl (by omega) (by decide) (sk_7 hs.S) (Nat.le_of_ble_eq_true rfl) (Nat.le_refl _) (Nat.le_refl _) (t_kR hs (tWf_subL rfl) h (fun r52 μ51 hs h => ?_))
      refine g_put dX0_meet_274 fX0_311 rfl (by decide) (sk_7 hs.S) (fun e => absurd e (by decide)) (p_w hs sf_7 (Or.inl (tWs_in _ rfl)) fun μ53 eμ53 hs => ?_)
      have h := h μ53 eμ53
      refine g_iload (q := 4) dX0_meet_277 rfl ?_
      refine g_if_ne (tgt := 311) dX0_meet_279 (by decide) (fun c54 => ?_) (fun c55 => ?_)
      · have h := h.1 c54
        exact g_less [0, 1, 2, 3, 5] rfl h
      · have h := h.2 c55
        refine g_aload_n (q := 0) dX0_meet_282 rfl rfl ?_
        refine g_getC (x := 8) 2 dX0_meet_283 fX0_44 rfl (by decide) (sk_1 hs.S) (sv_1_5 hs.S) ?_
        refine g_iload (q := 6) dX0_meet_286 rfl ?_
        refine g_if_le (tgt := 301) dX0_meet_288 (by decide) (fun c56 => ?_) (fun c57 => ?_)
        · have h := h.1 c56
          refine g_aload_n (q := 0) dX0_meet_301 rfl rfl ?_
          refine g_getC (x := 8) 2 dX0_meet_302 fX0_44 rfl (by decide) (sk_1 hs.S) (sv_1_5 hs.S) ?_
          refine g_callV0 dX0_meet_305 kX3_next q999 q1000 q1001 (ci := 3) rfl (by decide) rfl (by omega) (by decide) (sk_8 hs.S) (Nat.le_of_ble_eq_true rfl) (Nat.le_refl _) (Nat.le_refl _) (t_kR hs (tWf_subL rfl) h (fun r59 μ58 hs h => ?_))
          refine g_put dX0_meet_308 fX0_311 rfl (by decide) (sk_8 hs.S) (fun e => absurd e (by decide)) (p_w hs sf_8 (Or.inl (tWs_in _ rfl)) fun μ60 eμ60 hs => ?_)
          have h := h μ60 eμ60
          exact g_less [0, 1, 2, 3, 5] rfl h
        · have h := h.2 c57
          refine g_aload (q := 3) dX0_meet_291 rfl ?_
          refine g_iload (q := 6) dX0_meet_293 rfl ?_
          obtain ⟨c61, h⟩ := h
          refine g_callV1 dX0_meet_295 kX7_by q985 q898 q899 (ci := 7) rfl (by decide) rfl (by omega) c48.1.1 (hs.k ▸ c48.1.2) (Nat.le_of_ble_eq_true rfl) (Nat.le_refl _) (Nat.le_refl _) (t_pR hs (pX7_by (by omega) hs (tWf_TC hf.1 ⟨rfl, rfl⟩) c61) ?_)
          refine g_goto (tgt := 308) dX0_meet_298 (by decide) ?_
          refine g_put dX0_meet_308 fX0_311 rfl (by decide) (sk_8 hs.S) (fun e => absurd e (by decide)) (p_w hs sf_8 (Or.inl (tWs_in _ rfl)) fun μ62 eμ62 hs => ?_)
          have h := h μ62 eμ62
          exact g_less [0, 1, 2, 3, 5] rfl h
theorem uX0_meet_311 {d : Nat} {μ0 μ : tm_M} {K : Int → tm_M → Prop} {v5 v6 v7 v9 : Int} (hf : dyA (c_FA μ0) ∧ tm_k μ0 (c_FA μ0) = 20) (hs : tFr (tWf [7, 8, 10] [] (c_FA μ0)) μ0 μ)
    (h : (v9 ≤ 0 → hI (tWf [7, 8, 10] [] (c_FA μ0)) μ0 mX0_meet d K 328 [(0, 2, 1), (5, 0, v5), (6, 2, v6), (7, 2, v7)] [] μ) ∧ (0 < v9 → (ob μ0 v6 7) ∧ ((0 ≤ tm_v μ0 v6 1 ∧ tm_v μ0 v6 1 < 8) ∧ ((∀ μ5, μ5 = tm_w μ 10 (tm_v μ0 v6 1) v9 → hI (tWf [7, 8, 10] [] (c_FA μ0)) μ0 mX0_meet d K 328 [(0, 2, 1), (5, 0, v5), (6, 2, v6), (7, 2, v7)] [] μ5))))) :
    hI (tWf [7, 8, 10] [] (c_FA μ0)) μ0 mX0_meet d K 311 [(0, 2, 1), (5, 0, v5), (6, 2, v6), (7, 2, v7), (9, 0, v9)] [] μ := by
  refine g_iload (q := 4) dX0_meet_311 rfl ?_
  refine g_if_le (tgt := 328) dX0_meet_313 (by decide) (fun c1 => ?_) (fun c2 => ?_)
  · have h := h.1 c1
    exact g_less [0, 1, 2, 3] rfl h
  · have h := h.2 c2
    refine g_aload_n (q := 0) dX0_meet_316 rfl rfl ?_
    refine g_getC (x := 10) 2 dX0_meet_317 fX0_50 rfl (by decide) (sk_1 hs.S) (sv_1_7 hs.S) ?_
    refine g_aload (q := 2) dX0_meet_320 rfl ?_
    obtain ⟨c3, h⟩ := h
    refine g_getC (x := tm_v μ0 v6 1) 0 dX0_meet_322 fX0_260 rfl c3.1.1 (hs.k ▸ c3.1.2) (hs.v (tWf_ob rfl hf c3 (by decide))) ?_
    refine g_iload (q := 4) dX0_meet_325 rfl ?_
    obtain ⟨c4, h⟩ := h
    refine g_iastore dX0_meet_327 (by decide) (sk_10 hs.S) c4.1 (t_lt (sn_10 hs.S) c4.2) (p_w hs sf_10 (Or.inl (tWs_in _ rfl)) fun μ5 eμ5 hs => ?_)
    have h := h μ5 eμ5
    exact g_less [0, 1, 2, 3] rfl h
theorem uX0_meet_328 {d : Nat} {μ0 μ : tm_M} {K : Int → tm_M → Prop} {ν : tm_M} {v5 v6 v7 : Int} (hd : 1 ≤ d) (hf : dyA (c_FA μ0) ∧ tm_k μ0 (c_FA μ0) = 20) (hs : tFr (tWf [7, 8, 10] [] (c_FA μ0)) μ0 μ)
    (h : (JU μ0 ν) ∧ ((¬ (tm_v μ 7 1 = tm_v μ 8 1 ∨ (tm_v ν 65 28 ≠ 0 ∧ tm_v μ 7 1 = v7 ∧ tm_v μ 8 1 = v6)) → hI (tWf [7, 8, 10] [] (c_FA μ0)) μ0 mX0_meet d K 80 [(0, 2, 1), (5, 0, w32 (v5 + 1))] [] μ) ∧ (tm_v μ 7 1 = tm_v μ 8 1 ∨ (tm_v ν 65 28 ≠ 0 ∧ tm_v μ 7 1 = v7 ∧ tm_v μ 8 1 = v6) → K (w32 (v5 + 1)) μ))) :
    hI (tWf [7, 8, 10] [] (c_FA μ0)) μ0 mX0_meet d K 328 [(0, 2, 1), (5, 0, v5), (6, 2, v6), (7, 2, v7)] [] μ := by
  refine g_aload_n (q := 0) dX0_meet_328 rfl rfl ?_
  refine g_aload (q := 2) dX0_meet_329 rfl ?_
  refine g_aload (q := 3) dX0_meet_331 rfl ?_
  obtain ⟨c1, h⟩ := h
  refine g_callV2 dX0_meet_333 kX0_meets q1019 q1021 qs27 (ci := 0) rfl (by decide) rfl (by omega) (by decide) (sk_1 hs.S) (Nat.le_of_ble_eq_true rfl) (Nat.le_refl _) (Nat.le_refl _) (t_pI hs (pX0_meets hs (tWf_TC hf.1 ⟨rfl, rfl⟩) c1) ?_)
  refine g_if_eq (tgt := 344) dX0_meet_336 (by decide) (fun c2 => ?_) (fun c3 => ?_)
  · have h := h.1 (b2i_0.mp c2)
    refine g_iinc (q := 1) dX0_meet_344 (by decide) rfl [1, 0, 2, 3] rfl ?_
    refine g_goto (tgt := 80) dX0_meet_347 (by decide) ?_
    exact g_less [0, 1] rfl h
  · have h := h.2 (b2i_1.mp c3)
    refine g_iload (q := 1) dX0_meet_339 rfl ?_
    refine g_iconst dX0_meet_341 (by decide) ?_
    refine g_iadd dX0_meet_342 ?_
    exact g_iret dX0_meet_343 rfl (Nat.le_refl _) (Nat.le_refl _) ⟨_, rfl, hs, h⟩
theorem uX0_distance_0 {d : Nat} {μ0 μ : tm_M} {K : Int → tm_M → Prop} {ν : tm_M} {v1 v2 : Int} (hd : 1 ≤ d) (hf : dyA (c_FA μ0) ∧ tm_k μ0 (c_FA μ0) = 20) (hs : tFr (tWf [] [(1, 10)] (c_FA μ0)) μ0 μ)
    (h : (JU μ0 ν) ∧ ((¬ (0 ≤ v1 ∧ v1 < tm_v ν 65 20) → (∀ μ4, μ4 = tm_w μ 1 10 2 → K (-1) μ4)) ∧ (0 ≤ v1 ∧ v1 < tm_v ν 65 20 → (0 ≤ v2 ∧ v2 < tm_v ν 65 20 → (ob μ0 (tm_v μ0 1 8) 4) ∧ ((ob μ0 (tm_v μ0 (tm_v μ0 1 8) 0) 26) ∧ ((0 ≤ v1 ∧ v1 < tm_n μ0 (tm_v μ0 (tm_v μ0 1 8) 0)) ∧ (cV (tWf [] [] (c_FA μ0)) mX4_spread (d - 1) [(2, tm_v μ0 1 8), (2, tm_v μ0 (tm_v μ0 (tm_v μ0 1 8) 0) v1)] μ (fun μ12 => (ob μ0 (tm_v μ0 (tm_v μ0 1 8) 7) 20) ∧ ((0 ≤ v2 ∧ v2 < tm_n μ0 (tm_v μ0 (tm_v μ0 1 8) 7)) ∧ ((tm_v μ12 (tm_v μ0 (tm_v μ0 1 8) 7) v2 ≠ -1 → (∀ μ17, μ17 = tm_w μ12 1 10 0 → K (tm_v μ12 (tm_v μ0 (tm_v μ0 1 8) 7) v2) μ17)) ∧ (tm_v μ12 (tm_v μ0 (tm_v μ0 1 8) 7) v2 = -1 → (∀ μ20, μ20 = tm_w μ12 1 10 8 → K (-1) μ20))))))))) ∧ (¬ (0 ≤ v2 ∧ v2 < tm_v ν 65 20) → (∀ μ23, μ23 = tm_w μ 1 10 2 → K (-1) μ23))))) :
    hI (tWf [] [(1, 10)] (c_FA μ0)) μ0 mX0_distance d K 0 [(0, 2, 1), (1, 0, v1), (2, 0, v2)] [] μ := by
  refine g_aload_n (q := 0) dX0_distance_0 rfl rfl ?_
  refine g_iload_n (q := 1) dX0_distance_1 rfl rfl ?_
  obtain ⟨c1, h⟩ := h
  refine g_callV1 dX0_distance_2 kX0_isPlace q872 q874 qs18 (ci := 0) rfl (by decide) rfl (by omega) (by decide) (sk_1 hs.S) (Nat.le_of_ble_eq_true rfl) (Nat.le_refl _) (Nat.le_refl _) (t_pI hs (pX0_isPlace hs (tWf_TC hf.1 ⟨rfl, rfl⟩) c1) ?_)
  refine g_if_eq (tgt := 16) dX0_distance_5 (by decide) (fun c2 => ?_) (fun c3 => ?_)
  · have h := h.1 (b2i_0.mp c2)
    refine g_aload_n (q := 0) dX0_distance_16 rfl rfl ?_
    refine g_iconst dX0_distance_17 (by decide) ?_
    refine g_callV1 dX0_distance_18 kX0_none q636 q638 qs3 (ci := 0) rfl (by decide) rfl (by omega) (by decide) (sk_1 hs.S) (Nat.le_of_ble_eq_true rfl) (Nat.le_refl _) (Nat.le_refl _) (t_kI hs (tWf_subL rfl) (pX0_none hs.S) (fun r6 μ4 hs e5 => ?_))
    obtain ⟨rfl, e5⟩ := e5
    have h := h μ4 e5
    exact g_iret dX0_distance_21 rfl (Nat.le_refl _) (Nat.le_refl _) ⟨_, rfl, hs, h⟩
  · have h := h.2 (b2i_1.mp c3)
    refine g_aload_n (q := 0) dX0_distance_8 rfl rfl ?_
    refine g_iload_n (q := 2) dX0_distance_9 rfl rfl ?_
    refine g_callV1 dX0_distance_10 kX0_isPlace q872 q874 qs18 (ci := 0) rfl (by decide) rfl (by omega) (by decide) (sk_1 hs.S) (Nat.le_of_ble_eq_true rfl) (Nat.le_refl _) (Nat.le_refl _) (t_pI hs (pX0_isPlace hs (tWf_TC hf.1 ⟨rfl, rfl⟩) c1) ?_)
    refine g_if_ne (tgt := 22) dX0_distance_13 (by decide) (fun c7 => ?_) (fun c8 => ?_)
    · have h := h.1 (b2i_1.mp c7)
      refine g_aload_n (q := 0) dX0_distance_22 rfl rfl ?_
      refine g_getC (x := tm_v μ0 1 8) 2 dX0_distance_23 fX0_57 rfl (by decide) (sk_1 hs.S) (hs.v (tWf_no hf (by decide) (tWs_noF rfl))) ?_
      refine g_aload_n (q := 0) dX0_distance_26 rfl rfl ?_
      refine g_getC (x := tm_v μ0 1 8) 2 dX0_distance_27 fX0_57 rfl (by decide) (sk_1 hs.S) (hs.v (tWf_no hf (by decide) (tWs_noF rfl))) ?_
      obtain ⟨c9, h⟩ := h
      refine g_getC (x := tm_v μ0 (tm_v μ0 1 8) 0) 2 dX0_distance_30 fX0_240 rfl c9.1.1 (hs.k ▸ c9.1.2) (hs.v (tWf_ob rfl hf c9 (by decide))) ?_
      refine g_iload_n (q := 1) dX0_distance_33 rfl rfl ?_
      obtain ⟨c10, h⟩ := h
      obtain ⟨c11, h⟩ := h
      refine g_aaloadC (x := tm_v μ0 (tm_v μ0 (tm_v μ0 1 8) 0) v1) dX0_distance_34 c10.1.1 (hs.k ▸ c10.1.2) (by decide) c11.1 (hs.n ▸ c11.2) (hs.v (tWf_ob rfl hf c10 (by decide))) ?_
      refine g_callV1 dX0_distance_35 kX4_spread q893 q894 q895 (ci := 4) rfl (by decide) rfl (by omega) c9.1.1 (hs.k ▸ c9.1.2) (Nat.le_of_ble_eq_true rfl) (Nat.le_refl _) (Nat.le_refl _) (t_kV hs (tWf_sub rfl) h (fun μ12 hs h => ?_))
      refine g_aload_n (q := 0) dX0_distance_38 rfl rfl ?_
      refine g_getC (x := tm_v μ0 1 8) 2 dX0_distance_39 fX0_57 rfl (by decide) (sk_1 hs.S) (hs.v (tWf_no hf (by decide) (tWs_noF rfl))) ?_
      refine g_getC (x := tm_v μ0 (tm_v μ0 1 8) 7) 2 dX0_distance_42 fX0_274 rfl c9.1.1 (hs.k ▸ c9.1.2) (hs.v (tWf_ob rfl hf c9 (by decide))) ?_
      refine g_iload_n (q := 2) dX0_distance_45 rfl rfl ?_
      obtain ⟨c13, h⟩ := h
      obtain ⟨c14, h⟩ := h
      refine g_iaload dX0_distance_46 c13.1.1 (hs.k ▸ c13.1.2) c14.1 (hs.n ▸ c14.2) ?_
      refine g_iconst dX0_distance_47 (by decide) ?_
      refine g_icmp_ne (tgt := 60) dX0_distance_48 (by decide) (fun c15 => ?_) (fun c16 => ?_)
      · have h := h.1 c15
        refine g_aload_n (q := 0) dX0_distance_60 rfl rfl ?_
        refine g_aload_n (q := 0) dX0_distance_61 rfl rfl ?_
        refine g_getC (x := tm_v μ0 1 8) 2 dX0_distance_62 fX0_57 rfl (by decide) (sk_1 hs.S) (hs.v (tWf_no hf (by decide) (tWs_noF rfl))) ?_
        refine g_getC (x := tm_v μ0 (tm_v μ0 1 8) 7) 2 dX0_distance_65 fX0_274 rfl c9.1.1 (hs.k ▸ c9.1.2) (hs.v (tWf_ob rfl hf c9 (by decide))) ?_
        refine g_iload_n (q := 2) dX0_distance_68 rfl rfl ?_
        refine g_iaload dX0_distance_69 c13.1.1 (hs.k ▸ c13.1.2) c14.1 (hs.n ▸ c14.2) ?_
        refine g_callV1 dX0_distance_70 kX0_gives q856 q858 qs17 (ci := 0) rfl (by decide) rfl (by omega) (by decide) (sk_1 hs.S) (Nat.le_of_ble_eq_true rfl) (Nat.le_refl _) (Nat.le_refl _) (t_kI hs (tWf_subL rfl) (pX0_gives hs.S) (fun r19 μ17 hs e18 => ?_))
        obtain ⟨rfl, e18⟩ := e18
        have h := h μ17 e18
        exact g_iret dX0_distance_73 rfl (Nat.le_refl _) (Nat.le_refl _) ⟨_, rfl, hs, h⟩
      · have h := h.2 c16
        refine g_aload_n (q := 0) dX0_distance_51 rfl rfl ?_
        refine g_bipush dX0_distance_52 ⟨by decide, by decide, rfl⟩ ?_
        refine g_callV1 dX0_distance_54 kX0_none q636 q638 qs3 (ci := 0) rfl (by decide) rfl (by omega) (by decide) (sk_1 hs.S) (Nat.le_of_ble_eq_true rfl) (Nat.le_refl _) (Nat.le_refl _) (t_kI hs (tWf_subL rfl) (pX0_none hs.S) (fun r22 μ20 hs e21 => ?_))
        obtain ⟨rfl, e21⟩ := e21
        have h := h μ20 e21
        refine g_goto (tgt := 73) dX0_distance_57 (by decide) ?_
        exact g_iret dX0_distance_73 rfl (Nat.le_refl _) (Nat.le_refl _) ⟨_, rfl, hs, h⟩
    · have h := h.2 (b2i_0.mp c8)
      refine g_aload_n (q := 0) dX0_distance_16 rfl rfl ?_
      refine g_iconst dX0_distance_17 (by decide) ?_
      refine g_callV1 dX0_distance_18 kX0_none q636 q638 qs3 (ci := 0) rfl (by decide) rfl (by omega) (by decide) (sk_1 hs.S) (Nat.le_of_ble_eq_true rfl) (Nat.le_refl _) (Nat.le_refl _) (t_kI hs (tWf_subL rfl) (pX0_none hs.S) (fun r25 μ23 hs e24 => ?_))
      obtain ⟨rfl, e24⟩ := e24
      have h := h μ23 e24
      exact g_iret dX0_distance_21 rfl (Nat.le_refl _) (Nat.le_refl _) ⟨_, rfl, hs, h⟩
theorem uX0_when_0 {d : Nat} {μ0 μ : tm_M} {K : Int → tm_M → Prop} {ν : tm_M} {v1 v2 v3 v4 : Int} (hd : 1 ≤ d) (hf : dyA (c_FA μ0) ∧ tm_k μ0 (c_FA μ0) = 20) (hs : tFr (tWf [7, 8, 10] [(1, 10)] (c_FA μ0)) μ0 μ)
    (h : (JV μ0 ν) ∧ ((¬ (0 ≤ v1 ∧ v1 < tm_v ν 65 43) → (∀ μ4, μ4 = tm_w μ 1 10 2 → K (-1) μ4)) ∧ (0 ≤ v1 ∧ v1 < tm_v ν 65 43 → (¬ (0 ≤ v2 ∧ v2 < tm_v ν 65 43) → (∀ μ9, μ9 = tm_w μ 1 10 2 → K (-1) μ9)) ∧ (0 ≤ v2 ∧ v2 < tm_v ν 65 43 → (JU μ0 ν) ∧ ((¬ (0 ≤ v3 ∧ v3 < tm_v ν 65 20) → (∀ μ15, μ15 = tm_w μ 1 10 2 → K (-1) μ15)) ∧ (0 ≤ v3 ∧ v3 < tm_v ν 65 20 → (0 ≤ v4 ∧ v4 < tm_v ν 65 20 → cI (tWf [7, 8, 10] [] (c_FA μ0)) mX0_meet (d - 1) [(2, 1), (0, v1), (0, v2), (0, v3), (0, v4)] μ (fun r21 μ20 => (r21 ≠ -1 → (∀ μ24, μ24 = tm_w μ20 1 10 0 → K r21 μ24)) ∧ (r21 = -1 → (∀ μ27, μ27 = tm_w μ20 1 10 8 → K (-1) μ27)))) ∧ (¬ (0 ≤ v4 ∧ v4 < tm_v ν 65 20) → (∀ μ30, μ30 = tm_w μ 1 10 2 → K (-1) μ30)))))))) :
    hI (tWf [7, 8, 10] [(1, 10)] (c_FA μ0)) μ0 mX0_when d K 0 [(0, 2, 1), (1, 0, v1), (2, 0, v2), (3, 0, v3), (4, 0, v4)] [] μ := by
  refine g_aload_n (q := 0) dX0_when_0 rfl rfl ?_
  refine g_iload_n (q := 1) dX0_when_1 rfl rfl ?_
  refine g_i2l dX0_when_2 ?_
  obtain ⟨c1, h⟩ := h
  refine g_callV1 dX0_when_3 kX0_isWay q969 q971 qs23 (ci := 0) rfl (by decide) rfl (by omega) (by decide) (sk_1 hs.S) (Nat.le_of_ble_eq_true rfl) (Nat.le_refl _) (Nat.le_refl _) (t_pI hs (pX0_isWay hs (tWf_TC hf.1 ⟨rfl, rfl⟩) c1) ?_)
  refine g_if_eq (tgt := 35) dX0_when_6 (by decide) (fun c2 => ?_) (fun c3 => ?_)
  · have h := h.1 (b2i_0.mp c2)
    refine g_aload_n (q := 0) dX0_when_35 rfl rfl ?_
    refine g_iconst dX0_when_36 (by decide) ?_
    refine g_callV1 dX0_when_37 kX0_none q636 q638 qs3 (ci := 0) rfl (by decide) rfl (by omega) (by decide) (sk_1 hs.S) (Nat.le_of_ble_eq_true rfl) (Nat.le_refl _) (Nat.le_refl _) (t_kI hs (tWf_subL rfl) (pX0_none hs.S) (fun r6 μ4 hs e5 => ?_))
    obtain ⟨rfl, e5⟩ := e5
    have h := h μ4 e5
    exact g_iret dX0_when_40 rfl (Nat.le_refl _) (Nat.le_refl _) ⟨_, rfl, hs, h⟩
  · have h := h.2 (b2i_1.mp c3)
    refine g_aload_n (q := 0) dX0_when_9 rfl rfl ?_
    refine g_iload_n (q := 2) dX0_when_10 rfl rfl ?_
    refine g_i2l dX0_when_11 ?_
    refine g_callV1 dX0_when_12 kX0_isWay q969 q971 qs23 (ci := 0) rfl (by decide) rfl (by omega) (by decide) (sk_1 hs.S) (Nat.le_of_ble_eq_true rfl) (Nat.le_refl _) (Nat.le_refl _) (t_pI hs (pX0_isWay hs (tWf_TC hf.1 ⟨rfl, rfl⟩) c1) ?_)
    refine g_if_eq (tgt := 35) dX0_when_15 (by decide) (fun c7 => ?_) (fun c8 => ?_)
    · have h := h.1 (b2i_0.mp c7)
      refine g_aload_n (q := 0) dX0_when_35 rfl rfl ?_
      refine g_iconst dX0_when_36 (by decide) ?_
      refine g_callV1 dX0_when_37 kX0_none q636 q638 qs3 (ci := 0) rfl (by decide) rfl (by omega) (by decide) (sk_1 hs.S) (Nat.le_of_ble_eq_true rfl) (Nat.le_refl _) (Nat.le_refl _) (t_kI hs (tWf_subL rfl) (pX0_none hs.S) (fun r11 μ9 hs e10 => ?_))
      obtain ⟨rfl, e10⟩ := e10
      have h := h μ9 e10
      exact g_iret dX0_when_40 rfl (Nat.le_refl _) (Nat.le_refl _) ⟨_, rfl, hs, h⟩
    · have h := h.2 (b2i_1.mp c8)
      refine g_aload_n (q := 0) dX0_when_18 rfl rfl ?_
      refine g_iload_n (q := 3) dX0_when_19 rfl rfl ?_
      obtain ⟨c12, h⟩ := h
      refine g_callV1 dX0_when_20 kX0_isPlace q872 q874 qs18 (ci := 0) rfl (by decide) rfl (by omega) (by decide) (sk_1 hs.S) (Nat.le_of_ble_eq_true rfl) (Nat.le_refl _) (Nat.le_refl _) (t_pI hs (pX0_isPlace hs (tWf_TC hf.1 ⟨rfl, rfl⟩) c12) ?_)
      refine g_if_eq (tgt := 35) dX0_when_23 (by decide) (fun c13 => ?_) (fun c14 => ?_)
      · have h := h.1 (b2i_0.mp c13)
        refine g_aload_n (q := 0) dX0_when_35 rfl rfl ?_
        refine g_iconst dX0_when_36 (by decide) ?_
        refine g_callV1 dX0_when_37 kX0_none q636 q638 qs3 (ci := 0) rfl (by decide) rfl (by omega) (by decide) (sk_1 hs.S) (Nat.le_of_ble_eq_true rfl) (Nat.le_refl _) (Nat.le_refl _) (t_kI hs (tWf_subL rfl) (pX0_none hs.S) (fun r17 μ15 hs e16 => ?_))
        obtain ⟨rfl, e16⟩ := e16
        have h := h μ15 e16
        exact g_iret dX0_when_40 rfl (Nat.le_refl _) (Nat.le_refl _) ⟨_, rfl, hs, h⟩
      · have h := h.2 (b2i_1.mp c14)
        refine g_aload_n (q := 0) dX0_when_26 rfl rfl ?_
        refine g_iload (q := 4) dX0_when_27 rfl ?_
        refine g_callV1 dX0_when_29 kX0_isPlace q872 q874 qs18 (ci := 0) rfl (by decide) rfl (by omega) (by decide) (sk_1 hs.S) (Nat.le_of_ble_eq_true rfl) (Nat.le_refl _) (Nat.le_refl _) (t_pI hs (pX0_isPlace hs (tWf_TC hf.1 ⟨rfl, rfl⟩) c12) ?_)
        refine g_if_ne (tgt := 41) dX0_when_32 (by decide) (fun c18 => ?_) (fun c19 => ?_)
        · have h := h.1 (b2i_1.mp c18)
          refine g_aload_n (q := 0) dX0_when_41 rfl rfl ?_
          refine g_iload_n (q := 1) dX0_when_42 rfl rfl ?_
          refine g_iload_n (q := 2) dX0_when_43 rfl rfl ?_
          refine g_iload_n (q := 3) dX0_when_44 rfl rfl ?_
          refine g_iload (q := 4) dX0_when_45 rfl ?_
          refine g_callV4 dX0_when_47 kX0_meet q973 q975 qs24 (ci := 0) rfl (by decide) rfl (by omega) (by decide) (sk_1 hs.S) (Nat.le_of_ble_eq_true rfl) (Nat.le_refl _) (Nat.le_refl _) (t_kI hs (tWf_sub rfl) h (fun r21 μ20 hs h => ?_))
          refine g_istore (L' := [(0, 2, 1), (1, 0, v1), (2, 0, v2), (3, 0, v3), (4, 0, v4), (5, 0, r21)]) dX0_when_50 (by decide) [1, 2, 3, 4, 5, 0] rfl ?_
          refine g_iload (q := 5) dX0_when_52 rfl ?_
          refine g_iconst dX0_when_54 (by decide) ?_
          refine g_icmp_ne (tgt := 67) dX0_when_55 (by decide) (fun c22 => ?_) (fun c23 => ?_)
          · have h := h.1 c22
            refine g_aload_n (q := 0) dX0_when_67 rfl rfl ?_
            refine g_iload (q := 5) dX0_when_68 rfl ?_
            refine g_callV1 dX0_when_70 kX0_gives q856 q858 qs17 (ci := 0) rfl (by decide) rfl (by omega) (by decide) (sk_1 hs.S) (Nat.le_of_ble_eq_true rfl) (Nat.le_refl _) (Nat.le_refl _) (t_kI hs (tWf_subL rfl) (pX0_gives hs.S) (fun r26 μ24 hs e25 => ?_))
            obtain ⟨rfl, e25⟩ := e25
            have h := h μ24 e25
            exact g_iret dX0_when_73 rfl (Nat.le_refl _) (Nat.le_refl _) ⟨_, rfl, hs, h⟩
          · have h := h.2 c23
            refine g_aload_n (q := 0) dX0_when_58 rfl rfl ?_
            refine g_bipush dX0_when_59 ⟨by decide, by decide, rfl⟩ ?_
            refine g_callV1 dX0_when_61 kX0_none q636 q638 qs3 (ci := 0) rfl (by decide) rfl (by omega) (by decide) (sk_1 hs.S) (Nat.le_of_ble_eq_true rfl) (Nat.le_refl _) (Nat.le_refl _) (t_kI hs (tWf_subL rfl) (pX0_none hs.S) (fun r29 μ27 hs e28 => ?_))
            obtain ⟨rfl, e28⟩ := e28
            have h := h μ27 e28
            refine g_goto (tgt := 73) dX0_when_64 (by decide) ?_
            exact g_iret dX0_when_73 rfl (Nat.le_refl _) (Nat.le_refl _) ⟨_, rfl, hs, h⟩
        · have h := h.2 (b2i_0.mp c19)
          refine g_aload_n (q := 0) dX0_when_35 rfl rfl ?_
          refine g_iconst dX0_when_36 (by decide) ?_
          refine g_callV1 dX0_when_37 kX0_none q636 q638 qs3 (ci := 0) rfl (by decide) rfl (by omega) (by decide) (sk_1 hs.S) (Nat.le_of_ble_eq_true rfl) (Nat.le_refl _) (Nat.le_refl _) (t_kI hs (tWf_subL rfl) (pX0_none hs.S) (fun r32 μ30 hs e31 => ?_))
          obtain ⟨rfl, e31⟩ := e31
          have h := h μ30 e31
          exact g_iret dX0_when_40 rfl (Nat.le_refl _) (Nat.le_refl _) ⟨_, rfl, hs, h⟩
