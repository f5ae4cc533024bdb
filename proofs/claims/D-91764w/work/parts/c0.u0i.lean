theorem uX0_areLike_0 {d : Nat} {μ0 μ : tm_M} {K : Int → tm_M → Prop} {v1 v2 : Int} (hs : tFr (tWs [] []) μ0 μ)
    (h : (ob μ0 (tm_v μ0 1 8) 4) ∧ ((ob μ0 (tm_v μ0 (tm_v μ0 1 8) 0) 26) ∧ ((0 ≤ v1 ∧ v1 < tm_n μ0 (tm_v μ0 (tm_v μ0 1 8) 0)) ∧ ((∀ x4, x4 = tm_v μ0 (tm_v μ0 (tm_v μ0 1 8) 0) v1 → (0 ≤ v2 ∧ v2 < tm_n μ0 (tm_v μ0 (tm_v μ0 1 8) 0)) ∧ ((∀ x6, x6 = tm_v μ0 (tm_v μ0 (tm_v μ0 1 8) 0) v2 → (0 ≤ v1 ∧ v1 < 8) ∧ ((0 ≤ v2 ∧ v2 < 8) ∧ ((tm_v μ0 15 v1 ≠ tm_v μ0 15 v2 → K 0 μ) ∧ (tm_v μ0 15 v1 = tm_v μ0 15 v2 → (ob μ0 x4 7) ∧ ((ob μ0 x6 7) ∧ ((tm_v μ0 x4 5 = tm_v μ0 x6 5 → hI (tWs [] []) μ0 mX0_areLike d K 53 [(0, 2, 1), (3, 2, x4), (4, 2, x6), (5, 0, 0)] [] μ) ∧ (tm_v μ0 x4 5 ≠ tm_v μ0 x6 5 → K 0 μ))))))))))))) :
    hI (tWs [] []) μ0 mX0_areLike d K 0 [(0, 2, 1), (1, 0, v1), (2, 0, v2)] [] μ := by
  refine g_aload_n (q := 0) dX0_areLike_0 rfl rfl ?_
  refine g_getC (x := tm_v μ0 1 8) 2 dX0_areLike_1 fX0_57 rfl (by decide) (sk_1 hs.S) (hs.v (tWs_noF rfl)) ?_
  obtain ⟨c1, h⟩ := h
  refine g_getC (x := tm_v μ0 (tm_v μ0 1 8) 0) 2 dX0_areLike_4 fX0_240 rfl c1.1.1 (hs.k ▸ c1.1.2) (hs.v (tWs_ob rfl c1)) ?_
  refine g_iload_n (q := 1) dX0_areLike_7 rfl rfl ?_
  obtain ⟨c2, h⟩ := h
  obtain ⟨c3, h⟩ := h
  refine g_aaloadC (x := tm_v μ0 (tm_v μ0 (tm_v μ0 1 8) 0) v1) dX0_areLike_8 c2.1.1 (hs.k ▸ c2.1.2) (by decide) c3.1 (hs.n ▸ c3.2) (hs.v (tWs_ob rfl c2)) ?_
  refine g_astore_nN (fun z => [(0, 2, 1), (1, 0, v1), (2, 0, v2), (3, 2, z)]) dX0_areLike_9 rfl (by decide) [1, 2, 3, 0] (fun _ => rfl) (fun x4 ex4 => ?_)
  have h := h x4 ex4
  refine g_aload_n (q := 0) dX0_areLike_10 rfl rfl ?_
  refine g_getC (x := tm_v μ0 1 8) 2 dX0_areLike_11 fX0_57 rfl (by decide) (sk_1 hs.S) (hs.v (tWs_noF rfl)) ?_
  refine g_getC (x := tm_v μ0 (tm_v μ0 1 8) 0) 2 dX0_areLike_14 fX0_240 rfl c1.1.1 (hs.k ▸ c1.1.2) (hs.v (tWs_ob rfl c1)) ?_
  refine g_iload_n (q := 2) dX0_areLike_17 rfl rfl ?_
  obtain ⟨c5, h⟩ := h
  refine g_aaloadC (x := tm_v μ0 (tm_v μ0 (tm_v μ0 1 8) 0) v2) dX0_areLike_18 c2.1.1 (hs.k ▸ c2.1.2) (by decide) c5.1 (hs.n ▸ c5.2) (hs.v (tWs_ob rfl c2)) ?_
  refine g_astoreN (fun z => [(0, 2, 1), (1, 0, v1), (2, 0, v2), (3, 2, x4), (4, 2, z)]) dX0_areLike_19 (by decide) [1, 2, 3, 4, 0] (fun _ => rfl) (fun x6 ex6 => ?_)
  have h := h x6 ex6
  refine g_aload_n (q := 0) dX0_areLike_21 rfl rfl ?_
  refine g_getC (x := 15) 2 dX0_areLike_22 fX0_72 rfl (by decide) (sk_1 hs.S) (sv_1_17 hs.S) ?_
  refine g_iload_n (q := 1) dX0_areLike_25 rfl rfl ?_
  obtain ⟨c7, h⟩ := h
  refine g_ialoadC (x := tm_v μ0 15 v1) dX0_areLike_26 (by decide) (sk_15 hs.S) c7.1 (t_lt (sn_15 hs.S) c7.2) (hs.v (tWs_no _ rfl)) ?_
  refine g_aload_n (q := 0) dX0_areLike_27 rfl rfl ?_
  refine g_getC (x := 15) 2 dX0_areLike_28 fX0_72 rfl (by decide) (sk_1 hs.S) (sv_1_17 hs.S) ?_
  refine g_iload_n (q := 2) dX0_areLike_31 rfl rfl ?_
  obtain ⟨c8, h⟩ := h
  refine g_ialoadC (x := tm_v μ0 15 v2) dX0_areLike_32 (by decide) (sk_15 hs.S) c8.1 (t_lt (sn_15 hs.S) c8.2) (hs.v (tWs_no _ rfl)) ?_
  refine g_icmp_ne (tgt := 48) dX0_areLike_33 (by decide) (fun c9 => ?_) (fun c10 => ?_)
  · have h := h.1 c9
    refine g_iconst dX0_areLike_48 (by decide) ?_
    exact g_zret dX0_areLike_49 rfl (by decide) (Nat.le_refl _) (Nat.le_refl _) ⟨_, rfl, hs, h⟩
  · have h := h.2 c10
    refine g_aload_n (q := 3) dX0_areLike_36 rfl rfl ?_
    obtain ⟨c11, h⟩ := h
    refine g_getC (x := tm_v μ0 x4 5) 0 dX0_areLike_37 fX0_249 rfl c11.1.1 (hs.k ▸ c11.1.2) (hs.v (tWs_ob rfl c11)) ?_
    refine g_aload (q := 4) dX0_areLike_40 rfl ?_
    obtain ⟨c12, h⟩ := h
    refine g_getC (x := tm_v μ0 x6 5) 0 dX0_areLike_42 fX0_249 rfl c12.1.1 (hs.k ▸ c12.1.2) (hs.v (tWs_ob rfl c12)) ?_
    refine g_icmp_eq (tgt := 50) dX0_areLike_45 (by decide) (fun c13 => ?_) (fun c14 => ?_)
    · have h := h.1 c13
      refine g_iconst dX0_areLike_50 (by decide) ?_
      refine g_istore (L' := [(0, 2, 1), (1, 0, v1), (2, 0, v2), (3, 2, x4), (4, 2, x6), (5, 0, 0)]) dX0_areLike_51 (by decide) [1, 2, 3, 4, 5, 0] rfl ?_
      exact g_less [0, 3, 4, 5] rfl h
    · have h := h.2 c14
      refine g_iconst dX0_areLike_48 (by decide) ?_
      exact g_zret dX0_areLike_49 rfl (by decide) (Nat.le_refl _) (Nat.le_refl _) ⟨_, rfl, hs, h⟩
theorem uX0_areLike_53 {d : Nat} {μ0 μ : tm_M} {K : Int → tm_M → Prop} {v3 v4 v5 : Int} (hd : 1 ≤ d) (hs : tFr (tWs [] []) μ0 μ)
    (h : (ob μ0 v3 7) ∧ ((tm_v μ0 v3 5 ≤ v5 → K 1 μ) ∧ (v5 < tm_v μ0 v3 5 → (ob μ0 (tm_v μ0 v3 6) 27) ∧ ((0 ≤ v5 ∧ v5 < tm_n μ0 (tm_v μ0 v3 6)) ∧ ((ob μ0 (tm_v μ0 (tm_v μ0 v3 6) v5) 8) ∧ (cR (tWs [] []) mX8_other (d - 1) [(2, tm_v μ0 (tm_v μ0 v3 6) v5), (2, v3)] μ (fun r8 μ7 => (ob μ0 r8 7) ∧ ((0 ≤ tm_v μ0 r8 1 ∧ tm_v μ0 r8 1 < 8) ∧ ((ob μ0 v4 7) ∧ ((ob μ0 (tm_v μ0 v4 6) 27) ∧ ((0 ≤ v5 ∧ v5 < tm_n μ0 (tm_v μ0 v4 6)) ∧ ((ob μ0 (tm_v μ0 (tm_v μ0 v4 6) v5) 8) ∧ (cR (tWs [] []) mX8_other (d - 1) [(2, tm_v μ0 (tm_v μ0 v4 6) v5), (2, v4)] μ7 (fun r16 μ15 => (ob μ0 r16 7) ∧ ((0 ≤ tm_v μ0 r16 1 ∧ tm_v μ0 r16 1 < 8) ∧ ((tm_v μ0 15 (tm_v μ0 r8 1) = tm_v μ0 15 (tm_v μ0 r16 1) → hI (tWs [] []) μ0 mX0_areLike d K 53 [(0, 2, 1), (3, 2, v3), (4, 2, v4), (5, 0, w32 (v5 + 1))] [] μ15) ∧ (tm_v μ0 15 (tm_v μ0 r8 1) ≠ tm_v μ0 15 (tm_v μ0 r16 1) → K 0 μ15))))))))))))))))) :
    hI (tWs [] []) μ0 mX0_areLike d K 53 [(0, 2, 1), (3, 2, v3), (4, 2, v4), (5, 0, v5)] [] μ := by
  refine g_iload (q := 3) dX0_areLike_53 rfl ?_
  refine g_aload_n (q := 1) dX0_areLike_55 rfl rfl ?_
  obtain ⟨c1, h⟩ := h
  refine g_getC (x := tm_v μ0 v3 5) 0 dX0_areLike_56 fX0_249 rfl c1.1.1 (hs.k ▸ c1.1.2) (hs.v (tWs_ob rfl c1)) ?_
  refine g_icmp_ge (tgt := 113) dX0_areLike_59 (by decide) (fun c2 => ?_) (fun c3 => ?_)
  · have h := h.1 c2
    refine g_iconst dX0_areLike_113 (by decide) ?_
    exact g_zret dX0_areLike_114 rfl (by decide) (Nat.le_refl _) (Nat.le_refl _) ⟨_, rfl, hs, h⟩
  · have h := h.2 c3
    refine g_aload_n (q := 0) dX0_areLike_62 rfl rfl ?_
    refine g_getC (x := 15) 2 dX0_areLike_63 fX0_72 rfl (by decide) (sk_1 hs.S) (sv_1_17 hs.S) ?_
    refine g_aload_n (q := 1) dX0_areLike_66 rfl rfl ?_
    refine g_getC (x := tm_v μ0 v3 6) 2 dX0_areLike_67 fX0_250 rfl c1.1.1 (hs.k ▸ c1.1.2) (hs.v (tWs_ob rfl c1)) ?_
    refine g_iload (q := 3) dX0_areLike_70 rfl ?_
    obtain ⟨c4, h⟩ := h
    obtain ⟨c5, h⟩ := h
    refine g_aaloadC (x := tm_v μ0 (tm_v μ0 v3 6) v5) dX0_areLike_72 c4.1.1 (hs.k ▸ c4.1.2) (by decide) c5.1 (hs.n ▸ c5.2) (hs.v (tWs_ob rfl c4)) ?_
    refine g_aload_n (q := 1) dX0_areLike_73 rfl rfl ?_
    obtain ⟨c6, h⟩ := h
    refine g_callV1 dX0_areLike_74 kX8_other q876 q832 q833 (ci := 8) rfl (by decide) rfl (by omega) c6.1.1 (hs.k ▸ c6.1.2) (Nat.le_of_ble_eq_true rfl) (Nat.le_refl _) (Nat.le_refl _) (t_kR hs (tWs_sub rfl) h (fun r8 μ7 hs h => ?_))
    obtain ⟨c9, h⟩ := h
    refine g_getC (x := tm_v μ0 r8 1) 0 dX0_areLike_77 fX0_260 rfl c9.1.1 (hs.k ▸ c9.1.2) (hs.v (tWs_ob rfl c9)) ?_
    obtain ⟨c10, h⟩ := h
    refine g_ialoadC (x := tm_v μ0 15 (tm_v μ0 r8 1)) dX0_areLike_80 (by decide) (sk_15 hs.S) c10.1 (t_lt (sn_15 hs.S) c10.2) (hs.v (tWs_no _ rfl)) ?_
    refine g_aload_n (q := 0) dX0_areLike_81 rfl rfl ?_
    refine g_getC (x := 15) 2 dX0_areLike_82 fX0_72 rfl (by decide) (sk_1 hs.S) (sv_1_17 hs.S) ?_
    refine g_aload (q := 2) dX0_areLike_85 rfl ?_
    obtain ⟨c11, h⟩ := h
    refine g_getC (x := tm_v μ0 v4 6) 2 dX0_areLike_87 fX0_250 rfl c11.1.1 (hs.k ▸ c11.1.2) (hs.v (tWs_ob rfl c11)) ?_
    refine g_iload (q := 3) dX0_areLike_90 rfl ?_
    obtain ⟨c12, h⟩ := h
    obtain ⟨c13, h⟩ := h
    refine g_aaloadC (x := tm_v μ0 (tm_v μ0 v4 6) v5) dX0_areLike_92 c12.1.1 (hs.k ▸ c12.1.2) (by decide) c13.1 (hs.n ▸ c13.2) (hs.v (tWs_ob rfl c12)) ?_
    refine g_aload (q := 2) dX0_areLike_93 rfl ?_
    obtain ⟨c14, h⟩ := h
    refine g_callV1 dX0_areLike_95 kX8_other q876 q832 q833 (ci := 8) rfl (by decide) rfl (by omega) c14.1.1 (hs.k ▸ c14.1.2) (Nat.le_of_ble_eq_true rfl) (Nat.le_refl _) (Nat.le_refl _) (t_kR hs (tWs_sub rfl) h (fun r16 μ15 hs h => ?_))
    obtain ⟨c17, h⟩ := h
    refine g_getC (x := tm_v μ0 r16 1) 0 dX0_areLike_98 fX0_260 rfl c17.1.1 (hs.k ▸ c17.1.2) (hs.v (tWs_ob rfl c17)) ?_
    obtain ⟨c18, h⟩ := h
    refine g_ialoadC (x := tm_v μ0 15 (tm_v μ0 r16 1)) dX0_areLike_101 (by decide) (sk_15 hs.S) c18.1 (t_lt (sn_15 hs.S) c18.2) (hs.v (tWs_no _ rfl)) ?_
    refine g_icmp_eq (tgt := 107) dX0_areLike_102 (by decide) (fun c19 => ?_) (fun c20 => ?_)
    · have h := h.1 c19
      refine g_iinc (q := 3) dX0_areLike_107 (by decide) rfl [1, 2, 3, 0] rfl ?_
      refine g_goto (tgt := 53) dX0_areLike_110 (by decide) ?_
      exact h
    · have h := h.2 c20
      refine g_iconst dX0_areLike_105 (by decide) ?_
      exact g_zret dX0_areLike_106 rfl (by decide) (Nat.le_refl _) (Nat.le_refl _) ⟨_, rfl, hs, h⟩
theorem uX0_same_0 {d : Nat} {μ0 μ : tm_M} {K : Int → tm_M → Prop} {ν : tm_M} {v1 v2 : Int} (hd : 1 ≤ d) (hs : tFr (tWs [15, 16] [(1, 10)]) μ0 μ)
    (h : (JU μ0 ν) ∧ ((¬ (0 ≤ v1 ∧ v1 < tm_v ν 65 20) → (∀ μ4, μ4 = tm_w μ 1 10 2 → K (-1) μ4)) ∧ (0 ≤ v1 ∧ v1 < tm_v ν 65 20 → (0 ≤ v2 ∧ v2 < tm_v ν 65 20 → hI (tWs [15, 16] [(1, 10)]) μ0 mX0_same d K 24 [(0, 2, 1), (1, 0, v1), (2, 0, v2), (3, 0, 0)] [] μ) ∧ (¬ (0 ≤ v2 ∧ v2 < tm_v ν 65 20) → (∀ μ9, μ9 = tm_w μ 1 10 2 → K (-1) μ9))))) :
    hI (tWs [15, 16] [(1, 10)]) μ0 mX0_same d K 0 [(0, 2, 1), (1, 0, v1), (2, 0, v2)] [] μ := by
  refine g_aload_n (q := 0) dX0_same_0 rfl rfl ?_
  refine g_iload_n (q := 1) dX0_same_1 rfl rfl ?_
  obtain ⟨c1, h⟩ := h
  refine g_callV1 dX0_same_2 kX0_isPlace q872 q874 qs18 (ci := 0) rfl (by decide) rfl (by omega) (by decide) (sk_1 hs.S) (Nat.le_of_ble_eq_true rfl) (Nat.le_refl _) (Nat.le_refl _) (t_pI hs (pX0_isPlace hs (tWs_TC ⟨rfl, rfl⟩) c1) ?_)
  refine g_if_eq (tgt := 16) dX0_same_5 (by decide) (fun c2 => ?_) (fun c3 => ?_)
  · have h := h.1 (b2i_0.mp c2)
    refine g_aload_n (q := 0) dX0_same_16 rfl rfl ?_
    refine g_iconst dX0_same_17 (by decide) ?_
    refine g_callV1 dX0_same_18 kX0_none q636 q638 qs3 (ci := 0) rfl (by decide) rfl (by omega) (by decide) (sk_1 hs.S) (Nat.le_of_ble_eq_true rfl) (Nat.le_refl _) (Nat.le_refl _) (t_kI hs (tWs_sub rfl) (pX0_none hs.S) (fun r6 μ4 hs e5 => ?_))
    obtain ⟨rfl, e5⟩ := e5
    have h := h μ4 e5
    exact g_iret dX0_same_21 rfl (Nat.le_refl _) (Nat.le_refl _) ⟨_, rfl, hs, h⟩
  · have h := h.2 (b2i_1.mp c3)
    refine g_aload_n (q := 0) dX0_same_8 rfl rfl ?_
    refine g_iload_n (q := 2) dX0_same_9 rfl rfl ?_
    refine g_callV1 dX0_same_10 kX0_isPlace q872 q874 qs18 (ci := 0) rfl (by decide) rfl (by omega) (by decide) (sk_1 hs.S) (Nat.le_of_ble_eq_true rfl) (Nat.le_refl _) (Nat.le_refl _) (t_pI hs (pX0_isPlace hs (tWs_TC ⟨rfl, rfl⟩) c1) ?_)
    refine g_if_ne (tgt := 22) dX0_same_13 (by decide) (fun c7 => ?_) (fun c8 => ?_)
    · have h := h.1 (b2i_1.mp c7)
      refine g_iconst dX0_same_22 (by decide) ?_
      refine g_istore_n (L' := [(0, 2, 1), (1, 0, v1), (2, 0, v2), (3, 0, 0)]) dX0_same_23 rfl (by decide) [1, 2, 3, 0] rfl ?_
      exact h
    · have h := h.2 (b2i_0.mp c8)
      refine g_aload_n (q := 0) dX0_same_16 rfl rfl ?_
      refine g_iconst dX0_same_17 (by decide) ?_
      refine g_callV1 dX0_same_18 kX0_none q636 q638 qs3 (ci := 0) rfl (by decide) rfl (by omega) (by decide) (sk_1 hs.S) (Nat.le_of_ble_eq_true rfl) (Nat.le_refl _) (Nat.le_refl _) (t_kI hs (tWs_sub rfl) (pX0_none hs.S) (fun r11 μ9 hs e10 => ?_))
      obtain ⟨rfl, e10⟩ := e10
      have h := h μ9 e10
      exact g_iret dX0_same_21 rfl (Nat.le_refl _) (Nat.le_refl _) ⟨_, rfl, hs, h⟩
theorem uX0_same_24 {d : Nat} {μ0 μ : tm_M} {K : Int → tm_M → Prop} {v1 v2 v3 : Int} (hs : tFr (tWs [15, 16] [(1, 10)]) μ0 μ)
    (h : (ob μ0 (tm_v μ0 1 8) 4) ∧ ((tm_v μ0 (tm_v μ0 1 8) 2 ≤ v3 → hI (tWs [15, 16] [(1, 10)]) μ0 mX0_same d K 61 [(0, 2, 1), (1, 0, v1), (2, 0, v2), (3, 0, 0)] [] μ) ∧ (v3 < tm_v μ0 (tm_v μ0 1 8) 2 → (ob μ0 (tm_v μ0 (tm_v μ0 1 8) 0) 26) ∧ ((0 ≤ v3 ∧ v3 < tm_n μ0 (tm_v μ0 (tm_v μ0 1 8) 0)) ∧ ((ob μ0 (tm_v μ0 (tm_v μ0 (tm_v μ0 1 8) 0) v3) 7) ∧ ((0 ≤ v3 ∧ v3 < 8) ∧ ((∀ μ8, μ8 = tm_w μ 15 v3 (tm_v μ0 (tm_v μ0 (tm_v μ0 (tm_v μ0 1 8) 0) v3) 2) → hI (tWs [15, 16] [(1, 10)]) μ0 mX0_same d K 24 [(0, 2, 1), (1, 0, v1), (2, 0, v2), (3, 0, w32 (v3 + 1))] [] μ8)))))))) :
    hI (tWs [15, 16] [(1, 10)]) μ0 mX0_same d K 24 [(0, 2, 1), (1, 0, v1), (2, 0, v2), (3, 0, v3)] [] μ := by
  refine g_iload_n (q := 3) dX0_same_24 rfl rfl ?_
  refine g_aload_n (q := 0) dX0_same_25 rfl rfl ?_
  refine g_getC (x := tm_v μ0 1 8) 2 dX0_same_26 fX0_57 rfl (by decide) (sk_1 hs.S) (hs.v (tWs_noF rfl)) ?_
  obtain ⟨c1, h⟩ := h
  refine g_getC (x := tm_v μ0 (tm_v μ0 1 8) 2) 0 dX0_same_29 fX0_200 rfl c1.1.1 (hs.k ▸ c1.1.2) (hs.v (tWs_ob rfl c1)) ?_
  refine g_icmp_ge (tgt := 59) dX0_same_32 (by decide) (fun c2 => ?_) (fun c3 => ?_)
  · have h := h.1 c2
    refine g_iconst dX0_same_59 (by decide) ?_
    refine g_istore_n (L' := [(0, 2, 1), (1, 0, v1), (2, 0, v2), (3, 0, 0)]) dX0_same_60 rfl (by decide) [1, 2, 3, 0] rfl ?_
    exact h
  · have h := h.2 c3
    refine g_aload_n (q := 0) dX0_same_35 rfl rfl ?_
    refine g_getC (x := 15) 2 dX0_same_36 fX0_72 rfl (by decide) (sk_1 hs.S) (sv_1_17 hs.S) ?_
    refine g_iload_n (q := 3) dX0_same_39 rfl rfl ?_
    refine g_aload_n (q := 0) dX0_same_40 rfl rfl ?_
    refine g_getC (x := tm_v μ0 1 8) 2 dX0_same_41 fX0_57 rfl (by decide) (sk_1 hs.S) (hs.v (tWs_noF rfl)) ?_
    refine g_getC (x := tm_v μ0 (tm_v μ0 1 8) 0) 2 dX0_same_44 fX0_240 rfl c1.1.1 (hs.k ▸ c1.1.2) (hs.v (tWs_ob rfl c1)) ?_
    refine g_iload_n (q := 3) dX0_same_47 rfl rfl ?_
    obtain ⟨c4, h⟩ := h
    obtain ⟨c5, h⟩ := h
    refine g_aaloadC (x := tm_v μ0 (tm_v μ0 (tm_v μ0 1 8) 0) v3) dX0_same_48 c4.1.1 (hs.k ▸ c4.1.2) (by decide) c5.1 (hs.n ▸ c5.2) (hs.v (tWs_ob rfl c4)) ?_
    obtain ⟨c6, h⟩ := h
    refine g_getC (x := tm_v μ0 (tm_v μ0 (tm_v μ0 (tm_v μ0 1 8) 0) v3) 2) 0 dX0_same_49 fX0_244 rfl c6.1.1 (hs.k ▸ c6.1.2) (hs.v (tWs_ob rfl c6)) ?_
    obtain ⟨c7, h⟩ := h
    refine g_iastore dX0_same_52 (by decide) (sk_15 hs.S) c7.1 (t_lt (sn_15 hs.S) c7.2) (p_w hs sf_15 (tWs_in _ rfl) fun μ8 eμ8 hs => ?_)
    have h := h μ8 eμ8
    refine g_iinc (q := 3) dX0_same_53 (by decide) rfl [1, 2, 3, 0] rfl ?_
    refine g_goto (tgt := 24) dX0_same_56 (by decide) ?_
    exact h
theorem uX0_same_61 {d : Nat} {μ0 μ : tm_M} {K : Int → tm_M → Prop} {v1 v2 v3 : Int} (hd : 1 ≤ d) (hs : tFr (tWs [15, 16] [(1, 10)]) μ0 μ)
    (h : (ob μ0 (tm_v μ0 1 8) 4) ∧ ((tm_v μ0 (tm_v μ0 1 8) 2 < v3 → (0 ≤ v1 ∧ v1 < 8) ∧ ((0 ≤ v2 ∧ v2 < 8) ∧ ((tm_v μ 15 v1 ≠ tm_v μ 15 v2 → (∀ μ8, μ8 = tm_w μ 1 10 0 → K 0 μ8)) ∧ (tm_v μ 15 v1 = tm_v μ 15 v2 → (∀ μ11, μ11 = tm_w μ 1 10 0 → K 1 μ11))))) ∧ (v3 ≤ tm_v μ0 (tm_v μ0 1 8) 2 → hI (tWs [15, 16] [(1, 10)]) μ0 mX0_same d K 75 [(0, 2, 1), (1, 0, v1), (2, 0, v2), (3, 0, v3), (4, 0, 0)] [] μ))) :
    hI (tWs [15, 16] [(1, 10)]) μ0 mX0_same d K 61 [(0, 2, 1), (1, 0, v1), (2, 0, v2), (3, 0, v3)] [] μ := by
  refine g_iload_n (q := 3) dX0_same_61 rfl rfl ?_
  refine g_aload_n (q := 0) dX0_same_62 rfl rfl ?_
  refine g_getC (x := tm_v μ0 1 8) 2 dX0_same_63 fX0_57 rfl (by decide) (sk_1 hs.S) (hs.v (tWs_noF rfl)) ?_
  obtain ⟨c1, h⟩ := h
  refine g_getC (x := tm_v μ0 (tm_v μ0 1 8) 2) 0 dX0_same_66 fX0_200 rfl c1.1.1 (hs.k ▸ c1.1.2) (hs.v (tWs_ob rfl c1)) ?_
  refine g_icmp_gt (tgt := 165) dX0_same_69 (by decide) (fun c2 => ?_) (fun c3 => ?_)
  · have h := h.1 c2
    refine g_aload_n (q := 0) dX0_same_165 rfl rfl ?_
    refine g_aload_n (q := 0) dX0_same_166 rfl rfl ?_
    refine g_getC (x := 15) 2 dX0_same_167 fX0_72 rfl (by decide) (sk_1 hs.S) (sv_1_17 hs.S) ?_
    refine g_iload_n (q := 1) dX0_same_170 rfl rfl ?_
    obtain ⟨c4, h⟩ := h
    refine g_iaload dX0_same_171 (by decide) (sk_15 hs.S) c4.1 (t_lt (sn_15 hs.S) c4.2) ?_
    refine g_aload_n (q := 0) dX0_same_172 rfl rfl ?_
    refine g_getC (x := 15) 2 dX0_same_173 fX0_72 rfl (by decide) (sk_1 hs.S) (sv_1_17 hs.S) ?_
    refine g_iload_n (q := 2) dX0_same_176 rfl rfl ?_
    obtain ⟨c5, h⟩ := h
    refine g_iaload dX0_same_177 (by decide) (sk_15 hs.S) c5.1 (t_lt (sn_15 hs.S) c5.2) ?_
    refine g_icmp_ne (tgt := 185) dX0_same_178 (by decide) (fun c6 => ?_) (fun c7 => ?_)
    · have h := h.1 c6
      refine g_iconst dX0_same_185 (by decide) ?_
      refine g_callV1 dX0_same_186 kX0_gives q856 q858 qs17 (ci := 0) rfl (by decide) rfl (by omega) (by decide) (sk_1 hs.S) (Nat.le_of_ble_eq_true rfl) (Nat.le_refl _) (Nat.le_refl _) (t_kI hs (tWs_sub rfl) (pX0_gives hs.S) (fun r10 μ8 hs e9 => ?_))
      obtain ⟨rfl, e9⟩ := e9
      have h := h μ8 e9
      exact g_iret dX0_same_189 rfl (Nat.le_refl _) (Nat.le_refl _) ⟨_, rfl, hs, h⟩
    · have h := h.2 c7
      refine g_iconst dX0_same_181 (by decide) ?_
      refine g_goto (tgt := 186) dX0_same_182 (by decide) ?_
      refine g_callV1 dX0_same_186 kX0_gives q856 q858 qs17 (ci := 0) rfl (by decide) rfl (by omega) (by decide) (sk_1 hs.S) (Nat.le_of_ble_eq_true rfl) (Nat.le_refl _) (Nat.le_refl _) (t_kI hs (tWs_sub rfl) (pX0_gives hs.S) (fun r13 μ11 hs e12 => ?_))
      obtain ⟨rfl, e12⟩ := e12
      have h := h μ11 e12
      exact g_iret dX0_same_189 rfl (Nat.le_refl _) (Nat.le_refl _) ⟨_, rfl, hs, h⟩
  · have h := h.2 c3
    refine g_iconst dX0_same_72 (by decide) ?_
    refine g_istore (L' := [(0, 2, 1), (1, 0, v1), (2, 0, v2), (3, 0, v3), (4, 0, 0)]) dX0_same_73 (by decide) [1, 2, 3, 4, 0] rfl ?_
    exact h
theorem uX0_same_75 {d : Nat} {μ0 μ : tm_M} {K : Int → tm_M → Prop} {v1 v2 v3 v4 : Int} (hs : tFr (tWs [15, 16] [(1, 10)]) μ0 μ)
    (h : (ob μ0 (tm_v μ0 1 8) 4) ∧ ((tm_v μ0 (tm_v μ0 1 8) 2 ≤ v4 → (∀ μ4, μ4 = tm_c μ 16 0 15 0 8 → hI (tWs [15, 16] [(1, 10)]) μ0 mX0_same d K 61 [(0, 2, 1), (1, 0, v1), (2, 0, v2), (3, 0, w32 (v3 + 1))] [] μ4)) ∧ (v4 < tm_v μ0 (tm_v μ0 1 8) 2 → (0 ≤ v4 ∧ v4 < 8) ∧ ((∀ μ6, μ6 = tm_w μ 16 v4 v4 → (∀ x7, x7 = w32 (v4 - 1) → hI (tWs [15, 16] [(1, 10)]) μ0 mX0_same d K 102 [(0, 2, 1), (1, 0, v1), (2, 0, v2), (3, 0, v3), (4, 0, v4), (5, 0, x7)] [] μ6)))))) :
    hI (tWs [15, 16] [(1, 10)]) μ0 mX0_same d K 75 [(0, 2, 1), (1, 0, v1), (2, 0, v2), (3, 0, v3), (4, 0, v4)] [] μ := by
  refine g_iload (q := 4) dX0_same_75 rfl ?_
  refine g_aload_n (q := 0) dX0_same_77 rfl rfl ?_
  refine g_getC (x := tm_v μ0 1 8) 2 dX0_same_78 fX0_57 rfl (by decide) (sk_1 hs.S) (hs.v (tWs_noF rfl)) ?_
  obtain ⟨c1, h⟩ := h
  refine g_getC (x := tm_v μ0 (tm_v μ0 1 8) 2) 0 dX0_same_81 fX0_200 rfl c1.1.1 (hs.k ▸ c1.1.2) (hs.v (tWs_ob rfl c1)) ?_
  refine g_icmp_ge (tgt := 144) dX0_same_84 (by decide) (fun c2 => ?_) (fun c3 => ?_)
  · have h := h.1 c2
    refine g_aload_n (q := 0) dX0_same_144 rfl rfl ?_
    refine g_getC (x := 16) 2 dX0_same_145 fX0_75 rfl (by decide) (sk_1 hs.S) (sv_1_18 hs.S) ?_
    refine g_iconst dX0_same_148 (by decide) ?_
    refine g_aload_n (q := 0) dX0_same_149 rfl rfl ?_
    refine g_getC (x := 15) 2 dX0_same_150 fX0_72 rfl (by decide) (sk_1 hs.S) (sv_1_17 hs.S) ?_
    refine g_iconst dX0_same_153 (by decide) ?_
    refine g_bipush dX0_same_154 ⟨by decide, by decide, rfl⟩ ?_
    refine g_copy dX0_same_156 q650 (Or.inl rfl) (by decide) (sk_16 hs.S) (by decide) (sk_15 hs.S) (by decide) (by decide) (by decide) (by rw [(sn_16 hs.S)]; decide) (by rw [(sn_15 hs.S)]; decide) (Nat.le_of_ble_eq_true rfl) (p_c hs sf_15 (fun z => tWs_in z rfl) fun μ4 eμ4 hs => ?_)
    have h := h μ4 eμ4
    refine g_iinc (q := 3) dX0_same_159 (by decide) rfl [1, 2, 3, 0, 4] rfl ?_
    refine g_goto (tgt := 61) dX0_same_162 (by decide) ?_
    exact g_less [0, 1, 2, 3] rfl h
  · have h := h.2 c3
    refine g_aload_n (q := 0) dX0_same_87 rfl rfl ?_
    refine g_getC (x := 16) 2 dX0_same_88 fX0_75 rfl (by decide) (sk_1 hs.S) (sv_1_18 hs.S) ?_
    refine g_iload (q := 4) dX0_same_91 rfl ?_
    refine g_iload (q := 4) dX0_same_93 rfl ?_
    obtain ⟨c5, h⟩ := h
    refine g_iastore dX0_same_95 (by decide) (sk_16 hs.S) c5.1 (t_lt (sn_16 hs.S) c5.2) (p_w hs sf_16 (tWs_in _ rfl) fun μ6 eμ6 hs => ?_)
    have h := h μ6 eμ6
    refine g_iload (q := 4) dX0_same_96 rfl ?_
    refine g_iconst dX0_same_98 (by decide) ?_
    refine g_isub dX0_same_99 ?_
    refine g_istoreN (fun z => [(0, 2, 1), (1, 0, v1), (2, 0, v2), (3, 0, v3), (4, 0, v4), (5, 0, z)]) dX0_same_100 (by decide) [1, 2, 3, 4, 5, 0] (fun _ => rfl) (fun x7 ex7 => ?_)
    have h := h x7 ex7
    exact h
theorem uX0_same_102 {d : Nat} {μ0 μ : tm_M} {K : Int → tm_M → Prop} {v1 v2 v3 v4 v5 : Int} (hd : 1 ≤ d) (hs : tFr (tWs [15, 16] [(1, 10)]) μ0 μ)
    (h : (v5 < 0 → hI (tWs [15, 16] [(1, 10)]) μ0 mX0_same d K 75 [(0, 2, 1), (1, 0, v1), (2, 0, v2), (3, 0, v3), (4, 0, w32 (v4 + 1))] [] μ) ∧ (0 ≤ v5 → cI (tWs [] []) mX0_areLike (d - 1) [(2, 1), (0, v5), (0, v4)] μ (fun r4 μ3 => (r4 = 0 → hI (tWs [15, 16] [(1, 10)]) μ0 mX0_same d K 102 [(0, 2, 1), (1, 0, v1), (2, 0, v2), (3, 0, v3), (4, 0, v4), (5, 0, w32 (v5 + -1))] [] μ3) ∧ (r4 ≠ 0 → (0 ≤ v5 ∧ v5 < 8) ∧ ((0 ≤ v4 ∧ v4 < 8) ∧ ((∀ μ9, μ9 = tm_w μ3 16 v4 (tm_v μ3 16 v5) → hI (tWs [15, 16] [(1, 10)]) μ0 mX0_same d K 102 [(0, 2, 1), (1, 0, v1), (2, 0, v2), (3, 0, v3), (4, 0, v4), (5, 0, w32 (v5 + -1))] [] μ9))))))) :
    hI (tWs [15, 16] [(1, 10)]) μ0 mX0_same d K 102 [(0, 2, 1), (1, 0, v1), (2, 0, v2), (3, 0, v3), (4, 0, v4), (5, 0, v5)] [] μ := by
  refine g_iload (q := 5) dX0_same_102 rfl ?_
  refine g_if_lt (tgt := 138) dX0_same_104 (by decide) (fun c1 => ?_) (fun c2 => ?_)
  · have h := h.1 c1
    refine g_iinc (q := 4) dX0_same_138 (by decide) rfl [1, 2, 3, 4, 0, 5] rfl ?_
    refine g_goto (tgt := 75) dX0_same_141 (by decide) ?_
    exact g_less [0, 1, 2, 3, 4] rfl h
  · have h := h.2 c2
    refine g_aload_n (q := 0) dX0_same_107 rfl rfl ?_
    refine g_iload (q := 5) dX0_same_108 rfl ?_
    refine g_iload (q := 4) dX0_same_110 rfl ?_
    refine g_callV2 dX0_same_112 kX0_areLike q1058 q1060 qs32 (ci := 0) rfl (by decide) rfl (by omega) (by decide) (sk_1 hs.S) (Nat.le_of_ble_eq_true rfl) (Nat.le_refl _) (Nat.le_refl _) (t_kI hs (tWs_sub rfl) h (fun r4 μ3 hs h => ?_))
    refine g_if_eq (tgt := 132) dX0_same_115 (by decide) (fun c5 => ?_) (fun c6 => ?_)
    · have h := h.1 c5
      refine g_iinc (q := 5) dX0_same_132 (by decide) rfl [1, 2, 3, 4, 5, 0] rfl ?_
      refine g_goto (tgt := 102) dX0_same_135 (by decide) ?_
      exact h
    · have h := h.2 c6
      refine g_aload_n (q := 0) dX0_same_118 rfl rfl ?_
      refine g_getC (x := 16) 2 dX0_same_119 fX0_75 rfl (by decide) (sk_1 hs.S) (sv_1_18 hs.S) ?_
      refine g_iload (q := 4) dX0_same_122 rfl ?_
      refine g_aload_n (q := 0) dX0_same_124 rfl rfl ?_
      refine g_getC (x := 16) 2 dX0_same_125 fX0_75 rfl (by decide) (sk_1 hs.S) (sv_1_18 hs.S) ?_
      refine g_iload (q := 5) dX0_same_128 rfl ?_
      obtain ⟨c7, h⟩ := h
      refine g_iaload dX0_same_130 (by decide) (sk_16 hs.S) c7.1 (t_lt (sn_16 hs.S) c7.2) ?_
      obtain ⟨c8, h⟩ := h
      refine g_iastore dX0_same_131 (by decide) (sk_16 hs.S) c8.1 (t_lt (sn_16 hs.S) c8.2) (p_w hs sf_16 (tWs_in _ rfl) fun μ9 eμ9 hs => ?_)
      have h := h μ9 eμ9
      refine g_iinc (q := 5) dX0_same_132 (by decide) rfl [1, 2, 3, 4, 5, 0] rfl ?_
      refine g_goto (tgt := 102) dX0_same_135 (by decide) ?_
      exact h
