theorem uX0_apart_0 {d : Nat} {μ0 μ : tm_M} {K : Int → tm_M → Prop} {v1 v2 v3 v4 v5 : Int} (hs : tFr (tWs [7, 8, 48, 49] []) μ0 μ)
    (h : hLo (tWs [7, 8, 48, 49] []) μ0 mX0_apart d K 3 [(0, 2, 1), (1, 0, v1), (2, 0, v2), (3, 0, v3), (4, 0, v4), (5, 0, v5), (6, 0, 0)] [] μ) :
    hLo (tWs [7, 8, 48, 49] []) μ0 mX0_apart d K 0 [(0, 2, 1), (1, 0, v1), (2, 0, v2), (3, 0, v3), (4, 0, v4), (5, 0, v5)] [] μ := by
  refine g_iconst dX0_apart_0 (by decide) ?_
  refine g_istore (L' := [(0, 2, 1), (1, 0, v1), (2, 0, v2), (3, 0, v3), (4, 0, v4), (5, 0, v5), (6, 0, 0)]) dX0_apart_1 (by decide) [1, 2, 3, 4, 5, 6, 0] rfl ?_
  exact h
theorem uX0_apart_3 {d : Nat} {μ0 μ : tm_M} {K : Int → tm_M → Prop} {ν : tm_M} {v1 v2 v3 v4 v5 v6 : Int} (hd : 1 ≤ d) (hs : tFr (tWs [7, 8, 48, 49] []) μ0 μ)
    (h : (64 ≤ v6 → hLo (tWs [7, 8, 48, 49] []) μ0 mX0_apart d K 77 [(0, 2, 1), (1, 0, v1), (2, 0, v2), (3, 0, v3), (4, 0, v4), (5, 0, v5), (6, 0, 0)] [] μ) ∧ (v6 < 64 → (∀ x3, x3 = w32 (v6.tdiv 8) → (∀ x4, x4 = v6.tmod 8 → (JU μ0 ν) ∧ ((¬ (0 ≤ x3 ∧ x3 < tm_v ν 65 20) → (0 ≤ v6 ∧ v6 < 64) ∧ ((∀ μ9, μ9 = tm_w μ 48 v6 0 → hLo (tWs [7, 8, 48, 49] []) μ0 mX0_apart d K 3 [(0, 2, 1), (1, 0, v1), (2, 0, v2), (3, 0, v3), (4, 0, v4), (5, 0, v5), (6, 0, w32 (v6 + 1))] [] μ9))) ∧ (0 ≤ x3 ∧ x3 < tm_v ν 65 20 → (¬ (0 ≤ x4 ∧ x4 < tm_v ν 65 20) → (0 ≤ v6 ∧ v6 < 64) ∧ ((∀ μ13, μ13 = tm_w μ 48 v6 0 → hLo (tWs [7, 8, 48, 49] []) μ0 mX0_apart d K 3 [(0, 2, 1), (1, 0, v1), (2, 0, v2), (3, 0, v3), (4, 0, v4), (5, 0, v5), (6, 0, w32 (v6 + 1))] [] μ13))) ∧ (0 ≤ x4 ∧ x4 < tm_v ν 65 20 → (x3 = x4 → (0 ≤ v6 ∧ v6 < 64) ∧ ((∀ μ17, μ17 = tm_w μ 48 v6 0 → hLo (tWs [7, 8, 48, 49] []) μ0 mX0_apart d K 3 [(0, 2, 1), (1, 0, v1), (2, 0, v2), (3, 0, v3), (4, 0, v4), (5, 0, v5), (6, 0, w32 (v6 + 1))] [] μ17))) ∧ (x3 ≠ x4 → (JU μ0 ν ∧ y_p ν x3 ∧ y_p ν x4) ∧ ((0 ≤ v6 ∧ v6 < 64) ∧ ((∀ μ20, μ20 = tm_w μ 48 v6 (y_likely ν x3 x4) → hLo (tWs [7, 8, 48, 49] []) μ0 mX0_apart d K 3 [(0, 2, 1), (1, 0, v1), (2, 0, v2), (3, 0, v3), (4, 0, v4), (5, 0, v5), (6, 0, w32 (v6 + 1))] [] μ20))))))))))) :
    hLo (tWs [7, 8, 48, 49] []) μ0 mX0_apart d K 3 [(0, 2, 1), (1, 0, v1), (2, 0, v2), (3, 0, v3), (4, 0, v4), (5, 0, v5), (6, 0, v6)] [] μ := by
  refine g_iload (q := 6) dX0_apart_3 rfl ?_
  refine g_bipush dX0_apart_5 ⟨by decide, by decide, rfl⟩ ?_
  refine g_icmp_ge (tgt := 74) dX0_apart_7 (by decide) (fun c1 => ?_) (fun c2 => ?_)
  · have h := h.1 c1
    refine g_iconst dX0_apart_74 (by decide) ?_
    refine g_istore (L' := [(0, 2, 1), (1, 0, v1), (2, 0, v2), (3, 0, v3), (4, 0, v4), (5, 0, v5), (6, 0, 0)]) dX0_apart_75 (by decide) [1, 2, 3, 4, 5, 6, 0] rfl ?_
    exact h
  · have h := h.2 c2
    refine g_iload (q := 6) dX0_apart_10 rfl ?_
    refine g_bipush dX0_apart_12 ⟨by decide, by decide, rfl⟩ ?_
    refine g_idiv dX0_apart_14 (by decide) ?_
    refine g_istoreN (fun z => [(0, 2, 1), (1, 0, v1), (2, 0, v2), (3, 0, v3), (4, 0, v4), (5, 0, v5), (6, 0, v6), (7, 0, z)]) dX0_apart_15 (by decide) [1, 2, 3, 4, 5, 6, 7, 0] (fun _ => rfl) (fun x3 ex3 => ?_)
    have h := h x3 ex3
    refine g_iload (q := 6) dX0_apart_17 rfl ?_
    refine g_bipush dX0_apart_19 ⟨by decide, by decide, rfl⟩ ?_
    refine g_irem dX0_apart_21 (by decide) ?_
    refine g_istoreN (fun z => [(0, 2, 1), (1, 0, v1), (2, 0, v2), (3, 0, v3), (4, 0, v4), (5, 0, v5), (6, 0, v6), (7, 0, x3), (8, 0, z)]) dX0_apart_22 (by decide) [1, 2, 3, 4, 5, 6, 7, 8, 0] (fun _ => rfl) (fun x4 ex4 => ?_)
    have h := h x4 ex4
    refine g_aload_n (q := 0) dX0_apart_24 rfl rfl ?_
    refine g_getC (x := 48) 2 dX0_apart_25 fX0_114 rfl (by decide) (sk_1 hs.S) (sv_1_35 hs.S) ?_
    refine g_iload (q := 6) dX0_apart_28 rfl ?_
    refine g_aload_n (q := 0) dX0_apart_30 rfl rfl ?_
    refine g_iload (q := 7) dX0_apart_31 rfl ?_
    obtain ⟨c5, h⟩ := h
    refine g_callV1 dX0_apart_33 kX0_isPlace q872 q874 qs18 (ci := 0) rfl (by decide) rfl (by omega) (by decide) (sk_1 hs.S) (Nat.le_of_ble_eq_true rfl) (Nat.le_refl _) (Nat.le_refl _) (t_pI hs (pX0_isPlace hs (tWs_TC ⟨rfl, rfl⟩) c5) ?_)
    refine g_if_eq (tgt := 66) dX0_apart_36 (by decide) (fun c6 => ?_) (fun c7 => ?_)
    · have h := h.1 (b2i_0.mp c6)
      refine g_lconst0 dX0_apart_66 ?_
      obtain ⟨c8, h⟩ := h
      refine g_lastore dX0_apart_67 (by decide) (sk_48 hs.S) c8.1 (t_lt (sn_48 hs.S) c8.2) (p_w hs sf_48 (tWs_in _ rfl) fun μ9 eμ9 hs => ?_)
      have h := h μ9 eμ9
      refine g_iinc (q := 6) dX0_apart_68 (by decide) rfl [1, 2, 3, 4, 5, 6, 0, 7, 8] rfl ?_
      refine g_goto (tgt := 3) dX0_apart_71 (by decide) ?_
      exact g_less [0, 1, 2, 3, 4, 5, 6] rfl h
    · have h := h.2 (b2i_1.mp c7)
      refine g_aload_n (q := 0) dX0_apart_39 rfl rfl ?_
      refine g_iload (q := 8) dX0_apart_40 rfl ?_
      refine g_callV1 dX0_apart_42 kX0_isPlace q872 q874 qs18 (ci := 0) rfl (by decide) rfl (by omega) (by decide) (sk_1 hs.S) (Nat.le_of_ble_eq_true rfl) (Nat.le_refl _) (Nat.le_refl _) (t_pI hs (pX0_isPlace hs (tWs_TC ⟨rfl, rfl⟩) c5) ?_)
      refine g_if_eq (tgt := 66) dX0_apart_45 (by decide) (fun c10 => ?_) (fun c11 => ?_)
      · have h := h.1 (b2i_0.mp c10)
        refine g_lconst0 dX0_apart_66 ?_
        obtain ⟨c12, h⟩ := h
        refine g_lastore dX0_apart_67 (by decide) (sk_48 hs.S) c12.1 (t_lt (sn_48 hs.S) c12.2) (p_w hs sf_48 (tWs_in _ rfl) fun μ13 eμ13 hs => ?_)
        have h := h μ13 eμ13
        refine g_iinc (q := 6) dX0_apart_68 (by decide) rfl [1, 2, 3, 4, 5, 6, 0, 7, 8] rfl ?_
        refine g_goto (tgt := 3) dX0_apart_71 (by decide) ?_
        exact g_less [0, 1, 2, 3, 4, 5, 6] rfl h
      · have h := h.2 (b2i_1.mp c11)
        refine g_iload (q := 7) dX0_apart_48 rfl ?_
        refine g_iload (q := 8) dX0_apart_50 rfl ?_
        refine g_icmp_eq (tgt := 66) dX0_apart_52 (by decide) (fun c14 => ?_) (fun c15 => ?_)
        · have h := h.1 c14
          refine g_lconst0 dX0_apart_66 ?_
          obtain ⟨c16, h⟩ := h
          refine g_lastore dX0_apart_67 (by decide) (sk_48 hs.S) c16.1 (t_lt (sn_48 hs.S) c16.2) (p_w hs sf_48 (tWs_in _ rfl) fun μ17 eμ17 hs => ?_)
          have h := h μ17 eμ17
          refine g_iinc (q := 6) dX0_apart_68 (by decide) rfl [1, 2, 3, 4, 5, 6, 0, 7, 8] rfl ?_
          refine g_goto (tgt := 3) dX0_apart_71 (by decide) ?_
          exact g_less [0, 1, 2, 3, 4, 5, 6] rfl h
        · have h := h.2 c15
          refine g_aload_n (q := 0) dX0_apart_55 rfl rfl ?_
          refine g_iload (q := 7) dX0_apart_56 rfl ?_
          refine g_iload (q := 8) dX0_apart_58 rfl ?_
          obtain ⟨c18, h⟩ := h
          refine g_callV2 dX0_apart_60 kX0_likely q1035 q1037 qs29 (ci := 0) rfl (by decide) rfl (by omega) (by decide) (sk_1 hs.S) (Nat.le_of_ble_eq_true rfl) (Nat.le_refl _) (Nat.le_refl _) (t_pL hs (pX0_likely hs (tWs_TC ⟨rfl, rfl⟩) c18) ?_)
          refine g_goto (tgt := 67) dX0_apart_63 (by decide) ?_
          obtain ⟨c19, h⟩ := h
          refine g_lastore dX0_apart_67 (by decide) (sk_48 hs.S) c19.1 (t_lt (sn_48 hs.S) c19.2) (p_w hs sf_48 (tWs_in _ rfl) fun μ20 eμ20 hs => ?_)
          have h := h μ20 eμ20
          refine g_iinc (q := 6) dX0_apart_68 (by decide) rfl [1, 2, 3, 4, 5, 6, 0, 7, 8] rfl ?_
          refine g_goto (tgt := 3) dX0_apart_71 (by decide) ?_
          exact g_less [0, 1, 2, 3, 4, 5, 6] rfl h
theorem uX0_apart_77 {d : Nat} {μ0 μ : tm_M} {K : Int → tm_M → Prop} {v1 v2 v3 v4 v5 v6 : Int} (hs : tFr (tWs [7, 8, 48, 49] []) μ0 μ)
    (h : (v5 ≤ v6 → hLo (tWs [7, 8, 48, 49] []) μ0 mX0_apart d K 281 [(0, 2, 1), (6, 1, 0), (8, 0, 0)] [] μ) ∧ (v6 < v5 → hLo (tWs [7, 8, 48, 49] []) μ0 mX0_apart d K 87 [(0, 2, 1), (1, 0, v1), (2, 0, v2), (3, 0, v3), (4, 0, v4), (5, 0, v5), (6, 0, v6), (7, 0, 0)] [] μ)) :
    hLo (tWs [7, 8, 48, 49] []) μ0 mX0_apart d K 77 [(0, 2, 1), (1, 0, v1), (2, 0, v2), (3, 0, v3), (4, 0, v4), (5, 0, v5), (6, 0, v6)] [] μ := by
  refine g_iload (q := 6) dX0_apart_77 rfl ?_
  refine g_iload (q := 5) dX0_apart_79 rfl ?_
  refine g_icmp_ge (tgt := 275) dX0_apart_81 (by decide) (fun c1 => ?_) (fun c2 => ?_)
  · have h := h.1 c1
    refine g_lconst0 dX0_apart_275 ?_
    refine g_lstore (L' := [(0, 2, 1), (1, 0, v1), (2, 0, v2), (3, 0, v3), (4, 0, v4), (5, 0, v5), (6, 1, 0)]) dX0_apart_276 (by decide) [1, 2, 3, 4, 5, 6, 0] rfl ?_
    refine g_iconst dX0_apart_278 (by decide) ?_
    refine g_istore (L' := [(0, 2, 1), (1, 0, v1), (2, 0, v2), (3, 0, v3), (4, 0, v4), (5, 0, v5), (6, 1, 0), (8, 0, 0)]) dX0_apart_279 (by decide) [1, 2, 3, 4, 5, 6, 7, 0] rfl ?_
    exact g_less [0, 6, 7] rfl h
  · have h := h.2 c2
    refine g_iconst dX0_apart_84 (by decide) ?_
    refine g_istore (L' := [(0, 2, 1), (1, 0, v1), (2, 0, v2), (3, 0, v3), (4, 0, v4), (5, 0, v5), (6, 0, v6), (7, 0, 0)]) dX0_apart_85 (by decide) [1, 2, 3, 4, 5, 6, 7, 0] rfl ?_
    exact h
theorem uX0_apart_87 {d : Nat} {μ0 μ : tm_M} {K : Int → tm_M → Prop} {v1 v2 v3 v4 v5 v6 v7 : Int} (hs : tFr (tWs [7, 8, 48, 49] []) μ0 μ)
    (h : (64 ≤ v7 → hLo (tWs [7, 8, 48, 49] []) μ0 mX0_apart d K 111 [(0, 2, 1), (1, 0, v1), (2, 0, v2), (3, 0, v3), (4, 0, v4), (5, 0, v5), (6, 0, v6), (7, 0, 0)] [] μ) ∧ (v7 < 64 → (0 ≤ v7 ∧ v7 < 64) ∧ ((∀ μ4, μ4 = tm_w μ 49 v7 0 → hLo (tWs [7, 8, 48, 49] []) μ0 mX0_apart d K 87 [(0, 2, 1), (1, 0, v1), (2, 0, v2), (3, 0, v3), (4, 0, v4), (5, 0, v5), (6, 0, v6), (7, 0, w32 (v7 + 1))] [] μ4)))) :
    hLo (tWs [7, 8, 48, 49] []) μ0 mX0_apart d K 87 [(0, 2, 1), (1, 0, v1), (2, 0, v2), (3, 0, v3), (4, 0, v4), (5, 0, v5), (6, 0, v6), (7, 0, v7)] [] μ := by
  refine g_iload (q := 7) dX0_apart_87 rfl ?_
  refine g_bipush dX0_apart_89 ⟨by decide, by decide, rfl⟩ ?_
  refine g_icmp_ge (tgt := 108) dX0_apart_91 (by decide) (fun c1 => ?_) (fun c2 => ?_)
  · have h := h.1 c1
    refine g_iconst dX0_apart_108 (by decide) ?_
    refine g_istore (L' := [(0, 2, 1), (1, 0, v1), (2, 0, v2), (3, 0, v3), (4, 0, v4), (5, 0, v5), (6, 0, v6), (7, 0, 0)]) dX0_apart_109 (by decide) [1, 2, 3, 4, 5, 6, 7, 0] rfl ?_
    exact h
  · have h := h.2 c2
    refine g_aload_n (q := 0) dX0_apart_94 rfl rfl ?_
    refine g_getC (x := 49) 2 dX0_apart_95 fX0_118 rfl (by decide) (sk_1 hs.S) (sv_1_36 hs.S) ?_
    refine g_iload (q := 7) dX0_apart_98 rfl ?_
    refine g_lconst0 dX0_apart_100 ?_
    obtain ⟨c3, h⟩ := h
    refine g_lastore dX0_apart_101 (by decide) (sk_49 hs.S) c3.1 (t_lt (sn_49 hs.S) c3.2) (p_w hs sf_49 (tWs_in _ rfl) fun μ4 eμ4 hs => ?_)
    have h := h μ4 eμ4
    refine g_iinc (q := 7) dX0_apart_102 (by decide) rfl [1, 2, 3, 4, 5, 6, 7, 0] rfl ?_
    refine g_goto (tgt := 87) dX0_apart_105 (by decide) ?_
    exact h
theorem uX0_apart_111 {d : Nat} {μ0 μ : tm_M} {K : Int → tm_M → Prop} {v1 v2 v3 v4 v5 v6 v7 : Int} (hs : tFr (tWs [7, 8, 48, 49] []) μ0 μ)
    (h : (64 ≤ v7 → (∀ μ3, μ3 = tm_c μ 49 0 48 0 64 → hLo (tWs [7, 8, 48, 49] []) μ0 mX0_apart d K 77 [(0, 2, 1), (1, 0, v1), (2, 0, v2), (3, 0, v3), (4, 0, v4), (5, 0, v5), (6, 0, w32 (v6 + 1))] [] μ3)) ∧ (v7 < 64 → hLo (tWs [7, 8, 48, 49] []) μ0 mX0_apart d K 121 [(0, 2, 1), (1, 0, v1), (2, 0, v2), (3, 0, v3), (4, 0, v4), (5, 0, v5), (6, 0, v6), (7, 0, v7), (8, 0, 0)] [] μ)) :
    hLo (tWs [7, 8, 48, 49] []) μ0 mX0_apart d K 111 [(0, 2, 1), (1, 0, v1), (2, 0, v2), (3, 0, v3), (4, 0, v4), (5, 0, v5), (6, 0, v6), (7, 0, v7)] [] μ := by
  refine g_iload (q := 7) dX0_apart_111 rfl ?_
  refine g_bipush dX0_apart_113 ⟨by decide, by decide, rfl⟩ ?_
  refine g_icmp_ge (tgt := 254) dX0_apart_115 (by decide) (fun c1 => ?_) (fun c2 => ?_)
  · have h := h.1 c1
    refine g_aload_n (q := 0) dX0_apart_254 rfl rfl ?_
    refine g_getC (x := 49) 2 dX0_apart_255 fX0_118 rfl (by decide) (sk_1 hs.S) (sv_1_36 hs.S) ?_
    refine g_iconst dX0_apart_258 (by decide) ?_
    refine g_aload_n (q := 0) dX0_apart_259 rfl rfl ?_
    refine g_getC (x := 48) 2 dX0_apart_260 fX0_114 rfl (by decide) (sk_1 hs.S) (sv_1_35 hs.S) ?_
    refine g_iconst dX0_apart_263 (by decide) ?_
    refine g_bipush dX0_apart_264 ⟨by decide, by decide, rfl⟩ ?_
    refine g_copyL dX0_apart_266 q650 (by decide) (sk_49 hs.S) (by decide) (sk_48 hs.S) (by decide) (by decide) (by decide) (by rw [(sn_49 hs.S)]; decide) (by rw [(sn_48 hs.S)]; decide) (Nat.le_of_ble_eq_true rfl) (p_c hs sf_48 (fun z => tWs_in z rfl) fun μ3 eμ3 hs => ?_)
    have h := h μ3 eμ3
    refine g_iinc (q := 6) dX0_apart_269 (by decide) rfl [1, 2, 3, 4, 5, 6, 0, 7] rfl ?_
    refine g_goto (tgt := 77) dX0_apart_272 (by decide) ?_
    exact g_less [0, 1, 2, 3, 4, 5, 6] rfl h
  · have h := h.2 c2
    refine g_iconst dX0_apart_118 (by decide) ?_
    refine g_istore (L' := [(0, 2, 1), (1, 0, v1), (2, 0, v2), (3, 0, v3), (4, 0, v4), (5, 0, v5), (6, 0, v6), (7, 0, v7), (8, 0, 0)]) dX0_apart_119 (by decide) [1, 2, 3, 4, 5, 6, 7, 8, 0] rfl ?_
    exact h
theorem uX0_apart_121 {d : Nat} {μ0 μ : tm_M} {K : Int → tm_M → Prop} {v1 v2 v3 v4 v5 v6 v7 v8 : Int} (hd : 1 ≤ d) (hs : tFr (tWs [7, 8, 48, 49] []) μ0 μ)
    (h : (4 ≤ v8 → hLo (tWs [7, 8, 48, 49] []) μ0 mX0_apart d K 248 [(0, 2, 1), (1, 0, v1), (2, 0, v2), (3, 0, v3), (4, 0, v4), (5, 0, v5), (6, 0, v6), (7, 0, v7)] [] μ) ∧ (v8 < 4 → (0 ≤ v7 ∧ v7 < 64) ∧ ((tm_v μ 48 v7 ≤ 0 → hLo (tWs [7, 8, 48, 49] []) μ0 mX0_apart d K 248 [(0, 2, 1), (1, 0, v1), (2, 0, v2), (3, 0, v3), (4, 0, v4), (5, 0, v5), (6, 0, v6), (7, 0, v7)] [] μ) ∧ (0 < tm_v μ 48 v7 → (v8.tmod 2 ≠ 0 → (2 ≤ v8 → (∀ x10, x10 = w64 ((w32 (16 - v3)) * (w32 (16 - v3))) → (x10 ≠ 0 → (v8.tmod 2 ≠ 0 → (2 ≤ v8 → cI (tWs [7, 8] []) mX0_walks (d - 1) [(2, 1), (0, v2), (0, v2), (0, v7), (0, v4)] μ (fun r18 μ17 => (r18 = -1 → hLo (tWs [7, 8, 48, 49] []) μ0 mX0_apart d K 242 [(0, 2, 1), (1, 0, v1), (2, 0, v2), (3, 0, v3), (4, 0, v4), (5, 0, v5), (6, 0, v6), (7, 0, v7), (8, 0, v8)] [] μ17) ∧ (r18 ≠ -1 → (0 ≤ r18 ∧ r18 < 64) ∧ ((∀ μ22, μ22 = tm_w μ17 49 r18 (w64 ((tm_v μ17 49 r18) + (w64 ((tm_v μ17 48 v7) * x10)))) → hLo (tWs [7, 8, 48, 49] []) μ0 mX0_apart d K 242 [(0, 2, 1), (1, 0, v1), (2, 0, v2), (3, 0, v3), (4, 0, v4), (5, 0, v5), (6, 0, v6), (7, 0, v7), (8, 0, v8)] [] μ22))))) ∧ (v8 < 2 → cI (tWs [7, 8] []) mX0_walks (d - 1) [(2, 1), (0, v2), (0, v1), (0, v7), (0, v4)] μ (fun r24 μ23 => (r24 = -1 → hLo (tWs [7, 8, 48, 49] []) μ0 mX0_apart d K 242 [(0, 2, 1), (1, 0, v1), (2, 0, v2), (3, 0, v3), (4, 0, v4), (5, 0, v5), (6, 0, v6), (7, 0, v7), (8, 0, v8)] [] μ23) ∧ (r24 ≠ -1 → (0 ≤ r24 ∧ r24 < 64) ∧ ((∀ μ28, μ28 = tm_w μ23 49 r24 (w64 ((tm_v μ23 49 r24) + (w64 ((tm_v μ23 48 v7) * x10)))) → hLo (tWs [7, 8, 48, 49] []) μ0 mX0_apart d K 242 [(0, 2, 1), (1, 0, v1), (2, 0, v2), (3, 0, v3), (4, 0, v4), (5, 0, v5), (6, 0, v6), (7, 0, v7), (8, 0, v8)] [] μ28)))))) ∧ (v8.tmod 2 = 0 → (2 ≤ v8 → cI (tWs [7, 8] []) mX0_walks (d - 1) [(2, 1), (0, v1), (0, v2), (0, v7), (0, v4)] μ (fun r32 μ31 => (r32 = -1 → hLo (tWs [7, 8, 48, 49] []) μ0 mX0_apart d K 242 [(0, 2, 1), (1, 0, v1), (2, 0, v2), (3, 0, v3), (4, 0, v4), (5, 0, v5), (6, 0, v6), (7, 0, v7), (8, 0, v8)] [] μ31) ∧ (r32 ≠ -1 → (0 ≤ r32 ∧ r32 < 64) ∧ ((∀ μ36, μ36 = tm_w μ31 49 r32 (w64 ((tm_v μ31 49 r32) + (w64 ((tm_v μ31 48 v7) * x10)))) → hLo (tWs [7, 8, 48, 49] []) μ0 mX0_apart d K 242 [(0, 2, 1), (1, 0, v1), (2, 0, v2), (3, 0, v3), (4, 0, v4), (5, 0, v5), (6, 0, v6), (7, 0, v7), (8, 0, v8)] [] μ36))))) ∧ (v8 < 2 → cI (tWs [7, 8] []) mX0_walks (d - 1) [(2, 1), (0, v1), (0, v1), (0, v7), (0, v4)] μ (fun r38 μ37 => (r38 = -1 → hLo (tWs [7, 8, 48, 49] []) μ0 mX0_apart d K 242 [(0, 2, 1), (1, 0, v1), (2, 0, v2), (3, 0, v3), (4, 0, v4), (5, 0, v5), (6, 0, v6), (7, 0, v7), (8, 0, v8)] [] μ37) ∧ (r38 ≠ -1 → (0 ≤ r38 ∧ r38 < 64) ∧ ((∀ μ42, μ42 = tm_w μ37 49 r38 (w64 ((tm_v μ37 49 r38) + (w64 ((tm_v μ37 48 v7) * x10)))) → hLo (tWs [7, 8, 48, 49] []) μ0 mX0_apart d K 242 [(0, 2, 1), (1, 0, v1), (2, 0, v2), (3, 0, v3), (4, 0, v4), (5, 0, v5), (6, 0, v6), (7, 0, v7), (8, 0, v8)] [] μ42))))))) ∧ (x10 = 0 → hLo (tWs [7, 8, 48, 49] []) μ0 mX0_apart d K 242 [(0, 2, 1), (1, 0, v1), (2, 0, v2), (3, 0, v3), (4, 0, v4), (5, 0, v5), (6, 0, v6), (7, 0, v7), (8, 0, v8)] [] μ))) ∧ (v8 < 2 → (∀ x43, x43 = w64 ((w32 (16 - v3)) * v3) → (x43 ≠ 0 → (v8.tmod 2 ≠ 0 → (2 ≤ v8 → cI (tWs [7, 8] []) mX0_walks (d - 1) [(2, 1), (0, v2), (0, v2), (0, v7), (0, v4)] μ (fun r51 μ50 => (r51 = -1 → hLo (tWs [7, 8, 48, 49] []) μ0 mX0_apart d K 242 [(0, 2, 1), (1, 0, v1), (2, 0, v2), (3, 0, v3), (4, 0, v4), (5, 0, v5), (6, 0, v6), (7, 0, v7), (8, 0, v8)] [] μ50) ∧ (r51 ≠ -1 → (0 ≤ r51 ∧ r51 < 64) ∧ ((∀ μ55, μ55 = tm_w μ50 49 r51 (w64 ((tm_v μ50 49 r51) + (w64 ((tm_v μ50 48 v7) * x43)))) → hLo (tWs [7, 8, 48, 49] []) μ0 mX0_apart d K 242 [(0, 2, 1), (1, 0, v1), (2, 0, v2), (3, 0, v3), (4, 0, v4), (5, 0, v5), (6, 0, v6), (7, 0, v7), (8, 0, v8)] [] μ55))))) ∧ (v8 < 2 → cI (tWs [7, 8] []) mX0_walks (d - 1) [(2, 1), (0, v2), (0, v1), (0, v7), (0, v4)] μ (fun r57 μ56 => (r57 = -1 → hLo (tWs [7, 8, 48, 49] []) μ0 mX0_apart d K 242 [(0, 2, 1), (1, 0, v1), (2, 0, v2), (3, 0, v3), (4, 0, v4), (5, 0, v5), (6, 0, v6), (7, 0, v7), (8, 0, v8)] [] μ56) ∧ (r57 ≠ -1 → (0 ≤ r57 ∧ r57 < 64) ∧ ((∀ μ61, μ61 = tm_w μ56 49 r57 (w64 ((tm_v μ56 49 r57) + (w64 ((tm_v μ56 48 v7) * x43)))) → hLo (tWs [7, 8, 48, 49] []) μ0 mX0_apart d K 242 [(0, 2, 1), (1, 0, v1), (2, 0, v2), (3, 0, v3), (4, 0, v4), (5, 0, v5), (6, 0, v6), (7, 0, v7), (8, 0, v8)] [] μ61)))))) ∧ (v8.tmod 2 = 0 → (2 ≤ v8 → cI (tWs [7, 8] []) mX0_walks (d - 1) [(2, 1), (0, v1), (0, v2), (0, v7), (0, v4)] μ (fun r65 μ64 => (r65 = -1 → hLo (tWs [7, 8, 48, 49] []) μ0 mX0_apart d K 242 [(0, 2, 1), (1, 0, v1), (2, 0, v2), (3, 0, v3), (4, 0, v4), (5, 0, v5), (6, 0, v6), (7, 0, v7), (8, 0, v8)] [] μ64) ∧ (r65 ≠ -1 → (0 ≤ r65 ∧ r65 < 64) ∧ ((∀ μ69, μ69 = tm_w μ64 49 r65 (w64 ((tm_v μ64 49 r65) + (w64 ((tm_v μ64 48 v7) * x43)))) → hLo (tWs [7, 8, 48, 49] []) μ0 mX0_apart d K 242 [(0, 2, 1), (1, 0, v1), (2, 0, v2), (3, 0, v3), (4, 0, v4), (5, 0, v5), (6, 0, v6), (7, 0, v7), (8, 0, v8)] [] μ69))))) ∧ (v8 < 2 → cI (tWs [7, 8] []) mX0_walks (d - 1) [(2, 1), (0, v1), (0, v1), (0, v7), (0, v4)] μ (fun r71 μ70 => (r71 = -1 → hLo (tWs [7, 8, 48, 49] []) μ0 mX0_apart d K 242 [(0, 2, 1), (1, 0, v1), (2, 0, v2), (3, 0, v3), (4, 0, v4), (5, 0, v5), (6, 0, v6), (7, 0, v7), (8, 0, v8)] [] μ70) ∧ (r71 ≠ -1 → (0 ≤ r71 ∧ r71 < 64) ∧ ((∀ μ75, μ75 = tm_w μ70 49 r71 (w64 ((tm_v μ70 49 r71) + (w64 ((tm_v μ70 48 v7) * x43)))) → hLo (tWs [7, 8, 48, 49] []) μ0 mX0_apart d K 242 [(0, 2, 1), (1, 0, v1), (2, 0, v2), (3, 0, v3), (4, 0, v4), (5, 0, v5), (6, 0, v6), (7, 0, v7), (8, 0, v8)] [] μ75))))))) ∧ (x43 = 0 → hLo (tWs [7, 8, 48, 49] []) μ0 mX0_apart d K 242 [(0, 2, 1), (1, 0, v1), (2, 0, v2), (3, 0, v3), (4, 0, v4), (5, 0, v5), (6, 0, v6), (7, 0, v7), (8, 0, v8)] [] μ)))) ∧ (v8.tmod 2 = 0 → (2 ≤ v8 → (∀ x78, x78 = w64 (v3 * (w32 (16 - v3))) → (x78 ≠ 0 → (v8.tmod 2 ≠ 0 → (2 ≤ v8 → cI (tWs [7, 8] []) mX0_walks (d - 1) [(2, 1), (0, v2), (0, v2), (0, v7), (0, v4)] μ (fun r86 μ85 => (r86 = -1 → hLo (tWs [7, 8, 48, 49] []) μ0 mX0_apart d K 242 [(0, 2, 1), (1, 0, v1), (2, 0, v2), (3, 0, v3), (4, 0, v4), (5, 0, v5), (6, 0, v6), (7, 0, v7), (8, 0, v8)] [] μ85) ∧ (r86 ≠ -1 → (0 ≤ r86 ∧ r86 < 64) ∧ ((∀ μ90, μ90 = tm_w μ85 49 r86 (w64 ((tm_v μ85 49 r86) + (w64 ((tm_v μ85 48 v7) * x78)))) → hLo (tWs [7, 8, 48, 49] []) μ0 mX0_apart d K 242 [(0, 2, 1), (1, 0, v1), (2, 0, v2), (3, 0, v3), (4, 0, v4), (5, 0, v5), (6, 0, v6), (7, 0, v7), (8, 0, v8)] [] μ90))))) ∧ (v8 < 2 → cI (tWs [7, 8] []) mX0_walks (d - 1) [(2, 1), (0, v2), (0, v1), (0, v7), (0, v4)] μ (fun r92 μ91 => (r92 = -1 → hLo (tWs [7, 8, 48, 49] []) μ0 mX0_apart d K 242 [(0, 2, 1), (1, 0, v1), (2, 0, v2), (3, 0, v3), (4, 0, v4), (5, 0, v5), (6, 0, v6), (7, 0, v7), (8, 0, v8)] [] μ91) ∧ (r92 ≠ -1 → (0 ≤ r92 ∧ r92 < 64) ∧ ((∀ μ96, μ96 = tm_w μ91 49 r92 (w64 ((tm_v μ91 49 r92) + (w64 ((tm_v μ91 48 v7) * x78)))) → hLo (tWs [7, 8, 48, 49] []) μ0 mX0_apart d K 242 [(0, 2, 1), (1, 0, v1), (2, 0, v2), (3, 0, v3), (4, 0, v4), (5, 0, v5), (6, 0, v6), (7, 0, v7), (8, 0, v8)] [] μ96)))))) ∧ (v8.tmod 2 = 0 → (2 ≤ v8 → cI (tWs [7, 8] []) mX0_walks (d - 1) [(2, 1), (0, v1), (0, v2), (0, v7), (0, v4)] μ (fun r100 μ99 => (r100 = -1 → hLo (tWs [7, 8, 48, 49] []) μ0 mX0_apart d K 242 [(0, 2, 1), (1, 0, v1), (2, 0, v2), (3, 0, v3), (4, 0, v4), (5, 0, v5), (6, 0, v6), (7, 0, v7), (8, 0, v8)] [] μ99) ∧ (r100 ≠ -1 → (0 ≤ r100 ∧ r100 < 64) ∧ ((∀ μ104, μ104 = tm_w μ99 49 r100 (w64 ((tm_v μ99 49 r100) + (w64 ((tm_v μ99 48 v7) * x78)))) → hLo (tWs [7, 8, 48, 49] []) μ0 mX0_apart d K 242 [(0, 2, 1), (1, 0, v1), (2, 0, v2), (3, 0, v3), (4, 0, v4), (5, 0, v5), (6, 0, v6), (7, 0, v7), (8, 0, v8)] [] μ104))))) ∧ (v8 < 2 → cI (tWs [7, 8] []) mX0_walks (d - 1) [(2, 1), (0, v1), (0, v1), (0, v7), (0, v4)] μ (fun r106 μ105 => (r106 = -1 → hLo (tWs [7, 8, 48, 49] []) μ0 mX0_apart d K 242 [(0, 2, 1), (1, 0, v1), (2, 0, v2), (3, 0, v3), (4, 0, v4), (5, 0, v5), (6, 0, v6), (7, 0, v7), (8, 0, v8)] [] μ105) ∧ (r106 ≠ -1 → (0 ≤ r106 ∧ r106 < 64) ∧ ((∀ μ110, μ110 = tm_w μ105 49 r106 (w64 ((tm_v μ105 49 r106) + (w64 ((tm_v μ105 48 v7) * x78)))) → hLo (tWs [7, 8, 48, 49] []) μ0 mX0_apart d K 242 [(0, 2, 1), (1, 0, v1), (2, 0, v2), (3, 0, v3), (4, 0, v4), (5, 0, v5), (6, 0, v6), (7, 0, v7), (8, 0, v8)] [] μ110))))))) ∧ (x78 = 0 → hLo (tWs [7, 8, 48, 49] []) μ0 mX0_apart d K 242 [(0, 2, 1), (1, 0, v1), (2, 0, v2), (3, 0, v3), (4, 0, v4), (5, 0, v5), (6, 0, v6), (7, 0, v7), (8, 0, v8)] [] μ))) ∧ (v8 < 2 → (∀ x111, x111 = w64 (v3 * v3) → (x111 ≠ 0 → (v8.tmod 2 ≠ 0 → (2 ≤ v8 → cI (tWs [7, 8] []) mX0_walks (d - 1) [(2, 1), (0, v2), (0, v2), (0, v7), (0, v4)] μ (fun r119 μ118 => (r119 = -1 → hLo (tWs [7, 8, 48, 49] []) μ0 mX0_apart d K 242 [(0, 2, 1), (1, 0, v1), (2, 0, v2), (3, 0, v3), (4, 0, v4), (5, 0, v5), (6, 0, v6), (7, 0, v7), (8, 0, v8)] [] μ118) ∧ (r119 ≠ -1 → (0 ≤ r119 ∧ r119 < 64) ∧ ((∀ μ123, μ123 = tm_w μ118 49 r119 (w64 ((tm_v μ118 49 r119) + (w64 ((tm_v μ118 48 v7) * x111)))) → hLo (tWs [7, 8, 48, 49] []) μ0 mX0_apart d K 242 [(0, 2, 1), (1, 0, v1), (2, 0, v2), (3, 0, v3), (4, 0, v4), (5, 0, v5), (6, 0, v6), (7, 0, v7), (8, 0, v8)] [] μ123))))) ∧ (v8 < 2 → cI (tWs [7, 8] []) mX0_walks (d - 1) [(2, 1), (0, v2), (0, v1), (0, v7), (0, v4)] μ (fun r125 μ124 => (r125 = -1 → hLo (tWs [7, 8, 48, 49] []) μ0 mX0_apart d K 242 [(0, 2, 1), (1, 0, v1), (2, 0, v2), (3, 0, v3), (4, 0, v4), (5, 0, v5), (6, 0, v6), (7, 0, v7), (8, 0, v8)] [] μ124) ∧ (r125 ≠ -1 → (0 ≤ r125 ∧ r125 < 64) ∧ ((∀ μ129, μ129 = tm_w μ124 49 r125 (w64 ((tm_v μ124 49 r125) + (w64 ((tm_v μ124 48 v7) * x111)))) → hLo (tWs [7, 8, 48, 49] []) μ0 mX0_apart d K 242 [(0, 2, 1), (1, 0, v1), (2, 0, v2), (3, 0, v3), (4, 0, v4), (5, 0, v5), (6, 0, v6), (7, 0, v7), (8, 0, v8)] [] μ129)))))) ∧ (v8.tmod 2 = 0 → (2 ≤ v8 → cI (tWs [7, 8] []) mX0_walks (d - 1) [(2, 1), (0, v1), (0, v2), (0, v7), (0, v4)] μ (fun r133 μ132 => (r133 = -1 → hLo (tWs [7, 8, 48, 49] []) μ0 mX0_apart d K 242 [(0, 2, 1), (1, 0, v1), (2, 0, v2), (3, 0, v3), (4, 0, v4), (5, 0, v5), (6, 0, v6), (7, 0, v7), (8, 0, v8)] [] μ132) ∧ (r133 ≠ -1 → (0 ≤ r133 ∧ r133 < 64) ∧ ((∀ μ137, μ137 = tm_w μ132 49 r133 (w64 ((tm_v μ132 49 r133) + (w64 ((tm_v μ132 48 v7) * x111)))) → hLo (tWs [7, 8, 48, 49] []) μ0 mX0_apart d K 242 [(0, 2, 1), (1, 0, v1), (2, 0, v2), (3, 0, v3), (4, 0, v4), (5, 0, v5), (6, 0, v6), (7, 0, v7), (8, 0, v8)] [] μ137))))) ∧ (v8 < 2 → cI (tWs [7, 8] []) mX0_walks (d - 1) [(2, 1), (0, v1), (0, v1), (0, v7), (0, v4)] μ (fun r139 μ138 => (r139 = -1 → hLo (tWs [7, 8, 48, 49] []) μ0 mX0_apart d K 242 [(0, 2, 1), (1, 0, v1), (2, 0, v2), (3, 0, v3), (4, 0, v4), (5, 0, v5), (6, 0, v6), (7, 0, v7), (8, 0, v8)] [] μ138) ∧ (r139 ≠ -1 → (0 ≤ r139 ∧ r139 < 64) ∧ ((∀ μ143, μ143 = tm_w μ138 49 r139 (w64 ((tm_v μ138 49 r139) + (w64 ((tm_v μ138 48 v7) * x111)))) → hLo (tWs [7, 8, 48, 49] []) μ0 mX0_apart d K 242 [(0, 2, 1), (1, 0, v1), (2, 0, v2), (3, 0, v3), (4, 0, v4), (5, 0, v5), (6, 0, v6), (7, 0, v7), (8, 0, v8)] [] μ143))))))) ∧ (x111 = 0 → hLo (tWs [7, 8, 48, 49] []) μ0 mX0_apart d K 242 [(0, 2, 1), (1, 0, v1), (2, 0, v2), (3, 0, v3), (4, 0, v4), (5, 0, v5), (6, 0, v6), (7, 0, v7), (8, 0, v8)] [] μ)))))))) :
    hLo (tWs [7, 8, 48, 49] []) μ0 mX0_apart d K 121 [(0, 2, 1), (1, 0, v1), (2, 0, v2), (3, 0, v3), (4, 0, v4), (5, 0, v5), (6, 0, v6), (7, 0, v7), (8, 0, v8)] [] μ := by
  refine g_iload (q := 8) dX0_apart_121 rfl ?_
  refine g_iconst dX0_apart_123 (by decide) ?_
  refine g_icmp_ge (tgt := 248) dX0_apart_124 (by decide) (fun c1 => ?_) (fun c2 => ?_)
  · have h := h.1 c1
    exact g_less [0, 1, 2, 3, 4, 5, 6, 7] rfl h
  · have h := h.2 c2
    refine g_aload_n (q := 0) dX0_apart_127 rfl rfl ?_
    refine g_getC (x := 48) 2 dX0_apart_128 fX0_114 rfl (by decide) (sk_1 hs.S) (sv_1_35 hs.S) ?_
    refine g_iload (q := 7) dX0_apart_131 rfl ?_
    obtain ⟨c3, h⟩ := h
    refine g_laload dX0_apart_133 (by decide) (sk_48 hs.S) c3.1 (t_lt (sn_48 hs.S) c3.2) ?_
    refine g_lconst0 dX0_apart_134 ?_
    refine g_lcmp_le (tgt := 248) dX0_apart_135 dX0_apart_136 (by decide) (fun c4 => ?_) (fun c5 => ?_)
    · have h := h.1 c4
      exact g_less [0, 1, 2, 3, 4, 5, 6, 7] rfl h
    · have h := h.2 c5
      refine g_iload (q := 8) dX0_apart_139 rfl ?_
      refine g_iconst dX0_apart_141 (by decide) ?_
      refine g_irem dX0_apart_142 (by decide) ?_
      refine g_if_ne (tgt := 150) dX0_apart_143 (by decide) (fun c6 => ?_) (fun c7 => ?_)
      · have h := h.1 c6
        refine g_bipush dX0_apart_150 ⟨by decide, by decide, rfl⟩ ?_
        refine g_iload_n (q := 3) dX0_apart_152 rfl rfl ?_
        refine g_isub dX0_apart_153 ?_
        refine g_i2l dX0_apart_154 ?_
        refine g_iload (q := 8) dX0_apart_155 rfl ?_
        refine g_iconst dX0_apart_157 (by decide) ?_
        refine g_icmp_ge (tgt := 165) dX0_apart_158 (by decide) (fun c8 => ?_) (fun c9 => ?_)
        · have h := h.1 c8
          refine g_bipush dX0_apart_165 ⟨by decide, by decide, rfl⟩ ?_
          refine g_iload_n (q := 3) dX0_apart_167 rfl rfl ?_
          refine g_isub dX0_apart_168 ?_
          refine g_i2l dX0_apart_169 ?_
          refine g_lmul dX0_apart_170 ?_
          refine g_lstoreN (fun z => [(0, 2, 1), (1, 0, v1), (2, 0, v2), (3, 0, v3), (4, 0, v4), (5, 0, v5), (6, 0, v6), (7, 0, v7), (8, 0, v8), (9, 1, z)]) dX0_apart_171 (by decide) [1, 2, 3, 4, 5, 6, 7, 8, 9, 0] (fun _ => rfl) (fun x10 ex10 => ?_)
          have h := h x10 ex10
          refine g_lload (q := 9) dX0_apart_173 rfl ?_
          refine g_lconst0 dX0_apart_175 ?_
          refine g_lcmp_ne (tgt := 183) dX0_apart_176 dX0_apart_177 (by decide) (fun c11 => ?_) (fun c12 => ?_)
          · have h := h.1 c11
            refine g_aload_n (q := 0) dX0_apart_183 rfl rfl ?_
            refine g_iload (q := 8) dX0_apart_184 rfl ?_
            refine g_iconst dX0_apart_186 (by decide) ?_
            refine g_irem dX0_apart_187 (by decide) ?_
            refine g_if_ne (tgt := 195) dX0_apart_188 (by decide) (fun c13 => ?_) (fun c14 => ?_)
            · have h := h.1 c13
              refine g_iload_n (q := 2) dX0_apart_195 rfl rfl ?_
              refine g_iload (q := 8) dX0_apart_196 rfl ?_
              refine g_iconst dX0_apart_198 (by decide) ?_
              refine g_icmp_ge (tgt := 206) dX0_apart_199 (by decide) (fun c15 => ?_) (fun c16 => ?_)
              · have h := h.1 c15
                refine g_iload_n (q := 2) dX0_apart_206 rfl rfl ?_
                refine g_iload (q := 7) dX0_apart_207 rfl ?_
                refine g_iload (q := 4) dX0_apart_209 rfl ?_
                refine g_callV4 dX0_apart_211 kX0_walks q1122 q1124 qs42 (ci := 0) rfl (by decide) rfl (by omega) (by decide) (sk_1 hs.S) (Nat.le_of_ble_eq_true rfl) (Nat.le_refl _) (Nat.le_refl _) (t_kI hs (tWs_sub rfl) h (fun r18 μ17 hs h => ?_))
                refine g_istore (L' := [(0, 2, 1), (1, 0, v1), (2, 0, v2), (3, 0, v3), (4, 0, v4), (5, 0, v5), (6, 0, v6), (7, 0, v7), (8, 0, v8), (9, 1, x10), (11, 0, r18)]) dX0_apart_214 (by decide) [1, 2, 3, 4, 5, 6, 7, 8, 9, 10, 0] rfl ?_
                refine g_iload (q := 10) dX0_apart_216 rfl ?_
                refine g_iconst dX0_apart_218 (by decide) ?_
                refine g_icmp_eq (tgt := 242) dX0_apart_219 (by decide) (fun c19 => ?_) (fun c20 => ?_)
                · have h := h.1 c19
                  exact g_less [0, 1, 2, 3, 4, 5, 6, 7, 8] rfl h
                · have h := h.2 c20
                  refine g_aload_n (q := 0) dX0_apart_222 rfl rfl ?_
                  refine g_getC (x := 49) 2 dX0_apart_223 fX0_118 rfl (by decide) (sk_1 hs.S) (sv_1_36 hs.S) ?_
                  refine g_iload (q := 10) dX0_apart_226 rfl ?_
                  refine g_dup2_11 dX0_apart_228 (by decide) (by decide) ?_
                  obtain ⟨c21, h⟩ := h
                  refine g_laload dX0_apart_229 (by decide) (sk_49 hs.S) c21.1 (t_lt (sn_49 hs.S) c21.2) ?_
                  refine g_aload_n (q := 0) dX0_apart_230 rfl rfl ?_
                  refine g_getC (x := 48) 2 dX0_apart_231 fX0_114 rfl (by decide) (sk_1 hs.S) (sv_1_35 hs.S) ?_
                  refine g_iload (q := 7) dX0_apart_234 rfl ?_
                  refine g_laload dX0_apart_236 (by decide) (sk_48 hs.S) c3.1 (t_lt (sn_48 hs.S) c3.2) ?_
                  refine g_lload (q := 9) dX0_apart_237 rfl ?_
                  refine g_lmul dX0_apart_239 ?_
                  refine g_ladd dX0_apart_240 ?_
                  refine g_lastore dX0_apart_241 (by decide) (sk_49 hs.S) c21.1 (t_lt (sn_49 hs.S) c21.2) (p_w hs sf_49 (tWs_in _ rfl) fun μ22 eμ22 hs => ?_)
                  have h := h μ22 eμ22
                  exact g_less [0, 1, 2, 3, 4, 5, 6, 7, 8] rfl h
              · have h := h.2 c16
                refine g_iload_n (q := 1) dX0_apart_202 rfl rfl ?_
                refine g_goto (tgt := 207) dX0_apart_203 (by decide) ?_
                refine g_iload (q := 7) dX0_apart_207 rfl ?_
                refine g_iload (q := 4) dX0_apart_209 rfl ?_
                refine g_callV4 dX0_apart_211 kX0_walks q1122 q1124 qs42 (ci := 0) rfl (by decide) rfl (by omega) (by decide) (sk_1 hs.S) (Nat.le_of_ble_eq_true rfl) (Nat.le_refl _) (Nat.le_refl _) (t_kI hs (tWs_sub rfl) h (fun r24 μ23 hs h => ?_))
                refine g_istore (L' := [(0, 2, 1), (1, 0, v1), (2, 0, v2), (3, 0, v3), (4, 0, v4), (5, 0, v5), (6, 0, v6), (7, 0, v7), (8, 0, v8), (9, 1, x10), (11, 0, r24)]) dX0_apart_214 (by decide) [1, 2, 3, 4, 5, 6, 7, 8, 9, 10, 0] rfl ?_
                refine g_iload (q := 10) dX0_apart_216 rfl ?_
                refine g_iconst dX0_apart_218 (by decide) ?_
                refine g_icmp_eq (tgt := 242) dX0_apart_219 (by decide) (fun c25 => ?_) (fun c26 => ?_)
                · have h := h.1 c25
                  exact g_less [0, 1, 2, 3, 4, 5, 6, 7, 8] rfl h
                · have h := h.2 c26
                  refine g_aload_n (q := 0) dX0_apart_222 rfl rfl ?_
                  refine g_getC (x := 49) 2 dX0_apart_223 fX0_118 rfl (by decide) (sk_1 hs.S) (sv_1_36 hs.S) ?_
                  refine g_iload (q := 10) dX0_apart_226 rfl ?_
                  refine g_dup2_11 dX0_apart_228 (by decide) (by decide) ?_
                  obtain ⟨c27, h⟩ := h
                  refine g_laload dX0_apart_229 (by decide) (sk_49 hs.S) c27.1 (t_lt (sn_49 hs.S) c27.2) ?_
                  refine g_aload_n (q := 0) dX0_apart_230 rfl rfl ?_
                  refine g_getC (x := 48) 2 dX0_apart_231 fX0_114 rfl (by decide) (sk_1 hs.S) (sv_1_35 hs.S) ?_
                  refine g_iload (q := 7) dX0_apart_234 rfl ?_
                  refine g_laload dX0_apart_236 (by decide) (sk_48 hs.S) c3.1 (t_lt (sn_48 hs.S) c3.2) ?_
                  refine g_lload (q := 9) dX0_apart_237 rfl ?_
                  refine g_lmul dX0_apart_239 ?_
                  refine g_ladd dX0_apart_240 ?_
                  refine g_lastore dX0_apart_241 (by decide) (sk_49 hs.S) c27.1 (t_lt (sn_49 hs.S) c27.2) (p_w hs sf_49 (tWs_in _ rfl) fun μ28 eμ28 hs => ?_)
                  have h := h μ28 eμ28
                  exact g_less [0, 1, 2, 3, 4, 5, 6, 7, 8] rfl h
            · have h := h.2 c14
              refine g_iload_n (q := 1) dX0_apart_191 rfl rfl ?_
              refine g_goto (tgt := 196) dX0_apart_192 (by decide) ?_
              refine g_iload (q := 8) dX0_apart_196 rfl ?_
              refine g_iconst dX0_apart_198 (by decide) ?_
              refine g_icmp_ge (tgt := 206) dX0_apart_199 (by decide) (fun c29 => ?_) (fun c30 => ?_)
              · have h := h.1 c29
                refine g_iload_n (q := 2) dX0_apart_206 rfl rfl ?_
                refine g_iload (q := 7) dX0_apart_207 rfl ?_
                refine g_iload (q := 4) dX0_apart_209 rfl ?_
                refine g_callV4 dX0_apart_211 kX0_walks q1122 q1124 qs42 (ci := 0) rfl (by decide) rfl (by omega) (by decide) (sk_1 hs.S) (Nat.le_of_ble_eq_true rfl) (Nat.le_refl _) (Nat.le_refl _) (t_kI hs (tWs_sub rfl) h (fun r32 μ31 hs h => ?_))
                refine g_istore (L' := [(0, 2, 1), (1, 0, v1), (2, 0, v2), (3, 0, v3), (4, 0, v4), (5, 0, v5), (6, 0, v6), (7, 0, v7), (8, 0, v8), (9, 1, x10), (11, 0, r32)]) dX0_apart_214 (by decide) [1, 2, 3, 4, 5, 6, 7, 8, 9, 10, 0] rfl ?_
                refine g_iload (q := 10) dX0_apart_216 rfl ?_
                refine g_iconst dX0_apart_218 (by decide) ?_
                refine g_icmp_eq (tgt := 242) dX0_apart_219 (by decide) (fun c33 => ?_) (fun c34 => ?_)
                · have h := h.1 c33
                  exact g_less [0, 1, 2, 3, 4, 5, 6, 7, 8] rfl h
                · have h := h.2 c34
                  refine g_aload_n (q := 0) dX0_apart_222 rfl rfl ?_
                  refine g_getC (x := 49) 2 dX0_apart_223 fX0_118 rfl (by decide) (sk_1 hs.S) (sv_1_36 hs.S) ?_
                  refine g_iload (q := 10) dX0_apart_226 rfl ?_
                  refine g_dup2_11 dX0_apart_228 (by decide) (by decide) ?_
                  obtain ⟨c35, h⟩ := h
                  refine g_laload dX0_apart_229 (by decide) (sk_49 hs.S) c35.1 (t_lt (sn_49 hs.S) c35.2) ?_
                  refine g_aload_n (q := 0) dX0_apart_230 rfl rfl ?_
                  refine g_getC (x := 48) 2 dX0_apart_231 fX0_114 rfl (by decide) (sk_1 hs.S) (sv_1_35 hs.S) ?_
                  refine g_iload (q := 7) dX0_apart_234 rfl ?_
                  refine g_laload dX0_apart_236 (by decide) (sk_48 hs.S) c3.1 (t_lt (sn_48 hs.S) c3.2) ?_
                  refine g_lload (q := 9) dX0_apart_237 rfl ?_
                  refine g_lmul dX0_apart_239 ?_
                  refine g_ladd dX0_apart_240 ?_
                  refine g_lastore dX0_apart_241 (by decide) (sk_49 hs.S) c35.1 (t_lt (sn_49 hs.S) c35.2) (p_w hs sf_49 (tWs_in _ rfl) fun μ36 eμ36 hs => ?_)
                  have h := h μ36 eμ36
                  exact g_less [0, 1, 2, 3, 4, 5, 6, 7, 8] rfl h
              · have h := h.2 c30
                refine g_iload_n (q := 1) dX0_apart_202 rfl rfl ?_
                refine g_goto (tgt := 207) dX0_apart_203 (by decide) ?_
                refine g_iload (q := 7) dX0_apart_207 rfl ?_
                refine g_iload (q := 4) dX0_apart_209 rfl ?_
                refine g_callV4 dX0_apart_211 kX0_walks q1122 q1124 qs42 (ci := 0) rfl (by decide) rfl (by omega) (by decide) (sk_1 hs.S) (Nat.le_of_ble_eq_true rfl) (Nat.le_refl _) (Nat.le_refl _) (t_kI hs (tWs_sub rfl) h (fun r38 μ37 hs h => ?_))
                refine g_istore (L' := [(0, 2, 1), (1, 0, v1), (2, 0, v2), (3, 0, v3), (4, 0, v4), (5, 0, v5), (6, 0, v6), (7, 0, v7), (8, 0, v8), (9, 1, x10), (11, 0, r38)]) dX0_apart_214 (by decide) [1, 2, 3, 4, 5, 6, 7, 8, 9, 10, 0] rfl ?_
                refine g_iload (q := 10) dX0_apart_216 rfl ?_
                refine g_iconst dX0_apart_218 (by decide) ?_
                refine g_icmp_eq (tgt := 242) dX0_apart_219 (by decide) (fun c39 => ?_) (fun c40 => ?_)
                · have h := h.1 c39
                  exact g_less [0, 1, 2, 3, 4, 5, 6, 7, 8] rfl h
                · have h := h.2 c40
                  refine g_aload_n (q := 0) dX0_apart_222 rfl rfl ?_
                  refine g_getC (x := 49) 2 dX0_apart_223 fX0_118 rfl (by decide) (sk_1 hs.S) (sv_1_36 hs.S) ?_
                  refine g_iload (q := 10) dX0_apart_226 rfl ?_
                  refine g_dup2_11 dX0_apart_228 (by decide) (by decide) ?_
                  obtain ⟨c41, h⟩ := h
                  refine g_laload dX0_apart_229 (by decide) (sk_49 hs.S) c41.1 (t_lt (sn_49 hs.S) c41.2) ?_
                  refine g_aload_n (q := 0) dX0_apart_230 rfl rfl ?_
                  refine g_getC (x := 48) 2 dX0_apart_231 fX0_114 rfl (by decide) (sk_1 hs.S) (sv_1_35 hs.S) ?_
                  refine g_iload (q := 7) dX0_apart_234 rfl ?_
                  refine g_laload dX0_apart_236 (by decide) (sk_48 hs.S) c3.1 (t_lt (sn_48 hs.S) c3.2) ?_
                  refine g_lload (q := 9) dX0_apart_237 rfl ?_
                  refine g_lmul dX0_apart_239 ?_
                  refine g_ladd dX0_apart_240 ?_
                  refine g_lastore dX0_apart_241 (by decide) (sk_49 hs.S) c41.1 (t_lt (sn_49 hs.S) c41.2) (p_w hs sf_49 (tWs_in _ rfl) fun μ42 eμ42 hs => ?_)
                  have h := h μ42 eμ42
                  exact g_less [0, 1, 2, 3, 4, 5, 6, 7, 8] rfl h
          · have h := h.2 c12
            refine g_goto (tgt := 242) dX0_apart_180 (by decide) ?_
            exact g_less [0, 1, 2, 3, 4, 5, 6, 7, 8] rfl h
        · have h := h.2 c9
          refine g_iload_n (q := 3) dX0_apart_161 rfl rfl ?_
          refine g_goto (tgt := 169) dX0_apart_162 (by decide) ?_
          refine g_i2l dX0_apart_169 ?_
          refine g_lmul dX0_apart_170 ?_
          refine g_lstoreN (fun z => [(0, 2, 1), (1, 0, v1), (2, 0, v2), (3, 0, v3), (4, 0, v4), (5, 0, v5), (6, 0, v6), (7, 0, v7), (8, 0, v8), (9, 1, z)]) dX0_apart_171 (by decide) [1, 2, 3, 4, 5, 6, 7, 8, 9, 0] (fun _ => rfl) (fun x43 ex43 => ?_)
          have h := h x43 ex43
          refine g_lload (q := 9) dX0_apart_173 rfl ?_
          refine g_lconst0 dX0_apart_175 ?_
          refine g_lcmp_ne (tgt := 183) dX0_apart_176 dX0_apart_177 (by decide) (fun c44 => ?_) (fun c45 => ?_)
          · have h := h.1 c44
            refine g_aload_n (q := 0) dX0_apart_183 rfl rfl ?_
            refine g_iload (q := 8) dX0_apart_184 rfl ?_
            refine g_iconst dX0_apart_186 (by decide) ?_
            refine g_irem dX0_apart_187 (by decide) ?_
            refine g_if_ne (tgt := 195) dX0_apart_188 (by decide) (fun c46 => ?_) (fun c47 => ?_)
            · have h := h.1 c46
              refine g_iload_n (q := 2) dX0_apart_195 rfl rfl ?_
              refine g_iload (q := 8) dX0_apart_196 rfl ?_
              refine g_iconst dX0_apart_198 (by decide) ?_
              refine g_icmp_ge (tgt := 206) dX0_apart_199 (by decide) (fun c48 => ?_) (fun c49 => ?_)
              · have h := h.1 c48
                refine g_iload_n (q := 2) dX0_apart_206 rfl rfl ?_
                refine g_iload (q := 7) dX0_apart_207 rfl ?_
                refine g_iload (q := 4) dX0_apart_209 rfl ?_
                refine g_callV4 dX0_apart_211 kX0_walks q1122 q1124 qs42 (ci := 0) rfl (by decide) rfl (by omega) (by decide) (sk_1 hs.S) (Nat.le_of_ble_eq_true rfl) (Nat.le_refl _) (Nat.le_refl _) (t_kI hs (tWs_sub rfl) h (fun r51 μ50 hs h => ?_))
                refine g_istore (L' := [(0, 2, 1), (1, 0, v1), (2, 0, v2), (3, 0, v3), (4, 0, v4), (5, 0, v5), (6, 0, v6), (7, 0, v7), (8, 0, v8), (9, 1, x43), (11, 0, r51)]) dX0_apart_214 (by decide) [1, 2, 3, 4, 5, 6, 7, 8, 9, 10, 0] rfl ?_
                refine g_iload (q := 10) dX0_apart_216 rfl ?_
                refine g_iconst dX0_apart_218 (by decide) ?_
                refine g_icmp_eq (tgt := 242) dX0_apart_219 (by decide) (fun c52 => ?_) (fun c53 => ?_)
                · have h := h.1 c52
                  exact g_less [0, 1, 2, 3, 4, 5, 6, 7, 8] rfl h
                · have h := h.2 c53
                  refine g_aload_n (q := 0) dX0_apart_222 rfl rfl ?_
                  refine g_getC (x := 49) 2 dX0_apart_223 fX0_118 rfl (by decide) (sk_1 hs.S) (sv_1_36 hs.S) ?_
                  refine g_iload (q := 10) dX0_apart_226 rfl ?_
                  refine g_dup2_11 dX0_apart_228 (by decide) (by decide) ?_
                  obtain ⟨c54, h⟩ := h
                  refine g_laload dX0_apart_229 (by decide) (sk_49 hs.S) c54.1 (t_lt (sn_49 hs.S) c54.2) ?_
                  refine g_aload_n (q := 0) dX0_apart_230 rfl rfl ?_
                  refine g_getC (x := 48) 2 dX0_apart_231 fX0_114 rfl (by decide) (sk_1 hs.S) (sv_1_35 hs.S) ?_
                  refine g_iload (q := 7) dX0_apart_234 rfl ?_
                  refine g_laload dX0_apart_236 (by decide) (sk_48 hs.S) c3.1 (t_lt (sn_48 hs.S) c3.2) ?_
                  refine g_lload (q := 9) dX0_apart_237 rfl ?_
                  refine g_lmul dX0_apart_239 ?_
                  refine g_ladd dX0_apart_240 ?_
                  refine g_lastore dX0_apart_241 (by decide) (sk_49 hs.S) c54.1 (t_lt (sn_49 hs.S) c54.2) (p_w hs sf_49 (tWs_in _ rfl) fun μ55 eμ55 hs => ?_)
                  have h := h μ55 eμ55
                  exact g_less [0, 1, 2, 3, 4, 5, 6, 7, 8] rfl h
              · have h := h.2 c49
                refine g_iload_n (q := 1) dX0_apart_202 rfl rfl ?_
                refine g_goto (tgt := 207) dX0_apart_203 (by decide) ?_
                refine g_iload (q := 7) dX0_apart_207 rfl ?_
                refine g_iload (q := 4) dX0_apart_209 rfl ?_
                refine g_callV4 dX0_apart_211 kX0_walks q1122 q1124 qs42 (ci := 0) rfl (by decide) rfl (by omega) (by decide) (sk_1 hs.S) (Nat.le_of_ble_eq_true rfl) (Nat.le_refl _) (Nat.le_refl _) (t_kI hs (tWs_sub rfl) h (fun r57 μ56 hs h => ?_))
                refine g_istore (L' := [(0, 2, 1), (1, 0, v1), (2, 0, v2), (3, 0, v3), (4, 0, v4), (5, 0, v5), (6, 0, v6), (7, 0, v7), (8, 0, v8), (9, 1, x43), (11, 0, r57)]) dX0_apart_214 (by decide) [1, 2, 3, 4, 5, 6, 7, 8, 9, 10, 0] rfl ?_
                refine g_iload (q := 10) dX0_apart_216 rfl ?_
                refine g_iconst dX0_apart_218 (by decide) ?_
                refine g_icmp_eq (tgt := 242) dX0_apart_219 (by decide) (fun c58 => ?_) (fun c59 => ?_)
                · have h := h.1 c58
                  exact g_less [0, 1, 2, 3, 4, 5, 6, 7, 8] rfl h
                · have h := h.2 c59
                  refine g_aload_n (q := 0) dX0_apart_222 rfl rfl ?_
                  refine g_getC (x := 49) 2 dX0_apart_223 fX0_118 rfl (by decide) (sk_1 hs.S) (sv_1_36 hs.S) ?_
                  refine g_iload (q := 10) dX0_apart_226 rfl ?_
                  refine g_dup2_11 dX0_apart_228 (by decide) (by decide) ?_
                  obtain ⟨c60, h⟩ := h
                  refine g_laload dX0_apart_229 (by decide) (sk_49 hs.S) c60.1 (t_lt (sn_49 hs.S) c60.2) ?_
                  refine g_aload_n (q := 0) dX0_apart_230 rfl rfl ?_
                  refine g_getC (x := 48) 2 dX0_apart_231 fX0_114 rfl (by decide) (sk_1 hs.S) (sv_1_35 hs.S) ?_
                  refine g_iload (q := 7) dX0_apart_234 rfl ?_
                  refine g_laload dX0_apart_236 (by decide) (sk_48 hs.S) c3.1 (t_lt (sn_48 hs.S) c3.2) ?_
                  refine g_lload (q := 9) dX0_apart_237 rfl ?_
                  refine g_lmul dX0_apart_239 ?_
                  refine g_ladd dX0_apart_240 ?_
                  refine g_lastore dX0_apart_241 (by decide) (sk_49 hs.S) c60.1 (t_lt (sn_49 hs.S) c60.2) (p_w hs sf_49 (tWs_in _ rfl) fun μ61 eμ61 hs => ?_)
                  have h := h μ61 eμ61
                  exact g_less [0, 1, 2, 3, 4, 5, 6, 7, 8] rfl h
            · have h := h.2 c47
              refine g_iload_n (q := 1) dX0_apart_191 rfl rfl ?_
              refine g_goto (tgt := 196) dX0_apart_192 (by decide) ?_
              refine g_iload (q := 8) dX0_apart_196 rfl ?_
              refine g_iconst dX0_apart_198 (by decide) ?_
              refine g_icmp_ge (tgt := 206) dX0_apart_199 (by decide) (fun c62 => ?_) (fun c63 => ?_)
              · have h := h.1 c62
                refine g_iload_n (q := 2) dX0_apart_206 rfl rfl ?_
                refine g_iload (q := 7) dX0_apart_207 rfl ?_
                refine g_iload (q := 4) dX0_apart_209 rfl ?_
                refine g_callV4 dX0_apart_211 kX0_walks q1122 q1124 qs42 (ci := 0) rfl (by decide) rfl (by omega) (by decide) (sk_1 hs.S) (Nat.le_of_ble_eq_true rfl) (Nat.le_refl _) (Nat.le_refl _) (t_kI hs (tWs_sub rfl) h (fun r65 μ64 hs h => ?_))
                refine g_istore (L' := [(0, 2, 1), (1, 0, v1), (2, 0, v2), (3, 0, v3), (4, 0, v4), (5, 0, v5), (6, 0, v6), (7, 0, v7), (8, 0, v8), (9, 1, x43), (11, 0, r65)]) dX0_apart_214 (by decide) [1, 2, 3, 4, 5, 6, 7, 8, 9, 10, 0] rfl ?_
                refine g_iload (q := 10) dX0_apart_216 rfl ?_
                refine g_iconst dX0_apart_218 (by decide) ?_
                refine g_icmp_eq (tgt := 242) dX0_apart_219 (by decide) (fun c66 => ?_) (fun c67 => ?_)
                · have h := h.1 c66
                  exact g_less [0, 1, 2, 3, 4, 5, 6, 7, 8] rfl h
                · have h := h.2 c67
                  refine g_aload_n (q := 0) dX0_apart_222 rfl rfl ?_
                  refine g_getC (x := 49) 2 dX0_apart_223 fX0_118 rfl (by decide) (sk_1 hs.S) (sv_1_36 hs.S) ?_
                  refine g_iload (q := 10) dX0_apart_226 rfl ?_
                  refine g_dup2_11 dX0_apart_228 (by decide) (by decide) ?_
                  obtain ⟨c68, h⟩ := h
                  refine g_laload dX0_apart_229 (by decide) (sk_49 hs.S) c68.1 (t_lt (sn_49 hs.S) c68.2) ?_
                  refine g_aload_n (q := 0) dX0_apart_230 rfl rfl ?_
                  refine g_getC (x := 48) 2 dX0_apart_231 fX0_114 rfl (by decide) (sk_1 hs.S) (sv_1_35 hs.S) ?_
                  refine g_iload (q := 7) dX0_apart_234 rfl ?_
                  refine g_laload dX0_apart_236 (by decide) (sk_48 hs.S) c3.1 (t_lt (sn_48 hs.S) c3.2) ?_
                  refine g_lload (q := 9) dX0_apart_237 rfl ?_
                  refine g_lmul dX0_apart_239 ?_
                  refine g_ladd dX0_apart_240 ?_
                  refine g_lastore dX0_apart_241 (by decide) (sk_49 hs.S) c68.1 (t_lt (sn_49 hs.S) c68.2) (p_w hs sf_49 (tWs_in _ rfl) fun μ69 eμ69 hs => ?_)
                  have h := h μ69 eμ69
                  exact g_less [0, 1, 2, 3, 4, 5, 6, 7, 8] rfl h
              · have h := h.2 c63
                refine g_iload_n (q := 1) dX0_apart_202 rfl rfl ?_
                refine g_goto (tgt := 207) dX0_apart_203 (by decide) ?_
                refine g_iload (q := 7) dX0_apart_207 rfl ?_
                refine g_iload (q := 4) dX0_apart_209 rfl ?_
                refine g_callV4 dX0_apart_211 kX0_walks q1122 q1124 qs42 (ci := 0) rfl (by decide) rfl (by omega) (by decide) (sk_1 hs.S) (Nat.le_of_ble_eq_true rfl) (Nat.le_refl _) (Nat.le_refl _) (t_kI hs (tWs_sub rfl) h (fun r71 μ70 hs h => ?_))
                refine g_istore (L' := [(0, 2, 1), (1, 0, v1), (2, 0, v2), (3, 0, v3), (4, 0, v4), (5, 0, v5), (6, 0, v6), (7, 0, v7), (8, 0, v8), (9, 1, x43), (11, 0, r71)]) dX0_apart_214 (by decide) [1, 2, 3, 4, 5, 6, 7, 8, 9, 10, 0] rfl ?_
                refine g_iload (q := 10) dX0_apart_216 rfl ?_
                refine g_iconst dX0_apart_218 (by decide) ?_
                refine g_icmp_eq (tgt := 242) dX0_apart_219 (by decide) (fun c72 => ?_) (fun c73 => ?_)
                · have h := h.1 c72
                  exact g_less [0, 1, 2, 3, 4, 5, 6, 7, 8] rfl h
                · have h := h.2 c73
                  refine g_aload_n (q := 0) dX0_apart_222 rfl rfl ?_
                  refine g_getC (x := 49) 2 dX0_apart_223 fX0_118 rfl (by decide) (sk_1 hs.S) (sv_1_36 hs.S) ?_
                  refine g_iload (q := 10) dX0_apart_226 rfl ?_
                  refine g_dup2_11 dX0_apart_228 (by decide) (by decide) ?_
                  obtain ⟨c74, h⟩ := h
                  refine g_laload dX0_apart_229 (by decide) (sk_49 hs.S) c74.1 (t_lt (sn_49 hs.S) c74.2) ?_
                  refine g_aload_n (q := 0) dX0_apart_230 rfl rfl ?_
                  refine g_getC (x := 48) 2 dX0_apart_231 fX0_114 rfl (by decide) (sk_1 hs.S) (sv_1_35 hs.S) ?_
                  refine g_iload (q := 7) dX0_apart_234 rfl ?_
                  refine g_laload dX0_apart_236 (by decide) (sk_48 hs.S) c3.1 (t_lt (sn_48 hs.S) c3.2) ?_
                  refine g_lload (q := 9) dX0_apart_237 rfl ?_
                  refine g_lmul dX0_apart_239 ?_
                  refine g_ladd dX0_apart_240 ?_
                  refine g_lastore dX0_apart_241 (by decide) (sk_49 hs.S) c74.1 (t_lt (sn_49 hs.S) c74.2) (p_w hs sf_49 (tWs_in _ rfl) fun μ75 eμ75 hs => ?_)
                  have h := h μ75 eμ75
                  exact g_less [0, 1, 2, 3, 4, 5, 6, 7, 8] rfl h
          · have h := h.2 c45
            refine g_goto (tgt := 242) dX0_apart_180 (by decide) ?_
            exact g_less [0, 1, 2, 3, 4, 5, 6, 7, 8] rfl h
      · have h := h.2 c7
        refine g_iload_n (q := 3) dX0_apart_146 rfl rfl ?_
        refine g_goto (tgt := 154) dX0_apart_147 (by decide) ?_
        refine g_i2l dX0_apart_154 ?_
        refine g_iload (q := 8) dX0_apart_155 rfl ?_
        refine g_iconst dX0_apart_157 (by decide) ?_
        refine g_icmp_ge (tgt := 165) dX0_apart_158 (by decide) (fun c76 => ?_) (fun c77 => ?_)
        · have h := h.1 c76
          refine g_bipush dX0_apart_165 ⟨by decide, by decide, rfl⟩ ?_
          refine g_iload_n (q := 3) dX0_apart_167 rfl rfl ?_
          refine g_isub dX0_apart_168 ?_
          refine g_i2l dX0_apart_169 ?_
          refine g_lmul dX0_apart_170 ?_
          refine g_lstoreN (fun z => [(0, 2, 1), (1, 0, v1), (2, 0, v2), (3, 0, v3), (4, 0, v4), (5, 0, v5), (6, 0, v6), (7, 0, v7), (8, 0, v8), (9, 1, z)]) dX0_apart_171 (by decide) [1, 2, 3, 4, 5, 6, 7, 8, 9, 0] (fun _ => rfl) (fun x78 ex78 => ?_)
          have h := h x78 ex78
          refine g_lload (q := 9) dX0_apart_173 rfl ?_
          refine g_lconst0 dX0_apart_175 ?_
          refine g_lcmp_ne (tgt := 183) dX0_apart_176 dX0_apart_177 (by decide) (fun c79 => ?_) (fun c80 => ?_)
          · have h := h.1 c79
            refine g_aload_n (q := 0) dX0_apart_183 rfl rfl ?_
            refine g_iload (q := 8) dX0_apart_184 rfl ?_
            refine g_iconst dX0_apart_186 (by decide) ?_
            refine g_irem dX0_apart_187 (by decide) ?_
            refine g_if_ne (tgt := 195) dX0_apart_188 (by decide) (fun c81 => ?_) (fun c82 => ?_)
            · have h := h.1 c81
              refine g_iload_n (q := 2) dX0_apart_195 rfl rfl ?_
              refine g_iload (q := 8) dX0_apart_196 rfl ?_
              refine g_iconst dX0_apart_198 (by decide) ?_
              refine g_icmp_ge (tgt := 206) dX0_apart_199 (by decide) (fun c83 => ?_) (fun c84 => ?_)
              · have h := h.1 c83
                refine g_iload_n (q := 2) dX0_apart_206 rfl rfl ?_
                refine g_iload (q := 7) dX0_apart_207 rfl ?_
                refine g_iload (q := 4) dX0_apart_209 rfl ?_
                refine g_callV4 dX0_apart_211 kX0_walks q1122 q1124 qs42 (ci := 0) rfl (by decide) rfl (by omega) (by decide) (sk_1 hs.S) (Nat.le_of_ble_eq_true rfl) (Nat.le_refl _) (Nat.le_refl _) (t_kI hs (tWs_sub rfl) h (fun r86 μ85 hs h => ?_))
                refine g_istore (L' := [(0, 2, 1), (1, 0, v1), (2, 0, v2), (3, 0, v3), (4, 0, v4), (5, 0, v5), (6, 0, v6), (7, 0, v7), (8, 0, v8), (9, 1, x78), (11, 0, r86)]) dX0_apart_214 (by decide) [1, 2, 3, 4, 5, 6, 7, 8, 9, 10, 0] rfl ?_
                refine g_iload (q := 10) dX0_apart_216 rfl ?_
                refine g_iconst dX0_apart_218 (by decide) ?_
                refine g_icmp_eq (tgt := 242) dX0_apart_219 (by decide) (fun c87 => ?_) (fun c88 => ?_)
                · have h := h.1 c87
                  exact g_less [0, 1, 2, 3, 4, 5, 6, 7, 8] rfl h
                · have h := h.2 c88
                  refine g_aload_n (q := 0) dX0_apart_222 rfl rfl ?_
                  refine g_getC (x := 49) 2 dX0_apart_223 fX0_118 rfl (by decide) (sk_1 hs.S) (sv_1_36 hs.S) ?_
                  refine g_iload (q := 10) dX0_apart_226 rfl ?_
                  refine g_dup2_11 dX0_apart_228 (by decide) (by decide) ?_
                  obtain ⟨c89, h⟩ := h
                  refine g_laload dX0_apart_229 (by decide) (sk_49 hs.S) c89.1 (t_lt (sn_49 hs.S) c89.2) ?_
                  refine g_aload_n (q := 0) dX0_apart_230 rfl rfl ?_
                  refine g_getC (x := 48) 2 dX0_apart_231 fX0_114 rfl (by decide) (sk_1 hs.S) (sv_1_35 hs.S) ?_
                  refine g_iload (q := 7) dX0_apart_234 rfl ?_
                  refine g_laload dX0_apart_236 (by decide) (sk_48 hs.S) c3.1 (t_lt (sn_48 hs.S) c3.2) ?_
                  refine g_lload (q := 9) dX0_apart_237 rfl ?_
                  refine g_lmul dX0_apart_239 ?_
                  refine g_ladd dX0_apart_240 ?_
                  refine g_lastore dX0_apart_241 (by decide) (sk_49 hs.S) c89.1 (t_lt (sn_49 hs.S) c89.2) (p_w hs sf_49 (tWs_in _ rfl) fun μ90 eμ90 hs => ?_)
                  have h := h μ90 eμ90
                  exact g_less [0, 1, 2, 3, 4, 5, 6, 7, 8] rfl h
              · have h := h.2 c84
                refine g_iload_n (q := 1) dX0_apart_202 rfl rfl ?_
                refine g_goto (tgt := 207) dX0_apart_203 (by decide) ?_
                refine g_iload (q := 7) dX0_apart_207 rfl ?_
                refine g_iload (q := 4) dX0_apart_209 rfl ?_
                refine g_callV4 dX0_apart_211 kX0_walks q1122 q1124 qs42 (ci := 0) rfl (by decide) rfl (by omega) (by decide) (sk_1 hs.S) (Nat.le_of_ble_eq_true rfl) (Nat.le_refl _) (Nat.le_refl _) (t_kI hs (tWs_sub rfl) h (fun r92 μ91 hs h => ?_))
                refine g_istore (L' := [(0, 2, 1), (1, 0, v1), (2, 0, v2), (3, 0, v3), (4, 0, v4), (5, 0, v5), (6, 0, v6), (7, 0, v7), (8, 0, v8), (9, 1, x78), (11, 0, r92)]) dX0_apart_214 (by decide) [1, 2, 3, 4, 5, 6, 7, 8, 9, 10, 0] rfl ?_
                refine g_iload (q := 10) dX0_apart_216 rfl ?_
                refine g_iconst dX0_apart_218 (by decide) ?_
                refine g_icmp_eq (tgt := 242) dX0_apart_219 (by decide) (fun c93 => ?_) (fun c94 => ?_)
                · have h := h.1 c93
                  exact g_less [0, 1, 2, 3, 4, 5, 6, 7, 8] rfl h
                · have h := h.2 c94
                  refine g_aload_n (q := 0) dX0_apart_222 rfl rfl ?_
                  refine g_getC (x := 49) 2 dX0_apart_223 fX0_118 rfl (by decide) (sk_1 hs.S) (sv_1_36 hs.S) ?_
                  refine g_iload (q := 10) dX0_apart_226 rfl ?_
                  refine g_dup2_11 dX0_apart_228 (by decide) (by decide) ?_
                  obtain ⟨c95, h⟩ := h
                  refine g_laload dX0_apart_229 (by decide) (sk_49 hs.S) c95.1 (t_lt (sn_49 hs.S) c95.2) ?_
                  refine g_aload_n (q := 0) dX0_apart_230 rfl rfl ?_
                  refine g_getC (x := 48) 2 dX0_apart_231 fX0_114 rfl (by decide) (sk_1 hs.S) (sv_1_35 hs.S) ?_
                  refine g_iload (q := 7) dX0_apart_234 rfl ?_
                  refine g_laload dX0_apart_236 (by decide) (sk_48 hs.S) c3.1 (t_lt (sn_48 hs.S) c3.2) ?_
                  refine g_lload (q := 9) dX0_apart_237 rfl ?_
                  refine g_lmul dX0_apart_239 ?_
                  refine g_ladd dX0_apart_240 ?_
                  refine g_lastore dX0_apart_241 (by decide) (sk_49 hs.S) c95.1 (t_lt (sn_49 hs.S) c95.2) (p_w hs sf_49 (tWs_in _ rfl) fun μ96 eμ96 hs => ?_)
                  have h := h μ96 eμ96
                  exact g_less [0, 1, 2, 3, 4, 5, 6, 7, 8] rfl h
            · have h := h.2 c82
              refine g_iload_n (q := 1) dX0_apart_191 rfl rfl ?_
              refine g_goto (tgt := 196) dX0_apart_192 (by decide) ?_
              refine g_iload (q := 8) dX0_apart_196 rfl ?_
              refine g_iconst dX0_apart_198 (by decide) ?_
              refine g_icmp_ge (tgt := 206) dX0_apart_199 (by decide) (fun c97 => ?_) (fun c98 => ?_)
              · have h := h.1 c97
                refine g_iload_n (q := 2) dX0_apart_206 rfl rfl ?_
                refine g_iload (q := 7) dX0_apart_207 rfl ?_
                refine g_iload (q := 4) dX0_apart_209 rfl ?_
                refine g_callV4 dX0_apart_211 kX0_walks q1122 q1124 qs42 (ci := 0) rfl (by decide) rfl (by omega) (by decide) (sk_1 hs.S) (Nat.le_of_ble_eq_true rfl) (Nat.le_refl _) (Nat.le_refl _) (t_kI hs (tWs_sub rfl) h (fun r100 μ99 hs h => ?_))
                refine g_istore (L' := [(0, 2, 1), (1, 0, v1), (2, 0, v2), (3, 0, v3), (4, 0, v4), (5, 0, v5), (6, 0, v6), (7, 0, v7), (8, 0, v8), (9, 1, x78), (11, 0, r100)]) dX0_apart_214 (by decide) [1, 2, 3, 4, 5, 6, 7, 8, 9, 10, 0] rfl ?_
                refine g_iload (q := 10) dX0_apart_216 rfl ?_
                refine g_iconst dX0_apart_218 (by decide) ?_
                refine g_icmp_eq (tgt := 242) dX0_apart_219 (by decide) (fun c101 => ?_) (fun c102 => ?_)
                · have h := h.1 c101
                  exact g_less [0, 1, 2, 3, 4, 5, 6, 7, 8] rfl h
                · have h := h.2 c102
                  refine g_aload_n (q := 0) dX0_apart_222 rfl rfl ?_
                  refine g_getC (x := 49) 2 dX0_apart_223 fX0_118 rfl (by decide) (sk_1 hs.S) (sv_1_36 hs.S) ?_
                  refine g_iload (q := 10) dX0_apart_226 rfl ?_
                  refine g_dup2_11 dX0_apart_228 (by decide) (by decide) ?_
                  obtain ⟨c103, h⟩ := h
                  refine g_laload dX0_apart_229 (by decide) (sk_49 hs.S) c103.1 (t_lt (sn_49 hs.S) c103.2) ?_
                  refine g_aload_n (q := 0) dX0_apart_230 rfl rfl ?_
                  refine g_getC (x := 48) 2 dX0_apart_231 fX0_114 rfl (by decide) (sk_1 hs.S) (sv_1_35 hs.S) ?_
                  refine g_iload (q := 7) dX0_apart_234 rfl ?_
                  refine g_laload dX0_apart_236 (by decide) (sk_48 hs.S) c3.1 (t_lt (sn_48 hs.S) c3.2) ?_
                  refine g_lload (q := 9) dX0_apart_237 rfl ?_
                  refine g_lmul dX0_apart_239 ?_
                  refine g_ladd dX0_apart_240 ?_
                  refine g_lastore dX0_apart_241 (by decide) (sk_49 hs.S) c103.1 (t_lt (sn_49 hs.S) c103.2) (p_w hs sf_49 (tWs_in _ rfl) fun μ104 eμ104 hs => ?_)
                  have h := h μ104 eμ104
                  exact g_less [0, 1, 2, 3, 4, 5, 6, 7, 8] rfl h
              · have h := h.2 c98
                refine g_iload_n (q := 1) dX0_apart_202 rfl rfl ?_
                refine g_goto (tgt := 207) dX0_apart_203 (by decide) ?_
                refine g_iload (q := 7) dX0_apart_207 rfl ?_
                refine g_iload (q := 4) dX0_apart_209 rfl ?_
                refine g_callV4 dX0_apart_211 kX0_walks q1122 q1124 qs42 (ci := 0) rfl (by decide) rfl (by omega) (by decide) (sk_1 hs.S) (Nat.le_of_ble_eq_true rfl) (Nat.le_refl _) (Nat.le_refl _) (t_kI hs (tWs_sub rfl) h (fun r106 μ105 hs h => ?_))
                refine g_istore (L' := [(0, 2, 1), (1, 0, v1), (2, 0, v2), (3, 0, v3), (4, 0, v4), (5, 0, v5), (6, 0, v6), (7, 0, v7), (8, 0, v8), (9, 1, x78), (11, 0, r106)]) dX0_apart_214 (by decide) [1, 2, 3, 4, 5, 6, 7, 8, 9, 10, 0] rfl ?_
                refine g_iload (q := 10) dX0_apart_216 rfl ?_
                refine g_iconst dX0_apart_218 (by decide) ?_
                refine g_icmp_eq (tgt := 242) dX0_apart_219 (by decide) (fun c107 => ?_) (fun c108 => ?_)
                · have h := h.1 c107
                  exact g_less [0, 1, 2, 3, 4, 5, 6, 7, 8] rfl h
                · have h := h.2 c108
                  refine g_aload_n (q := 0) dX0_apart_222 rfl rfl ?_
                  refine g_getC (x := 49) 2 dX0_apart_223 fX0_118 rfl (by decide) (sk_1 hs.S) (sv_1_36 hs.S) ?_
                  refine g_iload (q := 10) dX0_apart_226 rfl ?_
                  refine g_dup2_11 dX0_apart_228 (by decide) (by decide) ?_
                  obtain ⟨c109, h⟩ := h
                  refine g_laload dX0_apart_229 (by decide) (sk_49 hs.S) c109.1 (t_lt (sn_49 hs.S) c109.2) ?_
                  refine g_aload_n (q := 0) dX0_apart_230 rfl rfl ?_
                  refine g_getC (x := 48) 2 dX0_apart_231 fX0_114 rfl (by decide) (sk_1 hs.S) (sv_1_35 hs.S) ?_
                  refine g_iload (q := 7) dX0_apart_234 rfl ?_
                  refine g_laload dX0_apart_236 (by decide) (sk_48 hs.S) c3.1 (t_lt (sn_48 hs.S) c3.2) ?_
                  refine g_lload (q := 9) dX0_apart_237 rfl ?_
                  refine g_lmul dX0_apart_239 ?_
                  refine g_ladd dX0_apart_240 ?_
                  refine g_lastore dX0_apart_241 (by decide) (sk_49 hs.S) c109.1 (t_lt (sn_49 hs.S) c109.2) (p_w hs sf_49 (tWs_in _ rfl) fun μ110 eμ110 hs => ?_)
                  have h := h μ110 eμ110
                  exact g_less [0, 1, 2, 3, 4, 5, 6, 7, 8] rfl h
          · have h := h.2 c80
            refine g_goto (tgt := 242) dX0_apart_180 (by decide) ?_
            exact g_less [0, 1, 2, 3, 4, 5, 6, 7, 8] rfl h
        · have h := h.2 c77
          refine g_iload_n (q := 3) dX0_apart_161 rfl rfl ?_
          refine g_goto (tgt := 169) dX0_apart_162 (by decide) ?_
          refine g_i2l dX0_apart_169 ?_
          refine g_lmul dX0_apart_170 ?_
          refine g_lstoreN (fun z => [(0, 2, 1), (1, 0, v1), (2, 0, v2), (3, 0, v3), (4, 0, v4), (5, 0, v5), (6, 0, v6), (7, 0, v7), (8, 0, v8), (9, 1, z)]) dX0_apart_171 (by decide) [1, 2, 3, 4, 5, 6, 7, 8, 9, 0] (fun _ => rfl) (fun x111 ex111 => ?_)
          have h := h x111 ex111
          refine g_lload (q := 9) dX0_apart_173 rfl ?_
          refine g_lconst0 dX0_apart_175 ?_
          refine g_lcmp_ne (tgt := 183) dX0_apart_176 dX0_apart_177 (by decide) (fun c112 => ?_) (fun c113 => ?_)
          · have h := h.1 c112
            refine g_aload_n (q := 0) dX0_apart_183 rfl rfl ?_
            refine g_iload (q := 8) dX0_apart_184 rfl ?_
            refine g_iconst dX0_apart_186 (by decide) ?_
            refine g_irem dX0_apart_187 (by decide) ?_
            refine g_if_ne (tgt := 195) dX0_apart_188 (by decide) (fun c114 => ?_) (fun c115 => ?_)
            · have h := h.1 c114
              refine g_iload_n (q := 2) dX0_apart_195 rfl rfl ?_
              refine g_iload (q := 8) dX0_apart_196 rfl ?_
              refine g_iconst dX0_apart_198 (by decide) ?_
              refine g_icmp_ge (tgt := 206) dX0_apart_199 (by decide) (fun c116 => ?_) (fun c117 => ?_)
              · have h := h.1 c116
                refine g_iload_n (q := 2) dX0_apart_206 rfl rfl ?_
                refine g_iload (q := 7) dX0_apart_207 rfl ?_
                refine g_iload (q := 4) dX0_apart_209 rfl ?_
                refine g_callV4 dX0_apart_211 kX0_walks q1122 q1124 qs42 (ci := 0) rfl (by decide) rfl (by omega) (by decide) (sk_1 hs.S) (Nat.le_of_ble_eq_true rfl) (Nat.le_refl _) (Nat.le_refl _) (t_kI hs (tWs_sub rfl) h (fun r119 μ118 hs h => ?_))
                refine g_istore (L' := [(0, 2, 1), (1, 0, v1), (2, 0, v2), (3, 0, v3), (4, 0, v4), (5, 0, v5), (6, 0, v6), (7, 0, v7), (8, 0, v8), (9, 1, x111), (11, 0, r119)]) dX0_apart_214 (by decide) [1, 2, 3, 4, 5, 6, 7, 8, 9, 10, 0] rfl ?_
                refine g_iload (q := 10) dX0_apart_216 rfl ?_
                refine g_iconst dX0_apart_218 (by decide) ?_
                refine g_icmp_eq (tgt := 242) dX0_apart_219 (by decide) (fun c120 => ?_) (fun c121 => ?_)
                · have h := h.1 c120
                  exact g_less [0, 1, 2, 3, 4, 5, 6, 7, 8] rfl h
                · have h := h.2 c121
                  refine g_aload_n (q := 0) dX0_apart_222 rfl rfl ?_
                  refine g_getC (x := 49) 2 dX0_apart_223 fX0_118 rfl (by decide) (sk_1 hs.S) (sv_1_36 hs.S) ?_
                  refine g_iload (q := 10) dX0_apart_226 rfl ?_
                  refine g_dup2_11 dX0_apart_228 (by decide) (by decide) ?_
                  obtain ⟨c122, h⟩ := h
                  refine g_laload dX0_apart_229 (by decide) (sk_49 hs.S) c122.1 (t_lt (sn_49 hs.S) c122.2) ?_
                  refine g_aload_n (q := 0) dX0_apart_230 rfl rfl ?_
                  refine g_getC (x := 48) 2 dX0_apart_231 fX0_114 rfl (by decide) (sk_1 hs.S) (sv_1_35 hs.S) ?_
                  refine g_iload (q := 7) dX0_apart_234 rfl ?_
                  refine g_laload dX0_apart_236 (by decide) (sk_48 hs.S) c3.1 (t_lt (sn_48 hs.S) c3.2) ?_
                  refine g_lload (q := 9) dX0_apart_237 rfl ?_
                  refine g_lmul dX0_apart_239 ?_
                  refine g_ladd dX0_apart_240 ?_
                  refine g_lastore dX0_apart_241 (by decide) (sk_49 hs.S) c122.1 (t_lt (sn_49 hs.S) c122.2) (p_w hs sf_49 (tWs_in _ rfl) fun μ123 eμ123 hs => ?_)
                  have h := h μ123 eμ123
                  exact g_less [0, 1, 2, 3, 4, 5, 6, 7, 8] rfl h
              · have h := h.2 c117
                refine g_iload_n (q := 1) dX0_apart_202 rfl rfl ?_
                refine g_goto (tgt := 207) dX0_apart_203 (by decide) ?_
                refine g_iload (q := 7) dX0_apart_207 rfl ?_
                refine g_iload (q := 4) dX0_apart_209 rfl ?_
                refine g_callV4 dX0_apart_211 kX0_walks q1122 q1124 qs42 (ci := 0) rfl (by decide) rfl (by omega) (by decide) (sk_1 hs.S) (Nat.le_of_ble_eq_true rfl) (Nat.le_refl _) (Nat.le_refl _) (t_kI hs (tWs_sub rfl) h (fun r125 μ124 hs h => ?_))
                refine g_istore (L' := [(0, 2, 1), (1, 0, v1), (2, 0, v2), (3, 0, v3), (4, 0, v4), (5, 0, v5), (6, 0, v6), (7, 0, v7), (8, 0, v8), (9, 1, x111), (11, 0, r125)]) dX0_apart_214 (by decide) [1, 2, 3, 4, 5, 6, 7, 8, 9, 10, 0] rfl ?_
                refine g_iload (q := 10) dX0_apart_216 rfl ?_
                refine g_iconst dX0_apart_218 (by decide) ?_
                refine g_icmp_eq (tgt := 242) dX0_apart_219 (by decide) (fun c126 => ?_) (fun c127 => ?_)
                · have h := h.1 c126
                  exact g_less [0, 1, 2, 3, 4, 5, 6, 7, 8] rfl h
                · have h := h.2 c127
                  refine g_aload_n (q := 0) dX0_apart_222 rfl rfl ?_
                  refine g_getC (x := 49) 2 dX0_apart_223 fX0_118 rfl (by decide) (sk_1 hs.S) (sv_1_36 hs.S) ?_
                  refine g_iload (q := 10) dX0_apart_226 rfl ?_
                  refine g_dup2_11 dX0_apart_228 (by decide) (by decide) ?_
                  obtain ⟨c128, h⟩ := h
                  refine g_laload dX0_apart_229 (by decide) (sk_49 hs.S) c128.1 (t_lt (sn_49 hs.S) c128.2) ?_
                  refine g_aload_n (q := 0) dX0_apart_230 rfl rfl ?_
                  refine g_getC (x := 48) 2 dX0_apart_231 fX0_114 rfl (by decide) (sk_1 hs.S) (sv_1_35 hs.S) ?_
                  refine g_iload (q := 7) dX0_apart_234 rfl ?_
                  refine g_laload dX0_apart_236 (by decide) (sk_48 hs.S) c3.1 (t_lt (sn_48 hs.S) c3.2) ?_
                  refine g_lload (q := 9) dX0_apart_237 rfl ?_
                  refine g_lmul dX0_apart_239 ?_
                  refine g_ladd dX0_apart_240 ?_
                  refine g_lastore dX0_apart_241 (by decide) (sk_49 hs.S) c128.1 (t_lt (sn_49 hs.S) c128.2) (p_w hs sf_49 (tWs_in _ rfl) fun μ129 eμ129 hs => ?_)
                  have h := h μ129 eμ129
                  exact g_less [0, 1, 2, 3, 4, 5, 6, 7, 8] rfl h
            · have h := h.2 c115
              refine g_iload_n (q := 1) dX0_apart_191 rfl rfl ?_
              refine g_goto (tgt := 196) dX0_apart_192 (by decide) ?_
              refine g_iload (q := 8) dX0_apart_196 rfl ?_
              refine g_iconst dX0_apart_198 (by decide) ?_
              refine g_icmp_ge (tgt := 206) dX0_apart_199 (by decide) (fun c130 => ?_) (fun c131 => ?_)
              · have h := h.1 c130
                refine g_iload_n (q := 2) dX0_apart_206 rfl rfl ?_
                refine g_iload (q := 7) dX0_apart_207 rfl ?_
                refine g_iload (q := 4) dX0_apart_209 rfl ?_
                refine g_callV4 dX0_apart_211 kX0_walks q1122 q1124 qs42 (ci := 0) rfl (by decide) rfl (by omega) (by decide) (sk_1 hs.S) (Nat.le_of_ble_eq_true rfl) (Nat.le_refl _) (Nat.le_refl _) (t_kI hs (tWs_sub rfl) h (fun r133 μ132 hs h => ?_))
                refine g_istore (L' := [(0, 2, 1), (1, 0, v1), (2, 0, v2), (3, 0, v3), (4, 0, v4), (5, 0, v5), (6, 0, v6), (7, 0, v7), (8, 0, v8), (9, 1, x111), (11, 0, r133)]) dX0_apart_214 (by decide) [1, 2, 3, 4, 5, 6, 7, 8, 9, 10, 0] rfl ?_
                refine g_iload (q := 10) dX0_apart_216 rfl ?_
                refine g_iconst dX0_apart_218 (by decide) ?_
                refine g_icmp_eq (tgt := 242) dX0_apart_219 (by decide) (fun c134 => ?_) (fun c135 => ?_)
                · have h := h.1 c134
                  exact g_less [0, 1, 2, 3, 4, 5, 6, 7, 8] rfl h
                · have h := h.2 c135
                  refine g_aload_n (q := 0) dX0_apart_222 rfl rfl ?_
                  refine g_getC (x := 49) 2 dX0_apart_223 fX0_118 rfl (by decide) (sk_1 hs.S) (sv_1_36 hs.S) ?_
                  refine g_iload (q := 10) dX0_apart_226 rfl ?_
                  refine g_dup2_11 dX0_apart_228 (by decide) (by decide) ?_
                  obtain ⟨c136, h⟩ := h
                  refine g_laload dX0_apart_229 (by decide) (sk_49 hs.S) c136.1 (t_lt (sn_49 hs.S) c136.2) ?_
                  refine g_aload_n (q := 0) dX0_apart_230 rfl rfl ?_
                  refine g_getC (x := 48) 2 dX0_apart_231 fX0_114 rfl (by decide) (sk_1 hs.S) (sv_1_35 hs.S) ?_
                  refine g_iload (q := 7) dX0_apart_234 rfl ?_
                  refine g_laload dX0_apart_236 (by decide) (sk_48 hs.S) c3.1 (t_lt (sn_48 hs.S) c3.2) ?_
                  refine g_lload (q := 9) dX0_apart_237 rfl ?_
                  refine g_lmul dX0_apart_239 ?_
                  refine g_ladd dX0_apart_240 ?_
                  refine g_lastore dX0_apart_241 (by decide) (sk_49 hs.S) c136.1 (t_lt (sn_49 hs.S) c136.2) (p_w hs sf_49 (tWs_in _ rfl) fun μ137 eμ137 hs => ?_)
                  have h := h μ137 eμ137
                  exact g_less [0, 1, 2, 3, 4, 5, 6, 7, 8] rfl h
              · have h := h.2 c131
                refine g_iload_n (q := 1) dX0_apart_202 rfl rfl ?_
                refine g_goto (tgt := 207) dX0_apart_203 (by decide) ?_
                refine g_iload (q := 7) dX0_apart_207 rfl ?_
                refine g_iload (q := 4) dX0_apart_209 rfl ?_
                refine g_callV4 dX0_apart_211 kX0_walks q1122 q1124 qs42 (ci := 0) rfl (by decide) rfl (by omega) (by decide) (sk_1 hs.S) (Nat.le_of_ble_eq_true rfl) (Nat.le_refl _) (Nat.le_refl _) (t_kI hs (tWs_sub rfl) h (fun r139 μ138 hs h => ?_))
                refine g_istore (L' := [(0, 2, 1), (1, 0, v1), (2, 0, v2), (3, 0, v3), (4, 0, v4), (5, 0, v5), (6, 0, v6), (7, 0, v7), (8, 0, v8), (9, 1, x111), (11, 0, r139)]) dX0_apart_214 (by decide) [1, 2, 3, 4, 5, 6, 7, 8, 9, 10, 0] rfl ?_
                refine g_iload (q := 10) dX0_apart_216 rfl ?_
                refine g_iconst dX0_apart_218 (by decide) ?_
                refine g_icmp_eq (tgt := 242) dX0_apart_219 (by decide) (fun c140 => ?_) (fun c141 => ?_)
                · have h := h.1 c140
                  exact g_less [0, 1, 2, 3, 4, 5, 6, 7, 8] rfl h
                · have h := h.2 c141
                  refine g_aload_n (q := 0) dX0_apart_222 rfl rfl ?_
                  refine g_getC (x := 49) 2 dX0_apart_223 fX0_118 rfl (by decide) (sk_1 hs.S) (sv_1_36 hs.S) ?_
                  refine g_iload (q := 10) dX0_apart_226 rfl ?_
                  refine g_dup2_11 dX0_apart_228 (by decide) (by decide) ?_
                  obtain ⟨c142, h⟩ := h
                  refine g_laload dX0_apart_229 (by decide) (sk_49 hs.S) c142.1 (t_lt (sn_49 hs.S) c142.2) ?_
                  refine g_aload_n (q := 0) dX0_apart_230 rfl rfl ?_
                  refine g_getC (x := 48) 2 dX0_apart_231 fX0_114 rfl (by decide) (sk_1 hs.S) (sv_1_35 hs.S) ?_
                  refine g_iload (q := 7) dX0_apart_234 rfl ?_
                  refine g_laload dX0_apart_236 (by decide) (sk_48 hs.S) c3.1 (t_lt (sn_48 hs.S) c3.2) ?_
                  refine g_lload (q := 9) dX0_apart_237 rfl ?_
                  refine g_lmul dX0_apart_239 ?_
                  refine g_ladd dX0_apart_240 ?_
                  refine g_lastore dX0_apart_241 (by decide) (sk_49 hs.S) c142.1 (t_lt (sn_49 hs.S) c142.2) (p_w hs sf_49 (tWs_in _ rfl) fun μ143 eμ143 hs => ?_)
                  have h := h μ143 eμ143
                  exact g_less [0, 1, 2, 3, 4, 5, 6, 7, 8] rfl h
          · have h := h.2 c113
            refine g_goto (tgt := 242) dX0_apart_180 (by decide) ?_
            exact g_less [0, 1, 2, 3, 4, 5, 6, 7, 8] rfl h
theorem uX0_apart_242 {d : Nat} {μ0 μ : tm_M} {K : Int → tm_M → Prop} {v1 v2 v3 v4 v5 v6 v7 v8 : Int} (hs : tFr (tWs [7, 8, 48, 49] []) μ0 μ)
    (h : hLo (tWs [7, 8, 48, 49] []) μ0 mX0_apart d K 121 [(0, 2, 1), (1, 0, v1), (2, 0, v2), (3, 0, v3), (4, 0, v4), (5, 0, v5), (6, 0, v6), (7, 0, v7), (8, 0, w32 (v8 + 1))] [] μ) :
    hLo (tWs [7, 8, 48, 49] []) μ0 mX0_apart d K 242 [(0, 2, 1), (1, 0, v1), (2, 0, v2), (3, 0, v3), (4, 0, v4), (5, 0, v5), (6, 0, v6), (7, 0, v7), (8, 0, v8)] [] μ := by
  refine g_iinc (q := 8) dX0_apart_242 (by decide) rfl [1, 2, 3, 4, 5, 6, 7, 8, 0] rfl ?_
  refine g_goto (tgt := 121) dX0_apart_245 (by decide) ?_
  exact h
theorem uX0_apart_248 {d : Nat} {μ0 μ : tm_M} {K : Int → tm_M → Prop} {v1 v2 v3 v4 v5 v6 v7 : Int} (hs : tFr (tWs [7, 8, 48, 49] []) μ0 μ)
    (h : hLo (tWs [7, 8, 48, 49] []) μ0 mX0_apart d K 111 [(0, 2, 1), (1, 0, v1), (2, 0, v2), (3, 0, v3), (4, 0, v4), (5, 0, v5), (6, 0, v6), (7, 0, w32 (v7 + 1))] [] μ) :
    hLo (tWs [7, 8, 48, 49] []) μ0 mX0_apart d K 248 [(0, 2, 1), (1, 0, v1), (2, 0, v2), (3, 0, v3), (4, 0, v4), (5, 0, v5), (6, 0, v6), (7, 0, v7)] [] μ := by
  refine g_iinc (q := 7) dX0_apart_248 (by decide) rfl [1, 2, 3, 4, 5, 6, 7, 0] rfl ?_
  refine g_goto (tgt := 111) dX0_apart_251 (by decide) ?_
  exact h
theorem uX0_apart_281 {d : Nat} {μ0 μ : tm_M} {K : Int → tm_M → Prop} {v6 v8 : Int} (hs : tFr (tWs [7, 8, 48, 49] []) μ0 μ)
    (h : (64 ≤ v8 → K v6 μ) ∧ (v8 < 64 → (0 ≤ v8 ∧ v8 < 64) ∧ ((∀ x4, x4 = w64 (v6 + (tm_v μ 48 v8)) → hLo (tWs [7, 8, 48, 49] []) μ0 mX0_apart d K 281 [(0, 2, 1), (6, 1, x4), (8, 0, w32 (v8 + 1))] [] μ)))) :
    hLo (tWs [7, 8, 48, 49] []) μ0 mX0_apart d K 281 [(0, 2, 1), (6, 1, v6), (8, 0, v8)] [] μ := by
  refine g_iload (q := 2) dX0_apart_281 rfl ?_
  refine g_bipush dX0_apart_283 ⟨by decide, by decide, rfl⟩ ?_
  refine g_icmp_ge (tgt := 306) dX0_apart_285 (by decide) (fun c1 => ?_) (fun c2 => ?_)
  · have h := h.1 c1
    refine g_lload (q := 1) dX0_apart_306 rfl ?_
    exact g_lret dX0_apart_308 rfl (Nat.le_refl _) (Nat.le_refl _) ⟨_, rfl, hs, h⟩
  · have h := h.2 c2
    refine g_lload (q := 1) dX0_apart_288 rfl ?_
    refine g_aload_n (q := 0) dX0_apart_290 rfl rfl ?_
    refine g_getC (x := 48) 2 dX0_apart_291 fX0_114 rfl (by decide) (sk_1 hs.S) (sv_1_35 hs.S) ?_
    refine g_iload (q := 2) dX0_apart_294 rfl ?_
    obtain ⟨c3, h⟩ := h
    refine g_laload dX0_apart_296 (by decide) (sk_48 hs.S) c3.1 (t_lt (sn_48 hs.S) c3.2) ?_
    refine g_ladd dX0_apart_297 ?_
    refine g_lstoreN (fun z => [(0, 2, 1), (6, 1, z), (8, 0, v8)]) dX0_apart_298 (by decide) [1, 0, 2] (fun _ => rfl) (fun x4 ex4 => ?_)
    have h := h x4 ex4
    refine g_iinc (q := 2) dX0_apart_300 (by decide) rfl [1, 2, 0] rfl ?_
    refine g_goto (tgt := 281) dX0_apart_303 (by decide) ?_
    exact h
theorem uX0_wrongDraws_0 {d : Nat} {μ0 μ : tm_M} {K : Int → tm_M → Prop} {ν : tm_M} {v1 v2 v3 v4 v5 : Int} (hd : 2 ≤ d) (hs : tFr (tWs [] []) μ0 μ)
    (h : (JV μ0 ν) ∧ ((¬ (0 ≤ v1 ∧ v1 < tm_v ν 65 43) → K 2 μ) ∧ (0 ≤ v1 ∧ v1 < tm_v ν 65 43 → (0 ≤ v2 ∧ v2 < tm_v ν 65 43 → (v5 = 0 → K 5 μ) ∧ (v5 ≠ 0 → (v3 < 1 → K 5 μ) ∧ (1 ≤ v3 → (24 < v3 → K 5 μ) ∧ (v3 ≤ 24 → (v4 < 1 → K 5 μ) ∧ (1 ≤ v4 → (v4 ≤ 5 → (JU μ0 ν) ∧ ((y_all ν ≠ 0 → K 0 μ) ∧ (y_all ν = 0 → K 9 μ))) ∧ (5 < v4 → K 5 μ)))))) ∧ (¬ (0 ≤ v2 ∧ v2 < tm_v ν 65 43) → K 2 μ)))) :
    hI (tWs [] []) μ0 mX0_wrongDraws d K 0 [(0, 2, 1), (1, 0, v1), (2, 0, v2), (3, 0, v3), (4, 0, v4), (5, 0, v5)] [] μ := by
  refine g_aload_n (q := 0) dX0_wrongDraws_0 rfl rfl ?_
  refine g_iload_n (q := 1) dX0_wrongDraws_1 rfl rfl ?_
  refine g_i2l dX0_wrongDraws_2 ?_
  obtain ⟨c1, h⟩ := h
  refine g_callV1 dX0_wrongDraws_3 kX0_isWay q969 q971 qs23 (ci := 0) rfl (by decide) rfl (by omega) (by decide) (sk_1 hs.S) (Nat.le_of_ble_eq_true rfl) (Nat.le_refl _) (Nat.le_refl _) (t_pI hs (pX0_isWay hs (tWs_TC ⟨rfl, rfl⟩) c1) ?_)
  refine g_if_eq (tgt := 18) dX0_wrongDraws_6 (by decide) (fun c2 => ?_) (fun c3 => ?_)
  · have h := h.1 (b2i_0.mp c2)
    refine g_iconst dX0_wrongDraws_18 (by decide) ?_
    exact g_iret dX0_wrongDraws_19 rfl (Nat.le_refl _) (Nat.le_refl _) ⟨_, rfl, hs, h⟩
  · have h := h.2 (b2i_1.mp c3)
    refine g_aload_n (q := 0) dX0_wrongDraws_9 rfl rfl ?_
    refine g_iload_n (q := 2) dX0_wrongDraws_10 rfl rfl ?_
    refine g_i2l dX0_wrongDraws_11 ?_
    refine g_callV1 dX0_wrongDraws_12 kX0_isWay q969 q971 qs23 (ci := 0) rfl (by decide) rfl (by omega) (by decide) (sk_1 hs.S) (Nat.le_of_ble_eq_true rfl) (Nat.le_refl _) (Nat.le_refl _) (t_pI hs (pX0_isWay hs (tWs_TC ⟨rfl, rfl⟩) c1) ?_)
    refine g_if_ne (tgt := 20) dX0_wrongDraws_15 (by decide) (fun c4 => ?_) (fun c5 => ?_)
    · have h := h.1 (b2i_1.mp c4)
      refine g_iload (q := 5) dX0_wrongDraws_20 rfl ?_
      refine g_if_eq (tgt := 48) dX0_wrongDraws_22 (by decide) (fun c6 => ?_) (fun c7 => ?_)
      · have h := h.1 c6
        refine g_iconst dX0_wrongDraws_48 (by decide) ?_
        exact g_iret dX0_wrongDraws_49 rfl (Nat.le_refl _) (Nat.le_refl _) ⟨_, rfl, hs, h⟩
      · have h := h.2 c7
        refine g_iload_n (q := 3) dX0_wrongDraws_25 rfl rfl ?_
        refine g_iconst dX0_wrongDraws_26 (by decide) ?_
        refine g_icmp_lt (tgt := 48) dX0_wrongDraws_27 (by decide) (fun c8 => ?_) (fun c9 => ?_)
        · have h := h.1 c8
          refine g_iconst dX0_wrongDraws_48 (by decide) ?_
          exact g_iret dX0_wrongDraws_49 rfl (Nat.le_refl _) (Nat.le_refl _) ⟨_, rfl, hs, h⟩
        · have h := h.2 c9
          refine g_iload_n (q := 3) dX0_wrongDraws_30 rfl rfl ?_
          refine g_bipush dX0_wrongDraws_31 ⟨by decide, by decide, rfl⟩ ?_
          refine g_icmp_gt (tgt := 48) dX0_wrongDraws_33 (by decide) (fun c10 => ?_) (fun c11 => ?_)
          · have h := h.1 c10
            refine g_iconst dX0_wrongDraws_48 (by decide) ?_
            exact g_iret dX0_wrongDraws_49 rfl (Nat.le_refl _) (Nat.le_refl _) ⟨_, rfl, hs, h⟩
          · have h := h.2 c11
            refine g_iload (q := 4) dX0_wrongDraws_36 rfl ?_
            refine g_iconst dX0_wrongDraws_38 (by decide) ?_
            refine g_icmp_lt (tgt := 48) dX0_wrongDraws_39 (by decide) (fun c12 => ?_) (fun c13 => ?_)
            · have h := h.1 c12
              refine g_iconst dX0_wrongDraws_48 (by decide) ?_
              exact g_iret dX0_wrongDraws_49 rfl (Nat.le_refl _) (Nat.le_refl _) ⟨_, rfl, hs, h⟩
            · have h := h.2 c13
              refine g_iload (q := 4) dX0_wrongDraws_42 rfl ?_
              refine g_iconst dX0_wrongDraws_44 (by decide) ?_
              refine g_icmp_le (tgt := 50) dX0_wrongDraws_45 (by decide) (fun c14 => ?_) (fun c15 => ?_)
              · have h := h.1 c14
                refine g_aload_n (q := 0) dX0_wrongDraws_50 rfl rfl ?_
                obtain ⟨c16, h⟩ := h
                refine g_callV0 dX0_wrongDraws_51 kX0_allLikely q1042 q1044 qs30 (ci := 0) rfl (by decide) rfl (by omega) (by decide) (sk_1 hs.S) (Nat.le_of_ble_eq_true rfl) (Nat.le_refl _) (Nat.le_refl _) (t_pL hs (pX0_allLikely (by omega) hs (tWs_TC ⟨rfl, rfl⟩) c16) ?_)
                refine g_lconst0 dX0_wrongDraws_54 ?_
                refine g_lcmp_ne (tgt := 64) dX0_wrongDraws_55 dX0_wrongDraws_56 (by decide) (fun c17 => ?_) (fun c18 => ?_)
                · have h := h.1 c17
                  refine g_iconst dX0_wrongDraws_64 (by decide) ?_
                  exact g_iret dX0_wrongDraws_65 rfl (Nat.le_refl _) (Nat.le_refl _) ⟨_, rfl, hs, h⟩
                · have h := h.2 c18
                  refine g_bipush dX0_wrongDraws_59 ⟨by decide, by decide, rfl⟩ ?_
                  refine g_goto (tgt := 65) dX0_wrongDraws_61 (by decide) ?_
                  exact g_iret dX0_wrongDraws_65 rfl (Nat.le_refl _) (Nat.le_refl _) ⟨_, rfl, hs, h⟩
              · have h := h.2 c15
                refine g_iconst dX0_wrongDraws_48 (by decide) ?_
                exact g_iret dX0_wrongDraws_49 rfl (Nat.le_refl _) (Nat.le_refl _) ⟨_, rfl, hs, h⟩
    · have h := h.2 (b2i_0.mp c5)
      refine g_iconst dX0_wrongDraws_18 (by decide) ?_
      exact g_iret dX0_wrongDraws_19 rfl (Nat.le_refl _) (Nat.le_refl _) ⟨_, rfl, hs, h⟩
theorem uX0_tellMet_0 {d : Nat} {μ0 μ : tm_M} {K : Int → tm_M → Prop} {ν : tm_M} {v1 v3 : Int} (hd : 2 ≤ d) (hs : tFr (tWs [] [(1, 10), (1, 14), (1, 15)]) μ0 μ)
    (h : (JU μ0 ν) ∧ ((∀ x2, x2 = l_shl (y_all ν) (w32 (8 * v3)) → cI (tWs [] [(1, 10), (1, 14), (1, 15)]) mX0_tell (d - 1) [(2, 1), (1, w64 (x2 - v1)), (1, x2)] μ (fun r4 μ3 => (0 ≤ r4 ∧ r4 ≤ 1) ∧ (K r4 μ3))))) :
    hI (tWs [] [(1, 10), (1, 14), (1, 15)]) μ0 mX0_tellMet d K 0 [(0, 2, 1), (1, 1, v1), (3, 0, v3)] [] μ := by
  refine g_aload_n (q := 0) dX0_tellMet_0 rfl rfl ?_
  obtain ⟨c1, h⟩ := h
  refine g_callV0 dX0_tellMet_1 kX0_allLikely q1042 q1044 qs30 (ci := 0) rfl (by decide) rfl (by omega) (by decide) (sk_1 hs.S) (Nat.le_of_ble_eq_true rfl) (Nat.le_refl _) (Nat.le_refl _) (t_pL hs (pX0_allLikely (by omega) hs (tWs_TC ⟨rfl, rfl⟩) c1) ?_)
  refine g_bipush dX0_tellMet_4 ⟨by decide, by decide, rfl⟩ ?_
  refine g_iload_n (q := 2) dX0_tellMet_6 rfl rfl ?_
  refine g_imul dX0_tellMet_7 ?_
  refine g_lshl dX0_tellMet_8 ?_
  refine g_lstoreN (fun z => [(0, 2, 1), (1, 1, v1), (3, 0, v3), (4, 1, z)]) dX0_tellMet_9 (by decide) [1, 2, 3, 0] (fun _ => rfl) (fun x2 ex2 => ?_)
  have h := h x2 ex2
  refine g_aload_n (q := 0) dX0_tellMet_11 rfl rfl ?_
  refine g_lload (q := 3) dX0_tellMet_12 rfl ?_
  refine g_lload_n (q := 1) dX0_tellMet_14 rfl rfl ?_
  refine g_lsub dX0_tellMet_15 ?_
  refine g_lload (q := 3) dX0_tellMet_16 rfl ?_
  refine g_callV2 dX0_tellMet_18 kX0_tell q1046 q1048 qs31 (ci := 0) rfl (by decide) rfl (by omega) (by decide) (sk_1 hs.S) (Nat.le_of_ble_eq_true rfl) (Nat.le_refl _) (Nat.le_refl _) (t_kI hs (tWs_sub rfl) h (fun r4 μ3 hs h => ?_))
  obtain ⟨c5, h⟩ := h
  exact g_zret dX0_tellMet_21 rfl c5 (Nat.le_refl _) (Nat.le_refl _) ⟨_, rfl, hs, h⟩
theorem uX0_drawn_0 {d : Nat} {μ0 μ : tm_M} {K : Int → tm_M → Prop} {v1 v2 v3 v4 v5 : Int} (hd : 1 ≤ d) (hs : tFr (tWs [7, 8, 48, 49] [(1, 10), (1, 14), (1, 15)]) μ0 μ)
    (h : (v3 < 0 → cI (tWs [] []) mX0_wrongDraws (d - 1) [(2, 1), (0, v1), (0, v2), (0, v4), (0, v5), (0, 0)] μ (fun r4 μ3 => (r4 ≤ 0 → cL (tWs [7, 8, 48, 49] []) mX0_apart (d - 1) [(2, 1), (0, v1), (0, v2), (0, v3), (0, v4), (0, v5)] μ3 (fun r8 μ7 => cI (tWs [] [(1, 10), (1, 14), (1, 15)]) mX0_tellMet (d - 1) [(2, 1), (1, r8), (0, v5)] μ7 (fun r10 μ9 => (0 ≤ r10 ∧ r10 ≤ 1) ∧ (K r10 μ9)))) ∧ (0 < r4 → (∀ μ12, μ12 = tm_w μ3 1 10 r4 → (0 ≤ b2i (r4 = 0) ∧ b2i (r4 = 0) ≤ 1) ∧ (K (b2i (r4 = 0)) μ12))))) ∧ (0 ≤ v3 → (16 < v3 → cI (tWs [] []) mX0_wrongDraws (d - 1) [(2, 1), (0, v1), (0, v2), (0, v4), (0, v5), (0, 0)] μ (fun r19 μ18 => (r19 ≤ 0 → cL (tWs [7, 8, 48, 49] []) mX0_apart (d - 1) [(2, 1), (0, v1), (0, v2), (0, v3), (0, v4), (0, v5)] μ18 (fun r23 μ22 => cI (tWs [] [(1, 10), (1, 14), (1, 15)]) mX0_tellMet (d - 1) [(2, 1), (1, r23), (0, v5)] μ22 (fun r25 μ24 => (0 ≤ r25 ∧ r25 ≤ 1) ∧ (K r25 μ24)))) ∧ (0 < r19 → (∀ μ27, μ27 = tm_w μ18 1 10 r19 → (0 ≤ b2i (r19 = 0) ∧ b2i (r19 = 0) ≤ 1) ∧ (K (b2i (r19 = 0)) μ27))))) ∧ (v3 ≤ 16 → cI (tWs [] []) mX0_wrongDraws (d - 1) [(2, 1), (0, v1), (0, v2), (0, v4), (0, v5), (0, 1)] μ (fun r32 μ31 => (r32 ≤ 0 → cL (tWs [7, 8, 48, 49] []) mX0_apart (d - 1) [(2, 1), (0, v1), (0, v2), (0, v3), (0, v4), (0, v5)] μ31 (fun r36 μ35 => cI (tWs [] [(1, 10), (1, 14), (1, 15)]) mX0_tellMet (d - 1) [(2, 1), (1, r36), (0, v5)] μ35 (fun r38 μ37 => (0 ≤ r38 ∧ r38 ≤ 1) ∧ (K r38 μ37)))) ∧ (0 < r32 → (∀ μ40, μ40 = tm_w μ31 1 10 r32 → (0 ≤ b2i (r32 = 0) ∧ b2i (r32 = 0) ≤ 1) ∧ (K (b2i (r32 = 0)) μ40))))))) :
    hI (tWs [7, 8, 48, 49] [(1, 10), (1, 14), (1, 15)]) μ0 mX0_drawn d K 0 [(0, 2, 1), (1, 0, v1), (2, 0, v2), (3, 0, v3), (4, 0, v4), (5, 0, v5)] [] μ := by
  refine g_aload_n (q := 0) dX0_drawn_0 rfl rfl ?_
  refine g_iload_n (q := 1) dX0_drawn_1 rfl rfl ?_
  refine g_iload_n (q := 2) dX0_drawn_2 rfl rfl ?_
  refine g_iload (q := 4) dX0_drawn_3 rfl ?_
  refine g_iload (q := 5) dX0_drawn_5 rfl ?_
  refine g_iload_n (q := 3) dX0_drawn_7 rfl rfl ?_
  refine g_if_lt (tgt := 21) dX0_drawn_8 (by decide) (fun c1 => ?_) (fun c2 => ?_)
  · have h := h.1 c1
    refine g_iconst dX0_drawn_21 (by decide) ?_
    refine g_callV5 dX0_drawn_22 kX0_wrongDraws q1114 q1116 qs40 (ci := 0) rfl (by decide) rfl (by omega) (by decide) (sk_1 hs.S) (Nat.le_of_ble_eq_true rfl) (Nat.le_refl _) (Nat.le_refl _) (t_kI hs (tWs_sub rfl) h (fun r4 μ3 hs h => ?_))
    refine g_istore (L' := [(0, 2, 1), (1, 0, v1), (2, 0, v2), (3, 0, v3), (4, 0, v4), (5, 0, v5), (6, 0, r4)]) dX0_drawn_25 (by decide) [1, 2, 3, 4, 5, 6, 0] rfl ?_
    refine g_iload (q := 6) dX0_drawn_27 rfl ?_
    refine g_if_le (tgt := 41) dX0_drawn_29 (by decide) (fun c5 => ?_) (fun c6 => ?_)
    · have h := h.1 c5
      refine g_aload_n (q := 0) dX0_drawn_41 rfl rfl ?_
      refine g_aload_n (q := 0) dX0_drawn_42 rfl rfl ?_
      refine g_iload_n (q := 1) dX0_drawn_43 rfl rfl ?_
      refine g_iload_n (q := 2) dX0_drawn_44 rfl rfl ?_
      refine g_iload_n (q := 3) dX0_drawn_45 rfl rfl ?_
      refine g_iload (q := 4) dX0_drawn_46 rfl ?_
      refine g_iload (q := 5) dX0_drawn_48 rfl ?_
      refine g_callV5 dX0_drawn_50 kX0_apart q1118 q1120 qs41 (ci := 0) rfl (by decide) rfl (by omega) (by decide) (sk_1 hs.S) (Nat.le_of_ble_eq_true rfl) (Nat.le_refl _) (Nat.le_refl _) (t_kL hs (tWs_sub rfl) h (fun r8 μ7 hs h => ?_))
      refine g_iload (q := 5) dX0_drawn_53 rfl ?_
      refine g_callV2 dX0_drawn_55 kX0_tellMet q1126 q1128 qs43 (ci := 0) rfl (by decide) rfl (by omega) (by decide) (sk_1 hs.S) (Nat.le_of_ble_eq_true rfl) (Nat.le_refl _) (Nat.le_refl _) (t_kI hs (tWs_sub rfl) h (fun r10 μ9 hs h => ?_))
      obtain ⟨c11, h⟩ := h
      exact g_zret dX0_drawn_58 rfl c11 (Nat.le_refl _) (Nat.le_refl _) ⟨_, rfl, hs, h⟩
    · have h := h.2 c6
      refine g_aload_n (q := 0) dX0_drawn_32 rfl rfl ?_
      refine g_iload (q := 6) dX0_drawn_33 rfl ?_
      refine g_callV1 dX0_drawn_35 kX0_is q567 q569 qs2 (ci := 0) rfl (by decide) rfl (by omega) (by decide) (sk_1 hs.S) (Nat.le_of_ble_eq_true rfl) (Nat.le_refl _) (Nat.le_refl _) (t_kI hs (tWs_sub rfl) (pX0_is hs.S) (fun r14 μ12 hs e13 => ?_))
      obtain ⟨rfl, e13⟩ := e13
      have h := h μ12 e13
      refine g_goto (tgt := 58) dX0_drawn_38 (by decide) ?_
      obtain ⟨c15, h⟩ := h
      exact g_zret dX0_drawn_58 rfl c15 (Nat.le_refl _) (Nat.le_refl _) ⟨_, rfl, hs, h⟩
  · have h := h.2 c2
    refine g_iload_n (q := 3) dX0_drawn_11 rfl rfl ?_
    refine g_bipush dX0_drawn_12 ⟨by decide, by decide, rfl⟩ ?_
    refine g_icmp_gt (tgt := 21) dX0_drawn_14 (by decide) (fun c16 => ?_) (fun c17 => ?_)
    · have h := h.1 c16
      refine g_iconst dX0_drawn_21 (by decide) ?_
      refine g_callV5 dX0_drawn_22 kX0_wrongDraws q1114 q1116 qs40 (ci := 0) rfl (by decide) rfl (by omega) (by decide) (sk_1 hs.S) (Nat.le_of_ble_eq_true rfl) (Nat.le_refl _) (Nat.le_refl _) (t_kI hs (tWs_sub rfl) h (fun r19 μ18 hs h => ?_))
      refine g_istore (L' := [(0, 2, 1), (1, 0, v1), (2, 0, v2), (3, 0, v3), (4, 0, v4), (5, 0, v5), (6, 0, r19)]) dX0_drawn_25 (by decide) [1, 2, 3, 4, 5, 6, 0] rfl ?_
      refine g_iload (q := 6) dX0_drawn_27 rfl ?_
      refine g_if_le (tgt := 41) dX0_drawn_29 (by decide) (fun c20 => ?_) (fun c21 => ?_)
      · have h := h.1 c20
        refine g_aload_n (q := 0) dX0_drawn_41 rfl rfl ?_
        refine g_aload_n (q := 0) dX0_drawn_42 rfl rfl ?_
        refine g_iload_n (q := 1) dX0_drawn_43 rfl rfl ?_
        refine g_iload_n (q := 2) dX0_drawn_44 rfl rfl ?_
        refine g_iload_n (q := 3) dX0_drawn_45 rfl rfl ?_
        refine g_iload (q := 4) dX0_drawn_46 rfl ?_
        refine g_iload (q := 5) dX0_drawn_48 rfl ?_
        refine g_callV5 dX0_drawn_50 kX0_apart q1118 q1120 qs41 (ci := 0) rfl (by decide) rfl (by omega) (by decide) (sk_1 hs.S) (Nat.le_of_ble_eq_true rfl) (Nat.le_refl _) (Nat.le_refl _) (t_kL hs (tWs_sub rfl) h (fun r23 μ22 hs h => ?_))
        refine g_iload (q := 5) dX0_drawn_53 rfl ?_
        refine g_callV2 dX0_drawn_55 kX0_tellMet q1126 q1128 qs43 (ci := 0) rfl (by decide) rfl (by omega) (by decide) (sk_1 hs.S) (Nat.le_of_ble_eq_true rfl) (Nat.le_refl _) (Nat.le_refl _) (t_kI hs (tWs_sub rfl) h (fun r25 μ24 hs h => ?_))
        obtain ⟨c26, h⟩ := h
        exact g_zret dX0_drawn_58 rfl c26 (Nat.le_refl _) (Nat.le_refl _) ⟨_, rfl, hs, h⟩
      · have h := h.2 c21
        refine g_aload_n (q := 0) dX0_drawn_32 rfl rfl ?_
        refine g_iload (q := 6) dX0_drawn_33 rfl ?_
        refine g_callV1 dX0_drawn_35 kX0_is q567 q569 qs2 (ci := 0) rfl (by decide) rfl (by omega) (by decide) (sk_1 hs.S) (Nat.le_of_ble_eq_true rfl) (Nat.le_refl _) (Nat.le_refl _) (t_kI hs (tWs_sub rfl) (pX0_is hs.S) (fun r29 μ27 hs e28 => ?_))
        obtain ⟨rfl, e28⟩ := e28
        have h := h μ27 e28
        refine g_goto (tgt := 58) dX0_drawn_38 (by decide) ?_
        obtain ⟨c30, h⟩ := h
        exact g_zret dX0_drawn_58 rfl c30 (Nat.le_refl _) (Nat.le_refl _) ⟨_, rfl, hs, h⟩
    · have h := h.2 c17
      refine g_iconst dX0_drawn_17 (by decide) ?_
      refine g_goto (tgt := 22) dX0_drawn_18 (by decide) ?_
      refine g_callV5 dX0_drawn_22 kX0_wrongDraws q1114 q1116 qs40 (ci := 0) rfl (by decide) rfl (by omega) (by decide) (sk_1 hs.S) (Nat.le_of_ble_eq_true rfl) (Nat.le_refl _) (Nat.le_refl _) (t_kI hs (tWs_sub rfl) h (fun r32 μ31 hs h => ?_))
      refine g_istore (L' := [(0, 2, 1), (1, 0, v1), (2, 0, v2), (3, 0, v3), (4, 0, v4), (5, 0, v5), (6, 0, r32)]) dX0_drawn_25 (by decide) [1, 2, 3, 4, 5, 6, 0] rfl ?_
      refine g_iload (q := 6) dX0_drawn_27 rfl ?_
      refine g_if_le (tgt := 41) dX0_drawn_29 (by decide) (fun c33 => ?_) (fun c34 => ?_)
      · have h := h.1 c33
        refine g_aload_n (q := 0) dX0_drawn_41 rfl rfl ?_
        refine g_aload_n (q := 0) dX0_drawn_42 rfl rfl ?_
        refine g_iload_n (q := 1) dX0_drawn_43 rfl rfl ?_
        refine g_iload_n (q := 2) dX0_drawn_44 rfl rfl ?_
        refine g_iload_n (q := 3) dX0_drawn_45 rfl rfl ?_
        refine g_iload (q := 4) dX0_drawn_46 rfl ?_
        refine g_iload (q := 5) dX0_drawn_48 rfl ?_
        refine g_callV5 dX0_drawn_50 kX0_apart q1118 q1120 qs41 (ci := 0) rfl (by decide) rfl (by omega) (by decide) (sk_1 hs.S) (Nat.le_of_ble_eq_true rfl) (Nat.le_refl _) (Nat.le_refl _) (t_kL hs (tWs_sub rfl) h (fun r36 μ35 hs h => ?_))
        refine g_iload (q := 5) dX0_drawn_53 rfl ?_
        refine g_callV2 dX0_drawn_55 kX0_tellMet q1126 q1128 qs43 (ci := 0) rfl (by decide) rfl (by omega) (by decide) (sk_1 hs.S) (Nat.le_of_ble_eq_true rfl) (Nat.le_refl _) (Nat.le_refl _) (t_kI hs (tWs_sub rfl) h (fun r38 μ37 hs h => ?_))
        obtain ⟨c39, h⟩ := h
        exact g_zret dX0_drawn_58 rfl c39 (Nat.le_refl _) (Nat.le_refl _) ⟨_, rfl, hs, h⟩
      · have h := h.2 c34
        refine g_aload_n (q := 0) dX0_drawn_32 rfl rfl ?_
        refine g_iload (q := 6) dX0_drawn_33 rfl ?_
        refine g_callV1 dX0_drawn_35 kX0_is q567 q569 qs2 (ci := 0) rfl (by decide) rfl (by omega) (by decide) (sk_1 hs.S) (Nat.le_of_ble_eq_true rfl) (Nat.le_refl _) (Nat.le_refl _) (t_kI hs (tWs_sub rfl) (pX0_is hs.S) (fun r42 μ40 hs e41 => ?_))
        obtain ⟨rfl, e41⟩ := e41
        have h := h μ40 e41
        refine g_goto (tgt := 58) dX0_drawn_38 (by decide) ?_
        obtain ⟨c43, h⟩ := h
        exact g_zret dX0_drawn_58 rfl c43 (Nat.le_refl _) (Nat.le_refl _) ⟨_, rfl, hs, h⟩
theorem uX0_bestDrawn_0 {d : Nat} {μ0 μ : tm_M} {K : Int → tm_M → Prop} {v1 v2 v3 v4 : Int} (hd : 1 ≤ d) (hs : tFr (tWs [7, 8, 48, 49] [(1, 10), (1, 14), (1, 15)]) μ0 μ)
    (h : cI (tWs [] []) mX0_wrongDraws (d - 1) [(2, 1), (0, v1), (0, v2), (0, v3), (0, v4), (0, 1)] μ (fun r2 μ1 => (r2 ≤ 0 → cL (tWs [7, 8, 48, 49] []) mX0_apart (d - 1) [(2, 1), (0, v1), (0, v2), (0, 0), (0, v3), (0, v4)] μ1 (fun r6 μ5 => hI (tWs [7, 8, 48, 49] [(1, 10), (1, 14), (1, 15)]) μ0 mX0_bestDrawn d K 42 [(0, 2, 1), (1, 0, v1), (2, 0, v2), (3, 0, v3), (4, 0, v4), (6, 0, 0), (7, 1, r6), (9, 0, 1)] [] μ5)) ∧ (0 < r2 → (∀ μ7, μ7 = tm_w μ1 1 10 r2 → K (-1) μ7)))) :
    hI (tWs [7, 8, 48, 49] [(1, 10), (1, 14), (1, 15)]) μ0 mX0_bestDrawn d K 0 [(0, 2, 1), (1, 0, v1), (2, 0, v2), (3, 0, v3), (4, 0, v4)] [] μ := by
  refine g_aload_n (q := 0) dX0_bestDrawn_0 rfl rfl ?_
  refine g_iload_n (q := 1) dX0_bestDrawn_1 rfl rfl ?_
  refine g_iload_n (q := 2) dX0_bestDrawn_2 rfl rfl ?_
  refine g_iload_n (q := 3) dX0_bestDrawn_3 rfl rfl ?_
  refine g_iload (q := 4) dX0_bestDrawn_4 rfl ?_
  refine g_iconst dX0_bestDrawn_6 (by decide) ?_
  refine g_callV5 dX0_bestDrawn_7 kX0_wrongDraws q1114 q1116 qs40 (ci := 0) rfl (by decide) rfl (by omega) (by decide) (sk_1 hs.S) (Nat.le_of_ble_eq_true rfl) (Nat.le_refl _) (Nat.le_refl _) (t_kI hs (tWs_sub rfl) h (fun r2 μ1 hs h => ?_))
  refine g_istore (L' := [(0, 2, 1), (1, 0, v1), (2, 0, v2), (3, 0, v3), (4, 0, v4), (5, 0, r2)]) dX0_bestDrawn_10 (by decide) [1, 2, 3, 4, 5, 0] rfl ?_
  refine g_iload (q := 5) dX0_bestDrawn_12 rfl ?_
  refine g_if_le (tgt := 24) dX0_bestDrawn_14 (by decide) (fun c3 => ?_) (fun c4 => ?_)
  · have h := h.1 c3
    refine g_iconst dX0_bestDrawn_24 (by decide) ?_
    refine g_istore (L' := [(0, 2, 1), (1, 0, v1), (2, 0, v2), (3, 0, v3), (4, 0, v4), (5, 0, r2), (6, 0, 0)]) dX0_bestDrawn_25 (by decide) [1, 2, 3, 4, 5, 6, 0] rfl ?_
    refine g_aload_n (q := 0) dX0_bestDrawn_27 rfl rfl ?_
    refine g_iload_n (q := 1) dX0_bestDrawn_28 rfl rfl ?_
    refine g_iload_n (q := 2) dX0_bestDrawn_29 rfl rfl ?_
    refine g_iconst dX0_bestDrawn_30 (by decide) ?_
    refine g_iload_n (q := 3) dX0_bestDrawn_31 rfl rfl ?_
    refine g_iload (q := 4) dX0_bestDrawn_32 rfl ?_
    refine g_callV5 dX0_bestDrawn_34 kX0_apart q1118 q1120 qs41 (ci := 0) rfl (by decide) rfl (by omega) (by decide) (sk_1 hs.S) (Nat.le_of_ble_eq_true rfl) (Nat.le_refl _) (Nat.le_refl _) (t_kL hs (tWs_sub rfl) h (fun r6 μ5 hs h => ?_))
    refine g_lstore (L' := [(0, 2, 1), (1, 0, v1), (2, 0, v2), (3, 0, v3), (4, 0, v4), (5, 0, r2), (6, 0, 0), (7, 1, r6)]) dX0_bestDrawn_37 (by decide) [1, 2, 3, 4, 5, 6, 7, 0] rfl ?_
    refine g_iconst dX0_bestDrawn_39 (by decide) ?_
    refine g_istore (L' := [(0, 2, 1), (1, 0, v1), (2, 0, v2), (3, 0, v3), (4, 0, v4), (5, 0, r2), (6, 0, 0), (7, 1, r6), (9, 0, 1)]) dX0_bestDrawn_40 (by decide) [1, 2, 3, 4, 5, 6, 7, 8, 0] rfl ?_
    exact g_less [0, 1, 2, 3, 4, 6, 7, 8] rfl h
  · have h := h.2 c4
    refine g_aload_n (q := 0) dX0_bestDrawn_17 rfl rfl ?_
    refine g_iload (q := 5) dX0_bestDrawn_18 rfl ?_
    refine g_callV1 dX0_bestDrawn_20 kX0_none q636 q638 qs3 (ci := 0) rfl (by decide) rfl (by omega) (by decide) (sk_1 hs.S) (Nat.le_of_ble_eq_true rfl) (Nat.le_refl _) (Nat.le_refl _) (t_kI hs (tWs_sub rfl) (pX0_none hs.S) (fun r9 μ7 hs e8 => ?_))
    obtain ⟨rfl, e8⟩ := e8
    have h := h μ7 e8
    exact g_iret dX0_bestDrawn_23 rfl (Nat.le_refl _) (Nat.le_refl _) ⟨_, rfl, hs, h⟩
theorem uX0_bestDrawn_42 {d : Nat} {μ0 μ : tm_M} {K : Int → tm_M → Prop} {v1 v2 v3 v4 v6 v7 v9 : Int} (hd : 1 ≤ d) (hs : tFr (tWs [7, 8, 48, 49] [(1, 10), (1, 14), (1, 15)]) μ0 μ)
    (h : (16 < v9 → cI (tWs [] [(1, 10), (1, 14), (1, 15)]) mX0_tellMet (d - 1) [(2, 1), (1, v7), (0, v4)] μ (fun r4 μ3 => (∀ μ5, μ5 = tm_w μ3 1 10 0 → K v6 μ5))) ∧ (v9 ≤ 16 → cL (tWs [7, 8, 48, 49] []) mX0_apart (d - 1) [(2, 1), (0, v1), (0, v2), (0, v9), (0, v3), (0, v4)] μ (fun r9 μ8 => (r9 < v7 → hI (tWs [7, 8, 48, 49] [(1, 10), (1, 14), (1, 15)]) μ0 mX0_bestDrawn d K 42 [(0, 2, 1), (1, 0, v1), (2, 0, v2), (3, 0, v3), (4, 0, v4), (6, 0, v9), (7, 1, r9), (9, 0, w32 (v9 + 1))] [] μ8) ∧ (v7 ≤ r9 → hI (tWs [7, 8, 48, 49] [(1, 10), (1, 14), (1, 15)]) μ0 mX0_bestDrawn d K 42 [(0, 2, 1), (1, 0, v1), (2, 0, v2), (3, 0, v3), (4, 0, v4), (6, 0, v6), (7, 1, v7), (9, 0, w32 (v9 + 1))] [] μ8)))) :
    hI (tWs [7, 8, 48, 49] [(1, 10), (1, 14), (1, 15)]) μ0 mX0_bestDrawn d K 42 [(0, 2, 1), (1, 0, v1), (2, 0, v2), (3, 0, v3), (4, 0, v4), (6, 0, v6), (7, 1, v7), (9, 0, v9)] [] μ := by
  refine g_iload (q := 7) dX0_bestDrawn_42 rfl ?_
  refine g_bipush dX0_bestDrawn_44 ⟨by decide, by decide, rfl⟩ ?_
  refine g_icmp_gt (tgt := 87) dX0_bestDrawn_46 (by decide) (fun c1 => ?_) (fun c2 => ?_)
  · have h := h.1 c1
    refine g_aload_n (q := 0) dX0_bestDrawn_87 rfl rfl ?_
    refine g_lload (q := 6) dX0_bestDrawn_88 rfl ?_
    refine g_iload (q := 4) dX0_bestDrawn_90 rfl ?_
    refine g_callV2 dX0_bestDrawn_92 kX0_tellMet q1126 q1128 qs43 (ci := 0) rfl (by decide) rfl (by omega) (by decide) (sk_1 hs.S) (Nat.le_of_ble_eq_true rfl) (Nat.le_refl _) (Nat.le_refl _) (t_kI hs (tWs_sub rfl) h (fun r4 μ3 hs h => ?_))
    refine g_pop dX0_bestDrawn_95 (by decide) ?_
    refine g_aload_n (q := 0) dX0_bestDrawn_96 rfl rfl ?_
    refine g_iload (q := 5) dX0_bestDrawn_97 rfl ?_
    refine g_callV1 dX0_bestDrawn_99 kX0_gives q856 q858 qs17 (ci := 0) rfl (by decide) rfl (by omega) (by decide) (sk_1 hs.S) (Nat.le_of_ble_eq_true rfl) (Nat.le_refl _) (Nat.le_refl _) (t_kI hs (tWs_sub rfl) (pX0_gives hs.S) (fun r7 μ5 hs e6 => ?_))
    obtain ⟨rfl, e6⟩ := e6
    have h := h μ5 e6
    exact g_iret dX0_bestDrawn_102 rfl (Nat.le_refl _) (Nat.le_refl _) ⟨_, rfl, hs, h⟩
  · have h := h.2 c2
    refine g_aload_n (q := 0) dX0_bestDrawn_49 rfl rfl ?_
    refine g_iload_n (q := 1) dX0_bestDrawn_50 rfl rfl ?_
    refine g_iload_n (q := 2) dX0_bestDrawn_51 rfl rfl ?_
    refine g_iload (q := 7) dX0_bestDrawn_52 rfl ?_
    refine g_iload_n (q := 3) dX0_bestDrawn_54 rfl rfl ?_
    refine g_iload (q := 4) dX0_bestDrawn_55 rfl ?_
    refine g_callV5 dX0_bestDrawn_57 kX0_apart q1118 q1120 qs41 (ci := 0) rfl (by decide) rfl (by omega) (by decide) (sk_1 hs.S) (Nat.le_of_ble_eq_true rfl) (Nat.le_refl _) (Nat.le_refl _) (t_kL hs (tWs_sub rfl) h (fun r9 μ8 hs h => ?_))
    refine g_lstore (L' := [(0, 2, 1), (1, 0, v1), (2, 0, v2), (3, 0, v3), (4, 0, v4), (6, 0, v6), (7, 1, v7), (9, 0, v9), (10, 1, r9)]) dX0_bestDrawn_60 (by decide) [1, 2, 3, 4, 5, 6, 7, 8, 0] rfl ?_
    refine g_lload (q := 8) dX0_bestDrawn_62 rfl ?_
    refine g_lload (q := 6) dX0_bestDrawn_64 rfl ?_
    refine g_lcmp_lt (tgt := 73) dX0_bestDrawn_66 dX0_bestDrawn_67 (by decide) (fun c10 => ?_) (fun c11 => ?_)
    · have h := h.1 c10
      refine g_lload (q := 8) dX0_bestDrawn_73 rfl ?_
      refine g_lstore (L' := [(0, 2, 1), (1, 0, v1), (2, 0, v2), (3, 0, v3), (4, 0, v4), (6, 0, v6), (7, 1, r9), (9, 0, v9), (10, 1, r9)]) dX0_bestDrawn_75 (by decide) [1, 2, 3, 4, 5, 6, 0, 7, 8] rfl ?_
      refine g_iload (q := 7) dX0_bestDrawn_77 rfl ?_
      refine g_istore (L' := [(0, 2, 1), (1, 0, v1), (2, 0, v2), (3, 0, v3), (4, 0, v4), (6, 0, v9), (7, 1, r9), (9, 0, v9), (10, 1, r9)]) dX0_bestDrawn_79 (by decide) [1, 2, 3, 4, 5, 0, 6, 7, 8] rfl ?_
      refine g_iinc (q := 7) dX0_bestDrawn_81 (by decide) rfl [1, 2, 3, 4, 5, 6, 7, 0, 8] rfl ?_
      refine g_goto (tgt := 42) dX0_bestDrawn_84 (by decide) ?_
      exact g_less [0, 1, 2, 3, 4, 5, 6, 7] rfl h
    · have h := h.2 c11
      refine g_goto (tgt := 81) dX0_bestDrawn_70 (by decide) ?_
      refine g_iinc (q := 7) dX0_bestDrawn_81 (by decide) rfl [1, 2, 3, 4, 5, 6, 7, 0, 8] rfl ?_
      refine g_goto (tgt := 42) dX0_bestDrawn_84 (by decide) ?_
      exact g_less [0, 1, 2, 3, 4, 5, 6, 7] rfl h
