theorem uX0_holds_0 {d : Nat} {μ0 μ : tm_M} {K : Int → tm_M → Prop} (hs : tFr (tWs [51] []) μ0 μ)
    (h : hI (tWs [51] []) μ0 mX0_holds d K 2 [(0, 2, 1), (1, 0, 0)] [] μ) :
    hI (tWs [51] []) μ0 mX0_holds d K 0 [(0, 2, 1)] [] μ := by
  refine g_iconst dX0_holds_0 (by decide) ?_
  refine g_istore_n (L' := [(0, 2, 1), (1, 0, 0)]) dX0_holds_1 rfl (by decide) [1, 0] rfl ?_
  exact h
theorem uX0_holds_2 {d : Nat} {μ0 μ : tm_M} {K : Int → tm_M → Prop} {v1 : Int} (hs : tFr (tWs [51] []) μ0 μ)
    (h : (3 ≤ v1 → (tm_v μ 51 1 ≠ 0 → K 0 μ) ∧ (tm_v μ 51 1 = 0 → (tm_v μ 51 2 ≠ 0 → K 0 μ) ∧ (tm_v μ 51 2 = 0 → K 1 μ))) ∧ (v1 < 3 → (0 ≤ v1 ∧ v1 < 3) ∧ ((∀ μ8, μ8 = tm_w μ 51 v1 v1 → (∀ x9, x9 = w32 (v1 - 1) → hI (tWs [51] []) μ0 mX0_holds d K 18 [(0, 2, 1), (1, 0, v1), (2, 0, x9)] [] μ8))))) :
    hI (tWs [51] []) μ0 mX0_holds d K 2 [(0, 2, 1), (1, 0, v1)] [] μ := by
  refine g_iload_n (q := 1) dX0_holds_2 rfl rfl ?_
  refine g_iconst dX0_holds_3 (by decide) ?_
  refine g_icmp_ge (tgt := 62) dX0_holds_4 (by decide) (fun c1 => ?_) (fun c2 => ?_)
  · have h := h.1 c1
    refine g_aload_n (q := 0) dX0_holds_62 rfl rfl ?_
    refine g_getC (x := 51) 2 dX0_holds_63 fX0_125 rfl (by decide) (sk_1 hs.S) (sv_1_38 hs.S) ?_
    refine g_iconst dX0_holds_66 (by decide) ?_
    refine g_iaload dX0_holds_67 (by decide) (sk_51 hs.S) (by decide) (t_lt (sn_51 hs.S) (by decide)) ?_
    refine g_if_ne (tgt := 84) dX0_holds_68 (by decide) (fun c3 => ?_) (fun c4 => ?_)
    · have h := h.1 c3
      refine g_iconst dX0_holds_84 (by decide) ?_
      exact g_zret dX0_holds_85 rfl (by decide) (Nat.le_refl _) (Nat.le_refl _) ⟨_, rfl, hs, h⟩
    · have h := h.2 c4
      refine g_aload_n (q := 0) dX0_holds_71 rfl rfl ?_
      refine g_getC (x := 51) 2 dX0_holds_72 fX0_125 rfl (by decide) (sk_1 hs.S) (sv_1_38 hs.S) ?_
      refine g_iconst dX0_holds_75 (by decide) ?_
      refine g_iaload dX0_holds_76 (by decide) (sk_51 hs.S) (by decide) (t_lt (sn_51 hs.S) (by decide)) ?_
      refine g_if_ne (tgt := 84) dX0_holds_77 (by decide) (fun c5 => ?_) (fun c6 => ?_)
      · have h := h.1 c5
        refine g_iconst dX0_holds_84 (by decide) ?_
        exact g_zret dX0_holds_85 rfl (by decide) (Nat.le_refl _) (Nat.le_refl _) ⟨_, rfl, hs, h⟩
      · have h := h.2 c6
        refine g_iconst dX0_holds_80 (by decide) ?_
        refine g_goto (tgt := 85) dX0_holds_81 (by decide) ?_
        exact g_zret dX0_holds_85 rfl (by decide) (Nat.le_refl _) (Nat.le_refl _) ⟨_, rfl, hs, h⟩
  · have h := h.2 c2
    refine g_aload_n (q := 0) dX0_holds_7 rfl rfl ?_
    refine g_getC (x := 51) 2 dX0_holds_8 fX0_125 rfl (by decide) (sk_1 hs.S) (sv_1_38 hs.S) ?_
    refine g_iload_n (q := 1) dX0_holds_11 rfl rfl ?_
    refine g_iload_n (q := 1) dX0_holds_12 rfl rfl ?_
    obtain ⟨c7, h⟩ := h
    refine g_iastore dX0_holds_13 (by decide) (sk_51 hs.S) c7.1 (t_lt (sn_51 hs.S) c7.2) (p_w hs sf_51 (tWs_in _ rfl) fun μ8 eμ8 hs => ?_)
    have h := h μ8 eμ8
    refine g_iload_n (q := 1) dX0_holds_14 rfl rfl ?_
    refine g_iconst dX0_holds_15 (by decide) ?_
    refine g_isub dX0_holds_16 ?_
    refine g_istore_nN (fun z => [(0, 2, 1), (1, 0, v1), (2, 0, z)]) dX0_holds_17 rfl (by decide) [1, 2, 0] (fun _ => rfl) (fun x9 ex9 => ?_)
    have h := h x9 ex9
    exact h
theorem uX0_holds_18 {d : Nat} {μ0 μ : tm_M} {K : Int → tm_M → Prop} {v1 v2 : Int} (hs : tFr (tWs [51] []) μ0 μ)
    (h : (v2 < 0 → hI (tWs [51] []) μ0 mX0_holds d K 2 [(0, 2, 1), (1, 0, w32 (v1 + 1))] [] μ) ∧ (0 ≤ v2 → (0 ≤ v2 ∧ v2 < 3) ∧ ((0 ≤ v1 ∧ v1 < 3) ∧ ((tm_v μ0 (7 + v2) 1 ≠ tm_v μ0 (7 + v1) 1 → hI (tWs [51] []) μ0 mX0_holds d K 18 [(0, 2, 1), (1, 0, v1), (2, 0, w32 (v2 + -1))] [] μ) ∧ (tm_v μ0 (7 + v2) 1 = tm_v μ0 (7 + v1) 1 → (∀ μ7, μ7 = tm_w μ 51 v1 v2 → hI (tWs [51] []) μ0 mX0_holds d K 18 [(0, 2, 1), (1, 0, v1), (2, 0, w32 (v2 + -1))] [] μ7)))))) :
    hI (tWs [51] []) μ0 mX0_holds d K 18 [(0, 2, 1), (1, 0, v1), (2, 0, v2)] [] μ := by
  refine g_iload_n (q := 2) dX0_holds_18 rfl rfl ?_
  refine g_if_lt (tgt := 56) dX0_holds_19 (by decide) (fun c1 => ?_) (fun c2 => ?_)
  · have h := h.1 c1
    refine g_iinc (q := 1) dX0_holds_56 (by decide) rfl [1, 0, 2] rfl ?_
    refine g_goto (tgt := 2) dX0_holds_59 (by decide) ?_
    exact g_less [0, 1] rfl h
  · have h := h.2 c2
    refine g_aload_n (q := 0) dX0_holds_22 rfl rfl ?_
    refine g_getC (x := 50) 2 dX0_holds_23 fX0_121 rfl (by decide) (sk_1 hs.S) (sv_1_37 hs.S) ?_
    refine g_iload_n (q := 2) dX0_holds_26 rfl rfl ?_
    obtain ⟨c3, h⟩ := h
    refine g_aaloadC (x := 7 + v2) dX0_holds_27 (by decide) (sk_50 hs.S) (by decide) c3.1 (t_lt (sn_50 hs.S) c3.2) (sa_50 hs.S c3.1 c3.2) ?_
    refine g_getC (x := tm_v μ0 (7 + v2) 1) 2 dX0_holds_28 fX0_311 rfl (by have := c3; omega) (sak_50 hs.S c3.1 c3.2) (hs.v (tWs_nr (lo := 7) (n := 3) rfl (by have := c3; omega))) ?_
    refine g_aload_n (q := 0) dX0_holds_31 rfl rfl ?_
    refine g_getC (x := 50) 2 dX0_holds_32 fX0_121 rfl (by decide) (sk_1 hs.S) (sv_1_37 hs.S) ?_
    refine g_iload_n (q := 1) dX0_holds_35 rfl rfl ?_
    obtain ⟨c4, h⟩ := h
    refine g_aaloadC (x := 7 + v1) dX0_holds_36 (by decide) (sk_50 hs.S) (by decide) c4.1 (t_lt (sn_50 hs.S) c4.2) (sa_50 hs.S c4.1 c4.2) ?_
    refine g_getC (x := tm_v μ0 (7 + v1) 1) 2 dX0_holds_37 fX0_311 rfl (by have := c4; omega) (sak_50 hs.S c4.1 c4.2) (hs.v (tWs_nr (lo := 7) (n := 3) rfl (by have := c4; omega))) ?_
    refine g_acmp_ne (tgt := 50) dX0_holds_40 (by decide) (fun c5 => ?_) (fun c6 => ?_)
    · have h := h.1 c5
      refine g_iinc (q := 2) dX0_holds_50 (by decide) rfl [1, 2, 0] rfl ?_
      refine g_goto (tgt := 18) dX0_holds_53 (by decide) ?_
      exact h
    · have h := h.2 c6
      refine g_aload_n (q := 0) dX0_holds_43 rfl rfl ?_
      refine g_getC (x := 51) 2 dX0_holds_44 fX0_125 rfl (by decide) (sk_1 hs.S) (sv_1_38 hs.S) ?_
      refine g_iload_n (q := 1) dX0_holds_47 rfl rfl ?_
      refine g_iload_n (q := 2) dX0_holds_48 rfl rfl ?_
      refine g_iastore dX0_holds_49 (by decide) (sk_51 hs.S) c4.1 (t_lt (sn_51 hs.S) c4.2) (p_w hs sf_51 (tWs_in _ rfl) fun μ7 eμ7 hs => ?_)
      have h := h μ7 eμ7
      refine g_iinc (q := 2) dX0_holds_50 (by decide) rfl [1, 2, 0] rfl ?_
      refine g_goto (tgt := 18) dX0_holds_53 (by decide) ?_
      exact h
theorem uX0_three_0 {d : Nat} {μ0 μ : tm_M} {K : Int → tm_M → Prop} {ν : tm_M} {v1 v2 v3 v4 : Int} (hd : 1 ≤ d) (hs : tFr (tWs [7, 8, 9, 51] [(1, 10)]) μ0 μ)
    (h : (JV μ0 ν) ∧ ((¬ (0 ≤ v1 ∧ v1 < tm_v ν 65 43) → hI (tWs [7, 8, 9, 51] [(1, 10)]) μ0 mX0_three d K 27 [(0, 2, 1)] [] μ) ∧ (0 ≤ v1 ∧ v1 < tm_v ν 65 43 → (¬ (0 ≤ v2 ∧ v2 < tm_v ν 65 43) → hI (tWs [7, 8, 9, 51] [(1, 10)]) μ0 mX0_three d K 27 [(0, 2, 1)] [] μ) ∧ (0 ≤ v2 ∧ v2 < tm_v ν 65 43 → (0 ≤ v3 ∧ v3 < tm_v ν 65 43 → (∀ x8, x8 = w32 (v4.tdiv 100) → (∀ x9, x9 = (w32 (v4.tdiv 10)).tmod 10 → (∀ x10, x10 = v4.tmod 10 → (v4 < 0 → hI (tWs [7, 8, 9, 51] [(1, 10)]) μ0 mX0_three d K 89 [(0, 2, 1)] [] μ) ∧ (0 ≤ v4 → (JU μ0 ν) ∧ ((¬ (0 ≤ x8 ∧ x8 < tm_v ν 65 20) → hI (tWs [7, 8, 9, 51] [(1, 10)]) μ0 mX0_three d K 89 [(0, 2, 1)] [] μ) ∧ (0 ≤ x8 ∧ x8 < tm_v ν 65 20 → (¬ (0 ≤ x9 ∧ x9 < tm_v ν 65 20) → hI (tWs [7, 8, 9, 51] [(1, 10)]) μ0 mX0_three d K 89 [(0, 2, 1)] [] μ) ∧ (0 ≤ x9 ∧ x9 < tm_v ν 65 20 → (0 ≤ x10 ∧ x10 < tm_v ν 65 20 → (0 ≤ v1 ∧ v1 < 12) ∧ ((ob μ0 (tm_v μ0 1 8) 4) ∧ ((ob μ0 (tm_v μ0 (tm_v μ0 1 8) 0) 26) ∧ ((0 ≤ x8 ∧ x8 < tm_n μ0 (tm_v μ0 (tm_v μ0 1 8) 0)) ∧ (cV (tWs [7] []) mX3_begin (d - 1) [(2, 7), (2, tm_v μ0 6 v1), (2, tm_v μ0 (tm_v μ0 (tm_v μ0 1 8) 0) x8)] μ (fun μ24 => (0 ≤ v2 ∧ v2 < 12) ∧ ((0 ≤ x9 ∧ x9 < tm_n μ0 (tm_v μ0 (tm_v μ0 1 8) 0)) ∧ (cV (tWs [8] []) mX3_begin (d - 1) [(2, 8), (2, tm_v μ0 6 v2), (2, tm_v μ0 (tm_v μ0 (tm_v μ0 1 8) 0) x9)] μ24 (fun μ27 => (0 ≤ v3 ∧ v3 < 12) ∧ ((0 ≤ x10 ∧ x10 < tm_n μ0 (tm_v μ0 (tm_v μ0 1 8) 0)) ∧ (cV (tWs [9] []) mX3_begin (d - 1) [(2, 9), (2, tm_v μ0 6 v3), (2, tm_v μ0 (tm_v μ0 (tm_v μ0 1 8) 0) x10)] μ27 (fun μ30 => hI (tWs [7, 8, 9, 51] [(1, 10)]) μ0 mX0_three d K 167 [(0, 2, 1), (8, 0, 0)] [] μ30)))))))))))) ∧ (¬ (0 ≤ x10 ∧ x10 < tm_v ν 65 20) → hI (tWs [7, 8, 9, 51] [(1, 10)]) μ0 mX0_three d K 89 [(0, 2, 1)] [] μ))))))))) ∧ (¬ (0 ≤ v3 ∧ v3 < tm_v ν 65 43) → hI (tWs [7, 8, 9, 51] [(1, 10)]) μ0 mX0_three d K 27 [(0, 2, 1)] [] μ))))) :
    hI (tWs [7, 8, 9, 51] [(1, 10)]) μ0 mX0_three d K 0 [(0, 2, 1), (1, 0, v1), (2, 0, v2), (3, 0, v3), (4, 0, v4)] [] μ := by
  refine g_aload_n (q := 0) dX0_three_0 rfl rfl ?_
  refine g_iload_n (q := 1) dX0_three_1 rfl rfl ?_
  refine g_i2l dX0_three_2 ?_
  obtain ⟨c1, h⟩ := h
  refine g_callV1 dX0_three_3 kX0_isWay q969 q971 qs23 (ci := 0) rfl (by decide) rfl (by omega) (by decide) (sk_1 hs.S) (Nat.le_of_ble_eq_true rfl) (Nat.le_refl _) (Nat.le_refl _) (t_pI hs (pX0_isWay hs (tWs_TC ⟨rfl, rfl⟩) c1) ?_)
  refine g_if_eq (tgt := 27) dX0_three_6 (by decide) (fun c2 => ?_) (fun c3 => ?_)
  · have h := h.1 (b2i_0.mp c2)
    exact g_less [0] rfl h
  · have h := h.2 (b2i_1.mp c3)
    refine g_aload_n (q := 0) dX0_three_9 rfl rfl ?_
    refine g_iload_n (q := 2) dX0_three_10 rfl rfl ?_
    refine g_i2l dX0_three_11 ?_
    refine g_callV1 dX0_three_12 kX0_isWay q969 q971 qs23 (ci := 0) rfl (by decide) rfl (by omega) (by decide) (sk_1 hs.S) (Nat.le_of_ble_eq_true rfl) (Nat.le_refl _) (Nat.le_refl _) (t_pI hs (pX0_isWay hs (tWs_TC ⟨rfl, rfl⟩) c1) ?_)
    refine g_if_eq (tgt := 27) dX0_three_15 (by decide) (fun c4 => ?_) (fun c5 => ?_)
    · have h := h.1 (b2i_0.mp c4)
      exact g_less [0] rfl h
    · have h := h.2 (b2i_1.mp c5)
      refine g_aload_n (q := 0) dX0_three_18 rfl rfl ?_
      refine g_iload_n (q := 3) dX0_three_19 rfl rfl ?_
      refine g_i2l dX0_three_20 ?_
      refine g_callV1 dX0_three_21 kX0_isWay q969 q971 qs23 (ci := 0) rfl (by decide) rfl (by omega) (by decide) (sk_1 hs.S) (Nat.le_of_ble_eq_true rfl) (Nat.le_refl _) (Nat.le_refl _) (t_pI hs (pX0_isWay hs (tWs_TC ⟨rfl, rfl⟩) c1) ?_)
      refine g_if_ne (tgt := 33) dX0_three_24 (by decide) (fun c6 => ?_) (fun c7 => ?_)
      · have h := h.1 (b2i_1.mp c6)
        refine g_iload (q := 4) dX0_three_33 rfl ?_
        refine g_bipush dX0_three_35 ⟨by decide, by decide, rfl⟩ ?_
        refine g_idiv dX0_three_37 (by decide) ?_
        refine g_istoreN (fun z => [(0, 2, 1), (1, 0, v1), (2, 0, v2), (3, 0, v3), (4, 0, v4), (5, 0, z)]) dX0_three_38 (by decide) [1, 2, 3, 4, 5, 0] (fun _ => rfl) (fun x8 ex8 => ?_)
        have h := h x8 ex8
        refine g_iload (q := 4) dX0_three_40 rfl ?_
        refine g_bipush dX0_three_42 ⟨by decide, by decide, rfl⟩ ?_
        refine g_idiv dX0_three_44 (by decide) ?_
        refine g_bipush dX0_three_45 ⟨by decide, by decide, rfl⟩ ?_
        refine g_irem dX0_three_47 (by decide) ?_
        refine g_istoreN (fun z => [(0, 2, 1), (1, 0, v1), (2, 0, v2), (3, 0, v3), (4, 0, v4), (5, 0, x8), (6, 0, z)]) dX0_three_48 (by decide) [1, 2, 3, 4, 5, 6, 0] (fun _ => rfl) (fun x9 ex9 => ?_)
        have h := h x9 ex9
        refine g_iload (q := 4) dX0_three_50 rfl ?_
        refine g_bipush dX0_three_52 ⟨by decide, by decide, rfl⟩ ?_
        refine g_irem dX0_three_54 (by decide) ?_
        refine g_istoreN (fun z => [(0, 2, 1), (1, 0, v1), (2, 0, v2), (3, 0, v3), (4, 0, v4), (5, 0, x8), (6, 0, x9), (7, 0, z)]) dX0_three_55 (by decide) [1, 2, 3, 4, 5, 6, 7, 0] (fun _ => rfl) (fun x10 ex10 => ?_)
        have h := h x10 ex10
        refine g_iload (q := 4) dX0_three_57 rfl ?_
        refine g_if_lt (tgt := 89) dX0_three_59 (by decide) (fun c11 => ?_) (fun c12 => ?_)
        · have h := h.1 c11
          exact g_less [0] rfl h
        · have h := h.2 c12
          refine g_aload_n (q := 0) dX0_three_62 rfl rfl ?_
          refine g_iload (q := 5) dX0_three_63 rfl ?_
          obtain ⟨c13, h⟩ := h
          refine g_callV1 dX0_three_65 kX0_isPlace q872 q874 qs18 (ci := 0) rfl (by decide) rfl (by omega) (by decide) (sk_1 hs.S) (Nat.le_of_ble_eq_true rfl) (Nat.le_refl _) (Nat.le_refl _) (t_pI hs (pX0_isPlace hs (tWs_TC ⟨rfl, rfl⟩) c13) ?_)
          refine g_if_eq (tgt := 89) dX0_three_68 (by decide) (fun c14 => ?_) (fun c15 => ?_)
          · have h := h.1 (b2i_0.mp c14)
            exact g_less [0] rfl h
          · have h := h.2 (b2i_1.mp c15)
            refine g_aload_n (q := 0) dX0_three_71 rfl rfl ?_
            refine g_iload (q := 6) dX0_three_72 rfl ?_
            refine g_callV1 dX0_three_74 kX0_isPlace q872 q874 qs18 (ci := 0) rfl (by decide) rfl (by omega) (by decide) (sk_1 hs.S) (Nat.le_of_ble_eq_true rfl) (Nat.le_refl _) (Nat.le_refl _) (t_pI hs (pX0_isPlace hs (tWs_TC ⟨rfl, rfl⟩) c13) ?_)
            refine g_if_eq (tgt := 89) dX0_three_77 (by decide) (fun c16 => ?_) (fun c17 => ?_)
            · have h := h.1 (b2i_0.mp c16)
              exact g_less [0] rfl h
            · have h := h.2 (b2i_1.mp c17)
              refine g_aload_n (q := 0) dX0_three_80 rfl rfl ?_
              refine g_iload (q := 7) dX0_three_81 rfl ?_
              refine g_callV1 dX0_three_83 kX0_isPlace q872 q874 qs18 (ci := 0) rfl (by decide) rfl (by omega) (by decide) (sk_1 hs.S) (Nat.le_of_ble_eq_true rfl) (Nat.le_refl _) (Nat.le_refl _) (t_pI hs (pX0_isPlace hs (tWs_TC ⟨rfl, rfl⟩) c13) ?_)
              refine g_if_ne (tgt := 95) dX0_three_86 (by decide) (fun c18 => ?_) (fun c19 => ?_)
              · have h := h.1 (b2i_1.mp c18)
                refine g_aload_n (q := 0) dX0_three_95 rfl rfl ?_
                refine g_getC (x := 7) 2 dX0_three_96 fX0_40 rfl (by decide) (sk_1 hs.S) (sv_1_4 hs.S) ?_
                refine g_aload_n (q := 0) dX0_three_99 rfl rfl ?_
                refine g_getC (x := 6) 2 dX0_three_100 fX0_33 rfl (by decide) (sk_1 hs.S) (sv_1_3 hs.S) ?_
                refine g_iload_n (q := 1) dX0_three_103 rfl rfl ?_
                obtain ⟨c20, h⟩ := h
                refine g_aaloadC (x := tm_v μ0 6 v1) dX0_three_104 (by decide) (sk_6 hs.S) (by decide) c20.1 (t_lt (sn_6 hs.S) c20.2) (hs.v (tWs_no _ rfl)) ?_
                refine g_aload_n (q := 0) dX0_three_105 rfl rfl ?_
                refine g_getC (x := tm_v μ0 1 8) 2 dX0_three_106 fX0_57 rfl (by decide) (sk_1 hs.S) (hs.v (tWs_noF rfl)) ?_
                obtain ⟨c21, h⟩ := h
                refine g_getC (x := tm_v μ0 (tm_v μ0 1 8) 0) 2 dX0_three_109 fX0_240 rfl c21.1.1 (hs.k ▸ c21.1.2) (hs.v (tWs_ob rfl c21)) ?_
                refine g_iload (q := 5) dX0_three_112 rfl ?_
                obtain ⟨c22, h⟩ := h
                obtain ⟨c23, h⟩ := h
                refine g_aaloadC (x := tm_v μ0 (tm_v μ0 (tm_v μ0 1 8) 0) x8) dX0_three_114 c22.1.1 (hs.k ▸ c22.1.2) (by decide) c23.1 (hs.n ▸ c23.2) (hs.v (tWs_ob rfl c22)) ?_
                refine g_callV2 dX0_three_115 kX3_begin q977 q978 q979 (ci := 3) rfl (by decide) rfl (by omega) (by decide) (sk_7 hs.S) (Nat.le_of_ble_eq_true rfl) (Nat.le_refl _) (Nat.le_refl _) (t_kV hs (tWs_sub rfl) h (fun μ24 hs h => ?_))
                refine g_aload_n (q := 0) dX0_three_118 rfl rfl ?_
                refine g_getC (x := 8) 2 dX0_three_119 fX0_44 rfl (by decide) (sk_1 hs.S) (sv_1_5 hs.S) ?_
                refine g_aload_n (q := 0) dX0_three_122 rfl rfl ?_
                refine g_getC (x := 6) 2 dX0_three_123 fX0_33 rfl (by decide) (sk_1 hs.S) (sv_1_3 hs.S) ?_
                refine g_iload_n (q := 2) dX0_three_126 rfl rfl ?_
                obtain ⟨c25, h⟩ := h
                refine g_aaloadC (x := tm_v μ0 6 v2) dX0_three_127 (by decide) (sk_6 hs.S) (by decide) c25.1 (t_lt (sn_6 hs.S) c25.2) (hs.v (tWs_no _ rfl)) ?_
                refine g_aload_n (q := 0) dX0_three_128 rfl rfl ?_
                refine g_getC (x := tm_v μ0 1 8) 2 dX0_three_129 fX0_57 rfl (by decide) (sk_1 hs.S) (hs.v (tWs_noF rfl)) ?_
                refine g_getC (x := tm_v μ0 (tm_v μ0 1 8) 0) 2 dX0_three_132 fX0_240 rfl c21.1.1 (hs.k ▸ c21.1.2) (hs.v (tWs_ob rfl c21)) ?_
                refine g_iload (q := 6) dX0_three_135 rfl ?_
                obtain ⟨c26, h⟩ := h
                refine g_aaloadC (x := tm_v μ0 (tm_v μ0 (tm_v μ0 1 8) 0) x9) dX0_three_137 c22.1.1 (hs.k ▸ c22.1.2) (by decide) c26.1 (hs.n ▸ c26.2) (hs.v (tWs_ob rfl c22)) ?_
                refine g_callV2 dX0_three_138 kX3_begin q977 q978 q979 (ci := 3) rfl (by decide) rfl (by omega) (by decide) (sk_8 hs.S) (Nat.le_of_ble_eq_true rfl) (Nat.le_refl _) (Nat.le_refl _) (t_kV hs (tWs_sub rfl) h (fun μ27 hs h => ?_))
                refine g_aload_n (q := 0) dX0_three_141 rfl rfl ?_
                refine g_getC (x := 9) 2 dX0_three_142 fX0_47 rfl (by decide) (sk_1 hs.S) (sv_1_6 hs.S) ?_
                refine g_aload_n (q := 0) dX0_three_145 rfl rfl ?_
                refine g_getC (x := 6) 2 dX0_three_146 fX0_33 rfl (by decide) (sk_1 hs.S) (sv_1_3 hs.S) ?_
                refine g_iload_n (q := 3) dX0_three_149 rfl rfl ?_
                obtain ⟨c28, h⟩ := h
                refine g_aaloadC (x := tm_v μ0 6 v3) dX0_three_150 (by decide) (sk_6 hs.S) (by decide) c28.1 (t_lt (sn_6 hs.S) c28.2) (hs.v (tWs_no _ rfl)) ?_
                refine g_aload_n (q := 0) dX0_three_151 rfl rfl ?_
                refine g_getC (x := tm_v μ0 1 8) 2 dX0_three_152 fX0_57 rfl (by decide) (sk_1 hs.S) (hs.v (tWs_noF rfl)) ?_
                refine g_getC (x := tm_v μ0 (tm_v μ0 1 8) 0) 2 dX0_three_155 fX0_240 rfl c21.1.1 (hs.k ▸ c21.1.2) (hs.v (tWs_ob rfl c21)) ?_
                refine g_iload (q := 7) dX0_three_158 rfl ?_
                obtain ⟨c29, h⟩ := h
                refine g_aaloadC (x := tm_v μ0 (tm_v μ0 (tm_v μ0 1 8) 0) x10) dX0_three_160 c22.1.1 (hs.k ▸ c22.1.2) (by decide) c29.1 (hs.n ▸ c29.2) (hs.v (tWs_ob rfl c22)) ?_
                refine g_callV2 dX0_three_161 kX3_begin q977 q978 q979 (ci := 3) rfl (by decide) rfl (by omega) (by decide) (sk_9 hs.S) (Nat.le_of_ble_eq_true rfl) (Nat.le_refl _) (Nat.le_refl _) (t_kV hs (tWs_sub rfl) h (fun μ30 hs h => ?_))
                refine g_iconst dX0_three_164 (by decide) ?_
                refine g_istore (L' := [(0, 2, 1), (1, 0, v1), (2, 0, v2), (3, 0, v3), (4, 0, v4), (5, 0, x8), (6, 0, x9), (7, 0, x10), (8, 0, 0)]) dX0_three_165 (by decide) [1, 2, 3, 4, 5, 6, 7, 8, 0] rfl ?_
                exact g_less [0, 8] rfl h
              · have h := h.2 (b2i_0.mp c19)
                exact g_less [0] rfl h
      · have h := h.2 (b2i_0.mp c7)
        exact g_less [0] rfl h
theorem uX0_three_27 {d : Nat} {μ0 μ : tm_M} {K : Int → tm_M → Prop} (hd : 1 ≤ d) (hs : tFr (tWs [7, 8, 9, 51] [(1, 10)]) μ0 μ)
    (h : (∀ μ1, μ1 = tm_w μ 1 10 2 → K (-1) μ1)) :
    hI (tWs [7, 8, 9, 51] [(1, 10)]) μ0 mX0_three d K 27 [(0, 2, 1)] [] μ := by
  refine g_aload_n (q := 0) dX0_three_27 rfl rfl ?_
  refine g_iconst dX0_three_28 (by decide) ?_
  refine g_callV1 dX0_three_29 kX0_none q636 q638 qs3 (ci := 0) rfl (by decide) rfl (by omega) (by decide) (sk_1 hs.S) (Nat.le_of_ble_eq_true rfl) (Nat.le_refl _) (Nat.le_refl _) (t_kI hs (tWs_sub rfl) (pX0_none hs.S) (fun r3 μ1 hs e2 => ?_))
  obtain ⟨rfl, e2⟩ := e2
  have h := h μ1 e2
  exact g_iret dX0_three_32 rfl (Nat.le_refl _) (Nat.le_refl _) ⟨_, rfl, hs, h⟩
theorem uX0_three_89 {d : Nat} {μ0 μ : tm_M} {K : Int → tm_M → Prop} (hd : 1 ≤ d) (hs : tFr (tWs [7, 8, 9, 51] [(1, 10)]) μ0 μ)
    (h : (∀ μ1, μ1 = tm_w μ 1 10 2 → K (-1) μ1)) :
    hI (tWs [7, 8, 9, 51] [(1, 10)]) μ0 mX0_three d K 89 [(0, 2, 1)] [] μ := by
  refine g_aload_n (q := 0) dX0_three_89 rfl rfl ?_
  refine g_iconst dX0_three_90 (by decide) ?_
  refine g_callV1 dX0_three_91 kX0_none q636 q638 qs3 (ci := 0) rfl (by decide) rfl (by omega) (by decide) (sk_1 hs.S) (Nat.le_of_ble_eq_true rfl) (Nat.le_refl _) (Nat.le_refl _) (t_kI hs (tWs_sub rfl) (pX0_none hs.S) (fun r3 μ1 hs e2 => ?_))
  obtain ⟨rfl, e2⟩ := e2
  have h := h μ1 e2
  exact g_iret dX0_three_94 rfl (Nat.le_refl _) (Nat.le_refl _) ⟨_, rfl, hs, h⟩
theorem uX0_three_167 {d : Nat} {μ0 μ : tm_M} {K : Int → tm_M → Prop} {v8 : Int} (hd : 1 ≤ d) (hs : tFr (tWs [7, 8, 9, 51] [(1, 10)]) μ0 μ)
    (h : (200 < v8 → (∀ μ3, μ3 = tm_w μ 1 10 8 → K (-1) μ3)) ∧ (v8 ≤ 200 → cI (tWs [51] []) mX0_holds (d - 1) [(2, 1)] μ (fun r7 μ6 => (r7 = 0 → hI (tWs [7, 8, 9, 51] [(1, 10)]) μ0 mX0_three d K 192 [(0, 2, 1), (8, 0, v8), (9, 0, 0)] [] μ6) ∧ (r7 ≠ 0 → (∀ μ10, μ10 = tm_w μ6 1 10 0 → K v8 μ10))))) :
    hI (tWs [7, 8, 9, 51] [(1, 10)]) μ0 mX0_three d K 167 [(0, 2, 1), (8, 0, v8)] [] μ := by
  refine g_iload (q := 1) dX0_three_167 rfl ?_
  refine g_sipush dX0_three_169 ⟨by decide, by decide, rfl⟩ ?_
  refine g_icmp_gt (tgt := 260) dX0_three_172 (by decide) (fun c1 => ?_) (fun c2 => ?_)
  · have h := h.1 c1
    refine g_aload_n (q := 0) dX0_three_260 rfl rfl ?_
    refine g_bipush dX0_three_261 ⟨by decide, by decide, rfl⟩ ?_
    refine g_callV1 dX0_three_263 kX0_none q636 q638 qs3 (ci := 0) rfl (by decide) rfl (by omega) (by decide) (sk_1 hs.S) (Nat.le_of_ble_eq_true rfl) (Nat.le_refl _) (Nat.le_refl _) (t_kI hs (tWs_sub rfl) (pX0_none hs.S) (fun r5 μ3 hs e4 => ?_))
    obtain ⟨rfl, e4⟩ := e4
    have h := h μ3 e4
    exact g_iret dX0_three_266 rfl (Nat.le_refl _) (Nat.le_refl _) ⟨_, rfl, hs, h⟩
  · have h := h.2 c2
    refine g_aload_n (q := 0) dX0_three_175 rfl rfl ?_
    refine g_callV0 dX0_three_176 kX0_holds q1138 q1140 qs44 (ci := 0) rfl (by decide) rfl (by omega) (by decide) (sk_1 hs.S) (Nat.le_of_ble_eq_true rfl) (Nat.le_refl _) (Nat.le_refl _) (t_kI hs (tWs_sub rfl) h (fun r7 μ6 hs h => ?_))
    refine g_if_eq (tgt := 189) dX0_three_179 (by decide) (fun c8 => ?_) (fun c9 => ?_)
    · have h := h.1 c8
      refine g_iconst dX0_three_189 (by decide) ?_
      refine g_istore (L' := [(0, 2, 1), (8, 0, v8), (9, 0, 0)]) dX0_three_190 (by decide) [1, 2, 0] rfl ?_
      exact h
    · have h := h.2 c9
      refine g_aload_n (q := 0) dX0_three_182 rfl rfl ?_
      refine g_iload (q := 1) dX0_three_183 rfl ?_
      refine g_callV1 dX0_three_185 kX0_gives q856 q858 qs17 (ci := 0) rfl (by decide) rfl (by omega) (by decide) (sk_1 hs.S) (Nat.le_of_ble_eq_true rfl) (Nat.le_refl _) (Nat.le_refl _) (t_kI hs (tWs_sub rfl) (pX0_gives hs.S) (fun r12 μ10 hs e11 => ?_))
      obtain ⟨rfl, e11⟩ := e11
      have h := h μ10 e11
      exact g_iret dX0_three_188 rfl (Nat.le_refl _) (Nat.le_refl _) ⟨_, rfl, hs, h⟩
theorem uX0_three_192 {d : Nat} {μ0 μ : tm_M} {K : Int → tm_M → Prop} {v8 v9 : Int} (hd : 1 ≤ d) (hs : tFr (tWs [7, 8, 9, 51] [(1, 10)]) μ0 μ)
    (h : (3 ≤ v9 → hI (tWs [7, 8, 9, 51] [(1, 10)]) μ0 mX0_three d K 167 [(0, 2, 1), (8, 0, w32 (v8 + 1))] [] μ) ∧ (v9 < 3 → (0 ≤ v9 ∧ v9 < 3) ∧ ((tm_v μ 51 v9 ≠ v9 → (0 ≤ tm_v μ 51 v9 ∧ tm_v μ 51 v9 < 3) ∧ ((∀ μ7, μ7 = tm_w μ (7 + v9) 1 (tm_v μ (7 + (tm_v μ 51 v9)) 1) → hI (tWs [7, 8, 9, 51] [(1, 10)]) μ0 mX0_three d K 192 [(0, 2, 1), (8, 0, v8), (9, 0, w32 (v9 + 1))] [] μ7))) ∧ (tm_v μ 51 v9 = v9 → cR (tWs [7 + v9] []) mX3_next (d - 1) [(2, 7 + v9)] μ (fun r9 μ8 => (∀ μ10, μ10 = tm_w μ8 (7 + v9) 1 r9 → hI (tWs [7, 8, 9, 51] [(1, 10)]) μ0 mX0_three d K 192 [(0, 2, 1), (8, 0, v8), (9, 0, w32 (v9 + 1))] [] μ10)))))) :
    hI (tWs [7, 8, 9, 51] [(1, 10)]) μ0 mX0_three d K 192 [(0, 2, 1), (8, 0, v8), (9, 0, v9)] [] μ := by
  refine g_iload (q := 2) dX0_three_192 rfl ?_
  refine g_iconst dX0_three_194 (by decide) ?_
  refine g_icmp_ge (tgt := 254) dX0_three_195 (by decide) (fun c1 => ?_) (fun c2 => ?_)
  · have h := h.1 c1
    refine g_iinc (q := 1) dX0_three_254 (by decide) rfl [1, 0, 2] rfl ?_
    refine g_goto (tgt := 167) dX0_three_257 (by decide) ?_
    exact g_less [0, 1] rfl h
  · have h := h.2 c2
    refine g_aload_n (q := 0) dX0_three_198 rfl rfl ?_
    refine g_getC (x := 50) 2 dX0_three_199 fX0_121 rfl (by decide) (sk_1 hs.S) (sv_1_37 hs.S) ?_
    refine g_iload (q := 2) dX0_three_202 rfl ?_
    obtain ⟨c3, h⟩ := h
    refine g_aaloadC (x := 7 + v9) dX0_three_204 (by decide) (sk_50 hs.S) (by decide) c3.1 (t_lt (sn_50 hs.S) c3.2) (sa_50 hs.S c3.1 c3.2) ?_
    refine g_aload_n (q := 0) dX0_three_205 rfl rfl ?_
    refine g_getC (x := 51) 2 dX0_three_206 fX0_125 rfl (by decide) (sk_1 hs.S) (sv_1_38 hs.S) ?_
    refine g_iload (q := 2) dX0_three_209 rfl ?_
    refine g_iaload dX0_three_211 (by decide) (sk_51 hs.S) c3.1 (t_lt (sn_51 hs.S) c3.2) ?_
    refine g_iload (q := 2) dX0_three_212 rfl ?_
    refine g_icmp_ne (tgt := 230) dX0_three_214 (by decide) (fun c4 => ?_) (fun c5 => ?_)
    · have h := h.1 c4
      refine g_aload_n (q := 0) dX0_three_230 rfl rfl ?_
      refine g_getC (x := 50) 2 dX0_three_231 fX0_121 rfl (by decide) (sk_1 hs.S) (sv_1_37 hs.S) ?_
      refine g_aload_n (q := 0) dX0_three_234 rfl rfl ?_
      refine g_getC (x := 51) 2 dX0_three_235 fX0_125 rfl (by decide) (sk_1 hs.S) (sv_1_38 hs.S) ?_
      refine g_iload (q := 2) dX0_three_238 rfl ?_
      refine g_iaload dX0_three_240 (by decide) (sk_51 hs.S) c3.1 (t_lt (sn_51 hs.S) c3.2) ?_
      obtain ⟨c6, h⟩ := h
      refine g_aaloadC (x := 7 + tm_v μ 51 v9) dX0_three_241 (by decide) (sk_50 hs.S) (by decide) c6.1 (t_lt (sn_50 hs.S) c6.2) (sa_50 hs.S c6.1 c6.2) ?_
      refine g_get 2 dX0_three_242 fX0_311 rfl (by have := c6; omega) (sak_50 hs.S c6.1 c6.2) ?_
      refine g_put dX0_three_245 fX0_311 rfl (by have := c3; omega) (sak_50 hs.S c3.1 c3.2) (fun e => absurd e (by decide)) (p_w hs (by have := c3; unfold tfr; omega) (tWs_r (lo := 7) (n := 3) rfl (by have := c3; omega)) fun μ7 eμ7 hs => ?_)
      have h := h μ7 eμ7
      refine g_iinc (q := 2) dX0_three_248 (by decide) rfl [1, 2, 0] rfl ?_
      refine g_goto (tgt := 192) dX0_three_251 (by decide) ?_
      exact h
    · have h := h.2 c5
      refine g_aload_n (q := 0) dX0_three_217 rfl rfl ?_
      refine g_getC (x := 50) 2 dX0_three_218 fX0_121 rfl (by decide) (sk_1 hs.S) (sv_1_37 hs.S) ?_
      refine g_iload (q := 2) dX0_three_221 rfl ?_
      refine g_aaloadC (x := 7 + v9) dX0_three_223 (by decide) (sk_50 hs.S) (by decide) c3.1 (t_lt (sn_50 hs.S) c3.2) (sa_50 hs.S c3.1 c3.2) ?_
      refine g_callV0 dX0_three_224 kX3_next q999 q1000 q1001 (ci := 3) rfl (by decide) rfl (by omega) (by have := c3; omega) (sak_50 hs.S c3.1 c3.2) (Nat.le_of_ble_eq_true rfl) (Nat.le_refl _) (Nat.le_refl _) (t_kR hs (tWs_s1 (lo := 7) (n := 3) rfl (by have := c3; omega)) h (fun r9 μ8 hs h => ?_))
      refine g_goto (tgt := 245) dX0_three_227 (by decide) ?_
      refine g_put dX0_three_245 fX0_311 rfl (by have := c3; omega) (sak_50 hs.S c3.1 c3.2) (fun e => absurd e (by decide)) (p_w hs (by have := c3; unfold tfr; omega) (tWs_r (lo := 7) (n := 3) rfl (by have := c3; omega)) fun μ10 eμ10 hs => ?_)
      have h := h μ10 eμ10
      refine g_iinc (q := 2) dX0_three_248 (by decide) rfl [1, 2, 0] rfl ?_
      refine g_goto (tgt := 192) dX0_three_251 (by decide) ?_
      exact h
