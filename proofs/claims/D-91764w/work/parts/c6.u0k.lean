theorem uX0_isParted_0 {d : Nat} {μ0 μ : tm_M} {K : Int → tm_M → Prop} {v1 v2 : Int} (hs : tFr (tWs [45, 46] []) μ0 μ)
    (h : hI (tWs [45, 46] []) μ0 mX0_isParted d K 2 [(0, 2, 1), (1, 0, v1), (2, 0, v2), (3, 0, 0)] [] μ) :
    hI (tWs [45, 46] []) μ0 mX0_isParted d K 0 [(0, 2, 1), (1, 0, v1), (2, 0, v2)] [] μ := by
  refine g_iconst dX0_isParted_0 (by decide) ?_
  refine g_istore_n (L' := [(0, 2, 1), (1, 0, v1), (2, 0, v2), (3, 0, 0)]) dX0_isParted_1 rfl (by decide) [1, 2, 3, 0] rfl ?_
  exact h
theorem uX0_isParted_2 {d : Nat} {μ0 μ : tm_M} {K : Int → tm_M → Prop} {v1 v2 v3 : Int} (hs : tFr (tWs [45, 46] []) μ0 μ)
    (h : (64 ≤ v3 → (∀ μ3, μ3 = tm_w μ 46 0 (w32 ((w32 (8 * v1)) + v2)) → hI (tWs [45, 46] []) μ0 mX0_isParted d K 52 [(0, 2, 1), (3, 0, 1), (4, 0, 0)] [] μ3)) ∧ (v3 < 64 → (v3 ≠ w32 ((w32 (8 * v1)) + v2) → (0 ≤ v3 ∧ v3 < 64) ∧ ((∀ μ7, μ7 = tm_w μ 45 v3 0 → hI (tWs [45, 46] []) μ0 mX0_isParted d K 2 [(0, 2, 1), (1, 0, v1), (2, 0, v2), (3, 0, w32 (v3 + 1))] [] μ7))) ∧ (v3 = w32 ((w32 (8 * v1)) + v2) → (0 ≤ v3 ∧ v3 < 64) ∧ ((∀ μ9, μ9 = tm_w μ 45 v3 1 → hI (tWs [45, 46] []) μ0 mX0_isParted d K 2 [(0, 2, 1), (1, 0, v1), (2, 0, v2), (3, 0, w32 (v3 + 1))] [] μ9))))) :
    hI (tWs [45, 46] []) μ0 mX0_isParted d K 2 [(0, 2, 1), (1, 0, v1), (2, 0, v2), (3, 0, v3)] [] μ := by
  refine g_iload_n (q := 3) dX0_isParted_2 rfl rfl ?_
  refine g_bipush dX0_isParted_3 ⟨by decide, by decide, rfl⟩ ?_
  refine g_icmp_ge (tgt := 35) dX0_isParted_5 (by decide) (fun c1 => ?_) (fun c2 => ?_)
  · have h := h.1 c1
    refine g_aload_n (q := 0) dX0_isParted_35 rfl rfl ?_
    refine g_getC (x := 46) 2 dX0_isParted_36 fX0_108 rfl (by decide) (sk_1 hs.S) (sv_1_33 hs.S) ?_
    refine g_iconst dX0_isParted_39 (by decide) ?_
    refine g_bipush dX0_isParted_40 ⟨by decide, by decide, rfl⟩ ?_
    refine g_iload_n (q := 1) dX0_isParted_42 rfl rfl ?_
    refine g_imul dX0_isParted_43 ?_
    refine g_iload_n (q := 2) dX0_isParted_44 rfl rfl ?_
    refine g_iadd dX0_isParted_45 ?_
    refine g_iastore dX0_isParted_46 (by decide) (sk_46 hs.S) (by decide) (t_lt (sn_46 hs.S) (by decide)) (p_w hs sf_46 (tWs_in _ rfl) fun μ3 eμ3 hs => ?_)
    have h := h μ3 eμ3
    refine g_iconst dX0_isParted_47 (by decide) ?_
    refine g_istore_n (L' := [(0, 2, 1), (1, 0, v1), (2, 0, v2), (3, 0, 1)]) dX0_isParted_48 rfl (by decide) [1, 2, 3, 0] rfl ?_
    refine g_iconst dX0_isParted_49 (by decide) ?_
    refine g_istore (L' := [(0, 2, 1), (1, 0, v1), (2, 0, v2), (3, 0, 1), (4, 0, 0)]) dX0_isParted_50 (by decide) [1, 2, 3, 4, 0] rfl ?_
    exact g_less [0, 3, 4] rfl h
  · have h := h.2 c2
    refine g_aload_n (q := 0) dX0_isParted_8 rfl rfl ?_
    refine g_getC (x := 45) 2 dX0_isParted_9 fX0_104 rfl (by decide) (sk_1 hs.S) (sv_1_32 hs.S) ?_
    refine g_iload_n (q := 3) dX0_isParted_12 rfl rfl ?_
    refine g_iload_n (q := 3) dX0_isParted_13 rfl rfl ?_
    refine g_bipush dX0_isParted_14 ⟨by decide, by decide, rfl⟩ ?_
    refine g_iload_n (q := 1) dX0_isParted_16 rfl rfl ?_
    refine g_imul dX0_isParted_17 ?_
    refine g_iload_n (q := 2) dX0_isParted_18 rfl rfl ?_
    refine g_iadd dX0_isParted_19 ?_
    refine g_icmp_ne (tgt := 27) dX0_isParted_20 (by decide) (fun c4 => ?_) (fun c5 => ?_)
    · have h := h.1 c4
      refine g_iconst dX0_isParted_27 (by decide) ?_
      obtain ⟨c6, h⟩ := h
      refine g_zastore dX0_isParted_28 (by decide) (sk_45 hs.S) c6.1 (t_lt (sn_45 hs.S) c6.2) (by decide) (p_w hs sf_45 (tWs_in _ rfl) fun μ7 eμ7 hs => ?_)
      have h := h μ7 eμ7
      refine g_iinc (q := 3) dX0_isParted_29 (by decide) rfl [1, 2, 3, 0] rfl ?_
      refine g_goto (tgt := 2) dX0_isParted_32 (by decide) ?_
      exact h
    · have h := h.2 c5
      refine g_iconst dX0_isParted_23 (by decide) ?_
      refine g_goto (tgt := 28) dX0_isParted_24 (by decide) ?_
      obtain ⟨c8, h⟩ := h
      refine g_zastore dX0_isParted_28 (by decide) (sk_45 hs.S) c8.1 (t_lt (sn_45 hs.S) c8.2) (by decide) (p_w hs sf_45 (tWs_in _ rfl) fun μ9 eμ9 hs => ?_)
      have h := h μ9 eμ9
      refine g_iinc (q := 3) dX0_isParted_29 (by decide) rfl [1, 2, 3, 0] rfl ?_
      refine g_goto (tgt := 2) dX0_isParted_32 (by decide) ?_
      exact h
theorem uX0_isParted_52 {d : Nat} {μ0 μ : tm_M} {K : Int → tm_M → Prop} {v3 v4 : Int} (hs : tFr (tWs [45, 46] []) μ0 μ)
    (h : (v3 ≤ v4 → K 1 μ) ∧ (v4 < v3 → (ob μ0 (tm_v μ0 1 8) 4) ∧ ((0 ≤ v4 ∧ v4 < 64) ∧ ((ob μ0 (tm_v μ0 (tm_v μ0 1 8) 0) 26) ∧ ((0 ≤ w32 ((tm_v μ 46 v4).tdiv 8) ∧ w32 ((tm_v μ 46 v4).tdiv 8) < tm_n μ0 (tm_v μ0 (tm_v μ0 1 8) 0)) ∧ ((∀ x7, x7 = tm_v μ0 (tm_v μ0 (tm_v μ0 1 8) 0) (w32 ((tm_v μ 46 v4).tdiv 8)) → (0 ≤ (tm_v μ 46 v4).tmod 8 ∧ (tm_v μ 46 v4).tmod 8 < tm_n μ0 (tm_v μ0 (tm_v μ0 1 8) 0)) ∧ ((∀ x9, x9 = tm_v μ0 (tm_v μ0 (tm_v μ0 1 8) 0) ((tm_v μ 46 v4).tmod 8) → hI (tWs [45, 46] []) μ0 mX0_isParted d K 101 [(0, 2, 1), (3, 0, v3), (4, 0, v4), (5, 2, x7), (6, 2, x9), (7, 0, 1)] [] μ))))))))) :
    hI (tWs [45, 46] []) μ0 mX0_isParted d K 52 [(0, 2, 1), (3, 0, v3), (4, 0, v4)] [] μ := by
  refine g_iload (q := 2) dX0_isParted_52 rfl ?_
  refine g_iload_n (q := 1) dX0_isParted_54 rfl rfl ?_
  refine g_icmp_ge (tgt := 218) dX0_isParted_55 (by decide) (fun c1 => ?_) (fun c2 => ?_)
  · have h := h.1 c1
    refine g_iconst dX0_isParted_218 (by decide) ?_
    exact g_zret dX0_isParted_219 rfl (by decide) (Nat.le_refl _) (Nat.le_refl _) ⟨_, rfl, hs, h⟩
  · have h := h.2 c2
    refine g_aload_n (q := 0) dX0_isParted_58 rfl rfl ?_
    refine g_getC (x := tm_v μ0 1 8) 2 dX0_isParted_59 fX0_57 rfl (by decide) (sk_1 hs.S) (hs.v (tWs_noF rfl)) ?_
    obtain ⟨c3, h⟩ := h
    refine g_getC (x := tm_v μ0 (tm_v μ0 1 8) 0) 2 dX0_isParted_62 fX0_240 rfl c3.1.1 (hs.k ▸ c3.1.2) (hs.v (tWs_ob rfl c3)) ?_
    refine g_aload_n (q := 0) dX0_isParted_65 rfl rfl ?_
    refine g_getC (x := 46) 2 dX0_isParted_66 fX0_108 rfl (by decide) (sk_1 hs.S) (sv_1_33 hs.S) ?_
    refine g_iload (q := 2) dX0_isParted_69 rfl ?_
    obtain ⟨c4, h⟩ := h
    refine g_iaload dX0_isParted_71 (by decide) (sk_46 hs.S) c4.1 (t_lt (sn_46 hs.S) c4.2) ?_
    refine g_bipush dX0_isParted_72 ⟨by decide, by decide, rfl⟩ ?_
    refine g_idiv dX0_isParted_74 (by decide) ?_
    obtain ⟨c5, h⟩ := h
    obtain ⟨c6, h⟩ := h
    refine g_aaloadC (x := tm_v μ0 (tm_v μ0 (tm_v μ0 1 8) 0) (w32 ((tm_v μ 46 v4).tdiv 8))) dX0_isParted_75 c5.1.1 (hs.k ▸ c5.1.2) (by decide) c6.1 (hs.n ▸ c6.2) (hs.v (tWs_ob rfl c5)) ?_
    refine g_astoreN (fun z => [(0, 2, 1), (3, 0, v3), (4, 0, v4), (5, 2, z)]) dX0_isParted_76 (by decide) [1, 2, 3, 0] (fun _ => rfl) (fun x7 ex7 => ?_)
    have h := h x7 ex7
    refine g_aload_n (q := 0) dX0_isParted_78 rfl rfl ?_
    refine g_getC (x := tm_v μ0 1 8) 2 dX0_isParted_79 fX0_57 rfl (by decide) (sk_1 hs.S) (hs.v (tWs_noF rfl)) ?_
    refine g_getC (x := tm_v μ0 (tm_v μ0 1 8) 0) 2 dX0_isParted_82 fX0_240 rfl c3.1.1 (hs.k ▸ c3.1.2) (hs.v (tWs_ob rfl c3)) ?_
    refine g_aload_n (q := 0) dX0_isParted_85 rfl rfl ?_
    refine g_getC (x := 46) 2 dX0_isParted_86 fX0_108 rfl (by decide) (sk_1 hs.S) (sv_1_33 hs.S) ?_
    refine g_iload (q := 2) dX0_isParted_89 rfl ?_
    refine g_iaload dX0_isParted_91 (by decide) (sk_46 hs.S) c4.1 (t_lt (sn_46 hs.S) c4.2) ?_
    refine g_bipush dX0_isParted_92 ⟨by decide, by decide, rfl⟩ ?_
    refine g_irem dX0_isParted_94 (by decide) ?_
    obtain ⟨c8, h⟩ := h
    refine g_aaloadC (x := tm_v μ0 (tm_v μ0 (tm_v μ0 1 8) 0) ((tm_v μ 46 v4).tmod 8)) dX0_isParted_95 c5.1.1 (hs.k ▸ c5.1.2) (by decide) c8.1 (hs.n ▸ c8.2) (hs.v (tWs_ob rfl c5)) ?_
    refine g_astoreN (fun z => [(0, 2, 1), (3, 0, v3), (4, 0, v4), (5, 2, x7), (6, 2, z)]) dX0_isParted_96 (by decide) [1, 2, 3, 4, 0] (fun _ => rfl) (fun x9 ex9 => ?_)
    have h := h x9 ex9
    refine g_iconst dX0_isParted_98 (by decide) ?_
    refine g_istore (L' := [(0, 2, 1), (3, 0, v3), (4, 0, v4), (5, 2, x7), (6, 2, x9), (7, 0, 1)]) dX0_isParted_99 (by decide) [1, 2, 3, 4, 5, 0] rfl ?_
    exact h
theorem uX0_isParted_101 {d : Nat} {μ0 μ : tm_M} {K : Int → tm_M → Prop} {ν : tm_M} {v3 v4 v5 v6 v7 : Int} (hd : 2 ≤ d) (hs : tFr (tWs [45, 46] []) μ0 μ)
    (h : (5 ≤ v7 → hI (tWs [45, 46] []) μ0 mX0_isParted d K 52 [(0, 2, 1), (3, 0, v3), (4, 0, w32 (v4 + 1))] [] μ) ∧ (v7 < 5 → (ob μ0 v5 7) ∧ ((JU μ0 ν ∧ isP μ0 ν v5) ∧ ((∀ x5, x5 = c_P μ0 (y_go ν (tm_v μ0 v5 1) v7) → (ob μ0 v6 7) ∧ ((JU μ0 ν ∧ isP μ0 ν v6) ∧ ((∀ x8, x8 = c_P μ0 (y_go ν (tm_v μ0 v6 1) v7) → (x5 = x8 → hI (tWs [45, 46] []) μ0 mX0_isParted d K 156 [] [] μ) ∧ (x5 ≠ x8 → (ob μ0 (tm_v μ0 1 8) 4) ∧ ((tm_v μ0 (tm_v μ0 1 8) 6 = 0 → hI (tWs [45, 46] []) μ0 mX0_isParted d K 158 [(0, 2, 1), (3, 0, v3), (4, 0, v4), (5, 2, v5), (6, 2, v6), (7, 0, v7), (8, 2, x5), (9, 2, x8)] [] μ) ∧ (tm_v μ0 (tm_v μ0 1 8) 6 ≠ 0 → (x5 ≠ v6 → hI (tWs [45, 46] []) μ0 mX0_isParted d K 158 [(0, 2, 1), (3, 0, v3), (4, 0, v4), (5, 2, v5), (6, 2, v6), (7, 0, v7), (8, 2, x5), (9, 2, x8)] [] μ) ∧ (x5 = v6 → (x8 ≠ v5 → hI (tWs [45, 46] []) μ0 mX0_isParted d K 158 [(0, 2, 1), (3, 0, v3), (4, 0, v4), (5, 2, v5), (6, 2, v6), (7, 0, v7), (8, 2, x5), (9, 2, x8)] [] μ) ∧ (x8 = v5 → hI (tWs [45, 46] []) μ0 mX0_isParted d K 156 [] [] μ))))))))))))) :
    hI (tWs [45, 46] []) μ0 mX0_isParted d K 101 [(0, 2, 1), (3, 0, v3), (4, 0, v4), (5, 2, v5), (6, 2, v6), (7, 0, v7)] [] μ := by
  refine g_iload (q := 5) dX0_isParted_101 rfl ?_
  refine g_iconst dX0_isParted_103 (by decide) ?_
  refine g_icmp_ge (tgt := 212) dX0_isParted_104 (by decide) (fun c1 => ?_) (fun c2 => ?_)
  · have h := h.1 c1
    refine g_iinc (q := 2) dX0_isParted_212 (by decide) rfl [1, 2, 0, 3, 4, 5] rfl ?_
    refine g_goto (tgt := 52) dX0_isParted_215 (by decide) ?_
    exact g_less [0, 1, 2] rfl h
  · have h := h.2 c2
    refine g_aload (q := 3) dX0_isParted_107 rfl ?_
    refine g_iload (q := 5) dX0_isParted_109 rfl ?_
    obtain ⟨c3, h⟩ := h
    obtain ⟨c4, h⟩ := h
    refine g_callV1 dX0_isParted_111 kX7_by q985 q898 q899 (ci := 7) rfl (by decide) rfl (by omega) c3.1.1 (hs.k ▸ c3.1.2) (Nat.le_of_ble_eq_true rfl) (Nat.le_refl _) (Nat.le_refl _) (t_pR hs (pX7_by (by omega) hs (tWs_TC ⟨rfl, rfl⟩) c4) ?_)
    refine g_astoreN (fun z => [(0, 2, 1), (3, 0, v3), (4, 0, v4), (5, 2, v5), (6, 2, v6), (7, 0, v7), (8, 2, z)]) dX0_isParted_114 (by decide) [1, 2, 3, 4, 5, 6, 0] (fun _ => rfl) (fun x5 ex5 => ?_)
    have h := h x5 ex5
    refine g_aload (q := 4) dX0_isParted_116 rfl ?_
    refine g_iload (q := 5) dX0_isParted_118 rfl ?_
    obtain ⟨c6, h⟩ := h
    obtain ⟨c7, h⟩ := h
    refine g_callV1 dX0_isParted_120 kX7_by q985 q898 q899 (ci := 7) rfl (by decide) rfl (by omega) c6.1.1 (hs.k ▸ c6.1.2) (Nat.le_of_ble_eq_true rfl) (Nat.le_refl _) (Nat.le_refl _) (t_pR hs (pX7_by (by omega) hs (tWs_TC ⟨rfl, rfl⟩) c7) ?_)
    refine g_astoreN (fun z => [(0, 2, 1), (3, 0, v3), (4, 0, v4), (5, 2, v5), (6, 2, v6), (7, 0, v7), (8, 2, x5), (9, 2, z)]) dX0_isParted_123 (by decide) [1, 2, 3, 4, 5, 6, 7, 0] (fun _ => rfl) (fun x8 ex8 => ?_)
    have h := h x8 ex8
    refine g_aload (q := 6) dX0_isParted_125 rfl ?_
    refine g_aload (q := 7) dX0_isParted_127 rfl ?_
    refine g_acmp_eq (tgt := 156) dX0_isParted_129 (by decide) (fun c9 => ?_) (fun c10 => ?_)
    · have h := h.1 c9
      exact g_less [] rfl h
    · have h := h.2 c10
      refine g_aload_n (q := 0) dX0_isParted_132 rfl rfl ?_
      refine g_getC (x := tm_v μ0 1 8) 2 dX0_isParted_133 fX0_57 rfl (by decide) (sk_1 hs.S) (hs.v (tWs_noF rfl)) ?_
      obtain ⟨c11, h⟩ := h
      refine g_getC (x := tm_v μ0 (tm_v μ0 1 8) 6) 0 dX0_isParted_136 fX0_314 rfl c11.1.1 (hs.k ▸ c11.1.2) (hs.v (tWs_ob rfl c11)) ?_
      refine g_if_eq (tgt := 158) dX0_isParted_139 (by decide) (fun c12 => ?_) (fun c13 => ?_)
      · have h := h.1 c12
        exact h
      · have h := h.2 c13
        refine g_aload (q := 6) dX0_isParted_142 rfl ?_
        refine g_aload (q := 4) dX0_isParted_144 rfl ?_
        refine g_acmp_ne (tgt := 158) dX0_isParted_146 (by decide) (fun c14 => ?_) (fun c15 => ?_)
        · have h := h.1 c14
          exact h
        · have h := h.2 c15
          refine g_aload (q := 7) dX0_isParted_149 rfl ?_
          refine g_aload (q := 3) dX0_isParted_151 rfl ?_
          refine g_acmp_ne (tgt := 158) dX0_isParted_153 (by decide) (fun c16 => ?_) (fun c17 => ?_)
          · have h := h.1 c16
            exact h
          · have h := h.2 c17
            exact g_less [] rfl h
theorem uX0_isParted_156 {d : Nat} {μ0 μ : tm_M} {K : Int → tm_M → Prop} (hs : tFr (tWs [45, 46] []) μ0 μ)
    (h : K 0 μ) :
    hI (tWs [45, 46] []) μ0 mX0_isParted d K 156 [] [] μ := by
  refine g_iconst dX0_isParted_156 (by decide) ?_
  exact g_zret dX0_isParted_157 rfl (by decide) (Nat.le_refl _) (Nat.le_refl _) ⟨_, rfl, hs, h⟩
theorem uX0_isParted_158 {d : Nat} {μ0 μ : tm_M} {K : Int → tm_M → Prop} {v3 v4 v5 v6 v7 v8 v9 : Int} (hs : tFr (tWs [45, 46] []) μ0 μ)
    (h : (ob μ0 v8 7) ∧ ((ob μ0 v9 7) ∧ ((∀ x3, x3 = w32 ((w32 (8 * (tm_v μ0 v8 1))) + (tm_v μ0 v9 1)) → (0 ≤ x3 ∧ x3 < 64) ∧ ((tm_v μ 45 x3 = 0 → (∀ μ7, μ7 = tm_w μ 45 x3 1 → (0 ≤ v3 ∧ v3 < 64) ∧ ((∀ μ9, μ9 = tm_w μ7 46 v3 x3 → hI (tWs [45, 46] []) μ0 mX0_isParted d K 206 [(0, 2, 1), (3, 0, w32 (v3 + 1)), (4, 0, v4), (5, 2, v5), (6, 2, v6), (7, 0, v7)] [] μ9)))) ∧ (tm_v μ 45 x3 ≠ 0 → hI (tWs [45, 46] []) μ0 mX0_isParted d K 206 [(0, 2, 1), (3, 0, v3), (4, 0, v4), (5, 2, v5), (6, 2, v6), (7, 0, v7)] [] μ)))))) :
    hI (tWs [45, 46] []) μ0 mX0_isParted d K 158 [(0, 2, 1), (3, 0, v3), (4, 0, v4), (5, 2, v5), (6, 2, v6), (7, 0, v7), (8, 2, v8), (9, 2, v9)] [] μ := by
  refine g_bipush dX0_isParted_158 ⟨by decide, by decide, rfl⟩ ?_
  refine g_aload (q := 6) dX0_isParted_160 rfl ?_
  obtain ⟨c1, h⟩ := h
  refine g_getC (x := tm_v μ0 v8 1) 0 dX0_isParted_162 fX0_260 rfl c1.1.1 (hs.k ▸ c1.1.2) (hs.v (tWs_ob rfl c1)) ?_
  refine g_imul dX0_isParted_165 ?_
  refine g_aload (q := 7) dX0_isParted_166 rfl ?_
  obtain ⟨c2, h⟩ := h
  refine g_getC (x := tm_v μ0 v9 1) 0 dX0_isParted_168 fX0_260 rfl c2.1.1 (hs.k ▸ c2.1.2) (hs.v (tWs_ob rfl c2)) ?_
  refine g_iadd dX0_isParted_171 ?_
  refine g_istoreN (fun z => [(0, 2, 1), (3, 0, v3), (4, 0, v4), (5, 2, v5), (6, 2, v6), (7, 0, v7), (8, 2, v8), (9, 2, v9), (10, 0, z)]) dX0_isParted_172 (by decide) [1, 2, 3, 4, 5, 6, 7, 8, 0] (fun _ => rfl) (fun x3 ex3 => ?_)
  have h := h x3 ex3
  refine g_aload_n (q := 0) dX0_isParted_174 rfl rfl ?_
  refine g_getC (x := 45) 2 dX0_isParted_175 fX0_104 rfl (by decide) (sk_1 hs.S) (sv_1_32 hs.S) ?_
  refine g_iload (q := 8) dX0_isParted_178 rfl ?_
  obtain ⟨c4, h⟩ := h
  refine g_zaload dX0_isParted_180 (by decide) (sk_45 hs.S) c4.1 (t_lt (sn_45 hs.S) c4.2) ?_
  refine g_if_eq (tgt := 187) dX0_isParted_181 (by decide) (fun c5 => ?_) (fun c6 => ?_)
  · have h := h.1 c5
    refine g_aload_n (q := 0) dX0_isParted_187 rfl rfl ?_
    refine g_getC (x := 45) 2 dX0_isParted_188 fX0_104 rfl (by decide) (sk_1 hs.S) (sv_1_32 hs.S) ?_
    refine g_iload (q := 8) dX0_isParted_191 rfl ?_
    refine g_iconst dX0_isParted_193 (by decide) ?_
    refine g_zastore dX0_isParted_194 (by decide) (sk_45 hs.S) c4.1 (t_lt (sn_45 hs.S) c4.2) (by decide) (p_w hs sf_45 (tWs_in _ rfl) fun μ7 eμ7 hs => ?_)
    have h := h μ7 eμ7
    refine g_aload_n (q := 0) dX0_isParted_195 rfl rfl ?_
    refine g_getC (x := 46) 2 dX0_isParted_196 fX0_108 rfl (by decide) (sk_1 hs.S) (sv_1_33 hs.S) ?_
    refine g_iload_n (q := 1) dX0_isParted_199 rfl rfl ?_
    refine g_iload (q := 8) dX0_isParted_200 rfl ?_
    obtain ⟨c8, h⟩ := h
    refine g_iastore dX0_isParted_202 (by decide) (sk_46 hs.S) c8.1 (t_lt (sn_46 hs.S) c8.2) (p_w hs sf_46 (tWs_in _ rfl) fun μ9 eμ9 hs => ?_)
    have h := h μ9 eμ9
    refine g_iinc (q := 1) dX0_isParted_203 (by decide) rfl [1, 0, 2, 3, 4, 5, 6, 7, 8] rfl ?_
    exact g_less [0, 1, 2, 3, 4, 5] rfl h
  · have h := h.2 c6
    refine g_goto (tgt := 206) dX0_isParted_184 (by decide) ?_
    exact g_less [0, 1, 2, 3, 4, 5] rfl h
theorem uX0_isParted_206 {d : Nat} {μ0 μ : tm_M} {K : Int → tm_M → Prop} {v3 v4 v5 v6 v7 : Int} (hs : tFr (tWs [45, 46] []) μ0 μ)
    (h : hI (tWs [45, 46] []) μ0 mX0_isParted d K 101 [(0, 2, 1), (3, 0, v3), (4, 0, v4), (5, 2, v5), (6, 2, v6), (7, 0, w32 (v7 + 1))] [] μ) :
    hI (tWs [45, 46] []) μ0 mX0_isParted d K 206 [(0, 2, 1), (3, 0, v3), (4, 0, v4), (5, 2, v5), (6, 2, v6), (7, 0, v7)] [] μ := by
  refine g_iinc (q := 5) dX0_isParted_206 (by decide) rfl [1, 2, 3, 4, 5, 0] rfl ?_
  refine g_goto (tgt := 101) dX0_isParted_209 (by decide) ?_
  exact h
theorem uX0_puts_0 {d : Nat} {μ0 μ : tm_M} {K : Int → tm_M → Prop} {v1 v2 v3 : Int} (hs : tFr (tWs [46, 47] []) μ0 μ)
    (h : (ob μ0 v1 7) ∧ ((0 ≤ tm_v μ0 v1 1 ∧ tm_v μ0 v1 1 < 8) ∧ ((tm_v μ 47 (tm_v μ0 v1 1) = -1 → (ob μ0 v2 7) ∧ ((∀ μ6, μ6 = tm_w μ 47 (tm_v μ0 v1 1) (tm_v μ0 v2 1) → (0 ≤ v3 ∧ v3 < 64) ∧ ((∀ μ8, μ8 = tm_w μ6 46 v3 (tm_v μ0 v1 1) → K 1 μ8))))) ∧ (tm_v μ 47 (tm_v μ0 v1 1) ≠ -1 → (ob μ0 v2 7) ∧ ((tm_v μ 47 (tm_v μ0 v1 1) ≠ tm_v μ0 v2 1 → K 0 μ) ∧ (tm_v μ 47 (tm_v μ0 v1 1) = tm_v μ0 v2 1 → K 1 μ)))))) :
    hI (tWs [46, 47] []) μ0 mX0_puts d K 0 [(0, 2, 1), (1, 2, v1), (2, 2, v2), (3, 0, v3)] [] μ := by
  refine g_aload_n (q := 0) dX0_puts_0 rfl rfl ?_
  refine g_getC (x := 47) 2 dX0_puts_1 fX0_111 rfl (by decide) (sk_1 hs.S) (sv_1_34 hs.S) ?_
  refine g_aload_n (q := 1) dX0_puts_4 rfl rfl ?_
  obtain ⟨c1, h⟩ := h
  refine g_getC (x := tm_v μ0 v1 1) 0 dX0_puts_5 fX0_260 rfl c1.1.1 (hs.k ▸ c1.1.2) (hs.v (tWs_ob rfl c1)) ?_
  obtain ⟨c2, h⟩ := h
  refine g_iaload dX0_puts_8 (by decide) (sk_47 hs.S) c2.1 (t_lt (sn_47 hs.S) c2.2) ?_
  refine g_iconst dX0_puts_9 (by decide) ?_
  refine g_icmp_eq (tgt := 35) dX0_puts_10 (by decide) (fun c3 => ?_) (fun c4 => ?_)
  · have h := h.1 c3
    refine g_aload_n (q := 0) dX0_puts_35 rfl rfl ?_
    refine g_getC (x := 47) 2 dX0_puts_36 fX0_111 rfl (by decide) (sk_1 hs.S) (sv_1_34 hs.S) ?_
    refine g_aload_n (q := 1) dX0_puts_39 rfl rfl ?_
    refine g_getC (x := tm_v μ0 v1 1) 0 dX0_puts_40 fX0_260 rfl c1.1.1 (hs.k ▸ c1.1.2) (hs.v (tWs_ob rfl c1)) ?_
    refine g_aload_n (q := 2) dX0_puts_43 rfl rfl ?_
    obtain ⟨c5, h⟩ := h
    refine g_getC (x := tm_v μ0 v2 1) 0 dX0_puts_44 fX0_260 rfl c5.1.1 (hs.k ▸ c5.1.2) (hs.v (tWs_ob rfl c5)) ?_
    refine g_iastore dX0_puts_47 (by decide) (sk_47 hs.S) c2.1 (t_lt (sn_47 hs.S) c2.2) (p_w hs sf_47 (tWs_in _ rfl) fun μ6 eμ6 hs => ?_)
    have h := h μ6 eμ6
    refine g_aload_n (q := 0) dX0_puts_48 rfl rfl ?_
    refine g_getC (x := 46) 2 dX0_puts_49 fX0_108 rfl (by decide) (sk_1 hs.S) (sv_1_33 hs.S) ?_
    refine g_iload_n (q := 3) dX0_puts_52 rfl rfl ?_
    refine g_aload_n (q := 1) dX0_puts_53 rfl rfl ?_
    refine g_getC (x := tm_v μ0 v1 1) 0 dX0_puts_54 fX0_260 rfl c1.1.1 (hs.k ▸ c1.1.2) (hs.v (tWs_ob rfl c1)) ?_
    obtain ⟨c7, h⟩ := h
    refine g_iastore dX0_puts_57 (by decide) (sk_46 hs.S) c7.1 (t_lt (sn_46 hs.S) c7.2) (p_w hs sf_46 (tWs_in _ rfl) fun μ8 eμ8 hs => ?_)
    have h := h μ8 eμ8
    refine g_iconst dX0_puts_58 (by decide) ?_
    exact g_zret dX0_puts_59 rfl (by decide) (Nat.le_refl _) (Nat.le_refl _) ⟨_, rfl, hs, h⟩
  · have h := h.2 c4
    refine g_aload_n (q := 0) dX0_puts_13 rfl rfl ?_
    refine g_getC (x := 47) 2 dX0_puts_14 fX0_111 rfl (by decide) (sk_1 hs.S) (sv_1_34 hs.S) ?_
    refine g_aload_n (q := 1) dX0_puts_17 rfl rfl ?_
    refine g_getC (x := tm_v μ0 v1 1) 0 dX0_puts_18 fX0_260 rfl c1.1.1 (hs.k ▸ c1.1.2) (hs.v (tWs_ob rfl c1)) ?_
    refine g_iaload dX0_puts_21 (by decide) (sk_47 hs.S) c2.1 (t_lt (sn_47 hs.S) c2.2) ?_
    refine g_aload_n (q := 2) dX0_puts_22 rfl rfl ?_
    obtain ⟨c9, h⟩ := h
    refine g_getC (x := tm_v μ0 v2 1) 0 dX0_puts_23 fX0_260 rfl c9.1.1 (hs.k ▸ c9.1.2) (hs.v (tWs_ob rfl c9)) ?_
    refine g_icmp_ne (tgt := 33) dX0_puts_26 (by decide) (fun c10 => ?_) (fun c11 => ?_)
    · have h := h.1 c10
      refine g_iconst dX0_puts_33 (by decide) ?_
      exact g_zret dX0_puts_34 rfl (by decide) (Nat.le_refl _) (Nat.le_refl _) ⟨_, rfl, hs, h⟩
    · have h := h.2 c11
      refine g_iconst dX0_puts_29 (by decide) ?_
      refine g_goto (tgt := 34) dX0_puts_30 (by decide) ?_
      exact g_zret dX0_puts_34 rfl (by decide) (Nat.le_refl _) (Nat.le_refl _) ⟨_, rfl, hs, h⟩
theorem uX0_isTurned_0 {d : Nat} {μ0 μ : tm_M} {K : Int → tm_M → Prop} {v1 v2 : Int} (hs : tFr (tWs [46, 47] []) μ0 μ)
    (h : hI (tWs [46, 47] []) μ0 mX0_isTurned d K 2 [(0, 2, 1), (1, 0, v1), (2, 0, v2), (3, 0, 0)] [] μ) :
    hI (tWs [46, 47] []) μ0 mX0_isTurned d K 0 [(0, 2, 1), (1, 0, v1), (2, 0, v2)] [] μ := by
  refine g_iconst dX0_isTurned_0 (by decide) ?_
  refine g_istore_n (L' := [(0, 2, 1), (1, 0, v1), (2, 0, v2), (3, 0, 0)]) dX0_isTurned_1 rfl (by decide) [1, 2, 3, 0] rfl ?_
  exact h
theorem uX0_isTurned_2 {d : Nat} {μ0 μ : tm_M} {K : Int → tm_M → Prop} {v1 v2 v3 : Int} (hd : 1 ≤ d) (hs : tFr (tWs [46, 47] []) μ0 μ)
    (h : (8 ≤ v3 → (ob μ0 (tm_v μ0 1 8) 4) ∧ ((ob μ0 (tm_v μ0 (tm_v μ0 1 8) 0) 26) ∧ ((0 ≤ v1 ∧ v1 < tm_n μ0 (tm_v μ0 (tm_v μ0 1 8) 0)) ∧ ((0 ≤ v2 ∧ v2 < tm_n μ0 (tm_v μ0 (tm_v μ0 1 8) 0)) ∧ (cI (tWs [46, 47] []) mX0_puts (d - 1) [(2, 1), (2, tm_v μ0 (tm_v μ0 (tm_v μ0 1 8) 0) v1), (2, tm_v μ0 (tm_v μ0 (tm_v μ0 1 8) 0) v2), (0, 0)] μ (fun r8 μ7 => (r8 = 0 → hI (tWs [46, 47] []) μ0 mX0_isTurned d K 79 [(0, 2, 1), (3, 0, 2)] [] μ7) ∧ (r8 ≠ 0 → cI (tWs [46, 47] []) mX0_puts (d - 1) [(2, 1), (2, tm_v μ0 (tm_v μ0 (tm_v μ0 1 8) 0) v2), (2, tm_v μ0 (tm_v μ0 (tm_v μ0 1 8) 0) v1), (0, 1)] μ7 (fun r12 μ11 => (r12 = 0 → hI (tWs [46, 47] []) μ0 mX0_isTurned d K 79 [(0, 2, 1), (3, 0, 2)] [] μ11) ∧ (r12 ≠ 0 → hI (tWs [46, 47] []) μ0 mX0_isTurned d K 85 [(0, 2, 1), (3, 0, 2), (4, 0, 1), (5, 0, 0)] [] μ11))))))))) ∧ (v3 < 8 → (0 ≤ v3 ∧ v3 < 8) ∧ ((∀ μ16, μ16 = tm_w μ 47 v3 (-1) → hI (tWs [46, 47] []) μ0 mX0_isTurned d K 2 [(0, 2, 1), (1, 0, v1), (2, 0, v2), (3, 0, w32 (v3 + 1))] [] μ16)))) :
    hI (tWs [46, 47] []) μ0 mX0_isTurned d K 2 [(0, 2, 1), (1, 0, v1), (2, 0, v2), (3, 0, v3)] [] μ := by
  refine g_iload_n (q := 3) dX0_isTurned_2 rfl rfl ?_
  refine g_bipush dX0_isTurned_3 ⟨by decide, by decide, rfl⟩ ?_
  refine g_icmp_ge (tgt := 21) dX0_isTurned_5 (by decide) (fun c1 => ?_) (fun c2 => ?_)
  · have h := h.1 c1
    refine g_iconst dX0_isTurned_21 (by decide) ?_
    refine g_istore_n (L' := [(0, 2, 1), (1, 0, v1), (2, 0, v2), (3, 0, 2)]) dX0_isTurned_22 rfl (by decide) [1, 2, 3, 0] rfl ?_
    refine g_aload_n (q := 0) dX0_isTurned_23 rfl rfl ?_
    refine g_aload_n (q := 0) dX0_isTurned_24 rfl rfl ?_
    refine g_getC (x := tm_v μ0 1 8) 2 dX0_isTurned_25 fX0_57 rfl (by decide) (sk_1 hs.S) (hs.v (tWs_noF rfl)) ?_
    obtain ⟨c3, h⟩ := h
    refine g_getC (x := tm_v μ0 (tm_v μ0 1 8) 0) 2 dX0_isTurned_28 fX0_240 rfl c3.1.1 (hs.k ▸ c3.1.2) (hs.v (tWs_ob rfl c3)) ?_
    refine g_iload_n (q := 1) dX0_isTurned_31 rfl rfl ?_
    obtain ⟨c4, h⟩ := h
    obtain ⟨c5, h⟩ := h
    refine g_aaloadC (x := tm_v μ0 (tm_v μ0 (tm_v μ0 1 8) 0) v1) dX0_isTurned_32 c4.1.1 (hs.k ▸ c4.1.2) (by decide) c5.1 (hs.n ▸ c5.2) (hs.v (tWs_ob rfl c4)) ?_
    refine g_aload_n (q := 0) dX0_isTurned_33 rfl rfl ?_
    refine g_getC (x := tm_v μ0 1 8) 2 dX0_isTurned_34 fX0_57 rfl (by decide) (sk_1 hs.S) (hs.v (tWs_noF rfl)) ?_
    refine g_getC (x := tm_v μ0 (tm_v μ0 1 8) 0) 2 dX0_isTurned_37 fX0_240 rfl c3.1.1 (hs.k ▸ c3.1.2) (hs.v (tWs_ob rfl c3)) ?_
    refine g_iload_n (q := 2) dX0_isTurned_40 rfl rfl ?_
    obtain ⟨c6, h⟩ := h
    refine g_aaloadC (x := tm_v μ0 (tm_v μ0 (tm_v μ0 1 8) 0) v2) dX0_isTurned_41 c4.1.1 (hs.k ▸ c4.1.2) (by decide) c6.1 (hs.n ▸ c6.2) (hs.v (tWs_ob rfl c4)) ?_
    refine g_iconst dX0_isTurned_42 (by decide) ?_
    refine g_callV3 dX0_isTurned_43 kX0_puts q1106 q1108 qs39 (ci := 0) rfl (by decide) rfl (by omega) (by decide) (sk_1 hs.S) (Nat.le_of_ble_eq_true rfl) (Nat.le_refl _) (Nat.le_refl _) (t_kI hs (tWs_sub rfl) h (fun r8 μ7 hs h => ?_))
    refine g_if_eq (tgt := 79) dX0_isTurned_46 (by decide) (fun c9 => ?_) (fun c10 => ?_)
    · have h := h.1 c9
      exact g_less [0, 3] rfl h
    · have h := h.2 c10
      refine g_aload_n (q := 0) dX0_isTurned_49 rfl rfl ?_
      refine g_aload_n (q := 0) dX0_isTurned_50 rfl rfl ?_
      refine g_getC (x := tm_v μ0 1 8) 2 dX0_isTurned_51 fX0_57 rfl (by decide) (sk_1 hs.S) (hs.v (tWs_noF rfl)) ?_
      refine g_getC (x := tm_v μ0 (tm_v μ0 1 8) 0) 2 dX0_isTurned_54 fX0_240 rfl c3.1.1 (hs.k ▸ c3.1.2) (hs.v (tWs_ob rfl c3)) ?_
      refine g_iload_n (q := 2) dX0_isTurned_57 rfl rfl ?_
      refine g_aaloadC (x := tm_v μ0 (tm_v μ0 (tm_v μ0 1 8) 0) v2) dX0_isTurned_58 c4.1.1 (hs.k ▸ c4.1.2) (by decide) c6.1 (hs.n ▸ c6.2) (hs.v (tWs_ob rfl c4)) ?_
      refine g_aload_n (q := 0) dX0_isTurned_59 rfl rfl ?_
      refine g_getC (x := tm_v μ0 1 8) 2 dX0_isTurned_60 fX0_57 rfl (by decide) (sk_1 hs.S) (hs.v (tWs_noF rfl)) ?_
      refine g_getC (x := tm_v μ0 (tm_v μ0 1 8) 0) 2 dX0_isTurned_63 fX0_240 rfl c3.1.1 (hs.k ▸ c3.1.2) (hs.v (tWs_ob rfl c3)) ?_
      refine g_iload_n (q := 1) dX0_isTurned_66 rfl rfl ?_
      refine g_aaloadC (x := tm_v μ0 (tm_v μ0 (tm_v μ0 1 8) 0) v1) dX0_isTurned_67 c4.1.1 (hs.k ▸ c4.1.2) (by decide) c5.1 (hs.n ▸ c5.2) (hs.v (tWs_ob rfl c4)) ?_
      refine g_iconst dX0_isTurned_68 (by decide) ?_
      refine g_callV3 dX0_isTurned_69 kX0_puts q1106 q1108 qs39 (ci := 0) rfl (by decide) rfl (by omega) (by decide) (sk_1 hs.S) (Nat.le_of_ble_eq_true rfl) (Nat.le_refl _) (Nat.le_refl _) (t_kI hs (tWs_sub rfl) h (fun r12 μ11 hs h => ?_))
      refine g_if_eq (tgt := 79) dX0_isTurned_72 (by decide) (fun c13 => ?_) (fun c14 => ?_)
      · have h := h.1 c13
        exact g_less [0, 3] rfl h
      · have h := h.2 c14
        refine g_iconst dX0_isTurned_75 (by decide) ?_
        refine g_goto (tgt := 80) dX0_isTurned_76 (by decide) ?_
        refine g_istore (L' := [(0, 2, 1), (1, 0, v1), (2, 0, v2), (3, 0, 2), (4, 0, 1)]) dX0_isTurned_80 (by decide) [1, 2, 3, 4, 0] rfl ?_
        refine g_iconst dX0_isTurned_82 (by decide) ?_
        refine g_istore (L' := [(0, 2, 1), (1, 0, v1), (2, 0, v2), (3, 0, 2), (4, 0, 1), (5, 0, 0)]) dX0_isTurned_83 (by decide) [1, 2, 3, 4, 5, 0] rfl ?_
        exact g_less [0, 3, 4, 5] rfl h
  · have h := h.2 c2
    refine g_aload_n (q := 0) dX0_isTurned_8 rfl rfl ?_
    refine g_getC (x := 47) 2 dX0_isTurned_9 fX0_111 rfl (by decide) (sk_1 hs.S) (sv_1_34 hs.S) ?_
    refine g_iload_n (q := 3) dX0_isTurned_12 rfl rfl ?_
    refine g_iconst dX0_isTurned_13 (by decide) ?_
    obtain ⟨c15, h⟩ := h
    refine g_iastore dX0_isTurned_14 (by decide) (sk_47 hs.S) c15.1 (t_lt (sn_47 hs.S) c15.2) (p_w hs sf_47 (tWs_in _ rfl) fun μ16 eμ16 hs => ?_)
    have h := h μ16 eμ16
    refine g_iinc (q := 3) dX0_isTurned_15 (by decide) rfl [1, 2, 3, 0] rfl ?_
    refine g_goto (tgt := 2) dX0_isTurned_18 (by decide) ?_
    exact h
theorem uX0_isTurned_79 {d : Nat} {μ0 μ : tm_M} {K : Int → tm_M → Prop} {v3 : Int} (hs : tFr (tWs [46, 47] []) μ0 μ)
    (h : hI (tWs [46, 47] []) μ0 mX0_isTurned d K 85 [(0, 2, 1), (3, 0, v3), (4, 0, 0), (5, 0, 0)] [] μ) :
    hI (tWs [46, 47] []) μ0 mX0_isTurned d K 79 [(0, 2, 1), (3, 0, v3)] [] μ := by
  refine g_iconst dX0_isTurned_79 (by decide) ?_
  refine g_istore (L' := [(0, 2, 1), (3, 0, v3), (4, 0, 0)]) dX0_isTurned_80 (by decide) [1, 2, 0] rfl ?_
  refine g_iconst dX0_isTurned_82 (by decide) ?_
  refine g_istore (L' := [(0, 2, 1), (3, 0, v3), (4, 0, 0), (5, 0, 0)]) dX0_isTurned_83 (by decide) [1, 2, 3, 0] rfl ?_
  exact h
theorem uX0_isTurned_85 {d : Nat} {μ0 μ : tm_M} {K : Int → tm_M → Prop} {v3 v4 v5 : Int} (hs : tFr (tWs [46, 47] []) μ0 μ)
    (h : (v3 ≤ v5 → hI (tWs [46, 47] []) μ0 mX0_isTurned d K 302 [(4, 0, v4)] [] μ) ∧ (v5 < v3 → (v4 = 0 → hI (tWs [46, 47] []) μ0 mX0_isTurned d K 302 [(4, 0, v4)] [] μ) ∧ (v4 ≠ 0 → (ob μ0 (tm_v μ0 1 8) 4) ∧ ((0 ≤ v5 ∧ v5 < 64) ∧ ((ob μ0 (tm_v μ0 (tm_v μ0 1 8) 0) 26) ∧ ((0 ≤ tm_v μ 46 v5 ∧ tm_v μ 46 v5 < tm_n μ0 (tm_v μ0 (tm_v μ0 1 8) 0)) ∧ ((∀ x9, x9 = tm_v μ0 (tm_v μ0 (tm_v μ0 1 8) 0) (tm_v μ 46 v5) → (0 ≤ tm_v μ 46 v5 ∧ tm_v μ 46 v5 < 8) ∧ ((0 ≤ tm_v μ 47 (tm_v μ 46 v5) ∧ tm_v μ 47 (tm_v μ 46 v5) < tm_n μ0 (tm_v μ0 (tm_v μ0 1 8) 0)) ∧ ((∀ x12, x12 = tm_v μ0 (tm_v μ0 (tm_v μ0 1 8) 0) (tm_v μ 47 (tm_v μ 46 v5)) → (ob μ0 x9 7) ∧ ((ob μ0 x12 7) ∧ ((tm_v μ0 x9 2 ≠ tm_v μ0 x12 2 → hI (tWs [46, 47] []) μ0 mX0_isTurned d K 158 [(0, 2, 1), (3, 0, v3), (4, 0, 0), (5, 0, v5), (6, 2, x9), (7, 2, x12), (8, 0, 1)] [] μ) ∧ (tm_v μ0 x9 2 = tm_v μ0 x12 2 → hI (tWs [46, 47] []) μ0 mX0_isTurned d K 158 [(0, 2, 1), (3, 0, v3), (4, 0, 1), (5, 0, v5), (6, 2, x9), (7, 2, x12), (8, 0, 1)] [] μ)))))))))))))) :
    hI (tWs [46, 47] []) μ0 mX0_isTurned d K 85 [(0, 2, 1), (3, 0, v3), (4, 0, v4), (5, 0, v5)] [] μ := by
  refine g_iload (q := 3) dX0_isTurned_85 rfl ?_
  refine g_iload_n (q := 1) dX0_isTurned_87 rfl rfl ?_
  refine g_icmp_ge (tgt := 302) dX0_isTurned_88 (by decide) (fun c1 => ?_) (fun c2 => ?_)
  · have h := h.1 c1
    exact g_less [2] rfl h
  · have h := h.2 c2
    refine g_iload (q := 2) dX0_isTurned_91 rfl ?_
    refine g_if_eq (tgt := 302) dX0_isTurned_93 (by decide) (fun c3 => ?_) (fun c4 => ?_)
    · have h := h.1 c3
      exact g_less [2] rfl h
    · have h := h.2 c4
      refine g_aload_n (q := 0) dX0_isTurned_96 rfl rfl ?_
      refine g_getC (x := tm_v μ0 1 8) 2 dX0_isTurned_97 fX0_57 rfl (by decide) (sk_1 hs.S) (hs.v (tWs_noF rfl)) ?_
      obtain ⟨c5, h⟩ := h
      refine g_getC (x := tm_v μ0 (tm_v μ0 1 8) 0) 2 dX0_isTurned_100 fX0_240 rfl c5.1.1 (hs.k ▸ c5.1.2) (hs.v (tWs_ob rfl c5)) ?_
      refine g_aload_n (q := 0) dX0_isTurned_103 rfl rfl ?_
      refine g_getC (x := 46) 2 dX0_isTurned_104 fX0_108 rfl (by decide) (sk_1 hs.S) (sv_1_33 hs.S) ?_
      refine g_iload (q := 3) dX0_isTurned_107 rfl ?_
      obtain ⟨c6, h⟩ := h
      refine g_iaload dX0_isTurned_109 (by decide) (sk_46 hs.S) c6.1 (t_lt (sn_46 hs.S) c6.2) ?_
      obtain ⟨c7, h⟩ := h
      obtain ⟨c8, h⟩ := h
      refine g_aaloadC (x := tm_v μ0 (tm_v μ0 (tm_v μ0 1 8) 0) (tm_v μ 46 v5)) dX0_isTurned_110 c7.1.1 (hs.k ▸ c7.1.2) (by decide) c8.1 (hs.n ▸ c8.2) (hs.v (tWs_ob rfl c7)) ?_
      refine g_astoreN (fun z => [(0, 2, 1), (3, 0, v3), (4, 0, v4), (5, 0, v5), (6, 2, z)]) dX0_isTurned_111 (by decide) [1, 2, 3, 4, 0] (fun _ => rfl) (fun x9 ex9 => ?_)
      have h := h x9 ex9
      refine g_aload_n (q := 0) dX0_isTurned_113 rfl rfl ?_
      refine g_getC (x := tm_v μ0 1 8) 2 dX0_isTurned_114 fX0_57 rfl (by decide) (sk_1 hs.S) (hs.v (tWs_noF rfl)) ?_
      refine g_getC (x := tm_v μ0 (tm_v μ0 1 8) 0) 2 dX0_isTurned_117 fX0_240 rfl c5.1.1 (hs.k ▸ c5.1.2) (hs.v (tWs_ob rfl c5)) ?_
      refine g_aload_n (q := 0) dX0_isTurned_120 rfl rfl ?_
      refine g_getC (x := 47) 2 dX0_isTurned_121 fX0_111 rfl (by decide) (sk_1 hs.S) (sv_1_34 hs.S) ?_
      refine g_aload_n (q := 0) dX0_isTurned_124 rfl rfl ?_
      refine g_getC (x := 46) 2 dX0_isTurned_125 fX0_108 rfl (by decide) (sk_1 hs.S) (sv_1_33 hs.S) ?_
      refine g_iload (q := 3) dX0_isTurned_128 rfl ?_
      refine g_iaload dX0_isTurned_130 (by decide) (sk_46 hs.S) c6.1 (t_lt (sn_46 hs.S) c6.2) ?_
      obtain ⟨c10, h⟩ := h
      refine g_iaload dX0_isTurned_131 (by decide) (sk_47 hs.S) c10.1 (t_lt (sn_47 hs.S) c10.2) ?_
      obtain ⟨c11, h⟩ := h
      refine g_aaloadC (x := tm_v μ0 (tm_v μ0 (tm_v μ0 1 8) 0) (tm_v μ 47 (tm_v μ 46 v5))) dX0_isTurned_132 c7.1.1 (hs.k ▸ c7.1.2) (by decide) c11.1 (hs.n ▸ c11.2) (hs.v (tWs_ob rfl c7)) ?_
      refine g_astoreN (fun z => [(0, 2, 1), (3, 0, v3), (4, 0, v4), (5, 0, v5), (6, 2, x9), (7, 2, z)]) dX0_isTurned_133 (by decide) [1, 2, 3, 4, 5, 0] (fun _ => rfl) (fun x12 ex12 => ?_)
      have h := h x12 ex12
      refine g_aload (q := 4) dX0_isTurned_135 rfl ?_
      obtain ⟨c13, h⟩ := h
      refine g_getC (x := tm_v μ0 x9 2) 0 dX0_isTurned_137 fX0_244 rfl c13.1.1 (hs.k ▸ c13.1.2) (hs.v (tWs_ob rfl c13)) ?_
      refine g_aload (q := 5) dX0_isTurned_140 rfl ?_
      obtain ⟨c14, h⟩ := h
      refine g_getC (x := tm_v μ0 x12 2) 0 dX0_isTurned_142 fX0_244 rfl c14.1.1 (hs.k ▸ c14.1.2) (hs.v (tWs_ob rfl c14)) ?_
      refine g_icmp_ne (tgt := 152) dX0_isTurned_145 (by decide) (fun c15 => ?_) (fun c16 => ?_)
      · have h := h.1 c15
        refine g_iconst dX0_isTurned_152 (by decide) ?_
        refine g_istore (L' := [(0, 2, 1), (3, 0, v3), (4, 0, 0), (5, 0, v5), (6, 2, x9), (7, 2, x12)]) dX0_isTurned_153 (by decide) [1, 2, 0, 3, 4, 5] rfl ?_
        refine g_iconst dX0_isTurned_155 (by decide) ?_
        refine g_istore (L' := [(0, 2, 1), (3, 0, v3), (4, 0, 0), (5, 0, v5), (6, 2, x9), (7, 2, x12), (8, 0, 1)]) dX0_isTurned_156 (by decide) [1, 2, 3, 4, 5, 6, 0] rfl ?_
        exact h
      · have h := h.2 c16
        refine g_iconst dX0_isTurned_148 (by decide) ?_
        refine g_goto (tgt := 153) dX0_isTurned_149 (by decide) ?_
        refine g_istore (L' := [(0, 2, 1), (3, 0, v3), (4, 0, 1), (5, 0, v5), (6, 2, x9), (7, 2, x12)]) dX0_isTurned_153 (by decide) [1, 2, 0, 3, 4, 5] rfl ?_
        refine g_iconst dX0_isTurned_155 (by decide) ?_
        refine g_istore (L' := [(0, 2, 1), (3, 0, v3), (4, 0, 1), (5, 0, v5), (6, 2, x9), (7, 2, x12), (8, 0, 1)]) dX0_isTurned_156 (by decide) [1, 2, 3, 4, 5, 6, 0] rfl ?_
        exact h
theorem uX0_isTurned_158 {d : Nat} {μ0 μ : tm_M} {K : Int → tm_M → Prop} {ν : tm_M} {v3 v4 v5 v6 v7 v8 : Int} (hd : 2 ≤ d) (hs : tFr (tWs [46, 47] []) μ0 μ)
    (h : (5 ≤ v8 → hI (tWs [46, 47] []) μ0 mX0_isTurned d K 296 [(0, 2, 1), (3, 0, v3), (4, 0, v4), (5, 0, v5)] [] μ) ∧ (v8 < 5 → (v4 = 0 → hI (tWs [46, 47] []) μ0 mX0_isTurned d K 296 [(0, 2, 1), (3, 0, v3), (4, 0, v4), (5, 0, v5)] [] μ) ∧ (v4 ≠ 0 → (ob μ0 v6 7) ∧ ((JU μ0 ν ∧ isP μ0 ν v6) ∧ ((c_P μ0 (y_go ν (tm_v μ0 v6 1) v8) = v6 → (ob μ0 v7 7) ∧ ((JU μ0 ν ∧ isP μ0 ν v7) ∧ ((c_P μ0 (y_go ν (tm_v μ0 v7 1) v8) = v7 → hI (tWs [46, 47] []) μ0 mX0_isTurned d K 290 [(0, 2, 1), (3, 0, v3), (4, 0, 1), (5, 0, v5), (6, 2, v6), (7, 2, v7), (8, 0, v8)] [] μ) ∧ (c_P μ0 (y_go ν (tm_v μ0 v7 1) v8) ≠ v7 → hI (tWs [46, 47] []) μ0 mX0_isTurned d K 290 [(0, 2, 1), (3, 0, v3), (4, 0, 0), (5, 0, v5), (6, 2, v6), (7, 2, v7), (8, 0, v8)] [] μ)))) ∧ (c_P μ0 (y_go ν (tm_v μ0 v6 1) v8) ≠ v6 → (ob μ0 v7 7) ∧ ((JU μ0 ν ∧ isP μ0 ν v7) ∧ ((c_P μ0 (y_go ν (tm_v μ0 v7 1) v8) = v7 → hI (tWs [46, 47] []) μ0 mX0_isTurned d K 290 [(0, 2, 1), (3, 0, v3), (4, 0, 0), (5, 0, v5), (6, 2, v6), (7, 2, v7), (8, 0, v8)] [] μ) ∧ (c_P μ0 (y_go ν (tm_v μ0 v7 1) v8) ≠ v7 → (ob μ0 (c_P μ0 (y_go ν (tm_v μ0 v6 1) v8)) 7) ∧ ((0 ≤ tm_v μ0 (c_P μ0 (y_go ν (tm_v μ0 v6 1) v8)) 1 ∧ tm_v μ0 (c_P μ0 (y_go ν (tm_v μ0 v6 1) v8)) 1 < 8) ∧ ((tm_v μ 47 (tm_v μ0 (c_P μ0 (y_go ν (tm_v μ0 v6 1) v8)) 1) ≠ -1 → cI (tWs [46, 47] []) mX0_puts (d - 1) [(2, 1), (2, c_P μ0 (y_go ν (tm_v μ0 v6 1) v8)), (2, c_P μ0 (y_go ν (tm_v μ0 v7 1) v8)), (0, v3)] μ (fun r42 μ41 => (∀ x45, x45 = w32 (v3 + 0) → hI (tWs [46, 47] []) μ0 mX0_isTurned d K 290 [(0, 2, 1), (3, 0, x45), (4, 0, r42), (5, 0, v5), (6, 2, v6), (7, 2, v7), (8, 0, v8)] [] μ41))) ∧ (tm_v μ 47 (tm_v μ0 (c_P μ0 (y_go ν (tm_v μ0 v6 1) v8)) 1) = -1 → cI (tWs [46, 47] []) mX0_puts (d - 1) [(2, 1), (2, c_P μ0 (y_go ν (tm_v μ0 v6 1) v8)), (2, c_P μ0 (y_go ν (tm_v μ0 v7 1) v8)), (0, v3)] μ (fun r47 μ46 => (∀ x50, x50 = w32 (v3 + 1) → hI (tWs [46, 47] []) μ0 mX0_isTurned d K 290 [(0, 2, 1), (3, 0, x50), (4, 0, r47), (5, 0, v5), (6, 2, v6), (7, 2, v7), (8, 0, v8)] [] μ46)))))))))))))) :
    hI (tWs [46, 47] []) μ0 mX0_isTurned d K 158 [(0, 2, 1), (3, 0, v3), (4, 0, v4), (5, 0, v5), (6, 2, v6), (7, 2, v7), (8, 0, v8)] [] μ := by
  refine g_iload (q := 6) dX0_isTurned_158 rfl ?_
  refine g_iconst dX0_isTurned_160 (by decide) ?_
  refine g_icmp_ge (tgt := 296) dX0_isTurned_161 (by decide) (fun c1 => ?_) (fun c2 => ?_)
  · have h := h.1 c1
    exact g_less [0, 1, 2, 3] rfl h
  · have h := h.2 c2
    refine g_iload (q := 2) dX0_isTurned_164 rfl ?_
    refine g_if_eq (tgt := 296) dX0_isTurned_166 (by decide) (fun c3 => ?_) (fun c4 => ?_)
    · have h := h.1 c3
      exact g_less [0, 1, 2, 3] rfl h
    · have h := h.2 c4
      refine g_aload (q := 4) dX0_isTurned_169 rfl ?_
      refine g_iload (q := 6) dX0_isTurned_171 rfl ?_
      obtain ⟨c5, h⟩ := h
      obtain ⟨c6, h⟩ := h
      refine g_callV1 dX0_isTurned_173 kX7_by q985 q898 q899 (ci := 7) rfl (by decide) rfl (by omega) c5.1.1 (hs.k ▸ c5.1.2) (Nat.le_of_ble_eq_true rfl) (Nat.le_refl _) (Nat.le_refl _) (t_pR hs (pX7_by (by omega) hs (tWs_TC ⟨rfl, rfl⟩) c6) ?_)
      refine g_aload (q := 4) dX0_isTurned_176 rfl ?_
      refine g_acmp_eq (tgt := 185) dX0_isTurned_178 (by decide) (fun c7 => ?_) (fun c8 => ?_)
      · have h := h.1 c7
        refine g_iconst dX0_isTurned_185 (by decide) ?_
        refine g_istore (L' := [(0, 2, 1), (3, 0, v3), (4, 0, v4), (5, 0, v5), (6, 2, v6), (7, 2, v7), (8, 0, v8), (9, 0, 0)]) dX0_isTurned_186 (by decide) [1, 2, 3, 4, 5, 6, 7, 0] rfl ?_
        refine g_iload (q := 7) dX0_isTurned_188 rfl ?_
        refine g_aload (q := 5) dX0_isTurned_190 rfl ?_
        refine g_iload (q := 6) dX0_isTurned_192 rfl ?_
        obtain ⟨c9, h⟩ := h
        obtain ⟨c10, h⟩ := h
        refine g_callV1 dX0_isTurned_194 kX7_by q985 q898 q899 (ci := 7) rfl (by decide) rfl (by omega) c9.1.1 (hs.k ▸ c9.1.2) (Nat.le_of_ble_eq_true rfl) (Nat.le_refl _) (Nat.le_refl _) (t_pR hs (pX7_by (by omega) hs (tWs_TC ⟨rfl, rfl⟩) c10) ?_)
        refine g_aload (q := 5) dX0_isTurned_197 rfl ?_
        refine g_acmp_eq (tgt := 206) dX0_isTurned_199 (by decide) (fun c11 => ?_) (fun c12 => ?_)
        · have h := h.1 c11
          refine g_iconst dX0_isTurned_206 (by decide) ?_
          refine g_icmp_ne (tgt := 214) dX0_isTurned_207 (by decide) (fun c13 => ?_) (fun c14 => ?_)
          · exact absurd c13 (by decide)
          · refine g_iconst dX0_isTurned_210 (by decide) ?_
            refine g_goto (tgt := 215) dX0_isTurned_211 (by decide) ?_
            refine g_istore (L' := [(0, 2, 1), (3, 0, v3), (4, 0, 1), (5, 0, v5), (6, 2, v6), (7, 2, v7), (8, 0, v8), (9, 0, 0)]) dX0_isTurned_215 (by decide) [1, 2, 0, 3, 4, 5, 6, 7] rfl ?_
            refine g_iload (q := 2) dX0_isTurned_217 rfl ?_
            refine g_if_eq (tgt := 290) dX0_isTurned_219 (by decide) (fun c15 => ?_) (fun c16 => ?_)
            · exact absurd c15 (by decide)
            · refine g_iload (q := 7) dX0_isTurned_222 rfl ?_
              refine g_if_ne (tgt := 230) dX0_isTurned_224 (by decide) (fun c17 => ?_) (fun c18 => ?_)
              · exact absurd c17 (by decide)
              · refine g_goto (tgt := 290) dX0_isTurned_227 (by decide) ?_
                exact g_less [0, 1, 2, 3, 4, 5, 6] rfl h
        · have h := h.2 c12
          refine g_iconst dX0_isTurned_202 (by decide) ?_
          refine g_goto (tgt := 207) dX0_isTurned_203 (by decide) ?_
          refine g_icmp_ne (tgt := 214) dX0_isTurned_207 (by decide) (fun c19 => ?_) (fun c20 => ?_)
          · refine g_iconst dX0_isTurned_214 (by decide) ?_
            refine g_istore (L' := [(0, 2, 1), (3, 0, v3), (4, 0, 0), (5, 0, v5), (6, 2, v6), (7, 2, v7), (8, 0, v8), (9, 0, 0)]) dX0_isTurned_215 (by decide) [1, 2, 0, 3, 4, 5, 6, 7] rfl ?_
            refine g_iload (q := 2) dX0_isTurned_217 rfl ?_
            refine g_if_eq (tgt := 290) dX0_isTurned_219 (by decide) (fun c21 => ?_) (fun c22 => ?_)
            · exact g_less [0, 1, 2, 3, 4, 5, 6] rfl h
            · exact absurd c22 (by decide)
          · exact absurd c20 (by decide)
      · have h := h.2 c8
        refine g_iconst dX0_isTurned_181 (by decide) ?_
        refine g_goto (tgt := 186) dX0_isTurned_182 (by decide) ?_
        refine g_istore (L' := [(0, 2, 1), (3, 0, v3), (4, 0, v4), (5, 0, v5), (6, 2, v6), (7, 2, v7), (8, 0, v8), (9, 0, 1)]) dX0_isTurned_186 (by decide) [1, 2, 3, 4, 5, 6, 7, 0] rfl ?_
        refine g_iload (q := 7) dX0_isTurned_188 rfl ?_
        refine g_aload (q := 5) dX0_isTurned_190 rfl ?_
        refine g_iload (q := 6) dX0_isTurned_192 rfl ?_
        obtain ⟨c23, h⟩ := h
        obtain ⟨c24, h⟩ := h
        refine g_callV1 dX0_isTurned_194 kX7_by q985 q898 q899 (ci := 7) rfl (by decide) rfl (by omega) c23.1.1 (hs.k ▸ c23.1.2) (Nat.le_of_ble_eq_true rfl) (Nat.le_refl _) (Nat.le_refl _) (t_pR hs (pX7_by (by omega) hs (tWs_TC ⟨rfl, rfl⟩) c24) ?_)
        refine g_aload (q := 5) dX0_isTurned_197 rfl ?_
        refine g_acmp_eq (tgt := 206) dX0_isTurned_199 (by decide) (fun c25 => ?_) (fun c26 => ?_)
        · have h := h.1 c25
          refine g_iconst dX0_isTurned_206 (by decide) ?_
          refine g_icmp_ne (tgt := 214) dX0_isTurned_207 (by decide) (fun c27 => ?_) (fun c28 => ?_)
          · refine g_iconst dX0_isTurned_214 (by decide) ?_
            refine g_istore (L' := [(0, 2, 1), (3, 0, v3), (4, 0, 0), (5, 0, v5), (6, 2, v6), (7, 2, v7), (8, 0, v8), (9, 0, 1)]) dX0_isTurned_215 (by decide) [1, 2, 0, 3, 4, 5, 6, 7] rfl ?_
            refine g_iload (q := 2) dX0_isTurned_217 rfl ?_
            refine g_if_eq (tgt := 290) dX0_isTurned_219 (by decide) (fun c29 => ?_) (fun c30 => ?_)
            · exact g_less [0, 1, 2, 3, 4, 5, 6] rfl h
            · exact absurd c30 (by decide)
          · exact absurd c28 (by decide)
        · have h := h.2 c26
          refine g_iconst dX0_isTurned_202 (by decide) ?_
          refine g_goto (tgt := 207) dX0_isTurned_203 (by decide) ?_
          refine g_icmp_ne (tgt := 214) dX0_isTurned_207 (by decide) (fun c31 => ?_) (fun c32 => ?_)
          · exact absurd c31 (by decide)
          · refine g_iconst dX0_isTurned_210 (by decide) ?_
            refine g_goto (tgt := 215) dX0_isTurned_211 (by decide) ?_
            refine g_istore (L' := [(0, 2, 1), (3, 0, v3), (4, 0, 1), (5, 0, v5), (6, 2, v6), (7, 2, v7), (8, 0, v8), (9, 0, 1)]) dX0_isTurned_215 (by decide) [1, 2, 0, 3, 4, 5, 6, 7] rfl ?_
            refine g_iload (q := 2) dX0_isTurned_217 rfl ?_
            refine g_if_eq (tgt := 290) dX0_isTurned_219 (by decide) (fun c33 => ?_) (fun c34 => ?_)
            · exact absurd c33 (by decide)
            · refine g_iload (q := 7) dX0_isTurned_222 rfl ?_
              refine g_if_ne (tgt := 230) dX0_isTurned_224 (by decide) (fun c35 => ?_) (fun c36 => ?_)
              · refine g_aload_n (q := 0) dX0_isTurned_230 rfl rfl ?_
                refine g_getC (x := 47) 2 dX0_isTurned_231 fX0_111 rfl (by decide) (sk_1 hs.S) (sv_1_34 hs.S) ?_
                refine g_aload (q := 4) dX0_isTurned_234 rfl ?_
                refine g_iload (q := 6) dX0_isTurned_236 rfl ?_
                refine g_callV1 dX0_isTurned_238 kX7_by q985 q898 q899 (ci := 7) rfl (by decide) rfl (by omega) c5.1.1 (hs.k ▸ c5.1.2) (Nat.le_of_ble_eq_true rfl) (Nat.le_refl _) (Nat.le_refl _) (t_pR hs (pX7_by (by omega) hs (tWs_TC ⟨rfl, rfl⟩) c6) ?_)
                obtain ⟨c37, h⟩ := h
                refine g_getC (x := tm_v μ0 (c_P μ0 (y_go ν (tm_v μ0 v6 1) v8)) 1) 0 dX0_isTurned_241 fX0_260 rfl c37.1.1 (hs.k ▸ c37.1.2) (hs.v (tWs_ob rfl c37)) ?_
                obtain ⟨c38, h⟩ := h
                refine g_iaload dX0_isTurned_244 (by decide) (sk_47 hs.S) c38.1 (t_lt (sn_47 hs.S) c38.2) ?_
                refine g_iconst dX0_isTurned_245 (by decide) ?_
                refine g_icmp_ne (tgt := 253) dX0_isTurned_246 (by decide) (fun c39 => ?_) (fun c40 => ?_)
                · have h := h.1 c39
                  refine g_iconst dX0_isTurned_253 (by decide) ?_
                  refine g_istore (L' := [(0, 2, 1), (3, 0, v3), (4, 0, 1), (5, 0, v5), (6, 2, v6), (7, 2, v7), (8, 0, v8), (9, 0, 1), (10, 0, 0)]) dX0_isTurned_254 (by decide) [1, 2, 3, 4, 5, 6, 7, 8, 0] rfl ?_
                  refine g_aload_n (q := 0) dX0_isTurned_256 rfl rfl ?_
                  refine g_aload (q := 4) dX0_isTurned_257 rfl ?_
                  refine g_iload (q := 6) dX0_isTurned_259 rfl ?_
                  refine g_callV1 dX0_isTurned_261 kX7_by q985 q898 q899 (ci := 7) rfl (by decide) rfl (by omega) c5.1.1 (hs.k ▸ c5.1.2) (Nat.le_of_ble_eq_true rfl) (Nat.le_refl _) (Nat.le_refl _) (t_pR hs (pX7_by (by omega) hs (tWs_TC ⟨rfl, rfl⟩) c6) ?_)
                  refine g_aload (q := 5) dX0_isTurned_264 rfl ?_
                  refine g_iload (q := 6) dX0_isTurned_266 rfl ?_
                  refine g_callV1 dX0_isTurned_268 kX7_by q985 q898 q899 (ci := 7) rfl (by decide) rfl (by omega) c23.1.1 (hs.k ▸ c23.1.2) (Nat.le_of_ble_eq_true rfl) (Nat.le_refl _) (Nat.le_refl _) (t_pR hs (pX7_by (by omega) hs (tWs_TC ⟨rfl, rfl⟩) c24) ?_)
                  refine g_iload_n (q := 1) dX0_isTurned_271 rfl rfl ?_
                  refine g_callV3 dX0_isTurned_272 kX0_puts q1106 q1108 qs39 (ci := 0) rfl (by decide) rfl (by omega) (by decide) (sk_1 hs.S) (Nat.le_of_ble_eq_true rfl) (Nat.le_refl _) (Nat.le_refl _) (t_kI hs (tWs_sub rfl) h (fun r42 μ41 hs h => ?_))
                  refine g_istore (L' := [(0, 2, 1), (3, 0, v3), (4, 0, r42), (5, 0, v5), (6, 2, v6), (7, 2, v7), (8, 0, v8), (9, 0, 1), (10, 0, 0)]) dX0_isTurned_275 (by decide) [1, 2, 0, 3, 4, 5, 6, 7, 8] rfl ?_
                  refine g_iload_n (q := 1) dX0_isTurned_277 rfl rfl ?_
                  refine g_iload (q := 8) dX0_isTurned_278 rfl ?_
                  refine g_if_eq (tgt := 287) dX0_isTurned_280 (by decide) (fun c43 => ?_) (fun c44 => ?_)
                  · refine g_iconst dX0_isTurned_287 (by decide) ?_
                    refine g_iadd dX0_isTurned_288 ?_
                    refine g_istore_nN (fun z => [(0, 2, 1), (3, 0, z), (4, 0, r42), (5, 0, v5), (6, 2, v6), (7, 2, v7), (8, 0, v8), (9, 0, 1), (10, 0, 0)]) dX0_isTurned_289 rfl (by decide) [1, 0, 2, 3, 4, 5, 6, 7, 8] (fun _ => rfl) (fun x45 ex45 => ?_)
                    have h := h x45 ex45
                    exact g_less [0, 1, 2, 3, 4, 5, 6] rfl h
                  · exact absurd c44 (by decide)
                · have h := h.2 c40
                  refine g_iconst dX0_isTurned_249 (by decide) ?_
                  refine g_goto (tgt := 254) dX0_isTurned_250 (by decide) ?_
                  refine g_istore (L' := [(0, 2, 1), (3, 0, v3), (4, 0, 1), (5, 0, v5), (6, 2, v6), (7, 2, v7), (8, 0, v8), (9, 0, 1), (10, 0, 1)]) dX0_isTurned_254 (by decide) [1, 2, 3, 4, 5, 6, 7, 8, 0] rfl ?_
                  refine g_aload_n (q := 0) dX0_isTurned_256 rfl rfl ?_
                  refine g_aload (q := 4) dX0_isTurned_257 rfl ?_
                  refine g_iload (q := 6) dX0_isTurned_259 rfl ?_
                  refine g_callV1 dX0_isTurned_261 kX7_by q985 q898 q899 (ci := 7) rfl (by decide) rfl (by omega) c5.1.1 (hs.k ▸ c5.1.2) (Nat.le_of_ble_eq_true rfl) (Nat.le_refl _) (Nat.le_refl _) (t_pR hs (pX7_by (by omega) hs (tWs_TC ⟨rfl, rfl⟩) c6) ?_)
                  refine g_aload (q := 5) dX0_isTurned_264 rfl ?_
                  refine g_iload (q := 6) dX0_isTurned_266 rfl ?_
                  refine g_callV1 dX0_isTurned_268 kX7_by q985 q898 q899 (ci := 7) rfl (by decide) rfl (by omega) c23.1.1 (hs.k ▸ c23.1.2) (Nat.le_of_ble_eq_true rfl) (Nat.le_refl _) (Nat.le_refl _) (t_pR hs (pX7_by (by omega) hs (tWs_TC ⟨rfl, rfl⟩) c24) ?_)
                  refine g_iload_n (q := 1) dX0_isTurned_271 rfl rfl ?_
                  refine g_callV3 dX0_isTurned_272 kX0_puts q1106 q1108 qs39 (ci := 0) rfl (by decide) rfl (by omega) (by decide) (sk_1 hs.S) (Nat.le_of_ble_eq_true rfl) (Nat.le_refl _) (Nat.le_refl _) (t_kI hs (tWs_sub rfl) h (fun r47 μ46 hs h => ?_))
                  refine g_istore (L' := [(0, 2, 1), (3, 0, v3), (4, 0, r47), (5, 0, v5), (6, 2, v6), (7, 2, v7), (8, 0, v8), (9, 0, 1), (10, 0, 1)]) dX0_isTurned_275 (by decide) [1, 2, 0, 3, 4, 5, 6, 7, 8] rfl ?_
                  refine g_iload_n (q := 1) dX0_isTurned_277 rfl rfl ?_
                  refine g_iload (q := 8) dX0_isTurned_278 rfl ?_
                  refine g_if_eq (tgt := 287) dX0_isTurned_280 (by decide) (fun c48 => ?_) (fun c49 => ?_)
                  · exact absurd c48 (by decide)
                  · refine g_iconst dX0_isTurned_283 (by decide) ?_
                    refine g_goto (tgt := 288) dX0_isTurned_284 (by decide) ?_
                    refine g_iadd dX0_isTurned_288 ?_
                    refine g_istore_nN (fun z => [(0, 2, 1), (3, 0, z), (4, 0, r47), (5, 0, v5), (6, 2, v6), (7, 2, v7), (8, 0, v8), (9, 0, 1), (10, 0, 1)]) dX0_isTurned_289 rfl (by decide) [1, 0, 2, 3, 4, 5, 6, 7, 8] (fun _ => rfl) (fun x50 ex50 => ?_)
                    have h := h x50 ex50
                    exact g_less [0, 1, 2, 3, 4, 5, 6] rfl h
              · exact absurd c36 (by decide)
theorem uX0_isTurned_290 {d : Nat} {μ0 μ : tm_M} {K : Int → tm_M → Prop} {v3 v4 v5 v6 v7 v8 : Int} (hs : tFr (tWs [46, 47] []) μ0 μ)
    (h : hI (tWs [46, 47] []) μ0 mX0_isTurned d K 158 [(0, 2, 1), (3, 0, v3), (4, 0, v4), (5, 0, v5), (6, 2, v6), (7, 2, v7), (8, 0, w32 (v8 + 1))] [] μ) :
    hI (tWs [46, 47] []) μ0 mX0_isTurned d K 290 [(0, 2, 1), (3, 0, v3), (4, 0, v4), (5, 0, v5), (6, 2, v6), (7, 2, v7), (8, 0, v8)] [] μ := by
  refine g_iinc (q := 6) dX0_isTurned_290 (by decide) rfl [1, 2, 3, 4, 5, 6, 0] rfl ?_
  refine g_goto (tgt := 158) dX0_isTurned_293 (by decide) ?_
  exact h
theorem uX0_isTurned_296 {d : Nat} {μ0 μ : tm_M} {K : Int → tm_M → Prop} {v3 v4 v5 : Int} (hs : tFr (tWs [46, 47] []) μ0 μ)
    (h : hI (tWs [46, 47] []) μ0 mX0_isTurned d K 85 [(0, 2, 1), (3, 0, v3), (4, 0, v4), (5, 0, w32 (v5 + 1))] [] μ) :
    hI (tWs [46, 47] []) μ0 mX0_isTurned d K 296 [(0, 2, 1), (3, 0, v3), (4, 0, v4), (5, 0, v5)] [] μ := by
  refine g_iinc (q := 3) dX0_isTurned_296 (by decide) rfl [1, 2, 3, 0] rfl ?_
  refine g_goto (tgt := 85) dX0_isTurned_299 (by decide) ?_
  exact h
theorem uX0_isTurned_302 {d : Nat} {μ0 μ : tm_M} {K : Int → tm_M → Prop} {v4 : Int} (hs : tFr (tWs [46, 47] []) μ0 μ)
    (h : (0 ≤ v4 ∧ v4 ≤ 1) ∧ (K v4 μ)) :
    hI (tWs [46, 47] []) μ0 mX0_isTurned d K 302 [(4, 0, v4)] [] μ := by
  refine g_iload (q := 0) dX0_isTurned_302 rfl ?_
  obtain ⟨c1, h⟩ := h
  exact g_zret dX0_isTurned_304 rfl c1 (Nat.le_refl _) (Nat.le_refl _) ⟨_, rfl, hs, h⟩
theorem uX0_parted_0 {d : Nat} {μ0 μ : tm_M} {K : Int → tm_M → Prop} {ν : tm_M} {v1 v2 v3 : Int} (hd : 1 ≤ d) (hs : tFr (tWs [45, 46, 47] [(1, 10)]) μ0 μ)
    (h : (JU μ0 ν) ∧ ((¬ (0 ≤ v1 ∧ v1 < tm_v ν 65 20) → (∀ μ4, μ4 = tm_w μ 1 10 2 → K (-1) μ4)) ∧ (0 ≤ v1 ∧ v1 < tm_v ν 65 20 → (¬ (0 ≤ v2 ∧ v2 < tm_v ν 65 20) → (∀ μ9, μ9 = tm_w μ 1 10 2 → K (-1) μ9)) ∧ (0 ≤ v2 ∧ v2 < tm_v ν 65 20 → (v1 ≠ v2 → (v3 < 0 → (∀ μ16, μ16 = tm_w μ 1 10 5 → K (-1) μ16)) ∧ (0 ≤ v3 → (v3 ≤ 1 → (v3 ≠ 0 → cI (tWs [46, 47] []) mX0_isTurned (d - 1) [(2, 1), (0, v1), (0, v2)] μ (fun r24 μ23 => (r24 = 0 → (∀ μ27, μ27 = tm_w μ23 1 10 0 → K 0 μ27)) ∧ (r24 ≠ 0 → (∀ μ30, μ30 = tm_w μ23 1 10 0 → K 1 μ30)))) ∧ (v3 = 0 → cI (tWs [45, 46] []) mX0_isParted (d - 1) [(2, 1), (0, v1), (0, v2)] μ (fun r34 μ33 => (r34 = 0 → (∀ μ37, μ37 = tm_w μ33 1 10 0 → K 0 μ37)) ∧ (r34 ≠ 0 → (∀ μ40, μ40 = tm_w μ33 1 10 0 → K 1 μ40))))) ∧ (1 < v3 → (∀ μ43, μ43 = tm_w μ 1 10 5 → K (-1) μ43)))) ∧ (v1 = v2 → (∀ μ46, μ46 = tm_w μ 1 10 2 → K (-1) μ46)))))) :
    hI (tWs [45, 46, 47] [(1, 10)]) μ0 mX0_parted d K 0 [(0, 2, 1), (1, 0, v1), (2, 0, v2), (3, 0, v3)] [] μ := by
  refine g_aload_n (q := 0) dX0_parted_0 rfl rfl ?_
  refine g_iload_n (q := 1) dX0_parted_1 rfl rfl ?_
  obtain ⟨c1, h⟩ := h
  refine g_callV1 dX0_parted_2 kX0_isPlace q872 q874 qs18 (ci := 0) rfl (by decide) rfl (by omega) (by decide) (sk_1 hs.S) (Nat.le_of_ble_eq_true rfl) (Nat.le_refl _) (Nat.le_refl _) (t_pI hs (pX0_isPlace hs (tWs_TC ⟨rfl, rfl⟩) c1) ?_)
  refine g_if_eq (tgt := 21) dX0_parted_5 (by decide) (fun c2 => ?_) (fun c3 => ?_)
  · have h := h.1 (b2i_0.mp c2)
    refine g_aload_n (q := 0) dX0_parted_21 rfl rfl ?_
    refine g_iconst dX0_parted_22 (by decide) ?_
    refine g_callV1 dX0_parted_23 kX0_none q636 q638 qs3 (ci := 0) rfl (by decide) rfl (by omega) (by decide) (sk_1 hs.S) (Nat.le_of_ble_eq_true rfl) (Nat.le_refl _) (Nat.le_refl _) (t_kI hs (tWs_sub rfl) (pX0_none hs.S) (fun r6 μ4 hs e5 => ?_))
    obtain ⟨rfl, e5⟩ := e5
    have h := h μ4 e5
    exact g_iret dX0_parted_26 rfl (Nat.le_refl _) (Nat.le_refl _) ⟨_, rfl, hs, h⟩
  · have h := h.2 (b2i_1.mp c3)
    refine g_aload_n (q := 0) dX0_parted_8 rfl rfl ?_
    refine g_iload_n (q := 2) dX0_parted_9 rfl rfl ?_
    refine g_callV1 dX0_parted_10 kX0_isPlace q872 q874 qs18 (ci := 0) rfl (by decide) rfl (by omega) (by decide) (sk_1 hs.S) (Nat.le_of_ble_eq_true rfl) (Nat.le_refl _) (Nat.le_refl _) (t_pI hs (pX0_isPlace hs (tWs_TC ⟨rfl, rfl⟩) c1) ?_)
    refine g_if_eq (tgt := 21) dX0_parted_13 (by decide) (fun c7 => ?_) (fun c8 => ?_)
    · have h := h.1 (b2i_0.mp c7)
      refine g_aload_n (q := 0) dX0_parted_21 rfl rfl ?_
      refine g_iconst dX0_parted_22 (by decide) ?_
      refine g_callV1 dX0_parted_23 kX0_none q636 q638 qs3 (ci := 0) rfl (by decide) rfl (by omega) (by decide) (sk_1 hs.S) (Nat.le_of_ble_eq_true rfl) (Nat.le_refl _) (Nat.le_refl _) (t_kI hs (tWs_sub rfl) (pX0_none hs.S) (fun r11 μ9 hs e10 => ?_))
      obtain ⟨rfl, e10⟩ := e10
      have h := h μ9 e10
      exact g_iret dX0_parted_26 rfl (Nat.le_refl _) (Nat.le_refl _) ⟨_, rfl, hs, h⟩
    · have h := h.2 (b2i_1.mp c8)
      refine g_iload_n (q := 1) dX0_parted_16 rfl rfl ?_
      refine g_iload_n (q := 2) dX0_parted_17 rfl rfl ?_
      refine g_icmp_ne (tgt := 27) dX0_parted_18 (by decide) (fun c12 => ?_) (fun c13 => ?_)
      · have h := h.1 c12
        refine g_iload_n (q := 3) dX0_parted_27 rfl rfl ?_
        refine g_if_lt (tgt := 36) dX0_parted_28 (by decide) (fun c14 => ?_) (fun c15 => ?_)
        · have h := h.1 c14
          refine g_aload_n (q := 0) dX0_parted_36 rfl rfl ?_
          refine g_iconst dX0_parted_37 (by decide) ?_
          refine g_callV1 dX0_parted_38 kX0_none q636 q638 qs3 (ci := 0) rfl (by decide) rfl (by omega) (by decide) (sk_1 hs.S) (Nat.le_of_ble_eq_true rfl) (Nat.le_refl _) (Nat.le_refl _) (t_kI hs (tWs_sub rfl) (pX0_none hs.S) (fun r18 μ16 hs e17 => ?_))
          obtain ⟨rfl, e17⟩ := e17
          have h := h μ16 e17
          exact g_iret dX0_parted_41 rfl (Nat.le_refl _) (Nat.le_refl _) ⟨_, rfl, hs, h⟩
        · have h := h.2 c15
          refine g_iload_n (q := 3) dX0_parted_31 rfl rfl ?_
          refine g_iconst dX0_parted_32 (by decide) ?_
          refine g_icmp_le (tgt := 42) dX0_parted_33 (by decide) (fun c19 => ?_) (fun c20 => ?_)
          · have h := h.1 c19
            refine g_aload_n (q := 0) dX0_parted_42 rfl rfl ?_
            refine g_iload_n (q := 3) dX0_parted_43 rfl rfl ?_
            refine g_if_ne (tgt := 59) dX0_parted_44 (by decide) (fun c21 => ?_) (fun c22 => ?_)
            · have h := h.1 c21
              refine g_aload_n (q := 0) dX0_parted_59 rfl rfl ?_
              refine g_iload_n (q := 1) dX0_parted_60 rfl rfl ?_
              refine g_iload_n (q := 2) dX0_parted_61 rfl rfl ?_
              refine g_callV2 dX0_parted_62 kX0_isTurned q1102 q1104 qs38 (ci := 0) rfl (by decide) rfl (by omega) (by decide) (sk_1 hs.S) (Nat.le_of_ble_eq_true rfl) (Nat.le_refl _) (Nat.le_refl _) (t_kI hs (tWs_sub rfl) h (fun r24 μ23 hs h => ?_))
              refine g_if_eq (tgt := 72) dX0_parted_65 (by decide) (fun c25 => ?_) (fun c26 => ?_)
              · have h := h.1 c25
                refine g_iconst dX0_parted_72 (by decide) ?_
                refine g_callV1 dX0_parted_73 kX0_gives q856 q858 qs17 (ci := 0) rfl (by decide) rfl (by omega) (by decide) (sk_1 hs.S) (Nat.le_of_ble_eq_true rfl) (Nat.le_refl _) (Nat.le_refl _) (t_kI hs (tWs_sub rfl) (pX0_gives hs.S) (fun r29 μ27 hs e28 => ?_))
                obtain ⟨rfl, e28⟩ := e28
                have h := h μ27 e28
                exact g_iret dX0_parted_76 rfl (Nat.le_refl _) (Nat.le_refl _) ⟨_, rfl, hs, h⟩
              · have h := h.2 c26
                refine g_iconst dX0_parted_68 (by decide) ?_
                refine g_goto (tgt := 73) dX0_parted_69 (by decide) ?_
                refine g_callV1 dX0_parted_73 kX0_gives q856 q858 qs17 (ci := 0) rfl (by decide) rfl (by omega) (by decide) (sk_1 hs.S) (Nat.le_of_ble_eq_true rfl) (Nat.le_refl _) (Nat.le_refl _) (t_kI hs (tWs_sub rfl) (pX0_gives hs.S) (fun r32 μ30 hs e31 => ?_))
                obtain ⟨rfl, e31⟩ := e31
                have h := h μ30 e31
                exact g_iret dX0_parted_76 rfl (Nat.le_refl _) (Nat.le_refl _) ⟨_, rfl, hs, h⟩
            · have h := h.2 c22
              refine g_aload_n (q := 0) dX0_parted_47 rfl rfl ?_
              refine g_iload_n (q := 1) dX0_parted_48 rfl rfl ?_
              refine g_iload_n (q := 2) dX0_parted_49 rfl rfl ?_
              refine g_callV2 dX0_parted_50 kX0_isParted q1098 q1100 qs37 (ci := 0) rfl (by decide) rfl (by omega) (by decide) (sk_1 hs.S) (Nat.le_of_ble_eq_true rfl) (Nat.le_refl _) (Nat.le_refl _) (t_kI hs (tWs_sub rfl) h (fun r34 μ33 hs h => ?_))
              refine g_if_eq (tgt := 72) dX0_parted_53 (by decide) (fun c35 => ?_) (fun c36 => ?_)
              · have h := h.1 c35
                refine g_iconst dX0_parted_72 (by decide) ?_
                refine g_callV1 dX0_parted_73 kX0_gives q856 q858 qs17 (ci := 0) rfl (by decide) rfl (by omega) (by decide) (sk_1 hs.S) (Nat.le_of_ble_eq_true rfl) (Nat.le_refl _) (Nat.le_refl _) (t_kI hs (tWs_sub rfl) (pX0_gives hs.S) (fun r39 μ37 hs e38 => ?_))
                obtain ⟨rfl, e38⟩ := e38
                have h := h μ37 e38
                exact g_iret dX0_parted_76 rfl (Nat.le_refl _) (Nat.le_refl _) ⟨_, rfl, hs, h⟩
              · have h := h.2 c36
                refine g_goto (tgt := 68) dX0_parted_56 (by decide) ?_
                refine g_iconst dX0_parted_68 (by decide) ?_
                refine g_goto (tgt := 73) dX0_parted_69 (by decide) ?_
                refine g_callV1 dX0_parted_73 kX0_gives q856 q858 qs17 (ci := 0) rfl (by decide) rfl (by omega) (by decide) (sk_1 hs.S) (Nat.le_of_ble_eq_true rfl) (Nat.le_refl _) (Nat.le_refl _) (t_kI hs (tWs_sub rfl) (pX0_gives hs.S) (fun r42 μ40 hs e41 => ?_))
                obtain ⟨rfl, e41⟩ := e41
                have h := h μ40 e41
                exact g_iret dX0_parted_76 rfl (Nat.le_refl _) (Nat.le_refl _) ⟨_, rfl, hs, h⟩
          · have h := h.2 c20
            refine g_aload_n (q := 0) dX0_parted_36 rfl rfl ?_
            refine g_iconst dX0_parted_37 (by decide) ?_
            refine g_callV1 dX0_parted_38 kX0_none q636 q638 qs3 (ci := 0) rfl (by decide) rfl (by omega) (by decide) (sk_1 hs.S) (Nat.le_of_ble_eq_true rfl) (Nat.le_refl _) (Nat.le_refl _) (t_kI hs (tWs_sub rfl) (pX0_none hs.S) (fun r45 μ43 hs e44 => ?_))
            obtain ⟨rfl, e44⟩ := e44
            have h := h μ43 e44
            exact g_iret dX0_parted_41 rfl (Nat.le_refl _) (Nat.le_refl _) ⟨_, rfl, hs, h⟩
      · have h := h.2 c13
        refine g_aload_n (q := 0) dX0_parted_21 rfl rfl ?_
        refine g_iconst dX0_parted_22 (by decide) ?_
        refine g_callV1 dX0_parted_23 kX0_none q636 q638 qs3 (ci := 0) rfl (by decide) rfl (by omega) (by decide) (sk_1 hs.S) (Nat.le_of_ble_eq_true rfl) (Nat.le_refl _) (Nat.le_refl _) (t_kI hs (tWs_sub rfl) (pX0_none hs.S) (fun r48 μ46 hs e47 => ?_))
        obtain ⟨rfl, e47⟩ := e47
        have h := h μ46 e47
        exact g_iret dX0_parted_26 rfl (Nat.le_refl _) (Nat.le_refl _) ⟨_, rfl, hs, h⟩
