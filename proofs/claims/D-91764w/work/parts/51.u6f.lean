theorem uX6_isBrought_0 {d : Nat} {μ0 μ : tm_M} {K : Int → tm_M → Prop} {v1 v2 : Int} (hs : tFr wX6_isBrought μ0 μ)
    (h : hI wX6_isBrought μ0 mX6_isBrought d K 2 [(0, 2, 65), (1, 0, v1), (2, 0, v2), (3, 0, 0)] [] μ) :
    hI wX6_isBrought μ0 mX6_isBrought d K 0 [(0, 2, 65), (1, 0, v1), (2, 0, v2)] [] μ := by
  refine g_iconst dX6_isBrought_0 (by decide) ?_
  refine g_istore_n (L' := [(0, 2, 65), (1, 0, v1), (2, 0, v2), (3, 0, 0)]) dX6_isBrought_1 rfl (by decide) [1, 2, 3, 0] rfl ?_
  exact h
theorem uX6_isBrought_2 {d : Nat} {μ0 μ : tm_M} {K : Int → tm_M → Prop} {v1 v2 v3 : Int} (hs : tFr wX6_isBrought μ0 μ)
    (h : (64 ≤ v3 → hI wX6_isBrought μ0 mX6_isBrought d K 37 [(0, 2, 65), (3, 0, 1)] [] μ) ∧ (v3 < 64 → (v3 ≠ w32 ((w32 (8 * v1)) + v2) → (0 ≤ v3 ∧ v3 < 64) ∧ ((∀ μ6, μ6 = tm_w μ 95 v3 0 → hI wX6_isBrought μ0 mX6_isBrought d K 2 [(0, 2, 65), (1, 0, v1), (2, 0, v2), (3, 0, w32 (v3 + 1))] [] μ6))) ∧ (v3 = w32 ((w32 (8 * v1)) + v2) → (0 ≤ v3 ∧ v3 < 64) ∧ ((∀ μ8, μ8 = tm_w μ 95 v3 1 → hI wX6_isBrought μ0 mX6_isBrought d K 2 [(0, 2, 65), (1, 0, v1), (2, 0, v2), (3, 0, w32 (v3 + 1))] [] μ8))))) :
    hI wX6_isBrought μ0 mX6_isBrought d K 2 [(0, 2, 65), (1, 0, v1), (2, 0, v2), (3, 0, v3)] [] μ := by
  refine g_iload_n (q := 3) dX6_isBrought_2 rfl rfl ?_
  refine g_bipush dX6_isBrought_3 ⟨by decide, by decide, rfl⟩ ?_
  refine g_icmp_ge (tgt := 35) dX6_isBrought_5 (by decide) (fun c1 => ?_) (fun c2 => ?_)
  · have h := h.1 c1
    refine g_iconst dX6_isBrought_35 (by decide) ?_
    refine g_istore_n (L' := [(0, 2, 65), (1, 0, v1), (2, 0, v2), (3, 0, 1)]) dX6_isBrought_36 rfl (by decide) [1, 2, 3, 0] rfl ?_
    exact g_less [0, 3] rfl h
  · have h := h.2 c2
    refine g_aload_n (q := 0) dX6_isBrought_8 rfl rfl ?_
    refine g_getC (x := 95) 2 dX6_isBrought_9 fX6_117 rfl (by decide) (sk_65 hs.S) (sv_65_65 hs.S) ?_
    refine g_iload_n (q := 3) dX6_isBrought_12 rfl rfl ?_
    refine g_iload_n (q := 3) dX6_isBrought_13 rfl rfl ?_
    refine g_bipush dX6_isBrought_14 ⟨by decide, by decide, rfl⟩ ?_
    refine g_iload_n (q := 1) dX6_isBrought_16 rfl rfl ?_
    refine g_imul dX6_isBrought_17 ?_
    refine g_iload_n (q := 2) dX6_isBrought_18 rfl rfl ?_
    refine g_iadd dX6_isBrought_19 ?_
    refine g_icmp_ne (tgt := 27) dX6_isBrought_20 (by decide) (fun c3 => ?_) (fun c4 => ?_)
    · have h := h.1 c3
      refine g_iconst dX6_isBrought_27 (by decide) ?_
      obtain ⟨c5, h⟩ := h
      refine g_zastore dX6_isBrought_28 (by decide) (sk_95 hs.S) c5.1 (t_lt (sn_95 hs.S) c5.2) (by decide) (p_w hs sf_95 (tWs_in _ rfl) fun μ6 eμ6 hs => ?_)
      have h := h μ6 eμ6
      refine g_iinc (q := 3) dX6_isBrought_29 (by decide) rfl [1, 2, 3, 0] rfl ?_
      refine g_goto (tgt := 2) dX6_isBrought_32 (by decide) ?_
      exact h
    · have h := h.2 c4
      refine g_iconst dX6_isBrought_23 (by decide) ?_
      refine g_goto (tgt := 28) dX6_isBrought_24 (by decide) ?_
      obtain ⟨c7, h⟩ := h
      refine g_zastore dX6_isBrought_28 (by decide) (sk_95 hs.S) c7.1 (t_lt (sn_95 hs.S) c7.2) (by decide) (p_w hs sf_95 (tWs_in _ rfl) fun μ8 eμ8 hs => ?_)
      have h := h μ8 eμ8
      refine g_iinc (q := 3) dX6_isBrought_29 (by decide) rfl [1, 2, 3, 0] rfl ?_
      refine g_goto (tgt := 2) dX6_isBrought_32 (by decide) ?_
      exact h
theorem uX6_isBrought_37 {d : Nat} {μ0 μ : tm_M} {K : Int → tm_M → Prop} {v3 : Int} (hs : tFr wX6_isBrought μ0 μ)
    (h : (v3 = 0 → K 0 μ) ∧ (v3 ≠ 0 → hI wX6_isBrought μ0 mX6_isBrought d K 46 [(0, 2, 65), (3, 0, 0), (4, 0, 0)] [] μ)) :
    hI wX6_isBrought μ0 mX6_isBrought d K 37 [(0, 2, 65), (3, 0, v3)] [] μ := by
  refine g_iload_n (q := 1) dX6_isBrought_37 rfl rfl ?_
  refine g_if_eq (tgt := 190) dX6_isBrought_38 (by decide) (fun c1 => ?_) (fun c2 => ?_)
  · have h := h.1 c1
    refine g_iconst dX6_isBrought_190 (by decide) ?_
    exact g_zret dX6_isBrought_191 rfl (by decide) (Nat.le_refl _) (Nat.le_refl _) ⟨_, rfl, hs, h⟩
  · have h := h.2 c2
    refine g_iconst dX6_isBrought_41 (by decide) ?_
    refine g_istore_n (L' := [(0, 2, 65), (3, 0, 0)]) dX6_isBrought_42 rfl (by decide) [1, 0] rfl ?_
    refine g_iconst dX6_isBrought_43 (by decide) ?_
    refine g_istore (L' := [(0, 2, 65), (3, 0, 0), (4, 0, 0)]) dX6_isBrought_44 (by decide) [1, 2, 0] rfl ?_
    exact h
theorem uX6_isBrought_46 {d : Nat} {μ0 μ : tm_M} {K : Int → tm_M → Prop} {v3 v4 : Int} (hs : tFr wX6_isBrought μ0 μ)
    (h : (tm_v μ0 65 20 ≤ v4 → hI wX6_isBrought μ0 mX6_isBrought d K 37 [(0, 2, 65), (3, 0, v3)] [] μ) ∧ (v4 < tm_v μ0 65 20 → hI wX6_isBrought μ0 mX6_isBrought d K 58 [(0, 2, 65), (3, 0, v3), (4, 0, v4), (5, 0, 0)] [] μ)) :
    hI wX6_isBrought μ0 mX6_isBrought d K 46 [(0, 2, 65), (3, 0, v3), (4, 0, v4)] [] μ := by
  refine g_iload (q := 2) dX6_isBrought_46 rfl ?_
  refine g_aload_n (q := 0) dX6_isBrought_48 rfl rfl ?_
  refine g_getC (x := tm_v μ0 65 20) 0 dX6_isBrought_49 fX6_326 rfl (by decide) (sk_65 hs.S) (hs.v (tWs_noF rfl)) ?_
  refine g_icmp_ge (tgt := 187) dX6_isBrought_52 (by decide) (fun c1 => ?_) (fun c2 => ?_)
  · have h := h.1 c1
    refine g_goto (tgt := 37) dX6_isBrought_187 (by decide) ?_
    exact g_less [0, 1] rfl h
  · have h := h.2 c2
    refine g_iconst dX6_isBrought_55 (by decide) ?_
    refine g_istore (L' := [(0, 2, 65), (3, 0, v3), (4, 0, v4), (5, 0, 0)]) dX6_isBrought_56 (by decide) [1, 2, 3, 0] rfl ?_
    exact h
theorem uX6_isBrought_58 {d : Nat} {μ0 μ : tm_M} {K : Int → tm_M → Prop} {v3 v4 v5 : Int} (hs : tFr wX6_isBrought μ0 μ)
    (h : (tm_v μ0 65 20 ≤ v5 → hI wX6_isBrought μ0 mX6_isBrought d K 46 [(0, 2, 65), (3, 0, v3), (4, 0, w32 (v4 + 1))] [] μ) ∧ (v5 < tm_v μ0 65 20 → hI wX6_isBrought μ0 mX6_isBrought d K 70 [(0, 2, 65), (3, 0, v3), (4, 0, v4), (5, 0, v5), (6, 0, 1)] [] μ)) :
    hI wX6_isBrought μ0 mX6_isBrought d K 58 [(0, 2, 65), (3, 0, v3), (4, 0, v4), (5, 0, v5)] [] μ := by
  refine g_iload (q := 3) dX6_isBrought_58 rfl ?_
  refine g_aload_n (q := 0) dX6_isBrought_60 rfl rfl ?_
  refine g_getC (x := tm_v μ0 65 20) 0 dX6_isBrought_61 fX6_326 rfl (by decide) (sk_65 hs.S) (hs.v (tWs_noF rfl)) ?_
  refine g_icmp_ge (tgt := 181) dX6_isBrought_64 (by decide) (fun c1 => ?_) (fun c2 => ?_)
  · have h := h.1 c1
    refine g_iinc (q := 2) dX6_isBrought_181 (by decide) rfl [1, 2, 0, 3] rfl ?_
    refine g_goto (tgt := 46) dX6_isBrought_184 (by decide) ?_
    exact g_less [0, 1, 2] rfl h
  · have h := h.2 c2
    refine g_iconst dX6_isBrought_67 (by decide) ?_
    refine g_istore (L' := [(0, 2, 65), (3, 0, v3), (4, 0, v4), (5, 0, v5), (6, 0, 1)]) dX6_isBrought_68 (by decide) [1, 2, 3, 4, 0] rfl ?_
    exact h
theorem uX6_isBrought_70 {d : Nat} {μ0 μ : tm_M} {K : Int → tm_M → Prop} {v3 v4 v5 v6 : Int} (hd : 3 ≤ d) (hs : tFr wX6_isBrought μ0 μ)
    (h : (5 ≤ v6 → hI wX6_isBrought μ0 mX6_isBrought d K 58 [(0, 2, 65), (3, 0, v3), (4, 0, v4), (5, 0, w32 (v5 + 1))] [] μ) ∧ (v6 < 5 → (0 ≤ w32 ((w32 (8 * v4)) + v5) ∧ w32 ((w32 (8 * v4)) + v5) < 64) ∧ ((tm_v μ 95 (w32 ((w32 (8 * v4)) + v5)) = 0 → hI wX6_isBrought μ0 mX6_isBrought d K 58 [(0, 2, 65), (3, 0, v3), (4, 0, v4), (5, 0, w32 (v5 + 1))] [] μ) ∧ (tm_v μ 95 (w32 ((w32 (8 * v4)) + v5)) ≠ 0 → (y_p μ0 v4 ∧ 0 ≤ v6 ∧ v6 ≤ 4) ∧ ((∀ x10, x10 = y_go μ0 v4 v6 → (y_p μ0 v5 ∧ 0 ≤ v6 ∧ v6 ≤ 4) ∧ ((∀ x15, x15 = y_go μ0 v5 v6 → (¬ (x10 = x15 ∨ (tm_v μ0 65 28 ≠ 0 ∧ x10 = v5 ∧ x15 = v4)) → (v3 ≠ 0 → (0 ≤ w32 ((w32 (8 * x10)) + x15) ∧ w32 ((w32 (8 * x10)) + x15) < 64) ∧ ((∀ μ24, μ24 = tm_w μ 95 (w32 ((w32 (8 * x10)) + x15)) 1 → hI wX6_isBrought μ0 mX6_isBrought d K 70 [(0, 2, 65), (3, 0, 1), (4, 0, v4), (5, 0, v5), (6, 0, w32 (v6 + 1))] [] μ24))) ∧ (v3 = 0 → (0 ≤ w32 ((w32 (8 * x10)) + x15) ∧ w32 ((w32 (8 * x10)) + x15) < 64) ∧ ((tm_v μ 95 (w32 ((w32 (8 * x10)) + x15)) ≠ 0 → (∀ μ28, μ28 = tm_w μ 95 (w32 ((w32 (8 * x10)) + x15)) 1 → hI wX6_isBrought μ0 mX6_isBrought d K 70 [(0, 2, 65), (3, 0, 0), (4, 0, v4), (5, 0, v5), (6, 0, w32 (v6 + 1))] [] μ28)) ∧ (tm_v μ 95 (w32 ((w32 (8 * x10)) + x15)) = 0 → (∀ μ29, μ29 = tm_w μ 95 (w32 ((w32 (8 * x10)) + x15)) 1 → hI wX6_isBrought μ0 mX6_isBrought d K 70 [(0, 2, 65), (3, 0, 1), (4, 0, v4), (5, 0, v5), (6, 0, w32 (v6 + 1))] [] μ29))))) ∧ (x10 = x15 ∨ (tm_v μ0 65 28 ≠ 0 ∧ x10 = v5 ∧ x15 = v4) → K 1 μ))))))))) :
    hI wX6_isBrought μ0 mX6_isBrought d K 70 [(0, 2, 65), (3, 0, v3), (4, 0, v4), (5, 0, v5), (6, 0, v6)] [] μ := by
  refine g_iload (q := 4) dX6_isBrought_70 rfl ?_
  refine g_iconst dX6_isBrought_72 (by decide) ?_
  refine g_icmp_ge (tgt := 175) dX6_isBrought_73 (by decide) (fun c1 => ?_) (fun c2 => ?_)
  · have h := h.1 c1
    refine g_iinc (q := 3) dX6_isBrought_175 (by decide) rfl [1, 2, 3, 0, 4] rfl ?_
    refine g_goto (tgt := 58) dX6_isBrought_178 (by decide) ?_
    exact g_less [0, 1, 2, 3] rfl h
  · have h := h.2 c2
    refine g_aload_n (q := 0) dX6_isBrought_76 rfl rfl ?_
    refine g_getC (x := 95) 2 dX6_isBrought_77 fX6_117 rfl (by decide) (sk_65 hs.S) (sv_65_65 hs.S) ?_
    refine g_bipush dX6_isBrought_80 ⟨by decide, by decide, rfl⟩ ?_
    refine g_iload (q := 2) dX6_isBrought_82 rfl ?_
    refine g_imul dX6_isBrought_84 ?_
    refine g_iload (q := 3) dX6_isBrought_85 rfl ?_
    refine g_iadd dX6_isBrought_87 ?_
    obtain ⟨c3, h⟩ := h
    refine g_zaload dX6_isBrought_88 (by decide) (sk_95 hs.S) c3.1 (t_lt (sn_95 hs.S) c3.2) ?_
    refine g_if_eq (tgt := 175) dX6_isBrought_89 (by decide) (fun c4 => ?_) (fun c5 => ?_)
    · have h := h.1 c4
      refine g_iinc (q := 3) dX6_isBrought_175 (by decide) rfl [1, 2, 3, 0, 4] rfl ?_
      refine g_goto (tgt := 58) dX6_isBrought_178 (by decide) ?_
      exact g_less [0, 1, 2, 3] rfl h
    · have h := h.2 c5
      refine g_aload_n (q := 0) dX6_isBrought_92 rfl rfl ?_
      refine g_iload (q := 2) dX6_isBrought_93 rfl ?_
      refine g_iload (q := 4) dX6_isBrought_95 rfl ?_
      obtain ⟨c6, h⟩ := h
      refine g_callV2 dX6_isBrought_97 kX6_go q1675 q1677 qs87 (ci := 6) rfl (by decide) rfl (by omega) (by decide) (sk_65 hs.S) (Nat.le_of_ble_eq_true rfl) (Nat.le_refl _) (Nat.le_refl _) (t_pI hs (pX6_goF (by omega) hs (tWs_T rfl) c6) ?_)
      refine g_istoreN (fun z => [(0, 2, 65), (3, 0, v3), (4, 0, v4), (5, 0, v5), (6, 0, v6), (7, 0, z)]) dX6_isBrought_100 (by decide) [1, 2, 3, 4, 5, 0] (fun _ => rfl) (fun x10 ex10 => ?_)
      have h := h x10 ex10
      refine g_aload_n (q := 0) dX6_isBrought_102 rfl rfl ?_
      refine g_iload (q := 3) dX6_isBrought_103 rfl ?_
      refine g_iload (q := 4) dX6_isBrought_105 rfl ?_
      obtain ⟨c11, h⟩ := h
      refine g_callV2 dX6_isBrought_107 kX6_go q1675 q1677 qs87 (ci := 6) rfl (by decide) rfl (by omega) (by decide) (sk_65 hs.S) (Nat.le_of_ble_eq_true rfl) (Nat.le_refl _) (Nat.le_refl _) (t_pI hs (pX6_goF (by omega) hs (tWs_T rfl) c11) ?_)
      refine g_istoreN (fun z => [(0, 2, 65), (3, 0, v3), (4, 0, v4), (5, 0, v5), (6, 0, v6), (7, 0, x10), (8, 0, z)]) dX6_isBrought_110 (by decide) [1, 2, 3, 4, 5, 6, 0] (fun _ => rfl) (fun x15 ex15 => ?_)
      have h := h x15 ex15
      refine g_aload_n (q := 0) dX6_isBrought_112 rfl rfl ?_
      refine g_iload (q := 5) dX6_isBrought_113 rfl ?_
      refine g_iload (q := 6) dX6_isBrought_115 rfl ?_
      refine g_iload (q := 2) dX6_isBrought_117 rfl ?_
      refine g_iload (q := 3) dX6_isBrought_119 rfl ?_
      refine g_callV4 dX6_isBrought_121 kX6_meets q1683 q1685 qs89 (ci := 6) rfl (by decide) rfl (by omega) (by decide) (sk_65 hs.S) (Nat.le_of_ble_eq_true rfl) (Nat.le_refl _) (Nat.le_refl _) (t_pI hs (pX6_meetsF hs (tWs_T rfl)) ?_)
      refine g_if_eq (tgt := 129) dX6_isBrought_124 (by decide) (fun c19 => ?_) (fun c20 => ?_)
      · have h := h.1 (b2i_0.mp c19)
        refine g_iload_n (q := 1) dX6_isBrought_129 rfl rfl ?_
        refine g_if_ne (tgt := 149) dX6_isBrought_130 (by decide) (fun c21 => ?_) (fun c22 => ?_)
        · have h := h.1 c21
          refine g_iconst dX6_isBrought_149 (by decide) ?_
          refine g_goto (tgt := 154) dX6_isBrought_150 (by decide) ?_
          refine g_istore_n (L' := [(0, 2, 65), (3, 0, 1), (4, 0, v4), (5, 0, v5), (6, 0, v6), (7, 0, x10), (8, 0, x15)]) dX6_isBrought_154 rfl (by decide) [1, 0, 2, 3, 4, 5, 6] rfl ?_
          refine g_aload_n (q := 0) dX6_isBrought_155 rfl rfl ?_
          refine g_getC (x := 95) 2 dX6_isBrought_156 fX6_117 rfl (by decide) (sk_65 hs.S) (sv_65_65 hs.S) ?_
          refine g_bipush dX6_isBrought_159 ⟨by decide, by decide, rfl⟩ ?_
          refine g_iload (q := 5) dX6_isBrought_161 rfl ?_
          refine g_imul dX6_isBrought_163 ?_
          refine g_iload (q := 6) dX6_isBrought_164 rfl ?_
          refine g_iadd dX6_isBrought_166 ?_
          refine g_iconst dX6_isBrought_167 (by decide) ?_
          obtain ⟨c23, h⟩ := h
          refine g_zastore dX6_isBrought_168 (by decide) (sk_95 hs.S) c23.1 (t_lt (sn_95 hs.S) c23.2) (by decide) (p_w hs sf_95 (tWs_in _ rfl) fun μ24 eμ24 hs => ?_)
          have h := h μ24 eμ24
          refine g_iinc (q := 4) dX6_isBrought_169 (by decide) rfl [1, 2, 3, 4, 0, 5, 6] rfl ?_
          refine g_goto (tgt := 70) dX6_isBrought_172 (by decide) ?_
          exact g_less [0, 1, 2, 3, 4] rfl h
        · have h := h.2 c22
          refine g_aload_n (q := 0) dX6_isBrought_133 rfl rfl ?_
          refine g_getC (x := 95) 2 dX6_isBrought_134 fX6_117 rfl (by decide) (sk_65 hs.S) (sv_65_65 hs.S) ?_
          refine g_bipush dX6_isBrought_137 ⟨by decide, by decide, rfl⟩ ?_
          refine g_iload (q := 5) dX6_isBrought_139 rfl ?_
          refine g_imul dX6_isBrought_141 ?_
          refine g_iload (q := 6) dX6_isBrought_142 rfl ?_
          refine g_iadd dX6_isBrought_144 ?_
          obtain ⟨c25, h⟩ := h
          refine g_zaload dX6_isBrought_145 (by decide) (sk_95 hs.S) c25.1 (t_lt (sn_95 hs.S) c25.2) ?_
          refine g_if_ne (tgt := 153) dX6_isBrought_146 (by decide) (fun c26 => ?_) (fun c27 => ?_)
          · have h := h.1 c26
            refine g_iconst dX6_isBrought_153 (by decide) ?_
            refine g_istore_n (L' := [(0, 2, 65), (3, 0, 0), (4, 0, v4), (5, 0, v5), (6, 0, v6), (7, 0, x10), (8, 0, x15)]) dX6_isBrought_154 rfl (by decide) [1, 0, 2, 3, 4, 5, 6] rfl ?_
            refine g_aload_n (q := 0) dX6_isBrought_155 rfl rfl ?_
            refine g_getC (x := 95) 2 dX6_isBrought_156 fX6_117 rfl (by decide) (sk_65 hs.S) (sv_65_65 hs.S) ?_
            refine g_bipush dX6_isBrought_159 ⟨by decide, by decide, rfl⟩ ?_
            refine g_iload (q := 5) dX6_isBrought_161 rfl ?_
            refine g_imul dX6_isBrought_163 ?_
            refine g_iload (q := 6) dX6_isBrought_164 rfl ?_
            refine g_iadd dX6_isBrought_166 ?_
            refine g_iconst dX6_isBrought_167 (by decide) ?_
            refine g_zastore dX6_isBrought_168 (by decide) (sk_95 hs.S) c25.1 (t_lt (sn_95 hs.S) c25.2) (by decide) (p_w hs sf_95 (tWs_in _ rfl) fun μ28 eμ28 hs => ?_)
            have h := h μ28 eμ28
            refine g_iinc (q := 4) dX6_isBrought_169 (by decide) rfl [1, 2, 3, 4, 0, 5, 6] rfl ?_
            refine g_goto (tgt := 70) dX6_isBrought_172 (by decide) ?_
            exact g_less [0, 1, 2, 3, 4] rfl h
          · have h := h.2 c27
            refine g_iconst dX6_isBrought_149 (by decide) ?_
            refine g_goto (tgt := 154) dX6_isBrought_150 (by decide) ?_
            refine g_istore_n (L' := [(0, 2, 65), (3, 0, 1), (4, 0, v4), (5, 0, v5), (6, 0, v6), (7, 0, x10), (8, 0, x15)]) dX6_isBrought_154 rfl (by decide) [1, 0, 2, 3, 4, 5, 6] rfl ?_
            refine g_aload_n (q := 0) dX6_isBrought_155 rfl rfl ?_
            refine g_getC (x := 95) 2 dX6_isBrought_156 fX6_117 rfl (by decide) (sk_65 hs.S) (sv_65_65 hs.S) ?_
            refine g_bipush dX6_isBrought_159 ⟨by decide, by decide, rfl⟩ ?_
            refine g_iload (q := 5) dX6_isBrought_161 rfl ?_
            refine g_imul dX6_isBrought_163 ?_
            refine g_iload (q := 6) dX6_isBrought_164 rfl ?_
            refine g_iadd dX6_isBrought_166 ?_
            refine g_iconst dX6_isBrought_167 (by decide) ?_
            refine g_zastore dX6_isBrought_168 (by decide) (sk_95 hs.S) c25.1 (t_lt (sn_95 hs.S) c25.2) (by decide) (p_w hs sf_95 (tWs_in _ rfl) fun μ29 eμ29 hs => ?_)
            have h := h μ29 eμ29
            refine g_iinc (q := 4) dX6_isBrought_169 (by decide) rfl [1, 2, 3, 4, 0, 5, 6] rfl ?_
            refine g_goto (tgt := 70) dX6_isBrought_172 (by decide) ?_
            exact g_less [0, 1, 2, 3, 4] rfl h
      · have h := h.2 (b2i_1.mp c20)
        refine g_iconst dX6_isBrought_127 (by decide) ?_
        exact g_zret dX6_isBrought_128 rfl (by decide) (Nat.le_refl _) (Nat.le_refl _) ⟨_, rfl, hs, h⟩
theorem uX6_turns_0 {d : Nat} {μ0 μ : tm_M} {K : Int → tm_M → Prop} {v1 v2 : Int} (hd : 1 ≤ d) (hs : tFr wX6_turns μ0 μ)
    (h : (v1 ≠ tm_v μ0 65 20 → (0 ≤ v1 ∧ v1 < 8) ∧ ((tm_v μ 96 v1 < 0 → hI wX6_turns μ0 mX6_turns d K 56 [(0, 2, 65), (1, 0, v1), (2, 0, v2), (3, 0, 0)] [] μ) ∧ (0 ≤ tm_v μ 96 v1 → cI wX6_turns mX6_turns (d - 1) [(2, 65), (0, w32 (v1 + 1)), (0, v2)] μ (fun r7 μ6 => (0 ≤ r7 ∧ r7 ≤ 1) ∧ (K r7 μ6))))) ∧ (v1 = tm_v μ0 65 20 → hI wX6_turns μ0 mX6_turns d K 10 [(0, 2, 65), (3, 0, 0)] [] μ)) :
    hI wX6_turns μ0 mX6_turns d K 0 [(0, 2, 65), (1, 0, v1), (2, 0, v2)] [] μ := by
  refine g_iload_n (q := 1) dX6_turns_0 rfl rfl ?_
  refine g_aload_n (q := 0) dX6_turns_1 rfl rfl ?_
  refine g_getC (x := tm_v μ0 65 20) 0 dX6_turns_2 fX6_326 rfl (by decide) (sk_65 hs.S) (hs.v (tWs_noF rfl)) ?_
  refine g_icmp_ne (tgt := 36) dX6_turns_5 (by decide) (fun c1 => ?_) (fun c2 => ?_)
  · have h := h.1 c1
    refine g_aload_n (q := 0) dX6_turns_36 rfl rfl ?_
    refine g_getC (x := 96) 2 dX6_turns_37 fX6_120 rfl (by decide) (sk_65 hs.S) (sv_65_66 hs.S) ?_
    refine g_iload_n (q := 1) dX6_turns_40 rfl rfl ?_
    obtain ⟨c3, h⟩ := h
    refine g_iaload dX6_turns_41 (by decide) (sk_96 hs.S) c3.1 (t_lt (sn_96 hs.S) c3.2) ?_
    refine g_if_lt (tgt := 54) dX6_turns_42 (by decide) (fun c4 => ?_) (fun c5 => ?_)
    · have h := h.1 c4
      refine g_iconst dX6_turns_54 (by decide) ?_
      refine g_istore_n (L' := [(0, 2, 65), (1, 0, v1), (2, 0, v2), (3, 0, 0)]) dX6_turns_55 rfl (by decide) [1, 2, 3, 0] rfl ?_
      exact h
    · have h := h.2 c5
      refine g_aload_n (q := 0) dX6_turns_45 rfl rfl ?_
      refine g_iload_n (q := 1) dX6_turns_46 rfl rfl ?_
      refine g_iconst dX6_turns_47 (by decide) ?_
      refine g_iadd dX6_turns_48 ?_
      refine g_iload_n (q := 2) dX6_turns_49 rfl rfl ?_
      refine g_callV2 dX6_turns_50 kX6_turns q1757 q1759 qs97 (ci := 6) rfl (by decide) rfl (by omega) (by decide) (sk_65 hs.S) (Nat.le_of_ble_eq_true rfl) (Nat.le_refl _) (Nat.le_refl _) (t_kI hs (tWs_sub rfl) h (fun r7 μ6 hs h => ?_))
      obtain ⟨c8, h⟩ := h
      exact g_zret dX6_turns_53 rfl c8 (Nat.le_refl _) (Nat.le_refl _) ⟨_, rfl, hs, h⟩
  · have h := h.2 c2
    refine g_iconst dX6_turns_8 (by decide) ?_
    refine g_istore_n (L' := [(0, 2, 65), (1, 0, v1), (2, 0, v2), (3, 0, 0)]) dX6_turns_9 rfl (by decide) [1, 2, 3, 0] rfl ?_
    exact g_less [0, 3] rfl h
theorem uX6_turns_10 {d : Nat} {μ0 μ : tm_M} {K : Int → tm_M → Prop} {v3 : Int} (hd : 1 ≤ d) (hs : tFr wX6_turns μ0 μ)
    (h : (tm_v μ0 65 20 ≤ v3 → K 1 μ) ∧ (v3 < tm_v μ0 65 20 → cI wX6_fitsTurn mX6_fitsTurn (d - 1) [(2, 65), (0, v3)] μ (fun r4 μ3 => (r4 ≠ 0 → hI wX6_turns μ0 mX6_turns d K 10 [(0, 2, 65), (3, 0, w32 (v3 + 1))] [] μ3) ∧ (r4 = 0 → K 0 μ3)))) :
    hI wX6_turns μ0 mX6_turns d K 10 [(0, 2, 65), (3, 0, v3)] [] μ := by
  refine g_iload_n (q := 1) dX6_turns_10 rfl rfl ?_
  refine g_aload_n (q := 0) dX6_turns_11 rfl rfl ?_
  refine g_getC (x := tm_v μ0 65 20) 0 dX6_turns_12 fX6_326 rfl (by decide) (sk_65 hs.S) (hs.v (tWs_noF rfl)) ?_
  refine g_icmp_ge (tgt := 34) dX6_turns_15 (by decide) (fun c1 => ?_) (fun c2 => ?_)
  · have h := h.1 c1
    refine g_iconst dX6_turns_34 (by decide) ?_
    exact g_zret dX6_turns_35 rfl (by decide) (Nat.le_refl _) (Nat.le_refl _) ⟨_, rfl, hs, h⟩
  · have h := h.2 c2
    refine g_aload_n (q := 0) dX6_turns_18 rfl rfl ?_
    refine g_iload_n (q := 1) dX6_turns_19 rfl rfl ?_
    refine g_callV1 dX6_turns_20 kX6_fitsTurn q1761 q1763 qs98 (ci := 6) rfl (by decide) rfl (by omega) (by decide) (sk_65 hs.S) (Nat.le_of_ble_eq_true rfl) (Nat.le_refl _) (Nat.le_refl _) (t_kI hs (tWs_sub rfl) h (fun r4 μ3 hs h => ?_))
    refine g_if_ne (tgt := 28) dX6_turns_23 (by decide) (fun c5 => ?_) (fun c6 => ?_)
    · have h := h.1 c5
      refine g_iinc (q := 1) dX6_turns_28 (by decide) rfl [1, 0] rfl ?_
      refine g_goto (tgt := 10) dX6_turns_31 (by decide) ?_
      exact h
    · have h := h.2 c6
      refine g_iconst dX6_turns_26 (by decide) ?_
      exact g_zret dX6_turns_27 rfl (by decide) (Nat.le_refl _) (Nat.le_refl _) ⟨_, rfl, hs, h⟩
theorem uX6_turns_56 {d : Nat} {μ0 μ : tm_M} {K : Int → tm_M → Prop} {v1 v2 v3 : Int} (hd : 1 ≤ d) (hs : tFr wX6_turns μ0 μ)
    (h : (tm_v μ0 65 20 ≤ v3 → K 0 μ) ∧ (v3 < tm_v μ0 65 20 → (i_and (i_shr v2 v3) 1 ≠ 1 → (0 ≤ v1 ∧ v1 < 8) ∧ ((∀ μ6, μ6 = tm_w μ 96 v1 v3 → cI wX6_fitsTurn mX6_fitsTurn (d - 1) [(2, 65), (0, v1)] μ6 (fun r8 μ7 => (r8 = 0 → (∀ μ11, μ11 = tm_w μ7 96 v1 (-1) → hI wX6_turns μ0 mX6_turns d K 56 [(0, 2, 65), (1, 0, v1), (2, 0, v2), (3, 0, w32 (v3 + 1))] [] μ11)) ∧ (r8 ≠ 0 → cI wX6_turns mX6_turns (d - 1) [(2, 65), (0, w32 (v1 + 1)), (0, i_or v2 (i_shl 1 v3))] μ7 (fun r13 μ12 => (r13 = 0 → (∀ μ16, μ16 = tm_w μ12 96 v1 (-1) → hI wX6_turns μ0 mX6_turns d K 56 [(0, 2, 65), (1, 0, v1), (2, 0, v2), (3, 0, w32 (v3 + 1))] [] μ16)) ∧ (r13 ≠ 0 → K 1 μ12))))))) ∧ (i_and (i_shr v2 v3) 1 = 1 → hI wX6_turns μ0 mX6_turns d K 56 [(0, 2, 65), (1, 0, v1), (2, 0, v2), (3, 0, w32 (v3 + 1))] [] μ))) :
    hI wX6_turns μ0 mX6_turns d K 56 [(0, 2, 65), (1, 0, v1), (2, 0, v2), (3, 0, v3)] [] μ := by
  refine g_iload_n (q := 3) dX6_turns_56 rfl rfl ?_
  refine g_aload_n (q := 0) dX6_turns_57 rfl rfl ?_
  refine g_getC (x := tm_v μ0 65 20) 0 dX6_turns_58 fX6_326 rfl (by decide) (sk_65 hs.S) (hs.v (tWs_noF rfl)) ?_
  refine g_icmp_ge (tgt := 121) dX6_turns_61 (by decide) (fun c1 => ?_) (fun c2 => ?_)
  · have h := h.1 c1
    refine g_iconst dX6_turns_121 (by decide) ?_
    exact g_zret dX6_turns_122 rfl (by decide) (Nat.le_refl _) (Nat.le_refl _) ⟨_, rfl, hs, h⟩
  · have h := h.2 c2
    refine g_iload_n (q := 2) dX6_turns_64 rfl rfl ?_
    refine g_iload_n (q := 3) dX6_turns_65 rfl rfl ?_
    refine g_ishr dX6_turns_66 ?_
    refine g_iconst dX6_turns_67 (by decide) ?_
    refine g_iand dX6_turns_68 ?_
    refine g_iconst dX6_turns_69 (by decide) ?_
    refine g_icmp_ne (tgt := 76) dX6_turns_70 (by decide) (fun c3 => ?_) (fun c4 => ?_)
    · have h := h.1 c3
      refine g_aload_n (q := 0) dX6_turns_76 rfl rfl ?_
      refine g_getC (x := 96) 2 dX6_turns_77 fX6_120 rfl (by decide) (sk_65 hs.S) (sv_65_66 hs.S) ?_
      refine g_iload_n (q := 1) dX6_turns_80 rfl rfl ?_
      refine g_iload_n (q := 3) dX6_turns_81 rfl rfl ?_
      obtain ⟨c5, h⟩ := h
      refine g_iastore dX6_turns_82 (by decide) (sk_96 hs.S) c5.1 (t_lt (sn_96 hs.S) c5.2) (p_w hs sf_96 (tWs_in _ rfl) fun μ6 eμ6 hs => ?_)
      have h := h μ6 eμ6
      refine g_aload_n (q := 0) dX6_turns_83 rfl rfl ?_
      refine g_iload_n (q := 1) dX6_turns_84 rfl rfl ?_
      refine g_callV1 dX6_turns_85 kX6_fitsTurn q1761 q1763 qs98 (ci := 6) rfl (by decide) rfl (by omega) (by decide) (sk_65 hs.S) (Nat.le_of_ble_eq_true rfl) (Nat.le_refl _) (Nat.le_refl _) (t_kI hs (tWs_sub rfl) h (fun r8 μ7 hs h => ?_))
      refine g_if_eq (tgt := 108) dX6_turns_88 (by decide) (fun c9 => ?_) (fun c10 => ?_)
      · have h := h.1 c9
        refine g_aload_n (q := 0) dX6_turns_108 rfl rfl ?_
        refine g_getC (x := 96) 2 dX6_turns_109 fX6_120 rfl (by decide) (sk_65 hs.S) (sv_65_66 hs.S) ?_
        refine g_iload_n (q := 1) dX6_turns_112 rfl rfl ?_
        refine g_iconst dX6_turns_113 (by decide) ?_
        refine g_iastore dX6_turns_114 (by decide) (sk_96 hs.S) c5.1 (t_lt (sn_96 hs.S) c5.2) (p_w hs sf_96 (tWs_in _ rfl) fun μ11 eμ11 hs => ?_)
        have h := h μ11 eμ11
        refine g_iinc (q := 3) dX6_turns_115 (by decide) rfl [1, 2, 3, 0] rfl ?_
        refine g_goto (tgt := 56) dX6_turns_118 (by decide) ?_
        exact h
      · have h := h.2 c10
        refine g_aload_n (q := 0) dX6_turns_91 rfl rfl ?_
        refine g_iload_n (q := 1) dX6_turns_92 rfl rfl ?_
        refine g_iconst dX6_turns_93 (by decide) ?_
        refine g_iadd dX6_turns_94 ?_
        refine g_iload_n (q := 2) dX6_turns_95 rfl rfl ?_
        refine g_iconst dX6_turns_96 (by decide) ?_
        refine g_iload_n (q := 3) dX6_turns_97 rfl rfl ?_
        refine g_ishl dX6_turns_98 ?_
        refine g_ior dX6_turns_99 ?_
        refine g_callV2 dX6_turns_100 kX6_turns q1757 q1759 qs97 (ci := 6) rfl (by decide) rfl (by omega) (by decide) (sk_65 hs.S) (Nat.le_of_ble_eq_true rfl) (Nat.le_refl _) (Nat.le_refl _) (t_kI hs (tWs_sub rfl) h (fun r13 μ12 hs h => ?_))
        refine g_if_eq (tgt := 108) dX6_turns_103 (by decide) (fun c14 => ?_) (fun c15 => ?_)
        · have h := h.1 c14
          refine g_aload_n (q := 0) dX6_turns_108 rfl rfl ?_
          refine g_getC (x := 96) 2 dX6_turns_109 fX6_120 rfl (by decide) (sk_65 hs.S) (sv_65_66 hs.S) ?_
          refine g_iload_n (q := 1) dX6_turns_112 rfl rfl ?_
          refine g_iconst dX6_turns_113 (by decide) ?_
          refine g_iastore dX6_turns_114 (by decide) (sk_96 hs.S) c5.1 (t_lt (sn_96 hs.S) c5.2) (p_w hs sf_96 (tWs_in _ rfl) fun μ16 eμ16 hs => ?_)
          have h := h μ16 eμ16
          refine g_iinc (q := 3) dX6_turns_115 (by decide) rfl [1, 2, 3, 0] rfl ?_
          refine g_goto (tgt := 56) dX6_turns_118 (by decide) ?_
          exact h
        · have h := h.2 c15
          refine g_iconst dX6_turns_106 (by decide) ?_
          exact g_zret dX6_turns_107 rfl (by decide) (Nat.le_refl _) (Nat.le_refl _) ⟨_, rfl, hs, h⟩
    · have h := h.2 c4
      refine g_goto (tgt := 115) dX6_turns_73 (by decide) ?_
      refine g_iinc (q := 3) dX6_turns_115 (by decide) rfl [1, 2, 3, 0] rfl ?_
      refine g_goto (tgt := 56) dX6_turns_118 (by decide) ?_
      exact h
theorem uX6_parted_0 {d : Nat} {μ0 μ : tm_M} {K : Int → tm_M → Prop} {v1 v2 v3 : Int} (hd : 2 ≤ d) (hs : tFr wX6_parted μ0 μ)
    (h : (∀ μ1, μ1 = tm_w μ 65 1 0 → (∀ μ2, μ2 = tm_w μ1 65 0 0 → (y_W μ0) ∧ ((¬ (0 ≤ v1 ∧ v1 < tm_v μ0 65 20) → (∀ μ9, μ9 = tm_w μ2 65 0 2 → K (-1) μ9)) ∧ (0 ≤ v1 ∧ v1 < tm_v μ0 65 20 → (¬ (0 ≤ v2 ∧ v2 < tm_v μ0 65 20) → (∀ μ17, μ17 = tm_w μ2 65 0 2 → K (-1) μ17)) ∧ (0 ≤ v2 ∧ v2 < tm_v μ0 65 20 → (v1 ≠ v2 → (0 ≤ v3 ∧ v3 ≤ 1 → (v3 ≠ 0 → hI wX6_parted μ0 mX6_parted d K 75 [(0, 2, 65), (1, 0, v1), (2, 0, v2), (4, 0, 0)] [] μ2) ∧ (v3 = 0 → cI wX6_isBrought mX6_isBrought (d - 1) [(2, 65), (0, v1), (0, v2)] μ2 (fun r30 μ29 => (r30 = 0 → K 1 μ29) ∧ (r30 ≠ 0 → K 0 μ29)))) ∧ (¬ (0 ≤ v3 ∧ v3 ≤ 1) → (∀ μ33, μ33 = tm_w μ2 65 0 5 → K (-1) μ33))) ∧ (v1 = v2 → (∀ μ36, μ36 = tm_w μ2 65 0 2 → K (-1) μ36)))))))) :
    hI wX6_parted μ0 mX6_parted d K 0 [(0, 2, 65), (1, 0, v1), (2, 0, v2), (3, 0, v3)] [] μ := by
  refine g_aload_n (q := 0) dX6_parted_0 rfl rfl ?_
  refine g_iconst dX6_parted_1 (by decide) ?_
  refine g_put dX6_parted_2 fX6_144 rfl (by decide) (sk_65 hs.S) (fun e => absurd e (by decide)) (p_wj hs (by decide) (tWs_inF rfl) fun μ1 eμ1 hs => ?_)
  have h := h μ1 eμ1
  refine g_aload_n (q := 0) dX6_parted_5 rfl rfl ?_
  refine g_iconst dX6_parted_6 (by decide) ?_
  refine g_put dX6_parted_7 fX6_147 rfl (by decide) (sk_65 hs.S) (fun e => absurd e (by decide)) (p_wj hs (by decide) (tWs_inF rfl) fun μ2 eμ2 hs => ?_)
  have h := h μ2 eμ2
  refine g_aload_n (q := 0) dX6_parted_10 rfl rfl ?_
  refine g_iload_n (q := 1) dX6_parted_11 rfl rfl ?_
  obtain ⟨c3, h⟩ := h
  refine g_callV1 dX6_parted_12 kX6_isPlace q1598 q1600 qs75 (ci := 6) rfl (by decide) rfl (by omega) (by decide) (sk_65 hs.S) (Nat.le_of_ble_eq_true rfl) (Nat.le_refl _) (Nat.le_refl _) (t_pI hs (pX6_isPlaceF (by omega) hs (tWs_T rfl) c3) ?_)
  refine g_if_eq (tgt := 31) dX6_parted_15 (by decide) (fun c7 => ?_) (fun c8 => ?_)
  · have h := h.1 (b2i_0.mp c7)
    refine g_aload_n (q := 0) dX6_parted_31 rfl rfl ?_
    refine g_iconst dX6_parted_32 (by decide) ?_
    refine g_callV1 dX6_parted_33 kX6_refuse q1484 q1486 qs53 (ci := 6) rfl (by decide) rfl (by omega) (by decide) (sk_65 hs.S) (Nat.le_of_ble_eq_true rfl) (Nat.le_refl _) (Nat.le_refl _) (t_kI hs (tWs_sub rfl) (pX6_refuse hs.S) (fun r11 μ9 hs e10 => ?_))
    obtain ⟨rfl, e10⟩ := e10
    have h := h μ9 e10
    exact g_iret dX6_parted_36 rfl (Nat.le_refl _) (Nat.le_refl _) ⟨_, rfl, hs, h⟩
  · have h := h.2 (b2i_1.mp c8)
    refine g_aload_n (q := 0) dX6_parted_18 rfl rfl ?_
    refine g_iload_n (q := 2) dX6_parted_19 rfl rfl ?_
    refine g_callV1 dX6_parted_20 kX6_isPlace q1598 q1600 qs75 (ci := 6) rfl (by decide) rfl (by omega) (by decide) (sk_65 hs.S) (Nat.le_of_ble_eq_true rfl) (Nat.le_refl _) (Nat.le_refl _) (t_pI hs (pX6_isPlaceF (by omega) hs (tWs_T rfl) c3) ?_)
    refine g_if_eq (tgt := 31) dX6_parted_23 (by decide) (fun c15 => ?_) (fun c16 => ?_)
    · have h := h.1 (b2i_0.mp c15)
      refine g_aload_n (q := 0) dX6_parted_31 rfl rfl ?_
      refine g_iconst dX6_parted_32 (by decide) ?_
      refine g_callV1 dX6_parted_33 kX6_refuse q1484 q1486 qs53 (ci := 6) rfl (by decide) rfl (by omega) (by decide) (sk_65 hs.S) (Nat.le_of_ble_eq_true rfl) (Nat.le_refl _) (Nat.le_refl _) (t_kI hs (tWs_sub rfl) (pX6_refuse hs.S) (fun r19 μ17 hs e18 => ?_))
      obtain ⟨rfl, e18⟩ := e18
      have h := h μ17 e18
      exact g_iret dX6_parted_36 rfl (Nat.le_refl _) (Nat.le_refl _) ⟨_, rfl, hs, h⟩
    · have h := h.2 (b2i_1.mp c16)
      refine g_iload_n (q := 1) dX6_parted_26 rfl rfl ?_
      refine g_iload_n (q := 2) dX6_parted_27 rfl rfl ?_
      refine g_icmp_ne (tgt := 37) dX6_parted_28 (by decide) (fun c20 => ?_) (fun c21 => ?_)
      · have h := h.1 c20
        refine g_iload_n (q := 3) dX6_parted_37 rfl rfl ?_
        refine g_i2l dX6_parted_38 ?_
        refine g_lconst0 dX6_parted_39 ?_
        refine g_lconst1 dX6_parted_40 ?_
        refine g_callS3 dX6_parted_41 kX6_isIn q1563 q1564 rfl (by omega) (Nat.le_of_ble_eq_true rfl) (Nat.le_refl _) (Nat.le_refl _) (t_pI hs (pX6_isIn hs.S) ?_)
        refine g_if_ne (tgt := 53) dX6_parted_44 (by decide) (fun c25 => ?_) (fun c26 => ?_)
        · have h := h.1 (b2i_1.mp c25)
          refine g_iload_n (q := 3) dX6_parted_53 rfl rfl ?_
          refine g_if_ne (tgt := 72) dX6_parted_54 (by decide) (fun c27 => ?_) (fun c28 => ?_)
          · have h := h.1 c27
            refine g_iconst dX6_parted_72 (by decide) ?_
            refine g_istore (L' := [(0, 2, 65), (1, 0, v1), (2, 0, v2), (3, 0, v3), (4, 0, 0)]) dX6_parted_73 (by decide) [1, 2, 3, 4, 0] rfl ?_
            exact g_less [0, 1, 2, 4] rfl h
          · have h := h.2 c28
            refine g_aload_n (q := 0) dX6_parted_57 rfl rfl ?_
            refine g_iload_n (q := 1) dX6_parted_58 rfl rfl ?_
            refine g_iload_n (q := 2) dX6_parted_59 rfl rfl ?_
            refine g_callV2 dX6_parted_60 kX6_isBrought q1753 q1755 qs96 (ci := 6) rfl (by decide) rfl (by omega) (by decide) (sk_65 hs.S) (Nat.le_of_ble_eq_true rfl) (Nat.le_refl _) (Nat.le_refl _) (t_kI hs (tWs_sub rfl) h (fun r30 μ29 hs h => ?_))
            refine g_if_eq (tgt := 70) dX6_parted_63 (by decide) (fun c31 => ?_) (fun c32 => ?_)
            · have h := h.1 c31
              refine g_iconst dX6_parted_70 (by decide) ?_
              exact g_iret dX6_parted_71 rfl (Nat.le_refl _) (Nat.le_refl _) ⟨_, rfl, hs, h⟩
            · have h := h.2 c32
              refine g_iconst dX6_parted_66 (by decide) ?_
              refine g_goto (tgt := 71) dX6_parted_67 (by decide) ?_
              exact g_iret dX6_parted_71 rfl (Nat.le_refl _) (Nat.le_refl _) ⟨_, rfl, hs, h⟩
        · have h := h.2 (b2i_0.mp c26)
          refine g_aload_n (q := 0) dX6_parted_47 rfl rfl ?_
          refine g_iconst dX6_parted_48 (by decide) ?_
          refine g_callV1 dX6_parted_49 kX6_refuse q1484 q1486 qs53 (ci := 6) rfl (by decide) rfl (by omega) (by decide) (sk_65 hs.S) (Nat.le_of_ble_eq_true rfl) (Nat.le_refl _) (Nat.le_refl _) (t_kI hs (tWs_sub rfl) (pX6_refuse hs.S) (fun r35 μ33 hs e34 => ?_))
          obtain ⟨rfl, e34⟩ := e34
          have h := h μ33 e34
          exact g_iret dX6_parted_52 rfl (Nat.le_refl _) (Nat.le_refl _) ⟨_, rfl, hs, h⟩
      · have h := h.2 c21
        refine g_aload_n (q := 0) dX6_parted_31 rfl rfl ?_
        refine g_iconst dX6_parted_32 (by decide) ?_
        refine g_callV1 dX6_parted_33 kX6_refuse q1484 q1486 qs53 (ci := 6) rfl (by decide) rfl (by omega) (by decide) (sk_65 hs.S) (Nat.le_of_ble_eq_true rfl) (Nat.le_refl _) (Nat.le_refl _) (t_kI hs (tWs_sub rfl) (pX6_refuse hs.S) (fun r38 μ36 hs e37 => ?_))
        obtain ⟨rfl, e37⟩ := e37
        have h := h μ36 e37
        exact g_iret dX6_parted_36 rfl (Nat.le_refl _) (Nat.le_refl _) ⟨_, rfl, hs, h⟩
theorem uX6_parted_75 {d : Nat} {μ0 μ : tm_M} {K : Int → tm_M → Prop} {v1 v2 v4 : Int} (hd : 1 ≤ d) (hs : tFr wX6_parted μ0 μ)
    (h : (tm_v μ0 65 20 ≤ v4 → (0 ≤ v1 ∧ v1 < 8) ∧ ((∀ μ4, μ4 = tm_w μ 96 v1 v2 → (0 ≤ v2 ∧ v2 < 8) ∧ ((∀ μ6, μ6 = tm_w μ4 96 v2 v1 → cI wX6_turns mX6_turns (d - 1) [(2, 65), (0, 0), (0, i_or (i_shl 1 v1) (i_shl 1 v2))] μ6 (fun r8 μ7 => (r8 = 0 → K 0 μ7) ∧ (r8 ≠ 0 → K 1 μ7))))))) ∧ (v4 < tm_v μ0 65 20 → (0 ≤ v4 ∧ v4 < 8) ∧ ((∀ μ12, μ12 = tm_w μ 96 v4 (-1) → hI wX6_parted μ0 mX6_parted d K 75 [(0, 2, 65), (1, 0, v1), (2, 0, v2), (4, 0, w32 (v4 + 1))] [] μ12)))) :
    hI wX6_parted μ0 mX6_parted d K 75 [(0, 2, 65), (1, 0, v1), (2, 0, v2), (4, 0, v4)] [] μ := by
  refine g_iload (q := 3) dX6_parted_75 rfl ?_
  refine g_aload_n (q := 0) dX6_parted_77 rfl rfl ?_
  refine g_getC (x := tm_v μ0 65 20) 0 dX6_parted_78 fX6_326 rfl (by decide) (sk_65 hs.S) (hs.v (tWs_noF rfl)) ?_
  refine g_icmp_ge (tgt := 98) dX6_parted_81 (by decide) (fun c1 => ?_) (fun c2 => ?_)
  · have h := h.1 c1
    refine g_aload_n (q := 0) dX6_parted_98 rfl rfl ?_
    refine g_getC (x := 96) 2 dX6_parted_99 fX6_120 rfl (by decide) (sk_65 hs.S) (sv_65_66 hs.S) ?_
    refine g_iload_n (q := 1) dX6_parted_102 rfl rfl ?_
    refine g_iload_n (q := 2) dX6_parted_103 rfl rfl ?_
    obtain ⟨c3, h⟩ := h
    refine g_iastore dX6_parted_104 (by decide) (sk_96 hs.S) c3.1 (t_lt (sn_96 hs.S) c3.2) (p_w hs sf_96 (tWs_in _ rfl) fun μ4 eμ4 hs => ?_)
    have h := h μ4 eμ4
    refine g_aload_n (q := 0) dX6_parted_105 rfl rfl ?_
    refine g_getC (x := 96) 2 dX6_parted_106 fX6_120 rfl (by decide) (sk_65 hs.S) (sv_65_66 hs.S) ?_
    refine g_iload_n (q := 2) dX6_parted_109 rfl rfl ?_
    refine g_iload_n (q := 1) dX6_parted_110 rfl rfl ?_
    obtain ⟨c5, h⟩ := h
    refine g_iastore dX6_parted_111 (by decide) (sk_96 hs.S) c5.1 (t_lt (sn_96 hs.S) c5.2) (p_w hs sf_96 (tWs_in _ rfl) fun μ6 eμ6 hs => ?_)
    have h := h μ6 eμ6
    refine g_aload_n (q := 0) dX6_parted_112 rfl rfl ?_
    refine g_iconst dX6_parted_113 (by decide) ?_
    refine g_iconst dX6_parted_114 (by decide) ?_
    refine g_iload_n (q := 1) dX6_parted_115 rfl rfl ?_
    refine g_ishl dX6_parted_116 ?_
    refine g_iconst dX6_parted_117 (by decide) ?_
    refine g_iload_n (q := 2) dX6_parted_118 rfl rfl ?_
    refine g_ishl dX6_parted_119 ?_
    refine g_ior dX6_parted_120 ?_
    refine g_callV2 dX6_parted_121 kX6_turns q1757 q1759 qs97 (ci := 6) rfl (by decide) rfl (by omega) (by decide) (sk_65 hs.S) (Nat.le_of_ble_eq_true rfl) (Nat.le_refl _) (Nat.le_refl _) (t_kI hs (tWs_sub rfl) h (fun r8 μ7 hs h => ?_))
    refine g_if_eq (tgt := 131) dX6_parted_124 (by decide) (fun c9 => ?_) (fun c10 => ?_)
    · have h := h.1 c9
      refine g_iconst dX6_parted_131 (by decide) ?_
      exact g_iret dX6_parted_132 rfl (Nat.le_refl _) (Nat.le_refl _) ⟨_, rfl, hs, h⟩
    · have h := h.2 c10
      refine g_iconst dX6_parted_127 (by decide) ?_
      refine g_goto (tgt := 132) dX6_parted_128 (by decide) ?_
      exact g_iret dX6_parted_132 rfl (Nat.le_refl _) (Nat.le_refl _) ⟨_, rfl, hs, h⟩
  · have h := h.2 c2
    refine g_aload_n (q := 0) dX6_parted_84 rfl rfl ?_
    refine g_getC (x := 96) 2 dX6_parted_85 fX6_120 rfl (by decide) (sk_65 hs.S) (sv_65_66 hs.S) ?_
    refine g_iload (q := 3) dX6_parted_88 rfl ?_
    refine g_iconst dX6_parted_90 (by decide) ?_
    obtain ⟨c11, h⟩ := h
    refine g_iastore dX6_parted_91 (by decide) (sk_96 hs.S) c11.1 (t_lt (sn_96 hs.S) c11.2) (p_w hs sf_96 (tWs_in _ rfl) fun μ12 eμ12 hs => ?_)
    have h := h μ12 eμ12
    refine g_iinc (q := 3) dX6_parted_92 (by decide) rfl [1, 2, 3, 0] rfl ?_
    refine g_goto (tgt := 75) dX6_parted_95 (by decide) ?_
    exact h
theorem uX6_play_0 {d : Nat} {μ0 μ : tm_M} {K : Int → tm_M → Prop} {v1 v2 v3 v4 v5 : Int} (hd : 1 ≤ d) (hs : tFr wX6_play μ0 μ)
    (h : (∀ μ1, μ1 = tm_w (tm_w (tm_w μ 85 0 v3) 86 0 0) 87 0 0 → (∀ μ3, μ3 = tm_w (tm_w (tm_w μ1 85 1 v4) 86 1 0) 87 1 0 → hI wX6_play μ0 mX6_play d K 16 [(0, 2, 65), (1, 0, v1), (2, 0, v2), (5, 0, v5), (6, 0, 0)] [] μ3))) :
    hI wX6_play μ0 mX6_play d K 0 [(0, 2, 65), (1, 0, v1), (2, 0, v2), (3, 0, v3), (4, 0, v4), (5, 0, v5)] [] μ := by
  refine g_aload_n (q := 0) dX6_play_0 rfl rfl ?_
  refine g_iconst dX6_play_1 (by decide) ?_
  refine g_iload_n (q := 3) dX6_play_2 rfl rfl ?_
  refine g_callV2 dX6_play_3 kX6_begin q1659 q1661 qs83 (ci := 6) rfl (by decide) rfl (by omega) (by decide) (sk_65 hs.S) (Nat.le_of_ble_eq_true rfl) (Nat.le_refl _) (Nat.le_refl _) (t_kV hs (tWs_sub rfl) (pX6_begin (by decide) hs.S) (fun μ1 hs e2 => ?_))
  have h := h μ1 e2
  refine g_aload_n (q := 0) dX6_play_6 rfl rfl ?_
  refine g_iconst dX6_play_7 (by decide) ?_
  refine g_iload (q := 4) dX6_play_8 rfl ?_
  refine g_callV2 dX6_play_10 kX6_begin q1659 q1661 qs83 (ci := 6) rfl (by decide) rfl (by omega) (by decide) (sk_65 hs.S) (Nat.le_of_ble_eq_true rfl) (Nat.le_refl _) (Nat.le_refl _) (t_kV hs (tWs_sub rfl) (pX6_begin (by decide) hs.S) (fun μ3 hs e4 => ?_))
  have h := h μ3 e4
  refine g_iconst dX6_play_13 (by decide) ?_
  refine g_istore (L' := [(0, 2, 65), (1, 0, v1), (2, 0, v2), (3, 0, v3), (4, 0, v4), (5, 0, v5), (6, 0, 0)]) dX6_play_14 (by decide) [1, 2, 3, 4, 5, 6, 0] rfl ?_
  exact g_less [0, 1, 2, 5, 6] rfl h
theorem uX6_play_16 {d : Nat} {μ0 μ : tm_M} {K : Int → tm_M → Prop} {v1 v2 v5 v6 : Int} (hd : 3 ≤ d) (hs : tFr wX6_play μ0 μ)
    (h : (v5 ≤ v6 → K (w32 ((w32 (8 * (tm_v μ 85 0))) + (tm_v μ 85 1))) μ) ∧ (v6 < v5 → (∀ x3, x3 = tm_v μ 85 0 → (∀ x4, x4 = tm_v μ 85 1 → cI wX6_stepOf mX6_stepOf (d - 1) [(2, 65), (0, v1), (0, 0), (0, x3)] μ (fun r6 μ5 => (y_p μ0 x3 ∧ 0 ≤ r6 ∧ r6 ≤ 4) ∧ ((∀ μ11, μ11 = tm_w μ5 85 0 (y_go μ0 x3 r6) → cI wX6_stepOf mX6_stepOf (d - 1) [(2, 65), (0, v2), (0, 1), (0, x4)] μ11 (fun r13 μ12 => (y_p μ0 x4 ∧ 0 ≤ r13 ∧ r13 ≤ 4) ∧ ((∀ μ18, μ18 = tm_w μ12 85 1 (y_go μ0 x4 r13) → (¬ ((tm_v μ18 85 0) = (tm_v μ18 85 1) ∨ (tm_v μ0 65 28 ≠ 0 ∧ (tm_v μ18 85 0) = x4 ∧ (tm_v μ18 85 1) = x3)) → hI wX6_play μ0 mX6_play d K 16 [(0, 2, 65), (1, 0, v1), (2, 0, v2), (5, 0, v5), (6, 0, w32 (v6 + 1))] [] μ18) ∧ ((tm_v μ18 85 0) = (tm_v μ18 85 1) ∨ (tm_v μ0 65 28 ≠ 0 ∧ (tm_v μ18 85 0) = x4 ∧ (tm_v μ18 85 1) = x3) → K (-1) μ18))))))))))) :
    hI wX6_play μ0 mX6_play d K 16 [(0, 2, 65), (1, 0, v1), (2, 0, v2), (5, 0, v5), (6, 0, v6)] [] μ := by
  refine g_iload (q := 4) dX6_play_16 rfl ?_
  refine g_iload (q := 3) dX6_play_18 rfl ?_
  refine g_icmp_ge (tgt := 110) dX6_play_20 (by decide) (fun c1 => ?_) (fun c2 => ?_)
  · have h := h.1 c1
    refine g_bipush dX6_play_110 ⟨by decide, by decide, rfl⟩ ?_
    refine g_aload_n (q := 0) dX6_play_112 rfl rfl ?_
    refine g_getC (x := 85) 2 dX6_play_113 fX6_84 rfl (by decide) (sk_65 hs.S) (sv_65_47 hs.S) ?_
    refine g_iconst dX6_play_116 (by decide) ?_
    refine g_iaload dX6_play_117 (by decide) (sk_85 hs.S) (by decide) (t_lt (sn_85 hs.S) (by decide)) ?_
    refine g_imul dX6_play_118 ?_
    refine g_aload_n (q := 0) dX6_play_119 rfl rfl ?_
    refine g_getC (x := 85) 2 dX6_play_120 fX6_84 rfl (by decide) (sk_65 hs.S) (sv_65_47 hs.S) ?_
    refine g_iconst dX6_play_123 (by decide) ?_
    refine g_iaload dX6_play_124 (by decide) (sk_85 hs.S) (by decide) (t_lt (sn_85 hs.S) (by decide)) ?_
    refine g_iadd dX6_play_125 ?_
    exact g_iret dX6_play_126 rfl (Nat.le_refl _) (Nat.le_refl _) ⟨_, rfl, hs, h⟩
  · have h := h.2 c2
    refine g_aload_n (q := 0) dX6_play_23 rfl rfl ?_
    refine g_getC (x := 85) 2 dX6_play_24 fX6_84 rfl (by decide) (sk_65 hs.S) (sv_65_47 hs.S) ?_
    refine g_iconst dX6_play_27 (by decide) ?_
    refine g_iaload dX6_play_28 (by decide) (sk_85 hs.S) (by decide) (t_lt (sn_85 hs.S) (by decide)) ?_
    refine g_istoreN (fun z => [(0, 2, 65), (1, 0, v1), (2, 0, v2), (5, 0, v5), (6, 0, v6), (7, 0, z)]) dX6_play_29 (by decide) [1, 2, 3, 4, 5, 0] (fun _ => rfl) (fun x3 ex3 => ?_)
    have h := h x3 ex3
    refine g_aload_n (q := 0) dX6_play_31 rfl rfl ?_
    refine g_getC (x := 85) 2 dX6_play_32 fX6_84 rfl (by decide) (sk_65 hs.S) (sv_65_47 hs.S) ?_
    refine g_iconst dX6_play_35 (by decide) ?_
    refine g_iaload dX6_play_36 (by decide) (sk_85 hs.S) (by decide) (t_lt (sn_85 hs.S) (by decide)) ?_
    refine g_istoreN (fun z => [(0, 2, 65), (1, 0, v1), (2, 0, v2), (5, 0, v5), (6, 0, v6), (7, 0, x3), (8, 0, z)]) dX6_play_37 (by decide) [1, 2, 3, 4, 5, 6, 0] (fun _ => rfl) (fun x4 ex4 => ?_)
    have h := h x4 ex4
    refine g_aload_n (q := 0) dX6_play_39 rfl rfl ?_
    refine g_getC (x := 85) 2 dX6_play_40 fX6_84 rfl (by decide) (sk_65 hs.S) (sv_65_47 hs.S) ?_
    refine g_iconst dX6_play_43 (by decide) ?_
    refine g_aload_n (q := 0) dX6_play_44 rfl rfl ?_
    refine g_iload (q := 5) dX6_play_45 rfl ?_
    refine g_aload_n (q := 0) dX6_play_47 rfl rfl ?_
    refine g_iload_n (q := 1) dX6_play_48 rfl rfl ?_
    refine g_iconst dX6_play_49 (by decide) ?_
    refine g_iload (q := 5) dX6_play_50 rfl ?_
    refine g_callV3 dX6_play_52 kX6_stepOf q1671 q1673 qs86 (ci := 6) rfl (by decide) rfl (by omega) (by decide) (sk_65 hs.S) (Nat.le_of_ble_eq_true rfl) (Nat.le_refl _) (Nat.le_refl _) (t_kI hs (tWs_sub rfl) h (fun r6 μ5 hs h => ?_))
    obtain ⟨c7, h⟩ := h
    refine g_callV2 dX6_play_55 kX6_go q1675 q1677 qs87 (ci := 6) rfl (by decide) rfl (by omega) (by decide) (sk_65 hs.S) (Nat.le_of_ble_eq_true rfl) (Nat.le_refl _) (Nat.le_refl _) (t_pI hs (pX6_goF (by omega) hs (tWs_T rfl) c7) ?_)
    refine g_iastore dX6_play_58 (by decide) (sk_85 hs.S) (by decide) (t_lt (sn_85 hs.S) (by decide)) (p_w hs sf_85 (tWs_in _ rfl) fun μ11 eμ11 hs => ?_)
    have h := h μ11 eμ11
    refine g_aload_n (q := 0) dX6_play_59 rfl rfl ?_
    refine g_getC (x := 85) 2 dX6_play_60 fX6_84 rfl (by decide) (sk_65 hs.S) (sv_65_47 hs.S) ?_
    refine g_iconst dX6_play_63 (by decide) ?_
    refine g_aload_n (q := 0) dX6_play_64 rfl rfl ?_
    refine g_iload (q := 6) dX6_play_65 rfl ?_
    refine g_aload_n (q := 0) dX6_play_67 rfl rfl ?_
    refine g_iload_n (q := 2) dX6_play_68 rfl rfl ?_
    refine g_iconst dX6_play_69 (by decide) ?_
    refine g_iload (q := 6) dX6_play_70 rfl ?_
    refine g_callV3 dX6_play_72 kX6_stepOf q1671 q1673 qs86 (ci := 6) rfl (by decide) rfl (by omega) (by decide) (sk_65 hs.S) (Nat.le_of_ble_eq_true rfl) (Nat.le_refl _) (Nat.le_refl _) (t_kI hs (tWs_sub rfl) h (fun r13 μ12 hs h => ?_))
    obtain ⟨c14, h⟩ := h
    refine g_callV2 dX6_play_75 kX6_go q1675 q1677 qs87 (ci := 6) rfl (by decide) rfl (by omega) (by decide) (sk_65 hs.S) (Nat.le_of_ble_eq_true rfl) (Nat.le_refl _) (Nat.le_refl _) (t_pI hs (pX6_goF (by omega) hs (tWs_T rfl) c14) ?_)
    refine g_iastore dX6_play_78 (by decide) (sk_85 hs.S) (by decide) (t_lt (sn_85 hs.S) (by decide)) (p_w hs sf_85 (tWs_in _ rfl) fun μ18 eμ18 hs => ?_)
    have h := h μ18 eμ18
    refine g_aload_n (q := 0) dX6_play_79 rfl rfl ?_
    refine g_aload_n (q := 0) dX6_play_80 rfl rfl ?_
    refine g_getC (x := 85) 2 dX6_play_81 fX6_84 rfl (by decide) (sk_65 hs.S) (sv_65_47 hs.S) ?_
    refine g_iconst dX6_play_84 (by decide) ?_
    refine g_iaload dX6_play_85 (by decide) (sk_85 hs.S) (by decide) (t_lt (sn_85 hs.S) (by decide)) ?_
    refine g_aload_n (q := 0) dX6_play_86 rfl rfl ?_
    refine g_getC (x := 85) 2 dX6_play_87 fX6_84 rfl (by decide) (sk_65 hs.S) (sv_65_47 hs.S) ?_
    refine g_iconst dX6_play_90 (by decide) ?_
    refine g_iaload dX6_play_91 (by decide) (sk_85 hs.S) (by decide) (t_lt (sn_85 hs.S) (by decide)) ?_
    refine g_iload (q := 5) dX6_play_92 rfl ?_
    refine g_iload (q := 6) dX6_play_94 rfl ?_
    refine g_callV4 dX6_play_96 kX6_meets q1683 q1685 qs89 (ci := 6) rfl (by decide) rfl (by omega) (by decide) (sk_65 hs.S) (Nat.le_of_ble_eq_true rfl) (Nat.le_refl _) (Nat.le_refl _) (t_pI hs (pX6_meetsF hs (tWs_T rfl)) ?_)
    refine g_if_eq (tgt := 104) dX6_play_99 (by decide) (fun c22 => ?_) (fun c23 => ?_)
    · have h := h.1 (b2i_0.mp c22)
      refine g_iinc (q := 4) dX6_play_104 (by decide) rfl [1, 2, 3, 4, 0, 5, 6] rfl ?_
      refine g_goto (tgt := 16) dX6_play_107 (by decide) ?_
      exact g_less [0, 1, 2, 3, 4] rfl h
    · have h := h.2 (b2i_1.mp c23)
      refine g_iconst dX6_play_102 (by decide) ?_
      exact g_iret dX6_play_103 rfl (Nat.le_refl _) (Nat.le_refl _) ⟨_, rfl, hs, h⟩
theorem uX6_metOf_0 {d : Nat} {μ0 μ : tm_M} {K : Int → tm_M → Prop} {v1 v2 v3 v4 v5 : Int} (hs : tFr wX6_metOf μ0 μ)
    (h : hLo wX6_metOf μ0 mX6_metOf d K 6 [(0, 2, 65), (1, 0, v1), (2, 0, v2), (3, 0, v3), (4, 0, v4), (5, 0, v5), (6, 1, 0), (8, 0, 0)] [] μ) :
    hLo wX6_metOf μ0 mX6_metOf d K 0 [(0, 2, 65), (1, 0, v1), (2, 0, v2), (3, 0, v3), (4, 0, v4), (5, 0, v5)] [] μ := by
  refine g_lconst0 dX6_metOf_0 ?_
  refine g_lstore (L' := [(0, 2, 65), (1, 0, v1), (2, 0, v2), (3, 0, v3), (4, 0, v4), (5, 0, v5), (6, 1, 0)]) dX6_metOf_1 (by decide) [1, 2, 3, 4, 5, 6, 0] rfl ?_
  refine g_iconst dX6_metOf_3 (by decide) ?_
  refine g_istore (L' := [(0, 2, 65), (1, 0, v1), (2, 0, v2), (3, 0, v3), (4, 0, v4), (5, 0, v5), (6, 1, 0), (8, 0, 0)]) dX6_metOf_4 (by decide) [1, 2, 3, 4, 5, 6, 7, 0] rfl ?_
  exact h
theorem uX6_metOf_6 {d : Nat} {μ0 μ : tm_M} {K : Int → tm_M → Prop} {v1 v2 v3 v4 v5 v6 v8 : Int} (hs : tFr wX6_metOf μ0 μ)
    (h : (8 ≤ v8 → hLo wX6_metOf μ0 mX6_metOf d K 129 [(0, 2, 65), (1, 0, v1), (2, 0, v2), (3, 0, v3), (4, 0, v4), (5, 0, v5), (6, 1, v6), (8, 0, 0)] [] μ) ∧ (v8 < 8 → hLo wX6_metOf μ0 mX6_metOf d K 16 [(0, 2, 65), (1, 0, v1), (2, 0, v2), (3, 0, v3), (4, 0, v4), (5, 0, v5), (6, 1, v6), (8, 0, v8), (9, 0, 0)] [] μ)) :
    hLo wX6_metOf μ0 mX6_metOf d K 6 [(0, 2, 65), (1, 0, v1), (2, 0, v2), (3, 0, v3), (4, 0, v4), (5, 0, v5), (6, 1, v6), (8, 0, v8)] [] μ := by
  refine g_iload (q := 7) dX6_metOf_6 rfl ?_
  refine g_bipush dX6_metOf_8 ⟨by decide, by decide, rfl⟩ ?_
  refine g_icmp_ge (tgt := 126) dX6_metOf_10 (by decide) (fun c1 => ?_) (fun c2 => ?_)
  · have h := h.1 c1
    refine g_iconst dX6_metOf_126 (by decide) ?_
    refine g_istore (L' := [(0, 2, 65), (1, 0, v1), (2, 0, v2), (3, 0, v3), (4, 0, v4), (5, 0, v5), (6, 1, v6), (8, 0, 0)]) dX6_metOf_127 (by decide) [1, 2, 3, 4, 5, 6, 7, 0] rfl ?_
    exact h
  · have h := h.2 c2
    refine g_iconst dX6_metOf_13 (by decide) ?_
    refine g_istore (L' := [(0, 2, 65), (1, 0, v1), (2, 0, v2), (3, 0, v3), (4, 0, v4), (5, 0, v5), (6, 1, v6), (8, 0, v8), (9, 0, 0)]) dX6_metOf_14 (by decide) [1, 2, 3, 4, 5, 6, 7, 8, 0] rfl ?_
    exact h
theorem uX6_metOf_16 {d : Nat} {μ0 μ : tm_M} {K : Int → tm_M → Prop} {v1 v2 v3 v4 v5 v6 v8 v9 : Int} (hd : 1 ≤ d) (hs : tFr wX6_metOf μ0 μ)
    (h : (8 ≤ v9 → hLo wX6_metOf μ0 mX6_metOf d K 6 [(0, 2, 65), (1, 0, v1), (2, 0, v2), (3, 0, v3), (4, 0, v4), (5, 0, v5), (6, 1, v6), (8, 0, w32 (v8 + 1))] [] μ) ∧ (v9 < 8 → (tm_v μ0 65 20 ≤ v8 → (0 ≤ w32 ((w32 (8 * v8)) + v9) ∧ w32 ((w32 (8 * v8)) + v9) < 64) ∧ ((∀ μ8, μ8 = tm_w μ 97 (w32 ((w32 (8 * v8)) + v9)) 0 → (∀ x11, x11 = w64 (v6 + 0) → hLo wX6_metOf μ0 mX6_metOf d K 16 [(0, 2, 65), (1, 0, v1), (2, 0, v2), (3, 0, v3), (4, 0, v4), (5, 0, v5), (6, 1, x11), (8, 0, v8), (9, 0, w32 (v9 + 1))] [] μ8)))) ∧ (v8 < tm_v μ0 65 20 → (tm_v μ0 65 20 ≤ v9 → (0 ≤ w32 ((w32 (8 * v8)) + v9) ∧ w32 ((w32 (8 * v8)) + v9) < 64) ∧ ((∀ μ17, μ17 = tm_w μ 97 (w32 ((w32 (8 * v8)) + v9)) 0 → (∀ x20, x20 = w64 (v6 + 0) → hLo wX6_metOf μ0 mX6_metOf d K 16 [(0, 2, 65), (1, 0, v1), (2, 0, v2), (3, 0, v3), (4, 0, v4), (5, 0, v5), (6, 1, x20), (8, 0, v8), (9, 0, w32 (v9 + 1))] [] μ17)))) ∧ (v9 < tm_v μ0 65 20 → (v8 = v9 → (0 ≤ w32 ((w32 (8 * v8)) + v9) ∧ w32 ((w32 (8 * v8)) + v9) < 64) ∧ ((∀ μ26, μ26 = tm_w μ 97 (w32 ((w32 (8 * v8)) + v9)) 0 → (v8 ≠ v9 → (∀ x31, x31 = w64 (v6 + 0) → hLo wX6_metOf μ0 mX6_metOf d K 16 [(0, 2, 65), (1, 0, v1), (2, 0, v2), (3, 0, v3), (4, 0, v4), (5, 0, v5), (6, 1, x31), (8, 0, v8), (9, 0, w32 (v9 + 1))] [] μ26)) ∧ (v8 = v9 → (y_p μ0 v8 ∧ y_p μ0 v9) ∧ ((∀ x36, x36 = w64 (v6 + (y_likely μ0 v8 v9)) → hLo wX6_metOf μ0 mX6_metOf d K 16 [(0, 2, 65), (1, 0, v1), (2, 0, v2), (3, 0, v3), (4, 0, v4), (5, 0, v5), (6, 1, x36), (8, 0, v8), (9, 0, w32 (v9 + 1))] [] μ26)))))) ∧ (v8 ≠ v9 → (y_p μ0 v8 ∧ y_p μ0 v9) ∧ ((0 ≤ w32 ((w32 (8 * v8)) + v9) ∧ w32 ((w32 (8 * v8)) + v9) < 64) ∧ ((∀ μ42, μ42 = tm_w μ 97 (w32 ((w32 (8 * v8)) + v9)) (y_likely μ0 v8 v9) → (v8 ≠ v9 → (∀ x47, x47 = w64 (v6 + 0) → hLo wX6_metOf μ0 mX6_metOf d K 16 [(0, 2, 65), (1, 0, v1), (2, 0, v2), (3, 0, v3), (4, 0, v4), (5, 0, v5), (6, 1, x47), (8, 0, v8), (9, 0, w32 (v9 + 1))] [] μ42)) ∧ (v8 = v9 → (∀ x51, x51 = w64 (v6 + (y_likely μ0 v8 v9)) → hLo wX6_metOf μ0 mX6_metOf d K 16 [(0, 2, 65), (1, 0, v1), (2, 0, v2), (3, 0, v3), (4, 0, v4), (5, 0, v5), (6, 1, x51), (8, 0, v8), (9, 0, w32 (v9 + 1))] [] μ42)))))))))) :
    hLo wX6_metOf μ0 mX6_metOf d K 16 [(0, 2, 65), (1, 0, v1), (2, 0, v2), (3, 0, v3), (4, 0, v4), (5, 0, v5), (6, 1, v6), (8, 0, v8), (9, 0, v9)] [] μ := by
  refine g_iload (q := 8) dX6_metOf_16 rfl ?_
  refine g_bipush dX6_metOf_18 ⟨by decide, by decide, rfl⟩ ?_
  refine g_icmp_ge (tgt := 120) dX6_metOf_20 (by decide) (fun c1 => ?_) (fun c2 => ?_)
  · have h := h.1 c1
    refine g_iinc (q := 7) dX6_metOf_120 (by decide) rfl [1, 2, 3, 4, 5, 6, 7, 0, 8] rfl ?_
    refine g_goto (tgt := 6) dX6_metOf_123 (by decide) ?_
    exact g_less [0, 1, 2, 3, 4, 5, 6, 7] rfl h
  · have h := h.2 c2
    refine g_iload (q := 7) dX6_metOf_23 rfl ?_
    refine g_aload_n (q := 0) dX6_metOf_25 rfl rfl ?_
    refine g_getC (x := tm_v μ0 65 20) 0 dX6_metOf_26 fX6_326 rfl (by decide) (sk_65 hs.S) (hs.v (tWs_noF rfl)) ?_
    refine g_icmp_ge (tgt := 45) dX6_metOf_29 (by decide) (fun c3 => ?_) (fun c4 => ?_)
    · have h := h.1 c3
      refine g_iconst dX6_metOf_45 (by decide) ?_
      refine g_istore (L' := [(0, 2, 65), (1, 0, v1), (2, 0, v2), (3, 0, v3), (4, 0, v4), (5, 0, v5), (6, 1, v6), (8, 0, v8), (9, 0, v9), (10, 0, 0)]) dX6_metOf_46 (by decide) [1, 2, 3, 4, 5, 6, 7, 8, 9, 0] rfl ?_
      refine g_aload_n (q := 0) dX6_metOf_48 rfl rfl ?_
      refine g_getC (x := 97) 2 dX6_metOf_49 fX6_123 rfl (by decide) (sk_65 hs.S) (sv_65_67 hs.S) ?_
      refine g_bipush dX6_metOf_52 ⟨by decide, by decide, rfl⟩ ?_
      refine g_iload (q := 7) dX6_metOf_54 rfl ?_
      refine g_imul dX6_metOf_56 ?_
      refine g_iload (q := 8) dX6_metOf_57 rfl ?_
      refine g_iadd dX6_metOf_59 ?_
      refine g_iload (q := 9) dX6_metOf_60 rfl ?_
      refine g_if_eq (tgt := 83) dX6_metOf_62 (by decide) (fun c5 => ?_) (fun c6 => ?_)
      · refine g_lconst0 dX6_metOf_83 ?_
        obtain ⟨c7, h⟩ := h
        refine g_lastore dX6_metOf_84 (by decide) (sk_97 hs.S) c7.1 (t_lt (sn_97 hs.S) c7.2) (p_w hs sf_97 (tWs_in _ rfl) fun μ8 eμ8 hs => ?_)
        have h := h μ8 eμ8
        refine g_lload (q := 6) dX6_metOf_85 rfl ?_
        refine g_iload (q := 9) dX6_metOf_87 rfl ?_
        refine g_if_eq (tgt := 110) dX6_metOf_89 (by decide) (fun c9 => ?_) (fun c10 => ?_)
        · refine g_lconst0 dX6_metOf_110 ?_
          refine g_ladd dX6_metOf_111 ?_
          refine g_lstoreN (fun z => [(0, 2, 65), (1, 0, v1), (2, 0, v2), (3, 0, v3), (4, 0, v4), (5, 0, v5), (6, 1, z), (8, 0, v8), (9, 0, v9), (10, 0, 0)]) dX6_metOf_112 (by decide) [1, 2, 3, 4, 5, 6, 0, 7, 8, 9] (fun _ => rfl) (fun x11 ex11 => ?_)
          have h := h x11 ex11
          refine g_iinc (q := 8) dX6_metOf_114 (by decide) rfl [1, 2, 3, 4, 5, 6, 7, 8, 0, 9] rfl ?_
          refine g_goto (tgt := 16) dX6_metOf_117 (by decide) ?_
          exact g_less [0, 1, 2, 3, 4, 5, 6, 7, 8] rfl h
        · exact absurd c10 (by decide)
      · exact absurd c6 (by decide)
    · have h := h.2 c4
      refine g_iload (q := 8) dX6_metOf_32 rfl ?_
      refine g_aload_n (q := 0) dX6_metOf_34 rfl rfl ?_
      refine g_getC (x := tm_v μ0 65 20) 0 dX6_metOf_35 fX6_326 rfl (by decide) (sk_65 hs.S) (hs.v (tWs_noF rfl)) ?_
      refine g_icmp_ge (tgt := 45) dX6_metOf_38 (by decide) (fun c12 => ?_) (fun c13 => ?_)
      · have h := h.1 c12
        refine g_iconst dX6_metOf_45 (by decide) ?_
        refine g_istore (L' := [(0, 2, 65), (1, 0, v1), (2, 0, v2), (3, 0, v3), (4, 0, v4), (5, 0, v5), (6, 1, v6), (8, 0, v8), (9, 0, v9), (10, 0, 0)]) dX6_metOf_46 (by decide) [1, 2, 3, 4, 5, 6, 7, 8, 9, 0] rfl ?_
        refine g_aload_n (q := 0) dX6_metOf_48 rfl rfl ?_
        refine g_getC (x := 97) 2 dX6_metOf_49 fX6_123 rfl (by decide) (sk_65 hs.S) (sv_65_67 hs.S) ?_
        refine g_bipush dX6_metOf_52 ⟨by decide, by decide, rfl⟩ ?_
        refine g_iload (q := 7) dX6_metOf_54 rfl ?_
        refine g_imul dX6_metOf_56 ?_
        refine g_iload (q := 8) dX6_metOf_57 rfl ?_
        refine g_iadd dX6_metOf_59 ?_
        refine g_iload (q := 9) dX6_metOf_60 rfl ?_
        refine g_if_eq (tgt := 83) dX6_metOf_62 (by decide) (fun c14 => ?_) (fun c15 => ?_)
        · refine g_lconst0 dX6_metOf_83 ?_
          obtain ⟨c16, h⟩ := h
          refine g_lastore dX6_metOf_84 (by decide) (sk_97 hs.S) c16.1 (t_lt (sn_97 hs.S) c16.2) (p_w hs sf_97 (tWs_in _ rfl) fun μ17 eμ17 hs => ?_)
          have h := h μ17 eμ17
          refine g_lload (q := 6) dX6_metOf_85 rfl ?_
          refine g_iload (q := 9) dX6_metOf_87 rfl ?_
          refine g_if_eq (tgt := 110) dX6_metOf_89 (by decide) (fun c18 => ?_) (fun c19 => ?_)
          · refine g_lconst0 dX6_metOf_110 ?_
            refine g_ladd dX6_metOf_111 ?_
            refine g_lstoreN (fun z => [(0, 2, 65), (1, 0, v1), (2, 0, v2), (3, 0, v3), (4, 0, v4), (5, 0, v5), (6, 1, z), (8, 0, v8), (9, 0, v9), (10, 0, 0)]) dX6_metOf_112 (by decide) [1, 2, 3, 4, 5, 6, 0, 7, 8, 9] (fun _ => rfl) (fun x20 ex20 => ?_)
            have h := h x20 ex20
            refine g_iinc (q := 8) dX6_metOf_114 (by decide) rfl [1, 2, 3, 4, 5, 6, 7, 8, 0, 9] rfl ?_
            refine g_goto (tgt := 16) dX6_metOf_117 (by decide) ?_
            exact g_less [0, 1, 2, 3, 4, 5, 6, 7, 8] rfl h
          · exact absurd c19 (by decide)
        · exact absurd c15 (by decide)
      · have h := h.2 c13
        refine g_iconst dX6_metOf_41 (by decide) ?_
        refine g_goto (tgt := 46) dX6_metOf_42 (by decide) ?_
        refine g_istore (L' := [(0, 2, 65), (1, 0, v1), (2, 0, v2), (3, 0, v3), (4, 0, v4), (5, 0, v5), (6, 1, v6), (8, 0, v8), (9, 0, v9), (10, 0, 1)]) dX6_metOf_46 (by decide) [1, 2, 3, 4, 5, 6, 7, 8, 9, 0] rfl ?_
        refine g_aload_n (q := 0) dX6_metOf_48 rfl rfl ?_
        refine g_getC (x := 97) 2 dX6_metOf_49 fX6_123 rfl (by decide) (sk_65 hs.S) (sv_65_67 hs.S) ?_
        refine g_bipush dX6_metOf_52 ⟨by decide, by decide, rfl⟩ ?_
        refine g_iload (q := 7) dX6_metOf_54 rfl ?_
        refine g_imul dX6_metOf_56 ?_
        refine g_iload (q := 8) dX6_metOf_57 rfl ?_
        refine g_iadd dX6_metOf_59 ?_
        refine g_iload (q := 9) dX6_metOf_60 rfl ?_
        refine g_if_eq (tgt := 83) dX6_metOf_62 (by decide) (fun c21 => ?_) (fun c22 => ?_)
        · exact absurd c21 (by decide)
        · refine g_iload (q := 7) dX6_metOf_65 rfl ?_
          refine g_iload (q := 8) dX6_metOf_67 rfl ?_
          refine g_icmp_eq (tgt := 83) dX6_metOf_69 (by decide) (fun c23 => ?_) (fun c24 => ?_)
          · have h := h.1 c23
            refine g_lconst0 dX6_metOf_83 ?_
            obtain ⟨c25, h⟩ := h
            refine g_lastore dX6_metOf_84 (by decide) (sk_97 hs.S) c25.1 (t_lt (sn_97 hs.S) c25.2) (p_w hs sf_97 (tWs_in _ rfl) fun μ26 eμ26 hs => ?_)
            have h := h μ26 eμ26
            refine g_lload (q := 6) dX6_metOf_85 rfl ?_
            refine g_iload (q := 9) dX6_metOf_87 rfl ?_
            refine g_if_eq (tgt := 110) dX6_metOf_89 (by decide) (fun c27 => ?_) (fun c28 => ?_)
            · exact absurd c27 (by decide)
            · refine g_iload (q := 7) dX6_metOf_92 rfl ?_
              refine g_iload (q := 8) dX6_metOf_94 rfl ?_
              refine g_icmp_ne (tgt := 110) dX6_metOf_96 (by decide) (fun c29 => ?_) (fun c30 => ?_)
              · have h := h.1 c29
                refine g_lconst0 dX6_metOf_110 ?_
                refine g_ladd dX6_metOf_111 ?_
                refine g_lstoreN (fun z => [(0, 2, 65), (1, 0, v1), (2, 0, v2), (3, 0, v3), (4, 0, v4), (5, 0, v5), (6, 1, z), (8, 0, v8), (9, 0, v9), (10, 0, 1)]) dX6_metOf_112 (by decide) [1, 2, 3, 4, 5, 6, 0, 7, 8, 9] (fun _ => rfl) (fun x31 ex31 => ?_)
                have h := h x31 ex31
                refine g_iinc (q := 8) dX6_metOf_114 (by decide) rfl [1, 2, 3, 4, 5, 6, 7, 8, 0, 9] rfl ?_
                refine g_goto (tgt := 16) dX6_metOf_117 (by decide) ?_
                exact g_less [0, 1, 2, 3, 4, 5, 6, 7, 8] rfl h
              · have h := h.2 c30
                refine g_aload_n (q := 0) dX6_metOf_99 rfl rfl ?_
                refine g_iload (q := 7) dX6_metOf_100 rfl ?_
                refine g_iload (q := 8) dX6_metOf_102 rfl ?_
                obtain ⟨c32, h⟩ := h
                refine g_callV2 dX6_metOf_104 kX6_likely q1704 q1706 qs92 (ci := 6) rfl (by decide) rfl (by omega) (by decide) (sk_65 hs.S) (Nat.le_of_ble_eq_true rfl) (Nat.le_refl _) (Nat.le_refl _) (t_pL hs (pX6_likelyF hs (tWs_T rfl) c32) ?_)
                refine g_goto (tgt := 111) dX6_metOf_107 (by decide) ?_
                refine g_ladd dX6_metOf_111 ?_
                refine g_lstoreN (fun z => [(0, 2, 65), (1, 0, v1), (2, 0, v2), (3, 0, v3), (4, 0, v4), (5, 0, v5), (6, 1, z), (8, 0, v8), (9, 0, v9), (10, 0, 1)]) dX6_metOf_112 (by decide) [1, 2, 3, 4, 5, 6, 0, 7, 8, 9] (fun _ => rfl) (fun x36 ex36 => ?_)
                have h := h x36 ex36
                refine g_iinc (q := 8) dX6_metOf_114 (by decide) rfl [1, 2, 3, 4, 5, 6, 7, 8, 0, 9] rfl ?_
                refine g_goto (tgt := 16) dX6_metOf_117 (by decide) ?_
                exact g_less [0, 1, 2, 3, 4, 5, 6, 7, 8] rfl h
          · have h := h.2 c24
            refine g_aload_n (q := 0) dX6_metOf_72 rfl rfl ?_
            refine g_iload (q := 7) dX6_metOf_73 rfl ?_
            refine g_iload (q := 8) dX6_metOf_75 rfl ?_
            obtain ⟨c37, h⟩ := h
            refine g_callV2 dX6_metOf_77 kX6_likely q1704 q1706 qs92 (ci := 6) rfl (by decide) rfl (by omega) (by decide) (sk_65 hs.S) (Nat.le_of_ble_eq_true rfl) (Nat.le_refl _) (Nat.le_refl _) (t_pL hs (pX6_likelyF hs (tWs_T rfl) c37) ?_)
            refine g_goto (tgt := 84) dX6_metOf_80 (by decide) ?_
            obtain ⟨c41, h⟩ := h
            refine g_lastore dX6_metOf_84 (by decide) (sk_97 hs.S) c41.1 (t_lt (sn_97 hs.S) c41.2) (p_w hs sf_97 (tWs_in _ rfl) fun μ42 eμ42 hs => ?_)
            have h := h μ42 eμ42
            refine g_lload (q := 6) dX6_metOf_85 rfl ?_
            refine g_iload (q := 9) dX6_metOf_87 rfl ?_
            refine g_if_eq (tgt := 110) dX6_metOf_89 (by decide) (fun c43 => ?_) (fun c44 => ?_)
            · exact absurd c43 (by decide)
            · refine g_iload (q := 7) dX6_metOf_92 rfl ?_
              refine g_iload (q := 8) dX6_metOf_94 rfl ?_
              refine g_icmp_ne (tgt := 110) dX6_metOf_96 (by decide) (fun c45 => ?_) (fun c46 => ?_)
              · have h := h.1 c45
                refine g_lconst0 dX6_metOf_110 ?_
                refine g_ladd dX6_metOf_111 ?_
                refine g_lstoreN (fun z => [(0, 2, 65), (1, 0, v1), (2, 0, v2), (3, 0, v3), (4, 0, v4), (5, 0, v5), (6, 1, z), (8, 0, v8), (9, 0, v9), (10, 0, 1)]) dX6_metOf_112 (by decide) [1, 2, 3, 4, 5, 6, 0, 7, 8, 9] (fun _ => rfl) (fun x47 ex47 => ?_)
                have h := h x47 ex47
                refine g_iinc (q := 8) dX6_metOf_114 (by decide) rfl [1, 2, 3, 4, 5, 6, 7, 8, 0, 9] rfl ?_
                refine g_goto (tgt := 16) dX6_metOf_117 (by decide) ?_
                exact g_less [0, 1, 2, 3, 4, 5, 6, 7, 8] rfl h
              · have h := h.2 c46
                refine g_aload_n (q := 0) dX6_metOf_99 rfl rfl ?_
                refine g_iload (q := 7) dX6_metOf_100 rfl ?_
                refine g_iload (q := 8) dX6_metOf_102 rfl ?_
                refine g_callV2 dX6_metOf_104 kX6_likely q1704 q1706 qs92 (ci := 6) rfl (by decide) rfl (by omega) (by decide) (sk_65 hs.S) (Nat.le_of_ble_eq_true rfl) (Nat.le_refl _) (Nat.le_refl _) (t_pL hs (pX6_likelyF hs (tWs_T rfl) c37) ?_)
                refine g_goto (tgt := 111) dX6_metOf_107 (by decide) ?_
                refine g_ladd dX6_metOf_111 ?_
                refine g_lstoreN (fun z => [(0, 2, 65), (1, 0, v1), (2, 0, v2), (3, 0, v3), (4, 0, v4), (5, 0, v5), (6, 1, z), (8, 0, v8), (9, 0, v9), (10, 0, 1)]) dX6_metOf_112 (by decide) [1, 2, 3, 4, 5, 6, 0, 7, 8, 9] (fun _ => rfl) (fun x51 ex51 => ?_)
                have h := h x51 ex51
                refine g_iinc (q := 8) dX6_metOf_114 (by decide) rfl [1, 2, 3, 4, 5, 6, 7, 8, 0, 9] rfl ?_
                refine g_goto (tgt := 16) dX6_metOf_117 (by decide) ?_
                exact g_less [0, 1, 2, 3, 4, 5, 6, 7, 8] rfl h
theorem uX6_metOf_129 {d : Nat} {μ0 μ : tm_M} {K : Int → tm_M → Prop} {v1 v2 v3 v4 v5 v6 v8 : Int} (hs : tFr wX6_metOf μ0 μ)
    (h : (v5 ≤ v8 → K v6 μ) ∧ (v8 < v5 → (∀ x3, x3 = w64 (v6 * 256) → hLo wX6_metOf μ0 mX6_metOf d K 147 [(0, 2, 65), (1, 0, v1), (2, 0, v2), (3, 0, v3), (4, 0, v4), (5, 0, v5), (6, 1, x3), (8, 0, v8), (9, 0, 0)] [] μ))) :
    hLo wX6_metOf μ0 mX6_metOf d K 129 [(0, 2, 65), (1, 0, v1), (2, 0, v2), (3, 0, v3), (4, 0, v4), (5, 0, v5), (6, 1, v6), (8, 0, v8)] [] μ := by
  refine g_iload (q := 7) dX6_metOf_129 rfl ?_
  refine g_iload (q := 5) dX6_metOf_131 rfl ?_
  refine g_icmp_ge (tgt := 371) dX6_metOf_133 (by decide) (fun c1 => ?_) (fun c2 => ?_)
  · have h := h.1 c1
    refine g_lload (q := 6) dX6_metOf_371 rfl ?_
    exact g_lret dX6_metOf_373 rfl (Nat.le_refl _) (Nat.le_refl _) ⟨_, rfl, hs, h⟩
  · have h := h.2 c2
    refine g_lload (q := 6) dX6_metOf_136 rfl ?_
    refine g_ldc2 (v := 256) (by decide) q1778c dX6_metOf_138 ?_
    refine g_lmul dX6_metOf_141 ?_
    refine g_lstoreN (fun z => [(0, 2, 65), (1, 0, v1), (2, 0, v2), (3, 0, v3), (4, 0, v4), (5, 0, v5), (6, 1, z), (8, 0, v8)]) dX6_metOf_142 (by decide) [1, 2, 3, 4, 5, 6, 0, 7] (fun _ => rfl) (fun x3 ex3 => ?_)
    have h := h x3 ex3
    refine g_iconst dX6_metOf_144 (by decide) ?_
    refine g_istore (L' := [(0, 2, 65), (1, 0, v1), (2, 0, v2), (3, 0, v3), (4, 0, v4), (5, 0, v5), (6, 1, x3), (8, 0, v8), (9, 0, 0)]) dX6_metOf_145 (by decide) [1, 2, 3, 4, 5, 6, 7, 8, 0] rfl ?_
    exact h
theorem uX6_metOf_147 {d : Nat} {μ0 μ : tm_M} {K : Int → tm_M → Prop} {v1 v2 v3 v4 v5 v6 v8 v9 : Int} (hs : tFr wX6_metOf μ0 μ)
    (h : (64 ≤ v9 → hLo wX6_metOf μ0 mX6_metOf d K 171 [(0, 2, 65), (1, 0, v1), (2, 0, v2), (3, 0, v3), (4, 0, v4), (5, 0, v5), (6, 1, v6), (8, 0, v8), (9, 0, 0)] [] μ) ∧ (v9 < 64 → (0 ≤ v9 ∧ v9 < 64) ∧ ((∀ μ4, μ4 = tm_w μ 98 v9 0 → hLo wX6_metOf μ0 mX6_metOf d K 147 [(0, 2, 65), (1, 0, v1), (2, 0, v2), (3, 0, v3), (4, 0, v4), (5, 0, v5), (6, 1, v6), (8, 0, v8), (9, 0, w32 (v9 + 1))] [] μ4)))) :
    hLo wX6_metOf μ0 mX6_metOf d K 147 [(0, 2, 65), (1, 0, v1), (2, 0, v2), (3, 0, v3), (4, 0, v4), (5, 0, v5), (6, 1, v6), (8, 0, v8), (9, 0, v9)] [] μ := by
  refine g_iload (q := 8) dX6_metOf_147 rfl ?_
  refine g_bipush dX6_metOf_149 ⟨by decide, by decide, rfl⟩ ?_
  refine g_icmp_ge (tgt := 168) dX6_metOf_151 (by decide) (fun c1 => ?_) (fun c2 => ?_)
  · have h := h.1 c1
    refine g_iconst dX6_metOf_168 (by decide) ?_
    refine g_istore (L' := [(0, 2, 65), (1, 0, v1), (2, 0, v2), (3, 0, v3), (4, 0, v4), (5, 0, v5), (6, 1, v6), (8, 0, v8), (9, 0, 0)]) dX6_metOf_169 (by decide) [1, 2, 3, 4, 5, 6, 7, 8, 0] rfl ?_
    exact h
  · have h := h.2 c2
    refine g_aload_n (q := 0) dX6_metOf_154 rfl rfl ?_
    refine g_getC (x := 98) 2 dX6_metOf_155 fX6_126 rfl (by decide) (sk_65 hs.S) (sv_65_68 hs.S) ?_
    refine g_iload (q := 8) dX6_metOf_158 rfl ?_
    refine g_lconst0 dX6_metOf_160 ?_
    obtain ⟨c3, h⟩ := h
    refine g_lastore dX6_metOf_161 (by decide) (sk_98 hs.S) c3.1 (t_lt (sn_98 hs.S) c3.2) (p_w hs sf_98 (tWs_in _ rfl) fun μ4 eμ4 hs => ?_)
    have h := h μ4 eμ4
    refine g_iinc (q := 8) dX6_metOf_162 (by decide) rfl [1, 2, 3, 4, 5, 6, 7, 8, 0] rfl ?_
    refine g_goto (tgt := 147) dX6_metOf_165 (by decide) ?_
    exact h
theorem uX6_metOf_171 {d : Nat} {μ0 μ : tm_M} {K : Int → tm_M → Prop} {v1 v2 v3 v4 v5 v6 v8 v9 : Int} (hs : tFr wX6_metOf μ0 μ)
    (h : (64 ≤ v9 → hLo wX6_metOf μ0 mX6_metOf d K 338 [(0, 2, 65), (1, 0, v1), (2, 0, v2), (3, 0, v3), (4, 0, v4), (5, 0, v5), (6, 1, v6), (8, 0, v8), (9, 0, 0)] [] μ) ∧ (v9 < 64 → (0 ≤ v9 ∧ v9 < 64) ∧ ((tm_v μ 97 v9 ≠ 0 → hLo wX6_metOf μ0 mX6_metOf d K 196 [(0, 2, 65), (1, 0, v1), (2, 0, v2), (3, 0, v3), (4, 0, v4), (5, 0, v5), (6, 1, v6), (8, 0, v8), (9, 0, v9), (10, 0, 0)] [] μ) ∧ (tm_v μ 97 v9 = 0 → hLo wX6_metOf μ0 mX6_metOf d K 171 [(0, 2, 65), (1, 0, v1), (2, 0, v2), (3, 0, v3), (4, 0, v4), (5, 0, v5), (6, 1, v6), (8, 0, v8), (9, 0, w32 (v9 + 1))] [] μ)))) :
    hLo wX6_metOf μ0 mX6_metOf d K 171 [(0, 2, 65), (1, 0, v1), (2, 0, v2), (3, 0, v3), (4, 0, v4), (5, 0, v5), (6, 1, v6), (8, 0, v8), (9, 0, v9)] [] μ := by
  refine g_iload (q := 8) dX6_metOf_171 rfl ?_
  refine g_bipush dX6_metOf_173 ⟨by decide, by decide, rfl⟩ ?_
  refine g_icmp_ge (tgt := 335) dX6_metOf_175 (by decide) (fun c1 => ?_) (fun c2 => ?_)
  · have h := h.1 c1
    refine g_iconst dX6_metOf_335 (by decide) ?_
    refine g_istore (L' := [(0, 2, 65), (1, 0, v1), (2, 0, v2), (3, 0, v3), (4, 0, v4), (5, 0, v5), (6, 1, v6), (8, 0, v8), (9, 0, 0)]) dX6_metOf_336 (by decide) [1, 2, 3, 4, 5, 6, 7, 8, 0] rfl ?_
    exact h
  · have h := h.2 c2
    refine g_aload_n (q := 0) dX6_metOf_178 rfl rfl ?_
    refine g_getC (x := 97) 2 dX6_metOf_179 fX6_123 rfl (by decide) (sk_65 hs.S) (sv_65_67 hs.S) ?_
    refine g_iload (q := 8) dX6_metOf_182 rfl ?_
    obtain ⟨c3, h⟩ := h
    refine g_laload dX6_metOf_184 (by decide) (sk_97 hs.S) c3.1 (t_lt (sn_97 hs.S) c3.2) ?_
    refine g_lconst0 dX6_metOf_185 ?_
    refine g_lcmp_ne (tgt := 193) dX6_metOf_186 dX6_metOf_187 (by decide) (fun c4 => ?_) (fun c5 => ?_)
    · have h := h.1 c4
      refine g_iconst dX6_metOf_193 (by decide) ?_
      refine g_istore (L' := [(0, 2, 65), (1, 0, v1), (2, 0, v2), (3, 0, v3), (4, 0, v4), (5, 0, v5), (6, 1, v6), (8, 0, v8), (9, 0, v9), (10, 0, 0)]) dX6_metOf_194 (by decide) [1, 2, 3, 4, 5, 6, 7, 8, 9, 0] rfl ?_
      exact h
    · have h := h.2 c5
      refine g_goto (tgt := 329) dX6_metOf_190 (by decide) ?_
      refine g_iinc (q := 8) dX6_metOf_329 (by decide) rfl [1, 2, 3, 4, 5, 6, 7, 8, 0] rfl ?_
      refine g_goto (tgt := 171) dX6_metOf_332 (by decide) ?_
      exact h
theorem uX6_metOf_196 {d : Nat} {μ0 μ : tm_M} {K : Int → tm_M → Prop} {v1 v2 v3 v4 v5 v6 v8 v9 v10 : Int} (hd : 1 ≤ d) (hs : tFr wX6_metOf μ0 μ)
    (h : (4 ≤ v10 → hLo wX6_metOf μ0 mX6_metOf d K 171 [(0, 2, 65), (1, 0, v1), (2, 0, v2), (3, 0, v3), (4, 0, v4), (5, 0, v5), (6, 1, v6), (8, 0, v8), (9, 0, w32 (v9 + 1))] [] μ) ∧ (v10 < 4 → (0 ≤ v9 ∧ v9 < 64) ∧ ((2 ≤ v10 → (v10.tmod 2 ≠ 0 → (∀ x8, x8 = w64 ((w64 ((tm_v μ 97 v9) * (w32 (16 - v3)))) * (w32 (16 - v3))) → (x8 ≠ 0 → (2 ≤ v10 → (v10.tmod 2 ≠ 0 → cI wX6_play mX6_play (d - 1) [(2, 65), (0, v2), (0, v2), (0, w32 (v9.tdiv 8)), (0, v9.tmod 8), (0, v4)] μ (fun r16 μ15 => (0 ≤ r16 → (0 ≤ r16 ∧ r16 < 64) ∧ ((∀ μ20, μ20 = tm_w μ15 98 r16 (w64 ((tm_v μ15 98 r16) + x8)) → hLo wX6_metOf μ0 mX6_metOf d K 196 [(0, 2, 65), (1, 0, v1), (2, 0, v2), (3, 0, v3), (4, 0, v4), (5, 0, v5), (6, 1, v6), (8, 0, v8), (9, 0, v9), (10, 0, w32 (v10 + 1))] [] μ20))) ∧ (r16 < 0 → (∀ x21, x21 = w64 (v6 + x8) → hLo wX6_metOf μ0 mX6_metOf d K 196 [(0, 2, 65), (1, 0, v1), (2, 0, v2), (3, 0, v3), (4, 0, v4), (5, 0, v5), (6, 1, x21), (8, 0, v8), (9, 0, v9), (10, 0, w32 (v10 + 1))] [] μ15)))) ∧ (v10.tmod 2 = 0 → cI wX6_play mX6_play (d - 1) [(2, 65), (0, v2), (0, v1), (0, w32 (v9.tdiv 8)), (0, v9.tmod 8), (0, v4)] μ (fun r23 μ22 => (0 ≤ r23 → (0 ≤ r23 ∧ r23 < 64) ∧ ((∀ μ27, μ27 = tm_w μ22 98 r23 (w64 ((tm_v μ22 98 r23) + x8)) → hLo wX6_metOf μ0 mX6_metOf d K 196 [(0, 2, 65), (1, 0, v1), (2, 0, v2), (3, 0, v3), (4, 0, v4), (5, 0, v5), (6, 1, v6), (8, 0, v8), (9, 0, v9), (10, 0, w32 (v10 + 1))] [] μ27))) ∧ (r23 < 0 → (∀ x28, x28 = w64 (v6 + x8) → hLo wX6_metOf μ0 mX6_metOf d K 196 [(0, 2, 65), (1, 0, v1), (2, 0, v2), (3, 0, v3), (4, 0, v4), (5, 0, v5), (6, 1, x28), (8, 0, v8), (9, 0, v9), (10, 0, w32 (v10 + 1))] [] μ22))))) ∧ (v10 < 2 → (v10.tmod 2 ≠ 0 → cI wX6_play mX6_play (d - 1) [(2, 65), (0, v1), (0, v2), (0, w32 (v9.tdiv 8)), (0, v9.tmod 8), (0, v4)] μ (fun r32 μ31 => (0 ≤ r32 → (0 ≤ r32 ∧ r32 < 64) ∧ ((∀ μ36, μ36 = tm_w μ31 98 r32 (w64 ((tm_v μ31 98 r32) + x8)) → hLo wX6_metOf μ0 mX6_metOf d K 196 [(0, 2, 65), (1, 0, v1), (2, 0, v2), (3, 0, v3), (4, 0, v4), (5, 0, v5), (6, 1, v6), (8, 0, v8), (9, 0, v9), (10, 0, w32 (v10 + 1))] [] μ36))) ∧ (r32 < 0 → (∀ x37, x37 = w64 (v6 + x8) → hLo wX6_metOf μ0 mX6_metOf d K 196 [(0, 2, 65), (1, 0, v1), (2, 0, v2), (3, 0, v3), (4, 0, v4), (5, 0, v5), (6, 1, x37), (8, 0, v8), (9, 0, v9), (10, 0, w32 (v10 + 1))] [] μ31)))) ∧ (v10.tmod 2 = 0 → cI wX6_play mX6_play (d - 1) [(2, 65), (0, v1), (0, v1), (0, w32 (v9.tdiv 8)), (0, v9.tmod 8), (0, v4)] μ (fun r39 μ38 => (0 ≤ r39 → (0 ≤ r39 ∧ r39 < 64) ∧ ((∀ μ43, μ43 = tm_w μ38 98 r39 (w64 ((tm_v μ38 98 r39) + x8)) → hLo wX6_metOf μ0 mX6_metOf d K 196 [(0, 2, 65), (1, 0, v1), (2, 0, v2), (3, 0, v3), (4, 0, v4), (5, 0, v5), (6, 1, v6), (8, 0, v8), (9, 0, v9), (10, 0, w32 (v10 + 1))] [] μ43))) ∧ (r39 < 0 → (∀ x44, x44 = w64 (v6 + x8) → hLo wX6_metOf μ0 mX6_metOf d K 196 [(0, 2, 65), (1, 0, v1), (2, 0, v2), (3, 0, v3), (4, 0, v4), (5, 0, v5), (6, 1, x44), (8, 0, v8), (9, 0, v9), (10, 0, w32 (v10 + 1))] [] μ38)))))) ∧ (x8 = 0 → (∀ μ47, μ47 = tm_w μ 98 0 (w64 ((tm_v μ 98 0) + x8)) → hLo wX6_metOf μ0 mX6_metOf d K 196 [(0, 2, 65), (1, 0, v1), (2, 0, v2), (3, 0, v3), (4, 0, v4), (5, 0, v5), (6, 1, v6), (8, 0, v8), (9, 0, v9), (10, 0, w32 (v10 + 1))] [] μ47)))) ∧ (v10.tmod 2 = 0 → (∀ x48, x48 = w64 ((w64 ((tm_v μ 97 v9) * (w32 (16 - v3)))) * v3) → (x48 ≠ 0 → (2 ≤ v10 → (v10.tmod 2 ≠ 0 → cI wX6_play mX6_play (d - 1) [(2, 65), (0, v2), (0, v2), (0, w32 (v9.tdiv 8)), (0, v9.tmod 8), (0, v4)] μ (fun r56 μ55 => (0 ≤ r56 → (0 ≤ r56 ∧ r56 < 64) ∧ ((∀ μ60, μ60 = tm_w μ55 98 r56 (w64 ((tm_v μ55 98 r56) + x48)) → hLo wX6_metOf μ0 mX6_metOf d K 196 [(0, 2, 65), (1, 0, v1), (2, 0, v2), (3, 0, v3), (4, 0, v4), (5, 0, v5), (6, 1, v6), (8, 0, v8), (9, 0, v9), (10, 0, w32 (v10 + 1))] [] μ60))) ∧ (r56 < 0 → (∀ x61, x61 = w64 (v6 + x48) → hLo wX6_metOf μ0 mX6_metOf d K 196 [(0, 2, 65), (1, 0, v1), (2, 0, v2), (3, 0, v3), (4, 0, v4), (5, 0, v5), (6, 1, x61), (8, 0, v8), (9, 0, v9), (10, 0, w32 (v10 + 1))] [] μ55)))) ∧ (v10.tmod 2 = 0 → cI wX6_play mX6_play (d - 1) [(2, 65), (0, v2), (0, v1), (0, w32 (v9.tdiv 8)), (0, v9.tmod 8), (0, v4)] μ (fun r63 μ62 => (0 ≤ r63 → (0 ≤ r63 ∧ r63 < 64) ∧ ((∀ μ67, μ67 = tm_w μ62 98 r63 (w64 ((tm_v μ62 98 r63) + x48)) → hLo wX6_metOf μ0 mX6_metOf d K 196 [(0, 2, 65), (1, 0, v1), (2, 0, v2), (3, 0, v3), (4, 0, v4), (5, 0, v5), (6, 1, v6), (8, 0, v8), (9, 0, v9), (10, 0, w32 (v10 + 1))] [] μ67))) ∧ (r63 < 0 → (∀ x68, x68 = w64 (v6 + x48) → hLo wX6_metOf μ0 mX6_metOf d K 196 [(0, 2, 65), (1, 0, v1), (2, 0, v2), (3, 0, v3), (4, 0, v4), (5, 0, v5), (6, 1, x68), (8, 0, v8), (9, 0, v9), (10, 0, w32 (v10 + 1))] [] μ62))))) ∧ (v10 < 2 → (v10.tmod 2 ≠ 0 → cI wX6_play mX6_play (d - 1) [(2, 65), (0, v1), (0, v2), (0, w32 (v9.tdiv 8)), (0, v9.tmod 8), (0, v4)] μ (fun r72 μ71 => (0 ≤ r72 → (0 ≤ r72 ∧ r72 < 64) ∧ ((∀ μ76, μ76 = tm_w μ71 98 r72 (w64 ((tm_v μ71 98 r72) + x48)) → hLo wX6_metOf μ0 mX6_metOf d K 196 [(0, 2, 65), (1, 0, v1), (2, 0, v2), (3, 0, v3), (4, 0, v4), (5, 0, v5), (6, 1, v6), (8, 0, v8), (9, 0, v9), (10, 0, w32 (v10 + 1))] [] μ76))) ∧ (r72 < 0 → (∀ x77, x77 = w64 (v6 + x48) → hLo wX6_metOf μ0 mX6_metOf d K 196 [(0, 2, 65), (1, 0, v1), (2, 0, v2), (3, 0, v3), (4, 0, v4), (5, 0, v5), (6, 1, x77), (8, 0, v8), (9, 0, v9), (10, 0, w32 (v10 + 1))] [] μ71)))) ∧ (v10.tmod 2 = 0 → cI wX6_play mX6_play (d - 1) [(2, 65), (0, v1), (0, v1), (0, w32 (v9.tdiv 8)), (0, v9.tmod 8), (0, v4)] μ (fun r79 μ78 => (0 ≤ r79 → (0 ≤ r79 ∧ r79 < 64) ∧ ((∀ μ83, μ83 = tm_w μ78 98 r79 (w64 ((tm_v μ78 98 r79) + x48)) → hLo wX6_metOf μ0 mX6_metOf d K 196 [(0, 2, 65), (1, 0, v1), (2, 0, v2), (3, 0, v3), (4, 0, v4), (5, 0, v5), (6, 1, v6), (8, 0, v8), (9, 0, v9), (10, 0, w32 (v10 + 1))] [] μ83))) ∧ (r79 < 0 → (∀ x84, x84 = w64 (v6 + x48) → hLo wX6_metOf μ0 mX6_metOf d K 196 [(0, 2, 65), (1, 0, v1), (2, 0, v2), (3, 0, v3), (4, 0, v4), (5, 0, v5), (6, 1, x84), (8, 0, v8), (9, 0, v9), (10, 0, w32 (v10 + 1))] [] μ78)))))) ∧ (x48 = 0 → (∀ μ87, μ87 = tm_w μ 98 0 (w64 ((tm_v μ 98 0) + x48)) → hLo wX6_metOf μ0 mX6_metOf d K 196 [(0, 2, 65), (1, 0, v1), (2, 0, v2), (3, 0, v3), (4, 0, v4), (5, 0, v5), (6, 1, v6), (8, 0, v8), (9, 0, v9), (10, 0, w32 (v10 + 1))] [] μ87))))) ∧ (v10 < 2 → (v10.tmod 2 ≠ 0 → (∀ x90, x90 = w64 ((w64 ((tm_v μ 97 v9) * v3)) * (w32 (16 - v3))) → (x90 ≠ 0 → (2 ≤ v10 → (v10.tmod 2 ≠ 0 → cI wX6_play mX6_play (d - 1) [(2, 65), (0, v2), (0, v2), (0, w32 (v9.tdiv 8)), (0, v9.tmod 8), (0, v4)] μ (fun r98 μ97 => (0 ≤ r98 → (0 ≤ r98 ∧ r98 < 64) ∧ ((∀ μ102, μ102 = tm_w μ97 98 r98 (w64 ((tm_v μ97 98 r98) + x90)) → hLo wX6_metOf μ0 mX6_metOf d K 196 [(0, 2, 65), (1, 0, v1), (2, 0, v2), (3, 0, v3), (4, 0, v4), (5, 0, v5), (6, 1, v6), (8, 0, v8), (9, 0, v9), (10, 0, w32 (v10 + 1))] [] μ102))) ∧ (r98 < 0 → (∀ x103, x103 = w64 (v6 + x90) → hLo wX6_metOf μ0 mX6_metOf d K 196 [(0, 2, 65), (1, 0, v1), (2, 0, v2), (3, 0, v3), (4, 0, v4), (5, 0, v5), (6, 1, x103), (8, 0, v8), (9, 0, v9), (10, 0, w32 (v10 + 1))] [] μ97)))) ∧ (v10.tmod 2 = 0 → cI wX6_play mX6_play (d - 1) [(2, 65), (0, v2), (0, v1), (0, w32 (v9.tdiv 8)), (0, v9.tmod 8), (0, v4)] μ (fun r105 μ104 => (0 ≤ r105 → (0 ≤ r105 ∧ r105 < 64) ∧ ((∀ μ109, μ109 = tm_w μ104 98 r105 (w64 ((tm_v μ104 98 r105) + x90)) → hLo wX6_metOf μ0 mX6_metOf d K 196 [(0, 2, 65), (1, 0, v1), (2, 0, v2), (3, 0, v3), (4, 0, v4), (5, 0, v5), (6, 1, v6), (8, 0, v8), (9, 0, v9), (10, 0, w32 (v10 + 1))] [] μ109))) ∧ (r105 < 0 → (∀ x110, x110 = w64 (v6 + x90) → hLo wX6_metOf μ0 mX6_metOf d K 196 [(0, 2, 65), (1, 0, v1), (2, 0, v2), (3, 0, v3), (4, 0, v4), (5, 0, v5), (6, 1, x110), (8, 0, v8), (9, 0, v9), (10, 0, w32 (v10 + 1))] [] μ104))))) ∧ (v10 < 2 → (v10.tmod 2 ≠ 0 → cI wX6_play mX6_play (d - 1) [(2, 65), (0, v1), (0, v2), (0, w32 (v9.tdiv 8)), (0, v9.tmod 8), (0, v4)] μ (fun r114 μ113 => (0 ≤ r114 → (0 ≤ r114 ∧ r114 < 64) ∧ ((∀ μ118, μ118 = tm_w μ113 98 r114 (w64 ((tm_v μ113 98 r114) + x90)) → hLo wX6_metOf μ0 mX6_metOf d K 196 [(0, 2, 65), (1, 0, v1), (2, 0, v2), (3, 0, v3), (4, 0, v4), (5, 0, v5), (6, 1, v6), (8, 0, v8), (9, 0, v9), (10, 0, w32 (v10 + 1))] [] μ118))) ∧ (r114 < 0 → (∀ x119, x119 = w64 (v6 + x90) → hLo wX6_metOf μ0 mX6_metOf d K 196 [(0, 2, 65), (1, 0, v1), (2, 0, v2), (3, 0, v3), (4, 0, v4), (5, 0, v5), (6, 1, x119), (8, 0, v8), (9, 0, v9), (10, 0, w32 (v10 + 1))] [] μ113)))) ∧ (v10.tmod 2 = 0 → cI wX6_play mX6_play (d - 1) [(2, 65), (0, v1), (0, v1), (0, w32 (v9.tdiv 8)), (0, v9.tmod 8), (0, v4)] μ (fun r121 μ120 => (0 ≤ r121 → (0 ≤ r121 ∧ r121 < 64) ∧ ((∀ μ125, μ125 = tm_w μ120 98 r121 (w64 ((tm_v μ120 98 r121) + x90)) → hLo wX6_metOf μ0 mX6_metOf d K 196 [(0, 2, 65), (1, 0, v1), (2, 0, v2), (3, 0, v3), (4, 0, v4), (5, 0, v5), (6, 1, v6), (8, 0, v8), (9, 0, v9), (10, 0, w32 (v10 + 1))] [] μ125))) ∧ (r121 < 0 → (∀ x126, x126 = w64 (v6 + x90) → hLo wX6_metOf μ0 mX6_metOf d K 196 [(0, 2, 65), (1, 0, v1), (2, 0, v2), (3, 0, v3), (4, 0, v4), (5, 0, v5), (6, 1, x126), (8, 0, v8), (9, 0, v9), (10, 0, w32 (v10 + 1))] [] μ120)))))) ∧ (x90 = 0 → (∀ μ129, μ129 = tm_w μ 98 0 (w64 ((tm_v μ 98 0) + x90)) → hLo wX6_metOf μ0 mX6_metOf d K 196 [(0, 2, 65), (1, 0, v1), (2, 0, v2), (3, 0, v3), (4, 0, v4), (5, 0, v5), (6, 1, v6), (8, 0, v8), (9, 0, v9), (10, 0, w32 (v10 + 1))] [] μ129)))) ∧ (v10.tmod 2 = 0 → (∀ x130, x130 = w64 ((w64 ((tm_v μ 97 v9) * v3)) * v3) → (x130 ≠ 0 → (2 ≤ v10 → (v10.tmod 2 ≠ 0 → cI wX6_play mX6_play (d - 1) [(2, 65), (0, v2), (0, v2), (0, w32 (v9.tdiv 8)), (0, v9.tmod 8), (0, v4)] μ (fun r138 μ137 => (0 ≤ r138 → (0 ≤ r138 ∧ r138 < 64) ∧ ((∀ μ142, μ142 = tm_w μ137 98 r138 (w64 ((tm_v μ137 98 r138) + x130)) → hLo wX6_metOf μ0 mX6_metOf d K 196 [(0, 2, 65), (1, 0, v1), (2, 0, v2), (3, 0, v3), (4, 0, v4), (5, 0, v5), (6, 1, v6), (8, 0, v8), (9, 0, v9), (10, 0, w32 (v10 + 1))] [] μ142))) ∧ (r138 < 0 → (∀ x143, x143 = w64 (v6 + x130) → hLo wX6_metOf μ0 mX6_metOf d K 196 [(0, 2, 65), (1, 0, v1), (2, 0, v2), (3, 0, v3), (4, 0, v4), (5, 0, v5), (6, 1, x143), (8, 0, v8), (9, 0, v9), (10, 0, w32 (v10 + 1))] [] μ137)))) ∧ (v10.tmod 2 = 0 → cI wX6_play mX6_play (d - 1) [(2, 65), (0, v2), (0, v1), (0, w32 (v9.tdiv 8)), (0, v9.tmod 8), (0, v4)] μ (fun r145 μ144 => (0 ≤ r145 → (0 ≤ r145 ∧ r145 < 64) ∧ ((∀ μ149, μ149 = tm_w μ144 98 r145 (w64 ((tm_v μ144 98 r145) + x130)) → hLo wX6_metOf μ0 mX6_metOf d K 196 [(0, 2, 65), (1, 0, v1), (2, 0, v2), (3, 0, v3), (4, 0, v4), (5, 0, v5), (6, 1, v6), (8, 0, v8), (9, 0, v9), (10, 0, w32 (v10 + 1))] [] μ149))) ∧ (r145 < 0 → (∀ x150, x150 = w64 (v6 + x130) → hLo wX6_metOf μ0 mX6_metOf d K 196 [(0, 2, 65), (1, 0, v1), (2, 0, v2), (3, 0, v3), (4, 0, v4), (5, 0, v5), (6, 1, x150), (8, 0, v8), (9, 0, v9), (10, 0, w32 (v10 + 1))] [] μ144))))) ∧ (v10 < 2 → (v10.tmod 2 ≠ 0 → cI wX6_play mX6_play (d - 1) [(2, 65), (0, v1), (0, v2), (0, w32 (v9.tdiv 8)), (0, v9.tmod 8), (0, v4)] μ (fun r154 μ153 => (0 ≤ r154 → (0 ≤ r154 ∧ r154 < 64) ∧ ((∀ μ158, μ158 = tm_w μ153 98 r154 (w64 ((tm_v μ153 98 r154) + x130)) → hLo wX6_metOf μ0 mX6_metOf d K 196 [(0, 2, 65), (1, 0, v1), (2, 0, v2), (3, 0, v3), (4, 0, v4), (5, 0, v5), (6, 1, v6), (8, 0, v8), (9, 0, v9), (10, 0, w32 (v10 + 1))] [] μ158))) ∧ (r154 < 0 → (∀ x159, x159 = w64 (v6 + x130) → hLo wX6_metOf μ0 mX6_metOf d K 196 [(0, 2, 65), (1, 0, v1), (2, 0, v2), (3, 0, v3), (4, 0, v4), (5, 0, v5), (6, 1, x159), (8, 0, v8), (9, 0, v9), (10, 0, w32 (v10 + 1))] [] μ153)))) ∧ (v10.tmod 2 = 0 → cI wX6_play mX6_play (d - 1) [(2, 65), (0, v1), (0, v1), (0, w32 (v9.tdiv 8)), (0, v9.tmod 8), (0, v4)] μ (fun r161 μ160 => (0 ≤ r161 → (0 ≤ r161 ∧ r161 < 64) ∧ ((∀ μ165, μ165 = tm_w μ160 98 r161 (w64 ((tm_v μ160 98 r161) + x130)) → hLo wX6_metOf μ0 mX6_metOf d K 196 [(0, 2, 65), (1, 0, v1), (2, 0, v2), (3, 0, v3), (4, 0, v4), (5, 0, v5), (6, 1, v6), (8, 0, v8), (9, 0, v9), (10, 0, w32 (v10 + 1))] [] μ165))) ∧ (r161 < 0 → (∀ x166, x166 = w64 (v6 + x130) → hLo wX6_metOf μ0 mX6_metOf d K 196 [(0, 2, 65), (1, 0, v1), (2, 0, v2), (3, 0, v3), (4, 0, v4), (5, 0, v5), (6, 1, x166), (8, 0, v8), (9, 0, v9), (10, 0, w32 (v10 + 1))] [] μ160)))))) ∧ (x130 = 0 → (∀ μ169, μ169 = tm_w μ 98 0 (w64 ((tm_v μ 98 0) + x130)) → hLo wX6_metOf μ0 mX6_metOf d K 196 [(0, 2, 65), (1, 0, v1), (2, 0, v2), (3, 0, v3), (4, 0, v4), (5, 0, v5), (6, 1, v6), (8, 0, v8), (9, 0, v9), (10, 0, w32 (v10 + 1))] [] μ169)))))))) :
    hLo wX6_metOf μ0 mX6_metOf d K 196 [(0, 2, 65), (1, 0, v1), (2, 0, v2), (3, 0, v3), (4, 0, v4), (5, 0, v5), (6, 1, v6), (8, 0, v8), (9, 0, v9), (10, 0, v10)] [] μ := by
  refine g_iload (q := 9) dX6_metOf_196 rfl ?_
  refine g_iconst dX6_metOf_198 (by decide) ?_
  refine g_icmp_ge (tgt := 329) dX6_metOf_199 (by decide) (fun c1 => ?_) (fun c2 => ?_)
  · have h := h.1 c1
    refine g_iinc (q := 8) dX6_metOf_329 (by decide) rfl [1, 2, 3, 4, 5, 6, 7, 8, 0, 9] rfl ?_
    refine g_goto (tgt := 171) dX6_metOf_332 (by decide) ?_
    exact g_less [0, 1, 2, 3, 4, 5, 6, 7, 8] rfl h
  · have h := h.2 c2
    refine g_aload_n (q := 0) dX6_metOf_202 rfl rfl ?_
    refine g_getC (x := 97) 2 dX6_metOf_203 fX6_123 rfl (by decide) (sk_65 hs.S) (sv_65_67 hs.S) ?_
    refine g_iload (q := 8) dX6_metOf_206 rfl ?_
    obtain ⟨c3, h⟩ := h
    refine g_laload dX6_metOf_208 (by decide) (sk_97 hs.S) c3.1 (t_lt (sn_97 hs.S) c3.2) ?_
    refine g_iload (q := 9) dX6_metOf_209 rfl ?_
    refine g_iconst dX6_metOf_211 (by decide) ?_
    refine g_icmp_ge (tgt := 219) dX6_metOf_212 (by decide) (fun c4 => ?_) (fun c5 => ?_)
    · have h := h.1 c4
      refine g_bipush dX6_metOf_219 ⟨by decide, by decide, rfl⟩ ?_
      refine g_iload_n (q := 3) dX6_metOf_221 rfl rfl ?_
      refine g_isub dX6_metOf_222 ?_
      refine g_i2l dX6_metOf_223 ?_
      refine g_lmul dX6_metOf_224 ?_
      refine g_iload (q := 9) dX6_metOf_225 rfl ?_
      refine g_iconst dX6_metOf_227 (by decide) ?_
      refine g_irem dX6_metOf_228 (by decide) ?_
      refine g_if_ne (tgt := 236) dX6_metOf_229 (by decide) (fun c6 => ?_) (fun c7 => ?_)
      · have h := h.1 c6
        refine g_bipush dX6_metOf_236 ⟨by decide, by decide, rfl⟩ ?_
        refine g_iload_n (q := 3) dX6_metOf_238 rfl rfl ?_
        refine g_isub dX6_metOf_239 ?_
        refine g_i2l dX6_metOf_240 ?_
        refine g_lmul dX6_metOf_241 ?_
        refine g_lstoreN (fun z => [(0, 2, 65), (1, 0, v1), (2, 0, v2), (3, 0, v3), (4, 0, v4), (5, 0, v5), (6, 1, v6), (8, 0, v8), (9, 0, v9), (10, 0, v10), (11, 1, z)]) dX6_metOf_242 (by decide) [1, 2, 3, 4, 5, 6, 7, 8, 9, 10, 0] (fun _ => rfl) (fun x8 ex8 => ?_)
        have h := h x8 ex8
        refine g_lload (q := 10) dX6_metOf_244 rfl ?_
        refine g_lconst0 dX6_metOf_246 ?_
        refine g_lcmp_ne (tgt := 255) dX6_metOf_247 dX6_metOf_248 (by decide) (fun c9 => ?_) (fun c10 => ?_)
        · have h := h.1 c9
          refine g_aload_n (q := 0) dX6_metOf_255 rfl rfl ?_
          refine g_iload (q := 9) dX6_metOf_256 rfl ?_
          refine g_iconst dX6_metOf_258 (by decide) ?_
          refine g_icmp_ge (tgt := 266) dX6_metOf_259 (by decide) (fun c11 => ?_) (fun c12 => ?_)
          · have h := h.1 c11
            refine g_iload_n (q := 2) dX6_metOf_266 rfl rfl ?_
            refine g_iload (q := 9) dX6_metOf_267 rfl ?_
            refine g_iconst dX6_metOf_269 (by decide) ?_
            refine g_irem dX6_metOf_270 (by decide) ?_
            refine g_if_ne (tgt := 278) dX6_metOf_271 (by decide) (fun c13 => ?_) (fun c14 => ?_)
            · have h := h.1 c13
              refine g_iload_n (q := 2) dX6_metOf_278 rfl rfl ?_
              refine g_iload (q := 8) dX6_metOf_279 rfl ?_
              refine g_bipush dX6_metOf_281 ⟨by decide, by decide, rfl⟩ ?_
              refine g_idiv dX6_metOf_283 (by decide) ?_
              refine g_iload (q := 8) dX6_metOf_284 rfl ?_
              refine g_bipush dX6_metOf_286 ⟨by decide, by decide, rfl⟩ ?_
              refine g_irem dX6_metOf_288 (by decide) ?_
              refine g_iload (q := 4) dX6_metOf_289 rfl ?_
              refine g_callV5 dX6_metOf_291 kX6_play q1779 q1781 qs101 (ci := 6) rfl (by decide) rfl (by omega) (by decide) (sk_65 hs.S) (Nat.le_of_ble_eq_true rfl) (Nat.le_refl _) (Nat.le_refl _) (t_kI hs (tWs_sub rfl) h (fun r16 μ15 hs h => ?_))
              refine g_istore (L' := [(0, 2, 65), (1, 0, v1), (2, 0, v2), (3, 0, v3), (4, 0, v4), (5, 0, v5), (6, 1, v6), (8, 0, v8), (9, 0, v9), (10, 0, v10), (11, 1, x8), (13, 0, r16)]) dX6_metOf_294 (by decide) [1, 2, 3, 4, 5, 6, 7, 8, 9, 10, 11, 0] rfl ?_
              refine g_iload (q := 11) dX6_metOf_296 rfl ?_
              refine g_if_ge (tgt := 311) dX6_metOf_298 (by decide) (fun c17 => ?_) (fun c18 => ?_)
              · have h := h.1 c17
                refine g_aload_n (q := 0) dX6_metOf_311 rfl rfl ?_
                refine g_getC (x := 98) 2 dX6_metOf_312 fX6_126 rfl (by decide) (sk_65 hs.S) (sv_65_68 hs.S) ?_
                refine g_iload (q := 11) dX6_metOf_315 rfl ?_
                refine g_dup2_11 dX6_metOf_317 (by decide) (by decide) ?_
                obtain ⟨c19, h⟩ := h
                refine g_laload dX6_metOf_318 (by decide) (sk_98 hs.S) c19.1 (t_lt (sn_98 hs.S) c19.2) ?_
                refine g_lload (q := 10) dX6_metOf_319 rfl ?_
                refine g_ladd dX6_metOf_321 ?_
                refine g_lastore dX6_metOf_322 (by decide) (sk_98 hs.S) c19.1 (t_lt (sn_98 hs.S) c19.2) (p_w hs sf_98 (tWs_in _ rfl) fun μ20 eμ20 hs => ?_)
                have h := h μ20 eμ20
                refine g_iinc (q := 9) dX6_metOf_323 (by decide) rfl [1, 2, 3, 4, 5, 6, 7, 8, 9, 0, 10, 11] rfl ?_
                refine g_goto (tgt := 196) dX6_metOf_326 (by decide) ?_
                exact g_less [0, 1, 2, 3, 4, 5, 6, 7, 8, 9] rfl h
              · have h := h.2 c18
                refine g_lload (q := 6) dX6_metOf_301 rfl ?_
                refine g_lload (q := 10) dX6_metOf_303 rfl ?_
                refine g_ladd dX6_metOf_305 ?_
                refine g_lstoreN (fun z => [(0, 2, 65), (1, 0, v1), (2, 0, v2), (3, 0, v3), (4, 0, v4), (5, 0, v5), (6, 1, z), (8, 0, v8), (9, 0, v9), (10, 0, v10), (11, 1, x8), (13, 0, r16)]) dX6_metOf_306 (by decide) [1, 2, 3, 4, 5, 6, 0, 7, 8, 9, 10, 11] (fun _ => rfl) (fun x21 ex21 => ?_)
                have h := h x21 ex21
                refine g_goto (tgt := 323) dX6_metOf_308 (by decide) ?_
                refine g_iinc (q := 9) dX6_metOf_323 (by decide) rfl [1, 2, 3, 4, 5, 6, 7, 8, 9, 0, 10, 11] rfl ?_
                refine g_goto (tgt := 196) dX6_metOf_326 (by decide) ?_
                exact g_less [0, 1, 2, 3, 4, 5, 6, 7, 8, 9] rfl h
            · have h := h.2 c14
              refine g_iload_n (q := 1) dX6_metOf_274 rfl rfl ?_
              refine g_goto (tgt := 279) dX6_metOf_275 (by decide) ?_
              refine g_iload (q := 8) dX6_metOf_279 rfl ?_
              refine g_bipush dX6_metOf_281 ⟨by decide, by decide, rfl⟩ ?_
              refine g_idiv dX6_metOf_283 (by decide) ?_
              refine g_iload (q := 8) dX6_metOf_284 rfl ?_
              refine g_bipush dX6_metOf_286 ⟨by decide, by decide, rfl⟩ ?_
              refine g_irem dX6_metOf_288 (by decide) ?_
              refine g_iload (q := 4) dX6_metOf_289 rfl ?_
              refine g_callV5 dX6_metOf_291 kX6_play q1779 q1781 qs101 (ci := 6) rfl (by decide) rfl (by omega) (by decide) (sk_65 hs.S) (Nat.le_of_ble_eq_true rfl) (Nat.le_refl _) (Nat.le_refl _) (t_kI hs (tWs_sub rfl) h (fun r23 μ22 hs h => ?_))
              refine g_istore (L' := [(0, 2, 65), (1, 0, v1), (2, 0, v2), (3, 0, v3), (4, 0, v4), (5, 0, v5), (6, 1, v6), (8, 0, v8), (9, 0, v9), (10, 0, v10), (11, 1, x8), (13, 0, r23)]) dX6_metOf_294 (by decide) [1, 2, 3, 4, 5, 6, 7, 8, 9, 10, 11, 0] rfl ?_
              refine g_iload (q := 11) dX6_metOf_296 rfl ?_
              refine g_if_ge (tgt := 311) dX6_metOf_298 (by decide) (fun c24 => ?_) (fun c25 => ?_)
              · have h := h.1 c24
                refine g_aload_n (q := 0) dX6_metOf_311 rfl rfl ?_
                refine g_getC (x := 98) 2 dX6_metOf_312 fX6_126 rfl (by decide) (sk_65 hs.S) (sv_65_68 hs.S) ?_
                refine g_iload (q := 11) dX6_metOf_315 rfl ?_
                refine g_dup2_11 dX6_metOf_317 (by decide) (by decide) ?_
                obtain ⟨c26, h⟩ := h
                refine g_laload dX6_metOf_318 (by decide) (sk_98 hs.S) c26.1 (t_lt (sn_98 hs.S) c26.2) ?_
                refine g_lload (q := 10) dX6_metOf_319 rfl ?_
                refine g_ladd dX6_metOf_321 ?_
                refine g_lastore dX6_metOf_322 (by decide) (sk_98 hs.S) c26.1 (t_lt (sn_98 hs.S) c26.2) (p_w hs sf_98 (tWs_in _ rfl) fun μ27 eμ27 hs => ?_)
                have h := h μ27 eμ27
                refine g_iinc (q := 9) dX6_metOf_323 (by decide) rfl [1, 2, 3, 4, 5, 6, 7, 8, 9, 0, 10, 11] rfl ?_
                refine g_goto (tgt := 196) dX6_metOf_326 (by decide) ?_
                exact g_less [0, 1, 2, 3, 4, 5, 6, 7, 8, 9] rfl h
              · have h := h.2 c25
                refine g_lload (q := 6) dX6_metOf_301 rfl ?_
                refine g_lload (q := 10) dX6_metOf_303 rfl ?_
                refine g_ladd dX6_metOf_305 ?_
                refine g_lstoreN (fun z => [(0, 2, 65), (1, 0, v1), (2, 0, v2), (3, 0, v3), (4, 0, v4), (5, 0, v5), (6, 1, z), (8, 0, v8), (9, 0, v9), (10, 0, v10), (11, 1, x8), (13, 0, r23)]) dX6_metOf_306 (by decide) [1, 2, 3, 4, 5, 6, 0, 7, 8, 9, 10, 11] (fun _ => rfl) (fun x28 ex28 => ?_)
                have h := h x28 ex28
                refine g_goto (tgt := 323) dX6_metOf_308 (by decide) ?_
                refine g_iinc (q := 9) dX6_metOf_323 (by decide) rfl [1, 2, 3, 4, 5, 6, 7, 8, 9, 0, 10, 11] rfl ?_
                refine g_goto (tgt := 196) dX6_metOf_326 (by decide) ?_
                exact g_less [0, 1, 2, 3, 4, 5, 6, 7, 8, 9] rfl h
          · have h := h.2 c12
            refine g_iload_n (q := 1) dX6_metOf_262 rfl rfl ?_
            refine g_goto (tgt := 267) dX6_metOf_263 (by decide) ?_
            refine g_iload (q := 9) dX6_metOf_267 rfl ?_
            refine g_iconst dX6_metOf_269 (by decide) ?_
            refine g_irem dX6_metOf_270 (by decide) ?_
            refine g_if_ne (tgt := 278) dX6_metOf_271 (by decide) (fun c29 => ?_) (fun c30 => ?_)
            · have h := h.1 c29
              refine g_iload_n (q := 2) dX6_metOf_278 rfl rfl ?_
              refine g_iload (q := 8) dX6_metOf_279 rfl ?_
              refine g_bipush dX6_metOf_281 ⟨by decide, by decide, rfl⟩ ?_
              refine g_idiv dX6_metOf_283 (by decide) ?_
              refine g_iload (q := 8) dX6_metOf_284 rfl ?_
              refine g_bipush dX6_metOf_286 ⟨by decide, by decide, rfl⟩ ?_
              refine g_irem dX6_metOf_288 (by decide) ?_
              refine g_iload (q := 4) dX6_metOf_289 rfl ?_
              refine g_callV5 dX6_metOf_291 kX6_play q1779 q1781 qs101 (ci := 6) rfl (by decide) rfl (by omega) (by decide) (sk_65 hs.S) (Nat.le_of_ble_eq_true rfl) (Nat.le_refl _) (Nat.le_refl _) (t_kI hs (tWs_sub rfl) h (fun r32 μ31 hs h => ?_))
              refine g_istore (L' := [(0, 2, 65), (1, 0, v1), (2, 0, v2), (3, 0, v3), (4, 0, v4), (5, 0, v5), (6, 1, v6), (8, 0, v8), (9, 0, v9), (10, 0, v10), (11, 1, x8), (13, 0, r32)]) dX6_metOf_294 (by decide) [1, 2, 3, 4, 5, 6, 7, 8, 9, 10, 11, 0] rfl ?_
              refine g_iload (q := 11) dX6_metOf_296 rfl ?_
              refine g_if_ge (tgt := 311) dX6_metOf_298 (by decide) (fun c33 => ?_) (fun c34 => ?_)
              · have h := h.1 c33
                refine g_aload_n (q := 0) dX6_metOf_311 rfl rfl ?_
                refine g_getC (x := 98) 2 dX6_metOf_312 fX6_126 rfl (by decide) (sk_65 hs.S) (sv_65_68 hs.S) ?_
                refine g_iload (q := 11) dX6_metOf_315 rfl ?_
                refine g_dup2_11 dX6_metOf_317 (by decide) (by decide) ?_
                obtain ⟨c35, h⟩ := h
                refine g_laload dX6_metOf_318 (by decide) (sk_98 hs.S) c35.1 (t_lt (sn_98 hs.S) c35.2) ?_
                refine g_lload (q := 10) dX6_metOf_319 rfl ?_
                refine g_ladd dX6_metOf_321 ?_
                refine g_lastore dX6_metOf_322 (by decide) (sk_98 hs.S) c35.1 (t_lt (sn_98 hs.S) c35.2) (p_w hs sf_98 (tWs_in _ rfl) fun μ36 eμ36 hs => ?_)
                have h := h μ36 eμ36
                refine g_iinc (q := 9) dX6_metOf_323 (by decide) rfl [1, 2, 3, 4, 5, 6, 7, 8, 9, 0, 10, 11] rfl ?_
                refine g_goto (tgt := 196) dX6_metOf_326 (by decide) ?_
                exact g_less [0, 1, 2, 3, 4, 5, 6, 7, 8, 9] rfl h
              · have h := h.2 c34
                refine g_lload (q := 6) dX6_metOf_301 rfl ?_
                refine g_lload (q := 10) dX6_metOf_303 rfl ?_
                refine g_ladd dX6_metOf_305 ?_
                refine g_lstoreN (fun z => [(0, 2, 65), (1, 0, v1), (2, 0, v2), (3, 0, v3), (4, 0, v4), (5, 0, v5), (6, 1, z), (8, 0, v8), (9, 0, v9), (10, 0, v10), (11, 1, x8), (13, 0, r32)]) dX6_metOf_306 (by decide) [1, 2, 3, 4, 5, 6, 0, 7, 8, 9, 10, 11] (fun _ => rfl) (fun x37 ex37 => ?_)
                have h := h x37 ex37
                refine g_goto (tgt := 323) dX6_metOf_308 (by decide) ?_
                refine g_iinc (q := 9) dX6_metOf_323 (by decide) rfl [1, 2, 3, 4, 5, 6, 7, 8, 9, 0, 10, 11] rfl ?_
                refine g_goto (tgt := 196) dX6_metOf_326 (by decide) ?_
                exact g_less [0, 1, 2, 3, 4, 5, 6, 7, 8, 9] rfl h
            · have h := h.2 c30
              refine g_iload_n (q := 1) dX6_metOf_274 rfl rfl ?_
              refine g_goto (tgt := 279) dX6_metOf_275 (by decide) ?_
              refine g_iload (q := 8) dX6_metOf_279 rfl ?_
              refine g_bipush dX6_metOf_281 ⟨by decide, by decide, rfl⟩ ?_
              refine g_idiv dX6_metOf_283 (by decide) ?_
              refine g_iload (q := 8) dX6_metOf_284 rfl ?_
              refine g_bipush dX6_metOf_286 ⟨by decide, by decide, rfl⟩ ?_
              refine g_irem dX6_metOf_288 (by decide) ?_
              refine g_iload (q := 4) dX6_metOf_289 rfl ?_
              refine g_callV5 dX6_metOf_291 kX6_play q1779 q1781 qs101 (ci := 6) rfl (by decide) rfl (by omega) (by decide) (sk_65 hs.S) (Nat.le_of_ble_eq_true rfl) (Nat.le_refl _) (Nat.le_refl _) (t_kI hs (tWs_sub rfl) h (fun r39 μ38 hs h => ?_))
              refine g_istore (L' := [(0, 2, 65), (1, 0, v1), (2, 0, v2), (3, 0, v3), (4, 0, v4), (5, 0, v5), (6, 1, v6), (8, 0, v8), (9, 0, v9), (10, 0, v10), (11, 1, x8), (13, 0, r39)]) dX6_metOf_294 (by decide) [1, 2, 3, 4, 5, 6, 7, 8, 9, 10, 11, 0] rfl ?_
              refine g_iload (q := 11) dX6_metOf_296 rfl ?_
              refine g_if_ge (tgt := 311) dX6_metOf_298 (by decide) (fun c40 => ?_) (fun c41 => ?_)
              · have h := h.1 c40
                refine g_aload_n (q := 0) dX6_metOf_311 rfl rfl ?_
                refine g_getC (x := 98) 2 dX6_metOf_312 fX6_126 rfl (by decide) (sk_65 hs.S) (sv_65_68 hs.S) ?_
                refine g_iload (q := 11) dX6_metOf_315 rfl ?_
                refine g_dup2_11 dX6_metOf_317 (by decide) (by decide) ?_
                obtain ⟨c42, h⟩ := h
                refine g_laload dX6_metOf_318 (by decide) (sk_98 hs.S) c42.1 (t_lt (sn_98 hs.S) c42.2) ?_
                refine g_lload (q := 10) dX6_metOf_319 rfl ?_
                refine g_ladd dX6_metOf_321 ?_
                refine g_lastore dX6_metOf_322 (by decide) (sk_98 hs.S) c42.1 (t_lt (sn_98 hs.S) c42.2) (p_w hs sf_98 (tWs_in _ rfl) fun μ43 eμ43 hs => ?_)
                have h := h μ43 eμ43
                refine g_iinc (q := 9) dX6_metOf_323 (by decide) rfl [1, 2, 3, 4, 5, 6, 7, 8, 9, 0, 10, 11] rfl ?_
                refine g_goto (tgt := 196) dX6_metOf_326 (by decide) ?_
                exact g_less [0, 1, 2, 3, 4, 5, 6, 7, 8, 9] rfl h
              · have h := h.2 c41
                refine g_lload (q := 6) dX6_metOf_301 rfl ?_
                refine g_lload (q := 10) dX6_metOf_303 rfl ?_
                refine g_ladd dX6_metOf_305 ?_
                refine g_lstoreN (fun z => [(0, 2, 65), (1, 0, v1), (2, 0, v2), (3, 0, v3), (4, 0, v4), (5, 0, v5), (6, 1, z), (8, 0, v8), (9, 0, v9), (10, 0, v10), (11, 1, x8), (13, 0, r39)]) dX6_metOf_306 (by decide) [1, 2, 3, 4, 5, 6, 0, 7, 8, 9, 10, 11] (fun _ => rfl) (fun x44 ex44 => ?_)
                have h := h x44 ex44
                refine g_goto (tgt := 323) dX6_metOf_308 (by decide) ?_
                refine g_iinc (q := 9) dX6_metOf_323 (by decide) rfl [1, 2, 3, 4, 5, 6, 7, 8, 9, 0, 10, 11] rfl ?_
                refine g_goto (tgt := 196) dX6_metOf_326 (by decide) ?_
                exact g_less [0, 1, 2, 3, 4, 5, 6, 7, 8, 9] rfl h
        · have h := h.2 c10
          refine g_iconst dX6_metOf_251 (by decide) ?_
          refine g_goto (tgt := 294) dX6_metOf_252 (by decide) ?_
          refine g_istore (L' := [(0, 2, 65), (1, 0, v1), (2, 0, v2), (3, 0, v3), (4, 0, v4), (5, 0, v5), (6, 1, v6), (8, 0, v8), (9, 0, v9), (10, 0, v10), (11, 1, x8), (13, 0, 0)]) dX6_metOf_294 (by decide) [1, 2, 3, 4, 5, 6, 7, 8, 9, 10, 11, 0] rfl ?_
          refine g_iload (q := 11) dX6_metOf_296 rfl ?_
          refine g_if_ge (tgt := 311) dX6_metOf_298 (by decide) (fun c45 => ?_) (fun c46 => ?_)
          · refine g_aload_n (q := 0) dX6_metOf_311 rfl rfl ?_
            refine g_getC (x := 98) 2 dX6_metOf_312 fX6_126 rfl (by decide) (sk_65 hs.S) (sv_65_68 hs.S) ?_
            refine g_iload (q := 11) dX6_metOf_315 rfl ?_
            refine g_dup2_11 dX6_metOf_317 (by decide) (by decide) ?_
            refine g_laload dX6_metOf_318 (by decide) (sk_98 hs.S) (by decide) (t_lt (sn_98 hs.S) (by decide)) ?_
            refine g_lload (q := 10) dX6_metOf_319 rfl ?_
            refine g_ladd dX6_metOf_321 ?_
            refine g_lastore dX6_metOf_322 (by decide) (sk_98 hs.S) (by decide) (t_lt (sn_98 hs.S) (by decide)) (p_w hs sf_98 (tWs_in _ rfl) fun μ47 eμ47 hs => ?_)
            have h := h μ47 eμ47
            refine g_iinc (q := 9) dX6_metOf_323 (by decide) rfl [1, 2, 3, 4, 5, 6, 7, 8, 9, 0, 10, 11] rfl ?_
            refine g_goto (tgt := 196) dX6_metOf_326 (by decide) ?_
            exact g_less [0, 1, 2, 3, 4, 5, 6, 7, 8, 9] rfl h
          · exact absurd c46 (by decide)
      · have h := h.2 c7
        refine g_iload_n (q := 3) dX6_metOf_232 rfl rfl ?_
        refine g_goto (tgt := 240) dX6_metOf_233 (by decide) ?_
        refine g_i2l dX6_metOf_240 ?_
        refine g_lmul dX6_metOf_241 ?_
        refine g_lstoreN (fun z => [(0, 2, 65), (1, 0, v1), (2, 0, v2), (3, 0, v3), (4, 0, v4), (5, 0, v5), (6, 1, v6), (8, 0, v8), (9, 0, v9), (10, 0, v10), (11, 1, z)]) dX6_metOf_242 (by decide) [1, 2, 3, 4, 5, 6, 7, 8, 9, 10, 0] (fun _ => rfl) (fun x48 ex48 => ?_)
        have h := h x48 ex48
        refine g_lload (q := 10) dX6_metOf_244 rfl ?_
        refine g_lconst0 dX6_metOf_246 ?_
        refine g_lcmp_ne (tgt := 255) dX6_metOf_247 dX6_metOf_248 (by decide) (fun c49 => ?_) (fun c50 => ?_)
        · have h := h.1 c49
          refine g_aload_n (q := 0) dX6_metOf_255 rfl rfl ?_
          refine g_iload (q := 9) dX6_metOf_256 rfl ?_
          refine g_iconst dX6_metOf_258 (by decide) ?_
          refine g_icmp_ge (tgt := 266) dX6_metOf_259 (by decide) (fun c51 => ?_) (fun c52 => ?_)
          · have h := h.1 c51
            refine g_iload_n (q := 2) dX6_metOf_266 rfl rfl ?_
            refine g_iload (q := 9) dX6_metOf_267 rfl ?_
            refine g_iconst dX6_metOf_269 (by decide) ?_
            refine g_irem dX6_metOf_270 (by decide) ?_
            refine g_if_ne (tgt := 278) dX6_metOf_271 (by decide) (fun c53 => ?_) (fun c54 => ?_)
            · have h := h.1 c53
              refine g_iload_n (q := 2) dX6_metOf_278 rfl rfl ?_
              refine g_iload (q := 8) dX6_metOf_279 rfl ?_
              refine g_bipush dX6_metOf_281 ⟨by decide, by decide, rfl⟩ ?_
              refine g_idiv dX6_metOf_283 (by decide) ?_
              refine g_iload (q := 8) dX6_metOf_284 rfl ?_
              refine g_bipush dX6_metOf_286 ⟨by decide, by decide, rfl⟩ ?_
              refine g_irem dX6_metOf_288 (by decide) ?_
              refine g_iload (q := 4) dX6_metOf_289 rfl ?_
              refine g_callV5 dX6_metOf_291 kX6_play q1779 q1781 qs101 (ci := 6) rfl (by decide) rfl (by omega) (by decide) (sk_65 hs.S) (Nat.le_of_ble_eq_true rfl) (Nat.le_refl _) (Nat.le_refl _) (t_kI hs (tWs_sub rfl) h (fun r56 μ55 hs h => ?_))
              refine g_istore (L' := [(0, 2, 65), (1, 0, v1), (2, 0, v2), (3, 0, v3), (4, 0, v4), (5, 0, v5), (6, 1, v6), (8, 0, v8), (9, 0, v9), (10, 0, v10), (11, 1, x48), (13, 0, r56)]) dX6_metOf_294 (by decide) [1, 2, 3, 4, 5, 6, 7, 8, 9, 10, 11, 0] rfl ?_
              refine g_iload (q := 11) dX6_metOf_296 rfl ?_
              refine g_if_ge (tgt := 311) dX6_metOf_298 (by decide) (fun c57 => ?_) (fun c58 => ?_)
              · have h := h.1 c57
                refine g_aload_n (q := 0) dX6_metOf_311 rfl rfl ?_
                refine g_getC (x := 98) 2 dX6_metOf_312 fX6_126 rfl (by decide) (sk_65 hs.S) (sv_65_68 hs.S) ?_
                refine g_iload (q := 11) dX6_metOf_315 rfl ?_
                refine g_dup2_11 dX6_metOf_317 (by decide) (by decide) ?_
                obtain ⟨c59, h⟩ := h
                refine g_laload dX6_metOf_318 (by decide) (sk_98 hs.S) c59.1 (t_lt (sn_98 hs.S) c59.2) ?_
                refine g_lload (q := 10) dX6_metOf_319 rfl ?_
                refine g_ladd dX6_metOf_321 ?_
                refine g_lastore dX6_metOf_322 (by decide) (sk_98 hs.S) c59.1 (t_lt (sn_98 hs.S) c59.2) (p_w hs sf_98 (tWs_in _ rfl) fun μ60 eμ60 hs => ?_)
                have h := h μ60 eμ60
                refine g_iinc (q := 9) dX6_metOf_323 (by decide) rfl [1, 2, 3, 4, 5, 6, 7, 8, 9, 0, 10, 11] rfl ?_
                refine g_goto (tgt := 196) dX6_metOf_326 (by decide) ?_
                exact g_less [0, 1, 2, 3, 4, 5, 6, 7, 8, 9] rfl h
              · have h := h.2 c58
                refine g_lload (q := 6) dX6_metOf_301 rfl ?_
                refine g_lload (q := 10) dX6_metOf_303 rfl ?_
                refine g_ladd dX6_metOf_305 ?_
                refine g_lstoreN (fun z => [(0, 2, 65), (1, 0, v1), (2, 0, v2), (3, 0, v3), (4, 0, v4), (5, 0, v5), (6, 1, z), (8, 0, v8), (9, 0, v9), (10, 0, v10), (11, 1, x48), (13, 0, r56)]) dX6_metOf_306 (by decide) [1, 2, 3, 4, 5, 6, 0, 7, 8, 9, 10, 11] (fun _ => rfl) (fun x61 ex61 => ?_)
                have h := h x61 ex61
                refine g_goto (tgt := 323) dX6_metOf_308 (by decide) ?_
                refine g_iinc (q := 9) dX6_metOf_323 (by decide) rfl [1, 2, 3, 4, 5, 6, 7, 8, 9, 0, 10, 11] rfl ?_
                refine g_goto (tgt := 196) dX6_metOf_326 (by decide) ?_
                exact g_less [0, 1, 2, 3, 4, 5, 6, 7, 8, 9] rfl h
            · have h := h.2 c54
              refine g_iload_n (q := 1) dX6_metOf_274 rfl rfl ?_
              refine g_goto (tgt := 279) dX6_metOf_275 (by decide) ?_
              refine g_iload (q := 8) dX6_metOf_279 rfl ?_
              refine g_bipush dX6_metOf_281 ⟨by decide, by decide, rfl⟩ ?_
              refine g_idiv dX6_metOf_283 (by decide) ?_
              refine g_iload (q := 8) dX6_metOf_284 rfl ?_
              refine g_bipush dX6_metOf_286 ⟨by decide, by decide, rfl⟩ ?_
              refine g_irem dX6_metOf_288 (by decide) ?_
              refine g_iload (q := 4) dX6_metOf_289 rfl ?_
              refine g_callV5 dX6_metOf_291 kX6_play q1779 q1781 qs101 (ci := 6) rfl (by decide) rfl (by omega) (by decide) (sk_65 hs.S) (Nat.le_of_ble_eq_true rfl) (Nat.le_refl _) (Nat.le_refl _) (t_kI hs (tWs_sub rfl) h (fun r63 μ62 hs h => ?_))
              refine g_istore (L' := [(0, 2, 65), (1, 0, v1), (2, 0, v2), (3, 0, v3), (4, 0, v4), (5, 0, v5), (6, 1, v6), (8, 0, v8), (9, 0, v9), (10, 0, v10), (11, 1, x48), (13, 0, r63)]) dX6_metOf_294 (by decide) [1, 2, 3, 4, 5, 6, 7, 8, 9, 10, 11, 0] rfl ?_
              refine g_iload (q := 11) dX6_metOf_296 rfl ?_
              refine g_if_ge (tgt := 311) dX6_metOf_298 (by decide) (fun c64 => ?_) (fun c65 => ?_)
              · have h := h.1 c64
                refine g_aload_n (q := 0) dX6_metOf_311 rfl rfl ?_
                refine g_getC (x := 98) 2 dX6_metOf_312 fX6_126 rfl (by decide) (sk_65 hs.S) (sv_65_68 hs.S) ?_
                refine g_iload (q := 11) dX6_metOf_315 rfl ?_
                refine g_dup2_11 dX6_metOf_317 (by decide) (by decide) ?_
                obtain ⟨c66, h⟩ := h
                refine g_laload dX6_metOf_318 (by decide) (sk_98 hs.S) c66.1 (t_lt (sn_98 hs.S) c66.2) ?_
                refine g_lload (q := 10) dX6_metOf_319 rfl ?_
                refine g_ladd dX6_metOf_321 ?_
                refine g_lastore dX6_metOf_322 (by decide) (sk_98 hs.S) c66.1 (t_lt (sn_98 hs.S) c66.2) (p_w hs sf_98 (tWs_in _ rfl) fun μ67 eμ67 hs => ?_)
                have h := h μ67 eμ67
                refine g_iinc (q := 9) dX6_metOf_323 (by decide) rfl [1, 2, 3, 4, 5, 6, 7, 8, 9, 0, 10, 11] rfl ?_
                refine g_goto (tgt := 196) dX6_metOf_326 (by decide) ?_
                exact g_less [0, 1, 2, 3, 4, 5, 6, 7, 8, 9] rfl h
              · have h := h.2 c65
                refine g_lload (q := 6) dX6_metOf_301 rfl ?_
                refine g_lload (q := 10) dX6_metOf_303 rfl ?_
                refine g_ladd dX6_metOf_305 ?_
                refine g_lstoreN (fun z => [(0, 2, 65), (1, 0, v1), (2, 0, v2), (3, 0, v3), (4, 0, v4), (5, 0, v5), (6, 1, z), (8, 0, v8), (9, 0, v9), (10, 0, v10), (11, 1, x48), (13, 0, r63)]) dX6_metOf_306 (by decide) [1, 2, 3, 4, 5, 6, 0, 7, 8, 9, 10, 11] (fun _ => rfl) (fun x68 ex68 => ?_)
                have h := h x68 ex68
                refine g_goto (tgt := 323) dX6_metOf_308 (by decide) ?_
                refine g_iinc (q := 9) dX6_metOf_323 (by decide) rfl [1, 2, 3, 4, 5, 6, 7, 8, 9, 0, 10, 11] rfl ?_
                refine g_goto (tgt := 196) dX6_metOf_326 (by decide) ?_
                exact g_less [0, 1, 2, 3, 4, 5, 6, 7, 8, 9] rfl h
          · have h := h.2 c52
            refine g_iload_n (q := 1) dX6_metOf_262 rfl rfl ?_
            refine g_goto (tgt := 267) dX6_metOf_263 (by decide) ?_
            refine g_iload (q := 9) dX6_metOf_267 rfl ?_
            refine g_iconst dX6_metOf_269 (by decide) ?_
            refine g_irem dX6_metOf_270 (by decide) ?_
            refine g_if_ne (tgt := 278) dX6_metOf_271 (by decide) (fun c69 => ?_) (fun c70 => ?_)
            · have h := h.1 c69
              refine g_iload_n (q := 2) dX6_metOf_278 rfl rfl ?_
              refine g_iload (q := 8) dX6_metOf_279 rfl ?_
              refine g_bipush dX6_metOf_281 ⟨by decide, by decide, rfl⟩ ?_
              refine g_idiv dX6_metOf_283 (by decide) ?_
              refine g_iload (q := 8) dX6_metOf_284 rfl ?_
              refine g_bipush dX6_metOf_286 ⟨by decide, by decide, rfl⟩ ?_
              refine g_irem dX6_metOf_288 (by decide) ?_
              refine g_iload (q := 4) dX6_metOf_289 rfl ?_
              refine g_callV5 dX6_metOf_291 kX6_play q1779 q1781 qs101 (ci := 6) rfl (by decide) rfl (by omega) (by decide) (sk_65 hs.S) (Nat.le_of_ble_eq_true rfl) (Nat.le_refl _) (Nat.le_refl _) (t_kI hs (tWs_sub rfl) h (fun r72 μ71 hs h => ?_))
              refine g_istore (L' := [(0, 2, 65), (1, 0, v1), (2, 0, v2), (3, 0, v3), (4, 0, v4), (5, 0, v5), (6, 1, v6), (8, 0, v8), (9, 0, v9), (10, 0, v10), (11, 1, x48), (13, 0, r72)]) dX6_metOf_294 (by decide) [1, 2, 3, 4, 5, 6, 7, 8, 9, 10, 11, 0] rfl ?_
              refine g_iload (q := 11) dX6_metOf_296 rfl ?_
              refine g_if_ge (tgt := 311) dX6_metOf_298 (by decide) (fun c73 => ?_) (fun c74 => ?_)
              · have h := h.1 c73
                refine g_aload_n (q := 0) dX6_metOf_311 rfl rfl ?_
                refine g_getC (x := 98) 2 dX6_metOf_312 fX6_126 rfl (by decide) (sk_65 hs.S) (sv_65_68 hs.S) ?_
                refine g_iload (q := 11) dX6_metOf_315 rfl ?_
                refine g_dup2_11 dX6_metOf_317 (by decide) (by decide) ?_
                obtain ⟨c75, h⟩ := h
                refine g_laload dX6_metOf_318 (by decide) (sk_98 hs.S) c75.1 (t_lt (sn_98 hs.S) c75.2) ?_
                refine g_lload (q := 10) dX6_metOf_319 rfl ?_
                refine g_ladd dX6_metOf_321 ?_
                refine g_lastore dX6_metOf_322 (by decide) (sk_98 hs.S) c75.1 (t_lt (sn_98 hs.S) c75.2) (p_w hs sf_98 (tWs_in _ rfl) fun μ76 eμ76 hs => ?_)
                have h := h μ76 eμ76
                refine g_iinc (q := 9) dX6_metOf_323 (by decide) rfl [1, 2, 3, 4, 5, 6, 7, 8, 9, 0, 10, 11] rfl ?_
                refine g_goto (tgt := 196) dX6_metOf_326 (by decide) ?_
                exact g_less [0, 1, 2, 3, 4, 5, 6, 7, 8, 9] rfl h
              · have h := h.2 c74
                refine g_lload (q := 6) dX6_metOf_301 rfl ?_
                refine g_lload (q := 10) dX6_metOf_303 rfl ?_
                refine g_ladd dX6_metOf_305 ?_
                refine g_lstoreN (fun z => [(0, 2, 65), (1, 0, v1), (2, 0, v2), (3, 0, v3), (4, 0, v4), (5, 0, v5), (6, 1, z), (8, 0, v8), (9, 0, v9), (10, 0, v10), (11, 1, x48), (13, 0, r72)]) dX6_metOf_306 (by decide) [1, 2, 3, 4, 5, 6, 0, 7, 8, 9, 10, 11] (fun _ => rfl) (fun x77 ex77 => ?_)
                have h := h x77 ex77
                refine g_goto (tgt := 323) dX6_metOf_308 (by decide) ?_
                refine g_iinc (q := 9) dX6_metOf_323 (by decide) rfl [1, 2, 3, 4, 5, 6, 7, 8, 9, 0, 10, 11] rfl ?_
                refine g_goto (tgt := 196) dX6_metOf_326 (by decide) ?_
                exact g_less [0, 1, 2, 3, 4, 5, 6, 7, 8, 9] rfl h
            · have h := h.2 c70
              refine g_iload_n (q := 1) dX6_metOf_274 rfl rfl ?_
              refine g_goto (tgt := 279) dX6_metOf_275 (by decide) ?_
              refine g_iload (q := 8) dX6_metOf_279 rfl ?_
              refine g_bipush dX6_metOf_281 ⟨by decide, by decide, rfl⟩ ?_
              refine g_idiv dX6_metOf_283 (by decide) ?_
              refine g_iload (q := 8) dX6_metOf_284 rfl ?_
              refine g_bipush dX6_metOf_286 ⟨by decide, by decide, rfl⟩ ?_
              refine g_irem dX6_metOf_288 (by decide) ?_
              refine g_iload (q := 4) dX6_metOf_289 rfl ?_
              refine g_callV5 dX6_metOf_291 kX6_play q1779 q1781 qs101 (ci := 6) rfl (by decide) rfl (by omega) (by decide) (sk_65 hs.S) (Nat.le_of_ble_eq_true rfl) (Nat.le_refl _) (Nat.le_refl _) (t_kI hs (tWs_sub rfl) h (fun r79 μ78 hs h => ?_))
              refine g_istore (L' := [(0, 2, 65), (1, 0, v1), (2, 0, v2), (3, 0, v3), (4, 0, v4), (5, 0, v5), (6, 1, v6), (8, 0, v8), (9, 0, v9), (10, 0, v10), (11, 1, x48), (13, 0, r79)]) dX6_metOf_294 (by decide) [1, 2, 3, 4, 5, 6, 7, 8, 9, 10, 11, 0] rfl ?_
              refine g_iload (q := 11) dX6_metOf_296 rfl ?_
              refine g_if_ge (tgt := 311) dX6_metOf_298 (by decide) (fun c80 => ?_) (fun c81 => ?_)
              · have h := h.1 c80
                refine g_aload_n (q := 0) dX6_metOf_311 rfl rfl ?_
                refine g_getC (x := 98) 2 dX6_metOf_312 fX6_126 rfl (by decide) (sk_65 hs.S) (sv_65_68 hs.S) ?_
                refine g_iload (q := 11) dX6_metOf_315 rfl ?_
                refine g_dup2_11 dX6_metOf_317 (by decide) (by decide) ?_
                obtain ⟨c82, h⟩ := h
                refine g_laload dX6_metOf_318 (by decide) (sk_98 hs.S) c82.1 (t_lt (sn_98 hs.S) c82.2) ?_
                refine g_lload (q := 10) dX6_metOf_319 rfl ?_
                refine g_ladd dX6_metOf_321 ?_
                refine g_lastore dX6_metOf_322 (by decide) (sk_98 hs.S) c82.1 (t_lt (sn_98 hs.S) c82.2) (p_w hs sf_98 (tWs_in _ rfl) fun μ83 eμ83 hs => ?_)
                have h := h μ83 eμ83
                refine g_iinc (q := 9) dX6_metOf_323 (by decide) rfl [1, 2, 3, 4, 5, 6, 7, 8, 9, 0, 10, 11] rfl ?_
                refine g_goto (tgt := 196) dX6_metOf_326 (by decide) ?_
                exact g_less [0, 1, 2, 3, 4, 5, 6, 7, 8, 9] rfl h
              · have h := h.2 c81
                refine g_lload (q := 6) dX6_metOf_301 rfl ?_
                refine g_lload (q := 10) dX6_metOf_303 rfl ?_
                refine g_ladd dX6_metOf_305 ?_
                refine g_lstoreN (fun z => [(0, 2, 65), (1, 0, v1), (2, 0, v2), (3, 0, v3), (4, 0, v4), (5, 0, v5), (6, 1, z), (8, 0, v8), (9, 0, v9), (10, 0, v10), (11, 1, x48), (13, 0, r79)]) dX6_metOf_306 (by decide) [1, 2, 3, 4, 5, 6, 0, 7, 8, 9, 10, 11] (fun _ => rfl) (fun x84 ex84 => ?_)
                have h := h x84 ex84
                refine g_goto (tgt := 323) dX6_metOf_308 (by decide) ?_
                refine g_iinc (q := 9) dX6_metOf_323 (by decide) rfl [1, 2, 3, 4, 5, 6, 7, 8, 9, 0, 10, 11] rfl ?_
                refine g_goto (tgt := 196) dX6_metOf_326 (by decide) ?_
                exact g_less [0, 1, 2, 3, 4, 5, 6, 7, 8, 9] rfl h
        · have h := h.2 c50
          refine g_iconst dX6_metOf_251 (by decide) ?_
          refine g_goto (tgt := 294) dX6_metOf_252 (by decide) ?_
          refine g_istore (L' := [(0, 2, 65), (1, 0, v1), (2, 0, v2), (3, 0, v3), (4, 0, v4), (5, 0, v5), (6, 1, v6), (8, 0, v8), (9, 0, v9), (10, 0, v10), (11, 1, x48), (13, 0, 0)]) dX6_metOf_294 (by decide) [1, 2, 3, 4, 5, 6, 7, 8, 9, 10, 11, 0] rfl ?_
          refine g_iload (q := 11) dX6_metOf_296 rfl ?_
          refine g_if_ge (tgt := 311) dX6_metOf_298 (by decide) (fun c85 => ?_) (fun c86 => ?_)
          · refine g_aload_n (q := 0) dX6_metOf_311 rfl rfl ?_
            refine g_getC (x := 98) 2 dX6_metOf_312 fX6_126 rfl (by decide) (sk_65 hs.S) (sv_65_68 hs.S) ?_
            refine g_iload (q := 11) dX6_metOf_315 rfl ?_
            refine g_dup2_11 dX6_metOf_317 (by decide) (by decide) ?_
            refine g_laload dX6_metOf_318 (by decide) (sk_98 hs.S) (by decide) (t_lt (sn_98 hs.S) (by decide)) ?_
            refine g_lload (q := 10) dX6_metOf_319 rfl ?_
            refine g_ladd dX6_metOf_321 ?_
            refine g_lastore dX6_metOf_322 (by decide) (sk_98 hs.S) (by decide) (t_lt (sn_98 hs.S) (by decide)) (p_w hs sf_98 (tWs_in _ rfl) fun μ87 eμ87 hs => ?_)
            have h := h μ87 eμ87
            refine g_iinc (q := 9) dX6_metOf_323 (by decide) rfl [1, 2, 3, 4, 5, 6, 7, 8, 9, 0, 10, 11] rfl ?_
            refine g_goto (tgt := 196) dX6_metOf_326 (by decide) ?_
            exact g_less [0, 1, 2, 3, 4, 5, 6, 7, 8, 9] rfl h
          · exact absurd c86 (by decide)
    · have h := h.2 c5
      refine g_iload_n (q := 3) dX6_metOf_215 rfl rfl ?_
      refine g_goto (tgt := 223) dX6_metOf_216 (by decide) ?_
      refine g_i2l dX6_metOf_223 ?_
      refine g_lmul dX6_metOf_224 ?_
      refine g_iload (q := 9) dX6_metOf_225 rfl ?_
      refine g_iconst dX6_metOf_227 (by decide) ?_
      refine g_irem dX6_metOf_228 (by decide) ?_
      refine g_if_ne (tgt := 236) dX6_metOf_229 (by decide) (fun c88 => ?_) (fun c89 => ?_)
      · have h := h.1 c88
        refine g_bipush dX6_metOf_236 ⟨by decide, by decide, rfl⟩ ?_
        refine g_iload_n (q := 3) dX6_metOf_238 rfl rfl ?_
        refine g_isub dX6_metOf_239 ?_
        refine g_i2l dX6_metOf_240 ?_
        refine g_lmul dX6_metOf_241 ?_
        refine g_lstoreN (fun z => [(0, 2, 65), (1, 0, v1), (2, 0, v2), (3, 0, v3), (4, 0, v4), (5, 0, v5), (6, 1, v6), (8, 0, v8), (9, 0, v9), (10, 0, v10), (11, 1, z)]) dX6_metOf_242 (by decide) [1, 2, 3, 4, 5, 6, 7, 8, 9, 10, 0] (fun _ => rfl) (fun x90 ex90 => ?_)
        have h := h x90 ex90
        refine g_lload (q := 10) dX6_metOf_244 rfl ?_
        refine g_lconst0 dX6_metOf_246 ?_
        refine g_lcmp_ne (tgt := 255) dX6_metOf_247 dX6_metOf_248 (by decide) (fun c91 => ?_) (fun c92 => ?_)
        · have h := h.1 c91
          refine g_aload_n (q := 0) dX6_metOf_255 rfl rfl ?_
          refine g_iload (q := 9) dX6_metOf_256 rfl ?_
          refine g_iconst dX6_metOf_258 (by decide) ?_
          refine g_icmp_ge (tgt := 266) dX6_metOf_259 (by decide) (fun c93 => ?_) (fun c94 => ?_)
          · have h := h.1 c93
            refine g_iload_n (q := 2) dX6_metOf_266 rfl rfl ?_
            refine g_iload (q := 9) dX6_metOf_267 rfl ?_
            refine g_iconst dX6_metOf_269 (by decide) ?_
            refine g_irem dX6_metOf_270 (by decide) ?_
            refine g_if_ne (tgt := 278) dX6_metOf_271 (by decide) (fun c95 => ?_) (fun c96 => ?_)
            · have h := h.1 c95
              refine g_iload_n (q := 2) dX6_metOf_278 rfl rfl ?_
              refine g_iload (q := 8) dX6_metOf_279 rfl ?_
              refine g_bipush dX6_metOf_281 ⟨by decide, by decide, rfl⟩ ?_
              refine g_idiv dX6_metOf_283 (by decide) ?_
              refine g_iload (q := 8) dX6_metOf_284 rfl ?_
              refine g_bipush dX6_metOf_286 ⟨by decide, by decide, rfl⟩ ?_
              refine g_irem dX6_metOf_288 (by decide) ?_
              refine g_iload (q := 4) dX6_metOf_289 rfl ?_
              refine g_callV5 dX6_metOf_291 kX6_play q1779 q1781 qs101 (ci := 6) rfl (by decide) rfl (by omega) (by decide) (sk_65 hs.S) (Nat.le_of_ble_eq_true rfl) (Nat.le_refl _) (Nat.le_refl _) (t_kI hs (tWs_sub rfl) h (fun r98 μ97 hs h => ?_))
              refine g_istore (L' := [(0, 2, 65), (1, 0, v1), (2, 0, v2), (3, 0, v3), (4, 0, v4), (5, 0, v5), (6, 1, v6), (8, 0, v8), (9, 0, v9), (10, 0, v10), (11, 1, x90), (13, 0, r98)]) dX6_metOf_294 (by decide) [1, 2, 3, 4, 5, 6, 7, 8, 9, 10, 11, 0] rfl ?_
              refine g_iload (q := 11) dX6_metOf_296 rfl ?_
              refine g_if_ge (tgt := 311) dX6_metOf_298 (by decide) (fun c99 => ?_) (fun c100 => ?_)
              · have h := h.1 c99
                refine g_aload_n (q := 0) dX6_metOf_311 rfl rfl ?_
                refine g_getC (x := 98) 2 dX6_metOf_312 fX6_126 rfl (by decide) (sk_65 hs.S) (sv_65_68 hs.S) ?_
                refine g_iload (q := 11) dX6_metOf_315 rfl ?_
                refine g_dup2_11 dX6_metOf_317 (by decide) (by decide) ?_
                obtain ⟨c101, h⟩ := h
                refine g_laload dX6_metOf_318 (by decide) (sk_98 hs.S) c101.1 (t_lt (sn_98 hs.S) c101.2) ?_
                refine g_lload (q := 10) dX6_metOf_319 rfl ?_
                refine g_ladd dX6_metOf_321 ?_
                refine g_lastore dX6_metOf_322 (by decide) (sk_98 hs.S) c101.1 (t_lt (sn_98 hs.S) c101.2) (p_w hs sf_98 (tWs_in _ rfl) fun μ102 eμ102 hs => ?_)
                have h := h μ102 eμ102
                refine g_iinc (q := 9) dX6_metOf_323 (by decide) rfl [1, 2, 3, 4, 5, 6, 7, 8, 9, 0, 10, 11] rfl ?_
                refine g_goto (tgt := 196) dX6_metOf_326 (by decide) ?_
                exact g_less [0, 1, 2, 3, 4, 5, 6, 7, 8, 9] rfl h
              · have h := h.2 c100
                refine g_lload (q := 6) dX6_metOf_301 rfl ?_
                refine g_lload (q := 10) dX6_metOf_303 rfl ?_
                refine g_ladd dX6_metOf_305 ?_
                refine g_lstoreN (fun z => [(0, 2, 65), (1, 0, v1), (2, 0, v2), (3, 0, v3), (4, 0, v4), (5, 0, v5), (6, 1, z), (8, 0, v8), (9, 0, v9), (10, 0, v10), (11, 1, x90), (13, 0, r98)]) dX6_metOf_306 (by decide) [1, 2, 3, 4, 5, 6, 0, 7, 8, 9, 10, 11] (fun _ => rfl) (fun x103 ex103 => ?_)
                have h := h x103 ex103
                refine g_goto (tgt := 323) dX6_metOf_308 (by decide) ?_
                refine g_iinc (q := 9) dX6_metOf_323 (by decide) rfl [1, 2, 3, 4, 5, 6, 7, 8, 9, 0, 10, 11] rfl ?_
                refine g_goto (tgt := 196) dX6_metOf_326 (by decide) ?_
                exact g_less [0, 1, 2, 3, 4, 5, 6, 7, 8, 9] rfl h
            · have h := h.2 c96
              refine g_iload_n (q := 1) dX6_metOf_274 rfl rfl ?_
              refine g_goto (tgt := 279) dX6_metOf_275 (by decide) ?_
              refine g_iload (q := 8) dX6_metOf_279 rfl ?_
              refine g_bipush dX6_metOf_281 ⟨by decide, by decide, rfl⟩ ?_
              refine g_idiv dX6_metOf_283 (by decide) ?_
              refine g_iload (q := 8) dX6_metOf_284 rfl ?_
              refine g_bipush dX6_metOf_286 ⟨by decide, by decide, rfl⟩ ?_
              refine g_irem dX6_metOf_288 (by decide) ?_
              refine g_iload (q := 4) dX6_metOf_289 rfl ?_
              refine g_callV5 dX6_metOf_291 kX6_play q1779 q1781 qs101 (ci := 6) rfl (by decide) rfl (by omega) (by decide) (sk_65 hs.S) (Nat.le_of_ble_eq_true rfl) (Nat.le_refl _) (Nat.le_refl _) (t_kI hs (tWs_sub rfl) h (fun r105 μ104 hs h => ?_))
              refine g_istore (L' := [(0, 2, 65), (1, 0, v1), (2, 0, v2), (3, 0, v3), (4, 0, v4), (5, 0, v5), (6, 1, v6), (8, 0, v8), (9, 0, v9), (10, 0, v10), (11, 1, x90), (13, 0, r105)]) dX6_metOf_294 (by decide) [1, 2, 3, 4, 5, 6, 7, 8, 9, 10, 11, 0] rfl ?_
              refine g_iload (q := 11) dX6_metOf_296 rfl ?_
              refine g_if_ge (tgt := 311) dX6_metOf_298 (by decide) (fun c106 => ?_) (fun c107 => ?_)
              · have h := h.1 c106
                refine g_aload_n (q := 0) dX6_metOf_311 rfl rfl ?_
                refine g_getC (x := 98) 2 dX6_metOf_312 fX6_126 rfl (by decide) (sk_65 hs.S) (sv_65_68 hs.S) ?_
                refine g_iload (q := 11) dX6_metOf_315 rfl ?_
                refine g_dup2_11 dX6_metOf_317 (by decide) (by decide) ?_
                obtain ⟨c108, h⟩ := h
                refine g_laload dX6_metOf_318 (by decide) (sk_98 hs.S) c108.1 (t_lt (sn_98 hs.S) c108.2) ?_
                refine g_lload (q := 10) dX6_metOf_319 rfl ?_
                refine g_ladd dX6_metOf_321 ?_
                refine g_lastore dX6_metOf_322 (by decide) (sk_98 hs.S) c108.1 (t_lt (sn_98 hs.S) c108.2) (p_w hs sf_98 (tWs_in _ rfl) fun μ109 eμ109 hs => ?_)
                have h := h μ109 eμ109
                refine g_iinc (q := 9) dX6_metOf_323 (by decide) rfl [1, 2, 3, 4, 5, 6, 7, 8, 9, 0, 10, 11] rfl ?_
                refine g_goto (tgt := 196) dX6_metOf_326 (by decide) ?_
                exact g_less [0, 1, 2, 3, 4, 5, 6, 7, 8, 9] rfl h
              · have h := h.2 c107
                refine g_lload (q := 6) dX6_metOf_301 rfl ?_
                refine g_lload (q := 10) dX6_metOf_303 rfl ?_
                refine g_ladd dX6_metOf_305 ?_
                refine g_lstoreN (fun z => [(0, 2, 65), (1, 0, v1), (2, 0, v2), (3, 0, v3), (4, 0, v4), (5, 0, v5), (6, 1, z), (8, 0, v8), (9, 0, v9), (10, 0, v10), (11, 1, x90), (13, 0, r105)]) dX6_metOf_306 (by decide) [1, 2, 3, 4, 5, 6, 0, 7, 8, 9, 10, 11] (fun _ => rfl) (fun x110 ex110 => ?_)
                have h := h x110 ex110
                refine g_goto (tgt := 323) dX6_metOf_308 (by decide) ?_
                refine g_iinc (q := 9) dX6_metOf_323 (by decide) rfl [1, 2, 3, 4, 5, 6, 7, 8, 9, 0, 10, 11] rfl ?_
                refine g_goto (tgt := 196) dX6_metOf_326 (by decide) ?_
                exact g_less [0, 1, 2, 3, 4, 5, 6, 7, 8, 9] rfl h
          · have h := h.2 c94
            refine g_iload_n (q := 1) dX6_metOf_262 rfl rfl ?_
            refine g_goto (tgt := 267) dX6_metOf_263 (by decide) ?_
            refine g_iload (q := 9) dX6_metOf_267 rfl ?_
            refine g_iconst dX6_metOf_269 (by decide) ?_
            refine g_irem dX6_metOf_270 (by decide) ?_
            refine g_if_ne (tgt := 278) dX6_metOf_271 (by decide) (fun c111 => ?_) (fun c112 => ?_)
            · have h := h.1 c111
              refine g_iload_n (q := 2) dX6_metOf_278 rfl rfl ?_
              refine g_iload (q := 8) dX6_metOf_279 rfl ?_
              refine g_bipush dX6_metOf_281 ⟨by decide, by decide, rfl⟩ ?_
              refine g_idiv dX6_metOf_283 (by decide) ?_
              refine g_iload (q := 8) dX6_metOf_284 rfl ?_
              refine g_bipush dX6_metOf_286 ⟨by decide, by decide, rfl⟩ ?_
              refine g_irem dX6_metOf_288 (by decide) ?_
              refine g_iload (q := 4) dX6_metOf_289 rfl ?_
              refine g_callV5 dX6_metOf_291 kX6_play q1779 q1781 qs101 (ci := 6) rfl (by decide) rfl (by omega) (by decide) (sk_65 hs.S) (Nat.le_of_ble_eq_true rfl) (Nat.le_refl _) (Nat.le_refl _) (t_kI hs (tWs_sub rfl) h (fun r114 μ113 hs h => ?_))
              refine g_istore (L' := [(0, 2, 65), (1, 0, v1), (2, 0, v2), (3, 0, v3), (4, 0, v4), (5, 0, v5), (6, 1, v6), (8, 0, v8), (9, 0, v9), (10, 0, v10), (11, 1, x90), (13, 0, r114)]) dX6_metOf_294 (by decide) [1, 2, 3, 4, 5, 6, 7, 8, 9, 10, 11, 0] rfl ?_
              refine g_iload (q := 11) dX6_metOf_296 rfl ?_
              refine g_if_ge (tgt := 311) dX6_metOf_298 (by decide) (fun c115 => ?_) (fun c116 => ?_)
              · have h := h.1 c115
                refine g_aload_n (q := 0) dX6_metOf_311 rfl rfl ?_
                refine g_getC (x := 98) 2 dX6_metOf_312 fX6_126 rfl (by decide) (sk_65 hs.S) (sv_65_68 hs.S) ?_
                refine g_iload (q := 11) dX6_metOf_315 rfl ?_
                refine g_dup2_11 dX6_metOf_317 (by decide) (by decide) ?_
                obtain ⟨c117, h⟩ := h
                refine g_laload dX6_metOf_318 (by decide) (sk_98 hs.S) c117.1 (t_lt (sn_98 hs.S) c117.2) ?_
                refine g_lload (q := 10) dX6_metOf_319 rfl ?_
                refine g_ladd dX6_metOf_321 ?_
                refine g_lastore dX6_metOf_322 (by decide) (sk_98 hs.S) c117.1 (t_lt (sn_98 hs.S) c117.2) (p_w hs sf_98 (tWs_in _ rfl) fun μ118 eμ118 hs => ?_)
                have h := h μ118 eμ118
                refine g_iinc (q := 9) dX6_metOf_323 (by decide) rfl [1, 2, 3, 4, 5, 6, 7, 8, 9, 0, 10, 11] rfl ?_
                refine g_goto (tgt := 196) dX6_metOf_326 (by decide) ?_
                exact g_less [0, 1, 2, 3, 4, 5, 6, 7, 8, 9] rfl h
              · have h := h.2 c116
                refine g_lload (q := 6) dX6_metOf_301 rfl ?_
                refine g_lload (q := 10) dX6_metOf_303 rfl ?_
                refine g_ladd dX6_metOf_305 ?_
                refine g_lstoreN (fun z => [(0, 2, 65), (1, 0, v1), (2, 0, v2), (3, 0, v3), (4, 0, v4), (5, 0, v5), (6, 1, z), (8, 0, v8), (9, 0, v9), (10, 0, v10), (11, 1, x90), (13, 0, r114)]) dX6_metOf_306 (by decide) [1, 2, 3, 4, 5, 6, 0, 7, 8, 9, 10, 11] (fun _ => rfl) (fun x119 ex119 => ?_)
                have h := h x119 ex119
                refine g_goto (tgt := 323) dX6_metOf_308 (by decide) ?_
                refine g_iinc (q := 9) dX6_metOf_323 (by decide) rfl [1, 2, 3, 4, 5, 6, 7, 8, 9, 0, 10, 11] rfl ?_
                refine g_goto (tgt := 196) dX6_metOf_326 (by decide) ?_
                exact g_less [0, 1, 2, 3, 4, 5, 6, 7, 8, 9] rfl h
            · have h := h.2 c112
              refine g_iload_n (q := 1) dX6_metOf_274 rfl rfl ?_
              refine g_goto (tgt := 279) dX6_metOf_275 (by decide) ?_
              refine g_iload (q := 8) dX6_metOf_279 rfl ?_
              refine g_bipush dX6_metOf_281 ⟨by decide, by decide, rfl⟩ ?_
              refine g_idiv dX6_metOf_283 (by decide) ?_
              refine g_iload (q := 8) dX6_metOf_284 rfl ?_
              refine g_bipush dX6_metOf_286 ⟨by decide, by decide, rfl⟩ ?_
              refine g_irem dX6_metOf_288 (by decide) ?_
              refine g_iload (q := 4) dX6_metOf_289 rfl ?_
              refine g_callV5 dX6_metOf_291 kX6_play q1779 q1781 qs101 (ci := 6) rfl (by decide) rfl (by omega) (by decide) (sk_65 hs.S) (Nat.le_of_ble_eq_true rfl) (Nat.le_refl _) (Nat.le_refl _) (t_kI hs (tWs_sub rfl) h (fun r121 μ120 hs h => ?_))
              refine g_istore (L' := [(0, 2, 65), (1, 0, v1), (2, 0, v2), (3, 0, v3), (4, 0, v4), (5, 0, v5), (6, 1, v6), (8, 0, v8), (9, 0, v9), (10, 0, v10), (11, 1, x90), (13, 0, r121)]) dX6_metOf_294 (by decide) [1, 2, 3, 4, 5, 6, 7, 8, 9, 10, 11, 0] rfl ?_
              refine g_iload (q := 11) dX6_metOf_296 rfl ?_
              refine g_if_ge (tgt := 311) dX6_metOf_298 (by decide) (fun c122 => ?_) (fun c123 => ?_)
              · have h := h.1 c122
                refine g_aload_n (q := 0) dX6_metOf_311 rfl rfl ?_
                refine g_getC (x := 98) 2 dX6_metOf_312 fX6_126 rfl (by decide) (sk_65 hs.S) (sv_65_68 hs.S) ?_
                refine g_iload (q := 11) dX6_metOf_315 rfl ?_
                refine g_dup2_11 dX6_metOf_317 (by decide) (by decide) ?_
                obtain ⟨c124, h⟩ := h
                refine g_laload dX6_metOf_318 (by decide) (sk_98 hs.S) c124.1 (t_lt (sn_98 hs.S) c124.2) ?_
                refine g_lload (q := 10) dX6_metOf_319 rfl ?_
                refine g_ladd dX6_metOf_321 ?_
                refine g_lastore dX6_metOf_322 (by decide) (sk_98 hs.S) c124.1 (t_lt (sn_98 hs.S) c124.2) (p_w hs sf_98 (tWs_in _ rfl) fun μ125 eμ125 hs => ?_)
                have h := h μ125 eμ125
                refine g_iinc (q := 9) dX6_metOf_323 (by decide) rfl [1, 2, 3, 4, 5, 6, 7, 8, 9, 0, 10, 11] rfl ?_
                refine g_goto (tgt := 196) dX6_metOf_326 (by decide) ?_
                exact g_less [0, 1, 2, 3, 4, 5, 6, 7, 8, 9] rfl h
              · have h := h.2 c123
                refine g_lload (q := 6) dX6_metOf_301 rfl ?_
                refine g_lload (q := 10) dX6_metOf_303 rfl ?_
                refine g_ladd dX6_metOf_305 ?_
                refine g_lstoreN (fun z => [(0, 2, 65), (1, 0, v1), (2, 0, v2), (3, 0, v3), (4, 0, v4), (5, 0, v5), (6, 1, z), (8, 0, v8), (9, 0, v9), (10, 0, v10), (11, 1, x90), (13, 0, r121)]) dX6_metOf_306 (by decide) [1, 2, 3, 4, 5, 6, 0, 7, 8, 9, 10, 11] (fun _ => rfl) (fun x126 ex126 => ?_)
                have h := h x126 ex126
                refine g_goto (tgt := 323) dX6_metOf_308 (by decide) ?_
                refine g_iinc (q := 9) dX6_metOf_323 (by decide) rfl [1, 2, 3, 4, 5, 6, 7, 8, 9, 0, 10, 11] rfl ?_
                refine g_goto (tgt := 196) dX6_metOf_326 (by decide) ?_
                exact g_less [0, 1, 2, 3, 4, 5, 6, 7, 8, 9] rfl h
        · have h := h.2 c92
          refine g_iconst dX6_metOf_251 (by decide) ?_
          refine g_goto (tgt := 294) dX6_metOf_252 (by decide) ?_
          refine g_istore (L' := [(0, 2, 65), (1, 0, v1), (2, 0, v2), (3, 0, v3), (4, 0, v4), (5, 0, v5), (6, 1, v6), (8, 0, v8), (9, 0, v9), (10, 0, v10), (11, 1, x90), (13, 0, 0)]) dX6_metOf_294 (by decide) [1, 2, 3, 4, 5, 6, 7, 8, 9, 10, 11, 0] rfl ?_
          refine g_iload (q := 11) dX6_metOf_296 rfl ?_
          refine g_if_ge (tgt := 311) dX6_metOf_298 (by decide) (fun c127 => ?_) (fun c128 => ?_)
          · refine g_aload_n (q := 0) dX6_metOf_311 rfl rfl ?_
            refine g_getC (x := 98) 2 dX6_metOf_312 fX6_126 rfl (by decide) (sk_65 hs.S) (sv_65_68 hs.S) ?_
            refine g_iload (q := 11) dX6_metOf_315 rfl ?_
            refine g_dup2_11 dX6_metOf_317 (by decide) (by decide) ?_
            refine g_laload dX6_metOf_318 (by decide) (sk_98 hs.S) (by decide) (t_lt (sn_98 hs.S) (by decide)) ?_
            refine g_lload (q := 10) dX6_metOf_319 rfl ?_
            refine g_ladd dX6_metOf_321 ?_
            refine g_lastore dX6_metOf_322 (by decide) (sk_98 hs.S) (by decide) (t_lt (sn_98 hs.S) (by decide)) (p_w hs sf_98 (tWs_in _ rfl) fun μ129 eμ129 hs => ?_)
            have h := h μ129 eμ129
            refine g_iinc (q := 9) dX6_metOf_323 (by decide) rfl [1, 2, 3, 4, 5, 6, 7, 8, 9, 0, 10, 11] rfl ?_
            refine g_goto (tgt := 196) dX6_metOf_326 (by decide) ?_
            exact g_less [0, 1, 2, 3, 4, 5, 6, 7, 8, 9] rfl h
          · exact absurd c128 (by decide)
      · have h := h.2 c89
        refine g_iload_n (q := 3) dX6_metOf_232 rfl rfl ?_
        refine g_goto (tgt := 240) dX6_metOf_233 (by decide) ?_
        refine g_i2l dX6_metOf_240 ?_
        refine g_lmul dX6_metOf_241 ?_
        refine g_lstoreN (fun z => [(0, 2, 65), (1, 0, v1), (2, 0, v2), (3, 0, v3), (4, 0, v4), (5, 0, v5), (6, 1, v6), (8, 0, v8), (9, 0, v9), (10, 0, v10), (11, 1, z)]) dX6_metOf_242 (by decide) [1, 2, 3, 4, 5, 6, 7, 8, 9, 10, 0] (fun _ => rfl) (fun x130 ex130 => ?_)
        have h := h x130 ex130
        refine g_lload (q := 10) dX6_metOf_244 rfl ?_
        refine g_lconst0 dX6_metOf_246 ?_
        refine g_lcmp_ne (tgt := 255) dX6_metOf_247 dX6_metOf_248 (by decide) (fun c131 => ?_) (fun c132 => ?_)
        · have h := h.1 c131
          refine g_aload_n (q := 0) dX6_metOf_255 rfl rfl ?_
          refine g_iload (q := 9) dX6_metOf_256 rfl ?_
          refine g_iconst dX6_metOf_258 (by decide) ?_
          refine g_icmp_ge (tgt := 266) dX6_metOf_259 (by decide) (fun c133 => ?_) (fun c134 => ?_)
          · have h := h.1 c133
            refine g_iload_n (q := 2) dX6_metOf_266 rfl rfl ?_
            refine g_iload (q := 9) dX6_metOf_267 rfl ?_
            refine g_iconst dX6_metOf_269 (by decide) ?_
            refine g_irem dX6_metOf_270 (by decide) ?_
            refine g_if_ne (tgt := 278) dX6_metOf_271 (by decide) (fun c135 => ?_) (fun c136 => ?_)
            · have h := h.1 c135
              refine g_iload_n (q := 2) dX6_metOf_278 rfl rfl ?_
              refine g_iload (q := 8) dX6_metOf_279 rfl ?_
              refine g_bipush dX6_metOf_281 ⟨by decide, by decide, rfl⟩ ?_
              refine g_idiv dX6_metOf_283 (by decide) ?_
              refine g_iload (q := 8) dX6_metOf_284 rfl ?_
              refine g_bipush dX6_metOf_286 ⟨by decide, by decide, rfl⟩ ?_
              refine g_irem dX6_metOf_288 (by decide) ?_
              refine g_iload (q := 4) dX6_metOf_289 rfl ?_
              refine g_callV5 dX6_metOf_291 kX6_play q1779 q1781 qs101 (ci := 6) rfl (by decide) rfl (by omega) (by decide) (sk_65 hs.S) (Nat.le_of_ble_eq_true rfl) (Nat.le_refl _) (Nat.le_refl _) (t_kI hs (tWs_sub rfl) h (fun r138 μ137 hs h => ?_))
              refine g_istore (L' := [(0, 2, 65), (1, 0, v1), (2, 0, v2), (3, 0, v3), (4, 0, v4), (5, 0, v5), (6, 1, v6), (8, 0, v8), (9, 0, v9), (10, 0, v10), (11, 1, x130), (13, 0, r138)]) dX6_metOf_294 (by decide) [1, 2, 3, 4, 5, 6, 7, 8, 9, 10, 11, 0] rfl ?_
              refine g_iload (q := 11) dX6_metOf_296 rfl ?_
              refine g_if_ge (tgt := 311) dX6_metOf_298 (by decide) (fun c139 => ?_) (fun c140 => ?_)
              · have h := h.1 c139
                refine g_aload_n (q := 0) dX6_metOf_311 rfl rfl ?_
                refine g_getC (x := 98) 2 dX6_metOf_312 fX6_126 rfl (by decide) (sk_65 hs.S) (sv_65_68 hs.S) ?_
                refine g_iload (q := 11) dX6_metOf_315 rfl ?_
                refine g_dup2_11 dX6_metOf_317 (by decide) (by decide) ?_
                obtain ⟨c141, h⟩ := h
                refine g_laload dX6_metOf_318 (by decide) (sk_98 hs.S) c141.1 (t_lt (sn_98 hs.S) c141.2) ?_
                refine g_lload (q := 10) dX6_metOf_319 rfl ?_
                refine g_ladd dX6_metOf_321 ?_
                refine g_lastore dX6_metOf_322 (by decide) (sk_98 hs.S) c141.1 (t_lt (sn_98 hs.S) c141.2) (p_w hs sf_98 (tWs_in _ rfl) fun μ142 eμ142 hs => ?_)
                have h := h μ142 eμ142
                refine g_iinc (q := 9) dX6_metOf_323 (by decide) rfl [1, 2, 3, 4, 5, 6, 7, 8, 9, 0, 10, 11] rfl ?_
                refine g_goto (tgt := 196) dX6_metOf_326 (by decide) ?_
                exact g_less [0, 1, 2, 3, 4, 5, 6, 7, 8, 9] rfl h
              · have h := h.2 c140
                refine g_lload (q := 6) dX6_metOf_301 rfl ?_
                refine g_lload (q := 10) dX6_metOf_303 rfl ?_
                refine g_ladd dX6_metOf_305 ?_
                refine g_lstoreN (fun z => [(0, 2, 65), (1, 0, v1), (2, 0, v2), (3, 0, v3), (4, 0, v4), (5, 0, v5), (6, 1, z), (8, 0, v8), (9, 0, v9), (10, 0, v10), (11, 1, x130), (13, 0, r138)]) dX6_metOf_306 (by decide) [1, 2, 3, 4, 5, 6, 0, 7, 8, 9, 10, 11] (fun _ => rfl) (fun x143 ex143 => ?_)
                have h := h x143 ex143
                refine g_goto (tgt := 323) dX6_metOf_308 (by decide) ?_
                refine g_iinc (q := 9) dX6_metOf_323 (by decide) rfl [1, 2, 3, 4, 5, 6, 7, 8, 9, 0, 10, 11] rfl ?_
                refine g_goto (tgt := 196) dX6_metOf_326 (by decide) ?_
                exact g_less [0, 1, 2, 3, 4, 5, 6, 7, 8, 9] rfl h
            · have h := h.2 c136
              refine g_iload_n (q := 1) dX6_metOf_274 rfl rfl ?_
              refine g_goto (tgt := 279) dX6_metOf_275 (by decide) ?_
              refine g_iload (q := 8) dX6_metOf_279 rfl ?_
              refine g_bipush dX6_metOf_281 ⟨by decide, by decide, rfl⟩ ?_
              refine g_idiv dX6_metOf_283 (by decide) ?_
              refine g_iload (q := 8) dX6_metOf_284 rfl ?_
              refine g_bipush dX6_metOf_286 ⟨by decide, by decide, rfl⟩ ?_
              refine g_irem dX6_metOf_288 (by decide) ?_
              refine g_iload (q := 4) dX6_metOf_289 rfl ?_
              refine g_callV5 dX6_metOf_291 kX6_play q1779 q1781 qs101 (ci := 6) rfl (by decide) rfl (by omega) (by decide) (sk_65 hs.S) (Nat.le_of_ble_eq_true rfl) (Nat.le_refl _) (Nat.le_refl _) (t_kI hs (tWs_sub rfl) h (fun r145 μ144 hs h => ?_))
              refine g_istore (L' := [(0, 2, 65), (1, 0, v1), (2, 0, v2), (3, 0, v3), (4, 0, v4), (5, 0, v5), (6, 1, v6), (8, 0, v8), (9, 0, v9), (10, 0, v10), (11, 1, x130), (13, 0, r145)]) dX6_metOf_294 (by decide) [1, 2, 3, 4, 5, 6, 7, 8, 9, 10, 11, 0] rfl ?_
              refine g_iload (q := 11) dX6_metOf_296 rfl ?_
              refine g_if_ge (tgt := 311) dX6_metOf_298 (by decide) (fun c146 => ?_) (fun c147 => ?_)
              · have h := h.1 c146
                refine g_aload_n (q := 0) dX6_metOf_311 rfl rfl ?_
                refine g_getC (x := 98) 2 dX6_metOf_312 fX6_126 rfl (by decide) (sk_65 hs.S) (sv_65_68 hs.S) ?_
                refine g_iload (q := 11) dX6_metOf_315 rfl ?_
                refine g_dup2_11 dX6_metOf_317 (by decide) (by decide) ?_
                obtain ⟨c148, h⟩ := h
                refine g_laload dX6_metOf_318 (by decide) (sk_98 hs.S) c148.1 (t_lt (sn_98 hs.S) c148.2) ?_
                refine g_lload (q := 10) dX6_metOf_319 rfl ?_
                refine g_ladd dX6_metOf_321 ?_
                refine g_lastore dX6_metOf_322 (by decide) (sk_98 hs.S) c148.1 (t_lt (sn_98 hs.S) c148.2) (p_w hs sf_98 (tWs_in _ rfl) fun μ149 eμ149 hs => ?_)
                have h := h μ149 eμ149
                refine g_iinc (q := 9) dX6_metOf_323 (by decide) rfl [1, 2, 3, 4, 5, 6, 7, 8, 9, 0, 10, 11] rfl ?_
                refine g_goto (tgt := 196) dX6_metOf_326 (by decide) ?_
                exact g_less [0, 1, 2, 3, 4, 5, 6, 7, 8, 9] rfl h
              · have h := h.2 c147
                refine g_lload (q := 6) dX6_metOf_301 rfl ?_
                refine g_lload (q := 10) dX6_metOf_303 rfl ?_
                refine g_ladd dX6_metOf_305 ?_
                refine g_lstoreN (fun z => [(0, 2, 65), (1, 0, v1), (2, 0, v2), (3, 0, v3), (4, 0, v4), (5, 0, v5), (6, 1, z), (8, 0, v8), (9, 0, v9), (10, 0, v10), (11, 1, x130), (13, 0, r145)]) dX6_metOf_306 (by decide) [1, 2, 3, 4, 5, 6, 0, 7, 8, 9, 10, 11] (fun _ => rfl) (fun x150 ex150 => ?_)
                have h := h x150 ex150
                refine g_goto (tgt := 323) dX6_metOf_308 (by decide) ?_
                refine g_iinc (q := 9) dX6_metOf_323 (by decide) rfl [1, 2, 3, 4, 5, 6, 7, 8, 9, 0, 10, 11] rfl ?_
                refine g_goto (tgt := 196) dX6_metOf_326 (by decide) ?_
                exact g_less [0, 1, 2, 3, 4, 5, 6, 7, 8, 9] rfl h
          · have h := h.2 c134
            refine g_iload_n (q := 1) dX6_metOf_262 rfl rfl ?_
            refine g_goto (tgt := 267) dX6_metOf_263 (by decide) ?_
            refine g_iload (q := 9) dX6_metOf_267 rfl ?_
            refine g_iconst dX6_metOf_269 (by decide) ?_
            refine g_irem dX6_metOf_270 (by decide) ?_
            refine g_if_ne (tgt := 278) dX6_metOf_271 (by decide) (fun c151 => ?_) (fun c152 => ?_)
            · have h := h.1 c151
              refine g_iload_n (q := 2) dX6_metOf_278 rfl rfl ?_
              refine g_iload (q := 8) dX6_metOf_279 rfl ?_
              refine g_bipush dX6_metOf_281 ⟨by decide, by decide, rfl⟩ ?_
              refine g_idiv dX6_metOf_283 (by decide) ?_
              refine g_iload (q := 8) dX6_metOf_284 rfl ?_
              refine g_bipush dX6_metOf_286 ⟨by decide, by decide, rfl⟩ ?_
              refine g_irem dX6_metOf_288 (by decide) ?_
              refine g_iload (q := 4) dX6_metOf_289 rfl ?_
              refine g_callV5 dX6_metOf_291 kX6_play q1779 q1781 qs101 (ci := 6) rfl (by decide) rfl (by omega) (by decide) (sk_65 hs.S) (Nat.le_of_ble_eq_true rfl) (Nat.le_refl _) (Nat.le_refl _) (t_kI hs (tWs_sub rfl) h (fun r154 μ153 hs h => ?_))
              refine g_istore (L' := [(0, 2, 65), (1, 0, v1), (2, 0, v2), (3, 0, v3), (4, 0, v4), (5, 0, v5), (6, 1, v6), (8, 0, v8), (9, 0, v9), (10, 0, v10), (11, 1, x130), (13, 0, r154)]) dX6_metOf_294 (by decide) [1, 2, 3, 4, 5, 6, 7, 8, 9, 10, 11, 0] rfl ?_
              refine g_iload (q := 11) dX6_metOf_296 rfl ?_
              refine g_if_ge (tgt := 311) dX6_metOf_298 (by decide) (fun c155 => ?_) (fun c156 => ?_)
              · have h := h.1 c155
                refine g_aload_n (q := 0) dX6_metOf_311 rfl rfl ?_
                refine g_getC (x := 98) 2 dX6_metOf_312 fX6_126 rfl (by decide) (sk_65 hs.S) (sv_65_68 hs.S) ?_
                refine g_iload (q := 11) dX6_metOf_315 rfl ?_
                refine g_dup2_11 dX6_metOf_317 (by decide) (by decide) ?_
                obtain ⟨c157, h⟩ := h
                refine g_laload dX6_metOf_318 (by decide) (sk_98 hs.S) c157.1 (t_lt (sn_98 hs.S) c157.2) ?_
                refine g_lload (q := 10) dX6_metOf_319 rfl ?_
                refine g_ladd dX6_metOf_321 ?_
                refine g_lastore dX6_metOf_322 (by decide) (sk_98 hs.S) c157.1 (t_lt (sn_98 hs.S) c157.2) (p_w hs sf_98 (tWs_in _ rfl) fun μ158 eμ158 hs => ?_)
                have h := h μ158 eμ158
                refine g_iinc (q := 9) dX6_metOf_323 (by decide) rfl [1, 2, 3, 4, 5, 6, 7, 8, 9, 0, 10, 11] rfl ?_
                refine g_goto (tgt := 196) dX6_metOf_326 (by decide) ?_
                exact g_less [0, 1, 2, 3, 4, 5, 6, 7, 8, 9] rfl h
              · have h := h.2 c156
                refine g_lload (q := 6) dX6_metOf_301 rfl ?_
                refine g_lload (q := 10) dX6_metOf_303 rfl ?_
                refine g_ladd dX6_metOf_305 ?_
                refine g_lstoreN (fun z => [(0, 2, 65), (1, 0, v1), (2, 0, v2), (3, 0, v3), (4, 0, v4), (5, 0, v5), (6, 1, z), (8, 0, v8), (9, 0, v9), (10, 0, v10), (11, 1, x130), (13, 0, r154)]) dX6_metOf_306 (by decide) [1, 2, 3, 4, 5, 6, 0, 7, 8, 9, 10, 11] (fun _ => rfl) (fun x159 ex159 => ?_)
                have h := h x159 ex159
                refine g_goto (tgt := 323) dX6_metOf_308 (by decide) ?_
                refine g_iinc (q := 9) dX6_metOf_323 (by decide) rfl [1, 2, 3, 4, 5, 6, 7, 8, 9, 0, 10, 11] rfl ?_
                refine g_goto (tgt := 196) dX6_metOf_326 (by decide) ?_
                exact g_less [0, 1, 2, 3, 4, 5, 6, 7, 8, 9] rfl h
            · have h := h.2 c152
              refine g_iload_n (q := 1) dX6_metOf_274 rfl rfl ?_
              refine g_goto (tgt := 279) dX6_metOf_275 (by decide) ?_
              refine g_iload (q := 8) dX6_metOf_279 rfl ?_
              refine g_bipush dX6_metOf_281 ⟨by decide, by decide, rfl⟩ ?_
              refine g_idiv dX6_metOf_283 (by decide) ?_
              refine g_iload (q := 8) dX6_metOf_284 rfl ?_
              refine g_bipush dX6_metOf_286 ⟨by decide, by decide, rfl⟩ ?_
              refine g_irem dX6_metOf_288 (by decide) ?_
              refine g_iload (q := 4) dX6_metOf_289 rfl ?_
              refine g_callV5 dX6_metOf_291 kX6_play q1779 q1781 qs101 (ci := 6) rfl (by decide) rfl (by omega) (by decide) (sk_65 hs.S) (Nat.le_of_ble_eq_true rfl) (Nat.le_refl _) (Nat.le_refl _) (t_kI hs (tWs_sub rfl) h (fun r161 μ160 hs h => ?_))
              refine g_istore (L' := [(0, 2, 65), (1, 0, v1), (2, 0, v2), (3, 0, v3), (4, 0, v4), (5, 0, v5), (6, 1, v6), (8, 0, v8), (9, 0, v9), (10, 0, v10), (11, 1, x130), (13, 0, r161)]) dX6_metOf_294 (by decide) [1, 2, 3, 4, 5, 6, 7, 8, 9, 10, 11, 0] rfl ?_
              refine g_iload (q := 11) dX6_metOf_296 rfl ?_
              refine g_if_ge (tgt := 311) dX6_metOf_298 (by decide) (fun c162 => ?_) (fun c163 => ?_)
              · have h := h.1 c162
                refine g_aload_n (q := 0) dX6_metOf_311 rfl rfl ?_
                refine g_getC (x := 98) 2 dX6_metOf_312 fX6_126 rfl (by decide) (sk_65 hs.S) (sv_65_68 hs.S) ?_
                refine g_iload (q := 11) dX6_metOf_315 rfl ?_
                refine g_dup2_11 dX6_metOf_317 (by decide) (by decide) ?_
                obtain ⟨c164, h⟩ := h
                refine g_laload dX6_metOf_318 (by decide) (sk_98 hs.S) c164.1 (t_lt (sn_98 hs.S) c164.2) ?_
                refine g_lload (q := 10) dX6_metOf_319 rfl ?_
                refine g_ladd dX6_metOf_321 ?_
                refine g_lastore dX6_metOf_322 (by decide) (sk_98 hs.S) c164.1 (t_lt (sn_98 hs.S) c164.2) (p_w hs sf_98 (tWs_in _ rfl) fun μ165 eμ165 hs => ?_)
                have h := h μ165 eμ165
                refine g_iinc (q := 9) dX6_metOf_323 (by decide) rfl [1, 2, 3, 4, 5, 6, 7, 8, 9, 0, 10, 11] rfl ?_
                refine g_goto (tgt := 196) dX6_metOf_326 (by decide) ?_
                exact g_less [0, 1, 2, 3, 4, 5, 6, 7, 8, 9] rfl h
              · have h := h.2 c163
                refine g_lload (q := 6) dX6_metOf_301 rfl ?_
                refine g_lload (q := 10) dX6_metOf_303 rfl ?_
                refine g_ladd dX6_metOf_305 ?_
                refine g_lstoreN (fun z => [(0, 2, 65), (1, 0, v1), (2, 0, v2), (3, 0, v3), (4, 0, v4), (5, 0, v5), (6, 1, z), (8, 0, v8), (9, 0, v9), (10, 0, v10), (11, 1, x130), (13, 0, r161)]) dX6_metOf_306 (by decide) [1, 2, 3, 4, 5, 6, 0, 7, 8, 9, 10, 11] (fun _ => rfl) (fun x166 ex166 => ?_)
                have h := h x166 ex166
                refine g_goto (tgt := 323) dX6_metOf_308 (by decide) ?_
                refine g_iinc (q := 9) dX6_metOf_323 (by decide) rfl [1, 2, 3, 4, 5, 6, 7, 8, 9, 0, 10, 11] rfl ?_
                refine g_goto (tgt := 196) dX6_metOf_326 (by decide) ?_
                exact g_less [0, 1, 2, 3, 4, 5, 6, 7, 8, 9] rfl h
        · have h := h.2 c132
          refine g_iconst dX6_metOf_251 (by decide) ?_
          refine g_goto (tgt := 294) dX6_metOf_252 (by decide) ?_
          refine g_istore (L' := [(0, 2, 65), (1, 0, v1), (2, 0, v2), (3, 0, v3), (4, 0, v4), (5, 0, v5), (6, 1, v6), (8, 0, v8), (9, 0, v9), (10, 0, v10), (11, 1, x130), (13, 0, 0)]) dX6_metOf_294 (by decide) [1, 2, 3, 4, 5, 6, 7, 8, 9, 10, 11, 0] rfl ?_
          refine g_iload (q := 11) dX6_metOf_296 rfl ?_
          refine g_if_ge (tgt := 311) dX6_metOf_298 (by decide) (fun c167 => ?_) (fun c168 => ?_)
          · refine g_aload_n (q := 0) dX6_metOf_311 rfl rfl ?_
            refine g_getC (x := 98) 2 dX6_metOf_312 fX6_126 rfl (by decide) (sk_65 hs.S) (sv_65_68 hs.S) ?_
            refine g_iload (q := 11) dX6_metOf_315 rfl ?_
            refine g_dup2_11 dX6_metOf_317 (by decide) (by decide) ?_
            refine g_laload dX6_metOf_318 (by decide) (sk_98 hs.S) (by decide) (t_lt (sn_98 hs.S) (by decide)) ?_
            refine g_lload (q := 10) dX6_metOf_319 rfl ?_
            refine g_ladd dX6_metOf_321 ?_
            refine g_lastore dX6_metOf_322 (by decide) (sk_98 hs.S) (by decide) (t_lt (sn_98 hs.S) (by decide)) (p_w hs sf_98 (tWs_in _ rfl) fun μ169 eμ169 hs => ?_)
            have h := h μ169 eμ169
            refine g_iinc (q := 9) dX6_metOf_323 (by decide) rfl [1, 2, 3, 4, 5, 6, 7, 8, 9, 0, 10, 11] rfl ?_
            refine g_goto (tgt := 196) dX6_metOf_326 (by decide) ?_
            exact g_less [0, 1, 2, 3, 4, 5, 6, 7, 8, 9] rfl h
          · exact absurd c168 (by decide)
theorem uX6_metOf_338 {d : Nat} {μ0 μ : tm_M} {K : Int → tm_M → Prop} {v1 v2 v3 v4 v5 v6 v8 v9 : Int} (hs : tFr wX6_metOf μ0 μ)
    (h : (64 ≤ v9 → hLo wX6_metOf μ0 mX6_metOf d K 129 [(0, 2, 65), (1, 0, v1), (2, 0, v2), (3, 0, v3), (4, 0, v4), (5, 0, v5), (6, 1, v6), (8, 0, w32 (v8 + 1))] [] μ) ∧ (v9 < 64 → (0 ≤ v9 ∧ v9 < 64) ∧ ((∀ μ4, μ4 = tm_w μ 97 v9 (tm_v μ 98 v9) → hLo wX6_metOf μ0 mX6_metOf d K 338 [(0, 2, 65), (1, 0, v1), (2, 0, v2), (3, 0, v3), (4, 0, v4), (5, 0, v5), (6, 1, v6), (8, 0, v8), (9, 0, w32 (v9 + 1))] [] μ4)))) :
    hLo wX6_metOf μ0 mX6_metOf d K 338 [(0, 2, 65), (1, 0, v1), (2, 0, v2), (3, 0, v3), (4, 0, v4), (5, 0, v5), (6, 1, v6), (8, 0, v8), (9, 0, v9)] [] μ := by
  refine g_iload (q := 8) dX6_metOf_338 rfl ?_
  refine g_bipush dX6_metOf_340 ⟨by decide, by decide, rfl⟩ ?_
  refine g_icmp_ge (tgt := 365) dX6_metOf_342 (by decide) (fun c1 => ?_) (fun c2 => ?_)
  · have h := h.1 c1
    refine g_iinc (q := 7) dX6_metOf_365 (by decide) rfl [1, 2, 3, 4, 5, 6, 7, 0, 8] rfl ?_
    refine g_goto (tgt := 129) dX6_metOf_368 (by decide) ?_
    exact g_less [0, 1, 2, 3, 4, 5, 6, 7] rfl h
  · have h := h.2 c2
    refine g_aload_n (q := 0) dX6_metOf_345 rfl rfl ?_
    refine g_getC (x := 97) 2 dX6_metOf_346 fX6_123 rfl (by decide) (sk_65 hs.S) (sv_65_67 hs.S) ?_
    refine g_iload (q := 8) dX6_metOf_349 rfl ?_
    refine g_aload_n (q := 0) dX6_metOf_351 rfl rfl ?_
    refine g_getC (x := 98) 2 dX6_metOf_352 fX6_126 rfl (by decide) (sk_65 hs.S) (sv_65_68 hs.S) ?_
    refine g_iload (q := 8) dX6_metOf_355 rfl ?_
    obtain ⟨c3, h⟩ := h
    refine g_laload dX6_metOf_357 (by decide) (sk_98 hs.S) c3.1 (t_lt (sn_98 hs.S) c3.2) ?_
    refine g_lastore dX6_metOf_358 (by decide) (sk_97 hs.S) c3.1 (t_lt (sn_97 hs.S) c3.2) (p_w hs sf_97 (tWs_in _ rfl) fun μ4 eμ4 hs => ?_)
    have h := h μ4 eμ4
    refine g_iinc (q := 8) dX6_metOf_359 (by decide) rfl [1, 2, 3, 4, 5, 6, 7, 8, 0] rfl ?_
    refine g_goto (tgt := 338) dX6_metOf_362 (by decide) ?_
    exact h
theorem uX6_drawn_0 {d : Nat} {μ0 μ : tm_M} {K : Int → tm_M → Prop} {v1 v2 v3 v4 v5 : Int} (hd : 1 ≤ d) (hs : tFr wX6_drawn μ0 μ)
    (h : (∀ μ1, μ1 = tm_w μ 65 1 0 → cI wX6_asksDrawn mX6_asksDrawn (d - 1) [(2, 65), (0, v1), (0, v2), (0, v3), (0, v4), (0, v5)] μ1 (fun r3 μ2 => (∀ μ4, μ4 = tm_w μ2 65 0 r3 → (tm_v μ4 65 0 ≤ 0 → cL wX6_metOf mX6_metOf (d - 1) [(2, 65), (0, v1), (0, v2), (0, v3), (0, v4), (0, v5)] μ4 (fun r8 μ7 => cL wX6_wholeOf mX6_wholeOf (d - 1) [(2, 65), (0, v5)] μ7 (fun r10 μ9 => cV wX6_fraction mX6_fraction (d - 1) [(2, 65), (1, r8), (1, r10)] μ9 (fun μ11 => K 1 μ11)))) ∧ (0 < tm_v μ4 65 0 → K 0 μ4))))) :
    hI wX6_drawn μ0 mX6_drawn d K 0 [(0, 2, 65), (1, 0, v1), (2, 0, v2), (3, 0, v3), (4, 0, v4), (5, 0, v5)] [] μ := by
  refine g_aload_n (q := 0) dX6_drawn_0 rfl rfl ?_
  refine g_iconst dX6_drawn_1 (by decide) ?_
  refine g_put dX6_drawn_2 fX6_144 rfl (by decide) (sk_65 hs.S) (fun e => absurd e (by decide)) (p_wj hs (by decide) (tWs_inF rfl) fun μ1 eμ1 hs => ?_)
  have h := h μ1 eμ1
  refine g_aload_n (q := 0) dX6_drawn_5 rfl rfl ?_
  refine g_aload_n (q := 0) dX6_drawn_6 rfl rfl ?_
  refine g_iload_n (q := 1) dX6_drawn_7 rfl rfl ?_
  refine g_iload_n (q := 2) dX6_drawn_8 rfl rfl ?_
  refine g_iload_n (q := 3) dX6_drawn_9 rfl rfl ?_
  refine g_iload (q := 4) dX6_drawn_10 rfl ?_
  refine g_iload (q := 5) dX6_drawn_12 rfl ?_
  refine g_callV5 dX6_drawn_14 kX6_asksDrawn q1769 q1771 qs99 (ci := 6) rfl (by decide) rfl (by omega) (by decide) (sk_65 hs.S) (Nat.le_of_ble_eq_true rfl) (Nat.le_refl _) (Nat.le_refl _) (t_kI hs (tWs_sub rfl) h (fun r3 μ2 hs h => ?_))
  refine g_put dX6_drawn_17 fX6_147 rfl (by decide) (sk_65 hs.S) (fun e => absurd e (by decide)) (p_wj hs (by decide) (tWs_inF rfl) fun μ4 eμ4 hs => ?_)
  have h := h μ4 eμ4
  refine g_aload_n (q := 0) dX6_drawn_20 rfl rfl ?_
  refine g_get 0 dX6_drawn_21 fX6_147 rfl (by decide) (sk_65 hs.S) ?_
  refine g_if_le (tgt := 29) dX6_drawn_24 (by decide) (fun c5 => ?_) (fun c6 => ?_)
  · have h := h.1 c5
    refine g_aload_n (q := 0) dX6_drawn_29 rfl rfl ?_
    refine g_aload_n (q := 0) dX6_drawn_30 rfl rfl ?_
    refine g_iload_n (q := 1) dX6_drawn_31 rfl rfl ?_
    refine g_iload_n (q := 2) dX6_drawn_32 rfl rfl ?_
    refine g_iload_n (q := 3) dX6_drawn_33 rfl rfl ?_
    refine g_iload (q := 4) dX6_drawn_34 rfl ?_
    refine g_iload (q := 5) dX6_drawn_36 rfl ?_
    refine g_callV5 dX6_drawn_38 kX6_metOf q1774 q1776 qs100 (ci := 6) rfl (by decide) rfl (by omega) (by decide) (sk_65 hs.S) (Nat.le_of_ble_eq_true rfl) (Nat.le_refl _) (Nat.le_refl _) (t_kL hs (tWs_sub rfl) h (fun r8 μ7 hs h => ?_))
    refine g_aload_n (q := 0) dX6_drawn_41 rfl rfl ?_
    refine g_iload (q := 5) dX6_drawn_42 rfl ?_
    refine g_callV1 dX6_drawn_44 kX6_wholeOf q1783 q1785 qs102 (ci := 6) rfl (by decide) rfl (by omega) (by decide) (sk_65 hs.S) (Nat.le_of_ble_eq_true rfl) (Nat.le_refl _) (Nat.le_refl _) (t_kL hs (tWs_sub rfl) h (fun r10 μ9 hs h => ?_))
    refine g_callV2 dX6_drawn_47 kX6_fraction q1708 q1710 qs93 (ci := 6) rfl (by decide) rfl (by omega) (by decide) (sk_65 hs.S) (Nat.le_of_ble_eq_true rfl) (Nat.le_refl _) (Nat.le_refl _) (t_kV hs (tWs_sub rfl) h (fun μ11 hs h => ?_))
    refine g_iconst dX6_drawn_50 (by decide) ?_
    exact g_zret dX6_drawn_51 rfl (by decide) (Nat.le_refl _) (Nat.le_refl _) ⟨_, rfl, hs, h⟩
  · have h := h.2 c6
    refine g_iconst dX6_drawn_27 (by decide) ?_
    exact g_zret dX6_drawn_28 rfl (by decide) (Nat.le_refl _) (Nat.le_refl _) ⟨_, rfl, hs, h⟩
theorem uX6_bestDrawn_0 {d : Nat} {μ0 μ : tm_M} {K : Int → tm_M → Prop} {v1 v2 v3 v4 : Int} (hd : 1 ≤ d) (hs : tFr wX6_bestDrawn μ0 μ)
    (h : (∀ μ1, μ1 = tm_w μ 65 1 0 → cI wX6_asksDrawn mX6_asksDrawn (d - 1) [(2, 65), (0, v1), (0, v2), (0, 0), (0, v3), (0, v4)] μ1 (fun r3 μ2 => (∀ μ4, μ4 = tm_w μ2 65 0 r3 → (tm_v μ4 65 0 ≤ 0 → cL wX6_metOf mX6_metOf (d - 1) [(2, 65), (0, v1), (0, v2), (0, 0), (0, v3), (0, v4)] μ4 (fun r8 μ7 => hI wX6_bestDrawn μ0 mX6_bestDrawn d K 46 [(0, 2, 65), (1, 0, v1), (2, 0, v2), (3, 0, v3), (4, 0, v4), (5, 0, 0), (6, 1, r8), (8, 0, 1)] [] μ7)) ∧ (0 < tm_v μ4 65 0 → K (-1) μ4))))) :
    hI wX6_bestDrawn μ0 mX6_bestDrawn d K 0 [(0, 2, 65), (1, 0, v1), (2, 0, v2), (3, 0, v3), (4, 0, v4)] [] μ := by
  refine g_aload_n (q := 0) dX6_bestDrawn_0 rfl rfl ?_
  refine g_iconst dX6_bestDrawn_1 (by decide) ?_
  refine g_put dX6_bestDrawn_2 fX6_144 rfl (by decide) (sk_65 hs.S) (fun e => absurd e (by decide)) (p_wj hs (by decide) (tWs_inF rfl) fun μ1 eμ1 hs => ?_)
  have h := h μ1 eμ1
  refine g_aload_n (q := 0) dX6_bestDrawn_5 rfl rfl ?_
  refine g_aload_n (q := 0) dX6_bestDrawn_6 rfl rfl ?_
  refine g_iload_n (q := 1) dX6_bestDrawn_7 rfl rfl ?_
  refine g_iload_n (q := 2) dX6_bestDrawn_8 rfl rfl ?_
  refine g_iconst dX6_bestDrawn_9 (by decide) ?_
  refine g_iload_n (q := 3) dX6_bestDrawn_10 rfl rfl ?_
  refine g_iload (q := 4) dX6_bestDrawn_11 rfl ?_
  refine g_callV5 dX6_bestDrawn_13 kX6_asksDrawn q1769 q1771 qs99 (ci := 6) rfl (by decide) rfl (by omega) (by decide) (sk_65 hs.S) (Nat.le_of_ble_eq_true rfl) (Nat.le_refl _) (Nat.le_refl _) (t_kI hs (tWs_sub rfl) h (fun r3 μ2 hs h => ?_))
  refine g_put dX6_bestDrawn_16 fX6_147 rfl (by decide) (sk_65 hs.S) (fun e => absurd e (by decide)) (p_wj hs (by decide) (tWs_inF rfl) fun μ4 eμ4 hs => ?_)
  have h := h μ4 eμ4
  refine g_aload_n (q := 0) dX6_bestDrawn_19 rfl rfl ?_
  refine g_get 0 dX6_bestDrawn_20 fX6_147 rfl (by decide) (sk_65 hs.S) ?_
  refine g_if_le (tgt := 28) dX6_bestDrawn_23 (by decide) (fun c5 => ?_) (fun c6 => ?_)
  · have h := h.1 c5
    refine g_iconst dX6_bestDrawn_28 (by decide) ?_
    refine g_istore (L' := [(0, 2, 65), (1, 0, v1), (2, 0, v2), (3, 0, v3), (4, 0, v4), (5, 0, 0)]) dX6_bestDrawn_29 (by decide) [1, 2, 3, 4, 5, 0] rfl ?_
    refine g_aload_n (q := 0) dX6_bestDrawn_31 rfl rfl ?_
    refine g_iload_n (q := 1) dX6_bestDrawn_32 rfl rfl ?_
    refine g_iload_n (q := 2) dX6_bestDrawn_33 rfl rfl ?_
    refine g_iconst dX6_bestDrawn_34 (by decide) ?_
    refine g_iload_n (q := 3) dX6_bestDrawn_35 rfl rfl ?_
    refine g_iload (q := 4) dX6_bestDrawn_36 rfl ?_
    refine g_callV5 dX6_bestDrawn_38 kX6_metOf q1774 q1776 qs100 (ci := 6) rfl (by decide) rfl (by omega) (by decide) (sk_65 hs.S) (Nat.le_of_ble_eq_true rfl) (Nat.le_refl _) (Nat.le_refl _) (t_kL hs (tWs_sub rfl) h (fun r8 μ7 hs h => ?_))
    refine g_lstore (L' := [(0, 2, 65), (1, 0, v1), (2, 0, v2), (3, 0, v3), (4, 0, v4), (5, 0, 0), (6, 1, r8)]) dX6_bestDrawn_41 (by decide) [1, 2, 3, 4, 5, 6, 0] rfl ?_
    refine g_iconst dX6_bestDrawn_43 (by decide) ?_
    refine g_istore (L' := [(0, 2, 65), (1, 0, v1), (2, 0, v2), (3, 0, v3), (4, 0, v4), (5, 0, 0), (6, 1, r8), (8, 0, 1)]) dX6_bestDrawn_44 (by decide) [1, 2, 3, 4, 5, 6, 7, 0] rfl ?_
    exact h
  · have h := h.2 c6
    refine g_iconst dX6_bestDrawn_26 (by decide) ?_
    exact g_iret dX6_bestDrawn_27 rfl (Nat.le_refl _) (Nat.le_refl _) ⟨_, rfl, hs, h⟩
theorem uX6_bestDrawn_46 {d : Nat} {μ0 μ : tm_M} {K : Int → tm_M → Prop} {v1 v2 v3 v4 v5 v6 v8 : Int} (hd : 1 ≤ d) (hs : tFr wX6_bestDrawn μ0 μ)
    (h : (16 < v8 → cL wX6_wholeOf mX6_wholeOf (d - 1) [(2, 65), (0, v4)] μ (fun r4 μ3 => cV wX6_fraction mX6_fraction (d - 1) [(2, 65), (1, v6), (1, r4)] μ3 (fun μ5 => K v5 μ5))) ∧ (v8 ≤ 16 → cL wX6_metOf mX6_metOf (d - 1) [(2, 65), (0, v1), (0, v2), (0, v8), (0, v3), (0, v4)] μ (fun r7 μ6 => (v6 < r7 → hI wX6_bestDrawn μ0 mX6_bestDrawn d K 46 [(0, 2, 65), (1, 0, v1), (2, 0, v2), (3, 0, v3), (4, 0, v4), (5, 0, v8), (6, 1, r7), (8, 0, w32 (v8 + 1))] [] μ6) ∧ (r7 ≤ v6 → hI wX6_bestDrawn μ0 mX6_bestDrawn d K 46 [(0, 2, 65), (1, 0, v1), (2, 0, v2), (3, 0, v3), (4, 0, v4), (5, 0, v5), (6, 1, v6), (8, 0, w32 (v8 + 1))] [] μ6)))) :
    hI wX6_bestDrawn μ0 mX6_bestDrawn d K 46 [(0, 2, 65), (1, 0, v1), (2, 0, v2), (3, 0, v3), (4, 0, v4), (5, 0, v5), (6, 1, v6), (8, 0, v8)] [] μ := by
  refine g_iload (q := 7) dX6_bestDrawn_46 rfl ?_
  refine g_bipush dX6_bestDrawn_48 ⟨by decide, by decide, rfl⟩ ?_
  refine g_icmp_gt (tgt := 91) dX6_bestDrawn_50 (by decide) (fun c1 => ?_) (fun c2 => ?_)
  · have h := h.1 c1
    refine g_aload_n (q := 0) dX6_bestDrawn_91 rfl rfl ?_
    refine g_lload (q := 6) dX6_bestDrawn_92 rfl ?_
    refine g_aload_n (q := 0) dX6_bestDrawn_94 rfl rfl ?_
    refine g_iload (q := 4) dX6_bestDrawn_95 rfl ?_
    refine g_callV1 dX6_bestDrawn_97 kX6_wholeOf q1783 q1785 qs102 (ci := 6) rfl (by decide) rfl (by omega) (by decide) (sk_65 hs.S) (Nat.le_of_ble_eq_true rfl) (Nat.le_refl _) (Nat.le_refl _) (t_kL hs (tWs_sub rfl) h (fun r4 μ3 hs h => ?_))
    refine g_callV2 dX6_bestDrawn_100 kX6_fraction q1708 q1710 qs93 (ci := 6) rfl (by decide) rfl (by omega) (by decide) (sk_65 hs.S) (Nat.le_of_ble_eq_true rfl) (Nat.le_refl _) (Nat.le_refl _) (t_kV hs (tWs_sub rfl) h (fun μ5 hs h => ?_))
    refine g_iload (q := 5) dX6_bestDrawn_103 rfl ?_
    exact g_iret dX6_bestDrawn_105 rfl (Nat.le_refl _) (Nat.le_refl _) ⟨_, rfl, hs, h⟩
  · have h := h.2 c2
    refine g_aload_n (q := 0) dX6_bestDrawn_53 rfl rfl ?_
    refine g_iload_n (q := 1) dX6_bestDrawn_54 rfl rfl ?_
    refine g_iload_n (q := 2) dX6_bestDrawn_55 rfl rfl ?_
    refine g_iload (q := 7) dX6_bestDrawn_56 rfl ?_
    refine g_iload_n (q := 3) dX6_bestDrawn_58 rfl rfl ?_
    refine g_iload (q := 4) dX6_bestDrawn_59 rfl ?_
    refine g_callV5 dX6_bestDrawn_61 kX6_metOf q1774 q1776 qs100 (ci := 6) rfl (by decide) rfl (by omega) (by decide) (sk_65 hs.S) (Nat.le_of_ble_eq_true rfl) (Nat.le_refl _) (Nat.le_refl _) (t_kL hs (tWs_sub rfl) h (fun r7 μ6 hs h => ?_))
    refine g_lstore (L' := [(0, 2, 65), (1, 0, v1), (2, 0, v2), (3, 0, v3), (4, 0, v4), (5, 0, v5), (6, 1, v6), (8, 0, v8), (9, 1, r7)]) dX6_bestDrawn_64 (by decide) [1, 2, 3, 4, 5, 6, 7, 8, 0] rfl ?_
    refine g_lload (q := 8) dX6_bestDrawn_66 rfl ?_
    refine g_lload (q := 6) dX6_bestDrawn_68 rfl ?_
    refine g_lcmp_gt (tgt := 77) dX6_bestDrawn_70 dX6_bestDrawn_71 (by decide) (fun c8 => ?_) (fun c9 => ?_)
    · have h := h.1 c8
      refine g_lload (q := 8) dX6_bestDrawn_77 rfl ?_
      refine g_lstore (L' := [(0, 2, 65), (1, 0, v1), (2, 0, v2), (3, 0, v3), (4, 0, v4), (5, 0, v5), (6, 1, r7), (8, 0, v8), (9, 1, r7)]) dX6_bestDrawn_79 (by decide) [1, 2, 3, 4, 5, 6, 0, 7, 8] rfl ?_
      refine g_iload (q := 7) dX6_bestDrawn_81 rfl ?_
      refine g_istore (L' := [(0, 2, 65), (1, 0, v1), (2, 0, v2), (3, 0, v3), (4, 0, v4), (5, 0, v8), (6, 1, r7), (8, 0, v8), (9, 1, r7)]) dX6_bestDrawn_83 (by decide) [1, 2, 3, 4, 5, 0, 6, 7, 8] rfl ?_
      refine g_iinc (q := 7) dX6_bestDrawn_85 (by decide) rfl [1, 2, 3, 4, 5, 6, 7, 0, 8] rfl ?_
      refine g_goto (tgt := 46) dX6_bestDrawn_88 (by decide) ?_
      exact g_less [0, 1, 2, 3, 4, 5, 6, 7] rfl h
    · have h := h.2 c9
      refine g_goto (tgt := 85) dX6_bestDrawn_74 (by decide) ?_
      refine g_iinc (q := 7) dX6_bestDrawn_85 (by decide) rfl [1, 2, 3, 4, 5, 6, 7, 0, 8] rfl ?_
      refine g_goto (tgt := 46) dX6_bestDrawn_88 (by decide) ?_
      exact g_less [0, 1, 2, 3, 4, 5, 6, 7] rfl h
theorem uX6_three_0 {d : Nat} {μ0 μ : tm_M} {K : Int → tm_M → Prop} {v1 v2 v3 v4 : Int} (hd : 2 ≤ d) (hs : tFr wX6_three μ0 μ)
    (h : (∀ μ1, μ1 = tm_w μ 65 1 0 → (∀ μ2, μ2 = tm_w μ1 65 0 0 → (y_V μ0) ∧ ((¬ (0 ≤ v1 ∧ v1 < tm_v μ0 65 43) → (∀ μ9, μ9 = tm_w μ2 65 0 2 → K (-1) μ9)) ∧ (0 ≤ v1 ∧ v1 < tm_v μ0 65 43 → (¬ (0 ≤ v2 ∧ v2 < tm_v μ0 65 43) → (∀ μ17, μ17 = tm_w μ2 65 0 2 → K (-1) μ17)) ∧ (0 ≤ v2 ∧ v2 < tm_v μ0 65 43 → (¬ (0 ≤ v3 ∧ v3 < tm_v μ0 65 43) → (∀ μ25, μ25 = tm_w μ2 65 0 2 → K (-1) μ25)) ∧ (0 ≤ v3 ∧ v3 < tm_v μ0 65 43 → (¬ (0 ≤ v4 ∧ v4 ≤ 777) → (∀ μ33, μ33 = tm_w μ2 65 0 2 → K (-1) μ33)) ∧ (0 ≤ v4 ∧ v4 ≤ 777 → (y_W μ0) ∧ ((¬ (0 ≤ (w32 (v4.tdiv 100)) ∧ (w32 (v4.tdiv 100)) < tm_v μ0 65 20) → (∀ μ42, μ42 = tm_w μ2 65 0 2 → K (-1) μ42)) ∧ (0 ≤ (w32 (v4.tdiv 100)) ∧ (w32 (v4.tdiv 100)) < tm_v μ0 65 20 → (¬ (0 ≤ ((w32 (v4.tdiv 10)).tmod 10) ∧ ((w32 (v4.tdiv 10)).tmod 10) < tm_v μ0 65 20) → (∀ μ50, μ50 = tm_w μ2 65 0 2 → K (-1) μ50)) ∧ (0 ≤ ((w32 (v4.tdiv 10)).tmod 10) ∧ ((w32 (v4.tdiv 10)).tmod 10) < tm_v μ0 65 20 → (0 ≤ (v4.tmod 10) ∧ (v4.tmod 10) < tm_v μ0 65 20 → (∀ μ58, μ58 = tm_w μ2 100 0 v1 → (∀ μ59, μ59 = tm_w μ58 100 1 v2 → (∀ μ60, μ60 = tm_w μ59 100 2 v3 → (∀ μ61, μ61 = tm_w (tm_w (tm_w μ60 85 0 (w32 (v4.tdiv 100))) 86 0 0) 87 0 0 → (∀ μ63, μ63 = tm_w (tm_w (tm_w μ61 85 1 ((w32 (v4.tdiv 10)).tmod 10)) 86 1 0) 87 1 0 → (∀ μ65, μ65 = tm_w (tm_w (tm_w μ63 85 2 (v4.tmod 10)) 86 2 0) 87 2 0 → hI wX6_three μ0 mX6_three d K 149 [(0, 2, 65), (5, 0, 0)] [] μ65))))))) ∧ (¬ (0 ≤ (v4.tmod 10) ∧ (v4.tmod 10) < tm_v μ0 65 20) → (∀ μ67, μ67 = tm_w μ2 65 0 2 → K (-1) μ67))))))))))))) :
    hI wX6_three μ0 mX6_three d K 0 [(0, 2, 65), (1, 0, v1), (2, 0, v2), (3, 0, v3), (4, 0, v4)] [] μ := by
  refine g_aload_n (q := 0) dX6_three_0 rfl rfl ?_
  refine g_iconst dX6_three_1 (by decide) ?_
  refine g_put dX6_three_2 fX6_144 rfl (by decide) (sk_65 hs.S) (fun e => absurd e (by decide)) (p_wj hs (by decide) (tWs_inF rfl) fun μ1 eμ1 hs => ?_)
  have h := h μ1 eμ1
  refine g_aload_n (q := 0) dX6_three_5 rfl rfl ?_
  refine g_iconst dX6_three_6 (by decide) ?_
  refine g_put dX6_three_7 fX6_147 rfl (by decide) (sk_65 hs.S) (fun e => absurd e (by decide)) (p_wj hs (by decide) (tWs_inF rfl) fun μ2 eμ2 hs => ?_)
  have h := h μ2 eμ2
  refine g_aload_n (q := 0) dX6_three_10 rfl rfl ?_
  refine g_iload_n (q := 1) dX6_three_11 rfl rfl ?_
  obtain ⟨c3, h⟩ := h
  refine g_callV1 dX6_three_12 kX6_isWay q1651 q1653 qs81 (ci := 6) rfl (by decide) rfl (by omega) (by decide) (sk_65 hs.S) (Nat.le_of_ble_eq_true rfl) (Nat.le_refl _) (Nat.le_refl _) (t_pI hs (pX6_isWayF (by omega) hs (tWs_T rfl) c3) ?_)
  refine g_if_eq (tgt := 86) dX6_three_15 (by decide) (fun c7 => ?_) (fun c8 => ?_)
  · have h := h.1 (b2i_0.mp c7)
    refine g_aload_n (q := 0) dX6_three_86 rfl rfl ?_
    refine g_iconst dX6_three_87 (by decide) ?_
    refine g_callV1 dX6_three_88 kX6_refuse q1484 q1486 qs53 (ci := 6) rfl (by decide) rfl (by omega) (by decide) (sk_65 hs.S) (Nat.le_of_ble_eq_true rfl) (Nat.le_refl _) (Nat.le_refl _) (t_kI hs (tWs_sub rfl) (pX6_refuse hs.S) (fun r11 μ9 hs e10 => ?_))
    obtain ⟨rfl, e10⟩ := e10
    have h := h μ9 e10
    exact g_iret dX6_three_91 rfl (Nat.le_refl _) (Nat.le_refl _) ⟨_, rfl, hs, h⟩
  · have h := h.2 (b2i_1.mp c8)
    refine g_aload_n (q := 0) dX6_three_18 rfl rfl ?_
    refine g_iload_n (q := 2) dX6_three_19 rfl rfl ?_
    refine g_callV1 dX6_three_20 kX6_isWay q1651 q1653 qs81 (ci := 6) rfl (by decide) rfl (by omega) (by decide) (sk_65 hs.S) (Nat.le_of_ble_eq_true rfl) (Nat.le_refl _) (Nat.le_refl _) (t_pI hs (pX6_isWayF (by omega) hs (tWs_T rfl) c3) ?_)
    refine g_if_eq (tgt := 86) dX6_three_23 (by decide) (fun c15 => ?_) (fun c16 => ?_)
    · have h := h.1 (b2i_0.mp c15)
      refine g_aload_n (q := 0) dX6_three_86 rfl rfl ?_
      refine g_iconst dX6_three_87 (by decide) ?_
      refine g_callV1 dX6_three_88 kX6_refuse q1484 q1486 qs53 (ci := 6) rfl (by decide) rfl (by omega) (by decide) (sk_65 hs.S) (Nat.le_of_ble_eq_true rfl) (Nat.le_refl _) (Nat.le_refl _) (t_kI hs (tWs_sub rfl) (pX6_refuse hs.S) (fun r19 μ17 hs e18 => ?_))
      obtain ⟨rfl, e18⟩ := e18
      have h := h μ17 e18
      exact g_iret dX6_three_91 rfl (Nat.le_refl _) (Nat.le_refl _) ⟨_, rfl, hs, h⟩
    · have h := h.2 (b2i_1.mp c16)
      refine g_aload_n (q := 0) dX6_three_26 rfl rfl ?_
      refine g_iload_n (q := 3) dX6_three_27 rfl rfl ?_
      refine g_callV1 dX6_three_28 kX6_isWay q1651 q1653 qs81 (ci := 6) rfl (by decide) rfl (by omega) (by decide) (sk_65 hs.S) (Nat.le_of_ble_eq_true rfl) (Nat.le_refl _) (Nat.le_refl _) (t_pI hs (pX6_isWayF (by omega) hs (tWs_T rfl) c3) ?_)
      refine g_if_eq (tgt := 86) dX6_three_31 (by decide) (fun c23 => ?_) (fun c24 => ?_)
      · have h := h.1 (b2i_0.mp c23)
        refine g_aload_n (q := 0) dX6_three_86 rfl rfl ?_
        refine g_iconst dX6_three_87 (by decide) ?_
        refine g_callV1 dX6_three_88 kX6_refuse q1484 q1486 qs53 (ci := 6) rfl (by decide) rfl (by omega) (by decide) (sk_65 hs.S) (Nat.le_of_ble_eq_true rfl) (Nat.le_refl _) (Nat.le_refl _) (t_kI hs (tWs_sub rfl) (pX6_refuse hs.S) (fun r27 μ25 hs e26 => ?_))
        obtain ⟨rfl, e26⟩ := e26
        have h := h μ25 e26
        exact g_iret dX6_three_91 rfl (Nat.le_refl _) (Nat.le_refl _) ⟨_, rfl, hs, h⟩
      · have h := h.2 (b2i_1.mp c24)
        refine g_iload (q := 4) dX6_three_34 rfl ?_
        refine g_i2l dX6_three_36 ?_
        refine g_lconst0 dX6_three_37 ?_
        refine g_ldc2 (v := 777) (by decide) q1795c dX6_three_38 ?_
        refine g_callS3 dX6_three_41 kX6_isIn q1563 q1564 rfl (by omega) (Nat.le_of_ble_eq_true rfl) (Nat.le_refl _) (Nat.le_refl _) (t_pI hs (pX6_isIn hs.S) ?_)
        refine g_if_eq (tgt := 86) dX6_three_44 (by decide) (fun c31 => ?_) (fun c32 => ?_)
        · have h := h.1 (b2i_0.mp c31)
          refine g_aload_n (q := 0) dX6_three_86 rfl rfl ?_
          refine g_iconst dX6_three_87 (by decide) ?_
          refine g_callV1 dX6_three_88 kX6_refuse q1484 q1486 qs53 (ci := 6) rfl (by decide) rfl (by omega) (by decide) (sk_65 hs.S) (Nat.le_of_ble_eq_true rfl) (Nat.le_refl _) (Nat.le_refl _) (t_kI hs (tWs_sub rfl) (pX6_refuse hs.S) (fun r35 μ33 hs e34 => ?_))
          obtain ⟨rfl, e34⟩ := e34
          have h := h μ33 e34
          exact g_iret dX6_three_91 rfl (Nat.le_refl _) (Nat.le_refl _) ⟨_, rfl, hs, h⟩
        · have h := h.2 (b2i_1.mp c32)
          refine g_aload_n (q := 0) dX6_three_47 rfl rfl ?_
          refine g_iload (q := 4) dX6_three_48 rfl ?_
          refine g_bipush dX6_three_50 ⟨by decide, by decide, rfl⟩ ?_
          refine g_idiv dX6_three_52 (by decide) ?_
          obtain ⟨c36, h⟩ := h
          refine g_callV1 dX6_three_53 kX6_isPlace q1598 q1600 qs75 (ci := 6) rfl (by decide) rfl (by omega) (by decide) (sk_65 hs.S) (Nat.le_of_ble_eq_true rfl) (Nat.le_refl _) (Nat.le_refl _) (t_pI hs (pX6_isPlaceF (by omega) hs (tWs_T rfl) c36) ?_)
          refine g_if_eq (tgt := 86) dX6_three_56 (by decide) (fun c40 => ?_) (fun c41 => ?_)
          · have h := h.1 (b2i_0.mp c40)
            refine g_aload_n (q := 0) dX6_three_86 rfl rfl ?_
            refine g_iconst dX6_three_87 (by decide) ?_
            refine g_callV1 dX6_three_88 kX6_refuse q1484 q1486 qs53 (ci := 6) rfl (by decide) rfl (by omega) (by decide) (sk_65 hs.S) (Nat.le_of_ble_eq_true rfl) (Nat.le_refl _) (Nat.le_refl _) (t_kI hs (tWs_sub rfl) (pX6_refuse hs.S) (fun r44 μ42 hs e43 => ?_))
            obtain ⟨rfl, e43⟩ := e43
            have h := h μ42 e43
            exact g_iret dX6_three_91 rfl (Nat.le_refl _) (Nat.le_refl _) ⟨_, rfl, hs, h⟩
          · have h := h.2 (b2i_1.mp c41)
            refine g_aload_n (q := 0) dX6_three_59 rfl rfl ?_
            refine g_iload (q := 4) dX6_three_60 rfl ?_
            refine g_bipush dX6_three_62 ⟨by decide, by decide, rfl⟩ ?_
            refine g_idiv dX6_three_64 (by decide) ?_
            refine g_bipush dX6_three_65 ⟨by decide, by decide, rfl⟩ ?_
            refine g_irem dX6_three_67 (by decide) ?_
            refine g_callV1 dX6_three_68 kX6_isPlace q1598 q1600 qs75 (ci := 6) rfl (by decide) rfl (by omega) (by decide) (sk_65 hs.S) (Nat.le_of_ble_eq_true rfl) (Nat.le_refl _) (Nat.le_refl _) (t_pI hs (pX6_isPlaceF (by omega) hs (tWs_T rfl) c36) ?_)
            refine g_if_eq (tgt := 86) dX6_three_71 (by decide) (fun c48 => ?_) (fun c49 => ?_)
            · have h := h.1 (b2i_0.mp c48)
              refine g_aload_n (q := 0) dX6_three_86 rfl rfl ?_
              refine g_iconst dX6_three_87 (by decide) ?_
              refine g_callV1 dX6_three_88 kX6_refuse q1484 q1486 qs53 (ci := 6) rfl (by decide) rfl (by omega) (by decide) (sk_65 hs.S) (Nat.le_of_ble_eq_true rfl) (Nat.le_refl _) (Nat.le_refl _) (t_kI hs (tWs_sub rfl) (pX6_refuse hs.S) (fun r52 μ50 hs e51 => ?_))
              obtain ⟨rfl, e51⟩ := e51
              have h := h μ50 e51
              exact g_iret dX6_three_91 rfl (Nat.le_refl _) (Nat.le_refl _) ⟨_, rfl, hs, h⟩
            · have h := h.2 (b2i_1.mp c49)
              refine g_aload_n (q := 0) dX6_three_74 rfl rfl ?_
              refine g_iload (q := 4) dX6_three_75 rfl ?_
              refine g_bipush dX6_three_77 ⟨by decide, by decide, rfl⟩ ?_
              refine g_irem dX6_three_79 (by decide) ?_
              refine g_callV1 dX6_three_80 kX6_isPlace q1598 q1600 qs75 (ci := 6) rfl (by decide) rfl (by omega) (by decide) (sk_65 hs.S) (Nat.le_of_ble_eq_true rfl) (Nat.le_refl _) (Nat.le_refl _) (t_pI hs (pX6_isPlaceF (by omega) hs (tWs_T rfl) c36) ?_)
              refine g_if_ne (tgt := 92) dX6_three_83 (by decide) (fun c56 => ?_) (fun c57 => ?_)
              · have h := h.1 (b2i_1.mp c56)
                refine g_aload_n (q := 0) dX6_three_92 rfl rfl ?_
                refine g_getC (x := 100) 2 dX6_three_93 fX6_132 rfl (by decide) (sk_65 hs.S) (sv_65_70 hs.S) ?_
                refine g_iconst dX6_three_96 (by decide) ?_
                refine g_iload_n (q := 1) dX6_three_97 rfl rfl ?_
                refine g_iastore dX6_three_98 (by decide) (sk_100 hs.S) (by decide) (t_lt (sn_100 hs.S) (by decide)) (p_w hs sf_100 (tWs_in _ rfl) fun μ58 eμ58 hs => ?_)
                have h := h μ58 eμ58
                refine g_aload_n (q := 0) dX6_three_99 rfl rfl ?_
                refine g_getC (x := 100) 2 dX6_three_100 fX6_132 rfl (by decide) (sk_65 hs.S) (sv_65_70 hs.S) ?_
                refine g_iconst dX6_three_103 (by decide) ?_
                refine g_iload_n (q := 2) dX6_three_104 rfl rfl ?_
                refine g_iastore dX6_three_105 (by decide) (sk_100 hs.S) (by decide) (t_lt (sn_100 hs.S) (by decide)) (p_w hs sf_100 (tWs_in _ rfl) fun μ59 eμ59 hs => ?_)
                have h := h μ59 eμ59
                refine g_aload_n (q := 0) dX6_three_106 rfl rfl ?_
                refine g_getC (x := 100) 2 dX6_three_107 fX6_132 rfl (by decide) (sk_65 hs.S) (sv_65_70 hs.S) ?_
                refine g_iconst dX6_three_110 (by decide) ?_
                refine g_iload_n (q := 3) dX6_three_111 rfl rfl ?_
                refine g_iastore dX6_three_112 (by decide) (sk_100 hs.S) (by decide) (t_lt (sn_100 hs.S) (by decide)) (p_w hs sf_100 (tWs_in _ rfl) fun μ60 eμ60 hs => ?_)
                have h := h μ60 eμ60
                refine g_aload_n (q := 0) dX6_three_113 rfl rfl ?_
                refine g_iconst dX6_three_114 (by decide) ?_
                refine g_iload (q := 4) dX6_three_115 rfl ?_
                refine g_bipush dX6_three_117 ⟨by decide, by decide, rfl⟩ ?_
                refine g_idiv dX6_three_119 (by decide) ?_
                refine g_callV2 dX6_three_120 kX6_begin q1659 q1661 qs83 (ci := 6) rfl (by decide) rfl (by omega) (by decide) (sk_65 hs.S) (Nat.le_of_ble_eq_true rfl) (Nat.le_refl _) (Nat.le_refl _) (t_kV hs (tWs_sub rfl) (pX6_begin (by decide) hs.S) (fun μ61 hs e62 => ?_))
                have h := h μ61 e62
                refine g_aload_n (q := 0) dX6_three_123 rfl rfl ?_
                refine g_iconst dX6_three_124 (by decide) ?_
                refine g_iload (q := 4) dX6_three_125 rfl ?_
                refine g_bipush dX6_three_127 ⟨by decide, by decide, rfl⟩ ?_
                refine g_idiv dX6_three_129 (by decide) ?_
                refine g_bipush dX6_three_130 ⟨by decide, by decide, rfl⟩ ?_
                refine g_irem dX6_three_132 (by decide) ?_
                refine g_callV2 dX6_three_133 kX6_begin q1659 q1661 qs83 (ci := 6) rfl (by decide) rfl (by omega) (by decide) (sk_65 hs.S) (Nat.le_of_ble_eq_true rfl) (Nat.le_refl _) (Nat.le_refl _) (t_kV hs (tWs_sub rfl) (pX6_begin (by decide) hs.S) (fun μ63 hs e64 => ?_))
                have h := h μ63 e64
                refine g_aload_n (q := 0) dX6_three_136 rfl rfl ?_
                refine g_iconst dX6_three_137 (by decide) ?_
                refine g_iload (q := 4) dX6_three_138 rfl ?_
                refine g_bipush dX6_three_140 ⟨by decide, by decide, rfl⟩ ?_
                refine g_irem dX6_three_142 (by decide) ?_
                refine g_callV2 dX6_three_143 kX6_begin q1659 q1661 qs83 (ci := 6) rfl (by decide) rfl (by omega) (by decide) (sk_65 hs.S) (Nat.le_of_ble_eq_true rfl) (Nat.le_refl _) (Nat.le_refl _) (t_kV hs (tWs_sub rfl) (pX6_begin (by decide) hs.S) (fun μ65 hs e66 => ?_))
                have h := h μ65 e66
                refine g_iconst dX6_three_146 (by decide) ?_
                refine g_istore (L' := [(0, 2, 65), (1, 0, v1), (2, 0, v2), (3, 0, v3), (4, 0, v4), (5, 0, 0)]) dX6_three_147 (by decide) [1, 2, 3, 4, 5, 0] rfl ?_
                exact g_less [0, 5] rfl h
              · have h := h.2 (b2i_0.mp c57)
                refine g_aload_n (q := 0) dX6_three_86 rfl rfl ?_
                refine g_iconst dX6_three_87 (by decide) ?_
                refine g_callV1 dX6_three_88 kX6_refuse q1484 q1486 qs53 (ci := 6) rfl (by decide) rfl (by omega) (by decide) (sk_65 hs.S) (Nat.le_of_ble_eq_true rfl) (Nat.le_refl _) (Nat.le_refl _) (t_kI hs (tWs_sub rfl) (pX6_refuse hs.S) (fun r69 μ67 hs e68 => ?_))
                obtain ⟨rfl, e68⟩ := e68
                have h := h μ67 e68
                exact g_iret dX6_three_91 rfl (Nat.le_refl _) (Nat.le_refl _) ⟨_, rfl, hs, h⟩
theorem uX6_three_149 {d : Nat} {μ0 μ : tm_M} {K : Int → tm_M → Prop} {v5 : Int} (hd : 1 ≤ d) (hs : tFr wX6_three μ0 μ)
    (h : (3 ≤ v5 → cI wX6_holds mX6_holds (d - 1) [(2, 65)] μ (fun r4 μ3 => (r4 = 0 → hI wX6_three μ0 mX6_three d K 182 [(0, 2, 65), (5, 0, 0)] [] μ3) ∧ (r4 ≠ 0 → K 0 μ3))) ∧ (v5 < 3 → (0 ≤ v5 ∧ v5 < 3) ∧ ((∀ μ8, μ8 = tm_w μ 99 v5 v5 → hI wX6_three μ0 mX6_three d K 149 [(0, 2, 65), (5, 0, w32 (v5 + 1))] [] μ8)))) :
    hI wX6_three μ0 mX6_three d K 149 [(0, 2, 65), (5, 0, v5)] [] μ := by
  refine g_iload (q := 1) dX6_three_149 rfl ?_
  refine g_iconst dX6_three_151 (by decide) ?_
  refine g_icmp_ge (tgt := 170) dX6_three_152 (by decide) (fun c1 => ?_) (fun c2 => ?_)
  · have h := h.1 c1
    refine g_aload_n (q := 0) dX6_three_170 rfl rfl ?_
    refine g_callV0 dX6_three_171 kX6_holds q1796 q1798 qs103 (ci := 6) rfl (by decide) rfl (by omega) (by decide) (sk_65 hs.S) (Nat.le_of_ble_eq_true rfl) (Nat.le_refl _) (Nat.le_refl _) (t_kI hs (tWs_sub rfl) h (fun r4 μ3 hs h => ?_))
    refine g_if_eq (tgt := 179) dX6_three_174 (by decide) (fun c5 => ?_) (fun c6 => ?_)
    · have h := h.1 c5
      refine g_iconst dX6_three_179 (by decide) ?_
      refine g_istore (L' := [(0, 2, 65), (5, 0, 0)]) dX6_three_180 (by decide) [1, 0] rfl ?_
      exact h
    · have h := h.2 c6
      refine g_iconst dX6_three_177 (by decide) ?_
      exact g_iret dX6_three_178 rfl (Nat.le_refl _) (Nat.le_refl _) ⟨_, rfl, hs, h⟩
  · have h := h.2 c2
    refine g_aload_n (q := 0) dX6_three_155 rfl rfl ?_
    refine g_getC (x := 99) 2 dX6_three_156 fX6_129 rfl (by decide) (sk_65 hs.S) (sv_65_69 hs.S) ?_
    refine g_iload (q := 1) dX6_three_159 rfl ?_
    refine g_iload (q := 1) dX6_three_161 rfl ?_
    obtain ⟨c7, h⟩ := h
    refine g_iastore dX6_three_163 (by decide) (sk_99 hs.S) c7.1 (t_lt (sn_99 hs.S) c7.2) (p_w hs sf_99 (tWs_in _ rfl) fun μ8 eμ8 hs => ?_)
    have h := h μ8 eμ8
    refine g_iinc (q := 1) dX6_three_164 (by decide) rfl [1, 0] rfl ?_
    refine g_goto (tgt := 149) dX6_three_167 (by decide) ?_
    exact h
theorem uX6_three_182 {d : Nat} {μ0 μ : tm_M} {K : Int → tm_M → Prop} {v5 : Int} (hd : 1 ≤ d) (hs : tFr wX6_three μ0 μ)
    (h : (200 ≤ v5 → (∀ μ3, μ3 = tm_w μ 65 0 8 → K (-1) μ3)) ∧ (v5 < 200 → hI wX6_three μ0 mX6_three d K 193 [(0, 2, 65), (5, 0, v5), (6, 0, 0)] [] μ)) :
    hI wX6_three μ0 mX6_three d K 182 [(0, 2, 65), (5, 0, v5)] [] μ := by
  refine g_iload (q := 1) dX6_three_182 rfl ?_
  refine g_sipush dX6_three_184 ⟨by decide, by decide, rfl⟩ ?_
  refine g_icmp_ge (tgt := 295) dX6_three_187 (by decide) (fun c1 => ?_) (fun c2 => ?_)
  · have h := h.1 c1
    refine g_aload_n (q := 0) dX6_three_295 rfl rfl ?_
    refine g_bipush dX6_three_296 ⟨by decide, by decide, rfl⟩ ?_
    refine g_callV1 dX6_three_298 kX6_refuse q1484 q1486 qs53 (ci := 6) rfl (by decide) rfl (by omega) (by decide) (sk_65 hs.S) (Nat.le_of_ble_eq_true rfl) (Nat.le_refl _) (Nat.le_refl _) (t_kI hs (tWs_sub rfl) (pX6_refuse hs.S) (fun r5 μ3 hs e4 => ?_))
    obtain ⟨rfl, e4⟩ := e4
    have h := h μ3 e4
    exact g_iret dX6_three_301 rfl (Nat.le_refl _) (Nat.le_refl _) ⟨_, rfl, hs, h⟩
  · have h := h.2 c2
    refine g_iconst dX6_three_190 (by decide) ?_
    refine g_istore (L' := [(0, 2, 65), (5, 0, v5), (6, 0, 0)]) dX6_three_191 (by decide) [1, 2, 0] rfl ?_
    exact h
theorem uX6_three_193 {d : Nat} {μ0 μ : tm_M} {K : Int → tm_M → Prop} {v5 v6 : Int} (hd : 3 ≤ d) (hs : tFr wX6_three μ0 μ)
    (h : (3 ≤ v6 → cI wX6_holds mX6_holds (d - 1) [(2, 65)] μ (fun r4 μ3 => (r4 = 0 → hI wX6_three μ0 mX6_three d K 182 [(0, 2, 65), (5, 0, w32 (v5 + 1))] [] μ3) ∧ (r4 ≠ 0 → K (w32 (v5 + 1)) μ3))) ∧ (v6 < 3 → (0 ≤ v6 ∧ v6 < 3) ∧ ((tm_v μ 99 v6 ≠ v6 → (0 ≤ tm_v μ 99 v6 ∧ tm_v μ 99 v6 < 3) ∧ ((∀ μ11, μ11 = tm_w μ 85 v6 (tm_v μ 85 (tm_v μ 99 v6)) → hI wX6_three μ0 mX6_three d K 193 [(0, 2, 65), (5, 0, v5), (6, 0, w32 (v6 + 1))] [] μ11))) ∧ (tm_v μ 99 v6 = v6 → cI wX6_stepOf mX6_stepOf (d - 1) [(2, 65), (0, tm_v μ 100 v6), (0, v6), (0, tm_v μ 85 v6)] μ (fun r13 μ12 => (y_p μ0 (tm_v μ 85 v6) ∧ 0 ≤ r13 ∧ r13 ≤ 4) ∧ ((∀ μ18, μ18 = tm_w μ12 85 v6 (y_go μ0 (tm_v μ 85 v6) r13) → hI wX6_three μ0 mX6_three d K 193 [(0, 2, 65), (5, 0, v5), (6, 0, w32 (v6 + 1))] [] μ18))))))) :
    hI wX6_three μ0 mX6_three d K 193 [(0, 2, 65), (5, 0, v5), (6, 0, v6)] [] μ := by
  refine g_iload (q := 2) dX6_three_193 rfl ?_
  refine g_iconst dX6_three_195 (by decide) ?_
  refine g_icmp_ge (tgt := 277) dX6_three_196 (by decide) (fun c1 => ?_) (fun c2 => ?_)
  · have h := h.1 c1
    refine g_aload_n (q := 0) dX6_three_277 rfl rfl ?_
    refine g_callV0 dX6_three_278 kX6_holds q1796 q1798 qs103 (ci := 6) rfl (by decide) rfl (by omega) (by decide) (sk_65 hs.S) (Nat.le_of_ble_eq_true rfl) (Nat.le_refl _) (Nat.le_refl _) (t_kI hs (tWs_sub rfl) h (fun r4 μ3 hs h => ?_))
    refine g_if_eq (tgt := 289) dX6_three_281 (by decide) (fun c5 => ?_) (fun c6 => ?_)
    · have h := h.1 c5
      refine g_iinc (q := 1) dX6_three_289 (by decide) rfl [1, 0, 2] rfl ?_
      refine g_goto (tgt := 182) dX6_three_292 (by decide) ?_
      exact g_less [0, 1] rfl h
    · have h := h.2 c6
      refine g_iload (q := 1) dX6_three_284 rfl ?_
      refine g_iconst dX6_three_286 (by decide) ?_
      refine g_iadd dX6_three_287 ?_
      exact g_iret dX6_three_288 rfl (Nat.le_refl _) (Nat.le_refl _) ⟨_, rfl, hs, h⟩
  · have h := h.2 c2
    refine g_aload_n (q := 0) dX6_three_199 rfl rfl ?_
    refine g_getC (x := 99) 2 dX6_three_200 fX6_129 rfl (by decide) (sk_65 hs.S) (sv_65_69 hs.S) ?_
    refine g_iload (q := 2) dX6_three_203 rfl ?_
    obtain ⟨c7, h⟩ := h
    refine g_iaload dX6_three_205 (by decide) (sk_99 hs.S) c7.1 (t_lt (sn_99 hs.S) c7.2) ?_
    refine g_iload (q := 2) dX6_three_206 rfl ?_
    refine g_icmp_ne (tgt := 252) dX6_three_208 (by decide) (fun c8 => ?_) (fun c9 => ?_)
    · have h := h.1 c8
      refine g_aload_n (q := 0) dX6_three_252 rfl rfl ?_
      refine g_getC (x := 85) 2 dX6_three_253 fX6_84 rfl (by decide) (sk_65 hs.S) (sv_65_47 hs.S) ?_
      refine g_iload (q := 2) dX6_three_256 rfl ?_
      refine g_aload_n (q := 0) dX6_three_258 rfl rfl ?_
      refine g_getC (x := 85) 2 dX6_three_259 fX6_84 rfl (by decide) (sk_65 hs.S) (sv_65_47 hs.S) ?_
      refine g_aload_n (q := 0) dX6_three_262 rfl rfl ?_
      refine g_getC (x := 99) 2 dX6_three_263 fX6_129 rfl (by decide) (sk_65 hs.S) (sv_65_69 hs.S) ?_
      refine g_iload (q := 2) dX6_three_266 rfl ?_
      refine g_iaload dX6_three_268 (by decide) (sk_99 hs.S) c7.1 (t_lt (sn_99 hs.S) c7.2) ?_
      obtain ⟨c10, h⟩ := h
      refine g_iaload dX6_three_269 (by decide) (sk_85 hs.S) c10.1 (t_lt (sn_85 hs.S) c10.2) ?_
      refine g_iastore dX6_three_270 (by decide) (sk_85 hs.S) c7.1 (t_lt (sn_85 hs.S) c7.2) (p_w hs sf_85 (tWs_in _ rfl) fun μ11 eμ11 hs => ?_)
      have h := h μ11 eμ11
      refine g_iinc (q := 2) dX6_three_271 (by decide) rfl [1, 2, 0] rfl ?_
      refine g_goto (tgt := 193) dX6_three_274 (by decide) ?_
      exact h
    · have h := h.2 c9
      refine g_aload_n (q := 0) dX6_three_211 rfl rfl ?_
      refine g_getC (x := 85) 2 dX6_three_212 fX6_84 rfl (by decide) (sk_65 hs.S) (sv_65_47 hs.S) ?_
      refine g_iload (q := 2) dX6_three_215 rfl ?_
      refine g_aload_n (q := 0) dX6_three_217 rfl rfl ?_
      refine g_aload_n (q := 0) dX6_three_218 rfl rfl ?_
      refine g_getC (x := 85) 2 dX6_three_219 fX6_84 rfl (by decide) (sk_65 hs.S) (sv_65_47 hs.S) ?_
      refine g_iload (q := 2) dX6_three_222 rfl ?_
      refine g_iaload dX6_three_224 (by decide) (sk_85 hs.S) c7.1 (t_lt (sn_85 hs.S) c7.2) ?_
      refine g_aload_n (q := 0) dX6_three_225 rfl rfl ?_
      refine g_aload_n (q := 0) dX6_three_226 rfl rfl ?_
      refine g_getC (x := 100) 2 dX6_three_227 fX6_132 rfl (by decide) (sk_65 hs.S) (sv_65_70 hs.S) ?_
      refine g_iload (q := 2) dX6_three_230 rfl ?_
      refine g_iaload dX6_three_232 (by decide) (sk_100 hs.S) c7.1 (t_lt (sn_100 hs.S) c7.2) ?_
      refine g_iload (q := 2) dX6_three_233 rfl ?_
      refine g_aload_n (q := 0) dX6_three_235 rfl rfl ?_
      refine g_getC (x := 85) 2 dX6_three_236 fX6_84 rfl (by decide) (sk_65 hs.S) (sv_65_47 hs.S) ?_
      refine g_iload (q := 2) dX6_three_239 rfl ?_
      refine g_iaload dX6_three_241 (by decide) (sk_85 hs.S) c7.1 (t_lt (sn_85 hs.S) c7.2) ?_
      refine g_callV3 dX6_three_242 kX6_stepOf q1671 q1673 qs86 (ci := 6) rfl (by decide) rfl (by omega) (by decide) (sk_65 hs.S) (Nat.le_of_ble_eq_true rfl) (Nat.le_refl _) (Nat.le_refl _) (t_kI hs (tWs_sub rfl) h (fun r13 μ12 hs h => ?_))
      obtain ⟨c14, h⟩ := h
      refine g_callV2 dX6_three_245 kX6_go q1675 q1677 qs87 (ci := 6) rfl (by decide) rfl (by omega) (by decide) (sk_65 hs.S) (Nat.le_of_ble_eq_true rfl) (Nat.le_refl _) (Nat.le_refl _) (t_pI hs (pX6_goF (by omega) hs (tWs_T rfl) c14) ?_)
      refine g_iastore dX6_three_248 (by decide) (sk_85 hs.S) c7.1 (t_lt (sn_85 hs.S) c7.2) (p_w hs sf_85 (tWs_in _ rfl) fun μ18 eμ18 hs => ?_)
      have h := h μ18 eμ18
      refine g_goto (tgt := 271) dX6_three_249 (by decide) ?_
      refine g_iinc (q := 2) dX6_three_271 (by decide) rfl [1, 2, 0] rfl ?_
      refine g_goto (tgt := 193) dX6_three_274 (by decide) ?_
      exact h
theorem uX6_wander_0 {d : Nat} {μ0 μ : tm_M} {K : Int → tm_M → Prop} {v1 v2 v3 : Int} (hd : 2 ≤ d) (hs : tFr wX6_wander μ0 μ)
    (h : (∀ μ1, μ1 = tm_w μ 65 1 0 → (∀ μ2, μ2 = tm_w μ1 65 0 0 → (y_W μ0) ∧ ((¬ (0 ≤ v2 ∧ v2 < tm_v μ0 65 20) → (∀ μ9, μ9 = tm_w μ2 65 0 2 → K (-1) μ9)) ∧ (0 ≤ v2 ∧ v2 < tm_v μ0 65 20 → (0 ≤ v3 ∧ v3 < tm_v μ0 65 20 → (0 ≤ v1 → (v2 ≠ v3 → hI wX6_wander μ0 mX6_wander d K 64 [(0, 2, 65), (4, 1, v1), (6, 0, v2), (7, 0, v3), (8, 0, 1)] [] μ2) ∧ (v2 = v3 → K 0 μ2)) ∧ (v1 < 0 → (∀ μ21, μ21 = tm_w μ2 65 0 5 → K (-1) μ21))) ∧ (¬ (0 ≤ v3 ∧ v3 < tm_v μ0 65 20) → (∀ μ24, μ24 = tm_w μ2 65 0 2 → K (-1) μ24))))))) :
    hI wX6_wander μ0 mX6_wander d K 0 [(0, 2, 65), (1, 0, v1), (2, 0, v2), (3, 0, v3)] [] μ := by
  refine g_aload_n (q := 0) dX6_wander_0 rfl rfl ?_
  refine g_iconst dX6_wander_1 (by decide) ?_
  refine g_put dX6_wander_2 fX6_144 rfl (by decide) (sk_65 hs.S) (fun e => absurd e (by decide)) (p_wj hs (by decide) (tWs_inF rfl) fun μ1 eμ1 hs => ?_)
  have h := h μ1 eμ1
  refine g_aload_n (q := 0) dX6_wander_5 rfl rfl ?_
  refine g_iconst dX6_wander_6 (by decide) ?_
  refine g_put dX6_wander_7 fX6_147 rfl (by decide) (sk_65 hs.S) (fun e => absurd e (by decide)) (p_wj hs (by decide) (tWs_inF rfl) fun μ2 eμ2 hs => ?_)
  have h := h μ2 eμ2
  refine g_aload_n (q := 0) dX6_wander_10 rfl rfl ?_
  refine g_iload_n (q := 2) dX6_wander_11 rfl rfl ?_
  obtain ⟨c3, h⟩ := h
  refine g_callV1 dX6_wander_12 kX6_isPlace q1598 q1600 qs75 (ci := 6) rfl (by decide) rfl (by omega) (by decide) (sk_65 hs.S) (Nat.le_of_ble_eq_true rfl) (Nat.le_refl _) (Nat.le_refl _) (t_pI hs (pX6_isPlaceF (by omega) hs (tWs_T rfl) c3) ?_)
  refine g_if_eq (tgt := 26) dX6_wander_15 (by decide) (fun c7 => ?_) (fun c8 => ?_)
  · have h := h.1 (b2i_0.mp c7)
    refine g_aload_n (q := 0) dX6_wander_26 rfl rfl ?_
    refine g_iconst dX6_wander_27 (by decide) ?_
    refine g_callV1 dX6_wander_28 kX6_refuse q1484 q1486 qs53 (ci := 6) rfl (by decide) rfl (by omega) (by decide) (sk_65 hs.S) (Nat.le_of_ble_eq_true rfl) (Nat.le_refl _) (Nat.le_refl _) (t_kI hs (tWs_sub rfl) (pX6_refuse hs.S) (fun r11 μ9 hs e10 => ?_))
    obtain ⟨rfl, e10⟩ := e10
    have h := h μ9 e10
    exact g_iret dX6_wander_31 rfl (Nat.le_refl _) (Nat.le_refl _) ⟨_, rfl, hs, h⟩
  · have h := h.2 (b2i_1.mp c8)
    refine g_aload_n (q := 0) dX6_wander_18 rfl rfl ?_
    refine g_iload_n (q := 3) dX6_wander_19 rfl rfl ?_
    refine g_callV1 dX6_wander_20 kX6_isPlace q1598 q1600 qs75 (ci := 6) rfl (by decide) rfl (by omega) (by decide) (sk_65 hs.S) (Nat.le_of_ble_eq_true rfl) (Nat.le_refl _) (Nat.le_refl _) (t_pI hs (pX6_isPlaceF (by omega) hs (tWs_T rfl) c3) ?_)
    refine g_if_ne (tgt := 32) dX6_wander_23 (by decide) (fun c15 => ?_) (fun c16 => ?_)
    · have h := h.1 (b2i_1.mp c15)
      refine g_iload_n (q := 1) dX6_wander_32 rfl rfl ?_
      refine g_if_ge (tgt := 42) dX6_wander_33 (by decide) (fun c17 => ?_) (fun c18 => ?_)
      · have h := h.1 c17
        refine g_iload_n (q := 1) dX6_wander_42 rfl rfl ?_
        refine g_i2l dX6_wander_43 ?_
        refine g_lstore (L' := [(0, 2, 65), (1, 0, v1), (2, 0, v2), (3, 0, v3), (4, 1, v1)]) dX6_wander_44 (by decide) [1, 2, 3, 4, 0] rfl ?_
        refine g_iload_n (q := 2) dX6_wander_46 rfl rfl ?_
        refine g_istore (L' := [(0, 2, 65), (1, 0, v1), (2, 0, v2), (3, 0, v3), (4, 1, v1), (6, 0, v2)]) dX6_wander_47 (by decide) [1, 2, 3, 4, 5, 0] rfl ?_
        refine g_iload_n (q := 3) dX6_wander_49 rfl rfl ?_
        refine g_istore (L' := [(0, 2, 65), (1, 0, v1), (2, 0, v2), (3, 0, v3), (4, 1, v1), (6, 0, v2), (7, 0, v3)]) dX6_wander_50 (by decide) [1, 2, 3, 4, 5, 6, 0] rfl ?_
        refine g_iload (q := 5) dX6_wander_52 rfl ?_
        refine g_iload (q := 6) dX6_wander_54 rfl ?_
        refine g_icmp_ne (tgt := 61) dX6_wander_56 (by decide) (fun c19 => ?_) (fun c20 => ?_)
        · have h := h.1 c19
          refine g_iconst dX6_wander_61 (by decide) ?_
          refine g_istore (L' := [(0, 2, 65), (1, 0, v1), (2, 0, v2), (3, 0, v3), (4, 1, v1), (6, 0, v2), (7, 0, v3), (8, 0, 1)]) dX6_wander_62 (by decide) [1, 2, 3, 4, 5, 6, 7, 0] rfl ?_
          exact g_less [0, 4, 5, 6, 7] rfl h
        · have h := h.2 c20
          refine g_iconst dX6_wander_59 (by decide) ?_
          exact g_iret dX6_wander_60 rfl (Nat.le_refl _) (Nat.le_refl _) ⟨_, rfl, hs, h⟩
      · have h := h.2 c18
        refine g_aload_n (q := 0) dX6_wander_36 rfl rfl ?_
        refine g_iconst dX6_wander_37 (by decide) ?_
        refine g_callV1 dX6_wander_38 kX6_refuse q1484 q1486 qs53 (ci := 6) rfl (by decide) rfl (by omega) (by decide) (sk_65 hs.S) (Nat.le_of_ble_eq_true rfl) (Nat.le_refl _) (Nat.le_refl _) (t_kI hs (tWs_sub rfl) (pX6_refuse hs.S) (fun r23 μ21 hs e22 => ?_))
        obtain ⟨rfl, e22⟩ := e22
        have h := h μ21 e22
        exact g_iret dX6_wander_41 rfl (Nat.le_refl _) (Nat.le_refl _) ⟨_, rfl, hs, h⟩
    · have h := h.2 (b2i_0.mp c16)
      refine g_aload_n (q := 0) dX6_wander_26 rfl rfl ?_
      refine g_iconst dX6_wander_27 (by decide) ?_
      refine g_callV1 dX6_wander_28 kX6_refuse q1484 q1486 qs53 (ci := 6) rfl (by decide) rfl (by omega) (by decide) (sk_65 hs.S) (Nat.le_of_ble_eq_true rfl) (Nat.le_refl _) (Nat.le_refl _) (t_kI hs (tWs_sub rfl) (pX6_refuse hs.S) (fun r26 μ24 hs e25 => ?_))
      obtain ⟨rfl, e25⟩ := e25
      have h := h μ24 e25
      exact g_iret dX6_wander_31 rfl (Nat.le_refl _) (Nat.le_refl _) ⟨_, rfl, hs, h⟩
theorem uX6_wander_64 {d : Nat} {μ0 μ : tm_M} {K : Int → tm_M → Prop} {v4 v6 v7 v8 : Int} (hd : 3 ≤ d) (hs : tFr wX6_wander μ0 μ)
    (h : (1000 < v8 → (∀ μ3, μ3 = tm_w μ 65 0 8 → K (-1) μ3)) ∧ (v8 ≤ 1000 → (∀ x6, x6 = (w64 ((w64 (v4 * 1103515245)) + 12345)).tmod 2147483648 → (y_p μ0 v6 ∧ 0 ≤ (w32 ((w64 (x6.tdiv 65536)).tmod 5)) ∧ (w32 ((w64 (x6.tdiv 65536)).tmod 5)) ≤ 4) ∧ ((∀ x11, x11 = y_go μ0 v6 (w32 ((w64 (x6.tdiv 65536)).tmod 5)) → (∀ x12, x12 = (w64 ((w64 (x6 * 1103515245)) + 12345)).tmod 2147483648 → (y_p μ0 v7 ∧ 0 ≤ (w32 ((w64 (x12.tdiv 65536)).tmod 5)) ∧ (w32 ((w64 (x12.tdiv 65536)).tmod 5)) ≤ 4) ∧ ((∀ x17, x17 = y_go μ0 v7 (w32 ((w64 (x12.tdiv 65536)).tmod 5)) → (¬ (x11 = x17 ∨ (tm_v μ0 65 28 ≠ 0 ∧ x11 = v7 ∧ x17 = v6)) → hI wX6_wander μ0 mX6_wander d K 64 [(0, 2, 65), (4, 1, x12), (6, 0, x11), (7, 0, x17), (8, 0, w32 (v8 + 1))] [] μ) ∧ (x11 = x17 ∨ (tm_v μ0 65 28 ≠ 0 ∧ x11 = v7 ∧ x17 = v6) → K v8 μ))))))))) :
    hI wX6_wander μ0 mX6_wander d K 64 [(0, 2, 65), (4, 1, v4), (6, 0, v6), (7, 0, v7), (8, 0, v8)] [] μ := by
  refine g_iload (q := 4) dX6_wander_64 rfl ?_
  refine g_sipush dX6_wander_66 ⟨by decide, by decide, rfl⟩ ?_
  refine g_icmp_gt (tgt := 174) dX6_wander_69 (by decide) (fun c1 => ?_) (fun c2 => ?_)
  · have h := h.1 c1
    refine g_aload_n (q := 0) dX6_wander_174 rfl rfl ?_
    refine g_bipush dX6_wander_175 ⟨by decide, by decide, rfl⟩ ?_
    refine g_callV1 dX6_wander_177 kX6_refuse q1484 q1486 qs53 (ci := 6) rfl (by decide) rfl (by omega) (by decide) (sk_65 hs.S) (Nat.le_of_ble_eq_true rfl) (Nat.le_refl _) (Nat.le_refl _) (t_kI hs (tWs_sub rfl) (pX6_refuse hs.S) (fun r5 μ3 hs e4 => ?_))
    obtain ⟨rfl, e4⟩ := e4
    have h := h μ3 e4
    exact g_iret dX6_wander_180 rfl (Nat.le_refl _) (Nat.le_refl _) ⟨_, rfl, hs, h⟩
  · have h := h.2 c2
    refine g_iload (q := 2) dX6_wander_72 rfl ?_
    refine g_istore (L' := [(0, 2, 65), (4, 1, v4), (6, 0, v6), (7, 0, v7), (8, 0, v8), (9, 0, v6)]) dX6_wander_74 (by decide) [1, 2, 3, 4, 5, 0] rfl ?_
    refine g_iload (q := 3) dX6_wander_76 rfl ?_
    refine g_istore (L' := [(0, 2, 65), (4, 1, v4), (6, 0, v6), (7, 0, v7), (8, 0, v8), (9, 0, v6), (10, 0, v7)]) dX6_wander_78 (by decide) [1, 2, 3, 4, 5, 6, 0] rfl ?_
    refine g_lload (q := 1) dX6_wander_80 rfl ?_
    refine g_ldc2 (v := 1103515245) (by decide) q1862c dX6_wander_82 ?_
    refine g_lmul dX6_wander_85 ?_
    refine g_ldc2 (v := 12345) (by decide) q1863c dX6_wander_86 ?_
    refine g_ladd dX6_wander_89 ?_
    refine g_ldc2 (v := 2147483648) (by decide) q1864c dX6_wander_90 ?_
    refine g_lrem dX6_wander_93 (by decide) ?_
    refine g_lstoreN (fun z => [(0, 2, 65), (4, 1, z), (6, 0, v6), (7, 0, v7), (8, 0, v8), (9, 0, v6), (10, 0, v7)]) dX6_wander_94 (by decide) [1, 0, 2, 3, 4, 5, 6] (fun _ => rfl) (fun x6 ex6 => ?_)
    have h := h x6 ex6
    refine g_aload_n (q := 0) dX6_wander_96 rfl rfl ?_
    refine g_iload (q := 2) dX6_wander_97 rfl ?_
    refine g_lload (q := 1) dX6_wander_99 rfl ?_
    refine g_ldc2 (v := 65536) (by decide) q1865c dX6_wander_101 ?_
    refine g_ldiv dX6_wander_104 (by decide) ?_
    refine g_ldc2 (v := 5) (by decide) q1602c dX6_wander_105 ?_
    refine g_lrem dX6_wander_108 (by decide) ?_
    refine g_l2i dX6_wander_109 ?_
    obtain ⟨c7, h⟩ := h
    refine g_callV2 dX6_wander_110 kX6_go q1675 q1677 qs87 (ci := 6) rfl (by decide) rfl (by omega) (by decide) (sk_65 hs.S) (Nat.le_of_ble_eq_true rfl) (Nat.le_refl _) (Nat.le_refl _) (t_pI hs (pX6_goF (by omega) hs (tWs_T rfl) c7) ?_)
    refine g_istoreN (fun z => [(0, 2, 65), (4, 1, x6), (6, 0, z), (7, 0, v7), (8, 0, v8), (9, 0, v6), (10, 0, v7)]) dX6_wander_113 (by decide) [1, 2, 0, 3, 4, 5, 6] (fun _ => rfl) (fun x11 ex11 => ?_)
    have h := h x11 ex11
    refine g_lload (q := 1) dX6_wander_115 rfl ?_
    refine g_ldc2 (v := 1103515245) (by decide) q1862c dX6_wander_117 ?_
    refine g_lmul dX6_wander_120 ?_
    refine g_ldc2 (v := 12345) (by decide) q1863c dX6_wander_121 ?_
    refine g_ladd dX6_wander_124 ?_
    refine g_ldc2 (v := 2147483648) (by decide) q1864c dX6_wander_125 ?_
    refine g_lrem dX6_wander_128 (by decide) ?_
    refine g_lstoreN (fun z => [(0, 2, 65), (4, 1, z), (6, 0, x11), (7, 0, v7), (8, 0, v8), (9, 0, v6), (10, 0, v7)]) dX6_wander_129 (by decide) [1, 0, 2, 3, 4, 5, 6] (fun _ => rfl) (fun x12 ex12 => ?_)
    have h := h x12 ex12
    refine g_aload_n (q := 0) dX6_wander_131 rfl rfl ?_
    refine g_iload (q := 3) dX6_wander_132 rfl ?_
    refine g_lload (q := 1) dX6_wander_134 rfl ?_
    refine g_ldc2 (v := 65536) (by decide) q1865c dX6_wander_136 ?_
    refine g_ldiv dX6_wander_139 (by decide) ?_
    refine g_ldc2 (v := 5) (by decide) q1602c dX6_wander_140 ?_
    refine g_lrem dX6_wander_143 (by decide) ?_
    refine g_l2i dX6_wander_144 ?_
    obtain ⟨c13, h⟩ := h
    refine g_callV2 dX6_wander_145 kX6_go q1675 q1677 qs87 (ci := 6) rfl (by decide) rfl (by omega) (by decide) (sk_65 hs.S) (Nat.le_of_ble_eq_true rfl) (Nat.le_refl _) (Nat.le_refl _) (t_pI hs (pX6_goF (by omega) hs (tWs_T rfl) c13) ?_)
    refine g_istoreN (fun z => [(0, 2, 65), (4, 1, x12), (6, 0, x11), (7, 0, z), (8, 0, v8), (9, 0, v6), (10, 0, v7)]) dX6_wander_148 (by decide) [1, 2, 3, 0, 4, 5, 6] (fun _ => rfl) (fun x17 ex17 => ?_)
    have h := h x17 ex17
    refine g_aload_n (q := 0) dX6_wander_150 rfl rfl ?_
    refine g_iload (q := 2) dX6_wander_151 rfl ?_
    refine g_iload (q := 3) dX6_wander_153 rfl ?_
    refine g_iload (q := 5) dX6_wander_155 rfl ?_
    refine g_iload (q := 6) dX6_wander_157 rfl ?_
    refine g_callV4 dX6_wander_159 kX6_meets q1683 q1685 qs89 (ci := 6) rfl (by decide) rfl (by omega) (by decide) (sk_65 hs.S) (Nat.le_of_ble_eq_true rfl) (Nat.le_refl _) (Nat.le_refl _) (t_pI hs (pX6_meetsF hs (tWs_T rfl)) ?_)
    refine g_if_eq (tgt := 168) dX6_wander_162 (by decide) (fun c21 => ?_) (fun c22 => ?_)
    · have h := h.1 (b2i_0.mp c21)
      refine g_iinc (q := 4) dX6_wander_168 (by decide) rfl [1, 2, 3, 4, 0, 5, 6] rfl ?_
      refine g_goto (tgt := 64) dX6_wander_171 (by decide) ?_
      exact g_less [0, 1, 2, 3, 4] rfl h
    · have h := h.2 (b2i_1.mp c22)
      refine g_iload (q := 4) dX6_wander_165 rfl ?_
      exact g_iret dX6_wander_167 rfl (Nat.le_refl _) (Nat.le_refl _) ⟨_, rfl, hs, h⟩
theorem uX6_chance_0 {d : Nat} {μ0 μ : tm_M} {K : Int → tm_M → Prop} {v1 : Int} (hd : 1 ≤ d) (hs : tFr wX6_chance μ0 μ)
    (h : (∀ μ1, μ1 = tm_w μ 65 1 0 → (∀ μ2, μ2 = tm_w μ1 65 0 0 → (0 ≤ v1 ∧ v1 ≤ (w32 ((tm_v μ0 65 54) - 1)) → (0 ≤ v1 ∧ v1 < 3) ∧ (cV wX6_fraction mX6_fraction (d - 1) [(2, 65), (1, tm_v μ0 93 v1), (1, tm_v μ0 65 59)] μ2 (fun μ9 => K 1 μ9))) ∧ (¬ (0 ≤ v1 ∧ v1 ≤ (w32 ((tm_v μ0 65 54) - 1))) → (∀ μ10, μ10 = tm_w μ2 65 0 8 → K 0 μ10))))) :
    hI wX6_chance μ0 mX6_chance d K 0 [(0, 2, 65), (1, 0, v1)] [] μ := by
  refine g_aload_n (q := 0) dX6_chance_0 rfl rfl ?_
  refine g_iconst dX6_chance_1 (by decide) ?_
  refine g_put dX6_chance_2 fX6_144 rfl (by decide) (sk_65 hs.S) (fun e => absurd e (by decide)) (p_wj hs (by decide) (tWs_inF rfl) fun μ1 eμ1 hs => ?_)
  have h := h μ1 eμ1
  refine g_aload_n (q := 0) dX6_chance_5 rfl rfl ?_
  refine g_iconst dX6_chance_6 (by decide) ?_
  refine g_put dX6_chance_7 fX6_147 rfl (by decide) (sk_65 hs.S) (fun e => absurd e (by decide)) (p_wj hs (by decide) (tWs_inF rfl) fun μ2 eμ2 hs => ?_)
  have h := h μ2 eμ2
  refine g_iload_n (q := 1) dX6_chance_10 rfl rfl ?_
  refine g_i2l dX6_chance_11 ?_
  refine g_lconst0 dX6_chance_12 ?_
  refine g_aload_n (q := 0) dX6_chance_13 rfl rfl ?_
  refine g_getC (x := tm_v μ0 65 54) 0 dX6_chance_14 fX6_514 rfl (by decide) (sk_65 hs.S) (hs.v (tWs_noF rfl)) ?_
  refine g_iconst dX6_chance_17 (by decide) ?_
  refine g_isub dX6_chance_18 ?_
  refine g_i2l dX6_chance_19 ?_
  refine g_callS3 dX6_chance_20 kX6_isIn q1563 q1564 rfl (by omega) (Nat.le_of_ble_eq_true rfl) (Nat.le_refl _) (Nat.le_refl _) (t_pI hs (pX6_isIn hs.S) ?_)
  refine g_if_ne (tgt := 33) dX6_chance_23 (by decide) (fun c6 => ?_) (fun c7 => ?_)
  · have h := h.1 (b2i_1.mp c6)
    refine g_aload_n (q := 0) dX6_chance_33 rfl rfl ?_
    refine g_aload_n (q := 0) dX6_chance_34 rfl rfl ?_
    refine g_getC (x := 93) 2 dX6_chance_35 fX6_108 rfl (by decide) (sk_65 hs.S) (sv_65_58 hs.S) ?_
    refine g_iload_n (q := 1) dX6_chance_38 rfl rfl ?_
    obtain ⟨c8, h⟩ := h
    refine g_laloadC (x := tm_v μ0 93 v1) dX6_chance_39 (by decide) (sk_93 hs.S) c8.1 (t_lt (sn_93 hs.S) c8.2) (hs.v (tWs_no _ rfl)) ?_
    refine g_aload_n (q := 0) dX6_chance_40 rfl rfl ?_
    refine g_getC (x := tm_v μ0 65 59) 1 dX6_chance_41 fX6_111 rfl (by decide) (sk_65 hs.S) (hs.v (tWs_noF rfl)) ?_
    refine g_callV2 dX6_chance_44 kX6_fraction q1708 q1710 qs93 (ci := 6) rfl (by decide) rfl (by omega) (by decide) (sk_65 hs.S) (Nat.le_of_ble_eq_true rfl) (Nat.le_refl _) (Nat.le_refl _) (t_kV hs (tWs_sub rfl) h (fun μ9 hs h => ?_))
    refine g_iconst dX6_chance_47 (by decide) ?_
    exact g_zret dX6_chance_48 rfl (by decide) (Nat.le_refl _) (Nat.le_refl _) ⟨_, rfl, hs, h⟩
  · have h := h.2 (b2i_0.mp c7)
    refine g_aload_n (q := 0) dX6_chance_26 rfl rfl ?_
    refine g_bipush dX6_chance_27 ⟨by decide, by decide, rfl⟩ ?_
    refine g_callV1 dX6_chance_29 kX6_no q1444 q1446 qs49 (ci := 6) rfl (by decide) rfl (by omega) (by decide) (sk_65 hs.S) (Nat.le_of_ble_eq_true rfl) (Nat.le_refl _) (Nat.le_refl _) (t_kI hs (tWs_sub rfl) (pX6_no hs.S) (fun r12 μ10 hs e11 => ?_))
    obtain ⟨rfl, e11⟩ := e11
    have h := h μ10 e11
    exact g_zret dX6_chance_32 rfl (by decide) (Nat.le_refl _) (Nat.le_refl _) ⟨_, rfl, hs, h⟩
