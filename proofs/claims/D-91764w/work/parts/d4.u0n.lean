theorem uX0_line_0_A {d : Nat} {μ0 μ : tm_M} {K : tm_M → Prop} {v1 : Int} (hs : tFr (tWs [56] []) μ0 μ)
    (h : (v1 ≠ 3 → (v1 ≠ 5 → hV (tWs [56] []) μ0 mX0_line d K 26 [(0, 2, 1), (1, 0, v1), (2, 2, 56), (3, 0, 2), (4, 0, 0), (5, 0, 0)] [] μ) ∧ (v1 = 5 → hV (tWs [56] []) μ0 mX0_line d K 26 [(0, 2, 1), (1, 0, v1), (2, 2, 56), (3, 0, 2), (4, 0, 1), (5, 0, 0)] [] μ)) ∧ (v1 = 3 → (v1 ≠ 5 → hV (tWs [56] []) μ0 mX0_line d K 26 [(0, 2, 1), (1, 0, v1), (2, 2, 56), (3, 0, 1), (4, 0, 0), (5, 0, 0)] [] μ) ∧ (v1 = 5 → hV (tWs [56] []) μ0 mX0_line d K 26 [(0, 2, 1), (1, 0, v1), (2, 2, 56), (3, 0, 1), (4, 0, 1), (5, 0, 0)] [] μ))) :
    hV (tWs [56] []) μ0 mX0_line d K 0 [(0, 2, 1), (1, 0, v1), (2, 2, 56)] [] μ := by
  refine g_iload_n (q := 1) dX0_line_0 rfl rfl ?_
  refine g_iconst dX0_line_1 (by decide) ?_
  refine g_icmp_ne (tgt := 9) dX0_line_2 (by decide) (fun c1 => ?_) (fun c2 => ?_)
  · have h := h.1 c1
    refine g_iconst dX0_line_9 (by decide) ?_
    refine g_istore_n (L' := [(0, 2, 1), (1, 0, v1), (2, 2, 56), (3, 0, 2)]) dX0_line_10 rfl (by decide) [1, 2, 3, 0] rfl ?_
    refine g_iload_n (q := 1) dX0_line_11 rfl rfl ?_
    refine g_iconst dX0_line_12 (by decide) ?_
    refine g_icmp_ne (tgt := 20) dX0_line_13 (by decide) (fun c3 => ?_) (fun c4 => ?_)
    · have h := h.1 c3
      refine g_iconst dX0_line_20 (by decide) ?_
      refine g_istore (L' := [(0, 2, 1), (1, 0, v1), (2, 2, 56), (3, 0, 2), (4, 0, 0)]) dX0_line_21 (by decide) [1, 2, 3, 4, 0] rfl ?_
      refine g_iconst dX0_line_23 (by decide) ?_
      refine g_istore (L' := [(0, 2, 1), (1, 0, v1), (2, 2, 56), (3, 0, 2), (4, 0, 0), (5, 0, 0)]) dX0_line_24 (by decide) [1, 2, 3, 4, 5, 0] rfl ?_
      exact h
    · have h := h.2 c4
      refine g_iconst dX0_line_16 (by decide) ?_
      refine g_goto (tgt := 21) dX0_line_17 (by decide) ?_
      refine g_istore (L' := [(0, 2, 1), (1, 0, v1), (2, 2, 56), (3, 0, 2), (4, 0, 1)]) dX0_line_21 (by decide) [1, 2, 3, 4, 0] rfl ?_
      refine g_iconst dX0_line_23 (by decide) ?_
      refine g_istore (L' := [(0, 2, 1), (1, 0, v1), (2, 2, 56), (3, 0, 2), (4, 0, 1), (5, 0, 0)]) dX0_line_24 (by decide) [1, 2, 3, 4, 5, 0] rfl ?_
      exact h
  · have h := h.2 c2
    refine g_iconst dX0_line_5 (by decide) ?_
    refine g_goto (tgt := 10) dX0_line_6 (by decide) ?_
    refine g_istore_n (L' := [(0, 2, 1), (1, 0, v1), (2, 2, 56), (3, 0, 1)]) dX0_line_10 rfl (by decide) [1, 2, 3, 0] rfl ?_
    refine g_iload_n (q := 1) dX0_line_11 rfl rfl ?_
    refine g_iconst dX0_line_12 (by decide) ?_
    refine g_icmp_ne (tgt := 20) dX0_line_13 (by decide) (fun c5 => ?_) (fun c6 => ?_)
    · have h := h.1 c5
      refine g_iconst dX0_line_20 (by decide) ?_
      refine g_istore (L' := [(0, 2, 1), (1, 0, v1), (2, 2, 56), (3, 0, 1), (4, 0, 0)]) dX0_line_21 (by decide) [1, 2, 3, 4, 0] rfl ?_
      refine g_iconst dX0_line_23 (by decide) ?_
      refine g_istore (L' := [(0, 2, 1), (1, 0, v1), (2, 2, 56), (3, 0, 1), (4, 0, 0), (5, 0, 0)]) dX0_line_24 (by decide) [1, 2, 3, 4, 5, 0] rfl ?_
      exact h
    · have h := h.2 c6
      refine g_iconst dX0_line_16 (by decide) ?_
      refine g_goto (tgt := 21) dX0_line_17 (by decide) ?_
      refine g_istore (L' := [(0, 2, 1), (1, 0, v1), (2, 2, 56), (3, 0, 1), (4, 0, 1)]) dX0_line_21 (by decide) [1, 2, 3, 4, 0] rfl ?_
      refine g_iconst dX0_line_23 (by decide) ?_
      refine g_istore (L' := [(0, 2, 1), (1, 0, v1), (2, 2, 56), (3, 0, 1), (4, 0, 1), (5, 0, 0)]) dX0_line_24 (by decide) [1, 2, 3, 4, 5, 0] rfl ?_
      exact h
theorem uX0_line_26_A {d : Nat} {μ0 μ : tm_M} {K : tm_M → Prop} {v1 v3 v4 v5 : Int} (hs : tFr (tWs [56] []) μ0 μ)
    (h : (3 ≤ v5 → K μ) ∧ (v5 < 3 → (v1 < 3 → (v5 ≠ v1 → (0 ≤ v5 ∧ v5 < 3) ∧ ((∀ μ8, μ8 = tm_w μ 56 v5 0 → hV (tWs [56] []) μ0 mX0_line d K 26 [(0, 2, 1), (1, 0, v1), (2, 2, 56), (3, 0, v3), (4, 0, v4), (5, 0, w32 (v5 + 1))] [] μ8))) ∧ (v5 = v1 → (0 ≤ v5 ∧ v5 < 3) ∧ ((∀ μ10, μ10 = tm_w μ 56 v5 1 → hV (tWs [56] []) μ0 mX0_line d K 26 [(0, 2, 1), (1, 0, v1), (2, 2, 56), (3, 0, v3), (4, 0, v4), (5, 0, w32 (v5 + 1))] [] μ10)))) ∧ (3 ≤ v1 → (0 ≤ v5 ∧ v5 < 3) ∧ ((0 ≤ v3 ∧ v3 < 3) ∧ ((0 ≤ v4 ∧ v4 < 3) ∧ ((∀ μ14, μ14 = tm_w μ 56 v5 (w64 ((tm_v μ0 (53 + v5) v3) - (tm_v μ0 (53 + v5) v4))) → hV (tWs [56] []) μ0 mX0_line d K 26 [(0, 2, 1), (1, 0, v1), (2, 2, 56), (3, 0, v3), (4, 0, v4), (5, 0, w32 (v5 + 1))] [] μ14))))))) :
    hV (tWs [56] []) μ0 mX0_line d K 26 [(0, 2, 1), (1, 0, v1), (2, 2, 56), (3, 0, v3), (4, 0, v4), (5, 0, v5)] [] μ := by
  refine g_iload (q := 5) dX0_line_26 rfl ?_
  refine g_iconst dX0_line_28 (by decide) ?_
  refine g_icmp_ge (tgt := 81) dX0_line_29 (by decide) (fun c1 => ?_) (fun c2 => ?_)
  · have h := h.1 c1
    exact g_vret dX0_line_81 rfl (Nat.le_refl _) (Nat.le_refl _) ⟨rfl, hs, h⟩
  · have h := h.2 c2
    refine g_aload_n (q := 2) dX0_line_32 rfl rfl ?_
    refine g_iload (q := 5) dX0_line_33 rfl ?_
    refine g_iload_n (q := 1) dX0_line_35 rfl rfl ?_
    refine g_iconst dX0_line_36 (by decide) ?_
    refine g_icmp_lt (tgt := 63) dX0_line_37 (by decide) (fun c3 => ?_) (fun c4 => ?_)
    · have h := h.1 c3
      refine g_iload (q := 5) dX0_line_63 rfl ?_
      refine g_iload_n (q := 1) dX0_line_65 rfl rfl ?_
      refine g_icmp_ne (tgt := 73) dX0_line_66 (by decide) (fun c5 => ?_) (fun c6 => ?_)
      · have h := h.1 c5
        refine g_lconst0 dX0_line_73 ?_
        obtain ⟨c7, h⟩ := h
        refine g_lastore dX0_line_74 (by decide) (sk_56 hs.S) c7.1 (t_lt (sn_56 hs.S) c7.2) (p_w hs sf_56 (tWs_in _ rfl) fun μ8 eμ8 hs => ?_)
        have h := h μ8 eμ8
        refine g_iinc (q := 5) dX0_line_75 (by decide) rfl [1, 2, 3, 4, 5, 0] rfl ?_
        refine g_goto (tgt := 26) dX0_line_78 (by decide) ?_
        exact h
      · have h := h.2 c6
        refine g_lconst1 dX0_line_69 ?_
        refine g_goto (tgt := 74) dX0_line_70 (by decide) ?_
        obtain ⟨c9, h⟩ := h
        refine g_lastore dX0_line_74 (by decide) (sk_56 hs.S) c9.1 (t_lt (sn_56 hs.S) c9.2) (p_w hs sf_56 (tWs_in _ rfl) fun μ10 eμ10 hs => ?_)
        have h := h μ10 eμ10
        refine g_iinc (q := 5) dX0_line_75 (by decide) rfl [1, 2, 3, 4, 5, 0] rfl ?_
        refine g_goto (tgt := 26) dX0_line_78 (by decide) ?_
        exact h
    · have h := h.2 c4
      refine g_aload_n (q := 0) dX0_line_40 rfl rfl ?_
      refine g_getC (x := 52) 2 dX0_line_41 fX0_130 rfl (by decide) (sk_1 hs.S) (sv_1_39 hs.S) ?_
      refine g_iload (q := 5) dX0_line_44 rfl ?_
      obtain ⟨c11, h⟩ := h
      refine g_aaloadC (x := 53 + v5) dX0_line_46 (by decide) (sk_52 hs.S) (by decide) c11.1 (t_lt (sn_52 hs.S) c11.2) (sa_52 hs.S c11.1 c11.2) ?_
      refine g_iload_n (q := 3) dX0_line_47 rfl rfl ?_
      obtain ⟨c12, h⟩ := h
      refine g_laloadC (x := tm_v μ0 (53 + v5) v3) dX0_line_48 (by have := c11; omega) (sak_52 hs.S c11.1 c11.2) c12.1 (t_lt (san_52 hs.S c11.1 c11.2) c12.2) (hs.v (tWs_nr (lo := 53) (n := 3) rfl (by have := c11; omega))) ?_
      refine g_aload_n (q := 0) dX0_line_49 rfl rfl ?_
      refine g_getC (x := 52) 2 dX0_line_50 fX0_130 rfl (by decide) (sk_1 hs.S) (sv_1_39 hs.S) ?_
      refine g_iload (q := 5) dX0_line_53 rfl ?_
      refine g_aaloadC (x := 53 + v5) dX0_line_55 (by decide) (sk_52 hs.S) (by decide) c11.1 (t_lt (sn_52 hs.S) c11.2) (sa_52 hs.S c11.1 c11.2) ?_
      refine g_iload (q := 4) dX0_line_56 rfl ?_
      obtain ⟨c13, h⟩ := h
      refine g_laloadC (x := tm_v μ0 (53 + v5) v4) dX0_line_58 (by have := c11; omega) (sak_52 hs.S c11.1 c11.2) c13.1 (t_lt (san_52 hs.S c11.1 c11.2) c13.2) (hs.v (tWs_nr (lo := 53) (n := 3) rfl (by have := c11; omega))) ?_
      refine g_lsub dX0_line_59 ?_
      refine g_goto (tgt := 74) dX0_line_60 (by decide) ?_
      refine g_lastore dX0_line_74 (by decide) (sk_56 hs.S) c11.1 (t_lt (sn_56 hs.S) c11.2) (p_w hs sf_56 (tWs_in _ rfl) fun μ14 eμ14 hs => ?_)
      have h := h μ14 eμ14
      refine g_iinc (q := 5) dX0_line_75 (by decide) rfl [1, 2, 3, 4, 5, 0] rfl ?_
      refine g_goto (tgt := 26) dX0_line_78 (by decide) ?_
      exact h
theorem uX0_line_0_B {d : Nat} {μ0 μ : tm_M} {K : tm_M → Prop} {v1 : Int} (hs : tFr (tWs [57] []) μ0 μ)
    (h : (v1 ≠ 3 → (v1 ≠ 5 → hV (tWs [57] []) μ0 mX0_line d K 26 [(0, 2, 1), (1, 0, v1), (2, 2, 57), (3, 0, 2), (4, 0, 0), (5, 0, 0)] [] μ) ∧ (v1 = 5 → hV (tWs [57] []) μ0 mX0_line d K 26 [(0, 2, 1), (1, 0, v1), (2, 2, 57), (3, 0, 2), (4, 0, 1), (5, 0, 0)] [] μ)) ∧ (v1 = 3 → (v1 ≠ 5 → hV (tWs [57] []) μ0 mX0_line d K 26 [(0, 2, 1), (1, 0, v1), (2, 2, 57), (3, 0, 1), (4, 0, 0), (5, 0, 0)] [] μ) ∧ (v1 = 5 → hV (tWs [57] []) μ0 mX0_line d K 26 [(0, 2, 1), (1, 0, v1), (2, 2, 57), (3, 0, 1), (4, 0, 1), (5, 0, 0)] [] μ))) :
    hV (tWs [57] []) μ0 mX0_line d K 0 [(0, 2, 1), (1, 0, v1), (2, 2, 57)] [] μ := by
  refine g_iload_n (q := 1) dX0_line_0 rfl rfl ?_
  refine g_iconst dX0_line_1 (by decide) ?_
  refine g_icmp_ne (tgt := 9) dX0_line_2 (by decide) (fun c1 => ?_) (fun c2 => ?_)
  · have h := h.1 c1
    refine g_iconst dX0_line_9 (by decide) ?_
    refine g_istore_n (L' := [(0, 2, 1), (1, 0, v1), (2, 2, 57), (3, 0, 2)]) dX0_line_10 rfl (by decide) [1, 2, 3, 0] rfl ?_
    refine g_iload_n (q := 1) dX0_line_11 rfl rfl ?_
    refine g_iconst dX0_line_12 (by decide) ?_
    refine g_icmp_ne (tgt := 20) dX0_line_13 (by decide) (fun c3 => ?_) (fun c4 => ?_)
    · have h := h.1 c3
      refine g_iconst dX0_line_20 (by decide) ?_
      refine g_istore (L' := [(0, 2, 1), (1, 0, v1), (2, 2, 57), (3, 0, 2), (4, 0, 0)]) dX0_line_21 (by decide) [1, 2, 3, 4, 0] rfl ?_
      refine g_iconst dX0_line_23 (by decide) ?_
      refine g_istore (L' := [(0, 2, 1), (1, 0, v1), (2, 2, 57), (3, 0, 2), (4, 0, 0), (5, 0, 0)]) dX0_line_24 (by decide) [1, 2, 3, 4, 5, 0] rfl ?_
      exact h
    · have h := h.2 c4
      refine g_iconst dX0_line_16 (by decide) ?_
      refine g_goto (tgt := 21) dX0_line_17 (by decide) ?_
      refine g_istore (L' := [(0, 2, 1), (1, 0, v1), (2, 2, 57), (3, 0, 2), (4, 0, 1)]) dX0_line_21 (by decide) [1, 2, 3, 4, 0] rfl ?_
      refine g_iconst dX0_line_23 (by decide) ?_
      refine g_istore (L' := [(0, 2, 1), (1, 0, v1), (2, 2, 57), (3, 0, 2), (4, 0, 1), (5, 0, 0)]) dX0_line_24 (by decide) [1, 2, 3, 4, 5, 0] rfl ?_
      exact h
  · have h := h.2 c2
    refine g_iconst dX0_line_5 (by decide) ?_
    refine g_goto (tgt := 10) dX0_line_6 (by decide) ?_
    refine g_istore_n (L' := [(0, 2, 1), (1, 0, v1), (2, 2, 57), (3, 0, 1)]) dX0_line_10 rfl (by decide) [1, 2, 3, 0] rfl ?_
    refine g_iload_n (q := 1) dX0_line_11 rfl rfl ?_
    refine g_iconst dX0_line_12 (by decide) ?_
    refine g_icmp_ne (tgt := 20) dX0_line_13 (by decide) (fun c5 => ?_) (fun c6 => ?_)
    · have h := h.1 c5
      refine g_iconst dX0_line_20 (by decide) ?_
      refine g_istore (L' := [(0, 2, 1), (1, 0, v1), (2, 2, 57), (3, 0, 1), (4, 0, 0)]) dX0_line_21 (by decide) [1, 2, 3, 4, 0] rfl ?_
      refine g_iconst dX0_line_23 (by decide) ?_
      refine g_istore (L' := [(0, 2, 1), (1, 0, v1), (2, 2, 57), (3, 0, 1), (4, 0, 0), (5, 0, 0)]) dX0_line_24 (by decide) [1, 2, 3, 4, 5, 0] rfl ?_
      exact h
    · have h := h.2 c6
      refine g_iconst dX0_line_16 (by decide) ?_
      refine g_goto (tgt := 21) dX0_line_17 (by decide) ?_
      refine g_istore (L' := [(0, 2, 1), (1, 0, v1), (2, 2, 57), (3, 0, 1), (4, 0, 1)]) dX0_line_21 (by decide) [1, 2, 3, 4, 0] rfl ?_
      refine g_iconst dX0_line_23 (by decide) ?_
      refine g_istore (L' := [(0, 2, 1), (1, 0, v1), (2, 2, 57), (3, 0, 1), (4, 0, 1), (5, 0, 0)]) dX0_line_24 (by decide) [1, 2, 3, 4, 5, 0] rfl ?_
      exact h
theorem uX0_line_26_B {d : Nat} {μ0 μ : tm_M} {K : tm_M → Prop} {v1 v3 v4 v5 : Int} (hs : tFr (tWs [57] []) μ0 μ)
    (h : (3 ≤ v5 → K μ) ∧ (v5 < 3 → (v1 < 3 → (v5 ≠ v1 → (0 ≤ v5 ∧ v5 < 3) ∧ ((∀ μ8, μ8 = tm_w μ 57 v5 0 → hV (tWs [57] []) μ0 mX0_line d K 26 [(0, 2, 1), (1, 0, v1), (2, 2, 57), (3, 0, v3), (4, 0, v4), (5, 0, w32 (v5 + 1))] [] μ8))) ∧ (v5 = v1 → (0 ≤ v5 ∧ v5 < 3) ∧ ((∀ μ10, μ10 = tm_w μ 57 v5 1 → hV (tWs [57] []) μ0 mX0_line d K 26 [(0, 2, 1), (1, 0, v1), (2, 2, 57), (3, 0, v3), (4, 0, v4), (5, 0, w32 (v5 + 1))] [] μ10)))) ∧ (3 ≤ v1 → (0 ≤ v5 ∧ v5 < 3) ∧ ((0 ≤ v3 ∧ v3 < 3) ∧ ((0 ≤ v4 ∧ v4 < 3) ∧ ((∀ μ14, μ14 = tm_w μ 57 v5 (w64 ((tm_v μ0 (53 + v5) v3) - (tm_v μ0 (53 + v5) v4))) → hV (tWs [57] []) μ0 mX0_line d K 26 [(0, 2, 1), (1, 0, v1), (2, 2, 57), (3, 0, v3), (4, 0, v4), (5, 0, w32 (v5 + 1))] [] μ14))))))) :
    hV (tWs [57] []) μ0 mX0_line d K 26 [(0, 2, 1), (1, 0, v1), (2, 2, 57), (3, 0, v3), (4, 0, v4), (5, 0, v5)] [] μ := by
  refine g_iload (q := 5) dX0_line_26 rfl ?_
  refine g_iconst dX0_line_28 (by decide) ?_
  refine g_icmp_ge (tgt := 81) dX0_line_29 (by decide) (fun c1 => ?_) (fun c2 => ?_)
  · have h := h.1 c1
    exact g_vret dX0_line_81 rfl (Nat.le_refl _) (Nat.le_refl _) ⟨rfl, hs, h⟩
  · have h := h.2 c2
    refine g_aload_n (q := 2) dX0_line_32 rfl rfl ?_
    refine g_iload (q := 5) dX0_line_33 rfl ?_
    refine g_iload_n (q := 1) dX0_line_35 rfl rfl ?_
    refine g_iconst dX0_line_36 (by decide) ?_
    refine g_icmp_lt (tgt := 63) dX0_line_37 (by decide) (fun c3 => ?_) (fun c4 => ?_)
    · have h := h.1 c3
      refine g_iload (q := 5) dX0_line_63 rfl ?_
      refine g_iload_n (q := 1) dX0_line_65 rfl rfl ?_
      refine g_icmp_ne (tgt := 73) dX0_line_66 (by decide) (fun c5 => ?_) (fun c6 => ?_)
      · have h := h.1 c5
        refine g_lconst0 dX0_line_73 ?_
        obtain ⟨c7, h⟩ := h
        refine g_lastore dX0_line_74 (by decide) (sk_57 hs.S) c7.1 (t_lt (sn_57 hs.S) c7.2) (p_w hs sf_57 (tWs_in _ rfl) fun μ8 eμ8 hs => ?_)
        have h := h μ8 eμ8
        refine g_iinc (q := 5) dX0_line_75 (by decide) rfl [1, 2, 3, 4, 5, 0] rfl ?_
        refine g_goto (tgt := 26) dX0_line_78 (by decide) ?_
        exact h
      · have h := h.2 c6
        refine g_lconst1 dX0_line_69 ?_
        refine g_goto (tgt := 74) dX0_line_70 (by decide) ?_
        obtain ⟨c9, h⟩ := h
        refine g_lastore dX0_line_74 (by decide) (sk_57 hs.S) c9.1 (t_lt (sn_57 hs.S) c9.2) (p_w hs sf_57 (tWs_in _ rfl) fun μ10 eμ10 hs => ?_)
        have h := h μ10 eμ10
        refine g_iinc (q := 5) dX0_line_75 (by decide) rfl [1, 2, 3, 4, 5, 0] rfl ?_
        refine g_goto (tgt := 26) dX0_line_78 (by decide) ?_
        exact h
    · have h := h.2 c4
      refine g_aload_n (q := 0) dX0_line_40 rfl rfl ?_
      refine g_getC (x := 52) 2 dX0_line_41 fX0_130 rfl (by decide) (sk_1 hs.S) (sv_1_39 hs.S) ?_
      refine g_iload (q := 5) dX0_line_44 rfl ?_
      obtain ⟨c11, h⟩ := h
      refine g_aaloadC (x := 53 + v5) dX0_line_46 (by decide) (sk_52 hs.S) (by decide) c11.1 (t_lt (sn_52 hs.S) c11.2) (sa_52 hs.S c11.1 c11.2) ?_
      refine g_iload_n (q := 3) dX0_line_47 rfl rfl ?_
      obtain ⟨c12, h⟩ := h
      refine g_laloadC (x := tm_v μ0 (53 + v5) v3) dX0_line_48 (by have := c11; omega) (sak_52 hs.S c11.1 c11.2) c12.1 (t_lt (san_52 hs.S c11.1 c11.2) c12.2) (hs.v (tWs_nr (lo := 53) (n := 3) rfl (by have := c11; omega))) ?_
      refine g_aload_n (q := 0) dX0_line_49 rfl rfl ?_
      refine g_getC (x := 52) 2 dX0_line_50 fX0_130 rfl (by decide) (sk_1 hs.S) (sv_1_39 hs.S) ?_
      refine g_iload (q := 5) dX0_line_53 rfl ?_
      refine g_aaloadC (x := 53 + v5) dX0_line_55 (by decide) (sk_52 hs.S) (by decide) c11.1 (t_lt (sn_52 hs.S) c11.2) (sa_52 hs.S c11.1 c11.2) ?_
      refine g_iload (q := 4) dX0_line_56 rfl ?_
      obtain ⟨c13, h⟩ := h
      refine g_laloadC (x := tm_v μ0 (53 + v5) v4) dX0_line_58 (by have := c11; omega) (sak_52 hs.S c11.1 c11.2) c13.1 (t_lt (san_52 hs.S c11.1 c11.2) c13.2) (hs.v (tWs_nr (lo := 53) (n := 3) rfl (by have := c11; omega))) ?_
      refine g_lsub dX0_line_59 ?_
      refine g_goto (tgt := 74) dX0_line_60 (by decide) ?_
      refine g_lastore dX0_line_74 (by decide) (sk_57 hs.S) c11.1 (t_lt (sn_57 hs.S) c11.2) (p_w hs sf_57 (tWs_in _ rfl) fun μ14 eμ14 hs => ?_)
      have h := h μ14 eμ14
      refine g_iinc (q := 5) dX0_line_75 (by decide) rfl [1, 2, 3, 4, 5, 0] rfl ?_
      refine g_goto (tgt := 26) dX0_line_78 (by decide) ?_
      exact h
theorem uX0_isGreater_0 {d : Nat} {μ0 μ : tm_M} {K : Int → tm_M → Prop} {v1 : Int} (hs : tFr (tWs [] []) μ0 μ)
    (h : hI (tWs [] []) μ0 mX0_isGreater d K 2 [(0, 2, 1), (1, 1, v1), (3, 0, 0)] [] μ) :
    hI (tWs [] []) μ0 mX0_isGreater d K 0 [(0, 2, 1), (1, 1, v1)] [] μ := by
  refine g_iconst dX0_isGreater_0 (by decide) ?_
  refine g_istore_n (L' := [(0, 2, 1), (1, 1, v1), (3, 0, 0)]) dX0_isGreater_1 rfl (by decide) [1, 2, 0] rfl ?_
  exact h
theorem uX0_isGreater_2 {d : Nat} {μ0 μ : tm_M} {K : Int → tm_M → Prop} {v1 v3 : Int} (hs : tFr (tWs [] []) μ0 μ)
    (h : (3 ≤ v3 → K 0 μ) ∧ (v3 < 3 → (0 ≤ v3 ∧ v3 < 3) ∧ ((w64 ((tm_v μ0 58 v3) * (tm_v μ0 1 46)) = w64 ((tm_v μ0 59 v3) * v1) → hI (tWs [] []) μ0 mX0_isGreater d K 2 [(0, 2, 1), (1, 1, v1), (3, 0, w32 (v3 + 1))] [] μ) ∧ (w64 ((tm_v μ0 58 v3) * (tm_v μ0 1 46)) ≠ w64 ((tm_v μ0 59 v3) * v1) → (w64 ((tm_v μ0 58 v3) * (tm_v μ0 1 46)) ≤ w64 ((tm_v μ0 59 v3) * v1) → K 0 μ) ∧ (w64 ((tm_v μ0 59 v3) * v1) < w64 ((tm_v μ0 58 v3) * (tm_v μ0 1 46)) → K 1 μ))))) :
    hI (tWs [] []) μ0 mX0_isGreater d K 2 [(0, 2, 1), (1, 1, v1), (3, 0, v3)] [] μ := by
  refine g_iload_n (q := 2) dX0_isGreater_2 rfl rfl ?_
  refine g_iconst dX0_isGreater_3 (by decide) ?_
  refine g_icmp_ge (tgt := 65) dX0_isGreater_4 (by decide) (fun c1 => ?_) (fun c2 => ?_)
  · have h := h.1 c1
    refine g_iconst dX0_isGreater_65 (by decide) ?_
    exact g_zret dX0_isGreater_66 rfl (by decide) (Nat.le_refl _) (Nat.le_refl _) ⟨_, rfl, hs, h⟩
  · have h := h.2 c2
    refine g_aload_n (q := 0) dX0_isGreater_7 rfl rfl ?_
    refine g_getC (x := 58) 2 dX0_isGreater_8 fX0_139 rfl (by decide) (sk_1 hs.S) (sv_1_42 hs.S) ?_
    refine g_iload_n (q := 2) dX0_isGreater_11 rfl rfl ?_
    obtain ⟨c3, h⟩ := h
    refine g_laloadC (x := tm_v μ0 58 v3) dX0_isGreater_12 (by decide) (sk_58 hs.S) c3.1 (t_lt (sn_58 hs.S) c3.2) (hs.v (tWs_no _ rfl)) ?_
    refine g_aload_n (q := 0) dX0_isGreater_13 rfl rfl ?_
    refine g_getC (x := tm_v μ0 1 46) 1 dX0_isGreater_14 fX0_455 rfl (by decide) (sk_1 hs.S) (hs.v (tWs_noF rfl)) ?_
    refine g_lmul dX0_isGreater_17 ?_
    refine g_aload_n (q := 0) dX0_isGreater_18 rfl rfl ?_
    refine g_getC (x := 59) 2 dX0_isGreater_19 fX0_142 rfl (by decide) (sk_1 hs.S) (sv_1_43 hs.S) ?_
    refine g_iload_n (q := 2) dX0_isGreater_22 rfl rfl ?_
    refine g_laloadC (x := tm_v μ0 59 v3) dX0_isGreater_23 (by decide) (sk_59 hs.S) c3.1 (t_lt (sn_59 hs.S) c3.2) (hs.v (tWs_no _ rfl)) ?_
    refine g_lload_n (q := 1) dX0_isGreater_24 rfl rfl ?_
    refine g_lmul dX0_isGreater_25 ?_
    refine g_lcmp_eq (tgt := 59) dX0_isGreater_26 dX0_isGreater_27 (by decide) (fun c4 => ?_) (fun c5 => ?_)
    · have h := h.1 c4
      refine g_iinc (q := 2) dX0_isGreater_59 (by decide) rfl [1, 2, 0] rfl ?_
      refine g_goto (tgt := 2) dX0_isGreater_62 (by decide) ?_
      exact h
    · have h := h.2 c5
      refine g_aload_n (q := 0) dX0_isGreater_30 rfl rfl ?_
      refine g_getC (x := 58) 2 dX0_isGreater_31 fX0_139 rfl (by decide) (sk_1 hs.S) (sv_1_42 hs.S) ?_
      refine g_iload_n (q := 2) dX0_isGreater_34 rfl rfl ?_
      refine g_laloadC (x := tm_v μ0 58 v3) dX0_isGreater_35 (by decide) (sk_58 hs.S) c3.1 (t_lt (sn_58 hs.S) c3.2) (hs.v (tWs_no _ rfl)) ?_
      refine g_aload_n (q := 0) dX0_isGreater_36 rfl rfl ?_
      refine g_getC (x := tm_v μ0 1 46) 1 dX0_isGreater_37 fX0_455 rfl (by decide) (sk_1 hs.S) (hs.v (tWs_noF rfl)) ?_
      refine g_lmul dX0_isGreater_40 ?_
      refine g_aload_n (q := 0) dX0_isGreater_41 rfl rfl ?_
      refine g_getC (x := 59) 2 dX0_isGreater_42 fX0_142 rfl (by decide) (sk_1 hs.S) (sv_1_43 hs.S) ?_
      refine g_iload_n (q := 2) dX0_isGreater_45 rfl rfl ?_
      refine g_laloadC (x := tm_v μ0 59 v3) dX0_isGreater_46 (by decide) (sk_59 hs.S) c3.1 (t_lt (sn_59 hs.S) c3.2) (hs.v (tWs_no _ rfl)) ?_
      refine g_lload_n (q := 1) dX0_isGreater_47 rfl rfl ?_
      refine g_lmul dX0_isGreater_48 ?_
      refine g_lcmp_le (tgt := 57) dX0_isGreater_49 dX0_isGreater_50 (by decide) (fun c6 => ?_) (fun c7 => ?_)
      · have h := h.1 c6
        refine g_iconst dX0_isGreater_57 (by decide) ?_
        exact g_zret dX0_isGreater_58 rfl (by decide) (Nat.le_refl _) (Nat.le_refl _) ⟨_, rfl, hs, h⟩
      · have h := h.2 c7
        refine g_iconst dX0_isGreater_53 (by decide) ?_
        refine g_goto (tgt := 58) dX0_isGreater_54 (by decide) ?_
        exact g_zret dX0_isGreater_58 rfl (by decide) (Nat.le_refl _) (Nat.le_refl _) ⟨_, rfl, hs, h⟩
theorem uX0_cross_0 {d : Nat} {μ0 μ : tm_M} {K : tm_M → Prop} {v1 v2 : Int} (hs : tFr (tWs [58, 59] [(1, 45), (1, 46)]) μ0 μ)
    (h : hV (tWs [58, 59] [(1, 45), (1, 46)]) μ0 mX0_cross d K 5 [(0, 2, 1), (1, 0, v1), (2, 0, v2), (3, 1, 0), (5, 0, 0)] [] μ) :
    hV (tWs [58, 59] [(1, 45), (1, 46)]) μ0 mX0_cross d K 0 [(0, 2, 1), (1, 0, v1), (2, 0, v2)] [] μ := by
  refine g_lconst0 dX0_cross_0 ?_
  refine g_lstore_n (L' := [(0, 2, 1), (1, 0, v1), (2, 0, v2), (3, 1, 0)]) dX0_cross_1 rfl (by decide) [1, 2, 3, 0] rfl ?_
  refine g_iconst dX0_cross_2 (by decide) ?_
  refine g_istore (L' := [(0, 2, 1), (1, 0, v1), (2, 0, v2), (3, 1, 0), (5, 0, 0)]) dX0_cross_3 (by decide) [1, 2, 3, 4, 0] rfl ?_
  exact h
theorem uX0_cross_5 {d : Nat} {μ0 μ : tm_M} {K : tm_M → Prop} {v1 v2 v3 v5 : Int} (hs : tFr (tWs [58, 59] [(1, 45), (1, 46)]) μ0 μ)
    (h : (3 ≤ v5 → (v3 ≠ 0 → hV (tWs [58, 59] [(1, 45), (1, 46)]) μ0 mX0_cross d K 91 [(0, 2, 1), (1, 0, v1), (2, 0, v2), (3, 1, v3), (5, 0, 0)] [] μ) ∧ (v3 = 0 → K μ)) ∧ (v5 < 3 → (∀ x5, x5 = (w32 (v5 + 1)).tmod 3 → (∀ x6, x6 = (w32 (v5 + 2)).tmod 3 → (0 ≤ x5 ∧ x5 < 3) ∧ ((0 ≤ x6 ∧ x6 < 3) ∧ ((0 ≤ v5 ∧ v5 < 3) ∧ ((∀ μ10, μ10 = tm_w μ 58 v5 (w64 ((w64 ((tm_v μ0 56 x5) * (tm_v μ0 57 x6))) - (w64 ((tm_v μ0 56 x6) * (tm_v μ0 57 x5))))) → (∀ x11, x11 = w64 (v3 + (tm_v μ10 58 v5)) → hV (tWs [58, 59] [(1, 45), (1, 46)]) μ0 mX0_cross d K 5 [(0, 2, 1), (1, 0, v1), (2, 0, v2), (3, 1, x11), (5, 0, w32 (v5 + 1))] [] μ10))))))))) :
    hV (tWs [58, 59] [(1, 45), (1, 46)]) μ0 mX0_cross d K 5 [(0, 2, 1), (1, 0, v1), (2, 0, v2), (3, 1, v3), (5, 0, v5)] [] μ := by
  refine g_iload (q := 4) dX0_cross_5 rfl ?_
  refine g_iconst dX0_cross_7 (by decide) ?_
  refine g_icmp_ge (tgt := 81) dX0_cross_8 (by decide) (fun c1 => ?_) (fun c2 => ?_)
  · have h := h.1 c1
    refine g_lload_n (q := 3) dX0_cross_81 rfl rfl ?_
    refine g_lconst0 dX0_cross_82 ?_
    refine g_lcmp_ne (tgt := 88) dX0_cross_83 dX0_cross_84 (by decide) (fun c3 => ?_) (fun c4 => ?_)
    · have h := h.1 c3
      refine g_iconst dX0_cross_88 (by decide) ?_
      refine g_istore (L' := [(0, 2, 1), (1, 0, v1), (2, 0, v2), (3, 1, v3), (5, 0, 0)]) dX0_cross_89 (by decide) [1, 2, 3, 4, 0] rfl ?_
      exact h
    · have h := h.2 c4
      exact g_vret dX0_cross_87 rfl (Nat.le_refl _) (Nat.le_refl _) ⟨rfl, hs, h⟩
  · have h := h.2 c2
    refine g_iload (q := 4) dX0_cross_11 rfl ?_
    refine g_iconst dX0_cross_13 (by decide) ?_
    refine g_iadd dX0_cross_14 ?_
    refine g_iconst dX0_cross_15 (by decide) ?_
    refine g_irem dX0_cross_16 (by decide) ?_
    refine g_istoreN (fun z => [(0, 2, 1), (1, 0, v1), (2, 0, v2), (3, 1, v3), (5, 0, v5), (6, 0, z)]) dX0_cross_17 (by decide) [1, 2, 3, 4, 5, 0] (fun _ => rfl) (fun x5 ex5 => ?_)
    have h := h x5 ex5
    refine g_iload (q := 4) dX0_cross_19 rfl ?_
    refine g_iconst dX0_cross_21 (by decide) ?_
    refine g_iadd dX0_cross_22 ?_
    refine g_iconst dX0_cross_23 (by decide) ?_
    refine g_irem dX0_cross_24 (by decide) ?_
    refine g_istoreN (fun z => [(0, 2, 1), (1, 0, v1), (2, 0, v2), (3, 1, v3), (5, 0, v5), (6, 0, x5), (7, 0, z)]) dX0_cross_25 (by decide) [1, 2, 3, 4, 5, 6, 0] (fun _ => rfl) (fun x6 ex6 => ?_)
    have h := h x6 ex6
    refine g_aload_n (q := 0) dX0_cross_27 rfl rfl ?_
    refine g_getC (x := 58) 2 dX0_cross_28 fX0_139 rfl (by decide) (sk_1 hs.S) (sv_1_42 hs.S) ?_
    refine g_iload (q := 4) dX0_cross_31 rfl ?_
    refine g_aload_n (q := 0) dX0_cross_33 rfl rfl ?_
    refine g_getC (x := 56) 2 dX0_cross_34 fX0_133 rfl (by decide) (sk_1 hs.S) (sv_1_40 hs.S) ?_
    refine g_iload (q := 5) dX0_cross_37 rfl ?_
    obtain ⟨c7, h⟩ := h
    refine g_laloadC (x := tm_v μ0 56 x5) dX0_cross_39 (by decide) (sk_56 hs.S) c7.1 (t_lt (sn_56 hs.S) c7.2) (hs.v (tWs_no _ rfl)) ?_
    refine g_aload_n (q := 0) dX0_cross_40 rfl rfl ?_
    refine g_getC (x := 57) 2 dX0_cross_41 fX0_136 rfl (by decide) (sk_1 hs.S) (sv_1_41 hs.S) ?_
    refine g_iload (q := 6) dX0_cross_44 rfl ?_
    obtain ⟨c8, h⟩ := h
    refine g_laloadC (x := tm_v μ0 57 x6) dX0_cross_46 (by decide) (sk_57 hs.S) c8.1 (t_lt (sn_57 hs.S) c8.2) (hs.v (tWs_no _ rfl)) ?_
    refine g_lmul dX0_cross_47 ?_
    refine g_aload_n (q := 0) dX0_cross_48 rfl rfl ?_
    refine g_getC (x := 56) 2 dX0_cross_49 fX0_133 rfl (by decide) (sk_1 hs.S) (sv_1_40 hs.S) ?_
    refine g_iload (q := 6) dX0_cross_52 rfl ?_
    refine g_laloadC (x := tm_v μ0 56 x6) dX0_cross_54 (by decide) (sk_56 hs.S) c8.1 (t_lt (sn_56 hs.S) c8.2) (hs.v (tWs_no _ rfl)) ?_
    refine g_aload_n (q := 0) dX0_cross_55 rfl rfl ?_
    refine g_getC (x := 57) 2 dX0_cross_56 fX0_136 rfl (by decide) (sk_1 hs.S) (sv_1_41 hs.S) ?_
    refine g_iload (q := 5) dX0_cross_59 rfl ?_
    refine g_laloadC (x := tm_v μ0 57 x5) dX0_cross_61 (by decide) (sk_57 hs.S) c7.1 (t_lt (sn_57 hs.S) c7.2) (hs.v (tWs_no _ rfl)) ?_
    refine g_lmul dX0_cross_62 ?_
    refine g_lsub dX0_cross_63 ?_
    obtain ⟨c9, h⟩ := h
    refine g_lastore dX0_cross_64 (by decide) (sk_58 hs.S) c9.1 (t_lt (sn_58 hs.S) c9.2) (p_w hs sf_58 (tWs_in _ rfl) fun μ10 eμ10 hs => ?_)
    have h := h μ10 eμ10
    refine g_lload_n (q := 3) dX0_cross_65 rfl rfl ?_
    refine g_aload_n (q := 0) dX0_cross_66 rfl rfl ?_
    refine g_getC (x := 58) 2 dX0_cross_67 fX0_139 rfl (by decide) (sk_1 hs.S) (sv_1_42 hs.S) ?_
    refine g_iload (q := 4) dX0_cross_70 rfl ?_
    refine g_laload dX0_cross_72 (by decide) (sk_58 hs.S) c9.1 (t_lt (sn_58 hs.S) c9.2) ?_
    refine g_ladd dX0_cross_73 ?_
    refine g_lstore_nN (fun z => [(0, 2, 1), (1, 0, v1), (2, 0, v2), (3, 1, z), (5, 0, v5), (6, 0, x5), (7, 0, x6)]) dX0_cross_74 rfl (by decide) [1, 2, 3, 0, 4, 5, 6] (fun _ => rfl) (fun x11 ex11 => ?_)
    have h := h x11 ex11
    refine g_iinc (q := 4) dX0_cross_75 (by decide) rfl [1, 2, 3, 4, 0, 5, 6] rfl ?_
    refine g_goto (tgt := 5) dX0_cross_78 (by decide) ?_
    exact g_less [0, 1, 2, 3, 4] rfl h
theorem uX0_cross_91 {d : Nat} {μ0 μ : tm_M} {K : tm_M → Prop} {v1 v2 v3 v5 : Int} (hd : 1 ≤ d) (hs : tFr (tWs [58, 59] [(1, 45), (1, 46)]) μ0 μ)
    (h : (3 ≤ v5 → (-9223372036854775808 < v3 ∧ v3 ≤ 9223372036854775807) ∧ ((∀ x7, x7 = (v3.natAbs : Int) → hV (tWs [58, 59] [(1, 45), (1, 46)]) μ0 mX0_cross d K 177 [(0, 2, 1), (1, 0, v1), (2, 0, v2), (5, 1, x7), (7, 1, 0), (9, 0, 0)] [] μ))) ∧ (v5 < 3 → (0 ≤ v3 → (0 ≤ v5 ∧ v5 < 3) ∧ ((∀ μ11, μ11 = tm_w μ 58 v5 (tm_v μ 58 v5) → (tm_v μ11 58 v5 < 0 → hV (tWs [58, 59] [(1, 45), (1, 46)]) μ0 mX0_cross d K 158 [] [] μ11) ∧ (0 ≤ tm_v μ11 58 v5 → (v5 < v1 → hV (tWs [58, 59] [(1, 45), (1, 46)]) μ0 mX0_cross d K 159 [(0, 2, 1), (1, 0, v1), (2, 0, v2), (3, 1, v3), (5, 0, v5)] [] μ11) ∧ (v1 ≤ v5 → (tm_v μ11 58 v5 = 0 → hV (tWs [58, 59] [(1, 45), (1, 46)]) μ0 mX0_cross d K 159 [(0, 2, 1), (1, 0, v1), (2, 0, v2), (3, 1, v3), (5, 0, v5)] [] μ11) ∧ (tm_v μ11 58 v5 ≠ 0 → hV (tWs [58, 59] [(1, 45), (1, 46)]) μ0 mX0_cross d K 158 [] [] μ11)))))) ∧ (v3 < 0 → (0 ≤ v5 ∧ v5 < 3) ∧ ((∀ μ19, μ19 = tm_w μ 58 v5 (w64 (-(tm_v μ 58 v5))) → (tm_v μ19 58 v5 < 0 → hV (tWs [58, 59] [(1, 45), (1, 46)]) μ0 mX0_cross d K 158 [] [] μ19) ∧ (0 ≤ tm_v μ19 58 v5 → (v5 < v1 → hV (tWs [58, 59] [(1, 45), (1, 46)]) μ0 mX0_cross d K 159 [(0, 2, 1), (1, 0, v1), (2, 0, v2), (3, 1, v3), (5, 0, v5)] [] μ19) ∧ (v1 ≤ v5 → (tm_v μ19 58 v5 = 0 → hV (tWs [58, 59] [(1, 45), (1, 46)]) μ0 mX0_cross d K 159 [(0, 2, 1), (1, 0, v1), (2, 0, v2), (3, 1, v3), (5, 0, v5)] [] μ19) ∧ (tm_v μ19 58 v5 ≠ 0 → hV (tWs [58, 59] [(1, 45), (1, 46)]) μ0 mX0_cross d K 158 [] [] μ19)))))))) :
    hV (tWs [58, 59] [(1, 45), (1, 46)]) μ0 mX0_cross d K 91 [(0, 2, 1), (1, 0, v1), (2, 0, v2), (3, 1, v3), (5, 0, v5)] [] μ := by
  refine g_iload (q := 4) dX0_cross_91 rfl ?_
  refine g_iconst dX0_cross_93 (by decide) ?_
  refine g_icmp_ge (tgt := 165) dX0_cross_94 (by decide) (fun c1 => ?_) (fun c2 => ?_)
  · have h := h.1 c1
    refine g_lload_n (q := 3) dX0_cross_165 rfl rfl ?_
    obtain ⟨c3, h⟩ := h
    refine g_callS1 dX0_cross_166 kJ8_abs q1159 q1160 rfl (by omega) (Nat.le_of_ble_eq_true rfl) (Nat.le_refl _) (Nat.le_refl _) (t_pL hs (pJ8_abs hs.S c3) ?_)
    refine g_lstoreN (fun z => [(0, 2, 1), (1, 0, v1), (2, 0, v2), (3, 1, v3), (5, 1, z)]) dX0_cross_169 (by decide) [1, 2, 3, 4, 0] (fun _ => rfl) (fun x7 ex7 => ?_)
    have h := h x7 ex7
    refine g_lconst0 dX0_cross_171 ?_
    refine g_lstore (L' := [(0, 2, 1), (1, 0, v1), (2, 0, v2), (3, 1, v3), (5, 1, x7), (7, 1, 0)]) dX0_cross_172 (by decide) [1, 2, 3, 4, 5, 0] rfl ?_
    refine g_iconst dX0_cross_174 (by decide) ?_
    refine g_istore (L' := [(0, 2, 1), (1, 0, v1), (2, 0, v2), (3, 1, v3), (5, 1, x7), (7, 1, 0), (9, 0, 0)]) dX0_cross_175 (by decide) [1, 2, 3, 4, 5, 6, 0] rfl ?_
    exact g_less [0, 1, 2, 4, 5, 6] rfl h
  · have h := h.2 c2
    refine g_aload_n (q := 0) dX0_cross_97 rfl rfl ?_
    refine g_getC (x := 58) 2 dX0_cross_98 fX0_139 rfl (by decide) (sk_1 hs.S) (sv_1_42 hs.S) ?_
    refine g_iload (q := 4) dX0_cross_101 rfl ?_
    refine g_lload_n (q := 3) dX0_cross_103 rfl rfl ?_
    refine g_lconst0 dX0_cross_104 ?_
    refine g_lcmp_ge (tgt := 120) dX0_cross_105 dX0_cross_106 (by decide) (fun c8 => ?_) (fun c9 => ?_)
    · have h := h.1 c8
      refine g_aload_n (q := 0) dX0_cross_120 rfl rfl ?_
      refine g_getC (x := 58) 2 dX0_cross_121 fX0_139 rfl (by decide) (sk_1 hs.S) (sv_1_42 hs.S) ?_
      refine g_iload (q := 4) dX0_cross_124 rfl ?_
      obtain ⟨c10, h⟩ := h
      refine g_laload dX0_cross_126 (by decide) (sk_58 hs.S) c10.1 (t_lt (sn_58 hs.S) c10.2) ?_
      refine g_lastore dX0_cross_127 (by decide) (sk_58 hs.S) c10.1 (t_lt (sn_58 hs.S) c10.2) (p_w hs sf_58 (tWs_in _ rfl) fun μ11 eμ11 hs => ?_)
      have h := h μ11 eμ11
      refine g_aload_n (q := 0) dX0_cross_128 rfl rfl ?_
      refine g_getC (x := 58) 2 dX0_cross_129 fX0_139 rfl (by decide) (sk_1 hs.S) (sv_1_42 hs.S) ?_
      refine g_iload (q := 4) dX0_cross_132 rfl ?_
      refine g_laload dX0_cross_134 (by decide) (sk_58 hs.S) c10.1 (t_lt (sn_58 hs.S) c10.2) ?_
      refine g_lconst0 dX0_cross_135 ?_
      refine g_lcmp_lt (tgt := 158) dX0_cross_136 dX0_cross_137 (by decide) (fun c12 => ?_) (fun c13 => ?_)
      · have h := h.1 c12
        exact g_less [] rfl h
      · have h := h.2 c13
        refine g_iload (q := 4) dX0_cross_140 rfl ?_
        refine g_iload_n (q := 1) dX0_cross_142 rfl rfl ?_
        refine g_icmp_lt (tgt := 159) dX0_cross_143 (by decide) (fun c14 => ?_) (fun c15 => ?_)
        · have h := h.1 c14
          exact h
        · have h := h.2 c15
          refine g_aload_n (q := 0) dX0_cross_146 rfl rfl ?_
          refine g_getC (x := 58) 2 dX0_cross_147 fX0_139 rfl (by decide) (sk_1 hs.S) (sv_1_42 hs.S) ?_
          refine g_iload (q := 4) dX0_cross_150 rfl ?_
          refine g_laload dX0_cross_152 (by decide) (sk_58 hs.S) c10.1 (t_lt (sn_58 hs.S) c10.2) ?_
          refine g_lconst0 dX0_cross_153 ?_
          refine g_lcmp_eq (tgt := 159) dX0_cross_154 dX0_cross_155 (by decide) (fun c16 => ?_) (fun c17 => ?_)
          · have h := h.1 c16
            exact h
          · have h := h.2 c17
            exact g_less [] rfl h
    · have h := h.2 c9
      refine g_aload_n (q := 0) dX0_cross_109 rfl rfl ?_
      refine g_getC (x := 58) 2 dX0_cross_110 fX0_139 rfl (by decide) (sk_1 hs.S) (sv_1_42 hs.S) ?_
      refine g_iload (q := 4) dX0_cross_113 rfl ?_
      obtain ⟨c18, h⟩ := h
      refine g_laload dX0_cross_115 (by decide) (sk_58 hs.S) c18.1 (t_lt (sn_58 hs.S) c18.2) ?_
      refine g_lneg dX0_cross_116 ?_
      refine g_goto (tgt := 127) dX0_cross_117 (by decide) ?_
      refine g_lastore dX0_cross_127 (by decide) (sk_58 hs.S) c18.1 (t_lt (sn_58 hs.S) c18.2) (p_w hs sf_58 (tWs_in _ rfl) fun μ19 eμ19 hs => ?_)
      have h := h μ19 eμ19
      refine g_aload_n (q := 0) dX0_cross_128 rfl rfl ?_
      refine g_getC (x := 58) 2 dX0_cross_129 fX0_139 rfl (by decide) (sk_1 hs.S) (sv_1_42 hs.S) ?_
      refine g_iload (q := 4) dX0_cross_132 rfl ?_
      refine g_laload dX0_cross_134 (by decide) (sk_58 hs.S) c18.1 (t_lt (sn_58 hs.S) c18.2) ?_
      refine g_lconst0 dX0_cross_135 ?_
      refine g_lcmp_lt (tgt := 158) dX0_cross_136 dX0_cross_137 (by decide) (fun c20 => ?_) (fun c21 => ?_)
      · have h := h.1 c20
        exact g_less [] rfl h
      · have h := h.2 c21
        refine g_iload (q := 4) dX0_cross_140 rfl ?_
        refine g_iload_n (q := 1) dX0_cross_142 rfl rfl ?_
        refine g_icmp_lt (tgt := 159) dX0_cross_143 (by decide) (fun c22 => ?_) (fun c23 => ?_)
        · have h := h.1 c22
          exact h
        · have h := h.2 c23
          refine g_aload_n (q := 0) dX0_cross_146 rfl rfl ?_
          refine g_getC (x := 58) 2 dX0_cross_147 fX0_139 rfl (by decide) (sk_1 hs.S) (sv_1_42 hs.S) ?_
          refine g_iload (q := 4) dX0_cross_150 rfl ?_
          refine g_laload dX0_cross_152 (by decide) (sk_58 hs.S) c18.1 (t_lt (sn_58 hs.S) c18.2) ?_
          refine g_lconst0 dX0_cross_153 ?_
          refine g_lcmp_eq (tgt := 159) dX0_cross_154 dX0_cross_155 (by decide) (fun c24 => ?_) (fun c25 => ?_)
          · have h := h.1 c24
            exact h
          · have h := h.2 c25
            exact g_less [] rfl h
theorem uX0_cross_158 {d : Nat} {μ0 μ : tm_M} {K : tm_M → Prop} (hs : tFr (tWs [58, 59] [(1, 45), (1, 46)]) μ0 μ)
    (h : K μ) :
    hV (tWs [58, 59] [(1, 45), (1, 46)]) μ0 mX0_cross d K 158 [] [] μ := by
  exact g_vret dX0_cross_158 rfl (Nat.le_refl _) (Nat.le_refl _) ⟨rfl, hs, h⟩
theorem uX0_cross_159 {d : Nat} {μ0 μ : tm_M} {K : tm_M → Prop} {v1 v2 v3 v5 : Int} (hs : tFr (tWs [58, 59] [(1, 45), (1, 46)]) μ0 μ)
    (h : hV (tWs [58, 59] [(1, 45), (1, 46)]) μ0 mX0_cross d K 91 [(0, 2, 1), (1, 0, v1), (2, 0, v2), (3, 1, v3), (5, 0, w32 (v5 + 1))] [] μ) :
    hV (tWs [58, 59] [(1, 45), (1, 46)]) μ0 mX0_cross d K 159 [(0, 2, 1), (1, 0, v1), (2, 0, v2), (3, 1, v3), (5, 0, v5)] [] μ := by
  refine g_iinc (q := 4) dX0_cross_159 (by decide) rfl [1, 2, 3, 4, 0] rfl ?_
  refine g_goto (tgt := 91) dX0_cross_162 (by decide) ?_
  exact h
theorem uX0_cross_177 {d : Nat} {μ0 μ : tm_M} {K : tm_M → Prop} {v1 v2 v5 v7 v9 : Int} (hd : 1 ≤ d) (hs : tFr (tWs [58, 59] [(1, 45), (1, 46)]) μ0 μ)
    (h : (v2 ≤ v9 → (tm_v μ 1 46 ≤ 0 → hV (tWs [58, 59] [(1, 45), (1, 46)]) μ0 mX0_cross d K 294 [(0, 2, 1), (5, 1, v5), (7, 1, v7)] [] μ) ∧ (0 < tm_v μ 1 46 → (w64 ((tm_v μ 1 45) * v5) < w64 (v7 * (tm_v μ 1 46)) → hV (tWs [58, 59] [(1, 45), (1, 46)]) μ0 mX0_cross d K 293 [] [] μ) ∧ (w64 (v7 * (tm_v μ 1 46)) ≤ w64 ((tm_v μ 1 45) * v5) → (w64 (v7 * (tm_v μ 1 46)) ≠ w64 ((tm_v μ 1 45) * v5) → hV (tWs [58, 59] [(1, 45), (1, 46)]) μ0 mX0_cross d K 294 [(0, 2, 1), (5, 1, v5), (7, 1, v7)] [] μ) ∧ (w64 (v7 * (tm_v μ 1 46)) = w64 ((tm_v μ 1 45) * v5) → cI (tWs [] []) mX0_isGreater (d - 1) [(2, 1), (1, v5)] μ (fun r10 μ9 => (r10 ≠ 0 → hV (tWs [58, 59] [(1, 45), (1, 46)]) μ0 mX0_cross d K 294 [(0, 2, 1), (5, 1, v5), (7, 1, v7)] [] μ9) ∧ (r10 = 0 → hV (tWs [58, 59] [(1, 45), (1, 46)]) μ0 mX0_cross d K 293 [] [] μ9)))))) ∧ (v9 < v2 → hV (tWs [58, 59] [(1, 45), (1, 46)]) μ0 mX0_cross d K 189 [(0, 2, 1), (1, 0, v1), (2, 0, v2), (5, 1, v5), (7, 1, v7), (9, 0, v9), (10, 1, 0), (12, 0, 0)] [] μ)) :
    hV (tWs [58, 59] [(1, 45), (1, 46)]) μ0 mX0_cross d K 177 [(0, 2, 1), (1, 0, v1), (2, 0, v2), (5, 1, v5), (7, 1, v7), (9, 0, v9)] [] μ := by
  refine g_iload (q := 5) dX0_cross_177 rfl ?_
  refine g_iload_n (q := 2) dX0_cross_179 rfl rfl ?_
  refine g_icmp_ge (tgt := 239) dX0_cross_180 (by decide) (fun c1 => ?_) (fun c2 => ?_)
  · have h := h.1 c1
    refine g_aload_n (q := 0) dX0_cross_239 rfl rfl ?_
    refine g_get 1 dX0_cross_240 fX0_455 rfl (by decide) (sk_1 hs.S) ?_
    refine g_lconst0 dX0_cross_243 ?_
    refine g_lcmp_le (tgt := 294) dX0_cross_244 dX0_cross_245 (by decide) (fun c3 => ?_) (fun c4 => ?_)
    · have h := h.1 c3
      exact g_less [0, 3, 4] rfl h
    · have h := h.2 c4
      refine g_lload (q := 4) dX0_cross_248 rfl ?_
      refine g_aload_n (q := 0) dX0_cross_250 rfl rfl ?_
      refine g_get 1 dX0_cross_251 fX0_455 rfl (by decide) (sk_1 hs.S) ?_
      refine g_lmul dX0_cross_254 ?_
      refine g_aload_n (q := 0) dX0_cross_255 rfl rfl ?_
      refine g_get 1 dX0_cross_256 fX0_458 rfl (by decide) (sk_1 hs.S) ?_
      refine g_lload (q := 3) dX0_cross_259 rfl ?_
      refine g_lmul dX0_cross_261 ?_
      refine g_lcmp_gt (tgt := 293) dX0_cross_262 dX0_cross_263 (by decide) (fun c5 => ?_) (fun c6 => ?_)
      · have h := h.1 c5
        exact g_less [] rfl h
      · have h := h.2 c6
        refine g_lload (q := 4) dX0_cross_266 rfl ?_
        refine g_aload_n (q := 0) dX0_cross_268 rfl rfl ?_
        refine g_get 1 dX0_cross_269 fX0_455 rfl (by decide) (sk_1 hs.S) ?_
        refine g_lmul dX0_cross_272 ?_
        refine g_aload_n (q := 0) dX0_cross_273 rfl rfl ?_
        refine g_get 1 dX0_cross_274 fX0_458 rfl (by decide) (sk_1 hs.S) ?_
        refine g_lload (q := 3) dX0_cross_277 rfl ?_
        refine g_lmul dX0_cross_279 ?_
        refine g_lcmp_ne (tgt := 294) dX0_cross_280 dX0_cross_281 (by decide) (fun c7 => ?_) (fun c8 => ?_)
        · have h := h.1 c7
          exact g_less [0, 3, 4] rfl h
        · have h := h.2 c8
          refine g_aload_n (q := 0) dX0_cross_284 rfl rfl ?_
          refine g_lload (q := 3) dX0_cross_285 rfl ?_
          refine g_callV1 dX0_cross_287 kX0_isGreater q1165 q1167 qs48 (ci := 0) rfl (by decide) rfl (by omega) (by decide) (sk_1 hs.S) (Nat.le_of_ble_eq_true rfl) (Nat.le_refl _) (Nat.le_refl _) (t_kI hs (tWs_sub rfl) h (fun r10 μ9 hs h => ?_))
          refine g_if_ne (tgt := 294) dX0_cross_290 (by decide) (fun c11 => ?_) (fun c12 => ?_)
          · have h := h.1 c11
            exact g_less [0, 3, 4] rfl h
          · have h := h.2 c12
            exact g_less [] rfl h
  · have h := h.2 c2
    refine g_lconst0 dX0_cross_183 ?_
    refine g_lstore (L' := [(0, 2, 1), (1, 0, v1), (2, 0, v2), (5, 1, v5), (7, 1, v7), (9, 0, v9), (10, 1, 0)]) dX0_cross_184 (by decide) [1, 2, 3, 4, 5, 6, 0] rfl ?_
    refine g_iconst dX0_cross_186 (by decide) ?_
    refine g_istore (L' := [(0, 2, 1), (1, 0, v1), (2, 0, v2), (5, 1, v5), (7, 1, v7), (9, 0, v9), (10, 1, 0), (12, 0, 0)]) dX0_cross_187 (by decide) [1, 2, 3, 4, 5, 6, 7, 0] rfl ?_
    exact h
theorem uX0_cross_189 {d : Nat} {μ0 μ : tm_M} {K : tm_M → Prop} {v1 v2 v5 v7 v9 v10 v12 : Int} (hd : 1 ≤ d) (hs : tFr (tWs [58, 59] [(1, 45), (1, 46)]) μ0 μ)
    (h : (v1 ≤ v12 → (∀ x6, x6 = max v7 v10 → hV (tWs [58, 59] [(1, 45), (1, 46)]) μ0 mX0_cross d K 177 [(0, 2, 1), (1, 0, v1), (2, 0, v2), (5, 1, v5), (7, 1, x6), (9, 0, w32 (v9 + 1))] [] μ)) ∧ (v12 < v1 → (0 ≤ v12 ∧ v12 < 3) ∧ ((0 ≤ v9 ∧ v9 < 3) ∧ ((∀ x9, x9 = w64 (v10 + (w64 ((tm_v μ 58 v12) * (tm_v μ0 (53 + v12) v9)))) → hV (tWs [58, 59] [(1, 45), (1, 46)]) μ0 mX0_cross d K 189 [(0, 2, 1), (1, 0, v1), (2, 0, v2), (5, 1, v5), (7, 1, v7), (9, 0, v9), (10, 1, x9), (12, 0, w32 (v12 + 1))] [] μ))))) :
    hV (tWs [58, 59] [(1, 45), (1, 46)]) μ0 mX0_cross d K 189 [(0, 2, 1), (1, 0, v1), (2, 0, v2), (5, 1, v5), (7, 1, v7), (9, 0, v9), (10, 1, v10), (12, 0, v12)] [] μ := by
  refine g_iload (q := 7) dX0_cross_189 rfl ?_
  refine g_iload_n (q := 1) dX0_cross_191 rfl rfl ?_
  refine g_icmp_ge (tgt := 224) dX0_cross_192 (by decide) (fun c1 => ?_) (fun c2 => ?_)
  · have h := h.1 c1
    refine g_lload (q := 4) dX0_cross_224 rfl ?_
    refine g_lload (q := 6) dX0_cross_226 rfl ?_
    refine g_callS2 dX0_cross_228 kJ8_max_2 q1162 q1163 rfl (by omega) (Nat.le_of_ble_eq_true rfl) (Nat.le_refl _) (Nat.le_refl _) (t_pL hs (pJ8_max_2 hs.S) ?_)
    refine g_lstoreN (fun z => [(0, 2, 1), (1, 0, v1), (2, 0, v2), (5, 1, v5), (7, 1, z), (9, 0, v9), (10, 1, v10), (12, 0, v12)]) dX0_cross_231 (by decide) [1, 2, 3, 4, 0, 5, 6, 7] (fun _ => rfl) (fun x6 ex6 => ?_)
    have h := h x6 ex6
    refine g_iinc (q := 5) dX0_cross_233 (by decide) rfl [1, 2, 3, 4, 5, 0, 6, 7] rfl ?_
    refine g_goto (tgt := 177) dX0_cross_236 (by decide) ?_
    exact g_less [0, 1, 2, 3, 4, 5] rfl h
  · have h := h.2 c2
    refine g_lload (q := 6) dX0_cross_195 rfl ?_
    refine g_aload_n (q := 0) dX0_cross_197 rfl rfl ?_
    refine g_getC (x := 58) 2 dX0_cross_198 fX0_139 rfl (by decide) (sk_1 hs.S) (sv_1_42 hs.S) ?_
    refine g_iload (q := 7) dX0_cross_201 rfl ?_
    obtain ⟨c7, h⟩ := h
    refine g_laload dX0_cross_203 (by decide) (sk_58 hs.S) c7.1 (t_lt (sn_58 hs.S) c7.2) ?_
    refine g_aload_n (q := 0) dX0_cross_204 rfl rfl ?_
    refine g_getC (x := 52) 2 dX0_cross_205 fX0_130 rfl (by decide) (sk_1 hs.S) (sv_1_39 hs.S) ?_
    refine g_iload (q := 7) dX0_cross_208 rfl ?_
    refine g_aaloadC (x := 53 + v12) dX0_cross_210 (by decide) (sk_52 hs.S) (by decide) c7.1 (t_lt (sn_52 hs.S) c7.2) (sa_52 hs.S c7.1 c7.2) ?_
    refine g_iload (q := 5) dX0_cross_211 rfl ?_
    obtain ⟨c8, h⟩ := h
    refine g_laloadC (x := tm_v μ0 (53 + v12) v9) dX0_cross_213 (by have := c7; omega) (sak_52 hs.S c7.1 c7.2) c8.1 (t_lt (san_52 hs.S c7.1 c7.2) c8.2) (hs.v (tWs_nr (lo := 53) (n := 3) rfl (by have := c7; omega))) ?_
    refine g_lmul dX0_cross_214 ?_
    refine g_ladd dX0_cross_215 ?_
    refine g_lstoreN (fun z => [(0, 2, 1), (1, 0, v1), (2, 0, v2), (5, 1, v5), (7, 1, v7), (9, 0, v9), (10, 1, z), (12, 0, v12)]) dX0_cross_216 (by decide) [1, 2, 3, 4, 5, 6, 0, 7] (fun _ => rfl) (fun x9 ex9 => ?_)
    have h := h x9 ex9
    refine g_iinc (q := 7) dX0_cross_218 (by decide) rfl [1, 2, 3, 4, 5, 6, 7, 0] rfl ?_
    refine g_goto (tgt := 189) dX0_cross_221 (by decide) ?_
    exact h
theorem uX0_cross_293 {d : Nat} {μ0 μ : tm_M} {K : tm_M → Prop} (hs : tFr (tWs [58, 59] [(1, 45), (1, 46)]) μ0 μ)
    (h : K μ) :
    hV (tWs [58, 59] [(1, 45), (1, 46)]) μ0 mX0_cross d K 293 [] [] μ := by
  exact g_vret dX0_cross_293 rfl (Nat.le_refl _) (Nat.le_refl _) ⟨rfl, hs, h⟩
theorem uX0_cross_294 {d : Nat} {μ0 μ : tm_M} {K : tm_M → Prop} {v5 v7 : Int} (hs : tFr (tWs [58, 59] [(1, 45), (1, 46)]) μ0 μ)
    (h : (∀ μ1, μ1 = tm_w μ 1 45 v7 → (∀ μ2, μ2 = tm_w μ1 1 46 v5 → (∀ μ3, μ3 = tm_c μ2 58 0 59 0 3 → K μ3)))) :
    hV (tWs [58, 59] [(1, 45), (1, 46)]) μ0 mX0_cross d K 294 [(0, 2, 1), (5, 1, v5), (7, 1, v7)] [] μ := by
  refine g_aload_n (q := 0) dX0_cross_294 rfl rfl ?_
  refine g_lload (q := 2) dX0_cross_295 rfl ?_
  refine g_put dX0_cross_297 fX0_458 rfl (by decide) (sk_1 hs.S) (fun e => absurd e (by decide)) (p_wj hs (by decide) (tWs_inF rfl) fun μ1 eμ1 hs => ?_)
  have h := h μ1 eμ1
  refine g_aload_n (q := 0) dX0_cross_300 rfl rfl ?_
  refine g_lload (q := 1) dX0_cross_301 rfl ?_
  refine g_put dX0_cross_303 fX0_455 rfl (by decide) (sk_1 hs.S) (fun e => absurd e (by decide)) (p_wj hs (by decide) (tWs_inF rfl) fun μ2 eμ2 hs => ?_)
  have h := h μ2 eμ2
  refine g_aload_n (q := 0) dX0_cross_306 rfl rfl ?_
  refine g_getC (x := 58) 2 dX0_cross_307 fX0_139 rfl (by decide) (sk_1 hs.S) (sv_1_42 hs.S) ?_
  refine g_iconst dX0_cross_310 (by decide) ?_
  refine g_aload_n (q := 0) dX0_cross_311 rfl rfl ?_
  refine g_getC (x := 59) 2 dX0_cross_312 fX0_142 rfl (by decide) (sk_1 hs.S) (sv_1_43 hs.S) ?_
  refine g_iconst dX0_cross_315 (by decide) ?_
  refine g_iconst dX0_cross_316 (by decide) ?_
  refine g_copyL dX0_cross_317 q650 (by decide) (sk_58 hs.S) (by decide) (sk_59 hs.S) (by decide) (by decide) (by decide) (by rw [(sn_58 hs.S)]; decide) (by rw [(sn_59 hs.S)]; decide) (Nat.le_of_ble_eq_true rfl) (p_c hs sf_59 (fun z => tWs_in z rfl) fun μ3 eμ3 hs => ?_)
  have h := h μ3 eμ3
  exact g_vret dX0_cross_320 rfl (Nat.le_refl _) (Nat.le_refl _) ⟨rfl, hs, h⟩
theorem uX0_chance_0 {d : Nat} {μ0 μ : tm_M} {K : Int → tm_M → Prop} {v1 : Int} (hd : 1 ≤ d) (hs : tFr (tWs [] [(1, 10), (1, 14), (1, 15)]) μ0 μ)
    (h : (v1 < 0 → (∀ μ3, μ3 = tm_w μ 1 10 8 → K 0 μ3)) ∧ (0 ≤ v1 → (v1 < tm_v μ0 1 47 → (0 ≤ v1 ∧ v1 < 3) ∧ (cI (tWs [] [(1, 10), (1, 14), (1, 15)]) mX0_tell (d - 1) [(2, 1), (1, tm_v μ0 60 v1), (1, w64 ((w64 ((tm_v μ0 60 0) + (tm_v μ0 60 1))) + (tm_v μ0 60 2)))] μ (fun r10 μ9 => (0 ≤ r10 ∧ r10 ≤ 1) ∧ (K r10 μ9)))) ∧ (tm_v μ0 1 47 ≤ v1 → (∀ μ12, μ12 = tm_w μ 1 10 8 → K 0 μ12)))) :
    hI (tWs [] [(1, 10), (1, 14), (1, 15)]) μ0 mX0_chance d K 0 [(0, 2, 1), (1, 0, v1)] [] μ := by
  refine g_iload_n (q := 1) dX0_chance_0 rfl rfl ?_
  refine g_if_lt (tgt := 12) dX0_chance_1 (by decide) (fun c1 => ?_) (fun c2 => ?_)
  · have h := h.1 c1
    refine g_aload_n (q := 0) dX0_chance_12 rfl rfl ?_
    refine g_bipush dX0_chance_13 ⟨by decide, by decide, rfl⟩ ?_
    refine g_callV1 dX0_chance_15 kX0_is q567 q569 qs2 (ci := 0) rfl (by decide) rfl (by omega) (by decide) (sk_1 hs.S) (Nat.le_of_ble_eq_true rfl) (Nat.le_refl _) (Nat.le_refl _) (t_kI hs (tWs_sub rfl) (pX0_is hs.S) (fun r5 μ3 hs e4 => ?_))
    obtain ⟨rfl, e4⟩ := e4
    have h := h μ3 e4
    exact g_zret dX0_chance_18 rfl (by decide) (Nat.le_refl _) (Nat.le_refl _) ⟨_, rfl, hs, h⟩
  · have h := h.2 c2
    refine g_iload_n (q := 1) dX0_chance_4 rfl rfl ?_
    refine g_aload_n (q := 0) dX0_chance_5 rfl rfl ?_
    refine g_getC (x := tm_v μ0 1 47) 0 dX0_chance_6 fX0_478 rfl (by decide) (sk_1 hs.S) (hs.v (tWs_noF rfl)) ?_
    refine g_icmp_lt (tgt := 19) dX0_chance_9 (by decide) (fun c6 => ?_) (fun c7 => ?_)
    · have h := h.1 c6
      refine g_aload_n (q := 0) dX0_chance_19 rfl rfl ?_
      refine g_aload_n (q := 0) dX0_chance_20 rfl rfl ?_
      refine g_getC (x := 60) 2 dX0_chance_21 fX0_145 rfl (by decide) (sk_1 hs.S) (sv_1_44 hs.S) ?_
      refine g_iload_n (q := 1) dX0_chance_24 rfl rfl ?_
      obtain ⟨c8, h⟩ := h
      refine g_laloadC (x := tm_v μ0 60 v1) dX0_chance_25 (by decide) (sk_60 hs.S) c8.1 (t_lt (sn_60 hs.S) c8.2) (hs.v (tWs_no _ rfl)) ?_
      refine g_aload_n (q := 0) dX0_chance_26 rfl rfl ?_
      refine g_getC (x := 60) 2 dX0_chance_27 fX0_145 rfl (by decide) (sk_1 hs.S) (sv_1_44 hs.S) ?_
      refine g_iconst dX0_chance_30 (by decide) ?_
      refine g_laloadC (x := tm_v μ0 60 0) dX0_chance_31 (by decide) (sk_60 hs.S) (by decide) (t_lt (sn_60 hs.S) (by decide)) (hs.v (tWs_no _ rfl)) ?_
      refine g_aload_n (q := 0) dX0_chance_32 rfl rfl ?_
      refine g_getC (x := 60) 2 dX0_chance_33 fX0_145 rfl (by decide) (sk_1 hs.S) (sv_1_44 hs.S) ?_
      refine g_iconst dX0_chance_36 (by decide) ?_
      refine g_laloadC (x := tm_v μ0 60 1) dX0_chance_37 (by decide) (sk_60 hs.S) (by decide) (t_lt (sn_60 hs.S) (by decide)) (hs.v (tWs_no _ rfl)) ?_
      refine g_ladd dX0_chance_38 ?_
      refine g_aload_n (q := 0) dX0_chance_39 rfl rfl ?_
      refine g_getC (x := 60) 2 dX0_chance_40 fX0_145 rfl (by decide) (sk_1 hs.S) (sv_1_44 hs.S) ?_
      refine g_iconst dX0_chance_43 (by decide) ?_
      refine g_laloadC (x := tm_v μ0 60 2) dX0_chance_44 (by decide) (sk_60 hs.S) (by decide) (t_lt (sn_60 hs.S) (by decide)) (hs.v (tWs_no _ rfl)) ?_
      refine g_ladd dX0_chance_45 ?_
      refine g_callV2 dX0_chance_46 kX0_tell q1046 q1048 qs31 (ci := 0) rfl (by decide) rfl (by omega) (by decide) (sk_1 hs.S) (Nat.le_of_ble_eq_true rfl) (Nat.le_refl _) (Nat.le_refl _) (t_kI hs (tWs_sub rfl) h (fun r10 μ9 hs h => ?_))
      obtain ⟨c11, h⟩ := h
      exact g_zret dX0_chance_49 rfl c11 (Nat.le_refl _) (Nat.le_refl _) ⟨_, rfl, hs, h⟩
    · have h := h.2 c7
      refine g_aload_n (q := 0) dX0_chance_12 rfl rfl ?_
      refine g_bipush dX0_chance_13 ⟨by decide, by decide, rfl⟩ ?_
      refine g_callV1 dX0_chance_15 kX0_is q567 q569 qs2 (ci := 0) rfl (by decide) rfl (by omega) (by decide) (sk_1 hs.S) (Nat.le_of_ble_eq_true rfl) (Nat.le_refl _) (Nat.le_refl _) (t_kI hs (tWs_sub rfl) (pX0_is hs.S) (fun r14 μ12 hs e13 => ?_))
      obtain ⟨rfl, e13⟩ := e13
      have h := h μ12 e13
      exact g_zret dX0_chance_18 rfl (by decide) (Nat.le_refl _) (Nat.le_refl _) ⟨_, rfl, hs, h⟩
