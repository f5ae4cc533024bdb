theorem uX0_allLikely_0 {d : Nat} {μ0 μ : tm_M} {K : Int → tm_M → Prop} (hs : tFr (tWs [] []) μ0 μ)
    (h : hLo (tWs [] []) μ0 mX0_allLikely d K 4 [(0, 2, 1), (1, 1, 0), (3, 0, 0)] [] μ) :
    hLo (tWs [] []) μ0 mX0_allLikely d K 0 [(0, 2, 1)] [] μ := by
  refine g_lconst0 dX0_allLikely_0 ?_
  refine g_lstore_n (L' := [(0, 2, 1), (1, 1, 0)]) dX0_allLikely_1 rfl (by decide) [1, 0] rfl ?_
  refine g_iconst dX0_allLikely_2 (by decide) ?_
  refine g_istore_n (L' := [(0, 2, 1), (1, 1, 0), (3, 0, 0)]) dX0_allLikely_3 rfl (by decide) [1, 2, 0] rfl ?_
  exact h
theorem uX0_allLikely_4 {d : Nat} {μ0 μ : tm_M} {K : Int → tm_M → Prop} {v1 v3 : Int} (hs : tFr (tWs [] []) μ0 μ)
    (h : (ob μ0 (tm_v μ0 1 8) 4) ∧ ((tm_v μ0 (tm_v μ0 1 8) 2 ≤ v3 → K v1 μ) ∧ (v3 < tm_v μ0 (tm_v μ0 1 8) 2 → hLo (tWs [] []) μ0 mX0_allLikely d K 18 [(0, 2, 1), (1, 1, v1), (3, 0, v3), (4, 0, 0)] [] μ))) :
    hLo (tWs [] []) μ0 mX0_allLikely d K 4 [(0, 2, 1), (1, 1, v1), (3, 0, v3)] [] μ := by
  refine g_iload_n (q := 2) dX0_allLikely_4 rfl rfl ?_
  refine g_aload_n (q := 0) dX0_allLikely_5 rfl rfl ?_
  refine g_getC (x := tm_v μ0 1 8) 2 dX0_allLikely_6 fX0_57 rfl (by decide) (sk_1 hs.S) (hs.v (tWs_noF rfl)) ?_
  obtain ⟨c1, h⟩ := h
  refine g_getC (x := tm_v μ0 (tm_v μ0 1 8) 2) 0 dX0_allLikely_9 fX0_200 rfl c1.1.1 (hs.k ▸ c1.1.2) (hs.v (tWs_ob rfl c1)) ?_
  refine g_icmp_ge (tgt := 52) dX0_allLikely_12 (by decide) (fun c2 => ?_) (fun c3 => ?_)
  · have h := h.1 c2
    refine g_lload_n (q := 1) dX0_allLikely_52 rfl rfl ?_
    exact g_lret dX0_allLikely_53 rfl (Nat.le_refl _) (Nat.le_refl _) ⟨_, rfl, hs, h⟩
  · have h := h.2 c3
    refine g_iconst dX0_allLikely_15 (by decide) ?_
    refine g_istore (L' := [(0, 2, 1), (1, 1, v1), (3, 0, v3), (4, 0, 0)]) dX0_allLikely_16 (by decide) [1, 2, 3, 0] rfl ?_
    exact h
theorem uX0_allLikely_18 {d : Nat} {μ0 μ : tm_M} {K : Int → tm_M → Prop} {ν : tm_M} {v1 v3 v4 : Int} (hd : 1 ≤ d) (hs : tFr (tWs [] []) μ0 μ)
    (h : (ob μ0 (tm_v μ0 1 8) 4) ∧ ((tm_v μ0 (tm_v μ0 1 8) 2 ≤ v4 → hLo (tWs [] []) μ0 mX0_allLikely d K 4 [(0, 2, 1), (1, 1, v1), (3, 0, w32 (v3 + 1))] [] μ) ∧ (v4 < tm_v μ0 (tm_v μ0 1 8) 2 → (JU μ0 ν ∧ y_p ν v3 ∧ y_p ν v4) ∧ ((∀ x5, x5 = w64 (v1 + (y_likely ν v3 v4)) → hLo (tWs [] []) μ0 mX0_allLikely d K 18 [(0, 2, 1), (1, 1, x5), (3, 0, v3), (4, 0, w32 (v4 + 1))] [] μ))))) :
    hLo (tWs [] []) μ0 mX0_allLikely d K 18 [(0, 2, 1), (1, 1, v1), (3, 0, v3), (4, 0, v4)] [] μ := by
  refine g_iload (q := 3) dX0_allLikely_18 rfl ?_
  refine g_aload_n (q := 0) dX0_allLikely_20 rfl rfl ?_
  refine g_getC (x := tm_v μ0 1 8) 2 dX0_allLikely_21 fX0_57 rfl (by decide) (sk_1 hs.S) (hs.v (tWs_noF rfl)) ?_
  obtain ⟨c1, h⟩ := h
  refine g_getC (x := tm_v μ0 (tm_v μ0 1 8) 2) 0 dX0_allLikely_24 fX0_200 rfl c1.1.1 (hs.k ▸ c1.1.2) (hs.v (tWs_ob rfl c1)) ?_
  refine g_icmp_ge (tgt := 46) dX0_allLikely_27 (by decide) (fun c2 => ?_) (fun c3 => ?_)
  · have h := h.1 c2
    refine g_iinc (q := 2) dX0_allLikely_46 (by decide) rfl [1, 2, 0, 3] rfl ?_
    refine g_goto (tgt := 4) dX0_allLikely_49 (by decide) ?_
    exact g_less [0, 1, 2] rfl h
  · have h := h.2 c3
    refine g_lload_n (q := 1) dX0_allLikely_30 rfl rfl ?_
    refine g_aload_n (q := 0) dX0_allLikely_31 rfl rfl ?_
    refine g_iload_n (q := 2) dX0_allLikely_32 rfl rfl ?_
    refine g_iload (q := 3) dX0_allLikely_33 rfl ?_
    obtain ⟨c4, h⟩ := h
    refine g_callV2 dX0_allLikely_35 kX0_likely q1035 q1037 qs29 (ci := 0) rfl (by decide) rfl (by omega) (by decide) (sk_1 hs.S) (Nat.le_of_ble_eq_true rfl) (Nat.le_refl _) (Nat.le_refl _) (t_pL hs (pX0_likely hs (tWs_TC ⟨rfl, rfl⟩) c4) ?_)
    refine g_ladd dX0_allLikely_38 ?_
    refine g_lstore_nN (fun z => [(0, 2, 1), (1, 1, z), (3, 0, v3), (4, 0, v4)]) dX0_allLikely_39 rfl (by decide) [1, 0, 2, 3] (fun _ => rfl) (fun x5 ex5 => ?_)
    have h := h x5 ex5
    refine g_iinc (q := 3) dX0_allLikely_40 (by decide) rfl [1, 2, 3, 0] rfl ?_
    refine g_goto (tgt := 18) dX0_allLikely_43 (by decide) ?_
    exact h
