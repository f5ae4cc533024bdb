theorem uX7_by_0 {d : Nat} {μ0 μ : tm_M} {K : Int → tm_M → Prop} {v0 v1 : Int} (hd : 1 ≤ d) (hs : tFr (tWs [] []) μ0 μ)
    (h : (v1 < 1 → K v0 μ) ∧ (1 ≤ v1 → (ob μ0 v0 7) ∧ ((tm_v μ0 v0 5 < v1 → K v0 μ) ∧ (v1 ≤ tm_v μ0 v0 5 → (ob μ0 (tm_v μ0 v0 6) 27) ∧ ((0 ≤ w32 (v1 - 1) ∧ w32 (v1 - 1) < tm_n μ0 (tm_v μ0 v0 6)) ∧ ((ob μ0 (tm_v μ0 (tm_v μ0 v0 6) (w32 (v1 - 1))) 8) ∧ ((tm_v μ0 (tm_v μ0 (tm_v μ0 v0 6) (w32 (v1 - 1))) 2 = 0 → cR (tWs [] []) mX8_other (d - 1) [(2, tm_v μ0 (tm_v μ0 v0 6) (w32 (v1 - 1))), (2, v0)] μ (fun r12 μ11 => K r12 μ11)) ∧ (tm_v μ0 (tm_v μ0 (tm_v μ0 v0 6) (w32 (v1 - 1))) 2 ≠ 0 → K v0 μ)))))))) :
    hRe (tWs [] []) μ0 mX7_by d K 0 [(0, 2, v0), (1, 0, v1)] [] μ := by
  refine g_iload_n (q := 1) dX7_by_0 rfl rfl ?_
  refine g_iconst dX7_by_1 (by decide) ?_
  refine g_icmp_lt (tgt := 27) dX7_by_2 (by decide) (fun c1 => ?_) (fun c2 => ?_)
  · have h := h.1 c1
    refine g_aload_n (q := 0) dX7_by_27 rfl rfl ?_
    refine g_goto (tgt := 43) dX7_by_28 (by decide) ?_
    exact g_aret dX7_by_43 rfl rfl (Nat.le_refl _) (Nat.le_refl _) ⟨_, rfl, hs, h⟩
  · have h := h.2 c2
    refine g_iload_n (q := 1) dX7_by_5 rfl rfl ?_
    refine g_aload_n (q := 0) dX7_by_6 rfl rfl ?_
    obtain ⟨c3, h⟩ := h
    refine g_getC (x := tm_v μ0 v0 5) 0 dX7_by_7 fX7_31 rfl c3.1.1 (hs.k ▸ c3.1.2) (hs.v (tWs_ob rfl c3)) ?_
    refine g_icmp_gt (tgt := 27) dX7_by_10 (by decide) (fun c4 => ?_) (fun c5 => ?_)
    · have h := h.1 c4
      refine g_aload_n (q := 0) dX7_by_27 rfl rfl ?_
      refine g_goto (tgt := 43) dX7_by_28 (by decide) ?_
      exact g_aret dX7_by_43 rfl rfl (Nat.le_refl _) (Nat.le_refl _) ⟨_, rfl, hs, h⟩
    · have h := h.2 c5
      refine g_aload_n (q := 0) dX7_by_13 rfl rfl ?_
      refine g_getC (x := tm_v μ0 v0 6) 2 dX7_by_14 fX7_20 rfl c3.1.1 (hs.k ▸ c3.1.2) (hs.v (tWs_ob rfl c3)) ?_
      refine g_iload_n (q := 1) dX7_by_17 rfl rfl ?_
      refine g_iconst dX7_by_18 (by decide) ?_
      refine g_isub dX7_by_19 ?_
      obtain ⟨c6, h⟩ := h
      obtain ⟨c7, h⟩ := h
      refine g_aaloadC (x := tm_v μ0 (tm_v μ0 v0 6) (w32 (v1 - 1))) dX7_by_20 c6.1.1 (hs.k ▸ c6.1.2) (by decide) c7.1 (hs.n ▸ c7.2) (hs.v (tWs_ob rfl c6)) ?_
      obtain ⟨c8, h⟩ := h
      refine g_getC (x := tm_v μ0 (tm_v μ0 (tm_v μ0 v0 6) (w32 (v1 - 1))) 2) 0 dX7_by_21 fX7_38 rfl c8.1.1 (hs.k ▸ c8.1.2) (hs.v (tWs_ob rfl c8)) ?_
      refine g_if_eq (tgt := 31) dX7_by_24 (by decide) (fun c9 => ?_) (fun c10 => ?_)
      · have h := h.1 c9
        refine g_aload_n (q := 0) dX7_by_31 rfl rfl ?_
        refine g_getC (x := tm_v μ0 v0 6) 2 dX7_by_32 fX7_20 rfl c3.1.1 (hs.k ▸ c3.1.2) (hs.v (tWs_ob rfl c3)) ?_
        refine g_iload_n (q := 1) dX7_by_35 rfl rfl ?_
        refine g_iconst dX7_by_36 (by decide) ?_
        refine g_isub dX7_by_37 ?_
        refine g_aaloadC (x := tm_v μ0 (tm_v μ0 v0 6) (w32 (v1 - 1))) dX7_by_38 c6.1.1 (hs.k ▸ c6.1.2) (by decide) c7.1 (hs.n ▸ c7.2) (hs.v (tWs_ob rfl c6)) ?_
        refine g_aload_n (q := 0) dX7_by_39 rfl rfl ?_
        refine g_callV1 dX7_by_40 kX8_other q831 q832 q833 (ci := 8) rfl (by decide) rfl (by omega) c8.1.1 (hs.k ▸ c8.1.2) (Nat.le_of_ble_eq_true rfl) (Nat.le_refl _) (Nat.le_refl _) (t_kR hs (tWs_sub rfl) h (fun r12 μ11 hs h => ?_))
        exact g_aret dX7_by_43 rfl rfl (Nat.le_refl _) (Nat.le_refl _) ⟨_, rfl, hs, h⟩
      · have h := h.2 c10
        refine g_aload_n (q := 0) dX7_by_27 rfl rfl ?_
        refine g_goto (tgt := 43) dX7_by_28 (by decide) ?_
        exact g_aret dX7_by_43 rfl rfl (Nat.le_refl _) (Nat.le_refl _) ⟨_, rfl, hs, h⟩
theorem uX0_tell_0 {d : Nat} {μ0 μ : tm_M} {K : Int → tm_M → Prop} {v1 v3 : Int} (hs : tFr (tWs [] [(1, 10), (1, 14), (1, 15)]) μ0 μ)
    (h : hI (tWs [] [(1, 10), (1, 14), (1, 15)]) μ0 mX0_tell d K 6 [(0, 2, 1), (1, 1, v1), (3, 1, v3), (5, 1, v1), (7, 1, v3)] [] μ) :
    hI (tWs [] [(1, 10), (1, 14), (1, 15)]) μ0 mX0_tell d K 0 [(0, 2, 1), (1, 1, v1), (3, 1, v3)] [] μ := by
  refine g_lload_n (q := 1) dX0_tell_0 rfl rfl ?_
  refine g_lstore (L' := [(0, 2, 1), (1, 1, v1), (3, 1, v3), (5, 1, v1)]) dX0_tell_1 (by decide) [1, 2, 3, 0] rfl ?_
  refine g_lload_n (q := 2) dX0_tell_3 rfl rfl ?_
  refine g_lstore (L' := [(0, 2, 1), (1, 1, v1), (3, 1, v3), (5, 1, v1), (7, 1, v3)]) dX0_tell_4 (by decide) [1, 2, 3, 4, 0] rfl ?_
  exact h
theorem uX0_tell_6 {d : Nat} {μ0 μ : tm_M} {K : Int → tm_M → Prop} {v1 v3 v5 v7 : Int} (hd : 1 ≤ d) (hs : tFr (tWs [] [(1, 10), (1, 14), (1, 15)]) μ0 μ)
    (h : (v7 = 0 → (v5 ≠ 0) ∧ ((∀ μ4, μ4 = tm_w μ 1 14 (w64 (v1.tdiv v5)) → (v5 ≠ 0) ∧ ((∀ μ6, μ6 = tm_w μ4 1 15 (w64 (v3.tdiv v5)) → (∀ μ7, μ7 = tm_w μ6 1 10 0 → K 1 μ7)))))) ∧ (v7 ≠ 0 → (v7 ≠ 0) ∧ ((∀ x11, x11 = v5.tmod v7 → hI (tWs [] [(1, 10), (1, 14), (1, 15)]) μ0 mX0_tell d K 6 [(0, 2, 1), (1, 1, v1), (3, 1, v3), (5, 1, v7), (7, 1, x11)] [] μ)))) :
    hI (tWs [] [(1, 10), (1, 14), (1, 15)]) μ0 mX0_tell d K 6 [(0, 2, 1), (1, 1, v1), (3, 1, v3), (5, 1, v5), (7, 1, v7)] [] μ := by
  refine g_lload (q := 4) dX0_tell_6 rfl ?_
  refine g_lconst0 dX0_tell_8 ?_
  refine g_lcmp_eq (tgt := 31) dX0_tell_9 dX0_tell_10 (by decide) (fun c1 => ?_) (fun c2 => ?_)
  · have h := h.1 c1
    refine g_aload_n (q := 0) dX0_tell_31 rfl rfl ?_
    refine g_lload_n (q := 1) dX0_tell_32 rfl rfl ?_
    refine g_lload (q := 3) dX0_tell_33 rfl ?_
    obtain ⟨c3, h⟩ := h
    refine g_ldiv dX0_tell_35 c3 ?_
    refine g_put dX0_tell_36 fX0_152 rfl (by decide) (sk_1 hs.S) (fun e => absurd e (by decide)) (p_wj hs (by decide) (tWs_inF rfl) fun μ4 eμ4 hs => ?_)
    have h := h μ4 eμ4
    refine g_aload_n (q := 0) dX0_tell_39 rfl rfl ?_
    refine g_lload_n (q := 2) dX0_tell_40 rfl rfl ?_
    refine g_lload (q := 3) dX0_tell_41 rfl ?_
    obtain ⟨c5, h⟩ := h
    refine g_ldiv dX0_tell_43 c5 ?_
    refine g_put dX0_tell_44 fX0_68 rfl (by decide) (sk_1 hs.S) (fun e => absurd e (by decide)) (p_wj hs (by decide) (tWs_inF rfl) fun μ6 eμ6 hs => ?_)
    have h := h μ6 eμ6
    refine g_aload_n (q := 0) dX0_tell_47 rfl rfl ?_
    refine g_iconst dX0_tell_48 (by decide) ?_
    refine g_callV1 dX0_tell_49 kX0_is q567 q569 qs2 (ci := 0) rfl (by decide) rfl (by omega) (by decide) (sk_1 hs.S) (Nat.le_of_ble_eq_true rfl) (Nat.le_refl _) (Nat.le_refl _) (t_kI hs (tWs_sub rfl) (pX0_is hs.S) (fun r9 μ7 hs e8 => ?_))
    obtain ⟨rfl, e8⟩ := e8
    have h := h μ7 e8
    exact g_zret dX0_tell_52 rfl (by decide) (Nat.le_refl _) (Nat.le_refl _) ⟨_, rfl, hs, h⟩
  · have h := h.2 c2
    refine g_lload (q := 3) dX0_tell_13 rfl ?_
    refine g_lload (q := 4) dX0_tell_15 rfl ?_
    obtain ⟨c10, h⟩ := h
    refine g_lrem dX0_tell_17 c10 ?_
    refine g_lstoreN (fun z => [(0, 2, 1), (1, 1, v1), (3, 1, v3), (5, 1, v5), (7, 1, v7), (9, 1, z)]) dX0_tell_18 (by decide) [1, 2, 3, 4, 5, 0] (fun _ => rfl) (fun x11 ex11 => ?_)
    have h := h x11 ex11
    refine g_lload (q := 4) dX0_tell_20 rfl ?_
    refine g_lstore (L' := [(0, 2, 1), (1, 1, v1), (3, 1, v3), (5, 1, v7), (7, 1, v7), (9, 1, x11)]) dX0_tell_22 (by decide) [1, 2, 3, 0, 4, 5] rfl ?_
    refine g_lload (q := 5) dX0_tell_24 rfl ?_
    refine g_lstore (L' := [(0, 2, 1), (1, 1, v1), (3, 1, v3), (5, 1, v7), (7, 1, x11), (9, 1, x11)]) dX0_tell_26 (by decide) [1, 2, 3, 4, 0, 5] rfl ?_
    refine g_goto (tgt := 6) dX0_tell_28 (by decide) ?_
    exact g_less [0, 1, 2, 3, 4] rfl h
theorem uX0_many_0 {d : Nat} {μ0 μ : tm_M} {K : Int → tm_M → Prop} {v1 : Int} (hd : 1 ≤ d) (hs : tFr (tWs [] [(1, 10)]) μ0 μ)
    (h : (v1 < 0 → (∀ μ3, μ3 = tm_w μ 1 10 5 → K (-1) μ3)) ∧ (0 ≤ v1 → (v1 ≤ 2 → (v1 ≠ 0 → (v1 ≠ 1 → (∀ μ12, μ12 = tm_w μ 1 10 0 → K (tm_v μ0 1 9) μ12)) ∧ (v1 = 1 → (ob μ0 (tm_v μ0 1 8) 4) ∧ ((∀ μ16, μ16 = tm_w μ 1 10 0 → K (tm_v μ0 (tm_v μ0 1 8) 3) μ16)))) ∧ (v1 = 0 → (ob μ0 (tm_v μ0 1 8) 4) ∧ ((∀ μ20, μ20 = tm_w μ 1 10 0 → K (tm_v μ0 (tm_v μ0 1 8) 2) μ20)))) ∧ (2 < v1 → (∀ μ23, μ23 = tm_w μ 1 10 5 → K (-1) μ23)))) :
    hI (tWs [] [(1, 10)]) μ0 mX0_many d K 0 [(0, 2, 1), (1, 0, v1)] [] μ := by
  refine g_iload_n (q := 1) dX0_many_0 rfl rfl ?_
  refine g_if_lt (tgt := 9) dX0_many_1 (by decide) (fun c1 => ?_) (fun c2 => ?_)
  · have h := h.1 c1
    refine g_aload_n (q := 0) dX0_many_9 rfl rfl ?_
    refine g_iconst dX0_many_10 (by decide) ?_
    refine g_callV1 dX0_many_11 kX0_none q636 q638 qs3 (ci := 0) rfl (by decide) rfl (by omega) (by decide) (sk_1 hs.S) (Nat.le_of_ble_eq_true rfl) (Nat.le_refl _) (Nat.le_refl _) (t_kI hs (tWs_sub rfl) (pX0_none hs.S) (fun r5 μ3 hs e4 => ?_))
    obtain ⟨rfl, e4⟩ := e4
    have h := h μ3 e4
    refine g_goto (tgt := 54) dX0_many_14 (by decide) ?_
    exact g_iret dX0_many_54 rfl (Nat.le_refl _) (Nat.le_refl _) ⟨_, rfl, hs, h⟩
  · have h := h.2 c2
    refine g_iload_n (q := 1) dX0_many_4 rfl rfl ?_
    refine g_iconst dX0_many_5 (by decide) ?_
    refine g_icmp_le (tgt := 17) dX0_many_6 (by decide) (fun c6 => ?_) (fun c7 => ?_)
    · have h := h.1 c6
      refine g_aload_n (q := 0) dX0_many_17 rfl rfl ?_
      refine g_iload_n (q := 1) dX0_many_18 rfl rfl ?_
      refine g_if_ne (tgt := 32) dX0_many_19 (by decide) (fun c8 => ?_) (fun c9 => ?_)
      · have h := h.1 c8
        refine g_iload_n (q := 1) dX0_many_32 rfl rfl ?_
        refine g_iconst dX0_many_33 (by decide) ?_
        refine g_icmp_ne (tgt := 47) dX0_many_34 (by decide) (fun c10 => ?_) (fun c11 => ?_)
        · have h := h.1 c10
          refine g_aload_n (q := 0) dX0_many_47 rfl rfl ?_
          refine g_getC (x := tm_v μ0 1 9) 0 dX0_many_48 fX0_206 rfl (by decide) (sk_1 hs.S) (hs.v (tWs_noF rfl)) ?_
          refine g_callV1 dX0_many_51 kX0_gives q856 q858 qs17 (ci := 0) rfl (by decide) rfl (by omega) (by decide) (sk_1 hs.S) (Nat.le_of_ble_eq_true rfl) (Nat.le_refl _) (Nat.le_refl _) (t_kI hs (tWs_sub rfl) (pX0_gives hs.S) (fun r14 μ12 hs e13 => ?_))
          obtain ⟨rfl, e13⟩ := e13
          have h := h μ12 e13
          exact g_iret dX0_many_54 rfl (Nat.le_refl _) (Nat.le_refl _) ⟨_, rfl, hs, h⟩
        · have h := h.2 c11
          refine g_aload_n (q := 0) dX0_many_37 rfl rfl ?_
          refine g_getC (x := tm_v μ0 1 8) 2 dX0_many_38 fX0_57 rfl (by decide) (sk_1 hs.S) (hs.v (tWs_noF rfl)) ?_
          obtain ⟨c15, h⟩ := h
          refine g_getC (x := tm_v μ0 (tm_v μ0 1 8) 3) 0 dX0_many_41 fX0_203 rfl c15.1.1 (hs.k ▸ c15.1.2) (hs.v (tWs_ob rfl c15)) ?_
          refine g_goto (tgt := 51) dX0_many_44 (by decide) ?_
          refine g_callV1 dX0_many_51 kX0_gives q856 q858 qs17 (ci := 0) rfl (by decide) rfl (by omega) (by decide) (sk_1 hs.S) (Nat.le_of_ble_eq_true rfl) (Nat.le_refl _) (Nat.le_refl _) (t_kI hs (tWs_sub rfl) (pX0_gives hs.S) (fun r18 μ16 hs e17 => ?_))
          obtain ⟨rfl, e17⟩ := e17
          have h := h μ16 e17
          exact g_iret dX0_many_54 rfl (Nat.le_refl _) (Nat.le_refl _) ⟨_, rfl, hs, h⟩
      · have h := h.2 c9
        refine g_aload_n (q := 0) dX0_many_22 rfl rfl ?_
        refine g_getC (x := tm_v μ0 1 8) 2 dX0_many_23 fX0_57 rfl (by decide) (sk_1 hs.S) (hs.v (tWs_noF rfl)) ?_
        obtain ⟨c19, h⟩ := h
        refine g_getC (x := tm_v μ0 (tm_v μ0 1 8) 2) 0 dX0_many_26 fX0_200 rfl c19.1.1 (hs.k ▸ c19.1.2) (hs.v (tWs_ob rfl c19)) ?_
        refine g_goto (tgt := 51) dX0_many_29 (by decide) ?_
        refine g_callV1 dX0_many_51 kX0_gives q856 q858 qs17 (ci := 0) rfl (by decide) rfl (by omega) (by decide) (sk_1 hs.S) (Nat.le_of_ble_eq_true rfl) (Nat.le_refl _) (Nat.le_refl _) (t_kI hs (tWs_sub rfl) (pX0_gives hs.S) (fun r22 μ20 hs e21 => ?_))
        obtain ⟨rfl, e21⟩ := e21
        have h := h μ20 e21
        exact g_iret dX0_many_54 rfl (Nat.le_refl _) (Nat.le_refl _) ⟨_, rfl, hs, h⟩
    · have h := h.2 c7
      refine g_aload_n (q := 0) dX0_many_9 rfl rfl ?_
      refine g_iconst dX0_many_10 (by decide) ?_
      refine g_callV1 dX0_many_11 kX0_none q636 q638 qs3 (ci := 0) rfl (by decide) rfl (by omega) (by decide) (sk_1 hs.S) (Nat.le_of_ble_eq_true rfl) (Nat.le_refl _) (Nat.le_refl _) (t_kI hs (tWs_sub rfl) (pX0_none hs.S) (fun r25 μ23 hs e24 => ?_))
      obtain ⟨rfl, e24⟩ := e24
      have h := h μ23 e24
      refine g_goto (tgt := 54) dX0_many_14 (by decide) ?_
      exact g_iret dX0_many_54 rfl (Nat.le_refl _) (Nat.le_refl _) ⟨_, rfl, hs, h⟩
theorem uX0_marks_0 {d : Nat} {μ0 μ : tm_M} {K : Int → tm_M → Prop} {v1 : Int} (hd : 1 ≤ d) (hs : tFr (tWs [] [(1, 10), (1, 13)]) μ0 μ)
    (h : (0 ≤ v1 ∧ v1 ≤ 1) ∧ ((∀ μ2, μ2 = tm_w μ 1 13 v1 → (∀ μ3, μ3 = tm_w μ2 1 10 0 → K 1 μ3)))) :
    hI (tWs [] [(1, 10), (1, 13)]) μ0 mX0_marks d K 0 [(0, 2, 1), (1, 0, v1)] [] μ := by
  refine g_aload_n (q := 0) dX0_marks_0 rfl rfl ?_
  refine g_iload_n (q := 1) dX0_marks_1 rfl rfl ?_
  obtain ⟨c1, h⟩ := h
  refine g_put dX0_marks_2 fX0_230 rfl (by decide) (sk_1 hs.S) (fun _ => c1) (p_wj hs (by decide) (tWs_inF rfl) fun μ2 eμ2 hs => ?_)
  have h := h μ2 eμ2
  refine g_aload_n (q := 0) dX0_marks_5 rfl rfl ?_
  refine g_iconst dX0_marks_6 (by decide) ?_
  refine g_callV1 dX0_marks_7 kX0_is q567 q569 qs2 (ci := 0) rfl (by decide) rfl (by omega) (by decide) (sk_1 hs.S) (Nat.le_of_ble_eq_true rfl) (Nat.le_refl _) (Nat.le_refl _) (t_kI hs (tWs_sub rfl) (pX0_is hs.S) (fun r5 μ3 hs e4 => ?_))
  obtain ⟨rfl, e4⟩ := e4
  have h := h μ3 e4
  exact g_zret dX0_marks_10 rfl (by decide) (Nat.le_refl _) (Nat.le_refl _) ⟨_, rfl, hs, h⟩
theorem uX0_place_0 {d : Nat} {μ0 μ : tm_M} {K : Int → tm_M → Prop} {ν : tm_M} {v1 v2 : Int} (hd : 1 ≤ d) (hs : tFr (tWs [] [(1, 10)]) μ0 μ)
    (h : (JU μ0 ν) ∧ ((0 ≤ v1 ∧ v1 < tm_v ν 65 20 → (v2 < 0 → (∀ μ6, μ6 = tm_w μ 1 10 5 → K (-1) μ6)) ∧ (0 ≤ v2 → (v2 ≤ 5 → (ob μ0 (tm_v μ0 1 8) 4) ∧ ((ob μ0 (tm_v μ0 (tm_v μ0 1 8) 0) 26) ∧ ((0 ≤ v1 ∧ v1 < tm_n μ0 (tm_v μ0 (tm_v μ0 1 8) 0)) ∧ ((∀ x14, x14 = tm_v μ0 (tm_v μ0 (tm_v μ0 1 8) 0) v1 → (2 ≤ v2 → (ob μ0 x14 7) ∧ ((tm_v μ0 x14 5 ≤ w32 (v2 - 2) → (∀ μ20, μ20 = tm_w μ 1 10 8 → K (-1) μ20)) ∧ (w32 (v2 - 2) < tm_v μ0 x14 5 → (ob μ0 (tm_v μ0 x14 6) 27) ∧ ((0 ≤ w32 (v2 - 2) ∧ w32 (v2 - 2) < tm_n μ0 (tm_v μ0 x14 6)) ∧ ((ob μ0 (tm_v μ0 (tm_v μ0 x14 6) (w32 (v2 - 2))) 8) ∧ (cR (tWs [] []) mX8_other (d - 1) [(2, tm_v μ0 (tm_v μ0 x14 6) (w32 (v2 - 2))), (2, x14)] μ (fun r27 μ26 => (ob μ0 r27 7) ∧ ((∀ μ29, μ29 = tm_w μ26 1 10 0 → K (tm_v μ0 r27 1) μ29))))))))) ∧ (v2 < 2 → (v2 ≠ 0 → (ob μ0 x14 7) ∧ ((∀ μ35, μ35 = tm_w μ 1 10 0 → K (tm_v μ0 x14 5) μ35))) ∧ (v2 = 0 → (ob μ0 x14 7) ∧ ((∀ μ39, μ39 = tm_w μ 1 10 0 → K (tm_v μ0 x14 2) μ39))))))))) ∧ (5 < v2 → (∀ μ42, μ42 = tm_w μ 1 10 5 → K (-1) μ42)))) ∧ (¬ (0 ≤ v1 ∧ v1 < tm_v ν 65 20) → (∀ μ45, μ45 = tm_w μ 1 10 2 → K (-1) μ45)))) :
    hI (tWs [] [(1, 10)]) μ0 mX0_place d K 0 [(0, 2, 1), (1, 0, v1), (2, 0, v2)] [] μ := by
  refine g_aload_n (q := 0) dX0_place_0 rfl rfl ?_
  refine g_iload_n (q := 1) dX0_place_1 rfl rfl ?_
  obtain ⟨c1, h⟩ := h
  refine g_callV1 dX0_place_2 kX0_isPlace q872 q874 qs18 (ci := 0) rfl (by decide) rfl (by omega) (by decide) (sk_1 hs.S) (Nat.le_of_ble_eq_true rfl) (Nat.le_refl _) (Nat.le_refl _) (t_pI hs (pX0_isPlace hs (tWs_TC ⟨rfl, rfl⟩) c1) ?_)
  refine g_if_ne (tgt := 14) dX0_place_5 (by decide) (fun c2 => ?_) (fun c3 => ?_)
  · have h := h.1 (b2i_1.mp c2)
    refine g_iload_n (q := 2) dX0_place_14 rfl rfl ?_
    refine g_if_lt (tgt := 23) dX0_place_15 (by decide) (fun c4 => ?_) (fun c5 => ?_)
    · have h := h.1 c4
      refine g_aload_n (q := 0) dX0_place_23 rfl rfl ?_
      refine g_iconst dX0_place_24 (by decide) ?_
      refine g_callV1 dX0_place_25 kX0_none q636 q638 qs3 (ci := 0) rfl (by decide) rfl (by omega) (by decide) (sk_1 hs.S) (Nat.le_of_ble_eq_true rfl) (Nat.le_refl _) (Nat.le_refl _) (t_kI hs (tWs_sub rfl) (pX0_none hs.S) (fun r8 μ6 hs e7 => ?_))
      obtain ⟨rfl, e7⟩ := e7
      have h := h μ6 e7
      exact g_iret dX0_place_28 rfl (Nat.le_refl _) (Nat.le_refl _) ⟨_, rfl, hs, h⟩
    · have h := h.2 c5
      refine g_iload_n (q := 2) dX0_place_18 rfl rfl ?_
      refine g_iconst dX0_place_19 (by decide) ?_
      refine g_icmp_le (tgt := 29) dX0_place_20 (by decide) (fun c9 => ?_) (fun c10 => ?_)
      · have h := h.1 c9
        refine g_aload_n (q := 0) dX0_place_29 rfl rfl ?_
        refine g_getC (x := tm_v μ0 1 8) 2 dX0_place_30 fX0_57 rfl (by decide) (sk_1 hs.S) (hs.v (tWs_noF rfl)) ?_
        obtain ⟨c11, h⟩ := h
        refine g_getC (x := tm_v μ0 (tm_v μ0 1 8) 0) 2 dX0_place_33 fX0_240 rfl c11.1.1 (hs.k ▸ c11.1.2) (hs.v (tWs_ob rfl c11)) ?_
        refine g_iload_n (q := 1) dX0_place_36 rfl rfl ?_
        obtain ⟨c12, h⟩ := h
        obtain ⟨c13, h⟩ := h
        refine g_aaloadC (x := tm_v μ0 (tm_v μ0 (tm_v μ0 1 8) 0) v1) dX0_place_37 c12.1.1 (hs.k ▸ c12.1.2) (by decide) c13.1 (hs.n ▸ c13.2) (hs.v (tWs_ob rfl c12)) ?_
        refine g_astore_nN (fun z => [(0, 2, 1), (1, 0, v1), (2, 0, v2), (3, 2, z)]) dX0_place_38 rfl (by decide) [1, 2, 3, 0] (fun _ => rfl) (fun x14 ex14 => ?_)
        have h := h x14 ex14
        refine g_iload_n (q := 2) dX0_place_39 rfl rfl ?_
        refine g_iconst dX0_place_40 (by decide) ?_
        refine g_icmp_ge (tgt := 64) dX0_place_41 (by decide) (fun c15 => ?_) (fun c16 => ?_)
        · have h := h.1 c15
          refine g_iload_n (q := 2) dX0_place_64 rfl rfl ?_
          refine g_iconst dX0_place_65 (by decide) ?_
          refine g_isub dX0_place_66 ?_
          refine g_aload_n (q := 3) dX0_place_67 rfl rfl ?_
          obtain ⟨c17, h⟩ := h
          refine g_getC (x := tm_v μ0 x14 5) 0 dX0_place_68 fX0_249 rfl c17.1.1 (hs.k ▸ c17.1.2) (hs.v (tWs_ob rfl c17)) ?_
          refine g_icmp_ge (tgt := 96) dX0_place_71 (by decide) (fun c18 => ?_) (fun c19 => ?_)
          · have h := h.1 c18
            refine g_aload_n (q := 0) dX0_place_96 rfl rfl ?_
            refine g_bipush dX0_place_97 ⟨by decide, by decide, rfl⟩ ?_
            refine g_callV1 dX0_place_99 kX0_none q636 q638 qs3 (ci := 0) rfl (by decide) rfl (by omega) (by decide) (sk_1 hs.S) (Nat.le_of_ble_eq_true rfl) (Nat.le_refl _) (Nat.le_refl _) (t_kI hs (tWs_sub rfl) (pX0_none hs.S) (fun r22 μ20 hs e21 => ?_))
            obtain ⟨rfl, e21⟩ := e21
            have h := h μ20 e21
            exact g_iret dX0_place_102 rfl (Nat.le_refl _) (Nat.le_refl _) ⟨_, rfl, hs, h⟩
          · have h := h.2 c19
            refine g_aload_n (q := 0) dX0_place_74 rfl rfl ?_
            refine g_aload_n (q := 3) dX0_place_75 rfl rfl ?_
            refine g_getC (x := tm_v μ0 x14 6) 2 dX0_place_76 fX0_250 rfl c17.1.1 (hs.k ▸ c17.1.2) (hs.v (tWs_ob rfl c17)) ?_
            refine g_iload_n (q := 2) dX0_place_79 rfl rfl ?_
            refine g_iconst dX0_place_80 (by decide) ?_
            refine g_isub dX0_place_81 ?_
            obtain ⟨c23, h⟩ := h
            obtain ⟨c24, h⟩ := h
            refine g_aaloadC (x := tm_v μ0 (tm_v μ0 x14 6) (w32 (v2 - 2))) dX0_place_82 c23.1.1 (hs.k ▸ c23.1.2) (by decide) c24.1 (hs.n ▸ c24.2) (hs.v (tWs_ob rfl c23)) ?_
            refine g_aload_n (q := 3) dX0_place_83 rfl rfl ?_
            obtain ⟨c25, h⟩ := h
            refine g_callV1 dX0_place_84 kX8_other q876 q832 q833 (ci := 8) rfl (by decide) rfl (by omega) c25.1.1 (hs.k ▸ c25.1.2) (Nat.le_of_ble_eq_true rfl) (Nat.le_refl _) (Nat.le_refl _) (t_kR hs (tWs_sub rfl) h (fun r27 μ26 hs h => ?_))
            obtain ⟨c28, h⟩ := h
            refine g_getC (x := tm_v μ0 r27 1) 0 dX0_place_87 fX0_260 rfl c28.1.1 (hs.k ▸ c28.1.2) (hs.v (tWs_ob rfl c28)) ?_
            refine g_callV1 dX0_place_90 kX0_gives q856 q858 qs17 (ci := 0) rfl (by decide) rfl (by omega) (by decide) (sk_1 hs.S) (Nat.le_of_ble_eq_true rfl) (Nat.le_refl _) (Nat.le_refl _) (t_kI hs (tWs_sub rfl) (pX0_gives hs.S) (fun r31 μ29 hs e30 => ?_))
            obtain ⟨rfl, e30⟩ := e30
            have h := h μ29 e30
            refine g_goto (tgt := 102) dX0_place_93 (by decide) ?_
            exact g_iret dX0_place_102 rfl (Nat.le_refl _) (Nat.le_refl _) ⟨_, rfl, hs, h⟩
        · have h := h.2 c16
          refine g_aload_n (q := 0) dX0_place_44 rfl rfl ?_
          refine g_iload_n (q := 2) dX0_place_45 rfl rfl ?_
          refine g_if_ne (tgt := 56) dX0_place_46 (by decide) (fun c32 => ?_) (fun c33 => ?_)
          · have h := h.1 c32
            refine g_aload_n (q := 3) dX0_place_56 rfl rfl ?_
            obtain ⟨c34, h⟩ := h
            refine g_getC (x := tm_v μ0 x14 5) 0 dX0_place_57 fX0_249 rfl c34.1.1 (hs.k ▸ c34.1.2) (hs.v (tWs_ob rfl c34)) ?_
            refine g_callV1 dX0_place_60 kX0_gives q856 q858 qs17 (ci := 0) rfl (by decide) rfl (by omega) (by decide) (sk_1 hs.S) (Nat.le_of_ble_eq_true rfl) (Nat.le_refl _) (Nat.le_refl _) (t_kI hs (tWs_sub rfl) (pX0_gives hs.S) (fun r37 μ35 hs e36 => ?_))
            obtain ⟨rfl, e36⟩ := e36
            have h := h μ35 e36
            exact g_iret dX0_place_63 rfl (Nat.le_refl _) (Nat.le_refl _) ⟨_, rfl, hs, h⟩
          · have h := h.2 c33
            refine g_aload_n (q := 3) dX0_place_49 rfl rfl ?_
            obtain ⟨c38, h⟩ := h
            refine g_getC (x := tm_v μ0 x14 2) 0 dX0_place_50 fX0_244 rfl c38.1.1 (hs.k ▸ c38.1.2) (hs.v (tWs_ob rfl c38)) ?_
            refine g_goto (tgt := 60) dX0_place_53 (by decide) ?_
            refine g_callV1 dX0_place_60 kX0_gives q856 q858 qs17 (ci := 0) rfl (by decide) rfl (by omega) (by decide) (sk_1 hs.S) (Nat.le_of_ble_eq_true rfl) (Nat.le_refl _) (Nat.le_refl _) (t_kI hs (tWs_sub rfl) (pX0_gives hs.S) (fun r41 μ39 hs e40 => ?_))
            obtain ⟨rfl, e40⟩ := e40
            have h := h μ39 e40
            exact g_iret dX0_place_63 rfl (Nat.le_refl _) (Nat.le_refl _) ⟨_, rfl, hs, h⟩
      · have h := h.2 c10
        refine g_aload_n (q := 0) dX0_place_23 rfl rfl ?_
        refine g_iconst dX0_place_24 (by decide) ?_
        refine g_callV1 dX0_place_25 kX0_none q636 q638 qs3 (ci := 0) rfl (by decide) rfl (by omega) (by decide) (sk_1 hs.S) (Nat.le_of_ble_eq_true rfl) (Nat.le_refl _) (Nat.le_refl _) (t_kI hs (tWs_sub rfl) (pX0_none hs.S) (fun r44 μ42 hs e43 => ?_))
        obtain ⟨rfl, e43⟩ := e43
        have h := h μ42 e43
        exact g_iret dX0_place_28 rfl (Nat.le_refl _) (Nat.le_refl _) ⟨_, rfl, hs, h⟩
  · have h := h.2 (b2i_0.mp c3)
    refine g_aload_n (q := 0) dX0_place_8 rfl rfl ?_
    refine g_iconst dX0_place_9 (by decide) ?_
    refine g_callV1 dX0_place_10 kX0_none q636 q638 qs3 (ci := 0) rfl (by decide) rfl (by omega) (by decide) (sk_1 hs.S) (Nat.le_of_ble_eq_true rfl) (Nat.le_refl _) (Nat.le_refl _) (t_kI hs (tWs_sub rfl) (pX0_none hs.S) (fun r47 μ45 hs e46 => ?_))
    obtain ⟨rfl, e46⟩ := e46
    have h := h μ45 e46
    exact g_iret dX0_place_13 rfl (Nat.le_refl _) (Nat.le_refl _) ⟨_, rfl, hs, h⟩
theorem uX0_step_0 {d : Nat} {μ0 μ : tm_M} {K : Int → tm_M → Prop} {v1 v2 : Int} (hd : 1 ≤ d) (hs : tFr (tWs [] [(1, 10)]) μ0 μ)
    (h : (v1 < 0 → (∀ μ3, μ3 = tm_w μ 1 10 5 → K (-1) μ3)) ∧ (0 ≤ v1 → (v1 ≤ 1 → (v2 < 0 → (∀ μ10, μ10 = tm_w μ 1 10 8 → K (-1) μ10)) ∧ (0 ≤ v2 → (v2 < tm_v μ0 1 28 → (0 ≤ v1 ∧ v1 < 2) ∧ ((0 ≤ v2 ∧ v2 < 3) ∧ ((∀ μ17, μ17 = tm_w μ 1 10 0 → K (tm_v μ0 (42 + v1) v2) μ17)))) ∧ (tm_v μ0 1 28 ≤ v2 → (∀ μ20, μ20 = tm_w μ 1 10 8 → K (-1) μ20)))) ∧ (1 < v1 → (∀ μ23, μ23 = tm_w μ 1 10 5 → K (-1) μ23)))) :
    hI (tWs [] [(1, 10)]) μ0 mX0_step d K 0 [(0, 2, 1), (1, 0, v1), (2, 0, v2)] [] μ := by
  refine g_iload_n (q := 1) dX0_step_0 rfl rfl ?_
  refine g_if_lt (tgt := 9) dX0_step_1 (by decide) (fun c1 => ?_) (fun c2 => ?_)
  · have h := h.1 c1
    refine g_aload_n (q := 0) dX0_step_9 rfl rfl ?_
    refine g_iconst dX0_step_10 (by decide) ?_
    refine g_callV1 dX0_step_11 kX0_none q636 q638 qs3 (ci := 0) rfl (by decide) rfl (by omega) (by decide) (sk_1 hs.S) (Nat.le_of_ble_eq_true rfl) (Nat.le_refl _) (Nat.le_refl _) (t_kI hs (tWs_sub rfl) (pX0_none hs.S) (fun r5 μ3 hs e4 => ?_))
    obtain ⟨rfl, e4⟩ := e4
    have h := h μ3 e4
    exact g_iret dX0_step_14 rfl (Nat.le_refl _) (Nat.le_refl _) ⟨_, rfl, hs, h⟩
  · have h := h.2 c2
    refine g_iload_n (q := 1) dX0_step_4 rfl rfl ?_
    refine g_iconst dX0_step_5 (by decide) ?_
    refine g_icmp_le (tgt := 15) dX0_step_6 (by decide) (fun c6 => ?_) (fun c7 => ?_)
    · have h := h.1 c6
      refine g_iload_n (q := 2) dX0_step_15 rfl rfl ?_
      refine g_if_lt (tgt := 27) dX0_step_16 (by decide) (fun c8 => ?_) (fun c9 => ?_)
      · have h := h.1 c8
        refine g_aload_n (q := 0) dX0_step_27 rfl rfl ?_
        refine g_bipush dX0_step_28 ⟨by decide, by decide, rfl⟩ ?_
        refine g_callV1 dX0_step_30 kX0_none q636 q638 qs3 (ci := 0) rfl (by decide) rfl (by omega) (by decide) (sk_1 hs.S) (Nat.le_of_ble_eq_true rfl) (Nat.le_refl _) (Nat.le_refl _) (t_kI hs (tWs_sub rfl) (pX0_none hs.S) (fun r12 μ10 hs e11 => ?_))
        obtain ⟨rfl, e11⟩ := e11
        have h := h μ10 e11
        refine g_goto (tgt := 48) dX0_step_33 (by decide) ?_
        exact g_iret dX0_step_48 rfl (Nat.le_refl _) (Nat.le_refl _) ⟨_, rfl, hs, h⟩
      · have h := h.2 c9
        refine g_iload_n (q := 2) dX0_step_19 rfl rfl ?_
        refine g_aload_n (q := 0) dX0_step_20 rfl rfl ?_
        refine g_getC (x := tm_v μ0 1 28) 0 dX0_step_21 fX0_413 rfl (by decide) (sk_1 hs.S) (hs.v (tWs_noF rfl)) ?_
        refine g_icmp_lt (tgt := 36) dX0_step_24 (by decide) (fun c13 => ?_) (fun c14 => ?_)
        · have h := h.1 c13
          refine g_aload_n (q := 0) dX0_step_36 rfl rfl ?_
          refine g_aload_n (q := 0) dX0_step_37 rfl rfl ?_
          refine g_getC (x := 41) 2 dX0_step_38 fX0_98 rfl (by decide) (sk_1 hs.S) (sv_1_25 hs.S) ?_
          refine g_iload_n (q := 1) dX0_step_41 rfl rfl ?_
          obtain ⟨c15, h⟩ := h
          refine g_aaloadC (x := 42 + v1) dX0_step_42 (by decide) (sk_41 hs.S) (by decide) c15.1 (t_lt (sn_41 hs.S) c15.2) (sa_41 hs.S c15.1 c15.2) ?_
          refine g_iload_n (q := 2) dX0_step_43 rfl rfl ?_
          obtain ⟨c16, h⟩ := h
          refine g_ialoadC (x := tm_v μ0 (42 + v1) v2) dX0_step_44 (by have := c15; omega) (sak_41 hs.S c15.1 c15.2) c16.1 (t_lt (san_41 hs.S c15.1 c15.2) c16.2) (hs.v (tWs_nr (lo := 42) (n := 2) rfl (by have := c15; omega))) ?_
          refine g_callV1 dX0_step_45 kX0_gives q856 q858 qs17 (ci := 0) rfl (by decide) rfl (by omega) (by decide) (sk_1 hs.S) (Nat.le_of_ble_eq_true rfl) (Nat.le_refl _) (Nat.le_refl _) (t_kI hs (tWs_sub rfl) (pX0_gives hs.S) (fun r19 μ17 hs e18 => ?_))
          obtain ⟨rfl, e18⟩ := e18
          have h := h μ17 e18
          exact g_iret dX0_step_48 rfl (Nat.le_refl _) (Nat.le_refl _) ⟨_, rfl, hs, h⟩
        · have h := h.2 c14
          refine g_aload_n (q := 0) dX0_step_27 rfl rfl ?_
          refine g_bipush dX0_step_28 ⟨by decide, by decide, rfl⟩ ?_
          refine g_callV1 dX0_step_30 kX0_none q636 q638 qs3 (ci := 0) rfl (by decide) rfl (by omega) (by decide) (sk_1 hs.S) (Nat.le_of_ble_eq_true rfl) (Nat.le_refl _) (Nat.le_refl _) (t_kI hs (tWs_sub rfl) (pX0_none hs.S) (fun r22 μ20 hs e21 => ?_))
          obtain ⟨rfl, e21⟩ := e21
          have h := h μ20 e21
          refine g_goto (tgt := 48) dX0_step_33 (by decide) ?_
          exact g_iret dX0_step_48 rfl (Nat.le_refl _) (Nat.le_refl _) ⟨_, rfl, hs, h⟩
    · have h := h.2 c7
      refine g_aload_n (q := 0) dX0_step_9 rfl rfl ?_
      refine g_iconst dX0_step_10 (by decide) ?_
      refine g_callV1 dX0_step_11 kX0_none q636 q638 qs3 (ci := 0) rfl (by decide) rfl (by omega) (by decide) (sk_1 hs.S) (Nat.le_of_ble_eq_true rfl) (Nat.le_refl _) (Nat.le_refl _) (t_kI hs (tWs_sub rfl) (pX0_none hs.S) (fun r25 μ23 hs e24 => ?_))
      obtain ⟨rfl, e24⟩ := e24
      have h := h μ23 e24
      exact g_iret dX0_step_14 rfl (Nat.le_refl _) (Nat.le_refl _) ⟨_, rfl, hs, h⟩
theorem uX0_alikeStep_0 {d : Nat} {μ0 μ : tm_M} {K : Int → tm_M → Prop} {v1 : Int} (hd : 1 ≤ d) (hs : tFr (tWs [] [(1, 10)]) μ0 μ)
    (h : (v1 < 0 → (∀ μ3, μ3 = tm_w μ 1 10 8 → K (-1) μ3)) ∧ (0 ≤ v1 → (v1 < tm_v μ0 1 29 → (0 ≤ v1 ∧ v1 < 5) ∧ ((∀ μ9, μ9 = tm_w μ 1 10 0 → K (tm_v μ0 44 v1) μ9))) ∧ (tm_v μ0 1 29 ≤ v1 → (∀ μ12, μ12 = tm_w μ 1 10 8 → K (-1) μ12)))) :
    hI (tWs [] [(1, 10)]) μ0 mX0_alikeStep d K 0 [(0, 2, 1), (1, 0, v1)] [] μ := by
  refine g_iload_n (q := 1) dX0_alikeStep_0 rfl rfl ?_
  refine g_if_lt (tgt := 12) dX0_alikeStep_1 (by decide) (fun c1 => ?_) (fun c2 => ?_)
  · have h := h.1 c1
    refine g_aload_n (q := 0) dX0_alikeStep_12 rfl rfl ?_
    refine g_bipush dX0_alikeStep_13 ⟨by decide, by decide, rfl⟩ ?_
    refine g_callV1 dX0_alikeStep_15 kX0_none q636 q638 qs3 (ci := 0) rfl (by decide) rfl (by omega) (by decide) (sk_1 hs.S) (Nat.le_of_ble_eq_true rfl) (Nat.le_refl _) (Nat.le_refl _) (t_kI hs (tWs_sub rfl) (pX0_none hs.S) (fun r5 μ3 hs e4 => ?_))
    obtain ⟨rfl, e4⟩ := e4
    have h := h μ3 e4
    refine g_goto (tgt := 31) dX0_alikeStep_18 (by decide) ?_
    exact g_iret dX0_alikeStep_31 rfl (Nat.le_refl _) (Nat.le_refl _) ⟨_, rfl, hs, h⟩
  · have h := h.2 c2
    refine g_iload_n (q := 1) dX0_alikeStep_4 rfl rfl ?_
    refine g_aload_n (q := 0) dX0_alikeStep_5 rfl rfl ?_
    refine g_getC (x := tm_v μ0 1 29) 0 dX0_alikeStep_6 fX0_416 rfl (by decide) (sk_1 hs.S) (hs.v (tWs_noF rfl)) ?_
    refine g_icmp_lt (tgt := 21) dX0_alikeStep_9 (by decide) (fun c6 => ?_) (fun c7 => ?_)
    · have h := h.1 c6
      refine g_aload_n (q := 0) dX0_alikeStep_21 rfl rfl ?_
      refine g_aload_n (q := 0) dX0_alikeStep_22 rfl rfl ?_
      refine g_getC (x := 44) 2 dX0_alikeStep_23 fX0_101 rfl (by decide) (sk_1 hs.S) (sv_1_26 hs.S) ?_
      refine g_iload_n (q := 1) dX0_alikeStep_26 rfl rfl ?_
      obtain ⟨c8, h⟩ := h
      refine g_ialoadC (x := tm_v μ0 44 v1) dX0_alikeStep_27 (by decide) (sk_44 hs.S) c8.1 (t_lt (sn_44 hs.S) c8.2) (hs.v (tWs_no _ rfl)) ?_
      refine g_callV1 dX0_alikeStep_28 kX0_gives q856 q858 qs17 (ci := 0) rfl (by decide) rfl (by omega) (by decide) (sk_1 hs.S) (Nat.le_of_ble_eq_true rfl) (Nat.le_refl _) (Nat.le_refl _) (t_kI hs (tWs_sub rfl) (pX0_gives hs.S) (fun r11 μ9 hs e10 => ?_))
      obtain ⟨rfl, e10⟩ := e10
      have h := h μ9 e10
      exact g_iret dX0_alikeStep_31 rfl (Nat.le_refl _) (Nat.le_refl _) ⟨_, rfl, hs, h⟩
    · have h := h.2 c7
      refine g_aload_n (q := 0) dX0_alikeStep_12 rfl rfl ?_
      refine g_bipush dX0_alikeStep_13 ⟨by decide, by decide, rfl⟩ ?_
      refine g_callV1 dX0_alikeStep_15 kX0_none q636 q638 qs3 (ci := 0) rfl (by decide) rfl (by omega) (by decide) (sk_1 hs.S) (Nat.le_of_ble_eq_true rfl) (Nat.le_refl _) (Nat.le_refl _) (t_kI hs (tWs_sub rfl) (pX0_none hs.S) (fun r14 μ12 hs e13 => ?_))
      obtain ⟨rfl, e13⟩ := e13
      have h := h μ12 e13
      refine g_goto (tgt := 31) dX0_alikeStep_18 (by decide) ?_
      exact g_iret dX0_alikeStep_31 rfl (Nat.le_refl _) (Nat.le_refl _) ⟨_, rfl, hs, h⟩
