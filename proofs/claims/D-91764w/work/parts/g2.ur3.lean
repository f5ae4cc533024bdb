theorem rX0_town_0 {d mc ms nc ns : Nat} {μ : tm_M} {Q : tQ} {v1 : Int} (hs : tS μ)
    (h : (v1 < 0 → tH mX0_town d mc ms (tq Q mc ms) 15 [(0, 2, 1)] [] μ nc ns) ∧ (0 ≤ v1 → (v1 ≤ tm_v μ 4 1 → (∀ μ5, μ5 = tm_w μ 4 1 0 → tS μ5 ∧ ((∀ μ6, μ6 = tm_w μ5 1 11 0 → tS μ6 ∧ ((∀ μ7, μ7 = tm_w μ6 1 12 (-1) → tS μ7 ∧ (rcl mX2_read [(2, 4), (0, v1)] μ7 d mc ms nc ns (fun o8 μ8 nc8 ns8 => rk 2 o8 (fun r8 => tS μ8 ∧ ((∀ μ9, μ9 = tm_w μ8 1 8 r8 → tS μ9 ∧ ((∀ μ10, μ10 = tm_w μ9 1 13 0 → tS μ10 ∧ ((1 ≤ tm_v μ10 1 8 ∧ tm_k μ10 (tm_v μ10 1 8) = 4) ∧ (rcl mX0_gives [(2, 1), (0, tm_v μ10 (tm_v μ10 1 8) 2)] μ10 d mc ms nc8 ns8 (fun o12 μ12 nc12 ns12 => rk 0 o12 (fun r12 => tS μ12 ∧ ((nc12 ≤ mc ∧ ns12 ≤ ms) ∧ (Q (.inl (some (0, r12))) μ12))) (fun a => tT mX0_town d mc ms (tq Q mc ms) 93 [(0, 2, 1), (1, 0, v1), (2, 2, r8)] a μ12 nc12 ns12))))))))) (fun a => tT mX0_town d mc ms (tq Q mc ms) 44 [(0, 2, 1), (1, 0, v1)] a μ8 nc8 ns8))))))))) ∧ (tm_v μ 4 1 < v1 → tH mX0_town d mc ms (tq Q mc ms) 15 [(0, 2, 1)] [] μ nc ns))) :
    tH mX0_town d mc ms (tq Q mc ms) 0 [(0, 2, 1), (1, 0, v1)] [] μ nc ns := by
  refine g_iload_n (q := 1) dX0_town_0 rfl rfl ?_
  refine g_if_lt (tgt := 15) dX0_town_1 (by decide) (fun c1 => ?_) (fun c2 => ?_)
  · have h := h.1 c1
    exact g_less [0] rfl h
  · have h := h.2 c2
    refine g_iload_n (q := 1) dX0_town_4 rfl rfl ?_
    refine g_aload_n (q := 0) dX0_town_5 rfl rfl ?_
    refine g_getC (x := 4) 2 dX0_town_6 fX0_27 rfl (by decide) (sk_1 hs) (sv_1_2 hs) ?_
    refine g_get 0 dX0_town_9 fX0_209 rfl (by decide) (sk_4 hs) ?_
    refine g_icmp_le (tgt := 21) dX0_town_12 (by decide) (fun c3 => ?_) (fun c4 => ?_)
    · have h := h.1 c3
      refine g_aload_n (q := 0) dX0_town_21 rfl rfl ?_
      refine g_getC (x := 4) 2 dX0_town_22 fX0_27 rfl (by decide) (sk_1 hs) (sv_1_2 hs) ?_
      refine g_iconst dX0_town_25 (by decide) ?_
      refine g_put dX0_town_26 fX0_209 rfl (by decide) (sk_4 hs) (fun e => absurd e (by decide)) (p_r fun μ5 eμ5 => ?_)
      obtain ⟨hs, h⟩ := h μ5 eμ5
      refine g_aload_n (q := 0) dX0_town_29 rfl rfl ?_
      refine g_iconst dX0_town_30 (by decide) ?_
      refine g_put dX0_town_31 fX0_61 rfl (by decide) (sk_1 hs) (fun e => absurd e (by decide)) (p_r fun μ6 eμ6 => ?_)
      obtain ⟨hs, h⟩ := h μ6 eμ6
      refine g_aload_n (q := 0) dX0_town_34 rfl rfl ?_
      refine g_iconst dX0_town_35 (by decide) ?_
      refine g_put dX0_town_36 fX0_65 rfl (by decide) (sk_1 hs) (fun e => absurd e (by decide)) (p_r fun μ7 eμ7 => ?_)
      obtain ⟨hs, h⟩ := h μ7 eμ7
      refine g_aload_n (q := 0) dX0_town_39 rfl rfl ?_
      refine g_getC (x := 4) 2 dX0_town_40 fX0_27 rfl (by decide) (sk_1 hs) (sv_1_2 hs) ?_
      refine g_iload_n (q := 1) dX0_town_43 rfl rfl ?_
      obtain ⟨_, _, _, k1, k2, k3, h⟩ := h
      refine g_callV (as := [(0, v1)]) (S := []) dX0_town_44 kX2_read q665 q666 q667 (ci := 2) rfl (by decide) rfl rfl k1 (by decide) (sk_4 hs) k2 k3 (Nat.le_of_ble_eq_true rfl) (h.mono fun o8 μ8 q => rk_go q (fun r8 h => ?_) (fun a h => h))
      obtain ⟨hs, h⟩ := h
      refine g_astore_n (L' := [(0, 2, 1), (1, 0, v1), (2, 2, r8)]) dX0_town_47 rfl (by decide) [1, 2, 0] rfl ?_
      refine g_goto (tgt := 75) dX0_town_48 (by decide) ?_
      refine g_aload_n (q := 0) dX0_town_75 rfl rfl ?_
      refine g_aload_n (q := 2) dX0_town_76 rfl rfl ?_
      refine g_put dX0_town_77 fX0_57 rfl (by decide) (sk_1 hs) (fun e => absurd e (by decide)) (p_r fun μ9 eμ9 => ?_)
      obtain ⟨hs, h⟩ := h μ9 eμ9
      refine g_aload_n (q := 0) dX0_town_80 rfl rfl ?_
      refine g_iconst dX0_town_81 (by decide) ?_
      refine g_put dX0_town_82 fX0_230 rfl (by decide) (sk_1 hs) (fun _ => by decide) (p_r fun μ10 eμ10 => ?_)
      obtain ⟨hs, h⟩ := h μ10 eμ10
      refine g_aload_n (q := 0) dX0_town_85 rfl rfl ?_
      refine g_aload_n (q := 0) dX0_town_86 rfl rfl ?_
      refine g_get 2 dX0_town_87 fX0_57 rfl (by decide) (sk_1 hs) ?_
      obtain ⟨c11, h⟩ := h
      refine g_get 0 dX0_town_90 fX0_200 rfl c11.1 c11.2 ?_
      obtain ⟨_, _, _, k1, k2, k3, h⟩ := h
      refine g_callV (as := [(0, tm_v μ10 (tm_v μ10 1 8) 2)]) (S := []) dX0_town_93 kX0_gives q856 q858 qs17 (ci := 0) rfl (by decide) rfl rfl k1 (by decide) (sk_1 hs) k2 k3 (Nat.le_of_ble_eq_true rfl) (h.mono fun o12 μ12 q => rk_go q (fun r12 h => ?_) (fun a h => h))
      obtain ⟨hs, h⟩ := h
      obtain ⟨c13, h⟩ := h
      exact g_iret dX0_town_96 rfl c13.1 c13.2 h
    · have h := h.2 c4
      exact g_less [0] rfl h
theorem rX0_town_15 {d mc ms nc ns : Nat} {μ : tm_M} {Q : tQ} (hs : tS μ)
    (h : rcl mX0_none [(2, 1), (0, 5)] μ d mc ms nc ns (fun o1 μ1 nc1 ns1 => rk 0 o1 (fun r1 => tS μ1 ∧ ((nc1 ≤ mc ∧ ns1 ≤ ms) ∧ (Q (.inl (some (0, r1))) μ1))) (fun a => tT mX0_town d mc ms (tq Q mc ms) 17 [(0, 2, 1)] a μ1 nc1 ns1))) :
    tH mX0_town d mc ms (tq Q mc ms) 15 [(0, 2, 1)] [] μ nc ns := by
  refine g_aload_n (q := 0) dX0_town_15 rfl rfl ?_
  refine g_iconst dX0_town_16 (by decide) ?_
  obtain ⟨_, _, _, k1, k2, k3, h⟩ := h
  refine g_callV (as := [(0, 5)]) (S := []) dX0_town_17 kX0_none q636 q638 qs3 (ci := 0) rfl (by decide) rfl rfl k1 (by decide) (sk_1 hs) k2 k3 (Nat.le_of_ble_eq_true rfl) (h.mono fun o1 μ1 q => rk_go q (fun r1 h => ?_) (fun a h => h))
  obtain ⟨hs, h⟩ := h
  obtain ⟨c2, h⟩ := h
  exact g_iret dX0_town_20 rfl c2.1 c2.2 h
theorem rX0_town_51 {d mc ms nc ns : Nat} {μ : tm_M} {Q : tQ} {v1 s0 : Int} (hs : tS μ)
    (h : (1 ≤ s0 ∧ tm_k μ s0 = 1) ∧ ((∀ μ2, μ2 = tm_w μ 1 11 (tm_v μ s0 6) → tS μ2 ∧ ((1 ≤ s0 ∧ tm_k μ2 s0 = 1) ∧ ((∀ μ4, μ4 = tm_w μ2 1 12 (tm_v μ2 s0 7) → tS μ4 ∧ (rcl mX0_none [(2, 1), (0, 10)] μ4 d mc ms nc ns (fun o5 μ5 nc5 ns5 => rk 0 o5 (fun r5 => tS μ5 ∧ ((nc5 ≤ mc ∧ ns5 ≤ ms) ∧ (Q (.inl (some (0, r5))) μ5))) (fun a => tT mX0_town d mc ms (tq Q mc ms) 71 [(0, 2, 1), (1, 0, v1), (3, 2, s0)] a μ5 nc5 ns5))))))))) :
    tH mX0_town d mc ms (tq Q mc ms) 51 [(0, 2, 1), (1, 0, v1)] [(2, s0)] μ nc ns := by
  refine g_astore_n (L' := [(0, 2, 1), (1, 0, v1), (3, 2, s0)]) dX0_town_51 rfl (by decide) [1, 2, 0] rfl ?_
  refine g_aload_n (q := 0) dX0_town_52 rfl rfl ?_
  refine g_aload_n (q := 2) dX0_town_53 rfl rfl ?_
  obtain ⟨c1, h⟩ := h
  refine g_get 0 dX0_town_54 fX0_224 rfl c1.1 c1.2 ?_
  refine g_put dX0_town_57 fX0_61 rfl (by decide) (sk_1 hs) (fun e => absurd e (by decide)) (p_r fun μ2 eμ2 => ?_)
  obtain ⟨hs, h⟩ := h μ2 eμ2
  refine g_aload_n (q := 0) dX0_town_60 rfl rfl ?_
  refine g_aload_n (q := 2) dX0_town_61 rfl rfl ?_
  obtain ⟨c3, h⟩ := h
  refine g_get 0 dX0_town_62 fX0_227 rfl c3.1 c3.2 ?_
  refine g_put dX0_town_65 fX0_65 rfl (by decide) (sk_1 hs) (fun e => absurd e (by decide)) (p_r fun μ4 eμ4 => ?_)
  obtain ⟨hs, h⟩ := h μ4 eμ4
  refine g_aload_n (q := 0) dX0_town_68 rfl rfl ?_
  refine g_bipush dX0_town_69 ⟨by decide, by decide, rfl⟩ ?_
  obtain ⟨_, _, _, k1, k2, k3, h⟩ := h
  refine g_callV (as := [(0, 10)]) (S := []) dX0_town_71 kX0_none q636 q638 qs3 (ci := 0) rfl (by decide) rfl rfl k1 (by decide) (sk_1 hs) k2 k3 (Nat.le_of_ble_eq_true rfl) (h.mono fun o5 μ5 q => rk_go q (fun r5 h => ?_) (fun a h => h))
  obtain ⟨hs, h⟩ := h
  obtain ⟨c6, h⟩ := h
  exact g_iret dX0_town_74 rfl c6.1 c6.2 h
theorem rX1_init_0 {d mc ms nc ns : Nat} {μ : tm_M} {Q : tQ} {v0 : Int} (hs : tS μ)
    (h : (1 ≤ v0) ∧ (rcl mJ2_init [(2, v0), (2, 0), (2, 0), (0, 0), (0, 0)] μ d mc ms nc ns (fun o2 μ2 nc2 ns2 => rkV o2 (tS μ2 ∧ ((nc2 ≤ mc ∧ ns2 ≤ ms) ∧ (Q (.inl none) μ2))) (fun a => tT mX1_init d mc ms (tq Q mc ms) 5 [(0, 2, v0)] a μ2 nc2 ns2)))) :
    tH mX1_init d mc ms (tq Q mc ms) 0 [(0, 2, v0)] [] μ nc ns := by
  refine g_aload_n (q := 0) dX1_init_0 rfl rfl ?_
  refine g_anull dX1_init_1 ?_
  refine g_anull dX1_init_2 ?_
  refine g_iconst dX1_init_3 (by decide) ?_
  refine g_iconst dX1_init_4 (by decide) ?_
  obtain ⟨c1, h⟩ := h
  obtain ⟨_, _, _, k1, k2, k3, h⟩ := h
  refine g_callI (as := [(2, 0), (2, 0), (0, 0), (0, 0)]) (S := []) dX1_init_5 kJ2_init rfl rfl rfl q210 q211 rfl rfl k1 c1 k2 k3 (Nat.le_of_ble_eq_true rfl) (h.mono fun o2 μ2 q => rk_goV q (fun h => ?_) (fun a h => h))
  obtain ⟨hs, h⟩ := h
  obtain ⟨c3, h⟩ := h
  exact g_vret dX1_init_8 rfl c3.1 c3.2 h
theorem rX1_of_0 {d mc ms nc ns : Nat} {μ : tm_M} {Q : tQ} {v1 v2 : Int} (hs : tS μ)
    (h : (∀ μ1, μ1 = tm_w μ 3 6 v1 → tS μ1 ∧ ((∀ μ2, μ2 = tm_w μ1 3 7 v2 → tS μ2 ∧ ((nc ≤ mc ∧ ns ≤ ms) ∧ (Q (.inl (some (2, 3))) μ2)))))) :
    tH mX1_of d mc ms (tq Q mc ms) 0 [(0, 2, 3), (1, 0, v1), (2, 0, v2)] [] μ nc ns := by
  refine g_aload_n (q := 0) dX1_of_0 rfl rfl ?_
  refine g_iload_n (q := 1) dX1_of_1 rfl rfl ?_
  refine g_put dX1_of_2 fX1_7 rfl (by decide) (sk_3 hs) (fun e => absurd e (by decide)) (p_r fun μ1 eμ1 => ?_)
  obtain ⟨hs, h⟩ := h μ1 eμ1
  refine g_aload_n (q := 0) dX1_of_5 rfl rfl ?_
  refine g_iload_n (q := 2) dX1_of_6 rfl rfl ?_
  refine g_put dX1_of_7 fX1_13 rfl (by decide) (sk_3 hs) (fun e => absurd e (by decide)) (p_r fun μ2 eμ2 => ?_)
  obtain ⟨hs, h⟩ := h μ2 eμ2
  refine g_aload_n (q := 0) dX1_of_10 rfl rfl ?_
  obtain ⟨c3, h⟩ := h
  exact g_aret dX1_of_11 rfl rfl c3.1 c3.2 h
theorem rX2_init_0 {d mc ms nc ns : Nat} {μ : tm_M} {Q : tQ} {v0 v1 : Int} (hs : tS μ)
    (h : (1 ≤ v0) ∧ ((nc + 1 ≤ mc ∧ ns + 500 ≤ ms) ∧ ((∀ μ3, μ3 = tm_a μ 22 500 → tS μ3 ∧ ((1 ≤ v0 ∧ tm_k μ3 v0 = 2) ∧ ((∀ μ5, μ5 = tm_w μ3 v0 0 (tm_z μ) → tS μ5 ∧ ((1 ≤ v0 ∧ tm_k μ5 v0 = 2) ∧ ((∀ μ7, μ7 = tm_w μ5 v0 9 v1 → tS μ7 ∧ (((nc + 1) ≤ mc ∧ (ns + 500) ≤ ms) ∧ (Q (.inl none) μ7)))))))))))) :
    tH mX2_init d mc ms (tq Q mc ms) 0 [(0, 2, v0), (1, 2, v1)] [] μ nc ns := by
  refine g_aload_n (q := 0) dX2_init_0 rfl rfl ?_
  obtain ⟨c1, h⟩ := h
  refine g_objInit dX2_init_1 q245 q148 q149 c1 (Nat.le_of_ble_eq_true rfl) ?_
  refine g_aload_n (q := 0) dX2_init_4 rfl rfl ?_
  refine g_sipush dX2_init_5 ⟨by decide, by decide, rfl⟩ ?_
  obtain ⟨c2, h⟩ := h
  refine g_newarray (k := 22) dX2_init_8 (by decide) rfl q278 (by decide) c2.1 c2.2 (p_r fun μ3 eμ3 => ?_)
  obtain ⟨hs, h⟩ := h μ3 eμ3
  obtain ⟨c4, h⟩ := h
  refine g_putF dX2_init_10 fX2_9F rfl rfl c4.1 c4.2 (fun e => absurd e (by decide)) (p_r fun μ5 eμ5 => ?_)
  obtain ⟨hs, h⟩ := h μ5 eμ5
  refine g_aload_n (q := 0) dX2_init_13 rfl rfl ?_
  refine g_aload_n (q := 1) dX2_init_14 rfl rfl ?_
  obtain ⟨c6, h⟩ := h
  refine g_putF dX2_init_15 fX2_15F rfl rfl c6.1 c6.2 (fun e => absurd e (by decide)) (p_r fun μ7 eμ7 => ?_)
  obtain ⟨hs, h⟩ := h μ7 eμ7
  obtain ⟨c8, h⟩ := h
  exact g_vret dX2_init_18 rfl c8.1 c8.2 h
theorem rX2_read_0 {d mc ms nc ns : Nat} {μ : tm_M} {Q : tQ} {v1 : Int} (hs : tS μ)
    (h : (∀ μ1, μ1 = tm_w μ 4 2 v1 → tS μ1 ∧ ((∀ μ2, μ2 = tm_w μ1 4 5 0 → tS μ2 ∧ ((∀ μ3, μ3 = tm_w μ2 4 7 0 → tS μ3 ∧ ((nc + 1 ≤ mc ∧ ns + 8 ≤ ms) ∧ ((∀ μ5, μ5 = tm_a μ3 4 8 → tS μ5 ∧ ((1 ≤ tm_z μ3) ∧ (rcl mX4_init [(2, tm_z μ3)] μ5 d mc ms (nc + 1) (ns + 8) (fun o7 μ7 nc7 ns7 => rkV o7 (tS μ7 ∧ ((∀ μ8, μ8 = tm_w μ7 4 8 (tm_z μ3) → tS μ8 ∧ (rcl mX2_next [(2, 4)] μ8 d mc ms nc7 ns7 (fun o9 μ9 nc9 ns9 => rkV o9 (tS μ9 ∧ (tH mX2_read d mc ms (tq Q mc ms) 30 [(0, 2, 4)] [] μ9 nc9 ns9)) (fun a => tT mX2_read d mc ms (tq Q mc ms) 27 [(0, 2, 4), (1, 0, v1)] a μ9 nc9 ns9)))))) (fun a => tT mX2_read d mc ms (tq Q mc ms) 20 [(0, 2, 4), (1, 0, v1)] a μ7 nc7 ns7))))))))))))) :
    tH mX2_read d mc ms (tq Q mc ms) 0 [(0, 2, 4), (1, 0, v1)] [] μ nc ns := by
  refine g_aload_n (q := 0) dX2_read_0 rfl rfl ?_
  refine g_iload_n (q := 1) dX2_read_1 rfl rfl ?_
  refine g_put dX2_read_2 fX2_19 rfl (by decide) (sk_4 hs) (fun e => absurd e (by decide)) (p_r fun μ1 eμ1 => ?_)
  obtain ⟨hs, h⟩ := h μ1 eμ1
  refine g_aload_n (q := 0) dX2_read_5 rfl rfl ?_
  refine g_iconst dX2_read_6 (by decide) ?_
  refine g_put dX2_read_7 fX2_23 rfl (by decide) (sk_4 hs) (fun e => absurd e (by decide)) (p_r fun μ2 eμ2 => ?_)
  obtain ⟨hs, h⟩ := h μ2 eμ2
  refine g_aload_n (q := 0) dX2_read_10 rfl rfl ?_
  refine g_iconst dX2_read_11 (by decide) ?_
  refine g_put dX2_read_12 fX2_88 rfl (by decide) (sk_4 hs) (fun e => absurd e (by decide)) (p_r fun μ3 eμ3 => ?_)
  obtain ⟨hs, h⟩ := h μ3 eμ3
  refine g_aload_n (q := 0) dX2_read_15 rfl rfl ?_
  obtain ⟨c4, h⟩ := h
  refine g_new dX2_read_16 ck4 (by decide) q669 q308 q123 c4.1 c4.2 (p_r fun μ5 eμ5 => ?_)
  obtain ⟨hs, h⟩ := h μ5 eμ5
  refine g_dup dX2_read_19 (by decide) ?_
  obtain ⟨c6, h⟩ := h
  obtain ⟨_, _, _, k1, k2, k3, h⟩ := h
  refine g_callIN (as := []) (S := [(2, tm_z μ3), (2, 4)]) dX2_read_20 kX4_init rfl rfl rfl q670 q310 rfl rfl k1 c6 k2 k3 (Nat.le_of_ble_eq_true rfl) (h.mono fun o7 μ7 q => rk_goV q (fun h => ?_) (fun a h => h))
  obtain ⟨hs, h⟩ := h
  refine g_put dX2_read_23 fX2_94 rfl (by decide) (sk_4 hs) (fun e => absurd e (by decide)) (p_r fun μ8 eμ8 => ?_)
  obtain ⟨hs, h⟩ := h μ8 eμ8
  refine g_aload_n (q := 0) dX2_read_26 rfl rfl ?_
  obtain ⟨_, _, _, k1, k2, k3, h⟩ := h
  refine g_callV (as := []) (S := []) dX2_read_27 kX2_next q671 q673 qs5 (ci := 2) rfl (by decide) rfl rfl k1 (by decide) (sk_4 hs) k2 k3 (Nat.le_of_ble_eq_true rfl) (h.mono fun o9 μ9 q => rk_goV q (fun h => ?_) (fun a h => h))
  obtain ⟨hs, h⟩ := h
  exact g_less [0] rfl h
theorem rX2_read_30 {d mc ms nc ns : Nat} {μ : tm_M} {Q : tQ} (hs : tS μ)
    (h : (tm_v μ 4 3 = 0 → (nc ≤ mc ∧ ns ≤ ms) ∧ (Q (.inl (some (2, tm_v μ 4 8))) μ)) ∧ (tm_v μ 4 3 ≠ 0 → rcl mX2_part [(2, 4)] μ d mc ms nc ns (fun o4 μ4 nc4 ns4 => rkV o4 (tS μ4 ∧ ((tm_v μ4 4 3 ≠ 4 → rcl mX2_need [(2, 4), (0, 0)] μ4 d mc ms nc4 ns4 (fun o7 μ7 nc7 ns7 => rkV o7 (tS μ7 ∧ (rcl mX2_next [(2, 4)] μ7 d mc ms nc7 ns7 (fun o8 μ8 nc8 ns8 => rkV o8 (tS μ8 ∧ (tH mX2_read d mc ms (tq Q mc ms) 30 [(0, 2, 4)] [] μ8 nc8 ns8)) (fun a => tT mX2_read d mc ms (tq Q mc ms) 59 [(0, 2, 4)] a μ8 nc8 ns8)))) (fun a => tT mX2_read d mc ms (tq Q mc ms) 55 [(0, 2, 4)] a μ7 nc7 ns7))) ∧ (tm_v μ4 4 3 = 4 → rcl mX2_need [(2, 4), (0, 1)] μ4 d mc ms nc4 ns4 (fun o9 μ9 nc9 ns9 => rkV o9 (tS μ9 ∧ (rcl mX2_next [(2, 4)] μ9 d mc ms nc9 ns9 (fun o10 μ10 nc10 ns10 => rkV o10 (tS μ10 ∧ (tH mX2_read d mc ms (tq Q mc ms) 30 [(0, 2, 4)] [] μ10 nc10 ns10)) (fun a => tT mX2_read d mc ms (tq Q mc ms) 59 [(0, 2, 4)] a μ10 nc10 ns10)))) (fun a => tT mX2_read d mc ms (tq Q mc ms) 55 [(0, 2, 4)] a μ9 nc9 ns9))))) (fun a => tT mX2_read d mc ms (tq Q mc ms) 38 [(0, 2, 4)] a μ4 nc4 ns4)))) :
    tH mX2_read d mc ms (tq Q mc ms) 30 [(0, 2, 4)] [] μ nc ns := by
  refine g_aload_n (q := 0) dX2_read_30 rfl rfl ?_
  refine g_get 0 dX2_read_31 fX2_36 rfl (by decide) (sk_4 hs) ?_
  refine g_if_eq (tgt := 65) dX2_read_34 (by decide) (fun c1 => ?_) (fun c2 => ?_)
  · have h := h.1 c1
    refine g_aload_n (q := 0) dX2_read_65 rfl rfl ?_
    refine g_get 2 dX2_read_66 fX2_94 rfl (by decide) (sk_4 hs) ?_
    obtain ⟨c3, h⟩ := h
    exact g_aret dX2_read_69 rfl rfl c3.1 c3.2 h
  · have h := h.2 c2
    refine g_aload_n (q := 0) dX2_read_37 rfl rfl ?_
    obtain ⟨_, _, _, k1, k2, k3, h⟩ := h
    refine g_callV (as := []) (S := []) dX2_read_38 kX2_part q688 q690 qs7 (ci := 2) rfl (by decide) rfl rfl k1 (by decide) (sk_4 hs) k2 k3 (Nat.le_of_ble_eq_true rfl) (h.mono fun o4 μ4 q => rk_goV q (fun h => ?_) (fun a h => h))
    obtain ⟨hs, h⟩ := h
    refine g_aload_n (q := 0) dX2_read_41 rfl rfl ?_
    refine g_aload_n (q := 0) dX2_read_42 rfl rfl ?_
    refine g_get 0 dX2_read_43 fX2_36 rfl (by decide) (sk_4 hs) ?_
    refine g_iconst dX2_read_46 (by decide) ?_
    refine g_icmp_ne (tgt := 54) dX2_read_47 (by decide) (fun c5 => ?_) (fun c6 => ?_)
    · have h := h.1 c5
      refine g_iconst dX2_read_54 (by decide) ?_
      obtain ⟨_, _, _, k1, k2, k3, h⟩ := h
      refine g_callV (as := [(0, 0)]) (S := []) dX2_read_55 kX2_need q749 q751 qs10 (ci := 2) rfl (by decide) rfl rfl k1 (by decide) (sk_4 hs) k2 k3 (Nat.le_of_ble_eq_true rfl) (h.mono fun o7 μ7 q => rk_goV q (fun h => ?_) (fun a h => h))
      obtain ⟨hs, h⟩ := h
      refine g_aload_n (q := 0) dX2_read_58 rfl rfl ?_
      obtain ⟨_, _, _, k1, k2, k3, h⟩ := h
      refine g_callV (as := []) (S := []) dX2_read_59 kX2_next q671 q673 qs5 (ci := 2) rfl (by decide) rfl rfl k1 (by decide) (sk_4 hs) k2 k3 (Nat.le_of_ble_eq_true rfl) (h.mono fun o8 μ8 q => rk_goV q (fun h => ?_) (fun a h => h))
      obtain ⟨hs, h⟩ := h
      refine g_goto (tgt := 30) dX2_read_62 (by decide) ?_
      exact h
    · have h := h.2 c6
      refine g_iconst dX2_read_50 (by decide) ?_
      refine g_goto (tgt := 55) dX2_read_51 (by decide) ?_
      obtain ⟨_, _, _, k1, k2, k3, h⟩ := h
      refine g_callV (as := [(0, 1)]) (S := []) dX2_read_55 kX2_need q749 q751 qs10 (ci := 2) rfl (by decide) rfl rfl k1 (by decide) (sk_4 hs) k2 k3 (Nat.le_of_ble_eq_true rfl) (h.mono fun o9 μ9 q => rk_goV q (fun h => ?_) (fun a h => h))
      obtain ⟨hs, h⟩ := h
      refine g_aload_n (q := 0) dX2_read_58 rfl rfl ?_
      obtain ⟨_, _, _, k1, k2, k3, h⟩ := h
      refine g_callV (as := []) (S := []) dX2_read_59 kX2_next q671 q673 qs5 (ci := 2) rfl (by decide) rfl rfl k1 (by decide) (sk_4 hs) k2 k3 (Nat.le_of_ble_eq_true rfl) (h.mono fun o10 μ10 q => rk_goV q (fun h => ?_) (fun a h => h))
      obtain ⟨hs, h⟩ := h
      refine g_goto (tgt := 30) dX2_read_62 (by decide) ?_
      exact h
theorem rX2_next_0 {d mc ms nc ns : Nat} {μ : tm_M} {Q : tQ} (hs : tS μ)
    (h : rcl mX2_at [(2, 4), (0, tm_v μ 4 5)] μ d mc ms nc ns (fun o1 μ1 nc1 ns1 => rk 0 o1 (fun r1 => tS μ1 ∧ ((r1 = 32 → (∀ μ4, μ4 = tm_w μ1 4 5 (w32 ((tm_v μ1 4 5) + 1)) → tS μ4 ∧ (tH mX2_next d mc ms (tq Q mc ms) 0 [(0, 2, 4)] [] μ4 nc1 ns1))) ∧ (r1 ≠ 32 → rcl mX2_at [(2, 4), (0, tm_v μ1 4 5)] μ1 d mc ms nc1 ns1 (fun o5 μ5 nc5 ns5 => rk 0 o5 (fun r5 => tS μ5 ∧ ((r5 ≠ 10 → (∀ μ8, μ8 = tm_w μ5 4 4 (tm_v μ5 4 5) → tS μ8 ∧ (rcl mX2_at [(2, 4), (0, tm_v μ8 4 5)] μ8 d mc ms nc5 ns5 (fun o9 μ9 nc9 ns9 => rk 0 o9 (fun r9 => tS μ9 ∧ ((∀ μ10, μ10 = tm_w μ9 4 6 r9 → tS μ10 ∧ ((r9 ≠ -1 → rcl mX2_isSmall [(0, r9)] μ10 d mc ms nc9 ns9 (fun o13 μ13 nc13 ns13 => rk 0 o13 (fun r13 => tS μ13 ∧ ((r13 = 0 → rcl mX2_isDigit [(0, r9)] μ13 d mc ms nc13 ns13 (fun o16 μ16 nc16 ns16 => rk 0 o16 (fun r16 => tS μ16 ∧ ((r16 = 0 → (∀ μ19, μ19 = tm_w μ16 4 5 (w32 ((tm_v μ16 4 5) + 1)) → tS μ19 ∧ ((r9 ≠ 59 → (∀ μ22, μ22 = tm_w μ19 4 3 1 → tS μ22 ∧ ((nc16 ≤ mc ∧ ns16 ≤ ms) ∧ (Q (.inl none) μ22)))) ∧ (r9 = 59 → (∀ μ24, μ24 = tm_w μ19 4 3 4 → tS μ24 ∧ ((nc16 ≤ mc ∧ ns16 ≤ ms) ∧ (Q (.inl none) μ24))))))) ∧ (r16 ≠ 0 → (∀ μ26, μ26 = tm_w μ16 4 6 0 → tS μ26 ∧ (tH mX2_next d mc ms (tq Q mc ms) 128 [(0, 2, 4)] [] μ26 nc16 ns16))))) (fun a => tT mX2_next d mc ms (tq Q mc ms) 117 [(0, 2, 4), (1, 0, r9)] a μ16 nc16 ns16))) ∧ (r13 ≠ 0 → tH mX2_next d mc ms (tq Q mc ms) 81 [(0, 2, 4)] [] μ13 nc13 ns13))) (fun a => tT mX2_next d mc ms (tq Q mc ms) 75 [(0, 2, 4), (1, 0, r9)] a μ13 nc13 ns13))) ∧ (r9 = -1 → (∀ μ27, μ27 = tm_w μ10 4 3 0 → tS μ27 ∧ ((nc9 ≤ mc ∧ ns9 ≤ ms) ∧ (Q (.inl none) μ27)))))))) (fun a => tT mX2_next d mc ms (tq Q mc ms) 52 [(0, 2, 4)] a μ9 nc9 ns9))))) ∧ (r5 = 10 → (∀ μ29, μ29 = tm_w μ5 4 5 (w32 ((tm_v μ5 4 5) + 1)) → tS μ29 ∧ (tH mX2_next d mc ms (tq Q mc ms) 0 [(0, 2, 4)] [] μ29 nc5 ns5))))) (fun a => tT mX2_next d mc ms (tq Q mc ms) 18 [(0, 2, 4)] a μ5 nc5 ns5))))) (fun a => tT mX2_next d mc ms (tq Q mc ms) 5 [(0, 2, 4)] a μ1 nc1 ns1))) :
    tH mX2_next d mc ms (tq Q mc ms) 0 [(0, 2, 4)] [] μ nc ns := by
  refine g_aload_n (q := 0) dX2_next_0 rfl rfl ?_
  refine g_aload_n (q := 0) dX2_next_1 rfl rfl ?_
  refine g_get 0 dX2_next_2 fX2_23 rfl (by decide) (sk_4 hs) ?_
  obtain ⟨_, _, _, k1, k2, k3, h⟩ := h
  refine g_callV (as := [(0, tm_v μ 4 5)]) (S := []) dX2_next_5 kX2_at q675 q677 qs6 (ci := 2) rfl (by decide) rfl rfl k1 (by decide) (sk_4 hs) k2 k3 (Nat.le_of_ble_eq_true rfl) (h.mono fun o1 μ1 q => rk_go q (fun r1 h => ?_) (fun a h => h))
  obtain ⟨hs, h⟩ := h
  refine g_bipush dX2_next_8 ⟨by decide, by decide, rfl⟩ ?_
  refine g_icmp_eq (tgt := 26) dX2_next_10 (by decide) (fun c2 => ?_) (fun c3 => ?_)
  · have h := h.1 c2
    refine g_aload_n (q := 0) dX2_next_26 rfl rfl ?_
    refine g_dup dX2_next_27 (by decide) ?_
    refine g_get 0 dX2_next_28 fX2_23 rfl (by decide) (sk_4 hs) ?_
    refine g_iconst dX2_next_31 (by decide) ?_
    refine g_iadd dX2_next_32 ?_
    refine g_put dX2_next_33 fX2_23 rfl (by decide) (sk_4 hs) (fun e => absurd e (by decide)) (p_r fun μ4 eμ4 => ?_)
    obtain ⟨hs, h⟩ := h μ4 eμ4
    refine g_goto (tgt := 0) dX2_next_36 (by decide) ?_
    exact h
  · have h := h.2 c3
    refine g_aload_n (q := 0) dX2_next_13 rfl rfl ?_
    refine g_aload_n (q := 0) dX2_next_14 rfl rfl ?_
    refine g_get 0 dX2_next_15 fX2_23 rfl (by decide) (sk_4 hs) ?_
    obtain ⟨_, _, _, k1, k2, k3, h⟩ := h
    refine g_callV (as := [(0, tm_v μ1 4 5)]) (S := []) dX2_next_18 kX2_at q675 q677 qs6 (ci := 2) rfl (by decide) rfl rfl k1 (by decide) (sk_4 hs) k2 k3 (Nat.le_of_ble_eq_true rfl) (h.mono fun o5 μ5 q => rk_go q (fun r5 h => ?_) (fun a h => h))
    obtain ⟨hs, h⟩ := h
    refine g_bipush dX2_next_21 ⟨by decide, by decide, rfl⟩ ?_
    refine g_icmp_ne (tgt := 39) dX2_next_23 (by decide) (fun c6 => ?_) (fun c7 => ?_)
    · have h := h.1 c6
      refine g_aload_n (q := 0) dX2_next_39 rfl rfl ?_
      refine g_aload_n (q := 0) dX2_next_40 rfl rfl ?_
      refine g_get 0 dX2_next_41 fX2_23 rfl (by decide) (sk_4 hs) ?_
      refine g_put dX2_next_44 fX2_30 rfl (by decide) (sk_4 hs) (fun e => absurd e (by decide)) (p_r fun μ8 eμ8 => ?_)
      obtain ⟨hs, h⟩ := h μ8 eμ8
      refine g_aload_n (q := 0) dX2_next_47 rfl rfl ?_
      refine g_aload_n (q := 0) dX2_next_48 rfl rfl ?_
      refine g_get 0 dX2_next_49 fX2_23 rfl (by decide) (sk_4 hs) ?_
      obtain ⟨_, _, _, k1, k2, k3, h⟩ := h
      refine g_callV (as := [(0, tm_v μ8 4 5)]) (S := []) dX2_next_52 kX2_at q675 q677 qs6 (ci := 2) rfl (by decide) rfl rfl k1 (by decide) (sk_4 hs) k2 k3 (Nat.le_of_ble_eq_true rfl) (h.mono fun o9 μ9 q => rk_go q (fun r9 h => ?_) (fun a h => h))
      obtain ⟨hs, h⟩ := h
      refine g_istore_n (L' := [(0, 2, 4), (1, 0, r9)]) dX2_next_55 rfl (by decide) [1, 0] rfl ?_
      refine g_aload_n (q := 0) dX2_next_56 rfl rfl ?_
      refine g_iload_n (q := 1) dX2_next_57 rfl rfl ?_
      refine g_put dX2_next_58 fX2_33 rfl (by decide) (sk_4 hs) (fun e => absurd e (by decide)) (p_r fun μ10 eμ10 => ?_)
      obtain ⟨hs, h⟩ := h μ10 eμ10
      refine g_iload_n (q := 1) dX2_next_61 rfl rfl ?_
      refine g_iconst dX2_next_62 (by decide) ?_
      refine g_icmp_ne (tgt := 74) dX2_next_63 (by decide) (fun c11 => ?_) (fun c12 => ?_)
      · have h := h.1 c11
        refine g_iload_n (q := 1) dX2_next_74 rfl rfl ?_
        obtain ⟨_, _, _, k1, k2, k3, h⟩ := h
        refine g_callS (as := [(0, r9)]) (S := []) dX2_next_75 kX2_isSmall q679 q680 rfl rfl k1 k2 k3 (Nat.le_of_ble_eq_true rfl) (h.mono fun o13 μ13 q => rk_go q (fun r13 h => ?_) (fun a h => h))
        obtain ⟨hs, h⟩ := h
        refine g_if_eq (tgt := 116) dX2_next_78 (by decide) (fun c14 => ?_) (fun c15 => ?_)
        · have h := h.1 c14
          refine g_iload_n (q := 1) dX2_next_116 rfl rfl ?_
          obtain ⟨_, _, _, k1, k2, k3, h⟩ := h
          refine g_callS (as := [(0, r9)]) (S := []) dX2_next_117 kX2_isDigit q682 q683 rfl rfl k1 k2 k3 (Nat.le_of_ble_eq_true rfl) (h.mono fun o16 μ16 q => rk_go q (fun r16 h => ?_) (fun a h => h))
          obtain ⟨hs, h⟩ := h
          refine g_if_eq (tgt := 209) dX2_next_120 (by decide) (fun c17 => ?_) (fun c18 => ?_)
          · have h := h.1 c17
            refine g_aload_n (q := 0) dX2_next_209 rfl rfl ?_
            refine g_dup dX2_next_210 (by decide) ?_
            refine g_get 0 dX2_next_211 fX2_23 rfl (by decide) (sk_4 hs) ?_
            refine g_iconst dX2_next_214 (by decide) ?_
            refine g_iadd dX2_next_215 ?_
            refine g_put dX2_next_216 fX2_23 rfl (by decide) (sk_4 hs) (fun e => absurd e (by decide)) (p_r fun μ19 eμ19 => ?_)
            obtain ⟨hs, h⟩ := h μ19 eμ19
            refine g_aload_n (q := 0) dX2_next_219 rfl rfl ?_
            refine g_iload_n (q := 1) dX2_next_220 rfl rfl ?_
            refine g_bipush dX2_next_221 ⟨by decide, by decide, rfl⟩ ?_
            refine g_icmp_ne (tgt := 230) dX2_next_223 (by decide) (fun c20 => ?_) (fun c21 => ?_)
            · have h := h.1 c20
              refine g_iconst dX2_next_230 (by decide) ?_
              refine g_put dX2_next_231 fX2_36 rfl (by decide) (sk_4 hs) (fun e => absurd e (by decide)) (p_r fun μ22 eμ22 => ?_)
              obtain ⟨hs, h⟩ := h μ22 eμ22
              obtain ⟨c23, h⟩ := h
              exact g_vret dX2_next_234 rfl c23.1 c23.2 h
            · have h := h.2 c21
              refine g_iconst dX2_next_226 (by decide) ?_
              refine g_goto (tgt := 231) dX2_next_227 (by decide) ?_
              refine g_put dX2_next_231 fX2_36 rfl (by decide) (sk_4 hs) (fun e => absurd e (by decide)) (p_r fun μ24 eμ24 => ?_)
              obtain ⟨hs, h⟩ := h μ24 eμ24
              obtain ⟨c25, h⟩ := h
              exact g_vret dX2_next_234 rfl c25.1 c25.2 h
          · have h := h.2 c18
            refine g_aload_n (q := 0) dX2_next_123 rfl rfl ?_
            refine g_iconst dX2_next_124 (by decide) ?_
            refine g_put dX2_next_125 fX2_33 rfl (by decide) (sk_4 hs) (fun e => absurd e (by decide)) (p_r fun μ26 eμ26 => ?_)
            obtain ⟨hs, h⟩ := h μ26 eμ26
            exact g_less [0] rfl h
        · have h := h.2 c15
          exact g_less [0] rfl h
      · have h := h.2 c12
        refine g_aload_n (q := 0) dX2_next_66 rfl rfl ?_
        refine g_iconst dX2_next_67 (by decide) ?_
        refine g_put dX2_next_68 fX2_36 rfl (by decide) (sk_4 hs) (fun e => absurd e (by decide)) (p_r fun μ27 eμ27 => ?_)
        obtain ⟨hs, h⟩ := h μ27 eμ27
        refine g_goto (tgt := 234) dX2_next_71 (by decide) ?_
        obtain ⟨c28, h⟩ := h
        exact g_vret dX2_next_234 rfl c28.1 c28.2 h
    · have h := h.2 c7
      refine g_aload_n (q := 0) dX2_next_26 rfl rfl ?_
      refine g_dup dX2_next_27 (by decide) ?_
      refine g_get 0 dX2_next_28 fX2_23 rfl (by decide) (sk_4 hs) ?_
      refine g_iconst dX2_next_31 (by decide) ?_
      refine g_iadd dX2_next_32 ?_
      refine g_put dX2_next_33 fX2_23 rfl (by decide) (sk_4 hs) (fun e => absurd e (by decide)) (p_r fun μ29 eμ29 => ?_)
      obtain ⟨hs, h⟩ := h μ29 eμ29
      refine g_goto (tgt := 0) dX2_next_36 (by decide) ?_
      exact h
theorem rX2_next_81 {d mc ms nc ns : Nat} {μ : tm_M} {Q : tQ} (hs : tS μ)
    (h : rcl mX2_at [(2, 4), (0, tm_v μ 4 5)] μ d mc ms nc ns (fun o1 μ1 nc1 ns1 => rk 0 o1 (fun r1 => tS μ1 ∧ (rcl mX2_isSmall [(0, r1)] μ1 d mc ms nc1 ns1 (fun o2 μ2 nc2 ns2 => rk 0 o2 (fun r2 => tS μ2 ∧ ((r2 = 0 → (∀ μ5, μ5 = tm_w μ2 4 3 2 → tS μ5 ∧ ((nc2 ≤ mc ∧ ns2 ≤ ms) ∧ (Q (.inl none) μ5)))) ∧ (r2 ≠ 0 → (∀ μ7, μ7 = tm_w μ2 4 5 (w32 ((tm_v μ2 4 5) + 1)) → tS μ7 ∧ (tH mX2_next d mc ms (tq Q mc ms) 81 [(0, 2, 4)] [] μ7 nc2 ns2))))) (fun a => tT mX2_next d mc ms (tq Q mc ms) 89 [(0, 2, 4)] a μ2 nc2 ns2)))) (fun a => tT mX2_next d mc ms (tq Q mc ms) 86 [(0, 2, 4)] a μ1 nc1 ns1))) :
    tH mX2_next d mc ms (tq Q mc ms) 81 [(0, 2, 4)] [] μ nc ns := by
  refine g_aload_n (q := 0) dX2_next_81 rfl rfl ?_
  refine g_aload_n (q := 0) dX2_next_82 rfl rfl ?_
  refine g_get 0 dX2_next_83 fX2_23 rfl (by decide) (sk_4 hs) ?_
  obtain ⟨_, _, _, k1, k2, k3, h⟩ := h
  refine g_callV (as := [(0, tm_v μ 4 5)]) (S := []) dX2_next_86 kX2_at q675 q677 qs6 (ci := 2) rfl (by decide) rfl rfl k1 (by decide) (sk_4 hs) k2 k3 (Nat.le_of_ble_eq_true rfl) (h.mono fun o1 μ1 q => rk_go q (fun r1 h => ?_) (fun a h => h))
  obtain ⟨hs, h⟩ := h
  obtain ⟨_, _, _, k1, k2, k3, h⟩ := h
  refine g_callS (as := [(0, r1)]) (S := []) dX2_next_89 kX2_isSmall q679 q680 rfl rfl k1 k2 k3 (Nat.le_of_ble_eq_true rfl) (h.mono fun o2 μ2 q => rk_go q (fun r2 h => ?_) (fun a h => h))
  obtain ⟨hs, h⟩ := h
  refine g_if_eq (tgt := 108) dX2_next_92 (by decide) (fun c3 => ?_) (fun c4 => ?_)
  · have h := h.1 c3
    refine g_aload_n (q := 0) dX2_next_108 rfl rfl ?_
    refine g_iconst dX2_next_109 (by decide) ?_
    refine g_put dX2_next_110 fX2_36 rfl (by decide) (sk_4 hs) (fun e => absurd e (by decide)) (p_r fun μ5 eμ5 => ?_)
    obtain ⟨hs, h⟩ := h μ5 eμ5
    refine g_goto (tgt := 234) dX2_next_113 (by decide) ?_
    obtain ⟨c6, h⟩ := h
    exact g_vret dX2_next_234 rfl c6.1 c6.2 h
  · have h := h.2 c4
    refine g_aload_n (q := 0) dX2_next_95 rfl rfl ?_
    refine g_dup dX2_next_96 (by decide) ?_
    refine g_get 0 dX2_next_97 fX2_23 rfl (by decide) (sk_4 hs) ?_
    refine g_iconst dX2_next_100 (by decide) ?_
    refine g_iadd dX2_next_101 ?_
    refine g_put dX2_next_102 fX2_23 rfl (by decide) (sk_4 hs) (fun e => absurd e (by decide)) (p_r fun μ7 eμ7 => ?_)
    obtain ⟨hs, h⟩ := h μ7 eμ7
    refine g_goto (tgt := 81) dX2_next_105 (by decide) ?_
    exact h
theorem rX2_next_128 {d mc ms nc ns : Nat} {μ : tm_M} {Q : tQ} (hs : tS μ)
    (h : rcl mX2_at [(2, 4), (0, tm_v μ 4 5)] μ d mc ms nc ns (fun o1 μ1 nc1 ns1 => rk 0 o1 (fun r1 => tS μ1 ∧ (rcl mX2_isDigit [(0, r1)] μ1 d mc ms nc1 ns1 (fun o2 μ2 nc2 ns2 => rk 0 o2 (fun r2 => tS μ2 ∧ ((r2 = 0 → (w32 ((tm_v μ2 4 5) - (tm_v μ2 4 4)) ≤ 2 → (∀ μ7, μ7 = tm_w μ2 4 3 3 → tS μ7 ∧ ((nc2 ≤ mc ∧ ns2 ≤ ms) ∧ (Q (.inl none) μ7)))) ∧ (2 < w32 ((tm_v μ2 4 5) - (tm_v μ2 4 4)) → (∀ μ9, μ9 = tm_w μ2 4 3 1 → tS μ9 ∧ ((nc2 ≤ mc ∧ ns2 ≤ ms) ∧ (Q (.inl none) μ9))))) ∧ (r2 ≠ 0 → rcl mX2_at [(2, 4), (0, tm_v μ2 4 5)] μ2 d mc ms nc2 ns2 (fun o11 μ11 nc11 ns11 => rk 0 o11 (fun r11 => tS μ11 ∧ (rcl mJ8_min [(0, 1000), (0, w32 ((w32 ((w32 (10 * (tm_v μ2 4 6))) + r11)) - 48))] μ11 d mc ms nc11 ns11 (fun o12 μ12 nc12 ns12 => rk 0 o12 (fun r12 => tS μ12 ∧ ((∀ μ13, μ13 = tm_w μ12 4 6 r12 → tS μ13 ∧ ((∀ μ14, μ14 = tm_w μ13 4 5 (w32 ((tm_v μ13 4 5) + 1)) → tS μ14 ∧ (tH mX2_next d mc ms (tq Q mc ms) 128 [(0, 2, 4)] [] μ14 nc12 ns12)))))) (fun a => tT mX2_next d mc ms (tq Q mc ms) 165 [(0, 2, 4)] a μ12 nc12 ns12)))) (fun a => tT mX2_next d mc ms (tq Q mc ms) 158 [(0, 2, 4)] a μ11 nc11 ns11))))) (fun a => tT mX2_next d mc ms (tq Q mc ms) 136 [(0, 2, 4)] a μ2 nc2 ns2)))) (fun a => tT mX2_next d mc ms (tq Q mc ms) 133 [(0, 2, 4)] a μ1 nc1 ns1))) :
    tH mX2_next d mc ms (tq Q mc ms) 128 [(0, 2, 4)] [] μ nc ns := by
  refine g_aload_n (q := 0) dX2_next_128 rfl rfl ?_
  refine g_aload_n (q := 0) dX2_next_129 rfl rfl ?_
  refine g_get 0 dX2_next_130 fX2_23 rfl (by decide) (sk_4 hs) ?_
  obtain ⟨_, _, _, k1, k2, k3, h⟩ := h
  refine g_callV (as := [(0, tm_v μ 4 5)]) (S := []) dX2_next_133 kX2_at q675 q677 qs6 (ci := 2) rfl (by decide) rfl rfl k1 (by decide) (sk_4 hs) k2 k3 (Nat.le_of_ble_eq_true rfl) (h.mono fun o1 μ1 q => rk_go q (fun r1 h => ?_) (fun a h => h))
  obtain ⟨hs, h⟩ := h
  obtain ⟨_, _, _, k1, k2, k3, h⟩ := h
  refine g_callS (as := [(0, r1)]) (S := []) dX2_next_136 kX2_isDigit q682 q683 rfl rfl k1 k2 k3 (Nat.le_of_ble_eq_true rfl) (h.mono fun o2 μ2 q => rk_go q (fun r2 h => ?_) (fun a h => h))
  obtain ⟨hs, h⟩ := h
  refine g_if_eq (tgt := 184) dX2_next_139 (by decide) (fun c3 => ?_) (fun c4 => ?_)
  · have h := h.1 c3
    refine g_aload_n (q := 0) dX2_next_184 rfl rfl ?_
    refine g_aload_n (q := 0) dX2_next_185 rfl rfl ?_
    refine g_get 0 dX2_next_186 fX2_23 rfl (by decide) (sk_4 hs) ?_
    refine g_aload_n (q := 0) dX2_next_189 rfl rfl ?_
    refine g_get 0 dX2_next_190 fX2_30 rfl (by decide) (sk_4 hs) ?_
    refine g_isub dX2_next_193 ?_
    refine g_iconst dX2_next_194 (by decide) ?_
    refine g_icmp_le (tgt := 202) dX2_next_195 (by decide) (fun c5 => ?_) (fun c6 => ?_)
    · have h := h.1 c5
      refine g_iconst dX2_next_202 (by decide) ?_
      refine g_put dX2_next_203 fX2_36 rfl (by decide) (sk_4 hs) (fun e => absurd e (by decide)) (p_r fun μ7 eμ7 => ?_)
      obtain ⟨hs, h⟩ := h μ7 eμ7
      refine g_goto (tgt := 234) dX2_next_206 (by decide) ?_
      obtain ⟨c8, h⟩ := h
      exact g_vret dX2_next_234 rfl c8.1 c8.2 h
    · have h := h.2 c6
      refine g_iconst dX2_next_198 (by decide) ?_
      refine g_goto (tgt := 203) dX2_next_199 (by decide) ?_
      refine g_put dX2_next_203 fX2_36 rfl (by decide) (sk_4 hs) (fun e => absurd e (by decide)) (p_r fun μ9 eμ9 => ?_)
      obtain ⟨hs, h⟩ := h μ9 eμ9
      refine g_goto (tgt := 234) dX2_next_206 (by decide) ?_
      obtain ⟨c10, h⟩ := h
      exact g_vret dX2_next_234 rfl c10.1 c10.2 h
  · have h := h.2 c4
    refine g_aload_n (q := 0) dX2_next_142 rfl rfl ?_
    refine g_sipush dX2_next_143 ⟨by decide, by decide, rfl⟩ ?_
    refine g_bipush dX2_next_146 ⟨by decide, by decide, rfl⟩ ?_
    refine g_aload_n (q := 0) dX2_next_148 rfl rfl ?_
    refine g_get 0 dX2_next_149 fX2_33 rfl (by decide) (sk_4 hs) ?_
    refine g_imul dX2_next_152 ?_
    refine g_aload_n (q := 0) dX2_next_153 rfl rfl ?_
    refine g_aload_n (q := 0) dX2_next_154 rfl rfl ?_
    refine g_get 0 dX2_next_155 fX2_23 rfl (by decide) (sk_4 hs) ?_
    obtain ⟨_, _, _, k1, k2, k3, h⟩ := h
    refine g_callV (as := [(0, tm_v μ2 4 5)]) (S := [(0, w32 (10 * (tm_v μ2 4 6))), (0, 1000), (2, 4)]) dX2_next_158 kX2_at q675 q677 qs6 (ci := 2) rfl (by decide) rfl rfl k1 (by decide) (sk_4 hs) k2 k3 (Nat.le_of_ble_eq_true rfl) (h.mono fun o11 μ11 q => rk_go q (fun r11 h => ?_) (fun a h => h))
    obtain ⟨hs, h⟩ := h
    refine g_iadd dX2_next_161 ?_
    refine g_bipush dX2_next_162 ⟨by decide, by decide, rfl⟩ ?_
    refine g_isub dX2_next_164 ?_
    obtain ⟨_, _, _, k1, k2, k3, h⟩ := h
    refine g_callS (as := [(0, 1000), (0, w32 ((w32 ((w32 (10 * (tm_v μ2 4 6))) + r11)) - 48))]) (S := [(2, 4)]) dX2_next_165 kJ8_min q685 q686 rfl rfl k1 k2 k3 (Nat.le_of_ble_eq_true rfl) (h.mono fun o12 μ12 q => rk_go q (fun r12 h => ?_) (fun a h => h))
    obtain ⟨hs, h⟩ := h
    refine g_put dX2_next_168 fX2_33 rfl (by decide) (sk_4 hs) (fun e => absurd e (by decide)) (p_r fun μ13 eμ13 => ?_)
    obtain ⟨hs, h⟩ := h μ13 eμ13
    refine g_aload_n (q := 0) dX2_next_171 rfl rfl ?_
    refine g_dup dX2_next_172 (by decide) ?_
    refine g_get 0 dX2_next_173 fX2_23 rfl (by decide) (sk_4 hs) ?_
    refine g_iconst dX2_next_176 (by decide) ?_
    refine g_iadd dX2_next_177 ?_
    refine g_put dX2_next_178 fX2_23 rfl (by decide) (sk_4 hs) (fun e => absurd e (by decide)) (p_r fun μ14 eμ14 => ?_)
    obtain ⟨hs, h⟩ := h μ14 eμ14
    refine g_goto (tgt := 128) dX2_next_181 (by decide) ?_
    exact h
theorem rX2_at_0 {d mc ms nc ns : Nat} {μ : tm_M} {Q : tQ} {v1 : Int} (hs : tS μ)
    (h : (tm_v μ 4 2 ≤ v1 → (nc ≤ mc ∧ ns ≤ ms) ∧ (Q (.inl (some (0, -1))) μ)) ∧ (v1 < tm_v μ 4 2 → (0 ≤ v1 ∧ v1 < 500) ∧ ((nc ≤ mc ∧ ns ≤ ms) ∧ (Q (.inl (some (0, i_and (tm_v μ 5 v1) 255))) μ)))) :
    tH mX2_at d mc ms (tq Q mc ms) 0 [(0, 2, 4), (1, 0, v1)] [] μ nc ns := by
  refine g_iload_n (q := 1) dX2_at_0 rfl rfl ?_
  refine g_aload_n (q := 0) dX2_at_1 rfl rfl ?_
  refine g_get 0 dX2_at_2 fX2_19 rfl (by decide) (sk_4 hs) ?_
  refine g_icmp_ge (tgt := 21) dX2_at_5 (by decide) (fun c1 => ?_) (fun c2 => ?_)
  · have h := h.1 c1
    refine g_iconst dX2_at_21 (by decide) ?_
    obtain ⟨c3, h⟩ := h
    exact g_iret dX2_at_22 rfl c3.1 c3.2 h
  · have h := h.2 c2
    refine g_aload_n (q := 0) dX2_at_8 rfl rfl ?_
    refine g_getC (x := 5) 2 dX2_at_9 fX2_9 rfl (by decide) (sk_4 hs) (sv_4_0 hs) ?_
    refine g_iload_n (q := 1) dX2_at_12 rfl rfl ?_
    obtain ⟨c4, h⟩ := h
    refine g_baload dX2_at_13 (by decide) (sk_5 hs) c4.1 (t_lt (sn_5 hs) c4.2) ?_
    refine g_sipush dX2_at_14 ⟨by decide, by decide, rfl⟩ ?_
    refine g_iand dX2_at_17 ?_
    refine g_goto (tgt := 22) dX2_at_18 (by decide) ?_
    obtain ⟨c5, h⟩ := h
    exact g_iret dX2_at_22 rfl c5.1 c5.2 h
theorem rX2_isSmall_0 {d mc ms nc ns : Nat} {μ : tm_M} {Q : tQ} {v0 : Int} (hs : tS μ)
    (h : (v0 < 97 → (nc ≤ mc ∧ ns ≤ ms) ∧ (Q (.inl (some (0, 0))) μ)) ∧ (97 ≤ v0 → (122 < v0 → (nc ≤ mc ∧ ns ≤ ms) ∧ (Q (.inl (some (0, 0))) μ)) ∧ (v0 ≤ 122 → (nc ≤ mc ∧ ns ≤ ms) ∧ (Q (.inl (some (0, 1))) μ)))) :
    tH mX2_isSmall d mc ms (tq Q mc ms) 0 [(0, 0, v0)] [] μ nc ns := by
  refine g_iload_n (q := 0) dX2_isSmall_0 rfl rfl ?_
  refine g_bipush dX2_isSmall_1 ⟨by decide, by decide, rfl⟩ ?_
  refine g_icmp_lt (tgt := 16) dX2_isSmall_3 (by decide) (fun c1 => ?_) (fun c2 => ?_)
  · have h := h.1 c1
    refine g_iconst dX2_isSmall_16 (by decide) ?_
    obtain ⟨c3, h⟩ := h
    exact g_zret dX2_isSmall_17 rfl (by decide) c3.1 c3.2 h
  · have h := h.2 c2
    refine g_iload_n (q := 0) dX2_isSmall_6 rfl rfl ?_
    refine g_bipush dX2_isSmall_7 ⟨by decide, by decide, rfl⟩ ?_
    refine g_icmp_gt (tgt := 16) dX2_isSmall_9 (by decide) (fun c4 => ?_) (fun c5 => ?_)
    · have h := h.1 c4
      refine g_iconst dX2_isSmall_16 (by decide) ?_
      obtain ⟨c6, h⟩ := h
      exact g_zret dX2_isSmall_17 rfl (by decide) c6.1 c6.2 h
    · have h := h.2 c5
      refine g_iconst dX2_isSmall_12 (by decide) ?_
      refine g_goto (tgt := 17) dX2_isSmall_13 (by decide) ?_
      obtain ⟨c7, h⟩ := h
      exact g_zret dX2_isSmall_17 rfl (by decide) c7.1 c7.2 h
theorem rX2_isDigit_0 {d mc ms nc ns : Nat} {μ : tm_M} {Q : tQ} {v0 : Int} (hs : tS μ)
    (h : (v0 < 48 → (nc ≤ mc ∧ ns ≤ ms) ∧ (Q (.inl (some (0, 0))) μ)) ∧ (48 ≤ v0 → (57 < v0 → (nc ≤ mc ∧ ns ≤ ms) ∧ (Q (.inl (some (0, 0))) μ)) ∧ (v0 ≤ 57 → (nc ≤ mc ∧ ns ≤ ms) ∧ (Q (.inl (some (0, 1))) μ)))) :
    tH mX2_isDigit d mc ms (tq Q mc ms) 0 [(0, 0, v0)] [] μ nc ns := by
  refine g_iload_n (q := 0) dX2_isDigit_0 rfl rfl ?_
  refine g_bipush dX2_isDigit_1 ⟨by decide, by decide, rfl⟩ ?_
  refine g_icmp_lt (tgt := 16) dX2_isDigit_3 (by decide) (fun c1 => ?_) (fun c2 => ?_)
  · have h := h.1 c1
    refine g_iconst dX2_isDigit_16 (by decide) ?_
    obtain ⟨c3, h⟩ := h
    exact g_zret dX2_isDigit_17 rfl (by decide) c3.1 c3.2 h
  · have h := h.2 c2
    refine g_iload_n (q := 0) dX2_isDigit_6 rfl rfl ?_
    refine g_bipush dX2_isDigit_7 ⟨by decide, by decide, rfl⟩ ?_
    refine g_icmp_gt (tgt := 16) dX2_isDigit_9 (by decide) (fun c4 => ?_) (fun c5 => ?_)
    · have h := h.1 c4
      refine g_iconst dX2_isDigit_16 (by decide) ?_
      obtain ⟨c6, h⟩ := h
      exact g_zret dX2_isDigit_17 rfl (by decide) c6.1 c6.2 h
    · have h := h.2 c5
      refine g_iconst dX2_isDigit_12 (by decide) ?_
      refine g_goto (tgt := 17) dX2_isDigit_13 (by decide) ?_
      obtain ⟨c7, h⟩ := h
      exact g_zret dX2_isDigit_17 rfl (by decide) c7.1 c7.2 h
theorem rX2_part_0 {d mc ms nc ns : Nat} {μ : tm_M} {Q : tQ} (hs : tS μ)
    (h : rcl mX2_key [(2, 4)] μ d mc ms nc ns (fun o1 μ1 nc1 ns1 => rk 0 o1 (fun r1 => tS μ1 ∧ ((r1 < 0 → rcl mX2_need [(2, 4), (0, 0)] μ1 d mc ms nc1 ns1 (fun o4 μ4 nc4 ns4 => rkV o4 (tS μ4 ∧ ((r1 < 2 → tH mX2_part d mc ms (tq Q mc ms) 46 [(0, 2, 4), (1, 0, r1)] [] μ4 nc4 ns4) ∧ (2 ≤ r1 → (i_and (i_shr (tm_v μ4 4 7) r1) 1 ≠ 1 → tH mX2_part d mc ms (tq Q mc ms) 46 [(0, 2, 4), (1, 0, r1)] [] μ4 nc4 ns4) ∧ (i_and (i_shr (tm_v μ4 4 7) r1) 1 = 1 → rcl mX2_fail [(2, 4), (0, 5)] μ4 d mc ms nc4 ns4 (fun o9 μ9 nc9 ns9 => rk 2 o9 (fun r9 => tS μ9 ∧ ((1 ≤ r9 ∧ tm_k μ9 r9 = 1) ∧ (tT mX2_part d mc ms (tq Q mc ms) 45 [(0, 2, 4), (1, 0, r1)] r9 μ9 nc9 ns9))) (fun a => tT mX2_part d mc ms (tq Q mc ms) 42 [(0, 2, 4), (1, 0, r1)] a μ9 nc9 ns9)))))) (fun a => tT mX2_part d mc ms (tq Q mc ms) 20 [(0, 2, 4), (1, 0, r1)] a μ4 nc4 ns4))) ∧ (0 ≤ r1 → (4 < r1 → rcl mX2_need [(2, 4), (0, 0)] μ1 d mc ms nc1 ns1 (fun o13 μ13 nc13 ns13 => rkV o13 (tS μ13 ∧ ((r1 < 2 → tH mX2_part d mc ms (tq Q mc ms) 46 [(0, 2, 4), (1, 0, r1)] [] μ13 nc13 ns13) ∧ (2 ≤ r1 → (i_and (i_shr (tm_v μ13 4 7) r1) 1 ≠ 1 → tH mX2_part d mc ms (tq Q mc ms) 46 [(0, 2, 4), (1, 0, r1)] [] μ13 nc13 ns13) ∧ (i_and (i_shr (tm_v μ13 4 7) r1) 1 = 1 → rcl mX2_fail [(2, 4), (0, 5)] μ13 d mc ms nc13 ns13 (fun o18 μ18 nc18 ns18 => rk 2 o18 (fun r18 => tS μ18 ∧ ((1 ≤ r18 ∧ tm_k μ18 r18 = 1) ∧ (tT mX2_part d mc ms (tq Q mc ms) 45 [(0, 2, 4), (1, 0, r1)] r18 μ18 nc18 ns18))) (fun a => tT mX2_part d mc ms (tq Q mc ms) 42 [(0, 2, 4), (1, 0, r1)] a μ18 nc18 ns18)))))) (fun a => tT mX2_part d mc ms (tq Q mc ms) 20 [(0, 2, 4), (1, 0, r1)] a μ13 nc13 ns13))) ∧ (r1 ≤ 4 → rcl mX2_need [(2, 4), (0, 1)] μ1 d mc ms nc1 ns1 (fun o20 μ20 nc20 ns20 => rkV o20 (tS μ20 ∧ ((r1 < 2 → tH mX2_part d mc ms (tq Q mc ms) 46 [(0, 2, 4), (1, 0, r1)] [] μ20 nc20 ns20) ∧ (2 ≤ r1 → (i_and (i_shr (tm_v μ20 4 7) r1) 1 ≠ 1 → tH mX2_part d mc ms (tq Q mc ms) 46 [(0, 2, 4), (1, 0, r1)] [] μ20 nc20 ns20) ∧ (i_and (i_shr (tm_v μ20 4 7) r1) 1 = 1 → rcl mX2_fail [(2, 4), (0, 5)] μ20 d mc ms nc20 ns20 (fun o25 μ25 nc25 ns25 => rk 2 o25 (fun r25 => tS μ25 ∧ ((1 ≤ r25 ∧ tm_k μ25 r25 = 1) ∧ (tT mX2_part d mc ms (tq Q mc ms) 45 [(0, 2, 4), (1, 0, r1)] r25 μ25 nc25 ns25))) (fun a => tT mX2_part d mc ms (tq Q mc ms) 42 [(0, 2, 4), (1, 0, r1)] a μ25 nc25 ns25)))))) (fun a => tT mX2_part d mc ms (tq Q mc ms) 20 [(0, 2, 4), (1, 0, r1)] a μ20 nc20 ns20)))))) (fun a => tT mX2_part d mc ms (tq Q mc ms) 1 [(0, 2, 4)] a μ1 nc1 ns1))) :
    tH mX2_part d mc ms (tq Q mc ms) 0 [(0, 2, 4)] [] μ nc ns := by
  refine g_aload_n (q := 0) dX2_part_0 rfl rfl ?_
  obtain ⟨_, _, _, k1, k2, k3, h⟩ := h
  refine g_callV (as := []) (S := []) dX2_part_1 kX2_key q692 q694 qs8 (ci := 2) rfl (by decide) rfl rfl k1 (by decide) (sk_4 hs) k2 k3 (Nat.le_of_ble_eq_true rfl) (h.mono fun o1 μ1 q => rk_go q (fun r1 h => ?_) (fun a h => h))
  obtain ⟨hs, h⟩ := h
  refine g_istore_n (L' := [(0, 2, 4), (1, 0, r1)]) dX2_part_4 rfl (by decide) [1, 0] rfl ?_
  refine g_aload_n (q := 0) dX2_part_5 rfl rfl ?_
  refine g_iload_n (q := 1) dX2_part_6 rfl rfl ?_
  refine g_if_lt (tgt := 19) dX2_part_7 (by decide) (fun c2 => ?_) (fun c3 => ?_)
  · have h := h.1 c2
    refine g_iconst dX2_part_19 (by decide) ?_
    obtain ⟨_, _, _, k1, k2, k3, h⟩ := h
    refine g_callV (as := [(0, 0)]) (S := []) dX2_part_20 kX2_need q749 q751 qs10 (ci := 2) rfl (by decide) rfl rfl k1 (by decide) (sk_4 hs) k2 k3 (Nat.le_of_ble_eq_true rfl) (h.mono fun o4 μ4 q => rk_goV q (fun h => ?_) (fun a h => h))
    obtain ⟨hs, h⟩ := h
    refine g_iload_n (q := 1) dX2_part_23 rfl rfl ?_
    refine g_iconst dX2_part_24 (by decide) ?_
    refine g_icmp_lt (tgt := 46) dX2_part_25 (by decide) (fun c5 => ?_) (fun c6 => ?_)
    · have h := h.1 c5
      exact h
    · have h := h.2 c6
      refine g_aload_n (q := 0) dX2_part_28 rfl rfl ?_
      refine g_get 0 dX2_part_29 fX2_88 rfl (by decide) (sk_4 hs) ?_
      refine g_iload_n (q := 1) dX2_part_32 rfl rfl ?_
      refine g_ishr dX2_part_33 ?_
      refine g_iconst dX2_part_34 (by decide) ?_
      refine g_iand dX2_part_35 ?_
      refine g_iconst dX2_part_36 (by decide) ?_
      refine g_icmp_ne (tgt := 46) dX2_part_37 (by decide) (fun c7 => ?_) (fun c8 => ?_)
      · have h := h.1 c7
        exact h
      · have h := h.2 c8
        refine g_aload_n (q := 0) dX2_part_40 rfl rfl ?_
        refine g_iconst dX2_part_41 (by decide) ?_
        obtain ⟨_, _, _, k1, k2, k3, h⟩ := h
        refine g_callV (as := [(0, 5)]) (S := []) dX2_part_42 kX2_fail q753 q755 qs11 (ci := 2) rfl (by decide) rfl rfl k1 (by decide) (sk_4 hs) k2 k3 (Nat.le_of_ble_eq_true rfl) (h.mono fun o9 μ9 q => rk_go q (fun r9 h => ?_) (fun a h => h))
        obtain ⟨hs, h⟩ := h
        obtain ⟨c10, h⟩ := h
        exact g_athrow dX2_part_45 c10.1 c10.2 h
  · have h := h.2 c3
    refine g_iload_n (q := 1) dX2_part_10 rfl rfl ?_
    refine g_iconst dX2_part_11 (by decide) ?_
    refine g_icmp_gt (tgt := 19) dX2_part_12 (by decide) (fun c11 => ?_) (fun c12 => ?_)
    · have h := h.1 c11
      refine g_iconst dX2_part_19 (by decide) ?_
      obtain ⟨_, _, _, k1, k2, k3, h⟩ := h
      refine g_callV (as := [(0, 0)]) (S := []) dX2_part_20 kX2_need q749 q751 qs10 (ci := 2) rfl (by decide) rfl rfl k1 (by decide) (sk_4 hs) k2 k3 (Nat.le_of_ble_eq_true rfl) (h.mono fun o13 μ13 q => rk_goV q (fun h => ?_) (fun a h => h))
      obtain ⟨hs, h⟩ := h
      refine g_iload_n (q := 1) dX2_part_23 rfl rfl ?_
      refine g_iconst dX2_part_24 (by decide) ?_
      refine g_icmp_lt (tgt := 46) dX2_part_25 (by decide) (fun c14 => ?_) (fun c15 => ?_)
      · have h := h.1 c14
        exact h
      · have h := h.2 c15
        refine g_aload_n (q := 0) dX2_part_28 rfl rfl ?_
        refine g_get 0 dX2_part_29 fX2_88 rfl (by decide) (sk_4 hs) ?_
        refine g_iload_n (q := 1) dX2_part_32 rfl rfl ?_
        refine g_ishr dX2_part_33 ?_
        refine g_iconst dX2_part_34 (by decide) ?_
        refine g_iand dX2_part_35 ?_
        refine g_iconst dX2_part_36 (by decide) ?_
        refine g_icmp_ne (tgt := 46) dX2_part_37 (by decide) (fun c16 => ?_) (fun c17 => ?_)
        · have h := h.1 c16
          exact h
        · have h := h.2 c17
          refine g_aload_n (q := 0) dX2_part_40 rfl rfl ?_
          refine g_iconst dX2_part_41 (by decide) ?_
          obtain ⟨_, _, _, k1, k2, k3, h⟩ := h
          refine g_callV (as := [(0, 5)]) (S := []) dX2_part_42 kX2_fail q753 q755 qs11 (ci := 2) rfl (by decide) rfl rfl k1 (by decide) (sk_4 hs) k2 k3 (Nat.le_of_ble_eq_true rfl) (h.mono fun o18 μ18 q => rk_go q (fun r18 h => ?_) (fun a h => h))
          obtain ⟨hs, h⟩ := h
          obtain ⟨c19, h⟩ := h
          exact g_athrow dX2_part_45 c19.1 c19.2 h
    · have h := h.2 c12
      refine g_iconst dX2_part_15 (by decide) ?_
      refine g_goto (tgt := 20) dX2_part_16 (by decide) ?_
      obtain ⟨_, _, _, k1, k2, k3, h⟩ := h
      refine g_callV (as := [(0, 1)]) (S := []) dX2_part_20 kX2_need q749 q751 qs10 (ci := 2) rfl (by decide) rfl rfl k1 (by decide) (sk_4 hs) k2 k3 (Nat.le_of_ble_eq_true rfl) (h.mono fun o20 μ20 q => rk_goV q (fun h => ?_) (fun a h => h))
      obtain ⟨hs, h⟩ := h
      refine g_iload_n (q := 1) dX2_part_23 rfl rfl ?_
      refine g_iconst dX2_part_24 (by decide) ?_
      refine g_icmp_lt (tgt := 46) dX2_part_25 (by decide) (fun c21 => ?_) (fun c22 => ?_)
      · have h := h.1 c21
        exact h
      · have h := h.2 c22
        refine g_aload_n (q := 0) dX2_part_28 rfl rfl ?_
        refine g_get 0 dX2_part_29 fX2_88 rfl (by decide) (sk_4 hs) ?_
        refine g_iload_n (q := 1) dX2_part_32 rfl rfl ?_
        refine g_ishr dX2_part_33 ?_
        refine g_iconst dX2_part_34 (by decide) ?_
        refine g_iand dX2_part_35 ?_
        refine g_iconst dX2_part_36 (by decide) ?_
        refine g_icmp_ne (tgt := 46) dX2_part_37 (by decide) (fun c23 => ?_) (fun c24 => ?_)
        · have h := h.1 c23
          exact h
        · have h := h.2 c24
          refine g_aload_n (q := 0) dX2_part_40 rfl rfl ?_
          refine g_iconst dX2_part_41 (by decide) ?_
          obtain ⟨_, _, _, k1, k2, k3, h⟩ := h
          refine g_callV (as := [(0, 5)]) (S := []) dX2_part_42 kX2_fail q753 q755 qs11 (ci := 2) rfl (by decide) rfl rfl k1 (by decide) (sk_4 hs) k2 k3 (Nat.le_of_ble_eq_true rfl) (h.mono fun o25 μ25 q => rk_go q (fun r25 h => ?_) (fun a h => h))
          obtain ⟨hs, h⟩ := h
          obtain ⟨c26, h⟩ := h
          exact g_athrow dX2_part_45 c26.1 c26.2 h
theorem rX2_part_46 {d mc ms nc ns : Nat} {μ : tm_M} {Q : tQ} {v1 : Int} (hs : tS μ)
    (h : (v1 < 2 → tH mX2_part d mc ms (tq Q mc ms) 63 [(0, 2, 4), (1, 0, v1)] [] μ nc ns) ∧ (2 ≤ v1 → (∀ μ3, μ3 = tm_w μ 4 7 (i_or (tm_v μ 4 7) (i_shl 1 v1)) → tS μ3 ∧ (tH mX2_part d mc ms (tq Q mc ms) 63 [(0, 2, 4), (1, 0, v1)] [] μ3 nc ns)))) :
    tH mX2_part d mc ms (tq Q mc ms) 46 [(0, 2, 4), (1, 0, v1)] [] μ nc ns := by
  refine g_iload_n (q := 1) dX2_part_46 rfl rfl ?_
  refine g_iconst dX2_part_47 (by decide) ?_
  refine g_icmp_lt (tgt := 63) dX2_part_48 (by decide) (fun c1 => ?_) (fun c2 => ?_)
  · have h := h.1 c1
    exact h
  · have h := h.2 c2
    refine g_aload_n (q := 0) dX2_part_51 rfl rfl ?_
    refine g_dup dX2_part_52 (by decide) ?_
    refine g_get 0 dX2_part_53 fX2_88 rfl (by decide) (sk_4 hs) ?_
    refine g_iconst dX2_part_56 (by decide) ?_
    refine g_iload_n (q := 1) dX2_part_57 rfl rfl ?_
    refine g_ishl dX2_part_58 ?_
    refine g_ior dX2_part_59 ?_
    refine g_put dX2_part_60 fX2_88 rfl (by decide) (sk_4 hs) (fun e => absurd e (by decide)) (p_r fun μ3 eμ3 => ?_)
    obtain ⟨hs, h⟩ := h μ3 eμ3
    exact h
theorem rX2_part_63 {d mc ms nc ns : Nat} {μ : tm_M} {Q : tQ} {v1 : Int} (hs : tS μ)
    (h : (v1 ≠ 1 → tH mX2_part d mc ms (tq Q mc ms) 87 [(0, 2, 4), (1, 0, v1)] [] μ nc ns) ∧ (v1 = 1 → (1 ≤ tm_v μ 4 8 ∧ tm_k μ (tm_v μ 4 8) = 4) ∧ ((tm_v μ (tm_v μ 4 8) 3 ≠ 12 → tH mX2_part d mc ms (tq Q mc ms) 87 [(0, 2, 4), (1, 0, v1)] [] μ nc ns) ∧ (tm_v μ (tm_v μ 4 8) 3 = 12 → rcl mX2_fail [(2, 4), (0, 6)] μ d mc ms nc ns (fun o6 μ6 nc6 ns6 => rk 2 o6 (fun r6 => tS μ6 ∧ ((1 ≤ r6 ∧ tm_k μ6 r6 = 1) ∧ (tT mX2_part d mc ms (tq Q mc ms) 86 [(0, 2, 4), (1, 0, v1)] r6 μ6 nc6 ns6))) (fun a => tT mX2_part d mc ms (tq Q mc ms) 83 [(0, 2, 4), (1, 0, v1)] a μ6 nc6 ns6)))))) :
    tH mX2_part d mc ms (tq Q mc ms) 63 [(0, 2, 4), (1, 0, v1)] [] μ nc ns := by
  refine g_iload_n (q := 1) dX2_part_63 rfl rfl ?_
  refine g_iconst dX2_part_64 (by decide) ?_
  refine g_icmp_ne (tgt := 87) dX2_part_65 (by decide) (fun c1 => ?_) (fun c2 => ?_)
  · have h := h.1 c1
    exact h
  · have h := h.2 c2
    refine g_aload_n (q := 0) dX2_part_68 rfl rfl ?_
    refine g_get 2 dX2_part_69 fX2_94 rfl (by decide) (sk_4 hs) ?_
    obtain ⟨c3, h⟩ := h
    refine g_get 0 dX2_part_72 fX2_101 rfl c3.1 c3.2 ?_
    refine g_bipush dX2_part_75 ⟨by decide, by decide, rfl⟩ ?_
    refine g_icmp_ne (tgt := 87) dX2_part_77 (by decide) (fun c4 => ?_) (fun c5 => ?_)
    · have h := h.1 c4
      exact h
    · have h := h.2 c5
      refine g_aload_n (q := 0) dX2_part_80 rfl rfl ?_
      refine g_bipush dX2_part_81 ⟨by decide, by decide, rfl⟩ ?_
      obtain ⟨_, _, _, k1, k2, k3, h⟩ := h
      refine g_callV (as := [(0, 6)]) (S := []) dX2_part_83 kX2_fail q753 q755 qs11 (ci := 2) rfl (by decide) rfl rfl k1 (by decide) (sk_4 hs) k2 k3 (Nat.le_of_ble_eq_true rfl) (h.mono fun o6 μ6 q => rk_go q (fun r6 h => ?_) (fun a h => h))
      obtain ⟨hs, h⟩ := h
      obtain ⟨c7, h⟩ := h
      exact g_athrow dX2_part_86 c7.1 c7.2 h
theorem rX2_part_87 {d mc ms nc ns : Nat} {μ : tm_M} {Q : tQ} {v1 : Int} (hs : tS μ)
    (h : rcl mX2_next [(2, 4)] μ d mc ms nc ns (fun o1 μ1 nc1 ns1 => rkV o1 (tS μ1 ∧ ((v1 = 0 → rcl mX2_aPlace [(2, 4)] μ1 d mc ms nc1 ns1 (fun o3 μ3 nc3 ns3 => rkV o3 (tS μ3 ∧ (tH mX2_part d mc ms (tq Q mc ms) 178 [] [] μ3 nc3 ns3)) (fun a => tT mX2_part d mc ms (tq Q mc ms) 125 [(0, 2, 4), (1, 0, v1)] a μ3 nc3 ns3))) ∧ ((v1 = 1 → rcl mX2_aLane [(2, 4)] μ1 d mc ms nc1 ns1 (fun o5 μ5 nc5 ns5 => rkV o5 (tS μ5 ∧ (tH mX2_part d mc ms (tq Q mc ms) 178 [] [] μ5 nc5 ns5)) (fun a => tT mX2_part d mc ms (tq Q mc ms) 132 [(0, 2, 4), (1, 0, v1)] a μ5 nc5 ns5))) ∧ ((v1 = 2 → (1 ≤ tm_v μ1 4 8 ∧ tm_k μ1 (tm_v μ1 4 8) = 4) ∧ ((∀ μ8, μ8 = tm_w μ1 (tm_v μ1 4 8) 6 1 → tS μ8 ∧ (tH mX2_part d mc ms (tq Q mc ms) 178 [] [] μ8 nc1 ns1)))) ∧ ((v1 = 3 → rcl mX2_passed [(2, 4), (0, 1), (0, 4)] μ1 d mc ms nc1 ns1 (fun o10 μ10 nc10 ns10 => rk 0 o10 (fun r10 => tS μ10 ∧ ((1 ≤ tm_v μ1 4 8 ∧ tm_k μ10 (tm_v μ1 4 8) = 4) ∧ ((∀ μ12, μ12 = tm_w μ10 (tm_v μ1 4 8) 4 r10 → tS μ12 ∧ (tH mX2_part d mc ms (tq Q mc ms) 178 [] [] μ12 nc10 ns10))))) (fun a => tT mX2_part d mc ms (tq Q mc ms) 156 [(0, 2, 4), (1, 0, v1)] a μ10 nc10 ns10))) ∧ ((v1 < 0 ∨ 3 < v1 → rcl mX2_passed [(2, 4), (0, 0), (0, 3)] μ1 d mc ms nc1 ns1 (fun o13 μ13 nc13 ns13 => rk 0 o13 (fun r13 => tS μ13 ∧ ((1 ≤ tm_v μ1 4 8 ∧ tm_k μ13 (tm_v μ1 4 8) = 4) ∧ ((∀ μ15, μ15 = tm_w μ13 (tm_v μ1 4 8) 5 r13 → tS μ15 ∧ (tH mX2_part d mc ms (tq Q mc ms) 178 [] [] μ15 nc13 ns13))))) (fun a => tT mX2_part d mc ms (tq Q mc ms) 172 [(0, 2, 4), (1, 0, v1)] a μ13 nc13 ns13))))))))) (fun a => tT mX2_part d mc ms (tq Q mc ms) 88 [(0, 2, 4), (1, 0, v1)] a μ1 nc1 ns1))) :
    tH mX2_part d mc ms (tq Q mc ms) 87 [(0, 2, 4), (1, 0, v1)] [] μ nc ns := by
  refine g_aload_n (q := 0) dX2_part_87 rfl rfl ?_
  obtain ⟨_, _, _, k1, k2, k3, h⟩ := h
  refine g_callV (as := []) (S := []) dX2_part_88 kX2_next q671 q673 qs5 (ci := 2) rfl (by decide) rfl rfl k1 (by decide) (sk_4 hs) k2 k3 (Nat.le_of_ble_eq_true rfl) (h.mono fun o1 μ1 q => rk_goV q (fun h => ?_) (fun a h => h))
  obtain ⟨hs, h⟩ := h
  refine g_iload_n (q := 1) dX2_part_91 rfl rfl ?_
  by_cases c2 : v1 = 0
  · have h := h.1 c2
    refine g_tswI (tgt := 124) dX2_part_92 (by omega) (by omega) (by rw [c2]; rfl) (by decide) ?_
    refine g_aload_n (q := 0) dX2_part_124 rfl rfl ?_
    obtain ⟨_, _, _, k1, k2, k3, h⟩ := h
    refine g_callV (as := []) (S := []) dX2_part_125 kX2_aPlace q761 q763 qs12 (ci := 2) rfl (by decide) rfl rfl k1 (by decide) (sk_4 hs) k2 k3 (Nat.le_of_ble_eq_true rfl) (h.mono fun o3 μ3 q => rk_goV q (fun h => ?_) (fun a h => h))
    obtain ⟨hs, h⟩ := h
    refine g_goto (tgt := 178) dX2_part_128 (by decide) ?_
    exact g_less [] rfl h
  have h := h.2
  by_cases c4 : v1 = 1
  · have h := h.1 c4
    refine g_tswI (tgt := 131) dX2_part_92 (by omega) (by omega) (by rw [c4]; rfl) (by decide) ?_
    refine g_aload_n (q := 0) dX2_part_131 rfl rfl ?_
    obtain ⟨_, _, _, k1, k2, k3, h⟩ := h
    refine g_callV (as := []) (S := []) dX2_part_132 kX2_aLane q819 q821 qs15 (ci := 2) rfl (by decide) rfl rfl k1 (by decide) (sk_4 hs) k2 k3 (Nat.le_of_ble_eq_true rfl) (h.mono fun o5 μ5 q => rk_goV q (fun h => ?_) (fun a h => h))
    obtain ⟨hs, h⟩ := h
    refine g_goto (tgt := 178) dX2_part_135 (by decide) ?_
    exact g_less [] rfl h
  have h := h.2
  by_cases c6 : v1 = 2
  · have h := h.1 c6
    refine g_tswI (tgt := 138) dX2_part_92 (by omega) (by omega) (by rw [c6]; rfl) (by decide) ?_
    refine g_aload_n (q := 0) dX2_part_138 rfl rfl ?_
    refine g_get 2 dX2_part_139 fX2_94 rfl (by decide) (sk_4 hs) ?_
    refine g_iconst dX2_part_142 (by decide) ?_
    obtain ⟨c7, h⟩ := h
    refine g_put dX2_part_143 fX2_110 rfl c7.1 c7.2 (fun _ => by decide) (p_r fun μ8 eμ8 => ?_)
    obtain ⟨hs, h⟩ := h μ8 eμ8
    refine g_goto (tgt := 178) dX2_part_146 (by decide) ?_
    exact g_less [] rfl h
  have h := h.2
  by_cases c9 : v1 = 3
  · have h := h.1 c9
    refine g_tswI (tgt := 149) dX2_part_92 (by omega) (by omega) (by rw [c9]; rfl) (by decide) ?_
    refine g_aload_n (q := 0) dX2_part_149 rfl rfl ?_
    refine g_get 2 dX2_part_150 fX2_94 rfl (by decide) (sk_4 hs) ?_
    refine g_aload_n (q := 0) dX2_part_153 rfl rfl ?_
    refine g_iconst dX2_part_154 (by decide) ?_
    refine g_iconst dX2_part_155 (by decide) ?_
    obtain ⟨_, _, _, k1, k2, k3, h⟩ := h
    refine g_callV (as := [(0, 1), (0, 4)]) (S := [(2, tm_v μ1 4 8)]) dX2_part_156 kX2_passed q815 q817 qs14 (ci := 2) rfl (by decide) rfl rfl k1 (by decide) (sk_4 hs) k2 k3 (Nat.le_of_ble_eq_true rfl) (h.mono fun o10 μ10 q => rk_go q (fun r10 h => ?_) (fun a h => h))
    obtain ⟨hs, h⟩ := h
    obtain ⟨c11, h⟩ := h
    refine g_put dX2_part_159 fX2_117 rfl c11.1 c11.2 (fun e => absurd e (by decide)) (p_r fun μ12 eμ12 => ?_)
    obtain ⟨hs, h⟩ := h μ12 eμ12
    refine g_goto (tgt := 178) dX2_part_162 (by decide) ?_
    exact g_less [] rfl h
  have h := h.2
  have h := h (by omega)
  refine g_tswO (tgt := 165) dX2_part_92 (by omega) (by decide) ?_
  refine g_aload_n (q := 0) dX2_part_165 rfl rfl ?_
  refine g_get 2 dX2_part_166 fX2_94 rfl (by decide) (sk_4 hs) ?_
  refine g_aload_n (q := 0) dX2_part_169 rfl rfl ?_
  refine g_iconst dX2_part_170 (by decide) ?_
  refine g_iconst dX2_part_171 (by decide) ?_
  obtain ⟨_, _, _, k1, k2, k3, h⟩ := h
  refine g_callV (as := [(0, 0), (0, 3)]) (S := [(2, tm_v μ1 4 8)]) dX2_part_172 kX2_passed q815 q817 qs14 (ci := 2) rfl (by decide) rfl rfl k1 (by decide) (sk_4 hs) k2 k3 (Nat.le_of_ble_eq_true rfl) (h.mono fun o13 μ13 q => rk_go q (fun r13 h => ?_) (fun a h => h))
  obtain ⟨hs, h⟩ := h
  obtain ⟨c14, h⟩ := h
  refine g_put dX2_part_175 fX2_120 rfl c14.1 c14.2 (fun e => absurd e (by decide)) (p_r fun μ15 eμ15 => ?_)
  obtain ⟨hs, h⟩ := h μ15 eμ15
  exact g_less [] rfl h
theorem rX2_part_178 {d mc ms nc ns : Nat} {μ : tm_M} {Q : tQ} (hs : tS μ)
    (h : (nc ≤ mc ∧ ns ≤ ms) ∧ (Q (.inl none) μ)) :
    tH mX2_part d mc ms (tq Q mc ms) 178 [] [] μ nc ns := by
  obtain ⟨c1, h⟩ := h
  exact g_vret dX2_part_178 rfl c1.1 c1.2 h
theorem rX2_key_0 {d mc ms nc ns : Nat} {μ : tm_M} {Q : tQ} (hs : tS μ)
    (h : (tm_v μ 4 3 = 2 → tH mX2_key d mc ms (tq Q mc ms) 14 [(0, 2, 4), (1, 0, 0), (2, 0, 1)] [] μ nc ns) ∧ (tm_v μ 4 3 ≠ 2 → (nc ≤ mc ∧ ns ≤ ms) ∧ (Q (.inl (some (0, -1))) μ))) :
    tH mX2_key d mc ms (tq Q mc ms) 0 [(0, 2, 4)] [] μ nc ns := by
  refine g_aload_n (q := 0) dX2_key_0 rfl rfl ?_
  refine g_get 0 dX2_key_1 fX2_36 rfl (by decide) (sk_4 hs) ?_
  refine g_iconst dX2_key_4 (by decide) ?_
  refine g_icmp_eq (tgt := 10) dX2_key_5 (by decide) (fun c1 => ?_) (fun c2 => ?_)
  · have h := h.1 c1
    refine g_iconst dX2_key_10 (by decide) ?_
    refine g_istore_n (L' := [(0, 2, 4), (1, 0, 0)]) dX2_key_11 rfl (by decide) [1, 0] rfl ?_
    refine g_iconst dX2_key_12 (by decide) ?_
    refine g_istore_n (L' := [(0, 2, 4), (1, 0, 0), (2, 0, 1)]) dX2_key_13 rfl (by decide) [1, 2, 0] rfl ?_
    exact h
  · have h := h.2 c2
    refine g_iconst dX2_key_8 (by decide) ?_
    obtain ⟨c3, h⟩ := h
    exact g_iret dX2_key_9 rfl c3.1 c3.2 h
theorem rX2_key_14 {d mc ms nc ns : Nat} {μ : tm_M} {Q : tQ} {v1 v2 : Int} (hs : tS μ)
    (h : (4 ≤ d ∧ (nc ≤ mc ∧ ns ≤ ms)) ∧ ((50 ≤ v2 → (nc ≤ mc ∧ ns ≤ ms) ∧ (Q (.inl (some (0, -1))) μ)) ∧ (v2 < 50 → tH mX2_key d mc ms (tq Q mc ms) 25 [(0, 2, 4), (1, 0, v1), (2, 0, v2), (3, 0, v2)] [] μ nc ns))) :
    tH mX2_key d mc ms (tq Q mc ms) 14 [(0, 2, 4), (1, 0, v1), (2, 0, v2)] [] μ nc ns := by
  refine g_iload_n (q := 2) dX2_key_14 rfl rfl ?_
  refine g_ldcS dX2_key_15 rfl ?_
  obtain ⟨c1, h⟩ := h
  refine g_slen dX2_key_17 q697 (by have := c1.1; omega) c1.2.1 c1.2.2 (Nat.le_of_ble_eq_true rfl) ?_
  refine g_icmp_ge (tgt := 63) dX2_key_20 (by decide) (fun c2 => ?_) (fun c3 => ?_)
  · have h := h.1 c2
    refine g_iconst dX2_key_63 (by decide) ?_
    obtain ⟨c4, h⟩ := h
    exact g_iret dX2_key_64 rfl c4.1 c4.2 h
  · have h := h.2 c3
    refine g_iload_n (q := 2) dX2_key_23 rfl rfl ?_
    refine g_istore_n (L' := [(0, 2, 4), (1, 0, v1), (2, 0, v2), (3, 0, v2)]) dX2_key_24 rfl (by decide) [1, 2, 3, 0] rfl ?_
    exact h
theorem rX2_key_25 {d mc ms nc ns : Nat} {μ : tm_M} {Q : tQ} {v1 v2 v3 : Int} (hs : tS μ)
    (h : (4 ≤ d ∧ (nc ≤ mc ∧ ns ≤ ms)) ∧ ((0 ≤ v3 ∧ v3 < 50) ∧ ((KC v3 = 32 → rcl mX2_isWord [(2, 4), (0, v2), (0, v3)] μ d mc ms nc ns (fun o5 μ5 nc5 ns5 => rk 0 o5 (fun r5 => tS μ5 ∧ ((r5 = 0 → (∀ x8, x8 = w32 (v3 + 1) → tH mX2_key d mc ms (tq Q mc ms) 14 [(0, 2, 4), (1, 0, w32 (v1 + 1)), (2, 0, x8)] [] μ5 nc5 ns5)) ∧ (r5 ≠ 0 → (nc5 ≤ mc ∧ ns5 ≤ ms) ∧ (Q (.inl (some (0, v1))) μ5)))) (fun a => tT mX2_key d mc ms (tq Q mc ms) 45 [(0, 2, 4), (1, 0, v1), (2, 0, v2), (3, 0, v3)] a μ5 nc5 ns5))) ∧ (KC v3 ≠ 32 → tH mX2_key d mc ms (tq Q mc ms) 25 [(0, 2, 4), (1, 0, v1), (2, 0, v2), (3, 0, w32 (v3 + 1))] [] μ nc ns)))) :
    tH mX2_key d mc ms (tq Q mc ms) 25 [(0, 2, 4), (1, 0, v1), (2, 0, v2), (3, 0, v3)] [] μ nc ns := by
  refine g_ldcS dX2_key_25 rfl ?_
  refine g_iload_n (q := 3) dX2_key_27 rfl rfl ?_
  obtain ⟨c1, h⟩ := h
  obtain ⟨c2, h⟩ := h
  refine g_schr dX2_key_28 q707 c2 c1.1 c1.2.1 c1.2.2 (Nat.le_of_ble_eq_true rfl) ?_
  refine g_bipush dX2_key_31 ⟨by decide, by decide, rfl⟩ ?_
  refine g_icmp_eq (tgt := 42) dX2_key_33 (by decide) (fun c3 => ?_) (fun c4 => ?_)
  · have h := h.1 c3
    refine g_aload_n (q := 0) dX2_key_42 rfl rfl ?_
    refine g_iload_n (q := 2) dX2_key_43 rfl rfl ?_
    refine g_iload_n (q := 3) dX2_key_44 rfl rfl ?_
    obtain ⟨_, _, _, k1, k2, k3, h⟩ := h
    refine g_callV (as := [(0, v2), (0, v3)]) (S := []) dX2_key_45 kX2_isWord q745 q747 qs9 (ci := 2) rfl (by decide) rfl rfl k1 (by decide) (sk_4 hs) k2 k3 (Nat.le_of_ble_eq_true rfl) (h.mono fun o5 μ5 q => rk_go q (fun r5 h => ?_) (fun a h => h))
    obtain ⟨hs, h⟩ := h
    refine g_if_eq (tgt := 53) dX2_key_48 (by decide) (fun c6 => ?_) (fun c7 => ?_)
    · have h := h.1 c6
      refine g_iinc (q := 1) dX2_key_53 (by decide) rfl [1, 0, 2, 3] rfl ?_
      refine g_iload_n (q := 3) dX2_key_56 rfl rfl ?_
      refine g_iconst dX2_key_57 (by decide) ?_
      refine g_iadd dX2_key_58 ?_
      refine g_istore_nN (fun z => [(0, 2, 4), (1, 0, w32 (v1 + 1)), (2, 0, z), (3, 0, v3)]) dX2_key_59 rfl (by decide) [1, 2, 0, 3] (fun _ => rfl) (fun x8 ex8 => ?_)
      have h := h x8 ex8
      refine g_goto (tgt := 14) dX2_key_60 (by decide) ?_
      exact g_less [0, 1, 2] rfl h
    · have h := h.2 c7
      refine g_iload_n (q := 1) dX2_key_51 rfl rfl ?_
      obtain ⟨c9, h⟩ := h
      exact g_iret dX2_key_52 rfl c9.1 c9.2 h
  · have h := h.2 c4
    refine g_iinc (q := 3) dX2_key_36 (by decide) rfl [1, 2, 3, 0] rfl ?_
    refine g_goto (tgt := 25) dX2_key_39 (by decide) ?_
    exact h
theorem rX2_isWord_0 {d mc ms nc ns : Nat} {μ : tm_M} {Q : tQ} {v1 v2 : Int} (hs : tS μ)
    (h : (w32 (v2 - v1) = w32 ((tm_v μ 4 5) - (tm_v μ 4 4)) → tH mX2_isWord d mc ms (tq Q mc ms) 19 [(0, 2, 4), (1, 0, v1), (2, 0, v2), (3, 0, v1)] [] μ nc ns) ∧ (w32 (v2 - v1) ≠ w32 ((tm_v μ 4 5) - (tm_v μ 4 4)) → (nc ≤ mc ∧ ns ≤ ms) ∧ (Q (.inl (some (0, 0))) μ))) :
    tH mX2_isWord d mc ms (tq Q mc ms) 0 [(0, 2, 4), (1, 0, v1), (2, 0, v2)] [] μ nc ns := by
  refine g_iload_n (q := 2) dX2_isWord_0 rfl rfl ?_
  refine g_iload_n (q := 1) dX2_isWord_1 rfl rfl ?_
  refine g_isub dX2_isWord_2 ?_
  refine g_aload_n (q := 0) dX2_isWord_3 rfl rfl ?_
  refine g_get 0 dX2_isWord_4 fX2_23 rfl (by decide) (sk_4 hs) ?_
  refine g_aload_n (q := 0) dX2_isWord_7 rfl rfl ?_
  refine g_get 0 dX2_isWord_8 fX2_30 rfl (by decide) (sk_4 hs) ?_
  refine g_isub dX2_isWord_11 ?_
  refine g_icmp_eq (tgt := 17) dX2_isWord_12 (by decide) (fun c1 => ?_) (fun c2 => ?_)
  · have h := h.1 c1
    refine g_iload_n (q := 1) dX2_isWord_17 rfl rfl ?_
    refine g_istore_n (L' := [(0, 2, 4), (1, 0, v1), (2, 0, v2), (3, 0, v1)]) dX2_isWord_18 rfl (by decide) [1, 2, 3, 0] rfl ?_
    exact h
  · have h := h.2 c2
    refine g_iconst dX2_isWord_15 (by decide) ?_
    obtain ⟨c3, h⟩ := h
    exact g_zret dX2_isWord_16 rfl (by decide) c3.1 c3.2 h
theorem rX2_isWord_19 {d mc ms nc ns : Nat} {μ : tm_M} {Q : tQ} {v1 v2 v3 : Int} (hs : tS μ)
    (h : (v2 ≤ v3 → (nc ≤ mc ∧ ns ≤ ms) ∧ (Q (.inl (some (0, 1))) μ)) ∧ (v3 < v2 → (4 ≤ d ∧ (nc ≤ mc ∧ ns ≤ ms)) ∧ ((0 ≤ v3 ∧ v3 < 50) ∧ (rcl mX2_at [(2, 4), (0, w32 ((w32 ((tm_v μ 4 4) + v3)) - v1))] μ d mc ms nc ns (fun o6 μ6 nc6 ns6 => rk 0 o6 (fun r6 => tS μ6 ∧ ((KC v3 = r6 → tH mX2_isWord d mc ms (tq Q mc ms) 19 [(0, 2, 4), (1, 0, v1), (2, 0, v2), (3, 0, w32 (v3 + 1))] [] μ6 nc6 ns6) ∧ (KC v3 ≠ r6 → (nc6 ≤ mc ∧ ns6 ≤ ms) ∧ (Q (.inl (some (0, 0))) μ6)))) (fun a => tT mX2_isWord d mc ms (tq Q mc ms) 39 [(0, 2, 4), (1, 0, v1), (2, 0, v2), (3, 0, v3)] a μ6 nc6 ns6)))))) :
    tH mX2_isWord d mc ms (tq Q mc ms) 19 [(0, 2, 4), (1, 0, v1), (2, 0, v2), (3, 0, v3)] [] μ nc ns := by
  refine g_iload_n (q := 3) dX2_isWord_19 rfl rfl ?_
  refine g_iload_n (q := 2) dX2_isWord_20 rfl rfl ?_
  refine g_icmp_ge (tgt := 53) dX2_isWord_21 (by decide) (fun c1 => ?_) (fun c2 => ?_)
  · have h := h.1 c1
    refine g_iconst dX2_isWord_53 (by decide) ?_
    obtain ⟨c3, h⟩ := h
    exact g_zret dX2_isWord_54 rfl (by decide) c3.1 c3.2 h
  · have h := h.2 c2
    refine g_ldcS dX2_isWord_24 rfl ?_
    refine g_iload_n (q := 3) dX2_isWord_26 rfl rfl ?_
    obtain ⟨c4, h⟩ := h
    obtain ⟨c5, h⟩ := h
    refine g_schr dX2_isWord_27 q707 c5 c4.1 c4.2.1 c4.2.2 (Nat.le_of_ble_eq_true rfl) ?_
    refine g_aload_n (q := 0) dX2_isWord_30 rfl rfl ?_
    refine g_aload_n (q := 0) dX2_isWord_31 rfl rfl ?_
    refine g_get 0 dX2_isWord_32 fX2_30 rfl (by decide) (sk_4 hs) ?_
    refine g_iload_n (q := 3) dX2_isWord_35 rfl rfl ?_
    refine g_iadd dX2_isWord_36 ?_
    refine g_iload_n (q := 1) dX2_isWord_37 rfl rfl ?_
    refine g_isub dX2_isWord_38 ?_
    obtain ⟨_, _, _, k1, k2, k3, h⟩ := h
    refine g_callV (as := [(0, w32 ((w32 ((tm_v μ 4 4) + v3)) - v1))]) (S := [(0, KC v3)]) dX2_isWord_39 kX2_at q675 q677 qs6 (ci := 2) rfl (by decide) rfl rfl k1 (by decide) (sk_4 hs) k2 k3 (Nat.le_of_ble_eq_true rfl) (h.mono fun o6 μ6 q => rk_go q (fun r6 h => ?_) (fun a h => h))
    obtain ⟨hs, h⟩ := h
    refine g_icmp_eq (tgt := 47) dX2_isWord_42 (by decide) (fun c7 => ?_) (fun c8 => ?_)
    · have h := h.1 c7
      refine g_iinc (q := 3) dX2_isWord_47 (by decide) rfl [1, 2, 3, 0] rfl ?_
      refine g_goto (tgt := 19) dX2_isWord_50 (by decide) ?_
      exact h
    · have h := h.2 c8
      refine g_iconst dX2_isWord_45 (by decide) ?_
      obtain ⟨c9, h⟩ := h
      exact g_zret dX2_isWord_46 rfl (by decide) c9.1 c9.2 h
theorem rX2_need_0 {d mc ms nc ns : Nat} {μ : tm_M} {Q : tQ} {v1 : Int} (hs : tS μ)
    (h : (v1 ≠ 0 → (nc ≤ mc ∧ ns ≤ ms) ∧ (Q (.inl none) μ)) ∧ (v1 = 0 → rcl mX2_fail [(2, 4), (0, 2)] μ d mc ms nc ns (fun o4 μ4 nc4 ns4 => rk 2 o4 (fun r4 => tS μ4 ∧ ((1 ≤ r4 ∧ tm_k μ4 r4 = 1) ∧ (tT mX2_need d mc ms (tq Q mc ms) 9 [(0, 2, 4), (1, 0, v1)] r4 μ4 nc4 ns4))) (fun a => tT mX2_need d mc ms (tq Q mc ms) 6 [(0, 2, 4), (1, 0, v1)] a μ4 nc4 ns4)))) :
    tH mX2_need d mc ms (tq Q mc ms) 0 [(0, 2, 4), (1, 0, v1)] [] μ nc ns := by
  refine g_iload_n (q := 1) dX2_need_0 rfl rfl ?_
  refine g_if_ne (tgt := 10) dX2_need_1 (by decide) (fun c1 => ?_) (fun c2 => ?_)
  · have h := h.1 c1
    obtain ⟨c3, h⟩ := h
    exact g_vret dX2_need_10 rfl c3.1 c3.2 h
  · have h := h.2 c2
    refine g_aload_n (q := 0) dX2_need_4 rfl rfl ?_
    refine g_iconst dX2_need_5 (by decide) ?_
    obtain ⟨_, _, _, k1, k2, k3, h⟩ := h
    refine g_callV (as := [(0, 2)]) (S := []) dX2_need_6 kX2_fail q753 q755 qs11 (ci := 2) rfl (by decide) rfl rfl k1 (by decide) (sk_4 hs) k2 k3 (Nat.le_of_ble_eq_true rfl) (h.mono fun o4 μ4 q => rk_go q (fun r4 h => ?_) (fun a h => h))
    obtain ⟨hs, h⟩ := h
    obtain ⟨c5, h⟩ := h
    exact g_athrow dX2_need_9 c5.1 c5.2 h
theorem rX2_fail_0 {d mc ms nc ns : Nat} {μ : tm_M} {Q : tQ} {v1 : Int} (hs : tS μ)
    (h : (tm_v μ 4 3 ≠ 1 → rcl mX1_of [(2, 3), (0, v1), (0, tm_v μ 4 4)] μ d mc ms nc ns (fun o3 μ3 nc3 ns3 => rk 2 o3 (fun r3 => tS μ3 ∧ ((nc3 ≤ mc ∧ ns3 ≤ ms) ∧ (Q (.inl (some (2, r3))) μ3))) (fun a => tT mX2_fail d mc ms (tq Q mc ms) 21 [(0, 2, 4), (1, 0, v1)] a μ3 nc3 ns3))) ∧ (tm_v μ 4 3 = 1 → rcl mX1_of [(2, 3), (0, 1), (0, tm_v μ 4 4)] μ d mc ms nc ns (fun o5 μ5 nc5 ns5 => rk 2 o5 (fun r5 => tS μ5 ∧ ((nc5 ≤ mc ∧ ns5 ≤ ms) ∧ (Q (.inl (some (2, r5))) μ5))) (fun a => tT mX2_fail d mc ms (tq Q mc ms) 21 [(0, 2, 4), (1, 0, v1)] a μ5 nc5 ns5)))) :
    tH mX2_fail d mc ms (tq Q mc ms) 0 [(0, 2, 4), (1, 0, v1)] [] μ nc ns := by
  refine g_aload_n (q := 0) dX2_fail_0 rfl rfl ?_
  refine g_getC (x := 3) 2 dX2_fail_1 fX2_15 rfl (by decide) (sk_4 hs) (sv_4_9 hs) ?_
  refine g_aload_n (q := 0) dX2_fail_4 rfl rfl ?_
  refine g_get 0 dX2_fail_5 fX2_36 rfl (by decide) (sk_4 hs) ?_
  refine g_iconst dX2_fail_8 (by decide) ?_
  refine g_icmp_ne (tgt := 16) dX2_fail_9 (by decide) (fun c1 => ?_) (fun c2 => ?_)
  · have h := h.1 c1
    refine g_iload_n (q := 1) dX2_fail_16 rfl rfl ?_
    refine g_aload_n (q := 0) dX2_fail_17 rfl rfl ?_
    refine g_get 0 dX2_fail_18 fX2_30 rfl (by decide) (sk_4 hs) ?_
    obtain ⟨_, _, _, k1, k2, k3, h⟩ := h
    refine g_callV (as := [(0, v1), (0, tm_v μ 4 4)]) (S := []) dX2_fail_21 kX1_of q757 q758 q759 (ci := 1) rfl (by decide) rfl rfl k1 (by decide) (sk_3 hs) k2 k3 (Nat.le_of_ble_eq_true rfl) (h.mono fun o3 μ3 q => rk_go q (fun r3 h => ?_) (fun a h => h))
    obtain ⟨hs, h⟩ := h
    obtain ⟨c4, h⟩ := h
    exact g_aret dX2_fail_24 rfl rfl c4.1 c4.2 h
  · have h := h.2 c2
    refine g_iconst dX2_fail_12 (by decide) ?_
    refine g_goto (tgt := 17) dX2_fail_13 (by decide) ?_
    refine g_aload_n (q := 0) dX2_fail_17 rfl rfl ?_
    refine g_get 0 dX2_fail_18 fX2_30 rfl (by decide) (sk_4 hs) ?_
    obtain ⟨_, _, _, k1, k2, k3, h⟩ := h
    refine g_callV (as := [(0, 1), (0, tm_v μ 4 4)]) (S := []) dX2_fail_21 kX1_of q757 q758 q759 (ci := 1) rfl (by decide) rfl rfl k1 (by decide) (sk_3 hs) k2 k3 (Nat.le_of_ble_eq_true rfl) (h.mono fun o5 μ5 q => rk_go q (fun r5 h => ?_) (fun a h => h))
    obtain ⟨hs, h⟩ := h
    obtain ⟨c6, h⟩ := h
    exact g_aret dX2_fail_24 rfl rfl c6.1 c6.2 h
theorem rX2_aPlace_0 {d mc ms nc ns : Nat} {μ : tm_M} {Q : tQ} (hs : tS μ)
    (h : rcl mX2_name [(2, 4)] μ d mc ms nc ns (fun o1 μ1 nc1 ns1 => rk 1 o1 (fun r1 => tS μ1 ∧ ((1 ≤ tm_v μ1 4 8 ∧ tm_k μ1 (tm_v μ1 4 8) = 4) ∧ (rcl mX4_named [(2, tm_v μ1 4 8), (1, r1)] μ1 d mc ms nc1 ns1 (fun o3 μ3 nc3 ns3 => rk 2 o3 (fun r3 => tS μ3 ∧ ((r3 = 0 → (1 ≤ tm_v μ3 4 8 ∧ tm_k μ3 (tm_v μ3 4 8) = 4) ∧ ((tm_v μ3 (tm_v μ3 4 8) 2 ≠ 8 → rcl mX2_next [(2, 4)] μ3 d mc ms nc3 ns3 (fun o9 μ9 nc9 ns9 => rkV o9 (tS μ9 ∧ ((nc9 + 1 ≤ mc ∧ ns9 + 7 ≤ ms) ∧ ((∀ μ11, μ11 = tm_a μ9 7 7 → tS μ11 ∧ ((1 ≤ tm_v μ11 4 8 ∧ tm_k μ11 (tm_v μ11 4 8) = 4) ∧ ((1 ≤ tm_z μ9) ∧ (rcl mX7_init [(2, tm_z μ9), (1, r1), (0, tm_v μ11 (tm_v μ11 4 8) 2)] μ11 d mc ms (nc9 + 1) (ns9 + 7) (fun o14 μ14 nc14 ns14 => rkV o14 (tS μ14 ∧ ((∀ x15, x15 = tm_z μ9 → (1 ≤ tm_v μ14 4 8 ∧ tm_k μ14 (tm_v μ14 4 8) = 4) ∧ ((1 ≤ tm_v μ14 (tm_v μ14 4 8) 0 ∧ tm_k μ14 (tm_v μ14 (tm_v μ14 4 8) 0) = 26) ∧ ((0 ≤ tm_v μ14 (tm_v μ14 4 8) 2 ∧ tm_v μ14 (tm_v μ14 4 8) 2 < tm_n μ14 (tm_v μ14 (tm_v μ14 4 8) 0)) ∧ ((1 ≤ x15 ∧ tm_k μ14 x15 = 7) ∧ ((∀ μ20, μ20 = tm_w μ14 (tm_v μ14 (tm_v μ14 4 8) 0) (tm_v μ14 (tm_v μ14 4 8) 2) x15 → tS μ20 ∧ ((1 ≤ tm_v μ20 4 8 ∧ tm_k μ20 (tm_v μ20 4 8) = 4) ∧ ((∀ μ22, μ22 = tm_w μ20 (tm_v μ20 4 8) 2 (w32 ((tm_v μ20 (tm_v μ20 4 8) 2) + 1)) → tS μ22 ∧ (rcl mX2_key [(2, 4)] μ22 d mc ms nc14 ns14 (fun o23 μ23 nc23 ns23 => rk 0 o23 (fun r23 => tS μ23 ∧ (tH mX2_aPlace d mc ms (tq Q mc ms) 99 [(0, 2, 4), (3, 2, x15), (4, 0, 0), (5, 0, r23)] [] μ23 nc23 ns23)) (fun a => tT mX2_aPlace d mc ms (tq Q mc ms) 94 [(0, 2, 4), (1, 1, r1), (3, 2, x15), (4, 0, 0)] a μ23 nc23 ns23)))))))))))))) (fun a => tT mX2_aPlace d mc ms (tq Q mc ms) 57 [(0, 2, 4), (1, 1, r1)] a μ14 nc14 ns14))))))))) (fun a => tT mX2_aPlace d mc ms (tq Q mc ms) 42 [(0, 2, 4), (1, 1, r1)] a μ9 nc9 ns9))) ∧ (tm_v μ3 (tm_v μ3 4 8) 2 = 8 → rcl mX2_fail [(2, 4), (0, 6)] μ3 d mc ms nc3 ns3 (fun o24 μ24 nc24 ns24 => rk 2 o24 (fun r24 => tS μ24 ∧ ((1 ≤ r24 ∧ tm_k μ24 r24 = 1) ∧ (tT mX2_aPlace d mc ms (tq Q mc ms) 40 [(0, 2, 4), (1, 1, r1)] r24 μ24 nc24 ns24))) (fun a => tT mX2_aPlace d mc ms (tq Q mc ms) 37 [(0, 2, 4), (1, 1, r1)] a μ24 nc24 ns24))))) ∧ (1 ≤ r3 → rcl mX2_fail [(2, 4), (0, 3)] μ3 d mc ms nc3 ns3 (fun o26 μ26 nc26 ns26 => rk 2 o26 (fun r26 => tS μ26 ∧ ((1 ≤ r26 ∧ tm_k μ26 r26 = 1) ∧ (tT mX2_aPlace d mc ms (tq Q mc ms) 21 [(0, 2, 4), (1, 1, r1)] r26 μ26 nc26 ns26))) (fun a => tT mX2_aPlace d mc ms (tq Q mc ms) 18 [(0, 2, 4), (1, 1, r1)] a μ26 nc26 ns26))))) (fun a => tT mX2_aPlace d mc ms (tq Q mc ms) 10 [(0, 2, 4), (1, 1, r1)] a μ3 nc3 ns3))))) (fun a => tT mX2_aPlace d mc ms (tq Q mc ms) 1 [(0, 2, 4)] a μ1 nc1 ns1))) :
    tH mX2_aPlace d mc ms (tq Q mc ms) 0 [(0, 2, 4)] [] μ nc ns := by
  refine g_aload_n (q := 0) dX2_aPlace_0 rfl rfl ?_
  obtain ⟨_, _, _, k1, k2, k3, h⟩ := h
  refine g_callV (as := []) (S := []) dX2_aPlace_1 kX2_name q765 q767 qs13 (ci := 2) rfl (by decide) rfl rfl k1 (by decide) (sk_4 hs) k2 k3 (Nat.le_of_ble_eq_true rfl) (h.mono fun o1 μ1 q => rk_go q (fun r1 h => ?_) (fun a h => h))
  obtain ⟨hs, h⟩ := h
  refine g_lstore_n (L' := [(0, 2, 4), (1, 1, r1)]) dX2_aPlace_4 rfl (by decide) [1, 0] rfl ?_
  refine g_aload_n (q := 0) dX2_aPlace_5 rfl rfl ?_
  refine g_get 2 dX2_aPlace_6 fX2_94 rfl (by decide) (sk_4 hs) ?_
  refine g_lload_n (q := 1) dX2_aPlace_9 rfl rfl ?_
  obtain ⟨c2, h⟩ := h
  obtain ⟨_, _, _, k1, k2, k3, h⟩ := h
  refine g_callV (as := [(1, r1)]) (S := []) dX2_aPlace_10 kX4_named q769 q770 q771 (ci := 4) rfl (by decide) rfl rfl k1 c2.1 c2.2 k2 k3 (Nat.le_of_ble_eq_true rfl) (h.mono fun o3 μ3 q => rk_go q (fun r3 h => ?_) (fun a h => h))
  obtain ⟨hs, h⟩ := h
  refine g_ifnull (tgt := 22) dX2_aPlace_13 (by decide) (fun c4 => ?_) (fun c5 => ?_)
  · have h := h.1 c4
    refine g_aload_n (q := 0) dX2_aPlace_22 rfl rfl ?_
    refine g_get 2 dX2_aPlace_23 fX2_94 rfl (by decide) (sk_4 hs) ?_
    obtain ⟨c6, h⟩ := h
    refine g_get 0 dX2_aPlace_26 fX2_131 rfl c6.1 c6.2 ?_
    refine g_bipush dX2_aPlace_29 ⟨by decide, by decide, rfl⟩ ?_
    refine g_icmp_ne (tgt := 41) dX2_aPlace_31 (by decide) (fun c7 => ?_) (fun c8 => ?_)
    · have h := h.1 c7
      refine g_aload_n (q := 0) dX2_aPlace_41 rfl rfl ?_
      obtain ⟨_, _, _, k1, k2, k3, h⟩ := h
      refine g_callV (as := []) (S := []) dX2_aPlace_42 kX2_next q671 q673 qs5 (ci := 2) rfl (by decide) rfl rfl k1 (by decide) (sk_4 hs) k2 k3 (Nat.le_of_ble_eq_true rfl) (h.mono fun o9 μ9 q => rk_goV q (fun h => ?_) (fun a h => h))
      obtain ⟨hs, h⟩ := h
      obtain ⟨c10, h⟩ := h
      refine g_new dX2_aPlace_45 ck7 (by decide) q773 q774 q136 c10.1 c10.2 (p_r fun μ11 eμ11 => ?_)
      obtain ⟨hs, h⟩ := h μ11 eμ11
      refine g_dup dX2_aPlace_48 (by decide) ?_
      refine g_lload_n (q := 1) dX2_aPlace_49 rfl rfl ?_
      refine g_aload_n (q := 0) dX2_aPlace_50 rfl rfl ?_
      refine g_get 2 dX2_aPlace_51 fX2_94 rfl (by decide) (sk_4 hs) ?_
      obtain ⟨c12, h⟩ := h
      refine g_get 0 dX2_aPlace_54 fX2_131 rfl c12.1 c12.2 ?_
      obtain ⟨c13, h⟩ := h
      obtain ⟨_, _, _, k1, k2, k3, h⟩ := h
      refine g_callI (as := [(1, r1), (0, tm_v μ11 (tm_v μ11 4 8) 2)]) (S := [(2, tm_z μ9)]) dX2_aPlace_57 kX7_init rfl rfl rfl q775 q776 rfl rfl k1 c13 k2 k3 (Nat.le_of_ble_eq_true rfl) (h.mono fun o14 μ14 q => rk_goV q (fun h => ?_) (fun a h => h))
      obtain ⟨hs, h⟩ := h
      refine g_astore_nN (fun z => [(0, 2, 4), (1, 1, r1), (3, 2, z)]) dX2_aPlace_60 rfl (by decide) [1, 2, 0] (fun _ => rfl) (fun x15 ex15 => ?_)
      have h := h x15 ex15
      refine g_aload_n (q := 0) dX2_aPlace_61 rfl rfl ?_
      refine g_get 2 dX2_aPlace_62 fX2_94 rfl (by decide) (sk_4 hs) ?_
      obtain ⟨c16, h⟩ := h
      refine g_get 2 dX2_aPlace_65 fX2_139 rfl c16.1 c16.2 ?_
      refine g_aload_n (q := 0) dX2_aPlace_68 rfl rfl ?_
      refine g_get 2 dX2_aPlace_69 fX2_94 rfl (by decide) (sk_4 hs) ?_
      refine g_get 0 dX2_aPlace_72 fX2_131 rfl c16.1 c16.2 ?_
      refine g_aload_n (q := 2) dX2_aPlace_75 rfl rfl ?_
      obtain ⟨c17, h⟩ := h
      obtain ⟨c18, h⟩ := h
      obtain ⟨c19, h⟩ := h
      refine g_aastore dX2_aPlace_76 ta_26_7 c17.1 c17.2 c18.1 c18.2 c19.1 c19.2 (p_r fun μ20 eμ20 => ?_)
      obtain ⟨hs, h⟩ := h μ20 eμ20
      refine g_aload_n (q := 0) dX2_aPlace_77 rfl rfl ?_
      refine g_get 2 dX2_aPlace_78 fX2_94 rfl (by decide) (sk_4 hs) ?_
      refine g_dup dX2_aPlace_81 (by decide) ?_
      obtain ⟨c21, h⟩ := h
      refine g_get 0 dX2_aPlace_82 fX2_131 rfl c21.1 c21.2 ?_
      refine g_iconst dX2_aPlace_85 (by decide) ?_
      refine g_iadd dX2_aPlace_86 ?_
      refine g_put dX2_aPlace_87 fX2_131 rfl c21.1 c21.2 (fun e => absurd e (by decide)) (p_r fun μ22 eμ22 => ?_)
      obtain ⟨hs, h⟩ := h μ22 eμ22
      refine g_iconst dX2_aPlace_90 (by decide) ?_
      refine g_istore (L' := [(0, 2, 4), (1, 1, r1), (3, 2, x15), (4, 0, 0)]) dX2_aPlace_91 (by decide) [1, 2, 3, 0] rfl ?_
      refine g_aload_n (q := 0) dX2_aPlace_93 rfl rfl ?_
      obtain ⟨_, _, _, k1, k2, k3, h⟩ := h
      refine g_callV (as := []) (S := []) dX2_aPlace_94 kX2_key q692 q694 qs8 (ci := 2) rfl (by decide) rfl rfl k1 (by decide) (sk_4 hs) k2 k3 (Nat.le_of_ble_eq_true rfl) (h.mono fun o23 μ23 q => rk_go q (fun r23 h => ?_) (fun a h => h))
      obtain ⟨hs, h⟩ := h
      refine g_istore (L' := [(0, 2, 4), (1, 1, r1), (3, 2, x15), (4, 0, 0), (5, 0, r23)]) dX2_aPlace_97 (by decide) [1, 2, 3, 4, 0] rfl ?_
      exact g_less [0, 2, 3, 4] rfl h
    · have h := h.2 c8
      refine g_aload_n (q := 0) dX2_aPlace_34 rfl rfl ?_
      refine g_bipush dX2_aPlace_35 ⟨by decide, by decide, rfl⟩ ?_
      obtain ⟨_, _, _, k1, k2, k3, h⟩ := h
      refine g_callV (as := [(0, 6)]) (S := []) dX2_aPlace_37 kX2_fail q753 q755 qs11 (ci := 2) rfl (by decide) rfl rfl k1 (by decide) (sk_4 hs) k2 k3 (Nat.le_of_ble_eq_true rfl) (h.mono fun o24 μ24 q => rk_go q (fun r24 h => ?_) (fun a h => h))
      obtain ⟨hs, h⟩ := h
      obtain ⟨c25, h⟩ := h
      exact g_athrow dX2_aPlace_40 c25.1 c25.2 h
  · have h := h.2 c5
    refine g_aload_n (q := 0) dX2_aPlace_16 rfl rfl ?_
    refine g_iconst dX2_aPlace_17 (by decide) ?_
    obtain ⟨_, _, _, k1, k2, k3, h⟩ := h
    refine g_callV (as := [(0, 3)]) (S := []) dX2_aPlace_18 kX2_fail q753 q755 qs11 (ci := 2) rfl (by decide) rfl rfl k1 (by decide) (sk_4 hs) k2 k3 (Nat.le_of_ble_eq_true rfl) (h.mono fun o26 μ26 q => rk_go q (fun r26 h => ?_) (fun a h => h))
    obtain ⟨hs, h⟩ := h
    obtain ⟨c27, h⟩ := h
    exact g_athrow dX2_aPlace_21 c27.1 c27.2 h
theorem rX2_aPlace_99 {d mc ms nc ns : Nat} {μ : tm_M} {Q : tQ} {v3 v4 v5 : Int} (hs : tS μ)
    (h : (v5 < 5 → (nc ≤ mc ∧ ns ≤ ms) ∧ (Q (.inl none) μ)) ∧ (5 ≤ v5 → (7 < v5 → (nc ≤ mc ∧ ns ≤ ms) ∧ (Q (.inl none) μ)) ∧ (v5 ≤ 7 → (i_and (i_shr v4 v5) 1 ≠ 1 → (∀ x9, x9 = i_or v4 (i_shl 1 v5) → rcl mX2_next [(2, 4)] μ d mc ms nc ns (fun o10 μ10 nc10 ns10 => rkV o10 (tS μ10 ∧ ((v5 ≠ 5 → rcl mX2_passed [(2, 4), (0, 0), (0, 9)] μ10 d mc ms nc10 ns10 (fun o13 μ13 nc13 ns13 => rk 0 o13 (fun r13 => tS μ13 ∧ ((v5 ≠ 5 → (v5 ≠ 6 → (1 ≤ v3 ∧ tm_k μ13 v3 = 7) ∧ ((∀ μ19, μ19 = tm_w μ13 v3 4 r13 → tS μ19 ∧ (rcl mX2_key [(2, 4)] μ19 d mc ms nc13 ns13 (fun o20 μ20 nc20 ns20 => rk 0 o20 (fun r20 => tS μ20 ∧ (tH mX2_aPlace d mc ms (tq Q mc ms) 99 [(0, 2, 4), (3, 2, v3), (4, 0, x9), (5, 0, r20)] [] μ20 nc20 ns20)) (fun a => tT mX2_aPlace d mc ms (tq Q mc ms) 199 [(0, 2, 4), (3, 2, v3), (4, 0, x9), (5, 0, v5), (6, 0, r13)] a μ20 nc20 ns20)))))) ∧ (v5 = 6 → (1 ≤ v3 ∧ tm_k μ13 v3 = 7) ∧ ((∀ μ22, μ22 = tm_w μ13 v3 3 r13 → tS μ22 ∧ (rcl mX2_key [(2, 4)] μ22 d mc ms nc13 ns13 (fun o23 μ23 nc23 ns23 => rk 0 o23 (fun r23 => tS μ23 ∧ (tH mX2_aPlace d mc ms (tq Q mc ms) 99 [(0, 2, 4), (3, 2, v3), (4, 0, x9), (5, 0, r23)] [] μ23 nc23 ns23)) (fun a => tT mX2_aPlace d mc ms (tq Q mc ms) 199 [(0, 2, 4), (3, 2, v3), (4, 0, x9), (5, 0, v5), (6, 0, r13)] a μ23 nc23 ns23))))))) ∧ (v5 = 5 → (1 ≤ v3 ∧ tm_k μ13 v3 = 7) ∧ ((∀ μ25, μ25 = tm_w μ13 v3 2 r13 → tS μ25 ∧ (rcl mX2_key [(2, 4)] μ25 d mc ms nc13 ns13 (fun o26 μ26 nc26 ns26 => rk 0 o26 (fun r26 => tS μ26 ∧ (tH mX2_aPlace d mc ms (tq Q mc ms) 99 [(0, 2, 4), (3, 2, v3), (4, 0, x9), (5, 0, r26)] [] μ26 nc26 ns26)) (fun a => tT mX2_aPlace d mc ms (tq Q mc ms) 199 [(0, 2, 4), (3, 2, v3), (4, 0, x9), (5, 0, v5), (6, 0, r13)] a μ26 nc26 ns26)))))))) (fun a => tT mX2_aPlace d mc ms (tq Q mc ms) 156 [(0, 2, 4), (3, 2, v3), (4, 0, x9), (5, 0, v5)] a μ13 nc13 ns13))) ∧ (v5 = 5 → rcl mX2_passed [(2, 4), (0, 0), (0, 5)] μ10 d mc ms nc10 ns10 (fun o27 μ27 nc27 ns27 => rk 0 o27 (fun r27 => tS μ27 ∧ ((v5 ≠ 5 → (v5 ≠ 6 → (1 ≤ v3 ∧ tm_k μ27 v3 = 7) ∧ ((∀ μ33, μ33 = tm_w μ27 v3 4 r27 → tS μ33 ∧ (rcl mX2_key [(2, 4)] μ33 d mc ms nc27 ns27 (fun o34 μ34 nc34 ns34 => rk 0 o34 (fun r34 => tS μ34 ∧ (tH mX2_aPlace d mc ms (tq Q mc ms) 99 [(0, 2, 4), (3, 2, v3), (4, 0, x9), (5, 0, r34)] [] μ34 nc34 ns34)) (fun a => tT mX2_aPlace d mc ms (tq Q mc ms) 199 [(0, 2, 4), (3, 2, v3), (4, 0, x9), (5, 0, v5), (6, 0, r27)] a μ34 nc34 ns34)))))) ∧ (v5 = 6 → (1 ≤ v3 ∧ tm_k μ27 v3 = 7) ∧ ((∀ μ36, μ36 = tm_w μ27 v3 3 r27 → tS μ36 ∧ (rcl mX2_key [(2, 4)] μ36 d mc ms nc27 ns27 (fun o37 μ37 nc37 ns37 => rk 0 o37 (fun r37 => tS μ37 ∧ (tH mX2_aPlace d mc ms (tq Q mc ms) 99 [(0, 2, 4), (3, 2, v3), (4, 0, x9), (5, 0, r37)] [] μ37 nc37 ns37)) (fun a => tT mX2_aPlace d mc ms (tq Q mc ms) 199 [(0, 2, 4), (3, 2, v3), (4, 0, x9), (5, 0, v5), (6, 0, r27)] a μ37 nc37 ns37))))))) ∧ (v5 = 5 → (1 ≤ v3 ∧ tm_k μ27 v3 = 7) ∧ ((∀ μ39, μ39 = tm_w μ27 v3 2 r27 → tS μ39 ∧ (rcl mX2_key [(2, 4)] μ39 d mc ms nc27 ns27 (fun o40 μ40 nc40 ns40 => rk 0 o40 (fun r40 => tS μ40 ∧ (tH mX2_aPlace d mc ms (tq Q mc ms) 99 [(0, 2, 4), (3, 2, v3), (4, 0, x9), (5, 0, r40)] [] μ40 nc40 ns40)) (fun a => tT mX2_aPlace d mc ms (tq Q mc ms) 199 [(0, 2, 4), (3, 2, v3), (4, 0, x9), (5, 0, v5), (6, 0, r27)] a μ40 nc40 ns40)))))))) (fun a => tT mX2_aPlace d mc ms (tq Q mc ms) 156 [(0, 2, 4), (3, 2, v3), (4, 0, x9), (5, 0, v5)] a μ27 nc27 ns27))))) (fun a => tT mX2_aPlace d mc ms (tq Q mc ms) 139 [(0, 2, 4), (3, 2, v3), (4, 0, x9), (5, 0, v5)] a μ10 nc10 ns10)))) ∧ (i_and (i_shr v4 v5) 1 = 1 → rcl mX2_fail [(2, 4), (0, 5)] μ d mc ms nc ns (fun o41 μ41 nc41 ns41 => rk 2 o41 (fun r41 => tS μ41 ∧ ((1 ≤ r41 ∧ tm_k μ41 r41 = 1) ∧ (tT mX2_aPlace d mc ms (tq Q mc ms) 128 [(0, 2, 4), (3, 2, v3), (4, 0, v4), (5, 0, v5)] r41 μ41 nc41 ns41))) (fun a => tT mX2_aPlace d mc ms (tq Q mc ms) 125 [(0, 2, 4), (3, 2, v3), (4, 0, v4), (5, 0, v5)] a μ41 nc41 ns41)))))) :
    tH mX2_aPlace d mc ms (tq Q mc ms) 99 [(0, 2, 4), (3, 2, v3), (4, 0, v4), (5, 0, v5)] [] μ nc ns := by
  refine g_iload (q := 3) dX2_aPlace_99 rfl ?_
  refine g_iconst dX2_aPlace_101 (by decide) ?_
  refine g_icmp_lt (tgt := 207) dX2_aPlace_102 (by decide) (fun c1 => ?_) (fun c2 => ?_)
  · have h := h.1 c1
    obtain ⟨c3, h⟩ := h
    exact g_vret dX2_aPlace_207 rfl c3.1 c3.2 h
  · have h := h.2 c2
    refine g_iload (q := 3) dX2_aPlace_105 rfl ?_
    refine g_bipush dX2_aPlace_107 ⟨by decide, by decide, rfl⟩ ?_
    refine g_icmp_gt (tgt := 207) dX2_aPlace_109 (by decide) (fun c4 => ?_) (fun c5 => ?_)
    · have h := h.1 c4
      obtain ⟨c6, h⟩ := h
      exact g_vret dX2_aPlace_207 rfl c6.1 c6.2 h
    · have h := h.2 c5
      refine g_iload (q := 2) dX2_aPlace_112 rfl ?_
      refine g_iload (q := 3) dX2_aPlace_114 rfl ?_
      refine g_ishr dX2_aPlace_116 ?_
      refine g_iconst dX2_aPlace_117 (by decide) ?_
      refine g_iand dX2_aPlace_118 ?_
      refine g_iconst dX2_aPlace_119 (by decide) ?_
      refine g_icmp_ne (tgt := 129) dX2_aPlace_120 (by decide) (fun c7 => ?_) (fun c8 => ?_)
      · have h := h.1 c7
        refine g_iload (q := 2) dX2_aPlace_129 rfl ?_
        refine g_iconst dX2_aPlace_131 (by decide) ?_
        refine g_iload (q := 3) dX2_aPlace_132 rfl ?_
        refine g_ishl dX2_aPlace_134 ?_
        refine g_ior dX2_aPlace_135 ?_
        refine g_istoreN (fun z => [(0, 2, 4), (3, 2, v3), (4, 0, z), (5, 0, v5)]) dX2_aPlace_136 (by decide) [1, 2, 0, 3] (fun _ => rfl) (fun x9 ex9 => ?_)
        have h := h x9 ex9
        refine g_aload_n (q := 0) dX2_aPlace_138 rfl rfl ?_
        obtain ⟨_, _, _, k1, k2, k3, h⟩ := h
        refine g_callV (as := []) (S := []) dX2_aPlace_139 kX2_next q671 q673 qs5 (ci := 2) rfl (by decide) rfl rfl k1 (by decide) (sk_4 hs) k2 k3 (Nat.le_of_ble_eq_true rfl) (h.mono fun o10 μ10 q => rk_goV q (fun h => ?_) (fun a h => h))
        obtain ⟨hs, h⟩ := h
        refine g_aload_n (q := 0) dX2_aPlace_142 rfl rfl ?_
        refine g_iconst dX2_aPlace_143 (by decide) ?_
        refine g_iload (q := 3) dX2_aPlace_144 rfl ?_
        refine g_iconst dX2_aPlace_146 (by decide) ?_
        refine g_icmp_ne (tgt := 154) dX2_aPlace_147 (by decide) (fun c11 => ?_) (fun c12 => ?_)
        · have h := h.1 c11
          refine g_bipush dX2_aPlace_154 ⟨by decide, by decide, rfl⟩ ?_
          obtain ⟨_, _, _, k1, k2, k3, h⟩ := h
          refine g_callV (as := [(0, 0), (0, 9)]) (S := []) dX2_aPlace_156 kX2_passed q815 q817 qs14 (ci := 2) rfl (by decide) rfl rfl k1 (by decide) (sk_4 hs) k2 k3 (Nat.le_of_ble_eq_true rfl) (h.mono fun o13 μ13 q => rk_go q (fun r13 h => ?_) (fun a h => h))
          obtain ⟨hs, h⟩ := h
          refine g_istore (L' := [(0, 2, 4), (3, 2, v3), (4, 0, x9), (5, 0, v5), (6, 0, r13)]) dX2_aPlace_159 (by decide) [1, 2, 3, 4, 0] rfl ?_
          refine g_iload (q := 3) dX2_aPlace_161 rfl ?_
          refine g_iconst dX2_aPlace_163 (by decide) ?_
          refine g_icmp_ne (tgt := 176) dX2_aPlace_164 (by decide) (fun c14 => ?_) (fun c15 => ?_)
          · have h := h.1 c14
            refine g_iload (q := 3) dX2_aPlace_176 rfl ?_
            refine g_bipush dX2_aPlace_178 ⟨by decide, by decide, rfl⟩ ?_
            refine g_icmp_ne (tgt := 192) dX2_aPlace_180 (by decide) (fun c16 => ?_) (fun c17 => ?_)
            · have h := h.1 c16
              refine g_aload_n (q := 1) dX2_aPlace_192 rfl rfl ?_
              refine g_iload (q := 4) dX2_aPlace_193 rfl ?_
              obtain ⟨c18, h⟩ := h
              refine g_put dX2_aPlace_195 fX2_149 rfl c18.1 c18.2 (fun e => absurd e (by decide)) (p_r fun μ19 eμ19 => ?_)
              obtain ⟨hs, h⟩ := h μ19 eμ19
              refine g_aload_n (q := 0) dX2_aPlace_198 rfl rfl ?_
              obtain ⟨_, _, _, k1, k2, k3, h⟩ := h
              refine g_callV (as := []) (S := []) dX2_aPlace_199 kX2_key q692 q694 qs8 (ci := 2) rfl (by decide) rfl rfl k1 (by decide) (sk_4 hs) k2 k3 (Nat.le_of_ble_eq_true rfl) (h.mono fun o20 μ20 q => rk_go q (fun r20 h => ?_) (fun a h => h))
              obtain ⟨hs, h⟩ := h
              refine g_istore (L' := [(0, 2, 4), (3, 2, v3), (4, 0, x9), (5, 0, r20), (6, 0, r13)]) dX2_aPlace_202 (by decide) [1, 2, 3, 0, 4] rfl ?_
              refine g_goto (tgt := 99) dX2_aPlace_204 (by decide) ?_
              exact g_less [0, 1, 2, 3] rfl h
            · have h := h.2 c17
              refine g_aload_n (q := 1) dX2_aPlace_183 rfl rfl ?_
              refine g_iload (q := 4) dX2_aPlace_184 rfl ?_
              obtain ⟨c21, h⟩ := h
              refine g_put dX2_aPlace_186 fX2_146 rfl c21.1 c21.2 (fun e => absurd e (by decide)) (p_r fun μ22 eμ22 => ?_)
              obtain ⟨hs, h⟩ := h μ22 eμ22
              refine g_goto (tgt := 198) dX2_aPlace_189 (by decide) ?_
              refine g_aload_n (q := 0) dX2_aPlace_198 rfl rfl ?_
              obtain ⟨_, _, _, k1, k2, k3, h⟩ := h
              refine g_callV (as := []) (S := []) dX2_aPlace_199 kX2_key q692 q694 qs8 (ci := 2) rfl (by decide) rfl rfl k1 (by decide) (sk_4 hs) k2 k3 (Nat.le_of_ble_eq_true rfl) (h.mono fun o23 μ23 q => rk_go q (fun r23 h => ?_) (fun a h => h))
              obtain ⟨hs, h⟩ := h
              refine g_istore (L' := [(0, 2, 4), (3, 2, v3), (4, 0, x9), (5, 0, r23), (6, 0, r13)]) dX2_aPlace_202 (by decide) [1, 2, 3, 0, 4] rfl ?_
              refine g_goto (tgt := 99) dX2_aPlace_204 (by decide) ?_
              exact g_less [0, 1, 2, 3] rfl h
          · have h := h.2 c15
            refine g_aload_n (q := 1) dX2_aPlace_167 rfl rfl ?_
            refine g_iload (q := 4) dX2_aPlace_168 rfl ?_
            obtain ⟨c24, h⟩ := h
            refine g_put dX2_aPlace_170 fX2_143 rfl c24.1 c24.2 (fun e => absurd e (by decide)) (p_r fun μ25 eμ25 => ?_)
            obtain ⟨hs, h⟩ := h μ25 eμ25
            refine g_goto (tgt := 198) dX2_aPlace_173 (by decide) ?_
            refine g_aload_n (q := 0) dX2_aPlace_198 rfl rfl ?_
            obtain ⟨_, _, _, k1, k2, k3, h⟩ := h
            refine g_callV (as := []) (S := []) dX2_aPlace_199 kX2_key q692 q694 qs8 (ci := 2) rfl (by decide) rfl rfl k1 (by decide) (sk_4 hs) k2 k3 (Nat.le_of_ble_eq_true rfl) (h.mono fun o26 μ26 q => rk_go q (fun r26 h => ?_) (fun a h => h))
            obtain ⟨hs, h⟩ := h
            refine g_istore (L' := [(0, 2, 4), (3, 2, v3), (4, 0, x9), (5, 0, r26), (6, 0, r13)]) dX2_aPlace_202 (by decide) [1, 2, 3, 0, 4] rfl ?_
            refine g_goto (tgt := 99) dX2_aPlace_204 (by decide) ?_
            exact g_less [0, 1, 2, 3] rfl h
        · have h := h.2 c12
          refine g_iconst dX2_aPlace_150 (by decide) ?_
          refine g_goto (tgt := 156) dX2_aPlace_151 (by decide) ?_
          obtain ⟨_, _, _, k1, k2, k3, h⟩ := h
          refine g_callV (as := [(0, 0), (0, 5)]) (S := []) dX2_aPlace_156 kX2_passed q815 q817 qs14 (ci := 2) rfl (by decide) rfl rfl k1 (by decide) (sk_4 hs) k2 k3 (Nat.le_of_ble_eq_true rfl) (h.mono fun o27 μ27 q => rk_go q (fun r27 h => ?_) (fun a h => h))
          obtain ⟨hs, h⟩ := h
          refine g_istore (L' := [(0, 2, 4), (3, 2, v3), (4, 0, x9), (5, 0, v5), (6, 0, r27)]) dX2_aPlace_159 (by decide) [1, 2, 3, 4, 0] rfl ?_
          refine g_iload (q := 3) dX2_aPlace_161 rfl ?_
          refine g_iconst dX2_aPlace_163 (by decide) ?_
          refine g_icmp_ne (tgt := 176) dX2_aPlace_164 (by decide) (fun c28 => ?_) (fun c29 => ?_)
          · have h := h.1 c28
            refine g_iload (q := 3) dX2_aPlace_176 rfl ?_
            refine g_bipush dX2_aPlace_178 ⟨by decide, by decide, rfl⟩ ?_
            refine g_icmp_ne (tgt := 192) dX2_aPlace_180 (by decide) (fun c30 => ?_) (fun c31 => ?_)
            · have h := h.1 c30
              refine g_aload_n (q := 1) dX2_aPlace_192 rfl rfl ?_
              refine g_iload (q := 4) dX2_aPlace_193 rfl ?_
              obtain ⟨c32, h⟩ := h
              refine g_put dX2_aPlace_195 fX2_149 rfl c32.1 c32.2 (fun e => absurd e (by decide)) (p_r fun μ33 eμ33 => ?_)
              obtain ⟨hs, h⟩ := h μ33 eμ33
              refine g_aload_n (q := 0) dX2_aPlace_198 rfl rfl ?_
              obtain ⟨_, _, _, k1, k2, k3, h⟩ := h
              refine g_callV (as := []) (S := []) dX2_aPlace_199 kX2_key q692 q694 qs8 (ci := 2) rfl (by decide) rfl rfl k1 (by decide) (sk_4 hs) k2 k3 (Nat.le_of_ble_eq_true rfl) (h.mono fun o34 μ34 q => rk_go q (fun r34 h => ?_) (fun a h => h))
              obtain ⟨hs, h⟩ := h
              refine g_istore (L' := [(0, 2, 4), (3, 2, v3), (4, 0, x9), (5, 0, r34), (6, 0, r27)]) dX2_aPlace_202 (by decide) [1, 2, 3, 0, 4] rfl ?_
              refine g_goto (tgt := 99) dX2_aPlace_204 (by decide) ?_
              exact g_less [0, 1, 2, 3] rfl h
            · have h := h.2 c31
              refine g_aload_n (q := 1) dX2_aPlace_183 rfl rfl ?_
              refine g_iload (q := 4) dX2_aPlace_184 rfl ?_
              obtain ⟨c35, h⟩ := h
              refine g_put dX2_aPlace_186 fX2_146 rfl c35.1 c35.2 (fun e => absurd e (by decide)) (p_r fun μ36 eμ36 => ?_)
              obtain ⟨hs, h⟩ := h μ36 eμ36
              refine g_goto (tgt := 198) dX2_aPlace_189 (by decide) ?_
              refine g_aload_n (q := 0) dX2_aPlace_198 rfl rfl ?_
              obtain ⟨_, _, _, k1, k2, k3, h⟩ := h
              refine g_callV (as := []) (S := []) dX2_aPlace_199 kX2_key q692 q694 qs8 (ci := 2) rfl (by decide) rfl rfl k1 (by decide) (sk_4 hs) k2 k3 (Nat.le_of_ble_eq_true rfl) (h.mono fun o37 μ37 q => rk_go q (fun r37 h => ?_) (fun a h => h))
              obtain ⟨hs, h⟩ := h
              refine g_istore (L' := [(0, 2, 4), (3, 2, v3), (4, 0, x9), (5, 0, r37), (6, 0, r27)]) dX2_aPlace_202 (by decide) [1, 2, 3, 0, 4] rfl ?_
              refine g_goto (tgt := 99) dX2_aPlace_204 (by decide) ?_
              exact g_less [0, 1, 2, 3] rfl h
          · have h := h.2 c29
            refine g_aload_n (q := 1) dX2_aPlace_167 rfl rfl ?_
            refine g_iload (q := 4) dX2_aPlace_168 rfl ?_
            obtain ⟨c38, h⟩ := h
            refine g_put dX2_aPlace_170 fX2_143 rfl c38.1 c38.2 (fun e => absurd e (by decide)) (p_r fun μ39 eμ39 => ?_)
            obtain ⟨hs, h⟩ := h μ39 eμ39
            refine g_goto (tgt := 198) dX2_aPlace_173 (by decide) ?_
            refine g_aload_n (q := 0) dX2_aPlace_198 rfl rfl ?_
            obtain ⟨_, _, _, k1, k2, k3, h⟩ := h
            refine g_callV (as := []) (S := []) dX2_aPlace_199 kX2_key q692 q694 qs8 (ci := 2) rfl (by decide) rfl rfl k1 (by decide) (sk_4 hs) k2 k3 (Nat.le_of_ble_eq_true rfl) (h.mono fun o40 μ40 q => rk_go q (fun r40 h => ?_) (fun a h => h))
            obtain ⟨hs, h⟩ := h
            refine g_istore (L' := [(0, 2, 4), (3, 2, v3), (4, 0, x9), (5, 0, r40), (6, 0, r27)]) dX2_aPlace_202 (by decide) [1, 2, 3, 0, 4] rfl ?_
            refine g_goto (tgt := 99) dX2_aPlace_204 (by decide) ?_
            exact g_less [0, 1, 2, 3] rfl h
      · have h := h.2 c8
        refine g_aload_n (q := 0) dX2_aPlace_123 rfl rfl ?_
        refine g_iconst dX2_aPlace_124 (by decide) ?_
        obtain ⟨_, _, _, k1, k2, k3, h⟩ := h
        refine g_callV (as := [(0, 5)]) (S := []) dX2_aPlace_125 kX2_fail q753 q755 qs11 (ci := 2) rfl (by decide) rfl rfl k1 (by decide) (sk_4 hs) k2 k3 (Nat.le_of_ble_eq_true rfl) (h.mono fun o41 μ41 q => rk_go q (fun r41 h => ?_) (fun a h => h))
        obtain ⟨hs, h⟩ := h
        obtain ⟨c42, h⟩ := h
        exact g_athrow dX2_aPlace_128 c42.1 c42.2 h
theorem rX2_name_0 {d mc ms nc ns : Nat} {μ : tm_M} {Q : tQ} (hs : tS μ)
    (h : (tm_v μ 4 3 ≠ 2 → rcl mX2_need [(2, 4), (0, 0)] μ d mc ms nc ns (fun o3 μ3 nc3 ns3 => rkV o3 (tS μ3 ∧ ((∀ x4, x4 = tm_v μ3 4 4 → tH mX2_name d mc ms (tq Q mc ms) 46 [(0, 2, 4), (1, 1, 0), (3, 0, x4)] [] μ3 nc3 ns3))) (fun a => tT mX2_name d mc ms (tq Q mc ms) 36 [(0, 2, 4)] a μ3 nc3 ns3))) ∧ (tm_v μ 4 3 = 2 → (8 < w32 ((tm_v μ 4 5) - (tm_v μ 4 4)) → rcl mX2_need [(2, 4), (0, 0)] μ d mc ms nc ns (fun o7 μ7 nc7 ns7 => rkV o7 (tS μ7 ∧ ((∀ x8, x8 = tm_v μ7 4 4 → tH mX2_name d mc ms (tq Q mc ms) 46 [(0, 2, 4), (1, 1, 0), (3, 0, x8)] [] μ7 nc7 ns7))) (fun a => tT mX2_name d mc ms (tq Q mc ms) 36 [(0, 2, 4)] a μ7 nc7 ns7))) ∧ (w32 ((tm_v μ 4 5) - (tm_v μ 4 4)) ≤ 8 → rcl mX2_key [(2, 4)] μ d mc ms nc ns (fun o9 μ9 nc9 ns9 => rk 0 o9 (fun r9 => tS μ9 ∧ ((r9 ≠ -1 → rcl mX2_need [(2, 4), (0, 0)] μ9 d mc ms nc9 ns9 (fun o12 μ12 nc12 ns12 => rkV o12 (tS μ12 ∧ ((∀ x13, x13 = tm_v μ12 4 4 → tH mX2_name d mc ms (tq Q mc ms) 46 [(0, 2, 4), (1, 1, 0), (3, 0, x13)] [] μ12 nc12 ns12))) (fun a => tT mX2_name d mc ms (tq Q mc ms) 36 [(0, 2, 4)] a μ12 nc12 ns12))) ∧ (r9 = -1 → rcl mX2_need [(2, 4), (0, 1)] μ9 d mc ms nc9 ns9 (fun o14 μ14 nc14 ns14 => rkV o14 (tS μ14 ∧ ((∀ x15, x15 = tm_v μ14 4 4 → tH mX2_name d mc ms (tq Q mc ms) 46 [(0, 2, 4), (1, 1, 0), (3, 0, x15)] [] μ14 nc14 ns14))) (fun a => tT mX2_name d mc ms (tq Q mc ms) 36 [(0, 2, 4)] a μ14 nc14 ns14))))) (fun a => tT mX2_name d mc ms (tq Q mc ms) 24 [(0, 2, 4)] a μ9 nc9 ns9))))) :
    tH mX2_name d mc ms (tq Q mc ms) 0 [(0, 2, 4)] [] μ nc ns := by
  refine g_aload_n (q := 0) dX2_name_0 rfl rfl ?_
  refine g_aload_n (q := 0) dX2_name_1 rfl rfl ?_
  refine g_get 0 dX2_name_2 fX2_36 rfl (by decide) (sk_4 hs) ?_
  refine g_iconst dX2_name_5 (by decide) ?_
  refine g_icmp_ne (tgt := 35) dX2_name_6 (by decide) (fun c1 => ?_) (fun c2 => ?_)
  · have h := h.1 c1
    refine g_iconst dX2_name_35 (by decide) ?_
    obtain ⟨_, _, _, k1, k2, k3, h⟩ := h
    refine g_callV (as := [(0, 0)]) (S := []) dX2_name_36 kX2_need q749 q751 qs10 (ci := 2) rfl (by decide) rfl rfl k1 (by decide) (sk_4 hs) k2 k3 (Nat.le_of_ble_eq_true rfl) (h.mono fun o3 μ3 q => rk_goV q (fun h => ?_) (fun a h => h))
    obtain ⟨hs, h⟩ := h
    refine g_lconst0 dX2_name_39 ?_
    refine g_lstore_n (L' := [(0, 2, 4), (1, 1, 0)]) dX2_name_40 rfl (by decide) [1, 0] rfl ?_
    refine g_aload_n (q := 0) dX2_name_41 rfl rfl ?_
    refine g_get 0 dX2_name_42 fX2_30 rfl (by decide) (sk_4 hs) ?_
    refine g_istore_nN (fun z => [(0, 2, 4), (1, 1, 0), (3, 0, z)]) dX2_name_45 rfl (by decide) [1, 2, 0] (fun _ => rfl) (fun x4 ex4 => ?_)
    have h := h x4 ex4
    exact h
  · have h := h.2 c2
    refine g_aload_n (q := 0) dX2_name_9 rfl rfl ?_
    refine g_get 0 dX2_name_10 fX2_23 rfl (by decide) (sk_4 hs) ?_
    refine g_aload_n (q := 0) dX2_name_13 rfl rfl ?_
    refine g_get 0 dX2_name_14 fX2_30 rfl (by decide) (sk_4 hs) ?_
    refine g_isub dX2_name_17 ?_
    refine g_bipush dX2_name_18 ⟨by decide, by decide, rfl⟩ ?_
    refine g_icmp_gt (tgt := 35) dX2_name_20 (by decide) (fun c5 => ?_) (fun c6 => ?_)
    · have h := h.1 c5
      refine g_iconst dX2_name_35 (by decide) ?_
      obtain ⟨_, _, _, k1, k2, k3, h⟩ := h
      refine g_callV (as := [(0, 0)]) (S := []) dX2_name_36 kX2_need q749 q751 qs10 (ci := 2) rfl (by decide) rfl rfl k1 (by decide) (sk_4 hs) k2 k3 (Nat.le_of_ble_eq_true rfl) (h.mono fun o7 μ7 q => rk_goV q (fun h => ?_) (fun a h => h))
      obtain ⟨hs, h⟩ := h
      refine g_lconst0 dX2_name_39 ?_
      refine g_lstore_n (L' := [(0, 2, 4), (1, 1, 0)]) dX2_name_40 rfl (by decide) [1, 0] rfl ?_
      refine g_aload_n (q := 0) dX2_name_41 rfl rfl ?_
      refine g_get 0 dX2_name_42 fX2_30 rfl (by decide) (sk_4 hs) ?_
      refine g_istore_nN (fun z => [(0, 2, 4), (1, 1, 0), (3, 0, z)]) dX2_name_45 rfl (by decide) [1, 2, 0] (fun _ => rfl) (fun x8 ex8 => ?_)
      have h := h x8 ex8
      exact h
    · have h := h.2 c6
      refine g_aload_n (q := 0) dX2_name_23 rfl rfl ?_
      obtain ⟨_, _, _, k1, k2, k3, h⟩ := h
      refine g_callV (as := []) (S := [(2, 4)]) dX2_name_24 kX2_key q692 q694 qs8 (ci := 2) rfl (by decide) rfl rfl k1 (by decide) (sk_4 hs) k2 k3 (Nat.le_of_ble_eq_true rfl) (h.mono fun o9 μ9 q => rk_go q (fun r9 h => ?_) (fun a h => h))
      obtain ⟨hs, h⟩ := h
      refine g_iconst dX2_name_27 (by decide) ?_
      refine g_icmp_ne (tgt := 35) dX2_name_28 (by decide) (fun c10 => ?_) (fun c11 => ?_)
      · have h := h.1 c10
        refine g_iconst dX2_name_35 (by decide) ?_
        obtain ⟨_, _, _, k1, k2, k3, h⟩ := h
        refine g_callV (as := [(0, 0)]) (S := []) dX2_name_36 kX2_need q749 q751 qs10 (ci := 2) rfl (by decide) rfl rfl k1 (by decide) (sk_4 hs) k2 k3 (Nat.le_of_ble_eq_true rfl) (h.mono fun o12 μ12 q => rk_goV q (fun h => ?_) (fun a h => h))
        obtain ⟨hs, h⟩ := h
        refine g_lconst0 dX2_name_39 ?_
        refine g_lstore_n (L' := [(0, 2, 4), (1, 1, 0)]) dX2_name_40 rfl (by decide) [1, 0] rfl ?_
        refine g_aload_n (q := 0) dX2_name_41 rfl rfl ?_
        refine g_get 0 dX2_name_42 fX2_30 rfl (by decide) (sk_4 hs) ?_
        refine g_istore_nN (fun z => [(0, 2, 4), (1, 1, 0), (3, 0, z)]) dX2_name_45 rfl (by decide) [1, 2, 0] (fun _ => rfl) (fun x13 ex13 => ?_)
        have h := h x13 ex13
        exact h
      · have h := h.2 c11
        refine g_iconst dX2_name_31 (by decide) ?_
        refine g_goto (tgt := 36) dX2_name_32 (by decide) ?_
        obtain ⟨_, _, _, k1, k2, k3, h⟩ := h
        refine g_callV (as := [(0, 1)]) (S := []) dX2_name_36 kX2_need q749 q751 qs10 (ci := 2) rfl (by decide) rfl rfl k1 (by decide) (sk_4 hs) k2 k3 (Nat.le_of_ble_eq_true rfl) (h.mono fun o14 μ14 q => rk_goV q (fun h => ?_) (fun a h => h))
        obtain ⟨hs, h⟩ := h
        refine g_lconst0 dX2_name_39 ?_
        refine g_lstore_n (L' := [(0, 2, 4), (1, 1, 0)]) dX2_name_40 rfl (by decide) [1, 0] rfl ?_
        refine g_aload_n (q := 0) dX2_name_41 rfl rfl ?_
        refine g_get 0 dX2_name_42 fX2_30 rfl (by decide) (sk_4 hs) ?_
        refine g_istore_nN (fun z => [(0, 2, 4), (1, 1, 0), (3, 0, z)]) dX2_name_45 rfl (by decide) [1, 2, 0] (fun _ => rfl) (fun x15 ex15 => ?_)
        have h := h x15 ex15
        exact h
theorem rX2_name_46 {d mc ms nc ns : Nat} {μ : tm_M} {Q : tQ} {v1 v3 : Int} (hs : tS μ)
    (h : (tm_v μ 4 5 ≤ v3 → (nc ≤ mc ∧ ns ≤ ms) ∧ (Q (.inl (some (1, v1))) μ)) ∧ (v3 < tm_v μ 4 5 → rcl mX2_at [(2, 4), (0, v3)] μ d mc ms nc ns (fun o4 μ4 nc4 ns4 => rk 0 o4 (fun r4 => tS μ4 ∧ ((∀ x5, x5 = l_or (l_shl v1 8) r4 → tH mX2_name d mc ms (tq Q mc ms) 46 [(0, 2, 4), (1, 1, x5), (3, 0, w32 (v3 + 1))] [] μ4 nc4 ns4))) (fun a => tT mX2_name d mc ms (tq Q mc ms) 60 [(0, 2, 4), (1, 1, v1), (3, 0, v3)] a μ4 nc4 ns4)))) :
    tH mX2_name d mc ms (tq Q mc ms) 46 [(0, 2, 4), (1, 1, v1), (3, 0, v3)] [] μ nc ns := by
  refine g_iload_n (q := 2) dX2_name_46 rfl rfl ?_
  refine g_aload_n (q := 0) dX2_name_47 rfl rfl ?_
  refine g_get 0 dX2_name_48 fX2_23 rfl (by decide) (sk_4 hs) ?_
  refine g_icmp_ge (tgt := 72) dX2_name_51 (by decide) (fun c1 => ?_) (fun c2 => ?_)
  · have h := h.1 c1
    refine g_lload_n (q := 1) dX2_name_72 rfl rfl ?_
    obtain ⟨c3, h⟩ := h
    exact g_lret dX2_name_73 rfl c3.1 c3.2 h
  · have h := h.2 c2
    refine g_lload_n (q := 1) dX2_name_54 rfl rfl ?_
    refine g_bipush dX2_name_55 ⟨by decide, by decide, rfl⟩ ?_
    refine g_lshl dX2_name_57 ?_
    refine g_aload_n (q := 0) dX2_name_58 rfl rfl ?_
    refine g_iload_n (q := 2) dX2_name_59 rfl rfl ?_
    obtain ⟨_, _, _, k1, k2, k3, h⟩ := h
    refine g_callV (as := [(0, v3)]) (S := [(1, l_shl v1 8)]) dX2_name_60 kX2_at q675 q677 qs6 (ci := 2) rfl (by decide) rfl rfl k1 (by decide) (sk_4 hs) k2 k3 (Nat.le_of_ble_eq_true rfl) (h.mono fun o4 μ4 q => rk_go q (fun r4 h => ?_) (fun a h => h))
    obtain ⟨hs, h⟩ := h
    refine g_i2l dX2_name_63 ?_
    refine g_lor dX2_name_64 ?_
    refine g_lstore_nN (fun z => [(0, 2, 4), (1, 1, z), (3, 0, v3)]) dX2_name_65 rfl (by decide) [1, 0, 2] (fun _ => rfl) (fun x5 ex5 => ?_)
    have h := h x5 ex5
    refine g_iinc (q := 2) dX2_name_66 (by decide) rfl [1, 2, 0] rfl ?_
    refine g_goto (tgt := 46) dX2_name_69 (by decide) ?_
    exact h
theorem rX2_passed_0 {d mc ms nc ns : Nat} {μ : tm_M} {Q : tQ} {v1 v2 : Int} (hs : tS μ)
    (h : (tm_v μ 4 3 ≠ 3 → rcl mX2_need [(2, 4), (0, 0)] μ d mc ms nc ns (fun o3 μ3 nc3 ns3 => rkV o3 (tS μ3 ∧ ((tm_v μ3 4 6 < v1 → tH mX2_passed d mc ms (tq Q mc ms) 33 [(0, 2, 4)] [] μ3 nc3 ns3) ∧ (v1 ≤ tm_v μ3 4 6 → (tm_v μ3 4 6 ≤ v2 → (∀ x8, x8 = tm_v μ3 4 6 → rcl mX2_next [(2, 4)] μ3 d mc ms nc3 ns3 (fun o9 μ9 nc9 ns9 => rkV o9 (tS μ9 ∧ ((nc9 ≤ mc ∧ ns9 ≤ ms) ∧ (Q (.inl (some (0, x8))) μ9))) (fun a => tT mX2_passed d mc ms (tq Q mc ms) 45 [(0, 2, 4), (1, 0, v1), (2, 0, v2), (3, 0, x8)] a μ9 nc9 ns9)))) ∧ (v2 < tm_v μ3 4 6 → tH mX2_passed d mc ms (tq Q mc ms) 33 [(0, 2, 4)] [] μ3 nc3 ns3)))) (fun a => tT mX2_passed d mc ms (tq Q mc ms) 14 [(0, 2, 4), (1, 0, v1), (2, 0, v2)] a μ3 nc3 ns3))) ∧ (tm_v μ 4 3 = 3 → rcl mX2_need [(2, 4), (0, 1)] μ d mc ms nc ns (fun o11 μ11 nc11 ns11 => rkV o11 (tS μ11 ∧ ((tm_v μ11 4 6 < v1 → tH mX2_passed d mc ms (tq Q mc ms) 33 [(0, 2, 4)] [] μ11 nc11 ns11) ∧ (v1 ≤ tm_v μ11 4 6 → (tm_v μ11 4 6 ≤ v2 → (∀ x16, x16 = tm_v μ11 4 6 → rcl mX2_next [(2, 4)] μ11 d mc ms nc11 ns11 (fun o17 μ17 nc17 ns17 => rkV o17 (tS μ17 ∧ ((nc17 ≤ mc ∧ ns17 ≤ ms) ∧ (Q (.inl (some (0, x16))) μ17))) (fun a => tT mX2_passed d mc ms (tq Q mc ms) 45 [(0, 2, 4), (1, 0, v1), (2, 0, v2), (3, 0, x16)] a μ17 nc17 ns17)))) ∧ (v2 < tm_v μ11 4 6 → tH mX2_passed d mc ms (tq Q mc ms) 33 [(0, 2, 4)] [] μ11 nc11 ns11)))) (fun a => tT mX2_passed d mc ms (tq Q mc ms) 14 [(0, 2, 4), (1, 0, v1), (2, 0, v2)] a μ11 nc11 ns11)))) :
    tH mX2_passed d mc ms (tq Q mc ms) 0 [(0, 2, 4), (1, 0, v1), (2, 0, v2)] [] μ nc ns := by
  refine g_aload_n (q := 0) dX2_passed_0 rfl rfl ?_
  refine g_aload_n (q := 0) dX2_passed_1 rfl rfl ?_
  refine g_get 0 dX2_passed_2 fX2_36 rfl (by decide) (sk_4 hs) ?_
  refine g_iconst dX2_passed_5 (by decide) ?_
  refine g_icmp_ne (tgt := 13) dX2_passed_6 (by decide) (fun c1 => ?_) (fun c2 => ?_)
  · have h := h.1 c1
    refine g_iconst dX2_passed_13 (by decide) ?_
    obtain ⟨_, _, _, k1, k2, k3, h⟩ := h
    refine g_callV (as := [(0, 0)]) (S := []) dX2_passed_14 kX2_need q749 q751 qs10 (ci := 2) rfl (by decide) rfl rfl k1 (by decide) (sk_4 hs) k2 k3 (Nat.le_of_ble_eq_true rfl) (h.mono fun o3 μ3 q => rk_goV q (fun h => ?_) (fun a h => h))
    obtain ⟨hs, h⟩ := h
    refine g_aload_n (q := 0) dX2_passed_17 rfl rfl ?_
    refine g_get 0 dX2_passed_18 fX2_33 rfl (by decide) (sk_4 hs) ?_
    refine g_iload_n (q := 1) dX2_passed_21 rfl rfl ?_
    refine g_icmp_lt (tgt := 33) dX2_passed_22 (by decide) (fun c4 => ?_) (fun c5 => ?_)
    · have h := h.1 c4
      exact g_less [0] rfl h
    · have h := h.2 c5
      refine g_aload_n (q := 0) dX2_passed_25 rfl rfl ?_
      refine g_get 0 dX2_passed_26 fX2_33 rfl (by decide) (sk_4 hs) ?_
      refine g_iload_n (q := 2) dX2_passed_29 rfl rfl ?_
      refine g_icmp_le (tgt := 39) dX2_passed_30 (by decide) (fun c6 => ?_) (fun c7 => ?_)
      · have h := h.1 c6
        refine g_aload_n (q := 0) dX2_passed_39 rfl rfl ?_
        refine g_get 0 dX2_passed_40 fX2_33 rfl (by decide) (sk_4 hs) ?_
        refine g_istore_nN (fun z => [(0, 2, 4), (1, 0, v1), (2, 0, v2), (3, 0, z)]) dX2_passed_43 rfl (by decide) [1, 2, 3, 0] (fun _ => rfl) (fun x8 ex8 => ?_)
        have h := h x8 ex8
        refine g_aload_n (q := 0) dX2_passed_44 rfl rfl ?_
        obtain ⟨_, _, _, k1, k2, k3, h⟩ := h
        refine g_callV (as := []) (S := []) dX2_passed_45 kX2_next q671 q673 qs5 (ci := 2) rfl (by decide) rfl rfl k1 (by decide) (sk_4 hs) k2 k3 (Nat.le_of_ble_eq_true rfl) (h.mono fun o9 μ9 q => rk_goV q (fun h => ?_) (fun a h => h))
        obtain ⟨hs, h⟩ := h
        refine g_iload_n (q := 3) dX2_passed_48 rfl rfl ?_
        obtain ⟨c10, h⟩ := h
        exact g_iret dX2_passed_49 rfl c10.1 c10.2 h
      · have h := h.2 c7
        exact g_less [0] rfl h
  · have h := h.2 c2
    refine g_iconst dX2_passed_9 (by decide) ?_
    refine g_goto (tgt := 14) dX2_passed_10 (by decide) ?_
    obtain ⟨_, _, _, k1, k2, k3, h⟩ := h
    refine g_callV (as := [(0, 1)]) (S := []) dX2_passed_14 kX2_need q749 q751 qs10 (ci := 2) rfl (by decide) rfl rfl k1 (by decide) (sk_4 hs) k2 k3 (Nat.le_of_ble_eq_true rfl) (h.mono fun o11 μ11 q => rk_goV q (fun h => ?_) (fun a h => h))
    obtain ⟨hs, h⟩ := h
    refine g_aload_n (q := 0) dX2_passed_17 rfl rfl ?_
    refine g_get 0 dX2_passed_18 fX2_33 rfl (by decide) (sk_4 hs) ?_
    refine g_iload_n (q := 1) dX2_passed_21 rfl rfl ?_
    refine g_icmp_lt (tgt := 33) dX2_passed_22 (by decide) (fun c12 => ?_) (fun c13 => ?_)
    · have h := h.1 c12
      exact g_less [0] rfl h
    · have h := h.2 c13
      refine g_aload_n (q := 0) dX2_passed_25 rfl rfl ?_
      refine g_get 0 dX2_passed_26 fX2_33 rfl (by decide) (sk_4 hs) ?_
      refine g_iload_n (q := 2) dX2_passed_29 rfl rfl ?_
      refine g_icmp_le (tgt := 39) dX2_passed_30 (by decide) (fun c14 => ?_) (fun c15 => ?_)
      · have h := h.1 c14
        refine g_aload_n (q := 0) dX2_passed_39 rfl rfl ?_
        refine g_get 0 dX2_passed_40 fX2_33 rfl (by decide) (sk_4 hs) ?_
        refine g_istore_nN (fun z => [(0, 2, 4), (1, 0, v1), (2, 0, v2), (3, 0, z)]) dX2_passed_43 rfl (by decide) [1, 2, 3, 0] (fun _ => rfl) (fun x16 ex16 => ?_)
        have h := h x16 ex16
        refine g_aload_n (q := 0) dX2_passed_44 rfl rfl ?_
        obtain ⟨_, _, _, k1, k2, k3, h⟩ := h
        refine g_callV (as := []) (S := []) dX2_passed_45 kX2_next q671 q673 qs5 (ci := 2) rfl (by decide) rfl rfl k1 (by decide) (sk_4 hs) k2 k3 (Nat.le_of_ble_eq_true rfl) (h.mono fun o17 μ17 q => rk_goV q (fun h => ?_) (fun a h => h))
        obtain ⟨hs, h⟩ := h
        refine g_iload_n (q := 3) dX2_passed_48 rfl rfl ?_
        obtain ⟨c18, h⟩ := h
        exact g_iret dX2_passed_49 rfl c18.1 c18.2 h
      · have h := h.2 c15
        exact g_less [0] rfl h
theorem rX2_passed_33 {d mc ms nc ns : Nat} {μ : tm_M} {Q : tQ} (hs : tS μ)
    (h : rcl mX2_fail [(2, 4), (0, 4)] μ d mc ms nc ns (fun o1 μ1 nc1 ns1 => rk 2 o1 (fun r1 => tS μ1 ∧ ((1 ≤ r1 ∧ tm_k μ1 r1 = 1) ∧ (tT mX2_passed d mc ms (tq Q mc ms) 38 [(0, 2, 4)] r1 μ1 nc1 ns1))) (fun a => tT mX2_passed d mc ms (tq Q mc ms) 35 [(0, 2, 4)] a μ1 nc1 ns1))) :
    tH mX2_passed d mc ms (tq Q mc ms) 33 [(0, 2, 4)] [] μ nc ns := by
  refine g_aload_n (q := 0) dX2_passed_33 rfl rfl ?_
  refine g_iconst dX2_passed_34 (by decide) ?_
  obtain ⟨_, _, _, k1, k2, k3, h⟩ := h
  refine g_callV (as := [(0, 4)]) (S := []) dX2_passed_35 kX2_fail q753 q755 qs11 (ci := 2) rfl (by decide) rfl rfl k1 (by decide) (sk_4 hs) k2 k3 (Nat.le_of_ble_eq_true rfl) (h.mono fun o1 μ1 q => rk_go q (fun r1 h => ?_) (fun a h => h))
  obtain ⟨hs, h⟩ := h
  obtain ⟨c2, h⟩ := h
  exact g_athrow dX2_passed_38 c2.1 c2.2 h
theorem rX2_aLane_0 {d mc ms nc ns : Nat} {μ : tm_M} {Q : tQ} (hs : tS μ)
    (h : rcl mX2_free [(2, 4), (2, 0)] μ d mc ms nc ns (fun o1 μ1 nc1 ns1 => rk 2 o1 (fun r1 => tS μ1 ∧ (rcl mX2_next [(2, 4)] μ1 d mc ms nc1 ns1 (fun o2 μ2 nc2 ns2 => rkV o2 (tS μ2 ∧ (rcl mX2_key [(2, 4)] μ2 d mc ms nc2 ns2 (fun o3 μ3 nc3 ns3 => rk 0 o3 (fun r3 => tS μ3 ∧ ((r3 ≠ 8 → rcl mX2_need [(2, 4), (0, 0)] μ3 d mc ms nc3 ns3 (fun o6 μ6 nc6 ns6 => rkV o6 (tS μ6 ∧ (rcl mX2_next [(2, 4)] μ6 d mc ms nc6 ns6 (fun o7 μ7 nc7 ns7 => rkV o7 (tS μ7 ∧ (rcl mX2_free [(2, 4), (2, r1)] μ7 d mc ms nc7 ns7 (fun o8 μ8 nc8 ns8 => rk 2 o8 (fun r8 => tS μ8 ∧ (rcl mX2_next [(2, 4)] μ8 d mc ms nc8 ns8 (fun o9 μ9 nc9 ns9 => rkV o9 (tS μ9 ∧ ((nc9 + 1 ≤ mc ∧ ns9 + 3 ≤ ms) ∧ ((∀ μ11, μ11 = tm_a μ9 8 3 → tS μ11 ∧ ((1 ≤ tm_z μ9) ∧ (rcl mX8_init [(2, tm_z μ9), (2, r1), (2, r8)] μ11 d mc ms (nc9 + 1) (ns9 + 3) (fun o13 μ13 nc13 ns13 => rkV o13 (tS μ13 ∧ ((∀ x14, x14 = tm_z μ9 → (1 ≤ r1 ∧ tm_k μ13 r1 = 7) ∧ (rcl mX7_add [(2, r1), (2, x14)] μ13 d mc ms nc13 ns13 (fun o16 μ16 nc16 ns16 => rkV o16 (tS μ16 ∧ ((1 ≤ r8 ∧ tm_k μ16 r8 = 7) ∧ (rcl mX7_add [(2, r8), (2, x14)] μ16 d mc ms nc16 ns16 (fun o18 μ18 nc18 ns18 => rkV o18 (tS μ18 ∧ ((1 ≤ tm_v μ18 4 8 ∧ tm_k μ18 (tm_v μ18 4 8) = 4) ∧ ((1 ≤ tm_v μ18 (tm_v μ18 4 8) 1 ∧ tm_k μ18 (tm_v μ18 (tm_v μ18 4 8) 1) = 27) ∧ ((0 ≤ tm_v μ18 (tm_v μ18 4 8) 3 ∧ tm_v μ18 (tm_v μ18 4 8) 3 < tm_n μ18 (tm_v μ18 (tm_v μ18 4 8) 1)) ∧ ((1 ≤ x14 ∧ tm_k μ18 x14 = 8) ∧ ((∀ μ23, μ23 = tm_w μ18 (tm_v μ18 (tm_v μ18 4 8) 1) (tm_v μ18 (tm_v μ18 4 8) 3) x14 → tS μ23 ∧ ((1 ≤ tm_v μ23 4 8 ∧ tm_k μ23 (tm_v μ23 4 8) = 4) ∧ ((∀ μ25, μ25 = tm_w μ23 (tm_v μ23 4 8) 3 (w32 ((tm_v μ23 (tm_v μ23 4 8) 3) + 1)) → tS μ25 ∧ ((nc18 ≤ mc ∧ ns18 ≤ ms) ∧ (Q (.inl none) μ25)))))))))))) (fun a => tT mX2_aLane d mc ms (tq Q mc ms) 59 [(0, 2, 4), (1, 2, r1), (2, 2, r8), (3, 2, x14)] a μ18 nc18 ns18))))) (fun a => tT mX2_aLane d mc ms (tq Q mc ms) 54 [(0, 2, 4), (1, 2, r1), (2, 2, r8), (3, 2, x14)] a μ16 nc16 ns16)))))) (fun a => tT mX2_aLane d mc ms (tq Q mc ms) 48 [(0, 2, 4), (1, 2, r1), (2, 2, r8)] a μ13 nc13 ns13)))))))) (fun a => tT mX2_aLane d mc ms (tq Q mc ms) 39 [(0, 2, 4), (1, 2, r1), (2, 2, r8)] a μ9 nc9 ns9)))) (fun a => tT mX2_aLane d mc ms (tq Q mc ms) 34 [(0, 2, 4), (1, 2, r1)] a μ8 nc8 ns8)))) (fun a => tT mX2_aLane d mc ms (tq Q mc ms) 29 [(0, 2, 4), (1, 2, r1)] a μ7 nc7 ns7)))) (fun a => tT mX2_aLane d mc ms (tq Q mc ms) 25 [(0, 2, 4), (1, 2, r1)] a μ6 nc6 ns6))) ∧ (r3 = 8 → rcl mX2_need [(2, 4), (0, 1)] μ3 d mc ms nc3 ns3 (fun o27 μ27 nc27 ns27 => rkV o27 (tS μ27 ∧ (rcl mX2_next [(2, 4)] μ27 d mc ms nc27 ns27 (fun o28 μ28 nc28 ns28 => rkV o28 (tS μ28 ∧ (rcl mX2_free [(2, 4), (2, r1)] μ28 d mc ms nc28 ns28 (fun o29 μ29 nc29 ns29 => rk 2 o29 (fun r29 => tS μ29 ∧ (rcl mX2_next [(2, 4)] μ29 d mc ms nc29 ns29 (fun o30 μ30 nc30 ns30 => rkV o30 (tS μ30 ∧ ((nc30 + 1 ≤ mc ∧ ns30 + 3 ≤ ms) ∧ ((∀ μ32, μ32 = tm_a μ30 8 3 → tS μ32 ∧ ((1 ≤ tm_z μ30) ∧ (rcl mX8_init [(2, tm_z μ30), (2, r1), (2, r29)] μ32 d mc ms (nc30 + 1) (ns30 + 3) (fun o34 μ34 nc34 ns34 => rkV o34 (tS μ34 ∧ ((∀ x35, x35 = tm_z μ30 → (1 ≤ r1 ∧ tm_k μ34 r1 = 7) ∧ (rcl mX7_add [(2, r1), (2, x35)] μ34 d mc ms nc34 ns34 (fun o37 μ37 nc37 ns37 => rkV o37 (tS μ37 ∧ ((1 ≤ r29 ∧ tm_k μ37 r29 = 7) ∧ (rcl mX7_add [(2, r29), (2, x35)] μ37 d mc ms nc37 ns37 (fun o39 μ39 nc39 ns39 => rkV o39 (tS μ39 ∧ ((1 ≤ tm_v μ39 4 8 ∧ tm_k μ39 (tm_v μ39 4 8) = 4) ∧ ((1 ≤ tm_v μ39 (tm_v μ39 4 8) 1 ∧ tm_k μ39 (tm_v μ39 (tm_v μ39 4 8) 1) = 27) ∧ ((0 ≤ tm_v μ39 (tm_v μ39 4 8) 3 ∧ tm_v μ39 (tm_v μ39 4 8) 3 < tm_n μ39 (tm_v μ39 (tm_v μ39 4 8) 1)) ∧ ((1 ≤ x35 ∧ tm_k μ39 x35 = 8) ∧ ((∀ μ44, μ44 = tm_w μ39 (tm_v μ39 (tm_v μ39 4 8) 1) (tm_v μ39 (tm_v μ39 4 8) 3) x35 → tS μ44 ∧ ((1 ≤ tm_v μ44 4 8 ∧ tm_k μ44 (tm_v μ44 4 8) = 4) ∧ ((∀ μ46, μ46 = tm_w μ44 (tm_v μ44 4 8) 3 (w32 ((tm_v μ44 (tm_v μ44 4 8) 3) + 1)) → tS μ46 ∧ ((nc39 ≤ mc ∧ ns39 ≤ ms) ∧ (Q (.inl none) μ46)))))))))))) (fun a => tT mX2_aLane d mc ms (tq Q mc ms) 59 [(0, 2, 4), (1, 2, r1), (2, 2, r29), (3, 2, x35)] a μ39 nc39 ns39))))) (fun a => tT mX2_aLane d mc ms (tq Q mc ms) 54 [(0, 2, 4), (1, 2, r1), (2, 2, r29), (3, 2, x35)] a μ37 nc37 ns37)))))) (fun a => tT mX2_aLane d mc ms (tq Q mc ms) 48 [(0, 2, 4), (1, 2, r1), (2, 2, r29)] a μ34 nc34 ns34)))))))) (fun a => tT mX2_aLane d mc ms (tq Q mc ms) 39 [(0, 2, 4), (1, 2, r1), (2, 2, r29)] a μ30 nc30 ns30)))) (fun a => tT mX2_aLane d mc ms (tq Q mc ms) 34 [(0, 2, 4), (1, 2, r1)] a μ29 nc29 ns29)))) (fun a => tT mX2_aLane d mc ms (tq Q mc ms) 29 [(0, 2, 4), (1, 2, r1)] a μ28 nc28 ns28)))) (fun a => tT mX2_aLane d mc ms (tq Q mc ms) 25 [(0, 2, 4), (1, 2, r1)] a μ27 nc27 ns27))))) (fun a => tT mX2_aLane d mc ms (tq Q mc ms) 12 [(0, 2, 4), (1, 2, r1)] a μ3 nc3 ns3)))) (fun a => tT mX2_aLane d mc ms (tq Q mc ms) 7 [(0, 2, 4), (1, 2, r1)] a μ2 nc2 ns2)))) (fun a => tT mX2_aLane d mc ms (tq Q mc ms) 2 [(0, 2, 4)] a μ1 nc1 ns1))) :
    tH mX2_aLane d mc ms (tq Q mc ms) 0 [(0, 2, 4)] [] μ nc ns := by
  refine g_aload_n (q := 0) dX2_aLane_0 rfl rfl ?_
  refine g_anull dX2_aLane_1 ?_
  obtain ⟨_, _, _, k1, k2, k3, h⟩ := h
  refine g_callV (as := [(2, 0)]) (S := []) dX2_aLane_2 kX2_free q823 q825 qs16 (ci := 2) rfl (by decide) rfl rfl k1 (by decide) (sk_4 hs) k2 k3 (Nat.le_of_ble_eq_true rfl) (h.mono fun o1 μ1 q => rk_go q (fun r1 h => ?_) (fun a h => h))
  obtain ⟨hs, h⟩ := h
  refine g_astore_n (L' := [(0, 2, 4), (1, 2, r1)]) dX2_aLane_5 rfl (by decide) [1, 0] rfl ?_
  refine g_aload_n (q := 0) dX2_aLane_6 rfl rfl ?_
  obtain ⟨_, _, _, k1, k2, k3, h⟩ := h
  refine g_callV (as := []) (S := []) dX2_aLane_7 kX2_next q671 q673 qs5 (ci := 2) rfl (by decide) rfl rfl k1 (by decide) (sk_4 hs) k2 k3 (Nat.le_of_ble_eq_true rfl) (h.mono fun o2 μ2 q => rk_goV q (fun h => ?_) (fun a h => h))
  obtain ⟨hs, h⟩ := h
  refine g_aload_n (q := 0) dX2_aLane_10 rfl rfl ?_
  refine g_aload_n (q := 0) dX2_aLane_11 rfl rfl ?_
  obtain ⟨_, _, _, k1, k2, k3, h⟩ := h
  refine g_callV (as := []) (S := [(2, 4)]) dX2_aLane_12 kX2_key q692 q694 qs8 (ci := 2) rfl (by decide) rfl rfl k1 (by decide) (sk_4 hs) k2 k3 (Nat.le_of_ble_eq_true rfl) (h.mono fun o3 μ3 q => rk_go q (fun r3 h => ?_) (fun a h => h))
  obtain ⟨hs, h⟩ := h
  refine g_bipush dX2_aLane_15 ⟨by decide, by decide, rfl⟩ ?_
  refine g_icmp_ne (tgt := 24) dX2_aLane_17 (by decide) (fun c4 => ?_) (fun c5 => ?_)
  · have h := h.1 c4
    refine g_iconst dX2_aLane_24 (by decide) ?_
    obtain ⟨_, _, _, k1, k2, k3, h⟩ := h
    refine g_callV (as := [(0, 0)]) (S := []) dX2_aLane_25 kX2_need q749 q751 qs10 (ci := 2) rfl (by decide) rfl rfl k1 (by decide) (sk_4 hs) k2 k3 (Nat.le_of_ble_eq_true rfl) (h.mono fun o6 μ6 q => rk_goV q (fun h => ?_) (fun a h => h))
    obtain ⟨hs, h⟩ := h
    refine g_aload_n (q := 0) dX2_aLane_28 rfl rfl ?_
    obtain ⟨_, _, _, k1, k2, k3, h⟩ := h
    refine g_callV (as := []) (S := []) dX2_aLane_29 kX2_next q671 q673 qs5 (ci := 2) rfl (by decide) rfl rfl k1 (by decide) (sk_4 hs) k2 k3 (Nat.le_of_ble_eq_true rfl) (h.mono fun o7 μ7 q => rk_goV q (fun h => ?_) (fun a h => h))
    obtain ⟨hs, h⟩ := h
    refine g_aload_n (q := 0) dX2_aLane_32 rfl rfl ?_
    refine g_aload_n (q := 1) dX2_aLane_33 rfl rfl ?_
    obtain ⟨_, _, _, k1, k2, k3, h⟩ := h
    refine g_callV (as := [(2, r1)]) (S := []) dX2_aLane_34 kX2_free q823 q825 qs16 (ci := 2) rfl (by decide) rfl rfl k1 (by decide) (sk_4 hs) k2 k3 (Nat.le_of_ble_eq_true rfl) (h.mono fun o8 μ8 q => rk_go q (fun r8 h => ?_) (fun a h => h))
    obtain ⟨hs, h⟩ := h
    refine g_astore_n (L' := [(0, 2, 4), (1, 2, r1), (2, 2, r8)]) dX2_aLane_37 rfl (by decide) [1, 2, 0] rfl ?_
    refine g_aload_n (q := 0) dX2_aLane_38 rfl rfl ?_
    obtain ⟨_, _, _, k1, k2, k3, h⟩ := h
    refine g_callV (as := []) (S := []) dX2_aLane_39 kX2_next q671 q673 qs5 (ci := 2) rfl (by decide) rfl rfl k1 (by decide) (sk_4 hs) k2 k3 (Nat.le_of_ble_eq_true rfl) (h.mono fun o9 μ9 q => rk_goV q (fun h => ?_) (fun a h => h))
    obtain ⟨hs, h⟩ := h
    obtain ⟨c10, h⟩ := h
    refine g_new dX2_aLane_42 ck8 (by decide) q835 q836 q137 c10.1 c10.2 (p_r fun μ11 eμ11 => ?_)
    obtain ⟨hs, h⟩ := h μ11 eμ11
    refine g_dup dX2_aLane_45 (by decide) ?_
    refine g_aload_n (q := 1) dX2_aLane_46 rfl rfl ?_
    refine g_aload_n (q := 2) dX2_aLane_47 rfl rfl ?_
    obtain ⟨c12, h⟩ := h
    obtain ⟨_, _, _, k1, k2, k3, h⟩ := h
    refine g_callI (as := [(2, r1), (2, r8)]) (S := [(2, tm_z μ9)]) dX2_aLane_48 kX8_init rfl rfl rfl q837 q838 rfl rfl k1 c12 k2 k3 (Nat.le_of_ble_eq_true rfl) (h.mono fun o13 μ13 q => rk_goV q (fun h => ?_) (fun a h => h))
    obtain ⟨hs, h⟩ := h
    refine g_astore_nN (fun z => [(0, 2, 4), (1, 2, r1), (2, 2, r8), (3, 2, z)]) dX2_aLane_51 rfl (by decide) [1, 2, 3, 0] (fun _ => rfl) (fun x14 ex14 => ?_)
    have h := h x14 ex14
    refine g_aload_n (q := 1) dX2_aLane_52 rfl rfl ?_
    refine g_aload_n (q := 3) dX2_aLane_53 rfl rfl ?_
    obtain ⟨c15, h⟩ := h
    obtain ⟨_, _, _, k1, k2, k3, h⟩ := h
    refine g_callV (as := [(2, x14)]) (S := []) dX2_aLane_54 kX7_add q852 q853 q854 (ci := 7) rfl (by decide) rfl rfl k1 c15.1 c15.2 k2 k3 (Nat.le_of_ble_eq_true rfl) (h.mono fun o16 μ16 q => rk_goV q (fun h => ?_) (fun a h => h))
    obtain ⟨hs, h⟩ := h
    refine g_aload_n (q := 2) dX2_aLane_57 rfl rfl ?_
    refine g_aload_n (q := 3) dX2_aLane_58 rfl rfl ?_
    obtain ⟨c17, h⟩ := h
    obtain ⟨_, _, _, k1, k2, k3, h⟩ := h
    refine g_callV (as := [(2, x14)]) (S := []) dX2_aLane_59 kX7_add q852 q853 q854 (ci := 7) rfl (by decide) rfl rfl k1 c17.1 c17.2 k2 k3 (Nat.le_of_ble_eq_true rfl) (h.mono fun o18 μ18 q => rk_goV q (fun h => ?_) (fun a h => h))
    obtain ⟨hs, h⟩ := h
    refine g_aload_n (q := 0) dX2_aLane_62 rfl rfl ?_
    refine g_get 2 dX2_aLane_63 fX2_94 rfl (by decide) (sk_4 hs) ?_
    obtain ⟨c19, h⟩ := h
    refine g_get 2 dX2_aLane_66 fX2_170 rfl c19.1 c19.2 ?_
    refine g_aload_n (q := 0) dX2_aLane_69 rfl rfl ?_
    refine g_get 2 dX2_aLane_70 fX2_94 rfl (by decide) (sk_4 hs) ?_
    refine g_get 0 dX2_aLane_73 fX2_101 rfl c19.1 c19.2 ?_
    refine g_aload_n (q := 3) dX2_aLane_76 rfl rfl ?_
    obtain ⟨c20, h⟩ := h
    obtain ⟨c21, h⟩ := h
    obtain ⟨c22, h⟩ := h
    refine g_aastore dX2_aLane_77 ta_27_8 c20.1 c20.2 c21.1 c21.2 c22.1 c22.2 (p_r fun μ23 eμ23 => ?_)
    obtain ⟨hs, h⟩ := h μ23 eμ23
    refine g_aload_n (q := 0) dX2_aLane_78 rfl rfl ?_
    refine g_get 2 dX2_aLane_79 fX2_94 rfl (by decide) (sk_4 hs) ?_
    refine g_dup dX2_aLane_82 (by decide) ?_
    obtain ⟨c24, h⟩ := h
    refine g_get 0 dX2_aLane_83 fX2_101 rfl c24.1 c24.2 ?_
    refine g_iconst dX2_aLane_86 (by decide) ?_
    refine g_iadd dX2_aLane_87 ?_
    refine g_put dX2_aLane_88 fX2_101 rfl c24.1 c24.2 (fun e => absurd e (by decide)) (p_r fun μ25 eμ25 => ?_)
    obtain ⟨hs, h⟩ := h μ25 eμ25
    obtain ⟨c26, h⟩ := h
    exact g_vret dX2_aLane_91 rfl c26.1 c26.2 h
  · have h := h.2 c5
    refine g_iconst dX2_aLane_20 (by decide) ?_
    refine g_goto (tgt := 25) dX2_aLane_21 (by decide) ?_
    obtain ⟨_, _, _, k1, k2, k3, h⟩ := h
    refine g_callV (as := [(0, 1)]) (S := []) dX2_aLane_25 kX2_need q749 q751 qs10 (ci := 2) rfl (by decide) rfl rfl k1 (by decide) (sk_4 hs) k2 k3 (Nat.le_of_ble_eq_true rfl) (h.mono fun o27 μ27 q => rk_goV q (fun h => ?_) (fun a h => h))
    obtain ⟨hs, h⟩ := h
    refine g_aload_n (q := 0) dX2_aLane_28 rfl rfl ?_
    obtain ⟨_, _, _, k1, k2, k3, h⟩ := h
    refine g_callV (as := []) (S := []) dX2_aLane_29 kX2_next q671 q673 qs5 (ci := 2) rfl (by decide) rfl rfl k1 (by decide) (sk_4 hs) k2 k3 (Nat.le_of_ble_eq_true rfl) (h.mono fun o28 μ28 q => rk_goV q (fun h => ?_) (fun a h => h))
    obtain ⟨hs, h⟩ := h
    refine g_aload_n (q := 0) dX2_aLane_32 rfl rfl ?_
    refine g_aload_n (q := 1) dX2_aLane_33 rfl rfl ?_
    obtain ⟨_, _, _, k1, k2, k3, h⟩ := h
    refine g_callV (as := [(2, r1)]) (S := []) dX2_aLane_34 kX2_free q823 q825 qs16 (ci := 2) rfl (by decide) rfl rfl k1 (by decide) (sk_4 hs) k2 k3 (Nat.le_of_ble_eq_true rfl) (h.mono fun o29 μ29 q => rk_go q (fun r29 h => ?_) (fun a h => h))
    obtain ⟨hs, h⟩ := h
    refine g_astore_n (L' := [(0, 2, 4), (1, 2, r1), (2, 2, r29)]) dX2_aLane_37 rfl (by decide) [1, 2, 0] rfl ?_
    refine g_aload_n (q := 0) dX2_aLane_38 rfl rfl ?_
    obtain ⟨_, _, _, k1, k2, k3, h⟩ := h
    refine g_callV (as := []) (S := []) dX2_aLane_39 kX2_next q671 q673 qs5 (ci := 2) rfl (by decide) rfl rfl k1 (by decide) (sk_4 hs) k2 k3 (Nat.le_of_ble_eq_true rfl) (h.mono fun o30 μ30 q => rk_goV q (fun h => ?_) (fun a h => h))
    obtain ⟨hs, h⟩ := h
    obtain ⟨c31, h⟩ := h
    refine g_new dX2_aLane_42 ck8 (by decide) q835 q836 q137 c31.1 c31.2 (p_r fun μ32 eμ32 => ?_)
    obtain ⟨hs, h⟩ := h μ32 eμ32
    refine g_dup dX2_aLane_45 (by decide) ?_
    refine g_aload_n (q := 1) dX2_aLane_46 rfl rfl ?_
    refine g_aload_n (q := 2) dX2_aLane_47 rfl rfl ?_
    obtain ⟨c33, h⟩ := h
    obtain ⟨_, _, _, k1, k2, k3, h⟩ := h
    refine g_callI (as := [(2, r1), (2, r29)]) (S := [(2, tm_z μ30)]) dX2_aLane_48 kX8_init rfl rfl rfl q837 q838 rfl rfl k1 c33 k2 k3 (Nat.le_of_ble_eq_true rfl) (h.mono fun o34 μ34 q => rk_goV q (fun h => ?_) (fun a h => h))
    obtain ⟨hs, h⟩ := h
    refine g_astore_nN (fun z => [(0, 2, 4), (1, 2, r1), (2, 2, r29), (3, 2, z)]) dX2_aLane_51 rfl (by decide) [1, 2, 3, 0] (fun _ => rfl) (fun x35 ex35 => ?_)
    have h := h x35 ex35
    refine g_aload_n (q := 1) dX2_aLane_52 rfl rfl ?_
    refine g_aload_n (q := 3) dX2_aLane_53 rfl rfl ?_
    obtain ⟨c36, h⟩ := h
    obtain ⟨_, _, _, k1, k2, k3, h⟩ := h
    refine g_callV (as := [(2, x35)]) (S := []) dX2_aLane_54 kX7_add q852 q853 q854 (ci := 7) rfl (by decide) rfl rfl k1 c36.1 c36.2 k2 k3 (Nat.le_of_ble_eq_true rfl) (h.mono fun o37 μ37 q => rk_goV q (fun h => ?_) (fun a h => h))
    obtain ⟨hs, h⟩ := h
    refine g_aload_n (q := 2) dX2_aLane_57 rfl rfl ?_
    refine g_aload_n (q := 3) dX2_aLane_58 rfl rfl ?_
    obtain ⟨c38, h⟩ := h
    obtain ⟨_, _, _, k1, k2, k3, h⟩ := h
    refine g_callV (as := [(2, x35)]) (S := []) dX2_aLane_59 kX7_add q852 q853 q854 (ci := 7) rfl (by decide) rfl rfl k1 c38.1 c38.2 k2 k3 (Nat.le_of_ble_eq_true rfl) (h.mono fun o39 μ39 q => rk_goV q (fun h => ?_) (fun a h => h))
    obtain ⟨hs, h⟩ := h
    refine g_aload_n (q := 0) dX2_aLane_62 rfl rfl ?_
    refine g_get 2 dX2_aLane_63 fX2_94 rfl (by decide) (sk_4 hs) ?_
    obtain ⟨c40, h⟩ := h
    refine g_get 2 dX2_aLane_66 fX2_170 rfl c40.1 c40.2 ?_
    refine g_aload_n (q := 0) dX2_aLane_69 rfl rfl ?_
    refine g_get 2 dX2_aLane_70 fX2_94 rfl (by decide) (sk_4 hs) ?_
    refine g_get 0 dX2_aLane_73 fX2_101 rfl c40.1 c40.2 ?_
    refine g_aload_n (q := 3) dX2_aLane_76 rfl rfl ?_
    obtain ⟨c41, h⟩ := h
    obtain ⟨c42, h⟩ := h
    obtain ⟨c43, h⟩ := h
    refine g_aastore dX2_aLane_77 ta_27_8 c41.1 c41.2 c42.1 c42.2 c43.1 c43.2 (p_r fun μ44 eμ44 => ?_)
    obtain ⟨hs, h⟩ := h μ44 eμ44
    refine g_aload_n (q := 0) dX2_aLane_78 rfl rfl ?_
    refine g_get 2 dX2_aLane_79 fX2_94 rfl (by decide) (sk_4 hs) ?_
    refine g_dup dX2_aLane_82 (by decide) ?_
    obtain ⟨c45, h⟩ := h
    refine g_get 0 dX2_aLane_83 fX2_101 rfl c45.1 c45.2 ?_
    refine g_iconst dX2_aLane_86 (by decide) ?_
    refine g_iadd dX2_aLane_87 ?_
    refine g_put dX2_aLane_88 fX2_101 rfl c45.1 c45.2 (fun e => absurd e (by decide)) (p_r fun μ46 eμ46 => ?_)
    obtain ⟨hs, h⟩ := h μ46 eμ46
    obtain ⟨c47, h⟩ := h
    exact g_vret dX2_aLane_91 rfl c47.1 c47.2 h
theorem rX2_free_0 {d mc ms nc ns : Nat} {μ : tm_M} {Q : tQ} {v1 : Int} (hs : tS μ)
    (h : rcl mX2_name [(2, 4)] μ d mc ms nc ns (fun o1 μ1 nc1 ns1 => rk 1 o1 (fun r1 => tS μ1 ∧ ((1 ≤ tm_v μ 4 8 ∧ tm_k μ1 (tm_v μ 4 8) = 4) ∧ (rcl mX4_named [(2, tm_v μ 4 8), (1, r1)] μ1 d mc ms nc1 ns1 (fun o3 μ3 nc3 ns3 => rk 2 o3 (fun r3 => tS μ3 ∧ ((1 ≤ r3 → (r3 ≠ v1 → (1 ≤ r3 ∧ tm_k μ3 r3 = 7) ∧ ((tm_v μ3 r3 5 = 4 → tH mX2_free d mc ms (tq Q mc ms) 53 [(0, 2, 4)] [] μ3 nc3 ns3) ∧ (tm_v μ3 r3 5 ≠ 4 → (v1 = 0 → tH mX2_free d mc ms (tq Q mc ms) 60 [(2, 2, r3)] [] μ3 nc3 ns3) ∧ (1 ≤ v1 → (1 ≤ v1 ∧ tm_k μ3 v1 = 7) ∧ (rcl mX7_leads [(2, v1), (2, r3)] μ3 d mc ms nc3 ns3 (fun o14 μ14 nc14 ns14 => rk 0 o14 (fun r14 => tS μ14 ∧ ((r14 = 0 → tH mX2_free d mc ms (tq Q mc ms) 60 [(2, 2, r3)] [] μ14 nc14 ns14) ∧ (r14 ≠ 0 → tH mX2_free d mc ms (tq Q mc ms) 53 [(0, 2, 4)] [] μ14 nc14 ns14))) (fun a => tT mX2_free d mc ms (tq Q mc ms) 47 [(0, 2, 4), (1, 2, v1), (2, 2, r3)] a μ14 nc14 ns14))))))) ∧ (r3 = v1 → rcl mX2_fail [(2, 4), (0, 5)] μ3 d mc ms nc3 ns3 (fun o17 μ17 nc17 ns17 => rk 2 o17 (fun r17 => tS μ17 ∧ ((1 ≤ r17 ∧ tm_k μ17 r17 = 1) ∧ (tT mX2_free d mc ms (tq Q mc ms) 32 [(0, 2, 4), (1, 2, v1), (2, 2, r3)] r17 μ17 nc17 ns17))) (fun a => tT mX2_free d mc ms (tq Q mc ms) 29 [(0, 2, 4), (1, 2, v1), (2, 2, r3)] a μ17 nc17 ns17)))) ∧ (r3 = 0 → rcl mX2_fail [(2, 4), (0, 3)] μ3 d mc ms nc3 ns3 (fun o19 μ19 nc19 ns19 => rk 2 o19 (fun r19 => tS μ19 ∧ ((1 ≤ r19 ∧ tm_k μ19 r19 = 1) ∧ (tT mX2_free d mc ms (tq Q mc ms) 21 [(0, 2, 4), (1, 2, v1), (2, 2, r3)] r19 μ19 nc19 ns19))) (fun a => tT mX2_free d mc ms (tq Q mc ms) 18 [(0, 2, 4), (1, 2, v1), (2, 2, r3)] a μ19 nc19 ns19))))) (fun a => tT mX2_free d mc ms (tq Q mc ms) 8 [(0, 2, 4), (1, 2, v1)] a μ3 nc3 ns3))))) (fun a => tT mX2_free d mc ms (tq Q mc ms) 5 [(0, 2, 4), (1, 2, v1)] a μ1 nc1 ns1))) :
    tH mX2_free d mc ms (tq Q mc ms) 0 [(0, 2, 4), (1, 2, v1)] [] μ nc ns := by
  refine g_aload_n (q := 0) dX2_free_0 rfl rfl ?_
  refine g_get 2 dX2_free_1 fX2_94 rfl (by decide) (sk_4 hs) ?_
  refine g_aload_n (q := 0) dX2_free_4 rfl rfl ?_
  obtain ⟨_, _, _, k1, k2, k3, h⟩ := h
  refine g_callV (as := []) (S := [(2, tm_v μ 4 8)]) dX2_free_5 kX2_name q765 q767 qs13 (ci := 2) rfl (by decide) rfl rfl k1 (by decide) (sk_4 hs) k2 k3 (Nat.le_of_ble_eq_true rfl) (h.mono fun o1 μ1 q => rk_go q (fun r1 h => ?_) (fun a h => h))
  obtain ⟨hs, h⟩ := h
  obtain ⟨c2, h⟩ := h
  obtain ⟨_, _, _, k1, k2, k3, h⟩ := h
  refine g_callV (as := [(1, r1)]) (S := []) dX2_free_8 kX4_named q769 q770 q771 (ci := 4) rfl (by decide) rfl rfl k1 c2.1 c2.2 k2 k3 (Nat.le_of_ble_eq_true rfl) (h.mono fun o3 μ3 q => rk_go q (fun r3 h => ?_) (fun a h => h))
  obtain ⟨hs, h⟩ := h
  refine g_astore_n (L' := [(0, 2, 4), (1, 2, v1), (2, 2, r3)]) dX2_free_11 rfl (by decide) [1, 2, 0] rfl ?_
  refine g_aload_n (q := 2) dX2_free_12 rfl rfl ?_
  refine g_ifnonnull (tgt := 22) dX2_free_13 (by decide) (fun c4 => ?_) (fun c5 => ?_)
  · have h := h.1 c4
    refine g_aload_n (q := 2) dX2_free_22 rfl rfl ?_
    refine g_aload_n (q := 1) dX2_free_23 rfl rfl ?_
    refine g_acmp_ne (tgt := 33) dX2_free_24 (by decide) (fun c6 => ?_) (fun c7 => ?_)
    · have h := h.1 c6
      refine g_aload_n (q := 2) dX2_free_33 rfl rfl ?_
      obtain ⟨c8, h⟩ := h
      refine g_get 0 dX2_free_34 fX2_152 rfl c8.1 c8.2 ?_
      refine g_iconst dX2_free_37 (by decide) ?_
      refine g_icmp_eq (tgt := 53) dX2_free_38 (by decide) (fun c9 => ?_) (fun c10 => ?_)
      · have h := h.1 c9
        exact g_less [0] rfl h
      · have h := h.2 c10
        refine g_aload_n (q := 1) dX2_free_41 rfl rfl ?_
        refine g_ifnull (tgt := 60) dX2_free_42 (by decide) (fun c11 => ?_) (fun c12 => ?_)
        · have h := h.1 c11
          exact g_less [2] rfl h
        · have h := h.2 c12
          refine g_aload_n (q := 1) dX2_free_45 rfl rfl ?_
          refine g_aload_n (q := 2) dX2_free_46 rfl rfl ?_
          obtain ⟨c13, h⟩ := h
          obtain ⟨_, _, _, k1, k2, k3, h⟩ := h
          refine g_callV (as := [(2, r3)]) (S := []) dX2_free_47 kX7_leads q827 q828 q829 (ci := 7) rfl (by decide) rfl rfl k1 c13.1 c13.2 k2 k3 (Nat.le_of_ble_eq_true rfl) (h.mono fun o14 μ14 q => rk_go q (fun r14 h => ?_) (fun a h => h))
          obtain ⟨hs, h⟩ := h
          refine g_if_eq (tgt := 60) dX2_free_50 (by decide) (fun c15 => ?_) (fun c16 => ?_)
          · have h := h.1 c15
            exact g_less [2] rfl h
          · have h := h.2 c16
            exact g_less [0] rfl h
    · have h := h.2 c7
      refine g_aload_n (q := 0) dX2_free_27 rfl rfl ?_
      refine g_iconst dX2_free_28 (by decide) ?_
      obtain ⟨_, _, _, k1, k2, k3, h⟩ := h
      refine g_callV (as := [(0, 5)]) (S := []) dX2_free_29 kX2_fail q753 q755 qs11 (ci := 2) rfl (by decide) rfl rfl k1 (by decide) (sk_4 hs) k2 k3 (Nat.le_of_ble_eq_true rfl) (h.mono fun o17 μ17 q => rk_go q (fun r17 h => ?_) (fun a h => h))
      obtain ⟨hs, h⟩ := h
      obtain ⟨c18, h⟩ := h
      exact g_athrow dX2_free_32 c18.1 c18.2 h
  · have h := h.2 c5
    refine g_aload_n (q := 0) dX2_free_16 rfl rfl ?_
    refine g_iconst dX2_free_17 (by decide) ?_
    obtain ⟨_, _, _, k1, k2, k3, h⟩ := h
    refine g_callV (as := [(0, 3)]) (S := []) dX2_free_18 kX2_fail q753 q755 qs11 (ci := 2) rfl (by decide) rfl rfl k1 (by decide) (sk_4 hs) k2 k3 (Nat.le_of_ble_eq_true rfl) (h.mono fun o19 μ19 q => rk_go q (fun r19 h => ?_) (fun a h => h))
    obtain ⟨hs, h⟩ := h
    obtain ⟨c20, h⟩ := h
    exact g_athrow dX2_free_21 c20.1 c20.2 h
theorem rX2_free_53 {d mc ms nc ns : Nat} {μ : tm_M} {Q : tQ} (hs : tS μ)
    (h : rcl mX2_fail [(2, 4), (0, 6)] μ d mc ms nc ns (fun o1 μ1 nc1 ns1 => rk 2 o1 (fun r1 => tS μ1 ∧ ((1 ≤ r1 ∧ tm_k μ1 r1 = 1) ∧ (tT mX2_free d mc ms (tq Q mc ms) 59 [(0, 2, 4)] r1 μ1 nc1 ns1))) (fun a => tT mX2_free d mc ms (tq Q mc ms) 56 [(0, 2, 4)] a μ1 nc1 ns1))) :
    tH mX2_free d mc ms (tq Q mc ms) 53 [(0, 2, 4)] [] μ nc ns := by
  refine g_aload_n (q := 0) dX2_free_53 rfl rfl ?_
  refine g_bipush dX2_free_54 ⟨by decide, by decide, rfl⟩ ?_
  obtain ⟨_, _, _, k1, k2, k3, h⟩ := h
  refine g_callV (as := [(0, 6)]) (S := []) dX2_free_56 kX2_fail q753 q755 qs11 (ci := 2) rfl (by decide) rfl rfl k1 (by decide) (sk_4 hs) k2 k3 (Nat.le_of_ble_eq_true rfl) (h.mono fun o1 μ1 q => rk_go q (fun r1 h => ?_) (fun a h => h))
  obtain ⟨hs, h⟩ := h
  obtain ⟨c2, h⟩ := h
  exact g_athrow dX2_free_59 c2.1 c2.2 h
theorem rX2_free_60 {d mc ms nc ns : Nat} {μ : tm_M} {Q : tQ} {v2 : Int} (hs : tS μ)
    (h : (nc ≤ mc ∧ ns ≤ ms) ∧ (Q (.inl (some (2, v2))) μ)) :
    tH mX2_free d mc ms (tq Q mc ms) 60 [(2, 2, v2)] [] μ nc ns := by
  refine g_aload_n (q := 0) dX2_free_60 rfl rfl ?_
  obtain ⟨c1, h⟩ := h
  exact g_aret dX2_free_61 rfl rfl c1.1 c1.2 h
theorem rX4_init_0 {d mc ms nc ns : Nat} {μ : tm_M} {Q : tQ} {v0 : Int} (hs : tS μ)
    (h : (1 ≤ v0) ∧ ((nc + 1 ≤ mc ∧ ns + 8 ≤ ms) ∧ ((∀ μ3, μ3 = tm_a μ 26 8 → tS μ3 ∧ ((1 ≤ v0 ∧ tm_k μ3 v0 = 4) ∧ ((∀ μ5, μ5 = tm_w μ3 v0 0 (tm_z μ) → tS μ5 ∧ (((nc + 1) + 1 ≤ mc ∧ (ns + 8) + 12 ≤ ms) ∧ ((∀ μ7, μ7 = tm_a μ5 27 12 → tS μ7 ∧ ((1 ≤ v0 ∧ tm_k μ7 v0 = 4) ∧ ((∀ μ9, μ9 = tm_w μ7 v0 1 (tm_z μ5) → tS μ9 ∧ ((1 ≤ v0 ∧ tm_k μ9 v0 = 4) ∧ ((∀ μ11, μ11 = tm_w μ9 v0 4 1 → tS μ11 ∧ ((((nc + 1) + 1) + 1 ≤ mc ∧ ((ns + 8) + 12) + 8 ≤ ms) ∧ ((∀ μ13, μ13 = tm_a μ11 20 8 → tS μ13 ∧ ((1 ≤ v0 ∧ tm_k μ13 v0 = 4) ∧ ((∀ μ15, μ15 = tm_w μ13 v0 7 (tm_z μ11) → tS μ15 ∧ (((((nc + 1) + 1) + 1) ≤ mc ∧ (((ns + 8) + 12) + 8) ≤ ms) ∧ (Q (.inl none) μ15)))))))))))))))))))))))) :
    tH mX4_init d mc ms (tq Q mc ms) 0 [(0, 2, v0)] [] μ nc ns := by
  refine g_aload_n (q := 0) dX4_init_0 rfl rfl ?_
  obtain ⟨c1, h⟩ := h
  refine g_objInit dX4_init_1 q312 q148 q149 c1 (Nat.le_of_ble_eq_true rfl) ?_
  refine g_aload_n (q := 0) dX4_init_4 rfl rfl ?_
  refine g_bipush dX4_init_5 ⟨by decide, by decide, rfl⟩ ?_
  obtain ⟨c2, h⟩ := h
  refine g_anew (k := 26) dX4_init_7 (by decide) rfl q313 q314 (by decide) c2.1 c2.2 (p_r fun μ3 eμ3 => ?_)
  obtain ⟨hs, h⟩ := h μ3 eμ3
  obtain ⟨c4, h⟩ := h
  refine g_putF dX4_init_10 fX4_11F rfl rfl c4.1 c4.2 (fun e => absurd e (by decide)) (p_r fun μ5 eμ5 => ?_)
  obtain ⟨hs, h⟩ := h μ5 eμ5
  refine g_aload_n (q := 0) dX4_init_13 rfl rfl ?_
  refine g_bipush dX4_init_14 ⟨by decide, by decide, rfl⟩ ?_
  obtain ⟨c6, h⟩ := h
  refine g_anew (k := 27) dX4_init_16 (by decide) rfl q315 q316 (by decide) c6.1 c6.2 (p_r fun μ7 eμ7 => ?_)
  obtain ⟨hs, h⟩ := h μ7 eμ7
  obtain ⟨c8, h⟩ := h
  refine g_putF dX4_init_19 fX4_19F rfl rfl c8.1 c8.2 (fun e => absurd e (by decide)) (p_r fun μ9 eμ9 => ?_)
  obtain ⟨hs, h⟩ := h μ9 eμ9
  refine g_aload_n (q := 0) dX4_init_22 rfl rfl ?_
  refine g_iconst dX4_init_23 (by decide) ?_
  obtain ⟨c10, h⟩ := h
  refine g_put dX4_init_24 fX4_23 rfl c10.1 c10.2 (fun e => absurd e (by decide)) (p_r fun μ11 eμ11 => ?_)
  obtain ⟨hs, h⟩ := h μ11 eμ11
  refine g_aload_n (q := 0) dX4_init_27 rfl rfl ?_
  refine g_bipush dX4_init_28 ⟨by decide, by decide, rfl⟩ ?_
  obtain ⟨c12, h⟩ := h
  refine g_newarray (k := 20) dX4_init_30 (by decide) rfl q354 (by decide) c12.1 c12.2 (p_r fun μ13 eμ13 => ?_)
  obtain ⟨hs, h⟩ := h μ13 eμ13
  obtain ⟨c14, h⟩ := h
  refine g_putF dX4_init_32 fX4_27F rfl rfl c14.1 c14.2 (fun e => absurd e (by decide)) (p_r fun μ15 eμ15 => ?_)
  obtain ⟨hs, h⟩ := h μ15 eμ15
  obtain ⟨c16, h⟩ := h
  exact g_vret dX4_init_35 rfl c16.1 c16.2 h
theorem rX4_named_0 {d mc ms nc ns : Nat} {μ : tm_M} {Q : tQ} {v0 v1 : Int} (hs : tS μ)
    (h : tH mX4_named d mc ms (tq Q mc ms) 2 [(0, 2, v0), (1, 1, v1), (3, 0, 0)] [] μ nc ns) :
    tH mX4_named d mc ms (tq Q mc ms) 0 [(0, 2, v0), (1, 1, v1)] [] μ nc ns := by
  refine g_iconst dX4_named_0 (by decide) ?_
  refine g_istore_n (L' := [(0, 2, v0), (1, 1, v1), (3, 0, 0)]) dX4_named_1 rfl (by decide) [1, 2, 0] rfl ?_
  exact h
theorem rX4_named_2 {d mc ms nc ns : Nat} {μ : tm_M} {Q : tQ} {v0 v1 v3 : Int} (hs : tS μ)
    (h : (1 ≤ v0 ∧ tm_k μ v0 = 4) ∧ ((tm_v μ v0 2 ≤ v3 → (nc ≤ mc ∧ ns ≤ ms) ∧ (Q (.inl (some (2, 0))) μ)) ∧ (v3 < tm_v μ v0 2 → (1 ≤ tm_v μ v0 0 ∧ tm_k μ (tm_v μ v0 0) = 26) ∧ ((0 ≤ v3 ∧ v3 < tm_n μ (tm_v μ v0 0)) ∧ ((1 ≤ tm_v μ (tm_v μ v0 0) v3 ∧ tm_k μ (tm_v μ (tm_v μ v0 0) v3) = 7) ∧ ((tm_v μ (tm_v μ (tm_v μ v0 0) v3) 0 ≠ v1 → tH mX4_named d mc ms (tq Q mc ms) 2 [(0, 2, v0), (1, 1, v1), (3, 0, w32 (v3 + 1))] [] μ nc ns) ∧ (tm_v μ (tm_v μ (tm_v μ v0 0) v3) 0 = v1 → (0 ≤ v3 ∧ v3 < tm_n μ (tm_v μ v0 0)) ∧ ((nc ≤ mc ∧ ns ≤ ms) ∧ (Q (.inl (some (2, tm_v μ (tm_v μ v0 0) v3))) μ))))))))) :
    tH mX4_named d mc ms (tq Q mc ms) 2 [(0, 2, v0), (1, 1, v1), (3, 0, v3)] [] μ nc ns := by
  refine g_iload_n (q := 2) dX4_named_2 rfl rfl ?_
  refine g_aload_n (q := 0) dX4_named_3 rfl rfl ?_
  obtain ⟨c1, h⟩ := h
  refine g_get 0 dX4_named_4 fX4_31 rfl c1.1 c1.2 ?_
  refine g_icmp_ge (tgt := 37) dX4_named_7 (by decide) (fun c2 => ?_) (fun c3 => ?_)
  · have h := h.1 c2
    refine g_anull dX4_named_37 ?_
    obtain ⟨c4, h⟩ := h
    exact g_aret dX4_named_38 rfl rfl c4.1 c4.2 h
  · have h := h.2 c3
    refine g_aload_n (q := 0) dX4_named_10 rfl rfl ?_
    refine g_get 2 dX4_named_11 fX4_11 rfl c1.1 c1.2 ?_
    refine g_iload_n (q := 2) dX4_named_14 rfl rfl ?_
    obtain ⟨c5, h⟩ := h
    obtain ⟨c6, h⟩ := h
    refine g_aaload dX4_named_15 c5.1 c5.2 (by decide) c6.1 c6.2 ?_
    obtain ⟨c7, h⟩ := h
    refine g_get 1 dX4_named_16 fX4_34 rfl c7.1 c7.2 ?_
    refine g_lload_n (q := 1) dX4_named_19 rfl rfl ?_
    refine g_lcmp_ne (tgt := 31) dX4_named_20 dX4_named_21 (by decide) (fun c8 => ?_) (fun c9 => ?_)
    · have h := h.1 c8
      refine g_iinc (q := 2) dX4_named_31 (by decide) rfl [1, 2, 0] rfl ?_
      refine g_goto (tgt := 2) dX4_named_34 (by decide) ?_
      exact h
    · have h := h.2 c9
      refine g_aload_n (q := 0) dX4_named_24 rfl rfl ?_
      refine g_get 2 dX4_named_25 fX4_11 rfl c1.1 c1.2 ?_
      refine g_iload_n (q := 2) dX4_named_28 rfl rfl ?_
      obtain ⟨c10, h⟩ := h
      refine g_aaload dX4_named_29 c5.1 c5.2 (by decide) c10.1 c10.2 ?_
      obtain ⟨c11, h⟩ := h
      exact g_aret dX4_named_30 rfl rfl c11.1 c11.2 h
theorem rX7_init_0 {d mc ms nc ns : Nat} {μ : tm_M} {Q : tQ} {v0 v1 v3 : Int} (hs : tS μ)
    (h : (1 ≤ v0) ∧ ((1 ≤ v0 ∧ tm_k μ v0 = 7) ∧ ((∀ μ3, μ3 = tm_w μ v0 3 1 → tS μ3 ∧ ((1 ≤ v0 ∧ tm_k μ3 v0 = 7) ∧ ((∀ μ5, μ5 = tm_w μ3 v0 4 1 → tS μ5 ∧ ((nc + 1 ≤ mc ∧ ns + 4 ≤ ms) ∧ ((∀ μ7, μ7 = tm_a μ5 27 4 → tS μ7 ∧ ((1 ≤ v0 ∧ tm_k μ7 v0 = 7) ∧ ((∀ μ9, μ9 = tm_w μ7 v0 6 (tm_z μ5) → tS μ9 ∧ ((1 ≤ v0 ∧ tm_k μ9 v0 = 7) ∧ ((∀ μ11, μ11 = tm_w μ9 v0 0 v1 → tS μ11 ∧ ((1 ≤ v0 ∧ tm_k μ11 v0 = 7) ∧ ((∀ μ13, μ13 = tm_w μ11 v0 1 v3 → tS μ13 ∧ (((nc + 1) ≤ mc ∧ (ns + 4) ≤ ms) ∧ (Q (.inl none) μ13))))))))))))))))))))) :
    tH mX7_init d mc ms (tq Q mc ms) 0 [(0, 2, v0), (1, 1, v1), (3, 0, v3)] [] μ nc ns := by
  refine g_aload_n (q := 0) dX7_init_0 rfl rfl ?_
  obtain ⟨c1, h⟩ := h
  refine g_objInit dX7_init_1 q778 q148 q149 c1 (Nat.le_of_ble_eq_true rfl) ?_
  refine g_aload_n (q := 0) dX7_init_4 rfl rfl ?_
  refine g_iconst dX7_init_5 (by decide) ?_
  obtain ⟨c2, h⟩ := h
  refine g_put dX7_init_6 fX7_9 rfl c2.1 c2.2 (fun e => absurd e (by decide)) (p_r fun μ3 eμ3 => ?_)
  obtain ⟨hs, h⟩ := h μ3 eμ3
  refine g_aload_n (q := 0) dX7_init_9 rfl rfl ?_
  refine g_iconst dX7_init_10 (by decide) ?_
  obtain ⟨c4, h⟩ := h
  refine g_put dX7_init_11 fX7_15 rfl c4.1 c4.2 (fun e => absurd e (by decide)) (p_r fun μ5 eμ5 => ?_)
  obtain ⟨hs, h⟩ := h μ5 eμ5
  refine g_aload_n (q := 0) dX7_init_14 rfl rfl ?_
  refine g_iconst dX7_init_15 (by decide) ?_
  obtain ⟨c6, h⟩ := h
  refine g_anew (k := 27) dX7_init_16 (by decide) rfl q779 q316 (by decide) c6.1 c6.2 (p_r fun μ7 eμ7 => ?_)
  obtain ⟨hs, h⟩ := h μ7 eμ7
  obtain ⟨c8, h⟩ := h
  refine g_putF dX7_init_19 fX7_20F rfl rfl c8.1 c8.2 (fun e => absurd e (by decide)) (p_r fun μ9 eμ9 => ?_)
  obtain ⟨hs, h⟩ := h μ9 eμ9
  refine g_aload_n (q := 0) dX7_init_22 rfl rfl ?_
  refine g_lload_n (q := 1) dX7_init_23 rfl rfl ?_
  obtain ⟨c10, h⟩ := h
  refine g_putF dX7_init_24 fX7_24F rfl rfl c10.1 c10.2 (fun e => absurd e (by decide)) (p_r fun μ11 eμ11 => ?_)
  obtain ⟨hs, h⟩ := h μ11 eμ11
  refine g_aload_n (q := 0) dX7_init_27 rfl rfl ?_
  refine g_iload_n (q := 2) dX7_init_28 rfl rfl ?_
  obtain ⟨c12, h⟩ := h
  refine g_putF dX7_init_29 fX7_28F rfl rfl c12.1 c12.2 (fun e => absurd e (by decide)) (p_r fun μ13 eμ13 => ?_)
  obtain ⟨hs, h⟩ := h μ13 eμ13
  obtain ⟨c14, h⟩ := h
  exact g_vret dX7_init_32 rfl c14.1 c14.2 h
theorem rX7_leads_0 {d mc ms nc ns : Nat} {μ : tm_M} {Q : tQ} {v0 v1 : Int} (hs : tS μ)
    (h : tH mX7_leads d mc ms (tq Q mc ms) 2 [(0, 2, v0), (1, 2, v1), (2, 0, 0)] [] μ nc ns) :
    tH mX7_leads d mc ms (tq Q mc ms) 0 [(0, 2, v0), (1, 2, v1)] [] μ nc ns := by
  refine g_iconst dX7_leads_0 (by decide) ?_
  refine g_istore_n (L' := [(0, 2, v0), (1, 2, v1), (2, 0, 0)]) dX7_leads_1 rfl (by decide) [1, 2, 0] rfl ?_
  exact h
theorem rX7_leads_2 {d mc ms nc ns : Nat} {μ : tm_M} {Q : tQ} {v0 v1 v2 : Int} (hs : tS μ)
    (h : (1 ≤ v0 ∧ tm_k μ v0 = 7) ∧ ((tm_v μ v0 5 ≤ v2 → (nc ≤ mc ∧ ns ≤ ms) ∧ (Q (.inl (some (0, 0))) μ)) ∧ (v2 < tm_v μ v0 5 → (1 ≤ tm_v μ v0 6 ∧ tm_k μ (tm_v μ v0 6) = 27) ∧ ((0 ≤ v2 ∧ v2 < tm_n μ (tm_v μ v0 6)) ∧ ((1 ≤ tm_v μ (tm_v μ v0 6) v2 ∧ tm_k μ (tm_v μ (tm_v μ v0 6) v2) = 8) ∧ (rcl mX8_other [(2, tm_v μ (tm_v μ v0 6) v2), (2, v0)] μ d mc ms nc ns (fun o8 μ8 nc8 ns8 => rk 2 o8 (fun r8 => tS μ8 ∧ ((r8 ≠ v1 → tH mX7_leads d mc ms (tq Q mc ms) 2 [(0, 2, v0), (1, 2, v1), (2, 0, w32 (v2 + 1))] [] μ8 nc8 ns8) ∧ (r8 = v1 → (nc8 ≤ mc ∧ ns8 ≤ ms) ∧ (Q (.inl (some (0, 1))) μ8)))) (fun a => tT mX7_leads d mc ms (tq Q mc ms) 17 [(0, 2, v0), (1, 2, v1), (2, 0, v2)] a μ8 nc8 ns8)))))))) :
    tH mX7_leads d mc ms (tq Q mc ms) 2 [(0, 2, v0), (1, 2, v1), (2, 0, v2)] [] μ nc ns := by
  refine g_iload_n (q := 2) dX7_leads_2 rfl rfl ?_
  refine g_aload_n (q := 0) dX7_leads_3 rfl rfl ?_
  obtain ⟨c1, h⟩ := h
  refine g_get 0 dX7_leads_4 fX7_31 rfl c1.1 c1.2 ?_
  refine g_icmp_ge (tgt := 32) dX7_leads_7 (by decide) (fun c2 => ?_) (fun c3 => ?_)
  · have h := h.1 c2
    refine g_iconst dX7_leads_32 (by decide) ?_
    obtain ⟨c4, h⟩ := h
    exact g_zret dX7_leads_33 rfl (by decide) c4.1 c4.2 h
  · have h := h.2 c3
    refine g_aload_n (q := 0) dX7_leads_10 rfl rfl ?_
    refine g_get 2 dX7_leads_11 fX7_20 rfl c1.1 c1.2 ?_
    refine g_iload_n (q := 2) dX7_leads_14 rfl rfl ?_
    obtain ⟨c5, h⟩ := h
    obtain ⟨c6, h⟩ := h
    refine g_aaload dX7_leads_15 c5.1 c5.2 (by decide) c6.1 c6.2 ?_
    refine g_aload_n (q := 0) dX7_leads_16 rfl rfl ?_
    obtain ⟨c7, h⟩ := h
    obtain ⟨_, _, _, k1, k2, k3, h⟩ := h
    refine g_callV (as := [(2, v0)]) (S := []) dX7_leads_17 kX8_other q831 q832 q833 (ci := 8) rfl (by decide) rfl rfl k1 c7.1 c7.2 k2 k3 (Nat.le_of_ble_eq_true rfl) (h.mono fun o8 μ8 q => rk_go q (fun r8 h => ?_) (fun a h => h))
    obtain ⟨hs, h⟩ := h
    refine g_aload_n (q := 1) dX7_leads_20 rfl rfl ?_
    refine g_acmp_ne (tgt := 26) dX7_leads_21 (by decide) (fun c9 => ?_) (fun c10 => ?_)
    · have h := h.1 c9
      refine g_iinc (q := 2) dX7_leads_26 (by decide) rfl [1, 2, 0] rfl ?_
      refine g_goto (tgt := 2) dX7_leads_29 (by decide) ?_
      exact h
    · have h := h.2 c10
      refine g_iconst dX7_leads_24 (by decide) ?_
      obtain ⟨c11, h⟩ := h
      exact g_zret dX7_leads_25 rfl (by decide) c11.1 c11.2 h
theorem rX7_add_0 {d mc ms nc ns : Nat} {μ : tm_M} {Q : tQ} {v0 v1 : Int} (hs : tS μ)
    (h : (1 ≤ v0 ∧ tm_k μ v0 = 7) ∧ ((1 ≤ tm_v μ v0 6 ∧ tm_k μ (tm_v μ v0 6) = 27) ∧ ((0 ≤ tm_v μ v0 5 ∧ tm_v μ v0 5 < tm_n μ (tm_v μ v0 6)) ∧ ((1 ≤ v1 ∧ tm_k μ v1 = 8) ∧ ((∀ μ5, μ5 = tm_w μ (tm_v μ v0 6) (tm_v μ v0 5) v1 → tS μ5 ∧ ((1 ≤ v0 ∧ tm_k μ5 v0 = 7) ∧ ((∀ μ7, μ7 = tm_w μ5 v0 5 (w32 ((tm_v μ5 v0 5) + 1)) → tS μ7 ∧ ((nc ≤ mc ∧ ns ≤ ms) ∧ (Q (.inl none) μ7))))))))))) :
    tH mX7_add d mc ms (tq Q mc ms) 0 [(0, 2, v0), (1, 2, v1)] [] μ nc ns := by
  refine g_aload_n (q := 0) dX7_add_0 rfl rfl ?_
  obtain ⟨c1, h⟩ := h
  refine g_get 2 dX7_add_1 fX7_20 rfl c1.1 c1.2 ?_
  refine g_aload_n (q := 0) dX7_add_4 rfl rfl ?_
  refine g_get 0 dX7_add_5 fX7_31 rfl c1.1 c1.2 ?_
  refine g_aload_n (q := 1) dX7_add_8 rfl rfl ?_
  obtain ⟨c2, h⟩ := h
  obtain ⟨c3, h⟩ := h
  obtain ⟨c4, h⟩ := h
  refine g_aastore dX7_add_9 ta_27_8 c2.1 c2.2 c3.1 c3.2 c4.1 c4.2 (p_r fun μ5 eμ5 => ?_)
  obtain ⟨hs, h⟩ := h μ5 eμ5
  refine g_aload_n (q := 0) dX7_add_10 rfl rfl ?_
  refine g_dup dX7_add_11 (by decide) ?_
  obtain ⟨c6, h⟩ := h
  refine g_get 0 dX7_add_12 fX7_31 rfl c6.1 c6.2 ?_
  refine g_iconst dX7_add_15 (by decide) ?_
  refine g_iadd dX7_add_16 ?_
  refine g_put dX7_add_17 fX7_31 rfl c6.1 c6.2 (fun e => absurd e (by decide)) (p_r fun μ7 eμ7 => ?_)
  obtain ⟨hs, h⟩ := h μ7 eμ7
  obtain ⟨c8, h⟩ := h
  exact g_vret dX7_add_20 rfl c8.1 c8.2 h
theorem rX8_init_0 {d mc ms nc ns : Nat} {μ : tm_M} {Q : tQ} {v0 v1 v2 : Int} (hs : tS μ)
    (h : (1 ≤ v0) ∧ ((1 ≤ v0 ∧ tm_k μ v0 = 8) ∧ ((∀ μ3, μ3 = tm_w μ v0 0 v1 → tS μ3 ∧ ((1 ≤ v0 ∧ tm_k μ3 v0 = 8) ∧ ((∀ μ5, μ5 = tm_w μ3 v0 1 v2 → tS μ5 ∧ ((nc ≤ mc ∧ ns ≤ ms) ∧ (Q (.inl none) μ5))))))))) :
    tH mX8_init d mc ms (tq Q mc ms) 0 [(0, 2, v0), (1, 2, v1), (2, 2, v2)] [] μ nc ns := by
  refine g_aload_n (q := 0) dX8_init_0 rfl rfl ?_
  obtain ⟨c1, h⟩ := h
  refine g_objInit dX8_init_1 q840 q148 q149 c1 (Nat.le_of_ble_eq_true rfl) ?_
  refine g_aload_n (q := 0) dX8_init_4 rfl rfl ?_
  refine g_aload_n (q := 1) dX8_init_5 rfl rfl ?_
  obtain ⟨c2, h⟩ := h
  refine g_putF dX8_init_6 fX8_7F rfl rfl c2.1 c2.2 (fun e => absurd e (by decide)) (p_r fun μ3 eμ3 => ?_)
  obtain ⟨hs, h⟩ := h μ3 eμ3
  refine g_aload_n (q := 0) dX8_init_9 rfl rfl ?_
  refine g_aload_n (q := 2) dX8_init_10 rfl rfl ?_
  obtain ⟨c4, h⟩ := h
  refine g_putF dX8_init_11 fX8_13F rfl rfl c4.1 c4.2 (fun e => absurd e (by decide)) (p_r fun μ5 eμ5 => ?_)
  obtain ⟨hs, h⟩ := h μ5 eμ5
  obtain ⟨c6, h⟩ := h
  exact g_vret dX8_init_14 rfl c6.1 c6.2 h
