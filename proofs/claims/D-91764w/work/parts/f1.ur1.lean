theorem rX0_tray_0 {d mc ms nc ns : Nat} {μ : tm_M} {Q : tQ} {v1 v2 v3 : Int} (hs : tS μ)
    (h : rcl mX0_isTray [(0, v1)] μ d mc ms nc ns (fun o1 μ1 nc1 ns1 => rk 0 o1 (fun r1 => tS μ1 ∧ ((r1 = 0 → rcl mX0_is [(2, 1), (0, 1)] μ1 d mc ms nc1 ns1 (fun o4 μ4 nc4 ns4 => rk 0 o4 (fun r4 => tS μ4 ∧ ((nc4 ≤ mc ∧ ns4 ≤ ms) ∧ ((0 ≤ r4 ∧ r4 ≤ 1) ∧ (Q (.inl (some (0, r4))) μ4)))) (fun a => tT mX0_tray d mc ms (tq Q mc ms) 18 [(0, 2, 1), (1, 0, v1), (2, 0, v2), (3, 0, v3)] a μ4 nc4 ns4))) ∧ (r1 ≠ 0 → (v2 < 0 → rcl mX0_is [(2, 1), (0, 1)] μ1 d mc ms nc1 ns1 (fun o9 μ9 nc9 ns9 => rk 0 o9 (fun r9 => tS μ9 ∧ ((nc9 ≤ mc ∧ ns9 ≤ ms) ∧ ((0 ≤ r9 ∧ r9 ≤ 1) ∧ (Q (.inl (some (0, r9))) μ9)))) (fun a => tT mX0_tray d mc ms (tq Q mc ms) 18 [(0, 2, 1), (1, 0, v1), (2, 0, v2), (3, 0, v3)] a μ9 nc9 ns9))) ∧ (0 ≤ v2 → (v2 ≤ 3 → (v3 ≤ 64 → (0 ≤ v1 ∧ v1 < 4) ∧ (rcl mX5_make [(2, 61 + v1), (0, v2), (0, v3)] μ1 d mc ms nc1 ns1 (fun o17 μ17 nc17 ns17 => rkV o17 (tS μ17 ∧ (rcl mX0_is [(2, 1), (0, 0)] μ17 d mc ms nc17 ns17 (fun o18 μ18 nc18 ns18 => rk 0 o18 (fun r18 => tS μ18 ∧ ((nc18 ≤ mc ∧ ns18 ≤ ms) ∧ ((0 ≤ r18 ∧ r18 ≤ 1) ∧ (Q (.inl (some (0, r18))) μ18)))) (fun a => tT mX0_tray d mc ms (tq Q mc ms) 59 [(0, 2, 1), (1, 0, v1), (2, 0, v2), (3, 0, v3)] a μ18 nc18 ns18)))) (fun a => tT mX0_tray d mc ms (tq Q mc ms) 42 [(0, 2, 1), (1, 0, v1), (2, 0, v2), (3, 0, v3)] a μ17 nc17 ns17)))) ∧ (64 < v3 → rcl mX0_is [(2, 1), (0, 5)] μ1 d mc ms nc1 ns1 (fun o21 μ21 nc21 ns21 => rk 0 o21 (fun r21 => tS μ21 ∧ ((nc21 ≤ mc ∧ ns21 ≤ ms) ∧ ((0 ≤ r21 ∧ r21 ≤ 1) ∧ (Q (.inl (some (0, r21))) μ21)))) (fun a => tT mX0_tray d mc ms (tq Q mc ms) 30 [(0, 2, 1), (1, 0, v1), (2, 0, v2), (3, 0, v3)] a μ21 nc21 ns21)))) ∧ (3 < v2 → rcl mX0_is [(2, 1), (0, 1)] μ1 d mc ms nc1 ns1 (fun o24 μ24 nc24 ns24 => rk 0 o24 (fun r24 => tS μ24 ∧ ((nc24 ≤ mc ∧ ns24 ≤ ms) ∧ ((0 ≤ r24 ∧ r24 ≤ 1) ∧ (Q (.inl (some (0, r24))) μ24)))) (fun a => tT mX0_tray d mc ms (tq Q mc ms) 18 [(0, 2, 1), (1, 0, v1), (2, 0, v2), (3, 0, v3)] a μ24 nc24 ns24))))))) (fun a => tT mX0_tray d mc ms (tq Q mc ms) 1 [(0, 2, 1), (1, 0, v1), (2, 0, v2), (3, 0, v3)] a μ1 nc1 ns1))) :
    tH mX0_tray d mc ms (tq Q mc ms) 0 [(0, 2, 1), (1, 0, v1), (2, 0, v2), (3, 0, v3)] [] μ nc ns := by
  refine g_iload_n (q := 1) dX0_tray_0 rfl rfl ?_
  obtain ⟨_, _, _, k1, k2, k3, h⟩ := h
  refine g_callS (as := [(0, v1)]) (S := []) dX0_tray_1 kX0_isTray q564 q565 rfl rfl k1 k2 k3 (Nat.le_of_ble_eq_true rfl) (h.mono fun o1 μ1 q => rk_go q (fun r1 h => ?_) (fun a h => h))
  obtain ⟨hs, h⟩ := h
  refine g_if_eq (tgt := 16) dX0_tray_4 (by decide) (fun c2 => ?_) (fun c3 => ?_)
  · have h := h.1 c2
    refine g_aload_n (q := 0) dX0_tray_16 rfl rfl ?_
    refine g_iconst dX0_tray_17 (by decide) ?_
    obtain ⟨_, _, _, k1, k2, k3, h⟩ := h
    refine g_callV (as := [(0, 1)]) (S := []) dX0_tray_18 kX0_is q567 q569 qs2 (ci := 0) rfl (by decide) rfl rfl k1 (by decide) (sk_1 hs) k2 k3 (Nat.le_of_ble_eq_true rfl) (h.mono fun o4 μ4 q => rk_go q (fun r4 h => ?_) (fun a h => h))
    obtain ⟨hs, h⟩ := h
    obtain ⟨c5, h⟩ := h
    obtain ⟨c6, h⟩ := h
    exact g_zret dX0_tray_21 rfl c6 c5.1 c5.2 h
  · have h := h.2 c3
    refine g_iload_n (q := 2) dX0_tray_7 rfl rfl ?_
    refine g_if_lt (tgt := 16) dX0_tray_8 (by decide) (fun c7 => ?_) (fun c8 => ?_)
    · have h := h.1 c7
      refine g_aload_n (q := 0) dX0_tray_16 rfl rfl ?_
      refine g_iconst dX0_tray_17 (by decide) ?_
      obtain ⟨_, _, _, k1, k2, k3, h⟩ := h
      refine g_callV (as := [(0, 1)]) (S := []) dX0_tray_18 kX0_is q567 q569 qs2 (ci := 0) rfl (by decide) rfl rfl k1 (by decide) (sk_1 hs) k2 k3 (Nat.le_of_ble_eq_true rfl) (h.mono fun o9 μ9 q => rk_go q (fun r9 h => ?_) (fun a h => h))
      obtain ⟨hs, h⟩ := h
      obtain ⟨c10, h⟩ := h
      obtain ⟨c11, h⟩ := h
      exact g_zret dX0_tray_21 rfl c11 c10.1 c10.2 h
    · have h := h.2 c8
      refine g_iload_n (q := 2) dX0_tray_11 rfl rfl ?_
      refine g_iconst dX0_tray_12 (by decide) ?_
      refine g_icmp_le (tgt := 22) dX0_tray_13 (by decide) (fun c12 => ?_) (fun c13 => ?_)
      · have h := h.1 c12
        refine g_iload_n (q := 3) dX0_tray_22 rfl rfl ?_
        refine g_bipush dX0_tray_23 ⟨by decide, by decide, rfl⟩ ?_
        refine g_icmp_le (tgt := 34) dX0_tray_25 (by decide) (fun c14 => ?_) (fun c15 => ?_)
        · have h := h.1 c14
          refine g_aload_n (q := 0) dX0_tray_34 rfl rfl ?_
          refine g_getC (x := 2) 2 dX0_tray_35 fX0_11 rfl (by decide) (sk_1 hs) (sv_1_0 hs) ?_
          refine g_iload_n (q := 1) dX0_tray_38 rfl rfl ?_
          obtain ⟨c16, h⟩ := h
          refine g_aaloadC (x := 61 + v1) dX0_tray_39 (by decide) (sk_2 hs) (by decide) c16.1 (t_lt (sn_2 hs) c16.2) (sa_2 hs c16.1 c16.2) ?_
          refine g_iload_n (q := 2) dX0_tray_40 rfl rfl ?_
          refine g_iload_n (q := 3) dX0_tray_41 rfl rfl ?_
          obtain ⟨_, _, _, k1, k2, k3, h⟩ := h
          refine g_callV (as := [(0, v2), (0, v3)]) (S := []) dX0_tray_42 kX5_make q571 q572 q573 (ci := 5) rfl (by decide) rfl rfl k1 (by have := c16; omega) (sak_2 hs c16.1 c16.2) k2 k3 (Nat.le_of_ble_eq_true rfl) (h.mono fun o17 μ17 q => rk_goV q (fun h => ?_) (fun a h => h))
          obtain ⟨hs, h⟩ := h
          refine g_goto (tgt := 57) dX0_tray_45 (by decide) ?_
          refine g_aload_n (q := 0) dX0_tray_57 rfl rfl ?_
          refine g_iconst dX0_tray_58 (by decide) ?_
          obtain ⟨_, _, _, k1, k2, k3, h⟩ := h
          refine g_callV (as := [(0, 0)]) (S := []) dX0_tray_59 kX0_is q567 q569 qs2 (ci := 0) rfl (by decide) rfl rfl k1 (by decide) (sk_1 hs) k2 k3 (Nat.le_of_ble_eq_true rfl) (h.mono fun o18 μ18 q => rk_go q (fun r18 h => ?_) (fun a h => h))
          obtain ⟨hs, h⟩ := h
          obtain ⟨c19, h⟩ := h
          obtain ⟨c20, h⟩ := h
          exact g_zret dX0_tray_62 rfl c20 c19.1 c19.2 h
        · have h := h.2 c15
          refine g_aload_n (q := 0) dX0_tray_28 rfl rfl ?_
          refine g_iconst dX0_tray_29 (by decide) ?_
          obtain ⟨_, _, _, k1, k2, k3, h⟩ := h
          refine g_callV (as := [(0, 5)]) (S := []) dX0_tray_30 kX0_is q567 q569 qs2 (ci := 0) rfl (by decide) rfl rfl k1 (by decide) (sk_1 hs) k2 k3 (Nat.le_of_ble_eq_true rfl) (h.mono fun o21 μ21 q => rk_go q (fun r21 h => ?_) (fun a h => h))
          obtain ⟨hs, h⟩ := h
          obtain ⟨c22, h⟩ := h
          obtain ⟨c23, h⟩ := h
          exact g_zret dX0_tray_33 rfl c23 c22.1 c22.2 h
      · have h := h.2 c13
        refine g_aload_n (q := 0) dX0_tray_16 rfl rfl ?_
        refine g_iconst dX0_tray_17 (by decide) ?_
        obtain ⟨_, _, _, k1, k2, k3, h⟩ := h
        refine g_callV (as := [(0, 1)]) (S := []) dX0_tray_18 kX0_is q567 q569 qs2 (ci := 0) rfl (by decide) rfl rfl k1 (by decide) (sk_1 hs) k2 k3 (Nat.le_of_ble_eq_true rfl) (h.mono fun o24 μ24 q => rk_go q (fun r24 h => ?_) (fun a h => h))
        obtain ⟨hs, h⟩ := h
        obtain ⟨c25, h⟩ := h
        obtain ⟨c26, h⟩ := h
        exact g_zret dX0_tray_21 rfl c26 c25.1 c25.2 h
theorem rX0_tray_48 {d mc ms nc ns : Nat} {μ : tm_M} {Q : tQ} {v1 v2 v3 s0 : Int} (hs : tS μ)
    (h : rcl mX0_is [(2, 1), (0, 6)] μ d mc ms nc ns (fun o1 μ1 nc1 ns1 => rk 0 o1 (fun r1 => tS μ1 ∧ ((nc1 ≤ mc ∧ ns1 ≤ ms) ∧ ((0 ≤ r1 ∧ r1 ≤ 1) ∧ (Q (.inl (some (0, r1))) μ1)))) (fun a => tT mX0_tray d mc ms (tq Q mc ms) 53 [(0, 2, 1), (1, 0, v1), (2, 0, v2), (3, 0, v3), (4, 2, s0)] a μ1 nc1 ns1))) :
    tH mX0_tray d mc ms (tq Q mc ms) 48 [(0, 2, 1), (1, 0, v1), (2, 0, v2), (3, 0, v3)] [(2, s0)] μ nc ns := by
  refine g_astore (L' := [(0, 2, 1), (1, 0, v1), (2, 0, v2), (3, 0, v3), (4, 2, s0)]) dX0_tray_48 (by decide) [1, 2, 3, 4, 0] rfl ?_
  refine g_aload_n (q := 0) dX0_tray_50 rfl rfl ?_
  refine g_bipush dX0_tray_51 ⟨by decide, by decide, rfl⟩ ?_
  obtain ⟨_, _, _, k1, k2, k3, h⟩ := h
  refine g_callV (as := [(0, 6)]) (S := []) dX0_tray_53 kX0_is q567 q569 qs2 (ci := 0) rfl (by decide) rfl rfl k1 (by decide) (sk_1 hs) k2 k3 (Nat.le_of_ble_eq_true rfl) (h.mono fun o1 μ1 q => rk_go q (fun r1 h => ?_) (fun a h => h))
  obtain ⟨hs, h⟩ := h
  obtain ⟨c2, h⟩ := h
  obtain ⟨c3, h⟩ := h
  exact g_zret dX0_tray_56 rfl c3 c2.1 c2.2 h
theorem rX0_write_0 {d mc ms nc ns : Nat} {μ : tm_M} {Q : tQ} {v1 v2 v3 : Int} (hs : tS μ)
    (h : rcl mX0_isTray [(0, v1)] μ d mc ms nc ns (fun o1 μ1 nc1 ns1 => rk 0 o1 (fun r1 => tS μ1 ∧ ((r1 ≠ 0 → (0 ≤ v1 ∧ v1 < 4) ∧ (rcl mX5_set [(2, 61 + v1), (0, v2), (1, v3)] μ1 d mc ms nc1 ns1 (fun o5 μ5 nc5 ns5 => rkV o5 (tS μ5 ∧ (rcl mX0_is [(2, 1), (0, 0)] μ5 d mc ms nc5 ns5 (fun o6 μ6 nc6 ns6 => rk 0 o6 (fun r6 => tS μ6 ∧ ((nc6 ≤ mc ∧ ns6 ≤ ms) ∧ ((0 ≤ r6 ∧ r6 ≤ 1) ∧ (Q (.inl (some (0, r6))) μ6)))) (fun a => tT mX0_write d mc ms (tq Q mc ms) 45 [(0, 2, 1), (1, 0, v1), (2, 0, v2), (3, 1, v3)] a μ6 nc6 ns6)))) (fun a => tT mX0_write d mc ms (tq Q mc ms) 21 [(0, 2, 1), (1, 0, v1), (2, 0, v2), (3, 1, v3)] a μ5 nc5 ns5)))) ∧ (r1 = 0 → rcl mX0_is [(2, 1), (0, 1)] μ1 d mc ms nc1 ns1 (fun o9 μ9 nc9 ns9 => rk 0 o9 (fun r9 => tS μ9 ∧ ((nc9 ≤ mc ∧ ns9 ≤ ms) ∧ ((0 ≤ r9 ∧ r9 ≤ 1) ∧ (Q (.inl (some (0, r9))) μ9)))) (fun a => tT mX0_write d mc ms (tq Q mc ms) 9 [(0, 2, 1), (1, 0, v1), (2, 0, v2), (3, 1, v3)] a μ9 nc9 ns9))))) (fun a => tT mX0_write d mc ms (tq Q mc ms) 1 [(0, 2, 1), (1, 0, v1), (2, 0, v2), (3, 1, v3)] a μ1 nc1 ns1))) :
    tH mX0_write d mc ms (tq Q mc ms) 0 [(0, 2, 1), (1, 0, v1), (2, 0, v2), (3, 1, v3)] [] μ nc ns := by
  refine g_iload_n (q := 1) dX0_write_0 rfl rfl ?_
  obtain ⟨_, _, _, k1, k2, k3, h⟩ := h
  refine g_callS (as := [(0, v1)]) (S := []) dX0_write_1 kX0_isTray q564 q565 rfl rfl k1 k2 k3 (Nat.le_of_ble_eq_true rfl) (h.mono fun o1 μ1 q => rk_go q (fun r1 h => ?_) (fun a h => h))
  obtain ⟨hs, h⟩ := h
  refine g_if_ne (tgt := 13) dX0_write_4 (by decide) (fun c2 => ?_) (fun c3 => ?_)
  · have h := h.1 c2
    refine g_aload_n (q := 0) dX0_write_13 rfl rfl ?_
    refine g_getC (x := 2) 2 dX0_write_14 fX0_11 rfl (by decide) (sk_1 hs) (sv_1_0 hs) ?_
    refine g_iload_n (q := 1) dX0_write_17 rfl rfl ?_
    obtain ⟨c4, h⟩ := h
    refine g_aaloadC (x := 61 + v1) dX0_write_18 (by decide) (sk_2 hs) (by decide) c4.1 (t_lt (sn_2 hs) c4.2) (sa_2 hs c4.1 c4.2) ?_
    refine g_iload_n (q := 2) dX0_write_19 rfl rfl ?_
    refine g_lload_n (q := 3) dX0_write_20 rfl rfl ?_
    obtain ⟨_, _, _, k1, k2, k3, h⟩ := h
    refine g_callV (as := [(0, v2), (1, v3)]) (S := []) dX0_write_21 kX5_set q624 q625 q626 (ci := 5) rfl (by decide) rfl rfl k1 (by have := c4; omega) (sak_2 hs c4.1 c4.2) k2 k3 (Nat.le_of_ble_eq_true rfl) (h.mono fun o5 μ5 q => rk_goV q (fun h => ?_) (fun a h => h))
    obtain ⟨hs, h⟩ := h
    refine g_goto (tgt := 43) dX0_write_24 (by decide) ?_
    refine g_aload_n (q := 0) dX0_write_43 rfl rfl ?_
    refine g_iconst dX0_write_44 (by decide) ?_
    obtain ⟨_, _, _, k1, k2, k3, h⟩ := h
    refine g_callV (as := [(0, 0)]) (S := []) dX0_write_45 kX0_is q567 q569 qs2 (ci := 0) rfl (by decide) rfl rfl k1 (by decide) (sk_1 hs) k2 k3 (Nat.le_of_ble_eq_true rfl) (h.mono fun o6 μ6 q => rk_go q (fun r6 h => ?_) (fun a h => h))
    obtain ⟨hs, h⟩ := h
    obtain ⟨c7, h⟩ := h
    obtain ⟨c8, h⟩ := h
    exact g_zret dX0_write_48 rfl c8 c7.1 c7.2 h
  · have h := h.2 c3
    refine g_aload_n (q := 0) dX0_write_7 rfl rfl ?_
    refine g_iconst dX0_write_8 (by decide) ?_
    obtain ⟨_, _, _, k1, k2, k3, h⟩ := h
    refine g_callV (as := [(0, 1)]) (S := []) dX0_write_9 kX0_is q567 q569 qs2 (ci := 0) rfl (by decide) rfl rfl k1 (by decide) (sk_1 hs) k2 k3 (Nat.le_of_ble_eq_true rfl) (h.mono fun o9 μ9 q => rk_go q (fun r9 h => ?_) (fun a h => h))
    obtain ⟨hs, h⟩ := h
    obtain ⟨c10, h⟩ := h
    obtain ⟨c11, h⟩ := h
    exact g_zret dX0_write_12 rfl c11 c10.1 c10.2 h
theorem rX0_write_27 {d mc ms nc ns : Nat} {μ : tm_M} {Q : tQ} {v1 v2 v3 s0 : Int} (hs : tS μ)
    (h : rcl mX0_is [(2, 1), (0, 3)] μ d mc ms nc ns (fun o1 μ1 nc1 ns1 => rk 0 o1 (fun r1 => tS μ1 ∧ ((nc1 ≤ mc ∧ ns1 ≤ ms) ∧ ((0 ≤ r1 ∧ r1 ≤ 1) ∧ (Q (.inl (some (0, r1))) μ1)))) (fun a => tT mX0_write d mc ms (tq Q mc ms) 31 [(0, 2, 1), (1, 0, v1), (2, 0, v2), (3, 1, v3), (5, 2, s0)] a μ1 nc1 ns1))) :
    tH mX0_write d mc ms (tq Q mc ms) 27 [(0, 2, 1), (1, 0, v1), (2, 0, v2), (3, 1, v3)] [(2, s0)] μ nc ns := by
  refine g_astore (L' := [(0, 2, 1), (1, 0, v1), (2, 0, v2), (3, 1, v3), (5, 2, s0)]) dX0_write_27 (by decide) [1, 2, 3, 4, 0] rfl ?_
  refine g_aload_n (q := 0) dX0_write_29 rfl rfl ?_
  refine g_iconst dX0_write_30 (by decide) ?_
  obtain ⟨_, _, _, k1, k2, k3, h⟩ := h
  refine g_callV (as := [(0, 3)]) (S := []) dX0_write_31 kX0_is q567 q569 qs2 (ci := 0) rfl (by decide) rfl rfl k1 (by decide) (sk_1 hs) k2 k3 (Nat.le_of_ble_eq_true rfl) (h.mono fun o1 μ1 q => rk_go q (fun r1 h => ?_) (fun a h => h))
  obtain ⟨hs, h⟩ := h
  obtain ⟨c2, h⟩ := h
  obtain ⟨c3, h⟩ := h
  exact g_zret dX0_write_34 rfl c3 c2.1 c2.2 h
theorem rX0_write_35 {d mc ms nc ns : Nat} {μ : tm_M} {Q : tQ} {v1 v2 v3 s0 : Int} (hs : tS μ)
    (h : rcl mX0_is [(2, 1), (0, 4)] μ d mc ms nc ns (fun o1 μ1 nc1 ns1 => rk 0 o1 (fun r1 => tS μ1 ∧ ((nc1 ≤ mc ∧ ns1 ≤ ms) ∧ ((0 ≤ r1 ∧ r1 ≤ 1) ∧ (Q (.inl (some (0, r1))) μ1)))) (fun a => tT mX0_write d mc ms (tq Q mc ms) 39 [(0, 2, 1), (1, 0, v1), (2, 0, v2), (3, 1, v3), (5, 2, s0)] a μ1 nc1 ns1))) :
    tH mX0_write d mc ms (tq Q mc ms) 35 [(0, 2, 1), (1, 0, v1), (2, 0, v2), (3, 1, v3)] [(2, s0)] μ nc ns := by
  refine g_astore (L' := [(0, 2, 1), (1, 0, v1), (2, 0, v2), (3, 1, v3), (5, 2, s0)]) dX0_write_35 (by decide) [1, 2, 3, 4, 0] rfl ?_
  refine g_aload_n (q := 0) dX0_write_37 rfl rfl ?_
  refine g_iconst dX0_write_38 (by decide) ?_
  obtain ⟨_, _, _, k1, k2, k3, h⟩ := h
  refine g_callV (as := [(0, 4)]) (S := []) dX0_write_39 kX0_is q567 q569 qs2 (ci := 0) rfl (by decide) rfl rfl k1 (by decide) (sk_1 hs) k2 k3 (Nat.le_of_ble_eq_true rfl) (h.mono fun o1 μ1 q => rk_go q (fun r1 h => ?_) (fun a h => h))
  obtain ⟨hs, h⟩ := h
  obtain ⟨c2, h⟩ := h
  obtain ⟨c3, h⟩ := h
  exact g_zret dX0_write_42 rfl c3 c2.1 c2.2 h
theorem rX0_read_0 {d mc ms nc ns : Nat} {μ : tm_M} {Q : tQ} {v1 v2 : Int} (hs : tS μ)
    (h : rcl mX0_isTray [(0, v1)] μ d mc ms nc ns (fun o1 μ1 nc1 ns1 => rk 0 o1 (fun r1 => tS μ1 ∧ ((r1 ≠ 0 → (∀ μ4, μ4 = tm_w μ1 1 10 0 → tS μ4 ∧ ((0 ≤ v1 ∧ v1 < 4) ∧ (rcl mX5_get [(2, 61 + v1), (0, v2)] μ4 d mc ms nc1 ns1 (fun o6 μ6 nc6 ns6 => rk 1 o6 (fun r6 => tS μ6 ∧ ((nc6 ≤ mc ∧ ns6 ≤ ms) ∧ (Q (.inl (some (1, r6))) μ6))) (fun a => tT mX0_read d mc ms (tq Q mc ms) 26 [(0, 2, 1), (1, 0, v1), (2, 0, v2)] a μ6 nc6 ns6)))))) ∧ (r1 = 0 → rcl mX0_none [(2, 1), (0, 1)] μ1 d mc ms nc1 ns1 (fun o8 μ8 nc8 ns8 => rk 0 o8 (fun r8 => tS μ8 ∧ ((nc8 ≤ mc ∧ ns8 ≤ ms) ∧ (Q (.inl (some (1, r8))) μ8))) (fun a => tT mX0_read d mc ms (tq Q mc ms) 9 [(0, 2, 1), (1, 0, v1), (2, 0, v2)] a μ8 nc8 ns8))))) (fun a => tT mX0_read d mc ms (tq Q mc ms) 1 [(0, 2, 1), (1, 0, v1), (2, 0, v2)] a μ1 nc1 ns1))) :
    tH mX0_read d mc ms (tq Q mc ms) 0 [(0, 2, 1), (1, 0, v1), (2, 0, v2)] [] μ nc ns := by
  refine g_iload_n (q := 1) dX0_read_0 rfl rfl ?_
  obtain ⟨_, _, _, k1, k2, k3, h⟩ := h
  refine g_callS (as := [(0, v1)]) (S := []) dX0_read_1 kX0_isTray q564 q565 rfl rfl k1 k2 k3 (Nat.le_of_ble_eq_true rfl) (h.mono fun o1 μ1 q => rk_go q (fun r1 h => ?_) (fun a h => h))
  obtain ⟨hs, h⟩ := h
  refine g_if_ne (tgt := 14) dX0_read_4 (by decide) (fun c2 => ?_) (fun c3 => ?_)
  · have h := h.1 c2
    refine g_aload_n (q := 0) dX0_read_14 rfl rfl ?_
    refine g_iconst dX0_read_15 (by decide) ?_
    refine g_put dX0_read_16 fX0_149 rfl (by decide) (sk_1 hs) (fun e => absurd e (by decide)) (p_r fun μ4 eμ4 => ?_)
    obtain ⟨hs, h⟩ := h μ4 eμ4
    refine g_aload_n (q := 0) dX0_read_19 rfl rfl ?_
    refine g_getC (x := 2) 2 dX0_read_20 fX0_11 rfl (by decide) (sk_1 hs) (sv_1_0 hs) ?_
    refine g_iload_n (q := 1) dX0_read_23 rfl rfl ?_
    obtain ⟨c5, h⟩ := h
    refine g_aaloadC (x := 61 + v1) dX0_read_24 (by decide) (sk_2 hs) (by decide) c5.1 (t_lt (sn_2 hs) c5.2) (sa_2 hs c5.1 c5.2) ?_
    refine g_iload_n (q := 2) dX0_read_25 rfl rfl ?_
    obtain ⟨_, _, _, k1, k2, k3, h⟩ := h
    refine g_callV (as := [(0, v2)]) (S := []) dX0_read_26 kX5_get q640 q641 q642 (ci := 5) rfl (by decide) rfl rfl k1 (by have := c5; omega) (sak_2 hs c5.1 c5.2) k2 k3 (Nat.le_of_ble_eq_true rfl) (h.mono fun o6 μ6 q => rk_go q (fun r6 h => ?_) (fun a h => h))
    obtain ⟨hs, h⟩ := h
    obtain ⟨c7, h⟩ := h
    exact g_lret dX0_read_29 rfl c7.1 c7.2 h
  · have h := h.2 c3
    refine g_aload_n (q := 0) dX0_read_7 rfl rfl ?_
    refine g_iconst dX0_read_8 (by decide) ?_
    obtain ⟨_, _, _, k1, k2, k3, h⟩ := h
    refine g_callV (as := [(0, 1)]) (S := []) dX0_read_9 kX0_none q636 q638 qs3 (ci := 0) rfl (by decide) rfl rfl k1 (by decide) (sk_1 hs) k2 k3 (Nat.le_of_ble_eq_true rfl) (h.mono fun o8 μ8 q => rk_go q (fun r8 h => ?_) (fun a h => h))
    obtain ⟨hs, h⟩ := h
    refine g_i2l dX0_read_12 ?_
    obtain ⟨c9, h⟩ := h
    exact g_lret dX0_read_13 rfl c9.1 c9.2 h
theorem rX0_read_30 {d mc ms nc ns : Nat} {μ : tm_M} {Q : tQ} {v1 v2 s0 : Int} (hs : tS μ)
    (h : (∀ μ1, μ1 = tm_w μ 1 10 3 → tS μ1 ∧ ((nc ≤ mc ∧ ns ≤ ms) ∧ (Q (.inl (some (1, -1))) μ1)))) :
    tH mX0_read d mc ms (tq Q mc ms) 30 [(0, 2, 1), (1, 0, v1), (2, 0, v2)] [(2, s0)] μ nc ns := by
  refine g_astore_n (L' := [(0, 2, 1), (1, 0, v1), (2, 0, v2), (3, 2, s0)]) dX0_read_30 rfl (by decide) [1, 2, 3, 0] rfl ?_
  refine g_aload_n (q := 0) dX0_read_31 rfl rfl ?_
  refine g_iconst dX0_read_32 (by decide) ?_
  refine g_put dX0_read_33 fX0_149 rfl (by decide) (sk_1 hs) (fun e => absurd e (by decide)) (p_r fun μ1 eμ1 => ?_)
  obtain ⟨hs, h⟩ := h μ1 eμ1
  refine g_goto (tgt := 45) dX0_read_36 (by decide) ?_
  refine g_ldc2 (v := -1) (by decide) q644c dX0_read_45 ?_
  obtain ⟨c2, h⟩ := h
  exact g_lret dX0_read_48 rfl c2.1 c2.2 h
theorem rX0_read_39 {d mc ms nc ns : Nat} {μ : tm_M} {Q : tQ} {v1 v2 s0 : Int} (hs : tS μ)
    (h : (∀ μ1, μ1 = tm_w μ 1 10 4 → tS μ1 ∧ ((nc ≤ mc ∧ ns ≤ ms) ∧ (Q (.inl (some (1, -1))) μ1)))) :
    tH mX0_read d mc ms (tq Q mc ms) 39 [(0, 2, 1), (1, 0, v1), (2, 0, v2)] [(2, s0)] μ nc ns := by
  refine g_astore_n (L' := [(0, 2, 1), (1, 0, v1), (2, 0, v2), (3, 2, s0)]) dX0_read_39 rfl (by decide) [1, 2, 3, 0] rfl ?_
  refine g_aload_n (q := 0) dX0_read_40 rfl rfl ?_
  refine g_iconst dX0_read_41 (by decide) ?_
  refine g_put dX0_read_42 fX0_149 rfl (by decide) (sk_1 hs) (fun e => absurd e (by decide)) (p_r fun μ1 eμ1 => ?_)
  obtain ⟨hs, h⟩ := h μ1 eμ1
  refine g_ldc2 (v := -1) (by decide) q644c dX0_read_45 ?_
  obtain ⟨c2, h⟩ := h
  exact g_lret dX0_read_48 rfl c2.1 c2.2 h
theorem rX5_make_0 {d mc ms nc ns : Nat} {μ : tm_M} {Q : tQ} {v0 v1 v2 : Int} (hs : tS μ)
    (h : (v1 ≠ 0 → (v1 ≠ 1 → (v1 ≠ 2 → (v2 < 0 → (nc + 3 ≤ mc ∧ ns + 800 ≤ ms) ∧ tT mX5_make d mc ms (tq Q mc ms) 33 [(0, 2, v0), (1, 0, v1), (2, 0, v2)] (tm_z μ) (tm_a μ 12 0) (nc + 3) (ns + 800)) ∧ ((0 ≤ v2 → (v2 ≤ 1000) ∧ ((nc + 1 ≤ mc ∧ ns + (v2).toNat ≤ ms) ∧ ((∀ μ11, μ11 = tm_a μ 21 v2 → tS μ11 ∧ ((∀ x12, x12 = tm_z μ → (1 ≤ v0 ∧ tm_k μ11 v0 = 5) ∧ ((∀ μ14, μ14 = tm_w μ11 v0 0 x12 → tS μ14 ∧ ((1 ≤ v0 ∧ tm_k μ14 v0 = 5) ∧ ((∀ μ16, μ16 = tm_w μ14 v0 1 v1 → tS μ16 ∧ (((nc + 1) ≤ mc ∧ (ns + (v2).toNat) ≤ ms) ∧ (Q (.inl none) μ16))))))))))))))) ∧ (v1 = 2 → (v2 < 0 → (nc + 3 ≤ mc ∧ ns + 800 ≤ ms) ∧ tT mX5_make d mc ms (tq Q mc ms) 27 [(0, 2, v0), (1, 0, v1), (2, 0, v2)] (tm_z μ) (tm_a μ 12 0) (nc + 3) (ns + 800)) ∧ ((0 ≤ v2 → (v2 ≤ 1000) ∧ ((nc + 1 ≤ mc ∧ ns + (v2).toNat ≤ ms) ∧ ((∀ μ22, μ22 = tm_a μ 20 v2 → tS μ22 ∧ ((∀ x23, x23 = tm_z μ → (1 ≤ v0 ∧ tm_k μ22 v0 = 5) ∧ ((∀ μ25, μ25 = tm_w μ22 v0 0 x23 → tS μ25 ∧ ((1 ≤ v0 ∧ tm_k μ25 v0 = 5) ∧ ((∀ μ27, μ27 = tm_w μ25 v0 1 v1 → tS μ27 ∧ (((nc + 1) ≤ mc ∧ (ns + (v2).toNat) ≤ ms) ∧ (Q (.inl none) μ27)))))))))))))))) ∧ (v1 = 1 → (v2 < 0 → (nc + 3 ≤ mc ∧ ns + 800 ≤ ms) ∧ tT mX5_make d mc ms (tq Q mc ms) 16 [(0, 2, v0), (1, 0, v1), (2, 0, v2)] (tm_z μ) (tm_a μ 12 0) (nc + 3) (ns + 800)) ∧ ((0 ≤ v2 → (v2 ≤ 1000) ∧ ((nc + 1 ≤ mc ∧ ns + (v2).toNat ≤ ms) ∧ ((∀ μ33, μ33 = tm_a μ 23 v2 → tS μ33 ∧ ((∀ x34, x34 = tm_z μ → (1 ≤ v0 ∧ tm_k μ33 v0 = 5) ∧ ((∀ μ36, μ36 = tm_w μ33 v0 0 x34 → tS μ36 ∧ ((1 ≤ v0 ∧ tm_k μ36 v0 = 5) ∧ ((∀ μ38, μ38 = tm_w μ36 v0 1 v1 → tS μ38 ∧ (((nc + 1) ≤ mc ∧ (ns + (v2).toNat) ≤ ms) ∧ (Q (.inl none) μ38)))))))))))))))) ∧ (v1 = 0 → (v2 < 0 → (nc + 3 ≤ mc ∧ ns + 800 ≤ ms) ∧ tT mX5_make d mc ms (tq Q mc ms) 5 [(0, 2, v0), (1, 0, v1), (2, 0, v2)] (tm_z μ) (tm_a μ 12 0) (nc + 3) (ns + 800)) ∧ ((0 ≤ v2 → (v2 ≤ 1000) ∧ ((nc + 1 ≤ mc ∧ ns + (v2).toNat ≤ ms) ∧ ((∀ μ44, μ44 = tm_a μ 22 v2 → tS μ44 ∧ ((∀ x45, x45 = tm_z μ → (1 ≤ v0 ∧ tm_k μ44 v0 = 5) ∧ ((∀ μ47, μ47 = tm_w μ44 v0 0 x45 → tS μ47 ∧ ((1 ≤ v0 ∧ tm_k μ47 v0 = 5) ∧ ((∀ μ49, μ49 = tm_w μ47 v0 1 v1 → tS μ49 ∧ (((nc + 1) ≤ mc ∧ (ns + (v2).toNat) ≤ ms) ∧ (Q (.inl none) μ49)))))))))))))))) :
    tH mX5_make d mc ms (tq Q mc ms) 0 [(0, 2, v0), (1, 0, v1), (2, 0, v2)] [] μ nc ns := by
  refine g_iload_n (q := 1) dX5_make_0 rfl rfl ?_
  refine g_if_ne (tgt := 10) dX5_make_1 (by decide) (fun c1 => ?_) (fun c2 => ?_)
  · have h := h.1 c1
    refine g_iload_n (q := 1) dX5_make_10 rfl rfl ?_
    refine g_iconst dX5_make_11 (by decide) ?_
    refine g_icmp_ne (tgt := 21) dX5_make_12 (by decide) (fun c3 => ?_) (fun c4 => ?_)
    · have h := h.1 c3
      refine g_iload_n (q := 1) dX5_make_21 rfl rfl ?_
      refine g_iconst dX5_make_22 (by decide) ?_
      refine g_icmp_ne (tgt := 32) dX5_make_23 (by decide) (fun c5 => ?_) (fun c6 => ?_)
      · have h := h.1 c5
        refine g_iload_n (q := 2) dX5_make_32 rfl rfl ?_
        obtain ⟨c8, h⟩ := h
        by_cases c7 : v2 < 0
        · have q := c8 c7
          exact g_newarrayNeg dX5_make_33 c7 q.1.1 q.1.2 (Nat.le_of_ble_eq_true rfl) q.2
        have h := h (by omega)
        obtain ⟨c9, h⟩ := h
        obtain ⟨c10, h⟩ := h
        refine g_newarray (k := 21) dX5_make_33 (by decide) rfl q375 ⟨by omega, c9⟩ c10.1 c10.2 (p_r fun μ11 eμ11 => ?_)
        obtain ⟨hs, h⟩ := h μ11 eμ11
        refine g_astore_nN (fun z => [(0, 2, v0), (1, 0, v1), (2, 0, v2), (3, 2, z)]) dX5_make_35 rfl (by decide) [1, 2, 3, 0] (fun _ => rfl) (fun x12 ex12 => ?_)
        have h := h x12 ex12
        refine g_aload_n (q := 0) dX5_make_36 rfl rfl ?_
        refine g_aload_n (q := 3) dX5_make_37 rfl rfl ?_
        obtain ⟨c13, h⟩ := h
        refine g_put dX5_make_38 fX5_7 rfl c13.1 c13.2 (fun e => absurd e (by decide)) (p_r fun μ14 eμ14 => ?_)
        obtain ⟨hs, h⟩ := h μ14 eμ14
        refine g_aload_n (q := 0) dX5_make_41 rfl rfl ?_
        refine g_iload_n (q := 1) dX5_make_42 rfl rfl ?_
        obtain ⟨c15, h⟩ := h
        refine g_put dX5_make_43 fX5_13 rfl c15.1 c15.2 (fun e => absurd e (by decide)) (p_r fun μ16 eμ16 => ?_)
        obtain ⟨hs, h⟩ := h μ16 eμ16
        obtain ⟨c17, h⟩ := h
        exact g_vret dX5_make_46 rfl c17.1 c17.2 h
      · have h := h.2 c6
        refine g_iload_n (q := 2) dX5_make_26 rfl rfl ?_
        obtain ⟨c19, h⟩ := h
        by_cases c18 : v2 < 0
        · have q := c19 c18
          exact g_newarrayNeg dX5_make_27 c18 q.1.1 q.1.2 (Nat.le_of_ble_eq_true rfl) q.2
        have h := h (by omega)
        obtain ⟨c20, h⟩ := h
        obtain ⟨c21, h⟩ := h
        refine g_newarray (k := 20) dX5_make_27 (by decide) rfl q354 ⟨by omega, c20⟩ c21.1 c21.2 (p_r fun μ22 eμ22 => ?_)
        obtain ⟨hs, h⟩ := h μ22 eμ22
        refine g_goto (tgt := 35) dX5_make_29 (by decide) ?_
        refine g_astore_nN (fun z => [(0, 2, v0), (1, 0, v1), (2, 0, v2), (3, 2, z)]) dX5_make_35 rfl (by decide) [1, 2, 3, 0] (fun _ => rfl) (fun x23 ex23 => ?_)
        have h := h x23 ex23
        refine g_aload_n (q := 0) dX5_make_36 rfl rfl ?_
        refine g_aload_n (q := 3) dX5_make_37 rfl rfl ?_
        obtain ⟨c24, h⟩ := h
        refine g_put dX5_make_38 fX5_7 rfl c24.1 c24.2 (fun e => absurd e (by decide)) (p_r fun μ25 eμ25 => ?_)
        obtain ⟨hs, h⟩ := h μ25 eμ25
        refine g_aload_n (q := 0) dX5_make_41 rfl rfl ?_
        refine g_iload_n (q := 1) dX5_make_42 rfl rfl ?_
        obtain ⟨c26, h⟩ := h
        refine g_put dX5_make_43 fX5_13 rfl c26.1 c26.2 (fun e => absurd e (by decide)) (p_r fun μ27 eμ27 => ?_)
        obtain ⟨hs, h⟩ := h μ27 eμ27
        obtain ⟨c28, h⟩ := h
        exact g_vret dX5_make_46 rfl c28.1 c28.2 h
    · have h := h.2 c4
      refine g_iload_n (q := 2) dX5_make_15 rfl rfl ?_
      obtain ⟨c30, h⟩ := h
      by_cases c29 : v2 < 0
      · have q := c30 c29
        exact g_newarrayNeg dX5_make_16 c29 q.1.1 q.1.2 (Nat.le_of_ble_eq_true rfl) q.2
      have h := h (by omega)
      obtain ⟨c31, h⟩ := h
      obtain ⟨c32, h⟩ := h
      refine g_newarray (k := 23) dX5_make_16 (by decide) rfl q575 ⟨by omega, c31⟩ c32.1 c32.2 (p_r fun μ33 eμ33 => ?_)
      obtain ⟨hs, h⟩ := h μ33 eμ33
      refine g_goto (tgt := 35) dX5_make_18 (by decide) ?_
      refine g_astore_nN (fun z => [(0, 2, v0), (1, 0, v1), (2, 0, v2), (3, 2, z)]) dX5_make_35 rfl (by decide) [1, 2, 3, 0] (fun _ => rfl) (fun x34 ex34 => ?_)
      have h := h x34 ex34
      refine g_aload_n (q := 0) dX5_make_36 rfl rfl ?_
      refine g_aload_n (q := 3) dX5_make_37 rfl rfl ?_
      obtain ⟨c35, h⟩ := h
      refine g_put dX5_make_38 fX5_7 rfl c35.1 c35.2 (fun e => absurd e (by decide)) (p_r fun μ36 eμ36 => ?_)
      obtain ⟨hs, h⟩ := h μ36 eμ36
      refine g_aload_n (q := 0) dX5_make_41 rfl rfl ?_
      refine g_iload_n (q := 1) dX5_make_42 rfl rfl ?_
      obtain ⟨c37, h⟩ := h
      refine g_put dX5_make_43 fX5_13 rfl c37.1 c37.2 (fun e => absurd e (by decide)) (p_r fun μ38 eμ38 => ?_)
      obtain ⟨hs, h⟩ := h μ38 eμ38
      obtain ⟨c39, h⟩ := h
      exact g_vret dX5_make_46 rfl c39.1 c39.2 h
  · have h := h.2 c2
    refine g_iload_n (q := 2) dX5_make_4 rfl rfl ?_
    obtain ⟨c41, h⟩ := h
    by_cases c40 : v2 < 0
    · have q := c41 c40
      exact g_newarrayNeg dX5_make_5 c40 q.1.1 q.1.2 (Nat.le_of_ble_eq_true rfl) q.2
    have h := h (by omega)
    obtain ⟨c42, h⟩ := h
    obtain ⟨c43, h⟩ := h
    refine g_newarray (k := 22) dX5_make_5 (by decide) rfl q278 ⟨by omega, c42⟩ c43.1 c43.2 (p_r fun μ44 eμ44 => ?_)
    obtain ⟨hs, h⟩ := h μ44 eμ44
    refine g_goto (tgt := 35) dX5_make_7 (by decide) ?_
    refine g_astore_nN (fun z => [(0, 2, v0), (1, 0, v1), (2, 0, v2), (3, 2, z)]) dX5_make_35 rfl (by decide) [1, 2, 3, 0] (fun _ => rfl) (fun x45 ex45 => ?_)
    have h := h x45 ex45
    refine g_aload_n (q := 0) dX5_make_36 rfl rfl ?_
    refine g_aload_n (q := 3) dX5_make_37 rfl rfl ?_
    obtain ⟨c46, h⟩ := h
    refine g_put dX5_make_38 fX5_7 rfl c46.1 c46.2 (fun e => absurd e (by decide)) (p_r fun μ47 eμ47 => ?_)
    obtain ⟨hs, h⟩ := h μ47 eμ47
    refine g_aload_n (q := 0) dX5_make_41 rfl rfl ?_
    refine g_iload_n (q := 1) dX5_make_42 rfl rfl ?_
    obtain ⟨c48, h⟩ := h
    refine g_put dX5_make_43 fX5_13 rfl c48.1 c48.2 (fun e => absurd e (by decide)) (p_r fun μ49 eμ49 => ?_)
    obtain ⟨hs, h⟩ := h μ49 eμ49
    obtain ⟨c50, h⟩ := h
    exact g_vret dX5_make_46 rfl c50.1 c50.2 h
theorem rX5_set_0 {d mc ms nc ns : Nat} {μ : tm_M} {Q : tQ} {v0 v1 v2 : Int} (hs : tS μ)
    (h : (1 ≤ v0 ∧ tm_k μ v0 = 5) ∧ ((tm_v μ v0 1 ≠ 0 → (tm_v μ v0 1 ≠ 1 → (tm_v μ v0 1 ≠ 2 → (tm_v μ v0 0 = 0 ∨ (1 ≤ tm_v μ v0 0 ∧ tm_k μ (tm_v μ v0 0) = 21)) ∧ ((tm_v μ v0 0 = 0 ∨ (1 ≤ tm_v μ v0 0 ∧ tm_k μ (tm_v μ v0 0) = 21)) ∧ ((tm_v μ v0 0 = 0 → (nc + 1 ≤ mc ∧ ns + 8 ≤ ms) ∧ tT mX5_set d mc ms (tq Q mc ms) 76 [(0, 2, v0), (1, 0, v1), (2, 1, v2)] (tm_z μ) (tm_a μ 13 0) (nc + 1) (ns + 8)) ∧ ((v1 < 0 ∨ tm_n μ (tm_v μ v0 0) ≤ v1 → 1 ≤ tm_v μ v0 0 → (nc + 3 ≤ mc ∧ ns + 800 ≤ ms) ∧ tT mX5_set d mc ms (tq Q mc ms) 76 [(0, 2, v0), (1, 0, v1), (2, 1, v2)] (tm_z μ) (tm_a μ 14 0) (nc + 3) (ns + 800)) ∧ ((0 ≤ v1 ∧ v1 < tm_n μ (tm_v μ v0 0) → (1 ≤ tm_v μ v0 0 → (∀ μ14, μ14 = tm_w μ (tm_v μ v0 0) v1 v2 → tS μ14 ∧ ((nc ≤ mc ∧ ns ≤ ms) ∧ (Q (.inl none) μ14)))))))))) ∧ (tm_v μ v0 1 = 2 → (tm_v μ v0 0 = 0 ∨ (1 ≤ tm_v μ v0 0 ∧ tm_k μ (tm_v μ v0 0) = 20)) ∧ ((tm_v μ v0 0 = 0 ∨ (1 ≤ tm_v μ v0 0 ∧ tm_k μ (tm_v μ v0 0) = 20)) ∧ ((tm_v μ v0 0 = 0 → (nc + 1 ≤ mc ∧ ns + 8 ≤ ms) ∧ tT mX5_set d mc ms (tq Q mc ms) 63 [(0, 2, v0), (1, 0, v1), (2, 1, v2)] (tm_z μ) (tm_a μ 13 0) (nc + 1) (ns + 8)) ∧ ((v1 < 0 ∨ tm_n μ (tm_v μ v0 0) ≤ v1 → 1 ≤ tm_v μ v0 0 → (nc + 3 ≤ mc ∧ ns + 800 ≤ ms) ∧ tT mX5_set d mc ms (tq Q mc ms) 63 [(0, 2, v0), (1, 0, v1), (2, 1, v2)] (tm_z μ) (tm_a μ 14 0) (nc + 3) (ns + 800)) ∧ ((0 ≤ v1 ∧ v1 < tm_n μ (tm_v μ v0 0) → (1 ≤ tm_v μ v0 0 → (∀ μ22, μ22 = tm_w μ (tm_v μ v0 0) v1 (w32 v2) → tS μ22 ∧ ((nc ≤ mc ∧ ns ≤ ms) ∧ (Q (.inl none) μ22))))))))))) ∧ (tm_v μ v0 1 = 1 → (tm_v μ v0 0 = 0 ∨ (1 ≤ tm_v μ v0 0 ∧ tm_k μ (tm_v μ v0 0) = 23)) ∧ ((tm_v μ v0 0 = 0 ∨ (1 ≤ tm_v μ v0 0 ∧ tm_k μ (tm_v μ v0 0) = 23)) ∧ ((tm_v μ v0 0 = 0 → (nc + 1 ≤ mc ∧ ns + 8 ≤ ms) ∧ tT mX5_set d mc ms (tq Q mc ms) 41 [(0, 2, v0), (1, 0, v1), (2, 1, v2)] (tm_z μ) (tm_a μ 13 0) (nc + 1) (ns + 8)) ∧ ((v1 < 0 ∨ tm_n μ (tm_v μ v0 0) ≤ v1 → 1 ≤ tm_v μ v0 0 → (nc + 3 ≤ mc ∧ ns + 800 ≤ ms) ∧ tT mX5_set d mc ms (tq Q mc ms) 41 [(0, 2, v0), (1, 0, v1), (2, 1, v2)] (tm_z μ) (tm_a μ 14 0) (nc + 3) (ns + 800)) ∧ ((0 ≤ v1 ∧ v1 < tm_n μ (tm_v μ v0 0) → (1 ≤ tm_v μ v0 0 → (∀ μ30, μ30 = tm_w μ (tm_v μ v0 0) v1 (w16 (w32 v2)) → tS μ30 ∧ ((nc ≤ mc ∧ ns ≤ ms) ∧ (Q (.inl none) μ30))))))))))) ∧ (tm_v μ v0 1 = 0 → (tm_v μ v0 0 = 0 ∨ (1 ≤ tm_v μ v0 0 ∧ tm_k μ (tm_v μ v0 0) = 22)) ∧ ((tm_v μ v0 0 = 0 ∨ (1 ≤ tm_v μ v0 0 ∧ tm_k μ (tm_v μ v0 0) = 22)) ∧ ((tm_v μ v0 0 = 0 → (nc + 1 ≤ mc ∧ ns + 8 ≤ ms) ∧ tT mX5_set d mc ms (tq Q mc ms) 18 [(0, 2, v0), (1, 0, v1), (2, 1, v2)] (tm_z μ) (tm_a μ 13 0) (nc + 1) (ns + 8)) ∧ ((v1 < 0 ∨ tm_n μ (tm_v μ v0 0) ≤ v1 → 1 ≤ tm_v μ v0 0 → (nc + 3 ≤ mc ∧ ns + 800 ≤ ms) ∧ tT mX5_set d mc ms (tq Q mc ms) 18 [(0, 2, v0), (1, 0, v1), (2, 1, v2)] (tm_z μ) (tm_a μ 14 0) (nc + 3) (ns + 800)) ∧ ((0 ≤ v1 ∧ v1 < tm_n μ (tm_v μ v0 0) → (1 ≤ tm_v μ v0 0 → (∀ μ38, μ38 = tm_w μ (tm_v μ v0 0) v1 (w8 (w32 v2)) → tS μ38 ∧ ((nc ≤ mc ∧ ns ≤ ms) ∧ (Q (.inl none) μ38)))))))))))) :
    tH mX5_set d mc ms (tq Q mc ms) 0 [(0, 2, v0), (1, 0, v1), (2, 1, v2)] [] μ nc ns := by
  refine g_aload_n (q := 0) dX5_set_0 rfl rfl ?_
  obtain ⟨c1, h⟩ := h
  refine g_get 0 dX5_set_1 fX5_13 rfl c1.1 c1.2 ?_
  refine g_if_ne (tgt := 22) dX5_set_4 (by decide) (fun c2 => ?_) (fun c3 => ?_)
  · have h := h.1 c2
    refine g_aload_n (q := 0) dX5_set_22 rfl rfl ?_
    refine g_get 0 dX5_set_23 fX5_13 rfl c1.1 c1.2 ?_
    refine g_iconst dX5_set_26 (by decide) ?_
    refine g_icmp_ne (tgt := 45) dX5_set_27 (by decide) (fun c4 => ?_) (fun c5 => ?_)
    · have h := h.1 c4
      refine g_aload_n (q := 0) dX5_set_45 rfl rfl ?_
      refine g_get 0 dX5_set_46 fX5_13 rfl c1.1 c1.2 ?_
      refine g_iconst dX5_set_49 (by decide) ?_
      refine g_icmp_ne (tgt := 67) dX5_set_50 (by decide) (fun c6 => ?_) (fun c7 => ?_)
      · have h := h.1 c6
        refine g_aload_n (q := 0) dX5_set_67 rfl rfl ?_
        refine g_get 2 dX5_set_68 fX5_7 rfl c1.1 c1.2 ?_
        obtain ⟨c8, h⟩ := h
        refine g_castZ (k := 21) dX5_set_71 q631 (by decide) (by decide +kernel) c8 ?_
        refine g_iload_n (q := 1) dX5_set_74 rfl rfl ?_
        refine g_lload_n (q := 2) dX5_set_75 rfl rfl ?_
        obtain ⟨c11, c9, c10, h⟩ := h
        rcases c11 with c12 | c11
        · have q := c9 c12
          rw [c12]
          exact g_lastoreN dX5_set_76 q.1.1 q.1.2 (Nat.le_of_ble_eq_true rfl) q.2
        by_cases c13 : v1 < 0 ∨ tm_n μ (tm_v μ v0 0) ≤ v1
        · have q := c10 c13 c11.1
          exact g_lastoreO dX5_set_76 c11.1 c11.2 c13 q.1.1 q.1.2 (Nat.le_of_ble_eq_true rfl) q.2
        have h := h (by omega) c11.1
        refine g_lastore dX5_set_76 c11.1 c11.2 (by omega) (by omega) (p_r fun μ14 eμ14 => ?_)
        obtain ⟨hs, h⟩ := h μ14 eμ14
        obtain ⟨c15, h⟩ := h
        exact g_vret dX5_set_77 rfl c15.1 c15.2 h
      · have h := h.2 c7
        refine g_aload_n (q := 0) dX5_set_53 rfl rfl ?_
        refine g_get 2 dX5_set_54 fX5_7 rfl c1.1 c1.2 ?_
        obtain ⟨c16, h⟩ := h
        refine g_castZ (k := 20) dX5_set_57 q630 (by decide) (by decide +kernel) c16 ?_
        refine g_iload_n (q := 1) dX5_set_60 rfl rfl ?_
        refine g_lload_n (q := 2) dX5_set_61 rfl rfl ?_
        refine g_l2i dX5_set_62 ?_
        obtain ⟨c19, c17, c18, h⟩ := h
        rcases c19 with c20 | c19
        · have q := c17 c20
          rw [c20]
          exact g_iastoreN dX5_set_63 q.1.1 q.1.2 (Nat.le_of_ble_eq_true rfl) q.2
        by_cases c21 : v1 < 0 ∨ tm_n μ (tm_v μ v0 0) ≤ v1
        · have q := c18 c21 c19.1
          exact g_iastoreO dX5_set_63 c19.1 c19.2 c21 q.1.1 q.1.2 (Nat.le_of_ble_eq_true rfl) q.2
        have h := h (by omega) c19.1
        refine g_iastore dX5_set_63 c19.1 c19.2 (by omega) (by omega) (p_r fun μ22 eμ22 => ?_)
        obtain ⟨hs, h⟩ := h μ22 eμ22
        refine g_goto (tgt := 77) dX5_set_64 (by decide) ?_
        obtain ⟨c23, h⟩ := h
        exact g_vret dX5_set_77 rfl c23.1 c23.2 h
    · have h := h.2 c5
      refine g_aload_n (q := 0) dX5_set_30 rfl rfl ?_
      refine g_get 2 dX5_set_31 fX5_7 rfl c1.1 c1.2 ?_
      obtain ⟨c24, h⟩ := h
      refine g_castZ (k := 23) dX5_set_34 q629 (by decide) (by decide +kernel) c24 ?_
      refine g_iload_n (q := 1) dX5_set_37 rfl rfl ?_
      refine g_lload_n (q := 2) dX5_set_38 rfl rfl ?_
      refine g_l2i dX5_set_39 ?_
      refine g_i2s dX5_set_40 ?_
      obtain ⟨c27, c25, c26, h⟩ := h
      rcases c27 with c28 | c27
      · have q := c25 c28
        rw [c28]
        exact g_sastoreN dX5_set_41 q.1.1 q.1.2 (Nat.le_of_ble_eq_true rfl) q.2
      by_cases c29 : v1 < 0 ∨ tm_n μ (tm_v μ v0 0) ≤ v1
      · have q := c26 c29 c27.1
        exact g_sastoreO dX5_set_41 c27.1 c27.2 c29 q.1.1 q.1.2 (Nat.le_of_ble_eq_true rfl) q.2
      have h := h (by omega) c27.1
      refine g_sastore dX5_set_41 c27.1 c27.2 (by omega) (by omega) (w16_in _) (p_r fun μ30 eμ30 => ?_)
      obtain ⟨hs, h⟩ := h μ30 eμ30
      refine g_goto (tgt := 77) dX5_set_42 (by decide) ?_
      obtain ⟨c31, h⟩ := h
      exact g_vret dX5_set_77 rfl c31.1 c31.2 h
  · have h := h.2 c3
    refine g_aload_n (q := 0) dX5_set_7 rfl rfl ?_
    refine g_get 2 dX5_set_8 fX5_7 rfl c1.1 c1.2 ?_
    obtain ⟨c32, h⟩ := h
    refine g_castZ (k := 22) dX5_set_11 q628 (by decide) (by decide +kernel) c32 ?_
    refine g_iload_n (q := 1) dX5_set_14 rfl rfl ?_
    refine g_lload_n (q := 2) dX5_set_15 rfl rfl ?_
    refine g_l2i dX5_set_16 ?_
    refine g_i2b dX5_set_17 ?_
    obtain ⟨c35, c33, c34, h⟩ := h
    rcases c35 with c36 | c35
    · have q := c33 c36
      rw [c36]
      exact g_bastoreN dX5_set_18 q.1.1 q.1.2 (Nat.le_of_ble_eq_true rfl) q.2
    by_cases c37 : v1 < 0 ∨ tm_n μ (tm_v μ v0 0) ≤ v1
    · have q := c34 c37 c35.1
      exact g_bastoreO dX5_set_18 c35.1 c35.2 c37 q.1.1 q.1.2 (Nat.le_of_ble_eq_true rfl) q.2
    have h := h (by omega) c35.1
    refine g_bastore dX5_set_18 c35.1 c35.2 (by omega) (by omega) (w8_in _) (p_r fun μ38 eμ38 => ?_)
    obtain ⟨hs, h⟩ := h μ38 eμ38
    refine g_goto (tgt := 77) dX5_set_19 (by decide) ?_
    obtain ⟨c39, h⟩ := h
    exact g_vret dX5_set_77 rfl c39.1 c39.2 h
theorem rX5_get_0 {d mc ms nc ns : Nat} {μ : tm_M} {Q : tQ} {v0 v1 : Int} (hs : tS μ)
    (h : (1 ≤ v0 ∧ tm_k μ v0 = 5) ∧ ((tm_v μ v0 1 ≠ 0 → (tm_v μ v0 1 ≠ 1 → (tm_v μ v0 1 ≠ 2 → (tm_v μ v0 0 = 0 ∨ (1 ≤ tm_v μ v0 0 ∧ tm_k μ (tm_v μ v0 0) = 21)) ∧ ((tm_v μ v0 0 = 0 ∨ (1 ≤ tm_v μ v0 0 ∧ tm_k μ (tm_v μ v0 0) = 21)) ∧ ((tm_v μ v0 0 = 0 → (nc + 1 ≤ mc ∧ ns + 8 ≤ ms) ∧ tT mX5_get d mc ms (tq Q mc ms) 70 [(0, 2, v0), (1, 0, v1)] (tm_z μ) (tm_a μ 13 0) (nc + 1) (ns + 8)) ∧ ((v1 < 0 ∨ tm_n μ (tm_v μ v0 0) ≤ v1 → 1 ≤ tm_v μ v0 0 → (nc + 3 ≤ mc ∧ ns + 800 ≤ ms) ∧ tT mX5_get d mc ms (tq Q mc ms) 70 [(0, 2, v0), (1, 0, v1)] (tm_z μ) (tm_a μ 14 0) (nc + 3) (ns + 800)) ∧ ((0 ≤ v1 ∧ v1 < tm_n μ (tm_v μ v0 0) → (1 ≤ tm_v μ v0 0 → (nc ≤ mc ∧ ns ≤ ms) ∧ (Q (.inl (some (1, tm_v μ (tm_v μ v0 0) v1))) μ)))))))) ∧ (tm_v μ v0 1 = 2 → (tm_v μ v0 0 = 0 ∨ (1 ≤ tm_v μ v0 0 ∧ tm_k μ (tm_v μ v0 0) = 20)) ∧ ((tm_v μ v0 0 = 0 ∨ (1 ≤ tm_v μ v0 0 ∧ tm_k μ (tm_v μ v0 0) = 20)) ∧ ((tm_v μ v0 0 = 0 → (nc + 1 ≤ mc ∧ ns + 8 ≤ ms) ∧ tT mX5_get d mc ms (tq Q mc ms) 57 [(0, 2, v0), (1, 0, v1)] (tm_z μ) (tm_a μ 13 0) (nc + 1) (ns + 8)) ∧ ((v1 < 0 ∨ tm_n μ (tm_v μ v0 0) ≤ v1 → 1 ≤ tm_v μ v0 0 → (nc + 3 ≤ mc ∧ ns + 800 ≤ ms) ∧ tT mX5_get d mc ms (tq Q mc ms) 57 [(0, 2, v0), (1, 0, v1)] (tm_z μ) (tm_a μ 14 0) (nc + 3) (ns + 800)) ∧ ((0 ≤ v1 ∧ v1 < tm_n μ (tm_v μ v0 0) → (1 ≤ tm_v μ v0 0 → (nc ≤ mc ∧ ns ≤ ms) ∧ (Q (.inl (some (1, tm_v μ (tm_v μ v0 0) v1))) μ))))))))) ∧ (tm_v μ v0 1 = 1 → (tm_v μ v0 0 = 0 ∨ (1 ≤ tm_v μ v0 0 ∧ tm_k μ (tm_v μ v0 0) = 23)) ∧ ((tm_v μ v0 0 = 0 ∨ (1 ≤ tm_v μ v0 0 ∧ tm_k μ (tm_v μ v0 0) = 23)) ∧ ((tm_v μ v0 0 = 0 → (nc + 1 ≤ mc ∧ ns + 8 ≤ ms) ∧ tT mX5_get d mc ms (tq Q mc ms) 36 [(0, 2, v0), (1, 0, v1)] (tm_z μ) (tm_a μ 13 0) (nc + 1) (ns + 8)) ∧ ((v1 < 0 ∨ tm_n μ (tm_v μ v0 0) ≤ v1 → 1 ≤ tm_v μ v0 0 → (nc + 3 ≤ mc ∧ ns + 800 ≤ ms) ∧ tT mX5_get d mc ms (tq Q mc ms) 36 [(0, 2, v0), (1, 0, v1)] (tm_z μ) (tm_a μ 14 0) (nc + 3) (ns + 800)) ∧ ((0 ≤ v1 ∧ v1 < tm_n μ (tm_v μ v0 0) → (1 ≤ tm_v μ v0 0 → (nc ≤ mc ∧ ns ≤ ms) ∧ (Q (.inl (some (1, tm_v μ (tm_v μ v0 0) v1))) μ))))))))) ∧ (tm_v μ v0 1 = 0 → (tm_v μ v0 0 = 0 ∨ (1 ≤ tm_v μ v0 0 ∧ tm_k μ (tm_v μ v0 0) = 22)) ∧ ((tm_v μ v0 0 = 0 ∨ (1 ≤ tm_v μ v0 0 ∧ tm_k μ (tm_v μ v0 0) = 22)) ∧ ((tm_v μ v0 0 = 0 → (nc + 1 ≤ mc ∧ ns + 8 ≤ ms) ∧ tT mX5_get d mc ms (tq Q mc ms) 15 [(0, 2, v0), (1, 0, v1)] (tm_z μ) (tm_a μ 13 0) (nc + 1) (ns + 8)) ∧ ((v1 < 0 ∨ tm_n μ (tm_v μ v0 0) ≤ v1 → 1 ≤ tm_v μ v0 0 → (nc + 3 ≤ mc ∧ ns + 800 ≤ ms) ∧ tT mX5_get d mc ms (tq Q mc ms) 15 [(0, 2, v0), (1, 0, v1)] (tm_z μ) (tm_a μ 14 0) (nc + 3) (ns + 800)) ∧ ((0 ≤ v1 ∧ v1 < tm_n μ (tm_v μ v0 0) → (1 ≤ tm_v μ v0 0 → (nc ≤ mc ∧ ns ≤ ms) ∧ (Q (.inl (some (1, tm_v μ (tm_v μ v0 0) v1))) μ)))))))))) :
    tH mX5_get d mc ms (tq Q mc ms) 0 [(0, 2, v0), (1, 0, v1)] [] μ nc ns := by
  refine g_aload_n (q := 0) dX5_get_0 rfl rfl ?_
  obtain ⟨c1, h⟩ := h
  refine g_get 0 dX5_get_1 fX5_13 rfl c1.1 c1.2 ?_
  refine g_if_ne (tgt := 20) dX5_get_4 (by decide) (fun c2 => ?_) (fun c3 => ?_)
  · have h := h.1 c2
    refine g_aload_n (q := 0) dX5_get_20 rfl rfl ?_
    refine g_get 0 dX5_get_21 fX5_13 rfl c1.1 c1.2 ?_
    refine g_iconst dX5_get_24 (by decide) ?_
    refine g_icmp_ne (tgt := 41) dX5_get_25 (by decide) (fun c4 => ?_) (fun c5 => ?_)
    · have h := h.1 c4
      refine g_aload_n (q := 0) dX5_get_41 rfl rfl ?_
      refine g_get 0 dX5_get_42 fX5_13 rfl c1.1 c1.2 ?_
      refine g_iconst dX5_get_45 (by decide) ?_
      refine g_icmp_ne (tgt := 62) dX5_get_46 (by decide) (fun c6 => ?_) (fun c7 => ?_)
      · have h := h.1 c6
        refine g_aload_n (q := 0) dX5_get_62 rfl rfl ?_
        refine g_get 2 dX5_get_63 fX5_7 rfl c1.1 c1.2 ?_
        obtain ⟨c8, h⟩ := h
        refine g_castZ (k := 21) dX5_get_66 q631 (by decide) (by decide +kernel) c8 ?_
        refine g_iload_n (q := 1) dX5_get_69 rfl rfl ?_
        obtain ⟨c11, c9, c10, h⟩ := h
        rcases c11 with c12 | c11
        · have q := c9 c12
          rw [c12]
          exact g_laloadN dX5_get_70 q.1.1 q.1.2 (Nat.le_of_ble_eq_true rfl) q.2
        by_cases c13 : v1 < 0 ∨ tm_n μ (tm_v μ v0 0) ≤ v1
        · have q := c10 c13 c11.1
          exact g_laloadO dX5_get_70 c11.1 c11.2 c13 q.1.1 q.1.2 (Nat.le_of_ble_eq_true rfl) q.2
        have h := h (by omega) c11.1
        refine g_laload dX5_get_70 c11.1 c11.2 (by omega) (by omega) ?_
        obtain ⟨c14, h⟩ := h
        exact g_lret dX5_get_71 rfl c14.1 c14.2 h
      · have h := h.2 c7
        refine g_aload_n (q := 0) dX5_get_49 rfl rfl ?_
        refine g_get 2 dX5_get_50 fX5_7 rfl c1.1 c1.2 ?_
        obtain ⟨c15, h⟩ := h
        refine g_castZ (k := 20) dX5_get_53 q630 (by decide) (by decide +kernel) c15 ?_
        refine g_iload_n (q := 1) dX5_get_56 rfl rfl ?_
        obtain ⟨c18, c16, c17, h⟩ := h
        rcases c18 with c19 | c18
        · have q := c16 c19
          rw [c19]
          exact g_ialoadN dX5_get_57 q.1.1 q.1.2 (Nat.le_of_ble_eq_true rfl) q.2
        by_cases c20 : v1 < 0 ∨ tm_n μ (tm_v μ v0 0) ≤ v1
        · have q := c17 c20 c18.1
          exact g_ialoadO dX5_get_57 c18.1 c18.2 c20 q.1.1 q.1.2 (Nat.le_of_ble_eq_true rfl) q.2
        have h := h (by omega) c18.1
        refine g_iaload dX5_get_57 c18.1 c18.2 (by omega) (by omega) ?_
        refine g_i2l dX5_get_58 ?_
        refine g_goto (tgt := 71) dX5_get_59 (by decide) ?_
        obtain ⟨c21, h⟩ := h
        exact g_lret dX5_get_71 rfl c21.1 c21.2 h
    · have h := h.2 c5
      refine g_aload_n (q := 0) dX5_get_28 rfl rfl ?_
      refine g_get 2 dX5_get_29 fX5_7 rfl c1.1 c1.2 ?_
      obtain ⟨c22, h⟩ := h
      refine g_castZ (k := 23) dX5_get_32 q629 (by decide) (by decide +kernel) c22 ?_
      refine g_iload_n (q := 1) dX5_get_35 rfl rfl ?_
      obtain ⟨c25, c23, c24, h⟩ := h
      rcases c25 with c26 | c25
      · have q := c23 c26
        rw [c26]
        exact g_saloadN dX5_get_36 q.1.1 q.1.2 (Nat.le_of_ble_eq_true rfl) q.2
      by_cases c27 : v1 < 0 ∨ tm_n μ (tm_v μ v0 0) ≤ v1
      · have q := c24 c27 c25.1
        exact g_saloadO dX5_get_36 c25.1 c25.2 c27 q.1.1 q.1.2 (Nat.le_of_ble_eq_true rfl) q.2
      have h := h (by omega) c25.1
      refine g_saload dX5_get_36 c25.1 c25.2 (by omega) (by omega) ?_
      refine g_i2l dX5_get_37 ?_
      refine g_goto (tgt := 71) dX5_get_38 (by decide) ?_
      obtain ⟨c28, h⟩ := h
      exact g_lret dX5_get_71 rfl c28.1 c28.2 h
  · have h := h.2 c3
    refine g_aload_n (q := 0) dX5_get_7 rfl rfl ?_
    refine g_get 2 dX5_get_8 fX5_7 rfl c1.1 c1.2 ?_
    obtain ⟨c29, h⟩ := h
    refine g_castZ (k := 22) dX5_get_11 q628 (by decide) (by decide +kernel) c29 ?_
    refine g_iload_n (q := 1) dX5_get_14 rfl rfl ?_
    obtain ⟨c32, c30, c31, h⟩ := h
    rcases c32 with c33 | c32
    · have q := c30 c33
      rw [c33]
      exact g_baloadN dX5_get_15 q.1.1 q.1.2 (Nat.le_of_ble_eq_true rfl) q.2
    by_cases c34 : v1 < 0 ∨ tm_n μ (tm_v μ v0 0) ≤ v1
    · have q := c31 c34 c32.1
      exact g_baloadO dX5_get_15 c32.1 c32.2 c34 q.1.1 q.1.2 (Nat.le_of_ble_eq_true rfl) q.2
    have h := h (by omega) c32.1
    refine g_baload dX5_get_15 c32.1 c32.2 (by omega) (by omega) ?_
    refine g_i2l dX5_get_16 ?_
    refine g_goto (tgt := 71) dX5_get_17 (by decide) ?_
    obtain ⟨c35, h⟩ := h
    exact g_lret dX5_get_71 rfl c35.1 c35.2 h
