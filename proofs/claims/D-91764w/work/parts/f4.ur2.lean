section AAW
variable {M : tM} {d mc ms : Nat} {F : tF} {pc : Nat} {L : tLs} {S : tSt} {μ : tm_M} {nc ns : Nat}
theorem ta_28_9 : tas 28 9 := ⟨_, _, rfl, rfl, by decide, by decide, Or.inr q1870⟩
theorem ta_28_10 : tas 28 10 := ⟨_, _, rfl, rfl, by decide, by decide, Or.inr q1869⟩
theorem ta_28_11 : tas 28 11 := ⟨_, _, rfl, rfl, by decide, by decide, Or.inr q1871⟩
theorem ta_25_5 : tas 25 5 := ⟨_, _, rfl, rfl, by decide, by decide, Or.inl rfl⟩
theorem ta_26_7 : tas 26 7 := ⟨_, _, rfl, rfl, by decide, by decide, Or.inl rfl⟩
theorem ta_27_8 : tas 27 8 := ⟨_, _, rfl, rfl, by decide, by decide, Or.inl rfl⟩
theorem ta_29_3 : tas 29 3 := ⟨_, _, rfl, rfl, by decide, by decide, Or.inl rfl⟩
theorem g_aastoreW {a j x : Int} (hd : decode M.2.1 pc = .ok (.aastore, 1)) (h1 : 1 ≤ a) (hk : tm_k μ a = 28) (h0 : 0 ≤ j) (hn : j < tm_n μ a) (hx : 1 ≤ x) (hkx : tm_k μ x = 9 ∨ tm_k μ x = 10 ∨ tm_k μ x = 11) (h : tH M d mc ms F (pc + 1) L S (tm_w μ a j x) nc ns) : tH M d mc ms F pc L ((2, x) :: (0, j) :: (2, a) :: S) μ nc ns := by
  rcases hkx with q | q | q
  · exact g_aastore hd ta_28_9 h1 hk h0 hn hx q h
  · exact g_aastore hd ta_28_10 h1 hk h0 hn hx q h
  · exact g_aastore hd ta_28_11 h1 hk h0 hn hx q h
end AAW
theorem rX0_clock_0 {d mc ms nc ns : Nat} {μ : tm_M} {Q : tQ} {v1 v2 v3 : Int} (hs : tS μ)
    (h : rcl mX0_isTray [(0, v1)] μ d mc ms nc ns (fun o1 μ1 nc1 ns1 => rk 0 o1 (fun r1 => tS μ1 ∧ ((r1 ≠ 0 → (0 ≤ v1 ∧ v1 < 4) ∧ ((1 ≤ tm_v μ1 (61 + v1) 0 → (v2 < 1 → rcl mX0_none [(2, 1), (0, 5)] μ1 d mc ms nc1 ns1 (fun o9 μ9 nc9 ns9 => rk 0 o9 (fun r9 => tS μ9 ∧ ((nc9 ≤ mc ∧ ns9 ≤ ms) ∧ (Q (.inl (some (0, r9))) μ9))) (fun a => tT mX0_clock d mc ms (tq Q mc ms) 44 [(0, 2, 1), (1, 0, v1), (2, 0, v2), (3, 0, v3)] a μ9 nc9 ns9))) ∧ (1 ≤ v2 → (v2 ≤ 24 → (0 ≤ v1 ∧ v1 < 4) ∧ (rcl mX5_many [(2, 61 + v1)] μ1 d mc ms nc1 ns1 (fun o14 μ14 nc14 ns14 => rk 0 o14 (fun r14 => tS μ14 ∧ ((v2 ≤ r14 → rcl mX0_areFrom [(2, 1), (0, v1), (0, v2), (1, 0), (1, 4)] μ14 d mc ms nc14 ns14 (fun o17 μ17 nc17 ns17 => rk 0 o17 (fun r17 => tS μ17 ∧ ((r17 ≠ 0 → (tm_v μ17 1 9 ≠ 12 → rcl mX0_rowOf [(2, 1), (0, v1), (0, v2)] μ17 d mc ms nc17 ns17 (fun o22 μ22 nc22 ns22 => rk 2 o22 (fun r22 => tS μ22 ∧ ((v3 = 0 → (nc22 + 1 ≤ mc ∧ ns22 + 1 ≤ ms) ∧ ((∀ μ26, μ26 = tm_a μ22 9 1 → tS μ26 ∧ ((1 ≤ tm_z μ22) ∧ (rcl mX10_init [(2, tm_z μ22), (2, r22)] μ26 d mc ms (nc22 + 1) (ns22 + 1) (fun o28 μ28 nc28 ns28 => rkV o28 (tS μ28 ∧ (rcl mX0_adds [(2, 1), (2, tm_z μ22)] μ28 d mc ms nc28 ns28 (fun o29 μ29 nc29 ns29 => rk 0 o29 (fun r29 => tS μ29 ∧ ((nc29 ≤ mc ∧ ns29 ≤ ms) ∧ (Q (.inl (some (0, r29))) μ29))) (fun a => tT mX0_clock d mc ms (tq Q mc ms) 136 [(0, 2, 1), (1, 0, v1), (2, 0, v2), (3, 0, v3), (4, 2, r22)] a μ29 nc29 ns29)))) (fun a => tT mX0_clock d mc ms (tq Q mc ms) 133 [(0, 2, 1), (1, 0, v1), (2, 0, v2), (3, 0, v3), (4, 2, r22)] a μ28 nc28 ns28))))))) ∧ (v3 ≠ 0 → (nc22 + 1 ≤ mc ∧ ns22 + 1 ≤ ms) ∧ ((∀ μ32, μ32 = tm_a μ22 10 1 → tS μ32 ∧ ((1 ≤ tm_z μ22) ∧ (rcl mX11_init [(2, tm_z μ22), (2, r22)] μ32 d mc ms (nc22 + 1) (ns22 + 1) (fun o34 μ34 nc34 ns34 => rkV o34 (tS μ34 ∧ (rcl mX0_adds [(2, 1), (2, tm_z μ22)] μ34 d mc ms nc34 ns34 (fun o35 μ35 nc35 ns35 => rk 0 o35 (fun r35 => tS μ35 ∧ ((nc35 ≤ mc ∧ ns35 ≤ ms) ∧ (Q (.inl (some (0, r35))) μ35))) (fun a => tT mX0_clock d mc ms (tq Q mc ms) 136 [(0, 2, 1), (1, 0, v1), (2, 0, v2), (3, 0, v3), (4, 2, r22)] a μ35 nc35 ns35)))) (fun a => tT mX0_clock d mc ms (tq Q mc ms) 121 [(0, 2, 1), (1, 0, v1), (2, 0, v2), (3, 0, v3), (4, 2, r22)] a μ34 nc34 ns34))))))))) (fun a => tT mX0_clock d mc ms (tq Q mc ms) 105 [(0, 2, 1), (1, 0, v1), (2, 0, v2), (3, 0, v3)] a μ22 nc22 ns22))) ∧ (tm_v μ17 1 9 = 12 → rcl mX0_none [(2, 1), (0, 7)] μ17 d mc ms nc17 ns17 (fun o37 μ37 nc37 ns37 => rk 0 o37 (fun r37 => tS μ37 ∧ ((nc37 ≤ mc ∧ ns37 ≤ ms) ∧ (Q (.inl (some (0, r37))) μ37))) (fun a => tT mX0_clock d mc ms (tq Q mc ms) 98 [(0, 2, 1), (1, 0, v1), (2, 0, v2), (3, 0, v3)] a μ37 nc37 ns37)))) ∧ (r17 = 0 → rcl mX0_none [(2, 1), (0, 5)] μ17 d mc ms nc17 ns17 (fun o39 μ39 nc39 ns39 => rk 0 o39 (fun r39 => tS μ39 ∧ ((nc39 ≤ mc ∧ ns39 ≤ ms) ∧ (Q (.inl (some (0, r39))) μ39))) (fun a => tT mX0_clock d mc ms (tq Q mc ms) 82 [(0, 2, 1), (1, 0, v1), (2, 0, v2), (3, 0, v3)] a μ39 nc39 ns39))))) (fun a => tT mX0_clock d mc ms (tq Q mc ms) 74 [(0, 2, 1), (1, 0, v1), (2, 0, v2), (3, 0, v3)] a μ17 nc17 ns17))) ∧ (r14 < v2 → rcl mX0_none [(2, 1), (0, 4)] μ14 d mc ms nc14 ns14 (fun o41 μ41 nc41 ns41 => rk 0 o41 (fun r41 => tS μ41 ∧ ((nc41 ≤ mc ∧ ns41 ≤ ms) ∧ (Q (.inl (some (0, r41))) μ41))) (fun a => tT mX0_clock d mc ms (tq Q mc ms) 63 [(0, 2, 1), (1, 0, v1), (2, 0, v2), (3, 0, v3)] a μ41 nc41 ns41))))) (fun a => tT mX0_clock d mc ms (tq Q mc ms) 54 [(0, 2, 1), (1, 0, v1), (2, 0, v2), (3, 0, v3)] a μ14 nc14 ns14)))) ∧ (24 < v2 → rcl mX0_none [(2, 1), (0, 5)] μ1 d mc ms nc1 ns1 (fun o43 μ43 nc43 ns43 => rk 0 o43 (fun r43 => tS μ43 ∧ ((nc43 ≤ mc ∧ ns43 ≤ ms) ∧ (Q (.inl (some (0, r43))) μ43))) (fun a => tT mX0_clock d mc ms (tq Q mc ms) 44 [(0, 2, 1), (1, 0, v1), (2, 0, v2), (3, 0, v3)] a μ43 nc43 ns43))))) ∧ (tm_v μ1 (61 + v1) 0 = 0 → rcl mX0_none [(2, 1), (0, 3)] μ1 d mc ms nc1 ns1 (fun o45 μ45 nc45 ns45 => rk 0 o45 (fun r45 => tS μ45 ∧ ((nc45 ≤ mc ∧ ns45 ≤ ms) ∧ (Q (.inl (some (0, r45))) μ45))) (fun a => tT mX0_clock d mc ms (tq Q mc ms) 27 [(0, 2, 1), (1, 0, v1), (2, 0, v2), (3, 0, v3)] a μ45 nc45 ns45))))) ∧ (r1 = 0 → rcl mX0_none [(2, 1), (0, 1)] μ1 d mc ms nc1 ns1 (fun o47 μ47 nc47 ns47 => rk 0 o47 (fun r47 => tS μ47 ∧ ((nc47 ≤ mc ∧ ns47 ≤ ms) ∧ (Q (.inl (some (0, r47))) μ47))) (fun a => tT mX0_clock d mc ms (tq Q mc ms) 9 [(0, 2, 1), (1, 0, v1), (2, 0, v2), (3, 0, v3)] a μ47 nc47 ns47))))) (fun a => tT mX0_clock d mc ms (tq Q mc ms) 1 [(0, 2, 1), (1, 0, v1), (2, 0, v2), (3, 0, v3)] a μ1 nc1 ns1))) :
    tH mX0_clock d mc ms (tq Q mc ms) 0 [(0, 2, 1), (1, 0, v1), (2, 0, v2), (3, 0, v3)] [] μ nc ns := by
  refine g_iload_n (q := 1) dX0_clock_0 rfl rfl ?_
  obtain ⟨_, _, _, k1, k2, k3, h⟩ := h
  refine g_callS (as := [(0, v1)]) (S := []) dX0_clock_1 kX0_isTray q564 q565 rfl rfl k1 k2 k3 (Nat.le_of_ble_eq_true rfl) (h.mono fun o1 μ1 q => rk_go q (fun r1 h => ?_) (fun a h => h))
  obtain ⟨hs, h⟩ := h
  refine g_if_ne (tgt := 13) dX0_clock_4 (by decide) (fun c2 => ?_) (fun c3 => ?_)
  · have h := h.1 c2
    refine g_aload_n (q := 0) dX0_clock_13 rfl rfl ?_
    refine g_getC (x := 2) 2 dX0_clock_14 fX0_11 rfl (by decide) (sk_1 hs) (sv_1_0 hs) ?_
    refine g_iload_n (q := 1) dX0_clock_17 rfl rfl ?_
    obtain ⟨c4, h⟩ := h
    refine g_aaloadC (x := 61 + v1) dX0_clock_18 (by decide) (sk_2 hs) (by decide) c4.1 (t_lt (sn_2 hs) c4.2) (sa_2 hs c4.1 c4.2) ?_
    refine g_get 2 dX0_clock_19 fX0_186 rfl (by have := c4; omega) (sak_2 hs c4.1 c4.2) ?_
    refine g_ifnonnull (tgt := 31) dX0_clock_22 (by decide) (fun c5 => ?_) (fun c6 => ?_)
    · have h := h.1 c5
      refine g_iload_n (q := 2) dX0_clock_31 rfl rfl ?_
      refine g_iconst dX0_clock_32 (by decide) ?_
      refine g_icmp_lt (tgt := 42) dX0_clock_33 (by decide) (fun c7 => ?_) (fun c8 => ?_)
      · have h := h.1 c7
        refine g_aload_n (q := 0) dX0_clock_42 rfl rfl ?_
        refine g_iconst dX0_clock_43 (by decide) ?_
        obtain ⟨_, _, _, k1, k2, k3, h⟩ := h
        refine g_callV (as := [(0, 5)]) (S := []) dX0_clock_44 kX0_none q636 q638 qs3 (ci := 0) rfl (by decide) rfl rfl k1 (by decide) (sk_1 hs) k2 k3 (Nat.le_of_ble_eq_true rfl) (h.mono fun o9 μ9 q => rk_go q (fun r9 h => ?_) (fun a h => h))
        obtain ⟨hs, h⟩ := h
        obtain ⟨c10, h⟩ := h
        exact g_iret dX0_clock_47 rfl c10.1 c10.2 h
      · have h := h.2 c8
        refine g_iload_n (q := 2) dX0_clock_36 rfl rfl ?_
        refine g_bipush dX0_clock_37 ⟨by decide, by decide, rfl⟩ ?_
        refine g_icmp_le (tgt := 48) dX0_clock_39 (by decide) (fun c11 => ?_) (fun c12 => ?_)
        · have h := h.1 c11
          refine g_aload_n (q := 0) dX0_clock_48 rfl rfl ?_
          refine g_getC (x := 2) 2 dX0_clock_49 fX0_11 rfl (by decide) (sk_1 hs) (sv_1_0 hs) ?_
          refine g_iload_n (q := 1) dX0_clock_52 rfl rfl ?_
          obtain ⟨c13, h⟩ := h
          refine g_aaloadC (x := 61 + v1) dX0_clock_53 (by decide) (sk_2 hs) (by decide) c13.1 (t_lt (sn_2 hs) c13.2) (sa_2 hs c13.1 c13.2) ?_
          obtain ⟨_, _, _, k1, k2, k3, h⟩ := h
          refine g_callV (as := []) (S := []) dX0_clock_54 kX5_many q905 q906 q907 (ci := 5) rfl (by decide) rfl rfl k1 (by have := c13; omega) (sak_2 hs c13.1 c13.2) k2 k3 (Nat.le_of_ble_eq_true rfl) (h.mono fun o14 μ14 q => rk_go q (fun r14 h => ?_) (fun a h => h))
          obtain ⟨hs, h⟩ := h
          refine g_iload_n (q := 2) dX0_clock_57 rfl rfl ?_
          refine g_icmp_ge (tgt := 67) dX0_clock_58 (by decide) (fun c15 => ?_) (fun c16 => ?_)
          · have h := h.1 c15
            refine g_aload_n (q := 0) dX0_clock_67 rfl rfl ?_
            refine g_iload_n (q := 1) dX0_clock_68 rfl rfl ?_
            refine g_iload_n (q := 2) dX0_clock_69 rfl rfl ?_
            refine g_lconst0 dX0_clock_70 ?_
            refine g_ldc2 (v := 4) (by decide) q909c dX0_clock_71 ?_
            obtain ⟨_, _, _, k1, k2, k3, h⟩ := h
            refine g_callV (as := [(0, v1), (0, v2), (1, 0), (1, 4)]) (S := []) dX0_clock_74 kX0_areFrom q910 q912 qs20 (ci := 0) rfl (by decide) rfl rfl k1 (by decide) (sk_1 hs) k2 k3 (Nat.le_of_ble_eq_true rfl) (h.mono fun o17 μ17 q => rk_go q (fun r17 h => ?_) (fun a h => h))
            obtain ⟨hs, h⟩ := h
            refine g_if_ne (tgt := 86) dX0_clock_77 (by decide) (fun c18 => ?_) (fun c19 => ?_)
            · have h := h.1 c18
              refine g_aload_n (q := 0) dX0_clock_86 rfl rfl ?_
              refine g_get 0 dX0_clock_87 fX0_206 rfl (by decide) (sk_1 hs) ?_
              refine g_bipush dX0_clock_90 ⟨by decide, by decide, rfl⟩ ?_
              refine g_icmp_ne (tgt := 102) dX0_clock_92 (by decide) (fun c20 => ?_) (fun c21 => ?_)
              · have h := h.1 c20
                refine g_aload_n (q := 0) dX0_clock_102 rfl rfl ?_
                refine g_iload_n (q := 1) dX0_clock_103 rfl rfl ?_
                refine g_iload_n (q := 2) dX0_clock_104 rfl rfl ?_
                obtain ⟨_, _, _, k1, k2, k3, h⟩ := h
                refine g_callV (as := [(0, v1), (0, v2)]) (S := []) dX0_clock_105 kX0_rowOf q917 q919 qs21 (ci := 0) rfl (by decide) rfl rfl k1 (by decide) (sk_1 hs) k2 k3 (Nat.le_of_ble_eq_true rfl) (h.mono fun o22 μ22 q => rk_go q (fun r22 h => ?_) (fun a h => h))
                obtain ⟨hs, h⟩ := h
                refine g_astore (L' := [(0, 2, 1), (1, 0, v1), (2, 0, v2), (3, 0, v3), (4, 2, r22)]) dX0_clock_108 (by decide) [1, 2, 3, 4, 0] rfl ?_
                refine g_aload_n (q := 0) dX0_clock_110 rfl rfl ?_
                refine g_iload_n (q := 3) dX0_clock_111 rfl rfl ?_
                refine g_if_eq (tgt := 127) dX0_clock_112 (by decide) (fun c23 => ?_) (fun c24 => ?_)
                · have h := h.1 c23
                  obtain ⟨c25, h⟩ := h
                  refine g_new dX0_clock_127 ck9 (by decide) q943 q944 q139 c25.1 c25.2 (p_r fun μ26 eμ26 => ?_)
                  obtain ⟨hs, h⟩ := h μ26 eμ26
                  refine g_dup dX0_clock_130 (by decide) ?_
                  refine g_aload (q := 4) dX0_clock_131 rfl ?_
                  obtain ⟨c27, h⟩ := h
                  obtain ⟨_, _, _, k1, k2, k3, h⟩ := h
                  refine g_callI (as := [(2, r22)]) (S := [(2, tm_z μ22), (2, 1)]) dX0_clock_133 kX10_init rfl rfl rfl q945 q927 rfl rfl k1 c27 k2 k3 (Nat.le_of_ble_eq_true rfl) (h.mono fun o28 μ28 q => rk_goV q (fun h => ?_) (fun a h => h))
                  obtain ⟨hs, h⟩ := h
                  obtain ⟨_, _, _, k1, k2, k3, h⟩ := h
                  refine g_callV (as := [(2, tm_z μ22)]) (S := []) dX0_clock_136 kX0_adds q948 q950 qs22 (ci := 0) rfl (by decide) rfl rfl k1 (by decide) (sk_1 hs) k2 k3 (Nat.le_of_ble_eq_true rfl) (h.mono fun o29 μ29 q => rk_go q (fun r29 h => ?_) (fun a h => h))
                  obtain ⟨hs, h⟩ := h
                  obtain ⟨c30, h⟩ := h
                  exact g_iret dX0_clock_139 rfl c30.1 c30.2 h
                · have h := h.2 c24
                  obtain ⟨c31, h⟩ := h
                  refine g_new dX0_clock_115 ck10 (by decide) q921 q922 q140 c31.1 c31.2 (p_r fun μ32 eμ32 => ?_)
                  obtain ⟨hs, h⟩ := h μ32 eμ32
                  refine g_dup dX0_clock_118 (by decide) ?_
                  refine g_aload (q := 4) dX0_clock_119 rfl ?_
                  obtain ⟨c33, h⟩ := h
                  obtain ⟨_, _, _, k1, k2, k3, h⟩ := h
                  refine g_callI (as := [(2, r22)]) (S := [(2, tm_z μ22), (2, 1)]) dX0_clock_121 kX11_init rfl rfl rfl q923 q924 rfl rfl k1 c33 k2 k3 (Nat.le_of_ble_eq_true rfl) (h.mono fun o34 μ34 q => rk_goV q (fun h => ?_) (fun a h => h))
                  obtain ⟨hs, h⟩ := h
                  refine g_goto (tgt := 136) dX0_clock_124 (by decide) ?_
                  obtain ⟨_, _, _, k1, k2, k3, h⟩ := h
                  refine g_callV (as := [(2, tm_z μ22)]) (S := []) dX0_clock_136 kX0_adds q948 q950 qs22 (ci := 0) rfl (by decide) rfl rfl k1 (by decide) (sk_1 hs) k2 k3 (Nat.le_of_ble_eq_true rfl) (h.mono fun o35 μ35 q => rk_go q (fun r35 h => ?_) (fun a h => h))
                  obtain ⟨hs, h⟩ := h
                  obtain ⟨c36, h⟩ := h
                  exact g_iret dX0_clock_139 rfl c36.1 c36.2 h
              · have h := h.2 c21
                refine g_aload_n (q := 0) dX0_clock_95 rfl rfl ?_
                refine g_bipush dX0_clock_96 ⟨by decide, by decide, rfl⟩ ?_
                obtain ⟨_, _, _, k1, k2, k3, h⟩ := h
                refine g_callV (as := [(0, 7)]) (S := []) dX0_clock_98 kX0_none q636 q638 qs3 (ci := 0) rfl (by decide) rfl rfl k1 (by decide) (sk_1 hs) k2 k3 (Nat.le_of_ble_eq_true rfl) (h.mono fun o37 μ37 q => rk_go q (fun r37 h => ?_) (fun a h => h))
                obtain ⟨hs, h⟩ := h
                obtain ⟨c38, h⟩ := h
                exact g_iret dX0_clock_101 rfl c38.1 c38.2 h
            · have h := h.2 c19
              refine g_aload_n (q := 0) dX0_clock_80 rfl rfl ?_
              refine g_iconst dX0_clock_81 (by decide) ?_
              obtain ⟨_, _, _, k1, k2, k3, h⟩ := h
              refine g_callV (as := [(0, 5)]) (S := []) dX0_clock_82 kX0_none q636 q638 qs3 (ci := 0) rfl (by decide) rfl rfl k1 (by decide) (sk_1 hs) k2 k3 (Nat.le_of_ble_eq_true rfl) (h.mono fun o39 μ39 q => rk_go q (fun r39 h => ?_) (fun a h => h))
              obtain ⟨hs, h⟩ := h
              obtain ⟨c40, h⟩ := h
              exact g_iret dX0_clock_85 rfl c40.1 c40.2 h
          · have h := h.2 c16
            refine g_aload_n (q := 0) dX0_clock_61 rfl rfl ?_
            refine g_iconst dX0_clock_62 (by decide) ?_
            obtain ⟨_, _, _, k1, k2, k3, h⟩ := h
            refine g_callV (as := [(0, 4)]) (S := []) dX0_clock_63 kX0_none q636 q638 qs3 (ci := 0) rfl (by decide) rfl rfl k1 (by decide) (sk_1 hs) k2 k3 (Nat.le_of_ble_eq_true rfl) (h.mono fun o41 μ41 q => rk_go q (fun r41 h => ?_) (fun a h => h))
            obtain ⟨hs, h⟩ := h
            obtain ⟨c42, h⟩ := h
            exact g_iret dX0_clock_66 rfl c42.1 c42.2 h
        · have h := h.2 c12
          refine g_aload_n (q := 0) dX0_clock_42 rfl rfl ?_
          refine g_iconst dX0_clock_43 (by decide) ?_
          obtain ⟨_, _, _, k1, k2, k3, h⟩ := h
          refine g_callV (as := [(0, 5)]) (S := []) dX0_clock_44 kX0_none q636 q638 qs3 (ci := 0) rfl (by decide) rfl rfl k1 (by decide) (sk_1 hs) k2 k3 (Nat.le_of_ble_eq_true rfl) (h.mono fun o43 μ43 q => rk_go q (fun r43 h => ?_) (fun a h => h))
          obtain ⟨hs, h⟩ := h
          obtain ⟨c44, h⟩ := h
          exact g_iret dX0_clock_47 rfl c44.1 c44.2 h
    · have h := h.2 c6
      refine g_aload_n (q := 0) dX0_clock_25 rfl rfl ?_
      refine g_iconst dX0_clock_26 (by decide) ?_
      obtain ⟨_, _, _, k1, k2, k3, h⟩ := h
      refine g_callV (as := [(0, 3)]) (S := []) dX0_clock_27 kX0_none q636 q638 qs3 (ci := 0) rfl (by decide) rfl rfl k1 (by decide) (sk_1 hs) k2 k3 (Nat.le_of_ble_eq_true rfl) (h.mono fun o45 μ45 q => rk_go q (fun r45 h => ?_) (fun a h => h))
      obtain ⟨hs, h⟩ := h
      obtain ⟨c46, h⟩ := h
      exact g_iret dX0_clock_30 rfl c46.1 c46.2 h
  · have h := h.2 c3
    refine g_aload_n (q := 0) dX0_clock_7 rfl rfl ?_
    refine g_iconst dX0_clock_8 (by decide) ?_
    obtain ⟨_, _, _, k1, k2, k3, h⟩ := h
    refine g_callV (as := [(0, 1)]) (S := []) dX0_clock_9 kX0_none q636 q638 qs3 (ci := 0) rfl (by decide) rfl rfl k1 (by decide) (sk_1 hs) k2 k3 (Nat.le_of_ble_eq_true rfl) (h.mono fun o47 μ47 q => rk_go q (fun r47 h => ?_) (fun a h => h))
    obtain ⟨hs, h⟩ := h
    obtain ⟨c48, h⟩ := h
    exact g_iret dX0_clock_12 rfl c48.1 c48.2 h
theorem rX0_rowOf_0 {d mc ms nc ns : Nat} {μ : tm_M} {Q : tQ} {v1 v2 : Int} (hs : tS μ)
    (h : (v2 < 0 → (nc + 3 ≤ mc ∧ ns + 800 ≤ ms) ∧ tT mX0_rowOf d mc ms (tq Q mc ms) 1 [(0, 2, 1), (1, 0, v1), (2, 0, v2)] (tm_z μ) (tm_a μ 12 0) (nc + 3) (ns + 800)) ∧ ((0 ≤ v2 → (v2 ≤ 1000) ∧ ((nc + 1 ≤ mc ∧ ns + (v2).toNat ≤ ms) ∧ ((∀ μ5, μ5 = tm_a μ 20 v2 → tS μ5 ∧ ((∀ x6, x6 = tm_z μ → tH mX0_rowOf d mc ms (tq Q mc ms) 7 [(0, 2, 1), (1, 0, v1), (2, 0, v2), (3, 2, x6), (4, 0, 0)] [] μ5 (nc + 1) (ns + (v2).toNat))))))))) :
    tH mX0_rowOf d mc ms (tq Q mc ms) 0 [(0, 2, 1), (1, 0, v1), (2, 0, v2)] [] μ nc ns := by
  refine g_iload_n (q := 2) dX0_rowOf_0 rfl rfl ?_
  obtain ⟨c2, h⟩ := h
  by_cases c1 : v2 < 0
  · have q := c2 c1
    exact g_newarrayNeg dX0_rowOf_1 c1 q.1.1 q.1.2 (Nat.le_of_ble_eq_true rfl) q.2
  have h := h (by omega)
  obtain ⟨c3, h⟩ := h
  obtain ⟨c4, h⟩ := h
  refine g_newarray (k := 20) dX0_rowOf_1 (by decide) rfl q354 ⟨by omega, c3⟩ c4.1 c4.2 (p_r fun μ5 eμ5 => ?_)
  obtain ⟨hs, h⟩ := h μ5 eμ5
  refine g_astore_nN (fun z => [(0, 2, 1), (1, 0, v1), (2, 0, v2), (3, 2, z)]) dX0_rowOf_3 rfl (by decide) [1, 2, 3, 0] (fun _ => rfl) (fun x6 ex6 => ?_)
  have h := h x6 ex6
  refine g_iconst dX0_rowOf_4 (by decide) ?_
  refine g_istore (L' := [(0, 2, 1), (1, 0, v1), (2, 0, v2), (3, 2, x6), (4, 0, 0)]) dX0_rowOf_5 (by decide) [1, 2, 3, 4, 0] rfl ?_
  exact h
theorem rX0_rowOf_7 {d mc ms nc ns : Nat} {μ : tm_M} {Q : tQ} {v1 v2 v3 v4 : Int} (hs : tS μ)
    (h : (v2 ≤ v4 → (nc ≤ mc ∧ ns ≤ ms) ∧ (Q (.inl (some (2, v3))) μ)) ∧ (v4 < v2 → (0 ≤ v1 ∧ v1 < 4) ∧ (rcl mX5_get [(2, 61 + v1), (0, v4)] μ d mc ms nc ns (fun o5 μ5 nc5 ns5 => rk 1 o5 (fun r5 => tS μ5 ∧ ((1 ≤ v3 ∧ tm_k μ5 v3 = 20) ∧ ((0 ≤ v4 ∧ v4 < tm_n μ5 v3) ∧ ((∀ μ8, μ8 = tm_w μ5 v3 v4 (w32 r5) → tS μ8 ∧ (tH mX0_rowOf d mc ms (tq Q mc ms) 7 [(0, 2, 1), (1, 0, v1), (2, 0, v2), (3, 2, v3), (4, 0, w32 (v4 + 1))] [] μ8 nc5 ns5)))))) (fun a => tT mX0_rowOf d mc ms (tq Q mc ms) 24 [(0, 2, 1), (1, 0, v1), (2, 0, v2), (3, 2, v3), (4, 0, v4)] a μ5 nc5 ns5))))) :
    tH mX0_rowOf d mc ms (tq Q mc ms) 7 [(0, 2, 1), (1, 0, v1), (2, 0, v2), (3, 2, v3), (4, 0, v4)] [] μ nc ns := by
  refine g_iload (q := 4) dX0_rowOf_7 rfl ?_
  refine g_iload_n (q := 2) dX0_rowOf_9 rfl rfl ?_
  refine g_icmp_ge (tgt := 35) dX0_rowOf_10 (by decide) (fun c1 => ?_) (fun c2 => ?_)
  · have h := h.1 c1
    refine g_aload_n (q := 3) dX0_rowOf_35 rfl rfl ?_
    obtain ⟨c3, h⟩ := h
    exact g_aret dX0_rowOf_36 rfl rfl c3.1 c3.2 h
  · have h := h.2 c2
    refine g_aload_n (q := 3) dX0_rowOf_13 rfl rfl ?_
    refine g_iload (q := 4) dX0_rowOf_14 rfl ?_
    refine g_aload_n (q := 0) dX0_rowOf_16 rfl rfl ?_
    refine g_getC (x := 2) 2 dX0_rowOf_17 fX0_11 rfl (by decide) (sk_1 hs) (sv_1_0 hs) ?_
    refine g_iload_n (q := 1) dX0_rowOf_20 rfl rfl ?_
    obtain ⟨c4, h⟩ := h
    refine g_aaloadC (x := 61 + v1) dX0_rowOf_21 (by decide) (sk_2 hs) (by decide) c4.1 (t_lt (sn_2 hs) c4.2) (sa_2 hs c4.1 c4.2) ?_
    refine g_iload (q := 4) dX0_rowOf_22 rfl ?_
    obtain ⟨_, _, _, k1, k2, k3, h⟩ := h
    refine g_callV (as := [(0, v4)]) (S := [(0, v4), (2, v3)]) dX0_rowOf_24 kX5_get q640 q641 q642 (ci := 5) rfl (by decide) rfl rfl k1 (by have := c4; omega) (sak_2 hs c4.1 c4.2) k2 k3 (Nat.le_of_ble_eq_true rfl) (h.mono fun o5 μ5 q => rk_go q (fun r5 h => ?_) (fun a h => h))
    obtain ⟨hs, h⟩ := h
    refine g_l2i dX0_rowOf_27 ?_
    obtain ⟨c6, h⟩ := h
    obtain ⟨c7, h⟩ := h
    refine g_iastore dX0_rowOf_28 c6.1 c6.2 c7.1 c7.2 (p_r fun μ8 eμ8 => ?_)
    obtain ⟨hs, h⟩ := h μ8 eμ8
    refine g_iinc (q := 4) dX0_rowOf_29 (by decide) rfl [1, 2, 3, 4, 0] rfl ?_
    refine g_goto (tgt := 7) dX0_rowOf_32 (by decide) ?_
    exact h
theorem rX0_adds_0 {d mc ms nc ns : Nat} {μ : tm_M} {Q : tQ} {v1 : Int} (hs : tS μ)
    (h : (0 ≤ tm_v μ 1 9 ∧ tm_v μ 1 9 < 12) ∧ ((1 ≤ v1 ∧ (tm_k μ v1 = 9 ∨ tm_k μ v1 = 10 ∨ tm_k μ v1 = 11)) ∧ ((∀ μ3, μ3 = tm_w μ 6 (tm_v μ 1 9) v1 → tS μ3 ∧ ((∀ μ4, μ4 = tm_w μ3 1 9 (w32 ((tm_v μ3 1 9) + 1)) → tS μ4 ∧ (rcl mX0_gives [(2, 1), (0, w32 ((tm_v μ4 1 9) - 1))] μ4 d mc ms nc ns (fun o5 μ5 nc5 ns5 => rk 0 o5 (fun r5 => tS μ5 ∧ ((nc5 ≤ mc ∧ ns5 ≤ ms) ∧ (Q (.inl (some (0, r5))) μ5))) (fun a => tT mX0_adds d mc ms (tq Q mc ms) 27 [(0, 2, 1), (1, 2, v1)] a μ5 nc5 ns5))))))))) :
    tH mX0_adds d mc ms (tq Q mc ms) 0 [(0, 2, 1), (1, 2, v1)] [] μ nc ns := by
  refine g_aload_n (q := 0) dX0_adds_0 rfl rfl ?_
  refine g_getC (x := 6) 2 dX0_adds_1 fX0_33 rfl (by decide) (sk_1 hs) (sv_1_3 hs) ?_
  refine g_aload_n (q := 0) dX0_adds_4 rfl rfl ?_
  refine g_get 0 dX0_adds_5 fX0_206 rfl (by decide) (sk_1 hs) ?_
  refine g_aload_n (q := 1) dX0_adds_8 rfl rfl ?_
  obtain ⟨c1, h⟩ := h
  obtain ⟨c2, h⟩ := h
  refine g_aastoreW dX0_adds_9 (by decide) (sk_6 hs) c1.1 (t_lt (sn_6 hs) c1.2) c2.1 c2.2 (p_r fun μ3 eμ3 => ?_)
  obtain ⟨hs, h⟩ := h μ3 eμ3
  refine g_aload_n (q := 0) dX0_adds_10 rfl rfl ?_
  refine g_dup dX0_adds_11 (by decide) ?_
  refine g_get 0 dX0_adds_12 fX0_206 rfl (by decide) (sk_1 hs) ?_
  refine g_iconst dX0_adds_15 (by decide) ?_
  refine g_iadd dX0_adds_16 ?_
  refine g_put dX0_adds_17 fX0_206 rfl (by decide) (sk_1 hs) (fun e => absurd e (by decide)) (p_r fun μ4 eμ4 => ?_)
  obtain ⟨hs, h⟩ := h μ4 eμ4
  refine g_aload_n (q := 0) dX0_adds_20 rfl rfl ?_
  refine g_aload_n (q := 0) dX0_adds_21 rfl rfl ?_
  refine g_get 0 dX0_adds_22 fX0_206 rfl (by decide) (sk_1 hs) ?_
  refine g_iconst dX0_adds_25 (by decide) ?_
  refine g_isub dX0_adds_26 ?_
  obtain ⟨_, _, _, k1, k2, k3, h⟩ := h
  refine g_callV (as := [(0, w32 ((tm_v μ4 1 9) - 1))]) (S := []) dX0_adds_27 kX0_gives q856 q858 qs17 (ci := 0) rfl (by decide) rfl rfl k1 (by decide) (sk_1 hs) k2 k3 (Nat.le_of_ble_eq_true rfl) (h.mono fun o5 μ5 q => rk_go q (fun r5 h => ?_) (fun a h => h))
  obtain ⟨hs, h⟩ := h
  obtain ⟨c6, h⟩ := h
  exact g_iret dX0_adds_30 rfl c6.1 c6.2 h
theorem rX0_sight_0 {d mc ms nc ns : Nat} {μ : tm_M} {Q : tQ} {v1 : Int} (hs : tS μ)
    (h : rcl mX0_isTray [(0, v1)] μ d mc ms nc ns (fun o1 μ1 nc1 ns1 => rk 0 o1 (fun r1 => tS μ1 ∧ ((r1 ≠ 0 → (0 ≤ v1 ∧ v1 < 4) ∧ ((1 ≤ tm_v μ1 (61 + v1) 0 → (0 ≤ v1 ∧ v1 < 4) ∧ (rcl mX5_many [(2, 61 + v1)] μ1 d mc ms nc1 ns1 (fun o8 μ8 nc8 ns8 => rk 0 o8 (fun r8 => tS μ8 ∧ ((18 ≤ r8 → rcl mX0_areFrom [(2, 1), (0, v1), (0, 18), (1, 0), (1, 14)] μ8 d mc ms nc8 ns8 (fun o11 μ11 nc11 ns11 => rk 0 o11 (fun r11 => tS μ11 ∧ ((r11 ≠ 0 → (tm_v μ11 1 9 ≠ 12 → (nc11 + 1 ≤ mc ∧ ns11 + 1 ≤ ms) ∧ ((∀ μ17, μ17 = tm_a μ11 11 1 → tS μ17 ∧ (rcl mX0_rowOf [(2, 1), (0, v1), (0, 18)] μ17 d mc ms (nc11 + 1) (ns11 + 1) (fun o18 μ18 nc18 ns18 => rk 2 o18 (fun r18 => tS μ18 ∧ ((1 ≤ tm_z μ11) ∧ (rcl mX12_init [(2, tm_z μ11), (2, r18)] μ18 d mc ms nc18 ns18 (fun o20 μ20 nc20 ns20 => rkV o20 (tS μ20 ∧ (rcl mX0_adds [(2, 1), (2, tm_z μ11)] μ20 d mc ms nc20 ns20 (fun o21 μ21 nc21 ns21 => rk 0 o21 (fun r21 => tS μ21 ∧ ((nc21 ≤ mc ∧ ns21 ≤ ms) ∧ (Q (.inl (some (0, r21))) μ21))) (fun a => tT mX0_sight d mc ms (tq Q mc ms) 104 [(0, 2, 1), (1, 0, v1)] a μ21 nc21 ns21)))) (fun a => tT mX0_sight d mc ms (tq Q mc ms) 101 [(0, 2, 1), (1, 0, v1)] a μ20 nc20 ns20))))) (fun a => tT mX0_sight d mc ms (tq Q mc ms) 98 [(0, 2, 1), (1, 0, v1)] a μ18 nc18 ns18)))))) ∧ (tm_v μ11 1 9 = 12 → rcl mX0_none [(2, 1), (0, 7)] μ11 d mc ms nc11 ns11 (fun o23 μ23 nc23 ns23 => rk 0 o23 (fun r23 => tS μ23 ∧ ((nc23 ≤ mc ∧ ns23 ≤ ms) ∧ (Q (.inl (some (0, r23))) μ23))) (fun a => tT mX0_sight d mc ms (tq Q mc ms) 83 [(0, 2, 1), (1, 0, v1)] a μ23 nc23 ns23)))) ∧ (r11 = 0 → rcl mX0_none [(2, 1), (0, 5)] μ11 d mc ms nc11 ns11 (fun o25 μ25 nc25 ns25 => rk 0 o25 (fun r25 => tS μ25 ∧ ((nc25 ≤ mc ∧ ns25 ≤ ms) ∧ (Q (.inl (some (0, r25))) μ25))) (fun a => tT mX0_sight d mc ms (tq Q mc ms) 67 [(0, 2, 1), (1, 0, v1)] a μ25 nc25 ns25))))) (fun a => tT mX0_sight d mc ms (tq Q mc ms) 59 [(0, 2, 1), (1, 0, v1)] a μ11 nc11 ns11))) ∧ (r8 < 18 → rcl mX0_none [(2, 1), (0, 4)] μ8 d mc ms nc8 ns8 (fun o27 μ27 nc27 ns27 => rk 0 o27 (fun r27 => tS μ27 ∧ ((nc27 ≤ mc ∧ ns27 ≤ ms) ∧ (Q (.inl (some (0, r27))) μ27))) (fun a => tT mX0_sight d mc ms (tq Q mc ms) 47 [(0, 2, 1), (1, 0, v1)] a μ27 nc27 ns27))))) (fun a => tT mX0_sight d mc ms (tq Q mc ms) 37 [(0, 2, 1), (1, 0, v1)] a μ8 nc8 ns8)))) ∧ (tm_v μ1 (61 + v1) 0 = 0 → rcl mX0_none [(2, 1), (0, 3)] μ1 d mc ms nc1 ns1 (fun o29 μ29 nc29 ns29 => rk 0 o29 (fun r29 => tS μ29 ∧ ((nc29 ≤ mc ∧ ns29 ≤ ms) ∧ (Q (.inl (some (0, r29))) μ29))) (fun a => tT mX0_sight d mc ms (tq Q mc ms) 27 [(0, 2, 1), (1, 0, v1)] a μ29 nc29 ns29))))) ∧ (r1 = 0 → rcl mX0_none [(2, 1), (0, 1)] μ1 d mc ms nc1 ns1 (fun o31 μ31 nc31 ns31 => rk 0 o31 (fun r31 => tS μ31 ∧ ((nc31 ≤ mc ∧ ns31 ≤ ms) ∧ (Q (.inl (some (0, r31))) μ31))) (fun a => tT mX0_sight d mc ms (tq Q mc ms) 9 [(0, 2, 1), (1, 0, v1)] a μ31 nc31 ns31))))) (fun a => tT mX0_sight d mc ms (tq Q mc ms) 1 [(0, 2, 1), (1, 0, v1)] a μ1 nc1 ns1))) :
    tH mX0_sight d mc ms (tq Q mc ms) 0 [(0, 2, 1), (1, 0, v1)] [] μ nc ns := by
  refine g_iload_n (q := 1) dX0_sight_0 rfl rfl ?_
  obtain ⟨_, _, _, k1, k2, k3, h⟩ := h
  refine g_callS (as := [(0, v1)]) (S := []) dX0_sight_1 kX0_isTray q564 q565 rfl rfl k1 k2 k3 (Nat.le_of_ble_eq_true rfl) (h.mono fun o1 μ1 q => rk_go q (fun r1 h => ?_) (fun a h => h))
  obtain ⟨hs, h⟩ := h
  refine g_if_ne (tgt := 13) dX0_sight_4 (by decide) (fun c2 => ?_) (fun c3 => ?_)
  · have h := h.1 c2
    refine g_aload_n (q := 0) dX0_sight_13 rfl rfl ?_
    refine g_getC (x := 2) 2 dX0_sight_14 fX0_11 rfl (by decide) (sk_1 hs) (sv_1_0 hs) ?_
    refine g_iload_n (q := 1) dX0_sight_17 rfl rfl ?_
    obtain ⟨c4, h⟩ := h
    refine g_aaloadC (x := 61 + v1) dX0_sight_18 (by decide) (sk_2 hs) (by decide) c4.1 (t_lt (sn_2 hs) c4.2) (sa_2 hs c4.1 c4.2) ?_
    refine g_get 2 dX0_sight_19 fX0_186 rfl (by have := c4; omega) (sak_2 hs c4.1 c4.2) ?_
    refine g_ifnonnull (tgt := 31) dX0_sight_22 (by decide) (fun c5 => ?_) (fun c6 => ?_)
    · have h := h.1 c5
      refine g_aload_n (q := 0) dX0_sight_31 rfl rfl ?_
      refine g_getC (x := 2) 2 dX0_sight_32 fX0_11 rfl (by decide) (sk_1 hs) (sv_1_0 hs) ?_
      refine g_iload_n (q := 1) dX0_sight_35 rfl rfl ?_
      obtain ⟨c7, h⟩ := h
      refine g_aaloadC (x := 61 + v1) dX0_sight_36 (by decide) (sk_2 hs) (by decide) c7.1 (t_lt (sn_2 hs) c7.2) (sa_2 hs c7.1 c7.2) ?_
      obtain ⟨_, _, _, k1, k2, k3, h⟩ := h
      refine g_callV (as := []) (S := []) dX0_sight_37 kX5_many q905 q906 q907 (ci := 5) rfl (by decide) rfl rfl k1 (by have := c7; omega) (sak_2 hs c7.1 c7.2) k2 k3 (Nat.le_of_ble_eq_true rfl) (h.mono fun o8 μ8 q => rk_go q (fun r8 h => ?_) (fun a h => h))
      obtain ⟨hs, h⟩ := h
      refine g_bipush dX0_sight_40 ⟨by decide, by decide, rfl⟩ ?_
      refine g_icmp_ge (tgt := 51) dX0_sight_42 (by decide) (fun c9 => ?_) (fun c10 => ?_)
      · have h := h.1 c9
        refine g_aload_n (q := 0) dX0_sight_51 rfl rfl ?_
        refine g_iload_n (q := 1) dX0_sight_52 rfl rfl ?_
        refine g_bipush dX0_sight_53 ⟨by decide, by decide, rfl⟩ ?_
        refine g_lconst0 dX0_sight_55 ?_
        refine g_ldc2 (v := 14) (by decide) q956c dX0_sight_56 ?_
        obtain ⟨_, _, _, k1, k2, k3, h⟩ := h
        refine g_callV (as := [(0, v1), (0, 18), (1, 0), (1, 14)]) (S := []) dX0_sight_59 kX0_areFrom q910 q912 qs20 (ci := 0) rfl (by decide) rfl rfl k1 (by decide) (sk_1 hs) k2 k3 (Nat.le_of_ble_eq_true rfl) (h.mono fun o11 μ11 q => rk_go q (fun r11 h => ?_) (fun a h => h))
        obtain ⟨hs, h⟩ := h
        refine g_if_ne (tgt := 71) dX0_sight_62 (by decide) (fun c12 => ?_) (fun c13 => ?_)
        · have h := h.1 c12
          refine g_aload_n (q := 0) dX0_sight_71 rfl rfl ?_
          refine g_get 0 dX0_sight_72 fX0_206 rfl (by decide) (sk_1 hs) ?_
          refine g_bipush dX0_sight_75 ⟨by decide, by decide, rfl⟩ ?_
          refine g_icmp_ne (tgt := 89) dX0_sight_77 (by decide) (fun c14 => ?_) (fun c15 => ?_)
          · have h := h.1 c14
            refine g_aload_n (q := 0) dX0_sight_89 rfl rfl ?_
            obtain ⟨c16, h⟩ := h
            refine g_new dX0_sight_90 ck11 (by decide) q957 q958 q141 c16.1 c16.2 (p_r fun μ17 eμ17 => ?_)
            obtain ⟨hs, h⟩ := h μ17 eμ17
            refine g_dup dX0_sight_93 (by decide) ?_
            refine g_aload_n (q := 0) dX0_sight_94 rfl rfl ?_
            refine g_iload_n (q := 1) dX0_sight_95 rfl rfl ?_
            refine g_bipush dX0_sight_96 ⟨by decide, by decide, rfl⟩ ?_
            obtain ⟨_, _, _, k1, k2, k3, h⟩ := h
            refine g_callV (as := [(0, v1), (0, 18)]) (S := [(2, tm_z μ11), (2, tm_z μ11), (2, 1)]) dX0_sight_98 kX0_rowOf q917 q919 qs21 (ci := 0) rfl (by decide) rfl rfl k1 (by decide) (sk_1 hs) k2 k3 (Nat.le_of_ble_eq_true rfl) (h.mono fun o18 μ18 q => rk_go q (fun r18 h => ?_) (fun a h => h))
            obtain ⟨hs, h⟩ := h
            obtain ⟨c19, h⟩ := h
            obtain ⟨_, _, _, k1, k2, k3, h⟩ := h
            refine g_callI (as := [(2, r18)]) (S := [(2, tm_z μ11), (2, 1)]) dX0_sight_101 kX12_init rfl rfl rfl q959 q960 rfl rfl k1 c19 k2 k3 (Nat.le_of_ble_eq_true rfl) (h.mono fun o20 μ20 q => rk_goV q (fun h => ?_) (fun a h => h))
            obtain ⟨hs, h⟩ := h
            obtain ⟨_, _, _, k1, k2, k3, h⟩ := h
            refine g_callV (as := [(2, tm_z μ11)]) (S := []) dX0_sight_104 kX0_adds q948 q950 qs22 (ci := 0) rfl (by decide) rfl rfl k1 (by decide) (sk_1 hs) k2 k3 (Nat.le_of_ble_eq_true rfl) (h.mono fun o21 μ21 q => rk_go q (fun r21 h => ?_) (fun a h => h))
            obtain ⟨hs, h⟩ := h
            obtain ⟨c22, h⟩ := h
            exact g_iret dX0_sight_107 rfl c22.1 c22.2 h
          · have h := h.2 c15
            refine g_aload_n (q := 0) dX0_sight_80 rfl rfl ?_
            refine g_bipush dX0_sight_81 ⟨by decide, by decide, rfl⟩ ?_
            obtain ⟨_, _, _, k1, k2, k3, h⟩ := h
            refine g_callV (as := [(0, 7)]) (S := []) dX0_sight_83 kX0_none q636 q638 qs3 (ci := 0) rfl (by decide) rfl rfl k1 (by decide) (sk_1 hs) k2 k3 (Nat.le_of_ble_eq_true rfl) (h.mono fun o23 μ23 q => rk_go q (fun r23 h => ?_) (fun a h => h))
            obtain ⟨hs, h⟩ := h
            refine g_goto (tgt := 107) dX0_sight_86 (by decide) ?_
            obtain ⟨c24, h⟩ := h
            exact g_iret dX0_sight_107 rfl c24.1 c24.2 h
        · have h := h.2 c13
          refine g_aload_n (q := 0) dX0_sight_65 rfl rfl ?_
          refine g_iconst dX0_sight_66 (by decide) ?_
          obtain ⟨_, _, _, k1, k2, k3, h⟩ := h
          refine g_callV (as := [(0, 5)]) (S := []) dX0_sight_67 kX0_none q636 q638 qs3 (ci := 0) rfl (by decide) rfl rfl k1 (by decide) (sk_1 hs) k2 k3 (Nat.le_of_ble_eq_true rfl) (h.mono fun o25 μ25 q => rk_go q (fun r25 h => ?_) (fun a h => h))
          obtain ⟨hs, h⟩ := h
          obtain ⟨c26, h⟩ := h
          exact g_iret dX0_sight_70 rfl c26.1 c26.2 h
      · have h := h.2 c10
        refine g_aload_n (q := 0) dX0_sight_45 rfl rfl ?_
        refine g_iconst dX0_sight_46 (by decide) ?_
        obtain ⟨_, _, _, k1, k2, k3, h⟩ := h
        refine g_callV (as := [(0, 4)]) (S := []) dX0_sight_47 kX0_none q636 q638 qs3 (ci := 0) rfl (by decide) rfl rfl k1 (by decide) (sk_1 hs) k2 k3 (Nat.le_of_ble_eq_true rfl) (h.mono fun o27 μ27 q => rk_go q (fun r27 h => ?_) (fun a h => h))
        obtain ⟨hs, h⟩ := h
        obtain ⟨c28, h⟩ := h
        exact g_iret dX0_sight_50 rfl c28.1 c28.2 h
    · have h := h.2 c6
      refine g_aload_n (q := 0) dX0_sight_25 rfl rfl ?_
      refine g_iconst dX0_sight_26 (by decide) ?_
      obtain ⟨_, _, _, k1, k2, k3, h⟩ := h
      refine g_callV (as := [(0, 3)]) (S := []) dX0_sight_27 kX0_none q636 q638 qs3 (ci := 0) rfl (by decide) rfl rfl k1 (by decide) (sk_1 hs) k2 k3 (Nat.le_of_ble_eq_true rfl) (h.mono fun o29 μ29 q => rk_go q (fun r29 h => ?_) (fun a h => h))
      obtain ⟨hs, h⟩ := h
      obtain ⟨c30, h⟩ := h
      exact g_iret dX0_sight_30 rfl c30.1 c30.2 h
  · have h := h.2 c3
    refine g_aload_n (q := 0) dX0_sight_7 rfl rfl ?_
    refine g_iconst dX0_sight_8 (by decide) ?_
    obtain ⟨_, _, _, k1, k2, k3, h⟩ := h
    refine g_callV (as := [(0, 1)]) (S := []) dX0_sight_9 kX0_none q636 q638 qs3 (ci := 0) rfl (by decide) rfl rfl k1 (by decide) (sk_1 hs) k2 k3 (Nat.le_of_ble_eq_true rfl) (h.mono fun o31 μ31 q => rk_go q (fun r31 h => ?_) (fun a h => h))
    obtain ⟨hs, h⟩ := h
    obtain ⟨c32, h⟩ := h
    exact g_iret dX0_sight_12 rfl c32.1 c32.2 h
theorem rX10_init_0 {d mc ms nc ns : Nat} {μ : tm_M} {Q : tQ} {v0 v1 : Int} (hs : tS μ)
    (h : (1 ≤ v0) ∧ (rcl mX9_init [(2, v0), (2, v1)] μ d mc ms nc ns (fun o2 μ2 nc2 ns2 => rkV o2 (tS μ2 ∧ ((nc2 ≤ mc ∧ ns2 ≤ ms) ∧ (Q (.inl none) μ2))) (fun a => tT mX10_init d mc ms (tq Q mc ms) 2 [(0, 2, v0), (1, 2, v1)] a μ2 nc2 ns2)))) :
    tH mX10_init d mc ms (tq Q mc ms) 0 [(0, 2, v0), (1, 2, v1)] [] μ nc ns := by
  refine g_aload_n (q := 0) dX10_init_0 rfl rfl ?_
  refine g_aload_n (q := 1) dX10_init_1 rfl rfl ?_
  obtain ⟨c1, h⟩ := h
  obtain ⟨_, _, _, k1, k2, k3, h⟩ := h
  refine g_callI (as := [(2, v1)]) (S := []) dX10_init_2 kX9_init rfl rfl rfl q929 q930 rfl rfl k1 c1 k2 k3 (Nat.le_of_ble_eq_true rfl) (h.mono fun o2 μ2 q => rk_goV q (fun h => ?_) (fun a h => h))
  obtain ⟨hs, h⟩ := h
  obtain ⟨c3, h⟩ := h
  exact g_vret dX10_init_5 rfl c3.1 c3.2 h
theorem rX11_init_0 {d mc ms nc ns : Nat} {μ : tm_M} {Q : tQ} {v0 v1 : Int} (hs : tS μ)
    (h : (1 ≤ v0) ∧ (rcl mX10_init [(2, v0), (2, v1)] μ d mc ms nc ns (fun o2 μ2 nc2 ns2 => rkV o2 (tS μ2 ∧ ((nc2 ≤ mc ∧ ns2 ≤ ms) ∧ (Q (.inl none) μ2))) (fun a => tT mX11_init d mc ms (tq Q mc ms) 2 [(0, 2, v0), (1, 2, v1)] a μ2 nc2 ns2)))) :
    tH mX11_init d mc ms (tq Q mc ms) 0 [(0, 2, v0), (1, 2, v1)] [] μ nc ns := by
  refine g_aload_n (q := 0) dX11_init_0 rfl rfl ?_
  refine g_aload_n (q := 1) dX11_init_1 rfl rfl ?_
  obtain ⟨c1, h⟩ := h
  obtain ⟨_, _, _, k1, k2, k3, h⟩ := h
  refine g_callI (as := [(2, v1)]) (S := []) dX11_init_2 kX10_init rfl rfl rfl q926 q927 rfl rfl k1 c1 k2 k3 (Nat.le_of_ble_eq_true rfl) (h.mono fun o2 μ2 q => rk_goV q (fun h => ?_) (fun a h => h))
  obtain ⟨hs, h⟩ := h
  obtain ⟨c3, h⟩ := h
  exact g_vret dX11_init_5 rfl c3.1 c3.2 h
theorem rX12_init_0 {d mc ms nc ns : Nat} {μ : tm_M} {Q : tQ} {v0 v1 : Int} (hs : tS μ)
    (h : (1 ≤ v0) ∧ (rcl mX9_init [(2, v0), (2, v1)] μ d mc ms nc ns (fun o2 μ2 nc2 ns2 => rkV o2 (tS μ2 ∧ ((nc2 ≤ mc ∧ ns2 ≤ ms) ∧ (Q (.inl none) μ2))) (fun a => tT mX12_init d mc ms (tq Q mc ms) 2 [(0, 2, v0), (1, 2, v1)] a μ2 nc2 ns2)))) :
    tH mX12_init d mc ms (tq Q mc ms) 0 [(0, 2, v0), (1, 2, v1)] [] μ nc ns := by
  refine g_aload_n (q := 0) dX12_init_0 rfl rfl ?_
  refine g_aload_n (q := 1) dX12_init_1 rfl rfl ?_
  obtain ⟨c1, h⟩ := h
  obtain ⟨_, _, _, k1, k2, k3, h⟩ := h
  refine g_callI (as := [(2, v1)]) (S := []) dX12_init_2 kX9_init rfl rfl rfl q962 q930 rfl rfl k1 c1 k2 k3 (Nat.le_of_ble_eq_true rfl) (h.mono fun o2 μ2 q => rk_goV q (fun h => ?_) (fun a h => h))
  obtain ⟨hs, h⟩ := h
  obtain ⟨c3, h⟩ := h
  exact g_vret dX12_init_5 rfl c3.1 c3.2 h
theorem rX9_init_0_9 {d mc ms nc ns : Nat} {μ : tm_M} {Q : tQ} {v0 v1 : Int} (hs : tS μ)
    (h : (1 ≤ v0) ∧ ((1 ≤ v0 ∧ tm_k μ v0 = 9) ∧ ((∀ μ3, μ3 = tm_w μ v0 0 v1 → tS μ3 ∧ ((nc ≤ mc ∧ ns ≤ ms) ∧ (Q (.inl none) μ3)))))) :
    tH mX9_init d mc ms (tq Q mc ms) 0 [(0, 2, v0), (1, 2, v1)] [] μ nc ns := by
  refine g_aload_n (q := 0) dX9_init_0 rfl rfl ?_
  obtain ⟨c1, h⟩ := h
  refine g_objInit dX9_init_1 q932 q148 q149 c1 (Nat.le_of_ble_eq_true rfl) ?_
  refine g_aload_n (q := 0) dX9_init_4 rfl rfl ?_
  refine g_aload_n (q := 1) dX9_init_5 rfl rfl ?_
  obtain ⟨c2, h⟩ := h
  refine g_putF dX9_init_6 fX9_7_9F rfl rfl c2.1 c2.2 (fun e => absurd e (by decide)) (p_r fun μ3 eμ3 => ?_)
  obtain ⟨hs, h⟩ := h μ3 eμ3
  obtain ⟨c4, h⟩ := h
  exact g_vret dX9_init_9 rfl c4.1 c4.2 h
theorem rX9_init_0_10 {d mc ms nc ns : Nat} {μ : tm_M} {Q : tQ} {v0 v1 : Int} (hs : tS μ)
    (h : (1 ≤ v0) ∧ ((1 ≤ v0 ∧ tm_k μ v0 = 10) ∧ ((∀ μ3, μ3 = tm_w μ v0 0 v1 → tS μ3 ∧ ((nc ≤ mc ∧ ns ≤ ms) ∧ (Q (.inl none) μ3)))))) :
    tH mX9_init d mc ms (tq Q mc ms) 0 [(0, 2, v0), (1, 2, v1)] [] μ nc ns := by
  refine g_aload_n (q := 0) dX9_init_0 rfl rfl ?_
  obtain ⟨c1, h⟩ := h
  refine g_objInit dX9_init_1 q932 q148 q149 c1 (Nat.le_of_ble_eq_true rfl) ?_
  refine g_aload_n (q := 0) dX9_init_4 rfl rfl ?_
  refine g_aload_n (q := 1) dX9_init_5 rfl rfl ?_
  obtain ⟨c2, h⟩ := h
  refine g_putF dX9_init_6 fX9_7_10F rfl rfl c2.1 c2.2 (fun e => absurd e (by decide)) (p_r fun μ3 eμ3 => ?_)
  obtain ⟨hs, h⟩ := h μ3 eμ3
  obtain ⟨c4, h⟩ := h
  exact g_vret dX9_init_9 rfl c4.1 c4.2 h
theorem rX9_init_0_11 {d mc ms nc ns : Nat} {μ : tm_M} {Q : tQ} {v0 v1 : Int} (hs : tS μ)
    (h : (1 ≤ v0) ∧ ((1 ≤ v0 ∧ tm_k μ v0 = 11) ∧ ((∀ μ3, μ3 = tm_w μ v0 0 v1 → tS μ3 ∧ ((nc ≤ mc ∧ ns ≤ ms) ∧ (Q (.inl none) μ3)))))) :
    tH mX9_init d mc ms (tq Q mc ms) 0 [(0, 2, v0), (1, 2, v1)] [] μ nc ns := by
  refine g_aload_n (q := 0) dX9_init_0 rfl rfl ?_
  obtain ⟨c1, h⟩ := h
  refine g_objInit dX9_init_1 q932 q148 q149 c1 (Nat.le_of_ble_eq_true rfl) ?_
  refine g_aload_n (q := 0) dX9_init_4 rfl rfl ?_
  refine g_aload_n (q := 1) dX9_init_5 rfl rfl ?_
  obtain ⟨c2, h⟩ := h
  refine g_putF dX9_init_6 fX9_7_11F rfl rfl c2.1 c2.2 (fun e => absurd e (by decide)) (p_r fun μ3 eμ3 => ?_)
  obtain ⟨hs, h⟩ := h μ3 eμ3
  obtain ⟨c4, h⟩ := h
  exact g_vret dX9_init_9 rfl c4.1 c4.2 h
