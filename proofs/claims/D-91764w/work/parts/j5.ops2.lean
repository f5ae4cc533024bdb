/-! OPERATIONS: agreed, alike, feed, value, door, shut -/
section OPS3
variable {μ : tm_M} {w v a b n t k o cap p q r s l x y z : Int}
theorem op_agreed (h : IV μ) : OPC mX0_agreed mX6_agreed 0 [(0, n)] μ 0 0 := by
  obtain ⟨hs, hJ, hV, ⟨hY, hX⟩, ⟨hC, hyC⟩, hP, hft, hmk, hA⟩ := id h.1
  have hF := h.2.2
  refine OPC_I (pX0_agreed (by decide) hs hJ hF) (fun r m1 f1 k1 => ?_)
  have g1 := fr_sf (f := c_FA μ) f1
  have c1 : ck [18, 19, 20, 21, 22, 23, 24, 25, 26, 28, 29, 30, 31, 32, 33, 34, 35, 36, 37, 38, 39, 40, 42, 43] [(1, 10), (1, 14), (1, 15), (1, 27), (1, 28), (1, 30), (1, 31)] = true := by decide +kernel
  have c2 : mk [90, 91, 92] [(65, 0), (65, 1), (65, 2), (65, 3), (65, 52), (65, 63), (65, 64)] = true := by decide +kernel
  have T := (ck_T c1 h.1.f).1
  have s1 := sM_c h.1 g1 c1
  have nn := (ck_no c1 h.1.f).1
  refine OP6_I (pX6_agreed (by decide) f1.S ((y_W_F g1 T).mpr hJ.1)) (fun r2 m2 f2 k2 => ?_)
  have sc := sC_fr f2 c2
  obtain ⟨⟨k2a, k2b⟩, k2c⟩ := k2
  obtain ⟨k1a, k1b⟩ := k1
  rw [r_agreed_F g1 T (nn _ _ (by decide) (by decide)) (nn _ _ (by decide) (by decide))] at k2a
  rw [y_all_F g1 T, rw_best_F g1 T] at k2b
  obtain ⟨a1, a2, a3, a4⟩ := k1a
  obtain ⟨b1, b2, b3, b4⟩ := k2a
  refine ⟨b1.trans a1.symm, ⟨f2.S, JU_2 h.1 g1 f2 c1 c2 (by decide +kernel) (by decide +kernel), JV_2 h.1 g1 f2 c1 c2 (by decide +kernel) (by decide +kernel), JY_2 h.1 g1 f2 c1 c2 (by decide +kernel) (by decide +kernel), JC_2 h.1 g1 f2 c1 c2 (by decide +kernel) (by decide +kernel) (by decide +kernel) (by decide +kernel), JP_2 h.1 g1 f2 c1 c2 (by decide +kernel) (by decide +kernel) (by decide +kernel) (by decide +kernel), FT_2 h.1 g1 f2 c1 c2 (by decide +kernel) (by decide +kernel), MK_2 h.1 g1 f2 c1 c2 (by decide +kernel) (by decide +kernel), ?_, ?_⟩, ?_, ?_⟩
  · by_cases c : (1 ≤ n ∧ n ≤ 3) ∧ y_all μ ≠ 0
    · rw [if_pos c] at k1b k2b
      rw [k2b.1, sc.2.2 1 28 (by omega), k1b.1]
      refine ⟨by omega, rfl, fun x k x0 x1 k0 k1 => ?_⟩
      rw [sc.2.2 (42 + x) k (by omega), k1b.2 x k x0 x1 k0 k1, k2b.2 (2 * k + x) (by omega) (by omega)]
    · rw [if_neg c] at k1b k2b
      obtain ⟨xx, e1⟩ := k1b
      have e52 : tm_v m2 65 52 = tm_v μ 65 52 := k2b.1.trans (congrFun (s1 65 (by decide) (by decide)) 52)
      have e90 : tm_v m2 90 = tm_v μ 90 := k2b.2.trans (s1 90 (by decide) (by decide))
      rw [e52, e90, sc.2.2 1 28 (by omega), e1, tm_vw, if_neg (by decide)]
      refine ⟨hA.1.1, hA.1.2.1, fun x k x0 x1 k0 k1 => ?_⟩
      rw [sc.2.2 (42 + x) k (by omega), e1, tm_vw, if_neg (by omega)]
      exact hA.1.2.2 x k x0 x1 k0 k1
  · have e53 : tm_v m2 65 53 = tm_v μ 65 53 := (f2.v (tWs_noF rfl)).trans (congrFun (s1 65 (by decide) (by decide)) 53)
    have e91 : tm_v m2 91 = tm_v μ 91 := k2c.trans (s1 91 (by decide) (by decide))
    rw [e53, e91, sc.2.2 1 29 (by omega), f1.v (tWs_noF (a := 1) (j := 29) rfl)]
    refine ⟨hA.2.1, hA.2.2.1, fun k k0 k1 => ?_⟩
    rw [sc.2.2 44 k (by omega), f1.v (tWs_no (a := 44) k rfl)]
    exact hA.2.2.2 k k0 k1
  · rw [b2, sc.2.2 1 10 (by omega), a2]
  · unfold JF
    rw [b3, b4, sc.2.2 1 14 (by omega), sc.2.2 1 15 (by omega), a3, a4]
    exact ⟨rfl, rfl⟩
theorem op_alike (h : IV μ) : OPC mX0_alike mX6_alike 0 [(0, n)] μ 0 0 := by
  obtain ⟨hs, hJ, hV, ⟨hY, hX⟩, ⟨hC, hyC⟩, hP, hft, hmk, hA⟩ := id h.1
  have hF := h.2.2
  refine OPC_I (pX0_alike (by decide) hs hJ hF) (fun r m1 f1 k1 => ?_)
  have g1 := fr_sf (f := c_FA μ) f1
  have c1 : ck [18, 19, 20, 21, 22, 23, 24, 25, 26, 28, 29, 30, 31, 32, 33, 34, 35, 36, 37, 38, 39, 40, 44] [(1, 10), (1, 14), (1, 15), (1, 27), (1, 29), (1, 30), (1, 31)] = true := by decide +kernel
  have c2 : mk [90, 91, 92] [(65, 0), (65, 1), (65, 2), (65, 3), (65, 53), (65, 63), (65, 64)] = true := by decide +kernel
  have T := (ck_T c1 h.1.f).1
  have s1 := sM_c h.1 g1 c1
  have nn := (ck_no c1 h.1.f).1
  refine OP6_I (pX6_alike (by decide) f1.S ((y_W_F g1 T).mpr hJ.1)) (fun r2 m2 f2 k2 => ?_)
  have sc := sC_fr f2 c2
  obtain ⟨⟨k2a, k2b⟩, k2c⟩ := k2
  obtain ⟨k1a, k1b⟩ := k1
  rw [r_alike_F g1 T (nn _ _ (by decide) (by decide)) (nn _ _ (by decide) (by decide))] at k2a
  rw [y_all_F g1 T, rw_best_F g1 T] at k2b
  obtain ⟨a1, a2, a3, a4⟩ := k1a
  obtain ⟨b1, b2, b3, b4⟩ := k2a
  refine ⟨b1.trans a1.symm, ⟨f2.S, JU_2 h.1 g1 f2 c1 c2 (by decide +kernel) (by decide +kernel), JV_2 h.1 g1 f2 c1 c2 (by decide +kernel) (by decide +kernel), JY_2 h.1 g1 f2 c1 c2 (by decide +kernel) (by decide +kernel), JC_2 h.1 g1 f2 c1 c2 (by decide +kernel) (by decide +kernel) (by decide +kernel) (by decide +kernel), JP_2 h.1 g1 f2 c1 c2 (by decide +kernel) (by decide +kernel) (by decide +kernel) (by decide +kernel), FT_2 h.1 g1 f2 c1 c2 (by decide +kernel) (by decide +kernel), MK_2 h.1 g1 f2 c1 c2 (by decide +kernel) (by decide +kernel), ?_, ?_⟩, ?_, ?_⟩
  · have e52 : tm_v m2 65 52 = tm_v μ 65 52 := (f2.v (tWs_noF rfl)).trans (congrFun (s1 65 (by decide) (by decide)) 52)
    have e90 : tm_v m2 90 = tm_v μ 90 := k2c.trans (s1 90 (by decide) (by decide))
    rw [e52, e90, sc.2.2 1 28 (by omega), f1.v (tWs_noF (a := 1) (j := 28) rfl)]
    refine ⟨hA.1.1, hA.1.2.1, fun x k x0 x1 k0 k1 => ?_⟩
    rw [sc.2.2 (42 + x) k (by omega)]
    have : tm_v m1 (42 + x) k = tm_v μ (42 + x) k := by
      rcases (show x = 0 ∨ x = 1 by omega) with rfl | rfl
      · exact f1.v (tWs_no (a := 42) k rfl)
      · exact f1.v (tWs_no (a := 43) k rfl)
    rw [this]
    exact hA.1.2.2 x k x0 x1 k0 k1
  · by_cases c : (1 ≤ n ∧ n ≤ 5) ∧ y_all μ ≠ 0
    · rw [if_pos c] at k1b k2b
      rw [k2b.1, sc.2.2 1 29 (by omega), k1b.1]
      refine ⟨by omega, rfl, fun k k0 k1 => ?_⟩
      rw [sc.2.2 44 k (by omega), k1b.2 k k0 k1, k2b.2 k k0 k1]
    · rw [if_neg c] at k1b k2b
      obtain ⟨xx, e1⟩ := k1b
      have e53 : tm_v m2 65 53 = tm_v μ 65 53 := k2b.1.trans (congrFun (s1 65 (by decide) (by decide)) 53)
      have e91 : tm_v m2 91 = tm_v μ 91 := k2b.2.trans (s1 91 (by decide) (by decide))
      rw [e53, e91, sc.2.2 1 29 (by omega), e1, tm_vw, if_neg (by decide)]
      refine ⟨hA.2.1, hA.2.2.1, fun k k0 k1 => ?_⟩
      rw [sc.2.2 44 k (by omega), e1, tm_vw, if_neg (by omega)]
      exact hA.2.2.2 k k0 k1
  · rw [b2, sc.2.2 1 10 (by omega), a2]
  · unfold JF
    rw [b3, b4, sc.2.2 1 14 (by omega), sc.2.2 1 15 (by omega), a3, a4]
    exact ⟨rfl, rfl⟩
theorem op_feed (h : IV μ) : OPC mX0_feed mX6_feed 0 [(0, p), (0, q), (0, r), (0, s), (0, t)] μ 0 0 := by
  obtain ⟨hs, hJ, hV, ⟨hY, hX⟩, ⟨hC, hyC⟩, hP, hft, hmk, hA⟩ := id h.1
  refine OPC_I (pX0_feed (by decide) hs hP) (fun x m1 f1 k1 => ?_)
  have g1 := fr_sf (f := c_FA μ) f1
  have c1 : ck [5] [(4, 1)] = true := by decide +kernel
  have c2 : mk [69] [(65, 1), (65, 8)] = true := by decide +kernel
  have s1 := sM_c h.1 g1 c1
  have e8 : tm_v m1 65 8 = tm_v μ 65 8 := congrFun (s1 65 (by decide) (by decide)) 8
  refine OP6_I (pX6_feed (by decide) f1.S (by rw [e8]; exact hP.1)) (fun r2 m2 f2 k2 => ?_)
  have sc := sC_fr f2 c2
  obtain ⟨a1, a2, a3⟩ := k1
  obtain ⟨b1, b2, b3⟩ := k2
  rw [e8] at b1 b2 b3
  rw [s1 69 (by decide) (by decide)] at b3
  refine ⟨b1.trans a1.symm, ⟨f2.S, JU_2 h.1 g1 f2 c1 c2 (by decide +kernel) (by decide +kernel), JV_2 h.1 g1 f2 c1 c2 (by decide +kernel) (by decide +kernel), JY_2 h.1 g1 f2 c1 c2 (by decide +kernel) (by decide +kernel), JC_2 h.1 g1 f2 c1 c2 (by decide +kernel) (by decide +kernel) (by decide +kernel) (by decide +kernel), ⟨?_, ?_, fun j j0 j1 => ?_⟩, FT_2 h.1 g1 f2 c1 c2 (by decide +kernel) (by decide +kernel), MK_2 h.1 g1 f2 c1 c2 (by decide +kernel) (by decide +kernel), JA_2 h.1 g1 f2 c1 c2 (by decide +kernel) (by decide +kernel) (by decide +kernel) (by decide +kernel)⟩, ?_, ?_⟩
  · have := hP.1
    rw [b2]
    split <;> omega
  · rw [b2, sc.2.2 4 1 (by omega), a2]
  · rw [b3, sc.2.2 5 j (by omega), a3 j j0 j1]
    by_cases c : tm_v μ 65 8 ≤ 480
    · rw [if_pos c, if_pos c]
    · rw [if_neg c, if_neg c]
  · rw [sc.2.2 1 10 (by omega), f1.v (tWs_noF (a := 1) (j := 10) rfl), f2.v (tWs_noF (a := 65) (j := 0) rfl), s1 65 (by decide) (by decide)]
    exact h.2.1
  · unfold JF
    rw [sc.2.2 1 14 (by omega), sc.2.2 1 15 (by omega), f1.v (tWs_noF (a := 1) (j := 14) rfl), f1.v (tWs_noF (a := 1) (j := 15) rfl), f2.v (tWs_noF (a := 65) (j := 2) rfl), f2.v (tWs_noF (a := 65) (j := 3) rfl), s1 65 (by decide) (by decide)]
    exact h.2.2
theorem askv_n (h : ¬ 0 < r_askv μ w n o k a b cap) : 1 ≤ n ∧ n ≤ 3 := by
  unfold r_askv at h
  by_cases c : ¬ (1 ≤ n ∧ n ≤ 3) ∨ ¬ (1 ≤ k ∧ k ≤ 3) ∨ ¬ (1 ≤ cap ∧ cap ≤ 100)
  · exfalso
    apply h
    repeat' split
    all_goals first | omega | contradiction
  · omega
theorem op_value (h : IV μ) : OPC mX0_value mX6_value 0 [(0, w), (0, n), (0, o), (0, k), (0, a), (0, b), (0, cap)] μ 0 0 := by
  obtain ⟨hs, hJ, hV, ⟨hY, hX⟩, ⟨hC, hyC⟩, hP, hft, hmk, hA⟩ := id h.1
  refine OPC_I (pX0_value (by decide) hs hJ hV hY hmk) (fun r m1 f1 k1 => ?_)
  have g1 : tFr (tWf _ _ (c_FA μ)) μ m1 := f1
  have c1 : ck [7, 8, 10, 53, 54, 55, 56, 57, 58, 59, 60] [(1, 10), (1, 14), (1, 15), (1, 45), (1, 46), (1, 47)] = true := by decide +kernel
  have c2 : mk [85, 86, 87, 88, 89, 93, 101, 102, 103] [(65, 0), (65, 1), (65, 2), (65, 3), (65, 54), (65, 59), (65, 72), (65, 73), (65, 76), (65, 77), (65, 78)] = true := by decide +kernel
  have T := (ck_T c1 h.1.f).1
  have s1 := sM_c h.1 g1 c1
  have nn := (ck_no c1 h.1.f).1
  refine OP6_I (pX6_value (by decide) f1.S ((y_W_F g1 T).mpr hJ.1) ((y_V_F g1 T).mpr hV.1)) (fun r2 m2 f2 k2 => ?_)
  have sc := sC_fr f2 c2
  unfold o_value at k2
  unfold c_value at k1
  rw [r_askv_F g1 T (fun j => nn _ _ (by decide) (by decide)) (fun j => nn _ _ (by decide) (by decide)), y_cs_F g1 T (fun j => nn _ _ (by decide) (by decide))] at k2
  have e65 := s1 65 (by decide) (by decide)
  have IS_ : ∀ (_ : JC m2 m2 ∧ y_C m2), IS m2 := fun jc => ⟨f2.S, JU_2 h.1 g1 f2 c1 c2 (by decide +kernel) (by decide +kernel), JV_2 h.1 g1 f2 c1 c2 (by decide +kernel) (by decide +kernel), JY_2 h.1 g1 f2 c1 c2 (by decide +kernel) (by decide +kernel), jc, JP_2 h.1 g1 f2 c1 c2 (by decide +kernel) (by decide +kernel) (by decide +kernel) (by decide +kernel), FT_2 h.1 g1 f2 c1 c2 (by decide +kernel) (by decide +kernel), MK_2 h.1 g1 f2 c1 c2 (by decide +kernel) (by decide +kernel), JA_2 h.1 g1 f2 c1 c2 (by decide +kernel) (by decide +kernel) (by decide +kernel) (by decide +kernel)⟩
  by_cases c : 0 < r_askv μ w n o k a b cap
  · rw [if_pos c] at k1 k2
    obtain ⟨a1, x, a2, a3⟩ := k1
    obtain ⟨b1, b2, b3, b4, b5, b6, b7⟩ := k2
    have e93 : tm_v m2 93 = tm_v μ 93 := b7.trans (s1 93 (by decide) (by decide))
    have e54 : tm_v m2 65 54 = tm_v μ 65 54 := b5.trans (congrFun e65 54)
    have e59 : tm_v m2 65 59 = tm_v μ 65 59 := b6.trans (congrFun e65 59)
    have c10 : ∀ a j, a < 65 → ¬ (a = 1 ∧ j = 10) → tm_v m2 a j = tm_v μ a j := fun a j ha hne => by rw [sc.2.2 a j (by omega), a3, tm_vw, if_neg hne]
    refine ⟨b1.trans a1.symm, IS_ ⟨JC_nu (ν := μ) ?_ e93 e54 e59, yC_nu hyC e93 e54 e59⟩, ?_, ?_⟩
    · have e60 : tm_v m2 60 = tm_v μ 60 := funext fun j => c10 60 j (by omega) (by omega)
      have hC' := hC
      unfold JC pt3 at hC' ⊢
      rw [c10 1 47 (by omega) (by omega), e60]
      exact hC'
    · rw [b2, sc.2.2 1 10 (by omega), a3, tm_vw, if_pos ⟨rfl, rfl⟩, a2]
    · unfold JF
      rw [b3, b4, e65, c10 1 14 (by omega) (by omega), c10 1 15 (by omega) (by omega)]
      exact h.2.2
  · rw [if_neg c] at k1 k2
    have hn := askv_n c
    obtain ⟨a1, a2, a3, a4, u, a5, a6, a7⟩ := k1
    obtain ⟨b1, b2, b3, b4, b5, u', b6, b7, b8⟩ := k2
    have uq := opt_uq a5 b6
    have e60 : tm_v m2 60 = tm_v m1 60 := funext fun j => sc.2.2 60 j (by omega)
    have ep : pt3 m2 60 = pt3 m1 60 := by unfold pt3; rw [e60]
    have d1 := a5.1
    have d2 := b6.1
    have p1 : 0 < sm3 (pt3 m1 60) := d1.2.1
    have p2 : 0 < sm3 (top3 m2) := d2.2.1
    refine ⟨b1.trans a1.symm, IS_ ⟨⟨?_, by rw [b3]; omega, fun _ => ⟨by rw [ep]; exact a4, by rw [ep]; exact p1, b4.1, fun k k0 k1 => ?_⟩⟩, ⟨by rw [b3]; omega, fun _ => ⟨⟨b4.1, by omega⟩, fun k k0 k1 => ?_⟩⟩⟩, ?_, ?_⟩
    · rw [sc.2.2 1 47 (by omega), a3, b3]
    · rw [ep, b5, e60]
      rcases (show k = 0 ∨ k = 1 ∨ k = 2 by omega) with rfl | rfl | rfl
      · exact uq.2.1
      · exact uq.2.2.1
      · exact uq.2.2.2
    · have hs3 : sm3 (top3 m2) = tm_v m2 93 0 + tm_v m2 93 1 + tm_v m2 93 2 := rfl
      have n0 : 0 ≤ tm_v m2 93 0 := d2.1.1
      have n1 : 0 ≤ tm_v m2 93 1 := d2.1.2.1
      have n2 : 0 ≤ tm_v m2 93 2 := d2.1.2.2
      rw [b5] at b4
      rcases (show k = 0 ∨ k = 1 ∨ k = 2 by omega) with rfl | rfl | rfl <;> omega
    · rw [b2, sc.2.2 1 10 (by omega), a2]
    · have hfr := fr_eq p1 p2 uq.1
      unfold JF
      rw [b7, b8, sc.2.2 1 14 (by omega), sc.2.2 1 15 (by omega), a6, a7]
      exact hfr
theorem op_door (h : IV μ) : OPC mX0_door mX6_door 0 [(0, w), (0, v)] μ 0 0 := by
  obtain ⟨hs, hJ, hV, ⟨hY, hX⟩, ⟨hC, hyC⟩, hP, hft, hmk, hA⟩ := id h.1
  refine OPC_I (pX0_door (by decide) hs hJ hV h.2.2 hmk) (fun r m1 f0 k1 => ?_)
  obtain ⟨k1, f1⟩ := k1
  have g1 : tFr (tWf [7, 8, 10] [(1, 10), (1, 14), (1, 15), (1, 16)] (c_FA μ)) μ m1 := f1
  have T := h.1.T' g1 (by decide +kernel)
  have c2 : ¬ tWf _ _ (c_FA μ) 65 2 := h.1.nf g1 (by decide +kernel)
  have c3 : ¬ tWf _ _ (c_FA μ) 65 3 := h.1.nf g1 (by decide +kernel)
  refine OP6_I (pX6_door (by decide) f1.S ((y_W_F g1 T).mpr hJ.1) ((y_V_F g1 T).mpr hV.1)) (fun r2 m2 f2 k2 => ?_)
  obtain ⟨k2, e80⟩ := k2
  have f3 : tFr (tWs [85, 86, 87, 88, 89] [(65, 0), (65, 1), (65, 2), (65, 3)]) m1 m2 := by
    refine ⟨f2.S, f2.z, f2.k, f2.n, fun a j hw => ?_⟩
    by_cases c : a = 80
    · rw [c]; exact congrFun e80 j
    · refine f2.v (fun q => hw ?_)
      rcases q with q | q
      · left
        simp only [List.mem_cons, List.not_mem_nil, or_false] at q ⊢
        omega
      · exact Or.inr q
  rw [r_door_F g1 T c2 c3] at k2
  exact end2 h g1 f3 (by decide +kernel) (by decide +kernel) k1 k2
end OPS3
