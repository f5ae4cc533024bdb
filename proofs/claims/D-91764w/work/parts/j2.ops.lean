/-! OPERATIONS that answer, and leave what there is (gen/genj2.py) -/
section OPS0
variable {A A' : List Int} {B B' : List (Int × Int)} {μ m1 m2 : tm_M} {x : Int} {q : Int × Int × Int × Int} {r r2 : Int}
def nfs (A : List Int) (B : List (Int × Int)) (l : List (Int × Int)) : Bool := l.all (fun q => A.all (fun a => !decide (a = q.1)) && B.all (fun b => !decide (b = q)))
theorem nfs_s {l : List (Int × Int)} (h : nfs A B l = true) {a j : Int} (hq : (a, j) ∈ l) : ¬ tWs A B a j := by
  have := List.all_eq_true.mp h _ hq
  exact tWs_noF this
theorem nfs_f {l : List (Int × Int)} {f : Int} (h : nfs A B l = true) (hf : dyA f) {a j : Int} (hq : (a, j) ∈ l) (ha : ¬ dyA a) : ¬ tWf A B f a j := by
  rintro (z | z)
  · exact nfs_s h hq z
  · subst z; exact ha hf
theorem ndy {a : Int} (h : 1 ≤ a ∧ a ≤ 10 ∨ 15 ≤ a ∧ a ≤ 103) : ¬ dyA a := by unfold dyA; omega
theorem IS.f (h : IS μ) : dyA (c_FA μ) := h.2.1.FA.1.2
theorem IS.nA (h : IS μ) (_ : tFr (tWf A B (c_FA μ)) μ m1) (hc : chk A B = true) : ∀ a j, a ∈ fbA → ¬ tWf A B (c_FA μ) a j := chk_A hc h.f
theorem IS.nF (h : IS μ) (_ : tFr (tWf A B (c_FA μ)) μ m1) (hc : chk A B = true) : ∀ a j, (a, j) ∈ fbF → ¬ tWf A B (c_FA μ) a j := chk_F hc h.f
theorem IS.nf (h : IS μ) (_ : tFr (tWf A B (c_FA μ)) μ m1) {j : Int} (hc : nfs A B [(65, j)] = true) : ¬ tWf A B (c_FA μ) 65 j := nfs_f hc h.f (List.mem_singleton.mpr rfl) (ndy (by omega))
theorem IS.T' (h : IS μ) (g : tFr (tWf A B (c_FA μ)) μ m1) (hc : chk A B = true) : y_T (tWf A B (c_FA μ)) := by
  have nA := chk_A hc h.f
  have nF := chk_F hc h.f
  exact ⟨fun j => ⟨nA _ _ (by decide), nA _ _ (by decide), nA _ _ (by decide), nA _ _ (by decide), nA _ _ (by decide), nA _ _ (by decide), nA _ _ (by decide), nA _ _ (by decide), nA _ _ (by decide)⟩, nF _ _ (by decide), nF _ _ (by decide), nF _ _ (by decide), nF _ _ (by decide), nF _ _ (by decide), nF _ _ (by decide), nF _ _ (by decide)⟩
theorem end1 (h : IV μ) (f1 : tFr (tWf A B (c_FA μ)) μ m1) (f2 : tFr (tWs A' B') m1 m2) (hc : chk (A ++ A') (B ++ B') = true) (n1 : nfs A B [(1, 14), (1, 15), (65, 2), (65, 3)] = true) (n2 : nfs A' B' [(1, 10), (1, 14), (1, 15), (65, 2), (65, 3)] = true) (e1 : tm_v m1 1 10 = x) (e2 : tm_v m2 65 0 = x) : IV m2 := by
  have hf := h.1.f
  refine ⟨IS2 h.1 (fr2 f1 f2) hc, ?_, ?_⟩
  · rw [e2, f2.v (nfs_s n2 (by decide)), e1]
  · unfold JF
    rw [f2.v (nfs_s n2 (a := 1) (j := 14) (by decide)), f2.v (nfs_s n2 (a := 1) (j := 15) (by decide)), f2.v (nfs_s n2 (a := 65) (j := 2) (by decide)), f2.v (nfs_s n2 (a := 65) (j := 3) (by decide)), f1.v (nfs_f n1 hf (a := 1) (j := 14) (by decide) (ndy (by omega))), f1.v (nfs_f n1 hf (a := 1) (j := 15) (by decide) (ndy (by omega))), f1.v (nfs_f n1 hf (a := 65) (j := 2) (by decide) (ndy (by omega))), f1.v (nfs_f n1 hf (a := 65) (j := 3) (by decide) (ndy (by omega)))]
    exact h.2.2
theorem end2 (h : IV μ) (f1 : tFr (tWf A B (c_FA μ)) μ m1) (f2 : tFr (tWs A' B') m1 m2) (hc : chk (A ++ A') (B ++ B') = true) (n2 : nfs A' B' [(1, 10), (1, 14), (1, 15)] = true) (e1 : c_o q r m1) (e2 : o_fr q r2 m2) : r2 = r ∧ IV m2 := by
  obtain ⟨a1, a2, a3, a4⟩ := e1
  obtain ⟨b1, b2, b3, b4⟩ := e2
  refine ⟨b1.trans a1.symm, IS2 h.1 (fr2 f1 f2) hc, ?_, ?_⟩
  · rw [b2, f2.v (nfs_s n2 (by decide)), a2]
  · unfold JF
    rw [b3, b4, f2.v (nfs_s n2 (a := 1) (j := 14) (by decide)), f2.v (nfs_s n2 (a := 1) (j := 15) (by decide)), a3, a4]
    exact ⟨rfl, rfl⟩
theorem u_st0 (y : Int) : tm_v (u_st μ y) 65 0 = y := by unfold u_st; simp [tm_vw]
end OPS0
section OPS1
variable {μ : tm_M} {w v a b n t k o cap p l x y z s : Int}
theorem op_many (h : IV μ) : OPC mX0_many mX6_many 0 [(0, w)] μ 0 0 := by
  obtain ⟨hs, hJ, hV, ⟨hY, hX⟩, ⟨hC, hyC⟩, hP, hft, hmk, hA⟩ := id h.1
  have hF := h.2.2
  refine OPC_I (pX0_many (by decide) hs hJ hV.2.1) (fun r m1 f1 k1 => ?_)
  have g1  := fr_sf (f := c_FA μ) f1
  have T := h.1.T' g1 (by decide +kernel)
  have c2 : ¬ tWf _ _ (c_FA μ) 65 2 := h.1.nf g1 (by decide +kernel)
  have c3 : ¬ tWf _ _ (c_FA μ) 65 3 := h.1.nf g1 (by decide +kernel)
  have nA := fun a j ha => h.1.nA g1 (by decide +kernel) a j ha
  have nF := fun a j ha => h.1.nF g1 (by decide +kernel) a j ha
  refine OP6_I (pX6_many (by decide) f1.S) (fun r2 m2 f2 k2 => ?_)
  rw [r_many_F g1 T] at k2
  exact ⟨k2.1.trans (k1.1).symm, end1 h g1 f2 (by decide +kernel) (by decide +kernel) (by decide +kernel) (by rw [k1.2, tm_vw, if_pos ⟨rfl, rfl⟩]) (by rw [k2.2, u_st0])⟩
theorem op_place (h : IV μ) : OPC mX0_place mX6_place 0 [(0, p), (0, w)] μ 0 0 := by
  obtain ⟨hs, hJ, hV, ⟨hY, hX⟩, ⟨hC, hyC⟩, hP, hft, hmk, hA⟩ := id h.1
  have hF := h.2.2
  refine OPC_I (pX0_place (by decide) hs hJ) (fun r m1 f1 k1 => ?_)
  have g1  := fr_sf (f := c_FA μ) f1
  have T := h.1.T' g1 (by decide +kernel)
  have c2 : ¬ tWf _ _ (c_FA μ) 65 2 := h.1.nf g1 (by decide +kernel)
  have c3 : ¬ tWf _ _ (c_FA μ) 65 3 := h.1.nf g1 (by decide +kernel)
  have nA := fun a j ha => h.1.nA g1 (by decide +kernel) a j ha
  have nF := fun a j ha => h.1.nF g1 (by decide +kernel) a j ha
  refine OP6_I (pX6_place (by decide) f1.S ((y_W_F g1 T).mpr hJ.1)) (fun r2 m2 f2 k2 => ?_)
  rw [r_place_F g1 T] at k2
  exact ⟨k2.1.trans (k1.1).symm, end1 h g1 f2 (by decide +kernel) (by decide +kernel) (by decide +kernel) (by rw [k1.2, tm_vw, if_pos ⟨rfl, rfl⟩]) (by rw [k2.2, u_st0])⟩
theorem op_distance (h : IV μ) : OPC mX0_distance mX6_distance 0 [(0, a), (0, b)] μ 0 0 := by
  obtain ⟨hs, hJ, hV, ⟨hY, hX⟩, ⟨hC, hyC⟩, hP, hft, hmk, hA⟩ := id h.1
  have hF := h.2.2
  refine OPC_I (pX0_distance (by decide) hs hJ) (fun r m1 f1 k1 => ?_)
  have g1 : tFr (tWf _ _ (c_FA μ)) μ m1 := f1
  have T := h.1.T' g1 (by decide +kernel)
  have c2 : ¬ tWf _ _ (c_FA μ) 65 2 := h.1.nf g1 (by decide +kernel)
  have c3 : ¬ tWf _ _ (c_FA μ) 65 3 := h.1.nf g1 (by decide +kernel)
  have nA := fun a j ha => h.1.nA g1 (by decide +kernel) a j ha
  have nF := fun a j ha => h.1.nF g1 (by decide +kernel) a j ha
  refine OP6_I (pX6_distance (by decide) f1.S ((y_W_F g1 T).mpr hJ.1)) (fun r2 m2 f2 k2 => ?_)
  rw [r_distance_F g1 T] at k2
  exact ⟨k2.1.trans ((congrArg Prod.fst k1)).symm, end1 h g1 f2 (by decide +kernel) (by decide +kernel) (by decide +kernel) (congrArg Prod.snd k1) k2.2⟩
theorem op_when (h : IV μ) : OPC mX0_when mX6_when 0 [(0, w), (0, v), (0, a), (0, b)] μ 0 0 := by
  obtain ⟨hs, hJ, hV, ⟨hY, hX⟩, ⟨hC, hyC⟩, hP, hft, hmk, hA⟩ := id h.1
  have hF := h.2.2
  refine OPC_I (pX0_when (by decide) hs hJ hV hmk) (fun r m1 f1 k1 => ?_)
  have g1 : tFr (tWf _ _ (c_FA μ)) μ m1 := f1
  have T := h.1.T' g1 (by decide +kernel)
  have c2 : ¬ tWf _ _ (c_FA μ) 65 2 := h.1.nf g1 (by decide +kernel)
  have c3 : ¬ tWf _ _ (c_FA μ) 65 3 := h.1.nf g1 (by decide +kernel)
  have nA := fun a j ha => h.1.nA g1 (by decide +kernel) a j ha
  have nF := fun a j ha => h.1.nF g1 (by decide +kernel) a j ha
  refine OP6_I (pX6_when (by decide) f1.S ((y_W_F g1 T).mpr hJ.1) ((y_V_F g1 T).mpr hV.1)) (fun r2 m2 f2 k2 => ?_)
  rw [r_when_F g1 T] at k2
  exact ⟨k2.1.trans ((congrArg Prod.fst k1)).symm, end1 h g1 f2 (by decide +kernel) (by decide +kernel) (by decide +kernel) (congrArg Prod.snd k1) k2.2⟩
theorem op_judge (h : IV μ) : OPC mX0_judge mX6_judge 0 [(0, w), (0, v), (0, t)] μ 0 0 := by
  obtain ⟨hs, hJ, hV, ⟨hY, hX⟩, ⟨hC, hyC⟩, hP, hft, hmk, hA⟩ := id h.1
  have hF := h.2.2
  refine OPC_I (pX0_judge (by decide) hs hJ hV hY hmk) (fun r m1 f1 k1 => ?_)
  have g1 : tFr (tWf _ _ (c_FA μ)) μ m1 := f1
  have T := h.1.T' g1 (by decide +kernel)
  have c2 : ¬ tWf _ _ (c_FA μ) 65 2 := h.1.nf g1 (by decide +kernel)
  have c3 : ¬ tWf _ _ (c_FA μ) 65 3 := h.1.nf g1 (by decide +kernel)
  have nA := fun a j ha => h.1.nA g1 (by decide +kernel) a j ha
  have nF := fun a j ha => h.1.nF g1 (by decide +kernel) a j ha
  refine OP6_I (pX6_judge (by decide) f1.S ((y_W_F g1 T).mpr hJ.1) ((y_V_F g1 T).mpr hV.1)) (fun r2 m2 f2 k2 => ?_)
  rw [r_judge_F g1 T (fun j => nA _ _ (by decide)) (fun j => nA _ _ (by decide))] at k2
  exact ⟨k2.1.trans (k1.1).symm, end1 h g1 f2 (by decide +kernel) (by decide +kernel) (by decide +kernel) k1.2 k2.2⟩
theorem op_worst (h : IV μ) : OPC mX0_worst mX6_worst 0 [(0, w), (0, v)] μ 0 0 := by
  obtain ⟨hs, hJ, hV, ⟨hY, hX⟩, ⟨hC, hyC⟩, hP, hft, hmk, hA⟩ := id h.1
  have hF := h.2.2
  refine OPC_I (pX0_worst (by decide) hs hJ hV hmk) (fun r m1 f1 k1 => ?_)
  have g1 : tFr (tWf _ _ (c_FA μ)) μ m1 := f1
  have T := h.1.T' g1 (by decide +kernel)
  have c2 : ¬ tWf _ _ (c_FA μ) 65 2 := h.1.nf g1 (by decide +kernel)
  have c3 : ¬ tWf _ _ (c_FA μ) 65 3 := h.1.nf g1 (by decide +kernel)
  have nA := fun a j ha => h.1.nA g1 (by decide +kernel) a j ha
  have nF := fun a j ha => h.1.nF g1 (by decide +kernel) a j ha
  refine OP6_I (pX6_worst (by decide) f1.S ((y_W_F g1 T).mpr hJ.1) ((y_V_F g1 T).mpr hV.1)) (fun r2 m2 f2 k2 => ?_)
  rw [r_worst_F g1 T] at k2
  exact ⟨k2.1.trans (k1.1).symm, end1 h g1 f2 (by decide +kernel) (by decide +kernel) (by decide +kernel) k1.2 k2.2⟩
theorem op_same (h : IV μ) : OPC mX0_same mX6_same 0 [(0, a), (0, b)] μ 0 0 := by
  obtain ⟨hs, hJ, hV, ⟨hY, hX⟩, ⟨hC, hyC⟩, hP, hft, hmk, hA⟩ := id h.1
  have hF := h.2.2
  refine OPC_I (pX0_same (by decide) hs hJ) (fun r m1 f1 k1 => ?_)
  have g1  := fr_sf (f := c_FA μ) f1
  have T := h.1.T' g1 (by decide +kernel)
  have c2 : ¬ tWf _ _ (c_FA μ) 65 2 := h.1.nf g1 (by decide +kernel)
  have c3 : ¬ tWf _ _ (c_FA μ) 65 3 := h.1.nf g1 (by decide +kernel)
  have nA := fun a j ha => h.1.nA g1 (by decide +kernel) a j ha
  have nF := fun a j ha => h.1.nF g1 (by decide +kernel) a j ha
  refine OP6_I (pX6_same (by decide) f1.S ((y_W_F g1 T).mpr hJ.1)) (fun r2 m2 f2 k2 => ?_)
  rw [r_same_F g1 T] at k2
  exact ⟨k2.1.trans (k1.1).symm, end1 h g1 f2 (by decide +kernel) (by decide +kernel) (by decide +kernel) k1.2 k2.2⟩
theorem op_step (h : IV μ) : OPC mX0_step mX6_step 0 [(0, w), (0, k)] μ 0 0 := by
  obtain ⟨hs, hJ, hV, ⟨hY, hX⟩, ⟨hC, hyC⟩, hP, hft, hmk, hA⟩ := id h.1
  have hF := h.2.2
  refine OPC_I (pX0_step (by decide) hs hA.1.1 hA.1.2.1 hA.1.2.2) (fun r m1 f1 k1 => ?_)
  have g1  := fr_sf (f := c_FA μ) f1
  have T := h.1.T' g1 (by decide +kernel)
  have c2 : ¬ tWf _ _ (c_FA μ) 65 2 := h.1.nf g1 (by decide +kernel)
  have c3 : ¬ tWf _ _ (c_FA μ) 65 3 := h.1.nf g1 (by decide +kernel)
  have nA := fun a j ha => h.1.nA g1 (by decide +kernel) a j ha
  have nF := fun a j ha => h.1.nF g1 (by decide +kernel) a j ha
  refine OP6_I (pX6_step (by decide) f1.S (by rw [g1.v (nF 65 52 (by decide))]; exact hA.1.1)) (fun r2 m2 f2 k2 => ?_)
  rw [r_step_F g1 (fun j => nA _ _ (by decide)) (nF _ _ (by decide))] at k2
  exact ⟨k2.1.trans (k1.1).symm, end1 h g1 f2 (by decide +kernel) (by decide +kernel) (by decide +kernel) (by rw [k1.2, tm_vw, if_pos ⟨rfl, rfl⟩]) (by rw [k2.2, u_st0])⟩
theorem op_alikeStep (h : IV μ) : OPC mX0_alikeStep mX6_alikeStep 0 [(0, k)] μ 0 0 := by
  obtain ⟨hs, hJ, hV, ⟨hY, hX⟩, ⟨hC, hyC⟩, hP, hft, hmk, hA⟩ := id h.1
  have hF := h.2.2
  refine OPC_I (pX0_alikeStep (by decide) hs hA.2.1 hA.2.2.1 hA.2.2.2) (fun r m1 f1 k1 => ?_)
  have g1  := fr_sf (f := c_FA μ) f1
  have T := h.1.T' g1 (by decide +kernel)
  have c2 : ¬ tWf _ _ (c_FA μ) 65 2 := h.1.nf g1 (by decide +kernel)
  have c3 : ¬ tWf _ _ (c_FA μ) 65 3 := h.1.nf g1 (by decide +kernel)
  have nA := fun a j ha => h.1.nA g1 (by decide +kernel) a j ha
  have nF := fun a j ha => h.1.nF g1 (by decide +kernel) a j ha
  refine OP6_I (pX6_alikeStep (by decide) f1.S (by rw [g1.v (nF 65 53 (by decide))]; exact hA.2.1)) (fun r2 m2 f2 k2 => ?_)
  rw [r_alikeStep_F g1 (fun j => nA _ _ (by decide)) (nF _ _ (by decide))] at k2
  exact ⟨k2.1.trans (k1.1).symm, end1 h g1 f2 (by decide +kernel) (by decide +kernel) (by decide +kernel) (by rw [k1.2, tm_vw, if_pos ⟨rfl, rfl⟩]) (by rw [k2.2, u_st0])⟩
theorem op_parted (h : IV μ) : OPC mX0_parted mX6_parted 0 [(0, a), (0, b), (0, w)] μ 0 0 := by
  obtain ⟨hs, hJ, hV, ⟨hY, hX⟩, ⟨hC, hyC⟩, hP, hft, hmk, hA⟩ := id h.1
  have hF := h.2.2
  refine OPC_I (pX0_parted (by decide) hs hJ) (fun r m1 f1 k1 => ?_)
  have g1  := fr_sf (f := c_FA μ) f1
  have T := h.1.T' g1 (by decide +kernel)
  have c2 : ¬ tWf _ _ (c_FA μ) 65 2 := h.1.nf g1 (by decide +kernel)
  have c3 : ¬ tWf _ _ (c_FA μ) 65 3 := h.1.nf g1 (by decide +kernel)
  have nA := fun a j ha => h.1.nA g1 (by decide +kernel) a j ha
  have nF := fun a j ha => h.1.nF g1 (by decide +kernel) a j ha
  refine OP6_I (pX6_parted (by decide) f1.S ((y_W_F g1 T).mpr hJ.1)) (fun r2 m2 f2 k2 => ?_)
  rw [r_parted_F g1 T] at k2
  exact ⟨(congrArg Prod.fst k2).trans ((congrArg Prod.fst k1)).symm, end1 h g1 f2 (by decide +kernel) (by decide +kernel) (by decide +kernel) (congrArg Prod.snd k1) (congrArg Prod.snd k2)⟩
theorem op_three (h : IV μ) (h32 : b ≤ 2147483647) : OPC mX0_three mX6_three 0 [(0, x), (0, y), (0, z), (0, b)] μ 0 0 := by
  obtain ⟨hs, hJ, hV, ⟨hY, hX⟩, ⟨hC, hyC⟩, hP, hft, hmk, hA⟩ := id h.1
  have hF := h.2.2
  refine OPC_I (pX0_three (by decide) hs hJ hV h32) (fun r m1 f1 k1 => ?_)
  have g1  := fr_sf (f := c_FA μ) f1
  have T := h.1.T' g1 (by decide +kernel)
  have c2 : ¬ tWf _ _ (c_FA μ) 65 2 := h.1.nf g1 (by decide +kernel)
  have c3 : ¬ tWf _ _ (c_FA μ) 65 3 := h.1.nf g1 (by decide +kernel)
  have nA := fun a j ha => h.1.nA g1 (by decide +kernel) a j ha
  have nF := fun a j ha => h.1.nF g1 (by decide +kernel) a j ha
  refine OP6_I (pX6_three (by decide) f1.S ((y_W_F g1 T).mpr hJ.1) ((y_V_F g1 T).mpr hV.1)) (fun r2 m2 f2 k2 => ?_)
  rw [r_three_F g1 T] at k2
  exact ⟨(congrArg Prod.fst k2).trans ((congrArg Prod.fst k1)).symm, end1 h g1 f2 (by decide +kernel) (by decide +kernel) (by decide +kernel) (congrArg Prod.snd k1) (congrArg Prod.snd k2)⟩
theorem op_wander (h : IV μ) (h32 : s ≤ 2147483647) : OPC mX0_wander mX6_wander 0 [(0, s), (0, a), (0, b)] μ 0 0 := by
  obtain ⟨hs, hJ, hV, ⟨hY, hX⟩, ⟨hC, hyC⟩, hP, hft, hmk, hA⟩ := id h.1
  have hF := h.2.2
  refine OPC_I (pX0_wander (by decide) hs hJ h32) (fun r m1 f1 k1 => ?_)
  have g1  := fr_sf (f := c_FA μ) f1
  have T := h.1.T' g1 (by decide +kernel)
  have c2 : ¬ tWf _ _ (c_FA μ) 65 2 := h.1.nf g1 (by decide +kernel)
  have c3 : ¬ tWf _ _ (c_FA μ) 65 3 := h.1.nf g1 (by decide +kernel)
  have nA := fun a j ha => h.1.nA g1 (by decide +kernel) a j ha
  have nF := fun a j ha => h.1.nF g1 (by decide +kernel) a j ha
  refine OP6_I (pX6_wander (by decide) f1.S ((y_W_F g1 T).mpr hJ.1) h32) (fun r2 m2 f2 k2 => ?_)
  rw [r_wander_F g1 T] at k2
  exact ⟨(congrArg Prod.fst k2).trans ((congrArg Prod.fst k1)).symm, end1 h g1 f2 (by decide +kernel) (by decide +kernel) (by decide +kernel) (congrArg Prod.snd k1) (congrArg Prod.snd k2)⟩
theorem op_mean (h : IV μ) : OPC mX0_mean mX6_mean 0 [(0, w), (0, v)] μ 0 0 := by
  obtain ⟨hs, hJ, hV, ⟨hY, hX⟩, ⟨hC, hyC⟩, hP, hft, hmk, hA⟩ := id h.1
  have hF := h.2.2
  refine OPC_I (pX0_mean (by decide) hs hJ hV hF hmk) (fun r m1 f1 k1 => ?_)
  have g1 : tFr (tWf _ _ (c_FA μ)) μ m1 := f1
  have T := h.1.T' g1 (by decide +kernel)
  have c2 : ¬ tWf _ _ (c_FA μ) 65 2 := h.1.nf g1 (by decide +kernel)
  have c3 : ¬ tWf _ _ (c_FA μ) 65 3 := h.1.nf g1 (by decide +kernel)
  have nA := fun a j ha => h.1.nA g1 (by decide +kernel) a j ha
  have nF := fun a j ha => h.1.nF g1 (by decide +kernel) a j ha
  refine OP6_I (pX6_mean (by decide) f1.S ((y_W_F g1 T).mpr hJ.1) ((y_V_F g1 T).mpr hV.1)) (fun r2 m2 f2 k2 => ?_)
  rw [r_mean_F g1 T c2 c3] at k2
  exact end2 h g1 f2 (by decide +kernel) (by decide +kernel) k1 k2
theorem op_drawn (h : IV μ) : OPC mX0_drawn mX6_drawn 0 [(0, w), (0, v), (0, n), (0, t), (0, k)] μ 0 0 := by
  obtain ⟨hs, hJ, hV, ⟨hY, hX⟩, ⟨hC, hyC⟩, hP, hft, hmk, hA⟩ := id h.1
  have hF := h.2.2
  refine OPC_I (pX0_drawn (by decide) hs hJ hV hF) (fun r m1 f1 k1 => ?_)
  have g1  := fr_sf (f := c_FA μ) f1
  have T := h.1.T' g1 (by decide +kernel)
  have c2 : ¬ tWf _ _ (c_FA μ) 65 2 := h.1.nf g1 (by decide +kernel)
  have c3 : ¬ tWf _ _ (c_FA μ) 65 3 := h.1.nf g1 (by decide +kernel)
  have nA := fun a j ha => h.1.nA g1 (by decide +kernel) a j ha
  have nF := fun a j ha => h.1.nF g1 (by decide +kernel) a j ha
  refine OP6_I (pX6_drawn (by decide) f1.S ((y_W_F g1 T).mpr hJ.1) ((y_V_F g1 T).mpr hV.1)) (fun r2 m2 f2 k2 => ?_)
  rw [r_drawn_F g1 T c2 c3] at k2
  exact end2 h g1 f2 (by decide +kernel) (by decide +kernel) k1 k2
theorem op_bestDrawn (h : IV μ) : OPC mX0_bestDrawn mX6_bestDrawn 0 [(0, w), (0, v), (0, t), (0, k)] μ 0 0 := by
  obtain ⟨hs, hJ, hV, ⟨hY, hX⟩, ⟨hC, hyC⟩, hP, hft, hmk, hA⟩ := id h.1
  have hF := h.2.2
  refine OPC_I (pX0_bestDrawn (by decide) hs hJ hV hF) (fun r m1 f1 k1 => ?_)
  have g1  := fr_sf (f := c_FA μ) f1
  have T := h.1.T' g1 (by decide +kernel)
  have c2 : ¬ tWf _ _ (c_FA μ) 65 2 := h.1.nf g1 (by decide +kernel)
  have c3 : ¬ tWf _ _ (c_FA μ) 65 3 := h.1.nf g1 (by decide +kernel)
  have nA := fun a j ha => h.1.nA g1 (by decide +kernel) a j ha
  have nF := fun a j ha => h.1.nF g1 (by decide +kernel) a j ha
  refine OP6_I (pX6_bestDrawn (by decide) f1.S ((y_W_F g1 T).mpr hJ.1) ((y_V_F g1 T).mpr hV.1)) (fun r2 m2 f2 k2 => ?_)
  rw [r_bestDrawn_F g1 T c2 c3] at k2
  exact end2 h g1 f2 (by decide +kernel) (by decide +kernel) k1 k2
theorem op_chance (h : IV μ) : OPC mX0_chance mX6_chance 0 [(0, k)] μ 0 0 := by
  obtain ⟨hs, hJ, hV, ⟨hY, hX⟩, ⟨hC, hyC⟩, hP, hft, hmk, hA⟩ := id h.1
  have hF := h.2.2
  refine OPC_I (pX0_chance (by decide) hs hF hC) (fun r m1 f1 k1 => ?_)
  have g1  := fr_sf (f := c_FA μ) f1
  have T := h.1.T' g1 (by decide +kernel)
  have c2 : ¬ tWf _ _ (c_FA μ) 65 2 := h.1.nf g1 (by decide +kernel)
  have c3 : ¬ tWf _ _ (c_FA μ) 65 3 := h.1.nf g1 (by decide +kernel)
  have nA := fun a j ha => h.1.nA g1 (by decide +kernel) a j ha
  have nF := fun a j ha => h.1.nF g1 (by decide +kernel) a j ha
  refine OP6_I (pX6_chance (by decide) f1.S (yC_nu hyC (funext fun j => g1.v (nA _ _ (by decide))) (g1.v (nF _ _ (by decide))) (g1.v (nF _ _ (by decide))))) (fun r2 m2 f2 k2 => ?_)
  rw [r_chance_F g1 (fun j => nA _ _ (by decide)) (nF _ _ (by decide)) (nF _ _ (by decide)) c2 c3] at k2
  exact end2 h g1 f2 (by decide +kernel) (by decide +kernel) k1 k2
theorem op_status (h : IV μ) : OPC mX0_status mX6_status 0 [] μ 0 0 := by
  obtain ⟨hs, hJ, hV, ⟨hY, hX⟩, ⟨hC, hyC⟩, hP, hft, hmk, hA⟩ := id h.1
  have hF := h.2.2
  refine OPC_I (pX0_status hs) (fun r m1 f1 k1 => ?_)
  have e1 : m1 = μ := tFr_eq f1
  subst e1
  have g1 := fr_sf (f := c_FA m1) f1
  refine OP6_I (pX6_status hs) (fun r2 m2 f2 k2 => ⟨?_, end1 h g1 f2 (by decide +kernel) (by decide +kernel) (by decide +kernel) h.2.1 (by rw [k2.2, tm_vw, if_neg (by decide)])⟩)
  rw [k2.1, k1]
  exact h.2.1.symm
theorem op_top (h : IV μ) : OPC mX0_top mX6_top 1 [] μ 0 0 := by
  obtain ⟨hs, hJ, hV, ⟨hY, hX⟩, ⟨hC, hyC⟩, hP, hft, hmk, hA⟩ := id h.1
  have hF := h.2.2
  refine OPC_L (pX0_top hs) (fun r m1 f1 k1 => ?_)
  have e1 : m1 = μ := tFr_eq f1
  subst e1
  have g1 := fr_sf (f := c_FA m1) f1
  refine OP6_L (pX6_top hs) (fun r2 m2 f2 k2 => ⟨?_, end1 h g1 f2 (by decide +kernel) (by decide +kernel) (by decide +kernel) h.2.1 (by rw [k2.2, tm_vw, if_neg (by decide)])⟩)
  rw [k2.1, k1]
  exact hF.1.symm
theorem op_bottom (h : IV μ) : OPC mX0_bottom mX6_bottom 1 [] μ 0 0 := by
  obtain ⟨hs, hJ, hV, ⟨hY, hX⟩, ⟨hC, hyC⟩, hP, hft, hmk, hA⟩ := id h.1
  have hF := h.2.2
  refine OPC_L (pX0_bottom hs) (fun r m1 f1 k1 => ?_)
  have e1 : m1 = μ := tFr_eq f1
  subst e1
  have g1 := fr_sf (f := c_FA m1) f1
  refine OP6_L (pX6_bottom hs) (fun r2 m2 f2 k2 => ⟨?_, end1 h g1 f2 (by decide +kernel) (by decide +kernel) (by decide +kernel) h.2.1 (by rw [k2.2, tm_vw, if_neg (by decide)])⟩)
  rw [k2.1, k1]
  exact hF.2.symm
theorem op_fault (h : IV μ) : OPC mX0_fault mX6_fault 0 [(0, w)] μ 0 0 := by
  obtain ⟨hs, hJ, hV, ⟨hY, hX⟩, ⟨hC, hyC⟩, hP, hft, hmk, hA⟩ := id h.1
  have hF := h.2.2
  refine OPC_I (pX0_fault hs) (fun r m1 f1 k1 => ?_)
  have e1 : m1 = μ := tFr_eq f1
  subst e1
  have g1 := fr_sf (f := c_FA m1) f1
  refine OP6_I (pX6_fault hs) (fun r2 m2 f2 k2 => ⟨?_, end1 h g1 f2 (by decide +kernel) (by decide +kernel) (by decide +kernel) h.2.1 (by rw [k2.2, tm_vw, if_neg (by decide)])⟩)
  rw [k2.1, k1]
  unfold r_fault
  rw [hft.1, hft.2]
end OPS1
