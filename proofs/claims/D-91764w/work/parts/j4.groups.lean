/-! ties, one by one, behind a call of the component and one of the model -/
section GRP
variable {A A' : List Int} {B B' : List (Int × Int)} {μ m1 m2 : tm_M}
def nas (A : List Int) (B : List (Int × Int)) (l : List Int) : Bool := l.all (fun a => A.all (fun q => !decide (q = a)) && B.all (fun q => !decide (q.1 = a)))
theorem nas_s {l : List Int} (h : nas A B l = true) {a : Int} (j : Int) (hq : a ∈ l) : ¬ tWs A B a j := tWs_no j (List.all_eq_true.mp h _ hq)
theorem nas_f {l : List Int} {f : Int} (h : nas A B l = true) (hf : dyA f) {a : Int} (j : Int) (hq : a ∈ l) (ha : ¬ dyA a) : ¬ tWf A B f a j := by
  rintro (z | z)
  · exact nas_s h j hq z
  · subst z; exact ha hf
/-- what the component writes: its own fixed cells, none of town, ways, trays -/
def ck (A : List Int) (B : List (Int × Int)) : Bool := A.all (fun a => decide (a < 65 ∧ ¬ (11 ≤ a ∧ a ≤ 14) ∧ a ≠ 1 ∧ a ≠ 4 ∧ a ≠ 6 ∧ a < 61)) && B.all (fun q => decide (q.1 < 65 ∧ ¬ (11 ≤ q.1 ∧ q.1 ≤ 14) ∧ q.1 ≠ 6 ∧ q.1 < 61 ∧ ¬ q = (1, 8) ∧ ¬ q = (1, 9)))
def mk (A : List Int) (B : List (Int × Int)) : Bool := A.all (fun a => decide (65 ≤ a ∧ a ≤ 103)) && B.all (fun q => decide (65 ≤ q.1 ∧ q.1 ≤ 103))
theorem ck_no (hc : ck A B = true) {f : Int} (hf : dyA f) : (∀ a j, 65 ≤ a → a ≤ 103 → ¬ tWf A B f a j) ∧ (¬ tWf A B f 1 8 ∧ ¬ tWf A B f 1 9) ∧ (∀ a j, dyA a → a ≠ f → ¬ tWf A B f a j) ∧ (∀ j, ¬ tWf A B f 6 j) ∧ ∀ a j, 61 ≤ a → a ≤ 64 → ¬ tWf A B f a j := by
  unfold ck at hc
  simp only [Bool.and_eq_true, List.all_eq_true, decide_eq_true_eq] at hc
  obtain ⟨h1, h2⟩ := hc
  unfold dyA at hf
  refine ⟨?_, ⟨?_, ?_⟩, ?_, ?_, ?_⟩
  · rintro a j a0 a1 ((q | q) | q)
    · have := h1 a q; omega
    · have := h2 _ q; dsimp only at this; omega
    · omega
  · rintro ((q | q) | q)
    · have := h1 _ q; omega
    · exact (h2 _ q).2.2.2.2.1 rfl
    · omega
  · rintro ((q | q) | q)
    · have := h1 _ q; omega
    · exact (h2 _ q).2.2.2.2.2 rfl
    · omega
  · rintro a j ha hne ((q | q) | q)
    · have := h1 a q; unfold dyA at ha; omega
    · have := h2 _ q; dsimp only at this; unfold dyA at ha; omega
    · exact hne q
  · rintro j ((q | q) | q)
    · have := h1 _ q; omega
    · have := h2 _ q; dsimp only at this; omega
    · omega
  · rintro a j a0 a1 ((q | q) | q)
    · have := h1 a q; omega
    · have := h2 _ q; dsimp only at this; omega
    · omega
theorem ck_T (hc : ck A B = true) {f : Int} (hf : dyA f) : y_TC f (tWf A B f) := by
  obtain ⟨h1, h2, h3, h4, h5⟩ := ck_no hc hf
  exact ⟨⟨fun j => ⟨h1 _ _ (by decide) (by decide), h1 _ _ (by decide) (by decide), h1 _ _ (by decide) (by decide), h1 _ _ (by decide) (by decide), h1 _ _ (by decide) (by decide), h1 _ _ (by decide) (by decide), h1 _ _ (by decide) (by decide), h1 _ _ (by decide) (by decide), h1 _ _ (by decide) (by decide)⟩, h1 _ _ (by decide) (by decide), h1 _ _ (by decide) (by decide), h1 _ _ (by decide) (by decide), h1 _ _ (by decide) (by decide), h1 _ _ (by decide) (by decide), h1 _ _ (by decide) (by decide), h1 _ _ (by decide) (by decide)⟩, h2.1, h3⟩
theorem sM_c (h : IS μ) (f1 : tFr (tWf A B (c_FA μ)) μ m1) (hc : ck A B = true) : sM μ m1 := fun a a0 a1 => funext fun j => f1.v ((ck_no hc h.f).1 a j a0 a1)
theorem JU_2 (h : IS μ) (f1 : tFr (tWf A B (c_FA μ)) μ m1) (f2 : tFr (tWs A' B') m1 m2) (hc : ck A B = true) (hm : mk A' B' = true) (n1 : nas A' B' [70, 72, 74, 76, 77, 80] = true) (n2 : nfs A' B' [(65, 20), (65, 21), (65, 24), (65, 25), (65, 28)] = true) : JU m2 m2 := by
  have s1 := sM_c h f1 hc
  have v : ∀ a ∈ ([70, 72, 74, 76, 77, 80] : List Int), 65 ≤ a → a ≤ 103 → tm_v m2 a = tm_v μ a := fun a ha a0 a1 => (funext fun j => f2.v (nas_s n1 j ha)).trans (s1 a a0 a1)
  have w : ∀ j, (65, j) ∈ ([(65, 20), (65, 21), (65, 24), (65, 25), (65, 28)] : List (Int × Int)) → tm_v m2 65 j = tm_v μ 65 j := fun j hj => (f2.v (nfs_s n2 hj)).trans (congrFun (s1 65 (by decide) (by decide)) j)
  exact JU_nu (JU_1 (JU_F h.2.1 f1 (ck_T hc h.f)) (sC_fr f2 hm)) (v _ (by decide) (by decide) (by decide)) (v _ (by decide) (by decide) (by decide)) (v _ (by decide) (by decide) (by decide)) (v _ (by decide) (by decide) (by decide)) (v _ (by decide) (by decide) (by decide)) (v _ (by decide) (by decide) (by decide)) (w _ (by decide)) (w _ (by decide)) (w _ (by decide)) (w _ (by decide)) (w _ (by decide))
theorem JV_2 (h : IS μ) (f1 : tFr (tWf A B (c_FA μ)) μ m1) (f2 : tFr (tWs A' B') m1 m2) (hc : ck A B = true) (hm : mk A' B' = true) (n1 : nas A' B' [82, 83, 84] = true) (n2 : nfs A' B' [(65, 43)] = true) : JV m2 m2 := by
  have s1 := sM_c h f1 hc
  have T := ck_T hc h.f
  have v : ∀ a ∈ ([82, 83, 84] : List Int), 65 ≤ a → a ≤ 103 → tm_v m2 a = tm_v μ a := fun a ha a0 a1 => (funext fun j => f2.v (nas_s n1 j ha)).trans (s1 a a0 a1)
  have w := (f2.v (nfs_s n2 (a := 65) (j := 43) (by decide))).trans (congrFun (s1 65 (by decide) (by decide)) 43)
  have n := ck_no hc h.f
  exact JV_nu (JV_1 (JU_F h.2.1 f1 T) (JV_F h.2.1 h.2.2.1 f1 T ⟨n.2.2.2.1, n.2.1.2⟩) (sC_fr f2 hm)) (v _ (by decide) (by decide) (by decide)) (v _ (by decide) (by decide) (by decide)) (v _ (by decide) (by decide) (by decide)) w
theorem JY_2 (h : IS μ) (f1 : tFr (tWf A B (c_FA μ)) μ m1) (f2 : tFr (tWs A' B') m1 m2) (hc : ck A B = true) (hm : mk A' B' = true) (n1 : nas A' B' [66, 67, 68] = true) (n2 : nfs A' B' [(65, 43)] = true) : JY m2 m2 ∧ JX m2 m2 := by
  have s1 := sM_c h f1 hc
  have T := ck_T hc h.f
  have v : ∀ a ∈ ([66, 67, 68] : List Int), 65 ≤ a → a ≤ 103 → tm_v m2 a = tm_v μ a := fun a ha a0 a1 => (funext fun j => f2.v (nas_s n1 j ha)).trans (s1 a a0 a1)
  have n := ck_no hc h.f
  have w := (f2.v (nfs_s n2 (a := 65) (j := 43) (by decide))).trans (congrFun (s1 65 (by decide) (by decide)) 43)
  have V1 := JV_F h.2.1 h.2.2.1 f1 T ⟨n.2.2.2.1, n.2.1.2⟩
  exact ⟨JY_nu (JY_1 (JU_F h.2.1 f1 T) (JY_F h.2.1 h.2.2.2.1.1 f1 T n.2.2.2.2) (sC_fr f2 hm)) (v _ (by decide) (by decide) (by decide)) (v _ (by decide) (by decide) (by decide)) (v _ (by decide) (by decide) (by decide)), JX_nu (JX_1 V1 (JX_F h.2.1 h.2.2.1 h.2.2.2.1.2 f1 T ⟨n.2.2.2.1, n.2.1.2⟩ n.2.2.2.2) (sC_fr f2 hm)) (v _ (by decide) (by decide) (by decide)) w⟩
theorem JC_2 (h : IS μ) (f1 : tFr (tWf A B (c_FA μ)) μ m1) (f2 : tFr (tWs A' B') m1 m2) (hc : ck A B = true) (hm : mk A' B' = true) (n3 : nas A B [60] = true) (n4 : nfs A B [(1, 47)] = true) (n1 : nas A' B' [93] = true) (n2 : nfs A' B' [(65, 54), (65, 59)] = true) : JC m2 m2 ∧ y_C m2 := by
  have s1 := sM_c h f1 hc
  have sc := sC_fr f2 hm
  have e93 : tm_v m2 93 = tm_v μ 93 := (funext fun j => f2.v (nas_s n1 j (by decide))).trans (s1 93 (by decide) (by decide))
  have w : ∀ j, (65, j) ∈ ([(65, 54), (65, 59)] : List (Int × Int)) → tm_v m2 65 j = tm_v μ 65 j := fun j hj => (f2.v (nfs_s n2 hj)).trans (congrFun (s1 65 (by decide) (by decide)) j)
  have e60 : ∀ j, tm_v m2 60 j = tm_v μ 60 j := fun j => (sc.2.2 60 j (by omega)).trans (f1.v (nas_f n3 h.f j (by decide) (ndy (by omega))))
  have e47 : tm_v m2 1 47 = tm_v μ 1 47 := (sc.2.2 1 47 (by omega)).trans (f1.v (nfs_f n4 h.f (by decide) (ndy (by omega))))
  refine ⟨?_, yC_nu h.2.2.2.2.1.2 e93 (w _ (by decide)) (w _ (by decide))⟩
  have hC := h.2.2.2.2.1.1
  have e60' : tm_v m2 60 = tm_v μ 60 := funext e60
  unfold JC pt3 at hC ⊢
  rw [e47, e60', e93, w 54 (by decide), w 59 (by decide)]
  exact hC
theorem JP_2 (h : IS μ) (f1 : tFr (tWf A B (c_FA μ)) μ m1) (f2 : tFr (tWs A' B') m1 m2) (hc : ck A B = true) (hm : mk A' B' = true) (n3 : nas A B [5] = true) (n4 : nfs A B [(4, 1)] = true) (n1 : nas A' B' [69] = true) (n2 : nfs A' B' [(65, 8)] = true) : JP m2 m2 := by
  have s1 := sM_c h f1 hc
  have sc := sC_fr f2 hm
  have e69 : tm_v m2 69 = tm_v μ 69 := (funext fun j => f2.v (nas_s n1 j (by decide))).trans (s1 69 (by decide) (by decide))
  have e8 : tm_v m2 65 8 = tm_v μ 65 8 := (f2.v (nfs_s n2 (by decide))).trans (congrFun (s1 65 (by decide) (by decide)) 8)
  have e5 : tm_v m2 5 = tm_v μ 5 := funext fun j => (sc.2.2 5 j (by omega)).trans (f1.v (nas_f n3 h.f j (by decide) (ndy (by omega))))
  have e41 : tm_v m2 4 1 = tm_v μ 4 1 := (sc.2.2 4 1 (by omega)).trans (f1.v (nfs_f n4 h.f (by decide) (ndy (by omega))))
  have hP := h.2.2.2.2.2.1
  unfold JP at hP ⊢
  rw [e69, e8, e5, e41]
  exact hP
theorem FT_2 (h : IS μ) (f1 : tFr (tWf A B (c_FA μ)) μ m1) (f2 : tFr (tWs A' B') m1 m2) (hc : ck A B = true) (hm : mk A' B' = true) (n4 : nfs A B [(1, 11), (1, 12)] = true) (n2 : nfs A' B' [(65, 10), (65, 11)] = true) : tm_v m2 1 11 = tm_v m2 65 10 ∧ tm_v m2 1 12 = tm_v m2 65 11 := by
  have s1 := sM_c h f1 hc
  have sc := sC_fr f2 hm
  have w : ∀ j, (65, j) ∈ ([(65, 10), (65, 11)] : List (Int × Int)) → tm_v m2 65 j = tm_v μ 65 j := fun j hj => (f2.v (nfs_s n2 hj)).trans (congrFun (s1 65 (by decide) (by decide)) j)
  have c : ∀ j, (1, j) ∈ ([(1, 11), (1, 12)] : List (Int × Int)) → tm_v m2 1 j = tm_v μ 1 j := fun j hj => (sc.2.2 1 j (by omega)).trans (f1.v (nfs_f n4 h.f hj (ndy (by omega))))
  rw [w 10 (by decide), w 11 (by decide), c 11 (by decide), c 12 (by decide)]
  exact h.2.2.2.2.2.2.1
theorem MK_2 (h : IS μ) (f1 : tFr (tWf A B (c_FA μ)) μ m1) (f2 : tFr (tWs A' B') m1 m2) (hc : ck A B = true) (hm : mk A' B' = true) (n4 : nfs A B [(1, 13)] = true) (n2 : nfs A' B' [(65, 30)] = true) : tm_v m2 1 13 = tm_v m2 65 30 := by
  have s1 := sM_c h f1 hc
  have sc := sC_fr f2 hm
  rw [sc.2.2 1 13 (by omega), f1.v (nfs_f n4 h.f (by decide) (ndy (by omega))), f2.v (nfs_s n2 (by decide)), s1 65 (by decide) (by decide)]
  exact h.2.2.2.2.2.2.2.1
theorem JA_2 (h : IS μ) (f1 : tFr (tWf A B (c_FA μ)) μ m1) (f2 : tFr (tWs A' B') m1 m2) (hc : ck A B = true) (hm : mk A' B' = true) (n3 : nas A B [42, 43, 44] = true) (n4 : nfs A B [(1, 28), (1, 29)] = true) (n1 : nas A' B' [90, 91] = true) (n2 : nfs A' B' [(65, 52), (65, 53)] = true) : JA m2 m2 := by
  have s1 := sM_c h f1 hc
  have sc := sC_fr f2 hm
  have w : ∀ j, (65, j) ∈ ([(65, 52), (65, 53)] : List (Int × Int)) → tm_v m2 65 j = tm_v μ 65 j := fun j hj => (f2.v (nfs_s n2 hj)).trans (congrFun (s1 65 (by decide) (by decide)) j)
  have c : ∀ j, (1, j) ∈ ([(1, 28), (1, 29)] : List (Int × Int)) → tm_v m2 1 j = tm_v μ 1 j := fun j hj => (sc.2.2 1 j (by omega)).trans (f1.v (nfs_f n4 h.f hj (ndy (by omega))))
  have v : ∀ a ∈ ([90, 91] : List Int), 65 ≤ a → a ≤ 103 → tm_v m2 a = tm_v μ a := fun a ha a0 a1 => (funext fun j => f2.v (nas_s n1 j ha)).trans (s1 a a0 a1)
  have d : ∀ a ∈ ([42, 43, 44] : List Int), 42 ≤ a → a ≤ 44 → ∀ j, tm_v m2 a j = tm_v μ a j := fun a ha a0 a1 j => (sc.2.2 a j (by omega)).trans (f1.v (nas_f n3 h.f j ha (ndy (by omega))))
  have hA := h.2.2.2.2.2.2.2.2
  refine ⟨⟨by rw [w 52 (by decide)]; exact hA.1.1, by rw [w 52 (by decide), c 28 (by decide)]; exact hA.1.2.1, fun x k x0 x1 k0 k1 => ?_⟩, by rw [w 53 (by decide)]; exact hA.2.1, by rw [w 53 (by decide), c 29 (by decide)]; exact hA.2.2.1, fun k k0 k1 => ?_⟩
  · rw [w 52 (by decide)] at k1
    rw [v 90 (by decide) (by decide) (by decide), ← hA.1.2.2 x k x0 x1 k0 k1]
    exact d (42 + x) (by rcases (show x = 0 ∨ x = 1 by omega) with rfl | rfl <;> decide) (by omega) (by omega) k
  · rw [w 53 (by decide)] at k1
    rw [v 91 (by decide) (by decide) (by decide), ← hA.2.2.2 k k0 k1]
    exact d 44 (by decide) (by decide) (by decide) k
end GRP
section OPS2
variable {μ : tm_M} {w v a b n t k o cap p q r s l x y z : Int}
theorem op_marks (h : IV μ) (hx : 0 ≤ x ∧ x ≤ 1) : OPC mX0_marks mX6_marks 0 [(0, x)] μ 0 0 := by
  obtain ⟨hs, hJ, hV, ⟨hY, hX⟩, ⟨hC, hyC⟩, hP, hft, hmk, hA⟩ := id h.1
  refine OPC_I (pX0_marks (by decide) hs hx) (fun r m1 f1 k1 => ?_)
  have g1 := fr_sf (f := c_FA μ) f1
  refine OP6_I (pX6_marks f1.S hx) (fun r2 m2 f2 k2 => ⟨k2.1.trans k1.1.symm, ?_⟩)
  have c1 : ck [] [(1, 10), (1, 13)] = true := by decide +kernel
  have c2 : mk [] [(65, 0), (65, 1), (65, 30)] = true := by decide +kernel
  have sc := sC_fr f2 c2
  have s1 := sM_c h.1 g1 c1
  refine ⟨⟨f2.S, JU_2 h.1 g1 f2 c1 c2 (by decide +kernel) (by decide +kernel), JV_2 h.1 g1 f2 c1 c2 (by decide +kernel) (by decide +kernel), JY_2 h.1 g1 f2 c1 c2 (by decide +kernel) (by decide +kernel), JC_2 h.1 g1 f2 c1 c2 (by decide +kernel) (by decide +kernel) (by decide +kernel) (by decide +kernel), JP_2 h.1 g1 f2 c1 c2 (by decide +kernel) (by decide +kernel) (by decide +kernel) (by decide +kernel), FT_2 h.1 g1 f2 c1 c2 (by decide +kernel) (by decide +kernel), ?_, JA_2 h.1 g1 f2 c1 c2 (by decide +kernel) (by decide +kernel) (by decide +kernel) (by decide +kernel)⟩, ?_, ?_⟩
  · rw [sc.2.2 1 13 (by omega), k1.2, k2.2, tm_vw, if_neg (by decide), tm_vw, if_pos ⟨rfl, rfl⟩, tm_vw, if_pos ⟨rfl, rfl⟩]
  · rw [sc.2.2 1 10 (by omega), k1.2, k2.2, tm_vw, if_pos ⟨rfl, rfl⟩, tm_vw, if_neg (by decide), u_st0]
  · unfold JF
    rw [sc.2.2 1 14 (by omega), sc.2.2 1 15 (by omega), f1.v (tWs_noF (a := 1) (j := 14) rfl), f1.v (tWs_noF (a := 1) (j := 15) rfl), f2.v (tWs_noF (a := 65) (j := 2) rfl), f2.v (tWs_noF (a := 65) (j := 3) rfl), s1 65 (by decide) (by decide)]
    exact h.2.2
end OPS2
