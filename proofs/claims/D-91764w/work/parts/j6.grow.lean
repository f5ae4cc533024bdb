/-! OPERATIONS that may make cells: ties -/
section GROW
variable {μ μ0 ν ν' m1 m2 : tm_M}
theorem IT_E (hw : tw_f μ0) (hs : tS μ0) (h : IT μ0 ν) (hE : tE μ0 μ) : IT μ ν := by
  obtain ⟨h1, h2, h3, h4, h5, h6, h7, h8⟩ := h
  have hz := hs.2.2
  have v : ∀ a j, a ≤ 103 → tm_v μ a j = tm_v μ0 a j := fun a j ha => (hE.2 a (by omega)).2.2 j
  refine ⟨JU_E hw hs h1 hE, JV_E hw hs h2 hE, ⟨JY_E hw hs h3.1 hE, fun w t w0 w1 t0 t4 hn => by rw [c_R_E hw hs hE, c_Y_E hs hE t4]; exact h3.2 w t w0 w1 t0 t4 hn⟩, JC_E hs h4 hE, JP_E hs h5 hE, by rw [v 1 11 (by omega), v 1 12 (by omega)]; exact h6, by rw [v 1 13 (by omega)]; exact h7, ?_⟩
  refine ⟨⟨h8.1.1, by rw [v 1 28 (by omega)]; exact h8.1.2.1, fun w k w0 w1 k0 k1 => by rw [v (42 + w) k (by omega)]; exact h8.1.2.2 w k w0 w1 k0 k1⟩, h8.2.1, by rw [v 1 29 (by omega)]; exact h8.2.2.1, fun k k0 k1 => by rw [v 44 k (by omega)]; exact h8.2.2.2 k k0 k1⟩
/-- the status is written -/
theorem IT_st (h : IT μ0 ν) (f : tFr (tWs [] [(1, 10)]) μ0 μ) : IT μ ν := by
  obtain ⟨h1, h2, h3, h4, h5, h6, h7, h8⟩ := h
  have T : y_TC (c_FA μ0) (tWs [] [(1, 10)]) := tWs_TC ⟨rfl, rfl⟩
  have e60 : tm_v μ 60 = tm_v μ0 60 := funext fun j => f.v (tWs_no j rfl)
  refine ⟨JU_F h1 f T, JV_F h1 h2 f T (tWs_VC rfl), ⟨JY_F h1 h3.1 f T (tWs_YC rfl), JX_F h1 h2 h3.2 f T (tWs_VC rfl) (tWs_YC rfl)⟩, ?_, ?_, by rw [f.v (tWs_noF (a := 1) (j := 11) rfl), f.v (tWs_noF (a := 1) (j := 12) rfl)]; exact h6, by rw [f.v (tWs_noF (a := 1) (j := 13) rfl)]; exact h7, ?_⟩
  · unfold JC pt3 at h4 ⊢
    rw [f.v (tWs_noF (a := 1) (j := 47) rfl), e60]
    exact h4
  · unfold JP at h5 ⊢
    have e5 : tm_v μ 5 = tm_v μ0 5 := funext fun j => f.v (tWs_no j rfl)
    rw [f.v (tWs_noF (a := 4) (j := 1) rfl), e5]
    exact h5
  · refine ⟨⟨h8.1.1, by rw [f.v (tWs_noF (a := 1) (j := 28) rfl)]; exact h8.1.2.1, fun w k w0 w1 k0 k1 => ?_⟩, h8.2.1, by rw [f.v (tWs_noF (a := 1) (j := 29) rfl)]; exact h8.2.2.1, fun k k0 k1 => by rw [f.v (tWs_no (a := 44) k rfl)]; exact h8.2.2.2 k k0 k1⟩
    rw [← h8.1.2.2 w k w0 w1 k0 k1]
    rcases (show w = 0 ∨ w = 1 by omega) with rfl | rfl
    · exact f.v (tWs_no (a := 42) k rfl)
    · exact f.v (tWs_no (a := 43) k rfl)
def mAr : List Int := [66, 67, 68, 69, 70, 72, 74, 76, 77, 80, 82, 83, 84, 90, 91, 93]
def mFl : List (Int × Int) := [(65, 8), (65, 10), (65, 11), (65, 20), (65, 21), (65, 24), (65, 25), (65, 28), (65, 30), (65, 43), (65, 52), (65, 53), (65, 54), (65, 59)]
theorem IT_nv (h : IT μ ν) (ha : ∀ a ∈ mAr, tm_v ν' a = tm_v ν a) (hf : ∀ j, (65, j) ∈ mFl → tm_v ν' 65 j = tm_v ν 65 j) : IT μ ν' := by
  obtain ⟨h1, h2, h3, h4, h5, h6, h7, h8⟩ := h
  refine ⟨JU_nu h1 (ha _ (by decide)) (ha _ (by decide)) (ha _ (by decide)) (ha _ (by decide)) (ha _ (by decide)) (ha _ (by decide)) (hf _ (by decide)) (hf _ (by decide)) (hf _ (by decide)) (hf _ (by decide)) (hf _ (by decide)),
    JV_nu h2 (ha _ (by decide)) (ha _ (by decide)) (ha _ (by decide)) (hf _ (by decide)), ⟨JY_nu h3.1 (ha _ (by decide)) (ha _ (by decide)) (ha _ (by decide)), JX_nu h3.2 (ha _ (by decide)) (hf _ (by decide))⟩, JC_nu h4 (ha _ (by decide)) (hf _ (by decide)) (hf _ (by decide)), ?_, ?_, ?_, ?_⟩
  · unfold JP at h5 ⊢
    rw [hf 8 (by decide), ha 69 (by decide)]
    exact h5
  · rw [hf 10 (by decide), hf 11 (by decide)]; exact h6
  · rw [hf 30 (by decide)]; exact h7
  · unfold JA at h8 ⊢
    rw [hf 52 (by decide), hf 53 (by decide), ha 90 (by decide), ha 91 (by decide)]
    exact h8
/-- the component has been tied anew; the model then wrote its status alone -/
theorem end3 {x : Int} (h : IV μ) (hT : IT m1 μ) (hm : sM μ m1) (f2 : tFr (tWs [] [(65, 0), (65, 1)]) m1 m2) (e14 : tm_v m1 1 14 = tm_v μ 1 14) (e15 : tm_v m1 1 15 = tm_v μ 1 15) (e1 : tm_v m1 1 10 = x) (e2 : tm_v m2 65 0 = x) : IV m2 := by
  have sc := sC_fr f2 (by decide)
  have ha : ∀ a, 66 ≤ a → a ≤ 103 → tm_v m2 a = tm_v μ a := fun a a0 a1 => (funext fun j => f2.v (fun q => by
    rcases q with q | q
    · cases q
    · simp only [List.mem_cons, List.not_mem_nil, or_false, Prod.mk.injEq] at q; omega)).trans (hm a (by omega) a1)
  have hf : ∀ j, j ≠ 0 → j ≠ 1 → tm_v m2 65 j = tm_v μ 65 j := fun j j0 j1 => (f2.v (fun q => by
    rcases q with q | q
    · cases q
    · simp only [List.mem_cons, List.not_mem_nil, or_false, Prod.mk.injEq] at q; omega)).trans (congrFun (hm 65 (by decide) (by decide)) j)
  have hI : IT m2 m2 := by
    refine IT_nv (IT_1 hT sc) (fun a haa => ?_) (fun j hj => ?_)
    · refine ha a ?_ ?_ <;> (unfold mAr at haa; simp only [List.mem_cons, List.not_mem_nil, or_false] at haa; omega)
    · refine hf j ?_ ?_ <;> (unfold mFl at hj; simp only [List.mem_cons, List.not_mem_nil, or_false, Prod.mk.injEq] at hj; omega)
  refine ⟨IT_IS hI f2.S (yC_nu h.1.2.2.2.2.1.2 (ha 93 (by decide) (by decide)) (hf 54 (by decide) (by decide)) (hf 59 (by decide) (by decide))), ?_, ?_⟩
  · rw [sc.2.2 1 10 (by omega), e1, e2]
  · unfold JF
    rw [sc.2.2 1 14 (by omega), sc.2.2 1 15 (by omega), e14, e15, hf 2 (by decide) (by decide), hf 3 (by decide) (by decide)]
    exact h.2.2
theorem OPC_wf {M0 M6 : tM} {τ mc ms : Nat} {as : tSt} (h : tw_f μ → OPC M0 M6 τ as μ mc ms) : OPC M0 M6 τ as μ mc ms := tC_wf h
theorem tE_sM (hs : tS μ0) (hE : tE μ0 μ) : sM μ0 μ := fun a a0 a1 => funext fun j => (hE.2 a (by have := hs.2.2; omega)).2.2 j
theorem sM_st (hm : sM μ0 μ) {m : tm_M} (f : tFr (tWs [] [(1, 10)]) μ m) : sM μ0 m := fun a a0 a1 => (funext fun j => f.v (fun q => by
    rcases q with q | q
    · cases q
    · simp only [List.mem_cons, List.not_mem_nil, or_false, Prod.mk.injEq] at q; omega)).trans (hm a a0 a1)
end GROW
section OPS4
variable {μ : tm_M} {t k v s n : Int}
theorem pl_M {m : tm_M} (hm : sM μ m) : y_placed m t k = y_placed μ t k := by
  unfold y_placed y_trayed
  rw [hm 67 (by decide) (by decide)]
theorem op_read (h : IV μ) : OPC mX0_read mX6_read 1 [(0, t), (0, k)] μ 3 800 := by
  refine OPC_wf (fun hw => ?_)
  obtain ⟨hs, hJ, hV, ⟨hY, hX⟩, ⟨hC, hyC⟩, hP, hft, hmk, hA⟩ := id h.1
  refine (pX0_read (d := 30) (by decide) hs hJ hY).mono (fun o m1 q => ?_)
  obtain ⟨ma, rfl, e1, f1, e10⟩ := q
  have hE : tE μ ma := by
    rcases e1 with rfl | rfl | rfl
    · exact tE.rf _
    · exact tE.a _ _ _
    · exact tE.a _ _ _
  have hz := hs.2.2
  have hm := sM_st (tE_sM hs hE) f1
  have hT := IT_st (IT_E hw hs h.1.it hE) f1
  refine ⟨_, rfl, f1.S, OP6_L (pX6_read (by decide) f1.S ((JY_nu hY (hm _ (by decide) (by decide)) (hm _ (by decide) (by decide)) (hm _ (by decide) (by decide))).1)) (fun r2 m2 f2 k2 => ?_)⟩
  obtain ⟨b1, b2⟩ := k2
  rw [pl_M hm] at b1 b2
  refine ⟨by rw [b2, hm 68 (by decide) (by decide)], end3 h hT hm f2 ?_ ?_ e10 b1⟩
  · rw [f1.v (tWs_noF (a := 1) (j := 14) rfl)]; exact (hE.2 1 (by omega)).2.2 14
  · rw [f1.v (tWs_noF (a := 1) (j := 15) rfl)]; exact (hE.2 1 (by omega)).2.2 15
end OPS4
