/-! ties when the model alone has worked -/
section FIRST
variable {μ μ0 ν : tm_M}
/-- the component's cells are the same -/
def sC (μ0 μ : tm_M) : Prop := tm_k μ = tm_k μ0 ∧ tm_n μ = tm_n μ0 ∧ ∀ a j, a < 65 ∨ 103 < a → tm_v μ a j = tm_v μ0 a j
theorem sC.o {x : Int} {k : Nat} (h : sC μ0 μ) (ho : ob μ0 x k) : ob μ x k := ⟨⟨ho.1.1, by rw [h.1]; exact ho.1.2⟩, ho.2⟩
theorem sC.v {x : Int} {k : Nat} (h : sC μ0 μ) (ho : ob μ0 x k) (j : Int) : tm_v μ x j = tm_v μ0 x j := h.2.2 x j (by have := ho.2; unfold dyA at this; omega)
theorem JU_1 (hJ : JU μ0 ν) (hs : sC μ0 μ) : JU μ ν := by
  obtain ⟨a1, a2, a3, a4, a5, a6⟩ := hJ
  have hJ : JU μ0 ν := ⟨a1, a2, a3, a4, a5, a6⟩
  have eT : c_T μ = c_T μ0 := hs.2.2 1 8 (by omega)
  have vT : ∀ j, tm_v μ (c_T μ0) j = tm_v μ0 (c_T μ0) j := fun j => hs.v hJ.T j
  have ePA : c_PA μ = c_PA μ0 := by unfold c_PA; rw [eT, vT]
  have eLA : c_LA μ = c_LA μ0 := by unfold c_LA; rw [eT, vT]
  have eFA : c_FA μ = c_FA μ0 := by unfold c_FA; rw [eT, vT]
  have eP : ∀ k, c_P μ k = c_P μ0 k := fun k => by unfold c_P; rw [ePA, hs.v hJ.PA.1]
  have eL : ∀ k, c_L μ k = c_L μ0 k := fun k => by unfold c_L; rw [eLA, hs.v hJ.LA.1]
  refine ⟨a1, ⟨?_, ⟨?_, ?_⟩, ⟨?_, ?_⟩, ⟨?_, ?_⟩⟩, ⟨?_, ?_, ?_, ?_, ?_⟩, fun k k0 k1 => ?_, fun l l0 l1 => ?_, fun l l' x1 x2 x3 x4 e => ?_⟩
  · rw [eT]; exact hs.o a2.1
  · rw [ePA]; exact hs.o a2.2.1.1
  · rw [ePA, hs.2.1]; exact a2.2.1.2
  · rw [eLA]; exact hs.o a2.2.2.1.1
  · rw [eLA, hs.2.1]; exact a2.2.2.1.2
  · rw [eFA]; exact hs.o a2.2.2.2.1
  · rw [eFA, hs.2.1]; exact a2.2.2.2.2
  · rw [eT, vT]; exact a3.1
  · rw [eT, vT]; exact a3.2.1
  · rw [eT, vT]; exact a3.2.2.1
  · rw [eT, vT]; exact a3.2.2.2.1
  · rw [eT, vT]; exact a3.2.2.2.2
  · obtain ⟨b1, b2, b3, b4, b5⟩ := a4 k k0 k1
    have vP : ∀ j, tm_v μ (c_P μ0 k) j = tm_v μ0 (c_P μ0 k) j := fun j => hs.v b1 j
    have eA : c_A μ k = c_A μ0 k := by unfold c_A; rw [eP, vP]
    rw [eA, eP, vP, vP, vP, vP, vP, hs.2.1]
    refine ⟨hs.o b1, b2, b3, ⟨hs.o b4.1, b4.2⟩, fun i i0 i1 => ?_⟩
    rw [hs.v b4.1, eL]
    exact b5 i i0 i1
  · obtain ⟨b1, b2, b3, b4⟩ := a5 l l0 l1
    have vL : ∀ j, tm_v μ (c_L μ0 l) j = tm_v μ0 (c_L μ0 l) j := fun j => hs.v b1 j
    rw [eL, vL, vL, vL, eP, eP]
    exact ⟨hs.o b1, b2, b3, b4⟩
  · rw [eL, eL] at e
    exact a6 l l' x1 x2 x3 x4 e
theorem FA_1 {ν' : tm_M} (hJ : JU μ0 ν') (hs : sC μ0 μ) : c_FA μ = c_FA μ0 := by
  have eT : c_T μ = c_T μ0 := hs.2.2 1 8 (by omega)
  unfold c_FA; rw [eT, hs.v hJ.T]
theorem JV_1 {ν' : tm_M} (hJ : JU μ0 ν') (hV : JV μ0 ν) (hs : sC μ0 μ) : JV μ ν := by
  obtain ⟨v1, v2, v3⟩ := hV
  have eF := FA_1 hJ hs
  refine ⟨v1, by rw [hs.2.2 1 9 (by omega)]; exact v2, fun w w0 w1 => ?_⟩
  obtain ⟨⟨b1, b2⟩, b3, b4⟩ := v3 w w0 w1
  have eW : c_W μ w = c_W μ0 w := hs.2.2 6 w (by omega)
  have obW : ∃ k : Nat, ob μ0 (c_W μ0 w) k := by
    by_cases c : 0 < tm_v ν 82 w
    · by_cases g : tm_v ν 84 w = 0
      · exact ⟨9, (b3 c).1 g⟩
      · exact ⟨10, (b3 c).2.1 g⟩
    · have := (v1.2 w w0 w1).1
      exact ⟨11, (b4 (by omega)).1⟩
  obtain ⟨k, ho⟩ := obW
  have eR : c_R μ w = c_R μ0 w := by unfold c_R; rw [eW, hs.v ho]
  rw [eR, eF, eW, hs.2.1]
  refine ⟨⟨hs.o b1, b2⟩, fun c => ⟨fun g => hs.o ((b3 c).1 g), fun g => hs.o ((b3 c).2.1 g), (b3 c).2.2.1, fun j j0 j1 => ?_⟩, fun c => ⟨hs.o (b4 c).1, (b4 c).2.1, fun j j0 j1 => ?_⟩⟩
  · rw [hs.v b1]; exact (b3 c).2.2.2 j j0 j1
  · rw [hs.v b1]; exact (b4 c).2.2 j j0 j1
theorem JY_1 {ν' : tm_M} (hJ : JU μ0 ν') (h : JY μ0 ν) (hs : sC μ0 μ) : JY μ ν := by
  obtain ⟨h1, h2, h3⟩ := h
  have eF := FA_1 hJ hs
  have eY : ∀ t, 0 ≤ t → t < 4 → c_Y μ t = c_Y μ0 t := fun t t0 t4 => hs.2.2 _ _ (by omega)
  refine ⟨h1, fun t t0 t4 => ?_, fun t u t0 t4 u0 u4 hn e => h3 t u t0 t4 u0 u4 hn (by rw [← eY t t0 t4, ← eY u u0 u4]; exact e)⟩
  obtain ⟨a1, a2⟩ := h2 t t0 t4
  rw [eY t t0 t4, hs.2.2 (61 + t) 1 (by omega), eF, hs.2.1]
  refine ⟨a1, fun hn => ?_⟩
  obtain ⟨b1, b2, b3, b4, b5⟩ := a2 hn
  refine ⟨b1, hs.o b2, b3, b4, fun k k0 k1 => ?_⟩
  rw [hs.v b2]
  exact b5 k k0 k1
theorem JX_1 (hV : JV μ0 ν) (h : JX μ0 ν) (hs : sC μ0 μ) : JX μ ν := JX_of h hV (fun w => hs.2.2 6 w (by omega)) (fun x k ho _ _ => hs.v ho 0) (fun t t0 t4 => hs.2.2 _ _ (by omega))
theorem JC_1 (h : JC μ0 ν) (hs : sC μ0 μ) : JC μ ν := by
  unfold JC pt3 at h ⊢
  rw [hs.2.2 1 47 (by omega), hs.2.2 60 0 (by omega), hs.2.2 60 1 (by omega), hs.2.2 60 2 (by omega)]
  refine ⟨h.1, h.2.1, fun q => ⟨(h.2.2 q).1, (h.2.2 q).2.1, (h.2.2 q).2.2.1, fun k k0 k1 => ?_⟩⟩
  rw [hs.2.2 60 k (by omega)]
  exact (h.2.2 q).2.2.2 k k0 k1
theorem JP_1 (h : JP μ0 ν) (hs : sC μ0 μ) : JP μ ν := by
  refine ⟨h.1, by rw [hs.2.2 4 1 (by omega)]; exact h.2.1, fun j j0 j1 => by rw [hs.2.2 5 j (by omega)]; exact h.2.2 j j0 j1⟩
theorem JA_1 (h : JA μ0 ν) (hs : sC μ0 μ) : JA μ ν := by
  refine ⟨⟨h.1.1, by rw [hs.2.2 1 28 (by omega)]; exact h.1.2.1, fun w k w0 w1 k0 k1 => by rw [hs.2.2 (42 + w) k (by omega)]; exact h.1.2.2 w k w0 w1 k0 k1⟩, h.2.1, by rw [hs.2.2 1 29 (by omega)]; exact h.2.2.1, fun k k0 k1 => by rw [hs.2.2 44 k (by omega)]; exact h.2.2.2 k k0 k1⟩
/-- all ties, of the component in μ to the model in ν -/
def IT (μ ν : tm_M) : Prop := JU μ ν ∧ JV μ ν ∧ (JY μ ν ∧ JX μ ν) ∧ JC μ ν ∧ JP μ ν ∧ (tm_v μ 1 11 = tm_v ν 65 10 ∧ tm_v μ 1 12 = tm_v ν 65 11) ∧ tm_v μ 1 13 = tm_v ν 65 30 ∧ JA μ ν
theorem IT_1 (h : IT μ0 ν) (hs : sC μ0 μ) : IT μ ν := by
  obtain ⟨h1, h2, h3, h4, h5, h6, h7, h8⟩ := h
  exact ⟨JU_1 h1 hs, JV_1 h1 h2 hs, ⟨JY_1 h1 h3.1 hs, JX_1 h2 h3.2 hs⟩, JC_1 h4 hs, JP_1 h5 hs, by rw [hs.2.2 1 11 (by omega), hs.2.2 1 12 (by omega)]; exact h6, by rw [hs.2.2 1 13 (by omega)]; exact h7, JA_1 h8 hs⟩
theorem IT_IS (h : IT μ μ) (hs : tS μ) (hc : y_C μ) : IS μ := by
  obtain ⟨h1, h2, h3, h4, h5, h6, h7, h8⟩ := h
  exact ⟨hs, h1, h2, h3, ⟨h4, hc⟩, h5, h6, h7, h8⟩
theorem IS.it (h : IS μ) : IT μ μ := by
  obtain ⟨hs, h1, h2, h3, h4, h5, h6, h7, h8⟩ := h
  exact ⟨h1, h2, h3, h4.1, h5, h6, h7, h8⟩
theorem sC_fr {A : List Int} {B : List (Int × Int)} (f : tFr (tWs A B) μ0 μ) (h : (A.all (fun a => decide (65 ≤ a ∧ a ≤ 103)) && B.all (fun q => decide (65 ≤ q.1 ∧ q.1 ≤ 103))) = true) : sC μ0 μ := by
  refine ⟨f.k, f.n, fun a j ha => f.v (fun q => ?_)⟩
  simp only [Bool.and_eq_true, List.all_eq_true, decide_eq_true_eq] at h
  rcases q with q | q
  · have := h.1 a q; omega
  · have := h.2 _ q; omega
/-- the model's cells are the same -/
def sM (μ0 μ : tm_M) : Prop := ∀ a, 65 ≤ a → a ≤ 103 → tm_v μ a = tm_v μ0 a
theorem IT_nu {ν' : tm_M} (h : IT μ ν) (hm : sM ν ν') : IT μ ν' := by
  obtain ⟨h1, h2, h3, h4, h5, h6, h7, h8⟩ := h
  have e : ∀ a j, 65 ≤ a → a ≤ 103 → tm_v ν' a j = tm_v ν a j := fun a j a0 a1 => congrFun (hm a a0 a1) j
  refine ⟨JU_nu h1 (hm _ (by decide) (by decide)) (hm _ (by decide) (by decide)) (hm _ (by decide) (by decide)) (hm _ (by decide) (by decide)) (hm _ (by decide) (by decide)) (hm _ (by decide) (by decide)) (e _ _ (by decide) (by decide)) (e _ _ (by decide) (by decide)) (e _ _ (by decide) (by decide)) (e _ _ (by decide) (by decide)) (e _ _ (by decide) (by decide)),
    JV_nu h2 (hm _ (by decide) (by decide)) (hm _ (by decide) (by decide)) (hm _ (by decide) (by decide)) (e _ _ (by decide) (by decide)), ⟨JY_nu h3.1 (hm _ (by decide) (by decide)) (hm _ (by decide) (by decide)) (hm _ (by decide) (by decide)), JX_nu h3.2 (hm _ (by decide) (by decide)) (e _ _ (by decide) (by decide))⟩, JC_nu h4 (hm _ (by decide) (by decide)) (e _ _ (by decide) (by decide)) (e _ _ (by decide) (by decide)), ?_, ?_, ?_, ?_⟩
  · unfold JP at h5 ⊢
    rw [e 65 8 (by decide) (by decide), hm 69 (by decide) (by decide)]
    exact h5
  · rw [e 65 10 (by decide) (by decide), e 65 11 (by decide) (by decide)]; exact h6
  · rw [e 65 30 (by decide) (by decide)]; exact h7
  · unfold JA at h8 ⊢
    rw [e 65 52 (by decide) (by decide), e 65 53 (by decide) (by decide), hm 90 (by decide) (by decide), hm 91 (by decide) (by decide)]
    exact h8
end FIRST
