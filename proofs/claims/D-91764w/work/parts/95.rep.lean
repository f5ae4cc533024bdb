/-! THE COMPONENT: its cells that are made later; how its town holds the model's -/
def dyA (a : Int) : Prop := 104 ≤ a ∨ (11 ≤ a ∧ a ≤ 14)
/-- x is an object (an array) of kind k, made later -/
def ob (μ : tm_M) (x : Int) (k : Nat) : Prop := (1 ≤ x ∧ tm_k μ x = k) ∧ dyA x
theorem dyA_fr {a : Int} (h : dyA a) : tfr a := by unfold dyA at h; unfold tfr; omega
theorem tWs_ob {A : List Int} {B : List (Int × Int)} {μ : tm_M} {x j : Int} {k : Nat} (h : (A.all (fun q => decide (q < 104 ∧ ¬ (11 ≤ q ∧ q ≤ 14))) && B.all (fun q => decide (q.1 < 104 ∧ ¬ (11 ≤ q.1 ∧ q.1 ≤ 14)))) = true) (c : ob μ x k) : ¬ tWs A B x j := by
  rw [Bool.and_eq_true] at h
  have hd := c.2
  unfold dyA at hd
  intro hw
  rcases hw with q | q
  · have := of_decide_eq_true (List.all_eq_true.mp h.1 x q); omega
  · have := of_decide_eq_true (List.all_eq_true.mp h.2 _ q); dsimp only at this; omega
theorem tWs_dy {A : List Int} {B : List (Int × Int)} {x j : Int} (h : (A.all (fun q => decide (q < 104 ∧ ¬ (11 ≤ q ∧ q ≤ 14))) && B.all (fun q => decide (q.1 < 104 ∧ ¬ (11 ≤ q.1 ∧ q.1 ≤ 14)))) = true) (hd : dyA x) : ¬ tWs A B x j := by
  rw [Bool.and_eq_true] at h
  unfold dyA at hd
  intro hw
  rcases hw with q | q
  · have := of_decide_eq_true (List.all_eq_true.mp h.1 x q); omega
  · have := of_decide_eq_true (List.all_eq_true.mp h.2 _ q); dsimp only at this; omega
theorem tWs_nr {A : List Int} {B : List (Int × Int)} {a j lo : Int} {n : Nat} (h : (A.all (fun q => decide (q < lo ∨ lo + n ≤ q)) && B.all (fun q => decide (q.1 < lo ∨ lo + n ≤ q.1))) = true) (ha : lo ≤ a ∧ a < lo + n) : ¬ tWs A B a j := by
  rw [Bool.and_eq_true] at h
  intro hw
  rcases hw with q | q
  · have := of_decide_eq_true (List.all_eq_true.mp h.1 a q); omega
  · have := of_decide_eq_true (List.all_eq_true.mp h.2 _ q); dsimp only at this; omega
/-- cells that are written, and the array f of distances -/
def tWf (A : List Int) (B : List (Int × Int)) (f a j : Int) : Prop := tWs A B a j ∨ a = f
theorem tWf_no {A : List Int} {B : List (Int × Int)} {f a j : Int} {P : Prop} (hf : dyA f ∧ P) (ha : a < 104 ∧ ¬ (11 ≤ a ∧ a ≤ 14)) (h : ¬ tWs A B a j) : ¬ tWf A B f a j := by
  have := hf.1
  unfold dyA at this
  rintro (q | q)
  · exact h q
  · omega
theorem tWf_ob {A : List Int} {B : List (Int × Int)} {f : Int} {μ : tm_M} {x j : Int} {k : Nat} (h : (A.all (fun q => decide (q < 104 ∧ ¬ (11 ≤ q ∧ q ≤ 14))) && B.all (fun q => decide (q.1 < 104 ∧ ¬ (11 ≤ q.1 ∧ q.1 ≤ 14)))) = true) (hf : dyA f ∧ tm_k μ f = 20) (c : ob μ x k) (hk : k ≠ 20) : ¬ tWf A B f x j := by
  rintro (q | q)
  · exact tWs_ob h c q
  · rw [q] at c
    have := c.1.2
    omega
theorem tWf_sub {A A' : List Int} {B B' : List (Int × Int)} {f : Int} (h : (A'.all (fun a => decide (a ∈ A)) && B'.all (fun q => decide (q.1 ∈ A) || decide (q ∈ B))) = true) : ∀ a j, tWf A' B' f a j → tWf A B f a j := by
  rintro a j (q | q)
  · exact Or.inl (tWs_sub h a j q)
  · exact Or.inr q
theorem tWf_subL {A A' : List Int} {B B' : List (Int × Int)} {f : Int} (h : (A'.all (fun a => decide (a ∈ A)) && B'.all (fun q => decide (q.1 ∈ A) || decide (q ∈ B))) = true) : ∀ a j, tWs A' B' a j → tWf A B f a j := fun a j q => Or.inl (tWs_sub h a j q)
/-! the town -/
def c_T (μ : tm_M) : Int := tm_v μ 1 8
def c_PA (μ : tm_M) : Int := tm_v μ (c_T μ) 0
def c_LA (μ : tm_M) : Int := tm_v μ (c_T μ) 1
def c_FA (μ : tm_M) : Int := tm_v μ (c_T μ) 7
def c_P (μ : tm_M) (k : Int) : Int := tm_v μ (c_PA μ) k
def c_L (μ : tm_M) (l : Int) : Int := tm_v μ (c_LA μ) l
/-- the array of a place's lanes -/
def c_A (μ : tm_M) (k : Int) : Int := tm_v μ (c_P μ k) 6
/-- the component's town is the model's -/
def JU (μ ν : tm_M) : Prop := y_W ν ∧ (ob μ (c_T μ) 4 ∧ (ob μ (c_PA μ) 26 ∧ tm_n μ (c_PA μ) = 8) ∧ (ob μ (c_LA μ) 27 ∧ tm_n μ (c_LA μ) = 12) ∧ (ob μ (c_FA μ) 20 ∧ tm_n μ (c_FA μ) = 8)) ∧
  (tm_v μ (c_T μ) 2 = tm_v ν 65 20 ∧ tm_v μ (c_T μ) 3 = tm_v ν 65 21 ∧ tm_v μ (c_T μ) 4 = tm_v ν 65 24 ∧ tm_v μ (c_T μ) 5 = tm_v ν 65 25 ∧ tm_v μ (c_T μ) 6 = tm_v ν 65 28) ∧
  (∀ k, 0 ≤ k → k < tm_v ν 65 20 → ob μ (c_P μ k) 7 ∧ tm_v μ (c_P μ k) 1 = k ∧ (tm_v μ (c_P μ k) 2 = tm_v ν 70 (3 * k) ∧ tm_v μ (c_P μ k) 3 = tm_v ν 70 (3 * k + 1) ∧ tm_v μ (c_P μ k) 4 = tm_v ν 70 (3 * k + 2) ∧ tm_v μ (c_P μ k) 5 = tm_v ν 72 k) ∧ (ob μ (c_A μ k) 27 ∧ tm_n μ (c_A μ k) = 4) ∧ ∀ i, 0 ≤ i → i < tm_v ν 72 k → tm_v μ (c_A μ k) i = c_L μ (tm_v ν 74 (4 * k + i))) ∧
  (∀ l, 0 ≤ l → l < tm_v ν 65 21 → ob μ (c_L μ l) 8 ∧ tm_v μ (c_L μ l) 0 = c_P μ (tm_v ν 76 l) ∧ tm_v μ (c_L μ l) 1 = c_P μ (tm_v ν 77 l) ∧ tm_v μ (c_L μ l) 2 = tm_v ν 80 l) ∧
  (∀ l l', 0 ≤ l → l < tm_v ν 65 21 → 0 ≤ l' → l' < tm_v ν 65 21 → c_L μ l = c_L μ l' → l = l')
def JT (μ : tm_M) : Prop := JU μ μ
/-- W leaves the town, but its distances -/
def y_TC (f : Int) (W : Int → Int → Prop) : Prop := y_T W ∧ ¬ W 1 8 ∧ ∀ a j, dyA a → a ≠ f → ¬ W a j
theorem tWs_TC {A : List Int} {B : List (Int × Int)} {f : Int} (h : (([70, 72, 74, 76, 77, 80, 82, 83, 84].all (fun a => (A.all (fun q => !decide (q = a)) && B.all (fun q => !decide (q.1 = a)))) && [20, 21, 24, 25, 28, 30, 43].all (fun j => A.all (fun q => !decide (q = 65)) && B.all (fun q => !decide (q = (65, j))))) && (A.all (fun q => !decide (q = 1)) && B.all (fun q => !decide (q = (1, 8))))) = true ∧ (A.all (fun q => decide (q < 104 ∧ ¬ (11 ≤ q ∧ q ≤ 14))) && B.all (fun q => decide (q.1 < 104 ∧ ¬ (11 ≤ q.1 ∧ q.1 ≤ 14)))) = true) : y_TC f (tWs A B) := by
  obtain ⟨h1, h2⟩ := h
  rw [Bool.and_eq_true] at h1
  exact ⟨tWs_T h1.1, tWs_noF h1.2, fun a j ha _ => tWs_dy h2 ha⟩
theorem tWf_TC {A : List Int} {B : List (Int × Int)} {f : Int} (hf : dyA f) (h : (([70, 72, 74, 76, 77, 80, 82, 83, 84].all (fun a => (A.all (fun q => !decide (q = a)) && B.all (fun q => !decide (q.1 = a)))) && [20, 21, 24, 25, 28, 30, 43].all (fun j => A.all (fun q => !decide (q = 65)) && B.all (fun q => !decide (q = (65, j))))) && (A.all (fun q => !decide (q = 1)) && B.all (fun q => !decide (q = (1, 8))))) = true ∧ (A.all (fun q => decide (q < 104 ∧ ¬ (11 ≤ q ∧ q ≤ 14))) && B.all (fun q => decide (q.1 < 104 ∧ ¬ (11 ≤ q.1 ∧ q.1 ≤ 14)))) = true) : y_TC f (tWf A B f) := by
  have k := tWs_TC (f := f) h
  unfold dyA at hf
  have no : ∀ a j, ¬ tWs A B a j → a ≠ f → ¬ tWf A B f a j := fun a j h1 h2 h3 => by rcases h3 with q | q; exact h1 q; exact h2 q
  obtain ⟨⟨k1, k2, k3, k4, k5, k6, k7, k8⟩, k9, k10⟩ := k
  refine ⟨⟨fun j => ?_, no _ _ k2 (by omega), no _ _ k3 (by omega), no _ _ k4 (by omega), no _ _ k5 (by omega), no _ _ k6 (by omega), no _ _ k7 (by omega), no _ _ k8 (by omega)⟩, no _ _ k9 (by omega), fun a j ha hne => no _ _ (k10 a j ha hne) hne⟩
  obtain ⟨q1, q2, q3, q4, q5, q6, q7, q8, q9⟩ := k1 j
  exact ⟨no _ _ q1 (by omega), no _ _ q2 (by omega), no _ _ q3 (by omega), no _ _ q4 (by omega), no _ _ q5 (by omega), no _ _ q6 (by omega), no _ _ q7 (by omega), no _ _ q8 (by omega), no _ _ q9 (by omega)⟩
section REP
variable {W : Int → Int → Prop} {μ0 μ ν : tm_M} {d : Nat}
theorem ob_F {x : Int} {k : Nat} (hs : tFr W μ0 μ) (h : ob μ0 x k) : ob μ x k := ⟨⟨h.1.1, by rw [hs.k]; exact h.1.2⟩, h.2⟩
theorem JU.T (h : JU μ ν) : ob μ (c_T μ) 4 := h.2.1.1
theorem JU.PA (h : JU μ ν) : ob μ (c_PA μ) 26 ∧ tm_n μ (c_PA μ) = 8 := h.2.1.2.1
theorem JU.LA (h : JU μ ν) : ob μ (c_LA μ) 27 ∧ tm_n μ (c_LA μ) = 12 := h.2.1.2.2.1
theorem JU.FA (h : JU μ ν) : ob μ (c_FA μ) 20 ∧ tm_n μ (c_FA μ) = 8 := h.2.1.2.2.2
theorem JU.P {k : Int} (h : JU μ ν) (hk : y_p ν k) : ob μ (c_P μ k) 7 ∧ tm_v μ (c_P μ k) 1 = k ∧ (tm_v μ (c_P μ k) 2 = tm_v ν 70 (3 * k) ∧ tm_v μ (c_P μ k) 3 = tm_v ν 70 (3 * k + 1) ∧ tm_v μ (c_P μ k) 4 = tm_v ν 70 (3 * k + 2) ∧ tm_v μ (c_P μ k) 5 = tm_v ν 72 k) ∧ (ob μ (c_A μ k) 27 ∧ tm_n μ (c_A μ k) = 4) ∧ ∀ i, 0 ≤ i → i < tm_v ν 72 k → tm_v μ (c_A μ k) i = c_L μ (tm_v ν 74 (4 * k + i)) := h.2.2.2.1 k hk.2.1 hk.2.2
theorem JU.L {l : Int} (h : JU μ ν) (h0 : 0 ≤ l) (h1 : l < tm_v ν 65 21) : ob μ (c_L μ l) 8 ∧ tm_v μ (c_L μ l) 0 = c_P μ (tm_v ν 76 l) ∧ tm_v μ (c_L μ l) 1 = c_P μ (tm_v ν 77 l) ∧ tm_v μ (c_L μ l) 2 = tm_v ν 80 l := h.2.2.2.2.1 l h0 h1
/-- places are told apart by their numbers -/
theorem JU.inj {k k' : Int} (h : JU μ ν) (hk : y_p ν k) (hk' : y_p ν k') (e : c_P μ k = c_P μ k') : k = k' := by
  rw [← (h.P hk).2.1, ← (h.P hk').2.1, e]
section FF
variable (hJ : JU μ0 ν) (hs : tFr W μ0 μ) (hT : y_TC (c_FA μ0) W)
theorem c_ne_FA {x : Int} {k : Nat} (hJ : JU μ0 ν) (h : ob μ0 x k) (hk : k ≠ 20) : x ≠ c_FA μ0 := fun e => by
  have := hJ.FA.1.1.2
  rw [← e, h.1.2] at this
  exact hk this
theorem c_v {x j : Int} {k : Nat} (hJ : JU μ0 ν) (hs : tFr W μ0 μ) (hT : y_TC (c_FA μ0) W) (h : ob μ0 x k) (hk : k ≠ 20) : tm_v μ x j = tm_v μ0 x j := hs.v (hT.2.2 x j h.2 (c_ne_FA hJ h hk))
theorem c_T_F (hs : tFr W μ0 μ) (hT : y_TC (c_FA μ0) W) : c_T μ = c_T μ0 := hs.v hT.2.1
theorem c_PA_F (hJ : JU μ0 ν) (hs : tFr W μ0 μ) (hT : y_TC (c_FA μ0) W) : c_PA μ = c_PA μ0 := by unfold c_PA; rw [c_T_F hs hT, c_v hJ hs hT hJ.T (by decide)]
theorem c_LA_F (hJ : JU μ0 ν) (hs : tFr W μ0 μ) (hT : y_TC (c_FA μ0) W) : c_LA μ = c_LA μ0 := by unfold c_LA; rw [c_T_F hs hT, c_v hJ hs hT hJ.T (by decide)]
theorem c_FA_F (hJ : JU μ0 ν) (hs : tFr W μ0 μ) (hT : y_TC (c_FA μ0) W) : c_FA μ = c_FA μ0 := by unfold c_FA; rw [c_T_F hs hT, c_v hJ hs hT hJ.T (by decide)]
theorem c_P_F (hJ : JU μ0 ν) (hs : tFr W μ0 μ) (hT : y_TC (c_FA μ0) W) (k : Int) : c_P μ k = c_P μ0 k := by unfold c_P; rw [c_PA_F hJ hs hT, c_v hJ hs hT hJ.PA.1 (by decide)]
theorem c_L_F (hJ : JU μ0 ν) (hs : tFr W μ0 μ) (hT : y_TC (c_FA μ0) W) (k : Int) : c_L μ k = c_L μ0 k := by unfold c_L; rw [c_LA_F hJ hs hT, c_v hJ hs hT hJ.LA.1 (by decide)]
theorem JU_F (hJ : JU μ0 ν) (hs : tFr W μ0 μ) (hT : y_TC (c_FA μ0) W) : JU μ ν := by
  obtain ⟨a1, a2, a3, a4, a5, a6⟩ := hJ
  have hJ : JU μ0 ν := ⟨a1, a2, a3, a4, a5, a6⟩
  have eT := c_T_F hs hT
  have eP := c_P_F hJ hs hT
  have eL := c_L_F hJ hs hT
  have ePA := c_PA_F hJ hs hT
  have eLA := c_LA_F hJ hs hT
  have eFA := c_FA_F hJ hs hT
  have vT : ∀ j, tm_v μ (c_T μ0) j = tm_v μ0 (c_T μ0) j := fun j => c_v hJ hs hT hJ.T (by decide)
  refine ⟨a1, ⟨?_, ⟨?_, ?_⟩, ⟨?_, ?_⟩, ⟨?_, ?_⟩⟩, ⟨?_, ?_, ?_, ?_, ?_⟩, fun k k0 k1 => ?_, fun l l0 l1 => ?_, fun l l' x1 x2 x3 x4 e => ?_⟩
  · rw [eT]; exact ob_F hs a2.1
  · rw [ePA]; exact ob_F hs a2.2.1.1
  · rw [ePA, hs.n]; exact a2.2.1.2
  · rw [eLA]; exact ob_F hs a2.2.2.1.1
  · rw [eLA, hs.n]; exact a2.2.2.1.2
  · rw [eFA]; exact ob_F hs a2.2.2.2.1
  · rw [eFA, hs.n]; exact a2.2.2.2.2
  · rw [eT, vT]; exact a3.1
  · rw [eT, vT]; exact a3.2.1
  · rw [eT, vT]; exact a3.2.2.1
  · rw [eT, vT]; exact a3.2.2.2.1
  · rw [eT, vT]; exact a3.2.2.2.2
  · obtain ⟨b1, b2, b3, b4, b5⟩ := a4 k k0 k1
    have vP : ∀ j, tm_v μ (c_P μ0 k) j = tm_v μ0 (c_P μ0 k) j := fun j => c_v hJ hs hT b1 (by decide)
    have eA : c_A μ k = c_A μ0 k := by unfold c_A; rw [eP, vP]
    rw [eA, eP, vP, vP, vP, vP, vP, hs.n]
    refine ⟨ob_F hs b1, b2, b3, ⟨ob_F hs b4.1, b4.2⟩, fun i i0 i1 => ?_⟩
    rw [c_v hJ hs hT b4.1 (by decide), eL]
    exact b5 i i0 i1
  · obtain ⟨b1, b2, b3, b4⟩ := a5 l l0 l1
    have vL : ∀ j, tm_v μ (c_L μ0 l) j = tm_v μ0 (c_L μ0 l) j := fun j => c_v hJ hs hT b1 (by decide)
    rw [eL, vL, vL, vL, eP, eP]
    exact ⟨ob_F hs b1, b2, b3, b4⟩
  · rw [eL, eL] at e
    exact a6 l l' x1 (by omega) x3 (by omega) e
end FF
end REP
