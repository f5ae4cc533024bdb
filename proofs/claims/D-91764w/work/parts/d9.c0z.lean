/-! the component's lanes that are shut -/
section C0Z
variable {d : Nat} {μ μ0 ν : tm_M} {W : Int → Int → Prop}
/-- cells that are written, the array of distances, the marks of lanes -/
def tWd (A : List Int) (B : List (Int × Int)) (f : Int) (μ0 : tm_M) (a j : Int) : Prop := tWf A B f a j ∨ (ob μ0 a 8 ∧ j = 2)
theorem tWd_sub {A A' : List Int} {B B' : List (Int × Int)} {f : Int} (h : (A'.all (fun a => decide (a ∈ A)) && B'.all (fun q => decide (q.1 ∈ A) || decide (q ∈ B))) = true) : ∀ a j, tWf A' B' f a j → tWd A B f μ0 a j := fun a j q => Or.inl (tWf_sub h a j q)
theorem tWd_subL {A A' : List Int} {B B' : List (Int × Int)} {f : Int} (h : (A'.all (fun a => decide (a ∈ A)) && B'.all (fun q => decide (q.1 ∈ A) || decide (q ∈ B))) = true) : ∀ a j, tWs A' B' a j → tWd A B f μ0 a j := fun a j q => Or.inl (tWf_subL h a j q)
theorem ob_ne {x y : Int} {k k' : Nat} (h : ob μ x k) (h' : ob μ y k') (hk : k ≠ k') : x ≠ y := fun e => by
  have h1 := h.1.2
  rw [e, h'.1.2] at h1
  exact hk h1.symm
theorem ob_w {a j y x : Int} {k : Nat} (h : ob μ x k) : ob (tm_w μ a j y) x k := h
theorem JU_shut {l x : Int} (hJ : JU μ ν) (h0 : 0 ≤ l) (h1 : l < tm_v ν 65 21) (hx : 0 ≤ x ∧ x ≤ 1) : JU (tm_w μ (c_L μ l) 2 x) (tm_w ν 80 l x) := by
  have hL := hJ.L h0 h1
  obtain ⟨a1, a2, a3, a4, a5, a6⟩ := hJ
  have hJ : JU μ ν := ⟨a1, a2, a3, a4, a5, a6⟩
  have ne1 : (1 : Int) ≠ c_L μ l := fun e => by have := hL.1.2; unfold dyA at this; omega
  have v1 : ∀ j, tm_v (tm_w μ (c_L μ l) 2 x) 1 j = tm_v μ 1 j := fun j => by rw [tm_vw, if_neg (fun q => ne1 q.1)]
  have vo : ∀ {y : Int} {k : Nat} (j : Int), ob μ y k → k ≠ 8 → tm_v (tm_w μ (c_L μ l) 2 x) y j = tm_v μ y j := fun {y k} j h hk => by rw [tm_vw, if_neg (fun q => ob_ne h hL.1 hk q.1)]
  have eT : c_T (tm_w μ (c_L μ l) 2 x) = c_T μ := v1 8
  have ePA : c_PA (tm_w μ (c_L μ l) 2 x) = c_PA μ := by unfold c_PA; rw [eT, vo _ hJ.T (by decide)]
  have eLA : c_LA (tm_w μ (c_L μ l) 2 x) = c_LA μ := by unfold c_LA; rw [eT, vo _ hJ.T (by decide)]
  have eFA : c_FA (tm_w μ (c_L μ l) 2 x) = c_FA μ := by unfold c_FA; rw [eT, vo _ hJ.T (by decide)]
  have eP : ∀ k, c_P (tm_w μ (c_L μ l) 2 x) k = c_P μ k := fun k => by unfold c_P; rw [ePA, vo _ hJ.PA.1 (by decide)]
  have eL : ∀ k, c_L (tm_w μ (c_L μ l) 2 x) k = c_L μ k := fun k => by
    show tm_v (tm_w μ (c_L μ l) 2 x) (c_LA (tm_w μ (c_L μ l) 2 x)) k = _
    rw [eLA]; exact vo _ hJ.LA.1 (by decide)
  have n65 : ∀ j, tm_v (tm_w ν 80 l x) 65 j = tm_v ν 65 j := fun j => by rw [tm_vw, if_neg (by omega)]
  have n70 : ∀ j, tm_v (tm_w ν 80 l x) 70 j = tm_v ν 70 j := fun j => by rw [tm_vw, if_neg (by omega)]
  have n72 : ∀ j, tm_v (tm_w ν 80 l x) 72 j = tm_v ν 72 j := fun j => by rw [tm_vw, if_neg (by omega)]
  have n74 : ∀ j, tm_v (tm_w ν 80 l x) 74 j = tm_v ν 74 j := fun j => by rw [tm_vw, if_neg (by omega)]
  have n76 : ∀ j, tm_v (tm_w ν 80 l x) 76 j = tm_v ν 76 j := fun j => by rw [tm_vw, if_neg (by omega)]
  have n77 : ∀ j, tm_v (tm_w ν 80 l x) 77 j = tm_v ν 77 j := fun j => by rw [tm_vw, if_neg (by omega)]
  refine ⟨y_W_80 a1 hx, ⟨?_, ⟨?_, ?_⟩, ⟨?_, ?_⟩, ⟨?_, ?_⟩⟩, ⟨?_, ?_, ?_, ?_, ?_⟩, fun k k0 k1 => ?_, fun l' l0 l1 => ?_, fun l' l2 x1 x2 x3 x4 e => ?_⟩
  · rw [eT]; exact ob_w a2.1
  · rw [ePA]; exact ob_w a2.2.1.1
  · rw [ePA]; exact a2.2.1.2
  · rw [eLA]; exact ob_w a2.2.2.1.1
  · rw [eLA]; exact a2.2.2.1.2
  · rw [eFA]; exact ob_w a2.2.2.2.1
  · rw [eFA]; exact a2.2.2.2.2
  · rw [eT, vo _ hJ.T (by decide), n65]; exact a3.1
  · rw [eT, vo _ hJ.T (by decide), n65]; exact a3.2.1
  · rw [eT, vo _ hJ.T (by decide), n65]; exact a3.2.2.1
  · rw [eT, vo _ hJ.T (by decide), n65]; exact a3.2.2.2.1
  · rw [eT, vo _ hJ.T (by decide), n65]; exact a3.2.2.2.2
  · rw [n65] at k1
    obtain ⟨b1, b2, b3, b4, b5⟩ := a4 k k0 k1
    have eA : c_A (tm_w μ (c_L μ l) 2 x) k = c_A μ k := by unfold c_A; rw [eP, vo _ b1 (by decide)]
    rw [eA, eP, vo _ b1 (by decide), vo _ b1 (by decide), vo _ b1 (by decide), vo _ b1 (by decide), vo _ b1 (by decide), n70, n70, n70, n72]
    refine ⟨ob_w b1, b2, b3, ⟨ob_w b4.1, b4.2⟩, fun i i0 i1 => ?_⟩
    rw [vo _ b4.1 (by decide), eL, n74]
    exact b5 i i0 i1
  · rw [n65] at l1
    obtain ⟨b1, b2, b3, b4⟩ := a5 l' l0 l1
    rw [eL, eP, eP, n76, n77]
    refine ⟨ob_w b1, ?_, ?_, ?_⟩
    · rw [tm_vw, if_neg (by omega)]; exact b2
    · rw [tm_vw, if_neg (by omega)]; exact b3
    · rw [tm_vw, tm_vw]
      by_cases e : l' = l
      · rw [if_pos ⟨by rw [e], rfl⟩, if_pos ⟨rfl, e⟩]
      · rw [if_neg (fun q => e (a6 l' l l0 l1 h0 h1 q.1)), if_neg (fun q => e q.2)]; exact b4
  · rw [n65] at x2 x4
    rw [eL, eL] at e
    exact a6 l' l2 x1 x2 x3 x4 e
theorem JV_shut {l x : Int} (hJ : JU μ ν) (hV : JV μ ν) (h0 : 0 ≤ l) (h1 : l < tm_v ν 65 21) : JV (tm_w μ (c_L μ l) 2 x) (tm_w ν 80 l x) := by
  have hL := hJ.L h0 h1
  have ne1 : (1 : Int) ≠ c_L μ l := fun e => by have := hL.1.2; unfold dyA at this; omega
  have ne6 : (6 : Int) ≠ c_L μ l := fun e => by have := hL.1.2; unfold dyA at this; omega
  have vo : ∀ {y : Int} {k : Nat} (j : Int), ob μ y k → k ≠ 8 → tm_v (tm_w μ (c_L μ l) 2 x) y j = tm_v μ y j := fun {y k} j h hk => by rw [tm_vw, if_neg (fun q => ob_ne h hL.1 hk q.1)]
  have eT : c_T (tm_w μ (c_L μ l) 2 x) = c_T μ := by unfold c_T; rw [tm_vw, if_neg (fun q => ne1 q.1)]
  have eFA : c_FA (tm_w μ (c_L μ l) 2 x) = c_FA μ := by unfold c_FA; rw [eT, vo _ hJ.T (by decide)]
  have eW : ∀ w, c_W (tm_w μ (c_L μ l) 2 x) w = c_W μ w := fun w => by unfold c_W; rw [tm_vw, if_neg (fun q => ne6 q.1)]
  have n65 : ∀ j, tm_v (tm_w ν 80 l x) 65 j = tm_v ν 65 j := fun j => by rw [tm_vw, if_neg (by omega)]
  have n82 : ∀ j, tm_v (tm_w ν 80 l x) 82 j = tm_v ν 82 j := fun j => by rw [tm_vw, if_neg (by omega)]
  have n83 : ∀ j, tm_v (tm_w ν 80 l x) 83 j = tm_v ν 83 j := fun j => by rw [tm_vw, if_neg (by omega)]
  have n84 : ∀ j, tm_v (tm_w ν 80 l x) 84 j = tm_v ν 84 j := fun j => by rw [tm_vw, if_neg (by omega)]
  obtain ⟨v1, v2, v3⟩ := hV
  have hy : y_V (tm_w ν 80 l x) := by
    unfold y_V at v1 ⊢
    simp only [n65, n82, n83, n84]
    exact v1
  refine ⟨hy, by rw [tm_vw, if_neg (fun q => ne1 q.1), n65]; exact v2, fun w w0 w1 => ?_⟩
  rw [n65] at w1
  obtain ⟨⟨b1, b2⟩, b3, b4⟩ := v3 w w0 w1
  have obW : ∃ k : Nat, k ≠ 8 ∧ ob μ (c_W μ w) k := by
    by_cases c : 0 < tm_v ν 82 w
    · by_cases g : tm_v ν 84 w = 0
      · exact ⟨9, by decide, (b3 c).1 g⟩
      · exact ⟨10, by decide, (b3 c).2.1 g⟩
    · have := (v1.2 w w0 w1).1
      exact ⟨11, by decide, (b4 (by omega)).1⟩
  obtain ⟨k, hk, ho⟩ := obW
  have eR : c_R (tm_w μ (c_L μ l) 2 x) w = c_R μ w := by unfold c_R; rw [eW, vo _ ho hk]
  rw [eR, eFA, eW, n82, n84]
  refine ⟨⟨ob_w b1, b2⟩, fun c => ⟨fun g => ob_w ((b3 c).1 g), fun g => ob_w ((b3 c).2.1 g), (b3 c).2.2.1, fun j j0 j1 => ?_⟩, fun c => ⟨ob_w (b4 c).1, (b4 c).2.1, fun j j0 j1 => ?_⟩⟩
  · rw [vo _ b1 (by decide), n83]; exact (b3 c).2.2.2 j j0 j1
  · rw [vo _ b1 (by decide), n83]; exact (b4 c).2.2 j j0 j1
end C0Z
