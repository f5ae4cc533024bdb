/-! the ties under more cells -/
section EXT
variable {μ μ' ν : tm_M}
theorem tE.v (h : tE μ μ') {a : Int} (ha : a < tm_z μ) (j : Int) : tm_v μ' a j = tm_v μ a j := (h.2 a ha).2.2 j
theorem tE.k (h : tE μ μ') {a : Int} (ha : a < tm_z μ) : tm_k μ' a = tm_k μ a := (h.2 a ha).1
theorem tE.n (h : tE μ μ') {a : Int} (ha : a < tm_z μ) : tm_n μ' a = tm_n μ a := (h.2 a ha).2.1
theorem ob_E (h : tE μ μ') {x : Int} {k : Nat} (hx : x < tm_z μ) (q : ob μ x k) : ob μ' x k := ⟨⟨q.1.1, by rw [h.k hx]; exact q.1.2⟩, q.2⟩
theorem tS.z (hs : tS μ) {a : Int} (h : a ≤ 103) : a < tm_z μ := by have := hs.2.2; omega
theorem lt_T (hw : tw_f μ) (hs : tS μ) : c_T μ < tm_z μ := (tw_ref hw (a := 1) (by decide) (hs.z (by decide)) (sk_1 hs) 8 rfl).2
section EU
variable (hw : tw_f μ) (hs : tS μ) (hJ : JU μ ν)
theorem lt_PA (hw : tw_f μ) (hs : tS μ) (hJ : JU μ ν) : c_PA μ < tm_z μ := (tw_ref hw hJ.T.1.1 (lt_T hw hs) hJ.T.1.2 0 rfl).2
theorem lt_LA (hw : tw_f μ) (hs : tS μ) (hJ : JU μ ν) : c_LA μ < tm_z μ := (tw_ref hw hJ.T.1.1 (lt_T hw hs) hJ.T.1.2 1 rfl).2
theorem lt_FA (hw : tw_f μ) (hs : tS μ) (hJ : JU μ ν) : c_FA μ < tm_z μ := (tw_ref hw hJ.T.1.1 (lt_T hw hs) hJ.T.1.2 7 rfl).2
theorem lt_P (hw : tw_f μ) (hs : tS μ) (hJ : JU μ ν) (k : Int) : c_P μ k < tm_z μ := (tw_ref hw hJ.PA.1.1.1 (lt_PA hw hs hJ) hJ.PA.1.1.2 k rfl).2
theorem lt_L (hw : tw_f μ) (hs : tS μ) (hJ : JU μ ν) (k : Int) : c_L μ k < tm_z μ := (tw_ref hw hJ.LA.1.1.1 (lt_LA hw hs hJ) hJ.LA.1.1.2 k rfl).2
theorem c_T_E (hs : tS μ) (h : tE μ μ') : c_T μ' = c_T μ := h.v (hs.z (by decide)) 8
theorem c_PA_E (hw : tw_f μ) (hs : tS μ) (h : tE μ μ') : c_PA μ' = c_PA μ := by unfold c_PA; rw [c_T_E hs h, h.v (lt_T hw hs)]
theorem c_LA_E (hw : tw_f μ) (hs : tS μ) (h : tE μ μ') : c_LA μ' = c_LA μ := by unfold c_LA; rw [c_T_E hs h, h.v (lt_T hw hs)]
theorem c_FA_E (hw : tw_f μ) (hs : tS μ) (h : tE μ μ') : c_FA μ' = c_FA μ := by unfold c_FA; rw [c_T_E hs h, h.v (lt_T hw hs)]
theorem c_P_E (hw : tw_f μ) (hs : tS μ) (hJ : JU μ ν) (h : tE μ μ') (k : Int) : c_P μ' k = c_P μ k := by unfold c_P; rw [c_PA_E hw hs h, h.v (lt_PA hw hs hJ)]
theorem c_L_E (hw : tw_f μ) (hs : tS μ) (hJ : JU μ ν) (h : tE μ μ') (k : Int) : c_L μ' k = c_L μ k := by unfold c_L; rw [c_LA_E hw hs h, h.v (lt_LA hw hs hJ)]
theorem JU_E (hw : tw_f μ) (hs : tS μ) (hJ : JU μ ν) (h : tE μ μ') : JU μ' ν := by
  obtain ⟨a1, a2, a3, a4, a5, a6⟩ := id hJ
  have eT := c_T_E hs h
  have eP := c_P_E hw hs hJ h
  have eL := c_L_E hw hs hJ h
  have ePA := c_PA_E hw hs h
  have eLA := c_LA_E hw hs h
  have eFA := c_FA_E hw hs h
  have vT := h.v (lt_T hw hs)
  refine ⟨a1, ⟨?_, ⟨?_, ?_⟩, ⟨?_, ?_⟩, ⟨?_, ?_⟩⟩, ⟨?_, ?_, ?_, ?_, ?_⟩, fun k k0 k1 => ?_, fun l l0 l1 => ?_, fun l l' x1 x2 x3 x4 e => ?_⟩
  · rw [eT]; exact ob_E h (lt_T hw hs) a2.1
  · rw [ePA]; exact ob_E h (lt_PA hw hs hJ) a2.2.1.1
  · rw [ePA, h.n (lt_PA hw hs hJ)]; exact a2.2.1.2
  · rw [eLA]; exact ob_E h (lt_LA hw hs hJ) a2.2.2.1.1
  · rw [eLA, h.n (lt_LA hw hs hJ)]; exact a2.2.2.1.2
  · rw [eFA]; exact ob_E h (lt_FA hw hs hJ) a2.2.2.2.1
  · rw [eFA, h.n (lt_FA hw hs hJ)]; exact a2.2.2.2.2
  · rw [eT, vT]; exact a3.1
  · rw [eT, vT]; exact a3.2.1
  · rw [eT, vT]; exact a3.2.2.1
  · rw [eT, vT]; exact a3.2.2.2.1
  · rw [eT, vT]; exact a3.2.2.2.2
  · obtain ⟨b1, b2, b3, b4, b5⟩ := a4 k k0 k1
    have lP := lt_P hw hs hJ k
    have vP := h.v lP
    have eA : c_A μ' k = c_A μ k := by unfold c_A; rw [eP, vP]
    have lA : c_A μ k < tm_z μ := (tw_ref hw b1.1.1 lP b1.1.2 6 rfl).2
    rw [eA, eP, vP, vP, vP, vP, vP, h.n lA]
    refine ⟨ob_E h lP b1, b2, b3, ⟨ob_E h lA b4.1, b4.2⟩, fun i i0 i1 => ?_⟩
    rw [h.v lA, eL]
    exact b5 i i0 i1
  · obtain ⟨b1, b2, b3, b4⟩ := a5 l l0 l1
    have lL := lt_L hw hs hJ l
    rw [eL, h.v lL, h.v lL, h.v lL, eP, eP]
    exact ⟨ob_E h lL b1, b2, b3, b4⟩
  · rw [eL, eL] at e
    exact a6 l l' x1 x2 x3 x4 e
end EU
theorem lt_W (hw : tw_f μ) (hs : tS μ) (w : Int) : c_W μ w < tm_z μ := (tw_ref hw (a := 6) (by decide) (hs.z (by decide)) (sk_6 hs) w rfl).2
theorem c_W_E (hs : tS μ) (h : tE μ μ') (w : Int) : c_W μ' w = c_W μ w := h.v (hs.z (by decide)) w
theorem c_R_E (hw : tw_f μ) (hs : tS μ) (h : tE μ μ') (w : Int) : c_R μ' w = c_R μ w := by unfold c_R; rw [c_W_E hs h, h.v (lt_W hw hs w)]
theorem JV.k {w : Int} (hV : JV μ ν) (w0 : 0 ≤ w) (w1 : w < tm_v ν 65 43) : 1 ≤ c_W μ w ∧ (tm_k μ (c_W μ w) = 9 ∨ tm_k μ (c_W μ w) = 10 ∨ tm_k μ (c_W μ w) = 11) := by
  obtain ⟨h0, h1, h2⟩ := hV
  obtain ⟨-, b1, b2⟩ := h2 w w0 w1
  have hn := (h0.2 w w0 w1).1
  by_cases c : 0 < tm_v ν 82 w
  · by_cases c1 : tm_v ν 84 w = 0
    · have := (b1 c).1 c1; exact ⟨this.1.1, Or.inl this.1.2⟩
    · have := (b1 c).2.1 c1; exact ⟨this.1.1, Or.inr (Or.inl this.1.2)⟩
  · have := (b2 (by omega)).1; exact ⟨this.1.1, Or.inr (Or.inr this.1.2)⟩
theorem lt_R (hw : tw_f μ) (hs : tS μ) (hV : JV μ ν) {w : Int} (w0 : 0 ≤ w) (w1 : w < tm_v ν 65 43) : c_R μ w < tm_z μ := by
  obtain ⟨h1, h2 | h2 | h2⟩ := hV.k w0 w1
  · exact (tw_ref hw h1 (lt_W hw hs w) h2 0 rfl).2
  · exact (tw_ref hw h1 (lt_W hw hs w) h2 0 rfl).2
  · exact (tw_ref hw h1 (lt_W hw hs w) h2 0 rfl).2
theorem JV_E (hw : tw_f μ) (hs : tS μ) (hV : JV μ ν) (h : tE μ μ') : JV μ' ν := by
  obtain ⟨h0, h1, h2⟩ := id hV
  refine ⟨h0, by rw [h.v (hs.z (by decide))]; exact h1, fun w w0 w1 => ?_⟩
  obtain ⟨b0, b1, b2⟩ := h2 w w0 w1
  have lR := lt_R hw hs hV w0 w1
  have lW := lt_W hw hs w
  rw [c_R_E hw hs h, c_W_E hs h, c_FA_E hw hs h, h.n lR]
  refine ⟨⟨ob_E h lR b0.1, b0.2⟩, fun c => ?_, fun c => ?_⟩
  · obtain ⟨c1, c2, c3, c4⟩ := b1 c
    exact ⟨fun q => ob_E h lW (c1 q), fun q => ob_E h lW (c2 q), c3, fun j j0 j1 => by rw [h.v lR]; exact c4 j j0 j1⟩
  · obtain ⟨c1, c2, c3⟩ := b2 c
    exact ⟨ob_E h lW c1, c2, fun j j0 j1 => by rw [h.v lR]; exact c3 j j0 j1⟩
theorem lt_Y (hw : tw_f μ) (hs : tS μ) {t : Int} (t0 : 0 ≤ t) (t4 : t < 4) : c_Y μ t < tm_z μ := (tw_ref hw (a := 61 + t) (by omega) (hs.z (by omega)) (sk_tr hs t0 t4).2 0 rfl).2
theorem c_Y_E (hs : tS μ) (h : tE μ μ') {t : Int} (t4 : t < 4) : c_Y μ' t = c_Y μ t := h.v (hs.z (by omega)) 0
theorem JY_E (hw : tw_f μ) (hs : tS μ) (hY : JY μ ν) (h : tE μ μ') : JY μ' ν := by
  obtain ⟨h0, h1, h2⟩ := hY
  refine ⟨h0, fun t t0 t4 => ?_, fun t u t0 t4 u0 u4 c e => ?_⟩
  · obtain ⟨b1, b2⟩ := h1 t t0 t4
    have lY := lt_Y hw hs t0 t4
    rw [c_Y_E hs h t4, h.v (hs.z (show 61 + t ≤ 103 by omega)), c_FA_E hw hs h, h.n lY]
    refine ⟨b1, fun c => ?_⟩
    obtain ⟨c1, c2, c3, c4, c5⟩ := b2 c
    exact ⟨c1, ob_E h lY c2, c3, c4, fun k k0 k1 => by rw [h.v lY]; exact c5 k k0 k1⟩
  · rw [c_Y_E hs h t4, c_Y_E hs h u4] at e
    exact h2 t u t0 t4 u0 u4 c e
theorem JF_E (hs : tS μ) (hF : JF μ ν) (h : tE μ μ') : JF μ' ν := by
  unfold JF at hF ⊢
  rw [h.v (hs.z (by decide)), h.v (hs.z (by decide))]
  exact hF
theorem JP_E (hs : tS μ) (hP : JP μ ν) (h : tE μ μ') : JP μ' ν := by
  obtain ⟨h1, h2, h3⟩ := hP
  exact ⟨h1, by rw [h.v (hs.z (by decide))]; exact h2, fun j j0 j1 => by rw [h.v (hs.z (by decide))]; exact h3 j j0 j1⟩
theorem JC_E (hs : tS μ) (hC : JC μ ν) (h : tE μ μ') : JC μ' ν := by
  obtain ⟨h1, h2, h3⟩ := hC
  have e60 : ∀ j, tm_v μ' 60 j = tm_v μ 60 j := h.v (hs.z (by decide))
  have ep : pt3 μ' 60 = pt3 μ 60 := by unfold pt3; rw [e60, e60, e60]
  refine ⟨by rw [h.v (hs.z (by decide))]; exact h1, h2, fun c => ?_⟩
  obtain ⟨c1, c2, c3, c4⟩ := h3 c
  rw [ep]
  exact ⟨c1, c2, c3, fun k k0 k1 => by rw [e60]; exact c4 k k0 k1⟩
end EXT
