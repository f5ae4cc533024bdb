/-! CONTRACTS of the component: distance, when -/
section C0H
variable {d : Nat} {μ μ0 ν : tm_M} {W : Int → Int → Prop} {a b w v : Int}
theorem pX0_distance (hd : 3 ≤ d) (hs : tS μ) (hJ : JU μ ν) : cI (tWf [] [(1, 10)] (c_FA μ)) mX0_distance d [(2, 1), (0, a), (0, b)] μ (fun r m => (r, tm_v m 1 10) = r_distance ν a b) := by
  have hf : dyA (c_FA μ) ∧ tm_k μ (c_FA μ) = 20 := ⟨hJ.FA.1.2, hJ.FA.1.1.2⟩
  have nP : tm_n μ (tm_v μ (tm_v μ 1 8) 0) = 8 := hJ.PA.2
  have nF : tm_n μ (tm_v μ (tm_v μ 1 8) 7) = 8 := hJ.FA.2
  have h20 := hJ.1.1
  have hT : y_TC (c_FA μ) (tWf [] [(1, 10)] (c_FA μ)) := tWf_TC hf.1 ⟨rfl, rfl⟩
  refine t_of (uX0_distance_0 (ν := ν) (by omega) hf (tFr.rf hs) ⟨hJ, fun c m e => ?_, fun ca => ⟨fun cb => ⟨hJ.T, hJ.PA.1, ⟨ca.1, by omega⟩, ?_⟩, fun c m e => ?_⟩⟩)
  · unfold r_distance; rw [if_pos (fun q => c q.1), e]; simp [tm_vw]
  · have ha : y_p ν a := ⟨hJ.1, ca⟩
    have hb : y_p ν b := ⟨hJ.1, cb⟩
    refine tC.V (pX4_spread (by omega) hs hJ ha) (fun m1 f1 h1 => ⟨hJ.FA.1, ⟨cb.1, by omega⟩, ?_⟩)
    have e1 : tm_v m1 (tm_v μ (tm_v μ 1 8) 7) b = spr ν a b := h1 b hb
    rw [e1]
    unfold r_distance
    rw [if_neg (fun q => q ⟨ca, cb⟩)]
    have fi := y_far_in (g := y_go ν) (a := a) b
    have spe : spr ν a b = if y_far (y_go ν) a b = 100 then -1 else y_far (y_go ν) a b := rfl
    by_cases c : y_far (y_go ν) a b = 100
    · rw [if_pos c] at spe
      rw [if_pos c]
      exact ⟨fun q => absurd spe q, fun _ m e => by rw [e]; simp [tm_vw]⟩
    · rw [if_neg c] at spe
      rw [if_neg c]
      exact ⟨fun _ m e => by rw [e, spe]; simp [tm_vw], fun q => by omega⟩
  · unfold r_distance; rw [if_pos (fun q => c q.2), e]; simp [tm_vw]
theorem pX0_when (hd : 5 ≤ d) (hs : tS μ) (hJ : JU μ ν) (hV : JV μ ν) (hmk : tm_v μ 1 13 = tm_v ν 65 30) : cI (tWf [7, 8, 10] [(1, 10)] (c_FA μ)) mX0_when d [(2, 1), (0, w), (0, v), (0, a), (0, b)] μ (fun r m => (r, tm_v m 1 10) = r_when ν w v a b) := by
  have hf : dyA (c_FA μ) ∧ tm_k μ (c_FA μ) = 20 := ⟨hJ.FA.1.2, hJ.FA.1.1.2⟩
  refine t_of (uX0_when_0 (ν := ν) (by omega) hf (tFr.rf hs) ⟨hV, fun c m e => ?_, fun cw => ⟨fun c m e => ?_, fun cv => ⟨hJ, fun c m e => ?_, fun ca => ⟨fun cb => ?_, fun c m e => ?_⟩⟩⟩⟩)
  · unfold r_when; rw [if_pos (by omega), e]; simp [tm_vw]
  · unfold r_when; rw [if_pos (by omega), e]; simp [tm_vw]
  · unfold r_when; rw [if_pos (by omega), e]; simp [tm_vw]
  · refine tC.I (pX0_meet (by omega) hs hJ hV hmk ⟨hV.1, cw⟩ ⟨hV.1, cv⟩ ⟨hJ.1, ca⟩ ⟨hJ.1, cb⟩) (fun r m1 f1 hr => ?_)
    subst hr
    have hin := y_walk_in (μ := ν) w v a b
    unfold r_when
    rw [if_neg (by omega)]
    refine ⟨fun c m e => ?_, fun c m e => ?_⟩
    · rw [if_neg (by omega), e]; simp [tm_vw]
    · rw [if_pos (by omega), e]; simp [tm_vw]
  · unfold r_when; rw [if_pos (by omega), e]; simp [tm_vw]
end C0H
