/-! CONTRACTS of the component: a step, a fraction, what is told -/
section C0B
variable {d : Nat} {μ μ0 ν : tm_M} {W : Int → Int → Prop}
theorem y_goP {k s : Int} (hk : y_p ν k) : y_p ν (y_go ν k s) := y_go_p hk
theorem pX7_by0 {k s : Int} (hd : 1 ≤ d) (hs : tS μ) (hJ : JU μ ν) (hk : y_p ν k) : cR w0 mX7_by d [(2, c_P μ k), (0, s)] μ (fun r _ => r = c_P μ (y_go ν k s)) := by
  obtain ⟨h1, h2, h3, h4, h5⟩ := hJ.P hk
  have hdg := (hk.1.2.2.1 k hk.2.1 hk.2.2).1
  have hln := (hk.1.2.2.1 k hk.2.1 hk.2.2).2.2.2.2
  have no : ¬ (0 ≤ s - 1 ∧ s - 1 < tm_v ν 72 k ∧ tm_v ν 80 (tm_v ν 74 (4 * k + (s - 1))) = 0) → c_P μ k = c_P μ (y_go ν k s) := by
    intro h; unfold y_go; rw [if_neg h]
  refine t_of (uX7_by_0 hd (tFr.rf hs) ⟨fun c => no (by omega), fun c => ⟨h1, ?_⟩⟩)
  rw [h3.2.2.2]
  refine ⟨fun c2 => no (by omega), fun c2 => ⟨h4.1, ?_⟩⟩
  have eA : tm_v μ (c_P μ k) 6 = c_A μ k := rfl
  rw [w32_id (x := s - 1) (by omega) (by omega), eA, h4.2, h5 (s - 1) (by omega) (by omega)]
  have hl := (hln (s - 1) (by omega) (by omega)).1
  obtain ⟨l1, l2, l3, l4⟩ := hJ.L hl.1 hl.2
  refine ⟨by omega, l1, ?_⟩
  rw [l4]
  refine ⟨fun c3 => ?_, fun c3 => no (fun q => c3 q.2.2)⟩
  refine tC.R (pX8_other hs hJ hl.1 hl.2 hk) (fun r m fm hr => ?_)
  rw [hr]
  unfold y_go
  rw [if_pos ⟨by omega, by omega, c3⟩]
  unfold y_leads
  rw [if_pos ⟨by omega, by omega⟩]
theorem pX7_by {p s : Int} (hd : 1 ≤ d) (hs : tFr W μ0 μ) (hT : y_TC (c_FA μ0) W) (hc : JU μ0 ν ∧ isP μ0 ν p) : cR w0 mX7_by d [(2, p), (0, s)] μ (fun r _ => r = c_P μ0 (y_go ν (tm_v μ0 p 1) s)) := by
  obtain ⟨hJ, k, hk, rfl⟩ := hc
  rw [(hJ.P hk).2.1, ← c_P_F hJ hs hT, ← c_P_F hJ hs hT]
  exact pX7_by0 hd hs.S (JU_F hJ hs hT) hk
theorem isP_by {p s : Int} (hJ : JU μ ν) (h : isP μ ν p) : isP μ ν (c_P μ (y_go ν (tm_v μ p 1) s)) := by
  obtain ⟨k, hk, rfl⟩ := h
  exact ⟨_, y_go_p hk, by rw [(hJ.P hk).2.1]⟩
/-- a fraction is told -/
def c_fr (μ : tm_M) (t b : Int) : tm_M := tm_w (tm_w (tm_w μ 1 14 (frt t b)) 1 15 (frb t b)) 1 10 0
theorem pX0_tell {t b : Int} (hd : 1 ≤ d) (hs : tS μ) (ht : 0 ≤ t ∧ t ≤ 9223372036854775807) (hb : 0 < b ∧ b ≤ 9223372036854775807) : cI (tWs [] [(1, 10), (1, 14), (1, 15)]) mX0_tell d [(2, 1), (1, t), (1, b)] μ (fun r μ' => r = 1 ∧ μ' = c_fr μ t b) := by
  have g0 : 0 < Int.gcd t b := Int.gcd_pos_of_ne_zero_right _ (by omega)
  obtain ⟨X, eX⟩ := Int.gcd_dvd_left t b
  obtain ⟨Y, eY⟩ := Int.gcd_dvd_right t b
  have loop : ∀ (q : Nat) (x y : Int), 0 ≤ x → 0 ≤ y → y < q → Int.gcd x y = Int.gcd t b → hI (tWs [] [(1, 10), (1, 14), (1, 15)]) μ mX0_tell d (fun r μ' => r = 1 ∧ μ' = c_fr μ t b) 6 [(0, 2, 1), (1, 1, t), (3, 1, b), (5, 1, x), (7, 1, y)] [] μ := by
    intro q
    induction q with
    | zero => intro x y x0 y0 hy; omega
    | succ q ih =>
      intro x y x0 y0 hy hg
      refine uX0_tell_6 hd (tFr.rf hs) ⟨fun c => ?_, fun c => ⟨c, fun z ez => ?_⟩⟩
      · rw [c, Int.gcd_zero_right] at hg
        have ex : x = (Int.gcd t b : Int) := by rw [← hg]; omega
        have tX : frt t b = X := by
          unfold frt
          have h1 : (Int.gcd t b : Int) * X / (Int.gcd t b : Int) = X := Int.mul_ediv_cancel_left _ (by omega)
          rw [← eX] at h1; exact h1
        have tY : frb t b = Y := by
          unfold frb
          have h1 : (Int.gcd t b : Int) * Y / (Int.gcd t b : Int) = Y := Int.mul_ediv_cancel_left _ (by omega)
          rw [← eY] at h1; exact h1
        have sX : t.tdiv x = X := by
          have h1 : ((Int.gcd t b : Int) * X).tdiv (Int.gcd t b : Int) = X := Int.mul_tdiv_cancel_left _ (by omega)
          rw [← eX] at h1; rw [ex]; exact h1
        have sY : b.tdiv x = Y := by
          have h1 : ((Int.gcd t b : Int) * Y).tdiv (Int.gcd t b : Int) = Y := Int.mul_tdiv_cancel_left _ (by omega)
          rw [← eY] at h1; rw [ex]; exact h1
        have bX : 0 ≤ X ∧ X ≤ t := by
          rw [← sX, Int.tdiv_eq_ediv_of_nonneg ht.1]
          exact ⟨Int.ediv_nonneg ht.1 x0, Int.ediv_le_self _ ht.1⟩
        have bY : 0 ≤ Y ∧ Y ≤ b := by
          rw [← sY, Int.tdiv_eq_ediv_of_nonneg (by omega)]
          exact ⟨Int.ediv_nonneg (by omega) x0, Int.ediv_le_self _ (by omega)⟩
        rw [sX, sY, w64_id (x := X) (by omega) (by omega), w64_id (x := Y) (by omega) (by omega)]
        refine ⟨by omega, fun m1 e1 => ⟨by omega, fun m2 e2 m3 e3 => ⟨rfl, ?_⟩⟩⟩
        unfold c_fr
        rw [tX, tY, e3, e2, e1]
      · rw [Int.tmod_eq_emod_of_nonneg x0] at ez
        have h1 := Int.emod_nonneg x c
        have h2 := Int.emod_lt_of_pos x (show 0 < y by omega)
        refine ih y z y0 (by omega) (by omega) ?_
        rw [ez, ← hg, Int.gcd_comm x y]
        obtain ⟨X', hX'⟩ := Int.eq_ofNat_of_zero_le x0
        obtain ⟨Y', hY'⟩ := Int.eq_ofNat_of_zero_le y0
        rw [hX', hY']
        show Nat.gcd Y' (X' % Y') = Nat.gcd Y' X'
        rw [Nat.gcd_comm Y' (X' % Y'), ← Nat.gcd_rec]
  exact t_of (uX0_tell_0 (tFr.rf hs) (loop (b.toNat + 1) t b ht.1 (by omega) (by omega) rfl))
theorem pX0_many {w : Int} (hd : 1 ≤ d) (hs : tS μ) (hJ : JU μ ν) (hv : tm_v μ 1 9 = tm_v ν 65 43) : cI (tWs [] [(1, 10)]) mX0_many d [(2, 1), (0, w)] μ (fun r μ' => r = (r_many ν w).1 ∧ μ' = tm_w μ 1 10 (r_many ν w).2) := by
  have e2 : tm_v μ (tm_v μ 1 8) 2 = tm_v ν 65 20 := hJ.2.2.1.1
  have e3 : tm_v μ (tm_v μ 1 8) 3 = tm_v ν 65 21 := hJ.2.2.1.2.1
  refine t_of (uX0_many_0 hd (tFr.rf hs) ?_)
  rw [e2, e3, hv]
  unfold r_many
  refine ⟨fun c m e => ?_, fun c => ⟨fun c2 => ⟨fun c3 => ⟨fun c4 m e => ?_, fun c4 => ⟨hJ.T, fun m e => ?_⟩⟩, fun c3 => ⟨hJ.T, fun m e => ?_⟩⟩, fun c2 m e => ?_⟩⟩
  · rw [if_neg (by omega), if_neg (by omega), if_neg (by omega)]; exact ⟨rfl, e⟩
  · rw [if_neg c3, if_neg c4, if_pos (by omega)]; exact ⟨rfl, e⟩
  · rw [if_neg c3, if_pos c4]; exact ⟨rfl, e⟩
  · rw [if_pos c3]; exact ⟨rfl, e⟩
  · rw [if_neg (by omega), if_neg (by omega), if_neg (by omega)]; exact ⟨rfl, e⟩
theorem pX0_marks {x : Int} (hd : 1 ≤ d) (hs : tS μ) (hx : 0 ≤ x ∧ x ≤ 1) : cI (tWs [] [(1, 10), (1, 13)]) mX0_marks d [(2, 1), (0, x)] μ (fun r μ' => r = 1 ∧ μ' = tm_w (tm_w μ 1 13 x) 1 10 0) :=
  t_of (uX0_marks_0 hd (tFr.rf hs) ⟨hx, fun m1 e1 m2 e2 => ⟨rfl, by rw [e2, e1]⟩⟩)
theorem pX0_step {w k : Int} (hd : 1 ≤ d) (hs : tS μ) (hn : 0 ≤ tm_v ν 65 52 ∧ tm_v ν 65 52 ≤ 3) (e : tm_v μ 1 28 = tm_v ν 65 52) (hr : ∀ w k, 0 ≤ w → w ≤ 1 → 0 ≤ k → k < tm_v ν 65 52 → tm_v μ (42 + w) k = tm_v ν 90 (2 * k + w)) : cI (tWs [] [(1, 10)]) mX0_step d [(2, 1), (0, w), (0, k)] μ (fun r μ' => r = (r_step ν w k).1 ∧ μ' = tm_w μ 1 10 (r_step ν w k).2) := by
  refine t_of (uX0_step_0 hd (tFr.rf hs) ?_)
  rw [e]
  unfold r_step
  refine ⟨fun c m e => ?_, fun c => ⟨fun c2 => ⟨fun c3 m e => ?_, fun c3 => ⟨fun c4 => ⟨by omega, by omega, fun m e => ?_⟩, fun c4 m e => ?_⟩⟩, fun c2 m e => ?_⟩⟩
  · rw [if_neg (by omega)]; exact ⟨rfl, e⟩
  · rw [if_pos ⟨c, c2⟩, if_neg (by omega)]; exact ⟨rfl, e⟩
  · rw [if_pos ⟨c, c2⟩, if_pos ⟨c3, c4⟩]; exact ⟨hr w k c c2 c3 c4, e⟩
  · rw [if_pos ⟨c, c2⟩, if_neg (by omega)]; exact ⟨rfl, e⟩
  · rw [if_neg (by omega)]; exact ⟨rfl, e⟩
theorem pX0_alikeStep {k : Int} (hd : 1 ≤ d) (hs : tS μ) (hn : 0 ≤ tm_v ν 65 53 ∧ tm_v ν 65 53 ≤ 5) (e : tm_v μ 1 29 = tm_v ν 65 53) (hr : ∀ k, 0 ≤ k → k < tm_v ν 65 53 → tm_v μ 44 k = tm_v ν 91 k) : cI (tWs [] [(1, 10)]) mX0_alikeStep d [(2, 1), (0, k)] μ (fun r μ' => r = (r_alikeStep ν k).1 ∧ μ' = tm_w μ 1 10 (r_alikeStep ν k).2) := by
  refine t_of (uX0_alikeStep_0 hd (tFr.rf hs) ?_)
  rw [e]
  unfold r_alikeStep
  refine ⟨fun c m e => ?_, fun c => ⟨fun c2 => ⟨by omega, fun m e => ?_⟩, fun c2 m e => ?_⟩⟩
  · rw [if_neg (by omega)]; exact ⟨rfl, e⟩
  · rw [if_pos ⟨c, c2⟩]; exact ⟨hr k c c2, e⟩
  · rw [if_neg (by omega)]; exact ⟨rfl, e⟩
theorem pX0_place {p w : Int} (hd : 2 ≤ d) (hs : tS μ) (hJ : JU μ ν) : cI (tWs [] [(1, 10)]) mX0_place d [(2, 1), (0, p), (0, w)] μ (fun r μ' => r = (r_place ν p w).1 ∧ μ' = tm_w μ 1 10 (r_place ν p w).2) := by
  refine t_of (uX0_place_0 (ν := ν) (by omega) (tFr.rf hs) ⟨hJ, fun cp => ⟨fun c m e => ?_, fun c0 => ⟨fun c5 => ⟨hJ.T, hJ.PA.1, ⟨cp.1, ?_⟩, fun x ex => ?_⟩, fun c m e => ?_⟩⟩, fun c m e => ?_⟩)
  · unfold r_place; rw [if_neg (fun q => q cp), if_pos (by omega)]; exact ⟨rfl, e⟩
  · have := hJ.PA.2
    have := hJ.1.1
    show p < tm_n μ (c_PA μ)
    omega
  · have hk : y_p ν p := ⟨hJ.1, cp⟩
    have ex' : x = c_P μ p := ex
    subst ex'
    obtain ⟨h1, h2, h3, h4, h5⟩ := hJ.P hk
    have hdg := (hk.1.2.2.1 p hk.2.1 hk.2.2).1
    have hln := (hk.1.2.2.1 p hk.2.1 hk.2.2).2.2.2.2
    rw [h3.2.2.2, h3.1, w32_id (x := w - 2) (by omega) (by omega)]
    have eA : tm_v μ (c_P μ p) 6 = c_A μ p := rfl
    refine ⟨fun c2 => ⟨h1, fun c3 m e => ?_, fun c3 => ⟨h4.1, ?_⟩⟩, fun c2 => ⟨fun c3 => ⟨h1, fun m e => ?_⟩, fun c3 => ⟨h1, fun m e => ?_⟩⟩⟩
    · unfold r_place; rw [if_neg (fun q => q cp), if_neg (by omega), if_neg (by omega), if_neg (by omega), if_neg (by omega)]; exact ⟨rfl, e⟩
    · rw [eA, h4.2, h5 (w - 2) (by omega) (by omega)]
      have hl := (hln (w - 2) (by omega) (by omega)).1
      obtain ⟨l1, l2, l3, l4⟩ := hJ.L hl.1 hl.2
      refine ⟨by omega, l1, ?_⟩
      refine tC.R (pX8_other hs hJ hl.1 hl.2 hk) (fun r m fm hr => ?_)
      have em := fm.same
      subst em
      have hov : y_p ν (y_over ν (tm_v ν 74 (4 * p + (w - 2))) p) := by
        have := (y_leads_p hk (k := w - 2) (by omega) (by omega)).1
        unfold y_leads at this
        rw [if_pos ⟨by omega, by omega⟩] at this
        exact this
      rw [hr]
      refine ⟨(hJ.P hov).1, fun m2 e2 => ?_⟩
      rw [(hJ.P hov).2.1]
      unfold r_place y_leads
      rw [if_neg (fun q => q cp), if_neg (by omega), if_neg (by omega), if_neg (by omega), if_pos c3, if_pos ⟨by omega, c3⟩]
      exact ⟨rfl, e2⟩
    · unfold r_place; rw [if_neg (fun q => q cp), if_neg (by omega), if_neg c3, if_pos (by omega)]; exact ⟨rfl, e⟩
    · unfold r_place; rw [if_neg (fun q => q cp), if_neg (by omega), if_pos c3]; exact ⟨rfl, e⟩
  · unfold r_place; rw [if_neg (fun q => q cp), if_pos (by omega)]; exact ⟨rfl, e⟩
  · unfold r_place; rw [if_pos c]; exact ⟨rfl, e⟩
end C0B
