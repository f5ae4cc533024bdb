/-! CONTRACTS of the component: shut, the door -/
section C0A2
variable {d : Nat} {μ μ0 ν : tm_M} {W : Int → Int → Prop} {w v : Int}
theorem pX0_shut {l x : Int} (hd : 1 ≤ d) (hs : tS μ) (hJ : JU μ ν) (hx : 0 ≤ x ∧ x ≤ 1) : cI (tWd [] [(1, 10)] (c_FA μ) μ) mX0_shut d [(2, 1), (0, l), (0, x)] μ (fun r m => if 0 ≤ l ∧ l < tm_v ν 65 21 then r = 1 ∧ m = tm_w (tm_w μ (c_L μ l) 2 x) 1 10 0 else r = 0 ∧ m = tm_w μ 1 10 2) := by
  have n12 := hJ.1.2.1
  refine t_of (uX0_shut_0 (ν := ν) (by omega) (tFr.rf hs) ⟨hJ, fun c => ⟨hJ.T, hJ.LA.1, ⟨c.1, ?_⟩, (hJ.L c.1 c.2).1, hx, fun m1 e1 m2 e2 => ?_⟩, fun c m e => ?_⟩)
  · have := hJ.LA.2
    show l < tm_n μ (c_LA μ)
    omega
  · rw [if_pos c, e2, e1]; exact ⟨rfl, rfl⟩
  · rw [if_neg c, e]; exact ⟨rfl, rfl⟩
abbrev WR (μ : tm_M) : Int → Int → Prop := tWf [7, 8, 10] [(1, 10), (1, 14), (1, 15), (1, 16)] (c_FA μ)
abbrev WRd (μ : tm_M) : Int → Int → Prop := tWd [7, 8, 10] [(1, 10), (1, 14), (1, 15), (1, 16)] (c_FA μ) μ
theorem pX0_door (hd : 6 ≤ d) (hs : tS μ) (hJ : JU μ ν) (hV : JV μ ν) (hF : JF μ ν) (hmk : tm_v μ 1 13 = tm_v ν 65 30) : cI (WRd μ) mX0_door d [(2, 1), (0, w), (0, v)] μ (fun r m => c_o (r_door ν w v) r m ∧ tFr (WR μ) μ m) := by
  have hf : dyA (c_FA μ) ∧ tm_k μ (c_FA μ) = 20 := ⟨hJ.FA.1.2, hJ.FA.1.1.2⟩
  have hT : y_TC (c_FA μ) (WR μ) := tWf_TC hf.1 ⟨rfl, rfl⟩
  have hC : y_VC (WR μ) := tWf_VC hf rfl
  have h13 : ¬ WR μ 1 13 := tWf_no hf (by decide) (tWs_noF rfl)
  have h21 := hJ.1.2.1
  have nLA := hJ.LA.2
  have hal := y_all_in hJ.1
  have toD : ∀ {m : tm_M}, tFr (WR μ) μ m → tFr (WRd μ) μ m := fun h => h.to (fun a j q => Or.inl q)
  have w10 : ∀ {m : tm_M} {j y : Int}, tFr (WR μ) μ m → (j = 10 ∨ j = 14 ∨ j = 15 ∨ j = 16) → tFr (WR μ) μ (tm_w m 1 j y) := by
    intro m j y h hj
    rcases hj with rfl | rfl | rfl | rfl <;> exact h.w (Or.inl (tWs_inF rfl)) (tS_wj h.S _ (by decide))
  have vF : ∀ {m : tm_M}, tFr (WR μ) μ m → JF m ν ∨ True := fun _ => Or.inr trivial
  -- one lane shut for a time
  have oneD : y_v ν w → y_v ν v → ∀ (m : tm_M) (l : Int), tFr (WR μ) μ m → 0 ≤ l → l < tm_v ν 65 21 → tm_v ν 80 l = 0 → ∀ (K' : Int → tm_M → Prop), (∀ m', tFr (WR μ) μ m' → tm_v m' 1 14 = tm_v m 1 14 → tm_v m' 1 15 = tm_v m 1 15 → K' (y_sum (tm_w ν 80 l 1) w v) m') →
      cL (tWf [7, 8, 10] [(1, 16)] (c_FA μ)) mX0_times (d - 1) [(2, 1), (0, w), (0, v)] (tm_w m (c_L μ l) 2 1) (fun r m21 => c_T m21 = c_T μ ∧ c_LA m21 = c_LA μ ∧ c_L m21 l = c_L μ l ∧ ∀ m27, m27 = tm_w m21 (c_L μ l) 2 0 → K' r m27) := by
    intro hw hv m l hm l0 l1 hz K' kk
    have Jm := JU_F hJ hm hT
    have Vm := JV_F hJ hV hm hT hC
    have eL : c_L m l = c_L μ l := c_L_F hJ hm hT l
    have hL := Jm.L l0 l1
    rw [eL] at hL
    have J2 := JU_shut (x := 1) Jm l0 l1 (by decide)
    have V2 := JV_shut (x := 1) Jm Vm l0 l1
    rw [eL] at J2 V2
    have S2 : tS (tm_w m (c_L μ l) 2 1) := tS_w hm.S (dyA_fr hL.1.2) _ _
    have ne1 : (1 : Int) ≠ c_L μ l := fun e => by have := hL.1.2; unfold dyA at this; omega
    have hmk2 : tm_v (tm_w m (c_L μ l) 2 1) 1 13 = tm_v (tm_w ν 80 l 1) 65 30 := by
      rw [tm_vw, if_neg (fun q => ne1 q.1), tm_vw, if_neg (by omega), hm.v h13]; exact hmk
    have eFA : c_FA (tm_w m (c_L μ l) 2 1) = c_FA μ := by
      rw [← c_FA_F hJ hm hT]
      unfold c_FA c_T
      have ht := ob_ne Jm.T hL.1 (by decide)
      unfold c_T at ht
      rw [tm_vw, if_neg (by intro q; exact ht (by rw [← q.1, tm_vw, if_neg (fun z => ne1 z.1)])), tm_vw, if_neg (fun q => ne1 q.1)]
    have ht := pX0_times (d := d - 1) (w := w) (v := v) (by omega) S2 J2 V2 hmk2 (y_v_80 hw) (y_v_80 hv)
    rw [eFA] at ht
    refine tC.L ht (fun r m21 f21 hr => ?_)
    have er : r = y_sum (tm_w ν 80 l 1) w v := hr.1
    have hTm : y_TC (c_FA μ) (tWf [7, 8, 10] [(1, 16)] (c_FA μ)) := tWf_TC hf.1 ⟨rfl, rfl⟩
    have J21 : JU m21 (tm_w ν 80 l 1) := JU_F J2 f21 (by rw [eFA]; exact hTm)
    have q1 : c_T m21 = c_T μ := by
      rw [c_T_F f21 (by rw [eFA]; exact hTm)]
      unfold c_T
      rw [tm_vw, if_neg (fun q => ne1 q.1)]
      exact c_T_F hm hT
    have q2 : c_LA m21 = c_LA μ := by
      rw [c_LA_F J2 f21 (by rw [eFA]; exact hTm), ← c_LA_F hJ hm hT]
      unfold c_LA c_T
      have ht := ob_ne Jm.T hL.1 (by decide)
      unfold c_T at ht
      rw [tm_vw, if_neg (by intro q; exact ht (by rw [← q.1, tm_vw, if_neg (fun z => ne1 z.1)])), tm_vw, if_neg (fun q => ne1 q.1)]
    have q3 : c_L m21 l = c_L μ l := by
      rw [c_L_F J2 f21 (by rw [eFA]; exact hTm)]
      show tm_v (tm_w m (c_L μ l) 2 1) (c_LA (tm_w m (c_L μ l) 2 1)) l = _
      have e1 : c_LA (tm_w m (c_L μ l) 2 1) = c_LA μ := by rw [← q2, c_LA_F J2 f21 (by rw [eFA]; exact hTm)]
      rw [e1, tm_vw, if_neg (fun q => ob_ne hJ.LA.1 (show ob μ (c_L μ l) 8 from (hJ.L l0 l1).1) (by decide) q.1)]
      have h9 : tm_v m (c_LA m) l = c_L μ l := c_L_F hJ hm hT l
      rw [c_LA_F hJ hm hT] at h9
      exact h9
    refine ⟨q1, q2, q3, fun m27 e27 => ?_⟩
    rw [er]
    have hv0 : tm_v μ (c_L μ l) 2 = 0 := by rw [(hJ.L l0 l1).2.2.2]; exact hz
    refine kk m27 ?_ ?_ ?_
    · have S27 : tS m27 := by rw [e27]; exact tS_w f21.S (dyA_fr hL.1.2) _ _
      refine ⟨S27, ?_, ?_, ?_, fun a j hn => ?_⟩
      · rw [e27]; exact f21.z.trans hm.z
      · rw [e27]; exact f21.k.trans hm.k
      · rw [e27]; exact f21.n.trans hm.n
      · rw [e27, tm_vw]
        by_cases e : a = c_L μ l ∧ j = 2
        · rw [if_pos e, e.1, e.2, hv0]
        · rw [if_neg e, f21.v (fun q => hn (tWf_sub rfl a j q)), tm_vw, if_neg e]
          exact hm.v hn
    · rw [e27, tm_vw, if_neg (fun q => ne1 q.1), f21.v (tWf_no hf (by decide) (tWs_noF rfl)), tm_vw, if_neg (fun q => ne1 q.1)]
    · rw [e27, tm_vw, if_neg (fun q => ne1 q.1), f21.v (tWf_no hf (by decide) (tWs_noF rfl)), tm_vw, if_neg (fun q => ne1 q.1)]
  have lanes : y_v ν w → y_v ν v → ∀ (n : Nat) (l b s : Int) (m : tm_M), 0 ≤ l → l + n = tm_v ν 65 21 → -1 ≤ s → (0 ≤ s → s ≤ 2000000) → (0 ≤ s → y_all ν ≠ 0) → tFr (WR μ) μ m → JF m ν → (y_dr ν w v n l b s = y_door ν w v) → hI (WRd μ) μ mX0_door d (fun r m => c_o (if (y_door ν w v).2 < 0 then (-1, 9, tm_v ν 65 2, tm_v ν 65 3) else ((y_door ν w v).1, 0, frt (y_door ν w v).2 (y_all ν), frb (y_door ν w v).2 (y_all ν))) r m ∧ tFr (WR μ) μ m) 37 [(0, 2, 1), (1, 0, w), (2, 0, v), (3, 0, b), (4, 1, s), (6, 0, l)] [] m := by
    intro hw hv n
    induction n with
    | zero =>
      intro l b s m l0 ln hs1 hs2 hs3 hm hFm hd0
      have Jm := JU_F hJ hm hT
      rw [y_dr] at hd0
      refine uX0_door_37 (ν := ν) (by omega) (toD hm) ?_
      have e3 : tm_v m (tm_v m 1 8) 3 = tm_v ν 65 21 := Jm.2.2.1.2.1
      have oT : ob μ (tm_v m 1 8) 4 := by have := hJ.T; rw [← c_T_F hm hT] at this; exact this
      rw [e3, ← hd0]
      refine ⟨oT, fun _ => ⟨fun c1 => ⟨Jm, ?_⟩, fun c1 m2 e2 => ?_⟩, fun c => by omega⟩
      · have hne := hs3 (by omega)
        refine tC.I (pX0_tell (by omega) hm.S (by have := hs2 (by omega); omega) (by omega)) (fun r m2 f2 h2 m3 e3 => ?_)
        have hv := c_fr_v (μ := m) s (y_all ν)
        dsimp only
        rw [if_neg (by omega)]
        refine ⟨⟨rfl, by rw [e3]; simp [tm_vw], ?_, ?_⟩, ?_⟩
        · rw [e3, tm_vw, if_neg (by omega), h2.2]; exact hv.2.1
        · rw [e3, tm_vw, if_neg (by omega), h2.2]; exact hv.2.2
        · rw [e3]; exact w10 (hm.tr f2 (tWf_subL rfl)) (by omega)
      · dsimp only
        rw [if_pos (by omega), e2]
        refine ⟨⟨rfl, by simp [tm_vw], ?_, ?_⟩, w10 hm (by omega)⟩
        · rw [tm_vw, if_neg (by omega)]; exact hFm.1
        · rw [tm_vw, if_neg (by omega)]; exact hFm.2
    | succ n ih =>
      intro l b s m l0 ln hs1 hs2 hs3 hm hFm hd0
      have Jm := JU_F hJ hm hT
      have l1 : l < tm_v ν 65 21 := by omega
      have hl80 := (hJ.1.2.2.2.1 l l0 l1).2.2.2
      have e1 : w32 (l + 1) = l + 1 := w32_id (by omega) (by omega)
      have e3 : tm_v m (tm_v m 1 8) 3 = tm_v ν 65 21 := Jm.2.2.1.2.1
      have oT : ob μ (tm_v m 1 8) 4 := by have := hJ.T; rw [← c_T_F hm hT] at this; exact this
      have oLA : ob μ (tm_v m (tm_v m 1 8) 1) 27 := by have := hJ.LA.1; rw [← c_LA_F hJ hm hT] at this; exact this
      have nLm : tm_n μ (tm_v m (tm_v m 1 8) 1) = 12 := by have : c_LA m = c_LA μ := c_LA_F hJ hm hT; unfold c_LA c_T at this; rw [this]; exact nLA
      have eLm : tm_v m (tm_v m (tm_v m 1 8) 1) l = c_L μ l := c_L_F hJ hm hT l
      have e80 : tm_v m (c_L μ l) 2 = tm_v ν 80 l := by rw [← c_L_F hJ hm hT]; exact (Jm.L l0 l1).2.2.2
      rw [y_dr] at hd0
      have nx : ∀ b' s' m', -1 ≤ s' → (0 ≤ s' → s' ≤ 2000000) → (0 ≤ s' → y_all ν ≠ 0) → tFr (WR μ) μ m' → JF m' ν → y_dr ν w v n (l + 1) b' s' = y_door ν w v → hI (WRd μ) μ mX0_door d (fun r m => c_o (if (y_door ν w v).2 < 0 then (-1, 9, tm_v ν 65 2, tm_v ν 65 3) else ((y_door ν w v).1, 0, frt (y_door ν w v).2 (y_all ν), frb (y_door ν w v).2 (y_all ν))) r m ∧ tFr (WR μ) μ m) 140 [(0, 2, 1), (1, 0, w), (2, 0, v), (3, 0, b'), (4, 1, s'), (6, 0, l)] [] m' := by
        intro b' s' m' g1 g2 g3 g4 g5 g6
        refine uX0_door_140 (toD g4) ?_
        rw [e1]
        exact ih (l + 1) b' s' m' (by omega) (by omega) g1 g2 g3 g4 g5 g6
      refine uX0_door_37 (ν := ν) (by omega) (toD hm) ?_
      rw [e3, eLm, nLm, e80]
      refine ⟨oT, fun c => by omega, fun _ => ⟨oLA, by omega, (hJ.L l0 l1).1, fun c0 m20 e20 => ?_, fun c0 => ?_⟩⟩
      · rw [if_neg (fun q => q c0)] at hd0
        rw [e20]
        refine tC.L (oneD hw hv m l hm l0 l1 c0 (fun r22 m27 => (r22 = -1 → hI (WRd μ) μ mX0_door d (fun r m => c_o (if (y_door ν w v).2 < 0 then (-1, 9, tm_v ν 65 2, tm_v ν 65 3) else ((y_door ν w v).1, 0, frt (y_door ν w v).2 (y_all ν), frb (y_door ν w v).2 (y_all ν))) r m ∧ tFr (WR μ) μ m) 140 [(0, 2, 1), (1, 0, w), (2, 0, v), (3, 0, b), (4, 1, s), (6, 0, l)] [] m27) ∧ (r22 ≠ -1 → (s = -1 → hI (WRd μ) μ mX0_door d (fun r m => c_o (if (y_door ν w v).2 < 0 then (-1, 9, tm_v ν 65 2, tm_v ν 65 3) else ((y_door ν w v).1, 0, frt (y_door ν w v).2 (y_all ν), frb (y_door ν w v).2 (y_all ν))) r m ∧ tFr (WR μ) μ m) 133 [(0, 2, 1), (1, 0, w), (2, 0, v), (6, 0, l), (7, 1, r22)] [] m27) ∧ (s ≠ -1 → (r22 < s → hI (WRd μ) μ mX0_door d (fun r m => c_o (if (y_door ν w v).2 < 0 then (-1, 9, tm_v ν 65 2, tm_v ν 65 3) else ((y_door ν w v).1, 0, frt (y_door ν w v).2 (y_all ν), frb (y_door ν w v).2 (y_all ν))) r m ∧ tFr (WR μ) μ m) 133 [(0, 2, 1), (1, 0, w), (2, 0, v), (6, 0, l), (7, 1, r22)] [] m27) ∧ (s ≤ r22 → hI (WRd μ) μ mX0_door d (fun r m => c_o (if (y_door ν w v).2 < 0 then (-1, 9, tm_v ν 65 2, tm_v ν 65 3) else ((y_door ν w v).1, 0, frt (y_door ν w v).2 (y_all ν), frb (y_door ν w v).2 (y_all ν))) r m ∧ tFr (WR μ) μ m) 140 [(0, 2, 1), (1, 0, w), (2, 0, v), (3, 0, b), (4, 1, s), (6, 0, l)] [] m27)))) (fun m' g1 g2 g3 => ?_)) (fun r m21 f21 hq => ?_)
        rotate_left
        · obtain ⟨q1, q2, q3, q4⟩ := hq
          have z1 : tm_v m21 1 8 = c_T μ := q1
          have z2 : tm_v m21 (tm_v m21 1 8) 1 = c_LA μ := q2
          have z3 : tm_v m21 (tm_v m21 (tm_v m21 1 8) 1) l = c_L μ l := q3
          rw [z3, z2, z1]
          exact ⟨hJ.T, hJ.LA.1, by omega, (hJ.L l0 l1).1, q4⟩
        have hFm' : JF m' ν := ⟨by rw [g2]; exact hFm.1, by rw [g3]; exact hFm.2⟩
        have hsum := y_sum_in (μ := tm_w ν 80 l 1) (y_W_80 hJ.1 (by decide)) w v
        have hsa : 0 ≤ y_sum (tm_w ν 80 l 1) w v → y_all ν ≠ 0 := fun h => by have := y_sum_all (μ := tm_w ν 80 l 1) (w := w) (v := v) (by omega); rw [y_all_80] at this; exact this
        refine ⟨fun c1 => nx b s m' hs1 hs2 hs3 g1 hFm' (by rw [if_pos (by omega)] at hd0; exact hd0), fun c1 => ?_⟩
        rw [if_neg (by omega)] at hd0
        have take : y_dr ν w v n (l + 1) l (y_sum (tm_w ν 80 l 1) w v) = y_door ν w v → hI (WRd μ) μ mX0_door d (fun r m => c_o (if (y_door ν w v).2 < 0 then (-1, 9, tm_v ν 65 2, tm_v ν 65 3) else ((y_door ν w v).1, 0, frt (y_door ν w v).2 (y_all ν), frb (y_door ν w v).2 (y_all ν))) r m ∧ tFr (WR μ) μ m) 133 [(0, 2, 1), (1, 0, w), (2, 0, v), (6, 0, l), (7, 1, y_sum (tm_w ν 80 l 1) w v)] [] m' := fun h => uX0_door_133 (toD g1) (nx l _ m' (by omega) (fun _ => by omega) hsa g1 hFm' h)
        refine ⟨fun c2 => take (by rw [if_pos (by omega)] at hd0; exact hd0), fun c2 => ?_⟩
        rw [if_neg (by omega)] at hd0
        exact ⟨fun c3 => take (by rw [if_pos c3] at hd0; exact hd0), fun c3 => nx b s m' hs1 hs2 hs3 g1 hFm' (by rw [if_neg (by omega)] at hd0; exact hd0)⟩
      · rw [if_pos c0] at hd0
        exact nx b s m hs1 hs2 hs3 hm hFm hd0
  unfold r_door
  have no : ¬ ((0 ≤ w ∧ w < tm_v ν 65 43) ∧ 0 ≤ v ∧ v < tm_v ν 65 43) → hI (WRd μ) μ mX0_door d (fun r m => c_o (if ¬ ((0 ≤ w ∧ w < tm_v ν 65 43) ∧ 0 ≤ v ∧ v < tm_v ν 65 43) then (-1, 2, tm_v ν 65 2, tm_v ν 65 3) else if (y_door ν w v).2 < 0 then (-1, 9, tm_v ν 65 2, tm_v ν 65 3) else ((y_door ν w v).1, 0, frt (y_door ν w v).2 (y_all ν), frb (y_door ν w v).2 (y_all ν))) r m ∧ tFr (WR μ) μ m) 18 [(0, 2, 1)] [] μ := fun h => uX0_door_18 (by omega) (tFr.rf hs) (fun m e => by
    rw [if_pos h, e]
    exact ⟨⟨rfl, by simp [tm_vw], by simp [tm_vw]; exact hF.1, by simp [tm_vw]; exact hF.2⟩, w10 (tFr.rf hs) (by omega)⟩)
  refine t_of (uX0_door_0 (ν := ν) (by omega) (tFr.rf hs) ⟨hV, fun c => no (fun q => c q.1), fun cw => ⟨fun cv => ?_, fun c => no (fun q => c q.2)⟩⟩)
  rw [if_neg (fun q => q ⟨cw, cv⟩)]
  have hw : y_v ν w := ⟨hV.1, cw⟩
  have hv : y_v ν v := ⟨hV.1, cv⟩
  refine tC.L (pX0_times (by omega) hs hJ hV hmk hw hv) (fun r m2 f2 hr => ?_)
  have er : r = y_sum ν w v := hr.1
  have hsum := y_sum_in (μ := ν) hJ.1 w v
  rw [er]
  exact lanes hw hv (tm_v ν 65 21).toNat 0 (-1) (y_sum ν w v) m2 (by omega) (by omega) (by omega) (fun _ => by omega) (fun h => y_sum_all (w := w) (v := v) (by omega)) (f2.to (tWf_sub rfl)) ⟨by rw [f2.v (tWf_no hf (by decide) (tWs_noF rfl))]; exact hF.1, by rw [f2.v (tWf_no hf (by decide) (tWs_noF rfl))]; exact hF.2⟩ rfl
end C0A2
