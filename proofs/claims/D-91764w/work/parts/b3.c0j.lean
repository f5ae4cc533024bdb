/-! CONTRACTS of the component: times, mean, worst -/
section C0J
variable {d : Nat} {μ μ0 ν : tm_M} {W : Int → Int → Prop} {a b w v : Int}
theorem pX0_meetF (hd : 4 ≤ d) (hs : tFr W μ0 μ) (hT : y_TC (c_FA μ0) W) (hC : y_VC W) (h13 : ¬ W 1 13) (hJ : JU μ0 ν) (hV : JV μ0 ν) (hmk : tm_v μ0 1 13 = tm_v ν 65 30) (hw : y_v ν w) (hv : y_v ν v) (ha : y_p ν a) (hb : y_p ν b) : cI (tWf [7, 8, 10] [] (c_FA μ0)) mX0_meet d [(2, 1), (0, w), (0, v), (0, a), (0, b)] μ (fun r _ => r = y_walk ν w v a b) := by
  have h0 := pX0_meet (d := d) hd hs.S (JU_F hJ hs hT) (JV_F hJ hV hs hT hC) (by rw [hs.v h13]; exact hmk) hw hv ha hb
  rw [c_FA_F hJ hs hT] at h0
  exact h0
theorem y_all_ge (hW : y_W ν) (ha : y_p ν a) (hb : y_p ν b) : y_likely ν a b ≤ y_all ν := by
  have hN : (y_n ν : Int) = tm_v ν 65 20 := by unfold y_n; have := hW.1; omega
  have ea : ((a.toNat : Nat) : Int) = a := by have := ha.2; omega
  have eb : ((b.toNat : Nat) : Int) = b := by have := hb.2; omega
  have pl : ∀ i : Nat, i < y_n ν → y_p ν (i : Int) := fun i hi => ⟨hW, by omega, by omega⟩
  have h1 : ∀ i : Nat, i < y_n ν → 0 ≤ sm (fun b => y_likely ν i b) (y_n ν) := fun i hi => sm_nn (fun j hj => (y_lik_in (pl i hi) (pl j hj)).1)
  have h2 := sm_get (f := fun a => sm (fun b => y_likely ν a b) (y_n ν)) (n := y_n ν) (j := a.toNat) h1 (by have := ha.2; omega)
  have h3 := sm_get (f := fun b => y_likely ν a b) (n := y_n ν) (j := b.toNat) (fun j hj => (y_lik_in ha (pl j hj)).1) (by have := hb.2; omega)
  rw [ea] at h2
  rw [eb] at h3
  unfold y_all
  omega
theorem y_all_z (hW : y_W ν) (h : ∀ a b, y_p ν a → y_p ν b → y_likely ν a b = 0) : y_all ν = 0 := by
  have hN : (y_n ν : Int) = tm_v ν 65 20 := by unfold y_n; have := hW.1; omega
  unfold y_all
  exact sm_z (fun i hi => sm_z (fun j hj => h i j ⟨hW, by omega, by omega⟩ ⟨hW, by omega, by omega⟩))
def tmK (ν : tm_M) (w v r : Int) (m : tm_M) : Prop := r = y_sum ν w v ∧ (0 ≤ r → tm_v m 1 16 = y_wst ν w v (tm_v ν 65 20 * tm_v ν 65 20).toNat 0 0)
theorem pX0_times (hd : 5 ≤ d) (hs : tS μ) (hJ : JU μ ν) (hV : JV μ ν) (hmk : tm_v μ 1 13 = tm_v ν 65 30) (hw : y_v ν w) (hv : y_v ν v) : cL (tWf [7, 8, 10] [(1, 16)] (c_FA μ)) mX0_times d [(2, 1), (0, w), (0, v)] μ (tmK ν w v) := by
  have hW := hJ.1
  have h20 := hW.1
  have hnn := nn_in h20
  have hf : dyA (c_FA μ) ∧ tm_k μ (c_FA μ) = 20 := ⟨hJ.FA.1.2, hJ.FA.1.1.2⟩
  have hT : y_TC (c_FA μ) (tWf [7, 8, 10] [(1, 16)] (c_FA μ)) := tWf_TC hf.1 ⟨rfl, rfl⟩
  have hC : y_VC (tWf [7, 8, 10] [(1, 16)] (c_FA μ)) := tWf_VC hf rfl
  have h13 : ¬ tWf [7, 8, 10] [(1, 16)] (c_FA μ) 1 13 := tWf_no hf (by decide) (tWs_noF rfl)
  have eN : tm_v μ (tm_v μ 1 8) 2 = tm_v ν 65 20 := hJ.2.2.1.1
  have w16 : ∀ {m : tm_M} {y : Int}, tFr (tWf [7, 8, 10] [(1, 16)] (c_FA μ)) μ m → tFr (tWf [7, 8, 10] [(1, 16)] (c_FA μ)) μ (tm_w m 1 16 y) := fun h => h.w (Or.inl (tWs_inF rfl)) (tS_wj h.S _ (by decide))
  have inner : ∀ (n : Nat) (a b acc any : Int) (m : tm_M), 0 ≤ a → a < tm_v ν 65 20 → 0 ≤ b → b + n = tm_v ν 65 20 → 0 ≤ acc → acc ≤ 16200 * (tm_v ν 65 20 * a + b) → tFr (tWf [7, 8, 10] [(1, 16)] (c_FA μ)) μ m →
      y_tot ν w v (tm_v ν 65 20 * tm_v ν 65 20 - (tm_v ν 65 20 * a + b)).toNat (tm_v ν 65 20 * a + b) acc = y_tot ν w v (tm_v ν 65 20 * tm_v ν 65 20).toNat 0 0 →
      y_wst ν w v (tm_v ν 65 20 * tm_v ν 65 20 - (tm_v ν 65 20 * a + b)).toNat (tm_v ν 65 20 * a + b) (tm_v m 1 16) = y_wst ν w v (tm_v ν 65 20 * tm_v ν 65 20).toNat 0 0 →
      ((any = 0 ∧ ∀ a' b', y_p ν a' → y_p ν b' → tm_v ν 65 20 * a' + b' < tm_v ν 65 20 * a + b → y_likely ν a' b' = 0) ∨ (any = 1 ∧ y_all ν ≠ 0)) →
      (∀ acc any m, tFr (tWf [7, 8, 10] [(1, 16)] (c_FA μ)) μ m → 0 ≤ acc → acc ≤ 16200 * (tm_v ν 65 20 * (a + 1)) → y_tot ν w v (tm_v ν 65 20 * tm_v ν 65 20 - (tm_v ν 65 20 * (a + 1))).toNat (tm_v ν 65 20 * (a + 1)) acc = y_tot ν w v (tm_v ν 65 20 * tm_v ν 65 20).toNat 0 0 → y_wst ν w v (tm_v ν 65 20 * tm_v ν 65 20 - (tm_v ν 65 20 * (a + 1))).toNat (tm_v ν 65 20 * (a + 1)) (tm_v m 1 16) = y_wst ν w v (tm_v ν 65 20 * tm_v ν 65 20).toNat 0 0 → ((any = 0 ∧ ∀ a' b', y_p ν a' → y_p ν b' → tm_v ν 65 20 * a' + b' < tm_v ν 65 20 * (a + 1) → y_likely ν a' b' = 0) ∨ (any = 1 ∧ y_all ν ≠ 0)) → hLo (tWf [7, 8, 10] [(1, 16)] (c_FA μ)) μ mX0_times d (tmK ν w v) 13 [(0, 2, 1), (1, 0, w), (2, 0, v), (3, 1, acc), (5, 0, any), (6, 0, a + 1)] [] m) →
      hLo (tWf [7, 8, 10] [(1, 16)] (c_FA μ)) μ mX0_times d (tmK ν w v) 28 [(0, 2, 1), (1, 0, w), (2, 0, v), (3, 1, acc), (5, 0, any), (6, 0, a), (7, 0, b)] [] m := by
    intro n
    induction n with
    | zero =>
      intro a b acc any m a0 a1 b0 bn c0 c1 hm he hwst han kk
      have q := na_in h20 a0 a1
      refine uX0_times_28 (ν := ν) (by omega) hf hm ⟨hJ.T, ?_⟩
      rw [eN, w32_id (x := a + 1) (by omega) (by omega)]
      have eb : tm_v ν 65 20 * (a + 1) = tm_v ν 65 20 * a + b := by omega
      refine ⟨fun _ => kk acc any m hm c0 (by omega) ?_ ?_ ?_, fun c => by omega⟩
      · rw [eb]; exact he
      · rw [eb]; exact hwst
      · rw [eb]; exact han
    | succ n ih =>
      intro a b acc any m a0 a1 b0 bn c0 c1 hm he hwst han kk
      have q := na_in h20 a0 a1
      have dm := dm_eq (n := tm_v ν 65 20) (a := a) (b := b) b0 (by omega)
      have pa : y_p ν a := ⟨hW, a0, a1⟩
      have pb : y_p ν b := ⟨hW, b0, by omega⟩
      have hl := y_lik_in pa pb
      have hwk := y_walk_in (μ := ν) w v a b
      have e1 : w32 (b + 1) = b + 1 := w32_id (by omega) (by omega)
      have ek : (tm_v ν 65 20 * tm_v ν 65 20 - (tm_v ν 65 20 * a + b)).toNat = (tm_v ν 65 20 * tm_v ν 65 20 - (tm_v ν 65 20 * a + (b + 1))).toNat + 1 := by omega
      rw [ek, y_tot, dm.1, dm.2, Int.add_assoc] at he
      rw [ek, y_wst, dm.1, dm.2, Int.add_assoc] at hwst
      have same : ∀ p' q', y_p ν p' → y_p ν q' → tm_v ν 65 20 * p' + q' < tm_v ν 65 20 * a + (b + 1) → tm_v ν 65 20 * p' + q' < tm_v ν 65 20 * a + b ∨ (p' = a ∧ q' = b) := by
        intro p' q' hp' hq' hl'
        by_cases e : tm_v ν 65 20 * p' + q' = tm_v ν 65 20 * a + b
        · right
          have d1 := dm_eq (n := tm_v ν 65 20) (a := p') (b := q') hq'.2.1 hq'.2.2
          rw [e] at d1
          exact ⟨by rw [← d1.1, dm.1], by rw [← d1.2, dm.2]⟩
        · left; omega
      refine uX0_times_28 (ν := ν) (by omega) hf hm ⟨hJ.T, ?_⟩
      rw [eN]
      refine ⟨fun c => by omega, fun _ => ⟨⟨hJ, pa, pb⟩, fun c2 => ?_, fun c2 => ?_⟩⟩
      · rw [if_neg c2] at he
        rw [if_neg (by omega)] at hwst
        have hal : y_all ν ≠ 0 := by have := y_all_ge hW pa pb; omega
        refine tC.I (pX0_meetF (by omega) hm hT hC h13 hJ hV hmk hw hv pa pb) (fun r m2 f2 hr => ?_)
        subst hr
        have F2 := hm.tr f2 (tWf_sub rfl)
        have v16 : tm_v m2 1 16 = tm_v m 1 16 := f2.v (tWf_no hf (by decide) (tWs_noF rfl))
        refine ⟨fun c3 => ?_, fun c3 => ?_⟩
        · rw [if_neg (by omega)] at he
          rw [v16]
          intro m3 e3
          rintro _ rfl
          have hmb := mul_bd hl (show 0 ≤ y_walk ν w v a b ∧ y_walk ν w v a b ≤ 200 by omega)
          rw [e1, w64_id (x := y_likely ν a b * y_walk ν w v a b) (by omega) (by omega), w64_id (by omega) (by omega)]
          refine ih a (b + 1) _ 1 m3 a0 a1 (by omega) (by omega) (by omega) (by omega) (by rw [e3]; exact w16 F2) he ?_ (Or.inr ⟨rfl, hal⟩) kk
          rw [e3, tm_vw, if_pos ⟨rfl, rfl⟩]; exact hwst
        · rw [if_pos (by omega)] at he
          refine ⟨?_, fun h => absurd h (by decide)⟩
          unfold y_sum
          rw [if_neg hal]; exact he
      · rw [if_pos c2] at he
        rw [if_pos (by omega)] at hwst
        rw [e1]
        refine ih a (b + 1) acc any m a0 a1 (by omega) (by omega) c0 (by omega) hm he hwst ?_ kk
        rcases han with ⟨h1, h2⟩ | h
        · left
          refine ⟨h1, fun p' q' hp' hq' hl' => ?_⟩
          rcases same p' q' hp' hq' hl' with h3 | ⟨h3, h4⟩
          · exact h2 p' q' hp' hq' h3
          · rw [h3, h4]; exact c2
        · exact Or.inr h
  have outer : ∀ (n : Nat) (a acc any : Int) (m : tm_M), 0 ≤ a → a + n = tm_v ν 65 20 → 0 ≤ acc → acc ≤ 16200 * (tm_v ν 65 20 * a) → tFr (tWf [7, 8, 10] [(1, 16)] (c_FA μ)) μ m → y_tot ν w v (tm_v ν 65 20 * tm_v ν 65 20 - (tm_v ν 65 20 * a)).toNat (tm_v ν 65 20 * a) acc = y_tot ν w v (tm_v ν 65 20 * tm_v ν 65 20).toNat 0 0 → y_wst ν w v (tm_v ν 65 20 * tm_v ν 65 20 - (tm_v ν 65 20 * a)).toNat (tm_v ν 65 20 * a) (tm_v m 1 16) = y_wst ν w v (tm_v ν 65 20 * tm_v ν 65 20).toNat 0 0 → ((any = 0 ∧ ∀ a' b', y_p ν a' → y_p ν b' → tm_v ν 65 20 * a' + b' < tm_v ν 65 20 * a → y_likely ν a' b' = 0) ∨ (any = 1 ∧ y_all ν ≠ 0)) → hLo (tWf [7, 8, 10] [(1, 16)] (c_FA μ)) μ mX0_times d (tmK ν w v) 13 [(0, 2, 1), (1, 0, w), (2, 0, v), (3, 1, acc), (5, 0, any), (6, 0, a)] [] m := by
    intro n
    induction n with
    | zero =>
      intro a acc any m a0 an c0 c1 hm he hwst han
      refine uX0_times_13 hf hm ⟨hJ.T, ?_⟩
      rw [eN]
      have ea : a = tm_v ν 65 20 := by omega
      rw [ea, show (tm_v ν 65 20 * tm_v ν 65 20 - tm_v ν 65 20 * tm_v ν 65 20).toNat = 0 by omega] at he hwst
      rw [y_tot] at he
      rw [y_wst] at hwst
      refine ⟨fun _ => ⟨fun c => ⟨?_, fun h => absurd h (by decide)⟩, fun c => ⟨?_, fun _ => hwst⟩⟩, fun c => by omega⟩
      · unfold y_sum
        rw [if_pos]
        rcases han with ⟨h1, h2⟩ | ⟨h1, _⟩
        · refine y_all_z hW (fun p q hp hq => h2 p q hp hq ?_)
          have := na_in h20 hp.2.1 hp.2.2
          have := hq.2
          rw [ea]; omega
        · omega
      · unfold y_sum
        rcases han with ⟨h1, _⟩ | ⟨_, h2⟩
        · omega
        · rw [if_neg h2]; exact he
    | succ n ih =>
      intro a acc any m a0 an c0 c1 hm he hwst han
      refine uX0_times_13 hf hm ⟨hJ.T, ?_⟩
      rw [eN]
      refine ⟨fun c => by omega, fun c => ?_⟩
      refine inner (tm_v ν 65 20).toNat a 0 acc any m a0 c (by omega) (by omega) c0 (by omega) hm (by rw [Int.add_zero]; exact he) (by rw [Int.add_zero]; exact hwst) (by rw [Int.add_zero]; exact han) (fun acc' any' m' g1 g2 g3 g4 g5 g6 => ih (a + 1) acc' any' m' (by omega) (by omega) g2 g3 g1 g4 g5 g6)
  refine t_of (uX0_times_0 hf (tFr.rf hs) (fun m1 e1 => ?_))
  refine outer (tm_v ν 65 20).toNat 0 0 0 m1 (by omega) (by omega) (by omega) (by omega) (by rw [e1]; exact w16 (tFr.rf hs)) (by simp only [Int.mul_zero, Int.sub_zero]) ?_ (Or.inl ⟨rfl, fun p q hp hq h => ?_⟩)
  · rw [e1, tm_vw, if_pos ⟨rfl, rfl⟩]; simp only [Int.mul_zero, Int.sub_zero]
  · have := Int.mul_nonneg h20.1 hp.2.1
    have := hq.2
    omega
theorem pX0_worst (hd : 6 ≤ d) (hs : tS μ) (hJ : JU μ ν) (hV : JV μ ν) (hmk : tm_v μ 1 13 = tm_v ν 65 30) : cI (tWf [7, 8, 10] [(1, 10), (1, 16)] (c_FA μ)) mX0_worst d [(2, 1), (0, w), (0, v)] μ (fun r m => r = (r_worst ν w v).1 ∧ tm_v m 1 10 = (r_worst ν w v).2) := by
  have hf : dyA (c_FA μ) ∧ tm_k μ (c_FA μ) = 20 := ⟨hJ.FA.1.2, hJ.FA.1.1.2⟩
  refine t_of (uX0_worst_0 (ν := ν) (by omega) hf (tFr.rf hs) ⟨hV, fun c m e => ?_, fun cw => ⟨fun cv => ?_, fun c m e => ?_⟩⟩)
  · unfold r_worst; rw [if_pos (by omega), e]; simp [tm_vw]
  · refine tC.L (pX0_times (by omega) hs hJ hV hmk ⟨hV.1, cw⟩ ⟨hV.1, cv⟩) (fun r m1 f1 hr => ?_)
    have hin := y_sum_in hJ.1 w v
    unfold r_worst
    rw [if_neg (by omega)]
    refine ⟨fun c m e => ?_, fun c m e => ?_⟩
    · have h1 := hr.1
      rw [if_neg (by omega), hr.2 (by omega), e]; simp [tm_vw]
    · have h1 := hr.1
      rw [if_pos (by omega), e]; simp [tm_vw]
  · unfold r_worst; rw [if_pos (by omega), e]; simp [tm_vw]
end C0J
