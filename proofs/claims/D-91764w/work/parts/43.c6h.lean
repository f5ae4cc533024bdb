/-! CONTRACTS of the model: means, worst, door -/
theorem mul_bd {x y a b : Int} (hx : 0 ≤ x ∧ x ≤ a) (hy : 0 ≤ y ∧ y ≤ b) : 0 ≤ x * y ∧ x * y ≤ a * b := ⟨Int.mul_nonneg hx.1 hy.1, Int.mul_le_mul hx.2 hy.2 hy.1 (by omega)⟩
section C6H
variable {d : Nat} {μ μ0 : tm_M} {W : Int → Int → Prop}
theorem y_lik_in {a b : Int} (ha : y_p μ a) (hb : y_p μ b) : 0 ≤ y_likely μ a b ∧ y_likely μ a b ≤ 81 := by
  have h1 := (ha.1.2.2.1 a ha.2.1 ha.2.2).2.2.1
  have h2 := (hb.1.2.2.1 b hb.2.1 hb.2.2).2.2.2.1
  exact mul_bd h1 h2
/-- the sum of all times by likelihood, from a pair on; -1 if some never meet -/
noncomputable def y_tot (μ : tm_M) (w v : Int) : Nat → Int → Int → Int
  | 0, _, acc => acc
  | k + 1, i, acc => if y_likely μ (i / tm_v μ 65 20) (i % tm_v μ 65 20) = 0 then y_tot μ w v k (i + 1) acc
    else if y_walk μ w v (i / tm_v μ 65 20) (i % tm_v μ 65 20) < 0 then -1
    else y_tot μ w v k (i + 1) (acc + y_likely μ (i / tm_v μ 65 20) (i % tm_v μ 65 20) * y_walk μ w v (i / tm_v μ 65 20) (i % tm_v μ 65 20))
noncomputable def y_sum (μ : tm_M) (w v : Int) : Int := if y_all μ = 0 then -1 else y_tot μ w v (tm_v μ 65 20 * tm_v μ 65 20).toNat 0 0
theorem y_totF (hs : tFr W μ0 μ) (hw : y_T W) (w v : Int) (k : Nat) : ∀ i acc, y_tot μ w v k i acc = y_tot μ0 w v k i acc := by
  induction k with
  | zero => intro i acc; rfl
  | succ k ih =>
    intro i acc
    rw [y_tot, y_tot]
    simp only [ih, y_f20 hs hw, y_likely_F hs hw, y_walk_F hs hw]
theorem y_sum_F (hs : tFr W μ0 μ) (hw : y_T W) (w v : Int) : y_sum μ w v = y_sum μ0 w v := by
  unfold y_sum
  rw [y_all_F hs hw, y_totF hs hw, y_f20 hs hw]
theorem dm_p {i : Int} (hW : y_W μ) (h0 : 0 ≤ i) (h1 : i < tm_v μ 65 20 * tm_v μ 65 20) : y_p μ (i / tm_v μ 65 20) ∧ y_p μ (i % tm_v μ 65 20) := by
  have h20 := hW.1
  have hn : 0 < tm_v μ 65 20 := by
    apply Classical.byContradiction
    intro h
    rw [show tm_v μ 65 20 = 0 by omega] at h1
    omega
  refine ⟨⟨hW, Int.ediv_nonneg h0 (by omega), Int.ediv_lt_of_lt_mul hn h1⟩, ⟨hW, Int.emod_nonneg _ (by omega), Int.emod_lt_of_pos _ hn⟩⟩
theorem y_tot_in (hW : y_W μ) (w v : Int) (k : Nat) : ∀ i acc, 0 ≤ i → i + k ≤ tm_v μ 65 20 * tm_v μ 65 20 → 0 ≤ acc → acc ≤ 16200 * i → -1 ≤ y_tot μ w v k i acc ∧ y_tot μ w v k i acc ≤ 16200 * (i + k) := by
  induction k with
  | zero => intro i acc h1 h2 h3 h4; rw [y_tot]; omega
  | succ k ih =>
    intro i acc h1 h2 h3 h4
    have hp := dm_p hW h1 (by omega)
    have hl := y_lik_in hp.1 hp.2
    have hw := y_walk_in (μ := μ) w v (i / tm_v μ 65 20) (i % tm_v μ 65 20)
    rw [y_tot]
    split
    · have := ih (i + 1) acc (by omega) (by omega) h3 (by omega)
      omega
    · split
      · omega
      · have hm := mul_bd hl (show 0 ≤ y_walk μ w v (i / tm_v μ 65 20) (i % tm_v μ 65 20) ∧ y_walk μ w v (i / tm_v μ 65 20) (i % tm_v μ 65 20) ≤ 200 by omega)
        have := ih (i + 1) (acc + y_likely μ (i / tm_v μ 65 20) (i % tm_v μ 65 20) * y_walk μ w v (i / tm_v μ 65 20) (i % tm_v μ 65 20)) (by omega) (by omega) (by omega) (by omega)
        omega
theorem y_sum_in (hW : y_W μ) (w v : Int) : -1 ≤ y_sum μ w v ∧ y_sum μ w v ≤ 1036800 := by
  have hn := nn_in hW.1
  have := y_tot_in hW w v (tm_v μ 65 20 * tm_v μ 65 20).toNat 0 0 (by omega) (by omega) (by omega) (by omega)
  unfold y_sum
  split <;> omega
theorem pX6_sumOf {w v : Int} (hd : 4 ≤ d) (hs : tS μ) (hW : y_W μ) (hw : y_v μ w) (hv : y_v μ v) : cL wX6_sumOf mX6_sumOf d [(2, 65), (0, w), (0, v)] μ (fun r _ => r = y_sum μ w v) := by
  have h20 := hW.1
  have hnn := nn_in h20
  have inner : y_all μ ≠ 0 → ∀ (n : Nat) (a b acc : Int) (m : tm_M), 0 ≤ a → a < tm_v μ 65 20 → 0 ≤ b → b + n = tm_v μ 65 20 → 0 ≤ acc → acc ≤ 16200 * (tm_v μ 65 20 * a + b) → tFr wX6_sumOf μ m → y_tot μ w v (tm_v μ 65 20 * tm_v μ 65 20 - (tm_v μ 65 20 * a + b)).toNat (tm_v μ 65 20 * a + b) acc = y_sum μ w v →
      (∀ acc' m', tFr wX6_sumOf μ m' → 0 ≤ acc' → acc' ≤ 16200 * (tm_v μ 65 20 * (a + 1)) → y_tot μ w v (tm_v μ 65 20 * tm_v μ 65 20 - (tm_v μ 65 20 * (a + 1))).toNat (tm_v μ 65 20 * (a + 1)) acc' = y_sum μ w v → hLo wX6_sumOf μ mX6_sumOf d (fun r _ => r = y_sum μ w v) 18 [(0, 2, 65), (1, 0, w), (2, 0, v), (3, 1, acc'), (5, 0, a + 1)] [] m') →
      hLo wX6_sumOf μ mX6_sumOf d (fun r _ => r = y_sum μ w v) 30 [(0, 2, 65), (1, 0, w), (2, 0, v), (3, 1, acc), (5, 0, a), (6, 0, b)] [] m := by
    intro hal n
    induction n with
    | zero =>
      intro a b acc m a0 a1 b0 bn c0 c1 hm he kk
      have q := na_in h20 a0 a1
      refine uX6_sumOf_30 (by omega) hm ⟨fun c => ?_, fun c => by omega⟩
      rw [w32_id (by omega) (by omega)]
      refine kk acc m hm c0 (by omega) ?_
      rw [q.2.2, show tm_v μ 65 20 * a + tm_v μ 65 20 = tm_v μ 65 20 * a + b by omega]
      exact he
    | succ n ih =>
      intro a b acc m a0 a1 b0 bn c0 c1 hm he kk
      have q := na_in h20 a0 a1
      have dm := dm_eq (n := tm_v μ 65 20) (a := a) (b := b) b0 (by omega)
      have pa : y_p μ a := ⟨hW, a0, a1⟩
      have pb : y_p μ b := ⟨hW, b0, by omega⟩
      have hl := y_lik_in pa pb
      have hwk := y_walk_in (μ := μ) w v a b
      have e1 : w32 (b + 1) = b + 1 := w32_id (by omega) (by omega)
      rw [show (tm_v μ 65 20 * tm_v μ 65 20 - (tm_v μ 65 20 * a + b)).toNat = (tm_v μ 65 20 * tm_v μ 65 20 - (tm_v μ 65 20 * a + (b + 1))).toNat + 1 by omega, y_tot, dm.1, dm.2, Int.add_assoc] at he
      refine uX6_sumOf_30 (by omega) hm ⟨fun c => by omega, fun c => ⟨⟨pa, pb⟩, fun c2 => ?_, fun c2 => ?_⟩⟩
      · rw [if_neg c2] at he
        refine tC.I (pX6_walkF (by omega) hm (tWs_T rfl) hw hv pa pb) ?_
        rintro r m2 f2 rfl
        have hm2 : tFr wX6_sumOf μ m2 := hm.tr f2 (tWs_sub rfl)
        refine ⟨fun c3 => ?_, fun c3 => ?_⟩
        · rw [if_neg (by omega)] at he
          rintro _ rfl
          have hmb := mul_bd hl (show 0 ≤ y_walk μ w v a b ∧ y_walk μ w v a b ≤ 200 by omega)
          rw [e1, w64_id (x := y_likely μ a b * y_walk μ w v a b) (by omega) (by omega), w64_id (by omega) (by omega)]
          exact ih a (b + 1) _ m2 a0 a1 (by omega) (by omega) (by omega) (by omega) hm2 he kk
        · rw [if_pos c3] at he
          exact he
      · rw [if_pos c2] at he
        rw [e1]
        exact ih a (b + 1) acc m a0 a1 (by omega) (by omega) c0 (by omega) hm he kk
  have outer : y_all μ ≠ 0 → ∀ (n : Nat) (a acc : Int) (m : tm_M), 0 ≤ a → a + n = tm_v μ 65 20 → 0 ≤ acc → acc ≤ 16200 * (tm_v μ 65 20 * a) → tFr wX6_sumOf μ m → y_tot μ w v (tm_v μ 65 20 * tm_v μ 65 20 - (tm_v μ 65 20 * a)).toNat (tm_v μ 65 20 * a) acc = y_sum μ w v →
      hLo wX6_sumOf μ mX6_sumOf d (fun r _ => r = y_sum μ w v) 18 [(0, 2, 65), (1, 0, w), (2, 0, v), (3, 1, acc), (5, 0, a)] [] m := by
    intro hal n
    induction n with
    | zero =>
      intro a acc m a0 an c0 c1 hm he
      refine uX6_sumOf_18 hm ⟨fun c => ?_, fun c => by omega⟩
      rw [show a = tm_v μ 65 20 by omega, show (tm_v μ 65 20 * tm_v μ 65 20 - tm_v μ 65 20 * tm_v μ 65 20).toNat = 0 by omega, y_tot] at he
      exact he
    | succ n ih =>
      intro a acc m a0 an c0 c1 hm he
      refine uX6_sumOf_18 hm ⟨fun c => by omega, fun c => ?_⟩
      refine inner hal (tm_v μ 65 20).toNat a 0 acc m a0 c (by omega) (by omega) c0 (by omega) hm (by rw [Int.add_zero]; exact he) (fun acc' m' hm' d0 d1 he' => ?_)
      exact ih (a + 1) acc' m' (by omega) (by omega) d0 d1 hm' he'
  refine t_of (uX6_sumOf_0 (by omega) (tFr.rf hs) ⟨hW, fun c => ?_, fun c => by unfold y_sum; rw [if_pos c]⟩)
  exact outer c (tm_v μ 65 20).toNat 0 0 μ (by omega) (by omega) (by omega) (by omega) (tFr.rf hs) (by unfold y_sum; rw [if_neg c]; simp only [Int.mul_zero, Int.sub_zero])
theorem pX6_sumOfF {w v : Int} (hd : 4 ≤ d) (hs : tFr W μ0 μ) (hT : y_T W) (hW : y_W μ0) (hw : y_v μ0 w) (hv : y_v μ0 v) : cL wX6_sumOf mX6_sumOf d [(2, 65), (0, w), (0, v)] μ (fun r _ => r = y_sum μ0 w v) := by
  rw [← y_sum_F hs hT]
  exact pX6_sumOf hd hs.S ((y_W_F hs hT).mpr hW) ((y_v_F hs hT w).mpr hw) ((y_v_F hs hT v).mpr hv)
theorem y_all_in (hW : y_W μ) : 0 ≤ y_all μ ∧ y_all μ ≤ 5184 := by
  have h20 := hW.1
  have hN : (y_n μ : Int) = tm_v μ 65 20 := by unfold y_n; omega
  have h1 : ∀ a : Nat, a < y_n μ → 0 ≤ sm (fun b => y_likely μ a b) (y_n μ) ∧ sm (fun b => y_likely μ a b) (y_n μ) ≤ 648 := by
    intro a ha
    have := sm_bd (f := fun b => y_likely μ a b) (n := y_n μ) (c := 81) (fun i hi => y_lik_in ⟨hW, by omega, by omega⟩ ⟨hW, by omega, by omega⟩)
    omega
  have := sm_bd (f := fun a => sm (fun b => y_likely μ a b) (y_n μ)) (n := y_n μ) (c := 648) h1
  unfold y_all
  omega
def frt (t b : Int) : Int := t / (Int.gcd t b : Int)
def frb (t b : Int) : Int := b / (Int.gcd t b : Int)
/-- answer, status, fraction -/
noncomputable def r_mean (μ : tm_M) (w v : Int) : Int × Int × Int × Int :=
  if ¬ ((0 ≤ w ∧ w < tm_v μ 65 43) ∧ 0 ≤ v ∧ v < tm_v μ 65 43) then (0, 2, tm_v μ 65 2, tm_v μ 65 3) else if y_sum μ w v < 0 then (0, 9, tm_v μ 65 2, tm_v μ 65 3) else (1, 0, frt (y_sum μ w v) (y_all μ), frb (y_sum μ w v) (y_all μ))
def o_fr (q : Int × Int × Int × Int) (r : Int) (μ' : tm_M) : Prop := r = q.1 ∧ tm_v μ' 65 0 = q.2.1 ∧ tm_v μ' 65 2 = q.2.2.1 ∧ tm_v μ' 65 3 = q.2.2.2
theorem y_sum_all {w v : Int} (h : ¬ y_sum μ w v < 0) : y_all μ ≠ 0 := by
  intro e
  unfold y_sum at h
  rw [if_pos e] at h
  omega
theorem pX6_mean {w v : Int} (hd : 5 ≤ d) (hs : tS μ) (hW : y_W μ) (hV : y_V μ) : cI wX6_mean mX6_mean d [(2, 65), (0, w), (0, v)] μ (o_fr (r_mean μ w v)) := by
  refine t_of (uX6_mean_0 (by omega) (tFr.rf hs) ?_)
  rintro _ rfl _ rfl
  have f2 : tFr wX6_mean μ (tm_w (tm_w μ 65 1 0) 65 0 0) := fr_st (tFr.rf hs) (tWs_inF rfl) (tWs_inF rfl) 0
  unfold r_mean
  refine ⟨hV, fun c => ?_, fun c => ⟨fun c2 => ?_, fun c2 => ?_⟩⟩
  · rintro _ rfl
    rw [if_pos (by omega)]; exact ⟨rfl, rfl, by simp [tm_vw], by simp [tm_vw]⟩
  · refine tC.L (pX6_sumOfF (by omega) f2 (tWs_T rfl) hW ⟨hV, c⟩ ⟨hV, c2⟩) ?_
    rintro r m fm rfl
    have fm' : tFr wX6_mean μ m := f2.tr fm (tWs_sub rfl)
    have hin := y_sum_in hW w v
    have hal := y_all_in hW
    rw [if_neg (by omega)]
    refine ⟨fun c3 => ⟨hW, ?_⟩, fun c3 => ?_⟩
    · have hne := y_sum_all (μ := μ) (w := w) (v := v) (by omega)
      refine tC.V (pX6_fraction (by omega) fm.S ⟨c3, by omega, by omega, by omega⟩) ?_
      rintro m2 g2 rfl
      rw [if_neg (by omega)]
      refine ⟨rfl, ?_, ?_, ?_⟩
      · rw [g2.v (tWs_noF rfl), fm.v (tWs_noF rfl)]; simp [tm_vw]
      · simp [u_fr, tm_vw, frt]
      · simp [u_fr, tm_vw, frb]
    · rintro _ rfl
      rw [if_pos c3]
      refine ⟨rfl, by simp [tm_vw], ?_, ?_⟩
      · simp only [tm_vw]
        rw [if_neg (by omega), fm.v (tWs_noF rfl)]; simp [tm_vw]
      · simp only [tm_vw]
        rw [if_neg (by omega), fm.v (tWs_noF rfl)]; simp [tm_vw]
  · rintro _ rfl
    rw [if_pos (by omega)]; exact ⟨rfl, rfl, by simp [tm_vw], by simp [tm_vw]⟩
noncomputable def y_wst (μ : tm_M) (w v : Int) : Nat → Int → Int → Int
  | 0, _, acc => acc
  | k + 1, i, acc => if y_likely μ (i / tm_v μ 65 20) (i % tm_v μ 65 20) ≤ 0 then y_wst μ w v k (i + 1) acc else y_wst μ w v k (i + 1) (max acc (y_walk μ w v (i / tm_v μ 65 20) (i % tm_v μ 65 20)))
noncomputable def r_worst (μ : tm_M) (w v : Int) : Int × Int :=
  if ¬ ((0 ≤ w ∧ w < tm_v μ 65 43) ∧ 0 ≤ v ∧ v < tm_v μ 65 43) then (-1, 2) else if y_sum μ w v < 0 then (-1, 9) else (y_wst μ w v (tm_v μ 65 20 * tm_v μ 65 20).toNat 0 0, 0)
theorem pX6_worst {w v : Int} (hd : 5 ≤ d) (hs : tS μ) (hW : y_W μ) (hV : y_V μ) : cI wX6_worst mX6_worst d [(2, 65), (0, w), (0, v)] μ (fun r μ' => r = (r_worst μ w v).1 ∧ tm_v μ' 65 0 = (r_worst μ w v).2) := by
  have h20 := hW.1
  have hnn := nn_in h20
  have inner : y_v μ w → y_v μ v → ∀ (n : Nat) (a b acc : Int) (m : tm_M), 0 ≤ a → a < tm_v μ 65 20 → 0 ≤ b → b + n = tm_v μ 65 20 → tFr wX6_worst μ m → tm_v m 65 0 = 0 → y_wst μ w v (tm_v μ 65 20 * tm_v μ 65 20 - (tm_v μ 65 20 * a + b)).toNat (tm_v μ 65 20 * a + b) acc = y_wst μ w v (tm_v μ 65 20 * tm_v μ 65 20).toNat 0 0 →
      (∀ acc' m', tFr wX6_worst μ m' → tm_v m' 65 0 = 0 → y_wst μ w v (tm_v μ 65 20 * tm_v μ 65 20 - (tm_v μ 65 20 * (a + 1))).toNat (tm_v μ 65 20 * (a + 1)) acc' = y_wst μ w v (tm_v μ 65 20 * tm_v μ 65 20).toNat 0 0 → hI wX6_worst μ mX6_worst d (fun r μ' => r = y_wst μ w v (tm_v μ 65 20 * tm_v μ 65 20).toNat 0 0 ∧ tm_v μ' 65 0 = 0) 55 [(0, 2, 65), (1, 0, w), (2, 0, v), (3, 0, acc'), (4, 0, a + 1)] [] m') →
      hI wX6_worst μ mX6_worst d (fun r μ' => r = y_wst μ w v (tm_v μ 65 20 * tm_v μ 65 20).toNat 0 0 ∧ tm_v μ' 65 0 = 0) 67 [(0, 2, 65), (1, 0, w), (2, 0, v), (3, 0, acc), (4, 0, a), (5, 0, b)] [] m := by
    intro hw hv n
    induction n with
    | zero =>
      intro a b acc m a0 a1 b0 bn hm h0 he kk
      have q := na_in h20 a0 a1
      refine uX6_worst_67 (by omega) hm ⟨fun c => ?_, fun c => by omega⟩
      rw [w32_id (by omega) (by omega)]
      refine kk acc m hm h0 ?_
      rw [q.2.2, show tm_v μ 65 20 * a + tm_v μ 65 20 = tm_v μ 65 20 * a + b by omega]
      exact he
    | succ n ih =>
      intro a b acc m a0 a1 b0 bn hm h0 he kk
      have q := na_in h20 a0 a1
      have dm := dm_eq (n := tm_v μ 65 20) (a := a) (b := b) b0 (by omega)
      have pa : y_p μ a := ⟨hW, a0, a1⟩
      have pb : y_p μ b := ⟨hW, b0, by omega⟩
      have e1 : w32 (b + 1) = b + 1 := w32_id (by omega) (by omega)
      rw [show (tm_v μ 65 20 * tm_v μ 65 20 - (tm_v μ 65 20 * a + b)).toNat = (tm_v μ 65 20 * tm_v μ 65 20 - (tm_v μ 65 20 * a + (b + 1))).toNat + 1 by omega, y_wst, dm.1, dm.2, Int.add_assoc] at he
      refine uX6_worst_67 (by omega) hm ⟨fun c => by omega, fun c => ⟨⟨pa, pb⟩, fun c2 => ?_, fun c2 => ?_⟩⟩
      · rw [if_pos c2] at he
        rw [e1]
        exact ih a (b + 1) acc m a0 a1 (by omega) (by omega) hm h0 he kk
      · rw [if_neg (by omega)] at he
        refine tC.I (pX6_walkF (by omega) hm (tWs_T rfl) hw hv pa pb) ?_
        rintro r m2 f2 rfl _ rfl
        rw [e1]
        exact ih a (b + 1) _ m2 a0 a1 (by omega) (by omega) (hm.tr f2 (tWs_sub rfl)) (by rw [f2.v (tWs_no _ rfl)]; exact h0) he kk
  have outer : y_v μ w → y_v μ v → ∀ (n : Nat) (a acc : Int) (m : tm_M), 0 ≤ a → a + n = tm_v μ 65 20 → tFr wX6_worst μ m → tm_v m 65 0 = 0 → y_wst μ w v (tm_v μ 65 20 * tm_v μ 65 20 - (tm_v μ 65 20 * a)).toNat (tm_v μ 65 20 * a) acc = y_wst μ w v (tm_v μ 65 20 * tm_v μ 65 20).toNat 0 0 →
      hI wX6_worst μ mX6_worst d (fun r μ' => r = y_wst μ w v (tm_v μ 65 20 * tm_v μ 65 20).toNat 0 0 ∧ tm_v μ' 65 0 = 0) 55 [(0, 2, 65), (1, 0, w), (2, 0, v), (3, 0, acc), (4, 0, a)] [] m := by
    intro hw hv n
    induction n with
    | zero =>
      intro a acc m a0 an hm h0 he
      refine uX6_worst_55 hm ⟨fun c => ⟨?_, h0⟩, fun c => by omega⟩
      rw [show a = tm_v μ 65 20 by omega, show (tm_v μ 65 20 * tm_v μ 65 20 - tm_v μ 65 20 * tm_v μ 65 20).toNat = 0 by omega, y_wst] at he
      exact he
    | succ n ih =>
      intro a acc m a0 an hm h0 he
      refine uX6_worst_55 hm ⟨fun c => by omega, fun c => ?_⟩
      refine inner hw hv (tm_v μ 65 20).toNat a 0 acc m a0 c (by omega) (by omega) hm h0 (by rw [Int.add_zero]; exact he) (fun acc' m' hm' h0' he' => ?_)
      exact ih (a + 1) acc' m' (by omega) (by omega) hm' h0' he'
  refine t_of (uX6_worst_0 (by omega) (tFr.rf hs) ?_)
  rintro _ rfl _ rfl
  have f2 : tFr wX6_worst μ (tm_w (tm_w μ 65 1 0) 65 0 0) := fr_st (tFr.rf hs) (tWs_inF rfl) (tWs_inF rfl) 0
  unfold r_worst
  refine ⟨hV, fun c => ?_, fun c => ⟨fun c2 => ?_, fun c2 => ?_⟩⟩
  · rintro _ rfl
    rw [if_pos (by omega)]; exact ⟨rfl, rfl⟩
  · refine tC.L (pX6_sumOfF (by omega) f2 (tWs_T rfl) hW ⟨hV, c⟩ ⟨hV, c2⟩) ?_
    rintro r m fm rfl
    have fm' : tFr wX6_worst μ m := f2.tr fm (tWs_sub rfl)
    have h0 : tm_v m 65 0 = 0 := by rw [fm.v (tWs_no _ rfl)]; simp [tm_vw]
    rw [if_neg (by omega)]
    refine ⟨fun c3 => ?_, fun c3 => ?_⟩
    · rw [if_neg (by omega)]
      exact outer ⟨hV, c⟩ ⟨hV, c2⟩ (tm_v μ 65 20).toNat 0 0 m (by omega) (by omega) fm' h0 (by simp only [Int.mul_zero, Int.sub_zero])
    · rintro _ rfl
      rw [if_pos c3]
      exact ⟨rfl, by simp [tm_vw]⟩
  · rintro _ rfl
    rw [if_pos (by omega)]; exact ⟨rfl, rfl⟩
end C6H
