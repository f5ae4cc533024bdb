/-! CONTRACTS of the component: numbers of trays; judge -/
section C0M
variable {d : Nat} {μ μ0 ν : tm_M} {W : Int → Int → Prop} {t w v : Int}
/-- r tells whether P -/
def tb (r : Int) (P : Prop) : Prop := (r = 1 ∧ P) ∨ (r = 0 ∧ ¬ P)
theorem pX0_areFrom0 {n lo hi : Int} (hd : 1 ≤ d) (hs : tS μ) (hJ : JU μ ν) (hY : JY μ ν) (t0 : 0 ≤ t) (t4 : t < 4) (hn : n ≤ tm_v ν 67 t) (hn0 : 0 ≤ n) : cI w0 mX0_areFrom d [(2, 1), (0, t), (0, n), (1, lo), (1, hi)] μ (fun r _ => tb r (∀ k, 0 ≤ k → k < n → lo ≤ tm_v ν 68 (64 * t + k) ∧ tm_v ν 68 (64 * t + k) ≤ hi)) := by
  have hy := (hY.1 t t0 t4).2.1
  have e61 : 61 + t - 61 = t := by omega
  have loop : ∀ (q : Nat) (k : Int), 0 ≤ k → k + q = n → (∀ i, 0 ≤ i → i < k → lo ≤ tm_v ν 68 (64 * t + i) ∧ tm_v ν 68 (64 * t + i) ≤ hi) → hI (tWs [] []) μ mX0_areFrom d (fun r _ => tb r (∀ k, 0 ≤ k → k < n → lo ≤ tm_v ν 68 (64 * t + k) ∧ tm_v ν 68 (64 * t + k) ≤ hi)) 3 [(0, 2, 1), (1, 0, t), (2, 0, n), (3, 1, lo), (5, 1, hi), (7, 0, k)] [] μ := by
    intro q
    induction q with
    | zero =>
      intro k k0 kn hk
      refine uX0_areFrom_3 (ν := ν) hd (tFr.rf hs) ⟨fun _ => Or.inl ⟨rfl, fun i i0 i1 => hk i i0 (by omega)⟩, fun c => by omega⟩
    | succ q ih =>
      intro k k0 kn hk
      refine uX0_areFrom_3 (ν := ν) hd (tFr.rf hs) ⟨fun c => by omega, fun c => ?_⟩
      rw [e61, w32_id (x := k + 1) (by omega) (by omega)]
      refine ⟨⟨t0, t4⟩, ⟨⟨hJ, hY⟩, ⟨by omega, by omega, by rw [e61]; omega⟩, k0, by omega⟩, fun c2 => ?_, fun c2 => Or.inr ⟨rfl, fun q => c2 (q k k0 c)⟩⟩
      exact ih (k + 1) (by omega) (by omega) (fun i i0 i1 => by
        by_cases e : i = k
        · rw [e]; exact c2
        · exact hk i i0 (by omega))
  exact t_of (uX0_areFrom_0 (tFr.rf hs) (loop n.toNat 0 (by omega) (by omega) (fun i i0 i1 => by omega)))
theorem pX0_areWays0 {n : Int} (hd : 1 ≤ d) (hs : tS μ) (hJ : JU μ ν) (hV : JV μ ν) (hY : JY μ ν) (t0 : 0 ≤ t) (t4 : t < 4) (hn : n ≤ tm_v ν 67 t) (hn0 : 0 ≤ n) : cI w0 mX0_areWays d [(2, 1), (2, 61 + t), (0, n)] μ (fun r _ => tb r (∀ k, 0 ≤ k → k < n → 0 ≤ tm_v ν 68 (64 * t + k) ∧ tm_v ν 68 (64 * t + k) < tm_v ν 65 43)) := by
  have hy := (hY.1 t t0 t4).2.1
  have e61 : 61 + t - 61 = t := by omega
  have loop : ∀ (q : Nat) (k : Int), 0 ≤ k → k + q = n → (∀ i, 0 ≤ i → i < k → 0 ≤ tm_v ν 68 (64 * t + i) ∧ tm_v ν 68 (64 * t + i) < tm_v ν 65 43) → hI (tWs [] []) μ mX0_areWays d (fun r _ => tb r (∀ k, 0 ≤ k → k < n → 0 ≤ tm_v ν 68 (64 * t + k) ∧ tm_v ν 68 (64 * t + k) < tm_v ν 65 43)) 2 [(0, 2, 1), (1, 2, 61 + t), (2, 0, n), (3, 0, k)] [] μ := by
    intro q
    induction q with
    | zero =>
      intro k k0 kn hk
      refine uX0_areWays_2 (ν := ν) hd (tFr.rf hs) ⟨fun _ => Or.inl ⟨rfl, fun i i0 i1 => hk i i0 (by omega)⟩, fun c => by omega⟩
    | succ q ih =>
      intro k k0 kn hk
      refine uX0_areWays_2 (ν := ν) hd (tFr.rf hs) ⟨fun c => by omega, fun c => ?_⟩
      rw [e61, w32_id (x := k + 1) (by omega) (by omega)]
      refine ⟨⟨by omega, sak_2 hs t0 t4⟩, ⟨⟨hJ, hY⟩, ⟨by omega, by omega, by rw [e61]; omega⟩, k0, by omega⟩, hV, fun c2 => ?_, fun c2 => Or.inr ⟨rfl, fun q => c2 (q k k0 c)⟩⟩
      exact ih (k + 1) (by omega) (by omega) (fun i i0 i1 => by
        by_cases e : i = k
        · rw [e]; exact c2
        · exact hk i i0 (by omega))
  exact t_of (uX0_areWays_0 (tFr.rf hs) (loop n.toNat 0 (by omega) (by omega) (fun i i0 i1 => by omega)))
theorem pX0_judge (hd : 5 ≤ d) (hs : tS μ) (hJ : JU μ ν) (hV : JV μ ν) (hY : JY μ ν) (hmk : tm_v μ 1 13 = tm_v ν 65 30) : cI (tWf [7, 8, 10] [(1, 10)] (c_FA μ)) mX0_judge d [(2, 1), (0, w), (0, v), (0, t)] μ (fun r m => r = (r_judge ν w v t).1 ∧ tm_v m 1 10 = (r_judge ν w v t).2) := by
  have hW := hJ.1
  have h20 := hW.1
  have hnn := nn_in h20
  have hf : dyA (c_FA μ) ∧ tm_k μ (c_FA μ) = 20 := ⟨hJ.FA.1.2, hJ.FA.1.1.2⟩
  have hT : y_TC (c_FA μ) (tWf [7, 8, 10] [(1, 10)] (c_FA μ)) := tWf_TC hf.1 ⟨rfl, rfl⟩
  have hC : y_VC (tWf [7, 8, 10] [(1, 10)] (c_FA μ)) := tWf_VC hf rfl
  have h13 : ¬ tWf [7, 8, 10] [(1, 10)] (c_FA μ) 1 13 := tWf_no hf (by decide) (tWs_noF rfl)
  have eN : tm_v μ (tm_v μ 1 8) 2 = tm_v ν 65 20 := hJ.2.2.1.1
  have e61 : 61 + t - 61 = t := by omega
  have inner : 0 ≤ t ∧ t < 4 → y_v ν w → y_v ν v → tm_v ν 65 20 * tm_v ν 65 20 ≤ tm_v ν 67 t → ∀ (n : Nat) (a b : Int) (m : tm_M), 0 ≤ a → a < tm_v ν 65 20 → 0 ≤ b → b + n = tm_v ν 65 20 → tFr (tWf [7, 8, 10] [(1, 10)] (c_FA μ)) μ m → fdn (fun i => tm_v ν 68 (64 * t + i) ≠ y_walk ν w v (i / tm_v ν 65 20) (i % tm_v ν 65 20)) (-1) (tm_v ν 65 20 * tm_v ν 65 20 - (tm_v ν 65 20 * a + b)).toNat (tm_v ν 65 20 * a + b) = y_jd ν w v t →
      (∀ m', tFr (tWf [7, 8, 10] [(1, 10)] (c_FA μ)) μ m' → fdn (fun i => tm_v ν 68 (64 * t + i) ≠ y_walk ν w v (i / tm_v ν 65 20) (i % tm_v ν 65 20)) (-1) (tm_v ν 65 20 * tm_v ν 65 20 - (tm_v ν 65 20 * (a + 1))).toNat (tm_v ν 65 20 * (a + 1)) = y_jd ν w v t → hI (tWf [7, 8, 10] [(1, 10)] (c_FA μ)) μ mX0_judge d (fun r m => r = (if y_jd ν w v t < 0 then -1 else 8 * (y_jd ν w v t / tm_v ν 65 20) + y_jd ν w v t % tm_v ν 65 20) ∧ tm_v m 1 10 = 0) 90 [(0, 2, 1), (1, 0, w), (2, 0, v), (4, 2, 61 + t), (5, 0, tm_v ν 65 20), (6, 0, a + 1)] [] m') →
      hI (tWf [7, 8, 10] [(1, 10)] (c_FA μ)) μ mX0_judge d (fun r m => r = (if y_jd ν w v t < 0 then -1 else 8 * (y_jd ν w v t / tm_v ν 65 20) + y_jd ν w v t % tm_v ν 65 20) ∧ tm_v m 1 10 = 0) 100 [(0, 2, 1), (1, 0, w), (2, 0, v), (4, 2, 61 + t), (5, 0, tm_v ν 65 20), (6, 0, a), (7, 0, b)] [] m := by
    intro ht hw hv hmn n
    induction n with
    | zero =>
      intro a b m a0 a1 b0 bn hm he kk
      have q := na_in h20 a0 a1
      refine uX0_judge_100 (ν := ν) (by omega) hf hm ⟨fun c => ?_, fun c => by omega⟩
      rw [w32_id (by omega) (by omega)]
      refine kk m hm ?_
      rw [q.2.2, show tm_v ν 65 20 * a + tm_v ν 65 20 = tm_v ν 65 20 * a + b by omega]
      exact he
    | succ n ih =>
      intro a b m a0 a1 b0 bn hm he kk
      have q := na_in h20 a0 a1
      have dm := dm_eq (n := tm_v ν 65 20) (a := a) (b := b) b0 (by omega)
      have e1 : w32 (w32 (tm_v ν 65 20 * a) + b) = tm_v ν 65 20 * a + b := by rw [w32_id (x := tm_v ν 65 20 * a) (by omega) (by omega), w32_id (by omega) (by omega)]
      refine uX0_judge_100 (ν := ν) (by omega) hf hm ⟨fun c => by omega, fun c => ?_⟩
      rw [e1, e61]
      refine ⟨⟨by omega, sak_2 hs ht.1 ht.2⟩, ⟨⟨hJ, hY⟩, ⟨by omega, by omega, by rw [e61]; omega⟩, by omega, by omega⟩, ?_⟩
      refine tC.I (pX0_meetF (by omega) hm hT hC h13 hJ hV hmk hw hv ⟨hW, a0, a1⟩ ⟨hW, b0, by omega⟩) ?_
      rintro r m2 f2 rfl
      have hm2 := hm.tr f2 (tWf_sub rfl)
      rw [show (tm_v ν 65 20 * tm_v ν 65 20 - (tm_v ν 65 20 * a + b)).toNat = (tm_v ν 65 20 * tm_v ν 65 20 - (tm_v ν 65 20 * a + (b + 1))).toNat + 1 by omega, fdn, dm.1, dm.2] at he
      refine ⟨fun c2 => ?_, fun c2 m3 e3 => ?_⟩
      · rw [if_neg (fun k => k c2)] at he
        rw [w32_id (by omega) (by omega)]
        exact ih a (b + 1) m2 a0 a1 (by omega) (by omega) hm2 (by rw [Int.add_assoc] at he; exact he) kk
      · rw [if_pos c2] at he
        rw [w32_id (x := 8 * a) (by omega) (by omega), w32_id (by omega) (by omega), e3]
        refine ⟨?_, by simp [tm_vw]⟩
        rw [← he, if_neg (by omega), dm.1, dm.2]
  have outer : 0 ≤ t ∧ t < 4 → y_v ν w → y_v ν v → tm_v ν 65 20 * tm_v ν 65 20 ≤ tm_v ν 67 t → ∀ (n : Nat) (a : Int) (m : tm_M), 0 ≤ a → a + n = tm_v ν 65 20 → tFr (tWf [7, 8, 10] [(1, 10)] (c_FA μ)) μ m → fdn (fun i => tm_v ν 68 (64 * t + i) ≠ y_walk ν w v (i / tm_v ν 65 20) (i % tm_v ν 65 20)) (-1) (tm_v ν 65 20 * tm_v ν 65 20 - (tm_v ν 65 20 * a)).toNat (tm_v ν 65 20 * a) = y_jd ν w v t →
      hI (tWf [7, 8, 10] [(1, 10)] (c_FA μ)) μ mX0_judge d (fun r m => r = (if y_jd ν w v t < 0 then -1 else 8 * (y_jd ν w v t / tm_v ν 65 20) + y_jd ν w v t % tm_v ν 65 20) ∧ tm_v m 1 10 = 0) 90 [(0, 2, 1), (1, 0, w), (2, 0, v), (4, 2, 61 + t), (5, 0, tm_v ν 65 20), (6, 0, a)] [] m := by
    intro ht hw hv hmn n
    induction n with
    | zero =>
      intro a m a0 an hm he
      refine uX0_judge_90 (by omega) hf hm ⟨fun c m3 e3 => ?_, fun c => by omega⟩
      have ea : a = tm_v ν 65 20 := by omega
      rw [ea, show (tm_v ν 65 20 * tm_v ν 65 20 - tm_v ν 65 20 * tm_v ν 65 20).toNat = 0 by omega, fdn] at he
      rw [← he, if_pos (by decide), e3]
      exact ⟨rfl, by simp [tm_vw]⟩
    | succ n ih =>
      intro a m a0 an hm he
      refine uX0_judge_90 (by omega) hf hm ⟨fun c => by omega, fun c => ?_⟩
      exact inner ht hw hv hmn (tm_v ν 65 20).toNat a 0 m a0 c (by omega) (by omega) hm (by rw [Int.add_zero]; exact he) (fun m' g1 g2 => ih (a + 1) m' (by omega) (by omega) g1 g2)
  unfold r_judge
  refine t_of (uX0_judge_0 (ν := ν) (by omega) hf (tFr.rf hs) ⟨fun ht => ⟨hV, fun c m e => ?_, fun cw => ⟨fun cv => ⟨ht, fun c1 => ⟨hJ.T, fun x ex => ?_⟩, fun c1 m e => ?_⟩, fun c m e => ?_⟩⟩, fun c m e => ?_⟩)
  · rw [if_neg (fun q => q ht), if_pos (fun q => c q.1), e]; exact ⟨rfl, by simp [tm_vw]⟩
  · rw [if_neg (fun q => q ht), if_neg (fun q => q ⟨cw, cv⟩)]
    rw [eN] at ex
    subst ex
    have hpos : 0 ≤ tm_v ν 67 t := by
      by_cases q : tm_v ν 67 t < 0
      · have := ((hY.2.1 t ht.1 ht.2).1 q).1
        unfold c_Y at this
        omega
      · omega
    rw [if_neg (by omega), e61, w32_id (x := tm_v ν 65 20 * tm_v ν 65 20) (by omega) (by omega)]
    refine ⟨⟨⟨hJ, hY⟩, by omega, by omega, by rw [e61]; exact hpos⟩, fun c2 => ?_, fun c2 m e => ?_⟩
    · rw [if_neg (by omega)]
      exact outer ht ⟨hV.1, cw⟩ ⟨hV.1, cv⟩ c2 (tm_v ν 65 20).toNat 0 μ (by omega) (by omega) (tFr.rf hs) (by simp only [Int.mul_zero, Int.sub_zero]; rfl)
    · rw [if_pos c2, e]; exact ⟨rfl, by simp [tm_vw]⟩
  · rw [if_neg (fun q => q ht), if_neg (fun q => q ⟨cw, cv⟩), if_pos, e]
    · exact ⟨rfl, by simp [tm_vw]⟩
    · by_cases q : tm_v ν 67 t < 0
      · exact q
      · have := ((hY.2.1 t ht.1 ht.2).2 (by omega)).2.1.1.1
        unfold c_Y at this
        omega
  · rw [if_neg (fun q => q ht), if_pos (fun q => c q.2), e]; exact ⟨rfl, by simp [tm_vw]⟩
  · rw [if_pos c, e]; exact ⟨rfl, by simp [tm_vw]⟩
end C0M
