/-! CONTRACTS of the component: meets, nearer, all likelihoods -/
section C0E
variable {d : Nat} {μ μ0 ν : tm_M} {W : Int → Int → Prop}
theorem pX0_meets {p q : Int} (hs : tFr W μ0 μ) (hT : y_TC (c_FA μ0) W) (hJ : JU μ0 ν) : cI w0 mX0_meets d [(2, 1), (2, p), (2, q)] μ (fun r _ => r = b2i (tm_v μ 7 1 = tm_v μ 8 1 ∨ (tm_v ν 65 28 ≠ 0 ∧ tm_v μ 7 1 = q ∧ tm_v μ 8 1 = p))) := by
  have hJ' := JU_F hJ hs hT
  have e : tm_v μ (tm_v μ 1 8) 6 = tm_v ν 65 28 := by exact hJ'.2.2.1.2.2.2.2
  refine t_of (uX0_meets_0 (tFr.rf hs.S) ?_)
  rw [e]
  refine ⟨fun c => (b2i_t (Or.inl c)).symm, fun c => ⟨hJ'.T, fun c2 => ?_, fun c2 => ⟨fun c3 => ?_, fun c3 => ⟨fun c4 => ?_, fun c4 => ?_⟩⟩⟩⟩
  · exact (b2i_f (by rintro (h | h); exact c h; exact h.1 c2)).symm
  · exact (b2i_f (by rintro (h | h); exact c h; exact c3 h.2.1)).symm
  · exact (b2i_f (by rintro (h | h); exact c h; exact c4 h.2.2)).symm
  · exact (b2i_t (Or.inr ⟨c2, c3, c4⟩)).symm
/-- W leaves the ways -/
def y_VC (W : Int → Int → Prop) : Prop := (∀ j, ¬ W 6 j) ∧ ¬ W 1 9
theorem c_W_F (hs : tFr W μ0 μ) (hC : y_VC W) (w : Int) : c_W μ w = c_W μ0 w := hs.v (hC.1 w)
theorem JV_F (hJ : JU μ0 ν) (hV : JV μ0 ν) (hs : tFr W μ0 μ) (hT : y_TC (c_FA μ0) W) (hC : y_VC W) : JV μ ν := by
  obtain ⟨v1, v2, v3⟩ := hV
  have eF := c_FA_F hJ hs hT
  refine ⟨v1, by rw [hs.v hC.2]; exact v2, fun w w0 w1 => ?_⟩
  
  obtain ⟨⟨b1, b2⟩, b3, b4⟩ := v3 w w0 w1
  have eW := c_W_F hs hC w
  have obW : ∃ k : Nat, k ≠ 20 ∧ ob μ0 (c_W μ0 w) k := by
    by_cases c : 0 < tm_v ν 82 w
    · by_cases g : tm_v ν 84 w = 0
      · exact ⟨9, by decide, (b3 c).1 g⟩
      · exact ⟨10, by decide, (b3 c).2.1 g⟩
    · have := (v1.2 w w0 w1).1
      exact ⟨11, by decide, (b4 (by omega)).1⟩
  obtain ⟨k, hk, ho⟩ := obW
  have eR : c_R μ w = c_R μ0 w := by unfold c_R; rw [eW, c_v hJ hs hT ho hk]
  have vR : ∀ j, tm_v μ (c_R μ0 w) j = tm_v μ0 (c_R μ0 w) j := fun j => hs.v (hT.2.2 _ j b1.2 b2)
  rw [eR, eF, eW, hs.n]
  refine ⟨⟨ob_F hs b1, b2⟩, fun c => ⟨fun g => ob_F hs ((b3 c).1 g), fun g => ob_F hs ((b3 c).2.1 g), (b3 c).2.2.1, fun j j0 j1 => ?_⟩, fun c => ⟨ob_F hs (b4 c).1, (b4 c).2.1, fun j j0 j1 => ?_⟩⟩
  · rw [vR]; exact (b3 c).2.2.2 j j0 j1
  · rw [vR]; exact (b4 c).2.2 j j0 j1
theorem pX0_isWay0 {w : Int} (hs : tS μ) : cI w0 mX0_isWay d [(2, 1), (1, w)] μ (fun r _ => r = b2i (0 ≤ w ∧ w < tm_v μ 1 9)) :=
  t_of (uX0_isWay_0 (tFr.rf hs) ⟨fun c => (b2i_f (by omega)).symm, fun c => ⟨fun c2 => (b2i_f (by omega)).symm, fun c2 => (b2i_t (by omega)).symm⟩⟩)
theorem pX0_nearer0 {k a : Int} (hd : 2 ≤ d) (hs : tS μ) (hJ : JU μ ν) (hk : y_p ν k) (hf : ∀ q, y_p ν q → tm_v μ (c_FA μ) q = spr ν a q) (hne : spr ν a k ≠ -1) : cR w0 mX0_nearer d [(2, 1), (2, c_P μ k)] μ (fun r _ => r = c_P μ (y_nearer ν (y_far (y_go ν) a) k)) := by
  have hP := hJ.P hk
  have k8 := y_p8 hk
  have hdg := (hk.1.2.2.1 k hk.2.1 hk.2.2).1
  have nF : tm_n μ (c_FA μ) = 8 := hJ.FA.2
  have eF : tm_v μ (tm_v μ 1 8) 7 = c_FA μ := rfl
  have sp : ∀ q, y_far (y_go ν) a q = 100 ∧ spr ν a q = -1 ∨ (0 ≤ y_far (y_go ν) a q ∧ y_far (y_go ν) a q ≤ 8) ∧ spr ν a q = y_far (y_go ν) a q := by
    intro q
    unfold spr
    rcases y_far_in (g := y_go ν) (a := a) q with h | h
    · left; rw [if_pos h]; exact ⟨h, rfl⟩
    · right; rw [if_neg (by omega)]; exact ⟨h, rfl⟩
  have loop : ∀ (n : Nat) (s : Int), 1 ≤ s → s + n = tm_v ν 72 k + 1 → fdn (fun i => (0 ≤ i ∧ i < tm_v ν 72 k ∧ tm_v ν 80 (tm_v ν 74 (4 * k + i)) = 0) ∧ y_far (y_go ν) a (y_leads ν k i) < y_far (y_go ν) a k) (-1) n (s - 1) = y_near ν (y_far (y_go ν) a) k → hRe (tWs [] []) μ mX0_nearer d (fun r _ => r = c_P μ (y_nearer ν (y_far (y_go ν) a) k)) 2 [(0, 2, 1), (1, 2, c_P μ k), (2, 0, s)] [] μ := by
    intro n
    induction n with
    | zero =>
      intro s s1 sn he
      refine uX0_nearer_2 (ν := ν) hd (tFr.rf hs) ⟨hP.1, ?_⟩
      rw [hP.2.2.1.2.2.2]
      refine ⟨fun _ => ?_, fun c => by omega⟩
      rw [fdn] at he
      unfold y_nearer
      rw [← he, if_pos (by decide)]
    | succ n ih =>
      intro s s1 sn he
      have hg := y_go_p (s := s) hk
      have g8 := y_p8 hg
      have hGP := hJ.P hg
      have sk := sp k
      have sg := sp (y_go ν k s)
      have nx : ¬ (y_far (y_go ν) a (y_go ν k s) < y_far (y_go ν) a k) → hRe (tWs [] []) μ mX0_nearer d (fun r _ => r = c_P μ (y_nearer ν (y_far (y_go ν) a) k)) 2 [(0, 2, 1), (1, 2, c_P μ k), (2, 0, s + 1)] [] μ := by
        intro hn
        refine ih (s + 1) (by omega) (by omega) ?_
        rw [fdn] at he
        rw [if_neg] at he
        · rw [show s + 1 - 1 = s - 1 + 1 by omega]; exact he
        · rintro ⟨h1, h2⟩
          apply hn
          have : y_go ν k s = y_leads ν k (s - 1) := by unfold y_go; rw [if_pos h1]
          rw [this]; exact h2
      refine uX0_nearer_2 (ν := ν) hd (tFr.rf hs) ⟨hP.1, ?_⟩
      rw [hP.2.2.1.2.2.2, hP.2.1, hGP.2.1, eF, nF, w32_id (x := s + 1) (by omega) (by omega)]
      refine ⟨fun c => by omega, fun _ => ⟨⟨hJ, k, hk, rfl⟩, hGP.1, fun x ex => ?_⟩⟩
      subst ex
      rw [hf _ hg, hf _ hk]
      refine ⟨hJ.T, hJ.FA.1, by omega, fun c => nx (by omega), fun c => ⟨by omega, fun c2 => nx (by omega), fun c2 => ?_⟩⟩
      have hlt : y_far (y_go ν) a (y_go ν k s) < y_far (y_go ν) a k := by omega
      have hop : 0 ≤ s - 1 ∧ s - 1 < tm_v ν 72 k ∧ tm_v ν 80 (tm_v ν 74 (4 * k + (s - 1))) = 0 := by
        by_cases q : 0 ≤ s - 1 ∧ s - 1 < tm_v ν 72 k ∧ tm_v ν 80 (tm_v ν 74 (4 * k + (s - 1))) = 0
        · exact q
        · have : y_go ν k s = k := by unfold y_go; rw [if_neg q]
          rw [this] at hlt; omega
      have eg : y_go ν k s = y_leads ν k (s - 1) := by unfold y_go; rw [if_pos hop]
      rw [fdn, if_pos ⟨hop, by rw [← eg]; exact hlt⟩] at he
      show c_P μ (y_go ν k s) = _
      unfold y_nearer
      rw [← he, if_neg (by omega), eg]
  exact t_of (uX0_nearer_0 (tFr.rf hs) (loop (tm_v ν 72 k).toNat 1 (by omega) (by omega) rfl))
theorem pX0_allLikely0 (hd : 1 ≤ d) (hs : tS μ) (hJ : JU μ ν) : cL w0 mX0_allLikely d [(2, 1)] μ (fun r _ => r = y_all ν) := by
  have hW := hJ.1
  have h1 := hW.1
  have hn : ((y_n ν : Nat) : Int) = tm_v ν 65 20 := by unfold y_n; omega
  have eN : tm_v μ (tm_v μ 1 8) 2 = tm_v ν 65 20 := hJ.2.2.1.1
  have inner : ∀ (k i j : Nat) (acc : Int), j + k = y_n ν → i < y_n ν → acc = sm (fun a => sm (fun b => y_likely ν a b) (y_n ν)) i + sm (fun b => y_likely ν i b) j → hLo (tWs [] []) μ mX0_allLikely d (fun r _ => r = y_all ν) 4 [(0, 2, 1), (1, 1, sm (fun a => sm (fun b => y_likely ν a b) (y_n ν)) (i + 1)), (3, 0, ((i + 1 : Nat) : Int))] [] μ → hLo (tWs [] []) μ mX0_allLikely d (fun r _ => r = y_all ν) 18 [(0, 2, 1), (1, 1, acc), (3, 0, (i : Int)), (4, 0, (j : Int))] [] μ := by
    intro k
    induction k with
    | zero =>
      intro i j acc hj hi ha hout
      refine uX0_allLikely_18 (ν := ν) hd (tFr.rf hs) ⟨hJ.T, ?_⟩
      rw [eN]
      refine ⟨fun c => ?_, fun c => by omega⟩
      have e1 : w32 ((i : Int) + 1) = ((i + 1 : Nat) : Int) := by rw [w32_id (by omega) (by omega)]; omega
      have e2 : acc = sm (fun a => sm (fun b => y_likely ν a b) (y_n ν)) (i + 1) := by rw [sm, ha]; congr 2
      rw [e1, e2]
      exact hout
    | succ k ih =>
      intro i j acc hj hi ha hout
      refine uX0_allLikely_18 (ν := ν) hd (tFr.rf hs) ⟨hJ.T, ?_⟩
      rw [eN]
      refine ⟨fun c => by omega, fun c => ⟨⟨hJ, ⟨hW, by omega, by omega⟩, ⟨hW, by omega, by omega⟩⟩, ?_⟩⟩
      rintro x7 rfl
      have b1 := y_all_bd hW (n := i) (by omega)
      have b2 := y_row_bd (μ := ν) (a := i) ⟨hW, by omega, by omega⟩ (n := j) (by omega)
      have b3 := y_likely_bd (μ := ν) (a := i) (b := j) ⟨hW, by omega, by omega⟩ ⟨hW, by omega, by omega⟩
      have e1 : w32 ((j : Int) + 1) = ((j + 1 : Nat) : Int) := by rw [w32_id (by omega) (by omega)]; omega
      rw [e1, w64_id (by omega) (by omega)]
      exact ih i (j + 1) _ (by omega) hi (by rw [sm, ha]; omega) hout
  have outer : ∀ (k i : Nat), i + k = y_n ν → hLo (tWs [] []) μ mX0_allLikely d (fun r _ => r = y_all ν) 4 [(0, 2, 1), (1, 1, sm (fun a => sm (fun b => y_likely ν a b) (y_n ν)) i), (3, 0, (i : Int))] [] μ := by
    intro k
    induction k with
    | zero =>
      intro i hi
      refine uX0_allLikely_4 (tFr.rf hs) ⟨hJ.T, ?_⟩
      rw [eN]
      refine ⟨fun c => ?_, fun c => by omega⟩
      have : i = y_n ν := by omega
      rw [this]
      rfl
    | succ k ih =>
      intro i hi
      refine uX0_allLikely_4 (tFr.rf hs) ⟨hJ.T, ?_⟩
      rw [eN]
      refine ⟨fun c => by omega, fun c => ?_⟩
      exact inner (y_n ν) i 0 _ (by omega) (by omega) (by simp [sm]) (ih (i + 1) (by omega))
  exact t_of (uX0_allLikely_0 (tFr.rf hs) (outer (y_n ν) 0 (by omega)))
theorem pX0_allLikely (hd : 1 ≤ d) (hs : tFr W μ0 μ) (hT : y_TC (c_FA μ0) W) (hJ : JU μ0 ν) : cL w0 mX0_allLikely d [(2, 1)] μ (fun r _ => r = y_all ν) := by
  
  exact pX0_allLikely0 hd hs.S (JU_F hJ hs hT)
end C0E
