/-! CONTRACTS of the model, second row -/
/-- sums -/
def sm (f : Int → Int) : Nat → Int
  | 0 => 0
  | n + 1 => sm f n + f n
theorem sm_congr {f g : Int → Int} {n : Nat} (h : ∀ i : Nat, i < n → f i = g i) : sm f n = sm g n := by
  induction n with
  | zero => rfl
  | succ n ih => rw [sm, sm, ih (fun i hi => h i (by omega)), h n (by omega)]
theorem sm_bd {f : Int → Int} {n : Nat} {c : Int} (h : ∀ i : Nat, i < n → 0 ≤ f i ∧ f i ≤ c) : 0 ≤ sm f n ∧ sm f n ≤ n * c := by
  induction n with
  | zero => simp [sm]
  | succ n ih =>
    have h1 := ih (fun i hi => h i (by omega))
    have h2 := h n (by omega)
    rw [sm]
    constructor
    · omega
    · have : ((n + 1 : Nat) : Int) * c = n * c + c := by rw [Int.natCast_add, Int.add_mul]; simp
      omega
section C6B
variable {d : Nat} {μ : tm_M}
theorem w32_4 {p k : Int} (hp : 0 ≤ p ∧ p < 8) (hk : 0 ≤ k ∧ k < 4) : w32 (w32 (4 * p) + k) = 4 * p + k := by rw [w32_id (x := 4 * p) (by omega) (by omega), w32_id (by omega) (by omega)]
theorem pX6_leads {p k : Int} (hd : 1 ≤ d) (hs : tS μ) (hc : y_p μ p) : cI w0 mX6_leads d [(2, 65), (0, p), (0, k)] μ (fun r _ => r = y_leads μ p k) := by
  have h8 := y_p8 hc
  have hp := hc.1.2.2.1 p hc.2.1 hc.2.2
  have hm := hc.1.2.1
  refine t_of (uX6_leads_0 hd (tFr.rf hs) ⟨fun c => by unfold y_leads; rw [if_neg (by omega)], fun c => ⟨h8, fun c2 => by unfold y_leads; rw [if_neg (by omega)], fun c2 => ?_⟩⟩)
  have hl := hp.2.2.2.2 k c c2
  rw [w32_4 h8 (by omega)]
  exact ⟨by omega, by omega, by unfold y_leads; rw [if_pos ⟨c, c2⟩]⟩
theorem pX6_leadsF {W : Int → Int → Prop} {μ0 : tm_M} {p k : Int} (hd : 1 ≤ d) (hs : tFr W μ0 μ) (hw : y_T W) (hc : y_p μ0 p) : cI w0 mX6_leads d [(2, 65), (0, p), (0, k)] μ (fun r _ => r = y_leads μ0 p k) := by rw [← y_leads_F hs hw]; exact pX6_leads hd hs.S ((y_p_F hs hw p).mpr hc)
theorem pX6_isPlace {p : Int} (hd : 1 ≤ d) (hs : tS μ) (hc : y_W μ) : cI w0 mX6_isPlace d [(2, 65), (0, p)] μ (fun r _ => r = b2i (0 ≤ p ∧ p < tm_v μ 65 20)) := by
  have h1 := hc.1
  refine t_of (uX6_isPlace_0 hd (tFr.rf hs) ?_)
  rw [w32_id (by omega) (by omega)]
  by_cases q : 0 ≤ p ∧ p < tm_v μ 65 20
  · rw [b2i_t q, b2i_t (by omega)]
  · rw [b2i_f q, b2i_f (by omega)]
theorem pX6_isPlaceF {W : Int → Int → Prop} {μ0 : tm_M} {p : Int} (hd : 1 ≤ d) (hs : tFr W μ0 μ) (hw : y_T W) (hc : y_W μ0) : cI w0 mX6_isPlace d [(2, 65), (0, p)] μ (fun r _ => r = b2i (0 ≤ p ∧ p < tm_v μ0 65 20)) := by rw [← y_f20 hs hw]; exact pX6_isPlace hd hs.S ((y_W_F hs hw).mpr hc)
/-- the ways are well made -/
def y_V (μ : tm_M) : Prop := (0 ≤ tm_v μ 65 43 ∧ tm_v μ 65 43 ≤ 12) ∧ ∀ w, 0 ≤ w → w < tm_v μ 65 43 → (0 ≤ tm_v μ 82 w ∧ tm_v μ 82 w ≤ 24) ∧ (0 ≤ tm_v μ 84 w ∧ tm_v μ 84 w ≤ 1) ∧
  (∀ k, 0 ≤ k → k < tm_v μ 82 w → 0 ≤ tm_v μ 83 (24 * w + k) ∧ tm_v μ 83 (24 * w + k) ≤ 4) ∧ (tm_v μ 82 w = 0 → ∀ k, 0 ≤ k → k < 18 → 0 ≤ tm_v μ 83 (24 * w + k) ∧ tm_v μ 83 (24 * w + k) ≤ 14)
theorem y_V_F {W : Int → Int → Prop} {μ0 : tm_M} (hs : tFr W μ0 μ) (hw : y_T W) : y_V μ ↔ y_V μ0 := by
  unfold y_V
  simp only [y_t82 hs hw, y_t83 hs hw, y_t84 hs hw, y_f43 hs hw]
theorem pX6_isWay {p : Int} (hd : 1 ≤ d) (hs : tS μ) (hc : y_V μ) : cI w0 mX6_isWay d [(2, 65), (0, p)] μ (fun r _ => r = b2i (0 ≤ p ∧ p < tm_v μ 65 43)) := by
  have h1 := hc.1
  refine t_of (uX6_isWay_0 hd (tFr.rf hs) ?_)
  rw [w32_id (by omega) (by omega)]
  by_cases q : 0 ≤ p ∧ p < tm_v μ 65 43
  · rw [b2i_t q, b2i_t (by omega)]
  · rw [b2i_f q, b2i_f (by omega)]
theorem pX6_isWayF {W : Int → Int → Prop} {μ0 : tm_M} {p : Int} (hd : 1 ≤ d) (hs : tFr W μ0 μ) (hw : y_T W) (hc : y_V μ0) : cI w0 mX6_isWay d [(2, 65), (0, p)] μ (fun r _ => r = b2i (0 ≤ p ∧ p < tm_v μ0 65 43)) := by rw [← y_f43 hs hw]; exact pX6_isWay hd hs.S ((y_V_F hs hw).mpr hc)
def y_placed (μ : tm_M) (t k : Int) : Int := if 0 < y_trayed μ t then y_trayed μ t else if k < 0 ∨ tm_v μ 67 t ≤ k then 4 else 0
theorem y_trayed_in {t : Int} (h : y_trayed μ t ≤ 0) : (0 ≤ t ∧ t < 4) ∧ 0 ≤ tm_v μ 67 t := by
  unfold y_trayed at h
  split at h
  · omega
  · split at h <;> omega
theorem pX6_placed {t k : Int} (hd : 1 ≤ d) (hs : tS μ) : cI w0 mX6_placed d [(2, 65), (0, t), (0, k)] μ (fun r _ => r = y_placed μ t k) := by
  refine t_of (uX6_placed_0 hd (tFr.rf hs) ?_)
  rintro x4 rfl
  refine ⟨fun c => ⟨fun c2 => ?_, fun c2 => ⟨(y_trayed_in c).1, fun c3 => ?_, fun c3 => ?_⟩⟩, fun c => ?_⟩
  · unfold y_placed; rw [if_neg (by omega), if_pos (by omega)]
  · unfold y_placed; rw [if_neg (by omega), if_neg (by omega)]
  · unfold y_placed; rw [if_neg (by omega), if_pos (by omega)]
  · unfold y_placed; rw [if_pos c]
/-- is the token at hand this word? -/
def y_is (μ : tm_M) (w : Int) : Prop := tm_v μ 65 14 = 1 ∧ tm_v μ 65 19 = w
def y_feature (μ : tm_M) : Int := if tm_v μ 65 14 = 1 ∧ tm_v μ 65 19 = 627891 then 0 else if tm_v μ 65 14 = 1 ∧ tm_v μ 65 19 = 6605428 then 1 else if tm_v μ 65 14 = 1 ∧ tm_v μ 65 19 = 642891204 then 2 else -1
theorem pX6_feature (hd : 2 ≤ d) (hs : tS μ) : cI w0 mX6_feature d [(2, 65)] μ (fun r _ => r = y_feature μ) := by
  refine t_of (uX6_feature_0 (by omega) (tFr.rf hs) ⟨fun c => ⟨fun c2 => ⟨fun c3 => ?_, fun c3 => ?_⟩, fun c2 => ?_⟩, fun c => ?_⟩)
  · unfold y_feature; rw [if_neg c, if_neg c2, if_neg c3]
  · unfold y_feature; rw [if_neg c, if_neg c2, if_pos c3]
  · unfold y_feature; rw [if_neg c, if_pos c2]
  · unfold y_feature; rw [if_pos c]
theorem pX6_isPlaceWord (hd : 2 ≤ d) (hs : tS μ) : cI w0 mX6_isPlaceWord d [(2, 65)] μ (fun r _ => r = b2i (tm_v μ 65 14 = 1 ∧ tm_v μ 65 19 = 17171557)) := t_of (uX6_isPlaceWord_0 (by omega) (tFr.rf hs) rfl)
theorem pX6_isLane (hd : 2 ≤ d) (hs : tS μ) : cI w0 mX6_isLane d [(2, 65)] μ (fun r _ => r = b2i (tm_v μ 65 14 = 1 ∧ tm_v μ 65 19 = 394693)) := t_of (uX6_isLane_0 (by omega) (tFr.rf hs) rfl)
theorem pX6_isTo (hd : 2 ≤ d) (hs : tS μ) : cI w0 mX6_isTo d [(2, 65)] μ (fun r _ => r = b2i (tm_v μ 65 14 = 1 ∧ tm_v μ 65 19 = 655)) := t_of (uX6_isTo_0 (by omega) (tFr.rf hs) rfl)
theorem pX6_isCross (hd : 2 ≤ d) (hs : tS μ) : cI w0 mX6_isCross d [(2, 65)] μ (fun r _ => r = b2i (tm_v μ 65 14 = 1 ∧ tm_v μ 65 19 = 3751539)) := t_of (uX6_isCross_0 (by omega) (tFr.rf hs) rfl)
theorem pX6_isSlow (hd : 2 ≤ d) (hs : tS μ) : cI w0 mX6_isSlow d [(2, 65)] μ (fun r _ => r = b2i (tm_v μ 65 14 = 1 ∧ tm_v μ 65 19 = 635383)) := t_of (uX6_isSlow_0 (by omega) (tFr.rf hs) rfl)
theorem pX6_isHears (hd : 2 ≤ d) (hs : tS μ) : cI w0 mX6_isHears d [(2, 65)] μ (fun r _ => r = b2i (tm_v μ 65 14 = 1 ∧ tm_v μ 65 19 = 8554067)) := t_of (uX6_isHears_0 (by omega) (tFr.rf hs) rfl)
/-- all likelihoods -/
def y_n (μ : tm_M) : Nat := (tm_v μ 65 20).toNat
def y_all (μ : tm_M) : Int := sm (fun a => sm (fun b => y_likely μ a b) (y_n μ)) (y_n μ)
theorem y_likely_bd {a b : Int} (ha : y_p μ a) (hb : y_p μ b) : 0 ≤ y_likely μ a b ∧ y_likely μ a b ≤ 81 := by
  have h1 := (ha.1.2.2.1 a ha.2.1 ha.2.2).2.2.1
  have h2 := (hb.1.2.2.1 b hb.2.1 hb.2.2).2.2.2.1
  exact ⟨Int.mul_nonneg h1.1 h2.1, Int.le_trans (Int.mul_le_mul h1.2 h2.2 h2.1 (by omega)) (by omega)⟩
theorem y_row_bd {a : Int} (ha : y_p μ a) {n : Nat} (hn : (n : Int) ≤ tm_v μ 65 20) : 0 ≤ sm (fun b => y_likely μ a b) n ∧ sm (fun b => y_likely μ a b) n ≤ n * 81 := sm_bd fun i hi => y_likely_bd ha ⟨ha.1, by omega, by omega⟩
theorem y_all_bd (hW : y_W μ) {n : Nat} (hn : (n : Int) ≤ tm_v μ 65 20) : 0 ≤ sm (fun a => sm (fun b => y_likely μ a b) (y_n μ)) n ∧ sm (fun a => sm (fun b => y_likely μ a b) (y_n μ)) n ≤ n * 648 := by
  have h1 := hW.1
  refine sm_bd fun i hi => ?_
  have h2 := y_row_bd (μ := μ) (a := i) ⟨hW, by omega, by omega⟩ (n := y_n μ) (by unfold y_n; omega)
  have h3 : (y_n μ : Int) ≤ 8 := by unfold y_n; omega
  omega
theorem pX6_allLikely (hd : 1 ≤ d) (hs : tS μ) (hW : y_W μ) : cL w0 mX6_allLikely d [(2, 65)] μ (fun r _ => r = y_all μ) := by
  have h1 := hW.1
  have hn : ((y_n μ : Nat) : Int) = tm_v μ 65 20 := by unfold y_n; omega
  have inner : ∀ (k i j : Nat) (acc : Int), j + k = y_n μ → i < y_n μ → acc = sm (fun a => sm (fun b => y_likely μ a b) (y_n μ)) i + sm (fun b => y_likely μ i b) j → hLo wX6_allLikely μ mX6_allLikely d (fun r _ => r = y_all μ) 4 [(0, 2, 65), (1, 1, sm (fun a => sm (fun b => y_likely μ a b) (y_n μ)) (i + 1)), (3, 0, ((i + 1 : Nat) : Int))] [] μ → hLo wX6_allLikely μ mX6_allLikely d (fun r _ => r = y_all μ) 15 [(0, 2, 65), (1, 1, acc), (3, 0, (i : Int)), (4, 0, (j : Int))] [] μ := by
    intro k
    induction k with
    | zero =>
      intro i j acc hj hi ha hout
      refine uX6_allLikely_15 hd (tFr.rf hs) ⟨fun c => ?_, fun c => by omega⟩
      have e1 : w32 ((i : Int) + 1) = ((i + 1 : Nat) : Int) := by rw [w32_id (by omega) (by omega)]; omega
      have e2 : acc = sm (fun a => sm (fun b => y_likely μ a b) (y_n μ)) (i + 1) := by rw [sm, ha]; congr 2
      rw [e1, e2]
      exact hout
    | succ k ih =>
      intro i j acc hj hi ha hout
      refine uX6_allLikely_15 hd (tFr.rf hs) ⟨fun c => by omega, fun c => ⟨⟨⟨hW, by omega, by omega⟩, ⟨hW, by omega, by omega⟩⟩, ?_⟩⟩
      rintro x7 rfl
      have b1 := y_all_bd hW (n := i) (by omega)
      have b2 := y_row_bd (μ := μ) (a := i) ⟨hW, by omega, by omega⟩ (n := j) (by omega)
      have b3 := y_likely_bd (μ := μ) (a := i) (b := j) ⟨hW, by omega, by omega⟩ ⟨hW, by omega, by omega⟩
      have e1 : w32 ((j : Int) + 1) = ((j + 1 : Nat) : Int) := by rw [w32_id (by omega) (by omega)]; omega
      rw [e1, w64_id (by omega) (by omega)]
      exact ih i (j + 1) _ (by omega) hi (by rw [sm, ha]; omega) hout
  have outer : ∀ (k i : Nat), i + k = y_n μ → hLo wX6_allLikely μ mX6_allLikely d (fun r _ => r = y_all μ) 4 [(0, 2, 65), (1, 1, sm (fun a => sm (fun b => y_likely μ a b) (y_n μ)) i), (3, 0, (i : Int))] [] μ := by
    intro k
    induction k with
    | zero =>
      intro i hi
      refine uX6_allLikely_4 (tFr.rf hs) ⟨fun c => ?_, fun c => by omega⟩
      have : i = y_n μ := by omega
      rw [this]
      rfl
    | succ k ih =>
      intro i hi
      refine uX6_allLikely_4 (tFr.rf hs) ⟨fun c => by omega, fun c => ?_⟩
      exact inner (y_n μ) i 0 _ (by omega) (by omega) (by simp [sm]) (ih (i + 1) (by omega))
  exact t_of (uX6_allLikely_0 (tFr.rf hs) (outer (y_n μ) 0 (by omega)))
theorem y_all_F {W : Int → Int → Prop} {μ0 : tm_M} (hs : tFr W μ0 μ) (hw : y_T W) : y_all μ = y_all μ0 := by
  have e : y_n μ = y_n μ0 := by unfold y_n; rw [y_f20 hs hw]
  have e2 : (fun a b => y_likely μ a b) = fun a b => y_likely μ0 a b := by funext a b; exact y_likely_F hs hw a b
  unfold y_all
  rw [e]
  congr 1
  funext a
  congr 1
  funext b
  exact y_likely_F hs hw a b
theorem pX6_allLikelyF {W : Int → Int → Prop} {μ0 : tm_M} (hd : 1 ≤ d) (hs : tFr W μ0 μ) (hw : y_T W) (hc : y_W μ0) : cL w0 mX6_allLikely d [(2, 65)] μ (fun r _ => r = y_all μ0) := by rw [← y_all_F hs hw]; exact pX6_allLikely hd hs.S ((y_W_F hs hw).mpr hc)
end C6B
