/-! CONTRACTS of the model: when, judge, sums -/
section C6G
variable {d : Nat} {μ μ0 : tm_M} {W : Int → Int → Prop}
theorem fr_st (hs : tFr W μ0 μ) (h1 : W 65 1) (h0 : W 65 0) (s : Int) : tFr W μ0 (tm_w (tm_w μ 65 1 0) 65 0 s) := (hs.w h1 (tS_wj hs.S _ (by decide))).w h0 (tS_wj (tS_wj hs.S _ (by decide)) _ (by decide))
theorem fr_s (hs : tFr W μ0 μ) (h0 : W 65 0) (s : Int) : tFr W μ0 (tm_w μ 65 0 s) := hs.w h0 (tS_wj hs.S _ (by decide))
theorem y_goF (hs : tFr W μ0 μ) (hw : y_T W) : y_go μ = y_go μ0 := by funext p k; exact y_go_F hs hw p k
theorem y_stpF (hs : tFr W μ0 μ) (hw : y_T W) (w p dn md : Int) : y_stp μ w p dn md = y_stp μ0 w p dn md := by
  unfold y_stp
  simp only [y_t82 hs hw, y_t83 hs hw, y_t84 hs hw, y_t70 hs hw]
theorem y_mdF (hs : tFr W μ0 μ) (hw : y_T W) (w p md : Int) : y_md μ w p md = y_md μ0 w p md := by
  unfold y_md
  simp only [y_t82 hs hw, y_t83 hs hw, y_t70 hs hw]
theorem y_tickF (hs : tFr W μ0 μ) (hw : y_T W) (w v t : Int) (s : WS) : y_tick μ w v t s = y_tick μ0 w v t s := by
  unfold y_tick
  simp only [y_goF hs hw, y_stpF hs hw, y_mdF hs hw, y_near_F hs hw, y_f24 hs hw, y_f25 hs hw, y_f30 hs hw]
theorem y_runF (hs : tFr W μ0 μ) (hw : y_T W) (w v : Int) (n : Nat) : ∀ (t : Int) (s : WS), y_run μ w v n t s = y_run μ0 w v n t s := by
  induction n with
  | zero => intro t s; rfl
  | succ n ih =>
    intro t s
    have e : y_met μ = y_met μ0 := by funext a b c d; unfold y_met; rw [y_f28 hs hw]
    rw [y_run, y_run, y_tickF hs hw, ih, e]
theorem y_walk_F (hs : tFr W μ0 μ) (hw : y_T W) (w v a b : Int) : y_walk μ w v a b = y_walk μ0 w v a b := by
  unfold y_walk
  rw [y_runF hs hw]
theorem y_v_F (hs : tFr W μ0 μ) (hw : y_T W) (w : Int) : y_v μ w ↔ y_v μ0 w := by unfold y_v; rw [y_V_F hs hw, y_f43 hs hw]
theorem pX6_walkF {w v a b : Int} (hd : 3 ≤ d) (hs : tFr W μ0 μ) (hT : y_T W) (hw : y_v μ0 w) (hv : y_v μ0 v) (ha : y_p μ0 a) (hb : y_p μ0 b) : cI wX6_walk mX6_walk d [(2, 65), (0, w), (0, v), (0, a), (0, b)] μ (fun r _ => r = y_walk μ0 w v a b) := by
  rw [← y_walk_F hs hT]
  exact pX6_walk hd hs.S ((y_v_F hs hT w).mpr hw) ((y_v_F hs hT v).mpr hv) ((y_p_F hs hT a).mpr ha) ((y_p_F hs hT b).mpr hb)
theorem y_run_in (w v : Int) (n : Nat) : ∀ (t : Int) (s : WS), 0 ≤ t → -1 ≤ y_run μ w v n t s ∧ y_run μ w v n t s ≤ t + n := by
  induction n with
  | zero => intro t s h; rw [y_run]; omega
  | succ n ih =>
    intro t s h
    rw [y_run]
    have := ih (t + 1) (y_tick μ w v t s) (by omega)
    split <;> omega
theorem y_walk_in (w v a b : Int) : -1 ≤ y_walk μ w v a b ∧ y_walk μ w v a b ≤ 200 := by
  unfold y_walk
  have := y_run_in (μ := μ) w v 200 0 (y_ws0 a b) (by omega)
  split <;> omega
/-- a fraction told -/
def u_fr (μ : tm_M) (t b : Int) : tm_M := tm_w (tm_w μ 65 2 (t / (Int.gcd t b : Int))) 65 3 (b / (Int.gcd t b : Int))
theorem pX6_fraction {t b : Int} (hd : 2 ≤ d) (hs : tS μ) (hc : 0 ≤ t ∧ t ≤ 9223372036854775807 ∧ 0 < b ∧ b ≤ 9223372036854775807) : cV wX6_fraction mX6_fraction d [(2, 65), (1, t), (1, b)] μ (fun μ' => μ' = u_fr μ t b) := by
  refine t_of (uX6_fraction_0 (by omega) (tFr.rf hs) ?_)
  refine tC.L (pX6_common (by omega) hs ⟨by omega, by omega, by omega, by omega⟩) ?_
  rintro r m f rfl
  rw [f.same]
  have hg : 0 < Int.gcd t b := Int.gcd_pos_of_ne_zero_right t (by omega)
  have q1 : 0 ≤ t / (Int.gcd t b : Int) := Int.ediv_nonneg hc.1 (by omega)
  have q2 : t / (Int.gcd t b : Int) ≤ t := Int.ediv_le_self _ hc.1
  have q3 : 0 ≤ b / (Int.gcd t b : Int) := Int.ediv_nonneg (by omega) (by omega)
  have q4 : b / (Int.gcd t b : Int) ≤ b := Int.ediv_le_self _ (by omega)
  rw [Int.tdiv_eq_ediv_of_nonneg hc.1, Int.tdiv_eq_ediv_of_nonneg (show 0 ≤ b by omega), w64_id (by omega) (by omega), w64_id (by omega) (by omega)]
  refine ⟨by omega, ?_⟩
  rintro _ rfl
  refine ⟨by omega, ?_⟩
  rintro _ rfl
  rfl
noncomputable def r_distance (μ : tm_M) (a b : Int) : Int × Int := if ¬ ((0 ≤ a ∧ a < tm_v μ 65 20) ∧ 0 ≤ b ∧ b < tm_v μ 65 20) then (-1, 2) else if y_far (y_go μ) a b = 100 then (-1, 8) else (y_far (y_go μ) a b, 0)
theorem pX6_distance {a b : Int} (hd : 2 ≤ d) (hs : tS μ) (hW : y_W μ) : cI wX6_distance mX6_distance d [(2, 65), (0, a), (0, b)] μ (fun r μ' => r = (r_distance μ a b).1 ∧ tm_v μ' 65 0 = (r_distance μ a b).2) := by
  refine t_of (uX6_distance_0 hd (tFr.rf hs) ?_)
  rintro _ rfl _ rfl
  have f2 : tFr wX6_distance μ (tm_w (tm_w μ 65 1 0) 65 0 0) := fr_st (tFr.rf hs) (tWs_inF rfl) (tWs_inF rfl) 0
  unfold r_distance
  refine ⟨hW, fun c => ?_, fun c => ⟨fun c2 => ?_, fun c2 => ?_⟩⟩
  · rintro _ rfl
    rw [if_pos (by omega)]; exact ⟨rfl, rfl⟩
  · have pa : y_p μ a := ⟨hW, c⟩
    have pb : y_p μ b := ⟨hW, c2⟩
    refine tC.V (pX6_findFar (by omega) f2.S ((y_p_F f2 (tWs_T rfl) a).mpr pa)) ?_
    intro m fm h
    have h9 := h b c2.1 (by rw [y_f20 f2 (tWs_T rfl)]; exact c2.2)
    rw [y_goF f2 (tWs_T rfl)] at h9
    have h0 : tm_v m 65 0 = 0 := by rw [fm.v (tWs_no _ rfl)]; simp [tm_vw]
    rw [h9, if_neg (by omega)]
    refine ⟨y_p8 pb, fun c3 => ?_, fun c3 => ?_⟩
    · rw [if_neg (by omega)]; exact ⟨rfl, h0⟩
    · rintro _ rfl
      have := y_far_in (g := y_go μ) (a := a) b
      rw [if_pos (by omega)]
      exact ⟨rfl, by simp [tm_vw]⟩
  · rintro _ rfl
    rw [if_pos (by omega)]; exact ⟨rfl, rfl⟩
noncomputable def r_when (μ : tm_M) (w v a b : Int) : Int × Int :=
  if ¬ ((0 ≤ w ∧ w < tm_v μ 65 43) ∧ (0 ≤ v ∧ v < tm_v μ 65 43) ∧ (0 ≤ a ∧ a < tm_v μ 65 20) ∧ 0 ≤ b ∧ b < tm_v μ 65 20) then (-1, 2) else if y_walk μ w v a b < 0 then (-1, 8) else (y_walk μ w v a b, 0)
theorem pX6_when {w v a b : Int} (hd : 4 ≤ d) (hs : tS μ) (hW : y_W μ) (hV : y_V μ) : cI wX6_when mX6_when d [(2, 65), (0, w), (0, v), (0, a), (0, b)] μ (fun r μ' => r = (r_when μ w v a b).1 ∧ tm_v μ' 65 0 = (r_when μ w v a b).2) := by
  refine t_of (uX6_when_0 (by omega) (tFr.rf hs) ?_)
  rintro _ rfl _ rfl
  have f2 : tFr wX6_when μ (tm_w (tm_w μ 65 1 0) 65 0 0) := fr_st (tFr.rf hs) (tWs_inF rfl) (tWs_inF rfl) 0
  unfold r_when
  refine ⟨hV, fun c => ?_, fun c => ⟨fun c2 => ?_, fun c2 => ⟨hW, fun c3 => ?_, fun c3 => ⟨fun c4 => ?_, fun c4 => ?_⟩⟩⟩⟩
  · rintro _ rfl
    rw [if_pos (by omega)]; exact ⟨rfl, rfl⟩
  · rintro _ rfl
    rw [if_pos (by omega)]; exact ⟨rfl, rfl⟩
  · rintro _ rfl
    rw [if_pos (by omega)]; exact ⟨rfl, rfl⟩
  · refine tC.I (pX6_walkF (by omega) f2 (tWs_T rfl) ⟨hV, c⟩ ⟨hV, c2⟩ ⟨hW, c3⟩ ⟨hW, c4⟩) ?_
    rintro r m fm rfl
    have h0 : tm_v m 65 0 = 0 := by rw [fm.v (tWs_no _ rfl)]; simp [tm_vw]
    rw [if_neg (by omega)]
    refine ⟨fun c5 => ?_, fun c5 => ?_⟩
    · rw [if_neg (by omega)]; exact ⟨rfl, h0⟩
    · rintro _ rfl
      rw [if_pos c5]; exact ⟨rfl, by simp [tm_vw]⟩
  · rintro _ rfl
    rw [if_pos (by omega)]; exact ⟨rfl, rfl⟩
theorem dm_eq {n a b : Int} (h0 : 0 ≤ b) (h1 : b < n) : (n * a + b) / n = a ∧ (n * a + b) % n = b := by
  constructor
  · rw [Int.add_comm, Int.add_mul_ediv_left _ _ (by omega), Int.ediv_eq_zero_of_lt h0 h1]; omega
  · rw [Int.add_comm, Int.add_mul_emod_self_left, Int.emod_eq_of_lt h0 h1]
/-- the first pair that differs from a tray -/
noncomputable def y_jd (μ : tm_M) (w v tr : Int) : Int := fdn (fun i => tm_v μ 68 (64 * tr + i) ≠ y_walk μ w v (i / tm_v μ 65 20) (i % tm_v μ 65 20)) (-1) (tm_v μ 65 20 * tm_v μ 65 20).toNat 0
noncomputable def r_judge (μ : tm_M) (w v tr : Int) : Int × Int :=
  if ¬ (0 ≤ tr ∧ tr < 4) then (-1, 1) else if ¬ ((0 ≤ w ∧ w < tm_v μ 65 43) ∧ 0 ≤ v ∧ v < tm_v μ 65 43) then (-1, 2) else if tm_v μ 67 tr < 0 then (-1, 3) else if tm_v μ 67 tr < tm_v μ 65 20 * tm_v μ 65 20 then (-1, 4)
  else (if y_jd μ w v tr < 0 then -1 else 8 * (y_jd μ w v tr / tm_v μ 65 20) + y_jd μ w v tr % tm_v μ 65 20, 0)
theorem nn_in {n : Int} (h : 0 ≤ n ∧ n ≤ 8) : 0 ≤ n * n ∧ n * n ≤ 64 := by
  have : n = 0 ∨ n = 1 ∨ n = 2 ∨ n = 3 ∨ n = 4 ∨ n = 5 ∨ n = 6 ∨ n = 7 ∨ n = 8 := by omega
  rcases this with e | e | e | e | e | e | e | e | e <;> rw [e] <;> decide
theorem na_in {n a : Int} (h : 0 ≤ n ∧ n ≤ 8) (h0 : 0 ≤ a) (h1 : a < n) : 0 ≤ n * a ∧ n * a + n ≤ n * n ∧ n * (a + 1) = n * a + n := by
  refine ⟨Int.mul_nonneg h.1 h0, ?_, by rw [Int.mul_add, Int.mul_one]⟩
  have : n * (a + 1) ≤ n * n := Int.mul_le_mul_of_nonneg_left (by omega) h.1
  rw [Int.mul_add, Int.mul_one] at this
  exact this
theorem pX6_judge {w v tr : Int} (hd : 4 ≤ d) (hs : tS μ) (hW : y_W μ) (hV : y_V μ) : cI wX6_judge mX6_judge d [(2, 65), (0, w), (0, v), (0, tr)] μ (fun r μ' => r = (r_judge μ w v tr).1 ∧ tm_v μ' 65 0 = (r_judge μ w v tr).2) := by
  have h20 := hW.1
  have hnn := nn_in h20
  have inner : 0 ≤ tr ∧ tr < 4 → y_v μ w → y_v μ v → tm_v μ 65 20 * tm_v μ 65 20 ≤ tm_v μ 67 tr → ∀ (n : Nat) (a b : Int) (m : tm_M), 0 ≤ a → a < tm_v μ 65 20 → 0 ≤ b → b + n = tm_v μ 65 20 → tFr wX6_judge μ m → tm_v m 65 0 = 0 → fdn (fun i => tm_v μ 68 (64 * tr + i) ≠ y_walk μ w v (i / tm_v μ 65 20) (i % tm_v μ 65 20)) (-1) (tm_v μ 65 20 * tm_v μ 65 20 - (tm_v μ 65 20 * a + b)).toNat (tm_v μ 65 20 * a + b) = y_jd μ w v tr →
      (∀ m', tFr wX6_judge μ m' → tm_v m' 65 0 = 0 → fdn (fun i => tm_v μ 68 (64 * tr + i) ≠ y_walk μ w v (i / tm_v μ 65 20) (i % tm_v μ 65 20)) (-1) (tm_v μ 65 20 * tm_v μ 65 20 - (tm_v μ 65 20 * (a + 1))).toNat (tm_v μ 65 20 * (a + 1)) = y_jd μ w v tr → hI wX6_judge μ mX6_judge d (fun r μ' => r = (if y_jd μ w v tr < 0 then -1 else 8 * (y_jd μ w v tr / tm_v μ 65 20) + y_jd μ w v tr % tm_v μ 65 20) ∧ tm_v μ' 65 0 = 0) 92 [(0, 2, 65), (1, 0, w), (2, 0, v), (3, 0, tr), (4, 0, a + 1)] [] m') →
      hI wX6_judge μ mX6_judge d (fun r μ' => r = (if y_jd μ w v tr < 0 then -1 else 8 * (y_jd μ w v tr / tm_v μ 65 20) + y_jd μ w v tr % tm_v μ 65 20) ∧ tm_v μ' 65 0 = 0) 104 [(0, 2, 65), (1, 0, w), (2, 0, v), (3, 0, tr), (4, 0, a), (5, 0, b)] [] m := by
    intro htr hw hv hmn n
    induction n with
    | zero =>
      intro a b m a0 a1 b0 bn hm h0 he kk
      have q := na_in h20 a0 a1
      refine uX6_judge_104 (by omega) hm ⟨fun c => ?_, fun c => by omega⟩
      rw [w32_id (by omega) (by omega)]
      refine kk m hm h0 ?_
      rw [q.2.2, show tm_v μ 65 20 * a + tm_v μ 65 20 = tm_v μ 65 20 * a + b by omega]
      exact he
    | succ n ih =>
      intro a b m a0 a1 b0 bn hm h0 he kk
      have q := na_in h20 a0 a1
      have dm := dm_eq (n := tm_v μ 65 20) (a := a) (b := b) b0 (by omega)
      have e1 : w32 (w32 (tm_v μ 65 20 * a) + b) = tm_v μ 65 20 * a + b := by rw [w32_id (x := tm_v μ 65 20 * a) (by omega) (by omega), w32_id (by omega) (by omega)]
      refine uX6_judge_104 (by omega) hm ⟨fun c => by omega, fun c => ?_⟩
      rw [e1]
      refine ⟨by omega, ?_⟩
      refine tC.I (pX6_walkF (by omega) hm (tWs_T rfl) hw hv ⟨hW, a0, a1⟩ ⟨hW, b0, by omega⟩) ?_
      rintro r m2 f2 rfl
      have hm2 : tFr wX6_judge μ m2 := hm.tr f2 (tWs_sub rfl)
      have h02 : tm_v m2 65 0 = 0 := by rw [f2.v (tWs_no _ rfl)]; exact h0
      have e68 : tm_v m 68 (64 * tr + (tm_v μ 65 20 * a + b)) = tm_v μ 68 (64 * tr + (tm_v μ 65 20 * a + b)) := hm.v (tWs_no _ rfl)
      rw [e68]
      rw [show (tm_v μ 65 20 * tm_v μ 65 20 - (tm_v μ 65 20 * a + b)).toNat = (tm_v μ 65 20 * tm_v μ 65 20 - (tm_v μ 65 20 * a + (b + 1))).toNat + 1 by omega, fdn, dm.1, dm.2] at he
      refine ⟨fun c2 => ?_, fun c2 => ?_⟩
      · rw [if_neg (fun k => k c2)] at he
        rw [w32_id (by omega) (by omega)]
        exact ih a (b + 1) m2 a0 a1 (by omega) (by omega) hm2 h02 (by rw [Int.add_assoc] at he; exact he) kk
      · rw [if_pos c2] at he
        rw [w32_id (x := 8 * a) (by omega) (by omega), w32_id (by omega) (by omega)]
        refine ⟨?_, h02⟩
        rw [← he, if_neg (by omega), dm.1, dm.2]
  have outer : 0 ≤ tr ∧ tr < 4 → y_v μ w → y_v μ v → tm_v μ 65 20 * tm_v μ 65 20 ≤ tm_v μ 67 tr → ∀ (n : Nat) (a : Int) (m : tm_M), 0 ≤ a → a + n = tm_v μ 65 20 → tFr wX6_judge μ m → tm_v m 65 0 = 0 → fdn (fun i => tm_v μ 68 (64 * tr + i) ≠ y_walk μ w v (i / tm_v μ 65 20) (i % tm_v μ 65 20)) (-1) (tm_v μ 65 20 * tm_v μ 65 20 - (tm_v μ 65 20 * a)).toNat (tm_v μ 65 20 * a) = y_jd μ w v tr →
      hI wX6_judge μ mX6_judge d (fun r μ' => r = (if y_jd μ w v tr < 0 then -1 else 8 * (y_jd μ w v tr / tm_v μ 65 20) + y_jd μ w v tr % tm_v μ 65 20) ∧ tm_v μ' 65 0 = 0) 92 [(0, 2, 65), (1, 0, w), (2, 0, v), (3, 0, tr), (4, 0, a)] [] m := by
    intro htr hw hv hmn n
    induction n with
    | zero =>
      intro a m a0 an hm h0 he
      refine uX6_judge_92 hm ⟨fun c => ⟨?_, h0⟩, fun c => by omega⟩
      rw [show a = tm_v μ 65 20 by omega, show (tm_v μ 65 20 * tm_v μ 65 20 - tm_v μ 65 20 * tm_v μ 65 20).toNat = 0 by omega, fdn] at he
      rw [← he]; rfl
    | succ n ih =>
      intro a m a0 an hm h0 he
      refine uX6_judge_92 hm ⟨fun c => by omega, fun c => ?_⟩
      refine inner htr hw hv hmn (tm_v μ 65 20).toNat a 0 m a0 c (by omega) (by omega) hm h0 (by rw [Int.add_zero]; exact he) (fun m' hm' h0' he' => ?_)
      exact ih (a + 1) m' (by omega) (by omega) hm' h0' he'
  refine t_of (uX6_judge_0 (by omega) (tFr.rf hs) ?_)
  rintro _ rfl _ rfl
  have f2 : tFr wX6_judge μ (tm_w (tm_w μ 65 1 0) 65 0 0) := fr_st (tFr.rf hs) (tWs_inF rfl) (tWs_inF rfl) 0
  unfold r_judge
  refine ⟨fun c => ⟨hV, fun c2 => ?_, fun c2 => ⟨fun c3 => ⟨by omega, fun c4 => ⟨fun c5 => ?_, fun c5 => ?_⟩, fun c4 => ?_⟩, fun c3 => ?_⟩⟩, fun c => ?_⟩
  · rintro _ rfl
    rw [if_neg (by omega), if_pos (by omega)]; exact ⟨rfl, rfl⟩
  · rw [w32_id (by omega) (by omega)] at c5
    rw [if_neg (by omega), if_neg (by omega), if_neg (by omega), if_neg (by omega)]
    exact outer (by omega) ⟨hV, c2⟩ ⟨hV, c3⟩ c5 (tm_v μ 65 20).toNat 0 _ (by omega) (by omega) f2 (by simp [tm_vw]) (by simp only [Int.mul_zero, Int.sub_zero]; rfl)
  · rintro _ rfl
    rw [w32_id (by omega) (by omega)] at c5
    rw [if_neg (by omega), if_neg (by omega), if_neg (by omega), if_pos (by omega)]; exact ⟨rfl, rfl⟩
  · rintro _ rfl
    rw [if_neg (by omega), if_neg (by omega), if_pos (by omega)]; exact ⟨rfl, rfl⟩
  · rintro _ rfl
    rw [if_neg (by omega), if_pos (by omega)]; exact ⟨rfl, rfl⟩
  · rintro _ rfl
    rw [if_pos (by omega)]; exact ⟨rfl, rfl⟩
end C6G
