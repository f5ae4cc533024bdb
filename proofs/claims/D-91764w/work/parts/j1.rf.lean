/-! what the model answers, under frames -/
section RF
variable {μ μ0 : tm_M} {W : Int → Int → Prop} {w v a b n t k o cap p l x y z s : Int}
theorem r_many_F (hs : tFr W μ0 μ) (hw : y_T W) : r_many μ w = r_many μ0 w := by unfold r_many; simp only [y_f20 hs hw, y_f21 hs hw, y_f43 hs hw]
theorem r_place_F (hs : tFr W μ0 μ) (hw : y_T W) : r_place μ p w = r_place μ0 p w := by unfold r_place; simp only [y_f20 hs hw, y_t70 hs hw, y_t72 hs hw, y_leads_F hs hw]
theorem r_distance_F (hs : tFr W μ0 μ) (hw : y_T W) : r_distance μ a b = r_distance μ0 a b := by unfold r_distance; simp only [y_f20 hs hw, y_goF hs hw]
theorem r_when_F (hs : tFr W μ0 μ) (hw : y_T W) : r_when μ w v a b = r_when μ0 w v a b := by unfold r_when; simp only [y_f20 hs hw, y_f43 hs hw, y_walk_F hs hw]
theorem y_jd_F (hs : tFr W μ0 μ) (hw : y_T W) (h8 : ∀ j, ¬ W 68 j) : y_jd μ w v t = y_jd μ0 w v t := by
  unfold y_jd
  rw [y_f20 hs hw]
  exact fdn_congr _ _ (fun j _ _ => by rw [hs.v (h8 _), y_walk_F hs hw])
theorem r_judge_F (hs : tFr W μ0 μ) (hw : y_T W) (h7 : ∀ j, ¬ W 67 j) (h8 : ∀ j, ¬ W 68 j) : r_judge μ w v t = r_judge μ0 w v t := by unfold r_judge; simp only [y_f20 hs hw, y_f43 hs hw, y_jd_F hs hw h8, hs.v (h7 _)]
theorem r_mean_F (hs : tFr W μ0 μ) (hw : y_T W) (h2 : ¬ W 65 2) (h3 : ¬ W 65 3) : r_mean μ w v = r_mean μ0 w v := by unfold r_mean; simp only [y_f43 hs hw, y_sum_F hs hw, y_all_F hs hw, hs.v h2, hs.v h3]
theorem y_wst_F (hs : tFr W μ0 μ) (hw : y_T W) (q : Nat) : ∀ i acc, y_wst μ w v q i acc = y_wst μ0 w v q i acc := by
  induction q with
  | zero => intro i acc; rfl
  | succ q ih => intro i acc; rw [y_wst, y_wst, ih, ih, y_f20 hs hw, y_likely_F hs hw, y_walk_F hs hw]
theorem r_worst_F (hs : tFr W μ0 μ) (hw : y_T W) : r_worst μ w v = r_worst μ0 w v := by unfold r_worst; simp only [y_f20 hs hw, y_f43 hs hw, y_sum_F hs hw, y_wst_F hs hw]
theorem fr_w80 (hs : tFr W μ0 μ) : tFr W (tm_w μ0 80 l x) (tm_w μ 80 l x) := ⟨tS_w hs.S sf_80 _ _, hs.z, hs.k, hs.n, fun a j hw => by
  rw [tm_vw, tm_vw]
  by_cases q : a = 80 ∧ j = l
  · rw [if_pos q, if_pos q]
  · rw [if_neg q, if_neg q]; exact hs.v hw⟩
theorem y_dr_F (hs : tFr W μ0 μ) (hw : y_T W) (q : Nat) : ∀ i b s, y_dr μ w v q i b s = y_dr μ0 w v q i b s := by
  induction q with
  | zero => intro i b s; rfl
  | succ q ih =>
    intro i b s
    have e := y_sum_F (fr_w80 (l := i) (x := 1) hs) hw w v
    rw [y_dr, y_dr, e, y_t80 hs hw, ih, ih]
theorem r_door_F (hs : tFr W μ0 μ) (hw : y_T W) (h2 : ¬ W 65 2) (h3 : ¬ W 65 3) : r_door μ w v = r_door μ0 w v := by
  have e : y_door μ w v = y_door μ0 w v := by unfold y_door; rw [y_f21 hs hw, y_sum_F hs hw, y_dr_F hs hw]
  unfold r_door
  simp only [y_f43 hs hw, e, y_all_F hs hw, hs.v h2, hs.v h3]
theorem bis_F (hs : tFr W μ0 μ) (hw : y_T W) : bis μ a b = bis μ0 a b := by
  unfold bis bisR
  simp only [y_p_F hs hw, y_t70 hs hw, y_t72 hs hw, y_leads_F hs hw]
theorem r_same_F (hs : tFr W μ0 μ) (hw : y_T W) : r_same μ a b = r_same μ0 a b := by
  unfold r_same
  rw [y_f20 hs hw, bis_F hs hw]
theorem r_drawn_F (hs : tFr W μ0 μ) (hw : y_T W) (h2 : ¬ W 65 2) (h3 : ¬ W 65 3) : r_drawn μ w v n t k = r_drawn μ0 w v n t k := by unfold r_drawn; simp only [r_asks_F hs hw, y_mt_F hs hw, y_who_F hs hw, hs.v h2, hs.v h3]
theorem bd_F (hs : tFr W μ0 μ) (hw : y_T W) (q : Nat) : bd μ w v t k q = bd μ0 w v t k q := by
  induction q with
  | zero => rw [bd, bd, y_mt_F hs hw]
  | succ q ih => rw [bd, bd, ih, y_mt_F hs hw]
theorem r_bestDrawn_F (hs : tFr W μ0 μ) (hw : y_T W) (h2 : ¬ W 65 2) (h3 : ¬ W 65 3) : r_bestDrawn μ w v t k = r_bestDrawn μ0 w v t k := by unfold r_bestDrawn; simp only [r_asks_F hs hw, bd_F hs hw, y_who_F hs hw, hs.v h2, hs.v h3]
theorem y_met_F (hs : tFr W μ0 μ) (hw : y_T W) : y_met μ = y_met μ0 := by funext a b c d; unfold y_met; rw [y_f28 hs hw]
theorem y_wd_F (hs : tFr W μ0 μ) (hw : y_T W) (q : Nat) : ∀ t s a b, y_wd μ q t s a b = y_wd μ0 q t s a b := by
  induction q with
  | zero => intro t s a b; rfl
  | succ q ih => intro t s a b; rw [y_wd, y_wd, y_met_F hs hw, y_goF hs hw, ih]
theorem r_wander_F (hs : tFr W μ0 μ) (hw : y_T W) : r_wander μ s a b = r_wander μ0 s a b := by unfold r_wander; simp only [y_f20 hs hw, y_wd_F hs hw]
theorem r_chance_F (hs : tFr W μ0 μ) (h9 : ∀ j, ¬ W 93 j) (h54 : ¬ W 65 54) (h59 : ¬ W 65 59) (h2 : ¬ W 65 2) (h3 : ¬ W 65 3) : r_chance μ k = r_chance μ0 k := by unfold r_chance; simp only [hs.v (h9 _), hs.v h54, hs.v h59, hs.v h2, hs.v h3]
theorem r_agreed_F (hs : tFr W μ0 μ) (hw : y_T W) (h2 : ¬ W 65 2) (h3 : ¬ W 65 3) : r_agreed μ n = r_agreed μ0 n := by unfold r_agreed; simp only [rw_best_F hs hw, y_all_F hs hw, hs.v h2, hs.v h3]
theorem r_alike_F (hs : tFr W μ0 μ) (hw : y_T W) (h2 : ¬ W 65 2) (h3 : ¬ W 65 3) : r_alike μ n = r_alike μ0 n := by unfold r_alike; simp only [rw_best_F hs hw, y_all_F hs hw, hs.v h2, hs.v h3]
theorem r_step_F (hs : tFr W μ0 μ) (h9 : ∀ j, ¬ W 90 j) (h52 : ¬ W 65 52) : r_step μ w k = r_step μ0 w k := by unfold r_step; simp only [hs.v (h9 _), hs.v h52]
theorem r_alikeStep_F (hs : tFr W μ0 μ) (h9 : ∀ j, ¬ W 91 j) (h53 : ¬ W 65 53) : r_alikeStep μ k = r_alikeStep μ0 k := by unfold r_alikeStep; simp only [hs.v (h9 _), hs.v h53]
theorem r_fault_F (hs : tFr W μ0 μ) (h1 : ¬ W 65 10) (h2 : ¬ W 65 11) : r_fault μ w = r_fault μ0 w := by unfold r_fault; rw [hs.v h1, hs.v h2]
theorem w1_s_F (hs : tFr W μ0 μ) (hw : y_T W) : w1_s μ = w1_s μ0 := by
  funext x a
  unfold w1_s
  rw [y_goF hs hw, y_stpF hs hw, y_mdF hs hw]
theorem w3_b_F (hs : tFr W μ0 μ) (hw : y_T W) : w3_b μ = w3_b μ0 := by
  funext y a a' b
  unfold w3_b
  rw [w1_s_F hs hw]
theorem w3_c_F (hs : tFr W μ0 μ) (hw : y_T W) : w3_c μ = w3_c μ0 := by
  funext z a b a' b' c
  unfold w3_c
  rw [w1_s_F hs hw]
theorem y_3r_F (hs : tFr W μ0 μ) (hw : y_T W) (q : Nat) : ∀ t a b c, y_3r μ x y z q t a b c = y_3r μ0 x y z q t a b c := by
  induction q with
  | zero => intro t a b c; rfl
  | succ q ih => intro t a b c; rw [y_3r, y_3r, w1_s_F hs hw, w3_b_F hs hw, w3_c_F hs hw, ih]
theorem r_three_F (hs : tFr W μ0 μ) (hw : y_T W) : r_three μ x y z b = r_three μ0 x y z b := by unfold r_three y_3; simp only [y_f20 hs hw, y_f43 hs hw, y_3r_F hs hw]
theorem tnd_F (hs : tFr W μ0 μ) (hw : y_T W) : tnd μ a b = tnd μ0 a b := by
  unfold tnd ftE
  simp only [y_p_F hs hw, y_t70 hs hw, y_t72 hs hw, y_leads_F hs hw, y_open_F hs hw, y_t74 hs hw, y_t80 hs hw]
theorem r_parted_F (hs : tFr W μ0 μ) (hw : y_T W) : r_parted μ a b w = r_parted μ0 a b w := by
  have e : prt μ a b = prt μ0 a b := propext (prt_F hs hw)
  unfold r_parted
  rw [y_f20 hs hw, e, tnd_F hs hw]
theorem y_cs_F (hs : tFr W μ0 μ) (hw : y_T W) (h8 : ∀ j, ¬ W 68 j) : y_cs μ w n o k a b cap = y_cs μ0 w n o k a b cap := by
  unfold y_cs y_wo
  simp only [y_walk_F hs hw, hs.v (h8 _)]
end RF
