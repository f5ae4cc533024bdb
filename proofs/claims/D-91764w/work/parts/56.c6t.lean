/-! CONTRACTS of the model: drawn, bestDrawn, three, wander, chance -/
section C6T
variable {d : Nat} {μ μ0 : tm_M} {W : Int → Int → Prop} {w v n t k : Int}
def y_who (μ : tm_M) (k : Int) : Int := y_all μ * 256 ^ k.toNat
theorem y_who_in (hW : y_W μ) (hk : 0 ≤ k ∧ k ≤ 5) : 0 ≤ y_who μ k ∧ y_who μ k ≤ 5699868278390784 := p256 (y_all_in hW) (by omega)
theorem y_who_pos (hW : y_W μ) (hk : 0 ≤ k ∧ k ≤ 5) (h : y_all μ ≠ 0) : 0 < y_who μ k := by
  have := (y_all_in hW).1
  exact Int.mul_pos (by omega) (Int.pow_pos (by decide))
theorem pX6_wholeOf (hd : 2 ≤ d) (hs : tS μ) (hW : y_W μ) (hk : 0 ≤ k ∧ k ≤ 5) : cL w0 mX6_wholeOf d [(2, 65), (0, k)] μ (fun r _ => r = y_who μ k) := by
  have loop : ∀ (q i : Nat), i + q = k.toNat → hLo wX6_wholeOf μ mX6_wholeOf d (fun r _ => r = y_who μ k) 8 [(1, 0, k), (2, 1, y_all μ * 256 ^ i), (4, 0, (i : Int))] [] μ := by
    intro q
    induction q with
    | zero =>
      intro i hi
      refine uX6_wholeOf_8 (tFr.rf hs) ⟨fun _ => ?_, fun c => by omega⟩
      show _ = y_who μ k
      unfold y_who
      rw [show k.toNat = i by omega]
    | succ q ih =>
      intro i hi
      have hB := p256 (y_all_in hW) (i := i + 1) (by omega)
      refine uX6_wholeOf_8 (tFr.rf hs) ⟨fun c => by omega, fun _ x ex => ?_⟩
      rw [Int.mul_assoc, show (256 : Int) ^ i * 256 = 256 ^ (i + 1) from (Int.pow_succ _ _).symm, w64_id (by omega) (by omega)] at ex
      rw [ex, w32_id (by omega) (by omega)]
      exact ih (i + 1) (by omega)
  refine t_of (uX6_wholeOf_0 (by omega) (tFr.rf hs) ?_)
  refine tC.L (pX6_allLikely (by omega) hs hW) ?_
  rintro r m fm rfl
  have em := fm.same
  subst em
  have := loop k.toNat 0 (by omega)
  rw [show (256 : Int) ^ 0 = 1 from rfl, Int.mul_one] at this
  exact this
theorem y_who_F (hs : tFr W μ0 μ) (hw : y_T W) : y_who μ k = y_who μ0 k := by unfold y_who; rw [y_all_F hs hw]
theorem pX6_wholeOfF (hd : 2 ≤ d) (hs : tFr W μ0 μ) (hT : y_T W) (hW : y_W μ0) (hk : 0 ≤ k ∧ k ≤ 5) : cL w0 mX6_wholeOf d [(2, 65), (0, k)] μ (fun r _ => r = y_who μ0 k) := by
  rw [← y_who_F hs hT]
  exact pX6_wholeOf hd hs.S ((y_W_F hs hT).mpr hW) hk
theorem dr_i_F (hs : tFr W μ0 μ) (hT : y_T W) (i : Nat) : dr_i μ w v n t i = dr_i μ0 w v n t i := by
  induction i with
  | zero =>
    funext j
    show dr_0 μ j = dr_0 μ0 j
    unfold dr_0
    rw [y_f20 hs hT, y_likely_F hs hT]
  | succ i ih =>
    funext j
    show dr_n μ w v n t (dr_i μ w v n t i) j = dr_n μ0 w v n t (dr_i μ0 w v n t i) j
    unfold dr_n
    rw [ih]
    refine sm_congr (fun k hk => sm_congr (fun c hc => ?_))
    unfold dr_t dr_c
    rw [y_pl_F hs hT]
theorem y_mt_F (hs : tFr W μ0 μ) (hT : y_T W) : y_mt μ w v n t k = y_mt μ0 w v n t k := by
  unfold y_mt
  rw [y_all_F hs hT, dr_i_F hs hT]
theorem pX6_metOfF (hd : 4 ≤ d) (hs : tFr W μ0 μ) (hT : y_T W) (hW : y_W μ0) (hw : y_v μ0 w) (hv : y_v μ0 v) (hn : 0 ≤ n ∧ n ≤ 16) (ht : 0 ≤ t ∧ t ≤ 24) (hk : 0 ≤ k ∧ k ≤ 5) :
    cL wX6_metOf mX6_metOf d [(2, 65), (0, w), (0, v), (0, n), (0, t), (0, k)] μ (fun r _ => r = y_mt μ0 w v n t k) := by
  rw [← y_mt_F hs hT]
  exact pX6_metOf hd hs.S ((y_W_F hs hT).mpr hW) ((y_v_F hs hT _).mpr hw) ((y_v_F hs hT _).mpr hv) hn ht hk
/-- those apart and those met are all -/
theorem dr_sum (hW : y_W μ) (hw : y_v μ w) (hv : y_v μ v) (hn : 0 ≤ n ∧ n ≤ 16) (i : Nat) : 0 ≤ sm (dr_i μ w v n t i) 64 ∧ sm (dr_i μ w v n t i) 64 ≤ y_all μ * 256 ^ i := by
  have hnn : ∀ i, 0 ≤ sm (dr_i μ w v n t i) 64 := fun i => sm_nn (fun j hj => (dr_i_ok hW hw hv hn i j (by omega) (by omega)).1)
  refine ⟨hnn i, ?_⟩
  induction i with
  | zero =>
    have h1 := dr_all hW
    have h2 := sm_nn (f := dr_d μ) (n := 64) (fun j _ => dr_d_in hW (by omega))
    rw [show (256 : Int) ^ 0 = 1 from rfl, Int.mul_one]
    show sm (dr_0 μ) 64 ≤ _
    omega
  | succ i ih =>
    have hTn : ∀ j : Nat, j < 64 → 0 ≤ dr_i μ w v n t i j := fun j hj => (dr_i_ok hW hw hv hn i j (by omega) (by omega)).1
    -- by places' pairs
    have key : ∀ q : Nat, q ≤ 64 → sm (fun j => sm (fun k => sm (dr_t μ w v n t (dr_i μ w v n t i) j k) 4) q) 64 ≤ 256 * sm (dr_i μ w v n t i) q := by
      intro q
      induction q with
      | zero => intro _; rw [sm_z (fun j _ => rfl)]; exact Int.le_refl _
      | succ q ihq =>
        intro hq
        have h1 := ihq (by omega)
        have h2 : sm (fun j => sm (fun k => sm (dr_t μ w v n t (dr_i μ w v n t i) j k) 4) (q + 1)) 64 = sm (fun j => sm (fun k => sm (dr_t μ w v n t (dr_i μ w v n t i) j k) 4) q) 64 + sm (fun j => sm (dr_t μ w v n t (dr_i μ w v n t i) j q) 4) 64 := by rw [← sm_plus]; rfl
        have h3 : ∀ c : Nat, c ≤ 4 → sm (fun j => sm (dr_t μ w v n t (dr_i μ w v n t i) j q) c) 64 ≤ sm (fun c => dr_i μ w v n t i q * odds n c) c := by
          intro c
          induction c with
          | zero => intro _; rw [sm_z (fun j _ => rfl)]; exact Int.le_refl _
          | succ c ihc =>
            intro hc
            have g1 := ihc (by omega)
            have g2 : sm (fun j => sm (dr_t μ w v n t (dr_i μ w v n t i) j q) (c + 1)) 64 = sm (fun j => sm (dr_t μ w v n t (dr_i μ w v n t i) j q) c) 64 + sm (fun j => dr_t μ w v n t (dr_i μ w v n t i) j q c) 64 := by rw [← sm_plus]; rfl
            have hx := Int.mul_nonneg (hTn q (by omega)) (odds_in hn (c : Int)).1
            have g3 : sm (fun j => dr_t μ w v n t (dr_i μ w v n t i) j q c) 64 ≤ dr_i μ w v n t i q * odds n c := by
              have h : ∀ N : Nat, sm (fun j => dr_t μ w v n t (dr_i μ w v n t i) j q c) N ≤ (if dr_c μ w v t q c < N then dr_i μ w v n t i q * odds n c else 0) := by
                intro N
                induction N with
                | zero => rw [sm]; split <;> omega
                | succ N ihN =>
                  rw [sm]
                  unfold dr_t at *
                  by_cases e : dr_c μ w v t q c = N
                  · rw [if_neg (by omega)] at ihN
                    rw [if_pos e, if_pos (by omega)]; omega
                  · rw [if_neg e]
                    by_cases e2 : dr_c μ w v t q c < N
                    · rw [if_pos e2] at ihN; rw [if_pos (by omega)]; omega
                    · rw [if_neg e2] at ihN; rw [if_neg (by omega)]; omega
              have := h 64
              split at this <;> omega
            have g4 : sm (fun c => dr_i μ w v n t i q * odds n c) (c + 1) = sm (fun c => dr_i μ w v n t i q * odds n c) c + dr_i μ w v n t i q * odds n c := rfl
            rw [g2, g4]; omega
        have h4 := h3 4 (by omega)
        rw [odds_4 hn] at h4
        have h5 : sm (dr_i μ w v n t i) (q + 1) = sm (dr_i μ w v n t i) q + dr_i μ w v n t i q := rfl
        rw [h2, h5]; omega
    have := key 64 (by omega)
    show sm (dr_n μ w v n t (dr_i μ w v n t i)) 64 ≤ _
    have e : y_all μ * 256 ^ (i + 1) = 256 * (y_all μ * 256 ^ i) := by rw [Int.pow_succ, ← Int.mul_assoc, Int.mul_comm _ 256]
    rw [e]
    have e2 : sm (dr_n μ w v n t (dr_i μ w v n t i)) 64 = sm (fun j => sm (fun k => sm (dr_t μ w v n t (dr_i μ w v n t i) j k) 4) 64) 64 := rfl
    omega
theorem y_mt_in (hW : y_W μ) (hw : y_v μ w) (hv : y_v μ v) (hn : 0 ≤ n ∧ n ≤ 16) : 0 ≤ y_mt μ w v n t k ∧ y_mt μ w v n t k ≤ y_who μ k := by
  have := dr_sum (t := t) hW hw hv hn k.toNat
  unfold y_mt y_who
  omega
theorem r_asks_F (hs : tFr W μ0 μ) (hT : y_T W) : r_asks μ w v n t k = r_asks μ0 w v n t k := by
  unfold r_asks
  rw [y_f43 hs hT, y_all_F hs hT]
theorem r_asks_ok (hV : y_V μ) (h : r_asks μ w v n t k ≤ 0) : y_v μ w ∧ y_v μ v ∧ (0 ≤ n ∧ n ≤ 16) ∧ (1 ≤ t ∧ t ≤ 24) ∧ (1 ≤ k ∧ k ≤ 5) ∧ y_all μ ≠ 0 := by
  unfold r_asks at h
  split at h
  · omega
  · rename_i c1
    split at h
    · omega
    · rename_i c2
      split at h
      · omega
      · rename_i c3
        have c1' := Classical.not_not.mp c1
        have c2' := Classical.not_not.mp c2
        exact ⟨⟨hV, c1'.1⟩, ⟨hV, c1'.2⟩, c2'.1, c2'.2.1, c2'.2.2, c3⟩
noncomputable def r_drawn (μ : tm_M) (w v n t k : Int) : Int × Int × Int × Int := if 0 < r_asks μ w v n t k then (0, r_asks μ w v n t k, tm_v μ 65 2, tm_v μ 65 3) else (1, 0, frt (y_mt μ w v n t k) (y_who μ k), frb (y_mt μ w v n t k) (y_who μ k))
theorem r_asks_0 : 0 ≤ r_asks μ w v n t k := by unfold r_asks; split; omega; split; omega; split <;> omega
theorem pX6_drawn (hd : 6 ≤ d) (hs : tS μ) (hW : y_W μ) (hV : y_V μ) : cI wX6_drawn mX6_drawn d [(2, 65), (0, w), (0, v), (0, n), (0, t), (0, k)] μ (o_fr (r_drawn μ w v n t k)) := by
  have hT : y_T wX6_drawn := tWs_T rfl
  refine t_of (uX6_drawn_0 (by omega) (tFr.rf hs) ?_)
  rintro m1 e1
  have f1 : tFr wX6_drawn μ m1 := by rw [e1]; exact (tFr.rf hs).w (tWs_inF rfl) (tS_wj hs _ (by decide))
  refine tC.I (pX6_asksDrawn (by omega) f1.S ((y_V_F f1 hT).mpr hV) ((y_W_F f1 hT).mpr hW)) ?_
  rintro r m2 g2 hr
  have e2 := g2.same
  subst e2
  rw [r_asks_F f1 hT] at hr
  rintro m3 e3
  have f3 : tFr wX6_drawn μ m3 := by rw [e3]; exact f1.w (tWs_inF rfl) (tS_wj f1.S _ (by decide))
  have s3 : tm_v m3 65 0 = r_asks μ w v n t k := by rw [e3, tm_vw, if_pos ⟨rfl, rfl⟩, hr]
  have h0 := r_asks_0 (μ := μ) (w := w) (v := v) (n := n) (t := t) (k := k)
  unfold r_drawn
  rw [s3]
  refine ⟨fun c => ?_, fun c => ?_⟩
  · obtain ⟨hw, hv, hn, ht, hk, ha⟩ := r_asks_ok hV c
    refine tC.L (pX6_metOfF (by omega) f3 hT hW hw hv hn (by omega) (by omega)) ?_
    rintro _ m4 g4 rfl
    have f4 : tFr wX6_drawn μ m4 := f3.tr g4 (tWs_sub rfl)
    refine tC.L (pX6_wholeOfF (by omega) f4 hT hW (by omega)) ?_
    rintro _ m5 g5 rfl
    have e5 := g5.same
    subst e5
    have b1 := y_mt_in (t := t) (k := k) hW hw hv hn
    have b2 := y_who_in (k := k) hW (by omega)
    have b3 := y_who_pos (k := k) hW (by omega) ha
    refine tC.V (pX6_fraction (by omega) f4.S ⟨by omega, by omega, by omega, by omega⟩) ?_
    rintro m6 g6 rfl
    rw [if_neg (by omega)]
    refine ⟨rfl, ?_, ?_, ?_⟩
    · rw [g6.v (tWs_noF rfl), g4.v (tWs_noF rfl), s3]
      show _ = (0 : Int)
      omega
    · simp [u_fr, tm_vw, frt]
    · simp [u_fr, tm_vw, frb]
  · rw [if_pos c]
    refine ⟨rfl, s3, ?_, ?_⟩
    · rw [e3, e1]; simp [tm_vw]
    · rw [e3, e1]; simp [tm_vw]
/-- the best of the first draws -/
noncomputable def bd (μ : tm_M) (w v t k : Int) : Nat → Int × Int
  | 0 => (0, y_mt μ w v 0 t k)
  | i + 1 => if (bd μ w v t k i).2 < y_mt μ w v (i + 1) t k then (i + 1, y_mt μ w v (i + 1) t k) else bd μ w v t k i
theorem bd_in (hW : y_W μ) (hw : y_v μ w) (hv : y_v μ v) (i : Nat) (hi : i ≤ 16) : 0 ≤ (bd μ w v t k i).2 ∧ (bd μ w v t k i).2 ≤ y_who μ k := by
  induction i with
  | zero => exact y_mt_in hW hw hv (by omega)
  | succ i ih =>
    rw [bd]
    split
    · exact y_mt_in hW hw hv (by omega)
    · exact ih (by omega)
noncomputable def r_bestDrawn (μ : tm_M) (w v t k : Int) : Int × Int × Int × Int := if 0 < r_asks μ w v 0 t k then (-1, r_asks μ w v 0 t k, tm_v μ 65 2, tm_v μ 65 3) else ((bd μ w v t k 16).1, 0, frt (bd μ w v t k 16).2 (y_who μ k), frb (bd μ w v t k 16).2 (y_who μ k))
theorem pX6_bestDrawn (hd : 6 ≤ d) (hs : tS μ) (hW : y_W μ) (hV : y_V μ) : cI wX6_bestDrawn mX6_bestDrawn d [(2, 65), (0, w), (0, v), (0, t), (0, k)] μ (o_fr (r_bestDrawn μ w v t k)) := by
  have hT : y_T wX6_bestDrawn := tWs_T rfl
  refine t_of (uX6_bestDrawn_0 (by omega) (tFr.rf hs) ?_)
  rintro m1 e1
  have f1 : tFr wX6_bestDrawn μ m1 := by rw [e1]; exact (tFr.rf hs).w (tWs_inF rfl) (tS_wj hs _ (by decide))
  refine tC.I (pX6_asksDrawn (by omega) f1.S ((y_V_F f1 hT).mpr hV) ((y_W_F f1 hT).mpr hW)) ?_
  rintro r m2 g2 hr
  have e2 := g2.same
  subst e2
  rw [r_asks_F f1 hT] at hr
  rintro m3 e3
  have f3 : tFr wX6_bestDrawn μ m3 := by rw [e3]; exact f1.w (tWs_inF rfl) (tS_wj f1.S _ (by decide))
  have s3 : tm_v m3 65 0 = r_asks μ w v 0 t k := by rw [e3, tm_vw, if_pos ⟨rfl, rfl⟩, hr]
  have h0 := r_asks_0 (μ := μ) (w := w) (v := v) (n := 0) (t := t) (k := k)
  rw [s3]
  refine ⟨fun c => ?_, fun c => ?_⟩
  · obtain ⟨hw, hv, _, ht, hk, ha⟩ := r_asks_ok hV c
    have loop : ∀ (q i : Nat) (m : tm_M), i + q = 16 → tFr wX6_bestDrawn μ m → tm_v m 65 0 = 0 → hI wX6_bestDrawn μ mX6_bestDrawn d (o_fr (r_bestDrawn μ w v t k)) 46 [(0, 2, 65), (1, 0, w), (2, 0, v), (3, 0, t), (4, 0, k), (5, 0, (bd μ w v t k i).1), (6, 1, (bd μ w v t k i).2), (8, 0, ((i + 1 : Nat) : Int))] [] m := by
      intro q
      induction q with
      | zero =>
        intro i m hi hm hz
        refine uX6_bestDrawn_46 (by omega) hm ⟨fun _ => ?_, fun c2 => by omega⟩
        have e16 : i = 16 := by omega
        subst e16
        refine tC.L (pX6_wholeOfF (by omega) hm hT hW (by omega)) ?_
        rintro _ m5 g5 rfl
        have e5 := g5.same
        subst e5
        have b1 := bd_in (t := t) (k := k) hW hw hv 16 (by omega)
        have b2 := y_who_in (k := k) hW (by omega)
        have b3 := y_who_pos (k := k) hW (by omega) ha
        refine tC.V (pX6_fraction (by omega) hm.S ⟨by omega, by omega, by omega, by omega⟩) ?_
        rintro m6 g6 rfl
        unfold r_bestDrawn
        rw [if_neg (by omega)]
        refine ⟨rfl, ?_, ?_, ?_⟩
        · rw [g6.v (tWs_noF rfl)]; exact hz
        · simp [u_fr, tm_vw, frt]
        · simp [u_fr, tm_vw, frb]
      | succ q ih =>
        intro i m hi hm hz
        refine uX6_bestDrawn_46 (by omega) hm ⟨fun c2 => by omega, fun _ => ?_⟩
        refine tC.L (pX6_metOfF (by omega) hm hT hW hw hv (by omega) (by omega) (by omega)) ?_
        rintro _ m4 g4 rfl
        have f4 : tFr wX6_bestDrawn μ m4 := hm.tr g4 (tWs_sub rfl)
        have z4 : tm_v m4 65 0 = 0 := by rw [g4.v (tWs_noF rfl)]; exact hz
        have := ih (i + 1) m4 (by omega) f4 z4
        rw [bd] at this
        have ec : ((i + 1 : Nat) : Int) = (i : Int) + 1 := rfl
        rw [w32_id (x := ((i + 1 : Nat) : Int) + 1) (by omega) (by omega)]
        rw [ec]
        refine ⟨fun c2 => ?_, fun c2 => ?_⟩
        · rw [if_pos c2] at this; exact this
        · rw [if_neg (by omega)] at this; exact this
    refine tC.L (pX6_metOfF (by omega) f3 hT hW hw hv (by omega) (by omega) (by omega)) ?_
    rintro _ m4 g4 rfl
    have f4 : tFr wX6_bestDrawn μ m4 := f3.tr g4 (tWs_sub rfl)
    exact loop 16 0 m4 (by omega) f4 (by rw [g4.v (tWs_noF rfl), s3]; omega)
  · unfold r_bestDrawn
    rw [if_pos c]
    refine ⟨rfl, s3, ?_, ?_⟩
    · rw [e3, e1]; simp [tm_vw]
    · rw [e3, e1]; simp [tm_vw]
/-! who wander -/
def lcg (s : Int) : Int := (s * 1103515245 + 12345) % 2147483648
def lcs (s : Int) : Int := s / 65536 % 5
noncomputable def y_wd (μ : tm_M) : Nat → Int → Int → Int → Int → Int
  | 0, _, _, _, _ => -1
  | n + 1, t, s, p, q => @ite Int (y_met μ (y_go μ p (lcs (lcg s))) (y_go μ q (lcs (lcg (lcg s)))) p q) (Classical.propDecidable _) t (y_wd μ n (t + 1) (lcg (lcg s)) (y_go μ p (lcs (lcg s))) (y_go μ q (lcs (lcg (lcg s)))))
theorem y_wd_in (n : Nat) : ∀ t s p q, 0 ≤ t → y_wd μ n t s p q = -1 ∨ t ≤ y_wd μ n t s p q := by
  induction n with
  | zero => intro t s p q _; exact Or.inl rfl
  | succ n ih =>
    intro t s p q h
    rw [y_wd]
    split
    · exact Or.inr (Int.le_refl _)
    · rcases ih (t + 1) (lcg (lcg s)) (y_go μ p (lcs (lcg s))) (y_go μ q (lcs (lcg (lcg s)))) (by omega) with h | h
      · exact Or.inl h
      · right; omega
noncomputable def r_wander (μ : tm_M) (s a b : Int) : Int × Int := if ¬ (0 ≤ a ∧ a < tm_v μ 65 20) ∨ ¬ (0 ≤ b ∧ b < tm_v μ 65 20) then (-1, 2) else if s < 0 then (-1, 5) else if a = b then (0, 0) else if y_wd μ 1000 1 s a b < 0 then (-1, 8) else (y_wd μ 1000 1 s a b, 0)
theorem pX6_wander {s a b : Int} (hd : 3 ≤ d) (hs : tS μ) (hW : y_W μ) (h32 : s ≤ 2147483647) : cI wX6_wander mX6_wander d [(2, 65), (0, s), (0, a), (0, b)] μ (fun r m => (r, tm_v m 65 0) = r_wander μ s a b) := by
  have h20 := hW.1
  have f2 : tFr wX6_wander μ (tm_w (tm_w μ 65 1 0) 65 0 0) := fr_st (tFr.rf hs) (tWs_inF rfl) (tWs_inF rfl) 0
  refine t_of (uX6_wander_0 (by omega) (tFr.rf hs) ?_)
  rintro _ rfl _ rfl
  unfold r_wander
  refine ⟨hW, fun c => ?_, fun ca => ⟨fun cb => ⟨fun cs => ⟨fun cn => ?_, fun cn => ?_⟩, fun cs => ?_⟩, fun c => ?_⟩⟩
  · rintro _ rfl
    rw [if_pos (Or.inl c)]; rfl
  · rw [if_neg (by omega), if_neg (by omega), if_neg cn]
    have ls : ∀ s, 0 ≤ lcg s ∧ lcg s < 2147483648 := fun s => by unfold lcg; omega
    have lc : ∀ s, 0 ≤ lcs s ∧ lcs s ≤ 4 := fun s => by unfold lcs; omega
    have e1 : ∀ s, 0 ≤ s → s < 2147483648 → (w64 (w64 (s * 1103515245) + 12345)).tmod 2147483648 = lcg s := by
      intro s s0 s1
      rw [w64_id (x := s * 1103515245) (by omega) (by omega), w64_id (by omega) (by omega), Int.tmod_eq_emod_of_nonneg (by omega)]
      rfl
    have e2 : ∀ s, 0 ≤ s → s < 2147483648 → w32 ((w64 (s.tdiv 65536)).tmod 5) = lcs s := by
      intro s s0 s1
      rw [Int.tdiv_eq_ediv_of_nonneg s0, w64_id (by omega) (by omega), Int.tmod_eq_emod_of_nonneg (by omega), w32_id (by omega) (by omega)]
      rfl
    have loop : ∀ (n : Nat) (t s p q : Int), 1 ≤ t → t + n = 1001 → 0 ≤ s → s < 2147483648 → y_p μ p → y_p μ q → hI wX6_wander μ mX6_wander d (fun r m => (r, tm_v m 65 0) = (if y_wd μ n t s p q < 0 then (-1, 8) else (y_wd μ n t s p q, 0))) 64 [(0, 2, 65), (4, 1, s), (6, 0, p), (7, 0, q), (8, 0, t)] [] (tm_w (tm_w μ 65 1 0) 65 0 0) := by
      intro n
      induction n with
      | zero =>
        intro t s p q t1 tn s0 s1 hp hq
        refine uX6_wander_64 hd f2 ⟨fun _ => ?_, fun c => by omega⟩
        rintro _ rfl
        rw [y_wd, if_pos (by decide)]
        rfl
      | succ n ih =>
        intro t s p q t1 tn s0 s1 hp hq
        have l1 := ls s
        have l2 := ls (lcg s)
        refine uX6_wander_64 hd f2 ⟨fun c => by omega, fun _ => ?_⟩
        rintro x hx
        rw [e1 s s0 s1] at hx
        subst hx
        rw [e2 _ l1.1 l1.2]
        refine ⟨⟨hp, lc _⟩, ?_⟩
        rintro _ rfl x hx
        rw [e1 _ l1.1 l1.2] at hx
        subst hx
        rw [e2 _ l2.1 l2.2]
        refine ⟨⟨hq, lc _⟩, ?_⟩
        rintro _ rfl
        rw [w32_id (x := t + 1) (by omega) (by omega), y_wd]
        refine ⟨fun c => ?_, fun c => ?_⟩
        · rw [if_neg (show ¬ y_met μ (y_go μ p (lcs (lcg s))) (y_go μ q (lcs (lcg (lcg s)))) p q from c)]
          exact ih (t + 1) _ _ _ (by omega) (by omega) l2.1 l2.2 (y_go_p hp) (y_go_p hq)
        · rw [if_pos (show y_met μ (y_go μ p (lcs (lcg s))) (y_go μ q (lcs (lcg (lcg s)))) p q from c), if_neg (by omega)]
          rfl
    exact loop 1000 1 s a b (by omega) (by omega) cs (by omega) ⟨hW, ca⟩ ⟨hW, cb⟩
  · rw [if_neg (by omega), if_neg (by omega), if_pos cn]; rfl
  · rintro _ rfl
    rw [if_neg (by omega), if_pos cs]; rfl
  · rintro _ rfl
    rw [if_pos (Or.inr c)]; rfl
/-! the told chances -/
def y_C (μ : tm_M) : Prop := (0 ≤ tm_v μ 65 54 ∧ tm_v μ 65 54 ≤ 3) ∧ (0 < tm_v μ 65 54 → (0 < tm_v μ 65 59 ∧ tm_v μ 65 59 ≤ 4000000000) ∧ ∀ k, 0 ≤ k → k < 3 → 0 ≤ tm_v μ 93 k ∧ tm_v μ 93 k ≤ 4000000000)
def r_chance (μ : tm_M) (k : Int) : Int × Int × Int × Int := if 0 ≤ k ∧ k < tm_v μ 65 54 then (1, 0, frt (tm_v μ 93 k) (tm_v μ 65 59), frb (tm_v μ 93 k) (tm_v μ 65 59)) else (0, 8, tm_v μ 65 2, tm_v μ 65 3)
theorem pX6_chance {k : Int} (hd : 3 ≤ d) (hs : tS μ) (hC : y_C μ) : cI wX6_chance mX6_chance d [(2, 65), (0, k)] μ (o_fr (r_chance μ k)) := by
  have h54 := hC.1
  have f2 : tFr wX6_chance μ (tm_w (tm_w μ 65 1 0) 65 0 0) := fr_st (tFr.rf hs) (tWs_inF rfl) (tWs_inF rfl) 0
  refine t_of (uX6_chance_0 (by omega) (tFr.rf hs) ?_)
  rintro _ rfl _ rfl
  rw [w32_id (x := tm_v μ 65 54 - 1) (by omega) (by omega)]
  unfold r_chance
  refine ⟨fun c => ?_, fun c => ?_⟩
  · have h1 := hC.2 (by omega)
    have h2 := h1.2 k c.1 (by omega)
    refine ⟨by omega, ?_⟩
    refine tC.V (pX6_fraction (by omega) f2.S ⟨by omega, by omega, by omega, by omega⟩) ?_
    rintro m6 g6 rfl
    rw [if_pos (by omega)]
    refine ⟨rfl, ?_, ?_, ?_⟩
    · rw [g6.v (tWs_noF rfl)]; simp [tm_vw]
    · simp [u_fr, tm_vw, frt]
    · simp [u_fr, tm_vw, frb]
  · rintro _ rfl
    rw [if_neg (by omega)]
    exact ⟨rfl, rfl, by simp [tm_vw], by simp [tm_vw]⟩
end C6T
