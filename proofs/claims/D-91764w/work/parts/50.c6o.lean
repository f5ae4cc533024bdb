/-! CONTRACTS of the model: agreed, alike -/
section C6O
variable {d : Nat} {μ μ0 : tm_M} {W : Int → Int → Prop}
theorem rw_s_bd {n m o v : Int} {s : Int × Int × Int} (hW : y_W μ) (hn : 0 ≤ n ∧ n ≤ 5) (h : 0 ≤ s.1 → s.1 ≤ 5184 ∧ 0 ≤ s.2.1 ∧ s.2.1 ≤ 31104) : (rw_s μ n m o v s).1 ≤ 5184 ∧ 0 ≤ (rw_s μ n m o v s).2.1 ∧ (rw_s μ n m o v s).2.1 ≤ 31104 := by
  have hnn := nn_in hW.1
  unfold rw_s
  split
  · rename_i c; exact h c.1
  · have a := sm_in (f := rw_mi μ n m o v) (c := 81) (tm_v μ 65 20 * tm_v μ 65 20).toNat (fun i hi => rw_mi_in hW (by omega) (by omega)) (by omega) (N := 64) (by omega)
    have b := sm_in (f := rw_li μ n m o v) (c := 486) (tm_v μ 65 20 * tm_v μ 65 20).toNat (fun i hi => rw_li_in hW hn (by omega) (by omega)) (by omega) (N := 64) (by omega)
    unfold rw_m rw_l
    dsimp only
    omega
theorem rw_f_bd {n m o : Int} (hW : y_W μ) (hn : 0 ≤ n ∧ n ≤ 5) (k : Nat) : ∀ v s, (0 ≤ s.1 → s.1 ≤ 5184 ∧ 0 ≤ s.2.1 ∧ s.2.1 ≤ 31104) → 0 ≤ (rw_f μ n m o k v s).1 → (rw_f μ n m o k v s).1 ≤ 5184 ∧ 0 ≤ (rw_f μ n m o k v s).2.1 ∧ (rw_f μ n m o k v s).2.1 ≤ 31104 := by
  induction k with
  | zero => intro v s h h0; exact h h0
  | succ k ih =>
    intro v s h h0
    rw [rw_f] at h0 ⊢
    exact ih _ _ (fun _ => rw_s_bd hW hn h) h0
theorem rw_best_bd {n m o : Int} (hW : y_W μ) (hn : 0 ≤ n ∧ n ≤ 5) : (0 ≤ (rw_best μ n m o).1 ∧ (rw_best μ n m o).1 ≤ 5184) ∧ 0 ≤ (rw_best μ n m o).2.1 ∧ (rw_best μ n m o).2.1 ≤ 31104 := by
  have h0 := rw_best_0 (n := n) (m := m) (o := o) hW
  have := rw_f_bd (m := m) (o := o) hW hn (5 ^ m.toNat) 0 (-1, 0, 0) (fun h => absurd h (by decide)) h0
  exact ⟨⟨h0, this.1⟩, this.2⟩
theorem y_br_F {f g : Int → Int} (hs : tFr W μ0 μ) (hw : y_T W) (k : Nat) : ∀ t p q, y_br μ f g k t p q = y_br μ0 f g k t p q := by
  induction k with
  | zero => intro t p q; rfl
  | succ k ih =>
    intro t p q
    have e : y_met μ = y_met μ0 := by funext a b c d; unfold y_met; rw [y_f28 hs hw]
    rw [y_br, y_br, ih, e, y_goF hs hw, y_f24 hs hw]
theorem rw_best_F {n m o : Int} (hs : tFr W μ0 μ) (hw : y_T W) : rw_best μ n m o = rw_best μ0 n m o := by
  have et : rw_t μ n m o = rw_t μ0 n m o := by
    funext v i
    unfold rw_t y_rows
    simp only [y_br_F hs hw, y_likely_F hs hw, y_f20 hs hw]
  have em : rw_m μ n m o = rw_m μ0 n m o := by
    funext v
    unfold rw_m
    have : rw_mi μ n m o v = rw_mi μ0 n m o v := by funext i; unfold rw_mi; rw [et, y_likely_F hs hw, y_f20 hs hw]
    rw [this, y_f20 hs hw]
  have el : rw_l μ n m o = rw_l μ0 n m o := by
    funext v
    unfold rw_l
    have : rw_li μ n m o v = rw_li μ0 n m o v := by funext i; unfold rw_li; rw [et, y_likely_F hs hw, y_f20 hs hw]
    rw [this, y_f20 hs hw]
  have es : rw_s μ n m o = rw_s μ0 n m o := by
    funext v s
    unfold rw_s
    rw [em, el]
  have ef : ∀ (k : Nat) v s, rw_f μ n m o k v s = rw_f μ0 n m o k v s := by
    intro k
    induction k with
    | zero => intro v s; rfl
    | succ k ih => intro v s; rw [rw_f, rw_f, ih, es]
  unfold rw_best
  rw [ef]
noncomputable def r_agreed (μ : tm_M) (n : Int) : Int × Int × Int × Int := if ¬ (1 ≤ n ∧ n ≤ 3) then (-1, 5, tm_v μ 65 2, tm_v μ 65 3) else if y_all μ = 0 then (-1, 9, tm_v μ 65 2, tm_v μ 65 3) else ((rw_best μ n (2 * n) 0).1, 0, frt (rw_best μ n (2 * n) 0).2.1 (y_all μ), frb (rw_best μ n (2 * n) 0).2.1 (y_all μ))
def o_agreed (μ : tm_M) (n : Int) (r : Int) (μ' : tm_M) : Prop := o_fr (r_agreed μ n) r μ' ∧ if (1 ≤ n ∧ n ≤ 3) ∧ y_all μ ≠ 0 then tm_v μ' 65 52 = n ∧ ∀ k, 0 ≤ k → k < 2 * n → tm_v μ' 90 k = dg (2 * n) (rw_best μ n (2 * n) 0).2.2 k else tm_v μ' 65 52 = tm_v μ 65 52 ∧ tm_v μ' 90 = tm_v μ 90
theorem pX6_agreed {n : Int} (hd : 5 ≤ d) (hs : tS μ) (hW : y_W μ) : cI wX6_agreed mX6_agreed d [(2, 65), (0, n)] μ (fun r μ' => o_agreed μ n r μ' ∧ tm_v μ' 91 = tm_v μ 91) := by
  have hal := y_all_in hW
  refine t_of (uX6_agreed_0 (by omega) (tFr.rf hs) ?_)
  rintro _ rfl _ rfl
  have f2 : tFr wX6_agreed μ (tm_w (tm_w μ 65 1 0) 65 0 0) := fr_st (tFr.rf hs) (tWs_inF rfl) (tWs_inF rfl) 0
  unfold o_agreed r_agreed
  refine ⟨fun c => ⟨hW, fun c2 => ?_, fun c2 => ?_⟩, fun c => ?_⟩
  · have f3 : tFr (tWs [] [(65, 0), (65, 1)]) μ (tm_w (tm_w μ 65 1 0) 65 0 0) := fr_st (tFr.rf hs) (tWs_inF rfl) (tWs_inF rfl) 0
    rw [w32_id (x := 2 * n) (by omega) (by omega)]
    refine tC.V (pX6_findRows (by omega) f3.S ((y_W_F f3 (tWs_T rfl)).mpr hW) (by omega) (by rw [if_pos rfl]) (by omega)) ?_
    intro m fm hr
    have eb : rw_best (tm_w (tm_w μ 65 1 0) 65 0 0) n (2 * n) 0 = rw_best μ n (2 * n) 0 := rw_best_F f3 (tWs_T rfl)
    have bd := rw_best_bd (n := n) (m := 2 * n) (o := 0) hW (by omega)
    unfold o_rows at hr
    rw [eb] at hr
    rintro _ rfl
    have f4 := fm.S
    have e64 : tm_v (tm_w m 65 52 n) 65 64 = (rw_best μ n (2 * n) 0).2.1 := by rw [tm_vw, if_neg (by omega)]; exact hr.2.1
    rw [e64]
    refine tC.V (pX6_fraction (by omega) (tS_wj f4 _ (by decide)) ⟨by omega, by omega, by omega, by omega⟩) ?_
    rintro m2 g2 rfl
    have e63 : tm_v (u_fr (tm_w m 65 52 n) (rw_best μ n (2 * n) 0).2.1 (y_all μ)) 65 63 = (rw_best μ n (2 * n) 0).1 := by rw [g2.v (tWs_noF rfl), tm_vw, if_neg (by omega)]; exact hr.1
    rw [e63, w32_id (by omega) (by omega), if_neg (by omega), if_neg c2, if_pos ⟨c, c2⟩]
    refine ⟨⟨⟨rfl, ?_, ?_, ?_⟩, ?_, fun k k0 k1 => ?_⟩, ?_⟩
    · rw [g2.v (tWs_noF rfl), tm_vw, if_neg (by omega), fm.v (tWs_noF rfl)]; simp [tm_vw]
    · simp [u_fr, tm_vw, frt]
    · simp [u_fr, tm_vw, frb]
    · rw [g2.v (tWs_noF rfl)]; simp [tm_vw]
    · rw [g2.v (tWs_no _ rfl), tm_vw, if_neg (by omega)]; exact (hr.2.2.1 rfl).1 k k0 k1
    · funext i
      rw [g2.v (tWs_no _ rfl), tm_vw, if_neg (by omega), (hr.2.2.1 rfl).2]; simp [tm_vw]
  · rintro _ rfl
    rw [if_neg (by omega), if_pos c2, if_neg (fun q => q.2 c2)]
    exact ⟨⟨⟨rfl, rfl, by simp [tm_vw], by simp [tm_vw]⟩, by simp [tm_vw], by funext i; simp [tm_vw]⟩, by funext i; simp [tm_vw]⟩
  · rintro _ rfl
    rw [if_pos (by omega), if_neg (fun q => c q.1)]
    exact ⟨⟨⟨rfl, rfl, by simp [tm_vw], by simp [tm_vw]⟩, by simp [tm_vw], by funext i; simp [tm_vw]⟩, by funext i; simp [tm_vw]⟩
noncomputable def r_alike (μ : tm_M) (n : Int) : Int × Int × Int × Int := if ¬ (1 ≤ n ∧ n ≤ 5) then (-1, 5, tm_v μ 65 2, tm_v μ 65 3) else if y_all μ = 0 then (-1, 9, tm_v μ 65 2, tm_v μ 65 3) else ((rw_best μ n (n) 1).1, 0, frt (rw_best μ n (n) 1).2.1 (y_all μ), frb (rw_best μ n (n) 1).2.1 (y_all μ))
def o_alike (μ : tm_M) (n : Int) (r : Int) (μ' : tm_M) : Prop := o_fr (r_alike μ n) r μ' ∧ if (1 ≤ n ∧ n ≤ 5) ∧ y_all μ ≠ 0 then tm_v μ' 65 53 = n ∧ ∀ k, 0 ≤ k → k < n → tm_v μ' 91 k = dg (n) (rw_best μ n (n) 1).2.2 k else tm_v μ' 65 53 = tm_v μ 65 53 ∧ tm_v μ' 91 = tm_v μ 91
theorem pX6_alike {n : Int} (hd : 5 ≤ d) (hs : tS μ) (hW : y_W μ) : cI wX6_alike mX6_alike d [(2, 65), (0, n)] μ (fun r μ' => o_alike μ n r μ' ∧ tm_v μ' 90 = tm_v μ 90) := by
  have hal := y_all_in hW
  refine t_of (uX6_alike_0 (by omega) (tFr.rf hs) ?_)
  rintro _ rfl _ rfl
  have f2 : tFr wX6_alike μ (tm_w (tm_w μ 65 1 0) 65 0 0) := fr_st (tFr.rf hs) (tWs_inF rfl) (tWs_inF rfl) 0
  unfold o_alike r_alike
  refine ⟨fun c => ⟨hW, fun c2 => ?_, fun c2 => ?_⟩, fun c => ?_⟩
  · have f3 : tFr (tWs [] [(65, 0), (65, 1)]) μ (tm_w (tm_w μ 65 1 0) 65 0 0) := fr_st (tFr.rf hs) (tWs_inF rfl) (tWs_inF rfl) 0
    refine tC.V (pX6_findRows (by omega) f3.S ((y_W_F f3 (tWs_T rfl)).mpr hW) (by omega) (by rw [if_neg (by decide)]) (by omega)) ?_
    intro m fm hr
    have eb : rw_best (tm_w (tm_w μ 65 1 0) 65 0 0) n (n) 1 = rw_best μ n (n) 1 := rw_best_F f3 (tWs_T rfl)
    have bd := rw_best_bd (n := n) (m := n) (o := 1) hW (by omega)
    unfold o_rows at hr
    rw [eb] at hr
    rintro _ rfl
    have f4 := fm.S
    have e64 : tm_v (tm_w m 65 53 n) 65 64 = (rw_best μ n (n) 1).2.1 := by rw [tm_vw, if_neg (by omega)]; exact hr.2.1
    rw [e64]
    refine tC.V (pX6_fraction (by omega) (tS_wj f4 _ (by decide)) ⟨by omega, by omega, by omega, by omega⟩) ?_
    rintro m2 g2 rfl
    have e63 : tm_v (u_fr (tm_w m 65 53 n) (rw_best μ n (n) 1).2.1 (y_all μ)) 65 63 = (rw_best μ n (n) 1).1 := by rw [g2.v (tWs_noF rfl), tm_vw, if_neg (by omega)]; exact hr.1
    rw [e63, w32_id (by omega) (by omega), if_neg (by omega), if_neg c2, if_pos ⟨c, c2⟩]
    refine ⟨⟨⟨rfl, ?_, ?_, ?_⟩, ?_, fun k k0 k1 => ?_⟩, ?_⟩
    · rw [g2.v (tWs_noF rfl), tm_vw, if_neg (by omega), fm.v (tWs_noF rfl)]; simp [tm_vw]
    · simp [u_fr, tm_vw, frt]
    · simp [u_fr, tm_vw, frb]
    · rw [g2.v (tWs_noF rfl)]; simp [tm_vw]
    · rw [g2.v (tWs_no _ rfl), tm_vw, if_neg (by omega)]; exact (hr.2.2.2 (by decide)).1 k k0 k1
    · funext i
      rw [g2.v (tWs_no _ rfl), tm_vw, if_neg (by omega), (hr.2.2.2 (by decide)).2]; simp [tm_vw]
  · rintro _ rfl
    rw [if_neg (by omega), if_pos c2, if_neg (fun q => q.2 c2)]
    exact ⟨⟨⟨rfl, rfl, by simp [tm_vw], by simp [tm_vw]⟩, by simp [tm_vw], by funext i; simp [tm_vw]⟩, by funext i; simp [tm_vw]⟩
  · rintro _ rfl
    rw [if_pos (by omega), if_neg (fun q => c q.1)]
    exact ⟨⟨⟨rfl, rfl, by simp [tm_vw], by simp [tm_vw]⟩, by simp [tm_vw], by funext i; simp [tm_vw]⟩, by funext i; simp [tm_vw]⟩
end C6O
