/-! CONTRACTS of the model: the door -/
section C6I
variable {d : Nat} {μ μ0 : tm_M} {W : Int → Int → Prop}
theorem fr_ww {a j x : Int} (hs : tFr W μ0 μ) (h : tS (tm_w μ a j x)) : tFr W (tm_w μ0 a j x) (tm_w μ a j x) := by
  refine ⟨h, hs.z, hs.k, hs.n, fun b i hb => ?_⟩
  rw [tm_vw, tm_vw]
  split
  · rfl
  · exact hs.v hb
theorem y_W_80 {l x : Int} (hW : y_W μ) (hx : 0 ≤ x ∧ x ≤ 1) : y_W (tm_w μ 80 l x) := by
  have e : ∀ a i, a ≠ 80 → tm_v (tm_w μ 80 l x) a i = tm_v μ a i := fun a i h => by rw [tm_vw, if_neg (fun q => h q.1)]
  unfold y_W at *
  simp only [e 65 _ (by decide), e 70 _ (by decide), e 72 _ (by decide), e 74 _ (by decide), e 76 _ (by decide), e 77 _ (by decide)]
  refine ⟨hW.1, hW.2.1, hW.2.2.1, fun i i0 i1 => ?_, hW.2.2.2.2⟩
  have h := hW.2.2.2.1 i i0 i1
  refine ⟨h.1, h.2.1, h.2.2.1, ?_⟩
  rw [tm_vw]
  split
  · exact hx
  · exact h.2.2.2
theorem y_v_80 {l x w : Int} (hw : y_v μ w) : y_v (tm_w μ 80 l x) w := by
  have e : ∀ a i, a ≠ 80 → tm_v (tm_w μ 80 l x) a i = tm_v μ a i := fun a i h => by rw [tm_vw, if_neg (fun q => h q.1)]
  unfold y_v y_V at *
  simp only [e 65 _ (by decide), e 82 _ (by decide), e 83 _ (by decide), e 84 _ (by decide)]
  exact hw
/-- the best lane to shut, and the sum by it -/
noncomputable def y_dr (μ : tm_M) (w v : Int) : Nat → Int → Int → Int → Int × Int
  | 0, _, b, s => (b, s)
  | k + 1, l, b, s => if tm_v μ 80 l ≠ 0 then y_dr μ w v k (l + 1) b s
    else if y_sum (tm_w μ 80 l 1) w v < 0 then y_dr μ w v k (l + 1) b s
    else if s < 0 then y_dr μ w v k (l + 1) l (y_sum (tm_w μ 80 l 1) w v)
    else if y_sum (tm_w μ 80 l 1) w v < s then y_dr μ w v k (l + 1) l (y_sum (tm_w μ 80 l 1) w v)
    else y_dr μ w v k (l + 1) b s
noncomputable def y_door (μ : tm_M) (w v : Int) : Int × Int := y_dr μ w v (tm_v μ 65 21).toNat 0 (-1) (y_sum μ w v)
noncomputable def r_door (μ : tm_M) (w v : Int) : Int × Int × Int × Int :=
  if ¬ ((0 ≤ w ∧ w < tm_v μ 65 43) ∧ 0 ≤ v ∧ v < tm_v μ 65 43) then (-1, 2, tm_v μ 65 2, tm_v μ 65 3) else if (y_door μ w v).2 < 0 then (-1, 9, tm_v μ 65 2, tm_v μ 65 3)
  else ((y_door μ w v).1, 0, frt (y_door μ w v).2 (y_all μ), frb (y_door μ w v).2 (y_all μ))
abbrev w_dr : Int → Int → Prop := tWs [85, 86, 87, 88, 89] [(65, 0), (65, 1)]
theorem y_all_80 {l x : Int} : y_all (tm_w μ 80 l x) = y_all μ := by
  have e : ∀ a i, a ≠ 80 → tm_v (tm_w μ 80 l x) a i = tm_v μ a i := fun a i h => by rw [tm_vw, if_neg (fun q => h q.1)]
  unfold y_all y_n y_likely
  simp only [e 65 _ (by decide), e 70 _ (by decide)]
theorem pX6_door {w v : Int} (hd : 5 ≤ d) (hs : tS μ) (hW : y_W μ) (hV : y_V μ) : cI wX6_door mX6_door d [(2, 65), (0, w), (0, v)] μ (fun r μ' => o_fr (r_door μ w v) r μ' ∧ tm_v μ' 80 = tm_v μ 80) := by
  have h21 := hW.2.1
  have hal := y_all_in hW
  have loop : (hc : (0 ≤ w ∧ w < tm_v μ 65 43) ∧ 0 ≤ v ∧ v < tm_v μ 65 43) → ∀ (n : Nat) (l b s : Int) (m : tm_M), 0 ≤ l → l + n = tm_v μ 65 21 → -1 ≤ s → s ≤ 1036800 → (0 ≤ s → y_all μ ≠ 0) → tFr w_dr μ m → tm_v m 65 0 = 0 → y_dr μ w v n l b s = y_door μ w v →
      hI wX6_door μ mX6_door d (fun r μ' => o_fr (r_door μ w v) r μ' ∧ tm_v μ' 80 = tm_v μ 80) 45 [(0, 2, 65), (1, 0, w), (2, 0, v), (3, 0, b), (4, 1, s), (6, 0, l)] [] m := by
    intro hc n
    induction n with
    | zero =>
      intro l b s m l0 ln s0 s1 sa hm h0 he
      rw [y_dr] at he
      have hm' : tFr wX6_door μ m := hm.to (tWs_sub rfl)
      have e80 : tm_v m 80 = tm_v μ 80 := by funext i; exact hm.v (tWs_no _ rfl)
      have hall : y_all m = y_all μ := y_all_F hm (tWs_T rfl)
      refine uX6_door_45 (by omega) hm' ⟨fun c => ⟨fun c2 => ⟨(y_W_F hm (tWs_T rfl)).mpr hW, ?_⟩, fun c2 => ?_⟩, fun c => by omega⟩
      · rw [hall]
        have := sa c2
        refine tC.V (pX6_fraction (by omega) hm.S ⟨c2, by omega, by omega, by omega⟩) ?_
        rintro m2 f2 rfl
        unfold r_door
        rw [if_neg (by omega), ← he, if_neg (by dsimp only; omega)]
        refine ⟨⟨rfl, ?_, ?_, ?_⟩, ?_⟩
        · rw [f2.v (tWs_noF rfl)]; exact h0
        · simp [u_fr, tm_vw, frt]
        · simp [u_fr, tm_vw, frb]
        · funext i; rw [f2.v (tWs_no _ rfl), e80]
      · rintro _ rfl
        unfold r_door
        rw [if_neg (by omega), ← he, if_pos (by dsimp only; omega)]
        refine ⟨⟨rfl, by simp [tm_vw], ?_, ?_⟩, ?_⟩
        · rw [tm_vw, if_neg (by omega)]; exact hm.v (tWs_noF rfl)
        · rw [tm_vw, if_neg (by omega)]; exact hm.v (tWs_noF rfl)
        · funext i; rw [tm_vw, if_neg (by omega), e80]
    | succ n ih =>
      intro l b s m l0 ln s0 s1 sa hm h0 he
      rw [y_dr] at he
      have hm' : tFr wX6_door μ m := hm.to (tWs_sub rfl)
      have e80 : ∀ i, tm_v m 80 i = tm_v μ 80 i := fun i => hm.v (tWs_no _ rfl)
      have e1 : w32 (l + 1) = l + 1 := w32_id (by omega) (by omega)
      refine uX6_door_45 (by omega) hm' ⟨fun c => by omega, fun c => ⟨by omega, fun c2 => ?_, fun c2 => ?_⟩⟩
      · rw [e80] at c2
        rw [if_neg (fun q => q c2)] at he
        rintro _ rfl
        have hm1 : tFr w_dr (tm_w μ 80 l 1) (tm_w m 80 l 1) := fr_ww hm (tS_w hm.S sf_80 _ _)
        have hW1 : y_W (tm_w μ 80 l 1) := y_W_80 hW (by omega)
        have hin := y_sum_in hW1 w v
        refine tC.L (pX6_sumOfF (by omega) hm1 (tWs_T rfl) hW1 (y_v_80 ⟨hV, hc.1⟩) (y_v_80 ⟨hV, hc.2⟩)) ?_
        rintro r m2 f2 rfl _ rfl
        have hm2 : tFr w_dr μ (tm_w m2 80 l 0) := by
          have f3 : tFr w_dr (tm_w μ 80 l 1) m2 := hm1.tr f2 (tWs_sub rfl)
          refine ⟨tS_w f2.S sf_80 _ _, f3.z, f3.k, f3.n, fun a j hj => ?_⟩
          rw [tm_vw]
          split
          · rename_i q; rw [q.1, q.2, c2]
          · rename_i q
            rw [f3.v hj, tm_vw, if_neg q]
        have h02 : tm_v (tm_w m2 80 l 0) 65 0 = 0 := by
          rw [tm_vw, if_neg (by omega), f2.v (tWs_noF rfl), tm_vw, if_neg (by omega)]; exact h0
        rw [e1]
        have hne : ¬ y_sum (tm_w μ 80 l 1) w v < 0 → y_all μ ≠ 0 := by
          intro q
          have := y_sum_all q
          rw [y_all_80] at this
          exact this
        refine ⟨fun c3 => ?_, fun c3 => ⟨fun c4 => ?_, fun c4 => ⟨fun c5 => ?_, fun c5 => ?_⟩⟩⟩
        · rw [if_pos c3] at he
          exact ih (l + 1) b s _ (by omega) (by omega) s0 s1 sa hm2 h02 he
        · rw [if_neg (by omega), if_pos c4] at he
          exact ih (l + 1) l _ _ (by omega) (by omega) hin.1 hin.2 (fun _ => hne (by omega)) hm2 h02 he
        · rw [if_neg (by omega), if_neg (by omega), if_pos c5] at he
          exact ih (l + 1) l _ _ (by omega) (by omega) hin.1 hin.2 (fun _ => hne (by omega)) hm2 h02 he
        · rw [if_neg (by omega), if_neg (by omega), if_neg (by omega)] at he
          exact ih (l + 1) b s _ (by omega) (by omega) s0 s1 sa hm2 h02 he
      · rw [e80] at c2
        rw [if_pos c2] at he
        rw [e1]
        exact ih (l + 1) b s m (by omega) (by omega) s0 s1 sa hm h0 he
  refine t_of (uX6_door_0 (by omega) (tFr.rf hs) ?_)
  rintro _ rfl _ rfl
  have f2 : tFr w_dr μ (tm_w (tm_w μ 65 1 0) 65 0 0) := fr_st (tFr.rf hs) (tWs_inF rfl) (tWs_inF rfl) 0
  have e43 : tm_v (tm_w (tm_w μ 65 1 0) 65 0 0) 65 43 = tm_v μ 65 43 := by simp [tm_vw]
  have out : ¬ ((0 ≤ w ∧ w < tm_v μ 65 43) ∧ 0 ≤ v ∧ v < tm_v μ 65 43) → o_fr (r_door μ w v) (-1) (tm_w (tm_w (tm_w μ 65 1 0) 65 0 0) 65 0 2) ∧ tm_v (tm_w (tm_w (tm_w μ 65 1 0) 65 0 0) 65 0 2) 80 = tm_v μ 80 := by
    intro c
    unfold r_door
    rw [if_pos c]
    refine ⟨⟨rfl, rfl, by simp [tm_vw], by simp [tm_vw]⟩, ?_⟩
    funext i
    simp [tm_vw]
  rw [e43]
  refine ⟨(y_V_F f2 (tWs_T rfl)).mpr hV, fun c => ?_, fun c => ⟨fun c2 => ?_, fun c2 => ?_⟩⟩
  · rintro _ rfl
    exact out (by omega)
  · refine tC.L (pX6_sumOfF (by omega) f2 (tWs_T rfl) hW ⟨hV, c⟩ ⟨hV, c2⟩) ?_
    rintro r m fm rfl
    have hin := y_sum_in hW w v
    exact loop ⟨c, c2⟩ (tm_v μ 65 21).toNat 0 (-1) _ m (by omega) (by omega) hin.1 hin.2 (fun q => y_sum_all (w := w) (v := v) (by omega)) (f2.tr fm (tWs_sub rfl)) (by rw [fm.v (tWs_no _ rfl)]; simp [tm_vw]) rfl
  · rintro _ rfl
    exact out (by omega)
end C6I
