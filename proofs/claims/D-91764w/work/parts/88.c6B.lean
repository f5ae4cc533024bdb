/-! CONTRACTS of the model: value -/
theorem fr_eq {a b c e : Int} (hb : 0 < b) (he : 0 < e) (h : a * e = c * b) : frt a b = frt c e ∧ frb a b = frb c e := by
  have key : ∀ x y : Int, 0 < y → ∃ g X Y : Int, 0 < g ∧ x = g * X ∧ y = g * Y ∧ 0 < Y ∧ Int.gcd X Y = 1 ∧ frt x y = X ∧ frb x y = Y := by
    intro x y hy
    have g0 : 0 < Int.gcd x y := Int.gcd_pos_of_ne_zero_right _ (by omega)
    obtain ⟨X, eX⟩ := Int.gcd_dvd_left x y
    obtain ⟨Y, eY⟩ := Int.gcd_dvd_right x y
    have hg : (0 : Int) < (Int.gcd x y : Int) := by omega
    have tX : frt x y = X := by
      unfold frt
      have h1 : (Int.gcd x y : Int) * X / (Int.gcd x y : Int) = X := Int.mul_ediv_cancel_left _ (by omega)
      rw [← eX] at h1; exact h1
    have tY : frb x y = Y := by
      unfold frb
      have h1 : (Int.gcd x y : Int) * Y / (Int.gcd x y : Int) = Y := Int.mul_ediv_cancel_left _ (by omega)
      rw [← eY] at h1; exact h1
    refine ⟨(Int.gcd x y : Int), X, Y, hg, eX, eY, ?_, ?_, tX, tY⟩
    · by_cases q : 0 < Y
      · exact q
      · have := Int.mul_nonpos_of_nonneg_of_nonpos (show (0 : Int) ≤ (Int.gcd x y : Int) by omega) (show Y ≤ 0 by omega)
        omega
    · have h1 := Int.gcd_ediv_gcd_ediv_gcd (i := x) (j := y) g0
      have h2 : x / (Int.gcd x y : Int) = X := tX
      have h3 : y / (Int.gcd x y : Int) = Y := tY
      rw [h2, h3] at h1
      exact h1
  obtain ⟨g, A, B, g0, eA, eB, hB, c1, t1, t2⟩ := key a b hb
  obtain ⟨g', C, E, g0', eC, eE, hE, c2, t3, t4⟩ := key c e he
  rw [t1, t2, t3, t4]
  have h1 : A * E = C * B := by
    rw [eA, eB, eC, eE] at h
    have : (g * g') * (A * E) = (g * g') * (C * B) := by grind
    exact Int.eq_of_mul_eq_mul_left (by have := Int.mul_pos g0 g0'; omega) this
  have d1 : B ∣ E := by
    have := (Int.dvd_gcd_mul_iff_dvd_mul (k := B) (n := A) (m := E)).mpr ⟨C, by rw [h1, Int.mul_comm]⟩
    rw [Int.gcd_comm, c1] at this
    simpa using this
  have d2 : E ∣ B := by
    have := (Int.dvd_gcd_mul_iff_dvd_mul (k := E) (n := C) (m := B)).mpr ⟨A, by rw [← h1, Int.mul_comm]⟩
    rw [Int.gcd_comm, c2] at this
    simpa using this
  have l1 := Int.le_of_dvd hE d1
  have l2 := Int.le_of_dvd hB d2
  have eBE : B = E := by omega
  refine ⟨?_, eBE⟩
  rw [eBE] at h1
  exact Int.eq_of_mul_eq_mul_right (by omega) h1
section C7B
variable {d : Nat} {μ μ0 : tm_M} {W : Int → Int → Prop}
/-- a tray's first numbers are ways -/
def y_aw (μ : tm_M) (t n : Int) : Prop := ∀ i, 0 ≤ i → i < n → 0 ≤ tm_v μ 68 (64 * t + i) ∧ tm_v μ 68 (64 * t + i) < tm_v μ 65 43
noncomputable def r_askv (μ : tm_M) (w n o k a b cap : Int) : Int :=
  if y_trayed μ w = 1 ∨ y_trayed μ o = 1 then 1 else if ¬ (0 ≤ a ∧ a < tm_v μ 65 20) ∨ ¬ (0 ≤ b ∧ b < tm_v μ 65 20) then 2 else if 0 < y_trayed μ w ∨ 0 < y_trayed μ o then 3 else
  if ¬ (1 ≤ n ∧ n ≤ 3) ∨ ¬ (1 ≤ k ∧ k ≤ 3) ∨ ¬ (1 ≤ cap ∧ cap ≤ 100) then 5 else if tm_v μ 67 w < n ∨ tm_v μ 67 o < k then 4 else @ite Int (y_aw μ w n ∧ y_aw μ o k) (Classical.propDecidable _) 0 2
theorem y_try_in {t : Int} (h : y_trayed μ t ≠ 1) : 0 ≤ t ∧ t < 4 := by
  unfold y_trayed at h
  split at h
  · exact absurd rfl h
  · omega
theorem pX6_asksValue {w n o k a b cap : Int} (hd : 2 ≤ d) (hs : tS μ) (hW : y_W μ) (hV : y_V μ) : cI wX6_asksValue mX6_asksValue d [(2, 65), (0, w), (0, n), (0, o), (0, k), (0, a), (0, b), (0, cap)] μ (fun r _ => r = r_askv μ w n o k a b cap) := by
  have hv := hV.1
  have e43 : w32 (tm_v μ 65 43 - 1) = tm_v μ 65 43 - 1 := w32_id (by omega) (by omega)
  have second : 0 ≤ o → o < 4 → 1 ≤ k ∧ k ≤ 3 → ∀ (x y : Int), ∀ (q : Nat) (i : Int), 0 ≤ i → i + q = k → (∀ j, 0 ≤ j → j < i → 0 ≤ tm_v μ 68 (64 * o + j) ∧ tm_v μ 68 (64 * o + j) < tm_v μ 65 43) → (x = 0 ∨ x = y) → hI wX6_asksValue μ mX6_asksValue d (fun r _ => r = @ite Int (y_aw μ o k) (Classical.propDecidable _) 0 2) 162 [(0, 2, 65), (3, 0, o), (4, 0, k), (8, 0, i)] [] μ := by
    intro o0 o4 hk x y q
    induction q with
    | zero =>
      intro i i0 iq h _
      refine uX6_asksValue_162 (by omega) (tFr.rf hs) ⟨fun _ => ?_, fun c => by omega⟩
      show (0 : Int) = _
      rw [if_pos (show y_aw μ o k from fun j j0 j1 => h j j0 (by omega))]
    | succ q ih =>
      intro i i0 iq h hx
      refine uX6_asksValue_162 (by omega) (tFr.rf hs) ⟨fun c => by omega, fun _ => ⟨by omega, fun c => ?_, fun c => ?_⟩⟩
      · rw [e43] at c
        rw [w32_id (x := i + 1) (by omega) (by omega)]
        refine ih (i + 1) (by omega) (by omega) (fun j j0 j1 => ?_) hx
        by_cases e : j = i
        · rw [e]; omega
        · exact h j j0 (by omega)
      · rw [e43] at c
        show (2 : Int) = _
        rw [if_neg (fun h => c (by have := h i i0 (by omega); omega))]
  have first : 0 ≤ w → w < 4 → 1 ≤ n ∧ n ≤ 3 → 0 ≤ o → o < 4 → 1 ≤ k ∧ k ≤ 3 → ∀ (q : Nat) (i : Int), 0 ≤ i → i + q = n → (∀ j, 0 ≤ j → j < i → 0 ≤ tm_v μ 68 (64 * w + j) ∧ tm_v μ 68 (64 * w + j) < tm_v μ 65 43) → hI wX6_asksValue μ mX6_asksValue d (fun r _ => r = @ite Int (y_aw μ w n ∧ y_aw μ o k) (Classical.propDecidable _) 0 2) 124 [(0, 2, 65), (1, 0, w), (2, 0, n), (3, 0, o), (4, 0, k), (8, 0, i)] [] μ := by
    intro w0 w4 hn o0 o4 hk q
    induction q with
    | zero =>
      intro i i0 iq h
      have hw : y_aw μ w n := fun j j0 j1 => h j j0 (by omega)
      have e : @ite Int (y_aw μ w n ∧ y_aw μ o k) (Classical.propDecidable _) 0 2 = @ite Int (y_aw μ o k) (Classical.propDecidable _) 0 2 := by
        by_cases c : y_aw μ o k
        · rw [if_pos ⟨hw, c⟩, if_pos c]
        · rw [if_neg (fun h => c h.2), if_neg c]
      rw [e]
      exact uX6_asksValue_124 (by omega) (tFr.rf hs) ⟨fun _ => second o0 o4 hk 0 0 k.toNat 0 (by omega) (by omega) (fun j j0 j1 => by omega) (Or.inl rfl), fun c => by omega⟩
    | succ q ih =>
      intro i i0 iq h
      refine uX6_asksValue_124 (by omega) (tFr.rf hs) ⟨fun c => by omega, fun _ => ⟨by omega, fun c => ?_, fun c => ?_⟩⟩
      · rw [e43] at c
        rw [w32_id (x := i + 1) (by omega) (by omega)]
        refine ih (i + 1) (by omega) (by omega) (fun j j0 j1 => ?_)
        by_cases e : j = i
        · rw [e]; omega
        · exact h j j0 (by omega)
      · rw [e43] at c
        show (2 : Int) = _
        rw [if_neg (fun h => c (by have := h.1 i i0 (by omega); omega))]
  refine t_of (uX6_asksValue_0 hd (tFr.rf hs) ?_)
  unfold r_askv
  refine ⟨fun c => ?_, fun c1 => ⟨fun c2 => ⟨hW, fun c => ?_, fun c3 => ⟨fun c4 => ⟨fun c => ?_, fun c5 => ⟨fun c6 => ⟨fun c => ?_, fun c7 => ⟨fun c => ?_, fun c8 => ⟨fun c9 => ?_, fun c => ?_⟩⟩⟩, fun c => ?_⟩⟩, fun c => ?_⟩⟩, fun c => ?_⟩⟩
  · rw [if_pos (Or.inl c)]
  · rw [if_neg (by omega), if_pos (Or.inl c)]
  · rw [if_neg (by omega), if_neg (by omega), if_pos (Or.inl c)]
  · rw [if_neg (by omega), if_neg (by omega), if_neg (by omega), if_pos (Or.inl c)]
  · rw [if_neg (by omega), if_neg (by omega), if_neg (by omega), if_pos (Or.inr (Or.inl c))]
  · have hw := y_try_in c1
    have ho := y_try_in c2
    rw [if_neg (by omega), if_neg (by omega), if_neg (by omega), if_neg (by omega)]
    refine ⟨hw, fun c => ?_, fun c10 => ⟨ho, fun c11 => ?_, fun c => ?_⟩⟩
    · rw [if_pos (Or.inl c)]
    · rw [if_neg (by omega)]
      exact first hw.1 hw.2 c7 ho.1 ho.2 c8 n.toNat 0 (by omega) (by omega) (fun j j0 j1 => by omega)
    · rw [if_pos (Or.inr c)]
  · rw [if_neg (by omega), if_neg (by omega), if_neg (by omega), if_pos (Or.inr (Or.inr c))]
  · rw [if_neg (by omega), if_neg (by omega), if_pos (Or.inr c)]
  · rw [if_neg (by omega), if_pos (Or.inr c)]
  · rw [if_pos (Or.inr c)]
/-- what a pair of picks is worth -/
noncomputable def y_wo (μ : tm_M) (w o a b cap i j : Int) : Int := if y_walk μ (tm_v μ 68 (64 * w + i)) (tm_v μ 68 (64 * o + j)) a b < 0 then cap else min cap (y_walk μ (tm_v μ 68 (64 * w + i)) (tm_v μ 68 (64 * o + j)) a b)
/-- the columns of the game -/
noncomputable def y_cs (μ : tm_M) (w n o k a b cap : Int) : List V3 := (List.range k.toNat).map (fun j : Nat => (y_wo μ w o a b cap 0 j, if 2 ≤ n then y_wo μ w o a b cap 1 j else 0, if 3 ≤ n then y_wo μ w o a b cap 2 j else 0))
def o_value (μ : tm_M) (w n o k a b cap : Int) (r : Int) (m : tm_M) : Prop :=
  if 0 < r_askv μ w n o k a b cap then r = 0 ∧ tm_v m 65 0 = r_askv μ w n o k a b cap ∧ tm_v m 65 2 = tm_v μ 65 2 ∧ tm_v m 65 3 = tm_v μ 65 3 ∧ tm_v m 65 54 = tm_v μ 65 54 ∧ tm_v m 65 59 = tm_v μ 65 59 ∧ tm_v m 93 = tm_v μ 93
  else r = 1 ∧ tm_v m 65 0 = 0 ∧ tm_v m 65 54 = n ∧ (0 < tm_v m 65 59 ∧ tm_v m 65 59 ≤ 1600000000) ∧ tm_v m 65 59 = sm3 (top3 m) ∧ ∃ v, opt n (y_cs μ w n o k a b cap) (top3 m) v ∧ tm_v m 65 2 = frt v (sm3 (top3 m)) ∧ tm_v m 65 3 = frb v (sm3 (top3 m))
theorem r_askv_0 {w n o k a b cap : Int} : 0 ≤ r_askv μ w n o k a b cap := by
  unfold r_askv
  split; omega
  split; omega
  split; omega
  split; omega
  split; omega
  split <;> omega
theorem r_askv_ok {w n o k a b cap : Int} (h : r_askv μ w n o k a b cap ≤ 0) : ((0 ≤ w ∧ w < 4) ∧ 0 ≤ o ∧ o < 4) ∧ ((0 ≤ a ∧ a < tm_v μ 65 20) ∧ 0 ≤ b ∧ b < tm_v μ 65 20) ∧ ((1 ≤ n ∧ n ≤ 3) ∧ (1 ≤ k ∧ k ≤ 3) ∧ 1 ≤ cap ∧ cap ≤ 100) ∧ y_aw μ w n ∧ y_aw μ o k := by
  unfold r_askv at h
  split at h
  · omega
  · rename_i c1
    split at h
    · omega
    · rename_i c2
      split at h
      · omega
      · split at h
        · omega
        · rename_i c4
          split at h
          · omega
          · split at h
            · rename_i c6
              have t1 := y_try_in (μ := μ) (t := w) (fun q => c1 (Or.inl q))
              have t2 := y_try_in (μ := μ) (t := o) (fun q => c1 (Or.inr q))
              exact ⟨⟨t1, t2⟩, by omega, by omega, c6⟩
            · omega
theorem r_askv_F {w n o k a b cap : Int} (hs : tFr W μ0 μ) (hT : y_T W) (h7 : ∀ j, ¬ W 67 j) (h8 : ∀ j, ¬ W 68 j) : r_askv μ w n o k a b cap = r_askv μ0 w n o k a b cap := by
  have et : ∀ t, y_trayed μ t = y_trayed μ0 t := fun t => by unfold y_trayed; rw [hs.v (h7 _)]
  have ea : ∀ t n, y_aw μ t n = y_aw μ0 t n := fun t n => by unfold y_aw; simp only [hs.v (h8 _), y_f43 hs hT]
  unfold r_askv
  simp only [et, y_f20 hs hT, hs.v (h7 _)]
  rw [ea, ea]
theorem pX6_value {w n o k a b cap : Int} (hd : 5 ≤ d) (hs : tS μ) (hW : y_W μ) (hV : y_V μ) : cI wX6_value mX6_value d [(2, 65), (0, w), (0, n), (0, o), (0, k), (0, a), (0, b), (0, cap)] μ (o_value μ w n o k a b cap) := by
  have hT : y_T wX6_value := tWs_T rfl
  refine t_of (uX6_value_0 (by omega) (tFr.rf hs) ?_)
  rintro m1 e1
  have f1 : tFr wX6_value μ m1 := by rw [e1]; exact (tFr.rf hs).w (tWs_inF rfl) (tS_wj hs _ (by decide))
  refine tC.I (pX6_asksValue (by omega) f1.S ((y_W_F f1 hT).mpr hW) ((y_V_F f1 hT).mpr hV)) ?_
  rintro r m2 g2 hr
  have e2 := g2.same
  subst e2
  rw [r_askv_F f1 hT (fun j => tWs_no _ rfl) (fun j => tWs_no _ rfl)] at hr
  rintro m3 e3
  have f3 : tFr wX6_value μ m3 := by rw [e3]; exact f1.w (tWs_inF rfl) (tS_wj f1.S _ (by decide))
  have s3 : tm_v m3 65 0 = r_askv μ w n o k a b cap := by rw [e3, tm_vw, if_pos ⟨rfl, rfl⟩, hr]
  have h0 := r_askv_0 (μ := μ) (w := w) (n := n) (o := o) (k := k) (a := a) (b := b) (cap := cap)
  rw [s3]
  refine ⟨fun c => ?_, fun c => ?_⟩
  · obtain ⟨⟨hw, ho⟩, ⟨ha, hb⟩, ⟨hn, hk, hcap⟩, hww, hoo⟩ := r_askv_ok c
    rintro m4 e4 m5 e5
    have f4 : tFr wX6_value μ m4 := by rw [e4]; exact f3.w (tWs_inF rfl) (tS_wj f3.S _ (by decide))
    have f5 : tFr wX6_value μ m5 := by rw [e5]; exact f4.w (tWs_inF rfl) (tS_wj f4.S _ (by decide))
    have z5 : tm_v m5 65 0 = 0 := by rw [e5, e4]; simp [tm_vw]; omega
    have n5 : tm_v m5 65 72 = n := by rw [e5, e4]; simp [tm_vw]
    have k5 : tm_v m5 65 73 = k := by rw [e5]; simp [tm_vw]
    have wr : ∀ i j, 0 ≤ y_wo μ w o a b cap i j ∧ y_wo μ w o a b cap i j ≤ 100 := by
      intro i j
      unfold y_wo
      split <;> omega
    have v43 := hV.1
    -- the game is laid
    have laid : ∀ m, tFr wX6_value μ m → tm_v m 65 0 = 0 → tm_v m 65 72 = n → tm_v m 65 73 = k → (∀ i j, 0 ≤ i → i < n → 0 ≤ j → j < k → tm_v m 101 (3 * i + j) = y_wo μ w o a b cap i j) → hI wX6_value μ mX6_value d (o_value μ w n o k a b cap) 47 [(0, 2, 65), (1, 0, w), (2, 0, n), (3, 0, o), (4, 0, k), (5, 0, a), (6, 0, b), (7, 0, cap), (8, 0, n)] [] m := by
      intro m hm hz hmn hmk hwo
      have hG : y_G m := ⟨by omega, by omega, fun i j i0 i1 j0 j1 => by rw [hwo i j i0 (by omega) j0 (by omega)]; exact wr i j⟩
      have eC : g_C m = y_cs μ w n o k a b cap := by
        unfold g_C y_cs
        rw [hmk]
        refine List.map_congr_left (fun j hj => ?_)
        rw [List.mem_range] at hj
        unfold g_c
        rw [hmn]
        have w0 := hwo 0 j (by omega) (by omega) (by omega) (by omega)
        rw [show (3 : Int) * 0 + j = j by omega] at w0
        rw [w0]
        refine Prod.ext rfl (Prod.ext ?_ ?_) <;> dsimp only
        · split
          · have w1 := hwo 1 j (by omega) (by omega) (by omega) (by omega)
            rw [show (3 : Int) * 1 + j = 3 + j by omega] at w1
            exact w1
          · rfl
        · split
          · have w2 := hwo 2 j (by omega) (by omega) (by omega) (by omega)
            rw [show (3 : Int) * 2 + j = 6 + j by omega] at w2
            exact w2
          · rfl
      refine uX6_value_47 (by omega) hm ⟨fun _ => ?_, fun c => by omega⟩
      refine tC.V (pX6_findValue (by omega) hm.S hG) ?_
      rintro m6 g6 ⟨v1, v2, v3⟩
      have T6 := g_T_FV
      have n6 : tm_v m6 65 72 = n := by rw [g6.v (tWs_noF rfl)]; exact hmn
      have hV6 : (0 < tm_v m6 65 78 ∧ tm_v m6 65 78 ≤ 80000) ∧ (0 ≤ tm_v m6 65 77 ∧ tm_v m6 65 77 ≤ 100 * tm_v m6 65 78) ∧ att m6 (tm_v m6 65 77) (tm_v m6 65 78) := by
        rcases v1 with h | h
        · omega
        · exact h
      refine tC.V (pX6_findChances (by omega) g6.S ((y_G_F g6 T6).mpr hG) hV6.1 hV6.2.1 hV6.2.2 (fun q u hq hu => v3 q u (by rw [hmn, ← n6]; exact hq) (by rw [← g_C_F g6 T6]; exact hu))) ?_
      rintro m7 g7 ⟨⟨c1, c2, c3⟩, v, ho1, ho2⟩
      rw [n6] at c1 ho1
      rw [g_C_F g6 T6, eC] at ho1
      have e77 : tm_v m7 65 77 = tm_v m6 65 77 := g7.v (tWs_noF rfl)
      have e78 : tm_v m7 65 78 = tm_v m6 65 78 := g7.v (tWs_noF rfl)
      rw [e77, e78]
      refine tC.V (pX6_fraction (by omega) g7.S ⟨by omega, by omega, by omega, by omega⟩) ?_
      rintro m8 g8 rfl
      have q93 : ∀ j, tm_v (u_fr m7 (tm_v m6 65 77) (tm_v m6 65 78)) 93 j = tm_v m7 93 j := fun j => g8.v (tWs_no _ rfl)
      have et : top3 (u_fr m7 (tm_v m6 65 77) (tm_v m6 65 78)) = top3 m7 := by unfold top3; rw [q93, q93, q93]
      have hfr := fr_eq (a := tm_v m6 65 77) (b := tm_v m6 65 78) (c := v) (e := sm3 (top3 m7)) hV6.1.1 ho1.1.2.1 (by omega)
      unfold o_value
      rw [if_neg (by omega)]
      refine ⟨rfl, ?_, ?_, ?_, ?_, v, ?_, ?_, ?_⟩
      · rw [g8.v (tWs_noF rfl), g7.v (tWs_noF rfl), g6.v (tWs_noF rfl)]; exact hz
      · rw [g8.v (tWs_noF rfl)]; exact c1
      · rw [g8.v (tWs_noF rfl)]; exact c2
      · rw [g8.v (tWs_noF rfl), et]; exact c3
      · rw [et]; exact ho1
      · rw [et, ← hfr.1]; simp [u_fr, tm_vw, frt]
      · rw [et, ← hfr.2]; simp [u_fr, tm_vw, frb]
    have inner : ∀ (i : Int), 0 ≤ i → i < n → ∀ (q : Nat) (j : Int) (m : tm_M), 0 ≤ j → j + q = k → tFr wX6_value μ m → tm_v m 65 0 = 0 → tm_v m 65 72 = n → tm_v m 65 73 = k → (∀ i' j', 0 ≤ i' → i' < i → 0 ≤ j' → j' < k → tm_v m 101 (3 * i' + j') = y_wo μ w o a b cap i' j') → (∀ j', 0 ≤ j' → j' < j → tm_v m 101 (3 * i + j') = y_wo μ w o a b cap i j') →
        (∀ m, tFr wX6_value μ m → tm_v m 65 0 = 0 → tm_v m 65 72 = n → tm_v m 65 73 = k → (∀ i' j', 0 ≤ i' → i' < i + 1 → 0 ≤ j' → j' < k → tm_v m 101 (3 * i' + j') = y_wo μ w o a b cap i' j') → hI wX6_value μ mX6_value d (o_value μ w n o k a b cap) 47 [(0, 2, 65), (1, 0, w), (2, 0, n), (3, 0, o), (4, 0, k), (5, 0, a), (6, 0, b), (7, 0, cap), (8, 0, i + 1)] [] m) →
        hI wX6_value μ mX6_value d (o_value μ w n o k a b cap) 56 [(0, 2, 65), (1, 0, w), (2, 0, n), (3, 0, o), (4, 0, k), (5, 0, a), (6, 0, b), (7, 0, cap), (8, 0, i), (9, 0, j)] [] m := by
      intro i i0 i1 q
      induction q with
      | zero =>
        intro j m j0 jq hm hz hmn hmk hold hnew kk
        refine uX6_value_56 (by omega) hm ⟨fun _ => ?_, fun c => by omega⟩
        rw [w32_id (x := i + 1) (by omega) (by omega)]
        refine kk m hm hz hmn hmk (fun i' j' a1 a2 a3 a4 => ?_)
        by_cases e : i' = i
        · rw [e]; exact hnew j' a3 (by omega)
        · exact hold i' j' a1 (by omega) a3 a4
      | succ q ih =>
        intro j m j0 jq hm hz hmn hmk hold hnew kk
        have ni := hww i i0 i1
        have nj := hoo j j0 (by omega)
        have v68 : ∀ x, tm_v m 68 x = tm_v μ 68 x := fun x => hm.v (tWs_no _ rfl)
        refine uX6_value_56 (by omega) hm ⟨fun c => by omega, fun _ => ⟨by omega, by omega, ?_⟩⟩
        rw [v68, v68, w32_id (x := tm_v μ 68 (64 * w + i)) (by omega) (by omega), w32_id (x := tm_v μ 68 (64 * o + j)) (by omega) (by omega)]
        refine tC.I (pX6_walkF (by omega) hm hT ⟨hV, ni⟩ ⟨hV, nj⟩ ⟨hW, ha⟩ ⟨hW, hb⟩) ?_
        rintro t m6 g6 rfl
        have f6 : tFr wX6_value μ m6 := hm.tr g6 (tWs_sub rfl)
        have nx : ∀ x m7, m7 = tm_w m6 101 (3 * i + j) x → x = y_wo μ w o a b cap i j → hI wX6_value μ mX6_value d (o_value μ w n o k a b cap) 56 [(0, 2, 65), (1, 0, w), (2, 0, n), (3, 0, o), (4, 0, k), (5, 0, a), (6, 0, b), (7, 0, cap), (8, 0, i), (9, 0, w32 (j + 1))] [] m7 := by
          intro x m7 e7 ex
          rw [w32_id (x := j + 1) (by omega) (by omega)]
          have v101 : ∀ y, tm_v m7 101 y = if y = 3 * i + j then x else tm_v m 101 y := by
            intro y
            rw [e7, tm_vw]
            by_cases e : y = 3 * i + j
            · rw [if_pos ⟨rfl, e⟩, if_pos e]
            · rw [if_neg (fun q => e q.2), if_neg e, g6.v (tWs_no _ rfl)]
          refine ih (j + 1) m7 (by omega) (by omega) (by rw [e7]; exact f6.w (tWs_in _ rfl) (tS_w f6.S sf_101 _ _)) ?_ ?_ ?_ (fun i' j' a1 a2 a3 a4 => ?_) (fun j' a1 a2 => ?_) kk
          · rw [e7, tm_vw, if_neg (by omega), g6.v (tWs_noF rfl)]; exact hz
          · rw [e7, tm_vw, if_neg (by omega), g6.v (tWs_noF rfl)]; exact hmn
          · rw [e7, tm_vw, if_neg (by omega), g6.v (tWs_noF rfl)]; exact hmk
          · rw [v101, if_neg (by omega)]; exact hold i' j' a1 a2 a3 a4
          · rw [v101]
            by_cases e : j' = j
            · rw [e, if_pos rfl]; exact ex
            · rw [if_neg (by omega)]; exact hnew j' a1 (by omega)
        rw [w32_id (x := 3 * i) (by omega) (by omega), w32_id (x := 3 * i + j) (by omega) (by omega)]
        refine ⟨fun c2 => ⟨by omega, fun m7 e7 => nx _ m7 e7 ?_⟩, fun c2 => ⟨by omega, fun m7 e7 => nx _ m7 e7 ?_⟩⟩
        · unfold y_wo; rw [if_neg (by omega)]
        · unfold y_wo; rw [if_pos c2]
    have outer : ∀ (q : Nat) (i : Int) (m : tm_M), 0 ≤ i → i + q = n → tFr wX6_value μ m → tm_v m 65 0 = 0 → tm_v m 65 72 = n → tm_v m 65 73 = k → (∀ i' j', 0 ≤ i' → i' < i → 0 ≤ j' → j' < k → tm_v m 101 (3 * i' + j') = y_wo μ w o a b cap i' j') → hI wX6_value μ mX6_value d (o_value μ w n o k a b cap) 47 [(0, 2, 65), (1, 0, w), (2, 0, n), (3, 0, o), (4, 0, k), (5, 0, a), (6, 0, b), (7, 0, cap), (8, 0, i)] [] m := by
      intro q
      induction q with
      | zero =>
        intro i m i0 iq hm hz hmn hmk hold
        have ei : i = n := by omega
        rw [ei]
        exact laid m hm hz hmn hmk (fun i' j' a1 a2 a3 a4 => hold i' j' a1 (by omega) a3 a4)
      | succ q ih =>
        intro i m i0 iq hm hz hmn hmk hold
        refine uX6_value_47 (by omega) hm ⟨fun c => by omega, fun _ => ?_⟩
        exact inner i i0 (by omega) k.toNat 0 m (by omega) (by omega) hm hz hmn hmk hold (fun j' a1 a2 => by omega) (fun m' a1 a2 a3 a4 a5 => ih (i + 1) m' (by omega) (by omega) a1 a2 a3 a4 a5)
    exact outer n.toNat 0 m5 (by omega) (by omega) f5 z5 n5 k5 (fun i' j' a1 a2 => by omega)
  · unfold o_value
    rw [if_pos c]
    refine ⟨rfl, s3, ?_, ?_, ?_, ?_, ?_⟩
    · rw [e3, e1]; simp [tm_vw]
    · rw [e3, e1]; simp [tm_vw]
    · rw [e3, e1]; simp [tm_vw]
    · rw [e3, e1]; simp [tm_vw]
    · funext j; rw [e3, e1]; simp [tm_vw]
end C7B
