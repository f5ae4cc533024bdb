/-! CONTRACTS of the model: the chances, value -/
section C7A
variable {d : Nat} {μ μ0 : tm_M} {W : Int → Int → Prop}
def S2 (μ : tm_M) (vt vb : Int) : List V3 := (([0, 1, 2, 3, 4, 5] : List Int).filter (fun k => decide (k < 3 ∨ (3 ≤ k ∧ k - 3 < tm_v μ 65 73)))).map (ln2 μ vt vb)
theorem mem_S2 {a : V3} {vt vb : Int} : a ∈ S2 μ vt vb ↔ ∃ k : Int, (0 ≤ k ∧ k < 6) ∧ (k < 3 ∨ (3 ≤ k ∧ k - 3 < tm_v μ 65 73)) ∧ a = ln2 μ vt vb k := by
  unfold S2
  rw [List.mem_map]
  constructor
  · rintro ⟨k, hk, rfl⟩
    rw [List.mem_filter, decide_eq_true_eq] at hk
    refine ⟨k, ?_, hk.2, rfl⟩
    have := hk.1
    simp only [List.mem_cons, List.not_mem_nil, or_false] at this
    omega
  · rintro ⟨k, hk, h, rfl⟩
    refine ⟨k, ?_, rfl⟩
    rw [List.mem_filter, decide_eq_true_eq]
    refine ⟨?_, h⟩
    simp only [List.mem_cons, List.not_mem_nil, or_false]
    omega
theorem hasE_S2 {vt vb : Int} : hasE (S2 μ vt vb) := ⟨mem_S2.mpr ⟨0, by decide, Or.inl (by decide), rfl⟩, mem_S2.mpr ⟨1, by decide, Or.inl (by decide), rfl⟩, mem_S2.mpr ⟨2, by decide, Or.inl (by decide), rfl⟩⟩
theorem tgt_S2 {vt vb : Int} (hG : y_G μ) : ∀ c ∈ g_C μ, (vb * c.1 - vt, vb * c.2.1 - vt, vb * c.2.2 - vt) ∈ S2 μ vt vb := by
  intro c hc
  obtain ⟨j, hj, rfl⟩ := mem_C.mp hc
  have hK := hG.2.1
  refine mem_S2.mpr ⟨j + 3, by omega, Or.inr (by omega), ?_⟩
  unfold ln2
  rw [if_neg (by omega), show j + 3 - 3 = j by omega]
def cw1 (μ m : tm_M) (vt vb k l : Int) : Prop := ∀ r u, dl (tm_v μ 65 72) r → cr (ln2 μ vt vb k) (ln2 μ vt vb l) ≠ (0, 0, 0) → eqv r (cr (ln2 μ vt vb k) (ln2 μ vt vb l)) → isMx (g_C μ) r u → u * vb ≤ vt * sm3 r → cvc m r
def cw2 (μ m : tm_M) (vt vb k : Int) : Prop := ∀ r u, dl (tm_v μ 65 72) r → cr (0, 0, 1) (ln2 μ vt vb k) ≠ (0, 0, 0) → eqv r (cr (0, 0, 1) (ln2 μ vt vb k)) → isMx (g_C μ) r u → u * vb ≤ vt * sm3 r → cvc m r
theorem cvc_F (hs : tFr W μ0 μ) (h5 : ¬ W 65 54) (h9 : ∀ j, ¬ W 93 j) {r : V3} : cvc μ r ↔ cvc μ0 r := by unfold cvc top3; rw [hs.v h5, hs.v (h9 0), hs.v (h9 1), hs.v (h9 2)]
theorem CI0_F (hs : tFr (tWs [103] []) μ0 μ) : CI0 μ ↔ CI0 μ0 := by
  have et : top3 μ = top3 μ0 := by unfold top3; rw [hs.v (tWs_no _ rfl), hs.v (tWs_no _ rfl), hs.v (tWs_no _ rfl)]
  unfold CI0
  rw [et, g_C_F hs g_T_3, hs.v (tWs_noF rfl), hs.v (tWs_noF rfl), hs.v (tWs_noF rfl), hs.v (tWs_noF rfl), hs.v (tWs_noF rfl)]
theorem ebt_8 {m : tm_M} {p k vb : Int} (h : ebt m p k vb) : ebp m p 8000000 := by
  by_cases c : k < 3
  · have := h.1 c
    unfold ebp at *; omega
  · exact (h.2 (by omega)).1
/-- a common part of the crossing that leaves it small -/
theorem hk_3 {m : tm_M} {k l vb : Int} (hR : tm_v m 65 72 = 3) (hkl : k < l) (hvb : 0 < vb ∧ vb ≤ 80000) (h0 : ebt m 0 k vb) (h1 : ebt m 1 l vb) : ∃ q, 0 < q ∧ q ∣ (rawc m).1 ∧ q ∣ (rawc m).2.1 ∧ q ∣ (rawc m).2.2 ∧ ((sm3 (rawc m)).natAbs : Int) ≤ q * 1600000000 := by
  by_cases c : k < 3
  · refine ⟨1, by decide, Int.one_dvd _, Int.one_dvd _, Int.one_dvd _, ?_⟩
    have a := h0.1 c
    have b := ebt_8 h1
    unfold ebp at a b
    rw [show (3 : Int) * 0 = 0 by decide, show (0 : Int) + 1 = 1 by decide] at a
    rw [show (3 : Int) * 1 = 3 by decide, show (3 : Int) + 1 = 4 by decide] at b
    rw [rawc_sm3 hR]
    have x := mul_in a.1 b.2.1
    have y := mul_in a.2.1 b.1
    omega
  · obtain ⟨_, a0, b0, ha0, hb0, e0, f0⟩ := h0.2 (by omega)
    obtain ⟨_, a1, b1, ha1, hb1, e1, f1⟩ := h1.2 (by omega)
    rw [show (3 : Int) * 0 = 0 by decide] at e0 f0
    rw [show (0 : Int) + 1 = 1 by decide] at f0
    rw [show (3 : Int) * 1 = 3 by decide] at e1 f1
    rw [show (3 : Int) + 1 = 4 by decide] at f1
    have hs3 := rawc_sm3 hR
    have ex : (rawc m).1 = vb * (tm_v m 103 2 * b1 - b0 * tm_v m 103 5) := by
      unfold rawc tri; rw [if_neg (by omega), if_neg (by omega), if_neg (by omega)]; dsimp only; rw [f0, f1]; grind
    have ey : (rawc m).2.1 = vb * (a0 * tm_v m 103 5 - tm_v m 103 2 * a1) := by
      unfold rawc tri; rw [if_neg (by omega), if_neg (by omega), if_neg (by omega)]; dsimp only; rw [e0, e1]; grind
    have es : sm3 (rawc m) = vb * (vb * (a0 * b1 - b0 * a1)) := by rw [hs3, e0, e1, f0, f1]; grind
    have ez : (rawc m).2.2 = vb * (vb * (a0 * b1 - b0 * a1) - (tm_v m 103 2 * b1 - b0 * tm_v m 103 5) - (a0 * tm_v m 103 5 - tm_v m 103 2 * a1)) := by
      have : (rawc m).2.2 = sm3 (rawc m) - (rawc m).1 - (rawc m).2.1 := by simp only [sm3]; omega
      rw [this, ex, ey, es]; grind
    refine ⟨vb, hvb.1, ⟨_, ex⟩, ⟨_, ey⟩, ⟨_, ez⟩, ?_⟩
    have x := mul_in (x := a0) (y := b1) ha0 hb1
    have y := mul_in (x := b0) (y := a1) hb0 ha1
    have z := mul_in (x := vb) (y := a0 * b1 - b0 * a1) (a := 80000) (b := 20000) (by omega) (by omega)
    rw [es]
    have w1 : vb * (vb * (a0 * b1 - b0 * a1)) ≤ vb * 1600000000 := Int.mul_le_mul_of_nonneg_left (by omega) (by omega)
    have w2 : vb * (-1600000000) ≤ vb * (vb * (a0 * b1 - b0 * a1)) := Int.mul_le_mul_of_nonneg_left (by omega) (by omega)
    omega
theorem pX6_findChances (hd : 4 ≤ d) (hs : tS μ) (hG : y_G μ) (hvb : 0 < tm_v μ 65 78 ∧ tm_v μ 65 78 ≤ 80000) (hvt : 0 ≤ tm_v μ 65 77 ∧ tm_v μ 65 77 ≤ 100 * tm_v μ 65 78) (hat : att μ (tm_v μ 65 77) (tm_v μ 65 78))
    (hval : ∀ q u, dl (tm_v μ 65 72) q → isMx (g_C μ) q u → tm_v μ 65 77 * sm3 q ≤ u * tm_v μ 65 78) :
    cV wX6_findChances mX6_findChances d [(2, 65)] μ (fun m => (tm_v m 65 54 = tm_v μ 65 72 ∧ (0 < tm_v m 65 59 ∧ tm_v m 65 59 ≤ 1600000000) ∧ tm_v m 65 59 = sm3 (top3 m)) ∧ ∃ v, opt (tm_v μ 65 72) (g_C μ) (top3 m) v ∧ v * tm_v μ 65 78 = tm_v μ 65 77 * sm3 (top3 m)) := by
  have hR := hG.1
  have hR3 : tm_v μ 65 72 = 1 ∨ tm_v μ 65 72 = 2 ∨ tm_v μ 65 72 = 3 := by omega
  have hne : g_C μ ≠ [] := by
    intro h
    have : g_c μ 0 ∈ g_C μ := mem_C.mpr ⟨0, by have := hG.2.1; omega, rfl⟩
    rw [h] at this
    exact absurd this List.not_mem_nil
  have hT := g_T_FC
  have fin : ∀ m, tFr wX6_findChances μ m → CI0 m → (∀ r u, dl (tm_v μ 65 72) r → crn (tm_v μ 65 72) (S2 μ (tm_v μ 65 77) (tm_v μ 65 78)) r → isMx (g_C μ) r u → u * tm_v μ 65 78 ≤ tm_v μ 65 77 * sm3 r → cvc m r) → (tm_v m 65 54 = tm_v μ 65 72 ∧ (0 < tm_v m 65 59 ∧ tm_v m 65 59 ≤ 1600000000) ∧ tm_v m 65 59 = sm3 (top3 m)) ∧ ∃ v, opt (tm_v μ 65 72) (g_C μ) (top3 m) v ∧ v * tm_v μ 65 78 = tm_v μ 65 77 * sm3 (top3 m) := by
    intro m hm hC hc
    have h54 : tm_v m 65 54 ≠ 0 := by
      obtain ⟨p, v, hp, hv, e⟩ := hat
      obtain ⟨r, r1, r2, r3, r4⟩ := cnR (1, 0, 0) (0, 1, 0) (0, 0, 0) hR3 (hasE_S2 (μ := μ) (vt := tm_v μ 65 77) (vb := tm_v μ 65 78)) hp
      obtain ⟨u, hu⟩ := isMx_ex hne r
      refine (hc r u r1 r2 hu ?_).1
      obtain ⟨c, hcm, ec⟩ := hu.2
      have et : ∀ (c r : V3), dt (tm_v μ 65 78 * c.1 - tm_v μ 65 77, tm_v μ 65 78 * c.2.1 - tm_v μ 65 77, tm_v μ 65 78 * c.2.2 - tm_v μ 65 77) r = tm_v μ 65 78 * dt c r - tm_v μ 65 77 * sm3 r := by intro c r; simp only [dt, sm3]; grind
      have h1 := (r3 _ (tgt_S2 hG c hcm)).2
      rw [et, et] at h1
      have h2 := Int.mul_le_mul_of_nonneg_left (hv.1 c hcm) (show 0 ≤ tm_v μ 65 78 by omega)
      have := h1 (by have := Int.mul_comm v (tm_v μ 65 78); omega)
      rw [← ec]; have := Int.mul_comm (tm_v μ 65 78) (dt c r); omega
    rcases hC with h | ⟨c1, c2, c3, c4, v, c5, c6⟩
    · exact absurd h h54
    · have g72 : tm_v m 65 72 = tm_v μ 65 72 := hm.v (tWs_noF rfl)
      have g77 : tm_v m 65 77 = tm_v μ 65 77 := hm.v (tWs_noF rfl)
      have g78 : tm_v m 65 78 = tm_v μ 65 78 := hm.v (tWs_noF rfl)
      rw [g72] at c1 c4
      rw [g77, g78] at c6
      rw [g_C_F hm hT] at c5
      have h1 := hval _ _ c4 c5
      exact ⟨⟨c1, c2, c3⟩, v, opt_of2 hR3 hasE_S2 hvb.1 (tgt_S2 hG) hval c4 c5 c6 hne (fun r u h1 h2 h3 h4 => (hc r u h1 h2 h3 h4).2), by omega⟩
  have try_ : ∀ m c, tFr wX6_findChances μ m → CI0 m → eb m → (∃ q, 0 < q ∧ q ∣ (rawc m).1 ∧ q ∣ (rawc m).2.1 ∧ q ∣ (rawc m).2.2 ∧ ((sm3 (rawc m)).natAbs : Int) ≤ q * 1600000000) → pm (rawc m) c → cV wX6_chosen mX6_chosen (d - 1) [(2, 65)] m (fun m' => CI0 m' ∧ (∀ r, 0 < sm3 r → cvc m r → cvc m' r) ∧ ∀ r u, dl (tm_v μ 65 72) r → c ≠ (0, 0, 0) → eqv r c → isMx (g_C μ) r u → u * tm_v μ 65 78 ≤ tm_v μ 65 77 * sm3 r → cvc m' r) := by
    intro m c hm hC heb hk hp
    have e72 : tm_v m 65 72 = tm_v μ 65 72 := hm.v (tWs_noF rfl)
    have e77 : tm_v m 65 77 = tm_v μ 65 77 := hm.v (tWs_noF rfl)
    have e78 : tm_v m 65 78 = tm_v μ 65 78 := hm.v (tWs_noF rfl)
    refine tC.V (pX6_chosen (by omega) hm.S ((y_G_F hm hT).mpr hG) heb hk (by rw [e78]; exact hvb) (by rw [e77, e78]; exact hvt) hC) ?_
    rintro m' fm' ⟨a1, a2, a3⟩
    refine ⟨a1, a2, fun r u hr hc he2 hu hl => ?_⟩
    refine a3 r u (by rw [e72]; exact hr) (pm_ne hp hc) (pm_eqv hp he2) (by rw [g_C_F hm hT]; exact hu) (by rw [e77, e78]; exact hl)
  have inner : tm_v μ 65 72 = 3 → ∀ (k : Int), 0 ≤ k → k < 6 → ∀ (q : Nat) (l : Int) (m : tm_M), k < l → l + q = 6 → tFr wX6_findChances μ m → CI0 m → av2 μ k → ebt m 0 k (tm_v μ 65 78) → pm (efm m 0) (ln2 μ (tm_v μ 65 77) (tm_v μ 65 78) k) → (∀ k' l', 0 ≤ k' → k' < k → k' < l' → l' < 6 → av2 μ k' → av2 μ l' → cw1 μ m (tm_v μ 65 77) (tm_v μ 65 78) k' l') → (∀ l', k < l' → l' < l → av2 μ l' → cw1 μ m (tm_v μ 65 77) (tm_v μ 65 78) k l') →
      (∀ m, tFr wX6_findChances μ m → CI0 m → (∀ k' l', 0 ≤ k' → k' < k + 1 → k' < l' → l' < 6 → av2 μ k' → av2 μ l' → cw1 μ m (tm_v μ 65 77) (tm_v μ 65 78) k' l') → hV wX6_findChances μ mX6_findChances d (fun m => (tm_v m 65 54 = tm_v μ 65 72 ∧ (0 < tm_v m 65 59 ∧ tm_v m 65 59 ≤ 1600000000) ∧ tm_v m 65 59 = sm3 (top3 m)) ∧ ∃ v, opt (tm_v μ 65 72) (g_C μ) (top3 m) v ∧ v * tm_v μ 65 78 = tm_v μ 65 77 * sm3 (top3 m)) 19 [(0, 2, 65), (1, 0, k + 1)] [] m) →
      hV wX6_findChances μ mX6_findChances d (fun m => (tm_v m 65 54 = tm_v μ 65 72 ∧ (0 < tm_v m 65 59 ∧ tm_v m 65 59 ≤ 1600000000) ∧ tm_v m 65 59 = sm3 (top3 m)) ∧ ∃ v, opt (tm_v μ 65 72) (g_C μ) (top3 m) v ∧ v * tm_v μ 65 78 = tm_v μ 65 77 * sm3 (top3 m)) 61 [(0, 2, 65), (1, 0, k), (2, 0, l)] [] m := by
    intro h3 k k0 k6 q
    have ek : w32 (k + 1) = k + 1 := w32_id (by omega) (by omega)
    induction q with
    | zero =>
      intro l m hkl hlq hm hC hav hb hpm hold hnew kk
      refine uX6_findChances_61 (by omega) hm ⟨fun _ => ?_, fun c => by omega⟩
      rw [ek]
      refine kk m hm hC (fun k' l' a b c e f g => ?_)
      by_cases x : k' = k
      · rw [x]; exact hnew l' (by omega) (by omega) g
      · exact hold k' l' a (by omega) c e f g
    | succ q ih =>
      intro l m hkl hlq hm hC hav hb hpm hold hnew kk
      have el : w32 (l + 1) = l + 1 := w32_id (by omega) (by omega)
      have e77 : tm_v m 65 77 = tm_v μ 65 77 := hm.v (tWs_noF rfl)
      have e78 : tm_v m 65 78 = tm_v μ 65 78 := hm.v (tWs_noF rfl)
      refine uX6_findChances_61 (by omega) hm ⟨fun c => by omega, fun _ => ⟨fun c => absurd h3 c, fun _ => ?_⟩⟩
      rw [el]
      refine tC.I (pX6_isTight (by omega) hm.S ((y_G_F hm hT).mpr hG) (by decide) (by omega) (by rw [e78]; exact hvb) (by rw [e77, e78]; exact hvt)) ?_
      rintro r m1 f1 ⟨hr, hr1, hr2, hr3⟩
      refine ⟨fun c => ?_, fun c => ?_⟩
      · have e1 := hr2 c
        subst e1
        refine ih (l + 1) m1 (by omega) (by omega) hm hC hav hb hpm hold (fun l' a b e => ?_) kk
        by_cases x : l' = l
        · exfalso
          rw [x] at e
          have := hr1.mpr ((av2_F hm hT l).mpr e)
          omega
        · exact hnew l' a (by omega) e
      · have e1 : r = 1 := by omega
        obtain ⟨s1, s2, s3⟩ := hr3 e1
        rw [e78] at s2
        have F1 : tFr wX6_findChances μ m1 := hm.tr f1 (tWs_sub rfl)
        have C1 : CI0 m1 := (CI0_F f1).mpr hC
        have c1 : ∀ r, cvc m1 r ↔ cvc m r := fun r => cvc_F f1 (tWs_noF rfl) (fun j => tWs_no _ rfl)
        have em1 : tm_v m1 65 72 = 3 := by rw [F1.v (tWs_noF rfl)]; exact h3
        have em : tm_v m 65 72 = 3 := by rw [hm.v (tWs_noF rfl)]; exact h3
        have x1 : ∀ j, j < 3 → tm_v m1 103 j = tm_v m 103 j := fun j hj => s1 j (by omega) (by omega) (by omega)
        have eE : efm m1 0 = efm m 0 := by unfold efm; rw [em, em1, x1 _ (by omega), x1 _ (by omega), x1 _ (by omega)]
        have b0 : ebt m1 0 k (tm_v μ 65 78) := by
          unfold ebt ebp at hb ⊢
          simp only [x1 (3 * 0) (by omega), x1 (3 * 0 + 1) (by omega), x1 (3 * 0 + 2) (by omega)]
          exact hb
        have p1 : pm (efm m1 1) (ln2 μ (tm_v μ 65 77) (tm_v μ 65 78) l) := by have := s3.1 em; rw [ln2_F hm hT, e77, e78] at this; exact this
        refine tC.V (try_ m1 (cr (ln2 μ (tm_v μ 65 77) (tm_v μ 65 78) k) (ln2 μ (tm_v μ 65 77) (tm_v μ 65 78) l)) F1 C1 (eb_of3 em1 (by omega) (ebt_8 b0) (ebt_8 s2)) (hk_3 em1 hkl hvb b0 s2) (by rw [rawc_3 em1]; exact pm_cr (by rw [eE]; exact hpm) p1)) ?_
        rintro m3 f3 ⟨a1, a2, a3⟩
        have F3 : tFr wX6_findChances μ m3 := F1.tr f3 (tWs_sub rfl)
        have v103 : ∀ j, tm_v m3 103 j = tm_v m1 103 j := fun j => f3.v (tWs_no _ rfl)
        have em3 : tm_v m3 65 72 = 3 := by rw [F3.v (tWs_noF rfl)]; exact h3
        have lift : ∀ k' l', cw1 μ m (tm_v μ 65 77) (tm_v μ 65 78) k' l' → cw1 μ m3 (tm_v μ 65 77) (tm_v μ 65 78) k' l' := fun k' l' h r u hr hc he hu hl => a2 r hr.2.1 ((c1 r).mpr (h r u hr hc he hu hl))
        have eE3 : efm m3 0 = efm m1 0 := by unfold efm; rw [em3, em1, v103, v103, v103]
        refine ih (l + 1) m3 (by omega) (by omega) F3 a1 hav (by unfold ebt ebp at b0 ⊢; simp only [v103]; exact b0) (by rw [eE3, eE]; exact hpm) (fun k' l' a b c e f g => lift _ _ (hold k' l' a b c e f g)) (fun l' a b e => ?_) kk
        by_cases x : l' = l
        · rw [x]; exact fun r u hr hc he hu hl => a3 r u hr hc he hu hl
        · exact lift _ _ (hnew l' a (by omega) e)
  have outer : ∀ (q : Nat) (k : Int) (m : tm_M), 0 ≤ k → k + q = 6 → tFr wX6_findChances μ m → CI0 m → (tm_v μ 65 72 = 3 → ∀ k' l', 0 ≤ k' → k' < k → k' < l' → l' < 6 → av2 μ k' → av2 μ l' → cw1 μ m (tm_v μ 65 77) (tm_v μ 65 78) k' l') → (tm_v μ 65 72 = 2 → ∀ k', 0 ≤ k' → k' < k → av2 μ k' → cw2 μ m (tm_v μ 65 77) (tm_v μ 65 78) k') → 1 < tm_v μ 65 72 → hV wX6_findChances μ mX6_findChances d (fun m => (tm_v m 65 54 = tm_v μ 65 72 ∧ (0 < tm_v m 65 59 ∧ tm_v m 65 59 ≤ 1600000000) ∧ tm_v m 65 59 = sm3 (top3 m)) ∧ ∃ v, opt (tm_v μ 65 72) (g_C μ) (top3 m) v ∧ v * tm_v μ 65 78 = tm_v μ 65 77 * sm3 (top3 m)) 19 [(0, 2, 65), (1, 0, k)] [] m := by
    intro q
    induction q with
    | zero =>
      intro k m k0 kq hm hC h3 h2 h1
      refine uX6_findChances_19 (by omega) hm ⟨fun _ => fin m hm hC (fun r u hr hc hu hl => ?_), fun c => by omega⟩
      rcases hc with ⟨e, a, ha, b, hb, hc, he⟩ | ⟨e, b, hb, hc, he⟩ | ⟨e, _⟩
      · obtain ⟨i, hi, hi2, rfl⟩ := mem_S2.mp ha
        obtain ⟨j, hj, hj2, rfl⟩ := mem_S2.mp hb
        have ai : av2 μ i := by unfold av2; omega
        have aj : av2 μ j := by unfold av2; omega
        rcases Int.lt_trichotomy i j with x | x | x
        · exact h3 e i j hi.1 (by omega) x hj.2 ai aj r u hr hc he hu hl
        · exfalso; apply hc; rw [x]; simp only [cr]; refine Prod.ext ?_ (Prod.ext ?_ ?_) <;> dsimp only <;> grind
        · exact h3 e j i hj.1 (by omega) x hi.2 aj ai r u hr (pm_ne (pm_sw _ _) hc) (pm_eqv (pm_sw _ _) he) hu hl
      · obtain ⟨j, hj, hj2, rfl⟩ := mem_S2.mp hb
        by_cases x : j = 2
        · exfalso; apply hc; rw [x]; rfl
        · have aj : av2 μ j := by unfold av2; omega
          exact h2 e j hj.1 (by omega) aj r u hr hc he hu hl
      · omega
    | succ q ih =>
      intro k m k0 kq hm hC h3 h2 h1
      have ek : w32 (k + 1) = k + 1 := w32_id (by omega) (by omega)
      have e77 : tm_v m 65 77 = tm_v μ 65 77 := hm.v (tWs_noF rfl)
      have e78 : tm_v m 65 78 = tm_v μ 65 78 := hm.v (tWs_noF rfl)
      refine uX6_findChances_19 (by omega) hm ⟨fun c => by omega, fun _ => ⟨fun c => by omega, fun _ => ?_⟩⟩
      rw [ek]
      refine tC.I (pX6_isTight (by omega) hm.S ((y_G_F hm hT).mpr hG) (by decide) (by omega) (by rw [e78]; exact hvb) (by rw [e77, e78]; exact hvt)) ?_
      rintro r m1 f1 ⟨hr, hr1, hr2, hr3⟩
      refine ⟨fun c => ?_, fun c => ?_⟩
      · have e1 : r = 1 := by omega
        have hav : av2 μ k := (av2_F hm hT k).mp (hr1.mp e1)
        obtain ⟨s1, s2, s3⟩ := hr3 e1
        rw [e78] at s2
        have F1 : tFr wX6_findChances μ m1 := hm.tr f1 (tWs_sub rfl)
        have C1 : CI0 m1 := (CI0_F f1).mpr hC
        have c1 : ∀ r, cvc m1 r ↔ cvc m r := fun r => cvc_F f1 (tWs_noF rfl) (fun j => tWs_no _ rfl)
        refine ⟨fun c2 => ?_, fun c2 => ?_⟩
        · have e3 : tm_v μ 65 72 = 3 := by omega
          rintro _ rfl
          have em : tm_v m 65 72 = 3 := by rw [hm.v (tWs_noF rfl)]; exact e3
          refine inner e3 k k0 (by omega) (6 - (k + 1)).toNat (k + 1) m1 (by omega) (by omega) F1 C1 hav s2 (by have := s3.1 em; rw [ln2_F hm hT, e77, e78] at this; exact this) (fun k' l' a b c e f g r u hr hc he hu hl => (c1 r).mpr (h3 e3 k' l' a b c e f g r u hr hc he hu hl)) (fun l' a b e => by omega) (fun m' F' C' h' => ih (k + 1) m' (by omega) (by omega) F' C' (fun _ => h') (fun h => by omega) h1)
        · have em : tm_v m 65 72 = 2 := by rw [hm.v (tWs_noF rfl)]; exact c2
          have em1 : tm_v m1 65 72 = 2 := by rw [F1.v (tWs_noF rfl)]; exact c2
          have h8 := ebt_8 s2
          refine tC.V (try_ m1 (cr (0, 0, 1) (ln2 μ (tm_v μ 65 77) (tm_v μ 65 78) k)) F1 C1 (eb_of2 em1 (by omega) h8) ⟨1, by decide, Int.one_dvd _, Int.one_dvd _, Int.one_dvd _, by rw [rawc_sm2 em1]; have := h8.1; rw [show (3 : Int) * 0 = 0 by decide] at this; omega⟩ (by rw [rawc_2 em1]; have := s3.2 em; rw [ln2_F hm hT, e77, e78] at this; exact this)) ?_
          rintro m3 f3 ⟨a1, a2, a3⟩
          have F3 : tFr wX6_findChances μ m3 := F1.tr f3 (tWs_sub rfl)
          rintro _ rfl
          refine uX6_findChances_61 (by omega) F3 ⟨fun c => ?_, fun _ => ⟨fun _ => ?_, fun c => by omega⟩⟩
          all_goals
            rw [ek]
            refine ih (k + 1) m3 (by omega) (by omega) F3 a1 (fun h => by omega) (fun _ k' a b e => ?_) h1
            by_cases x : k' = k
            · rw [x]; exact fun r u hr hc he hu hl => a3 r u hr hc he hu hl
            · exact fun r u hr hc he hu hl => a2 r hr.2.1 ((c1 r).mpr (h2 c2 k' a (by omega) e r u hr hc he hu hl))
      · have e1 := hr2 c
        subst e1
        have hnav : ¬ av2 μ k := fun h => by have := hr1.mpr ((av2_F hm hT k).mpr h); omega
        refine ih (k + 1) m1 (by omega) (by omega) hm hC (fun e k' l' a b c e2 f g => ?_) (fun e k' a b c => ?_) h1
        · exact h3 e k' l' a (by by_cases x : k' = k; (rw [x] at f; exact absurd f hnav); omega) c e2 f g
        · exact h2 e k' a (by by_cases x : k' = k; (rw [x] at c; exact absurd c hnav); omega) c
  refine t_of (uX6_findChances_0 (by omega) (tFr.rf hs) ?_)
  rintro m1 e1
  have F1 : tFr wX6_findChances μ m1 := by rw [e1]; exact (tFr.rf hs).w (tWs_inF rfl) (tS_wj hs _ (by decide))
  have C1 : CI0 m1 := Or.inl (by rw [e1]; simp [tm_vw])
  refine ⟨fun c => ?_, fun c => ?_⟩
  · exact outer 6 0 m1 (by omega) (by omega) F1 C1 (fun _ k' l' a b => by omega) (fun _ k' a b => by omega) (by omega)
  · have em1 : tm_v m1 65 72 = 1 := by rw [F1.v (tWs_noF rfl)]; exact c
    refine tC.V (try_ m1 (1, 0, 0) F1 C1 (fun j j0 j1 => by omega) ⟨1, by decide, Int.one_dvd _, Int.one_dvd _, Int.one_dvd _, by rw [rawc_1 em1]; decide⟩ (by rw [rawc_1 em1]; exact pm_rf _)) ?_
    rintro m3 f3 ⟨a1, a2, a3⟩
    have F3 : tFr wX6_findChances μ m3 := F1.tr f3 (tWs_sub rfl)
    have dn := fin m3 F3 a1 (fun r u hr hc hu hl => by
      rcases hc with ⟨e, _⟩ | ⟨e, _⟩ | ⟨_, he⟩
      · omega
      · omega
      · exact a3 r u hr (by decide) he hu hl)
    exact uX6_findChances_19 (by omega) F3 ⟨fun _ => dn, fun _ => ⟨fun _ => dn, fun c2 => by omega⟩⟩
end C7A
