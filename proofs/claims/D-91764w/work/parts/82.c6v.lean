/-! CONTRACTS of the model: corners and what they are worth -/
section C6V
variable {d : Nat} {μ μ0 : tm_M} {W : Int → Int → Prop}
/-- a column of the game -/
def g_c (μ : tm_M) (j : Int) : V3 := (tm_v μ 101 j, if 2 ≤ tm_v μ 65 72 then tm_v μ 101 (3 + j) else 0, if 3 ≤ tm_v μ 65 72 then tm_v μ 101 (6 + j) else 0)
def g_C (μ : tm_M) : List V3 := (List.range (tm_v μ 65 73).toNat).map (fun j : Nat => g_c μ (j : Int))
def y_G (μ : tm_M) : Prop := (1 ≤ tm_v μ 65 72 ∧ tm_v μ 65 72 ≤ 3) ∧ (1 ≤ tm_v μ 65 73 ∧ tm_v μ 65 73 ≤ 3) ∧ ∀ i j, 0 ≤ i → i < tm_v μ 65 72 → 0 ≤ j → j < tm_v μ 65 73 → 0 ≤ tm_v μ 101 (3 * i + j) ∧ tm_v μ 101 (3 * i + j) ≤ 100
def g_T (W : Int → Int → Prop) : Prop := (∀ j, ¬ W 101 j) ∧ ¬ W 65 72 ∧ ¬ W 65 73
theorem g_c_F (hs : tFr W μ0 μ) (hT : g_T W) (j : Int) : g_c μ j = g_c μ0 j := by unfold g_c; rw [hs.v (hT.1 _), hs.v (hT.1 _), hs.v (hT.1 _), hs.v hT.2.1]
theorem g_C_F (hs : tFr W μ0 μ) (hT : g_T W) : g_C μ = g_C μ0 := by unfold g_C; rw [hs.v hT.2.2]; congr 1; funext j; exact g_c_F hs hT _
theorem y_G_F (hs : tFr W μ0 μ) (hT : g_T W) : y_G μ ↔ y_G μ0 := by unfold y_G; simp only [hs.v (hT.1 _), hs.v hT.2.1, hs.v hT.2.2]
theorem mem_C {c : V3} : c ∈ g_C μ ↔ ∃ j : Int, (0 ≤ j ∧ j < tm_v μ 65 73) ∧ c = g_c μ j := by
  unfold g_C
  rw [List.mem_map]
  constructor
  · rintro ⟨j, hj, rfl⟩
    rw [List.mem_range] at hj
    exact ⟨j, by omega, rfl⟩
  · rintro ⟨j, hj, rfl⟩
    exact ⟨j.toNat, by rw [List.mem_range]; omega, by rw [show ((j.toNat : Nat) : Int) = j by omega]⟩
def tri (R x y b : Int) : V3 := if R = 2 then (x, b - x, 0) else (x, y, b - x - y)
theorem tri_sm (R x y b : Int) : sm3 (tri R x y b) = b := by unfold tri; split <;> simp only [sm3] <;> omega
theorem tri_ng {R x y b : Int} (h : b < 0) : ng (tri R x y b) = tri R (-x) (-y) (-b) := by
  unfold ng
  rw [if_pos (by rw [tri_sm]; exact h)]
  unfold tri
  split <;> refine Prod.ext ?_ (Prod.ext ?_ ?_) <;> dsimp only <;> omega
theorem tri_ng' {R x y b : Int} (h : 0 < b) : ng (tri R x y b) = tri R x y b := by
  unfold ng
  rw [if_neg (by rw [tri_sm]; omega)]
/-- the crossing of the equations there -/
def rawc (μ : tm_M) : V3 := if tm_v μ 65 72 = 1 then (1, 0, 0) else if tm_v μ 65 72 = 2 then tri 2 (tm_v μ 103 2) 0 (tm_v μ 103 0) else
  tri 3 (tm_v μ 103 2 * tm_v μ 103 4 - tm_v μ 103 1 * tm_v μ 103 5) (tm_v μ 103 0 * tm_v μ 103 5 - tm_v μ 103 2 * tm_v μ 103 3) (tm_v μ 103 0 * tm_v μ 103 4 - tm_v μ 103 1 * tm_v μ 103 3)
def cor (m : tm_M) : V3 := (tm_v m 102 0, tm_v m 102 1, tm_v m 102 2)
def o_cor (c : V3) (r : Int) (m : tm_M) : Prop := (r = 0 ∨ r = 1) ∧ (r = 1 ↔ sm3 c ≠ 0 ∧ nn3 (ng c)) ∧ (r = 1 → sm3 (cor m) = tm_v m 65 76 ∧ ∃ g, 0 < g ∧ ng c = (g * (cor m).1, g * (cor m).2.1, g * (cor m).2.2) ∧ ∀ k, 0 < k → k ∣ c.1 → k ∣ c.2.1 → k ∣ c.2.2 → k ≤ g)
theorem mul_in {x y a b : Int} (hx : -a ≤ x ∧ x ≤ a) (hy : -b ≤ y ∧ y ≤ b) : -(a * b) ≤ x * y ∧ x * y ≤ a * b := by
  have h1 : 0 ≤ (a - x) * (b + y) := Int.mul_nonneg (by omega) (by omega)
  have h2 : 0 ≤ (a + x) * (b - y) := Int.mul_nonneg (by omega) (by omega)
  have h3 : 0 ≤ (a - x) * (b - y) := Int.mul_nonneg (by omega) (by omega)
  have h4 : 0 ≤ (a + x) * (b + y) := Int.mul_nonneg (by omega) (by omega)
  have e1 : (a - x) * (b + y) = a * b + a * y - x * b - x * y := by grind
  have e2 : (a + x) * (b - y) = a * b - a * y + x * b - x * y := by grind
  have e3 : (a - x) * (b - y) = a * b - a * y - x * b + x * y := by grind
  have e4 : (a + x) * (b + y) = a * b + a * y + x * b + x * y := by grind
  omega
def eb (μ : tm_M) : Prop := ∀ j, 0 ≤ j → j < 3 * (tm_v μ 65 72 - 1) → -20000000 ≤ tm_v μ 103 j ∧ tm_v μ 103 j ≤ 20000000
theorem pX6_isCorner (hd : 2 ≤ d) (hs : tS μ) (hR : 1 ≤ tm_v μ 65 72 ∧ tm_v μ 65 72 ≤ 3) (hb : eb μ) : cI wX6_isCorner mX6_isCorner d [(2, 65)] μ (o_cor (rawc μ)) := by
  -- behind the sign
  have last : ∀ (c : V3) (x y b : Int), 0 < b → (-900000000000000 ≤ x ∧ x ≤ 900000000000000) → (-900000000000000 ≤ y ∧ y ≤ 900000000000000) → b ≤ 900000000000000 → (tm_v μ 65 72 ≤ 2 → y = 0) → (tm_v μ 65 72 = 1 → x = b) → ng c = tri (tm_v μ 65 72) x y b → sm3 c ≠ 0 → (∀ k, k ∣ c.1 → k ∣ c.2.1 → k ∣ c.2.2 → k ∣ x ∧ k ∣ y ∧ k ∣ b) → hI wX6_isCorner μ mX6_isCorner d (o_cor c) 156 [(0, 2, 65), (1, 1, x), (3, 1, y), (5, 1, b)] [] μ := by
    intro c x y b hb0 hx hy hbb hy0 hx1 hng hsm hdv
    refine uX6_isCorner_156 hd (tFr.rf hs) ⟨by omega, ?_⟩
    have g1 : ((Int.gcd x y : Nat) : Int) ≤ 900000000000000 := by
      by_cases e : x = 0 ∧ y = 0
      · rw [e.1, e.2]; decide
      · have h1 : x ≠ 0 → ((Int.gcd x y : Nat) : Int) ≤ 900000000000000 := by
          intro h
          have := Int.le_of_dvd (show (0 : Int) < x.natAbs by omega) (Int.dvd_natAbs.mpr (Int.gcd_dvd_left (a := x) (b := y)))
          omega
        have h2 : y ≠ 0 → ((Int.gcd x y : Nat) : Int) ≤ 900000000000000 := by
          intro h
          have := Int.le_of_dvd (show (0 : Int) < y.natAbs by omega) (Int.dvd_natAbs.mpr (Int.gcd_dvd_right (a := x) (b := y)))
          omega
        omega
    refine ⟨by omega, ?_⟩
    intro g eg
    have dg1 : g ∣ ((Int.gcd x y : Nat) : Int) := by rw [eg]; exact Int.gcd_dvd_left _ _
    have dgb : g ∣ b := by rw [eg]; exact Int.gcd_dvd_right _ _
    have dgx : g ∣ x := Int.dvd_trans dg1 (Int.gcd_dvd_left _ _)
    have dgy : g ∣ y := Int.dvd_trans dg1 (Int.gcd_dvd_right _ _)
    have g0 : 0 < g := by
      have : g ≠ 0 := fun h => by rw [h] at dgb; have := Int.zero_dvd.mp dgb; omega
      have : 0 ≤ g := by rw [eg]; omega
      omega
    obtain ⟨X, eX⟩ := dgx
    obtain ⟨Y, eY⟩ := dgy
    obtain ⟨B, eB⟩ := dgb
    have qX : x.tdiv g = X := by rw [eX]; exact Int.mul_tdiv_cancel_left _ (by omega)
    have qY : y.tdiv g = Y := by rw [eY]; exact Int.mul_tdiv_cancel_left _ (by omega)
    have qB : b.tdiv g = B := by rw [eB]; exact Int.mul_tdiv_cancel_left _ (by omega)
    have small : ∀ z Z : Int, z = g * Z → (-900000000000000 ≤ z ∧ z ≤ 900000000000000) → -900000000000000 ≤ Z ∧ Z ≤ 900000000000000 := by
      intro z Z e h
      have h1 : g * Z ≤ g * 900000000000000 := by rw [← e]; have := Int.mul_le_mul_of_nonneg_right (show (1 : Int) ≤ g by omega) (show (0 : Int) ≤ 900000000000000 by decide); omega
      have h2 : g * (-900000000000000) ≤ g * Z := by rw [← e]; have := Int.mul_le_mul_of_nonneg_right (show (1 : Int) ≤ g by omega) (show (0 : Int) ≤ 900000000000000 by decide); omega
      exact ⟨Int.le_of_mul_le_mul_left h2 g0, Int.le_of_mul_le_mul_left h1 g0⟩
    have sX := small x X eX hx
    have sY := small y Y eY hy
    have sB := small b B eB (by omega)
    have hY0 : tm_v μ 65 72 ≤ 2 → Y = 0 := by
      intro h
      have := hy0 h
      rw [eY] at this
      rcases Int.mul_eq_zero.mp this with q | q
      · omega
      · exact q
    have hX1 : tm_v μ 65 72 = 1 → X = B := by
      intro h
      have := hx1 h
      rw [eX, eB] at this
      exact Int.eq_of_mul_eq_mul_left (by omega) this
    have hk : ∀ k, 0 < k → k ∣ c.1 → k ∣ c.2.1 → k ∣ c.2.2 → k ≤ g := by
      intro k k0 d1 d2 d3
      obtain ⟨k1, k2, k3⟩ := hdv k d1 d2 d3
      refine Int.le_of_dvd g0 ?_
      rw [eg]
      exact Int.dvd_coe_gcd (Int.dvd_coe_gcd k1 k2) k3
    rw [qX, qY, w64_id (x := X) (by omega) (by omega), w64_id (x := Y) (by omega) (by omega), qB, w64_id (x := B) (by omega) (by omega)]
    refine ⟨by omega, fun m1 e1 => ⟨by omega, fun m2 e2 m3 e3 => ⟨by omega, fun m4 e4 => ?_⟩⟩⟩
    have f1 : tFr wX6_isCorner μ m1 := by rw [e1]; exact (tFr.rf hs).w (tWs_in _ rfl) (tS_w hs sf_102 _ _)
    have f2 : tFr wX6_isCorner μ m2 := by rw [e2]; exact f1.w (tWs_in _ rfl) (tS_w f1.S sf_102 _ _)
    have f3 : tFr wX6_isCorner μ m3 := by rw [e3]; exact f2.w (tWs_in _ rfl) (tS_w f2.S sf_102 _ _)
    have f4 : tFr wX6_isCorner μ m4 := by rw [e4]; exact f3.w (tWs_inF rfl) (tS_wj f3.S _ (by decide))
    have v0 : tm_v m4 102 0 = X := by rw [e4, e3, e2, e1]; simp [tm_vw]
    have v1 : tm_v m4 102 1 = Y := by rw [e4, e3, e2]; simp [tm_vw]
    have v2 : tm_v m4 102 2 = 0 := by rw [e4, e3]; simp [tm_vw]
    have v76 : tm_v m4 65 76 = B := by rw [e4]; simp [tm_vw]
    have fin : ∀ m, tFr wX6_isCorner μ m → tm_v m 65 76 = B → cor m = tri (tm_v μ 65 72) X Y B → hI wX6_isCorner μ mX6_isCorner d (o_cor c) 253 [(0, 2, 65)] [] m := by
      intro m hm h76 hco
      have hg : ng c = (g * (cor m).1, g * (cor m).2.1, g * (cor m).2.2) := by
        rw [hng, hco, eX, eY, eB]
        unfold tri
        split <;> refine Prod.ext ?_ (Prod.ext ?_ ?_) <;> dsimp only <;> grind
      have hs3 : sm3 (cor m) = tm_v m 65 76 := by rw [hco, tri_sm, h76]
      have pos : ∀ z : Int, 0 ≤ g * z ↔ 0 ≤ z := fun z => ⟨fun h => by
        by_cases q : 0 ≤ z
        · exact q
        · have := Int.mul_neg_of_pos_of_neg g0 (show z < 0 by omega); omega, fun h => Int.mul_nonneg (by omega) h⟩
      have hn : nn3 (ng c) ↔ 0 ≤ tm_v m 102 0 ∧ 0 ≤ tm_v m 102 1 ∧ 0 ≤ tm_v m 102 2 := by
        rw [hg]
        unfold nn3
        dsimp only
        rw [pos, pos, pos]
        rfl
      have no : (¬ (0 ≤ tm_v m 102 0 ∧ 0 ≤ tm_v m 102 1 ∧ 0 ≤ tm_v m 102 2)) → hI wX6_isCorner μ mX6_isCorner d (o_cor c) 290 [] [] m := by
        intro h
        refine uX6_isCorner_290 hm ⟨Or.inl rfl, ⟨fun q => absurd q (by decide), fun q => absurd (hn.mp q.2) h⟩, fun q => absurd q (by decide)⟩
      refine uX6_isCorner_253 hm ⟨fun q => no (by omega), fun q0 => ⟨fun q => no (by omega), fun q1 => ⟨fun q => no (by omega), fun q2 => ?_⟩⟩⟩
      exact ⟨Or.inr rfl, ⟨fun _ => ⟨hsm, hn.mpr ⟨q0, q1, q2⟩⟩, fun _ => rfl⟩, fun _ => ⟨hs3, g, g0, hg, hk⟩⟩
    refine ⟨fun q => fin m4 f4 v76 ?_, fun q => ⟨fun q2 => ?_, fun q2 => ?_⟩⟩
    · unfold cor tri
      rw [if_neg (by omega), v0, v1, v2, hX1 (by omega), hY0 (by omega)]
      refine Prod.ext ?_ (Prod.ext ?_ ?_) <;> dsimp only <;> omega
    · have eR : tm_v μ 65 72 = 2 := by omega
      rw [eR, show w32 (2 - 1) = 1 by decide]
      refine ⟨by decide, fun m5 e5 => ?_⟩
      rw [v0, v76, Int.sub_zero, w64_id (x := B - X) (by omega) (by omega), w64_id (x := B - X) (by omega) (by omega)] at e5
      refine fin m5 (by rw [e5]; exact f4.w (tWs_in _ rfl) (tS_w f4.S sf_102 _ _)) (by rw [e5, tm_vw, if_neg (by omega)]; exact v76) ?_
      unfold cor tri
      rw [if_pos eR, e5]
      refine Prod.ext ?_ (Prod.ext ?_ ?_) <;> simp [tm_vw, v0, v2]
    · rw [q2, show w32 (3 - 1) = 2 by decide]
      refine ⟨by decide, fun m5 e5 => ?_⟩
      rw [v0, v76, v1, w64_id (x := B - X) (by omega) (by omega), w64_id (x := B - X - Y) (by omega) (by omega)] at e5
      refine fin m5 (by rw [e5]; exact f4.w (tWs_in _ rfl) (tS_w f4.S sf_102 _ _)) (by rw [e5, tm_vw, if_neg (by omega)]; exact v76) ?_
      unfold cor tri
      rw [if_neg (by omega), e5]
      refine Prod.ext ?_ (Prod.ext ?_ ?_) <;> simp [tm_vw, v0, v1]
  have mid : ∀ (c : V3) (x y b : Int), (-800000000000000 ≤ x ∧ x ≤ 800000000000000) → (-800000000000000 ≤ y ∧ y ≤ 800000000000000) → (-800000000000000 ≤ b ∧ b ≤ 800000000000000) → (tm_v μ 65 72 ≤ 2 → y = 0) → (tm_v μ 65 72 = 1 → x = b) → c = tri (tm_v μ 65 72) x y b → hI wX6_isCorner μ mX6_isCorner d (o_cor c) 129 [(0, 2, 65), (1, 1, x), (3, 1, y), (5, 1, b)] [] μ := by
    intro c x y b hx hy hbb hy0 hx1 hc
    have hsm : sm3 c = b := by rw [hc, tri_sm]
    have dv : ∀ k, k ∣ c.1 → k ∣ c.2.1 → k ∣ c.2.2 → k ∣ x ∧ k ∣ y ∧ k ∣ b := by
      intro k d1 d2 d3
      have db : k ∣ b := by rw [← hsm]; exact Int.dvd_add (Int.dvd_add d1 d2) d3
      rw [hc] at d1 d2 d3
      unfold tri at d1 d2 d3
      by_cases e : tm_v μ 65 72 = 2
      · rw [if_pos e] at d1 d2 d3
        exact ⟨d1, by rw [hy0 (by omega)]; exact Int.dvd_zero k, db⟩
      · rw [if_neg e] at d1 d2 d3
        exact ⟨d1, d2, db⟩
    refine uX6_isCorner_129 (tFr.rf hs) ⟨fun c0 => ⟨fun c1 => ?_, fun c1 => ?_⟩, fun c0 => ?_⟩
    · exact last c x y b (by omega) (by omega) (by omega) (by omega) hy0 hx1 (by rw [hc]; exact tri_ng' (by omega)) (by omega) dv
    · rintro _ rfl _ rfl _ rfl
      rw [w64_id (x := -b) (by omega) (by omega), w64_id (x := -x) (by omega) (by omega), w64_id (x := -y) (by omega) (by omega)]
      exact last c (-x) (-y) (-b) (by omega) (by omega) (by omega) (by omega) (fun h => by have := hy0 h; omega) (fun h => by have := hx1 h; omega) (by rw [hc]; exact tri_ng c1) (by omega) (fun k d1 d2 d3 => by
        obtain ⟨k1, k2, k3⟩ := dv k d1 d2 d3
        exact ⟨Int.dvd_neg.mpr k1, Int.dvd_neg.mpr k2, Int.dvd_neg.mpr k3⟩)
    · exact ⟨Or.inl rfl, ⟨fun q => absurd q (by decide), fun q => absurd (by rw [hsm]; exact c0) q.1⟩, fun q => absurd q (by decide)⟩
  refine t_of (uX6_isCorner_0 (tFr.rf hs) ⟨fun c1 => ⟨fun c2 => ?_, fun c2 => ?_⟩, fun c1 => ?_⟩)
  · rintro _ rfl _ rfl _ rfl
    have b0 := hb 0 (by decide) (by omega)
    have b1 := hb 1 (by decide) (by omega)
    have b2 := hb 2 (by decide) (by omega)
    have b3 := hb 3 (by decide) (by omega)
    have b4 := hb 4 (by decide) (by omega)
    have b5 := hb 5 (by decide) (by omega)
    have m04 := mul_in b0 b4
    have m13 := mul_in b1 b3
    have m24 := mul_in b2 b4
    have m15 := mul_in b1 b5
    have m05 := mul_in b0 b5
    have m23 := mul_in b2 b3
    rw [w64_id (x := tm_v μ 103 0 * tm_v μ 103 4) (by omega) (by omega), w64_id (x := tm_v μ 103 1 * tm_v μ 103 3) (by omega) (by omega), w64_id (x := tm_v μ 103 2 * tm_v μ 103 4) (by omega) (by omega), w64_id (x := tm_v μ 103 1 * tm_v μ 103 5) (by omega) (by omega), w64_id (x := tm_v μ 103 0 * tm_v μ 103 5) (by omega) (by omega), w64_id (x := tm_v μ 103 2 * tm_v μ 103 3) (by omega) (by omega)]
    rw [w64_id (by omega) (by omega), w64_id (by omega) (by omega), w64_id (by omega) (by omega)]
    refine mid _ _ _ _ (by omega) (by omega) (by omega) (fun q => by omega) (fun q => absurd q c1) ?_
    unfold rawc
    rw [if_neg c1, if_neg c2, show tm_v μ 65 72 = 3 by omega]
  · rintro _ rfl _ rfl
    have b0 := hb 0 (by decide) (by omega)
    have b2 := hb 2 (by decide) (by omega)
    refine mid _ _ _ _ (by omega) (by omega) (by omega) (fun q => rfl) (fun q => absurd q c1) ?_
    unfold rawc
    rw [if_neg c1, if_pos c2, c2]
  · refine mid _ _ _ _ (by omega) (by omega) (by omega) (fun q => rfl) (fun q => rfl) ?_
    unfold rawc tri
    rw [if_pos c1, if_neg (by omega)]
    rfl
end C6V
