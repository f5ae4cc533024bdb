/-! CONTRACTS of the model: the lines, all corners -/
section C6Y
variable {d : Nat} {μ μ0 : tm_M} {W : Int → Int → Prop}
def pm (a b : V3) : Prop := a = b ∨ a = (-b.1, -b.2.1, -b.2.2)
theorem pm_cr {a a' b b' : V3} (h : pm a a') (h' : pm b b') : pm (cr a b) (cr a' b') := by
  unfold pm at *
  rcases h with rfl | rfl <;> rcases h' with rfl | rfl
  · exact Or.inl rfl
  · right; simp only [cr]; refine Prod.ext ?_ (Prod.ext ?_ ?_) <;> dsimp only <;> grind
  · right; simp only [cr]; refine Prod.ext ?_ (Prod.ext ?_ ?_) <;> dsimp only <;> grind
  · left; simp only [cr]; refine Prod.ext ?_ (Prod.ext ?_ ?_) <;> dsimp only <;> grind
theorem pm_sw (a b : V3) : pm (cr a b) (cr b a) := by
  right; simp only [cr]; refine Prod.ext ?_ (Prod.ext ?_ ?_) <;> dsimp only <;> grind
theorem pm_ne {a b : V3} (h : pm a b) (hb : b ≠ (0, 0, 0)) : a ≠ (0, 0, 0) := by
  rcases h with rfl | rfl
  · exact hb
  · intro h
    apply hb
    simp only [Prod.mk.injEq] at h
    exact Prod.ext (by dsimp only; omega) (Prod.ext (by dsimp only; omega) (by dsimp only; omega))
theorem pm_eqv {a b r : V3} (h : pm a b) (he : eqv r b) : eqv r a := by
  rcases h with rfl | rfl
  · exact he
  · unfold eqv at *
    have e : sm3 (-b.1, -b.2.1, -b.2.2) = - sm3 b := by simp only [sm3]; omega
    rw [e]
    refine ⟨?_, ?_, ?_⟩ <;> dsimp only <;> grind
theorem pm_rf (a : V3) : pm a a := Or.inl rfl
def ef (R A B D : Int) : V3 := if R = 2 then (A - D, -D, 0) else (A - D, B - D, -D)
def efm (m : tm_M) (p : Int) : V3 := ef (tm_v m 65 72) (tm_v m 103 (3 * p)) (tm_v m 103 (3 * p + 1)) (tm_v m 103 (3 * p + 2))
theorem rawc_3 (h : tm_v μ 65 72 = 3) : rawc μ = cr (efm μ 0) (efm μ 1) := by
  unfold rawc efm ef
  rw [h, if_neg (by decide), if_neg (by decide), if_neg (by decide), if_neg (by decide)]
  unfold tri
  rw [if_neg (by decide)]
  simp only [cr]
  refine Prod.ext ?_ (Prod.ext ?_ ?_) <;> dsimp only <;> simp <;> grind
theorem rawc_2 (h : tm_v μ 65 72 = 2) : rawc μ = cr (0, 0, 1) (efm μ 0) := by
  unfold rawc efm ef
  rw [h, if_neg (by decide), if_pos rfl, if_pos rfl]
  unfold tri
  rw [if_pos rfl]
  simp only [cr]
  refine Prod.ext ?_ (Prod.ext ?_ ?_) <;> dsimp only <;> simp
theorem rawc_1 (h : tm_v μ 65 72 = 1) : rawc μ = (1, 0, 0) := by
  unfold rawc
  rw [if_pos h]
/-- the equation a tells the line L -/
def lnk (R : Int) (a L : V3) : Prop := (R = 3 → pm a L) ∧ (R = 2 → pm (cr (0, 0, 1) a) (cr (0, 0, 1) L))
def e3 (k : Int) : V3 := if k = 0 then (1, 0, 0) else if k = 1 then (0, 1, 0) else (0, 0, 1)
theorem lnk0 {R k : Int} (hR : 1 ≤ R ∧ R ≤ 3) (hk : 0 ≤ k ∧ k < R) : lnk R (ef R (eA R k) (eB R k) (eD R k)) (e3 k) ∧ (-1 ≤ eA R k ∧ eA R k ≤ 1) ∧ (-1 ≤ eB R k ∧ eB R k ≤ 1) ∧ (-1 ≤ eD R k ∧ eD R k ≤ 1) := by
  have h1 : R = 1 ∨ R = 2 ∨ R = 3 := by omega
  have h2 : k = 0 ∨ k = 1 ∨ k = 2 := by omega
  unfold lnk pm
  rcases h1 with rfl | rfl | rfl <;> rcases h2 with rfl | rfl | rfl <;> first | decide | omega
def ln1 (μ : tm_M) (k : Int) : V3 := if k < 3 then e3 k else if k = 3 then cb 1 (g_c μ 0) (-1) (g_c μ 1) else if k = 4 then cb 1 (g_c μ 0) (-1) (g_c μ 2) else cb 1 (g_c μ 1) (-1) (g_c μ 2)
def av1 (μ : tm_M) (k : Int) : Prop := (k < 3 ∧ k < tm_v μ 65 72) ∨ (k = 3 ∧ 1 < tm_v μ 65 73) ∨ (4 ≤ k ∧ 2 < tm_v μ 65 73)
/-- the equation at p is within c -/
def ebp (m : tm_M) (p c : Int) : Prop := (-c ≤ tm_v m 103 (3 * p) ∧ tm_v m 103 (3 * p) ≤ c) ∧ (-c ≤ tm_v m 103 (3 * p + 1) ∧ tm_v m 103 (3 * p + 1) ≤ c) ∧ (-c ≤ tm_v m 103 (3 * p + 2) ∧ tm_v m 103 (3 * p + 2) ≤ c)
theorem g_l3 (h : tm_v μ 65 72 = 3) (j : Int) : g_l μ j = tm_v μ 101 (6 + j) := by unfold g_l; rw [h, show 3 * (3 - 1) + j = 6 + j by omega]
theorem g_l2 (h : tm_v μ 65 72 = 2) (j : Int) : g_l μ j = tm_v μ 101 (3 + j) := by unfold g_l; rw [h, show 3 * (2 - 1) + j = 3 + j by omega]
theorem lnk1 {i j : Int} : lnk (tm_v μ 65 72) (ef (tm_v μ 65 72) (tm_v μ 101 i - tm_v μ 101 j - (g_l μ i - g_l μ j)) (if tm_v μ 65 72 < 3 then 0 else tm_v μ 101 (3 + i) - tm_v μ 101 (3 + j) - (g_l μ i - g_l μ j)) (-(g_l μ i - g_l μ j))) (cb 1 (g_c μ i) (-1) (g_c μ j)) := by
  refine ⟨fun h => Or.inl ?_, fun h => Or.inl ?_⟩
  · rw [g_l3 h, g_l3 h]
    unfold ef g_c cb
    rw [h, if_neg (by decide), if_neg (by decide)]
    simp only [if_pos (show (2 : Int) ≤ 3 by decide), if_pos (show (3 : Int) ≤ 3 by decide)]
    refine Prod.ext ?_ (Prod.ext ?_ ?_) <;> dsimp only <;> omega
  · rw [g_l2 h, g_l2 h]
    unfold ef g_c cb cr
    rw [h, if_pos rfl]
    simp only [if_pos (show (2 : Int) ≤ 2 by decide), if_neg (show ¬ (3 : Int) ≤ 2 by decide)]
    refine Prod.ext ?_ (Prod.ext ?_ ?_) <;> dsimp only <;> simp <;> omega
theorem lnk2 {j t b : Int} : lnk (tm_v μ 65 72) (ef (tm_v μ 65 72) (b * (tm_v μ 101 j - g_l μ j)) (if tm_v μ 65 72 < 3 then 0 else b * (tm_v μ 101 (3 + j) - g_l μ j)) (t - b * g_l μ j)) (b * (g_c μ j).1 - t, b * (g_c μ j).2.1 - t, b * (g_c μ j).2.2 - t) := by
  refine ⟨fun h => Or.inl ?_, fun h => Or.inl ?_⟩
  · rw [g_l3 h]
    unfold ef g_c
    rw [h, if_neg (by decide), if_neg (by decide)]
    simp only [if_pos (show (2 : Int) ≤ 3 by decide), if_pos (show (3 : Int) ≤ 3 by decide)]
    refine Prod.ext ?_ (Prod.ext ?_ ?_) <;> dsimp only <;> grind
  · rw [g_l2 h]
    unfold ef g_c cr
    rw [h, if_pos rfl]
    simp only [if_pos (show (2 : Int) ≤ 2 by decide), if_neg (show ¬ (3 : Int) ≤ 2 by decide)]
    refine Prod.ext ?_ (Prod.ext ?_ ?_) <;> dsimp only <;> simp <;> grind
theorem efm_eq {m : tm_M} {p A B D : Int} (h : eqs m p A B D) : efm m p = ef (tm_v m 65 72) A B D := by
  unfold efm; rw [h.1, h.2.1, h.2.2]
theorem pX6_isSet {p k : Int} (hd : 1 ≤ d) (hs : tS μ) (hG : y_G μ) (hp : 0 ≤ p ∧ p ≤ 1) (hk : 0 ≤ k ∧ k < 6) : cI wX6_isSet mX6_isSet d [(2, 65), (0, p), (0, k)] μ (fun r m => (r = 0 ∨ r = 1) ∧ (r = 1 ↔ av1 μ k) ∧ (r = 0 → m = μ) ∧ (r = 1 → eqo μ m p ∧ ebp m p 200 ∧ lnk (tm_v μ 65 72) (efm m p) (ln1 μ k))) := by
  have no : ∀ q : ¬ av1 μ k, (((0 : Int) = 0 ∨ (0 : Int) = 1) ∧ ((0 : Int) = 1 ↔ av1 μ k) ∧ ((0 : Int) = 0 → μ = μ) ∧ ((0 : Int) = 1 → eqo μ μ p ∧ ebp μ p 200 ∧ lnk (tm_v μ 65 72) (efm μ p) (ln1 μ k))) := fun q => ⟨Or.inl rfl, ⟨fun h => absurd h (by decide), fun h => absurd h q⟩, fun _ => rfl, fun h => absurd h (by decide)⟩
  have bal : ∀ i j : Int, (0 ≤ i ∧ i < tm_v μ 65 73) → (0 ≤ j ∧ j < tm_v μ 65 73) → av1 μ k → ln1 μ k = cb 1 (g_c μ i) (-1) (g_c μ j) → cV wX6_balance mX6_balance (d - 1) [(2, 65), (0, p), (0, i), (0, j)] μ (fun m => ((1 : Int) = 0 ∨ (1 : Int) = 1) ∧ ((1 : Int) = 1 ↔ av1 μ k) ∧ ((1 : Int) = 0 → m = μ) ∧ ((1 : Int) = 1 → eqo μ m p ∧ ebp m p 200 ∧ lnk (tm_v μ 65 72) (efm m p) (ln1 μ k))) := by
    intro i j hi hj ha hl
    refine tC.V (pX6_balance hs hG hp hi hj) ?_
    rintro m fm ⟨h1, h2⟩
    refine ⟨Or.inr rfl, ⟨fun _ => ha, fun _ => rfl⟩, fun h => absurd h (by decide), fun _ => ⟨h2, ?_, ?_⟩⟩
    · have hw := hG.2.2
      have hR := hG.1
      have a1 := hw 0 i (by omega) (by omega) hi.1 hi.2
      have a2 := hw 0 j (by omega) (by omega) hj.1 hj.2
      rw [show 3 * 0 + i = i by omega] at a1
      rw [show 3 * 0 + j = j by omega] at a2
      have a3 := hw (tm_v μ 65 72 - 1) i (by omega) (by omega) hi.1 hi.2
      have a4 := hw (tm_v μ 65 72 - 1) j (by omega) (by omega) hj.1 hj.2
      have el : ∀ j, tm_v μ 101 (3 * (tm_v μ 65 72 - 1) + j) = g_l μ j := fun j => rfl
      rw [el] at a3 a4
      unfold ebp
      rw [h1.1, h1.2.1, h1.2.2]
      refine ⟨by omega, ?_, by omega⟩
      split
      · omega
      · have b1 := hw 1 i (by omega) (by omega) hi.1 hi.2
        have b2 := hw 1 j (by omega) (by omega) hj.1 hj.2
        rw [show 3 * 1 + i = 3 + i by omega] at b1
        rw [show 3 * 1 + j = 3 + j by omega] at b2
        omega
    · rw [efm_eq h1, fm.v (tWs_noF rfl), hl]
      exact lnk1
  refine t_of (uX6_isSet_0 hd (tFr.rf hs) ⟨fun c => ⟨fun c5 => ⟨fun c3 => ⟨fun q => ?_, fun q => no ?_⟩, fun c3 => ⟨fun q => ?_, fun q => no ?_⟩⟩, fun c5 => ⟨fun c3 => ⟨fun q => ?_, fun q => no ?_⟩, fun c3 => by omega⟩⟩, fun c => ⟨fun q => ?_, fun q => no ?_⟩⟩)
  · exact bal 0 2 (by omega) (by omega) (Or.inr (Or.inr (by omega))) (by unfold ln1; rw [if_neg (by omega), if_neg c3, if_pos (by omega)])
  · unfold av1; omega
  · exact bal 0 1 (by omega) (by omega) (Or.inr (Or.inl (by omega))) (by unfold ln1; rw [if_neg (by omega), if_pos c3])
  · unfold av1; omega
  · exact bal 1 2 (by omega) (by omega) (Or.inr (Or.inr (by omega))) (by unfold ln1; rw [if_neg (by omega), if_neg c3, if_neg (by omega)])
  · unfold av1; omega
  · refine tC.V (pX6_equate0 hs hG.1 hp c) ?_
    rintro m fm ⟨h1, h2⟩
    have hl := lnk0 (R := tm_v μ 65 72) (k := k) hG.1 (by omega)
    refine ⟨Or.inr rfl, ⟨fun _ => Or.inl ⟨c, q⟩, fun _ => rfl⟩, fun h => absurd h (by decide), fun _ => ⟨h2, ?_, ?_⟩⟩
    · unfold ebp
      rw [h1.1, h1.2.1, h1.2.2]
      omega
    · rw [efm_eq h1, fm.v (tWs_noF rfl)]
      unfold ln1
      rw [if_pos c]
      exact hl.1
  · unfold av1; omega
def ln2 (μ : tm_M) (vt vb k : Int) : V3 := if k < 3 then e3 k else (vb * (g_c μ (k - 3)).1 - vt, vb * (g_c μ (k - 3)).2.1 - vt, vb * (g_c μ (k - 3)).2.2 - vt)
def av2 (μ : tm_M) (k : Int) : Prop := (k < 3 ∧ k < tm_v μ 65 72) ∨ (3 ≤ k ∧ k - 3 < tm_v μ 65 73)
/-- what is known of a tight equation's size -/
def ebt (m : tm_M) (p k vb : Int) : Prop := (k < 3 → ebp m p 1) ∧ (3 ≤ k → ebp m p 8000000 ∧ ∃ a b, (-100 ≤ a ∧ a ≤ 100) ∧ (-100 ≤ b ∧ b ≤ 100) ∧ tm_v m 103 (3 * p) = vb * a ∧ tm_v m 103 (3 * p + 1) = vb * b)
theorem pX6_isTight {p k : Int} (hd : 1 ≤ d) (hs : tS μ) (hG : y_G μ) (hp : 0 ≤ p ∧ p ≤ 1) (hk : 0 ≤ k ∧ k < 6) (hvb : 0 < tm_v μ 65 78 ∧ tm_v μ 65 78 ≤ 80000) (hvt : 0 ≤ tm_v μ 65 77 ∧ tm_v μ 65 77 ≤ 100 * tm_v μ 65 78) : cI wX6_isTight mX6_isTight d [(2, 65), (0, p), (0, k)] μ (fun r m => (r = 0 ∨ r = 1) ∧ (r = 1 ↔ av2 μ k) ∧ (r = 0 → m = μ) ∧ (r = 1 → eqo μ m p ∧ ebt m p k (tm_v μ 65 78) ∧ lnk (tm_v μ 65 72) (efm m p) (ln2 μ (tm_v μ 65 77) (tm_v μ 65 78) k))) := by
  have no : ∀ q : ¬ av2 μ k, (((0 : Int) = 0 ∨ (0 : Int) = 1) ∧ ((0 : Int) = 1 ↔ av2 μ k) ∧ ((0 : Int) = 0 → μ = μ) ∧ ((0 : Int) = 1 → eqo μ μ p ∧ ebt μ p k (tm_v μ 65 78) ∧ lnk (tm_v μ 65 72) (efm μ p) (ln2 μ (tm_v μ 65 77) (tm_v μ 65 78) k))) := fun q => ⟨Or.inl rfl, ⟨fun h => absurd h (by decide), fun h => absurd h q⟩, fun _ => rfl, fun h => absurd h (by decide)⟩
  refine t_of (uX6_isTight_0 hd (tFr.rf hs) ?_)
  rw [w32_id (x := k - 3) (by omega) (by omega)]
  refine ⟨fun c => ⟨fun q => ?_, fun q => no ?_⟩, fun c => ⟨fun q => ?_, fun q => no ?_⟩⟩
  · refine tC.V (pX6_equate1 hs hG hp ⟨c, q⟩ hvt (by omega)) ?_
    rintro m fm ⟨h1, h2⟩
    have hw := hG.2.2
    have hR := hG.1
    have a1 := hw 0 (k - 3) (by omega) (by omega) (by omega) q
    rw [show 3 * 0 + (k - 3) = k - 3 by omega] at a1
    have a3 := hw (tm_v μ 65 72 - 1) (k - 3) (by omega) (by omega) (by omega) q
    have el : ∀ j, tm_v μ 101 (3 * (tm_v μ 65 72 - 1) + j) = g_l μ j := fun j => rfl
    rw [el] at a3
    have mm : ∀ x : Int, (-100 ≤ x ∧ x ≤ 100) → -8000000 ≤ tm_v μ 65 78 * x ∧ tm_v μ 65 78 * x ≤ 8000000 := by
      intro x hx
      have := mul_in (x := tm_v μ 65 78) (y := x) (a := 80000) (b := 100) (by omega) (by omega)
      omega
    have m3 : 0 ≤ tm_v μ 65 78 * g_l μ (k - 3) := Int.mul_nonneg (by omega) a3.1
    have m4 := mm (g_l μ (k - 3)) (by omega)
    refine ⟨Or.inr rfl, ⟨fun _ => Or.inr ⟨c, q⟩, fun _ => rfl⟩, fun h => absurd h (by decide), fun _ => ⟨h2, ⟨fun h => by omega, fun _ => ⟨?_, tm_v μ 101 (k - 3) - g_l μ (k - 3), if tm_v μ 65 72 < 3 then 0 else tm_v μ 101 (3 + (k - 3)) - g_l μ (k - 3), by omega, ?_, h1.1, ?_⟩⟩, ?_⟩⟩
    · unfold ebp
      rw [h1.1, h1.2.1, h1.2.2]
      refine ⟨mm _ (by omega), ?_, by omega⟩
      split
      · omega
      · have b1 := hw 1 (k - 3) (by omega) (by omega) (by omega) q
        rw [show 3 * 1 + (k - 3) = 3 + (k - 3) by omega] at b1
        exact mm _ (by omega)
    · split
      · omega
      · have b1 := hw 1 (k - 3) (by omega) (by omega) (by omega) q
        rw [show 3 * 1 + (k - 3) = 3 + (k - 3) by omega] at b1
        omega
    · rw [h1.2.1]
      split
      · simp
      · rfl
    · rw [efm_eq h1, fm.v (tWs_noF rfl)]
      have el2 : ln2 μ (tm_v μ 65 77) (tm_v μ 65 78) k = (tm_v μ 65 78 * (g_c μ (k - 3)).1 - tm_v μ 65 77, tm_v μ 65 78 * (g_c μ (k - 3)).2.1 - tm_v μ 65 77, tm_v μ 65 78 * (g_c μ (k - 3)).2.2 - tm_v μ 65 77) := by unfold ln2; rw [if_neg (by omega)]
      rw [el2]
      exact lnk2
  · unfold av2; omega
  · refine tC.V (pX6_equate0 hs hG.1 hp c) ?_
    rintro m fm ⟨h1, h2⟩
    have hl := lnk0 (R := tm_v μ 65 72) (k := k) hG.1 (by omega)
    refine ⟨Or.inr rfl, ⟨fun _ => Or.inl ⟨c, q⟩, fun _ => rfl⟩, fun h => absurd h (by decide), fun _ => ⟨h2, ⟨fun _ => ?_, fun h => by omega⟩, ?_⟩⟩
    · unfold ebp
      rw [h1.1, h1.2.1, h1.2.2]
      exact ⟨hl.2.1, hl.2.2.1, hl.2.2.2⟩
    · rw [efm_eq h1, fm.v (tWs_noF rfl)]
      unfold ln2
      rw [if_pos c]
      exact hl.1
  · unfold av2; omega
end C6Y
