/-! CONTRACTS of the model: what a corner is worth; lines -/
section C6W
variable {d : Nat} {μ μ0 : tm_M} {W : Int → Int → Prop}
theorem g_dt {j : Int} (hR : 1 ≤ tm_v μ 65 72 ∧ tm_v μ 65 72 ≤ 3) (p : V3) (m : Int → Int) (h0 : m 0 = p.1) (h1 : m 1 = p.2.1) (h2 : m 2 = p.2.2) : sm (fun i => m i * tm_v μ 101 (3 * i + j)) (tm_v μ 65 72).toNat = dt (g_c μ j) p := by
  have hc : tm_v μ 65 72 = 1 ∨ tm_v μ 65 72 = 2 ∨ tm_v μ 65 72 = 3 := by omega
  unfold dt g_c
  rcases hc with e | e | e
  · rw [e]
    show sm _ 1 = _
    simp only [sm]
    rw [if_neg (by decide), if_neg (by decide)]
    simp [h0, Int.mul_comm]
  · rw [e]
    show sm _ 2 = _
    simp only [sm]
    rw [if_pos (by decide), if_neg (by decide)]
    simp [h0, h1, Int.mul_comm]
  · rw [e]
    show sm _ 3 = _
    simp only [sm]
    rw [if_pos (by decide), if_pos (by decide)]
    simp [h0, h1, h2, Int.mul_comm]
def crs (m : tm_M) : Prop := (0 ≤ tm_v m 102 0 ∧ 0 ≤ tm_v m 102 1 ∧ 0 ≤ tm_v m 102 2) ∧ sm3 (cor m) ≤ 4000000000
theorem pX6_mostOf (hd : 1 ≤ d) (hs : tS μ) (hG : y_G μ) (hc : crs μ) : cL w0 mX6_mostOf d [(2, 65)] μ (fun r _ => isMx (g_C μ) (cor μ) r ∧ 0 ≤ r ∧ r ≤ 100 * sm3 (cor μ)) := by
  obtain ⟨hR, hK, hw⟩ := hG
  have hsm : sm3 (cor μ) = tm_v μ 102 0 + tm_v μ 102 1 + tm_v μ 102 2 := rfl
  have pin : ∀ i, 0 ≤ i → i < 3 → 0 ≤ tm_v μ 102 i ∧ tm_v μ 102 i ≤ 4000000000 := by
    intro i i0 i1
    have h := hc.1
    have h2 := hc.2
    have : i = 0 ∨ i = 1 ∨ i = 2 := by omega
    rcases this with e | e | e <;> rw [e] <;> omega
  have tin : ∀ j, 0 ≤ j → j < tm_v μ 65 73 → ∀ i, 0 ≤ i → i < tm_v μ 65 72 → 0 ≤ tm_v μ 102 i * tm_v μ 101 (3 * i + j) ∧ tm_v μ 102 i * tm_v μ 101 (3 * i + j) ≤ 100 * tm_v μ 102 i := by
    intro j j0 j1 i i0 i1
    have h1 := pin i i0 (by omega)
    have h2 := hw i j i0 i1 j0 j1
    exact ⟨Int.mul_nonneg h1.1 h2.1, by rw [Int.mul_comm 100]; exact Int.mul_le_mul_of_nonneg_left h2.2 h1.1⟩
  have sin : ∀ j, 0 ≤ j → j < tm_v μ 65 73 → ∀ k : Nat, (k : Int) ≤ tm_v μ 65 72 → 0 ≤ sm (fun i => tm_v μ 102 i * tm_v μ 101 (3 * i + j)) k ∧ sm (fun i => tm_v μ 102 i * tm_v μ 101 (3 * i + j)) k ≤ 100 * sm (tm_v μ 102) k := by
    intro j j0 j1 k
    induction k with
    | zero => intro _; simp [sm]
    | succ k ih =>
      intro hk
      have h1 := ih (by omega)
      have h2 := tin j j0 j1 k (by omega) (by omega)
      rw [sm, sm]
      omega
  have s3 : ∀ k : Nat, k ≤ 3 → 0 ≤ sm (tm_v μ 102) k ∧ sm (tm_v μ 102) k ≤ sm3 (cor μ) := by
    intro k hk
    have h := hc.1
    have : k = 0 ∨ k = 1 ∨ k = 2 ∨ k = 3 := by omega
    rcases this with e | e | e | e <;> rw [e, hsm] <;> simp [sm] <;> omega
  have inner : ∀ (j most : Int), 0 ≤ j → j < tm_v μ 65 73 → ∀ (q i : Nat), (i : Int) + q = tm_v μ 65 72 → hLo wX6_mostOf μ mX6_mostOf d (fun r _ => isMx (g_C μ) (cor μ) r ∧ 0 ≤ r ∧ r ≤ 100 * sm3 (cor μ)) 6 [(0, 2, 65), (1, 1, max most (dt (g_c μ j) (cor μ))), (3, 0, j + 1)] [] μ → hLo wX6_mostOf μ mX6_mostOf d (fun r _ => isMx (g_C μ) (cor μ) r ∧ 0 ≤ r ∧ r ≤ 100 * sm3 (cor μ)) 20 [(0, 2, 65), (1, 1, most), (3, 0, j), (4, 1, sm (fun i => tm_v μ 102 i * tm_v μ 101 (3 * i + j)) i), (6, 0, (i : Int))] [] μ := by
    intro j most j0 j1 q
    induction q with
    | zero =>
      intro i hi kk
      refine uX6_mostOf_20 hd (tFr.rf hs) ⟨fun _ => ?_, fun c => by omega⟩
      rintro _ rfl
      have := g_dt (μ := μ) (j := j) hR (cor μ) (tm_v μ 102) rfl rfl rfl
      rw [show (tm_v μ 65 72).toNat = i by omega] at this
      rw [this, w32_id (x := j + 1) (by omega) (by omega)]
      exact kk
    | succ q ih =>
      intro i hi kk
      have ht := tin j j0 j1 i (by omega) (by omega)
      have hp := pin i (by omega) (by omega)
      have hsi := sin j j0 j1 i (by omega)
      have hs3 := s3 i (by omega)
      have hc2 := hc.2
      refine uX6_mostOf_20 hd (tFr.rf hs) ⟨fun c => by omega, fun _ => ?_⟩
      rw [w32_id (x := 3 * (i : Int)) (by omega) (by omega), w32_id (x := 3 * (i : Int) + j) (by omega) (by omega), w64_id (x := tm_v μ 102 i * tm_v μ 101 (3 * i + j)) (by omega) (by omega), w64_id (by omega) (by omega), w32_id (x := (i : Int) + 1) (by omega) (by omega)]
      refine ⟨by omega, by omega, ?_⟩
      rintro _ rfl
      exact ih (i + 1) (by omega) kk
  have outer : ∀ (q : Nat) (j most : Int), 0 ≤ j → j + q = tm_v μ 65 73 → ((j = 0 ∧ most = -1) ∨ (0 < j ∧ (∀ i, 0 ≤ i → i < j → dt (g_c μ i) (cor μ) ≤ most) ∧ ∃ i, (0 ≤ i ∧ i < j) ∧ dt (g_c μ i) (cor μ) = most)) → hLo wX6_mostOf μ mX6_mostOf d (fun r _ => isMx (g_C μ) (cor μ) r ∧ 0 ≤ r ∧ r ≤ 100 * sm3 (cor μ)) 6 [(0, 2, 65), (1, 1, most), (3, 0, j)] [] μ := by
    intro q
    have din : ∀ j, 0 ≤ j → j < tm_v μ 65 73 → 0 ≤ dt (g_c μ j) (cor μ) ∧ dt (g_c μ j) (cor μ) ≤ 100 * sm3 (cor μ) := by
      intro j j0 j1
      have h1 := sin j j0 j1 (tm_v μ 65 72).toNat (by omega)
      have h2 := s3 (tm_v μ 65 72).toNat (by omega)
      rw [g_dt (μ := μ) (j := j) hR (cor μ) (tm_v μ 102) rfl rfl rfl] at h1
      omega
    induction q with
    | zero =>
      intro j most j0 jq h
      refine uX6_mostOf_6 (tFr.rf hs) ⟨fun _ => ?_, fun c => by omega⟩
      rcases h with ⟨h, _⟩ | ⟨_, h1, i, hi, h2⟩
      · omega
      · have := din i hi.1 (by omega)
        refine ⟨⟨fun c hc => ?_, g_c μ i, mem_C.mpr ⟨i, by omega, rfl⟩, h2⟩, by omega, by omega⟩
        obtain ⟨k, hk, rfl⟩ := mem_C.mp hc
        exact h1 k hk.1 (by omega)
    | succ q ih =>
      intro j most j0 jq h
      refine uX6_mostOf_6 (tFr.rf hs) ⟨fun c => by omega, fun c => ?_⟩
      have hd0 := din j j0 c
      refine inner j most j0 c (tm_v μ 65 72).toNat 0 (by omega) (ih (j + 1) _ (by omega) (by omega) (Or.inr ⟨by omega, fun i i0 i1 => ?_, ?_⟩))
      · by_cases e : i = j
        · rw [e]; omega
        · rcases h with ⟨h, _⟩ | ⟨_, h1, _⟩
          · omega
          · have := h1 i i0 (by omega); omega
      · rcases h with ⟨h, h'⟩ | ⟨_, _, i, hi, h2⟩
        · exact ⟨j, by omega, by omega⟩
        · by_cases e : most ≤ dt (g_c μ j) (cor μ)
          · exact ⟨j, by omega, by omega⟩
          · exact ⟨i, by omega, by omega⟩
  exact t_of (uX6_mostOf_0 (tFr.rf hs) (outer (tm_v μ 65 73).toNat 0 (-1) (by omega) (by omega) (Or.inl ⟨rfl, rfl⟩)))
/-- an equation is there -/
def eqs (m : tm_M) (p A B D : Int) : Prop := tm_v m 103 (3 * p) = A ∧ tm_v m 103 (3 * p + 1) = B ∧ tm_v m 103 (3 * p + 2) = D
/-- and the other one is as it was -/
def eqo (μ m : tm_M) (p : Int) : Prop := ∀ j, j ≠ 3 * p → j ≠ 3 * p + 1 → j ≠ 3 * p + 2 → tm_v m 103 j = tm_v μ 103 j
def eqx (μ m : tm_M) (p A B D : Int) : Prop := eqs m p A B D ∧ eqo μ m p
theorem eqx_mk {p A B D : Int} {m1 m2 m3 : tm_M} (e1 : m1 = tm_w μ 103 (3 * p) A) (e2 : m2 = tm_w m1 103 (3 * p + 1) B) (e3 : m3 = tm_w m2 103 (3 * p + 2) D) : eqx μ m3 p A B D := by
  subst e1 e2 e3
  refine ⟨⟨?_, ?_, ?_⟩, fun j h1 h2 h3 => ?_⟩
  · rw [tm_vw, if_neg (by omega), tm_vw, if_neg (by omega), tm_vw, if_pos ⟨rfl, rfl⟩]
  · rw [tm_vw, if_neg (by omega), tm_vw, if_pos ⟨rfl, rfl⟩]
  · rw [tm_vw, if_pos ⟨rfl, rfl⟩]
  · rw [tm_vw, if_neg (by omega), tm_vw, if_neg (by omega), tm_vw, if_neg (by omega)]
def eA (R k : Int) : Int := if k = R - 1 then 1 else if k = 0 then 1 else 0
def eB (R k : Int) : Int := if k = R - 1 then 1 else if k = 1 then 1 else 0
def eD (R k : Int) : Int := if k = R - 1 then 1 else 0
theorem pX6_equate0 {p k t b : Int} (hs : tS μ) (hR : 1 ≤ tm_v μ 65 72 ∧ tm_v μ 65 72 ≤ 3) (hp : 0 ≤ p ∧ p ≤ 1) (hk : k < 3) : cV wX6_equate mX6_equate d [(2, 65), (0, p), (0, k), (1, t), (1, b)] μ (fun m => eqx μ m p (eA (tm_v μ 65 72) k) (eB (tm_v μ 65 72) k) (eD (tm_v μ 65 72) k)) := by
  refine t_of (uX6_equate_0 (tFr.rf hs) ?_)
  rw [w32_id (x := 3 * p) (by omega) (by omega), w32_id (x := 3 * p + 1) (by omega) (by omega), w32_id (x := 3 * p + 2) (by omega) (by omega)]
  rintro _ rfl
  rw [w32_id (x := tm_v μ 65 72 - 1) (by omega) (by omega)]
  refine ⟨fun c => by omega, fun _ => ?_⟩
  have hp0 : 0 ≤ 3 * p ∧ 3 * p < 6 := by omega
  have hp1 : 0 ≤ 3 * p + 1 ∧ 3 * p + 1 < 6 := by omega
  have hp2 : 0 ≤ 3 * p + 2 ∧ 3 * p + 2 < 6 := by omega
  unfold eA eB eD
  by_cases c1 : k = tm_v μ 65 72 - 1
  · simp only [if_pos c1]
    refine ⟨fun q => absurd c1 q, fun _ => ⟨hp0, fun m1 e1 => ⟨fun q => absurd c1 q, fun _ => ⟨hp1, fun m2 e2 => ⟨fun q => absurd c1 q, fun _ => ⟨hp2, fun m3 e3 => eqx_mk e1 e2 e3⟩⟩⟩⟩⟩⟩
  · simp only [if_neg c1]
    refine ⟨fun _ => ⟨fun c0 => ?_, fun c0 => ?_⟩, fun q => absurd q c1⟩
    · rw [if_neg c0]
      refine ⟨hp0, fun m1 e1 => ⟨fun _ => ⟨fun c2 => ?_, fun c2 => ?_⟩, fun q => absurd q c1⟩⟩
      · rw [if_neg c2]
        exact ⟨hp1, fun m2 e2 => ⟨fun _ => ⟨hp2, fun m3 e3 => eqx_mk e1 e2 e3⟩, fun q => absurd q c1⟩⟩
      · rw [if_pos c2]
        exact ⟨hp1, fun m2 e2 => ⟨fun _ => ⟨hp2, fun m3 e3 => eqx_mk e1 e2 e3⟩, fun q => absurd q c1⟩⟩
    · rw [if_pos c0]
      refine ⟨hp0, fun m1 e1 => ⟨fun _ => ⟨fun c2 => ?_, fun c2 => ?_⟩, fun q => absurd q c1⟩⟩
      · rw [if_neg c2]
        exact ⟨hp1, fun m2 e2 => ⟨fun _ => ⟨hp2, fun m3 e3 => eqx_mk e1 e2 e3⟩, fun q => absurd q c1⟩⟩
      · rw [if_pos c2]
        exact ⟨hp1, fun m2 e2 => ⟨fun _ => ⟨hp2, fun m3 e3 => eqx_mk e1 e2 e3⟩, fun q => absurd q c1⟩⟩
/-- the last row's worth -/
def g_l (μ : tm_M) (j : Int) : Int := tm_v μ 101 (3 * (tm_v μ 65 72 - 1) + j)
theorem pX6_equate1 {p k t b : Int} (hs : tS μ) (hG : y_G μ) (hp : 0 ≤ p ∧ p ≤ 1) (hk : 3 ≤ k ∧ k - 3 < tm_v μ 65 73) (ht : 0 ≤ t ∧ t ≤ 100 * b) (hb : 0 ≤ b ∧ b ≤ 80000) : cV wX6_equate mX6_equate d [(2, 65), (0, p), (0, k), (1, t), (1, b)] μ (fun m => eqx μ m p (b * (tm_v μ 101 (k - 3) - g_l μ (k - 3))) (if tm_v μ 65 72 < 3 then 0 else b * (tm_v μ 101 (3 + (k - 3)) - g_l μ (k - 3))) (t - b * g_l μ (k - 3))) := by
  obtain ⟨hR, hK, hw⟩ := hG
  have a1 := hw 0 (k - 3) (by omega) (by omega) (by omega) (by omega)
  rw [show 3 * 0 + (k - 3) = k - 3 by omega] at a1
  have a3 := hw (tm_v μ 65 72 - 1) (k - 3) (by omega) (by omega) (by omega) (by omega)
  have el : tm_v μ 101 (3 * (tm_v μ 65 72 - 1) + (k - 3)) = g_l μ (k - 3) := rfl
  rw [el] at a3
  have mm : ∀ x : Int, (-100 ≤ x ∧ x ≤ 100) → -8000000 ≤ b * x ∧ b * x ≤ 8000000 := by
    intro x hx
    have := mul_in (x := b) (y := x) (a := 80000) (b := 100) (by omega) (by omega)
    omega
  refine t_of (uX6_equate_0 (tFr.rf hs) ?_)
  rw [w32_id (x := 3 * p) (by omega) (by omega), w32_id (x := 3 * p + 1) (by omega) (by omega), w32_id (x := 3 * p + 2) (by omega) (by omega)]
  rintro _ rfl
  rw [w32_id (x := tm_v μ 65 72 - 1) (by omega) (by omega)]
  refine ⟨fun _ => ?_, fun c => by omega⟩
  rintro _ rfl
  rw [w32_id (x := k - 3) (by omega) (by omega), w32_id (x := 3 * (tm_v μ 65 72 - 1)) (by omega) (by omega), w32_id (x := 3 * (tm_v μ 65 72 - 1) + (k - 3)) (by omega) (by omega), el]
  have m1 := mm (tm_v μ 101 (k - 3) - g_l μ (k - 3)) (by omega)
  have m3 := mm (g_l μ (k - 3)) (by omega)
  rw [w32_id (x := tm_v μ 101 (k - 3) - g_l μ (k - 3)) (by omega) (by omega), w64_id (x := b * (tm_v μ 101 (k - 3) - g_l μ (k - 3))) (by omega) (by omega), w64_id (x := b * g_l μ (k - 3)) (by omega) (by omega), w64_id (x := t - b * g_l μ (k - 3)) (by omega) (by omega), w32_id (x := 3 + (k - 3)) (by omega) (by omega)]
  refine ⟨by omega, by omega, by omega, fun n1 e1 => ⟨fun c => ⟨by omega, by omega, fun n2 e2 => ⟨by omega, fun n3 e3 => ?_⟩⟩, fun c => ⟨by omega, fun n2 e2 => ⟨by omega, fun n3 e3 => ?_⟩⟩⟩⟩
  · rw [if_neg (by omega)]
    have a2 := hw 1 (k - 3) (by omega) (by omega) (by omega) (by omega)
    rw [show 3 * 1 + (k - 3) = 3 + (k - 3) by omega] at a2
    have m2 := mm (tm_v μ 101 (3 + (k - 3)) - g_l μ (k - 3)) (by omega)
    rw [w32_id (x := tm_v μ 101 (3 + (k - 3)) - g_l μ (k - 3)) (by omega) (by omega), w64_id (x := b * (tm_v μ 101 (3 + (k - 3)) - g_l μ (k - 3))) (by omega) (by omega)] at e2
    exact eqx_mk e1 e2 e3
  · rw [if_pos c]
    exact eqx_mk e1 e2 e3
theorem pX6_balance {p i j : Int} (hs : tS μ) (hG : y_G μ) (hp : 0 ≤ p ∧ p ≤ 1) (hi : 0 ≤ i ∧ i < tm_v μ 65 73) (hj : 0 ≤ j ∧ j < tm_v μ 65 73) : cV wX6_balance mX6_balance d [(2, 65), (0, p), (0, i), (0, j)] μ (fun m => eqx μ m p (tm_v μ 101 i - tm_v μ 101 j - (g_l μ i - g_l μ j)) (if tm_v μ 65 72 < 3 then 0 else tm_v μ 101 (3 + i) - tm_v μ 101 (3 + j) - (g_l μ i - g_l μ j)) (-(g_l μ i - g_l μ j))) := by
  obtain ⟨hR, hK, hw⟩ := hG
  have a1 := hw 0 i (by omega) (by omega) (by omega) (by omega)
  have a2 := hw 0 j (by omega) (by omega) (by omega) (by omega)
  rw [show 3 * 0 + i = i by omega] at a1
  rw [show 3 * 0 + j = j by omega] at a2
  have a3 := hw (tm_v μ 65 72 - 1) i (by omega) (by omega) (by omega) (by omega)
  have a4 := hw (tm_v μ 65 72 - 1) j (by omega) (by omega) (by omega) (by omega)
  have el : ∀ j, tm_v μ 101 (3 * (tm_v μ 65 72 - 1) + j) = g_l μ j := fun j => rfl
  rw [el] at a3 a4
  refine t_of (uX6_balance_0 (tFr.rf hs) ?_)
  rw [w32_id (x := 3 * p) (by omega) (by omega), w32_id (x := 3 * p + 1) (by omega) (by omega), w32_id (x := 3 * p + 2) (by omega) (by omega)]
  rintro _ rfl
  rw [w32_id (x := tm_v μ 65 72 - 1) (by omega) (by omega), w32_id (x := 3 * (tm_v μ 65 72 - 1)) (by omega) (by omega), w32_id (x := 3 * (tm_v μ 65 72 - 1) + i) (by omega) (by omega), w32_id (x := 3 * (tm_v μ 65 72 - 1) + j) (by omega) (by omega), el, el]
  refine ⟨by omega, by omega, ?_⟩
  rintro _ rfl
  rw [w32_id (x := g_l μ i - g_l μ j) (by omega) (by omega), w32_id (x := tm_v μ 101 i - tm_v μ 101 j) (by omega) (by omega), w64_id (x := tm_v μ 101 i - tm_v μ 101 j - (g_l μ i - g_l μ j)) (by omega) (by omega), w64_id (x := -(g_l μ i - g_l μ j)) (by omega) (by omega), w32_id (x := 3 + i) (by omega) (by omega), w32_id (x := 3 + j) (by omega) (by omega)]
  refine ⟨by omega, by omega, by omega, fun n1 e1 => ⟨fun c => ⟨by omega, by omega, by omega, fun n2 e2 => ⟨by omega, fun n3 e3 => ?_⟩⟩, fun c => ⟨by omega, fun n2 e2 => ⟨by omega, fun n3 e3 => ?_⟩⟩⟩⟩
  · rw [if_neg (by omega)]
    have b1 := hw 1 i (by omega) (by omega) (by omega) (by omega)
    have b2 := hw 1 j (by omega) (by omega) (by omega) (by omega)
    rw [show 3 * 1 + i = 3 + i by omega] at b1
    rw [show 3 * 1 + j = 3 + j by omega] at b2
    rw [w32_id (x := tm_v μ 101 (3 + i) - tm_v μ 101 (3 + j)) (by omega) (by omega), w64_id (x := tm_v μ 101 (3 + i) - tm_v μ 101 (3 + j) - (g_l μ i - g_l μ j)) (by omega) (by omega)] at e2
    exact eqx_mk e1 e2 e3
  · rw [if_pos c]
    exact eqx_mk e1 e2 e3
end C6W
