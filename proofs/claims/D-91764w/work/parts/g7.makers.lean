/-! CONTRACTS of the component: places, lanes, towns are made; a place is found by its name -/
section C0MK
variable {d : Nat} {μ : tm_M} {x a b n v l : Int}
def q_m (m : tm_M) : tQ := fun o μ1 => o = .inl none ∧ μ1 = m
theorem pX8_init (hs : tS μ) (h1 : 1 ≤ x) (hk : tm_k μ x = 8) (hx : tfr x) : tC mX8_init d 0 0 [(2, x), (2, a), (2, b)] μ (q_m (tm_w (tm_w μ x 0 a) x 1 b)) := by
  refine tC_of rfl (Nat.le_of_ble_eq_true rfl) (rX8_init_0 hs ⟨h1, ⟨h1, hk⟩, ?_⟩)
  rintro μ3 rfl
  refine ⟨tS_w hs hx _ _, ⟨h1, hk⟩, ?_⟩
  rintro μ5 rfl
  exact ⟨tS_w (tS_w hs hx _ _) hx _ _, by decide, rfl, rfl⟩
/-- a new place at x -/
def mkP (μ : tm_M) (x v n : Int) : tm_M := tm_w (tm_w (tm_w (tm_a (tm_w (tm_w μ x 3 1) x 4 1) 27 4) x 6 (tm_z μ)) x 0 v) x 1 n
theorem pX7_init (hs : tS μ) (h1 : 1 ≤ x) (hz : x < tm_z μ) (hk : tm_k μ x = 7) (hx : tfr x) : tC mX7_init d 1 4 [(2, x), (1, v), (0, n)] μ (q_m (mkP μ x v n)) := by
  refine tC_of rfl (Nat.le_of_ble_eq_true rfl) (rX7_init_0 hs ⟨h1, ⟨h1, hk⟩, ?_⟩)
  rintro μ3 rfl
  have s3 : tS (tm_w μ x 3 1) := tS_w hs hx _ _
  refine ⟨s3, ⟨h1, hk⟩, ?_⟩
  rintro μ5 rfl
  have s5 : tS (tm_w (tm_w μ x 3 1) x 4 1) := tS_w s3 hx _ _
  refine ⟨s5, by decide, ?_⟩
  rintro μ7 rfl
  have s7 : tS (tm_a (tm_w (tm_w μ x 3 1) x 4 1) 27 4) := tS_a s5 _ _
  have k7 : tm_k (tm_a (tm_w (tm_w μ x 3 1) x 4 1) 27 4) x = 7 := by
    rw [tm_ka, if_neg (by show x ≠ tm_z μ; omega)]; exact hk
  refine ⟨s7, ⟨h1, k7⟩, ?_⟩
  rintro μ9 rfl
  have s9 := tS_w s7 hx 6 (tm_z (tm_w (tm_w μ x 3 1) x 4 1))
  refine ⟨s9, ⟨h1, k7⟩, ?_⟩
  rintro μ11 rfl
  have s11 := tS_w s9 hx 0 v
  refine ⟨s11, ⟨h1, k7⟩, ?_⟩
  rintro μ13 rfl
  exact ⟨tS_w s11 hx 1 n, by decide, rfl, rfl⟩
theorem pX7_add (hs : tS μ) (h1 : 1 ≤ x) (hk : tm_k μ x = 7) (hx : tfr x) (ha : 1 ≤ tm_v μ x 6 ∧ tm_k μ (tm_v μ x 6) = 27) (hxa : tfr (tm_v μ x 6)) (hne : tm_v μ x 6 ≠ x) (hn : tm_n μ (tm_v μ x 6) = 4) (h5 : 0 ≤ tm_v μ x 5 ∧ tm_v μ x 5 < 4) (hl : 1 ≤ l ∧ tm_k μ l = 8) :
    tC mX7_add d 0 0 [(2, x), (2, l)] μ (q_m (tm_w (tm_w μ (tm_v μ x 6) (tm_v μ x 5) l) x 5 (tm_v μ x 5 + 1))) := by
  refine tC_of rfl (Nat.le_of_ble_eq_true rfl) (rX7_add_0 hs ⟨⟨h1, hk⟩, ha, by rw [hn]; exact h5, hl, ?_⟩)
  rintro μ5 rfl
  have s5 := tS_w hs hxa (tm_v μ x 5) l
  refine ⟨s5, ⟨h1, hk⟩, ?_⟩
  have e5 : tm_v (tm_w μ (tm_v μ x 6) (tm_v μ x 5) l) x 5 = tm_v μ x 5 := by rw [tm_vw, if_neg (fun q => hne q.1.symm)]
  rw [e5, w32_id (x := tm_v μ x 5 + 1) (by omega) (by omega)]
  rintro μ7 rfl
  exact ⟨tS_w s5 hx _ _, by decide, rfl, rfl⟩
/-- a new town at x -/
def mkT (μ : tm_M) (x : Int) : tm_M := tm_w (tm_a (tm_w (tm_w (tm_a (tm_w (tm_a μ 26 8) x 0 (tm_z μ)) 27 12) x 1 (tm_z μ + 1)) x 4 1) 20 8) x 7 (tm_z μ + 1 + 1)
theorem pX4_init (hs : tS μ) (h1 : 1 ≤ x) (hz : x < tm_z μ) (hk : tm_k μ x = 4) (hx : tfr x) : tC mX4_init d 3 28 [(2, x)] μ (q_m (mkT μ x)) := by
  refine tC_of rfl (Nat.le_of_ble_eq_true rfl) (rX4_init_0 hs ⟨h1, by decide, ?_⟩)
  rintro μ3 rfl
  have s3 : tS (tm_a μ 26 8) := tS_a hs _ _
  have k3 : tm_k (tm_a μ 26 8) x = 4 := by rw [tm_ka, if_neg (by omega)]; exact hk
  refine ⟨s3, ⟨h1, k3⟩, ?_⟩
  rintro μ5 rfl
  have s5 := tS_w s3 hx 0 (tm_z μ)
  refine ⟨s5, by decide, ?_⟩
  rintro μ7 rfl
  have s7 := tS_a s5 27 12
  have k7 : tm_k (tm_a (tm_w (tm_a μ 26 8) x 0 (tm_z μ)) 27 12) x = 4 := by
    rw [tm_ka, if_neg (by show x ≠ tm_z μ + 1; omega)]; exact k3
  refine ⟨s7, ⟨h1, k7⟩, ?_⟩
  rintro μ9 rfl
  have s9 := tS_w s7 hx 1 (tm_z (tm_w (tm_a μ 26 8) x 0 (tm_z μ)))
  refine ⟨s9, ⟨h1, k7⟩, ?_⟩
  rintro μ11 rfl
  have s11 := tS_w s9 hx 4 1
  refine ⟨s11, by decide, ?_⟩
  rintro μ13 rfl
  have s13 := tS_a s11 20 8
  have k13 : tm_k (tm_a (tm_w (tm_w (tm_a (tm_w (tm_a μ 26 8) x 0 (tm_z μ)) 27 12) x 1 (tm_z (tm_w (tm_a μ 26 8) x 0 (tm_z μ)))) x 4 1) 20 8) x = 4 := by
    rw [tm_ka, if_neg (by show x ≠ tm_z μ + 1 + 1; omega)]; exact k7
  refine ⟨s13, ⟨h1, k13⟩, ?_⟩
  rintro μ15 rfl
  exact ⟨tS_w s13 hx _ _, by decide, rfl, rfl⟩
/-- the place that has a name, or none -/
def q_named (μ : tm_M) (x v : Int) : tQ := fun o μ1 => μ1 = μ ∧ ((fdn (fun k => tm_v μ (tm_v μ (tm_v μ x 0) k) 0 = v) (-1) (tm_v μ x 2).toNat 0 = -1 ∧ o = .inl (some (2, 0))) ∨
  (0 ≤ fdn (fun k => tm_v μ (tm_v μ (tm_v μ x 0) k) 0 = v) (-1) (tm_v μ x 2).toNat 0 ∧ o = .inl (some (2, tm_v μ (tm_v μ x 0) (fdn (fun k => tm_v μ (tm_v μ (tm_v μ x 0) k) 0 = v) (-1) (tm_v μ x 2).toNat 0)))))
theorem pX4_named (hs : tS μ) (hx : 1 ≤ x ∧ tm_k μ x = 4) (ha : 1 ≤ tm_v μ x 0 ∧ tm_k μ (tm_v μ x 0) = 26) (hn : tm_n μ (tm_v μ x 0) = 8) (h8 : 0 ≤ tm_v μ x 2 ∧ tm_v μ x 2 ≤ 8) (hp : ∀ k, 0 ≤ k → k < tm_v μ x 2 → 1 ≤ tm_v μ (tm_v μ x 0) k ∧ tm_k μ (tm_v μ (tm_v μ x 0) k) = 7) : tC mX4_named d 0 0 [(2, x), (1, v)] μ (q_named μ x v) := by
  have loop : ∀ (f : Nat) (i : Int), (f : Int) = tm_v μ x 2 - i → 0 ≤ i → fdn (fun k => tm_v μ (tm_v μ (tm_v μ x 0) k) 0 = v) (-1) f i = fdn (fun k => tm_v μ (tm_v μ (tm_v μ x 0) k) 0 = v) (-1) (tm_v μ x 2).toNat 0 → tH mX4_named d 0 0 (tq (q_named μ x v) 0 0) 2 [(0, 2, x), (1, 1, v), (3, 0, i)] [] μ 0 0 := by
    intro f
    induction f with
    | zero =>
      intro i hf hi he
      rw [fdn] at he
      exact rX4_named_2 hs ⟨hx, fun _ => ⟨by decide, rfl, Or.inl ⟨he.symm, rfl⟩⟩, fun c => by omega⟩
    | succ f ih =>
      intro i hf hi he
      rw [fdn] at he
      refine rX4_named_2 hs ⟨hx, fun c => by omega, fun c => ⟨ha, by rw [hn]; omega, hp i hi c, fun c1 => ?_, fun c1 => ⟨by rw [hn]; omega, by decide, rfl, Or.inr ?_⟩⟩⟩
      · rw [w32_id (x := i + 1) (by omega) (by omega)]
        rw [if_neg c1] at he
        exact ih (i + 1) (by omega) (by omega) he
      · rw [if_pos c1] at he
        rw [← he]
        exact ⟨hi, rfl⟩
  exact tC_of rfl (Nat.le_of_ble_eq_true rfl) (rX4_named_0 hs (loop (tm_v μ x 2).toNat 0 (by omega) (Int.le_refl _) rfl))
end C0MK
