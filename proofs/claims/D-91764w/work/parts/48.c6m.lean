/-! CONTRACTS of the model: rows -/
section C6M
variable {d : Nat} {μ μ0 : tm_M} {W : Int → Int → Prop}
/-- when two meet by rows -/
noncomputable def y_br (μ : tm_M) (f g : Int → Int) : Nat → Int → Int → Int → Int
  | 0, _, _, _ => -1
  | k + 1, t, p, q => @ite Int (y_met μ (y_go μ p (f t)) (if t % tm_v μ 65 24 = 0 then y_go μ q (g t) else q) p q) (Classical.propDecidable _) (t + 1) (y_br μ f g k (t + 1) (y_go μ p (f t)) (if t % tm_v μ 65 24 = 0 then y_go μ q (g t) else q))
noncomputable def y_rows (μ : tm_M) (f g : Int → Int) (n a b : Int) : Int := if a = b then 0 else y_br μ f g n.toNat 0 a b
def row1 (T : Int → Int) (o : Int) (t : Int) : Int := if o = 0 then T (2 * t) else T t
def row2 (T : Int → Int) (o : Int) (t : Int) : Int := if o = 0 then T (2 * t + 1) else T t
theorem y_br_in (f g : Int → Int) (k : Nat) : ∀ t p q, 0 ≤ t → -1 ≤ y_br μ f g k t p q ∧ y_br μ f g k t p q ≤ t + k := by
  induction k with
  | zero => intro t p q h; rw [y_br]; omega
  | succ k ih =>
    intro t p q h
    rw [y_br]
    generalize (if t % tm_v μ 65 24 = 0 then y_go μ q (g t) else q) = q'
    have := ih (t + 1) (y_go μ p (f t)) q' (by omega)
    split <;> omega
theorem y_rows_in (f g : Int → Int) {n : Int} (a b : Int) (hn : 0 ≤ n) : -1 ≤ y_rows μ f g n a b ∧ y_rows μ f g n a b ≤ n := by
  unfold y_rows
  have := y_br_in (μ := μ) f g n.toNat 0 a b (by omega)
  split <;> omega
theorem pX6_byRowsF {a b n o : Int} (hd : 3 ≤ d) (hs : tFr W μ0 μ) (hT : y_T W) (ha : y_p μ0 a) (hb : y_p μ0 b) (hn : 0 ≤ n ∧ (o = 0 → n ≤ 3) ∧ n ≤ 5) (ht : ∀ k, 0 ≤ k → k < (if o = 0 then 2 * n else n) → 0 ≤ tm_v μ 92 k ∧ tm_v μ 92 k ≤ 4) :
    cI wX6_byRows mX6_byRows d [(2, 65), (0, a), (0, b), (0, n), (0, o)] μ (fun r _ => r = y_rows μ0 (row1 (tm_v μ 92) o) (row2 (tm_v μ 92) o) n a b) := by
  have hW := ha.1
  have hsl := hW.2.2.2.2.1
  have e24 : tm_v μ 65 24 = tm_v μ0 65 24 := y_f24 hs hT
  have e28 : tm_v μ 65 28 = tm_v μ0 65 28 := y_f28 hs hT
  have eg : y_go μ = y_go μ0 := y_goF hs hT
  have loop : ∀ (k : Nat) (t p q : Int), 0 ≤ t → t + k = n → y_p μ0 p → y_p μ0 q → hI wX6_byRows μ mX6_byRows d (fun r _ => r = y_br μ0 (row1 (tm_v μ 92) o) (row2 (tm_v μ 92) o) k t p q) 18 [(0, 2, 65), (3, 0, n), (4, 0, o), (5, 0, p), (6, 0, q), (7, 0, t)] [] μ := by
    intro k
    induction k with
    | zero =>
      intro t p q t0 tn hp hq
      exact uX6_byRows_18 hd (tFr.rf hs.S) ⟨fun c => rfl, fun c => by omega⟩
    | succ k ih =>
      intro t p q t0 tn hp hq
      have e1 : w32 (t + 1) = t + 1 := w32_id (by omega) (by omega)
      have e2 : w32 (2 * t) = 2 * t := w32_id (by omega) (by omega)
      have e3 : w32 (2 * t + 1) = 2 * t + 1 := w32_id (by omega) (by omega)
      have em : t.tmod (tm_v μ 65 24) = t % tm_v μ0 65 24 := by rw [e24]; exact Int.tmod_eq_emod_of_nonneg t0
      have hpm : y_p μ p := (y_p_F hs hT p).mpr hp
      have hqm : y_p μ q := (y_p_F hs hT q).mpr hq
      -- one tick's end
      have fin : ∀ x y, x = y_go μ0 p (row1 (tm_v μ 92) o t) → y = (if t % tm_v μ0 65 24 = 0 then y_go μ0 q (row2 (tm_v μ 92) o t) else q) →
          (¬ (x = y ∨ (tm_v μ 65 28 ≠ 0 ∧ x = q ∧ y = p)) → hI wX6_byRows μ mX6_byRows d (fun r _ => r = y_br μ0 (row1 (tm_v μ 92) o) (row2 (tm_v μ 92) o) (k + 1) t p q) 18 [(0, 2, 65), (3, 0, n), (4, 0, o), (5, 0, x), (6, 0, y), (7, 0, t + 1)] [] μ) ∧ ((x = y ∨ (tm_v μ 65 28 ≠ 0 ∧ x = q ∧ y = p)) → t + 1 = y_br μ0 (row1 (tm_v μ 92) o) (row2 (tm_v μ 92) o) (k + 1) t p q) := by
        intro x y hx hy
        rw [e28]
        refine ⟨fun c => ?_, fun c => ?_⟩
        · rw [y_br, ← hx, ← hy, if_neg (show ¬ y_met μ0 x y p q from c)]
          refine ih (t + 1) x y (by omega) (by omega) (by rw [hx]; exact y_go_p hp) ?_
          rw [hy]
          split
          · exact y_go_p hq
          · exact hq
        · rw [y_br, ← hx, ← hy, if_pos (show y_met μ0 x y p q from c)]
      refine uX6_byRows_18 hd (tFr.rf hs.S) ?_
      rw [e1, e2, e3, em, eg]
      refine ⟨fun c => by omega, fun c => ⟨fun co => ?_, fun co => ?_⟩⟩
      · have r1 : row1 (tm_v μ 92) o t = tm_v μ 92 (2 * t) := by unfold row1; rw [if_pos co]
        have r2 : row2 (tm_v μ 92) o t = tm_v μ 92 (2 * t + 1) := by unfold row2; rw [if_pos co]
        refine ⟨by omega, ⟨hpm, ht _ (by omega) (by rw [if_pos co]; omega)⟩, ?_⟩
        rintro x rfl
        refine ⟨by omega, fun c2 => ?_, fun c2 => ⟨fun _ => ⟨by omega, ⟨hqm, ht _ (by omega) (by rw [if_pos co]; omega)⟩, ?_⟩, fun c3 => absurd co c3⟩⟩
        · exact fin _ _ (by rw [r1]) (by rw [if_neg c2])
        · rintro y rfl
          exact fin _ _ (by rw [r1]) (by rw [if_pos c2, r2])
      · have r1 : row1 (tm_v μ 92) o t = tm_v μ 92 t := by unfold row1; rw [if_neg co]
        have r2 : row2 (tm_v μ 92) o t = tm_v μ 92 t := by unfold row2; rw [if_neg co]
        refine ⟨by omega, ⟨hpm, ht _ (by omega) (by rw [if_neg co]; omega)⟩, ?_⟩
        rintro x rfl
        refine ⟨by omega, fun c2 => ?_, fun c2 => ⟨fun c3 => absurd c3 co, fun _ => ⟨⟨hqm, ht _ (by omega) (by rw [if_neg co]; omega)⟩, ?_⟩⟩⟩
        · exact fin _ _ (by rw [r1]) (by rw [if_neg c2])
        · rintro y rfl
          exact fin _ _ (by rw [r1]) (by rw [if_pos c2, r2])
  refine t_of (uX6_byRows_0 (tFr.rf hs.S) ⟨fun c => ?_, fun c => by unfold y_rows; rw [if_pos c]⟩)
  unfold y_rows
  rw [if_neg c]
  exact loop n.toNat 0 a b (by omega) (by omega) ha hb
/-- digits of a row's number -/
def dg (m v k : Int) : Int := v / 5 ^ (m - 1 - k).toNat % 5
def d1 (m v o t : Int) : Int := row1 (dg m v) o t
/-- when a pair meets by the row of a number; 0 if it is not likely -/
noncomputable def rw_t (μ : tm_M) (n m o v i : Int) : Int := if y_likely μ (i / tm_v μ 65 20) (i % tm_v μ 65 20) = 0 then 0 else y_rows μ (row1 (dg m v) o) (row2 (dg m v) o) n (i / tm_v μ 65 20) (i % tm_v μ 65 20)
noncomputable def rw_mi (μ : tm_M) (n m o v i : Int) : Int := if rw_t μ n m o v i < 0 then y_likely μ (i / tm_v μ 65 20) (i % tm_v μ 65 20) else 0
noncomputable def rw_li (μ : tm_M) (n m o v i : Int) : Int := y_likely μ (i / tm_v μ 65 20) (i % tm_v μ 65 20) * (if rw_t μ n m o v i < 0 then n + 1 else rw_t μ n m o v i)
noncomputable def rw_m (μ : tm_M) (n m o v : Int) : Int := sm (rw_mi μ n m o v) (tm_v μ 65 20 * tm_v μ 65 20).toNat
noncomputable def rw_l (μ : tm_M) (n m o v : Int) : Int := sm (rw_li μ n m o v) (tm_v μ 65 20 * tm_v μ 65 20).toNat
/-- the best one so far: missed, late, its number -/
noncomputable def rw_s (μ : tm_M) (n m o v : Int) (s : Int × Int × Int) : Int × Int × Int := if 0 ≤ s.1 ∧ (s.1 < rw_m μ n m o v ∨ (rw_m μ n m o v = s.1 ∧ s.2.1 ≤ rw_l μ n m o v)) then s else (rw_m μ n m o v, rw_l μ n m o v, v)
noncomputable def rw_f (μ : tm_M) (n m o : Int) : Nat → Int → Int × Int × Int → Int × Int × Int
  | 0, _, s => s
  | k + 1, v, s => rw_f μ n m o k (v + 1) (rw_s μ n m o v s)
noncomputable def rw_best (μ : tm_M) (n m o : Int) : Int × Int × Int := rw_f μ n m o (5 ^ m.toNat) 0 (-1, 0, 0)
end C6M
