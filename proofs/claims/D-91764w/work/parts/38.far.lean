/-! HOW FAR: reached by so many steps -/
section FAR
variable {g : Int → Int → Int} {a : Int}
/-- q is reached from a by at most so many steps -/
def rc (g : Int → Int → Int) (a : Int) : Nat → Int → Prop
  | 0, q => q = a
  | k + 1, q => rc g a k q ∨ ∃ p s, 1 ≤ s ∧ s ≤ 4 ∧ rc g a k p ∧ g p s = q
theorem rc_up {k : Nat} {q : Int} (h : rc g a k q) : rc g a (k + 1) q := Or.inl h
theorem rc_le {k j : Nat} {q : Int} (h : rc g a k q) (hj : k ≤ j) : rc g a j q := by
  induction j with
  | zero => rw [show k = 0 by omega] at h; exact h
  | succ j ih =>
    by_cases e : k = j + 1
    · rw [← e]; exact h
    · exact rc_up (ih (by omega))
theorem rc_place {n : Int} (hg : ∀ p s, 0 ≤ p → p < n → 0 ≤ g p s ∧ g p s < n) (ha : 0 ≤ a ∧ a < n) {k : Nat} {q : Int} (h : rc g a k q) : 0 ≤ q ∧ q < n := by
  induction k generalizing q with
  | zero => rw [show q = a from h]; exact ha
  | succ k ih =>
    rcases h with h | ⟨p, s, _, _, h, e⟩
    · exact ih h
    · rw [← e]; exact hg p s (ih h).1 (ih h).2
noncomputable def rcn (g : Int → Int → Int) (a : Int) (k n : Nat) : Int := sm (fun q => @ite Int (rc g a k q) (Classical.propDecidable _) 1 0) n
theorem rcn_bd {k n : Nat} : 0 ≤ rcn g a k n ∧ rcn g a k n ≤ n := by
  have := sm_bd (f := fun q => @ite Int (rc g a k q) (Classical.propDecidable _) 1 0) (n := n) (c := 1) (fun i _ => by split <;> omega)
  unfold rcn
  omega
theorem rcn_mono {k n : Nat} : rcn g a k n ≤ rcn g a (k + 1) n := by
  induction n with
  | zero => exact Int.le_refl _
  | succ n ih =>
    unfold rcn at *
    rw [sm, sm]
    by_cases h : rc g a k n
    · rw [if_pos h, if_pos (rc_up h)]; omega
    · rw [if_neg h]; split <;> omega
theorem rcn_lt {k n : Nat} {q : Nat} (hq : q < n) (h1 : rc g a (k + 1) q) (h0 : ¬ rc g a k q) : rcn g a k n + 1 ≤ rcn g a (k + 1) n := by
  induction n with
  | zero => omega
  | succ n ih =>
    by_cases e : q = n
    · have := @rcn_mono g a k n
      unfold rcn at *
      rw [sm, sm, ← e, if_pos h1, if_neg h0]
      rw [← e] at this
      omega
    · have h := ih (by omega)
      unfold rcn at *
      rw [sm, sm]
      by_cases h2 : rc g a k n
      · rw [if_pos h2, if_pos (rc_up h2)]; omega
      · rw [if_neg h2]; split <;> omega
/-- nothing new at k: nothing new at all -/
theorem rc_sat {k : Nat} (h : ∀ q, rc g a (k + 1) q → rc g a k q) {j : Nat} {q : Int} (hq : rc g a j q) : rc g a k q := by
  induction j generalizing q with
  | zero => exact rc_le hq (by omega)
  | succ j ih =>
    rcases hq with hq | ⟨p, s, h1, h2, h3, e⟩
    · exact ih hq
    · exact h q (Or.inr ⟨p, s, h1, h2, ih h3, e⟩)
/-- as many steps as there are places, less one, do -/
theorem rc_all {n : Nat} (hg : ∀ p s, 0 ≤ p → p < (n : Int) → 0 ≤ g p s ∧ g p s < n) (ha : 0 ≤ a ∧ a < (n : Int)) {j : Nat} {q : Int} (hq : rc g a j q) : rc g a (n - 1) q := by
  have key : ∀ k : Nat, (∃ i, i < k ∧ ∀ q, rc g a (i + 1) q → rc g a i q) ∨ (k : Int) + 1 ≤ rcn g a k n := by
    intro k
    induction k with
    | zero =>
      right
      have : ∀ m : Nat, a < (m : Int) → 1 ≤ rcn g a 0 m := by
        intro m
        induction m with
        | zero => intro h; omega
        | succ m ih =>
          intro h
          have hb := (@rcn_bd g a 0 m).1
          by_cases e : a = m
          · unfold rcn at *
            rw [sm, if_pos (show rc g a 0 (m : Int) from e.symm)]; omega
          · have h2 := ih (by omega)
            unfold rcn at *
            rw [sm]; split <;> omega
      have := this n ha.2
      simpa using this
    | succ k ih =>
      rcases ih with ⟨i, hi, h⟩ | h
      · exact Or.inl ⟨i, by omega, h⟩
      · by_cases hs : ∀ q, rc g a (k + 1) q → rc g a k q
        · exact Or.inl ⟨k, by omega, hs⟩
        · right
          have : ∃ q, rc g a (k + 1) q ∧ ¬ rc g a k q := Classical.byContradiction fun hn => hs fun q h1 => Classical.byContradiction fun h2 => hn ⟨q, h1, h2⟩
          obtain ⟨q, h1, h0⟩ := this
          have hp := rc_place hg ha h1
          have e : ((q.toNat : Nat) : Int) = q := Int.toNat_of_nonneg hp.1
          have := rcn_lt (g := g) (a := a) (k := k) (n := n) (q := q.toNat) (by omega) (by rw [e]; exact h1) (by rw [e]; exact h0)
          omega
  rcases key n with ⟨i, hi, h⟩ | h
  · exact rc_le (rc_sat h hq) (by omega)
  · have := (@rcn_bd g a n n).2
    omega
theorem fdn_spec {c : Int → Prop} [∀ k, Decidable (c k)] {e : Int} (n : Nat) (k : Int) : (fdn c e n k = e ∧ ∀ j, k ≤ j → j < k + n → ¬ c j) ∨ (k ≤ fdn c e n k ∧ fdn c e n k < k + n ∧ c (fdn c e n k) ∧ ∀ j, k ≤ j → j < fdn c e n k → ¬ c j) := by
  induction n generalizing k with
  | zero => left; exact ⟨rfl, fun j h1 h2 => by omega⟩
  | succ n ih =>
    rw [fdn]
    by_cases h : c k
    · rw [if_pos h]; right; exact ⟨by omega, by omega, h, fun j h1 h2 => by omega⟩
    · rw [if_neg h]
      rcases ih (k + 1) with ⟨h1, h2⟩ | ⟨h1, h2, h3, h4⟩
      · left
        refine ⟨h1, fun j q1 q2 => ?_⟩
        by_cases e : j = k
        · rw [e]; exact h
        · exact h2 j (by omega) (by omega)
      · right
        refine ⟨by omega, by omega, h3, fun j q1 q2 => ?_⟩
        by_cases e : j = k
        · rw [e]; exact h
        · exact h4 j (by omega) q2
/-- how far; 100 if never -/
noncomputable def y_far (g : Int → Int → Int) (a q : Int) : Int := @fdn (fun k => rc g a k.toNat q) (fun _ => Classical.propDecidable _) 100 9 0
theorem y_far_in (q : Int) : y_far g a q = 100 ∨ (0 ≤ y_far g a q ∧ y_far g a q ≤ 8) := by
  rcases @fdn_spec (fun k => rc g a k.toNat q) (fun k => Classical.propDecidable _) 100 9 0 with h | h
  · exact Or.inl h.1
  · right
    unfold y_far
    omega
/-- what is 100 where nothing leads, and else the least number of steps, is how far -/
theorem y_far_eq {n : Nat} (hn : n ≤ 8) (hg : ∀ p s, 0 ≤ p → p < (n : Int) → 0 ≤ g p s ∧ g p s < n) (ha : 0 ≤ a ∧ a < (n : Int)) {q x : Int} (h1 : x = 100 ∨ (0 ≤ x ∧ rc g a x.toNat q)) (h2 : ∀ k : Nat, k ≤ n → rc g a k q → x ≤ k) : x = y_far g a q := by
  rcases @fdn_spec (fun k => rc g a k.toNat q) (fun k => Classical.propDecidable _) 100 9 0 with ⟨h3, h4⟩ | ⟨h3, h4, h5, h6⟩
  · rcases h1 with h1 | h1
    · rw [h1]; exact h3.symm
    · exfalso
      have h7 := rc_all hg ha h1.2
      have := h4 ((n - 1 : Nat) : Int) (by omega) (by omega)
      exact this (by simpa using h7)
  · have e : @fdn (fun k => rc g a k.toNat q) (fun _ => Classical.propDecidable _) 100 9 0 = y_far g a q := rfl
    rw [e] at h3 h4 h5 h6
    have h7 := rc_all hg ha h5
    have h8 : y_far g a q ≤ ((n - 1 : Nat) : Int) := by
      apply Classical.byContradiction
      intro h
      exact h6 ((n - 1 : Nat) : Int) (by omega) (by omega) (by simpa using h7)
    have h9 := h2 (y_far g a q).toNat (by omega) h5
    rcases h1 with h1 | h1
    · omega
    · apply Classical.byContradiction
      intro h
      exact h6 x h1.1 (by omega) h1.2
end FAR
