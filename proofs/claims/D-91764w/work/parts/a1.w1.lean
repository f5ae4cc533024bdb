/-! one who walks: its cell alone is written -/
theorem tW1_ob {w x j : Int} {k : Nat} {μ : tm_M} (hw : 7 ≤ w ∧ w ≤ 9) (c : ob μ x k) : ¬ tWs [w] [] x j := by
  have := c.2
  unfold dyA at this
  rintro (q | q)
  · have := List.mem_singleton.mp q; omega
  · cases q
theorem tW1_no {w x j : Int} (h : x ≠ w) : ¬ tWs [w] [] x j := by
  rintro (q | q)
  · exact h (List.mem_singleton.mp q)
  · cases q
theorem tW1_fr {w : Int} (hw : 7 ≤ w ∧ w ≤ 9) : tfr w := by unfold tfr; omega
theorem tW1_TC {w f : Int} (hw : 7 ≤ w ∧ w ≤ 9) : y_TC f (tWs [w] []) := by
  have no : ∀ a j, a ≠ w → ¬ tWs [w] [] a j := fun a j h => tW1_no h
  refine ⟨⟨fun j => ⟨no _ _ (by omega), no _ _ (by omega), no _ _ (by omega), no _ _ (by omega), no _ _ (by omega), no _ _ (by omega), no _ _ (by omega), no _ _ (by omega), no _ _ (by omega)⟩, no _ _ (by omega), no _ _ (by omega), no _ _ (by omega), no _ _ (by omega), no _ _ (by omega), no _ _ (by omega), no _ _ (by omega)⟩, no _ _ (by omega), fun a j ha _ => no _ _ (by unfold dyA at ha; omega)⟩
