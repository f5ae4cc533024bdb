/-! the picture of the town that is being read, kept -/
section JRF
variable {z : Int} {tx : Int → Int} {m m' : tm_M} {s : TN} {W : Int → Int → Prop}
theorem nw_F {x : Int} {k : Nat} (hs : tFr W m m') (h : nw z m x k) : nw z m' x k := ⟨⟨h.1.1, by rw [hs.z]; exact h.1.2⟩, by rw [hs.k]; exact h.2⟩
/-- W leaves all that was made, and what the reader knows of the town -/
def y_RC (W : Int → Int → Prop) : Prop := (∀ a j, 104 ≤ a → ¬ W a j) ∧ ¬ W 4 7 ∧ ¬ W 4 8
theorem wRx_RC : y_RC wRx := by
  refine ⟨fun a j ha hw => ?_, tWs_noF rfl, tWs_noF rfl⟩
  rcases hw with q | q
  · cases q
  · simp only [List.mem_cons, Prod.mk.injEq, List.not_mem_nil, or_false] at q
    omega
theorem wRd_RC : y_RC wRd := by
  refine ⟨fun a j ha hw => ?_, tWs_noF rfl, tWs_noF rfl⟩
  rcases hw with q | q
  · cases q
  · simp only [List.mem_cons, Prod.mk.injEq, List.not_mem_nil, or_false] at q
    omega
theorem JR_F (hz : 104 ≤ z) (hJ : JR z tx m s) (hs : tFr W m m') (hW : y_RC W) : JR z tx m' s := by
  have V : ∀ {x : Int} {k : Nat}, nw z m x k → ∀ j, tm_v m' x j = tm_v m x j := fun h j => hs.v (hW.1 _ j (by have := h.1.1; omega))
  obtain ⟨⟨a1, a2, a3, a4⟩, b, c, e, f, g, i⟩ := hJ
  have eT : rT m' = rT m := hs.v hW.2.2
  have ePA : rPA m' = rPA m := by unfold rPA; rw [eT, V a1]
  have eLA : rLA m' = rLA m := by unfold rLA; rw [eT, V a1]
  have eFA : rFA m' = rFA m := by unfold rFA; rw [eT, V a1]
  have eP : ∀ k, rP m' k = rP m k := fun k => by unfold rP; rw [ePA, V a2.1]
  have eL : ∀ l, rL m' l = rL m l := fun l => by unfold rL; rw [eLA, V a3.1]
  have eA : ∀ k, 0 ≤ k → k < n_p s → rA m' k = rA m k := fun k k0 k1 => by unfold rA; rw [eP, V (e k k0 k1).1]
  refine ⟨⟨?_, ?_, ?_, ?_⟩, ?_, ?_, fun k k0 k1 => ?_, fun l l0 l1 => ?_, fun k k' k0 k1 h0 h1 q => ?_, fun l l' l0 l1 h0 h1 q => ?_⟩
  · rw [eT]; exact nw_F hs a1
  · rw [ePA, hs.n]; exact ⟨nw_F hs a2.1, a2.2⟩
  · rw [eLA, hs.n]; exact ⟨nw_F hs a3.1, a3.2⟩
  · rw [eFA, hs.n]; exact ⟨nw_F hs a4.1, a4.2⟩
  · rw [eT, V a1, V a1, V a1, V a1, V a1]; exact b
  · rw [hs.v hW.2.1]; exact c
  · obtain ⟨p1, p2, p3, p4, p5, p6⟩ := e k k0 k1
    rw [eA k k0 k1, eP, V p1, V p1, V p1, V p1, V p1, V p1, hs.n, eLA]
    exact ⟨nw_F hs p1, p2, p3, p4, ⟨nw_F hs p5.1, p5.2⟩, fun i i0 i1 => by rw [V p5.1, eL]; exact p6 i i0 i1⟩
  · obtain ⟨p1, p2, p3, p4⟩ := f l l0 l1
    rw [eL, V p1, V p1, V p1, eP, eP]
    exact ⟨nw_F hs p1, p2, p3, p4⟩
  · rw [eA k k0 k1, eA k' h0 h1] at q
    exact g k k' k0 k1 h0 h1 q
  · rw [eL, eL] at q
    exact i l l' l0 l1 h0 h1 q
/-- p_ln1, p_ln3 by p_free -/
theorem ln1_free {n : Int} {t : TK} : p_ln1 tx n s t = match p_free s t (-1) with
    | .error e => .error e
    | .ok p => p_ln2 tx n s p (tok tx n (ken t)) := by
  unfold p_ln1 p_free
  by_cases c1 : ¬ nmT t
  · rw [if_pos c1, if_pos c1]
  · rw [if_neg c1, if_neg c1]
    by_cases c2 : p_nm s (kva t) < 0
    · rw [if_pos c2, if_pos c2]
    · have c4 : ¬ (-1 : Int) = p_nm s (kva t) := by omega
      rw [if_neg c2, if_neg c2, if_neg c4]
      by_cases c3 : n_d s (p_nm s (kva t)) = 4
      · rw [if_pos c3, if_pos c3]
      · rw [if_neg c3, if_neg c3, if_neg (fun q => absurd q.1 (by decide))]
theorem ln3_free {n a : Int} {t : TK} (ha : 0 ≤ a) : p_ln3 tx n s a t = match p_free s t a with
    | .error e => .error e
    | .ok p => p_end tx n (n_lay s a p) (tok tx n (ken t)) := by
  unfold p_ln3 p_free
  by_cases c1 : ¬ nmT t
  · rw [if_pos c1, if_pos c1]
  · rw [if_neg c1, if_neg c1]
    by_cases c2 : p_nm s (kva t) < 0
    · rw [if_pos c2, if_pos c2]
    · rw [if_neg c2, if_neg c2]
      by_cases c4 : a = p_nm s (kva t)
      · rw [if_pos c4, if_pos c4]
      · rw [if_neg c4, if_neg c4]
        by_cases c3 : n_d s (p_nm s (kva t)) = 4
        · rw [if_pos c3, if_pos c3]
        · rw [if_neg c3, if_neg c3]
          by_cases c5 : dup s a (p_nm s (kva t))
          · rw [if_pos c5, if_pos ⟨ha, c5⟩]
          · rw [if_neg c5, if_neg (fun q => c5 q.2)]
end JRF
