/-! the picture of the town that is being read: a place more, its features, the town's own fields -/
section JRN
variable {z : Int} {tx : Int → Int} {m m' : tm_M} {s : TN} {v w : Int}
/-- a place more -/
def n_new (s : TN) (w : Int) : TN := (n_p s + 1, fup (n_m s) (n_p s) w, fup (fup (fup (n_f s) (3 * n_p s) 0) (3 * n_p s + 1) 1) (3 * n_p s + 2) 1, fup (n_d s) (n_p s) 0, n_a s, n_l s, n_1 s, n_2 s, n_s s, n_h s, n_c s, n_t s, n_u s)
def n_ft (s : TN) (f : Int → Int) : TN := (n_p s, n_m s, f, n_d s, n_a s, n_l s, n_1 s, n_2 s, n_s s, n_h s, n_c s, n_t s, n_u s)
def plc (m : tm_M) (s : TN) (v : Int) : tm_M := tm_w (tm_w (mkP (tm_a m 7 7) (tm_z m) v (n_p s)) (rPA m) (n_p s) (tm_z m)) (rT m) 2 (n_p s + 1)
theorem plc_v (x j : Int) (hx : x < tm_z m) : tm_v (plc m s v) x j = if x = rT m ∧ j = 2 then n_p s + 1 else if x = rPA m ∧ j = n_p s then tm_z m else tm_v m x j := by
  have n0 : ¬ x = tm_z m := by omega
  have n1 : ¬ x = tm_z m + 1 := by omega
  have N : ∀ i : Int, ¬ (x = tm_z m ∧ j = i) := fun i q => n0 q.1
  unfold plc mkP
  rw [tm_vw, tm_vw, tm_vw, if_neg (N 1), tm_vw, if_neg (N 0), tm_vw, if_neg (N 6), tm_va]
  have e : tm_z (tm_w (tm_w (tm_a m 7 7) (tm_z m) 3 1) (tm_z m) 4 1) = tm_z m + 1 := rfl
  rw [e, if_neg n1, tm_vw, if_neg (N 4), tm_vw, if_neg (N 3), tm_va, if_neg n0]
theorem plc_k (x : Int) (hx : x < tm_z m) : tm_k (plc m s v) x = tm_k m x := by
  show tm_k (tm_a (tm_w (tm_w (tm_a m 7 7) (tm_z m) 3 1) (tm_z m) 4 1) 27 4) x = _
  have e : tm_z (tm_w (tm_w (tm_a m 7 7) (tm_z m) 3 1) (tm_z m) 4 1) = tm_z m + 1 := rfl
  rw [tm_ka, e, if_neg (by omega)]
  show tm_k (tm_a m 7 7) x = _
  rw [tm_ka, if_neg (by omega)]
theorem plc_n (x : Int) (hx : x < tm_z m) : tm_n (plc m s v) x = tm_n m x := by
  show tm_n (tm_a (tm_w (tm_w (tm_a m 7 7) (tm_z m) 3 1) (tm_z m) 4 1) 27 4) x = _
  have e : tm_z (tm_w (tm_w (tm_a m 7 7) (tm_z m) 3 1) (tm_z m) 4 1) = tm_z m + 1 := rfl
  rw [tm_na, e, if_neg (by omega)]
  show tm_n (tm_a m 7 7) x = _
  rw [tm_na, if_neg (by omega)]
theorem plc_z : tm_z (plc m s v) = tm_z m + 1 + 1 := rfl
theorem plc_k0 : tm_k (plc m s v) (tm_z m) = 7 := by
  show tm_k (tm_a (tm_w (tm_w (tm_a m 7 7) (tm_z m) 3 1) (tm_z m) 4 1) 27 4) _ = _
  have e : tm_z (tm_w (tm_w (tm_a m 7 7) (tm_z m) 3 1) (tm_z m) 4 1) = tm_z m + 1 := rfl
  rw [tm_ka, e, if_neg (by omega)]
  show tm_k (tm_a m 7 7) _ = _
  rw [tm_ka, if_pos rfl]
theorem plc_k1 : tm_k (plc m s v) (tm_z m + 1) = 27 ∧ tm_n (plc m s v) (tm_z m + 1) = 4 := by
  have e : tm_z (tm_w (tm_w (tm_a m 7 7) (tm_z m) 3 1) (tm_z m) 4 1) = tm_z m + 1 := rfl
  constructor
  · show tm_k (tm_a (tm_w (tm_w (tm_a m 7 7) (tm_z m) 3 1) (tm_z m) 4 1) 27 4) _ = _
    rw [tm_ka, e, if_pos rfl]
  · show tm_n (tm_a (tm_w (tm_w (tm_a m 7 7) (tm_z m) 3 1) (tm_z m) 4 1) 27 4) _ = _
    rw [tm_na, e, if_pos rfl]
theorem plc_0 (h1 : rT m < tm_z m) (h2 : rPA m < tm_z m) (j : Int) : tm_v (plc m s v) (tm_z m) j = if j = 1 then n_p s else if j = 0 then v else if j = 6 then tm_z m + 1 else if j = 4 then 1 else if j = 3 then 1 else 0 := by
  have n0 : ¬ tm_z m = rT m := by omega
  have n1 : ¬ tm_z m = rPA m := by omega
  have n2 : ¬ tm_z m = tm_z m + 1 := by omega
  have e : tm_z (tm_w (tm_w (tm_a m 7 7) (tm_z m) 3 1) (tm_z m) 4 1) = tm_z m + 1 := rfl
  have e2 : tm_z (tm_a m 7 7) = tm_z m + 1 := rfl
  unfold plc mkP
  rw [tm_vw, if_neg (fun q => n0 q.1), tm_vw, if_neg (fun q => n1 q.1), tm_vw, tm_vw, tm_vw, tm_va, e, if_neg n2, tm_vw, tm_vw, tm_va, if_pos rfl, e2]
  simp only [true_and]
theorem JR_new (hz : 104 ≤ z) (hJ : JR z tx m s) (hw : wfT s) (hzm : z ≤ tm_z m) (h8 : n_p s ≠ 8) (hn : nmE tx v w) : JR z tx (plc m s v) (n_new s w) := by
  obtain ⟨⟨t1, t2, t3, t4⟩, u, k7, P, L, iA, iL⟩ := id hJ
  have hp8 := hw.1.1
  have Z : tm_z (plc m s v) = tm_z m + 1 + 1 := rfl
  have NW : ∀ {x : Int} {k : Nat}, nw z m x k → nw z (plc m s v) x k := fun h => ⟨⟨h.1.1, by rw [Z]; have := h.1.2; omega⟩, by rw [plc_k _ h.1.2]; exact h.2⟩
  have V : ∀ {x : Int} {k : Nat}, nw z m x k → k ≠ 4 → k ≠ 26 → ∀ j, tm_v (plc m s v) x j = tm_v m x j := by
    intro x k h h4 h26 j
    rw [plc_v x j h.1.2, if_neg (fun q => h.ne t1 h4 q.1), if_neg (fun q => h.ne t2.1 h26 q.1)]
  have V4 : ∀ j, j ≠ 2 → tm_v (plc m s v) (rT m) j = tm_v m (rT m) j := by
    intro j hj
    rw [plc_v _ j t1.1.2, if_neg (fun q => hj q.2), if_neg (fun q => t1.ne t2.1 (by decide) q.1)]
  have V42 : tm_v (plc m s v) (rT m) 2 = n_p s + 1 := by rw [plc_v _ _ t1.1.2, if_pos ⟨rfl, rfl⟩]
  have VP : ∀ k, tm_v (plc m s v) (rPA m) k = if k = n_p s then tm_z m else tm_v m (rPA m) k := by
    intro k
    rw [plc_v _ _ t2.1.1.2, if_neg (fun q => t2.1.ne t1 (by decide) q.1)]
    by_cases c : k = n_p s
    · rw [if_pos ⟨rfl, c⟩, if_pos c]
    · rw [if_neg (fun q => c q.2), if_neg c]
  have V0 : ∀ j, tm_v (plc m s v) 4 j = tm_v m 4 j := by
    intro j
    have q1 := t1.1.1; have q2 := t2.1.1.1
    rw [plc_v 4 j (by omega), if_neg (fun q => by omega), if_neg (fun q => by omega)]
  have eT : rT (plc m s v) = rT m := V0 8
  have ePA : rPA (plc m s v) = rPA m := by unfold rPA; rw [eT, V4 0 (by decide)]
  have eLA : rLA (plc m s v) = rLA m := by unfold rLA; rw [eT, V4 1 (by decide)]
  have eFA : rFA (plc m s v) = rFA m := by unfold rFA; rw [eT, V4 7 (by decide)]
  have eP : ∀ k, rP (plc m s v) k = if k = n_p s then tm_z m else rP m k := fun k => by unfold rP; rw [ePA, VP]
  have eL : ∀ l, rL (plc m s v) l = rL m l := fun l => by unfold rL; rw [eLA, V t3.1 (by decide) (by decide)]
  have zz := plc_0 (m := m) (s := s) (v := v) t1.1.2 t2.1.1.2
  have eA0 : rA (plc m s v) (n_p s) = tm_z m + 1 := by unfold rA; rw [eP, if_pos rfl, zz]; rfl
  have eA : ∀ k, 0 ≤ k → k < n_p s → rA (plc m s v) k = rA m k := fun k k0 k1 => by unfold rA; rw [eP, if_neg (by omega), V (P k k0 k1).1 (by decide) (by decide)]
  have fN : ∀ j, n_f (n_new s w) j = if j = 3 * n_p s + 2 then 1 else if j = 3 * n_p s + 1 then 1 else if j = 3 * n_p s then 0 else n_f s j := fun j => rfl
  have mN : ∀ j, n_m (n_new s w) j = if j = n_p s then w else n_m s j := fun j => rfl
  have dN : ∀ j, n_d (n_new s w) j = if j = n_p s then 0 else n_d s j := fun j => rfl
  have aN : ∀ j, n_a (n_new s w) j = n_a s j := fun j => rfl
  refine ⟨⟨?_, ?_, ?_, ?_⟩, ⟨?_, ?_, ?_, ?_, ?_⟩, ?_, fun k k0 k1 => ?_, fun l l0 l1 => ?_, fun k k' k0 k1 h0 h1 q => ?_, fun l l' l0 l1 h0 h1 q => ?_⟩
  · rw [eT]; exact NW t1
  · rw [ePA, plc_n _ t2.1.1.2]; exact ⟨NW t2.1, t2.2⟩
  · rw [eLA, plc_n _ t3.1.1.2]; exact ⟨NW t3.1, t3.2⟩
  · rw [eFA, plc_n _ t4.1.1.2]; exact ⟨NW t4.1, t4.2⟩
  · rw [eT, V42]; rfl
  · rw [eT, V4 3 (by decide)]; exact u.2.1
  · rw [eT, V4 4 (by decide)]; exact u.2.2.1
  · rw [eT, V4 5 (by decide)]; exact u.2.2.2.1
  · rw [eT, V4 6 (by decide)]; exact u.2.2.2.2
  · rw [V0]; exact k7
  · have k1 : k < n_p s + 1 := k1
    rw [fN, fN, fN, mN, dN]
    by_cases c : k = n_p s
    · subst c
      rw [eA0, eP, if_pos rfl, zz, zz, zz, zz, zz, zz]
      rw [if_pos rfl, if_pos rfl, eLA]
      refine ⟨⟨⟨hzm, by rw [Z]; omega⟩, plc_k0⟩, hn, rfl, ⟨?_, ?_, ?_, by show (0 : Int) = _; rw [if_pos rfl]⟩, ⟨⟨⟨by omega, by rw [Z]; omega⟩, plc_k1.1⟩, plc_k1.2, ?_⟩, fun i i0 i1 => absurd i1 (by omega)⟩
      · show (0 : Int) = _
        rw [if_neg (by omega), if_neg (by omega), if_pos rfl]
      · show (1 : Int) = _
        rw [if_neg (by omega), if_pos rfl]
      · show (1 : Int) = _
        rw [if_pos rfl]
      · have := t3.1.1.2; omega
    · obtain ⟨p1, p2, p3, p4, p5, p6⟩ := P k k0 (by omega)
      rw [eA k k0 (by omega), eP, if_neg c, V p1 (by decide) (by decide), V p1 (by decide) (by decide), V p1 (by decide) (by decide), V p1 (by decide) (by decide), V p1 (by decide) (by decide), V p1 (by decide) (by decide), plc_n _ p5.1.1.2, eLA, if_neg c, if_neg c]
      rw [if_neg (by omega), if_neg (by omega), if_neg (by omega), if_neg (by omega), if_neg (by omega), if_neg (by omega), if_neg (by omega), if_neg (by omega), if_neg (by omega)]
      refine ⟨NW p1, p2, p3, p4, ⟨NW p5.1, p5.2⟩, fun i i0 i1 => ?_⟩
      rw [V p5.1 (by decide) (by decide), aN, eL]
      exact p6 i i0 i1
  · obtain ⟨p1, p2, p3, p4⟩ := L l l0 l1
    have hwl := hw.2.2.1 l l0 l1
    rw [eL, V p1 (by decide) (by decide), V p1 (by decide) (by decide), V p1 (by decide) (by decide), eP, eP]
    have e1 : n_1 (n_new s w) l = n_1 s l := rfl
    have e2 : n_2 (n_new s w) l = n_2 s l := rfl
    rw [e1, e2, if_neg (by omega), if_neg (by omega)]
    exact ⟨NW p1, p2, p3, p4⟩
  · have k1 : k < n_p s + 1 := k1
    have h1 : k' < n_p s + 1 := h1
    by_cases c : k = n_p s <;> by_cases c' : k' = n_p s
    · omega
    · rw [c, eA0, eA k' h0 (by omega)] at q
      have := (P k' h0 (by omega)).2.2.2.2.1.1.1.2
      omega
    · rw [c', eA0, eA k k0 (by omega)] at q
      have := (P k k0 (by omega)).2.2.2.2.1.1.1.2
      omega
    · rw [eA k k0 (by omega), eA k' h0 (by omega)] at q
      exact iA k k' k0 (by omega) h0 (by omega) q
  · rw [eL, eL] at q
    exact iL l l' l0 l1 h0 h1 q
/-- a feature is written -/
theorem JR_ft {p q : Int} (hz : 104 ≤ z) (hJ : JR z tx m s) (p0 : 0 ≤ p) (p1 : p < n_p s) (hq : q = 0 ∨ q = 1 ∨ q = 2) : JR z tx (tm_w m (rP m p) (2 + q) v) (n_ft s (fup (n_f s) (3 * p + q) v)) := by
  obtain ⟨⟨t1, t2, t3, t4⟩, u, k7, P, L, iA, iL⟩ := id hJ
  have pp := (P p p0 p1).1
  have V : ∀ {x : Int} {k : Nat}, nw z m x k → k ≠ 7 → ∀ j, tm_v (tm_w m (rP m p) (2 + q) v) x j = tm_v m x j := by
    intro x k h h7 j
    rw [tm_vw, if_neg (fun e => h.ne pp h7 e.1)]
  have V7 : ∀ (x j : Int), j ≠ 2 + q → tm_v (tm_w m (rP m p) (2 + q) v) x j = tm_v m x j := by
    intro x j hj
    rw [tm_vw, if_neg (fun e => hj e.2)]
  have V0 : ∀ j, tm_v (tm_w m (rP m p) (2 + q) v) 4 j = tm_v m 4 j := by
    intro j
    have := pp.1.1
    rw [tm_vw, if_neg (fun e => by omega)]
  have eT : rT (tm_w m (rP m p) (2 + q) v) = rT m := V0 8
  have ePA : rPA (tm_w m (rP m p) (2 + q) v) = rPA m := by unfold rPA; rw [eT, V t1 (by decide)]
  have eLA : rLA (tm_w m (rP m p) (2 + q) v) = rLA m := by unfold rLA; rw [eT, V t1 (by decide)]
  have eFA : rFA (tm_w m (rP m p) (2 + q) v) = rFA m := by unfold rFA; rw [eT, V t1 (by decide)]
  have eP : ∀ k, rP (tm_w m (rP m p) (2 + q) v) k = rP m k := fun k => by
    show tm_v (tm_w m (rP m p) (2 + q) v) (rPA (tm_w m (rP m p) (2 + q) v)) k = tm_v m (rPA m) k
    rw [ePA, V t2.1 (by decide)]
  have eL : ∀ l, rL (tm_w m (rP m p) (2 + q) v) l = rL m l := fun l => by unfold rL; rw [eLA, V t3.1 (by decide)]
  have eA : ∀ k, rA (tm_w m (rP m p) (2 + q) v) k = rA m k := fun k => by unfold rA; rw [eP, V7 _ _ (by omega)]
  have fN : ∀ j, n_f (n_ft s (fup (n_f s) (3 * p + q) v)) j = if j = 3 * p + q then v else n_f s j := fun j => rfl
  have VF : ∀ k j, 0 ≤ k → k < n_p s → (j = 0 ∨ j = 1 ∨ j = 2) → tm_v m (rP m k) (2 + j) = n_f s (3 * k + j) → tm_v (tm_w m (rP m p) (2 + q) v) (rP m k) (2 + j) = n_f (n_ft s (fup (n_f s) (3 * p + q) v)) (3 * k + j) := by
    intro k j k0 k1 hj h
    rw [fN, tm_vw]
    by_cases c : k = p ∧ j = q
    · rw [if_pos ⟨by rw [c.1], by rw [c.2]⟩, if_pos (by omega)]
    · rw [if_neg (fun e => c ⟨hJ.inj k0 k1 p0 p1 e.1, by omega⟩), if_neg (by omega)]
      exact h
  refine ⟨⟨?_, ?_, ?_, ?_⟩, ?_, ?_, fun k k0 k1 => ?_, fun l l0 l1 => ?_, fun k k' k0 k1 h0 h1 e => ?_, fun l l' l0 l1 h0 h1 e => ?_⟩
  · rw [eT]; exact t1
  · rw [ePA]; exact t2
  · rw [eLA]; exact t3
  · rw [eFA]; exact t4
  · rw [eT, V t1 (by decide), V t1 (by decide), V t1 (by decide), V t1 (by decide), V t1 (by decide)]; exact u
  · rw [V0]; exact k7
  · have k1 : k < n_p s := k1
    obtain ⟨p1, p2, p3, p4, p5, p6⟩ := P k k0 k1
    have f0 := VF k 0 k0 k1 (by omega) (by rw [Int.add_zero, Int.add_zero]; exact p4.1)
    have f1 := VF k 1 k0 k1 (by omega) p4.2.1
    have f2 := VF k 2 k0 k1 (by omega) p4.2.2.1
    rw [Int.add_zero, Int.add_zero] at f0
    rw [eA, eP, V7 _ 0 (by omega), V7 _ 1 (by omega), V7 _ 5 (by omega), eLA]
    refine ⟨p1, p2, p3, ⟨f0, f1, f2, p4.2.2.2⟩, p5, fun i i0 i1 => ?_⟩
    rw [V p5.1 (by decide), eL]
    exact p6 i i0 i1
  · obtain ⟨p1, p2, p3, p4⟩ := L l l0 l1
    rw [eL, V p1 (by decide), V p1 (by decide), V p1 (by decide), eP, eP]
    exact ⟨p1, p2, p3, p4⟩
  · rw [eA, eA] at e
    exact iA k k' k0 k1 h0 h1 e
  · rw [eL, eL] at e
    exact iL l l' l0 l1 h0 h1 e
/-- the town's own fields are written -/
def n_own (s : TN) (a h c t u : Int) : TN := (n_p s, n_m s, n_f s, n_d s, n_a s, n_l s, n_1 s, n_2 s, a, h, c, t, u)
theorem JR_T {a h c t u : Int} (hJ : JR z tx m s) (eZ : tm_z m' = tm_z m) (eK : tm_k m' = tm_k m) (eN : tm_n m' = tm_n m) (hv : ∀ x j, z ≤ x → (x ≠ rT m ∨ j < 4 ∨ 6 < j) → tm_v m' x j = tm_v m x j) (h8 : tm_v m' 4 8 = tm_v m 4 8)
    (h4 : tm_v m' (rT m) 4 = a) (h5 : tm_v m' (rT m) 5 = h) (h6 : tm_v m' (rT m) 6 = c) (h7 : tm_v m' 4 7 = 4 * c + 8 * t + 16 * u) : JR z tx m' (n_own s a h c t u) := by
  obtain ⟨⟨t1, t2, t3, t4⟩, u, k7, P, L, iA, iL⟩ := id hJ
  have NW : ∀ {x : Int} {k : Nat}, nw z m x k → nw z m' x k := fun h => ⟨⟨h.1.1, by rw [eZ]; exact h.1.2⟩, by rw [eK]; exact h.2⟩
  have V : ∀ {x : Int} {k : Nat}, nw z m x k → k ≠ 4 → ∀ j, tm_v m' x j = tm_v m x j := fun h h4 j => hv _ j h.1.1 (Or.inl (h.ne t1 h4))
  have VT : ∀ j, (j < 4 ∨ 6 < j) → tm_v m' (rT m) j = tm_v m (rT m) j := fun j hj => hv _ j t1.1.1 (Or.inr hj)
  have eT : rT m' = rT m := h8
  have ePA : rPA m' = rPA m := by unfold rPA; rw [eT, VT _ (by omega)]
  have eLA : rLA m' = rLA m := by unfold rLA; rw [eT, VT _ (by omega)]
  have eFA : rFA m' = rFA m := by unfold rFA; rw [eT, VT _ (by omega)]
  have eP : ∀ k, rP m' k = rP m k := fun k => by unfold rP; rw [ePA, V t2.1 (by decide)]
  have eL : ∀ l, rL m' l = rL m l := fun l => by unfold rL; rw [eLA, V t3.1 (by decide)]
  have eA : ∀ k, 0 ≤ k → k < n_p s → rA m' k = rA m k := fun k k0 k1 => by unfold rA; rw [eP, V (P k k0 k1).1 (by decide)]
  refine ⟨⟨?_, ?_, ?_, ?_⟩, ⟨?_, ?_, ?_, ?_, ?_⟩, ?_, fun k k0 k1 => ?_, fun l l0 l1 => ?_, fun k k' k0 k1 h0 h1 e => ?_, fun l l' l0 l1 h0 h1 e => ?_⟩
  · rw [eT]; exact NW t1
  · rw [ePA, eN]; exact ⟨NW t2.1, t2.2⟩
  · rw [eLA, eN]; exact ⟨NW t3.1, t3.2⟩
  · rw [eFA, eN]; exact ⟨NW t4.1, t4.2⟩
  · rw [eT, VT _ (by omega)]; exact u.1
  · rw [eT, VT _ (by omega)]; exact u.2.1
  · rw [eT]; exact h4
  · rw [eT]; exact h5
  · rw [eT]; exact h6
  · exact h7
  · have k1 : k < n_p s := k1
    obtain ⟨p1, p2, p3, p4, p5, p6⟩ := P k k0 k1
    rw [eA k k0 k1, eP, V p1 (by decide), V p1 (by decide), V p1 (by decide), V p1 (by decide), V p1 (by decide), V p1 (by decide), eN, eLA]
    refine ⟨NW p1, p2, p3, p4, ⟨NW p5.1, p5.2⟩, fun i i0 i1 => ?_⟩
    rw [V p5.1 (by decide), eL]
    exact p6 i i0 i1
  · obtain ⟨p1, p2, p3, p4⟩ := L l l0 l1
    rw [eL, V p1 (by decide), V p1 (by decide), V p1 (by decide), eP, eP]
    exact ⟨NW p1, p2, p3, p4⟩
  · rw [eA k k0 k1, eA k' h0 h1] at e
    exact iA k k' k0 k1 h0 h1 e
  · rw [eL, eL] at e
    exact iL l l' l0 l1 h0 h1 e
end JRN
