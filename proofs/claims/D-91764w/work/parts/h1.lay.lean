/-! the picture of the town that is being read, with a lane more -/
section JRL
variable {z a b : Int} {tx : Int → Int} {m : tm_M} {s : TN}
/-- the memory with the lane -/
def lay1 (m : tm_M) (a b : Int) : tm_M := tm_w (tm_w (tm_a m 8 3) (tm_z m) 0 (rP m a)) (tm_z m) 1 (rP m b)
def lay2 (m : tm_M) (s : TN) (a b : Int) : tm_M := tm_w (tm_w (lay1 m a b) (rA m a) (n_d s a) (tm_z m)) (rP m a) 5 (n_d s a + 1)
def lay3 (m : tm_M) (s : TN) (a b : Int) : tm_M := tm_w (tm_w (lay2 m s a b) (rA m b) (n_d s b) (tm_z m)) (rP m b) 5 (n_d s b + 1)
def lay4m (m : tm_M) (s : TN) (a b : Int) : tm_M := tm_w (tm_w (lay3 m s a b) (rLA m) (n_l s) (tm_z m)) (rT m) 3 (n_l s + 1)
theorem lay_v (x j : Int) (hx : x ≠ tm_z m) : tm_v (lay4m m s a b) x j = if x = rT m ∧ j = 3 then n_l s + 1 else if x = rLA m ∧ j = n_l s then tm_z m else if x = rP m b ∧ j = 5 then n_d s b + 1 else if x = rA m b ∧ j = n_d s b then tm_z m else if x = rP m a ∧ j = 5 then n_d s a + 1 else if x = rA m a ∧ j = n_d s a then tm_z m else tm_v m x j := by
  unfold lay4m lay3 lay2 lay1
  rw [tm_vw, tm_vw, tm_vw, tm_vw, tm_vw, tm_vw, tm_vw, tm_vw, tm_va, if_neg hx]
  have n1 : ¬ (x = tm_z m ∧ j = 1) := fun q => hx q.1
  have n0 : ¬ (x = tm_z m ∧ j = 0) := fun q => hx q.1
  rw [if_neg n1, if_neg n0]
theorem lay_k (x : Int) (hx : x ≠ tm_z m) : tm_k (lay4m m s a b) x = tm_k m x := by
  show tm_k (tm_a m 8 3) x = _
  rw [tm_ka, if_neg hx]
theorem lay_n (x : Int) (hx : x ≠ tm_z m) : tm_n (lay4m m s a b) x = tm_n m x := by
  show tm_n (tm_a m 8 3) x = _
  rw [tm_na, if_neg hx]
theorem lay_z : tm_z (lay4m m s a b) = tm_z m + 1 := rfl
theorem lay_nw {x : Int} {k : Nat} (h : nw z m x k) : nw z (lay4m m s a b) x k := by
  obtain ⟨h1, h2⟩ := h
  exact ⟨⟨h1.1, by rw [lay_z]; omega⟩, by rw [lay_k x (by omega)]; exact h2⟩
theorem nw.ne {x y : Int} {k k' : Nat} (h : nw z m x k) (h' : nw z m y k') (hk : k ≠ k') : x ≠ y := fun e => hk (by rw [← h.2, ← h'.2, e])
end JRL
section JRL2
variable {z a b : Int} {tx : Int → Int} {m : tm_M} {s : TN}
theorem JR_lay (hz : 104 ≤ z) (hJ : JR z tx m s) (hw : wfT s) (hzm : z ≤ tm_z m) (a0 : 0 ≤ a) (a1 : a < n_p s) (b0 : 0 ≤ b) (b1 : b < n_p s) (hne : a ≠ b) (hda : n_d s a ≠ 4) (hdb : n_d s b ≠ 4) : JR z tx (lay4m m s a b) (n_lay s a b) := by
  obtain ⟨⟨t1, t2, t3, t4⟩, u, v, P, L, iA, iL⟩ := id hJ
  have lt : ∀ {x : Int} {k : Nat}, nw z m x k → x ≠ tm_z m := fun h => by have := h.1.2; omega
  obtain ⟨pa1, pa2, pa3, pa4, pa5, pa6⟩ := P a a0 a1
  obtain ⟨pb1, pb2, pb3, pb4, pb5, pb6⟩ := P b b0 b1
  -- cells that no write meets
  have V7 : ∀ {x : Int}, nw z m x 7 → ∀ j, j ≠ 5 → tm_v (lay4m m s a b) x j = tm_v m x j := by
    intro x h j hj
    rw [lay_v x j (lt h), if_neg (fun q => h.ne t1 (by decide) q.1), if_neg (fun q => h.ne t3.1 (by decide) q.1), if_neg (fun q => hj q.2), if_neg (fun q => h.ne pb5.1 (by decide) q.1), if_neg (fun q => hj q.2), if_neg (fun q => h.ne pa5.1 (by decide) q.1)]
  have V4 : ∀ j, j ≠ 3 → tm_v (lay4m m s a b) (rT m) j = tm_v m (rT m) j := by
    intro j hj
    rw [lay_v _ j (lt t1), if_neg (fun q => hj q.2), if_neg (fun q => t1.ne t3.1 (by decide) q.1), if_neg (fun q => t1.ne pb1 (by decide) q.1), if_neg (fun q => t1.ne pb5.1 (by decide) q.1), if_neg (fun q => t1.ne pa1 (by decide) q.1), if_neg (fun q => t1.ne pa5.1 (by decide) q.1)]
  have V43 : tm_v (lay4m m s a b) (rT m) 3 = n_l s + 1 := by rw [lay_v _ 3 (lt t1), if_pos ⟨rfl, rfl⟩]
  have VP : ∀ j, tm_v (lay4m m s a b) (rPA m) j = tm_v m (rPA m) j := by
    intro j
    rw [lay_v _ j (lt t2.1), if_neg (fun q => t2.1.ne t1 (by decide) q.1), if_neg (fun q => t2.1.ne t3.1 (by decide) q.1), if_neg (fun q => t2.1.ne pb1 (by decide) q.1), if_neg (fun q => t2.1.ne pb5.1 (by decide) q.1), if_neg (fun q => t2.1.ne pa1 (by decide) q.1), if_neg (fun q => t2.1.ne pa5.1 (by decide) q.1)]
  have VL : ∀ j, tm_v (lay4m m s a b) (rLA m) j = if j = n_l s then tm_z m else tm_v m (rLA m) j := by
    intro j
    rw [lay_v _ j (lt t3.1), if_neg (fun q => t3.1.ne t1 (by decide) q.1)]
    by_cases c : j = n_l s
    · rw [if_pos ⟨rfl, c⟩, if_pos c]
    · rw [if_neg (fun q => c q.2), if_neg c, if_neg (fun q => t3.1.ne pb1 (by decide) q.1), if_neg (fun q => pb5.2.2 q.1.symm), if_neg (fun q => t3.1.ne pa1 (by decide) q.1), if_neg (fun q => pa5.2.2 q.1.symm)]
  have V8 : ∀ {x : Int}, nw z m x 8 → ∀ j, tm_v (lay4m m s a b) x j = tm_v m x j := by
    intro x h j
    rw [lay_v x j (lt h), if_neg (fun q => h.ne t1 (by decide) q.1), if_neg (fun q => h.ne t3.1 (by decide) q.1), if_neg (fun q => h.ne pb1 (by decide) q.1), if_neg (fun q => h.ne pb5.1 (by decide) q.1), if_neg (fun q => h.ne pa1 (by decide) q.1), if_neg (fun q => h.ne pa5.1 (by decide) q.1)]
  have V0 : ∀ j, tm_v (lay4m m s a b) 4 j = tm_v m 4 j := by
    intro j
    have q1 := t1.1.1; have q2 := t3.1.1.1; have q3 := pb1.1.1; have q4 := pb5.1.1.1; have q5 := pa1.1.1; have q6 := pa5.1.1.1
    rw [lay_v 4 j (by omega), if_neg (fun q => by omega), if_neg (fun q => by omega), if_neg (fun q => by omega), if_neg (fun q => by omega), if_neg (fun q => by omega), if_neg (fun q => by omega)]
  have eT : rT (lay4m m s a b) = rT m := V0 8
  have ePA : rPA (lay4m m s a b) = rPA m := by unfold rPA; rw [eT, V4 0 (by decide)]
  have eLA : rLA (lay4m m s a b) = rLA m := by unfold rLA; rw [eT, V4 1 (by decide)]
  have eFA : rFA (lay4m m s a b) = rFA m := by unfold rFA; rw [eT, V4 7 (by decide)]
  have eP : ∀ k, rP (lay4m m s a b) k = rP m k := fun k => by unfold rP; rw [ePA, VP]
  have eL : ∀ l, rL (lay4m m s a b) l = if l = n_l s then tm_z m else rL m l := fun l => by unfold rL; rw [eLA, VL]
  have eA : ∀ k, 0 ≤ k → k < n_p s → rA (lay4m m s a b) k = rA m k := fun k k0 k1 => by unfold rA; rw [eP, V7 (P k k0 k1).1 6 (by decide)]
  have zz : tm_v (lay4m m s a b) (tm_z m) 0 = rP m a ∧ tm_v (lay4m m s a b) (tm_z m) 1 = rP m b ∧ tm_v (lay4m m s a b) (tm_z m) 2 = 0 ∧ tm_k (lay4m m s a b) (tm_z m) = 8 := by
    have w : ∀ {x : Int} {k : Nat}, nw z m x k → ¬ tm_z m = x := fun h q => lt h q.symm
    unfold lay4m lay3 lay2 lay1
    refine ⟨?_, ?_, ?_, ?_⟩
    · simp only [tm_vw, tm_va, w t1, w t3.1, w pb1, w pb5.1, w pa1, w pa5.1, false_and, if_false, true_and]; rfl
    · simp only [tm_vw, tm_va, w t1, w t3.1, w pb1, w pb5.1, w pa1, w pa5.1, false_and, if_false, true_and]; rfl
    · simp only [tm_vw, tm_va, w t1, w t3.1, w pb1, w pb5.1, w pa1, w pa5.1, false_and, if_false, true_and]; rfl
    · show tm_k (tm_a m 8 3) (tm_z m) = 8
      rw [tm_ka, if_pos rfl]
  have V75 : ∀ k, 0 ≤ k → k < n_p s → tm_v (lay4m m s a b) (rP m k) 5 = if k = b then n_d s b + 1 else if k = a then n_d s a + 1 else n_d s k := by
    intro k k0 k1
    have h := (P k k0 k1).1
    rw [lay_v _ 5 (lt h), if_neg (fun q => h.ne t1 (by decide) q.1), if_neg (fun q => h.ne t3.1 (by decide) q.1)]
    by_cases c : k = b
    · rw [if_pos ⟨by rw [c], rfl⟩, if_pos c]
    · rw [if_neg (fun q => c (hJ.inj k0 k1 b0 b1 q.1)), if_neg c, if_neg (fun q => h.ne pb5.1 (by decide) q.1)]
      by_cases c2 : k = a
      · rw [if_pos ⟨by rw [c2], rfl⟩, if_pos c2]
      · rw [if_neg (fun q => c2 (hJ.inj k0 k1 a0 a1 q.1)), if_neg c2, if_neg (fun q => h.ne pa5.1 (by decide) q.1)]
        exact (P k k0 k1).2.2.2.1.2.2.2
  have VA : ∀ k, 0 ≤ k → k < n_p s → ∀ i, tm_v (lay4m m s a b) (rA m k) i = if k = b ∧ i = n_d s b then tm_z m else if k = a ∧ i = n_d s a then tm_z m else tm_v m (rA m k) i := by
    intro k k0 k1 i
    have h := (P k k0 k1).2.2.2.2.1
    rw [lay_v _ i (lt h.1), if_neg (fun q => h.1.ne t1 (by decide) q.1), if_neg (fun q => h.2.2 q.1), if_neg (fun q => h.1.ne pb1 (by decide) q.1)]
    by_cases c : k = b ∧ i = n_d s b
    · rw [if_pos ⟨by rw [c.1], c.2⟩, if_pos c]
    · rw [if_neg (fun q => c ⟨iA k b k0 k1 b0 b1 q.1, q.2⟩), if_neg c, if_neg (fun q => h.1.ne pa1 (by decide) q.1)]
      by_cases c2 : k = a ∧ i = n_d s a
      · rw [if_pos ⟨by rw [c2.1], c2.2⟩, if_pos c2]
      · rw [if_neg (fun q => c2 ⟨iA k a k0 k1 a0 a1 q.1, q.2⟩), if_neg c2]
  have dN : ∀ k, n_d (n_lay s a b) k = if k = b then n_d s b + 1 else if k = a then n_d s a + 1 else n_d s k := fun k => rfl
  have aN : ∀ k, n_a (n_lay s a b) k = if k = 4 * b + n_d s b then n_l s else if k = 4 * a + n_d s a then n_l s else n_a s k := fun k => rfl
  have hwa := hw.2.1
  refine ⟨⟨?_, ?_, ?_, ?_⟩, ⟨?_, ?_, ?_, ?_, ?_⟩, ?_, fun k k0 k1 => ?_, fun l l0 l1 => ?_, fun k k' k0 k1 h0 h1 q => ?_, fun l l' l0 l1 h0 h1 q => ?_⟩
  · rw [eT]; exact lay_nw t1
  · rw [ePA, lay_n _ (lt t2.1)]; exact ⟨lay_nw t2.1, t2.2⟩
  · rw [eLA, lay_n _ (lt t3.1)]; exact ⟨lay_nw t3.1, t3.2⟩
  · rw [eFA, lay_n _ (lt t4.1)]; exact ⟨lay_nw t4.1, t4.2⟩
  · rw [eT, V4 2 (by decide)]; exact u.1
  · rw [eT, V43]; rfl
  · rw [eT, V4 4 (by decide)]; exact u.2.2.1
  · rw [eT, V4 5 (by decide)]; exact u.2.2.2.1
  · rw [eT, V4 6 (by decide)]; exact u.2.2.2.2
  · rw [V0]; exact v
  · have k1 : k < n_p s := k1
    obtain ⟨p1, p2, p3, p4, p5, p6⟩ := P k k0 k1
    rw [eA k k0 k1, eP, V7 p1 0 (by decide), V7 p1 1 (by decide), V7 p1 2 (by decide), V7 p1 3 (by decide), V7 p1 4 (by decide), V75 k k0 k1, lay_n _ (lt p5.1), eLA]
    refine ⟨lay_nw p1, p2, p3, ⟨p4.1, p4.2.1, p4.2.2.1, (dN k).symm⟩, ⟨lay_nw p5.1, p5.2⟩, fun i i0 i1 => ?_⟩
    rw [dN] at i1
    rw [VA k k0 k1, aN, eL]
    have hk := (hwa k k0 k1).1
    have hb4 := (hwa b b0 b1).1
    have ha4 := (hwa a a0 a1).1
    by_cases c1 : k = b ∧ i = n_d s b
    · rw [if_pos c1, if_pos (show 4 * k + i = 4 * b + n_d s b by omega), if_pos rfl]
    · have c1' : ¬ (4 * k + i = 4 * b + n_d s b) := by
        intro q
        refine c1 ?_
        split at i1
        · omega
        · split at i1 <;> omega
      rw [if_neg c1, if_neg c1']
      by_cases c2 : k = a ∧ i = n_d s a
      · rw [if_pos c2, if_pos (show 4 * k + i = 4 * a + n_d s a by omega), if_pos rfl]
      · have c2' : ¬ (4 * k + i = 4 * a + n_d s a) := by
          intro q
          refine c2 ?_
          split at i1
          · omega
          · split at i1 <;> omega
        rw [if_neg c2, if_neg c2']
        have i2 : i < n_d s k := by
          split at i1
          · rename_i e1; subst e1; omega
          · split at i1
            · rename_i e1; subst e1; omega
            · exact i1
        have h3 := ((hwa k k0 k1).2.2.2.2 i i0 i2).1
        rw [if_neg (show ¬ n_a s (4 * k + i) = n_l s by omega)]
        exact p6 i i0 i2
  · have l1 : l < n_l s + 1 := l1
    have e1N : n_1 (n_lay s a b) l = if l = n_l s then a else n_1 s l := rfl
    have e2N : n_2 (n_lay s a b) l = if l = n_l s then b else n_2 s l := rfl
    rw [eL, e1N, e2N]
    by_cases c : l = n_l s
    · rw [if_pos c, if_pos c, if_pos c, eP, eP]
      exact ⟨⟨⟨hzm, by rw [lay_z]; omega⟩, zz.2.2.2⟩, zz.1, zz.2.1, zz.2.2.1⟩
    · rw [if_neg c, if_neg c, if_neg c, eP, eP]
      obtain ⟨p1, p2, p3, p4⟩ := L l l0 (by omega)
      rw [V8 p1, V8 p1, V8 p1]
      exact ⟨lay_nw p1, p2, p3, p4⟩
  · rw [eA k k0 k1, eA k' h0 h1] at q
    exact iA k k' k0 k1 h0 h1 q
  · have l1 : l < n_l s + 1 := l1
    have h1 : l' < n_l s + 1 := h1
    rw [eL, eL] at q
    by_cases c : l = n_l s <;> by_cases c' : l' = n_l s
    · omega
    · rw [if_pos c, if_neg c'] at q
      exact absurd q.symm (lt (L l' h0 (by omega)).1)
    · rw [if_neg c, if_pos c'] at q
      exact absurd q (lt (L l l0 (by omega)).1)
    · rw [if_neg c, if_neg c'] at q
      exact iL l l' l0 (by omega) h0 (by omega) q
end JRL2
