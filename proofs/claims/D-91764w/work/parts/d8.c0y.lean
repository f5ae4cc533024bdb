/-! CONTRACTS of the component: one who would not be met -/
section C0Y
variable {d : Nat} {μ μ0 ν : tm_M} {W : Int → Int → Prop}
/-- the worths are those of m0 -/
def wsm (m0 m : tm_M) : Prop := ∀ i j, 53 ≤ i → i ≤ 55 → tm_v m i j = tm_v m0 i j
theorem wsm_X {m0 m : tm_M} (h : wsm m0 m) : wX m = wX m0 := by funext j; unfold wX; rw [h 53 j (by decide) (by decide), h 54 j (by decide) (by decide), h 55 j (by decide) (by decide)]
theorem wsm_L {m0 m : tm_M} (h : wsm m0 m) : lnC m = lnC m0 := by funext x; unfold lnC; rw [wsm_X h]
theorem wsm_C {m0 m : tm_M} (h : wsm m0 m) : cls m = cls m0 := by funext k; unfold cls; rw [wsm_X h]
theorem wsm_b {m0 m : tm_M} (h : wsm m0 m) (hb : wb m0) : wb m := fun i j i0 i1 j0 j1 => by rw [h _ _ (by omega) (by omega)]; exact hb i j i0 i1 j0 j1
theorem wsm_tr {m0 m m' : tm_M} (h : wsm m0 m) (h' : ∀ i j, 53 ≤ i → i ≤ 55 → tm_v m' i j = tm_v m i j) : wsm m0 m' := fun i j a b => by rw [h' i j a b, h i j a b]
/-- the point of two lines is one of chances -/
def okC (n : Int) (c : V3) : Prop := sm3 c ≠ 0 ∧ dl n (ng c)
/-- the best of the points that P names is kept -/
def bstV (m0 : tm_M) (n : Int) (k : Nat) (P : Int → Int → Prop) (m : tm_M) : Prop :=
  (tm_v m 1 46 = 0 ∧ ∀ i j, P i j → ¬ okC n (cr (lnC m0 i) (lnC m0 j))) ∨
  (0 < tm_v m 1 46 ∧ (tm_v m 1 46 = sm3 (pt3 m 59) ∧ tm_v m 1 46 ≤ 60000 ∧ (0 ≤ tm_v m 1 45 ∧ tm_v m 1 45 ≤ 6000000) ∧ in3 (pt3 m 59) 20000) ∧ dl n (pt3 m 59) ∧ isMx (cls m0 k) (pt3 m 59) (tm_v m 1 45) ∧
    ∀ i j, P i j → okC n (cr (lnC m0 i) (lnC m0 j)) → ∀ u, isMx (cls m0 k) (ng (cr (lnC m0 i) (lnC m0 j))) u → le3 (pt3 m 59) (tm_v m 1 45) (ng (cr (lnC m0 i) (lnC m0 j))) u)
theorem bstV_bok {m0 m : tm_M} {n : Int} {k : Nat} {P : Int → Int → Prop} (h : bstV m0 n k P m) : bok m := by
  rcases h with ⟨h, _⟩ | ⟨h, h2, _⟩
  · exact ⟨by omega, fun q => by omega⟩
  · exact ⟨by omega, fun _ => h2⟩
theorem le3_rf (p : V3) (v : Int) : le3 p v p v := Or.inr ⟨rfl, Or.inr ⟨rfl, Int.le_refl _⟩⟩
theorem bstV_step {m0 m m' : tm_M} {n : Int} {k : Nat} {P P' : Int → Int → Prop} {x y : Int} (h : bstV m0 n k P m) (hw : wsm m0 m) (ho : o_cross m n k (cr (lnC m0 x) (lnC m0 y)) m') (hP : ∀ i j, P' i j → P i j ∨ (i = x ∧ j = y)) : bstV m0 n k P' m' := by
  unfold o_cross at ho
  rw [wsm_C hw] at ho
  have mv : bsT m' = bsT m → tm_v m' 1 45 = tm_v m 1 45 ∧ tm_v m' 1 46 = tm_v m 1 46 ∧ pt3 m' 59 = pt3 m 59 := fun e => by
    obtain ⟨a, b, c⟩ := bsT_eq e
    exact ⟨a, b, by unfold pt3; rw [c 0 (by decide) (by decide), c 1 (by decide) (by decide), c 2 (by decide) (by decide)]⟩
  rcases ho with ⟨hno, e⟩ | ⟨hok, u, hu, hub, hin, ho⟩
  · obtain ⟨e1, e2, e3⟩ := mv e
    unfold bstV
    rw [e1, e2, e3]
    rcases h with ⟨h1, h2⟩ | ⟨h1, h2, h3, h4, h5⟩
    · refine Or.inl ⟨h1, fun i j hp hk => ?_⟩
      rcases hP i j hp with q | ⟨q1, q2⟩
      · exact h2 i j q hk
      · rw [q1, q2] at hk; exact hno hk
    · refine Or.inr ⟨h1, h2, h3, h4, fun i j hp hk u' hu' => ?_⟩
      rcases hP i j hp with q | ⟨q1, q2⟩
      · exact h5 i j q hk u' hu'
      · rw [q1, q2] at hk; exact absurd hk hno
  · rcases ho with ⟨hpos, hle, e⟩ | ⟨hle, e⟩
    · obtain ⟨e1, e2, e3⟩ := mv e
      unfold bstV
      rw [e1, e2, e3]
      rcases h with ⟨h1, h2⟩ | ⟨h1, h2, h3, h4, h5⟩
      · omega
      · refine Or.inr ⟨h1, h2, h3, h4, fun i j hp hk u' hu' => ?_⟩
        rcases hP i j hp with q | ⟨q1, q2⟩
        · exact h5 i j q hk u' hu'
        · rw [q1, q2] at hu' ⊢
          rw [isMx_uq hu' hu]
          exact hle
    · have e1 : tm_v m' 1 45 = u := by have := congrArg Prod.fst e; exact this
      have e2 : tm_v m' 1 46 = sm3 (ng (cr (lnC m0 x) (lnC m0 y))) := by have := congrArg (fun z => z.2.1) e; exact this
      have e3 : pt3 m' 59 = ng (cr (lnC m0 x) (lnC m0 y)) := by have := congrArg (fun z => z.2.2) e; exact this
      have hs := hok.2.2.1
      have hs6 : sm3 (ng (cr (lnC m0 x) (lnC m0 y))) ≤ 60000 := by unfold sm3; unfold in3 at hin; omega
      unfold bstV
      rw [e1, e2, e3]
      refine Or.inr ⟨hs, ⟨rfl, hs6, hub, hin⟩, hok.2, hu, fun i j hp hk u' hu' => ?_⟩
      rcases hP i j hp with q | ⟨q1, q2⟩
      · rcases h with ⟨h1, h2⟩ | ⟨h1, h2, h3, h4, h5⟩
        · exact absurd hk (h2 i j q)
        · rcases hle with z | ⟨_, z⟩
          · omega
          · exact le4_tr hs h3.2.1 hk.2.2.1 z (h5 i j q hk u' hu')
      · rw [q1, q2] at hu' ⊢
        rw [isMx_uq hu' hu]
        exact le3_rf _ _
/-- all pairs of lines -/
def allP (i j : Int) : Prop := (0 ≤ i ∧ i < 6) ∧ 0 ≤ j ∧ j < i
theorem ng_neg {c c' : V3} (h : c' = (-c.1, -c.2.1, -c.2.2)) (hs : sm3 c ≠ 0) : ng c' = ng c ∧ sm3 c' = -sm3 c := by
  have e : sm3 c' = -sm3 c := by rw [h]; simp only [sm3]; omega
  refine ⟨?_, e⟩
  unfold ng
  rw [e]
  by_cases q : sm3 c < 0
  · rw [if_neg (by omega), if_pos q, h]
  · rw [if_pos (by omega), if_neg q, h]
    simp
theorem cr_neg (a b : V3) : cr b a = (-(cr a b).1, -(cr a b).2.1, -(cr a b).2.2) := by
  simp only [cr]
  rw [Int.mul_comm b.2.1, Int.mul_comm b.2.2 a.2.1, Int.mul_comm b.2.2 a.1, Int.mul_comm b.1 a.2.2, Int.mul_comm b.1 a.2.1, Int.mul_comm b.2.1 a.1]
  simp
  omega
theorem bstV_end {m0 m : tm_M} {n : Int} {k : Nat} (hn : 1 ≤ n ∧ n ≤ 3) (hk : 1 ≤ k ∧ k ≤ 3) (h : bstV m0 n k allP m) : 0 < tm_v m 1 46 ∧ (tm_v m 1 46 = sm3 (pt3 m 59) ∧ tm_v m 1 46 ≤ 60000 ∧ (0 ≤ tm_v m 1 45 ∧ tm_v m 1 45 ≤ 6000000) ∧ in3 (pt3 m 59) 20000) ∧ opt n (cls m0 k) (pt3 m 59) (tm_v m 1 45) := by
  have d1 : dl n (1, 0, 0) := ⟨⟨by decide, by decide, by decide⟩, by decide, fun _ => rfl, fun _ => rfl⟩
  have c21 : cr (lnC m0 2) (lnC m0 1) = (-1, 0, 0) := rfl
  have g21 : ng (-1, 0, 0) = (1, 0, 0) := rfl
  rcases h with ⟨_, h2⟩ | ⟨h1, h2, h3, h4, h5⟩
  · exact absurd ⟨by rw [c21]; decide, by rw [c21, g21]; exact d1⟩ (h2 2 1 (by unfold allP; omega))
  · refine ⟨h1, h2, ?_⟩
    -- a corner by two lines
    have pair : ∀ i j : Int, (0 ≤ i ∧ i < 6) → (0 ≤ j ∧ j < 6) → ∀ r u, dl n r → cr (lnC m0 i) (lnC m0 j) ≠ (0, 0, 0) → eqv r (cr (lnC m0 i) (lnC m0 j)) → isMx (cls m0 k) r u → le3 (pt3 m 59) (tm_v m 1 45) r u := by
      intro i j hi hj r u hr hne he hu
      have hsc : sm3 (cr (lnC m0 i) (lnC m0 j)) ≠ 0 := by
        intro z
        obtain ⟨q1, q2, q3⟩ := he
        rw [z, Int.mul_zero] at q1 q2 q3
        have hp := hr.2.1
        have z1 : (cr (lnC m0 i) (lnC m0 j)).1 = 0 := by rcases Int.mul_eq_zero.mp q1.symm with e | e; exact e; omega
        have z2 : (cr (lnC m0 i) (lnC m0 j)).2.1 = 0 := by rcases Int.mul_eq_zero.mp q2.symm with e | e; exact e; omega
        have z3 : (cr (lnC m0 i) (lnC m0 j)).2.2 = 0 := by rcases Int.mul_eq_zero.mp q3.symm with e | e; exact e; omega
        exact hne (by rw [show cr (lnC m0 i) (lnC m0 j) = ((cr (lnC m0 i) (lnC m0 j)).1, (cr (lnC m0 i) (lnC m0 j)).2.1, (cr (lnC m0 i) (lnC m0 j)).2.2) from rfl, z1, z2, z3])
      have hij : i ≠ j := by
        intro e
        rw [e] at hsc
        apply hsc
        simp only [cr, sm3]
        rw [Int.mul_comm (lnC m0 j).2.2 (lnC m0 j).2.1, Int.mul_comm (lnC m0 j).2.2 (lnC m0 j).1, Int.mul_comm (lnC m0 j).2.1 (lnC m0 j).1]
        omega
      have hq := eqv_ng he
      have hqp := ng_pos hsc
      have hdq : dl n (ng (cr (lnC m0 i) (lnC m0 j))) := eqv_nn hq hr hqp
      obtain ⟨col, hcol, ecol⟩ := hu.2
      have hu' := hu
      rw [← ecol] at hu' ⊢
      have hmx := eqv_mx hq hr.2.1 hqp hu'
      have hle : le3 (pt3 m 59) (tm_v m 1 45) (ng (cr (lnC m0 i) (lnC m0 j))) (dt col (ng (cr (lnC m0 i) (lnC m0 j)))) := by
        by_cases g : j < i
        · exact h5 i j ⟨hi, hj.1, g⟩ ⟨hsc, hdq⟩ _ hmx
        · have gg := ng_neg (cr_neg (lnC m0 i) (lnC m0 j)) hsc
          have h9 := h5 j i ⟨hj, hi.1, by omega⟩ ⟨by rw [gg.2]; omega, by rw [gg.1]; exact hdq⟩ (dt col (ng (cr (lnC m0 i) (lnC m0 j)))) (by rw [gg.1]; exact hmx)
          rw [gg.1] at h9
          exact h9
      exact le4_tr h3.2.1 hqp hr.2.1 hle (eqv_le hq)
    have inS : ∀ a, a ∈ ([0, 1, 2, 3, 4, 5] : List Int).map (lnC m0) → ∃ i, (0 ≤ i ∧ i < 6) ∧ a = lnC m0 i := by
      intro a ha
      obtain ⟨i, hi, e⟩ := List.mem_map.mp ha
      refine ⟨i, ?_, e.symm⟩
      simp at hi
      omega
    have toS : ∀ i, 0 ≤ i → i < 6 → lnC m0 i ∈ ([0, 1, 2, 3, 4, 5] : List Int).map (lnC m0) := by
      intro i i0 i1
      refine List.mem_map.mpr ⟨i, ?_, rfl⟩
      simp
      omega
    refine opt_of (S := ([0, 1, 2, 3, 4, 5] : List Int).map (lnC m0)) (by omega) ⟨toS 0 (by decide) (by decide), toS 1 (by decide) (by decide), toS 2 (by decide) (by decide)⟩ ?_ h3 h4 ?_
    · intro c hc g hg
      obtain ⟨i, hi, ei⟩ := List.mem_map.mp hc
      obtain ⟨j, hj, ej⟩ := List.mem_map.mp hg
      have hi := List.mem_range.mp hi
      have hj := List.mem_range.mp hj
      have i3 : i = 0 ∨ i = 1 ∨ i = 2 := by omega
      have j3 : j = 0 ∨ j = 1 ∨ j = 2 := by omega
      rw [← ei, ← ej]
      have l3 : cb 1 (wX m0 ((1 : Nat) : Int)) (-1) (wX m0 ((0 : Nat) : Int)) ∈ ([0, 1, 2, 3, 4, 5] : List Int).map (lnC m0) := toS 3 (by decide) (by decide)
      have l4 : cb 1 (wX m0 ((2 : Nat) : Int)) (-1) (wX m0 ((0 : Nat) : Int)) ∈ ([0, 1, 2, 3, 4, 5] : List Int).map (lnC m0) := toS 4 (by decide) (by decide)
      have l5 : cb 1 (wX m0 ((2 : Nat) : Int)) (-1) (wX m0 ((1 : Nat) : Int)) ∈ ([0, 1, 2, 3, 4, 5] : List Int).map (lnC m0) := toS 5 (by decide) (by decide)
      rcases i3 with e | e | e <;> rcases j3 with e' | e' | e' <;> subst e <;> subst e'
      · exact Or.inl rfl
      · exact Or.inr (Or.inr l3)
      · exact Or.inr (Or.inr l4)
      · exact Or.inr (Or.inl l3)
      · exact Or.inl rfl
      · exact Or.inr (Or.inr l5)
      · exact Or.inr (Or.inl l4)
      · exact Or.inr (Or.inl l5)
      · exact Or.inl rfl
    · intro r u hr hcrn hu
      rcases hcrn with ⟨_, a, ha, b, hb, hne, he⟩ | ⟨_, b, hb, hne, he⟩ | ⟨_, he⟩
      · obtain ⟨i, hi, ea⟩ := inS a ha
        obtain ⟨j, hj, eb⟩ := inS b hb
        rw [ea, eb] at hne he
        exact pair i j hi hj r u hr hne he hu
      · obtain ⟨j, hj, eb⟩ := inS b hb
        rw [eb] at hne he
        exact pair 2 j (by decide) hj r u hr hne he hu
      · refine pair 1 2 (by decide) (by decide) r u hr ?_ ?_ hu
        · show (1, 0, 0) ≠ (0, 0, 0); decide
        · exact he
abbrev WV (μ : tm_M) : Int → Int → Prop := tWf [7, 8, 10, 53, 54, 55, 56, 57, 58, 59, 60] [(1, 10), (1, 14), (1, 15), (1, 45), (1, 46), (1, 47)] (c_FA μ)
def c_value (μ ν : tm_M) (w n o k a b cap : Int) (r : Int) (m : tm_M) : Prop :=
  if 0 < r_askv ν w n o k a b cap then r = 0 ∧ ∃ x, x = r_askv ν w n o k a b cap ∧ m = tm_w μ 1 10 x
  else r = 1 ∧ tm_v m 1 10 = 0 ∧ tm_v m 1 47 = n ∧ in3 (pt3 m 60) 20000 ∧ ∃ v, opt n (y_cs ν w n o k a b cap) (pt3 m 60) v ∧ tm_v m 1 14 = frt v (sm3 (pt3 m 60)) ∧ tm_v m 1 15 = frb v (sm3 (pt3 m 60))
theorem pX0_value {w n o k a b cap : Int} (hd : 6 ≤ d) (hs : tS μ) (hJ : JU μ ν) (hV : JV μ ν) (hY : JY μ ν) (hmk : tm_v μ 1 13 = tm_v ν 65 30) : cI (WV μ) mX0_value d [(2, 1), (0, w), (0, n), (0, o), (0, k), (0, a), (0, b), (0, cap)] μ (c_value μ ν w n o k a b cap) := by
  have hf : dyA (c_FA μ) ∧ tm_k μ (c_FA μ) = 20 := ⟨hJ.FA.1.2, hJ.FA.1.1.2⟩
  have hT : y_TC (c_FA μ) (WV μ) := tWf_TC hf.1 ⟨rfl, rfl⟩
  have hC : y_VC (WV μ) := tWf_VC hf rfl
  have h13 : ¬ WV μ 1 13 := tWf_no hf (by decide) (tWs_noF rfl)
  have e61 : ∀ t : Int, 61 + t - 61 = t := fun t => by omega
  have fF : ∀ {i : Int}, 53 ≤ i → i ≤ 55 → ∀ {m m' : tm_M} {j : Int}, tFr (tWf [7, 8, 10] [] (c_FA μ)) m m' → tm_v m' i j = tm_v m i j := by
    intro i h1 h2 m m' j h
    refine h.v (fun q => ?_)
    rcases q with q | q
    · rcases q with q | q
      · simp at q; omega
      · cases q
    · have := hf.1; unfold dyA at this; omega
  have w53 : ∀ {m : tm_M} {c j y : Int}, tFr (WV μ) μ m → (0 ≤ c ∧ c < 3) → tFr (WV μ) μ (tm_w m (53 + c) j y) := by
    intro m c j y h hc
    refine h.w (Or.inl (tWs_r (lo := 53) (n := 3) rfl (by omega))) (tS_w h.S (by unfold tfr; omega) _ _)
  have no : ∀ x m, m = tm_w μ 1 10 x → 0 < x → x = r_askv ν w n o k a b cap → c_value μ ν w n o k a b cap 0 m := by
    intro x m e hx ex
    unfold c_value
    rw [if_pos (by omega)]
    exact ⟨rfl, x, ex, e⟩
  -- all is asked well
  have good : (0 ≤ w ∧ w < 4) → (0 ≤ o ∧ o < 4) → y_p ν a → y_p ν b → (1 ≤ n ∧ n ≤ 3) → (1 ≤ k ∧ k ≤ 3) → (1 ≤ cap ∧ cap ≤ 100) → n ≤ tm_v ν 67 w → k ≤ tm_v ν 67 o → y_aw ν w n → y_aw ν o k → r_askv ν w n o k a b cap = 0 → hI (WV μ) μ mX0_value d (c_value μ ν w n o k a b cap) 178 [(0, 2, 1), (2, 0, n), (4, 0, k), (5, 0, a), (6, 0, b), (7, 0, cap), (8, 2, 61 + w), (9, 2, 61 + o), (10, 0, 0)] [] μ := by
    intro hw ho ha hb hn hk hcap hnw hko aw ao h0
    obtain ⟨N, hN⟩ : ∃ N : Nat, k = N := ⟨k.toNat, by omega⟩
    have wo_in : ∀ i j, 0 ≤ y_wo ν w o a b cap i j ∧ y_wo ν w o a b cap i j ≤ 100 := by
      intro i j
      have := y_walk_in (μ := ν) (tm_v ν 68 (64 * w + i)) (tm_v ν 68 (64 * o + j)) a b
      unfold y_wo
      split <;> omega
    -- the end of all
    have told : ∀ m0 m, tFr (WV μ) μ m → wsm m0 m → wb m0 → (∀ i j, 0 ≤ i → i < 3 → 0 ≤ j → j < 3 → tm_v m0 (53 + i) j = if i < n ∧ j < k then y_wo ν w o a b cap i j else 0) → bstV m0 n N allP m → hI (WV μ) μ mX0_value d (c_value μ ν w n o k a b cap) 286 [(0, 2, 1), (2, 0, n), (4, 0, k), (10, 0, 6)] [] m := by
      intro m0 m hm hw0 hwb hX hbst
      obtain ⟨q1, q2, q3⟩ := bstV_end hn (by omega) hbst
      have ecs : y_cs ν w n o k a b cap = cls m0 N := by
        unfold y_cs cls
        rw [hN, Int.toNat_natCast]
        refine List.map_congr_left fun j hj => ?_
        have hj := List.mem_range.mp hj
        have x0 := hX 0 j (by decide) (by decide) (by omega) (by omega)
        have x1 := hX 1 j (by decide) (by decide) (by omega) (by omega)
        have x2 := hX 2 j (by decide) (by decide) (by omega) (by omega)
        rw [show (53 : Int) + 0 = 53 by decide, if_pos ⟨by omega, by omega⟩] at x0
        rw [show (53 : Int) + 1 = 54 by decide] at x1
        rw [show (53 : Int) + 2 = 55 by decide] at x2
        unfold wX
        rw [x0, x1, x2]
        have e1 : (if (1 : Int) < n ∧ (j : Int) < k then y_wo ν w o a b cap 1 j else 0) = if 2 ≤ n then y_wo ν w o a b cap 1 j else 0 := by
          by_cases z : 2 ≤ n
          · rw [if_pos z, if_pos ⟨by omega, by omega⟩]
          · rw [if_neg z, if_neg (by omega)]
        have e2 : (if (2 : Int) < n ∧ (j : Int) < k then y_wo ν w o a b cap 2 j else 0) = if 3 ≤ n then y_wo ν w o a b cap 2 j else 0 := by
          by_cases z : 3 ≤ n
          · rw [if_pos z, if_pos ⟨by omega, by omega⟩]
          · rw [if_neg z, if_neg (by omega)]
        rw [e1, e2]
      refine uX0_value_286 (by omega) hf hm ⟨fun _ m3 e3 m4 e4 => ?_, fun c => absurd c (by decide)⟩
      have F3 : tFr (WV μ) μ m3 := by rw [e3]; exact hm.c (fun q => Or.inl (tWs_in _ rfl)) (tS_c hm.S sf_60 _ _ _ _)
      have F4 : tFr (WV μ) μ m4 := by rw [e4]; exact F3.w (Or.inl (tWs_inF rfl)) (tS_wj F3.S _ (by decide))
      have v45 : tm_v m4 1 45 = tm_v m 1 45 := by rw [e4, tm_vw, if_neg (by omega), e3, tm_vc, if_neg (by omega)]
      have v46 : tm_v m4 1 46 = tm_v m 1 46 := by rw [e4, tm_vw, if_neg (by omega), e3, tm_vc, if_neg (by omega)]
      have v60 : pt3 m4 60 = pt3 m 59 := by
        have : ∀ j, 0 ≤ j → j < 3 → tm_v m4 60 j = tm_v m 59 j := fun j j0 j1 => by rw [e4, tm_vw, if_neg (by omega), e3, tm_vc, if_pos ⟨rfl, by omega⟩, show (0 : Int) + (j - 0) = j by omega]
        unfold pt3
        rw [this 0 (by decide) (by decide), this 1 (by decide) (by decide), this 2 (by decide) (by decide)]
      rw [v45, v46]
      refine tC.I (pX0_tell (by omega) F4.S (by omega) (by omega)) (fun r m5 f5 h5 => ⟨by rw [h5.1]; decide, ?_⟩)
      have hv := c_fr_v (μ := m4) (tm_v m 1 45) (tm_v m 1 46)
      have e60 : pt3 m5 60 = pt3 m 59 := by rw [← v60]; unfold pt3; rw [f5.v (tWs_no _ rfl), f5.v (tWs_no _ rfl), f5.v (tWs_no _ rfl)]
      have e47 : tm_v m5 1 47 = n := by rw [f5.v (tWs_noF rfl), e4]; simp [tm_vw]
      unfold c_value
      rw [if_neg (by omega), h5.1, e60, e47, ecs]
      refine ⟨rfl, ?_, rfl, q2.2.2.2, tm_v m 1 45, q3, ?_, ?_⟩
      · rw [h5.2]; exact hv.1
      · rw [h5.2, ← q2.1]; exact hv.2.1
      · rw [h5.2, ← q2.1]; exact hv.2.2
    -- the lines
    have crosses : ∀ m0, wb m0 → (∀ i j, 0 ≤ i → i < 3 → 0 ≤ j → j < 3 → tm_v m0 (53 + i) j = if i < n ∧ j < k then y_wo ν w o a b cap i j else 0) → ∀ (x : Int), 0 ≤ x → x < 6 → (∀ m, tFr (WV μ) μ m → wsm m0 m → bstV m0 n N (fun i j => allP i j ∧ i < x + 1) m → hI (WV μ) μ mX0_value d (c_value μ ν w n o k a b cap) 286 [(0, 2, 1), (2, 0, n), (4, 0, k), (10, 0, x + 1)] [] m) → ∀ (q : Nat) (y : Int) (m : tm_M), 0 ≤ y → y + q = x → tFr (WV μ) μ m → wsm m0 m → bstV m0 n N (fun i j => allP i j ∧ (i < x ∨ (i = x ∧ j < y))) m → hI (WV μ) μ mX0_value d (c_value μ ν w n o k a b cap) 296 [(0, 2, 1), (2, 0, n), (4, 0, k), (10, 0, x), (11, 0, y)] [] m := by
      intro m0 hwb hX x x0 x6 kk q
      induction q with
      | zero =>
        intro y m y0 hy hm hw0 hbst
        refine uX0_value_296 (by omega) hf hm ⟨fun _ => ?_, fun c => by omega⟩
        rw [w32_id (x := x + 1) (by omega) (by omega)]
        refine kk m hm hw0 ?_
        rcases hbst with ⟨h1, h2⟩ | ⟨h1, h2, h3, h4, h5⟩
        · exact Or.inl ⟨h1, fun i j hp => h2 i j ⟨hp.1, by have := hp.1; have := hp.2; unfold allP at *; omega⟩⟩
        · exact Or.inr ⟨h1, h2, h3, h4, fun i j hp => h5 i j ⟨hp.1, by have := hp.1; have := hp.2; unfold allP at *; omega⟩⟩
      | succ q ih =>
        intro y m y0 hy hm hw0 hbst
        refine uX0_value_296 (by omega) hf hm ⟨fun c => by omega, fun _ => ?_⟩
        refine tC.V (pX0_lineA hm.S (wsm_b hw0 hwb) (by omega)) (fun m1 f1 h1 => ?_)
        have F1 := hm.tr f1 (tWf_subL rfl)
        have hw1 : wsm m0 m1 := wsm_tr hw0 (fun i j a b => f1.v (tWs_nr (lo := 53) (n := 3) rfl (by omega)))
        refine tC.V (pX0_lineB F1.S (wsm_b hw1 hwb) (by omega)) (fun m2 f2 h2 => ?_)
        have F2 := F1.tr f2 (tWf_subL rfl)
        have hw2 : wsm m0 m2 := wsm_tr hw1 (fun i j a b => f2.v (tWs_nr (lo := 53) (n := 3) rfl (by omega)))
        rw [wsm_L hw0] at h1
        rw [wsm_L hw1] at h2
        have eb : bsT m2 = bsT m := by
          unfold bsT pt3
          rw [f2.v (tWs_noF rfl), f2.v (tWs_noF rfl), f2.v (tWs_no _ rfl), f2.v (tWs_no _ rfl), f2.v (tWs_no _ rfl), f1.v (tWs_noF rfl), f1.v (tWs_noF rfl), f1.v (tWs_no _ rfl), f1.v (tWs_no _ rfl), f1.v (tWs_no _ rfl)]
        have hbst2 : bstV m0 n N (fun i j => allP i j ∧ (i < x ∨ (i = x ∧ j < y))) m2 := by
          obtain ⟨b1, b2, b3⟩ := bsT_eq eb
          have b4 : pt3 m2 59 = pt3 m 59 := by unfold pt3; rw [b3 0 (by decide) (by decide), b3 1 (by decide) (by decide), b3 2 (by decide) (by decide)]
          unfold bstV
          rw [b1, b2, b4]
          exact hbst
        have hcr := pX0_cross (d := d - 1) (n := n) (k := N) (A := lnC m0 x) (B := lnC m0 y) (by omega) F2.S (wsm_b hw2 hwb) hn (by omega) (fun i i0 i1 => ⟨by rw [f2.v (tWs_no _ rfl)]; exact h1 i i0 i1, lnC_in hwb x i i0 i1⟩) (fun i i0 i1 => ⟨h2 i i0 i1, lnC_in hwb y i i0 i1⟩) (bstV_bok hbst2)
        rw [← hN] at hcr
        refine tC.V hcr (fun m3 f3 h3 => ?_)
        have F3 := F2.tr f3 (tWf_subL rfl)
        have hw3 : wsm m0 m3 := wsm_tr hw2 (fun i j a b => f3.v (tWs_nr (lo := 53) (n := 3) rfl (by omega)))
        rw [w32_id (x := y + 1) (by omega) (by omega)]
        refine ih (y + 1) m3 (by omega) (by omega) F3 hw3 (bstV_step hbst2 hw2 h3 (fun i j hp => ?_))
        obtain ⟨p1, p2⟩ := hp
        rcases p2 with z | ⟨z1, z2⟩
        · exact Or.inl ⟨p1, Or.inl z⟩
        · by_cases e : j = y
          · exact Or.inr ⟨z1, e⟩
          · exact Or.inl ⟨p1, Or.inr ⟨z1, by omega⟩⟩
    have lines : ∀ m0, wb m0 → (∀ i j, 0 ≤ i → i < 3 → 0 ≤ j → j < 3 → tm_v m0 (53 + i) j = if i < n ∧ j < k then y_wo ν w o a b cap i j else 0) → ∀ (q : Nat) (x : Int) (m : tm_M), 0 ≤ x → x + q = 6 → tFr (WV μ) μ m → wsm m0 m → bstV m0 n N (fun i j => allP i j ∧ i < x) m → hI (WV μ) μ mX0_value d (c_value μ ν w n o k a b cap) 286 [(0, 2, 1), (2, 0, n), (4, 0, k), (10, 0, x)] [] m := by
      intro m0 hwb hX q
      induction q with
      | zero =>
        intro x m x0 hx hm hw0 hbst
        rw [show x = 6 by omega]
        refine told m0 m hm hw0 hwb hX ?_
        rcases hbst with ⟨h1, h2⟩ | ⟨h1, h2, h3, h4, h5⟩
        · exact Or.inl ⟨h1, fun i j hp => h2 i j ⟨hp, by unfold allP at hp; omega⟩⟩
        · exact Or.inr ⟨h1, h2, h3, h4, fun i j hp => h5 i j ⟨hp, by unfold allP at hp; omega⟩⟩
      | succ q ih =>
        intro x m x0 hx hm hw0 hbst
        refine uX0_value_286 (by omega) hf hm ⟨fun c => by omega, fun _ => ?_⟩
        refine crosses m0 hwb hX x x0 (by omega) (fun m' g1 g2 g3 => ih (x + 1) m' (by omega) (by omega) g1 g2 g3) x.toNat 0 m (by omega) (by omega) hm hw0 ?_
        rcases hbst with ⟨h1, h2⟩ | ⟨h1, h2, h3, h4, h5⟩
        · exact Or.inl ⟨h1, fun i j hp => h2 i j ⟨hp.1, by have := hp.1; have := hp.2; unfold allP at *; omega⟩⟩
        · exact Or.inr ⟨h1, h2, h3, h4, fun i j hp => h5 i j ⟨hp.1, by have := hp.1; have := hp.2; unfold allP at *; omega⟩⟩
    -- what pairs of picks are worth
    have inner : ∀ (i : Int), 0 ≤ i → i < 3 → (∀ m, tFr (WV μ) μ m → (∀ i' j', 0 ≤ i' → i' < 3 → 0 ≤ j' → j' < 3 → 3 * i' + j' < 3 * (i + 1) → tm_v m (53 + i') j' = if i' < n ∧ j' < k then y_wo ν w o a b cap i' j' else 0) → hI (WV μ) μ mX0_value d (c_value μ ν w n o k a b cap) 178 [(0, 2, 1), (2, 0, n), (4, 0, k), (5, 0, a), (6, 0, b), (7, 0, cap), (8, 2, 61 + w), (9, 2, 61 + o), (10, 0, i + 1)] [] m) → ∀ (q : Nat) (j : Int) (m : tm_M), 0 ≤ j → j + q = 3 → tFr (WV μ) μ m → (∀ i' j', 0 ≤ i' → i' < 3 → 0 ≤ j' → j' < 3 → 3 * i' + j' < 3 * i + j → tm_v m (53 + i') j' = if i' < n ∧ j' < k then y_wo ν w o a b cap i' j' else 0) → hI (WV μ) μ mX0_value d (c_value μ ν w n o k a b cap) 187 [(0, 2, 1), (2, 0, n), (4, 0, k), (5, 0, a), (6, 0, b), (7, 0, cap), (8, 2, 61 + w), (9, 2, 61 + o), (10, 0, i), (11, 0, j)] [] m := by
      intro i i0 i3 kk q
      induction q with
      | zero =>
        intro j m j0 hj hm hall
        refine uX0_value_187 (ν := ν) (by omega) hf hm ⟨fun _ => ?_, fun c => by omega⟩
        rw [w32_id (x := i + 1) (by omega) (by omega)]
        exact kk m hm (fun i' j' a1 a2 a3 a4 a5 => hall i' j' a1 a2 a3 a4 (by omega))
      | succ q ih =>
        intro j m j0 hj hm hall
        have e1 : w32 (j + 1) = j + 1 := w32_id (by omega) (by omega)
        have nx : ∀ y m8 m7, m8 = tm_w m7 (53 + i) j y → tFr (WV μ) μ m7 → (∀ i' j', 53 ≤ i' → i' ≤ 55 → tm_v m7 i' j' = tm_v m i' j') → (y = if i < n ∧ j < k then y_wo ν w o a b cap i j else 0) → hI (WV μ) μ mX0_value d (c_value μ ν w n o k a b cap) 187 [(0, 2, 1), (2, 0, n), (4, 0, k), (5, 0, a), (6, 0, b), (7, 0, cap), (8, 2, 61 + w), (9, 2, 61 + o), (10, 0, i), (11, 0, w32 (j + 1))] [] m8 := by
          intro y m8 m7 e8 hm7 hsame hy
          rw [e1]
          refine ih (j + 1) m8 (by omega) (by omega) (by rw [e8]; exact w53 hm7 ⟨i0, i3⟩) (fun i' j' a1 a2 a3 a4 a5 => ?_)
          rw [e8, tm_vw]
          by_cases e : i' = i ∧ j' = j
          · rw [if_pos ⟨by omega, e.2⟩, e.1, e.2]; exact hy
          · rw [if_neg (by omega), hsame _ _ (by omega) (by omega)]; exact hall i' j' a1 a2 a3 a4 (by omega)
        have zero : ¬ (i < n ∧ j < k) → hI (WV μ) μ mX0_value d (c_value μ ν w n o k a b cap) 233 [(0, 2, 1), (2, 0, n), (4, 0, k), (5, 0, a), (6, 0, b), (7, 0, cap), (8, 2, 61 + w), (9, 2, 61 + o), (10, 0, i), (11, 0, j)] [] m := fun h => uX0_value_233 (by omega) hf hm ⟨⟨i0, i3⟩, by omega, fun m8 e8 => nx _ m8 m e8 hm (fun _ _ _ _ => rfl) (by rw [if_neg h]; omega)⟩
        refine uX0_value_187 (ν := ν) (by omega) hf hm ⟨fun c => by omega, fun _ => ⟨fun c => zero (by omega), fun c1 => ⟨fun c => zero (by omega), fun c2 => ?_⟩⟩⟩
        have hwi := aw i i0 c1
        have hoj := ao j j0 c2
        have h43 := hV.1.1
        have hmkF := hmk
        rw [e61, e61, w32_id (x := tm_v ν 68 (64 * w + i)) (by omega) (by omega), w32_id (x := tm_v ν 68 (64 * o + j)) (by omega) (by omega)]
        refine ⟨⟨by omega, sak_2 hs hw.1 hw.2⟩, ⟨⟨hJ, hY⟩, ⟨by omega, by omega, by rw [e61]; omega⟩, i0, by omega⟩, ⟨by omega, sak_2 hs ho.1 ho.2⟩, ⟨⟨hJ, hY⟩, ⟨by omega, by omega, by rw [e61]; omega⟩, j0, by omega⟩, ?_⟩
        refine tC.I (pX0_meetF (by omega) hm hT hC h13 hJ hV hmk ⟨hV.1, hwi⟩ ⟨hV.1, hoj⟩ ha hb) ?_
        rintro r m2 f2 rfl
        have hwk := y_walk_in (μ := ν) (tm_v ν 68 (64 * w + i)) (tm_v ν 68 (64 * o + j)) a b
        have F2 := hm.tr f2 (tWf_sub rfl)
        refine ⟨⟨i0, i3⟩, fun c3 => ⟨by omega, fun m8 e8 => nx _ m8 m2 e8 F2 (fun i' j' a1 a2 => fF a1 a2 f2) ?_⟩, fun c3 => ⟨by omega, fun m8 e8 => nx _ m8 m2 e8 F2 (fun i' j' a1 a2 => fF a1 a2 f2) ?_⟩⟩
        · rw [if_pos ⟨c1, c2⟩]; unfold y_wo; rw [if_neg (by omega)]
        · rw [if_pos ⟨c1, c2⟩]; unfold y_wo; rw [if_pos (by omega)]
    have outer : ∀ (q : Nat) (i : Int) (m : tm_M), 0 ≤ i → i + q = 3 → tFr (WV μ) μ m → (∀ i' j', 0 ≤ i' → i' < 3 → 0 ≤ j' → j' < 3 → 3 * i' + j' < 3 * i → tm_v m (53 + i') j' = if i' < n ∧ j' < k then y_wo ν w o a b cap i' j' else 0) → hI (WV μ) μ mX0_value d (c_value μ ν w n o k a b cap) 178 [(0, 2, 1), (2, 0, n), (4, 0, k), (5, 0, a), (6, 0, b), (7, 0, cap), (8, 2, 61 + w), (9, 2, 61 + o), (10, 0, i)] [] m := by
      intro q
      induction q with
      | zero =>
        intro i m i0 hi hm hall
        have hX : ∀ i j, 0 ≤ i → i < 3 → 0 ≤ j → j < 3 → tm_v m (53 + i) j = if i < n ∧ j < k then y_wo ν w o a b cap i j else 0 := fun i' j' a1 a2 a3 a4 => hall i' j' a1 a2 a3 a4 (by omega)
        have hwb : wb m := fun i' j' a1 a2 a3 a4 => by
          rw [hX i' j' a1 a2 a3 a4]
          have := wo_in i' j'
          split <;> omega
        refine uX0_value_178 hf hm ⟨fun _ m3 e3 => ?_, fun c => by omega⟩
        have F3 : tFr (WV μ) μ m3 := by rw [e3]; exact hm.w (Or.inl (tWs_inF rfl)) (tS_wj hm.S _ (by decide))
        exact lines m hwb hX 6 0 m3 (by omega) (by omega) F3 (fun i' j' a1 a2 => by rw [e3, tm_vw, if_neg (by omega)]) (Or.inl ⟨by rw [e3]; simp [tm_vw], fun i' j' hp => by have := hp.1; have := hp.2; unfold allP at *; omega⟩)
      | succ q ih =>
        intro i m i0 hi hm hall
        refine uX0_value_178 hf hm ⟨fun c => by omega, fun _ => ?_⟩
        exact inner i i0 (by omega) (fun m' g1 g2 => ih (i + 1) m' (by omega) (by omega) g1 g2) 3 0 m (by omega) (by omega) hm (fun i' j' a1 a2 a3 a4 a5 => hall i' j' a1 a2 a3 a4 (by omega))
    exact outer 3 0 μ (by omega) (by omega) (tFr.rf hs) (fun i' j' a1 a2 a3 a4 a5 => by omega)
  -- what is asked
  have tr_in : ∀ t, (0 ≤ t ∧ t < 4) → y_trayed ν t ≠ 1 ∧ (y_trayed ν t = 0 ↔ 0 ≤ tm_v ν 67 t) ∧ 0 ≤ y_trayed ν t := fun t ht => by
    unfold y_trayed
    rw [if_neg (by omega)]
    split
    · exact ⟨by decide, ⟨fun h => absurd h (by decide), fun h => by omega⟩, by decide⟩
    · exact ⟨by decide, ⟨fun _ => by omega, fun _ => rfl⟩, by decide⟩
  have tr_out : ∀ t, ¬ (0 ≤ t ∧ t < 4) → y_trayed ν t = 1 := fun t ht => by unfold y_trayed; rw [if_pos (by omega)]
  have row : ∀ t, (0 ≤ t ∧ t < 4) → (tm_v μ (61 + t) 0 = 0 ↔ ¬ 0 ≤ tm_v ν 67 t) := fun t ht => by
    have h := hY.2.1 t ht.1 ht.2
    refine ⟨fun e hn => ?_, fun hn => (h.1 (by omega)).1⟩
    have := (h.2 hn).2.1.1.1
    unfold c_Y at this
    omega
  have hI0 : r_askv ν w n o k a b cap = r_askv ν w n o k a b cap := rfl
  refine t_of (uX0_value_0 (ν := ν) (by omega) hf (tFr.rf hs) ⟨fun c => uX0_value_14 (by omega) hf (tFr.rf hs) (fun m e => no 1 m e (by decide) ?_), fun hw => ⟨fun ho => ⟨hJ, fun c => uX0_value_38 (by omega) hf (tFr.rf hs) (fun m e => no 2 m e (by decide) ?_), fun ha => ⟨fun hb => ⟨hw, ho, fun c => uX0_value_76 (by omega) hf (tFr.rf hs) (fun m e => no 3 m e (by decide) ?_), fun cw => ⟨fun co => ?_, fun c => uX0_value_76 (by omega) hf (tFr.rf hs) (fun m e => no 3 m e (by decide) ?_)⟩⟩, fun c => uX0_value_38 (by omega) hf (tFr.rf hs) (fun m e => no 2 m e (by decide) ?_)⟩⟩, fun c => uX0_value_14 (by omega) hf (tFr.rf hs) (fun m e => no 1 m e (by decide) ?_)⟩⟩)
  · unfold r_askv; rw [if_pos (Or.inl (tr_out w c))]
  · unfold r_askv; rw [if_neg (fun q => by rcases q with q | q; exact (tr_in w hw).1 q; exact (tr_in o ho).1 q), if_pos (Or.inl c)]
  · unfold r_askv
    have := (tr_in w hw).2
    have := (row w hw).mp c
    rw [if_neg (fun q => by rcases q with q | q; exact (tr_in w hw).1 q; exact (tr_in o ho).1 q), if_neg (fun q => by rcases q with q | q; exact q ha; exact q hb), if_pos (Or.inl (by omega))]
  · have nw : 0 ≤ tm_v ν 67 w := by have := (row w hw); omega
    have nO : 0 ≤ tm_v ν 67 o := by have := (row o ho); omega
    have tw := ((tr_in w hw).2.1).mpr nw
    have to := ((tr_in o ho).2.1).mpr nO
    have base : r_askv ν w n o k a b cap = if ¬ (1 ≤ n ∧ n ≤ 3) ∨ ¬ (1 ≤ k ∧ k ≤ 3) ∨ ¬ (1 ≤ cap ∧ cap ≤ 100) then 5 else if tm_v ν 67 w < n ∨ tm_v ν 67 o < k then 4 else @ite Int (y_aw ν w n ∧ y_aw ν o k) (Classical.propDecidable _) 0 2 := by
      unfold r_askv
      rw [if_neg (fun q => by rcases q with q | q; exact (tr_in w hw).1 q; exact (tr_in o ho).1 q), if_neg (fun q => by rcases q with q | q; exact q ha; exact q hb), if_neg (by omega)]
    have n117 : (¬ (1 ≤ n ∧ n ≤ 3) ∨ ¬ (1 ≤ k ∧ k ≤ 3) ∨ ¬ (1 ≤ cap ∧ cap ≤ 100)) → hI (WV μ) μ mX0_value d (c_value μ ν w n o k a b cap) 117 [(0, 2, 1)] [] μ := fun h => uX0_value_117 (by omega) hf (tFr.rf hs) (fun m e => no 5 m e (by decide) (by rw [base, if_pos h]))
    refine ⟨fun c => n117 (by omega), fun c1 => ⟨fun c => n117 (by omega), fun c2 => ⟨fun c => n117 (by omega), fun c3 => ⟨fun c => n117 (by omega), fun c4 => ⟨fun c => n117 (by omega), fun c5 => ⟨fun c6 => ?_, fun c => n117 (by omega)⟩⟩⟩⟩⟩⟩
    have base2 : r_askv ν w n o k a b cap = if tm_v ν 67 w < n ∨ tm_v ν 67 o < k then 4 else @ite Int (y_aw ν w n ∧ y_aw ν o k) (Classical.propDecidable _) 0 2 := by rw [base, if_neg (by omega)]
    have n142 : (tm_v ν 67 w < n ∨ tm_v ν 67 o < k) → hI (WV μ) μ mX0_value d (c_value μ ν w n o k a b cap) 142 [(0, 2, 1)] [] μ := fun h => uX0_value_142 (by omega) hf (tFr.rf hs) (fun m e => no 4 m e (by decide) (by rw [base2, if_pos h]))
    rw [e61, e61]
    refine ⟨⟨⟨hJ, hY⟩, by omega, by omega, by rw [e61]; exact nw⟩, fun c => n142 (Or.inl c), fun c7 => ⟨⟨⟨hJ, hY⟩, by omega, by omega, by rw [e61]; exact nO⟩, fun c8 => ?_, fun c => n142 (Or.inr c)⟩⟩
    have base3 : r_askv ν w n o k a b cap = @ite Int (y_aw ν w n ∧ y_aw ν o k) (Classical.propDecidable _) 0 2 := by rw [base2, if_neg (by omega)]
    have n169 : ¬ (y_aw ν w n ∧ y_aw ν o k) → ∀ m', m' = μ → hI (WV μ) μ mX0_value d (c_value μ ν w n o k a b cap) 169 [(0, 2, 1)] [] m' := fun h m' em => by
      rw [em]
      exact uX0_value_169 (by omega) hf (tFr.rf hs) (fun m e => no 2 m e (by decide) (by rw [base3, if_neg h]))
    refine tC.I (pX0_areWays0 (by omega) hs hJ hV hY hw.1 hw.2 c7 (by omega)) (fun r m2 f2 hr => ?_)
    have em := f2.same
    refine ⟨fun cr => n169 (fun h => ?_) m2 em, fun cr => ?_⟩
    · rcases hr with ⟨z, _⟩ | ⟨_, z⟩
      · omega
      · exact z h.1
    · have haw : y_aw ν w n := by
        rcases hr with ⟨_, z⟩ | ⟨z, _⟩
        · exact z
        · exact absurd z cr
      rw [em]
      refine tC.I (pX0_areWays0 (by omega) hs hJ hV hY ho.1 ho.2 c8 (by omega)) (fun r3 m3 f3 hr3 => ?_)
      have em3 := f3.same
      refine ⟨fun cr3 => ?_, fun cr3 => n169 (fun h => ?_) m3 em3⟩
      · have hao : y_aw ν o k := by
          rcases hr3 with ⟨_, z⟩ | ⟨z, _⟩
          · exact z
          · exact absurd z cr3
        rw [em3]
        exact good hw ho ⟨hJ.1, ha⟩ ⟨hJ.1, hb⟩ ⟨c1, c2⟩ ⟨c3, c4⟩ ⟨c5, c6⟩ c7 c8 haw hao (by rw [base3, if_pos ⟨haw, hao⟩])
      · rcases hr3 with ⟨z, _⟩ | ⟨_, z⟩
        · omega
        · exact z h.2
  · unfold r_askv
    have := (tr_in o ho).2
    have := (row o ho).mp c
    rw [if_neg (fun q => by rcases q with q | q; exact (tr_in w hw).1 q; exact (tr_in o ho).1 q), if_neg (fun q => by rcases q with q | q; exact q ha; exact q hb), if_pos (Or.inr (by omega))]
  · unfold r_askv; rw [if_neg (fun q => by rcases q with q | q; exact (tr_in w hw).1 q; exact (tr_in o ho).1 q), if_pos (Or.inr c)]
  · unfold r_askv; rw [if_pos (Or.inr (tr_out o c))]
/-- the component's chances are the model's -/
def JC (μ ν : tm_M) : Prop := tm_v μ 1 47 = tm_v ν 65 54 ∧ (0 ≤ tm_v ν 65 54 ∧ tm_v ν 65 54 ≤ 3) ∧ (0 < tm_v ν 65 54 → in3 (pt3 μ 60) 20000 ∧ 0 < sm3 (pt3 μ 60) ∧ 0 < tm_v ν 65 59 ∧ ∀ k, 0 ≤ k → k < 3 → tm_v μ 60 k * tm_v ν 65 59 = tm_v ν 93 k * sm3 (pt3 μ 60))
theorem pX0_chance {k : Int} (hd : 2 ≤ d) (hs : tS μ) (hF : JF μ ν) (hC : JC μ ν) : cI (tWs [] [(1, 10), (1, 14), (1, 15)]) mX0_chance d [(2, 1), (0, k)] μ (c_o (r_chance ν k)) := by
  obtain ⟨h1, h2, h3⟩ := hC
  have no : ∀ m, m = tm_w μ 1 10 8 → ¬ (0 ≤ k ∧ k < tm_v ν 65 54) → c_o (r_chance ν k) 0 m := fun m e h => by
    unfold r_chance
    rw [if_neg h, e]
    exact ⟨rfl, by simp [tm_vw], by simp [tm_vw]; exact hF.1, by simp [tm_vw]; exact hF.2⟩
  refine t_of (uX0_chance_0 (by omega) (tFr.rf hs) ⟨fun c m e => no m e (by omega), fun c0 => ?_⟩)
  rw [h1]
  refine ⟨fun c1 => ?_, fun c m e => no m e (by omega)⟩
  obtain ⟨g1, g2, g3, g4⟩ := h3 (by omega)
  have es : sm3 (pt3 μ 60) = tm_v μ 60 0 + tm_v μ 60 1 + tm_v μ 60 2 := rfl
  have i0 : 0 ≤ tm_v μ 60 0 ∧ tm_v μ 60 0 ≤ 20000 := g1.1
  have i1 : 0 ≤ tm_v μ 60 1 ∧ tm_v μ 60 1 ≤ 20000 := g1.2.1
  have i2 : 0 ≤ tm_v μ 60 2 ∧ tm_v μ 60 2 ≤ 20000 := g1.2.2
  have ik : 0 ≤ tm_v μ 60 k ∧ tm_v μ 60 k ≤ 20000 := by
    rcases (show k = 0 ∨ k = 1 ∨ k = 2 by omega) with e | e | e <;> subst e
    · exact i0
    · exact i1
    · exact i2
  rw [w64_id (x := tm_v μ 60 0 + tm_v μ 60 1) (by omega) (by omega), w64_id (by omega) (by omega), ← es]
  refine ⟨by omega, tC.I (pX0_tell (by omega) hs (by omega) (by omega)) (fun r m fm hr => ⟨by rw [hr.1]; decide, ?_⟩)⟩
  have hv := c_fr_v (μ := μ) (tm_v μ 60 k) (sm3 (pt3 μ 60))
  have fe := fr_eq g2 g3 (g4 k c0 (by omega))
  unfold r_chance
  rw [if_pos ⟨c0, c1⟩, hr.1, hr.2, ← fe.1, ← fe.2]
  exact ⟨rfl, hv⟩
end C0Y
