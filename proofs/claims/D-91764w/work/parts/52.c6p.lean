/-! CONTRACTS of the model: places that are parted -/
section C6P
variable {d : Nat} {μ μ0 : tm_M} {W : Int → Int → Prop}
/-- pairs that steps keep, and that no step brings together -/
def saf (μ : tm_M) (S : Int → Int → Prop) : Prop := ∀ p q, S p q → ∀ s, 1 ≤ s → s ≤ 4 → ¬ y_met μ (y_go μ p s) (y_go μ q s) p q ∧ S (y_go μ p s) (y_go μ q s)
def prt (μ : tm_M) (a b : Int) : Prop := ∃ S, saf μ S ∧ S a b
def bq_c (m : tm_M) : Int := sm (fun i => if tm_v m 95 i = 0 then 1 else 0) 64
/-- what the passes keep -/
def bq_i (μ : tm_M) (a b : Int) (m : tm_M) : Prop := (∀ i, 0 ≤ i → i < 64 → 0 ≤ tm_v m 95 i ∧ tm_v m 95 i ≤ 1) ∧ tm_v m 95 (8 * a + b) ≠ 0 ∧ (∀ p q, 0 ≤ p → p < 8 → 0 ≤ q → q < 8 → tm_v m 95 (8 * p + q) ≠ 0 → (y_p μ p ∧ y_p μ q) ∧ ∀ S, saf μ S → S a b → S p q)
/-- the steps of a pair below s are seen -/
def bq_k (μ m : tm_M) (p q s : Int) : Prop := ∀ j, 1 ≤ j → j < s → ¬ y_met μ (y_go μ p j) (y_go μ q j) p q ∧ tm_v m 95 (8 * y_go μ p j + y_go μ q j) ≠ 0
/-- within a pass: nothing is changed, and what lies ahead is seen; or more is reached -/
def bq_p (μ : tm_M) (a b : Int) (m0 : tm_M) (v3 : Int) (m : tm_M) (i : Int) : Prop := tFr wX6_isBrought μ m ∧ bq_i μ a b m ∧ bq_c m ≤ bq_c m0 ∧ ((v3 = 0 ∧ m = m0 ∧ ∀ p q, y_p μ p → y_p μ q → tm_v μ 65 20 * p + q < i → tm_v m0 95 (8 * p + q) ≠ 0 → bq_k μ m0 p q 5) ∨ (v3 = 1 ∧ bq_c m < bq_c m0))
theorem bq_c0 (m : tm_M) : 0 ≤ bq_c m ∧ bq_c m ≤ 64 := by
  unfold bq_c
  have := sm_bd (f := fun i => if tm_v m 95 i = 0 then 1 else 0) (n := 64) (c := 1) (fun i _ => by split <;> omega)
  omega
theorem pX6_isBrought {a b : Int} (hd : 3 ≤ d) (hs : tS μ) (ha : y_p μ a) (hb : y_p μ b) : cI wX6_isBrought mX6_isBrought d [(2, 65), (0, a), (0, b)] μ (fun r _ => r = @ite Int (prt μ a b) (Classical.propDecidable _) 0 1) := by
  have hW := ha.1
  have h20 := hW.1
  have a8 := y_p8 ha
  have b8 := y_p8 hb
  -- the steps of a reached pair
  have steps : ∀ (C : Int) (m0 : tm_M) (p q : Int), C ≤ bq_c m0 → y_p μ p → y_p μ q → ∀ (n : Nat) (s v3 : Int) (m : tm_M), 1 ≤ s → s + n = 5 → tFr wX6_isBrought μ m → bq_i μ a b m → bq_c m ≤ C → tm_v m 95 (8 * p + q) ≠ 0 → ((v3 = 0 ∧ m = m0 ∧ bq_k μ m0 p q s) ∨ (v3 = 1 ∧ bq_c m < bq_c m0)) →
      (∀ v3' m', tFr wX6_isBrought μ m' → bq_i μ a b m' → bq_c m' ≤ C → ((v3' = 0 ∧ m' = m0 ∧ bq_k μ m0 p q 5) ∨ (v3' = 1 ∧ bq_c m' < bq_c m0)) → hI wX6_isBrought μ mX6_isBrought d (fun r _ => r = @ite Int (prt μ a b) (Classical.propDecidable _) 0 1) 58 [(0, 2, 65), (3, 0, v3'), (4, 0, p), (5, 0, q + 1)] [] m') →
      hI wX6_isBrought μ mX6_isBrought d (fun r _ => r = @ite Int (prt μ a b) (Classical.propDecidable _) 0 1) 70 [(0, 2, 65), (3, 0, v3), (4, 0, p), (5, 0, q), (6, 0, s)] [] m := by
    intro C m0 p q hC hp hq n
    have p8 := y_p8 hp
    have q8 := y_p8 hq
    have eq1 : w32 (q + 1) = q + 1 := w32_id (by omega) (by omega)
    induction n with
    | zero =>
      intro s v3 m s1 sn hm hi hc hne hor kk
      refine uX6_isBrought_70 hd hm ⟨fun c => ?_, fun c => by omega⟩
      rw [eq1]
      refine kk v3 m hm hi hc ?_
      rw [show s = 5 by omega] at hor
      exact hor
    | succ n ih =>
      intro s v3 m s1 sn hm hi hc hne hor kk
      have gx := y_p8 (y_go_p (s := s) hp)
      have gy := y_p8 (y_go_p (s := s) hq)
      have e1 : w32 (s + 1) = s + 1 := w32_id (by omega) (by omega)
      refine uX6_isBrought_70 hd hm ⟨fun c => by omega, fun c => ?_⟩
      rw [w32_8 p8 q8, e1]
      refine ⟨by omega, fun c2 => absurd c2 hne, fun c2 => ⟨⟨hp, by omega, by omega⟩, ?_⟩⟩
      rintro x rfl
      refine ⟨⟨hq, by omega, by omega⟩, ?_⟩
      rintro y rfl
      rw [w32_8 gx gy]
      have hin := (hi.2.2 p q p8.1 p8.2 q8.1 q8.2 hne).2
      have hi2 : ¬ y_met μ (y_go μ p s) (y_go μ q s) p q → bq_i μ a b (tm_w m 95 (8 * y_go μ p s + y_go μ q s) 1) := by
        intro hmet
        refine ⟨fun i i0 i1 => ?_, ?_, fun p' q' p0 p1 q0 q1 h => ?_⟩
        · rw [tm_vw]; split
          · omega
          · exact hi.1 i i0 i1
        · rw [tm_vw]; split
          · decide
          · exact hi.2.1
        · rw [tm_vw] at h
          by_cases e : 8 * p' + q' = 8 * y_go μ p s + y_go μ q s
          · rw [show p' = y_go μ p s by omega, show q' = y_go μ q s by omega]
            exact ⟨⟨y_go_p hp, y_go_p hq⟩, fun S hS hab => (hS p q (hin S hS hab) s s1 (by omega)).2⟩
          · rw [if_neg (fun k => e k.2)] at h
            exact hi.2.2 p' q' p0 p1 q0 q1 h
      have hf2 : tFr wX6_isBrought μ (tm_w m 95 (8 * y_go μ p s + y_go μ q s) 1) := hm.w (tWs_in _ rfl) (tS_w hm.S sf_95 _ _)
      have ev : ∀ i, tm_v (tm_w m 95 (8 * y_go μ p s + y_go μ q s) 1) 95 i = if i = 8 * y_go μ p s + y_go μ q s then 1 else tm_v m 95 i := by intro i; simp [tm_vw]
      have hle : bq_c (tm_w m 95 (8 * y_go μ p s + y_go μ q s) 1) ≤ bq_c m := by
        unfold bq_c
        simp only [ev]
        refine sm_le (fun i hi => ?_)
        by_cases c : (i : Int) = 8 * y_go μ p s + y_go μ q s
        · rw [if_pos c, if_neg (by decide)]; split <;> omega
        · rw [if_neg c]; exact Int.le_refl _
      have hlt : tm_v m 95 (8 * y_go μ p s + y_go μ q s) = 0 → bq_c (tm_w m 95 (8 * y_go μ p s + y_go μ q s) 1) < bq_c m := by
        intro hz
        unfold bq_c
        simp only [ev]
        refine sm_lt (fun i hi => ?_) (j := (8 * y_go μ p s + y_go μ q s).toNat) (by omega) ?_
        · by_cases c : (i : Int) = 8 * y_go μ p s + y_go μ q s
          · rw [if_pos c, if_neg (by decide)]; split <;> omega
          · rw [if_neg c]; exact Int.le_refl _
        · rw [show (((8 * y_go μ p s + y_go μ q s).toNat : Nat) : Int) = 8 * y_go μ p s + y_go μ q s by omega, if_pos rfl, if_neg (by decide), if_pos hz]
          decide
      have hn2 : tm_v (tm_w m 95 (8 * y_go μ p s + y_go μ q s) 1) 95 (8 * p + q) ≠ 0 := by
        rw [ev]; split
        · decide
        · exact hne
      refine ⟨fun c3 => ⟨fun c4 => ⟨by omega, ?_⟩, fun c4 => ⟨by omega, fun c5 => ?_, fun c5 => ?_⟩⟩, fun c3 => ?_⟩
      · rintro _ rfl
        refine ih (s + 1) 1 _ (by omega) (by omega) hf2 (hi2 c3) (by omega) hn2 (Or.inr ⟨rfl, ?_⟩) kk
        rcases hor with ⟨h, _⟩ | ⟨_, h⟩
        · exact absurd h c4
        · omega
      · rintro _ rfl
        have e95 : tm_v m 95 (8 * y_go μ p s + y_go μ q s) = 1 := by have := hi.1 (8 * y_go μ p s + y_go μ q s) (by omega) (by omega); omega
        have em : tm_w m 95 (8 * y_go μ p s + y_go μ q s) 1 = m := by
          have := tm_wv m 95 (8 * y_go μ p s + y_go μ q s)
          rw [e95] at this
          exact this
        rw [em]
        refine ih (s + 1) 0 m (by omega) (by omega) hm hi hc hne ?_ kk
        rcases hor with ⟨_, h1, h2⟩ | ⟨h, _⟩
        · refine Or.inl ⟨rfl, h1, fun j j1 j2 => ?_⟩
          by_cases e : j = s
          · rw [e, ← h1]; exact ⟨c3, c5⟩
          · exact h2 j j1 (by omega)
        · omega
      · rintro _ rfl
        exact ih (s + 1) 1 _ (by omega) (by omega) hf2 (hi2 c3) (by omega) hn2 (Or.inr ⟨rfl, by have := hlt c5; omega⟩) kk
      · show (1 : Int) = _
        rw [if_neg]
        rintro ⟨S, hS, hab⟩
        exact (hS p q (hin S hS hab) s s1 (by omega)).1 c3
  have inner : ∀ (m0 : tm_M) (p : Int), y_p μ p → ∀ (n : Nat) (q v3 : Int) (m : tm_M), 0 ≤ q → q + n = tm_v μ 65 20 → bq_p μ a b m0 v3 m (tm_v μ 65 20 * p + q) →
      (∀ v3' m', bq_p μ a b m0 v3' m' (tm_v μ 65 20 * (p + 1)) → hI wX6_isBrought μ mX6_isBrought d (fun r _ => r = @ite Int (prt μ a b) (Classical.propDecidable _) 0 1) 46 [(0, 2, 65), (3, 0, v3'), (4, 0, p + 1)] [] m') →
      hI wX6_isBrought μ mX6_isBrought d (fun r _ => r = @ite Int (prt μ a b) (Classical.propDecidable _) 0 1) 58 [(0, 2, 65), (3, 0, v3), (4, 0, p), (5, 0, q)] [] m := by
    intro m0 p hp n
    have p8 := y_p8 hp
    have np := na_in h20 hp.2.1 hp.2.2
    induction n with
    | zero =>
      intro q v3 m q0 qn hP kk
      refine uX6_isBrought_58 hP.1 ⟨fun c => ?_, fun c => by omega⟩
      rw [w32_id (by omega) (by omega)]
      refine kk v3 m ?_
      rw [np.2.2, show tm_v μ 65 20 * p + tm_v μ 65 20 = tm_v μ 65 20 * p + q by omega]
      exact hP
    | succ n ih =>
      intro q v3 m q0 qn hP kk
      have hq : y_p μ q := ⟨hW, q0, by omega⟩
      have q8 := y_p8 hq
      obtain ⟨f, hi, hle, hor⟩ := hP
      have same : ∀ p' q', y_p μ p' → y_p μ q' → tm_v μ 65 20 * p' + q' < tm_v μ 65 20 * p + (q + 1) → tm_v μ 65 20 * p' + q' < tm_v μ 65 20 * p + q ∨ (p' = p ∧ q' = q) := by
        intro p' q' hp' hq' hl
        by_cases e : tm_v μ 65 20 * p' + q' = tm_v μ 65 20 * p + q
        · right
          have d1 := dm_eq (n := tm_v μ 65 20) (a := p') (b := q') hq'.2.1 hq'.2.2
          have d2 := dm_eq (n := tm_v μ 65 20) (a := p) (b := q) hq.2.1 hq.2.2
          rw [e] at d1
          exact ⟨by rw [← d1.1, d2.1], by rw [← d1.2, d2.2]⟩
        · left; omega
      refine uX6_isBrought_58 f ⟨fun c => by omega, fun c => ?_⟩
      by_cases hne : tm_v m 95 (8 * p + q) = 0
      · refine uX6_isBrought_70 hd f ⟨fun c => by omega, fun c => ?_⟩
        rw [w32_8 p8 q8, w32_id (x := q + 1) (by omega) (by omega)]
        refine ⟨by omega, fun _ => ?_, fun c2 => absurd hne c2⟩
        refine ih (q + 1) v3 m (by omega) (by omega) ⟨f, hi, hle, ?_⟩ kk
        rcases hor with ⟨g1, g2, g3⟩ | g
        · left
          refine ⟨g1, g2, fun p' q' hp' hq' hl h => ?_⟩
          rcases same p' q' hp' hq' hl with h2 | ⟨h2, h3⟩
          · exact g3 p' q' hp' hq' h2 h
          · rw [h2, h3, ← g2] at h
            exact absurd hne h
        · exact Or.inr g
      · by_cases e3 : v3 = 0
        · have hor1 : m = m0 ∧ ∀ p' q', y_p μ p' → y_p μ q' → tm_v μ 65 20 * p' + q' < tm_v μ 65 20 * p + q → tm_v m0 95 (8 * p' + q') ≠ 0 → bq_k μ m0 p' q' 5 := by
            rcases hor with ⟨_, g2, g3⟩ | ⟨g1, _⟩
            · exact ⟨g2, g3⟩
            · omega
          refine steps (bq_c m0) m0 p q (Int.le_refl _) hp hq 4 1 v3 m (by omega) (by omega) f hi hle hne (Or.inl ⟨e3, hor1.1, fun j j0 j1 => by omega⟩) (fun v3' m' f' hi' hc' hor' => ?_)
          refine ih (q + 1) v3' m' (by omega) (by omega) ⟨f', hi', hc', ?_⟩ kk
          rcases hor' with ⟨g1, g2, g3⟩ | g
          · left
            refine ⟨g1, g2, fun p' q' hp' hq' hl h => ?_⟩
            rcases same p' q' hp' hq' hl with h2 | ⟨h2, h3⟩
            · exact hor1.2 p' q' hp' hq' h2 h
            · rw [h2, h3]; exact g3
          · exact Or.inr g
        · have hor1 : v3 = 1 ∧ bq_c m < bq_c m0 := by
            rcases hor with ⟨g1, _⟩ | g
            · exact absurd g1 e3
            · exact g
          refine steps (bq_c m) m0 p q hle hp hq 4 1 v3 m (by omega) (by omega) f hi (Int.le_refl _) hne (Or.inr hor1) (fun v3' m' f' hi' hc' hor' => ?_)
          refine ih (q + 1) v3' m' (by omega) (by omega) ⟨f', hi', by omega, ?_⟩ kk
          rcases hor' with ⟨g1, g2, g3⟩ | g
          · rw [g2] at hc'
            omega
          · exact Or.inr g
  have outer : ∀ (m0 : tm_M) (n : Nat) (p v3 : Int) (m : tm_M), 0 ≤ p → p + n = tm_v μ 65 20 → bq_p μ a b m0 v3 m (tm_v μ 65 20 * p) →
      (∀ v3' m', bq_p μ a b m0 v3' m' (tm_v μ 65 20 * tm_v μ 65 20) → hI wX6_isBrought μ mX6_isBrought d (fun r _ => r = @ite Int (prt μ a b) (Classical.propDecidable _) 0 1) 37 [(0, 2, 65), (3, 0, v3')] [] m') →
      hI wX6_isBrought μ mX6_isBrought d (fun r _ => r = @ite Int (prt μ a b) (Classical.propDecidable _) 0 1) 46 [(0, 2, 65), (3, 0, v3), (4, 0, p)] [] m := by
    intro m0 n
    induction n with
    | zero =>
      intro p v3 m p0 pn hP kk
      refine uX6_isBrought_46 hP.1 ⟨fun c => ?_, fun c => by omega⟩
      rw [show p = tm_v μ 65 20 by omega] at hP
      exact kk v3 m hP
    | succ n ih =>
      intro p v3 m p0 pn hP kk
      refine uX6_isBrought_46 hP.1 ⟨fun c => by omega, fun c => ?_⟩
      refine inner m0 p ⟨hW, p0, c⟩ (tm_v μ 65 20).toNat 0 v3 m (by omega) (by omega) (by rw [Int.add_zero]; exact hP) (fun v3' m' hP' => ?_)
      exact ih (p + 1) v3' m' (by omega) (by omega) hP' kk
  have passes : ∀ (n : Nat) (m : tm_M), bq_c m < n → tFr wX6_isBrought μ m → bq_i μ a b m →
      hI wX6_isBrought μ mX6_isBrought d (fun r _ => r = @ite Int (prt μ a b) (Classical.propDecidable _) 0 1) 37 [(0, 2, 65), (3, 0, 1)] [] m := by
    intro n
    have fin : ∀ m m0, bq_p μ a b m0 0 m (tm_v μ 65 20 * tm_v μ 65 20) → hI wX6_isBrought μ mX6_isBrought d (fun r _ => r = @ite Int (prt μ a b) (Classical.propDecidable _) 0 1) 37 [(0, 2, 65), (3, 0, 0)] [] m := by
      intro m m0 hP
      obtain ⟨f, hi, hle, hor⟩ := hP
      refine uX6_isBrought_37 f ⟨fun _ => ?_, fun c => absurd rfl c⟩
      show (0 : Int) = _
      rcases hor with ⟨_, g2, g3⟩ | ⟨g1, _⟩
      · rw [if_pos]
        refine ⟨fun p q => (y_p μ p ∧ y_p μ q) ∧ tm_v m 95 (8 * p + q) ≠ 0, fun p q h s s1 s4 => ?_, ⟨ha, hb⟩, hi.2.1⟩
        have hn := na_in h20 h.1.1.2.1 h.1.1.2.2
        have hq2 := h.1.2.2
        have hk := g3 p q h.1.1 h.1.2 (by omega) (by rw [← g2]; exact h.2) s s1 (by omega)
        rw [← g2] at hk
        exact ⟨hk.1, ⟨y_go_p h.1.1, y_go_p h.1.2⟩, hk.2⟩
      · omega
    induction n with
    | zero =>
      intro m hn hm hi
      have := (bq_c0 m).1
      omega
    | succ n ih =>
      intro m hn hm hi
      refine uX6_isBrought_37 hm ⟨fun c => absurd c (by decide), fun _ => ?_⟩
      refine outer m (tm_v μ 65 20).toNat 0 0 m (by omega) (by omega) ⟨hm, hi, Int.le_refl _, Or.inl ⟨rfl, rfl, fun p q hp hq hl => by have := Int.mul_nonneg h20.1 hp.2.1; have := hq.2; omega⟩⟩ (fun v3' m' hP => ?_)
      have hP' := hP
      obtain ⟨f, gi, gle, gor⟩ := hP
      rcases gor with ⟨e, _, _⟩ | ⟨e, g⟩
      · rw [e] at hP' ⊢; exact fin m' m hP'
      · rw [e]
        exact ih m' (by omega) f gi
  have start : ∀ (n : Nat) (k : Int) (m : tm_M), 0 ≤ k → k + n = 64 → tFr wX6_isBrought μ m → (∀ i, 0 ≤ i → i < k → tm_v m 95 i = if i = 8 * a + b then 1 else 0) → hI wX6_isBrought μ mX6_isBrought d (fun r _ => r = @ite Int (prt μ a b) (Classical.propDecidable _) 0 1) 2 [(0, 2, 65), (1, 0, a), (2, 0, b), (3, 0, k)] [] m := by
    intro n
    induction n with
    | zero =>
      intro k m k0 kn hm h
      refine uX6_isBrought_2 hm ⟨fun c => ?_, fun c => by omega⟩
      refine passes 65 m (by have := (bq_c0 m).2; omega) hm ⟨fun i i0 i1 => ?_, ?_, fun p q p0 p1 q0 q1 hne => ?_⟩
      · rw [h i i0 (by omega)]; split <;> omega
      · rw [h _ (by omega) (by omega), if_pos rfl]; decide
      · rw [h _ (by omega) (by omega)] at hne
        by_cases e : 8 * p + q = 8 * a + b
        · rw [show p = a by omega, show q = b by omega]
          exact ⟨⟨ha, hb⟩, fun S _ hab => hab⟩
        · rw [if_neg e] at hne; exact absurd rfl hne
    | succ n ih =>
      intro k m k0 kn hm h
      have nx : ∀ x, (x = if k = 8 * a + b then 1 else 0) → hI wX6_isBrought μ mX6_isBrought d (fun r _ => r = @ite Int (prt μ a b) (Classical.propDecidable _) 0 1) 2 [(0, 2, 65), (1, 0, a), (2, 0, b), (3, 0, k + 1)] [] (tm_w m 95 k x) := by
        intro x hx
        refine ih (k + 1) _ (by omega) (by omega) (hm.w (tWs_in _ rfl) (tS_w hm.S sf_95 _ _)) (fun i i0 i1 => ?_)
        rw [tm_vw]
        by_cases e : i = k
        · rw [if_pos ⟨rfl, e⟩, hx, e]
        · rw [if_neg (fun q => e q.2)]; exact h i i0 (by omega)
      refine uX6_isBrought_2 hm ⟨fun c => by omega, fun c => ?_⟩
      rw [w32_8 a8 b8, w32_id (x := k + 1) (by omega) (by omega)]
      refine ⟨fun c2 => ⟨by omega, ?_⟩, fun c2 => ⟨by omega, ?_⟩⟩
      · rintro _ rfl
        exact nx 0 (by rw [if_neg c2])
      · rintro _ rfl
        exact nx 1 (by rw [if_pos c2])
  exact t_of (uX6_isBrought_0 (tFr.rf hs) (start 64 0 μ (by omega) (by omega) (tFr.rf hs) (fun i i0 i1 => by omega)))
end C6P
