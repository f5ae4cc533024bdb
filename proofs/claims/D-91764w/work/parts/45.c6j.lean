/-! CONTRACTS of the model: places that are the same -/
theorem sm_le {f g : Int → Int} {n : Nat} (h : ∀ i : Nat, i < n → f i ≤ g i) : sm f n ≤ sm g n := by
  induction n with
  | zero => exact Int.le_refl _
  | succ n ih =>
    have h1 := ih (fun i hi => h i (by omega))
    have h2 := h n (by omega)
    rw [sm, sm]; omega
theorem sm_lt {f g : Int → Int} {n : Nat} (h : ∀ i : Nat, i < n → f i ≤ g i) {j : Nat} (hj : j < n) (hl : f j < g j) : sm f n < sm g n := by
  induction n with
  | zero => omega
  | succ n ih =>
    have h2 := h n (by omega)
    rw [sm, sm]
    by_cases e : j = n
    · have h1 := sm_le (f := f) (g := g) (n := n) (fun i hi => h i (by omega))
      rw [e] at hl
      omega
    · have h1 := ih (fun i hi => h i (by omega)) (by omega)
      omega
section C6J
variable {d : Nat} {μ μ0 : tm_M} {W : Int → Int → Prop}
/-- a relation that steps keep -/
def bisR (μ : tm_M) (R : Int → Int → Prop) : Prop := ∀ p q, R p q → (y_p μ p ∧ y_p μ q) ∧ tm_v μ 70 (3 * p) = tm_v μ 70 (3 * q) ∧ tm_v μ 72 p = tm_v μ 72 q ∧ ∀ k, 0 ≤ k → k < tm_v μ 72 p → R (y_leads μ p k) (y_leads μ q k)
def bis (μ : tm_M) (p q : Int) : Prop := ∃ R, bisR μ R ∧ R p q
theorem bis_R : bisR μ (bis μ) := by
  rintro p q ⟨R, hR, h⟩
  have := hR p q h
  exact ⟨this.1, this.2.1, this.2.2.1, fun k h0 h1 => ⟨R, hR, this.2.2.2 k h0 h1⟩⟩
noncomputable def r_same (μ : tm_M) (a b : Int) : Int × Int := if ¬ ((0 ≤ a ∧ a < tm_v μ 65 20) ∧ 0 ≤ b ∧ b < tm_v μ 65 20) then (-1, 2) else (@ite Int (bis μ a b) (Classical.propDecidable _) 1 0, 0)
/-- how many pairs are held alike -/
def al_c (m : tm_M) : Int := sm (fun i => if tm_v m 94 i = 0 then 0 else 1) 64
/-- what the passes keep -/
def al_i (μ m : tm_M) : Prop := ∀ p q, y_p μ p → y_p μ q → (0 ≤ tm_v m 94 (8 * p + q) ∧ tm_v m 94 (8 * p + q) ≤ 1) ∧ (bis μ p q → tm_v m 94 (8 * p + q) = 1) ∧ (tm_v m 94 (8 * p + q) ≠ 0 → tm_v μ 70 (3 * p) = tm_v μ 70 (3 * q) ∧ tm_v μ 72 p = tm_v μ 72 q)
/-- a pair's steps are held alike -/
def al_k (μ m : tm_M) (p q : Int) (k : Int) : Prop := ∀ j, 0 ≤ j → j < k → tm_v m 94 (8 * y_leads μ p j + y_leads μ q j) ≠ 0
theorem w32_8 {p q : Int} (hp : 0 ≤ p ∧ p < 8) (hq : 0 ≤ q ∧ q < 8) : w32 (w32 (8 * p) + q) = 8 * p + q := by rw [w32_id (x := 8 * p) (by omega) (by omega), w32_id (by omega) (by omega)]
theorem al_end {m : tm_M} (hi : al_i μ m) (hc : ∀ p q, y_p μ p → y_p μ q → tm_v m 94 (8 * p + q) ≠ 0 → al_k μ m p q (tm_v μ 72 p)) {a b : Int} (ha : y_p μ a) (hb : y_p μ b) : (tm_v m 94 (8 * a + b) ≠ 0 ↔ bis μ a b) := by
  constructor
  · intro h
    refine ⟨fun p q => (y_p μ p ∧ y_p μ q) ∧ tm_v m 94 (8 * p + q) ≠ 0, fun p q h2 => ?_, ⟨ha, hb⟩, h⟩
    have e := (hi p q h2.1.1 h2.1.2).2.2 h2.2
    refine ⟨h2.1, e.1, e.2, fun k h0 h1 => ⟨⟨(y_leads_p h2.1.1 h0 h1).1, (y_leads_p h2.1.2 h0 (by omega)).1⟩, hc p q h2.1.1 h2.1.2 h2.2 k h0 h1⟩⟩
  · intro h
    rw [(hi a b ha hb).2.1 h]
    decide
/-- within a pass: nothing is changed, and what lies ahead is closed; or less is held alike -/
def al_p (μ m0 : tm_M) (v3 : Int) (m : tm_M) (i : Int) : Prop := tFr wX6_same μ m ∧ tm_v m 65 0 = 0 ∧ al_i μ m ∧ al_c m ≤ al_c m0 ∧ ((v3 = 0 ∧ m = m0 ∧ ∀ p q, y_p μ p → y_p μ q → tm_v μ 65 20 * p + q < i → tm_v m0 94 (8 * p + q) ≠ 0 → al_k μ m0 p q (tm_v μ 72 p)) ∨ (v3 = 1 ∧ al_c m < al_c m0))
theorem pX6_same {a b : Int} (hd : 2 ≤ d) (hs : tS μ) (hW : y_W μ) : cI wX6_same mX6_same d [(2, 65), (0, a), (0, b)] μ (fun r μ' => r = (r_same μ a b).1 ∧ tm_v μ' 65 0 = (r_same μ a b).2) := by
  have h20 := hW.1
  -- the steps of a pair
  have steps : ∀ K : Int → tm_M → Prop, ∀ (p q v3 : Int) (m : tm_M), y_p μ p → y_p μ q → (v3 = 0 ∨ v3 = 1) → tFr wX6_same μ m → al_i μ m → tm_v m 94 (8 * p + q) ≠ 0 → ∀ (n : Nat) (k v6 : Int), 0 ≤ k → k + n = tm_v μ 72 p → (v6 = 1 ∧ al_k μ m p q k ∨ v6 = 0 ∧ ¬ al_k μ m p q k) →
      (∀ m' v3', tFr wX6_same μ m' → tm_v m' 65 0 = tm_v m 65 0 → al_i μ m' → al_c m' ≤ al_c m → ((v3' = v3 ∧ m' = m ∧ al_k μ m p q (tm_v μ 72 p)) ∨ (v3' = 1 ∧ al_c m' < al_c m)) → hI wX6_same μ mX6_same d K 142 [(0, 2, 65), (1, 0, a), (2, 0, b), (3, 0, v3'), (4, 0, p), (5, 0, q + 1)] [] m') →
      hI wX6_same μ mX6_same d K 176 [(0, 2, 65), (1, 0, a), (2, 0, b), (3, 0, v3), (4, 0, p), (5, 0, q), (6, 0, v6), (7, 0, k)] [] m := by
    intro K p q v3 m hp hq hv3 hm hi hne n
    have p8 := y_p8 hp
    have q8 := y_p8 hq
    have hpq := hi p q hp hq
    have hdeg := hpq.2.2 hne
    have eq1 : w32 (q + 1) = q + 1 := w32_id (by omega) (by omega)
    induction n with
    | zero =>
      intro k v6 k0 kn hv kk
      refine uX6_same_176 (by omega) hm ⟨p8, fun c => ?_, fun c => by omega⟩
      rw [w32_8 p8 q8, eq1]
      refine ⟨by omega, by omega, ?_⟩
      rintro _ rfl
      have hm' : ∀ x, tFr wX6_same μ (tm_w m 94 (8 * p + q) x) := fun x => hm.w (tWs_in _ rfl) (tS_w hm.S sf_94 _ _)
      rcases hv with ⟨e6, hk⟩ | ⟨e6, hk⟩
      · have e1 : tm_v m 94 (8 * p + q) = 1 := by omega
        have em : tm_w m 94 (8 * p + q) v6 = m := by rw [e6, ← e1, tm_wv]
        rw [em]
        rw [show k = tm_v μ 72 p by omega] at hk
        refine ⟨fun c3 => ?_, fun c3 => ⟨fun c6 => ?_, fun c6 => by omega⟩⟩
        · exact kk m 1 hm rfl hi (Int.le_refl _) (Or.inl ⟨by omega, rfl, hk⟩)
        · exact kk m 0 hm rfl hi (Int.le_refl _) (Or.inl ⟨c3.symm, rfl, hk⟩)
      · rw [e6]
        have hlt : al_c (tm_w m 94 (8 * p + q) 0) < al_c m := by
          unfold al_c
          have e : ∀ i, tm_v (tm_w m 94 (8 * p + q) 0) 94 i = if i = 8 * p + q then 0 else tm_v m 94 i := by intro i; simp [tm_vw]
          simp only [e]
          refine sm_lt (fun i hi => ?_) (j := (8 * p + q).toNat) (by omega) ?_
          · by_cases c : (i : Int) = 8 * p + q
            · rw [if_pos c, if_pos rfl]; split <;> omega
            · rw [if_neg c]; exact Int.le_refl _
          · rw [show (((8 * p + q).toNat : Nat) : Int) = 8 * p + q by omega, if_pos rfl, if_pos rfl, if_neg hne]
            omega
        have hi' : al_i μ (tm_w m 94 (8 * p + q) 0) := by
          intro p' q' hp' hq'
          have h9 := hi p' q' hp' hq'
          have p8' := y_p8 hp'
          have q8' := y_p8 hq'
          rw [tm_vw]
          by_cases e : 8 * p' + q' = 8 * p + q
          · rw [if_pos ⟨rfl, e⟩]
            refine ⟨by omega, fun hb => ?_, fun hb => absurd rfl hb⟩
            exfalso
            apply hk
            rw [show p' = p by omega, show q' = q by omega] at hb
            intro j j0 j1
            have hl := (bis_R p q hb).2.2.2 j j0 (by omega)
            have h10 := (bis_R _ _ hl).1
            rw [(hi _ _ h10.1 h10.2).2.1 hl]
            decide
          · rw [if_neg (fun q => e q.2)]; exact h9
        have h65 : tm_v (tm_w m 94 (8 * p + q) 0) 65 0 = tm_v m 65 0 := by rw [tm_vw, if_neg (by omega)]
        refine ⟨fun c3 => ?_, fun c3 => ⟨fun c6 => absurd rfl c6, fun c6 => ?_⟩⟩
        · exact kk _ 1 (hm' 0) h65 hi' (Int.le_of_lt hlt) (Or.inr ⟨rfl, hlt⟩)
        · exact kk _ 1 (hm' 0) h65 hi' (Int.le_of_lt hlt) (Or.inr ⟨rfl, hlt⟩)
    | succ n ih =>
      intro k v6 k0 kn hv kk
      have l1 := y_p8 (y_leads_p hp k0 (by omega)).1
      have l2 := y_p8 (y_leads_p hq k0 (by omega)).1
      have e1 : w32 (k + 1) = k + 1 := w32_id (by have := (hW.2.2.1 p hp.2.1 hp.2.2).1; omega) (by have := (hW.2.2.1 p hp.2.1 hp.2.2).1; omega)
      refine uX6_same_176 (by omega) hm ⟨p8, fun c => by omega, fun c => ⟨fun c2 => ?_, fun c2 => ⟨hp, hq, ?_⟩⟩⟩
      · rw [e1]
        refine ih (k + 1) 0 (by omega) (by omega) (Or.inr ⟨rfl, fun h => ?_⟩) kk
        rcases hv with ⟨e6, _⟩ | ⟨_, hk⟩
        · omega
        · exact hk (fun j j0 j1 => h j j0 (by omega))
      · rw [w32_8 l1 l2, e1]
        have hk : al_k μ m p q k := by
          rcases hv with ⟨_, hk⟩ | ⟨e6, _⟩
          · exact hk
          · exact absurd e6 c2
        refine ⟨by omega, fun c3 => ?_, fun c3 => ?_⟩
        · exact ih (k + 1) 0 (by omega) (by omega) (Or.inr ⟨rfl, fun h => h k k0 (by omega) c3⟩) kk
        · refine ih (k + 1) 1 (by omega) (by omega) (Or.inl ⟨rfl, fun j j0 j1 => ?_⟩) kk
          by_cases e : j = k
          · rw [e]; exact c3
          · exact hk j j0 (by omega)
  -- a pass
  have inner : ∀ K : Int → tm_M → Prop, ∀ (m0 : tm_M) (p : Int), y_p μ p → ∀ (n : Nat) (q v3 : Int) (m : tm_M), 0 ≤ q → q + n = tm_v μ 65 20 → al_p μ m0 v3 m (tm_v μ 65 20 * p + q) →
      (∀ v3' m', al_p μ m0 v3' m' (tm_v μ 65 20 * (p + 1)) → hI wX6_same μ mX6_same d K 130 [(0, 2, 65), (1, 0, a), (2, 0, b), (3, 0, v3'), (4, 0, p + 1)] [] m') →
      hI wX6_same μ mX6_same d K 142 [(0, 2, 65), (1, 0, a), (2, 0, b), (3, 0, v3), (4, 0, p), (5, 0, q)] [] m := by
    intro K m0 p hp n
    have p8 := y_p8 hp
    have np := na_in h20 hp.2.1 hp.2.2
    induction n with
    | zero =>
      intro q v3 m q0 qn hP kk
      refine uX6_same_142 hP.1 ⟨fun c => ?_, fun c => by omega⟩
      rw [w32_id (by omega) (by omega)]
      refine kk v3 m ?_
      rw [np.2.2, show tm_v μ 65 20 * p + tm_v μ 65 20 = tm_v μ 65 20 * p + q by omega]
      exact hP
    | succ n ih =>
      intro q v3 m q0 qn hP kk
      have hq : y_p μ q := ⟨hW, q0, by omega⟩
      have q8 := y_p8 hq
      obtain ⟨f, h0, hi, hle, hor⟩ := hP
      have same : ∀ p' q', y_p μ p' → y_p μ q' → tm_v μ 65 20 * p' + q' < tm_v μ 65 20 * p + (q + 1) → tm_v μ 65 20 * p' + q' < tm_v μ 65 20 * p + q ∨ (p' = p ∧ q' = q) := by
        intro p' q' hp' hq' hl
        by_cases e : tm_v μ 65 20 * p' + q' = tm_v μ 65 20 * p + q
        · right
          have d1 := dm_eq (n := tm_v μ 65 20) (a := p') (b := q') hq'.2.1 hq'.2.2
          have d2 := dm_eq (n := tm_v μ 65 20) (a := p) (b := q) hq.2.1 hq.2.2
          rw [e] at d1
          exact ⟨by rw [← d1.1, d2.1], by rw [← d1.2, d2.2]⟩
        · left; omega
      refine uX6_same_142 f ⟨fun c => by omega, fun c => ?_⟩
      rw [w32_8 p8 q8]
      refine ⟨by omega, fun c2 => ?_, fun c2 => ?_⟩
      · refine steps K p q v3 m hp hq (by omega) f hi c2 (tm_v μ 72 p).toNat 0 1 (by omega) (by have := (hW.2.2.1 p hp.2.1 hp.2.2).1; omega) (Or.inl ⟨rfl, fun j j0 j1 => by omega⟩) (fun m' v3' f' h0' hi' hle' hor' => ?_)
        refine ih (q + 1) v3' m' (by omega) (by omega) ⟨f', by rw [h0']; exact h0, hi', by omega, ?_⟩ kk
        rcases hor' with ⟨e1, e2, e3⟩ | ⟨e1, e2⟩
        · rcases hor with ⟨g1, g2, g3⟩ | ⟨g1, g2⟩
          · left
            refine ⟨by omega, by rw [e2, g2], fun p' q' hp' hq' hl hne => ?_⟩
            rcases same p' q' hp' hq' hl with h | ⟨h1, h2⟩
            · exact g3 p' q' hp' hq' h hne
            · rw [h1, h2, ← g2]; exact e3
          · right
            exact ⟨by omega, by rw [e2]; exact g2⟩
        · right
          exact ⟨e1, by omega⟩
      · rw [w32_id (by omega) (by omega)]
        refine ih (q + 1) v3 m (by omega) (by omega) ⟨f, h0, hi, hle, ?_⟩ kk
        rcases hor with ⟨g1, g2, g3⟩ | g
        · left
          refine ⟨g1, g2, fun p' q' hp' hq' hl hne => ?_⟩
          rcases same p' q' hp' hq' hl with h | ⟨h1, h2⟩
          · exact g3 p' q' hp' hq' h hne
          · rw [h1, h2, ← g2] at hne
            exact absurd c2 hne
        · exact Or.inr g
  have outer : ∀ K : Int → tm_M → Prop, ∀ (m0 : tm_M) (n : Nat) (p v3 : Int) (m : tm_M), 0 ≤ p → p + n = tm_v μ 65 20 → al_p μ m0 v3 m (tm_v μ 65 20 * p) →
      (∀ v3' m', al_p μ m0 v3' m' (tm_v μ 65 20 * tm_v μ 65 20) → hI wX6_same μ mX6_same d K 121 [(0, 2, 65), (1, 0, a), (2, 0, b), (3, 0, v3')] [] m') →
      hI wX6_same μ mX6_same d K 130 [(0, 2, 65), (1, 0, a), (2, 0, b), (3, 0, v3), (4, 0, p)] [] m := by
    intro K m0 n
    induction n with
    | zero =>
      intro p v3 m p0 pn hP kk
      refine uX6_same_130 hP.1 ⟨fun c => ?_, fun c => by omega⟩
      rw [show p = tm_v μ 65 20 by omega] at hP
      exact kk v3 m hP
    | succ n ih =>
      intro p v3 m p0 pn hP kk
      refine uX6_same_130 hP.1 ⟨fun c => by omega, fun c => ?_⟩
      refine inner K m0 p ⟨hW, p0, c⟩ (tm_v μ 65 20).toNat 0 v3 m (by omega) (by omega) (by rw [Int.add_zero]; exact hP) (fun v3' m' hP' => ?_)
      exact ih (p + 1) v3' m' (by omega) (by omega) hP' kk
  have passes : y_p μ a → y_p μ b → ∀ (n : Nat) (m : tm_M), al_c m ≤ n → tFr wX6_same μ m → tm_v m 65 0 = 0 → al_i μ m →
      hI wX6_same μ mX6_same d (fun r μ' => r = @ite Int (bis μ a b) (Classical.propDecidable _) 1 0 ∧ tm_v μ' 65 0 = 0) 121 [(0, 2, 65), (1, 0, a), (2, 0, b), (3, 0, 1)] [] m := by
    intro ha hb n
    have a8 := y_p8 ha
    have b8 := y_p8 hb
    have fin : ∀ m m0, al_p μ m0 0 m (tm_v μ 65 20 * tm_v μ 65 20) → hI wX6_same μ mX6_same d (fun r μ' => r = @ite Int (bis μ a b) (Classical.propDecidable _) 1 0 ∧ tm_v μ' 65 0 = 0) 121 [(0, 2, 65), (1, 0, a), (2, 0, b), (3, 0, 0)] [] m := by
      intro m m0 hP
      obtain ⟨f, h0, hi, hle, hor⟩ := hP
      refine uX6_same_121 f ⟨fun _ => ?_, fun c => absurd rfl c⟩
      rw [w32_8 a8 b8]
      rcases hor with ⟨_, g2, g3⟩ | ⟨g1, _⟩
      · have ee := al_end hi (fun p q hp hq hne => by
          rw [g2] at hne ⊢
          refine g3 p q hp hq ?_ hne
          have := na_in h20 hp.2.1 hp.2.2
          have := hq.2
          omega) ha hb
        refine ⟨by omega, fun c => ⟨?_, h0⟩, fun c => ⟨?_, h0⟩⟩
        · rw [if_neg (fun q => ee.mpr q c)]
        · rw [if_pos (ee.mp c)]
      · omega
    induction n with
    | zero =>
      intro m hn hm h0 hi
      refine uX6_same_121 hm ⟨fun c => absurd c (by decide), fun _ => ?_⟩
      refine outer _ m (tm_v μ 65 20).toNat 0 0 m (by omega) (by omega) ⟨hm, h0, hi, Int.le_refl _, Or.inl ⟨rfl, rfl, fun p q hp hq hl => by have := Int.mul_nonneg h20.1 hp.2.1; have := hq.2; omega⟩⟩ (fun v3' m' hP => ?_)
      have hP' := hP
      obtain ⟨f, g0, gi, gle, gor⟩ := hP
      rcases gor with ⟨e, _, _⟩ | ⟨e, g⟩
      · rw [e] at hP' ⊢; exact fin m' m hP'
      · have : 0 ≤ al_c m' := by
          unfold al_c
          exact (sm_bd (c := 1) (fun i _ => by split <;> omega)).1
        omega
    | succ n ih =>
      intro m hn hm h0 hi
      refine uX6_same_121 hm ⟨fun c => absurd c (by decide), fun _ => ?_⟩
      refine outer _ m (tm_v μ 65 20).toNat 0 0 m (by omega) (by omega) ⟨hm, h0, hi, Int.le_refl _, Or.inl ⟨rfl, rfl, fun p q hp hq hl => by have := Int.mul_nonneg h20.1 hp.2.1; have := hq.2; omega⟩⟩ (fun v3' m' hP => ?_)
      have hP' := hP
      obtain ⟨f, g0, gi, gle, gor⟩ := hP
      rcases gor with ⟨e, _, _⟩ | ⟨e, g⟩
      · rw [e] at hP' ⊢; exact fin m' m hP'
      · rw [e]
        exact ih m' (by omega) f g0 gi
  -- the start
  have ini : ∀ m p q, y_p μ p → y_p μ q → (tm_v m 94 (8 * p + q) = if tm_v μ 70 (3 * p) = tm_v μ 70 (3 * q) ∧ tm_v μ 72 p = tm_v μ 72 q then 1 else 0) → (0 ≤ tm_v m 94 (8 * p + q) ∧ tm_v m 94 (8 * p + q) ≤ 1) ∧ (bis μ p q → tm_v m 94 (8 * p + q) = 1) ∧ (tm_v m 94 (8 * p + q) ≠ 0 → tm_v μ 70 (3 * p) = tm_v μ 70 (3 * q) ∧ tm_v μ 72 p = tm_v μ 72 q) := by
    intro m p q hp hq e
    rw [e]
    refine ⟨by split <;> omega, fun hb => ?_, fun hne => ?_⟩
    · have := bis_R p q hb
      rw [if_pos ⟨this.2.1, this.2.2.1⟩]
    · apply Classical.byContradiction
      intro h
      exact hne (if_neg h)
  have si : y_p μ a → y_p μ b → ∀ (p : Int), y_p μ p → ∀ (n : Nat) (q : Int) (m : tm_M), 0 ≤ q → q + n = tm_v μ 65 20 → tFr wX6_same μ m → tm_v m 65 0 = 0 → (∀ p' q', y_p μ p' → y_p μ q' → tm_v μ 65 20 * p' + q' < tm_v μ 65 20 * p + q → tm_v m 94 (8 * p' + q') = if tm_v μ 70 (3 * p') = tm_v μ 70 (3 * q') ∧ tm_v μ 72 p' = tm_v μ 72 q' then 1 else 0) →
      (∀ m', tFr wX6_same μ m' → tm_v m' 65 0 = 0 → (∀ p' q', y_p μ p' → y_p μ q' → tm_v μ 65 20 * p' + q' < tm_v μ 65 20 * (p + 1) → tm_v m' 94 (8 * p' + q') = if tm_v μ 70 (3 * p') = tm_v μ 70 (3 * q') ∧ tm_v μ 72 p' = tm_v μ 72 q' then 1 else 0) → hI wX6_same μ mX6_same d (fun r μ' => r = @ite Int (bis μ a b) (Classical.propDecidable _) 1 0 ∧ tm_v μ' 65 0 = 0) 34 [(0, 2, 65), (1, 0, a), (2, 0, b), (3, 0, p + 1)] [] m') →
      hI wX6_same μ mX6_same d (fun r μ' => r = @ite Int (bis μ a b) (Classical.propDecidable _) 1 0 ∧ tm_v μ' 65 0 = 0) 45 [(0, 2, 65), (1, 0, a), (2, 0, b), (3, 0, p), (4, 0, q)] [] m := by
    intro ha hb p hp n
    have p8 := y_p8 hp
    have np := na_in h20 hp.2.1 hp.2.2
    induction n with
    | zero =>
      intro q m q0 qn hm h0 hc kk
      refine uX6_same_45 hm ⟨fun c => ?_, fun c => by omega⟩
      rw [w32_id (by omega) (by omega)]
      refine kk m hm h0 ?_
      rw [np.2.2, show tm_v μ 65 20 * p + tm_v μ 65 20 = tm_v μ 65 20 * p + q by omega]
      exact hc
    | succ n ih =>
      intro q m q0 qn hm h0 hc kk
      have hq : y_p μ q := ⟨hW, q0, by omega⟩
      have q8 := y_p8 hq
      have nx : ∀ x, (x = if tm_v μ 70 (3 * p) = tm_v μ 70 (3 * q) ∧ tm_v μ 72 p = tm_v μ 72 q then 1 else 0) → hI wX6_same μ mX6_same d (fun r μ' => r = @ite Int (bis μ a b) (Classical.propDecidable _) 1 0 ∧ tm_v μ' 65 0 = 0) 45 [(0, 2, 65), (1, 0, a), (2, 0, b), (3, 0, p), (4, 0, q + 1)] [] (tm_w m 94 (8 * p + q) x) := by
        intro x hx
        refine ih (q + 1) _ (by omega) (by omega) (hm.w (tWs_in _ rfl) (tS_w hm.S sf_94 _ _)) (by rw [tm_vw, if_neg (by omega)]; exact h0) (fun p' q' hp' hq' hl => ?_) kk
        have p8' := y_p8 hp'
        have q8' := y_p8 hq'
        rw [tm_vw]
        by_cases e : 8 * p' + q' = 8 * p + q
        · rw [if_pos ⟨rfl, e⟩, show p' = p by omega, show q' = q by omega, hx]
        · rw [if_neg (fun k => e k.2)]
          refine hc p' q' hp' hq' ?_
          by_cases e2 : tm_v μ 65 20 * p' + q' = tm_v μ 65 20 * p + q
          · exfalso
            have d1 := dm_eq (n := tm_v μ 65 20) (a := p') (b := q') hq'.2.1 hq'.2.2
            have d2 := dm_eq (n := tm_v μ 65 20) (a := p) (b := q) hq.2.1 hq.2.2
            rw [e2] at d1
            omega
          · omega
      refine uX6_same_45 hm ⟨fun c => by omega, fun c => ?_⟩
      rw [w32_8 p8 q8, w32_id (x := 3 * p) (by omega) (by omega), w32_id (x := 3 * q) (by omega) (by omega), w32_id (x := q + 1) (by omega) (by omega)]
      refine ⟨by omega, by omega, fun c2 => ⟨by omega, ?_⟩, fun c2 => ⟨p8, q8, fun c3 => ⟨by omega, ?_⟩, fun c3 => ⟨by omega, ?_⟩⟩⟩
      · rintro _ rfl
        exact nx 0 (by rw [if_neg (fun k => c2 k.1)])
      · rintro _ rfl
        exact nx 0 (by rw [if_neg (fun k => c3 k.2)])
      · rintro _ rfl
        exact nx 1 (by rw [if_pos ⟨c2, c3⟩])
  have so : y_p μ a → y_p μ b → ∀ (n : Nat) (p : Int) (m : tm_M), 0 ≤ p → p + n = tm_v μ 65 20 → tFr wX6_same μ m → tm_v m 65 0 = 0 → (∀ p' q', y_p μ p' → y_p μ q' → tm_v μ 65 20 * p' + q' < tm_v μ 65 20 * p → tm_v m 94 (8 * p' + q') = if tm_v μ 70 (3 * p') = tm_v μ 70 (3 * q') ∧ tm_v μ 72 p' = tm_v μ 72 q' then 1 else 0) →
      hI wX6_same μ mX6_same d (fun r μ' => r = @ite Int (bis μ a b) (Classical.propDecidable _) 1 0 ∧ tm_v μ' 65 0 = 0) 34 [(0, 2, 65), (1, 0, a), (2, 0, b), (3, 0, p)] [] m := by
    intro ha hb n
    induction n with
    | zero =>
      intro p m p0 pn hm h0 hc
      refine uX6_same_34 hm ⟨fun c => ?_, fun c => by omega⟩
      refine passes ha hb (al_c m).toNat m (by omega) hm h0 (fun p' q' hp' hq' => ini m p' q' hp' hq' (hc p' q' hp' hq' ?_))
      have := na_in h20 hp'.2.1 hp'.2.2
      have := hq'.2
      rw [show p = tm_v μ 65 20 by omega]
      omega
    | succ n ih =>
      intro p m p0 pn hm h0 hc
      refine uX6_same_34 hm ⟨fun c => by omega, fun c => ?_⟩
      exact si ha hb p ⟨hW, p0, c⟩ (tm_v μ 65 20).toNat 0 m (by omega) (by omega) hm h0 (by rw [Int.add_zero]; exact hc) (fun m' hm' h0' hc' => ih (p + 1) m' (by omega) (by omega) hm' h0' hc')
  refine t_of (uX6_same_0 hd (tFr.rf hs) ?_)
  rintro _ rfl _ rfl
  have f2 : tFr wX6_same μ (tm_w (tm_w μ 65 1 0) 65 0 0) := fr_st (tFr.rf hs) (tWs_inF rfl) (tWs_inF rfl) 0
  unfold r_same
  refine ⟨hW, fun c => ?_, fun c => ⟨fun c2 => ?_, fun c2 => ?_⟩⟩
  · rintro _ rfl
    rw [if_pos (by omega)]; exact ⟨rfl, rfl⟩
  · rw [if_neg (by omega)]
    exact so ⟨hW, c⟩ ⟨hW, c2⟩ (tm_v μ 65 20).toNat 0 _ (by omega) (by omega) f2 (by simp [tm_vw]) (fun p' q' hp' hq' hl => by have := Int.mul_nonneg h20.1 hp'.2.1; have := hq'.2; omega)
  · rintro _ rfl
    rw [if_pos (by omega)]; exact ⟨rfl, rfl⟩
end C6J
