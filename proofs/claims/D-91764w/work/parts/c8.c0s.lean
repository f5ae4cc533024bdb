/-! CONTRACTS of the component: places that turn into one another -/
section C0S
variable {d : Nat} {μ μ0 ν : tm_M} {W : Int → Int → Prop} {a b p q : Int} {T : Int → Int}
theorem y_open_go {k : Int} (hp : y_p ν p) : (y_open ν p k ↔ y_go ν p (k + 1) ≠ p) ∧ (y_open ν p k → y_go ν p (k + 1) = y_leads ν p k) := by
  have e : y_open ν p k → y_go ν p (k + 1) = y_leads ν p k := fun h => by
    unfold y_go
    rw [show k + 1 - 1 = k by omega]
    exact if_pos h
  refine ⟨⟨fun h => ?_, fun h => ?_⟩, e⟩
  · rw [e h]; exact (y_leads_p hp h.1 h.2.1).2
  · unfold y_go at h
    rw [show k + 1 - 1 = k by omega] at h
    split at h
    · assumption
    · exact absurd rfl h
theorem y_go_back {s : Int} (hp : y_p ν p) (h : y_go ν p s ≠ p) : ∃ s', 1 ≤ s' ∧ s' ≤ 4 ∧ y_go ν (y_go ν p s) s' = p := by
  rcases y_go_lane (s := s) hp with e | ⟨l, hl, ho, ⟨e1, e2⟩ | ⟨e1, e2⟩⟩
  · exact absurd e h
  · have := (y_lane_go hp.1 hl.1 hl.2 ho).2
    rw [e1, e2] at this
    exact this
  · have := (y_lane_go hp.1 hl.1 hl.2 ho).1
    rw [e1, e2] at this
    exact this
/-- a turn of the town by which a and b change -/
def tnP (ν : tm_M) (a b : Int) (π : Int → Int) : Prop := (∀ q, y_p ν q → y_p ν (π q)) ∧ (∀ q q', y_p ν q → y_p ν q' → π q = π q' → q = q') ∧ (π a = b ∧ π b = a) ∧ ∀ q, y_p ν q → ftE ν π q
/-- the steps of a place below s fit those of where it is put -/
def tn_k (ν : tm_M) (T : Int → Int) (p s : Int) : Prop := tm_v ν 70 (3 * p) = tm_v ν 70 (3 * T p) ∧ ∀ j, 1 ≤ j → j < s → (y_go ν p j ≠ p ↔ y_go ν (T p) j ≠ T p) ∧ (y_go ν p j ≠ p → T (y_go ν p j) = y_go ν (T p) j)
theorem tn_go {π : Int → Int} (h : tnP ν a b π) (hp : y_p ν p) : tn_k ν π p 5 := by
  obtain ⟨h1, h2, h3, h4⟩ := h
  have hf := h4 p hp
  refine ⟨hf.1, fun j j1 j2 => ?_⟩
  have hj := hf.2 (j - 1) (by omega) (by omega)
  have o1 := y_open_go (k := j - 1) hp
  have o2 := y_open_go (k := j - 1) (h1 p hp)
  rw [show j - 1 + 1 = j by omega] at o1 o2
  refine ⟨by rw [← o1.1, ← o2.1]; exact hj.1, fun hne => ?_⟩
  have ho := o1.1.mpr hne
  rw [o1.2 ho, o2.2 (hj.1.mp ho)]
  exact hj.2 ho
theorem tn_end (hD : ∀ i, y_p ν i → T i = -1 ∨ y_p ν (T i)) (ha : y_p ν a) (hb : y_p ν b) (hab : T a = b ∧ T b = a) (hr : ∀ i, y_p ν i → T i ≠ -1 → ∀ S : Int → Prop, S a → S b → (∀ p j, S p → 1 ≤ j → j ≤ 4 → S (y_go ν p j)) → S i) (hk : ∀ i, y_p ν i → T i ≠ -1 → tn_k ν T i 5) : tnd ν a b := by
  have pos : ∀ i, y_p ν i → T i ≠ -1 → y_p ν (T i) := fun i hi h => by
    rcases hD i hi with q | q
    · exact absurd q h
    · exact q
  have ne : ∀ {i}, y_p ν i → i ≠ -1 := fun h e => by have := h.2; omega
  have inv : ∀ i, y_p ν i → T i ≠ -1 → T (T i) = i ∧ T (T i) ≠ -1 := by
    intro i hi hT
    have := hr i hi hT (fun p => (y_p ν p ∧ T p ≠ -1) ∧ T (T p) = p) ⟨⟨ha, by rw [hab.1]; exact ne hb⟩, by rw [hab.1, hab.2]⟩ ⟨⟨hb, by rw [hab.2]; exact ne ha⟩, by rw [hab.2, hab.1]⟩ (fun p j hS j1 j4 => ?_)
    · exact ⟨this.2, by rw [this.2]; exact ne hi⟩
    · obtain ⟨⟨hp, hT⟩, hTT⟩ := hS
      by_cases e : y_go ν p j = p
      · rw [e]; exact ⟨⟨hp, hT⟩, hTT⟩
      · have h1 := (hk p hp hT).2 j j1 (by omega)
        have hTp := pos p hp hT
        have h2 := (hk (T p) hTp (by rw [hTT]; exact ne hp)).2 j j1 (by omega)
        have e1 := h1.2 e
        have e2 := h2.2 (h1.1.mp e)
        rw [hTT] at e2
        exact ⟨⟨y_go_p hp, by rw [e1]; exact ne (y_go_p hTp)⟩, by rw [e1, e2]⟩
  have πe : ∀ {q}, T q ≠ -1 → (if T q = -1 then q else T q) = T q := fun h => by rw [if_neg h]
  have πn : ∀ {q}, T q = -1 → (if T q = -1 then q else T q) = q := fun h => by rw [if_pos h]
  refine ⟨fun q => if T q = -1 then q else T q, fun q hq => ?_, fun q q' hq hq' e => ?_, ⟨?_, ?_⟩, fun q hq => ?_⟩
  · (try dsimp only)
    by_cases c : T q = -1
    · rw [πn c]; exact hq
    · rw [πe c]; exact pos q hq c
  · (try dsimp only at e)
    by_cases c : T q = -1 <;> by_cases c' : T q' = -1
    · rw [πn c, πn c'] at e; exact e
    · rw [πn c, πe c'] at e
      exact absurd (by rw [← e]; exact c) (inv q' hq' c').2
    · rw [πe c, πn c'] at e
      exact absurd (by rw [e]; exact c') (inv q hq c).2
    · rw [πe c, πe c'] at e
      rw [← (inv q hq c).1, ← (inv q' hq' c').1, e]
  · (try dsimp only); rw [hab.1, if_neg (ne hb)]
  · (try dsimp only); rw [hab.2, if_neg (ne ha)]
  · by_cases c : T q = -1
    · refine ⟨by (try dsimp only); rw [πn c], fun k k0 k4 => ?_⟩
      (try dsimp only)
      rw [πn c]
      refine ⟨Iff.rfl, fun ho => ?_⟩
      have og := y_open_go (k := k) hq
      rw [if_pos]
      refine Classical.byContradiction fun c2 => ?_
      have hne := og.1.mp ho
      rw [← og.2 ho] at c2
      obtain ⟨s', s1, s4, es⟩ := y_go_back hq hne
      have h1 := (hk _ (y_go_p hq) c2).2 s' s1 (by omega)
      rw [es] at h1
      have h2 := h1.2 (fun e => hne e.symm)
      rw [c] at h2
      exact ne (y_go_p (pos _ (y_go_p hq) c2)) h2.symm
    · have hkq := hk q hq c
      have hTq := pos q hq c
      refine ⟨by (try dsimp only); rw [πe c]; exact hkq.1, fun k k0 k4 => ?_⟩
      (try dsimp only)
      rw [πe c]
      have og := y_open_go (k := k) hq
      have og2 := y_open_go (k := k) hTq
      have h1 := hkq.2 (k + 1) (by omega) (by omega)
      refine ⟨by rw [og.1, og2.1]; exact h1.1, fun ho => ?_⟩
      have h2 := h1.2 (og.1.mp ho)
      have ho2 : y_open ν (T q) k := og2.1.mpr (h1.1.mp (og.1.mp ho))
      rw [og.2 ho, og2.2 ho2] at h2
      rw [h2, if_neg (ne (y_leads_p hTq ho2.1 ho2.2.1).1)]
/-- places that are put, and the row of them -/
def tn_i (ν : tm_M) (a b many : Int) (m : tm_M) : Prop := (∀ i, 0 ≤ i → i < 8 → tm_v m 47 i = -1 ∨ (y_p ν i ∧ y_p ν (tm_v m 47 i))) ∧ many = sm (fun i => if tm_v m 47 i = -1 then 0 else 1) 8 ∧ (tm_v m 47 a = b ∧ tm_v m 47 b = a) ∧ (∀ i, 0 ≤ i → i < 8 → tm_v m 47 i ≠ -1 → ∃ k, (0 ≤ k ∧ k < many) ∧ tm_v m 46 k = i) ∧
  (∀ k, 0 ≤ k → k < many → (0 ≤ tm_v m 46 k ∧ tm_v m 46 k < 8) ∧ tm_v m 47 (tm_v m 46 k) ≠ -1) ∧ (∀ i, 0 ≤ i → i < 8 → tm_v m 47 i ≠ -1 → (∀ π, tnP ν a b π → π i = tm_v m 47 i) ∧ ∀ S : Int → Prop, S a → S b → (∀ p j, S p → 1 ≤ j → j ≤ 4 → S (y_go ν p j)) → S i)
theorem tn_fin {many : Int} {m : tm_M} (ha : y_p ν a) (hb : y_p ν b) (hi : tn_i ν a b many m) (hk : ∀ k, 0 ≤ k → k < many → tn_k ν (tm_v m 47) (tm_v m 46 k) 5) : tnd ν a b := by
  obtain ⟨h1, h2, h3, h4, h5, h6⟩ := hi
  refine tn_end (T := tm_v m 47) (fun i hi => ?_) ha hb h3 (fun i hi hT => (h6 i (y_p8 hi).1 (y_p8 hi).2 hT).2) (fun i hi hT => ?_)
  · rcases h1 i (y_p8 hi).1 (y_p8 hi).2 with e | e
    · exact Or.inl e
    · exact Or.inr e.2
  · obtain ⟨k, k0, ek⟩ := h4 i (y_p8 hi).1 (y_p8 hi).2 hT
    rw [← ek]
    exact hk k k0.1 k0.2
theorem pX0_isTurned (hd : 2 ≤ d) (hs : tS μ) (hJ : JU μ ν) (ha : y_p ν a) (hb : y_p ν b) (hab : a ≠ b) : cI (tWs [46, 47] []) mX0_isTurned d [(2, 1), (0, a), (0, b)] μ (fun r _ => r = @ite Int (tnd ν a b) (Classical.propDecidable _) 1 0) := by
  have hT : y_TC (c_FA μ) (tWs [46, 47] []) := tWs_TC ⟨rfl, rfl⟩
  have nP : tm_n μ (tm_v μ (tm_v μ 1 8) 0) = 8 := hJ.PA.2
  have eP : ∀ k, tm_v μ (tm_v μ (tm_v μ 1 8) 0) k = c_P μ k := fun k => rfl
  have a8 := y_p8 ha
  have b8 := y_p8 hb
  have ne : ∀ {i}, y_p ν i → i ≠ -1 := fun h e => by have := h.2; omega
  have bd : ∀ {many : Int} {m : tm_M}, tn_i ν a b many m → 0 ≤ many ∧ many ≤ 8 := fun {many m} h => by
    have := sm_bd (f := fun i => if tm_v m 47 i = -1 then 0 else 1) (n := 8) (c := 1) (fun i hi => by (try dsimp only); split <;> omega)
    have := h.2.1
    omega
  have putsF : ∀ {m : tm_M} {p q i : Int}, tFr (tWs [46, 47] []) μ m → y_p ν p → y_p ν q → (tm_v m 47 p = -1 → 0 ≤ i ∧ i < 64) → cI (tWs [46, 47] []) mX0_puts (d - 1) [(2, 1), (2, c_P μ p), (2, c_P μ q), (0, i)] m (fun r m' => (tm_v m 47 p = -1 ∧ r = 1 ∧ m' = tm_w (tm_w m 47 p q) 46 i p) ∨ (tm_v m 47 p ≠ -1 ∧ m' = m ∧ ((r = 0 ∧ tm_v m 47 p ≠ q) ∨ (r = 1 ∧ tm_v m 47 p = q)))) := by
    intro m p q i hm hp hq hi
    have h := pX0_puts (d := d - 1) (i := i) hm.S (JU_F hJ hm hT) hp hq hi
    rw [c_P_F hJ hm hT, c_P_F hJ hm hT] at h
    exact h
  -- it is over, and no turn
  have over : ∀ m v4, tFr (tWs [46, 47] []) μ m → (v4 = @ite Int (tnd ν a b) (Classical.propDecidable _) 1 0) → hI (tWs [46, 47] []) μ mX0_isTurned d (fun r _ => r = @ite Int (tnd ν a b) (Classical.propDecidable _) 1 0) 302 [(4, 0, v4)] [] m := fun m v4 hm e => uX0_isTurned_302 hm ⟨by rw [e]; split <;> omega, e⟩
  have no85 : ¬ tnd ν a b → ∀ m many k, tFr (tWs [46, 47] []) μ m → hI (tWs [46, 47] []) μ mX0_isTurned d (fun r _ => r = @ite Int (tnd ν a b) (Classical.propDecidable _) 1 0) 85 [(0, 2, 1), (3, 0, many), (4, 0, 0), (5, 0, k)] [] m := fun h m many k hm =>
    uX0_isTurned_85 hm ⟨fun _ => over m 0 hm (by rw [if_neg h]), fun _ => ⟨fun _ => over m 0 hm (by rw [if_neg h]), fun c => absurd rfl c⟩⟩
  have no158 : ¬ tnd ν a b → ∀ m many k x y s, tFr (tWs [46, 47] []) μ m → hI (tWs [46, 47] []) μ mX0_isTurned d (fun r _ => r = @ite Int (tnd ν a b) (Classical.propDecidable _) 1 0) 158 [(0, 2, 1), (3, 0, many), (4, 0, 0), (5, 0, k), (6, 2, x), (7, 2, y), (8, 0, s)] [] m := fun h m many k x y s hm =>
    uX0_isTurned_158 (ν := ν) hd hm ⟨fun _ => uX0_isTurned_296 hm (no85 h _ _ _ hm), fun _ => ⟨fun _ => uX0_isTurned_296 hm (no85 h _ _ _ hm), fun c => absurd rfl c⟩⟩
  have no290 : ¬ tnd ν a b → ∀ m many k x y s, tFr (tWs [46, 47] []) μ m → hI (tWs [46, 47] []) μ mX0_isTurned d (fun r _ => r = @ite Int (tnd ν a b) (Classical.propDecidable _) 1 0) 290 [(0, 2, 1), (3, 0, many), (4, 0, 0), (5, 0, k), (6, 2, x), (7, 2, y), (8, 0, s)] [] m := fun h m many k x y s hm =>
    uX0_isTurned_290 hm (no158 h _ _ _ _ _ _ hm)
  -- the steps of a place
  have steps : ∀ (k : Int), 0 ≤ k → ∀ (n : Nat) (s many : Int) (m : tm_M), 1 ≤ s → s + n = 5 → k < many → tFr (tWs [46, 47] []) μ m → tn_i ν a b many m → (∀ j, 0 ≤ j → j < k → tn_k ν (tm_v m 47) (tm_v m 46 j) 5) → tn_k ν (tm_v m 47) (tm_v m 46 k) s →
      (∀ many' m', k < many' → tFr (tWs [46, 47] []) μ m' → tn_i ν a b many' m' → (∀ j, 0 ≤ j → j < k + 1 → tn_k ν (tm_v m' 47) (tm_v m' 46 j) 5) → hI (tWs [46, 47] []) μ mX0_isTurned d (fun r _ => r = @ite Int (tnd ν a b) (Classical.propDecidable _) 1 0) 85 [(0, 2, 1), (3, 0, many'), (4, 0, 1), (5, 0, k + 1)] [] m') →
      hI (tWs [46, 47] []) μ mX0_isTurned d (fun r _ => r = @ite Int (tnd ν a b) (Classical.propDecidable _) 1 0) 158 [(0, 2, 1), (3, 0, many), (4, 0, 1), (5, 0, k), (6, 2, c_P μ (tm_v m 46 k)), (7, 2, c_P μ (tm_v m 47 (tm_v m 46 k))), (8, 0, s)] [] m := by
    intro k k0 n
    induction n with
    | zero =>
      intro s many m s1 sn hkm hm hi hall hcur kk
      have hb2 := bd hi
      refine uX0_isTurned_158 (ν := ν) hd hm ⟨fun _ => uX0_isTurned_296 hm ?_, fun c => by omega⟩
      rw [w32_id (x := k + 1) (by omega) (by omega)]
      refine kk many m hkm hm hi (fun j j0 j1 => ?_)
      by_cases e : j = k
      · rw [e]; rw [show s = 5 by omega] at hcur; exact hcur
      · exact hall j j0 (by omega)
    | succ n ih =>
      intro s many m s1 sn hkm hm hi hall hcur kk
      have hb2 := bd hi
      obtain ⟨g1, g2⟩ := hi.2.2.2.2.1 k k0 hkm
      have gy : y_p ν (tm_v m 46 k) ∧ y_p ν (tm_v m 47 (tm_v m 46 k)) := by
        rcases hi.1 _ g1.1 g1.2 with e | e
        · exact absurd e g2
        · exact e
      have g6 := hi.2.2.2.2.2 _ g1.1 g1.2 g2
      have es : w32 (s + 1) = s + 1 := w32_id (by omega) (by omega)
      generalize hp : tm_v m 46 k = p at *
      generalize hq : tm_v m 47 p = q at *
      have pP := hJ.P gy.1
      have pQ := hJ.P gy.2
      have yx := y_go_p (s := s) gy.1
      have yy := y_go_p (s := s) gy.2
      have pX := hJ.P yx
      have x8 := y_p8 yx
      have inj : ∀ {q q' : Int}, y_p ν q → y_p ν q' → (c_P μ q = c_P μ q' ↔ q = q') := fun h h' => ⟨hJ.inj h h', fun e => by rw [e]⟩
      have hno : (¬ ((y_go ν p s ≠ p ↔ y_go ν q s ≠ q) ∧ (y_go ν p s ≠ p → ∀ π, tnP ν a b π → π (y_go ν p s) = y_go ν q s))) → ¬ tnd ν a b := by
        rintro h ⟨π, hπ⟩
        have hg := (tn_go (p := p) hπ gy.1).2 s s1 (by omega)
        rw [g6.1 π hπ] at hg
        refine h ⟨hg.1, fun hne π' hπ' => ?_⟩
        have hg' := (tn_go (p := p) hπ' gy.1).2 s s1 (by omega)
        rw [g6.1 π' hπ'] at hg'
        exact hg'.2 hne
      -- the next step of a place
      have nxt : ∀ many' m', many ≤ many' → tFr (tWs [46, 47] []) μ m' → tn_i ν a b many' m' → (∀ i : Int, tm_v m 47 i ≠ -1 → tm_v m' 47 i = tm_v m 47 i) → (∀ j : Int, j < many → tm_v m' 46 j = tm_v m 46 j) → (y_go ν p s ≠ p ↔ y_go ν q s ≠ q) → (y_go ν p s ≠ p → tm_v m' 47 (y_go ν p s) = y_go ν q s) →
          hI (tWs [46, 47] []) μ mX0_isTurned d (fun r _ => r = @ite Int (tnd ν a b) (Classical.propDecidable _) 1 0) 290 [(0, 2, 1), (3, 0, many'), (4, 0, 1), (5, 0, k), (6, 2, c_P μ p), (7, 2, c_P μ q), (8, 0, s)] [] m' := by
        intro many' m' hmm hm' hi' hup hQ h1 h2
        have ep' : tm_v m' 46 k = p := by rw [hQ k hkm]; exact hp
        have eq' : tm_v m' 47 p = q := by rw [hup p (by rw [hq]; exact g2), hq]
        have carry : ∀ i s', tm_v m 47 i ≠ -1 → y_p ν i → y_p ν (tm_v m 47 i) → tn_k ν (tm_v m 47) i s' → tn_k ν (tm_v m' 47) i s' := by
          intro i s' hi1 hi2 hi3 hk
          unfold tn_k
          rw [hup i hi1]
          refine ⟨hk.1, fun j j1 j2 => ⟨(hk.2 j j1 j2).1, fun hne => ?_⟩⟩
          have := (hk.2 j j1 j2).2 hne
          rw [hup _ (by rw [this]; exact ne (y_go_p hi3)), this]
        refine uX0_isTurned_290 hm' ?_
        rw [es]
        have h := ih (s + 1) many' m' (by omega) (by omega) (by omega) hm' hi' (fun j j0 j1 => ?_) ?_ kk
        · rw [ep', eq'] at h; exact h
        · obtain ⟨z1, z2⟩ := hi.2.2.2.2.1 j j0 (by omega)
          rw [hQ j (by omega)]
          rcases hi.1 _ z1.1 z1.2 with e | e
          · exact absurd e z2
          · exact carry _ _ z2 e.1 e.2 (hall j j0 j1)
        · rw [ep']
          have hc := carry p s (by rw [hq]; exact g2) gy.1 (by rw [hq]; exact gy.2) hcur
          refine ⟨hc.1, fun j j1 j2 => ?_⟩
          by_cases e : j = s
          · rw [e, eq']; exact ⟨h1, h2⟩
          · exact hc.2 j j1 (by omega)
      refine uX0_isTurned_158 (ν := ν) hd hm ⟨fun c => by omega, fun _ => ⟨fun c => absurd c (by decide), fun _ => ⟨pP.1, ⟨hJ, p, gy.1, rfl⟩, ?_⟩⟩⟩
      rw [pP.2.1, pQ.2.1, inj yx gy.1, inj yy gy.2, pX.2.1]
      refine ⟨fun c1 => ⟨pQ.1, ⟨hJ, q, gy.2, rfl⟩, fun c2 => ?_, fun c2 => ?_⟩, fun c1 => ⟨pQ.1, ⟨hJ, q, gy.2, rfl⟩, fun c2 => ?_, fun c2 => ⟨pX.1, x8, fun c3 => ?_, fun c3 => ?_⟩⟩⟩
      · exact nxt many m (Int.le_refl _) hm hi (fun _ _ => rfl) (fun _ _ => rfl) ⟨fun h => absurd c1 h, fun h => absurd c2 h⟩ (fun h => absurd c1 h)
      · exact no290 (hno (fun h => h.1.mpr (fun e => c2 (by rw [e])) c1)) _ _ _ _ _ _ hm
      · exact no290 (hno (fun h => h.1.mp (fun e => c1 (by rw [e])) c2)) _ _ _ _ _ _ hm
      · -- it is put already
        have c1 : y_go ν p s ≠ p := fun e => c1 (by rw [e])
        have c2 : y_go ν q s ≠ q := fun e => c2 (by rw [e])
        refine tC.I (putsF hm yx yy (fun e => absurd e c3)) (fun r m2 f2 h2 => ?_)
        rw [show many + 0 = many by omega, w32_id (x := many) (by omega) (by omega)]
        intro x45 ex
        rw [ex]
        rcases h2 with ⟨e, _⟩ | ⟨_, em, ⟨er, e⟩ | ⟨er, e⟩⟩
        · exact absurd e c3
        · rw [er, em]
          refine no290 (fun ⟨π, hπ⟩ => e ?_) _ _ _ _ _ _ hm
          have hg := (tn_go (p := p) hπ gy.1).2 s s1 (by omega)
          rw [g6.1 π hπ] at hg
          rw [← (hi.2.2.2.2.2 _ x8.1 x8.2 c3).1 π hπ]
          exact hg.2 c1
        · rw [er, em]
          exact nxt many m (Int.le_refl _) hm hi (fun _ _ => rfl) (fun _ _ => rfl) ⟨fun _ => c2, fun _ => c1⟩ (fun _ => e)
      · -- it is new
        have c1 : y_go ν p s ≠ p := fun e => c1 (by rw [e])
        have c2 : y_go ν q s ≠ q := fun e => c2 (by rw [e])
        have hlt : many < 8 := by
          have h1 := sm_lt (f := fun i => if tm_v m 47 i = -1 then 0 else 1) (g := fun _ => 1) (n := 8) (fun i hi2 => by (try dsimp only); split <;> omega) (j := (y_go ν p s).toNat) (by omega) (by (try dsimp only); rw [show (((y_go ν p s).toNat : Nat) : Int) = y_go ν p s by omega, if_pos c3]; decide)
          have h2 : sm (fun _ => (1 : Int)) 8 = 8 := by decide
          have := hi.2.1
          omega
        refine tC.I (putsF hm yx yy (fun _ => by omega)) (fun r m2 f2 h2 => ?_)
        rw [w32_id (x := many + 1) (by omega) (by omega)]
        rintro _ rfl
        rcases h2 with ⟨_, er, em⟩ | ⟨e, _⟩
        · have v47 : ∀ j : Int, tm_v m2 47 j = if j = y_go ν p s then y_go ν q s else tm_v m 47 j := fun j => by rw [em]; simp only [tm_vw]; simp
          have v46 : ∀ j : Int, tm_v m2 46 j = if j = many then y_go ν p s else tm_v m 46 j := fun j => by rw [em]; simp only [tm_vw]; simp
          have F2 := hm.tr f2 (tWs_sub rfl)
          rw [er]
          refine nxt (many + 1) m2 (by omega) F2 ⟨fun i i0 i1 => ?_, ?_, ⟨?_, ?_⟩, fun i i0 i1 hne => ?_, fun j j0 j1 => ?_, fun i i0 i1 hne => ?_⟩ (fun i hne => ?_) (fun j hj => by rw [v46, if_neg (by omega)]) ⟨fun _ => c2, fun _ => c1⟩ (fun _ => by rw [v47, if_pos rfl])
          · rw [v47]
            by_cases e : i = y_go ν p s
            · rw [if_pos e, e]; exact Or.inr ⟨yx, yy⟩
            · rw [if_neg e]; exact hi.1 i i0 i1
          · have e1 : (fun i => if tm_v m2 47 i = -1 then (0 : Int) else 1) = fup (fun i => if tm_v m 47 i = -1 then 0 else 1) (y_go ν p s) 1 := by
              funext j
              unfold fup
              rw [v47]
              by_cases e : j = y_go ν p s
              · rw [if_pos e, if_pos e, if_neg (ne yy)]
              · rw [if_neg e, if_neg e]
            have h9 := sm_fup (f := fun i => if tm_v m 47 i = -1 then 0 else 1) (n := 8) (j := (y_go ν p s).toNat) (x := 1) (by omega)
            rw [show (((y_go ν p s).toNat : Nat) : Int) = y_go ν p s by omega] at h9
            rw [e1, h9, ← hi.2.1, if_pos c3]
            omega
          · rw [v47, if_neg (fun e => by rw [← e, hi.2.2.1.1] at c3; exact ne hb c3)]; exact hi.2.2.1.1
          · rw [v47, if_neg (fun e => by rw [← e, hi.2.2.1.2] at c3; exact ne ha c3)]; exact hi.2.2.1.2
          · by_cases e : i = y_go ν p s
            · exact ⟨many, by omega, by rw [v46, if_pos rfl, e]⟩
            · rw [v47, if_neg e] at hne
              obtain ⟨j, j0, ej⟩ := hi.2.2.2.1 i i0 i1 hne
              exact ⟨j, by omega, by rw [v46, if_neg (by omega), ej]⟩
          · rw [v46]
            by_cases e : j = many
            · rw [if_pos e, v47, if_pos rfl]; exact ⟨x8, ne yy⟩
            · rw [if_neg e, v47]
              have := hi.2.2.2.2.1 j j0 (by omega)
              refine ⟨this.1, ?_⟩
              split
              · exact ne yy
              · exact this.2
          · by_cases e : i = y_go ν p s
            · rw [v47, if_pos e, e]
              refine ⟨fun π hπ => ?_, fun S s0 s1' sc => sc p s (g6.2 S s0 s1' sc) s1 (by omega)⟩
              have hg := (tn_go (p := p) hπ gy.1).2 s s1 (by omega)
              rw [g6.1 π hπ] at hg
              exact hg.2 c1
            · rw [v47, if_neg e] at hne ⊢
              exact hi.2.2.2.2.2 i i0 i1 hne
          · rw [v47, if_neg (fun e => hne (by rw [e]; exact c3))]
        · exact absurd c3 e
  have row : ∀ (n : Nat) (k many : Int) (m : tm_M), 0 ≤ k → k + n = 8 → tFr (tWs [46, 47] []) μ m → tn_i ν a b many m → (∀ j, 0 ≤ j → j < k → j < many → tn_k ν (tm_v m 47) (tm_v m 46 j) 5) → hI (tWs [46, 47] []) μ mX0_isTurned d (fun r _ => r = @ite Int (tnd ν a b) (Classical.propDecidable _) 1 0) 85 [(0, 2, 1), (3, 0, many), (4, 0, 1), (5, 0, k)] [] m := by
    intro n
    induction n with
    | zero =>
      intro k many m k0 kn hm hi hall
      have hb2 := bd hi
      refine uX0_isTurned_85 hm ⟨fun c => over m 1 hm ?_, fun c => by omega⟩
      rw [if_pos (tn_fin ha hb hi (fun j j0 j1 => hall j j0 (by omega) j1))]
    | succ n ih =>
      intro k many m k0 kn hm hi hall
      have hb2 := bd hi
      refine uX0_isTurned_85 hm ⟨fun c => over m 1 hm ?_, fun c => ⟨fun c1 => absurd c1 (by decide), fun _ => ?_⟩⟩
      · rw [if_pos (tn_fin ha hb hi (fun j j0 j1 => hall j j0 (by omega) j1))]
      · obtain ⟨g1, g2⟩ := hi.2.2.2.2.1 k k0 c
        have gy : y_p ν (tm_v m 46 k) ∧ y_p ν (tm_v m 47 (tm_v m 46 k)) := by
          rcases hi.1 _ g1.1 g1.2 with e | e
          · exact absurd e g2
          · exact e
        have g6 := hi.2.2.2.2.2 _ g1.1 g1.2 g2
        rw [nP, eP, eP]
        refine ⟨hJ.T, by omega, hJ.PA.1, g1, ?_⟩
        rintro _ rfl
        refine ⟨g1, y_p8 gy.2, ?_⟩
        rintro _ rfl
        have pP := hJ.P gy.1
        have pQ := hJ.P gy.2
        rw [pP.2.2.1.1, pQ.2.2.1.1]
        refine ⟨pP.1, pQ.1, fun c2 => no158 (fun ⟨π, hπ⟩ => c2 ?_) _ _ _ _ _ _ hm, fun c2 => ?_⟩
        · have := (tn_go hπ gy.1).1
          rw [g6.1 π hπ] at this
          exact this
        · exact steps k k0 4 1 many m (by omega) (by omega) c hm hi (fun j j0 j1 => hall j j0 j1 (by omega)) ⟨c2, fun j j1 j2 => by omega⟩ (fun many' m' h1 h2 h3 h4 => ih (k + 1) many' m' (by omega) (by omega) h2 h3 (fun j j0 j1 _ => h4 j j0 j1))
  have begins : ∀ (n : Nat) (k : Int) (m : tm_M), 0 ≤ k → k + n = 8 → tFr (tWs [46, 47] []) μ m → (∀ j, 0 ≤ j → j < k → tm_v m 47 j = -1) → hI (tWs [46, 47] []) μ mX0_isTurned d (fun r _ => r = @ite Int (tnd ν a b) (Classical.propDecidable _) 1 0) 2 [(0, 2, 1), (1, 0, a), (2, 0, b), (3, 0, k)] [] m := by
    intro n
    induction n with
    | zero =>
      intro k m k0 kn hm hall
      have hall : ∀ j, 0 ≤ j → j < 8 → tm_v m 47 j = -1 := fun j j0 j1 => hall j j0 (by omega)
      refine uX0_isTurned_2 (by omega) hm ⟨fun _ => ?_, fun c => by omega⟩
      rw [nP, eP, eP]
      refine ⟨hJ.T, hJ.PA.1, a8, b8, ?_⟩
      refine tC.I (putsF hm ha hb (fun _ => by omega)) (fun r m2 f2 h2 => ?_)
      rcases h2 with ⟨_, er, em⟩ | ⟨e, _⟩
      · refine ⟨fun c => by omega, fun _ => ?_⟩
        have F2 := hm.tr f2 (tWs_sub rfl)
        refine tC.I (putsF F2 hb ha (fun _ => by omega)) (fun r3 m3 f3 h3 => ?_)
        have F3 := F2.tr f3 (tWs_sub rfl)
        have vb : tm_v m2 47 b = -1 := by rw [em]; simp only [tm_vw]; rw [if_neg (by omega), if_neg (fun q => hab q.2.symm)]; exact hall b b8.1 b8.2
        rcases h3 with ⟨_, er3, em3⟩ | ⟨e, _⟩
        · refine ⟨fun c => by omega, fun _ => ?_⟩
          have v47 : ∀ j : Int, 0 ≤ j → j < 8 → tm_v m3 47 j = if j = a then b else if j = b then a else -1 := by
            intro j j0 j1
            rw [em3, em]
            simp only [tm_vw]
            by_cases e1 : j = a
            · have : ¬ j = b := fun q => hab (by omega)
              simp [e1, hab]
            · by_cases e2 : j = b
              · simp [e1, e2]
                intro q; exact absurd q.symm hab
              · simp [e1, e2]
                exact hall j j0 j1
          have v46 : ∀ j : Int, 0 ≤ j → j < 2 → tm_v m3 46 j = if j = 0 then a else b := by
            intro j j0 j1
            rw [em3, em]
            simp only [tm_vw]
            rcases (show j = 0 ∨ j = 1 by omega) with e | e <;> simp [e]
          have hd3 : ∀ i, 0 ≤ i → i < 8 → tm_v m3 47 i ≠ -1 → i = a ∨ i = b := fun i i0 i1 hne => by
            rw [v47 i i0 i1] at hne
            by_cases e1 : i = a
            · exact Or.inl e1
            · by_cases e2 : i = b
              · exact Or.inr e2
              · rw [if_neg e1, if_neg e2] at hne; exact absurd rfl hne
          have va : tm_v m3 47 a = b := by rw [v47 a a8.1 a8.2, if_pos rfl]
          have vb3 : tm_v m3 47 b = a := by rw [v47 b b8.1 b8.2, if_neg (fun q => hab q.symm), if_pos rfl]
          refine row 8 0 2 m3 (by omega) (by omega) F3 ⟨fun i i0 i1 => ?_, ?_, ⟨va, vb3⟩, fun i i0 i1 hne => ?_, fun j j0 j1 => ?_, fun i i0 i1 hne => ?_⟩ (fun j j0 j1 => by omega)
          · by_cases e : tm_v m3 47 i = -1
            · exact Or.inl e
            · rcases hd3 i i0 i1 e with q | q
              · rw [q, va]; exact Or.inr ⟨ha, hb⟩
              · rw [q, vb3]; exact Or.inr ⟨hb, ha⟩
          · have e1 : sm (fun i => if tm_v m3 47 i = -1 then (0 : Int) else 1) 8 = sm (fup (fup (fun _ => 0) a 1) b 1) 8 := sm_congr (fun i hi => by
              unfold fup
              rw [v47 i (by omega) (by omega)]
              by_cases e2 : (i : Int) = b
              · have e3 : ¬ (i : Int) = a := fun q => hab (by omega)
                simp [e2, Ne.symm hab]
                exact ne ha
              · by_cases e3 : (i : Int) = a
                · simp [e3, hab]
                  exact ne hb
                · simp [e2, e3])
            have h1 := sm_fup (f := fun _ => (0 : Int)) (n := 8) (j := a.toNat) (x := 1) (by omega)
            have h2 := sm_fup (f := fup (fun _ => (0 : Int)) a 1) (n := 8) (j := b.toNat) (x := 1) (by omega)
            rw [show ((a.toNat : Nat) : Int) = a by omega] at h1
            rw [show ((b.toNat : Nat) : Int) = b by omega] at h2
            rw [e1, h2, h1, sm_z (fun _ _ => rfl)]
            unfold fup
            rw [if_neg (fun q => hab q.symm)]
            rfl
          · rcases hd3 i i0 i1 hne with q | q
            · exact ⟨0, by omega, by rw [v46 0 (by omega) (by omega), if_pos rfl, q]⟩
            · exact ⟨1, by omega, by rw [v46 1 (by omega) (by omega), if_neg (by decide), q]⟩
          · rw [v46 j j0 j1]
            split
            · rw [va]; exact ⟨a8, ne hb⟩
            · rw [vb3]; exact ⟨b8, ne ha⟩
          · rcases hd3 i i0 i1 hne with q | q
            · rw [q, va]; exact ⟨fun π hπ => hπ.2.2.1.1, fun S s0 _ _ => s0⟩
            · rw [q, vb3]; exact ⟨fun π hπ => hπ.2.2.1.2, fun S _ s0 _ => s0⟩
        · exact absurd vb e
      · exact absurd (hall a a8.1 a8.2) e
    | succ n ih =>
      intro k m k0 kn hm hall
      refine uX0_isTurned_2 (by omega) hm ⟨fun c => by omega, fun _ => ⟨by omega, fun m2 e2 => ?_⟩⟩
      rw [w32_id (x := k + 1) (by omega) (by omega)]
      refine ih (k + 1) m2 (by omega) (by omega) (by rw [e2]; exact hm.w (tWs_in _ rfl) (tS_w hm.S sf_47 _ _)) (fun j j0 j1 => ?_)
      rw [e2, tm_vw]
      by_cases e : j = k
      · rw [if_pos ⟨rfl, e⟩]
      · rw [if_neg (fun q => e q.2)]; exact hall j j0 (by omega)
  exact t_of (uX0_isTurned_0 (tFr.rf hs) (begins 8 0 μ (by omega) (by omega) (tFr.rf hs) (fun j j0 j1 => by omega)))
theorem pX0_parted {w : Int} (hd : 3 ≤ d) (hs : tS μ) (hJ : JU μ ν) : cI (tWs [45, 46, 47] [(1, 10)]) mX0_parted d [(2, 1), (0, a), (0, b), (0, w)] μ (fun r m => (r, tm_v m 1 10) = r_parted ν a b w) := by
  unfold r_parted
  have no : ∀ x m, m = tm_w μ 1 10 x → ((-1 : Int), tm_v m 1 10) = (-1, x) := fun x m e => by rw [e]; simp [tm_vw]
  have st : ∀ (x r : Int) (m0 m : tm_M), m = tm_w m0 1 10 0 → x = r → (x, tm_v m 1 10) = (r, 0) := fun x r m0 m e1 e2 => by rw [e1, e2]; simp [tm_vw]
  refine t_of (uX0_parted_0 (ν := ν) (by omega) (tFr.rf hs) ⟨hJ, fun c m e => by rw [if_pos (Or.inl c)]; exact no 2 m e, fun ca => ⟨fun c m e => by rw [if_pos (Or.inr (Or.inl c))]; exact no 2 m e, fun cb => ⟨fun hab => ?_, fun c m e => by rw [if_pos (Or.inr (Or.inr c))]; exact no 2 m e⟩⟩⟩)
  rw [if_neg (fun q => by rcases q with q | q | q; exact q ca; exact q cb; exact hab q)]
  have ha : y_p ν a := ⟨hJ.1, ca⟩
  have hb : y_p ν b := ⟨hJ.1, cb⟩
  refine ⟨fun c m e => by rw [if_pos (by omega)]; exact no 5 m e, fun c0 => ⟨fun c1 => ?_, fun c m e => by rw [if_pos (by omega)]; exact no 5 m e⟩⟩
  rw [if_neg (by omega)]
  refine ⟨fun c2 => ?_, fun c2 => ?_⟩
  · rw [if_neg c2]
    refine tC.I (pX0_isTurned (by omega) hs hJ ha hb hab) (fun r m2 f2 hr => ⟨fun c3 m e => st _ _ _ _ e (by rw [← hr, c3]), fun c3 m e => st _ _ _ _ e ?_⟩)
    rw [← hr]
    split at hr <;> omega
  · rw [if_pos c2]
    refine tC.I (pX0_isParted (by omega) hs hJ ha hb) (fun r m2 f2 hr => ⟨fun c3 m e => st _ _ _ _ e (by rw [← hr, c3]), fun c3 m e => st _ _ _ _ e ?_⟩)
    rw [← hr]
    split at hr <;> omega
end C0S
