/-! CONTRACTS of the component: places that are parted, that turn into one another -/
section C0R
variable {d : Nat} {μ μ0 ν : tm_M} {W : Int → Int → Prop} {a b p q : Int}
/-- pairs that are reached, and the row of them -/
def pq_i (ν : tm_M) (a b many : Int) (m : tm_M) : Prop := (∀ i, 0 ≤ i → i < 64 → 0 ≤ tm_v m 45 i ∧ tm_v m 45 i ≤ 1) ∧ many = sm (tm_v m 45) 64 ∧ tm_v m 45 (8 * a + b) ≠ 0 ∧ (∀ i, 0 ≤ i → i < 64 → tm_v m 45 i ≠ 0 → ∃ k, (0 ≤ k ∧ k < many) ∧ tm_v m 46 k = i) ∧
  ∀ k, 0 ≤ k → k < many → (0 ≤ tm_v m 46 k ∧ tm_v m 46 k < 64) ∧ (y_p ν (tm_v m 46 k / 8) ∧ y_p ν (tm_v m 46 k % 8)) ∧ ∀ S, saf ν S → S a b → S (tm_v m 46 k / 8) (tm_v m 46 k % 8)
/-- the steps of a pair up to s are looked at -/
def pq_k (ν m : tm_M) (i s : Int) : Prop := ∀ j, 1 ≤ j → j < s → ¬ y_met ν (y_go ν (i / 8) j) (y_go ν (i % 8) j) (i / 8) (i % 8) ∧ tm_v m 45 (8 * y_go ν (i / 8) j + y_go ν (i % 8) j) ≠ 0
theorem pq_end {many : Int} {m : tm_M} (ha : y_p ν a) (hb : y_p ν b) (hi : pq_i ν a b many m) (hk : ∀ k, 0 ≤ k → k < many → pq_k ν m (tm_v m 46 k) 5) : prt ν a b := by
  obtain ⟨h1, h2, h3, h4, h5⟩ := hi
  refine ⟨fun p q => (y_p ν p ∧ y_p ν q) ∧ tm_v m 45 (8 * p + q) ≠ 0, fun p q hS s s1 s4 => ?_, ⟨ha, hb⟩, h3⟩
  obtain ⟨⟨hp, hq⟩, hR⟩ := hS
  have p8 := y_p8 hp
  have q8 := y_p8 hq
  obtain ⟨k, k0, ek⟩ := h4 (8 * p + q) (by omega) (by omega) hR
  have hk' := hk k k0.1 k0.2 s s1 (by omega)
  rw [ek, show (8 * p + q) / 8 = p by omega, show (8 * p + q) % 8 = q by omega] at hk'
  exact ⟨hk'.1, ⟨y_go_p hp, y_go_p hq⟩, hk'.2⟩
theorem sm_1 {m m' : tm_M} {c : Int} {i : Nat} (hi : i < 64) (h0 : tm_v m c i = 0) (e : ∀ j : Int, tm_v m' c j = if j = i then 1 else tm_v m c j) : sm (tm_v m' c) 64 = sm (tm_v m c) 64 + 1 := by
  have : tm_v m' c = fup (tm_v m c) i 1 := by funext j; rw [e]; rfl
  rw [this, sm_fup hi, h0]
  omega
theorem pX0_isParted (hd : 2 ≤ d) (hs : tS μ) (hJ : JU μ ν) (ha : y_p ν a) (hb : y_p ν b) : cI (tWs [45, 46] []) mX0_isParted d [(2, 1), (0, a), (0, b)] μ (fun r _ => r = @ite Int (prt ν a b) (Classical.propDecidable _) 1 0) := by
  have nP : tm_n μ (tm_v μ (tm_v μ 1 8) 0) = 8 := hJ.PA.2
  have eP : ∀ k, tm_v μ (tm_v μ (tm_v μ 1 8) 0) k = c_P μ k := fun k => rfl
  have e6 : tm_v μ (tm_v μ 1 8) 6 = tm_v ν 65 28 := hJ.2.2.1.2.2.2.2
  have a8 := y_p8 ha
  have b8 := y_p8 hb
  have w45 : ∀ {m : tm_M} {j y : Int}, tFr (tWs [45, 46] []) μ m → tFr (tWs [45, 46] []) μ (tm_w m 45 j y) := fun h => h.w (tWs_in _ rfl) (tS_w h.S sf_45 _ _)
  have w46 : ∀ {m : tm_M} {j y : Int}, tFr (tWs [45, 46] []) μ m → tFr (tWs [45, 46] []) μ (tm_w m 46 j y) := fun h => h.w (tWs_in _ rfl) (tS_w h.S sf_46 _ _)
  have bd : ∀ {many : Int} {m : tm_M}, pq_i ν a b many m → 0 ≤ many ∧ many ≤ 64 := fun h => by
    have := sm_bd (f := tm_v _ 45) (n := 64) (c := 1) (fun i hi => h.1 i (by omega) (by omega))
    have := h.2.1
    omega
  have isno : ¬ prt ν a b → ∀ m, tFr (tWs [45, 46] []) μ m → hI (tWs [45, 46] []) μ mX0_isParted d (fun r _ => r = @ite Int (prt ν a b) (Classical.propDecidable _) 1 0) 156 [] [] m := fun h m hm => uX0_isParted_156 hm (by rw [if_neg h])
  -- the steps of a pair
  have steps : ∀ (k : Int), 0 ≤ k → ∀ (n : Nat) (s many : Int) (m : tm_M), 1 ≤ s → s + n = 5 → k < many → tFr (tWs [45, 46] []) μ m → pq_i ν a b many m → (∀ j, 0 ≤ j → j < k → pq_k ν m (tm_v m 46 j) 5) → pq_k ν m (tm_v m 46 k) s →
      (∀ many' m', k < many' → tFr (tWs [45, 46] []) μ m' → pq_i ν a b many' m' → (∀ j, 0 ≤ j → j < k + 1 → pq_k ν m' (tm_v m' 46 j) 5) → hI (tWs [45, 46] []) μ mX0_isParted d (fun r _ => r = @ite Int (prt ν a b) (Classical.propDecidable _) 1 0) 52 [(0, 2, 1), (3, 0, many'), (4, 0, k + 1)] [] m') →
      hI (tWs [45, 46] []) μ mX0_isParted d (fun r _ => r = @ite Int (prt ν a b) (Classical.propDecidable _) 1 0) 101 [(0, 2, 1), (3, 0, many), (4, 0, k), (5, 2, c_P μ (tm_v m 46 k / 8)), (6, 2, c_P μ (tm_v m 46 k % 8)), (7, 0, s)] [] m := by
    intro k k0 n
    induction n with
    | zero =>
      intro s many m s1 sn hkm hm hi hall hcur kk
      have hb2 := bd hi
      refine uX0_isParted_101 (ν := ν) hd hm ⟨fun _ => ?_, fun c => by omega⟩
      rw [w32_id (x := k + 1) (by omega) (by omega)]
      refine kk many m hkm hm hi (fun j j0 j1 => ?_)
      by_cases e : j = k
      · rw [e]; rw [show s = 5 by omega] at hcur; exact hcur
      · exact hall j j0 (by omega)
    | succ n ih =>
      intro s many m s1 sn hkm hm hi hall hcur kk
      have hb2 := bd hi
      obtain ⟨g1, g2, g3⟩ := hi.2.2.2.2 k k0 hkm
      have es : w32 (s + 1) = s + 1 := w32_id (by omega) (by omega)
      generalize hQ : tm_v m 46 k = Q at *
      have pP := hJ.P g2.1
      have pQ := hJ.P g2.2
      have yx := y_go_p (s := s) g2.1
      have yy := y_go_p (s := s) g2.2
      have pX := hJ.P yx
      have pY := hJ.P yy
      have x8 := y_p8 yx
      have y8 := y_p8 yy
      have no : y_met ν (y_go ν (Q / 8) s) (y_go ν (Q % 8) s) (Q / 8) (Q % 8) → ¬ prt ν a b := fun hm ⟨S, hS, hab⟩ => (hS _ _ (g3 S hS hab) s s1 (by omega)).1 hm
      have cur' : ¬ y_met ν (y_go ν (Q / 8) s) (y_go ν (Q % 8) s) (Q / 8) (Q % 8) → ∀ m', (∀ j : Int, tm_v m 45 j ≠ 0 → tm_v m' 45 j ≠ 0) → tm_v m' 45 (8 * y_go ν (Q / 8) s + y_go ν (Q % 8) s) ≠ 0 → pq_k ν m' Q (s + 1) := by
        intro hmet m' hup hnew j j1 j2
        by_cases e : j = s
        · rw [e]; exact ⟨hmet, hnew⟩
        · have := hcur j j1 (by omega)
          exact ⟨this.1, hup _ this.2⟩
      have goes : ¬ y_met ν (y_go ν (Q / 8) s) (y_go ν (Q % 8) s) (Q / 8) (Q % 8) → hI (tWs [45, 46] []) μ mX0_isParted d (fun r _ => r = @ite Int (prt ν a b) (Classical.propDecidable _) 1 0) 158 [(0, 2, 1), (3, 0, many), (4, 0, k), (5, 2, c_P μ (Q / 8)), (6, 2, c_P μ (Q % 8)), (7, 0, s), (8, 2, c_P μ (y_go ν (Q / 8) s)), (9, 2, c_P μ (y_go ν (Q % 8) s))] [] m := by
        intro hmet
        refine uX0_isParted_158 hm ⟨pX.1, pY.1, ?_⟩
        rw [pX.2.1, pY.2.1, w32_8 x8 y8]
        rintro _ rfl
        refine ⟨by omega, fun c m7 e7 => ?_, fun c => ?_⟩
        · have hlt : many < 64 := by
            have h1 := sm_lt (f := tm_v m 45) (g := fun _ => 1) (n := 64) (fun i hi2 => (hi.1 i (by omega) (by omega)).2) (j := (8 * y_go ν (Q / 8) s + y_go ν (Q % 8) s).toNat) (by omega) (by rw [show (((8 * y_go ν (Q / 8) s + y_go ν (Q % 8) s).toNat : Nat) : Int) = 8 * y_go ν (Q / 8) s + y_go ν (Q % 8) s by omega, c]; decide)
            have h2 : sm (fun _ => (1 : Int)) 64 = 64 := by decide
            have := hi.2.1
            omega
          refine ⟨by omega, fun m9 e9 => ?_⟩
          have v45 : ∀ j : Int, tm_v m9 45 j = if j = 8 * y_go ν (Q / 8) s + y_go ν (Q % 8) s then 1 else tm_v m 45 j := fun j => by rw [e9, e7]; simp only [tm_vw]; simp
          have v46 : ∀ j : Int, tm_v m9 46 j = if j = many then 8 * y_go ν (Q / 8) s + y_go ν (Q % 8) s else tm_v m 46 j := fun j => by rw [e9, e7]; simp only [tm_vw]; simp
          have up : ∀ j : Int, tm_v m 45 j ≠ 0 → tm_v m9 45 j ≠ 0 := fun j h => by rw [v45]; split <;> omega
          have F9 : tFr (tWs [45, 46] []) μ m9 := by rw [e9, e7]; exact w46 (w45 hm)
          have eQ9 : tm_v m9 46 k = Q := by rw [v46, if_neg (by omega)]; exact hQ
          refine uX0_isParted_206 F9 ?_
          rw [es, w32_id (x := many + 1) (by omega) (by omega)]
          have hi9 : pq_i ν a b (many + 1) m9 := by
            refine ⟨fun i i0 i1 => ?_, ?_, up _ hi.2.2.1, fun i i0 i1 hne => ?_, fun j j0 j1 => ?_⟩
            · rw [v45]; have := hi.1 i i0 i1; split <;> omega
            · have h1 := sm_1 (m := m) (m' := m9) (c := 45) (i := (8 * y_go ν (Q / 8) s + y_go ν (Q % 8) s).toNat) (by omega) (by rw [show (((8 * y_go ν (Q / 8) s + y_go ν (Q % 8) s).toNat : Nat) : Int) = 8 * y_go ν (Q / 8) s + y_go ν (Q % 8) s by omega]; exact c) (fun j => by rw [v45, show (((8 * y_go ν (Q / 8) s + y_go ν (Q % 8) s).toNat : Nat) : Int) = 8 * y_go ν (Q / 8) s + y_go ν (Q % 8) s by omega])
              rw [h1, ← hi.2.1]
            · by_cases e : i = 8 * y_go ν (Q / 8) s + y_go ν (Q % 8) s
              · exact ⟨many, by omega, by rw [v46, if_pos rfl, e]⟩
              · rw [v45, if_neg e] at hne
                obtain ⟨j, j0, ej⟩ := hi.2.2.2.1 i i0 i1 hne
                exact ⟨j, by omega, by rw [v46, if_neg (by omega), ej]⟩
            · rw [v46]
              by_cases e : j = many
              · rw [if_pos e, show (8 * y_go ν (Q / 8) s + y_go ν (Q % 8) s) / 8 = y_go ν (Q / 8) s by omega, show (8 * y_go ν (Q / 8) s + y_go ν (Q % 8) s) % 8 = y_go ν (Q % 8) s by omega]
                exact ⟨by omega, ⟨yx, yy⟩, fun S hS hab => (hS _ _ (g3 S hS hab) s s1 (by omega)).2⟩
              · rw [if_neg e]; exact hi.2.2.2.2 j j0 (by omega)
          have h := ih (s + 1) (many + 1) m9 (by omega) (by omega) (by omega) F9 hi9 (fun j j0 j1 => ?_) (by rw [eQ9]; exact cur' hmet m9 up (by rw [v45, if_pos rfl]; decide)) kk
          · rw [eQ9] at h; exact h
          · rw [v46, if_neg (by omega)]
            intro i i1 i2
            have := hall j j0 j1 i i1 i2
            exact ⟨this.1, up _ this.2⟩
        · refine uX0_isParted_206 hm ?_
          rw [es]
          have h := ih (s + 1) many m (by omega) (by omega) hkm hm hi hall (by rw [hQ]; exact cur' hmet m (fun _ h => h) c) kk
          rw [hQ] at h
          exact h
      refine uX0_isParted_101 (ν := ν) hd hm ⟨fun c => by omega, fun _ => ?_⟩
      rw [pP.2.1, pQ.2.1, e6]
      refine ⟨pP.1, ⟨hJ, _, g2.1, rfl⟩, ?_⟩
      rintro _ rfl
      refine ⟨pQ.1, ⟨hJ, _, g2.2, rfl⟩, ?_⟩
      rintro _ rfl
      refine ⟨fun c1 => isno (no (Or.inl (hJ.inj yx yy c1))) m hm, fun c1 => ⟨hJ.T, fun c2 => goes ?_, fun c2 => ⟨fun c3 => goes ?_, fun c3 => ⟨fun c4 => goes ?_, fun c4 => isno (no (Or.inr ⟨c2, hJ.inj yx g2.2 c3, hJ.inj yy g2.1 c4⟩)) m hm⟩⟩⟩⟩
      · rintro (q | q)
        · exact c1 (by rw [q])
        · exact q.1 c2
      · rintro (q | q)
        · exact c1 (by rw [q])
        · exact c3 (by rw [q.2.1])
      · rintro (q | q)
        · exact c1 (by rw [q])
        · exact c4 (by rw [q.2.2])
  have row : ∀ (n : Nat) (k many : Int) (m : tm_M), 0 ≤ k → k + n = 64 → tFr (tWs [45, 46] []) μ m → pq_i ν a b many m → (∀ j, 0 ≤ j → j < k → j < many → pq_k ν m (tm_v m 46 j) 5) → hI (tWs [45, 46] []) μ mX0_isParted d (fun r _ => r = @ite Int (prt ν a b) (Classical.propDecidable _) 1 0) 52 [(0, 2, 1), (3, 0, many), (4, 0, k)] [] m := by
    intro n
    induction n with
    | zero =>
      intro k many m k0 kn hm hi hall
      have hb2 := bd hi
      refine uX0_isParted_52 hm ⟨fun c => ?_, fun c => by omega⟩
      rw [if_pos (pq_end ha hb hi (fun j j0 j1 => hall j j0 (by omega) j1))]
    | succ n ih =>
      intro k many m k0 kn hm hi hall
      have hb2 := bd hi
      refine uX0_isParted_52 hm ⟨fun c => ?_, fun c => ?_⟩
      · rw [if_pos (pq_end ha hb hi (fun j j0 j1 => hall j j0 (by omega) j1))]
      · obtain ⟨g1, g2, g3⟩ := hi.2.2.2.2 k k0 c
        have etd : w32 ((tm_v m 46 k).tdiv 8) = tm_v m 46 k / 8 := by rw [Int.tdiv_eq_ediv_of_nonneg g1.1, w32_id (by omega) (by omega)]
        have etm : (tm_v m 46 k).tmod 8 = tm_v m 46 k % 8 := Int.tmod_eq_emod_of_nonneg g1.1
        rw [etd, etm, nP, eP, eP]
        refine ⟨hJ.T, by omega, hJ.PA.1, y_p8 g2.1, ?_⟩
        rintro _ rfl
        refine ⟨y_p8 g2.2, ?_⟩
        rintro _ rfl
        exact steps k k0 4 1 many m (by omega) (by omega) c hm hi (fun j j0 j1 => hall j j0 j1 (by omega)) (fun j j1 j2 => by omega) (fun many' m' h1 h2 h3 h4 => ih (k + 1) many' m' (by omega) (by omega) h2 h3 (fun j j0 j1 _ => h4 j j0 j1))
  have begins : ∀ (n : Nat) (k : Int) (m : tm_M), 0 ≤ k → k + n = 64 → tFr (tWs [45, 46] []) μ m → (∀ j, 0 ≤ j → j < k → tm_v m 45 j = if j = 8 * a + b then 1 else 0) → hI (tWs [45, 46] []) μ mX0_isParted d (fun r _ => r = @ite Int (prt ν a b) (Classical.propDecidable _) 1 0) 2 [(0, 2, 1), (1, 0, a), (2, 0, b), (3, 0, k)] [] m := by
    intro n
    induction n with
    | zero =>
      intro k m k0 kn hm hall
      refine uX0_isParted_2 hm ⟨fun _ m3 e3 => ?_, fun c => by omega⟩
      rw [w32_8 a8 b8] at e3
      have v45 : ∀ j, 0 ≤ j → j < 64 → tm_v m3 45 j = if j = 8 * a + b then 1 else 0 := fun j j0 j1 => by rw [e3, tm_vw, if_neg (by omega)]; exact hall j j0 (by omega)
      refine row 64 0 1 m3 (by omega) (by omega) (by rw [e3]; exact w46 hm) ⟨fun i i0 i1 => ?_, ?_, ?_, fun i i0 i1 hne => ?_, fun j j0 j1 => ?_⟩ (fun j j0 j1 => by omega)
      · rw [v45 i i0 i1]; split <;> omega
      · have h1 : sm (tm_v m3 45) 64 = sm (fup (fun _ => 0) (8 * a + b) 1) 64 := sm_congr (fun i hi => by rw [v45 i (by omega) (by omega)]; rfl)
        have h2 := sm_fup (f := fun _ => (0 : Int)) (n := 64) (j := (8 * a + b).toNat) (x := 1) (by omega)
        rw [show (((8 * a + b).toNat : Nat) : Int) = 8 * a + b by omega] at h2
        rw [h1, h2, sm_z (fun _ _ => rfl)]
        rfl
      · rw [v45 _ (by omega) (by omega), if_pos rfl]; decide
      · rw [v45 i i0 i1] at hne
        refine ⟨0, by omega, ?_⟩
        rw [e3, tm_vw, if_pos ⟨rfl, rfl⟩]
        split at hne
        · rename_i h; exact h.symm
        · exact absurd rfl hne
      · have ej : tm_v m3 46 j = 8 * a + b := by rw [e3, tm_vw, if_pos ⟨rfl, by omega⟩]
        rw [ej, show (8 * a + b) / 8 = a by omega, show (8 * a + b) % 8 = b by omega]
        exact ⟨by omega, ⟨ha, hb⟩, fun S _ h => h⟩
    | succ n ih =>
      intro k m k0 kn hm hall
      have e1 : w32 (k + 1) = k + 1 := w32_id (by omega) (by omega)
      have nx : ∀ x m7, m7 = tm_w m 45 k x → x = (if k = 8 * a + b then 1 else 0) → hI (tWs [45, 46] []) μ mX0_isParted d (fun r _ => r = @ite Int (prt ν a b) (Classical.propDecidable _) 1 0) 2 [(0, 2, 1), (1, 0, a), (2, 0, b), (3, 0, k + 1)] [] m7 := by
        intro x m7 e7 hx
        refine ih (k + 1) m7 (by omega) (by omega) (by rw [e7]; exact w45 hm) (fun j j0 j1 => ?_)
        rw [e7, tm_vw]
        by_cases e : j = k
        · rw [if_pos ⟨rfl, e⟩, e]; exact hx
        · rw [if_neg (fun q => e q.2)]; exact hall j j0 (by omega)
      refine uX0_isParted_2 hm ⟨fun c => by omega, fun _ => ?_⟩
      rw [w32_8 a8 b8, e1]
      exact ⟨fun c => ⟨by omega, fun m7 e7 => nx 0 m7 e7 (by rw [if_neg c])⟩, fun c => ⟨by omega, fun m7 e7 => nx 1 m7 e7 (by rw [if_pos c])⟩⟩
  exact t_of (uX0_isParted_0 (tFr.rf hs) (begins 64 0 μ (by omega) (by omega) (tFr.rf hs) (fun j j0 j1 => by omega)))
theorem pX0_puts {i : Int} (hs : tS μ) (hJ : JU μ ν) (hp : y_p ν p) (hq : y_p ν q) (hi : tm_v μ 47 p = -1 → 0 ≤ i ∧ i < 64) : cI (tWs [46, 47] []) mX0_puts d [(2, 1), (2, c_P μ p), (2, c_P μ q), (0, i)] μ (fun r m => (tm_v μ 47 p = -1 ∧ r = 1 ∧ m = tm_w (tm_w μ 47 p q) 46 i p) ∨ (tm_v μ 47 p ≠ -1 ∧ m = μ ∧ ((r = 0 ∧ tm_v μ 47 p ≠ q) ∨ (r = 1 ∧ tm_v μ 47 p = q)))) := by
  have pP := hJ.P hp
  have pQ := hJ.P hq
  refine t_of (uX0_puts_0 (tFr.rf hs) ⟨pP.1, ?_⟩)
  rw [pP.2.1, pQ.2.1]
  exact ⟨y_p8 hp, fun c => ⟨pQ.1, fun m6 e6 => ⟨hi c, fun m8 e8 => Or.inl ⟨c, rfl, by rw [e8, e6]⟩⟩⟩, fun c => ⟨pQ.1, fun c2 => Or.inr ⟨c, rfl, Or.inl ⟨rfl, c2⟩⟩, fun c2 => Or.inr ⟨c, rfl, Or.inr ⟨rfl, c2⟩⟩⟩⟩
end C0R
