/-! CONTRACTS of the model: the tape; new ways -/
section C6L
variable {d : Nat} {μ μ0 : tm_M} {W : Int → Int → Prop}
/-- four bytes laid -/
def lay4 (T : Int → Int) (k v : Int) : Int → Int := fup (fup (fup (fup T k (w8 (i_shr v 24))) (k + 1) (w8 (i_shr v 16))) (k + 1 + 1) (w8 (i_shr v 8))) (k + 1 + 1 + 1) (w8 (i_shr v 0))
theorem vw_fup (μ : tm_M) (a j x : Int) : tm_v (tm_w μ a j x) a = fup (tm_v μ a) j x := by funext i; simp [tm_vw, fup]
theorem vw_ne (μ : tm_M) {a b : Int} (j x : Int) (h : b ≠ a) : tm_v (tm_w μ a j x) b = tm_v μ b := by funext i; rw [tm_vw, if_neg (fun q => h q.1)]
theorem pX6_lay {v : Int} (hs : tS μ) (hc : 0 ≤ tm_v μ 65 8 ∧ tm_v μ 65 8 ≤ 496) : cV wX6_lay mX6_lay d [(2, 65), (0, v)] μ (fun μ' => tm_v μ' 69 = lay4 (tm_v μ 69) (tm_v μ 65 8) v ∧ tm_v μ' 65 8 = tm_v μ 65 8 + 4) := by
  have step : ∀ (K : tm_M → Prop) (i : Int) (m : tm_M), 0 ≤ i → i ≤ 3 → tFr wX6_lay μ m → (0 ≤ tm_v m 65 8 ∧ tm_v m 65 8 < 500) →
      (∀ m', tFr wX6_lay μ m' → tm_v m' 69 = fup (tm_v m 69) (tm_v m 65 8) (w8 (i_shr v (8 * i))) → tm_v m' 65 8 = tm_v m 65 8 + 1 → hV wX6_lay μ mX6_lay d K 2 [(0, 2, 65), (1, 0, v), (2, 0, i - 1)] [] m') →
      hV wX6_lay μ mX6_lay d K 2 [(0, 2, 65), (1, 0, v), (2, 0, i)] [] m := by
    intro K i m i0 i3 hm h kk
    refine uX6_lay_2 hm ⟨fun c => by omega, fun c => ⟨h, ?_⟩⟩
    rintro _ rfl _ rfl
    rw [w32_id (x := 8 * i) (by omega) (by omega), w32_id (x := i + -1) (by omega) (by omega), show i + -1 = i - 1 by omega]
    have f1 := hm.w (j := tm_v m 65 8) (x := w8 (i_shr v (8 * i))) (tWs_in (a := 69) _ rfl) (tS_w hm.S sf_69 _ _)
    have e8 : tm_v (tm_w m 69 (tm_v m 65 8) (w8 (i_shr v (8 * i)))) 65 8 = tm_v m 65 8 := by rw [tm_vw, if_neg (by omega)]
    rw [e8, w32_id (by omega) (by omega)]
    refine kk _ (f1.w (tWs_inF rfl) (tS_wj f1.S _ (by decide))) ?_ ?_
    · rw [vw_ne _ _ _ (by decide), vw_fup]
    · simp [tm_vw]
  refine t_of (uX6_lay_0 (tFr.rf hs) ?_)
  refine step _ 3 μ (by omega) (by omega) (tFr.rf hs) (by omega) (fun m1 f1 a1 b1 => ?_)
  refine step _ 2 m1 (by omega) (by omega) f1 (by omega) (fun m2 f2 a2 b2 => ?_)
  refine step _ 1 m2 (by omega) (by omega) f2 (by omega) (fun m3 f3 a3 b3 => ?_)
  refine step _ 0 m3 (by omega) (by omega) f3 (by omega) (fun m4 f4 a4 b4 => ?_)
  refine uX6_lay_2 f4 ⟨fun _ => ⟨?_, by omega⟩, fun c => by omega⟩
  rw [a4, a3, a2, a1, b3, b2, b1]
  rfl
def lay20 (T : Int → Int) (k p q r s t : Int) : Int → Int := lay4 (lay4 (lay4 (lay4 (lay4 T k p) (k + 4) q) (k + 8) r) (k + 12) s) (k + 16) t
def o_feed (μ : tm_M) (p q r s t x : Int) (μ' : tm_M) : Prop := x = (if tm_v μ 65 8 ≤ 480 then tm_v μ 65 8 + 20 else -1) ∧ tm_v μ' 65 8 = (if tm_v μ 65 8 ≤ 480 then tm_v μ 65 8 + 20 else tm_v μ 65 8) ∧ tm_v μ' 69 = if tm_v μ 65 8 ≤ 480 then lay20 (tm_v μ 69) (tm_v μ 65 8) p q r s t else tm_v μ 69
theorem pX6_feed {p q r s t : Int} (hd : 1 ≤ d) (hs : tS μ) (hc : 0 ≤ tm_v μ 65 8 ∧ tm_v μ 65 8 ≤ 500) : cI wX6_feed mX6_feed d [(2, 65), (0, p), (0, q), (0, r), (0, s), (0, t)] μ (o_feed μ p q r s t) := by
  refine t_of (uX6_feed_0 hd (tFr.rf hs) ?_)
  rintro _ rfl
  have f1 : tFr wX6_feed μ (tm_w μ 65 1 0) := (tFr.rf hs).w (tWs_inF rfl) (tS_wj hs _ (by decide))
  have e8 : tm_v (tm_w μ 65 1 0) 65 8 = tm_v μ 65 8 := by simp [tm_vw]
  have e69 : tm_v (tm_w μ 65 1 0) 69 = tm_v μ 69 := vw_ne _ _ _ (by decide)
  rw [e8, w32_id (by omega) (by omega)]
  unfold o_feed
  refine ⟨fun c => ?_, fun c => ?_⟩
  · refine tC.V (pX6_lay f1.S (by omega)) (fun m1 g1 h1 => ?_)
    rw [e8, e69] at h1
    refine tC.V (pX6_lay g1.S (by omega)) (fun m2 g2 h2 => ?_)
    refine tC.V (pX6_lay g2.S (by omega)) (fun m3 g3 h3 => ?_)
    refine tC.V (pX6_lay g3.S (by omega)) (fun m4 g4 h4 => ?_)
    refine tC.V (pX6_lay g4.S (by omega)) (fun m5 g5 h5 => ?_)
    rw [if_pos (by omega), if_pos (by omega), if_pos (by omega)]
    refine ⟨by omega, by omega, ?_⟩
    rw [h5.1, h4.1, h3.1, h2.1, h1.1, show tm_v m4 65 8 = tm_v μ 65 8 + 16 by omega, show tm_v m3 65 8 = tm_v μ 65 8 + 12 by omega, show tm_v m2 65 8 = tm_v μ 65 8 + 8 by omega, h1.2]
    rfl
  · rw [if_neg (by omega), if_neg (by omega), if_neg (by omega)]
    exact ⟨rfl, e8, e69⟩
/-- a way added -/
def o_add (μ : tm_M) (t n c g : Int) (μ' : tm_M) : Prop := tm_v μ' 65 43 = tm_v μ 65 43 + 1 ∧ tm_v μ' 82 = fup (tm_v μ 82) (tm_v μ 65 43) c ∧ tm_v μ' 84 = fup (tm_v μ 84) (tm_v μ 65 43) g ∧ ∀ x, tm_v μ' 83 x = if 24 * tm_v μ 65 43 ≤ x ∧ x < 24 * tm_v μ 65 43 + n then w32 (tm_v μ 68 (64 * t + (x - 24 * tm_v μ 65 43))) else tm_v μ 83 x
def o_way (st : Int) (μ : tm_M) (t n c g r : Int) (μ' : tm_M) : Prop := tm_v μ' 65 0 = st ∧ r = (if st = 0 then tm_v μ 65 43 else -1) ∧ if st = 0 then o_add μ t n c g μ' else (tm_v μ' 65 43 = tm_v μ 65 43 ∧ tm_v μ' 82 = tm_v μ 82 ∧ tm_v μ' 83 = tm_v μ 83 ∧ tm_v μ' 84 = tm_v μ 84)
theorem pX6_addWay {t n c g : Int} (hd : 1 ≤ d) (hs : tS μ) (hV : 0 ≤ tm_v μ 65 43 ∧ tm_v μ 65 43 ≤ 12) (ht : 0 ≤ t ∧ t < 4) (hn : 0 ≤ n ∧ n ≤ 24) (hg : 0 ≤ g ∧ g ≤ 1) (h0 : tm_v μ 65 0 = 0) : cI wX6_addWay mX6_addWay d [(2, 65), (0, t), (0, n), (0, c), (0, g)] μ (o_way (if tm_v μ 65 43 = 12 then 7 else 0) μ t n c g) := by
  have loop : tm_v μ 65 43 ≠ 12 → ∀ (q : Nat) (k : Int) (m : tm_M), 0 ≤ k → k + q = n → tFr (tWs [83] []) μ m → (∀ x, tm_v m 83 x = if 24 * tm_v μ 65 43 ≤ x ∧ x < 24 * tm_v μ 65 43 + k then w32 (tm_v μ 68 (64 * t + (x - 24 * tm_v μ 65 43))) else tm_v μ 83 x) →
      hI wX6_addWay μ mX6_addWay d (o_way (if tm_v μ 65 43 = 12 then 7 else 0) μ t n c g) 19 [(0, 2, 65), (1, 0, t), (2, 0, n), (3, 0, c), (4, 0, g), (5, 0, k)] [] m := by
    intro h12 q
    induction q with
    | zero =>
      intro k m k0 kn hm h
      have hm' : tFr wX6_addWay μ m := hm.to (tWs_sub rfl)
      have e43 : tm_v m 65 43 = tm_v μ 65 43 := hm.v (tWs_noF rfl)
      refine uX6_addWay_19 hd hm' ⟨fun c1 => ?_, fun c1 => by omega⟩
      rw [e43]
      refine ⟨by omega, ?_⟩
      rintro _ rfl
      have e43' : tm_v (tm_w m 82 (tm_v μ 65 43) c) 65 43 = tm_v μ 65 43 := by rw [tm_vw, if_neg (by omega), e43]
      rw [e43']
      refine ⟨by omega, hg, ?_⟩
      rintro _ rfl
      have e43'' : tm_v (tm_w (tm_w m 82 (tm_v μ 65 43) c) 84 (tm_v μ 65 43) g) 65 43 = tm_v μ 65 43 := by rw [tm_vw, if_neg (by omega), e43']
      rw [e43'', w32_id (x := tm_v μ 65 43 + 1) (by omega) (by omega)]
      rintro _ rfl
      have e : tm_v (tm_w (tm_w (tm_w m 82 (tm_v μ 65 43) c) 84 (tm_v μ 65 43) g) 65 43 (tm_v μ 65 43 + 1)) 65 43 = tm_v μ 65 43 + 1 := by rw [tm_vw, if_pos ⟨rfl, rfl⟩]
      rw [e, w32_id (by omega) (by omega)]
      unfold o_way o_add
      rw [if_neg h12, if_pos rfl, if_pos rfl]
      refine ⟨?_, by omega, e, ?_, ?_, ?_⟩
      · rw [tm_vw, if_neg (by omega), tm_vw, if_neg (by omega), tm_vw, if_neg (by omega), hm.v (tWs_noF rfl)]; exact h0
      · rw [vw_ne _ _ _ (by decide), vw_ne _ _ _ (by decide), vw_fup]
        congr 1
        funext i; exact hm.v (tWs_no _ rfl)
      · rw [vw_ne _ _ _ (by decide), vw_fup, vw_ne _ _ _ (by decide)]
        congr 1
        funext i; exact hm.v (tWs_no _ rfl)
      · intro x
        rw [vw_ne _ _ _ (by decide), vw_ne _ _ _ (by decide), vw_ne _ _ _ (by decide), h x, show k = n by omega]
    | succ q ih =>
      intro k m k0 kn hm h
      have hm' : tFr wX6_addWay μ m := hm.to (tWs_sub rfl)
      have e43 : tm_v m 65 43 = tm_v μ 65 43 := hm.v (tWs_noF rfl)
      have e68 : tm_v m 68 (64 * t + k) = tm_v μ 68 (64 * t + k) := hm.v (tWs_no _ rfl)
      refine uX6_addWay_19 hd hm' ⟨fun c1 => by omega, fun c1 => ⟨by omega, ?_⟩⟩
      rw [e43, e68, w32_id (x := 24 * tm_v μ 65 43) (by omega) (by omega), w32_id (x := 24 * tm_v μ 65 43 + k) (by omega) (by omega), w32_id (x := k + 1) (by omega) (by omega)]
      refine ⟨by omega, ?_⟩
      rintro _ rfl
      refine ih (k + 1) _ (by omega) (by omega) (hm.w (tWs_in _ rfl) (tS_w hm.S sf_83 _ _)) (fun x => ?_)
      rw [tm_vw, h x]
      by_cases e : x = 24 * tm_v μ 65 43 + k
      · rw [if_pos ⟨rfl, e⟩, if_pos (by omega), show x - 24 * tm_v μ 65 43 = k by omega]
      · rw [if_neg (fun q => e q.2)]
        by_cases e2 : 24 * tm_v μ 65 43 ≤ x ∧ x < 24 * tm_v μ 65 43 + k
        · rw [if_pos e2, if_pos (by omega)]
        · rw [if_neg e2, if_neg (by omega)]
  refine t_of (uX6_addWay_0 hd (tFr.rf hs) ⟨fun c1 => ?_, fun c1 => ?_⟩)
  · exact loop c1 n.toNat 0 μ (by omega) (by omega) (tFr.rf hs) (fun x => by rw [if_neg (by omega)])
  · rintro _ rfl
    unfold o_way
    rw [if_pos c1, if_neg (by decide), if_neg (by decide)]
    exact ⟨by simp [tm_vw], rfl, by simp [tm_vw], vw_ne _ _ _ (by decide), vw_ne _ _ _ (by decide), vw_ne _ _ _ (by decide)⟩
/-- all of so many numbers of a tray lie in bounds -/
def y_from (μ : tm_M) (t n hi : Int) : Prop := ∀ k, 0 ≤ k → k < n → 0 ≤ tm_v μ 68 (64 * t + k) ∧ tm_v μ 68 (64 * t + k) ≤ hi
noncomputable def s_way (μ : tm_M) (t n hi : Int) : Int := if 0 < y_trayed μ t then y_trayed μ t else if ¬ (1 ≤ n ∧ n ≤ 24) then 5 else if tm_v μ 67 t < n then 4 else if @Decidable.decide (y_from μ t n hi) (Classical.propDecidable _) = false then 5 else if tm_v μ 65 43 = 12 then 7 else 0
theorem y_trayed_w {t x y : Int} : y_trayed (tm_w μ 65 x y) t = y_trayed μ t := by
  have e : ∀ i, tm_v (tm_w μ 65 x y) 67 i = tm_v μ 67 i := fun i => by rw [tm_vw, if_neg (by omega)]
  unfold y_trayed
  simp only [e]
theorem o_way_no {s st : Int} {t n c g : Int} {m : tm_M} (h : st = s) (hs : s ≠ 0) (h0 : tm_v m 65 0 = s) (f : tFr (tWs [] [(65, 0), (65, 1)]) μ m) : o_way st μ t n c g (-1) m := by
  unfold o_way
  rw [h, if_neg hs, if_neg hs]
  exact ⟨h0, rfl, f.v (tWs_noF rfl), by funext i; exact f.v (tWs_no _ rfl), by funext i; exact f.v (tWs_no _ rfl), by funext i; exact f.v (tWs_no _ rfl)⟩
theorem o_way_F {st t n c g r : Int} {m m' : tm_M} (f : tFr (tWs [] [(65, 0), (65, 1)]) μ m) (h : o_way st m t n c g r m') : o_way st μ t n c g r m' := by
  have e43 : tm_v m 65 43 = tm_v μ 65 43 := f.v (tWs_noF rfl)
  have e : ∀ a, a ≠ 65 → tm_v m a = tm_v μ a := by intro a ha; funext i; refine f.v (fun q => ?_); rcases q with q | q <;> simp at q; omega
  unfold o_way o_add at *
  rw [e43, e 82 (by decide), e 83 (by decide), e 84 (by decide), e 68 (by decide)] at h
  exact h
theorem pX6_clock {t n g : Int} (hd : 2 ≤ d) (hs : tS μ) (hV : y_V μ) (hg : 0 ≤ g ∧ g ≤ 1) : cI wX6_clock mX6_clock d [(2, 65), (0, t), (0, n), (0, g)] μ (o_way (s_way μ t n 4) μ t n n g) := by
  have loop : (0 ≤ t ∧ t < 4) → ¬ 0 < y_trayed μ t → (1 ≤ n ∧ n ≤ 24) → n ≤ tm_v μ 67 t → ∀ (q : Nat) (k : Int) (m : tm_M), 0 ≤ k → k + q = n → tFr (tWs [] [(65, 0), (65, 1)]) μ m → tm_v m 65 0 = 0 → (∀ j, 0 ≤ j → j < k → 0 ≤ tm_v μ 68 (64 * t + j) ∧ tm_v μ 68 (64 * t + j) ≤ 4) →
      hI wX6_clock μ mX6_clock d (o_way (s_way μ t n 4) μ t n n g) 60 [(0, 2, 65), (1, 0, t), (2, 0, n), (3, 0, g), (4, 0, k)] [] m := by
    intro ht hz hn hm6 q
    induction q with
    | zero =>
      intro k m k0 kn hm h0 h
      have e43 : tm_v m 65 43 = tm_v μ 65 43 := hm.v (tWs_noF rfl)
      refine uX6_clock_60 (by omega) (hm.to (tWs_sub rfl)) ⟨fun c => ?_, fun c => by omega⟩
      refine tC.I (pX6_addWay (by omega) hm.S (by rw [e43]; exact hV.1) ht (by omega) hg h0) (fun r m' f' h' => ?_)
      have es : s_way μ t n 4 = if tm_v μ 65 43 = 12 then 7 else 0 := by
        unfold s_way
        rw [if_neg hz, if_neg (by omega), if_neg (by omega), if_neg]
        rw [@decide_eq_true _ (Classical.propDecidable _) (show y_from μ t n 4 from fun j j0 j1 => h j j0 (by omega))]
        decide
      rw [es, ← e43]
      exact o_way_F hm h'
    | succ q ih =>
      intro k m k0 kn hm h0 h
      have e68 : tm_v m 68 (64 * t + k) = tm_v μ 68 (64 * t + k) := hm.v (tWs_no _ rfl)
      refine uX6_clock_60 (by omega) (hm.to (tWs_sub rfl)) ⟨fun c => by omega, fun c => ⟨by omega, ?_⟩⟩
      rw [e68, w32_id (by omega) (by omega)]
      refine ⟨fun c2 => ?_, fun c2 => ?_⟩
      · refine ih (k + 1) m (by omega) (by omega) hm h0 (fun j j0 j1 => ?_)
        by_cases e : j = k
        · rw [e]; exact c2
        · exact h j j0 (by omega)
      · rintro _ rfl
        refine o_way_no (s := 5) ?_ (by decide) (by simp [tm_vw]) (fr_s hm (tWs_inF rfl) 5)
        unfold s_way
        rw [if_neg hz, if_neg (by omega), if_neg (by omega), if_pos]
        exact @decide_eq_false _ (Classical.propDecidable _) (fun q => c2 (q k k0 (by omega)))
  refine t_of (uX6_clock_0 (by omega) (tFr.rf hs) ?_)
  rintro _ rfl _ rfl
  have f2 : ∀ x, tFr (tWs [] [(65, 0), (65, 1)]) μ (tm_w (tm_w μ 65 1 0) 65 0 x) := fun x => fr_st (tFr.rf hs) (tWs_inF rfl) (tWs_inF rfl) x
  rw [y_trayed_w]
  have e0 : ∀ x, tm_v (tm_w (tm_w μ 65 1 0) 65 0 x) 65 0 = x := fun x => by simp [tm_vw]
  rw [e0]
  refine ⟨fun c => ⟨fun c2 => ⟨(y_trayed_in c).1, fun c3 => ?_, fun c3 => ?_⟩, fun c2 => ?_⟩, fun c => ?_⟩
  · have ez : y_trayed μ t = 0 := by have := y_trayed_in c; unfold y_trayed; rw [if_neg (by omega), if_neg (by omega)]
    refine loop (y_trayed_in c).1 (by omega) c2 c3 n.toNat 0 _ (by omega) (by omega) (f2 _) (by rw [e0, ez]) (fun j j0 j1 => by omega)
  · rintro _ rfl
    refine o_way_no (s := 4) ?_ (by decide) (by simp [tm_vw]) (fr_s (f2 _) (tWs_inF rfl) 4)
    unfold s_way
    rw [if_neg (by omega), if_neg (by omega), if_pos (by omega)]
  · rintro _ rfl
    refine o_way_no (s := 5) ?_ (by decide) (by simp [tm_vw]) (fr_s (f2 _) (tWs_inF rfl) 5)
    unfold s_way
    rw [if_neg (by omega), if_pos (by omega)]
  · refine o_way_no (s := y_trayed μ t) ?_ (by omega) (e0 _) (f2 _)
    unfold s_way
    rw [if_pos c]
theorem pX6_sight {t : Int} (hd : 2 ≤ d) (hs : tS μ) (hV : y_V μ) : cI wX6_sight mX6_sight d [(2, 65), (0, t)] μ (o_way (s_way μ t 18 14) μ t 18 0 0) := by
  have loop : (0 ≤ t ∧ t < 4) → ¬ 0 < y_trayed μ t → 18 ≤ tm_v μ 67 t → ∀ (q : Nat) (k : Int) (m : tm_M), 0 ≤ k → k + q = 18 → tFr (tWs [] [(65, 0), (65, 1)]) μ m → tm_v m 65 0 = 0 → (∀ j, 0 ≤ j → j < k → 0 ≤ tm_v μ 68 (64 * t + j) ∧ tm_v μ 68 (64 * t + j) ≤ 14) →
      hI wX6_sight μ mX6_sight d (o_way (s_way μ t 18 14) μ t 18 0 0) 42 [(0, 2, 65), (1, 0, t), (2, 0, k)] [] m := by
    intro ht hz hm6 q
    induction q with
    | zero =>
      intro k m k0 kn hm h0 h
      have e43 : tm_v m 65 43 = tm_v μ 65 43 := hm.v (tWs_noF rfl)
      refine uX6_sight_42 (by omega) (hm.to (tWs_sub rfl)) ⟨fun c => ?_, fun c => by omega⟩
      refine tC.I (pX6_addWay (by omega) hm.S (by rw [e43]; exact hV.1) ht (by omega) (by omega) h0) (fun r m' f' h' => ?_)
      have es : s_way μ t 18 14 = if tm_v μ 65 43 = 12 then 7 else 0 := by
        unfold s_way
        rw [if_neg hz, if_neg (by omega), if_neg (by omega), if_neg]
        rw [@decide_eq_true _ (Classical.propDecidable _) (show y_from μ t 18 14 from fun j j0 j1 => h j j0 (by omega))]
        decide
      rw [es, ← e43]
      exact o_way_F hm h'
    | succ q ih =>
      intro k m k0 kn hm h0 h
      have e68 : tm_v m 68 (64 * t + k) = tm_v μ 68 (64 * t + k) := hm.v (tWs_no _ rfl)
      refine uX6_sight_42 (by omega) (hm.to (tWs_sub rfl)) ⟨fun c => by omega, fun c => ⟨by omega, ?_⟩⟩
      rw [e68, w32_id (by omega) (by omega)]
      refine ⟨fun c2 => ?_, fun c2 => ?_⟩
      · refine ih (k + 1) m (by omega) (by omega) hm h0 (fun j j0 j1 => ?_)
        by_cases e : j = k
        · rw [e]; exact c2
        · exact h j j0 (by omega)
      · rintro _ rfl
        refine o_way_no (s := 5) ?_ (by decide) (by simp [tm_vw]) (fr_s hm (tWs_inF rfl) 5)
        unfold s_way
        rw [if_neg hz, if_neg (by omega), if_neg (by omega), if_pos]
        exact @decide_eq_false _ (Classical.propDecidable _) (fun q => c2 (q k k0 (by omega)))
  refine t_of (uX6_sight_0 (by omega) (tFr.rf hs) ?_)
  rintro _ rfl _ rfl
  have f2 : ∀ x, tFr (tWs [] [(65, 0), (65, 1)]) μ (tm_w (tm_w μ 65 1 0) 65 0 x) := fun x => fr_st (tFr.rf hs) (tWs_inF rfl) (tWs_inF rfl) x
  rw [y_trayed_w]
  have e0 : ∀ x, tm_v (tm_w (tm_w μ 65 1 0) 65 0 x) 65 0 = x := fun x => by simp [tm_vw]
  rw [e0]
  refine ⟨fun c => ⟨(y_trayed_in c).1, fun c3 => ?_, fun c3 => ?_⟩, fun c => ?_⟩
  · have ez : y_trayed μ t = 0 := by have := y_trayed_in c; unfold y_trayed; rw [if_neg (by omega), if_neg (by omega)]
    refine loop (y_trayed_in c).1 (by omega) c3 18 0 _ (by omega) (by omega) (f2 _) (by rw [e0, ez]) (fun j j0 j1 => by omega)
  · rintro _ rfl
    refine o_way_no (s := 4) ?_ (by decide) (by simp [tm_vw]) (fr_s (f2 _) (tWs_inF rfl) 4)
    unfold s_way
    rw [if_neg (by omega), if_neg (by omega), if_pos (by omega)]
  · refine o_way_no (s := y_trayed μ t) ?_ (by omega) (e0 _) (f2 _)
    unfold s_way
    rw [if_pos c]
end C6L
