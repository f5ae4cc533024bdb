/-! CONTRACTS of the component: rows agreed, rows alike -/
section C0P
variable {d : Nat} {μ μ0 ν : tm_M} {W : Int → Int → Prop} {f g f' g' : Int → Int}
theorem y_go0 (k : Int) : y_go ν k 0 = k := by unfold y_go; rw [if_neg (by omega)]
/-- the rows of places hold who walks by f, g behind t steps -/
def hldA (ν : tm_M) (f g : Int → Int) (t : Nat) (m : tm_M) (k : Int) : Prop := (wt ν k ≠ 0 ∧ (w3 ν f g (k / 8) (k % 8) t).1 = 0 → tm_v m (18 + t) k = (w3 ν f g (k / 8) (k % 8) t).2.1 ∧ tm_v m (28 + t) k = (w3 ν f g (k / 8) (k % 8) t).2.2) ∧ (¬ (wt ν k ≠ 0 ∧ (w3 ν f g (k / 8) (k % 8) t).1 = 0) → tm_v m (18 + t) k = -1)
def hld (ν : tm_M) (f g : Int → Int) (t : Nat) (m : tm_M) : Prop := ∀ k, 0 ≤ k → k < 64 → hldA ν f g t m k
theorem hldA_cg {t : Nat} {m m' : tm_M} {k : Int} (h : hldA ν f g t m k) (hf : ∀ i : Int, 0 ≤ i → i < t → f i = f' i ∧ g i = g' i) (e1 : tm_v m' (18 + t) k = tm_v m (18 + t) k) (e2 : tm_v m' (28 + t) k = tm_v m (28 + t) k) : hldA ν f' g' t m' k := by
  unfold hldA at h ⊢
  rw [← w3_cg t hf, e1, e2]
  exact h
theorem hld_cg {t : Nat} {m m' : tm_M} (h : hld ν f g t m) (hf : ∀ i : Int, 0 ≤ i → i < t → f i = f' i ∧ g i = g' i) (e : ∀ c j : Int, c = 18 + t ∨ c = 28 + t → tm_v m' c j = tm_v m c j) : hld ν f' g' t m' := fun k k0 k1 => hldA_cg (h k k0 k1) hf (e _ _ (Or.inl rfl)) (e _ _ (Or.inr rfl))
theorem pX0_beginRows {n : Int} (hd : 1 ≤ d) (hs : tS μ) (hJ : JU μ ν) : cV (tWs [18, 28] [(1, 27), (1, 30)]) mX0_beginRows d [(2, 1), (0, n)] μ (fun m => tm_v m 1 27 = n ∧ tm_v m 1 30 = -1 ∧ ∀ f g, hld ν f g 0 m) := by
  have loop : ∀ (q : Nat) (k : Int) (m : tm_M), 0 ≤ k → k + q = 64 → tFr (tWs [18, 28] [(1, 27), (1, 30)]) μ m → tm_v m 1 27 = n → tm_v m 1 30 = -1 → (∀ j, 0 ≤ j → j < k → (wt ν j ≠ 0 → tm_v m 18 j = j / 8 ∧ tm_v m 28 j = j % 8) ∧ (wt ν j = 0 → tm_v m 18 j = -1)) → hV (tWs [18, 28] [(1, 27), (1, 30)]) μ mX0_beginRows d (fun m => tm_v m 1 27 = n ∧ tm_v m 1 30 = -1 ∧ ∀ f g, hld ν f g 0 m) 14 [(0, 2, 1), (2, 0, k)] [] m := by
    intro q
    induction q with
    | zero =>
      intro k m k0 kn hm h27 h30 hall
      refine uX0_beginRows_14 (ν := ν) hd hm ⟨fun _ => ⟨h27, h30, fun f g j j0 j1 => ?_⟩, fun c => by omega⟩
      have h := hall j j0 (by omega)
      refine ⟨fun c => h.1 c.1, fun c => h.2 ?_⟩
      exact Classical.byContradiction fun q => c ⟨q, rfl⟩
    | succ q ih =>
      intro k m k0 kn hm h27 h30 hall
      have etd : w32 (k.tdiv 8) = k / 8 := by rw [Int.tdiv_eq_ediv_of_nonneg k0, w32_id (by omega) (by omega)]
      have etm : k.tmod 8 = k % 8 := Int.tmod_eq_emod_of_nonneg k0
      have e1 : w32 (k + 1) = k + 1 := w32_id (by omega) (by omega)
      have nxt : ∀ x y m2, m2 = tm_w (tm_w m 18 k x) 28 k y → (wt ν k ≠ 0 → x = k / 8 ∧ y = k % 8) → (wt ν k = 0 → x = -1) → hV (tWs [18, 28] [(1, 27), (1, 30)]) μ mX0_beginRows d (fun m => tm_v m 1 27 = n ∧ tm_v m 1 30 = -1 ∧ ∀ f g, hld ν f g 0 m) 14 [(0, 2, 1), (2, 0, w32 (k + 1))] [] m2 := by
        intro x y m2 e2 hx hy
        have F1 : tFr (tWs [18, 28] [(1, 27), (1, 30)]) μ (tm_w m 18 k x) := hm.w (tWs_in _ rfl) (tS_w hm.S sf_18 _ _)
        rw [e1]
        refine ih (k + 1) m2 (by omega) (by omega) (by rw [e2]; exact F1.w (tWs_in _ rfl) (tS_w F1.S sf_28 _ _)) (by rw [e2]; simp only [tm_vw]; rw [if_neg (by omega), if_neg (by omega)]; exact h27) (by rw [e2]; simp only [tm_vw]; rw [if_neg (by omega), if_neg (by omega)]; exact h30) (fun j j0 j1 => ?_)
        by_cases e : j = k
        · have v18 : tm_v m2 18 j = x := by rw [e2, e]; simp [tm_vw]
          have v28 : tm_v m2 28 j = y := by rw [e2, e]; simp [tm_vw]
          rw [v18, v28, e]; exact ⟨hx, hy⟩
        · have v18 : tm_v m2 18 j = tm_v m 18 j := by rw [e2]; simp [tm_vw, e]
          have v28 : tm_v m2 28 j = tm_v m 28 j := by rw [e2]; simp [tm_vw, e]
          rw [v18, v28]; exact hall j j0 (by omega)
      have none : wt ν k = 0 → hV (tWs [18, 28] [(1, 27), (1, 30)]) μ mX0_beginRows d (fun m => tm_v m 1 27 = n ∧ tm_v m 1 30 = -1 ∧ ∀ f g, hld ν f g 0 m) 70 [(0, 2, 1), (2, 0, k), (3, 0, k / 8), (4, 0, k % 8)] [] m := fun h0 =>
        uX0_beginRows_70 hm ⟨by omega, fun m1 e1 m2 e2 => nxt (-1) (k % 8) m2 (by rw [e2, e1]) (fun q => absurd h0 q) (fun _ => rfl)⟩
      refine uX0_beginRows_14 (ν := ν) hd hm ⟨fun c => by omega, fun _ => ?_⟩
      rw [etd, etm]
      rintro _ rfl _ rfl
      refine ⟨hJ, fun c => none (by unfold wt; rw [if_neg (by omega)]), fun ca => ⟨fun c => none (by unfold wt; rw [if_neg (by omega)]), fun cb => ⟨fun c => none (by unfold wt; rw [if_neg (fun q => q.2 c)]), fun cab => ?_⟩⟩⟩
      have hw : wt ν k = y_likely ν (k / 8) (k % 8) := by unfold wt; rw [if_pos ⟨⟨ca.2, cb.2⟩, cab⟩]
      have pa : y_p ν (k / 8) := ⟨hJ.1, ca⟩
      have pb : y_p ν (k % 8) := ⟨hJ.1, cb⟩
      have hl := y_lik_in pa pb
      exact ⟨⟨hJ, pa, pb⟩, fun c => none (by omega), fun c => ⟨by omega, fun m1 e1 m2 e2 => nxt (k / 8) (k % 8) m2 (by rw [e2, e1]) (fun _ => ⟨rfl, rfl⟩) (fun q => by omega)⟩⟩
  refine t_of (uX0_beginRows_0 (tFr.rf hs) (fun m1 e1 m2 e2 => ?_))
  have F1 : tFr (tWs [18, 28] [(1, 27), (1, 30)]) μ m1 := by rw [e1]; exact (tFr.rf hs).w (tWs_inF rfl) (tS_wj hs _ (by decide))
  have F2 : tFr (tWs [18, 28] [(1, 27), (1, 30)]) μ m2 := by rw [e2]; exact F1.w (tWs_inF rfl) (tS_wj F1.S _ (by decide))
  exact loop 64 0 m2 (by omega) (by omega) F2 (by rw [e2, e1]; simp [tm_vw]) (by rw [e2]; simp [tm_vw]) (fun j j0 j1 => by omega)
abbrev WO : Int → Int → Prop := tWs [18, 19, 20, 21, 22, 23, 24, 25, 26, 28, 29, 30, 31, 32, 33, 34, 35, 36] []
theorem WO_w {m : tm_M} {c j x : Int} (h : tFr WO μ m) (hc : (18 ≤ c ∧ c < 27) ∨ (28 ≤ c ∧ c < 37)) : tFr WO μ (tm_w m c j x) := by
  refine h.w ?_ (tS_w h.S (by unfold tfr; omega) _ _)
  rcases hc with q | q
  · exact tWs_r (lo := 18) (n := 9) rfl (by omega)
  · exact tWs_r (lo := 28) (n := 9) rfl (by omega)
theorem pX0_doesStep {t : Nat} {one two : Int} (hd : 2 ≤ d) (hs : tS μ) (hJ : JU μ ν) (t5 : t < 5) (hf : f t = one) (hg : g t = two) (hh : hld ν f g t μ) : cL WO mX0_doesStep d [(2, 1), (0, (t : Int)), (0, one), (0, two)] μ (fun r m => r = rl ν f g (t + 1) - rl ν f g t ∧ hld ν f g (t + 1) m ∧ ∀ c j : Int, c ≠ 18 + ((t : Int) + 1) → c ≠ 28 + ((t : Int) + 1) → tm_v m c j = tm_v μ c j) := by
  have hT : y_TC (c_FA μ) WO := tWs_TC ⟨rfl, rfl⟩
  have hW := hJ.1
  have nP : tm_n μ (tm_v μ (tm_v μ 1 8) 0) = 8 := hJ.PA.2
  have eP : ∀ k, tm_v μ (tm_v μ (tm_v μ 1 8) 0) k = c_P μ k := fun k => rfl
  have e4 : tm_v μ (tm_v μ 1 8) 4 = tm_v ν 65 24 := hJ.2.2.1.2.2.1
  have e6 : tm_v μ (tm_v μ 1 8) 6 = tm_v ν 65 28 := hJ.2.2.1.2.2.2.2
  have hsl := hW.2.2.2.2.1
  have et1 : w32 ((t : Int) + 1) = (t : Int) + 1 := w32_id (by omega) (by omega)
  have et2 : w64 ((t : Int) + 1) = (t : Int) + 1 := w64_id (by omega) (by omega)
  have c1 : ((t + 1 : Nat) : Int) = (t : Int) + 1 := by omega
  have inj : ∀ {q q' : Int}, y_p ν q → y_p ν q' → (c_P μ q = c_P μ q' ↔ q = q') := fun h h' => ⟨hJ.inj h h', fun e => by rw [e]⟩
  have dl : ∀ j : Nat, 0 ≤ wt ν j * ((w3 ν f g ((j : Int) / 8) ((j : Int) % 8) (t + 1)).1 - (w3 ν f g ((j : Int) / 8) ((j : Int) % 8) t).1) ∧ wt ν j * ((w3 ν f g ((j : Int) / 8) ((j : Int) % 8) (t + 1)).1 - (w3 ν f g ((j : Int) / 8) ((j : Int) % 8) t).1) ≤ 486 := by
    intro j
    have h1 := w3_in (ν := ν) (f := f) (g := g) (a := (j : Int) / 8) (b := (j : Int) % 8) (t + 1)
    have h2 := w3_in (ν := ν) (f := f) (g := g) (a := (j : Int) / 8) (b := (j : Int) % 8) t
    have h3 : (w3 ν f g ((j : Int) / 8) ((j : Int) % 8) t).1 ≤ (w3 ν f g ((j : Int) / 8) ((j : Int) % 8) (t + 1)).1 := by
      by_cases c : (w3 ν f g ((j : Int) / 8) ((j : Int) % 8) t).1 = 0
      · omega
      · rw [w3_stay c 1]; exact Int.le_refl _
    have := mul_bd (wt_in (k := (j : Int)) hW (by omega)) (show 0 ≤ (w3 ν f g ((j : Int) / 8) ((j : Int) % 8) (t + 1)).1 - (w3 ν f g ((j : Int) / 8) ((j : Int) % 8) t).1 ∧ (w3 ν f g ((j : Int) / 8) ((j : Int) % 8) (t + 1)).1 - (w3 ν f g ((j : Int) / 8) ((j : Int) % 8) t).1 ≤ 6 by omega)
    omega
  have loop : ∀ its, (∀ q, y_go ν q its = if (t : Int) % tm_v ν 65 24 = 0 then y_go ν q two else q) → ∀ (n K : Nat) (acc : Int) (m : tm_M), K + n = 64 → acc = sm (fun j => wt ν j * ((w3 ν f g (j / 8) (j % 8) (t + 1)).1 - (w3 ν f g (j / 8) (j % 8) t).1)) K → tFr WO μ m → (∀ c j : Int, c ≠ 18 + ((t : Int) + 1) → c ≠ 28 + ((t : Int) + 1) → tm_v m c j = tm_v μ c j) → (∀ j : Int, 0 ≤ j → j < K → hldA ν f g (t + 1) m j) → hLo WO μ mX0_doesStep d (fun r m => r = rl ν f g (t + 1) - rl ν f g t ∧ hld ν f g (t + 1) m ∧ ∀ c j : Int, c ≠ 18 + ((t : Int) + 1) → c ≠ 28 + ((t : Int) + 1) → tm_v m c j = tm_v μ c j) 25 [(0, 2, 1), (1, 0, (t : Int)), (2, 0, one), (4, 1, acc), (6, 0, its), (7, 0, (K : Int))] [] m := by
    intro its hits n
    induction n with
    | zero =>
      intro K acc m hK ha hm hfr hall
      refine uX0_doesStep_25 (ν := ν) hd hm ⟨fun _ => ⟨?_, fun k k0 k1 => hall k k0 (by omega), hfr⟩, fun c => by omega⟩
      rw [ha, show K = 64 by omega]
      have e : rl ν f g (t + 1) = rl ν f g t + sm (fun j => wt ν j * ((w3 ν f g (j / 8) (j % 8) (t + 1)).1 - (w3 ν f g (j / 8) (j % 8) t).1)) 64 := by
        unfold rl
        rw [← sm_plus]
        refine sm_congr (fun i _ => ?_)
        (try dsimp only)
        rw [← Int.mul_add]
        congr 1
        omega
      omega
    | succ n ih =>
      intro K acc m hK ha hm hfr hall
      have eK : w32 ((K : Int) + 1) = ((K + 1 : Nat) : Int) := by rw [w32_id (by omega) (by omega)]; omega
      have etd : w32 ((K : Int).tdiv 8) = (K : Int) / 8 := by rw [Int.tdiv_eq_ediv_of_nonneg (by omega), w32_id (by omega) (by omega)]
      have etm : (K : Int).tmod 8 = (K : Int) % 8 := Int.tmod_eq_emod_of_nonneg (by omega)
      have hb := sm_bd (f := fun j => wt ν j * ((w3 ν f g (j / 8) (j % 8) (t + 1)).1 - (w3 ν f g (j / 8) (j % 8) t).1)) (n := K) (c := 486) (fun j _ => dl j)
      have hk := hh K (by omega) (by omega)
      have w3i := w3_in (ν := ν) (f := f) (g := g) (a := (K : Int) / 8) (b := (K : Int) % 8) (t + 1)
      -- behind the pair
      have fin : ∀ acc' m', acc' = acc + wt ν K * ((w3 ν f g ((K : Int) / 8) ((K : Int) % 8) (t + 1)).1 - (w3 ν f g ((K : Int) / 8) ((K : Int) % 8) t).1) → tFr WO μ m' → (∀ c j : Int, c ≠ 18 + ((t : Int) + 1) → c ≠ 28 + ((t : Int) + 1) → tm_v m' c j = tm_v μ c j) → (∀ c j : Int, j ≠ K → tm_v m' c j = tm_v m c j) → hldA ν f g (t + 1) m' K → hLo WO μ mX0_doesStep d (fun r m => r = rl ν f g (t + 1) - rl ν f g t ∧ hld ν f g (t + 1) m ∧ ∀ c j : Int, c ≠ 18 + ((t : Int) + 1) → c ≠ 28 + ((t : Int) + 1) → tm_v m c j = tm_v μ c j) 231 [(0, 2, 1), (1, 0, (t : Int)), (2, 0, one), (4, 1, acc'), (6, 0, its), (7, 0, (K : Int))] [] m' := by
        intro acc' m' ea' hm' hfr' hoth hnew
        refine uX0_doesStep_231 hm' ?_
        rw [eK]
        refine ih (K + 1) acc' m' (by omega) (by rw [ea', ha, sm]) hm' hfr' (fun j j0 j1 => ?_)
        by_cases e : j = K
        · rw [e]; exact hnew
        · exact hldA_cg (hall j j0 (by omega)) (fun _ _ _ => ⟨rfl, rfl⟩) (hoth _ _ e) (hoth _ _ e)
      have r18 : ∀ m6, m6 = tm_w m (18 + ((t : Int) + 1)) K (tm_v m (18 + (t : Int)) K) → tFr WO μ m6 ∧ (∀ c j : Int, c ≠ 18 + ((t : Int) + 1) → c ≠ 28 + ((t : Int) + 1) → tm_v m6 c j = tm_v μ c j) ∧ (∀ c j : Int, j ≠ K → tm_v m6 c j = tm_v m c j) ∧ tm_v m6 (18 + (t : Int)) K = tm_v μ (18 + (t : Int)) K ∧ tm_v m6 (28 + (t : Int)) K = tm_v μ (28 + (t : Int)) K ∧ tm_v m6 (18 + ((t : Int) + 1)) K = tm_v μ (18 + (t : Int)) K := by
        intro m6 e6
        refine ⟨by rw [e6]; exact WO_w hm (by omega), fun c j h1 h2 => by rw [e6, tm_vw, if_neg (fun q => h1 q.1)]; exact hfr c j h1 h2, fun c j h1 => by rw [e6, tm_vw, if_neg (fun q => h1 q.2)], ?_, ?_, ?_⟩
        · rw [e6, tm_vw, if_neg (by omega)]; exact hfr _ _ (by omega) (by omega)
        · rw [e6, tm_vw, if_neg (by omega)]; exact hfr _ _ (by omega) (by omega)
        · rw [e6, tm_vw, if_pos ⟨rfl, rfl⟩]; exact hfr _ _ (by omega) (by omega)
      refine uX0_doesStep_25 (ν := ν) hd hm ⟨fun c => by omega, fun _ => ?_⟩
      rw [et1]
      refine ⟨by omega, by omega, by omega, fun m6 e6m => ?_⟩
      obtain ⟨F6, fr6, ot6, v1, v2, v3⟩ := r18 m6 e6m
      rw [v1, v2, e6, nP]
      refine ⟨fun c => ?_, fun c => ?_⟩
      · -- who walks
        have hlive : wt ν K ≠ 0 ∧ (w3 ν f g ((K : Int) / 8) ((K : Int) % 8) t).1 = 0 := Classical.byContradiction fun q => c (hk.2 q)
        obtain ⟨hp1, hp2⟩ := hk.1 hlive
        have hwne := wt_ne hW (by omega) hlive.1
        obtain ⟨yp, yq⟩ := w3_p (f := f) (g := g) hwne.1.1 hwne.1.2 t
        rw [hp1, hp2, eP, eP]
        have p8 := y_p8 yp
        have q8 := y_p8 yq
        have e3 : w3 ν f g ((K : Int) / 8) ((K : Int) % 8) (t + 1) = (@ite Int (y_met ν (y_go ν (w3 ν f g ((K : Int) / 8) ((K : Int) % 8) t).2.1 one) (y_go ν (w3 ν f g ((K : Int) / 8) ((K : Int) % 8) t).2.2 its) (w3 ν f g ((K : Int) / 8) ((K : Int) % 8) t).2.1 (w3 ν f g ((K : Int) / 8) ((K : Int) % 8) t).2.2) (Classical.propDecidable _) ((t : Int) + 1) 0, y_go ν (w3 ν f g ((K : Int) / 8) ((K : Int) % 8) t).2.1 one, y_go ν (w3 ν f g ((K : Int) / 8) ((K : Int) % 8) t).2.2 its) := by
          rw [w3, if_neg (fun q => q hlive.2), hf, hg, hits]
        generalize hP : (w3 ν f g ((K : Int) / 8) ((K : Int) % 8) t).2.1 = P at *
        generalize hQ : (w3 ν f g ((K : Int) / 8) ((K : Int) % 8) t).2.2 = Q at *
        have pP := hJ.P yp
        have pQ := hJ.P yq
        have ga := y_go_p (s := one) yp
        have gb := y_go_p (s := its) yq
        have pA := hJ.P ga
        have pB := hJ.P gb
        have met : y_met ν (y_go ν P one) (y_go ν Q its) P Q → hLo WO μ mX0_doesStep d (fun r m => r = rl ν f g (t + 1) - rl ν f g t ∧ hld ν f g (t + 1) m ∧ ∀ c j : Int, c ≠ 18 + ((t : Int) + 1) → c ≠ 28 + ((t : Int) + 1) → tm_v m c j = tm_v μ c j) 154 [(0, 2, 1), (1, 0, (t : Int)), (2, 0, one), (4, 1, acc), (6, 0, its), (7, 0, (K : Int)), (10, 2, c_P μ (y_go ν P one)), (11, 2, c_P μ (y_go ν Q its))] [] m6 := by
          intro hmet
          have ew : (w3 ν f g ((K : Int) / 8) ((K : Int) % 8) (t + 1)).1 = (t : Int) + 1 := by rw [e3]; exact if_pos hmet
          have hl := y_lik_in hwne.1.1 hwne.1.2
          have hmb := mul_bd hl (show 0 ≤ (t : Int) + 1 ∧ (t : Int) + 1 ≤ 6 by omega)
          refine uX0_doesStep_154 (ν := ν) (by omega) F6 ?_
          rw [et1, et2, etd, etm]
          refine ⟨by omega, by omega, fun m5 e5 => ⟨pB.1, fun m7 e7 => ⟨⟨hJ, hwne.1⟩, ?_⟩⟩⟩
          rw [w64_id (x := y_likely ν ((K : Int) / 8) ((K : Int) % 8) * ((t : Int) + 1)) (by omega) (by omega), w64_id (by omega) (by omega)]
          rintro _ rfl
          have F5 : tFr WO μ m5 := by rw [e5]; exact WO_w F6 (by omega)
          refine fin _ m7 ?_ (by rw [e7]; exact WO_w F5 (by omega)) (fun c j h1 h2 => ?_) (fun c j h1 => ?_) ⟨fun q => by omega, fun _ => ?_⟩
          · rw [ew, hlive.2, hwne.2, Int.sub_zero]
          · rw [e7, tm_vw, if_neg (fun q => h2 q.1), e5, tm_vw, if_neg (fun q => h1 q.1)]; exact fr6 c j h1 h2
          · rw [e7, tm_vw, if_neg (fun q => h1 q.2), e5, tm_vw, if_neg (fun q => h1 q.2)]; exact ot6 c j h1
          · rw [c1, e7, tm_vw, if_neg (by omega), e5, tm_vw, if_pos ⟨rfl, rfl⟩]
        have apart : ¬ y_met ν (y_go ν P one) (y_go ν Q its) P Q → hLo WO μ mX0_doesStep d (fun r m => r = rl ν f g (t + 1) - rl ν f g t ∧ hld ν f g (t + 1) m ∧ ∀ c j : Int, c ≠ 18 + ((t : Int) + 1) → c ≠ 28 + ((t : Int) + 1) → tm_v m c j = tm_v μ c j) 158 [(0, 2, 1), (1, 0, (t : Int)), (2, 0, one), (4, 1, acc), (6, 0, its), (7, 0, (K : Int)), (10, 2, c_P μ (y_go ν P one)), (11, 2, c_P μ (y_go ν Q its))] [] m6 := by
          intro hmet
          have ew : (w3 ν f g ((K : Int) / 8) ((K : Int) % 8) (t + 1)).1 = 0 := by rw [e3]; exact if_neg hmet
          refine uX0_doesStep_158 F6 ?_
          rw [et1, pA.2.1, pB.2.1]
          refine ⟨by omega, pA.1, by omega, fun m5 e5 => ⟨pB.1, fun m7 e7 => ?_⟩⟩
          have F5 : tFr WO μ m5 := by rw [e5]; exact WO_w F6 (by omega)
          refine fin _ m7 ?_ (by rw [e7]; exact WO_w F5 (by omega)) (fun c j h1 h2 => ?_) (fun c j h1 => ?_) ⟨fun q => ⟨?_, ?_⟩, fun q => absurd ⟨hlive.1, ew⟩ q⟩
          · rw [ew, hlive.2]; simp
          · rw [e7, tm_vw, if_neg (fun q => h2 q.1), e5, tm_vw, if_neg (fun q => h1 q.1)]; exact fr6 c j h1 h2
          · rw [e7, tm_vw, if_neg (fun q => h1 q.2), e5, tm_vw, if_neg (fun q => h1 q.2)]; exact ot6 c j h1
          · rw [c1, e7, tm_vw, if_neg (by omega), e5, tm_vw, if_pos ⟨rfl, rfl⟩, e3]
          · rw [c1, e7, tm_vw, if_pos ⟨rfl, rfl⟩, e3]
        refine ⟨hJ.T, hJ.PA.1, p8, ?_⟩
        rintro _ rfl
        refine ⟨q8, ?_⟩
        rintro _ rfl
        rw [pP.2.1, pQ.2.1]
        refine ⟨pP.1, ⟨hJ, P, yp, rfl⟩, ?_⟩
        rintro _ rfl
        refine ⟨pQ.1, ⟨hJ, Q, yq, rfl⟩, ?_⟩
        rintro _ rfl
        refine ⟨fun c1 => met (Or.inl (hJ.inj ga gb c1)), fun c1 => ⟨fun c2 => apart ?_, fun c2 => ⟨fun c3 => apart ?_, fun c3 => ⟨fun c4 => apart ?_, fun c4 => met (Or.inr ⟨c2, hJ.inj ga yq c3, hJ.inj gb yp c4⟩)⟩⟩⟩⟩
        · rintro (q | q)
          · exact c1 (by rw [q])
          · exact q.1 c2
        · rintro (q | q)
          · exact c1 (by rw [q])
          · exact c3 (by rw [q.2.1])
        · rintro (q | q)
          · exact c1 (by rw [q])
          · exact c4 (by rw [q.2.2])
      · -- who doesn't
        have hno : ¬ (wt ν K ≠ 0 ∧ (w3 ν f g ((K : Int) / 8) ((K : Int) % 8) t).1 = 0) := fun q => by
          have h1 := (hk.1 q).1
          have hwne := wt_ne hW (by omega) q.1
          have := y_p8 (w3_p (f := f) (g := g) hwne.1.1 hwne.1.2 t).1
          omega
        have hst : (w3 ν f g ((K : Int) / 8) ((K : Int) % 8) t).1 ≠ 0 → (w3 ν f g ((K : Int) / 8) ((K : Int) % 8) (t + 1)).1 = (w3 ν f g ((K : Int) / 8) ((K : Int) % 8) t).1 := fun q => by rw [w3_stay q 1]
        refine fin acc m6 ?_ F6 fr6 ot6 ⟨fun q => absurd ⟨q.1, ?_⟩ hno, fun _ => by rw [c1, v3]; exact c⟩
        · by_cases q : wt ν K = 0
          · rw [q]; omega
          · rw [hst (fun z => hno ⟨q, z⟩)]; simp
        · by_cases z : (w3 ν f g ((K : Int) / 8) ((K : Int) % 8) t).1 = 0
          · exact z
          · rw [hst z] at q; exact absurd q.2 z
  refine t_of (uX0_doesStep_0 (tFr.rf hs) ?_)
  rw [e4, Int.tmod_eq_emod_of_nonneg (by omega)]
  refine ⟨hJ.T, by omega, fun c => loop 0 (fun q => by rw [if_neg c, y_go0]) 64 0 0 μ rfl rfl (tFr.rf hs) (fun _ _ _ _ => rfl) (fun j j0 j1 => by omega), fun c => loop two (fun q => by rw [if_pos c]) 64 0 0 μ rfl rfl (tFr.rf hs) (fun _ _ _ _ => rfl) (fun j j0 j1 => by omega)⟩
abbrev WE : Int → Int → Prop := tWs [39, 40] [(1, 30), (1, 31)]
/-- what is kept of a row that was walked -/
def o_end (μ : tm_M) (M A : Int) (m : tm_M) : Prop := if tm_v μ 1 30 ≠ -1 ∧ (tm_v μ 1 30 < M ∨ (M = tm_v μ 1 30 ∧ tm_v μ 1 31 ≤ A)) then m = μ else tm_v m 1 30 = M ∧ tm_v m 1 31 = A ∧ ∀ i, 0 ≤ i → i < 5 → tm_v m 39 i = tm_v μ 37 i ∧ tm_v m 40 i = tm_v μ 38 i
theorem pX0_endRows {n : Nat} (hd : 1 ≤ d) (hs : tS μ) (hJ : JU μ ν) (n5 : n ≤ 5) (h27 : tm_v μ 1 27 = n) (hh : hld ν f g n μ) : cV WE mX0_endRows d [(2, 1), (1, rl ν f g n)] μ (o_end μ (rm ν f g n) (rl ν f g n + rm ν f g n * ((n : Int) + 1))) := by
  have hW := hJ.1
  have hr := rl_in (f := f) (g := g) hW n n5
  have hq := rm_in (f := f) (g := g) hW n
  have hmb := mul_bd hq (show 0 ≤ (n : Int) + 1 ∧ (n : Int) + 1 ≤ 6 by omega)
  have keep : ¬ (tm_v μ 1 30 ≠ -1 ∧ (tm_v μ 1 30 < rm ν f g n ∨ (rm ν f g n = tm_v μ 1 30 ∧ tm_v μ 1 31 ≤ rl ν f g n + rm ν f g n * ((n : Int) + 1)))) → hV WE μ mX0_endRows d (o_end μ (rm ν f g n) (rl ν f g n + rm ν f g n * ((n : Int) + 1))) 104 [(0, 2, 1), (3, 1, rm ν f g n), (5, 1, rl ν f g n + rm ν f g n * ((n : Int) + 1))] [] μ := by
    intro c
    refine uX0_endRows_104 (tFr.rf hs) (fun m1 e1 m2 e2 m3 e3 m4 e4 => ?_)
    unfold o_end
    rw [if_neg c]
    refine ⟨by rw [e4, e3, e2, e1]; simp [tm_vc, tm_vw], by rw [e4, e3, e2, e1]; simp [tm_vc, tm_vw], fun i i0 i1 => ⟨?_, ?_⟩⟩
    · rw [e4, tm_vc, if_neg (by omega), e3, tm_vc, if_pos ⟨rfl, by omega⟩, e2, e1, show (0 : Int) + (i - 0) = i by omega]; simp [tm_vw]
    · rw [e4, tm_vc, if_pos ⟨rfl, by omega⟩, e3, tm_vc, if_neg (by omega), e2, e1, show (0 : Int) + (i - 0) = i by omega]; simp [tm_vw]
  have leave : (tm_v μ 1 30 ≠ -1 ∧ (tm_v μ 1 30 < rm ν f g n ∨ (rm ν f g n = tm_v μ 1 30 ∧ tm_v μ 1 31 ≤ rl ν f g n + rm ν f g n * ((n : Int) + 1)))) → hV WE μ mX0_endRows d (o_end μ (rm ν f g n) (rl ν f g n + rm ν f g n * ((n : Int) + 1))) 103 [] [] μ := fun c => uX0_endRows_103 (tFr.rf hs) (by unfold o_end; rw [if_pos c])
  have loop : ∀ (q K : Nat), K + q = 64 → hV WE μ mX0_endRows d (o_end μ (rm ν f g n) (rl ν f g n + rm ν f g n * ((n : Int) + 1))) 5 [(0, 2, 1), (1, 1, rl ν f g n), (3, 1, sm (fun k => if (w3 ν f g (k / 8) (k % 8) n).1 = 0 then wt ν k else 0) K), (5, 0, (K : Int))] [] μ := by
    intro q
    induction q with
    | zero =>
      intro K hK
      refine uX0_endRows_5 (ν := ν) hd (tFr.rf hs) ⟨fun _ => ?_, fun c => by omega⟩
      rw [show K = 64 by omega]
      have e : sm (fun k => if (w3 ν f g (k / 8) (k % 8) n).1 = 0 then wt ν k else 0) 64 = rm ν f g n := rfl
      rw [e, h27, w64_id (x := (n : Int) + 1) (by omega) (by omega), w64_id (x := rm ν f g n * ((n : Int) + 1)) (by omega) (by omega), w64_id (by omega) (by omega)]
      rintro _ rfl
      exact ⟨fun c => keep (fun q => q.1 c), fun c => ⟨fun c2 => leave ⟨c, Or.inl c2⟩, fun c2 => ⟨fun c3 => keep (by omega), fun c3 => ⟨fun c4 => keep (by omega), fun c4 => leave ⟨c, Or.inr ⟨c3, c4⟩⟩⟩⟩⟩⟩
    | succ q ih =>
      intro K hK
      have eK : w32 ((K : Int) + 1) = ((K + 1 : Nat) : Int) := by rw [w32_id (by omega) (by omega)]; omega
      have etd : w32 ((K : Int).tdiv 8) = (K : Int) / 8 := by rw [Int.tdiv_eq_ediv_of_nonneg (by omega), w32_id (by omega) (by omega)]
      have etm : (K : Int).tmod 8 = (K : Int) % 8 := Int.tmod_eq_emod_of_nonneg (by omega)
      have hk := hh K (by omega) (by omega)
      have hb := sm_bd (f := fun k => if (w3 ν f g (k / 8) (k % 8) n).1 = 0 then wt ν k else 0) (n := K) (c := 81) (fun i hi => by
        have := wt_in (k := (i : Int)) hW (by omega)
        (try dsimp only)
        split <;> omega)
      have nxt : ∀ x, x = sm (fun k => if (w3 ν f g (k / 8) (k % 8) n).1 = 0 then wt ν k else 0) (K + 1) → hV WE μ mX0_endRows d (o_end μ (rm ν f g n) (rl ν f g n + rm ν f g n * ((n : Int) + 1))) 45 [(0, 2, 1), (1, 1, rl ν f g n), (3, 1, x), (5, 0, (K : Int))] [] μ := by
        rintro x rfl
        refine uX0_endRows_45 (tFr.rf hs) ?_
        rw [eK]
        exact ih (K + 1) (by omega)
      refine uX0_endRows_5 (ν := ν) hd (tFr.rf hs) ⟨fun c => by omega, fun _ => ?_⟩
      rw [h27, etd, etm]
      refine ⟨by omega, by omega, fun c => nxt _ ?_, fun c => ?_⟩
      · rw [sm]
        by_cases z : (w3 ν f g ((K : Int) / 8) ((K : Int) % 8) n).1 = 0
        · have : wt ν K = 0 := Classical.byContradiction fun q => by
            have h1 := (hk.1 ⟨q, z⟩).1
            have hwne := wt_ne hW (by omega) q
            have := y_p8 (w3_p (f := f) (g := g) hwne.1.1 hwne.1.2 n).1
            omega
          rw [if_pos z, this, Int.add_zero]
        · rw [if_neg z, Int.add_zero]
      · have hlive : wt ν K ≠ 0 ∧ (w3 ν f g ((K : Int) / 8) ((K : Int) % 8) n).1 = 0 := Classical.byContradiction fun q => c (hk.2 q)
        have hwne := wt_ne hW (by omega) hlive.1
        have hl := y_lik_in hwne.1.1 hwne.1.2
        refine ⟨⟨hJ, hwne.1⟩, ?_⟩
        rw [w64_id (by omega) (by omega)]
        rintro _ rfl
        refine nxt _ ?_
        rw [sm, if_pos hlive.2, hwne.2]
  exact t_of (uX0_endRows_0 (tFr.rf hs) (loop 64 0 rfl))
end C0P
