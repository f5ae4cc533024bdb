/-! CONTRACTS of the component: how far all is from a place -/
section C0D
variable {d : Nat} {μ μ0 ν : tm_M} {W : Int → Int → Prop}
/-- how far, as the component tells it -/
noncomputable def spr (ν : tm_M) (a q : Int) : Int := if y_far (y_go ν) a q = 100 then -1 else y_far (y_go ν) a q
def sp0 (ν : tm_M) (a : Int) (D : Nat) (f : Int → Int) : Prop := ∀ q, y_p ν q → (f q = -1 ∧ ¬ rc (y_go ν) a D q) ∨ ((0 ≤ f q ∧ f q ≤ D) ∧ rc (y_go ν) a (f q).toNat q ∧ ∀ j : Nat, (j : Int) < f q → ¬ rc (y_go ν) a j q)
def sp1 (ν : tm_M) (a : Int) (D : Nat) (f : Int → Int) : Prop := ∀ q, y_p ν q → (f q = -1 ∧ ¬ rc (y_go ν) a D q) ∨ ((0 ≤ f q ∧ f q ≤ D) ∧ rc (y_go ν) a (f q).toNat q ∧ ∀ j : Nat, (j : Int) < f q → ¬ rc (y_go ν) a j q) ∨ (f q = D + 1 ∧ rc (y_go ν) a (D + 1) q ∧ ¬ rc (y_go ν) a D q)
/-- the steps from all places below k are done -/
def spd (ν : tm_M) (D : Nat) (f : Int → Int) (k : Int) : Prop := ∀ p s, y_p ν p → p < k → 1 ≤ s → s ≤ tm_v ν 72 p → f p = D → 0 ≤ f (y_go ν p s)
theorem sp_next {a : Int} {D : Nat} {f : Int → Int} (ha : y_p ν a) (h : sp1 ν a D f) (hp : spd ν D f (tm_v ν 65 20)) : sp0 ν a (D + 1) f := by
  have hg : ∀ p s, 0 ≤ p → p < tm_v ν 65 20 → 0 ≤ y_go ν p s ∧ y_go ν p s < tm_v ν 65 20 := fun p s p0 p1 => (y_go_p (s := s) (⟨ha.1, p0, p1⟩ : y_p ν p)).2
  intro q hq
  rcases h q hq with ⟨h1, h2⟩ | ⟨h1, h2, h3⟩ | ⟨h1, h2, h3⟩
  · left
    refine ⟨h1, fun h4 => ?_⟩
    rcases h4 with h4 | ⟨p, s, s1, s4, h5, e⟩
    · exact h2 h4
    · have hpp : y_p ν p := ⟨ha.1, rc_place hg ha.2 h5⟩
      by_cases hs : s ≤ tm_v ν 72 p
      · rcases h p hpp with ⟨k1, k2⟩ | ⟨k1, k2, k3⟩ | ⟨_, _, k3⟩
        · exact k2 h5
        · by_cases c : f p = D
          · have := hp p s hpp hpp.2.2 s1 hs c
            rw [e, h1] at this
            omega
          · apply h2
            have : rc (y_go ν) a ((f p).toNat + 1) q := Or.inr ⟨p, s, s1, s4, k2, e⟩
            exact rc_le this (by omega)
        · exact k3 h5
      · have : y_go ν p s = p := by unfold y_go; rw [if_neg (by omega)]
        rw [this] at e
        rw [e] at h5
        exact h2 h5
  · exact Or.inr ⟨by omega, h2, h3⟩
  · refine Or.inr ⟨by omega, ?_, fun j hj h4 => h3 (rc_le h4 (by omega))⟩
    rw [h1, show ((D : Int) + 1).toNat = D + 1 by omega]
    exact h2
theorem sp_fin {a : Int} {f : Int → Int} (ha : y_p ν a) (h : sp0 ν a (tm_v ν 65 20).toNat f) : ∀ q, y_p ν q → f q = spr ν a q := by
  intro q hq
  have h20 := ha.1.1
  have hg : ∀ p s, 0 ≤ p → p < ((tm_v ν 65 20).toNat : Int) → 0 ≤ y_go ν p s ∧ y_go ν p s < ((tm_v ν 65 20).toNat : Int) := fun p s p0 p1 => by
    have := (y_go_p (s := s) (⟨ha.1, p0, by omega⟩ : y_p ν p)).2
    omega
  have ha' : 0 ≤ a ∧ a < ((tm_v ν 65 20).toNat : Int) := by have := ha.2; omega
  unfold spr
  rcases h q hq with ⟨h1, h2⟩ | ⟨h1, h2, h3⟩
  · have := y_far_eq (g := y_go ν) (a := a) (n := (tm_v ν 65 20).toNat) (by omega) hg ha' (q := q) (x := 100) (Or.inl rfl) (fun k hk hr => absurd (rc_le hr hk) h2)
    rw [← this, if_pos rfl]; exact h1
  · have := y_far_eq (g := y_go ν) (a := a) (n := (tm_v ν 65 20).toNat) (by omega) hg ha' (q := q) (x := f q) (Or.inr ⟨h1.1, h2⟩) (fun k hk hr => by
      by_cases c : f q ≤ k
      · exact c
      · exact absurd hr (h3 k (by omega)))
    rw [← this, if_neg (by omega)]
theorem pX4_spread {a : Int} (hd : 2 ≤ d) (hs : tS μ) (hJ : JU μ ν) (ha : y_p ν a) : cV (tWf [] [] (c_FA μ)) mX4_spread d [(2, c_T μ), (2, c_P μ a)] μ (fun m => ∀ q, y_p ν q → tm_v m (c_FA μ) q = spr ν a q) := by
  have h20 := ha.1.1
  have hf : dyA (c_FA μ) ∧ tm_k μ (c_FA μ) = 20 := ⟨hJ.FA.1.2, hJ.FA.1.1.2⟩
  have eF : tm_v μ (c_T μ) 7 = c_FA μ := rfl
  have eN : tm_v μ (c_T μ) 2 = tm_v ν 65 20 := hJ.2.2.1.1
  have eP : ∀ k, tm_v μ (tm_v μ (c_T μ) 0) k = c_P μ k := fun k => rfl
  have ePA : tm_v μ (c_T μ) 0 = c_PA μ := rfl
  have nF : tm_n μ (tm_v μ (c_T μ) 7) = 8 := hJ.FA.2
  have nP : tm_n μ (tm_v μ (c_T μ) 0) = 8 := hJ.PA.2
  have wr : ∀ {m : tm_M} {j x : Int}, tFr (tWf [] [] (c_FA μ)) μ m → tFr (tWf [] [] (c_FA μ)) μ (tm_w m (c_FA μ) j x) := fun h => h.w (Or.inr rfl) (tS_w h.S (dyA_fr hf.1) _ _)
  -- the steps from one place
  have steps : ∀ (D : Nat) (k : Int), (D : Int) < 8 → y_p ν k → ∀ (n : Nat) (s : Int) (m : tm_M), 1 ≤ s → s + n = tm_v ν 72 k + 1 → tFr (tWf [] [] (c_FA μ)) μ m → sp1 ν a D (tm_v m (c_FA μ)) → spd ν D (tm_v m (c_FA μ)) k → (∀ s', 1 ≤ s' → s' < s → tm_v m (c_FA μ) k = D → 0 ≤ tm_v m (c_FA μ) (y_go ν k s')) →
      (∀ m, tFr (tWf [] [] (c_FA μ)) μ m → sp1 ν a D (tm_v m (c_FA μ)) → spd ν D (tm_v m (c_FA μ)) (k + 1) → hV (tWf [] [] (c_FA μ)) μ mX4_spread d (fun m => ∀ q, y_p ν q → tm_v m (c_FA μ) q = spr ν a q) 45 [(0, 2, c_T μ), (2, 0, (D : Int)), (3, 0, k + 1)] [] m) →
      hV (tWf [] [] (c_FA μ)) μ mX4_spread d (fun m => ∀ q, y_p ν q → tm_v m (c_FA μ) q = spr ν a q) 56 [(0, 2, c_T μ), (2, 0, (D : Int)), (3, 0, k), (4, 0, s)] [] m := by
    intro D k hD hk n
    have hP := hJ.P hk
    have k8 := y_p8 hk
    have hdg := (hk.1.2.2.1 k hk.2.1 hk.2.2).1
    have done : ∀ (s : Int) (m : tm_M), tFr (tWf [] [] (c_FA μ)) μ m → sp1 ν a D (tm_v m (c_FA μ)) → spd ν D (tm_v m (c_FA μ)) k → (∀ s', 1 ≤ s' → s' ≤ tm_v ν 72 k → tm_v m (c_FA μ) k = D → 0 ≤ tm_v m (c_FA μ) (y_go ν k s')) → spd ν D (tm_v m (c_FA μ)) (k + 1) := by
      intro s m hm h1 h2 h3 p s' hp hpk s1 s4 e
      by_cases c : p = k
      · rw [c] at s4 e ⊢; exact h3 s' s1 s4 e
      · exact h2 p s' hp (by omega) s1 s4 e
    induction n with
    | zero =>
      intro s m s1 sn hm h1 h2 h3 kk
      refine uX4_spread_56 (ν := ν) hd hf hm ?_
      rw [nP, eP, hP.2.2.1.2.2.2, w32_id (x := k + 1) (by omega) (by omega)]
      refine ⟨hJ.T, hJ.PA.1, by omega, hP.1, fun _ => kk m hm h1 (done s m hm h1 h2 (fun s' a1 a2 e => h3 s' a1 (by omega) e)), fun c => by omega⟩
    | succ n ih =>
      intro s m s1 sn hm h1 h2 h3 kk
      have hg := y_go_p (s := s) hk
      have g8 := y_p8 hg
      have hGP := hJ.P hg
      refine uX4_spread_56 (ν := ν) hd hf hm ?_
      rw [nP, nF, eP, hP.2.2.1.2.2.2, hP.2.1, eF, w32_id (x := k + 1) (by omega) (by omega), w32_id (x := s + 1) (by omega) (by omega), w32_id (x := (D : Int) + 1) (by omega) (by omega)]
      refine ⟨hJ.T, hJ.PA.1, by omega, hP.1, fun c => by omega, fun c => ⟨hJ.FA.1, by omega, fun c2 => ?_, fun c2 => ⟨⟨hJ, k, hk, rfl⟩, hGP.1, fun x ex => ?_⟩⟩⟩
      · exact kk m hm h1 (done s m hm h1 h2 (fun s' a1 a2 e => absurd e c2))
      · rw [hGP.2.1] at ex
        subst ex
        refine ⟨by omega, fun c3 => ?_, fun c3 => ⟨rfl, fun m' e' => ?_⟩⟩
        · refine ih (s + 1) m (by omega) (by omega) hm h1 h2 (fun s' a1 a2 e => ?_) kk
          by_cases c4 : s' = s
          · rw [c4]
            rcases h1 _ hg with ⟨q, _⟩ | ⟨q, _⟩ | ⟨q, _⟩ <;> omega
          · exact h3 s' a1 (by omega) e
        · have ev : ∀ j, tm_v m' (c_FA μ) j = if j = y_go ν k s then (D : Int) + 1 else tm_v m (c_FA μ) j := by
            intro j
            rw [e', tm_vw]
            by_cases e : j = y_go ν k s
            · rw [if_pos ⟨rfl, e⟩, if_pos e]
            · rw [if_neg (fun q => e q.2), if_neg e]
          have hk1 := h1 k hk
          have hx := h1 _ hg
          have rk : rc (y_go ν) a D k := by
            rcases hk1 with ⟨q, _⟩ | ⟨q, r, _⟩ | ⟨q, _, _⟩
            · omega
            · rw [c2] at r; simpa using r
            · omega
          have nx : ¬ rc (y_go ν) a D (y_go ν k s) := by
            rcases hx with ⟨_, q⟩ | ⟨q, _⟩ | ⟨_, _, q⟩
            · exact q
            · omega
            · exact q
          have pos : ∀ j, 0 ≤ tm_v m (c_FA μ) j → 0 ≤ tm_v m' (c_FA μ) j := fun j hj => by rw [ev]; split <;> omega
          have eqD : ∀ j, tm_v m' (c_FA μ) j = D → tm_v m (c_FA μ) j = D := fun j hj => by
            rw [ev] at hj
            by_cases e : j = y_go ν k s
            · rw [if_pos e] at hj; omega
            · rw [if_neg e] at hj; exact hj
          refine ih (s + 1) m' (by omega) (by omega) (by rw [e']; exact wr hm) (fun q hq => ?_) (fun p s' hp hpk a1 a2 e => ?_) (fun s' a1 a2 e => ?_) kk
          · rw [ev]
            by_cases e : q = y_go ν k s
            · rw [if_pos e, e]
              exact Or.inr (Or.inr ⟨rfl, Or.inr ⟨k, s, s1, by omega, rk, rfl⟩, nx⟩)
            · rw [if_neg e]; exact h1 q hq
          · exact pos _ (h2 p s' hp hpk a1 a2 (eqD p e))
          · by_cases c4 : s' = s
            · rw [c4, ev, if_pos rfl]; omega
            · exact pos _ (h3 s' a1 (by omega) (eqD k e))
  have inner : ∀ (D : Nat), (D : Int) < tm_v ν 65 20 → ∀ (n : Nat) (k : Int) (m : tm_M), 0 ≤ k → k + n = tm_v ν 65 20 → tFr (tWf [] [] (c_FA μ)) μ m → sp1 ν a D (tm_v m (c_FA μ)) → spd ν D (tm_v m (c_FA μ)) k → (∀ m, tFr (tWf [] [] (c_FA μ)) μ m → sp0 ν a (D + 1) (tm_v m (c_FA μ)) → hV (tWf [] [] (c_FA μ)) μ mX4_spread d (fun m => ∀ q, y_p ν q → tm_v m (c_FA μ) q = spr ν a q) 35 [(0, 2, c_T μ), (2, 0, ((D + 1 : Nat) : Int))] [] m) →
      hV (tWf [] [] (c_FA μ)) μ mX4_spread d (fun m => ∀ q, y_p ν q → tm_v m (c_FA μ) q = spr ν a q) 45 [(0, 2, c_T μ), (2, 0, (D : Int)), (3, 0, k)] [] m := by
    intro D hD n
    induction n with
    | zero =>
      intro k m k0 kn hm h1 h2 kk
      refine uX4_spread_45 hf hm ⟨hJ.T, ?_⟩
      rw [eN, w32_id (x := (D : Int) + 1) (by omega) (by omega)]
      refine ⟨fun _ => kk m hm (sp_next ha h1 ?_), fun c => by omega⟩
      rw [show tm_v ν 65 20 = k by omega]; exact h2
    | succ n ih =>
      intro k m k0 kn hm h1 h2 kk
      have hk : y_p ν k := ⟨ha.1, k0, by omega⟩
      have hdg := (hk.1.2.2.1 k hk.2.1 hk.2.2).1
      refine uX4_spread_45 hf hm ⟨hJ.T, ?_⟩
      rw [eN]
      refine ⟨fun c => by omega, fun _ => ?_⟩
      exact steps D k (by omega) hk (tm_v ν 72 k).toNat 1 m (by omega) (by omega) hm h1 h2 (fun s' a1 a2 => by omega) (fun m' f' g1 g2 => ih (k + 1) m' (by omega) (by omega) f' g1 g2 kk)
  have outer : ∀ (n D : Nat) (m : tm_M), D + n = (tm_v ν 65 20).toNat → tFr (tWf [] [] (c_FA μ)) μ m → sp0 ν a D (tm_v m (c_FA μ)) → hV (tWf [] [] (c_FA μ)) μ mX4_spread d (fun m => ∀ q, y_p ν q → tm_v m (c_FA μ) q = spr ν a q) 35 [(0, 2, c_T μ), (2, 0, (D : Int))] [] m := by
    intro n
    induction n with
    | zero =>
      intro D m hD hm h
      refine uX4_spread_35 hf hm ⟨hJ.T, ?_⟩
      rw [eN]
      refine ⟨fun _ => sp_fin ha (by rw [show (tm_v ν 65 20).toNat = D by omega]; exact h), fun c => by omega⟩
    | succ n ih =>
      intro D m hD hm h
      refine uX4_spread_35 hf hm ⟨hJ.T, ?_⟩
      rw [eN]
      refine ⟨fun c => by omega, fun _ => ?_⟩
      refine inner D (by omega) (tm_v ν 65 20).toNat 0 m (by omega) (by omega) hm (fun q hq => ?_) (fun p s hp h0 => by have := hp.2; omega) (fun m' f' g => ih (D + 1) m' (by omega) f' g)
      rcases h q hq with h | h
      · exact Or.inl h
      · exact Or.inr (Or.inl h)
  have fill : ∀ (n : Nat) (k : Int) (m : tm_M), 0 ≤ k → k + n = 8 → tFr (tWf [] [] (c_FA μ)) μ m → (∀ j, 0 ≤ j → j < k → tm_v m (c_FA μ) j = if j = a then 0 else -1) → hV (tWf [] [] (c_FA μ)) μ mX4_spread d (fun m => ∀ q, y_p ν q → tm_v m (c_FA μ) q = spr ν a q) 2 [(0, 2, c_T μ), (1, 2, c_P μ a), (2, 0, k)] [] m := by
    intro n
    have hPa := hJ.P ha
    induction n with
    | zero =>
      intro k m k0 kn hm h
      refine uX4_spread_2 hf hm ⟨fun _ => ?_, fun c => by omega⟩
      refine outer (tm_v ν 65 20).toNat 0 m (by omega) hm (fun q hq => ?_)
      have q8 := y_p8 hq
      rw [h q q8.1 (by omega)]
      by_cases c : q = a
      · rw [if_pos c]
        exact Or.inr ⟨by omega, c, fun j hj => by omega⟩
      · rw [if_neg c]
        exact Or.inl ⟨rfl, c⟩
    | succ n ih =>
      intro k m k0 kn hm h
      refine uX4_spread_2 hf hm ⟨fun c => by omega, fun _ => ⟨hJ.T, hPa.1, ?_⟩⟩
      rw [hPa.2.1, nF, eF, w32_id (x := k + 1) (by omega) (by omega)]
      have nx : ∀ x m', m' = tm_w m (c_FA μ) k x → x = (if k = a then 0 else -1) → hV (tWf [] [] (c_FA μ)) μ mX4_spread d (fun m => ∀ q, y_p ν q → tm_v m (c_FA μ) q = spr ν a q) 2 [(0, 2, c_T μ), (1, 2, c_P μ a), (2, 0, k + 1)] [] m' := by
        intro x m' e' ex
        refine ih (k + 1) m' (by omega) (by omega) (by rw [e']; exact wr hm) (fun j j0 j1 => ?_)
        rw [e', tm_vw]
        by_cases e : j = k
        · rw [if_pos ⟨rfl, e⟩, ex, e]
        · rw [if_neg (fun q => e q.2)]; exact h j j0 (by omega)
      exact ⟨fun c => ⟨hJ.FA.1, by omega, rfl, fun m' e' => nx _ m' e' (by rw [if_neg c])⟩, fun c => ⟨hJ.FA.1, by omega, rfl, fun m' e' => nx _ m' e' (by rw [if_pos c])⟩⟩
  exact t_of (uX4_spread_0 hf (tFr.rf hs) (fill 8 0 μ (by omega) (by omega) (tFr.rf hs) (fun j j0 j1 => by omega)))
end C0D
