/-! CONTRACTS of the model: how far -/
section C6E
variable {d : Nat} {μ : tm_M}
theorem y_go_bd (hW : y_W μ) (p s : Int) (h0 : 0 ≤ p) (h1 : p < ((tm_v μ 65 20).toNat : Int)) : 0 ≤ y_go μ p s ∧ y_go μ p s < ((tm_v μ 65 20).toNat : Int) := by
  have h2 := hW.1
  have h := (y_go_p (s := s) (μ := μ) (p := p) ⟨hW, h0, by omega⟩).2
  omega
/-- a step leads over an open lane, or nowhere -/
theorem y_go_lane {p s : Int} (hp : y_p μ p) : y_go μ p s = p ∨ ∃ l, (0 ≤ l ∧ l < tm_v μ 65 21) ∧ tm_v μ 80 l = 0 ∧ ((tm_v μ 76 l = p ∧ tm_v μ 77 l = y_go μ p s) ∨ (tm_v μ 77 l = p ∧ tm_v μ 76 l = y_go μ p s)) := by
  unfold y_go
  split
  · rename_i h
    right
    have h1 := (hp.1.2.2.1 p hp.2.1 hp.2.2).2.2.2.2 (s - 1) h.1 h.2.1
    refine ⟨tm_v μ 74 (4 * p + (s - 1)), h1.1, h.2.2, ?_⟩
    unfold y_leads
    rw [if_pos ⟨h.1, h.2.1⟩]
    unfold y_over
    by_cases c : tm_v μ 76 (tm_v μ 74 (4 * p + (s - 1))) = p
    · rw [if_pos c]; exact Or.inl ⟨c, rfl⟩
    · rw [if_neg c]; exact Or.inr ⟨by have := h1.2; omega, rfl⟩
  · exact Or.inl rfl
/-- over an open lane there is a step each way -/
theorem y_lane_go {l : Int} (hW : y_W μ) (h0 : 0 ≤ l) (h1 : l < tm_v μ 65 21) (ho : tm_v μ 80 l = 0) : (∃ s, 1 ≤ s ∧ s ≤ 4 ∧ y_go μ (tm_v μ 76 l) s = tm_v μ 77 l) ∧ ∃ s, 1 ≤ s ∧ s ≤ 4 ∧ y_go μ (tm_v μ 77 l) s = tm_v μ 76 l := by
  have hl := hW.2.2.2.1 l h0 h1
  obtain ⟨⟨k, hk, ek⟩, ⟨j, hj, ej⟩⟩ := hW.2.2.2.2.2.2 l h0 h1
  have d1 := (hW.2.2.1 _ hl.1.1 hl.1.2).1
  have d2 := (hW.2.2.1 _ hl.2.1.1 hl.2.1.2).1
  refine ⟨⟨k + 1, by omega, by omega, ?_⟩, ⟨j + 1, by omega, by omega, ?_⟩⟩
  · unfold y_go
    rw [show k + 1 - 1 = k by omega, if_pos ⟨hk.1, hk.2, by rw [ek]; exact ho⟩]
    unfold y_leads
    rw [if_pos hk, ek]
    unfold y_over
    rw [if_pos rfl]
  · unfold y_go
    rw [show j + 1 - 1 = j by omega, if_pos ⟨hj.1, hj.2, by rw [ej]; exact ho⟩]
    unfold y_leads
    rw [if_pos hj, ej]
    unfold y_over
    rw [if_neg (by omega)]
/-- what the rounds keep: all is reached by so many steps -/
def bf_s (g : Int → Int → Int) (a n : Int) (F : Int → Int) : Prop := ∀ q, 0 ≤ q → q < n → (0 ≤ F q ∧ F q ≤ 100) ∧ (F q = 100 ∨ rc g a (F q).toNat q)
def bf_c (g : Int → Int → Int) (a n : Int) (r : Nat) (F : Int → Int) : Prop := ∀ k : Nat, k ≤ r → ∀ q, 0 ≤ q → q < n → rc g a k q → F q ≤ k
/-- by the lanes below l one step more is seen -/
def bf_l (μ : tm_M) (a : Int) (r : Nat) (l : Int) (F : Int → Int) : Prop := ∀ i, 0 ≤ i → i < l → tm_v μ 80 i = 0 → (rc (y_go μ) a r (tm_v μ 76 i) → F (tm_v μ 77 i) ≤ r + 1) ∧ (rc (y_go μ) a r (tm_v μ 77 i) → F (tm_v μ 76 i) ≤ r + 1)
theorem bf_step {a l : Int} {r : Nat} {F G : Int → Int} (hW : y_W μ) (h0 : 0 ≤ l) (h1 : l < tm_v μ 65 21) (ho : tm_v μ 80 l = 0) (hs : bf_s (y_go μ) a (tm_v μ 65 20) F) (hc : bf_c (y_go μ) a (tm_v μ 65 20) r F) (hl : bf_l μ a r l F)
    (hG : G = fun q => if q = tm_v μ 77 l then min (F (tm_v μ 77 l)) (min (F (tm_v μ 76 l)) (F (tm_v μ 77 l) + 1) + 1) else if q = tm_v μ 76 l then min (F (tm_v μ 76 l)) (F (tm_v μ 77 l) + 1) else F q) :
    bf_s (y_go μ) a (tm_v μ 65 20) G ∧ bf_c (y_go μ) a (tm_v μ 65 20) r G ∧ bf_l μ a r (l + 1) G := by
  have hb := hW.2.2.2.1 l h0 h1
  obtain ⟨⟨s, s1, s2, es⟩, ⟨t, t1, t2, et⟩⟩ := y_lane_go hW h0 h1 ho
  have ho1 := hs _ hb.1.1 hb.1.2
  have ho2 := hs _ hb.2.1.1 hb.2.1.2
  have le : ∀ q, G q ≤ F q := by
    intro q
    rw [hG]
    dsimp only
    split
    · rename_i e; rw [e]; omega
    · split
      · rename_i e; rw [e]; omega
      · omega
  have n1 : rc (y_go μ) a (F (tm_v μ 77 l)).toNat (tm_v μ 77 l) → rc (y_go μ) a (F (tm_v μ 77 l) + 1).toNat (tm_v μ 76 l) := by
    intro h
    rw [show (F (tm_v μ 77 l) + 1).toNat = (F (tm_v μ 77 l)).toNat + 1 by omega]
    exact Or.inr ⟨_, t, t1, t2, h, et⟩
  have n2 : rc (y_go μ) a (F (tm_v μ 76 l)).toNat (tm_v μ 76 l) → rc (y_go μ) a (F (tm_v μ 76 l) + 1).toNat (tm_v μ 77 l) := by
    intro h
    rw [show (F (tm_v μ 76 l) + 1).toNat = (F (tm_v μ 76 l)).toNat + 1 by omega]
    exact Or.inr ⟨_, s, s1, s2, h, es⟩
  have ex : ∀ q, G q = F q ∨ (q = tm_v μ 77 l ∧ G q = F (tm_v μ 76 l) + 1) ∨ (q = tm_v μ 76 l ∧ G q = F (tm_v μ 77 l) + 1) := by
    intro q
    rw [hG]
    dsimp only
    split
    · rename_i e; rw [e]
      by_cases c : F (tm_v μ 76 l) + 1 < F (tm_v μ 77 l)
      · right; left; refine ⟨rfl, ?_⟩; omega
      · left; omega
    · split
      · rename_i e; rw [e]
        by_cases c : F (tm_v μ 77 l) + 1 < F (tm_v μ 76 l)
        · right; right; refine ⟨rfl, ?_⟩; omega
        · left; omega
      · left; rfl
  refine ⟨fun q q0 q1 => ?_, fun k hk q q0 q1 hr => ?_, fun i i0 i1 io => ?_⟩
  · have hq := hs q q0 q1
    have hle := le q
    rcases ex q with e | ⟨e1, e2⟩ | ⟨e1, e2⟩
    · rw [e]; exact hq
    · refine ⟨by omega, ?_⟩
      by_cases c : G q = 100
      · exact Or.inl c
      · right
        rw [e2, e1]
        exact n2 (ho1.2.resolve_left (by omega))
    · refine ⟨by omega, ?_⟩
      by_cases c : G q = 100
      · exact Or.inl c
      · right
        rw [e2, e1]
        exact n1 (ho2.2.resolve_left (by omega))
  · have := hc k hk q q0 q1 hr
    have := le q
    omega
  · by_cases e : i = l
    · rw [e]
      have g77 : G (tm_v μ 77 l) ≤ F (tm_v μ 76 l) + 1 := by rw [hG]; dsimp only; rw [if_pos rfl]; omega
      have g76 : G (tm_v μ 76 l) ≤ F (tm_v μ 77 l) + 1 := by rw [hG]; dsimp only; rw [if_neg hb.2.2.1, if_pos rfl]; omega
      refine ⟨fun h => ?_, fun h => ?_⟩
      · have := hc r (Nat.le_refl _) _ hb.1.1 hb.1.2 h
        omega
      · have := hc r (Nat.le_refl _) _ hb.2.1.1 hb.2.1.2 h
        omega
    · have h := hl i i0 (by omega) io
      have l1 := le (tm_v μ 77 i)
      have l2 := le (tm_v μ 76 i)
      exact ⟨fun q => by have := h.1 q; omega, fun q => by have := h.2 q; omega⟩
theorem bf_round {a : Int} {r : Nat} {F : Int → Int} (hW : y_W μ) (ha : y_p μ a) (hc : bf_c (y_go μ) a (tm_v μ 65 20) r F) (hl : bf_l μ a r (tm_v μ 65 21) F) : bf_c (y_go μ) a (tm_v μ 65 20) (r + 1) F := by
  intro k hk q q0 q1 hr
  by_cases e : k ≤ r
  · exact hc k e q q0 q1 hr
  · have e2 : k = r + 1 := by omega
    rw [e2] at hr ⊢
    rcases hr with hr | ⟨p, s, s1, s2, hr, eg⟩
    · have := hc r (Nat.le_refl _) q q0 q1 hr
      omega
    · have hp := rc_place (n := tm_v μ 65 20) (fun p s h0 h1 => (y_go_p (s := s) (μ := μ) (p := p) ⟨hW, h0, h1⟩).2) ha.2 hr
      rcases y_go_lane (μ := μ) (p := p) (s := s) ⟨hW, hp⟩ with e3 | ⟨l, l1, lo, ⟨e4, e5⟩ | ⟨e4, e5⟩⟩
      · rw [← eg, e3]
        have := hc r (Nat.le_refl _) p hp.1 hp.2 hr
        omega
      · have := (hl l l1.1 l1.2 lo).1 (by rw [e4]; exact hr)
        rw [e5, eg] at this
        omega
      · have := (hl l l1.1 l1.2 lo).2 (by rw [e4]; exact hr)
        rw [e5, eg] at this
        omega
theorem pX6_findFar {a : Int} (hd : 1 ≤ d) (hs : tS μ) (ha : y_p μ a) : cV wX6_findFar mX6_findFar d [(2, 65), (0, a)] μ (fun μ' => ∀ q, 0 ≤ q → q < tm_v μ 65 20 → tm_v μ' 89 q = y_far (y_go μ) a q) := by
  have hW := ha.1
  have h20 := hW.1
  have h21 := hW.2.1
  -- the lanes of a round
  have lanes : ∀ (n : Nat) (r : Nat) (l : Int) (m : tm_M), 0 ≤ l → l + n = tm_v μ 65 21 → (r : Int) < tm_v μ 65 20 → tFr wX6_findFar μ m → bf_s (y_go μ) a (tm_v μ 65 20) (tm_v m 89) → bf_c (y_go μ) a (tm_v μ 65 20) r (tm_v m 89) → bf_l μ a r l (tm_v m 89) →
      (∀ m', tFr wX6_findFar μ m' → bf_s (y_go μ) a (tm_v μ 65 20) (tm_v m' 89) → bf_c (y_go μ) a (tm_v μ 65 20) (r + 1) (tm_v m' 89) → hV wX6_findFar μ mX6_findFar d (fun μ' => ∀ q, 0 ≤ q → q < tm_v μ 65 20 → tm_v μ' 89 q = y_far (y_go μ) a q) 35 [(0, 2, 65), (2, 0, (r : Int) + 1)] [] m') →
      hV wX6_findFar μ mX6_findFar d (fun μ' => ∀ q, 0 ≤ q → q < tm_v μ 65 20 → tm_v μ' 89 q = y_far (y_go μ) a q) 45 [(0, 2, 65), (2, 0, (r : Int)), (3, 0, l)] [] m := by
    intro n
    induction n with
    | zero =>
      intro r l m l0 hl hr hm h1 h2 h3 kk
      refine uX6_findFar_45 hd hm ⟨fun c => ?_, fun c => by omega⟩
      rw [w32_id (by omega) (by omega)]
      exact kk m hm h1 (bf_round hW ha h2 (by rw [show tm_v μ 65 21 = l by omega]; exact h3))
    | succ n ih =>
      intro r l m l0 hl hr hm h1 h2 h3 kk
      have hb := hW.2.2.2.1 l l0 (by omega)
      have e1 : w32 (l + 1) = l + 1 := w32_id (by omega) (by omega)
      refine uX6_findFar_45 hd hm ⟨fun c => by omega, fun c => ⟨by omega, fun c2 => ⟨by omega, by omega, ?_⟩, fun c2 => ?_⟩⟩
      · rintro _ rfl _ rfl
        have f1 := h1 _ hb.1.1 hb.1.2
        have f2 := h1 _ hb.2.1.1 hb.2.1.2
        rw [e1, w32_id (x := tm_v m 89 (tm_v μ 77 l) + 1) (by omega) (by omega)]
        have g77 : tm_v (tm_w m 89 (tm_v μ 76 l) (min (tm_v m 89 (tm_v μ 76 l)) (tm_v m 89 (tm_v μ 77 l) + 1))) 89 (tm_v μ 77 l) = tm_v m 89 (tm_v μ 77 l) := by rw [tm_vw, if_neg (by omega)]
        have g76 : tm_v (tm_w m 89 (tm_v μ 76 l) (min (tm_v m 89 (tm_v μ 76 l)) (tm_v m 89 (tm_v μ 77 l) + 1))) 89 (tm_v μ 76 l) = min (tm_v m 89 (tm_v μ 76 l)) (tm_v m 89 (tm_v μ 77 l) + 1) := by rw [tm_vw, if_pos ⟨rfl, rfl⟩]
        rw [g77, g76, w32_id (by omega) (by omega)]
        have fr : tFr wX6_findFar μ (tm_w (tm_w m 89 (tm_v μ 76 l) (min (tm_v m 89 (tm_v μ 76 l)) (tm_v m 89 (tm_v μ 77 l) + 1))) 89 (tm_v μ 77 l) (min (tm_v m 89 (tm_v μ 77 l)) (min (tm_v m 89 (tm_v μ 76 l)) (tm_v m 89 (tm_v μ 77 l) + 1) + 1))) := by
          have q1 := hm.w (j := tm_v μ 76 l) (x := min (tm_v m 89 (tm_v μ 76 l)) (tm_v m 89 (tm_v μ 77 l) + 1)) (tWs_in (a := 89) _ rfl) (tS_w hm.S sf_89 _ _)
          exact q1.w (tWs_in _ rfl) (tS_w q1.S sf_89 _ _)
        have st := bf_step (G := tm_v (tm_w (tm_w m 89 (tm_v μ 76 l) (min (tm_v m 89 (tm_v μ 76 l)) (tm_v m 89 (tm_v μ 77 l) + 1))) 89 (tm_v μ 77 l) (min (tm_v m 89 (tm_v μ 77 l)) (min (tm_v m 89 (tm_v μ 76 l)) (tm_v m 89 (tm_v μ 77 l) + 1) + 1))) 89) hW l0 (by omega) c2 h1 h2 h3 (by funext q; simp [tm_vw])
        exact ih r (l + 1) _ (by omega) (by omega) hr fr st.1 st.2.1 st.2.2 kk
      · rw [e1]
        refine ih r (l + 1) m (by omega) (by omega) hr hm h1 h2 (fun i i0 i1 io => ?_) kk
        by_cases e : i = l
        · rw [e] at io; exact absurd io c2
        · exact h3 i i0 (by omega) io
  -- the rounds
  have rounds : ∀ (n : Nat) (r : Nat) (m : tm_M), (r : Int) + n = tm_v μ 65 20 → tFr wX6_findFar μ m → bf_s (y_go μ) a (tm_v μ 65 20) (tm_v m 89) → bf_c (y_go μ) a (tm_v μ 65 20) r (tm_v m 89) →
      hV wX6_findFar μ mX6_findFar d (fun μ' => ∀ q, 0 ≤ q → q < tm_v μ 65 20 → tm_v μ' 89 q = y_far (y_go μ) a q) 35 [(0, 2, 65), (2, 0, (r : Int))] [] m := by
    intro n
    induction n with
    | zero =>
      intro r m hr hm h1 h2
      refine uX6_findFar_35 hm ⟨fun c => fun q q0 q1 => ?_, fun c => by omega⟩
      refine y_far_eq (n := (tm_v μ 65 20).toNat) (by omega) (y_go_bd hW) (by have := ha.2; omega) ?_ (fun k hk hq => ?_)
      · have h := h1 q q0 q1
        rcases h.2 with e | e
        · exact Or.inl e
        · exact Or.inr ⟨h.1.1, e⟩
      · exact h2 k (by omega) q q0 q1 hq
    | succ n ih =>
      intro r m hr hm h1 h2
      refine uX6_findFar_35 hm ⟨fun c => by omega, fun c => ?_⟩
      refine lanes (tm_v μ 65 21).toNat r 0 m (by omega) (by omega) c hm h1 h2 (fun i i0 i1 => by omega) (fun m' hm' h1' h2' => ?_)
      exact ih (r + 1) m' (by omega) hm' h1' h2'
  -- the start
  have start : ∀ (n : Nat) (k : Int) (m : tm_M), 0 ≤ k → k + n = tm_v μ 65 20 → tFr wX6_findFar μ m → (∀ q, 0 ≤ q → q < k → tm_v m 89 q = if q = a then 0 else 100) →
      hV wX6_findFar μ mX6_findFar d (fun μ' => ∀ q, 0 ≤ q → q < tm_v μ 65 20 → tm_v μ' 89 q = y_far (y_go μ) a q) 2 [(0, 2, 65), (1, 0, a), (2, 0, k)] [] m := by
    intro n
    induction n with
    | zero =>
      intro k m k0 hk hm h
      refine uX6_findFar_2 hm ⟨fun c => ?_, fun c => by omega⟩
      refine rounds (tm_v μ 65 20).toNat 0 m (by omega) hm (fun q q0 q1 => ?_) (fun j hj q q0 q1 hr => ?_)
      · have h9 := h q q0 (by omega)
        by_cases e : q = a
        · rw [if_pos e] at h9; rw [h9]
          exact ⟨by omega, Or.inr e⟩
        · rw [if_neg e] at h9; rw [h9]
          exact ⟨by omega, Or.inl rfl⟩
      · have e : j = 0 := by omega
        rw [e] at hr
        have h9 := h q q0 (by omega)
        rw [if_pos (show q = a from hr)] at h9
        omega
    | succ n ih =>
      intro k m k0 hk hm h
      have e1 : w32 (k + 1) = k + 1 := w32_id (by omega) (by omega)
      have nx : ∀ x, x = (if k = a then 0 else 100) → hV wX6_findFar μ mX6_findFar d (fun μ' => ∀ q, 0 ≤ q → q < tm_v μ 65 20 → tm_v μ' 89 q = y_far (y_go μ) a q) 2 [(0, 2, 65), (1, 0, a), (2, 0, k + 1)] [] (tm_w m 89 k x) := by
        intro x hx
        refine ih (k + 1) _ (by omega) (by omega) (hm.w (tWs_in _ rfl) (tS_w hm.S sf_89 _ _)) (fun q q0 q1 => ?_)
        rw [tm_vw]
        by_cases e : q = k
        · rw [if_pos ⟨rfl, e⟩, e, hx]
        · rw [if_neg (by omega)]; exact h q q0 (by omega)
      refine uX6_findFar_2 hm ⟨fun c => by omega, fun c => ⟨fun c2 => ⟨by omega, ?_⟩, fun c2 => ⟨by omega, ?_⟩⟩⟩
      · rintro _ rfl
        rw [e1]
        exact nx 100 (by rw [if_neg c2])
      · rintro _ rfl
        rw [e1]
        exact nx 0 (by rw [if_pos c2])
  exact t_of (uX6_findFar_0 (tFr.rf hs) (start (tm_v μ 65 20).toNat 0 μ (by omega) (by omega) (tFr.rf hs) (fun q q0 q1 => by omega)))
end C6E
