/-! CONTRACTS of the component: places that are the same -/
section C0N
variable {d : Nat} {μ μ0 ν : tm_M} {W : Int → Int → Prop} {f g h : Int → Int} {p q k : Int}
/-- held alike by the sorts f, and by those of their steps -/
def lk (ν : tm_M) (f : Int → Int) (p q : Int) : Prop := f p = f q ∧ tm_v ν 72 p = tm_v ν 72 q ∧ ∀ j, 0 ≤ j → j < tm_v ν 72 p → f (y_leads ν p j) = f (y_leads ν q j)
theorem lk_rf : lk ν f p p := ⟨rfl, rfl, fun _ _ _ => rfl⟩
theorem lk_sy (h : lk ν f p q) : lk ν f q p := ⟨h.1.symm, h.2.1.symm, fun j j0 j1 => (h.2.2 j j0 (by rw [h.2.1]; exact j1)).symm⟩
theorem lk_tr (h : lk ν f p q) (h' : lk ν f q k) : lk ν f p k := ⟨h.1.trans h'.1, h.2.1.trans h'.2.1, fun j j0 j1 => (h.2.2 j j0 j1).trans (h'.2.2 j j0 (by rw [← h.2.1]; exact j1))⟩
/-- x is the least place that is like k -/
def mnA (ν : tm_M) (f : Int → Int) (x k : Int) : Prop := (0 ≤ x ∧ x ≤ k) ∧ lk ν f x k ∧ ∀ i, 0 ≤ i → i < x → ¬ lk ν f i k
def mnF (ν : tm_M) (f g : Int → Int) : Prop := ∀ k, y_p ν k → mnA ν f (g k) k
theorem mnA_uq {x y : Int} (h : mnA ν f x k) (h' : mnA ν f y k) : x = y := by
  rcases Int.lt_trichotomy x y with c | c | c
  · exact absurd h.2.1 (h'.2.2 x h.1.1 c)
  · exact c
  · exact absurd h'.2.1 (h.2.2 y h'.1.1 c)
theorem mnA_mv {x : Int} (h : mnA ν f x p) (hl : lk ν f p q) (hx : x ≤ q) : mnA ν f x q := ⟨⟨h.1.1, hx⟩, lk_tr h.2.1 hl, fun i i0 i1 c => h.2.2 i i0 i1 (lk_tr c (lk_sy hl))⟩
theorem mn_p {x : Int} (hk : y_p ν k) (h : mnA ν f x k) : y_p ν x := ⟨hk.1, h.1.1, by have := h.1.2; have := hk.2.2; omega⟩
theorem mn_eq (h : mnF ν f g) (hp : y_p ν p) (hq : y_p ν q) : g p = g q ↔ lk ν f p q := by
  constructor
  · intro e
    have h1 := (h p hp).2.1
    have h2 := (h q hq).2.1
    rw [e] at h1
    exact lk_tr (lk_sy h1) h2
  · intro e
    have h1 := h p hp
    have h2 := h q hq
    rcases Int.lt_trichotomy (g p) (g q) with c | c | c
    · exact absurd (lk_tr h1.2.1 e) (h2.2.2 _ h1.1.1 c)
    · exact c
    · exact absurd (lk_tr h2.2.1 (lk_sy e)) (h1.2.2 _ h2.1.1 c)
/-- nothing more is parted -/
def stb (ν : tm_M) (f : Int → Int) : Prop := ∀ p q, y_p ν p → y_p ν q → f p = f q → lk ν f p q
theorem lk_ld (hp : y_p ν p) (hq : y_p ν q) (hl : lk ν f p q) (hk : ∀ p q, y_p ν p → y_p ν q → f p = f q → g p = g q) (he : g p = g q) : lk ν g p q :=
  ⟨he, hl.2.1, fun j j0 j1 => hk _ _ (y_leads_p hp j0 j1).1 (y_leads_p hq j0 (by rw [← hl.2.1]; exact j1)).1 (hl.2.2 j j0 j1)⟩
theorem stb_step (h : mnF ν f g) (hs : stb ν f) : stb ν g := fun p q hp hq e => lk_ld hp hq ((mn_eq h hp hq).mp e) (fun p q hp hq e => (mn_eq h hp hq).mpr (hs p q hp hq e)) e
/-- how many sorts there are -/
def srt_c (ν : tm_M) (f : Int → Int) : Int := sm (fun i => if f i = i then 1 else 0) (y_n ν)
theorem rep_up (h1 : mnF ν f g) (h2 : mnF ν g h) (hk : y_p ν k) (e : g k = k) : h k = k := by
  have a := h2 k hk
  have b := h1 (h k) (mn_p hk a)
  have c := a.2.1.1
  have d := a.1
  have b' := b.1
  omega
theorem rep_h (h2 : mnF ν g h) (hk : y_p ν k) : h (h k) = h k := by
  have a := h2 k hk
  have b := h2 (h k) (mn_p hk a)
  rcases Int.lt_trichotomy (h (h k)) (h k) with c | c | c
  · exact absurd (lk_tr b.2.1 a.2.1) (a.2.2 _ b.1.1 c)
  · exact c
  · have := b.1; omega
theorem stb_reps (h1 : mnF ν f g) (h2 : mnF ν g h) (hr : ∀ k, y_p ν k → h k = k → g k = k) : stb ν h := by
  have e1 : ∀ p, y_p ν p → h p = g p := fun p hp => by
    have a := h2 p hp
    have b := hr _ (mn_p hp a) (rep_h h2 hp)
    have c := a.2.1.1
    omega
  exact fun p q hp hq e => lk_ld hp hq ((mn_eq h2 hp hq).mp e) (fun p q hp hq e => by rw [e1 p hp, e1 q hq]; exact e) e
/-- behind r rounds -/
def srt_i (ν : tm_M) (r : Int) (f : Int → Int) : Prop := (∀ p q, bis ν p q → f p = f q) ∧ (∀ p q, y_p ν p → y_p ν q → f p = f q → tm_v ν 70 (3 * p) = tm_v ν 70 (3 * q)) ∧ (r = 0 ∨ (1 ≤ r ∧ (∃ f0, mnF ν f0 f) ∧ (stb ν f ∨ r ≤ srt_c ν f)))
theorem srt_step {r : Int} (hi : srt_i ν r f) (hm : mnF ν f g) (h0 : y_p ν 0) (hr : 0 ≤ r) : srt_i ν (r + 1) g := by
  have hN : (y_n ν : Int) = tm_v ν 65 20 := by unfold y_n; have := h0.2; omega
  have pl : ∀ i : Nat, i < y_n ν → y_p ν (i : Int) := fun i hi => ⟨h0.1, by omega, by omega⟩
  refine ⟨fun p q hb => ?_, fun p q hp hq e => hi.2.1 p q hp hq ((mn_eq hm hp hq).mp e).1, Or.inr ⟨by omega, ⟨f, hm⟩, ?_⟩⟩
  · have hR := bis_R p q hb
    exact (mn_eq hm hR.1.1 hR.1.2).mpr ⟨hi.1 p q hb, hR.2.2.1, fun j j0 j1 => hi.1 _ _ (hR.2.2.2 j j0 j1)⟩
  · rcases hi.2.2 with e | ⟨r1, ⟨f0, hf0⟩, hs | hc⟩
    · right
      have e0 : g 0 = 0 := by have := (hm 0 h0).1; omega
      have := sm_get (f := fun i => if g i = i then 1 else 0) (n := y_n ν) (j := 0) (fun i hi => by (try dsimp only); split <;> omega) (by have := h0.2; omega)
      (try dsimp only at this)
      rw [if_pos (show g ((0 : Nat) : Int) = ((0 : Nat) : Int) from e0)] at this
      unfold srt_c
      omega
    · exact Or.inl (stb_step hm hs)
    · by_cases hall : ∀ k, y_p ν k → g k = k → f k = k
      · exact Or.inl (stb_reps hf0 hm hall)
      · right
        obtain ⟨k, hk⟩ := Classical.not_forall.mp hall
        have hk1 : y_p ν k := Classical.byContradiction fun c => hk (fun h => absurd h c)
        have hk2 : g k = k := Classical.byContradiction fun c => hk (fun _ h => absurd h c)
        have hk3 : ¬ f k = k := fun c => hk (fun _ _ => c)
        have k8 := y_p8 hk1
        have hlt : srt_c ν f < srt_c ν g := by
          unfold srt_c
          refine sm_lt (fun i hi => ?_) (j := k.toNat) (by have := hk1.2; omega) ?_
          · by_cases c : f i = i
            · rw [if_pos c, if_pos (rep_up hf0 hm (pl i hi) c)]; omega
            · rw [if_neg c]; split <;> omega
          · rw [show ((k.toNat : Nat) : Int) = k by omega, if_neg hk3, if_pos hk2]; omega
        omega
theorem srt_end {r a b : Int} (hi : srt_i ν r f) (hr : r = tm_v ν 65 20 + 1) (ha : y_p ν a) (hb : y_p ν b) : f a = f b ↔ bis ν a b := by
  have h20 := ha.1.1
  have hN : (y_n ν : Int) = tm_v ν 65 20 := by unfold y_n; omega
  have hs : stb ν f := by
    rcases hi.2.2 with e | ⟨r1, _, hs | hc⟩
    · omega
    · exact hs
    · have := (sm_bd (f := fun i => if f i = i then 1 else 0) (n := y_n ν) (c := 1) (fun i hi => by (try dsimp only); split <;> omega)).2
      unfold srt_c at hc
      omega
  refine ⟨fun e => ⟨fun p q => (y_p ν p ∧ y_p ν q) ∧ f p = f q, fun p q h => ?_, ⟨ha, hb⟩, e⟩, fun h => hi.1 a b h⟩
  have hl := hs p q h.1.1 h.1.2 h.2
  exact ⟨h.1, hi.2.1 p q h.1.1 h.1.2 h.2, hl.2.1, fun j j0 j1 => ⟨⟨(y_leads_p h.1.1 j0 j1).1, (y_leads_p h.1.2 j0 (by rw [← hl.2.1]; exact j1)).1⟩, hl.2.2 j j0 j1⟩⟩
theorem JU.lane {j : Int} (hJ : JU μ ν) (hk : y_p ν k) (j0 : 0 ≤ j) (j1 : j < tm_v ν 72 k) : (j < tm_n μ (c_A μ k) ∧ tm_v μ (c_A μ k) j = c_L μ (tm_v ν 74 (4 * k + j)) ∧ ob μ (tm_v μ (c_A μ k) j) 8) ∧ (0 ≤ tm_v ν 74 (4 * k + j) ∧ tm_v ν 74 (4 * k + j) < tm_v ν 65 21) ∧ y_over ν (tm_v ν 74 (4 * k + j)) k = y_leads ν k j := by
  obtain ⟨h1, h2, h3, h4, h5⟩ := hJ.P hk
  have hdg := (hk.1.2.2.1 k hk.2.1 hk.2.2).1
  have hl := ((hk.1.2.2.1 k hk.2.1 hk.2.2).2.2.2.2 j j0 j1).1
  have e := h5 j j0 j1
  refine ⟨⟨by rw [h4.2]; omega, e, ?_⟩, hl, ?_⟩
  · rw [e]; exact (hJ.L hl.1 hl.2).1
  · unfold y_leads; rw [if_pos ⟨j0, j1⟩]
theorem pX0_areLike {a b : Int} (hd : 1 ≤ d) (hs : tS μ) (hJ : JU μ ν) (ha : y_p ν a) (hb : y_p ν b) : cI w0 mX0_areLike d [(2, 1), (0, a), (0, b)] μ (fun r _ => (r = 0 ∧ ¬ lk ν (tm_v μ 15) a b) ∨ (r = 1 ∧ lk ν (tm_v μ 15) a b)) := by
  have nP : tm_n μ (tm_v μ (tm_v μ 1 8) 0) = 8 := hJ.PA.2
  have eP : ∀ k, tm_v μ (tm_v μ (tm_v μ 1 8) 0) k = c_P μ k := fun k => rfl
  have a8 := y_p8 ha
  have b8 := y_p8 hb
  have pA := hJ.P ha
  have pB := hJ.P hb
  have da := (ha.1.2.2.1 a ha.2.1 ha.2.2).1
  have loop : tm_v μ 15 a = tm_v μ 15 b → tm_v ν 72 a = tm_v ν 72 b → ∀ (n : Nat) (j : Int) (m : tm_M), m = μ → 0 ≤ j → j + n = tm_v ν 72 a → (∀ i, 0 ≤ i → i < j → tm_v μ 15 (y_leads ν a i) = tm_v μ 15 (y_leads ν b i)) → hI w0 μ mX0_areLike d (fun r _ => (r = 0 ∧ ¬ lk ν (tm_v μ 15) a b) ∨ (r = 1 ∧ lk ν (tm_v μ 15) a b)) 53 [(0, 2, 1), (3, 2, c_P μ a), (4, 2, c_P μ b), (5, 0, j)] [] m := by
    intro e1 e2 n
    induction n with
    | zero =>
      rintro j m rfl j0 jn hall
      refine uX0_areLike_53 hd (tFr.rf hs) ⟨pA.1, ?_⟩
      rw [pA.2.2.1.2.2.2]
      exact ⟨fun _ => Or.inr ⟨rfl, e1, e2, fun i i0 i1 => hall i i0 (by omega)⟩, fun c => by omega⟩
    | succ n ih =>
      rintro j m rfl j0 jn hall
      obtain ⟨⟨u1, u2, u3⟩, u4, u5⟩ := hJ.lane ha j0 (by omega)
      obtain ⟨⟨v1, v2, v3⟩, v4, v5⟩ := hJ.lane hb j0 (by omega)
      have la := (y_leads_p ha j0 (by omega)).1
      have lb := (y_leads_p hb j0 (by omega)).1
      have hA : tm_v m (c_P m a) 6 = c_A m a := rfl
      have hB : tm_v m (c_P m b) 6 = c_A m b := rfl
      refine uX0_areLike_53 hd (tFr.rf hs) ⟨pA.1, ?_⟩
      rw [pA.2.2.1.2.2.2, hA, hB]
      refine ⟨fun c => by omega, fun c => ⟨pA.2.2.2.1.1, ⟨j0, u1⟩, u3, ?_⟩⟩
      rw [u2]
      refine tC.R (pX8_other hs hJ u4.1 u4.2 ha) (fun r m2 f2 hr => ?_)
      have em := f2.same
      subst em
      rw [u5] at hr
      subst hr
      rw [(hJ.P la).2.1]
      refine ⟨(hJ.P la).1, y_p8 la, pB.1, pB.2.2.2.1.1, ⟨j0, v1⟩, v3, ?_⟩
      rw [v2]
      refine tC.R (pX8_other hs hJ v4.1 v4.2 hb) (fun r m2 f2 hr => ?_)
      have em := f2.same
      subst em
      rw [v5] at hr
      subst hr
      rw [(hJ.P lb).2.1, w32_id (x := j + 1) (by omega) (by omega)]
      refine ⟨(hJ.P lb).1, y_p8 lb, fun c2 => ih (j + 1) _ rfl (by omega) (by omega) (fun i i0 i1 => ?_), fun c2 => Or.inl ⟨rfl, fun hl => c2 (hl.2.2 j j0 (by omega))⟩⟩
      by_cases e : i = j
      · rw [e]; exact c2
      · exact hall i i0 (by omega)
  refine t_of (uX0_areLike_0 (tFr.rf hs) ?_)
  rw [nP, eP, eP]
  refine ⟨hJ.T, hJ.PA.1, a8, ?_⟩
  rintro _ rfl
  refine ⟨b8, ?_⟩
  rintro _ rfl
  rw [pA.2.2.1.2.2.2, pB.2.2.1.2.2.2]
  exact ⟨a8, b8, fun c => Or.inl ⟨rfl, fun hl => c hl.1⟩, fun c => ⟨pA.1, pB.1, fun c2 => loop c c2 (tm_v ν 72 a).toNat 0 μ rfl (by omega) (by omega) (fun i i0 i1 => by omega), fun c2 => Or.inl ⟨rfl, fun hl => c2 hl.2.1⟩⟩⟩
theorem pX0_same {a b : Int} (hd : 2 ≤ d) (hs : tS μ) (hJ : JU μ ν) : cI (tWs [15, 16] [(1, 10)]) mX0_same d [(2, 1), (0, a), (0, b)] μ (fun r m => r = (r_same ν a b).1 ∧ tm_v m 1 10 = (r_same ν a b).2) := by
  have hT : y_TC (c_FA μ) (tWs [15, 16] [(1, 10)]) := tWs_TC ⟨rfl, rfl⟩
  have nP : tm_n μ (tm_v μ (tm_v μ 1 8) 0) = 8 := hJ.PA.2
  have eP : ∀ k, tm_v μ (tm_v μ (tm_v μ 1 8) 0) k = c_P μ k := fun k => rfl
  have eN : tm_v μ (tm_v μ 1 8) 2 = tm_v ν 65 20 := hJ.2.2.1.1
  have h20 := hJ.1.1
  have w15 : ∀ {m : tm_M} {j y : Int}, tFr (tWs [15, 16] [(1, 10)]) μ m → tFr (tWs [15, 16] [(1, 10)]) μ (tm_w m 15 j y) := fun h => h.w (tWs_in _ rfl) (tS_w h.S sf_15 _ _)
  have w16 : ∀ {m : tm_M} {j y : Int}, tFr (tWs [15, 16] [(1, 10)]) μ m → tFr (tWs [15, 16] [(1, 10)]) μ (tm_w m 16 j y) := fun h => h.w (tWs_in _ rfl) (tS_w h.S sf_16 _ _)
  have w10 : ∀ {m : tm_M} {y : Int}, tFr (tWs [15, 16] [(1, 10)]) μ m → tFr (tWs [15, 16] [(1, 10)]) μ (tm_w m 1 10 y) := fun h => h.w (tWs_inF rfl) (tS_wj h.S _ (by decide))
  -- the least like place is sought
  have inner : ∀ K : Int → tm_M → Prop, ∀ (r k : Int) (f : Int → Int), y_p ν k → ∀ (n : Nat) (i : Int) (m : tm_M), i + 1 = n → i < k → tFr (tWs [15, 16] [(1, 10)]) μ m → tm_v m 15 = f → (∀ j, 0 ≤ j → j < k → mnA ν f (tm_v m 16 j) j) → ((tm_v m 16 k = k ∧ ∀ j, i < j → j < k → ¬ lk ν f j k) ∨ mnA ν f (tm_v m 16 k) k) →
      (∀ m', tFr (tWs [15, 16] [(1, 10)]) μ m' → tm_v m' 15 = f → (∀ j, 0 ≤ j → j < k + 1 → mnA ν f (tm_v m' 16 j) j) → hI (tWs [15, 16] [(1, 10)]) μ mX0_same d K 75 [(0, 2, 1), (1, 0, a), (2, 0, b), (3, 0, r), (4, 0, k + 1)] [] m') →
      hI (tWs [15, 16] [(1, 10)]) μ mX0_same d K 102 [(0, 2, 1), (1, 0, a), (2, 0, b), (3, 0, r), (4, 0, k), (5, 0, i)] [] m := by
    intro K r k f hk n
    have k8 := y_p8 hk
    induction n with
    | zero =>
      intro i m hin hik hm hf hall hx kk
      refine uX0_same_102 (by omega) hm ⟨fun c => ?_, fun c => by omega⟩
      rw [w32_id (x := k + 1) (by omega) (by omega)]
      refine kk m hm hf (fun j j0 j1 => ?_)
      by_cases e : j = k
      · rw [e]
        rcases hx with ⟨e1, h1⟩ | h1
        · rw [e1]; exact ⟨⟨k8.1, Int.le_refl _⟩, lk_rf, fun i' i0 i1 => h1 i' (by omega) i1⟩
        · exact h1
      · exact hall j j0 (by omega)
    | succ n ih =>
      intro i m hin hik hm hf hall hx kk
      have hi : y_p ν i := ⟨hk.1, by omega, by have := hk.2.2; omega⟩
      refine uX0_same_102 (by omega) hm ⟨fun c => by omega, fun c => ?_⟩
      refine tC.I (pX0_areLike (by omega) hm.S (JU_F hJ hm hT) hi hk) (fun r4 m2 f2 hr => ?_)
      have em := f2.same
      subst em
      rw [hf] at hr
      rw [w32_id (x := i + -1) (by omega) (by omega)]
      refine ⟨fun c2 => ?_, fun c2 => ⟨by omega, k8, fun m3 e3 => ?_⟩⟩
      · have hn : ¬ lk ν f i k := by
          rcases hr with ⟨_, q⟩ | ⟨q, _⟩
          · exact q
          · omega
        refine ih (i + -1) m2 (by omega) (by omega) hm hf hall ?_ kk
        rcases hx with ⟨e1, h1⟩ | h1
        · left
          refine ⟨e1, fun j j1 j2 => ?_⟩
          by_cases e : j = i
          · rw [e]; exact hn
          · exact h1 j (by omega) j2
        · exact Or.inr h1
      · have hl : lk ν f i k := by
          rcases hr with ⟨q, _⟩ | ⟨_, q⟩
          · exact absurd q c2
          · exact q
        have hg := hall i (by omega) hik
        refine ih (i + -1) m3 (by omega) (by omega) (by rw [e3]; exact w16 hm) (by rw [← hf, e3]; funext j; rw [tm_vw, if_neg (by omega)]) (fun j j0 j1 => ?_) (Or.inr ?_) kk
        · rw [e3, tm_vw, if_neg (by omega)]; exact hall j j0 j1
        · rw [e3, tm_vw, if_pos ⟨rfl, rfl⟩]
          exact mnA_mv hg hl (by have := hg.1; omega)
  -- a round
  have round : ∀ K : Int → tm_M → Prop, ∀ (r : Int) (f : Int → Int), 0 ≤ r → r ≤ 8 → ∀ (n : Nat) (k : Int) (m : tm_M), 0 ≤ k → k + n = tm_v ν 65 20 → tFr (tWs [15, 16] [(1, 10)]) μ m → tm_v m 15 = f → (∀ j, 0 ≤ j → j < k → mnA ν f (tm_v m 16 j) j) →
      (∀ m', tFr (tWs [15, 16] [(1, 10)]) μ m' → mnF ν f (tm_v m' 15) → hI (tWs [15, 16] [(1, 10)]) μ mX0_same d K 61 [(0, 2, 1), (1, 0, a), (2, 0, b), (3, 0, r + 1)] [] m') →
      hI (tWs [15, 16] [(1, 10)]) μ mX0_same d K 75 [(0, 2, 1), (1, 0, a), (2, 0, b), (3, 0, r), (4, 0, k)] [] m := by
    intro K r f r0 r8 n
    induction n with
    | zero =>
      intro k m k0 kn hm hf hall kk
      refine uX0_same_75 hm ⟨hJ.T, ?_⟩
      rw [eN, w32_id (x := r + 1) (by omega) (by omega)]
      refine ⟨fun _ m2 e2 => kk m2 ?_ (fun j hj => ?_), fun c => by omega⟩
      · rw [e2]; exact hm.c (fun q => tWs_in _ rfl) (tS_c hm.S sf_15 _ _ _ _)
      · have j8 := y_p8 hj
        rw [e2, tm_vc, if_pos ⟨rfl, by omega⟩, show (0 : Int) + (j - 0) = j by omega]
        exact hall j hj.2.1 (by have := hj.2.2; omega)
    | succ n ih =>
      intro k m k0 kn hm hf hall kk
      have hk : y_p ν k := ⟨hJ.1, k0, by omega⟩
      refine uX0_same_75 hm ⟨hJ.T, ?_⟩
      rw [eN, w32_id (x := k - 1) (by omega) (by omega)]
      refine ⟨fun c => by omega, fun _ => ⟨by omega, fun m2 e2 => ?_⟩⟩
      rintro _ rfl
      refine inner K r k f hk k.toNat (k - 1) m2 (by omega) (by omega) (by rw [e2]; exact w16 hm) (by rw [← hf, e2]; funext j; rw [tm_vw, if_neg (by omega)]) (fun j j0 j1 => ?_) (Or.inl ⟨?_, fun j j1 j2 => by omega⟩) (fun m' h1 h2 h3 => ih (k + 1) m' (by omega) (by omega) h1 h2 h3 kk)
      · rw [e2, tm_vw, if_neg (by omega)]; exact hall j j0 j1
      · rw [e2, tm_vw, if_pos ⟨rfl, rfl⟩]
  unfold r_same
  have rounds : y_p ν a → y_p ν b → ∀ (n : Nat) (r : Int) (m : tm_M), 0 ≤ r → r + n = tm_v ν 65 20 + 1 → tFr (tWs [15, 16] [(1, 10)]) μ m → srt_i ν r (tm_v m 15) → hI (tWs [15, 16] [(1, 10)]) μ mX0_same d (fun r m => r = @ite Int (bis ν a b) (Classical.propDecidable _) 1 0 ∧ tm_v m 1 10 = 0) 61 [(0, 2, 1), (1, 0, a), (2, 0, b), (3, 0, r)] [] m := by
    intro ha hb n
    induction n with
    | zero =>
      intro r m r0 rn hm hi
      refine uX0_same_61 (by omega) hm ⟨hJ.T, ?_⟩
      rw [eN]
      have he := srt_end hi (by omega) ha hb
      refine ⟨fun _ => ⟨y_p8 ha, y_p8 hb, fun c m2 e2 => ⟨?_, by rw [e2]; simp [tm_vw]⟩, fun c m2 e2 => ⟨?_, by rw [e2]; simp [tm_vw]⟩⟩, fun c => by omega⟩
      · rw [if_neg (fun q => c (he.mpr q))]
      · rw [if_pos (he.mp c)]
    | succ n ih =>
      intro r m r0 rn hm hi
      refine uX0_same_61 (by omega) hm ⟨hJ.T, ?_⟩
      rw [eN]
      have hp0 : y_p ν 0 := ⟨hJ.1, by omega, by have := ha.2; omega⟩
      exact ⟨fun c => by omega, fun _ => round _ r (tm_v m 15) r0 (by omega) (tm_v ν 65 20).toNat 0 m (by omega) (by omega) hm rfl (fun j j0 j1 => by omega) (fun m' h1 h2 => ih (r + 1) m' (by omega) (by omega) h1 (srt_step hi h2 hp0 r0))⟩
  have begins : y_p ν a → y_p ν b → ∀ (n : Nat) (k : Int) (m : tm_M), 0 ≤ k → k + n = tm_v ν 65 20 → tFr (tWs [15, 16] [(1, 10)]) μ m → (∀ j, 0 ≤ j → j < k → tm_v m 15 j = tm_v ν 70 (3 * j)) → hI (tWs [15, 16] [(1, 10)]) μ mX0_same d (fun r m => r = @ite Int (bis ν a b) (Classical.propDecidable _) 1 0 ∧ tm_v m 1 10 = 0) 24 [(0, 2, 1), (1, 0, a), (2, 0, b), (3, 0, k)] [] m := by
    intro ha hb n
    induction n with
    | zero =>
      intro k m k0 kn hm hall
      refine uX0_same_24 hm ⟨hJ.T, ?_⟩
      rw [eN]
      refine ⟨fun _ => rounds ha hb (tm_v ν 65 20 + 1).toNat 0 m (by omega) (by omega) hm ⟨fun p q hb => ?_, fun p q hp hq e => ?_, Or.inl rfl⟩, fun c => by omega⟩
      · have hR := bis_R p q hb
        have p1 := hR.1.1.2
        have q1 := hR.1.2.2
        rw [hall p p1.1 (by omega), hall q q1.1 (by omega)]
        exact hR.2.1
      · have p1 := hp.2
        have q1 := hq.2
        rw [hall p p1.1 (by omega), hall q q1.1 (by omega)] at e
        exact e
    | succ n ih =>
      intro k m k0 kn hm hall
      have hk : y_p ν k := ⟨hJ.1, k0, by omega⟩
      refine uX0_same_24 hm ⟨hJ.T, ?_⟩
      rw [eN, nP, eP, (hJ.P hk).2.2.1.1, w32_id (x := k + 1) (by omega) (by omega)]
      refine ⟨fun c => by omega, fun _ => ⟨hJ.PA.1, by omega, (hJ.P hk).1, by omega, fun m2 e2 => ih (k + 1) m2 (by omega) (by omega) (by rw [e2]; exact w15 hm) (fun j j0 j1 => ?_)⟩⟩
      rw [e2, tm_vw]
      by_cases e : j = k
      · rw [if_pos ⟨rfl, e⟩, e]
      · rw [if_neg (fun q => e q.2)]; exact hall j j0 (by omega)
  refine t_of (uX0_same_0 (ν := ν) (by omega) (tFr.rf hs) ⟨hJ, fun c m e => ?_, fun ca => ⟨fun cb => ?_, fun c m e => ?_⟩⟩)
  · rw [if_pos (fun q => c q.1), e]; exact ⟨rfl, by simp [tm_vw]⟩
  · rw [if_neg (fun q => q ⟨ca, cb⟩)]
    exact begins ⟨hJ.1, ca⟩ ⟨hJ.1, cb⟩ (tm_v ν 65 20).toNat 0 μ (by omega) (by omega) (tFr.rf hs) (fun j j0 j1 => by omega)
  · rw [if_pos (fun q => c q.2), e]; exact ⟨rfl, by simp [tm_vw]⟩
end C0N
