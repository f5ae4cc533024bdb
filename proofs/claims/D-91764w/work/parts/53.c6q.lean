/-! CONTRACTS of the model: a town turned into itself -/
theorem bit_e : ∀ u : Fin 256, ∀ j : Fin 8, i_and (i_shr (u.val : Int) (j.val : Int)) 1 = ((u.val / 2 ^ j.val % 2 : Nat) : Int) := by decide +kernel
theorem bit_o : ∀ u : Fin 256, ∀ j : Fin 8, i_or (u.val : Int) (i_shl 1 (j.val : Int)) = ((u.val ||| 2 ^ j.val : Nat) : Int) := by decide +kernel
theorem bit_s : ∀ j : Fin 8, i_shl 1 (j.val : Int) = ((2 ^ j.val : Nat) : Int) := by decide +kernel
theorem bit_n : ∀ u : Fin 256, ∀ k : Fin 8, (u.val ||| 2 ^ k.val) < 256 := by decide +kernel
theorem bit_x : ∀ u : Fin 256, ∀ k : Fin 8, ∀ j : Fin 8, ((u.val ||| 2 ^ k.val) / 2 ^ j.val % 2 = 1 ↔ (u.val / 2 ^ j.val % 2 = 1 ∨ j.val = k.val)) := by decide +kernel
theorem bit_2 : ∀ a : Fin 8, ∀ j : Fin 8, ((2 ^ a.val) / 2 ^ j.val % 2 = 1 ↔ j.val = a.val) := by decide +kernel
theorem bit_p : ∀ a : Fin 8, 2 ^ a.val < 256 := by decide +kernel
theorem b2i_iff {A B : Prop} [Decidable A] [Decidable B] : b2i A = b2i B ↔ (A ↔ B) := by unfold b2i; by_cases a : A <;> by_cases b : B <;> simp [a, b]
/-- a frame whose cells are as they were -/
theorem tFr.eq {W : Int → Int → Prop} {μ0 μ : tm_M} (h : tFr W μ0 μ) (he : ∀ a j, W a j → tm_v μ a j = tm_v μ0 a j) : μ = μ0 :=
  tFr.same ⟨h.S, h.z, h.k, h.n, fun a j _ => by by_cases c : W a j; exact he a j c; exact h.v c⟩
section C6Q
variable {d : Nat} {μ μ0 : tm_M} {W : Int → Int → Prop}
def ftk (μ : tm_M) (P : Int → Int) (p k : Int) : Prop := (y_open μ p k ↔ y_open μ (P p) k) ∧ (y_open μ p k → 0 ≤ P (y_leads μ p k) → P (y_leads μ p k) = y_leads μ (P p) k)
def ft (μ : tm_M) (P : Int → Int) (p : Int) : Prop := tm_v μ 70 (3 * p) = tm_v μ 70 (3 * P p) ∧ ∀ k, 0 ≤ k → k < 4 → ftk μ P p k
def ftE (μ : tm_M) (π : Int → Int) (p : Int) : Prop := tm_v μ 70 (3 * p) = tm_v μ 70 (3 * π p) ∧ ∀ k, 0 ≤ k → k < 4 → (y_open μ p k ↔ y_open μ (π p) k) ∧ (y_open μ p k → π (y_leads μ p k) = y_leads μ (π p) k)
/-- the town can be turned so that P's places go where P says -/
def ex (μ : tm_M) (P : Int → Int) : Prop := ∃ π : Int → Int, (∀ q, y_p μ q → y_p μ (π q)) ∧ (∀ q q', y_p μ q → y_p μ q' → π q = π q' → q = q') ∧ (∀ q, y_p μ q → 0 ≤ P q → π q = P q) ∧ ∀ q, y_p μ q → ftE μ π q
theorem y_open_F (hs : tFr W μ0 μ) (hw : y_T W) (p k : Int) : y_open μ p k ↔ y_open μ0 p k := by unfold y_open; rw [y_t72 hs hw, y_t74 hs hw, y_t80 hs hw]
theorem ex_F (hs : tFr W μ0 μ) (hw : y_T W) (P : Int → Int) : ex μ P ↔ ex μ0 P := by
  unfold ex ftE
  simp only [y_p_F hs hw, y_t70 hs hw, y_open_F hs hw, y_leads_F hs hw]
theorem pX6_fitsTurn {p : Int} (hd : 2 ≤ d) (hs : tS μ) (hp : y_p μ p) (hq : y_p μ (tm_v μ 96 p)) : cI w0 mX6_fitsTurn d [(2, 65), (0, p)] μ (fun r _ => r = @ite Int (ft μ (tm_v μ 96) p) (Classical.propDecidable _) 1 0) := by
  have p8 := y_p8 hp
  have q8 := y_p8 hq
  have no : ¬ ft μ (tm_v μ 96) p → (0 : Int) = @ite Int (ft μ (tm_v μ 96) p) (Classical.propDecidable _) 1 0 := fun h => by rw [if_neg h]
  have loop : ∀ (n : Nat) (k : Int), 0 ≤ k → k + n = 4 → tm_v μ 70 (3 * p) = tm_v μ 70 (3 * tm_v μ 96 p) → (∀ j, 0 ≤ j → j < k → ftk μ (tm_v μ 96) p j) → hI wX6_fitsTurn μ mX6_fitsTurn d (fun r _ => r = @ite Int (ft μ (tm_v μ 96) p) (Classical.propDecidable _) 1 0) 28 [(0, 2, 65), (1, 0, p), (2, 0, k)] [] μ := by
    intro n
    induction n with
    | zero =>
      intro k k0 kn h1 h2
      refine uX6_fitsTurn_28 hd (tFr.rf hs) ⟨fun c => ?_, fun c => by omega⟩
      show (1 : Int) = _
      rw [if_pos ⟨h1, fun j j0 j1 => h2 j j0 (by omega)⟩]
    | succ n ih =>
      intro k k0 kn h1 h2
      have nx : ftk μ (tm_v μ 96) p k → hI wX6_fitsTurn μ mX6_fitsTurn d (fun r _ => r = @ite Int (ft μ (tm_v μ 96) p) (Classical.propDecidable _) 1 0) 28 [(0, 2, 65), (1, 0, p), (2, 0, w32 (k + 1))] [] μ := by
        intro hk
        rw [w32_id (by omega) (by omega)]
        refine ih (k + 1) (by omega) (by omega) h1 (fun j j0 j1 => ?_)
        by_cases e : j = k
        · rw [e]; exact hk
        · exact h2 j j0 (by omega)
      refine uX6_fitsTurn_28 hd (tFr.rf hs) ⟨fun c => by omega, fun c => ⟨hp, by omega, hq, fun c2 => ?_, fun c2 => no (fun h => c2 (b2i_iff.mpr (h.2 k k0 c).1))⟩⟩
      have hi0 := b2i_iff.mp c2
      have hi : y_open μ p k ↔ y_open μ (tm_v μ 96 p) k := hi0
      refine ⟨fun c3 => nx ⟨hi, fun h => absurd h c3⟩, fun c3 => ?_⟩
      have l8 := y_p8 (y_leads_p hp c3.1 c3.2.1).1
      exact ⟨by omega, fun c4 => nx ⟨hi, fun _ h => by omega⟩, fun c4 => ⟨fun c5 => nx ⟨hi, fun _ _ => c5⟩, fun c5 => no (fun h => c5 ((h.2 k k0 c).2 c3 c4))⟩⟩
  refine t_of (uX6_fitsTurn_0 (tFr.rf hs) ?_)
  rw [w32_id (x := 3 * p) (by omega) (by omega), w32_id (x := 3 * tm_v μ 96 p) (by omega) (by omega)]
  exact ⟨by omega, by omega, by omega, fun c => loop 4 0 (by omega) (by omega) c (fun j j0 j1 => by omega), fun c => no (fun h => c h.1)⟩
/-- what turns() finds -/
def tin (μ : tm_M) (p u : Int) : Prop := (∀ q, y_p μ q → tm_v μ 96 q = -1 ∨ y_p μ (tm_v μ 96 q)) ∧ (∀ q, y_p μ q → q < p → 0 ≤ tm_v μ 96 q) ∧ (∀ q q', y_p μ q → y_p μ q' → 0 ≤ tm_v μ 96 q → tm_v μ 96 q = tm_v μ 96 q' → q = q') ∧ ∃ U : Nat, U < 256 ∧ u = (U : Int) ∧ ∀ j, y_p μ j → (U / 2 ^ j.toNat % 2 = 1 ↔ ∃ q, y_p μ q ∧ tm_v μ 96 q = j)
theorem ex_all {P : Int → Int} (h0 : ∀ q, y_p μ q → y_p μ (P q)) (hj : ∀ q q', y_p μ q → y_p μ q' → P q = P q' → q = q') : ex μ P ↔ ∀ q, y_p μ q → ft μ P q := by
  constructor
  · rintro ⟨π, a, b, c, e⟩ q hq
    have ec : ∀ q, y_p μ q → π q = P q := fun q hq => c q hq (h0 q hq).2.1
    have := e q hq
    unfold ftE at this
    rw [ec q hq] at this
    refine ⟨this.1, fun k k0 k4 => ⟨(this.2 k k0 k4).1, fun ho _ => ?_⟩⟩
    rw [← (this.2 k k0 k4).2 ho, ec _ (y_leads_p hq ho.1 ho.2.1).1]
  · intro h
    exact ⟨P, h0, hj, fun q _ _ => rfl, fun q hq => ⟨(h q hq).1, fun k k0 k4 => ⟨((h q hq).2 k k0 k4).1, fun ho => ((h q hq).2 k k0 k4).2 ho (h0 _ (y_leads_p hq ho.1 ho.2.1).1).2.1⟩⟩⟩
theorem ex_one {P : Int → Int} {p : Int} (hp : y_p μ p) (hn : P p = -1) : ex μ P ↔ ∃ j, (y_p μ j ∧ ¬ ∃ q, y_p μ q ∧ P q = j) ∧ ex μ (fup P p j) := by
  constructor
  · rintro ⟨π, a, b, c, e⟩
    refine ⟨π p, ⟨a p hp, ?_⟩, π, a, b, fun q hq h => ?_, e⟩
    · rintro ⟨q, hq, h⟩
      have h1 := c q hq (by have := (a p hp).2; omega)
      have := b q p hq hp (by omega)
      rw [this, hn] at h
      have := (a p hp).2; omega
    · by_cases x : q = p
      · unfold fup; rw [if_pos x, x]
      · unfold fup at h ⊢; rw [if_neg x] at h ⊢; exact c q hq h
  · rintro ⟨j, _, π, a, b, c, e⟩
    refine ⟨π, a, b, fun q hq h => ?_, e⟩
    have x : q ≠ p := fun x => by rw [x, hn] at h; omega
    have := c q hq (by unfold fup; rw [if_neg x]; exact h)
    unfold fup at this
    rwa [if_neg x] at this
theorem ex_ft {P : Int → Int} {p : Int} (h : ex μ P) (hp : y_p μ p) (h0 : 0 ≤ P p) : ft μ P p := by
  obtain ⟨π, a, b, c, e⟩ := h
  have := e p hp
  unfold ftE at this
  rw [c p hp h0] at this
  refine ⟨this.1, fun k k0 k4 => ⟨(this.2 k k0 k4).1, fun ho h1 => ?_⟩⟩
  rw [← (this.2 k k0 k4).2 ho, c _ (y_leads_p hp ho.1 ho.2.1).1 h1]
abbrev tnQ (μ : tm_M) : Int → tm_M → Prop := fun r m => r = @ite Int (ex μ (tm_v μ 96)) (Classical.propDecidable _) 1 0 ∧ (r = 0 → m = μ)
theorem pX6_turns (n : Nat) : ∀ {d : Nat} {μ : tm_M} {p u : Int}, tS μ → y_W μ → 0 ≤ p → p + n = tm_v μ 65 20 → n + 3 ≤ d → tin μ p u → cI wX6_turns mX6_turns d [(2, 65), (0, p), (0, u)] μ (tnQ μ) := by
  induction n with
  | zero =>
    intro d μ p u hs hW p0 pn hd hin
    have h0 : ∀ q, y_p μ q → y_p μ (tm_v μ 96 q) := fun q hq => by
      rcases hin.1 q hq with h | h
      · have := hin.2.1 q hq (by have := hq.2; omega); omega
      · exact h
    have hj : ∀ q q', y_p μ q → y_p μ q' → tm_v μ 96 q = tm_v μ 96 q' → q = q' := fun q q' a b => hin.2.2.1 q q' a b (h0 q a).2.1
    have loop : ∀ (n : Nat) (k : Int), 0 ≤ k → k + n = tm_v μ 65 20 → (∀ j, 0 ≤ j → j < k → ft μ (tm_v μ 96) j) → hI wX6_turns μ mX6_turns d (tnQ μ) 10 [(0, 2, 65), (3, 0, k)] [] μ := by
      intro n
      induction n with
      | zero =>
        intro k k0 kn h
        refine uX6_turns_10 (by omega) (tFr.rf hs) ⟨fun c => ⟨?_, fun h => absurd h (by decide)⟩, fun c => by omega⟩
        rw [if_pos ((ex_all h0 hj).mpr (fun q hq => h q hq.2.1 (by have := hq.2; omega)))]
      | succ n ih =>
        intro k k0 kn h
        refine uX6_turns_10 (by omega) (tFr.rf hs) ⟨fun c => by omega, fun c => ?_⟩
        have hk : y_p μ k := ⟨hW, k0, c⟩
        refine tC.I (pX6_fitsTurn (by omega) hs hk (h0 k hk)) ?_
        intro r m fm hr
        have em := fm.same
        subst em
        have k8 := y_p8 hk
        by_cases hf : ft m (tm_v m 96) k
        · rw [if_pos hf] at hr
          refine ⟨fun _ => ?_, fun c => by omega⟩
          rw [w32_id (by omega) (by omega)]
          refine ih (k + 1) (by omega) (by omega) (fun j j0 j1 => ?_)
          by_cases e : j = k
          · rw [e]; exact hf
          · exact h j j0 (by omega)
        · rw [if_neg hf] at hr
          refine ⟨fun c => absurd hr c, fun _ => ⟨?_, fun _ => rfl⟩⟩
          rw [if_neg (fun q => hf ((ex_all h0 hj).mp q k hk))]
    refine t_of (uX6_turns_0 (by omega) (tFr.rf hs) ⟨fun c => by omega, fun _ => loop (tm_v μ 65 20).toNat 0 (by omega) (by have := hW.1; omega) (fun j j0 j1 => by omega)⟩)
  | succ n ih =>
    intro d μ p u hs hW p0 pn hd hin
    have hp : y_p μ p := ⟨hW, p0, by omega⟩
    have p8 := y_p8 hp
    have h20 := hW.1
    obtain ⟨i1, i2, i3, U, hU, eu, hb⟩ := hin
    refine t_of (uX6_turns_0 (by omega) (tFr.rf hs) ⟨fun c => ⟨p8, fun c2 => ?_, fun c2 => ?_⟩, fun c => by omega⟩)
    · have hpn : tm_v μ 96 p = -1 := by
        rcases i1 p hp with h | h
        · exact h
        · have := h.2; omega
      have loop : ∀ (n : Nat) (k : Int), 0 ≤ k → k + n = tm_v μ 65 20 → (∀ j, 0 ≤ j → j < k → ¬ ((y_p μ j ∧ ¬ ∃ q, y_p μ q ∧ tm_v μ 96 q = j) ∧ ex μ (fup (tm_v μ 96) p j))) → hI wX6_turns μ mX6_turns d (tnQ μ) 56 [(0, 2, 65), (1, 0, p), (2, 0, u), (3, 0, k)] [] μ := by
        intro m
        induction m with
        | zero =>
          intro k k0 kn h
          refine uX6_turns_56 (by omega) (tFr.rf hs) ⟨fun c => ⟨?_, fun _ => rfl⟩, fun c => by omega⟩
          rw [if_neg]
          intro hx
          obtain ⟨j, hj1, hj2⟩ := (ex_one hp hpn).mp hx
          exact h j hj1.1.2.1 (by have := hj1.1.2; omega) ⟨hj1, hj2⟩
        | succ m ihm =>
          intro k k0 kn h
          refine uX6_turns_56 (by omega) (tFr.rf hs) ⟨fun c => by omega, fun c => ?_⟩
          have hk : y_p μ k := ⟨hW, k0, c⟩
          have k8 := y_p8 hk
          have nx : ¬ ((y_p μ k ∧ ¬ ∃ q, y_p μ q ∧ tm_v μ 96 q = k) ∧ ex μ (fup (tm_v μ 96) p k)) → hI wX6_turns μ mX6_turns d (tnQ μ) 56 [(0, 2, 65), (1, 0, p), (2, 0, u), (3, 0, w32 (k + 1))] [] μ := by
            intro hn
            rw [w32_id (by omega) (by omega)]
            refine ihm (k + 1) (by omega) (by omega) (fun j j0 j1 => ?_)
            by_cases e : j = k
            · rw [e]; exact hn
            · exact h j j0 (by omega)
          have ebit : i_and (i_shr u k) 1 = ((U / 2 ^ k.toNat % 2 : Nat) : Int) := by
            have := bit_e ⟨U, hU⟩ ⟨k.toNat, by omega⟩
            rw [show ((k.toNat : Nat) : Int) = k by omega] at this
            rw [eu]; exact this
          have eor : i_or u (i_shl 1 k) = ((U ||| 2 ^ k.toNat : Nat) : Int) := by
            have := bit_o ⟨U, hU⟩ ⟨k.toNat, by omega⟩
            rw [show ((k.toNat : Nat) : Int) = k by omega] at this
            rw [eu]; exact this
          rw [ebit]
          refine ⟨fun c3 => ⟨p8, ?_⟩, fun c3 => nx (fun q => q.1.2 ((hb k hk).mp (by omega)))⟩
          have hnu : ¬ ∃ q, y_p μ q ∧ tm_v μ 96 q = k := fun q => c3 (by have := (hb k hk).mpr q; omega)
          rintro _ rfl
          have f1 : tFr wX6_turns μ (tm_w μ 96 p k) := (tFr.rf hs).w (tWs_in _ rfl) (tS_w hs sf_96 _ _)
          have hT : y_T wX6_turns := tWs_T rfl
          have ep := fun q => y_p_F f1 hT q
          have back : tm_w (tm_w μ 96 p k) 96 p (-1) = μ := by
            rw [tm_ww, ← hpn, tm_wv]
          have ek : tm_v (tm_w μ 96 p k) 96 p = k := by simp [tm_vw]
          have ef : tm_v (tm_w μ 96 p k) 96 = fup (tm_v μ 96) p k := vw_fup _ _ _ _
          have eft : ft (tm_w μ 96 p k) (tm_v (tm_w μ 96 p k) 96) p ↔ ft μ (fup (tm_v μ 96) p k) p := by
            rw [ef]
            unfold ft ftk
            simp only [y_t70 f1 hT, y_open_F f1 hT, y_leads_F f1 hT]
          refine tC.I (pX6_fitsTurn (by omega) f1.S ((ep p).mpr hp) (by rw [ek]; exact (ep k).mpr hk)) ?_
          intro r m2 fm hr
          have em := fm.same
          subst em
          refine ⟨fun c4 => ?_, fun c4 => ?_⟩
          · rintro _ rfl
            rw [back]
            refine nx (fun q => ?_)
            have := ex_ft q.2 hp (by unfold fup; rw [if_pos rfl]; exact k0)
            rw [if_pos (eft.mpr this)] at hr
            omega
          · have e20 : tm_v (tm_w μ 96 p k) 65 20 = tm_v μ 65 20 := y_f20 f1 hT
            rw [w32_id (x := p + 1) (by omega) (by omega)]
            refine tC.I (ih f1.S ((y_W_F f1 hT).mpr hW) (by omega) (by rw [e20]; omega) (by omega) ?_) ?_
            · unfold tin
              simp only [ep, ef]
              have up : fup (tm_v μ 96) p k p = k := by unfold fup; rw [if_pos rfl]
              have un : ∀ q, q ≠ p → fup (tm_v μ 96) p k q = tm_v μ 96 q := fun q h => by unfold fup; rw [if_neg h]
              refine ⟨fun q hq => ?_, fun q hq hl => ?_, fun q q' hq hq' h0 he => ?_, U ||| 2 ^ k.toNat, bit_n ⟨U, hU⟩ ⟨k.toNat, by omega⟩, eor, fun j hj => ?_⟩
              · by_cases e : q = p
                · rw [e, up]; exact Or.inr hk
                · rw [un q e]; exact i1 q hq
              · by_cases e : q = p
                · rw [e, up]; exact k0
                · rw [un q e]; exact i2 q hq (by omega)
              · by_cases e : q = p
                · by_cases e' : q' = p
                  · rw [e, e']
                  · rw [e, up, un q' e'] at he
                    exact absurd ⟨q', hq', he.symm⟩ hnu
                · by_cases e' : q' = p
                  · rw [e', up, un q e] at he
                    exact absurd ⟨q, hq, he⟩ hnu
                  · rw [un q e] at h0 he
                    rw [un q' e'] at he
                    exact i3 q q' hq hq' h0 he
              · have j8 := y_p8 hj
                have := bit_x ⟨U, hU⟩ ⟨k.toNat, by omega⟩ ⟨j.toNat, by omega⟩
                dsimp only at this
                rw [this, hb j hj]
                constructor
                · rintro (⟨q, hq, h⟩ | h)
                  · refine ⟨q, hq, ?_⟩
                    by_cases e : q = p
                    · rw [e, hpn] at h; omega
                    · rw [un q e]; exact h
                  · exact ⟨p, hp, by rw [up]; omega⟩
                · rintro ⟨q, hq, h⟩
                  by_cases e : q = p
                  · right; rw [e, up] at h; omega
                  · left; exact ⟨q, hq, by rw [un q e] at h; exact h⟩
            · intro r2 m3 fm3 hr2
              obtain ⟨hr2, hr3⟩ := hr2
              rw [ef] at hr2
              by_cases hx : ex μ (fup (tm_v μ 96) p k)
              · rw [if_pos ((ex_F f1 hT _).mpr hx)] at hr2
                refine ⟨fun c5 => by omega, fun _ => ⟨?_, fun h => absurd h (by decide)⟩⟩
                rw [if_pos ((ex_one hp hpn).mpr ⟨k, ⟨hk, hnu⟩, hx⟩)]
              · rw [if_neg (fun q => hx ((ex_F f1 hT _).mp q))] at hr2
                refine ⟨fun c5 => ?_, fun c5 => absurd hr2 c5⟩
                rintro _ rfl
                rw [hr3 c5, back]
                exact nx (fun q => hx q.2)
      exact loop (tm_v μ 65 20).toNat 0 (by omega) (by omega) (fun j j0 j1 => by omega)
    · rw [w32_id (x := p + 1) (by omega) (by omega)]
      refine tC.I (ih hs hW (by omega) (by omega) (by omega) ⟨i1, fun q hq hl => ?_, i3, U, hU, eu, hb⟩) ?_
      · by_cases e : q = p
        · rw [e]; exact c2
        · exact i2 q hq (by omega)
      · intro r m fm hr
        exact ⟨by rw [hr.1]; split <;> omega, hr⟩
/-- the town can be turned so that a and b change -/
def tnd (μ : tm_M) (a b : Int) : Prop := ∃ π : Int → Int, (∀ q, y_p μ q → y_p μ (π q)) ∧ (∀ q q', y_p μ q → y_p μ q' → π q = π q' → q = q') ∧ (π a = b ∧ π b = a) ∧ ∀ q, y_p μ q → ftE μ π q
noncomputable def r_parted (μ : tm_M) (a b w : Int) : Int × Int := if ¬ (0 ≤ a ∧ a < tm_v μ 65 20) ∨ ¬ (0 ≤ b ∧ b < tm_v μ 65 20) ∨ a = b then (-1, 2) else if ¬ (0 ≤ w ∧ w ≤ 1) then (-1, 5) else if w = 0 then (@ite Int (prt μ a b) (Classical.propDecidable _) 1 0, 0) else (@ite Int (tnd μ a b) (Classical.propDecidable _) 1 0, 0)
theorem prt_F {a b : Int} (hs : tFr W μ0 μ) (hw : y_T W) : prt μ a b ↔ prt μ0 a b := by
  have e : y_met μ = y_met μ0 := by funext a b c d; unfold y_met; rw [y_f28 hs hw]
  unfold prt saf
  simp only [e, y_go_F hs hw]
theorem pX6_parted {a b w : Int} (hd : 12 ≤ d) (hs : tS μ) (hW : y_W μ) : cI wX6_parted mX6_parted d [(2, 65), (0, a), (0, b), (0, w)] μ (fun r m => (r, tm_v m 65 0) = r_parted μ a b w) := by
  have h20 := hW.1
  have f2 : tFr wX6_parted μ (tm_w (tm_w μ 65 1 0) 65 0 0) := fr_st (tFr.rf hs) (tWs_inF rfl) (tWs_inF rfl) 0
  have hT : y_T wX6_parted := tWs_T rfl
  refine t_of (uX6_parted_0 (by omega) (tFr.rf hs) ?_)
  rintro _ rfl _ rfl
  unfold r_parted
  refine ⟨hW, fun c => ?_, fun ca => ⟨fun c => ?_, fun cb => ⟨fun cn => ⟨fun cw => ⟨fun c0 => ?_, fun c0 => ?_⟩, fun cw => ?_⟩, fun c => ?_⟩⟩⟩
  · rintro _ rfl
    rw [if_pos (Or.inl c)]; rfl
  · rintro _ rfl
    rw [if_pos (Or.inr (Or.inl c))]; rfl
  · have ha : y_p μ a := ⟨hW, ca⟩
    have hb : y_p μ b := ⟨hW, cb⟩
    have a8 := y_p8 ha
    have b8 := y_p8 hb
    rw [if_neg (by omega), if_neg (by omega), if_neg c0]
    have loop : ∀ (n : Nat) (k : Int) (m : tm_M), 0 ≤ k → k + n = tm_v μ 65 20 → tFr wX6_parted μ m → tm_v m 65 0 = 0 → (∀ j, 0 ≤ j → j < k → tm_v m 96 j = -1) → hI wX6_parted μ mX6_parted d (fun r m => (r, tm_v m 65 0) = (@ite Int (tnd μ a b) (Classical.propDecidable _) 1 0, 0)) 75 [(0, 2, 65), (1, 0, a), (2, 0, b), (4, 0, k)] [] m := by
      intro n
      induction n with
      | zero =>
        intro k m k0 kn hm h0 h
        refine uX6_parted_75 (by omega) hm ⟨fun c => ⟨a8, ?_⟩, fun c => by omega⟩
        rintro _ rfl
        refine ⟨b8, ?_⟩
        rintro _ rfl
        have g : tFr wX6_parted μ (tm_w (tm_w m 96 a b) 96 b a) := (hm.w (tWs_in _ rfl) (tS_w hm.S sf_96 _ _)).w (tWs_in _ rfl) (tS_w (tS_w hm.S sf_96 _ _) sf_96 _ _)
        have ep := fun q => y_p_F g hT q
        have ev : ∀ i, tm_v (tm_w (tm_w m 96 a b) 96 b a) 96 i = if i = b then a else if i = a then b else tm_v m 96 i := by intro i; simp [tm_vw]
        have va : tm_v (tm_w (tm_w m 96 a b) 96 b a) 96 a = b := by rw [ev, if_neg cn, if_pos rfl]
        have vb : tm_v (tm_w (tm_w m 96 a b) 96 b a) 96 b = a := by rw [ev, if_pos rfl]
        have vo : ∀ q, y_p μ q → q ≠ a → q ≠ b → tm_v (tm_w (tm_w m 96 a b) 96 b a) 96 q = -1 := by
          intro q hq h1 h2
          rw [ev, if_neg h2, if_neg h1]
          exact h q hq.2.1 (by have := hq.2; omega)
        have e20 := y_f20 g hT
        have eor : i_or (i_shl 1 a) (i_shl 1 b) = ((2 ^ a.toNat ||| 2 ^ b.toNat : Nat) : Int) := by
          have h1 := bit_s ⟨a.toNat, by omega⟩
          have h2 := bit_o ⟨2 ^ a.toNat, bit_p ⟨a.toNat, by omega⟩⟩ ⟨b.toNat, by omega⟩
          dsimp only at h1 h2
          rw [show ((a.toNat : Nat) : Int) = a by omega] at h1
          rw [show ((b.toNat : Nat) : Int) = b by omega] at h2
          rw [h1, h2]
        refine tC.I (pX6_turns (tm_v μ 65 20).toNat g.S ((y_W_F g hT).mpr hW) (by omega) (by rw [e20]; omega) (by omega) ?_) ?_
        · refine ⟨fun q hq => ?_, fun q hq hl => ?_, fun q q' hq hq' hz he => ?_, 2 ^ a.toNat ||| 2 ^ b.toNat, bit_n ⟨2 ^ a.toNat, bit_p ⟨a.toNat, by omega⟩⟩ ⟨b.toNat, by omega⟩, eor, fun j hj => ?_⟩
          · by_cases e1 : q = a
            · rw [e1, va]; exact Or.inr ((ep b).mpr hb)
            · by_cases e2 : q = b
              · rw [e2, vb]; exact Or.inr ((ep a).mpr ha)
              · exact Or.inl (vo q ((ep q).mp hq) e1 e2)
          · have := hq.2; omega
          · have cs : ∀ q, y_p μ q → 0 ≤ tm_v (tm_w (tm_w m 96 a b) 96 b a) 96 q → (q = a ∧ tm_v (tm_w (tm_w m 96 a b) 96 b a) 96 q = b) ∨ (q = b ∧ tm_v (tm_w (tm_w m 96 a b) 96 b a) 96 q = a) := by
              intro q hq h0
              by_cases e1 : q = a
              · left; rw [e1]; exact ⟨rfl, va⟩
              · by_cases e2 : q = b
                · right; rw [e2]; exact ⟨rfl, vb⟩
                · have := vo q hq e1 e2; omega
            have h1 := cs q ((ep q).mp hq) hz
            have h2 := cs q' ((ep q').mp hq') (by omega)
            omega
          · have hj' := (ep j).mp hj
            have j8 := y_p8 hj'
            have h1 := bit_x ⟨2 ^ a.toNat, bit_p ⟨a.toNat, by omega⟩⟩ ⟨b.toNat, by omega⟩ ⟨j.toNat, by omega⟩
            have h2 := bit_2 ⟨a.toNat, by omega⟩ ⟨j.toNat, by omega⟩
            dsimp only at h1 h2
            rw [h1, h2]
            constructor
            · rintro (h | h)
              · exact ⟨b, (ep b).mpr hb, by rw [vb]; omega⟩
              · exact ⟨a, (ep a).mpr ha, by rw [va]; omega⟩
            · rintro ⟨q, hq, h⟩
              by_cases e1 : q = a
              · rw [e1, va] at h; right; omega
              · by_cases e2 : q = b
                · rw [e2, vb] at h; left; omega
                · have := vo q ((ep q).mp hq) e1 e2; omega
        · intro r m2 fm hr
          have es : tm_v m2 65 0 = 0 := by
            rw [fm.v (tWs_noF rfl)]
            rw [tm_vw, if_neg (by omega), tm_vw, if_neg (by omega)]; exact h0
          have hx : ex (tm_w (tm_w m 96 a b) 96 b a) (tm_v (tm_w (tm_w m 96 a b) 96 b a) 96) ↔ tnd μ a b := by
            rw [ex_F g hT]
            unfold ex tnd
            constructor
            · rintro ⟨π, h1, h2, h3, h4⟩
              exact ⟨π, h1, h2, ⟨by rw [h3 a ha (by rw [va]; exact b8.1), va], by rw [h3 b hb (by rw [vb]; exact a8.1), vb]⟩, h4⟩
            · rintro ⟨π, h1, h2, h3, h4⟩
              refine ⟨π, h1, h2, fun q hq hz => ?_, h4⟩
              by_cases e1 : q = a
              · rw [e1, va]; exact h3.1
              · by_cases e2 : q = b
                · rw [e2, vb]; exact h3.2
                · have := vo q hq e1 e2; omega
          have hr1 := hr.1
          by_cases ht : tnd μ a b
          · rw [if_pos (hx.mpr ht)] at hr1
            refine ⟨fun c => by omega, fun _ => ?_⟩
            rw [if_pos ht, es]
          · rw [if_neg (fun q => ht (hx.mp q))] at hr1
            refine ⟨fun _ => ?_, fun c => by omega⟩
            rw [if_neg ht, es]
      | succ n ih =>
        intro k m k0 kn hm h0 h
        refine uX6_parted_75 (by omega) hm ⟨fun c => by omega, fun c => ⟨by omega, ?_⟩⟩
        rintro _ rfl
        rw [w32_id (by omega) (by omega)]
        refine ih (k + 1) _ (by omega) (by omega) (hm.w (tWs_in _ rfl) (tS_w hm.S sf_96 _ _)) (by rw [tm_vw, if_neg (by omega)]; exact h0) (fun j j0 j1 => ?_)
        rw [tm_vw]
        by_cases e : j = k
        · rw [if_pos ⟨rfl, e⟩]
        · rw [if_neg (fun q => e q.2)]; exact h j j0 (by omega)
    exact loop (tm_v μ 65 20).toNat 0 _ (by omega) (by omega) f2 (by simp [tm_vw]) (fun j j0 j1 => by omega)
  · have ha : y_p μ a := ⟨hW, ca⟩
    have hb : y_p μ b := ⟨hW, cb⟩
    rw [if_neg (by omega), if_neg (by omega), if_pos c0]
    refine tC.I (pX6_isBrought (by omega) f2.S ((y_p_F f2 hT a).mpr ha) ((y_p_F f2 hT b).mpr hb)) ?_
    intro r m fm hr
    have es : tm_v m 65 0 = 0 := by rw [fm.v (tWs_noF rfl)]; simp [tm_vw]
    by_cases h : prt μ a b
    · rw [if_pos ((prt_F f2 hT).mpr h)] at hr
      refine ⟨fun _ => ?_, fun c => by omega⟩
      rw [if_pos h, es]
    · rw [if_neg (fun q => h ((prt_F f2 hT).mp q))] at hr
      refine ⟨fun c => by omega, fun _ => ?_⟩
      rw [if_neg h, es]
  · rintro _ rfl
    rw [if_neg (by omega), if_pos cw]; rfl
  · rintro _ rfl
    rw [if_pos (Or.inr (Or.inr c))]; rfl
end C6Q
