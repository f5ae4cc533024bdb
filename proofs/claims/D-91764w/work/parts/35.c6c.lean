/-! CONTRACTS of the model, third row -/
/-- the first k of so many from k0 on; or a default -/
def fdn (c : Int → Prop) [∀ k, Decidable (c k)] (dflt : Int) : Nat → Int → Int
  | 0, _ => dflt
  | n + 1, k => if c k then k else fdn c dflt n (k + 1)
section C6C
variable {d : Nat} {μ : tm_M}
theorem pX6_go {p s : Int} (hd : 2 ≤ d) (hs : tS μ) (hc : y_p μ p ∧ 0 ≤ s ∧ s ≤ 4) : cI w0 mX6_go d [(2, 65), (0, p), (0, s)] μ (fun r _ => r = y_go μ p s) := by
  refine t_of (uX6_go_0 hd (tFr.rf hs) ?_)
  rw [w32_id (x := s - 1) (by omega) (by omega)]
  exact ⟨hc.1, fun c => by unfold y_go; rw [if_neg c], fun c => by unfold y_go; rw [if_pos c]⟩
theorem pX6_goF {W : Int → Int → Prop} {μ0 : tm_M} {p s : Int} (hd : 2 ≤ d) (hs : tFr W μ0 μ) (hw : y_T W) (hc : y_p μ0 p ∧ 0 ≤ s ∧ s ≤ 4) : cI w0 mX6_go d [(2, 65), (0, p), (0, s)] μ (fun r _ => r = y_go μ0 p s) := by rw [← y_go_F hs hw]; exact pX6_go hd hs.S ⟨(y_p_F hs hw p).mpr hc.1, hc.2⟩
def y_goesBy (μ : tm_M) (p l : Int) : Int := if tm_v μ 80 l = 0 then y_over μ l p else p
theorem pX6_goesBy {p l : Int} (hd : 1 ≤ d) (hs : tS μ) (hc : 0 ≤ l ∧ l < 12) : cI w0 mX6_goesBy d [(2, 65), (0, p), (0, l)] μ (fun r _ => r = y_goesBy μ p l) :=
  t_of (uX6_goesBy_0 hd (tFr.rf hs) ⟨hc, fun c => ⟨hc, by unfold y_goesBy; rw [if_pos c]⟩, fun c => by unfold y_goesBy; rw [if_neg c]⟩)
theorem pX6_goesByF {W : Int → Int → Prop} {μ0 : tm_M} {p l : Int} (hd : 1 ≤ d) (hs : tFr W μ0 μ) (hw : y_T W) (hc : 0 ≤ l ∧ l < 12) : cI w0 mX6_goesBy d [(2, 65), (0, p), (0, l)] μ (fun r _ => r = y_goesBy μ0 p l) := by
  have e : y_goesBy μ p l = y_goesBy μ0 p l := by unfold y_goesBy; rw [y_t80 hs hw, y_over_F hs hw]
  rw [← e]
  exact pX6_goesBy hd hs.S hc
/-- a place's neighbour is a place -/
theorem y_leads_p {p k : Int} (hp : y_p μ p) (h0 : 0 ≤ k) (hk : k < tm_v μ 72 p) : y_p μ (y_leads μ p k) ∧ y_leads μ p k ≠ p := by
  have h1 := (hp.1.2.2.1 p hp.2.1 hp.2.2).2.2.2.2 k h0 hk
  have h2 := hp.1.2.2.2.1 _ h1.1.1 h1.1.2
  unfold y_leads
  rw [if_pos ⟨h0, hk⟩]
  unfold y_over
  split
  · exact ⟨⟨hp.1, by omega, by omega⟩, by omega⟩
  · exact ⟨⟨hp.1, by omega, by omega⟩, by omega⟩
theorem y_go_p {p s : Int} (hp : y_p μ p) : y_p μ (y_go μ p s) := by
  unfold y_go
  split
  · rename_i h
    exact (y_leads_p hp h.1 h.2.1).1
  · exact hp
/-- the first open lane that leads nearer, by the distances F -/
def y_near (μ : tm_M) (F : Int → Int) (p : Int) : Int :=
  fdn (fun k => (0 ≤ k ∧ k < tm_v μ 72 p ∧ tm_v μ 80 (tm_v μ 74 (4 * p + k)) = 0) ∧ F (y_leads μ p k) < F p) (-1) (tm_v μ 72 p).toNat 0
def y_nearer (μ : tm_M) (F : Int → Int) (p : Int) : Int := if y_near μ F p < 0 then p else y_leads μ p (y_near μ F p)
theorem pX6_nearer {p : Int} (hd : 2 ≤ d) (hs : tS μ) (hc : y_p μ p) : cI w0 mX6_nearer d [(2, 65), (0, p)] μ (fun r _ => r = y_nearer μ (tm_v μ 89) p) := by
  have h8 := y_p8 hc
  have hg := (hc.1.2.2.1 p hc.2.1 hc.2.2).1
  have loop : ∀ (n : Nat) (k : Int), 0 ≤ k → k + n = tm_v μ 72 p → fdn (fun k => (0 ≤ k ∧ k < tm_v μ 72 p ∧ tm_v μ 80 (tm_v μ 74 (4 * p + k)) = 0) ∧ tm_v μ 89 (y_leads μ p k) < tm_v μ 89 p) (-1) n k = y_near μ (tm_v μ 89) p → hI wX6_nearer μ mX6_nearer d (fun r _ => r = y_nearer μ (tm_v μ 89) p) 2 [(0, 2, 65), (1, 0, p), (2, 0, k)] [] μ := by
    intro n
    induction n with
    | zero =>
      intro k h0 hk he
      refine uX6_nearer_2 hd (tFr.rf hs) ⟨h8, fun c => ?_, fun c => by omega⟩
      unfold y_nearer
      rw [← he]
      rfl
    | succ n ih =>
      intro k h0 hk he
      have e1 : w32 (k + 1) = k + 1 := w32_id (by omega) (by omega)
      have hl := y_leads_p hc h0 (by omega)
      refine uX6_nearer_2 hd (tFr.rf hs) ⟨h8, fun c => by omega, fun c => ⟨hc, fun c2 => ?_, fun c2 => ⟨y_p8 hl.1, fun c3 => ?_, fun c3 => ?_⟩⟩⟩
      · rw [e1]
        refine ih (k + 1) (by omega) (by omega) ?_
        rw [fdn, if_neg (fun q => c2 q.1)] at he
        exact he
      · rw [e1]
        refine ih (k + 1) (by omega) (by omega) ?_
        rw [fdn, if_neg (fun q => by omega)] at he
        exact he
      · rw [fdn, if_pos ⟨c2, c3⟩] at he
        show _ = y_nearer μ (tm_v μ 89) p
        unfold y_nearer
        rw [← he, if_neg (by omega)]
  refine t_of (uX6_nearer_0 (tFr.rf hs) (loop (tm_v μ 72 p).toNat 0 (by omega) (by omega) rfl))
theorem y_near_F {W : Int → Int → Prop} {μ0 : tm_M} (hs : tFr W μ0 μ) (hw : y_T W) (F : Int → Int) (p : Int) : y_nearer μ F p = y_nearer μ0 F p := by
  unfold y_nearer y_near
  simp only [y_t72 hs hw, y_t80 hs hw, y_t74 hs hw, y_leads_F hs hw]
theorem pX6_nearerF {W : Int → Int → Prop} {μ0 : tm_M} {p : Int} (hd : 2 ≤ d) (hs : tFr W μ0 μ) (hw : y_T W) (hc : y_p μ0 p) : cI w0 mX6_nearer d [(2, 65), (0, p)] μ (fun r _ => r = y_nearer μ0 (tm_v μ 89) p) := by
  rw [← y_near_F hs hw]; exact pX6_nearer hd hs.S ((y_p_F hs hw p).mpr hc)
theorem pX6_begin {who p : Int} (hc : 0 ≤ who ∧ who < 3) (hs : tS μ) : cV wX6_begin mX6_begin d [(2, 65), (0, who), (0, p)] μ (fun μ' => μ' = tm_w (tm_w (tm_w μ 85 who p) 86 who 0) 87 who 0) :=
  t_of (uX6_begin_0 (tFr.rf hs) ⟨hc, by rintro _ rfl _ rfl _ rfl; rfl⟩)
/-- the token is a name -/
abbrev y_isName (μ : tm_M) : Prop := tm_v μ 65 14 = 1 ∧ tm_v μ 65 18 ≤ 8 ∧ tm_v μ 65 19 ≠ 627891 ∧ tm_v μ 65 19 ≠ 6605428 ∧ tm_v μ 65 19 ≠ 642891204 ∧ tm_v μ 65 19 ≠ 17171557 ∧ tm_v μ 65 19 ≠ 394693 ∧ tm_v μ 65 19 ≠ 655 ∧ tm_v μ 65 19 ≠ 3751539 ∧ tm_v μ 65 19 ≠ 635383 ∧ tm_v μ 65 19 ≠ 8554067
theorem y_feature_neg : y_feature μ < 0 ↔ ¬ (tm_v μ 65 14 = 1 ∧ tm_v μ 65 19 = 627891) ∧ ¬ (tm_v μ 65 14 = 1 ∧ tm_v μ 65 19 = 6605428) ∧ ¬ (tm_v μ 65 14 = 1 ∧ tm_v μ 65 19 = 642891204) := by
  unfold y_feature
  split
  · simp_all
  · split
    · simp_all
    · split <;> simp_all
theorem pX6_isName (hd : 3 ≤ d) (hs : tS μ) : cI w0 mX6_isName d [(2, 65)] μ (fun r _ => r = b2i (tm_v μ 65 14 = 1 ∧ tm_v μ 65 18 ≤ 8 ∧ tm_v μ 65 19 ≠ 627891 ∧ tm_v μ 65 19 ≠ 6605428 ∧ tm_v μ 65 19 ≠ 642891204 ∧ tm_v μ 65 19 ≠ 17171557 ∧ tm_v μ 65 19 ≠ 394693 ∧ tm_v μ 65 19 ≠ 655 ∧ tm_v μ 65 19 ≠ 3751539 ∧ tm_v μ 65 19 ≠ 635383 ∧ tm_v μ 65 19 ≠ 8554067)) := by
  have hf := y_feature_neg (μ := μ)
  refine t_of (uX6_isName_0 hd (tFr.rf hs) ?_)
  refine ⟨fun c => (b2i_f (by omega)).symm, fun c => ⟨fun c2 => (b2i_f (by omega)).symm, fun c2 => ⟨fun c3 => (b2i_f (by omega)).symm, fun c3 => ⟨fun c4 => (b2i_f (by omega)).symm, fun c4 => ⟨fun c5 => (b2i_f (by omega)).symm, fun c5 => ⟨fun c6 => (b2i_f (by omega)).symm, fun c6 => ⟨fun c7 => (b2i_f (by omega)).symm, fun c7 => ⟨fun c8 => (b2i_f (by omega)).symm, fun c8 => ⟨fun c9 => (b2i_f (by omega)).symm, fun c9 => (b2i_t (by omega)).symm⟩⟩⟩⟩⟩⟩⟩⟩⟩
/-- the place of that name -/
def y_named (μ : tm_M) : Int := fdn (fun p => tm_v μ 81 p = tm_v μ 65 19) (-1) (tm_v μ 65 22).toNat 0
theorem pX6_named (hs : tS μ) (hc : 0 ≤ tm_v μ 65 22 ∧ tm_v μ 65 22 ≤ 8) : cI w0 mX6_named d [(2, 65)] μ (fun r _ => r = y_named μ) := by
  have loop : ∀ (n : Nat) (k : Int), 0 ≤ k → k + n = tm_v μ 65 22 → fdn (fun p => tm_v μ 81 p = tm_v μ 65 19) (-1) n k = y_named μ → hI wX6_named μ mX6_named d (fun r _ => r = y_named μ) 2 [(0, 2, 65), (1, 0, k)] [] μ := by
    intro n
    induction n with
    | zero =>
      intro k h0 hk he
      exact uX6_named_2 (tFr.rf hs) ⟨fun c => he, fun c => by omega⟩
    | succ n ih =>
      intro k h0 hk he
      refine uX6_named_2 (tFr.rf hs) ⟨fun c => by omega, fun c => ⟨by omega, fun c2 => ?_, fun c2 => ?_⟩⟩
      · rw [w32_id (by omega) (by omega)]
        rw [fdn, if_neg c2] at he
        exact ih (k + 1) (by omega) (by omega) he
      · rw [fdn, if_pos c2] at he
        exact he
  exact t_of (uX6_named_0 (tFr.rf hs) (loop (tm_v μ 65 22).toNat 0 (by omega) (by omega) rfl))
/-- the greatest common divisor -/
theorem pX6_common {a b : Int} (hd : 1 ≤ d) (hs : tS μ) (hc : -9223372036854775808 < a ∧ a ≤ 9223372036854775807 ∧ -9223372036854775808 < b ∧ b ≤ 9223372036854775807) : cL w0 mX6_common d [(1, a), (1, b)] μ (fun r _ => r = (Int.gcd a b : Int)) := by
  have loop : ∀ (n : Nat) (x y : Nat), y ≤ n → Nat.gcd x y = Int.gcd a b → hLo wX6_common μ mX6_common d (fun r _ => r = (Int.gcd a b : Int)) 12 [(4, 1, (x : Int)), (6, 1, (y : Int))] [] μ := by
    intro n
    induction n with
    | zero =>
      intro x y hy hg
      refine uX6_common_12 (tFr.rf hs) ⟨fun c => ?_, fun c => by omega⟩
      have : y = 0 := by omega
      subst this
      rw [Nat.gcd_zero_right] at hg
      rw [← hg]
    | succ n ih =>
      intro x y hy hg
      refine uX6_common_12 (tFr.rf hs) ⟨fun c => ?_, fun c => ⟨c, ?_⟩⟩
      · have : y = 0 := by omega
        subst this
        rw [Nat.gcd_zero_right] at hg
        rw [← hg]
      · rintro x4 rfl
        have e : (x : Int).tmod (y : Int) = ((x % y : Nat) : Int) := rfl
        rw [e]
        have hlt := Nat.mod_lt x (show y > 0 by omega)
        refine ih y (x % y) (by omega) ?_
        rw [← hg, Nat.gcd_comm y, ← Nat.gcd_rec, Nat.gcd_comm]
  refine t_of (uX6_common_0 hd (tFr.rf hs) ?_)
  refine tC.L (pJ8_abs hs ⟨hc.1, hc.2.1⟩) ?_
  rintro r1 μ1 f1 rfl
  rw [f1.same]
  refine tC.L (pJ8_abs hs ⟨hc.2.2.1, hc.2.2.2⟩) ?_
  rintro r2 μ2 f2 rfl
  rw [f2.same]
  exact loop b.natAbs a.natAbs b.natAbs (Nat.le_refl _) rfl
end C6C
