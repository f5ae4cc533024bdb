/-! CONTRACTS of the model, fourth row: what a call answers, and its status -/
theorem tm_ww (μ : tm_M) (a j x y : Int) : tm_w (tm_w μ a j x) a j y = tm_w μ a j y := by
  unfold tm_w
  simp only [Prod.mk.injEq, true_and]
  funext b i
  split <;> rfl
theorem tm_wv (μ : tm_M) (a j : Int) : tm_w μ a j (tm_v μ a j) = μ := by
  have : (fun b i => if b = a ∧ i = j then tm_v μ a j else μ.2.2.2 b i) = μ.2.2.2 := by
    funext b i
    split
    · rename_i h; rw [h.1, h.2]; rfl
    · rfl
  show (μ.1, μ.2.1, μ.2.2.1, _) = μ
  rw [this]
/-- an answer's status -/
def u_st (μ : tm_M) (s : Int) : tm_M := tm_w (tm_w μ 65 1 0) 65 0 s
theorem u_st_w (μ : tm_M) (s t : Int) : tm_w (tm_w (tm_w μ 65 1 0) 65 0 s) 65 0 t = u_st μ t := tm_ww _ _ _ _ _
section C6D
variable {d : Nat} {μ : tm_M}
theorem pX6_status (hs : tS μ) : cI wX6_status mX6_status d [(2, 65)] μ (fun r μ' => r = tm_v μ 65 0 ∧ μ' = tm_w μ 65 1 0) := t_of (uX6_status_0 (tFr.rf hs) (fun _ e => ⟨rfl, e⟩))
theorem pX6_top (hs : tS μ) : cL wX6_top mX6_top d [(2, 65)] μ (fun r μ' => r = tm_v μ 65 2 ∧ μ' = tm_w μ 65 1 0) := t_of (uX6_top_0 (tFr.rf hs) (fun _ e => ⟨rfl, e⟩))
theorem pX6_bottom (hs : tS μ) : cL wX6_bottom mX6_bottom d [(2, 65)] μ (fun r μ' => r = tm_v μ 65 3 ∧ μ' = tm_w μ 65 1 0) := t_of (uX6_bottom_0 (tFr.rf hs) (fun _ e => ⟨rfl, e⟩))
def r_fault (μ : tm_M) (w : Int) : Int := if w = 0 then tm_v μ 65 10 else if w = 1 then tm_v μ 65 11 else -1
theorem pX6_fault {w : Int} (hs : tS μ) : cI wX6_fault mX6_fault d [(2, 65), (0, w)] μ (fun r μ' => r = r_fault μ w ∧ μ' = tm_w μ 65 1 0) := by
  refine t_of (uX6_fault_0 (tFr.rf hs) ?_)
  unfold r_fault
  repeat' (first | with_reducible apply And.intro | (rintro _ rfl) | intro _)
  all_goals simp_all
/-- an answer and its status -/
def r_many (μ : tm_M) (w : Int) : Int × Int := if w = 0 then (tm_v μ 65 20, 0) else if w = 1 then (tm_v μ 65 21, 0) else if w = 2 then (tm_v μ 65 43, 0) else (-1, 5)
theorem pX6_many {w : Int} (hd : 1 ≤ d) (hs : tS μ) : cI wX6_many mX6_many d [(2, 65), (0, w)] μ (fun r μ' => r = (r_many μ w).1 ∧ μ' = u_st μ (r_many μ w).2) := by
  refine t_of (uX6_many_0 hd (tFr.rf hs) ?_)
  rintro _ rfl _ rfl
  unfold r_many
  refine ⟨fun c => ⟨fun c2 => ⟨fun c3 => ?_, fun c3 => ?_⟩, fun c2 => ?_⟩, fun c => ?_⟩
  · rintro _ rfl
    rw [if_neg c, if_neg c2, if_neg c3]
    exact ⟨rfl, u_st_w _ _ _⟩
  · rw [if_neg c, if_neg c2, if_pos c3]; exact ⟨rfl, rfl⟩
  · rw [if_neg c, if_pos c2]; exact ⟨rfl, rfl⟩
  · rw [if_pos c]; exact ⟨rfl, rfl⟩
def r_place (μ : tm_M) (p w : Int) : Int × Int :=
  if ¬ (0 ≤ p ∧ p < tm_v μ 65 20) then (-1, 2) else if ¬ (0 ≤ w ∧ w ≤ 5) then (-1, 5) else if w = 0 then (tm_v μ 70 (3 * p), 0) else if w = 1 then (tm_v μ 72 p, 0) else if w - 2 < tm_v μ 72 p then (y_leads μ p (w - 2), 0) else (-1, 8)
theorem pX6_place {p w : Int} (hd : 2 ≤ d) (hs : tS μ) (hW : y_W μ) : cI wX6_place mX6_place d [(2, 65), (0, p), (0, w)] μ (fun r μ' => r = (r_place μ p w).1 ∧ μ' = u_st μ (r_place μ p w).2) := by
  refine t_of (uX6_place_0 hd (tFr.rf hs) ?_)
  rintro _ rfl _ rfl
  refine ⟨hW, fun c => ?_, fun c => ?_⟩
  · have hp : y_p μ p := ⟨hW, c⟩
    have h8 := y_p8 hp
    have e3 : w32 (3 * p) = 3 * p := w32_id (by omega) (by omega)
    unfold r_place
    rw [if_neg (by omega), e3]
    refine ⟨fun c2 => ?_, fun c2 => ?_⟩
    · have e2 : w32 (w - 2) = w - 2 := w32_id (by omega) (by omega)
      rw [if_neg (by omega), e2]
      refine ⟨fun c3 => ⟨fun c4 => ⟨fun c5 => by omega, fun c5 => ?_⟩, fun c4 => ?_⟩, fun c3 => ⟨h8, fun c4 => ⟨fun c5 => ⟨fun c6 => ?_, fun c6 => by omega⟩, fun c5 => by omega⟩, fun c4 => ?_⟩⟩
      · rw [if_neg c4, if_pos c5]; exact ⟨h8, rfl, rfl⟩
      · rw [if_pos c4]; exact ⟨by omega, rfl, rfl⟩
      · rw [if_neg c5, if_neg c6, if_pos c4]; exact ⟨hp, rfl, rfl⟩
      · rintro _ rfl
        rw [if_neg (by omega), if_neg (by omega), if_neg (by omega)]; exact ⟨rfl, u_st_w _ _ _⟩
    · rintro _ rfl
      rw [if_pos c2]; exact ⟨rfl, u_st_w _ _ _⟩
  · rintro _ rfl
    unfold r_place
    rw [if_pos c]; exact ⟨rfl, u_st_w _ _ _⟩
def r_shut (μ : tm_M) (l x : Int) : Int × tm_M := if 0 ≤ l ∧ l < tm_v μ 65 21 then (1, tm_w (u_st μ 0) 80 l x) else (0, u_st μ 2)
theorem pX6_shut {l x : Int} (hd : 1 ≤ d) (hs : tS μ) (hW : y_W μ) (hx : 0 ≤ x ∧ x ≤ 1) : cI wX6_shut mX6_shut d [(2, 65), (0, l), (0, x)] μ (fun r μ' => r = (r_shut μ l x).1 ∧ μ' = (r_shut μ l x).2) := by
  have h1 := hW.2.1
  refine t_of (uX6_shut_0 hd (tFr.rf hs) ?_)
  rintro _ rfl _ rfl
  rw [w32_id (by omega) (by omega)]
  unfold r_shut
  refine ⟨fun c => ⟨by omega, hx, ?_⟩, fun c => ?_⟩
  · rintro _ rfl
    rw [if_pos (by omega)]; exact ⟨rfl, rfl⟩
  · rintro _ rfl
    rw [if_neg (by omega)]; exact ⟨rfl, u_st_w _ _ _⟩
theorem pX6_marks {x : Int} (hs : tS μ) (hx : 0 ≤ x ∧ x ≤ 1) : cI wX6_marks mX6_marks d [(2, 65), (0, x)] μ (fun r μ' => r = 1 ∧ μ' = tm_w (u_st μ 0) 65 30 x) := by
  refine t_of (uX6_marks_0 (tFr.rf hs) ?_)
  rintro _ rfl _ rfl
  refine ⟨hx, ?_⟩
  rintro _ rfl
  exact ⟨rfl, rfl⟩
def r_step (μ : tm_M) (w k : Int) : Int × Int := if 0 ≤ w ∧ w ≤ 1 then (if 0 ≤ k ∧ k < tm_v μ 65 52 then (tm_v μ 90 (2 * k + w), 0) else (-1, 8)) else (-1, 5)
theorem pX6_step {w k : Int} (hd : 1 ≤ d) (hs : tS μ) (hn : 0 ≤ tm_v μ 65 52 ∧ tm_v μ 65 52 ≤ 3) : cI wX6_step mX6_step d [(2, 65), (0, w), (0, k)] μ (fun r μ' => r = (r_step μ w k).1 ∧ μ' = u_st μ (r_step μ w k).2) := by
  refine t_of (uX6_step_0 hd (tFr.rf hs) ?_)
  rintro _ rfl _ rfl
  rw [w32_id (x := tm_v μ 65 52 - 1) (by omega) (by omega)]
  unfold r_step
  refine ⟨fun c => ⟨fun c2 => ?_, fun c2 => ?_⟩, fun c => ?_⟩
  · rintro _ rfl
    rw [if_pos c, if_neg (by omega)]; exact ⟨rfl, u_st_w _ _ _⟩
  · rw [w32_id (x := 2 * k) (by omega) (by omega), w32_id (by omega) (by omega), if_pos c, if_pos (by omega)]
    exact ⟨by omega, rfl, rfl⟩
  · rintro _ rfl
    rw [if_neg c]; exact ⟨rfl, u_st_w _ _ _⟩
def r_alikeStep (μ : tm_M) (k : Int) : Int × Int := if 0 ≤ k ∧ k < tm_v μ 65 53 then (tm_v μ 91 k, 0) else (-1, 8)
theorem pX6_alikeStep {k : Int} (hd : 1 ≤ d) (hs : tS μ) (hn : 0 ≤ tm_v μ 65 53 ∧ tm_v μ 65 53 ≤ 5) : cI wX6_alikeStep mX6_alikeStep d [(2, 65), (0, k)] μ (fun r μ' => r = (r_alikeStep μ k).1 ∧ μ' = u_st μ (r_alikeStep μ k).2) := by
  refine t_of (uX6_alikeStep_0 hd (tFr.rf hs) ?_)
  rintro _ rfl _ rfl
  rw [w32_id (x := tm_v μ 65 53 - 1) (by omega) (by omega)]
  unfold r_alikeStep
  refine ⟨fun c => ?_, fun c => ?_⟩
  · rintro _ rfl
    rw [if_neg (by omega)]; exact ⟨rfl, u_st_w _ _ _⟩
  · rw [if_pos (by omega)]
    exact ⟨by omega, rfl, rfl⟩
def r_asks (μ : tm_M) (w v n t k : Int) : Int := if ¬ ((0 ≤ w ∧ w < tm_v μ 65 43) ∧ 0 ≤ v ∧ v < tm_v μ 65 43) then 2 else if ¬ ((0 ≤ n ∧ n ≤ 16) ∧ (1 ≤ t ∧ t ≤ 24) ∧ 1 ≤ k ∧ k ≤ 5) then 5 else if y_all μ = 0 then 9 else 0
theorem pX6_asksDrawn {w v n t k : Int} (hd : 2 ≤ d) (hs : tS μ) (hV : y_V μ) (hW : y_W μ) : cI wX6_asksDrawn mX6_asksDrawn d [(2, 65), (0, w), (0, v), (0, n), (0, t), (0, k)] μ (fun r _ => r = r_asks μ w v n t k) := by
  refine t_of (uX6_asksDrawn_0 hd (tFr.rf hs) ⟨hV, ?_⟩)
  unfold r_asks
  refine ⟨fun c => ?_, fun c => ⟨fun c2 => ⟨fun c3 => ?_, fun c3 => ⟨fun c4 => ?_, fun c4 => ⟨fun c5 => ⟨hW, fun c6 => ?_, fun c6 => ?_⟩, fun c5 => ?_⟩⟩⟩, fun c2 => ?_⟩⟩
  · rw [if_pos (by omega)]
  · rw [if_neg (by omega), if_pos (by omega)]
  · rw [if_neg (by omega), if_pos (by omega)]
  · rw [if_neg (by omega), if_neg (by omega), if_neg c6]
  · rw [if_neg (by omega), if_neg (by omega), if_pos c6]
  · rw [if_neg (by omega), if_pos (by omega)]
  · rw [if_pos (by omega)]
/-- the step by a way from where dn steps are done -/
def y_stp (μ : tm_M) (w p dn md : Int) : Int :=
  if 0 < tm_v μ 82 w then (if dn < tm_v μ 82 w ∨ tm_v μ 84 w ≠ 0 then tm_v μ 83 (24 * w + dn % tm_v μ 82 w) else 0) else tm_v μ 83 (24 * w + 6 * md + tm_v μ 70 (3 * p)) % 5
def y_md (μ : tm_M) (w p md : Int) : Int := if 0 < tm_v μ 82 w then md else tm_v μ 83 (24 * w + 6 * md + tm_v μ 70 (3 * p)) / 5
/-- a way's number -/
def y_v (μ : tm_M) (w : Int) : Prop := y_V μ ∧ 0 ≤ w ∧ w < tm_v μ 65 43
theorem y_stp_in {w p dn md : Int} (hw : y_v μ w) (hp : y_p μ p) (hn : 0 ≤ dn) (hm : 0 ≤ md ∧ md ≤ 2) : (0 ≤ y_stp μ w p dn md ∧ y_stp μ w p dn md ≤ 4) ∧ (0 ≤ y_md μ w p md ∧ y_md μ w p md ≤ 2) := by
  have h := hw.1.2 w hw.2.1 hw.2.2
  have h2 := (hp.1.2.2.1 p hp.2.1 hp.2.2).2.1
  unfold y_stp y_md
  by_cases c : 0 < tm_v μ 82 w
  · rw [if_pos c, if_pos c]
    refine ⟨?_, hm⟩
    split
    · have q1 := Int.emod_nonneg dn (show tm_v μ 82 w ≠ 0 by omega)
      have q2 := Int.emod_lt_of_pos dn c
      exact h.2.2.1 _ q1 q2
    · omega
  · rw [if_neg c, if_neg c]
    have q := h.2.2.2 (by omega) (6 * md + tm_v μ 70 (3 * p)) (by omega) (by omega)
    rw [show 24 * w + (6 * md + tm_v μ 70 (3 * p)) = 24 * w + 6 * md + tm_v μ 70 (3 * p) by omega] at q
    omega
theorem pX6_stepOf {w who p : Int} (hs : tS μ) (hw : y_v μ w) (hp : y_p μ p) (hc : 0 ≤ who ∧ who < 3) (hn : 0 ≤ tm_v μ 86 who ∧ tm_v μ 86 who ≤ 1000000) (hm : 0 ≤ tm_v μ 87 who ∧ tm_v μ 87 who ≤ 2) :
    cI wX6_stepOf mX6_stepOf d [(2, 65), (0, w), (0, who), (0, p)] μ (fun r μ' => r = y_stp μ w p (tm_v μ 86 who) (tm_v μ 87 who) ∧ μ' = tm_w (tm_w μ 86 who (tm_v μ 86 who + 1)) 87 who (y_md μ w p (tm_v μ 87 who))) := by
  have h := hw.1.2 w hw.2.1 hw.2.2
  have hv := hw.1.1
  have h2 := (hp.1.2.2.1 p hp.2.1 hp.2.2).2.1
  have h8 := y_p8 hp
  have e1 : w32 (tm_v μ 86 who + 1) = tm_v μ 86 who + 1 := w32_id (by omega) (by omega)
  have e2 : w32 (24 * w) = 24 * w := w32_id (by have := hw.2; omega) (by have := hw.2; omega)
  have e3 : w32 (3 * p) = 3 * p := w32_id (by omega) (by omega)
  refine t_of (uX6_stepOf_0 (tFr.rf hs) ⟨hc, ?_⟩)
  rintro _ rfl _ rfl
  have e87 : tm_v (tm_w μ 86 who (w32 (tm_v μ 86 who + 1))) 87 who = tm_v μ 87 who := by rw [tm_vw, if_neg (by omega)]
  have hmod : 0 < tm_v μ 82 w → 0 ≤ tm_v μ 86 who % tm_v μ 82 w ∧ tm_v μ 86 who % tm_v μ 82 w < tm_v μ 82 w := fun c => ⟨Int.emod_nonneg _ (by omega), Int.emod_lt_of_pos _ c⟩
  rw [e87, e1, e2, e3]
  have keep : ∀ c : 0 < tm_v μ 82 w, tm_w μ 86 who (tm_v μ 86 who + 1) = tm_w (tm_w μ 86 who (tm_v μ 86 who + 1)) 87 who (y_md μ w p (tm_v μ 87 who)) := by
    intro c
    have : y_md μ w p (tm_v μ 87 who) = tm_v (tm_w μ 86 who (tm_v μ 86 who + 1)) 87 who := by unfold y_md; rw [if_pos c, tm_vw, if_neg (by omega)]
    rw [this, tm_wv]
  refine ⟨by have := hw.2; omega, fun c => ⟨by omega, ?_⟩, fun c => ?_⟩
  · have e4 : w32 (6 * tm_v μ 87 who) = 6 * tm_v μ 87 who := w32_id (by omega) (by omega)
    rw [e4, w32_id (x := 24 * w + 6 * tm_v μ 87 who) (by have := hw.2; omega) (by have := hw.2; omega), w32_id (x := 24 * w + 6 * tm_v μ 87 who + tm_v μ 70 (3 * p)) (by have := hw.2; omega) (by have := hw.2; omega)]
    have q := h.2.2.2 (by omega) (6 * tm_v μ 87 who + tm_v μ 70 (3 * p)) (by omega) (by omega)
    rw [show 24 * w + (6 * tm_v μ 87 who + tm_v μ 70 (3 * p)) = 24 * w + 6 * tm_v μ 87 who + tm_v μ 70 (3 * p) by omega] at q
    refine ⟨by have := hw.2; omega, ?_⟩
    rintro _ rfl _ rfl
    have t1 : (tm_v μ 83 (24 * w + 6 * tm_v μ 87 who + tm_v μ 70 (3 * p))).tdiv 5 = tm_v μ 83 (24 * w + 6 * tm_v μ 87 who + tm_v μ 70 (3 * p)) / 5 := Int.tdiv_eq_ediv_of_nonneg q.1
    have t2 : (tm_v μ 83 (24 * w + 6 * tm_v μ 87 who + tm_v μ 70 (3 * p))).tmod 5 = tm_v μ 83 (24 * w + 6 * tm_v μ 87 who + tm_v μ 70 (3 * p)) % 5 := Int.tmod_eq_emod_of_nonneg q.1
    rw [t1, t2, w32_id (by omega) (by omega)]
    unfold y_stp y_md
    rw [if_neg (by omega), if_neg (by omega)]
    exact ⟨rfl, rfl⟩
  · have t2 : (tm_v μ 86 who).tmod (tm_v μ 82 w) = tm_v μ 86 who % tm_v μ 82 w := Int.tmod_eq_emod_of_nonneg hn.1
    have hq := hmod c
    have e5 : w32 (24 * w + tm_v μ 86 who % tm_v μ 82 w) = 24 * w + tm_v μ 86 who % tm_v μ 82 w := w32_id (by have := hw.2; omega) (by have := hw.2; omega)
    rw [t2, e5]
    refine ⟨fun c2 => ⟨by omega, by have := hw.2; omega, ?_, keep c⟩, fun c2 => ⟨fun c3 => ⟨?_, keep c⟩, fun c3 => ⟨by omega, by have := hw.2; omega, ?_, keep c⟩⟩⟩
    · unfold y_stp; rw [if_pos c, if_pos (Or.inl c2)]
    · unfold y_stp; rw [if_pos c, if_neg (by omega)]
    · unfold y_stp; rw [if_pos c, if_pos (Or.inr c3)]
end C6D
