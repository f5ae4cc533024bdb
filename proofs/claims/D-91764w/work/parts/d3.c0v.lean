/-! CONTRACTS of the component: three who hold on -/
section C0V
variable {d : Nat} {μ μ0 ν : tm_M} {W : Int → Int → Prop} {x y z b : Int}
def led1 (m : tm_M) : Int := if tm_v m 7 1 = tm_v m 8 1 then 0 else 1
def led2 (m : tm_M) : Int := if tm_v m 7 1 = tm_v m 9 1 then 0 else if tm_v m 8 1 = tm_v m 9 1 then 1 else 2
theorem pX0_holds (hs : tS μ) : cI (tWs [51] []) mX0_holds d [(2, 1)] μ (fun r m => (r ≠ 0 ↔ (tm_v μ 7 1 = tm_v μ 8 1 ∧ tm_v μ 7 1 = tm_v μ 9 1)) ∧ tm_v m 51 0 = 0 ∧ tm_v m 51 1 = led1 μ ∧ tm_v m 51 2 = led2 μ) := by
  have w51 : ∀ {m : tm_M} {j q : Int}, tFr (tWs [51] []) μ m → tFr (tWs [51] []) μ (tm_w m 51 j q) := fun h => h.w (tWs_in _ rfl) (tS_w h.S sf_51 _ _)
  have fin : ∀ m, tFr (tWs [51] []) μ m → tm_v m 51 0 = 0 → tm_v m 51 1 = led1 μ → tm_v m 51 2 = led2 μ → hI (tWs [51] []) μ mX0_holds d (fun r m => (r ≠ 0 ↔ (tm_v μ 7 1 = tm_v μ 8 1 ∧ tm_v μ 7 1 = tm_v μ 9 1)) ∧ tm_v m 51 0 = 0 ∧ tm_v m 51 1 = led1 μ ∧ tm_v m 51 2 = led2 μ) 2 [(0, 2, 1), (1, 0, 3)] [] m := by
    intro m hm h0 h1 h2
    refine uX0_holds_2 hm ⟨fun _ => ⟨fun c => ⟨?_, h0, h1, h2⟩, fun c => ⟨fun c2 => ⟨?_, h0, h1, h2⟩, fun c2 => ⟨?_, h0, h1, h2⟩⟩⟩, fun c => absurd c (by decide)⟩
    · rw [h1] at c
      unfold led1 at c
      refine ⟨fun q => absurd rfl q, fun q => ?_⟩
      rw [if_pos q.1] at c
      exact absurd rfl c
    · rw [h2] at c2
      unfold led2 at c2
      refine ⟨fun q => absurd rfl q, fun q => ?_⟩
      rw [if_pos q.2] at c2
      exact absurd rfl c2
    · rw [h1] at c
      rw [h2] at c2
      unfold led1 at c
      unfold led2 at c2
      refine ⟨fun _ => ⟨?_, ?_⟩, fun _ => by decide⟩
      · split at c
        · assumption
        · omega
      · split at c2
        · assumption
        · split at c2 <;> omega
  -- the third one
  have third : ∀ m, tFr (tWs [51] []) μ m → tm_v m 51 0 = 0 → tm_v m 51 1 = led1 μ → hI (tWs [51] []) μ mX0_holds d (fun r m => (r ≠ 0 ↔ (tm_v μ 7 1 = tm_v μ 8 1 ∧ tm_v μ 7 1 = tm_v μ 9 1)) ∧ tm_v m 51 0 = 0 ∧ tm_v m 51 1 = led1 μ ∧ tm_v m 51 2 = led2 μ) 2 [(0, 2, 1), (1, 0, 2)] [] m := by
    intro m hm h0 h1
    have e3 : w32 (2 + 1) = 3 := by decide
    have last : ∀ m2, tFr (tWs [51] []) μ m2 → tm_v m2 51 0 = 0 → tm_v m2 51 1 = led1 μ → tm_v m2 51 2 = led2 μ → hI (tWs [51] []) μ mX0_holds d (fun r m => (r ≠ 0 ↔ (tm_v μ 7 1 = tm_v μ 8 1 ∧ tm_v μ 7 1 = tm_v μ 9 1)) ∧ tm_v m 51 0 = 0 ∧ tm_v m 51 1 = led1 μ ∧ tm_v m 51 2 = led2 μ) 18 [(0, 2, 1), (1, 0, 2), (2, 0, -1)] [] m2 := fun m2 hm2 g0 g1 g2 => uX0_holds_18 hm2 ⟨fun _ => by rw [e3]; exact fin m2 hm2 g0 g1 g2, fun c => absurd c (by decide)⟩
    have zero : ∀ m2, tFr (tWs [51] []) μ m2 → tm_v m2 51 0 = 0 → tm_v m2 51 1 = led1 μ → (tm_v m2 51 2 = if tm_v μ 8 1 = tm_v μ 9 1 then 1 else 2) → hI (tWs [51] []) μ mX0_holds d (fun r m => (r ≠ 0 ↔ (tm_v μ 7 1 = tm_v μ 8 1 ∧ tm_v μ 7 1 = tm_v μ 9 1)) ∧ tm_v m 51 0 = 0 ∧ tm_v m 51 1 = led1 μ ∧ tm_v m 51 2 = led2 μ) 18 [(0, 2, 1), (1, 0, 2), (2, 0, 0)] [] m2 := by
      intro m2 hm2 g0 g1 g2
      refine uX0_holds_18 hm2 ⟨fun c => absurd c (by decide), fun _ => ⟨by decide, by decide, ?_⟩⟩
      rw [show (7 : Int) + 0 = 7 by decide, show (7 : Int) + 2 = 9 by decide, show w32 (0 + -1) = -1 by decide]
      refine ⟨fun c => last m2 hm2 g0 g1 ?_, fun c m3 e => last m3 (by rw [e]; exact w51 hm2) (by rw [e, tm_vw, if_neg (by omega)]; exact g0) (by rw [e, tm_vw, if_neg (by omega)]; exact g1) ?_⟩
      · unfold led2; rw [if_neg c]; exact g2
      · unfold led2; rw [if_pos c, e, tm_vw, if_pos ⟨rfl, rfl⟩]
    refine uX0_holds_2 hm ⟨fun c => absurd c (by decide), fun _ => ⟨by decide, fun m8 e8 => ?_⟩⟩
    rw [show w32 (2 - 1) = 1 by decide]
    rintro _ rfl
    have F8 : tFr (tWs [51] []) μ m8 := by rw [e8]; exact w51 hm
    have g0 : tm_v m8 51 0 = 0 := by rw [e8, tm_vw, if_neg (by omega)]; exact h0
    have g1 : tm_v m8 51 1 = led1 μ := by rw [e8, tm_vw, if_neg (by omega)]; exact h1
    have g2 : tm_v m8 51 2 = 2 := by rw [e8, tm_vw, if_pos ⟨rfl, rfl⟩]
    refine uX0_holds_18 F8 ⟨fun c => absurd c (by decide), fun _ => ⟨by decide, by decide, ?_⟩⟩
    rw [show (7 : Int) + 1 = 8 by decide, show (7 : Int) + 2 = 9 by decide, show w32 (1 + -1) = 0 by decide]
    refine ⟨fun c => zero m8 F8 g0 g1 (by rw [if_neg c]; exact g2), fun c m3 e => zero m3 (by rw [e]; exact w51 F8) (by rw [e, tm_vw, if_neg (by omega)]; exact g0) (by rw [e, tm_vw, if_neg (by omega)]; exact g1) (by rw [if_pos c, e, tm_vw, if_pos ⟨rfl, rfl⟩])⟩
  have second : ∀ m, tFr (tWs [51] []) μ m → tm_v m 51 0 = 0 → hI (tWs [51] []) μ mX0_holds d (fun r m => (r ≠ 0 ↔ (tm_v μ 7 1 = tm_v μ 8 1 ∧ tm_v μ 7 1 = tm_v μ 9 1)) ∧ tm_v m 51 0 = 0 ∧ tm_v m 51 1 = led1 μ ∧ tm_v m 51 2 = led2 μ) 2 [(0, 2, 1), (1, 0, 1)] [] m := by
    intro m hm h0
    have e2 : w32 (1 + 1) = 2 := by decide
    have last : ∀ m2, tFr (tWs [51] []) μ m2 → tm_v m2 51 0 = 0 → tm_v m2 51 1 = led1 μ → hI (tWs [51] []) μ mX0_holds d (fun r m => (r ≠ 0 ↔ (tm_v μ 7 1 = tm_v μ 8 1 ∧ tm_v μ 7 1 = tm_v μ 9 1)) ∧ tm_v m 51 0 = 0 ∧ tm_v m 51 1 = led1 μ ∧ tm_v m 51 2 = led2 μ) 18 [(0, 2, 1), (1, 0, 1), (2, 0, -1)] [] m2 := fun m2 hm2 g0 g1 => uX0_holds_18 hm2 ⟨fun _ => by rw [e2]; exact third m2 hm2 g0 g1, fun c => absurd c (by decide)⟩
    refine uX0_holds_2 hm ⟨fun c => absurd c (by decide), fun _ => ⟨by decide, fun m8 e8 => ?_⟩⟩
    rw [show w32 (1 - 1) = 0 by decide]
    rintro _ rfl
    have F8 : tFr (tWs [51] []) μ m8 := by rw [e8]; exact w51 hm
    have g0 : tm_v m8 51 0 = 0 := by rw [e8, tm_vw, if_neg (by omega)]; exact h0
    have g1 : tm_v m8 51 1 = 1 := by rw [e8, tm_vw, if_pos ⟨rfl, rfl⟩]
    refine uX0_holds_18 F8 ⟨fun c => absurd c (by decide), fun _ => ⟨by decide, by decide, ?_⟩⟩
    rw [show (7 : Int) + 0 = 7 by decide, show (7 : Int) + 1 = 8 by decide, show w32 (0 + -1) = -1 by decide]
    refine ⟨fun c => last m8 F8 g0 (by unfold led1; rw [if_neg c]; exact g1), fun c m3 e => last m3 (by rw [e]; exact w51 F8) (by rw [e, tm_vw, if_neg (by omega)]; exact g0) (by unfold led1; rw [if_pos c, e, tm_vw, if_pos ⟨rfl, rfl⟩])⟩
  refine t_of (uX0_holds_0 (tFr.rf hs) ?_)
  refine uX0_holds_2 (tFr.rf hs) ⟨fun c => absurd c (by decide), fun _ => ⟨by decide, fun m8 e8 => ?_⟩⟩
  rw [show w32 (0 - 1) = -1 by decide]
  rintro _ rfl
  have F8 : tFr (tWs [51] []) μ m8 := by rw [e8]; exact w51 (tFr.rf hs)
  refine uX0_holds_18 F8 ⟨fun _ => ?_, fun c => absurd c (by decide)⟩
  rw [show w32 (0 + 1) = 1 by decide]
  exact second m8 F8 (by rw [e8, tm_vw, if_pos ⟨rfl, rfl⟩])
abbrev WT : Int → Int → Prop := tWs [7, 8, 9, 51] [(1, 10)]
theorem pX0_three (hd : 4 ≤ d) (hs : tS μ) (hJ : JU μ ν) (hV : JV μ ν) (h32 : b ≤ 2147483647) : cI WT mX0_three d [(2, 1), (0, x), (0, y), (0, z), (0, b)] μ (fun r m => (r, tm_v m 1 10) = r_three ν x y z b) := by
  have hT : y_TC (c_FA μ) WT := tWs_TC ⟨rfl, rfl⟩
  have hC : y_VC WT := tWs_VC rfl
  have nP : tm_n μ (tm_v μ (tm_v μ 1 8) 0) = 8 := hJ.PA.2
  have eP : ∀ k, tm_v μ (tm_v μ (tm_v μ 1 8) 0) k = c_P μ k := fun k => rfl
  have h20 := hJ.1.1
  have h43 := hV.1.1
  have wj : ∀ {m : tm_M} {c j q : Int}, tFr WT μ m → (c = 7 ∨ c = 8 ∨ c = 9) → tFr WT μ (tm_w m c j q) := by
    intro m c j q h hc
    rcases hc with rfl | rfl | rfl
    · exact h.w (tWs_in _ rfl) (tS_w h.S sf_7 _ _)
    · exact h.w (tWs_in _ rfl) (tS_w h.S sf_8 _ _)
    · exact h.w (tWs_in _ rfl) (tS_w h.S sf_9 _ _)
  have ticks : y_v ν x → y_v ν y → y_v ν z → ∀ (n : Nat) (t : Int) (a b c : W1) (m : tm_M), 0 ≤ t → t + n = 200 → tFr WT μ m → w1_ok ν t a → w1_ok ν t b → w1_ok ν t c → wkr μ ν m 7 x a.1 a.2.1 a.2.2 → wkr μ ν m 8 y b.1 b.2.1 b.2.2 → wkr μ ν m 9 z c.1 c.2.1 c.2.2 → hI WT μ mX0_three d (fun r m => (r, tm_v m 1 10) = if y_3r ν x y z n t a b c < 0 then (-1, 8) else (y_3r ν x y z n t a b c, 0)) 167 [(0, 2, 1), (8, 0, t)] [] m := by
    intro hx hy hz n
    -- the steps of all three
    have go : ∀ (K : Int → tm_M → Prop) (t : Int) (a b c : W1) (m : tm_M), 0 ≤ t → t ≤ 200 → tFr WT μ m → w1_ok ν t a → w1_ok ν t b → w1_ok ν t c → wkr μ ν m 7 x a.1 a.2.1 a.2.2 → wkr μ ν m 8 y b.1 b.2.1 b.2.2 → wkr μ ν m 9 z c.1 c.2.1 c.2.2 → tm_v m 51 0 = 0 → (tm_v m 51 1 = if a.1 = b.1 then 0 else 1) → (tm_v m 51 2 = if a.1 = c.1 then 0 else if b.1 = c.1 then 1 else 2) →
        (∀ m', tFr WT μ m' → wkr μ ν m' 7 x (w1_s ν x a).1 (w1_s ν x a).2.1 (w1_s ν x a).2.2 → wkr μ ν m' 8 y (w3_b ν y a (w1_s ν x a) b).1 (w3_b ν y a (w1_s ν x a) b).2.1 (w3_b ν y a (w1_s ν x a) b).2.2 → wkr μ ν m' 9 z (w3_c ν z a b (w1_s ν x a) (w3_b ν y a (w1_s ν x a) b) c).1 (w3_c ν z a b (w1_s ν x a) (w3_b ν y a (w1_s ν x a) b) c).2.1 (w3_c ν z a b (w1_s ν x a) (w3_b ν y a (w1_s ν x a) b) c).2.2 → hI WT μ mX0_three d K 167 [(0, 2, 1), (8, 0, t + 1)] [] m') →
        hI WT μ mX0_three d K 192 [(0, 2, 1), (8, 0, t), (9, 0, 0)] [] m := by
      intro K t a b c m t0 t2 hm ka kb kc g7 g8 g9 l0 l1 l2 kk
      have ka' := w1_s_ok hx ka
      have kb' := w3_b_ok (a := a) hy ka' kb
      -- the third one
      have third : ∀ m, tFr WT μ m → wkr μ ν m 7 x (w1_s ν x a).1 (w1_s ν x a).2.1 (w1_s ν x a).2.2 → wkr μ ν m 8 y (w3_b ν y a (w1_s ν x a) b).1 (w3_b ν y a (w1_s ν x a) b).2.1 (w3_b ν y a (w1_s ν x a) b).2.2 → wkr μ ν m 9 z c.1 c.2.1 c.2.2 → (tm_v m 51 2 = if a.1 = c.1 then 0 else if b.1 = c.1 then 1 else 2) → hI WT μ mX0_three d K 192 [(0, 2, 1), (8, 0, t), (9, 0, 2)] [] m := by
        intro m hm g7 g8 g9 l2
        have last : ∀ m', tFr WT μ m' → wkr μ ν m' 7 x (w1_s ν x a).1 (w1_s ν x a).2.1 (w1_s ν x a).2.2 → wkr μ ν m' 8 y (w3_b ν y a (w1_s ν x a) b).1 (w3_b ν y a (w1_s ν x a) b).2.1 (w3_b ν y a (w1_s ν x a) b).2.2 → wkr μ ν m' 9 z (w3_c ν z a b (w1_s ν x a) (w3_b ν y a (w1_s ν x a) b) c).1 (w3_c ν z a b (w1_s ν x a) (w3_b ν y a (w1_s ν x a) b) c).2.1 (w3_c ν z a b (w1_s ν x a) (w3_b ν y a (w1_s ν x a) b) c).2.2 → hI WT μ mX0_three d K 192 [(0, 2, 1), (8, 0, t), (9, 0, w32 (2 + 1))] [] m' := by
          intro m' h1 h2 h3 h4
          rw [show w32 (2 + 1) = 3 by decide]
          refine uX0_three_192 (by omega) h1 ⟨fun _ => ?_, fun c => absurd c (by decide)⟩
          rw [w32_id (x := t + 1) (by omega) (by omega)]
          exact kk m' h1 h2 h3 h4
        refine uX0_three_192 (by omega) hm ⟨fun c => absurd c (by decide), fun _ => ⟨by decide, ?_⟩⟩
        rw [l2, show (7 : Int) + 2 = 9 by decide]
        refine ⟨fun c2 => ⟨by split; omega; split <;> omega, fun m7 e7 => ?_⟩, fun c2 => ?_⟩
        · refine last m7 (by rw [e7]; exact wj hm (by omega)) (wkr_o g7 (fun j => by rw [e7, tm_vw, if_neg (by omega)])) (wkr_o g8 (fun j => by rw [e7, tm_vw, if_neg (by omega)])) ?_
          unfold w3_c
          by_cases c3 : a.1 = c.1
          · rw [if_pos c3, show (7 : Int) + 0 = 7 by decide, g7.2.1] at e7
            rw [if_pos c3, e7]
            exact wkr_w g9
          · rw [if_neg c3] at e7 ⊢
            by_cases c4 : b.1 = c.1
            · rw [if_pos c4, show (7 : Int) + 1 = 8 by decide, g8.2.1] at e7
              rw [if_pos c4, e7]
              exact wkr_w g9
            · rw [if_neg c3, if_neg c4] at c2
              exact absurd rfl c2
        · have c3 : ¬ a.1 = c.1 := fun q => by rw [if_pos q] at c2; omega
          have c4 : ¬ b.1 = c.1 := fun q => by rw [if_neg c3, if_pos q] at c2; omega
          refine tC.R (pX3_nextF (by omega) hm hT hC hJ hV (by decide) hz kc.1 (by have := kc.2.1; omega) kc.2.2 g9) (fun r m8 f8 hr m9 e9 => ?_)
          rw [hr.1] at e9
          have F8 := hm.tr f8 (tWs_sub rfl)
          refine last m9 (by rw [e9]; exact wj F8 (by omega)) (wkr_o g7 (fun j => by rw [e9, tm_vw, if_neg (by omega)]; exact f8.v (tWs_no _ rfl))) (wkr_o g8 (fun j => by rw [e9, tm_vw, if_neg (by omega)]; exact f8.v (tWs_no _ rfl))) ?_
          unfold w3_c
          rw [if_neg c3, if_neg c4, e9]
          exact wkr_w hr.2
      have second : ∀ m, tFr WT μ m → wkr μ ν m 7 x (w1_s ν x a).1 (w1_s ν x a).2.1 (w1_s ν x a).2.2 → wkr μ ν m 8 y b.1 b.2.1 b.2.2 → wkr μ ν m 9 z c.1 c.2.1 c.2.2 → (tm_v m 51 1 = if a.1 = b.1 then 0 else 1) → (tm_v m 51 2 = if a.1 = c.1 then 0 else if b.1 = c.1 then 1 else 2) → hI WT μ mX0_three d K 192 [(0, 2, 1), (8, 0, t), (9, 0, 1)] [] m := by
        intro m hm g7 g8 g9 l1 l2
        refine uX0_three_192 (by omega) hm ⟨fun c => absurd c (by decide), fun _ => ⟨by decide, ?_⟩⟩
        rw [l1, show (7 : Int) + 1 = 8 by decide, show w32 (1 + 1) = 2 by decide]
        refine ⟨fun c2 => ⟨by split <;> omega, fun m7 e7 => ?_⟩, fun c2 => ?_⟩
        · have c3 : a.1 = b.1 := Classical.byContradiction fun q => c2 (by rw [if_neg q])
          rw [if_pos c3, show (7 : Int) + 0 = 7 by decide, g7.2.1] at e7
          refine third m7 (by rw [e7]; exact wj hm (by omega)) (wkr_o g7 (fun j => by rw [e7, tm_vw, if_neg (by omega)])) ?_ (wkr_o g9 (fun j => by rw [e7, tm_vw, if_neg (by omega)])) (by rw [e7, tm_vw, if_neg (by omega)]; exact l2)
          unfold w3_b
          rw [if_pos c3, e7]
          exact wkr_w g8
        · have c3 : ¬ a.1 = b.1 := fun q => by rw [if_pos q] at c2; omega
          refine tC.R (pX3_nextF (by omega) hm hT hC hJ hV (by decide) hy kb.1 (by have := kb.2.1; omega) kb.2.2 g8) (fun r m8 f8 hr m9 e9 => ?_)
          rw [hr.1] at e9
          have F8 := hm.tr f8 (tWs_sub rfl)
          refine third m9 (by rw [e9]; exact wj F8 (by omega)) (wkr_o g7 (fun j => by rw [e9, tm_vw, if_neg (by omega)]; exact f8.v (tWs_no _ rfl))) ?_ (wkr_o g9 (fun j => by rw [e9, tm_vw, if_neg (by omega)]; exact f8.v (tWs_no _ rfl))) (by rw [e9, tm_vw, if_neg (by omega), f8.v (tWs_no _ rfl)]; exact l2)
          unfold w3_b
          rw [if_neg c3, e9]
          exact wkr_w hr.2
      refine uX0_three_192 (by omega) hm ⟨fun c => absurd c (by decide), fun _ => ⟨by decide, ?_⟩⟩
      rw [l0, show (7 : Int) + 0 = 7 by decide, show w32 (0 + 1) = 1 by decide]
      refine ⟨fun c2 => absurd rfl c2, fun _ => ?_⟩
      refine tC.R (pX3_nextF (by omega) hm hT hC hJ hV (by decide) hx ka.1 (by have := ka.2.1; omega) ka.2.2 g7) (fun r m8 f8 hr m9 e9 => ?_)
      rw [hr.1] at e9
      have F8 := hm.tr f8 (tWs_sub rfl)
      refine second m9 (by rw [e9]; exact wj F8 (by omega)) ?_ (wkr_o g8 (fun j => by rw [e9, tm_vw, if_neg (by omega)]; exact f8.v (tWs_no _ rfl))) (wkr_o g9 (fun j => by rw [e9, tm_vw, if_neg (by omega)]; exact f8.v (tWs_no _ rfl))) (by rw [e9, tm_vw, if_neg (by omega), f8.v (tWs_no _ rfl)]; exact l1) (by rw [e9, tm_vw, if_neg (by omega), f8.v (tWs_no _ rfl)]; exact l2)
      rw [e9]
      exact wkr_w hr.2
    have hold : ∀ (K : Int → tm_M → Prop) (t : Int) (a b c : W1) (m : tm_M), 0 ≤ t → t ≤ 200 → tFr WT μ m → w1_ok ν t a → w1_ok ν t b → w1_ok ν t c → wkr μ ν m 7 x a.1 a.2.1 a.2.2 → wkr μ ν m 8 y b.1 b.2.1 b.2.2 → wkr μ ν m 9 z c.1 c.2.1 c.2.2 → (a.1 = b.1 ∧ b.1 = c.1 → ∀ m', tm_v m' 1 10 = 0 → K t m') →
        (¬ (a.1 = b.1 ∧ b.1 = c.1) → ∀ m', tFr WT μ m' → wkr μ ν m' 7 x (w1_s ν x a).1 (w1_s ν x a).2.1 (w1_s ν x a).2.2 → wkr μ ν m' 8 y (w3_b ν y a (w1_s ν x a) b).1 (w3_b ν y a (w1_s ν x a) b).2.1 (w3_b ν y a (w1_s ν x a) b).2.2 → wkr μ ν m' 9 z (w3_c ν z a b (w1_s ν x a) (w3_b ν y a (w1_s ν x a) b) c).1 (w3_c ν z a b (w1_s ν x a) (w3_b ν y a (w1_s ν x a) b) c).2.1 (w3_c ν z a b (w1_s ν x a) (w3_b ν y a (w1_s ν x a) b) c).2.2 → hI WT μ mX0_three d K 167 [(0, 2, 1), (8, 0, t + 1)] [] m') →
        hI WT μ mX0_three d K 167 [(0, 2, 1), (8, 0, t)] [] m := by
      intro K t a b c m t0 t2 hm ka kb kc g7 g8 g9 kin kout
      have inj : ∀ {q q' : Int}, y_p ν q → y_p ν q' → (c_P μ q = c_P μ q' ↔ q = q') := fun h h' => ⟨hJ.inj h h', fun e => by rw [e]⟩
      have i1 := inj ka.1 kb.1
      have i2 := inj ka.1 kc.1
      have i3 := inj kb.1 kc.1
      refine uX0_three_167 (by omega) hm ⟨fun c => by omega, fun _ => ?_⟩
      refine tC.I (pX0_holds hm.S) (fun r m2 f2 h2 => ?_)
      obtain ⟨q1, q2, q3, q4⟩ := h2
      unfold led1 at q3
      unfold led2 at q4
      rw [g7.2.1, g8.2.1, g9.2.1] at q4
      rw [g7.2.1, g8.2.1] at q3
      rw [g7.2.1, g8.2.1, g9.2.1, i1, i2] at q1
      have F2 := hm.tr f2 (tWs_sub rfl)
      have g7' : wkr μ ν m2 7 x a.1 a.2.1 a.2.2 := wkr_o g7 (fun j => f2.v (tWs_no _ rfl))
      have g8' : wkr μ ν m2 8 y b.1 b.2.1 b.2.2 := wkr_o g8 (fun j => f2.v (tWs_no _ rfl))
      have g9' : wkr μ ν m2 9 z c.1 c.2.1 c.2.2 := wkr_o g9 (fun j => f2.v (tWs_no _ rfl))
      refine ⟨fun c0 => ?_, fun c0 m3 e3 => ?_⟩
      · refine go K t a b c m2 t0 t2 F2 ka kb kc g7' g8' g9' q2 ?_ ?_ (kout (fun h => q1.mpr ⟨h.1, by rw [h.1]; exact h.2⟩ c0))
        · rw [q3]
          by_cases e : a.1 = b.1
          · rw [if_pos e, if_pos (i1.mpr e)]
          · rw [if_neg e, if_neg (fun q => e (i1.mp q))]
        · rw [q4]
          by_cases e : a.1 = c.1
          · rw [if_pos e, if_pos (i2.mpr e)]
          · rw [if_neg e, if_neg (fun q => e (i2.mp q))]
            by_cases e2 : b.1 = c.1
            · rw [if_pos e2, if_pos (i3.mpr e2)]
            · rw [if_neg e2, if_neg (fun q => e2 (i3.mp q))]
      · have h := q1.mp c0
        exact kin ⟨h.1, by rw [← h.1]; exact h.2⟩ m3 (by rw [e3]; simp [tm_vw])
    induction n with
    | zero =>
      intro t a b c m t0 tn hm ka kb kc g7 g8 g9
      refine hold _ t a b c m t0 (by omega) hm ka kb kc g7 g8 g9 (fun h m' e => ?_) (fun h m' h1 _ _ _ => ?_)
      · rw [y_3r, if_pos h, if_neg (by omega), e]
      · refine uX0_three_167 (by omega) h1 ⟨fun _ m3 e3 => ?_, fun c => by omega⟩
        rw [y_3r, if_neg h, if_pos (by decide), e3]
        simp [tm_vw]
    | succ n ih =>
      intro t a b c m t0 tn hm ka kb kc g7 g8 g9
      refine hold _ t a b c m t0 (by omega) hm ka kb kc g7 g8 g9 (fun h m' e => ?_) (fun h m' h1 h2 h3 h4 => ?_)
      · rw [y_3r, if_pos h, if_neg (by omega), e]
      · rw [y_3r, if_neg h]
        have ka' := w1_s_ok hx ka
        have kb' := w3_b_ok (a := a) hy ka' kb
        exact ih (t + 1) _ _ _ m' (by omega) (by omega) h1 ka' kb' (w3_c_ok (a := a) (b := b) hz ka' kb' kc) h2 h3 h4
  have cd0 : ∀ q, c_d ν q 0 = 0 := fun q => by unfold c_d; split; exact Int.zero_emod _; rfl
  unfold r_three
  have no : ∀ m, m = tm_w μ 1 10 2 → ((-1 : Int), tm_v m 1 10) = (-1, 2) := fun m e => by rw [e]; simp [tm_vw]
  have n27 : ∀ {P : Prop} [Decidable P] {q : Int × Int}, P → hI WT μ mX0_three d (fun r m => (r, tm_v m 1 10) = if P then (-1, 2) else q) 27 [(0, 2, 1)] [] μ := fun hP => uX0_three_27 (by omega) (tFr.rf hs) (fun m e => by rw [if_pos hP]; exact no m e)
  have n89 : ∀ {P : Prop} [Decidable P] {q : Int × Int}, P → hI WT μ mX0_three d (fun r m => (r, tm_v m 1 10) = if P then (-1, 2) else q) 89 [(0, 2, 1)] [] μ := fun hP => uX0_three_89 (by omega) (tFr.rf hs) (fun m e => by rw [if_pos hP]; exact no m e)
  refine t_of (uX0_three_0 (ν := ν) (by omega) (tFr.rf hs) ⟨hV, fun c => n27 (Or.inl c), fun cx => ⟨fun c => n27 (Or.inr (Or.inl c)), fun cy => ⟨fun cz => ?_, fun c => n27 (Or.inr (Or.inr (Or.inl c)))⟩⟩⟩)
  intro x8 e8 x9 e9 x10 e10
  refine ⟨fun c => n89 (by omega), fun cb => ?_⟩
  have t1 : x8 = b / 100 := by rw [e8, Int.tdiv_eq_ediv_of_nonneg cb, w32_id (by omega) (by omega)]
  have t2 : x9 = b / 10 % 10 := by rw [e9, Int.tdiv_eq_ediv_of_nonneg cb, w32_id (by omega) (by omega), Int.tmod_eq_emod_of_nonneg (by omega)]
  have t3 : x10 = b % 10 := by rw [e10, Int.tmod_eq_emod_of_nonneg cb]
  rw [t1, t2, t3, nP, eP, eP, eP]
  refine ⟨hJ, fun c => n89 (by omega), fun c1 => ⟨fun c => n89 (by omega), fun c2 => ⟨fun c3 => ?_, fun c => n89 (by omega)⟩⟩⟩
  rw [if_neg (by omega)]
  have hx : y_v ν x := ⟨hV.1, cx⟩
  have hy : y_v ν y := ⟨hV.1, cy⟩
  have hz : y_v ν z := ⟨hV.1, cz⟩
  refine ⟨by omega, hJ.T, hJ.PA.1, by omega, ?_⟩
  refine tC.V (pX3_begin hs (by decide)) (fun m1 f1 e1 => ⟨by omega, by omega, ?_⟩)
  refine tC.V (pX3_begin f1.S (by decide)) (fun m2 f2 e2 => ⟨by omega, by omega, ?_⟩)
  refine tC.V (pX3_begin f2.S (by decide)) (fun m3 f3 e3 => ?_)
  have F3 : tFr WT μ m3 := (((tFr.rf hs).tr f1 (tWs_sub rfl)).tr f2 (tWs_sub rfl)).tr f3 (tWs_sub rfl)
  have ok : ∀ {p : Int}, 0 ≤ p → p < tm_v ν 65 20 → w1_ok ν 0 (p, 0, 0) := fun h0 h1 => ⟨⟨hJ.1, h0, h1⟩, ⟨Int.le_refl _, Int.le_refl _⟩, Int.le_refl _, show (0 : Int) ≤ 2 by decide⟩
  refine ticks hx hy hz 200 0 (b / 100, 0, 0) (b / 10 % 10, 0, 0) (b % 10, 0, 0) m3 (by omega) (by omega) F3 (ok (by omega) (by omega)) (ok (by omega) (by omega)) (ok (by omega) (by omega)) ⟨?_, ?_, ?_, ?_⟩ ⟨?_, ?_, ?_, ?_⟩ ⟨?_, ?_, ?_, ?_⟩
  · rw [e3, e2, e1]; simp [tm_vw]; rfl
  · rw [e3, e2, e1]; simp [tm_vw]
  · show _ = c_d ν x 0
    rw [cd0, e3, e2, e1]; simp [tm_vw]
  · show _ = (0 : Int)
    rw [e3, e2, e1]; simp [tm_vw]
  · rw [e3, e2]; simp [tm_vw]; rfl
  · rw [e3, e2]; simp [tm_vw]
  · show _ = c_d ν y 0
    rw [cd0, e3, e2]; simp [tm_vw]
  · show _ = (0 : Int)
    rw [e3, e2]; simp [tm_vw]
  · rw [e3]; simp [tm_vw]; rfl
  · rw [e3]; simp [tm_vw]
  · show _ = c_d ν z 0
    rw [cd0, e3]; simp [tm_vw]
  · show _ = (0 : Int)
    rw [e3]; simp [tm_vw]
end C0V
