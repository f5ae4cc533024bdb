/-! CONTRACTS of the component: where two lines cross -/
theorem mul_bs {x y a : Int} (hx : -a ≤ x ∧ x ≤ a) (hy : -a ≤ y ∧ y ≤ a) : -(a * a) ≤ x * y ∧ x * y ≤ a * a := by
  have h0 : (x * y).natAbs ≤ a.natAbs * a.natAbs := by
    rw [Int.natAbs_mul]
    exact Nat.mul_le_mul (by omega) (by omega)
  have h1 : ((a.natAbs * a.natAbs : Nat) : Int) = a * a := by
    rw [Int.natCast_mul]
    have : (a.natAbs : Int) = a := by omega
    rw [this]
  omega
section C0X
variable {d : Nat} {μ μ0 ν : tm_M} {W : Int → Int → Prop}
abbrev WX : Int → Int → Prop := tWs [58, 59] [(1, 45), (1, 46)]
def bsT (m : tm_M) : Int × Int × V3 := (tm_v m 1 45, tm_v m 1 46, pt3 m 59)
def cls (m : tm_M) (k : Nat) : List V3 := (List.range k).map (fun j : Nat => wX m j)
/-- the best point so far is told in small numbers -/
def bok (m : tm_M) : Prop := 0 ≤ tm_v m 1 46 ∧ (0 < tm_v m 1 46 → tm_v m 1 46 = sm3 (pt3 m 59) ∧ tm_v m 1 46 ≤ 60000 ∧ (0 ≤ tm_v m 1 45 ∧ tm_v m 1 45 ≤ 6000000) ∧ in3 (pt3 m 59) 20000)
/-- what trying a point leaves -/
def o_cross (μ : tm_M) (n : Int) (k : Nat) (c : V3) (m : tm_M) : Prop :=
  (¬ (sm3 c ≠ 0 ∧ dl n (ng c)) ∧ bsT m = bsT μ) ∨ ((sm3 c ≠ 0 ∧ dl n (ng c)) ∧ ∃ u, isMx (cls μ k) (ng c) u ∧ (0 ≤ u ∧ u ≤ 6000000) ∧ in3 (ng c) 20000 ∧
    ((0 < tm_v μ 1 46 ∧ le3 (pt3 μ 59) (tm_v μ 1 45) (ng c) u ∧ bsT m = bsT μ) ∨ ((tm_v μ 1 46 = 0 ∨ (0 < tm_v μ 1 46 ∧ le3 (ng c) u (pt3 μ 59) (tm_v μ 1 45))) ∧ bsT m = (u, sm3 (ng c), ng c))))
theorem bsT_eq {m m' : tm_M} (h : bsT m = bsT m') : tm_v m 1 45 = tm_v m' 1 45 ∧ tm_v m 1 46 = tm_v m' 1 46 ∧ ∀ j, 0 ≤ j → j < 3 → tm_v m 59 j = tm_v m' 59 j := by
  simp only [bsT, pt3, Prod.mk.injEq] at h
  refine ⟨h.1, h.2.1, fun j j0 j1 => ?_⟩
  rcases (show j = 0 ∨ j = 1 ∨ j = 2 by omega) with e | e | e <;> subst e
  · exact h.2.2.1
  · exact h.2.2.2.1
  · exact h.2.2.2.2
theorem vc_ng (c : V3) (k : Int) : vc (ng c) k = if sm3 c < 0 then -vc c k else vc c k := by
  unfold ng vc
  by_cases h : sm3 c < 0
  · rw [if_pos h, if_pos h]; split; rfl; split <;> rfl
  · rw [if_neg h, if_neg h]
theorem cls_mx {q : V3} {J : Nat} {u : Int} (h : (J = 0 ∧ u = 0) ∨ (0 < J ∧ isMx (cls μ J) q u)) (hn : 0 ≤ dt (wX μ J) q) : isMx (cls μ (J + 1)) q (max u (dt (wX μ J) q)) := by
  have e : cls μ (J + 1) = cls μ J ++ [wX μ J] := by unfold cls; rw [List.range_succ, List.map_append]; rfl
  rw [e]
  rcases h with ⟨e0, eu⟩ | ⟨h0, h1⟩
  · subst e0
    refine ⟨fun c hc => ?_, wX μ ((0 : Nat) : Int), by simp, by omega⟩
    rcases List.mem_append.mp hc with q | q
    · cases q
    · rw [List.mem_singleton.mp q]; omega
  · refine ⟨fun c hc => ?_, ?_⟩
    · rcases List.mem_append.mp hc with q | q
      · have := h1.1 c q; omega
      · rw [List.mem_singleton.mp q]; omega
    · obtain ⟨c, hc, ec⟩ := h1.2
      by_cases g : u ≤ dt (wX μ J) q
      · exact ⟨wX μ J, by simp, by omega⟩
      · exact ⟨c, List.mem_append_left _ hc, by omega⟩
theorem pX0_cross {n : Int} {k : Nat} {A B : V3} (hd : 1 ≤ d) (hs : tS μ) (hb : wb μ) (hn : 1 ≤ n ∧ n ≤ 3) (hk : 1 ≤ k ∧ k ≤ 3) (hA : ∀ i, 0 ≤ i → i < 3 → tm_v μ 56 i = vc A i ∧ -100 ≤ vc A i ∧ vc A i ≤ 100) (hB : ∀ i, 0 ≤ i → i < 3 → tm_v μ 57 i = vc B i ∧ -100 ≤ vc B i ∧ vc B i ≤ 100) (hbs : bok μ) : cV WX mX0_cross d [(2, 1), (0, n), (0, (k : Int))] μ (o_cross μ n k (cr A B)) := by
  obtain ⟨A0, A1, A2⟩ := A
  obtain ⟨B0, B1, B2⟩ := B
  have a0 := hA 0 (by decide) (by decide)
  have a1 := hA 1 (by decide) (by decide)
  have a2 := hA 2 (by decide) (by decide)
  have b0 := hB 0 (by decide) (by decide)
  have b1 := hB 1 (by decide) (by decide)
  have b2 := hB 2 (by decide) (by decide)
  simp only [vc, if_true, show ¬ (1 : Int) = 0 by decide, show ¬ (2 : Int) = 0 by decide, show ¬ (2 : Int) = 1 by decide, if_false] at a0 a1 a2 b0 b1 b2
  have m12 := mul_bs (a := 100) (x := A1) (y := B2) (by omega) (by omega)
  have m21 := mul_bs (a := 100) (x := A2) (y := B1) (by omega) (by omega)
  have m20 := mul_bs (a := 100) (x := A2) (y := B0) (by omega) (by omega)
  have m02 := mul_bs (a := 100) (x := A0) (y := B2) (by omega) (by omega)
  have m01 := mul_bs (a := 100) (x := A0) (y := B1) (by omega) (by omega)
  have m10 := mul_bs (a := 100) (x := A1) (y := B0) (by omega) (by omega)
  have ec : cr (A0, A1, A2) (B0, B1, B2) = (A1 * B2 - A2 * B1, A2 * B0 - A0 * B2, A0 * B1 - A1 * B0) := rfl
  generalize hc : cr (A0, A1, A2) (B0, B1, B2) = c at ec ⊢
  have hcb : ∀ j, 0 ≤ j → j < 3 → -20000 ≤ vc c j ∧ vc c j ≤ 20000 := by
    intro j j0 j1
    rw [ec]
    rcases (show j = 0 ∨ j = 1 ∨ j = 2 by omega) with e | e | e <;> subst e <;> simp only [vc, if_true, show ¬ (1 : Int) = 0 by decide, show ¬ (2 : Int) = 0 by decide, show ¬ (2 : Int) = 1 by decide, if_false] <;> omega
  have hsm : -60000 ≤ sm3 c ∧ sm3 c ≤ 60000 := by
    have h0 := hcb 0 (by decide) (by decide)
    have h1 := hcb 1 (by decide) (by decide)
    have h2 := hcb 2 (by decide) (by decide)
    simp only [vc, if_true, show ¬ (1 : Int) = 0 by decide, show ¬ (2 : Int) = 0 by decide, show ¬ (2 : Int) = 1 by decide, if_false] at h0 h1 h2
    unfold sm3
    omega
  have w58 : ∀ {m : tm_M} {j y : Int}, tFr WX μ m → tFr WX μ (tm_w m 58 j y) := fun h => h.w (tWs_in _ rfl) (tS_w h.S sf_58 _ _)
  have bs58 : ∀ {m : tm_M} {j y : Int}, bsT (tm_w m 58 j y) = bsT m := fun {m j y} => by simp [bsT, pt3, tm_vw]
  have eX : ∀ (j i : Int), 0 ≤ i → i < 3 → vc (wX μ j) i = tm_v μ (53 + i) j := fun j i h0 h1 => vc_X μ j i h0 h1
  -- the worth of a point of chances
  have tries : sm3 c ≠ 0 → dl n (ng c) → ∀ m, tFr WX μ m → (∀ j, 0 ≤ j → j < 3 → tm_v m 58 j = vc (ng c) j) → bsT m = bsT μ → ∀ (q J : Nat) (u : Int), J + q = k → ((J = 0 ∧ u = 0) ∨ (0 < J ∧ isMx (cls μ J) (ng c) u)) → (0 ≤ u ∧ u ≤ 6000000) → hV WX μ mX0_cross d (o_cross μ n k c) 177 [(0, 2, 1), (1, 0, n), (2, 0, (k : Int)), (5, 1, sm3 (ng c)), (7, 1, u), (9, 0, (J : Int))] [] m := by
    intro hne hdl m hm h58 hbm
    have hq : in3 (ng c) 20000 := by
      have g : ∀ j, 0 ≤ j → j < 3 → vc (ng c) j ≤ 20000 := fun j j0 j1 => by rw [vc_ng]; have := hcb j j0 j1; split <;> omega
      have g0 := g 0 (by decide) (by decide)
      have g1 := g 1 (by decide) (by decide)
      have g2 := g 2 (by decide) (by decide)
      have hnn := hdl.1
      exact ⟨⟨hnn.1, g0⟩, ⟨hnn.2.1, g1⟩, hnn.2.2, g2⟩
    have hlow : 0 < sm3 (ng c) ∧ sm3 (ng c) ≤ 60000 := ⟨hdl.2.1, by unfold sm3; have := hq; unfold in3 at this; omega⟩
    obtain ⟨s45, s46, s59⟩ := bsT_eq hbm
    have e59 : pt3 m 59 = pt3 μ 59 := by unfold pt3; rw [s59 0 (by decide) (by decide), s59 1 (by decide) (by decide), s59 2 (by decide) (by decide)]
    have e58 : pt3 m 58 = ng c := by
      unfold pt3
      rw [h58 0 (by decide) (by decide), h58 1 (by decide) (by decide), h58 2 (by decide) (by decide)]
      rfl
    have dtb : ∀ J : Nat, J < 3 → 0 ≤ dt (wX μ J) (ng c) ∧ dt (wX μ J) (ng c) ≤ 6000000 := by
      intro J hJ
      have x0 := hb 0 J (by decide) (by decide) (by omega) (by omega)
      have x1 := hb 1 J (by decide) (by decide) (by omega) (by omega)
      have x2 := hb 2 J (by decide) (by decide) (by omega) (by omega)
      have y0 := mul_bd (x := tm_v μ 53 J) (y := (ng c).1) (a := 100) (b := 20000) x0 hq.1
      have y1 := mul_bd (x := tm_v μ 54 J) (y := (ng c).2.1) (a := 100) (b := 20000) x1 hq.2.1
      have y2 := mul_bd (x := tm_v μ 55 J) (y := (ng c).2.2) (a := 100) (b := 20000) x2 hq.2.2
      have e : dt (wX μ J) (ng c) = tm_v μ 53 J * (ng c).1 + tm_v μ 54 J * (ng c).2.1 + tm_v μ 55 J * (ng c).2.2 := rfl
      omega
    intro q
    induction q with
    | zero =>
      intro J u hJ hu hub
      have hmx : isMx (cls μ k) (ng c) u := by
        rcases hu with ⟨e, _⟩ | ⟨_, h⟩
        · omega
        · rw [show k = J by omega]; exact h
      have keep : (0 < tm_v μ 1 46 ∧ le3 (pt3 μ 59) (tm_v μ 1 45) (ng c) u) → ∀ m', m' = m → o_cross μ n k c m' := fun h m' e => by
        rw [e]; exact Or.inr ⟨⟨hne, hdl⟩, u, hmx, hub, hq, Or.inl ⟨h.1, h.2, hbm⟩⟩
      have take : (tm_v μ 1 46 = 0 ∨ (0 < tm_v μ 1 46 ∧ le3 (ng c) u (pt3 μ 59) (tm_v μ 1 45))) → hV WX μ mX0_cross d (o_cross μ n k c) 294 [(0, 2, 1), (5, 1, sm3 (ng c)), (7, 1, u)] [] m := by
        intro h
        refine uX0_cross_294 hm (fun m1 e1 m2 e2 m3 e3 => Or.inr ⟨⟨hne, hdl⟩, u, hmx, hub, hq, Or.inr ⟨h, ?_⟩⟩)
        have v45 : tm_v m3 1 45 = u := by rw [e3, tm_vc, if_neg (by omega), e2, e1]; simp [tm_vw]
        have v46 : tm_v m3 1 46 = sm3 (ng c) := by rw [e3, tm_vc, if_neg (by omega), e2]; simp [tm_vw]
        have v59 : ∀ j, 0 ≤ j → j < 3 → tm_v m3 59 j = vc (ng c) j := fun j j0 j1 => by
          rw [e3, tm_vc, if_pos ⟨rfl, by omega⟩, show (0 : Int) + (j - 0) = j by omega, e2, tm_vw, if_neg (by omega), e1, tm_vw, if_neg (by omega)]
          exact h58 j j0 j1
        unfold bsT pt3
        rw [v45, v46, v59 0 (by decide) (by decide), v59 1 (by decide) (by decide), v59 2 (by decide) (by decide)]
        rfl
      refine uX0_cross_177 hd hm ⟨fun _ => ?_, fun c => by omega⟩
      rw [s46, s45]
      refine ⟨fun c0 => take (Or.inl (by have := hbs.1; omega)), fun c0 => ?_⟩
      obtain ⟨z1, z2, z3, z4⟩ := hbs.2 c0
      have p1 := mul_bd hub (show 0 ≤ tm_v μ 1 46 ∧ tm_v μ 1 46 ≤ 60000 by omega)
      have p2 := mul_bd z3 (show 0 ≤ sm3 (ng c) ∧ sm3 (ng c) ≤ 60000 by omega)
      rw [w64_id (x := tm_v μ 1 45 * sm3 (ng c)) (by omega) (by omega), w64_id (x := u * tm_v μ 1 46) (by omega) (by omega)]
      refine ⟨fun c1 => uX0_cross_293 hm (keep ⟨c0, ?_⟩ m rfl), fun c1 => ⟨fun c2 => take (Or.inr ⟨c0, ?_⟩), fun c2 => ?_⟩⟩
      · unfold le3 le4; rw [← z1]; omega
      · unfold le3 le4; rw [← z1]; omega
      · have hin : ∀ {p : V3}, in3 p 20000 → in3 p 60000 := fun h => by unfold in3 at *; omega
        refine tC.I (pX0_isGreater hm.S (by omega) (by rw [s46]; omega) (by rw [e58]; exact hin hq) (by rw [e59]; exact hin z4)) (fun r m2 f2 hr => ?_)
        have em := f2.same
        subst em
        rw [e58, e59, s46] at hr
        unfold gtr at hr
        refine ⟨fun c3 => take (Or.inr ⟨c0, ?_⟩), fun c3 => uX0_cross_293 hm (keep ⟨c0, ?_⟩ _ rfl)⟩
        · unfold le3 le4; rw [← z1]
          rcases hr with ⟨h, _⟩ | ⟨_, h⟩
          · exact absurd h c3
          · omega
        · unfold le3 le4; rw [← z1]
          rcases hr with ⟨_, h⟩ | ⟨h, _⟩
          · omega
          · omega
    | succ q ih =>
      intro J u hJ hu hub
      have hJ3 : J < 3 := by omega
      have eJ : w32 ((J : Int) + 1) = ((J + 1 : Nat) : Int) := by rw [w32_id (by omega) (by omega)]; omega
      have hdj := dtb J hJ3
      -- the terms of a column
      have terms : ∀ (q' : Nat) (i acc : Int), 0 ≤ i → i + q' = n → (acc = if i = 0 then 0 else if i = 1 then vc (ng c) 0 * tm_v μ 53 J else if i = 2 then vc (ng c) 0 * tm_v μ 53 J + vc (ng c) 1 * tm_v μ 54 J else dt (wX μ J) (ng c)) → hV WX μ mX0_cross d (o_cross μ n k c) 189 [(0, 2, 1), (1, 0, n), (2, 0, (k : Int)), (5, 1, sm3 (ng c)), (7, 1, u), (9, 0, (J : Int)), (10, 1, acc), (12, 0, i)] [] m := by
        have x0 := hb 0 J (by decide) (by decide) (by omega) (by omega)
        have x1 := hb 1 J (by decide) (by decide) (by omega) (by omega)
        have x2 := hb 2 J (by decide) (by decide) (by omega) (by omega)
        rw [show (53 : Int) + 0 = 53 by decide] at x0
        rw [show (53 : Int) + 1 = 54 by decide] at x1
        rw [show (53 : Int) + 2 = 55 by decide] at x2
        have y0 := mul_bd (x := vc (ng c) 0) (y := tm_v μ 53 J) (a := 20000) (b := 100) hq.1 x0
        have y1 := mul_bd (x := vc (ng c) 1) (y := tm_v μ 54 J) (a := 20000) (b := 100) hq.2.1 x1
        have y2 := mul_bd (x := vc (ng c) 2) (y := tm_v μ 55 J) (a := 20000) (b := 100) hq.2.2 x2
        have ed : dt (wX μ J) (ng c) = vc (ng c) 0 * tm_v μ 53 J + vc (ng c) 1 * tm_v μ 54 J + vc (ng c) 2 * tm_v μ 55 J := by
          have : dt (wX μ J) (ng c) = tm_v μ 53 J * (ng c).1 + tm_v μ 54 J * (ng c).2.1 + tm_v μ 55 J * (ng c).2.2 := rfl
          rw [this, Int.mul_comm (tm_v μ 53 J), Int.mul_comm (tm_v μ 54 J), Int.mul_comm (tm_v μ 55 J)]
          rfl
        intro q'
        induction q' with
        | zero =>
          intro i acc i0 hi hacc
          refine uX0_cross_189 hd hm ⟨fun _ => ?_, fun c => by omega⟩
          rw [eJ]
          rintro _ rfl
          have hfin : acc = dt (wX μ J) (ng c) := by
            rcases (show i = 1 ∨ i = 2 ∨ i = 3 by omega) with e | e | e
            · have h2 : (ng c).2.2 = 0 := hdl.2.2.1 (by omega)
              have h1 : (ng c).2.1 = 0 := hdl.2.2.2 (by omega)
              have k1 : vc (ng c) 1 = 0 := h1
              have k2 : vc (ng c) 2 = 0 := h2
              rw [hacc, ed, e, k1, k2]; simp
            · have h2 : (ng c).2.2 = 0 := hdl.2.2.1 (by omega)
              have k2 : vc (ng c) 2 = 0 := h2
              rw [hacc, ed, e, k2]; simp
            · rw [hacc, e]; simp
          rw [hfin]
          refine ih (J + 1) _ (by omega) (Or.inr ⟨by omega, cls_mx hu hdj.1⟩) (by omega)
        | succ q' ih' =>
          intro i acc i0 hi hacc
          refine uX0_cross_189 hd hm ⟨fun c => by omega, fun _ => ⟨by omega, by omega, ?_⟩⟩
          rw [h58 i i0 (by omega), w32_id (x := i + 1) (by omega) (by omega)]
          rintro _ rfl
          rcases (show i = 0 ∨ i = 1 ∨ i = 2 by omega) with e | e | e
          · subst e
            rw [show (53 : Int) + 0 = 53 by decide, hacc, w64_id (x := vc (ng c) 0 * tm_v μ 53 J) (by omega) (by omega), w64_id (by simp; omega) (by simp; omega)]
            exact ih' (0 + 1) _ (by omega) (by omega) (by simp)
          · subst e
            rw [show (53 : Int) + 1 = 54 by decide, hacc, w64_id (x := vc (ng c) 1 * tm_v μ 54 J) (by omega) (by omega), w64_id (by simp; omega) (by simp; omega)]
            exact ih' (1 + 1) _ (by omega) (by omega) (by simp)
          · subst e
            rw [show (53 : Int) + 2 = 55 by decide, hacc, w64_id (x := vc (ng c) 2 * tm_v μ 55 J) (by omega) (by omega), w64_id (by simp; omega) (by simp; omega)]
            exact ih' (2 + 1) _ (by omega) (by omega) (by rw [ed]; simp)
      refine uX0_cross_177 hd hm ⟨fun c => by omega, fun _ => terms n.toNat 0 0 (by omega) (by omega) (by simp)⟩
  -- chances are not below 0
  have signs : sm3 c ≠ 0 → ∀ (q : Nat) (i : Int) (m : tm_M), 0 ≤ i → i + q = 3 → tFr WX μ m → (∀ j, 0 ≤ j → j < i → tm_v m 58 j = vc (ng c) j ∧ 0 ≤ vc (ng c) j ∧ (n ≤ j → vc (ng c) j = 0)) → (∀ j, i ≤ j → j < 3 → tm_v m 58 j = vc c j) → bsT m = bsT μ → hV WX μ mX0_cross d (o_cross μ n k c) 91 [(0, 2, 1), (1, 0, n), (2, 0, (k : Int)), (3, 1, sm3 c), (5, 0, i)] [] m := by
    intro hne q
    induction q with
    | zero =>
      intro i m i0 hi hm hl hr hbm
      refine uX0_cross_91 hd hm ⟨fun _ => ⟨by omega, ?_⟩, fun c => by omega⟩
      have g0 := hl 0 (by omega) (by omega)
      have g1 := hl 1 (by omega) (by omega)
      have g2 := hl 2 (by omega) (by omega)
      have hdl : dl n (ng c) := ⟨⟨g0.2.1, g1.2.1, g2.2.1⟩, ng_pos hne, fun h => g2.2.2 h, fun h => g1.2.2 h⟩
      have eabs : ((sm3 c).natAbs : Int) = sm3 (ng c) := by
        have hp := hdl.2.1
        have : sm3 (ng c) = sm3 c ∨ sm3 (ng c) = -sm3 c := by
          unfold ng
          split
          · right; simp only [sm3]; omega
          · left; rfl
        omega
      rw [eabs]
      rintro _ rfl
      exact tries hne hdl m hm (fun j j0 j1 => (hl j j0 (by omega)).1) hbm k 0 0 (by omega) (Or.inl ⟨rfl, rfl⟩) (by omega)
    | succ q ih =>
      intro i m i0 hi hm hl hr hbm
      have e1 : w32 (i + 1) = i + 1 := w32_id (by omega) (by omega)
      have hci := hcb i i0 (by omega)
      have ei := hr i (by omega) (by omega)
      have hng := vc_ng c i
      have fail : (vc (ng c) i < 0 ∨ (n ≤ i ∧ vc (ng c) i ≠ 0)) → ∀ m', tFr WX μ m' → bsT m' = bsT μ → hV WX μ mX0_cross d (o_cross μ n k c) 158 [] [] m' := by
        intro h m' hm' hb'
        refine uX0_cross_158 hm' (Or.inl ⟨fun ⟨_, hdl⟩ => ?_, hb'⟩)
        obtain ⟨⟨d0, d1, d2⟩, _, d3, d4⟩ := hdl
        have dv : ∀ j, 0 ≤ j → j < 3 → 0 ≤ vc (ng c) j := fun j j0 j1 => by
          rcases (show j = 0 ∨ j = 1 ∨ j = 2 by omega) with e | e | e <;> subst e
          · exact d0
          · exact d1
          · exact d2
        rcases h with h | ⟨h1, h2⟩
        · have := dv i i0 (by omega); omega
        · rcases (show i = 1 ∨ i = 2 by omega) with e | e <;> subst e
          · exact h2 (d4 (by omega))
          · exact h2 (d3 (by omega))
      have go : ∀ m', m' = tm_w m 58 i (vc (ng c) i) → 0 ≤ vc (ng c) i → (n ≤ i → vc (ng c) i = 0) → hV WX μ mX0_cross d (o_cross μ n k c) 159 [(0, 2, 1), (1, 0, n), (2, 0, (k : Int)), (3, 1, sm3 c), (5, 0, i)] [] m' := by
        intro m' e' h1 h2
        have F' : tFr WX μ m' := by rw [e']; exact w58 hm
        refine uX0_cross_159 F' ?_
        rw [e1]
        refine ih (i + 1) m' (by omega) (by omega) F' (fun j j0 j1 => ?_) (fun j j0 j1 => ?_) (by rw [e', bs58]; exact hbm)
        · rw [e', tm_vw]
          by_cases e : j = i
          · rw [if_pos ⟨rfl, e⟩, e]; exact ⟨rfl, h1, h2⟩
          · rw [if_neg (fun q => e q.2)]; exact hl j j0 (by omega)
        · rw [e', tm_vw, if_neg (by omega)]; exact hr j (by omega) j1
      have both : ∀ m', m' = tm_w m 58 i (vc (ng c) i) → (tm_v m' 58 i < 0 → hV WX μ mX0_cross d (o_cross μ n k c) 158 [] [] m') ∧ (0 ≤ tm_v m' 58 i → (i < n → hV WX μ mX0_cross d (o_cross μ n k c) 159 [(0, 2, 1), (1, 0, n), (2, 0, (k : Int)), (3, 1, sm3 c), (5, 0, i)] [] m') ∧ (n ≤ i → (tm_v m' 58 i = 0 → hV WX μ mX0_cross d (o_cross μ n k c) 159 [(0, 2, 1), (1, 0, n), (2, 0, (k : Int)), (3, 1, sm3 c), (5, 0, i)] [] m') ∧ (tm_v m' 58 i ≠ 0 → hV WX μ mX0_cross d (o_cross μ n k c) 158 [] [] m'))) := by
        intro m' e'
        have v : tm_v m' 58 i = vc (ng c) i := by rw [e', tm_vw, if_pos ⟨rfl, rfl⟩]
        have F' : tFr WX μ m' := by rw [e']; exact w58 hm
        have B' : bsT m' = bsT μ := by rw [e', bs58]; exact hbm
        rw [v]
        exact ⟨fun h => fail (Or.inl h) m' F' B', fun h => ⟨fun h2 => go m' e' h (fun q => by omega), fun h2 => ⟨fun h3 => go m' e' h (fun _ => h3), fun h3 => fail (Or.inr ⟨h2, h3⟩) m' F' B'⟩⟩⟩
      refine uX0_cross_91 hd hm ⟨fun c => by omega, fun _ => ⟨fun c0 => ⟨by omega, fun m' e' => both m' ?_⟩, fun c0 => ⟨by omega, fun m' e' => both m' ?_⟩⟩⟩
      · rw [e', ei, hng, if_neg (by omega)]
      · rw [e', ei, hng, if_pos c0, w64_id (by omega) (by omega)]
  refine t_of (uX0_cross_0 (tFr.rf hs) ?_)
  have ec0 : c.1 = A1 * B2 - A2 * B1 := by rw [ec]
  have ec1 : c.2.1 = A2 * B0 - A0 * B2 := by rw [ec]
  have ec2 : c.2.2 = A0 * B1 - A1 * B0 := by rw [ec]
  -- the first
  refine uX0_cross_5 (tFr.rf hs) ⟨fun c => absurd c (by decide), fun _ => ?_⟩
  rw [show (w32 (0 + 1)).tmod 3 = 1 by decide, show (w32 (0 + 2)).tmod 3 = 2 by decide, show w32 (0 + 1) = 1 by decide]
  rintro _ rfl _ rfl
  rw [a1.1, b2.1, a2.1, b1.1, w64_id (x := A1 * B2) (by omega) (by omega), w64_id (x := A2 * B1) (by omega) (by omega), w64_id (x := A1 * B2 - A2 * B1) (by omega) (by omega)]
  refine ⟨by decide, by decide, by decide, fun m1 e1 => ?_⟩
  have u1 : tm_v m1 58 0 = A1 * B2 - A2 * B1 := by rw [e1]; simp [tm_vw]
  rw [u1, w64_id (by omega) (by omega)]
  rintro _ rfl
  have F1 : tFr WX μ m1 := by rw [e1]; exact w58 (tFr.rf hs)
  refine uX0_cross_5 F1 ⟨fun c => absurd c (by decide), fun _ => ?_⟩
  rw [show (w32 (1 + 1)).tmod 3 = 2 by decide, show (w32 (1 + 2)).tmod 3 = 0 by decide, show w32 (1 + 1) = 2 by decide]
  rintro _ rfl _ rfl
  rw [a2.1, b0.1, a0.1, b2.1, w64_id (x := A2 * B0) (by omega) (by omega), w64_id (x := A0 * B2) (by omega) (by omega), w64_id (x := A2 * B0 - A0 * B2) (by omega) (by omega)]
  refine ⟨by decide, by decide, by decide, fun m2 e2 => ?_⟩
  have u2 : tm_v m2 58 1 = A2 * B0 - A0 * B2 := by rw [e2]; simp [tm_vw]
  rw [u2, w64_id (by omega) (by omega)]
  rintro _ rfl
  have F2 : tFr WX μ m2 := by rw [e2]; exact w58 F1
  refine uX0_cross_5 F2 ⟨fun c => absurd c (by decide), fun _ => ?_⟩
  rw [show (w32 (2 + 1)).tmod 3 = 0 by decide, show (w32 (2 + 2)).tmod 3 = 1 by decide, show w32 (2 + 1) = 3 by decide]
  rintro _ rfl _ rfl
  rw [a0.1, b1.1, a1.1, b0.1, w64_id (x := A0 * B1) (by omega) (by omega), w64_id (x := A1 * B0) (by omega) (by omega), w64_id (x := A0 * B1 - A1 * B0) (by omega) (by omega)]
  refine ⟨by decide, by decide, by decide, fun m3 e3 => ?_⟩
  have u3 : tm_v m3 58 2 = A0 * B1 - A1 * B0 := by rw [e3]; simp [tm_vw]
  rw [u3, w64_id (by omega) (by omega)]
  rintro _ rfl
  have F3 : tFr WX μ m3 := by rw [e3]; exact w58 F2
  have es : 0 + (A1 * B2 - A2 * B1) + (A2 * B0 - A0 * B2) + (A0 * B1 - A1 * B0) = sm3 c := by unfold sm3; omega
  rw [es]
  have B3 : bsT m3 = bsT μ := by rw [e3, bs58, e2, bs58, e1, bs58]
  refine uX0_cross_5 F3 ⟨fun _ => ⟨fun hne => ?_, fun h0 => Or.inl ⟨fun h => h.1 h0, B3⟩⟩, fun c => absurd c (by decide)⟩
  refine signs hne 3 0 m3 (by omega) (by omega) F3 (fun j j0 j1 => by omega) (fun j j0 j1 => ?_) B3
  rcases (show j = 0 ∨ j = 1 ∨ j = 2 by omega) with e | e | e <;> subst e
  · rw [e3, tm_vw, if_neg (by omega), e2, tm_vw, if_neg (by omega), u1]; exact ec0.symm
  · rw [e3, tm_vw, if_neg (by omega), u2]; exact ec1.symm
  · rw [u3]; exact ec2.symm
end C0X
